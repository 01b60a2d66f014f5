set_option maxRecDepth 100000
set_option maxHeartbeats 4000000
/-! FlareSlopesModel.writesNumber(I)V -/
noncomputable def sX2_writesNumber_d3 (G : GG) (N : Nat) (a0 : Option Nat) (a1 : Int32) (h : Hp) : Out (Unit) :=
  gJ (fun (x1 : Unit) (h2 : Hp) =>
  gRm a1 (10 : Int32) fun v4 =>
  bV h2 a0 18 (fun q7 => sX2_writesByte G N (some q7) ((48 : Int32) + v4) h2) fun v5 h6 =>
  some (.inl (), h6)) fun j3 =>
  if a1 ≤ (9 : Int32) then (j3 () h)
  else gDv a1 (10 : Int32) fun v8 =>
  bV h a0 18 (fun q11 => sX2_writesNumber_d2 G N (some q11) v8 h) fun v9 h10 =>
  j3 () h10
abbrev mX2_writesNumber_d3 : MI := (RX2, cX2_writesNumber, 2, none, [], 4, 84, "writesNumber")
theorem tX2_writesNumber_d3 {G : GG} {l : Launch} (hs : l.stackTraces = false) {N : Nat} {a0 : Option Nat} {a1 : Int32} {h : Hp} {r : Unit ⊕ Nat} {hf : Hp} (ho : sX2_writesNumber_d3 G N a0 a1 h = some (r, hf)) : gMet G l yX2_writesNumber (ws_ yX2_writesNumber cX2_writesNumber 2 none) 4 84 [gr a0, gi a1] h cvU r hf := by
  refine gMet.of ho hs (plainFor_of_name pn_X2) rfl rfl (gbl rfl) fun X => ?_
  show gT G l X mX2_writesNumber_d3 cvU r hf 0 [(0, gr a0), (1, gi a1)] [] h (sX2_writesNumber_d3 G N a0 a1 h)
  delta sX2_writesNumber_d3
  refine g_iload_n (pc := 0) (x := a1) 1 rfl rfl dX2_writesNumber_0 ?_
  refine g_bipush (pc := 1) (v := (9 : Int32)) bc_9 dX2_writesNumber_1 ?_
  refine g_join 14 (fun (x1 : Unit) => [(0, gr a0), (1, gi a1)]) (fun (x1 : Unit) => []) (fun x1 h2 => ?_) (fun j3 Hj3 => ?_)
  · refine g_aload_n (pc := 14) (x := a0) 0 rfl rfl dX2_writesNumber_14 ?_
    refine g_bipush (pc := 15) (v := (48 : Int32)) bc_48 dX2_writesNumber_15 ?_
    refine g_iload_n (pc := 17) (x := a1) 1 rfl rfl dX2_writesNumber_17 ?_
    refine g_bipush (pc := 18) (v := (10 : Int32)) bc_10 dX2_writesNumber_18 ?_
    refine g_irem (pc := 20) dX2_writesNumber_20 fun v4 => ?_
    refine g_iadd (pc := 21) dX2_writesNumber_21 ?_
    refine g_bVu (pc := 22) (y := yX2_writesByte) (ws := ws_ yX2_writesByte cX2_writesByte 2 none) (fr := 0) (lo := 0) (as := [gi ((48 : Int32) + v4)]) (st := []) (g_no) rfl (fun _ _ _ e => tX2_writesByte hs e) (fun K _ _ _ hq hM R e1 e2 => g_runV (M := mX2_writesNumber_d3) (pc := 22) (y := yX2_writesByte) (bytes := cX2_writesByte) (maxL := 2) (ret := none) (fr := 0) (lo := 0) (as := [gi ((48 : Int32) + v4)]) (st := []) hq (C := "FlareSlopesModel") rfl gy_X2_writesByte (gbl rfl) (gbl rfl) (gbl rfl) q4531 q4533 qs123 dX2_writesNumber_22 K hM R e1 e2) fun v5 h6 => ?_
    exact g_return (pc := 25) rfl dX2_writesNumber_25
  refine g_icmp_le (pc := 3) (tgt := 14) rfl dX2_writesNumber_3 ?_ ?_
  · exact Hj3 () h
  refine g_aload_n (pc := 6) (x := a0) 0 rfl rfl dX2_writesNumber_6 ?_
  refine g_iload_n (pc := 7) (x := a1) 1 rfl rfl dX2_writesNumber_7 ?_
  refine g_bipush (pc := 8) (v := (10 : Int32)) bc_10 dX2_writesNumber_8 ?_
  refine g_idiv (pc := 10) dX2_writesNumber_10 fun v8 => ?_
  refine g_bVu (pc := 11) (y := yX2_writesNumber) (ws := ws_ yX2_writesNumber cX2_writesNumber 2 none) (fr := 3) (lo := 63) (as := [gi v8]) (st := []) (g_no) rfl (fun _ _ _ e => tX2_writesNumber_d2 hs e) (fun K _ _ _ hq hM R e1 e2 => g_runV (M := mX2_writesNumber_d3) (pc := 11) (y := yX2_writesNumber) (bytes := cX2_writesNumber) (maxL := 2) (ret := none) (fr := 3) (lo := 63) (as := [gi v8]) (st := []) hq (C := "FlareSlopesModel") rfl gy_X2_writesNumber (gbl rfl) (gbl rfl) (gbl rfl) q4539 q4541 qs124 dX2_writesNumber_11 K hM R e1 e2) fun v9 h10 => ?_
  exact Hj3 () h10
/-! FlareSlopesModel.writesNumber(I)V -/
noncomputable def sX2_writesNumber_d4 (G : GG) (N : Nat) (a0 : Option Nat) (a1 : Int32) (h : Hp) : Out (Unit) :=
  gJ (fun (x1 : Unit) (h2 : Hp) =>
  gRm a1 (10 : Int32) fun v4 =>
  bV h2 a0 18 (fun q7 => sX2_writesByte G N (some q7) ((48 : Int32) + v4) h2) fun v5 h6 =>
  some (.inl (), h6)) fun j3 =>
  if a1 ≤ (9 : Int32) then (j3 () h)
  else gDv a1 (10 : Int32) fun v8 =>
  bV h a0 18 (fun q11 => sX2_writesNumber_d3 G N (some q11) v8 h) fun v9 h10 =>
  j3 () h10
abbrev mX2_writesNumber_d4 : MI := (RX2, cX2_writesNumber, 2, none, [], 5, 105, "writesNumber")
theorem tX2_writesNumber_d4 {G : GG} {l : Launch} (hs : l.stackTraces = false) {N : Nat} {a0 : Option Nat} {a1 : Int32} {h : Hp} {r : Unit ⊕ Nat} {hf : Hp} (ho : sX2_writesNumber_d4 G N a0 a1 h = some (r, hf)) : gMet G l yX2_writesNumber (ws_ yX2_writesNumber cX2_writesNumber 2 none) 5 105 [gr a0, gi a1] h cvU r hf := by
  refine gMet.of ho hs (plainFor_of_name pn_X2) rfl rfl (gbl rfl) fun X => ?_
  show gT G l X mX2_writesNumber_d4 cvU r hf 0 [(0, gr a0), (1, gi a1)] [] h (sX2_writesNumber_d4 G N a0 a1 h)
  delta sX2_writesNumber_d4
  refine g_iload_n (pc := 0) (x := a1) 1 rfl rfl dX2_writesNumber_0 ?_
  refine g_bipush (pc := 1) (v := (9 : Int32)) bc_9 dX2_writesNumber_1 ?_
  refine g_join 14 (fun (x1 : Unit) => [(0, gr a0), (1, gi a1)]) (fun (x1 : Unit) => []) (fun x1 h2 => ?_) (fun j3 Hj3 => ?_)
  · refine g_aload_n (pc := 14) (x := a0) 0 rfl rfl dX2_writesNumber_14 ?_
    refine g_bipush (pc := 15) (v := (48 : Int32)) bc_48 dX2_writesNumber_15 ?_
    refine g_iload_n (pc := 17) (x := a1) 1 rfl rfl dX2_writesNumber_17 ?_
    refine g_bipush (pc := 18) (v := (10 : Int32)) bc_10 dX2_writesNumber_18 ?_
    refine g_irem (pc := 20) dX2_writesNumber_20 fun v4 => ?_
    refine g_iadd (pc := 21) dX2_writesNumber_21 ?_
    refine g_bVu (pc := 22) (y := yX2_writesByte) (ws := ws_ yX2_writesByte cX2_writesByte 2 none) (fr := 0) (lo := 0) (as := [gi ((48 : Int32) + v4)]) (st := []) (g_no) rfl (fun _ _ _ e => tX2_writesByte hs e) (fun K _ _ _ hq hM R e1 e2 => g_runV (M := mX2_writesNumber_d4) (pc := 22) (y := yX2_writesByte) (bytes := cX2_writesByte) (maxL := 2) (ret := none) (fr := 0) (lo := 0) (as := [gi ((48 : Int32) + v4)]) (st := []) hq (C := "FlareSlopesModel") rfl gy_X2_writesByte (gbl rfl) (gbl rfl) (gbl rfl) q4531 q4533 qs123 dX2_writesNumber_22 K hM R e1 e2) fun v5 h6 => ?_
    exact g_return (pc := 25) rfl dX2_writesNumber_25
  refine g_icmp_le (pc := 3) (tgt := 14) rfl dX2_writesNumber_3 ?_ ?_
  · exact Hj3 () h
  refine g_aload_n (pc := 6) (x := a0) 0 rfl rfl dX2_writesNumber_6 ?_
  refine g_iload_n (pc := 7) (x := a1) 1 rfl rfl dX2_writesNumber_7 ?_
  refine g_bipush (pc := 8) (v := (10 : Int32)) bc_10 dX2_writesNumber_8 ?_
  refine g_idiv (pc := 10) dX2_writesNumber_10 fun v8 => ?_
  refine g_bVu (pc := 11) (y := yX2_writesNumber) (ws := ws_ yX2_writesNumber cX2_writesNumber 2 none) (fr := 4) (lo := 84) (as := [gi v8]) (st := []) (g_no) rfl (fun _ _ _ e => tX2_writesNumber_d3 hs e) (fun K _ _ _ hq hM R e1 e2 => g_runV (M := mX2_writesNumber_d4) (pc := 11) (y := yX2_writesNumber) (bytes := cX2_writesNumber) (maxL := 2) (ret := none) (fr := 4) (lo := 84) (as := [gi v8]) (st := []) hq (C := "FlareSlopesModel") rfl gy_X2_writesNumber (gbl rfl) (gbl rfl) (gbl rfl) q4539 q4541 qs124 dX2_writesNumber_11 K hM R e1 e2) fun v9 h10 => ?_
  exact Hj3 () h10
/-! FlareSlopesModel.writesNumber(I)V -/
noncomputable def sX2_writesNumber_d5 (G : GG) (N : Nat) (a0 : Option Nat) (a1 : Int32) (h : Hp) : Out (Unit) :=
  gJ (fun (x1 : Unit) (h2 : Hp) =>
  gRm a1 (10 : Int32) fun v4 =>
  bV h2 a0 18 (fun q7 => sX2_writesByte G N (some q7) ((48 : Int32) + v4) h2) fun v5 h6 =>
  some (.inl (), h6)) fun j3 =>
  if a1 ≤ (9 : Int32) then (j3 () h)
  else gDv a1 (10 : Int32) fun v8 =>
  bV h a0 18 (fun q11 => sX2_writesNumber_d4 G N (some q11) v8 h) fun v9 h10 =>
  j3 () h10
abbrev mX2_writesNumber_d5 : MI := (RX2, cX2_writesNumber, 2, none, [], 6, 126, "writesNumber")
theorem tX2_writesNumber_d5 {G : GG} {l : Launch} (hs : l.stackTraces = false) {N : Nat} {a0 : Option Nat} {a1 : Int32} {h : Hp} {r : Unit ⊕ Nat} {hf : Hp} (ho : sX2_writesNumber_d5 G N a0 a1 h = some (r, hf)) : gMet G l yX2_writesNumber (ws_ yX2_writesNumber cX2_writesNumber 2 none) 6 126 [gr a0, gi a1] h cvU r hf := by
  refine gMet.of ho hs (plainFor_of_name pn_X2) rfl rfl (gbl rfl) fun X => ?_
  show gT G l X mX2_writesNumber_d5 cvU r hf 0 [(0, gr a0), (1, gi a1)] [] h (sX2_writesNumber_d5 G N a0 a1 h)
  delta sX2_writesNumber_d5
  refine g_iload_n (pc := 0) (x := a1) 1 rfl rfl dX2_writesNumber_0 ?_
  refine g_bipush (pc := 1) (v := (9 : Int32)) bc_9 dX2_writesNumber_1 ?_
  refine g_join 14 (fun (x1 : Unit) => [(0, gr a0), (1, gi a1)]) (fun (x1 : Unit) => []) (fun x1 h2 => ?_) (fun j3 Hj3 => ?_)
  · refine g_aload_n (pc := 14) (x := a0) 0 rfl rfl dX2_writesNumber_14 ?_
    refine g_bipush (pc := 15) (v := (48 : Int32)) bc_48 dX2_writesNumber_15 ?_
    refine g_iload_n (pc := 17) (x := a1) 1 rfl rfl dX2_writesNumber_17 ?_
    refine g_bipush (pc := 18) (v := (10 : Int32)) bc_10 dX2_writesNumber_18 ?_
    refine g_irem (pc := 20) dX2_writesNumber_20 fun v4 => ?_
    refine g_iadd (pc := 21) dX2_writesNumber_21 ?_
    refine g_bVu (pc := 22) (y := yX2_writesByte) (ws := ws_ yX2_writesByte cX2_writesByte 2 none) (fr := 0) (lo := 0) (as := [gi ((48 : Int32) + v4)]) (st := []) (g_no) rfl (fun _ _ _ e => tX2_writesByte hs e) (fun K _ _ _ hq hM R e1 e2 => g_runV (M := mX2_writesNumber_d5) (pc := 22) (y := yX2_writesByte) (bytes := cX2_writesByte) (maxL := 2) (ret := none) (fr := 0) (lo := 0) (as := [gi ((48 : Int32) + v4)]) (st := []) hq (C := "FlareSlopesModel") rfl gy_X2_writesByte (gbl rfl) (gbl rfl) (gbl rfl) q4531 q4533 qs123 dX2_writesNumber_22 K hM R e1 e2) fun v5 h6 => ?_
    exact g_return (pc := 25) rfl dX2_writesNumber_25
  refine g_icmp_le (pc := 3) (tgt := 14) rfl dX2_writesNumber_3 ?_ ?_
  · exact Hj3 () h
  refine g_aload_n (pc := 6) (x := a0) 0 rfl rfl dX2_writesNumber_6 ?_
  refine g_iload_n (pc := 7) (x := a1) 1 rfl rfl dX2_writesNumber_7 ?_
  refine g_bipush (pc := 8) (v := (10 : Int32)) bc_10 dX2_writesNumber_8 ?_
  refine g_idiv (pc := 10) dX2_writesNumber_10 fun v8 => ?_
  refine g_bVu (pc := 11) (y := yX2_writesNumber) (ws := ws_ yX2_writesNumber cX2_writesNumber 2 none) (fr := 5) (lo := 105) (as := [gi v8]) (st := []) (g_no) rfl (fun _ _ _ e => tX2_writesNumber_d4 hs e) (fun K _ _ _ hq hM R e1 e2 => g_runV (M := mX2_writesNumber_d5) (pc := 11) (y := yX2_writesNumber) (bytes := cX2_writesNumber) (maxL := 2) (ret := none) (fr := 5) (lo := 105) (as := [gi v8]) (st := []) hq (C := "FlareSlopesModel") rfl gy_X2_writesNumber (gbl rfl) (gbl rfl) (gbl rfl) q4539 q4541 qs124 dX2_writesNumber_11 K hM R e1 e2) fun v9 h10 => ?_
  exact Hj3 () h10
/-! FlareSlopesModel.writesNumber(I)V -/
noncomputable def sX2_writesNumber_d6 (G : GG) (N : Nat) (a0 : Option Nat) (a1 : Int32) (h : Hp) : Out (Unit) :=
  gJ (fun (x1 : Unit) (h2 : Hp) =>
  gRm a1 (10 : Int32) fun v4 =>
  bV h2 a0 18 (fun q7 => sX2_writesByte G N (some q7) ((48 : Int32) + v4) h2) fun v5 h6 =>
  some (.inl (), h6)) fun j3 =>
  if a1 ≤ (9 : Int32) then (j3 () h)
  else gDv a1 (10 : Int32) fun v8 =>
  bV h a0 18 (fun q11 => sX2_writesNumber_d5 G N (some q11) v8 h) fun v9 h10 =>
  j3 () h10
abbrev mX2_writesNumber_d6 : MI := (RX2, cX2_writesNumber, 2, none, [], 7, 147, "writesNumber")
theorem tX2_writesNumber_d6 {G : GG} {l : Launch} (hs : l.stackTraces = false) {N : Nat} {a0 : Option Nat} {a1 : Int32} {h : Hp} {r : Unit ⊕ Nat} {hf : Hp} (ho : sX2_writesNumber_d6 G N a0 a1 h = some (r, hf)) : gMet G l yX2_writesNumber (ws_ yX2_writesNumber cX2_writesNumber 2 none) 7 147 [gr a0, gi a1] h cvU r hf := by
  refine gMet.of ho hs (plainFor_of_name pn_X2) rfl rfl (gbl rfl) fun X => ?_
  show gT G l X mX2_writesNumber_d6 cvU r hf 0 [(0, gr a0), (1, gi a1)] [] h (sX2_writesNumber_d6 G N a0 a1 h)
  delta sX2_writesNumber_d6
  refine g_iload_n (pc := 0) (x := a1) 1 rfl rfl dX2_writesNumber_0 ?_
  refine g_bipush (pc := 1) (v := (9 : Int32)) bc_9 dX2_writesNumber_1 ?_
  refine g_join 14 (fun (x1 : Unit) => [(0, gr a0), (1, gi a1)]) (fun (x1 : Unit) => []) (fun x1 h2 => ?_) (fun j3 Hj3 => ?_)
  · refine g_aload_n (pc := 14) (x := a0) 0 rfl rfl dX2_writesNumber_14 ?_
    refine g_bipush (pc := 15) (v := (48 : Int32)) bc_48 dX2_writesNumber_15 ?_
    refine g_iload_n (pc := 17) (x := a1) 1 rfl rfl dX2_writesNumber_17 ?_
    refine g_bipush (pc := 18) (v := (10 : Int32)) bc_10 dX2_writesNumber_18 ?_
    refine g_irem (pc := 20) dX2_writesNumber_20 fun v4 => ?_
    refine g_iadd (pc := 21) dX2_writesNumber_21 ?_
    refine g_bVu (pc := 22) (y := yX2_writesByte) (ws := ws_ yX2_writesByte cX2_writesByte 2 none) (fr := 0) (lo := 0) (as := [gi ((48 : Int32) + v4)]) (st := []) (g_no) rfl (fun _ _ _ e => tX2_writesByte hs e) (fun K _ _ _ hq hM R e1 e2 => g_runV (M := mX2_writesNumber_d6) (pc := 22) (y := yX2_writesByte) (bytes := cX2_writesByte) (maxL := 2) (ret := none) (fr := 0) (lo := 0) (as := [gi ((48 : Int32) + v4)]) (st := []) hq (C := "FlareSlopesModel") rfl gy_X2_writesByte (gbl rfl) (gbl rfl) (gbl rfl) q4531 q4533 qs123 dX2_writesNumber_22 K hM R e1 e2) fun v5 h6 => ?_
    exact g_return (pc := 25) rfl dX2_writesNumber_25
  refine g_icmp_le (pc := 3) (tgt := 14) rfl dX2_writesNumber_3 ?_ ?_
  · exact Hj3 () h
  refine g_aload_n (pc := 6) (x := a0) 0 rfl rfl dX2_writesNumber_6 ?_
  refine g_iload_n (pc := 7) (x := a1) 1 rfl rfl dX2_writesNumber_7 ?_
  refine g_bipush (pc := 8) (v := (10 : Int32)) bc_10 dX2_writesNumber_8 ?_
  refine g_idiv (pc := 10) dX2_writesNumber_10 fun v8 => ?_
  refine g_bVu (pc := 11) (y := yX2_writesNumber) (ws := ws_ yX2_writesNumber cX2_writesNumber 2 none) (fr := 6) (lo := 126) (as := [gi v8]) (st := []) (g_no) rfl (fun _ _ _ e => tX2_writesNumber_d5 hs e) (fun K _ _ _ hq hM R e1 e2 => g_runV (M := mX2_writesNumber_d6) (pc := 11) (y := yX2_writesNumber) (bytes := cX2_writesNumber) (maxL := 2) (ret := none) (fr := 6) (lo := 126) (as := [gi v8]) (st := []) hq (C := "FlareSlopesModel") rfl gy_X2_writesNumber (gbl rfl) (gbl rfl) (gbl rfl) q4539 q4541 qs124 dX2_writesNumber_11 K hM R e1 e2) fun v9 h10 => ?_
  exact Hj3 () h10
/-! FlareSlopesModel.writeVotes(II)I -/
noncomputable def bX2_writeVotes_18 (G : GG) (N : Nat) (a0 : Option Nat) (a1 : Int32) (a2 : Int32) (j6 : (Unit) → Hp → Out (Int32)) (w10 : (Int32) → Hp → Out (Int32)) (x8 : Int32) (h9 : Hp) : Out (Int32) :=
  gFr h9 a0 18 1 fun v11 =>
  gAi h9 v11 0 (6 : Int32) fun v12 =>
  if v12 ≤ x8 then (j6 () h9)
  else bV h9 a0 18 (fun q44 => sX2_voteOf G N (some q44) a1 x8 a2 h9) fun v13 h14 =>
  gJ (fun (x15 : Unit) (h16 : Hp) =>
  w10 (x8 + (1 : Int32)) h16) fun j17 =>
  if v13 = 0 then (j17 () h14)
  else gFi h14 a0 18 21 fun v18 =>
  gJ (fun (x19 : Unit) (h20 : Hp) =>
  bnd (sX2_isRed G N v13 h20) fun v22 h23 =>
  gJ (fun (x24 : Int32) (h25 : Hp) =>
  bV h25 a0 18 (fun q40 => sX2_writesByte G N (some q40) x24 h25) fun v27 h28 =>
  bV h28 a0 18 (fun q39 => sX2_writesName G N (some q39) x8 h28) fun v29 h30 =>
  bV h30 a0 18 (fun q38 => sX2_writesByte G N (some q38) (64 : Int32) h30) fun v31 h32 =>
  bnd (sX2_timeOf G N v13 h32) fun v33 h34 =>
  bV h34 a0 18 (fun q37 => sX2_writesNumber_d6 G N (some q37) v33 h34) fun v35 h36 =>
  j17 () h36) fun j26 =>
  if v22 = 0 then (j26 (103 : Int32) h23)
  else j26 (114 : Int32) h23) fun j21 =>
  if v18 ≤ 0 then (j21 () h14)
  else bV h14 a0 18 (fun q43 => sX2_writesByte G N (some q43) (32 : Int32) h14) fun v41 h42 =>
  j21 () h42
noncomputable def sX2_writeVotes (G : GG) (N : Nat) (a0 : Option Nat) (a1 : Int32) (a2 : Int32) (h : Hp) : Out (Int32) :=
  bV h a0 18 (fun q45 => sX2_mayBoth G N (some q45) a1 a2 h) fun v1 h2 =>
  if v1 = 0 then (some (.inl (0 : Int32), h2))
  else gP G h2 a0 18 21 (.int (0 : Int32)) fun h3 =>
  gJ (fun (x4 : Unit) (h5 : Hp) =>
  gFi h5 a0 18 21 fun v7 =>
  some (.inl v7, h5)) fun j6 =>
  gLp (bX2_writeVotes_18 G N a0 a1 a2 j6) N (0 : Int32) h3
abbrev mX2_writeVotes : MI := (RX2, cX2_writeVotes, 5, (some .int), [], 8, 168, "writeVotes")
theorem tX2_writeVotes {G : GG} {l : Launch} (hs : l.stackTraces = false) {N : Nat} {a0 : Option Nat} {a1 : Int32} {a2 : Int32} {h : Hp} {r : Int32 ⊕ Nat} {hf : Hp} (ho : sX2_writeVotes G N a0 a1 a2 h = some (r, hf)) : gMet G l yX2_writeVotes (ws_ yX2_writeVotes cX2_writeVotes 5 (some .int)) 8 168 [gr a0, gi a1, gi a2] h cvI r hf := by
  refine gMet.of ho hs (plainFor_of_name pn_X2) rfl rfl (gbl rfl) fun X => ?_
  show gT G l X mX2_writeVotes cvI r hf 0 [(0, gr a0), (1, gi a1), (2, gi a2)] [] h (sX2_writeVotes G N a0 a1 a2 h)
  delta sX2_writeVotes
  refine g_aload_n (pc := 0) (x := a0) 0 rfl rfl dX2_writeVotes_0 ?_
  refine g_iload_n (pc := 1) (x := a1) 1 rfl rfl dX2_writeVotes_1 ?_
  refine g_iload_n (pc := 2) (x := a2) 2 rfl rfl dX2_writeVotes_2 ?_
  refine g_bVi (pc := 3) (y := yX2_mayBoth) (ws := ws_ yX2_mayBoth cX2_mayBoth 3 (some .boolean)) (fr := 2) (lo := 45) (as := [gi a1, gi a2]) (st := []) (g_no) rfl (fun _ _ _ e => tX2_mayBoth hs e) (fun K _ _ _ hq hM R e1 e2 => g_runV (M := mX2_writeVotes) (pc := 3) (y := yX2_mayBoth) (bytes := cX2_mayBoth) (maxL := 3) (ret := (some .boolean)) (fr := 2) (lo := 45) (as := [gi a1, gi a2]) (st := []) hq (C := "FlareSlopesModel") rfl gy_X2_mayBoth (gbl rfl) (gbl rfl) (gbl rfl) q4316 q4318 qs104 dX2_writeVotes_3 K hM R e1 e2) fun v1 h2 => ?_
  refine g_if_ne (pc := 6) (tgt := 11) rfl dX2_writeVotes_6 ?_ ?_
  · refine g_iconst (pc := 9) (v := (0 : Int32)) ic_0 dX2_writeVotes_9 ?_
    exact g_ireturn (pc := 10) rfl dX2_writeVotes_10
  refine g_aload_n (pc := 11) (x := a0) 0 rfl rfl dX2_writeVotes_11 ?_
  refine g_iconst (pc := 12) (v := (0 : Int32)) ic_0 dX2_writeVotes_12 ?_
  refine g_put (pc := 13) k_18 (gblt rfl) lk_X2_377_18 rfl rfl (gNi _) dX2_writeVotes_13 fun h3 => ?_
  refine g_iconst (pc := 16) (v := (0 : Int32)) ic_0 dX2_writeVotes_16 ?_
  refine g_istore_n (pc := 17) (lv' := [(3, gi (0 : Int32)), (0, gr a0), (1, gi a1), (2, gi a2)]) [0, 1, 2, 3] rfl rfl (gblt rfl) dX2_writeVotes_17 ?_
  refine g_join 104 (fun (x4 : Unit) => [(0, gr a0)]) (fun (x4 : Unit) => []) (fun x4 h5 => ?_) (fun j6 Hj6 => ?_)
  · refine g_aload_n (pc := 104) (x := a0) 0 rfl rfl dX2_writeVotes_104 ?_
    refine g_getfi (pc := 105) k_18 (gblt rfl) lk_X2_377_18 dX2_writeVotes_105 fun v7 => ?_
    exact g_ireturn (pc := 108) rfl dX2_writeVotes_108
  refine g_sub (lv' := [(0, gr a0), (1, gi a1), (2, gi a2), (3, gi (0 : Int32))]) [1, 2, 3, 0] rfl ?_
  refine g_loop (pc := 18) (fun (x8 : Int32) => [(0, gr a0), (1, gi a1), (2, gi a2), (3, gi x8)]) (fun (_ : Int32) => []) (fun w10 Hw10 x8 h9 => ?_) N (0 : Int32) h3
  delta bX2_writeVotes_18
  refine g_iload_n (pc := 18) (x := x8) 3 rfl rfl dX2_writeVotes_18 ?_
  refine g_aload_n (pc := 19) (x := a0) 0 rfl rfl dX2_writeVotes_19 ?_
  refine g_getfr (pc := 20) k_18 (gblt rfl) lk_X2_9_18 dX2_writeVotes_20 fun v11 => ?_
  refine g_bipush (pc := 23) (v := (6 : Int32)) bc_6 dX2_writeVotes_23 ?_
  refine g_iaload (pc := 25) rfl dX2_writeVotes_25 fun v12 => ?_
  refine g_icmp_ge (pc := 26) (tgt := 104) rfl dX2_writeVotes_26 ?_ ?_
  · exact g_sub [0] rfl (Hj6 () h9)
  refine g_aload_n (pc := 29) (x := a0) 0 rfl rfl dX2_writeVotes_29 ?_
  refine g_iload_n (pc := 30) (x := a1) 1 rfl rfl dX2_writeVotes_30 ?_
  refine g_iload_n (pc := 31) (x := x8) 3 rfl rfl dX2_writeVotes_31 ?_
  refine g_iload_n (pc := 32) (x := a2) 2 rfl rfl dX2_writeVotes_32 ?_
  refine g_bVi (pc := 33) (y := yX2_voteOf) (ws := ws_ yX2_voteOf cX2_voteOf 4 (some .int)) (fr := 1) (lo := 22) (as := [gi a1, gi x8, gi a2]) (st := []) (g_no) rfl (fun _ _ _ e => tX2_voteOf hs e) (fun K _ _ _ hq hM R e1 e2 => g_runV (M := mX2_writeVotes) (pc := 33) (y := yX2_voteOf) (bytes := cX2_voteOf) (maxL := 4) (ret := (some .int)) (fr := 1) (lo := 22) (as := [gi a1, gi x8, gi a2]) (st := []) hq (C := "FlareSlopesModel") rfl gy_X2_voteOf (gbl rfl) (gbl rfl) (gbl rfl) q4222 q4224 qs89 dX2_writeVotes_33 K hM R e1 e2) fun v13 h14 => ?_
  refine g_istore (pc := 36) (lv' := [(4, gi v13), (0, gr a0), (1, gi a1), (2, gi a2), (3, gi x8)]) [0, 1, 2, 3, 4] rfl (gblt rfl) dX2_writeVotes_36 ?_
  refine g_iload (pc := 38) (x := v13) 0 rfl dX2_writeVotes_38 ?_
  refine g_join 98 (fun (x15 : Unit) => [(0, gr a0), (1, gi a1), (2, gi a2), (3, gi x8)]) (fun (x15 : Unit) => []) (fun x15 h16 => ?_) (fun j17 Hj17 => ?_)
  · refine g_iinc (pc := 98) (v := x8 + (1 : Int32)) 3 rfl (ii_1 _) (lv' := [(3, gi (x8 + (1 : Int32))), (0, gr a0), (1, gi a1), (2, gi a2)]) [0, 1, 2, 3] rfl (gblt rfl) dX2_writeVotes_98 ?_
    refine g_goto (pc := 101) (tgt := 18) rfl dX2_writeVotes_101 ?_
    exact g_sub [1, 2, 3, 0] rfl (Hw10 (x8 + (1 : Int32)) h16)
  refine g_if_ne (pc := 40) (tgt := 46) rfl dX2_writeVotes_40 ?_ ?_
  · refine g_goto (pc := 43) (tgt := 98) rfl dX2_writeVotes_43 ?_
    exact g_sub [1, 2, 3, 4] rfl (Hj17 () h14)
  refine g_aload_n (pc := 46) (x := a0) 1 rfl rfl dX2_writeVotes_46 ?_
  refine g_getfi (pc := 47) k_18 (gblt rfl) lk_X2_377_18 dX2_writeVotes_47 fun v18 => ?_
  refine g_join 59 (fun (x19 : Unit) => [(0, gr a0), (1, gi a1), (2, gi a2), (3, gi x8), (4, gi v13)]) (fun (x19 : Unit) => []) (fun x19 h20 => ?_) (fun j21 Hj21 => ?_)
  · refine g_aload_n (pc := 59) (x := a0) 0 rfl rfl dX2_writeVotes_59 ?_
    refine g_iload (pc := 60) (x := v13) 4 rfl dX2_writeVotes_60 ?_
    refine g_bi (pc := 62) (y := yX2_isRed) (ws := ws_ yX2_isRed cX2_isRed 1 (some .boolean)) (fr := 0) (lo := 0) (as := [gi v13]) (st := [gr a0]) (g_no) rfl (fun _ _ e => tX2_isRed hs e) (fun K _ _ hM R e1 e2 => g_runS (M := mX2_writeVotes) (pc := 62) (y := yX2_isRed) (bytes := cX2_isRed) (maxL := 1) (ret := (some .boolean)) (fr := 0) (lo := 0) (as := [gi v13]) (st := [gr a0]) gy_X2_isRed (gbl rfl) (gbl rfl) (gbl rfl) q4203 q4204 dX2_writeVotes_62 K hM R e1 e2) fun v22 h23 => ?_
    refine g_join 75 (fun (x24 : Int32) => [(0, gr a0), (1, gi a1), (2, gi a2), (3, gi x8), (4, gi v13)]) (fun (x24 : Int32) => [gi x24, gr a0]) (fun x24 h25 => ?_) (fun j26 Hj26 => ?_)
    · refine g_bVu (pc := 75) (y := yX2_writesByte) (ws := ws_ yX2_writesByte cX2_writesByte 2 none) (fr := 0) (lo := 0) (as := [gi x24]) (st := []) (g_no) rfl (fun _ _ _ e => tX2_writesByte hs e) (fun K _ _ _ hq hM R e1 e2 => g_runV (M := mX2_writeVotes) (pc := 75) (y := yX2_writesByte) (bytes := cX2_writesByte) (maxL := 2) (ret := none) (fr := 0) (lo := 0) (as := [gi x24]) (st := []) hq (C := "FlareSlopesModel") rfl gy_X2_writesByte (gbl rfl) (gbl rfl) (gbl rfl) q4531 q4533 qs123 dX2_writeVotes_75 K hM R e1 e2) fun v27 h28 => ?_
      refine g_aload_n (pc := 78) (x := a0) 0 rfl rfl dX2_writeVotes_78 ?_
      refine g_iload_n (pc := 79) (x := x8) 3 rfl rfl dX2_writeVotes_79 ?_
      refine g_bVu (pc := 80) (y := yX2_writesName) (ws := ws_ yX2_writesName cX2_writesName 6 none) (fr := 1) (lo := 21) (as := [gi x8]) (st := []) (g_no) rfl (fun _ _ _ e => tX2_writesName hs e) (fun K _ _ _ hq hM R e1 e2 => g_runV (M := mX2_writeVotes) (pc := 80) (y := yX2_writesName) (bytes := cX2_writesName) (maxL := 6) (ret := none) (fr := 1) (lo := 21) (as := [gi x8]) (st := []) hq (C := "FlareSlopesModel") rfl gy_X2_writesName (gbl rfl) (gbl rfl) (gbl rfl) q4526 q4528 qs122 dX2_writeVotes_80 K hM R e1 e2) fun v29 h30 => ?_
      refine g_aload_n (pc := 83) (x := a0) 0 rfl rfl dX2_writeVotes_83 ?_
      refine g_bipush (pc := 84) (v := (64 : Int32)) bc_64 dX2_writeVotes_84 ?_
      refine g_bVu (pc := 86) (y := yX2_writesByte) (ws := ws_ yX2_writesByte cX2_writesByte 2 none) (fr := 0) (lo := 0) (as := [gi (64 : Int32)]) (st := []) (g_no) rfl (fun _ _ _ e => tX2_writesByte hs e) (fun K _ _ _ hq hM R e1 e2 => g_runV (M := mX2_writeVotes) (pc := 86) (y := yX2_writesByte) (bytes := cX2_writesByte) (maxL := 2) (ret := none) (fr := 0) (lo := 0) (as := [gi (64 : Int32)]) (st := []) hq (C := "FlareSlopesModel") rfl gy_X2_writesByte (gbl rfl) (gbl rfl) (gbl rfl) q4531 q4533 qs123 dX2_writeVotes_86 K hM R e1 e2) fun v31 h32 => ?_
      refine g_aload_n (pc := 89) (x := a0) 0 rfl rfl dX2_writeVotes_89 ?_
      refine g_iload (pc := 90) (x := v13) 4 rfl dX2_writeVotes_90 ?_
      refine g_bi (pc := 92) (y := yX2_timeOf) (ws := ws_ yX2_timeOf cX2_timeOf 1 (some .int)) (fr := 0) (lo := 0) (as := [gi v13]) (st := [gr a0]) (g_no) rfl (fun _ _ e => tX2_timeOf hs e) (fun K _ _ hM R e1 e2 => g_runS (M := mX2_writeVotes) (pc := 92) (y := yX2_timeOf) (bytes := cX2_timeOf) (maxL := 1) (ret := (some .int)) (fr := 0) (lo := 0) (as := [gi v13]) (st := [gr a0]) gy_X2_timeOf (gbl rfl) (gbl rfl) (gbl rfl) q4356 q4357 dX2_writeVotes_92 K hM R e1 e2) fun v33 h34 => ?_
      refine g_bVu (pc := 95) (y := yX2_writesNumber) (ws := ws_ yX2_writesNumber cX2_writesNumber 2 none) (fr := 7) (lo := 147) (as := [gi v33]) (st := []) (g_no) rfl (fun _ _ _ e => tX2_writesNumber_d6 hs e) (fun K _ _ _ hq hM R e1 e2 => g_runV (M := mX2_writeVotes) (pc := 95) (y := yX2_writesNumber) (bytes := cX2_writesNumber) (maxL := 2) (ret := none) (fr := 7) (lo := 147) (as := [gi v33]) (st := []) hq (C := "FlareSlopesModel") rfl gy_X2_writesNumber (gbl rfl) (gbl rfl) (gbl rfl) q4539 q4541 qs124 dX2_writeVotes_95 K hM R e1 e2) fun v35 h36 => ?_
      exact g_sub [0, 1, 2, 3] rfl (Hj17 () h36)
    refine g_if_eq (pc := 65) (tgt := 73) rfl dX2_writeVotes_65 ?_ ?_
    · refine g_bipush (pc := 73) (v := (103 : Int32)) bc_103 dX2_writeVotes_73 ?_
      exact Hj26 (103 : Int32) h23
    refine g_bipush (pc := 68) (v := (114 : Int32)) bc_114 dX2_writeVotes_68 ?_
    refine g_goto (pc := 70) (tgt := 75) rfl dX2_writeVotes_70 ?_
    exact Hj26 (114 : Int32) h23
  refine g_if_le (pc := 50) (tgt := 59) rfl dX2_writeVotes_50 ?_ ?_
  · exact g_sub [1, 2, 3, 4, 0] rfl (Hj21 () h14)
  refine g_aload_n (pc := 53) (x := a0) 1 rfl rfl dX2_writeVotes_53 ?_
  refine g_bipush (pc := 54) (v := (32 : Int32)) bc_32 dX2_writeVotes_54 ?_
  refine g_bVu (pc := 56) (y := yX2_writesByte) (ws := ws_ yX2_writesByte cX2_writesByte 2 none) (fr := 0) (lo := 0) (as := [gi (32 : Int32)]) (st := []) (g_no) rfl (fun _ _ _ e => tX2_writesByte hs e) (fun K _ _ _ hq hM R e1 e2 => g_runV (M := mX2_writeVotes) (pc := 56) (y := yX2_writesByte) (bytes := cX2_writesByte) (maxL := 2) (ret := none) (fr := 0) (lo := 0) (as := [gi (32 : Int32)]) (st := []) hq (C := "FlareSlopesModel") rfl gy_X2_writesByte (gbl rfl) (gbl rfl) (gbl rfl) q4531 q4533 qs123 dX2_writeVotes_56 K hM R e1 e2) fun v41 h42 => ?_
  exact g_sub [1, 2, 3, 4, 0] rfl (Hj21 () h42)
/-! FlareSlopes.writeView()I -/
noncomputable def bX1_writeView_15 (G : GG) (N : Nat) (a0 : Option Nat) (v1 : Option Nat) (j8 : (Unit) → Hp → Out (Int32)) (w15 : (Int32) → Hp → Out (Int32)) (x13 : Int32) (h14 : Hp) : Out (Int32) :=
  bV h14 v1 16 (fun q46 => sX3_size G N (some q46) h14) fun v16 h17 =>
  if v16 ≤ x13 then (j8 () h17)
  else gJ (fun (x18 : Unit) (h19 : Hp) =>
  gFr h19 a0 3 7 fun v21 =>
  gFr h19 v1 16 0 fun v22 =>
  gFr h19 v22 11 0 fun v23 =>
  bV h19 v23 13 (fun q41 => sX6_get G N (some q41) x13 h19) fun v24 h25 =>
  gCk h25 v24 [15] (gFr h25 v24 15 0 fun v26 =>
  bV h25 v21 21 (fun q40 => sJ3_append_3 G N (some q40) v26 h25) fun v27 h28 =>
  bV h28 v27 21 (fun q39 => sJ3_append G N (some q39) (61 : Int32) h28) fun v29 h30 =>
  bV h30 v1 16 (fun q38 => sX3_seers G N (some q38) x13 h30) fun v31 h32 =>
  bnd (sJ20_bitCount G N v31 h32) fun v33 h34 =>
  bV h34 v29 21 (fun q37 => sJ3_append_2 G N (some q37) v33 h34) fun v35 h36 =>
  w15 (x13 + (1 : Int32)) h36)) fun j20 =>
  if x13 ≤ 0 then (j20 () h17)
  else gFr h17 a0 3 7 fun v42 =>
  bV h17 v42 21 (fun q45 => sJ3_append G N (some q45) (44 : Int32) h17) fun v43 h44 =>
  j20 () h44
noncomputable def sX1_writeView (G : GG) (N : Nat) (a0 : Option Nat) (h : Hp) : Out (Int32) :=
  bV h a0 3 (fun q48 => sX1_loaded G N (some q48) h) fun v1 h2 =>
  gFr h2 a0 3 7 fun v3 =>
  bV h2 v3 21 (fun q47 => sJ3_setLength G N (some q47) (0 : Int32) h2) fun v4 h5 =>
  gJ (fun (x6 : Unit) (h7 : Hp) =>
  gFr h7 a0 3 7 fun v9 =>
  bV h7 v9 21 (fun q12 => sJ3_length G N (some q12) h7) fun v10 h11 =>
  some (.inl v10, h11)) fun j8 =>
  gLp (bX1_writeView_15 G N a0 v1 j8) N (0 : Int32) h5
abbrev mX1_writeView : MI := (RX1, cX1_writeView, 3, (some .int), [], 8, 174, "writeView")
theorem tX1_writeView {G : GG} {l : Launch} (hs : l.stackTraces = false) {N : Nat} {a0 : Option Nat} {h : Hp} {r : Int32 ⊕ Nat} {hf : Hp} (ho : sX1_writeView G N a0 h = some (r, hf)) : gMet G l yX1_writeView (ws_ yX1_writeView cX1_writeView 3 (some .int)) 8 174 [gr a0] h cvI r hf := by
  refine gMet.of ho hs (plainFor_of_name pn_X1) rfl rfl (gbl rfl) fun X => ?_
  show gT G l X mX1_writeView cvI r hf 0 [(0, gr a0)] [] h (sX1_writeView G N a0 h)
  delta sX1_writeView
  refine g_aload_n (pc := 0) (x := a0) 0 rfl rfl dX1_writeView_0 ?_
  refine g_bVr (pc := 1) (y := yX1_loaded) (ws := ws_ yX1_loaded cX1_loaded 1 (some (.object "FlareSlopes$State"))) (fr := 7) (lo := 101) (as := []) (st := []) (g_no) rfl (fun _ _ _ e => tX1_loaded hs e) (fun K _ _ _ hq hM R e1 e2 => g_runV (M := mX1_writeView) (pc := 1) (y := yX1_loaded) (bytes := cX1_loaded) (maxL := 1) (ret := (some (.object "FlareSlopes$State"))) (fr := 7) (lo := 101) (as := []) (st := []) hq (C := "FlareSlopes") rfl gy_X1_loaded (gbl rfl) (gbl rfl) (gbl rfl) q1430 q1432 qs17 dX1_writeView_1 K hM R e1 e2) fun v1 h2 => ?_
  refine g_astore_n (pc := 4) (lv' := [(1, gr v1), (0, gr a0)]) [0, 1] rfl rfl (gblt rfl) dX1_writeView_4 ?_
  refine g_aload_n (pc := 5) (x := a0) 1 rfl rfl dX1_writeView_5 ?_
  refine g_getfr (pc := 6) k_3 (gblt rfl) lk_X1_39_3 dX1_writeView_6 fun v3 => ?_
  refine g_iconst (pc := 9) (v := (0 : Int32)) ic_0 dX1_writeView_9 ?_
  refine g_bVu (pc := 10) (y := yJ3_setLength) (ws := ws_ yJ3_setLength cJ3_setLength 2 none) (fr := 5) (lo := 112) (as := [gi (0 : Int32)]) (st := []) (g_no) rfl (fun _ _ _ e => tJ3_setLength hs e) (fun K _ _ _ hq hM R e1 e2 => g_runV (M := mX1_writeView) (pc := 10) (y := yJ3_setLength) (bytes := cJ3_setLength) (maxL := 2) (ret := none) (fr := 5) (lo := 112) (as := [gi (0 : Int32)]) (st := []) hq (C := "java/lang/StringBuilder") rfl gy_J3_setLength (gbl rfl) (gbl rfl) (gbl rfl) q3665 q3666 q3667 dX1_writeView_10 K hM R e1 e2) fun v4 h5 => ?_
  refine g_iconst (pc := 13) (v := (0 : Int32)) ic_0 dX1_writeView_13 ?_
  refine g_istore_n (pc := 14) (lv' := [(2, gi (0 : Int32)), (1, gr v1), (0, gr a0)]) [0, 1, 2] rfl rfl (gblt rfl) dX1_writeView_14 ?_
  refine g_join 84 (fun (x6 : Unit) => [(0, gr a0)]) (fun (x6 : Unit) => []) (fun x6 h7 => ?_) (fun j8 Hj8 => ?_)
  · refine g_aload_n (pc := 84) (x := a0) 0 rfl rfl dX1_writeView_84 ?_
    refine g_getfr (pc := 85) k_3 (gblt rfl) lk_X1_39_3 dX1_writeView_85 fun v9 => ?_
    refine g_bVi (pc := 88) (y := yJ3_length) (ws := ws_ yJ3_length cJ3_length 1 (some .int)) (fr := 1) (lo := 20) (as := []) (st := []) (g_no) rfl (fun _ _ _ e => tJ3_length hs e) (fun K _ _ _ hq hM R e1 e2 => g_runV (M := mX1_writeView) (pc := 88) (y := yJ3_length) (bytes := cJ3_length) (maxL := 1) (ret := (some .int)) (fr := 1) (lo := 20) (as := []) (st := []) hq (C := "java/lang/StringBuilder") rfl gy_J3_length (gbl rfl) (gbl rfl) (gbl rfl) q3721 q735 q4643 dX1_writeView_88 K hM R e1 e2) fun v10 h11 => ?_
    exact g_ireturn (pc := 91) rfl dX1_writeView_91
  refine g_sub (lv' := [(0, gr a0), (1, gr v1), (2, gi (0 : Int32))]) [2, 1, 0] rfl ?_
  refine g_loop (pc := 15) (fun (x13 : Int32) => [(0, gr a0), (1, gr v1), (2, gi x13)]) (fun (_ : Int32) => []) (fun w15 Hw15 x13 h14 => ?_) N (0 : Int32) h5
  delta bX1_writeView_15
  refine g_iload_n (pc := 15) (x := x13) 2 rfl rfl dX1_writeView_15 ?_
  refine g_aload_n (pc := 16) (x := v1) 1 rfl rfl dX1_writeView_16 ?_
  refine g_bVi (pc := 17) (y := yX3_size) (ws := ws_ yX3_size cX3_size 1 (some .int)) (fr := 1) (lo := 20) (as := []) (st := [gi x13]) (g_no) rfl (fun _ _ _ e => tX3_size hs e) (fun K _ _ _ hq hM R e1 e2 => g_runV (M := mX1_writeView) (pc := 17) (y := yX3_size) (bytes := cX3_size) (maxL := 1) (ret := (some .int)) (fr := 1) (lo := 20) (as := []) (st := [gi x13]) hq (C := "FlareSlopes$State") rfl gy_X3_size (gbl rfl) (gbl rfl) (gbl rfl) q1411 q1412 q1413 dX1_writeView_17 K hM R e1 e2) fun v16 h17 => ?_
  refine g_icmp_ge (pc := 20) (tgt := 84) rfl dX1_writeView_20 ?_ ?_
  · exact g_sub [0] rfl (Hj8 () h17)
  refine g_iload_n (pc := 23) (x := x13) 2 rfl rfl dX1_writeView_23 ?_
  refine g_join 37 (fun (x18 : Unit) => [(0, gr a0), (1, gr v1), (2, gi x13)]) (fun (x18 : Unit) => []) (fun x18 h19 => ?_) (fun j20 Hj20 => ?_)
  · refine g_aload_n (pc := 37) (x := a0) 0 rfl rfl dX1_writeView_37 ?_
    refine g_getfr (pc := 38) k_3 (gblt rfl) lk_X1_39_3 dX1_writeView_38 fun v21 => ?_
    refine g_aload_n (pc := 41) (x := v1) 1 rfl rfl dX1_writeView_41 ?_
    refine g_getfr (pc := 42) k_16 (gblt rfl) lk_X1_129_16 dX1_writeView_42 fun v22 => ?_
    refine g_getfr (pc := 45) k_11 (gblt rfl) lk_X1_138_11 dX1_writeView_45 fun v23 => ?_
    refine g_iload_n (pc := 48) (x := x13) 2 rfl rfl dX1_writeView_48 ?_
    refine g_bVr (pc := 49) (y := yX6_get) (ws := ws_ yX6_get cX6_get 2 (some (.object "FlareSlopes$Named"))) (fr := 3) (lo := 64) (as := [gi x13]) (st := [gr v21]) (g_no) rfl (fun _ _ _ e => tX6_get hs e) (fun K _ _ _ hq hM R e1 e2 => g_runV (M := mX1_writeView) (pc := 49) (y := yX6_get) (bytes := cX6_get) (maxL := 2) (ret := (some (.object "FlareSlopes$Named"))) (fr := 3) (lo := 64) (as := [gi x13]) (st := [gr v21]) hq (C := "FlareSlopes$Register") rfl gy_X6_get (gbl rfl) (gbl rfl) (gbl rfl) q3717 q986 q987 dX1_writeView_49 K hM R e1 e2) fun v24 h25 => ?_
    refine g_checkcast (pc := 52) q3718 as_15_FlareSlopes_Spot dX1_writeView_52 ?_
    refine g_getfr (pc := 55) k_15 (gblt rfl) lk_X1_475_15 dX1_writeView_55 fun v26 => ?_
    refine g_bVr (pc := 58) (y := yJ3_append_3) (ws := ws_ yJ3_append_3 cJ3_append_3 2 (some (.object "java/lang/StringBuilder"))) (fr := 5) (lo := 113) (as := [gr v26]) (st := []) (g_no) rfl (fun _ _ _ e => tJ3_append_3 hs e) (fun K _ _ _ hq hM R e1 e2 => g_runV (M := mX1_writeView) (pc := 58) (y := yJ3_append_3) (bytes := cJ3_append_3) (maxL := 2) (ret := (some (.object "java/lang/StringBuilder"))) (fr := 5) (lo := 113) (as := [gr v26]) (st := []) hq (C := "java/lang/StringBuilder") rfl gy_J3_append_3 (gbl rfl) (gbl rfl) (gbl rfl) q3719 q796 q797 dX1_writeView_58 K hM R e1 e2) fun v27 h28 => ?_
    refine g_bipush (pc := 61) (v := (61 : Int32)) bc_61 dX1_writeView_61 ?_
    refine g_bVr (pc := 63) (y := yJ3_append) (ws := ws_ yJ3_append cJ3_append 2 (some (.object "java/lang/StringBuilder"))) (fr := 5) (lo := 112) (as := [gi (61 : Int32)]) (st := []) (g_no) rfl (fun _ _ _ e => tJ3_append hs e) (fun K _ _ _ hq hM R e1 e2 => g_runV (M := mX1_writeView) (pc := 63) (y := yJ3_append) (bytes := cJ3_append) (maxL := 2) (ret := (some (.object "java/lang/StringBuilder"))) (fr := 5) (lo := 112) (as := [gi (61 : Int32)]) (st := []) hq (C := "java/lang/StringBuilder") rfl gy_J3_append (gbl rfl) (gbl rfl) (gbl rfl) q1452 q620 q621 dX1_writeView_63 K hM R e1 e2) fun v29 h30 => ?_
    refine g_aload_n (pc := 66) (x := v1) 1 rfl rfl dX1_writeView_66 ?_
    refine g_iload_n (pc := 67) (x := x13) 2 rfl rfl dX1_writeView_67 ?_
    refine g_bVi (pc := 68) (y := yX3_seers) (ws := ws_ yX3_seers cX3_seers 4 (some .int)) (fr := 7) (lo := 151) (as := [gi x13]) (st := [gr v29]) (g_no) rfl (fun _ _ _ e => tX3_seers hs e) (fun K _ _ _ hq hM R e1 e2 => g_runV (M := mX1_writeView) (pc := 68) (y := yX3_seers) (bytes := cX3_seers) (maxL := 4) (ret := (some .int)) (fr := 7) (lo := 151) (as := [gi x13]) (st := [gr v29]) hq (C := "FlareSlopes$State") rfl gy_X3_seers (gbl rfl) (gbl rfl) (gbl rfl) q1629 q1630 q1631 dX1_writeView_68 K hM R e1 e2) fun v31 h32 => ?_
    refine g_bi (pc := 71) (y := yJ20_bitCount) (ws := ws_ yJ20_bitCount cJ20_bitCount 1 (some .int)) (fr := 0) (lo := 0) (as := [gi v31]) (st := [gr v29]) (g_no) rfl (fun _ _ e => tJ20_bitCount hs e) (fun K _ _ hM R e1 e2 => g_runS (M := mX1_writeView) (pc := 71) (y := yJ20_bitCount) (bytes := cJ20_bitCount) (maxL := 1) (ret := (some .int)) (fr := 0) (lo := 0) (as := [gi v31]) (st := [gr v29]) gy_J20_bitCount (gbl rfl) (gbl rfl) (gbl rfl) q1619 q1620 dX1_writeView_71 K hM R e1 e2) fun v33 h34 => ?_
    refine g_bVr (pc := 74) (y := yJ3_append_2) (ws := ws_ yJ3_append_2 cJ3_append_2 2 (some (.object "java/lang/StringBuilder"))) (fr := 5) (lo := 114) (as := [gi v33]) (st := []) (g_no) rfl (fun _ _ _ e => tJ3_append_2 hs e) (fun K _ _ _ hq hM R e1 e2 => g_runV (M := mX1_writeView) (pc := 74) (y := yJ3_append_2) (bytes := cJ3_append_2) (maxL := 2) (ret := (some (.object "java/lang/StringBuilder"))) (fr := 5) (lo := 114) (as := [gi v33]) (st := []) hq (C := "java/lang/StringBuilder") rfl gy_J3_append_2 (gbl rfl) (gbl rfl) (gbl rfl) q3729 q761 q762 dX1_writeView_74 K hM R e1 e2) fun v35 h36 => ?_
    refine g_pop (pc := 77) rfl dX1_writeView_77 ?_
    refine g_iinc (pc := 78) (v := x13 + (1 : Int32)) 2 rfl (ii_1 _) (lv' := [(2, gi (x13 + (1 : Int32))), (0, gr a0), (1, gr v1)]) [0, 1, 2] rfl (gblt rfl) dX1_writeView_78 ?_
    refine g_goto (pc := 81) (tgt := 15) rfl dX1_writeView_81 ?_
    exact g_sub [1, 2, 0] rfl (Hw15 (x13 + (1 : Int32)) h36)
  refine g_if_le (pc := 24) (tgt := 37) rfl dX1_writeView_24 ?_ ?_
  · exact Hj20 () h17
  refine g_aload_n (pc := 27) (x := a0) 0 rfl rfl dX1_writeView_27 ?_
  refine g_getfr (pc := 28) k_3 (gblt rfl) lk_X1_39_3 dX1_writeView_28 fun v42 => ?_
  refine g_bipush (pc := 31) (v := (44 : Int32)) bc_44 dX1_writeView_31 ?_
  refine g_bVr (pc := 33) (y := yJ3_append) (ws := ws_ yJ3_append cJ3_append 2 (some (.object "java/lang/StringBuilder"))) (fr := 5) (lo := 112) (as := [gi (44 : Int32)]) (st := []) (g_no) rfl (fun _ _ _ e => tJ3_append hs e) (fun K _ _ _ hq hM R e1 e2 => g_runV (M := mX1_writeView) (pc := 33) (y := yJ3_append) (bytes := cJ3_append) (maxL := 2) (ret := (some (.object "java/lang/StringBuilder"))) (fr := 5) (lo := 112) (as := [gi (44 : Int32)]) (st := []) hq (C := "java/lang/StringBuilder") rfl gy_J3_append (gbl rfl) (gbl rfl) (gbl rfl) q1452 q620 q621 dX1_writeView_33 K hM R e1 e2) fun v43 h44 => ?_
  refine g_pop (pc := 36) rfl dX1_writeView_36 ?_
  exact Hj20 () h44
/-! FlareSlopesLaw.writeView(LFlareSlopes;[J)I -/
noncomputable def sX0_writeView (G : GG) (N : Nat) (a0 : Option Nat) (a1 : Option Nat) (h : Hp) : Out (Int32) :=
  bVX h a0 3 (fun q4 => sX1_writeView G N (some q4) h) (fun v1 h2 =>
  gSl G h2 a1 3 (0 : Int32) (v1.toInt64) fun h3 =>
  some (.inl (0 : Int32), h3)) fun q5 h6 =>
  gSw h6 (some q5) 0 (some (.inl (1 : Int32), h6)) (none)
abbrev mX0_writeView : MI := (RX0, cX0_writeView, 3, (some .int), [(0, 8, 11, 21)], 9, 196, "writeView")
theorem tX0_writeView {G : GG} {l : Launch} (hs : l.stackTraces = false) {N : Nat} {a0 : Option Nat} {a1 : Option Nat} {h : Hp} {r : Int32 ⊕ Nat} {hf : Hp} (ho : sX0_writeView G N a0 a1 h = some (r, hf)) : gMet G l yX0_writeView (wsW_ yX0_writeView cX0_writeView 3 (some .int) [(0, 8, 11, 21)]) 9 196 [gr a0, gr a1] h cvI r hf := by
  refine gMet.ofW ho hs (plainFor_of_name pn_X0) rfl rfl (gbl rfl) fun X => ?_
  show gT G l X mX0_writeView cvI r hf 0 [(0, gr a0), (1, gr a1)] [] h (sX0_writeView G N a0 a1 h)
  delta sX0_writeView
  refine g_aload_n (pc := 0) (x := a1) 1 rfl rfl dX0_writeView_0 ?_
  refine g_iconst (pc := 1) (v := (0 : Int32)) ic_0 dX0_writeView_1 ?_
  refine g_aload_n (pc := 2) (x := a0) 0 rfl rfl dX0_writeView_2 ?_
  refine g_bVXi (pc := 3) (y := yX1_writeView) (ws := ws_ yX1_writeView cX1_writeView 3 (some .int)) (fr := 8) (lo := 174) (as := []) (st := [gi (0 : Int32), gr a1]) rfl (fun _ _ _ e => tX1_writeView hs e) (fun K _ _ _ hq hM R e1 e2 => g_runV (M := mX0_writeView) (pc := 3) (y := yX1_writeView) (bytes := cX1_writeView) (maxL := 3) (ret := (some .int)) (fr := 8) (lo := 174) (as := []) (st := [gi (0 : Int32), gr a1]) hq (C := "FlareSlopes") rfl gy_X1_writeView (gbl rfl) (gbl rfl) (gbl rfl) q3733 q3734 q3735 dX0_writeView_3 K hM R e1 e2) (fun v1 h2 => ?_) (fun q5 h6 => ?_)
  · refine g_i2l (pc := 6) dX0_writeView_6 ?_
    refine g_lastore (pc := 7) rfl dX0_writeView_7 fun h3 => ?_
    refine g_goto (pc := 8) (tgt := 14) rfl dX0_writeView_8 ?_
    refine g_iconst (pc := 14) (v := (0 : Int32)) ic_0 dX0_writeView_14 ?_
    exact g_ireturn (pc := 15) rfl dX0_writeView_15
  refine g_catch (E := "java/lang/IllegalStateException") [] ⟨0, 8, 11, 21⟩ [] rfl rfl (List.forall_mem_nil _) (by decide +kernel) (by decide +kernel) q1425 q1439 ?_ ?_
  · refine g_astore_n (pc := 11) (lv' := []) [] rfl rfl (gblt rfl) dX0_writeView_11 ?_
    refine g_iconst (pc := 12) (v := (1 : Int32)) ic_1 dX0_writeView_12 ?_
    exact g_ireturn (pc := 13) rfl dX0_writeView_13
  exact g_noneX
/-! FlareSlopesModel.writeView()I -/
noncomputable def bX2_writeView_16 (G : GG) (N : Nat) (a0 : Option Nat) (j6 : (Unit) → Hp → Out (Int32)) (w10 : (Int32) → Hp → Out (Int32)) (x8 : Int32) (h9 : Hp) : Out (Int32) :=
  gFr h9 a0 18 1 fun v11 =>
  gAi h9 v11 0 (6 : Int32) fun v12 =>
  if v12 ≤ x8 then (j6 () h9)
  else gJ (fun (x13 : Unit) (h14 : Hp) =>
  bV h14 a0 18 (fun q29 => sX2_writesName G N (some q29) x8 h14) fun v16 h17 =>
  bV h17 a0 18 (fun q28 => sX2_writesByte G N (some q28) (61 : Int32) h17) fun v18 h19 =>
  bV h19 a0 18 (fun q27 => sX2_seen G N (some q27) x8 h19) fun v20 h21 =>
  bnd (sX2_bits G N v20 h21) fun v22 h23 =>
  bV h23 a0 18 (fun q26 => sX2_writesNumber_d6 G N (some q26) v22 h23) fun v24 h25 =>
  w10 (x8 + (1 : Int32)) h25) fun j15 =>
  if x8 ≤ 0 then (j15 () h9)
  else bV h9 a0 18 (fun q32 => sX2_writesByte G N (some q32) (44 : Int32) h9) fun v30 h31 =>
  j15 () h31
noncomputable def sX2_writeView (G : GG) (N : Nat) (a0 : Option Nat) (h : Hp) : Out (Int32) :=
  bV h a0 18 (fun q33 => sX2_mayAsk G N (some q33) h) fun v1 h2 =>
  if v1 = 0 then (some (.inl (0 : Int32), h2))
  else gP G h2 a0 18 21 (.int (0 : Int32)) fun h3 =>
  gJ (fun (x4 : Unit) (h5 : Hp) =>
  gFi h5 a0 18 21 fun v7 =>
  some (.inl v7, h5)) fun j6 =>
  gLp (bX2_writeView_16 G N a0 j6) N (0 : Int32) h3
abbrev mX2_writeView : MI := (RX2, cX2_writeView, 2, (some .int), [], 8, 168, "writeView")
theorem tX2_writeView {G : GG} {l : Launch} (hs : l.stackTraces = false) {N : Nat} {a0 : Option Nat} {h : Hp} {r : Int32 ⊕ Nat} {hf : Hp} (ho : sX2_writeView G N a0 h = some (r, hf)) : gMet G l yX2_writeView (ws_ yX2_writeView cX2_writeView 2 (some .int)) 8 168 [gr a0] h cvI r hf := by
  refine gMet.of ho hs (plainFor_of_name pn_X2) rfl rfl (gbl rfl) fun X => ?_
  show gT G l X mX2_writeView cvI r hf 0 [(0, gr a0)] [] h (sX2_writeView G N a0 h)
  delta sX2_writeView
  refine g_aload_n (pc := 0) (x := a0) 0 rfl rfl dX2_writeView_0 ?_
  refine g_bVi (pc := 1) (y := yX2_mayAsk) (ws := ws_ yX2_mayAsk cX2_mayAsk 1 (some .boolean)) (fr := 1) (lo := 23) (as := []) (st := []) (g_no) rfl (fun _ _ _ e => tX2_mayAsk hs e) (fun K _ _ _ hq hM R e1 e2 => g_runV (M := mX2_writeView) (pc := 1) (y := yX2_mayAsk) (bytes := cX2_mayAsk) (maxL := 1) (ret := (some .boolean)) (fr := 1) (lo := 23) (as := []) (st := []) hq (C := "FlareSlopesModel") rfl gy_X2_mayAsk (gbl rfl) (gbl rfl) (gbl rfl) q4300 q4302 qs102 dX2_writeView_1 K hM R e1 e2) fun v1 h2 => ?_
  refine g_if_ne (pc := 4) (tgt := 9) rfl dX2_writeView_4 ?_ ?_
  · refine g_iconst (pc := 7) (v := (0 : Int32)) ic_0 dX2_writeView_7 ?_
    exact g_ireturn (pc := 8) rfl dX2_writeView_8
  refine g_aload_n (pc := 9) (x := a0) 0 rfl rfl dX2_writeView_9 ?_
  refine g_iconst (pc := 10) (v := (0 : Int32)) ic_0 dX2_writeView_10 ?_
  refine g_put (pc := 11) k_18 (gblt rfl) lk_X2_377_18 rfl rfl (gNi _) dX2_writeView_11 fun h3 => ?_
  refine g_iconst (pc := 14) (v := (0 : Int32)) ic_0 dX2_writeView_14 ?_
  refine g_istore_n (pc := 15) (lv' := [(1, gi (0 : Int32)), (0, gr a0)]) [0, 1] rfl rfl (gblt rfl) dX2_writeView_15 ?_
  refine g_join 66 (fun (x4 : Unit) => [(0, gr a0)]) (fun (x4 : Unit) => []) (fun x4 h5 => ?_) (fun j6 Hj6 => ?_)
  · refine g_aload_n (pc := 66) (x := a0) 0 rfl rfl dX2_writeView_66 ?_
    refine g_getfi (pc := 67) k_18 (gblt rfl) lk_X2_377_18 dX2_writeView_67 fun v7 => ?_
    exact g_ireturn (pc := 70) rfl dX2_writeView_70
  refine g_sub (lv' := [(0, gr a0), (1, gi (0 : Int32))]) [1, 0] rfl ?_
  refine g_loop (pc := 16) (fun (x8 : Int32) => [(0, gr a0), (1, gi x8)]) (fun (_ : Int32) => []) (fun w10 Hw10 x8 h9 => ?_) N (0 : Int32) h3
  delta bX2_writeView_16
  refine g_iload_n (pc := 16) (x := x8) 1 rfl rfl dX2_writeView_16 ?_
  refine g_aload_n (pc := 17) (x := a0) 0 rfl rfl dX2_writeView_17 ?_
  refine g_getfr (pc := 18) k_18 (gblt rfl) lk_X2_9_18 dX2_writeView_18 fun v11 => ?_
  refine g_bipush (pc := 21) (v := (6 : Int32)) bc_6 dX2_writeView_21 ?_
  refine g_iaload (pc := 23) rfl dX2_writeView_23 fun v12 => ?_
  refine g_icmp_ge (pc := 24) (tgt := 66) rfl dX2_writeView_24 ?_ ?_
  · exact g_sub [0] rfl (Hj6 () h9)
  refine g_iload_n (pc := 27) (x := x8) 1 rfl rfl dX2_writeView_27 ?_
  refine g_join 37 (fun (x13 : Unit) => [(0, gr a0), (1, gi x8)]) (fun (x13 : Unit) => []) (fun x13 h14 => ?_) (fun j15 Hj15 => ?_)
  · refine g_aload_n (pc := 37) (x := a0) 0 rfl rfl dX2_writeView_37 ?_
    refine g_iload_n (pc := 38) (x := x8) 1 rfl rfl dX2_writeView_38 ?_
    refine g_bVu (pc := 39) (y := yX2_writesName) (ws := ws_ yX2_writesName cX2_writesName 6 none) (fr := 1) (lo := 21) (as := [gi x8]) (st := []) (g_no) rfl (fun _ _ _ e => tX2_writesName hs e) (fun K _ _ _ hq hM R e1 e2 => g_runV (M := mX2_writeView) (pc := 39) (y := yX2_writesName) (bytes := cX2_writesName) (maxL := 6) (ret := none) (fr := 1) (lo := 21) (as := [gi x8]) (st := []) hq (C := "FlareSlopesModel") rfl gy_X2_writesName (gbl rfl) (gbl rfl) (gbl rfl) q4526 q4528 qs122 dX2_writeView_39 K hM R e1 e2) fun v16 h17 => ?_
    refine g_aload_n (pc := 42) (x := a0) 0 rfl rfl dX2_writeView_42 ?_
    refine g_bipush (pc := 43) (v := (61 : Int32)) bc_61 dX2_writeView_43 ?_
    refine g_bVu (pc := 45) (y := yX2_writesByte) (ws := ws_ yX2_writesByte cX2_writesByte 2 none) (fr := 0) (lo := 0) (as := [gi (61 : Int32)]) (st := []) (g_no) rfl (fun _ _ _ e => tX2_writesByte hs e) (fun K _ _ _ hq hM R e1 e2 => g_runV (M := mX2_writeView) (pc := 45) (y := yX2_writesByte) (bytes := cX2_writesByte) (maxL := 2) (ret := none) (fr := 0) (lo := 0) (as := [gi (61 : Int32)]) (st := []) hq (C := "FlareSlopesModel") rfl gy_X2_writesByte (gbl rfl) (gbl rfl) (gbl rfl) q4531 q4533 qs123 dX2_writeView_45 K hM R e1 e2) fun v18 h19 => ?_
    refine g_aload_n (pc := 48) (x := a0) 0 rfl rfl dX2_writeView_48 ?_
    refine g_aload_n (pc := 49) (x := a0) 0 rfl rfl dX2_writeView_49 ?_
    refine g_iload_n (pc := 50) (x := x8) 1 rfl rfl dX2_writeView_50 ?_
    refine g_bVi (pc := 51) (y := yX2_seen) (ws := ws_ yX2_seen cX2_seen 4 (some .int)) (fr := 4) (lo := 93) (as := [gi x8]) (st := [gr a0]) (g_no) rfl (fun _ _ _ e => tX2_seen hs e) (fun K _ _ _ hq hM R e1 e2 => g_runV (M := mX2_writeView) (pc := 51) (y := yX2_seen) (bytes := cX2_seen) (maxL := 4) (ret := (some .int)) (fr := 4) (lo := 93) (as := [gi x8]) (st := [gr a0]) hq (C := "FlareSlopesModel") rfl gy_X2_seen (gbl rfl) (gbl rfl) (gbl rfl) q4328 q4330 qs106 dX2_writeView_51 K hM R e1 e2) fun v20 h21 => ?_
    refine g_bi (pc := 54) (y := yX2_bits) (ws := ws_ yX2_bits cX2_bits 3 (some .int)) (fr := 0) (lo := 0) (as := [gi v20]) (st := [gr a0]) (g_no) rfl (fun _ _ e => tX2_bits hs e) (fun K _ _ hM R e1 e2 => g_runS (M := mX2_writeView) (pc := 54) (y := yX2_bits) (bytes := cX2_bits) (maxL := 3) (ret := (some .int)) (fr := 0) (lo := 0) (as := [gi v20]) (st := [gr a0]) gy_X2_bits (gbl rfl) (gbl rfl) (gbl rfl) q4260 q4261 dX2_writeView_54 K hM R e1 e2) fun v22 h23 => ?_
    refine g_bVu (pc := 57) (y := yX2_writesNumber) (ws := ws_ yX2_writesNumber cX2_writesNumber 2 none) (fr := 7) (lo := 147) (as := [gi v22]) (st := []) (g_no) rfl (fun _ _ _ e => tX2_writesNumber_d6 hs e) (fun K _ _ _ hq hM R e1 e2 => g_runV (M := mX2_writeView) (pc := 57) (y := yX2_writesNumber) (bytes := cX2_writesNumber) (maxL := 2) (ret := none) (fr := 7) (lo := 147) (as := [gi v22]) (st := []) hq (C := "FlareSlopesModel") rfl gy_X2_writesNumber (gbl rfl) (gbl rfl) (gbl rfl) q4539 q4541 qs124 dX2_writeView_57 K hM R e1 e2) fun v24 h25 => ?_
    refine g_iinc (pc := 60) (v := x8 + (1 : Int32)) 1 rfl (ii_1 _) (lv' := [(1, gi (x8 + (1 : Int32))), (0, gr a0)]) [0, 1] rfl (gblt rfl) dX2_writeView_60 ?_
    refine g_goto (pc := 63) (tgt := 16) rfl dX2_writeView_63 ?_
    exact g_sub [1, 0] rfl (Hw10 (x8 + (1 : Int32)) h25)
  refine g_if_le (pc := 28) (tgt := 37) rfl dX2_writeView_28 ?_ ?_
  · exact Hj15 () h9
  refine g_aload_n (pc := 31) (x := a0) 0 rfl rfl dX2_writeView_31 ?_
  refine g_bipush (pc := 32) (v := (44 : Int32)) bc_44 dX2_writeView_32 ?_
  refine g_bVu (pc := 34) (y := yX2_writesByte) (ws := ws_ yX2_writesByte cX2_writesByte 2 none) (fr := 0) (lo := 0) (as := [gi (44 : Int32)]) (st := []) (g_no) rfl (fun _ _ _ e => tX2_writesByte hs e) (fun K _ _ _ hq hM R e1 e2 => g_runV (M := mX2_writeView) (pc := 34) (y := yX2_writesByte) (bytes := cX2_writesByte) (maxL := 2) (ret := none) (fr := 0) (lo := 0) (as := [gi (44 : Int32)]) (st := []) hq (C := "FlareSlopesModel") rfl gy_X2_writesByte (gbl rfl) (gbl rfl) (gbl rfl) q4531 q4533 qs123 dX2_writeView_34 K hM R e1 e2) fun v30 h31 => ?_
  exact Hj15 () h31
/-! FlareSlopes.textByte(I)I -/
noncomputable def sX1_textByte (G : GG) (N : Nat) (a0 : Option Nat) (a1 : Int32) (h : Hp) : Out (Int32) :=
  gFr h a0 3 7 fun v1 =>
  bV h v1 21 (fun q10 => sJ3_length G N (some q10) h) fun v2 h3 =>
  bnd (sX1_checkIndex G N a1 v2 h3) fun v4 h5 =>
  gFr h5 a0 3 7 fun v6 =>
  bV h5 v6 21 (fun q9 => sJ3_charAt G N (some q9) a1 h5) fun v7 h8 =>
  some (.inl v7, h8)
abbrev mX1_textByte : MI := (RX1, cX1_textByte, 2, (some .int), [], 7, 102, "textByte")
theorem tX1_textByte {G : GG} {l : Launch} (hs : l.stackTraces = false) {N : Nat} {a0 : Option Nat} {a1 : Int32} {h : Hp} {r : Int32 ⊕ Nat} {hf : Hp} (ho : sX1_textByte G N a0 a1 h = some (r, hf)) : gMet G l yX1_textByte (ws_ yX1_textByte cX1_textByte 2 (some .int)) 7 102 [gr a0, gi a1] h cvI r hf := by
  refine gMet.of ho hs (plainFor_of_name pn_X1) rfl rfl (gbl rfl) fun X => ?_
  show gT G l X mX1_textByte cvI r hf 0 [(0, gr a0), (1, gi a1)] [] h (sX1_textByte G N a0 a1 h)
  delta sX1_textByte
  refine g_iload_n (pc := 0) (x := a1) 1 rfl rfl dX1_textByte_0 ?_
  refine g_aload_n (pc := 1) (x := a0) 0 rfl rfl dX1_textByte_1 ?_
  refine g_getfr (pc := 2) k_3 (gblt rfl) lk_X1_39_3 dX1_textByte_2 fun v1 => ?_
  refine g_bVi (pc := 5) (y := yJ3_length) (ws := ws_ yJ3_length cJ3_length 1 (some .int)) (fr := 1) (lo := 20) (as := []) (st := [gi a1]) (g_no) rfl (fun _ _ _ e => tJ3_length hs e) (fun K _ _ _ hq hM R e1 e2 => g_runV (M := mX1_textByte) (pc := 5) (y := yJ3_length) (bytes := cJ3_length) (maxL := 1) (ret := (some .int)) (fr := 1) (lo := 20) (as := []) (st := [gi a1]) hq (C := "java/lang/StringBuilder") rfl gy_J3_length (gbl rfl) (gbl rfl) (gbl rfl) q3721 q735 q4643 dX1_textByte_5 K hM R e1 e2) fun v2 h3 => ?_
  refine g_bu (pc := 8) (y := yX1_checkIndex) (ws := ws_ yX1_checkIndex cX1_checkIndex 2 none) (fr := 6) (lo := 81) (as := [gi a1, gi v2]) (st := []) (g_no) rfl (fun _ _ e => tX1_checkIndex hs e) (fun K _ _ hM R e1 e2 => g_runS (M := mX1_textByte) (pc := 8) (y := yX1_checkIndex) (bytes := cX1_checkIndex) (maxL := 2) (ret := none) (fr := 6) (lo := 81) (as := [gi a1, gi v2]) (st := []) gy_X1_checkIndex (gbl rfl) (gbl rfl) (gbl rfl) q410 q411 dX1_textByte_8 K hM R e1 e2) fun v4 h5 => ?_
  refine g_aload_n (pc := 11) (x := a0) 0 rfl rfl dX1_textByte_11 ?_
  refine g_getfr (pc := 12) k_3 (gblt rfl) lk_X1_39_3 dX1_textByte_12 fun v6 => ?_
  refine g_iload_n (pc := 15) (x := a1) 1 rfl rfl dX1_textByte_15 ?_
  refine g_bVi (pc := 16) (y := yJ3_charAt) (ws := ws_ yJ3_charAt cJ3_charAt 2 (some .char)) (fr := 3) (lo := 67) (as := [gi a1]) (st := []) (g_no) rfl (fun _ _ _ e => tJ3_charAt hs e) (fun K _ _ _ hq hM R e1 e2 => g_runV (M := mX1_textByte) (pc := 16) (y := yJ3_charAt) (bytes := cJ3_charAt) (maxL := 2) (ret := (some .char)) (fr := 3) (lo := 67) (as := [gi a1]) (st := []) hq (C := "java/lang/StringBuilder") rfl gy_J3_charAt (gbl rfl) (gbl rfl) (gbl rfl) q3744 q1050 q4644 dX1_textByte_16 K hM R e1 e2) fun v7 h8 => ?_
  exact g_ireturn (pc := 19) rfl dX1_textByte_19
/-! FlareSlopesLaw.textByte(LFlareSlopes;I[J)I -/
noncomputable def sX0_textByte (G : GG) (N : Nat) (a0 : Option Nat) (a1 : Int32) (a2 : Option Nat) (h : Hp) : Out (Int32) :=
  bVX h a0 3 (fun q4 => sX1_textByte G N (some q4) a1 h) (fun v1 h2 =>
  gSl G h2 a2 3 (0 : Int32) (v1.toInt64) fun h3 =>
  some (.inl (0 : Int32), h3)) fun q5 h6 =>
  gSw h6 (some q5) 2 (some (.inl (1 : Int32), h6)) (none)
abbrev mX0_textByte : MI := (RX0, cX0_textByte, 4, (some .int), [(0, 9, 12, 13)], 8, 123, "textByte")
theorem tX0_textByte {G : GG} {l : Launch} (hs : l.stackTraces = false) {N : Nat} {a0 : Option Nat} {a1 : Int32} {a2 : Option Nat} {h : Hp} {r : Int32 ⊕ Nat} {hf : Hp} (ho : sX0_textByte G N a0 a1 a2 h = some (r, hf)) : gMet G l yX0_textByte (wsW_ yX0_textByte cX0_textByte 4 (some .int) [(0, 9, 12, 13)]) 8 123 [gr a0, gi a1, gr a2] h cvI r hf := by
  refine gMet.ofW ho hs (plainFor_of_name pn_X0) rfl rfl (gbl rfl) fun X => ?_
  show gT G l X mX0_textByte cvI r hf 0 [(0, gr a0), (1, gi a1), (2, gr a2)] [] h (sX0_textByte G N a0 a1 a2 h)
  delta sX0_textByte
  refine g_aload_n (pc := 0) (x := a2) 2 rfl rfl dX0_textByte_0 ?_
  refine g_iconst (pc := 1) (v := (0 : Int32)) ic_0 dX0_textByte_1 ?_
  refine g_aload_n (pc := 2) (x := a0) 0 rfl rfl dX0_textByte_2 ?_
  refine g_iload_n (pc := 3) (x := a1) 1 rfl rfl dX0_textByte_3 ?_
  refine g_bVXi (pc := 4) (y := yX1_textByte) (ws := ws_ yX1_textByte cX1_textByte 2 (some .int)) (fr := 7) (lo := 102) (as := [gi a1]) (st := [gi (0 : Int32), gr a2]) rfl (fun _ _ _ e => tX1_textByte hs e) (fun K _ _ _ hq hM R e1 e2 => g_runV (M := mX0_textByte) (pc := 4) (y := yX1_textByte) (bytes := cX1_textByte) (maxL := 2) (ret := (some .int)) (fr := 7) (lo := 102) (as := [gi a1]) (st := [gi (0 : Int32), gr a2]) hq (C := "FlareSlopes") rfl gy_X1_textByte (gbl rfl) (gbl rfl) (gbl rfl) q3740 q3741 q3742 dX0_textByte_4 K hM R e1 e2) (fun v1 h2 => ?_) (fun q5 h6 => ?_)
  · refine g_i2l (pc := 7) dX0_textByte_7 ?_
    refine g_lastore (pc := 8) rfl dX0_textByte_8 fun h3 => ?_
    refine g_goto (pc := 9) (tgt := 15) rfl dX0_textByte_9 ?_
    refine g_iconst (pc := 15) (v := (0 : Int32)) ic_0 dX0_textByte_15 ?_
    exact g_ireturn (pc := 16) rfl dX0_textByte_16
  refine g_catch (E := "java/lang/IndexOutOfBoundsException") [] ⟨0, 9, 12, 13⟩ [] rfl rfl (List.forall_mem_nil _) (by decide +kernel) (by decide +kernel) q325 q418 ?_ ?_
  · refine g_astore_n (pc := 12) (lv' := []) [] rfl rfl (gblt rfl) dX0_textByte_12 ?_
    refine g_iconst (pc := 13) (v := (1 : Int32)) ic_1 dX0_textByte_13 ?_
    exact g_ireturn (pc := 14) rfl dX0_textByte_14
  exact g_noneX
/-! FlareSlopesModel.textByte(I)I -/
noncomputable def sX2_textByte (G : GG) (N : Nat) (a0 : Option Nat) (a1 : Int32) (h : Hp) : Out (Int32) :=
  gFi h a0 18 21 fun v1 =>
  bnd (sX2_in G N a1 (0 : Int32) (v1 - (1 : Int32)) h) fun v2 h3 =>
  bV h3 a0 18 (fun q8 => sX2_may G N (some q8) v2 (1 : Int32) (1 : Int32) h3) fun v4 h5 =>
  if v4 = 0 then (some (.inl (0 : Int32), h5))
  else gFr h5 a0 18 20 fun v6 =>
  gAi h5 v6 1 a1 fun v7 =>
  some (.inl v7, h5)
abbrev mX2_textByte : MI := (RX2, cX2_textByte, 2, (some .int), [], 1, 23, "textByte")
theorem tX2_textByte {G : GG} {l : Launch} (hs : l.stackTraces = false) {N : Nat} {a0 : Option Nat} {a1 : Int32} {h : Hp} {r : Int32 ⊕ Nat} {hf : Hp} (ho : sX2_textByte G N a0 a1 h = some (r, hf)) : gMet G l yX2_textByte (ws_ yX2_textByte cX2_textByte 2 (some .int)) 1 23 [gr a0, gi a1] h cvI r hf := by
  refine gMet.of ho hs (plainFor_of_name pn_X2) rfl rfl (gbl rfl) fun X => ?_
  show gT G l X mX2_textByte cvI r hf 0 [(0, gr a0), (1, gi a1)] [] h (sX2_textByte G N a0 a1 h)
  delta sX2_textByte
  refine g_aload_n (pc := 0) (x := a0) 0 rfl rfl dX2_textByte_0 ?_
  refine g_iload_n (pc := 1) (x := a1) 1 rfl rfl dX2_textByte_1 ?_
  refine g_iconst (pc := 2) (v := (0 : Int32)) ic_0 dX2_textByte_2 ?_
  refine g_aload_n (pc := 3) (x := a0) 0 rfl rfl dX2_textByte_3 ?_
  refine g_getfi (pc := 4) k_18 (gblt rfl) lk_X2_377_18 dX2_textByte_4 fun v1 => ?_
  refine g_iconst (pc := 7) (v := (1 : Int32)) ic_1 dX2_textByte_7 ?_
  refine g_isub (pc := 8) dX2_textByte_8 ?_
  refine g_bi (pc := 9) (y := yX2_in) (ws := ws_ yX2_in cX2_in 3 (some .boolean)) (fr := 0) (lo := 0) (as := [gi a1, gi (0 : Int32), gi (v1 - (1 : Int32))]) (st := [gr a0]) (g_no) rfl (fun _ _ e => tX2_in hs e) (fun K _ _ hM R e1 e2 => g_runS (M := mX2_textByte) (pc := 9) (y := yX2_in) (bytes := cX2_in) (maxL := 3) (ret := (some .boolean)) (fr := 0) (lo := 0) (as := [gi a1, gi (0 : Int32), gi (v1 - (1 : Int32))]) (st := [gr a0]) gy_X2_in (gbl rfl) (gbl rfl) (gbl rfl) q4037 q4038 dX2_textByte_9 K hM R e1 e2) fun v2 h3 => ?_
  refine g_iconst (pc := 12) (v := (1 : Int32)) ic_1 dX2_textByte_12 ?_
  refine g_iconst (pc := 13) (v := (1 : Int32)) ic_1 dX2_textByte_13 ?_
  refine g_bVi (pc := 14) (y := yX2_may) (ws := ws_ yX2_may cX2_may 4 (some .boolean)) (fr := 0) (lo := 0) (as := [gi v2, gi (1 : Int32), gi (1 : Int32)]) (st := []) (g_no) rfl (fun _ _ _ e => tX2_may hs e) (fun K _ _ _ hq hM R e1 e2 => g_runV (M := mX2_textByte) (pc := 14) (y := yX2_may) (bytes := cX2_may) (maxL := 4) (ret := (some .boolean)) (fr := 0) (lo := 0) (as := [gi v2, gi (1 : Int32), gi (1 : Int32)]) (st := []) hq (C := "FlareSlopesModel") rfl gy_X2_may (gbl rfl) (gbl rfl) (gbl rfl) q4040 q4042 qs54 dX2_textByte_14 K hM R e1 e2) fun v4 h5 => ?_
  refine g_if_eq (pc := 17) (tgt := 29) rfl dX2_textByte_17 ?_ ?_
  · refine g_iconst (pc := 29) (v := (0 : Int32)) ic_0 dX2_textByte_29 ?_
    exact g_ireturn (pc := 30) rfl dX2_textByte_30
  refine g_aload_n (pc := 20) (x := a0) 0 rfl rfl dX2_textByte_20 ?_
  refine g_getfr (pc := 21) k_18 (gblt rfl) lk_X2_41_18 dX2_textByte_21 fun v6 => ?_
  refine g_iload_n (pc := 24) (x := a1) 1 rfl rfl dX2_textByte_24 ?_
  refine g_baload (pc := 25) rfl dX2_textByte_25 fun v7 => ?_
  refine g_goto (pc := 26) (tgt := 30) rfl dX2_textByte_26 ?_
  exact g_ireturn (pc := 30) rfl dX2_textByte_30
/-! java/util/ArrayDeque.elementAt([Ljava/lang/Object;I)Ljava/lang/Object; -/
noncomputable def sJ1_elementAt (G : GG) (N : Nat) (a0 : Option Nat) (a1 : Int32) (h : Hp) : Out (Option Nat) :=
  gAr h a0 5 a1 fun v1 =>
  some (.inl v1, h)
abbrev mJ1_elementAt : MI := (RJ1, cJ1_elementAt, 2, (some (.object "java/lang/Object")), [], 0, 0, "elementAt")
theorem tJ1_elementAt {G : GG} {l : Launch} (hs : l.stackTraces = false) {N : Nat} {a0 : Option Nat} {a1 : Int32} {h : Hp} {r : Option Nat ⊕ Nat} {hf : Hp} (ho : sJ1_elementAt G N a0 a1 h = some (r, hf)) : gMet G l yJ1_elementAt (ws_ yJ1_elementAt cJ1_elementAt 2 (some (.object "java/lang/Object"))) 0 0 [gr a0, gi a1] h cvR r hf := by
  refine gMet.of ho hs (plainFor_of_name pn_J1) rfl rfl (gbl rfl) fun X => ?_
  show gT G l X mJ1_elementAt cvR r hf 0 [(0, gr a0), (1, gi a1)] [] h (sJ1_elementAt G N a0 a1 h)
  delta sJ1_elementAt
  refine g_aload_n (pc := 0) (x := a0) 0 rfl rfl dJ1_elementAt_0 ?_
  refine g_iload_n (pc := 1) (x := a1) 1 rfl rfl dJ1_elementAt_1 ?_
  refine g_aaload (pc := 2) rfl dJ1_elementAt_2 fun v1 => ?_
  exact g_areturn (pc := 3) rfl (Or.inl ⟨_, rfl⟩) dJ1_elementAt_3
/-! java/util/ArrayDeque.pollFirst()Ljava/lang/Object; -/
noncomputable def sJ1_pollFirst (G : GG) (N : Nat) (a0 : Option Nat) (h : Hp) : Out (Option Nat) :=
  gFr h a0 22 0 fun v1 =>
  gFi h a0 22 1 fun v2 =>
  bnd (sJ1_elementAt G N v1 v2 h) fun v3 h4 =>
  if v3 = none then (some (.inl v3, h4))
  else gSr G h4 v1 5 asl_java_lang_Object v2 none fun h5 =>
  gLen h5 v1 fun v6 =>
  bnd (sJ1_inc G N v2 v6 h5) fun v7 h8 =>
  gP G h8 a0 22 1 (.int v7) fun h9 =>
  some (.inl v3, h9)
abbrev mJ1_pollFirst : MI := (RJ1, cJ1_pollFirst, 4, (some (.object "java/lang/Object")), [], 1, 21, "pollFirst")
theorem tJ1_pollFirst {G : GG} {l : Launch} (hs : l.stackTraces = false) {N : Nat} {a0 : Option Nat} {h : Hp} {r : Option Nat ⊕ Nat} {hf : Hp} (ho : sJ1_pollFirst G N a0 h = some (r, hf)) : gMet G l yJ1_pollFirst (ws_ yJ1_pollFirst cJ1_pollFirst 4 (some (.object "java/lang/Object"))) 1 21 [gr a0] h cvR r hf := by
  refine gMet.of ho hs (plainFor_of_name pn_J1) rfl rfl (gbl rfl) fun X => ?_
  show gT G l X mJ1_pollFirst cvR r hf 0 [(0, gr a0)] [] h (sJ1_pollFirst G N a0 h)
  delta sJ1_pollFirst
  refine g_aload_n (pc := 0) (x := a0) 0 rfl rfl dJ1_pollFirst_0 ?_
  refine g_getfr (pc := 1) k_22 (gblt rfl) lk_J1_3_22 dJ1_pollFirst_1 fun v1 => ?_
  refine g_dup (pc := 4) rfl dJ1_pollFirst_4 ?_
  refine g_astore_n (pc := 5) (lv' := [(1, gr v1), (0, gr a0)]) [0, 1] rfl rfl (gblt rfl) dJ1_pollFirst_5 ?_
  refine g_aload_n (pc := 6) (x := a0) 1 rfl rfl dJ1_pollFirst_6 ?_
  refine g_getfi (pc := 7) k_22 (gblt rfl) lk_J1_24_22 dJ1_pollFirst_7 fun v2 => ?_
  refine g_dup (pc := 10) rfl dJ1_pollFirst_10 ?_
  refine g_istore_n (pc := 11) (lv' := [(2, gi v2), (1, gr v1), (0, gr a0)]) [0, 1, 2] rfl rfl (gblt rfl) dJ1_pollFirst_11 ?_
  refine g_br (pc := 12) (y := yJ1_elementAt) (ws := ws_ yJ1_elementAt cJ1_elementAt 2 (some (.object "java/lang/Object"))) (fr := 0) (lo := 0) (as := [gr v1, gi v2]) (st := []) (g_no) rfl (fun _ _ e => tJ1_elementAt hs e) (fun K _ _ hM R e1 e2 => g_runS (M := mJ1_pollFirst) (pc := 12) (y := yJ1_elementAt) (bytes := cJ1_elementAt) (maxL := 2) (ret := (some (.object "java/lang/Object"))) (fr := 0) (lo := 0) (as := [gr v1, gi v2]) (st := []) gy_J1_elementAt (gbl rfl) (gbl rfl) (gbl rfl) q3764 q3765 dJ1_pollFirst_12 K hM R e1 e2) fun v3 h4 => ?_
  refine g_astore_n (pc := 15) (lv' := [(3, gr v3), (2, gi v2), (1, gr v1), (0, gr a0)]) [0, 1, 2, 3] rfl rfl (gblt rfl) dJ1_pollFirst_15 ?_
  refine g_aload_n (pc := 16) (x := v3) 0 rfl rfl dJ1_pollFirst_16 ?_
  refine g_ifnull (pc := 17) (tgt := 34) rfl dJ1_pollFirst_17 ?_ ?_
  · refine g_aload_n (pc := 34) (x := v3) 0 rfl rfl dJ1_pollFirst_34 ?_
    exact g_areturn (pc := 35) rfl (Or.inl ⟨_, rfl⟩) dJ1_pollFirst_35
  refine g_aload_n (pc := 20) (x := v1) 2 rfl rfl dJ1_pollFirst_20 ?_
  refine g_iload_n (pc := 21) (x := v2) 1 rfl rfl dJ1_pollFirst_21 ?_
  refine g_aconst_null (pc := 22) dJ1_pollFirst_22 ?_
  refine g_aastore (pc := 23) rfl asl_java_lang_Object_ok dJ1_pollFirst_23 fun h5 => ?_
  refine g_aload_n (pc := 24) (x := a0) 3 rfl rfl dJ1_pollFirst_24 ?_
  refine g_iload_n (pc := 25) (x := v2) 1 rfl rfl dJ1_pollFirst_25 ?_
  refine g_aload_n (pc := 26) (x := v1) 2 rfl rfl dJ1_pollFirst_26 ?_
  refine g_alen (pc := 27) dJ1_pollFirst_27 fun v6 => ?_
  refine g_bi (pc := 28) (y := yJ1_inc) (ws := ws_ yJ1_inc cJ1_inc 2 (some .int)) (fr := 0) (lo := 0) (as := [gi v2, gi v6]) (st := [gr a0]) (g_no) rfl (fun _ _ e => tJ1_inc hs e) (fun K _ _ hM R e1 e2 => g_runS (M := mJ1_pollFirst) (pc := 28) (y := yJ1_inc) (bytes := cJ1_inc) (maxL := 2) (ret := (some .int)) (fr := 0) (lo := 0) (as := [gi v2, gi v6]) (st := [gr a0]) gy_J1_inc (gbl rfl) (gbl rfl) (gbl rfl) q3501 q1549 dJ1_pollFirst_28 K hM R e1 e2) fun v7 h8 => ?_
  refine g_put (pc := 31) k_22 (gblt rfl) lk_J1_24_22 rfl rfl (gNi _) dJ1_pollFirst_31 fun h9 => ?_
  refine g_aload_n (pc := 34) (x := v3) 0 rfl rfl dJ1_pollFirst_34 ?_
  exact g_areturn (pc := 35) rfl (Or.inl ⟨_, rfl⟩) dJ1_pollFirst_35
/-! java/util/ArrayDeque.removeFirst()Ljava/lang/Object; -/
noncomputable def sJ1_removeFirst (G : GG) (N : Nat) (a0 : Option Nat) (h : Hp) : Out (Option Nat) :=
  bV h a0 22 (fun q3 => sJ1_pollFirst G N (some q3) h) fun v1 h2 =>
  if v1 = none then (none)
  else some (.inl v1, h2)
abbrev mJ1_removeFirst : MI := (RJ1, cJ1_removeFirst, 2, (some (.object "java/lang/Object")), [], 2, 44, "removeFirst")
theorem tJ1_removeFirst {G : GG} {l : Launch} (hs : l.stackTraces = false) {N : Nat} {a0 : Option Nat} {h : Hp} {r : Option Nat ⊕ Nat} {hf : Hp} (ho : sJ1_removeFirst G N a0 h = some (r, hf)) : gMet G l yJ1_removeFirst (ws_ yJ1_removeFirst cJ1_removeFirst 2 (some (.object "java/lang/Object"))) 2 44 [gr a0] h cvR r hf := by
  refine gMet.of ho hs (plainFor_of_name pn_J1) rfl rfl (gbl rfl) fun X => ?_
  show gT G l X mJ1_removeFirst cvR r hf 0 [(0, gr a0)] [] h (sJ1_removeFirst G N a0 h)
  delta sJ1_removeFirst
  refine g_aload_n (pc := 0) (x := a0) 0 rfl rfl dJ1_removeFirst_0 ?_
  refine g_bVr (pc := 1) (y := yJ1_pollFirst) (ws := ws_ yJ1_pollFirst cJ1_pollFirst 4 (some (.object "java/lang/Object"))) (fr := 1) (lo := 21) (as := []) (st := []) (g_no) rfl (fun _ _ _ e => tJ1_pollFirst hs e) (fun K _ _ _ hq hM R e1 e2 => g_runV (M := mJ1_removeFirst) (pc := 1) (y := yJ1_pollFirst) (bytes := cJ1_pollFirst) (maxL := 4) (ret := (some (.object "java/lang/Object"))) (fr := 1) (lo := 21) (as := []) (st := []) hq (C := "java/util/ArrayDeque") rfl gy_J1_pollFirst (gbl rfl) (gbl rfl) (gbl rfl) q3760 q3761 q3762 dJ1_removeFirst_1 K hM R e1 e2) fun v1 h2 => ?_
  refine g_astore_n (pc := 4) (lv' := [(1, gr v1)]) [0] rfl rfl (gblt rfl) dJ1_removeFirst_4 ?_
  refine g_aload_n (pc := 5) (x := v1) 0 rfl rfl dJ1_removeFirst_5 ?_
  refine g_ifnonnull (pc := 6) (tgt := 17) rfl dJ1_removeFirst_6 ?_ ?_
  · exact g_none
  refine g_aload_n (pc := 17) (x := v1) 0 rfl rfl dJ1_removeFirst_17 ?_
  exact g_areturn (pc := 18) rfl (Or.inl ⟨_, rfl⟩) dJ1_removeFirst_18
/-! FlareSlopes.change()LFlareSlopes$State; -/
noncomputable def sX1_change (G : GG) (N : Nat) (a0 : Option Nat) (h : Hp) : Out (Option Nat) :=
  gFr h a0 3 5 fun v1 =>
  bV h v1 22 (fun q24 => sJ1_size G N (some q24) h) fun v2 h3 =>
  gJ (fun (x4 : Unit) (h5 : Hp) =>
  gFr h5 a0 3 5 fun v7 =>
  gFr h5 a0 3 4 fun v8 =>
  bV h5 v7 22 (fun q19 => sJ1_addLast G N (some q19) v8 h5) fun v9 h10 =>
  gNew h10 16 [.null, .null, .null, .null, .int 0, .int 0, .int 0, .int 0, .int 0, .int 0, .int 0, .int 0, .null, .null] 14 fun v11 h12 =>
  gFr h12 a0 3 4 fun v13 =>
  bI v11 (fun q18 => sX3_init_2 G N (some q18) v13 h12) fun v14 h15 =>
  gP G h15 a0 3 4 (va_rf v11) fun h16 =>
  gFr h16 a0 3 4 fun v17 =>
  some (.inl v17, h16)) fun j6 =>
  if v2 = (8 : Int32) then (gFr h3 a0 3 5 fun v20 =>
  bV h3 v20 22 (fun q23 => sJ1_removeFirst G N (some q23) h3) fun v21 h22 =>
  j6 () h22)
  else j6 () h3
abbrev mX1_change : MI := (RX1, cX1_change, 1, (some (.object "FlareSlopes$State")), [], 8, 185, "change")
theorem tX1_change {G : GG} {l : Launch} (hs : l.stackTraces = false) {N : Nat} {a0 : Option Nat} {h : Hp} {r : Option Nat ⊕ Nat} {hf : Hp} (ho : sX1_change G N a0 h = some (r, hf)) : gMet G l yX1_change (ws_ yX1_change cX1_change 1 (some (.object "FlareSlopes$State"))) 8 185 [gr a0] h cvR r hf := by
  refine gMet.of ho hs (plainFor_of_name pn_X1) rfl rfl (gbl rfl) fun X => ?_
  show gT G l X mX1_change cvR r hf 0 [(0, gr a0)] [] h (sX1_change G N a0 h)
  delta sX1_change
  refine g_aload_n (pc := 0) (x := a0) 0 rfl rfl dX1_change_0 ?_
  refine g_getfr (pc := 1) k_3 (gblt rfl) lk_X1_26_3 dX1_change_1 fun v1 => ?_
  refine g_bVi (pc := 4) (y := yJ1_size) (ws := ws_ yJ1_size cJ1_size 1 (some .int)) (fr := 1) (lo := 22) (as := []) (st := []) (g_no) rfl (fun _ _ _ e => tJ1_size hs e) (fun K _ _ _ hq hM R e1 e2 => g_runV (M := mX1_change) (pc := 4) (y := yJ1_size) (bytes := cJ1_size) (maxL := 1) (ret := (some .int)) (fr := 1) (lo := 22) (as := []) (st := []) hq (C := "java/util/ArrayDeque") rfl gy_J1_size (gbl rfl) (gbl rfl) (gbl rfl) q315 q316 q317 dX1_change_4 K hM R e1 e2) fun v2 h3 => ?_
  refine g_bipush (pc := 7) (v := (8 : Int32)) bc_8 dX1_change_7 ?_
  refine g_join 20 (fun (x4 : Unit) => [(0, gr a0)]) (fun (x4 : Unit) => []) (fun x4 h5 => ?_) (fun j6 Hj6 => ?_)
  · refine g_aload_n (pc := 20) (x := a0) 0 rfl rfl dX1_change_20 ?_
    refine g_getfr (pc := 21) k_3 (gblt rfl) lk_X1_26_3 dX1_change_21 fun v7 => ?_
    refine g_aload_n (pc := 24) (x := a0) 0 rfl rfl dX1_change_24 ?_
    refine g_getfr (pc := 25) k_3 (gblt rfl) lk_X1_56_3 dX1_change_25 fun v8 => ?_
    refine g_bVu (pc := 28) (y := yJ1_addLast) (ws := ws_ yJ1_addLast cJ1_addLast 3 none) (fr := 1) (lo := 21) (as := [gr v8]) (st := []) (g_no) rfl (fun _ _ _ e => tJ1_addLast hs e) (fun K _ _ _ hq hM R e1 e2 => g_runV (M := mX1_change) (pc := 28) (y := yJ1_addLast) (bytes := cJ1_addLast) (maxL := 3) (ret := none) (fr := 1) (lo := 21) (as := [gr v8]) (st := []) hq (C := "java/util/ArrayDeque") rfl gy_J1_addLast (gbl rfl) (gbl rfl) (gbl rfl) q3767 q3498 q3499 dX1_change_28 K hM R e1 e2) fun v9 h10 => ?_
    refine g_aload_n (pc := 31) (x := a0) 0 rfl rfl dX1_change_31 ?_
    refine g_new (pc := 32) k_16 df_16 q233 q437 q141 dX1_change_32 fun v11 h12 => ?_
    refine g_dup (pc := 35) rfl dX1_change_35 ?_
    refine g_aload_n (pc := 36) (x := a0) 0 rfl rfl dX1_change_36 ?_
    refine g_getfr (pc := 37) k_3 (gblt rfl) lk_X1_56_3 dX1_change_37 fun v13 => ?_
    refine g_bIu (pc := 40) (y := yX3_init_2) (ws := ws_ yX3_init_2 cX3_init_2 4 none) (fr := 7) (lo := 162) (as := [gr v13]) (st := [gr v11, gr a0]) (g_no) rfl (fun _ _ _ e => tX3_init_2 hs e) (fun K _ _ _ hM R e1 e2 => g_runI (M := mX1_change) (pc := 40) (y := yX3_init_2) (bytes := cX3_init_2) (maxL := 4) (ret := none) (fr := 7) (lo := 162) (as := [gr v13]) (st := [gr v11, gr a0]) gy_X3_init_2 (gbl rfl) (gbl rfl) (gbl rfl) rfl q3466 q3467 rfl dX1_change_40 K hM R e1 e2) fun v14 h15 => ?_
    refine g_put (pc := 43) k_3 (gblt rfl) lk_X1_56_3 rfl rfl (gNr _ _) dX1_change_43 fun h16 => ?_
    refine g_aload_n (pc := 46) (x := a0) 0 rfl rfl dX1_change_46 ?_
    refine g_getfr (pc := 47) k_3 (gblt rfl) lk_X1_56_3 dX1_change_47 fun v17 => ?_
    exact g_areturn (pc := 50) rfl (Or.inl ⟨_, rfl⟩) dX1_change_50
  refine g_icmp_ne (pc := 9) (tgt := 20) rfl dX1_change_9 ?_ ?_
  rotate_left
  · exact Hj6 () h3
  refine g_aload_n (pc := 12) (x := a0) 0 rfl rfl dX1_change_12 ?_
  refine g_getfr (pc := 13) k_3 (gblt rfl) lk_X1_26_3 dX1_change_13 fun v20 => ?_
  refine g_bVr (pc := 16) (y := yJ1_removeFirst) (ws := ws_ yJ1_removeFirst cJ1_removeFirst 2 (some (.object "java/lang/Object"))) (fr := 2) (lo := 44) (as := []) (st := []) (g_no) rfl (fun _ _ _ e => tJ1_removeFirst hs e) (fun K _ _ _ hq hM R e1 e2 => g_runV (M := mX1_change) (pc := 16) (y := yJ1_removeFirst) (bytes := cJ1_removeFirst) (maxL := 2) (ret := (some (.object "java/lang/Object"))) (fr := 2) (lo := 44) (as := []) (st := []) hq (C := "java/util/ArrayDeque") rfl gy_J1_removeFirst (gbl rfl) (gbl rfl) (gbl rfl) q3756 q3757 q3758 dX1_change_16 K hM R e1 e2) fun v21 h22 => ?_
  refine g_pop (pc := 19) rfl dX1_change_19 ?_
  exact Hj6 () h22
/-! FlareSlopes.tick(I)I -/
noncomputable def sX1_tick (G : GG) (N : Nat) (a0 : Option Nat) (a1 : Int32) (h : Hp) : Out (Int32) :=
  bV h a0 3 (fun q25 => sX1_loaded G N (some q25) h) fun v1 h2 =>
  bnd (sX1_in G N a1 (1 : Int32) (100 : Int32) h2) fun v3 h4 =>
  gJ (fun (x5 : Int32) (h6 : Hp) =>
  bnd (sX1_checkArgument G N x5 h6) fun v8 h9 =>
  gFi h9 v1 16 6 fun v10 =>
  gFi h9 v1 16 7 fun v11 =>
  gLet (v10 + v11) fun v12 =>
  bV h9 a0 3 (fun q20 => sX1_change G N (some q20) h9) fun v13 h14 =>
  bV h14 v13 16 (fun q19 => sX3_ticks G N (some q19) a1 h14) fun v15 h16 =>
  gFi h16 v15 16 6 fun v17 =>
  gFi h16 v15 16 7 fun v18 =>
  some (.inl ((v17 + v18) - v12), h16)) fun j7 =>
  gJ (fun (x21 : Unit) (h22 : Hp) =>
  j7 (0 : Int32) h22) fun j23 =>
  if v3 = 0 then (j23 () h4)
  else gFi h4 v1 16 4 fun v24 =>
  if (5000 : Int32) < (v24 + a1) then (j23 () h4)
  else j7 (1 : Int32) h4
abbrev mX1_tick : MI := (RX1, cX1_tick, 5, (some .int), [], 9, 205, "tick")
theorem tX1_tick {G : GG} {l : Launch} (hs : l.stackTraces = false) {N : Nat} {a0 : Option Nat} {a1 : Int32} {h : Hp} {r : Int32 ⊕ Nat} {hf : Hp} (ho : sX1_tick G N a0 a1 h = some (r, hf)) : gMet G l yX1_tick (ws_ yX1_tick cX1_tick 5 (some .int)) 9 205 [gr a0, gi a1] h cvI r hf := by
  refine gMet.of ho hs (plainFor_of_name pn_X1) rfl rfl (gbl rfl) fun X => ?_
  show gT G l X mX1_tick cvI r hf 0 [(0, gr a0), (1, gi a1)] [] h (sX1_tick G N a0 a1 h)
  delta sX1_tick
  refine g_aload_n (pc := 0) (x := a0) 0 rfl rfl dX1_tick_0 ?_
  refine g_bVr (pc := 1) (y := yX1_loaded) (ws := ws_ yX1_loaded cX1_loaded 1 (some (.object "FlareSlopes$State"))) (fr := 7) (lo := 101) (as := []) (st := []) (g_no) rfl (fun _ _ _ e => tX1_loaded hs e) (fun K _ _ _ hq hM R e1 e2 => g_runV (M := mX1_tick) (pc := 1) (y := yX1_loaded) (bytes := cX1_loaded) (maxL := 1) (ret := (some (.object "FlareSlopes$State"))) (fr := 7) (lo := 101) (as := []) (st := []) hq (C := "FlareSlopes") rfl gy_X1_loaded (gbl rfl) (gbl rfl) (gbl rfl) q1430 q1432 qs17 dX1_tick_1 K hM R e1 e2) fun v1 h2 => ?_
  refine g_astore_n (pc := 4) (lv' := [(2, gr v1), (0, gr a0), (1, gi a1)]) [0, 1, 2] rfl rfl (gblt rfl) dX1_tick_4 ?_
  refine g_iload_n (pc := 5) (x := a1) 2 rfl rfl dX1_tick_5 ?_
  refine g_iconst (pc := 6) (v := (1 : Int32)) ic_1 dX1_tick_6 ?_
  refine g_bipush (pc := 7) (v := (100 : Int32)) bc_100 dX1_tick_7 ?_
  refine g_bi (pc := 9) (y := yX1_in) (ws := ws_ yX1_in cX1_in 3 (some .boolean)) (fr := 0) (lo := 0) (as := [gi a1, gi (1 : Int32), gi (100 : Int32)]) (st := []) (g_no) rfl (fun _ _ e => tX1_in hs e) (fun K _ _ hM R e1 e2 => g_runS (M := mX1_tick) (pc := 9) (y := yX1_in) (bytes := cX1_in) (maxL := 3) (ret := (some .boolean)) (fr := 0) (lo := 0) (as := [gi a1, gi (1 : Int32), gi (100 : Int32)]) (st := []) gy_X1_in (gbl rfl) (gbl rfl) (gbl rfl) q413 q414 dX1_tick_9 K hM R e1 e2) fun v3 h4 => ?_
  refine g_join 32 (fun (x5 : Int32) => [(0, gr a0), (1, gi a1), (2, gr v1)]) (fun (x5 : Int32) => [gi x5]) (fun x5 h6 => ?_) (fun j7 Hj7 => ?_)
  · refine g_bu (pc := 32) (y := yX1_checkArgument) (ws := ws_ yX1_checkArgument cX1_checkArgument 1 none) (fr := 6) (lo := 81) (as := [gi x5]) (st := []) (g_no) rfl (fun _ _ e => tX1_checkArgument hs e) (fun K _ _ hM R e1 e2 => g_runS (M := mX1_tick) (pc := 32) (y := yX1_checkArgument) (bytes := cX1_checkArgument) (maxL := 1) (ret := none) (fr := 6) (lo := 81) (as := [gi x5]) (st := []) gy_X1_checkArgument (gbl rfl) (gbl rfl) (gbl rfl) q1958 q1959 dX1_tick_32 K hM R e1 e2) fun v8 h9 => ?_
    refine g_aload_n (pc := 35) (x := v1) 2 rfl rfl dX1_tick_35 ?_
    refine g_getfi (pc := 36) k_16 (gblt rfl) lk_X1_164_16 dX1_tick_36 fun v10 => ?_
    refine g_aload_n (pc := 39) (x := v1) 2 rfl rfl dX1_tick_39 ?_
    refine g_getfi (pc := 40) k_16 (gblt rfl) lk_X1_167_16 dX1_tick_40 fun v11 => ?_
    refine g_iadd (pc := 43) dX1_tick_43 ?_
    refine g_leti fun v12 => ?_
    refine g_istore_n (pc := 44) (lv' := [(3, gi v12), (0, gr a0), (1, gi a1)]) [0, 1, 2] rfl rfl (gblt rfl) dX1_tick_44 ?_
    refine g_aload_n (pc := 45) (x := a0) 1 rfl rfl dX1_tick_45 ?_
    refine g_bVr (pc := 46) (y := yX1_change) (ws := ws_ yX1_change cX1_change 1 (some (.object "FlareSlopes$State"))) (fr := 8) (lo := 185) (as := []) (st := []) (g_no) rfl (fun _ _ _ e => tX1_change hs e) (fun K _ _ _ hq hM R e1 e2 => g_runV (M := mX1_tick) (pc := 46) (y := yX1_change) (bytes := cX1_change) (maxL := 1) (ret := (some (.object "FlareSlopes$State"))) (fr := 8) (lo := 185) (as := []) (st := []) hq (C := "FlareSlopes") rfl gy_X1_change (gbl rfl) (gbl rfl) (gbl rfl) q3752 q3754 qs52 dX1_tick_46 K hM R e1 e2) fun v13 h14 => ?_
    refine g_iload_n (pc := 49) (x := a1) 2 rfl rfl dX1_tick_49 ?_
    refine g_bVr (pc := 50) (y := yX3_ticks) (ws := ws_ yX3_ticks cX3_ticks 3 (some (.object "FlareSlopes$State"))) (fr := 8) (lo := 180) (as := [gi a1]) (st := []) (g_no) rfl (fun _ _ _ e => tX3_ticks hs e) (fun K _ _ _ hq hM R e1 e2 => g_runV (M := mX1_tick) (pc := 50) (y := yX3_ticks) (bytes := cX3_ticks) (maxL := 3) (ret := (some (.object "FlareSlopes$State"))) (fr := 8) (lo := 180) (as := [gi a1]) (st := []) hq (C := "FlareSlopes$State") rfl gy_X3_ticks (gbl rfl) (gbl rfl) (gbl rfl) q3585 q3586 q3587 dX1_tick_50 K hM R e1 e2) fun v15 h16 => ?_
    refine g_astore (pc := 53) (lv' := [(4, gr v15), (3, gi v12)]) [0, 1] rfl (gblt rfl) dX1_tick_53 ?_
    refine g_aload (pc := 55) (x := v15) 0 rfl dX1_tick_55 ?_
    refine g_getfi (pc := 57) k_16 (gblt rfl) lk_X1_164_16 dX1_tick_57 fun v17 => ?_
    refine g_aload (pc := 60) (x := v15) 0 rfl dX1_tick_60 ?_
    refine g_getfi (pc := 62) k_16 (gblt rfl) lk_X1_167_16 dX1_tick_62 fun v18 => ?_
    refine g_iadd (pc := 65) dX1_tick_65 ?_
    refine g_iload_n (pc := 66) (x := v12) 1 rfl rfl dX1_tick_66 ?_
    refine g_isub (pc := 67) dX1_tick_67 ?_
    exact g_ireturn (pc := 68) rfl dX1_tick_68
  refine g_join 31 (fun (x21 : Unit) => [(0, gr a0), (1, gi a1), (2, gr v1)]) (fun (x21 : Unit) => []) (fun x21 h22 => ?_) (fun j23 Hj23 => ?_)
  · refine g_iconst (pc := 31) (v := (0 : Int32)) ic_0 dX1_tick_31 ?_
    exact Hj7 (0 : Int32) h22
  refine g_if_eq (pc := 12) (tgt := 31) rfl dX1_tick_12 ?_ ?_
  · exact g_sub [1, 2, 0] rfl (Hj23 () h4)
  refine g_aload_n (pc := 15) (x := v1) 0 rfl rfl dX1_tick_15 ?_
  refine g_getfi (pc := 16) k_16 (gblt rfl) lk_X1_155_16 dX1_tick_16 fun v24 => ?_
  refine g_iload_n (pc := 19) (x := a1) 2 rfl rfl dX1_tick_19 ?_
  refine g_iadd (pc := 20) dX1_tick_20 ?_
  refine g_sipush (pc := 21) (v := (5000 : Int32)) sc_5000 dX1_tick_21 ?_
  refine g_icmp_gt (pc := 24) (tgt := 31) rfl dX1_tick_24 ?_ ?_
  · exact g_sub [1, 2, 0] rfl (Hj23 () h4)
  refine g_iconst (pc := 27) (v := (1 : Int32)) ic_1 dX1_tick_27 ?_
  refine g_goto (pc := 28) (tgt := 32) rfl dX1_tick_28 ?_
  exact g_sub [1, 2, 0] rfl (Hj7 (1 : Int32) h4)
/-! FlareSlopesLaw.tick(LFlareSlopes;I[J)I -/
noncomputable def sX0_tick (G : GG) (N : Nat) (a0 : Option Nat) (a1 : Int32) (a2 : Option Nat) (h : Hp) : Out (Int32) :=
  bVX h a0 3 (fun q4 => sX1_tick G N (some q4) a1 h) (fun v1 h2 =>
  gSl G h2 a2 3 (0 : Int32) (v1.toInt64) fun h3 =>
  some (.inl (0 : Int32), h3)) fun q5 h6 =>
  gSw h6 (some q5) 0 (some (.inl (1 : Int32), h6)) (gSw h6 (some q5) 1 (some (.inl (2 : Int32), h6)) (none))
abbrev mX0_tick : MI := (RX0, cX0_tick, 4, (some .int), [(0, 9, 12, 21), (0, 9, 15, 15)], 10, 229, "tick")
theorem tX0_tick {G : GG} {l : Launch} (hs : l.stackTraces = false) {N : Nat} {a0 : Option Nat} {a1 : Int32} {a2 : Option Nat} {h : Hp} {r : Int32 ⊕ Nat} {hf : Hp} (ho : sX0_tick G N a0 a1 a2 h = some (r, hf)) : gMet G l yX0_tick (wsW_ yX0_tick cX0_tick 4 (some .int) [(0, 9, 12, 21), (0, 9, 15, 15)]) 10 229 [gr a0, gi a1, gr a2] h cvI r hf := by
  refine gMet.ofW ho hs (plainFor_of_name pn_X0) rfl rfl (gbl rfl) fun X => ?_
  show gT G l X mX0_tick cvI r hf 0 [(0, gr a0), (1, gi a1), (2, gr a2)] [] h (sX0_tick G N a0 a1 a2 h)
  delta sX0_tick
  refine g_aload_n (pc := 0) (x := a2) 2 rfl rfl dX0_tick_0 ?_
  refine g_iconst (pc := 1) (v := (0 : Int32)) ic_0 dX0_tick_1 ?_
  refine g_aload_n (pc := 2) (x := a0) 0 rfl rfl dX0_tick_2 ?_
  refine g_iload_n (pc := 3) (x := a1) 1 rfl rfl dX0_tick_3 ?_
  refine g_bVXi (pc := 4) (y := yX1_tick) (ws := ws_ yX1_tick cX1_tick 5 (some .int)) (fr := 9) (lo := 205) (as := [gi a1]) (st := [gi (0 : Int32), gr a2]) rfl (fun _ _ _ e => tX1_tick hs e) (fun K _ _ _ hq hM R e1 e2 => g_runV (M := mX0_tick) (pc := 4) (y := yX1_tick) (bytes := cX1_tick) (maxL := 5) (ret := (some .int)) (fr := 9) (lo := 205) (as := [gi a1]) (st := [gi (0 : Int32), gr a2]) hq (C := "FlareSlopes") rfl gy_X1_tick (gbl rfl) (gbl rfl) (gbl rfl) q3748 q3749 q3750 dX0_tick_4 K hM R e1 e2) (fun v1 h2 => ?_) (fun q5 h6 => ?_)
  · refine g_i2l (pc := 7) dX0_tick_7 ?_
    refine g_lastore (pc := 8) rfl dX0_tick_8 fun h3 => ?_
    refine g_goto (pc := 9) (tgt := 18) rfl dX0_tick_9 ?_
    refine g_iconst (pc := 18) (v := (0 : Int32)) ic_0 dX0_tick_18 ?_
    exact g_ireturn (pc := 19) rfl dX0_tick_19
  refine g_catch (E := "java/lang/IllegalStateException") [] ⟨0, 9, 12, 21⟩ [⟨0, 9, 15, 15⟩] rfl rfl (List.forall_mem_nil _) (by decide +kernel) (by decide +kernel) q1425 q1439 ?_ ?_
  · refine g_astore_n (pc := 12) (lv' := []) [] rfl rfl (gblt rfl) dX0_tick_12 ?_
    refine g_iconst (pc := 13) (v := (1 : Int32)) ic_1 dX0_tick_13 ?_
    exact g_ireturn (pc := 14) rfl dX0_tick_14
  refine g_catch (E := "java/lang/IllegalArgumentException") [⟨0, 9, 12, 21⟩] ⟨0, 9, 15, 15⟩ [] rfl rfl (List.forall_mem_cons.mpr ⟨Or.inr ⟨by decide +kernel, _, q1425, ncl_java_lang_IllegalArgumentException_java_lang_IllegalStateException⟩, List.forall_mem_nil _⟩) (by decide +kernel) (by decide +kernel) q404 q751 ?_ ?_
  · refine g_astore_n (pc := 15) (lv' := []) [] rfl rfl (gblt rfl) dX0_tick_15 ?_
    refine g_iconst (pc := 16) (v := (2 : Int32)) ic_2 dX0_tick_16 ?_
    exact g_ireturn (pc := 17) rfl dX0_tick_17
  exact g_noneX
/-! FlareSlopesModel.remembers()V -/
noncomputable def bX2_remembers_11 (G : GG) (N : Nat) (a0 : Option Nat) (j14 : (Unit) → Hp → Out (Unit)) (w19 : (Int32) → Hp → Out (Unit)) (x17 : Int32) (h18 : Hp) : Out (Unit) :=
  if (7406 : Int32) ≤ x17 then (j14 () h18)
  else gFr h18 a0 18 3 fun v20 =>
  gFr h18 a0 18 3 fun v21 =>
  gAi h18 v21 0 (x17 + (1058 : Int32)) fun v22 =>
  gSi G h18 v20 0 x17 v22 fun h23 =>
  w19 (x17 + (1 : Int32)) h23
noncomputable def sX2_remembers (G : GG) (N : Nat) (a0 : Option Nat) (h : Hp) : Out (Unit) :=
  gFi h a0 18 9 fun v1 =>
  gJ (fun (x2 : Unit) (h3 : Hp) =>
  gFr h3 a0 18 1 fun v5 =>
  gFr h3 a0 18 3 fun v6 =>
  gFi h3 a0 18 9 fun v7 =>
  bnd (sX2_copies G N v5 (0 : Int32) v6 (v7 * (1058 : Int32)) h3) fun v8 h9 =>
  gFi h9 a0 18 9 fun v10 =>
  gP G h9 a0 18 9 (.int (v10 + (1 : Int32))) fun h11 =>
  some (.inl (), h11)) fun j4 =>
  if v1 = (8 : Int32) then (gJ (fun (x12 : Unit) (h13 : Hp) =>
  gFi h13 a0 18 9 fun v15 =>
  gP G h13 a0 18 9 (.int (v15 - (1 : Int32))) fun h16 =>
  j4 () h16) fun j14 =>
  gLp (bX2_remembers_11 G N a0 j14) N (0 : Int32) h)
  else j4 () h
abbrev mX2_remembers : MI := (RX2, cX2_remembers, 2, none, [], 1, 24, "remembers")
theorem tX2_remembers {G : GG} {l : Launch} (hs : l.stackTraces = false) {N : Nat} {a0 : Option Nat} {h : Hp} {r : Unit ⊕ Nat} {hf : Hp} (ho : sX2_remembers G N a0 h = some (r, hf)) : gMet G l yX2_remembers (ws_ yX2_remembers cX2_remembers 2 none) 1 24 [gr a0] h cvU r hf := by
  refine gMet.of ho hs (plainFor_of_name pn_X2) rfl rfl (gbl rfl) fun X => ?_
  show gT G l X mX2_remembers cvU r hf 0 [(0, gr a0)] [] h (sX2_remembers G N a0 h)
  delta sX2_remembers
  refine g_aload_n (pc := 0) (x := a0) 0 rfl rfl dX2_remembers_0 ?_
  refine g_getfi (pc := 1) k_18 (gblt rfl) lk_X2_188_18 dX2_remembers_1 fun v1 => ?_
  refine g_bipush (pc := 4) (v := (8 : Int32)) bc_8 dX2_remembers_4 ?_
  refine g_join 50 (fun (x2 : Unit) => [(0, gr a0)]) (fun (x2 : Unit) => []) (fun x2 h3 => ?_) (fun j4 Hj4 => ?_)
  · refine g_aload_n (pc := 50) (x := a0) 0 rfl rfl dX2_remembers_50 ?_
    refine g_getfr (pc := 51) k_18 (gblt rfl) lk_X2_9_18 dX2_remembers_51 fun v5 => ?_
    refine g_iconst (pc := 54) (v := (0 : Int32)) ic_0 dX2_remembers_54 ?_
    refine g_aload_n (pc := 55) (x := a0) 0 rfl rfl dX2_remembers_55 ?_
    refine g_getfr (pc := 56) k_18 (gblt rfl) lk_X2_16_18 dX2_remembers_56 fun v6 => ?_
    refine g_aload_n (pc := 59) (x := a0) 0 rfl rfl dX2_remembers_59 ?_
    refine g_getfi (pc := 60) k_18 (gblt rfl) lk_X2_188_18 dX2_remembers_60 fun v7 => ?_
    refine g_sipush (pc := 63) (v := (1058 : Int32)) sc_1058 dX2_remembers_63 ?_
    refine g_imul (pc := 66) dX2_remembers_66 ?_
    refine g_bu (pc := 67) (y := yX2_copies) (ws := ws_ yX2_copies cX2_copies 5 none) (fr := 0) (lo := 0) (as := [gr v5, gi (0 : Int32), gr v6, gi (v7 * (1058 : Int32))]) (st := []) (g_no) rfl (fun _ _ e => tX2_copies hs e) (fun K _ _ hM R e1 e2 => g_runS (M := mX2_remembers) (pc := 67) (y := yX2_copies) (bytes := cX2_copies) (maxL := 5) (ret := none) (fr := 0) (lo := 0) (as := [gr v5, gi (0 : Int32), gr v6, gi (v7 * (1058 : Int32))]) (st := []) gy_X2_copies (gbl rfl) (gbl rfl) (gbl rfl) q4044 q4045 dX2_remembers_67 K hM R e1 e2) fun v8 h9 => ?_
    refine g_aload_n (pc := 70) (x := a0) 0 rfl rfl dX2_remembers_70 ?_
    refine g_dup (pc := 71) rfl dX2_remembers_71 ?_
    refine g_getfi (pc := 72) k_18 (gblt rfl) lk_X2_188_18 dX2_remembers_72 fun v10 => ?_
    refine g_iconst (pc := 75) (v := (1 : Int32)) ic_1 dX2_remembers_75 ?_
    refine g_iadd (pc := 76) dX2_remembers_76 ?_
    refine g_put (pc := 77) k_18 (gblt rfl) lk_X2_188_18 rfl rfl (gNi _) dX2_remembers_77 fun h11 => ?_
    exact g_return (pc := 80) rfl dX2_remembers_80
  refine g_icmp_ne (pc := 6) (tgt := 50) rfl dX2_remembers_6 ?_ ?_
  rotate_left
  · exact Hj4 () h
  refine g_iconst (pc := 9) (v := (0 : Int32)) ic_0 dX2_remembers_9 ?_
  refine g_istore_n (pc := 10) (lv' := [(1, gi (0 : Int32)), (0, gr a0)]) [0, 1] rfl rfl (gblt rfl) dX2_remembers_10 ?_
  refine g_join 40 (fun (x12 : Unit) => [(0, gr a0)]) (fun (x12 : Unit) => []) (fun x12 h13 => ?_) (fun j14 Hj14 => ?_)
  · refine g_aload_n (pc := 40) (x := a0) 0 rfl rfl dX2_remembers_40 ?_
    refine g_dup (pc := 41) rfl dX2_remembers_41 ?_
    refine g_getfi (pc := 42) k_18 (gblt rfl) lk_X2_188_18 dX2_remembers_42 fun v15 => ?_
    refine g_iconst (pc := 45) (v := (1 : Int32)) ic_1 dX2_remembers_45 ?_
    refine g_isub (pc := 46) dX2_remembers_46 ?_
    refine g_put (pc := 47) k_18 (gblt rfl) lk_X2_188_18 rfl rfl (gNi _) dX2_remembers_47 fun h16 => ?_
    exact Hj4 () h16
  refine g_sub (lv' := [(0, gr a0), (1, gi (0 : Int32))]) [1, 0] rfl ?_
  refine g_loop (pc := 11) (fun (x17 : Int32) => [(0, gr a0), (1, gi x17)]) (fun (_ : Int32) => []) (fun w19 Hw19 x17 h18 => ?_) N (0 : Int32) h
  delta bX2_remembers_11
  refine g_iload_n (pc := 11) (x := x17) 1 rfl rfl dX2_remembers_11 ?_
  refine g_sipush (pc := 12) (v := (7406 : Int32)) sc_7406 dX2_remembers_12 ?_
  refine g_icmp_ge (pc := 15) (tgt := 40) rfl dX2_remembers_15 ?_ ?_
  · exact g_sub [0] rfl (Hj14 () h18)
  refine g_aload_n (pc := 18) (x := a0) 0 rfl rfl dX2_remembers_18 ?_
  refine g_getfr (pc := 19) k_18 (gblt rfl) lk_X2_16_18 dX2_remembers_19 fun v20 => ?_
  refine g_iload_n (pc := 22) (x := x17) 1 rfl rfl dX2_remembers_22 ?_
  refine g_aload_n (pc := 23) (x := a0) 0 rfl rfl dX2_remembers_23 ?_
  refine g_getfr (pc := 24) k_18 (gblt rfl) lk_X2_16_18 dX2_remembers_24 fun v21 => ?_
  refine g_iload_n (pc := 27) (x := x17) 1 rfl rfl dX2_remembers_27 ?_
  refine g_sipush (pc := 28) (v := (1058 : Int32)) sc_1058 dX2_remembers_28 ?_
  refine g_iadd (pc := 31) dX2_remembers_31 ?_
  refine g_iaload (pc := 32) rfl dX2_remembers_32 fun v22 => ?_
  refine g_iastore (pc := 33) rfl dX2_remembers_33 fun h23 => ?_
  refine g_iinc (pc := 34) (v := x17 + (1 : Int32)) 1 rfl (ii_1 _) (lv' := [(1, gi (x17 + (1 : Int32))), (0, gr a0)]) [0, 1] rfl (gblt rfl) dX2_remembers_34 ?_
  refine g_goto (pc := 37) (tgt := 11) rfl dX2_remembers_37 ?_
  exact g_sub [1, 0] rfl (Hw19 (x17 + (1 : Int32)) h23)
/-! FlareSlopesModel.tick(I)I -/
noncomputable def sX2_tick (G : GG) (N : Nat) (a0 : Option Nat) (a1 : Int32) (h : Hp) : Out (Int32) :=
  gFi h a0 18 8 fun v1 =>
  bnd (sX2_in G N a1 (1 : Int32) (100 : Int32) h) fun v2 h3 =>
  gJ (fun (x4 : Int32) (h5 : Hp) =>
  bV h5 a0 18 (fun q24 => sX2_mayTwo G N (some q24) v1 x4 h5) fun v7 h8 =>
  if v7 = 0 then (some (.inl (0 : Int32), h8))
  else bV h8 a0 18 (fun q23 => sX2_remembers G N (some q23) h8) fun v9 h10 =>
  gFr h10 a0 18 1 fun v11 =>
  gAi h10 v11 0 (92 : Int32) fun v12 =>
  gFr h10 a0 18 1 fun v13 =>
  gAi h10 v13 0 (93 : Int32) fun v14 =>
  gLet (v12 + v14) fun v15 =>
  bV h10 a0 18 (fun q22 => sX2_passes G N (some q22) a1 h10) fun v16 h17 =>
  gFr h17 a0 18 1 fun v18 =>
  gAi h17 v18 0 (92 : Int32) fun v19 =>
  gFr h17 a0 18 1 fun v20 =>
  gAi h17 v20 0 (93 : Int32) fun v21 =>
  some (.inl ((v19 + v21) - v15), h17)) fun j6 =>
  gJ (fun (x25 : Unit) (h26 : Hp) =>
  j6 (0 : Int32) h26) fun j27 =>
  if v2 = 0 then (j27 () h3)
  else gFr h3 a0 18 1 fun v28 =>
  gAi h3 v28 0 (90 : Int32) fun v29 =>
  if (5000 : Int32) < (v29 + a1) then (j27 () h3)
  else j6 (1 : Int32) h3
abbrev mX2_tick : MI := (RX2, cX2_tick, 3, (some .int), [], 8, 182, "tick")
theorem tX2_tick {G : GG} {l : Launch} (hs : l.stackTraces = false) {N : Nat} {a0 : Option Nat} {a1 : Int32} {h : Hp} {r : Int32 ⊕ Nat} {hf : Hp} (ho : sX2_tick G N a0 a1 h = some (r, hf)) : gMet G l yX2_tick (ws_ yX2_tick cX2_tick 3 (some .int)) 8 182 [gr a0, gi a1] h cvI r hf := by
  refine gMet.of ho hs (plainFor_of_name pn_X2) rfl rfl (gbl rfl) fun X => ?_
  show gT G l X mX2_tick cvI r hf 0 [(0, gr a0), (1, gi a1)] [] h (sX2_tick G N a0 a1 h)
  delta sX2_tick
  refine g_aload_n (pc := 0) (x := a0) 0 rfl rfl dX2_tick_0 ?_
  refine g_aload_n (pc := 1) (x := a0) 0 rfl rfl dX2_tick_1 ?_
  refine g_getfi (pc := 2) k_18 (gblt rfl) lk_X2_184_18 dX2_tick_2 fun v1 => ?_
  refine g_iload_n (pc := 5) (x := a1) 1 rfl rfl dX2_tick_5 ?_
  refine g_iconst (pc := 6) (v := (1 : Int32)) ic_1 dX2_tick_6 ?_
  refine g_bipush (pc := 7) (v := (100 : Int32)) bc_100 dX2_tick_7 ?_
  refine g_bi (pc := 9) (y := yX2_in) (ws := ws_ yX2_in cX2_in 3 (some .boolean)) (fr := 0) (lo := 0) (as := [gi a1, gi (1 : Int32), gi (100 : Int32)]) (st := [gi v1, gr a0]) (g_no) rfl (fun _ _ e => tX2_in hs e) (fun K _ _ hM R e1 e2 => g_runS (M := mX2_tick) (pc := 9) (y := yX2_in) (bytes := cX2_in) (maxL := 3) (ret := (some .boolean)) (fr := 0) (lo := 0) (as := [gi a1, gi (1 : Int32), gi (100 : Int32)]) (st := [gi v1, gr a0]) gy_X2_in (gbl rfl) (gbl rfl) (gbl rfl) q4037 q4038 dX2_tick_9 K hM R e1 e2) fun v2 h3 => ?_
  refine g_join 35 (fun (x4 : Int32) => [(0, gr a0), (1, gi a1)]) (fun (x4 : Int32) => [gi x4, gi v1, gr a0]) (fun x4 h5 => ?_) (fun j6 Hj6 => ?_)
  · refine g_bVi (pc := 35) (y := yX2_mayTwo) (ws := ws_ yX2_mayTwo cX2_mayTwo 3 (some .boolean)) (fr := 1) (lo := 23) (as := [gi v1, gi x4]) (st := []) (g_no) rfl (fun _ _ _ e => tX2_mayTwo hs e) (fun K _ _ _ hq hM R e1 e2 => g_runV (M := mX2_tick) (pc := 35) (y := yX2_mayTwo) (bytes := cX2_mayTwo) (maxL := 3) (ret := (some .boolean)) (fr := 1) (lo := 23) (as := [gi v1, gi x4]) (st := []) hq (C := "FlareSlopesModel") rfl gy_X2_mayTwo (gbl rfl) (gbl rfl) (gbl rfl) q4145 q4147 qs76 dX2_tick_35 K hM R e1 e2) fun v7 h8 => ?_
    refine g_if_ne (pc := 38) (tgt := 43) rfl dX2_tick_38 ?_ ?_
    · refine g_iconst (pc := 41) (v := (0 : Int32)) ic_0 dX2_tick_41 ?_
      exact g_ireturn (pc := 42) rfl dX2_tick_42
    refine g_aload_n (pc := 43) (x := a0) 0 rfl rfl dX2_tick_43 ?_
    refine g_bVu (pc := 44) (y := yX2_remembers) (ws := ws_ yX2_remembers cX2_remembers 2 none) (fr := 1) (lo := 24) (as := []) (st := []) (g_no) rfl (fun _ _ _ e => tX2_remembers hs e) (fun K _ _ _ hq hM R e1 e2 => g_runV (M := mX2_tick) (pc := 44) (y := yX2_remembers) (bytes := cX2_remembers) (maxL := 2) (ret := none) (fr := 1) (lo := 24) (as := []) (st := []) hq (C := "FlareSlopesModel") rfl gy_X2_remembers (gbl rfl) (gbl rfl) (gbl rfl) q4555 q4557 qs125 dX2_tick_44 K hM R e1 e2) fun v9 h10 => ?_
    refine g_aload_n (pc := 47) (x := a0) 0 rfl rfl dX2_tick_47 ?_
    refine g_getfr (pc := 48) k_18 (gblt rfl) lk_X2_9_18 dX2_tick_48 fun v11 => ?_
    refine g_bipush (pc := 51) (v := (92 : Int32)) bc_92 dX2_tick_51 ?_
    refine g_iaload (pc := 53) rfl dX2_tick_53 fun v12 => ?_
    refine g_aload_n (pc := 54) (x := a0) 0 rfl rfl dX2_tick_54 ?_
    refine g_getfr (pc := 55) k_18 (gblt rfl) lk_X2_9_18 dX2_tick_55 fun v13 => ?_
    refine g_bipush (pc := 58) (v := (93 : Int32)) bc_93 dX2_tick_58 ?_
    refine g_iaload (pc := 60) rfl dX2_tick_60 fun v14 => ?_
    refine g_iadd (pc := 61) dX2_tick_61 ?_
    refine g_leti fun v15 => ?_
    refine g_istore_n (pc := 62) (lv' := [(2, gi v15), (0, gr a0), (1, gi a1)]) [0, 1, 2] rfl rfl (gblt rfl) dX2_tick_62 ?_
    refine g_aload_n (pc := 63) (x := a0) 1 rfl rfl dX2_tick_63 ?_
    refine g_iload_n (pc := 64) (x := a1) 2 rfl rfl dX2_tick_64 ?_
    refine g_bVu (pc := 65) (y := yX2_passes) (ws := ws_ yX2_passes cX2_passes 3 none) (fr := 7) (lo := 160) (as := [gi a1]) (st := []) (g_no) rfl (fun _ _ _ e => tX2_passes hs e) (fun K _ _ _ hq hM R e1 e2 => g_runV (M := mX2_tick) (pc := 65) (y := yX2_passes) (bytes := cX2_passes) (maxL := 3) (ret := none) (fr := 7) (lo := 160) (as := [gi a1]) (st := []) hq (C := "FlareSlopesModel") rfl gy_X2_passes (gbl rfl) (gbl rfl) (gbl rfl) q4487 q4489 qs119 dX2_tick_65 K hM R e1 e2) fun v16 h17 => ?_
    refine g_aload_n (pc := 68) (x := a0) 1 rfl rfl dX2_tick_68 ?_
    refine g_getfr (pc := 69) k_18 (gblt rfl) lk_X2_9_18 dX2_tick_69 fun v18 => ?_
    refine g_bipush (pc := 72) (v := (92 : Int32)) bc_92 dX2_tick_72 ?_
    refine g_iaload (pc := 74) rfl dX2_tick_74 fun v19 => ?_
    refine g_aload_n (pc := 75) (x := a0) 1 rfl rfl dX2_tick_75 ?_
    refine g_getfr (pc := 76) k_18 (gblt rfl) lk_X2_9_18 dX2_tick_76 fun v20 => ?_
    refine g_bipush (pc := 79) (v := (93 : Int32)) bc_93 dX2_tick_79 ?_
    refine g_iaload (pc := 81) rfl dX2_tick_81 fun v21 => ?_
    refine g_iadd (pc := 82) dX2_tick_82 ?_
    refine g_iload_n (pc := 83) (x := v15) 0 rfl rfl dX2_tick_83 ?_
    refine g_isub (pc := 84) dX2_tick_84 ?_
    exact g_ireturn (pc := 85) rfl dX2_tick_85
  refine g_join 34 (fun (x25 : Unit) => [(0, gr a0), (1, gi a1)]) (fun (x25 : Unit) => [gi v1, gr a0]) (fun x25 h26 => ?_) (fun j27 Hj27 => ?_)
  · refine g_iconst (pc := 34) (v := (0 : Int32)) ic_0 dX2_tick_34 ?_
    exact Hj6 (0 : Int32) h26
  refine g_if_eq (pc := 12) (tgt := 34) rfl dX2_tick_12 ?_ ?_
  · exact Hj27 () h3
  refine g_aload_n (pc := 15) (x := a0) 0 rfl rfl dX2_tick_15 ?_
  refine g_getfr (pc := 16) k_18 (gblt rfl) lk_X2_9_18 dX2_tick_16 fun v28 => ?_
  refine g_bipush (pc := 19) (v := (90 : Int32)) bc_90 dX2_tick_19 ?_
  refine g_iaload (pc := 21) rfl dX2_tick_21 fun v29 => ?_
  refine g_iload_n (pc := 22) (x := a1) 1 rfl rfl dX2_tick_22 ?_
  refine g_iadd (pc := 23) dX2_tick_23 ?_
  refine g_sipush (pc := 24) (v := (5000 : Int32)) sc_5000 dX2_tick_24 ?_
  refine g_icmp_gt (pc := 27) (tgt := 34) rfl dX2_tick_27 ?_ ?_
  · exact Hj27 () h3
  refine g_iconst (pc := 30) (v := (1 : Int32)) ic_1 dX2_tick_30 ?_
  refine g_goto (pc := 31) (tgt := 35) rfl dX2_tick_31 ?_
  exact Hj6 (1 : Int32) h3
/-! FlareSlopes.flare(IIZ)I -/
noncomputable def sX1_flare (G : GG) (N : Nat) (a0 : Option Nat) (a1 : Int32) (a2 : Int32) (a3 : Int32) (h : Hp) : Out (Int32) :=
  bV h a0 3 (fun q33 => sX1_withBoth G N (some q33) a1 a2 h) fun v1 h2 =>
  gFi h2 v1 7 2 fun v3 =>
  gJ (fun (x4 : Int32) (h5 : Hp) =>
  bnd (sX1_checkArgument G N x4 h5) fun v7 h8 =>
  bV h8 a0 3 (fun q26 => sX1_change G N (some q26) h8) fun v9 h10 =>
  bV h10 v9 16 (fun q25 => sX3_cabin G N (some q25) a1 h10) fun v11 h12 =>
  gFi h12 v11 7 2 fun v13 =>
  gP G h12 v11 7 2 (.int (v13 - (1 : Int32))) fun h14 =>
  bV h14 v9 16 (fun q24 => sX3_cabin G N (some q24) a1 h14) fun v15 h16 =>
  gFi h16 v9 16 4 fun v17 =>
  gP G h16 v15 7 4 (.int v17) fun h18 =>
  gFi h18 v9 16 5 fun v19 =>
  gP G h18 v9 16 5 (.int (v19 + (1 : Int32))) fun h20 =>
  bV h20 v9 16 (fun q23 => sX3_fires G N (some q23) a1 a2 a3 h20) fun v21 h22 =>
  some (.inl v21, h22)) fun j6 =>
  gJ (fun (x27 : Unit) (h28 : Hp) =>
  j6 (0 : Int32) h28) fun j29 =>
  if v3 ≤ 0 then (j29 () h2)
  else gFi h2 v1 7 4 fun v30 =>
  gFr h2 a0 3 4 fun v31 =>
  gFi h2 v31 16 4 fun v32 =>
  if v30 = v32 then (j29 () h2)
  else j6 (1 : Int32) h2
abbrev mX1_flare : MI := (RX1, cX1_flare, 6, (some .int), [], 10, 205, "flare")
theorem tX1_flare {G : GG} {l : Launch} (hs : l.stackTraces = false) {N : Nat} {a0 : Option Nat} {a1 : Int32} {a2 : Int32} {a3 : Int32} {h : Hp} {r : Int32 ⊕ Nat} {hf : Hp} (ho : sX1_flare G N a0 a1 a2 a3 h = some (r, hf)) : gMet G l yX1_flare (ws_ yX1_flare cX1_flare 6 (some .int)) 10 205 [gr a0, gi a1, gi a2, gi a3] h cvI r hf := by
  refine gMet.of ho hs (plainFor_of_name pn_X1) rfl rfl (gbl rfl) fun X => ?_
  show gT G l X mX1_flare cvI r hf 0 [(0, gr a0), (1, gi a1), (2, gi a2), (3, gi a3)] [] h (sX1_flare G N a0 a1 a2 a3 h)
  delta sX1_flare
  refine g_aload_n (pc := 0) (x := a0) 0 rfl rfl dX1_flare_0 ?_
  refine g_iload_n (pc := 1) (x := a1) 1 rfl rfl dX1_flare_1 ?_
  refine g_iload_n (pc := 2) (x := a2) 2 rfl rfl dX1_flare_2 ?_
  refine g_bVr (pc := 3) (y := yX1_withBoth) (ws := ws_ yX1_withBoth cX1_withBoth 4 (some (.object "FlareSlopes$Cabin"))) (fr := 9) (lo := 142) (as := [gi a1, gi a2]) (st := []) (g_no) rfl (fun _ _ _ e => tX1_withBoth hs e) (fun K _ _ _ hq hM R e1 e2 => g_runV (M := mX1_flare) (pc := 3) (y := yX1_withBoth) (bytes := cX1_withBoth) (maxL := 4) (ret := (some (.object "FlareSlopes$Cabin"))) (fr := 9) (lo := 142) (as := [gi a1, gi a2]) (st := []) hq (C := "FlareSlopes") rfl gy_X1_withBoth (gbl rfl) (gbl rfl) (gbl rfl) q3141 q3143 qs45 dX1_flare_3 K hM R e1 e2) fun v1 h2 => ?_
  refine g_astore (pc := 6) (lv' := [(4, gr v1), (0, gr a0), (1, gi a1), (2, gi a2), (3, gi a3)]) [0, 1, 2, 3, 4] rfl (gblt rfl) dX1_flare_6 ?_
  refine g_aload (pc := 8) (x := v1) 0 rfl dX1_flare_8 ?_
  refine g_getfi (pc := 10) k_7 (gblt rfl) lk_X1_200_7 dX1_flare_10 fun v3 => ?_
  refine g_join 36 (fun (x4 : Int32) => [(0, gr a0), (1, gi a1), (2, gi a2), (3, gi a3)]) (fun (x4 : Int32) => [gi x4]) (fun x4 h5 => ?_) (fun j6 Hj6 => ?_)
  · refine g_bu (pc := 36) (y := yX1_checkArgument) (ws := ws_ yX1_checkArgument cX1_checkArgument 1 none) (fr := 6) (lo := 81) (as := [gi x4]) (st := []) (g_no) rfl (fun _ _ e => tX1_checkArgument hs e) (fun K _ _ hM R e1 e2 => g_runS (M := mX1_flare) (pc := 36) (y := yX1_checkArgument) (bytes := cX1_checkArgument) (maxL := 1) (ret := none) (fr := 6) (lo := 81) (as := [gi x4]) (st := []) gy_X1_checkArgument (gbl rfl) (gbl rfl) (gbl rfl) q1958 q1959 dX1_flare_36 K hM R e1 e2) fun v7 h8 => ?_
    refine g_aload_n (pc := 39) (x := a0) 0 rfl rfl dX1_flare_39 ?_
    refine g_bVr (pc := 40) (y := yX1_change) (ws := ws_ yX1_change cX1_change 1 (some (.object "FlareSlopes$State"))) (fr := 8) (lo := 185) (as := []) (st := []) (g_no) rfl (fun _ _ _ e => tX1_change hs e) (fun K _ _ _ hq hM R e1 e2 => g_runV (M := mX1_flare) (pc := 40) (y := yX1_change) (bytes := cX1_change) (maxL := 1) (ret := (some (.object "FlareSlopes$State"))) (fr := 8) (lo := 185) (as := []) (st := []) hq (C := "FlareSlopes") rfl gy_X1_change (gbl rfl) (gbl rfl) (gbl rfl) q3752 q3754 qs52 dX1_flare_40 K hM R e1 e2) fun v9 h10 => ?_
    refine g_astore (pc := 43) (lv' := [(5, gr v9), (1, gi a1), (2, gi a2), (3, gi a3)]) [0, 2, 3, 4] rfl (gblt rfl) dX1_flare_43 ?_
    refine g_aload (pc := 45) (x := v9) 0 rfl dX1_flare_45 ?_
    refine g_iload_n (pc := 47) (x := a1) 1 rfl rfl dX1_flare_47 ?_
    refine g_bVr (pc := 48) (y := yX3_cabin) (ws := ws_ yX3_cabin cX3_cabin 2 (some (.object "FlareSlopes$Cabin"))) (fr := 3) (lo := 64) (as := [gi a1]) (st := []) (g_no) rfl (fun _ _ _ e => tX3_cabin hs e) (fun K _ _ _ hq hM R e1 e2 => g_runV (M := mX1_flare) (pc := 48) (y := yX3_cabin) (bytes := cX3_cabin) (maxL := 2) (ret := (some (.object "FlareSlopes$Cabin"))) (fr := 3) (lo := 64) (as := [gi a1]) (st := []) hq (C := "FlareSlopes$State") rfl gy_X3_cabin (gbl rfl) (gbl rfl) (gbl rfl) q1738 q1639 q1640 dX1_flare_48 K hM R e1 e2) fun v11 h12 => ?_
    refine g_dup (pc := 51) rfl dX1_flare_51 ?_
    refine g_getfi (pc := 52) k_7 (gblt rfl) lk_X1_200_7 dX1_flare_52 fun v13 => ?_
    refine g_iconst (pc := 55) (v := (1 : Int32)) ic_1 dX1_flare_55 ?_
    refine g_isub (pc := 56) dX1_flare_56 ?_
    refine g_put (pc := 57) k_7 (gblt rfl) lk_X1_200_7 rfl rfl (gNi _) dX1_flare_57 fun h14 => ?_
    refine g_aload (pc := 60) (x := v9) 0 rfl dX1_flare_60 ?_
    refine g_iload_n (pc := 62) (x := a1) 1 rfl rfl dX1_flare_62 ?_
    refine g_bVr (pc := 63) (y := yX3_cabin) (ws := ws_ yX3_cabin cX3_cabin 2 (some (.object "FlareSlopes$Cabin"))) (fr := 3) (lo := 64) (as := [gi a1]) (st := []) (g_no) rfl (fun _ _ _ e => tX3_cabin hs e) (fun K _ _ _ hq hM R e1 e2 => g_runV (M := mX1_flare) (pc := 63) (y := yX3_cabin) (bytes := cX3_cabin) (maxL := 2) (ret := (some (.object "FlareSlopes$Cabin"))) (fr := 3) (lo := 64) (as := [gi a1]) (st := []) hq (C := "FlareSlopes$State") rfl gy_X3_cabin (gbl rfl) (gbl rfl) (gbl rfl) q1738 q1639 q1640 dX1_flare_63 K hM R e1 e2) fun v15 h16 => ?_
    refine g_aload (pc := 66) (x := v9) 0 rfl dX1_flare_66 ?_
    refine g_getfi (pc := 68) k_16 (gblt rfl) lk_X1_155_16 dX1_flare_68 fun v17 => ?_
    refine g_put (pc := 71) k_7 (gblt rfl) lk_X1_291_7 rfl rfl (gNi _) dX1_flare_71 fun h18 => ?_
    refine g_aload (pc := 74) (x := v9) 0 rfl dX1_flare_74 ?_
    refine g_dup (pc := 76) rfl dX1_flare_76 ?_
    refine g_getfi (pc := 77) k_16 (gblt rfl) lk_X1_158_16 dX1_flare_77 fun v19 => ?_
    refine g_iconst (pc := 80) (v := (1 : Int32)) ic_1 dX1_flare_80 ?_
    refine g_iadd (pc := 81) dX1_flare_81 ?_
    refine g_put (pc := 82) k_16 (gblt rfl) lk_X1_158_16 rfl rfl (gNi _) dX1_flare_82 fun h20 => ?_
    refine g_aload (pc := 85) (x := v9) 0 rfl dX1_flare_85 ?_
    refine g_iload_n (pc := 87) (x := a1) 1 rfl rfl dX1_flare_87 ?_
    refine g_iload_n (pc := 88) (x := a2) 2 rfl rfl dX1_flare_88 ?_
    refine g_iload_n (pc := 89) (x := a3) 3 rfl rfl dX1_flare_89 ?_
    refine g_bVi (pc := 90) (y := yX3_fires) (ws := ws_ yX3_fires cX3_fires 8 (some .int)) (fr := 8) (lo := 174) (as := [gi a1, gi a2, gi a3]) (st := []) (g_no) rfl (fun _ _ _ e => tX3_fires hs e) (fun K _ _ _ hq hM R e1 e2 => g_runV (M := mX1_flare) (pc := 90) (y := yX3_fires) (bytes := cX3_fires) (maxL := 8) (ret := (some .int)) (fr := 8) (lo := 174) (as := [gi a1, gi a2, gi a3]) (st := []) hq (C := "FlareSlopes$State") rfl gy_X3_fires (gbl rfl) (gbl rfl) (gbl rfl) q3615 q3616 q3617 dX1_flare_90 K hM R e1 e2) fun v21 h22 => ?_
    exact g_ireturn (pc := 93) rfl dX1_flare_93
  refine g_join 35 (fun (x27 : Unit) => [(0, gr a0), (1, gi a1), (2, gi a2), (3, gi a3)]) (fun (x27 : Unit) => []) (fun x27 h28 => ?_) (fun j29 Hj29 => ?_)
  · refine g_iconst (pc := 35) (v := (0 : Int32)) ic_0 dX1_flare_35 ?_
    exact Hj6 (0 : Int32) h28
  refine g_if_le (pc := 13) (tgt := 35) rfl dX1_flare_13 ?_ ?_
  · exact g_sub [1, 2, 3, 4] rfl (Hj29 () h2)
  refine g_aload (pc := 16) (x := v1) 0 rfl dX1_flare_16 ?_
  refine g_getfi (pc := 18) k_7 (gblt rfl) lk_X1_291_7 dX1_flare_18 fun v30 => ?_
  refine g_aload_n (pc := 21) (x := a0) 1 rfl rfl dX1_flare_21 ?_
  refine g_getfr (pc := 22) k_3 (gblt rfl) lk_X1_56_3 dX1_flare_22 fun v31 => ?_
  refine g_getfi (pc := 25) k_16 (gblt rfl) lk_X1_155_16 dX1_flare_25 fun v32 => ?_
  refine g_icmp_eq (pc := 28) (tgt := 35) rfl dX1_flare_28 ?_ ?_
  · exact g_sub [1, 2, 3, 4] rfl (Hj29 () h2)
  refine g_iconst (pc := 31) (v := (1 : Int32)) ic_1 dX1_flare_31 ?_
  refine g_goto (pc := 32) (tgt := 36) rfl dX1_flare_32 ?_
  exact g_sub [1, 2, 3, 4] rfl (Hj6 (1 : Int32) h2)
/-! FlareSlopesLaw.flare(LFlareSlopes;IIZ[J)I -/
noncomputable def sX0_flare (G : GG) (N : Nat) (a0 : Option Nat) (a1 : Int32) (a2 : Int32) (a3 : Int32) (a4 : Option Nat) (h : Hp) : Out (Int32) :=
  bVX h a0 3 (fun q4 => sX1_flare G N (some q4) a1 a2 a3 h) (fun v1 h2 =>
  gSl G h2 a4 3 (0 : Int32) (v1.toInt64) fun h3 =>
  some (.inl (0 : Int32), h3)) fun q5 h6 =>
  gSw h6 (some q5) 0 (some (.inl (1 : Int32), h6)) (gSw h6 (some q5) 1 (some (.inl (3 : Int32), h6)) (gSw h6 (some q5) 2 (some (.inl (2 : Int32), h6)) (none)))
abbrev mX0_flare : MI := (RX0, cX0_flare, 6, (some .int), [(0, 12, 15, 21), (0, 12, 19, 13), (0, 12, 23, 15)], 11, 230, "flare")
theorem tX0_flare {G : GG} {l : Launch} (hs : l.stackTraces = false) {N : Nat} {a0 : Option Nat} {a1 : Int32} {a2 : Int32} {a3 : Int32} {a4 : Option Nat} {h : Hp} {r : Int32 ⊕ Nat} {hf : Hp} (ho : sX0_flare G N a0 a1 a2 a3 a4 h = some (r, hf)) : gMet G l yX0_flare (wsW_ yX0_flare cX0_flare 6 (some .int) [(0, 12, 15, 21), (0, 12, 19, 13), (0, 12, 23, 15)]) 11 230 [gr a0, gi a1, gi a2, gi a3, gr a4] h cvI r hf := by
  refine gMet.ofW ho hs (plainFor_of_name pn_X0) rfl rfl (gbl rfl) fun X => ?_
  show gT G l X mX0_flare cvI r hf 0 [(0, gr a0), (1, gi a1), (2, gi a2), (3, gi a3), (4, gr a4)] [] h (sX0_flare G N a0 a1 a2 a3 a4 h)
  delta sX0_flare
  refine g_aload (pc := 0) (x := a4) 4 rfl dX0_flare_0 ?_
  refine g_iconst (pc := 2) (v := (0 : Int32)) ic_0 dX0_flare_2 ?_
  refine g_aload_n (pc := 3) (x := a0) 0 rfl rfl dX0_flare_3 ?_
  refine g_iload_n (pc := 4) (x := a1) 1 rfl rfl dX0_flare_4 ?_
  refine g_iload_n (pc := 5) (x := a2) 2 rfl rfl dX0_flare_5 ?_
  refine g_iload_n (pc := 6) (x := a3) 3 rfl rfl dX0_flare_6 ?_
  refine g_bVXi (pc := 7) (y := yX1_flare) (ws := ws_ yX1_flare cX1_flare 6 (some .int)) (fr := 10) (lo := 205) (as := [gi a1, gi a2, gi a3]) (st := [gi (0 : Int32), gr a4]) rfl (fun _ _ _ e => tX1_flare hs e) (fun K _ _ _ hq hM R e1 e2 => g_runV (M := mX0_flare) (pc := 7) (y := yX1_flare) (bytes := cX1_flare) (maxL := 6) (ret := (some .int)) (fr := 10) (lo := 205) (as := [gi a1, gi a2, gi a3]) (st := [gi (0 : Int32), gr a4]) hq (C := "FlareSlopes") rfl gy_X1_flare (gbl rfl) (gbl rfl) (gbl rfl) q3771 q3772 q3773 dX0_flare_7 K hM R e1 e2) (fun v1 h2 => ?_) (fun q5 h6 => ?_)
  · refine g_i2l (pc := 10) dX0_flare_10 ?_
    refine g_lastore (pc := 11) rfl dX0_flare_11 fun h3 => ?_
    refine g_goto (pc := 12) (tgt := 27) rfl dX0_flare_12 ?_
    refine g_iconst (pc := 27) (v := (0 : Int32)) ic_0 dX0_flare_27 ?_
    exact g_ireturn (pc := 28) rfl dX0_flare_28
  refine g_catch (E := "java/lang/IllegalStateException") [] ⟨0, 12, 15, 21⟩ [⟨0, 12, 19, 13⟩, ⟨0, 12, 23, 15⟩] rfl rfl (List.forall_mem_nil _) (by decide +kernel) (by decide +kernel) q1425 q1439 ?_ ?_
  · refine g_astore (pc := 15) (lv' := []) [] rfl (gblt rfl) dX0_flare_15 ?_
    refine g_iconst (pc := 17) (v := (1 : Int32)) ic_1 dX0_flare_17 ?_
    exact g_ireturn (pc := 18) rfl dX0_flare_18
  refine g_catch (E := "java/lang/IllegalArgumentException") [⟨0, 12, 15, 21⟩, ⟨0, 12, 19, 13⟩] ⟨0, 12, 23, 15⟩ [] rfl rfl (List.forall_mem_cons.mpr ⟨Or.inr ⟨by decide +kernel, _, q1425, ncl_java_lang_IllegalArgumentException_java_lang_IllegalStateException⟩, List.forall_mem_cons.mpr ⟨Or.inr ⟨by decide +kernel, _, q325, ncl_java_lang_IllegalArgumentException_java_lang_IndexOutOfBoundsException⟩, List.forall_mem_nil _⟩⟩) (by decide +kernel) (by decide +kernel) q404 q751 ?_ ?_
  · refine g_astore (pc := 23) (lv' := []) [] rfl (gblt rfl) dX0_flare_23 ?_
    refine g_iconst (pc := 25) (v := (3 : Int32)) ic_3 dX0_flare_25 ?_
    exact g_ireturn (pc := 26) rfl dX0_flare_26
  refine g_catch (E := "java/lang/IndexOutOfBoundsException") [⟨0, 12, 15, 21⟩] ⟨0, 12, 19, 13⟩ [⟨0, 12, 23, 15⟩] rfl rfl (List.forall_mem_cons.mpr ⟨Or.inr ⟨by decide +kernel, _, q1425, ncl_java_lang_IndexOutOfBoundsException_java_lang_IllegalStateException⟩, List.forall_mem_nil _⟩) (by decide +kernel) (by decide +kernel) q325 q418 ?_ ?_
  · refine g_astore (pc := 19) (lv' := []) [] rfl (gblt rfl) dX0_flare_19 ?_
    refine g_iconst (pc := 21) (v := (2 : Int32)) ic_2 dX0_flare_21 ?_
    exact g_ireturn (pc := 22) rfl dX0_flare_22
  exact g_noneX
/-! FlareSlopesModel.flare(IIZ)I -/
noncomputable def sX2_flare (G : GG) (N : Nat) (a0 : Option Nat) (a1 : Int32) (a2 : Int32) (a3 : Int32) (h : Hp) : Out (Int32) :=
  gFi h a0 18 8 fun v1 =>
  gJ (fun (x2 : Int32) (h3 : Hp) =>
  gFi h3 a0 18 8 fun v5 =>
  gJ (fun (x6 : Int32) (h7 : Hp) =>
  bV h7 a0 18 (fun q27 => sX2_may G N (some q27) v5 x2 x6 h7) fun v9 h10 =>
  if v9 = 0 then (some (.inl (0 : Int32), h10))
  else bV h10 a0 18 (fun q26 => sX2_remembers G N (some q26) h10) fun v11 h12 =>
  gFr h12 a0 18 1 fun v13 =>
  gAi h12 v13 0 ((148 : Int32) + a1) fun v14 =>
  gSi G h12 v13 0 ((148 : Int32) + a1) (v14 - (1 : Int32)) fun h15 =>
  gFr h15 a0 18 1 fun v16 =>
  gFr h15 a0 18 1 fun v17 =>
  gAi h15 v17 0 (90 : Int32) fun v18 =>
  gSi G h15 v16 0 ((168 : Int32) + a1) v18 fun h19 =>
  gFr h19 a0 18 1 fun v20 =>
  gAi h19 v20 0 (91 : Int32) fun v21 =>
  gSi G h19 v20 0 (91 : Int32) (v21 + (1 : Int32)) fun h22 =>
  bV h22 a0 18 (fun q25 => sX2_shows G N (some q25) a1 a2 a3 h22) fun v23 h24 =>
  some (.inl v23, h24)) fun j8 =>
  gJ (fun (x28 : Unit) (h29 : Hp) =>
  j8 (0 : Int32) h29) fun j30 =>
  if x2 = 0 then (j30 () h3)
  else gFr h3 a0 18 1 fun v31 =>
  gAi h3 v31 0 ((148 : Int32) + a1) fun v32 =>
  if v32 ≤ 0 then (j30 () h3)
  else gFr h3 a0 18 1 fun v33 =>
  gAi h3 v33 0 ((168 : Int32) + a1) fun v34 =>
  gFr h3 a0 18 1 fun v35 =>
  gAi h3 v35 0 (90 : Int32) fun v36 =>
  if v34 = v36 then (j30 () h3)
  else j8 (1 : Int32) h3) fun j4 =>
  gJ (fun (x37 : Unit) (h38 : Hp) =>
  j4 (0 : Int32) h38) fun j39 =>
  if v1 = 0 then (j39 () h)
  else bV h a0 18 (fun q45 => sX2_isCabin G N (some q45) a1 h) fun v40 h41 =>
  if v40 = 0 then (j39 () h41)
  else bV h41 a0 18 (fun q44 => sX2_isSlope G N (some q44) a2 h41) fun v42 h43 =>
  if v42 = 0 then (j39 () h43)
  else j4 (1 : Int32) h43
abbrev mX2_flare : MI := (RX2, cX2_flare, 5, (some .int), [], 6, 141, "flare")
theorem tX2_flare {G : GG} {l : Launch} (hs : l.stackTraces = false) {N : Nat} {a0 : Option Nat} {a1 : Int32} {a2 : Int32} {a3 : Int32} {h : Hp} {r : Int32 ⊕ Nat} {hf : Hp} (ho : sX2_flare G N a0 a1 a2 a3 h = some (r, hf)) : gMet G l yX2_flare (ws_ yX2_flare cX2_flare 5 (some .int)) 6 141 [gr a0, gi a1, gi a2, gi a3] h cvI r hf := by
  refine gMet.of ho hs (plainFor_of_name pn_X2) rfl rfl (gbl rfl) fun X => ?_
  show gT G l X mX2_flare cvI r hf 0 [(0, gr a0), (1, gi a1), (2, gi a2), (3, gi a3)] [] h (sX2_flare G N a0 a1 a2 a3 h)
  delta sX2_flare
  refine g_aload_n (pc := 0) (x := a0) 0 rfl rfl dX2_flare_0 ?_
  refine g_getfi (pc := 1) k_18 (gblt rfl) lk_X2_184_18 dX2_flare_1 fun v1 => ?_
  refine g_join 28 (fun (x2 : Int32) => [(0, gr a0), (1, gi a1), (2, gi a2), (3, gi a3)]) (fun (x2 : Int32) => [gi x2]) (fun x2 h3 => ?_) (fun j4 Hj4 => ?_)
  · refine g_istore (pc := 28) (lv' := [(4, gi x2), (0, gr a0), (1, gi a1), (2, gi a2), (3, gi a3)]) [0, 1, 2, 3, 4] rfl (gblt rfl) dX2_flare_28 ?_
    refine g_aload_n (pc := 30) (x := a0) 1 rfl rfl dX2_flare_30 ?_
    refine g_aload_n (pc := 31) (x := a0) 1 rfl rfl dX2_flare_31 ?_
    refine g_getfi (pc := 32) k_18 (gblt rfl) lk_X2_184_18 dX2_flare_32 fun v5 => ?_
    refine g_iload (pc := 35) (x := x2) 0 rfl dX2_flare_35 ?_
    refine g_iload (pc := 37) (x := x2) 0 rfl dX2_flare_37 ?_
    refine g_join 80 (fun (x6 : Int32) => [(0, gr a0), (1, gi a1), (2, gi a2), (3, gi a3)]) (fun (x6 : Int32) => [gi x6, gi x2, gi v5, gr a0]) (fun x6 h7 => ?_) (fun j8 Hj8 => ?_)
    · refine g_bVi (pc := 80) (y := yX2_may) (ws := ws_ yX2_may cX2_may 4 (some .boolean)) (fr := 0) (lo := 0) (as := [gi v5, gi x2, gi x6]) (st := []) (g_no) rfl (fun _ _ _ e => tX2_may hs e) (fun K _ _ _ hq hM R e1 e2 => g_runV (M := mX2_flare) (pc := 80) (y := yX2_may) (bytes := cX2_may) (maxL := 4) (ret := (some .boolean)) (fr := 0) (lo := 0) (as := [gi v5, gi x2, gi x6]) (st := []) hq (C := "FlareSlopesModel") rfl gy_X2_may (gbl rfl) (gbl rfl) (gbl rfl) q4040 q4042 qs54 dX2_flare_80 K hM R e1 e2) fun v9 h10 => ?_
      refine g_if_ne (pc := 83) (tgt := 88) rfl dX2_flare_83 ?_ ?_
      · refine g_iconst (pc := 86) (v := (0 : Int32)) ic_0 dX2_flare_86 ?_
        exact g_ireturn (pc := 87) rfl dX2_flare_87
      refine g_aload_n (pc := 88) (x := a0) 0 rfl rfl dX2_flare_88 ?_
      refine g_bVu (pc := 89) (y := yX2_remembers) (ws := ws_ yX2_remembers cX2_remembers 2 none) (fr := 1) (lo := 24) (as := []) (st := []) (g_no) rfl (fun _ _ _ e => tX2_remembers hs e) (fun K _ _ _ hq hM R e1 e2 => g_runV (M := mX2_flare) (pc := 89) (y := yX2_remembers) (bytes := cX2_remembers) (maxL := 2) (ret := none) (fr := 1) (lo := 24) (as := []) (st := []) hq (C := "FlareSlopesModel") rfl gy_X2_remembers (gbl rfl) (gbl rfl) (gbl rfl) q4555 q4557 qs125 dX2_flare_89 K hM R e1 e2) fun v11 h12 => ?_
      refine g_aload_n (pc := 92) (x := a0) 0 rfl rfl dX2_flare_92 ?_
      refine g_getfr (pc := 93) k_18 (gblt rfl) lk_X2_9_18 dX2_flare_93 fun v13 => ?_
      refine g_sipush (pc := 96) (v := (148 : Int32)) sc_148 dX2_flare_96 ?_
      refine g_iload_n (pc := 99) (x := a1) 1 rfl rfl dX2_flare_99 ?_
      refine g_iadd (pc := 100) dX2_flare_100 ?_
      refine g_dup2 (pc := 101) rfl rfl dX2_flare_101 ?_
      refine g_iaload (pc := 102) rfl dX2_flare_102 fun v14 => ?_
      refine g_iconst (pc := 103) (v := (1 : Int32)) ic_1 dX2_flare_103 ?_
      refine g_isub (pc := 104) dX2_flare_104 ?_
      refine g_iastore (pc := 105) rfl dX2_flare_105 fun h15 => ?_
      refine g_aload_n (pc := 106) (x := a0) 0 rfl rfl dX2_flare_106 ?_
      refine g_getfr (pc := 107) k_18 (gblt rfl) lk_X2_9_18 dX2_flare_107 fun v16 => ?_
      refine g_sipush (pc := 110) (v := (168 : Int32)) sc_168 dX2_flare_110 ?_
      refine g_iload_n (pc := 113) (x := a1) 1 rfl rfl dX2_flare_113 ?_
      refine g_iadd (pc := 114) dX2_flare_114 ?_
      refine g_aload_n (pc := 115) (x := a0) 0 rfl rfl dX2_flare_115 ?_
      refine g_getfr (pc := 116) k_18 (gblt rfl) lk_X2_9_18 dX2_flare_116 fun v17 => ?_
      refine g_bipush (pc := 119) (v := (90 : Int32)) bc_90 dX2_flare_119 ?_
      refine g_iaload (pc := 121) rfl dX2_flare_121 fun v18 => ?_
      refine g_iastore (pc := 122) rfl dX2_flare_122 fun h19 => ?_
      refine g_aload_n (pc := 123) (x := a0) 0 rfl rfl dX2_flare_123 ?_
      refine g_getfr (pc := 124) k_18 (gblt rfl) lk_X2_9_18 dX2_flare_124 fun v20 => ?_
      refine g_bipush (pc := 127) (v := (91 : Int32)) bc_91 dX2_flare_127 ?_
      refine g_dup2 (pc := 129) rfl rfl dX2_flare_129 ?_
      refine g_iaload (pc := 130) rfl dX2_flare_130 fun v21 => ?_
      refine g_iconst (pc := 131) (v := (1 : Int32)) ic_1 dX2_flare_131 ?_
      refine g_iadd (pc := 132) dX2_flare_132 ?_
      refine g_iastore (pc := 133) rfl dX2_flare_133 fun h22 => ?_
      refine g_aload_n (pc := 134) (x := a0) 0 rfl rfl dX2_flare_134 ?_
      refine g_iload_n (pc := 135) (x := a1) 1 rfl rfl dX2_flare_135 ?_
      refine g_iload_n (pc := 136) (x := a2) 2 rfl rfl dX2_flare_136 ?_
      refine g_iload_n (pc := 137) (x := a3) 3 rfl rfl dX2_flare_137 ?_
      refine g_bVi (pc := 138) (y := yX2_shows) (ws := ws_ yX2_shows cX2_shows 6 (some .int)) (fr := 5) (lo := 116) (as := [gi a1, gi a2, gi a3]) (st := []) (g_no) rfl (fun _ _ _ e => tX2_shows hs e) (fun K _ _ _ hq hM R e1 e2 => g_runV (M := mX2_flare) (pc := 138) (y := yX2_shows) (bytes := cX2_shows) (maxL := 6) (ret := (some .int)) (fr := 5) (lo := 116) (as := [gi a1, gi a2, gi a3]) (st := []) hq (C := "FlareSlopesModel") rfl gy_X2_shows (gbl rfl) (gbl rfl) (gbl rfl) q4507 q4509 qs121 dX2_flare_138 K hM R e1 e2) fun v23 h24 => ?_
      exact g_ireturn (pc := 141) rfl dX2_flare_141
    refine g_join 79 (fun (x28 : Unit) => [(0, gr a0), (1, gi a1), (2, gi a2), (3, gi a3)]) (fun (x28 : Unit) => [gi x2, gi v5, gr a0]) (fun x28 h29 => ?_) (fun j30 Hj30 => ?_)
    · refine g_iconst (pc := 79) (v := (0 : Int32)) ic_0 dX2_flare_79 ?_
      exact Hj8 (0 : Int32) h29
    refine g_if_eq (pc := 39) (tgt := 79) rfl dX2_flare_39 ?_ ?_
    · exact g_sub [1, 2, 3, 4] rfl (Hj30 () h3)
    refine g_aload_n (pc := 42) (x := a0) 1 rfl rfl dX2_flare_42 ?_
    refine g_getfr (pc := 43) k_18 (gblt rfl) lk_X2_9_18 dX2_flare_43 fun v31 => ?_
    refine g_sipush (pc := 46) (v := (148 : Int32)) sc_148 dX2_flare_46 ?_
    refine g_iload_n (pc := 49) (x := a1) 2 rfl rfl dX2_flare_49 ?_
    refine g_iadd (pc := 50) dX2_flare_50 ?_
    refine g_iaload (pc := 51) rfl dX2_flare_51 fun v32 => ?_
    refine g_if_le (pc := 52) (tgt := 79) rfl dX2_flare_52 ?_ ?_
    · exact g_sub [1, 2, 3, 4] rfl (Hj30 () h3)
    refine g_aload_n (pc := 55) (x := a0) 1 rfl rfl dX2_flare_55 ?_
    refine g_getfr (pc := 56) k_18 (gblt rfl) lk_X2_9_18 dX2_flare_56 fun v33 => ?_
    refine g_sipush (pc := 59) (v := (168 : Int32)) sc_168 dX2_flare_59 ?_
    refine g_iload_n (pc := 62) (x := a1) 2 rfl rfl dX2_flare_62 ?_
    refine g_iadd (pc := 63) dX2_flare_63 ?_
    refine g_iaload (pc := 64) rfl dX2_flare_64 fun v34 => ?_
    refine g_aload_n (pc := 65) (x := a0) 1 rfl rfl dX2_flare_65 ?_
    refine g_getfr (pc := 66) k_18 (gblt rfl) lk_X2_9_18 dX2_flare_66 fun v35 => ?_
    refine g_bipush (pc := 69) (v := (90 : Int32)) bc_90 dX2_flare_69 ?_
    refine g_iaload (pc := 71) rfl dX2_flare_71 fun v36 => ?_
    refine g_icmp_eq (pc := 72) (tgt := 79) rfl dX2_flare_72 ?_ ?_
    · exact g_sub [1, 2, 3, 4] rfl (Hj30 () h3)
    refine g_iconst (pc := 75) (v := (1 : Int32)) ic_1 dX2_flare_75 ?_
    refine g_goto (pc := 76) (tgt := 80) rfl dX2_flare_76 ?_
    exact g_sub [1, 2, 3, 4] rfl (Hj8 (1 : Int32) h3)
  refine g_join 27 (fun (x37 : Unit) => [(0, gr a0), (1, gi a1), (2, gi a2), (3, gi a3)]) (fun (x37 : Unit) => []) (fun x37 h38 => ?_) (fun j39 Hj39 => ?_)
  · refine g_iconst (pc := 27) (v := (0 : Int32)) ic_0 dX2_flare_27 ?_
    exact Hj4 (0 : Int32) h38
  refine g_if_eq (pc := 4) (tgt := 27) rfl dX2_flare_4 ?_ ?_
  · exact Hj39 () h
  refine g_aload_n (pc := 7) (x := a0) 0 rfl rfl dX2_flare_7 ?_
  refine g_iload_n (pc := 8) (x := a1) 1 rfl rfl dX2_flare_8 ?_
  refine g_bVi (pc := 9) (y := yX2_isCabin) (ws := ws_ yX2_isCabin cX2_isCabin 2 (some .boolean)) (fr := 1) (lo := 22) (as := [gi a1]) (st := []) (g_no) rfl (fun _ _ _ e => tX2_isCabin hs e) (fun K _ _ _ hq hM R e1 e2 => g_runV (M := mX2_flare) (pc := 9) (y := yX2_isCabin) (bytes := cX2_isCabin) (maxL := 2) (ret := (some .boolean)) (fr := 1) (lo := 22) (as := [gi a1]) (st := []) hq (C := "FlareSlopesModel") rfl gy_X2_isCabin (gbl rfl) (gbl rfl) (gbl rfl) q4214 q4216 qs87 dX2_flare_9 K hM R e1 e2) fun v40 h41 => ?_
  refine g_if_eq (pc := 12) (tgt := 27) rfl dX2_flare_12 ?_ ?_
  · exact Hj39 () h41
  refine g_aload_n (pc := 15) (x := a0) 0 rfl rfl dX2_flare_15 ?_
  refine g_iload_n (pc := 16) (x := a2) 2 rfl rfl dX2_flare_16 ?_
  refine g_bVi (pc := 17) (y := yX2_isSlope) (ws := ws_ yX2_isSlope cX2_isSlope 2 (some .boolean)) (fr := 1) (lo := 22) (as := [gi a2]) (st := []) (g_no) rfl (fun _ _ _ e => tX2_isSlope hs e) (fun K _ _ _ hq hM R e1 e2 => g_runV (M := mX2_flare) (pc := 17) (y := yX2_isSlope) (bytes := cX2_isSlope) (maxL := 2) (ret := (some .boolean)) (fr := 1) (lo := 22) (as := [gi a2]) (st := []) hq (C := "FlareSlopesModel") rfl gy_X2_isSlope (gbl rfl) (gbl rfl) (gbl rfl) q4245 q4247 qs93 dX2_flare_17 K hM R e1 e2) fun v42 h43 => ?_
  refine g_if_eq (pc := 20) (tgt := 27) rfl dX2_flare_20 ?_ ?_
  · exact Hj39 () h43
  refine g_iconst (pc := 23) (v := (1 : Int32)) ic_1 dX2_flare_23 ?_
  refine g_goto (pc := 24) (tgt := 28) rfl dX2_flare_24 ?_
  exact Hj4 (1 : Int32) h43
/-! FlareSlopes$Cabin.trusts(I)V -/
noncomputable def sX12_trusts (G : GG) (N : Nat) (a0 : Option Nat) (a1 : Int32) (h : Hp) : Out (Unit) :=
  gFi h a0 7 3 fun v1 =>
  bnd (sJ14_min G N (100 : Int32) (v1 + a1) h) fun v2 h3 =>
  bnd (sJ14_max G N (0 : Int32) v2 h3) fun v4 h5 =>
  gP G h5 a0 7 3 (.int v4) fun h6 =>
  some (.inl (), h6)
abbrev mX12_trusts : MI := (RX12, cX12_trusts, 2, none, [], 1, 21, "trusts")
theorem tX12_trusts {G : GG} {l : Launch} (hs : l.stackTraces = false) {N : Nat} {a0 : Option Nat} {a1 : Int32} {h : Hp} {r : Unit ⊕ Nat} {hf : Hp} (ho : sX12_trusts G N a0 a1 h = some (r, hf)) : gMet G l yX12_trusts (ws_ yX12_trusts cX12_trusts 2 none) 1 21 [gr a0, gi a1] h cvU r hf := by
  refine gMet.of ho hs (plainFor_of_name pn_X12) rfl rfl (gbl rfl) fun X => ?_
  show gT G l X mX12_trusts cvU r hf 0 [(0, gr a0), (1, gi a1)] [] h (sX12_trusts G N a0 a1 h)
  delta sX12_trusts
  refine g_aload_n (pc := 0) (x := a0) 0 rfl rfl dX12_trusts_0 ?_
  refine g_iconst (pc := 1) (v := (0 : Int32)) ic_0 dX12_trusts_1 ?_
  refine g_bipush (pc := 2) (v := (100 : Int32)) bc_100 dX12_trusts_2 ?_
  refine g_aload_n (pc := 4) (x := a0) 0 rfl rfl dX12_trusts_4 ?_
  refine g_getfi (pc := 5) k_7 (gblt rfl) lk_X12_9_7 dX12_trusts_5 fun v1 => ?_
  refine g_iload_n (pc := 8) (x := a1) 1 rfl rfl dX12_trusts_8 ?_
  refine g_iadd (pc := 9) dX12_trusts_9 ?_
  refine g_bi (pc := 10) (y := yJ14_min) (ws := ws_ yJ14_min cJ14_min 2 (some .int)) (fr := 0) (lo := 0) (as := [gi (100 : Int32), gi (v1 + a1)]) (st := [gi (0 : Int32), gr a0]) (g_no) rfl (fun _ _ e => tJ14_min hs e) (fun K _ _ hM R e1 e2 => g_runS (M := mX12_trusts) (pc := 10) (y := yJ14_min) (bytes := cJ14_min) (maxL := 2) (ret := (some .int)) (fr := 0) (lo := 0) (as := [gi (100 : Int32), gi (v1 + a1)]) (st := [gi (0 : Int32), gr a0]) gy_J14_min (gbl rfl) (gbl rfl) (gbl rfl) q3792 q656 dX12_trusts_10 K hM R e1 e2) fun v2 h3 => ?_
  refine g_bi (pc := 13) (y := yJ14_max) (ws := ws_ yJ14_max cJ14_max 2 (some .int)) (fr := 0) (lo := 0) (as := [gi (0 : Int32), gi v2]) (st := [gr a0]) (g_no) rfl (fun _ _ e => tJ14_max hs e) (fun K _ _ hM R e1 e2 => g_runS (M := mX12_trusts) (pc := 13) (y := yJ14_max) (bytes := cJ14_max) (maxL := 2) (ret := (some .int)) (fr := 0) (lo := 0) (as := [gi (0 : Int32), gi v2]) (st := [gr a0]) gy_J14_max (gbl rfl) (gbl rfl) (gbl rfl) q3793 q638 dX12_trusts_13 K hM R e1 e2) fun v4 h5 => ?_
  refine g_put (pc := 16) k_7 (gblt rfl) lk_X12_9_7 rfl rfl (gNi _) dX12_trusts_16 fun h6 => ?_
  exact g_return (pc := 19) rfl dX12_trusts_19
/-! FlareSlopes$State.inspects(II)I -/
noncomputable def bX3_inspects_15 (G : GG) (N : Nat) (a0 : Option Nat) (a2 : Int32) (v3 : Option Nat) (j6 : (Int32) → Hp → Out (Int32)) (w28 : (Int32 × Int32) → Hp → Out (Int32)) (x26 : Int32 × Int32) (h27 : Hp) : Out (Int32) :=
  bV h27 a0 16 (fun q65 => sX3_size G N (some q65) h27) fun v29 h30 =>
  if v29 ≤ x26.2 then (j6 x26.1 h30)
  else gNew h30 10 [.int 0, .int 0] 2 fun v31 h32 =>
  bI v31 (fun q64 => sX7_init G N (some q64) x26.2 a2 h32) fun v33 h34 =>
  bV h34 v3 26 (fun q63 => sJ24_get G N (some q63) v31 h34) fun v35 h36 =>
  gCk h36 v35 [17] (gJ (fun (x37 : Int32) (h38 : Hp) =>
  w28 (x37, x26.2 + (1 : Int32)) h38) fun j39 =>
  if v35 = none then (j39 x26.1 h36)
  else bV h36 a0 16 (fun q62 => sX3_isDangerous G N (some q62) a2 h36) fun v40 h41 =>
  bV h41 v35 17 (fun q61 => sX17_isFalse G N (some q61) v40 h41) fun v42 h43 =>
  if v42 = 0 then (bV h43 a0 16 (fun q49 => sX3_cabin G N (some q49) x26.2 h43) fun v44 h45 =>
  bV h45 v44 7 (fun q48 => sX12_trusts G N (some q48) (1 : Int32) h45) fun v46 h47 =>
  j39 x26.1 h47)
  else bV h43 a0 16 (fun q60 => sX3_cabin G N (some q60) x26.2 h43) fun v50 h51 =>
  gFr h51 a0 16 2 fun v52 =>
  gAi h51 v52 0 (5 : Int32) fun v53 =>
  bV h51 v50 7 (fun q59 => sX12_trusts G N (some q59) (-v53) h51) fun v54 h55 =>
  bV h55 v3 26 (fun q58 => sJ23_remove_c26 G N (some q58) v31 h55) fun v56 h57 =>
  gCk h57 v56 [17] (j39 (x26.1 + (1 : Int32)) h57))
noncomputable def sX3_inspects (G : GG) (N : Nat) (a0 : Option Nat) (a1 : Int32) (a2 : Int32) (h : Hp) : Out (Int32) :=
  bV h a0 16 (fun q66 => sX3_cabin G N (some q66) a1 h) fun v1 h2 =>
  gFr h2 v1 7 8 fun v3 =>
  gJ (fun (x4 : Int32) (h5 : Hp) =>
  gNew h5 10 [.int 0, .int 0] 2 fun v7 h8 =>
  bI v7 (fun q25 => sX7_init G N (some q25) a1 a2 h8) fun v9 h10 =>
  gNew h10 17 [.int 0, .int 0] 2 fun v11 h12 =>
  bV h12 a0 16 (fun q24 => sX3_isDangerous G N (some q24) a2 h12) fun v13 h14 =>
  gFi h14 a0 16 4 fun v15 =>
  bI v11 (fun q23 => sX17_init G N (some q23) v13 v15 h14) fun v16 h17 =>
  bV h17 v3 26 (fun q22 => sJ23_put_c26 G N (some q22) v7 v11 h17) fun v18 h19 =>
  gFi h19 a0 16 8 fun v20 =>
  gP G h19 a0 16 8 (.int (v20 + x4)) fun h21 =>
  some (.inl x4, h21)) fun j6 =>
  gLp (bX3_inspects_15 G N a0 a2 v3 j6) N ((0 : Int32), (0 : Int32)) h2
abbrev mX3_inspects : MI := (RX3, cX3_inspects, 9, (some .int), [], 6, 139, "inspects")
theorem tX3_inspects {G : GG} {l : Launch} (hs : l.stackTraces = false) {N : Nat} {a0 : Option Nat} {a1 : Int32} {a2 : Int32} {h : Hp} {r : Int32 ⊕ Nat} {hf : Hp} (ho : sX3_inspects G N a0 a1 a2 h = some (r, hf)) : gMet G l yX3_inspects (ws_ yX3_inspects cX3_inspects 9 (some .int)) 6 139 [gr a0, gi a1, gi a2] h cvI r hf := by
  refine gMet.of ho hs (plainFor_of_name pn_X3) rfl rfl (gbl rfl) fun X => ?_
  show gT G l X mX3_inspects cvI r hf 0 [(0, gr a0), (1, gi a1), (2, gi a2)] [] h (sX3_inspects G N a0 a1 a2 h)
  delta sX3_inspects
  refine g_aload_n (pc := 0) (x := a0) 0 rfl rfl dX3_inspects_0 ?_
  refine g_iload_n (pc := 1) (x := a1) 1 rfl rfl dX3_inspects_1 ?_
  refine g_bVr (pc := 2) (y := yX3_cabin) (ws := ws_ yX3_cabin cX3_cabin 2 (some (.object "FlareSlopes$Cabin"))) (fr := 3) (lo := 64) (as := [gi a1]) (st := []) (g_no) rfl (fun _ _ _ e => tX3_cabin hs e) (fun K _ _ _ hq hM R e1 e2 => g_runV (M := mX3_inspects) (pc := 2) (y := yX3_cabin) (bytes := cX3_cabin) (maxL := 2) (ret := (some (.object "FlareSlopes$Cabin"))) (fr := 3) (lo := 64) (as := [gi a1]) (st := []) hq (C := "FlareSlopes$State") rfl gy_X3_cabin (gbl rfl) (gbl rfl) (gbl rfl) q1638 q1639 q1640 dX3_inspects_2 K hM R e1 e2) fun v1 h2 => ?_
  refine g_getfr (pc := 5) k_7 (gblt rfl) lk_X3_188_7 dX3_inspects_5 fun v3 => ?_
  refine g_astore_n (pc := 8) (lv' := [(3, gr v3), (0, gr a0), (1, gi a1), (2, gi a2)]) [0, 1, 2, 3] rfl rfl (gblt rfl) dX3_inspects_8 ?_
  refine g_iconst (pc := 9) (v := (0 : Int32)) ic_0 dX3_inspects_9 ?_
  refine g_istore (pc := 10) (lv' := [(4, gi (0 : Int32)), (3, gr v3), (0, gr a0), (1, gi a1), (2, gi a2)]) [0, 1, 2, 3, 4] rfl (gblt rfl) dX3_inspects_10 ?_
  refine g_iconst (pc := 12) (v := (0 : Int32)) ic_0 dX3_inspects_12 ?_
  refine g_istore (pc := 13) (lv' := [(5, gi (0 : Int32)), (4, gi (0 : Int32)), (3, gr v3), (0, gr a0), (1, gi a1), (2, gi a2)]) [0, 1, 2, 3, 4, 5] rfl (gblt rfl) dX3_inspects_13 ?_
  refine g_join 121 (fun (x4 : Int32) => [(0, gr a0), (1, gi a1), (2, gi a2), (3, gr v3), (4, gi x4)]) (fun (x4 : Int32) => []) (fun x4 h5 => ?_) (fun j6 Hj6 => ?_)
  · refine g_aload_n (pc := 121) (x := v3) 3 rfl rfl dX3_inspects_121 ?_
    refine g_new (pc := 122) k_10 df_10 q3619 q493 q147 dX3_inspects_122 fun v7 h8 => ?_
    refine g_dup (pc := 125) rfl dX3_inspects_125 ?_
    refine g_iload_n (pc := 126) (x := a1) 1 rfl rfl dX3_inspects_126 ?_
    refine g_iload_n (pc := 127) (x := a2) 2 rfl rfl dX3_inspects_127 ?_
    refine g_bIu (pc := 128) (y := yX7_init) (ws := ws_ yX7_init cX7_init 3 none) (fr := 1) (lo := 12) (as := [gi a1, gi a2]) (st := [gr v7, gr v3]) (g_no) rfl (fun _ _ _ e => tX7_init hs e) (fun K _ _ _ hM R e1 e2 => g_runI (M := mX3_inspects) (pc := 128) (y := yX7_init) (bytes := cX7_init) (maxL := 3) (ret := none) (fr := 1) (lo := 12) (as := [gi a1, gi a2]) (st := [gr v7, gr v3]) gy_X7_init (gbl rfl) (gbl rfl) (gbl rfl) rfl q3620 q495 rfl dX3_inspects_128 K hM R e1 e2) fun v9 h10 => ?_
    refine g_new (pc := 131) k_17 df_17 q2322 q3621 q198 dX3_inspects_131 fun v11 h12 => ?_
    refine g_dup (pc := 134) rfl dX3_inspects_134 ?_
    refine g_aload_n (pc := 135) (x := a0) 0 rfl rfl dX3_inspects_135 ?_
    refine g_iload_n (pc := 136) (x := a2) 2 rfl rfl dX3_inspects_136 ?_
    refine g_bVi (pc := 137) (y := yX3_isDangerous) (ws := ws_ yX3_isDangerous cX3_isDangerous 2 (some .boolean)) (fr := 1) (lo := 21) (as := [gi a2]) (st := [gr v11, gr v11, gr v7, gr v3]) (g_no) rfl (fun _ _ _ e => tX3_isDangerous hs e) (fun K _ _ _ hq hM R e1 e2 => g_runV (M := mX3_inspects) (pc := 137) (y := yX3_isDangerous) (bytes := cX3_isDangerous) (maxL := 2) (ret := (some .boolean)) (fr := 1) (lo := 21) (as := [gi a2]) (st := [gr v11, gr v11, gr v7, gr v3]) hq (C := "FlareSlopes$State") rfl gy_X3_isDangerous (gbl rfl) (gbl rfl) (gbl rfl) q3786 q2333 q2334 dX3_inspects_137 K hM R e1 e2) fun v13 h14 => ?_
    refine g_aload_n (pc := 140) (x := a0) 0 rfl rfl dX3_inspects_140 ?_
    refine g_getfi (pc := 141) k_16 (gblt rfl) lk_X3_98_16 dX3_inspects_141 fun v15 => ?_
    refine g_bIu (pc := 144) (y := yX17_init) (ws := ws_ yX17_init cX17_init 3 none) (fr := 1) (lo := 12) (as := [gi v13, gi v15]) (st := [gr v11, gr v7, gr v3]) (g_no) rfl (fun _ _ _ e => tX17_init hs e) (fun K _ _ _ hM R e1 e2 => g_runI (M := mX3_inspects) (pc := 144) (y := yX17_init) (bytes := cX17_init) (maxL := 3) (ret := none) (fr := 1) (lo := 12) (as := [gi v13, gi v15]) (st := [gr v11, gr v7, gr v3]) gy_X17_init (gbl rfl) (gbl rfl) (gbl rfl) rfl q3622 q3623 rfl dX3_inspects_144 K hM R e1 e2) fun v16 h17 => ?_
    refine g_bVr (pc := 147) (y := yJ23_put) (ws := ws_ yJ23_put cJ23_put 3 (some (.object "java/lang/Object"))) (fr := 5) (lo := 117) (as := [gr v7, gr v11]) (st := []) (g_no) rfl (fun _ _ _ e => tJ23_put_c26 hs e) (fun K _ _ _ hq hM R e1 e2 => g_runF (x := ⟨"java/util/Map", "put", "(Ljava/lang/Object;Ljava/lang/Object;)Ljava/lang/Object;"⟩) (M := mX3_inspects) (pc := 147) (y := yJ23_put) (bytes := cJ23_put) (maxL := 3) (ret := (some (.object "java/lang/Object"))) (fr := 5) (lo := 117) (as := [gr v7, gr v11]) (st := []) hq (C := "java/util/LinkedHashMap") rfl gy_J23_put rfl (gbl rfl) (gbl rfl) (gbl rfl) q3638 q3491 q3490 q3494 q3493 q1613 mhx_java_util_Map q3492 q2825 dX3_inspects_147 K hM R e1 e2) fun v18 h19 => ?_
    refine g_pop (pc := 152) rfl dX3_inspects_152 ?_
    refine g_aload_n (pc := 153) (x := a0) 0 rfl rfl dX3_inspects_153 ?_
    refine g_dup (pc := 154) rfl dX3_inspects_154 ?_
    refine g_getfi (pc := 155) k_16 (gblt rfl) lk_X3_111_16 dX3_inspects_155 fun v20 => ?_
    refine g_iload (pc := 158) (x := x4) 4 rfl dX3_inspects_158 ?_
    refine g_iadd (pc := 160) dX3_inspects_160 ?_
    refine g_put (pc := 161) k_16 (gblt rfl) lk_X3_111_16 rfl rfl (gNi _) dX3_inspects_161 fun h21 => ?_
    refine g_iload (pc := 164) (x := x4) 4 rfl dX3_inspects_164 ?_
    exact g_ireturn (pc := 166) rfl dX3_inspects_166
  refine g_sub (lv' := [(0, gr a0), (1, gi a1), (2, gi a2), (3, gr v3), (4, gi (0 : Int32)), (5, gi (0 : Int32))]) [3, 4, 5, 2, 1, 0] rfl ?_
  refine g_loop (pc := 15) (fun (x26 : Int32 × Int32) => [(0, gr a0), (1, gi a1), (2, gi a2), (3, gr v3), (4, gi x26.1), (5, gi x26.2)]) (fun (_ : Int32 × Int32) => []) (fun w28 Hw28 x26 h27 => ?_) N ((0 : Int32), (0 : Int32)) h2
  delta bX3_inspects_15
  refine g_iload (pc := 15) (x := x26.2) 5 rfl dX3_inspects_15 ?_
  refine g_aload_n (pc := 17) (x := a0) 0 rfl rfl dX3_inspects_17 ?_
  refine g_bVi (pc := 18) (y := yX3_size) (ws := ws_ yX3_size cX3_size 1 (some .int)) (fr := 1) (lo := 20) (as := []) (st := [gi x26.2]) (g_no) rfl (fun _ _ _ e => tX3_size hs e) (fun K _ _ _ hq hM R e1 e2 => g_runV (M := mX3_inspects) (pc := 18) (y := yX3_size) (bytes := cX3_size) (maxL := 1) (ret := (some .int)) (fr := 1) (lo := 20) (as := []) (st := [gi x26.2]) hq (C := "FlareSlopes$State") rfl gy_X3_size (gbl rfl) (gbl rfl) (gbl rfl) q1633 q1412 q1413 dX3_inspects_18 K hM R e1 e2) fun v29 h30 => ?_
  refine g_icmp_ge (pc := 21) (tgt := 121) rfl dX3_inspects_21 ?_ ?_
  · exact g_sub [0, 1, 2, 3, 4] rfl (Hj6 x26.1 h30)
  refine g_new (pc := 24) k_10 df_10 q3619 q493 q147 dX3_inspects_24 fun v31 h32 => ?_
  refine g_dup (pc := 27) rfl dX3_inspects_27 ?_
  refine g_iload (pc := 28) (x := x26.2) 5 rfl dX3_inspects_28 ?_
  refine g_iload_n (pc := 30) (x := a2) 2 rfl rfl dX3_inspects_30 ?_
  refine g_bIu (pc := 31) (y := yX7_init) (ws := ws_ yX7_init cX7_init 3 none) (fr := 1) (lo := 12) (as := [gi x26.2, gi a2]) (st := [gr v31]) (g_no) rfl (fun _ _ _ e => tX7_init hs e) (fun K _ _ _ hM R e1 e2 => g_runI (M := mX3_inspects) (pc := 31) (y := yX7_init) (bytes := cX7_init) (maxL := 3) (ret := none) (fr := 1) (lo := 12) (as := [gi x26.2, gi a2]) (st := [gr v31]) gy_X7_init (gbl rfl) (gbl rfl) (gbl rfl) rfl q3620 q495 rfl dX3_inspects_31 K hM R e1 e2) fun v33 h34 => ?_
  refine g_astore (pc := 34) (lv' := [(6, gr v31), (0, gr a0), (1, gi a1), (2, gi a2), (3, gr v3), (4, gi x26.1), (5, gi x26.2)]) [0, 1, 2, 3, 4, 5, 6] rfl (gblt rfl) dX3_inspects_34 ?_
  refine g_aload_n (pc := 36) (x := v3) 4 rfl rfl dX3_inspects_36 ?_
  refine g_aload (pc := 37) (x := v31) 0 rfl dX3_inspects_37 ?_
  refine g_bVr (pc := 39) (y := yJ24_get) (ws := ws_ yJ24_get cJ24_get 3 (some (.object "java/lang/Object"))) (fr := 4) (lo := 88) (as := [gr v31]) (st := []) (g_no) rfl (fun _ _ _ e => tJ24_get hs e) (fun K _ _ _ hq hM R e1 e2 => g_runF (x := ⟨"java/util/Map", "get", "(Ljava/lang/Object;)Ljava/lang/Object;"⟩) (M := mX3_inspects) (pc := 39) (y := yJ24_get) (bytes := cJ24_get) (maxL := 3) (ret := (some (.object "java/lang/Object"))) (fr := 4) (lo := 88) (as := [gr v31]) (st := []) hq (C := "java/util/LinkedHashMap") rfl gy_J24_get rfl (gbl rfl) (gbl rfl) (gbl rfl) q1999 q2001 q2000 q2005 q2003 q1613 mhx_java_util_Map q2002 q2004 dX3_inspects_39 K hM R e1 e2) fun v35 h36 => ?_
  refine g_checkcast (pc := 44) q2322 as_17_FlareSlopes_Vote dX3_inspects_44 ?_
  refine g_astore (pc := 47) (lv' := [(7, gr v35), (6, gr v31), (0, gr a0), (1, gi a1), (2, gi a2), (3, gr v3), (4, gi x26.1), (5, gi x26.2)]) [0, 1, 2, 3, 4, 5, 6, 7] rfl (gblt rfl) dX3_inspects_47 ?_
  refine g_aload (pc := 49) (x := v35) 0 rfl dX3_inspects_49 ?_
  refine g_join 115 (fun (x37 : Int32) => [(0, gr a0), (1, gi a1), (2, gi a2), (3, gr v3), (4, gi x37), (5, gi x26.2)]) (fun (x37 : Int32) => []) (fun x37 h38 => ?_) (fun j39 Hj39 => ?_)
  · refine g_iinc (pc := 115) (v := x26.2 + (1 : Int32)) 5 rfl (ii_1 _) (lv' := [(5, gi (x26.2 + (1 : Int32))), (0, gr a0), (1, gi a1), (2, gi a2), (3, gr v3), (4, gi x37)]) [0, 1, 2, 3, 4, 5] rfl (gblt rfl) dX3_inspects_115 ?_
    refine g_goto (pc := 118) (tgt := 15) rfl dX3_inspects_118 ?_
    exact g_sub [1, 2, 3, 4, 5, 0] rfl (Hw28 (x37, x26.2 + (1 : Int32)) h38)
  refine g_ifnonnull (pc := 51) (tgt := 57) rfl dX3_inspects_51 ?_ ?_
  · refine g_goto (pc := 54) (tgt := 115) rfl dX3_inspects_54 ?_
    exact g_sub [2, 3, 4, 5, 6, 7] rfl (Hj39 x26.1 h36)
  refine g_aload (pc := 57) (x := v35) 0 rfl dX3_inspects_57 ?_
  refine g_aload_n (pc := 59) (x := a0) 2 rfl rfl dX3_inspects_59 ?_
  refine g_iload_n (pc := 60) (x := a2) 4 rfl rfl dX3_inspects_60 ?_
  refine g_bVi (pc := 61) (y := yX3_isDangerous) (ws := ws_ yX3_isDangerous cX3_isDangerous 2 (some .boolean)) (fr := 1) (lo := 21) (as := [gi a2]) (st := [gr v35]) (g_no) rfl (fun _ _ _ e => tX3_isDangerous hs e) (fun K _ _ _ hq hM R e1 e2 => g_runV (M := mX3_inspects) (pc := 61) (y := yX3_isDangerous) (bytes := cX3_isDangerous) (maxL := 2) (ret := (some .boolean)) (fr := 1) (lo := 21) (as := [gi a2]) (st := [gr v35]) hq (C := "FlareSlopes$State") rfl gy_X3_isDangerous (gbl rfl) (gbl rfl) (gbl rfl) q3786 q2333 q2334 dX3_inspects_61 K hM R e1 e2) fun v40 h41 => ?_
  refine g_bVi (pc := 64) (y := yX17_isFalse) (ws := ws_ yX17_isFalse cX17_isFalse 2 (some .boolean)) (fr := 0) (lo := 0) (as := [gi v40]) (st := []) (g_no) rfl (fun _ _ _ e => tX17_isFalse hs e) (fun K _ _ _ hq hM R e1 e2 => g_runV (M := mX3_inspects) (pc := 64) (y := yX17_isFalse) (bytes := cX17_isFalse) (maxL := 2) (ret := (some .boolean)) (fr := 0) (lo := 0) (as := [gi v40]) (st := []) hq (C := "FlareSlopes$Vote") rfl gy_X17_isFalse (gbl rfl) (gbl rfl) (gbl rfl) q3787 q2340 q2341 dX3_inspects_64 K hM R e1 e2) fun v42 h43 => ?_
  refine g_if_eq (pc := 67) (tgt := 105) rfl dX3_inspects_67 ?_ ?_
  · refine g_aload_n (pc := 105) (x := a0) 2 rfl rfl dX3_inspects_105 ?_
    refine g_iload (pc := 106) (x := x26.2) 7 rfl dX3_inspects_106 ?_
    refine g_bVr (pc := 108) (y := yX3_cabin) (ws := ws_ yX3_cabin cX3_cabin 2 (some (.object "FlareSlopes$Cabin"))) (fr := 3) (lo := 64) (as := [gi x26.2]) (st := []) (g_no) rfl (fun _ _ _ e => tX3_cabin hs e) (fun K _ _ _ hq hM R e1 e2 => g_runV (M := mX3_inspects) (pc := 108) (y := yX3_cabin) (bytes := cX3_cabin) (maxL := 2) (ret := (some (.object "FlareSlopes$Cabin"))) (fr := 3) (lo := 64) (as := [gi x26.2]) (st := []) hq (C := "FlareSlopes$State") rfl gy_X3_cabin (gbl rfl) (gbl rfl) (gbl rfl) q1638 q1639 q1640 dX3_inspects_108 K hM R e1 e2) fun v44 h45 => ?_
    refine g_iconst (pc := 111) (v := (1 : Int32)) ic_1 dX3_inspects_111 ?_
    refine g_bVu (pc := 112) (y := yX12_trusts) (ws := ws_ yX12_trusts cX12_trusts 2 none) (fr := 1) (lo := 21) (as := [gi (1 : Int32)]) (st := []) (g_no) rfl (fun _ _ _ e => tX12_trusts hs e) (fun K _ _ _ hq hM R e1 e2 => g_runV (M := mX3_inspects) (pc := 112) (y := yX12_trusts) (bytes := cX12_trusts) (maxL := 2) (ret := none) (fr := 1) (lo := 21) (as := [gi (1 : Int32)]) (st := []) hq (C := "FlareSlopes$Cabin") rfl gy_X12_trusts (gbl rfl) (gbl rfl) (gbl rfl) q3788 q3789 q3790 dX3_inspects_112 K hM R e1 e2) fun v46 h47 => ?_
    exact g_sub [2, 3, 4, 5, 6, 7] rfl (Hj39 x26.1 h47)
  refine g_aload_n (pc := 70) (x := a0) 2 rfl rfl dX3_inspects_70 ?_
  refine g_iload (pc := 71) (x := x26.2) 7 rfl dX3_inspects_71 ?_
  refine g_bVr (pc := 73) (y := yX3_cabin) (ws := ws_ yX3_cabin cX3_cabin 2 (some (.object "FlareSlopes$Cabin"))) (fr := 3) (lo := 64) (as := [gi x26.2]) (st := []) (g_no) rfl (fun _ _ _ e => tX3_cabin hs e) (fun K _ _ _ hq hM R e1 e2 => g_runV (M := mX3_inspects) (pc := 73) (y := yX3_cabin) (bytes := cX3_cabin) (maxL := 2) (ret := (some (.object "FlareSlopes$Cabin"))) (fr := 3) (lo := 64) (as := [gi x26.2]) (st := []) hq (C := "FlareSlopes$State") rfl gy_X3_cabin (gbl rfl) (gbl rfl) (gbl rfl) q1638 q1639 q1640 dX3_inspects_73 K hM R e1 e2) fun v50 h51 => ?_
  refine g_aload_n (pc := 76) (x := a0) 2 rfl rfl dX3_inspects_76 ?_
  refine g_getfr (pc := 77) k_16 (gblt rfl) lk_X3_18_16 dX3_inspects_77 fun v52 => ?_
  refine g_iconst (pc := 80) (v := (5 : Int32)) ic_5 dX3_inspects_80 ?_
  refine g_iaload (pc := 81) rfl dX3_inspects_81 fun v53 => ?_
  refine g_ineg (pc := 82) dX3_inspects_82 ?_
  refine g_bVu (pc := 83) (y := yX12_trusts) (ws := ws_ yX12_trusts cX12_trusts 2 none) (fr := 1) (lo := 21) (as := [gi (-v53)]) (st := []) (g_no) rfl (fun _ _ _ e => tX12_trusts hs e) (fun K _ _ _ hq hM R e1 e2 => g_runV (M := mX3_inspects) (pc := 83) (y := yX12_trusts) (bytes := cX12_trusts) (maxL := 2) (ret := none) (fr := 1) (lo := 21) (as := [gi (-v53)]) (st := []) hq (C := "FlareSlopes$Cabin") rfl gy_X12_trusts (gbl rfl) (gbl rfl) (gbl rfl) q3788 q3789 q3790 dX3_inspects_83 K hM R e1 e2) fun v54 h55 => ?_
  refine g_aload_n (pc := 86) (x := v3) 5 rfl rfl dX3_inspects_86 ?_
  refine g_aload (pc := 87) (x := v31) 1 rfl dX3_inspects_87 ?_
  refine g_bVr (pc := 89) (y := yJ23_remove) (ws := ws_ yJ23_remove cJ23_remove 3 (some (.object "java/lang/Object"))) (fr := 3) (lo := 74) (as := [gr v31]) (st := []) (g_no) rfl (fun _ _ _ e => tJ23_remove_c26 hs e) (fun K _ _ _ hq hM R e1 e2 => g_runF (x := ⟨"java/util/Map", "remove", "(Ljava/lang/Object;)Ljava/lang/Object;"⟩) (M := mX3_inspects) (pc := 89) (y := yJ23_remove) (bytes := cJ23_remove) (maxL := 3) (ret := (some (.object "java/lang/Object"))) (fr := 3) (lo := 74) (as := [gr v31]) (st := []) hq (C := "java/util/LinkedHashMap") rfl gy_J23_remove rfl (gbl rfl) (gbl rfl) (gbl rfl) q3795 q3537 q3536 q3541 q3539 q1613 mhx_java_util_Map q3538 q3540 dX3_inspects_89 K hM R e1 e2) fun v56 h57 => ?_
  refine g_checkcast (pc := 94) q2322 as_17_FlareSlopes_Vote dX3_inspects_94 ?_
  refine g_astore (pc := 97) (lv' := [(0, gr a0), (1, gi a1), (2, gi a2), (3, gr v3), (4, gi x26.1), (5, gi x26.2)]) [3, 4, 5, 6, 7, 8] rfl (gblt rfl) dX3_inspects_97 ?_
  refine g_iinc (pc := 99) (v := x26.1 + (1 : Int32)) 4 rfl (ii_1 _) (lv' := [(4, gi (x26.1 + (1 : Int32))), (0, gr a0), (1, gi a1), (2, gi a2), (3, gr v3), (5, gi x26.2)]) [0, 1, 2, 3, 4, 5] rfl (gblt rfl) dX3_inspects_99 ?_
  refine g_goto (pc := 102) (tgt := 115) rfl dX3_inspects_102 ?_
  exact g_sub [1, 2, 3, 4, 0, 5] rfl (Hj39 (x26.1 + (1 : Int32)) h57)
/-! FlareSlopes.inspect(II)I -/
noncomputable def sX1_inspect (G : GG) (N : Nat) (a0 : Option Nat) (a1 : Int32) (a2 : Int32) (h : Hp) : Out (Int32) :=
  bV h a0 3 (fun q15 => sX1_withBoth G N (some q15) a1 a2 h) fun v1 h2 =>
  gFr h2 a0 3 4 fun v3 =>
  bV h2 v3 16 (fun q14 => sX3_seesSlope G N (some q14) a1 a2 h2) fun v4 h5 =>
  bnd (sX1_checkArgument G N v4 h5) fun v6 h7 =>
  bV h7 a0 3 (fun q13 => sX1_change G N (some q13) h7) fun v8 h9 =>
  bV h9 v8 16 (fun q12 => sX3_inspects G N (some q12) a1 a2 h9) fun v10 h11 =>
  some (.inl v10, h11)
abbrev mX1_inspect : MI := (RX1, cX1_inspect, 4, (some .int), [], 10, 205, "inspect")
theorem tX1_inspect {G : GG} {l : Launch} (hs : l.stackTraces = false) {N : Nat} {a0 : Option Nat} {a1 : Int32} {a2 : Int32} {h : Hp} {r : Int32 ⊕ Nat} {hf : Hp} (ho : sX1_inspect G N a0 a1 a2 h = some (r, hf)) : gMet G l yX1_inspect (ws_ yX1_inspect cX1_inspect 4 (some .int)) 10 205 [gr a0, gi a1, gi a2] h cvI r hf := by
  refine gMet.of ho hs (plainFor_of_name pn_X1) rfl rfl (gbl rfl) fun X => ?_
  show gT G l X mX1_inspect cvI r hf 0 [(0, gr a0), (1, gi a1), (2, gi a2)] [] h (sX1_inspect G N a0 a1 a2 h)
  delta sX1_inspect
  refine g_aload_n (pc := 0) (x := a0) 0 rfl rfl dX1_inspect_0 ?_
  refine g_iload_n (pc := 1) (x := a1) 1 rfl rfl dX1_inspect_1 ?_
  refine g_iload_n (pc := 2) (x := a2) 2 rfl rfl dX1_inspect_2 ?_
  refine g_bVr (pc := 3) (y := yX1_withBoth) (ws := ws_ yX1_withBoth cX1_withBoth 4 (some (.object "FlareSlopes$Cabin"))) (fr := 9) (lo := 142) (as := [gi a1, gi a2]) (st := []) (g_no) rfl (fun _ _ _ e => tX1_withBoth hs e) (fun K _ _ _ hq hM R e1 e2 => g_runV (M := mX1_inspect) (pc := 3) (y := yX1_withBoth) (bytes := cX1_withBoth) (maxL := 4) (ret := (some (.object "FlareSlopes$Cabin"))) (fr := 9) (lo := 142) (as := [gi a1, gi a2]) (st := []) hq (C := "FlareSlopes") rfl gy_X1_withBoth (gbl rfl) (gbl rfl) (gbl rfl) q3141 q3143 qs45 dX1_inspect_3 K hM R e1 e2) fun v1 h2 => ?_
  refine g_astore_n (pc := 6) (lv' := [(0, gr a0), (1, gi a1), (2, gi a2)]) [1, 2, 3] rfl rfl (gblt rfl) dX1_inspect_6 ?_
  refine g_aload_n (pc := 7) (x := a0) 0 rfl rfl dX1_inspect_7 ?_
  refine g_getfr (pc := 8) k_3 (gblt rfl) lk_X1_56_3 dX1_inspect_8 fun v3 => ?_
  refine g_iload_n (pc := 11) (x := a1) 1 rfl rfl dX1_inspect_11 ?_
  refine g_iload_n (pc := 12) (x := a2) 2 rfl rfl dX1_inspect_12 ?_
  refine g_bVi (pc := 13) (y := yX3_seesSlope) (ws := ws_ yX3_seesSlope cX3_seesSlope 3 (some .boolean)) (fr := 6) (lo := 129) (as := [gi a1, gi a2]) (st := []) (g_no) rfl (fun _ _ _ e => tX3_seesSlope hs e) (fun K _ _ _ hq hM R e1 e2 => g_runV (M := mX1_inspect) (pc := 13) (y := yX3_seesSlope) (bytes := cX3_seesSlope) (maxL := 3) (ret := (some .boolean)) (fr := 6) (lo := 129) (as := [gi a1, gi a2]) (st := []) hq (C := "FlareSlopes$State") rfl gy_X3_seesSlope (gbl rfl) (gbl rfl) (gbl rfl) q2349 q2350 q2351 dX1_inspect_13 K hM R e1 e2) fun v4 h5 => ?_
  refine g_bu (pc := 16) (y := yX1_checkArgument) (ws := ws_ yX1_checkArgument cX1_checkArgument 1 none) (fr := 6) (lo := 81) (as := [gi v4]) (st := []) (g_no) rfl (fun _ _ e => tX1_checkArgument hs e) (fun K _ _ hM R e1 e2 => g_runS (M := mX1_inspect) (pc := 16) (y := yX1_checkArgument) (bytes := cX1_checkArgument) (maxL := 1) (ret := none) (fr := 6) (lo := 81) (as := [gi v4]) (st := []) gy_X1_checkArgument (gbl rfl) (gbl rfl) (gbl rfl) q1958 q1959 dX1_inspect_16 K hM R e1 e2) fun v6 h7 => ?_
  refine g_aload_n (pc := 19) (x := a0) 0 rfl rfl dX1_inspect_19 ?_
  refine g_bVr (pc := 20) (y := yX1_change) (ws := ws_ yX1_change cX1_change 1 (some (.object "FlareSlopes$State"))) (fr := 8) (lo := 185) (as := []) (st := []) (g_no) rfl (fun _ _ _ e => tX1_change hs e) (fun K _ _ _ hq hM R e1 e2 => g_runV (M := mX1_inspect) (pc := 20) (y := yX1_change) (bytes := cX1_change) (maxL := 1) (ret := (some (.object "FlareSlopes$State"))) (fr := 8) (lo := 185) (as := []) (st := []) hq (C := "FlareSlopes") rfl gy_X1_change (gbl rfl) (gbl rfl) (gbl rfl) q3752 q3754 qs52 dX1_inspect_20 K hM R e1 e2) fun v8 h9 => ?_
  refine g_iload_n (pc := 23) (x := a1) 1 rfl rfl dX1_inspect_23 ?_
  refine g_iload_n (pc := 24) (x := a2) 2 rfl rfl dX1_inspect_24 ?_
  refine g_bVi (pc := 25) (y := yX3_inspects) (ws := ws_ yX3_inspects cX3_inspects 9 (some .int)) (fr := 6) (lo := 139) (as := [gi a1, gi a2]) (st := []) (g_no) rfl (fun _ _ _ e => tX3_inspects hs e) (fun K _ _ _ hq hM R e1 e2 => g_runV (M := mX1_inspect) (pc := 25) (y := yX3_inspects) (bytes := cX3_inspects) (maxL := 9) (ret := (some .int)) (fr := 6) (lo := 139) (as := [gi a1, gi a2]) (st := []) hq (C := "FlareSlopes$State") rfl gy_X3_inspects (gbl rfl) (gbl rfl) (gbl rfl) q3782 q3783 q3784 dX1_inspect_25 K hM R e1 e2) fun v10 h11 => ?_
  exact g_ireturn (pc := 28) rfl dX1_inspect_28
/-! FlareSlopesLaw.inspect(LFlareSlopes;II[J)I -/
noncomputable def sX0_inspect (G : GG) (N : Nat) (a0 : Option Nat) (a1 : Int32) (a2 : Int32) (a3 : Option Nat) (h : Hp) : Out (Int32) :=
  bVX h a0 3 (fun q4 => sX1_inspect G N (some q4) a1 a2 h) (fun v1 h2 =>
  gSl G h2 a3 3 (0 : Int32) (v1.toInt64) fun h3 =>
  some (.inl (0 : Int32), h3)) fun q5 h6 =>
  gSw h6 (some q5) 0 (some (.inl (1 : Int32), h6)) (gSw h6 (some q5) 1 (some (.inl (3 : Int32), h6)) (gSw h6 (some q5) 2 (some (.inl (2 : Int32), h6)) (none)))
abbrev mX0_inspect : MI := (RX0, cX0_inspect, 5, (some .int), [(0, 10, 13, 21), (0, 10, 17, 13), (0, 10, 21, 15)], 11, 228, "inspect")
theorem tX0_inspect {G : GG} {l : Launch} (hs : l.stackTraces = false) {N : Nat} {a0 : Option Nat} {a1 : Int32} {a2 : Int32} {a3 : Option Nat} {h : Hp} {r : Int32 ⊕ Nat} {hf : Hp} (ho : sX0_inspect G N a0 a1 a2 a3 h = some (r, hf)) : gMet G l yX0_inspect (wsW_ yX0_inspect cX0_inspect 5 (some .int) [(0, 10, 13, 21), (0, 10, 17, 13), (0, 10, 21, 15)]) 11 228 [gr a0, gi a1, gi a2, gr a3] h cvI r hf := by
  refine gMet.ofW ho hs (plainFor_of_name pn_X0) rfl rfl (gbl rfl) fun X => ?_
  show gT G l X mX0_inspect cvI r hf 0 [(0, gr a0), (1, gi a1), (2, gi a2), (3, gr a3)] [] h (sX0_inspect G N a0 a1 a2 a3 h)
  delta sX0_inspect
  refine g_aload_n (pc := 0) (x := a3) 3 rfl rfl dX0_inspect_0 ?_
  refine g_iconst (pc := 1) (v := (0 : Int32)) ic_0 dX0_inspect_1 ?_
  refine g_aload_n (pc := 2) (x := a0) 0 rfl rfl dX0_inspect_2 ?_
  refine g_iload_n (pc := 3) (x := a1) 1 rfl rfl dX0_inspect_3 ?_
  refine g_iload_n (pc := 4) (x := a2) 2 rfl rfl dX0_inspect_4 ?_
  refine g_bVXi (pc := 5) (y := yX1_inspect) (ws := ws_ yX1_inspect cX1_inspect 4 (some .int)) (fr := 10) (lo := 205) (as := [gi a1, gi a2]) (st := [gi (0 : Int32), gr a3]) rfl (fun _ _ _ e => tX1_inspect hs e) (fun K _ _ _ hq hM R e1 e2 => g_runV (M := mX0_inspect) (pc := 5) (y := yX1_inspect) (bytes := cX1_inspect) (maxL := 4) (ret := (some .int)) (fr := 10) (lo := 205) (as := [gi a1, gi a2]) (st := [gi (0 : Int32), gr a3]) hq (C := "FlareSlopes") rfl gy_X1_inspect (gbl rfl) (gbl rfl) (gbl rfl) q3778 q3779 q3780 dX0_inspect_5 K hM R e1 e2) (fun v1 h2 => ?_) (fun q5 h6 => ?_)
  · refine g_i2l (pc := 8) dX0_inspect_8 ?_
    refine g_lastore (pc := 9) rfl dX0_inspect_9 fun h3 => ?_
    refine g_goto (pc := 10) (tgt := 25) rfl dX0_inspect_10 ?_
    refine g_iconst (pc := 25) (v := (0 : Int32)) ic_0 dX0_inspect_25 ?_
    exact g_ireturn (pc := 26) rfl dX0_inspect_26
  refine g_catch (E := "java/lang/IllegalStateException") [] ⟨0, 10, 13, 21⟩ [⟨0, 10, 17, 13⟩, ⟨0, 10, 21, 15⟩] rfl rfl (List.forall_mem_nil _) (by decide +kernel) (by decide +kernel) q1425 q1439 ?_ ?_
  · refine g_astore (pc := 13) (lv' := []) [] rfl (gblt rfl) dX0_inspect_13 ?_
    refine g_iconst (pc := 15) (v := (1 : Int32)) ic_1 dX0_inspect_15 ?_
    exact g_ireturn (pc := 16) rfl dX0_inspect_16
  refine g_catch (E := "java/lang/IllegalArgumentException") [⟨0, 10, 13, 21⟩, ⟨0, 10, 17, 13⟩] ⟨0, 10, 21, 15⟩ [] rfl rfl (List.forall_mem_cons.mpr ⟨Or.inr ⟨by decide +kernel, _, q1425, ncl_java_lang_IllegalArgumentException_java_lang_IllegalStateException⟩, List.forall_mem_cons.mpr ⟨Or.inr ⟨by decide +kernel, _, q325, ncl_java_lang_IllegalArgumentException_java_lang_IndexOutOfBoundsException⟩, List.forall_mem_nil _⟩⟩) (by decide +kernel) (by decide +kernel) q404 q751 ?_ ?_
  · refine g_astore (pc := 21) (lv' := []) [] rfl (gblt rfl) dX0_inspect_21 ?_
    refine g_iconst (pc := 23) (v := (3 : Int32)) ic_3 dX0_inspect_23 ?_
    exact g_ireturn (pc := 24) rfl dX0_inspect_24
  refine g_catch (E := "java/lang/IndexOutOfBoundsException") [⟨0, 10, 13, 21⟩] ⟨0, 10, 17, 13⟩ [⟨0, 10, 21, 15⟩] rfl rfl (List.forall_mem_cons.mpr ⟨Or.inr ⟨by decide +kernel, _, q1425, ncl_java_lang_IndexOutOfBoundsException_java_lang_IllegalStateException⟩, List.forall_mem_nil _⟩) (by decide +kernel) (by decide +kernel) q325 q418 ?_ ?_
  · refine g_astore (pc := 17) (lv' := []) [] rfl (gblt rfl) dX0_inspect_17 ?_
    refine g_iconst (pc := 19) (v := (2 : Int32)) ic_2 dX0_inspect_19 ?_
    exact g_ireturn (pc := 20) rfl dX0_inspect_20
  exact g_noneX
/-! FlareSlopesModel.inspect(II)I -/
noncomputable def bX2_inspect_90 (G : GG) (N : Nat) (a0 : Option Nat) (a1 : Int32) (a2 : Int32) (v15 : Int32) (j19 : (Int32) → Hp → Out (Int32)) (w33 : (Int32 × Int32) → Hp → Out (Int32)) (x31 : Int32 × Int32) (h32 : Hp) : Out (Int32) :=
  gFr h32 a0 18 1 fun v34 =>
  gAi h32 v34 0 (6 : Int32) fun v35 =>
  if v35 ≤ x31.2 then (j19 x31.1 h32)
  else bV h32 a0 18 (fun q72 => sX2_voteOf G N (some q72) a1 x31.2 a2 h32) fun v36 h37 =>
  gJ (fun (x38 : Int32) (h39 : Hp) =>
  w33 (x38, x31.2 + (1 : Int32)) h39) fun j40 =>
  if v36 = 0 then (j40 x31.1 h37)
  else bnd (sX2_isRed G N v36 h37) fun v41 h42 =>
  gJ (fun (x43 : Int32) (h44 : Hp) =>
  gFr h44 a0 18 1 fun v46 =>
  gJ (fun (x47 : Int32) (h48 : Hp) =>
  gSi G h48 v46 0 ((158 : Int32) + x31.2) x47 fun h50 =>
  gFr h50 a0 18 1 fun v51 =>
  bnd (sX2_voteAt G N a1 x31.2 a2 h50) fun v52 h53 =>
  gJ (fun (x54 : Int32) (h55 : Hp) =>
  gSi G h55 v51 0 v52 x54 fun h57 =>
  gJ (fun (x58 : Int32) (h59 : Hp) =>
  gLet (x31.1 + x58) fun v61 =>
  j40 v61 h59) fun j60 =>
  if x43 = 0 then (j60 (0 : Int32) h57)
  else j60 (1 : Int32) h57) fun j56 =>
  if x43 = 0 then (j56 v36 h53)
  else j56 (0 : Int32) h53) fun j49 =>
  if x43 = 0 then (gFr h44 a0 18 1 fun v62 =>
  gAi h44 v62 0 ((158 : Int32) + x31.2) fun v63 =>
  bnd (sJ14_min G N (100 : Int32) (v63 + (1 : Int32)) h44) fun v64 h65 =>
  j49 v64 h65)
  else gFr h44 a0 18 1 fun v66 =>
  gAi h44 v66 0 ((158 : Int32) + x31.2) fun v67 =>
  gFr h44 a0 18 1 fun v68 =>
  gAi h44 v68 0 (5 : Int32) fun v69 =>
  bnd (sJ14_max G N (0 : Int32) (v67 - v69) h44) fun v70 h71 =>
  j49 v70 h71) fun j45 =>
  if v41 = v15 then (j45 (0 : Int32) h42)
  else j45 (1 : Int32) h42
noncomputable def sX2_inspect (G : GG) (N : Nat) (a0 : Option Nat) (a1 : Int32) (a2 : Int32) (h : Hp) : Out (Int32) :=
  gFi h a0 18 8 fun v1 =>
  gJ (fun (x2 : Int32) (h3 : Hp) =>
  gFi h3 a0 18 8 fun v5 =>
  gJ (fun (x6 : Int32) (h7 : Hp) =>
  bV h7 a0 18 (fun q74 => sX2_may G N (some q74) v5 x2 x6 h7) fun v9 h10 =>
  if v9 = 0 then (some (.inl (0 : Int32), h10))
  else bV h10 a0 18 (fun q73 => sX2_remembers G N (some q73) h10) fun v11 h12 =>
  gFr h12 a0 18 1 fun v13 =>
  gAi h12 v13 0 (97 : Int32) fun v14 =>
  bnd (sX2_has G N v14 a2 h12) fun v15 h16 =>
  gJ (fun (x17 : Int32) (h18 : Hp) =>
  gFr h18 a0 18 1 fun v20 =>
  gAi h18 v20 0 (94 : Int32) fun v21 =>
  gSi G h18 v20 0 (94 : Int32) (v21 + x17) fun h22 =>
  gFr h22 a0 18 1 fun v23 =>
  bnd (sX2_voteAt G N a1 a1 a2 h22) fun v24 h25 =>
  gFr h25 a0 18 1 fun v26 =>
  gAi h25 v26 0 (90 : Int32) fun v27 =>
  bnd (sX2_made G N v27 v15 h25) fun v28 h29 =>
  gSi G h29 v23 0 v24 v28 fun h30 =>
  some (.inl x17, h30)) fun j19 =>
  gLp (bX2_inspect_90 G N a0 a1 a2 v15 j19) N ((0 : Int32), (0 : Int32)) h16) fun j8 =>
  gJ (fun (x75 : Unit) (h76 : Hp) =>
  j8 (0 : Int32) h76) fun j77 =>
  if x2 = 0 then (j77 () h3)
  else bnd (sX2_cabinAt G N a1 h3) fun v78 h79 =>
  bnd (sX2_slopeAt G N a2 h79) fun v80 h81 =>
  bV h81 a0 18 (fun q84 => sX2_see G N (some q84) v78 v80 h81) fun v82 h83 =>
  if v82 = 0 then (j77 () h83)
  else j8 (1 : Int32) h83) fun j4 =>
  gJ (fun (x85 : Unit) (h86 : Hp) =>
  j4 (0 : Int32) h86) fun j87 =>
  if v1 = 0 then (j87 () h)
  else bV h a0 18 (fun q93 => sX2_isCabin G N (some q93) a1 h) fun v88 h89 =>
  if v88 = 0 then (j87 () h89)
  else bV h89 a0 18 (fun q92 => sX2_isSlope G N (some q92) a2 h89) fun v90 h91 =>
  if v90 = 0 then (j87 () h91)
  else j4 (1 : Int32) h91
abbrev mX2_inspect : MI := (RX2, cX2_inspect, 9, (some .int), [], 3, 71, "inspect")
theorem tX2_inspect {G : GG} {l : Launch} (hs : l.stackTraces = false) {N : Nat} {a0 : Option Nat} {a1 : Int32} {a2 : Int32} {h : Hp} {r : Int32 ⊕ Nat} {hf : Hp} (ho : sX2_inspect G N a0 a1 a2 h = some (r, hf)) : gMet G l yX2_inspect (ws_ yX2_inspect cX2_inspect 9 (some .int)) 3 71 [gr a0, gi a1, gi a2] h cvI r hf := by
  refine gMet.of ho hs (plainFor_of_name pn_X2) rfl rfl (gbl rfl) fun X => ?_
  show gT G l X mX2_inspect cvI r hf 0 [(0, gr a0), (1, gi a1), (2, gi a2)] [] h (sX2_inspect G N a0 a1 a2 h)
  delta sX2_inspect
  refine g_aload_n (pc := 0) (x := a0) 0 rfl rfl dX2_inspect_0 ?_
  refine g_getfi (pc := 1) k_18 (gblt rfl) lk_X2_184_18 dX2_inspect_1 fun v1 => ?_
  refine g_join 28 (fun (x2 : Int32) => [(0, gr a0), (1, gi a1), (2, gi a2)]) (fun (x2 : Int32) => [gi x2]) (fun x2 h3 => ?_) (fun j4 Hj4 => ?_)
  · refine g_istore_n (pc := 28) (lv' := [(3, gi x2), (0, gr a0), (1, gi a1), (2, gi a2)]) [0, 1, 2, 3] rfl rfl (gblt rfl) dX2_inspect_28 ?_
    refine g_aload_n (pc := 29) (x := a0) 1 rfl rfl dX2_inspect_29 ?_
    refine g_aload_n (pc := 30) (x := a0) 1 rfl rfl dX2_inspect_30 ?_
    refine g_getfi (pc := 31) k_18 (gblt rfl) lk_X2_184_18 dX2_inspect_31 fun v5 => ?_
    refine g_iload_n (pc := 34) (x := x2) 0 rfl rfl dX2_inspect_34 ?_
    refine g_iload_n (pc := 35) (x := x2) 0 rfl rfl dX2_inspect_35 ?_
    refine g_join 59 (fun (x6 : Int32) => [(0, gr a0), (1, gi a1), (2, gi a2)]) (fun (x6 : Int32) => [gi x6, gi x2, gi v5, gr a0]) (fun x6 h7 => ?_) (fun j8 Hj8 => ?_)
    · refine g_bVi (pc := 59) (y := yX2_may) (ws := ws_ yX2_may cX2_may 4 (some .boolean)) (fr := 0) (lo := 0) (as := [gi v5, gi x2, gi x6]) (st := []) (g_no) rfl (fun _ _ _ e => tX2_may hs e) (fun K _ _ _ hq hM R e1 e2 => g_runV (M := mX2_inspect) (pc := 59) (y := yX2_may) (bytes := cX2_may) (maxL := 4) (ret := (some .boolean)) (fr := 0) (lo := 0) (as := [gi v5, gi x2, gi x6]) (st := []) hq (C := "FlareSlopesModel") rfl gy_X2_may (gbl rfl) (gbl rfl) (gbl rfl) q4040 q4042 qs54 dX2_inspect_59 K hM R e1 e2) fun v9 h10 => ?_
      refine g_if_ne (pc := 62) (tgt := 67) rfl dX2_inspect_62 ?_ ?_
      · refine g_iconst (pc := 65) (v := (0 : Int32)) ic_0 dX2_inspect_65 ?_
        exact g_ireturn (pc := 66) rfl dX2_inspect_66
      refine g_aload_n (pc := 67) (x := a0) 0 rfl rfl dX2_inspect_67 ?_
      refine g_bVu (pc := 68) (y := yX2_remembers) (ws := ws_ yX2_remembers cX2_remembers 2 none) (fr := 1) (lo := 24) (as := []) (st := []) (g_no) rfl (fun _ _ _ e => tX2_remembers hs e) (fun K _ _ _ hq hM R e1 e2 => g_runV (M := mX2_inspect) (pc := 68) (y := yX2_remembers) (bytes := cX2_remembers) (maxL := 2) (ret := none) (fr := 1) (lo := 24) (as := []) (st := []) hq (C := "FlareSlopesModel") rfl gy_X2_remembers (gbl rfl) (gbl rfl) (gbl rfl) q4555 q4557 qs125 dX2_inspect_68 K hM R e1 e2) fun v11 h12 => ?_
      refine g_aload_n (pc := 71) (x := a0) 0 rfl rfl dX2_inspect_71 ?_
      refine g_getfr (pc := 72) k_18 (gblt rfl) lk_X2_9_18 dX2_inspect_72 fun v13 => ?_
      refine g_bipush (pc := 75) (v := (97 : Int32)) bc_97 dX2_inspect_75 ?_
      refine g_iaload (pc := 77) rfl dX2_inspect_77 fun v14 => ?_
      refine g_iload_n (pc := 78) (x := a2) 2 rfl rfl dX2_inspect_78 ?_
      refine g_bi (pc := 79) (y := yX2_has) (ws := ws_ yX2_has cX2_has 2 (some .boolean)) (fr := 0) (lo := 0) (as := [gi v14, gi a2]) (st := []) (g_no) rfl (fun _ _ e => tX2_has hs e) (fun K _ _ hM R e1 e2 => g_runS (M := mX2_inspect) (pc := 79) (y := yX2_has) (bytes := cX2_has) (maxL := 2) (ret := (some .boolean)) (fr := 0) (lo := 0) (as := [gi v14, gi a2]) (st := []) gy_X2_has (gbl rfl) (gbl rfl) (gbl rfl) q4257 q4258 dX2_inspect_79 K hM R e1 e2) fun v15 h16 => ?_
      refine g_istore (pc := 82) (lv' := [(4, gi v15), (0, gr a0), (1, gi a1), (2, gi a2)]) [0, 1, 2, 3] rfl (gblt rfl) dX2_inspect_82 ?_
      refine g_iconst (pc := 84) (v := (0 : Int32)) ic_0 dX2_inspect_84 ?_
      refine g_istore (pc := 85) (lv' := [(5, gi (0 : Int32)), (4, gi v15), (0, gr a0), (1, gi a1), (2, gi a2)]) [0, 1, 2, 3, 4] rfl (gblt rfl) dX2_inspect_85 ?_
      refine g_iconst (pc := 87) (v := (0 : Int32)) ic_0 dX2_inspect_87 ?_
      refine g_istore (pc := 88) (lv' := [(6, gi (0 : Int32)), (5, gi (0 : Int32)), (4, gi v15), (0, gr a0), (1, gi a1), (2, gi a2)]) [0, 1, 2, 3, 4, 5] rfl (gblt rfl) dX2_inspect_88 ?_
      refine g_join 240 (fun (x17 : Int32) => [(0, gr a0), (1, gi a1), (2, gi a2), (4, gi v15), (5, gi x17)]) (fun (x17 : Int32) => []) (fun x17 h18 => ?_) (fun j19 Hj19 => ?_)
      · refine g_aload_n (pc := 240) (x := a0) 0 rfl rfl dX2_inspect_240 ?_
        refine g_getfr (pc := 241) k_18 (gblt rfl) lk_X2_9_18 dX2_inspect_241 fun v20 => ?_
        refine g_bipush (pc := 244) (v := (94 : Int32)) bc_94 dX2_inspect_244 ?_
        refine g_dup2 (pc := 246) rfl rfl dX2_inspect_246 ?_
        refine g_iaload (pc := 247) rfl dX2_inspect_247 fun v21 => ?_
        refine g_iload (pc := 248) (x := x17) 4 rfl dX2_inspect_248 ?_
        refine g_iadd (pc := 250) dX2_inspect_250 ?_
        refine g_iastore (pc := 251) rfl dX2_inspect_251 fun h22 => ?_
        refine g_aload_n (pc := 252) (x := a0) 0 rfl rfl dX2_inspect_252 ?_
        refine g_getfr (pc := 253) k_18 (gblt rfl) lk_X2_9_18 dX2_inspect_253 fun v23 => ?_
        refine g_iload_n (pc := 256) (x := a1) 1 rfl rfl dX2_inspect_256 ?_
        refine g_iload_n (pc := 257) (x := a1) 1 rfl rfl dX2_inspect_257 ?_
        refine g_iload_n (pc := 258) (x := a2) 2 rfl rfl dX2_inspect_258 ?_
        refine g_bi (pc := 259) (y := yX2_voteAt) (ws := ws_ yX2_voteAt cX2_voteAt 3 (some .int)) (fr := 0) (lo := 0) (as := [gi a1, gi a1, gi a2]) (st := [gr v23]) (g_no) rfl (fun _ _ e => tX2_voteAt hs e) (fun K _ _ hM R e1 e2 => g_runS (M := mX2_inspect) (pc := 259) (y := yX2_voteAt) (bytes := cX2_voteAt) (maxL := 3) (ret := (some .int)) (fr := 0) (lo := 0) (as := [gi a1, gi a1, gi a2]) (st := [gr v23]) gy_X2_voteAt (gbl rfl) (gbl rfl) (gbl rfl) q4165 q4166 dX2_inspect_259 K hM R e1 e2) fun v24 h25 => ?_
        refine g_aload_n (pc := 262) (x := a0) 0 rfl rfl dX2_inspect_262 ?_
        refine g_getfr (pc := 263) k_18 (gblt rfl) lk_X2_9_18 dX2_inspect_263 fun v26 => ?_
        refine g_bipush (pc := 266) (v := (90 : Int32)) bc_90 dX2_inspect_266 ?_
        refine g_iaload (pc := 268) rfl dX2_inspect_268 fun v27 => ?_
        refine g_iload (pc := 269) (x := v15) 3 rfl dX2_inspect_269 ?_
        refine g_bi (pc := 271) (y := yX2_made) (ws := ws_ yX2_made cX2_made 2 (some .int)) (fr := 0) (lo := 0) (as := [gi v27, gi v15]) (st := [gi v24, gr v23]) (g_no) rfl (fun _ _ e => tX2_made hs e) (fun K _ _ hM R e1 e2 => g_runS (M := mX2_inspect) (pc := 271) (y := yX2_made) (bytes := cX2_made) (maxL := 2) (ret := (some .int)) (fr := 0) (lo := 0) (as := [gi v27, gi v15]) (st := [gi v24, gr v23]) gy_X2_made (gbl rfl) (gbl rfl) (gbl rfl) q4511 q4512 dX2_inspect_271 K hM R e1 e2) fun v28 h29 => ?_
        refine g_iastore (pc := 274) rfl dX2_inspect_274 fun h30 => ?_
        refine g_iload (pc := 275) (x := x17) 4 rfl dX2_inspect_275 ?_
        exact g_ireturn (pc := 277) rfl dX2_inspect_277
      refine g_sub (lv' := [(0, gr a0), (1, gi a1), (2, gi a2), (4, gi v15), (5, gi (0 : Int32)), (6, gi (0 : Int32))]) [3, 4, 5, 2, 1, 0] rfl ?_
      refine g_loop (pc := 90) (fun (x31 : Int32 × Int32) => [(0, gr a0), (1, gi a1), (2, gi a2), (4, gi v15), (5, gi x31.1), (6, gi x31.2)]) (fun (_ : Int32 × Int32) => []) (fun w33 Hw33 x31 h32 => ?_) N ((0 : Int32), (0 : Int32)) h16
      delta bX2_inspect_90
      refine g_iload (pc := 90) (x := x31.2) 5 rfl dX2_inspect_90 ?_
      refine g_aload_n (pc := 92) (x := a0) 0 rfl rfl dX2_inspect_92 ?_
      refine g_getfr (pc := 93) k_18 (gblt rfl) lk_X2_9_18 dX2_inspect_93 fun v34 => ?_
      refine g_bipush (pc := 96) (v := (6 : Int32)) bc_6 dX2_inspect_96 ?_
      refine g_iaload (pc := 98) rfl dX2_inspect_98 fun v35 => ?_
      refine g_icmp_ge (pc := 99) (tgt := 240) rfl dX2_inspect_99 ?_ ?_
      · exact g_sub [0, 1, 2, 3, 4] rfl (Hj19 x31.1 h32)
      refine g_aload_n (pc := 102) (x := a0) 0 rfl rfl dX2_inspect_102 ?_
      refine g_iload_n (pc := 103) (x := a1) 1 rfl rfl dX2_inspect_103 ?_
      refine g_iload (pc := 104) (x := x31.2) 5 rfl dX2_inspect_104 ?_
      refine g_iload_n (pc := 106) (x := a2) 2 rfl rfl dX2_inspect_106 ?_
      refine g_bVi (pc := 107) (y := yX2_voteOf) (ws := ws_ yX2_voteOf cX2_voteOf 4 (some .int)) (fr := 1) (lo := 22) (as := [gi a1, gi x31.2, gi a2]) (st := []) (g_no) rfl (fun _ _ _ e => tX2_voteOf hs e) (fun K _ _ _ hq hM R e1 e2 => g_runV (M := mX2_inspect) (pc := 107) (y := yX2_voteOf) (bytes := cX2_voteOf) (maxL := 4) (ret := (some .int)) (fr := 1) (lo := 22) (as := [gi a1, gi x31.2, gi a2]) (st := []) hq (C := "FlareSlopesModel") rfl gy_X2_voteOf (gbl rfl) (gbl rfl) (gbl rfl) q4222 q4224 qs89 dX2_inspect_107 K hM R e1 e2) fun v36 h37 => ?_
      refine g_istore (pc := 110) (lv' := [(7, gi v36), (0, gr a0), (1, gi a1), (2, gi a2), (4, gi v15), (5, gi x31.1), (6, gi x31.2)]) [0, 1, 2, 3, 4, 5, 6] rfl (gblt rfl) dX2_inspect_110 ?_
      refine g_iload (pc := 112) (x := v36) 0 rfl dX2_inspect_112 ?_
      refine g_join 234 (fun (x38 : Int32) => [(0, gr a0), (1, gi a1), (2, gi a2), (4, gi v15), (5, gi x38), (6, gi x31.2)]) (fun (x38 : Int32) => []) (fun x38 h39 => ?_) (fun j40 Hj40 => ?_)
      · refine g_iinc (pc := 234) (v := x31.2 + (1 : Int32)) 5 rfl (ii_1 _) (lv' := [(6, gi (x31.2 + (1 : Int32))), (0, gr a0), (1, gi a1), (2, gi a2), (4, gi v15), (5, gi x38)]) [0, 1, 2, 3, 4, 5] rfl (gblt rfl) dX2_inspect_234 ?_
        refine g_goto (pc := 237) (tgt := 90) rfl dX2_inspect_237 ?_
        exact g_sub [1, 2, 3, 4, 5, 0] rfl (Hw33 (x38, x31.2 + (1 : Int32)) h39)
      refine g_if_ne (pc := 114) (tgt := 120) rfl dX2_inspect_114 ?_ ?_
      · refine g_goto (pc := 117) (tgt := 234) rfl dX2_inspect_117 ?_
        exact g_sub [1, 2, 3, 4, 5, 6] rfl (Hj40 x31.1 h37)
      refine g_iload (pc := 120) (x := v36) 0 rfl dX2_inspect_120 ?_
      refine g_bi (pc := 122) (y := yX2_isRed) (ws := ws_ yX2_isRed cX2_isRed 1 (some .boolean)) (fr := 0) (lo := 0) (as := [gi v36]) (st := []) (g_no) rfl (fun _ _ e => tX2_isRed hs e) (fun K _ _ hM R e1 e2 => g_runS (M := mX2_inspect) (pc := 122) (y := yX2_isRed) (bytes := cX2_isRed) (maxL := 1) (ret := (some .boolean)) (fr := 0) (lo := 0) (as := [gi v36]) (st := []) gy_X2_isRed (gbl rfl) (gbl rfl) (gbl rfl) q4203 q4204 dX2_inspect_122 K hM R e1 e2) fun v41 h42 => ?_
      refine g_iload (pc := 125) (x := v15) 4 rfl dX2_inspect_125 ?_
      refine g_join 135 (fun (x43 : Int32) => [(0, gr a0), (1, gi a1), (2, gi a2), (4, gi v15), (5, gi x31.1), (6, gi x31.2), (7, gi v36)]) (fun (x43 : Int32) => [gi x43]) (fun x43 h44 => ?_) (fun j45 Hj45 => ?_)
      · refine g_istore (pc := 135) (lv' := [(8, gi x43), (0, gr a0), (1, gi a1), (2, gi a2), (4, gi v15), (5, gi x31.1), (6, gi x31.2), (7, gi v36)]) [0, 1, 2, 3, 4, 5, 6, 7] rfl (gblt rfl) dX2_inspect_135 ?_
        refine g_aload_n (pc := 137) (x := a0) 1 rfl rfl dX2_inspect_137 ?_
        refine g_getfr (pc := 138) k_18 (gblt rfl) lk_X2_9_18 dX2_inspect_138 fun v46 => ?_
        refine g_sipush (pc := 141) (v := (158 : Int32)) sc_158 dX2_inspect_141 ?_
        refine g_iload (pc := 144) (x := x31.2) 6 rfl dX2_inspect_144 ?_
        refine g_iadd (pc := 146) dX2_inspect_146 ?_
        refine g_iload (pc := 147) (x := x43) 0 rfl dX2_inspect_147 ?_
        refine g_join 195 (fun (x47 : Int32) => [(0, gr a0), (1, gi a1), (2, gi a2), (4, gi v15), (5, gi x31.1), (6, gi x31.2), (7, gi v36), (8, gi x43)]) (fun (x47 : Int32) => [gi x47, gi ((158 : Int32) + x31.2), gr v46]) (fun x47 h48 => ?_) (fun j49 Hj49 => ?_)
        · refine g_iastore (pc := 195) rfl dX2_inspect_195 fun h50 => ?_
          refine g_aload_n (pc := 196) (x := a0) 0 rfl rfl dX2_inspect_196 ?_
          refine g_getfr (pc := 197) k_18 (gblt rfl) lk_X2_9_18 dX2_inspect_197 fun v51 => ?_
          refine g_iload_n (pc := 200) (x := a1) 1 rfl rfl dX2_inspect_200 ?_
          refine g_iload (pc := 201) (x := x31.2) 5 rfl dX2_inspect_201 ?_
          refine g_iload_n (pc := 203) (x := a2) 2 rfl rfl dX2_inspect_203 ?_
          refine g_bi (pc := 204) (y := yX2_voteAt) (ws := ws_ yX2_voteAt cX2_voteAt 3 (some .int)) (fr := 0) (lo := 0) (as := [gi a1, gi x31.2, gi a2]) (st := [gr v51]) (g_no) rfl (fun _ _ e => tX2_voteAt hs e) (fun K _ _ hM R e1 e2 => g_runS (M := mX2_inspect) (pc := 204) (y := yX2_voteAt) (bytes := cX2_voteAt) (maxL := 3) (ret := (some .int)) (fr := 0) (lo := 0) (as := [gi a1, gi x31.2, gi a2]) (st := [gr v51]) gy_X2_voteAt (gbl rfl) (gbl rfl) (gbl rfl) q4165 q4166 dX2_inspect_204 K hM R e1 e2) fun v52 h53 => ?_
          refine g_iload (pc := 207) (x := x43) 7 rfl dX2_inspect_207 ?_
          refine g_join 218 (fun (x54 : Int32) => [(0, gr a0), (1, gi a1), (2, gi a2), (4, gi v15), (5, gi x31.1), (6, gi x31.2), (8, gi x43)]) (fun (x54 : Int32) => [gi x54, gi v52, gr v51]) (fun x54 h55 => ?_) (fun j56 Hj56 => ?_)
          · refine g_iastore (pc := 218) rfl dX2_inspect_218 fun h57 => ?_
            refine g_iload (pc := 219) (x := x31.1) 4 rfl dX2_inspect_219 ?_
            refine g_iload (pc := 221) (x := x43) 6 rfl dX2_inspect_221 ?_
            refine g_join 231 (fun (x58 : Int32) => [(0, gr a0), (1, gi a1), (2, gi a2), (4, gi v15), (6, gi x31.2)]) (fun (x58 : Int32) => [gi x58, gi x31.1]) (fun x58 h59 => ?_) (fun j60 Hj60 => ?_)
            · refine g_iadd (pc := 231) dX2_inspect_231 ?_
              refine g_leti fun v61 => ?_
              refine g_istore (pc := 232) (lv' := [(5, gi v61), (0, gr a0), (1, gi a1), (2, gi a2), (4, gi v15), (6, gi x31.2)]) [0, 1, 2, 3, 4, 5] rfl (gblt rfl) dX2_inspect_232 ?_
              exact g_sub [1, 2, 3, 4, 0, 5] rfl (Hj40 v61 h59)
            refine g_if_eq (pc := 223) (tgt := 230) rfl dX2_inspect_223 ?_ ?_
            · refine g_iconst (pc := 230) (v := (0 : Int32)) ic_0 dX2_inspect_230 ?_
              exact g_sub [0, 1, 2, 3, 5] rfl (Hj60 (0 : Int32) h57)
            refine g_iconst (pc := 226) (v := (1 : Int32)) ic_1 dX2_inspect_226 ?_
            refine g_goto (pc := 227) (tgt := 231) rfl dX2_inspect_227 ?_
            exact g_sub [0, 1, 2, 3, 5] rfl (Hj60 (1 : Int32) h57)
          refine g_if_eq (pc := 209) (tgt := 216) rfl dX2_inspect_209 ?_ ?_
          · refine g_iload (pc := 216) (x := v36) 6 rfl dX2_inspect_216 ?_
            exact g_sub [0, 1, 2, 3, 4, 5, 7] rfl (Hj56 v36 h53)
          refine g_iconst (pc := 212) (v := (0 : Int32)) ic_0 dX2_inspect_212 ?_
          refine g_goto (pc := 213) (tgt := 218) rfl dX2_inspect_213 ?_
          exact g_sub [0, 1, 2, 3, 4, 5, 7] rfl (Hj56 (0 : Int32) h53)
        refine g_if_eq (pc := 149) (tgt := 177) rfl dX2_inspect_149 ?_ ?_
        · refine g_bipush (pc := 177) (v := (100 : Int32)) bc_100 dX2_inspect_177 ?_
          refine g_aload_n (pc := 179) (x := a0) 1 rfl rfl dX2_inspect_179 ?_
          refine g_getfr (pc := 180) k_18 (gblt rfl) lk_X2_9_18 dX2_inspect_180 fun v62 => ?_
          refine g_sipush (pc := 183) (v := (158 : Int32)) sc_158 dX2_inspect_183 ?_
          refine g_iload (pc := 186) (x := x31.2) 6 rfl dX2_inspect_186 ?_
          refine g_iadd (pc := 188) dX2_inspect_188 ?_
          refine g_iaload (pc := 189) rfl dX2_inspect_189 fun v63 => ?_
          refine g_iconst (pc := 190) (v := (1 : Int32)) ic_1 dX2_inspect_190 ?_
          refine g_iadd (pc := 191) dX2_inspect_191 ?_
          refine g_bi (pc := 192) (y := yJ14_min) (ws := ws_ yJ14_min cJ14_min 2 (some .int)) (fr := 0) (lo := 0) (as := [gi (100 : Int32), gi (v63 + (1 : Int32))]) (st := [gi ((158 : Int32) + x31.2), gr v46]) (g_no) rfl (fun _ _ e => tJ14_min hs e) (fun K _ _ hM R e1 e2 => g_runS (M := mX2_inspect) (pc := 192) (y := yJ14_min) (bytes := cJ14_min) (maxL := 2) (ret := (some .int)) (fr := 0) (lo := 0) (as := [gi (100 : Int32), gi (v63 + (1 : Int32))]) (st := [gi ((158 : Int32) + x31.2), gr v46]) gy_J14_min (gbl rfl) (gbl rfl) (gbl rfl) q4447 q656 dX2_inspect_192 K hM R e1 e2) fun v64 h65 => ?_
          exact g_sub [1, 2, 3, 4, 5, 6, 7, 0] rfl (Hj49 v64 h65)
        refine g_iconst (pc := 152) (v := (0 : Int32)) ic_0 dX2_inspect_152 ?_
        refine g_aload_n (pc := 153) (x := a0) 1 rfl rfl dX2_inspect_153 ?_
        refine g_getfr (pc := 154) k_18 (gblt rfl) lk_X2_9_18 dX2_inspect_154 fun v66 => ?_
        refine g_sipush (pc := 157) (v := (158 : Int32)) sc_158 dX2_inspect_157 ?_
        refine g_iload (pc := 160) (x := x31.2) 6 rfl dX2_inspect_160 ?_
        refine g_iadd (pc := 162) dX2_inspect_162 ?_
        refine g_iaload (pc := 163) rfl dX2_inspect_163 fun v67 => ?_
        refine g_aload_n (pc := 164) (x := a0) 1 rfl rfl dX2_inspect_164 ?_
        refine g_getfr (pc := 165) k_18 (gblt rfl) lk_X2_9_18 dX2_inspect_165 fun v68 => ?_
        refine g_iconst (pc := 168) (v := (5 : Int32)) ic_5 dX2_inspect_168 ?_
        refine g_iaload (pc := 169) rfl dX2_inspect_169 fun v69 => ?_
        refine g_isub (pc := 170) dX2_inspect_170 ?_
        refine g_bi (pc := 171) (y := yJ14_max) (ws := ws_ yJ14_max cJ14_max 2 (some .int)) (fr := 0) (lo := 0) (as := [gi (0 : Int32), gi (v67 - v69)]) (st := [gi ((158 : Int32) + x31.2), gr v46]) (g_no) rfl (fun _ _ e => tJ14_max hs e) (fun K _ _ hM R e1 e2 => g_runS (M := mX2_inspect) (pc := 171) (y := yJ14_max) (bytes := cJ14_max) (maxL := 2) (ret := (some .int)) (fr := 0) (lo := 0) (as := [gi (0 : Int32), gi (v67 - v69)]) (st := [gi ((158 : Int32) + x31.2), gr v46]) gy_J14_max (gbl rfl) (gbl rfl) (gbl rfl) q4190 q638 dX2_inspect_171 K hM R e1 e2) fun v70 h71 => ?_
        refine g_goto (pc := 174) (tgt := 195) rfl dX2_inspect_174 ?_
        exact g_sub [1, 2, 3, 4, 5, 6, 7, 0] rfl (Hj49 v70 h71)
      refine g_icmp_eq (pc := 127) (tgt := 134) rfl dX2_inspect_127 ?_ ?_
      · refine g_iconst (pc := 134) (v := (0 : Int32)) ic_0 dX2_inspect_134 ?_
        exact g_sub [1, 2, 3, 4, 5, 6, 0] rfl (Hj45 (0 : Int32) h42)
      refine g_iconst (pc := 130) (v := (1 : Int32)) ic_1 dX2_inspect_130 ?_
      refine g_goto (pc := 131) (tgt := 135) rfl dX2_inspect_131 ?_
      exact g_sub [1, 2, 3, 4, 5, 6, 0] rfl (Hj45 (1 : Int32) h42)
    refine g_join 58 (fun (x75 : Unit) => [(0, gr a0), (1, gi a1), (2, gi a2)]) (fun (x75 : Unit) => [gi x2, gi v5, gr a0]) (fun x75 h76 => ?_) (fun j77 Hj77 => ?_)
    · refine g_iconst (pc := 58) (v := (0 : Int32)) ic_0 dX2_inspect_58 ?_
      exact Hj8 (0 : Int32) h76
    refine g_if_eq (pc := 36) (tgt := 58) rfl dX2_inspect_36 ?_ ?_
    · exact g_sub [1, 2, 3] rfl (Hj77 () h3)
    refine g_aload_n (pc := 39) (x := a0) 1 rfl rfl dX2_inspect_39 ?_
    refine g_iload_n (pc := 40) (x := a1) 2 rfl rfl dX2_inspect_40 ?_
    refine g_bi (pc := 41) (y := yX2_cabinAt) (ws := ws_ yX2_cabinAt cX2_cabinAt 1 (some .int)) (fr := 0) (lo := 0) (as := [gi a1]) (st := [gr a0, gi x2, gi v5, gr a0]) (g_no) rfl (fun _ _ e => tX2_cabinAt hs e) (fun K _ _ hM R e1 e2 => g_runS (M := mX2_inspect) (pc := 41) (y := yX2_cabinAt) (bytes := cX2_cabinAt) (maxL := 1) (ret := (some .int)) (fr := 0) (lo := 0) (as := [gi a1]) (st := [gr a0, gi x2, gi v5, gr a0]) gy_X2_cabinAt (gbl rfl) (gbl rfl) (gbl rfl) q4179 q4180 dX2_inspect_41 K hM R e1 e2) fun v78 h79 => ?_
    refine g_iload_n (pc := 44) (x := a2) 3 rfl rfl dX2_inspect_44 ?_
    refine g_bi (pc := 45) (y := yX2_slopeAt) (ws := ws_ yX2_slopeAt cX2_slopeAt 1 (some .int)) (fr := 0) (lo := 0) (as := [gi a2]) (st := [gi v78, gr a0, gi x2, gi v5, gr a0]) (g_no) rfl (fun _ _ e => tX2_slopeAt hs e) (fun K _ _ hM R e1 e2 => g_runS (M := mX2_inspect) (pc := 45) (y := yX2_slopeAt) (bytes := cX2_slopeAt) (maxL := 1) (ret := (some .int)) (fr := 0) (lo := 0) (as := [gi a2]) (st := [gi v78, gr a0, gi x2, gi v5, gr a0]) gy_X2_slopeAt (gbl rfl) (gbl rfl) (gbl rfl) q4230 q4231 dX2_inspect_45 K hM R e1 e2) fun v80 h81 => ?_
    refine g_bVi (pc := 48) (y := yX2_see) (ws := ws_ yX2_see cX2_see 6 (some .boolean)) (fr := 2) (lo := 46) (as := [gi v78, gi v80]) (st := [gi x2, gi v5, gr a0]) (g_no) rfl (fun _ _ _ e => tX2_see hs e) (fun K _ _ _ hq hM R e1 e2 => g_runV (M := mX2_inspect) (pc := 48) (y := yX2_see) (bytes := cX2_see) (maxL := 6) (ret := (some .boolean)) (fr := 2) (lo := 46) (as := [gi v78, gi v80]) (st := [gi x2, gi v5, gr a0]) hq (C := "FlareSlopesModel") rfl gy_X2_see (gbl rfl) (gbl rfl) (gbl rfl) q4182 q4184 qs82 dX2_inspect_48 K hM R e1 e2) fun v82 h83 => ?_
    refine g_if_eq (pc := 51) (tgt := 58) rfl dX2_inspect_51 ?_ ?_
    · exact g_sub [1, 2, 3] rfl (Hj77 () h83)
    refine g_iconst (pc := 54) (v := (1 : Int32)) ic_1 dX2_inspect_54 ?_
    refine g_goto (pc := 55) (tgt := 59) rfl dX2_inspect_55 ?_
    exact g_sub [1, 2, 3] rfl (Hj8 (1 : Int32) h83)
  refine g_join 27 (fun (x85 : Unit) => [(0, gr a0), (1, gi a1), (2, gi a2)]) (fun (x85 : Unit) => []) (fun x85 h86 => ?_) (fun j87 Hj87 => ?_)
  · refine g_iconst (pc := 27) (v := (0 : Int32)) ic_0 dX2_inspect_27 ?_
    exact Hj4 (0 : Int32) h86
  refine g_if_eq (pc := 4) (tgt := 27) rfl dX2_inspect_4 ?_ ?_
  · exact Hj87 () h
  refine g_aload_n (pc := 7) (x := a0) 0 rfl rfl dX2_inspect_7 ?_
  refine g_iload_n (pc := 8) (x := a1) 1 rfl rfl dX2_inspect_8 ?_
  refine g_bVi (pc := 9) (y := yX2_isCabin) (ws := ws_ yX2_isCabin cX2_isCabin 2 (some .boolean)) (fr := 1) (lo := 22) (as := [gi a1]) (st := []) (g_no) rfl (fun _ _ _ e => tX2_isCabin hs e) (fun K _ _ _ hq hM R e1 e2 => g_runV (M := mX2_inspect) (pc := 9) (y := yX2_isCabin) (bytes := cX2_isCabin) (maxL := 2) (ret := (some .boolean)) (fr := 1) (lo := 22) (as := [gi a1]) (st := []) hq (C := "FlareSlopesModel") rfl gy_X2_isCabin (gbl rfl) (gbl rfl) (gbl rfl) q4214 q4216 qs87 dX2_inspect_9 K hM R e1 e2) fun v88 h89 => ?_
  refine g_if_eq (pc := 12) (tgt := 27) rfl dX2_inspect_12 ?_ ?_
  · exact Hj87 () h89
  refine g_aload_n (pc := 15) (x := a0) 0 rfl rfl dX2_inspect_15 ?_
  refine g_iload_n (pc := 16) (x := a2) 2 rfl rfl dX2_inspect_16 ?_
  refine g_bVi (pc := 17) (y := yX2_isSlope) (ws := ws_ yX2_isSlope cX2_isSlope 2 (some .boolean)) (fr := 1) (lo := 22) (as := [gi a2]) (st := []) (g_no) rfl (fun _ _ _ e => tX2_isSlope hs e) (fun K _ _ _ hq hM R e1 e2 => g_runV (M := mX2_inspect) (pc := 17) (y := yX2_isSlope) (bytes := cX2_isSlope) (maxL := 2) (ret := (some .boolean)) (fr := 1) (lo := 22) (as := [gi a2]) (st := []) hq (C := "FlareSlopesModel") rfl gy_X2_isSlope (gbl rfl) (gbl rfl) (gbl rfl) q4245 q4247 qs93 dX2_inspect_17 K hM R e1 e2) fun v90 h91 => ?_
  refine g_if_eq (pc := 20) (tgt := 27) rfl dX2_inspect_20 ?_ ?_
  · exact Hj87 () h91
  refine g_iconst (pc := 23) (v := (1 : Int32)) ic_1 dX2_inspect_23 ?_
  refine g_goto (pc := 24) (tgt := 28) rfl dX2_inspect_24 ?_
  exact Hj4 (1 : Int32) h91
/-! FlareSlopes.danger(IZ)Z -/
noncomputable def sX1_danger (G : GG) (N : Nat) (a0 : Option Nat) (a1 : Int32) (a2 : Int32) (h : Hp) : Out (Int32) :=
  bV h a0 3 (fun q16 => sX1_withSlope G N (some q16) a1 h) fun v1 h2 =>
  gFr h2 a0 3 4 fun v3 =>
  bV h2 v3 16 (fun q15 => sX3_isDangerous G N (some q15) a1 h2) fun v4 h5 =>
  bV h5 a0 3 (fun q14 => sX1_change G N (some q14) h5) fun v6 h7 =>
  gJ (fun (x8 : Int32) (h9 : Hp) =>
  gP G h9 v6 16 11 (.int x8) fun h11 =>
  gRtZ v4 h11) fun j10 =>
  if a2 = 0 then (gFi h7 v6 16 11 fun v12 =>
  j10 (v12 &&& (((1 : Int32) <<< (a1 &&& 31)) ^^^ (-1 : Int32))) h7)
  else gFi h7 v6 16 11 fun v13 =>
  j10 (v13 ||| ((1 : Int32) <<< (a1 &&& 31))) h7
abbrev mX1_danger : MI := (RX1, cX1_danger, 6, (some .boolean), [], 9, 205, "danger")
theorem tX1_danger {G : GG} {l : Launch} (hs : l.stackTraces = false) {N : Nat} {a0 : Option Nat} {a1 : Int32} {a2 : Int32} {h : Hp} {r : Int32 ⊕ Nat} {hf : Hp} (ho : sX1_danger G N a0 a1 a2 h = some (r, hf)) : gMet G l yX1_danger (ws_ yX1_danger cX1_danger 6 (some .boolean)) 9 205 [gr a0, gi a1, gi a2] h cvI r hf := by
  refine gMet.of ho hs (plainFor_of_name pn_X1) rfl rfl (gbl rfl) fun X => ?_
  show gT G l X mX1_danger cvI r hf 0 [(0, gr a0), (1, gi a1), (2, gi a2)] [] h (sX1_danger G N a0 a1 a2 h)
  delta sX1_danger
  refine g_aload_n (pc := 0) (x := a0) 0 rfl rfl dX1_danger_0 ?_
  refine g_iload_n (pc := 1) (x := a1) 1 rfl rfl dX1_danger_1 ?_
  refine g_bVr (pc := 2) (y := yX1_withSlope) (ws := ws_ yX1_withSlope cX1_withSlope 2 (some (.object "FlareSlopes$Spot"))) (fr := 8) (lo := 121) (as := [gi a1]) (st := []) (g_no) rfl (fun _ _ _ e => tX1_withSlope hs e) (fun K _ _ _ hq hM R e1 e2 => g_runV (M := mX1_danger) (pc := 2) (y := yX1_withSlope) (bytes := cX1_withSlope) (maxL := 2) (ret := (some (.object "FlareSlopes$Spot"))) (fr := 8) (lo := 121) (as := [gi a1]) (st := []) hq (C := "FlareSlopes") rfl gy_X1_withSlope (gbl rfl) (gbl rfl) (gbl rfl) q3044 q3046 qs40 dX1_danger_2 K hM R e1 e2) fun v1 h2 => ?_
  refine g_astore_n (pc := 5) (lv' := [(0, gr a0), (1, gi a1), (2, gi a2)]) [1, 2, 3] rfl rfl (gblt rfl) dX1_danger_5 ?_
  refine g_aload_n (pc := 6) (x := a0) 0 rfl rfl dX1_danger_6 ?_
  refine g_getfr (pc := 7) k_3 (gblt rfl) lk_X1_56_3 dX1_danger_7 fun v3 => ?_
  refine g_iload_n (pc := 10) (x := a1) 1 rfl rfl dX1_danger_10 ?_
  refine g_bVi (pc := 11) (y := yX3_isDangerous) (ws := ws_ yX3_isDangerous cX3_isDangerous 2 (some .boolean)) (fr := 1) (lo := 21) (as := [gi a1]) (st := []) (g_no) rfl (fun _ _ _ e => tX3_isDangerous hs e) (fun K _ _ _ hq hM R e1 e2 => g_runV (M := mX1_danger) (pc := 11) (y := yX3_isDangerous) (bytes := cX3_isDangerous) (maxL := 2) (ret := (some .boolean)) (fr := 1) (lo := 21) (as := [gi a1]) (st := []) hq (C := "FlareSlopes$State") rfl gy_X3_isDangerous (gbl rfl) (gbl rfl) (gbl rfl) q3049 q2333 q2334 dX1_danger_11 K hM R e1 e2) fun v4 h5 => ?_
  refine g_istore (pc := 14) (lv' := [(4, gi v4), (0, gr a0), (1, gi a1), (2, gi a2)]) [0, 1, 2, 3] rfl (gblt rfl) dX1_danger_14 ?_
  refine g_aload_n (pc := 16) (x := a0) 1 rfl rfl dX1_danger_16 ?_
  refine g_bVr (pc := 17) (y := yX1_change) (ws := ws_ yX1_change cX1_change 1 (some (.object "FlareSlopes$State"))) (fr := 8) (lo := 185) (as := []) (st := []) (g_no) rfl (fun _ _ _ e => tX1_change hs e) (fun K _ _ _ hq hM R e1 e2 => g_runV (M := mX1_danger) (pc := 17) (y := yX1_change) (bytes := cX1_change) (maxL := 1) (ret := (some (.object "FlareSlopes$State"))) (fr := 8) (lo := 185) (as := []) (st := []) hq (C := "FlareSlopes") rfl gy_X1_change (gbl rfl) (gbl rfl) (gbl rfl) q3752 q3754 qs52 dX1_danger_17 K hM R e1 e2) fun v6 h7 => ?_
  refine g_astore (pc := 20) (lv' := [(5, gr v6), (4, gi v4), (1, gi a1), (2, gi a2)]) [0, 1, 3, 4] rfl (gblt rfl) dX1_danger_20 ?_
  refine g_aload (pc := 22) (x := v6) 0 rfl dX1_danger_22 ?_
  refine g_iload_n (pc := 24) (x := a2) 3 rfl rfl dX1_danger_24 ?_
  refine g_join 51 (fun (x8 : Int32) => [(4, gi v4)]) (fun (x8 : Int32) => [gi x8, gr v6]) (fun x8 h9 => ?_) (fun j10 Hj10 => ?_)
  · refine g_put (pc := 51) k_16 (gblt rfl) lk_X1_179_16 rfl rfl (gNi _) dX1_danger_51 fun h11 => ?_
    refine g_iload (pc := 54) (x := v4) 0 rfl dX1_danger_54 ?_
    exact g_zreturn (pc := 56) rfl dX1_danger_56
  refine g_if_eq (pc := 25) (tgt := 40) rfl dX1_danger_25 ?_ ?_
  rotate_left
  · refine g_aload (pc := 28) (x := v6) 0 rfl dX1_danger_28 ?_
    refine g_getfi (pc := 30) k_16 (gblt rfl) lk_X1_179_16 dX1_danger_30 fun v13 => ?_
    refine g_iconst (pc := 33) (v := (1 : Int32)) ic_1 dX1_danger_33 ?_
    refine g_iload_n (pc := 34) (x := a1) 2 rfl rfl dX1_danger_34 ?_
    refine g_ishl (pc := 35) dX1_danger_35 ?_
    refine g_ior (pc := 36) dX1_danger_36 ?_
    refine g_goto (pc := 37) (tgt := 51) rfl dX1_danger_37 ?_
    exact g_sub [1] rfl (Hj10 (v13 ||| ((1 : Int32) <<< (a1 &&& 31))) h7)
  refine g_aload (pc := 40) (x := v6) 0 rfl dX1_danger_40 ?_
  refine g_getfi (pc := 42) k_16 (gblt rfl) lk_X1_179_16 dX1_danger_42 fun v12 => ?_
  refine g_iconst (pc := 45) (v := (1 : Int32)) ic_1 dX1_danger_45 ?_
  refine g_iload_n (pc := 46) (x := a1) 2 rfl rfl dX1_danger_46 ?_
  refine g_ishl (pc := 47) dX1_danger_47 ?_
  refine g_iconst (pc := 48) (v := (-1 : Int32)) ic_m1 dX1_danger_48 ?_
  refine g_ixor (pc := 49) dX1_danger_49 ?_
  refine g_iand (pc := 50) dX1_danger_50 ?_
  exact g_sub [1] rfl (Hj10 (v12 &&& (((1 : Int32) <<< (a1 &&& 31)) ^^^ (-1 : Int32))) h7)
/-! FlareSlopesLaw.danger(LFlareSlopes;IZ[J)I -/
noncomputable def sX0_danger (G : GG) (N : Nat) (a0 : Option Nat) (a1 : Int32) (a2 : Int32) (a3 : Option Nat) (h : Hp) : Out (Int32) :=
  bVX h a0 3 (fun q7 => sX1_danger G N (some q7) a1 a2 h) (fun v1 h2 =>
  gJ (fun (x3 : Int64) (h4 : Hp) =>
  gSl G h4 a3 3 (0 : Int32) x3 fun h6 =>
  some (.inl (0 : Int32), h6)) fun j5 =>
  if v1 = 0 then (j5 (0 : Int64) h2)
  else j5 (1 : Int64) h2) fun q8 h9 =>
  gSw h9 (some q8) 0 (some (.inl (1 : Int32), h9)) (gSw h9 (some q8) 2 (some (.inl (2 : Int32), h9)) (none))
abbrev mX0_danger : MI := (RX0, cX0_danger, 5, (some .int), [(0, 17, 20, 21), (0, 17, 24, 13)], 10, 230, "danger")
theorem tX0_danger {G : GG} {l : Launch} (hs : l.stackTraces = false) {N : Nat} {a0 : Option Nat} {a1 : Int32} {a2 : Int32} {a3 : Option Nat} {h : Hp} {r : Int32 ⊕ Nat} {hf : Hp} (ho : sX0_danger G N a0 a1 a2 a3 h = some (r, hf)) : gMet G l yX0_danger (wsW_ yX0_danger cX0_danger 5 (some .int) [(0, 17, 20, 21), (0, 17, 24, 13)]) 10 230 [gr a0, gi a1, gi a2, gr a3] h cvI r hf := by
  refine gMet.ofW ho hs (plainFor_of_name pn_X0) rfl rfl (gbl rfl) fun X => ?_
  show gT G l X mX0_danger cvI r hf 0 [(0, gr a0), (1, gi a1), (2, gi a2), (3, gr a3)] [] h (sX0_danger G N a0 a1 a2 a3 h)
  delta sX0_danger
  refine g_aload_n (pc := 0) (x := a3) 3 rfl rfl dX0_danger_0 ?_
  refine g_iconst (pc := 1) (v := (0 : Int32)) ic_0 dX0_danger_1 ?_
  refine g_aload_n (pc := 2) (x := a0) 0 rfl rfl dX0_danger_2 ?_
  refine g_iload_n (pc := 3) (x := a1) 1 rfl rfl dX0_danger_3 ?_
  refine g_iload_n (pc := 4) (x := a2) 2 rfl rfl dX0_danger_4 ?_
  refine g_bVXi (pc := 5) (y := yX1_danger) (ws := ws_ yX1_danger cX1_danger 6 (some .boolean)) (fr := 9) (lo := 205) (as := [gi a1, gi a2]) (st := [gi (0 : Int32), gr a3]) rfl (fun _ _ _ e => tX1_danger hs e) (fun K _ _ _ hq hM R e1 e2 => g_runV (M := mX0_danger) (pc := 5) (y := yX1_danger) (bytes := cX1_danger) (maxL := 6) (ret := (some .boolean)) (fr := 9) (lo := 205) (as := [gi a1, gi a2]) (st := [gi (0 : Int32), gr a3]) hq (C := "FlareSlopes") rfl gy_X1_danger (gbl rfl) (gbl rfl) (gbl rfl) q3799 q3800 q3801 dX0_danger_5 K hM R e1 e2) (fun v1 h2 => ?_) (fun q8 h9 => ?_)
  · refine g_join 16 (fun (x3 : Int64) => []) (fun (x3 : Int64) => [gl x3, gi (0 : Int32), gr a3]) (fun x3 h4 => ?_) (fun j5 Hj5 => ?_)
    · refine g_lastore (pc := 16) rfl dX0_danger_16 fun h6 => ?_
      refine g_goto (pc := 17) (tgt := 28) rfl dX0_danger_17 ?_
      refine g_iconst (pc := 28) (v := (0 : Int32)) ic_0 dX0_danger_28 ?_
      exact g_ireturn (pc := 29) rfl dX0_danger_29
    refine g_if_eq (pc := 8) (tgt := 15) rfl dX0_danger_8 ?_ ?_
    · refine g_lconst (pc := 15) (v := (0 : Int64)) rfl dX0_danger_15 ?_
      exact g_sub [] rfl (Hj5 (0 : Int64) h2)
    refine g_lconst (pc := 11) (v := (1 : Int64)) rfl dX0_danger_11 ?_
    refine g_goto (pc := 12) (tgt := 16) rfl dX0_danger_12 ?_
    exact g_sub [] rfl (Hj5 (1 : Int64) h2)
  refine g_catch (E := "java/lang/IllegalStateException") [] ⟨0, 17, 20, 21⟩ [⟨0, 17, 24, 13⟩] rfl rfl (List.forall_mem_nil _) (by decide +kernel) (by decide +kernel) q1425 q1439 ?_ ?_
  · refine g_astore (pc := 20) (lv' := []) [] rfl (gblt rfl) dX0_danger_20 ?_
    refine g_iconst (pc := 22) (v := (1 : Int32)) ic_1 dX0_danger_22 ?_
    exact g_ireturn (pc := 23) rfl dX0_danger_23
  refine g_catch (E := "java/lang/IndexOutOfBoundsException") [⟨0, 17, 20, 21⟩] ⟨0, 17, 24, 13⟩ [] rfl rfl (List.forall_mem_cons.mpr ⟨Or.inr ⟨by decide +kernel, _, q1425, ncl_java_lang_IndexOutOfBoundsException_java_lang_IllegalStateException⟩, List.forall_mem_nil _⟩) (by decide +kernel) (by decide +kernel) q325 q418 ?_ ?_
  · refine g_astore (pc := 24) (lv' := []) [] rfl (gblt rfl) dX0_danger_24 ?_
    refine g_iconst (pc := 26) (v := (2 : Int32)) ic_2 dX0_danger_26 ?_
    exact g_ireturn (pc := 27) rfl dX0_danger_27
  exact g_noneX
/-! FlareSlopesModel.danger(IZ)Z -/
noncomputable def sX2_danger (G : GG) (N : Nat) (a0 : Option Nat) (a1 : Int32) (a2 : Int32) (h : Hp) : Out (Int32) :=
  bV h a0 18 (fun q16 => sX2_maySlope G N (some q16) a1 h) fun v1 h2 =>
  if v1 = 0 then (gRtZ (0 : Int32) h2)
  else bV h2 a0 18 (fun q15 => sX2_remembers G N (some q15) h2) fun v3 h4 =>
  gFr h4 a0 18 1 fun v5 =>
  gAi h4 v5 0 (97 : Int32) fun v6 =>
  bnd (sX2_has G N v6 a1 h4) fun v7 h8 =>
  gFr h8 a0 18 1 fun v9 =>
  gAi h8 v9 0 (97 : Int32) fun v10 =>
  gJ (fun (x11 : Int32) (h12 : Hp) =>
  gSi G h12 v9 0 (97 : Int32) (v10 + x11) fun h14 =>
  gRtZ v7 h14) fun j13 =>
  if v7 = a2 then (j13 (0 : Int32) h8)
  else if a2 = 0 then (j13 (-((1 : Int32) <<< (a1 &&& 31))) h8)
  else j13 ((1 : Int32) <<< (a1 &&& 31)) h8
abbrev mX2_danger : MI := (RX2, cX2_danger, 4, (some .boolean), [], 3, 66, "danger")
theorem tX2_danger {G : GG} {l : Launch} (hs : l.stackTraces = false) {N : Nat} {a0 : Option Nat} {a1 : Int32} {a2 : Int32} {h : Hp} {r : Int32 ⊕ Nat} {hf : Hp} (ho : sX2_danger G N a0 a1 a2 h = some (r, hf)) : gMet G l yX2_danger (ws_ yX2_danger cX2_danger 4 (some .boolean)) 3 66 [gr a0, gi a1, gi a2] h cvI r hf := by
  refine gMet.of ho hs (plainFor_of_name pn_X2) rfl rfl (gbl rfl) fun X => ?_
  show gT G l X mX2_danger cvI r hf 0 [(0, gr a0), (1, gi a1), (2, gi a2)] [] h (sX2_danger G N a0 a1 a2 h)
  delta sX2_danger
  refine g_aload_n (pc := 0) (x := a0) 0 rfl rfl dX2_danger_0 ?_
  refine g_iload_n (pc := 1) (x := a1) 1 rfl rfl dX2_danger_1 ?_
  refine g_bVi (pc := 2) (y := yX2_maySlope) (ws := ws_ yX2_maySlope cX2_maySlope 2 (some .boolean)) (fr := 2) (lo := 45) (as := [gi a1]) (st := []) (g_no) rfl (fun _ _ _ e => tX2_maySlope hs e) (fun K _ _ _ hq hM R e1 e2 => g_runV (M := mX2_danger) (pc := 2) (y := yX2_maySlope) (bytes := cX2_maySlope) (maxL := 2) (ret := (some .boolean)) (fr := 2) (lo := 45) (as := [gi a1]) (st := []) hq (C := "FlareSlopesModel") rfl gy_X2_maySlope (gbl rfl) (gbl rfl) (gbl rfl) q4411 q4413 qs111 dX2_danger_2 K hM R e1 e2) fun v1 h2 => ?_
  refine g_if_ne (pc := 5) (tgt := 10) rfl dX2_danger_5 ?_ ?_
  · refine g_iconst (pc := 8) (v := (0 : Int32)) ic_0 dX2_danger_8 ?_
    exact g_zreturn (pc := 9) rfl dX2_danger_9
  refine g_aload_n (pc := 10) (x := a0) 0 rfl rfl dX2_danger_10 ?_
  refine g_bVu (pc := 11) (y := yX2_remembers) (ws := ws_ yX2_remembers cX2_remembers 2 none) (fr := 1) (lo := 24) (as := []) (st := []) (g_no) rfl (fun _ _ _ e => tX2_remembers hs e) (fun K _ _ _ hq hM R e1 e2 => g_runV (M := mX2_danger) (pc := 11) (y := yX2_remembers) (bytes := cX2_remembers) (maxL := 2) (ret := none) (fr := 1) (lo := 24) (as := []) (st := []) hq (C := "FlareSlopesModel") rfl gy_X2_remembers (gbl rfl) (gbl rfl) (gbl rfl) q4555 q4557 qs125 dX2_danger_11 K hM R e1 e2) fun v3 h4 => ?_
  refine g_aload_n (pc := 14) (x := a0) 0 rfl rfl dX2_danger_14 ?_
  refine g_getfr (pc := 15) k_18 (gblt rfl) lk_X2_9_18 dX2_danger_15 fun v5 => ?_
  refine g_bipush (pc := 18) (v := (97 : Int32)) bc_97 dX2_danger_18 ?_
  refine g_iaload (pc := 20) rfl dX2_danger_20 fun v6 => ?_
  refine g_iload_n (pc := 21) (x := a1) 1 rfl rfl dX2_danger_21 ?_
  refine g_bi (pc := 22) (y := yX2_has) (ws := ws_ yX2_has cX2_has 2 (some .boolean)) (fr := 0) (lo := 0) (as := [gi v6, gi a1]) (st := []) (g_no) rfl (fun _ _ e => tX2_has hs e) (fun K _ _ hM R e1 e2 => g_runS (M := mX2_danger) (pc := 22) (y := yX2_has) (bytes := cX2_has) (maxL := 2) (ret := (some .boolean)) (fr := 0) (lo := 0) (as := [gi v6, gi a1]) (st := []) gy_X2_has (gbl rfl) (gbl rfl) (gbl rfl) q4257 q4258 dX2_danger_22 K hM R e1 e2) fun v7 h8 => ?_
  refine g_istore_n (pc := 25) (lv' := [(3, gi v7), (0, gr a0), (1, gi a1), (2, gi a2)]) [0, 1, 2, 3] rfl rfl (gblt rfl) dX2_danger_25 ?_
  refine g_aload_n (pc := 26) (x := a0) 1 rfl rfl dX2_danger_26 ?_
  refine g_getfr (pc := 27) k_18 (gblt rfl) lk_X2_9_18 dX2_danger_27 fun v9 => ?_
  refine g_bipush (pc := 30) (v := (97 : Int32)) bc_97 dX2_danger_30 ?_
  refine g_dup2 (pc := 32) rfl rfl dX2_danger_32 ?_
  refine g_iaload (pc := 33) rfl dX2_danger_33 fun v10 => ?_
  refine g_iload_n (pc := 34) (x := v7) 0 rfl rfl dX2_danger_34 ?_
  refine g_iload_n (pc := 35) (x := a2) 3 rfl rfl dX2_danger_35 ?_
  refine g_join 57 (fun (x11 : Int32) => [(3, gi v7)]) (fun (x11 : Int32) => [gi x11, gi v10, gi (97 : Int32), gr v9]) (fun x11 h12 => ?_) (fun j13 Hj13 => ?_)
  · refine g_iadd (pc := 57) dX2_danger_57 ?_
    refine g_iastore (pc := 58) rfl dX2_danger_58 fun h14 => ?_
    refine g_iload_n (pc := 59) (x := v7) 0 rfl rfl dX2_danger_59 ?_
    exact g_zreturn (pc := 60) rfl dX2_danger_60
  refine g_icmp_ne (pc := 36) (tgt := 43) rfl dX2_danger_36 ?_ ?_
  · refine g_iconst (pc := 39) (v := (0 : Int32)) ic_0 dX2_danger_39 ?_
    refine g_goto (pc := 40) (tgt := 57) rfl dX2_danger_40 ?_
    exact g_sub [0] rfl (Hj13 (0 : Int32) h8)
  refine g_iload_n (pc := 43) (x := a2) 3 rfl rfl dX2_danger_43 ?_
  refine g_if_eq (pc := 44) (tgt := 53) rfl dX2_danger_44 ?_ ?_
  · refine g_iconst (pc := 53) (v := (1 : Int32)) ic_1 dX2_danger_53 ?_
    refine g_iload_n (pc := 54) (x := a1) 2 rfl rfl dX2_danger_54 ?_
    refine g_ishl (pc := 55) dX2_danger_55 ?_
    refine g_ineg (pc := 56) dX2_danger_56 ?_
    exact g_sub [0] rfl (Hj13 (-((1 : Int32) <<< (a1 &&& 31))) h8)
  refine g_iconst (pc := 47) (v := (1 : Int32)) ic_1 dX2_danger_47 ?_
  refine g_iload_n (pc := 48) (x := a1) 2 rfl rfl dX2_danger_48 ?_
  refine g_ishl (pc := 49) dX2_danger_49 ?_
  refine g_goto (pc := 50) (tgt := 57) rfl dX2_danger_50 ?_
  exact g_sub [0] rfl (Hj13 ((1 : Int32) <<< (a1 &&& 31)) h8)
/-! FlareSlopes$Bulletin.<init>(IIII)V -/
noncomputable def sX18_init (G : GG) (N : Nat) (a0 : Option Nat) (a1 : Int32) (a2 : Int32) (a3 : Int32) (a4 : Int32) (h : Hp) : Out (Unit) :=
  gNN a0 (gP G h a0 6 0 (.int a1) fun h1 =>
  gP G h1 a0 6 1 (.int a2) fun h2 =>
  gP G h2 a0 6 2 (.int a3) fun h3 =>
  gP G h3 a0 6 3 (.int a4) fun h4 =>
  some (.inl (), h4))
abbrev mX18_init : MI := (RX18, cX18_init, 5, none, [], 1, 12, "<init>")
theorem tX18_init {G : GG} {l : Launch} (hs : l.stackTraces = false) {N : Nat} {a0 : Option Nat} {a1 : Int32} {a2 : Int32} {a3 : Int32} {a4 : Int32} {h : Hp} {r : Unit ⊕ Nat} {hf : Hp} (ho : sX18_init G N a0 a1 a2 a3 a4 h = some (r, hf)) : gMet G l yX18_init (ws_ yX18_init cX18_init 5 none) 1 12 [gr a0, gi a1, gi a2, gi a3, gi a4] h cvU r hf := by
  refine gMet.of ho hs (plainFor_of_name pn_X18) rfl rfl (gbl rfl) fun X => ?_
  show gT G l X mX18_init cvU r hf 0 [(0, gr a0), (1, gi a1), (2, gi a2), (3, gi a3), (4, gi a4)] [] h (sX18_init G N a0 a1 a2 a3 a4 h)
  delta sX18_init
  refine g_aload_n (pc := 0) (x := a0) 0 rfl rfl dX18_init_0 ?_
  refine g_objInit' (pc := 1) q3819 oi_in oi_code (gbl rfl) (gbl rfl) dX18_init_1 ?_
  refine g_aload_n (pc := 4) (x := a0) 0 rfl rfl dX18_init_4 ?_
  refine g_iload_n (pc := 5) (x := a1) 1 rfl rfl dX18_init_5 ?_
  refine g_putFin (pc := 6) k_6 (gblt rfl) lk_X18_7_6 q3820 rfl rfl rfl rfl (gNi _) dX18_init_6 fun h1 => ?_
  refine g_aload_n (pc := 9) (x := a0) 0 rfl rfl dX18_init_9 ?_
  refine g_iload_n (pc := 10) (x := a2) 2 rfl rfl dX18_init_10 ?_
  refine g_putFin (pc := 11) k_6 (gblt rfl) lk_X18_13_6 q3822 rfl rfl rfl rfl (gNi _) dX18_init_11 fun h2 => ?_
  refine g_aload_n (pc := 14) (x := a0) 0 rfl rfl dX18_init_14 ?_
  refine g_iload_n (pc := 15) (x := a3) 3 rfl rfl dX18_init_15 ?_
  refine g_putFin (pc := 16) k_6 (gblt rfl) lk_X18_16_6 q3824 rfl rfl rfl rfl (gNi _) dX18_init_16 fun h3 => ?_
  refine g_aload_n (pc := 19) (x := a0) 0 rfl rfl dX18_init_19 ?_
  refine g_iload (pc := 20) (x := a4) 4 rfl dX18_init_20 ?_
  refine g_putFin (pc := 22) k_6 (gblt rfl) lk_X18_19_6 q3826 rfl rfl rfl rfl (gNi _) dX18_init_22 fun h4 => ?_
  exact g_return (pc := 25) rfl dX18_init_25
/-! java/util/ArrayDeque.dec(II)I -/
noncomputable def sJ1_dec (G : GG) (N : Nat) (a0 : Int32) (a1 : Int32) (h : Hp) : Out (Int32) :=
  if 0 ≤ (a0 + (-1 : Int32)) then (some (.inl (a0 + (-1 : Int32)), h))
  else gLet (a1 - (1 : Int32)) fun v1 =>
  some (.inl v1, h)
abbrev mJ1_dec : MI := (RJ1, cJ1_dec, 2, (some .int), [], 0, 0, "dec")
theorem tJ1_dec {G : GG} {l : Launch} (hs : l.stackTraces = false) {N : Nat} {a0 : Int32} {a1 : Int32} {h : Hp} {r : Int32 ⊕ Nat} {hf : Hp} (ho : sJ1_dec G N a0 a1 h = some (r, hf)) : gMet G l yJ1_dec (ws_ yJ1_dec cJ1_dec 2 (some .int)) 0 0 [gi a0, gi a1] h cvI r hf := by
  refine gMet.of ho hs (plainFor_of_name pn_J1) rfl rfl (gbl rfl) fun X => ?_
  show gT G l X mJ1_dec cvI r hf 0 [(0, gi a0), (1, gi a1)] [] h (sJ1_dec G N a0 a1 h)
  delta sJ1_dec
  refine g_iinc (pc := 0) (v := a0 + (-1 : Int32)) 0 rfl (ii_m1 _) (lv' := [(0, gi (a0 + (-1 : Int32))), (1, gi a1)]) [0, 1] rfl (gblt rfl) dJ1_dec_0 ?_
  refine g_iload_n (pc := 3) (x := (a0 + (-1 : Int32))) 0 rfl rfl dJ1_dec_3 ?_
  refine g_if_ge (pc := 4) (tgt := 11) rfl dJ1_dec_4 ?_ ?_
  · refine g_iload_n (pc := 11) (x := (a0 + (-1 : Int32))) 0 rfl rfl dJ1_dec_11 ?_
    exact g_ireturn (pc := 12) rfl dJ1_dec_12
  refine g_iload_n (pc := 7) (x := a1) 1 rfl rfl dJ1_dec_7 ?_
  refine g_iconst (pc := 8) (v := (1 : Int32)) ic_1 dJ1_dec_8 ?_
  refine g_isub (pc := 9) dJ1_dec_9 ?_
  refine g_leti fun v1 => ?_
  refine g_istore_n (pc := 10) (lv' := [(0, gi v1)]) [0] rfl rfl (gblt rfl) dJ1_dec_10 ?_
  refine g_iload_n (pc := 11) (x := v1) 0 rfl rfl dJ1_dec_11 ?_
  exact g_ireturn (pc := 12) rfl dJ1_dec_12
/-! java/util/ArrayDeque.addFirst(Ljava/lang/Object;)V -/
noncomputable def sJ1_addFirst (G : GG) (N : Nat) (a0 : Option Nat) (a1 : Option Nat) (h : Hp) : Out (Unit) :=
  if a1 = none then (none)
  else gFr h a0 22 0 fun v1 =>
  gFi h a0 22 1 fun v2 =>
  gLen h v1 fun v3 =>
  bnd (sJ1_dec G N v2 v3 h) fun v4 h5 =>
  gP G h5 a0 22 1 (.int v4) fun h6 =>
  gSr G h6 v1 5 asl_java_lang_Object v4 a1 fun h7 =>
  gFi h7 a0 22 1 fun v8 =>
  gFi h7 a0 22 2 fun v9 =>
  if v8 = v9 then (none)
  else some (.inl (), h7)
abbrev mJ1_addFirst : MI := (RJ1, cJ1_addFirst, 3, none, [], 1, 21, "addFirst")
theorem tJ1_addFirst {G : GG} {l : Launch} (hs : l.stackTraces = false) {N : Nat} {a0 : Option Nat} {a1 : Option Nat} {h : Hp} {r : Unit ⊕ Nat} {hf : Hp} (ho : sJ1_addFirst G N a0 a1 h = some (r, hf)) : gMet G l yJ1_addFirst (ws_ yJ1_addFirst cJ1_addFirst 3 none) 1 21 [gr a0, gr a1] h cvU r hf := by
  refine gMet.of ho hs (plainFor_of_name pn_J1) rfl rfl (gbl rfl) fun X => ?_
  show gT G l X mJ1_addFirst cvU r hf 0 [(0, gr a0), (1, gr a1)] [] h (sJ1_addFirst G N a0 a1 h)
  delta sJ1_addFirst
  refine g_aload_n (pc := 0) (x := a1) 1 rfl rfl dJ1_addFirst_0 ?_
  refine g_ifnonnull (pc := 1) (tgt := 12) rfl dJ1_addFirst_1 ?_ ?_
  · exact g_none
  refine g_aload_n (pc := 12) (x := a0) 0 rfl rfl dJ1_addFirst_12 ?_
  refine g_getfr (pc := 13) k_22 (gblt rfl) lk_J1_3_22 dJ1_addFirst_13 fun v1 => ?_
  refine g_astore_n (pc := 16) (lv' := [(2, gr v1), (0, gr a0), (1, gr a1)]) [0, 1, 2] rfl rfl (gblt rfl) dJ1_addFirst_16 ?_
  refine g_aload_n (pc := 17) (x := v1) 0 rfl rfl dJ1_addFirst_17 ?_
  refine g_aload_n (pc := 18) (x := a0) 1 rfl rfl dJ1_addFirst_18 ?_
  refine g_aload_n (pc := 19) (x := a0) 1 rfl rfl dJ1_addFirst_19 ?_
  refine g_getfi (pc := 20) k_22 (gblt rfl) lk_J1_24_22 dJ1_addFirst_20 fun v2 => ?_
  refine g_aload_n (pc := 23) (x := v1) 0 rfl rfl dJ1_addFirst_23 ?_
  refine g_alen (pc := 24) dJ1_addFirst_24 fun v3 => ?_
  refine g_bi (pc := 25) (y := yJ1_dec) (ws := ws_ yJ1_dec cJ1_dec 2 (some .int)) (fr := 0) (lo := 0) (as := [gi v2, gi v3]) (st := [gr a0, gr v1]) (g_no) rfl (fun _ _ e => tJ1_dec hs e) (fun K _ _ hM R e1 e2 => g_runS (M := mJ1_addFirst) (pc := 25) (y := yJ1_dec) (bytes := cJ1_dec) (maxL := 2) (ret := (some .int)) (fr := 0) (lo := 0) (as := [gi v2, gi v3]) (st := [gr a0, gr v1]) gy_J1_dec (gbl rfl) (gbl rfl) (gbl rfl) q3841 q3842 dJ1_addFirst_25 K hM R e1 e2) fun v4 h5 => ?_
  refine g_dup_x1 (pc := 28) rfl rfl dJ1_addFirst_28 ?_
  refine g_put (pc := 29) k_22 (gblt rfl) lk_J1_24_22 rfl rfl (gNi _) dJ1_addFirst_29 fun h6 => ?_
  refine g_aload_n (pc := 32) (x := a1) 2 rfl rfl dJ1_addFirst_32 ?_
  refine g_aastore (pc := 33) rfl asl_java_lang_Object_ok dJ1_addFirst_33 fun h7 => ?_
  refine g_aload_n (pc := 34) (x := a0) 1 rfl rfl dJ1_addFirst_34 ?_
  refine g_getfi (pc := 35) k_22 (gblt rfl) lk_J1_24_22 dJ1_addFirst_35 fun v8 => ?_
  refine g_aload_n (pc := 38) (x := a0) 1 rfl rfl dJ1_addFirst_38 ?_
  refine g_getfi (pc := 39) k_22 (gblt rfl) lk_J1_20_22 dJ1_addFirst_39 fun v9 => ?_
  refine g_icmp_ne (pc := 42) (tgt := 50) rfl dJ1_addFirst_42 ?_ ?_
  · exact g_none
  exact g_return (pc := 50) rfl dJ1_addFirst_50
/-! java/util/ArrayDeque.pollLast()Ljava/lang/Object; -/
noncomputable def sJ1_pollLast (G : GG) (N : Nat) (a0 : Option Nat) (h : Hp) : Out (Option Nat) :=
  gFr h a0 22 0 fun v1 =>
  gFi h a0 22 2 fun v2 =>
  gLen h v1 fun v3 =>
  bnd (sJ1_dec G N v2 v3 h) fun v4 h5 =>
  bnd (sJ1_elementAt G N v1 v4 h5) fun v6 h7 =>
  if v6 = none then (some (.inl v6, h7))
  else gP G h7 a0 22 2 (.int v4) fun h8 =>
  gSr G h8 v1 5 asl_java_lang_Object v4 none fun h9 =>
  some (.inl v6, h9)
abbrev mJ1_pollLast : MI := (RJ1, cJ1_pollLast, 4, (some (.object "java/lang/Object")), [], 1, 21, "pollLast")
theorem tJ1_pollLast {G : GG} {l : Launch} (hs : l.stackTraces = false) {N : Nat} {a0 : Option Nat} {h : Hp} {r : Option Nat ⊕ Nat} {hf : Hp} (ho : sJ1_pollLast G N a0 h = some (r, hf)) : gMet G l yJ1_pollLast (ws_ yJ1_pollLast cJ1_pollLast 4 (some (.object "java/lang/Object"))) 1 21 [gr a0] h cvR r hf := by
  refine gMet.of ho hs (plainFor_of_name pn_J1) rfl rfl (gbl rfl) fun X => ?_
  show gT G l X mJ1_pollLast cvR r hf 0 [(0, gr a0)] [] h (sJ1_pollLast G N a0 h)
  delta sJ1_pollLast
  refine g_aload_n (pc := 0) (x := a0) 0 rfl rfl dJ1_pollLast_0 ?_
  refine g_getfr (pc := 1) k_22 (gblt rfl) lk_J1_3_22 dJ1_pollLast_1 fun v1 => ?_
  refine g_dup (pc := 4) rfl dJ1_pollLast_4 ?_
  refine g_astore_n (pc := 5) (lv' := [(1, gr v1), (0, gr a0)]) [0, 1] rfl rfl (gblt rfl) dJ1_pollLast_5 ?_
  refine g_aload_n (pc := 6) (x := a0) 1 rfl rfl dJ1_pollLast_6 ?_
  refine g_getfi (pc := 7) k_22 (gblt rfl) lk_J1_20_22 dJ1_pollLast_7 fun v2 => ?_
  refine g_aload_n (pc := 10) (x := v1) 0 rfl rfl dJ1_pollLast_10 ?_
  refine g_alen (pc := 11) dJ1_pollLast_11 fun v3 => ?_
  refine g_bi (pc := 12) (y := yJ1_dec) (ws := ws_ yJ1_dec cJ1_dec 2 (some .int)) (fr := 0) (lo := 0) (as := [gi v2, gi v3]) (st := [gr v1]) (g_no) rfl (fun _ _ e => tJ1_dec hs e) (fun K _ _ hM R e1 e2 => g_runS (M := mJ1_pollLast) (pc := 12) (y := yJ1_dec) (bytes := cJ1_dec) (maxL := 2) (ret := (some .int)) (fr := 0) (lo := 0) (as := [gi v2, gi v3]) (st := [gr v1]) gy_J1_dec (gbl rfl) (gbl rfl) (gbl rfl) q3841 q3842 dJ1_pollLast_12 K hM R e1 e2) fun v4 h5 => ?_
  refine g_dup (pc := 15) rfl dJ1_pollLast_15 ?_
  refine g_istore_n (pc := 16) (lv' := [(2, gi v4), (1, gr v1), (0, gr a0)]) [0, 1, 2] rfl rfl (gblt rfl) dJ1_pollLast_16 ?_
  refine g_br (pc := 17) (y := yJ1_elementAt) (ws := ws_ yJ1_elementAt cJ1_elementAt 2 (some (.object "java/lang/Object"))) (fr := 0) (lo := 0) (as := [gr v1, gi v4]) (st := []) (g_no) rfl (fun _ _ e => tJ1_elementAt hs e) (fun K _ _ hM R e1 e2 => g_runS (M := mJ1_pollLast) (pc := 17) (y := yJ1_elementAt) (bytes := cJ1_elementAt) (maxL := 2) (ret := (some (.object "java/lang/Object"))) (fr := 0) (lo := 0) (as := [gr v1, gi v4]) (st := []) gy_J1_elementAt (gbl rfl) (gbl rfl) (gbl rfl) q3764 q3765 dJ1_pollLast_17 K hM R e1 e2) fun v6 h7 => ?_
  refine g_astore_n (pc := 20) (lv' := [(3, gr v6), (2, gi v4), (1, gr v1), (0, gr a0)]) [0, 1, 2, 3] rfl rfl (gblt rfl) dJ1_pollLast_20 ?_
  refine g_aload_n (pc := 21) (x := v6) 0 rfl rfl dJ1_pollLast_21 ?_
  refine g_ifnull (pc := 22) (tgt := 34) rfl dJ1_pollLast_22 ?_ ?_
  · refine g_aload_n (pc := 34) (x := v6) 0 rfl rfl dJ1_pollLast_34 ?_
    exact g_areturn (pc := 35) rfl (Or.inl ⟨_, rfl⟩) dJ1_pollLast_35
  refine g_aload_n (pc := 25) (x := v1) 2 rfl rfl dJ1_pollLast_25 ?_
  refine g_aload_n (pc := 26) (x := a0) 3 rfl rfl dJ1_pollLast_26 ?_
  refine g_iload_n (pc := 27) (x := v4) 1 rfl rfl dJ1_pollLast_27 ?_
  refine g_dup_x1 (pc := 28) rfl rfl dJ1_pollLast_28 ?_
  refine g_put (pc := 29) k_22 (gblt rfl) lk_J1_20_22 rfl rfl (gNi _) dJ1_pollLast_29 fun h8 => ?_
  refine g_aconst_null (pc := 32) dJ1_pollLast_32 ?_
  refine g_aastore (pc := 33) rfl asl_java_lang_Object_ok dJ1_pollLast_33 fun h9 => ?_
  refine g_aload_n (pc := 34) (x := v6) 0 rfl rfl dJ1_pollLast_34 ?_
  exact g_areturn (pc := 35) rfl (Or.inl ⟨_, rfl⟩) dJ1_pollLast_35
/-! java/util/ArrayDeque.removeLast()Ljava/lang/Object; -/
noncomputable def sJ1_removeLast (G : GG) (N : Nat) (a0 : Option Nat) (h : Hp) : Out (Option Nat) :=
  bV h a0 22 (fun q3 => sJ1_pollLast G N (some q3) h) fun v1 h2 =>
  if v1 = none then (none)
  else some (.inl v1, h2)
abbrev mJ1_removeLast : MI := (RJ1, cJ1_removeLast, 2, (some (.object "java/lang/Object")), [], 2, 44, "removeLast")
theorem tJ1_removeLast {G : GG} {l : Launch} (hs : l.stackTraces = false) {N : Nat} {a0 : Option Nat} {h : Hp} {r : Option Nat ⊕ Nat} {hf : Hp} (ho : sJ1_removeLast G N a0 h = some (r, hf)) : gMet G l yJ1_removeLast (ws_ yJ1_removeLast cJ1_removeLast 2 (some (.object "java/lang/Object"))) 2 44 [gr a0] h cvR r hf := by
  refine gMet.of ho hs (plainFor_of_name pn_J1) rfl rfl (gbl rfl) fun X => ?_
  show gT G l X mJ1_removeLast cvR r hf 0 [(0, gr a0)] [] h (sJ1_removeLast G N a0 h)
  delta sJ1_removeLast
  refine g_aload_n (pc := 0) (x := a0) 0 rfl rfl dJ1_removeLast_0 ?_
  refine g_bVr (pc := 1) (y := yJ1_pollLast) (ws := ws_ yJ1_pollLast cJ1_pollLast 4 (some (.object "java/lang/Object"))) (fr := 1) (lo := 21) (as := []) (st := []) (g_no) rfl (fun _ _ _ e => tJ1_pollLast hs e) (fun K _ _ _ hq hM R e1 e2 => g_runV (M := mJ1_removeLast) (pc := 1) (y := yJ1_pollLast) (bytes := cJ1_pollLast) (maxL := 4) (ret := (some (.object "java/lang/Object"))) (fr := 1) (lo := 21) (as := []) (st := []) hq (C := "java/util/ArrayDeque") rfl gy_J1_pollLast (gbl rfl) (gbl rfl) (gbl rfl) q3849 q3850 q3851 dJ1_removeLast_1 K hM R e1 e2) fun v1 h2 => ?_
  refine g_astore_n (pc := 4) (lv' := [(1, gr v1)]) [0] rfl rfl (gblt rfl) dJ1_removeLast_4 ?_
  refine g_aload_n (pc := 5) (x := v1) 0 rfl rfl dJ1_removeLast_5 ?_
  refine g_ifnonnull (pc := 6) (tgt := 17) rfl dJ1_removeLast_6 ?_ ?_
  · exact g_none
  refine g_aload_n (pc := 17) (x := v1) 0 rfl rfl dJ1_removeLast_17 ?_
  exact g_areturn (pc := 18) rfl (Or.inl ⟨_, rfl⟩) dJ1_removeLast_18
/-! FlareSlopes$Bulletin.wrong()I -/
noncomputable def sX18_wrong (G : GG) (N : Nat) (a0 : Option Nat) (h : Hp) : Out (Int32) :=
  gFi h a0 6 3 fun v1 =>
  gFi h a0 6 2 fun v2 =>
  bnd (sJ20_bitCount G N (v1 &&& (v2 ^^^ (-1 : Int32))) h) fun v3 h4 =>
  some (.inl v3, h4)
abbrev mX18_wrong : MI := (RX18, cX18_wrong, 1, (some .int), [], 1, 20, "wrong")
theorem tX18_wrong {G : GG} {l : Launch} (hs : l.stackTraces = false) {N : Nat} {a0 : Option Nat} {h : Hp} {r : Int32 ⊕ Nat} {hf : Hp} (ho : sX18_wrong G N a0 h = some (r, hf)) : gMet G l yX18_wrong (ws_ yX18_wrong cX18_wrong 1 (some .int)) 1 20 [gr a0] h cvI r hf := by
  refine gMet.of ho hs (plainFor_of_name pn_X18) rfl rfl (gbl rfl) fun X => ?_
  show gT G l X mX18_wrong cvI r hf 0 [(0, gr a0)] [] h (sX18_wrong G N a0 h)
  delta sX18_wrong
  refine g_aload_n (pc := 0) (x := a0) 0 rfl rfl dX18_wrong_0 ?_
  refine g_getfi (pc := 1) k_6 (gblt rfl) lk_X18_19_6 dX18_wrong_1 fun v1 => ?_
  refine g_aload_n (pc := 4) (x := a0) 0 rfl rfl dX18_wrong_4 ?_
  refine g_getfi (pc := 5) k_6 (gblt rfl) lk_X18_16_6 dX18_wrong_5 fun v2 => ?_
  refine g_iconst (pc := 8) (v := (-1 : Int32)) ic_m1 dX18_wrong_8 ?_
  refine g_ixor (pc := 9) dX18_wrong_9 ?_
  refine g_iand (pc := 10) dX18_wrong_10 ?_
  refine g_bi (pc := 11) (y := yJ20_bitCount) (ws := ws_ yJ20_bitCount cJ20_bitCount 1 (some .int)) (fr := 0) (lo := 0) (as := [gi (v1 &&& (v2 ^^^ (-1 : Int32)))]) (st := []) (g_no) rfl (fun _ _ e => tJ20_bitCount hs e) (fun K _ _ hM R e1 e2 => g_runS (M := mX18_wrong) (pc := 11) (y := yJ20_bitCount) (bytes := cJ20_bitCount) (maxL := 1) (ret := (some .int)) (fr := 0) (lo := 0) (as := [gi (v1 &&& (v2 ^^^ (-1 : Int32)))]) (st := []) gy_J20_bitCount (gbl rfl) (gbl rfl) (gbl rfl) q3857 q1620 dX18_wrong_11 K hM R e1 e2) fun v3 h4 => ?_
  exact g_ireturn (pc := 14) rfl dX18_wrong_14
/-! FlareSlopes$State.issues(I)V -/
noncomputable def sX3_issues (G : GG) (N : Nat) (a0 : Option Nat) (a1 : Int32) (h : Hp) : Out (Unit) :=
  gNew h 6 [.int 0, .int 0, .int 0, .int 0] 4 fun v1 h2 =>
  gFi h2 a0 16 4 fun v3 =>
  bV h2 a0 16 (fun q32 => sX3_tells G N (some q32) a1 h2) fun v4 h5 =>
  gFi h5 a0 16 11 fun v6 =>
  bI v1 (fun q31 => sX18_init G N (some q31) v3 a1 v4 v6 h5) fun v7 h8 =>
  gFr h8 a0 16 3 fun v9 =>
  bV h8 v9 22 (fun q30 => sJ1_addFirst G N (some q30) v1 h8) fun v10 h11 =>
  gFr h11 a0 16 3 fun v12 =>
  bV h11 v12 22 (fun q29 => sJ1_size G N (some q29) h11) fun v13 h14 =>
  gJ (fun (x15 : Unit) (h16 : Hp) =>
  gFi h16 a0 16 9 fun v18 =>
  gP G h16 a0 16 9 (.int (v18 + (1 : Int32))) fun h19 =>
  gFi h19 a0 16 10 fun v20 =>
  bV h19 v1 6 (fun q24 => sX18_wrong G N (some q24) h19) fun v21 h22 =>
  gP G h22 a0 16 10 (.int (v20 + v21)) fun h23 =>
  some (.inl (), h23)) fun j17 =>
  if v13 ≤ (10 : Int32) then (j17 () h14)
  else gFr h14 a0 16 3 fun v25 =>
  bV h14 v25 22 (fun q28 => sJ1_removeLast G N (some q28) h14) fun v26 h27 =>
  gCk h27 v26 [6] (j17 () h27)
abbrev mX3_issues : MI := (RX3, cX3_issues, 4, none, [], 10, 220, "issues")
theorem tX3_issues {G : GG} {l : Launch} (hs : l.stackTraces = false) {N : Nat} {a0 : Option Nat} {a1 : Int32} {h : Hp} {r : Unit ⊕ Nat} {hf : Hp} (ho : sX3_issues G N a0 a1 h = some (r, hf)) : gMet G l yX3_issues (ws_ yX3_issues cX3_issues 4 none) 10 220 [gr a0, gi a1] h cvU r hf := by
  refine gMet.of ho hs (plainFor_of_name pn_X3) rfl rfl (gbl rfl) fun X => ?_
  show gT G l X mX3_issues cvU r hf 0 [(0, gr a0), (1, gi a1)] [] h (sX3_issues G N a0 a1 h)
  delta sX3_issues
  refine g_new (pc := 0) k_6 df_6 q3496 q3814 q200 dX3_issues_0 fun v1 h2 => ?_
  refine g_dup (pc := 3) rfl dX3_issues_3 ?_
  refine g_aload_n (pc := 4) (x := a0) 0 rfl rfl dX3_issues_4 ?_
  refine g_getfi (pc := 5) k_16 (gblt rfl) lk_X3_98_16 dX3_issues_5 fun v3 => ?_
  refine g_iload_n (pc := 8) (x := a1) 1 rfl rfl dX3_issues_8 ?_
  refine g_aload_n (pc := 9) (x := a0) 0 rfl rfl dX3_issues_9 ?_
  refine g_iload_n (pc := 10) (x := a1) 1 rfl rfl dX3_issues_10 ?_
  refine g_bVi (pc := 11) (y := yX3_tells) (ws := ws_ yX3_tells cX3_tells 4 (some .int)) (fr := 9) (lo := 197) (as := [gi a1]) (st := [gi a1, gi v3, gr v1, gr v1]) (g_no) rfl (fun _ _ _ e => tX3_tells hs e) (fun K _ _ _ hq hM R e1 e2 => g_runV (M := mX3_issues) (pc := 11) (y := yX3_tells) (bytes := cX3_tells) (maxL := 4) (ret := (some .int)) (fr := 9) (lo := 197) (as := [gi a1]) (st := [gi a1, gi v3, gr v1, gr v1]) hq (C := "FlareSlopes$State") rfl gy_X3_tells (gbl rfl) (gbl rfl) (gbl rfl) q3815 q3661 q3662 dX3_issues_11 K hM R e1 e2) fun v4 h5 => ?_
  refine g_aload_n (pc := 14) (x := a0) 0 rfl rfl dX3_issues_14 ?_
  refine g_getfi (pc := 15) k_16 (gblt rfl) lk_X3_120_16 dX3_issues_15 fun v6 => ?_
  refine g_bIu (pc := 18) (y := yX18_init) (ws := ws_ yX18_init cX18_init 5 none) (fr := 1) (lo := 12) (as := [gi v3, gi a1, gi v4, gi v6]) (st := [gr v1]) (g_no) rfl (fun _ _ _ e => tX18_init hs e) (fun K _ _ _ hM R e1 e2 => g_runI (M := mX3_issues) (pc := 18) (y := yX18_init) (bytes := cX18_init) (maxL := 5) (ret := none) (fr := 1) (lo := 12) (as := [gi v3, gi a1, gi v4, gi v6]) (st := [gr v1]) gy_X18_init (gbl rfl) (gbl rfl) (gbl rfl) rfl q3816 q3817 rfl dX3_issues_18 K hM R e1 e2) fun v7 h8 => ?_
  refine g_astore_n (pc := 21) (lv' := [(2, gr v1), (0, gr a0)]) [0, 1] rfl rfl (gblt rfl) dX3_issues_21 ?_
  refine g_aload_n (pc := 22) (x := a0) 1 rfl rfl dX3_issues_22 ?_
  refine g_getfr (pc := 23) k_16 (gblt rfl) lk_X3_25_16 dX3_issues_23 fun v9 => ?_
  refine g_aload_n (pc := 26) (x := v1) 0 rfl rfl dX3_issues_26 ?_
  refine g_bVu (pc := 27) (y := yJ1_addFirst) (ws := ws_ yJ1_addFirst cJ1_addFirst 3 none) (fr := 1) (lo := 21) (as := [gr v1]) (st := []) (g_no) rfl (fun _ _ _ e => tJ1_addFirst hs e) (fun K _ _ _ hq hM R e1 e2 => g_runV (M := mX3_issues) (pc := 27) (y := yJ1_addFirst) (bytes := cJ1_addFirst) (maxL := 3) (ret := none) (fr := 1) (lo := 21) (as := [gr v1]) (st := []) hq (C := "java/util/ArrayDeque") rfl gy_J1_addFirst (gbl rfl) (gbl rfl) (gbl rfl) q3837 q3838 q3839 dX3_issues_27 K hM R e1 e2) fun v10 h11 => ?_
  refine g_aload_n (pc := 30) (x := a0) 1 rfl rfl dX3_issues_30 ?_
  refine g_getfr (pc := 31) k_16 (gblt rfl) lk_X3_25_16 dX3_issues_31 fun v12 => ?_
  refine g_bVi (pc := 34) (y := yJ1_size) (ws := ws_ yJ1_size cJ1_size 1 (some .int)) (fr := 1) (lo := 22) (as := []) (st := []) (g_no) rfl (fun _ _ _ e => tJ1_size hs e) (fun K _ _ _ hq hM R e1 e2 => g_runV (M := mX3_issues) (pc := 34) (y := yJ1_size) (bytes := cJ1_size) (maxL := 1) (ret := (some .int)) (fr := 1) (lo := 22) (as := []) (st := []) hq (C := "java/util/ArrayDeque") rfl gy_J1_size (gbl rfl) (gbl rfl) (gbl rfl) q3844 q316 q317 dX3_issues_34 K hM R e1 e2) fun v13 h14 => ?_
  refine g_bipush (pc := 37) (v := (10 : Int32)) bc_10 dX3_issues_37 ?_
  refine g_join 53 (fun (x15 : Unit) => [(0, gr a0), (2, gr v1)]) (fun (x15 : Unit) => []) (fun x15 h16 => ?_) (fun j17 Hj17 => ?_)
  · refine g_aload_n (pc := 53) (x := a0) 0 rfl rfl dX3_issues_53 ?_
    refine g_dup (pc := 54) rfl dX3_issues_54 ?_
    refine g_getfi (pc := 55) k_16 (gblt rfl) lk_X3_114_16 dX3_issues_55 fun v18 => ?_
    refine g_iconst (pc := 58) (v := (1 : Int32)) ic_1 dX3_issues_58 ?_
    refine g_iadd (pc := 59) dX3_issues_59 ?_
    refine g_put (pc := 60) k_16 (gblt rfl) lk_X3_114_16 rfl rfl (gNi _) dX3_issues_60 fun h19 => ?_
    refine g_aload_n (pc := 63) (x := a0) 0 rfl rfl dX3_issues_63 ?_
    refine g_dup (pc := 64) rfl dX3_issues_64 ?_
    refine g_getfi (pc := 65) k_16 (gblt rfl) lk_X3_117_16 dX3_issues_65 fun v20 => ?_
    refine g_aload_n (pc := 68) (x := v1) 1 rfl rfl dX3_issues_68 ?_
    refine g_bVi (pc := 69) (y := yX18_wrong) (ws := ws_ yX18_wrong cX18_wrong 1 (some .int)) (fr := 1) (lo := 20) (as := []) (st := [gi v20, gr a0]) (g_no) rfl (fun _ _ _ e => tX18_wrong hs e) (fun K _ _ _ hq hM R e1 e2 => g_runV (M := mX3_issues) (pc := 69) (y := yX18_wrong) (bytes := cX18_wrong) (maxL := 1) (ret := (some .int)) (fr := 1) (lo := 20) (as := []) (st := [gi v20, gr a0]) hq (C := "FlareSlopes$Bulletin") rfl gy_X18_wrong (gbl rfl) (gbl rfl) (gbl rfl) q3853 q3854 q3855 dX3_issues_69 K hM R e1 e2) fun v21 h22 => ?_
    refine g_iadd (pc := 72) dX3_issues_72 ?_
    refine g_put (pc := 73) k_16 (gblt rfl) lk_X3_117_16 rfl rfl (gNi _) dX3_issues_73 fun h23 => ?_
    exact g_return (pc := 76) rfl dX3_issues_76
  refine g_icmp_le (pc := 39) (tgt := 53) rfl dX3_issues_39 ?_ ?_
  · exact g_sub [1, 0] rfl (Hj17 () h14)
  refine g_aload_n (pc := 42) (x := a0) 1 rfl rfl dX3_issues_42 ?_
  refine g_getfr (pc := 43) k_16 (gblt rfl) lk_X3_25_16 dX3_issues_43 fun v25 => ?_
  refine g_bVr (pc := 46) (y := yJ1_removeLast) (ws := ws_ yJ1_removeLast cJ1_removeLast 2 (some (.object "java/lang/Object"))) (fr := 2) (lo := 44) (as := []) (st := []) (g_no) rfl (fun _ _ _ e => tJ1_removeLast hs e) (fun K _ _ _ hq hM R e1 e2 => g_runV (M := mX3_issues) (pc := 46) (y := yJ1_removeLast) (bytes := cJ1_removeLast) (maxL := 2) (ret := (some (.object "java/lang/Object"))) (fr := 2) (lo := 44) (as := []) (st := []) hq (C := "java/util/ArrayDeque") rfl gy_J1_removeLast (gbl rfl) (gbl rfl) (gbl rfl) q3845 q3846 q3847 dX3_issues_46 K hM R e1 e2) fun v26 h27 => ?_
  refine g_checkcast (pc := 49) q3496 as_6_FlareSlopes_Bulletin dX3_issues_49 ?_
  refine g_astore_n (pc := 52) (lv' := [(2, gr v1), (0, gr a0)]) [1, 2] rfl rfl (gblt rfl) dX3_issues_52 ?_
  exact g_sub [1, 0] rfl (Hj17 () h27)
/-! FlareSlopes.issue(I)I -/
noncomputable def sX1_issue (G : GG) (N : Nat) (a0 : Option Nat) (a1 : Int32) (h : Hp) : Out (Int32) :=
  bV h a0 3 (fun q12 => sX1_withCabin G N (some q12) a1 h) fun v1 h2 =>
  bV h2 a0 3 (fun q11 => sX1_change G N (some q11) h2) fun v3 h4 =>
  bV h4 v3 16 (fun q10 => sX3_issues G N (some q10) a1 h4) fun v5 h6 =>
  bV h6 v3 16 (fun q9 => sX3_tells G N (some q9) a1 h6) fun v7 h8 =>
  some (.inl v7, h8)
abbrev mX1_issue : MI := (RX1, cX1_issue, 4, (some .int), [], 11, 243, "issue")
theorem tX1_issue {G : GG} {l : Launch} (hs : l.stackTraces = false) {N : Nat} {a0 : Option Nat} {a1 : Int32} {h : Hp} {r : Int32 ⊕ Nat} {hf : Hp} (ho : sX1_issue G N a0 a1 h = some (r, hf)) : gMet G l yX1_issue (ws_ yX1_issue cX1_issue 4 (some .int)) 11 243 [gr a0, gi a1] h cvI r hf := by
  refine gMet.of ho hs (plainFor_of_name pn_X1) rfl rfl (gbl rfl) fun X => ?_
  show gT G l X mX1_issue cvI r hf 0 [(0, gr a0), (1, gi a1)] [] h (sX1_issue G N a0 a1 h)
  delta sX1_issue
  refine g_aload_n (pc := 0) (x := a0) 0 rfl rfl dX1_issue_0 ?_
  refine g_iload_n (pc := 1) (x := a1) 1 rfl rfl dX1_issue_1 ?_
  refine g_bVr (pc := 2) (y := yX1_withCabin) (ws := ws_ yX1_withCabin cX1_withCabin 2 (some (.object "FlareSlopes$Cabin"))) (fr := 8) (lo := 121) (as := [gi a1]) (st := []) (g_no) rfl (fun _ _ _ e => tX1_withCabin hs e) (fun K _ _ _ hq hM R e1 e2 => g_runV (M := mX1_issue) (pc := 2) (y := yX1_withCabin) (bytes := cX1_withCabin) (maxL := 2) (ret := (some (.object "FlareSlopes$Cabin"))) (fr := 8) (lo := 121) (as := [gi a1]) (st := []) hq (C := "FlareSlopes") rfl gy_X1_withCabin (gbl rfl) (gbl rfl) (gbl rfl) q1968 q1970 qs22 dX1_issue_2 K hM R e1 e2) fun v1 h2 => ?_
  refine g_astore_n (pc := 5) (lv' := [(0, gr a0), (1, gi a1)]) [1, 2] rfl rfl (gblt rfl) dX1_issue_5 ?_
  refine g_aload_n (pc := 6) (x := a0) 0 rfl rfl dX1_issue_6 ?_
  refine g_bVr (pc := 7) (y := yX1_change) (ws := ws_ yX1_change cX1_change 1 (some (.object "FlareSlopes$State"))) (fr := 8) (lo := 185) (as := []) (st := []) (g_no) rfl (fun _ _ _ e => tX1_change hs e) (fun K _ _ _ hq hM R e1 e2 => g_runV (M := mX1_issue) (pc := 7) (y := yX1_change) (bytes := cX1_change) (maxL := 1) (ret := (some (.object "FlareSlopes$State"))) (fr := 8) (lo := 185) (as := []) (st := []) hq (C := "FlareSlopes") rfl gy_X1_change (gbl rfl) (gbl rfl) (gbl rfl) q3752 q3754 qs52 dX1_issue_7 K hM R e1 e2) fun v3 h4 => ?_
  refine g_astore_n (pc := 10) (lv' := [(3, gr v3), (1, gi a1)]) [0, 2] rfl rfl (gblt rfl) dX1_issue_10 ?_
  refine g_aload_n (pc := 11) (x := v3) 0 rfl rfl dX1_issue_11 ?_
  refine g_iload_n (pc := 12) (x := a1) 1 rfl rfl dX1_issue_12 ?_
  refine g_bVu (pc := 13) (y := yX3_issues) (ws := ws_ yX3_issues cX3_issues 4 none) (fr := 10) (lo := 220) (as := [gi a1]) (st := []) (g_no) rfl (fun _ _ _ e => tX3_issues hs e) (fun K _ _ _ hq hM R e1 e2 => g_runV (M := mX1_issue) (pc := 13) (y := yX3_issues) (bytes := cX3_issues) (maxL := 4) (ret := none) (fr := 10) (lo := 220) (as := [gi a1]) (st := []) hq (C := "FlareSlopes$State") rfl gy_X3_issues (gbl rfl) (gbl rfl) (gbl rfl) q3810 q3811 q3812 dX1_issue_13 K hM R e1 e2) fun v5 h6 => ?_
  refine g_aload_n (pc := 16) (x := v3) 0 rfl rfl dX1_issue_16 ?_
  refine g_iload_n (pc := 17) (x := a1) 1 rfl rfl dX1_issue_17 ?_
  refine g_bVi (pc := 18) (y := yX3_tells) (ws := ws_ yX3_tells cX3_tells 4 (some .int)) (fr := 9) (lo := 197) (as := [gi a1]) (st := []) (g_no) rfl (fun _ _ _ e => tX3_tells hs e) (fun K _ _ _ hq hM R e1 e2 => g_runV (M := mX1_issue) (pc := 18) (y := yX3_tells) (bytes := cX3_tells) (maxL := 4) (ret := (some .int)) (fr := 9) (lo := 197) (as := [gi a1]) (st := []) hq (C := "FlareSlopes$State") rfl gy_X3_tells (gbl rfl) (gbl rfl) (gbl rfl) q3660 q3661 q3662 dX1_issue_18 K hM R e1 e2) fun v7 h8 => ?_
  exact g_ireturn (pc := 21) rfl dX1_issue_21
/-! FlareSlopesLaw.issue(LFlareSlopes;I[J)I -/
noncomputable def sX0_issue (G : GG) (N : Nat) (a0 : Option Nat) (a1 : Int32) (a2 : Option Nat) (h : Hp) : Out (Int32) :=
  bVX h a0 3 (fun q4 => sX1_issue G N (some q4) a1 h) (fun v1 h2 =>
  gSl G h2 a2 3 (0 : Int32) (v1.toInt64) fun h3 =>
  some (.inl (0 : Int32), h3)) fun q5 h6 =>
  gSw h6 (some q5) 0 (some (.inl (1 : Int32), h6)) (gSw h6 (some q5) 2 (some (.inl (2 : Int32), h6)) (none))
abbrev mX0_issue : MI := (RX0, cX0_issue, 4, (some .int), [(0, 9, 12, 21), (0, 9, 15, 13)], 12, 266, "issue")
theorem tX0_issue {G : GG} {l : Launch} (hs : l.stackTraces = false) {N : Nat} {a0 : Option Nat} {a1 : Int32} {a2 : Option Nat} {h : Hp} {r : Int32 ⊕ Nat} {hf : Hp} (ho : sX0_issue G N a0 a1 a2 h = some (r, hf)) : gMet G l yX0_issue (wsW_ yX0_issue cX0_issue 4 (some .int) [(0, 9, 12, 21), (0, 9, 15, 13)]) 12 266 [gr a0, gi a1, gr a2] h cvI r hf := by
  refine gMet.ofW ho hs (plainFor_of_name pn_X0) rfl rfl (gbl rfl) fun X => ?_
  show gT G l X mX0_issue cvI r hf 0 [(0, gr a0), (1, gi a1), (2, gr a2)] [] h (sX0_issue G N a0 a1 a2 h)
  delta sX0_issue
  refine g_aload_n (pc := 0) (x := a2) 2 rfl rfl dX0_issue_0 ?_
  refine g_iconst (pc := 1) (v := (0 : Int32)) ic_0 dX0_issue_1 ?_
  refine g_aload_n (pc := 2) (x := a0) 0 rfl rfl dX0_issue_2 ?_
  refine g_iload_n (pc := 3) (x := a1) 1 rfl rfl dX0_issue_3 ?_
  refine g_bVXi (pc := 4) (y := yX1_issue) (ws := ws_ yX1_issue cX1_issue 4 (some .int)) (fr := 11) (lo := 243) (as := [gi a1]) (st := [gi (0 : Int32), gr a2]) rfl (fun _ _ _ e => tX1_issue hs e) (fun K _ _ _ hq hM R e1 e2 => g_runV (M := mX0_issue) (pc := 4) (y := yX1_issue) (bytes := cX1_issue) (maxL := 4) (ret := (some .int)) (fr := 11) (lo := 243) (as := [gi a1]) (st := [gi (0 : Int32), gr a2]) hq (C := "FlareSlopes") rfl gy_X1_issue (gbl rfl) (gbl rfl) (gbl rfl) q3806 q3807 q3808 dX0_issue_4 K hM R e1 e2) (fun v1 h2 => ?_) (fun q5 h6 => ?_)
  · refine g_i2l (pc := 7) dX0_issue_7 ?_
    refine g_lastore (pc := 8) rfl dX0_issue_8 fun h3 => ?_
    refine g_goto (pc := 9) (tgt := 18) rfl dX0_issue_9 ?_
    refine g_iconst (pc := 18) (v := (0 : Int32)) ic_0 dX0_issue_18 ?_
    exact g_ireturn (pc := 19) rfl dX0_issue_19
  refine g_catch (E := "java/lang/IllegalStateException") [] ⟨0, 9, 12, 21⟩ [⟨0, 9, 15, 13⟩] rfl rfl (List.forall_mem_nil _) (by decide +kernel) (by decide +kernel) q1425 q1439 ?_ ?_
  · refine g_astore_n (pc := 12) (lv' := []) [] rfl rfl (gblt rfl) dX0_issue_12 ?_
    refine g_iconst (pc := 13) (v := (1 : Int32)) ic_1 dX0_issue_13 ?_
    exact g_ireturn (pc := 14) rfl dX0_issue_14
  refine g_catch (E := "java/lang/IndexOutOfBoundsException") [⟨0, 9, 12, 21⟩] ⟨0, 9, 15, 13⟩ [] rfl rfl (List.forall_mem_cons.mpr ⟨Or.inr ⟨by decide +kernel, _, q1425, ncl_java_lang_IndexOutOfBoundsException_java_lang_IllegalStateException⟩, List.forall_mem_nil _⟩) (by decide +kernel) (by decide +kernel) q325 q418 ?_ ?_
  · refine g_astore_n (pc := 15) (lv' := []) [] rfl rfl (gblt rfl) dX0_issue_15 ?_
    refine g_iconst (pc := 16) (v := (2 : Int32)) ic_2 dX0_issue_16 ?_
    exact g_ireturn (pc := 17) rfl dX0_issue_17
  exact g_noneX
/-! FlareSlopesModel.issue(I)I -/
noncomputable def bX2_issue_18 (G : GG) (N : Nat) (a0 : Option Nat) (a1 : Int32) (j7 : (Int32) → Hp → Out (Int32)) (w36 : (Int32 × Int32) → Hp → Out (Int32)) (x34 : Int32 × Int32) (h35 : Hp) : Out (Int32) :=
  gFr h35 a0 18 1 fun v37 =>
  gAi h35 v37 0 (7 : Int32) fun v38 =>
  if v38 ≤ x34.2 then (j7 x34.1 h35)
  else bV h35 a0 18 (fun q45 => sX2_tellsClosed G N (some q45) a1 x34.2 h35) fun v39 h40 =>
  gJ (fun (x41 : Int32) (h42 : Hp) =>
  gLet (x34.1 ||| x41) fun v44 =>
  w36 (v44, x34.2 + (1 : Int32)) h42) fun j43 =>
  if v39 = 0 then (j43 (0 : Int32) h40)
  else j43 ((1 : Int32) <<< (x34.2 &&& 31)) h40
noncomputable def sX2_issue (G : GG) (N : Nat) (a0 : Option Nat) (a1 : Int32) (h : Hp) : Out (Int32) :=
  bV h a0 18 (fun q47 => sX2_mayCabin G N (some q47) a1 h) fun v1 h2 =>
  if v1 = 0 then (some (.inl (0 : Int32), h2))
  else bV h2 a0 18 (fun q46 => sX2_remembers G N (some q46) h2) fun v3 h4 =>
  gJ (fun (x5 : Int32) (h6 : Hp) =>
  gFr h6 a0 18 1 fun v8 =>
  gAi h6 v8 0 (95 : Int32) fun v9 =>
  gRm v9 (10 : Int32) fun v10 =>
  gLet ((98 : Int32) + ((4 : Int32) * v10)) fun v11 =>
  gFr h6 a0 18 1 fun v12 =>
  gFr h6 a0 18 1 fun v13 =>
  gAi h6 v13 0 (90 : Int32) fun v14 =>
  gSi G h6 v12 0 v11 v14 fun h15 =>
  gFr h15 a0 18 1 fun v16 =>
  gSi G h15 v16 0 (v11 + (1 : Int32)) a1 fun h17 =>
  gFr h17 a0 18 1 fun v18 =>
  gSi G h17 v18 0 (v11 + (2 : Int32)) x5 fun h19 =>
  gFr h19 a0 18 1 fun v20 =>
  gFr h19 a0 18 1 fun v21 =>
  gAi h19 v21 0 (97 : Int32) fun v22 =>
  gSi G h19 v20 0 (v11 + (3 : Int32)) v22 fun h23 =>
  gFr h23 a0 18 1 fun v24 =>
  gAi h23 v24 0 (95 : Int32) fun v25 =>
  gSi G h23 v24 0 (95 : Int32) (v25 + (1 : Int32)) fun h26 =>
  gFr h26 a0 18 1 fun v27 =>
  gAi h26 v27 0 (96 : Int32) fun v28 =>
  gFr h26 a0 18 1 fun v29 =>
  gAi h26 v29 0 (97 : Int32) fun v30 =>
  bnd (sX2_bitsOfSlopes G N (v30 &&& (x5 ^^^ (-1 : Int32))) h26) fun v31 h32 =>
  gSi G h32 v27 0 (96 : Int32) (v28 + v31) fun h33 =>
  some (.inl x5, h33)) fun j7 =>
  gLp (bX2_issue_18 G N a0 a1 j7) N ((0 : Int32), (0 : Int32)) h4
abbrev mX2_issue : MI := (RX2, cX2_issue, 4, (some .int), [], 6, 139, "issue")
theorem tX2_issue {G : GG} {l : Launch} (hs : l.stackTraces = false) {N : Nat} {a0 : Option Nat} {a1 : Int32} {h : Hp} {r : Int32 ⊕ Nat} {hf : Hp} (ho : sX2_issue G N a0 a1 h = some (r, hf)) : gMet G l yX2_issue (ws_ yX2_issue cX2_issue 4 (some .int)) 6 139 [gr a0, gi a1] h cvI r hf := by
  refine gMet.of ho hs (plainFor_of_name pn_X2) rfl rfl (gbl rfl) fun X => ?_
  show gT G l X mX2_issue cvI r hf 0 [(0, gr a0), (1, gi a1)] [] h (sX2_issue G N a0 a1 h)
  delta sX2_issue
  refine g_aload_n (pc := 0) (x := a0) 0 rfl rfl dX2_issue_0 ?_
  refine g_iload_n (pc := 1) (x := a1) 1 rfl rfl dX2_issue_1 ?_
  refine g_bVi (pc := 2) (y := yX2_mayCabin) (ws := ws_ yX2_mayCabin cX2_mayCabin 2 (some .boolean)) (fr := 2) (lo := 45) (as := [gi a1]) (st := []) (g_no) rfl (fun _ _ _ e => tX2_mayCabin hs e) (fun K _ _ _ hq hM R e1 e2 => g_runV (M := mX2_issue) (pc := 2) (y := yX2_mayCabin) (bytes := cX2_mayCabin) (maxL := 2) (ret := (some .boolean)) (fr := 2) (lo := 45) (as := [gi a1]) (st := []) hq (C := "FlareSlopesModel") rfl gy_X2_mayCabin (gbl rfl) (gbl rfl) (gbl rfl) q4324 q4326 qs105 dX2_issue_2 K hM R e1 e2) fun v1 h2 => ?_
  refine g_if_ne (pc := 5) (tgt := 10) rfl dX2_issue_5 ?_ ?_
  · refine g_iconst (pc := 8) (v := (0 : Int32)) ic_0 dX2_issue_8 ?_
    exact g_ireturn (pc := 9) rfl dX2_issue_9
  refine g_aload_n (pc := 10) (x := a0) 0 rfl rfl dX2_issue_10 ?_
  refine g_bVu (pc := 11) (y := yX2_remembers) (ws := ws_ yX2_remembers cX2_remembers 2 none) (fr := 1) (lo := 24) (as := []) (st := []) (g_no) rfl (fun _ _ _ e => tX2_remembers hs e) (fun K _ _ _ hq hM R e1 e2 => g_runV (M := mX2_issue) (pc := 11) (y := yX2_remembers) (bytes := cX2_remembers) (maxL := 2) (ret := none) (fr := 1) (lo := 24) (as := []) (st := []) hq (C := "FlareSlopesModel") rfl gy_X2_remembers (gbl rfl) (gbl rfl) (gbl rfl) q4555 q4557 qs125 dX2_issue_11 K hM R e1 e2) fun v3 h4 => ?_
  refine g_iconst (pc := 14) (v := (0 : Int32)) ic_0 dX2_issue_14 ?_
  refine g_istore_n (pc := 15) (lv' := [(2, gi (0 : Int32)), (0, gr a0), (1, gi a1)]) [0, 1, 2] rfl rfl (gblt rfl) dX2_issue_15 ?_
  refine g_iconst (pc := 16) (v := (0 : Int32)) ic_0 dX2_issue_16 ?_
  refine g_istore_n (pc := 17) (lv' := [(3, gi (0 : Int32)), (2, gi (0 : Int32)), (0, gr a0), (1, gi a1)]) [0, 1, 2, 3] rfl rfl (gblt rfl) dX2_issue_17 ?_
  refine g_join 54 (fun (x5 : Int32) => [(0, gr a0), (1, gi a1), (2, gi x5)]) (fun (x5 : Int32) => []) (fun x5 h6 => ?_) (fun j7 Hj7 => ?_)
  · refine g_bipush (pc := 54) (v := (98 : Int32)) bc_98 dX2_issue_54 ?_
    refine g_iconst (pc := 56) (v := (4 : Int32)) ic_4 dX2_issue_56 ?_
    refine g_aload_n (pc := 57) (x := a0) 0 rfl rfl dX2_issue_57 ?_
    refine g_getfr (pc := 58) k_18 (gblt rfl) lk_X2_9_18 dX2_issue_58 fun v8 => ?_
    refine g_bipush (pc := 61) (v := (95 : Int32)) bc_95 dX2_issue_61 ?_
    refine g_iaload (pc := 63) rfl dX2_issue_63 fun v9 => ?_
    refine g_bipush (pc := 64) (v := (10 : Int32)) bc_10 dX2_issue_64 ?_
    refine g_irem (pc := 66) dX2_issue_66 fun v10 => ?_
    refine g_imul (pc := 67) dX2_issue_67 ?_
    refine g_iadd (pc := 68) dX2_issue_68 ?_
    refine g_leti fun v11 => ?_
    refine g_istore_n (pc := 69) (lv' := [(3, gi v11), (0, gr a0), (1, gi a1), (2, gi x5)]) [0, 1, 2, 3] rfl rfl (gblt rfl) dX2_issue_69 ?_
    refine g_aload_n (pc := 70) (x := a0) 1 rfl rfl dX2_issue_70 ?_
    refine g_getfr (pc := 71) k_18 (gblt rfl) lk_X2_9_18 dX2_issue_71 fun v12 => ?_
    refine g_iload_n (pc := 74) (x := v11) 0 rfl rfl dX2_issue_74 ?_
    refine g_aload_n (pc := 75) (x := a0) 1 rfl rfl dX2_issue_75 ?_
    refine g_getfr (pc := 76) k_18 (gblt rfl) lk_X2_9_18 dX2_issue_76 fun v13 => ?_
    refine g_bipush (pc := 79) (v := (90 : Int32)) bc_90 dX2_issue_79 ?_
    refine g_iaload (pc := 81) rfl dX2_issue_81 fun v14 => ?_
    refine g_iastore (pc := 82) rfl dX2_issue_82 fun h15 => ?_
    refine g_aload_n (pc := 83) (x := a0) 1 rfl rfl dX2_issue_83 ?_
    refine g_getfr (pc := 84) k_18 (gblt rfl) lk_X2_9_18 dX2_issue_84 fun v16 => ?_
    refine g_iload_n (pc := 87) (x := v11) 0 rfl rfl dX2_issue_87 ?_
    refine g_iconst (pc := 88) (v := (1 : Int32)) ic_1 dX2_issue_88 ?_
    refine g_iadd (pc := 89) dX2_issue_89 ?_
    refine g_iload_n (pc := 90) (x := a1) 2 rfl rfl dX2_issue_90 ?_
    refine g_iastore (pc := 91) rfl dX2_issue_91 fun h17 => ?_
    refine g_aload_n (pc := 92) (x := a0) 1 rfl rfl dX2_issue_92 ?_
    refine g_getfr (pc := 93) k_18 (gblt rfl) lk_X2_9_18 dX2_issue_93 fun v18 => ?_
    refine g_iload_n (pc := 96) (x := v11) 0 rfl rfl dX2_issue_96 ?_
    refine g_iconst (pc := 97) (v := (2 : Int32)) ic_2 dX2_issue_97 ?_
    refine g_iadd (pc := 98) dX2_issue_98 ?_
    refine g_iload_n (pc := 99) (x := x5) 3 rfl rfl dX2_issue_99 ?_
    refine g_iastore (pc := 100) rfl dX2_issue_100 fun h19 => ?_
    refine g_aload_n (pc := 101) (x := a0) 1 rfl rfl dX2_issue_101 ?_
    refine g_getfr (pc := 102) k_18 (gblt rfl) lk_X2_9_18 dX2_issue_102 fun v20 => ?_
    refine g_iload_n (pc := 105) (x := v11) 0 rfl rfl dX2_issue_105 ?_
    refine g_iconst (pc := 106) (v := (3 : Int32)) ic_3 dX2_issue_106 ?_
    refine g_iadd (pc := 107) dX2_issue_107 ?_
    refine g_aload_n (pc := 108) (x := a0) 1 rfl rfl dX2_issue_108 ?_
    refine g_getfr (pc := 109) k_18 (gblt rfl) lk_X2_9_18 dX2_issue_109 fun v21 => ?_
    refine g_bipush (pc := 112) (v := (97 : Int32)) bc_97 dX2_issue_112 ?_
    refine g_iaload (pc := 114) rfl dX2_issue_114 fun v22 => ?_
    refine g_iastore (pc := 115) rfl dX2_issue_115 fun h23 => ?_
    refine g_aload_n (pc := 116) (x := a0) 1 rfl rfl dX2_issue_116 ?_
    refine g_getfr (pc := 117) k_18 (gblt rfl) lk_X2_9_18 dX2_issue_117 fun v24 => ?_
    refine g_bipush (pc := 120) (v := (95 : Int32)) bc_95 dX2_issue_120 ?_
    refine g_dup2 (pc := 122) rfl rfl dX2_issue_122 ?_
    refine g_iaload (pc := 123) rfl dX2_issue_123 fun v25 => ?_
    refine g_iconst (pc := 124) (v := (1 : Int32)) ic_1 dX2_issue_124 ?_
    refine g_iadd (pc := 125) dX2_issue_125 ?_
    refine g_iastore (pc := 126) rfl dX2_issue_126 fun h26 => ?_
    refine g_aload_n (pc := 127) (x := a0) 1 rfl rfl dX2_issue_127 ?_
    refine g_getfr (pc := 128) k_18 (gblt rfl) lk_X2_9_18 dX2_issue_128 fun v27 => ?_
    refine g_bipush (pc := 131) (v := (96 : Int32)) bc_96 dX2_issue_131 ?_
    refine g_dup2 (pc := 133) rfl rfl dX2_issue_133 ?_
    refine g_iaload (pc := 134) rfl dX2_issue_134 fun v28 => ?_
    refine g_aload_n (pc := 135) (x := a0) 1 rfl rfl dX2_issue_135 ?_
    refine g_getfr (pc := 136) k_18 (gblt rfl) lk_X2_9_18 dX2_issue_136 fun v29 => ?_
    refine g_bipush (pc := 139) (v := (97 : Int32)) bc_97 dX2_issue_139 ?_
    refine g_iaload (pc := 141) rfl dX2_issue_141 fun v30 => ?_
    refine g_iload_n (pc := 142) (x := x5) 3 rfl rfl dX2_issue_142 ?_
    refine g_iconst (pc := 143) (v := (-1 : Int32)) ic_m1 dX2_issue_143 ?_
    refine g_ixor (pc := 144) dX2_issue_144 ?_
    refine g_iand (pc := 145) dX2_issue_145 ?_
    refine g_bi (pc := 146) (y := yX2_bitsOfSlopes) (ws := ws_ yX2_bitsOfSlopes cX2_bitsOfSlopes 3 (some .int)) (fr := 0) (lo := 0) (as := [gi (v30 &&& (x5 ^^^ (-1 : Int32)))]) (st := [gi v28, gi (96 : Int32), gr v27]) (g_no) rfl (fun _ _ e => tX2_bitsOfSlopes hs e) (fun K _ _ hM R e1 e2 => g_runS (M := mX2_issue) (pc := 146) (y := yX2_bitsOfSlopes) (bytes := cX2_bitsOfSlopes) (maxL := 3) (ret := (some .int)) (fr := 0) (lo := 0) (as := [gi (v30 &&& (x5 ^^^ (-1 : Int32)))]) (st := [gi v28, gi (96 : Int32), gr v27]) gy_X2_bitsOfSlopes (gbl rfl) (gbl rfl) (gbl rfl) q4168 q4169 dX2_issue_146 K hM R e1 e2) fun v31 h32 => ?_
    refine g_iadd (pc := 149) dX2_issue_149 ?_
    refine g_iastore (pc := 150) rfl dX2_issue_150 fun h33 => ?_
    refine g_iload_n (pc := 151) (x := x5) 3 rfl rfl dX2_issue_151 ?_
    exact g_ireturn (pc := 152) rfl dX2_issue_152
  refine g_sub (lv' := [(0, gr a0), (1, gi a1), (2, gi (0 : Int32)), (3, gi (0 : Int32))]) [2, 3, 1, 0] rfl ?_
  refine g_loop (pc := 18) (fun (x34 : Int32 × Int32) => [(0, gr a0), (1, gi a1), (2, gi x34.1), (3, gi x34.2)]) (fun (_ : Int32 × Int32) => []) (fun w36 Hw36 x34 h35 => ?_) N ((0 : Int32), (0 : Int32)) h4
  delta bX2_issue_18
  refine g_iload_n (pc := 18) (x := x34.2) 3 rfl rfl dX2_issue_18 ?_
  refine g_aload_n (pc := 19) (x := a0) 0 rfl rfl dX2_issue_19 ?_
  refine g_getfr (pc := 20) k_18 (gblt rfl) lk_X2_9_18 dX2_issue_20 fun v37 => ?_
  refine g_bipush (pc := 23) (v := (7 : Int32)) bc_7 dX2_issue_23 ?_
  refine g_iaload (pc := 25) rfl dX2_issue_25 fun v38 => ?_
  refine g_icmp_ge (pc := 26) (tgt := 54) rfl dX2_issue_26 ?_ ?_
  · exact g_sub [0, 1, 2] rfl (Hj7 x34.1 h35)
  refine g_iload_n (pc := 29) (x := x34.1) 2 rfl rfl dX2_issue_29 ?_
  refine g_aload_n (pc := 30) (x := a0) 0 rfl rfl dX2_issue_30 ?_
  refine g_iload_n (pc := 31) (x := a1) 1 rfl rfl dX2_issue_31 ?_
  refine g_iload_n (pc := 32) (x := x34.2) 3 rfl rfl dX2_issue_32 ?_
  refine g_bVi (pc := 33) (y := yX2_tellsClosed) (ws := ws_ yX2_tellsClosed cX2_tellsClosed 4 (some .boolean)) (fr := 5) (lo := 116) (as := [gi a1, gi x34.2]) (st := [gi x34.1]) (g_no) rfl (fun _ _ _ e => tX2_tellsClosed hs e) (fun K _ _ _ hq hM R e1 e2 => g_runV (M := mX2_issue) (pc := 33) (y := yX2_tellsClosed) (bytes := cX2_tellsClosed) (maxL := 4) (ret := (some .boolean)) (fr := 5) (lo := 116) (as := [gi a1, gi x34.2]) (st := [gi x34.1]) hq (C := "FlareSlopesModel") rfl gy_X2_tellsClosed (gbl rfl) (gbl rfl) (gbl rfl) q4387 q4389 qs110 dX2_issue_33 K hM R e1 e2) fun v39 h40 => ?_
  refine g_join 46 (fun (x41 : Int32) => [(0, gr a0), (1, gi a1), (3, gi x34.2)]) (fun (x41 : Int32) => [gi x41, gi x34.1]) (fun x41 h42 => ?_) (fun j43 Hj43 => ?_)
  · refine g_ior (pc := 46) dX2_issue_46 ?_
    refine g_leti fun v44 => ?_
    refine g_istore_n (pc := 47) (lv' := [(2, gi v44), (0, gr a0), (1, gi a1), (3, gi x34.2)]) [0, 1, 2, 3] rfl rfl (gblt rfl) dX2_issue_47 ?_
    refine g_iinc (pc := 48) (v := x34.2 + (1 : Int32)) 3 rfl (ii_1 _) (lv' := [(3, gi (x34.2 + (1 : Int32))), (2, gi v44), (0, gr a0), (1, gi a1)]) [0, 1, 2, 3] rfl (gblt rfl) dX2_issue_48 ?_
    refine g_goto (pc := 51) (tgt := 18) rfl dX2_issue_51 ?_
    exact g_sub [2, 3, 1, 0] rfl (Hw36 (v44, x34.2 + (1 : Int32)) h42)
  refine g_if_eq (pc := 36) (tgt := 45) rfl dX2_issue_36 ?_ ?_
  · refine g_iconst (pc := 45) (v := (0 : Int32)) ic_0 dX2_issue_45 ?_
    exact g_sub [0, 1, 3] rfl (Hj43 (0 : Int32) h40)
  refine g_iconst (pc := 39) (v := (1 : Int32)) ic_1 dX2_issue_39 ?_
  refine g_iload_n (pc := 40) (x := x34.2) 3 rfl rfl dX2_issue_40 ?_
  refine g_ishl (pc := 41) dX2_issue_41 ?_
  refine g_goto (pc := 42) (tgt := 46) rfl dX2_issue_42 ?_
  exact g_sub [0, 1, 3] rfl (Hj43 ((1 : Int32) <<< (x34.2 &&& 31)) h40)
/-! FlareSlopes.give(II)I -/
noncomputable def sX1_give (G : GG) (N : Nat) (a0 : Option Nat) (a1 : Int32) (a2 : Int32) (h : Hp) : Out (Int32) :=
  bV h a0 3 (fun q23 => sX1_withCabin G N (some q23) a1 h) fun v1 h2 =>
  bnd (sX1_in G N a2 (1 : Int32) (99 : Int32) h2) fun v3 h4 =>
  gJ (fun (x5 : Int32) (h6 : Hp) =>
  bnd (sX1_checkArgument G N x5 h6) fun v8 h9 =>
  bV h9 a0 3 (fun q18 => sX1_change G N (some q18) h9) fun v10 h11 =>
  bV h11 v10 16 (fun q17 => sX3_cabin G N (some q17) a1 h11) fun v12 h13 =>
  gFi h13 v12 7 2 fun v14 =>
  gP G h13 v12 7 2 (.int (v14 + a2)) fun h15 =>
  gFi h15 v12 7 2 fun v16 =>
  some (.inl v16, h15)) fun j7 =>
  gJ (fun (x19 : Unit) (h20 : Hp) =>
  j7 (0 : Int32) h20) fun j21 =>
  if v3 = 0 then (j21 () h4)
  else gFi h4 v1 7 2 fun v22 =>
  if (99 : Int32) < (v22 + a2) then (j21 () h4)
  else j7 (1 : Int32) h4
abbrev mX1_give : MI := (RX1, cX1_give, 5, (some .int), [], 9, 205, "give")
theorem tX1_give {G : GG} {l : Launch} (hs : l.stackTraces = false) {N : Nat} {a0 : Option Nat} {a1 : Int32} {a2 : Int32} {h : Hp} {r : Int32 ⊕ Nat} {hf : Hp} (ho : sX1_give G N a0 a1 a2 h = some (r, hf)) : gMet G l yX1_give (ws_ yX1_give cX1_give 5 (some .int)) 9 205 [gr a0, gi a1, gi a2] h cvI r hf := by
  refine gMet.of ho hs (plainFor_of_name pn_X1) rfl rfl (gbl rfl) fun X => ?_
  show gT G l X mX1_give cvI r hf 0 [(0, gr a0), (1, gi a1), (2, gi a2)] [] h (sX1_give G N a0 a1 a2 h)
  delta sX1_give
  refine g_aload_n (pc := 0) (x := a0) 0 rfl rfl dX1_give_0 ?_
  refine g_iload_n (pc := 1) (x := a1) 1 rfl rfl dX1_give_1 ?_
  refine g_bVr (pc := 2) (y := yX1_withCabin) (ws := ws_ yX1_withCabin cX1_withCabin 2 (some (.object "FlareSlopes$Cabin"))) (fr := 8) (lo := 121) (as := [gi a1]) (st := []) (g_no) rfl (fun _ _ _ e => tX1_withCabin hs e) (fun K _ _ _ hq hM R e1 e2 => g_runV (M := mX1_give) (pc := 2) (y := yX1_withCabin) (bytes := cX1_withCabin) (maxL := 2) (ret := (some (.object "FlareSlopes$Cabin"))) (fr := 8) (lo := 121) (as := [gi a1]) (st := []) hq (C := "FlareSlopes") rfl gy_X1_withCabin (gbl rfl) (gbl rfl) (gbl rfl) q1968 q1970 qs22 dX1_give_2 K hM R e1 e2) fun v1 h2 => ?_
  refine g_astore_n (pc := 5) (lv' := [(3, gr v1), (0, gr a0), (1, gi a1), (2, gi a2)]) [0, 1, 2, 3] rfl rfl (gblt rfl) dX1_give_5 ?_
  refine g_iload_n (pc := 6) (x := a2) 3 rfl rfl dX1_give_6 ?_
  refine g_iconst (pc := 7) (v := (1 : Int32)) ic_1 dX1_give_7 ?_
  refine g_bipush (pc := 8) (v := (99 : Int32)) bc_99 dX1_give_8 ?_
  refine g_bi (pc := 10) (y := yX1_in) (ws := ws_ yX1_in cX1_in 3 (some .boolean)) (fr := 0) (lo := 0) (as := [gi a2, gi (1 : Int32), gi (99 : Int32)]) (st := []) (g_no) rfl (fun _ _ e => tX1_in hs e) (fun K _ _ hM R e1 e2 => g_runS (M := mX1_give) (pc := 10) (y := yX1_in) (bytes := cX1_in) (maxL := 3) (ret := (some .boolean)) (fr := 0) (lo := 0) (as := [gi a2, gi (1 : Int32), gi (99 : Int32)]) (st := []) gy_X1_in (gbl rfl) (gbl rfl) (gbl rfl) q413 q414 dX1_give_10 K hM R e1 e2) fun v3 h4 => ?_
  refine g_join 32 (fun (x5 : Int32) => [(0, gr a0), (1, gi a1), (2, gi a2)]) (fun (x5 : Int32) => [gi x5]) (fun x5 h6 => ?_) (fun j7 Hj7 => ?_)
  · refine g_bu (pc := 32) (y := yX1_checkArgument) (ws := ws_ yX1_checkArgument cX1_checkArgument 1 none) (fr := 6) (lo := 81) (as := [gi x5]) (st := []) (g_no) rfl (fun _ _ e => tX1_checkArgument hs e) (fun K _ _ hM R e1 e2 => g_runS (M := mX1_give) (pc := 32) (y := yX1_checkArgument) (bytes := cX1_checkArgument) (maxL := 1) (ret := none) (fr := 6) (lo := 81) (as := [gi x5]) (st := []) gy_X1_checkArgument (gbl rfl) (gbl rfl) (gbl rfl) q1958 q1959 dX1_give_32 K hM R e1 e2) fun v8 h9 => ?_
    refine g_aload_n (pc := 35) (x := a0) 0 rfl rfl dX1_give_35 ?_
    refine g_bVr (pc := 36) (y := yX1_change) (ws := ws_ yX1_change cX1_change 1 (some (.object "FlareSlopes$State"))) (fr := 8) (lo := 185) (as := []) (st := []) (g_no) rfl (fun _ _ _ e => tX1_change hs e) (fun K _ _ _ hq hM R e1 e2 => g_runV (M := mX1_give) (pc := 36) (y := yX1_change) (bytes := cX1_change) (maxL := 1) (ret := (some (.object "FlareSlopes$State"))) (fr := 8) (lo := 185) (as := []) (st := []) hq (C := "FlareSlopes") rfl gy_X1_change (gbl rfl) (gbl rfl) (gbl rfl) q3752 q3754 qs52 dX1_give_36 K hM R e1 e2) fun v10 h11 => ?_
    refine g_iload_n (pc := 39) (x := a1) 1 rfl rfl dX1_give_39 ?_
    refine g_bVr (pc := 40) (y := yX3_cabin) (ws := ws_ yX3_cabin cX3_cabin 2 (some (.object "FlareSlopes$Cabin"))) (fr := 3) (lo := 64) (as := [gi a1]) (st := []) (g_no) rfl (fun _ _ _ e => tX3_cabin hs e) (fun K _ _ _ hq hM R e1 e2 => g_runV (M := mX1_give) (pc := 40) (y := yX3_cabin) (bytes := cX3_cabin) (maxL := 2) (ret := (some (.object "FlareSlopes$Cabin"))) (fr := 3) (lo := 64) (as := [gi a1]) (st := []) hq (C := "FlareSlopes$State") rfl gy_X3_cabin (gbl rfl) (gbl rfl) (gbl rfl) q1738 q1639 q1640 dX1_give_40 K hM R e1 e2) fun v12 h13 => ?_
    refine g_astore (pc := 43) (lv' := [(4, gr v12), (2, gi a2)]) [0, 3] rfl (gblt rfl) dX1_give_43 ?_
    refine g_aload (pc := 45) (x := v12) 0 rfl dX1_give_45 ?_
    refine g_dup (pc := 47) rfl dX1_give_47 ?_
    refine g_getfi (pc := 48) k_7 (gblt rfl) lk_X1_200_7 dX1_give_48 fun v14 => ?_
    refine g_iload_n (pc := 51) (x := a2) 1 rfl rfl dX1_give_51 ?_
    refine g_iadd (pc := 52) dX1_give_52 ?_
    refine g_put (pc := 53) k_7 (gblt rfl) lk_X1_200_7 rfl rfl (gNi _) dX1_give_53 fun h15 => ?_
    refine g_aload (pc := 56) (x := v12) 0 rfl dX1_give_56 ?_
    refine g_getfi (pc := 58) k_7 (gblt rfl) lk_X1_200_7 dX1_give_58 fun v16 => ?_
    exact g_ireturn (pc := 61) rfl dX1_give_61
  refine g_join 31 (fun (x19 : Unit) => [(0, gr a0), (1, gi a1), (2, gi a2)]) (fun (x19 : Unit) => []) (fun x19 h20 => ?_) (fun j21 Hj21 => ?_)
  · refine g_iconst (pc := 31) (v := (0 : Int32)) ic_0 dX1_give_31 ?_
    exact Hj7 (0 : Int32) h20
  refine g_if_eq (pc := 13) (tgt := 31) rfl dX1_give_13 ?_ ?_
  · exact g_sub [1, 2, 3] rfl (Hj21 () h4)
  refine g_aload_n (pc := 16) (x := v1) 0 rfl rfl dX1_give_16 ?_
  refine g_getfi (pc := 17) k_7 (gblt rfl) lk_X1_200_7 dX1_give_17 fun v22 => ?_
  refine g_iload_n (pc := 20) (x := a2) 3 rfl rfl dX1_give_20 ?_
  refine g_iadd (pc := 21) dX1_give_21 ?_
  refine g_bipush (pc := 22) (v := (99 : Int32)) bc_99 dX1_give_22 ?_
  refine g_icmp_gt (pc := 24) (tgt := 31) rfl dX1_give_24 ?_ ?_
  · exact g_sub [1, 2, 3] rfl (Hj21 () h4)
  refine g_iconst (pc := 27) (v := (1 : Int32)) ic_1 dX1_give_27 ?_
  refine g_goto (pc := 28) (tgt := 32) rfl dX1_give_28 ?_
  exact g_sub [1, 2, 3] rfl (Hj7 (1 : Int32) h4)
/-! FlareSlopesLaw.give(LFlareSlopes;II[J)I -/
noncomputable def sX0_give (G : GG) (N : Nat) (a0 : Option Nat) (a1 : Int32) (a2 : Int32) (a3 : Option Nat) (h : Hp) : Out (Int32) :=
  bVX h a0 3 (fun q4 => sX1_give G N (some q4) a1 a2 h) (fun v1 h2 =>
  gSl G h2 a3 3 (0 : Int32) (v1.toInt64) fun h3 =>
  some (.inl (0 : Int32), h3)) fun q5 h6 =>
  gSw h6 (some q5) 0 (some (.inl (1 : Int32), h6)) (gSw h6 (some q5) 1 (some (.inl (3 : Int32), h6)) (gSw h6 (some q5) 2 (some (.inl (2 : Int32), h6)) (none)))
abbrev mX0_give : MI := (RX0, cX0_give, 5, (some .int), [(0, 10, 13, 21), (0, 10, 17, 13), (0, 10, 21, 15)], 10, 229, "give")
theorem tX0_give {G : GG} {l : Launch} (hs : l.stackTraces = false) {N : Nat} {a0 : Option Nat} {a1 : Int32} {a2 : Int32} {a3 : Option Nat} {h : Hp} {r : Int32 ⊕ Nat} {hf : Hp} (ho : sX0_give G N a0 a1 a2 a3 h = some (r, hf)) : gMet G l yX0_give (wsW_ yX0_give cX0_give 5 (some .int) [(0, 10, 13, 21), (0, 10, 17, 13), (0, 10, 21, 15)]) 10 229 [gr a0, gi a1, gi a2, gr a3] h cvI r hf := by
  refine gMet.ofW ho hs (plainFor_of_name pn_X0) rfl rfl (gbl rfl) fun X => ?_
  show gT G l X mX0_give cvI r hf 0 [(0, gr a0), (1, gi a1), (2, gi a2), (3, gr a3)] [] h (sX0_give G N a0 a1 a2 a3 h)
  delta sX0_give
  refine g_aload_n (pc := 0) (x := a3) 3 rfl rfl dX0_give_0 ?_
  refine g_iconst (pc := 1) (v := (0 : Int32)) ic_0 dX0_give_1 ?_
  refine g_aload_n (pc := 2) (x := a0) 0 rfl rfl dX0_give_2 ?_
  refine g_iload_n (pc := 3) (x := a1) 1 rfl rfl dX0_give_3 ?_
  refine g_iload_n (pc := 4) (x := a2) 2 rfl rfl dX0_give_4 ?_
  refine g_bVXi (pc := 5) (y := yX1_give) (ws := ws_ yX1_give cX1_give 5 (some .int)) (fr := 9) (lo := 205) (as := [gi a1, gi a2]) (st := [gi (0 : Int32), gr a3]) rfl (fun _ _ _ e => tX1_give hs e) (fun K _ _ _ hq hM R e1 e2 => g_runV (M := mX0_give) (pc := 5) (y := yX1_give) (bytes := cX1_give) (maxL := 5) (ret := (some .int)) (fr := 9) (lo := 205) (as := [gi a1, gi a2]) (st := [gi (0 : Int32), gr a3]) hq (C := "FlareSlopes") rfl gy_X1_give (gbl rfl) (gbl rfl) (gbl rfl) q3861 q3862 q3863 dX0_give_5 K hM R e1 e2) (fun v1 h2 => ?_) (fun q5 h6 => ?_)
  · refine g_i2l (pc := 8) dX0_give_8 ?_
    refine g_lastore (pc := 9) rfl dX0_give_9 fun h3 => ?_
    refine g_goto (pc := 10) (tgt := 25) rfl dX0_give_10 ?_
    refine g_iconst (pc := 25) (v := (0 : Int32)) ic_0 dX0_give_25 ?_
    exact g_ireturn (pc := 26) rfl dX0_give_26
  refine g_catch (E := "java/lang/IllegalStateException") [] ⟨0, 10, 13, 21⟩ [⟨0, 10, 17, 13⟩, ⟨0, 10, 21, 15⟩] rfl rfl (List.forall_mem_nil _) (by decide +kernel) (by decide +kernel) q1425 q1439 ?_ ?_
  · refine g_astore (pc := 13) (lv' := []) [] rfl (gblt rfl) dX0_give_13 ?_
    refine g_iconst (pc := 15) (v := (1 : Int32)) ic_1 dX0_give_15 ?_
    exact g_ireturn (pc := 16) rfl dX0_give_16
  refine g_catch (E := "java/lang/IllegalArgumentException") [⟨0, 10, 13, 21⟩, ⟨0, 10, 17, 13⟩] ⟨0, 10, 21, 15⟩ [] rfl rfl (List.forall_mem_cons.mpr ⟨Or.inr ⟨by decide +kernel, _, q1425, ncl_java_lang_IllegalArgumentException_java_lang_IllegalStateException⟩, List.forall_mem_cons.mpr ⟨Or.inr ⟨by decide +kernel, _, q325, ncl_java_lang_IllegalArgumentException_java_lang_IndexOutOfBoundsException⟩, List.forall_mem_nil _⟩⟩) (by decide +kernel) (by decide +kernel) q404 q751 ?_ ?_
  · refine g_astore (pc := 21) (lv' := []) [] rfl (gblt rfl) dX0_give_21 ?_
    refine g_iconst (pc := 23) (v := (3 : Int32)) ic_3 dX0_give_23 ?_
    exact g_ireturn (pc := 24) rfl dX0_give_24
  refine g_catch (E := "java/lang/IndexOutOfBoundsException") [⟨0, 10, 13, 21⟩] ⟨0, 10, 17, 13⟩ [⟨0, 10, 21, 15⟩] rfl rfl (List.forall_mem_cons.mpr ⟨Or.inr ⟨by decide +kernel, _, q1425, ncl_java_lang_IndexOutOfBoundsException_java_lang_IllegalStateException⟩, List.forall_mem_nil _⟩) (by decide +kernel) (by decide +kernel) q325 q418 ?_ ?_
  · refine g_astore (pc := 17) (lv' := []) [] rfl (gblt rfl) dX0_give_17 ?_
    refine g_iconst (pc := 19) (v := (2 : Int32)) ic_2 dX0_give_19 ?_
    exact g_ireturn (pc := 20) rfl dX0_give_20
  exact g_noneX
/-! FlareSlopesModel.give(II)I -/
noncomputable def sX2_give (G : GG) (N : Nat) (a0 : Option Nat) (a1 : Int32) (a2 : Int32) (h : Hp) : Out (Int32) :=
  gFi h a0 18 8 fun v1 =>
  gJ (fun (x2 : Int32) (h3 : Hp) =>
  gFi h3 a0 18 8 fun v5 =>
  gJ (fun (x6 : Int32) (h7 : Hp) =>
  bV h7 a0 18 (fun q19 => sX2_may G N (some q19) v5 x2 x6 h7) fun v9 h10 =>
  if v9 = 0 then (some (.inl (0 : Int32), h10))
  else bV h10 a0 18 (fun q18 => sX2_remembers G N (some q18) h10) fun v11 h12 =>
  gFr h12 a0 18 1 fun v13 =>
  gAi h12 v13 0 ((148 : Int32) + a1) fun v14 =>
  gSi G h12 v13 0 ((148 : Int32) + a1) (v14 + a2) fun h15 =>
  gFr h15 a0 18 1 fun v16 =>
  gAi h15 v16 0 ((148 : Int32) + a1) fun v17 =>
  some (.inl v17, h15)) fun j8 =>
  gJ (fun (x20 : Unit) (h21 : Hp) =>
  j8 (0 : Int32) h21) fun j22 =>
  if x2 = 0 then (j22 () h3)
  else bnd (sX2_in G N a2 (1 : Int32) (99 : Int32) h3) fun v23 h24 =>
  if v23 = 0 then (j22 () h24)
  else gFr h24 a0 18 1 fun v25 =>
  gAi h24 v25 0 ((148 : Int32) + a1) fun v26 =>
  if (99 : Int32) < (v26 + a2) then (j22 () h24)
  else j8 (1 : Int32) h24) fun j4 =>
  gJ (fun (x27 : Unit) (h28 : Hp) =>
  j4 (0 : Int32) h28) fun j29 =>
  if v1 = 0 then (j29 () h)
  else bV h a0 18 (fun q32 => sX2_isCabin G N (some q32) a1 h) fun v30 h31 =>
  if v30 = 0 then (j29 () h31)
  else j4 (1 : Int32) h31
abbrev mX2_give : MI := (RX2, cX2_give, 4, (some .int), [], 2, 45, "give")
theorem tX2_give {G : GG} {l : Launch} (hs : l.stackTraces = false) {N : Nat} {a0 : Option Nat} {a1 : Int32} {a2 : Int32} {h : Hp} {r : Int32 ⊕ Nat} {hf : Hp} (ho : sX2_give G N a0 a1 a2 h = some (r, hf)) : gMet G l yX2_give (ws_ yX2_give cX2_give 4 (some .int)) 2 45 [gr a0, gi a1, gi a2] h cvI r hf := by
  refine gMet.of ho hs (plainFor_of_name pn_X2) rfl rfl (gbl rfl) fun X => ?_
  show gT G l X mX2_give cvI r hf 0 [(0, gr a0), (1, gi a1), (2, gi a2)] [] h (sX2_give G N a0 a1 a2 h)
  delta sX2_give
  refine g_aload_n (pc := 0) (x := a0) 0 rfl rfl dX2_give_0 ?_
  refine g_getfi (pc := 1) k_18 (gblt rfl) lk_X2_184_18 dX2_give_1 fun v1 => ?_
  refine g_join 20 (fun (x2 : Int32) => [(0, gr a0), (1, gi a1), (2, gi a2)]) (fun (x2 : Int32) => [gi x2]) (fun x2 h3 => ?_) (fun j4 Hj4 => ?_)
  · refine g_istore_n (pc := 20) (lv' := [(3, gi x2), (0, gr a0), (1, gi a1), (2, gi a2)]) [0, 1, 2, 3] rfl rfl (gblt rfl) dX2_give_20 ?_
    refine g_aload_n (pc := 21) (x := a0) 1 rfl rfl dX2_give_21 ?_
    refine g_aload_n (pc := 22) (x := a0) 1 rfl rfl dX2_give_22 ?_
    refine g_getfi (pc := 23) k_18 (gblt rfl) lk_X2_184_18 dX2_give_23 fun v5 => ?_
    refine g_iload_n (pc := 26) (x := x2) 0 rfl rfl dX2_give_26 ?_
    refine g_iload_n (pc := 27) (x := x2) 0 rfl rfl dX2_give_27 ?_
    refine g_join 63 (fun (x6 : Int32) => [(0, gr a0), (1, gi a1), (2, gi a2)]) (fun (x6 : Int32) => [gi x6, gi x2, gi v5, gr a0]) (fun x6 h7 => ?_) (fun j8 Hj8 => ?_)
    · refine g_bVi (pc := 63) (y := yX2_may) (ws := ws_ yX2_may cX2_may 4 (some .boolean)) (fr := 0) (lo := 0) (as := [gi v5, gi x2, gi x6]) (st := []) (g_no) rfl (fun _ _ _ e => tX2_may hs e) (fun K _ _ _ hq hM R e1 e2 => g_runV (M := mX2_give) (pc := 63) (y := yX2_may) (bytes := cX2_may) (maxL := 4) (ret := (some .boolean)) (fr := 0) (lo := 0) (as := [gi v5, gi x2, gi x6]) (st := []) hq (C := "FlareSlopesModel") rfl gy_X2_may (gbl rfl) (gbl rfl) (gbl rfl) q4040 q4042 qs54 dX2_give_63 K hM R e1 e2) fun v9 h10 => ?_
      refine g_if_ne (pc := 66) (tgt := 71) rfl dX2_give_66 ?_ ?_
      · refine g_iconst (pc := 69) (v := (0 : Int32)) ic_0 dX2_give_69 ?_
        exact g_ireturn (pc := 70) rfl dX2_give_70
      refine g_aload_n (pc := 71) (x := a0) 0 rfl rfl dX2_give_71 ?_
      refine g_bVu (pc := 72) (y := yX2_remembers) (ws := ws_ yX2_remembers cX2_remembers 2 none) (fr := 1) (lo := 24) (as := []) (st := []) (g_no) rfl (fun _ _ _ e => tX2_remembers hs e) (fun K _ _ _ hq hM R e1 e2 => g_runV (M := mX2_give) (pc := 72) (y := yX2_remembers) (bytes := cX2_remembers) (maxL := 2) (ret := none) (fr := 1) (lo := 24) (as := []) (st := []) hq (C := "FlareSlopesModel") rfl gy_X2_remembers (gbl rfl) (gbl rfl) (gbl rfl) q4555 q4557 qs125 dX2_give_72 K hM R e1 e2) fun v11 h12 => ?_
      refine g_aload_n (pc := 75) (x := a0) 0 rfl rfl dX2_give_75 ?_
      refine g_getfr (pc := 76) k_18 (gblt rfl) lk_X2_9_18 dX2_give_76 fun v13 => ?_
      refine g_sipush (pc := 79) (v := (148 : Int32)) sc_148 dX2_give_79 ?_
      refine g_iload_n (pc := 82) (x := a1) 1 rfl rfl dX2_give_82 ?_
      refine g_iadd (pc := 83) dX2_give_83 ?_
      refine g_dup2 (pc := 84) rfl rfl dX2_give_84 ?_
      refine g_iaload (pc := 85) rfl dX2_give_85 fun v14 => ?_
      refine g_iload_n (pc := 86) (x := a2) 2 rfl rfl dX2_give_86 ?_
      refine g_iadd (pc := 87) dX2_give_87 ?_
      refine g_iastore (pc := 88) rfl dX2_give_88 fun h15 => ?_
      refine g_aload_n (pc := 89) (x := a0) 0 rfl rfl dX2_give_89 ?_
      refine g_getfr (pc := 90) k_18 (gblt rfl) lk_X2_9_18 dX2_give_90 fun v16 => ?_
      refine g_sipush (pc := 93) (v := (148 : Int32)) sc_148 dX2_give_93 ?_
      refine g_iload_n (pc := 96) (x := a1) 1 rfl rfl dX2_give_96 ?_
      refine g_iadd (pc := 97) dX2_give_97 ?_
      refine g_iaload (pc := 98) rfl dX2_give_98 fun v17 => ?_
      exact g_ireturn (pc := 99) rfl dX2_give_99
    refine g_join 62 (fun (x20 : Unit) => [(0, gr a0), (1, gi a1), (2, gi a2)]) (fun (x20 : Unit) => [gi x2, gi v5, gr a0]) (fun x20 h21 => ?_) (fun j22 Hj22 => ?_)
    · refine g_iconst (pc := 62) (v := (0 : Int32)) ic_0 dX2_give_62 ?_
      exact Hj8 (0 : Int32) h21
    refine g_if_eq (pc := 28) (tgt := 62) rfl dX2_give_28 ?_ ?_
    · exact g_sub [1, 2, 3] rfl (Hj22 () h3)
    refine g_iload_n (pc := 31) (x := a2) 3 rfl rfl dX2_give_31 ?_
    refine g_iconst (pc := 32) (v := (1 : Int32)) ic_1 dX2_give_32 ?_
    refine g_bipush (pc := 33) (v := (99 : Int32)) bc_99 dX2_give_33 ?_
    refine g_bi (pc := 35) (y := yX2_in) (ws := ws_ yX2_in cX2_in 3 (some .boolean)) (fr := 0) (lo := 0) (as := [gi a2, gi (1 : Int32), gi (99 : Int32)]) (st := [gi x2, gi v5, gr a0]) (g_no) rfl (fun _ _ e => tX2_in hs e) (fun K _ _ hM R e1 e2 => g_runS (M := mX2_give) (pc := 35) (y := yX2_in) (bytes := cX2_in) (maxL := 3) (ret := (some .boolean)) (fr := 0) (lo := 0) (as := [gi a2, gi (1 : Int32), gi (99 : Int32)]) (st := [gi x2, gi v5, gr a0]) gy_X2_in (gbl rfl) (gbl rfl) (gbl rfl) q4037 q4038 dX2_give_35 K hM R e1 e2) fun v23 h24 => ?_
    refine g_if_eq (pc := 38) (tgt := 62) rfl dX2_give_38 ?_ ?_
    · exact g_sub [1, 2, 3] rfl (Hj22 () h24)
    refine g_aload_n (pc := 41) (x := a0) 1 rfl rfl dX2_give_41 ?_
    refine g_getfr (pc := 42) k_18 (gblt rfl) lk_X2_9_18 dX2_give_42 fun v25 => ?_
    refine g_sipush (pc := 45) (v := (148 : Int32)) sc_148 dX2_give_45 ?_
    refine g_iload_n (pc := 48) (x := a1) 2 rfl rfl dX2_give_48 ?_
    refine g_iadd (pc := 49) dX2_give_49 ?_
    refine g_iaload (pc := 50) rfl dX2_give_50 fun v26 => ?_
    refine g_iload_n (pc := 51) (x := a2) 3 rfl rfl dX2_give_51 ?_
    refine g_iadd (pc := 52) dX2_give_52 ?_
    refine g_bipush (pc := 53) (v := (99 : Int32)) bc_99 dX2_give_53 ?_
    refine g_icmp_gt (pc := 55) (tgt := 62) rfl dX2_give_55 ?_ ?_
    · exact g_sub [1, 2, 3] rfl (Hj22 () h24)
    refine g_iconst (pc := 58) (v := (1 : Int32)) ic_1 dX2_give_58 ?_
    refine g_goto (pc := 59) (tgt := 63) rfl dX2_give_59 ?_
    exact g_sub [1, 2, 3] rfl (Hj8 (1 : Int32) h24)
  refine g_join 19 (fun (x27 : Unit) => [(0, gr a0), (1, gi a1), (2, gi a2)]) (fun (x27 : Unit) => []) (fun x27 h28 => ?_) (fun j29 Hj29 => ?_)
  · refine g_iconst (pc := 19) (v := (0 : Int32)) ic_0 dX2_give_19 ?_
    exact Hj4 (0 : Int32) h28
  refine g_if_eq (pc := 4) (tgt := 19) rfl dX2_give_4 ?_ ?_
  · exact Hj29 () h
  refine g_aload_n (pc := 7) (x := a0) 0 rfl rfl dX2_give_7 ?_
  refine g_iload_n (pc := 8) (x := a1) 1 rfl rfl dX2_give_8 ?_
  refine g_bVi (pc := 9) (y := yX2_isCabin) (ws := ws_ yX2_isCabin cX2_isCabin 2 (some .boolean)) (fr := 1) (lo := 22) (as := [gi a1]) (st := []) (g_no) rfl (fun _ _ _ e => tX2_isCabin hs e) (fun K _ _ _ hq hM R e1 e2 => g_runV (M := mX2_give) (pc := 9) (y := yX2_isCabin) (bytes := cX2_isCabin) (maxL := 2) (ret := (some .boolean)) (fr := 1) (lo := 22) (as := [gi a1]) (st := []) hq (C := "FlareSlopesModel") rfl gy_X2_isCabin (gbl rfl) (gbl rfl) (gbl rfl) q4214 q4216 qs87 dX2_give_9 K hM R e1 e2) fun v30 h31 => ?_
  refine g_if_eq (pc := 12) (tgt := 19) rfl dX2_give_12 ?_ ?_
  · exact Hj29 () h31
  refine g_iconst (pc := 15) (v := (1 : Int32)) ic_1 dX2_give_15 ?_
  refine g_goto (pc := 16) (tgt := 20) rfl dX2_give_16 ?_
  exact Hj4 (1 : Int32) h31
/-! FlareSlopes.move(III)I -/
noncomputable def sX1_move (G : GG) (N : Nat) (a0 : Option Nat) (a1 : Int32) (a2 : Int32) (a3 : Int32) (h : Hp) : Out (Int32) :=
  bV h a0 3 (fun q25 => sX1_withCabin G N (some q25) a1 h) fun v1 h2 =>
  bnd (sX1_in G N a2 (0 : Int32) (99 : Int32) h2) fun v3 h4 =>
  gJ (fun (x5 : Int32) (h6 : Hp) =>
  bnd (sX1_checkArgument G N x5 h6) fun v8 h9 =>
  bV h9 a0 3 (fun q19 => sX1_change G N (some q19) h9) fun v10 h11 =>
  bV h11 v10 16 (fun q18 => sX3_cabin G N (some q18) a1 h11) fun v12 h13 =>
  gP G h13 v12 7 0 (.int a2) fun h14 =>
  gP G h14 v12 7 1 (.int a3) fun h15 =>
  gFi h15 v1 7 0 fun v16 =>
  gFi h15 v1 7 1 fun v17 =>
  some (.inl (((100 : Int32) * v16) + v17), h15)) fun j7 =>
  gJ (fun (x20 : Unit) (h21 : Hp) =>
  j7 (0 : Int32) h21) fun j22 =>
  if v3 = 0 then (j22 () h4)
  else bnd (sX1_in G N a3 (0 : Int32) (99 : Int32) h4) fun v23 h24 =>
  if v23 = 0 then (j22 () h24)
  else j7 (1 : Int32) h24
abbrev mX1_move : MI := (RX1, cX1_move, 6, (some .int), [], 9, 205, "move")
theorem tX1_move {G : GG} {l : Launch} (hs : l.stackTraces = false) {N : Nat} {a0 : Option Nat} {a1 : Int32} {a2 : Int32} {a3 : Int32} {h : Hp} {r : Int32 ⊕ Nat} {hf : Hp} (ho : sX1_move G N a0 a1 a2 a3 h = some (r, hf)) : gMet G l yX1_move (ws_ yX1_move cX1_move 6 (some .int)) 9 205 [gr a0, gi a1, gi a2, gi a3] h cvI r hf := by
  refine gMet.of ho hs (plainFor_of_name pn_X1) rfl rfl (gbl rfl) fun X => ?_
  show gT G l X mX1_move cvI r hf 0 [(0, gr a0), (1, gi a1), (2, gi a2), (3, gi a3)] [] h (sX1_move G N a0 a1 a2 a3 h)
  delta sX1_move
  refine g_aload_n (pc := 0) (x := a0) 0 rfl rfl dX1_move_0 ?_
  refine g_iload_n (pc := 1) (x := a1) 1 rfl rfl dX1_move_1 ?_
  refine g_bVr (pc := 2) (y := yX1_withCabin) (ws := ws_ yX1_withCabin cX1_withCabin 2 (some (.object "FlareSlopes$Cabin"))) (fr := 8) (lo := 121) (as := [gi a1]) (st := []) (g_no) rfl (fun _ _ _ e => tX1_withCabin hs e) (fun K _ _ _ hq hM R e1 e2 => g_runV (M := mX1_move) (pc := 2) (y := yX1_withCabin) (bytes := cX1_withCabin) (maxL := 2) (ret := (some (.object "FlareSlopes$Cabin"))) (fr := 8) (lo := 121) (as := [gi a1]) (st := []) hq (C := "FlareSlopes") rfl gy_X1_withCabin (gbl rfl) (gbl rfl) (gbl rfl) q1968 q1970 qs22 dX1_move_2 K hM R e1 e2) fun v1 h2 => ?_
  refine g_astore (pc := 5) (lv' := [(4, gr v1), (0, gr a0), (1, gi a1), (2, gi a2), (3, gi a3)]) [0, 1, 2, 3, 4] rfl (gblt rfl) dX1_move_5 ?_
  refine g_iload_n (pc := 7) (x := a2) 3 rfl rfl dX1_move_7 ?_
  refine g_iconst (pc := 8) (v := (0 : Int32)) ic_0 dX1_move_8 ?_
  refine g_bipush (pc := 9) (v := (99 : Int32)) bc_99 dX1_move_9 ?_
  refine g_bi (pc := 11) (y := yX1_in) (ws := ws_ yX1_in cX1_in 3 (some .boolean)) (fr := 0) (lo := 0) (as := [gi a2, gi (0 : Int32), gi (99 : Int32)]) (st := []) (g_no) rfl (fun _ _ e => tX1_in hs e) (fun K _ _ hM R e1 e2 => g_runS (M := mX1_move) (pc := 11) (y := yX1_in) (bytes := cX1_in) (maxL := 3) (ret := (some .boolean)) (fr := 0) (lo := 0) (as := [gi a2, gi (0 : Int32), gi (99 : Int32)]) (st := []) gy_X1_in (gbl rfl) (gbl rfl) (gbl rfl) q413 q414 dX1_move_11 K hM R e1 e2) fun v3 h4 => ?_
  refine g_join 32 (fun (x5 : Int32) => [(0, gr a0), (1, gi a1), (2, gi a2), (3, gi a3), (4, gr v1)]) (fun (x5 : Int32) => [gi x5]) (fun x5 h6 => ?_) (fun j7 Hj7 => ?_)
  · refine g_bu (pc := 32) (y := yX1_checkArgument) (ws := ws_ yX1_checkArgument cX1_checkArgument 1 none) (fr := 6) (lo := 81) (as := [gi x5]) (st := []) (g_no) rfl (fun _ _ e => tX1_checkArgument hs e) (fun K _ _ hM R e1 e2 => g_runS (M := mX1_move) (pc := 32) (y := yX1_checkArgument) (bytes := cX1_checkArgument) (maxL := 1) (ret := none) (fr := 6) (lo := 81) (as := [gi x5]) (st := []) gy_X1_checkArgument (gbl rfl) (gbl rfl) (gbl rfl) q1958 q1959 dX1_move_32 K hM R e1 e2) fun v8 h9 => ?_
    refine g_aload_n (pc := 35) (x := a0) 0 rfl rfl dX1_move_35 ?_
    refine g_bVr (pc := 36) (y := yX1_change) (ws := ws_ yX1_change cX1_change 1 (some (.object "FlareSlopes$State"))) (fr := 8) (lo := 185) (as := []) (st := []) (g_no) rfl (fun _ _ _ e => tX1_change hs e) (fun K _ _ _ hq hM R e1 e2 => g_runV (M := mX1_move) (pc := 36) (y := yX1_change) (bytes := cX1_change) (maxL := 1) (ret := (some (.object "FlareSlopes$State"))) (fr := 8) (lo := 185) (as := []) (st := []) hq (C := "FlareSlopes") rfl gy_X1_change (gbl rfl) (gbl rfl) (gbl rfl) q3752 q3754 qs52 dX1_move_36 K hM R e1 e2) fun v10 h11 => ?_
    refine g_iload_n (pc := 39) (x := a1) 1 rfl rfl dX1_move_39 ?_
    refine g_bVr (pc := 40) (y := yX3_cabin) (ws := ws_ yX3_cabin cX3_cabin 2 (some (.object "FlareSlopes$Cabin"))) (fr := 3) (lo := 64) (as := [gi a1]) (st := []) (g_no) rfl (fun _ _ _ e => tX3_cabin hs e) (fun K _ _ _ hq hM R e1 e2 => g_runV (M := mX1_move) (pc := 40) (y := yX3_cabin) (bytes := cX3_cabin) (maxL := 2) (ret := (some (.object "FlareSlopes$Cabin"))) (fr := 3) (lo := 64) (as := [gi a1]) (st := []) hq (C := "FlareSlopes$State") rfl gy_X3_cabin (gbl rfl) (gbl rfl) (gbl rfl) q1738 q1639 q1640 dX1_move_40 K hM R e1 e2) fun v12 h13 => ?_
    refine g_astore (pc := 43) (lv' := [(5, gr v12), (2, gi a2), (3, gi a3), (4, gr v1)]) [0, 3, 4, 5] rfl (gblt rfl) dX1_move_43 ?_
    refine g_aload (pc := 45) (x := v12) 0 rfl dX1_move_45 ?_
    refine g_iload_n (pc := 47) (x := a2) 1 rfl rfl dX1_move_47 ?_
    refine g_put (pc := 48) k_7 (gblt rfl) lk_X1_279_7 rfl rfl (gNi _) dX1_move_48 fun h14 => ?_
    refine g_aload (pc := 51) (x := v12) 0 rfl dX1_move_51 ?_
    refine g_iload_n (pc := 53) (x := a3) 2 rfl rfl dX1_move_53 ?_
    refine g_put (pc := 54) k_7 (gblt rfl) lk_X1_282_7 rfl rfl (gNi _) dX1_move_54 fun h15 => ?_
    refine g_bipush (pc := 57) (v := (100 : Int32)) bc_100 dX1_move_57 ?_
    refine g_aload (pc := 59) (x := v1) 3 rfl dX1_move_59 ?_
    refine g_getfi (pc := 61) k_7 (gblt rfl) lk_X1_279_7 dX1_move_61 fun v16 => ?_
    refine g_imul (pc := 64) dX1_move_64 ?_
    refine g_aload (pc := 65) (x := v1) 3 rfl dX1_move_65 ?_
    refine g_getfi (pc := 67) k_7 (gblt rfl) lk_X1_282_7 dX1_move_67 fun v17 => ?_
    refine g_iadd (pc := 70) dX1_move_70 ?_
    exact g_ireturn (pc := 71) rfl dX1_move_71
  refine g_join 31 (fun (x20 : Unit) => [(0, gr a0), (1, gi a1), (2, gi a2), (3, gi a3), (4, gr v1)]) (fun (x20 : Unit) => []) (fun x20 h21 => ?_) (fun j22 Hj22 => ?_)
  · refine g_iconst (pc := 31) (v := (0 : Int32)) ic_0 dX1_move_31 ?_
    exact Hj7 (0 : Int32) h21
  refine g_if_eq (pc := 14) (tgt := 31) rfl dX1_move_14 ?_ ?_
  · exact g_sub [1, 2, 3, 4, 0] rfl (Hj22 () h4)
  refine g_iload_n (pc := 17) (x := a3) 4 rfl rfl dX1_move_17 ?_
  refine g_iconst (pc := 18) (v := (0 : Int32)) ic_0 dX1_move_18 ?_
  refine g_bipush (pc := 19) (v := (99 : Int32)) bc_99 dX1_move_19 ?_
  refine g_bi (pc := 21) (y := yX1_in) (ws := ws_ yX1_in cX1_in 3 (some .boolean)) (fr := 0) (lo := 0) (as := [gi a3, gi (0 : Int32), gi (99 : Int32)]) (st := []) (g_no) rfl (fun _ _ e => tX1_in hs e) (fun K _ _ hM R e1 e2 => g_runS (M := mX1_move) (pc := 21) (y := yX1_in) (bytes := cX1_in) (maxL := 3) (ret := (some .boolean)) (fr := 0) (lo := 0) (as := [gi a3, gi (0 : Int32), gi (99 : Int32)]) (st := []) gy_X1_in (gbl rfl) (gbl rfl) (gbl rfl) q413 q414 dX1_move_21 K hM R e1 e2) fun v23 h24 => ?_
  refine g_if_eq (pc := 24) (tgt := 31) rfl dX1_move_24 ?_ ?_
  · exact g_sub [1, 2, 3, 4, 0] rfl (Hj22 () h24)
  refine g_iconst (pc := 27) (v := (1 : Int32)) ic_1 dX1_move_27 ?_
  refine g_goto (pc := 28) (tgt := 32) rfl dX1_move_28 ?_
  exact g_sub [1, 2, 3, 4, 0] rfl (Hj7 (1 : Int32) h24)
/-! FlareSlopesLaw.move(LFlareSlopes;III[J)I -/
noncomputable def sX0_move (G : GG) (N : Nat) (a0 : Option Nat) (a1 : Int32) (a2 : Int32) (a3 : Int32) (a4 : Option Nat) (h : Hp) : Out (Int32) :=
  bVX h a0 3 (fun q4 => sX1_move G N (some q4) a1 a2 a3 h) (fun v1 h2 =>
  gSl G h2 a4 3 (0 : Int32) (v1.toInt64) fun h3 =>
  some (.inl (0 : Int32), h3)) fun q5 h6 =>
  gSw h6 (some q5) 0 (some (.inl (1 : Int32), h6)) (gSw h6 (some q5) 1 (some (.inl (3 : Int32), h6)) (gSw h6 (some q5) 2 (some (.inl (2 : Int32), h6)) (none)))
abbrev mX0_move : MI := (RX0, cX0_move, 6, (some .int), [(0, 12, 15, 21), (0, 12, 19, 13), (0, 12, 23, 15)], 10, 230, "move")
theorem tX0_move {G : GG} {l : Launch} (hs : l.stackTraces = false) {N : Nat} {a0 : Option Nat} {a1 : Int32} {a2 : Int32} {a3 : Int32} {a4 : Option Nat} {h : Hp} {r : Int32 ⊕ Nat} {hf : Hp} (ho : sX0_move G N a0 a1 a2 a3 a4 h = some (r, hf)) : gMet G l yX0_move (wsW_ yX0_move cX0_move 6 (some .int) [(0, 12, 15, 21), (0, 12, 19, 13), (0, 12, 23, 15)]) 10 230 [gr a0, gi a1, gi a2, gi a3, gr a4] h cvI r hf := by
  refine gMet.ofW ho hs (plainFor_of_name pn_X0) rfl rfl (gbl rfl) fun X => ?_
  show gT G l X mX0_move cvI r hf 0 [(0, gr a0), (1, gi a1), (2, gi a2), (3, gi a3), (4, gr a4)] [] h (sX0_move G N a0 a1 a2 a3 a4 h)
  delta sX0_move
  refine g_aload (pc := 0) (x := a4) 4 rfl dX0_move_0 ?_
  refine g_iconst (pc := 2) (v := (0 : Int32)) ic_0 dX0_move_2 ?_
  refine g_aload_n (pc := 3) (x := a0) 0 rfl rfl dX0_move_3 ?_
  refine g_iload_n (pc := 4) (x := a1) 1 rfl rfl dX0_move_4 ?_
  refine g_iload_n (pc := 5) (x := a2) 2 rfl rfl dX0_move_5 ?_
  refine g_iload_n (pc := 6) (x := a3) 3 rfl rfl dX0_move_6 ?_
  refine g_bVXi (pc := 7) (y := yX1_move) (ws := ws_ yX1_move cX1_move 6 (some .int)) (fr := 9) (lo := 205) (as := [gi a1, gi a2, gi a3]) (st := [gi (0 : Int32), gr a4]) rfl (fun _ _ _ e => tX1_move hs e) (fun K _ _ _ hq hM R e1 e2 => g_runV (M := mX0_move) (pc := 7) (y := yX1_move) (bytes := cX1_move) (maxL := 6) (ret := (some .int)) (fr := 9) (lo := 205) (as := [gi a1, gi a2, gi a3]) (st := [gi (0 : Int32), gr a4]) hq (C := "FlareSlopes") rfl gy_X1_move (gbl rfl) (gbl rfl) (gbl rfl) q3868 q3869 q3870 dX0_move_7 K hM R e1 e2) (fun v1 h2 => ?_) (fun q5 h6 => ?_)
  · refine g_i2l (pc := 10) dX0_move_10 ?_
    refine g_lastore (pc := 11) rfl dX0_move_11 fun h3 => ?_
    refine g_goto (pc := 12) (tgt := 27) rfl dX0_move_12 ?_
    refine g_iconst (pc := 27) (v := (0 : Int32)) ic_0 dX0_move_27 ?_
    exact g_ireturn (pc := 28) rfl dX0_move_28
  refine g_catch (E := "java/lang/IllegalStateException") [] ⟨0, 12, 15, 21⟩ [⟨0, 12, 19, 13⟩, ⟨0, 12, 23, 15⟩] rfl rfl (List.forall_mem_nil _) (by decide +kernel) (by decide +kernel) q1425 q1439 ?_ ?_
  · refine g_astore (pc := 15) (lv' := []) [] rfl (gblt rfl) dX0_move_15 ?_
    refine g_iconst (pc := 17) (v := (1 : Int32)) ic_1 dX0_move_17 ?_
    exact g_ireturn (pc := 18) rfl dX0_move_18
  refine g_catch (E := "java/lang/IllegalArgumentException") [⟨0, 12, 15, 21⟩, ⟨0, 12, 19, 13⟩] ⟨0, 12, 23, 15⟩ [] rfl rfl (List.forall_mem_cons.mpr ⟨Or.inr ⟨by decide +kernel, _, q1425, ncl_java_lang_IllegalArgumentException_java_lang_IllegalStateException⟩, List.forall_mem_cons.mpr ⟨Or.inr ⟨by decide +kernel, _, q325, ncl_java_lang_IllegalArgumentException_java_lang_IndexOutOfBoundsException⟩, List.forall_mem_nil _⟩⟩) (by decide +kernel) (by decide +kernel) q404 q751 ?_ ?_
  · refine g_astore (pc := 23) (lv' := []) [] rfl (gblt rfl) dX0_move_23 ?_
    refine g_iconst (pc := 25) (v := (3 : Int32)) ic_3 dX0_move_25 ?_
    exact g_ireturn (pc := 26) rfl dX0_move_26
  refine g_catch (E := "java/lang/IndexOutOfBoundsException") [⟨0, 12, 15, 21⟩] ⟨0, 12, 19, 13⟩ [⟨0, 12, 23, 15⟩] rfl rfl (List.forall_mem_cons.mpr ⟨Or.inr ⟨by decide +kernel, _, q1425, ncl_java_lang_IndexOutOfBoundsException_java_lang_IllegalStateException⟩, List.forall_mem_nil _⟩) (by decide +kernel) (by decide +kernel) q325 q418 ?_ ?_
  · refine g_astore (pc := 19) (lv' := []) [] rfl (gblt rfl) dX0_move_19 ?_
    refine g_iconst (pc := 21) (v := (2 : Int32)) ic_2 dX0_move_21 ?_
    exact g_ireturn (pc := 22) rfl dX0_move_22
  exact g_noneX
/-! FlareSlopesModel.move(III)I -/
noncomputable def sX2_move (G : GG) (N : Nat) (a0 : Option Nat) (a1 : Int32) (a2 : Int32) (a3 : Int32) (h : Hp) : Out (Int32) :=
  gFi h a0 18 8 fun v1 =>
  bV h a0 18 (fun q31 => sX2_isCabin G N (some q31) a1 h) fun v2 h3 =>
  bnd (sX2_in G N a2 (0 : Int32) (99 : Int32) h3) fun v4 h5 =>
  gJ (fun (x6 : Int32) (h7 : Hp) =>
  bV h7 a0 18 (fun q25 => sX2_may G N (some q25) v1 v2 x6 h7) fun v9 h10 =>
  if v9 = 0 then (some (.inl (0 : Int32), h10))
  else bV h10 a0 18 (fun q24 => sX2_remembers G N (some q24) h10) fun v11 h12 =>
  bnd (sX2_cabinAt G N a1 h12) fun v13 h14 =>
  gFr h14 a0 18 1 fun v15 =>
  gAi h14 v15 0 v13 fun v16 =>
  gFr h14 a0 18 1 fun v17 =>
  gAi h14 v17 0 (v13 + (1 : Int32)) fun v18 =>
  gLet (((100 : Int32) * v16) + v18) fun v19 =>
  gFr h14 a0 18 1 fun v20 =>
  gSi G h14 v20 0 v13 a2 fun h21 =>
  gFr h21 a0 18 1 fun v22 =>
  gSi G h21 v22 0 (v13 + (1 : Int32)) a3 fun h23 =>
  some (.inl v19, h23)) fun j8 =>
  gJ (fun (x26 : Unit) (h27 : Hp) =>
  j8 (0 : Int32) h27) fun j28 =>
  if v4 = 0 then (j28 () h5)
  else bnd (sX2_in G N a3 (0 : Int32) (99 : Int32) h5) fun v29 h30 =>
  if v29 = 0 then (j28 () h30)
  else j8 (1 : Int32) h30
abbrev mX2_move : MI := (RX2, cX2_move, 6, (some .int), [], 2, 45, "move")
theorem tX2_move {G : GG} {l : Launch} (hs : l.stackTraces = false) {N : Nat} {a0 : Option Nat} {a1 : Int32} {a2 : Int32} {a3 : Int32} {h : Hp} {r : Int32 ⊕ Nat} {hf : Hp} (ho : sX2_move G N a0 a1 a2 a3 h = some (r, hf)) : gMet G l yX2_move (ws_ yX2_move cX2_move 6 (some .int)) 2 45 [gr a0, gi a1, gi a2, gi a3] h cvI r hf := by
  refine gMet.of ho hs (plainFor_of_name pn_X2) rfl rfl (gbl rfl) fun X => ?_
  show gT G l X mX2_move cvI r hf 0 [(0, gr a0), (1, gi a1), (2, gi a2), (3, gi a3)] [] h (sX2_move G N a0 a1 a2 a3 h)
  delta sX2_move
  refine g_aload_n (pc := 0) (x := a0) 0 rfl rfl dX2_move_0 ?_
  refine g_aload_n (pc := 1) (x := a0) 0 rfl rfl dX2_move_1 ?_
  refine g_getfi (pc := 2) k_18 (gblt rfl) lk_X2_184_18 dX2_move_2 fun v1 => ?_
  refine g_aload_n (pc := 5) (x := a0) 0 rfl rfl dX2_move_5 ?_
  refine g_iload_n (pc := 6) (x := a1) 1 rfl rfl dX2_move_6 ?_
  refine g_bVi (pc := 7) (y := yX2_isCabin) (ws := ws_ yX2_isCabin cX2_isCabin 2 (some .boolean)) (fr := 1) (lo := 22) (as := [gi a1]) (st := [gi v1, gr a0]) (g_no) rfl (fun _ _ _ e => tX2_isCabin hs e) (fun K _ _ _ hq hM R e1 e2 => g_runV (M := mX2_move) (pc := 7) (y := yX2_isCabin) (bytes := cX2_isCabin) (maxL := 2) (ret := (some .boolean)) (fr := 1) (lo := 22) (as := [gi a1]) (st := [gi v1, gr a0]) hq (C := "FlareSlopesModel") rfl gy_X2_isCabin (gbl rfl) (gbl rfl) (gbl rfl) q4214 q4216 qs87 dX2_move_7 K hM R e1 e2) fun v2 h3 => ?_
  refine g_iload_n (pc := 10) (x := a2) 2 rfl rfl dX2_move_10 ?_
  refine g_iconst (pc := 11) (v := (0 : Int32)) ic_0 dX2_move_11 ?_
  refine g_bipush (pc := 12) (v := (99 : Int32)) bc_99 dX2_move_12 ?_
  refine g_bi (pc := 14) (y := yX2_in) (ws := ws_ yX2_in cX2_in 3 (some .boolean)) (fr := 0) (lo := 0) (as := [gi a2, gi (0 : Int32), gi (99 : Int32)]) (st := [gi v2, gi v1, gr a0]) (g_no) rfl (fun _ _ e => tX2_in hs e) (fun K _ _ hM R e1 e2 => g_runS (M := mX2_move) (pc := 14) (y := yX2_in) (bytes := cX2_in) (maxL := 3) (ret := (some .boolean)) (fr := 0) (lo := 0) (as := [gi a2, gi (0 : Int32), gi (99 : Int32)]) (st := [gi v2, gi v1, gr a0]) gy_X2_in (gbl rfl) (gbl rfl) (gbl rfl) q4037 q4038 dX2_move_14 K hM R e1 e2) fun v4 h5 => ?_
  refine g_join 35 (fun (x6 : Int32) => [(0, gr a0), (1, gi a1), (2, gi a2), (3, gi a3)]) (fun (x6 : Int32) => [gi x6, gi v2, gi v1, gr a0]) (fun x6 h7 => ?_) (fun j8 Hj8 => ?_)
  · refine g_bVi (pc := 35) (y := yX2_may) (ws := ws_ yX2_may cX2_may 4 (some .boolean)) (fr := 0) (lo := 0) (as := [gi v1, gi v2, gi x6]) (st := []) (g_no) rfl (fun _ _ _ e => tX2_may hs e) (fun K _ _ _ hq hM R e1 e2 => g_runV (M := mX2_move) (pc := 35) (y := yX2_may) (bytes := cX2_may) (maxL := 4) (ret := (some .boolean)) (fr := 0) (lo := 0) (as := [gi v1, gi v2, gi x6]) (st := []) hq (C := "FlareSlopesModel") rfl gy_X2_may (gbl rfl) (gbl rfl) (gbl rfl) q4040 q4042 qs54 dX2_move_35 K hM R e1 e2) fun v9 h10 => ?_
    refine g_if_ne (pc := 38) (tgt := 43) rfl dX2_move_38 ?_ ?_
    · refine g_iconst (pc := 41) (v := (0 : Int32)) ic_0 dX2_move_41 ?_
      exact g_ireturn (pc := 42) rfl dX2_move_42
    refine g_aload_n (pc := 43) (x := a0) 0 rfl rfl dX2_move_43 ?_
    refine g_bVu (pc := 44) (y := yX2_remembers) (ws := ws_ yX2_remembers cX2_remembers 2 none) (fr := 1) (lo := 24) (as := []) (st := []) (g_no) rfl (fun _ _ _ e => tX2_remembers hs e) (fun K _ _ _ hq hM R e1 e2 => g_runV (M := mX2_move) (pc := 44) (y := yX2_remembers) (bytes := cX2_remembers) (maxL := 2) (ret := none) (fr := 1) (lo := 24) (as := []) (st := []) hq (C := "FlareSlopesModel") rfl gy_X2_remembers (gbl rfl) (gbl rfl) (gbl rfl) q4555 q4557 qs125 dX2_move_44 K hM R e1 e2) fun v11 h12 => ?_
    refine g_iload_n (pc := 47) (x := a1) 1 rfl rfl dX2_move_47 ?_
    refine g_bi (pc := 48) (y := yX2_cabinAt) (ws := ws_ yX2_cabinAt cX2_cabinAt 1 (some .int)) (fr := 0) (lo := 0) (as := [gi a1]) (st := []) (g_no) rfl (fun _ _ e => tX2_cabinAt hs e) (fun K _ _ hM R e1 e2 => g_runS (M := mX2_move) (pc := 48) (y := yX2_cabinAt) (bytes := cX2_cabinAt) (maxL := 1) (ret := (some .int)) (fr := 0) (lo := 0) (as := [gi a1]) (st := []) gy_X2_cabinAt (gbl rfl) (gbl rfl) (gbl rfl) q4179 q4180 dX2_move_48 K hM R e1 e2) fun v13 h14 => ?_
    refine g_istore (pc := 51) (lv' := [(4, gi v13), (0, gr a0), (2, gi a2), (3, gi a3)]) [0, 1, 3, 4] rfl (gblt rfl) dX2_move_51 ?_
    refine g_bipush (pc := 53) (v := (100 : Int32)) bc_100 dX2_move_53 ?_
    refine g_aload_n (pc := 55) (x := a0) 1 rfl rfl dX2_move_55 ?_
    refine g_getfr (pc := 56) k_18 (gblt rfl) lk_X2_9_18 dX2_move_56 fun v15 => ?_
    refine g_iload (pc := 59) (x := v13) 0 rfl dX2_move_59 ?_
    refine g_iaload (pc := 61) rfl dX2_move_61 fun v16 => ?_
    refine g_imul (pc := 62) dX2_move_62 ?_
    refine g_aload_n (pc := 63) (x := a0) 1 rfl rfl dX2_move_63 ?_
    refine g_getfr (pc := 64) k_18 (gblt rfl) lk_X2_9_18 dX2_move_64 fun v17 => ?_
    refine g_iload (pc := 67) (x := v13) 0 rfl dX2_move_67 ?_
    refine g_iconst (pc := 69) (v := (1 : Int32)) ic_1 dX2_move_69 ?_
    refine g_iadd (pc := 70) dX2_move_70 ?_
    refine g_iaload (pc := 71) rfl dX2_move_71 fun v18 => ?_
    refine g_iadd (pc := 72) dX2_move_72 ?_
    refine g_leti fun v19 => ?_
    refine g_istore (pc := 73) (lv' := [(5, gi v19), (4, gi v13), (0, gr a0), (2, gi a2), (3, gi a3)]) [0, 1, 2, 3, 4] rfl (gblt rfl) dX2_move_73 ?_
    refine g_aload_n (pc := 75) (x := a0) 2 rfl rfl dX2_move_75 ?_
    refine g_getfr (pc := 76) k_18 (gblt rfl) lk_X2_9_18 dX2_move_76 fun v20 => ?_
    refine g_iload (pc := 79) (x := v13) 1 rfl dX2_move_79 ?_
    refine g_iload_n (pc := 81) (x := a2) 3 rfl rfl dX2_move_81 ?_
    refine g_iastore (pc := 82) rfl dX2_move_82 fun h21 => ?_
    refine g_aload_n (pc := 83) (x := a0) 2 rfl rfl dX2_move_83 ?_
    refine g_getfr (pc := 84) k_18 (gblt rfl) lk_X2_9_18 dX2_move_84 fun v22 => ?_
    refine g_iload (pc := 87) (x := v13) 1 rfl dX2_move_87 ?_
    refine g_iconst (pc := 89) (v := (1 : Int32)) ic_1 dX2_move_89 ?_
    refine g_iadd (pc := 90) dX2_move_90 ?_
    refine g_iload_n (pc := 91) (x := a3) 4 rfl rfl dX2_move_91 ?_
    refine g_iastore (pc := 92) rfl dX2_move_92 fun h23 => ?_
    refine g_iload (pc := 93) (x := v19) 0 rfl dX2_move_93 ?_
    exact g_ireturn (pc := 95) rfl dX2_move_95
  refine g_join 34 (fun (x26 : Unit) => [(0, gr a0), (1, gi a1), (2, gi a2), (3, gi a3)]) (fun (x26 : Unit) => [gi v2, gi v1, gr a0]) (fun x26 h27 => ?_) (fun j28 Hj28 => ?_)
  · refine g_iconst (pc := 34) (v := (0 : Int32)) ic_0 dX2_move_34 ?_
    exact Hj8 (0 : Int32) h27
  refine g_if_eq (pc := 17) (tgt := 34) rfl dX2_move_17 ?_ ?_
  · exact Hj28 () h5
  refine g_iload_n (pc := 20) (x := a3) 3 rfl rfl dX2_move_20 ?_
  refine g_iconst (pc := 21) (v := (0 : Int32)) ic_0 dX2_move_21 ?_
  refine g_bipush (pc := 22) (v := (99 : Int32)) bc_99 dX2_move_22 ?_
  refine g_bi (pc := 24) (y := yX2_in) (ws := ws_ yX2_in cX2_in 3 (some .boolean)) (fr := 0) (lo := 0) (as := [gi a3, gi (0 : Int32), gi (99 : Int32)]) (st := [gi v2, gi v1, gr a0]) (g_no) rfl (fun _ _ e => tX2_in hs e) (fun K _ _ hM R e1 e2 => g_runS (M := mX2_move) (pc := 24) (y := yX2_in) (bytes := cX2_in) (maxL := 3) (ret := (some .boolean)) (fr := 0) (lo := 0) (as := [gi a3, gi (0 : Int32), gi (99 : Int32)]) (st := [gi v2, gi v1, gr a0]) gy_X2_in (gbl rfl) (gbl rfl) (gbl rfl) q4037 q4038 dX2_move_24 K hM R e1 e2) fun v29 h30 => ?_
  refine g_if_eq (pc := 27) (tgt := 34) rfl dX2_move_27 ?_ ?_
  · exact Hj28 () h30
  refine g_iconst (pc := 30) (v := (1 : Int32)) ic_1 dX2_move_30 ?_
  refine g_goto (pc := 31) (tgt := 35) rfl dX2_move_31 ?_
  exact Hj8 (1 : Int32) h30
/-! FlareSlopes.trust(II)I -/
noncomputable def sX1_trust (G : GG) (N : Nat) (a0 : Option Nat) (a1 : Int32) (a2 : Int32) (h : Hp) : Out (Int32) :=
  bV h a0 3 (fun q17 => sX1_withCabin G N (some q17) a1 h) fun v1 h2 =>
  bnd (sX1_in G N a2 (-100 : Int32) (100 : Int32) h2) fun v3 h4 =>
  bnd (sX1_checkArgument G N v3 h4) fun v5 h6 =>
  bV h6 a0 3 (fun q16 => sX1_change G N (some q16) h6) fun v7 h8 =>
  bV h8 v7 16 (fun q15 => sX3_cabin G N (some q15) a1 h8) fun v9 h10 =>
  bV h10 v9 7 (fun q14 => sX12_trusts G N (some q14) a2 h10) fun v11 h12 =>
  gFi h12 v9 7 3 fun v13 =>
  some (.inl v13, h12)
abbrev mX1_trust : MI := (RX1, cX1_trust, 5, (some .int), [], 9, 205, "trust")
theorem tX1_trust {G : GG} {l : Launch} (hs : l.stackTraces = false) {N : Nat} {a0 : Option Nat} {a1 : Int32} {a2 : Int32} {h : Hp} {r : Int32 ⊕ Nat} {hf : Hp} (ho : sX1_trust G N a0 a1 a2 h = some (r, hf)) : gMet G l yX1_trust (ws_ yX1_trust cX1_trust 5 (some .int)) 9 205 [gr a0, gi a1, gi a2] h cvI r hf := by
  refine gMet.of ho hs (plainFor_of_name pn_X1) rfl rfl (gbl rfl) fun X => ?_
  show gT G l X mX1_trust cvI r hf 0 [(0, gr a0), (1, gi a1), (2, gi a2)] [] h (sX1_trust G N a0 a1 a2 h)
  delta sX1_trust
  refine g_aload_n (pc := 0) (x := a0) 0 rfl rfl dX1_trust_0 ?_
  refine g_iload_n (pc := 1) (x := a1) 1 rfl rfl dX1_trust_1 ?_
  refine g_bVr (pc := 2) (y := yX1_withCabin) (ws := ws_ yX1_withCabin cX1_withCabin 2 (some (.object "FlareSlopes$Cabin"))) (fr := 8) (lo := 121) (as := [gi a1]) (st := []) (g_no) rfl (fun _ _ _ e => tX1_withCabin hs e) (fun K _ _ _ hq hM R e1 e2 => g_runV (M := mX1_trust) (pc := 2) (y := yX1_withCabin) (bytes := cX1_withCabin) (maxL := 2) (ret := (some (.object "FlareSlopes$Cabin"))) (fr := 8) (lo := 121) (as := [gi a1]) (st := []) hq (C := "FlareSlopes") rfl gy_X1_withCabin (gbl rfl) (gbl rfl) (gbl rfl) q1968 q1970 qs22 dX1_trust_2 K hM R e1 e2) fun v1 h2 => ?_
  refine g_astore_n (pc := 5) (lv' := [(0, gr a0), (1, gi a1), (2, gi a2)]) [1, 2, 3] rfl rfl (gblt rfl) dX1_trust_5 ?_
  refine g_iload_n (pc := 6) (x := a2) 2 rfl rfl dX1_trust_6 ?_
  refine g_bipush (pc := 7) (v := (-100 : Int32)) bc_m100 dX1_trust_7 ?_
  refine g_bipush (pc := 9) (v := (100 : Int32)) bc_100 dX1_trust_9 ?_
  refine g_bi (pc := 11) (y := yX1_in) (ws := ws_ yX1_in cX1_in 3 (some .boolean)) (fr := 0) (lo := 0) (as := [gi a2, gi (-100 : Int32), gi (100 : Int32)]) (st := []) (g_no) rfl (fun _ _ e => tX1_in hs e) (fun K _ _ hM R e1 e2 => g_runS (M := mX1_trust) (pc := 11) (y := yX1_in) (bytes := cX1_in) (maxL := 3) (ret := (some .boolean)) (fr := 0) (lo := 0) (as := [gi a2, gi (-100 : Int32), gi (100 : Int32)]) (st := []) gy_X1_in (gbl rfl) (gbl rfl) (gbl rfl) q413 q414 dX1_trust_11 K hM R e1 e2) fun v3 h4 => ?_
  refine g_bu (pc := 14) (y := yX1_checkArgument) (ws := ws_ yX1_checkArgument cX1_checkArgument 1 none) (fr := 6) (lo := 81) (as := [gi v3]) (st := []) (g_no) rfl (fun _ _ e => tX1_checkArgument hs e) (fun K _ _ hM R e1 e2 => g_runS (M := mX1_trust) (pc := 14) (y := yX1_checkArgument) (bytes := cX1_checkArgument) (maxL := 1) (ret := none) (fr := 6) (lo := 81) (as := [gi v3]) (st := []) gy_X1_checkArgument (gbl rfl) (gbl rfl) (gbl rfl) q1958 q1959 dX1_trust_14 K hM R e1 e2) fun v5 h6 => ?_
  refine g_aload_n (pc := 17) (x := a0) 0 rfl rfl dX1_trust_17 ?_
  refine g_bVr (pc := 18) (y := yX1_change) (ws := ws_ yX1_change cX1_change 1 (some (.object "FlareSlopes$State"))) (fr := 8) (lo := 185) (as := []) (st := []) (g_no) rfl (fun _ _ _ e => tX1_change hs e) (fun K _ _ _ hq hM R e1 e2 => g_runV (M := mX1_trust) (pc := 18) (y := yX1_change) (bytes := cX1_change) (maxL := 1) (ret := (some (.object "FlareSlopes$State"))) (fr := 8) (lo := 185) (as := []) (st := []) hq (C := "FlareSlopes") rfl gy_X1_change (gbl rfl) (gbl rfl) (gbl rfl) q3752 q3754 qs52 dX1_trust_18 K hM R e1 e2) fun v7 h8 => ?_
  refine g_iload_n (pc := 21) (x := a1) 1 rfl rfl dX1_trust_21 ?_
  refine g_bVr (pc := 22) (y := yX3_cabin) (ws := ws_ yX3_cabin cX3_cabin 2 (some (.object "FlareSlopes$Cabin"))) (fr := 3) (lo := 64) (as := [gi a1]) (st := []) (g_no) rfl (fun _ _ _ e => tX3_cabin hs e) (fun K _ _ _ hq hM R e1 e2 => g_runV (M := mX1_trust) (pc := 22) (y := yX3_cabin) (bytes := cX3_cabin) (maxL := 2) (ret := (some (.object "FlareSlopes$Cabin"))) (fr := 3) (lo := 64) (as := [gi a1]) (st := []) hq (C := "FlareSlopes$State") rfl gy_X3_cabin (gbl rfl) (gbl rfl) (gbl rfl) q1738 q1639 q1640 dX1_trust_22 K hM R e1 e2) fun v9 h10 => ?_
  refine g_astore (pc := 25) (lv' := [(4, gr v9), (2, gi a2)]) [0, 3] rfl (gblt rfl) dX1_trust_25 ?_
  refine g_aload (pc := 27) (x := v9) 0 rfl dX1_trust_27 ?_
  refine g_iload_n (pc := 29) (x := a2) 1 rfl rfl dX1_trust_29 ?_
  refine g_bVu (pc := 30) (y := yX12_trusts) (ws := ws_ yX12_trusts cX12_trusts 2 none) (fr := 1) (lo := 21) (as := [gi a2]) (st := []) (g_no) rfl (fun _ _ _ e => tX12_trusts hs e) (fun K _ _ _ hq hM R e1 e2 => g_runV (M := mX1_trust) (pc := 30) (y := yX12_trusts) (bytes := cX12_trusts) (maxL := 2) (ret := none) (fr := 1) (lo := 21) (as := [gi a2]) (st := []) hq (C := "FlareSlopes$Cabin") rfl gy_X12_trusts (gbl rfl) (gbl rfl) (gbl rfl) q3879 q3789 q3790 dX1_trust_30 K hM R e1 e2) fun v11 h12 => ?_
  refine g_aload (pc := 33) (x := v9) 0 rfl dX1_trust_33 ?_
  refine g_getfi (pc := 35) k_7 (gblt rfl) lk_X1_288_7 dX1_trust_35 fun v13 => ?_
  exact g_ireturn (pc := 38) rfl dX1_trust_38
/-! FlareSlopesLaw.trust(LFlareSlopes;II[J)I -/
noncomputable def sX0_trust (G : GG) (N : Nat) (a0 : Option Nat) (a1 : Int32) (a2 : Int32) (a3 : Option Nat) (h : Hp) : Out (Int32) :=
  bVX h a0 3 (fun q4 => sX1_trust G N (some q4) a1 a2 h) (fun v1 h2 =>
  gSl G h2 a3 3 (0 : Int32) (v1.toInt64) fun h3 =>
  some (.inl (0 : Int32), h3)) fun q5 h6 =>
  gSw h6 (some q5) 0 (some (.inl (1 : Int32), h6)) (gSw h6 (some q5) 1 (some (.inl (3 : Int32), h6)) (gSw h6 (some q5) 2 (some (.inl (2 : Int32), h6)) (none)))
abbrev mX0_trust : MI := (RX0, cX0_trust, 5, (some .int), [(0, 10, 13, 21), (0, 10, 17, 13), (0, 10, 21, 15)], 10, 229, "trust")
theorem tX0_trust {G : GG} {l : Launch} (hs : l.stackTraces = false) {N : Nat} {a0 : Option Nat} {a1 : Int32} {a2 : Int32} {a3 : Option Nat} {h : Hp} {r : Int32 ⊕ Nat} {hf : Hp} (ho : sX0_trust G N a0 a1 a2 a3 h = some (r, hf)) : gMet G l yX0_trust (wsW_ yX0_trust cX0_trust 5 (some .int) [(0, 10, 13, 21), (0, 10, 17, 13), (0, 10, 21, 15)]) 10 229 [gr a0, gi a1, gi a2, gr a3] h cvI r hf := by
  refine gMet.ofW ho hs (plainFor_of_name pn_X0) rfl rfl (gbl rfl) fun X => ?_
  show gT G l X mX0_trust cvI r hf 0 [(0, gr a0), (1, gi a1), (2, gi a2), (3, gr a3)] [] h (sX0_trust G N a0 a1 a2 a3 h)
  delta sX0_trust
  refine g_aload_n (pc := 0) (x := a3) 3 rfl rfl dX0_trust_0 ?_
  refine g_iconst (pc := 1) (v := (0 : Int32)) ic_0 dX0_trust_1 ?_
  refine g_aload_n (pc := 2) (x := a0) 0 rfl rfl dX0_trust_2 ?_
  refine g_iload_n (pc := 3) (x := a1) 1 rfl rfl dX0_trust_3 ?_
  refine g_iload_n (pc := 4) (x := a2) 2 rfl rfl dX0_trust_4 ?_
  refine g_bVXi (pc := 5) (y := yX1_trust) (ws := ws_ yX1_trust cX1_trust 5 (some .int)) (fr := 9) (lo := 205) (as := [gi a1, gi a2]) (st := [gi (0 : Int32), gr a3]) rfl (fun _ _ _ e => tX1_trust hs e) (fun K _ _ _ hq hM R e1 e2 => g_runV (M := mX0_trust) (pc := 5) (y := yX1_trust) (bytes := cX1_trust) (maxL := 5) (ret := (some .int)) (fr := 9) (lo := 205) (as := [gi a1, gi a2]) (st := [gi (0 : Int32), gr a3]) hq (C := "FlareSlopes") rfl gy_X1_trust (gbl rfl) (gbl rfl) (gbl rfl) q3875 q3876 q3877 dX0_trust_5 K hM R e1 e2) (fun v1 h2 => ?_) (fun q5 h6 => ?_)
  · refine g_i2l (pc := 8) dX0_trust_8 ?_
    refine g_lastore (pc := 9) rfl dX0_trust_9 fun h3 => ?_
    refine g_goto (pc := 10) (tgt := 25) rfl dX0_trust_10 ?_
    refine g_iconst (pc := 25) (v := (0 : Int32)) ic_0 dX0_trust_25 ?_
    exact g_ireturn (pc := 26) rfl dX0_trust_26
  refine g_catch (E := "java/lang/IllegalStateException") [] ⟨0, 10, 13, 21⟩ [⟨0, 10, 17, 13⟩, ⟨0, 10, 21, 15⟩] rfl rfl (List.forall_mem_nil _) (by decide +kernel) (by decide +kernel) q1425 q1439 ?_ ?_
  · refine g_astore (pc := 13) (lv' := []) [] rfl (gblt rfl) dX0_trust_13 ?_
    refine g_iconst (pc := 15) (v := (1 : Int32)) ic_1 dX0_trust_15 ?_
    exact g_ireturn (pc := 16) rfl dX0_trust_16
  refine g_catch (E := "java/lang/IllegalArgumentException") [⟨0, 10, 13, 21⟩, ⟨0, 10, 17, 13⟩] ⟨0, 10, 21, 15⟩ [] rfl rfl (List.forall_mem_cons.mpr ⟨Or.inr ⟨by decide +kernel, _, q1425, ncl_java_lang_IllegalArgumentException_java_lang_IllegalStateException⟩, List.forall_mem_cons.mpr ⟨Or.inr ⟨by decide +kernel, _, q325, ncl_java_lang_IllegalArgumentException_java_lang_IndexOutOfBoundsException⟩, List.forall_mem_nil _⟩⟩) (by decide +kernel) (by decide +kernel) q404 q751 ?_ ?_
  · refine g_astore (pc := 21) (lv' := []) [] rfl (gblt rfl) dX0_trust_21 ?_
    refine g_iconst (pc := 23) (v := (3 : Int32)) ic_3 dX0_trust_23 ?_
    exact g_ireturn (pc := 24) rfl dX0_trust_24
  refine g_catch (E := "java/lang/IndexOutOfBoundsException") [⟨0, 10, 13, 21⟩] ⟨0, 10, 17, 13⟩ [⟨0, 10, 21, 15⟩] rfl rfl (List.forall_mem_cons.mpr ⟨Or.inr ⟨by decide +kernel, _, q1425, ncl_java_lang_IndexOutOfBoundsException_java_lang_IllegalStateException⟩, List.forall_mem_nil _⟩) (by decide +kernel) (by decide +kernel) q325 q418 ?_ ?_
  · refine g_astore (pc := 17) (lv' := []) [] rfl (gblt rfl) dX0_trust_17 ?_
    refine g_iconst (pc := 19) (v := (2 : Int32)) ic_2 dX0_trust_19 ?_
    exact g_ireturn (pc := 20) rfl dX0_trust_20
  exact g_noneX
