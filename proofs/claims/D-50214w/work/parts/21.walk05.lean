set_option maxRecDepth 100000
set_option maxHeartbeats 4000000
/-! FlareSlopesLaw.disputes(LFlareSlopes;I[J)I -/
noncomputable def sX0_disputes (G : GG) (N : Nat) (a0 : Option Nat) (a1 : Int32) (a2 : Option Nat) (h : Hp) : Out (Int32) :=
  bVX h a0 3 (fun q4 => sX1_disputes G N (some q4) a1 h) (fun v1 h2 =>
  gSl G h2 a2 3 (0 : Int32) (v1.toInt64) fun h3 =>
  some (.inl (0 : Int32), h3)) fun q5 h6 =>
  gSw h6 (some q5) 0 (some (.inl (1 : Int32), h6)) (gSw h6 (some q5) 2 (some (.inl (2 : Int32), h6)) (none))
abbrev mX0_disputes : MI := (RX0, cX0_disputes, 4, (some .int), [(0, 9, 12, 21), (0, 9, 15, 13)], 10, 186, "disputes")
theorem tX0_disputes {G : GG} {l : Launch} (hs : l.stackTraces = false) {N : Nat} {a0 : Option Nat} {a1 : Int32} {a2 : Option Nat} {h : Hp} {r : Int32 ⊕ Nat} {hf : Hp} (ho : sX0_disputes G N a0 a1 a2 h = some (r, hf)) : gMet G l yX0_disputes (wsW_ yX0_disputes cX0_disputes 4 (some .int) [(0, 9, 12, 21), (0, 9, 15, 13)]) 10 186 [gr a0, gi a1, gr a2] h cvI r hf := by
  refine gMet.ofW ho hs (plainFor_of_name pn_X0) rfl rfl (gbl rfl) fun X => ?_
  show gT G l X mX0_disputes cvI r hf 0 [(0, gr a0), (1, gi a1), (2, gr a2)] [] h (sX0_disputes G N a0 a1 a2 h)
  delta sX0_disputes
  refine g_aload_n (pc := 0) (x := a2) 2 rfl rfl dX0_disputes_0 ?_
  refine g_iconst (pc := 1) (v := (0 : Int32)) ic_0 dX0_disputes_1 ?_
  refine g_aload_n (pc := 2) (x := a0) 0 rfl rfl dX0_disputes_2 ?_
  refine g_iload_n (pc := 3) (x := a1) 1 rfl rfl dX0_disputes_3 ?_
  refine g_bVXi (pc := 4) (y := yX1_disputes) (ws := ws_ yX1_disputes cX1_disputes 7 (some .int)) (fr := 9) (lo := 160) (as := [gi a1]) (st := [gi (0 : Int32), gr a2]) rfl (fun _ _ _ e => tX1_disputes hs e) (fun K _ _ _ hq hM R e1 e2 => g_runV (M := mX0_disputes) (pc := 4) (y := yX1_disputes) (bytes := cX1_disputes) (maxL := 7) (ret := (some .int)) (fr := 9) (lo := 160) (as := [gi a1]) (st := [gi (0 : Int32), gr a2]) hq (C := "FlareSlopes") rfl gy_X1_disputes (gbl rfl) (gbl rfl) (gbl rfl) q3265 q3266 q3267 dX0_disputes_4 K hM R e1 e2) (fun v1 h2 => ?_) (fun q5 h6 => ?_)
  · refine g_i2l (pc := 7) dX0_disputes_7 ?_
    refine g_lastore (pc := 8) rfl dX0_disputes_8 fun h3 => ?_
    refine g_goto (pc := 9) (tgt := 18) rfl dX0_disputes_9 ?_
    refine g_iconst (pc := 18) (v := (0 : Int32)) ic_0 dX0_disputes_18 ?_
    exact g_ireturn (pc := 19) rfl dX0_disputes_19
  refine g_catch (E := "java/lang/IllegalStateException") [] ⟨0, 9, 12, 21⟩ [⟨0, 9, 15, 13⟩] rfl rfl (List.forall_mem_nil _) (by decide +kernel) (by decide +kernel) q1425 q1439 ?_ ?_
  · refine g_astore_n (pc := 12) (lv' := []) [] rfl rfl (gblt rfl) dX0_disputes_12 ?_
    refine g_iconst (pc := 13) (v := (1 : Int32)) ic_1 dX0_disputes_13 ?_
    exact g_ireturn (pc := 14) rfl dX0_disputes_14
  refine g_catch (E := "java/lang/IndexOutOfBoundsException") [⟨0, 9, 12, 21⟩] ⟨0, 9, 15, 13⟩ [] rfl rfl (List.forall_mem_cons.mpr ⟨Or.inr ⟨by decide +kernel, _, q1425, ncl_java_lang_IndexOutOfBoundsException_java_lang_IllegalStateException⟩, List.forall_mem_nil _⟩) (by decide +kernel) (by decide +kernel) q325 q418 ?_ ?_
  · refine g_astore_n (pc := 15) (lv' := []) [] rfl rfl (gblt rfl) dX0_disputes_15 ?_
    refine g_iconst (pc := 16) (v := (2 : Int32)) ic_2 dX0_disputes_16 ?_
    exact g_ireturn (pc := 17) rfl dX0_disputes_17
  exact g_noneX
/-! FlareSlopesModel.disputes(I)I -/
noncomputable def bX2_disputes_14 (G : GG) (N : Nat) (a0 : Option Nat) (a1 : Int32) (w5 : (Int32 × Int32) → Hp → Out (Int32)) (x3 : Int32 × Int32) (h4 : Hp) : Out (Int32) :=
  gFr h4 a0 18 1 fun v6 =>
  gAi h4 v6 0 (7 : Int32) fun v7 =>
  if v7 ≤ x3.2 then (some (.inl x3.1, h4))
  else bV h4 a0 18 (fun q20 => sX2_hasVote G N (some q20) a1 x3.2 (1 : Int32) h4) fun v8 h9 =>
  gJ (fun (x10 : Int32) (h11 : Hp) =>
  gLet (x3.1 ||| x10) fun v13 =>
  w5 (v13, x3.2 + (1 : Int32)) h11) fun j12 =>
  gJ (fun (x14 : Unit) (h15 : Hp) =>
  j12 (0 : Int32) h15) fun j16 =>
  if v8 = 0 then (j16 () h9)
  else bV h9 a0 18 (fun q19 => sX2_hasVote G N (some q19) a1 x3.2 (0 : Int32) h9) fun v17 h18 =>
  if v17 = 0 then (j16 () h18)
  else j12 ((1 : Int32) <<< (x3.2 &&& 31)) h18
noncomputable def sX2_disputes (G : GG) (N : Nat) (a0 : Option Nat) (a1 : Int32) (h : Hp) : Out (Int32) :=
  bV h a0 18 (fun q21 => sX2_mayCabin G N (some q21) a1 h) fun v1 h2 =>
  if v1 = 0 then (some (.inl (0 : Int32), h2))
  else gLp (bX2_disputes_14 G N a0 a1) N ((0 : Int32), (0 : Int32)) h2
abbrev mX2_disputes : MI := (RX2, cX2_disputes, 4, (some .int), [], 3, 70, "disputes")
theorem tX2_disputes {G : GG} {l : Launch} (hs : l.stackTraces = false) {N : Nat} {a0 : Option Nat} {a1 : Int32} {h : Hp} {r : Int32 ⊕ Nat} {hf : Hp} (ho : sX2_disputes G N a0 a1 h = some (r, hf)) : gMet G l yX2_disputes (ws_ yX2_disputes cX2_disputes 4 (some .int)) 3 70 [gr a0, gi a1] h cvI r hf := by
  refine gMet.of ho hs (plainFor_of_name pn_X2) rfl rfl (gbl rfl) fun X => ?_
  show gT G l X mX2_disputes cvI r hf 0 [(0, gr a0), (1, gi a1)] [] h (sX2_disputes G N a0 a1 h)
  delta sX2_disputes
  refine g_aload_n (pc := 0) (x := a0) 0 rfl rfl dX2_disputes_0 ?_
  refine g_iload_n (pc := 1) (x := a1) 1 rfl rfl dX2_disputes_1 ?_
  refine g_bVi (pc := 2) (y := yX2_mayCabin) (ws := ws_ yX2_mayCabin cX2_mayCabin 2 (some .boolean)) (fr := 2) (lo := 45) (as := [gi a1]) (st := []) (g_no) rfl (fun _ _ _ e => tX2_mayCabin hs e) (fun K _ _ _ hq hM R e1 e2 => g_runV (M := mX2_disputes) (pc := 2) (y := yX2_mayCabin) (bytes := cX2_mayCabin) (maxL := 2) (ret := (some .boolean)) (fr := 2) (lo := 45) (as := [gi a1]) (st := []) hq (C := "FlareSlopesModel") rfl gy_X2_mayCabin (gbl rfl) (gbl rfl) (gbl rfl) q4324 q4326 qs105 dX2_disputes_2 K hM R e1 e2) fun v1 h2 => ?_
  refine g_if_ne (pc := 5) (tgt := 10) rfl dX2_disputes_5 ?_ ?_
  · refine g_iconst (pc := 8) (v := (0 : Int32)) ic_0 dX2_disputes_8 ?_
    exact g_ireturn (pc := 9) rfl dX2_disputes_9
  refine g_iconst (pc := 10) (v := (0 : Int32)) ic_0 dX2_disputes_10 ?_
  refine g_istore_n (pc := 11) (lv' := [(2, gi (0 : Int32)), (0, gr a0), (1, gi a1)]) [0, 1, 2] rfl rfl (gblt rfl) dX2_disputes_11 ?_
  refine g_iconst (pc := 12) (v := (0 : Int32)) ic_0 dX2_disputes_12 ?_
  refine g_istore_n (pc := 13) (lv' := [(3, gi (0 : Int32)), (2, gi (0 : Int32)), (0, gr a0), (1, gi a1)]) [0, 1, 2, 3] rfl rfl (gblt rfl) dX2_disputes_13 ?_
  refine g_sub (lv' := [(0, gr a0), (1, gi a1), (2, gi (0 : Int32)), (3, gi (0 : Int32))]) [2, 3, 1, 0] rfl ?_
  refine g_loop (pc := 14) (fun (x3 : Int32 × Int32) => [(0, gr a0), (1, gi a1), (2, gi x3.1), (3, gi x3.2)]) (fun (_ : Int32 × Int32) => []) (fun w5 Hw5 x3 h4 => ?_) N ((0 : Int32), (0 : Int32)) h2
  delta bX2_disputes_14
  refine g_iload_n (pc := 14) (x := x3.2) 3 rfl rfl dX2_disputes_14 ?_
  refine g_aload_n (pc := 15) (x := a0) 0 rfl rfl dX2_disputes_15 ?_
  refine g_getfr (pc := 16) k_18 (gblt rfl) lk_X2_9_18 dX2_disputes_16 fun v6 => ?_
  refine g_bipush (pc := 19) (v := (7 : Int32)) bc_7 dX2_disputes_19 ?_
  refine g_iaload (pc := 21) rfl dX2_disputes_21 fun v7 => ?_
  refine g_icmp_ge (pc := 22) (tgt := 61) rfl dX2_disputes_22 ?_ ?_
  · refine g_iload_n (pc := 61) (x := x3.1) 2 rfl rfl dX2_disputes_61 ?_
    exact g_ireturn (pc := 62) rfl dX2_disputes_62
  refine g_iload_n (pc := 25) (x := x3.1) 2 rfl rfl dX2_disputes_25 ?_
  refine g_aload_n (pc := 26) (x := a0) 0 rfl rfl dX2_disputes_26 ?_
  refine g_iload_n (pc := 27) (x := a1) 1 rfl rfl dX2_disputes_27 ?_
  refine g_iload_n (pc := 28) (x := x3.2) 3 rfl rfl dX2_disputes_28 ?_
  refine g_iconst (pc := 29) (v := (1 : Int32)) ic_1 dX2_disputes_29 ?_
  refine g_bVi (pc := 30) (y := yX2_hasVote) (ws := ws_ yX2_hasVote cX2_hasVote 6 (some .boolean)) (fr := 2) (lo := 45) (as := [gi a1, gi x3.2, gi (1 : Int32)]) (st := [gi x3.1]) (g_no) rfl (fun _ _ _ e => tX2_hasVote hs e) (fun K _ _ _ hq hM R e1 e2 => g_runV (M := mX2_disputes) (pc := 30) (y := yX2_hasVote) (bytes := cX2_hasVote) (maxL := 6) (ret := (some .boolean)) (fr := 2) (lo := 45) (as := [gi a1, gi x3.2, gi (1 : Int32)]) (st := [gi x3.1]) hq (C := "FlareSlopesModel") rfl gy_X2_hasVote (gbl rfl) (gbl rfl) (gbl rfl) q4237 q4239 qs92 dX2_disputes_30 K hM R e1 e2) fun v8 h9 => ?_
  refine g_join 53 (fun (x10 : Int32) => [(0, gr a0), (1, gi a1), (3, gi x3.2)]) (fun (x10 : Int32) => [gi x10, gi x3.1]) (fun x10 h11 => ?_) (fun j12 Hj12 => ?_)
  · refine g_ior (pc := 53) dX2_disputes_53 ?_
    refine g_leti fun v13 => ?_
    refine g_istore_n (pc := 54) (lv' := [(2, gi v13), (0, gr a0), (1, gi a1), (3, gi x3.2)]) [0, 1, 2, 3] rfl rfl (gblt rfl) dX2_disputes_54 ?_
    refine g_iinc (pc := 55) (v := x3.2 + (1 : Int32)) 3 rfl (ii_1 _) (lv' := [(3, gi (x3.2 + (1 : Int32))), (2, gi v13), (0, gr a0), (1, gi a1)]) [0, 1, 2, 3] rfl (gblt rfl) dX2_disputes_55 ?_
    refine g_goto (pc := 58) (tgt := 14) rfl dX2_disputes_58 ?_
    exact g_sub [2, 3, 1, 0] rfl (Hw5 (v13, x3.2 + (1 : Int32)) h11)
  refine g_join 52 (fun (x14 : Unit) => [(0, gr a0), (1, gi a1), (3, gi x3.2)]) (fun (x14 : Unit) => [gi x3.1]) (fun x14 h15 => ?_) (fun j16 Hj16 => ?_)
  · refine g_iconst (pc := 52) (v := (0 : Int32)) ic_0 dX2_disputes_52 ?_
    exact Hj12 (0 : Int32) h15
  refine g_if_eq (pc := 33) (tgt := 52) rfl dX2_disputes_33 ?_ ?_
  · exact g_sub [0, 1, 3] rfl (Hj16 () h9)
  refine g_aload_n (pc := 36) (x := a0) 0 rfl rfl dX2_disputes_36 ?_
  refine g_iload_n (pc := 37) (x := a1) 1 rfl rfl dX2_disputes_37 ?_
  refine g_iload_n (pc := 38) (x := x3.2) 3 rfl rfl dX2_disputes_38 ?_
  refine g_iconst (pc := 39) (v := (0 : Int32)) ic_0 dX2_disputes_39 ?_
  refine g_bVi (pc := 40) (y := yX2_hasVote) (ws := ws_ yX2_hasVote cX2_hasVote 6 (some .boolean)) (fr := 2) (lo := 45) (as := [gi a1, gi x3.2, gi (0 : Int32)]) (st := [gi x3.1]) (g_no) rfl (fun _ _ _ e => tX2_hasVote hs e) (fun K _ _ _ hq hM R e1 e2 => g_runV (M := mX2_disputes) (pc := 40) (y := yX2_hasVote) (bytes := cX2_hasVote) (maxL := 6) (ret := (some .boolean)) (fr := 2) (lo := 45) (as := [gi a1, gi x3.2, gi (0 : Int32)]) (st := [gi x3.1]) hq (C := "FlareSlopesModel") rfl gy_X2_hasVote (gbl rfl) (gbl rfl) (gbl rfl) q4237 q4239 qs92 dX2_disputes_40 K hM R e1 e2) fun v17 h18 => ?_
  refine g_if_eq (pc := 43) (tgt := 52) rfl dX2_disputes_43 ?_ ?_
  · exact g_sub [0, 1, 3] rfl (Hj16 () h18)
  refine g_iconst (pc := 46) (v := (1 : Int32)) ic_1 dX2_disputes_46 ?_
  refine g_iload_n (pc := 47) (x := x3.2) 3 rfl rfl dX2_disputes_47 ?_
  refine g_ishl (pc := 48) dX2_disputes_48 ?_
  refine g_goto (pc := 49) (tgt := 53) rfl dX2_disputes_49 ?_
  exact g_sub [0, 1, 3] rfl (Hj12 ((1 : Int32) <<< (x3.2 &&& 31)) h18)
/-! FlareSlopes$Judge.<init>()V -/
noncomputable def sX14_init_c5 (G : GG) (N : Nat) (a0 : Option Nat) (h : Hp) : Out (Unit) :=
  gNN a0 (some (.inl (), h))
abbrev mX14_init_c5 : MI := (RX14, cX14_init, 1, none, [], 1, 12, "<init>")
theorem tX14_init_c5 {G : GG} {l : Launch} (hs : l.stackTraces = false) {N : Nat} {a0 : Option Nat} {h : Hp} {r : Unit ⊕ Nat} {hf : Hp} (ho : sX14_init_c5 G N a0 h = some (r, hf)) : gMet G l yX14_init (ws_ yX14_init cX14_init 1 none) 1 12 [gr a0] h cvU r hf := by
  refine gMet.of ho hs (plainFor_of_name pn_X14) rfl rfl (gbl rfl) fun X => ?_
  show gT G l X mX14_init_c5 cvU r hf 0 [(0, gr a0)] [] h (sX14_init_c5 G N a0 h)
  delta sX14_init_c5
  refine g_aload_n (pc := 0) (x := a0) 0 rfl rfl dX14_init_0 ?_
  refine g_objInit' (pc := 1) q1984 oi_in oi_code (gbl rfl) (gbl rfl) dX14_init_1 ?_
  exact g_return (pc := 4) rfl dX14_init_4
/-! FlareSlopes$2.<init>(LFlareSlopes;)V -/
noncomputable def sX16_init (G : GG) (N : Nat) (a0 : Option Nat) (a1 : Option Nat) (h : Hp) : Out (Unit) :=
  gP G h a0 5 0 (va_rf a1) fun h1 =>
  bI a0 (fun q4 => sX14_init_c5 G N (some q4) h1) fun v2 h3 =>
  some (.inl (), h3)
abbrev mX16_init : MI := (RX16, cX16_init, 2, none, [], 2, 32, "<init>")
theorem tX16_init {G : GG} {l : Launch} (hs : l.stackTraces = false) {N : Nat} {a0 : Option Nat} {a1 : Option Nat} {h : Hp} {r : Unit ⊕ Nat} {hf : Hp} (ho : sX16_init G N a0 a1 h = some (r, hf)) : gMet G l yX16_init (ws_ yX16_init cX16_init 2 none) 2 32 [gr a0, gr a1] h cvU r hf := by
  refine gMet.of ho hs (plainFor_of_name pn_X16) rfl rfl (gbl rfl) fun X => ?_
  show gT G l X mX16_init cvU r hf 0 [(0, gr a0), (1, gr a1)] [] h (sX16_init G N a0 a1 h)
  delta sX16_init
  refine g_aload_n (pc := 0) (x := a0) 0 rfl rfl dX16_init_0 ?_
  refine g_aload_n (pc := 1) (x := a1) 1 rfl rfl dX16_init_1 ?_
  refine g_putFin (pc := 2) k_5 (gblt rfl) lk_X16_1_5 q3393 rfl rfl rfl rfl (gNr _ _) dX16_init_2 fun h1 => ?_
  refine g_aload_n (pc := 5) (x := a0) 0 rfl rfl dX16_init_5 ?_
  refine g_bIu (pc := 6) (y := yX14_init) (ws := ws_ yX14_init cX14_init 1 none) (fr := 1) (lo := 12) (as := []) (st := []) (g_no) rfl (fun _ _ _ e => tX14_init_c5 hs e) (fun K _ _ _ hM R e1 e2 => g_runIN (M := mX16_init) (pc := 6) (y := yX14_init) (bytes := cX14_init) (maxL := 1) (ret := none) (fr := 1) (lo := 12) (as := []) (st := []) gy_X14_init (gbl rfl) (gbl rfl) (gbl rfl) rfl q3392 q1982 rfl dX16_init_6 K hM R e1 e2) fun v2 h3 => ?_
  exact g_return (pc := 9) rfl dX16_init_9
/-! FlareSlopes.falseVotes(I)I -/
noncomputable def sX1_falseVotes (G : GG) (N : Nat) (a0 : Option Nat) (a1 : Int32) (h : Hp) : Out (Int32) :=
  bV h a0 3 (fun q12 => sX1_withCabin G N (some q12) a1 h) fun v1 h2 =>
  gFr h2 a0 3 4 fun v3 =>
  gNew h2 5 [.null] 1 fun v4 h5 =>
  bI v4 (fun q11 => sX16_init G N (some q11) a0 h5) fun v6 h7 =>
  bV h7 v3 16 (fun q10 => sX3_votesOf G N (some q10) a1 v4 h7) fun v8 h9 =>
  some (.inl v8, h9)
abbrev mX1_falseVotes : MI := (RX1, cX1_falseVotes, 3, (some .int), [], 9, 142, "falseVotes")
theorem tX1_falseVotes {G : GG} {l : Launch} (hs : l.stackTraces = false) {N : Nat} {a0 : Option Nat} {a1 : Int32} {h : Hp} {r : Int32 ⊕ Nat} {hf : Hp} (ho : sX1_falseVotes G N a0 a1 h = some (r, hf)) : gMet G l yX1_falseVotes (ws_ yX1_falseVotes cX1_falseVotes 3 (some .int)) 9 142 [gr a0, gi a1] h cvI r hf := by
  refine gMet.of ho hs (plainFor_of_name pn_X1) rfl rfl (gbl rfl) fun X => ?_
  show gT G l X mX1_falseVotes cvI r hf 0 [(0, gr a0), (1, gi a1)] [] h (sX1_falseVotes G N a0 a1 h)
  delta sX1_falseVotes
  refine g_aload_n (pc := 0) (x := a0) 0 rfl rfl dX1_falseVotes_0 ?_
  refine g_iload_n (pc := 1) (x := a1) 1 rfl rfl dX1_falseVotes_1 ?_
  refine g_bVr (pc := 2) (y := yX1_withCabin) (ws := ws_ yX1_withCabin cX1_withCabin 2 (some (.object "FlareSlopes$Cabin"))) (fr := 8) (lo := 121) (as := [gi a1]) (st := []) (g_no) rfl (fun _ _ _ e => tX1_withCabin hs e) (fun K _ _ _ hq hM R e1 e2 => g_runV (M := mX1_falseVotes) (pc := 2) (y := yX1_withCabin) (bytes := cX1_withCabin) (maxL := 2) (ret := (some (.object "FlareSlopes$Cabin"))) (fr := 8) (lo := 121) (as := [gi a1]) (st := []) hq (C := "FlareSlopes") rfl gy_X1_withCabin (gbl rfl) (gbl rfl) (gbl rfl) q1968 q1970 qs22 dX1_falseVotes_2 K hM R e1 e2) fun v1 h2 => ?_
  refine g_astore_n (pc := 5) (lv' := [(0, gr a0), (1, gi a1)]) [1, 2] rfl rfl (gblt rfl) dX1_falseVotes_5 ?_
  refine g_aload_n (pc := 6) (x := a0) 0 rfl rfl dX1_falseVotes_6 ?_
  refine g_getfr (pc := 7) k_3 (gblt rfl) lk_X1_56_3 dX1_falseVotes_7 fun v3 => ?_
  refine g_iload_n (pc := 10) (x := a1) 1 rfl rfl dX1_falseVotes_10 ?_
  refine g_new (pc := 11) k_5 df_5 q3387 q3388 q197 dX1_falseVotes_11 fun v4 h5 => ?_
  refine g_dup (pc := 14) rfl dX1_falseVotes_14 ?_
  refine g_aload_n (pc := 15) (x := a0) 0 rfl rfl dX1_falseVotes_15 ?_
  refine g_bIu (pc := 16) (y := yX16_init) (ws := ws_ yX16_init cX16_init 2 none) (fr := 2) (lo := 32) (as := [gr a0]) (st := [gr v4, gi a1, gr v3]) (g_no) rfl (fun _ _ _ e => tX16_init hs e) (fun K _ _ _ hM R e1 e2 => g_runI (M := mX1_falseVotes) (pc := 16) (y := yX16_init) (bytes := cX16_init) (maxL := 2) (ret := none) (fr := 2) (lo := 32) (as := [gr a0]) (st := [gr v4, gi a1, gr v3]) gy_X16_init (gbl rfl) (gbl rfl) (gbl rfl) rfl q3389 q3390 rfl dX1_falseVotes_16 K hM R e1 e2) fun v6 h7 => ?_
  refine g_bVi (pc := 19) (y := yX3_votesOf) (ws := ws_ yX3_votesOf cX3_votesOf 7 (some .int)) (fr := 5) (lo := 110) (as := [gi a1, gr v4]) (st := []) (g_no) rfl (fun _ _ _ e => tX3_votesOf hs e) (fun K _ _ _ hq hM R e1 e2 => g_runV (M := mX1_falseVotes) (pc := 19) (y := yX3_votesOf) (bytes := cX3_votesOf) (maxL := 7) (ret := (some .int)) (fr := 5) (lo := 110) (as := [gi a1, gr v4]) (st := []) hq (C := "FlareSlopes$State") rfl gy_X3_votesOf (gbl rfl) (gbl rfl) (gbl rfl) q1989 q1990 q1991 dX1_falseVotes_19 K hM R e1 e2) fun v8 h9 => ?_
  exact g_ireturn (pc := 22) rfl dX1_falseVotes_22
/-! FlareSlopesLaw.falseVotes(LFlareSlopes;I[J)I -/
noncomputable def sX0_falseVotes (G : GG) (N : Nat) (a0 : Option Nat) (a1 : Int32) (a2 : Option Nat) (h : Hp) : Out (Int32) :=
  bVX h a0 3 (fun q4 => sX1_falseVotes G N (some q4) a1 h) (fun v1 h2 =>
  gSl G h2 a2 3 (0 : Int32) (v1.toInt64) fun h3 =>
  some (.inl (0 : Int32), h3)) fun q5 h6 =>
  gSw h6 (some q5) 0 (some (.inl (1 : Int32), h6)) (gSw h6 (some q5) 2 (some (.inl (2 : Int32), h6)) (none))
abbrev mX0_falseVotes : MI := (RX0, cX0_falseVotes, 4, (some .int), [(0, 9, 12, 21), (0, 9, 15, 13)], 10, 164, "falseVotes")
theorem tX0_falseVotes {G : GG} {l : Launch} (hs : l.stackTraces = false) {N : Nat} {a0 : Option Nat} {a1 : Int32} {a2 : Option Nat} {h : Hp} {r : Int32 ⊕ Nat} {hf : Hp} (ho : sX0_falseVotes G N a0 a1 a2 h = some (r, hf)) : gMet G l yX0_falseVotes (wsW_ yX0_falseVotes cX0_falseVotes 4 (some .int) [(0, 9, 12, 21), (0, 9, 15, 13)]) 10 164 [gr a0, gi a1, gr a2] h cvI r hf := by
  refine gMet.ofW ho hs (plainFor_of_name pn_X0) rfl rfl (gbl rfl) fun X => ?_
  show gT G l X mX0_falseVotes cvI r hf 0 [(0, gr a0), (1, gi a1), (2, gr a2)] [] h (sX0_falseVotes G N a0 a1 a2 h)
  delta sX0_falseVotes
  refine g_aload_n (pc := 0) (x := a2) 2 rfl rfl dX0_falseVotes_0 ?_
  refine g_iconst (pc := 1) (v := (0 : Int32)) ic_0 dX0_falseVotes_1 ?_
  refine g_aload_n (pc := 2) (x := a0) 0 rfl rfl dX0_falseVotes_2 ?_
  refine g_iload_n (pc := 3) (x := a1) 1 rfl rfl dX0_falseVotes_3 ?_
  refine g_bVXi (pc := 4) (y := yX1_falseVotes) (ws := ws_ yX1_falseVotes cX1_falseVotes 3 (some .int)) (fr := 9) (lo := 142) (as := [gi a1]) (st := [gi (0 : Int32), gr a2]) rfl (fun _ _ _ e => tX1_falseVotes hs e) (fun K _ _ _ hq hM R e1 e2 => g_runV (M := mX0_falseVotes) (pc := 4) (y := yX1_falseVotes) (bytes := cX1_falseVotes) (maxL := 3) (ret := (some .int)) (fr := 9) (lo := 142) (as := [gi a1]) (st := [gi (0 : Int32), gr a2]) hq (C := "FlareSlopes") rfl gy_X1_falseVotes (gbl rfl) (gbl rfl) (gbl rfl) q3383 q3384 q3385 dX0_falseVotes_4 K hM R e1 e2) (fun v1 h2 => ?_) (fun q5 h6 => ?_)
  · refine g_i2l (pc := 7) dX0_falseVotes_7 ?_
    refine g_lastore (pc := 8) rfl dX0_falseVotes_8 fun h3 => ?_
    refine g_goto (pc := 9) (tgt := 18) rfl dX0_falseVotes_9 ?_
    refine g_iconst (pc := 18) (v := (0 : Int32)) ic_0 dX0_falseVotes_18 ?_
    exact g_ireturn (pc := 19) rfl dX0_falseVotes_19
  refine g_catch (E := "java/lang/IllegalStateException") [] ⟨0, 9, 12, 21⟩ [⟨0, 9, 15, 13⟩] rfl rfl (List.forall_mem_nil _) (by decide +kernel) (by decide +kernel) q1425 q1439 ?_ ?_
  · refine g_astore_n (pc := 12) (lv' := []) [] rfl rfl (gblt rfl) dX0_falseVotes_12 ?_
    refine g_iconst (pc := 13) (v := (1 : Int32)) ic_1 dX0_falseVotes_13 ?_
    exact g_ireturn (pc := 14) rfl dX0_falseVotes_14
  refine g_catch (E := "java/lang/IndexOutOfBoundsException") [⟨0, 9, 12, 21⟩] ⟨0, 9, 15, 13⟩ [] rfl rfl (List.forall_mem_cons.mpr ⟨Or.inr ⟨by decide +kernel, _, q1425, ncl_java_lang_IndexOutOfBoundsException_java_lang_IllegalStateException⟩, List.forall_mem_nil _⟩) (by decide +kernel) (by decide +kernel) q325 q418 ?_ ?_
  · refine g_astore_n (pc := 15) (lv' := []) [] rfl rfl (gblt rfl) dX0_falseVotes_15 ?_
    refine g_iconst (pc := 16) (v := (2 : Int32)) ic_2 dX0_falseVotes_16 ?_
    exact g_ireturn (pc := 17) rfl dX0_falseVotes_17
  exact g_noneX
/-! FlareSlopesModel.falseVotes(I)I -/
noncomputable def bX2_falseVotes_28 (G : GG) (N : Nat) (a0 : Option Nat) (a1 : Int32) (x3 : Int32 × Int32) (j10 : (Int32) → Hp → Out (Int32)) (w13 : (Int32 × Int32) → Hp → Out (Int32)) (x11 : Int32 × Int32) (h12 : Hp) : Out (Int32) :=
  gFr h12 a0 18 1 fun v14 =>
  gAi h12 v14 0 (7 : Int32) fun v15 =>
  if v15 ≤ x11.2 then (j10 x11.1 h12)
  else bV h12 a0 18 (fun q34 => sX2_voteOf G N (some q34) x3.2 a1 x11.2 h12) fun v16 h17 =>
  gJ (fun (x18 : Int32) (h19 : Hp) =>
  gLet (x11.1 + x18) fun v21 =>
  w13 (v21, x11.2 + (1 : Int32)) h19) fun j20 =>
  gJ (fun (x22 : Unit) (h23 : Hp) =>
  j20 (0 : Int32) h23) fun j24 =>
  if v16 ≤ 0 then (j24 () h17)
  else bV h17 a0 18 (fun q33 => sX2_voteOf G N (some q33) x3.2 a1 x11.2 h17) fun v25 h26 =>
  bnd (sX2_isRed G N v25 h26) fun v27 h28 =>
  gFr h28 a0 18 1 fun v29 =>
  gAi h28 v29 0 (97 : Int32) fun v30 =>
  bnd (sX2_has G N v30 x11.2 h28) fun v31 h32 =>
  if v27 = v31 then (j24 () h32)
  else j20 (1 : Int32) h32
noncomputable def bX2_falseVotes_14 (G : GG) (N : Nat) (a0 : Option Nat) (a1 : Int32) (w5 : (Int32 × Int32) → Hp → Out (Int32)) (x3 : Int32 × Int32) (h4 : Hp) : Out (Int32) :=
  gFr h4 a0 18 1 fun v6 =>
  gAi h4 v6 0 (6 : Int32) fun v7 =>
  if v7 ≤ x3.2 then (some (.inl x3.1, h4))
  else gJ (fun (x8 : Int32) (h9 : Hp) =>
  w5 (x8, x3.2 + (1 : Int32)) h9) fun j10 =>
  gLp (bX2_falseVotes_28 G N a0 a1 x3 j10) N (x3.1, (0 : Int32)) h4
noncomputable def sX2_falseVotes (G : GG) (N : Nat) (a0 : Option Nat) (a1 : Int32) (h : Hp) : Out (Int32) :=
  bV h a0 18 (fun q35 => sX2_mayCabin G N (some q35) a1 h) fun v1 h2 =>
  if v1 = 0 then (some (.inl (0 : Int32), h2))
  else gLp (bX2_falseVotes_14 G N a0 a1) N ((0 : Int32), (0 : Int32)) h2
abbrev mX2_falseVotes : MI := (RX2, cX2_falseVotes, 5, (some .int), [], 3, 66, "falseVotes")
theorem tX2_falseVotes {G : GG} {l : Launch} (hs : l.stackTraces = false) {N : Nat} {a0 : Option Nat} {a1 : Int32} {h : Hp} {r : Int32 ⊕ Nat} {hf : Hp} (ho : sX2_falseVotes G N a0 a1 h = some (r, hf)) : gMet G l yX2_falseVotes (ws_ yX2_falseVotes cX2_falseVotes 5 (some .int)) 3 66 [gr a0, gi a1] h cvI r hf := by
  refine gMet.of ho hs (plainFor_of_name pn_X2) rfl rfl (gbl rfl) fun X => ?_
  show gT G l X mX2_falseVotes cvI r hf 0 [(0, gr a0), (1, gi a1)] [] h (sX2_falseVotes G N a0 a1 h)
  delta sX2_falseVotes
  refine g_aload_n (pc := 0) (x := a0) 0 rfl rfl dX2_falseVotes_0 ?_
  refine g_iload_n (pc := 1) (x := a1) 1 rfl rfl dX2_falseVotes_1 ?_
  refine g_bVi (pc := 2) (y := yX2_mayCabin) (ws := ws_ yX2_mayCabin cX2_mayCabin 2 (some .boolean)) (fr := 2) (lo := 45) (as := [gi a1]) (st := []) (g_no) rfl (fun _ _ _ e => tX2_mayCabin hs e) (fun K _ _ _ hq hM R e1 e2 => g_runV (M := mX2_falseVotes) (pc := 2) (y := yX2_mayCabin) (bytes := cX2_mayCabin) (maxL := 2) (ret := (some .boolean)) (fr := 2) (lo := 45) (as := [gi a1]) (st := []) hq (C := "FlareSlopesModel") rfl gy_X2_mayCabin (gbl rfl) (gbl rfl) (gbl rfl) q4324 q4326 qs105 dX2_falseVotes_2 K hM R e1 e2) fun v1 h2 => ?_
  refine g_if_ne (pc := 5) (tgt := 10) rfl dX2_falseVotes_5 ?_ ?_
  · refine g_iconst (pc := 8) (v := (0 : Int32)) ic_0 dX2_falseVotes_8 ?_
    exact g_ireturn (pc := 9) rfl dX2_falseVotes_9
  refine g_iconst (pc := 10) (v := (0 : Int32)) ic_0 dX2_falseVotes_10 ?_
  refine g_istore_n (pc := 11) (lv' := [(2, gi (0 : Int32)), (0, gr a0), (1, gi a1)]) [0, 1, 2] rfl rfl (gblt rfl) dX2_falseVotes_11 ?_
  refine g_iconst (pc := 12) (v := (0 : Int32)) ic_0 dX2_falseVotes_12 ?_
  refine g_istore_n (pc := 13) (lv' := [(3, gi (0 : Int32)), (2, gi (0 : Int32)), (0, gr a0), (1, gi a1)]) [0, 1, 2, 3] rfl rfl (gblt rfl) dX2_falseVotes_13 ?_
  refine g_sub (lv' := [(0, gr a0), (1, gi a1), (2, gi (0 : Int32)), (3, gi (0 : Int32))]) [2, 3, 1, 0] rfl ?_
  refine g_loop (pc := 14) (fun (x3 : Int32 × Int32) => [(0, gr a0), (1, gi a1), (2, gi x3.1), (3, gi x3.2)]) (fun (_ : Int32 × Int32) => []) (fun w5 Hw5 x3 h4 => ?_) N ((0 : Int32), (0 : Int32)) h2
  delta bX2_falseVotes_14
  refine g_iload_n (pc := 14) (x := x3.2) 3 rfl rfl dX2_falseVotes_14 ?_
  refine g_aload_n (pc := 15) (x := a0) 0 rfl rfl dX2_falseVotes_15 ?_
  refine g_getfr (pc := 16) k_18 (gblt rfl) lk_X2_9_18 dX2_falseVotes_16 fun v6 => ?_
  refine g_bipush (pc := 19) (v := (6 : Int32)) bc_6 dX2_falseVotes_19 ?_
  refine g_iaload (pc := 21) rfl dX2_falseVotes_21 fun v7 => ?_
  refine g_icmp_ge (pc := 22) (tgt := 97) rfl dX2_falseVotes_22 ?_ ?_
  · refine g_iload_n (pc := 97) (x := x3.1) 2 rfl rfl dX2_falseVotes_97 ?_
    exact g_ireturn (pc := 98) rfl dX2_falseVotes_98
  refine g_iconst (pc := 25) (v := (0 : Int32)) ic_0 dX2_falseVotes_25 ?_
  refine g_istore (pc := 26) (lv' := [(4, gi (0 : Int32)), (0, gr a0), (1, gi a1), (2, gi x3.1), (3, gi x3.2)]) [0, 1, 2, 3, 4] rfl (gblt rfl) dX2_falseVotes_26 ?_
  refine g_join 91 (fun (x8 : Int32) => [(0, gr a0), (1, gi a1), (2, gi x8), (3, gi x3.2)]) (fun (x8 : Int32) => []) (fun x8 h9 => ?_) (fun j10 Hj10 => ?_)
  · refine g_iinc (pc := 91) (v := x3.2 + (1 : Int32)) 3 rfl (ii_1 _) (lv' := [(3, gi (x3.2 + (1 : Int32))), (0, gr a0), (1, gi a1), (2, gi x8)]) [0, 1, 2, 3] rfl (gblt rfl) dX2_falseVotes_91 ?_
    refine g_goto (pc := 94) (tgt := 14) rfl dX2_falseVotes_94 ?_
    exact g_sub [1, 2, 3, 0] rfl (Hw5 (x8, x3.2 + (1 : Int32)) h9)
  refine g_sub (lv' := [(0, gr a0), (1, gi a1), (2, gi x3.1), (3, gi x3.2), (4, gi (0 : Int32))]) [1, 2, 3, 4, 0] rfl ?_
  refine g_loop (pc := 28) (fun (x11 : Int32 × Int32) => [(0, gr a0), (1, gi a1), (2, gi x11.1), (3, gi x3.2), (4, gi x11.2)]) (fun (_ : Int32 × Int32) => []) (fun w13 Hw13 x11 h12 => ?_) N (x3.1, (0 : Int32)) h4
  delta bX2_falseVotes_28
  refine g_iload (pc := 28) (x := x11.2) 4 rfl dX2_falseVotes_28 ?_
  refine g_aload_n (pc := 30) (x := a0) 0 rfl rfl dX2_falseVotes_30 ?_
  refine g_getfr (pc := 31) k_18 (gblt rfl) lk_X2_9_18 dX2_falseVotes_31 fun v14 => ?_
  refine g_bipush (pc := 34) (v := (7 : Int32)) bc_7 dX2_falseVotes_34 ?_
  refine g_iaload (pc := 36) rfl dX2_falseVotes_36 fun v15 => ?_
  refine g_icmp_ge (pc := 37) (tgt := 91) rfl dX2_falseVotes_37 ?_ ?_
  · exact g_sub [0, 1, 2, 3] rfl (Hj10 x11.1 h12)
  refine g_iload_n (pc := 40) (x := x11.1) 2 rfl rfl dX2_falseVotes_40 ?_
  refine g_aload_n (pc := 41) (x := a0) 0 rfl rfl dX2_falseVotes_41 ?_
  refine g_iload_n (pc := 42) (x := x3.2) 3 rfl rfl dX2_falseVotes_42 ?_
  refine g_iload_n (pc := 43) (x := a1) 1 rfl rfl dX2_falseVotes_43 ?_
  refine g_iload (pc := 44) (x := x11.2) 4 rfl dX2_falseVotes_44 ?_
  refine g_bVi (pc := 46) (y := yX2_voteOf) (ws := ws_ yX2_voteOf cX2_voteOf 4 (some .int)) (fr := 1) (lo := 22) (as := [gi x3.2, gi a1, gi x11.2]) (st := [gi x11.1]) (g_no) rfl (fun _ _ _ e => tX2_voteOf hs e) (fun K _ _ _ hq hM R e1 e2 => g_runV (M := mX2_falseVotes) (pc := 46) (y := yX2_voteOf) (bytes := cX2_voteOf) (maxL := 4) (ret := (some .int)) (fr := 1) (lo := 22) (as := [gi x3.2, gi a1, gi x11.2]) (st := [gi x11.1]) hq (C := "FlareSlopesModel") rfl gy_X2_voteOf (gbl rfl) (gbl rfl) (gbl rfl) q4222 q4224 qs89 dX2_falseVotes_46 K hM R e1 e2) fun v16 h17 => ?_
  refine g_join 83 (fun (x18 : Int32) => [(0, gr a0), (1, gi a1), (3, gi x3.2), (4, gi x11.2)]) (fun (x18 : Int32) => [gi x18, gi x11.1]) (fun x18 h19 => ?_) (fun j20 Hj20 => ?_)
  · refine g_iadd (pc := 83) dX2_falseVotes_83 ?_
    refine g_leti fun v21 => ?_
    refine g_istore_n (pc := 84) (lv' := [(2, gi v21), (0, gr a0), (1, gi a1), (3, gi x3.2), (4, gi x11.2)]) [0, 1, 2, 3, 4] rfl rfl (gblt rfl) dX2_falseVotes_84 ?_
    refine g_iinc (pc := 85) (v := x11.2 + (1 : Int32)) 4 rfl (ii_1 _) (lv' := [(4, gi (x11.2 + (1 : Int32))), (2, gi v21), (0, gr a0), (1, gi a1), (3, gi x3.2)]) [0, 1, 2, 3, 4] rfl (gblt rfl) dX2_falseVotes_85 ?_
    refine g_goto (pc := 88) (tgt := 28) rfl dX2_falseVotes_88 ?_
    exact g_sub [2, 3, 1, 4, 0] rfl (Hw13 (v21, x11.2 + (1 : Int32)) h19)
  refine g_join 82 (fun (x22 : Unit) => [(0, gr a0), (1, gi a1), (3, gi x3.2), (4, gi x11.2)]) (fun (x22 : Unit) => [gi x11.1]) (fun x22 h23 => ?_) (fun j24 Hj24 => ?_)
  · refine g_iconst (pc := 82) (v := (0 : Int32)) ic_0 dX2_falseVotes_82 ?_
    exact Hj20 (0 : Int32) h23
  refine g_if_le (pc := 49) (tgt := 82) rfl dX2_falseVotes_49 ?_ ?_
  · exact g_sub [0, 1, 3, 4] rfl (Hj24 () h17)
  refine g_aload_n (pc := 52) (x := a0) 0 rfl rfl dX2_falseVotes_52 ?_
  refine g_iload_n (pc := 53) (x := x3.2) 3 rfl rfl dX2_falseVotes_53 ?_
  refine g_iload_n (pc := 54) (x := a1) 1 rfl rfl dX2_falseVotes_54 ?_
  refine g_iload (pc := 55) (x := x11.2) 4 rfl dX2_falseVotes_55 ?_
  refine g_bVi (pc := 57) (y := yX2_voteOf) (ws := ws_ yX2_voteOf cX2_voteOf 4 (some .int)) (fr := 1) (lo := 22) (as := [gi x3.2, gi a1, gi x11.2]) (st := [gi x11.1]) (g_no) rfl (fun _ _ _ e => tX2_voteOf hs e) (fun K _ _ _ hq hM R e1 e2 => g_runV (M := mX2_falseVotes) (pc := 57) (y := yX2_voteOf) (bytes := cX2_voteOf) (maxL := 4) (ret := (some .int)) (fr := 1) (lo := 22) (as := [gi x3.2, gi a1, gi x11.2]) (st := [gi x11.1]) hq (C := "FlareSlopesModel") rfl gy_X2_voteOf (gbl rfl) (gbl rfl) (gbl rfl) q4222 q4224 qs89 dX2_falseVotes_57 K hM R e1 e2) fun v25 h26 => ?_
  refine g_bi (pc := 60) (y := yX2_isRed) (ws := ws_ yX2_isRed cX2_isRed 1 (some .boolean)) (fr := 0) (lo := 0) (as := [gi v25]) (st := [gi x11.1]) (g_no) rfl (fun _ _ e => tX2_isRed hs e) (fun K _ _ hM R e1 e2 => g_runS (M := mX2_falseVotes) (pc := 60) (y := yX2_isRed) (bytes := cX2_isRed) (maxL := 1) (ret := (some .boolean)) (fr := 0) (lo := 0) (as := [gi v25]) (st := [gi x11.1]) gy_X2_isRed (gbl rfl) (gbl rfl) (gbl rfl) q4203 q4204 dX2_falseVotes_60 K hM R e1 e2) fun v27 h28 => ?_
  refine g_aload_n (pc := 63) (x := a0) 0 rfl rfl dX2_falseVotes_63 ?_
  refine g_getfr (pc := 64) k_18 (gblt rfl) lk_X2_9_18 dX2_falseVotes_64 fun v29 => ?_
  refine g_bipush (pc := 67) (v := (97 : Int32)) bc_97 dX2_falseVotes_67 ?_
  refine g_iaload (pc := 69) rfl dX2_falseVotes_69 fun v30 => ?_
  refine g_iload (pc := 70) (x := x11.2) 4 rfl dX2_falseVotes_70 ?_
  refine g_bi (pc := 72) (y := yX2_has) (ws := ws_ yX2_has cX2_has 2 (some .boolean)) (fr := 0) (lo := 0) (as := [gi v30, gi x11.2]) (st := [gi v27, gi x11.1]) (g_no) rfl (fun _ _ e => tX2_has hs e) (fun K _ _ hM R e1 e2 => g_runS (M := mX2_falseVotes) (pc := 72) (y := yX2_has) (bytes := cX2_has) (maxL := 2) (ret := (some .boolean)) (fr := 0) (lo := 0) (as := [gi v30, gi x11.2]) (st := [gi v27, gi x11.1]) gy_X2_has (gbl rfl) (gbl rfl) (gbl rfl) q4257 q4258 dX2_falseVotes_72 K hM R e1 e2) fun v31 h32 => ?_
  refine g_icmp_eq (pc := 75) (tgt := 82) rfl dX2_falseVotes_75 ?_ ?_
  · exact g_sub [0, 1, 3, 4] rfl (Hj24 () h32)
  refine g_iconst (pc := 78) (v := (1 : Int32)) ic_1 dX2_falseVotes_78 ?_
  refine g_goto (pc := 79) (tgt := 83) rfl dX2_falseVotes_79 ?_
  exact g_sub [0, 1, 3, 4] rfl (Hj20 (1 : Int32) h32)
/-! FlareSlopes.oldestVote(I)I -/
noncomputable def bX1_oldestVote_21 (G : GG) (N : Nat) (v6 : Option Nat) (w10 : (Int32) → Hp → Out (Int32)) (x8 : Int32) (h9 : Hp) : Out (Int32) :=
  bV h9 v6 32 (fun q24 => sJ31_hasNext_c32 G N (some q24) h9) fun v11 h12 =>
  if v11 = 0 then (some (.inl x8, h12))
  else bV h12 v6 32 (fun q23 => sJ34_next G N (some q23) h12) fun v13 h14 =>
  gCk h14 v13 [17] (gJ (fun (x15 : Int32) (h16 : Hp) =>
  w10 x15 h16) fun j17 =>
  gJ (fun (x18 : Unit) (h19 : Hp) =>
  gFi h19 v13 17 1 fun v21 =>
  j17 v21 h19) fun j20 =>
  if x8 = (-1 : Int32) then (j20 () h14)
  else gFi h14 v13 17 1 fun v22 =>
  if x8 ≤ v22 then (j17 x8 h14)
  else j20 () h14)
noncomputable def sX1_oldestVote (G : GG) (N : Nat) (a0 : Option Nat) (a1 : Int32) (h : Hp) : Out (Int32) :=
  bV h a0 3 (fun q27 => sX1_withCabin G N (some q27) a1 h) fun v1 h2 =>
  gFr h2 v1 7 8 fun v3 =>
  bV h2 v3 26 (fun q26 => sJ24_values G N (some q26) h2) fun v4 h5 =>
  bV h5 v4 33 (fun q25 => sJ27_iterator G N (some q25) h5) fun v6 h7 =>
  gLp (bX1_oldestVote_21 G N v6) N (-1 : Int32) h7
abbrev mX1_oldestVote : MI := (RX1, cX1_oldestVote, 5, (some .int), [], 9, 142, "oldestVote")
theorem tX1_oldestVote {G : GG} {l : Launch} (hs : l.stackTraces = false) {N : Nat} {a0 : Option Nat} {a1 : Int32} {h : Hp} {r : Int32 ⊕ Nat} {hf : Hp} (ho : sX1_oldestVote G N a0 a1 h = some (r, hf)) : gMet G l yX1_oldestVote (ws_ yX1_oldestVote cX1_oldestVote 5 (some .int)) 9 142 [gr a0, gi a1] h cvI r hf := by
  refine gMet.of ho hs (plainFor_of_name pn_X1) rfl rfl (gbl rfl) fun X => ?_
  show gT G l X mX1_oldestVote cvI r hf 0 [(0, gr a0), (1, gi a1)] [] h (sX1_oldestVote G N a0 a1 h)
  delta sX1_oldestVote
  refine g_iconst (pc := 0) (v := (-1 : Int32)) ic_m1 dX1_oldestVote_0 ?_
  refine g_istore_n (pc := 1) (lv' := [(2, gi (-1 : Int32)), (0, gr a0), (1, gi a1)]) [0, 1, 2] rfl rfl (gblt rfl) dX1_oldestVote_1 ?_
  refine g_aload_n (pc := 2) (x := a0) 1 rfl rfl dX1_oldestVote_2 ?_
  refine g_iload_n (pc := 3) (x := a1) 2 rfl rfl dX1_oldestVote_3 ?_
  refine g_bVr (pc := 4) (y := yX1_withCabin) (ws := ws_ yX1_withCabin cX1_withCabin 2 (some (.object "FlareSlopes$Cabin"))) (fr := 8) (lo := 121) (as := [gi a1]) (st := []) (g_no) rfl (fun _ _ _ e => tX1_withCabin hs e) (fun K _ _ _ hq hM R e1 e2 => g_runV (M := mX1_oldestVote) (pc := 4) (y := yX1_withCabin) (bytes := cX1_withCabin) (maxL := 2) (ret := (some (.object "FlareSlopes$Cabin"))) (fr := 8) (lo := 121) (as := [gi a1]) (st := []) hq (C := "FlareSlopes") rfl gy_X1_withCabin (gbl rfl) (gbl rfl) (gbl rfl) q1968 q1970 qs22 dX1_oldestVote_4 K hM R e1 e2) fun v1 h2 => ?_
  refine g_getfr (pc := 7) k_7 (gblt rfl) lk_X1_205_7 dX1_oldestVote_7 fun v3 => ?_
  refine g_bVr (pc := 10) (y := yJ24_values) (ws := ws_ yJ24_values cJ24_values 1 (some (.object "java/util/Collection"))) (fr := 4) (lo := 76) (as := []) (st := []) (g_no) rfl (fun _ _ _ e => tJ24_values hs e) (fun K _ _ _ hq hM R e1 e2 => g_runF (x := ⟨"java/util/Map", "values", "()Ljava/util/Collection;"⟩) (M := mX1_oldestVote) (pc := 10) (y := yJ24_values) (bytes := cJ24_values) (maxL := 1) (ret := (some (.object "java/util/Collection"))) (fr := 4) (lo := 76) (as := []) (st := []) hq (C := "java/util/LinkedHashMap") rfl gy_J24_values rfl (gbl rfl) (gbl rfl) (gbl rfl) q1744 q1746 q1745 q1750 q1748 q1613 mhx_java_util_Map q1747 q1749 dX1_oldestVote_10 K hM R e1 e2) fun v4 h5 => ?_
  refine g_bVr (pc := 15) (y := yJ27_iterator) (ws := ws_ yJ27_iterator cJ27_iterator 1 (some (.object "java/util/Iterator"))) (fr := 3) (lo := 56) (as := []) (st := []) (g_no) rfl (fun _ _ _ e => tJ27_iterator hs e) (fun K _ _ _ hq hM R e1 e2 => g_runF (x := ⟨"java/util/Collection", "iterator", "()Ljava/util/Iterator;"⟩) (M := mX1_oldestVote) (pc := 15) (y := yJ27_iterator) (bytes := cJ27_iterator) (maxL := 1) (ret := (some (.object "java/util/Iterator"))) (fr := 3) (lo := 56) (as := []) (st := []) hq (C := "java/util/LinkedHashMap$LinkedValues") rfl gy_J27_iterator rfl (gbl rfl) (gbl rfl) (gbl rfl) q1771 q1773 q1772 q1886 q1884 q1882 mhx_java_util_Collection q1883 q1885 dX1_oldestVote_15 K hM R e1 e2) fun v6 h7 => ?_
  refine g_astore_n (pc := 20) (lv' := [(3, gr v6), (2, gi (-1 : Int32))]) [0, 1] rfl rfl (gblt rfl) dX1_oldestVote_20 ?_
  refine g_sub (lv' := [(2, gi (-1 : Int32)), (3, gr v6)]) [1, 0] rfl ?_
  refine g_loop (pc := 21) (fun (x8 : Int32) => [(2, gi x8), (3, gr v6)]) (fun (_ : Int32) => []) (fun w10 Hw10 x8 h9 => ?_) N (-1 : Int32) h7
  delta bX1_oldestVote_21
  refine g_aload_n (pc := 21) (x := v6) 1 rfl rfl dX1_oldestVote_21 ?_
  refine g_bVi (pc := 22) (y := yJ31_hasNext) (ws := ws_ yJ31_hasNext cJ31_hasNext 1 (some .boolean)) (fr := 0) (lo := 0) (as := []) (st := []) (g_no) rfl (fun _ _ _ e => tJ31_hasNext_c32 hs e) (fun K _ _ _ hq hM R e1 e2 => g_runF (x := ⟨"java/util/Iterator", "hasNext", "()Z"⟩) (M := mX1_oldestVote) (pc := 22) (y := yJ31_hasNext) (bytes := cJ31_hasNext) (maxL := 1) (ret := (some .boolean)) (fr := 0) (lo := 0) (as := []) (st := []) hq (C := "java/util/LinkedHashMap$LinkedValueIterator") rfl gy_J31_hasNext rfl (gbl rfl) (gbl rfl) (gbl rfl) q1947 q1505 q1504 q1528 q1535 q1533 mhx_java_util_Iterator q1534 q1527 dX1_oldestVote_22 K hM R e1 e2) fun v11 h12 => ?_
  refine g_if_eq (pc := 27) (tgt := 64) rfl dX1_oldestVote_27 ?_ ?_
  · refine g_iload_n (pc := 64) (x := x8) 0 rfl rfl dX1_oldestVote_64 ?_
    exact g_ireturn (pc := 65) rfl dX1_oldestVote_65
  refine g_aload_n (pc := 30) (x := v6) 1 rfl rfl dX1_oldestVote_30 ?_
  refine g_bVr (pc := 31) (y := yJ34_next) (ws := ws_ yJ34_next cJ34_next 1 (some (.object "java/lang/Object"))) (fr := 1) (lo := 21) (as := []) (st := []) (g_no) rfl (fun _ _ _ e => tJ34_next hs e) (fun K _ _ _ hq hM R e1 e2 => g_runF (x := ⟨"java/util/Iterator", "next", "()Ljava/lang/Object;"⟩) (M := mX1_oldestVote) (pc := 31) (y := yJ34_next) (bytes := cJ34_next) (maxL := 1) (ret := (some (.object "java/lang/Object"))) (fr := 1) (lo := 21) (as := []) (st := []) hq (C := "java/util/LinkedHashMap$LinkedValueIterator") rfl gy_J34_next rfl (gbl rfl) (gbl rfl) (gbl rfl) q1949 q1539 q1538 q1604 q1602 q1533 mhx_java_util_Iterator q1601 q1603 dX1_oldestVote_31 K hM R e1 e2) fun v13 h14 => ?_
  refine g_checkcast (pc := 36) q1950 as_17_FlareSlopes_Vote dX1_oldestVote_36 ?_
  refine g_astore (pc := 39) (lv' := [(4, gr v13), (2, gi x8), (3, gr v6)]) [0, 1, 2] rfl (gblt rfl) dX1_oldestVote_39 ?_
  refine g_iload_n (pc := 41) (x := x8) 1 rfl rfl dX1_oldestVote_41 ?_
  refine g_iconst (pc := 42) (v := (-1 : Int32)) ic_m1 dX1_oldestVote_42 ?_
  refine g_join 61 (fun (x15 : Int32) => [(2, gi x15), (3, gr v6)]) (fun (x15 : Int32) => []) (fun x15 h16 => ?_) (fun j17 Hj17 => ?_)
  · refine g_goto (pc := 61) (tgt := 21) rfl dX1_oldestVote_61 ?_
    exact Hw10 x15 h16
  refine g_join 55 (fun (x18 : Unit) => [(3, gr v6), (4, gr v13)]) (fun (x18 : Unit) => []) (fun x18 h19 => ?_) (fun j20 Hj20 => ?_)
  · refine g_aload (pc := 55) (x := v13) 1 rfl dX1_oldestVote_55 ?_
    refine g_getfi (pc := 57) k_17 (gblt rfl) lk_X1_394_17 dX1_oldestVote_57 fun v21 => ?_
    refine g_istore_n (pc := 60) (lv' := [(2, gi v21), (3, gr v6)]) [0, 1] rfl rfl (gblt rfl) dX1_oldestVote_60 ?_
    exact Hj17 v21 h19
  refine g_icmp_eq (pc := 43) (tgt := 55) rfl dX1_oldestVote_43 ?_ ?_
  · exact g_sub [2, 0] rfl (Hj20 () h14)
  refine g_aload (pc := 46) (x := v13) 0 rfl dX1_oldestVote_46 ?_
  refine g_getfi (pc := 48) k_17 (gblt rfl) lk_X1_394_17 dX1_oldestVote_48 fun v22 => ?_
  refine g_iload_n (pc := 51) (x := x8) 1 rfl rfl dX1_oldestVote_51 ?_
  refine g_icmp_ge (pc := 52) (tgt := 61) rfl dX1_oldestVote_52 ?_ ?_
  · exact g_sub [1, 2] rfl (Hj17 x8 h14)
  exact g_sub [2, 0] rfl (Hj20 () h14)
/-! FlareSlopesLaw.oldestVote(LFlareSlopes;I[J)I -/
noncomputable def sX0_oldestVote (G : GG) (N : Nat) (a0 : Option Nat) (a1 : Int32) (a2 : Option Nat) (h : Hp) : Out (Int32) :=
  bVX h a0 3 (fun q4 => sX1_oldestVote G N (some q4) a1 h) (fun v1 h2 =>
  gSl G h2 a2 3 (0 : Int32) (v1.toInt64) fun h3 =>
  some (.inl (0 : Int32), h3)) fun q5 h6 =>
  gSw h6 (some q5) 0 (some (.inl (1 : Int32), h6)) (gSw h6 (some q5) 2 (some (.inl (2 : Int32), h6)) (none))
abbrev mX0_oldestVote : MI := (RX0, cX0_oldestVote, 4, (some .int), [(0, 9, 12, 21), (0, 9, 15, 13)], 10, 166, "oldestVote")
theorem tX0_oldestVote {G : GG} {l : Launch} (hs : l.stackTraces = false) {N : Nat} {a0 : Option Nat} {a1 : Int32} {a2 : Option Nat} {h : Hp} {r : Int32 ⊕ Nat} {hf : Hp} (ho : sX0_oldestVote G N a0 a1 a2 h = some (r, hf)) : gMet G l yX0_oldestVote (wsW_ yX0_oldestVote cX0_oldestVote 4 (some .int) [(0, 9, 12, 21), (0, 9, 15, 13)]) 10 166 [gr a0, gi a1, gr a2] h cvI r hf := by
  refine gMet.ofW ho hs (plainFor_of_name pn_X0) rfl rfl (gbl rfl) fun X => ?_
  show gT G l X mX0_oldestVote cvI r hf 0 [(0, gr a0), (1, gi a1), (2, gr a2)] [] h (sX0_oldestVote G N a0 a1 a2 h)
  delta sX0_oldestVote
  refine g_aload_n (pc := 0) (x := a2) 2 rfl rfl dX0_oldestVote_0 ?_
  refine g_iconst (pc := 1) (v := (0 : Int32)) ic_0 dX0_oldestVote_1 ?_
  refine g_aload_n (pc := 2) (x := a0) 0 rfl rfl dX0_oldestVote_2 ?_
  refine g_iload_n (pc := 3) (x := a1) 1 rfl rfl dX0_oldestVote_3 ?_
  refine g_bVXi (pc := 4) (y := yX1_oldestVote) (ws := ws_ yX1_oldestVote cX1_oldestVote 5 (some .int)) (fr := 9) (lo := 142) (as := [gi a1]) (st := [gi (0 : Int32), gr a2]) rfl (fun _ _ _ e => tX1_oldestVote hs e) (fun K _ _ _ hq hM R e1 e2 => g_runV (M := mX0_oldestVote) (pc := 4) (y := yX1_oldestVote) (bytes := cX1_oldestVote) (maxL := 5) (ret := (some .int)) (fr := 9) (lo := 142) (as := [gi a1]) (st := [gi (0 : Int32), gr a2]) hq (C := "FlareSlopes") rfl gy_X1_oldestVote (gbl rfl) (gbl rfl) (gbl rfl) q3400 q3401 q3402 dX0_oldestVote_4 K hM R e1 e2) (fun v1 h2 => ?_) (fun q5 h6 => ?_)
  · refine g_i2l (pc := 7) dX0_oldestVote_7 ?_
    refine g_lastore (pc := 8) rfl dX0_oldestVote_8 fun h3 => ?_
    refine g_goto (pc := 9) (tgt := 18) rfl dX0_oldestVote_9 ?_
    refine g_iconst (pc := 18) (v := (0 : Int32)) ic_0 dX0_oldestVote_18 ?_
    exact g_ireturn (pc := 19) rfl dX0_oldestVote_19
  refine g_catch (E := "java/lang/IllegalStateException") [] ⟨0, 9, 12, 21⟩ [⟨0, 9, 15, 13⟩] rfl rfl (List.forall_mem_nil _) (by decide +kernel) (by decide +kernel) q1425 q1439 ?_ ?_
  · refine g_astore_n (pc := 12) (lv' := []) [] rfl rfl (gblt rfl) dX0_oldestVote_12 ?_
    refine g_iconst (pc := 13) (v := (1 : Int32)) ic_1 dX0_oldestVote_13 ?_
    exact g_ireturn (pc := 14) rfl dX0_oldestVote_14
  refine g_catch (E := "java/lang/IndexOutOfBoundsException") [⟨0, 9, 12, 21⟩] ⟨0, 9, 15, 13⟩ [] rfl rfl (List.forall_mem_cons.mpr ⟨Or.inr ⟨by decide +kernel, _, q1425, ncl_java_lang_IndexOutOfBoundsException_java_lang_IllegalStateException⟩, List.forall_mem_nil _⟩) (by decide +kernel) (by decide +kernel) q325 q418 ?_ ?_
  · refine g_astore_n (pc := 15) (lv' := []) [] rfl rfl (gblt rfl) dX0_oldestVote_15 ?_
    refine g_iconst (pc := 16) (v := (2 : Int32)) ic_2 dX0_oldestVote_16 ?_
    exact g_ireturn (pc := 17) rfl dX0_oldestVote_17
  exact g_noneX
/-! FlareSlopesModel.oldestVote(I)I -/
noncomputable def bX2_oldestVote_19 (G : GG) (N : Nat) (a0 : Option Nat) (a1 : Int32) (w7 : (Int32 × Int32) → Hp → Out (Int32)) (x5 : Int32 × Int32) (h6 : Hp) : Out (Int32) :=
  bnd (sX2_voteAt G N (a1 + (1 : Int32)) (0 : Int32) (0 : Int32) h6) fun v8 h9 =>
  if v8 ≤ x5.2 then (some (.inl x5.1, h9))
  else gFr h9 a0 18 1 fun v10 =>
  gAi h9 v10 0 x5.2 fun v11 =>
  gJ (fun (x12 : Int32) (h13 : Hp) =>
  w7 (x12, x5.2 + (1 : Int32)) h13) fun j14 =>
  if v11 ≤ 0 then (j14 x5.1 h9)
  else gJ (fun (x15 : Unit) (h16 : Hp) =>
  gFr h16 a0 18 1 fun v18 =>
  gAi h16 v18 0 x5.2 fun v19 =>
  bnd (sX2_timeOf G N v19 h16) fun v20 h21 =>
  j14 v20 h21) fun j17 =>
  if x5.1 = (-1 : Int32) then (j17 () h9)
  else gFr h9 a0 18 1 fun v22 =>
  gAi h9 v22 0 x5.2 fun v23 =>
  bnd (sX2_timeOf G N v23 h9) fun v24 h25 =>
  if x5.1 ≤ v24 then (j14 x5.1 h25)
  else j17 () h25
noncomputable def sX2_oldestVote (G : GG) (N : Nat) (a0 : Option Nat) (a1 : Int32) (h : Hp) : Out (Int32) :=
  bV h a0 18 (fun q26 => sX2_mayCabin G N (some q26) a1 h) fun v1 h2 =>
  if v1 = 0 then (some (.inl (0 : Int32), h2))
  else bnd (sX2_voteAt G N a1 (0 : Int32) (0 : Int32) h2) fun v3 h4 =>
  gLp (bX2_oldestVote_19 G N a0 a1) N ((-1 : Int32), v3) h4
abbrev mX2_oldestVote : MI := (RX2, cX2_oldestVote, 4, (some .int), [], 3, 66, "oldestVote")
theorem tX2_oldestVote {G : GG} {l : Launch} (hs : l.stackTraces = false) {N : Nat} {a0 : Option Nat} {a1 : Int32} {h : Hp} {r : Int32 ⊕ Nat} {hf : Hp} (ho : sX2_oldestVote G N a0 a1 h = some (r, hf)) : gMet G l yX2_oldestVote (ws_ yX2_oldestVote cX2_oldestVote 4 (some .int)) 3 66 [gr a0, gi a1] h cvI r hf := by
  refine gMet.of ho hs (plainFor_of_name pn_X2) rfl rfl (gbl rfl) fun X => ?_
  show gT G l X mX2_oldestVote cvI r hf 0 [(0, gr a0), (1, gi a1)] [] h (sX2_oldestVote G N a0 a1 h)
  delta sX2_oldestVote
  refine g_aload_n (pc := 0) (x := a0) 0 rfl rfl dX2_oldestVote_0 ?_
  refine g_iload_n (pc := 1) (x := a1) 1 rfl rfl dX2_oldestVote_1 ?_
  refine g_bVi (pc := 2) (y := yX2_mayCabin) (ws := ws_ yX2_mayCabin cX2_mayCabin 2 (some .boolean)) (fr := 2) (lo := 45) (as := [gi a1]) (st := []) (g_no) rfl (fun _ _ _ e => tX2_mayCabin hs e) (fun K _ _ _ hq hM R e1 e2 => g_runV (M := mX2_oldestVote) (pc := 2) (y := yX2_mayCabin) (bytes := cX2_mayCabin) (maxL := 2) (ret := (some .boolean)) (fr := 2) (lo := 45) (as := [gi a1]) (st := []) hq (C := "FlareSlopesModel") rfl gy_X2_mayCabin (gbl rfl) (gbl rfl) (gbl rfl) q4324 q4326 qs105 dX2_oldestVote_2 K hM R e1 e2) fun v1 h2 => ?_
  refine g_if_ne (pc := 5) (tgt := 10) rfl dX2_oldestVote_5 ?_ ?_
  · refine g_iconst (pc := 8) (v := (0 : Int32)) ic_0 dX2_oldestVote_8 ?_
    exact g_ireturn (pc := 9) rfl dX2_oldestVote_9
  refine g_iconst (pc := 10) (v := (-1 : Int32)) ic_m1 dX2_oldestVote_10 ?_
  refine g_istore_n (pc := 11) (lv' := [(2, gi (-1 : Int32)), (0, gr a0), (1, gi a1)]) [0, 1, 2] rfl rfl (gblt rfl) dX2_oldestVote_11 ?_
  refine g_iload_n (pc := 12) (x := a1) 2 rfl rfl dX2_oldestVote_12 ?_
  refine g_iconst (pc := 13) (v := (0 : Int32)) ic_0 dX2_oldestVote_13 ?_
  refine g_iconst (pc := 14) (v := (0 : Int32)) ic_0 dX2_oldestVote_14 ?_
  refine g_bi (pc := 15) (y := yX2_voteAt) (ws := ws_ yX2_voteAt cX2_voteAt 3 (some .int)) (fr := 0) (lo := 0) (as := [gi a1, gi (0 : Int32), gi (0 : Int32)]) (st := []) (g_no) rfl (fun _ _ e => tX2_voteAt hs e) (fun K _ _ hM R e1 e2 => g_runS (M := mX2_oldestVote) (pc := 15) (y := yX2_voteAt) (bytes := cX2_voteAt) (maxL := 3) (ret := (some .int)) (fr := 0) (lo := 0) (as := [gi a1, gi (0 : Int32), gi (0 : Int32)]) (st := []) gy_X2_voteAt (gbl rfl) (gbl rfl) (gbl rfl) q4165 q4166 dX2_oldestVote_15 K hM R e1 e2) fun v3 h4 => ?_
  refine g_istore_n (pc := 18) (lv' := [(3, gi v3), (2, gi (-1 : Int32)), (0, gr a0), (1, gi a1)]) [0, 1, 2, 3] rfl rfl (gblt rfl) dX2_oldestVote_18 ?_
  refine g_sub (lv' := [(0, gr a0), (1, gi a1), (2, gi (-1 : Int32)), (3, gi v3)]) [2, 3, 1, 0] rfl ?_
  refine g_loop (pc := 19) (fun (x5 : Int32 × Int32) => [(0, gr a0), (1, gi a1), (2, gi x5.1), (3, gi x5.2)]) (fun (_ : Int32 × Int32) => []) (fun w7 Hw7 x5 h6 => ?_) N ((-1 : Int32), v3) h4
  delta bX2_oldestVote_19
  refine g_iload_n (pc := 19) (x := x5.2) 3 rfl rfl dX2_oldestVote_19 ?_
  refine g_iload_n (pc := 20) (x := a1) 1 rfl rfl dX2_oldestVote_20 ?_
  refine g_iconst (pc := 21) (v := (1 : Int32)) ic_1 dX2_oldestVote_21 ?_
  refine g_iadd (pc := 22) dX2_oldestVote_22 ?_
  refine g_iconst (pc := 23) (v := (0 : Int32)) ic_0 dX2_oldestVote_23 ?_
  refine g_iconst (pc := 24) (v := (0 : Int32)) ic_0 dX2_oldestVote_24 ?_
  refine g_bi (pc := 25) (y := yX2_voteAt) (ws := ws_ yX2_voteAt cX2_voteAt 3 (some .int)) (fr := 0) (lo := 0) (as := [gi (a1 + (1 : Int32)), gi (0 : Int32), gi (0 : Int32)]) (st := [gi x5.2]) (g_no) rfl (fun _ _ e => tX2_voteAt hs e) (fun K _ _ hM R e1 e2 => g_runS (M := mX2_oldestVote) (pc := 25) (y := yX2_voteAt) (bytes := cX2_voteAt) (maxL := 3) (ret := (some .int)) (fr := 0) (lo := 0) (as := [gi (a1 + (1 : Int32)), gi (0 : Int32), gi (0 : Int32)]) (st := [gi x5.2]) gy_X2_voteAt (gbl rfl) (gbl rfl) (gbl rfl) q4165 q4166 dX2_oldestVote_25 K hM R e1 e2) fun v8 h9 => ?_
  refine g_icmp_ge (pc := 28) (tgt := 74) rfl dX2_oldestVote_28 ?_ ?_
  · refine g_iload_n (pc := 74) (x := x5.1) 2 rfl rfl dX2_oldestVote_74 ?_
    exact g_ireturn (pc := 75) rfl dX2_oldestVote_75
  refine g_aload_n (pc := 31) (x := a0) 0 rfl rfl dX2_oldestVote_31 ?_
  refine g_getfr (pc := 32) k_18 (gblt rfl) lk_X2_9_18 dX2_oldestVote_32 fun v10 => ?_
  refine g_iload_n (pc := 35) (x := x5.2) 3 rfl rfl dX2_oldestVote_35 ?_
  refine g_iaload (pc := 36) rfl dX2_oldestVote_36 fun v11 => ?_
  refine g_join 68 (fun (x12 : Int32) => [(0, gr a0), (1, gi a1), (2, gi x12), (3, gi x5.2)]) (fun (x12 : Int32) => []) (fun x12 h13 => ?_) (fun j14 Hj14 => ?_)
  · refine g_iinc (pc := 68) (v := x5.2 + (1 : Int32)) 3 rfl (ii_1 _) (lv' := [(3, gi (x5.2 + (1 : Int32))), (0, gr a0), (1, gi a1), (2, gi x12)]) [0, 1, 2, 3] rfl (gblt rfl) dX2_oldestVote_68 ?_
    refine g_goto (pc := 71) (tgt := 19) rfl dX2_oldestVote_71 ?_
    exact g_sub [1, 2, 3, 0] rfl (Hw7 (x12, x5.2 + (1 : Int32)) h13)
  refine g_if_le (pc := 37) (tgt := 68) rfl dX2_oldestVote_37 ?_ ?_
  · exact Hj14 x5.1 h9
  refine g_iload_n (pc := 40) (x := x5.1) 2 rfl rfl dX2_oldestVote_40 ?_
  refine g_iconst (pc := 41) (v := (-1 : Int32)) ic_m1 dX2_oldestVote_41 ?_
  refine g_join 58 (fun (x15 : Unit) => [(0, gr a0), (1, gi a1), (3, gi x5.2)]) (fun (x15 : Unit) => []) (fun x15 h16 => ?_) (fun j17 Hj17 => ?_)
  · refine g_aload_n (pc := 58) (x := a0) 0 rfl rfl dX2_oldestVote_58 ?_
    refine g_getfr (pc := 59) k_18 (gblt rfl) lk_X2_9_18 dX2_oldestVote_59 fun v18 => ?_
    refine g_iload_n (pc := 62) (x := x5.2) 2 rfl rfl dX2_oldestVote_62 ?_
    refine g_iaload (pc := 63) rfl dX2_oldestVote_63 fun v19 => ?_
    refine g_bi (pc := 64) (y := yX2_timeOf) (ws := ws_ yX2_timeOf cX2_timeOf 1 (some .int)) (fr := 0) (lo := 0) (as := [gi v19]) (st := []) (g_no) rfl (fun _ _ e => tX2_timeOf hs e) (fun K _ _ hM R e1 e2 => g_runS (M := mX2_oldestVote) (pc := 64) (y := yX2_timeOf) (bytes := cX2_timeOf) (maxL := 1) (ret := (some .int)) (fr := 0) (lo := 0) (as := [gi v19]) (st := []) gy_X2_timeOf (gbl rfl) (gbl rfl) (gbl rfl) q4356 q4357 dX2_oldestVote_64 K hM R e1 e2) fun v20 h21 => ?_
    refine g_istore_n (pc := 67) (lv' := [(2, gi v20), (0, gr a0), (1, gi a1), (3, gi x5.2)]) [0, 1, 2, 3] rfl rfl (gblt rfl) dX2_oldestVote_67 ?_
    exact g_sub [1, 2, 0, 3] rfl (Hj14 v20 h21)
  refine g_icmp_eq (pc := 42) (tgt := 58) rfl dX2_oldestVote_42 ?_ ?_
  · exact g_sub [0, 1, 3] rfl (Hj17 () h9)
  refine g_aload_n (pc := 45) (x := a0) 0 rfl rfl dX2_oldestVote_45 ?_
  refine g_getfr (pc := 46) k_18 (gblt rfl) lk_X2_9_18 dX2_oldestVote_46 fun v22 => ?_
  refine g_iload_n (pc := 49) (x := x5.2) 3 rfl rfl dX2_oldestVote_49 ?_
  refine g_iaload (pc := 50) rfl dX2_oldestVote_50 fun v23 => ?_
  refine g_bi (pc := 51) (y := yX2_timeOf) (ws := ws_ yX2_timeOf cX2_timeOf 1 (some .int)) (fr := 0) (lo := 0) (as := [gi v23]) (st := []) (g_no) rfl (fun _ _ e => tX2_timeOf hs e) (fun K _ _ hM R e1 e2 => g_runS (M := mX2_oldestVote) (pc := 51) (y := yX2_timeOf) (bytes := cX2_timeOf) (maxL := 1) (ret := (some .int)) (fr := 0) (lo := 0) (as := [gi v23]) (st := []) gy_X2_timeOf (gbl rfl) (gbl rfl) (gbl rfl) q4356 q4357 dX2_oldestVote_51 K hM R e1 e2) fun v24 h25 => ?_
  refine g_iload_n (pc := 54) (x := x5.1) 2 rfl rfl dX2_oldestVote_54 ?_
  refine g_icmp_ge (pc := 55) (tgt := 68) rfl dX2_oldestVote_55 ?_ ?_
  · exact Hj14 x5.1 h25
  exact g_sub [0, 1, 3] rfl (Hj17 () h25)
/-! FlareSlopes.risky()I -/
noncomputable def bX1_risky_9 (G : GG) (N : Nat) (v1 : Option Nat) (w5 : (Int32 × Int32) → Hp → Out (Int32)) (x3 : Int32 × Int32) (h4 : Hp) : Out (Int32) :=
  bV h4 v1 16 (fun q23 => sX3_slopes G N (some q23) h4) fun v6 h7 =>
  if v6 ≤ x3.2 then (some (.inl x3.1, h7))
  else bV h7 v1 16 (fun q22 => sX3_isDangerous G N (some q22) x3.2 h7) fun v8 h9 =>
  gJ (fun (x10 : Int32) (h11 : Hp) =>
  w5 (x10, x3.2 + (1 : Int32)) h11) fun j12 =>
  if v8 = 0 then (j12 x3.1 h9)
  else bV h9 v1 16 (fun q21 => sX3_closers G N (some q21) x3.2 h9) fun v13 h14 =>
  bnd (sJ20_bitCount G N v13 h14) fun v15 h16 =>
  bV h16 v1 16 (fun q20 => sX3_size G N (some q20) h16) fun v17 h18 =>
  if v17 ≤ v15 then (j12 x3.1 h18)
  else gLet (x3.1 ||| ((1 : Int32) <<< (x3.2 &&& 31))) fun v19 =>
  j12 v19 h18
noncomputable def sX1_risky (G : GG) (N : Nat) (a0 : Option Nat) (h : Hp) : Out (Int32) :=
  bV h a0 3 (fun q24 => sX1_loaded G N (some q24) h) fun v1 h2 =>
  gLp (bX1_risky_9 G N v1) N ((0 : Int32), (0 : Int32)) h2
abbrev mX1_risky : MI := (RX1, cX1_risky, 4, (some .int), [], 8, 121, "risky")
theorem tX1_risky {G : GG} {l : Launch} (hs : l.stackTraces = false) {N : Nat} {a0 : Option Nat} {h : Hp} {r : Int32 ⊕ Nat} {hf : Hp} (ho : sX1_risky G N a0 h = some (r, hf)) : gMet G l yX1_risky (ws_ yX1_risky cX1_risky 4 (some .int)) 8 121 [gr a0] h cvI r hf := by
  refine gMet.of ho hs (plainFor_of_name pn_X1) rfl rfl (gbl rfl) fun X => ?_
  show gT G l X mX1_risky cvI r hf 0 [(0, gr a0)] [] h (sX1_risky G N a0 h)
  delta sX1_risky
  refine g_aload_n (pc := 0) (x := a0) 0 rfl rfl dX1_risky_0 ?_
  refine g_bVr (pc := 1) (y := yX1_loaded) (ws := ws_ yX1_loaded cX1_loaded 1 (some (.object "FlareSlopes$State"))) (fr := 7) (lo := 101) (as := []) (st := []) (g_no) rfl (fun _ _ _ e => tX1_loaded hs e) (fun K _ _ _ hq hM R e1 e2 => g_runV (M := mX1_risky) (pc := 1) (y := yX1_loaded) (bytes := cX1_loaded) (maxL := 1) (ret := (some (.object "FlareSlopes$State"))) (fr := 7) (lo := 101) (as := []) (st := []) hq (C := "FlareSlopes") rfl gy_X1_loaded (gbl rfl) (gbl rfl) (gbl rfl) q1430 q1432 qs17 dX1_risky_1 K hM R e1 e2) fun v1 h2 => ?_
  refine g_astore_n (pc := 4) (lv' := [(1, gr v1)]) [0] rfl rfl (gblt rfl) dX1_risky_4 ?_
  refine g_iconst (pc := 5) (v := (0 : Int32)) ic_0 dX1_risky_5 ?_
  refine g_istore_n (pc := 6) (lv' := [(2, gi (0 : Int32)), (1, gr v1)]) [0, 1] rfl rfl (gblt rfl) dX1_risky_6 ?_
  refine g_iconst (pc := 7) (v := (0 : Int32)) ic_0 dX1_risky_7 ?_
  refine g_istore_n (pc := 8) (lv' := [(3, gi (0 : Int32)), (2, gi (0 : Int32)), (1, gr v1)]) [0, 1, 2] rfl rfl (gblt rfl) dX1_risky_8 ?_
  refine g_sub (lv' := [(1, gr v1), (2, gi (0 : Int32)), (3, gi (0 : Int32))]) [2, 1, 0] rfl ?_
  refine g_loop (pc := 9) (fun (x3 : Int32 × Int32) => [(1, gr v1), (2, gi x3.1), (3, gi x3.2)]) (fun (_ : Int32 × Int32) => []) (fun w5 Hw5 x3 h4 => ?_) N ((0 : Int32), (0 : Int32)) h2
  delta bX1_risky_9
  refine g_iload_n (pc := 9) (x := x3.2) 2 rfl rfl dX1_risky_9 ?_
  refine g_aload_n (pc := 10) (x := v1) 0 rfl rfl dX1_risky_10 ?_
  refine g_bVi (pc := 11) (y := yX3_slopes) (ws := ws_ yX3_slopes cX3_slopes 1 (some .int)) (fr := 2) (lo := 40) (as := []) (st := [gi x3.2]) (g_no) rfl (fun _ _ _ e => tX3_slopes hs e) (fun K _ _ _ hq hM R e1 e2 => g_runV (M := mX1_risky) (pc := 11) (y := yX3_slopes) (bytes := cX3_slopes) (maxL := 1) (ret := (some .int)) (fr := 2) (lo := 40) (as := []) (st := [gi x3.2]) hq (C := "FlareSlopes$State") rfl gy_X3_slopes (gbl rfl) (gbl rfl) (gbl rfl) q1464 q1465 q1466 dX1_risky_11 K hM R e1 e2) fun v6 h7 => ?_
  refine g_icmp_ge (pc := 14) (tgt := 52) rfl dX1_risky_14 ?_ ?_
  · refine g_iload_n (pc := 52) (x := x3.1) 1 rfl rfl dX1_risky_52 ?_
    exact g_ireturn (pc := 53) rfl dX1_risky_53
  refine g_aload_n (pc := 17) (x := v1) 0 rfl rfl dX1_risky_17 ?_
  refine g_iload_n (pc := 18) (x := x3.2) 2 rfl rfl dX1_risky_18 ?_
  refine g_bVi (pc := 19) (y := yX3_isDangerous) (ws := ws_ yX3_isDangerous cX3_isDangerous 2 (some .boolean)) (fr := 1) (lo := 21) (as := [gi x3.2]) (st := []) (g_no) rfl (fun _ _ _ e => tX3_isDangerous hs e) (fun K _ _ _ hq hM R e1 e2 => g_runV (M := mX1_risky) (pc := 19) (y := yX3_isDangerous) (bytes := cX3_isDangerous) (maxL := 2) (ret := (some .boolean)) (fr := 1) (lo := 21) (as := [gi x3.2]) (st := []) hq (C := "FlareSlopes$State") rfl gy_X3_isDangerous (gbl rfl) (gbl rfl) (gbl rfl) q3049 q2333 q2334 dX1_risky_19 K hM R e1 e2) fun v8 h9 => ?_
  refine g_join 46 (fun (x10 : Int32) => [(1, gr v1), (2, gi x10), (3, gi x3.2)]) (fun (x10 : Int32) => []) (fun x10 h11 => ?_) (fun j12 Hj12 => ?_)
  · refine g_iinc (pc := 46) (v := x3.2 + (1 : Int32)) 2 rfl (ii_1 _) (lv' := [(3, gi (x3.2 + (1 : Int32))), (1, gr v1), (2, gi x10)]) [0, 1, 2] rfl (gblt rfl) dX1_risky_46 ?_
    refine g_goto (pc := 49) (tgt := 9) rfl dX1_risky_49 ?_
    exact g_sub [1, 2, 0] rfl (Hw5 (x10, x3.2 + (1 : Int32)) h11)
  refine g_if_eq (pc := 22) (tgt := 46) rfl dX1_risky_22 ?_ ?_
  · exact Hj12 x3.1 h9
  refine g_aload_n (pc := 25) (x := v1) 0 rfl rfl dX1_risky_25 ?_
  refine g_iload_n (pc := 26) (x := x3.2) 2 rfl rfl dX1_risky_26 ?_
  refine g_bVi (pc := 27) (y := yX3_closers) (ws := ws_ yX3_closers cX3_closers 4 (some .int)) (fr := 4) (lo := 85) (as := [gi x3.2]) (st := []) (g_no) rfl (fun _ _ _ e => tX3_closers hs e) (fun K _ _ _ hq hM R e1 e2 => g_runV (M := mX1_risky) (pc := 27) (y := yX3_closers) (bytes := cX3_closers) (maxL := 4) (ret := (some .int)) (fr := 4) (lo := 85) (as := [gi x3.2]) (st := []) hq (C := "FlareSlopes$State") rfl gy_X3_closers (gbl rfl) (gbl rfl) (gbl rfl) q3050 q3051 q3052 dX1_risky_27 K hM R e1 e2) fun v13 h14 => ?_
  refine g_bi (pc := 30) (y := yJ20_bitCount) (ws := ws_ yJ20_bitCount cJ20_bitCount 1 (some .int)) (fr := 0) (lo := 0) (as := [gi v13]) (st := []) (g_no) rfl (fun _ _ e => tJ20_bitCount hs e) (fun K _ _ hM R e1 e2 => g_runS (M := mX1_risky) (pc := 30) (y := yJ20_bitCount) (bytes := cJ20_bitCount) (maxL := 1) (ret := (some .int)) (fr := 0) (lo := 0) (as := [gi v13]) (st := []) gy_J20_bitCount (gbl rfl) (gbl rfl) (gbl rfl) q1619 q1620 dX1_risky_30 K hM R e1 e2) fun v15 h16 => ?_
  refine g_aload_n (pc := 33) (x := v1) 0 rfl rfl dX1_risky_33 ?_
  refine g_bVi (pc := 34) (y := yX3_size) (ws := ws_ yX3_size cX3_size 1 (some .int)) (fr := 1) (lo := 20) (as := []) (st := [gi v15]) (g_no) rfl (fun _ _ _ e => tX3_size hs e) (fun K _ _ _ hq hM R e1 e2 => g_runV (M := mX1_risky) (pc := 34) (y := yX3_size) (bytes := cX3_size) (maxL := 1) (ret := (some .int)) (fr := 1) (lo := 20) (as := []) (st := [gi v15]) hq (C := "FlareSlopes$State") rfl gy_X3_size (gbl rfl) (gbl rfl) (gbl rfl) q1411 q1412 q1413 dX1_risky_34 K hM R e1 e2) fun v17 h18 => ?_
  refine g_icmp_ge (pc := 37) (tgt := 46) rfl dX1_risky_37 ?_ ?_
  · exact Hj12 x3.1 h18
  refine g_iload_n (pc := 40) (x := x3.1) 1 rfl rfl dX1_risky_40 ?_
  refine g_iconst (pc := 41) (v := (1 : Int32)) ic_1 dX1_risky_41 ?_
  refine g_iload_n (pc := 42) (x := x3.2) 2 rfl rfl dX1_risky_42 ?_
  refine g_ishl (pc := 43) dX1_risky_43 ?_
  refine g_ior (pc := 44) dX1_risky_44 ?_
  refine g_leti fun v19 => ?_
  refine g_istore_n (pc := 45) (lv' := [(2, gi v19), (1, gr v1), (3, gi x3.2)]) [0, 1, 2] rfl rfl (gblt rfl) dX1_risky_45 ?_
  exact g_sub [1, 0, 2] rfl (Hj12 v19 h18)
/-! FlareSlopesLaw.risky(LFlareSlopes;[J)I -/
noncomputable def sX0_risky (G : GG) (N : Nat) (a0 : Option Nat) (a1 : Option Nat) (h : Hp) : Out (Int32) :=
  bVX h a0 3 (fun q4 => sX1_risky G N (some q4) h) (fun v1 h2 =>
  gSl G h2 a1 3 (0 : Int32) (v1.toInt64) fun h3 =>
  some (.inl (0 : Int32), h3)) fun q5 h6 =>
  gSw h6 (some q5) 0 (some (.inl (1 : Int32), h6)) (none)
abbrev mX0_risky : MI := (RX0, cX0_risky, 3, (some .int), [(0, 8, 11, 21)], 9, 144, "risky")
theorem tX0_risky {G : GG} {l : Launch} (hs : l.stackTraces = false) {N : Nat} {a0 : Option Nat} {a1 : Option Nat} {h : Hp} {r : Int32 ⊕ Nat} {hf : Hp} (ho : sX0_risky G N a0 a1 h = some (r, hf)) : gMet G l yX0_risky (wsW_ yX0_risky cX0_risky 3 (some .int) [(0, 8, 11, 21)]) 9 144 [gr a0, gr a1] h cvI r hf := by
  refine gMet.ofW ho hs (plainFor_of_name pn_X0) rfl rfl (gbl rfl) fun X => ?_
  show gT G l X mX0_risky cvI r hf 0 [(0, gr a0), (1, gr a1)] [] h (sX0_risky G N a0 a1 h)
  delta sX0_risky
  refine g_aload_n (pc := 0) (x := a1) 1 rfl rfl dX0_risky_0 ?_
  refine g_iconst (pc := 1) (v := (0 : Int32)) ic_0 dX0_risky_1 ?_
  refine g_aload_n (pc := 2) (x := a0) 0 rfl rfl dX0_risky_2 ?_
  refine g_bVXi (pc := 3) (y := yX1_risky) (ws := ws_ yX1_risky cX1_risky 4 (some .int)) (fr := 8) (lo := 121) (as := []) (st := [gi (0 : Int32), gr a1]) rfl (fun _ _ _ e => tX1_risky hs e) (fun K _ _ _ hq hM R e1 e2 => g_runV (M := mX0_risky) (pc := 3) (y := yX1_risky) (bytes := cX1_risky) (maxL := 4) (ret := (some .int)) (fr := 8) (lo := 121) (as := []) (st := [gi (0 : Int32), gr a1]) hq (C := "FlareSlopes") rfl gy_X1_risky (gbl rfl) (gbl rfl) (gbl rfl) q3407 q3408 q3409 dX0_risky_3 K hM R e1 e2) (fun v1 h2 => ?_) (fun q5 h6 => ?_)
  · refine g_i2l (pc := 6) dX0_risky_6 ?_
    refine g_lastore (pc := 7) rfl dX0_risky_7 fun h3 => ?_
    refine g_goto (pc := 8) (tgt := 14) rfl dX0_risky_8 ?_
    refine g_iconst (pc := 14) (v := (0 : Int32)) ic_0 dX0_risky_14 ?_
    exact g_ireturn (pc := 15) rfl dX0_risky_15
  refine g_catch (E := "java/lang/IllegalStateException") [] ⟨0, 8, 11, 21⟩ [] rfl rfl (List.forall_mem_nil _) (by decide +kernel) (by decide +kernel) q1425 q1439 ?_ ?_
  · refine g_astore_n (pc := 11) (lv' := []) [] rfl rfl (gblt rfl) dX0_risky_11 ?_
    refine g_iconst (pc := 12) (v := (1 : Int32)) ic_1 dX0_risky_12 ?_
    exact g_ireturn (pc := 13) rfl dX0_risky_13
  exact g_noneX
/-! FlareSlopesModel.risky()I -/
noncomputable def bX2_risky_13 (G : GG) (N : Nat) (a0 : Option Nat) (w5 : (Int32 × Int32) → Hp → Out (Int32)) (x3 : Int32 × Int32) (h4 : Hp) : Out (Int32) :=
  gFr h4 a0 18 1 fun v6 =>
  gAi h4 v6 0 (7 : Int32) fun v7 =>
  if v7 ≤ x3.2 then (some (.inl x3.1, h4))
  else gFr h4 a0 18 1 fun v8 =>
  gAi h4 v8 0 (97 : Int32) fun v9 =>
  bnd (sX2_has G N v9 x3.2 h4) fun v10 h11 =>
  gJ (fun (x12 : Int32) (h13 : Hp) =>
  gLet (x3.1 ||| x12) fun v15 =>
  w5 (v15, x3.2 + (1 : Int32)) h13) fun j14 =>
  gJ (fun (x16 : Unit) (h17 : Hp) =>
  j14 (0 : Int32) h17) fun j18 =>
  if v10 = 0 then (j18 () h11)
  else bV h11 a0 18 (fun q25 => sX2_closersOf G N (some q25) x3.2 h11) fun v19 h20 =>
  bnd (sX2_bits G N v19 h20) fun v21 h22 =>
  gFr h22 a0 18 1 fun v23 =>
  gAi h22 v23 0 (6 : Int32) fun v24 =>
  if v24 ≤ v21 then (j18 () h22)
  else j14 ((1 : Int32) <<< (x3.2 &&& 31)) h22
noncomputable def sX2_risky (G : GG) (N : Nat) (a0 : Option Nat) (h : Hp) : Out (Int32) :=
  bV h a0 18 (fun q26 => sX2_mayAsk G N (some q26) h) fun v1 h2 =>
  if v1 = 0 then (some (.inl (0 : Int32), h2))
  else gLp (bX2_risky_13 G N a0) N ((0 : Int32), (0 : Int32)) h2
abbrev mX2_risky : MI := (RX2, cX2_risky, 3, (some .int), [], 3, 66, "risky")
theorem tX2_risky {G : GG} {l : Launch} (hs : l.stackTraces = false) {N : Nat} {a0 : Option Nat} {h : Hp} {r : Int32 ⊕ Nat} {hf : Hp} (ho : sX2_risky G N a0 h = some (r, hf)) : gMet G l yX2_risky (ws_ yX2_risky cX2_risky 3 (some .int)) 3 66 [gr a0] h cvI r hf := by
  refine gMet.of ho hs (plainFor_of_name pn_X2) rfl rfl (gbl rfl) fun X => ?_
  show gT G l X mX2_risky cvI r hf 0 [(0, gr a0)] [] h (sX2_risky G N a0 h)
  delta sX2_risky
  refine g_aload_n (pc := 0) (x := a0) 0 rfl rfl dX2_risky_0 ?_
  refine g_bVi (pc := 1) (y := yX2_mayAsk) (ws := ws_ yX2_mayAsk cX2_mayAsk 1 (some .boolean)) (fr := 1) (lo := 23) (as := []) (st := []) (g_no) rfl (fun _ _ _ e => tX2_mayAsk hs e) (fun K _ _ _ hq hM R e1 e2 => g_runV (M := mX2_risky) (pc := 1) (y := yX2_mayAsk) (bytes := cX2_mayAsk) (maxL := 1) (ret := (some .boolean)) (fr := 1) (lo := 23) (as := []) (st := []) hq (C := "FlareSlopesModel") rfl gy_X2_mayAsk (gbl rfl) (gbl rfl) (gbl rfl) q4300 q4302 qs102 dX2_risky_1 K hM R e1 e2) fun v1 h2 => ?_
  refine g_if_ne (pc := 4) (tgt := 9) rfl dX2_risky_4 ?_ ?_
  · refine g_iconst (pc := 7) (v := (0 : Int32)) ic_0 dX2_risky_7 ?_
    exact g_ireturn (pc := 8) rfl dX2_risky_8
  refine g_iconst (pc := 9) (v := (0 : Int32)) ic_0 dX2_risky_9 ?_
  refine g_istore_n (pc := 10) (lv' := [(1, gi (0 : Int32)), (0, gr a0)]) [0, 1] rfl rfl (gblt rfl) dX2_risky_10 ?_
  refine g_iconst (pc := 11) (v := (0 : Int32)) ic_0 dX2_risky_11 ?_
  refine g_istore_n (pc := 12) (lv' := [(2, gi (0 : Int32)), (1, gi (0 : Int32)), (0, gr a0)]) [0, 1, 2] rfl rfl (gblt rfl) dX2_risky_12 ?_
  refine g_sub (lv' := [(0, gr a0), (1, gi (0 : Int32)), (2, gi (0 : Int32))]) [2, 1, 0] rfl ?_
  refine g_loop (pc := 13) (fun (x3 : Int32 × Int32) => [(0, gr a0), (1, gi x3.1), (2, gi x3.2)]) (fun (_ : Int32 × Int32) => []) (fun w5 Hw5 x3 h4 => ?_) N ((0 : Int32), (0 : Int32)) h2
  delta bX2_risky_13
  refine g_iload_n (pc := 13) (x := x3.2) 2 rfl rfl dX2_risky_13 ?_
  refine g_aload_n (pc := 14) (x := a0) 0 rfl rfl dX2_risky_14 ?_
  refine g_getfr (pc := 15) k_18 (gblt rfl) lk_X2_9_18 dX2_risky_15 fun v6 => ?_
  refine g_bipush (pc := 18) (v := (7 : Int32)) bc_7 dX2_risky_18 ?_
  refine g_iaload (pc := 20) rfl dX2_risky_20 fun v7 => ?_
  refine g_icmp_ge (pc := 21) (tgt := 72) rfl dX2_risky_21 ?_ ?_
  · refine g_iload_n (pc := 72) (x := x3.1) 1 rfl rfl dX2_risky_72 ?_
    exact g_ireturn (pc := 73) rfl dX2_risky_73
  refine g_iload_n (pc := 24) (x := x3.1) 1 rfl rfl dX2_risky_24 ?_
  refine g_aload_n (pc := 25) (x := a0) 0 rfl rfl dX2_risky_25 ?_
  refine g_getfr (pc := 26) k_18 (gblt rfl) lk_X2_9_18 dX2_risky_26 fun v8 => ?_
  refine g_bipush (pc := 29) (v := (97 : Int32)) bc_97 dX2_risky_29 ?_
  refine g_iaload (pc := 31) rfl dX2_risky_31 fun v9 => ?_
  refine g_iload_n (pc := 32) (x := x3.2) 2 rfl rfl dX2_risky_32 ?_
  refine g_bi (pc := 33) (y := yX2_has) (ws := ws_ yX2_has cX2_has 2 (some .boolean)) (fr := 0) (lo := 0) (as := [gi v9, gi x3.2]) (st := [gi x3.1]) (g_no) rfl (fun _ _ e => tX2_has hs e) (fun K _ _ hM R e1 e2 => g_runS (M := mX2_risky) (pc := 33) (y := yX2_has) (bytes := cX2_has) (maxL := 2) (ret := (some .boolean)) (fr := 0) (lo := 0) (as := [gi v9, gi x3.2]) (st := [gi x3.1]) gy_X2_has (gbl rfl) (gbl rfl) (gbl rfl) q4257 q4258 dX2_risky_33 K hM R e1 e2) fun v10 h11 => ?_
  refine g_join 64 (fun (x12 : Int32) => [(0, gr a0), (2, gi x3.2)]) (fun (x12 : Int32) => [gi x12, gi x3.1]) (fun x12 h13 => ?_) (fun j14 Hj14 => ?_)
  · refine g_ior (pc := 64) dX2_risky_64 ?_
    refine g_leti fun v15 => ?_
    refine g_istore_n (pc := 65) (lv' := [(1, gi v15), (0, gr a0), (2, gi x3.2)]) [0, 1, 2] rfl rfl (gblt rfl) dX2_risky_65 ?_
    refine g_iinc (pc := 66) (v := x3.2 + (1 : Int32)) 2 rfl (ii_1 _) (lv' := [(2, gi (x3.2 + (1 : Int32))), (1, gi v15), (0, gr a0)]) [0, 1, 2] rfl (gblt rfl) dX2_risky_66 ?_
    refine g_goto (pc := 69) (tgt := 13) rfl dX2_risky_69 ?_
    exact g_sub [2, 1, 0] rfl (Hw5 (v15, x3.2 + (1 : Int32)) h13)
  refine g_join 63 (fun (x16 : Unit) => [(0, gr a0), (2, gi x3.2)]) (fun (x16 : Unit) => [gi x3.1]) (fun x16 h17 => ?_) (fun j18 Hj18 => ?_)
  · refine g_iconst (pc := 63) (v := (0 : Int32)) ic_0 dX2_risky_63 ?_
    exact Hj14 (0 : Int32) h17
  refine g_if_eq (pc := 36) (tgt := 63) rfl dX2_risky_36 ?_ ?_
  · exact g_sub [0, 2] rfl (Hj18 () h11)
  refine g_aload_n (pc := 39) (x := a0) 0 rfl rfl dX2_risky_39 ?_
  refine g_iload_n (pc := 40) (x := x3.2) 2 rfl rfl dX2_risky_40 ?_
  refine g_bVi (pc := 41) (y := yX2_closersOf) (ws := ws_ yX2_closersOf cX2_closersOf 4 (some .int)) (fr := 2) (lo := 43) (as := [gi x3.2]) (st := [gi x3.1]) (g_no) rfl (fun _ _ _ e => tX2_closersOf hs e) (fun K _ _ _ hq hM R e1 e2 => g_runV (M := mX2_risky) (pc := 41) (y := yX2_closersOf) (bytes := cX2_closersOf) (maxL := 4) (ret := (some .int)) (fr := 2) (lo := 43) (as := [gi x3.2]) (st := [gi x3.1]) hq (C := "FlareSlopesModel") rfl gy_X2_closersOf (gbl rfl) (gbl rfl) (gbl rfl) q4249 q4251 qs94 dX2_risky_41 K hM R e1 e2) fun v19 h20 => ?_
  refine g_bi (pc := 44) (y := yX2_bits) (ws := ws_ yX2_bits cX2_bits 3 (some .int)) (fr := 0) (lo := 0) (as := [gi v19]) (st := [gi x3.1]) (g_no) rfl (fun _ _ e => tX2_bits hs e) (fun K _ _ hM R e1 e2 => g_runS (M := mX2_risky) (pc := 44) (y := yX2_bits) (bytes := cX2_bits) (maxL := 3) (ret := (some .int)) (fr := 0) (lo := 0) (as := [gi v19]) (st := [gi x3.1]) gy_X2_bits (gbl rfl) (gbl rfl) (gbl rfl) q4260 q4261 dX2_risky_44 K hM R e1 e2) fun v21 h22 => ?_
  refine g_aload_n (pc := 47) (x := a0) 0 rfl rfl dX2_risky_47 ?_
  refine g_getfr (pc := 48) k_18 (gblt rfl) lk_X2_9_18 dX2_risky_48 fun v23 => ?_
  refine g_bipush (pc := 51) (v := (6 : Int32)) bc_6 dX2_risky_51 ?_
  refine g_iaload (pc := 53) rfl dX2_risky_53 fun v24 => ?_
  refine g_icmp_ge (pc := 54) (tgt := 63) rfl dX2_risky_54 ?_ ?_
  · exact g_sub [0, 2] rfl (Hj18 () h22)
  refine g_iconst (pc := 57) (v := (1 : Int32)) ic_1 dX2_risky_57 ?_
  refine g_iload_n (pc := 58) (x := x3.2) 2 rfl rfl dX2_risky_58 ?_
  refine g_ishl (pc := 59) dX2_risky_59 ?_
  refine g_goto (pc := 60) (tgt := 64) rfl dX2_risky_60 ?_
  exact g_sub [0, 2] rfl (Hj14 ((1 : Int32) <<< (x3.2 &&& 31)) h22)
/-! FlareSlopes.weightiest(I)I -/
noncomputable def bX1_weightiest_11 (G : GG) (N : Nat) (a0 : Option Nat) (a1 : Int32) (w5 : (Int32 × Int32) → Hp → Out (Int32)) (x3 : Int32 × Int32) (h4 : Hp) : Out (Int32) :=
  gFr h4 a0 3 4 fun v6 =>
  bV h4 v6 16 (fun q23 => sX3_size G N (some q23) h4) fun v7 h8 =>
  if v7 ≤ x3.2 then (some (.inl x3.1, h8))
  else gJ (fun (x9 : Int32) (h10 : Hp) =>
  w5 (x9, x3.2 + (1 : Int32)) h10) fun j11 =>
  gJ (fun (x12 : Unit) (h13 : Hp) =>
  j11 x3.2 h13) fun j14 =>
  if x3.1 = (-1 : Int32) then (j14 () h8)
  else gFr h8 a0 3 4 fun v15 =>
  bV h8 v15 16 (fun q22 => sX3_weight G N (some q22) x3.2 a1 h8) fun v16 h17 =>
  gFr h17 a0 3 4 fun v18 =>
  bV h17 v18 16 (fun q21 => sX3_weight G N (some q21) x3.1 a1 h17) fun v19 h20 =>
  if v16 ≤ v19 then (j11 x3.1 h20)
  else j14 () h20
noncomputable def sX1_weightiest (G : GG) (N : Nat) (a0 : Option Nat) (a1 : Int32) (h : Hp) : Out (Int32) :=
  bV h a0 3 (fun q24 => sX1_withSlope G N (some q24) a1 h) fun v1 h2 =>
  gLp (bX1_weightiest_11 G N a0 a1) N ((-1 : Int32), (0 : Int32)) h2
abbrev mX1_weightiest : MI := (RX1, cX1_weightiest, 5, (some .int), [], 9, 142, "weightiest")
theorem tX1_weightiest {G : GG} {l : Launch} (hs : l.stackTraces = false) {N : Nat} {a0 : Option Nat} {a1 : Int32} {h : Hp} {r : Int32 ⊕ Nat} {hf : Hp} (ho : sX1_weightiest G N a0 a1 h = some (r, hf)) : gMet G l yX1_weightiest (ws_ yX1_weightiest cX1_weightiest 5 (some .int)) 9 142 [gr a0, gi a1] h cvI r hf := by
  refine gMet.of ho hs (plainFor_of_name pn_X1) rfl rfl (gbl rfl) fun X => ?_
  show gT G l X mX1_weightiest cvI r hf 0 [(0, gr a0), (1, gi a1)] [] h (sX1_weightiest G N a0 a1 h)
  delta sX1_weightiest
  refine g_aload_n (pc := 0) (x := a0) 0 rfl rfl dX1_weightiest_0 ?_
  refine g_iload_n (pc := 1) (x := a1) 1 rfl rfl dX1_weightiest_1 ?_
  refine g_bVr (pc := 2) (y := yX1_withSlope) (ws := ws_ yX1_withSlope cX1_withSlope 2 (some (.object "FlareSlopes$Spot"))) (fr := 8) (lo := 121) (as := [gi a1]) (st := []) (g_no) rfl (fun _ _ _ e => tX1_withSlope hs e) (fun K _ _ _ hq hM R e1 e2 => g_runV (M := mX1_weightiest) (pc := 2) (y := yX1_withSlope) (bytes := cX1_withSlope) (maxL := 2) (ret := (some (.object "FlareSlopes$Spot"))) (fr := 8) (lo := 121) (as := [gi a1]) (st := []) hq (C := "FlareSlopes") rfl gy_X1_withSlope (gbl rfl) (gbl rfl) (gbl rfl) q3044 q3046 qs40 dX1_weightiest_2 K hM R e1 e2) fun v1 h2 => ?_
  refine g_astore_n (pc := 5) (lv' := [(0, gr a0), (1, gi a1)]) [1, 2] rfl rfl (gblt rfl) dX1_weightiest_5 ?_
  refine g_iconst (pc := 6) (v := (-1 : Int32)) ic_m1 dX1_weightiest_6 ?_
  refine g_istore_n (pc := 7) (lv' := [(3, gi (-1 : Int32)), (0, gr a0), (1, gi a1)]) [0, 1, 2] rfl rfl (gblt rfl) dX1_weightiest_7 ?_
  refine g_iconst (pc := 8) (v := (0 : Int32)) ic_0 dX1_weightiest_8 ?_
  refine g_istore (pc := 9) (lv' := [(4, gi (0 : Int32)), (3, gi (-1 : Int32)), (0, gr a0), (1, gi a1)]) [0, 1, 2, 3] rfl (gblt rfl) dX1_weightiest_9 ?_
  refine g_sub (lv' := [(0, gr a0), (1, gi a1), (3, gi (-1 : Int32)), (4, gi (0 : Int32))]) [2, 3, 1, 0] rfl ?_
  refine g_loop (pc := 11) (fun (x3 : Int32 × Int32) => [(0, gr a0), (1, gi a1), (3, gi x3.1), (4, gi x3.2)]) (fun (_ : Int32 × Int32) => []) (fun w5 Hw5 x3 h4 => ?_) N ((-1 : Int32), (0 : Int32)) h2
  delta bX1_weightiest_11
  refine g_iload (pc := 11) (x := x3.2) 3 rfl dX1_weightiest_11 ?_
  refine g_aload_n (pc := 13) (x := a0) 0 rfl rfl dX1_weightiest_13 ?_
  refine g_getfr (pc := 14) k_3 (gblt rfl) lk_X1_56_3 dX1_weightiest_14 fun v6 => ?_
  refine g_bVi (pc := 17) (y := yX3_size) (ws := ws_ yX3_size cX3_size 1 (some .int)) (fr := 1) (lo := 20) (as := []) (st := [gi x3.2]) (g_no) rfl (fun _ _ _ e => tX3_size hs e) (fun K _ _ _ hq hM R e1 e2 => g_runV (M := mX1_weightiest) (pc := 17) (y := yX3_size) (bytes := cX3_size) (maxL := 1) (ret := (some .int)) (fr := 1) (lo := 20) (as := []) (st := [gi x3.2]) hq (C := "FlareSlopes$State") rfl gy_X3_size (gbl rfl) (gbl rfl) (gbl rfl) q1411 q1412 q1413 dX1_weightiest_17 K hM R e1 e2) fun v7 h8 => ?_
  refine g_icmp_ge (pc := 20) (tgt := 59) rfl dX1_weightiest_20 ?_ ?_
  · refine g_iload_n (pc := 59) (x := x3.1) 2 rfl rfl dX1_weightiest_59 ?_
    exact g_ireturn (pc := 60) rfl dX1_weightiest_60
  refine g_iload_n (pc := 23) (x := x3.1) 2 rfl rfl dX1_weightiest_23 ?_
  refine g_iconst (pc := 24) (v := (-1 : Int32)) ic_m1 dX1_weightiest_24 ?_
  refine g_join 53 (fun (x9 : Int32) => [(0, gr a0), (1, gi a1), (3, gi x9), (4, gi x3.2)]) (fun (x9 : Int32) => []) (fun x9 h10 => ?_) (fun j11 Hj11 => ?_)
  · refine g_iinc (pc := 53) (v := x3.2 + (1 : Int32)) 3 rfl (ii_1 _) (lv' := [(4, gi (x3.2 + (1 : Int32))), (0, gr a0), (1, gi a1), (3, gi x9)]) [0, 1, 2, 3] rfl (gblt rfl) dX1_weightiest_53 ?_
    refine g_goto (pc := 56) (tgt := 11) rfl dX1_weightiest_56 ?_
    exact g_sub [1, 2, 3, 0] rfl (Hw5 (x9, x3.2 + (1 : Int32)) h10)
  refine g_join 50 (fun (x12 : Unit) => [(0, gr a0), (1, gi a1), (4, gi x3.2)]) (fun (x12 : Unit) => []) (fun x12 h13 => ?_) (fun j14 Hj14 => ?_)
  · refine g_iload (pc := 50) (x := x3.2) 2 rfl dX1_weightiest_50 ?_
    refine g_istore_n (pc := 52) (lv' := [(3, gi x3.2), (0, gr a0), (1, gi a1), (4, gi x3.2)]) [0, 1, 2, 3] rfl rfl (gblt rfl) dX1_weightiest_52 ?_
    exact g_sub [1, 2, 0, 3] rfl (Hj11 x3.2 h13)
  refine g_icmp_eq (pc := 25) (tgt := 50) rfl dX1_weightiest_25 ?_ ?_
  · exact g_sub [0, 1, 3] rfl (Hj14 () h8)
  refine g_aload_n (pc := 28) (x := a0) 0 rfl rfl dX1_weightiest_28 ?_
  refine g_getfr (pc := 29) k_3 (gblt rfl) lk_X1_56_3 dX1_weightiest_29 fun v15 => ?_
  refine g_iload (pc := 32) (x := x3.2) 3 rfl dX1_weightiest_32 ?_
  refine g_iload_n (pc := 34) (x := a1) 1 rfl rfl dX1_weightiest_34 ?_
  refine g_bVi (pc := 35) (y := yX3_weight) (ws := ws_ yX3_weight cX3_weight 3 (some .int)) (fr := 5) (lo := 106) (as := [gi x3.2, gi a1]) (st := []) (g_no) rfl (fun _ _ _ e => tX3_weight hs e) (fun K _ _ _ hq hM R e1 e2 => g_runV (M := mX1_weightiest) (pc := 35) (y := yX3_weight) (bytes := cX3_weight) (maxL := 3) (ret := (some .int)) (fr := 5) (lo := 106) (as := [gi x3.2, gi a1]) (st := []) hq (C := "FlareSlopes$State") rfl gy_X3_weight (gbl rfl) (gbl rfl) (gbl rfl) q3201 q3085 q3086 dX1_weightiest_35 K hM R e1 e2) fun v16 h17 => ?_
  refine g_aload_n (pc := 38) (x := a0) 0 rfl rfl dX1_weightiest_38 ?_
  refine g_getfr (pc := 39) k_3 (gblt rfl) lk_X1_56_3 dX1_weightiest_39 fun v18 => ?_
  refine g_iload_n (pc := 42) (x := x3.1) 2 rfl rfl dX1_weightiest_42 ?_
  refine g_iload_n (pc := 43) (x := a1) 1 rfl rfl dX1_weightiest_43 ?_
  refine g_bVi (pc := 44) (y := yX3_weight) (ws := ws_ yX3_weight cX3_weight 3 (some .int)) (fr := 5) (lo := 106) (as := [gi x3.1, gi a1]) (st := [gi v16]) (g_no) rfl (fun _ _ _ e => tX3_weight hs e) (fun K _ _ _ hq hM R e1 e2 => g_runV (M := mX1_weightiest) (pc := 44) (y := yX3_weight) (bytes := cX3_weight) (maxL := 3) (ret := (some .int)) (fr := 5) (lo := 106) (as := [gi x3.1, gi a1]) (st := [gi v16]) hq (C := "FlareSlopes$State") rfl gy_X3_weight (gbl rfl) (gbl rfl) (gbl rfl) q3201 q3085 q3086 dX1_weightiest_44 K hM R e1 e2) fun v19 h20 => ?_
  refine g_icmp_le (pc := 47) (tgt := 53) rfl dX1_weightiest_47 ?_ ?_
  · exact Hj11 x3.1 h20
  exact g_sub [0, 1, 3] rfl (Hj14 () h20)
/-! FlareSlopesLaw.weightiest(LFlareSlopes;I[J)I -/
noncomputable def sX0_weightiest (G : GG) (N : Nat) (a0 : Option Nat) (a1 : Int32) (a2 : Option Nat) (h : Hp) : Out (Int32) :=
  bVX h a0 3 (fun q4 => sX1_weightiest G N (some q4) a1 h) (fun v1 h2 =>
  gSl G h2 a2 3 (0 : Int32) (v1.toInt64) fun h3 =>
  some (.inl (0 : Int32), h3)) fun q5 h6 =>
  gSw h6 (some q5) 0 (some (.inl (1 : Int32), h6)) (gSw h6 (some q5) 2 (some (.inl (2 : Int32), h6)) (none))
abbrev mX0_weightiest : MI := (RX0, cX0_weightiest, 4, (some .int), [(0, 9, 12, 21), (0, 9, 15, 13)], 10, 166, "weightiest")
theorem tX0_weightiest {G : GG} {l : Launch} (hs : l.stackTraces = false) {N : Nat} {a0 : Option Nat} {a1 : Int32} {a2 : Option Nat} {h : Hp} {r : Int32 ⊕ Nat} {hf : Hp} (ho : sX0_weightiest G N a0 a1 a2 h = some (r, hf)) : gMet G l yX0_weightiest (wsW_ yX0_weightiest cX0_weightiest 4 (some .int) [(0, 9, 12, 21), (0, 9, 15, 13)]) 10 166 [gr a0, gi a1, gr a2] h cvI r hf := by
  refine gMet.ofW ho hs (plainFor_of_name pn_X0) rfl rfl (gbl rfl) fun X => ?_
  show gT G l X mX0_weightiest cvI r hf 0 [(0, gr a0), (1, gi a1), (2, gr a2)] [] h (sX0_weightiest G N a0 a1 a2 h)
  delta sX0_weightiest
  refine g_aload_n (pc := 0) (x := a2) 2 rfl rfl dX0_weightiest_0 ?_
  refine g_iconst (pc := 1) (v := (0 : Int32)) ic_0 dX0_weightiest_1 ?_
  refine g_aload_n (pc := 2) (x := a0) 0 rfl rfl dX0_weightiest_2 ?_
  refine g_iload_n (pc := 3) (x := a1) 1 rfl rfl dX0_weightiest_3 ?_
  refine g_bVXi (pc := 4) (y := yX1_weightiest) (ws := ws_ yX1_weightiest cX1_weightiest 5 (some .int)) (fr := 9) (lo := 142) (as := [gi a1]) (st := [gi (0 : Int32), gr a2]) rfl (fun _ _ _ e => tX1_weightiest hs e) (fun K _ _ _ hq hM R e1 e2 => g_runV (M := mX0_weightiest) (pc := 4) (y := yX1_weightiest) (bytes := cX1_weightiest) (maxL := 5) (ret := (some .int)) (fr := 9) (lo := 142) (as := [gi a1]) (st := [gi (0 : Int32), gr a2]) hq (C := "FlareSlopes") rfl gy_X1_weightiest (gbl rfl) (gbl rfl) (gbl rfl) q3414 q3415 q3416 dX0_weightiest_4 K hM R e1 e2) (fun v1 h2 => ?_) (fun q5 h6 => ?_)
  · refine g_i2l (pc := 7) dX0_weightiest_7 ?_
    refine g_lastore (pc := 8) rfl dX0_weightiest_8 fun h3 => ?_
    refine g_goto (pc := 9) (tgt := 18) rfl dX0_weightiest_9 ?_
    refine g_iconst (pc := 18) (v := (0 : Int32)) ic_0 dX0_weightiest_18 ?_
    exact g_ireturn (pc := 19) rfl dX0_weightiest_19
  refine g_catch (E := "java/lang/IllegalStateException") [] ⟨0, 9, 12, 21⟩ [⟨0, 9, 15, 13⟩] rfl rfl (List.forall_mem_nil _) (by decide +kernel) (by decide +kernel) q1425 q1439 ?_ ?_
  · refine g_astore_n (pc := 12) (lv' := []) [] rfl rfl (gblt rfl) dX0_weightiest_12 ?_
    refine g_iconst (pc := 13) (v := (1 : Int32)) ic_1 dX0_weightiest_13 ?_
    exact g_ireturn (pc := 14) rfl dX0_weightiest_14
  refine g_catch (E := "java/lang/IndexOutOfBoundsException") [⟨0, 9, 12, 21⟩] ⟨0, 9, 15, 13⟩ [] rfl rfl (List.forall_mem_cons.mpr ⟨Or.inr ⟨by decide +kernel, _, q1425, ncl_java_lang_IndexOutOfBoundsException_java_lang_IllegalStateException⟩, List.forall_mem_nil _⟩) (by decide +kernel) (by decide +kernel) q325 q418 ?_ ?_
  · refine g_astore_n (pc := 15) (lv' := []) [] rfl rfl (gblt rfl) dX0_weightiest_15 ?_
    refine g_iconst (pc := 16) (v := (2 : Int32)) ic_2 dX0_weightiest_16 ?_
    exact g_ireturn (pc := 17) rfl dX0_weightiest_17
  exact g_noneX
/-! FlareSlopesModel.weightiest(I)I -/
noncomputable def bX2_weightiest_14 (G : GG) (N : Nat) (a0 : Option Nat) (a1 : Int32) (w5 : (Int32 × Int32) → Hp → Out (Int32)) (x3 : Int32 × Int32) (h4 : Hp) : Out (Int32) :=
  gFr h4 a0 18 1 fun v6 =>
  gAi h4 v6 0 (6 : Int32) fun v7 =>
  if v7 ≤ x3.2 then (some (.inl x3.1, h4))
  else gJ (fun (x8 : Int32) (h9 : Hp) =>
  w5 (x8, x3.2 + (1 : Int32)) h9) fun j10 =>
  gJ (fun (x11 : Unit) (h12 : Hp) =>
  j10 x3.2 h12) fun j13 =>
  if x3.1 = (-1 : Int32) then (j13 () h4)
  else bV h4 a0 18 (fun q19 => sX2_weight G N (some q19) x3.2 a1 h4) fun v14 h15 =>
  bV h15 a0 18 (fun q18 => sX2_weight G N (some q18) x3.1 a1 h15) fun v16 h17 =>
  if v14 ≤ v16 then (j10 x3.1 h17)
  else j13 () h17
noncomputable def sX2_weightiest (G : GG) (N : Nat) (a0 : Option Nat) (a1 : Int32) (h : Hp) : Out (Int32) :=
  bV h a0 18 (fun q20 => sX2_maySlope G N (some q20) a1 h) fun v1 h2 =>
  if v1 = 0 then (some (.inl (0 : Int32), h2))
  else gLp (bX2_weightiest_14 G N a0 a1) N ((-1 : Int32), (0 : Int32)) h2
abbrev mX2_weightiest : MI := (RX2, cX2_weightiest, 4, (some .int), [], 3, 66, "weightiest")
theorem tX2_weightiest {G : GG} {l : Launch} (hs : l.stackTraces = false) {N : Nat} {a0 : Option Nat} {a1 : Int32} {h : Hp} {r : Int32 ⊕ Nat} {hf : Hp} (ho : sX2_weightiest G N a0 a1 h = some (r, hf)) : gMet G l yX2_weightiest (ws_ yX2_weightiest cX2_weightiest 4 (some .int)) 3 66 [gr a0, gi a1] h cvI r hf := by
  refine gMet.of ho hs (plainFor_of_name pn_X2) rfl rfl (gbl rfl) fun X => ?_
  show gT G l X mX2_weightiest cvI r hf 0 [(0, gr a0), (1, gi a1)] [] h (sX2_weightiest G N a0 a1 h)
  delta sX2_weightiest
  refine g_aload_n (pc := 0) (x := a0) 0 rfl rfl dX2_weightiest_0 ?_
  refine g_iload_n (pc := 1) (x := a1) 1 rfl rfl dX2_weightiest_1 ?_
  refine g_bVi (pc := 2) (y := yX2_maySlope) (ws := ws_ yX2_maySlope cX2_maySlope 2 (some .boolean)) (fr := 2) (lo := 45) (as := [gi a1]) (st := []) (g_no) rfl (fun _ _ _ e => tX2_maySlope hs e) (fun K _ _ _ hq hM R e1 e2 => g_runV (M := mX2_weightiest) (pc := 2) (y := yX2_maySlope) (bytes := cX2_maySlope) (maxL := 2) (ret := (some .boolean)) (fr := 2) (lo := 45) (as := [gi a1]) (st := []) hq (C := "FlareSlopesModel") rfl gy_X2_maySlope (gbl rfl) (gbl rfl) (gbl rfl) q4411 q4413 qs111 dX2_weightiest_2 K hM R e1 e2) fun v1 h2 => ?_
  refine g_if_ne (pc := 5) (tgt := 10) rfl dX2_weightiest_5 ?_ ?_
  · refine g_iconst (pc := 8) (v := (0 : Int32)) ic_0 dX2_weightiest_8 ?_
    exact g_ireturn (pc := 9) rfl dX2_weightiest_9
  refine g_iconst (pc := 10) (v := (-1 : Int32)) ic_m1 dX2_weightiest_10 ?_
  refine g_istore_n (pc := 11) (lv' := [(2, gi (-1 : Int32)), (0, gr a0), (1, gi a1)]) [0, 1, 2] rfl rfl (gblt rfl) dX2_weightiest_11 ?_
  refine g_iconst (pc := 12) (v := (0 : Int32)) ic_0 dX2_weightiest_12 ?_
  refine g_istore_n (pc := 13) (lv' := [(3, gi (0 : Int32)), (2, gi (-1 : Int32)), (0, gr a0), (1, gi a1)]) [0, 1, 2, 3] rfl rfl (gblt rfl) dX2_weightiest_13 ?_
  refine g_sub (lv' := [(0, gr a0), (1, gi a1), (2, gi (-1 : Int32)), (3, gi (0 : Int32))]) [2, 3, 1, 0] rfl ?_
  refine g_loop (pc := 14) (fun (x3 : Int32 × Int32) => [(0, gr a0), (1, gi a1), (2, gi x3.1), (3, gi x3.2)]) (fun (_ : Int32 × Int32) => []) (fun w5 Hw5 x3 h4 => ?_) N ((-1 : Int32), (0 : Int32)) h2
  delta bX2_weightiest_14
  refine g_iload_n (pc := 14) (x := x3.2) 3 rfl rfl dX2_weightiest_14 ?_
  refine g_aload_n (pc := 15) (x := a0) 0 rfl rfl dX2_weightiest_15 ?_
  refine g_getfr (pc := 16) k_18 (gblt rfl) lk_X2_9_18 dX2_weightiest_16 fun v6 => ?_
  refine g_bipush (pc := 19) (v := (6 : Int32)) bc_6 dX2_weightiest_19 ?_
  refine g_iaload (pc := 21) rfl dX2_weightiest_21 fun v7 => ?_
  refine g_icmp_ge (pc := 22) (tgt := 53) rfl dX2_weightiest_22 ?_ ?_
  · refine g_iload_n (pc := 53) (x := x3.1) 2 rfl rfl dX2_weightiest_53 ?_
    exact g_ireturn (pc := 54) rfl dX2_weightiest_54
  refine g_iload_n (pc := 25) (x := x3.1) 2 rfl rfl dX2_weightiest_25 ?_
  refine g_iconst (pc := 26) (v := (-1 : Int32)) ic_m1 dX2_weightiest_26 ?_
  refine g_join 47 (fun (x8 : Int32) => [(0, gr a0), (1, gi a1), (2, gi x8), (3, gi x3.2)]) (fun (x8 : Int32) => []) (fun x8 h9 => ?_) (fun j10 Hj10 => ?_)
  · refine g_iinc (pc := 47) (v := x3.2 + (1 : Int32)) 3 rfl (ii_1 _) (lv' := [(3, gi (x3.2 + (1 : Int32))), (0, gr a0), (1, gi a1), (2, gi x8)]) [0, 1, 2, 3] rfl (gblt rfl) dX2_weightiest_47 ?_
    refine g_goto (pc := 50) (tgt := 14) rfl dX2_weightiest_50 ?_
    exact g_sub [1, 2, 3, 0] rfl (Hw5 (x8, x3.2 + (1 : Int32)) h9)
  refine g_join 45 (fun (x11 : Unit) => [(0, gr a0), (1, gi a1), (3, gi x3.2)]) (fun (x11 : Unit) => []) (fun x11 h12 => ?_) (fun j13 Hj13 => ?_)
  · refine g_iload_n (pc := 45) (x := x3.2) 2 rfl rfl dX2_weightiest_45 ?_
    refine g_istore_n (pc := 46) (lv' := [(2, gi x3.2), (0, gr a0), (1, gi a1), (3, gi x3.2)]) [0, 1, 2, 3] rfl rfl (gblt rfl) dX2_weightiest_46 ?_
    exact g_sub [1, 2, 0, 3] rfl (Hj10 x3.2 h12)
  refine g_icmp_eq (pc := 27) (tgt := 45) rfl dX2_weightiest_27 ?_ ?_
  · exact g_sub [0, 1, 3] rfl (Hj13 () h4)
  refine g_aload_n (pc := 30) (x := a0) 0 rfl rfl dX2_weightiest_30 ?_
  refine g_iload_n (pc := 31) (x := x3.2) 3 rfl rfl dX2_weightiest_31 ?_
  refine g_iload_n (pc := 32) (x := a1) 1 rfl rfl dX2_weightiest_32 ?_
  refine g_bVi (pc := 33) (y := yX2_weight) (ws := ws_ yX2_weight cX2_weight 3 (some .int)) (fr := 2) (lo := 42) (as := [gi x3.2, gi a1]) (st := []) (g_no) rfl (fun _ _ _ e => tX2_weight hs e) (fun K _ _ _ hq hM R e1 e2 => g_runV (M := mX2_weightiest) (pc := 33) (y := yX2_weight) (bytes := cX2_weight) (maxL := 3) (ret := (some .int)) (fr := 2) (lo := 42) (as := [gi x3.2, gi a1]) (st := []) hq (C := "FlareSlopesModel") rfl gy_X2_weight (gbl rfl) (gbl rfl) (gbl rfl) q4279 q4281 qs100 dX2_weightiest_33 K hM R e1 e2) fun v14 h15 => ?_
  refine g_aload_n (pc := 36) (x := a0) 0 rfl rfl dX2_weightiest_36 ?_
  refine g_iload_n (pc := 37) (x := x3.1) 2 rfl rfl dX2_weightiest_37 ?_
  refine g_iload_n (pc := 38) (x := a1) 1 rfl rfl dX2_weightiest_38 ?_
  refine g_bVi (pc := 39) (y := yX2_weight) (ws := ws_ yX2_weight cX2_weight 3 (some .int)) (fr := 2) (lo := 42) (as := [gi x3.1, gi a1]) (st := [gi v14]) (g_no) rfl (fun _ _ _ e => tX2_weight hs e) (fun K _ _ _ hq hM R e1 e2 => g_runV (M := mX2_weightiest) (pc := 39) (y := yX2_weight) (bytes := cX2_weight) (maxL := 3) (ret := (some .int)) (fr := 2) (lo := 42) (as := [gi x3.1, gi a1]) (st := [gi v14]) hq (C := "FlareSlopesModel") rfl gy_X2_weight (gbl rfl) (gbl rfl) (gbl rfl) q4279 q4281 qs100 dX2_weightiest_39 K hM R e1 e2) fun v16 h17 => ?_
  refine g_icmp_le (pc := 42) (tgt := 47) rfl dX2_weightiest_42 ?_ ?_
  · exact Hj10 x3.1 h17
  exact g_sub [0, 1, 3] rfl (Hj13 () h17)
/-! FlareSlopes.leastTrusted()I -/
noncomputable def bX1_leastTrusted_9 (G : GG) (N : Nat) (v1 : Option Nat) (w5 : (Int32 × Int32) → Hp → Out (Int32)) (x3 : Int32 × Int32) (h4 : Hp) : Out (Int32) :=
  bV h4 v1 16 (fun q22 => sX3_size G N (some q22) h4) fun v6 h7 =>
  if v6 ≤ x3.2 then (some (.inl x3.1, h7))
  else gJ (fun (x8 : Int32) (h9 : Hp) =>
  w5 (x8, x3.2 + (1 : Int32)) h9) fun j10 =>
  gJ (fun (x11 : Unit) (h12 : Hp) =>
  j10 x3.2 h12) fun j13 =>
  if x3.1 = (-1 : Int32) then (j13 () h7)
  else bV h7 v1 16 (fun q21 => sX3_cabin G N (some q21) x3.2 h7) fun v14 h15 =>
  gFi h15 v14 7 3 fun v16 =>
  bV h15 v1 16 (fun q20 => sX3_cabin G N (some q20) x3.1 h15) fun v17 h18 =>
  gFi h18 v17 7 3 fun v19 =>
  if v19 ≤ v16 then (j10 x3.1 h18)
  else j13 () h18
noncomputable def sX1_leastTrusted (G : GG) (N : Nat) (a0 : Option Nat) (h : Hp) : Out (Int32) :=
  bV h a0 3 (fun q23 => sX1_loaded G N (some q23) h) fun v1 h2 =>
  gLp (bX1_leastTrusted_9 G N v1) N ((-1 : Int32), (0 : Int32)) h2
abbrev mX1_leastTrusted : MI := (RX1, cX1_leastTrusted, 4, (some .int), [], 8, 121, "leastTrusted")
theorem tX1_leastTrusted {G : GG} {l : Launch} (hs : l.stackTraces = false) {N : Nat} {a0 : Option Nat} {h : Hp} {r : Int32 ⊕ Nat} {hf : Hp} (ho : sX1_leastTrusted G N a0 h = some (r, hf)) : gMet G l yX1_leastTrusted (ws_ yX1_leastTrusted cX1_leastTrusted 4 (some .int)) 8 121 [gr a0] h cvI r hf := by
  refine gMet.of ho hs (plainFor_of_name pn_X1) rfl rfl (gbl rfl) fun X => ?_
  show gT G l X mX1_leastTrusted cvI r hf 0 [(0, gr a0)] [] h (sX1_leastTrusted G N a0 h)
  delta sX1_leastTrusted
  refine g_aload_n (pc := 0) (x := a0) 0 rfl rfl dX1_leastTrusted_0 ?_
  refine g_bVr (pc := 1) (y := yX1_loaded) (ws := ws_ yX1_loaded cX1_loaded 1 (some (.object "FlareSlopes$State"))) (fr := 7) (lo := 101) (as := []) (st := []) (g_no) rfl (fun _ _ _ e => tX1_loaded hs e) (fun K _ _ _ hq hM R e1 e2 => g_runV (M := mX1_leastTrusted) (pc := 1) (y := yX1_loaded) (bytes := cX1_loaded) (maxL := 1) (ret := (some (.object "FlareSlopes$State"))) (fr := 7) (lo := 101) (as := []) (st := []) hq (C := "FlareSlopes") rfl gy_X1_loaded (gbl rfl) (gbl rfl) (gbl rfl) q1430 q1432 qs17 dX1_leastTrusted_1 K hM R e1 e2) fun v1 h2 => ?_
  refine g_astore_n (pc := 4) (lv' := [(1, gr v1)]) [0] rfl rfl (gblt rfl) dX1_leastTrusted_4 ?_
  refine g_iconst (pc := 5) (v := (-1 : Int32)) ic_m1 dX1_leastTrusted_5 ?_
  refine g_istore_n (pc := 6) (lv' := [(2, gi (-1 : Int32)), (1, gr v1)]) [0, 1] rfl rfl (gblt rfl) dX1_leastTrusted_6 ?_
  refine g_iconst (pc := 7) (v := (0 : Int32)) ic_0 dX1_leastTrusted_7 ?_
  refine g_istore_n (pc := 8) (lv' := [(3, gi (0 : Int32)), (2, gi (-1 : Int32)), (1, gr v1)]) [0, 1, 2] rfl rfl (gblt rfl) dX1_leastTrusted_8 ?_
  refine g_sub (lv' := [(1, gr v1), (2, gi (-1 : Int32)), (3, gi (0 : Int32))]) [2, 1, 0] rfl ?_
  refine g_loop (pc := 9) (fun (x3 : Int32 × Int32) => [(1, gr v1), (2, gi x3.1), (3, gi x3.2)]) (fun (_ : Int32 × Int32) => []) (fun w5 Hw5 x3 h4 => ?_) N ((-1 : Int32), (0 : Int32)) h2
  delta bX1_leastTrusted_9
  refine g_iload_n (pc := 9) (x := x3.2) 2 rfl rfl dX1_leastTrusted_9 ?_
  refine g_aload_n (pc := 10) (x := v1) 0 rfl rfl dX1_leastTrusted_10 ?_
  refine g_bVi (pc := 11) (y := yX3_size) (ws := ws_ yX3_size cX3_size 1 (some .int)) (fr := 1) (lo := 20) (as := []) (st := [gi x3.2]) (g_no) rfl (fun _ _ _ e => tX3_size hs e) (fun K _ _ _ hq hM R e1 e2 => g_runV (M := mX1_leastTrusted) (pc := 11) (y := yX3_size) (bytes := cX3_size) (maxL := 1) (ret := (some .int)) (fr := 1) (lo := 20) (as := []) (st := [gi x3.2]) hq (C := "FlareSlopes$State") rfl gy_X3_size (gbl rfl) (gbl rfl) (gbl rfl) q1411 q1412 q1413 dX1_leastTrusted_11 K hM R e1 e2) fun v6 h7 => ?_
  refine g_icmp_ge (pc := 14) (tgt := 49) rfl dX1_leastTrusted_14 ?_ ?_
  · refine g_iload_n (pc := 49) (x := x3.1) 1 rfl rfl dX1_leastTrusted_49 ?_
    exact g_ireturn (pc := 50) rfl dX1_leastTrusted_50
  refine g_iload_n (pc := 17) (x := x3.1) 1 rfl rfl dX1_leastTrusted_17 ?_
  refine g_iconst (pc := 18) (v := (-1 : Int32)) ic_m1 dX1_leastTrusted_18 ?_
  refine g_join 43 (fun (x8 : Int32) => [(1, gr v1), (2, gi x8), (3, gi x3.2)]) (fun (x8 : Int32) => []) (fun x8 h9 => ?_) (fun j10 Hj10 => ?_)
  · refine g_iinc (pc := 43) (v := x3.2 + (1 : Int32)) 2 rfl (ii_1 _) (lv' := [(3, gi (x3.2 + (1 : Int32))), (1, gr v1), (2, gi x8)]) [0, 1, 2] rfl (gblt rfl) dX1_leastTrusted_43 ?_
    refine g_goto (pc := 46) (tgt := 9) rfl dX1_leastTrusted_46 ?_
    exact g_sub [1, 2, 0] rfl (Hw5 (x8, x3.2 + (1 : Int32)) h9)
  refine g_join 41 (fun (x11 : Unit) => [(1, gr v1), (3, gi x3.2)]) (fun (x11 : Unit) => []) (fun x11 h12 => ?_) (fun j13 Hj13 => ?_)
  · refine g_iload_n (pc := 41) (x := x3.2) 1 rfl rfl dX1_leastTrusted_41 ?_
    refine g_istore_n (pc := 42) (lv' := [(2, gi x3.2), (1, gr v1), (3, gi x3.2)]) [0, 1, 2] rfl rfl (gblt rfl) dX1_leastTrusted_42 ?_
    exact g_sub [1, 0, 2] rfl (Hj10 x3.2 h12)
  refine g_icmp_eq (pc := 19) (tgt := 41) rfl dX1_leastTrusted_19 ?_ ?_
  · exact g_sub [0, 2] rfl (Hj13 () h7)
  refine g_aload_n (pc := 22) (x := v1) 0 rfl rfl dX1_leastTrusted_22 ?_
  refine g_iload_n (pc := 23) (x := x3.2) 2 rfl rfl dX1_leastTrusted_23 ?_
  refine g_bVr (pc := 24) (y := yX3_cabin) (ws := ws_ yX3_cabin cX3_cabin 2 (some (.object "FlareSlopes$Cabin"))) (fr := 3) (lo := 64) (as := [gi x3.2]) (st := []) (g_no) rfl (fun _ _ _ e => tX3_cabin hs e) (fun K _ _ _ hq hM R e1 e2 => g_runV (M := mX1_leastTrusted) (pc := 24) (y := yX3_cabin) (bytes := cX3_cabin) (maxL := 2) (ret := (some (.object "FlareSlopes$Cabin"))) (fr := 3) (lo := 64) (as := [gi x3.2]) (st := []) hq (C := "FlareSlopes$State") rfl gy_X3_cabin (gbl rfl) (gbl rfl) (gbl rfl) q1738 q1639 q1640 dX1_leastTrusted_24 K hM R e1 e2) fun v14 h15 => ?_
  refine g_getfi (pc := 27) k_7 (gblt rfl) lk_X1_288_7 dX1_leastTrusted_27 fun v16 => ?_
  refine g_aload_n (pc := 30) (x := v1) 0 rfl rfl dX1_leastTrusted_30 ?_
  refine g_iload_n (pc := 31) (x := x3.1) 1 rfl rfl dX1_leastTrusted_31 ?_
  refine g_bVr (pc := 32) (y := yX3_cabin) (ws := ws_ yX3_cabin cX3_cabin 2 (some (.object "FlareSlopes$Cabin"))) (fr := 3) (lo := 64) (as := [gi x3.1]) (st := [gi v16]) (g_no) rfl (fun _ _ _ e => tX3_cabin hs e) (fun K _ _ _ hq hM R e1 e2 => g_runV (M := mX1_leastTrusted) (pc := 32) (y := yX3_cabin) (bytes := cX3_cabin) (maxL := 2) (ret := (some (.object "FlareSlopes$Cabin"))) (fr := 3) (lo := 64) (as := [gi x3.1]) (st := [gi v16]) hq (C := "FlareSlopes$State") rfl gy_X3_cabin (gbl rfl) (gbl rfl) (gbl rfl) q1738 q1639 q1640 dX1_leastTrusted_32 K hM R e1 e2) fun v17 h18 => ?_
  refine g_getfi (pc := 35) k_7 (gblt rfl) lk_X1_288_7 dX1_leastTrusted_35 fun v19 => ?_
  refine g_icmp_ge (pc := 38) (tgt := 43) rfl dX1_leastTrusted_38 ?_ ?_
  · exact Hj10 x3.1 h18
  exact g_sub [0, 2] rfl (Hj13 () h18)
/-! FlareSlopesLaw.leastTrusted(LFlareSlopes;[J)I -/
noncomputable def sX0_leastTrusted (G : GG) (N : Nat) (a0 : Option Nat) (a1 : Option Nat) (h : Hp) : Out (Int32) :=
  bVX h a0 3 (fun q4 => sX1_leastTrusted G N (some q4) h) (fun v1 h2 =>
  gSl G h2 a1 3 (0 : Int32) (v1.toInt64) fun h3 =>
  some (.inl (0 : Int32), h3)) fun q5 h6 =>
  gSw h6 (some q5) 0 (some (.inl (1 : Int32), h6)) (none)
abbrev mX0_leastTrusted : MI := (RX0, cX0_leastTrusted, 3, (some .int), [(0, 8, 11, 21)], 9, 144, "leastTrusted")
theorem tX0_leastTrusted {G : GG} {l : Launch} (hs : l.stackTraces = false) {N : Nat} {a0 : Option Nat} {a1 : Option Nat} {h : Hp} {r : Int32 ⊕ Nat} {hf : Hp} (ho : sX0_leastTrusted G N a0 a1 h = some (r, hf)) : gMet G l yX0_leastTrusted (wsW_ yX0_leastTrusted cX0_leastTrusted 3 (some .int) [(0, 8, 11, 21)]) 9 144 [gr a0, gr a1] h cvI r hf := by
  refine gMet.ofW ho hs (plainFor_of_name pn_X0) rfl rfl (gbl rfl) fun X => ?_
  show gT G l X mX0_leastTrusted cvI r hf 0 [(0, gr a0), (1, gr a1)] [] h (sX0_leastTrusted G N a0 a1 h)
  delta sX0_leastTrusted
  refine g_aload_n (pc := 0) (x := a1) 1 rfl rfl dX0_leastTrusted_0 ?_
  refine g_iconst (pc := 1) (v := (0 : Int32)) ic_0 dX0_leastTrusted_1 ?_
  refine g_aload_n (pc := 2) (x := a0) 0 rfl rfl dX0_leastTrusted_2 ?_
  refine g_bVXi (pc := 3) (y := yX1_leastTrusted) (ws := ws_ yX1_leastTrusted cX1_leastTrusted 4 (some .int)) (fr := 8) (lo := 121) (as := []) (st := [gi (0 : Int32), gr a1]) rfl (fun _ _ _ e => tX1_leastTrusted hs e) (fun K _ _ _ hq hM R e1 e2 => g_runV (M := mX0_leastTrusted) (pc := 3) (y := yX1_leastTrusted) (bytes := cX1_leastTrusted) (maxL := 4) (ret := (some .int)) (fr := 8) (lo := 121) (as := []) (st := [gi (0 : Int32), gr a1]) hq (C := "FlareSlopes") rfl gy_X1_leastTrusted (gbl rfl) (gbl rfl) (gbl rfl) q3421 q3422 q3423 dX0_leastTrusted_3 K hM R e1 e2) (fun v1 h2 => ?_) (fun q5 h6 => ?_)
  · refine g_i2l (pc := 6) dX0_leastTrusted_6 ?_
    refine g_lastore (pc := 7) rfl dX0_leastTrusted_7 fun h3 => ?_
    refine g_goto (pc := 8) (tgt := 14) rfl dX0_leastTrusted_8 ?_
    refine g_iconst (pc := 14) (v := (0 : Int32)) ic_0 dX0_leastTrusted_14 ?_
    exact g_ireturn (pc := 15) rfl dX0_leastTrusted_15
  refine g_catch (E := "java/lang/IllegalStateException") [] ⟨0, 8, 11, 21⟩ [] rfl rfl (List.forall_mem_nil _) (by decide +kernel) (by decide +kernel) q1425 q1439 ?_ ?_
  · refine g_astore_n (pc := 11) (lv' := []) [] rfl rfl (gblt rfl) dX0_leastTrusted_11 ?_
    refine g_iconst (pc := 12) (v := (1 : Int32)) ic_1 dX0_leastTrusted_12 ?_
    exact g_ireturn (pc := 13) rfl dX0_leastTrusted_13
  exact g_noneX
/-! FlareSlopesModel.leastTrusted()I -/
noncomputable def bX2_leastTrusted_13 (G : GG) (N : Nat) (a0 : Option Nat) (w5 : (Int32 × Int32) → Hp → Out (Int32)) (x3 : Int32 × Int32) (h4 : Hp) : Out (Int32) :=
  gFr h4 a0 18 1 fun v6 =>
  gAi h4 v6 0 (6 : Int32) fun v7 =>
  if v7 ≤ x3.2 then (some (.inl x3.1, h4))
  else gJ (fun (x8 : Int32) (h9 : Hp) =>
  w5 (x8, x3.2 + (1 : Int32)) h9) fun j10 =>
  gJ (fun (x11 : Unit) (h12 : Hp) =>
  j10 x3.2 h12) fun j13 =>
  if x3.1 = (-1 : Int32) then (j13 () h4)
  else gFr h4 a0 18 1 fun v14 =>
  gAi h4 v14 0 ((158 : Int32) + x3.2) fun v15 =>
  gFr h4 a0 18 1 fun v16 =>
  gAi h4 v16 0 ((158 : Int32) + x3.1) fun v17 =>
  if v17 ≤ v15 then (j10 x3.1 h4)
  else j13 () h4
noncomputable def sX2_leastTrusted (G : GG) (N : Nat) (a0 : Option Nat) (h : Hp) : Out (Int32) :=
  bV h a0 18 (fun q18 => sX2_mayAsk G N (some q18) h) fun v1 h2 =>
  if v1 = 0 then (some (.inl (0 : Int32), h2))
  else gLp (bX2_leastTrusted_13 G N a0) N ((-1 : Int32), (0 : Int32)) h2
abbrev mX2_leastTrusted : MI := (RX2, cX2_leastTrusted, 3, (some .int), [], 2, 43, "leastTrusted")
theorem tX2_leastTrusted {G : GG} {l : Launch} (hs : l.stackTraces = false) {N : Nat} {a0 : Option Nat} {h : Hp} {r : Int32 ⊕ Nat} {hf : Hp} (ho : sX2_leastTrusted G N a0 h = some (r, hf)) : gMet G l yX2_leastTrusted (ws_ yX2_leastTrusted cX2_leastTrusted 3 (some .int)) 2 43 [gr a0] h cvI r hf := by
  refine gMet.of ho hs (plainFor_of_name pn_X2) rfl rfl (gbl rfl) fun X => ?_
  show gT G l X mX2_leastTrusted cvI r hf 0 [(0, gr a0)] [] h (sX2_leastTrusted G N a0 h)
  delta sX2_leastTrusted
  refine g_aload_n (pc := 0) (x := a0) 0 rfl rfl dX2_leastTrusted_0 ?_
  refine g_bVi (pc := 1) (y := yX2_mayAsk) (ws := ws_ yX2_mayAsk cX2_mayAsk 1 (some .boolean)) (fr := 1) (lo := 23) (as := []) (st := []) (g_no) rfl (fun _ _ _ e => tX2_mayAsk hs e) (fun K _ _ _ hq hM R e1 e2 => g_runV (M := mX2_leastTrusted) (pc := 1) (y := yX2_mayAsk) (bytes := cX2_mayAsk) (maxL := 1) (ret := (some .boolean)) (fr := 1) (lo := 23) (as := []) (st := []) hq (C := "FlareSlopesModel") rfl gy_X2_mayAsk (gbl rfl) (gbl rfl) (gbl rfl) q4300 q4302 qs102 dX2_leastTrusted_1 K hM R e1 e2) fun v1 h2 => ?_
  refine g_if_ne (pc := 4) (tgt := 9) rfl dX2_leastTrusted_4 ?_ ?_
  · refine g_iconst (pc := 7) (v := (0 : Int32)) ic_0 dX2_leastTrusted_7 ?_
    exact g_ireturn (pc := 8) rfl dX2_leastTrusted_8
  refine g_iconst (pc := 9) (v := (-1 : Int32)) ic_m1 dX2_leastTrusted_9 ?_
  refine g_istore_n (pc := 10) (lv' := [(1, gi (-1 : Int32)), (0, gr a0)]) [0, 1] rfl rfl (gblt rfl) dX2_leastTrusted_10 ?_
  refine g_iconst (pc := 11) (v := (0 : Int32)) ic_0 dX2_leastTrusted_11 ?_
  refine g_istore_n (pc := 12) (lv' := [(2, gi (0 : Int32)), (1, gi (-1 : Int32)), (0, gr a0)]) [0, 1, 2] rfl rfl (gblt rfl) dX2_leastTrusted_12 ?_
  refine g_sub (lv' := [(0, gr a0), (1, gi (-1 : Int32)), (2, gi (0 : Int32))]) [2, 1, 0] rfl ?_
  refine g_loop (pc := 13) (fun (x3 : Int32 × Int32) => [(0, gr a0), (1, gi x3.1), (2, gi x3.2)]) (fun (_ : Int32 × Int32) => []) (fun w5 Hw5 x3 h4 => ?_) N ((-1 : Int32), (0 : Int32)) h2
  delta bX2_leastTrusted_13
  refine g_iload_n (pc := 13) (x := x3.2) 2 rfl rfl dX2_leastTrusted_13 ?_
  refine g_aload_n (pc := 14) (x := a0) 0 rfl rfl dX2_leastTrusted_14 ?_
  refine g_getfr (pc := 15) k_18 (gblt rfl) lk_X2_9_18 dX2_leastTrusted_15 fun v6 => ?_
  refine g_bipush (pc := 18) (v := (6 : Int32)) bc_6 dX2_leastTrusted_18 ?_
  refine g_iaload (pc := 20) rfl dX2_leastTrusted_20 fun v7 => ?_
  refine g_icmp_ge (pc := 21) (tgt := 60) rfl dX2_leastTrusted_21 ?_ ?_
  · refine g_iload_n (pc := 60) (x := x3.1) 1 rfl rfl dX2_leastTrusted_60 ?_
    exact g_ireturn (pc := 61) rfl dX2_leastTrusted_61
  refine g_iload_n (pc := 24) (x := x3.1) 1 rfl rfl dX2_leastTrusted_24 ?_
  refine g_iconst (pc := 25) (v := (-1 : Int32)) ic_m1 dX2_leastTrusted_25 ?_
  refine g_join 54 (fun (x8 : Int32) => [(0, gr a0), (1, gi x8), (2, gi x3.2)]) (fun (x8 : Int32) => []) (fun x8 h9 => ?_) (fun j10 Hj10 => ?_)
  · refine g_iinc (pc := 54) (v := x3.2 + (1 : Int32)) 2 rfl (ii_1 _) (lv' := [(2, gi (x3.2 + (1 : Int32))), (0, gr a0), (1, gi x8)]) [0, 1, 2] rfl (gblt rfl) dX2_leastTrusted_54 ?_
    refine g_goto (pc := 57) (tgt := 13) rfl dX2_leastTrusted_57 ?_
    exact g_sub [1, 2, 0] rfl (Hw5 (x8, x3.2 + (1 : Int32)) h9)
  refine g_join 52 (fun (x11 : Unit) => [(0, gr a0), (2, gi x3.2)]) (fun (x11 : Unit) => []) (fun x11 h12 => ?_) (fun j13 Hj13 => ?_)
  · refine g_iload_n (pc := 52) (x := x3.2) 1 rfl rfl dX2_leastTrusted_52 ?_
    refine g_istore_n (pc := 53) (lv' := [(1, gi x3.2), (0, gr a0), (2, gi x3.2)]) [0, 1, 2] rfl rfl (gblt rfl) dX2_leastTrusted_53 ?_
    exact g_sub [1, 0, 2] rfl (Hj10 x3.2 h12)
  refine g_icmp_eq (pc := 26) (tgt := 52) rfl dX2_leastTrusted_26 ?_ ?_
  · exact g_sub [0, 2] rfl (Hj13 () h4)
  refine g_aload_n (pc := 29) (x := a0) 0 rfl rfl dX2_leastTrusted_29 ?_
  refine g_getfr (pc := 30) k_18 (gblt rfl) lk_X2_9_18 dX2_leastTrusted_30 fun v14 => ?_
  refine g_sipush (pc := 33) (v := (158 : Int32)) sc_158 dX2_leastTrusted_33 ?_
  refine g_iload_n (pc := 36) (x := x3.2) 2 rfl rfl dX2_leastTrusted_36 ?_
  refine g_iadd (pc := 37) dX2_leastTrusted_37 ?_
  refine g_iaload (pc := 38) rfl dX2_leastTrusted_38 fun v15 => ?_
  refine g_aload_n (pc := 39) (x := a0) 0 rfl rfl dX2_leastTrusted_39 ?_
  refine g_getfr (pc := 40) k_18 (gblt rfl) lk_X2_9_18 dX2_leastTrusted_40 fun v16 => ?_
  refine g_sipush (pc := 43) (v := (158 : Int32)) sc_158 dX2_leastTrusted_43 ?_
  refine g_iload_n (pc := 46) (x := x3.1) 1 rfl rfl dX2_leastTrusted_46 ?_
  refine g_iadd (pc := 47) dX2_leastTrusted_47 ?_
  refine g_iaload (pc := 48) rfl dX2_leastTrusted_48 fun v17 => ?_
  refine g_icmp_ge (pc := 49) (tgt := 54) rfl dX2_leastTrusted_49 ?_ ?_
  · exact Hj10 x3.1 h4
  exact g_sub [0, 2] rfl (Hj13 () h4)
/-! FlareSlopes.loneliest()I -/
noncomputable def bX1_loneliest_13 (G : GG) (N : Nat) (v1 : Option Nat) (w5 : (Int32 × Int32 × Int32) → Hp → Out (Int32)) (x3 : Int32 × Int32 × Int32) (h4 : Hp) : Out (Int32) :=
  bV h4 v1 16 (fun q16 => sX3_size G N (some q16) h4) fun v6 h7 =>
  if v6 ≤ x3.2.2 then (some (.inl x3.1, h7))
  else bV h7 v1 16 (fun q15 => sX3_seers G N (some q15) x3.2.2 h7) fun v8 h9 =>
  bnd (sJ20_bitCount G N v8 h9) fun v10 h11 =>
  gJ (fun (x12 : Int32 × Int32) (h13 : Hp) =>
  w5 (x12.1, x12.2, x3.2.2 + (1 : Int32)) h13) fun j14 =>
  if v10 < x3.2.1 then (j14 (x3.2.2, v10) h11)
  else j14 (x3.1, x3.2.1) h11
noncomputable def sX1_loneliest (G : GG) (N : Nat) (a0 : Option Nat) (h : Hp) : Out (Int32) :=
  bV h a0 3 (fun q17 => sX1_loaded G N (some q17) h) fun v1 h2 =>
  gLp (bX1_loneliest_13 G N v1) N ((-1 : Int32), (11 : Int32), (0 : Int32)) h2
abbrev mX1_loneliest : MI := (RX1, cX1_loneliest, 6, (some .int), [], 8, 174, "loneliest")
theorem tX1_loneliest {G : GG} {l : Launch} (hs : l.stackTraces = false) {N : Nat} {a0 : Option Nat} {h : Hp} {r : Int32 ⊕ Nat} {hf : Hp} (ho : sX1_loneliest G N a0 h = some (r, hf)) : gMet G l yX1_loneliest (ws_ yX1_loneliest cX1_loneliest 6 (some .int)) 8 174 [gr a0] h cvI r hf := by
  refine gMet.of ho hs (plainFor_of_name pn_X1) rfl rfl (gbl rfl) fun X => ?_
  show gT G l X mX1_loneliest cvI r hf 0 [(0, gr a0)] [] h (sX1_loneliest G N a0 h)
  delta sX1_loneliest
  refine g_aload_n (pc := 0) (x := a0) 0 rfl rfl dX1_loneliest_0 ?_
  refine g_bVr (pc := 1) (y := yX1_loaded) (ws := ws_ yX1_loaded cX1_loaded 1 (some (.object "FlareSlopes$State"))) (fr := 7) (lo := 101) (as := []) (st := []) (g_no) rfl (fun _ _ _ e => tX1_loaded hs e) (fun K _ _ _ hq hM R e1 e2 => g_runV (M := mX1_loneliest) (pc := 1) (y := yX1_loaded) (bytes := cX1_loaded) (maxL := 1) (ret := (some (.object "FlareSlopes$State"))) (fr := 7) (lo := 101) (as := []) (st := []) hq (C := "FlareSlopes") rfl gy_X1_loaded (gbl rfl) (gbl rfl) (gbl rfl) q1430 q1432 qs17 dX1_loneliest_1 K hM R e1 e2) fun v1 h2 => ?_
  refine g_astore_n (pc := 4) (lv' := [(1, gr v1)]) [0] rfl rfl (gblt rfl) dX1_loneliest_4 ?_
  refine g_iconst (pc := 5) (v := (-1 : Int32)) ic_m1 dX1_loneliest_5 ?_
  refine g_istore_n (pc := 6) (lv' := [(2, gi (-1 : Int32)), (1, gr v1)]) [0, 1] rfl rfl (gblt rfl) dX1_loneliest_6 ?_
  refine g_bipush (pc := 7) (v := (11 : Int32)) bc_11 dX1_loneliest_7 ?_
  refine g_istore_n (pc := 9) (lv' := [(3, gi (11 : Int32)), (2, gi (-1 : Int32)), (1, gr v1)]) [0, 1, 2] rfl rfl (gblt rfl) dX1_loneliest_9 ?_
  refine g_iconst (pc := 10) (v := (0 : Int32)) ic_0 dX1_loneliest_10 ?_
  refine g_istore (pc := 11) (lv' := [(4, gi (0 : Int32)), (3, gi (11 : Int32)), (2, gi (-1 : Int32)), (1, gr v1)]) [0, 1, 2, 3] rfl (gblt rfl) dX1_loneliest_11 ?_
  refine g_sub (lv' := [(1, gr v1), (2, gi (-1 : Int32)), (3, gi (11 : Int32)), (4, gi (0 : Int32))]) [3, 2, 1, 0] rfl ?_
  refine g_loop (pc := 13) (fun (x3 : Int32 × Int32 × Int32) => [(1, gr v1), (2, gi x3.1), (3, gi x3.2.1), (4, gi x3.2.2)]) (fun (_ : Int32 × Int32 × Int32) => []) (fun w5 Hw5 x3 h4 => ?_) N ((-1 : Int32), (11 : Int32), (0 : Int32)) h2
  delta bX1_loneliest_13
  refine g_iload (pc := 13) (x := x3.2.2) 3 rfl dX1_loneliest_13 ?_
  refine g_aload_n (pc := 15) (x := v1) 0 rfl rfl dX1_loneliest_15 ?_
  refine g_bVi (pc := 16) (y := yX3_size) (ws := ws_ yX3_size cX3_size 1 (some .int)) (fr := 1) (lo := 20) (as := []) (st := [gi x3.2.2]) (g_no) rfl (fun _ _ _ e => tX3_size hs e) (fun K _ _ _ hq hM R e1 e2 => g_runV (M := mX1_loneliest) (pc := 16) (y := yX3_size) (bytes := cX3_size) (maxL := 1) (ret := (some .int)) (fr := 1) (lo := 20) (as := []) (st := [gi x3.2.2]) hq (C := "FlareSlopes$State") rfl gy_X3_size (gbl rfl) (gbl rfl) (gbl rfl) q1411 q1412 q1413 dX1_loneliest_16 K hM R e1 e2) fun v6 h7 => ?_
  refine g_icmp_ge (pc := 19) (tgt := 54) rfl dX1_loneliest_19 ?_ ?_
  · refine g_iload_n (pc := 54) (x := x3.1) 1 rfl rfl dX1_loneliest_54 ?_
    exact g_ireturn (pc := 55) rfl dX1_loneliest_55
  refine g_aload_n (pc := 22) (x := v1) 0 rfl rfl dX1_loneliest_22 ?_
  refine g_iload (pc := 23) (x := x3.2.2) 3 rfl dX1_loneliest_23 ?_
  refine g_bVi (pc := 25) (y := yX3_seers) (ws := ws_ yX3_seers cX3_seers 4 (some .int)) (fr := 7) (lo := 151) (as := [gi x3.2.2]) (st := []) (g_no) rfl (fun _ _ _ e => tX3_seers hs e) (fun K _ _ _ hq hM R e1 e2 => g_runV (M := mX1_loneliest) (pc := 25) (y := yX3_seers) (bytes := cX3_seers) (maxL := 4) (ret := (some .int)) (fr := 7) (lo := 151) (as := [gi x3.2.2]) (st := []) hq (C := "FlareSlopes$State") rfl gy_X3_seers (gbl rfl) (gbl rfl) (gbl rfl) q1629 q1630 q1631 dX1_loneliest_25 K hM R e1 e2) fun v8 h9 => ?_
  refine g_bi (pc := 28) (y := yJ20_bitCount) (ws := ws_ yJ20_bitCount cJ20_bitCount 1 (some .int)) (fr := 0) (lo := 0) (as := [gi v8]) (st := []) (g_no) rfl (fun _ _ e => tJ20_bitCount hs e) (fun K _ _ hM R e1 e2 => g_runS (M := mX1_loneliest) (pc := 28) (y := yJ20_bitCount) (bytes := cJ20_bitCount) (maxL := 1) (ret := (some .int)) (fr := 0) (lo := 0) (as := [gi v8]) (st := []) gy_J20_bitCount (gbl rfl) (gbl rfl) (gbl rfl) q1619 q1620 dX1_loneliest_28 K hM R e1 e2) fun v10 h11 => ?_
  refine g_istore (pc := 31) (lv' := [(5, gi v10), (1, gr v1), (2, gi x3.1), (3, gi x3.2.1), (4, gi x3.2.2)]) [0, 1, 2, 3, 4] rfl (gblt rfl) dX1_loneliest_31 ?_
  refine g_iload (pc := 33) (x := v10) 0 rfl dX1_loneliest_33 ?_
  refine g_iload_n (pc := 35) (x := x3.2.1) 3 rfl rfl dX1_loneliest_35 ?_
  refine g_join 48 (fun (x12 : Int32 × Int32) => [(1, gr v1), (2, gi x12.1), (3, gi x12.2), (4, gi x3.2.2)]) (fun (x12 : Int32 × Int32) => []) (fun x12 h13 => ?_) (fun j14 Hj14 => ?_)
  · refine g_iinc (pc := 48) (v := x3.2.2 + (1 : Int32)) 3 rfl (ii_1 _) (lv' := [(4, gi (x3.2.2 + (1 : Int32))), (1, gr v1), (2, gi x12.1), (3, gi x12.2)]) [0, 1, 2, 3] rfl (gblt rfl) dX1_loneliest_48 ?_
    refine g_goto (pc := 51) (tgt := 13) rfl dX1_loneliest_51 ?_
    exact g_sub [1, 2, 3, 0] rfl (Hw5 (x12.1, x12.2, x3.2.2 + (1 : Int32)) h13)
  refine g_icmp_lt (pc := 36) (tgt := 42) rfl dX1_loneliest_36 ?_ ?_
  rotate_left
  · refine g_goto (pc := 39) (tgt := 48) rfl dX1_loneliest_39 ?_
    exact g_sub [1, 2, 3, 4] rfl (Hj14 (x3.1, x3.2.1) h11)
  refine g_iload (pc := 42) (x := x3.2.2) 4 rfl dX1_loneliest_42 ?_
  refine g_istore_n (pc := 44) (lv' := [(2, gi x3.2.2), (5, gi v10), (1, gr v1), (4, gi x3.2.2)]) [0, 1, 2, 4] rfl rfl (gblt rfl) dX1_loneliest_44 ?_
  refine g_iload (pc := 45) (x := v10) 1 rfl dX1_loneliest_45 ?_
  refine g_istore_n (pc := 47) (lv' := [(3, gi v10), (2, gi x3.2.2), (1, gr v1), (4, gi x3.2.2)]) [0, 1, 3, 4] rfl rfl (gblt rfl) dX1_loneliest_47 ?_
  exact g_sub [2, 1, 0, 3] rfl (Hj14 (x3.2.2, v10) h11)
/-! FlareSlopesLaw.loneliest(LFlareSlopes;[J)I -/
noncomputable def sX0_loneliest (G : GG) (N : Nat) (a0 : Option Nat) (a1 : Option Nat) (h : Hp) : Out (Int32) :=
  bVX h a0 3 (fun q4 => sX1_loneliest G N (some q4) h) (fun v1 h2 =>
  gSl G h2 a1 3 (0 : Int32) (v1.toInt64) fun h3 =>
  some (.inl (0 : Int32), h3)) fun q5 h6 =>
  gSw h6 (some q5) 0 (some (.inl (1 : Int32), h6)) (none)
abbrev mX0_loneliest : MI := (RX0, cX0_loneliest, 3, (some .int), [(0, 8, 11, 21)], 9, 199, "loneliest")
theorem tX0_loneliest {G : GG} {l : Launch} (hs : l.stackTraces = false) {N : Nat} {a0 : Option Nat} {a1 : Option Nat} {h : Hp} {r : Int32 ⊕ Nat} {hf : Hp} (ho : sX0_loneliest G N a0 a1 h = some (r, hf)) : gMet G l yX0_loneliest (wsW_ yX0_loneliest cX0_loneliest 3 (some .int) [(0, 8, 11, 21)]) 9 199 [gr a0, gr a1] h cvI r hf := by
  refine gMet.ofW ho hs (plainFor_of_name pn_X0) rfl rfl (gbl rfl) fun X => ?_
  show gT G l X mX0_loneliest cvI r hf 0 [(0, gr a0), (1, gr a1)] [] h (sX0_loneliest G N a0 a1 h)
  delta sX0_loneliest
  refine g_aload_n (pc := 0) (x := a1) 1 rfl rfl dX0_loneliest_0 ?_
  refine g_iconst (pc := 1) (v := (0 : Int32)) ic_0 dX0_loneliest_1 ?_
  refine g_aload_n (pc := 2) (x := a0) 0 rfl rfl dX0_loneliest_2 ?_
  refine g_bVXi (pc := 3) (y := yX1_loneliest) (ws := ws_ yX1_loneliest cX1_loneliest 6 (some .int)) (fr := 8) (lo := 174) (as := []) (st := [gi (0 : Int32), gr a1]) rfl (fun _ _ _ e => tX1_loneliest hs e) (fun K _ _ _ hq hM R e1 e2 => g_runV (M := mX0_loneliest) (pc := 3) (y := yX1_loneliest) (bytes := cX1_loneliest) (maxL := 6) (ret := (some .int)) (fr := 8) (lo := 174) (as := []) (st := [gi (0 : Int32), gr a1]) hq (C := "FlareSlopes") rfl gy_X1_loneliest (gbl rfl) (gbl rfl) (gbl rfl) q3428 q3429 q3430 dX0_loneliest_3 K hM R e1 e2) (fun v1 h2 => ?_) (fun q5 h6 => ?_)
  · refine g_i2l (pc := 6) dX0_loneliest_6 ?_
    refine g_lastore (pc := 7) rfl dX0_loneliest_7 fun h3 => ?_
    refine g_goto (pc := 8) (tgt := 14) rfl dX0_loneliest_8 ?_
    refine g_iconst (pc := 14) (v := (0 : Int32)) ic_0 dX0_loneliest_14 ?_
    exact g_ireturn (pc := 15) rfl dX0_loneliest_15
  refine g_catch (E := "java/lang/IllegalStateException") [] ⟨0, 8, 11, 21⟩ [] rfl rfl (List.forall_mem_nil _) (by decide +kernel) (by decide +kernel) q1425 q1439 ?_ ?_
  · refine g_astore_n (pc := 11) (lv' := []) [] rfl rfl (gblt rfl) dX0_loneliest_11 ?_
    refine g_iconst (pc := 12) (v := (1 : Int32)) ic_1 dX0_loneliest_12 ?_
    exact g_ireturn (pc := 13) rfl dX0_loneliest_13
  exact g_noneX
/-! FlareSlopesModel.loneliest()I -/
noncomputable def bX2_loneliest_13 (G : GG) (N : Nat) (a0 : Option Nat) (w5 : (Int32 × Int32) → Hp → Out (Int32)) (x3 : Int32 × Int32) (h4 : Hp) : Out (Int32) :=
  gFr h4 a0 18 1 fun v6 =>
  gAi h4 v6 0 (6 : Int32) fun v7 =>
  if v7 ≤ x3.2 then (some (.inl x3.1, h4))
  else gJ (fun (x8 : Int32) (h9 : Hp) =>
  w5 (x8, x3.2 + (1 : Int32)) h9) fun j10 =>
  gJ (fun (x11 : Unit) (h12 : Hp) =>
  j10 x3.2 h12) fun j13 =>
  if x3.1 = (-1 : Int32) then (j13 () h4)
  else bV h4 a0 18 (fun q23 => sX2_seen G N (some q23) x3.2 h4) fun v14 h15 =>
  bnd (sX2_bits G N v14 h15) fun v16 h17 =>
  bV h17 a0 18 (fun q22 => sX2_seen G N (some q22) x3.1 h17) fun v18 h19 =>
  bnd (sX2_bits G N v18 h19) fun v20 h21 =>
  if v20 ≤ v16 then (j10 x3.1 h21)
  else j13 () h21
noncomputable def sX2_loneliest (G : GG) (N : Nat) (a0 : Option Nat) (h : Hp) : Out (Int32) :=
  bV h a0 18 (fun q24 => sX2_mayAsk G N (some q24) h) fun v1 h2 =>
  if v1 = 0 then (some (.inl (0 : Int32), h2))
  else gLp (bX2_loneliest_13 G N a0) N ((-1 : Int32), (0 : Int32)) h2
abbrev mX2_loneliest : MI := (RX2, cX2_loneliest, 3, (some .int), [], 5, 116, "loneliest")
theorem tX2_loneliest {G : GG} {l : Launch} (hs : l.stackTraces = false) {N : Nat} {a0 : Option Nat} {h : Hp} {r : Int32 ⊕ Nat} {hf : Hp} (ho : sX2_loneliest G N a0 h = some (r, hf)) : gMet G l yX2_loneliest (ws_ yX2_loneliest cX2_loneliest 3 (some .int)) 5 116 [gr a0] h cvI r hf := by
  refine gMet.of ho hs (plainFor_of_name pn_X2) rfl rfl (gbl rfl) fun X => ?_
  show gT G l X mX2_loneliest cvI r hf 0 [(0, gr a0)] [] h (sX2_loneliest G N a0 h)
  delta sX2_loneliest
  refine g_aload_n (pc := 0) (x := a0) 0 rfl rfl dX2_loneliest_0 ?_
  refine g_bVi (pc := 1) (y := yX2_mayAsk) (ws := ws_ yX2_mayAsk cX2_mayAsk 1 (some .boolean)) (fr := 1) (lo := 23) (as := []) (st := []) (g_no) rfl (fun _ _ _ e => tX2_mayAsk hs e) (fun K _ _ _ hq hM R e1 e2 => g_runV (M := mX2_loneliest) (pc := 1) (y := yX2_mayAsk) (bytes := cX2_mayAsk) (maxL := 1) (ret := (some .boolean)) (fr := 1) (lo := 23) (as := []) (st := []) hq (C := "FlareSlopesModel") rfl gy_X2_mayAsk (gbl rfl) (gbl rfl) (gbl rfl) q4300 q4302 qs102 dX2_loneliest_1 K hM R e1 e2) fun v1 h2 => ?_
  refine g_if_ne (pc := 4) (tgt := 9) rfl dX2_loneliest_4 ?_ ?_
  · refine g_iconst (pc := 7) (v := (0 : Int32)) ic_0 dX2_loneliest_7 ?_
    exact g_ireturn (pc := 8) rfl dX2_loneliest_8
  refine g_iconst (pc := 9) (v := (-1 : Int32)) ic_m1 dX2_loneliest_9 ?_
  refine g_istore_n (pc := 10) (lv' := [(1, gi (-1 : Int32)), (0, gr a0)]) [0, 1] rfl rfl (gblt rfl) dX2_loneliest_10 ?_
  refine g_iconst (pc := 11) (v := (0 : Int32)) ic_0 dX2_loneliest_11 ?_
  refine g_istore_n (pc := 12) (lv' := [(2, gi (0 : Int32)), (1, gi (-1 : Int32)), (0, gr a0)]) [0, 1, 2] rfl rfl (gblt rfl) dX2_loneliest_12 ?_
  refine g_sub (lv' := [(0, gr a0), (1, gi (-1 : Int32)), (2, gi (0 : Int32))]) [2, 1, 0] rfl ?_
  refine g_loop (pc := 13) (fun (x3 : Int32 × Int32) => [(0, gr a0), (1, gi x3.1), (2, gi x3.2)]) (fun (_ : Int32 × Int32) => []) (fun w5 Hw5 x3 h4 => ?_) N ((-1 : Int32), (0 : Int32)) h2
  delta bX2_loneliest_13
  refine g_iload_n (pc := 13) (x := x3.2) 2 rfl rfl dX2_loneliest_13 ?_
  refine g_aload_n (pc := 14) (x := a0) 0 rfl rfl dX2_loneliest_14 ?_
  refine g_getfr (pc := 15) k_18 (gblt rfl) lk_X2_9_18 dX2_loneliest_15 fun v6 => ?_
  refine g_bipush (pc := 18) (v := (6 : Int32)) bc_6 dX2_loneliest_18 ?_
  refine g_iaload (pc := 20) rfl dX2_loneliest_20 fun v7 => ?_
  refine g_icmp_ge (pc := 21) (tgt := 56) rfl dX2_loneliest_21 ?_ ?_
  · refine g_iload_n (pc := 56) (x := x3.1) 1 rfl rfl dX2_loneliest_56 ?_
    exact g_ireturn (pc := 57) rfl dX2_loneliest_57
  refine g_iload_n (pc := 24) (x := x3.1) 1 rfl rfl dX2_loneliest_24 ?_
  refine g_iconst (pc := 25) (v := (-1 : Int32)) ic_m1 dX2_loneliest_25 ?_
  refine g_join 50 (fun (x8 : Int32) => [(0, gr a0), (1, gi x8), (2, gi x3.2)]) (fun (x8 : Int32) => []) (fun x8 h9 => ?_) (fun j10 Hj10 => ?_)
  · refine g_iinc (pc := 50) (v := x3.2 + (1 : Int32)) 2 rfl (ii_1 _) (lv' := [(2, gi (x3.2 + (1 : Int32))), (0, gr a0), (1, gi x8)]) [0, 1, 2] rfl (gblt rfl) dX2_loneliest_50 ?_
    refine g_goto (pc := 53) (tgt := 13) rfl dX2_loneliest_53 ?_
    exact g_sub [1, 2, 0] rfl (Hw5 (x8, x3.2 + (1 : Int32)) h9)
  refine g_join 48 (fun (x11 : Unit) => [(0, gr a0), (2, gi x3.2)]) (fun (x11 : Unit) => []) (fun x11 h12 => ?_) (fun j13 Hj13 => ?_)
  · refine g_iload_n (pc := 48) (x := x3.2) 1 rfl rfl dX2_loneliest_48 ?_
    refine g_istore_n (pc := 49) (lv' := [(1, gi x3.2), (0, gr a0), (2, gi x3.2)]) [0, 1, 2] rfl rfl (gblt rfl) dX2_loneliest_49 ?_
    exact g_sub [1, 0, 2] rfl (Hj10 x3.2 h12)
  refine g_icmp_eq (pc := 26) (tgt := 48) rfl dX2_loneliest_26 ?_ ?_
  · exact g_sub [0, 2] rfl (Hj13 () h4)
  refine g_aload_n (pc := 29) (x := a0) 0 rfl rfl dX2_loneliest_29 ?_
  refine g_iload_n (pc := 30) (x := x3.2) 2 rfl rfl dX2_loneliest_30 ?_
  refine g_bVi (pc := 31) (y := yX2_seen) (ws := ws_ yX2_seen cX2_seen 4 (some .int)) (fr := 4) (lo := 93) (as := [gi x3.2]) (st := []) (g_no) rfl (fun _ _ _ e => tX2_seen hs e) (fun K _ _ _ hq hM R e1 e2 => g_runV (M := mX2_loneliest) (pc := 31) (y := yX2_seen) (bytes := cX2_seen) (maxL := 4) (ret := (some .int)) (fr := 4) (lo := 93) (as := [gi x3.2]) (st := []) hq (C := "FlareSlopesModel") rfl gy_X2_seen (gbl rfl) (gbl rfl) (gbl rfl) q4328 q4330 qs106 dX2_loneliest_31 K hM R e1 e2) fun v14 h15 => ?_
  refine g_bi (pc := 34) (y := yX2_bits) (ws := ws_ yX2_bits cX2_bits 3 (some .int)) (fr := 0) (lo := 0) (as := [gi v14]) (st := []) (g_no) rfl (fun _ _ e => tX2_bits hs e) (fun K _ _ hM R e1 e2 => g_runS (M := mX2_loneliest) (pc := 34) (y := yX2_bits) (bytes := cX2_bits) (maxL := 3) (ret := (some .int)) (fr := 0) (lo := 0) (as := [gi v14]) (st := []) gy_X2_bits (gbl rfl) (gbl rfl) (gbl rfl) q4260 q4261 dX2_loneliest_34 K hM R e1 e2) fun v16 h17 => ?_
  refine g_aload_n (pc := 37) (x := a0) 0 rfl rfl dX2_loneliest_37 ?_
  refine g_iload_n (pc := 38) (x := x3.1) 1 rfl rfl dX2_loneliest_38 ?_
  refine g_bVi (pc := 39) (y := yX2_seen) (ws := ws_ yX2_seen cX2_seen 4 (some .int)) (fr := 4) (lo := 93) (as := [gi x3.1]) (st := [gi v16]) (g_no) rfl (fun _ _ _ e => tX2_seen hs e) (fun K _ _ _ hq hM R e1 e2 => g_runV (M := mX2_loneliest) (pc := 39) (y := yX2_seen) (bytes := cX2_seen) (maxL := 4) (ret := (some .int)) (fr := 4) (lo := 93) (as := [gi x3.1]) (st := [gi v16]) hq (C := "FlareSlopesModel") rfl gy_X2_seen (gbl rfl) (gbl rfl) (gbl rfl) q4328 q4330 qs106 dX2_loneliest_39 K hM R e1 e2) fun v18 h19 => ?_
  refine g_bi (pc := 42) (y := yX2_bits) (ws := ws_ yX2_bits cX2_bits 3 (some .int)) (fr := 0) (lo := 0) (as := [gi v18]) (st := [gi v16]) (g_no) rfl (fun _ _ e => tX2_bits hs e) (fun K _ _ hM R e1 e2 => g_runS (M := mX2_loneliest) (pc := 42) (y := yX2_bits) (bytes := cX2_bits) (maxL := 3) (ret := (some .int)) (fr := 0) (lo := 0) (as := [gi v18]) (st := [gi v16]) gy_X2_bits (gbl rfl) (gbl rfl) (gbl rfl) q4260 q4261 dX2_loneliest_42 K hM R e1 e2) fun v20 h21 => ?_
  refine g_icmp_ge (pc := 45) (tgt := 50) rfl dX2_loneliest_45 ?_ ?_
  · exact Hj10 x3.1 h21
  exact g_sub [0, 2] rfl (Hj13 () h21)
/-! FlareSlopes.meanTrust()D -/
noncomputable def bX1_meanTrust_9 (G : GG) (N : Nat) (v1 : Option Nat) (j5 : (Int32) → Hp → Out (UInt64)) (w18 : (Int32 × Int32) → Hp → Out (UInt64)) (x16 : Int32 × Int32) (h17 : Hp) : Out (UInt64) :=
  bV h17 v1 16 (fun q26 => sX3_size G N (some q26) h17) fun v19 h20 =>
  if v19 ≤ x16.2 then (j5 x16.1 h20)
  else bV h20 v1 16 (fun q25 => sX3_cabin G N (some q25) x16.2 h20) fun v21 h22 =>
  gFi h22 v21 7 3 fun v23 =>
  gLet (x16.1 + v23) fun v24 =>
  w18 (v24, x16.2 + (1 : Int32)) h22
noncomputable def sX1_meanTrust (G : GG) (N : Nat) (a0 : Option Nat) (h : Hp) : Out (UInt64) :=
  bV h a0 3 (fun q27 => sX1_loaded G N (some q27) h) fun v1 h2 =>
  gJ (fun (x3 : Int32) (h4 : Hp) =>
  bV h4 v1 16 (fun q15 => sX3_size G N (some q15) h4) fun v6 h7 =>
  gJ (fun (x8 : UInt64) (h9 : Hp) =>
  some (.inl x8, h9)) fun j10 =>
  if v6 = 0 then (j10 FP.dconst0 h7)
  else bV h7 v1 16 (fun q14 => sX3_size G N (some q14) h7) fun v11 h12 =>
  gOk64 (FP.ddiv (FP.i2d x3) (FP.i2d v11)) fun v13 =>
  j10 v13 h12) fun j5 =>
  gLp (bX1_meanTrust_9 G N v1 j5) N ((0 : Int32), (0 : Int32)) h2
abbrev mX1_meanTrust : MI := (RX1, cX1_meanTrust, 4, (some .double), [], 8, 121, "meanTrust")
theorem tX1_meanTrust {G : GG} {l : Launch} (hs : l.stackTraces = false) {N : Nat} {a0 : Option Nat} {h : Hp} {r : UInt64 ⊕ Nat} {hf : Hp} (ho : sX1_meanTrust G N a0 h = some (r, hf)) : gMet G l yX1_meanTrust (ws_ yX1_meanTrust cX1_meanTrust 4 (some .double)) 8 121 [gr a0] h cvD r hf := by
  refine gMet.of ho hs (plainFor_of_name pn_X1) rfl rfl (gbl rfl) fun X => ?_
  show gT G l X mX1_meanTrust cvD r hf 0 [(0, gr a0)] [] h (sX1_meanTrust G N a0 h)
  delta sX1_meanTrust
  refine g_aload_n (pc := 0) (x := a0) 0 rfl rfl dX1_meanTrust_0 ?_
  refine g_bVr (pc := 1) (y := yX1_loaded) (ws := ws_ yX1_loaded cX1_loaded 1 (some (.object "FlareSlopes$State"))) (fr := 7) (lo := 101) (as := []) (st := []) (g_no) rfl (fun _ _ _ e => tX1_loaded hs e) (fun K _ _ _ hq hM R e1 e2 => g_runV (M := mX1_meanTrust) (pc := 1) (y := yX1_loaded) (bytes := cX1_loaded) (maxL := 1) (ret := (some (.object "FlareSlopes$State"))) (fr := 7) (lo := 101) (as := []) (st := []) hq (C := "FlareSlopes") rfl gy_X1_loaded (gbl rfl) (gbl rfl) (gbl rfl) q1430 q1432 qs17 dX1_meanTrust_1 K hM R e1 e2) fun v1 h2 => ?_
  refine g_astore_n (pc := 4) (lv' := [(1, gr v1)]) [0] rfl rfl (gblt rfl) dX1_meanTrust_4 ?_
  refine g_iconst (pc := 5) (v := (0 : Int32)) ic_0 dX1_meanTrust_5 ?_
  refine g_istore_n (pc := 6) (lv' := [(2, gi (0 : Int32)), (1, gr v1)]) [0, 1] rfl rfl (gblt rfl) dX1_meanTrust_6 ?_
  refine g_iconst (pc := 7) (v := (0 : Int32)) ic_0 dX1_meanTrust_7 ?_
  refine g_istore_n (pc := 8) (lv' := [(3, gi (0 : Int32)), (2, gi (0 : Int32)), (1, gr v1)]) [0, 1, 2] rfl rfl (gblt rfl) dX1_meanTrust_8 ?_
  refine g_join 34 (fun (x3 : Int32) => [(1, gr v1), (2, gi x3)]) (fun (x3 : Int32) => []) (fun x3 h4 => ?_) (fun j5 Hj5 => ?_)
  · refine g_aload_n (pc := 34) (x := v1) 0 rfl rfl dX1_meanTrust_34 ?_
    refine g_bVi (pc := 35) (y := yX3_size) (ws := ws_ yX3_size cX3_size 1 (some .int)) (fr := 1) (lo := 20) (as := []) (st := []) (g_no) rfl (fun _ _ _ e => tX3_size hs e) (fun K _ _ _ hq hM R e1 e2 => g_runV (M := mX1_meanTrust) (pc := 35) (y := yX3_size) (bytes := cX3_size) (maxL := 1) (ret := (some .int)) (fr := 1) (lo := 20) (as := []) (st := []) hq (C := "FlareSlopes$State") rfl gy_X3_size (gbl rfl) (gbl rfl) (gbl rfl) q1411 q1412 q1413 dX1_meanTrust_35 K hM R e1 e2) fun v6 h7 => ?_
    refine g_join 53 (fun (x8 : UInt64) => []) (fun (x8 : UInt64) => [gd x8]) (fun x8 h9 => ?_) (fun j10 Hj10 => ?_)
    · exact g_dreturn (pc := 53) rfl dX1_meanTrust_53
    refine g_if_ne (pc := 38) (tgt := 45) rfl dX1_meanTrust_38 ?_ ?_
    · refine g_dconst0 (pc := 41) dX1_meanTrust_41 ?_
      refine g_goto (pc := 42) (tgt := 53) rfl dX1_meanTrust_42 ?_
      exact g_sub [] rfl (Hj10 FP.dconst0 h7)
    refine g_iload_n (pc := 45) (x := x3) 1 rfl rfl dX1_meanTrust_45 ?_
    refine g_i2d (pc := 46) dX1_meanTrust_46 ?_
    refine g_aload_n (pc := 47) (x := v1) 0 rfl rfl dX1_meanTrust_47 ?_
    refine g_bVi (pc := 48) (y := yX3_size) (ws := ws_ yX3_size cX3_size 1 (some .int)) (fr := 1) (lo := 20) (as := []) (st := [gd (FP.i2d x3)]) (g_no) rfl (fun _ _ _ e => tX3_size hs e) (fun K _ _ _ hq hM R e1 e2 => g_runV (M := mX1_meanTrust) (pc := 48) (y := yX3_size) (bytes := cX3_size) (maxL := 1) (ret := (some .int)) (fr := 1) (lo := 20) (as := []) (st := [gd (FP.i2d x3)]) hq (C := "FlareSlopes$State") rfl gy_X3_size (gbl rfl) (gbl rfl) (gbl rfl) q1411 q1412 q1413 dX1_meanTrust_48 K hM R e1 e2) fun v11 h12 => ?_
    refine g_i2d (pc := 51) dX1_meanTrust_51 ?_
    refine g_ddiv (pc := 52) dX1_meanTrust_52 fun v13 => ?_
    exact g_sub [] rfl (Hj10 v13 h12)
  refine g_sub (lv' := [(1, gr v1), (2, gi (0 : Int32)), (3, gi (0 : Int32))]) [2, 1, 0] rfl ?_
  refine g_loop (pc := 9) (fun (x16 : Int32 × Int32) => [(1, gr v1), (2, gi x16.1), (3, gi x16.2)]) (fun (_ : Int32 × Int32) => []) (fun w18 Hw18 x16 h17 => ?_) N ((0 : Int32), (0 : Int32)) h2
  delta bX1_meanTrust_9
  refine g_iload_n (pc := 9) (x := x16.2) 2 rfl rfl dX1_meanTrust_9 ?_
  refine g_aload_n (pc := 10) (x := v1) 0 rfl rfl dX1_meanTrust_10 ?_
  refine g_bVi (pc := 11) (y := yX3_size) (ws := ws_ yX3_size cX3_size 1 (some .int)) (fr := 1) (lo := 20) (as := []) (st := [gi x16.2]) (g_no) rfl (fun _ _ _ e => tX3_size hs e) (fun K _ _ _ hq hM R e1 e2 => g_runV (M := mX1_meanTrust) (pc := 11) (y := yX3_size) (bytes := cX3_size) (maxL := 1) (ret := (some .int)) (fr := 1) (lo := 20) (as := []) (st := [gi x16.2]) hq (C := "FlareSlopes$State") rfl gy_X3_size (gbl rfl) (gbl rfl) (gbl rfl) q1411 q1412 q1413 dX1_meanTrust_11 K hM R e1 e2) fun v19 h20 => ?_
  refine g_icmp_ge (pc := 14) (tgt := 34) rfl dX1_meanTrust_14 ?_ ?_
  · exact g_sub [0, 1] rfl (Hj5 x16.1 h20)
  refine g_iload_n (pc := 17) (x := x16.1) 1 rfl rfl dX1_meanTrust_17 ?_
  refine g_aload_n (pc := 18) (x := v1) 0 rfl rfl dX1_meanTrust_18 ?_
  refine g_iload_n (pc := 19) (x := x16.2) 2 rfl rfl dX1_meanTrust_19 ?_
  refine g_bVr (pc := 20) (y := yX3_cabin) (ws := ws_ yX3_cabin cX3_cabin 2 (some (.object "FlareSlopes$Cabin"))) (fr := 3) (lo := 64) (as := [gi x16.2]) (st := [gi x16.1]) (g_no) rfl (fun _ _ _ e => tX3_cabin hs e) (fun K _ _ _ hq hM R e1 e2 => g_runV (M := mX1_meanTrust) (pc := 20) (y := yX3_cabin) (bytes := cX3_cabin) (maxL := 2) (ret := (some (.object "FlareSlopes$Cabin"))) (fr := 3) (lo := 64) (as := [gi x16.2]) (st := [gi x16.1]) hq (C := "FlareSlopes$State") rfl gy_X3_cabin (gbl rfl) (gbl rfl) (gbl rfl) q1738 q1639 q1640 dX1_meanTrust_20 K hM R e1 e2) fun v21 h22 => ?_
  refine g_getfi (pc := 23) k_7 (gblt rfl) lk_X1_288_7 dX1_meanTrust_23 fun v23 => ?_
  refine g_iadd (pc := 26) dX1_meanTrust_26 ?_
  refine g_leti fun v24 => ?_
  refine g_istore_n (pc := 27) (lv' := [(2, gi v24), (1, gr v1), (3, gi x16.2)]) [0, 1, 2] rfl rfl (gblt rfl) dX1_meanTrust_27 ?_
  refine g_iinc (pc := 28) (v := x16.2 + (1 : Int32)) 2 rfl (ii_1 _) (lv' := [(3, gi (x16.2 + (1 : Int32))), (2, gi v24), (1, gr v1)]) [0, 1, 2] rfl (gblt rfl) dX1_meanTrust_28 ?_
  refine g_goto (pc := 31) (tgt := 9) rfl dX1_meanTrust_31 ?_
  exact g_sub [2, 1, 0] rfl (Hw18 (v24, x16.2 + (1 : Int32)) h22)
/-! FlareSlopesLaw.meanTrust(LFlareSlopes;[D)I -/
noncomputable def sX0_meanTrust (G : GG) (N : Nat) (a0 : Option Nat) (a1 : Option Nat) (h : Hp) : Out (Int32) :=
  bVX h a0 3 (fun q4 => sX1_meanTrust G N (some q4) h) (fun v1 h2 =>
  gSd G h2 a1 4 (0 : Int32) v1 fun h3 =>
  some (.inl (0 : Int32), h3)) fun q5 h6 =>
  gSw h6 (some q5) 0 (some (.inl (1 : Int32), h6)) (none)
abbrev mX0_meanTrust : MI := (RX0, cX0_meanTrust, 3, (some .int), [(0, 7, 10, 21)], 9, 144, "meanTrust")
theorem tX0_meanTrust {G : GG} {l : Launch} (hs : l.stackTraces = false) {N : Nat} {a0 : Option Nat} {a1 : Option Nat} {h : Hp} {r : Int32 ⊕ Nat} {hf : Hp} (ho : sX0_meanTrust G N a0 a1 h = some (r, hf)) : gMet G l yX0_meanTrust (wsW_ yX0_meanTrust cX0_meanTrust 3 (some .int) [(0, 7, 10, 21)]) 9 144 [gr a0, gr a1] h cvI r hf := by
  refine gMet.ofW ho hs (plainFor_of_name pn_X0) rfl rfl (gbl rfl) fun X => ?_
  show gT G l X mX0_meanTrust cvI r hf 0 [(0, gr a0), (1, gr a1)] [] h (sX0_meanTrust G N a0 a1 h)
  delta sX0_meanTrust
  refine g_aload_n (pc := 0) (x := a1) 1 rfl rfl dX0_meanTrust_0 ?_
  refine g_iconst (pc := 1) (v := (0 : Int32)) ic_0 dX0_meanTrust_1 ?_
  refine g_aload_n (pc := 2) (x := a0) 0 rfl rfl dX0_meanTrust_2 ?_
  refine g_bVXd (pc := 3) (y := yX1_meanTrust) (ws := ws_ yX1_meanTrust cX1_meanTrust 4 (some .double)) (fr := 8) (lo := 121) (as := []) (st := [gi (0 : Int32), gr a1]) rfl (fun _ _ _ e => tX1_meanTrust hs e) (fun K _ _ _ hq hM R e1 e2 => g_runV (M := mX0_meanTrust) (pc := 3) (y := yX1_meanTrust) (bytes := cX1_meanTrust) (maxL := 4) (ret := (some .double)) (fr := 8) (lo := 121) (as := []) (st := [gi (0 : Int32), gr a1]) hq (C := "FlareSlopes") rfl gy_X1_meanTrust (gbl rfl) (gbl rfl) (gbl rfl) q3435 q3436 q3437 dX0_meanTrust_3 K hM R e1 e2) (fun v1 h2 => ?_) (fun q5 h6 => ?_)
  · refine g_dastore (pc := 6) rfl dX0_meanTrust_6 fun h3 => ?_
    refine g_goto (pc := 7) (tgt := 13) rfl dX0_meanTrust_7 ?_
    refine g_iconst (pc := 13) (v := (0 : Int32)) ic_0 dX0_meanTrust_13 ?_
    exact g_ireturn (pc := 14) rfl dX0_meanTrust_14
  refine g_catch (E := "java/lang/IllegalStateException") [] ⟨0, 7, 10, 21⟩ [] rfl rfl (List.forall_mem_nil _) (by decide +kernel) (by decide +kernel) q1425 q1439 ?_ ?_
  · refine g_astore_n (pc := 10) (lv' := []) [] rfl rfl (gblt rfl) dX0_meanTrust_10 ?_
    refine g_iconst (pc := 11) (v := (1 : Int32)) ic_1 dX0_meanTrust_11 ?_
    exact g_ireturn (pc := 12) rfl dX0_meanTrust_12
  exact g_noneX
/-! FlareSlopesModel.meanTrust()D -/
noncomputable def bX2_meanTrust_13 (G : GG) (N : Nat) (a0 : Option Nat) (j5 : (Int32) → Hp → Out (UInt64)) (w16 : (Int32 × Int32) → Hp → Out (UInt64)) (x14 : Int32 × Int32) (h15 : Hp) : Out (UInt64) :=
  gFr h15 a0 18 1 fun v17 =>
  gAi h15 v17 0 (6 : Int32) fun v18 =>
  if v18 ≤ x14.2 then (j5 x14.1 h15)
  else gFr h15 a0 18 1 fun v19 =>
  gAi h15 v19 0 ((158 : Int32) + x14.2) fun v20 =>
  gLet (x14.1 + v20) fun v21 =>
  w16 (v21, x14.2 + (1 : Int32)) h15
noncomputable def sX2_meanTrust (G : GG) (N : Nat) (a0 : Option Nat) (h : Hp) : Out (UInt64) :=
  bV h a0 18 (fun q22 => sX2_mayAsk G N (some q22) h) fun v1 h2 =>
  if v1 = 0 then (some (.inl FP.dconst0, h2))
  else gJ (fun (x3 : Int32) (h4 : Hp) =>
  gFr h4 a0 18 1 fun v6 =>
  gAi h4 v6 0 (6 : Int32) fun v7 =>
  gJ (fun (x8 : UInt64) (h9 : Hp) =>
  some (.inl x8, h9)) fun j10 =>
  if v7 = 0 then (j10 FP.dconst0 h4)
  else gFr h4 a0 18 1 fun v11 =>
  gAi h4 v11 0 (6 : Int32) fun v12 =>
  gOk64 (FP.ddiv (FP.i2d x3) (FP.i2d v12)) fun v13 =>
  j10 v13 h4) fun j5 =>
  gLp (bX2_meanTrust_13 G N a0 j5) N ((0 : Int32), (0 : Int32)) h2
abbrev mX2_meanTrust : MI := (RX2, cX2_meanTrust, 3, (some .double), [], 2, 43, "meanTrust")
theorem tX2_meanTrust {G : GG} {l : Launch} (hs : l.stackTraces = false) {N : Nat} {a0 : Option Nat} {h : Hp} {r : UInt64 ⊕ Nat} {hf : Hp} (ho : sX2_meanTrust G N a0 h = some (r, hf)) : gMet G l yX2_meanTrust (ws_ yX2_meanTrust cX2_meanTrust 3 (some .double)) 2 43 [gr a0] h cvD r hf := by
  refine gMet.of ho hs (plainFor_of_name pn_X2) rfl rfl (gbl rfl) fun X => ?_
  show gT G l X mX2_meanTrust cvD r hf 0 [(0, gr a0)] [] h (sX2_meanTrust G N a0 h)
  delta sX2_meanTrust
  refine g_aload_n (pc := 0) (x := a0) 0 rfl rfl dX2_meanTrust_0 ?_
  refine g_bVi (pc := 1) (y := yX2_mayAsk) (ws := ws_ yX2_mayAsk cX2_mayAsk 1 (some .boolean)) (fr := 1) (lo := 23) (as := []) (st := []) (g_no) rfl (fun _ _ _ e => tX2_mayAsk hs e) (fun K _ _ _ hq hM R e1 e2 => g_runV (M := mX2_meanTrust) (pc := 1) (y := yX2_mayAsk) (bytes := cX2_mayAsk) (maxL := 1) (ret := (some .boolean)) (fr := 1) (lo := 23) (as := []) (st := []) hq (C := "FlareSlopesModel") rfl gy_X2_mayAsk (gbl rfl) (gbl rfl) (gbl rfl) q4300 q4302 qs102 dX2_meanTrust_1 K hM R e1 e2) fun v1 h2 => ?_
  refine g_if_ne (pc := 4) (tgt := 9) rfl dX2_meanTrust_4 ?_ ?_
  · refine g_dconst0 (pc := 7) dX2_meanTrust_7 ?_
    exact g_dreturn (pc := 8) rfl dX2_meanTrust_8
  refine g_iconst (pc := 9) (v := (0 : Int32)) ic_0 dX2_meanTrust_9 ?_
  refine g_istore_n (pc := 10) (lv' := [(1, gi (0 : Int32)), (0, gr a0)]) [0, 1] rfl rfl (gblt rfl) dX2_meanTrust_10 ?_
  refine g_iconst (pc := 11) (v := (0 : Int32)) ic_0 dX2_meanTrust_11 ?_
  refine g_istore_n (pc := 12) (lv' := [(2, gi (0 : Int32)), (1, gi (0 : Int32)), (0, gr a0)]) [0, 1, 2] rfl rfl (gblt rfl) dX2_meanTrust_12 ?_
  refine g_join 43 (fun (x3 : Int32) => [(0, gr a0), (1, gi x3)]) (fun (x3 : Int32) => []) (fun x3 h4 => ?_) (fun j5 Hj5 => ?_)
  · refine g_aload_n (pc := 43) (x := a0) 0 rfl rfl dX2_meanTrust_43 ?_
    refine g_getfr (pc := 44) k_18 (gblt rfl) lk_X2_9_18 dX2_meanTrust_44 fun v6 => ?_
    refine g_bipush (pc := 47) (v := (6 : Int32)) bc_6 dX2_meanTrust_47 ?_
    refine g_iaload (pc := 49) rfl dX2_meanTrust_49 fun v7 => ?_
    refine g_join 68 (fun (x8 : UInt64) => []) (fun (x8 : UInt64) => [gd x8]) (fun x8 h9 => ?_) (fun j10 Hj10 => ?_)
    · exact g_dreturn (pc := 68) rfl dX2_meanTrust_68
    refine g_if_ne (pc := 50) (tgt := 57) rfl dX2_meanTrust_50 ?_ ?_
    · refine g_dconst0 (pc := 53) dX2_meanTrust_53 ?_
      refine g_goto (pc := 54) (tgt := 68) rfl dX2_meanTrust_54 ?_
      exact g_sub [] rfl (Hj10 FP.dconst0 h4)
    refine g_iload_n (pc := 57) (x := x3) 1 rfl rfl dX2_meanTrust_57 ?_
    refine g_i2d (pc := 58) dX2_meanTrust_58 ?_
    refine g_aload_n (pc := 59) (x := a0) 0 rfl rfl dX2_meanTrust_59 ?_
    refine g_getfr (pc := 60) k_18 (gblt rfl) lk_X2_9_18 dX2_meanTrust_60 fun v11 => ?_
    refine g_bipush (pc := 63) (v := (6 : Int32)) bc_6 dX2_meanTrust_63 ?_
    refine g_iaload (pc := 65) rfl dX2_meanTrust_65 fun v12 => ?_
    refine g_i2d (pc := 66) dX2_meanTrust_66 ?_
    refine g_ddiv (pc := 67) dX2_meanTrust_67 fun v13 => ?_
    exact g_sub [] rfl (Hj10 v13 h4)
  refine g_sub (lv' := [(0, gr a0), (1, gi (0 : Int32)), (2, gi (0 : Int32))]) [2, 1, 0] rfl ?_
  refine g_loop (pc := 13) (fun (x14 : Int32 × Int32) => [(0, gr a0), (1, gi x14.1), (2, gi x14.2)]) (fun (_ : Int32 × Int32) => []) (fun w16 Hw16 x14 h15 => ?_) N ((0 : Int32), (0 : Int32)) h2
  delta bX2_meanTrust_13
  refine g_iload_n (pc := 13) (x := x14.2) 2 rfl rfl dX2_meanTrust_13 ?_
  refine g_aload_n (pc := 14) (x := a0) 0 rfl rfl dX2_meanTrust_14 ?_
  refine g_getfr (pc := 15) k_18 (gblt rfl) lk_X2_9_18 dX2_meanTrust_15 fun v17 => ?_
  refine g_bipush (pc := 18) (v := (6 : Int32)) bc_6 dX2_meanTrust_18 ?_
  refine g_iaload (pc := 20) rfl dX2_meanTrust_20 fun v18 => ?_
  refine g_icmp_ge (pc := 21) (tgt := 43) rfl dX2_meanTrust_21 ?_ ?_
  · exact g_sub [0, 1] rfl (Hj5 x14.1 h15)
  refine g_iload_n (pc := 24) (x := x14.1) 1 rfl rfl dX2_meanTrust_24 ?_
  refine g_aload_n (pc := 25) (x := a0) 0 rfl rfl dX2_meanTrust_25 ?_
  refine g_getfr (pc := 26) k_18 (gblt rfl) lk_X2_9_18 dX2_meanTrust_26 fun v19 => ?_
  refine g_sipush (pc := 29) (v := (158 : Int32)) sc_158 dX2_meanTrust_29 ?_
  refine g_iload_n (pc := 32) (x := x14.2) 2 rfl rfl dX2_meanTrust_32 ?_
  refine g_iadd (pc := 33) dX2_meanTrust_33 ?_
  refine g_iaload (pc := 34) rfl dX2_meanTrust_34 fun v20 => ?_
  refine g_iadd (pc := 35) dX2_meanTrust_35 ?_
  refine g_leti fun v21 => ?_
  refine g_istore_n (pc := 36) (lv' := [(1, gi v21), (0, gr a0), (2, gi x14.2)]) [0, 1, 2] rfl rfl (gblt rfl) dX2_meanTrust_36 ?_
  refine g_iinc (pc := 37) (v := x14.2 + (1 : Int32)) 2 rfl (ii_1 _) (lv' := [(2, gi (x14.2 + (1 : Int32))), (1, gi v21), (0, gr a0)]) [0, 1, 2] rfl (gblt rfl) dX2_meanTrust_37 ?_
  refine g_goto (pc := 40) (tgt := 13) rfl dX2_meanTrust_40 ?_
  exact g_sub [2, 1, 0] rfl (Hw16 (v21, x14.2 + (1 : Int32)) h15)
/-! FlareSlopes.closedShare(I)F -/
noncomputable def sX1_closedShare (G : GG) (N : Nat) (a0 : Option Nat) (a1 : Int32) (h : Hp) : Out (UInt32) :=
  bV h a0 3 (fun q21 => sX1_withSlope G N (some q21) a1 h) fun v1 h2 =>
  gFr h2 a0 3 4 fun v3 =>
  bV h2 v3 16 (fun q20 => sX3_size G N (some q20) h2) fun v4 h5 =>
  gJ (fun (x6 : UInt32) (h7 : Hp) =>
  some (.inl x6, h7)) fun j8 =>
  if v4 = 0 then (j8 FP.fconst0 h5)
  else gFr h5 a0 3 4 fun v9 =>
  bV h5 v9 16 (fun q19 => sX3_closers G N (some q19) a1 h5) fun v10 h11 =>
  bnd (sJ20_bitCount G N v10 h11) fun v12 h13 =>
  gFr h13 a0 3 4 fun v14 =>
  bV h13 v14 16 (fun q18 => sX3_size G N (some q18) h13) fun v15 h16 =>
  gOk32 (FP.fdiv (FP.i2f v12) (FP.i2f v15)) fun v17 =>
  j8 v17 h16
abbrev mX1_closedShare : MI := (RX1, cX1_closedShare, 3, (some .float), [], 9, 142, "closedShare")
theorem tX1_closedShare {G : GG} {l : Launch} (hs : l.stackTraces = false) {N : Nat} {a0 : Option Nat} {a1 : Int32} {h : Hp} {r : UInt32 ⊕ Nat} {hf : Hp} (ho : sX1_closedShare G N a0 a1 h = some (r, hf)) : gMet G l yX1_closedShare (ws_ yX1_closedShare cX1_closedShare 3 (some .float)) 9 142 [gr a0, gi a1] h cvF r hf := by
  refine gMet.of ho hs (plainFor_of_name pn_X1) rfl rfl (gbl rfl) fun X => ?_
  show gT G l X mX1_closedShare cvF r hf 0 [(0, gr a0), (1, gi a1)] [] h (sX1_closedShare G N a0 a1 h)
  delta sX1_closedShare
  refine g_aload_n (pc := 0) (x := a0) 0 rfl rfl dX1_closedShare_0 ?_
  refine g_iload_n (pc := 1) (x := a1) 1 rfl rfl dX1_closedShare_1 ?_
  refine g_bVr (pc := 2) (y := yX1_withSlope) (ws := ws_ yX1_withSlope cX1_withSlope 2 (some (.object "FlareSlopes$Spot"))) (fr := 8) (lo := 121) (as := [gi a1]) (st := []) (g_no) rfl (fun _ _ _ e => tX1_withSlope hs e) (fun K _ _ _ hq hM R e1 e2 => g_runV (M := mX1_closedShare) (pc := 2) (y := yX1_withSlope) (bytes := cX1_withSlope) (maxL := 2) (ret := (some (.object "FlareSlopes$Spot"))) (fr := 8) (lo := 121) (as := [gi a1]) (st := []) hq (C := "FlareSlopes") rfl gy_X1_withSlope (gbl rfl) (gbl rfl) (gbl rfl) q3044 q3046 qs40 dX1_closedShare_2 K hM R e1 e2) fun v1 h2 => ?_
  refine g_astore_n (pc := 5) (lv' := [(0, gr a0), (1, gi a1)]) [1, 2] rfl rfl (gblt rfl) dX1_closedShare_5 ?_
  refine g_aload_n (pc := 6) (x := a0) 0 rfl rfl dX1_closedShare_6 ?_
  refine g_getfr (pc := 7) k_3 (gblt rfl) lk_X1_56_3 dX1_closedShare_7 fun v3 => ?_
  refine g_bVi (pc := 10) (y := yX3_size) (ws := ws_ yX3_size cX3_size 1 (some .int)) (fr := 1) (lo := 20) (as := []) (st := []) (g_no) rfl (fun _ _ _ e => tX3_size hs e) (fun K _ _ _ hq hM R e1 e2 => g_runV (M := mX1_closedShare) (pc := 10) (y := yX3_size) (bytes := cX3_size) (maxL := 1) (ret := (some .int)) (fr := 1) (lo := 20) (as := []) (st := []) hq (C := "FlareSlopes$State") rfl gy_X3_size (gbl rfl) (gbl rfl) (gbl rfl) q1411 q1412 q1413 dX1_closedShare_10 K hM R e1 e2) fun v4 h5 => ?_
  refine g_join 41 (fun (x6 : UInt32) => []) (fun (x6 : UInt32) => [gf x6]) (fun x6 h7 => ?_) (fun j8 Hj8 => ?_)
  · exact g_freturn (pc := 41) rfl dX1_closedShare_41
  refine g_if_ne (pc := 13) (tgt := 20) rfl dX1_closedShare_13 ?_ ?_
  · refine g_fconst0 (pc := 16) dX1_closedShare_16 ?_
    refine g_goto (pc := 17) (tgt := 41) rfl dX1_closedShare_17 ?_
    exact g_sub [] rfl (Hj8 FP.fconst0 h5)
  refine g_aload_n (pc := 20) (x := a0) 0 rfl rfl dX1_closedShare_20 ?_
  refine g_getfr (pc := 21) k_3 (gblt rfl) lk_X1_56_3 dX1_closedShare_21 fun v9 => ?_
  refine g_iload_n (pc := 24) (x := a1) 1 rfl rfl dX1_closedShare_24 ?_
  refine g_bVi (pc := 25) (y := yX3_closers) (ws := ws_ yX3_closers cX3_closers 4 (some .int)) (fr := 4) (lo := 85) (as := [gi a1]) (st := []) (g_no) rfl (fun _ _ _ e => tX3_closers hs e) (fun K _ _ _ hq hM R e1 e2 => g_runV (M := mX1_closedShare) (pc := 25) (y := yX3_closers) (bytes := cX3_closers) (maxL := 4) (ret := (some .int)) (fr := 4) (lo := 85) (as := [gi a1]) (st := []) hq (C := "FlareSlopes$State") rfl gy_X3_closers (gbl rfl) (gbl rfl) (gbl rfl) q3050 q3051 q3052 dX1_closedShare_25 K hM R e1 e2) fun v10 h11 => ?_
  refine g_bi (pc := 28) (y := yJ20_bitCount) (ws := ws_ yJ20_bitCount cJ20_bitCount 1 (some .int)) (fr := 0) (lo := 0) (as := [gi v10]) (st := []) (g_no) rfl (fun _ _ e => tJ20_bitCount hs e) (fun K _ _ hM R e1 e2 => g_runS (M := mX1_closedShare) (pc := 28) (y := yJ20_bitCount) (bytes := cJ20_bitCount) (maxL := 1) (ret := (some .int)) (fr := 0) (lo := 0) (as := [gi v10]) (st := []) gy_J20_bitCount (gbl rfl) (gbl rfl) (gbl rfl) q1619 q1620 dX1_closedShare_28 K hM R e1 e2) fun v12 h13 => ?_
  refine g_i2f (pc := 31) dX1_closedShare_31 ?_
  refine g_aload_n (pc := 32) (x := a0) 0 rfl rfl dX1_closedShare_32 ?_
  refine g_getfr (pc := 33) k_3 (gblt rfl) lk_X1_56_3 dX1_closedShare_33 fun v14 => ?_
  refine g_bVi (pc := 36) (y := yX3_size) (ws := ws_ yX3_size cX3_size 1 (some .int)) (fr := 1) (lo := 20) (as := []) (st := [gf (FP.i2f v12)]) (g_no) rfl (fun _ _ _ e => tX3_size hs e) (fun K _ _ _ hq hM R e1 e2 => g_runV (M := mX1_closedShare) (pc := 36) (y := yX3_size) (bytes := cX3_size) (maxL := 1) (ret := (some .int)) (fr := 1) (lo := 20) (as := []) (st := [gf (FP.i2f v12)]) hq (C := "FlareSlopes$State") rfl gy_X3_size (gbl rfl) (gbl rfl) (gbl rfl) q1411 q1412 q1413 dX1_closedShare_36 K hM R e1 e2) fun v15 h16 => ?_
  refine g_i2f (pc := 39) dX1_closedShare_39 ?_
  refine g_fdiv (pc := 40) dX1_closedShare_40 fun v17 => ?_
  exact g_sub [] rfl (Hj8 v17 h16)
/-! FlareSlopesLaw.closedShare(LFlareSlopes;I[D)I -/
noncomputable def sX0_closedShare (G : GG) (N : Nat) (a0 : Option Nat) (a1 : Int32) (a2 : Option Nat) (h : Hp) : Out (Int32) :=
  bVX h a0 3 (fun q5 => sX1_closedShare G N (some q5) a1 h) (fun v1 h2 =>
  gOk64 (FP.f2d v1) fun v3 =>
  gSd G h2 a2 4 (0 : Int32) v3 fun h4 =>
  some (.inl (0 : Int32), h4)) fun q6 h7 =>
  gSw h7 (some q6) 0 (some (.inl (1 : Int32), h7)) (gSw h7 (some q6) 2 (some (.inl (2 : Int32), h7)) (none))
abbrev mX0_closedShare : MI := (RX0, cX0_closedShare, 4, (some .int), [(0, 9, 12, 21), (0, 9, 15, 13)], 10, 164, "closedShare")
theorem tX0_closedShare {G : GG} {l : Launch} (hs : l.stackTraces = false) {N : Nat} {a0 : Option Nat} {a1 : Int32} {a2 : Option Nat} {h : Hp} {r : Int32 ⊕ Nat} {hf : Hp} (ho : sX0_closedShare G N a0 a1 a2 h = some (r, hf)) : gMet G l yX0_closedShare (wsW_ yX0_closedShare cX0_closedShare 4 (some .int) [(0, 9, 12, 21), (0, 9, 15, 13)]) 10 164 [gr a0, gi a1, gr a2] h cvI r hf := by
  refine gMet.ofW ho hs (plainFor_of_name pn_X0) rfl rfl (gbl rfl) fun X => ?_
  show gT G l X mX0_closedShare cvI r hf 0 [(0, gr a0), (1, gi a1), (2, gr a2)] [] h (sX0_closedShare G N a0 a1 a2 h)
  delta sX0_closedShare
  refine g_aload_n (pc := 0) (x := a2) 2 rfl rfl dX0_closedShare_0 ?_
  refine g_iconst (pc := 1) (v := (0 : Int32)) ic_0 dX0_closedShare_1 ?_
  refine g_aload_n (pc := 2) (x := a0) 0 rfl rfl dX0_closedShare_2 ?_
  refine g_iload_n (pc := 3) (x := a1) 1 rfl rfl dX0_closedShare_3 ?_
  refine g_bVXf (pc := 4) (y := yX1_closedShare) (ws := ws_ yX1_closedShare cX1_closedShare 3 (some .float)) (fr := 9) (lo := 142) (as := [gi a1]) (st := [gi (0 : Int32), gr a2]) rfl (fun _ _ _ e => tX1_closedShare hs e) (fun K _ _ _ hq hM R e1 e2 => g_runV (M := mX0_closedShare) (pc := 4) (y := yX1_closedShare) (bytes := cX1_closedShare) (maxL := 3) (ret := (some .float)) (fr := 9) (lo := 142) (as := [gi a1]) (st := [gi (0 : Int32), gr a2]) hq (C := "FlareSlopes") rfl gy_X1_closedShare (gbl rfl) (gbl rfl) (gbl rfl) q3442 q3443 q3444 dX0_closedShare_4 K hM R e1 e2) (fun v1 h2 => ?_) (fun q6 h7 => ?_)
  · refine g_f2d (pc := 7) dX0_closedShare_7 fun v3 => ?_
    refine g_dastore (pc := 8) rfl dX0_closedShare_8 fun h4 => ?_
    refine g_goto (pc := 9) (tgt := 18) rfl dX0_closedShare_9 ?_
    refine g_iconst (pc := 18) (v := (0 : Int32)) ic_0 dX0_closedShare_18 ?_
    exact g_ireturn (pc := 19) rfl dX0_closedShare_19
  refine g_catch (E := "java/lang/IllegalStateException") [] ⟨0, 9, 12, 21⟩ [⟨0, 9, 15, 13⟩] rfl rfl (List.forall_mem_nil _) (by decide +kernel) (by decide +kernel) q1425 q1439 ?_ ?_
  · refine g_astore_n (pc := 12) (lv' := []) [] rfl rfl (gblt rfl) dX0_closedShare_12 ?_
    refine g_iconst (pc := 13) (v := (1 : Int32)) ic_1 dX0_closedShare_13 ?_
    exact g_ireturn (pc := 14) rfl dX0_closedShare_14
  refine g_catch (E := "java/lang/IndexOutOfBoundsException") [⟨0, 9, 12, 21⟩] ⟨0, 9, 15, 13⟩ [] rfl rfl (List.forall_mem_cons.mpr ⟨Or.inr ⟨by decide +kernel, _, q1425, ncl_java_lang_IndexOutOfBoundsException_java_lang_IllegalStateException⟩, List.forall_mem_nil _⟩) (by decide +kernel) (by decide +kernel) q325 q418 ?_ ?_
  · refine g_astore_n (pc := 15) (lv' := []) [] rfl rfl (gblt rfl) dX0_closedShare_15 ?_
    refine g_iconst (pc := 16) (v := (2 : Int32)) ic_2 dX0_closedShare_16 ?_
    exact g_ireturn (pc := 17) rfl dX0_closedShare_17
  exact g_noneX
/-! FlareSlopesModel.closedShare(I)F -/
noncomputable def sX2_closedShare (G : GG) (N : Nat) (a0 : Option Nat) (a1 : Int32) (h : Hp) : Out (UInt32) :=
  bV h a0 18 (fun q16 => sX2_maySlope G N (some q16) a1 h) fun v1 h2 =>
  if v1 = 0 then (some (.inl FP.fconst0, h2))
  else gFr h2 a0 18 1 fun v3 =>
  gAi h2 v3 0 (6 : Int32) fun v4 =>
  gJ (fun (x5 : UInt32) (h6 : Hp) =>
  some (.inl x5, h6)) fun j7 =>
  if v4 = 0 then (j7 FP.fconst0 h2)
  else bV h2 a0 18 (fun q15 => sX2_closersOf G N (some q15) a1 h2) fun v8 h9 =>
  bnd (sX2_bits G N v8 h9) fun v10 h11 =>
  gFr h11 a0 18 1 fun v12 =>
  gAi h11 v12 0 (6 : Int32) fun v13 =>
  gOk32 (FP.fdiv (FP.i2f v10) (FP.i2f v13)) fun v14 =>
  j7 v14 h11
abbrev mX2_closedShare : MI := (RX2, cX2_closedShare, 2, (some .float), [], 3, 66, "closedShare")
theorem tX2_closedShare {G : GG} {l : Launch} (hs : l.stackTraces = false) {N : Nat} {a0 : Option Nat} {a1 : Int32} {h : Hp} {r : UInt32 ⊕ Nat} {hf : Hp} (ho : sX2_closedShare G N a0 a1 h = some (r, hf)) : gMet G l yX2_closedShare (ws_ yX2_closedShare cX2_closedShare 2 (some .float)) 3 66 [gr a0, gi a1] h cvF r hf := by
  refine gMet.of ho hs (plainFor_of_name pn_X2) rfl rfl (gbl rfl) fun X => ?_
  show gT G l X mX2_closedShare cvF r hf 0 [(0, gr a0), (1, gi a1)] [] h (sX2_closedShare G N a0 a1 h)
  delta sX2_closedShare
  refine g_aload_n (pc := 0) (x := a0) 0 rfl rfl dX2_closedShare_0 ?_
  refine g_iload_n (pc := 1) (x := a1) 1 rfl rfl dX2_closedShare_1 ?_
  refine g_bVi (pc := 2) (y := yX2_maySlope) (ws := ws_ yX2_maySlope cX2_maySlope 2 (some .boolean)) (fr := 2) (lo := 45) (as := [gi a1]) (st := []) (g_no) rfl (fun _ _ _ e => tX2_maySlope hs e) (fun K _ _ _ hq hM R e1 e2 => g_runV (M := mX2_closedShare) (pc := 2) (y := yX2_maySlope) (bytes := cX2_maySlope) (maxL := 2) (ret := (some .boolean)) (fr := 2) (lo := 45) (as := [gi a1]) (st := []) hq (C := "FlareSlopesModel") rfl gy_X2_maySlope (gbl rfl) (gbl rfl) (gbl rfl) q4411 q4413 qs111 dX2_closedShare_2 K hM R e1 e2) fun v1 h2 => ?_
  refine g_if_ne (pc := 5) (tgt := 10) rfl dX2_closedShare_5 ?_ ?_
  · refine g_fconst0 (pc := 8) dX2_closedShare_8 ?_
    exact g_freturn (pc := 9) rfl dX2_closedShare_9
  refine g_aload_n (pc := 10) (x := a0) 0 rfl rfl dX2_closedShare_10 ?_
  refine g_getfr (pc := 11) k_18 (gblt rfl) lk_X2_9_18 dX2_closedShare_11 fun v3 => ?_
  refine g_bipush (pc := 14) (v := (6 : Int32)) bc_6 dX2_closedShare_14 ?_
  refine g_iaload (pc := 16) rfl dX2_closedShare_16 fun v4 => ?_
  refine g_join 42 (fun (x5 : UInt32) => []) (fun (x5 : UInt32) => [gf x5]) (fun x5 h6 => ?_) (fun j7 Hj7 => ?_)
  · exact g_freturn (pc := 42) rfl dX2_closedShare_42
  refine g_if_ne (pc := 17) (tgt := 24) rfl dX2_closedShare_17 ?_ ?_
  · refine g_fconst0 (pc := 20) dX2_closedShare_20 ?_
    refine g_goto (pc := 21) (tgt := 42) rfl dX2_closedShare_21 ?_
    exact g_sub [] rfl (Hj7 FP.fconst0 h2)
  refine g_aload_n (pc := 24) (x := a0) 0 rfl rfl dX2_closedShare_24 ?_
  refine g_iload_n (pc := 25) (x := a1) 1 rfl rfl dX2_closedShare_25 ?_
  refine g_bVi (pc := 26) (y := yX2_closersOf) (ws := ws_ yX2_closersOf cX2_closersOf 4 (some .int)) (fr := 2) (lo := 43) (as := [gi a1]) (st := []) (g_no) rfl (fun _ _ _ e => tX2_closersOf hs e) (fun K _ _ _ hq hM R e1 e2 => g_runV (M := mX2_closedShare) (pc := 26) (y := yX2_closersOf) (bytes := cX2_closersOf) (maxL := 4) (ret := (some .int)) (fr := 2) (lo := 43) (as := [gi a1]) (st := []) hq (C := "FlareSlopesModel") rfl gy_X2_closersOf (gbl rfl) (gbl rfl) (gbl rfl) q4249 q4251 qs94 dX2_closedShare_26 K hM R e1 e2) fun v8 h9 => ?_
  refine g_bi (pc := 29) (y := yX2_bits) (ws := ws_ yX2_bits cX2_bits 3 (some .int)) (fr := 0) (lo := 0) (as := [gi v8]) (st := []) (g_no) rfl (fun _ _ e => tX2_bits hs e) (fun K _ _ hM R e1 e2 => g_runS (M := mX2_closedShare) (pc := 29) (y := yX2_bits) (bytes := cX2_bits) (maxL := 3) (ret := (some .int)) (fr := 0) (lo := 0) (as := [gi v8]) (st := []) gy_X2_bits (gbl rfl) (gbl rfl) (gbl rfl) q4260 q4261 dX2_closedShare_29 K hM R e1 e2) fun v10 h11 => ?_
  refine g_i2f (pc := 32) dX2_closedShare_32 ?_
  refine g_aload_n (pc := 33) (x := a0) 0 rfl rfl dX2_closedShare_33 ?_
  refine g_getfr (pc := 34) k_18 (gblt rfl) lk_X2_9_18 dX2_closedShare_34 fun v12 => ?_
  refine g_bipush (pc := 37) (v := (6 : Int32)) bc_6 dX2_closedShare_37 ?_
  refine g_iaload (pc := 39) rfl dX2_closedShare_39 fun v13 => ?_
  refine g_i2f (pc := 40) dX2_closedShare_40 ?_
  refine g_fdiv (pc := 41) dX2_closedShare_41 fun v14 => ?_
  exact g_sub [] rfl (Hj7 v14 h11)
/-! java/util/ArrayDeque.sub(III)I -/
noncomputable def sJ1_sub (G : GG) (N : Nat) (a0 : Int32) (a1 : Int32) (a2 : Int32) (h : Hp) : Out (Int32) :=
  gLet (a0 - a1) fun v1 =>
  if 0 ≤ v1 then (some (.inl v1, h))
  else gLet (v1 + a2) fun v2 =>
  some (.inl v2, h)
abbrev mJ1_sub : MI := (RJ1, cJ1_sub, 3, (some .int), [], 0, 0, "sub")
theorem tJ1_sub {G : GG} {l : Launch} (hs : l.stackTraces = false) {N : Nat} {a0 : Int32} {a1 : Int32} {a2 : Int32} {h : Hp} {r : Int32 ⊕ Nat} {hf : Hp} (ho : sJ1_sub G N a0 a1 a2 h = some (r, hf)) : gMet G l yJ1_sub (ws_ yJ1_sub cJ1_sub 3 (some .int)) 0 0 [gi a0, gi a1, gi a2] h cvI r hf := by
  refine gMet.of ho hs (plainFor_of_name pn_J1) rfl rfl (gbl rfl) fun X => ?_
  show gT G l X mJ1_sub cvI r hf 0 [(0, gi a0), (1, gi a1), (2, gi a2)] [] h (sJ1_sub G N a0 a1 a2 h)
  delta sJ1_sub
  refine g_iload_n (pc := 0) (x := a0) 0 rfl rfl dJ1_sub_0 ?_
  refine g_iload_n (pc := 1) (x := a1) 1 rfl rfl dJ1_sub_1 ?_
  refine g_isub (pc := 2) dJ1_sub_2 ?_
  refine g_leti fun v1 => ?_
  refine g_dup (pc := 3) rfl dJ1_sub_3 ?_
  refine g_istore_n (pc := 4) (lv' := [(0, gi v1), (2, gi a2)]) [0, 2] rfl rfl (gblt rfl) dJ1_sub_4 ?_
  refine g_if_ge (pc := 5) (tgt := 12) rfl dJ1_sub_5 ?_ ?_
  · refine g_iload_n (pc := 12) (x := v1) 0 rfl rfl dJ1_sub_12 ?_
    exact g_ireturn (pc := 13) rfl dJ1_sub_13
  refine g_iload_n (pc := 8) (x := v1) 0 rfl rfl dJ1_sub_8 ?_
  refine g_iload_n (pc := 9) (x := a2) 1 rfl rfl dJ1_sub_9 ?_
  refine g_iadd (pc := 10) dJ1_sub_10 ?_
  refine g_leti fun v2 => ?_
  refine g_istore_n (pc := 11) (lv' := [(0, gi v2)]) [0] rfl rfl (gblt rfl) dJ1_sub_11 ?_
  refine g_iload_n (pc := 12) (x := v2) 0 rfl rfl dJ1_sub_12 ?_
  exact g_ireturn (pc := 13) rfl dJ1_sub_13
/-! java/util/ArrayDeque.size()I -/
noncomputable def sJ1_size (G : GG) (N : Nat) (a0 : Option Nat) (h : Hp) : Out (Int32) :=
  gFi h a0 22 2 fun v1 =>
  gFi h a0 22 1 fun v2 =>
  gFr h a0 22 0 fun v3 =>
  gLen h v3 fun v4 =>
  bnd (sJ1_sub G N v1 v2 v4 h) fun v5 h6 =>
  some (.inl v5, h6)
abbrev mJ1_size : MI := (RJ1, cJ1_size, 1, (some .int), [], 1, 22, "size")
theorem tJ1_size {G : GG} {l : Launch} (hs : l.stackTraces = false) {N : Nat} {a0 : Option Nat} {h : Hp} {r : Int32 ⊕ Nat} {hf : Hp} (ho : sJ1_size G N a0 h = some (r, hf)) : gMet G l yJ1_size (ws_ yJ1_size cJ1_size 1 (some .int)) 1 22 [gr a0] h cvI r hf := by
  refine gMet.of ho hs (plainFor_of_name pn_J1) rfl rfl (gbl rfl) fun X => ?_
  show gT G l X mJ1_size cvI r hf 0 [(0, gr a0)] [] h (sJ1_size G N a0 h)
  delta sJ1_size
  refine g_aload_n (pc := 0) (x := a0) 0 rfl rfl dJ1_size_0 ?_
  refine g_getfi (pc := 1) k_22 (gblt rfl) lk_J1_20_22 dJ1_size_1 fun v1 => ?_
  refine g_aload_n (pc := 4) (x := a0) 0 rfl rfl dJ1_size_4 ?_
  refine g_getfi (pc := 5) k_22 (gblt rfl) lk_J1_24_22 dJ1_size_5 fun v2 => ?_
  refine g_aload_n (pc := 8) (x := a0) 0 rfl rfl dJ1_size_8 ?_
  refine g_getfr (pc := 9) k_22 (gblt rfl) lk_J1_3_22 dJ1_size_9 fun v3 => ?_
  refine g_alen (pc := 12) dJ1_size_12 fun v4 => ?_
  refine g_bi (pc := 13) (y := yJ1_sub) (ws := ws_ yJ1_sub cJ1_sub 3 (some .int)) (fr := 0) (lo := 0) (as := [gi v1, gi v2, gi v4]) (st := []) (g_no) rfl (fun _ _ e => tJ1_sub hs e) (fun K _ _ hM R e1 e2 => g_runS (M := mJ1_size) (pc := 13) (y := yJ1_sub) (bytes := cJ1_sub) (maxL := 3) (ret := (some .int)) (fr := 0) (lo := 0) (as := [gi v1, gi v2, gi v4]) (st := []) gy_J1_sub (gbl rfl) (gbl rfl) (gbl rfl) q319 q320 dJ1_size_13 K hM R e1 e2) fun v5 h6 => ?_
  exact g_ireturn (pc := 16) rfl dJ1_size_16
/-! java/util/ArrayDeque$DeqIterator.<init>(Ljava/util/ArrayDeque;)V -/
noncomputable def sJ28_init (G : GG) (N : Nat) (a0 : Option Nat) (a1 : Option Nat) (h : Hp) : Out (Unit) :=
  gP G h a0 23 3 (va_rf a1) fun h1 =>
  gNN a0 (gFr h1 a0 23 3 fun v2 =>
  bV h1 v2 22 (fun q9 => sJ1_size G N (some q9) h1) fun v3 h4 =>
  gP G h4 a0 23 1 (.int v3) fun h5 =>
  gP G h5 a0 23 2 (.int (-1 : Int32)) fun h6 =>
  gFi h6 a1 22 1 fun v7 =>
  gP G h6 a0 23 0 (.int v7) fun h8 =>
  some (.inl (), h8))
abbrev mJ28_init : MI := (RJ28, cJ28_init, 2, none, [], 2, 42, "<init>")
theorem tJ28_init {G : GG} {l : Launch} (hs : l.stackTraces = false) {N : Nat} {a0 : Option Nat} {a1 : Option Nat} {h : Hp} {r : Unit ⊕ Nat} {hf : Hp} (ho : sJ28_init G N a0 a1 h = some (r, hf)) : gMet G l yJ28_init (ws_ yJ28_init cJ28_init 2 none) 2 42 [gr a0, gr a1] h cvU r hf := by
  refine gMet.of ho hs (plainFor_of_name pn_J28) rfl rfl (gbl rfl) fun X => ?_
  show gT G l X mJ28_init cvU r hf 0 [(0, gr a0), (1, gr a1)] [] h (sJ28_init G N a0 a1 h)
  delta sJ28_init
  refine g_aload_n (pc := 0) (x := a0) 0 rfl rfl dJ28_init_0 ?_
  refine g_aload_n (pc := 1) (x := a1) 1 rfl rfl dJ28_init_1 ?_
  refine g_putFin (pc := 2) k_23 (gblt rfl) lk_J28_1_23 q1790 rfl rfl rfl rfl (gNr _ _) dJ28_init_2 fun h1 => ?_
  refine g_aload_n (pc := 5) (x := a0) 0 rfl rfl dJ28_init_5 ?_
  refine g_objInit' (pc := 6) q1785 oi_in oi_code (gbl rfl) (gbl rfl) dJ28_init_6 ?_
  refine g_aload_n (pc := 9) (x := a0) 0 rfl rfl dJ28_init_9 ?_
  refine g_aload_n (pc := 10) (x := a0) 0 rfl rfl dJ28_init_10 ?_
  refine g_getfr (pc := 11) k_23 (gblt rfl) lk_J28_1_23 dJ28_init_11 fun v2 => ?_
  refine g_bVi (pc := 14) (y := yJ1_size) (ws := ws_ yJ1_size cJ1_size 1 (some .int)) (fr := 1) (lo := 22) (as := []) (st := [gr a0]) (g_no) rfl (fun _ _ _ e => tJ1_size hs e) (fun K _ _ _ hq hM R e1 e2 => g_runV (M := mJ28_init) (pc := 14) (y := yJ1_size) (bytes := cJ1_size) (maxL := 1) (ret := (some .int)) (fr := 1) (lo := 22) (as := []) (st := [gr a0]) hq (C := "java/util/ArrayDeque") rfl gy_J1_size (gbl rfl) (gbl rfl) (gbl rfl) q1786 q316 q317 dJ28_init_14 K hM R e1 e2) fun v3 h4 => ?_
  refine g_put (pc := 17) k_23 (gblt rfl) lk_J28_19_23 rfl rfl (gNi _) dJ28_init_17 fun h5 => ?_
  refine g_aload_n (pc := 20) (x := a0) 0 rfl rfl dJ28_init_20 ?_
  refine g_iconst (pc := 21) (v := (-1 : Int32)) ic_m1 dJ28_init_21 ?_
  refine g_put (pc := 22) k_23 (gblt rfl) lk_J28_23_23 rfl rfl (gNi _) dJ28_init_22 fun h6 => ?_
  refine g_aload_n (pc := 25) (x := a0) 0 rfl rfl dJ28_init_25 ?_
  refine g_aload_n (pc := 26) (x := a1) 1 rfl rfl dJ28_init_26 ?_
  refine g_getfi (pc := 27) k_22 (gblt rfl) lk_J28_26_22 dJ28_init_27 fun v7 => ?_
  refine g_put (pc := 30) k_23 (gblt rfl) lk_J28_29_23 rfl rfl (gNi _) dJ28_init_30 fun h8 => ?_
  exact g_return (pc := 33) rfl dJ28_init_33
/-! java/util/ArrayDeque.iterator()Ljava/util/Iterator; -/
noncomputable def sJ1_iterator (G : GG) (N : Nat) (a0 : Option Nat) (h : Hp) : Out (Option Nat) :=
  gNew h 23 [.int 0, .int 0, .int 0, .null] 4 fun v1 h2 =>
  bI v1 (fun q5 => sJ28_init G N (some q5) a0 h2) fun v3 h4 =>
  some (.inl v1, h4)
abbrev mJ1_iterator : MI := (RJ1, cJ1_iterator, 1, (some (.object "java/util/Iterator")), [], 3, 63, "iterator")
theorem tJ1_iterator {G : GG} {l : Launch} (hs : l.stackTraces = false) {N : Nat} {a0 : Option Nat} {h : Hp} {r : Option Nat ⊕ Nat} {hf : Hp} (ho : sJ1_iterator G N a0 h = some (r, hf)) : gMet G l yJ1_iterator (ws_ yJ1_iterator cJ1_iterator 1 (some (.object "java/util/Iterator"))) 3 63 [gr a0] h cvR r hf := by
  refine gMet.of ho hs (plainFor_of_name pn_J1) rfl rfl (gbl rfl) fun X => ?_
  show gT G l X mJ1_iterator cvR r hf 0 [(0, gr a0)] [] h (sJ1_iterator G N a0 h)
  delta sJ1_iterator
  refine g_new (pc := 0) k_23 df_23 q1780 q1781 q170 dJ1_iterator_0 fun v1 h2 => ?_
  refine g_dup (pc := 3) rfl dJ1_iterator_3 ?_
  refine g_aload_n (pc := 4) (x := a0) 0 rfl rfl dJ1_iterator_4 ?_
  refine g_bIu (pc := 5) (y := yJ28_init) (ws := ws_ yJ28_init cJ28_init 2 none) (fr := 2) (lo := 42) (as := [gr a0]) (st := [gr v1]) (g_no) rfl (fun _ _ _ e => tJ28_init hs e) (fun K _ _ _ hM R e1 e2 => g_runI (M := mJ1_iterator) (pc := 5) (y := yJ28_init) (bytes := cJ28_init) (maxL := 2) (ret := none) (fr := 2) (lo := 42) (as := [gr a0]) (st := [gr v1]) gy_J28_init (gbl rfl) (gbl rfl) (gbl rfl) rfl q1782 q1783 rfl dJ1_iterator_5 K hM R e1 e2) fun v3 h4 => ?_
  exact g_areturn (pc := 8) rfl (Or.inl ⟨_, rfl⟩) dJ1_iterator_8
/-! java/util/ArrayDeque.nonNullElementAt([Ljava/lang/Object;I)Ljava/lang/Object; -/
noncomputable def sJ1_nonNullElementAt (G : GG) (N : Nat) (a0 : Option Nat) (a1 : Int32) (h : Hp) : Out (Option Nat) :=
  gAr h a0 5 a1 fun v1 =>
  if v1 = none then (none)
  else some (.inl v1, h)
abbrev mJ1_nonNullElementAt : MI := (RJ1, cJ1_nonNullElementAt, 3, (some (.object "java/lang/Object")), [], 0, 0, "nonNullElementAt")
theorem tJ1_nonNullElementAt {G : GG} {l : Launch} (hs : l.stackTraces = false) {N : Nat} {a0 : Option Nat} {a1 : Int32} {h : Hp} {r : Option Nat ⊕ Nat} {hf : Hp} (ho : sJ1_nonNullElementAt G N a0 a1 h = some (r, hf)) : gMet G l yJ1_nonNullElementAt (ws_ yJ1_nonNullElementAt cJ1_nonNullElementAt 3 (some (.object "java/lang/Object"))) 0 0 [gr a0, gi a1] h cvR r hf := by
  refine gMet.of ho hs (plainFor_of_name pn_J1) rfl rfl (gbl rfl) fun X => ?_
  show gT G l X mJ1_nonNullElementAt cvR r hf 0 [(0, gr a0), (1, gi a1)] [] h (sJ1_nonNullElementAt G N a0 a1 h)
  delta sJ1_nonNullElementAt
  refine g_aload_n (pc := 0) (x := a0) 0 rfl rfl dJ1_nonNullElementAt_0 ?_
  refine g_iload_n (pc := 1) (x := a1) 1 rfl rfl dJ1_nonNullElementAt_1 ?_
  refine g_aaload (pc := 2) rfl dJ1_nonNullElementAt_2 fun v1 => ?_
  refine g_astore_n (pc := 3) (lv' := [(2, gr v1)]) [0] rfl rfl (gblt rfl) dJ1_nonNullElementAt_3 ?_
  refine g_aload_n (pc := 4) (x := v1) 0 rfl rfl dJ1_nonNullElementAt_4 ?_
  refine g_ifnonnull (pc := 5) (tgt := 16) rfl dJ1_nonNullElementAt_5 ?_ ?_
  · exact g_none
  refine g_aload_n (pc := 16) (x := v1) 0 rfl rfl dJ1_nonNullElementAt_16 ?_
  exact g_areturn (pc := 17) rfl (Or.inl ⟨_, rfl⟩) dJ1_nonNullElementAt_17
/-! java/util/ArrayDeque.inc(II)I -/
noncomputable def sJ1_inc (G : GG) (N : Nat) (a0 : Int32) (a1 : Int32) (h : Hp) : Out (Int32) :=
  if (a0 + (1 : Int32)) < a1 then (some (.inl (a0 + (1 : Int32)), h))
  else some (.inl (0 : Int32), h)
abbrev mJ1_inc : MI := (RJ1, cJ1_inc, 2, (some .int), [], 0, 0, "inc")
theorem tJ1_inc {G : GG} {l : Launch} (hs : l.stackTraces = false) {N : Nat} {a0 : Int32} {a1 : Int32} {h : Hp} {r : Int32 ⊕ Nat} {hf : Hp} (ho : sJ1_inc G N a0 a1 h = some (r, hf)) : gMet G l yJ1_inc (ws_ yJ1_inc cJ1_inc 2 (some .int)) 0 0 [gi a0, gi a1] h cvI r hf := by
  refine gMet.of ho hs (plainFor_of_name pn_J1) rfl rfl (gbl rfl) fun X => ?_
  show gT G l X mJ1_inc cvI r hf 0 [(0, gi a0), (1, gi a1)] [] h (sJ1_inc G N a0 a1 h)
  delta sJ1_inc
  refine g_iinc (pc := 0) (v := a0 + (1 : Int32)) 0 rfl (ii_1 _) (lv' := [(0, gi (a0 + (1 : Int32))), (1, gi a1)]) [0, 1] rfl (gblt rfl) dJ1_inc_0 ?_
  refine g_iload_n (pc := 3) (x := (a0 + (1 : Int32))) 0 rfl rfl dJ1_inc_3 ?_
  refine g_iload_n (pc := 4) (x := a1) 1 rfl rfl dJ1_inc_4 ?_
  refine g_icmp_lt (pc := 5) (tgt := 10) rfl dJ1_inc_5 ?_ ?_
  · refine g_iload_n (pc := 10) (x := (a0 + (1 : Int32))) 0 rfl rfl dJ1_inc_10 ?_
    exact g_ireturn (pc := 11) rfl dJ1_inc_11
  refine g_iconst (pc := 8) (v := (0 : Int32)) ic_0 dJ1_inc_8 ?_
  refine g_istore_n (pc := 9) (lv' := [(0, gi (0 : Int32))]) [0] rfl rfl (gblt rfl) dJ1_inc_9 ?_
  refine g_iload_n (pc := 10) (x := (0 : Int32)) 0 rfl rfl dJ1_inc_10 ?_
  exact g_ireturn (pc := 11) rfl dJ1_inc_11
/-! java/util/ArrayDeque$DeqIterator.next()Ljava/lang/Object; -/
noncomputable def sJ28_next (G : GG) (N : Nat) (a0 : Option Nat) (h : Hp) : Out (Option Nat) :=
  gFi h a0 23 1 fun v1 =>
  if 0 < v1 then (gFr h a0 23 3 fun v2 =>
  gFr h v2 22 0 fun v3 =>
  gFi h a0 23 0 fun v4 =>
  bnd (sJ1_nonNullElementAt G N v3 v4 h) fun v5 h6 =>
  gFi h6 a0 23 0 fun v7 =>
  gP G h6 a0 23 2 (.int v7) fun h8 =>
  gLen h8 v3 fun v9 =>
  bnd (sJ1_inc G N v7 v9 h8) fun v10 h11 =>
  gP G h11 a0 23 0 (.int v10) fun h12 =>
  gFi h12 a0 23 1 fun v13 =>
  gP G h12 a0 23 1 (.int (v13 - (1 : Int32))) fun h14 =>
  some (.inl v5, h14))
  else none
abbrev mJ28_next : MI := (RJ28, cJ28_next, 3, (some (.object "java/lang/Object")), [], 1, 22, "next")
theorem tJ28_next {G : GG} {l : Launch} (hs : l.stackTraces = false) {N : Nat} {a0 : Option Nat} {h : Hp} {r : Option Nat ⊕ Nat} {hf : Hp} (ho : sJ28_next G N a0 h = some (r, hf)) : gMet G l yJ28_next (ws_ yJ28_next cJ28_next 3 (some (.object "java/lang/Object"))) 1 22 [gr a0] h cvR r hf := by
  refine gMet.of ho hs (plainFor_of_name pn_J28) rfl rfl (gbl rfl) fun X => ?_
  show gT G l X mJ28_next cvR r hf 0 [(0, gr a0)] [] h (sJ28_next G N a0 h)
  delta sJ28_next
  refine g_aload_n (pc := 0) (x := a0) 0 rfl rfl dJ28_next_0 ?_
  refine g_getfi (pc := 1) k_23 (gblt rfl) lk_J28_19_23 dJ28_next_1 fun v1 => ?_
  refine g_if_gt (pc := 4) (tgt := 15) rfl dJ28_next_4 ?_ ?_
  rotate_left
  · exact g_none
  refine g_aload_n (pc := 15) (x := a0) 0 rfl rfl dJ28_next_15 ?_
  refine g_getfr (pc := 16) k_23 (gblt rfl) lk_J28_1_23 dJ28_next_16 fun v2 => ?_
  refine g_getfr (pc := 19) k_22 (gblt rfl) lk_J28_35_22 dJ28_next_19 fun v3 => ?_
  refine g_astore_n (pc := 22) (lv' := [(1, gr v3), (0, gr a0)]) [0, 1] rfl rfl (gblt rfl) dJ28_next_22 ?_
  refine g_aload_n (pc := 23) (x := v3) 0 rfl rfl dJ28_next_23 ?_
  refine g_aload_n (pc := 24) (x := a0) 1 rfl rfl dJ28_next_24 ?_
  refine g_getfi (pc := 25) k_23 (gblt rfl) lk_J28_29_23 dJ28_next_25 fun v4 => ?_
  refine g_br (pc := 28) (y := yJ1_nonNullElementAt) (ws := ws_ yJ1_nonNullElementAt cJ1_nonNullElementAt 3 (some (.object "java/lang/Object"))) (fr := 0) (lo := 0) (as := [gr v3, gi v4]) (st := []) (g_no) rfl (fun _ _ e => tJ1_nonNullElementAt hs e) (fun K _ _ hM R e1 e2 => g_runS (M := mJ28_next) (pc := 28) (y := yJ1_nonNullElementAt) (bytes := cJ1_nonNullElementAt) (maxL := 3) (ret := (some (.object "java/lang/Object"))) (fr := 0) (lo := 0) (as := [gr v3, gi v4]) (st := []) gy_J1_nonNullElementAt (gbl rfl) (gbl rfl) (gbl rfl) q1545 q1546 dJ28_next_28 K hM R e1 e2) fun v5 h6 => ?_
  refine g_astore_n (pc := 31) (lv' := [(2, gr v5), (1, gr v3), (0, gr a0)]) [0, 1, 2] rfl rfl (gblt rfl) dJ28_next_31 ?_
  refine g_aload_n (pc := 32) (x := a0) 2 rfl rfl dJ28_next_32 ?_
  refine g_aload_n (pc := 33) (x := a0) 2 rfl rfl dJ28_next_33 ?_
  refine g_aload_n (pc := 34) (x := a0) 2 rfl rfl dJ28_next_34 ?_
  refine g_getfi (pc := 35) k_23 (gblt rfl) lk_J28_29_23 dJ28_next_35 fun v7 => ?_
  refine g_dup_x1 (pc := 38) rfl rfl dJ28_next_38 ?_
  refine g_put (pc := 39) k_23 (gblt rfl) lk_J28_23_23 rfl rfl (gNi _) dJ28_next_39 fun h8 => ?_
  refine g_aload_n (pc := 42) (x := v3) 1 rfl rfl dJ28_next_42 ?_
  refine g_alen (pc := 43) dJ28_next_43 fun v9 => ?_
  refine g_bi (pc := 44) (y := yJ1_inc) (ws := ws_ yJ1_inc cJ1_inc 2 (some .int)) (fr := 0) (lo := 0) (as := [gi v7, gi v9]) (st := [gr a0]) (g_no) rfl (fun _ _ e => tJ1_inc hs e) (fun K _ _ hM R e1 e2 => g_runS (M := mJ28_next) (pc := 44) (y := yJ1_inc) (bytes := cJ1_inc) (maxL := 2) (ret := (some .int)) (fr := 0) (lo := 0) (as := [gi v7, gi v9]) (st := [gr a0]) gy_J1_inc (gbl rfl) (gbl rfl) (gbl rfl) q1548 q1549 dJ28_next_44 K hM R e1 e2) fun v10 h11 => ?_
  refine g_put (pc := 47) k_23 (gblt rfl) lk_J28_29_23 rfl rfl (gNi _) dJ28_next_47 fun h12 => ?_
  refine g_aload_n (pc := 50) (x := a0) 2 rfl rfl dJ28_next_50 ?_
  refine g_dup (pc := 51) rfl dJ28_next_51 ?_
  refine g_getfi (pc := 52) k_23 (gblt rfl) lk_J28_19_23 dJ28_next_52 fun v13 => ?_
  refine g_iconst (pc := 55) (v := (1 : Int32)) ic_1 dJ28_next_55 ?_
  refine g_isub (pc := 56) dJ28_next_56 ?_
  refine g_put (pc := 57) k_23 (gblt rfl) lk_J28_19_23 rfl rfl (gNi _) dJ28_next_57 fun h14 => ?_
  refine g_aload_n (pc := 60) (x := v5) 0 rfl rfl dJ28_next_60 ?_
  exact g_areturn (pc := 61) rfl (Or.inl ⟨_, rfl⟩) dJ28_next_61
/-! FlareSlopes.bulletin(II)I -/
noncomputable def bX1_bulletin_48 (G : GG) (N : Nat) (v14 : Option Nat) (j20 : (Option Nat) → Hp → Out (Int32)) (w27 : (Option Nat × Int32) → Hp → Out (Int32)) (x25 : Option Nat × Int32) (h26 : Hp) : Out (Int32) :=
  if x25.2 ≤ 0 then (j20 x25.1 h26)
  else bV h26 v14 23 (fun q30 => sJ28_next G N (some q30) h26) fun v28 h29 =>
  gCk h29 v28 [6] (w27 (v28, x25.2 + (-1 : Int32)) h29)
noncomputable def sX1_bulletin (G : GG) (N : Nat) (a0 : Option Nat) (a1 : Int32) (a2 : Int32) (h : Hp) : Out (Int32) :=
  bV h a0 3 (fun q34 => sX1_loaded G N (some q34) h) fun v1 h2 =>
  gFr h2 v1 16 3 fun v3 =>
  bV h2 v3 22 (fun q33 => sJ1_size G N (some q33) h2) fun v4 h5 =>
  bnd (sX1_checkIndex G N a1 v4 h5) fun v6 h7 =>
  bnd (sX1_in G N a2 (0 : Int32) (3 : Int32) h7) fun v8 h9 =>
  bnd (sX1_checkArgument G N v8 h9) fun v10 h11 =>
  gFr h11 a0 3 4 fun v12 =>
  gFr h11 v12 16 3 fun v13 =>
  bV h11 v13 22 (fun q32 => sJ1_iterator G N (some q32) h11) fun v14 h15 =>
  bV h15 v14 23 (fun q31 => sJ28_next G N (some q31) h15) fun v16 h17 =>
  gCk h17 v16 [6] (gJ (fun (x18 : Option Nat) (h19 : Hp) =>
  gSel a2 [((0 : Int32), gFi h19 x18 6 0 fun v22 =>
  some (.inl v22, h19)),
  ((1 : Int32), gFi h19 x18 6 1 fun v23 =>
  some (.inl v23, h19)),
  ((2 : Int32), gFi h19 x18 6 2 fun v24 =>
  some (.inl v24, h19))] (gFi h19 x18 6 3 fun v21 =>
  some (.inl v21, h19))) fun j20 =>
  gLp (bX1_bulletin_48 G N v14 j20) N (v16, a1) h17)
abbrev mX1_bulletin : MI := (RX1, cX1_bulletin, 6, (some .int), [], 8, 121, "bulletin")
theorem tX1_bulletin {G : GG} {l : Launch} (hs : l.stackTraces = false) {N : Nat} {a0 : Option Nat} {a1 : Int32} {a2 : Int32} {h : Hp} {r : Int32 ⊕ Nat} {hf : Hp} (ho : sX1_bulletin G N a0 a1 a2 h = some (r, hf)) : gMet G l yX1_bulletin (ws_ yX1_bulletin cX1_bulletin 6 (some .int)) 8 121 [gr a0, gi a1, gi a2] h cvI r hf := by
  refine gMet.of ho hs (plainFor_of_name pn_X1) rfl rfl (gbl rfl) fun X => ?_
  show gT G l X mX1_bulletin cvI r hf 0 [(0, gr a0), (1, gi a1), (2, gi a2)] [] h (sX1_bulletin G N a0 a1 a2 h)
  delta sX1_bulletin
  refine g_iload_n (pc := 0) (x := a1) 1 rfl rfl dX1_bulletin_0 ?_
  refine g_aload_n (pc := 1) (x := a0) 0 rfl rfl dX1_bulletin_1 ?_
  refine g_bVr (pc := 2) (y := yX1_loaded) (ws := ws_ yX1_loaded cX1_loaded 1 (some (.object "FlareSlopes$State"))) (fr := 7) (lo := 101) (as := []) (st := [gi a1]) (g_no) rfl (fun _ _ _ e => tX1_loaded hs e) (fun K _ _ _ hq hM R e1 e2 => g_runV (M := mX1_bulletin) (pc := 2) (y := yX1_loaded) (bytes := cX1_loaded) (maxL := 1) (ret := (some (.object "FlareSlopes$State"))) (fr := 7) (lo := 101) (as := []) (st := [gi a1]) hq (C := "FlareSlopes") rfl gy_X1_loaded (gbl rfl) (gbl rfl) (gbl rfl) q1430 q1432 qs17 dX1_bulletin_2 K hM R e1 e2) fun v1 h2 => ?_
  refine g_getfr (pc := 5) k_16 (gblt rfl) lk_X1_430_16 dX1_bulletin_5 fun v3 => ?_
  refine g_bVi (pc := 8) (y := yJ1_size) (ws := ws_ yJ1_size cJ1_size 1 (some .int)) (fr := 1) (lo := 22) (as := []) (st := [gi a1]) (g_no) rfl (fun _ _ _ e => tJ1_size hs e) (fun K _ _ _ hq hM R e1 e2 => g_runV (M := mX1_bulletin) (pc := 8) (y := yJ1_size) (bytes := cJ1_size) (maxL := 1) (ret := (some .int)) (fr := 1) (lo := 22) (as := []) (st := [gi a1]) hq (C := "java/util/ArrayDeque") rfl gy_J1_size (gbl rfl) (gbl rfl) (gbl rfl) q315 q316 q317 dX1_bulletin_8 K hM R e1 e2) fun v4 h5 => ?_
  refine g_bu (pc := 11) (y := yX1_checkIndex) (ws := ws_ yX1_checkIndex cX1_checkIndex 2 none) (fr := 6) (lo := 81) (as := [gi a1, gi v4]) (st := []) (g_no) rfl (fun _ _ e => tX1_checkIndex hs e) (fun K _ _ hM R e1 e2 => g_runS (M := mX1_bulletin) (pc := 11) (y := yX1_checkIndex) (bytes := cX1_checkIndex) (maxL := 2) (ret := none) (fr := 6) (lo := 81) (as := [gi a1, gi v4]) (st := []) gy_X1_checkIndex (gbl rfl) (gbl rfl) (gbl rfl) q410 q411 dX1_bulletin_11 K hM R e1 e2) fun v6 h7 => ?_
  refine g_iload_n (pc := 14) (x := a2) 2 rfl rfl dX1_bulletin_14 ?_
  refine g_iconst (pc := 15) (v := (0 : Int32)) ic_0 dX1_bulletin_15 ?_
  refine g_iconst (pc := 16) (v := (3 : Int32)) ic_3 dX1_bulletin_16 ?_
  refine g_bi (pc := 17) (y := yX1_in) (ws := ws_ yX1_in cX1_in 3 (some .boolean)) (fr := 0) (lo := 0) (as := [gi a2, gi (0 : Int32), gi (3 : Int32)]) (st := []) (g_no) rfl (fun _ _ e => tX1_in hs e) (fun K _ _ hM R e1 e2 => g_runS (M := mX1_bulletin) (pc := 17) (y := yX1_in) (bytes := cX1_in) (maxL := 3) (ret := (some .boolean)) (fr := 0) (lo := 0) (as := [gi a2, gi (0 : Int32), gi (3 : Int32)]) (st := []) gy_X1_in (gbl rfl) (gbl rfl) (gbl rfl) q413 q414 dX1_bulletin_17 K hM R e1 e2) fun v8 h9 => ?_
  refine g_bu (pc := 20) (y := yX1_checkArgument) (ws := ws_ yX1_checkArgument cX1_checkArgument 1 none) (fr := 6) (lo := 81) (as := [gi v8]) (st := []) (g_no) rfl (fun _ _ e => tX1_checkArgument hs e) (fun K _ _ hM R e1 e2 => g_runS (M := mX1_bulletin) (pc := 20) (y := yX1_checkArgument) (bytes := cX1_checkArgument) (maxL := 1) (ret := none) (fr := 6) (lo := 81) (as := [gi v8]) (st := []) gy_X1_checkArgument (gbl rfl) (gbl rfl) (gbl rfl) q1958 q1959 dX1_bulletin_20 K hM R e1 e2) fun v10 h11 => ?_
  refine g_aload_n (pc := 23) (x := a0) 0 rfl rfl dX1_bulletin_23 ?_
  refine g_getfr (pc := 24) k_3 (gblt rfl) lk_X1_56_3 dX1_bulletin_24 fun v12 => ?_
  refine g_getfr (pc := 27) k_16 (gblt rfl) lk_X1_430_16 dX1_bulletin_27 fun v13 => ?_
  refine g_bVr (pc := 30) (y := yJ1_iterator) (ws := ws_ yJ1_iterator cJ1_iterator 1 (some (.object "java/util/Iterator"))) (fr := 3) (lo := 63) (as := []) (st := []) (g_no) rfl (fun _ _ _ e => tJ1_iterator hs e) (fun K _ _ _ hq hM R e1 e2 => g_runV (M := mX1_bulletin) (pc := 30) (y := yJ1_iterator) (bytes := cJ1_iterator) (maxL := 1) (ret := (some (.object "java/util/Iterator"))) (fr := 3) (lo := 63) (as := []) (st := []) hq (C := "java/util/ArrayDeque") rfl gy_J1_iterator (gbl rfl) (gbl rfl) (gbl rfl) q3453 q1777 q4641 dX1_bulletin_30 K hM R e1 e2) fun v14 h15 => ?_
  refine g_astore_n (pc := 33) (lv' := [(3, gr v14), (1, gi a1), (2, gi a2)]) [0, 2, 3] rfl rfl (gblt rfl) dX1_bulletin_33 ?_
  refine g_aload_n (pc := 34) (x := v14) 0 rfl rfl dX1_bulletin_34 ?_
  refine g_bVr (pc := 35) (y := yJ28_next) (ws := ws_ yJ28_next cJ28_next 3 (some (.object "java/lang/Object"))) (fr := 1) (lo := 22) (as := []) (st := []) (g_no) rfl (fun _ _ _ e => tJ28_next hs e) (fun K _ _ _ hq hM R e1 e2 => g_runF (x := ⟨"java/util/Iterator", "next", "()Ljava/lang/Object;"⟩) (M := mX1_bulletin) (pc := 35) (y := yJ28_next) (bytes := cJ28_next) (maxL := 3) (ret := (some (.object "java/lang/Object"))) (fr := 1) (lo := 22) (as := []) (st := []) hq (C := "java/util/ArrayDeque$DeqIterator") rfl gy_J28_next rfl (gbl rfl) (gbl rfl) (gbl rfl) q1949 q1539 q1538 q1543 q1541 q1506 mhx_java_util_Iterator q1540 q1542 dX1_bulletin_35 K hM R e1 e2) fun v16 h17 => ?_
  refine g_checkcast (pc := 40) q3454 as_6_FlareSlopes_Bulletin dX1_bulletin_40 ?_
  refine g_astore (pc := 43) (lv' := [(4, gr v16), (3, gr v14), (1, gi a1), (2, gi a2)]) [0, 1, 2, 3] rfl (gblt rfl) dX1_bulletin_43 ?_
  refine g_iload_n (pc := 45) (x := a1) 2 rfl rfl dX1_bulletin_45 ?_
  refine g_istore (pc := 46) (lv' := [(5, gi a1), (4, gr v16), (3, gr v14), (2, gi a2)]) [0, 1, 2, 4] rfl (gblt rfl) dX1_bulletin_46 ?_
  refine g_join 70 (fun (x18 : Option Nat) => [(2, gi a2), (4, gr x18)]) (fun (x18 : Option Nat) => []) (fun x18 h19 => ?_) (fun j20 Hj20 => ?_)
  · refine g_iload_n (pc := 70) (x := a2) 0 rfl rfl dX1_bulletin_70 ?_
    refine g_tableswitch (pc := 71) (td := 120) [((0 : Int32), 96), ((1 : Int32), 104), ((2 : Int32), 112)] (by decide +kernel) dX1_bulletin_71 ?_ (g_all_cons ?_ (g_all_cons ?_ (g_all_cons ?_ g_all_nil)))
    · refine g_aload (pc := 120) (x := x18) 1 rfl dX1_bulletin_120 ?_
      refine g_getfi (pc := 122) k_6 (gblt rfl) lk_X1_441_6 dX1_bulletin_122 fun v21 => ?_
      exact g_ireturn (pc := 125) rfl dX1_bulletin_125
    · refine g_aload (pc := 96) (x := x18) 1 rfl dX1_bulletin_96 ?_
      refine g_getfi (pc := 98) k_6 (gblt rfl) lk_X1_437_6 dX1_bulletin_98 fun v22 => ?_
      refine g_goto (pc := 101) (tgt := 125) rfl dX1_bulletin_101 ?_
      exact g_ireturn (pc := 125) rfl dX1_bulletin_125
    · refine g_aload (pc := 104) (x := x18) 1 rfl dX1_bulletin_104 ?_
      refine g_getfi (pc := 106) k_6 (gblt rfl) lk_X1_438_6 dX1_bulletin_106 fun v23 => ?_
      refine g_goto (pc := 109) (tgt := 125) rfl dX1_bulletin_109 ?_
      exact g_ireturn (pc := 125) rfl dX1_bulletin_125
    · refine g_aload (pc := 112) (x := x18) 1 rfl dX1_bulletin_112 ?_
      refine g_getfi (pc := 114) k_6 (gblt rfl) lk_X1_440_6 dX1_bulletin_114 fun v24 => ?_
      refine g_goto (pc := 117) (tgt := 125) rfl dX1_bulletin_117 ?_
      exact g_ireturn (pc := 125) rfl dX1_bulletin_125
  refine g_sub (lv' := [(2, gi a2), (3, gr v14), (4, gr v16), (5, gi a1)]) [3, 2, 1, 0] rfl ?_
  refine g_loop (pc := 48) (fun (x25 : Option Nat × Int32) => [(2, gi a2), (3, gr v14), (4, gr x25.1), (5, gi x25.2)]) (fun (_ : Option Nat × Int32) => []) (fun w27 Hw27 x25 h26 => ?_) N (v16, a1) h17
  delta bX1_bulletin_48
  refine g_iload (pc := 48) (x := x25.2) 3 rfl dX1_bulletin_48 ?_
  refine g_if_le (pc := 50) (tgt := 70) rfl dX1_bulletin_50 ?_ ?_
  · exact g_sub [0, 2] rfl (Hj20 x25.1 h26)
  refine g_aload_n (pc := 53) (x := v14) 1 rfl rfl dX1_bulletin_53 ?_
  refine g_bVr (pc := 54) (y := yJ28_next) (ws := ws_ yJ28_next cJ28_next 3 (some (.object "java/lang/Object"))) (fr := 1) (lo := 22) (as := []) (st := []) (g_no) rfl (fun _ _ _ e => tJ28_next hs e) (fun K _ _ _ hq hM R e1 e2 => g_runF (x := ⟨"java/util/Iterator", "next", "()Ljava/lang/Object;"⟩) (M := mX1_bulletin) (pc := 54) (y := yJ28_next) (bytes := cJ28_next) (maxL := 3) (ret := (some (.object "java/lang/Object"))) (fr := 1) (lo := 22) (as := []) (st := []) hq (C := "java/util/ArrayDeque$DeqIterator") rfl gy_J28_next rfl (gbl rfl) (gbl rfl) (gbl rfl) q1949 q1539 q1538 q1543 q1541 q1506 mhx_java_util_Iterator q1540 q1542 dX1_bulletin_54 K hM R e1 e2) fun v28 h29 => ?_
  refine g_checkcast (pc := 59) q3454 as_6_FlareSlopes_Bulletin dX1_bulletin_59 ?_
  refine g_astore (pc := 62) (lv' := [(4, gr v28), (2, gi a2), (3, gr v14), (5, gi x25.2)]) [0, 1, 2, 3] rfl (gblt rfl) dX1_bulletin_62 ?_
  refine g_iinc (pc := 64) (v := x25.2 + (-1 : Int32)) 3 rfl (ii_m1 _) (lv' := [(5, gi (x25.2 + (-1 : Int32))), (4, gr v28), (2, gi a2), (3, gr v14)]) [0, 1, 2, 3] rfl (gblt rfl) dX1_bulletin_64 ?_
  refine g_goto (pc := 67) (tgt := 48) rfl dX1_bulletin_67 ?_
  exact g_sub [2, 3, 1, 0] rfl (Hw27 (v28, x25.2 + (-1 : Int32)) h29)
/-! FlareSlopesLaw.bulletin(LFlareSlopes;II[J)I -/
noncomputable def sX0_bulletin (G : GG) (N : Nat) (a0 : Option Nat) (a1 : Int32) (a2 : Int32) (a3 : Option Nat) (h : Hp) : Out (Int32) :=
  bVX h a0 3 (fun q4 => sX1_bulletin G N (some q4) a1 a2 h) (fun v1 h2 =>
  gSl G h2 a3 3 (0 : Int32) (v1.toInt64) fun h3 =>
  some (.inl (0 : Int32), h3)) fun q5 h6 =>
  gSw h6 (some q5) 0 (some (.inl (1 : Int32), h6)) (gSw h6 (some q5) 1 (some (.inl (3 : Int32), h6)) (gSw h6 (some q5) 2 (some (.inl (2 : Int32), h6)) (none)))
abbrev mX0_bulletin : MI := (RX0, cX0_bulletin, 5, (some .int), [(0, 10, 13, 21), (0, 10, 17, 13), (0, 10, 21, 15)], 9, 146, "bulletin")
theorem tX0_bulletin {G : GG} {l : Launch} (hs : l.stackTraces = false) {N : Nat} {a0 : Option Nat} {a1 : Int32} {a2 : Int32} {a3 : Option Nat} {h : Hp} {r : Int32 ⊕ Nat} {hf : Hp} (ho : sX0_bulletin G N a0 a1 a2 a3 h = some (r, hf)) : gMet G l yX0_bulletin (wsW_ yX0_bulletin cX0_bulletin 5 (some .int) [(0, 10, 13, 21), (0, 10, 17, 13), (0, 10, 21, 15)]) 9 146 [gr a0, gi a1, gi a2, gr a3] h cvI r hf := by
  refine gMet.ofW ho hs (plainFor_of_name pn_X0) rfl rfl (gbl rfl) fun X => ?_
  show gT G l X mX0_bulletin cvI r hf 0 [(0, gr a0), (1, gi a1), (2, gi a2), (3, gr a3)] [] h (sX0_bulletin G N a0 a1 a2 a3 h)
  delta sX0_bulletin
  refine g_aload_n (pc := 0) (x := a3) 3 rfl rfl dX0_bulletin_0 ?_
  refine g_iconst (pc := 1) (v := (0 : Int32)) ic_0 dX0_bulletin_1 ?_
  refine g_aload_n (pc := 2) (x := a0) 0 rfl rfl dX0_bulletin_2 ?_
  refine g_iload_n (pc := 3) (x := a1) 1 rfl rfl dX0_bulletin_3 ?_
  refine g_iload_n (pc := 4) (x := a2) 2 rfl rfl dX0_bulletin_4 ?_
  refine g_bVXi (pc := 5) (y := yX1_bulletin) (ws := ws_ yX1_bulletin cX1_bulletin 6 (some .int)) (fr := 8) (lo := 121) (as := [gi a1, gi a2]) (st := [gi (0 : Int32), gr a3]) rfl (fun _ _ _ e => tX1_bulletin hs e) (fun K _ _ _ hq hM R e1 e2 => g_runV (M := mX0_bulletin) (pc := 5) (y := yX1_bulletin) (bytes := cX1_bulletin) (maxL := 6) (ret := (some .int)) (fr := 8) (lo := 121) (as := [gi a1, gi a2]) (st := [gi (0 : Int32), gr a3]) hq (C := "FlareSlopes") rfl gy_X1_bulletin (gbl rfl) (gbl rfl) (gbl rfl) q3449 q3450 q3451 dX0_bulletin_5 K hM R e1 e2) (fun v1 h2 => ?_) (fun q5 h6 => ?_)
  · refine g_i2l (pc := 8) dX0_bulletin_8 ?_
    refine g_lastore (pc := 9) rfl dX0_bulletin_9 fun h3 => ?_
    refine g_goto (pc := 10) (tgt := 25) rfl dX0_bulletin_10 ?_
    refine g_iconst (pc := 25) (v := (0 : Int32)) ic_0 dX0_bulletin_25 ?_
    exact g_ireturn (pc := 26) rfl dX0_bulletin_26
  refine g_catch (E := "java/lang/IllegalStateException") [] ⟨0, 10, 13, 21⟩ [⟨0, 10, 17, 13⟩, ⟨0, 10, 21, 15⟩] rfl rfl (List.forall_mem_nil _) (by decide +kernel) (by decide +kernel) q1425 q1439 ?_ ?_
  · refine g_astore (pc := 13) (lv' := []) [] rfl (gblt rfl) dX0_bulletin_13 ?_
    refine g_iconst (pc := 15) (v := (1 : Int32)) ic_1 dX0_bulletin_15 ?_
    exact g_ireturn (pc := 16) rfl dX0_bulletin_16
  refine g_catch (E := "java/lang/IllegalArgumentException") [⟨0, 10, 13, 21⟩, ⟨0, 10, 17, 13⟩] ⟨0, 10, 21, 15⟩ [] rfl rfl (List.forall_mem_cons.mpr ⟨Or.inr ⟨by decide +kernel, _, q1425, ncl_java_lang_IllegalArgumentException_java_lang_IllegalStateException⟩, List.forall_mem_cons.mpr ⟨Or.inr ⟨by decide +kernel, _, q325, ncl_java_lang_IllegalArgumentException_java_lang_IndexOutOfBoundsException⟩, List.forall_mem_nil _⟩⟩) (by decide +kernel) (by decide +kernel) q404 q751 ?_ ?_
  · refine g_astore (pc := 21) (lv' := []) [] rfl (gblt rfl) dX0_bulletin_21 ?_
    refine g_iconst (pc := 23) (v := (3 : Int32)) ic_3 dX0_bulletin_23 ?_
    exact g_ireturn (pc := 24) rfl dX0_bulletin_24
  refine g_catch (E := "java/lang/IndexOutOfBoundsException") [⟨0, 10, 13, 21⟩] ⟨0, 10, 17, 13⟩ [⟨0, 10, 21, 15⟩] rfl rfl (List.forall_mem_cons.mpr ⟨Or.inr ⟨by decide +kernel, _, q1425, ncl_java_lang_IndexOutOfBoundsException_java_lang_IllegalStateException⟩, List.forall_mem_nil _⟩) (by decide +kernel) (by decide +kernel) q325 q418 ?_ ?_
  · refine g_astore (pc := 17) (lv' := []) [] rfl (gblt rfl) dX0_bulletin_17 ?_
    refine g_iconst (pc := 19) (v := (2 : Int32)) ic_2 dX0_bulletin_19 ?_
    exact g_ireturn (pc := 20) rfl dX0_bulletin_20
  exact g_noneX
/-! FlareSlopesModel.bulletins()I -/
noncomputable def sX2_bulletins (G : GG) (N : Nat) (a0 : Option Nat) (h : Hp) : Out (Int32) :=
  gFr h a0 18 1 fun v1 =>
  gAi h v1 0 (95 : Int32) fun v2 =>
  bnd (sJ14_min G N (10 : Int32) v2 h) fun v3 h4 =>
  some (.inl v3, h4)
abbrev mX2_bulletins : MI := (RX2, cX2_bulletins, 1, (some .int), [], 1, 21, "bulletins")
theorem tX2_bulletins {G : GG} {l : Launch} (hs : l.stackTraces = false) {N : Nat} {a0 : Option Nat} {h : Hp} {r : Int32 ⊕ Nat} {hf : Hp} (ho : sX2_bulletins G N a0 h = some (r, hf)) : gMet G l yX2_bulletins (ws_ yX2_bulletins cX2_bulletins 1 (some .int)) 1 21 [gr a0] h cvI r hf := by
  refine gMet.of ho hs (plainFor_of_name pn_X2) rfl rfl (gbl rfl) fun X => ?_
  show gT G l X mX2_bulletins cvI r hf 0 [(0, gr a0)] [] h (sX2_bulletins G N a0 h)
  delta sX2_bulletins
  refine g_bipush (pc := 0) (v := (10 : Int32)) bc_10 dX2_bulletins_0 ?_
  refine g_aload_n (pc := 2) (x := a0) 0 rfl rfl dX2_bulletins_2 ?_
  refine g_getfr (pc := 3) k_18 (gblt rfl) lk_X2_9_18 dX2_bulletins_3 fun v1 => ?_
  refine g_bipush (pc := 6) (v := (95 : Int32)) bc_95 dX2_bulletins_6 ?_
  refine g_iaload (pc := 8) rfl dX2_bulletins_8 fun v2 => ?_
  refine g_bi (pc := 9) (y := yJ14_min) (ws := ws_ yJ14_min cJ14_min 2 (some .int)) (fr := 0) (lo := 0) (as := [gi (10 : Int32), gi v2]) (st := []) (g_no) rfl (fun _ _ e => tJ14_min hs e) (fun K _ _ hM R e1 e2 => g_runS (M := mX2_bulletins) (pc := 9) (y := yJ14_min) (bytes := cJ14_min) (maxL := 2) (ret := (some .int)) (fr := 0) (lo := 0) (as := [gi (10 : Int32), gi v2]) (st := []) gy_J14_min (gbl rfl) (gbl rfl) (gbl rfl) q4447 q656 dX2_bulletins_9 K hM R e1 e2) fun v3 h4 => ?_
  exact g_ireturn (pc := 12) rfl dX2_bulletins_12
/-! FlareSlopesModel.bulletin(II)I -/
noncomputable def sX2_bulletin (G : GG) (N : Nat) (a0 : Option Nat) (a1 : Int32) (a2 : Int32) (h : Hp) : Out (Int32) :=
  gFi h a0 18 8 fun v1 =>
  bV h a0 18 (fun q16 => sX2_bulletins G N (some q16) h) fun v2 h3 =>
  bnd (sX2_in G N a1 (0 : Int32) (v2 - (1 : Int32)) h3) fun v4 h5 =>
  bnd (sX2_in G N a2 (0 : Int32) (3 : Int32) h5) fun v6 h7 =>
  bV h7 a0 18 (fun q15 => sX2_may G N (some q15) v1 v4 v6 h7) fun v8 h9 =>
  if v8 = 0 then (some (.inl (0 : Int32), h9))
  else gFr h9 a0 18 1 fun v10 =>
  gFr h9 a0 18 1 fun v11 =>
  gAi h9 v11 0 (95 : Int32) fun v12 =>
  gRm ((v12 - (1 : Int32)) - a1) (10 : Int32) fun v13 =>
  gAi h9 v10 0 (((98 : Int32) + ((4 : Int32) * v13)) + a2) fun v14 =>
  some (.inl v14, h9)
abbrev mX2_bulletin : MI := (RX2, cX2_bulletin, 3, (some .int), [], 2, 41, "bulletin")
theorem tX2_bulletin {G : GG} {l : Launch} (hs : l.stackTraces = false) {N : Nat} {a0 : Option Nat} {a1 : Int32} {a2 : Int32} {h : Hp} {r : Int32 ⊕ Nat} {hf : Hp} (ho : sX2_bulletin G N a0 a1 a2 h = some (r, hf)) : gMet G l yX2_bulletin (ws_ yX2_bulletin cX2_bulletin 3 (some .int)) 2 41 [gr a0, gi a1, gi a2] h cvI r hf := by
  refine gMet.of ho hs (plainFor_of_name pn_X2) rfl rfl (gbl rfl) fun X => ?_
  show gT G l X mX2_bulletin cvI r hf 0 [(0, gr a0), (1, gi a1), (2, gi a2)] [] h (sX2_bulletin G N a0 a1 a2 h)
  delta sX2_bulletin
  refine g_aload_n (pc := 0) (x := a0) 0 rfl rfl dX2_bulletin_0 ?_
  refine g_aload_n (pc := 1) (x := a0) 0 rfl rfl dX2_bulletin_1 ?_
  refine g_getfi (pc := 2) k_18 (gblt rfl) lk_X2_184_18 dX2_bulletin_2 fun v1 => ?_
  refine g_iload_n (pc := 5) (x := a1) 1 rfl rfl dX2_bulletin_5 ?_
  refine g_iconst (pc := 6) (v := (0 : Int32)) ic_0 dX2_bulletin_6 ?_
  refine g_aload_n (pc := 7) (x := a0) 0 rfl rfl dX2_bulletin_7 ?_
  refine g_bVi (pc := 8) (y := yX2_bulletins) (ws := ws_ yX2_bulletins cX2_bulletins 1 (some .int)) (fr := 1) (lo := 21) (as := []) (st := [gi (0 : Int32), gi a1, gi v1, gr a0]) (g_no) rfl (fun _ _ _ e => tX2_bulletins hs e) (fun K _ _ _ hq hM R e1 e2 => g_runV (M := mX2_bulletin) (pc := 8) (y := yX2_bulletins) (bytes := cX2_bulletins) (maxL := 1) (ret := (some .int)) (fr := 1) (lo := 21) (as := []) (st := [gi (0 : Int32), gi a1, gi v1, gr a0]) hq (C := "FlareSlopesModel") rfl gy_X2_bulletins (gbl rfl) (gbl rfl) (gbl rfl) q4443 q4445 qs112 dX2_bulletin_8 K hM R e1 e2) fun v2 h3 => ?_
  refine g_iconst (pc := 11) (v := (1 : Int32)) ic_1 dX2_bulletin_11 ?_
  refine g_isub (pc := 12) dX2_bulletin_12 ?_
  refine g_bi (pc := 13) (y := yX2_in) (ws := ws_ yX2_in cX2_in 3 (some .boolean)) (fr := 0) (lo := 0) (as := [gi a1, gi (0 : Int32), gi (v2 - (1 : Int32))]) (st := [gi v1, gr a0]) (g_no) rfl (fun _ _ e => tX2_in hs e) (fun K _ _ hM R e1 e2 => g_runS (M := mX2_bulletin) (pc := 13) (y := yX2_in) (bytes := cX2_in) (maxL := 3) (ret := (some .boolean)) (fr := 0) (lo := 0) (as := [gi a1, gi (0 : Int32), gi (v2 - (1 : Int32))]) (st := [gi v1, gr a0]) gy_X2_in (gbl rfl) (gbl rfl) (gbl rfl) q4037 q4038 dX2_bulletin_13 K hM R e1 e2) fun v4 h5 => ?_
  refine g_iload_n (pc := 16) (x := a2) 2 rfl rfl dX2_bulletin_16 ?_
  refine g_iconst (pc := 17) (v := (0 : Int32)) ic_0 dX2_bulletin_17 ?_
  refine g_iconst (pc := 18) (v := (3 : Int32)) ic_3 dX2_bulletin_18 ?_
  refine g_bi (pc := 19) (y := yX2_in) (ws := ws_ yX2_in cX2_in 3 (some .boolean)) (fr := 0) (lo := 0) (as := [gi a2, gi (0 : Int32), gi (3 : Int32)]) (st := [gi v4, gi v1, gr a0]) (g_no) rfl (fun _ _ e => tX2_in hs e) (fun K _ _ hM R e1 e2 => g_runS (M := mX2_bulletin) (pc := 19) (y := yX2_in) (bytes := cX2_in) (maxL := 3) (ret := (some .boolean)) (fr := 0) (lo := 0) (as := [gi a2, gi (0 : Int32), gi (3 : Int32)]) (st := [gi v4, gi v1, gr a0]) gy_X2_in (gbl rfl) (gbl rfl) (gbl rfl) q4037 q4038 dX2_bulletin_19 K hM R e1 e2) fun v6 h7 => ?_
  refine g_bVi (pc := 22) (y := yX2_may) (ws := ws_ yX2_may cX2_may 4 (some .boolean)) (fr := 0) (lo := 0) (as := [gi v1, gi v4, gi v6]) (st := []) (g_no) rfl (fun _ _ _ e => tX2_may hs e) (fun K _ _ _ hq hM R e1 e2 => g_runV (M := mX2_bulletin) (pc := 22) (y := yX2_may) (bytes := cX2_may) (maxL := 4) (ret := (some .boolean)) (fr := 0) (lo := 0) (as := [gi v1, gi v4, gi v6]) (st := []) hq (C := "FlareSlopesModel") rfl gy_X2_may (gbl rfl) (gbl rfl) (gbl rfl) q4040 q4042 qs54 dX2_bulletin_22 K hM R e1 e2) fun v8 h9 => ?_
  refine g_if_ne (pc := 25) (tgt := 30) rfl dX2_bulletin_25 ?_ ?_
  · refine g_iconst (pc := 28) (v := (0 : Int32)) ic_0 dX2_bulletin_28 ?_
    exact g_ireturn (pc := 29) rfl dX2_bulletin_29
  refine g_aload_n (pc := 30) (x := a0) 0 rfl rfl dX2_bulletin_30 ?_
  refine g_getfr (pc := 31) k_18 (gblt rfl) lk_X2_9_18 dX2_bulletin_31 fun v10 => ?_
  refine g_bipush (pc := 34) (v := (98 : Int32)) bc_98 dX2_bulletin_34 ?_
  refine g_iconst (pc := 36) (v := (4 : Int32)) ic_4 dX2_bulletin_36 ?_
  refine g_aload_n (pc := 37) (x := a0) 0 rfl rfl dX2_bulletin_37 ?_
  refine g_getfr (pc := 38) k_18 (gblt rfl) lk_X2_9_18 dX2_bulletin_38 fun v11 => ?_
  refine g_bipush (pc := 41) (v := (95 : Int32)) bc_95 dX2_bulletin_41 ?_
  refine g_iaload (pc := 43) rfl dX2_bulletin_43 fun v12 => ?_
  refine g_iconst (pc := 44) (v := (1 : Int32)) ic_1 dX2_bulletin_44 ?_
  refine g_isub (pc := 45) dX2_bulletin_45 ?_
  refine g_iload_n (pc := 46) (x := a1) 1 rfl rfl dX2_bulletin_46 ?_
  refine g_isub (pc := 47) dX2_bulletin_47 ?_
  refine g_bipush (pc := 48) (v := (10 : Int32)) bc_10 dX2_bulletin_48 ?_
  refine g_irem (pc := 50) dX2_bulletin_50 fun v13 => ?_
  refine g_imul (pc := 51) dX2_bulletin_51 ?_
  refine g_iadd (pc := 52) dX2_bulletin_52 ?_
  refine g_iload_n (pc := 53) (x := a2) 2 rfl rfl dX2_bulletin_53 ?_
  refine g_iadd (pc := 54) dX2_bulletin_54 ?_
  refine g_iaload (pc := 55) rfl dX2_bulletin_55 fun v14 => ?_
  exact g_ireturn (pc := 56) rfl dX2_bulletin_56
/-! FlareSlopes$Cabin.<init>(LFlareSlopes$Cabin;)V -/
noncomputable def bX12_init_2_120 (G : GG) (N : Nat) (a0 : Option Nat) (v31 : Option Nat) (w35 : (Unit) → Hp → Out (Unit)) (x33 : Unit) (h34 : Hp) : Out (Unit) :=
  bV h34 v31 28 (fun q51 => sJ31_hasNext_c28 G N (some q51) h34) fun v36 h37 =>
  if v36 = 0 then (some (.inl (), h37))
  else bV h37 v31 28 (fun q50 => sJ32_next G N (some q50) h37) fun v38 h39 =>
  gCk h39 v38 [27] (gFr h39 a0 7 8 fun v40 =>
  bV h39 v38 27 (fun q49 => sJ47_getKey_c27 G N (some q49) h39) fun v41 h42 =>
  gCk h42 v41 [10] (bV h42 v38 27 (fun q48 => sJ47_getValue_c27 G N (some q48) h42) fun v43 h44 =>
  gCk h44 v43 [17] (bV h44 v40 26 (fun q47 => sJ23_put_c26 G N (some q47) v41 v43 h44) fun v45 h46 =>
  w35 () h46)))
noncomputable def sX12_init_2 (G : GG) (N : Nat) (a0 : Option Nat) (a1 : Option Nat) (h : Hp) : Out (Unit) :=
  gNN a0 (gP G h a0 7 3 (.int (100 : Int32)) fun h1 =>
  gP G h1 a0 7 4 (.int (-1 : Int32)) fun h2 =>
  gNA h2 0 z_I (8 : Int32) fun v3 h4 =>
  gP G h4 a0 7 7 (va_rf v3) fun h5 =>
  gNew h5 26 [.null, .null, .int 0, .int 0, .int 0, .float 0, .null, .null, .null, .null, .int 0, .int 0] 12 fun v6 h7 =>
  bI v6 (fun q54 => sJ24_init G N (some q54) h7) fun v8 h9 =>
  gP G h9 a0 7 8 (va_rf v6) fun h10 =>
  gFi h10 a1 7 0 fun v11 =>
  gP G h10 a0 7 0 (.int v11) fun h12 =>
  gFi h12 a1 7 1 fun v13 =>
  gP G h12 a0 7 1 (.int v13) fun h14 =>
  gFi h14 a1 7 6 fun v15 =>
  gP G h14 a0 7 6 (.int v15) fun h16 =>
  gFi h16 a1 7 2 fun v17 =>
  gP G h16 a0 7 2 (.int v17) fun h18 =>
  gFi h18 a1 7 3 fun v19 =>
  gP G h18 a0 7 3 (.int v19) fun h20 =>
  gFi h20 a1 7 4 fun v21 =>
  gP G h20 a0 7 4 (.int v21) fun h22 =>
  gFi h22 a1 7 5 fun v23 =>
  gP G h22 a0 7 5 (.int v23) fun h24 =>
  gFr h24 a1 7 7 fun v25 =>
  gFr h24 a0 7 7 fun v26 =>
  gCp G h24 v25 (0 : Int32) v26 (0 : Int32) (8 : Int32) 0 .int fun h27 =>
  gFr h27 a1 7 8 fun v28 =>
  bV h27 v28 26 (fun q53 => sJ24_entrySet G N (some q53) h27) fun v29 h30 =>
  bV h30 v29 29 (fun q52 => sJ50_iterator G N (some q52) h30) fun v31 h32 =>
  gLp (bX12_init_2_120 G N a0 v31) N () h32)
abbrev mX12_init_2 : MI := (RX12, cX12_init_2, 4, none, [], 6, 139, "<init>")
theorem tX12_init_2 {G : GG} {l : Launch} (hs : l.stackTraces = false) {N : Nat} {a0 : Option Nat} {a1 : Option Nat} {h : Hp} {r : Unit ⊕ Nat} {hf : Hp} (ho : sX12_init_2 G N a0 a1 h = some (r, hf)) : gMet G l yX12_init_2 (ws_ yX12_init_2 cX12_init_2 4 none) 6 139 [gr a0, gr a1] h cvU r hf := by
  refine gMet.of ho hs (plainFor_of_name pn_X12) rfl rfl (gbl rfl) fun X => ?_
  show gT G l X mX12_init_2 cvU r hf 0 [(0, gr a0), (1, gr a1)] [] h (sX12_init_2 G N a0 a1 h)
  delta sX12_init_2
  refine g_aload_n (pc := 0) (x := a0) 0 rfl rfl dX12_init_2_0 ?_
  refine g_objInit' (pc := 1) q1237 oi_in oi_code (gbl rfl) (gbl rfl) dX12_init_2_1 ?_
  refine g_aload_n (pc := 4) (x := a0) 0 rfl rfl dX12_init_2_4 ?_
  refine g_bipush (pc := 5) (v := (100 : Int32)) bc_100 dX12_init_2_5 ?_
  refine g_put (pc := 7) k_7 (gblt rfl) lk_X12_9_7 rfl rfl (gNi _) dX12_init_2_7 fun h1 => ?_
  refine g_aload_n (pc := 10) (x := a0) 0 rfl rfl dX12_init_2_10 ?_
  refine g_iconst (pc := 11) (v := (-1 : Int32)) ic_m1 dX12_init_2_11 ?_
  refine g_put (pc := 12) k_7 (gblt rfl) lk_X12_15_7 rfl rfl (gNi _) dX12_init_2_12 fun h2 => ?_
  refine g_aload_n (pc := 15) (x := a0) 0 rfl rfl dX12_init_2_15 ?_
  refine g_bipush (pc := 16) (v := (8 : Int32)) bc_8 dX12_init_2_16 ?_
  refine g_naI (pc := 18) q298 dX12_init_2_18 fun v3 h4 => ?_
  refine g_putFin (pc := 20) k_7 (gblt rfl) lk_X12_18_7 q1321 rfl rfl rfl rfl (gNa _ _) dX12_init_2_20 fun h5 => ?_
  refine g_aload_n (pc := 23) (x := a0) 0 rfl rfl dX12_init_2_23 ?_
  refine g_new (pc := 24) k_26 df_26 q1238 q1239 q165 dX12_init_2_24 fun v6 h7 => ?_
  refine g_dup (pc := 27) rfl dX12_init_2_27 ?_
  refine g_bIu (pc := 28) (y := yJ24_init) (ws := ws_ yJ24_init cJ24_init 1 none) (fr := 3) (lo := 52) (as := []) (st := [gr v6, gr a0]) (g_no) rfl (fun _ _ _ e => tJ24_init hs e) (fun K _ _ _ hM R e1 e2 => g_runI (M := mX12_init_2) (pc := 28) (y := yJ24_init) (bytes := cJ24_init) (maxL := 1) (ret := none) (fr := 3) (lo := 52) (as := []) (st := [gr v6, gr a0]) gy_J24_init (gbl rfl) (gbl rfl) (gbl rfl) rfl q1240 q1241 rfl dX12_init_2_28 K hM R e1 e2) fun v8 h9 => ?_
  refine g_putFin (pc := 31) k_7 (gblt rfl) lk_X12_25_7 q1324 rfl rfl rfl rfl (gNr _ _) dX12_init_2_31 fun h10 => ?_
  refine g_aload_n (pc := 34) (x := a0) 0 rfl rfl dX12_init_2_34 ?_
  refine g_aload_n (pc := 35) (x := a1) 1 rfl rfl dX12_init_2_35 ?_
  refine g_getfi (pc := 36) k_7 (gblt rfl) lk_X12_34_7 dX12_init_2_36 fun v11 => ?_
  refine g_put (pc := 39) k_7 (gblt rfl) lk_X12_34_7 rfl rfl (gNi _) dX12_init_2_39 fun h12 => ?_
  refine g_aload_n (pc := 42) (x := a0) 0 rfl rfl dX12_init_2_42 ?_
  refine g_aload_n (pc := 43) (x := a1) 1 rfl rfl dX12_init_2_43 ?_
  refine g_getfi (pc := 44) k_7 (gblt rfl) lk_X12_38_7 dX12_init_2_44 fun v13 => ?_
  refine g_put (pc := 47) k_7 (gblt rfl) lk_X12_38_7 rfl rfl (gNi _) dX12_init_2_47 fun h14 => ?_
  refine g_aload_n (pc := 50) (x := a0) 0 rfl rfl dX12_init_2_50 ?_
  refine g_aload_n (pc := 51) (x := a1) 1 rfl rfl dX12_init_2_51 ?_
  refine g_getfi (pc := 52) k_7 (gblt rfl) lk_X12_42_7 dX12_init_2_52 fun v15 => ?_
  refine g_putFin (pc := 55) k_7 (gblt rfl) lk_X12_42_7 q1319 rfl rfl rfl rfl (gNi _) dX12_init_2_55 fun h16 => ?_
  refine g_aload_n (pc := 58) (x := a0) 0 rfl rfl dX12_init_2_58 ?_
  refine g_aload_n (pc := 59) (x := a1) 1 rfl rfl dX12_init_2_59 ?_
  refine g_getfi (pc := 60) k_7 (gblt rfl) lk_X12_46_7 dX12_init_2_60 fun v17 => ?_
  refine g_put (pc := 63) k_7 (gblt rfl) lk_X12_46_7 rfl rfl (gNi _) dX12_init_2_63 fun h18 => ?_
  refine g_aload_n (pc := 66) (x := a0) 0 rfl rfl dX12_init_2_66 ?_
  refine g_aload_n (pc := 67) (x := a1) 1 rfl rfl dX12_init_2_67 ?_
  refine g_getfi (pc := 68) k_7 (gblt rfl) lk_X12_9_7 dX12_init_2_68 fun v19 => ?_
  refine g_put (pc := 71) k_7 (gblt rfl) lk_X12_9_7 rfl rfl (gNi _) dX12_init_2_71 fun h20 => ?_
  refine g_aload_n (pc := 74) (x := a0) 0 rfl rfl dX12_init_2_74 ?_
  refine g_aload_n (pc := 75) (x := a1) 1 rfl rfl dX12_init_2_75 ?_
  refine g_getfi (pc := 76) k_7 (gblt rfl) lk_X12_15_7 dX12_init_2_76 fun v21 => ?_
  refine g_put (pc := 79) k_7 (gblt rfl) lk_X12_15_7 rfl rfl (gNi _) dX12_init_2_79 fun h22 => ?_
  refine g_aload_n (pc := 82) (x := a0) 0 rfl rfl dX12_init_2_82 ?_
  refine g_aload_n (pc := 83) (x := a1) 1 rfl rfl dX12_init_2_83 ?_
  refine g_getfi (pc := 84) k_7 (gblt rfl) lk_X12_47_7 dX12_init_2_84 fun v23 => ?_
  refine g_put (pc := 87) k_7 (gblt rfl) lk_X12_47_7 rfl rfl (gNi _) dX12_init_2_87 fun h24 => ?_
  refine g_aload_n (pc := 90) (x := a1) 1 rfl rfl dX12_init_2_90 ?_
  refine g_getfr (pc := 91) k_7 (gblt rfl) lk_X12_18_7 dX12_init_2_91 fun v25 => ?_
  refine g_iconst (pc := 94) (v := (0 : Int32)) ic_0 dX12_init_2_94 ?_
  refine g_aload_n (pc := 95) (x := a0) 0 rfl rfl dX12_init_2_95 ?_
  refine g_getfr (pc := 96) k_7 (gblt rfl) lk_X12_18_7 dX12_init_2_96 fun v26 => ?_
  refine g_iconst (pc := 99) (v := (0 : Int32)) ic_0 dX12_init_2_99 ?_
  refine g_bipush (pc := 100) (v := (8 : Int32)) bc_8 dX12_init_2_100 ?_
  refine g_arraycopy (pc := 102) (t := 0) rfl rfl q3472 ac_nat ac_stat q152 (gbl rfl) (gbl rfl) dX12_init_2_102 fun h27 => ?_
  refine g_aload_n (pc := 105) (x := a1) 1 rfl rfl dX12_init_2_105 ?_
  refine g_getfr (pc := 106) k_7 (gblt rfl) lk_X12_25_7 dX12_init_2_106 fun v28 => ?_
  refine g_bVr (pc := 109) (y := yJ24_entrySet) (ws := ws_ yJ24_entrySet cJ24_entrySet 1 (some (.object "java/util/Set"))) (fr := 5) (lo := 96) (as := []) (st := []) (g_no) rfl (fun _ _ _ e => tJ24_entrySet hs e) (fun K _ _ _ hq hM R e1 e2 => g_runF (x := ⟨"java/util/Map", "entrySet", "()Ljava/util/Set;"⟩) (M := mX12_init_2) (pc := 109) (y := yJ24_entrySet) (bytes := cJ24_entrySet) (maxL := 1) (ret := (some (.object "java/util/Set"))) (fr := 5) (lo := 96) (as := []) (st := []) hq (C := "java/util/LinkedHashMap") rfl gy_J24_entrySet rfl (gbl rfl) (gbl rfl) (gbl rfl) q3474 q3272 q3271 q3276 q3274 q1613 mhx_java_util_Map q3273 q3275 dX12_init_2_109 K hM R e1 e2) fun v29 h30 => ?_
  refine g_bVr (pc := 114) (y := yJ50_iterator) (ws := ws_ yJ50_iterator cJ50_iterator 1 (some (.object "java/util/Iterator"))) (fr := 3) (lo := 56) (as := []) (st := []) (g_no) rfl (fun _ _ _ e => tJ50_iterator hs e) (fun K _ _ _ hq hM R e1 e2 => g_runF (x := ⟨"java/util/Set", "iterator", "()Ljava/util/Iterator;"⟩) (M := mX12_init_2) (pc := 114) (y := yJ50_iterator) (bytes := cJ50_iterator) (maxL := 1) (ret := (some (.object "java/util/Iterator"))) (fr := 3) (lo := 56) (as := []) (st := []) hq (C := "java/util/LinkedHashMap$LinkedEntrySet") rfl gy_J50_iterator rfl (gbl rfl) (gbl rfl) (gbl rfl) q3476 q1937 q1936 q1837 q1835 q1940 mhx_java_util_Set q1941 q1836 dX12_init_2_114 K hM R e1 e2) fun v31 h32 => ?_
  refine g_astore_n (pc := 119) (lv' := [(2, gr v31), (0, gr a0)]) [0, 1] rfl rfl (gblt rfl) dX12_init_2_119 ?_
  refine g_sub (lv' := [(0, gr a0), (2, gr v31)]) [1, 0] rfl ?_
  refine g_loop (pc := 120) (fun (x33 : Unit) => [(0, gr a0), (2, gr v31)]) (fun (_ : Unit) => []) (fun w35 Hw35 x33 h34 => ?_) N () h32
  delta bX12_init_2_120
  refine g_aload_n (pc := 120) (x := v31) 1 rfl rfl dX12_init_2_120 ?_
  refine g_bVi (pc := 121) (y := yJ31_hasNext) (ws := ws_ yJ31_hasNext cJ31_hasNext 1 (some .boolean)) (fr := 0) (lo := 0) (as := []) (st := []) (g_no) rfl (fun _ _ _ e => tJ31_hasNext_c28 hs e) (fun K _ _ _ hq hM R e1 e2 => g_runF (x := ⟨"java/util/Iterator", "hasNext", "()Z"⟩) (M := mX12_init_2) (pc := 121) (y := yJ31_hasNext) (bytes := cJ31_hasNext) (maxL := 1) (ret := (some .boolean)) (fr := 0) (lo := 0) (as := []) (st := []) hq (C := "java/util/LinkedHashMap$LinkedEntryIterator") rfl gy_J31_hasNext rfl (gbl rfl) (gbl rfl) (gbl rfl) q3478 q1505 q1504 q1528 q1526 q1524 mhx_java_util_Iterator q1525 q1527 dX12_init_2_121 K hM R e1 e2) fun v36 h37 => ?_
  refine g_if_eq (pc := 126) (tgt := 170) rfl dX12_init_2_126 ?_ ?_
  · exact g_return (pc := 170) rfl dX12_init_2_170
  refine g_aload_n (pc := 129) (x := v31) 1 rfl rfl dX12_init_2_129 ?_
  refine g_bVr (pc := 130) (y := yJ32_next) (ws := ws_ yJ32_next cJ32_next 1 (some (.object "java/lang/Object"))) (fr := 2) (lo := 41) (as := []) (st := []) (g_no) rfl (fun _ _ _ e => tJ32_next hs e) (fun K _ _ _ hq hM R e1 e2 => g_runF (x := ⟨"java/util/Iterator", "next", "()Ljava/lang/Object;"⟩) (M := mX12_init_2) (pc := 130) (y := yJ32_next) (bytes := cJ32_next) (maxL := 1) (ret := (some (.object "java/lang/Object"))) (fr := 2) (lo := 41) (as := []) (st := []) hq (C := "java/util/LinkedHashMap$LinkedEntryIterator") rfl gy_J32_next rfl (gbl rfl) (gbl rfl) (gbl rfl) q3480 q1539 q1538 q1574 q1572 q1524 mhx_java_util_Iterator q1571 q1573 dX12_init_2_130 K hM R e1 e2) fun v38 h39 => ?_
  refine g_checkcast (pc := 135) q3481 as_27_java_util_Map_Entry dX12_init_2_135 ?_
  refine g_astore_n (pc := 138) (lv' := [(3, gr v38), (0, gr a0), (2, gr v31)]) [0, 1, 2] rfl rfl (gblt rfl) dX12_init_2_138 ?_
  refine g_aload_n (pc := 139) (x := a0) 1 rfl rfl dX12_init_2_139 ?_
  refine g_getfr (pc := 140) k_7 (gblt rfl) lk_X12_25_7 dX12_init_2_140 fun v40 => ?_
  refine g_aload_n (pc := 143) (x := v38) 0 rfl rfl dX12_init_2_143 ?_
  refine g_bVr (pc := 144) (y := yJ47_getKey) (ws := ws_ yJ47_getKey cJ47_getKey 1 (some (.object "java/lang/Object"))) (fr := 0) (lo := 0) (as := []) (st := [gr v40]) (g_no) rfl (fun _ _ _ e => tJ47_getKey_c27 hs e) (fun K _ _ _ hq hM R e1 e2 => g_runF (x := ⟨"java/util/Map$Entry", "getKey", "()Ljava/lang/Object;"⟩) (M := mX12_init_2) (pc := 144) (y := yJ47_getKey) (bytes := cJ47_getKey) (maxL := 1) (ret := (some (.object "java/lang/Object"))) (fr := 0) (lo := 0) (as := []) (st := [gr v40]) hq (C := "java/util/LinkedHashMap$Entry") rfl gy_J47_getKey rfl (gbl rfl) (gbl rfl) (gbl rfl) q3483 q3315 q3314 q3318 q3322 q3309 mhx_java_util_Map_Entry q3321 q1599 dX12_init_2_144 K hM R e1 e2) fun v41 h42 => ?_
  refine g_checkcast (pc := 149) q3484 as_10_FlareSlopes_Key dX12_init_2_149 ?_
  refine g_aload_n (pc := 152) (x := v38) 0 rfl rfl dX12_init_2_152 ?_
  refine g_bVr (pc := 153) (y := yJ47_getValue) (ws := ws_ yJ47_getValue cJ47_getValue 1 (some (.object "java/lang/Object"))) (fr := 0) (lo := 0) (as := []) (st := [gr v41, gr v40]) (g_no) rfl (fun _ _ _ e => tJ47_getValue_c27 hs e) (fun K _ _ _ hq hM R e1 e2 => g_runF (x := ⟨"java/util/Map$Entry", "getValue", "()Ljava/lang/Object;"⟩) (M := mX12_init_2) (pc := 153) (y := yJ47_getValue) (bytes := cJ47_getValue) (maxL := 1) (ret := (some (.object "java/lang/Object"))) (fr := 0) (lo := 0) (as := []) (st := [gr v41, gr v40]) hq (C := "java/util/LinkedHashMap$Entry") rfl gy_J47_getValue rfl (gbl rfl) (gbl rfl) (gbl rfl) q3486 q3299 q3298 q3304 q3311 q3309 mhx_java_util_Map_Entry q3310 q3303 dX12_init_2_153 K hM R e1 e2) fun v43 h44 => ?_
  refine g_checkcast (pc := 158) q3487 as_17_FlareSlopes_Vote dX12_init_2_158 ?_
  refine g_bVr (pc := 161) (y := yJ23_put) (ws := ws_ yJ23_put cJ23_put 3 (some (.object "java/lang/Object"))) (fr := 5) (lo := 117) (as := [gr v41, gr v43]) (st := []) (g_no) rfl (fun _ _ _ e => tJ23_put_c26 hs e) (fun K _ _ _ hq hM R e1 e2 => g_runF (x := ⟨"java/util/Map", "put", "(Ljava/lang/Object;Ljava/lang/Object;)Ljava/lang/Object;"⟩) (M := mX12_init_2) (pc := 161) (y := yJ23_put) (bytes := cJ23_put) (maxL := 3) (ret := (some (.object "java/lang/Object"))) (fr := 5) (lo := 117) (as := [gr v41, gr v43]) (st := []) hq (C := "java/util/LinkedHashMap") rfl gy_J23_put rfl (gbl rfl) (gbl rfl) (gbl rfl) q3489 q3491 q3490 q3494 q3493 q1613 mhx_java_util_Map q3492 q2825 dX12_init_2_161 K hM R e1 e2) fun v45 h46 => ?_
  refine g_pop (pc := 166) rfl dX12_init_2_166 ?_
  refine g_goto (pc := 167) (tgt := 120) rfl dX12_init_2_167 ?_
  exact g_sub [1, 2] rfl (Hw35 () h46)
/-! java/util/ArrayDeque$DeqIterator.hasNext()Z -/
noncomputable def sJ28_hasNext (G : GG) (N : Nat) (a0 : Option Nat) (h : Hp) : Out (Int32) :=
  gFi h a0 23 1 fun v1 =>
  if v1 ≤ 0 then (gRtZ (0 : Int32) h)
  else gRtZ (1 : Int32) h
abbrev mJ28_hasNext : MI := (RJ28, cJ28_hasNext, 1, (some .boolean), [], 0, 0, "hasNext")
theorem tJ28_hasNext {G : GG} {l : Launch} (hs : l.stackTraces = false) {N : Nat} {a0 : Option Nat} {h : Hp} {r : Int32 ⊕ Nat} {hf : Hp} (ho : sJ28_hasNext G N a0 h = some (r, hf)) : gMet G l yJ28_hasNext (ws_ yJ28_hasNext cJ28_hasNext 1 (some .boolean)) 0 0 [gr a0] h cvI r hf := by
  refine gMet.of ho hs (plainFor_of_name pn_J28) rfl rfl (gbl rfl) fun X => ?_
  show gT G l X mJ28_hasNext cvI r hf 0 [(0, gr a0)] [] h (sJ28_hasNext G N a0 h)
  delta sJ28_hasNext
  refine g_aload_n (pc := 0) (x := a0) 0 rfl rfl dJ28_hasNext_0 ?_
  refine g_getfi (pc := 1) k_23 (gblt rfl) lk_J28_19_23 dJ28_hasNext_1 fun v1 => ?_
  refine g_if_le (pc := 4) (tgt := 11) rfl dJ28_hasNext_4 ?_ ?_
  · refine g_iconst (pc := 11) (v := (0 : Int32)) ic_0 dJ28_hasNext_11 ?_
    exact g_zreturn (pc := 12) rfl dJ28_hasNext_12
  refine g_iconst (pc := 7) (v := (1 : Int32)) ic_1 dJ28_hasNext_7 ?_
  refine g_goto (pc := 8) (tgt := 12) rfl dJ28_hasNext_8 ?_
  exact g_zreturn (pc := 12) rfl dJ28_hasNext_12
/-! java/util/ArrayDeque.addLast(Ljava/lang/Object;)V -/
noncomputable def sJ1_addLast (G : GG) (N : Nat) (a0 : Option Nat) (a1 : Option Nat) (h : Hp) : Out (Unit) :=
  if a1 = none then (none)
  else gFr h a0 22 0 fun v1 =>
  gFi h a0 22 2 fun v2 =>
  gSr G h v1 5 asl_java_lang_Object v2 a1 fun h3 =>
  gFi h3 a0 22 1 fun v4 =>
  gFi h3 a0 22 2 fun v5 =>
  gLen h3 v1 fun v6 =>
  bnd (sJ1_inc G N v5 v6 h3) fun v7 h8 =>
  gP G h8 a0 22 2 (.int v7) fun h9 =>
  if v4 = v7 then (none)
  else some (.inl (), h9)
abbrev mJ1_addLast : MI := (RJ1, cJ1_addLast, 3, none, [], 1, 21, "addLast")
theorem tJ1_addLast {G : GG} {l : Launch} (hs : l.stackTraces = false) {N : Nat} {a0 : Option Nat} {a1 : Option Nat} {h : Hp} {r : Unit ⊕ Nat} {hf : Hp} (ho : sJ1_addLast G N a0 a1 h = some (r, hf)) : gMet G l yJ1_addLast (ws_ yJ1_addLast cJ1_addLast 3 none) 1 21 [gr a0, gr a1] h cvU r hf := by
  refine gMet.of ho hs (plainFor_of_name pn_J1) rfl rfl (gbl rfl) fun X => ?_
  show gT G l X mJ1_addLast cvU r hf 0 [(0, gr a0), (1, gr a1)] [] h (sJ1_addLast G N a0 a1 h)
  delta sJ1_addLast
  refine g_aload_n (pc := 0) (x := a1) 1 rfl rfl dJ1_addLast_0 ?_
  refine g_ifnonnull (pc := 1) (tgt := 12) rfl dJ1_addLast_1 ?_ ?_
  · exact g_none
  refine g_aload_n (pc := 12) (x := a0) 0 rfl rfl dJ1_addLast_12 ?_
  refine g_getfr (pc := 13) k_22 (gblt rfl) lk_J1_3_22 dJ1_addLast_13 fun v1 => ?_
  refine g_astore_n (pc := 16) (lv' := [(2, gr v1), (0, gr a0), (1, gr a1)]) [0, 1, 2] rfl rfl (gblt rfl) dJ1_addLast_16 ?_
  refine g_aload_n (pc := 17) (x := v1) 0 rfl rfl dJ1_addLast_17 ?_
  refine g_aload_n (pc := 18) (x := a0) 1 rfl rfl dJ1_addLast_18 ?_
  refine g_getfi (pc := 19) k_22 (gblt rfl) lk_J1_20_22 dJ1_addLast_19 fun v2 => ?_
  refine g_aload_n (pc := 22) (x := a1) 2 rfl rfl dJ1_addLast_22 ?_
  refine g_aastore (pc := 23) rfl asl_java_lang_Object_ok dJ1_addLast_23 fun h3 => ?_
  refine g_aload_n (pc := 24) (x := a0) 1 rfl rfl dJ1_addLast_24 ?_
  refine g_getfi (pc := 25) k_22 (gblt rfl) lk_J1_24_22 dJ1_addLast_25 fun v4 => ?_
  refine g_aload_n (pc := 28) (x := a0) 1 rfl rfl dJ1_addLast_28 ?_
  refine g_aload_n (pc := 29) (x := a0) 1 rfl rfl dJ1_addLast_29 ?_
  refine g_getfi (pc := 30) k_22 (gblt rfl) lk_J1_20_22 dJ1_addLast_30 fun v5 => ?_
  refine g_aload_n (pc := 33) (x := v1) 0 rfl rfl dJ1_addLast_33 ?_
  refine g_alen (pc := 34) dJ1_addLast_34 fun v6 => ?_
  refine g_bi (pc := 35) (y := yJ1_inc) (ws := ws_ yJ1_inc cJ1_inc 2 (some .int)) (fr := 0) (lo := 0) (as := [gi v5, gi v6]) (st := [gr a0, gi v4]) (g_no) rfl (fun _ _ e => tJ1_inc hs e) (fun K _ _ hM R e1 e2 => g_runS (M := mJ1_addLast) (pc := 35) (y := yJ1_inc) (bytes := cJ1_inc) (maxL := 2) (ret := (some .int)) (fr := 0) (lo := 0) (as := [gi v5, gi v6]) (st := [gr a0, gi v4]) gy_J1_inc (gbl rfl) (gbl rfl) (gbl rfl) q3501 q1549 dJ1_addLast_35 K hM R e1 e2) fun v7 h8 => ?_
  refine g_dup_x1 (pc := 38) rfl rfl dJ1_addLast_38 ?_
  refine g_put (pc := 39) k_22 (gblt rfl) lk_J1_20_22 rfl rfl (gNi _) dJ1_addLast_39 fun h9 => ?_
  refine g_icmp_ne (pc := 42) (tgt := 50) rfl dJ1_addLast_42 ?_ ?_
  · exact g_none
  exact g_return (pc := 50) rfl dJ1_addLast_50
/-! FlareSlopes$State.<init>(LFlareSlopes$State;)V -/
noncomputable def bX3_init_2_131 (G : GG) (N : Nat) (a0 : Option Nat) (v32 : Option Nat) (j36 : (Unit) → Hp → Out (Unit)) (w55 : (Unit) → Hp → Out (Unit)) (x53 : Unit) (h54 : Hp) : Out (Unit) :=
  bV h54 v32 23 (fun q65 => sJ28_hasNext G N (some q65) h54) fun v56 h57 =>
  if v56 = 0 then (j36 () h57)
  else bV h57 v32 23 (fun q64 => sJ28_next G N (some q64) h57) fun v58 h59 =>
  gCk h59 v58 [6] (gFr h59 a0 16 3 fun v60 =>
  bV h59 v60 22 (fun q63 => sJ1_addLast G N (some q63) v58 h59) fun v61 h62 =>
  w55 () h62)
noncomputable def bX3_init_2_83 (G : GG) (N : Nat) (a0 : Option Nat) (v26 : Option Nat) (j30 : (Unit) → Hp → Out (Unit)) (w69 : (Unit) → Hp → Out (Unit)) (x67 : Unit) (h68 : Hp) : Out (Unit) :=
  bV h68 v26 25 (fun q84 => sJ26_hasNext G N (some q84) h68) fun v70 h71 =>
  if v70 = 0 then (j30 () h71)
  else bV h71 v26 25 (fun q83 => sJ26_next G N (some q83) h71) fun v72 h73 =>
  gCk h73 v72 [7] (gFr h73 a0 16 1 fun v74 =>
  gNew h73 7 [.int 0, .int 0, .int 0, .int 0, .int 0, .int 0, .int 0, .null, .null] 9 fun v75 h76 =>
  bI v75 (fun q82 => sX12_init_2 G N (some q82) v72 h76) fun v77 h78 =>
  bV h78 v74 24 (fun q81 => sJ12_add G N (some q81) v75 h78) fun v79 h80 =>
  w69 () h80)
noncomputable def sX3_init_2 (G : GG) (N : Nat) (a0 : Option Nat) (a1 : Option Nat) (h : Hp) : Out (Unit) :=
  gNN a0 (gNew h 24 [.int 0, .null, .int 0] 3 fun v1 h2 =>
  bI v1 (fun q87 => sJ12_init G N (some q87) h2) fun v3 h4 =>
  gP G h4 a0 16 1 (va_rf v1) fun h5 =>
  gNA h5 0 z_I (6 : Int32) fun v6 h7 =>
  gP G h7 a0 16 2 (va_rf v6) fun h8 =>
  gNew h8 22 [.null, .int 0, .int 0] 3 fun v9 h10 =>
  bI v9 (fun q86 => sJ1_init G N (some q86) h10) fun v11 h12 =>
  gP G h12 a0 16 3 (va_rf v9) fun h13 =>
  gNA h13 0 z_I (8 : Int32) fun v14 h15 =>
  gP G h15 a0 16 12 (va_rf v14) fun h16 =>
  gNA h16 0 z_I (8 : Int32) fun v17 h18 =>
  gP G h18 a0 16 13 (va_rf v17) fun h19 =>
  gFr h19 a1 16 0 fun v20 =>
  gP G h19 a0 16 0 (va_rf v20) fun h21 =>
  gFr h21 a1 16 2 fun v22 =>
  gFr h21 a0 16 2 fun v23 =>
  gCp G h21 v22 (0 : Int32) v23 (0 : Int32) (6 : Int32) 0 .int fun h24 =>
  gFr h24 a1 16 1 fun v25 =>
  bV h24 v25 24 (fun q85 => sJ12_iterator G N (some q85) h24) fun v26 h27 =>
  gJ (fun (x28 : Unit) (h29 : Hp) =>
  gFr h29 a1 16 3 fun v31 =>
  bV h29 v31 22 (fun q66 => sJ1_iterator G N (some q66) h29) fun v32 h33 =>
  gJ (fun (x34 : Unit) (h35 : Hp) =>
  gFi h35 a1 16 4 fun v37 =>
  gP G h35 a0 16 4 (.int v37) fun h38 =>
  gFi h38 a1 16 5 fun v39 =>
  gP G h38 a0 16 5 (.int v39) fun h40 =>
  gFi h40 a1 16 6 fun v41 =>
  gP G h40 a0 16 6 (.int v41) fun h42 =>
  gFi h42 a1 16 7 fun v43 =>
  gP G h42 a0 16 7 (.int v43) fun h44 =>
  gFi h44 a1 16 8 fun v45 =>
  gP G h44 a0 16 8 (.int v45) fun h46 =>
  gFi h46 a1 16 9 fun v47 =>
  gP G h46 a0 16 9 (.int v47) fun h48 =>
  gFi h48 a1 16 10 fun v49 =>
  gP G h48 a0 16 10 (.int v49) fun h50 =>
  gFi h50 a1 16 11 fun v51 =>
  gP G h50 a0 16 11 (.int v51) fun h52 =>
  some (.inl (), h52)) fun j36 =>
  gLp (bX3_init_2_131 G N a0 v32 j36) N () h33) fun j30 =>
  gLp (bX3_init_2_83 G N a0 v26 j30) N () h27)
abbrev mX3_init_2 : MI := (RX3, cX3_init_2, 4, none, [], 7, 162, "<init>")
theorem tX3_init_2 {G : GG} {l : Launch} (hs : l.stackTraces = false) {N : Nat} {a0 : Option Nat} {a1 : Option Nat} {h : Hp} {r : Unit ⊕ Nat} {hf : Hp} (ho : sX3_init_2 G N a0 a1 h = some (r, hf)) : gMet G l yX3_init_2 (ws_ yX3_init_2 cX3_init_2 4 none) 7 162 [gr a0, gr a1] h cvU r hf := by
  refine gMet.of ho hs (plainFor_of_name pn_X3) rfl rfl (gbl rfl) fun X => ?_
  show gT G l X mX3_init_2 cvU r hf 0 [(0, gr a0), (1, gr a1)] [] h (sX3_init_2 G N a0 a1 h)
  delta sX3_init_2
  refine g_aload_n (pc := 0) (x := a0) 0 rfl rfl dX3_init_2_0 ?_
  refine g_objInit' (pc := 1) q1223 oi_in oi_code (gbl rfl) (gbl rfl) dX3_init_2_1 ?_
  refine g_aload_n (pc := 4) (x := a0) 0 rfl rfl dX3_init_2_4 ?_
  refine g_new (pc := 5) k_24 df_24 q1224 q457 q146 dX3_init_2_5 fun v1 h2 => ?_
  refine g_dup (pc := 8) rfl dX3_init_2_8 ?_
  refine g_bIu (pc := 9) (y := yJ12_init) (ws := ws_ yJ12_init cJ12_init 1 none) (fr := 3) (lo := 52) (as := []) (st := [gr v1, gr a0]) (g_no) rfl (fun _ _ _ e => tJ12_init hs e) (fun K _ _ _ hM R e1 e2 => g_runI (M := mX3_init_2) (pc := 9) (y := yJ12_init) (bytes := cJ12_init) (maxL := 1) (ret := none) (fr := 3) (lo := 52) (as := []) (st := [gr v1, gr a0]) gy_J12_init (gbl rfl) (gbl rfl) (gbl rfl) rfl q1225 q459 rfl dX3_init_2_9 K hM R e1 e2) fun v3 h4 => ?_
  refine g_putFin (pc := 12) k_16 (gblt rfl) lk_X3_12_16 q1350 rfl rfl rfl rfl (gNr _ _) dX3_init_2_12 fun h5 => ?_
  refine g_aload_n (pc := 15) (x := a0) 0 rfl rfl dX3_init_2_15 ?_
  refine g_bipush (pc := 16) (v := (6 : Int32)) bc_6 dX3_init_2_16 ?_
  refine g_naI (pc := 18) q298 dX3_init_2_18 fun v6 h7 => ?_
  refine g_putFin (pc := 20) k_16 (gblt rfl) lk_X3_18_16 q1351 rfl rfl rfl rfl (gNa _ _) dX3_init_2_20 fun h8 => ?_
  refine g_aload_n (pc := 23) (x := a0) 0 rfl rfl dX3_init_2_23 ?_
  refine g_new (pc := 24) k_22 df_22 q1226 q210 q130 dX3_init_2_24 fun v9 h10 => ?_
  refine g_dup (pc := 27) rfl dX3_init_2_27 ?_
  refine g_bIu (pc := 28) (y := yJ1_init) (ws := ws_ yJ1_init cJ1_init 1 none) (fr := 2) (lo := 32) (as := []) (st := [gr v9, gr a0]) (g_no) rfl (fun _ _ _ e => tJ1_init hs e) (fun K _ _ _ hM R e1 e2 => g_runI (M := mX3_init_2) (pc := 28) (y := yJ1_init) (bytes := cJ1_init) (maxL := 1) (ret := none) (fr := 2) (lo := 32) (as := []) (st := [gr v9, gr a0]) gy_J1_init (gbl rfl) (gbl rfl) (gbl rfl) rfl q1227 q212 rfl dX3_init_2_28 K hM R e1 e2) fun v11 h12 => ?_
  refine g_putFin (pc := 31) k_16 (gblt rfl) lk_X3_25_16 q1353 rfl rfl rfl rfl (gNr _ _) dX3_init_2_31 fun h13 => ?_
  refine g_aload_n (pc := 34) (x := a0) 0 rfl rfl dX3_init_2_34 ?_
  refine g_bipush (pc := 35) (v := (8 : Int32)) bc_8 dX3_init_2_35 ?_
  refine g_naI (pc := 37) q298 dX3_init_2_37 fun v14 h15 => ?_
  refine g_putFin (pc := 39) k_16 (gblt rfl) lk_X3_29_16 q1371 rfl rfl rfl rfl (gNa _ _) dX3_init_2_39 fun h16 => ?_
  refine g_aload_n (pc := 42) (x := a0) 0 rfl rfl dX3_init_2_42 ?_
  refine g_bipush (pc := 43) (v := (8 : Int32)) bc_8 dX3_init_2_43 ?_
  refine g_naI (pc := 45) q298 dX3_init_2_45 fun v17 h18 => ?_
  refine g_putFin (pc := 47) k_16 (gblt rfl) lk_X3_32_16 q1373 rfl rfl rfl rfl (gNa _ _) dX3_init_2_47 fun h19 => ?_
  refine g_aload_n (pc := 50) (x := a0) 0 rfl rfl dX3_init_2_50 ?_
  refine g_aload_n (pc := 51) (x := a1) 1 rfl rfl dX3_init_2_51 ?_
  refine g_getfr (pc := 52) k_16 (gblt rfl) lk_X3_35_16 dX3_init_2_52 fun v20 => ?_
  refine g_putFin (pc := 55) k_16 (gblt rfl) lk_X3_35_16 q1348 rfl rfl rfl rfl (gNr _ _) dX3_init_2_55 fun h21 => ?_
  refine g_aload_n (pc := 58) (x := a1) 1 rfl rfl dX3_init_2_58 ?_
  refine g_getfr (pc := 59) k_16 (gblt rfl) lk_X3_18_16 dX3_init_2_59 fun v22 => ?_
  refine g_iconst (pc := 62) (v := (0 : Int32)) ic_0 dX3_init_2_62 ?_
  refine g_aload_n (pc := 63) (x := a0) 0 rfl rfl dX3_init_2_63 ?_
  refine g_getfr (pc := 64) k_16 (gblt rfl) lk_X3_18_16 dX3_init_2_64 fun v23 => ?_
  refine g_iconst (pc := 67) (v := (0 : Int32)) ic_0 dX3_init_2_67 ?_
  refine g_bipush (pc := 68) (v := (6 : Int32)) bc_6 dX3_init_2_68 ?_
  refine g_arraycopy (pc := 70) (t := 0) rfl rfl q1228 ac_nat ac_stat q152 (gbl rfl) (gbl rfl) dX3_init_2_70 fun h24 => ?_
  refine g_aload_n (pc := 73) (x := a1) 1 rfl rfl dX3_init_2_73 ?_
  refine g_getfr (pc := 74) k_16 (gblt rfl) lk_X3_12_16 dX3_init_2_74 fun v25 => ?_
  refine g_bVr (pc := 77) (y := yJ12_iterator) (ws := ws_ yJ12_iterator cJ12_iterator 1 (some (.object "java/util/Iterator"))) (fr := 2) (lo := 33) (as := []) (st := []) (g_no) rfl (fun _ _ _ e => tJ12_iterator hs e) (fun K _ _ _ hq hM R e1 e2 => g_runF (x := ⟨"java/util/List", "iterator", "()Ljava/util/Iterator;"⟩) (M := mX3_init_2) (pc := 77) (y := yJ12_iterator) (bytes := cJ12_iterator) (maxL := 1) (ret := (some (.object "java/util/Iterator"))) (fr := 2) (lo := 33) (as := []) (st := []) hq (C := "java/util/ArrayList") rfl gy_J12_iterator rfl (gbl rfl) (gbl rfl) (gbl rfl) q1475 q1477 q1476 q1481 q1479 q971 mhx_java_util_List q1478 q1480 dX3_init_2_77 K hM R e1 e2) fun v26 h27 => ?_
  refine g_astore_n (pc := 82) (lv' := [(2, gr v26), (0, gr a0), (1, gr a1)]) [0, 1, 2] rfl rfl (gblt rfl) dX3_init_2_82 ?_
  refine g_join 123 (fun (x28 : Unit) => [(0, gr a0), (1, gr a1)]) (fun (x28 : Unit) => []) (fun x28 h29 => ?_) (fun j30 Hj30 => ?_)
  · refine g_aload_n (pc := 123) (x := a1) 1 rfl rfl dX3_init_2_123 ?_
    refine g_getfr (pc := 124) k_16 (gblt rfl) lk_X3_25_16 dX3_init_2_124 fun v31 => ?_
    refine g_bVr (pc := 127) (y := yJ1_iterator) (ws := ws_ yJ1_iterator cJ1_iterator 1 (some (.object "java/util/Iterator"))) (fr := 3) (lo := 63) (as := []) (st := []) (g_no) rfl (fun _ _ _ e => tJ1_iterator hs e) (fun K _ _ _ hq hM R e1 e2 => g_runV (M := mX3_init_2) (pc := 127) (y := yJ1_iterator) (bytes := cJ1_iterator) (maxL := 1) (ret := (some (.object "java/util/Iterator"))) (fr := 3) (lo := 63) (as := []) (st := []) hq (C := "java/util/ArrayDeque") rfl gy_J1_iterator (gbl rfl) (gbl rfl) (gbl rfl) q3495 q1777 q4641 dX3_init_2_127 K hM R e1 e2) fun v32 h33 => ?_
    refine g_astore_n (pc := 130) (lv' := [(2, gr v32), (0, gr a0), (1, gr a1)]) [0, 1, 2] rfl rfl (gblt rfl) dX3_init_2_130 ?_
    refine g_join 161 (fun (x34 : Unit) => [(0, gr a0), (1, gr a1)]) (fun (x34 : Unit) => []) (fun x34 h35 => ?_) (fun j36 Hj36 => ?_)
    · refine g_aload_n (pc := 161) (x := a0) 0 rfl rfl dX3_init_2_161 ?_
      refine g_aload_n (pc := 162) (x := a1) 1 rfl rfl dX3_init_2_162 ?_
      refine g_getfi (pc := 163) k_16 (gblt rfl) lk_X3_98_16 dX3_init_2_163 fun v37 => ?_
      refine g_put (pc := 166) k_16 (gblt rfl) lk_X3_98_16 rfl rfl (gNi _) dX3_init_2_166 fun h38 => ?_
      refine g_aload_n (pc := 169) (x := a0) 0 rfl rfl dX3_init_2_169 ?_
      refine g_aload_n (pc := 170) (x := a1) 1 rfl rfl dX3_init_2_170 ?_
      refine g_getfi (pc := 171) k_16 (gblt rfl) lk_X3_102_16 dX3_init_2_171 fun v39 => ?_
      refine g_put (pc := 174) k_16 (gblt rfl) lk_X3_102_16 rfl rfl (gNi _) dX3_init_2_174 fun h40 => ?_
      refine g_aload_n (pc := 177) (x := a0) 0 rfl rfl dX3_init_2_177 ?_
      refine g_aload_n (pc := 178) (x := a1) 1 rfl rfl dX3_init_2_178 ?_
      refine g_getfi (pc := 179) k_16 (gblt rfl) lk_X3_105_16 dX3_init_2_179 fun v41 => ?_
      refine g_put (pc := 182) k_16 (gblt rfl) lk_X3_105_16 rfl rfl (gNi _) dX3_init_2_182 fun h42 => ?_
      refine g_aload_n (pc := 185) (x := a0) 0 rfl rfl dX3_init_2_185 ?_
      refine g_aload_n (pc := 186) (x := a1) 1 rfl rfl dX3_init_2_186 ?_
      refine g_getfi (pc := 187) k_16 (gblt rfl) lk_X3_108_16 dX3_init_2_187 fun v43 => ?_
      refine g_put (pc := 190) k_16 (gblt rfl) lk_X3_108_16 rfl rfl (gNi _) dX3_init_2_190 fun h44 => ?_
      refine g_aload_n (pc := 193) (x := a0) 0 rfl rfl dX3_init_2_193 ?_
      refine g_aload_n (pc := 194) (x := a1) 1 rfl rfl dX3_init_2_194 ?_
      refine g_getfi (pc := 195) k_16 (gblt rfl) lk_X3_111_16 dX3_init_2_195 fun v45 => ?_
      refine g_put (pc := 198) k_16 (gblt rfl) lk_X3_111_16 rfl rfl (gNi _) dX3_init_2_198 fun h46 => ?_
      refine g_aload_n (pc := 201) (x := a0) 0 rfl rfl dX3_init_2_201 ?_
      refine g_aload_n (pc := 202) (x := a1) 1 rfl rfl dX3_init_2_202 ?_
      refine g_getfi (pc := 203) k_16 (gblt rfl) lk_X3_114_16 dX3_init_2_203 fun v47 => ?_
      refine g_put (pc := 206) k_16 (gblt rfl) lk_X3_114_16 rfl rfl (gNi _) dX3_init_2_206 fun h48 => ?_
      refine g_aload_n (pc := 209) (x := a0) 0 rfl rfl dX3_init_2_209 ?_
      refine g_aload_n (pc := 210) (x := a1) 1 rfl rfl dX3_init_2_210 ?_
      refine g_getfi (pc := 211) k_16 (gblt rfl) lk_X3_117_16 dX3_init_2_211 fun v49 => ?_
      refine g_put (pc := 214) k_16 (gblt rfl) lk_X3_117_16 rfl rfl (gNi _) dX3_init_2_214 fun h50 => ?_
      refine g_aload_n (pc := 217) (x := a0) 0 rfl rfl dX3_init_2_217 ?_
      refine g_aload_n (pc := 218) (x := a1) 1 rfl rfl dX3_init_2_218 ?_
      refine g_getfi (pc := 219) k_16 (gblt rfl) lk_X3_120_16 dX3_init_2_219 fun v51 => ?_
      refine g_put (pc := 222) k_16 (gblt rfl) lk_X3_120_16 rfl rfl (gNi _) dX3_init_2_222 fun h52 => ?_
      exact g_return (pc := 225) rfl dX3_init_2_225
    refine g_sub (lv' := [(0, gr a0), (1, gr a1), (2, gr v32)]) [1, 2, 0] rfl ?_
    refine g_loop (pc := 131) (fun (x53 : Unit) => [(0, gr a0), (1, gr a1), (2, gr v32)]) (fun (_ : Unit) => []) (fun w55 Hw55 x53 h54 => ?_) N () h33
    delta bX3_init_2_131
    refine g_aload_n (pc := 131) (x := v32) 2 rfl rfl dX3_init_2_131 ?_
    refine g_bVi (pc := 132) (y := yJ28_hasNext) (ws := ws_ yJ28_hasNext cJ28_hasNext 1 (some .boolean)) (fr := 0) (lo := 0) (as := []) (st := []) (g_no) rfl (fun _ _ _ e => tJ28_hasNext hs e) (fun K _ _ _ hq hM R e1 e2 => g_runF (x := ⟨"java/util/Iterator", "hasNext", "()Z"⟩) (M := mX3_init_2) (pc := 132) (y := yJ28_hasNext) (bytes := cJ28_hasNext) (maxL := 1) (ret := (some .boolean)) (fr := 0) (lo := 0) (as := []) (st := []) hq (C := "java/util/ArrayDeque$DeqIterator") rfl gy_J28_hasNext rfl (gbl rfl) (gbl rfl) (gbl rfl) q1503 q1505 q1504 q1510 q1508 q1506 mhx_java_util_Iterator q1507 q1509 dX3_init_2_132 K hM R e1 e2) fun v56 h57 => ?_
    refine g_if_eq (pc := 137) (tgt := 161) rfl dX3_init_2_137 ?_ ?_
    · exact g_sub [0, 1] rfl (Hj36 () h57)
    refine g_aload_n (pc := 140) (x := v32) 2 rfl rfl dX3_init_2_140 ?_
    refine g_bVr (pc := 141) (y := yJ28_next) (ws := ws_ yJ28_next cJ28_next 3 (some (.object "java/lang/Object"))) (fr := 1) (lo := 22) (as := []) (st := []) (g_no) rfl (fun _ _ _ e => tJ28_next hs e) (fun K _ _ _ hq hM R e1 e2 => g_runF (x := ⟨"java/util/Iterator", "next", "()Ljava/lang/Object;"⟩) (M := mX3_init_2) (pc := 141) (y := yJ28_next) (bytes := cJ28_next) (maxL := 3) (ret := (some (.object "java/lang/Object"))) (fr := 1) (lo := 22) (as := []) (st := []) hq (C := "java/util/ArrayDeque$DeqIterator") rfl gy_J28_next rfl (gbl rfl) (gbl rfl) (gbl rfl) q1537 q1539 q1538 q1543 q1541 q1506 mhx_java_util_Iterator q1540 q1542 dX3_init_2_141 K hM R e1 e2) fun v58 h59 => ?_
    refine g_checkcast (pc := 146) q3496 as_6_FlareSlopes_Bulletin dX3_init_2_146 ?_
    refine g_astore_n (pc := 149) (lv' := [(3, gr v58), (0, gr a0), (1, gr a1), (2, gr v32)]) [0, 1, 2, 3] rfl rfl (gblt rfl) dX3_init_2_149 ?_
    refine g_aload_n (pc := 150) (x := a0) 1 rfl rfl dX3_init_2_150 ?_
    refine g_getfr (pc := 151) k_16 (gblt rfl) lk_X3_25_16 dX3_init_2_151 fun v60 => ?_
    refine g_aload_n (pc := 154) (x := v58) 0 rfl rfl dX3_init_2_154 ?_
    refine g_bVu (pc := 155) (y := yJ1_addLast) (ws := ws_ yJ1_addLast cJ1_addLast 3 none) (fr := 1) (lo := 21) (as := [gr v58]) (st := []) (g_no) rfl (fun _ _ _ e => tJ1_addLast hs e) (fun K _ _ _ hq hM R e1 e2 => g_runV (M := mX3_init_2) (pc := 155) (y := yJ1_addLast) (bytes := cJ1_addLast) (maxL := 3) (ret := none) (fr := 1) (lo := 21) (as := [gr v58]) (st := []) hq (C := "java/util/ArrayDeque") rfl gy_J1_addLast (gbl rfl) (gbl rfl) (gbl rfl) q3497 q3498 q3499 dX3_init_2_155 K hM R e1 e2) fun v61 h62 => ?_
    refine g_goto (pc := 158) (tgt := 131) rfl dX3_init_2_158 ?_
    exact g_sub [1, 2, 3] rfl (Hw55 () h62)
  refine g_sub (lv' := [(0, gr a0), (1, gr a1), (2, gr v26)]) [1, 2, 0] rfl ?_
  refine g_loop (pc := 83) (fun (x67 : Unit) => [(0, gr a0), (1, gr a1), (2, gr v26)]) (fun (_ : Unit) => []) (fun w69 Hw69 x67 h68 => ?_) N () h27
  delta bX3_init_2_83
  refine g_aload_n (pc := 83) (x := v26) 2 rfl rfl dX3_init_2_83 ?_
  refine g_bVi (pc := 84) (y := yJ26_hasNext) (ws := ws_ yJ26_hasNext cJ26_hasNext 1 (some .boolean)) (fr := 0) (lo := 0) (as := []) (st := []) (g_no) rfl (fun _ _ _ e => tJ26_hasNext hs e) (fun K _ _ _ hq hM R e1 e2 => g_runF (x := ⟨"java/util/Iterator", "hasNext", "()Z"⟩) (M := mX3_init_2) (pc := 84) (y := yJ26_hasNext) (bytes := cJ26_hasNext) (maxL := 1) (ret := (some .boolean)) (fr := 0) (lo := 0) (as := []) (st := []) hq (C := "java/util/ArrayList$Itr") rfl gy_J26_hasNext rfl (gbl rfl) (gbl rfl) (gbl rfl) q1503 q1505 q1504 q1516 q1514 q1512 mhx_java_util_Iterator q1513 q1515 dX3_init_2_84 K hM R e1 e2) fun v70 h71 => ?_
  refine g_if_eq (pc := 89) (tgt := 123) rfl dX3_init_2_89 ?_ ?_
  · exact g_sub [0, 1] rfl (Hj30 () h71)
  refine g_aload_n (pc := 92) (x := v26) 2 rfl rfl dX3_init_2_92 ?_
  refine g_bVr (pc := 93) (y := yJ26_next) (ws := ws_ yJ26_next cJ26_next 3 (some (.object "java/lang/Object"))) (fr := 1) (lo := 20) (as := []) (st := []) (g_no) rfl (fun _ _ _ e => tJ26_next hs e) (fun K _ _ _ hq hM R e1 e2 => g_runF (x := ⟨"java/util/Iterator", "next", "()Ljava/lang/Object;"⟩) (M := mX3_init_2) (pc := 93) (y := yJ26_next) (bytes := cJ26_next) (maxL := 3) (ret := (some (.object "java/lang/Object"))) (fr := 1) (lo := 20) (as := []) (st := []) hq (C := "java/util/ArrayList$Itr") rfl gy_J26_next rfl (gbl rfl) (gbl rfl) (gbl rfl) q1537 q1539 q1538 q1554 q1552 q1512 mhx_java_util_Iterator q1551 q1553 dX3_init_2_93 K hM R e1 e2) fun v72 h73 => ?_
  refine g_checkcast (pc := 98) q1230 as_7_FlareSlopes_Cabin dX3_init_2_98 ?_
  refine g_astore_n (pc := 101) (lv' := [(3, gr v72), (0, gr a0), (1, gr a1), (2, gr v26)]) [0, 1, 2, 3] rfl rfl (gblt rfl) dX3_init_2_101 ?_
  refine g_aload_n (pc := 102) (x := a0) 1 rfl rfl dX3_init_2_102 ?_
  refine g_getfr (pc := 103) k_16 (gblt rfl) lk_X3_12_16 dX3_init_2_103 fun v74 => ?_
  refine g_new (pc := 106) k_7 df_7 q1230 q1231 q162 dX3_init_2_106 fun v75 h76 => ?_
  refine g_dup (pc := 109) rfl dX3_init_2_109 ?_
  refine g_aload_n (pc := 110) (x := v72) 0 rfl rfl dX3_init_2_110 ?_
  refine g_bIu (pc := 111) (y := yX12_init_2) (ws := ws_ yX12_init_2 cX12_init_2 4 none) (fr := 6) (lo := 139) (as := [gr v72]) (st := [gr v75, gr v74]) (g_no) rfl (fun _ _ _ e => tX12_init_2 hs e) (fun K _ _ _ hM R e1 e2 => g_runI (M := mX3_init_2) (pc := 111) (y := yX12_init_2) (bytes := cX12_init_2) (maxL := 4) (ret := none) (fr := 6) (lo := 139) (as := [gr v72]) (st := [gr v75, gr v74]) gy_X12_init_2 (gbl rfl) (gbl rfl) (gbl rfl) rfl q3469 q3470 rfl dX3_init_2_111 K hM R e1 e2) fun v77 h78 => ?_
  refine g_bVi (pc := 114) (y := yJ12_add) (ws := ws_ yJ12_add cJ12_add 2 (some .boolean)) (fr := 4) (lo := 87) (as := [gr v75]) (st := []) (g_no) rfl (fun _ _ _ e => tJ12_add hs e) (fun K _ _ _ hq hM R e1 e2 => g_runF (x := ⟨"java/util/List", "add", "(Ljava/lang/Object;)Z"⟩) (M := mX3_init_2) (pc := 114) (y := yJ12_add) (bytes := cJ12_add) (maxL := 2) (ret := (some .boolean)) (fr := 4) (lo := 87) (as := [gr v75]) (st := []) hq (C := "java/util/ArrayList") rfl gy_J12_add rfl (gbl rfl) (gbl rfl) (gbl rfl) q1347 q1096 q1095 q1100 q1098 q971 mhx_java_util_List q1097 q1099 dX3_init_2_114 K hM R e1 e2) fun v79 h80 => ?_
  refine g_pop (pc := 119) rfl dX3_init_2_119 ?_
  refine g_goto (pc := 120) (tgt := 83) rfl dX3_init_2_120 ?_
  exact g_sub [1, 2, 3] rfl (Hw69 () h80)
/-! java/util/LinkedHashMap.afterNodeRemoval(Ljava/util/HashMap$Node;)V -/
noncomputable def sJ24_afterNodeRemoval (G : GG) (N : Nat) (a0 : Option Nat) (a1 : Option Nat) (h : Hp) : Out (Unit) :=
  gCk h a1 [27] (gFr h a1 27 4 fun v1 =>
  gFr h a1 27 5 fun v2 =>
  gP G h a1 27 5 (va_rf none) fun h3 =>
  gP G h3 a1 27 4 (va_rf none) fun h4 =>
  gJ (fun (x5 : Unit) (h6 : Hp) =>
  if v2 = none then (gP G h6 a0 26 9 (va_rf v1) fun h9 =>
  some (.inl (), h9))
  else gP G h6 v2 27 4 (va_rf v1) fun h8 =>
  some (.inl (), h8)) fun j7 =>
  if v1 = none then (gP G h4 a0 26 8 (va_rf v2) fun h11 =>
  j7 () h11)
  else gP G h4 v1 27 5 (va_rf v2) fun h10 =>
  j7 () h10)
abbrev mJ24_afterNodeRemoval : MI := (RJ24, cJ24_afterNodeRemoval, 5, none, [], 0, 0, "afterNodeRemoval")
theorem tJ24_afterNodeRemoval {G : GG} {l : Launch} (hs : l.stackTraces = false) {N : Nat} {a0 : Option Nat} {a1 : Option Nat} {h : Hp} {r : Unit ⊕ Nat} {hf : Hp} (ho : sJ24_afterNodeRemoval G N a0 a1 h = some (r, hf)) : gMet G l yJ24_afterNodeRemoval (ws_ yJ24_afterNodeRemoval cJ24_afterNodeRemoval 5 none) 0 0 [gr a0, gr a1] h cvU r hf := by
  refine gMet.of ho hs (plainFor_of_name pn_J24) rfl rfl (gbl rfl) fun X => ?_
  show gT G l X mJ24_afterNodeRemoval cvU r hf 0 [(0, gr a0), (1, gr a1)] [] h (sJ24_afterNodeRemoval G N a0 a1 h)
  delta sJ24_afterNodeRemoval
  refine g_aload_n (pc := 0) (x := a1) 1 rfl rfl dJ24_afterNodeRemoval_0 ?_
  refine g_checkcast (pc := 1) q2321 as_27_java_util_LinkedHashMap_Entry dJ24_afterNodeRemoval_1 ?_
  refine g_astore_n (pc := 4) (lv' := [(2, gr a1), (0, gr a0)]) [0, 1] rfl rfl (gblt rfl) dJ24_afterNodeRemoval_4 ?_
  refine g_aload_n (pc := 5) (x := a1) 0 rfl rfl dJ24_afterNodeRemoval_5 ?_
  refine g_getfr (pc := 6) k_27 (gblt rfl) lk_J24_19_27 dJ24_afterNodeRemoval_6 fun v1 => ?_
  refine g_astore_n (pc := 9) (lv' := [(3, gr v1), (2, gr a1), (0, gr a0)]) [0, 1, 2] rfl rfl (gblt rfl) dJ24_afterNodeRemoval_9 ?_
  refine g_aload_n (pc := 10) (x := a1) 1 rfl rfl dJ24_afterNodeRemoval_10 ?_
  refine g_getfr (pc := 11) k_27 (gblt rfl) lk_J24_14_27 dJ24_afterNodeRemoval_11 fun v2 => ?_
  refine g_astore (pc := 14) (lv' := [(4, gr v2), (3, gr v1), (2, gr a1), (0, gr a0)]) [0, 1, 2, 3] rfl (gblt rfl) dJ24_afterNodeRemoval_14 ?_
  refine g_aload_n (pc := 16) (x := a1) 2 rfl rfl dJ24_afterNodeRemoval_16 ?_
  refine g_aload_n (pc := 17) (x := a1) 2 rfl rfl dJ24_afterNodeRemoval_17 ?_
  refine g_aconst_null (pc := 18) dJ24_afterNodeRemoval_18 ?_
  refine g_dup_x1 (pc := 19) rfl rfl dJ24_afterNodeRemoval_19 ?_
  refine g_put (pc := 20) k_27 (gblt rfl) lk_J24_14_27 rfl rfl (gNr _ _) dJ24_afterNodeRemoval_20 fun h3 => ?_
  refine g_put (pc := 23) k_27 (gblt rfl) lk_J24_19_27 rfl rfl (gNr _ _) dJ24_afterNodeRemoval_23 fun h4 => ?_
  refine g_aload_n (pc := 26) (x := v1) 1 rfl rfl dJ24_afterNodeRemoval_26 ?_
  refine g_join 45 (fun (x5 : Unit) => [(0, gr a0), (3, gr v1), (4, gr v2)]) (fun (x5 : Unit) => []) (fun x5 h6 => ?_) (fun j7 Hj7 => ?_)
  · refine g_aload (pc := 45) (x := v2) 2 rfl dJ24_afterNodeRemoval_45 ?_
    refine g_ifnonnull (pc := 47) (tgt := 58) rfl dJ24_afterNodeRemoval_47 ?_ ?_
    rotate_left
    · refine g_aload (pc := 58) (x := v2) 2 rfl dJ24_afterNodeRemoval_58 ?_
      refine g_aload_n (pc := 60) (x := v1) 1 rfl rfl dJ24_afterNodeRemoval_60 ?_
      refine g_put (pc := 61) k_27 (gblt rfl) lk_J24_19_27 rfl rfl (gNr _ _) dJ24_afterNodeRemoval_61 fun h8 => ?_
      exact g_return (pc := 64) rfl dJ24_afterNodeRemoval_64
    refine g_aload_n (pc := 50) (x := a0) 0 rfl rfl dJ24_afterNodeRemoval_50 ?_
    refine g_aload_n (pc := 51) (x := v1) 1 rfl rfl dJ24_afterNodeRemoval_51 ?_
    refine g_put (pc := 52) k_26 (gblt rfl) lk_J24_11_26 rfl rfl (gNr _ _) dJ24_afterNodeRemoval_52 fun h9 => ?_
    refine g_goto (pc := 55) (tgt := 64) rfl dJ24_afterNodeRemoval_55 ?_
    exact g_return (pc := 64) rfl dJ24_afterNodeRemoval_64
  refine g_ifnonnull (pc := 27) (tgt := 39) rfl dJ24_afterNodeRemoval_27 ?_ ?_
  rotate_left
  · refine g_aload_n (pc := 39) (x := v1) 1 rfl rfl dJ24_afterNodeRemoval_39 ?_
    refine g_aload (pc := 40) (x := v2) 0 rfl dJ24_afterNodeRemoval_40 ?_
    refine g_put (pc := 42) k_27 (gblt rfl) lk_J24_14_27 rfl rfl (gNr _ _) dJ24_afterNodeRemoval_42 fun h10 => ?_
    exact g_sub [3, 1, 0] rfl (Hj7 () h10)
  refine g_aload_n (pc := 30) (x := a0) 3 rfl rfl dJ24_afterNodeRemoval_30 ?_
  refine g_aload (pc := 31) (x := v2) 0 rfl dJ24_afterNodeRemoval_31 ?_
  refine g_put (pc := 33) k_26 (gblt rfl) lk_J24_7_26 rfl rfl (gNr _ _) dJ24_afterNodeRemoval_33 fun h11 => ?_
  refine g_goto (pc := 36) (tgt := 45) rfl dJ24_afterNodeRemoval_36 ?_
  exact g_sub [3, 1, 0] rfl (Hj7 () h11)
/-! java/util/HashMap.removeNode(ILjava/lang/Object;Ljava/lang/Object;ZZ)Ljava/util/HashMap$Node; -/
noncomputable def bJ23_removeNode_c26_115 (G : GG) (N : Nat) (a1 : Int32) (a2 : Option Nat) (j8 : (Option Nat × Option Nat) → Hp → Out (Option Nat)) (j40 : (Option Nat × Option Nat) → Hp → Out (Option Nat)) (w43 : (Option Nat × Option Nat) → Hp → Out (Option Nat)) (x41 : Option Nat × Option Nat) (h42 : Hp) : Out (Option Nat) :=
  gFi h42 x41.2 27 0 fun v44 =>
  gJ (fun (x45 : Unit) (h46 : Hp) =>
  gFr h46 x41.2 27 3 fun v48 =>
  if v48 = none then (j8 (x41.2, none) h46)
  else w43 (x41.2, v48) h46) fun j47 =>
  if v44 = a1 then (gFr h42 x41.2 27 1 fun v49 =>
  if v49 = a2 then (j40 (x41.1, x41.2) h42)
  else if a2 = none then (j47 () h42)
  else gJ (fun (v50 : Int32) (h51 : Hp) =>
  if v50 = 0 then (j47 () h51)
  else j40 (x41.1, x41.2) h51) fun j52 =>
  gSw h42 a2 10 (bV h42 a2 10 (fun q53 => sX7_equals G N (some q53) v49 h42) j52) (bV h42 a2 19 (fun q54 => sJ20_equals G N (some q54) v49 h42) j52))
  else j47 () h42
noncomputable def sJ23_removeNode_c26 (G : GG) (N : Nat) (a0 : Option Nat) (a1 : Int32) (a2 : Option Nat) (a3 : Option Nat) (a4 : Int32) (a5 : Int32) (h : Hp) : Out (Option Nat) :=
  gFr h a0 26 0 fun v1 =>
  if v1 = none then (some (.inl none, h))
  else gLen h v1 fun v2 =>
  if v2 ≤ 0 then (some (.inl none, h))
  else gLet ((v2 - (1 : Int32)) &&& a1) fun v3 =>
  gAr h v1 8 v3 fun v4 =>
  if v4 = none then (some (.inl none, h))
  else gFi h v4 27 0 fun v5 =>
  gJ (fun (x6 : Option Nat × Option Nat) (h7 : Hp) =>
  if x6.2 = none then (some (.inl none, h7))
  else gJ (fun (x9 : Unit) (h10 : Hp) =>
  gIn h10 x6.2 [] [27] fun v12 =>
  if v12 = 0 then (gJ (fun (x13 : Unit) (h14 : Hp) =>
  gFi h14 a0 26 3 fun v16 =>
  gP G h14 a0 26 3 (.int (v16 + (1 : Int32))) fun h17 =>
  gFi h17 a0 26 2 fun v18 =>
  gP G h17 a0 26 2 (.int (v18 - (1 : Int32))) fun h19 =>
  bV h19 a0 26 (fun q22 => sJ24_afterNodeRemoval G N (some q22) x6.2 h19) fun v20 h21 =>
  some (.inl x6.2, h21)) fun j15 =>
  if x6.2 = x6.1 then (gFr h10 x6.2 27 3 fun v25 =>
  gSr G h10 v1 8 asl_java_util_HashMap_Node v3 v25 fun h26 =>
  j15 () h26)
  else gFr h10 x6.2 27 3 fun v23 =>
  gP G h10 x6.1 27 3 (va_rf v23) fun h24 =>
  j15 () h24)
  else none) fun j11 =>
  if a4 = 0 then (j11 () h7)
  else gFr h7 x6.2 27 2 fun v27 =>
  if v27 = a3 then (j11 () h7)
  else if a3 = none then (some (.inl none, h7))
  else gJ (fun (v28 : Int32) (h29 : Hp) =>
  if v28 = 0 then (some (.inl none, h29))
  else j11 () h29) fun j30 =>
  gSw h7 a3 10 (bV h7 a3 10 (fun q31 => sX7_equals G N (some q31) v27 h7) j30) (bV h7 a3 19 (fun q32 => sJ20_equals G N (some q32) v27 h7) j30)) fun j8 =>
  gJ (fun (x33 : Unit) (h34 : Hp) =>
  gFr h34 v4 27 3 fun v36 =>
  if v36 = none then (j8 (v4, none) h34)
  else gIn h34 v4 [] [27] fun v37 =>
  if v37 = 0 then (gJ (fun (x38 : Option Nat × Option Nat) (h39 : Hp) =>
  j8 (x38.1, x38.2) h39) fun j40 =>
  gLp (bJ23_removeNode_c26_115 G N a1 a2 j8 j40) N (v4, v36) h34)
  else none) fun j35 =>
  if v5 = a1 then (gFr h v4 27 1 fun v55 =>
  gJ (fun (x56 : Unit) (h57 : Hp) =>
  j8 (v4, v4) h57) fun j58 =>
  if v55 = a2 then (j58 () h)
  else if a2 = none then (j35 () h)
  else gJ (fun (v59 : Int32) (h60 : Hp) =>
  if v59 = 0 then (j35 () h60)
  else j58 () h60) fun j61 =>
  gSw h a2 10 (bV h a2 10 (fun q62 => sX7_equals G N (some q62) v55 h) j61) (bV h a2 19 (fun q63 => sJ20_equals G N (some q63) v55 h) j61))
  else j35 () h
abbrev mJ23_removeNode_c26 : MI := (RJ23, cJ23_removeNode, 14, (some (.object "java/util/HashMap$Node")), [], 2, 41, "removeNode")
theorem tJ23_removeNode_c26 {G : GG} {l : Launch} (hs : l.stackTraces = false) {N : Nat} {a0 : Option Nat} {a1 : Int32} {a2 : Option Nat} {a3 : Option Nat} {a4 : Int32} {a5 : Int32} {h : Hp} {r : Option Nat ⊕ Nat} {hf : Hp} (ho : sJ23_removeNode_c26 G N a0 a1 a2 a3 a4 a5 h = some (r, hf)) : gMet G l yJ23_removeNode (ws_ yJ23_removeNode cJ23_removeNode 14 (some (.object "java/util/HashMap$Node"))) 2 41 [gr a0, gi a1, gr a2, gr a3, gi a4, gi a5] h cvR r hf := by
  refine gMet.of ho hs (plainFor_of_name pn_J23) rfl rfl (gbl rfl) fun X => ?_
  show gT G l X mJ23_removeNode_c26 cvR r hf 0 [(0, gr a0), (1, gi a1), (2, gr a2), (3, gr a3), (4, gi a4), (5, gi a5)] [] h (sJ23_removeNode_c26 G N a0 a1 a2 a3 a4 a5 h)
  delta sJ23_removeNode_c26
  refine g_aload_n (pc := 0) (x := a0) 0 rfl rfl dJ23_removeNode_0 ?_
  refine g_getfr (pc := 1) k_26 (gblt rfl) lk_J23_105_26 dJ23_removeNode_1 fun v1 => ?_
  refine g_dup (pc := 4) rfl dJ23_removeNode_4 ?_
  refine g_astore (pc := 5) (lv' := [(6, gr v1), (0, gr a0), (1, gi a1), (2, gr a2), (3, gr a3), (4, gi a4)]) [0, 1, 2, 3, 4, 5] rfl (gblt rfl) dJ23_removeNode_5 ?_
  refine g_ifnull (pc := 7) (tgt := 289) rfl dJ23_removeNode_7 ?_ ?_
  · refine g_aconst_null (pc := 289) dJ23_removeNode_289 ?_
    exact g_areturn (pc := 290) rfl (Or.inl ⟨_, rfl⟩) dJ23_removeNode_290
  refine g_aload (pc := 10) (x := v1) 0 rfl dJ23_removeNode_10 ?_
  refine g_alen (pc := 12) dJ23_removeNode_12 fun v2 => ?_
  refine g_dup (pc := 13) rfl dJ23_removeNode_13 ?_
  refine g_istore (pc := 14) (lv' := [(8, gi v2), (6, gr v1), (0, gr a0), (1, gi a1), (2, gr a2), (3, gr a3), (4, gi a4)]) [0, 1, 2, 3, 4, 5, 6] rfl (gblt rfl) dJ23_removeNode_14 ?_
  refine g_if_le (pc := 16) (tgt := 289) rfl dJ23_removeNode_16 ?_ ?_
  · refine g_aconst_null (pc := 289) dJ23_removeNode_289 ?_
    exact g_areturn (pc := 290) rfl (Or.inl ⟨_, rfl⟩) dJ23_removeNode_290
  refine g_aload (pc := 19) (x := v1) 1 rfl dJ23_removeNode_19 ?_
  refine g_iload (pc := 21) (x := v2) 0 rfl dJ23_removeNode_21 ?_
  refine g_iconst (pc := 23) (v := (1 : Int32)) ic_1 dJ23_removeNode_23 ?_
  refine g_isub (pc := 24) dJ23_removeNode_24 ?_
  refine g_iload_n (pc := 25) (x := a1) 3 rfl rfl dJ23_removeNode_25 ?_
  refine g_iand (pc := 26) dJ23_removeNode_26 ?_
  refine g_leti fun v3 => ?_
  refine g_dup (pc := 27) rfl dJ23_removeNode_27 ?_
  refine g_istore (pc := 28) (lv' := [(9, gi v3), (6, gr v1), (0, gr a0), (1, gi a1), (2, gr a2), (3, gr a3), (4, gi a4)]) [0, 2, 3, 4, 5, 6, 7] rfl (gblt rfl) dJ23_removeNode_28 ?_
  refine g_aaload (pc := 30) rfl dJ23_removeNode_30 fun v4 => ?_
  refine g_dup (pc := 31) rfl dJ23_removeNode_31 ?_
  refine g_astore (pc := 32) (lv' := [(7, gr v4), (9, gi v3), (6, gr v1), (0, gr a0), (1, gi a1), (2, gr a2), (3, gr a3), (4, gi a4)]) [0, 1, 2, 3, 4, 5, 6, 7] rfl (gblt rfl) dJ23_removeNode_32 ?_
  refine g_ifnull (pc := 34) (tgt := 289) rfl dJ23_removeNode_34 ?_ ?_
  · refine g_aconst_null (pc := 289) dJ23_removeNode_289 ?_
    exact g_areturn (pc := 290) rfl (Or.inl ⟨_, rfl⟩) dJ23_removeNode_290
  refine g_aconst_null (pc := 37) dJ23_removeNode_37 ?_
  refine g_astore (pc := 38) (lv' := [(10, gr none), (7, gr v4), (9, gi v3), (6, gr v1), (0, gr a0), (1, gi a1), (2, gr a2), (3, gr a3), (4, gi a4)]) [0, 1, 2, 3, 4, 5, 6, 7, 8] rfl (gblt rfl) dJ23_removeNode_38 ?_
  refine g_aload (pc := 40) (x := v4) 1 rfl dJ23_removeNode_40 ?_
  refine g_getfi (pc := 42) k_27 (gblt rfl) lk_J23_168_27 dJ23_removeNode_42 fun v5 => ?_
  refine g_iload_n (pc := 45) (x := a1) 5 rfl rfl dJ23_removeNode_45 ?_
  refine g_join 171 (fun (x6 : Option Nat × Option Nat) => [(0, gr a0), (3, gr a3), (4, gi a4), (6, gr v1), (7, gr x6.1), (9, gi v3), (10, gr x6.2)]) (fun (x6 : Option Nat × Option Nat) => []) (fun x6 h7 => ?_) (fun j8 Hj8 => ?_)
  · refine g_aload (pc := 171) (x := x6.2) 6 rfl dJ23_removeNode_171 ?_
    refine g_ifnull (pc := 173) (tgt := 289) rfl dJ23_removeNode_173 ?_ ?_
    · refine g_aconst_null (pc := 289) dJ23_removeNode_289 ?_
      exact g_areturn (pc := 290) rfl (Or.inl ⟨_, rfl⟩) dJ23_removeNode_290
    refine g_iload (pc := 176) (x := a4) 2 rfl dJ23_removeNode_176 ?_
    refine g_join 206 (fun (x9 : Unit) => [(0, gr a0), (6, gr v1), (7, gr x6.1), (9, gi v3), (10, gr x6.2)]) (fun (x9 : Unit) => []) (fun x9 h10 => ?_) (fun j11 Hj11 => ?_)
    · refine g_aload (pc := 206) (x := x6.2) 4 rfl dJ23_removeNode_206 ?_
      refine g_instanceof (pc := 208) q2099 as__java_util_HashMap_TreeNode ns_27_java_util_HashMap_TreeNode dJ23_removeNode_208 fun v12 => ?_
      refine g_if_eq (pc := 211) (tgt := 230) rfl dJ23_removeNode_211 ?_ ?_
      rotate_left
      · exact g_none
      refine g_aload (pc := 230) (x := x6.2) 4 rfl dJ23_removeNode_230 ?_
      refine g_aload (pc := 232) (x := x6.1) 2 rfl dJ23_removeNode_232 ?_
      refine g_join 260 (fun (x13 : Unit) => [(0, gr a0), (10, gr x6.2)]) (fun (x13 : Unit) => []) (fun x13 h14 => ?_) (fun j15 Hj15 => ?_)
      · refine g_aload_n (pc := 260) (x := a0) 0 rfl rfl dJ23_removeNode_260 ?_
        refine g_dup (pc := 261) rfl dJ23_removeNode_261 ?_
        refine g_getfi (pc := 262) k_26 (gblt rfl) lk_J23_202_26 dJ23_removeNode_262 fun v16 => ?_
        refine g_iconst (pc := 265) (v := (1 : Int32)) ic_1 dJ23_removeNode_265 ?_
        refine g_iadd (pc := 266) dJ23_removeNode_266 ?_
        refine g_put (pc := 267) k_26 (gblt rfl) lk_J23_202_26 rfl rfl (gNi _) dJ23_removeNode_267 fun h17 => ?_
        refine g_aload_n (pc := 270) (x := a0) 0 rfl rfl dJ23_removeNode_270 ?_
        refine g_dup (pc := 271) rfl dJ23_removeNode_271 ?_
        refine g_getfi (pc := 272) k_26 (gblt rfl) lk_J23_156_26 dJ23_removeNode_272 fun v18 => ?_
        refine g_iconst (pc := 275) (v := (1 : Int32)) ic_1 dJ23_removeNode_275 ?_
        refine g_isub (pc := 276) dJ23_removeNode_276 ?_
        refine g_put (pc := 277) k_26 (gblt rfl) lk_J23_156_26 rfl rfl (gNi _) dJ23_removeNode_277 fun h19 => ?_
        refine g_aload_n (pc := 280) (x := a0) 0 rfl rfl dJ23_removeNode_280 ?_
        refine g_aload (pc := 281) (x := x6.2) 1 rfl dJ23_removeNode_281 ?_
        refine g_bVu (pc := 283) (y := yJ24_afterNodeRemoval) (ws := ws_ yJ24_afterNodeRemoval cJ24_afterNodeRemoval 5 none) (fr := 0) (lo := 0) (as := [gr x6.2]) (st := []) (g_no) rfl (fun _ _ _ e => tJ24_afterNodeRemoval hs e) (fun K _ _ _ hq hM R e1 e2 => g_runUA (x := ⟨"java/util/HashMap", "afterNodeRemoval", "(Ljava/util/HashMap$Node;)V"⟩) (owner := "java/util/HashMap") (M := mJ23_removeNode_c26) (pc := 283) (y := yJ24_afterNodeRemoval) (bytes := cJ24_afterNodeRemoval) (maxL := 5) (ret := none) (fr := 0) (lo := 0) (as := [gr x6.2]) (st := []) hq (C := "java/util/LinkedHashMap") rfl gy_J24_afterNodeRemoval rfl (gbl rfl) (gbl rfl) (gbl rfl) q3555 q3557 q3561 mhx_java_util_HashMap q3558 q3559 dJ23_removeNode_283 K hM R e1 e2) fun v20 h21 => ?_
        refine g_aload (pc := 286) (x := x6.2) 1 rfl dJ23_removeNode_286 ?_
        exact g_areturn (pc := 288) rfl (Or.inl ⟨_, rfl⟩) dJ23_removeNode_288
      refine g_acmp_ne (pc := 234) (tgt := 250) rfl dJ23_removeNode_234 ?_ ?_
      rotate_left
      · refine g_aload (pc := 250) (x := x6.1) 2 rfl dJ23_removeNode_250 ?_
        refine g_aload (pc := 252) (x := x6.2) 4 rfl dJ23_removeNode_252 ?_
        refine g_getfr (pc := 254) k_27 (gblt rfl) lk_J23_177_27 dJ23_removeNode_254 fun v23 => ?_
        refine g_put (pc := 257) k_27 (gblt rfl) lk_J23_177_27 rfl rfl (gNr _ _) dJ23_removeNode_257 fun h24 => ?_
        exact g_sub [0, 4] rfl (Hj15 () h24)
      refine g_aload (pc := 237) (x := v1) 1 rfl dJ23_removeNode_237 ?_
      refine g_iload (pc := 239) (x := v3) 3 rfl dJ23_removeNode_239 ?_
      refine g_aload (pc := 241) (x := x6.2) 4 rfl dJ23_removeNode_241 ?_
      refine g_getfr (pc := 243) k_27 (gblt rfl) lk_J23_177_27 dJ23_removeNode_243 fun v25 => ?_
      refine g_aastore (pc := 246) rfl asl_java_util_HashMap_Node_ok dJ23_removeNode_246 fun h26 => ?_
      refine g_goto (pc := 247) (tgt := 260) rfl dJ23_removeNode_247 ?_
      exact g_sub [0, 4] rfl (Hj15 () h26)
    refine g_if_eq (pc := 178) (tgt := 206) rfl dJ23_removeNode_178 ?_ ?_
    · exact g_sub [0, 3, 4, 5, 6] rfl (Hj11 () h7)
    refine g_aload (pc := 181) (x := x6.2) 6 rfl dJ23_removeNode_181 ?_
    refine g_getfr (pc := 183) k_27 (gblt rfl) lk_J23_162_27 dJ23_removeNode_183 fun v27 => ?_
    refine g_dup (pc := 186) rfl dJ23_removeNode_186 ?_
    refine g_astore (pc := 187) (lv' := [(13, gr v27), (0, gr a0), (3, gr a3), (6, gr v1), (7, gr x6.1), (9, gi v3), (10, gr x6.2)]) [0, 1, 2, 4, 5, 6, 7] rfl (gblt rfl) dJ23_removeNode_187 ?_
    refine g_aload_n (pc := 189) (x := a3) 2 rfl rfl dJ23_removeNode_189 ?_
    refine g_acmp_eq (pc := 190) (tgt := 206) rfl dJ23_removeNode_190 ?_ ?_
    · exact g_sub [1, 3, 4, 5, 6] rfl (Hj11 () h7)
    refine g_aload_n (pc := 193) (x := a3) 2 rfl rfl dJ23_removeNode_193 ?_
    refine g_ifnull (pc := 194) (tgt := 289) rfl dJ23_removeNode_194 ?_ ?_
    · refine g_aconst_null (pc := 289) dJ23_removeNode_289 ?_
      exact g_areturn (pc := 290) rfl (Or.inl ⟨_, rfl⟩) dJ23_removeNode_290
    refine g_aload_n (pc := 197) (x := a3) 2 rfl rfl dJ23_removeNode_197 ?_
    refine g_aload (pc := 198) (x := v27) 0 rfl dJ23_removeNode_198 ?_
    refine g_join 203 (fun (_ : Int32) => [(13, gr v27), (0, gr a0), (3, gr a3), (6, gr v1), (7, gr x6.1), (9, gi v3), (10, gr x6.2)]) (fun (v28 : Int32) => [gi v28]) (fun v28 h29 => ?_) (fun j30 Hj30 => ?_)
    · refine g_if_eq (pc := 203) (tgt := 289) rfl dJ23_removeNode_203 ?_ ?_
      rotate_left
      · exact g_sub [1, 3, 4, 5, 6] rfl (Hj11 () h29)
      refine g_aconst_null (pc := 289) dJ23_removeNode_289 ?_
      exact g_areturn (pc := 290) rfl (Or.inl ⟨_, rfl⟩) dJ23_removeNode_290
    refine g_sw ?_ ?_
    · exact g_bVi (pc := 200) (y := yX7_equals) (ws := ws_ yX7_equals cX7_equals 3 (some .boolean)) (fr := 0) (lo := 0) (as := [gr v27]) (st := []) (g_no) rfl (fun _ _ _ e => tX7_equals hs e) (fun K _ _ _ hq hM R e1 e2 => g_runU (x := ⟨"java/lang/Object", "equals", "(Ljava/lang/Object;)Z"⟩) (owner := "java/lang/Object") (M := mJ23_removeNode_c26) (pc := 200) (y := yX7_equals) (bytes := cX7_equals) (maxL := 3) (ret := (some .boolean)) (fr := 0) (lo := 0) (as := [gr v27]) (st := []) hq (C := "FlareSlopes$Key") rfl gy_X7_equals rfl (gbl rfl) (gbl rfl) (gbl rfl) q2057 q2059 ⟨q2058, _, _, _, q2098⟩ mhx_java_lang_Object q2067 q2068 dJ23_removeNode_200 K hM R e1 e2) Hj30
    exact g_bVi (pc := 200) (y := yJ20_equals) (ws := ws_ yJ20_equals cJ20_equals 2 (some .boolean)) (fr := 1) (lo := 20) (as := [gr v27]) (st := []) (g_no) rfl (fun _ _ _ e => tJ20_equals hs e) (fun K _ _ _ hq hM R e1 e2 => g_runU (x := ⟨"java/lang/Object", "equals", "(Ljava/lang/Object;)Z"⟩) (owner := "java/lang/Object") (M := mJ23_removeNode_c26) (pc := 200) (y := yJ20_equals) (bytes := cJ20_equals) (maxL := 2) (ret := (some .boolean)) (fr := 1) (lo := 20) (as := [gr v27]) (st := []) hq (C := "java/lang/Integer") rfl gy_J20_equals rfl (gbl rfl) (gbl rfl) (gbl rfl) q2057 q2059 ⟨q2058, _, _, _, q2098⟩ mhx_java_lang_Object q2084 q2085 dJ23_removeNode_200 K hM R e1 e2) Hj30
  refine g_join 81 (fun (x33 : Unit) => [(0, gr a0), (1, gi a1), (2, gr a2), (3, gr a3), (4, gi a4), (6, gr v1), (7, gr v4), (9, gi v3), (10, gr none)]) (fun (x33 : Unit) => []) (fun x33 h34 => ?_) (fun j35 Hj35 => ?_)
  · refine g_aload (pc := 81) (x := v4) 6 rfl dJ23_removeNode_81 ?_
    refine g_getfr (pc := 83) k_27 (gblt rfl) lk_J23_177_27 dJ23_removeNode_83 fun v36 => ?_
    refine g_dup (pc := 86) rfl dJ23_removeNode_86 ?_
    refine g_astore (pc := 87) (lv' := [(11, gr v36), (0, gr a0), (1, gi a1), (2, gr a2), (3, gr a3), (4, gi a4), (6, gr v1), (7, gr v4), (9, gi v3), (10, gr none)]) [0, 1, 2, 3, 4, 5, 6, 7, 8, 9] rfl (gblt rfl) dJ23_removeNode_87 ?_
    refine g_ifnull (pc := 89) (tgt := 171) rfl dJ23_removeNode_89 ?_ ?_
    · exact g_sub [1, 4, 5, 6, 7, 8, 9] rfl (Hj8 (v4, none) h34)
    refine g_aload (pc := 92) (x := v4) 7 rfl dJ23_removeNode_92 ?_
    refine g_instanceof (pc := 94) q2099 as__java_util_HashMap_TreeNode ns_27_java_util_HashMap_TreeNode dJ23_removeNode_94 fun v37 => ?_
    refine g_if_eq (pc := 97) (tgt := 115) rfl dJ23_removeNode_97 ?_ ?_
    rotate_left
    · exact g_none
    refine g_join 149 (fun (x38 : Option Nat × Option Nat) => [(0, gr a0), (3, gr a3), (4, gi a4), (6, gr v1), (7, gr x38.1), (9, gi v3), (11, gr x38.2)]) (fun (x38 : Option Nat × Option Nat) => []) (fun x38 h39 => ?_) (fun j40 Hj40 => ?_)
    · refine g_aload (pc := 149) (x := x38.2) 6 rfl dJ23_removeNode_149 ?_
      refine g_astore (pc := 151) (lv' := [(10, gr x38.2), (0, gr a0), (3, gr a3), (4, gi a4), (6, gr v1), (7, gr x38.1), (9, gi v3)]) [0, 1, 2, 3, 4, 5, 6] rfl (gblt rfl) dJ23_removeNode_151 ?_
      refine g_goto (pc := 153) (tgt := 171) rfl dJ23_removeNode_153 ?_
      exact g_sub [1, 2, 3, 4, 5, 6, 0] rfl (Hj8 (x38.1, x38.2) h39)
    refine g_sub (lv' := [(0, gr a0), (1, gi a1), (2, gr a2), (3, gr a3), (4, gi a4), (6, gr v1), (7, gr v4), (9, gi v3), (10, gr none), (11, gr v36)]) [1, 2, 3, 4, 5, 6, 7, 8, 9, 0] rfl ?_
    refine g_loop (pc := 115) (fun (x41 : Option Nat × Option Nat) => [(0, gr a0), (1, gi a1), (2, gr a2), (3, gr a3), (4, gi a4), (6, gr v1), (7, gr x41.1), (9, gi v3), (10, gr none), (11, gr x41.2)]) (fun (_ : Option Nat × Option Nat) => []) (fun w43 Hw43 x41 h42 => ?_) N (v4, v36) h34
    delta bJ23_removeNode_c26_115
    refine g_aload (pc := 115) (x := x41.2) 9 rfl dJ23_removeNode_115 ?_
    refine g_getfi (pc := 117) k_27 (gblt rfl) lk_J23_168_27 dJ23_removeNode_117 fun v44 => ?_
    refine g_iload_n (pc := 120) (x := a1) 1 rfl rfl dJ23_removeNode_120 ?_
    refine g_join 156 (fun (x45 : Unit) => [(0, gr a0), (1, gi a1), (2, gr a2), (3, gr a3), (4, gi a4), (6, gr v1), (9, gi v3), (10, gr none), (11, gr x41.2)]) (fun (x45 : Unit) => []) (fun x45 h46 => ?_) (fun j47 Hj47 => ?_)
    · refine g_aload (pc := 156) (x := x41.2) 8 rfl dJ23_removeNode_156 ?_
      refine g_astore (pc := 158) (lv' := [(7, gr x41.2), (0, gr a0), (1, gi a1), (2, gr a2), (3, gr a3), (4, gi a4), (6, gr v1), (9, gi v3), (10, gr none), (11, gr x41.2)]) [0, 1, 2, 3, 4, 5, 6, 7, 8, 9] rfl (gblt rfl) dJ23_removeNode_158 ?_
      refine g_aload (pc := 160) (x := x41.2) 9 rfl dJ23_removeNode_160 ?_
      refine g_getfr (pc := 162) k_27 (gblt rfl) lk_J23_177_27 dJ23_removeNode_162 fun v48 => ?_
      refine g_dup (pc := 165) rfl dJ23_removeNode_165 ?_
      refine g_astore (pc := 166) (lv' := [(11, gr v48), (7, gr x41.2), (0, gr a0), (1, gi a1), (2, gr a2), (3, gr a3), (4, gi a4), (6, gr v1), (9, gi v3), (10, gr none)]) [0, 1, 2, 3, 4, 5, 6, 7, 8, 9] rfl (gblt rfl) dJ23_removeNode_166 ?_
      refine g_ifnonnull (pc := 168) (tgt := 115) rfl dJ23_removeNode_168 ?_ ?_
      · exact g_sub [2, 5, 6, 7, 1, 8, 9] rfl (Hj8 (x41.2, none) h46)
      exact g_sub [2, 3, 4, 5, 6, 7, 1, 8, 9, 0] rfl (Hw43 (x41.2, v48) h46)
    refine g_icmp_ne (pc := 121) (tgt := 156) rfl dJ23_removeNode_121 ?_ ?_
    rotate_left
    · exact g_sub [0, 1, 2, 3, 4, 5, 7, 8, 9] rfl (Hj47 () h42)
    refine g_aload (pc := 124) (x := x41.2) 9 rfl dJ23_removeNode_124 ?_
    refine g_getfr (pc := 126) k_27 (gblt rfl) lk_J23_170_27 dJ23_removeNode_126 fun v49 => ?_
    refine g_dup (pc := 129) rfl dJ23_removeNode_129 ?_
    refine g_astore (pc := 130) (lv' := [(12, gr v49), (0, gr a0), (1, gi a1), (2, gr a2), (3, gr a3), (4, gi a4), (6, gr v1), (7, gr x41.1), (9, gi v3), (10, gr none), (11, gr x41.2)]) [0, 1, 2, 3, 4, 5, 6, 7, 8, 9, 10] rfl (gblt rfl) dJ23_removeNode_130 ?_
    refine g_aload_n (pc := 132) (x := a2) 3 rfl rfl dJ23_removeNode_132 ?_
    refine g_acmp_eq (pc := 133) (tgt := 149) rfl dJ23_removeNode_133 ?_ ?_
    · exact g_sub [1, 4, 5, 6, 7, 8, 10] rfl (Hj40 (x41.1, x41.2) h42)
    refine g_aload_n (pc := 136) (x := a2) 3 rfl rfl dJ23_removeNode_136 ?_
    refine g_ifnull (pc := 137) (tgt := 156) rfl dJ23_removeNode_137 ?_ ?_
    · exact g_sub [1, 2, 3, 4, 5, 6, 8, 9, 10] rfl (Hj47 () h42)
    refine g_aload_n (pc := 140) (x := a2) 3 rfl rfl dJ23_removeNode_140 ?_
    refine g_aload (pc := 141) (x := v49) 0 rfl dJ23_removeNode_141 ?_
    refine g_join 146 (fun (_ : Int32) => [(12, gr v49), (0, gr a0), (1, gi a1), (2, gr a2), (3, gr a3), (4, gi a4), (6, gr v1), (7, gr x41.1), (9, gi v3), (10, gr none), (11, gr x41.2)]) (fun (v50 : Int32) => [gi v50]) (fun v50 h51 => ?_) (fun j52 Hj52 => ?_)
    · refine g_if_eq (pc := 146) (tgt := 156) rfl dJ23_removeNode_146 ?_ ?_
      · exact g_sub [1, 2, 3, 4, 5, 6, 8, 9, 10] rfl (Hj47 () h51)
      exact g_sub [1, 4, 5, 6, 7, 8, 10] rfl (Hj40 (x41.1, x41.2) h51)
    refine g_sw ?_ ?_
    · exact g_bVi (pc := 143) (y := yX7_equals) (ws := ws_ yX7_equals cX7_equals 3 (some .boolean)) (fr := 0) (lo := 0) (as := [gr v49]) (st := []) (g_no) rfl (fun _ _ _ e => tX7_equals hs e) (fun K _ _ _ hq hM R e1 e2 => g_runU (x := ⟨"java/lang/Object", "equals", "(Ljava/lang/Object;)Z"⟩) (owner := "java/lang/Object") (M := mJ23_removeNode_c26) (pc := 143) (y := yX7_equals) (bytes := cX7_equals) (maxL := 3) (ret := (some .boolean)) (fr := 0) (lo := 0) (as := [gr v49]) (st := []) hq (C := "FlareSlopes$Key") rfl gy_X7_equals rfl (gbl rfl) (gbl rfl) (gbl rfl) q2057 q2059 ⟨q2058, _, _, _, q2098⟩ mhx_java_lang_Object q2067 q2068 dJ23_removeNode_143 K hM R e1 e2) Hj52
    exact g_bVi (pc := 143) (y := yJ20_equals) (ws := ws_ yJ20_equals cJ20_equals 2 (some .boolean)) (fr := 1) (lo := 20) (as := [gr v49]) (st := []) (g_no) rfl (fun _ _ _ e => tJ20_equals hs e) (fun K _ _ _ hq hM R e1 e2 => g_runU (x := ⟨"java/lang/Object", "equals", "(Ljava/lang/Object;)Z"⟩) (owner := "java/lang/Object") (M := mJ23_removeNode_c26) (pc := 143) (y := yJ20_equals) (bytes := cJ20_equals) (maxL := 2) (ret := (some .boolean)) (fr := 1) (lo := 20) (as := [gr v49]) (st := []) hq (C := "java/lang/Integer") rfl gy_J20_equals rfl (gbl rfl) (gbl rfl) (gbl rfl) q2057 q2059 ⟨q2058, _, _, _, q2098⟩ mhx_java_lang_Object q2084 q2085 dJ23_removeNode_143 K hM R e1 e2) Hj52
  refine g_icmp_ne (pc := 46) (tgt := 81) rfl dJ23_removeNode_46 ?_ ?_
  rotate_left
  · exact g_sub [4, 5, 6, 7, 8, 3, 1, 2, 0] rfl (Hj35 () h)
  refine g_aload (pc := 49) (x := v4) 1 rfl dJ23_removeNode_49 ?_
  refine g_getfr (pc := 51) k_27 (gblt rfl) lk_J23_170_27 dJ23_removeNode_51 fun v55 => ?_
  refine g_dup (pc := 54) rfl dJ23_removeNode_54 ?_
  refine g_astore (pc := 55) (lv' := [(12, gr v55), (10, gr none), (7, gr v4), (9, gi v3), (6, gr v1), (0, gr a0), (1, gi a1), (2, gr a2), (3, gr a3), (4, gi a4)]) [0, 1, 2, 3, 4, 5, 6, 7, 8, 9] rfl (gblt rfl) dJ23_removeNode_55 ?_
  refine g_aload_n (pc := 57) (x := a2) 7 rfl rfl dJ23_removeNode_57 ?_
  refine g_join 74 (fun (x56 : Unit) => [(0, gr a0), (3, gr a3), (4, gi a4), (6, gr v1), (7, gr v4), (9, gi v3)]) (fun (x56 : Unit) => []) (fun x56 h57 => ?_) (fun j58 Hj58 => ?_)
  · refine g_aload (pc := 74) (x := v4) 4 rfl dJ23_removeNode_74 ?_
    refine g_astore (pc := 76) (lv' := [(10, gr v4), (0, gr a0), (3, gr a3), (4, gi a4), (6, gr v1), (7, gr v4), (9, gi v3)]) [0, 1, 2, 3, 4, 5, 6] rfl (gblt rfl) dJ23_removeNode_76 ?_
    refine g_goto (pc := 78) (tgt := 171) rfl dJ23_removeNode_78 ?_
    exact g_sub [1, 2, 3, 4, 5, 6, 0] rfl (Hj8 (v4, v4) h57)
  refine g_acmp_eq (pc := 58) (tgt := 74) rfl dJ23_removeNode_58 ?_ ?_
  · exact g_sub [5, 8, 9, 4, 2, 3] rfl (Hj58 () h)
  refine g_aload_n (pc := 61) (x := a2) 7 rfl rfl dJ23_removeNode_61 ?_
  refine g_ifnull (pc := 62) (tgt := 81) rfl dJ23_removeNode_62 ?_ ?_
  · exact g_sub [5, 6, 7, 8, 9, 4, 2, 3, 1] rfl (Hj35 () h)
  refine g_aload_n (pc := 65) (x := a2) 7 rfl rfl dJ23_removeNode_65 ?_
  refine g_aload (pc := 66) (x := v55) 0 rfl dJ23_removeNode_66 ?_
  refine g_join 71 (fun (_ : Int32) => [(12, gr v55), (10, gr none), (7, gr v4), (9, gi v3), (6, gr v1), (0, gr a0), (1, gi a1), (2, gr a2), (3, gr a3), (4, gi a4)]) (fun (v59 : Int32) => [gi v59]) (fun v59 h60 => ?_) (fun j61 Hj61 => ?_)
  · refine g_if_eq (pc := 71) (tgt := 81) rfl dJ23_removeNode_71 ?_ ?_
    · exact g_sub [5, 6, 7, 8, 9, 4, 2, 3, 1] rfl (Hj35 () h60)
    exact g_sub [5, 8, 9, 4, 2, 3] rfl (Hj58 () h60)
  refine g_sw ?_ ?_
  · exact g_bVi (pc := 68) (y := yX7_equals) (ws := ws_ yX7_equals cX7_equals 3 (some .boolean)) (fr := 0) (lo := 0) (as := [gr v55]) (st := []) (g_no) rfl (fun _ _ _ e => tX7_equals hs e) (fun K _ _ _ hq hM R e1 e2 => g_runU (x := ⟨"java/lang/Object", "equals", "(Ljava/lang/Object;)Z"⟩) (owner := "java/lang/Object") (M := mJ23_removeNode_c26) (pc := 68) (y := yX7_equals) (bytes := cX7_equals) (maxL := 3) (ret := (some .boolean)) (fr := 0) (lo := 0) (as := [gr v55]) (st := []) hq (C := "FlareSlopes$Key") rfl gy_X7_equals rfl (gbl rfl) (gbl rfl) (gbl rfl) q2057 q2059 ⟨q2058, _, _, _, q2098⟩ mhx_java_lang_Object q2067 q2068 dJ23_removeNode_68 K hM R e1 e2) Hj61
  exact g_bVi (pc := 68) (y := yJ20_equals) (ws := ws_ yJ20_equals cJ20_equals 2 (some .boolean)) (fr := 1) (lo := 20) (as := [gr v55]) (st := []) (g_no) rfl (fun _ _ _ e => tJ20_equals hs e) (fun K _ _ _ hq hM R e1 e2 => g_runU (x := ⟨"java/lang/Object", "equals", "(Ljava/lang/Object;)Z"⟩) (owner := "java/lang/Object") (M := mJ23_removeNode_c26) (pc := 68) (y := yJ20_equals) (bytes := cJ20_equals) (maxL := 2) (ret := (some .boolean)) (fr := 1) (lo := 20) (as := [gr v55]) (st := []) hq (C := "java/lang/Integer") rfl gy_J20_equals rfl (gbl rfl) (gbl rfl) (gbl rfl) q2057 q2059 ⟨q2058, _, _, _, q2098⟩ mhx_java_lang_Object q2084 q2085 dJ23_removeNode_68 K hM R e1 e2) Hj61
/-! java/util/HashMap.remove(Ljava/lang/Object;)Ljava/lang/Object; -/
noncomputable def sJ23_remove_c26 (G : GG) (N : Nat) (a0 : Option Nat) (a1 : Option Nat) (h : Hp) : Out (Option Nat) :=
  bnd (sJ23_hash G N a1 h) fun v1 h2 =>
  bV h2 a0 26 (fun q6 => sJ23_removeNode_c26 G N (some q6) v1 a1 none (0 : Int32) (1 : Int32) h2) fun v3 h4 =>
  if v3 = none then (some (.inl none, h4))
  else gFr h4 v3 27 2 fun v5 =>
  some (.inl v5, h4)
abbrev mJ23_remove_c26 : MI := (RJ23, cJ23_remove, 3, (some (.object "java/lang/Object")), [], 3, 74, "remove")
theorem tJ23_remove_c26 {G : GG} {l : Launch} (hs : l.stackTraces = false) {N : Nat} {a0 : Option Nat} {a1 : Option Nat} {h : Hp} {r : Option Nat ⊕ Nat} {hf : Hp} (ho : sJ23_remove_c26 G N a0 a1 h = some (r, hf)) : gMet G l yJ23_remove (ws_ yJ23_remove cJ23_remove 3 (some (.object "java/lang/Object"))) 3 74 [gr a0, gr a1] h cvR r hf := by
  refine gMet.of ho hs (plainFor_of_name pn_J23) rfl rfl (gbl rfl) fun X => ?_
  show gT G l X mJ23_remove_c26 cvR r hf 0 [(0, gr a0), (1, gr a1)] [] h (sJ23_remove_c26 G N a0 a1 h)
  delta sJ23_remove_c26
  refine g_aload_n (pc := 0) (x := a0) 0 rfl rfl dJ23_remove_0 ?_
  refine g_aload_n (pc := 1) (x := a1) 1 rfl rfl dJ23_remove_1 ?_
  refine g_bi (pc := 2) (y := yJ23_hash) (ws := ws_ yJ23_hash cJ23_hash 2 (some .int)) (fr := 2) (lo := 40) (as := [gr a1]) (st := [gr a0]) (g_no) rfl (fun _ _ e => tJ23_hash hs e) (fun K _ _ hM R e1 e2 => g_runS (M := mJ23_remove_c26) (pc := 2) (y := yJ23_hash) (bytes := cJ23_hash) (maxL := 2) (ret := (some .int)) (fr := 2) (lo := 40) (as := [gr a1]) (st := [gr a0]) gy_J23_hash (gbl rfl) (gbl rfl) (gbl rfl) q2013 q2014 dJ23_remove_2 K hM R e1 e2) fun v1 h2 => ?_
  refine g_aload_n (pc := 5) (x := a1) 1 rfl rfl dJ23_remove_5 ?_
  refine g_aconst_null (pc := 6) dJ23_remove_6 ?_
  refine g_iconst (pc := 7) (v := (0 : Int32)) ic_0 dJ23_remove_7 ?_
  refine g_iconst (pc := 8) (v := (1 : Int32)) ic_1 dJ23_remove_8 ?_
  refine g_bVr (pc := 9) (y := yJ23_removeNode) (ws := ws_ yJ23_removeNode cJ23_removeNode 14 (some (.object "java/util/HashMap$Node"))) (fr := 2) (lo := 41) (as := [gi v1, gr a1, gr none, gi (0 : Int32), gi (1 : Int32)]) (st := []) (g_no) rfl (fun _ _ _ e => tJ23_removeNode_c26 hs e) (fun K _ _ _ hq hM R e1 e2 => g_runV (M := mJ23_remove_c26) (pc := 9) (y := yJ23_removeNode) (bytes := cJ23_removeNode) (maxL := 14) (ret := (some (.object "java/util/HashMap$Node"))) (fr := 2) (lo := 41) (as := [gi v1, gr a1, gr none, gi (0 : Int32), gi (1 : Int32)]) (st := []) hq (C := "java/util/LinkedHashMap") rfl gy_J23_removeNode (gbl rfl) (gbl rfl) (gbl rfl) q3543 q3544 q3546 dJ23_remove_9 K hM R e1 e2) fun v3 h4 => ?_
  refine g_dup (pc := 12) rfl dJ23_remove_12 ?_
  refine g_astore_n (pc := 13) (lv' := [(2, gr v3)]) [0] rfl rfl (gblt rfl) dJ23_remove_13 ?_
  refine g_ifnonnull (pc := 14) (tgt := 21) rfl dJ23_remove_14 ?_ ?_
  · refine g_aconst_null (pc := 17) dJ23_remove_17 ?_
    refine g_goto (pc := 18) (tgt := 25) rfl dJ23_remove_18 ?_
    exact g_areturn (pc := 25) rfl (Or.inl ⟨_, rfl⟩) dJ23_remove_25
  refine g_aload_n (pc := 21) (x := v3) 0 rfl rfl dJ23_remove_21 ?_
  refine g_getfr (pc := 22) k_27 (gblt rfl) lk_J23_162_27 dJ23_remove_22 fun v5 => ?_
  exact g_areturn (pc := 25) rfl (Or.inl ⟨_, rfl⟩) dJ23_remove_25
/-! FlareSlopes$Cabin.forgets(LFlareSlopes$Key;II)V -/
noncomputable def sX12_forgets (G : GG) (N : Nat) (a0 : Option Nat) (a1 : Option Nat) (a2 : Int32) (a3 : Int32) (h : Hp) : Out (Unit) :=
  gFr h a0 7 8 fun v1 =>
  bV h v1 26 (fun q9 => sJ24_get G N (some q9) a1 h) fun v2 h3 =>
  gCk h3 v2 [17] (if v2 = none then (some (.inl (), h3))
  else gFi h3 v2 17 1 fun v4 =>
  if a3 ≤ (a2 - v4) then (gFr h3 a0 7 8 fun v5 =>
  bV h3 v5 26 (fun q8 => sJ23_remove_c26 G N (some q8) a1 h3) fun v6 h7 =>
  gCk h7 v6 [17] (some (.inl (), h7)))
  else some (.inl (), h3))
abbrev mX12_forgets : MI := (RX12, cX12_forgets, 6, none, [], 5, 110, "forgets")
theorem tX12_forgets {G : GG} {l : Launch} (hs : l.stackTraces = false) {N : Nat} {a0 : Option Nat} {a1 : Option Nat} {a2 : Int32} {a3 : Int32} {h : Hp} {r : Unit ⊕ Nat} {hf : Hp} (ho : sX12_forgets G N a0 a1 a2 a3 h = some (r, hf)) : gMet G l yX12_forgets (ws_ yX12_forgets cX12_forgets 6 none) 5 110 [gr a0, gr a1, gi a2, gi a3] h cvU r hf := by
  refine gMet.of ho hs (plainFor_of_name pn_X12) rfl rfl (gbl rfl) fun X => ?_
  show gT G l X mX12_forgets cvU r hf 0 [(0, gr a0), (1, gr a1), (2, gi a2), (3, gi a3)] [] h (sX12_forgets G N a0 a1 a2 a3 h)
  delta sX12_forgets
  refine g_aload_n (pc := 0) (x := a0) 0 rfl rfl dX12_forgets_0 ?_
  refine g_getfr (pc := 1) k_7 (gblt rfl) lk_X12_25_7 dX12_forgets_1 fun v1 => ?_
  refine g_aload_n (pc := 4) (x := a1) 1 rfl rfl dX12_forgets_4 ?_
  refine g_bVr (pc := 5) (y := yJ24_get) (ws := ws_ yJ24_get cJ24_get 3 (some (.object "java/lang/Object"))) (fr := 4) (lo := 88) (as := [gr a1]) (st := []) (g_no) rfl (fun _ _ _ e => tJ24_get hs e) (fun K _ _ _ hq hM R e1 e2 => g_runF (x := ⟨"java/util/Map", "get", "(Ljava/lang/Object;)Ljava/lang/Object;"⟩) (M := mX12_forgets) (pc := 5) (y := yJ24_get) (bytes := cJ24_get) (maxL := 3) (ret := (some (.object "java/lang/Object"))) (fr := 4) (lo := 88) (as := [gr a1]) (st := []) hq (C := "java/util/LinkedHashMap") rfl gy_J24_get rfl (gbl rfl) (gbl rfl) (gbl rfl) q3533 q2001 q2000 q2005 q2003 q1613 mhx_java_util_Map q2002 q2004 dX12_forgets_5 K hM R e1 e2) fun v2 h3 => ?_
  refine g_checkcast (pc := 10) q3487 as_17_FlareSlopes_Vote dX12_forgets_10 ?_
  refine g_astore (pc := 13) (lv' := [(4, gr v2), (0, gr a0), (1, gr a1), (2, gi a2), (3, gi a3)]) [0, 1, 2, 3, 4] rfl (gblt rfl) dX12_forgets_13 ?_
  refine g_aload (pc := 15) (x := v2) 0 rfl dX12_forgets_15 ?_
  refine g_ifnull (pc := 17) (tgt := 31) rfl dX12_forgets_17 ?_ ?_
  · exact g_return (pc := 31) rfl dX12_forgets_31
  refine g_iload_n (pc := 20) (x := a2) 3 rfl rfl dX12_forgets_20 ?_
  refine g_aload (pc := 21) (x := v2) 0 rfl dX12_forgets_21 ?_
  refine g_getfi (pc := 23) k_17 (gblt rfl) lk_X12_111_17 dX12_forgets_23 fun v4 => ?_
  refine g_isub (pc := 26) dX12_forgets_26 ?_
  refine g_iload_n (pc := 27) (x := a3) 4 rfl rfl dX12_forgets_27 ?_
  refine g_icmp_ge (pc := 28) (tgt := 32) rfl dX12_forgets_28 ?_ ?_
  rotate_left
  · exact g_return (pc := 31) rfl dX12_forgets_31
  refine g_aload_n (pc := 32) (x := a0) 1 rfl rfl dX12_forgets_32 ?_
  refine g_getfr (pc := 33) k_7 (gblt rfl) lk_X12_25_7 dX12_forgets_33 fun v5 => ?_
  refine g_aload_n (pc := 36) (x := a1) 2 rfl rfl dX12_forgets_36 ?_
  refine g_bVr (pc := 37) (y := yJ23_remove) (ws := ws_ yJ23_remove cJ23_remove 3 (some (.object "java/lang/Object"))) (fr := 3) (lo := 74) (as := [gr a1]) (st := []) (g_no) rfl (fun _ _ _ e => tJ23_remove_c26 hs e) (fun K _ _ _ hq hM R e1 e2 => g_runF (x := ⟨"java/util/Map", "remove", "(Ljava/lang/Object;)Ljava/lang/Object;"⟩) (M := mX12_forgets) (pc := 37) (y := yJ23_remove) (bytes := cJ23_remove) (maxL := 3) (ret := (some (.object "java/lang/Object"))) (fr := 3) (lo := 74) (as := [gr a1]) (st := []) hq (C := "java/util/LinkedHashMap") rfl gy_J23_remove rfl (gbl rfl) (gbl rfl) (gbl rfl) q3535 q3537 q3536 q3541 q3539 q1613 mhx_java_util_Map q3538 q3540 dX12_forgets_37 K hM R e1 e2) fun v6 h7 => ?_
  refine g_checkcast (pc := 42) q3487 as_17_FlareSlopes_Vote dX12_forgets_42 ?_
  refine g_astore (pc := 45) (lv' := []) [] rfl (gblt rfl) dX12_forgets_45 ?_
  exact g_return (pc := 47) rfl dX12_forgets_47
/-! FlareSlopes$State.forgets(LFlareSlopes$Cabin;)V -/
noncomputable def bX3_forgets_24 (G : GG) (N : Nat) (a0 : Option Nat) (a1 : Option Nat) (x1 : Int32) (j11 : (Unit) → Hp → Out (Unit)) (w14 : (Int32) → Hp → Out (Unit)) (x12 : Int32) (h13 : Hp) : Out (Unit) :=
  bV h13 a0 16 (fun q27 => sX3_slopes G N (some q27) h13) fun v15 h16 =>
  if v15 ≤ x12 then (j11 () h16)
  else gFr h16 a0 16 0 fun v17 =>
  bV h16 v17 11 (fun q26 => sX5_key G N (some q26) x1 x12 h16) fun v18 h19 =>
  gFi h19 a0 16 4 fun v20 =>
  gFr h19 a0 16 2 fun v21 =>
  gAi h19 v21 0 (1 : Int32) fun v22 =>
  bV h19 a1 7 (fun q25 => sX12_forgets G N (some q25) v18 v20 v22 h19) fun v23 h24 =>
  w14 (x12 + (1 : Int32)) h24
noncomputable def bX3_forgets_2 (G : GG) (N : Nat) (a0 : Option Nat) (a1 : Option Nat) (w3 : (Int32) → Hp → Out (Unit)) (x1 : Int32) (h2 : Hp) : Out (Unit) :=
  bV h2 a0 16 (fun q29 => sX3_size G N (some q29) h2) fun v4 h5 =>
  if v4 ≤ x1 then (some (.inl (), h5))
  else gFr h5 a1 7 8 fun v6 =>
  bV h5 v6 26 (fun q28 => sJ23_isEmpty_c26 G N (some q28) h5) fun v7 h8 =>
  if v7 = 0 then (gJ (fun (x9 : Unit) (h10 : Hp) =>
  w3 (x1 + (1 : Int32)) h10) fun j11 =>
  gLp (bX3_forgets_24 G N a0 a1 x1 j11) N (0 : Int32) h8)
  else some (.inl (), h8)
noncomputable def sX3_forgets (G : GG) (N : Nat) (a0 : Option Nat) (a1 : Option Nat) (h : Hp) : Out (Unit) :=
  gLp (bX3_forgets_2 G N a0 a1) N (0 : Int32) h
abbrev mX3_forgets : MI := (RX3, cX3_forgets, 4, none, [], 6, 135, "forgets")
theorem tX3_forgets {G : GG} {l : Launch} (hs : l.stackTraces = false) {N : Nat} {a0 : Option Nat} {a1 : Option Nat} {h : Hp} {r : Unit ⊕ Nat} {hf : Hp} (ho : sX3_forgets G N a0 a1 h = some (r, hf)) : gMet G l yX3_forgets (ws_ yX3_forgets cX3_forgets 4 none) 6 135 [gr a0, gr a1] h cvU r hf := by
  refine gMet.of ho hs (plainFor_of_name pn_X3) rfl rfl (gbl rfl) fun X => ?_
  show gT G l X mX3_forgets cvU r hf 0 [(0, gr a0), (1, gr a1)] [] h (sX3_forgets G N a0 a1 h)
  delta sX3_forgets
  refine g_iconst (pc := 0) (v := (0 : Int32)) ic_0 dX3_forgets_0 ?_
  refine g_istore_n (pc := 1) (lv' := [(2, gi (0 : Int32)), (0, gr a0), (1, gr a1)]) [0, 1, 2] rfl rfl (gblt rfl) dX3_forgets_1 ?_
  refine g_sub (lv' := [(0, gr a0), (1, gr a1), (2, gi (0 : Int32))]) [1, 2, 0] rfl ?_
  refine g_loop (pc := 2) (fun (x1 : Int32) => [(0, gr a0), (1, gr a1), (2, gi x1)]) (fun (_ : Int32) => []) (fun w3 Hw3 x1 h2 => ?_) N (0 : Int32) h
  delta bX3_forgets_2
  refine g_iload_n (pc := 2) (x := x1) 2 rfl rfl dX3_forgets_2 ?_
  refine g_aload_n (pc := 3) (x := a0) 0 rfl rfl dX3_forgets_3 ?_
  refine g_bVi (pc := 4) (y := yX3_size) (ws := ws_ yX3_size cX3_size 1 (some .int)) (fr := 1) (lo := 20) (as := []) (st := [gi x1]) (g_no) rfl (fun _ _ _ e => tX3_size hs e) (fun K _ _ _ hq hM R e1 e2 => g_runV (M := mX3_forgets) (pc := 4) (y := yX3_size) (bytes := cX3_size) (maxL := 1) (ret := (some .int)) (fr := 1) (lo := 20) (as := []) (st := [gi x1]) hq (C := "FlareSlopes$State") rfl gy_X3_size (gbl rfl) (gbl rfl) (gbl rfl) q1633 q1412 q1413 dX3_forgets_4 K hM R e1 e2) fun v4 h5 => ?_
  refine g_icmp_ge (pc := 7) (tgt := 67) rfl dX3_forgets_7 ?_ ?_
  · exact g_return (pc := 67) rfl dX3_forgets_67
  refine g_aload_n (pc := 10) (x := a1) 1 rfl rfl dX3_forgets_10 ?_
  refine g_getfr (pc := 11) k_7 (gblt rfl) lk_X3_188_7 dX3_forgets_11 fun v6 => ?_
  refine g_bVi (pc := 14) (y := yJ23_isEmpty) (ws := ws_ yJ23_isEmpty cJ23_isEmpty 1 (some .boolean)) (fr := 0) (lo := 0) (as := []) (st := []) (g_no) rfl (fun _ _ _ e => tJ23_isEmpty_c26 hs e) (fun K _ _ _ hq hM R e1 e2 => g_runF (x := ⟨"java/util/Map", "isEmpty", "()Z"⟩) (M := mX3_forgets) (pc := 14) (y := yJ23_isEmpty) (bytes := cJ23_isEmpty) (maxL := 1) (ret := (some .boolean)) (fr := 0) (lo := 0) (as := []) (st := []) hq (C := "java/util/LinkedHashMap") rfl gy_J23_isEmpty rfl (gbl rfl) (gbl rfl) (gbl rfl) q3076 q3078 q3077 q3082 q3080 q1613 mhx_java_util_Map q3079 q3081 dX3_forgets_14 K hM R e1 e2) fun v7 h8 => ?_
  refine g_if_ne (pc := 19) (tgt := 67) rfl dX3_forgets_19 ?_ ?_
  rotate_left
  · exact g_return (pc := 67) rfl dX3_forgets_67
  refine g_iconst (pc := 22) (v := (0 : Int32)) ic_0 dX3_forgets_22 ?_
  refine g_istore_n (pc := 23) (lv' := [(3, gi (0 : Int32)), (0, gr a0), (1, gr a1), (2, gi x1)]) [0, 1, 2, 3] rfl rfl (gblt rfl) dX3_forgets_23 ?_
  refine g_join 61 (fun (x9 : Unit) => [(0, gr a0), (1, gr a1), (2, gi x1)]) (fun (x9 : Unit) => []) (fun x9 h10 => ?_) (fun j11 Hj11 => ?_)
  · refine g_iinc (pc := 61) (v := x1 + (1 : Int32)) 2 rfl (ii_1 _) (lv' := [(2, gi (x1 + (1 : Int32))), (0, gr a0), (1, gr a1)]) [0, 1, 2] rfl (gblt rfl) dX3_forgets_61 ?_
    refine g_goto (pc := 64) (tgt := 2) rfl dX3_forgets_64 ?_
    exact g_sub [1, 2, 0] rfl (Hw3 (x1 + (1 : Int32)) h10)
  refine g_sub (lv' := [(0, gr a0), (1, gr a1), (2, gi x1), (3, gi (0 : Int32))]) [1, 2, 3, 0] rfl ?_
  refine g_loop (pc := 24) (fun (x12 : Int32) => [(0, gr a0), (1, gr a1), (2, gi x1), (3, gi x12)]) (fun (_ : Int32) => []) (fun w14 Hw14 x12 h13 => ?_) N (0 : Int32) h8
  delta bX3_forgets_24
  refine g_iload_n (pc := 24) (x := x12) 3 rfl rfl dX3_forgets_24 ?_
  refine g_aload_n (pc := 25) (x := a0) 0 rfl rfl dX3_forgets_25 ?_
  refine g_bVi (pc := 26) (y := yX3_slopes) (ws := ws_ yX3_slopes cX3_slopes 1 (some .int)) (fr := 2) (lo := 40) (as := []) (st := [gi x12]) (g_no) rfl (fun _ _ _ e => tX3_slopes hs e) (fun K _ _ _ hq hM R e1 e2 => g_runV (M := mX3_forgets) (pc := 26) (y := yX3_slopes) (bytes := cX3_slopes) (maxL := 1) (ret := (some .int)) (fr := 2) (lo := 40) (as := []) (st := [gi x12]) hq (C := "FlareSlopes$State") rfl gy_X3_slopes (gbl rfl) (gbl rfl) (gbl rfl) q1993 q1465 q1466 dX3_forgets_26 K hM R e1 e2) fun v15 h16 => ?_
  refine g_icmp_ge (pc := 29) (tgt := 61) rfl dX3_forgets_29 ?_ ?_
  · exact g_sub [0, 1, 2] rfl (Hj11 () h16)
  refine g_aload_n (pc := 32) (x := a1) 1 rfl rfl dX3_forgets_32 ?_
  refine g_aload_n (pc := 33) (x := a0) 0 rfl rfl dX3_forgets_33 ?_
  refine g_getfr (pc := 34) k_16 (gblt rfl) lk_X3_35_16 dX3_forgets_34 fun v17 => ?_
  refine g_iload_n (pc := 37) (x := x1) 2 rfl rfl dX3_forgets_37 ?_
  refine g_iload_n (pc := 38) (x := x12) 3 rfl rfl dX3_forgets_38 ?_
  refine g_bVr (pc := 39) (y := yX5_key) (ws := ws_ yX5_key cX5_key 3 (some (.object "FlareSlopes$Key"))) (fr := 0) (lo := 0) (as := [gi x1, gi x12]) (st := [gr a1]) (g_no) rfl (fun _ _ _ e => tX5_key hs e) (fun K _ _ _ hq hM R e1 e2 => g_runV (M := mX3_forgets) (pc := 39) (y := yX5_key) (bytes := cX5_key) (maxL := 3) (ret := (some (.object "FlareSlopes$Key"))) (fr := 0) (lo := 0) (as := [gi x1, gi x12]) (st := [gr a1]) hq (C := "FlareSlopes$Mountain") rfl gy_X5_key (gbl rfl) (gbl rfl) (gbl rfl) q1994 q1995 q1996 dX3_forgets_39 K hM R e1 e2) fun v18 h19 => ?_
  refine g_aload_n (pc := 42) (x := a0) 0 rfl rfl dX3_forgets_42 ?_
  refine g_getfi (pc := 43) k_16 (gblt rfl) lk_X3_98_16 dX3_forgets_43 fun v20 => ?_
  refine g_aload_n (pc := 46) (x := a0) 0 rfl rfl dX3_forgets_46 ?_
  refine g_getfr (pc := 47) k_16 (gblt rfl) lk_X3_18_16 dX3_forgets_47 fun v21 => ?_
  refine g_iconst (pc := 50) (v := (1 : Int32)) ic_1 dX3_forgets_50 ?_
  refine g_iaload (pc := 51) rfl dX3_forgets_51 fun v22 => ?_
  refine g_bVu (pc := 52) (y := yX12_forgets) (ws := ws_ yX12_forgets cX12_forgets 6 none) (fr := 5) (lo := 110) (as := [gr v18, gi v20, gi v22]) (st := []) (g_no) rfl (fun _ _ _ e => tX12_forgets hs e) (fun K _ _ _ hq hM R e1 e2 => g_runV (M := mX3_forgets) (pc := 52) (y := yX12_forgets) (bytes := cX12_forgets) (maxL := 6) (ret := none) (fr := 5) (lo := 110) (as := [gr v18, gi v20, gi v22]) (st := []) hq (C := "FlareSlopes$Cabin") rfl gy_X12_forgets (gbl rfl) (gbl rfl) (gbl rfl) q3528 q3529 q3530 dX3_forgets_52 K hM R e1 e2) fun v23 h24 => ?_
  refine g_iinc (pc := 55) (v := x12 + (1 : Int32)) 3 rfl (ii_1 _) (lv' := [(3, gi (x12 + (1 : Int32))), (0, gr a0), (1, gr a1), (2, gi x1)]) [0, 1, 2, 3] rfl (gblt rfl) dX3_forgets_55 ?_
  refine g_goto (pc := 58) (tgt := 24) rfl dX3_forgets_58 ?_
  exact g_sub [1, 2, 3, 0] rfl (Hw14 (x12 + (1 : Int32)) h24)
/-! FlareSlopes$State.decides(LFlareSlopes$Cabin;I)V -/
noncomputable def sX3_decides (G : GG) (N : Nat) (a0 : Option Nat) (a1 : Option Nat) (a2 : Int32) (h : Hp) : Out (Unit) :=
  bV h a0 16 (fun q31 => sX3_rules G N (some q31) a2 h) fun v1 h2 =>
  gFr h2 a1 7 7 fun v3 =>
  gAi h2 v3 0 a2 fun v4 =>
  gJ (fun (x5 : Int32) (h6 : Hp) =>
  gFr h6 a1 7 7 fun v8 =>
  gSi G h6 v8 0 a2 x5 fun h9 =>
  bV h9 a1 7 (fun q30 => sX12_holdsClosed G N (some q30) a2 h9) fun v10 h11 =>
  gJ (fun (x12 : Unit) (h13 : Hp) =>
  bV h13 a1 7 (fun q23 => sX12_holdsClosed G N (some q23) a2 h13) fun v15 h16 =>
  if v15 = 0 then (some (.inl (), h16))
  else gFr h16 a0 16 2 fun v17 =>
  gAi h16 v17 0 (4 : Int32) fun v18 =>
  if (-v18) < x5 then (some (.inl (), h16))
  else gFi h16 a1 7 5 fun v19 =>
  gP G h16 a1 7 5 (.int (v19 &&& (((1 : Int32) <<< (a2 &&& 31)) ^^^ (-1 : Int32)))) fun h20 =>
  gFi h20 a0 16 7 fun v21 =>
  gP G h20 a0 16 7 (.int (v21 + (1 : Int32))) fun h22 =>
  some (.inl (), h22)) fun j14 =>
  if v10 = 0 then (gFr h11 a0 16 2 fun v24 =>
  gAi h11 v24 0 (3 : Int32) fun v25 =>
  if x5 < v25 then (j14 () h11)
  else gFi h11 a1 7 5 fun v26 =>
  gP G h11 a1 7 5 (.int (v26 ||| ((1 : Int32) <<< (a2 &&& 31)))) fun h27 =>
  gFi h27 a0 16 6 fun v28 =>
  gP G h27 a0 16 6 (.int (v28 + (1 : Int32))) fun h29 =>
  some (.inl (), h29))
  else j14 () h11) fun j7 =>
  if v1 = 0 then (j7 (0 : Int32) h2)
  else if (v1 * v4) ≤ 0 then (j7 v1 h2)
  else j7 (v4 + v1) h2
abbrev mX3_decides : MI := (RX3, cX3_decides, 5, none, [], 2, 42, "decides")
theorem tX3_decides {G : GG} {l : Launch} (hs : l.stackTraces = false) {N : Nat} {a0 : Option Nat} {a1 : Option Nat} {a2 : Int32} {h : Hp} {r : Unit ⊕ Nat} {hf : Hp} (ho : sX3_decides G N a0 a1 a2 h = some (r, hf)) : gMet G l yX3_decides (ws_ yX3_decides cX3_decides 5 none) 2 42 [gr a0, gr a1, gi a2] h cvU r hf := by
  refine gMet.of ho hs (plainFor_of_name pn_X3) rfl rfl (gbl rfl) fun X => ?_
  show gT G l X mX3_decides cvU r hf 0 [(0, gr a0), (1, gr a1), (2, gi a2)] [] h (sX3_decides G N a0 a1 a2 h)
  delta sX3_decides
  refine g_aload_n (pc := 0) (x := a0) 0 rfl rfl dX3_decides_0 ?_
  refine g_iload_n (pc := 1) (x := a2) 2 rfl rfl dX3_decides_1 ?_
  refine g_bVi (pc := 2) (y := yX3_rules) (ws := ws_ yX3_rules cX3_rules 2 (some .int)) (fr := 0) (lo := 0) (as := [gi a2]) (st := []) (g_no) rfl (fun _ _ _ e => tX3_rules hs e) (fun K _ _ _ hq hM R e1 e2 => g_runV (M := mX3_decides) (pc := 2) (y := yX3_rules) (bytes := cX3_rules) (maxL := 2) (ret := (some .int)) (fr := 0) (lo := 0) (as := [gi a2]) (st := []) hq (C := "FlareSlopes$State") rfl gy_X3_rules (gbl rfl) (gbl rfl) (gbl rfl) q3567 q3217 q3218 dX3_decides_2 K hM R e1 e2) fun v1 h2 => ?_
  refine g_istore_n (pc := 5) (lv' := [(3, gi v1), (0, gr a0), (1, gr a1), (2, gi a2)]) [0, 1, 2, 3] rfl rfl (gblt rfl) dX3_decides_5 ?_
  refine g_aload_n (pc := 6) (x := a1) 2 rfl rfl dX3_decides_6 ?_
  refine g_getfr (pc := 7) k_7 (gblt rfl) lk_X3_253_7 dX3_decides_7 fun v3 => ?_
  refine g_iload_n (pc := 10) (x := a2) 3 rfl rfl dX3_decides_10 ?_
  refine g_iaload (pc := 11) rfl dX3_decides_11 fun v4 => ?_
  refine g_istore (pc := 12) (lv' := [(4, gi v4), (3, gi v1), (0, gr a0), (1, gr a1), (2, gi a2)]) [0, 1, 2, 3, 4] rfl (gblt rfl) dX3_decides_12 ?_
  refine g_iload_n (pc := 14) (x := v1) 1 rfl rfl dX3_decides_14 ?_
  refine g_join 37 (fun (x5 : Int32) => [(0, gr a0), (1, gr a1), (2, gi a2)]) (fun (x5 : Int32) => [gi x5]) (fun x5 h6 => ?_) (fun j7 Hj7 => ?_)
  · refine g_istore (pc := 37) (lv' := [(4, gi x5), (0, gr a0), (1, gr a1), (2, gi a2)]) [0, 1, 2, 3] rfl (gblt rfl) dX3_decides_37 ?_
    refine g_aload_n (pc := 39) (x := a1) 2 rfl rfl dX3_decides_39 ?_
    refine g_getfr (pc := 40) k_7 (gblt rfl) lk_X3_253_7 dX3_decides_40 fun v8 => ?_
    refine g_iload_n (pc := 43) (x := a2) 3 rfl rfl dX3_decides_43 ?_
    refine g_iload (pc := 44) (x := x5) 0 rfl dX3_decides_44 ?_
    refine g_iastore (pc := 46) rfl dX3_decides_46 fun h9 => ?_
    refine g_aload_n (pc := 47) (x := a1) 2 rfl rfl dX3_decides_47 ?_
    refine g_iload_n (pc := 48) (x := a2) 3 rfl rfl dX3_decides_48 ?_
    refine g_bVi (pc := 49) (y := yX12_holdsClosed) (ws := ws_ yX12_holdsClosed cX12_holdsClosed 2 (some .boolean)) (fr := 1) (lo := 21) (as := [gi a2]) (st := []) (g_no) rfl (fun _ _ _ e => tX12_holdsClosed hs e) (fun K _ _ _ hq hM R e1 e2 => g_runV (M := mX3_decides) (pc := 49) (y := yX12_holdsClosed) (bytes := cX12_holdsClosed) (maxL := 2) (ret := (some .boolean)) (fr := 1) (lo := 21) (as := [gi a2]) (st := []) hq (C := "FlareSlopes$Cabin") rfl gy_X12_holdsClosed (gbl rfl) (gbl rfl) (gbl rfl) q3054 q3055 q3056 dX3_decides_49 K hM R e1 e2) fun v10 h11 => ?_
    refine g_join 91 (fun (x12 : Unit) => [(0, gr a0), (1, gr a1), (2, gi a2), (4, gi x5)]) (fun (x12 : Unit) => []) (fun x12 h13 => ?_) (fun j14 Hj14 => ?_)
    · refine g_aload_n (pc := 91) (x := a1) 1 rfl rfl dX3_decides_91 ?_
      refine g_iload_n (pc := 92) (x := a2) 2 rfl rfl dX3_decides_92 ?_
      refine g_bVi (pc := 93) (y := yX12_holdsClosed) (ws := ws_ yX12_holdsClosed cX12_holdsClosed 2 (some .boolean)) (fr := 1) (lo := 21) (as := [gi a2]) (st := []) (g_no) rfl (fun _ _ _ e => tX12_holdsClosed hs e) (fun K _ _ _ hq hM R e1 e2 => g_runV (M := mX3_decides) (pc := 93) (y := yX12_holdsClosed) (bytes := cX12_holdsClosed) (maxL := 2) (ret := (some .boolean)) (fr := 1) (lo := 21) (as := [gi a2]) (st := []) hq (C := "FlareSlopes$Cabin") rfl gy_X12_holdsClosed (gbl rfl) (gbl rfl) (gbl rfl) q3054 q3055 q3056 dX3_decides_93 K hM R e1 e2) fun v15 h16 => ?_
      refine g_if_eq (pc := 96) (tgt := 135) rfl dX3_decides_96 ?_ ?_
      · exact g_return (pc := 135) rfl dX3_decides_135
      refine g_iload (pc := 99) (x := x5) 3 rfl dX3_decides_99 ?_
      refine g_aload_n (pc := 101) (x := a0) 0 rfl rfl dX3_decides_101 ?_
      refine g_getfr (pc := 102) k_16 (gblt rfl) lk_X3_18_16 dX3_decides_102 fun v17 => ?_
      refine g_iconst (pc := 105) (v := (4 : Int32)) ic_4 dX3_decides_105 ?_
      refine g_iaload (pc := 106) rfl dX3_decides_106 fun v18 => ?_
      refine g_ineg (pc := 107) dX3_decides_107 ?_
      refine g_icmp_gt (pc := 108) (tgt := 135) rfl dX3_decides_108 ?_ ?_
      · exact g_return (pc := 135) rfl dX3_decides_135
      refine g_aload_n (pc := 111) (x := a1) 1 rfl rfl dX3_decides_111 ?_
      refine g_dup (pc := 112) rfl dX3_decides_112 ?_
      refine g_getfi (pc := 113) k_7 (gblt rfl) lk_X3_256_7 dX3_decides_113 fun v19 => ?_
      refine g_iconst (pc := 116) (v := (1 : Int32)) ic_1 dX3_decides_116 ?_
      refine g_iload_n (pc := 117) (x := a2) 2 rfl rfl dX3_decides_117 ?_
      refine g_ishl (pc := 118) dX3_decides_118 ?_
      refine g_iconst (pc := 119) (v := (-1 : Int32)) ic_m1 dX3_decides_119 ?_
      refine g_ixor (pc := 120) dX3_decides_120 ?_
      refine g_iand (pc := 121) dX3_decides_121 ?_
      refine g_put (pc := 122) k_7 (gblt rfl) lk_X3_256_7 rfl rfl (gNi _) dX3_decides_122 fun h20 => ?_
      refine g_aload_n (pc := 125) (x := a0) 0 rfl rfl dX3_decides_125 ?_
      refine g_dup (pc := 126) rfl dX3_decides_126 ?_
      refine g_getfi (pc := 127) k_16 (gblt rfl) lk_X3_108_16 dX3_decides_127 fun v21 => ?_
      refine g_iconst (pc := 130) (v := (1 : Int32)) ic_1 dX3_decides_130 ?_
      refine g_iadd (pc := 131) dX3_decides_131 ?_
      refine g_put (pc := 132) k_16 (gblt rfl) lk_X3_108_16 rfl rfl (gNi _) dX3_decides_132 fun h22 => ?_
      exact g_return (pc := 135) rfl dX3_decides_135
    refine g_if_ne (pc := 52) (tgt := 91) rfl dX3_decides_52 ?_ ?_
    rotate_left
    · exact g_sub [1, 2, 3, 0] rfl (Hj14 () h11)
    refine g_iload (pc := 55) (x := x5) 0 rfl dX3_decides_55 ?_
    refine g_aload_n (pc := 57) (x := a0) 1 rfl rfl dX3_decides_57 ?_
    refine g_getfr (pc := 58) k_16 (gblt rfl) lk_X3_18_16 dX3_decides_58 fun v24 => ?_
    refine g_iconst (pc := 61) (v := (3 : Int32)) ic_3 dX3_decides_61 ?_
    refine g_iaload (pc := 62) rfl dX3_decides_62 fun v25 => ?_
    refine g_icmp_lt (pc := 63) (tgt := 91) rfl dX3_decides_63 ?_ ?_
    · exact g_sub [1, 2, 3, 0] rfl (Hj14 () h11)
    refine g_aload_n (pc := 66) (x := a1) 2 rfl rfl dX3_decides_66 ?_
    refine g_dup (pc := 67) rfl dX3_decides_67 ?_
    refine g_getfi (pc := 68) k_7 (gblt rfl) lk_X3_256_7 dX3_decides_68 fun v26 => ?_
    refine g_iconst (pc := 71) (v := (1 : Int32)) ic_1 dX3_decides_71 ?_
    refine g_iload_n (pc := 72) (x := a2) 3 rfl rfl dX3_decides_72 ?_
    refine g_ishl (pc := 73) dX3_decides_73 ?_
    refine g_ior (pc := 74) dX3_decides_74 ?_
    refine g_put (pc := 75) k_7 (gblt rfl) lk_X3_256_7 rfl rfl (gNi _) dX3_decides_75 fun h27 => ?_
    refine g_aload_n (pc := 78) (x := a0) 1 rfl rfl dX3_decides_78 ?_
    refine g_dup (pc := 79) rfl dX3_decides_79 ?_
    refine g_getfi (pc := 80) k_16 (gblt rfl) lk_X3_105_16 dX3_decides_80 fun v28 => ?_
    refine g_iconst (pc := 83) (v := (1 : Int32)) ic_1 dX3_decides_83 ?_
    refine g_iadd (pc := 84) dX3_decides_84 ?_
    refine g_put (pc := 85) k_16 (gblt rfl) lk_X3_105_16 rfl rfl (gNi _) dX3_decides_85 fun h29 => ?_
    refine g_goto (pc := 88) (tgt := 135) rfl dX3_decides_88 ?_
    exact g_return (pc := 135) rfl dX3_decides_135
  refine g_if_ne (pc := 15) (tgt := 22) rfl dX3_decides_15 ?_ ?_
  · refine g_iconst (pc := 18) (v := (0 : Int32)) ic_0 dX3_decides_18 ?_
    refine g_goto (pc := 19) (tgt := 37) rfl dX3_decides_19 ?_
    exact g_sub [2, 3, 4] rfl (Hj7 (0 : Int32) h2)
  refine g_iload_n (pc := 22) (x := v1) 1 rfl rfl dX3_decides_22 ?_
  refine g_iload (pc := 23) (x := v4) 0 rfl dX3_decides_23 ?_
  refine g_imul (pc := 25) dX3_decides_25 ?_
  refine g_if_le (pc := 26) (tgt := 36) rfl dX3_decides_26 ?_ ?_
  · refine g_iload_n (pc := 36) (x := v1) 1 rfl rfl dX3_decides_36 ?_
    exact g_sub [2, 3, 4] rfl (Hj7 v1 h2)
  refine g_iload (pc := 29) (x := v4) 0 rfl dX3_decides_29 ?_
  refine g_iload_n (pc := 31) (x := v1) 1 rfl rfl dX3_decides_31 ?_
  refine g_iadd (pc := 32) dX3_decides_32 ?_
  refine g_goto (pc := 33) (tgt := 37) rfl dX3_decides_33 ?_
  exact g_sub [2, 3, 4] rfl (Hj7 (v4 + v1) h2)
/-! FlareSlopes$State.tick()V -/
noncomputable def bX3_tick_36 (G : GG) (N : Nat) (a0 : Option Nat) (x3 : Int32) (j16 : (Unit) → Hp → Out (Unit)) (w19 : (Int32) → Hp → Out (Unit)) (x17 : Int32) (h18 : Hp) : Out (Unit) :=
  bV h18 a0 16 (fun q28 => sX3_slopes G N (some q28) h18) fun v20 h21 =>
  if v20 ≤ x17 then (j16 () h21)
  else bV h21 a0 16 (fun q27 => sX3_cabin G N (some q27) x3 h21) fun v22 h23 =>
  bV h23 a0 16 (fun q26 => sX3_decides G N (some q26) v22 x17 h23) fun v24 h25 =>
  w19 (x17 + (1 : Int32)) h25
noncomputable def bX3_tick_12 (G : GG) (N : Nat) (a0 : Option Nat) (w5 : (Int32) → Hp → Out (Unit)) (x3 : Int32) (h4 : Hp) : Out (Unit) :=
  bV h4 a0 16 (fun q32 => sX3_size G N (some q32) h4) fun v6 h7 =>
  if v6 ≤ x3 then (some (.inl (), h7))
  else bV h7 a0 16 (fun q31 => sX3_cabin G N (some q31) x3 h7) fun v8 h9 =>
  bV h9 a0 16 (fun q30 => sX3_forgets G N (some q30) v8 h9) fun v10 h11 =>
  bV h11 a0 16 (fun q29 => sX3_laySums G N (some q29) x3 h11) fun v12 h13 =>
  gJ (fun (x14 : Unit) (h15 : Hp) =>
  w5 (x3 + (1 : Int32)) h15) fun j16 =>
  gLp (bX3_tick_36 G N a0 x3 j16) N (0 : Int32) h13
noncomputable def sX3_tick (G : GG) (N : Nat) (a0 : Option Nat) (h : Hp) : Out (Unit) :=
  gFi h a0 16 4 fun v1 =>
  gP G h a0 16 4 (.int (v1 + (1 : Int32))) fun h2 =>
  gLp (bX3_tick_12 G N a0) N (0 : Int32) h2
abbrev mX3_tick : MI := (RX3, cX3_tick, 3, none, [], 7, 158, "tick")
theorem tX3_tick {G : GG} {l : Launch} (hs : l.stackTraces = false) {N : Nat} {a0 : Option Nat} {h : Hp} {r : Unit ⊕ Nat} {hf : Hp} (ho : sX3_tick G N a0 h = some (r, hf)) : gMet G l yX3_tick (ws_ yX3_tick cX3_tick 3 none) 7 158 [gr a0] h cvU r hf := by
  refine gMet.of ho hs (plainFor_of_name pn_X3) rfl rfl (gbl rfl) fun X => ?_
  show gT G l X mX3_tick cvU r hf 0 [(0, gr a0)] [] h (sX3_tick G N a0 h)
  delta sX3_tick
  refine g_aload_n (pc := 0) (x := a0) 0 rfl rfl dX3_tick_0 ?_
  refine g_dup (pc := 1) rfl dX3_tick_1 ?_
  refine g_getfi (pc := 2) k_16 (gblt rfl) lk_X3_98_16 dX3_tick_2 fun v1 => ?_
  refine g_iconst (pc := 5) (v := (1 : Int32)) ic_1 dX3_tick_5 ?_
  refine g_iadd (pc := 6) dX3_tick_6 ?_
  refine g_put (pc := 7) k_16 (gblt rfl) lk_X3_98_16 rfl rfl (gNi _) dX3_tick_7 fun h2 => ?_
  refine g_iconst (pc := 10) (v := (0 : Int32)) ic_0 dX3_tick_10 ?_
  refine g_istore_n (pc := 11) (lv' := [(1, gi (0 : Int32)), (0, gr a0)]) [0, 1] rfl rfl (gblt rfl) dX3_tick_11 ?_
  refine g_sub (lv' := [(0, gr a0), (1, gi (0 : Int32))]) [1, 0] rfl ?_
  refine g_loop (pc := 12) (fun (x3 : Int32) => [(0, gr a0), (1, gi x3)]) (fun (_ : Int32) => []) (fun w5 Hw5 x3 h4 => ?_) N (0 : Int32) h2
  delta bX3_tick_12
  refine g_iload_n (pc := 12) (x := x3) 1 rfl rfl dX3_tick_12 ?_
  refine g_aload_n (pc := 13) (x := a0) 0 rfl rfl dX3_tick_13 ?_
  refine g_bVi (pc := 14) (y := yX3_size) (ws := ws_ yX3_size cX3_size 1 (some .int)) (fr := 1) (lo := 20) (as := []) (st := [gi x3]) (g_no) rfl (fun _ _ _ e => tX3_size hs e) (fun K _ _ _ hq hM R e1 e2 => g_runV (M := mX3_tick) (pc := 14) (y := yX3_size) (bytes := cX3_size) (maxL := 1) (ret := (some .int)) (fr := 1) (lo := 20) (as := []) (st := [gi x3]) hq (C := "FlareSlopes$State") rfl gy_X3_size (gbl rfl) (gbl rfl) (gbl rfl) q1633 q1412 q1413 dX3_tick_14 K hM R e1 e2) fun v6 h7 => ?_
  refine g_icmp_ge (pc := 17) (tgt := 66) rfl dX3_tick_17 ?_ ?_
  · exact g_return (pc := 66) rfl dX3_tick_66
  refine g_aload_n (pc := 20) (x := a0) 0 rfl rfl dX3_tick_20 ?_
  refine g_aload_n (pc := 21) (x := a0) 0 rfl rfl dX3_tick_21 ?_
  refine g_iload_n (pc := 22) (x := x3) 1 rfl rfl dX3_tick_22 ?_
  refine g_bVr (pc := 23) (y := yX3_cabin) (ws := ws_ yX3_cabin cX3_cabin 2 (some (.object "FlareSlopes$Cabin"))) (fr := 3) (lo := 64) (as := [gi x3]) (st := [gr a0]) (g_no) rfl (fun _ _ _ e => tX3_cabin hs e) (fun K _ _ _ hq hM R e1 e2 => g_runV (M := mX3_tick) (pc := 23) (y := yX3_cabin) (bytes := cX3_cabin) (maxL := 2) (ret := (some (.object "FlareSlopes$Cabin"))) (fr := 3) (lo := 64) (as := [gi x3]) (st := [gr a0]) hq (C := "FlareSlopes$State") rfl gy_X3_cabin (gbl rfl) (gbl rfl) (gbl rfl) q1638 q1639 q1640 dX3_tick_23 K hM R e1 e2) fun v8 h9 => ?_
  refine g_bVu (pc := 26) (y := yX3_forgets) (ws := ws_ yX3_forgets cX3_forgets 4 none) (fr := 6) (lo := 135) (as := [gr v8]) (st := []) (g_no) rfl (fun _ _ _ e => tX3_forgets hs e) (fun K _ _ _ hq hM R e1 e2 => g_runV (M := mX3_tick) (pc := 26) (y := yX3_forgets) (bytes := cX3_forgets) (maxL := 4) (ret := none) (fr := 6) (lo := 135) (as := [gr v8]) (st := []) hq (C := "FlareSlopes$State") rfl gy_X3_forgets (gbl rfl) (gbl rfl) (gbl rfl) q3524 q3526 qs49 dX3_tick_26 K hM R e1 e2) fun v10 h11 => ?_
  refine g_aload_n (pc := 29) (x := a0) 0 rfl rfl dX3_tick_29 ?_
  refine g_iload_n (pc := 30) (x := x3) 1 rfl rfl dX3_tick_30 ?_
  refine g_bVu (pc := 31) (y := yX3_laySums) (ws := ws_ yX3_laySums cX3_laySums 6 none) (fr := 6) (lo := 128) (as := [gi x3]) (st := []) (g_no) rfl (fun _ _ _ e => tX3_laySums hs e) (fun K _ _ _ hq hM R e1 e2 => g_runV (M := mX3_tick) (pc := 31) (y := yX3_laySums) (bytes := cX3_laySums) (maxL := 6) (ret := none) (fr := 6) (lo := 128) (as := [gi x3]) (st := []) hq (C := "FlareSlopes$State") rfl gy_X3_laySums (gbl rfl) (gbl rfl) (gbl rfl) q3562 q3072 q3073 dX3_tick_31 K hM R e1 e2) fun v12 h13 => ?_
  refine g_iconst (pc := 34) (v := (0 : Int32)) ic_0 dX3_tick_34 ?_
  refine g_istore_n (pc := 35) (lv' := [(2, gi (0 : Int32)), (0, gr a0), (1, gi x3)]) [0, 1, 2] rfl rfl (gblt rfl) dX3_tick_35 ?_
  refine g_join 60 (fun (x14 : Unit) => [(0, gr a0), (1, gi x3)]) (fun (x14 : Unit) => []) (fun x14 h15 => ?_) (fun j16 Hj16 => ?_)
  · refine g_iinc (pc := 60) (v := x3 + (1 : Int32)) 1 rfl (ii_1 _) (lv' := [(1, gi (x3 + (1 : Int32))), (0, gr a0)]) [0, 1] rfl (gblt rfl) dX3_tick_60 ?_
    refine g_goto (pc := 63) (tgt := 12) rfl dX3_tick_63 ?_
    exact g_sub [1, 0] rfl (Hw5 (x3 + (1 : Int32)) h15)
  refine g_sub (lv' := [(0, gr a0), (1, gi x3), (2, gi (0 : Int32))]) [1, 2, 0] rfl ?_
  refine g_loop (pc := 36) (fun (x17 : Int32) => [(0, gr a0), (1, gi x3), (2, gi x17)]) (fun (_ : Int32) => []) (fun w19 Hw19 x17 h18 => ?_) N (0 : Int32) h13
  delta bX3_tick_36
  refine g_iload_n (pc := 36) (x := x17) 2 rfl rfl dX3_tick_36 ?_
  refine g_aload_n (pc := 37) (x := a0) 0 rfl rfl dX3_tick_37 ?_
  refine g_bVi (pc := 38) (y := yX3_slopes) (ws := ws_ yX3_slopes cX3_slopes 1 (some .int)) (fr := 2) (lo := 40) (as := []) (st := [gi x17]) (g_no) rfl (fun _ _ _ e => tX3_slopes hs e) (fun K _ _ _ hq hM R e1 e2 => g_runV (M := mX3_tick) (pc := 38) (y := yX3_slopes) (bytes := cX3_slopes) (maxL := 1) (ret := (some .int)) (fr := 2) (lo := 40) (as := []) (st := [gi x17]) hq (C := "FlareSlopes$State") rfl gy_X3_slopes (gbl rfl) (gbl rfl) (gbl rfl) q1993 q1465 q1466 dX3_tick_38 K hM R e1 e2) fun v20 h21 => ?_
  refine g_icmp_ge (pc := 41) (tgt := 60) rfl dX3_tick_41 ?_ ?_
  · exact g_sub [0, 1] rfl (Hj16 () h21)
  refine g_aload_n (pc := 44) (x := a0) 0 rfl rfl dX3_tick_44 ?_
  refine g_aload_n (pc := 45) (x := a0) 0 rfl rfl dX3_tick_45 ?_
  refine g_iload_n (pc := 46) (x := x3) 1 rfl rfl dX3_tick_46 ?_
  refine g_bVr (pc := 47) (y := yX3_cabin) (ws := ws_ yX3_cabin cX3_cabin 2 (some (.object "FlareSlopes$Cabin"))) (fr := 3) (lo := 64) (as := [gi x3]) (st := [gr a0]) (g_no) rfl (fun _ _ _ e => tX3_cabin hs e) (fun K _ _ _ hq hM R e1 e2 => g_runV (M := mX3_tick) (pc := 47) (y := yX3_cabin) (bytes := cX3_cabin) (maxL := 2) (ret := (some (.object "FlareSlopes$Cabin"))) (fr := 3) (lo := 64) (as := [gi x3]) (st := [gr a0]) hq (C := "FlareSlopes$State") rfl gy_X3_cabin (gbl rfl) (gbl rfl) (gbl rfl) q1638 q1639 q1640 dX3_tick_47 K hM R e1 e2) fun v22 h23 => ?_
  refine g_iload_n (pc := 50) (x := x17) 2 rfl rfl dX3_tick_50 ?_
  refine g_bVu (pc := 51) (y := yX3_decides) (ws := ws_ yX3_decides cX3_decides 5 none) (fr := 2) (lo := 42) (as := [gr v22, gi x17]) (st := []) (g_no) rfl (fun _ _ _ e => tX3_decides hs e) (fun K _ _ _ hq hM R e1 e2 => g_runV (M := mX3_tick) (pc := 51) (y := yX3_decides) (bytes := cX3_decides) (maxL := 5) (ret := none) (fr := 2) (lo := 42) (as := [gr v22, gi x17]) (st := []) hq (C := "FlareSlopes$State") rfl gy_X3_decides (gbl rfl) (gbl rfl) (gbl rfl) q3563 q3565 qs50 dX3_tick_51 K hM R e1 e2) fun v24 h25 => ?_
  refine g_iinc (pc := 54) (v := x17 + (1 : Int32)) 2 rfl (ii_1 _) (lv' := [(2, gi (x17 + (1 : Int32))), (0, gr a0), (1, gi x3)]) [0, 1, 2] rfl (gblt rfl) dX3_tick_54 ?_
  refine g_goto (pc := 57) (tgt := 36) rfl dX3_tick_57 ?_
  exact g_sub [1, 2, 0] rfl (Hw19 (x17 + (1 : Int32)) h25)
/-! FlareSlopes.holdsIn(IIZ)I -/
noncomputable def bX1_holdsIn_24 (G : GG) (N : Nat) (a1 : Int32) (a2 : Int32) (a3 : Int32) (v3 : Option Nat) (w10 : (Int32) → Hp → Out (Int32)) (x8 : Int32) (h9 : Hp) : Out (Int32) :=
  if (200 : Int32) < x8 then (some (.inl (-1 : Int32), h9))
  else bV h9 v3 16 (fun q19 => sX3_cabin G N (some q19) a1 h9) fun v11 h12 =>
  bV h12 v11 7 (fun q18 => sX12_holdsClosed G N (some q18) a2 h12) fun v13 h14 =>
  if v13 = a3 then (some (.inl x8, h14))
  else bV h14 v3 16 (fun q17 => sX3_tick G N (some q17) h14) fun v15 h16 =>
  w10 (x8 + (1 : Int32)) h16
noncomputable def sX1_holdsIn (G : GG) (N : Nat) (a0 : Option Nat) (a1 : Int32) (a2 : Int32) (a3 : Int32) (h : Hp) : Out (Int32) :=
  bV h a0 3 (fun q21 => sX1_withBoth G N (some q21) a1 a2 h) fun v1 h2 =>
  gNew h2 16 [.null, .null, .null, .null, .int 0, .int 0, .int 0, .int 0, .int 0, .int 0, .int 0, .int 0, .null, .null] 14 fun v3 h4 =>
  gFr h4 a0 3 4 fun v5 =>
  bI v3 (fun q20 => sX3_init_2 G N (some q20) v5 h4) fun v6 h7 =>
  gLp (bX1_holdsIn_24 G N a1 a2 a3 v3) N (0 : Int32) h7
abbrev mX1_holdsIn : MI := (RX1, cX1_holdsIn, 7, (some .int), [], 10, 185, "holdsIn")
theorem tX1_holdsIn {G : GG} {l : Launch} (hs : l.stackTraces = false) {N : Nat} {a0 : Option Nat} {a1 : Int32} {a2 : Int32} {a3 : Int32} {h : Hp} {r : Int32 ⊕ Nat} {hf : Hp} (ho : sX1_holdsIn G N a0 a1 a2 a3 h = some (r, hf)) : gMet G l yX1_holdsIn (ws_ yX1_holdsIn cX1_holdsIn 7 (some .int)) 10 185 [gr a0, gi a1, gi a2, gi a3] h cvI r hf := by
  refine gMet.of ho hs (plainFor_of_name pn_X1) rfl rfl (gbl rfl) fun X => ?_
  show gT G l X mX1_holdsIn cvI r hf 0 [(0, gr a0), (1, gi a1), (2, gi a2), (3, gi a3)] [] h (sX1_holdsIn G N a0 a1 a2 a3 h)
  delta sX1_holdsIn
  refine g_aload_n (pc := 0) (x := a0) 0 rfl rfl dX1_holdsIn_0 ?_
  refine g_iload_n (pc := 1) (x := a1) 1 rfl rfl dX1_holdsIn_1 ?_
  refine g_iload_n (pc := 2) (x := a2) 2 rfl rfl dX1_holdsIn_2 ?_
  refine g_bVr (pc := 3) (y := yX1_withBoth) (ws := ws_ yX1_withBoth cX1_withBoth 4 (some (.object "FlareSlopes$Cabin"))) (fr := 9) (lo := 142) (as := [gi a1, gi a2]) (st := []) (g_no) rfl (fun _ _ _ e => tX1_withBoth hs e) (fun K _ _ _ hq hM R e1 e2 => g_runV (M := mX1_holdsIn) (pc := 3) (y := yX1_withBoth) (bytes := cX1_withBoth) (maxL := 4) (ret := (some (.object "FlareSlopes$Cabin"))) (fr := 9) (lo := 142) (as := [gi a1, gi a2]) (st := []) hq (C := "FlareSlopes") rfl gy_X1_withBoth (gbl rfl) (gbl rfl) (gbl rfl) q3141 q3143 qs45 dX1_holdsIn_3 K hM R e1 e2) fun v1 h2 => ?_
  refine g_astore (pc := 6) (lv' := [(0, gr a0), (1, gi a1), (2, gi a2), (3, gi a3)]) [1, 2, 3, 4] rfl (gblt rfl) dX1_holdsIn_6 ?_
  refine g_new (pc := 8) k_16 df_16 q233 q437 q141 dX1_holdsIn_8 fun v3 h4 => ?_
  refine g_dup (pc := 11) rfl dX1_holdsIn_11 ?_
  refine g_aload_n (pc := 12) (x := a0) 0 rfl rfl dX1_holdsIn_12 ?_
  refine g_getfr (pc := 13) k_3 (gblt rfl) lk_X1_56_3 dX1_holdsIn_13 fun v5 => ?_
  refine g_bIu (pc := 16) (y := yX3_init_2) (ws := ws_ yX3_init_2 cX3_init_2 4 none) (fr := 7) (lo := 162) (as := [gr v5]) (st := [gr v3]) (g_no) rfl (fun _ _ _ e => tX3_init_2 hs e) (fun K _ _ _ hM R e1 e2 => g_runI (M := mX1_holdsIn) (pc := 16) (y := yX3_init_2) (bytes := cX3_init_2) (maxL := 4) (ret := none) (fr := 7) (lo := 162) (as := [gr v5]) (st := [gr v3]) gy_X3_init_2 (gbl rfl) (gbl rfl) (gbl rfl) rfl q3466 q3467 rfl dX1_holdsIn_16 K hM R e1 e2) fun v6 h7 => ?_
  refine g_astore (pc := 19) (lv' := [(5, gr v3), (1, gi a1), (2, gi a2), (3, gi a3)]) [0, 2, 3, 4] rfl (gblt rfl) dX1_holdsIn_19 ?_
  refine g_iconst (pc := 21) (v := (0 : Int32)) ic_0 dX1_holdsIn_21 ?_
  refine g_istore (pc := 22) (lv' := [(6, gi (0 : Int32)), (5, gr v3), (1, gi a1), (2, gi a2), (3, gi a3)]) [0, 1, 2, 3, 4] rfl (gblt rfl) dX1_holdsIn_22 ?_
  refine g_sub (lv' := [(1, gi a1), (2, gi a2), (3, gi a3), (5, gr v3), (6, gi (0 : Int32))]) [2, 3, 4, 1, 0] rfl ?_
  refine g_loop (pc := 24) (fun (x8 : Int32) => [(1, gi a1), (2, gi a2), (3, gi a3), (5, gr v3), (6, gi x8)]) (fun (_ : Int32) => []) (fun w10 Hw10 x8 h9 => ?_) N (0 : Int32) h7
  delta bX1_holdsIn_24
  refine g_iload (pc := 24) (x := x8) 4 rfl dX1_holdsIn_24 ?_
  refine g_sipush (pc := 26) (v := (200 : Int32)) sc_200 dX1_holdsIn_26 ?_
  refine g_icmp_gt (pc := 29) (tgt := 60) rfl dX1_holdsIn_29 ?_ ?_
  · refine g_iconst (pc := 60) (v := (-1 : Int32)) ic_m1 dX1_holdsIn_60 ?_
    exact g_ireturn (pc := 61) rfl dX1_holdsIn_61
  refine g_aload (pc := 32) (x := v3) 3 rfl dX1_holdsIn_32 ?_
  refine g_iload_n (pc := 34) (x := a1) 0 rfl rfl dX1_holdsIn_34 ?_
  refine g_bVr (pc := 35) (y := yX3_cabin) (ws := ws_ yX3_cabin cX3_cabin 2 (some (.object "FlareSlopes$Cabin"))) (fr := 3) (lo := 64) (as := [gi a1]) (st := []) (g_no) rfl (fun _ _ _ e => tX3_cabin hs e) (fun K _ _ _ hq hM R e1 e2 => g_runV (M := mX1_holdsIn) (pc := 35) (y := yX3_cabin) (bytes := cX3_cabin) (maxL := 2) (ret := (some (.object "FlareSlopes$Cabin"))) (fr := 3) (lo := 64) (as := [gi a1]) (st := []) hq (C := "FlareSlopes$State") rfl gy_X3_cabin (gbl rfl) (gbl rfl) (gbl rfl) q1738 q1639 q1640 dX1_holdsIn_35 K hM R e1 e2) fun v11 h12 => ?_
  refine g_iload_n (pc := 38) (x := a2) 1 rfl rfl dX1_holdsIn_38 ?_
  refine g_bVi (pc := 39) (y := yX12_holdsClosed) (ws := ws_ yX12_holdsClosed cX12_holdsClosed 2 (some .boolean)) (fr := 1) (lo := 21) (as := [gi a2]) (st := []) (g_no) rfl (fun _ _ _ e => tX12_holdsClosed hs e) (fun K _ _ _ hq hM R e1 e2 => g_runV (M := mX1_holdsIn) (pc := 39) (y := yX12_holdsClosed) (bytes := cX12_holdsClosed) (maxL := 2) (ret := (some .boolean)) (fr := 1) (lo := 21) (as := [gi a2]) (st := []) hq (C := "FlareSlopes$Cabin") rfl gy_X12_holdsClosed (gbl rfl) (gbl rfl) (gbl rfl) q3234 q3055 q3056 dX1_holdsIn_39 K hM R e1 e2) fun v13 h14 => ?_
  refine g_iload_n (pc := 42) (x := a3) 2 rfl rfl dX1_holdsIn_42 ?_
  refine g_icmp_ne (pc := 43) (tgt := 49) rfl dX1_holdsIn_43 ?_ ?_
  · refine g_iload (pc := 46) (x := x8) 4 rfl dX1_holdsIn_46 ?_
    exact g_ireturn (pc := 48) rfl dX1_holdsIn_48
  refine g_aload (pc := 49) (x := v3) 3 rfl dX1_holdsIn_49 ?_
  refine g_bVu (pc := 51) (y := yX3_tick) (ws := ws_ yX3_tick cX3_tick 3 none) (fr := 7) (lo := 158) (as := []) (st := []) (g_no) rfl (fun _ _ _ e => tX3_tick hs e) (fun K _ _ _ hq hM R e1 e2 => g_runV (M := mX1_holdsIn) (pc := 51) (y := yX3_tick) (bytes := cX3_tick) (maxL := 3) (ret := none) (fr := 7) (lo := 158) (as := []) (st := []) hq (C := "FlareSlopes$State") rfl gy_X3_tick (gbl rfl) (gbl rfl) (gbl rfl) q3520 q3521 q3522 dX1_holdsIn_51 K hM R e1 e2) fun v15 h16 => ?_
  refine g_iinc (pc := 54) (v := x8 + (1 : Int32)) 4 rfl (ii_1 _) (lv' := [(6, gi (x8 + (1 : Int32))), (1, gi a1), (2, gi a2), (3, gi a3), (5, gr v3)]) [0, 1, 2, 3, 4] rfl (gblt rfl) dX1_holdsIn_54 ?_
  refine g_goto (pc := 57) (tgt := 24) rfl dX1_holdsIn_57 ?_
  exact g_sub [1, 2, 3, 4, 0] rfl (Hw10 (x8 + (1 : Int32)) h16)
