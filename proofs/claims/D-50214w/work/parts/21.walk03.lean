set_option maxRecDepth 100000
set_option maxHeartbeats 4000000
/-! java/util/LinkedHashMap.<init>(IF)V -/
noncomputable def sJ24_init_2 (G : GG) (N : Nat) (a0 : Option Nat) (a1 : Int32) (a2 : UInt32) (h : Hp) : Out (Unit) :=
  bI a0 (fun q5 => sJ23_init_2_c26 G N (some q5) a1 a2 h) fun v1 h2 =>
  gP G h2 a0 26 11 (.int (0 : Int32)) fun h3 =>
  gPz G h3 a0 26 10 (0 : Int32) fun h4 =>
  some (.inl (), h4)
abbrev mJ24_init_2 : MI := (RJ24, cJ24_init_2, 3, none, [], 3, 64, "<init>")
theorem tJ24_init_2 {G : GG} {l : Launch} (hs : l.stackTraces = false) {N : Nat} {a0 : Option Nat} {a1 : Int32} {a2 : UInt32} {h : Hp} {r : Unit ⊕ Nat} {hf : Hp} (ho : sJ24_init_2 G N a0 a1 a2 h = some (r, hf)) : gMet G l yJ24_init_2 (ws_ yJ24_init_2 cJ24_init_2 3 none) 3 64 [gr a0, gi a1, gf a2] h cvU r hf := by
  refine gMet.of ho hs (plainFor_of_name pn_J24) rfl rfl (gbl rfl) fun X => ?_
  show gT G l X mJ24_init_2 cvU r hf 0 [(0, gr a0), (1, gi a1), (2, gf a2)] [] h (sJ24_init_2 G N a0 a1 a2 h)
  delta sJ24_init_2
  refine g_aload_n (pc := 0) (x := a0) 0 rfl rfl dJ24_init_2_0 ?_
  refine g_iload_n (pc := 1) (x := a1) 1 rfl rfl dJ24_init_2_1 ?_
  refine g_fload_n (pc := 2) (x := a2) 2 rfl rfl dJ24_init_2_2 ?_
  refine g_bIu (pc := 3) (y := yJ23_init_2) (ws := ws_ yJ23_init_2 cJ23_init_2 3 none) (fr := 2) (lo := 42) (as := [gi a1, gf a2]) (st := []) (g_no) rfl (fun _ _ _ e => tJ23_init_2_c26 hs e) (fun K _ _ _ hM R e1 e2 => g_runI (M := mJ24_init_2) (pc := 3) (y := yJ23_init_2) (bytes := cJ23_init_2) (maxL := 3) (ret := none) (fr := 2) (lo := 42) (as := [gi a1, gf a2]) (st := []) gy_J23_init_2 (gbl rfl) (gbl rfl) (gbl rfl) rfl q2374 q2375 rfl dJ24_init_2_3 K hM R e1 e2) fun v1 h2 => ?_
  refine g_aload_n (pc := 6) (x := a0) 0 rfl rfl dJ24_init_2_6 ?_
  refine g_iconst (pc := 7) (v := (0 : Int32)) ic_0 dJ24_init_2_7 ?_
  refine g_put (pc := 8) k_26 (gblt rfl) lk_J24_1_26 rfl rfl (gNi _) dJ24_init_2_8 fun h3 => ?_
  refine g_aload_n (pc := 11) (x := a0) 0 rfl rfl dJ24_init_2_11 ?_
  refine g_iconst (pc := 12) (v := (0 : Int32)) ic_0 dJ24_init_2_12 ?_
  refine g_putzFin (pc := 13) k_26 (gblt rfl) lk_J24_64_26 q1255 rfl rfl rfl rfl dJ24_init_2_13 fun h4 => ?_
  exact g_return (pc := 16) rfl dJ24_init_2_16
/-! java/util/HashSet.<init>(IFZ)V -/
noncomputable def sJ40_init_c34 (G : GG) (N : Nat) (a0 : Option Nat) (a1 : Int32) (a2 : UInt32) (a3 : Int32) (h : Hp) : Out (Unit) :=
  bI a0 (fun q9 => sJ35_init_c34 G N (some q9) h) fun v1 h2 =>
  gNew h2 26 [.null, .null, .int 0, .int 0, .int 0, .float 0, .null, .null, .null, .null, .int 0, .int 0] 12 fun v3 h4 =>
  bI v3 (fun q8 => sJ24_init_2 G N (some q8) a1 a2 h4) fun v5 h6 =>
  gP G h6 a0 34 0 (va_rf v3) fun h7 =>
  some (.inl (), h7)
abbrev mJ40_init_c34 : MI := (RJ40, cJ40_init, 4, none, [], 4, 86, "<init>")
theorem tJ40_init_c34 {G : GG} {l : Launch} (hs : l.stackTraces = false) {N : Nat} {a0 : Option Nat} {a1 : Int32} {a2 : UInt32} {a3 : Int32} {h : Hp} {r : Unit ⊕ Nat} {hf : Hp} (ho : sJ40_init_c34 G N a0 a1 a2 a3 h = some (r, hf)) : gMet G l yJ40_init (ws_ yJ40_init cJ40_init 4 none) 4 86 [gr a0, gi a1, gf a2, gi a3] h cvU r hf := by
  refine gMet.of ho hs (plainFor_of_name pn_J40) rfl rfl (gbl rfl) fun X => ?_
  show gT G l X mJ40_init_c34 cvU r hf 0 [(0, gr a0), (1, gi a1), (2, gf a2), (3, gi a3)] [] h (sJ40_init_c34 G N a0 a1 a2 a3 h)
  delta sJ40_init_c34
  refine g_aload_n (pc := 0) (x := a0) 0 rfl rfl dJ40_init_0 ?_
  refine g_bIu (pc := 1) (y := yJ35_init) (ws := ws_ yJ35_init cJ35_init 1 none) (fr := 2) (lo := 32) (as := []) (st := []) (g_no) rfl (fun _ _ _ e => tJ35_init_c34 hs e) (fun K _ _ _ hM R e1 e2 => g_runI (M := mJ40_init_c34) (pc := 1) (y := yJ35_init) (bytes := cJ35_init) (maxL := 1) (ret := none) (fr := 2) (lo := 32) (as := []) (st := []) gy_J35_init (gbl rfl) (gbl rfl) (gbl rfl) rfl q2369 q1922 rfl dJ40_init_1 K hM R e1 e2) fun v1 h2 => ?_
  refine g_aload_n (pc := 4) (x := a0) 0 rfl rfl dJ40_init_4 ?_
  refine g_new (pc := 5) k_26 df_26 q2370 q1239 q165 dJ40_init_5 fun v3 h4 => ?_
  refine g_dup (pc := 8) rfl dJ40_init_8 ?_
  refine g_iload_n (pc := 9) (x := a1) 1 rfl rfl dJ40_init_9 ?_
  refine g_fload_n (pc := 10) (x := a2) 2 rfl rfl dJ40_init_10 ?_
  refine g_bIu (pc := 11) (y := yJ24_init_2) (ws := ws_ yJ24_init_2 cJ24_init_2 3 none) (fr := 3) (lo := 64) (as := [gi a1, gf a2]) (st := [gr v3, gr a0]) (g_no) rfl (fun _ _ _ e => tJ24_init_2 hs e) (fun K _ _ _ hM R e1 e2 => g_runI (M := mJ40_init_c34) (pc := 11) (y := yJ24_init_2) (bytes := cJ24_init_2) (maxL := 3) (ret := none) (fr := 3) (lo := 64) (as := [gi a1, gf a2]) (st := [gr v3, gr a0]) gy_J24_init_2 (gbl rfl) (gbl rfl) (gbl rfl) rfl q2371 q2372 rfl dJ40_init_11 K hM R e1 e2) fun v5 h6 => ?_
  refine g_put (pc := 14) k_34 (gblt rfl) lk_J40_10_34 rfl rfl (gNr _ _) dJ40_init_14 fun h7 => ?_
  exact g_return (pc := 17) rfl dJ40_init_17
/-! java/util/LinkedHashSet.<init>()V -/
noncomputable def sJ41_init (G : GG) (N : Nat) (a0 : Option Nat) (h : Hp) : Out (Unit) :=
  bI a0 (fun q3 => sJ40_init_c34 G N (some q3) (16 : Int32) (1061158912 : UInt32) (1 : Int32) h) fun v1 h2 =>
  some (.inl (), h2)
abbrev mJ41_init : MI := (RJ41, cJ41_init, 1, none, [], 5, 109, "<init>")
theorem tJ41_init {G : GG} {l : Launch} (hs : l.stackTraces = false) {N : Nat} {a0 : Option Nat} {h : Hp} {r : Unit ⊕ Nat} {hf : Hp} (ho : sJ41_init G N a0 h = some (r, hf)) : gMet G l yJ41_init (ws_ yJ41_init cJ41_init 1 none) 5 109 [gr a0] h cvU r hf := by
  refine gMet.of ho hs (plainFor_of_name pn_J41) rfl rfl (gbl rfl) fun X => ?_
  show gT G l X mJ41_init cvU r hf 0 [(0, gr a0)] [] h (sJ41_init G N a0 h)
  delta sJ41_init
  refine g_aload_n (pc := 0) (x := a0) 0 rfl rfl dJ41_init_0 ?_
  refine g_bipush (pc := 1) (v := (16 : Int32)) bc_16 dJ41_init_1 ?_
  refine g_ldcf (pc := 3) q2365 dJ41_init_3 ?_
  refine g_iconst (pc := 5) (v := (1 : Int32)) ic_1 dJ41_init_5 ?_
  refine g_bIu (pc := 6) (y := yJ40_init) (ws := ws_ yJ40_init cJ40_init 4 none) (fr := 4) (lo := 86) (as := [gi (16 : Int32), gf (1061158912 : UInt32), gi (1 : Int32)]) (st := []) (g_no) rfl (fun _ _ _ e => tJ40_init_c34 hs e) (fun K _ _ _ hM R e1 e2 => g_runI (M := mJ41_init) (pc := 6) (y := yJ40_init) (bytes := cJ40_init) (maxL := 4) (ret := none) (fr := 4) (lo := 86) (as := [gi (16 : Int32), gf (1061158912 : UInt32), gi (1 : Int32)]) (st := []) gy_J40_init (gbl rfl) (gbl rfl) (gbl rfl) rfl q2366 q2367 rfl dJ41_init_6 K hM R e1 e2) fun v1 h2 => ?_
  exact g_return (pc := 9) rfl dJ41_init_9
/-! java/util/AbstractCollection.<init>()V -/
noncomputable def sJ0_init_c31 (G : GG) (N : Nat) (a0 : Option Nat) (h : Hp) : Out (Unit) :=
  gNN a0 (some (.inl (), h))
abbrev mJ0_init_c31 : MI := (RJ0, cJ0_init, 1, none, [], 1, 12, "<init>")
theorem tJ0_init_c31 {G : GG} {l : Launch} (hs : l.stackTraces = false) {N : Nat} {a0 : Option Nat} {h : Hp} {r : Unit ⊕ Nat} {hf : Hp} (ho : sJ0_init_c31 G N a0 h = some (r, hf)) : gMet G l yJ0_init (ws_ yJ0_init cJ0_init 1 none) 1 12 [gr a0] h cvU r hf := by
  refine gMet.of ho hs (plainFor_of_name pn_J0) rfl rfl (gbl rfl) fun X => ?_
  show gT G l X mJ0_init_c31 cvU r hf 0 [(0, gr a0)] [] h (sJ0_init_c31 G N a0 h)
  delta sJ0_init_c31
  refine g_aload_n (pc := 0) (x := a0) 0 rfl rfl dJ0_init_0 ?_
  refine g_objInit' (pc := 1) q217 oi_in oi_code (gbl rfl) (gbl rfl) dJ0_init_1 ?_
  exact g_return (pc := 4) rfl dJ0_init_4
/-! java/util/AbstractSet.<init>()V -/
noncomputable def sJ35_init_c31 (G : GG) (N : Nat) (a0 : Option Nat) (h : Hp) : Out (Unit) :=
  bI a0 (fun q3 => sJ0_init_c31 G N (some q3) h) fun v1 h2 =>
  some (.inl (), h2)
abbrev mJ35_init_c31 : MI := (RJ35, cJ35_init, 1, none, [], 2, 32, "<init>")
theorem tJ35_init_c31 {G : GG} {l : Launch} (hs : l.stackTraces = false) {N : Nat} {a0 : Option Nat} {h : Hp} {r : Unit ⊕ Nat} {hf : Hp} (ho : sJ35_init_c31 G N a0 h = some (r, hf)) : gMet G l yJ35_init (ws_ yJ35_init cJ35_init 1 none) 2 32 [gr a0] h cvU r hf := by
  refine gMet.of ho hs (plainFor_of_name pn_J35) rfl rfl (gbl rfl) fun X => ?_
  show gT G l X mJ35_init_c31 cvU r hf 0 [(0, gr a0)] [] h (sJ35_init_c31 G N a0 h)
  delta sJ35_init_c31
  refine g_aload_n (pc := 0) (x := a0) 0 rfl rfl dJ35_init_0 ?_
  refine g_bIu (pc := 1) (y := yJ0_init) (ws := ws_ yJ0_init cJ0_init 1 none) (fr := 1) (lo := 12) (as := []) (st := []) (g_no) rfl (fun _ _ _ e => tJ0_init_c31 hs e) (fun K _ _ _ hM R e1 e2 => g_runI (M := mJ35_init_c31) (pc := 1) (y := yJ0_init) (bytes := cJ0_init) (maxL := 1) (ret := none) (fr := 1) (lo := 12) (as := []) (st := []) gy_J0_init (gbl rfl) (gbl rfl) (gbl rfl) rfl q1924 q215 rfl dJ35_init_1 K hM R e1 e2) fun v1 h2 => ?_
  exact g_return (pc := 4) rfl dJ35_init_4
/-! java/util/LinkedHashMap$LinkedKeySet.<init>(Ljava/util/LinkedHashMap;Z)V -/
noncomputable def sJ37_init (G : GG) (N : Nat) (a0 : Option Nat) (a1 : Option Nat) (a2 : Int32) (h : Hp) : Out (Unit) :=
  gP G h a0 31 1 (va_rf a1) fun h1 =>
  bI a0 (fun q5 => sJ35_init_c31 G N (some q5) h1) fun v2 h3 =>
  gPz G h3 a0 31 0 a2 fun h4 =>
  some (.inl (), h4)
abbrev mJ37_init : MI := (RJ37, cJ37_init, 3, none, [], 3, 52, "<init>")
theorem tJ37_init {G : GG} {l : Launch} (hs : l.stackTraces = false) {N : Nat} {a0 : Option Nat} {a1 : Option Nat} {a2 : Int32} {h : Hp} {r : Unit ⊕ Nat} {hf : Hp} (ho : sJ37_init G N a0 a1 a2 h = some (r, hf)) : gMet G l yJ37_init (ws_ yJ37_init cJ37_init 3 none) 3 52 [gr a0, gr a1, gi a2] h cvU r hf := by
  refine gMet.of ho hs (plainFor_of_name pn_J37) rfl rfl (gbl rfl) fun X => ?_
  show gT G l X mJ37_init cvU r hf 0 [(0, gr a0), (1, gr a1), (2, gi a2)] [] h (sJ37_init G N a0 a1 a2 h)
  delta sJ37_init
  refine g_aload_n (pc := 0) (x := a0) 0 rfl rfl dJ37_init_0 ?_
  refine g_aload_n (pc := 1) (x := a1) 1 rfl rfl dJ37_init_1 ?_
  refine g_putFin (pc := 2) k_31 (gblt rfl) lk_J37_1_31 q1926 rfl rfl rfl rfl (gNr _ _) dJ37_init_2 fun h1 => ?_
  refine g_aload_n (pc := 5) (x := a0) 0 rfl rfl dJ37_init_5 ?_
  refine g_bIu (pc := 6) (y := yJ35_init) (ws := ws_ yJ35_init cJ35_init 1 none) (fr := 2) (lo := 32) (as := []) (st := []) (g_no) rfl (fun _ _ _ e => tJ35_init_c31 hs e) (fun K _ _ _ hM R e1 e2 => g_runI (M := mJ37_init) (pc := 6) (y := yJ35_init) (bytes := cJ35_init) (maxL := 1) (ret := none) (fr := 2) (lo := 32) (as := []) (st := []) gy_J35_init (gbl rfl) (gbl rfl) (gbl rfl) rfl q1921 q1922 rfl dJ37_init_6 K hM R e1 e2) fun v2 h3 => ?_
  refine g_aload_n (pc := 9) (x := a0) 0 rfl rfl dJ37_init_9 ?_
  refine g_iload_n (pc := 10) (x := a2) 2 rfl rfl dJ37_init_10 ?_
  refine g_putzFin (pc := 11) k_31 (gblt rfl) lk_J37_13_31 q1925 rfl rfl rfl rfl dJ37_init_11 fun h4 => ?_
  exact g_return (pc := 14) rfl dJ37_init_14
/-! java/util/LinkedHashMap.sequencedKeySet()Ljava/util/SequencedSet; -/
noncomputable def sJ24_sequencedKeySet (G : GG) (N : Nat) (a0 : Option Nat) (h : Hp) : Out (Option Nat) :=
  gFr h a0 26 6 fun v1 =>
  if v1 = none then (gNew h 31 [.int 0, .null] 2 fun v2 h3 =>
  bI v2 (fun q7 => sJ37_init G N (some q7) a0 (0 : Int32) h3) fun v4 h5 =>
  gP G h5 a0 26 6 (va_rf v2) fun h6 =>
  some (.inl v2, h6))
  else gCk h v1 [31] (some (.inl v1, h))
abbrev mJ24_sequencedKeySet : MI := (RJ24, cJ24_sequencedKeySet, 3, (some (.object "java/util/SequencedSet")), [], 4, 74, "sequencedKeySet")
theorem tJ24_sequencedKeySet {G : GG} {l : Launch} (hs : l.stackTraces = false) {N : Nat} {a0 : Option Nat} {h : Hp} {r : Option Nat ⊕ Nat} {hf : Hp} (ho : sJ24_sequencedKeySet G N a0 h = some (r, hf)) : gMet G l yJ24_sequencedKeySet (ws_ yJ24_sequencedKeySet cJ24_sequencedKeySet 3 (some (.object "java/util/SequencedSet"))) 4 74 [gr a0] h cvR r hf := by
  refine gMet.of ho hs (plainFor_of_name pn_J24) rfl rfl (gbl rfl) fun X => ?_
  show gT G l X mJ24_sequencedKeySet cvR r hf 0 [(0, gr a0)] [] h (sJ24_sequencedKeySet G N a0 h)
  delta sJ24_sequencedKeySet
  refine g_aload_n (pc := 0) (x := a0) 0 rfl rfl dJ24_sequencedKeySet_0 ?_
  refine g_getfr (pc := 1) k_26 (gblt rfl) lk_J24_117_26 dJ24_sequencedKeySet_1 fun v1 => ?_
  refine g_astore_n (pc := 4) (lv' := [(1, gr v1), (0, gr a0)]) [0, 1] rfl rfl (gblt rfl) dJ24_sequencedKeySet_4 ?_
  refine g_aload_n (pc := 5) (x := v1) 0 rfl rfl dJ24_sequencedKeySet_5 ?_
  refine g_ifnonnull (pc := 6) (tgt := 26) rfl dJ24_sequencedKeySet_6 ?_ ?_
  rotate_left
  · refine g_aload_n (pc := 26) (x := v1) 0 rfl rfl dJ24_sequencedKeySet_26 ?_
    refine g_checkcast (pc := 27) q1932 as_31_java_util_SequencedSet dJ24_sequencedKeySet_27 ?_
    exact g_areturn (pc := 30) rfl (Or.inl ⟨_, rfl⟩) dJ24_sequencedKeySet_30
  refine g_new (pc := 9) k_31 df_31 q1916 q1917 q179 dJ24_sequencedKeySet_9 fun v2 h3 => ?_
  refine g_dup (pc := 12) rfl dJ24_sequencedKeySet_12 ?_
  refine g_aload_n (pc := 13) (x := a0) 1 rfl rfl dJ24_sequencedKeySet_13 ?_
  refine g_iconst (pc := 14) (v := (0 : Int32)) ic_0 dJ24_sequencedKeySet_14 ?_
  refine g_bIu (pc := 15) (y := yJ37_init) (ws := ws_ yJ37_init cJ37_init 3 none) (fr := 3) (lo := 52) (as := [gr a0, gi (0 : Int32)]) (st := [gr v2]) (g_no) rfl (fun _ _ _ e => tJ37_init hs e) (fun K _ _ _ hM R e1 e2 => g_runI (M := mJ24_sequencedKeySet) (pc := 15) (y := yJ37_init) (bytes := cJ37_init) (maxL := 3) (ret := none) (fr := 3) (lo := 52) (as := [gr a0, gi (0 : Int32)]) (st := [gr v2]) gy_J37_init (gbl rfl) (gbl rfl) (gbl rfl) rfl q1918 q1919 rfl dJ24_sequencedKeySet_15 K hM R e1 e2) fun v4 h5 => ?_
  refine g_astore_n (pc := 18) (lv' := [(2, gr v2), (0, gr a0)]) [0, 2] rfl rfl (gblt rfl) dJ24_sequencedKeySet_18 ?_
  refine g_aload_n (pc := 19) (x := a0) 1 rfl rfl dJ24_sequencedKeySet_19 ?_
  refine g_aload_n (pc := 20) (x := v2) 0 rfl rfl dJ24_sequencedKeySet_20 ?_
  refine g_put (pc := 21) k_26 (gblt rfl) lk_J24_117_26 rfl rfl (gNr _ _) dJ24_sequencedKeySet_21 fun h6 => ?_
  refine g_aload_n (pc := 24) (x := v2) 0 rfl rfl dJ24_sequencedKeySet_24 ?_
  exact g_areturn (pc := 25) rfl (Or.inl ⟨_, rfl⟩) dJ24_sequencedKeySet_25
/-! java/util/LinkedHashMap.keySet()Ljava/util/Set; -/
noncomputable def sJ24_keySet (G : GG) (N : Nat) (a0 : Option Nat) (h : Hp) : Out (Option Nat) :=
  bV h a0 26 (fun q3 => sJ24_sequencedKeySet G N (some q3) h) fun v1 h2 =>
  some (.inl v1, h2)
abbrev mJ24_keySet : MI := (RJ24, cJ24_keySet, 1, (some (.object "java/util/Set")), [], 5, 96, "keySet")
theorem tJ24_keySet {G : GG} {l : Launch} (hs : l.stackTraces = false) {N : Nat} {a0 : Option Nat} {h : Hp} {r : Option Nat ⊕ Nat} {hf : Hp} (ho : sJ24_keySet G N a0 h = some (r, hf)) : gMet G l yJ24_keySet (ws_ yJ24_keySet cJ24_keySet 1 (some (.object "java/util/Set"))) 5 96 [gr a0] h cvR r hf := by
  refine gMet.of ho hs (plainFor_of_name pn_J24) rfl rfl (gbl rfl) fun X => ?_
  show gT G l X mJ24_keySet cvR r hf 0 [(0, gr a0)] [] h (sJ24_keySet G N a0 h)
  delta sJ24_keySet
  refine g_aload_n (pc := 0) (x := a0) 0 rfl rfl dJ24_keySet_0 ?_
  refine g_bVr (pc := 1) (y := yJ24_sequencedKeySet) (ws := ws_ yJ24_sequencedKeySet cJ24_sequencedKeySet 3 (some (.object "java/util/SequencedSet"))) (fr := 4) (lo := 74) (as := []) (st := []) (g_no) rfl (fun _ _ _ e => tJ24_sequencedKeySet hs e) (fun K _ _ _ hq hM R e1 e2 => g_runV (M := mJ24_keySet) (pc := 1) (y := yJ24_sequencedKeySet) (bytes := cJ24_sequencedKeySet) (maxL := 3) (ret := (some (.object "java/util/SequencedSet"))) (fr := 4) (lo := 74) (as := []) (st := []) hq (C := "java/util/LinkedHashMap") rfl gy_J24_sequencedKeySet (gbl rfl) (gbl rfl) (gbl rfl) q1912 q1913 q1914 dJ24_keySet_1 K hM R e1 e2) fun v1 h2 => ?_
  exact g_areturn (pc := 4) rfl (Or.inl ⟨_, rfl⟩) dJ24_keySet_4
/-! java/util/LinkedHashMap$LinkedHashIterator.<init>(Ljava/util/LinkedHashMap;Z)V -/
noncomputable def sJ31_init_c30 (G : GG) (N : Nat) (a0 : Option Nat) (a1 : Option Nat) (a2 : Int32) (h : Hp) : Out (Unit) :=
  gP G h a0 30 4 (va_rf a1) fun h1 =>
  gNN a0 (gPz G h1 a0 30 3 a2 fun h2 =>
  gJ (fun (x3 : Option Nat) (h4 : Hp) =>
  gP G h4 a0 30 0 (va_rf x3) fun h6 =>
  gFi h6 a1 26 3 fun v7 =>
  gP G h6 a0 30 2 (.int v7) fun h8 =>
  gP G h8 a0 30 1 (va_rf none) fun h9 =>
  some (.inl (), h9)) fun j5 =>
  if a2 = 0 then (gFr h2 a1 26 8 fun v10 =>
  j5 v10 h2)
  else gFr h2 a1 26 9 fun v11 =>
  j5 v11 h2)
abbrev mJ31_init_c30 : MI := (RJ31, cJ31_init, 3, none, [], 1, 12, "<init>")
theorem tJ31_init_c30 {G : GG} {l : Launch} (hs : l.stackTraces = false) {N : Nat} {a0 : Option Nat} {a1 : Option Nat} {a2 : Int32} {h : Hp} {r : Unit ⊕ Nat} {hf : Hp} (ho : sJ31_init_c30 G N a0 a1 a2 h = some (r, hf)) : gMet G l yJ31_init (ws_ yJ31_init cJ31_init 3 none) 1 12 [gr a0, gr a1, gi a2] h cvU r hf := by
  refine gMet.of ho hs (plainFor_of_name pn_J31) rfl rfl (gbl rfl) fun X => ?_
  show gT G l X mJ31_init_c30 cvU r hf 0 [(0, gr a0), (1, gr a1), (2, gi a2)] [] h (sJ31_init_c30 G N a0 a1 a2 h)
  delta sJ31_init_c30
  refine g_aload_n (pc := 0) (x := a0) 0 rfl rfl dJ31_init_0 ?_
  refine g_aload_n (pc := 1) (x := a1) 1 rfl rfl dJ31_init_1 ?_
  refine g_putFin (pc := 2) k_30 (gblt rfl) lk_J31_1_30 q1852 rfl rfl rfl rfl (gNr _ _) dJ31_init_2 fun h1 => ?_
  refine g_aload_n (pc := 5) (x := a0) 0 rfl rfl dJ31_init_5 ?_
  refine g_objInit' (pc := 6) q1847 oi_in oi_code (gbl rfl) (gbl rfl) dJ31_init_6 ?_
  refine g_aload_n (pc := 9) (x := a0) 0 rfl rfl dJ31_init_9 ?_
  refine g_iload_n (pc := 10) (x := a2) 2 rfl rfl dJ31_init_10 ?_
  refine g_putz (pc := 11) k_30 (gblt rfl) lk_J31_13_30 rfl rfl dJ31_init_11 fun h2 => ?_
  refine g_aload_n (pc := 14) (x := a0) 0 rfl rfl dJ31_init_14 ?_
  refine g_iload_n (pc := 15) (x := a2) 2 rfl rfl dJ31_init_15 ?_
  refine g_join 30 (fun (x3 : Option Nat) => [(0, gr a0), (1, gr a1)]) (fun (x3 : Option Nat) => [gr x3, gr a0]) (fun x3 h4 => ?_) (fun j5 Hj5 => ?_)
  · refine g_put (pc := 30) k_30 (gblt rfl) lk_J31_26_30 rfl rfl (gNr _ _) dJ31_init_30 fun h6 => ?_
    refine g_aload_n (pc := 33) (x := a0) 0 rfl rfl dJ31_init_33 ?_
    refine g_aload_n (pc := 34) (x := a1) 1 rfl rfl dJ31_init_34 ?_
    refine g_getfi (pc := 35) k_26 (gblt rfl) lk_J31_29_26 dJ31_init_35 fun v7 => ?_
    refine g_put (pc := 38) k_30 (gblt rfl) lk_J31_33_30 rfl rfl (gNi _) dJ31_init_38 fun h8 => ?_
    refine g_aload_n (pc := 41) (x := a0) 0 rfl rfl dJ31_init_41 ?_
    refine g_aconst_null (pc := 42) dJ31_init_42 ?_
    refine g_put (pc := 43) k_30 (gblt rfl) lk_J31_36_30 rfl rfl (gNr _ _) dJ31_init_43 fun h9 => ?_
    exact g_return (pc := 46) rfl dJ31_init_46
  refine g_if_eq (pc := 16) (tgt := 26) rfl dJ31_init_16 ?_ ?_
  · refine g_aload_n (pc := 26) (x := a1) 1 rfl rfl dJ31_init_26 ?_
    refine g_getfr (pc := 27) k_26 (gblt rfl) lk_J31_23_26 dJ31_init_27 fun v10 => ?_
    exact g_sub [0, 1] rfl (Hj5 v10 h2)
  refine g_aload_n (pc := 19) (x := a1) 1 rfl rfl dJ31_init_19 ?_
  refine g_getfr (pc := 20) k_26 (gblt rfl) lk_J31_17_26 dJ31_init_20 fun v11 => ?_
  refine g_goto (pc := 23) (tgt := 30) rfl dJ31_init_23 ?_
  exact g_sub [0, 1] rfl (Hj5 v11 h2)
/-! java/util/LinkedHashMap$LinkedKeyIterator.<init>(Ljava/util/LinkedHashMap;Z)V -/
noncomputable def sJ33_init (G : GG) (N : Nat) (a0 : Option Nat) (a1 : Option Nat) (a2 : Int32) (h : Hp) : Out (Unit) :=
  bI a0 (fun q3 => sJ31_init_c30 G N (some q3) a1 a2 h) fun v1 h2 =>
  some (.inl (), h2)
abbrev mJ33_init : MI := (RJ33, cJ33_init, 3, none, [], 2, 34, "<init>")
theorem tJ33_init {G : GG} {l : Launch} (hs : l.stackTraces = false) {N : Nat} {a0 : Option Nat} {a1 : Option Nat} {a2 : Int32} {h : Hp} {r : Unit ⊕ Nat} {hf : Hp} (ho : sJ33_init G N a0 a1 a2 h = some (r, hf)) : gMet G l yJ33_init (ws_ yJ33_init cJ33_init 3 none) 2 34 [gr a0, gr a1, gi a2] h cvU r hf := by
  refine gMet.of ho hs (plainFor_of_name pn_J33) rfl rfl (gbl rfl) fun X => ?_
  show gT G l X mJ33_init cvU r hf 0 [(0, gr a0), (1, gr a1), (2, gi a2)] [] h (sJ33_init G N a0 a1 a2 h)
  delta sJ33_init
  refine g_aload_n (pc := 0) (x := a0) 0 rfl rfl dJ33_init_0 ?_
  refine g_aload_n (pc := 1) (x := a1) 1 rfl rfl dJ33_init_1 ?_
  refine g_iload_n (pc := 2) (x := a2) 2 rfl rfl dJ33_init_2 ?_
  refine g_bIu (pc := 3) (y := yJ31_init) (ws := ws_ yJ31_init cJ31_init 3 none) (fr := 1) (lo := 12) (as := [gr a1, gi a2]) (st := []) (g_no) rfl (fun _ _ _ e => tJ31_init_c30 hs e) (fun K _ _ _ hM R e1 e2 => g_runI (M := mJ33_init) (pc := 3) (y := yJ31_init) (bytes := cJ31_init) (maxL := 3) (ret := none) (fr := 1) (lo := 12) (as := [gr a1, gi a2]) (st := []) gy_J31_init (gbl rfl) (gbl rfl) (gbl rfl) rfl q1875 q1845 rfl dJ33_init_3 K hM R e1 e2) fun v1 h2 => ?_
  exact g_return (pc := 6) rfl dJ33_init_6
/-! java/util/LinkedHashMap$LinkedKeySet.iterator()Ljava/util/Iterator; -/
noncomputable def sJ37_iterator (G : GG) (N : Nat) (a0 : Option Nat) (h : Hp) : Out (Option Nat) :=
  gNew h 30 [.null, .null, .int 0, .int 0, .null] 5 fun v1 h2 =>
  gFr h2 a0 31 1 fun v3 =>
  gFi h2 a0 31 0 fun v4 =>
  bI v1 (fun q7 => sJ33_init G N (some q7) v3 v4 h2) fun v5 h6 =>
  some (.inl v1, h6)
abbrev mJ37_iterator : MI := (RJ37, cJ37_iterator, 1, (some (.object "java/util/Iterator")), [], 3, 56, "iterator")
theorem tJ37_iterator {G : GG} {l : Launch} (hs : l.stackTraces = false) {N : Nat} {a0 : Option Nat} {h : Hp} {r : Option Nat ⊕ Nat} {hf : Hp} (ho : sJ37_iterator G N a0 h = some (r, hf)) : gMet G l yJ37_iterator (ws_ yJ37_iterator cJ37_iterator 1 (some (.object "java/util/Iterator"))) 3 56 [gr a0] h cvR r hf := by
  refine gMet.of ho hs (plainFor_of_name pn_J37) rfl rfl (gbl rfl) fun X => ?_
  show gT G l X mJ37_iterator cvR r hf 0 [(0, gr a0)] [] h (sJ37_iterator G N a0 h)
  delta sJ37_iterator
  refine g_new (pc := 0) k_30 df_30 q1870 q1871 q175 dJ37_iterator_0 fun v1 h2 => ?_
  refine g_dup (pc := 3) rfl dJ37_iterator_3 ?_
  refine g_aload_n (pc := 4) (x := a0) 0 rfl rfl dJ37_iterator_4 ?_
  refine g_getfr (pc := 5) k_31 (gblt rfl) lk_J37_1_31 dJ37_iterator_5 fun v3 => ?_
  refine g_aload_n (pc := 8) (x := a0) 0 rfl rfl dJ37_iterator_8 ?_
  refine g_getfi (pc := 9) k_31 (gblt rfl) lk_J37_13_31 dJ37_iterator_9 fun v4 => ?_
  refine g_bIu (pc := 12) (y := yJ33_init) (ws := ws_ yJ33_init cJ33_init 3 none) (fr := 2) (lo := 34) (as := [gr v3, gi v4]) (st := [gr v1]) (g_no) rfl (fun _ _ _ e => tJ33_init hs e) (fun K _ _ _ hM R e1 e2 => g_runI (M := mJ37_iterator) (pc := 12) (y := yJ33_init) (bytes := cJ33_init) (maxL := 3) (ret := none) (fr := 2) (lo := 34) (as := [gr v3, gi v4]) (st := [gr v1]) gy_J33_init (gbl rfl) (gbl rfl) (gbl rfl) rfl q1872 q1873 rfl dJ37_iterator_12 K hM R e1 e2) fun v5 h6 => ?_
  exact g_areturn (pc := 15) rfl (Or.inl ⟨_, rfl⟩) dJ37_iterator_15
/-! java/util/LinkedHashMap$LinkedHashIterator.hasNext()Z -/
noncomputable def sJ31_hasNext_c30 (G : GG) (N : Nat) (a0 : Option Nat) (h : Hp) : Out (Int32) :=
  gFr h a0 30 0 fun v1 =>
  if v1 = none then (gRtZ (0 : Int32) h)
  else gRtZ (1 : Int32) h
abbrev mJ31_hasNext_c30 : MI := (RJ31, cJ31_hasNext, 1, (some .boolean), [], 0, 0, "hasNext")
theorem tJ31_hasNext_c30 {G : GG} {l : Launch} (hs : l.stackTraces = false) {N : Nat} {a0 : Option Nat} {h : Hp} {r : Int32 ⊕ Nat} {hf : Hp} (ho : sJ31_hasNext_c30 G N a0 h = some (r, hf)) : gMet G l yJ31_hasNext (ws_ yJ31_hasNext cJ31_hasNext 1 (some .boolean)) 0 0 [gr a0] h cvI r hf := by
  refine gMet.of ho hs (plainFor_of_name pn_J31) rfl rfl (gbl rfl) fun X => ?_
  show gT G l X mJ31_hasNext_c30 cvI r hf 0 [(0, gr a0)] [] h (sJ31_hasNext_c30 G N a0 h)
  delta sJ31_hasNext_c30
  refine g_aload_n (pc := 0) (x := a0) 0 rfl rfl dJ31_hasNext_0 ?_
  refine g_getfr (pc := 1) k_30 (gblt rfl) lk_J31_26_30 dJ31_hasNext_1 fun v1 => ?_
  refine g_ifnull (pc := 4) (tgt := 11) rfl dJ31_hasNext_4 ?_ ?_
  · refine g_iconst (pc := 11) (v := (0 : Int32)) ic_0 dJ31_hasNext_11 ?_
    exact g_zreturn (pc := 12) rfl dJ31_hasNext_12
  refine g_iconst (pc := 7) (v := (1 : Int32)) ic_1 dJ31_hasNext_7 ?_
  refine g_goto (pc := 8) (tgt := 12) rfl dJ31_hasNext_8 ?_
  exact g_zreturn (pc := 12) rfl dJ31_hasNext_12
/-! java/util/LinkedHashMap$LinkedHashIterator.nextNode()Ljava/util/LinkedHashMap$Entry; -/
noncomputable def sJ31_nextNode_c30 (G : GG) (N : Nat) (a0 : Option Nat) (h : Hp) : Out (Option Nat) :=
  gFr h a0 30 0 fun v1 =>
  gFr h a0 30 4 fun v2 =>
  gFi h v2 26 3 fun v3 =>
  gFi h a0 30 2 fun v4 =>
  if v3 = v4 then (if v1 = none then (none)
  else gP G h a0 30 1 (va_rf v1) fun h5 =>
  gFi h5 a0 30 3 fun v6 =>
  gJ (fun (x7 : Option Nat) (h8 : Hp) =>
  gP G h8 a0 30 0 (va_rf x7) fun h10 =>
  some (.inl v1, h10)) fun j9 =>
  if v6 = 0 then (gFr h5 v1 27 5 fun v11 =>
  j9 v11 h5)
  else gFr h5 v1 27 4 fun v12 =>
  j9 v12 h5)
  else none
abbrev mJ31_nextNode_c30 : MI := (RJ31, cJ31_nextNode, 2, (some (.object "java/util/LinkedHashMap$Entry")), [], 0, 0, "nextNode")
theorem tJ31_nextNode_c30 {G : GG} {l : Launch} (hs : l.stackTraces = false) {N : Nat} {a0 : Option Nat} {h : Hp} {r : Option Nat ⊕ Nat} {hf : Hp} (ho : sJ31_nextNode_c30 G N a0 h = some (r, hf)) : gMet G l yJ31_nextNode (ws_ yJ31_nextNode cJ31_nextNode 2 (some (.object "java/util/LinkedHashMap$Entry"))) 0 0 [gr a0] h cvR r hf := by
  refine gMet.of ho hs (plainFor_of_name pn_J31) rfl rfl (gbl rfl) fun X => ?_
  show gT G l X mJ31_nextNode_c30 cvR r hf 0 [(0, gr a0)] [] h (sJ31_nextNode_c30 G N a0 h)
  delta sJ31_nextNode_c30
  refine g_aload_n (pc := 0) (x := a0) 0 rfl rfl dJ31_nextNode_0 ?_
  refine g_getfr (pc := 1) k_30 (gblt rfl) lk_J31_26_30 dJ31_nextNode_1 fun v1 => ?_
  refine g_astore_n (pc := 4) (lv' := [(1, gr v1), (0, gr a0)]) [0, 1] rfl rfl (gblt rfl) dJ31_nextNode_4 ?_
  refine g_aload_n (pc := 5) (x := a0) 1 rfl rfl dJ31_nextNode_5 ?_
  refine g_getfr (pc := 6) k_30 (gblt rfl) lk_J31_1_30 dJ31_nextNode_6 fun v2 => ?_
  refine g_getfi (pc := 9) k_26 (gblt rfl) lk_J31_29_26 dJ31_nextNode_9 fun v3 => ?_
  refine g_aload_n (pc := 12) (x := a0) 1 rfl rfl dJ31_nextNode_12 ?_
  refine g_getfi (pc := 13) k_30 (gblt rfl) lk_J31_33_30 dJ31_nextNode_13 fun v4 => ?_
  refine g_icmp_eq (pc := 16) (tgt := 27) rfl dJ31_nextNode_16 ?_ ?_
  rotate_left
  · exact g_none
  refine g_aload_n (pc := 27) (x := v1) 0 rfl rfl dJ31_nextNode_27 ?_
  refine g_ifnonnull (pc := 28) (tgt := 39) rfl dJ31_nextNode_28 ?_ ?_
  · exact g_none
  refine g_aload_n (pc := 39) (x := a0) 1 rfl rfl dJ31_nextNode_39 ?_
  refine g_aload_n (pc := 40) (x := v1) 0 rfl rfl dJ31_nextNode_40 ?_
  refine g_put (pc := 41) k_30 (gblt rfl) lk_J31_36_30 rfl rfl (gNr _ _) dJ31_nextNode_41 fun h5 => ?_
  refine g_aload_n (pc := 44) (x := a0) 1 rfl rfl dJ31_nextNode_44 ?_
  refine g_aload_n (pc := 45) (x := a0) 1 rfl rfl dJ31_nextNode_45 ?_
  refine g_getfi (pc := 46) k_30 (gblt rfl) lk_J31_13_30 dJ31_nextNode_46 fun v6 => ?_
  refine g_join 63 (fun (x7 : Option Nat) => [(1, gr v1)]) (fun (x7 : Option Nat) => [gr x7, gr a0]) (fun x7 h8 => ?_) (fun j9 Hj9 => ?_)
  · refine g_put (pc := 63) k_30 (gblt rfl) lk_J31_26_30 rfl rfl (gNr _ _) dJ31_nextNode_63 fun h10 => ?_
    refine g_aload_n (pc := 66) (x := v1) 0 rfl rfl dJ31_nextNode_66 ?_
    exact g_areturn (pc := 67) rfl (Or.inl ⟨_, rfl⟩) dJ31_nextNode_67
  refine g_if_eq (pc := 49) (tgt := 59) rfl dJ31_nextNode_49 ?_ ?_
  · refine g_aload_n (pc := 59) (x := v1) 0 rfl rfl dJ31_nextNode_59 ?_
    refine g_getfr (pc := 60) k_27 (gblt rfl) lk_J31_50_27 dJ31_nextNode_60 fun v11 => ?_
    exact g_sub [0] rfl (Hj9 v11 h5)
  refine g_aload_n (pc := 52) (x := v1) 0 rfl rfl dJ31_nextNode_52 ?_
  refine g_getfr (pc := 53) k_27 (gblt rfl) lk_J31_45_27 dJ31_nextNode_53 fun v12 => ?_
  refine g_goto (pc := 56) (tgt := 63) rfl dJ31_nextNode_56 ?_
  exact g_sub [0] rfl (Hj9 v12 h5)
/-! java/util/HashMap$Node.getKey()Ljava/lang/Object; -/
noncomputable def sJ47_getKey_c27 (G : GG) (N : Nat) (a0 : Option Nat) (h : Hp) : Out (Option Nat) :=
  gFr h a0 27 1 fun v1 =>
  some (.inl v1, h)
abbrev mJ47_getKey_c27 : MI := (RJ47, cJ47_getKey, 1, (some (.object "java/lang/Object")), [], 0, 0, "getKey")
theorem tJ47_getKey_c27 {G : GG} {l : Launch} (hs : l.stackTraces = false) {N : Nat} {a0 : Option Nat} {h : Hp} {r : Option Nat ⊕ Nat} {hf : Hp} (ho : sJ47_getKey_c27 G N a0 h = some (r, hf)) : gMet G l yJ47_getKey (ws_ yJ47_getKey cJ47_getKey 1 (some (.object "java/lang/Object"))) 0 0 [gr a0] h cvR r hf := by
  refine gMet.of ho hs (plainFor_of_name pn_J47) rfl rfl (gbl rfl) fun X => ?_
  show gT G l X mJ47_getKey_c27 cvR r hf 0 [(0, gr a0)] [] h (sJ47_getKey_c27 G N a0 h)
  delta sJ47_getKey_c27
  refine g_aload_n (pc := 0) (x := a0) 0 rfl rfl dJ47_getKey_0 ?_
  refine g_getfr (pc := 1) k_27 (gblt rfl) lk_J47_13_27 dJ47_getKey_1 fun v1 => ?_
  exact g_areturn (pc := 4) rfl (Or.inl ⟨_, rfl⟩) dJ47_getKey_4
/-! java/util/LinkedHashMap$LinkedKeyIterator.next()Ljava/lang/Object; -/
noncomputable def sJ33_next (G : GG) (N : Nat) (a0 : Option Nat) (h : Hp) : Out (Option Nat) :=
  bV h a0 30 (fun q6 => sJ31_nextNode_c30 G N (some q6) h) fun v1 h2 =>
  bV h2 v1 27 (fun q5 => sJ47_getKey_c27 G N (some q5) h2) fun v3 h4 =>
  some (.inl v3, h4)
abbrev mJ33_next : MI := (RJ33, cJ33_next, 1, (some (.object "java/lang/Object")), [], 1, 21, "next")
theorem tJ33_next {G : GG} {l : Launch} (hs : l.stackTraces = false) {N : Nat} {a0 : Option Nat} {h : Hp} {r : Option Nat ⊕ Nat} {hf : Hp} (ho : sJ33_next G N a0 h = some (r, hf)) : gMet G l yJ33_next (ws_ yJ33_next cJ33_next 1 (some (.object "java/lang/Object"))) 1 21 [gr a0] h cvR r hf := by
  refine gMet.of ho hs (plainFor_of_name pn_J33) rfl rfl (gbl rfl) fun X => ?_
  show gT G l X mJ33_next cvR r hf 0 [(0, gr a0)] [] h (sJ33_next G N a0 h)
  delta sJ33_next
  refine g_aload_n (pc := 0) (x := a0) 0 rfl rfl dJ33_next_0 ?_
  refine g_bVr (pc := 1) (y := yJ31_nextNode) (ws := ws_ yJ31_nextNode cJ31_nextNode 2 (some (.object "java/util/LinkedHashMap$Entry"))) (fr := 0) (lo := 0) (as := []) (st := []) (g_no) rfl (fun _ _ _ e => tJ31_nextNode_c30 hs e) (fun K _ _ _ hq hM R e1 e2 => g_runU (x := ⟨"java/util/LinkedHashMap$LinkedKeyIterator", "nextNode", "()Ljava/util/LinkedHashMap$Entry;"⟩) (owner := "java/util/LinkedHashMap$LinkedHashIterator") (M := mJ33_next) (pc := 1) (y := yJ31_nextNode) (bytes := cJ31_nextNode) (maxL := 2) (ret := (some (.object "java/util/LinkedHashMap$Entry"))) (fr := 0) (lo := 0) (as := []) (st := []) hq (C := "java/util/LinkedHashMap$LinkedKeyIterator") rfl gy_J31_nextNode rfl (gbl rfl) (gbl rfl) (gbl rfl) q1591 q1592 ⟨q1584, _, _, _, q1585⟩ mhx_java_util_LinkedHashMap_LinkedHashIterator q1593 q1584 dJ33_next_1 K hM R e1 e2) fun v1 h2 => ?_
  refine g_bVr (pc := 4) (y := yJ47_getKey) (ws := ws_ yJ47_getKey cJ47_getKey 1 (some (.object "java/lang/Object"))) (fr := 0) (lo := 0) (as := []) (st := []) (g_no) rfl (fun _ _ _ e => tJ47_getKey_c27 hs e) (fun K _ _ _ hq hM R e1 e2 => g_runU (x := ⟨"java/util/LinkedHashMap$Entry", "getKey", "()Ljava/lang/Object;"⟩) (owner := "java/util/HashMap$Node") (M := mJ33_next) (pc := 4) (y := yJ47_getKey) (bytes := cJ47_getKey) (maxL := 1) (ret := (some (.object "java/lang/Object"))) (fr := 0) (lo := 0) (as := []) (st := []) hq (C := "java/util/LinkedHashMap$Entry") rfl gy_J47_getKey rfl (gbl rfl) (gbl rfl) (gbl rfl) q1594 q1595 ⟨q1599, _, _, _, q1600⟩ mhx_java_util_HashMap_Node q1598 q1599 dJ33_next_4 K hM R e1 e2) fun v3 h4 => ?_
  exact g_areturn (pc := 7) rfl (Or.inl ⟨_, rfl⟩) dJ33_next_7
/-! java/lang/Number.<init>()V -/
noncomputable def sJ19_init_c19 (G : GG) (N : Nat) (a0 : Option Nat) (h : Hp) : Out (Unit) :=
  gNN a0 (some (.inl (), h))
abbrev mJ19_init_c19 : MI := (RJ19, cJ19_init, 1, none, [], 1, 12, "<init>")
theorem tJ19_init_c19 {G : GG} {l : Launch} (hs : l.stackTraces = false) {N : Nat} {a0 : Option Nat} {h : Hp} {r : Unit ⊕ Nat} {hf : Hp} (ho : sJ19_init_c19 G N a0 h = some (r, hf)) : gMet G l yJ19_init (ws_ yJ19_init cJ19_init 1 none) 1 12 [gr a0] h cvU r hf := by
  refine gMet.of ho hs (plainFor_of_name pn_J19) rfl rfl (gbl rfl) fun X => ?_
  show gT G l X mJ19_init_c19 cvU r hf 0 [(0, gr a0)] [] h (sJ19_init_c19 G N a0 h)
  delta sJ19_init_c19
  refine g_aload_n (pc := 0) (x := a0) 0 rfl rfl dJ19_init_0 ?_
  refine g_objInit' (pc := 1) q2799 oi_in oi_code (gbl rfl) (gbl rfl) dJ19_init_1 ?_
  exact g_return (pc := 4) rfl dJ19_init_4
/-! java/lang/Integer.<init>(I)V -/
noncomputable def sJ20_init (G : GG) (N : Nat) (a0 : Option Nat) (a1 : Int32) (h : Hp) : Out (Unit) :=
  bI a0 (fun q4 => sJ19_init_c19 G N (some q4) h) fun v1 h2 =>
  gP G h2 a0 19 0 (.int a1) fun h3 =>
  some (.inl (), h3)
abbrev mJ20_init : MI := (RJ20, cJ20_init, 2, none, [], 2, 32, "<init>")
theorem tJ20_init {G : GG} {l : Launch} (hs : l.stackTraces = false) {N : Nat} {a0 : Option Nat} {a1 : Int32} {h : Hp} {r : Unit ⊕ Nat} {hf : Hp} (ho : sJ20_init G N a0 a1 h = some (r, hf)) : gMet G l yJ20_init (ws_ yJ20_init cJ20_init 2 none) 2 32 [gr a0, gi a1] h cvU r hf := by
  refine gMet.of ho hs (plainFor_of_name pn_J20) rfl rfl (gbl rfl) fun X => ?_
  show gT G l X mJ20_init cvU r hf 0 [(0, gr a0), (1, gi a1)] [] h (sJ20_init G N a0 a1 h)
  delta sJ20_init
  refine g_aload_n (pc := 0) (x := a0) 0 rfl rfl dJ20_init_0 ?_
  refine g_bIu (pc := 1) (y := yJ19_init) (ws := ws_ yJ19_init cJ19_init 1 none) (fr := 1) (lo := 12) (as := []) (st := []) (g_no) rfl (fun _ _ _ e => tJ19_init_c19 hs e) (fun K _ _ _ hM R e1 e2 => g_runI (M := mJ20_init) (pc := 1) (y := yJ19_init) (bytes := cJ19_init) (maxL := 1) (ret := none) (fr := 1) (lo := 12) (as := []) (st := []) gy_J19_init (gbl rfl) (gbl rfl) (gbl rfl) rfl q2796 q2797 rfl dJ20_init_1 K hM R e1 e2) fun v1 h2 => ?_
  refine g_aload_n (pc := 4) (x := a0) 0 rfl rfl dJ20_init_4 ?_
  refine g_iload_n (pc := 5) (x := a1) 1 rfl rfl dJ20_init_5 ?_
  refine g_putFin (pc := 6) k_19 (gblt rfl) lk_J20_205_19 q2800 rfl rfl rfl rfl (gNi _) dJ20_init_6 fun h3 => ?_
  exact g_return (pc := 9) rfl dJ20_init_9
/-! java/lang/Integer.valueOf(I)Ljava/lang/Integer; -/
noncomputable def sJ20_valueOf (G : GG) (N : Nat) (a0 : Int32) (h : Hp) : Out (Option Nat) :=
  gJ (fun (x1 : Unit) (h2 : Hp) =>
  gNew h2 19 [.int 0] 1 fun v4 h5 =>
  bI v4 (fun q8 => sJ20_init G N (some q8) a0 h5) fun v6 h7 =>
  some (.inl v4, h7)) fun j3 =>
  if a0 < (-128 : Int32) then (j3 () h)
  else if (127 : Int32) < a0 then (j3 () h)
  else gAr h (some (G.2.2.2.2 10)) 9 (a0 + (128 : Int32)) fun v9 =>
  some (.inl v9, h)
abbrev mJ20_valueOf : MI := (RJ20, cJ20_valueOf, 1, (some (.object "java/lang/Integer")), [], 3, 53, "valueOf")
theorem tJ20_valueOf {G : GG} {l : Launch} (hs : l.stackTraces = false) {N : Nat} {a0 : Int32} {h : Hp} {r : Option Nat ⊕ Nat} {hf : Hp} (ho : sJ20_valueOf G N a0 h = some (r, hf)) : gMet G l yJ20_valueOf (ws_ yJ20_valueOf cJ20_valueOf 1 (some (.object "java/lang/Integer"))) 3 53 [gi a0] h cvR r hf := by
  refine gMet.of ho hs (plainFor_of_name pn_J20) rfl rfl (gbl rfl) fun X => ?_
  show gT G l X mJ20_valueOf cvR r hf 0 [(0, gi a0)] [] h (sJ20_valueOf G N a0 h)
  delta sJ20_valueOf
  refine g_iload_n (pc := 0) (x := a0) 0 rfl rfl dJ20_valueOf_0 ?_
  refine g_bipush (pc := 1) (v := (-128 : Int32)) bc_m128 dJ20_valueOf_1 ?_
  refine g_join 23 (fun (x1 : Unit) => [(0, gi a0)]) (fun (x1 : Unit) => []) (fun x1 h2 => ?_) (fun j3 Hj3 => ?_)
  · refine g_new (pc := 23) k_19 df_19 q2087 q2792 q157 dJ20_valueOf_23 fun v4 h5 => ?_
    refine g_dup (pc := 26) rfl dJ20_valueOf_26 ?_
    refine g_iload_n (pc := 27) (x := a0) 0 rfl rfl dJ20_valueOf_27 ?_
    refine g_bIu (pc := 28) (y := yJ20_init) (ws := ws_ yJ20_init cJ20_init 2 none) (fr := 2) (lo := 32) (as := [gi a0]) (st := [gr v4]) (g_no) rfl (fun _ _ _ e => tJ20_init hs e) (fun K _ _ _ hM R e1 e2 => g_runI (M := mJ20_valueOf) (pc := 28) (y := yJ20_init) (bytes := cJ20_init) (maxL := 2) (ret := none) (fr := 2) (lo := 32) (as := [gi a0]) (st := [gr v4]) gy_J20_init (gbl rfl) (gbl rfl) (gbl rfl) rfl q2793 q2794 rfl dJ20_valueOf_28 K hM R e1 e2) fun v6 h7 => ?_
    exact g_areturn (pc := 31) rfl (Or.inl ⟨_, rfl⟩) dJ20_valueOf_31
  refine g_icmp_lt (pc := 3) (tgt := 23) rfl dJ20_valueOf_3 ?_ ?_
  · exact Hj3 () h
  refine g_iload_n (pc := 6) (x := a0) 0 rfl rfl dJ20_valueOf_6 ?_
  refine g_gets (pc := 7) (sv := .inl (.int 127)) (w := gi (127 : Int32)) sfl_5 rfl ⟨Or.inl q2788, Or.inl rfl⟩ dJ20_valueOf_7 ?_
  refine g_icmp_gt (pc := 10) (tgt := 23) rfl dJ20_valueOf_10 ?_ ?_
  · exact Hj3 () h
  refine g_gets (pc := 13) (sv := .inr 10) (w := gr (some (G.2.2.2.2 10))) sfl_6 rfl ⟨Or.inl q2790, Or.inl rfl⟩ dJ20_valueOf_13 ?_
  refine g_iload_n (pc := 16) (x := a0) 0 rfl rfl dJ20_valueOf_16 ?_
  refine g_sipush (pc := 17) (v := (128 : Int32)) sc_128 dJ20_valueOf_17 ?_
  refine g_iadd (pc := 20) dJ20_valueOf_20 ?_
  refine g_aaload (pc := 21) rfl dJ20_valueOf_21 fun v9 => ?_
  exact g_areturn (pc := 22) rfl (Or.inl ⟨_, rfl⟩) dJ20_valueOf_22
/-! java/util/HashMap.resize()[Ljava/util/HashMap$Node; -/
noncomputable def bJ23_resize_c26_235 (G : GG) (N : Nat) (x2 : Int32) (j28 : (Option Nat × Option Nat × Option Nat × Option Nat) → Hp → Out (Option Nat)) (w38 : (Option Nat × Option Nat × Option Nat × Option Nat × Option Nat) → Hp → Out (Option Nat)) (x36 : Option Nat × Option Nat × Option Nat × Option Nat × Option Nat) (h37 : Hp) : Out (Option Nat) :=
  gFr h37 x36.1 27 3 fun v39 =>
  gFi h37 x36.1 27 0 fun v40 =>
  gJ (fun (x41 : Option Nat × Option Nat × Option Nat × Option Nat) (h42 : Hp) =>
  if v39 = none then (j28 (x41.1, x41.2.1, x41.2.2.1, x41.2.2.2) h42)
  else w38 (v39, x41.1, x41.2.1, x41.2.2.1, x41.2.2.2) h42) fun j43 =>
  if (v40 &&& x2) = 0 then (gJ (fun (x48 : Option Nat) (h49 : Hp) =>
  j43 (x48, x36.1, x36.2.2.2.1, x36.2.2.2.2) h49) fun j50 =>
  if x36.2.2.1 = none then (j50 x36.1 h37)
  else gP G h37 x36.2.2.1 27 3 (va_rf x36.1) fun h51 =>
  j50 x36.2.1 h51)
  else gJ (fun (x44 : Option Nat) (h45 : Hp) =>
  j43 (x36.2.1, x36.2.2.1, x44, x36.1) h45) fun j46 =>
  if x36.2.2.2.2 = none then (j46 x36.1 h37)
  else gP G h37 x36.2.2.2.2 27 3 (va_rf x36.1) fun h47 =>
  j46 x36.2.2.2.1 h47
noncomputable def bJ23_resize_c26_151 (G : GG) (N : Nat) (v1 : Option Nat) (x2 : Int32) (x6 : Int32 × Int32) (v13 : Option Nat) (w18 : (Int32) → Hp → Out (Option Nat)) (x16 : Int32) (h17 : Hp) : Out (Option Nat) :=
  if x2 ≤ x16 then (some (.inl v13, h17))
  else gAr h17 v1 8 x16 fun v19 =>
  gJ (fun (x20 : Unit) (h21 : Hp) =>
  w18 (x16 + (1 : Int32)) h21) fun j22 =>
  if v19 = none then (j22 () h17)
  else gSr G h17 v1 8 asl_java_util_HashMap_Node x16 none fun h23 =>
  gFr h23 v19 27 3 fun v24 =>
  if v24 = none then (gFi h23 v19 27 0 fun v52 =>
  gSr G h23 v13 8 asl_java_util_HashMap_Node (v52 &&& (x6.1 - (1 : Int32))) v19 fun h53 =>
  j22 () h53)
  else gIn h23 v19 [] [27] fun v25 =>
  if v25 = 0 then (gJ (fun (x26 : Option Nat × Option Nat × Option Nat × Option Nat) (h27 : Hp) =>
  gJ (fun (x29 : Unit) (h30 : Hp) =>
  if x26.2.2.2 = none then (j22 () h30)
  else gP G h30 x26.2.2.2 27 3 (va_rf none) fun h32 =>
  gSr G h32 v13 8 asl_java_util_HashMap_Node (x16 + x2) x26.2.2.1 fun h33 =>
  j22 () h33) fun j31 =>
  if x26.2.1 = none then (j31 () h27)
  else gP G h27 x26.2.1 27 3 (va_rf none) fun h34 =>
  gSr G h34 v13 8 asl_java_util_HashMap_Node x16 x26.1 fun h35 =>
  j31 () h35) fun j28 =>
  gLp (bJ23_resize_c26_235 G N x2 j28) N (v19, none, none, none, none) h23)
  else none
noncomputable def sJ23_resize_c26 (G : GG) (N : Nat) (a0 : Option Nat) (h : Hp) : Out (Option Nat) :=
  gFr h a0 26 0 fun v1 =>
  gJ (fun (x2 : Int32) (h3 : Hp) =>
  gFi h3 a0 26 4 fun v5 =>
  gJ (fun (x6 : Int32 × Int32) (h7 : Hp) =>
  gJ (fun (x9 : Int32) (h10 : Hp) =>
  gP G h10 a0 26 4 (.int x9) fun h12 =>
  gNA h12 8 z_R x6.1 fun v13 h14 =>
  gP G h14 a0 26 0 (va_rf v13) fun h15 =>
  if v1 = none then (some (.inl v13, h15))
  else gLp (bJ23_resize_c26_151 G N v1 x2 x6 v13) N (0 : Int32) h15) fun j11 =>
  if x6.2 = 0 then (gFf h7 a0 26 5 fun v54 =>
  gOk32 (FP.fmul (FP.i2f x6.1) v54) fun v55 =>
  gJ (fun (x56 : Int32) (h57 : Hp) =>
  j11 x56 h57) fun j58 =>
  gJ (fun (x59 : Unit) (h60 : Hp) =>
  j58 (2147483647 : Int32) h60) fun j61 =>
  if (1073741824 : Int32) ≤ x6.1 then (j61 () h7)
  else if 0 ≤ (Op.cmpValue (FP.fcmp v55 (1317011456 : UInt32)) .g) then (j61 () h7)
  else j58 (FP.f2i v55) h7)
  else j11 x6.2 h7) fun j8 =>
  if x2 ≤ 0 then (if v5 ≤ 0 then (j8 ((16 : Int32), (12 : Int32)) h3)
  else j8 (v5, (0 : Int32)) h3)
  else if x2 < (1073741824 : Int32) then (gLet (x2 <<< ((1 : Int32) &&& 31)) fun v62 =>
  if (1073741824 : Int32) ≤ v62 then (j8 (v62, (0 : Int32)) h3)
  else if x2 < (16 : Int32) then (j8 (v62, (0 : Int32)) h3)
  else gLet (v5 <<< ((1 : Int32) &&& 31)) fun v63 =>
  j8 (v62, v63) h3)
  else gP G h3 a0 26 4 (.int (2147483647 : Int32)) fun h64 =>
  some (.inl v1, h64)) fun j4 =>
  if v1 = none then (j4 (0 : Int32) h)
  else gLen h v1 fun v65 =>
  j4 v65 h
abbrev mJ23_resize_c26 : MI := (RJ23, cJ23_resize, 14, (some (.array (.object "java/util/HashMap$Node"))), [], 0, 0, "resize")
theorem tJ23_resize_c26 {G : GG} {l : Launch} (hs : l.stackTraces = false) {N : Nat} {a0 : Option Nat} {h : Hp} {r : Option Nat ⊕ Nat} {hf : Hp} (ho : sJ23_resize_c26 G N a0 h = some (r, hf)) : gMet G l yJ23_resize (ws_ yJ23_resize cJ23_resize 14 (some (.array (.object "java/util/HashMap$Node")))) 0 0 [gr a0] h cvR r hf := by
  refine gMet.of ho hs (plainFor_of_name pn_J23) rfl rfl (gbl rfl) fun X => ?_
  show gT G l X mJ23_resize_c26 cvR r hf 0 [(0, gr a0)] [] h (sJ23_resize_c26 G N a0 h)
  delta sJ23_resize_c26
  refine g_aload_n (pc := 0) (x := a0) 0 rfl rfl dJ23_resize_0 ?_
  refine g_getfr (pc := 1) k_26 (gblt rfl) lk_J23_105_26 dJ23_resize_1 fun v1 => ?_
  refine g_astore_n (pc := 4) (lv' := [(1, gr v1), (0, gr a0)]) [0, 1] rfl rfl (gblt rfl) dJ23_resize_4 ?_
  refine g_aload_n (pc := 5) (x := v1) 0 rfl rfl dJ23_resize_5 ?_
  refine g_join 15 (fun (x2 : Int32) => [(0, gr a0), (1, gr v1)]) (fun (x2 : Int32) => [gi x2]) (fun x2 h3 => ?_) (fun j4 Hj4 => ?_)
  · refine g_istore_n (pc := 15) (lv' := [(2, gi x2), (0, gr a0), (1, gr v1)]) [0, 1, 2] rfl rfl (gblt rfl) dJ23_resize_15 ?_
    refine g_aload_n (pc := 16) (x := a0) 1 rfl rfl dJ23_resize_16 ?_
    refine g_getfi (pc := 17) k_26 (gblt rfl) lk_J23_88_26 dJ23_resize_17 fun v5 => ?_
    refine g_istore_n (pc := 20) (lv' := [(3, gi v5), (2, gi x2), (0, gr a0), (1, gr v1)]) [0, 1, 2, 3] rfl rfl (gblt rfl) dJ23_resize_20 ?_
    refine g_iconst (pc := 21) (v := (0 : Int32)) ic_0 dJ23_resize_21 ?_
    refine g_istore (pc := 22) (lv' := [(5, gi (0 : Int32)), (3, gi v5), (2, gi x2), (0, gr a0), (1, gr v1)]) [0, 1, 2, 3, 4] rfl (gblt rfl) dJ23_resize_22 ?_
    refine g_iload_n (pc := 24) (x := x2) 2 rfl rfl dJ23_resize_24 ?_
    refine g_join 85 (fun (x6 : Int32 × Int32) => [(0, gr a0), (1, gr v1), (2, gi x2), (4, gi x6.1), (5, gi x6.2)]) (fun (x6 : Int32 × Int32) => []) (fun x6 h7 => ?_) (fun j8 Hj8 => ?_)
    · refine g_iload (pc := 85) (x := x6.2) 4 rfl dJ23_resize_85 ?_
      refine g_join 125 (fun (x9 : Int32) => [(0, gr a0), (1, gr v1), (2, gi x2), (4, gi x6.1), (5, gi x9)]) (fun (x9 : Int32) => []) (fun x9 h10 => ?_) (fun j11 Hj11 => ?_)
      · refine g_aload_n (pc := 125) (x := a0) 0 rfl rfl dJ23_resize_125 ?_
        refine g_iload (pc := 126) (x := x9) 4 rfl dJ23_resize_126 ?_
        refine g_put (pc := 128) k_26 (gblt rfl) lk_J23_88_26 rfl rfl (gNi _) dJ23_resize_128 fun h12 => ?_
        refine g_iload (pc := 131) (x := x6.1) 3 rfl dJ23_resize_131 ?_
        refine g_anewarray (pc := 133) rfl q2841 q2842 dJ23_resize_133 fun v13 h14 => ?_
        refine g_astore (pc := 136) (lv' := [(6, gr v13), (0, gr a0), (1, gr v1), (2, gi x2), (4, gi x6.1)]) [0, 1, 2, 3, 4] rfl (gblt rfl) dJ23_resize_136 ?_
        refine g_aload_n (pc := 138) (x := a0) 1 rfl rfl dJ23_resize_138 ?_
        refine g_aload (pc := 139) (x := v13) 0 rfl dJ23_resize_139 ?_
        refine g_put (pc := 141) k_26 (gblt rfl) lk_J23_105_26 rfl rfl (gNa _ _) dJ23_resize_141 fun h15 => ?_
        refine g_aload_n (pc := 144) (x := v1) 2 rfl rfl dJ23_resize_144 ?_
        refine g_ifnull (pc := 145) (tgt := 353) rfl dJ23_resize_145 ?_ ?_
        · refine g_aload (pc := 353) (x := v13) 0 rfl dJ23_resize_353 ?_
          exact g_areturn (pc := 355) rfl (Or.inr ⟨_, rfl⟩) dJ23_resize_355
        refine g_iconst (pc := 148) (v := (0 : Int32)) ic_0 dJ23_resize_148 ?_
        refine g_istore (pc := 149) (lv' := [(7, gi (0 : Int32)), (6, gr v13), (1, gr v1), (2, gi x2), (4, gi x6.1)]) [0, 1, 3, 4, 5] rfl (gblt rfl) dJ23_resize_149 ?_
        refine g_sub (lv' := [(1, gr v1), (2, gi x2), (4, gi x6.1), (6, gr v13), (7, gi (0 : Int32))]) [2, 3, 4, 1, 0] rfl ?_
        refine g_loop (pc := 151) (fun (x16 : Int32) => [(1, gr v1), (2, gi x2), (4, gi x6.1), (6, gr v13), (7, gi x16)]) (fun (_ : Int32) => []) (fun w18 Hw18 x16 h17 => ?_) N (0 : Int32) h15
        delta bJ23_resize_c26_151
        refine g_iload (pc := 151) (x := x16) 4 rfl dJ23_resize_151 ?_
        refine g_iload_n (pc := 153) (x := x2) 1 rfl rfl dJ23_resize_153 ?_
        refine g_icmp_ge (pc := 154) (tgt := 353) rfl dJ23_resize_154 ?_ ?_
        · refine g_aload (pc := 353) (x := v13) 3 rfl dJ23_resize_353 ?_
          exact g_areturn (pc := 355) rfl (Or.inr ⟨_, rfl⟩) dJ23_resize_355
        refine g_aload_n (pc := 157) (x := v1) 0 rfl rfl dJ23_resize_157 ?_
        refine g_iload (pc := 158) (x := x16) 4 rfl dJ23_resize_158 ?_
        refine g_aaload (pc := 160) rfl dJ23_resize_160 fun v19 => ?_
        refine g_dup (pc := 161) rfl dJ23_resize_161 ?_
        refine g_astore (pc := 162) (lv' := [(8, gr v19), (1, gr v1), (2, gi x2), (4, gi x6.1), (6, gr v13), (7, gi x16)]) [0, 1, 2, 3, 4, 5] rfl (gblt rfl) dJ23_resize_162 ?_
        refine g_join 347 (fun (x20 : Unit) => [(1, gr v1), (2, gi x2), (4, gi x6.1), (6, gr v13), (7, gi x16)]) (fun (x20 : Unit) => []) (fun x20 h21 => ?_) (fun j22 Hj22 => ?_)
        · refine g_iinc (pc := 347) (v := x16 + (1 : Int32)) 4 rfl (ii_1 _) (lv' := [(7, gi (x16 + (1 : Int32))), (1, gr v1), (2, gi x2), (4, gi x6.1), (6, gr v13)]) [0, 1, 2, 3, 4] rfl (gblt rfl) dJ23_resize_347 ?_
          refine g_goto (pc := 350) (tgt := 151) rfl dJ23_resize_350 ?_
          exact g_sub [1, 2, 3, 4, 0] rfl (Hw18 (x16 + (1 : Int32)) h21)
        refine g_ifnull (pc := 164) (tgt := 347) rfl dJ23_resize_164 ?_ ?_
        · exact g_sub [1, 2, 3, 4, 5] rfl (Hj22 () h17)
        refine g_aload_n (pc := 167) (x := v1) 1 rfl rfl dJ23_resize_167 ?_
        refine g_iload (pc := 168) (x := x16) 5 rfl dJ23_resize_168 ?_
        refine g_aconst_null (pc := 170) dJ23_resize_170 ?_
        refine g_aastore (pc := 171) rfl asl_java_util_HashMap_Node_ok dJ23_resize_171 fun h23 => ?_
        refine g_aload (pc := 172) (x := v19) 0 rfl dJ23_resize_172 ?_
        refine g_getfr (pc := 174) k_27 (gblt rfl) lk_J23_177_27 dJ23_resize_174 fun v24 => ?_
        refine g_ifnonnull (pc := 177) (tgt := 198) rfl dJ23_resize_177 ?_ ?_
        · refine g_aload (pc := 180) (x := v13) 4 rfl dJ23_resize_180 ?_
          refine g_aload (pc := 182) (x := v19) 0 rfl dJ23_resize_182 ?_
          refine g_getfi (pc := 184) k_27 (gblt rfl) lk_J23_168_27 dJ23_resize_184 fun v52 => ?_
          refine g_iload (pc := 187) (x := x6.1) 3 rfl dJ23_resize_187 ?_
          refine g_iconst (pc := 189) (v := (1 : Int32)) ic_1 dJ23_resize_189 ?_
          refine g_isub (pc := 190) dJ23_resize_190 ?_
          refine g_iand (pc := 191) dJ23_resize_191 ?_
          refine g_aload (pc := 192) (x := v19) 0 rfl dJ23_resize_192 ?_
          refine g_aastore (pc := 194) rfl asl_java_util_HashMap_Node_ok dJ23_resize_194 fun h53 => ?_
          refine g_goto (pc := 195) (tgt := 347) rfl dJ23_resize_195 ?_
          exact g_sub [1, 2, 3, 4, 5] rfl (Hj22 () h53)
        refine g_aload (pc := 198) (x := v19) 0 rfl dJ23_resize_198 ?_
        refine g_instanceof (pc := 200) q2099 as__java_util_HashMap_TreeNode ns_27_java_util_HashMap_TreeNode dJ23_resize_200 fun v25 => ?_
        refine g_if_eq (pc := 203) (tgt := 223) rfl dJ23_resize_203 ?_ ?_
        rotate_left
        · exact g_none
        refine g_aconst_null (pc := 223) dJ23_resize_223 ?_
        refine g_astore (pc := 224) (lv' := [(9, gr none), (8, gr v19), (1, gr v1), (2, gi x2), (4, gi x6.1), (6, gr v13), (7, gi x16)]) [0, 1, 2, 3, 4, 5, 6] rfl (gblt rfl) dJ23_resize_224 ?_
        refine g_aconst_null (pc := 226) dJ23_resize_226 ?_
        refine g_astore (pc := 227) (lv' := [(10, gr none), (9, gr none), (8, gr v19), (1, gr v1), (2, gi x2), (4, gi x6.1), (6, gr v13), (7, gi x16)]) [0, 1, 2, 3, 4, 5, 6, 7] rfl (gblt rfl) dJ23_resize_227 ?_
        refine g_aconst_null (pc := 229) dJ23_resize_229 ?_
        refine g_astore (pc := 230) (lv' := [(11, gr none), (10, gr none), (9, gr none), (8, gr v19), (1, gr v1), (2, gi x2), (4, gi x6.1), (6, gr v13), (7, gi x16)]) [0, 1, 2, 3, 4, 5, 6, 7, 8] rfl (gblt rfl) dJ23_resize_230 ?_
        refine g_aconst_null (pc := 232) dJ23_resize_232 ?_
        refine g_astore (pc := 233) (lv' := [(12, gr none), (11, gr none), (10, gr none), (9, gr none), (8, gr v19), (1, gr v1), (2, gi x2), (4, gi x6.1), (6, gr v13), (7, gi x16)]) [0, 1, 2, 3, 4, 5, 6, 7, 8, 9] rfl (gblt rfl) dJ23_resize_233 ?_
        refine g_join 309 (fun (x26 : Option Nat × Option Nat × Option Nat × Option Nat) => [(1, gr v1), (2, gi x2), (4, gi x6.1), (6, gr v13), (7, gi x16), (9, gr x26.1), (10, gr x26.2.1), (11, gr x26.2.2.1), (12, gr x26.2.2.2)]) (fun (x26 : Option Nat × Option Nat × Option Nat × Option Nat) => []) (fun x26 h27 => ?_) (fun j28 Hj28 => ?_)
        · refine g_aload (pc := 309) (x := x26.2.1) 6 rfl dJ23_resize_309 ?_
          refine g_join 327 (fun (x29 : Unit) => [(1, gr v1), (2, gi x2), (4, gi x6.1), (6, gr v13), (7, gi x16), (11, gr x26.2.2.1), (12, gr x26.2.2.2)]) (fun (x29 : Unit) => []) (fun x29 h30 => ?_) (fun j31 Hj31 => ?_)
          · refine g_aload (pc := 327) (x := x26.2.2.2) 6 rfl dJ23_resize_327 ?_
            refine g_ifnull (pc := 329) (tgt := 347) rfl dJ23_resize_329 ?_ ?_
            · exact g_sub [0, 1, 2, 3, 4] rfl (Hj22 () h30)
            refine g_aload (pc := 332) (x := x26.2.2.2) 6 rfl dJ23_resize_332 ?_
            refine g_aconst_null (pc := 334) dJ23_resize_334 ?_
            refine g_put (pc := 335) k_27 (gblt rfl) lk_J23_177_27 rfl rfl (gNr _ _) dJ23_resize_335 fun h32 => ?_
            refine g_aload (pc := 338) (x := v13) 3 rfl dJ23_resize_338 ?_
            refine g_iload (pc := 340) (x := x16) 4 rfl dJ23_resize_340 ?_
            refine g_iload_n (pc := 342) (x := x2) 1 rfl rfl dJ23_resize_342 ?_
            refine g_iadd (pc := 343) dJ23_resize_343 ?_
            refine g_aload (pc := 344) (x := x26.2.2.1) 5 rfl dJ23_resize_344 ?_
            refine g_aastore (pc := 346) rfl asl_java_util_HashMap_Node_ok dJ23_resize_346 fun h33 => ?_
            exact g_sub [0, 1, 2, 3, 4] rfl (Hj22 () h33)
          refine g_ifnull (pc := 311) (tgt := 327) rfl dJ23_resize_311 ?_ ?_
          · exact g_sub [0, 1, 2, 3, 4, 7, 8] rfl (Hj31 () h27)
          refine g_aload (pc := 314) (x := x26.2.1) 6 rfl dJ23_resize_314 ?_
          refine g_aconst_null (pc := 316) dJ23_resize_316 ?_
          refine g_put (pc := 317) k_27 (gblt rfl) lk_J23_177_27 rfl rfl (gNr _ _) dJ23_resize_317 fun h34 => ?_
          refine g_aload (pc := 320) (x := v13) 3 rfl dJ23_resize_320 ?_
          refine g_iload (pc := 322) (x := x16) 4 rfl dJ23_resize_322 ?_
          refine g_aload (pc := 324) (x := x26.1) 5 rfl dJ23_resize_324 ?_
          refine g_aastore (pc := 326) rfl asl_java_util_HashMap_Node_ok dJ23_resize_326 fun h35 => ?_
          exact g_sub [0, 1, 2, 3, 4, 7, 8] rfl (Hj31 () h35)
        refine g_sub (lv' := [(1, gr v1), (2, gi x2), (4, gi x6.1), (6, gr v13), (7, gi x16), (8, gr v19), (9, gr none), (10, gr none), (11, gr none), (12, gr none)]) [5, 6, 7, 8, 9, 4, 3, 2, 1, 0] rfl ?_
        refine g_loop (pc := 235) (fun (x36 : Option Nat × Option Nat × Option Nat × Option Nat × Option Nat) => [(1, gr v1), (2, gi x2), (4, gi x6.1), (6, gr v13), (7, gi x16), (8, gr x36.1), (9, gr x36.2.1), (10, gr x36.2.2.1), (11, gr x36.2.2.2.1), (12, gr x36.2.2.2.2)]) (fun (_ : Option Nat × Option Nat × Option Nat × Option Nat × Option Nat) => []) (fun w38 Hw38 x36 h37 => ?_) N (v19, none, none, none, none) h23
        delta bJ23_resize_c26_235
        refine g_aload (pc := 235) (x := x36.1) 5 rfl dJ23_resize_235 ?_
        refine g_getfr (pc := 237) k_27 (gblt rfl) lk_J23_177_27 dJ23_resize_237 fun v39 => ?_
        refine g_astore (pc := 240) (lv' := [(13, gr v39), (1, gr v1), (2, gi x2), (4, gi x6.1), (6, gr v13), (7, gi x16), (8, gr x36.1), (9, gr x36.2.1), (10, gr x36.2.2.1), (11, gr x36.2.2.2.1), (12, gr x36.2.2.2.2)]) [0, 1, 2, 3, 4, 5, 6, 7, 8, 9, 10] rfl (gblt rfl) dJ23_resize_240 ?_
        refine g_aload (pc := 242) (x := x36.1) 6 rfl dJ23_resize_242 ?_
        refine g_getfi (pc := 244) k_27 (gblt rfl) lk_J23_168_27 dJ23_resize_244 fun v40 => ?_
        refine g_iload_n (pc := 247) (x := x2) 2 rfl rfl dJ23_resize_247 ?_
        refine g_iand (pc := 248) dJ23_resize_248 ?_
        refine g_join 301 (fun (x41 : Option Nat × Option Nat × Option Nat × Option Nat) => [(1, gr v1), (2, gi x2), (4, gi x6.1), (6, gr v13), (7, gi x16), (9, gr x41.1), (10, gr x41.2.1), (11, gr x41.2.2.1), (12, gr x41.2.2.2), (13, gr v39)]) (fun (x41 : Option Nat × Option Nat × Option Nat × Option Nat) => []) (fun x41 h42 => ?_) (fun j43 Hj43 => ?_)
        · refine g_aload (pc := 301) (x := v39) 9 rfl dJ23_resize_301 ?_
          refine g_dup (pc := 303) rfl dJ23_resize_303 ?_
          refine g_astore (pc := 304) (lv' := [(8, gr v39), (1, gr v1), (2, gi x2), (4, gi x6.1), (6, gr v13), (7, gi x16), (9, gr x41.1), (10, gr x41.2.1), (11, gr x41.2.2.1), (12, gr x41.2.2.2)]) [0, 1, 2, 3, 4, 5, 6, 7, 8, 9] rfl (gblt rfl) dJ23_resize_304 ?_
          refine g_ifnonnull (pc := 306) (tgt := 235) rfl dJ23_resize_306 ?_ ?_
          · exact g_sub [1, 2, 3, 4, 5, 6, 7, 8, 9] rfl (Hj28 (x41.1, x41.2.1, x41.2.2.1, x41.2.2.2) h42)
          exact g_sub [1, 2, 3, 4, 5, 0, 6, 7, 8, 9] rfl (Hw38 (v39, x41.1, x41.2.1, x41.2.2.1, x41.2.2.2) h42)
        refine g_if_ne (pc := 249) (tgt := 278) rfl dJ23_resize_249 ?_ ?_
        rotate_left
        · refine g_aload (pc := 278) (x := x36.2.2.2.2) 10 rfl dJ23_resize_278 ?_
          refine g_join 297 (fun (x44 : Option Nat) => [(1, gr v1), (2, gi x2), (4, gi x6.1), (6, gr v13), (7, gi x16), (8, gr x36.1), (9, gr x36.2.1), (10, gr x36.2.2.1), (11, gr x44), (13, gr v39)]) (fun (x44 : Option Nat) => []) (fun x44 h45 => ?_) (fun j46 Hj46 => ?_)
          · refine g_aload (pc := 297) (x := x36.1) 5 rfl dJ23_resize_297 ?_
            refine g_astore (pc := 299) (lv' := [(12, gr x36.1), (1, gr v1), (2, gi x2), (4, gi x6.1), (6, gr v13), (7, gi x16), (9, gr x36.2.1), (10, gr x36.2.2.1), (11, gr x44), (13, gr v39)]) [0, 1, 2, 3, 4, 5, 7, 8, 9, 10] rfl (gblt rfl) dJ23_resize_299 ?_
            exact g_sub [1, 2, 3, 4, 5, 6, 7, 8, 0, 9] rfl (Hj43 (x36.2.1, x36.2.2.1, x44, x36.1) h45)
          refine g_ifnonnull (pc := 280) (tgt := 290) rfl dJ23_resize_280 ?_ ?_
          · refine g_aload (pc := 283) (x := x36.1) 6 rfl dJ23_resize_283 ?_
            refine g_astore (pc := 285) (lv' := [(11, gr x36.1), (13, gr v39), (1, gr v1), (2, gi x2), (4, gi x6.1), (6, gr v13), (7, gi x16), (8, gr x36.1), (9, gr x36.2.1), (10, gr x36.2.2.1)]) [0, 1, 2, 3, 4, 5, 6, 7, 8, 9] rfl (gblt rfl) dJ23_resize_285 ?_
            refine g_goto (pc := 287) (tgt := 297) rfl dJ23_resize_287 ?_
            exact g_sub [2, 3, 4, 5, 6, 7, 8, 9, 0, 1] rfl (Hj46 x36.1 h37)
          refine g_aload (pc := 290) (x := x36.2.2.2.2) 10 rfl dJ23_resize_290 ?_
          refine g_aload (pc := 292) (x := x36.1) 6 rfl dJ23_resize_292 ?_
          refine g_put (pc := 294) k_27 (gblt rfl) lk_J23_177_27 rfl rfl (gNr _ _) dJ23_resize_294 fun h47 => ?_
          exact g_sub [1, 2, 3, 4, 5, 6, 7, 8, 9, 0] rfl (Hj46 x36.2.2.2.1 h47)
        refine g_aload (pc := 252) (x := x36.2.2.1) 8 rfl dJ23_resize_252 ?_
        refine g_join 271 (fun (x48 : Option Nat) => [(1, gr v1), (2, gi x2), (4, gi x6.1), (6, gr v13), (7, gi x16), (8, gr x36.1), (9, gr x48), (11, gr x36.2.2.2.1), (12, gr x36.2.2.2.2), (13, gr v39)]) (fun (x48 : Option Nat) => []) (fun x48 h49 => ?_) (fun j50 Hj50 => ?_)
        · refine g_aload (pc := 271) (x := x36.1) 5 rfl dJ23_resize_271 ?_
          refine g_astore (pc := 273) (lv' := [(10, gr x36.1), (1, gr v1), (2, gi x2), (4, gi x6.1), (6, gr v13), (7, gi x16), (9, gr x48), (11, gr x36.2.2.2.1), (12, gr x36.2.2.2.2), (13, gr v39)]) [0, 1, 2, 3, 4, 5, 7, 8, 9, 10] rfl (gblt rfl) dJ23_resize_273 ?_
          refine g_goto (pc := 275) (tgt := 301) rfl dJ23_resize_275 ?_
          exact g_sub [1, 2, 3, 4, 5, 6, 0, 7, 8, 9] rfl (Hj43 (x48, x36.1, x36.2.2.2.1, x36.2.2.2.2) h49)
        refine g_ifnonnull (pc := 254) (tgt := 264) rfl dJ23_resize_254 ?_ ?_
        · refine g_aload (pc := 257) (x := x36.1) 6 rfl dJ23_resize_257 ?_
          refine g_astore (pc := 259) (lv' := [(9, gr x36.1), (13, gr v39), (1, gr v1), (2, gi x2), (4, gi x6.1), (6, gr v13), (7, gi x16), (8, gr x36.1), (11, gr x36.2.2.2.1), (12, gr x36.2.2.2.2)]) [0, 1, 2, 3, 4, 5, 6, 7, 9, 10] rfl (gblt rfl) dJ23_resize_259 ?_
          refine g_goto (pc := 261) (tgt := 271) rfl dJ23_resize_261 ?_
          exact g_sub [2, 3, 4, 5, 6, 7, 0, 8, 9, 1] rfl (Hj50 x36.1 h37)
        refine g_aload (pc := 264) (x := x36.2.2.1) 8 rfl dJ23_resize_264 ?_
        refine g_aload (pc := 266) (x := x36.1) 6 rfl dJ23_resize_266 ?_
        refine g_put (pc := 268) k_27 (gblt rfl) lk_J23_177_27 rfl rfl (gNr _ _) dJ23_resize_268 fun h51 => ?_
        exact g_sub [1, 2, 3, 4, 5, 6, 7, 9, 10, 0] rfl (Hj50 x36.2.1 h51)
      refine g_if_ne (pc := 87) (tgt := 125) rfl dJ23_resize_87 ?_ ?_
      rotate_left
      · exact Hj11 x6.2 h7
      refine g_iload (pc := 90) (x := x6.1) 3 rfl dJ23_resize_90 ?_
      refine g_i2f (pc := 92) dJ23_resize_92 ?_
      refine g_aload_n (pc := 93) (x := a0) 0 rfl rfl dJ23_resize_93 ?_
      refine g_getff (pc := 94) k_26 (gblt rfl) lk_J23_81_26 dJ23_resize_94 fun v54 => ?_
      refine g_fmul (pc := 97) dJ23_resize_97 fun v55 => ?_
      refine g_fstore (pc := 98) (lv' := [(6, gf v55), (0, gr a0), (1, gr v1), (2, gi x2), (4, gi x6.1)]) [0, 1, 2, 3, 4] rfl (gblt rfl) dJ23_resize_98 ?_
      refine g_iload (pc := 100) (x := x6.1) 4 rfl dJ23_resize_100 ?_
      refine g_ldc (pc := 102) q2385 dJ23_resize_102 ?_
      refine g_join 123 (fun (x56 : Int32) => [(0, gr a0), (1, gr v1), (2, gi x2), (4, gi x6.1)]) (fun (x56 : Int32) => [gi x56]) (fun x56 h57 => ?_) (fun j58 Hj58 => ?_)
      · refine g_istore (pc := 123) (lv' := [(5, gi x56), (0, gr a0), (1, gr v1), (2, gi x2), (4, gi x6.1)]) [0, 1, 2, 3, 4] rfl (gblt rfl) dJ23_resize_123 ?_
        exact g_sub [1, 2, 3, 4, 0] rfl (Hj11 x56 h57)
      refine g_join 121 (fun (x59 : Unit) => [(0, gr a0), (1, gr v1), (2, gi x2), (4, gi x6.1)]) (fun (x59 : Unit) => []) (fun x59 h60 => ?_) (fun j61 Hj61 => ?_)
      · refine g_ldc (pc := 121) q2839 dJ23_resize_121 ?_
        exact Hj58 (2147483647 : Int32) h60
      refine g_icmp_ge (pc := 104) (tgt := 121) rfl dJ23_resize_104 ?_ ?_
      · exact g_sub [1, 2, 3, 4] rfl (Hj61 () h7)
      refine g_fload (pc := 107) (x := v55) 0 rfl dJ23_resize_107 ?_
      refine g_ldcf (pc := 109) q2840 dJ23_resize_109 ?_
      refine g_fcmp (pc := 111) dJ23_resize_111 ?_
      refine g_if_ge (pc := 112) (tgt := 121) rfl dJ23_resize_112 ?_ ?_
      · exact g_sub [1, 2, 3, 4] rfl (Hj61 () h7)
      refine g_fload (pc := 115) (x := v55) 0 rfl dJ23_resize_115 ?_
      refine g_f2i (pc := 117) dJ23_resize_117 ?_
      refine g_goto (pc := 118) (tgt := 123) rfl dJ23_resize_118 ?_
      exact g_sub [1, 2, 3, 4] rfl (Hj58 (FP.f2i v55) h7)
    refine g_if_le (pc := 25) (tgt := 67) rfl dJ23_resize_25 ?_ ?_
    · refine g_iload_n (pc := 67) (x := v5) 1 rfl rfl dJ23_resize_67 ?_
      refine g_if_le (pc := 68) (tgt := 77) rfl dJ23_resize_68 ?_ ?_
      rotate_left
      · refine g_iload_n (pc := 71) (x := v5) 1 rfl rfl dJ23_resize_71 ?_
        refine g_istore (pc := 72) (lv' := [(4, gi v5), (5, gi (0 : Int32)), (2, gi x2), (0, gr a0), (1, gr v1)]) [0, 1, 3, 4, 5] rfl (gblt rfl) dJ23_resize_72 ?_
        refine g_goto (pc := 74) (tgt := 85) rfl dJ23_resize_74 ?_
        exact g_sub [3, 4, 2, 0, 1] rfl (Hj8 (v5, (0 : Int32)) h3)
      refine g_bipush (pc := 77) (v := (16 : Int32)) bc_16 dJ23_resize_77 ?_
      refine g_istore (pc := 79) (lv' := [(4, gi (16 : Int32)), (2, gi x2), (0, gr a0), (1, gr v1)]) [0, 3, 4, 5] rfl (gblt rfl) dJ23_resize_79 ?_
      refine g_bipush (pc := 81) (v := (12 : Int32)) bc_12 dJ23_resize_81 ?_
      refine g_istore (pc := 83) (lv' := [(5, gi (12 : Int32)), (4, gi (16 : Int32)), (2, gi x2), (0, gr a0), (1, gr v1)]) [0, 1, 2, 3, 4] rfl (gblt rfl) dJ23_resize_83 ?_
      exact g_sub [3, 4, 2, 1, 0] rfl (Hj8 ((16 : Int32), (12 : Int32)) h3)
    refine g_iload_n (pc := 28) (x := x2) 2 rfl rfl dJ23_resize_28 ?_
    refine g_ldc (pc := 29) q2385 dJ23_resize_29 ?_
    refine g_icmp_lt (pc := 31) (tgt := 42) rfl dJ23_resize_31 ?_ ?_
    rotate_left
    · refine g_aload_n (pc := 34) (x := a0) 3 rfl rfl dJ23_resize_34 ?_
      refine g_ldc (pc := 35) q2839 dJ23_resize_35 ?_
      refine g_put (pc := 37) k_26 (gblt rfl) lk_J23_88_26 rfl rfl (gNi _) dJ23_resize_37 fun h64 => ?_
      refine g_aload_n (pc := 40) (x := v1) 4 rfl rfl dJ23_resize_40 ?_
      exact g_areturn (pc := 41) rfl (Or.inr ⟨_, rfl⟩) dJ23_resize_41
    refine g_iload_n (pc := 42) (x := x2) 2 rfl rfl dJ23_resize_42 ?_
    refine g_iconst (pc := 43) (v := (1 : Int32)) ic_1 dJ23_resize_43 ?_
    refine g_ishl (pc := 44) dJ23_resize_44 ?_
    refine g_leti fun v62 => ?_
    refine g_dup (pc := 45) rfl dJ23_resize_45 ?_
    refine g_istore (pc := 46) (lv' := [(4, gi v62), (5, gi (0 : Int32)), (3, gi v5), (2, gi x2), (0, gr a0), (1, gr v1)]) [0, 1, 2, 3, 4, 5] rfl (gblt rfl) dJ23_resize_46 ?_
    refine g_ldc (pc := 48) q2385 dJ23_resize_48 ?_
    refine g_icmp_ge (pc := 50) (tgt := 85) rfl dJ23_resize_50 ?_ ?_
    · exact g_sub [4, 5, 3, 0, 1] rfl (Hj8 (v62, (0 : Int32)) h3)
    refine g_iload_n (pc := 53) (x := x2) 3 rfl rfl dJ23_resize_53 ?_
    refine g_bipush (pc := 54) (v := (16 : Int32)) bc_16 dJ23_resize_54 ?_
    refine g_icmp_lt (pc := 56) (tgt := 85) rfl dJ23_resize_56 ?_ ?_
    · exact g_sub [4, 5, 3, 0, 1] rfl (Hj8 (v62, (0 : Int32)) h3)
    refine g_iload_n (pc := 59) (x := v5) 2 rfl rfl dJ23_resize_59 ?_
    refine g_iconst (pc := 60) (v := (1 : Int32)) ic_1 dJ23_resize_60 ?_
    refine g_ishl (pc := 61) dJ23_resize_61 ?_
    refine g_leti fun v63 => ?_
    refine g_istore (pc := 62) (lv' := [(5, gi v63), (4, gi v62), (2, gi x2), (0, gr a0), (1, gr v1)]) [0, 1, 3, 4, 5] rfl (gblt rfl) dJ23_resize_62 ?_
    refine g_goto (pc := 64) (tgt := 85) rfl dJ23_resize_64 ?_
    exact g_sub [3, 4, 2, 1, 0] rfl (Hj8 (v62, v63) h3)
  refine g_ifnonnull (pc := 6) (tgt := 13) rfl dJ23_resize_6 ?_ ?_
  · refine g_iconst (pc := 9) (v := (0 : Int32)) ic_0 dJ23_resize_9 ?_
    refine g_goto (pc := 10) (tgt := 15) rfl dJ23_resize_10 ?_
    exact g_sub [1, 0] rfl (Hj4 (0 : Int32) h)
  refine g_aload_n (pc := 13) (x := v1) 0 rfl rfl dJ23_resize_13 ?_
  refine g_alen (pc := 14) dJ23_resize_14 fun v65 => ?_
  exact g_sub [1, 0] rfl (Hj4 v65 h)
/-! java/util/HashMap$Node.<init>(ILjava/lang/Object;Ljava/lang/Object;Ljava/util/HashMap$Node;)V -/
noncomputable def sJ47_init_c27 (G : GG) (N : Nat) (a0 : Option Nat) (a1 : Int32) (a2 : Option Nat) (a3 : Option Nat) (a4 : Option Nat) (h : Hp) : Out (Unit) :=
  gNN a0 (gP G h a0 27 0 (.int a1) fun h1 =>
  gP G h1 a0 27 1 (va_rf a2) fun h2 =>
  gP G h2 a0 27 2 (va_rf a3) fun h3 =>
  gP G h3 a0 27 3 (va_rf a4) fun h4 =>
  some (.inl (), h4))
abbrev mJ47_init_c27 : MI := (RJ47, cJ47_init, 5, none, [], 1, 12, "<init>")
theorem tJ47_init_c27 {G : GG} {l : Launch} (hs : l.stackTraces = false) {N : Nat} {a0 : Option Nat} {a1 : Int32} {a2 : Option Nat} {a3 : Option Nat} {a4 : Option Nat} {h : Hp} {r : Unit ⊕ Nat} {hf : Hp} (ho : sJ47_init_c27 G N a0 a1 a2 a3 a4 h = some (r, hf)) : gMet G l yJ47_init (ws_ yJ47_init cJ47_init 5 none) 1 12 [gr a0, gi a1, gr a2, gr a3, gr a4] h cvU r hf := by
  refine gMet.of ho hs (plainFor_of_name pn_J47) rfl rfl (gbl rfl) fun X => ?_
  show gT G l X mJ47_init_c27 cvU r hf 0 [(0, gr a0), (1, gi a1), (2, gr a2), (3, gr a3), (4, gr a4)] [] h (sJ47_init_c27 G N a0 a1 a2 a3 a4 h)
  delta sJ47_init_c27
  refine g_aload_n (pc := 0) (x := a0) 0 rfl rfl dJ47_init_0 ?_
  refine g_objInit' (pc := 1) q2865 oi_in oi_code (gbl rfl) (gbl rfl) dJ47_init_1 ?_
  refine g_aload_n (pc := 4) (x := a0) 0 rfl rfl dJ47_init_4 ?_
  refine g_iload_n (pc := 5) (x := a1) 1 rfl rfl dJ47_init_5 ?_
  refine g_putFin (pc := 6) k_27 (gblt rfl) lk_J47_7_27 q2870 rfl rfl rfl rfl (gNi _) dJ47_init_6 fun h1 => ?_
  refine g_aload_n (pc := 9) (x := a0) 0 rfl rfl dJ47_init_9 ?_
  refine g_aload_n (pc := 10) (x := a2) 2 rfl rfl dJ47_init_10 ?_
  refine g_putFin (pc := 11) k_27 (gblt rfl) lk_J47_13_27 q2876 rfl rfl rfl rfl (gNr _ _) dJ47_init_11 fun h2 => ?_
  refine g_aload_n (pc := 14) (x := a0) 0 rfl rfl dJ47_init_14 ?_
  refine g_aload_n (pc := 15) (x := a3) 3 rfl rfl dJ47_init_15 ?_
  refine g_put (pc := 16) k_27 (gblt rfl) lk_J47_17_27 rfl rfl (gNr _ _) dJ47_init_16 fun h3 => ?_
  refine g_aload_n (pc := 19) (x := a0) 0 rfl rfl dJ47_init_19 ?_
  refine g_aload (pc := 20) (x := a4) 4 rfl dJ47_init_20 ?_
  refine g_put (pc := 22) k_27 (gblt rfl) lk_J47_20_27 rfl rfl (gNr _ _) dJ47_init_22 fun h4 => ?_
  exact g_return (pc := 25) rfl dJ47_init_25
/-! java/util/LinkedHashMap$Entry.<init>(ILjava/lang/Object;Ljava/lang/Object;Ljava/util/HashMap$Node;)V -/
noncomputable def sJ48_init (G : GG) (N : Nat) (a0 : Option Nat) (a1 : Int32) (a2 : Option Nat) (a3 : Option Nat) (a4 : Option Nat) (h : Hp) : Out (Unit) :=
  bI a0 (fun q3 => sJ47_init_c27 G N (some q3) a1 a2 a3 a4 h) fun v1 h2 =>
  some (.inl (), h2)
abbrev mJ48_init : MI := (RJ48, cJ48_init, 5, none, [], 2, 36, "<init>")
theorem tJ48_init {G : GG} {l : Launch} (hs : l.stackTraces = false) {N : Nat} {a0 : Option Nat} {a1 : Int32} {a2 : Option Nat} {a3 : Option Nat} {a4 : Option Nat} {h : Hp} {r : Unit ⊕ Nat} {hf : Hp} (ho : sJ48_init G N a0 a1 a2 a3 a4 h = some (r, hf)) : gMet G l yJ48_init (ws_ yJ48_init cJ48_init 5 none) 2 36 [gr a0, gi a1, gr a2, gr a3, gr a4] h cvU r hf := by
  refine gMet.of ho hs (plainFor_of_name pn_J48) rfl rfl (gbl rfl) fun X => ?_
  show gT G l X mJ48_init cvU r hf 0 [(0, gr a0), (1, gi a1), (2, gr a2), (3, gr a3), (4, gr a4)] [] h (sJ48_init G N a0 a1 a2 a3 a4 h)
  delta sJ48_init
  refine g_aload_n (pc := 0) (x := a0) 0 rfl rfl dJ48_init_0 ?_
  refine g_iload_n (pc := 1) (x := a1) 1 rfl rfl dJ48_init_1 ?_
  refine g_aload_n (pc := 2) (x := a2) 2 rfl rfl dJ48_init_2 ?_
  refine g_aload_n (pc := 3) (x := a3) 3 rfl rfl dJ48_init_3 ?_
  refine g_aload (pc := 4) (x := a4) 4 rfl dJ48_init_4 ?_
  refine g_bIu (pc := 6) (y := yJ47_init) (ws := ws_ yJ47_init cJ47_init 5 none) (fr := 1) (lo := 12) (as := [gi a1, gr a2, gr a3, gr a4]) (st := []) (g_no) rfl (fun _ _ _ e => tJ47_init_c27 hs e) (fun K _ _ _ hM R e1 e2 => g_runI (M := mJ48_init) (pc := 6) (y := yJ47_init) (bytes := cJ47_init) (maxL := 5) (ret := none) (fr := 1) (lo := 12) (as := [gi a1, gr a2, gr a3, gr a4]) (st := []) gy_J47_init (gbl rfl) (gbl rfl) (gbl rfl) rfl q2862 q2863 rfl dJ48_init_6 K hM R e1 e2) fun v1 h2 => ?_
  exact g_return (pc := 9) rfl dJ48_init_9
/-! java/util/LinkedHashMap.linkNodeAtEnd(Ljava/util/LinkedHashMap$Entry;)V -/
noncomputable def sJ24_linkNodeAtEnd (G : GG) (N : Nat) (a0 : Option Nat) (a1 : Option Nat) (h : Hp) : Out (Unit) :=
  gFi h a0 26 11 fun v1 =>
  if v1 = (1 : Int32) then (gFr h a0 26 8 fun v7 =>
  gP G h a0 26 8 (va_rf a1) fun h8 =>
  gJ (fun (x9 : Unit) (h10 : Hp) =>
  some (.inl (), h10)) fun j11 =>
  if v7 = none then (gP G h8 a0 26 9 (va_rf a1) fun h14 =>
  j11 () h14)
  else gP G h8 a1 27 5 (va_rf v7) fun h12 =>
  gP G h12 v7 27 4 (va_rf a1) fun h13 =>
  j11 () h13)
  else gFr h a0 26 9 fun v2 =>
  gP G h a0 26 9 (va_rf a1) fun h3 =>
  if v2 = none then (gP G h3 a0 26 8 (va_rf a1) fun h6 =>
  some (.inl (), h6))
  else gP G h3 a1 27 4 (va_rf v2) fun h4 =>
  gP G h4 v2 27 5 (va_rf a1) fun h5 =>
  some (.inl (), h5)
abbrev mJ24_linkNodeAtEnd : MI := (RJ24, cJ24_linkNodeAtEnd, 3, none, [], 0, 0, "linkNodeAtEnd")
theorem tJ24_linkNodeAtEnd {G : GG} {l : Launch} (hs : l.stackTraces = false) {N : Nat} {a0 : Option Nat} {a1 : Option Nat} {h : Hp} {r : Unit ⊕ Nat} {hf : Hp} (ho : sJ24_linkNodeAtEnd G N a0 a1 h = some (r, hf)) : gMet G l yJ24_linkNodeAtEnd (ws_ yJ24_linkNodeAtEnd cJ24_linkNodeAtEnd 3 none) 0 0 [gr a0, gr a1] h cvU r hf := by
  refine gMet.of ho hs (plainFor_of_name pn_J24) rfl rfl (gbl rfl) fun X => ?_
  show gT G l X mJ24_linkNodeAtEnd cvU r hf 0 [(0, gr a0), (1, gr a1)] [] h (sJ24_linkNodeAtEnd G N a0 a1 h)
  delta sJ24_linkNodeAtEnd
  refine g_aload_n (pc := 0) (x := a0) 0 rfl rfl dJ24_linkNodeAtEnd_0 ?_
  refine g_getfi (pc := 1) k_26 (gblt rfl) lk_J24_1_26 dJ24_linkNodeAtEnd_1 fun v1 => ?_
  refine g_iconst (pc := 4) (v := (1 : Int32)) ic_1 dJ24_linkNodeAtEnd_4 ?_
  refine g_icmp_ne (pc := 5) (tgt := 43) rfl dJ24_linkNodeAtEnd_5 ?_ ?_
  rotate_left
  · refine g_aload_n (pc := 43) (x := a0) 0 rfl rfl dJ24_linkNodeAtEnd_43 ?_
    refine g_getfr (pc := 44) k_26 (gblt rfl) lk_J24_11_26 dJ24_linkNodeAtEnd_44 fun v2 => ?_
    refine g_astore_n (pc := 47) (lv' := [(2, gr v2), (0, gr a0), (1, gr a1)]) [0, 1, 2] rfl rfl (gblt rfl) dJ24_linkNodeAtEnd_47 ?_
    refine g_aload_n (pc := 48) (x := a0) 1 rfl rfl dJ24_linkNodeAtEnd_48 ?_
    refine g_aload_n (pc := 49) (x := a1) 2 rfl rfl dJ24_linkNodeAtEnd_49 ?_
    refine g_put (pc := 50) k_26 (gblt rfl) lk_J24_11_26 rfl rfl (gNr _ _) dJ24_linkNodeAtEnd_50 fun h3 => ?_
    refine g_aload_n (pc := 53) (x := v2) 0 rfl rfl dJ24_linkNodeAtEnd_53 ?_
    refine g_ifnonnull (pc := 54) (tgt := 65) rfl dJ24_linkNodeAtEnd_54 ?_ ?_
    · refine g_aload_n (pc := 57) (x := a0) 1 rfl rfl dJ24_linkNodeAtEnd_57 ?_
      refine g_aload_n (pc := 58) (x := a1) 2 rfl rfl dJ24_linkNodeAtEnd_58 ?_
      refine g_put (pc := 59) k_26 (gblt rfl) lk_J24_7_26 rfl rfl (gNr _ _) dJ24_linkNodeAtEnd_59 fun h6 => ?_
      refine g_goto (pc := 62) (tgt := 75) rfl dJ24_linkNodeAtEnd_62 ?_
      exact g_return (pc := 75) rfl dJ24_linkNodeAtEnd_75
    refine g_aload_n (pc := 65) (x := a1) 2 rfl rfl dJ24_linkNodeAtEnd_65 ?_
    refine g_aload_n (pc := 66) (x := v2) 0 rfl rfl dJ24_linkNodeAtEnd_66 ?_
    refine g_put (pc := 67) k_27 (gblt rfl) lk_J24_19_27 rfl rfl (gNr _ _) dJ24_linkNodeAtEnd_67 fun h4 => ?_
    refine g_aload_n (pc := 70) (x := v2) 0 rfl rfl dJ24_linkNodeAtEnd_70 ?_
    refine g_aload_n (pc := 71) (x := a1) 2 rfl rfl dJ24_linkNodeAtEnd_71 ?_
    refine g_put (pc := 72) k_27 (gblt rfl) lk_J24_14_27 rfl rfl (gNr _ _) dJ24_linkNodeAtEnd_72 fun h5 => ?_
    exact g_return (pc := 75) rfl dJ24_linkNodeAtEnd_75
  refine g_aload_n (pc := 8) (x := a0) 0 rfl rfl dJ24_linkNodeAtEnd_8 ?_
  refine g_getfr (pc := 9) k_26 (gblt rfl) lk_J24_7_26 dJ24_linkNodeAtEnd_9 fun v7 => ?_
  refine g_astore_n (pc := 12) (lv' := [(2, gr v7), (0, gr a0), (1, gr a1)]) [0, 1, 2] rfl rfl (gblt rfl) dJ24_linkNodeAtEnd_12 ?_
  refine g_aload_n (pc := 13) (x := a0) 1 rfl rfl dJ24_linkNodeAtEnd_13 ?_
  refine g_aload_n (pc := 14) (x := a1) 2 rfl rfl dJ24_linkNodeAtEnd_14 ?_
  refine g_put (pc := 15) k_26 (gblt rfl) lk_J24_7_26 rfl rfl (gNr _ _) dJ24_linkNodeAtEnd_15 fun h8 => ?_
  refine g_aload_n (pc := 18) (x := v7) 0 rfl rfl dJ24_linkNodeAtEnd_18 ?_
  refine g_join 40 (fun (x9 : Unit) => []) (fun (x9 : Unit) => []) (fun x9 h10 => ?_) (fun j11 Hj11 => ?_)
  · refine g_goto (pc := 40) (tgt := 75) rfl dJ24_linkNodeAtEnd_40 ?_
    exact g_return (pc := 75) rfl dJ24_linkNodeAtEnd_75
  refine g_ifnonnull (pc := 19) (tgt := 30) rfl dJ24_linkNodeAtEnd_19 ?_ ?_
  · refine g_aload_n (pc := 22) (x := a0) 1 rfl rfl dJ24_linkNodeAtEnd_22 ?_
    refine g_aload_n (pc := 23) (x := a1) 2 rfl rfl dJ24_linkNodeAtEnd_23 ?_
    refine g_put (pc := 24) k_26 (gblt rfl) lk_J24_11_26 rfl rfl (gNr _ _) dJ24_linkNodeAtEnd_24 fun h14 => ?_
    refine g_goto (pc := 27) (tgt := 40) rfl dJ24_linkNodeAtEnd_27 ?_
    exact g_sub [] rfl (Hj11 () h14)
  refine g_aload_n (pc := 30) (x := a1) 2 rfl rfl dJ24_linkNodeAtEnd_30 ?_
  refine g_aload_n (pc := 31) (x := v7) 0 rfl rfl dJ24_linkNodeAtEnd_31 ?_
  refine g_put (pc := 32) k_27 (gblt rfl) lk_J24_14_27 rfl rfl (gNr _ _) dJ24_linkNodeAtEnd_32 fun h12 => ?_
  refine g_aload_n (pc := 35) (x := v7) 0 rfl rfl dJ24_linkNodeAtEnd_35 ?_
  refine g_aload_n (pc := 36) (x := a1) 2 rfl rfl dJ24_linkNodeAtEnd_36 ?_
  refine g_put (pc := 37) k_27 (gblt rfl) lk_J24_19_27 rfl rfl (gNr _ _) dJ24_linkNodeAtEnd_37 fun h13 => ?_
  exact g_sub [] rfl (Hj11 () h13)
/-! java/util/LinkedHashMap.newNode(ILjava/lang/Object;Ljava/lang/Object;Ljava/util/HashMap$Node;)Ljava/util/HashMap$Node; -/
noncomputable def sJ24_newNode (G : GG) (N : Nat) (a0 : Option Nat) (a1 : Int32) (a2 : Option Nat) (a3 : Option Nat) (a4 : Option Nat) (h : Hp) : Out (Option Nat) :=
  gNew h 27 [.int 0, .null, .null, .null, .null, .null] 6 fun v1 h2 =>
  bI v1 (fun q8 => sJ48_init G N (some q8) a1 a2 a3 a4 h2) fun v3 h4 =>
  bV h4 a0 26 (fun q7 => sJ24_linkNodeAtEnd G N (some q7) v1 h4) fun v5 h6 =>
  some (.inl v1, h6)
abbrev mJ24_newNode : MI := (RJ24, cJ24_newNode, 6, (some (.object "java/util/HashMap$Node")), [], 3, 60, "newNode")
theorem tJ24_newNode {G : GG} {l : Launch} (hs : l.stackTraces = false) {N : Nat} {a0 : Option Nat} {a1 : Int32} {a2 : Option Nat} {a3 : Option Nat} {a4 : Option Nat} {h : Hp} {r : Option Nat ⊕ Nat} {hf : Hp} (ho : sJ24_newNode G N a0 a1 a2 a3 a4 h = some (r, hf)) : gMet G l yJ24_newNode (ws_ yJ24_newNode cJ24_newNode 6 (some (.object "java/util/HashMap$Node"))) 3 60 [gr a0, gi a1, gr a2, gr a3, gr a4] h cvR r hf := by
  refine gMet.of ho hs (plainFor_of_name pn_J24) rfl rfl (gbl rfl) fun X => ?_
  show gT G l X mJ24_newNode cvR r hf 0 [(0, gr a0), (1, gi a1), (2, gr a2), (3, gr a3), (4, gr a4)] [] h (sJ24_newNode G N a0 a1 a2 a3 a4 h)
  delta sJ24_newNode
  refine g_new (pc := 0) k_27 df_27 q2321 q2858 q194 dJ24_newNode_0 fun v1 h2 => ?_
  refine g_dup (pc := 3) rfl dJ24_newNode_3 ?_
  refine g_iload_n (pc := 4) (x := a1) 1 rfl rfl dJ24_newNode_4 ?_
  refine g_aload_n (pc := 5) (x := a2) 2 rfl rfl dJ24_newNode_5 ?_
  refine g_aload_n (pc := 6) (x := a3) 3 rfl rfl dJ24_newNode_6 ?_
  refine g_aload (pc := 7) (x := a4) 4 rfl dJ24_newNode_7 ?_
  refine g_bIu (pc := 9) (y := yJ48_init) (ws := ws_ yJ48_init cJ48_init 5 none) (fr := 2) (lo := 36) (as := [gi a1, gr a2, gr a3, gr a4]) (st := [gr v1]) (g_no) rfl (fun _ _ _ e => tJ48_init hs e) (fun K _ _ _ hM R e1 e2 => g_runI (M := mJ24_newNode) (pc := 9) (y := yJ48_init) (bytes := cJ48_init) (maxL := 5) (ret := none) (fr := 2) (lo := 36) (as := [gi a1, gr a2, gr a3, gr a4]) (st := [gr v1]) gy_J48_init (gbl rfl) (gbl rfl) (gbl rfl) rfl q2859 q2860 rfl dJ24_newNode_9 K hM R e1 e2) fun v3 h4 => ?_
  refine g_astore (pc := 12) (lv' := [(5, gr v1), (0, gr a0)]) [0, 1] rfl (gblt rfl) dJ24_newNode_12 ?_
  refine g_aload_n (pc := 14) (x := a0) 1 rfl rfl dJ24_newNode_14 ?_
  refine g_aload (pc := 15) (x := v1) 0 rfl dJ24_newNode_15 ?_
  refine g_bVu (pc := 17) (y := yJ24_linkNodeAtEnd) (ws := ws_ yJ24_linkNodeAtEnd cJ24_linkNodeAtEnd 3 none) (fr := 0) (lo := 0) (as := [gr v1]) (st := []) (g_no) rfl (fun _ _ _ e => tJ24_linkNodeAtEnd hs e) (fun K _ _ _ hq hM R e1 e2 => g_runV (M := mJ24_newNode) (pc := 17) (y := yJ24_linkNodeAtEnd) (bytes := cJ24_linkNodeAtEnd) (maxL := 3) (ret := none) (fr := 0) (lo := 0) (as := [gr v1]) (st := []) hq (C := "java/util/LinkedHashMap") rfl gy_J24_linkNodeAtEnd (gbl rfl) (gbl rfl) (gbl rfl) q2938 q2940 qs39 dJ24_newNode_17 K hM R e1 e2) fun v5 h6 => ?_
  refine g_aload (pc := 20) (x := v1) 0 rfl dJ24_newNode_20 ?_
  exact g_areturn (pc := 22) rfl (Or.inl ⟨_, rfl⟩) dJ24_newNode_22
/-! java/util/LinkedHashMap.removeEldestEntry(Ljava/util/Map$Entry;)Z -/
noncomputable def sJ24_removeEldestEntry (G : GG) (N : Nat) (a0 : Option Nat) (a1 : Option Nat) (h : Hp) : Out (Int32) :=
  gRtZ (0 : Int32) h
abbrev mJ24_removeEldestEntry : MI := (RJ24, cJ24_removeEldestEntry, 2, (some .boolean), [], 0, 0, "removeEldestEntry")
theorem tJ24_removeEldestEntry {G : GG} {l : Launch} (hs : l.stackTraces = false) {N : Nat} {a0 : Option Nat} {a1 : Option Nat} {h : Hp} {r : Int32 ⊕ Nat} {hf : Hp} (ho : sJ24_removeEldestEntry G N a0 a1 h = some (r, hf)) : gMet G l yJ24_removeEldestEntry (ws_ yJ24_removeEldestEntry cJ24_removeEldestEntry 2 (some .boolean)) 0 0 [gr a0, gr a1] h cvI r hf := by
  refine gMet.of ho hs (plainFor_of_name pn_J24) rfl rfl (gbl rfl) fun X => ?_
  show gT G l X mJ24_removeEldestEntry cvI r hf 0 [(0, gr a0), (1, gr a1)] [] h (sJ24_removeEldestEntry G N a0 a1 h)
  delta sJ24_removeEldestEntry
  refine g_iconst (pc := 0) (v := (0 : Int32)) ic_0 dJ24_removeEldestEntry_0 ?_
  exact g_zreturn (pc := 1) rfl dJ24_removeEldestEntry_1
/-! java/util/LinkedHashMap.afterNodeInsertion(Z)V -/
noncomputable def sJ24_afterNodeInsertion (G : GG) (N : Nat) (a0 : Option Nat) (a1 : Int32) (h : Hp) : Out (Unit) :=
  if a1 = 0 then (some (.inl (), h))
  else gFr h a0 26 8 fun v1 =>
  if v1 = none then (some (.inl (), h))
  else bV h a0 26 (fun q4 => sJ24_removeEldestEntry G N (some q4) v1 h) fun v2 h3 =>
  if v2 = 0 then (some (.inl (), h3))
  else none
abbrev mJ24_afterNodeInsertion : MI := (RJ24, cJ24_afterNodeInsertion, 4, none, [], 1, 21, "afterNodeInsertion")
theorem tJ24_afterNodeInsertion {G : GG} {l : Launch} (hs : l.stackTraces = false) {N : Nat} {a0 : Option Nat} {a1 : Int32} {h : Hp} {r : Unit ⊕ Nat} {hf : Hp} (ho : sJ24_afterNodeInsertion G N a0 a1 h = some (r, hf)) : gMet G l yJ24_afterNodeInsertion (ws_ yJ24_afterNodeInsertion cJ24_afterNodeInsertion 4 none) 1 21 [gr a0, gi a1] h cvU r hf := by
  refine gMet.of ho hs (plainFor_of_name pn_J24) rfl rfl (gbl rfl) fun X => ?_
  show gT G l X mJ24_afterNodeInsertion cvU r hf 0 [(0, gr a0), (1, gi a1)] [] h (sJ24_afterNodeInsertion G N a0 a1 h)
  delta sJ24_afterNodeInsertion
  refine g_iload_n (pc := 0) (x := a1) 1 rfl rfl dJ24_afterNodeInsertion_0 ?_
  refine g_if_eq (pc := 1) (tgt := 39) rfl dJ24_afterNodeInsertion_1 ?_ ?_
  · exact g_return (pc := 39) rfl dJ24_afterNodeInsertion_39
  refine g_aload_n (pc := 4) (x := a0) 0 rfl rfl dJ24_afterNodeInsertion_4 ?_
  refine g_getfr (pc := 5) k_26 (gblt rfl) lk_J24_7_26 dJ24_afterNodeInsertion_5 fun v1 => ?_
  refine g_dup (pc := 8) rfl dJ24_afterNodeInsertion_8 ?_
  refine g_astore_n (pc := 9) (lv' := [(2, gr v1), (0, gr a0)]) [0, 1] rfl rfl (gblt rfl) dJ24_afterNodeInsertion_9 ?_
  refine g_ifnull (pc := 10) (tgt := 39) rfl dJ24_afterNodeInsertion_10 ?_ ?_
  · exact g_return (pc := 39) rfl dJ24_afterNodeInsertion_39
  refine g_aload_n (pc := 13) (x := a0) 1 rfl rfl dJ24_afterNodeInsertion_13 ?_
  refine g_aload_n (pc := 14) (x := v1) 0 rfl rfl dJ24_afterNodeInsertion_14 ?_
  refine g_bVi (pc := 15) (y := yJ24_removeEldestEntry) (ws := ws_ yJ24_removeEldestEntry cJ24_removeEldestEntry 2 (some .boolean)) (fr := 0) (lo := 0) (as := [gr v1]) (st := []) (g_no) rfl (fun _ _ _ e => tJ24_removeEldestEntry hs e) (fun K _ _ _ hq hM R e1 e2 => g_runV (M := mJ24_afterNodeInsertion) (pc := 15) (y := yJ24_removeEldestEntry) (bytes := cJ24_removeEldestEntry) (maxL := 2) (ret := (some .boolean)) (fr := 0) (lo := 0) (as := [gr v1]) (st := []) hq (C := "java/util/LinkedHashMap") rfl gy_J24_removeEldestEntry (gbl rfl) (gbl rfl) (gbl rfl) q3007 q3008 q3009 dJ24_afterNodeInsertion_15 K hM R e1 e2) fun v2 h3 => ?_
  refine g_if_eq (pc := 18) (tgt := 39) rfl dJ24_afterNodeInsertion_18 ?_ ?_
  · exact g_return (pc := 39) rfl dJ24_afterNodeInsertion_39
  exact g_none
/-! java/util/HashMap.putVal(ILjava/lang/Object;Ljava/lang/Object;ZZ)Ljava/lang/Object; -/
noncomputable def bJ23_putVal_c26_134 (G : GG) (N : Nat) (a1 : Int32) (a2 : Option Nat) (j28 : (Option Nat) → Hp → Out (Option Nat)) (j46 : (Option Nat × Option Nat × Int32) → Hp → Out (Option Nat)) (j53 : (Option Nat) → Hp → Out (Option Nat)) (w56 : (Option Nat × Int32) → Hp → Out (Option Nat)) (x54 : Option Nat × Int32) (h55 : Hp) : Out (Option Nat) :=
  gFr h55 x54.1 27 3 fun v57 =>
  if v57 = none then (j46 (x54.1, v57, x54.2) h55)
  else gFi h55 v57 27 0 fun v58 =>
  gJ (fun (x59 : Unit) (h60 : Hp) =>
  w56 (v57, x54.2 + (1 : Int32)) h60) fun j61 =>
  if v58 = a1 then (gFr h55 v57 27 1 fun v62 =>
  if v62 = a2 then (j28 v57 h55)
  else if a2 = none then (j61 () h55)
  else gJ (fun (v63 : Int32) (h64 : Hp) =>
  if v63 = 0 then (j61 () h64)
  else j53 v57 h64) fun j65 =>
  gSw h55 a2 10 (bV h55 a2 10 (fun q66 => sX7_equals G N (some q66) v62 h55) j65) (bV h55 a2 19 (fun q67 => sJ20_equals G N (some q67) v62 h55) j65))
  else j61 () h55
noncomputable def sJ23_putVal_c26 (G : GG) (N : Nat) (a0 : Option Nat) (a1 : Int32) (a2 : Option Nat) (a3 : Option Nat) (a4 : Int32) (a5 : Int32) (h : Hp) : Out (Option Nat) :=
  gFr h a0 26 0 fun v1 =>
  gJ (fun (x2 : Option Nat × Int32) (h3 : Hp) =>
  gLet ((x2.2 - (1 : Int32)) &&& a1) fun v5 =>
  gAr h3 x2.1 8 v5 fun v6 =>
  gJ (fun (x7 : Unit) (h8 : Hp) =>
  gFi h8 a0 26 3 fun v10 =>
  gP G h8 a0 26 3 (.int (v10 + (1 : Int32))) fun h11 =>
  gFi h11 a0 26 2 fun v12 =>
  gLet (v12 + (1 : Int32)) fun v13 =>
  gP G h11 a0 26 2 (.int v13) fun h14 =>
  gFi h14 a0 26 4 fun v15 =>
  gJ (fun (x16 : Unit) (h17 : Hp) =>
  bV h17 a0 26 (fun q21 => sJ24_afterNodeInsertion G N (some q21) a5 h17) fun v19 h20 =>
  some (.inl none, h20)) fun j18 =>
  if v13 ≤ v15 then (j18 () h14)
  else bV h14 a0 26 (fun q24 => sJ23_resize_c26 G N (some q24) h14) fun v22 h23 =>
  j18 () h23) fun j9 =>
  if v6 = none then (bV h3 a0 26 (fun q80 => sJ24_newNode G N (some q80) a1 a2 a3 none h3) fun v77 h78 =>
  gSr G h78 x2.1 8 asl_java_util_HashMap_Node v5 v77 fun h79 =>
  j9 () h79)
  else gFi h3 v6 27 0 fun v25 =>
  gJ (fun (x26 : Option Nat) (h27 : Hp) =>
  if x26 = none then (j9 () h27)
  else gFr h27 x26 27 2 fun v29 =>
  gJ (fun (x30 : Unit) (h31 : Hp) =>
  bV h31 a0 26 (fun q35 => sJ24_afterNodeAccess G N (some q35) x26 h31) fun v33 h34 =>
  some (.inl v29, h34)) fun j32 =>
  gJ (fun (x36 : Unit) (h37 : Hp) =>
  gP G h37 x26 27 2 (va_rf a3) fun h39 =>
  j32 () h39) fun j38 =>
  if a4 = 0 then (j38 () h27)
  else if v29 = none then (j38 () h27)
  else j32 () h27) fun j28 =>
  gJ (fun (x40 : Unit) (h41 : Hp) =>
  gIn h41 v6 [] [27] fun v43 =>
  if v43 = 0 then (gJ (fun (x44 : Option Nat × Option Nat × Int32) (h45 : Hp) =>
  bV h45 a0 26 (fun q50 => sJ24_newNode G N (some q50) a1 a2 a3 none h45) fun v47 h48 =>
  gP G h48 x44.1 27 3 (va_rf v47) fun h49 =>
  if x44.2.2 < (7 : Int32) then (j28 x44.2.1 h49)
  else none) fun j46 =>
  gJ (fun (x51 : Option Nat) (h52 : Hp) =>
  j28 x51 h52) fun j53 =>
  gLp (bJ23_putVal_c26_134 G N a1 a2 j28 j46 j53) N (v6, (0 : Int32)) h41)
  else none) fun j42 =>
  if v25 = a1 then (gFr h3 v6 27 1 fun v68 =>
  gJ (fun (x69 : Unit) (h70 : Hp) =>
  j28 v6 h70) fun j71 =>
  if v68 = a2 then (j71 () h3)
  else if a2 = none then (j42 () h3)
  else gJ (fun (v72 : Int32) (h73 : Hp) =>
  if v72 = 0 then (j42 () h73)
  else j71 () h73) fun j74 =>
  gSw h3 a2 10 (bV h3 a2 10 (fun q75 => sX7_equals G N (some q75) v68 h3) j74) (bV h3 a2 19 (fun q76 => sJ20_equals G N (some q76) v68 h3) j74))
  else j42 () h3) fun j4 =>
  gJ (fun (x81 : Unit) (h82 : Hp) =>
  bV h82 a0 26 (fun q87 => sJ23_resize_c26 G N (some q87) h82) fun v84 h85 =>
  gLen h85 v84 fun v86 =>
  j4 (v84, v86) h85) fun j83 =>
  if v1 = none then (j83 () h)
  else gLen h v1 fun v88 =>
  if v88 = 0 then (j83 () h)
  else j4 (v1, v88) h
abbrev mJ23_putVal_c26 : MI := (RJ23, cJ23_putVal, 13, (some (.object "java/lang/Object")), [], 4, 85, "putVal")
theorem tJ23_putVal_c26 {G : GG} {l : Launch} (hs : l.stackTraces = false) {N : Nat} {a0 : Option Nat} {a1 : Int32} {a2 : Option Nat} {a3 : Option Nat} {a4 : Int32} {a5 : Int32} {h : Hp} {r : Option Nat ⊕ Nat} {hf : Hp} (ho : sJ23_putVal_c26 G N a0 a1 a2 a3 a4 a5 h = some (r, hf)) : gMet G l yJ23_putVal (ws_ yJ23_putVal cJ23_putVal 13 (some (.object "java/lang/Object"))) 4 85 [gr a0, gi a1, gr a2, gr a3, gi a4, gi a5] h cvR r hf := by
  refine gMet.of ho hs (plainFor_of_name pn_J23) rfl rfl (gbl rfl) fun X => ?_
  show gT G l X mJ23_putVal_c26 cvR r hf 0 [(0, gr a0), (1, gi a1), (2, gr a2), (3, gr a3), (4, gi a4), (5, gi a5)] [] h (sJ23_putVal_c26 G N a0 a1 a2 a3 a4 a5 h)
  delta sJ23_putVal_c26
  refine g_aload_n (pc := 0) (x := a0) 0 rfl rfl dJ23_putVal_0 ?_
  refine g_getfr (pc := 1) k_26 (gblt rfl) lk_J23_105_26 dJ23_putVal_1 fun v1 => ?_
  refine g_dup (pc := 4) rfl dJ23_putVal_4 ?_
  refine g_astore (pc := 5) (lv' := [(6, gr v1), (0, gr a0), (1, gi a1), (2, gr a2), (3, gr a3), (4, gi a4), (5, gi a5)]) [0, 1, 2, 3, 4, 5, 6] rfl (gblt rfl) dJ23_putVal_5 ?_
  refine g_join 29 (fun (x2 : Option Nat × Int32) => [(0, gr a0), (1, gi a1), (2, gr a2), (3, gr a3), (4, gi a4), (5, gi a5), (6, gr x2.1), (8, gi x2.2)]) (fun (x2 : Option Nat × Int32) => []) (fun x2 h3 => ?_) (fun j4 Hj4 => ?_)
  · refine g_aload (pc := 29) (x := x2.1) 6 rfl dJ23_putVal_29 ?_
    refine g_iload (pc := 31) (x := x2.2) 7 rfl dJ23_putVal_31 ?_
    refine g_iconst (pc := 33) (v := (1 : Int32)) ic_1 dJ23_putVal_33 ?_
    refine g_isub (pc := 34) dJ23_putVal_34 ?_
    refine g_iload_n (pc := 35) (x := a1) 1 rfl rfl dJ23_putVal_35 ?_
    refine g_iand (pc := 36) dJ23_putVal_36 ?_
    refine g_leti fun v5 => ?_
    refine g_dup (pc := 37) rfl dJ23_putVal_37 ?_
    refine g_istore (pc := 38) (lv' := [(9, gi v5), (0, gr a0), (1, gi a1), (2, gr a2), (3, gr a3), (4, gi a4), (5, gi a5), (6, gr x2.1)]) [0, 1, 2, 3, 4, 5, 6, 7] rfl (gblt rfl) dJ23_putVal_38 ?_
    refine g_aaload (pc := 40) rfl dJ23_putVal_40 fun v6 => ?_
    refine g_dup (pc := 41) rfl dJ23_putVal_41 ?_
    refine g_astore (pc := 42) (lv' := [(7, gr v6), (9, gi v5), (0, gr a0), (1, gi a1), (2, gr a2), (3, gr a3), (4, gi a4), (5, gi a5), (6, gr x2.1)]) [0, 1, 2, 3, 4, 5, 6, 7, 8] rfl (gblt rfl) dJ23_putVal_42 ?_
    refine g_join 259 (fun (x7 : Unit) => [(0, gr a0), (5, gi a5)]) (fun (x7 : Unit) => []) (fun x7 h8 => ?_) (fun j9 Hj9 => ?_)
    · refine g_aload_n (pc := 259) (x := a0) 0 rfl rfl dJ23_putVal_259 ?_
      refine g_dup (pc := 260) rfl dJ23_putVal_260 ?_
      refine g_getfi (pc := 261) k_26 (gblt rfl) lk_J23_202_26 dJ23_putVal_261 fun v10 => ?_
      refine g_iconst (pc := 264) (v := (1 : Int32)) ic_1 dJ23_putVal_264 ?_
      refine g_iadd (pc := 265) dJ23_putVal_265 ?_
      refine g_put (pc := 266) k_26 (gblt rfl) lk_J23_202_26 rfl rfl (gNi _) dJ23_putVal_266 fun h11 => ?_
      refine g_aload_n (pc := 269) (x := a0) 0 rfl rfl dJ23_putVal_269 ?_
      refine g_dup (pc := 270) rfl dJ23_putVal_270 ?_
      refine g_getfi (pc := 271) k_26 (gblt rfl) lk_J23_156_26 dJ23_putVal_271 fun v12 => ?_
      refine g_iconst (pc := 274) (v := (1 : Int32)) ic_1 dJ23_putVal_274 ?_
      refine g_iadd (pc := 275) dJ23_putVal_275 ?_
      refine g_leti fun v13 => ?_
      refine g_dup_x1 (pc := 276) rfl rfl dJ23_putVal_276 ?_
      refine g_put (pc := 277) k_26 (gblt rfl) lk_J23_156_26 rfl rfl (gNi _) dJ23_putVal_277 fun h14 => ?_
      refine g_aload_n (pc := 280) (x := a0) 0 rfl rfl dJ23_putVal_280 ?_
      refine g_getfi (pc := 281) k_26 (gblt rfl) lk_J23_88_26 dJ23_putVal_281 fun v15 => ?_
      refine g_join 292 (fun (x16 : Unit) => [(0, gr a0), (5, gi a5)]) (fun (x16 : Unit) => []) (fun x16 h17 => ?_) (fun j18 Hj18 => ?_)
      · refine g_aload_n (pc := 292) (x := a0) 0 rfl rfl dJ23_putVal_292 ?_
        refine g_iload (pc := 293) (x := a5) 1 rfl dJ23_putVal_293 ?_
        refine g_bVu (pc := 295) (y := yJ24_afterNodeInsertion) (ws := ws_ yJ24_afterNodeInsertion cJ24_afterNodeInsertion 4 none) (fr := 1) (lo := 21) (as := [gi a5]) (st := []) (g_no) rfl (fun _ _ _ e => tJ24_afterNodeInsertion hs e) (fun K _ _ _ hq hM R e1 e2 => g_runUA (x := ⟨"java/util/HashMap", "afterNodeInsertion", "(Z)V"⟩) (owner := "java/util/HashMap") (M := mJ23_putVal_c26) (pc := 295) (y := yJ24_afterNodeInsertion) (bytes := cJ24_afterNodeInsertion) (maxL := 4) (ret := none) (fr := 1) (lo := 21) (as := [gi a5]) (st := []) hq (C := "java/util/LinkedHashMap") rfl gy_J24_afterNodeInsertion rfl (gbl rfl) (gbl rfl) (gbl rfl) q3001 q3003 q3011 mhx_java_util_HashMap q3004 q3005 dJ23_putVal_295 K hM R e1 e2) fun v19 h20 => ?_
        refine g_aconst_null (pc := 298) dJ23_putVal_298 ?_
        exact g_areturn (pc := 299) rfl (Or.inl ⟨_, rfl⟩) dJ23_putVal_299
      refine g_icmp_le (pc := 284) (tgt := 292) rfl dJ23_putVal_284 ?_ ?_
      · exact Hj18 () h14
      refine g_aload_n (pc := 287) (x := a0) 0 rfl rfl dJ23_putVal_287 ?_
      refine g_bVr (pc := 288) (y := yJ23_resize) (ws := ws_ yJ23_resize cJ23_resize 14 (some (.array (.object "java/util/HashMap$Node")))) (fr := 0) (lo := 0) (as := []) (st := []) (g_no) rfl (fun _ _ _ e => tJ23_resize_c26 hs e) (fun K _ _ _ hq hM R e1 e2 => g_runV (M := mJ23_putVal_c26) (pc := 288) (y := yJ23_resize) (bytes := cJ23_resize) (maxL := 14) (ret := (some (.array (.object "java/util/HashMap$Node")))) (fr := 0) (lo := 0) (as := []) (st := []) hq (C := "java/util/LinkedHashMap") rfl gy_J23_resize (gbl rfl) (gbl rfl) (gbl rfl) q2834 q2835 q2837 dJ23_putVal_288 K hM R e1 e2) fun v22 h23 => ?_
      refine g_pop (pc := 291) rfl dJ23_putVal_291 ?_
      exact Hj18 () h23
    refine g_ifnonnull (pc := 44) (tgt := 63) rfl dJ23_putVal_44 ?_ ?_
    · refine g_aload (pc := 47) (x := x2.1) 8 rfl dJ23_putVal_47 ?_
      refine g_iload (pc := 49) (x := v5) 1 rfl dJ23_putVal_49 ?_
      refine g_aload_n (pc := 51) (x := a0) 2 rfl rfl dJ23_putVal_51 ?_
      refine g_iload_n (pc := 52) (x := a1) 3 rfl rfl dJ23_putVal_52 ?_
      refine g_aload_n (pc := 53) (x := a2) 4 rfl rfl dJ23_putVal_53 ?_
      refine g_aload_n (pc := 54) (x := a3) 5 rfl rfl dJ23_putVal_54 ?_
      refine g_aconst_null (pc := 55) dJ23_putVal_55 ?_
      refine g_bVr (pc := 56) (y := yJ24_newNode) (ws := ws_ yJ24_newNode cJ24_newNode 6 (some (.object "java/util/HashMap$Node"))) (fr := 3) (lo := 60) (as := [gi a1, gr a2, gr a3, gr none]) (st := [gi v5, gr x2.1]) (g_no) rfl (fun _ _ _ e => tJ24_newNode hs e) (fun K _ _ _ hq hM R e1 e2 => g_runUA (x := ⟨"java/util/HashMap", "newNode", "(ILjava/lang/Object;Ljava/lang/Object;Ljava/util/HashMap$Node;)Ljava/util/HashMap$Node;"⟩) (owner := "java/util/HashMap") (M := mJ23_putVal_c26) (pc := 56) (y := yJ24_newNode) (bytes := cJ24_newNode) (maxL := 6) (ret := (some (.object "java/util/HashMap$Node"))) (fr := 3) (lo := 60) (as := [gi a1, gr a2, gr a3, gr none]) (st := [gi v5, gr x2.1]) hq (C := "java/util/LinkedHashMap") rfl gy_J24_newNode rfl (gbl rfl) (gbl rfl) (gbl rfl) q2932 q2934 q2942 mhx_java_util_HashMap q2935 q2936 dJ23_putVal_56 K hM R e1 e2) fun v77 h78 => ?_
      refine g_aastore (pc := 59) rfl asl_java_util_HashMap_Node_ok dJ23_putVal_59 fun h79 => ?_
      refine g_goto (pc := 60) (tgt := 259) rfl dJ23_putVal_60 ?_
      exact g_sub [2, 7] rfl (Hj9 () h79)
    refine g_aload (pc := 63) (x := v6) 0 rfl dJ23_putVal_63 ?_
    refine g_getfi (pc := 65) k_27 (gblt rfl) lk_J23_168_27 dJ23_putVal_65 fun v25 => ?_
    refine g_iload_n (pc := 68) (x := a1) 3 rfl rfl dJ23_putVal_68 ?_
    refine g_join 222 (fun (x26 : Option Nat) => [(0, gr a0), (3, gr a3), (4, gi a4), (5, gi a5), (10, gr x26)]) (fun (x26 : Option Nat) => []) (fun x26 h27 => ?_) (fun j28 Hj28 => ?_)
    · refine g_aload (pc := 222) (x := x26) 4 rfl dJ23_putVal_222 ?_
      refine g_ifnull (pc := 224) (tgt := 259) rfl dJ23_putVal_224 ?_ ?_
      · exact g_sub [0, 3] rfl (Hj9 () h27)
      refine g_aload (pc := 227) (x := x26) 4 rfl dJ23_putVal_227 ?_
      refine g_getfr (pc := 229) k_27 (gblt rfl) lk_J23_162_27 dJ23_putVal_229 fun v29 => ?_
      refine g_astore (pc := 232) (lv' := [(12, gr v29), (0, gr a0), (3, gr a3), (4, gi a4), (10, gr x26)]) [0, 1, 2, 3, 5] rfl (gblt rfl) dJ23_putVal_232 ?_
      refine g_iload (pc := 234) (x := a4) 3 rfl dJ23_putVal_234 ?_
      refine g_join 250 (fun (x30 : Unit) => [(0, gr a0), (10, gr x26), (12, gr v29)]) (fun (x30 : Unit) => []) (fun x30 h31 => ?_) (fun j32 Hj32 => ?_)
      · refine g_aload_n (pc := 250) (x := a0) 0 rfl rfl dJ23_putVal_250 ?_
        refine g_aload (pc := 251) (x := x26) 1 rfl dJ23_putVal_251 ?_
        refine g_bVu (pc := 253) (y := yJ24_afterNodeAccess) (ws := ws_ yJ24_afterNodeAccess cJ24_afterNodeAccess 7 none) (fr := 0) (lo := 0) (as := [gr x26]) (st := []) (g_no) rfl (fun _ _ _ e => tJ24_afterNodeAccess hs e) (fun K _ _ _ hq hM R e1 e2 => g_runUA (x := ⟨"java/util/HashMap", "afterNodeAccess", "(Ljava/util/HashMap$Node;)V"⟩) (owner := "java/util/HashMap") (M := mJ23_putVal_c26) (pc := 253) (y := yJ24_afterNodeAccess) (bytes := cJ24_afterNodeAccess) (maxL := 7) (ret := none) (fr := 0) (lo := 0) (as := [gr x26]) (st := []) hq (C := "java/util/LinkedHashMap") rfl gy_J24_afterNodeAccess rfl (gbl rfl) (gbl rfl) (gbl rfl) q2996 q2998 q3000 mhx_java_util_HashMap q2999 q2318 dJ23_putVal_253 K hM R e1 e2) fun v33 h34 => ?_
        refine g_aload (pc := 256) (x := v29) 2 rfl dJ23_putVal_256 ?_
        exact g_areturn (pc := 258) rfl (Or.inl ⟨_, rfl⟩) dJ23_putVal_258
      refine g_join 244 (fun (x36 : Unit) => [(0, gr a0), (3, gr a3), (10, gr x26), (12, gr v29)]) (fun (x36 : Unit) => []) (fun x36 h37 => ?_) (fun j38 Hj38 => ?_)
      · refine g_aload (pc := 244) (x := x26) 2 rfl dJ23_putVal_244 ?_
        refine g_aload_n (pc := 246) (x := a3) 1 rfl rfl dJ23_putVal_246 ?_
        refine g_put (pc := 247) k_27 (gblt rfl) lk_J23_162_27 rfl rfl (gNr _ _) dJ23_putVal_247 fun h39 => ?_
        exact g_sub [0, 2, 3] rfl (Hj32 () h39)
      refine g_if_eq (pc := 236) (tgt := 244) rfl dJ23_putVal_236 ?_ ?_
      · exact g_sub [1, 2, 4, 0] rfl (Hj38 () h27)
      refine g_aload (pc := 239) (x := v29) 0 rfl dJ23_putVal_239 ?_
      refine g_ifnonnull (pc := 241) (tgt := 250) rfl dJ23_putVal_241 ?_ ?_
      · exact g_sub [1, 2, 4, 0] rfl (Hj38 () h27)
      exact g_sub [1, 4, 0] rfl (Hj32 () h27)
    refine g_join 104 (fun (x40 : Unit) => [(0, gr a0), (1, gi a1), (2, gr a2), (3, gr a3), (4, gi a4), (5, gi a5), (7, gr v6)]) (fun (x40 : Unit) => []) (fun x40 h41 => ?_) (fun j42 Hj42 => ?_)
    · refine g_aload (pc := 104) (x := v6) 6 rfl dJ23_putVal_104 ?_
      refine g_instanceof (pc := 106) q2099 as__java_util_HashMap_TreeNode ns_27_java_util_HashMap_TreeNode dJ23_putVal_106 fun v43 => ?_
      refine g_if_eq (pc := 109) (tgt := 131) rfl dJ23_putVal_109 ?_ ?_
      rotate_left
      · exact g_none
      refine g_iconst (pc := 131) (v := (0 : Int32)) ic_0 dJ23_putVal_131 ?_
      refine g_istore (pc := 132) (lv' := [(12, gi (0 : Int32)), (0, gr a0), (1, gi a1), (2, gr a2), (3, gr a3), (4, gi a4), (5, gi a5), (7, gr v6)]) [0, 1, 2, 3, 4, 5, 6, 7] rfl (gblt rfl) dJ23_putVal_132 ?_
      refine g_join 145 (fun (x44 : Option Nat × Option Nat × Int32) => [(0, gr a0), (1, gi a1), (2, gr a2), (3, gr a3), (4, gi a4), (5, gi a5), (7, gr x44.1), (10, gr x44.2.1), (12, gi x44.2.2)]) (fun (x44 : Option Nat × Option Nat × Int32) => []) (fun x44 h45 => ?_) (fun j46 Hj46 => ?_)
      · refine g_aload (pc := 145) (x := x44.1) 6 rfl dJ23_putVal_145 ?_
        refine g_aload_n (pc := 147) (x := a0) 0 rfl rfl dJ23_putVal_147 ?_
        refine g_iload_n (pc := 148) (x := a1) 1 rfl rfl dJ23_putVal_148 ?_
        refine g_aload_n (pc := 149) (x := a2) 2 rfl rfl dJ23_putVal_149 ?_
        refine g_aload_n (pc := 150) (x := a3) 3 rfl rfl dJ23_putVal_150 ?_
        refine g_aconst_null (pc := 151) dJ23_putVal_151 ?_
        refine g_bVr (pc := 152) (y := yJ24_newNode) (ws := ws_ yJ24_newNode cJ24_newNode 6 (some (.object "java/util/HashMap$Node"))) (fr := 3) (lo := 60) (as := [gi a1, gr a2, gr a3, gr none]) (st := [gr x44.1]) (g_no) rfl (fun _ _ _ e => tJ24_newNode hs e) (fun K _ _ _ hq hM R e1 e2 => g_runUA (x := ⟨"java/util/HashMap", "newNode", "(ILjava/lang/Object;Ljava/lang/Object;Ljava/util/HashMap$Node;)Ljava/util/HashMap$Node;"⟩) (owner := "java/util/HashMap") (M := mJ23_putVal_c26) (pc := 152) (y := yJ24_newNode) (bytes := cJ24_newNode) (maxL := 6) (ret := (some (.object "java/util/HashMap$Node"))) (fr := 3) (lo := 60) (as := [gi a1, gr a2, gr a3, gr none]) (st := [gr x44.1]) hq (C := "java/util/LinkedHashMap") rfl gy_J24_newNode rfl (gbl rfl) (gbl rfl) (gbl rfl) q2932 q2934 q2942 mhx_java_util_HashMap q2935 q2936 dJ23_putVal_152 K hM R e1 e2) fun v47 h48 => ?_
        refine g_put (pc := 155) k_27 (gblt rfl) lk_J23_177_27 rfl rfl (gNr _ _) dJ23_putVal_155 fun h49 => ?_
        refine g_iload (pc := 158) (x := x44.2.2) 8 rfl dJ23_putVal_158 ?_
        refine g_bipush (pc := 160) (v := (7 : Int32)) bc_7 dJ23_putVal_160 ?_
        refine g_icmp_lt (pc := 162) (tgt := 222) rfl dJ23_putVal_162 ?_ ?_
        · exact g_sub [0, 3, 4, 5, 7] rfl (Hj28 x44.2.1 h49)
        exact g_none
      refine g_join 209 (fun (x51 : Option Nat) => [(0, gr a0), (3, gr a3), (4, gi a4), (5, gi a5), (10, gr x51)]) (fun (x51 : Option Nat) => []) (fun x51 h52 => ?_) (fun j53 Hj53 => ?_)
      · refine g_goto (pc := 209) (tgt := 222) rfl dJ23_putVal_209 ?_
        exact Hj28 x51 h52
      refine g_sub (lv' := [(0, gr a0), (1, gi a1), (2, gr a2), (3, gr a3), (4, gi a4), (5, gi a5), (7, gr v6), (12, gi (0 : Int32))]) [1, 2, 3, 4, 5, 6, 7, 0] rfl ?_
      refine g_loop (pc := 134) (fun (x54 : Option Nat × Int32) => [(0, gr a0), (1, gi a1), (2, gr a2), (3, gr a3), (4, gi a4), (5, gi a5), (7, gr x54.1), (12, gi x54.2)]) (fun (_ : Option Nat × Int32) => []) (fun w56 Hw56 x54 h55 => ?_) N (v6, (0 : Int32)) h41
      delta bJ23_putVal_c26_134
      refine g_aload (pc := 134) (x := x54.1) 6 rfl dJ23_putVal_134 ?_
      refine g_getfr (pc := 136) k_27 (gblt rfl) lk_J23_177_27 dJ23_putVal_136 fun v57 => ?_
      refine g_dup (pc := 139) rfl dJ23_putVal_139 ?_
      refine g_astore (pc := 140) (lv' := [(10, gr v57), (0, gr a0), (1, gi a1), (2, gr a2), (3, gr a3), (4, gi a4), (5, gi a5), (7, gr x54.1), (12, gi x54.2)]) [0, 1, 2, 3, 4, 5, 6, 7, 8] rfl (gblt rfl) dJ23_putVal_140 ?_
      refine g_ifnonnull (pc := 142) (tgt := 175) rfl dJ23_putVal_142 ?_ ?_
      · exact g_sub [1, 2, 3, 4, 5, 6, 7, 0, 8] rfl (Hj46 (x54.1, v57, x54.2) h55)
      refine g_aload (pc := 175) (x := v57) 0 rfl dJ23_putVal_175 ?_
      refine g_getfi (pc := 177) k_27 (gblt rfl) lk_J23_168_27 dJ23_putVal_177 fun v58 => ?_
      refine g_iload_n (pc := 180) (x := a1) 2 rfl rfl dJ23_putVal_180 ?_
      refine g_join 212 (fun (x59 : Unit) => [(0, gr a0), (1, gi a1), (2, gr a2), (3, gr a3), (4, gi a4), (5, gi a5), (10, gr v57), (12, gi x54.2)]) (fun (x59 : Unit) => []) (fun x59 h60 => ?_) (fun j61 Hj61 => ?_)
      · refine g_aload (pc := 212) (x := v57) 6 rfl dJ23_putVal_212 ?_
        refine g_astore (pc := 214) (lv' := [(7, gr v57), (0, gr a0), (1, gi a1), (2, gr a2), (3, gr a3), (4, gi a4), (5, gi a5), (12, gi x54.2)]) [0, 1, 2, 3, 4, 5, 6, 8] rfl (gblt rfl) dJ23_putVal_214 ?_
        refine g_iinc (pc := 216) (v := x54.2 + (1 : Int32)) 7 rfl (ii_1 _) (lv' := [(12, gi (x54.2 + (1 : Int32))), (7, gr v57), (0, gr a0), (1, gi a1), (2, gr a2), (3, gr a3), (4, gi a4), (5, gi a5)]) [0, 1, 2, 3, 4, 5, 6, 7] rfl (gblt rfl) dJ23_putVal_216 ?_
        refine g_goto (pc := 219) (tgt := 134) rfl dJ23_putVal_219 ?_
        exact g_sub [2, 3, 4, 5, 6, 7, 1, 0] rfl (Hw56 (v57, x54.2 + (1 : Int32)) h60)
      refine g_icmp_ne (pc := 181) (tgt := 212) rfl dJ23_putVal_181 ?_ ?_
      rotate_left
      · exact g_sub [1, 2, 3, 4, 5, 6, 0, 8] rfl (Hj61 () h55)
      refine g_aload (pc := 184) (x := v57) 0 rfl dJ23_putVal_184 ?_
      refine g_getfr (pc := 186) k_27 (gblt rfl) lk_J23_170_27 dJ23_putVal_186 fun v62 => ?_
      refine g_dup (pc := 189) rfl dJ23_putVal_189 ?_
      refine g_astore (pc := 190) (lv' := [(11, gr v62), (10, gr v57), (0, gr a0), (1, gi a1), (2, gr a2), (3, gr a3), (4, gi a4), (5, gi a5), (12, gi x54.2)]) [0, 1, 2, 3, 4, 5, 6, 7, 9] rfl (gblt rfl) dJ23_putVal_190 ?_
      refine g_aload_n (pc := 192) (x := a2) 4 rfl rfl dJ23_putVal_192 ?_
      refine g_acmp_eq (pc := 193) (tgt := 222) rfl dJ23_putVal_193 ?_ ?_
      · exact g_sub [2, 5, 6, 7, 1] rfl (Hj28 v57 h55)
      refine g_aload_n (pc := 196) (x := a2) 4 rfl rfl dJ23_putVal_196 ?_
      refine g_ifnull (pc := 197) (tgt := 212) rfl dJ23_putVal_197 ?_ ?_
      · exact g_sub [2, 3, 4, 5, 6, 7, 1, 8] rfl (Hj61 () h55)
      refine g_aload_n (pc := 200) (x := a2) 4 rfl rfl dJ23_putVal_200 ?_
      refine g_aload (pc := 201) (x := v62) 0 rfl dJ23_putVal_201 ?_
      refine g_join 206 (fun (_ : Int32) => [(11, gr v62), (10, gr v57), (0, gr a0), (1, gi a1), (2, gr a2), (3, gr a3), (4, gi a4), (5, gi a5), (12, gi x54.2)]) (fun (v63 : Int32) => [gi v63]) (fun v63 h64 => ?_) (fun j65 Hj65 => ?_)
      · refine g_if_eq (pc := 206) (tgt := 212) rfl dJ23_putVal_206 ?_ ?_
        · exact g_sub [2, 3, 4, 5, 6, 7, 1, 8] rfl (Hj61 () h64)
        exact g_sub [2, 5, 6, 7, 1] rfl (Hj53 v57 h64)
      refine g_sw ?_ ?_
      · exact g_bVi (pc := 203) (y := yX7_equals) (ws := ws_ yX7_equals cX7_equals 3 (some .boolean)) (fr := 0) (lo := 0) (as := [gr v62]) (st := []) (g_no) rfl (fun _ _ _ e => tX7_equals hs e) (fun K _ _ _ hq hM R e1 e2 => g_runU (x := ⟨"java/lang/Object", "equals", "(Ljava/lang/Object;)Z"⟩) (owner := "java/lang/Object") (M := mJ23_putVal_c26) (pc := 203) (y := yX7_equals) (bytes := cX7_equals) (maxL := 3) (ret := (some .boolean)) (fr := 0) (lo := 0) (as := [gr v62]) (st := []) hq (C := "FlareSlopes$Key") rfl gy_X7_equals rfl (gbl rfl) (gbl rfl) (gbl rfl) q2057 q2059 ⟨q2058, _, _, _, q2098⟩ mhx_java_lang_Object q2067 q2068 dJ23_putVal_203 K hM R e1 e2) Hj65
      exact g_bVi (pc := 203) (y := yJ20_equals) (ws := ws_ yJ20_equals cJ20_equals 2 (some .boolean)) (fr := 1) (lo := 20) (as := [gr v62]) (st := []) (g_no) rfl (fun _ _ _ e => tJ20_equals hs e) (fun K _ _ _ hq hM R e1 e2 => g_runU (x := ⟨"java/lang/Object", "equals", "(Ljava/lang/Object;)Z"⟩) (owner := "java/lang/Object") (M := mJ23_putVal_c26) (pc := 203) (y := yJ20_equals) (bytes := cJ20_equals) (maxL := 2) (ret := (some .boolean)) (fr := 1) (lo := 20) (as := [gr v62]) (st := []) hq (C := "java/lang/Integer") rfl gy_J20_equals rfl (gbl rfl) (gbl rfl) (gbl rfl) q2057 q2059 ⟨q2058, _, _, _, q2098⟩ mhx_java_lang_Object q2084 q2085 dJ23_putVal_203 K hM R e1 e2) Hj65
    refine g_icmp_ne (pc := 69) (tgt := 104) rfl dJ23_putVal_69 ?_ ?_
    rotate_left
    · exact g_sub [2, 3, 4, 5, 6, 7, 0] rfl (Hj42 () h3)
    refine g_aload (pc := 72) (x := v6) 0 rfl dJ23_putVal_72 ?_
    refine g_getfr (pc := 74) k_27 (gblt rfl) lk_J23_170_27 dJ23_putVal_74 fun v68 => ?_
    refine g_dup (pc := 77) rfl dJ23_putVal_77 ?_
    refine g_astore (pc := 78) (lv' := [(11, gr v68), (7, gr v6), (0, gr a0), (1, gi a1), (2, gr a2), (3, gr a3), (4, gi a4), (5, gi a5)]) [0, 1, 3, 4, 5, 6, 7, 8] rfl (gblt rfl) dJ23_putVal_78 ?_
    refine g_aload_n (pc := 80) (x := a2) 4 rfl rfl dJ23_putVal_80 ?_
    refine g_join 97 (fun (x69 : Unit) => [(0, gr a0), (3, gr a3), (4, gi a4), (5, gi a5), (7, gr v6)]) (fun (x69 : Unit) => []) (fun x69 h70 => ?_) (fun j71 Hj71 => ?_)
    · refine g_aload (pc := 97) (x := v6) 4 rfl dJ23_putVal_97 ?_
      refine g_astore (pc := 99) (lv' := [(10, gr v6), (0, gr a0), (3, gr a3), (4, gi a4), (5, gi a5)]) [0, 1, 2, 3, 4] rfl (gblt rfl) dJ23_putVal_99 ?_
      refine g_goto (pc := 101) (tgt := 222) rfl dJ23_putVal_101 ?_
      exact g_sub [1, 2, 3, 4, 0] rfl (Hj28 v6 h70)
    refine g_acmp_eq (pc := 81) (tgt := 97) rfl dJ23_putVal_81 ?_ ?_
    · exact g_sub [2, 5, 6, 7, 1] rfl (Hj71 () h3)
    refine g_aload_n (pc := 84) (x := a2) 4 rfl rfl dJ23_putVal_84 ?_
    refine g_ifnull (pc := 85) (tgt := 104) rfl dJ23_putVal_85 ?_ ?_
    · exact g_sub [2, 3, 4, 5, 6, 7, 1] rfl (Hj42 () h3)
    refine g_aload_n (pc := 88) (x := a2) 4 rfl rfl dJ23_putVal_88 ?_
    refine g_aload (pc := 89) (x := v68) 0 rfl dJ23_putVal_89 ?_
    refine g_join 94 (fun (_ : Int32) => [(11, gr v68), (7, gr v6), (0, gr a0), (1, gi a1), (2, gr a2), (3, gr a3), (4, gi a4), (5, gi a5)]) (fun (v72 : Int32) => [gi v72]) (fun v72 h73 => ?_) (fun j74 Hj74 => ?_)
    · refine g_if_eq (pc := 94) (tgt := 104) rfl dJ23_putVal_94 ?_ ?_
      · exact g_sub [2, 3, 4, 5, 6, 7, 1] rfl (Hj42 () h73)
      exact g_sub [2, 5, 6, 7, 1] rfl (Hj71 () h73)
    refine g_sw ?_ ?_
    · exact g_bVi (pc := 91) (y := yX7_equals) (ws := ws_ yX7_equals cX7_equals 3 (some .boolean)) (fr := 0) (lo := 0) (as := [gr v68]) (st := []) (g_no) rfl (fun _ _ _ e => tX7_equals hs e) (fun K _ _ _ hq hM R e1 e2 => g_runU (x := ⟨"java/lang/Object", "equals", "(Ljava/lang/Object;)Z"⟩) (owner := "java/lang/Object") (M := mJ23_putVal_c26) (pc := 91) (y := yX7_equals) (bytes := cX7_equals) (maxL := 3) (ret := (some .boolean)) (fr := 0) (lo := 0) (as := [gr v68]) (st := []) hq (C := "FlareSlopes$Key") rfl gy_X7_equals rfl (gbl rfl) (gbl rfl) (gbl rfl) q2057 q2059 ⟨q2058, _, _, _, q2098⟩ mhx_java_lang_Object q2067 q2068 dJ23_putVal_91 K hM R e1 e2) Hj74
    exact g_bVi (pc := 91) (y := yJ20_equals) (ws := ws_ yJ20_equals cJ20_equals 2 (some .boolean)) (fr := 1) (lo := 20) (as := [gr v68]) (st := []) (g_no) rfl (fun _ _ _ e => tJ20_equals hs e) (fun K _ _ _ hq hM R e1 e2 => g_runU (x := ⟨"java/lang/Object", "equals", "(Ljava/lang/Object;)Z"⟩) (owner := "java/lang/Object") (M := mJ23_putVal_c26) (pc := 91) (y := yJ20_equals) (bytes := cJ20_equals) (maxL := 2) (ret := (some .boolean)) (fr := 1) (lo := 20) (as := [gr v68]) (st := []) hq (C := "java/lang/Integer") rfl gy_J20_equals rfl (gbl rfl) (gbl rfl) (gbl rfl) q2057 q2059 ⟨q2058, _, _, _, q2098⟩ mhx_java_lang_Object q2084 q2085 dJ23_putVal_91 K hM R e1 e2) Hj74
  refine g_join 19 (fun (x81 : Unit) => [(0, gr a0), (1, gi a1), (2, gr a2), (3, gr a3), (4, gi a4), (5, gi a5)]) (fun (x81 : Unit) => []) (fun x81 h82 => ?_) (fun j83 Hj83 => ?_)
  · refine g_aload_n (pc := 19) (x := a0) 0 rfl rfl dJ23_putVal_19 ?_
    refine g_bVr (pc := 20) (y := yJ23_resize) (ws := ws_ yJ23_resize cJ23_resize 14 (some (.array (.object "java/util/HashMap$Node")))) (fr := 0) (lo := 0) (as := []) (st := []) (g_no) rfl (fun _ _ _ e => tJ23_resize_c26 hs e) (fun K _ _ _ hq hM R e1 e2 => g_runV (M := mJ23_putVal_c26) (pc := 20) (y := yJ23_resize) (bytes := cJ23_resize) (maxL := 14) (ret := (some (.array (.object "java/util/HashMap$Node")))) (fr := 0) (lo := 0) (as := []) (st := []) hq (C := "java/util/LinkedHashMap") rfl gy_J23_resize (gbl rfl) (gbl rfl) (gbl rfl) q2834 q2835 q2837 dJ23_putVal_20 K hM R e1 e2) fun v84 h85 => ?_
    refine g_dup (pc := 23) rfl dJ23_putVal_23 ?_
    refine g_astore (pc := 24) (lv' := [(6, gr v84), (0, gr a0), (1, gi a1), (2, gr a2), (3, gr a3), (4, gi a4), (5, gi a5)]) [0, 1, 2, 3, 4, 5, 6] rfl (gblt rfl) dJ23_putVal_24 ?_
    refine g_alen (pc := 26) dJ23_putVal_26 fun v86 => ?_
    refine g_istore (pc := 27) (lv' := [(8, gi v86), (6, gr v84), (0, gr a0), (1, gi a1), (2, gr a2), (3, gr a3), (4, gi a4), (5, gi a5)]) [0, 1, 2, 3, 4, 5, 6, 7] rfl (gblt rfl) dJ23_putVal_27 ?_
    exact g_sub [2, 3, 4, 5, 6, 7, 1, 0] rfl (Hj4 (v84, v86) h85)
  refine g_ifnull (pc := 7) (tgt := 19) rfl dJ23_putVal_7 ?_ ?_
  · exact g_sub [1, 2, 3, 4, 5, 6] rfl (Hj83 () h)
  refine g_aload (pc := 10) (x := v1) 0 rfl dJ23_putVal_10 ?_
  refine g_alen (pc := 12) dJ23_putVal_12 fun v88 => ?_
  refine g_dup (pc := 13) rfl dJ23_putVal_13 ?_
  refine g_istore (pc := 14) (lv' := [(8, gi v88), (6, gr v1), (0, gr a0), (1, gi a1), (2, gr a2), (3, gr a3), (4, gi a4), (5, gi a5)]) [0, 1, 2, 3, 4, 5, 6, 7] rfl (gblt rfl) dJ23_putVal_14 ?_
  refine g_if_ne (pc := 16) (tgt := 29) rfl dJ23_putVal_16 ?_ ?_
  · exact g_sub [2, 3, 4, 5, 6, 7] rfl (Hj83 () h)
  exact g_sub [2, 3, 4, 5, 6, 7, 1, 0] rfl (Hj4 (v1, v88) h)
/-! java/util/HashMap.put(Ljava/lang/Object;Ljava/lang/Object;)Ljava/lang/Object; -/
noncomputable def sJ23_put_c26 (G : GG) (N : Nat) (a0 : Option Nat) (a1 : Option Nat) (a2 : Option Nat) (h : Hp) : Out (Option Nat) :=
  bnd (sJ23_hash G N a1 h) fun v1 h2 =>
  bV h2 a0 26 (fun q5 => sJ23_putVal_c26 G N (some q5) v1 a1 a2 (0 : Int32) (1 : Int32) h2) fun v3 h4 =>
  some (.inl v3, h4)
abbrev mJ23_put_c26 : MI := (RJ23, cJ23_put, 3, (some (.object "java/lang/Object")), [], 5, 117, "put")
theorem tJ23_put_c26 {G : GG} {l : Launch} (hs : l.stackTraces = false) {N : Nat} {a0 : Option Nat} {a1 : Option Nat} {a2 : Option Nat} {h : Hp} {r : Option Nat ⊕ Nat} {hf : Hp} (ho : sJ23_put_c26 G N a0 a1 a2 h = some (r, hf)) : gMet G l yJ23_put (ws_ yJ23_put cJ23_put 3 (some (.object "java/lang/Object"))) 5 117 [gr a0, gr a1, gr a2] h cvR r hf := by
  refine gMet.of ho hs (plainFor_of_name pn_J23) rfl rfl (gbl rfl) fun X => ?_
  show gT G l X mJ23_put_c26 cvR r hf 0 [(0, gr a0), (1, gr a1), (2, gr a2)] [] h (sJ23_put_c26 G N a0 a1 a2 h)
  delta sJ23_put_c26
  refine g_aload_n (pc := 0) (x := a0) 0 rfl rfl dJ23_put_0 ?_
  refine g_aload_n (pc := 1) (x := a1) 1 rfl rfl dJ23_put_1 ?_
  refine g_bi (pc := 2) (y := yJ23_hash) (ws := ws_ yJ23_hash cJ23_hash 2 (some .int)) (fr := 2) (lo := 40) (as := [gr a1]) (st := [gr a0]) (g_no) rfl (fun _ _ e => tJ23_hash hs e) (fun K _ _ hM R e1 e2 => g_runS (M := mJ23_put_c26) (pc := 2) (y := yJ23_hash) (bytes := cJ23_hash) (maxL := 2) (ret := (some .int)) (fr := 2) (lo := 40) (as := [gr a1]) (st := [gr a0]) gy_J23_hash (gbl rfl) (gbl rfl) (gbl rfl) q2013 q2014 dJ23_put_2 K hM R e1 e2) fun v1 h2 => ?_
  refine g_aload_n (pc := 5) (x := a1) 1 rfl rfl dJ23_put_5 ?_
  refine g_aload_n (pc := 6) (x := a2) 2 rfl rfl dJ23_put_6 ?_
  refine g_iconst (pc := 7) (v := (0 : Int32)) ic_0 dJ23_put_7 ?_
  refine g_iconst (pc := 8) (v := (1 : Int32)) ic_1 dJ23_put_8 ?_
  refine g_bVr (pc := 9) (y := yJ23_putVal) (ws := ws_ yJ23_putVal cJ23_putVal 13 (some (.object "java/lang/Object"))) (fr := 4) (lo := 85) (as := [gi v1, gr a1, gr a2, gi (0 : Int32), gi (1 : Int32)]) (st := []) (g_no) rfl (fun _ _ _ e => tJ23_putVal_c26 hs e) (fun K _ _ _ hq hM R e1 e2 => g_runV (M := mJ23_put_c26) (pc := 9) (y := yJ23_putVal) (bytes := cJ23_putVal) (maxL := 13) (ret := (some (.object "java/lang/Object"))) (fr := 4) (lo := 85) (as := [gi v1, gr a1, gr a2, gi (0 : Int32), gi (1 : Int32)]) (st := []) hq (C := "java/util/LinkedHashMap") rfl gy_J23_putVal (gbl rfl) (gbl rfl) (gbl rfl) q2829 q2830 q2832 dJ23_put_9 K hM R e1 e2) fun v3 h4 => ?_
  exact g_areturn (pc := 12) rfl (Or.inl ⟨_, rfl⟩) dJ23_put_12
/-! java/util/HashSet.add(Ljava/lang/Object;)Z -/
noncomputable def sJ40_add_c34 (G : GG) (N : Nat) (a0 : Option Nat) (a1 : Option Nat) (h : Hp) : Out (Int32) :=
  gFr h a0 34 0 fun v1 =>
  bV h v1 26 (fun q4 => sJ23_put_c26 G N (some q4) a1 (some (G.2.2.2.2 11)) h) fun v2 h3 =>
  if v2 = none then (gRtZ (1 : Int32) h3)
  else gRtZ (0 : Int32) h3
abbrev mJ40_add_c34 : MI := (RJ40, cJ40_add, 2, (some .boolean), [], 6, 139, "add")
theorem tJ40_add_c34 {G : GG} {l : Launch} (hs : l.stackTraces = false) {N : Nat} {a0 : Option Nat} {a1 : Option Nat} {h : Hp} {r : Int32 ⊕ Nat} {hf : Hp} (ho : sJ40_add_c34 G N a0 a1 h = some (r, hf)) : gMet G l yJ40_add (ws_ yJ40_add cJ40_add 2 (some .boolean)) 6 139 [gr a0, gr a1] h cvI r hf := by
  refine gMet.of ho hs (plainFor_of_name pn_J40) rfl rfl (gbl rfl) fun X => ?_
  show gT G l X mJ40_add_c34 cvI r hf 0 [(0, gr a0), (1, gr a1)] [] h (sJ40_add_c34 G N a0 a1 h)
  delta sJ40_add_c34
  refine g_aload_n (pc := 0) (x := a0) 0 rfl rfl dJ40_add_0 ?_
  refine g_getfr (pc := 1) k_34 (gblt rfl) lk_J40_10_34 dJ40_add_1 fun v1 => ?_
  refine g_aload_n (pc := 4) (x := a1) 1 rfl rfl dJ40_add_4 ?_
  refine g_gets (pc := 5) (sv := .inr 11) (w := gr (some (G.2.2.2.2 11))) sfl_7 rfl ⟨Or.inl q2822, Or.inl rfl⟩ dJ40_add_5 ?_
  refine g_bVr (pc := 8) (y := yJ23_put) (ws := ws_ yJ23_put cJ23_put 3 (some (.object "java/lang/Object"))) (fr := 5) (lo := 117) (as := [gr a1, gr (some (G.2.2.2.2 11))]) (st := []) (g_no) rfl (fun _ _ _ e => tJ23_put_c26 hs e) (fun K _ _ _ hq hM R e1 e2 => g_runV (M := mJ40_add_c34) (pc := 8) (y := yJ23_put) (bytes := cJ23_put) (maxL := 3) (ret := (some (.object "java/lang/Object"))) (fr := 5) (lo := 117) (as := [gr a1, gr (some (G.2.2.2.2 11))]) (st := []) hq (C := "java/util/LinkedHashMap") rfl gy_J23_put (gbl rfl) (gbl rfl) (gbl rfl) q2824 q2825 q2827 dJ40_add_8 K hM R e1 e2) fun v2 h3 => ?_
  refine g_ifnonnull (pc := 11) (tgt := 18) rfl dJ40_add_11 ?_ ?_
  rotate_left
  · refine g_iconst (pc := 18) (v := (0 : Int32)) ic_0 dJ40_add_18 ?_
    exact g_zreturn (pc := 19) rfl dJ40_add_19
  refine g_iconst (pc := 14) (v := (1 : Int32)) ic_1 dJ40_add_14 ?_
  refine g_goto (pc := 15) (tgt := 19) rfl dJ40_add_15 ?_
  exact g_zreturn (pc := 19) rfl dJ40_add_19
/-! FlareSlopes.slopesOf(LFlareSlopes$Cabin;)Ljava/util/Set; -/
noncomputable def bX1_slopesOf_23 (G : GG) (N : Nat) (v1 : Option Nat) (v8 : Option Nat) (w12 : (Unit) → Hp → Out (Option Nat)) (x10 : Unit) (h11 : Hp) : Out (Option Nat) :=
  bV h11 v8 30 (fun q24 => sJ31_hasNext_c30 G N (some q24) h11) fun v13 h14 =>
  if v13 = 0 then (some (.inl v1, h14))
  else bV h14 v8 30 (fun q23 => sJ33_next G N (some q23) h14) fun v15 h16 =>
  gCk h16 v15 [10] (gFi h16 v15 10 1 fun v17 =>
  bnd (sJ20_valueOf G N v17 h16) fun v18 h19 =>
  bV h19 v1 34 (fun q22 => sJ40_add_c34 G N (some q22) v18 h19) fun v20 h21 =>
  w12 () h21)
noncomputable def sX1_slopesOf (G : GG) (N : Nat) (a0 : Option Nat) (h : Hp) : Out (Option Nat) :=
  gNew h 34 [.null] 1 fun v1 h2 =>
  bI v1 (fun q27 => sJ41_init G N (some q27) h2) fun v3 h4 =>
  gFr h4 a0 7 8 fun v5 =>
  bV h4 v5 26 (fun q26 => sJ24_keySet G N (some q26) h4) fun v6 h7 =>
  bV h7 v6 31 (fun q25 => sJ37_iterator G N (some q25) h7) fun v8 h9 =>
  gLp (bX1_slopesOf_23 G N v1 v8) N () h9
abbrev mX1_slopesOf : MI := (RX1, cX1_slopesOf, 5, (some (.object "java/util/Set")), [], 7, 160, "slopesOf")
theorem tX1_slopesOf {G : GG} {l : Launch} (hs : l.stackTraces = false) {N : Nat} {a0 : Option Nat} {h : Hp} {r : Option Nat ⊕ Nat} {hf : Hp} (ho : sX1_slopesOf G N a0 h = some (r, hf)) : gMet G l yX1_slopesOf (ws_ yX1_slopesOf cX1_slopesOf 5 (some (.object "java/util/Set"))) 7 160 [gr a0] h cvR r hf := by
  refine gMet.of ho hs (plainFor_of_name pn_X1) rfl rfl (gbl rfl) fun X => ?_
  show gT G l X mX1_slopesOf cvR r hf 0 [(0, gr a0)] [] h (sX1_slopesOf G N a0 h)
  delta sX1_slopesOf
  refine g_new (pc := 0) k_34 df_34 q2360 q2361 q186 dX1_slopesOf_0 fun v1 h2 => ?_
  refine g_dup (pc := 3) rfl dX1_slopesOf_3 ?_
  refine g_bIu (pc := 4) (y := yJ41_init) (ws := ws_ yJ41_init cJ41_init 1 none) (fr := 5) (lo := 109) (as := []) (st := [gr v1]) (g_no) rfl (fun _ _ _ e => tJ41_init hs e) (fun K _ _ _ hM R e1 e2 => g_runI (M := mX1_slopesOf) (pc := 4) (y := yJ41_init) (bytes := cJ41_init) (maxL := 1) (ret := none) (fr := 5) (lo := 109) (as := []) (st := [gr v1]) gy_J41_init (gbl rfl) (gbl rfl) (gbl rfl) rfl q2362 q2363 rfl dX1_slopesOf_4 K hM R e1 e2) fun v3 h4 => ?_
  refine g_astore_n (pc := 7) (lv' := [(1, gr v1), (0, gr a0)]) [0, 1] rfl rfl (gblt rfl) dX1_slopesOf_7 ?_
  refine g_aload_n (pc := 8) (x := a0) 1 rfl rfl dX1_slopesOf_8 ?_
  refine g_getfr (pc := 9) k_7 (gblt rfl) lk_X1_205_7 dX1_slopesOf_9 fun v5 => ?_
  refine g_bVr (pc := 12) (y := yJ24_keySet) (ws := ws_ yJ24_keySet cJ24_keySet 1 (some (.object "java/util/Set"))) (fr := 5) (lo := 96) (as := []) (st := []) (g_no) rfl (fun _ _ _ e => tJ24_keySet hs e) (fun K _ _ _ hq hM R e1 e2 => g_runF (x := ⟨"java/util/Map", "keySet", "()Ljava/util/Set;"⟩) (M := mX1_slopesOf) (pc := 12) (y := yJ24_keySet) (bytes := cJ24_keySet) (maxL := 1) (ret := (some (.object "java/util/Set"))) (fr := 5) (lo := 96) (as := []) (st := []) hq (C := "java/util/LinkedHashMap") rfl gy_J24_keySet rfl (gbl rfl) (gbl rfl) (gbl rfl) q2776 q2778 q2777 q2781 q2780 q1613 mhx_java_util_Map q2779 q1910 dX1_slopesOf_12 K hM R e1 e2) fun v6 h7 => ?_
  refine g_bVr (pc := 17) (y := yJ37_iterator) (ws := ws_ yJ37_iterator cJ37_iterator 1 (some (.object "java/util/Iterator"))) (fr := 3) (lo := 56) (as := []) (st := []) (g_no) rfl (fun _ _ _ e => tJ37_iterator hs e) (fun K _ _ _ hq hM R e1 e2 => g_runF (x := ⟨"java/util/Set", "iterator", "()Ljava/util/Iterator;"⟩) (M := mX1_slopesOf) (pc := 17) (y := yJ37_iterator) (bytes := cJ37_iterator) (maxL := 1) (ret := (some (.object "java/util/Iterator"))) (fr := 3) (lo := 56) (as := []) (st := []) hq (C := "java/util/LinkedHashMap$LinkedKeySet") rfl gy_J37_iterator rfl (gbl rfl) (gbl rfl) (gbl rfl) q2783 q1937 q1936 q1868 q1866 q1942 mhx_java_util_Set q1943 q1867 dX1_slopesOf_17 K hM R e1 e2) fun v8 h9 => ?_
  refine g_astore_n (pc := 22) (lv' := [(2, gr v8), (1, gr v1)]) [0, 1] rfl rfl (gblt rfl) dX1_slopesOf_22 ?_
  refine g_sub (lv' := [(1, gr v1), (2, gr v8)]) [1, 0] rfl ?_
  refine g_loop (pc := 23) (fun (x10 : Unit) => [(1, gr v1), (2, gr v8)]) (fun (_ : Unit) => []) (fun w12 Hw12 x10 h11 => ?_) N () h9
  delta bX1_slopesOf_23
  refine g_aload_n (pc := 23) (x := v8) 1 rfl rfl dX1_slopesOf_23 ?_
  refine g_bVi (pc := 24) (y := yJ31_hasNext) (ws := ws_ yJ31_hasNext cJ31_hasNext 1 (some .boolean)) (fr := 0) (lo := 0) (as := []) (st := []) (g_no) rfl (fun _ _ _ e => tJ31_hasNext_c30 hs e) (fun K _ _ _ hq hM R e1 e2 => g_runF (x := ⟨"java/util/Iterator", "hasNext", "()Z"⟩) (M := mX1_slopesOf) (pc := 24) (y := yJ31_hasNext) (bytes := cJ31_hasNext) (maxL := 1) (ret := (some .boolean)) (fr := 0) (lo := 0) (as := []) (st := []) hq (C := "java/util/LinkedHashMap$LinkedKeyIterator") rfl gy_J31_hasNext rfl (gbl rfl) (gbl rfl) (gbl rfl) q1947 q1505 q1504 q1528 q1532 q1530 mhx_java_util_Iterator q1531 q1527 dX1_slopesOf_24 K hM R e1 e2) fun v13 h14 => ?_
  refine g_if_eq (pc := 29) (tgt := 60) rfl dX1_slopesOf_29 ?_ ?_
  · refine g_aload_n (pc := 60) (x := v1) 0 rfl rfl dX1_slopesOf_60 ?_
    exact g_areturn (pc := 61) rfl (Or.inl ⟨_, rfl⟩) dX1_slopesOf_61
  refine g_aload_n (pc := 32) (x := v8) 1 rfl rfl dX1_slopesOf_32 ?_
  refine g_bVr (pc := 33) (y := yJ33_next) (ws := ws_ yJ33_next cJ33_next 1 (some (.object "java/lang/Object"))) (fr := 1) (lo := 21) (as := []) (st := []) (g_no) rfl (fun _ _ _ e => tJ33_next hs e) (fun K _ _ _ hq hM R e1 e2 => g_runF (x := ⟨"java/util/Iterator", "next", "()Ljava/lang/Object;"⟩) (M := mX1_slopesOf) (pc := 33) (y := yJ33_next) (bytes := cJ33_next) (maxL := 1) (ret := (some (.object "java/lang/Object"))) (fr := 1) (lo := 21) (as := []) (st := []) hq (C := "java/util/LinkedHashMap$LinkedKeyIterator") rfl gy_J33_next rfl (gbl rfl) (gbl rfl) (gbl rfl) q1949 q1539 q1538 q1589 q1587 q1530 mhx_java_util_Iterator q1586 q1588 dX1_slopesOf_33 K hM R e1 e2) fun v15 h16 => ?_
  refine g_checkcast (pc := 38) q2784 as_10_FlareSlopes_Key dX1_slopesOf_38 ?_
  refine g_astore_n (pc := 41) (lv' := [(3, gr v15), (1, gr v1), (2, gr v8)]) [0, 1, 2] rfl rfl (gblt rfl) dX1_slopesOf_41 ?_
  refine g_aload_n (pc := 42) (x := v1) 1 rfl rfl dX1_slopesOf_42 ?_
  refine g_aload_n (pc := 43) (x := v15) 0 rfl rfl dX1_slopesOf_43 ?_
  refine g_getfi (pc := 44) k_10 (gblt rfl) lk_X1_269_10 dX1_slopesOf_44 fun v17 => ?_
  refine g_br (pc := 47) (y := yJ20_valueOf) (ws := ws_ yJ20_valueOf cJ20_valueOf 1 (some (.object "java/lang/Integer"))) (fr := 3) (lo := 53) (as := [gi v17]) (st := [gr v1]) (g_no) rfl (fun _ _ e => tJ20_valueOf hs e) (fun K _ _ hM R e1 e2 => g_runS (M := mX1_slopesOf) (pc := 47) (y := yJ20_valueOf) (bytes := cJ20_valueOf) (maxL := 1) (ret := (some (.object "java/lang/Integer"))) (fr := 3) (lo := 53) (as := [gi v17]) (st := [gr v1]) gy_J20_valueOf (gbl rfl) (gbl rfl) (gbl rfl) q2785 q2786 dX1_slopesOf_47 K hM R e1 e2) fun v18 h19 => ?_
  refine g_bVi (pc := 50) (y := yJ40_add) (ws := ws_ yJ40_add cJ40_add 2 (some .boolean)) (fr := 6) (lo := 139) (as := [gr v18]) (st := []) (g_no) rfl (fun _ _ _ e => tJ40_add_c34 hs e) (fun K _ _ _ hq hM R e1 e2 => g_runF (x := ⟨"java/util/Set", "add", "(Ljava/lang/Object;)Z"⟩) (M := mX1_slopesOf) (pc := 50) (y := yJ40_add) (bytes := cJ40_add) (maxL := 2) (ret := (some .boolean)) (fr := 6) (lo := 139) (as := [gr v18]) (st := []) hq (C := "java/util/LinkedHashSet") rfl gy_J40_add rfl (gbl rfl) (gbl rfl) (gbl rfl) q2805 q2807 q2806 q2820 q2818 q1944 mhx_java_util_Set q2817 q2819 dX1_slopesOf_50 K hM R e1 e2) fun v20 h21 => ?_
  refine g_istore (pc := 55) (lv' := [(1, gr v1), (2, gr v8)]) [2, 3] rfl (gblt rfl) dX1_slopesOf_55 ?_
  refine g_goto (pc := 57) (tgt := 23) rfl dX1_slopesOf_57 ?_
  exact Hw12 () h21
/-! java/util/HashSet.size()I -/
noncomputable def sJ40_size_c34 (G : GG) (N : Nat) (a0 : Option Nat) (h : Hp) : Out (Int32) :=
  gFr h a0 34 0 fun v1 =>
  bV h v1 26 (fun q4 => sJ23_size_c26 G N (some q4) h) fun v2 h3 =>
  some (.inl v2, h3)
abbrev mJ40_size_c34 : MI := (RJ40, cJ40_size, 1, (some .int), [], 1, 20, "size")
theorem tJ40_size_c34 {G : GG} {l : Launch} (hs : l.stackTraces = false) {N : Nat} {a0 : Option Nat} {h : Hp} {r : Int32 ⊕ Nat} {hf : Hp} (ho : sJ40_size_c34 G N a0 h = some (r, hf)) : gMet G l yJ40_size (ws_ yJ40_size cJ40_size 1 (some .int)) 1 20 [gr a0] h cvI r hf := by
  refine gMet.of ho hs (plainFor_of_name pn_J40) rfl rfl (gbl rfl) fun X => ?_
  show gT G l X mJ40_size_c34 cvI r hf 0 [(0, gr a0)] [] h (sJ40_size_c34 G N a0 h)
  delta sJ40_size_c34
  refine g_aload_n (pc := 0) (x := a0) 0 rfl rfl dJ40_size_0 ?_
  refine g_getfr (pc := 1) k_34 (gblt rfl) lk_J40_10_34 dJ40_size_1 fun v1 => ?_
  refine g_bVi (pc := 4) (y := yJ23_size) (ws := ws_ yJ23_size cJ23_size 1 (some .int)) (fr := 0) (lo := 0) (as := []) (st := []) (g_no) rfl (fun _ _ _ e => tJ23_size_c26 hs e) (fun K _ _ _ hq hM R e1 e2 => g_runV (M := mJ40_size_c34) (pc := 4) (y := yJ23_size) (bytes := cJ23_size) (maxL := 1) (ret := (some .int)) (fr := 0) (lo := 0) (as := []) (st := []) hq (C := "java/util/LinkedHashMap") rfl gy_J23_size (gbl rfl) (gbl rfl) (gbl rfl) q3036 q1616 q4638 dJ40_size_4 K hM R e1 e2) fun v2 h3 => ?_
  exact g_ireturn (pc := 7) rfl dJ40_size_7
/-! FlareSlopes.cabin(II)I -/
noncomputable def sX1_cabin (G : GG) (N : Nat) (a0 : Option Nat) (a1 : Int32) (a2 : Int32) (h : Hp) : Out (Int32) :=
  bV h a0 3 (fun q29 => sX1_withCabin G N (some q29) a1 h) fun v1 h2 =>
  gSel a2 [((0 : Int32), gFi h2 v1 7 0 fun v5 =>
  some (.inl v5, h2)),
  ((1 : Int32), gFi h2 v1 7 1 fun v6 =>
  some (.inl v6, h2)),
  ((2 : Int32), gFi h2 v1 7 6 fun v7 =>
  some (.inl v7, h2)),
  ((3 : Int32), gFi h2 v1 7 2 fun v8 =>
  some (.inl v8, h2)),
  ((4 : Int32), gFi h2 v1 7 3 fun v9 =>
  some (.inl v9, h2)),
  ((5 : Int32), gFi h2 v1 7 4 fun v10 =>
  some (.inl v10, h2)),
  ((6 : Int32), bV h2 a0 3 (fun q13 => sX1_votesOfAll G N (some q13) a1 h2) fun v11 h12 =>
  some (.inl v11, h12)),
  ((7 : Int32), gFr h2 v1 7 8 fun v14 =>
  bV h2 v14 26 (fun q17 => sJ23_size_c26 G N (some q17) h2) fun v15 h16 =>
  some (.inl v15, h16)),
  ((8 : Int32), gFi h2 v1 7 5 fun v18 =>
  bnd (sJ20_bitCount G N v18 h2) fun v19 h20 =>
  some (.inl v19, h20)),
  ((9 : Int32), bV h2 a0 3 (fun q23 => sX1_slopesSeen G N (some q23) a1 h2) fun v21 h22 =>
  some (.inl v21, h22)),
  ((10 : Int32), bnd (sX1_slopesOf G N v1 h2) fun v24 h25 =>
  bV h25 v24 34 (fun q28 => sJ40_size_c34 G N (some q28) h25) fun v26 h27 =>
  some (.inl v26, h27))] (gMk h2 1 fun v3 h4 =>
  gThr G v3 h4)
abbrev mX1_cabin : MI := (RX1, cX1_cabin, 4, (some .int), [], 9, 184, "cabin")
theorem tX1_cabin {G : GG} {l : Launch} (hs : l.stackTraces = false) {N : Nat} {a0 : Option Nat} {a1 : Int32} {a2 : Int32} {h : Hp} {r : Int32 ⊕ Nat} {hf : Hp} (ho : sX1_cabin G N a0 a1 a2 h = some (r, hf)) : gMet G l yX1_cabin (ws_ yX1_cabin cX1_cabin 4 (some .int)) 9 184 [gr a0, gi a1, gi a2] h cvI r hf := by
  refine gMet.of ho hs (plainFor_of_name pn_X1) rfl rfl (gbl rfl) fun X => ?_
  show gT G l X mX1_cabin cvI r hf 0 [(0, gr a0), (1, gi a1), (2, gi a2)] [] h (sX1_cabin G N a0 a1 a2 h)
  delta sX1_cabin
  refine g_aload_n (pc := 0) (x := a0) 0 rfl rfl dX1_cabin_0 ?_
  refine g_iload_n (pc := 1) (x := a1) 1 rfl rfl dX1_cabin_1 ?_
  refine g_bVr (pc := 2) (y := yX1_withCabin) (ws := ws_ yX1_withCabin cX1_withCabin 2 (some (.object "FlareSlopes$Cabin"))) (fr := 8) (lo := 121) (as := [gi a1]) (st := []) (g_no) rfl (fun _ _ _ e => tX1_withCabin hs e) (fun K _ _ _ hq hM R e1 e2 => g_runV (M := mX1_cabin) (pc := 2) (y := yX1_withCabin) (bytes := cX1_withCabin) (maxL := 2) (ret := (some (.object "FlareSlopes$Cabin"))) (fr := 8) (lo := 121) (as := [gi a1]) (st := []) hq (C := "FlareSlopes") rfl gy_X1_withCabin (gbl rfl) (gbl rfl) (gbl rfl) q1968 q1970 qs22 dX1_cabin_2 K hM R e1 e2) fun v1 h2 => ?_
  refine g_astore_n (pc := 5) (lv' := [(3, gr v1), (0, gr a0), (1, gi a1), (2, gi a2)]) [0, 1, 2, 3] rfl rfl (gblt rfl) dX1_cabin_5 ?_
  refine g_iload_n (pc := 6) (x := a2) 3 rfl rfl dX1_cabin_6 ?_
  refine g_tableswitch (pc := 7) (td := 156) [((0 : Int32), 64), ((1 : Int32), 71), ((2 : Int32), 78), ((3 : Int32), 85), ((4 : Int32), 92), ((5 : Int32), 99), ((6 : Int32), 106), ((7 : Int32), 114), ((8 : Int32), 126), ((9 : Int32), 136), ((10 : Int32), 144)] (by decide +kernel) dX1_cabin_7 ?_ (g_all_cons ?_ (g_all_cons ?_ (g_all_cons ?_ (g_all_cons ?_ (g_all_cons ?_ (g_all_cons ?_ (g_all_cons ?_ (g_all_cons ?_ (g_all_cons ?_ (g_all_cons ?_ (g_all_cons ?_ g_all_nil)))))))))))
  · refine g_make0 (pc := 156) xw_X1_43_45 rfl dX1_cabin_156 dX1_cabin_159 dX1_cabin_160 (gblt rfl) (gbl rfl) fun v3 h4 => ?_
    exact g_athrow (pc := 163) (g_no) dX1_cabin_163
  · refine g_aload_n (pc := 64) (x := v1) 0 rfl rfl dX1_cabin_64 ?_
    refine g_getfi (pc := 65) k_7 (gblt rfl) lk_X1_279_7 dX1_cabin_65 fun v5 => ?_
    refine g_goto (pc := 68) (tgt := 164) rfl dX1_cabin_68 ?_
    exact g_ireturn (pc := 164) rfl dX1_cabin_164
  · refine g_aload_n (pc := 71) (x := v1) 0 rfl rfl dX1_cabin_71 ?_
    refine g_getfi (pc := 72) k_7 (gblt rfl) lk_X1_282_7 dX1_cabin_72 fun v6 => ?_
    refine g_goto (pc := 75) (tgt := 164) rfl dX1_cabin_75 ?_
    exact g_ireturn (pc := 164) rfl dX1_cabin_164
  · refine g_aload_n (pc := 78) (x := v1) 0 rfl rfl dX1_cabin_78 ?_
    refine g_getfi (pc := 79) k_7 (gblt rfl) lk_X1_285_7 dX1_cabin_79 fun v7 => ?_
    refine g_goto (pc := 82) (tgt := 164) rfl dX1_cabin_82 ?_
    exact g_ireturn (pc := 164) rfl dX1_cabin_164
  · refine g_aload_n (pc := 85) (x := v1) 0 rfl rfl dX1_cabin_85 ?_
    refine g_getfi (pc := 86) k_7 (gblt rfl) lk_X1_200_7 dX1_cabin_86 fun v8 => ?_
    refine g_goto (pc := 89) (tgt := 164) rfl dX1_cabin_89 ?_
    exact g_ireturn (pc := 164) rfl dX1_cabin_164
  · refine g_aload_n (pc := 92) (x := v1) 0 rfl rfl dX1_cabin_92 ?_
    refine g_getfi (pc := 93) k_7 (gblt rfl) lk_X1_288_7 dX1_cabin_93 fun v9 => ?_
    refine g_goto (pc := 96) (tgt := 164) rfl dX1_cabin_96 ?_
    exact g_ireturn (pc := 164) rfl dX1_cabin_164
  · refine g_aload_n (pc := 99) (x := v1) 0 rfl rfl dX1_cabin_99 ?_
    refine g_getfi (pc := 100) k_7 (gblt rfl) lk_X1_291_7 dX1_cabin_100 fun v10 => ?_
    refine g_goto (pc := 103) (tgt := 164) rfl dX1_cabin_103 ?_
    exact g_ireturn (pc := 164) rfl dX1_cabin_164
  · refine g_aload_n (pc := 106) (x := a0) 1 rfl rfl dX1_cabin_106 ?_
    refine g_iload_n (pc := 107) (x := a1) 2 rfl rfl dX1_cabin_107 ?_
    refine g_bVi (pc := 108) (y := yX1_votesOfAll) (ws := ws_ yX1_votesOfAll cX1_votesOfAll 2 (some .int)) (fr := 6) (lo := 136) (as := [gi a1]) (st := []) (g_no) rfl (fun _ _ _ e => tX1_votesOfAll hs e) (fun K _ _ _ hq hM R e1 e2 => g_runV (M := mX1_cabin) (pc := 108) (y := yX1_votesOfAll) (bytes := cX1_votesOfAll) (maxL := 2) (ret := (some .int)) (fr := 6) (lo := 136) (as := [gi a1]) (st := []) hq (C := "FlareSlopes") rfl gy_X1_votesOfAll (gbl rfl) (gbl rfl) (gbl rfl) q1972 q1974 qs23 dX1_cabin_108 K hM R e1 e2) fun v11 h12 => ?_
    refine g_goto (pc := 111) (tgt := 164) rfl dX1_cabin_111 ?_
    exact g_ireturn (pc := 164) rfl dX1_cabin_164
  · refine g_aload_n (pc := 114) (x := v1) 0 rfl rfl dX1_cabin_114 ?_
    refine g_getfr (pc := 115) k_7 (gblt rfl) lk_X1_205_7 dX1_cabin_115 fun v14 => ?_
    refine g_bVi (pc := 118) (y := yJ23_size) (ws := ws_ yJ23_size cJ23_size 1 (some .int)) (fr := 0) (lo := 0) (as := []) (st := []) (g_no) rfl (fun _ _ _ e => tJ23_size_c26 hs e) (fun K _ _ _ hq hM R e1 e2 => g_runF (x := ⟨"java/util/Map", "size", "()I"⟩) (M := mX1_cabin) (pc := 118) (y := yJ23_size) (bytes := cJ23_size) (maxL := 1) (ret := (some .int)) (fr := 0) (lo := 0) (as := []) (st := []) hq (C := "java/util/LinkedHashMap") rfl gy_J23_size rfl (gbl rfl) (gbl rfl) (gbl rfl) q2344 q1612 q1611 q1617 q1615 q1613 mhx_java_util_Map q1614 q1616 dX1_cabin_118 K hM R e1 e2) fun v15 h16 => ?_
    refine g_goto (pc := 123) (tgt := 164) rfl dX1_cabin_123 ?_
    exact g_ireturn (pc := 164) rfl dX1_cabin_164
  · refine g_aload_n (pc := 126) (x := v1) 0 rfl rfl dX1_cabin_126 ?_
    refine g_getfi (pc := 127) k_7 (gblt rfl) lk_X1_296_7 dX1_cabin_127 fun v18 => ?_
    refine g_bi (pc := 130) (y := yJ20_bitCount) (ws := ws_ yJ20_bitCount cJ20_bitCount 1 (some .int)) (fr := 0) (lo := 0) (as := [gi v18]) (st := []) (g_no) rfl (fun _ _ e => tJ20_bitCount hs e) (fun K _ _ hM R e1 e2 => g_runS (M := mX1_cabin) (pc := 130) (y := yJ20_bitCount) (bytes := cJ20_bitCount) (maxL := 1) (ret := (some .int)) (fr := 0) (lo := 0) (as := [gi v18]) (st := []) gy_J20_bitCount (gbl rfl) (gbl rfl) (gbl rfl) q1619 q1620 dX1_cabin_130 K hM R e1 e2) fun v19 h20 => ?_
    refine g_goto (pc := 133) (tgt := 164) rfl dX1_cabin_133 ?_
    exact g_ireturn (pc := 164) rfl dX1_cabin_164
  · refine g_aload_n (pc := 136) (x := a0) 1 rfl rfl dX1_cabin_136 ?_
    refine g_iload_n (pc := 137) (x := a1) 2 rfl rfl dX1_cabin_137 ?_
    refine g_bVi (pc := 138) (y := yX1_slopesSeen) (ws := ws_ yX1_slopesSeen cX1_slopesSeen 4 (some .int)) (fr := 7) (lo := 151) (as := [gi a1]) (st := []) (g_no) rfl (fun _ _ _ e => tX1_slopesSeen hs e) (fun K _ _ _ hq hM R e1 e2 => g_runV (M := mX1_cabin) (pc := 138) (y := yX1_slopesSeen) (bytes := cX1_slopesSeen) (maxL := 4) (ret := (some .int)) (fr := 7) (lo := 151) (as := [gi a1]) (st := []) hq (C := "FlareSlopes") rfl gy_X1_slopesSeen (gbl rfl) (gbl rfl) (gbl rfl) q2345 q2347 qs24 dX1_cabin_138 K hM R e1 e2) fun v21 h22 => ?_
    refine g_goto (pc := 141) (tgt := 164) rfl dX1_cabin_141 ?_
    exact g_ireturn (pc := 164) rfl dX1_cabin_164
  · refine g_aload_n (pc := 144) (x := v1) 0 rfl rfl dX1_cabin_144 ?_
    refine g_br (pc := 145) (y := yX1_slopesOf) (ws := ws_ yX1_slopesOf cX1_slopesOf 5 (some (.object "java/util/Set"))) (fr := 7) (lo := 160) (as := [gr v1]) (st := []) (g_no) rfl (fun _ _ e => tX1_slopesOf hs e) (fun K _ _ hM R e1 e2 => g_runS (M := mX1_cabin) (pc := 145) (y := yX1_slopesOf) (bytes := cX1_slopesOf) (maxL := 5) (ret := (some (.object "java/util/Set"))) (fr := 7) (lo := 160) (as := [gr v1]) (st := []) gy_X1_slopesOf (gbl rfl) (gbl rfl) (gbl rfl) q2357 q2358 dX1_cabin_145 K hM R e1 e2) fun v24 h25 => ?_
    refine g_bVi (pc := 148) (y := yJ40_size) (ws := ws_ yJ40_size cJ40_size 1 (some .int)) (fr := 1) (lo := 20) (as := []) (st := []) (g_no) rfl (fun _ _ _ e => tJ40_size_c34 hs e) (fun K _ _ _ hq hM R e1 e2 => g_runF (x := ⟨"java/util/Set", "size", "()I"⟩) (M := mX1_cabin) (pc := 148) (y := yJ40_size) (bytes := cJ40_size) (maxL := 1) (ret := (some .int)) (fr := 1) (lo := 20) (as := []) (st := []) hq (C := "java/util/LinkedHashSet") rfl gy_J40_size rfl (gbl rfl) (gbl rfl) (gbl rfl) q3013 q3015 q3014 q3034 q3032 q1944 mhx_java_util_Set q3031 q3033 dX1_cabin_148 K hM R e1 e2) fun v26 h27 => ?_
    refine g_goto (pc := 153) (tgt := 164) rfl dX1_cabin_153 ?_
    exact g_ireturn (pc := 164) rfl dX1_cabin_164
/-! FlareSlopesLaw.cabin(LFlareSlopes;II[J)I -/
noncomputable def sX0_cabin (G : GG) (N : Nat) (a0 : Option Nat) (a1 : Int32) (a2 : Int32) (a3 : Option Nat) (h : Hp) : Out (Int32) :=
  bVX h a0 3 (fun q4 => sX1_cabin G N (some q4) a1 a2 h) (fun v1 h2 =>
  gSl G h2 a3 3 (0 : Int32) (v1.toInt64) fun h3 =>
  some (.inl (0 : Int32), h3)) fun q5 h6 =>
  gSw h6 (some q5) 0 (some (.inl (1 : Int32), h6)) (gSw h6 (some q5) 1 (some (.inl (3 : Int32), h6)) (gSw h6 (some q5) 2 (some (.inl (2 : Int32), h6)) (none)))
abbrev mX0_cabin : MI := (RX0, cX0_cabin, 5, (some .int), [(0, 10, 13, 21), (0, 10, 17, 13), (0, 10, 21, 15)], 10, 207, "cabin")
theorem tX0_cabin {G : GG} {l : Launch} (hs : l.stackTraces = false) {N : Nat} {a0 : Option Nat} {a1 : Int32} {a2 : Int32} {a3 : Option Nat} {h : Hp} {r : Int32 ⊕ Nat} {hf : Hp} (ho : sX0_cabin G N a0 a1 a2 a3 h = some (r, hf)) : gMet G l yX0_cabin (wsW_ yX0_cabin cX0_cabin 5 (some .int) [(0, 10, 13, 21), (0, 10, 17, 13), (0, 10, 21, 15)]) 10 207 [gr a0, gi a1, gi a2, gr a3] h cvI r hf := by
  refine gMet.ofW ho hs (plainFor_of_name pn_X0) rfl rfl (gbl rfl) fun X => ?_
  show gT G l X mX0_cabin cvI r hf 0 [(0, gr a0), (1, gi a1), (2, gi a2), (3, gr a3)] [] h (sX0_cabin G N a0 a1 a2 a3 h)
  delta sX0_cabin
  refine g_aload_n (pc := 0) (x := a3) 3 rfl rfl dX0_cabin_0 ?_
  refine g_iconst (pc := 1) (v := (0 : Int32)) ic_0 dX0_cabin_1 ?_
  refine g_aload_n (pc := 2) (x := a0) 0 rfl rfl dX0_cabin_2 ?_
  refine g_iload_n (pc := 3) (x := a1) 1 rfl rfl dX0_cabin_3 ?_
  refine g_iload_n (pc := 4) (x := a2) 2 rfl rfl dX0_cabin_4 ?_
  refine g_bVXi (pc := 5) (y := yX1_cabin) (ws := ws_ yX1_cabin cX1_cabin 4 (some .int)) (fr := 9) (lo := 184) (as := [gi a1, gi a2]) (st := [gi (0 : Int32), gr a3]) rfl (fun _ _ _ e => tX1_cabin hs e) (fun K _ _ _ hq hM R e1 e2 => g_runV (M := mX0_cabin) (pc := 5) (y := yX1_cabin) (bytes := cX1_cabin) (maxL := 4) (ret := (some .int)) (fr := 9) (lo := 184) (as := [gi a1, gi a2]) (st := [gi (0 : Int32), gr a3]) hq (C := "FlareSlopes") rfl gy_X1_cabin (gbl rfl) (gbl rfl) (gbl rfl) q1964 q1965 q1966 dX0_cabin_5 K hM R e1 e2) (fun v1 h2 => ?_) (fun q5 h6 => ?_)
  · refine g_i2l (pc := 8) dX0_cabin_8 ?_
    refine g_lastore (pc := 9) rfl dX0_cabin_9 fun h3 => ?_
    refine g_goto (pc := 10) (tgt := 25) rfl dX0_cabin_10 ?_
    refine g_iconst (pc := 25) (v := (0 : Int32)) ic_0 dX0_cabin_25 ?_
    exact g_ireturn (pc := 26) rfl dX0_cabin_26
  refine g_catch (E := "java/lang/IllegalStateException") [] ⟨0, 10, 13, 21⟩ [⟨0, 10, 17, 13⟩, ⟨0, 10, 21, 15⟩] rfl rfl (List.forall_mem_nil _) (by decide +kernel) (by decide +kernel) q1425 q1439 ?_ ?_
  · refine g_astore (pc := 13) (lv' := []) [] rfl (gblt rfl) dX0_cabin_13 ?_
    refine g_iconst (pc := 15) (v := (1 : Int32)) ic_1 dX0_cabin_15 ?_
    exact g_ireturn (pc := 16) rfl dX0_cabin_16
  refine g_catch (E := "java/lang/IllegalArgumentException") [⟨0, 10, 13, 21⟩, ⟨0, 10, 17, 13⟩] ⟨0, 10, 21, 15⟩ [] rfl rfl (List.forall_mem_cons.mpr ⟨Or.inr ⟨by decide +kernel, _, q1425, ncl_java_lang_IllegalArgumentException_java_lang_IllegalStateException⟩, List.forall_mem_cons.mpr ⟨Or.inr ⟨by decide +kernel, _, q325, ncl_java_lang_IllegalArgumentException_java_lang_IndexOutOfBoundsException⟩, List.forall_mem_nil _⟩⟩) (by decide +kernel) (by decide +kernel) q404 q751 ?_ ?_
  · refine g_astore (pc := 21) (lv' := []) [] rfl (gblt rfl) dX0_cabin_21 ?_
    refine g_iconst (pc := 23) (v := (3 : Int32)) ic_3 dX0_cabin_23 ?_
    exact g_ireturn (pc := 24) rfl dX0_cabin_24
  refine g_catch (E := "java/lang/IndexOutOfBoundsException") [⟨0, 10, 13, 21⟩] ⟨0, 10, 17, 13⟩ [⟨0, 10, 21, 15⟩] rfl rfl (List.forall_mem_cons.mpr ⟨Or.inr ⟨by decide +kernel, _, q1425, ncl_java_lang_IndexOutOfBoundsException_java_lang_IllegalStateException⟩, List.forall_mem_nil _⟩) (by decide +kernel) (by decide +kernel) q325 q418 ?_ ?_
  · refine g_astore (pc := 17) (lv' := []) [] rfl (gblt rfl) dX0_cabin_17 ?_
    refine g_iconst (pc := 19) (v := (2 : Int32)) ic_2 dX0_cabin_19 ?_
    exact g_ireturn (pc := 20) rfl dX0_cabin_20
  exact g_noneX
/-! FlareSlopesModel.isCabin(I)Z -/
noncomputable def sX2_isCabin (G : GG) (N : Nat) (a0 : Option Nat) (a1 : Int32) (h : Hp) : Out (Int32) :=
  gFr h a0 18 1 fun v1 =>
  gAi h v1 0 (6 : Int32) fun v2 =>
  bnd (sX2_in G N a1 (0 : Int32) (v2 - (1 : Int32)) h) fun v3 h4 =>
  gRtZ v3 h4
abbrev mX2_isCabin : MI := (RX2, cX2_isCabin, 2, (some .boolean), [], 1, 22, "isCabin")
theorem tX2_isCabin {G : GG} {l : Launch} (hs : l.stackTraces = false) {N : Nat} {a0 : Option Nat} {a1 : Int32} {h : Hp} {r : Int32 ⊕ Nat} {hf : Hp} (ho : sX2_isCabin G N a0 a1 h = some (r, hf)) : gMet G l yX2_isCabin (ws_ yX2_isCabin cX2_isCabin 2 (some .boolean)) 1 22 [gr a0, gi a1] h cvI r hf := by
  refine gMet.of ho hs (plainFor_of_name pn_X2) rfl rfl (gbl rfl) fun X => ?_
  show gT G l X mX2_isCabin cvI r hf 0 [(0, gr a0), (1, gi a1)] [] h (sX2_isCabin G N a0 a1 h)
  delta sX2_isCabin
  refine g_iload_n (pc := 0) (x := a1) 1 rfl rfl dX2_isCabin_0 ?_
  refine g_iconst (pc := 1) (v := (0 : Int32)) ic_0 dX2_isCabin_1 ?_
  refine g_aload_n (pc := 2) (x := a0) 0 rfl rfl dX2_isCabin_2 ?_
  refine g_getfr (pc := 3) k_18 (gblt rfl) lk_X2_9_18 dX2_isCabin_3 fun v1 => ?_
  refine g_bipush (pc := 6) (v := (6 : Int32)) bc_6 dX2_isCabin_6 ?_
  refine g_iaload (pc := 8) rfl dX2_isCabin_8 fun v2 => ?_
  refine g_iconst (pc := 9) (v := (1 : Int32)) ic_1 dX2_isCabin_9 ?_
  refine g_isub (pc := 10) dX2_isCabin_10 ?_
  refine g_bi (pc := 11) (y := yX2_in) (ws := ws_ yX2_in cX2_in 3 (some .boolean)) (fr := 0) (lo := 0) (as := [gi a1, gi (0 : Int32), gi (v2 - (1 : Int32))]) (st := []) (g_no) rfl (fun _ _ e => tX2_in hs e) (fun K _ _ hM R e1 e2 => g_runS (M := mX2_isCabin) (pc := 11) (y := yX2_in) (bytes := cX2_in) (maxL := 3) (ret := (some .boolean)) (fr := 0) (lo := 0) (as := [gi a1, gi (0 : Int32), gi (v2 - (1 : Int32))]) (st := []) gy_X2_in (gbl rfl) (gbl rfl) (gbl rfl) q4037 q4038 dX2_isCabin_11 K hM R e1 e2) fun v3 h4 => ?_
  exact g_zreturn (pc := 14) rfl dX2_isCabin_14
/-! FlareSlopesModel.voteOf(III)I -/
noncomputable def sX2_voteOf (G : GG) (N : Nat) (a0 : Option Nat) (a1 : Int32) (a2 : Int32) (a3 : Int32) (h : Hp) : Out (Int32) :=
  gFr h a0 18 1 fun v1 =>
  bnd (sX2_voteAt G N a1 a2 a3 h) fun v2 h3 =>
  gAi h3 v1 0 v2 fun v4 =>
  some (.inl v4, h3)
abbrev mX2_voteOf : MI := (RX2, cX2_voteOf, 4, (some .int), [], 1, 22, "voteOf")
theorem tX2_voteOf {G : GG} {l : Launch} (hs : l.stackTraces = false) {N : Nat} {a0 : Option Nat} {a1 : Int32} {a2 : Int32} {a3 : Int32} {h : Hp} {r : Int32 ⊕ Nat} {hf : Hp} (ho : sX2_voteOf G N a0 a1 a2 a3 h = some (r, hf)) : gMet G l yX2_voteOf (ws_ yX2_voteOf cX2_voteOf 4 (some .int)) 1 22 [gr a0, gi a1, gi a2, gi a3] h cvI r hf := by
  refine gMet.of ho hs (plainFor_of_name pn_X2) rfl rfl (gbl rfl) fun X => ?_
  show gT G l X mX2_voteOf cvI r hf 0 [(0, gr a0), (1, gi a1), (2, gi a2), (3, gi a3)] [] h (sX2_voteOf G N a0 a1 a2 a3 h)
  delta sX2_voteOf
  refine g_aload_n (pc := 0) (x := a0) 0 rfl rfl dX2_voteOf_0 ?_
  refine g_getfr (pc := 1) k_18 (gblt rfl) lk_X2_9_18 dX2_voteOf_1 fun v1 => ?_
  refine g_iload_n (pc := 4) (x := a1) 1 rfl rfl dX2_voteOf_4 ?_
  refine g_iload_n (pc := 5) (x := a2) 2 rfl rfl dX2_voteOf_5 ?_
  refine g_iload_n (pc := 6) (x := a3) 3 rfl rfl dX2_voteOf_6 ?_
  refine g_bi (pc := 7) (y := yX2_voteAt) (ws := ws_ yX2_voteAt cX2_voteAt 3 (some .int)) (fr := 0) (lo := 0) (as := [gi a1, gi a2, gi a3]) (st := [gr v1]) (g_no) rfl (fun _ _ e => tX2_voteAt hs e) (fun K _ _ hM R e1 e2 => g_runS (M := mX2_voteOf) (pc := 7) (y := yX2_voteAt) (bytes := cX2_voteAt) (maxL := 3) (ret := (some .int)) (fr := 0) (lo := 0) (as := [gi a1, gi a2, gi a3]) (st := [gr v1]) gy_X2_voteAt (gbl rfl) (gbl rfl) (gbl rfl) q4165 q4166 dX2_voteOf_7 K hM R e1 e2) fun v2 h3 => ?_
  refine g_iaload (pc := 10) rfl dX2_voteOf_10 fun v4 => ?_
  exact g_ireturn (pc := 11) rfl dX2_voteOf_11
/-! FlareSlopesModel.votesOf(I)I -/
noncomputable def bX2_votesOf_13 (G : GG) (N : Nat) (a0 : Option Nat) (a1 : Int32) (x1 : Int32 × Int32) (j6 : (Int32) → Hp → Out (Int32)) (w9 : (Int32 × Int32) → Hp → Out (Int32)) (x7 : Int32 × Int32) (h8 : Hp) : Out (Int32) :=
  if (8 : Int32) ≤ x7.2 then (j6 x7.1 h8)
  else bV h8 a0 18 (fun q16 => sX2_voteOf G N (some q16) x1.2 a1 x7.2 h8) fun v10 h11 =>
  gJ (fun (x12 : Int32) (h13 : Hp) =>
  gLet (x7.1 + x12) fun v15 =>
  w9 (v15, x7.2 + (1 : Int32)) h13) fun j14 =>
  if v10 ≤ 0 then (j14 (0 : Int32) h11)
  else j14 (1 : Int32) h11
noncomputable def bX2_votesOf_4 (G : GG) (N : Nat) (a0 : Option Nat) (a1 : Int32) (w3 : (Int32 × Int32) → Hp → Out (Int32)) (x1 : Int32 × Int32) (h2 : Hp) : Out (Int32) :=
  if (10 : Int32) ≤ x1.2 then (some (.inl x1.1, h2))
  else gJ (fun (x4 : Int32) (h5 : Hp) =>
  w3 (x4, x1.2 + (1 : Int32)) h5) fun j6 =>
  gLp (bX2_votesOf_13 G N a0 a1 x1 j6) N (x1.1, (0 : Int32)) h2
noncomputable def sX2_votesOf (G : GG) (N : Nat) (a0 : Option Nat) (a1 : Int32) (h : Hp) : Out (Int32) :=
  gLp (bX2_votesOf_4 G N a0 a1) N ((0 : Int32), (0 : Int32)) h
abbrev mX2_votesOf : MI := (RX2, cX2_votesOf, 5, (some .int), [], 2, 45, "votesOf")
theorem tX2_votesOf {G : GG} {l : Launch} (hs : l.stackTraces = false) {N : Nat} {a0 : Option Nat} {a1 : Int32} {h : Hp} {r : Int32 ⊕ Nat} {hf : Hp} (ho : sX2_votesOf G N a0 a1 h = some (r, hf)) : gMet G l yX2_votesOf (ws_ yX2_votesOf cX2_votesOf 5 (some .int)) 2 45 [gr a0, gi a1] h cvI r hf := by
  refine gMet.of ho hs (plainFor_of_name pn_X2) rfl rfl (gbl rfl) fun X => ?_
  show gT G l X mX2_votesOf cvI r hf 0 [(0, gr a0), (1, gi a1)] [] h (sX2_votesOf G N a0 a1 h)
  delta sX2_votesOf
  refine g_iconst (pc := 0) (v := (0 : Int32)) ic_0 dX2_votesOf_0 ?_
  refine g_istore_n (pc := 1) (lv' := [(2, gi (0 : Int32)), (0, gr a0), (1, gi a1)]) [0, 1, 2] rfl rfl (gblt rfl) dX2_votesOf_1 ?_
  refine g_iconst (pc := 2) (v := (0 : Int32)) ic_0 dX2_votesOf_2 ?_
  refine g_istore_n (pc := 3) (lv' := [(3, gi (0 : Int32)), (2, gi (0 : Int32)), (0, gr a0), (1, gi a1)]) [0, 1, 2, 3] rfl rfl (gblt rfl) dX2_votesOf_3 ?_
  refine g_sub (lv' := [(0, gr a0), (1, gi a1), (2, gi (0 : Int32)), (3, gi (0 : Int32))]) [2, 3, 1, 0] rfl ?_
  refine g_loop (pc := 4) (fun (x1 : Int32 × Int32) => [(0, gr a0), (1, gi a1), (2, gi x1.1), (3, gi x1.2)]) (fun (_ : Int32 × Int32) => []) (fun w3 Hw3 x1 h2 => ?_) N ((0 : Int32), (0 : Int32)) h
  delta bX2_votesOf_4
  refine g_iload_n (pc := 4) (x := x1.2) 3 rfl rfl dX2_votesOf_4 ?_
  refine g_bipush (pc := 5) (v := (10 : Int32)) bc_10 dX2_votesOf_5 ?_
  refine g_icmp_ge (pc := 7) (tgt := 51) rfl dX2_votesOf_7 ?_ ?_
  · refine g_iload_n (pc := 51) (x := x1.1) 2 rfl rfl dX2_votesOf_51 ?_
    exact g_ireturn (pc := 52) rfl dX2_votesOf_52
  refine g_iconst (pc := 10) (v := (0 : Int32)) ic_0 dX2_votesOf_10 ?_
  refine g_istore (pc := 11) (lv' := [(4, gi (0 : Int32)), (0, gr a0), (1, gi a1), (2, gi x1.1), (3, gi x1.2)]) [0, 1, 2, 3, 4] rfl (gblt rfl) dX2_votesOf_11 ?_
  refine g_join 45 (fun (x4 : Int32) => [(0, gr a0), (1, gi a1), (2, gi x4), (3, gi x1.2)]) (fun (x4 : Int32) => []) (fun x4 h5 => ?_) (fun j6 Hj6 => ?_)
  · refine g_iinc (pc := 45) (v := x1.2 + (1 : Int32)) 3 rfl (ii_1 _) (lv' := [(3, gi (x1.2 + (1 : Int32))), (0, gr a0), (1, gi a1), (2, gi x4)]) [0, 1, 2, 3] rfl (gblt rfl) dX2_votesOf_45 ?_
    refine g_goto (pc := 48) (tgt := 4) rfl dX2_votesOf_48 ?_
    exact g_sub [1, 2, 3, 0] rfl (Hw3 (x4, x1.2 + (1 : Int32)) h5)
  refine g_sub (lv' := [(0, gr a0), (1, gi a1), (2, gi x1.1), (3, gi x1.2), (4, gi (0 : Int32))]) [1, 2, 3, 4, 0] rfl ?_
  refine g_loop (pc := 13) (fun (x7 : Int32 × Int32) => [(0, gr a0), (1, gi a1), (2, gi x7.1), (3, gi x1.2), (4, gi x7.2)]) (fun (_ : Int32 × Int32) => []) (fun w9 Hw9 x7 h8 => ?_) N (x1.1, (0 : Int32)) h2
  delta bX2_votesOf_13
  refine g_iload (pc := 13) (x := x7.2) 4 rfl dX2_votesOf_13 ?_
  refine g_bipush (pc := 15) (v := (8 : Int32)) bc_8 dX2_votesOf_15 ?_
  refine g_icmp_ge (pc := 17) (tgt := 45) rfl dX2_votesOf_17 ?_ ?_
  · exact g_sub [0, 1, 2, 3] rfl (Hj6 x7.1 h8)
  refine g_iload_n (pc := 20) (x := x7.1) 2 rfl rfl dX2_votesOf_20 ?_
  refine g_aload_n (pc := 21) (x := a0) 0 rfl rfl dX2_votesOf_21 ?_
  refine g_iload_n (pc := 22) (x := x1.2) 3 rfl rfl dX2_votesOf_22 ?_
  refine g_iload_n (pc := 23) (x := a1) 1 rfl rfl dX2_votesOf_23 ?_
  refine g_iload (pc := 24) (x := x7.2) 4 rfl dX2_votesOf_24 ?_
  refine g_bVi (pc := 26) (y := yX2_voteOf) (ws := ws_ yX2_voteOf cX2_voteOf 4 (some .int)) (fr := 1) (lo := 22) (as := [gi x1.2, gi a1, gi x7.2]) (st := [gi x7.1]) (g_no) rfl (fun _ _ _ e => tX2_voteOf hs e) (fun K _ _ _ hq hM R e1 e2 => g_runV (M := mX2_votesOf) (pc := 26) (y := yX2_voteOf) (bytes := cX2_voteOf) (maxL := 4) (ret := (some .int)) (fr := 1) (lo := 22) (as := [gi x1.2, gi a1, gi x7.2]) (st := [gi x7.1]) hq (C := "FlareSlopesModel") rfl gy_X2_voteOf (gbl rfl) (gbl rfl) (gbl rfl) q4222 q4224 qs89 dX2_votesOf_26 K hM R e1 e2) fun v10 h11 => ?_
  refine g_join 37 (fun (x12 : Int32) => [(0, gr a0), (1, gi a1), (3, gi x1.2), (4, gi x7.2)]) (fun (x12 : Int32) => [gi x12, gi x7.1]) (fun x12 h13 => ?_) (fun j14 Hj14 => ?_)
  · refine g_iadd (pc := 37) dX2_votesOf_37 ?_
    refine g_leti fun v15 => ?_
    refine g_istore_n (pc := 38) (lv' := [(2, gi v15), (0, gr a0), (1, gi a1), (3, gi x1.2), (4, gi x7.2)]) [0, 1, 2, 3, 4] rfl rfl (gblt rfl) dX2_votesOf_38 ?_
    refine g_iinc (pc := 39) (v := x7.2 + (1 : Int32)) 4 rfl (ii_1 _) (lv' := [(4, gi (x7.2 + (1 : Int32))), (2, gi v15), (0, gr a0), (1, gi a1), (3, gi x1.2)]) [0, 1, 2, 3, 4] rfl (gblt rfl) dX2_votesOf_39 ?_
    refine g_goto (pc := 42) (tgt := 13) rfl dX2_votesOf_42 ?_
    exact g_sub [2, 3, 1, 4, 0] rfl (Hw9 (v15, x7.2 + (1 : Int32)) h13)
  refine g_if_le (pc := 29) (tgt := 36) rfl dX2_votesOf_29 ?_ ?_
  · refine g_iconst (pc := 36) (v := (0 : Int32)) ic_0 dX2_votesOf_36 ?_
    exact g_sub [0, 1, 3, 4] rfl (Hj14 (0 : Int32) h11)
  refine g_iconst (pc := 32) (v := (1 : Int32)) ic_1 dX2_votesOf_32 ?_
  refine g_goto (pc := 33) (tgt := 37) rfl dX2_votesOf_33 ?_
  exact g_sub [0, 1, 3, 4] rfl (Hj14 (1 : Int32) h11)
/-! FlareSlopesModel.slopeAt(I)I -/
noncomputable def sX2_slopeAt (G : GG) (N : Nat) (a0 : Int32) (h : Hp) : Out (Int32) :=
  some (.inl ((40 : Int32) + ((3 : Int32) * a0)), h)
abbrev mX2_slopeAt : MI := (RX2, cX2_slopeAt, 1, (some .int), [], 0, 0, "slopeAt")
theorem tX2_slopeAt {G : GG} {l : Launch} (hs : l.stackTraces = false) {N : Nat} {a0 : Int32} {h : Hp} {r : Int32 ⊕ Nat} {hf : Hp} (ho : sX2_slopeAt G N a0 h = some (r, hf)) : gMet G l yX2_slopeAt (ws_ yX2_slopeAt cX2_slopeAt 1 (some .int)) 0 0 [gi a0] h cvI r hf := by
  refine gMet.of ho hs (plainFor_of_name pn_X2) rfl rfl (gbl rfl) fun X => ?_
  show gT G l X mX2_slopeAt cvI r hf 0 [(0, gi a0)] [] h (sX2_slopeAt G N a0 h)
  delta sX2_slopeAt
  refine g_bipush (pc := 0) (v := (40 : Int32)) bc_40 dX2_slopeAt_0 ?_
  refine g_iconst (pc := 2) (v := (3 : Int32)) ic_3 dX2_slopeAt_2 ?_
  refine g_iload_n (pc := 3) (x := a0) 0 rfl rfl dX2_slopeAt_3 ?_
  refine g_imul (pc := 4) dX2_slopeAt_4 ?_
  refine g_iadd (pc := 5) dX2_slopeAt_5 ?_
  exact g_ireturn (pc := 6) rfl dX2_slopeAt_6
/-! FlareSlopesModel.slopesSeen(I)I -/
noncomputable def bX2_slopesSeen_4 (G : GG) (N : Nat) (a0 : Option Nat) (a1 : Int32) (w3 : (Int32 × Int32) → Hp → Out (Int32)) (x1 : Int32 × Int32) (h2 : Hp) : Out (Int32) :=
  gFr h2 a0 18 1 fun v4 =>
  gAi h2 v4 0 (7 : Int32) fun v5 =>
  if v5 ≤ x1.2 then (some (.inl x1.1, h2))
  else bnd (sX2_cabinAt G N a1 h2) fun v6 h7 =>
  bnd (sX2_slopeAt G N x1.2 h7) fun v8 h9 =>
  bV h9 a0 18 (fun q16 => sX2_see G N (some q16) v6 v8 h9) fun v10 h11 =>
  gJ (fun (x12 : Int32) (h13 : Hp) =>
  gLet (x1.1 + x12) fun v15 =>
  w3 (v15, x1.2 + (1 : Int32)) h13) fun j14 =>
  if v10 = 0 then (j14 (0 : Int32) h11)
  else j14 (1 : Int32) h11
noncomputable def sX2_slopesSeen (G : GG) (N : Nat) (a0 : Option Nat) (a1 : Int32) (h : Hp) : Out (Int32) :=
  gLp (bX2_slopesSeen_4 G N a0 a1) N ((0 : Int32), (0 : Int32)) h
abbrev mX2_slopesSeen : MI := (RX2, cX2_slopesSeen, 4, (some .int), [], 3, 71, "slopesSeen")
theorem tX2_slopesSeen {G : GG} {l : Launch} (hs : l.stackTraces = false) {N : Nat} {a0 : Option Nat} {a1 : Int32} {h : Hp} {r : Int32 ⊕ Nat} {hf : Hp} (ho : sX2_slopesSeen G N a0 a1 h = some (r, hf)) : gMet G l yX2_slopesSeen (ws_ yX2_slopesSeen cX2_slopesSeen 4 (some .int)) 3 71 [gr a0, gi a1] h cvI r hf := by
  refine gMet.of ho hs (plainFor_of_name pn_X2) rfl rfl (gbl rfl) fun X => ?_
  show gT G l X mX2_slopesSeen cvI r hf 0 [(0, gr a0), (1, gi a1)] [] h (sX2_slopesSeen G N a0 a1 h)
  delta sX2_slopesSeen
  refine g_iconst (pc := 0) (v := (0 : Int32)) ic_0 dX2_slopesSeen_0 ?_
  refine g_istore_n (pc := 1) (lv' := [(2, gi (0 : Int32)), (0, gr a0), (1, gi a1)]) [0, 1, 2] rfl rfl (gblt rfl) dX2_slopesSeen_1 ?_
  refine g_iconst (pc := 2) (v := (0 : Int32)) ic_0 dX2_slopesSeen_2 ?_
  refine g_istore_n (pc := 3) (lv' := [(3, gi (0 : Int32)), (2, gi (0 : Int32)), (0, gr a0), (1, gi a1)]) [0, 1, 2, 3] rfl rfl (gblt rfl) dX2_slopesSeen_3 ?_
  refine g_sub (lv' := [(0, gr a0), (1, gi a1), (2, gi (0 : Int32)), (3, gi (0 : Int32))]) [2, 3, 1, 0] rfl ?_
  refine g_loop (pc := 4) (fun (x1 : Int32 × Int32) => [(0, gr a0), (1, gi a1), (2, gi x1.1), (3, gi x1.2)]) (fun (_ : Int32 × Int32) => []) (fun w3 Hw3 x1 h2 => ?_) N ((0 : Int32), (0 : Int32)) h
  delta bX2_slopesSeen_4
  refine g_iload_n (pc := 4) (x := x1.2) 3 rfl rfl dX2_slopesSeen_4 ?_
  refine g_aload_n (pc := 5) (x := a0) 0 rfl rfl dX2_slopesSeen_5 ?_
  refine g_getfr (pc := 6) k_18 (gblt rfl) lk_X2_9_18 dX2_slopesSeen_6 fun v4 => ?_
  refine g_bipush (pc := 9) (v := (7 : Int32)) bc_7 dX2_slopesSeen_9 ?_
  refine g_iaload (pc := 11) rfl dX2_slopesSeen_11 fun v5 => ?_
  refine g_icmp_ge (pc := 12) (tgt := 44) rfl dX2_slopesSeen_12 ?_ ?_
  · refine g_iload_n (pc := 44) (x := x1.1) 2 rfl rfl dX2_slopesSeen_44 ?_
    exact g_ireturn (pc := 45) rfl dX2_slopesSeen_45
  refine g_iload_n (pc := 15) (x := x1.1) 2 rfl rfl dX2_slopesSeen_15 ?_
  refine g_aload_n (pc := 16) (x := a0) 0 rfl rfl dX2_slopesSeen_16 ?_
  refine g_iload_n (pc := 17) (x := a1) 1 rfl rfl dX2_slopesSeen_17 ?_
  refine g_bi (pc := 18) (y := yX2_cabinAt) (ws := ws_ yX2_cabinAt cX2_cabinAt 1 (some .int)) (fr := 0) (lo := 0) (as := [gi a1]) (st := [gr a0, gi x1.1]) (g_no) rfl (fun _ _ e => tX2_cabinAt hs e) (fun K _ _ hM R e1 e2 => g_runS (M := mX2_slopesSeen) (pc := 18) (y := yX2_cabinAt) (bytes := cX2_cabinAt) (maxL := 1) (ret := (some .int)) (fr := 0) (lo := 0) (as := [gi a1]) (st := [gr a0, gi x1.1]) gy_X2_cabinAt (gbl rfl) (gbl rfl) (gbl rfl) q4179 q4180 dX2_slopesSeen_18 K hM R e1 e2) fun v6 h7 => ?_
  refine g_iload_n (pc := 21) (x := x1.2) 3 rfl rfl dX2_slopesSeen_21 ?_
  refine g_bi (pc := 22) (y := yX2_slopeAt) (ws := ws_ yX2_slopeAt cX2_slopeAt 1 (some .int)) (fr := 0) (lo := 0) (as := [gi x1.2]) (st := [gi v6, gr a0, gi x1.1]) (g_no) rfl (fun _ _ e => tX2_slopeAt hs e) (fun K _ _ hM R e1 e2 => g_runS (M := mX2_slopesSeen) (pc := 22) (y := yX2_slopeAt) (bytes := cX2_slopeAt) (maxL := 1) (ret := (some .int)) (fr := 0) (lo := 0) (as := [gi x1.2]) (st := [gi v6, gr a0, gi x1.1]) gy_X2_slopeAt (gbl rfl) (gbl rfl) (gbl rfl) q4230 q4231 dX2_slopesSeen_22 K hM R e1 e2) fun v8 h9 => ?_
  refine g_bVi (pc := 25) (y := yX2_see) (ws := ws_ yX2_see cX2_see 6 (some .boolean)) (fr := 2) (lo := 46) (as := [gi v6, gi v8]) (st := [gi x1.1]) (g_no) rfl (fun _ _ _ e => tX2_see hs e) (fun K _ _ _ hq hM R e1 e2 => g_runV (M := mX2_slopesSeen) (pc := 25) (y := yX2_see) (bytes := cX2_see) (maxL := 6) (ret := (some .boolean)) (fr := 2) (lo := 46) (as := [gi v6, gi v8]) (st := [gi x1.1]) hq (C := "FlareSlopesModel") rfl gy_X2_see (gbl rfl) (gbl rfl) (gbl rfl) q4182 q4184 qs82 dX2_slopesSeen_25 K hM R e1 e2) fun v10 h11 => ?_
  refine g_join 36 (fun (x12 : Int32) => [(0, gr a0), (1, gi a1), (3, gi x1.2)]) (fun (x12 : Int32) => [gi x12, gi x1.1]) (fun x12 h13 => ?_) (fun j14 Hj14 => ?_)
  · refine g_iadd (pc := 36) dX2_slopesSeen_36 ?_
    refine g_leti fun v15 => ?_
    refine g_istore_n (pc := 37) (lv' := [(2, gi v15), (0, gr a0), (1, gi a1), (3, gi x1.2)]) [0, 1, 2, 3] rfl rfl (gblt rfl) dX2_slopesSeen_37 ?_
    refine g_iinc (pc := 38) (v := x1.2 + (1 : Int32)) 3 rfl (ii_1 _) (lv' := [(3, gi (x1.2 + (1 : Int32))), (2, gi v15), (0, gr a0), (1, gi a1)]) [0, 1, 2, 3] rfl (gblt rfl) dX2_slopesSeen_38 ?_
    refine g_goto (pc := 41) (tgt := 4) rfl dX2_slopesSeen_41 ?_
    exact g_sub [2, 3, 1, 0] rfl (Hw3 (v15, x1.2 + (1 : Int32)) h13)
  refine g_if_eq (pc := 28) (tgt := 35) rfl dX2_slopesSeen_28 ?_ ?_
  · refine g_iconst (pc := 35) (v := (0 : Int32)) ic_0 dX2_slopesSeen_35 ?_
    exact g_sub [0, 1, 3] rfl (Hj14 (0 : Int32) h11)
  refine g_iconst (pc := 31) (v := (1 : Int32)) ic_1 dX2_slopesSeen_31 ?_
  refine g_goto (pc := 32) (tgt := 36) rfl dX2_slopesSeen_32 ?_
  exact g_sub [0, 1, 3] rfl (Hj14 (1 : Int32) h11)
/-! FlareSlopesModel.hasVote(IIZ)Z -/
noncomputable def bX2_hasVote_6 (G : GG) (N : Nat) (a0 : Option Nat) (a1 : Int32) (a2 : Int32) (a3 : Int32) (w3 : (Int32 × Int32) → Hp → Out (Int32)) (x1 : Int32 × Int32) (h2 : Hp) : Out (Int32) :=
  gFr h2 a0 18 1 fun v4 =>
  gAi h2 v4 0 (6 : Int32) fun v5 =>
  if v5 ≤ x1.2 then (gRtZ x1.1 h2)
  else bV h2 a0 18 (fun q20 => sX2_voteOf G N (some q20) a1 x1.2 a2 h2) fun v6 h7 =>
  gJ (fun (x8 : Int32) (h9 : Hp) =>
  gLet (x1.1 ||| x8) fun v11 =>
  w3 (v11, x1.2 + (1 : Int32)) h9) fun j10 =>
  gJ (fun (x12 : Unit) (h13 : Hp) =>
  j10 (0 : Int32) h13) fun j14 =>
  if v6 ≤ 0 then (j14 () h7)
  else bV h7 a0 18 (fun q19 => sX2_voteOf G N (some q19) a1 x1.2 a2 h7) fun v15 h16 =>
  bnd (sX2_isRed G N v15 h16) fun v17 h18 =>
  if v17 = a3 then (j10 (1 : Int32) h18)
  else j14 () h18
noncomputable def sX2_hasVote (G : GG) (N : Nat) (a0 : Option Nat) (a1 : Int32) (a2 : Int32) (a3 : Int32) (h : Hp) : Out (Int32) :=
  gLp (bX2_hasVote_6 G N a0 a1 a2 a3) N ((0 : Int32), (0 : Int32)) h
abbrev mX2_hasVote : MI := (RX2, cX2_hasVote, 6, (some .boolean), [], 2, 45, "hasVote")
theorem tX2_hasVote {G : GG} {l : Launch} (hs : l.stackTraces = false) {N : Nat} {a0 : Option Nat} {a1 : Int32} {a2 : Int32} {a3 : Int32} {h : Hp} {r : Int32 ⊕ Nat} {hf : Hp} (ho : sX2_hasVote G N a0 a1 a2 a3 h = some (r, hf)) : gMet G l yX2_hasVote (ws_ yX2_hasVote cX2_hasVote 6 (some .boolean)) 2 45 [gr a0, gi a1, gi a2, gi a3] h cvI r hf := by
  refine gMet.of ho hs (plainFor_of_name pn_X2) rfl rfl (gbl rfl) fun X => ?_
  show gT G l X mX2_hasVote cvI r hf 0 [(0, gr a0), (1, gi a1), (2, gi a2), (3, gi a3)] [] h (sX2_hasVote G N a0 a1 a2 a3 h)
  delta sX2_hasVote
  refine g_iconst (pc := 0) (v := (0 : Int32)) ic_0 dX2_hasVote_0 ?_
  refine g_istore (pc := 1) (lv' := [(4, gi (0 : Int32)), (0, gr a0), (1, gi a1), (2, gi a2), (3, gi a3)]) [0, 1, 2, 3, 4] rfl (gblt rfl) dX2_hasVote_1 ?_
  refine g_iconst (pc := 3) (v := (0 : Int32)) ic_0 dX2_hasVote_3 ?_
  refine g_istore (pc := 4) (lv' := [(5, gi (0 : Int32)), (4, gi (0 : Int32)), (0, gr a0), (1, gi a1), (2, gi a2), (3, gi a3)]) [0, 1, 2, 3, 4, 5] rfl (gblt rfl) dX2_hasVote_4 ?_
  refine g_sub (lv' := [(0, gr a0), (1, gi a1), (2, gi a2), (3, gi a3), (4, gi (0 : Int32)), (5, gi (0 : Int32))]) [2, 3, 4, 5, 1, 0] rfl ?_
  refine g_loop (pc := 6) (fun (x1 : Int32 × Int32) => [(0, gr a0), (1, gi a1), (2, gi a2), (3, gi a3), (4, gi x1.1), (5, gi x1.2)]) (fun (_ : Int32 × Int32) => []) (fun w3 Hw3 x1 h2 => ?_) N ((0 : Int32), (0 : Int32)) h
  delta bX2_hasVote_6
  refine g_iload (pc := 6) (x := x1.2) 5 rfl dX2_hasVote_6 ?_
  refine g_aload_n (pc := 8) (x := a0) 0 rfl rfl dX2_hasVote_8 ?_
  refine g_getfr (pc := 9) k_18 (gblt rfl) lk_X2_9_18 dX2_hasVote_9 fun v4 => ?_
  refine g_bipush (pc := 12) (v := (6 : Int32)) bc_6 dX2_hasVote_12 ?_
  refine g_iaload (pc := 14) rfl dX2_hasVote_14 fun v5 => ?_
  refine g_icmp_ge (pc := 15) (tgt := 60) rfl dX2_hasVote_15 ?_ ?_
  · refine g_iload (pc := 60) (x := x1.1) 4 rfl dX2_hasVote_60 ?_
    exact g_zreturn (pc := 62) rfl dX2_hasVote_62
  refine g_iload (pc := 18) (x := x1.1) 4 rfl dX2_hasVote_18 ?_
  refine g_aload_n (pc := 20) (x := a0) 0 rfl rfl dX2_hasVote_20 ?_
  refine g_iload_n (pc := 21) (x := a1) 1 rfl rfl dX2_hasVote_21 ?_
  refine g_iload (pc := 22) (x := x1.2) 5 rfl dX2_hasVote_22 ?_
  refine g_iload_n (pc := 24) (x := a2) 2 rfl rfl dX2_hasVote_24 ?_
  refine g_bVi (pc := 25) (y := yX2_voteOf) (ws := ws_ yX2_voteOf cX2_voteOf 4 (some .int)) (fr := 1) (lo := 22) (as := [gi a1, gi x1.2, gi a2]) (st := [gi x1.1]) (g_no) rfl (fun _ _ _ e => tX2_voteOf hs e) (fun K _ _ _ hq hM R e1 e2 => g_runV (M := mX2_hasVote) (pc := 25) (y := yX2_voteOf) (bytes := cX2_voteOf) (maxL := 4) (ret := (some .int)) (fr := 1) (lo := 22) (as := [gi a1, gi x1.2, gi a2]) (st := [gi x1.1]) hq (C := "FlareSlopesModel") rfl gy_X2_voteOf (gbl rfl) (gbl rfl) (gbl rfl) q4222 q4224 qs89 dX2_hasVote_25 K hM R e1 e2) fun v6 h7 => ?_
  refine g_join 51 (fun (x8 : Int32) => [(0, gr a0), (1, gi a1), (2, gi a2), (3, gi a3), (5, gi x1.2)]) (fun (x8 : Int32) => [gi x8, gi x1.1]) (fun x8 h9 => ?_) (fun j10 Hj10 => ?_)
  · refine g_ior (pc := 51) dX2_hasVote_51 ?_
    refine g_leti fun v11 => ?_
    refine g_istore (pc := 52) (lv' := [(4, gi v11), (0, gr a0), (1, gi a1), (2, gi a2), (3, gi a3), (5, gi x1.2)]) [0, 1, 2, 3, 4, 5] rfl (gblt rfl) dX2_hasVote_52 ?_
    refine g_iinc (pc := 54) (v := x1.2 + (1 : Int32)) 5 rfl (ii_1 _) (lv' := [(5, gi (x1.2 + (1 : Int32))), (4, gi v11), (0, gr a0), (1, gi a1), (2, gi a2), (3, gi a3)]) [0, 1, 2, 3, 4, 5] rfl (gblt rfl) dX2_hasVote_54 ?_
    refine g_goto (pc := 57) (tgt := 6) rfl dX2_hasVote_57 ?_
    exact g_sub [2, 3, 4, 5, 1, 0] rfl (Hw3 (v11, x1.2 + (1 : Int32)) h9)
  refine g_join 50 (fun (x12 : Unit) => [(0, gr a0), (1, gi a1), (2, gi a2), (3, gi a3), (5, gi x1.2)]) (fun (x12 : Unit) => [gi x1.1]) (fun x12 h13 => ?_) (fun j14 Hj14 => ?_)
  · refine g_iconst (pc := 50) (v := (0 : Int32)) ic_0 dX2_hasVote_50 ?_
    exact Hj10 (0 : Int32) h13
  refine g_if_le (pc := 28) (tgt := 50) rfl dX2_hasVote_28 ?_ ?_
  · exact g_sub [0, 1, 2, 3, 5] rfl (Hj14 () h7)
  refine g_aload_n (pc := 31) (x := a0) 0 rfl rfl dX2_hasVote_31 ?_
  refine g_iload_n (pc := 32) (x := a1) 1 rfl rfl dX2_hasVote_32 ?_
  refine g_iload (pc := 33) (x := x1.2) 5 rfl dX2_hasVote_33 ?_
  refine g_iload_n (pc := 35) (x := a2) 2 rfl rfl dX2_hasVote_35 ?_
  refine g_bVi (pc := 36) (y := yX2_voteOf) (ws := ws_ yX2_voteOf cX2_voteOf 4 (some .int)) (fr := 1) (lo := 22) (as := [gi a1, gi x1.2, gi a2]) (st := [gi x1.1]) (g_no) rfl (fun _ _ _ e => tX2_voteOf hs e) (fun K _ _ _ hq hM R e1 e2 => g_runV (M := mX2_hasVote) (pc := 36) (y := yX2_voteOf) (bytes := cX2_voteOf) (maxL := 4) (ret := (some .int)) (fr := 1) (lo := 22) (as := [gi a1, gi x1.2, gi a2]) (st := [gi x1.1]) hq (C := "FlareSlopesModel") rfl gy_X2_voteOf (gbl rfl) (gbl rfl) (gbl rfl) q4222 q4224 qs89 dX2_hasVote_36 K hM R e1 e2) fun v15 h16 => ?_
  refine g_bi (pc := 39) (y := yX2_isRed) (ws := ws_ yX2_isRed cX2_isRed 1 (some .boolean)) (fr := 0) (lo := 0) (as := [gi v15]) (st := [gi x1.1]) (g_no) rfl (fun _ _ e => tX2_isRed hs e) (fun K _ _ hM R e1 e2 => g_runS (M := mX2_hasVote) (pc := 39) (y := yX2_isRed) (bytes := cX2_isRed) (maxL := 1) (ret := (some .boolean)) (fr := 0) (lo := 0) (as := [gi v15]) (st := [gi x1.1]) gy_X2_isRed (gbl rfl) (gbl rfl) (gbl rfl) q4203 q4204 dX2_hasVote_39 K hM R e1 e2) fun v17 h18 => ?_
  refine g_iload_n (pc := 42) (x := a3) 3 rfl rfl dX2_hasVote_42 ?_
  refine g_icmp_ne (pc := 43) (tgt := 50) rfl dX2_hasVote_43 ?_ ?_
  rotate_left
  · exact g_sub [0, 1, 2, 3, 5] rfl (Hj14 () h18)
  refine g_iconst (pc := 46) (v := (1 : Int32)) ic_1 dX2_hasVote_46 ?_
  refine g_goto (pc := 47) (tgt := 51) rfl dX2_hasVote_47 ?_
  exact g_sub [0, 1, 2, 3, 5] rfl (Hj10 (1 : Int32) h18)
/-! FlareSlopesModel.slopesKnown(I)I -/
noncomputable def bX2_slopesKnown_4 (G : GG) (N : Nat) (a0 : Option Nat) (a1 : Int32) (w3 : (Int32 × Int32) → Hp → Out (Int32)) (x1 : Int32 × Int32) (h2 : Hp) : Out (Int32) :=
  gFr h2 a0 18 1 fun v4 =>
  gAi h2 v4 0 (7 : Int32) fun v5 =>
  if v5 ≤ x1.2 then (some (.inl x1.1, h2))
  else bV h2 a0 18 (fun q18 => sX2_hasVote G N (some q18) a1 x1.2 (1 : Int32) h2) fun v6 h7 =>
  gJ (fun (x8 : Int32) (h9 : Hp) =>
  gLet (x1.1 + x8) fun v11 =>
  w3 (v11, x1.2 + (1 : Int32)) h9) fun j10 =>
  gJ (fun (x12 : Unit) (h13 : Hp) =>
  j10 (1 : Int32) h13) fun j14 =>
  if v6 = 0 then (bV h7 a0 18 (fun q17 => sX2_hasVote G N (some q17) a1 x1.2 (0 : Int32) h7) fun v15 h16 =>
  if v15 = 0 then (j10 (0 : Int32) h16)
  else j14 () h16)
  else j14 () h7
noncomputable def sX2_slopesKnown (G : GG) (N : Nat) (a0 : Option Nat) (a1 : Int32) (h : Hp) : Out (Int32) :=
  gLp (bX2_slopesKnown_4 G N a0 a1) N ((0 : Int32), (0 : Int32)) h
abbrev mX2_slopesKnown : MI := (RX2, cX2_slopesKnown, 4, (some .int), [], 3, 70, "slopesKnown")
theorem tX2_slopesKnown {G : GG} {l : Launch} (hs : l.stackTraces = false) {N : Nat} {a0 : Option Nat} {a1 : Int32} {h : Hp} {r : Int32 ⊕ Nat} {hf : Hp} (ho : sX2_slopesKnown G N a0 a1 h = some (r, hf)) : gMet G l yX2_slopesKnown (ws_ yX2_slopesKnown cX2_slopesKnown 4 (some .int)) 3 70 [gr a0, gi a1] h cvI r hf := by
  refine gMet.of ho hs (plainFor_of_name pn_X2) rfl rfl (gbl rfl) fun X => ?_
  show gT G l X mX2_slopesKnown cvI r hf 0 [(0, gr a0), (1, gi a1)] [] h (sX2_slopesKnown G N a0 a1 h)
  delta sX2_slopesKnown
  refine g_iconst (pc := 0) (v := (0 : Int32)) ic_0 dX2_slopesKnown_0 ?_
  refine g_istore_n (pc := 1) (lv' := [(2, gi (0 : Int32)), (0, gr a0), (1, gi a1)]) [0, 1, 2] rfl rfl (gblt rfl) dX2_slopesKnown_1 ?_
  refine g_iconst (pc := 2) (v := (0 : Int32)) ic_0 dX2_slopesKnown_2 ?_
  refine g_istore_n (pc := 3) (lv' := [(3, gi (0 : Int32)), (2, gi (0 : Int32)), (0, gr a0), (1, gi a1)]) [0, 1, 2, 3] rfl rfl (gblt rfl) dX2_slopesKnown_3 ?_
  refine g_sub (lv' := [(0, gr a0), (1, gi a1), (2, gi (0 : Int32)), (3, gi (0 : Int32))]) [2, 3, 1, 0] rfl ?_
  refine g_loop (pc := 4) (fun (x1 : Int32 × Int32) => [(0, gr a0), (1, gi a1), (2, gi x1.1), (3, gi x1.2)]) (fun (_ : Int32 × Int32) => []) (fun w3 Hw3 x1 h2 => ?_) N ((0 : Int32), (0 : Int32)) h
  delta bX2_slopesKnown_4
  refine g_iload_n (pc := 4) (x := x1.2) 3 rfl rfl dX2_slopesKnown_4 ?_
  refine g_aload_n (pc := 5) (x := a0) 0 rfl rfl dX2_slopesKnown_5 ?_
  refine g_getfr (pc := 6) k_18 (gblt rfl) lk_X2_9_18 dX2_slopesKnown_6 fun v4 => ?_
  refine g_bipush (pc := 9) (v := (7 : Int32)) bc_7 dX2_slopesKnown_9 ?_
  refine g_iaload (pc := 11) rfl dX2_slopesKnown_11 fun v5 => ?_
  refine g_icmp_ge (pc := 12) (tgt := 49) rfl dX2_slopesKnown_12 ?_ ?_
  · refine g_iload_n (pc := 49) (x := x1.1) 2 rfl rfl dX2_slopesKnown_49 ?_
    exact g_ireturn (pc := 50) rfl dX2_slopesKnown_50
  refine g_iload_n (pc := 15) (x := x1.1) 2 rfl rfl dX2_slopesKnown_15 ?_
  refine g_aload_n (pc := 16) (x := a0) 0 rfl rfl dX2_slopesKnown_16 ?_
  refine g_iload_n (pc := 17) (x := a1) 1 rfl rfl dX2_slopesKnown_17 ?_
  refine g_iload_n (pc := 18) (x := x1.2) 3 rfl rfl dX2_slopesKnown_18 ?_
  refine g_iconst (pc := 19) (v := (1 : Int32)) ic_1 dX2_slopesKnown_19 ?_
  refine g_bVi (pc := 20) (y := yX2_hasVote) (ws := ws_ yX2_hasVote cX2_hasVote 6 (some .boolean)) (fr := 2) (lo := 45) (as := [gi a1, gi x1.2, gi (1 : Int32)]) (st := [gi x1.1]) (g_no) rfl (fun _ _ _ e => tX2_hasVote hs e) (fun K _ _ _ hq hM R e1 e2 => g_runV (M := mX2_slopesKnown) (pc := 20) (y := yX2_hasVote) (bytes := cX2_hasVote) (maxL := 6) (ret := (some .boolean)) (fr := 2) (lo := 45) (as := [gi a1, gi x1.2, gi (1 : Int32)]) (st := [gi x1.1]) hq (C := "FlareSlopesModel") rfl gy_X2_hasVote (gbl rfl) (gbl rfl) (gbl rfl) q4237 q4239 qs92 dX2_slopesKnown_20 K hM R e1 e2) fun v6 h7 => ?_
  refine g_join 41 (fun (x8 : Int32) => [(0, gr a0), (1, gi a1), (3, gi x1.2)]) (fun (x8 : Int32) => [gi x8, gi x1.1]) (fun x8 h9 => ?_) (fun j10 Hj10 => ?_)
  · refine g_iadd (pc := 41) dX2_slopesKnown_41 ?_
    refine g_leti fun v11 => ?_
    refine g_istore_n (pc := 42) (lv' := [(2, gi v11), (0, gr a0), (1, gi a1), (3, gi x1.2)]) [0, 1, 2, 3] rfl rfl (gblt rfl) dX2_slopesKnown_42 ?_
    refine g_iinc (pc := 43) (v := x1.2 + (1 : Int32)) 3 rfl (ii_1 _) (lv' := [(3, gi (x1.2 + (1 : Int32))), (2, gi v11), (0, gr a0), (1, gi a1)]) [0, 1, 2, 3] rfl (gblt rfl) dX2_slopesKnown_43 ?_
    refine g_goto (pc := 46) (tgt := 4) rfl dX2_slopesKnown_46 ?_
    exact g_sub [2, 3, 1, 0] rfl (Hw3 (v11, x1.2 + (1 : Int32)) h9)
  refine g_join 36 (fun (x12 : Unit) => [(0, gr a0), (1, gi a1), (3, gi x1.2)]) (fun (x12 : Unit) => [gi x1.1]) (fun x12 h13 => ?_) (fun j14 Hj14 => ?_)
  · refine g_iconst (pc := 36) (v := (1 : Int32)) ic_1 dX2_slopesKnown_36 ?_
    refine g_goto (pc := 37) (tgt := 41) rfl dX2_slopesKnown_37 ?_
    exact Hj10 (1 : Int32) h13
  refine g_if_ne (pc := 23) (tgt := 36) rfl dX2_slopesKnown_23 ?_ ?_
  rotate_left
  · exact g_sub [0, 1, 3] rfl (Hj14 () h7)
  refine g_aload_n (pc := 26) (x := a0) 0 rfl rfl dX2_slopesKnown_26 ?_
  refine g_iload_n (pc := 27) (x := a1) 1 rfl rfl dX2_slopesKnown_27 ?_
  refine g_iload_n (pc := 28) (x := x1.2) 3 rfl rfl dX2_slopesKnown_28 ?_
  refine g_iconst (pc := 29) (v := (0 : Int32)) ic_0 dX2_slopesKnown_29 ?_
  refine g_bVi (pc := 30) (y := yX2_hasVote) (ws := ws_ yX2_hasVote cX2_hasVote 6 (some .boolean)) (fr := 2) (lo := 45) (as := [gi a1, gi x1.2, gi (0 : Int32)]) (st := [gi x1.1]) (g_no) rfl (fun _ _ _ e => tX2_hasVote hs e) (fun K _ _ _ hq hM R e1 e2 => g_runV (M := mX2_slopesKnown) (pc := 30) (y := yX2_hasVote) (bytes := cX2_hasVote) (maxL := 6) (ret := (some .boolean)) (fr := 2) (lo := 45) (as := [gi a1, gi x1.2, gi (0 : Int32)]) (st := [gi x1.1]) hq (C := "FlareSlopesModel") rfl gy_X2_hasVote (gbl rfl) (gbl rfl) (gbl rfl) q4237 q4239 qs92 dX2_slopesKnown_30 K hM R e1 e2) fun v15 h16 => ?_
  refine g_if_eq (pc := 33) (tgt := 40) rfl dX2_slopesKnown_33 ?_ ?_
  rotate_left
  · exact g_sub [0, 1, 3] rfl (Hj14 () h16)
  refine g_iconst (pc := 40) (v := (0 : Int32)) ic_0 dX2_slopesKnown_40 ?_
  exact g_sub [0, 1, 3] rfl (Hj10 (0 : Int32) h16)
/-! FlareSlopesModel.cabin(II)I -/
noncomputable def sX2_cabin (G : GG) (N : Nat) (a0 : Option Nat) (a1 : Int32) (a2 : Int32) (h : Hp) : Out (Int32) :=
  gFi h a0 18 8 fun v1 =>
  bV h a0 18 (fun q35 => sX2_isCabin G N (some q35) a1 h) fun v2 h3 =>
  bnd (sX2_in G N a2 (0 : Int32) (10 : Int32) h3) fun v4 h5 =>
  bV h5 a0 18 (fun q34 => sX2_may G N (some q34) v1 v2 v4 h5) fun v6 h7 =>
  if v6 = 0 then (some (.inl (0 : Int32), h7))
  else gSel a2 [((3 : Int32), gFr h7 a0 18 1 fun v12 =>
  gAi h7 v12 0 ((148 : Int32) + a1) fun v13 =>
  some (.inl v13, h7)),
  ((4 : Int32), gFr h7 a0 18 1 fun v14 =>
  gAi h7 v14 0 ((158 : Int32) + a1) fun v15 =>
  some (.inl v15, h7)),
  ((5 : Int32), gFr h7 a0 18 1 fun v16 =>
  gAi h7 v16 0 ((168 : Int32) + a1) fun v17 =>
  some (.inl v17, h7)),
  ((6 : Int32), bV h7 a0 18 (fun q20 => sX2_votesOf G N (some q20) a1 h7) fun v18 h19 =>
  some (.inl v18, h19)),
  ((7 : Int32), bV h7 a0 18 (fun q23 => sX2_votesBy G N (some q23) a1 h7) fun v21 h22 =>
  some (.inl v21, h22)),
  ((8 : Int32), gFr h7 a0 18 1 fun v24 =>
  gAi h7 v24 0 ((138 : Int32) + a1) fun v25 =>
  bnd (sX2_bitsOfSlopes G N v25 h7) fun v26 h27 =>
  some (.inl v26, h27)),
  ((9 : Int32), bV h7 a0 18 (fun q30 => sX2_slopesSeen G N (some q30) a1 h7) fun v28 h29 =>
  some (.inl v28, h29)),
  ((10 : Int32), bV h7 a0 18 (fun q33 => sX2_slopesKnown G N (some q33) a1 h7) fun v31 h32 =>
  some (.inl v31, h32))] (gFr h7 a0 18 1 fun v8 =>
  bnd (sX2_cabinAt G N a1 h7) fun v9 h10 =>
  gAi h10 v8 0 (v9 + a2) fun v11 =>
  some (.inl v11, h10))
abbrev mX2_cabin : MI := (RX2, cX2_cabin, 3, (some .int), [], 4, 94, "cabin")
theorem tX2_cabin {G : GG} {l : Launch} (hs : l.stackTraces = false) {N : Nat} {a0 : Option Nat} {a1 : Int32} {a2 : Int32} {h : Hp} {r : Int32 ⊕ Nat} {hf : Hp} (ho : sX2_cabin G N a0 a1 a2 h = some (r, hf)) : gMet G l yX2_cabin (ws_ yX2_cabin cX2_cabin 3 (some .int)) 4 94 [gr a0, gi a1, gi a2] h cvI r hf := by
  refine gMet.of ho hs (plainFor_of_name pn_X2) rfl rfl (gbl rfl) fun X => ?_
  show gT G l X mX2_cabin cvI r hf 0 [(0, gr a0), (1, gi a1), (2, gi a2)] [] h (sX2_cabin G N a0 a1 a2 h)
  delta sX2_cabin
  refine g_aload_n (pc := 0) (x := a0) 0 rfl rfl dX2_cabin_0 ?_
  refine g_aload_n (pc := 1) (x := a0) 0 rfl rfl dX2_cabin_1 ?_
  refine g_getfi (pc := 2) k_18 (gblt rfl) lk_X2_184_18 dX2_cabin_2 fun v1 => ?_
  refine g_aload_n (pc := 5) (x := a0) 0 rfl rfl dX2_cabin_5 ?_
  refine g_iload_n (pc := 6) (x := a1) 1 rfl rfl dX2_cabin_6 ?_
  refine g_bVi (pc := 7) (y := yX2_isCabin) (ws := ws_ yX2_isCabin cX2_isCabin 2 (some .boolean)) (fr := 1) (lo := 22) (as := [gi a1]) (st := [gi v1, gr a0]) (g_no) rfl (fun _ _ _ e => tX2_isCabin hs e) (fun K _ _ _ hq hM R e1 e2 => g_runV (M := mX2_cabin) (pc := 7) (y := yX2_isCabin) (bytes := cX2_isCabin) (maxL := 2) (ret := (some .boolean)) (fr := 1) (lo := 22) (as := [gi a1]) (st := [gi v1, gr a0]) hq (C := "FlareSlopesModel") rfl gy_X2_isCabin (gbl rfl) (gbl rfl) (gbl rfl) q4214 q4216 qs87 dX2_cabin_7 K hM R e1 e2) fun v2 h3 => ?_
  refine g_iload_n (pc := 10) (x := a2) 2 rfl rfl dX2_cabin_10 ?_
  refine g_iconst (pc := 11) (v := (0 : Int32)) ic_0 dX2_cabin_11 ?_
  refine g_bipush (pc := 12) (v := (10 : Int32)) bc_10 dX2_cabin_12 ?_
  refine g_bi (pc := 14) (y := yX2_in) (ws := ws_ yX2_in cX2_in 3 (some .boolean)) (fr := 0) (lo := 0) (as := [gi a2, gi (0 : Int32), gi (10 : Int32)]) (st := [gi v2, gi v1, gr a0]) (g_no) rfl (fun _ _ e => tX2_in hs e) (fun K _ _ hM R e1 e2 => g_runS (M := mX2_cabin) (pc := 14) (y := yX2_in) (bytes := cX2_in) (maxL := 3) (ret := (some .boolean)) (fr := 0) (lo := 0) (as := [gi a2, gi (0 : Int32), gi (10 : Int32)]) (st := [gi v2, gi v1, gr a0]) gy_X2_in (gbl rfl) (gbl rfl) (gbl rfl) q4037 q4038 dX2_cabin_14 K hM R e1 e2) fun v4 h5 => ?_
  refine g_bVi (pc := 17) (y := yX2_may) (ws := ws_ yX2_may cX2_may 4 (some .boolean)) (fr := 0) (lo := 0) (as := [gi v1, gi v2, gi v4]) (st := []) (g_no) rfl (fun _ _ _ e => tX2_may hs e) (fun K _ _ _ hq hM R e1 e2 => g_runV (M := mX2_cabin) (pc := 17) (y := yX2_may) (bytes := cX2_may) (maxL := 4) (ret := (some .boolean)) (fr := 0) (lo := 0) (as := [gi v1, gi v2, gi v4]) (st := []) hq (C := "FlareSlopesModel") rfl gy_X2_may (gbl rfl) (gbl rfl) (gbl rfl) q4040 q4042 qs54 dX2_cabin_17 K hM R e1 e2) fun v6 h7 => ?_
  refine g_if_ne (pc := 20) (tgt := 25) rfl dX2_cabin_20 ?_ ?_
  · refine g_iconst (pc := 23) (v := (0 : Int32)) ic_0 dX2_cabin_23 ?_
    exact g_ireturn (pc := 24) rfl dX2_cabin_24
  refine g_iload_n (pc := 25) (x := a2) 2 rfl rfl dX2_cabin_25 ?_
  refine g_tableswitch (pc := 26) (td := 143) [((3 : Int32), 72), ((4 : Int32), 83), ((5 : Int32), 94), ((6 : Int32), 105), ((7 : Int32), 111), ((8 : Int32), 117), ((9 : Int32), 131), ((10 : Int32), 137)] (by decide +kernel) dX2_cabin_26 ?_ (g_all_cons ?_ (g_all_cons ?_ (g_all_cons ?_ (g_all_cons ?_ (g_all_cons ?_ (g_all_cons ?_ (g_all_cons ?_ (g_all_cons ?_ g_all_nil))))))))
  · refine g_aload_n (pc := 143) (x := a0) 0 rfl rfl dX2_cabin_143 ?_
    refine g_getfr (pc := 144) k_18 (gblt rfl) lk_X2_9_18 dX2_cabin_144 fun v8 => ?_
    refine g_iload_n (pc := 147) (x := a1) 1 rfl rfl dX2_cabin_147 ?_
    refine g_bi (pc := 148) (y := yX2_cabinAt) (ws := ws_ yX2_cabinAt cX2_cabinAt 1 (some .int)) (fr := 0) (lo := 0) (as := [gi a1]) (st := [gr v8]) (g_no) rfl (fun _ _ e => tX2_cabinAt hs e) (fun K _ _ hM R e1 e2 => g_runS (M := mX2_cabin) (pc := 148) (y := yX2_cabinAt) (bytes := cX2_cabinAt) (maxL := 1) (ret := (some .int)) (fr := 0) (lo := 0) (as := [gi a1]) (st := [gr v8]) gy_X2_cabinAt (gbl rfl) (gbl rfl) (gbl rfl) q4179 q4180 dX2_cabin_148 K hM R e1 e2) fun v9 h10 => ?_
    refine g_iload_n (pc := 151) (x := a2) 2 rfl rfl dX2_cabin_151 ?_
    refine g_iadd (pc := 152) dX2_cabin_152 ?_
    refine g_iaload (pc := 153) rfl dX2_cabin_153 fun v11 => ?_
    exact g_ireturn (pc := 154) rfl dX2_cabin_154
  · refine g_aload_n (pc := 72) (x := a0) 0 rfl rfl dX2_cabin_72 ?_
    refine g_getfr (pc := 73) k_18 (gblt rfl) lk_X2_9_18 dX2_cabin_73 fun v12 => ?_
    refine g_sipush (pc := 76) (v := (148 : Int32)) sc_148 dX2_cabin_76 ?_
    refine g_iload_n (pc := 79) (x := a1) 1 rfl rfl dX2_cabin_79 ?_
    refine g_iadd (pc := 80) dX2_cabin_80 ?_
    refine g_iaload (pc := 81) rfl dX2_cabin_81 fun v13 => ?_
    exact g_ireturn (pc := 82) rfl dX2_cabin_82
  · refine g_aload_n (pc := 83) (x := a0) 0 rfl rfl dX2_cabin_83 ?_
    refine g_getfr (pc := 84) k_18 (gblt rfl) lk_X2_9_18 dX2_cabin_84 fun v14 => ?_
    refine g_sipush (pc := 87) (v := (158 : Int32)) sc_158 dX2_cabin_87 ?_
    refine g_iload_n (pc := 90) (x := a1) 1 rfl rfl dX2_cabin_90 ?_
    refine g_iadd (pc := 91) dX2_cabin_91 ?_
    refine g_iaload (pc := 92) rfl dX2_cabin_92 fun v15 => ?_
    exact g_ireturn (pc := 93) rfl dX2_cabin_93
  · refine g_aload_n (pc := 94) (x := a0) 0 rfl rfl dX2_cabin_94 ?_
    refine g_getfr (pc := 95) k_18 (gblt rfl) lk_X2_9_18 dX2_cabin_95 fun v16 => ?_
    refine g_sipush (pc := 98) (v := (168 : Int32)) sc_168 dX2_cabin_98 ?_
    refine g_iload_n (pc := 101) (x := a1) 1 rfl rfl dX2_cabin_101 ?_
    refine g_iadd (pc := 102) dX2_cabin_102 ?_
    refine g_iaload (pc := 103) rfl dX2_cabin_103 fun v17 => ?_
    exact g_ireturn (pc := 104) rfl dX2_cabin_104
  · refine g_aload_n (pc := 105) (x := a0) 0 rfl rfl dX2_cabin_105 ?_
    refine g_iload_n (pc := 106) (x := a1) 1 rfl rfl dX2_cabin_106 ?_
    refine g_bVi (pc := 107) (y := yX2_votesOf) (ws := ws_ yX2_votesOf cX2_votesOf 5 (some .int)) (fr := 2) (lo := 45) (as := [gi a1]) (st := []) (g_no) rfl (fun _ _ _ e => tX2_votesOf hs e) (fun K _ _ _ hq hM R e1 e2 => g_runV (M := mX2_cabin) (pc := 107) (y := yX2_votesOf) (bytes := cX2_votesOf) (maxL := 5) (ret := (some .int)) (fr := 2) (lo := 45) (as := [gi a1]) (st := []) hq (C := "FlareSlopesModel") rfl gy_X2_votesOf (gbl rfl) (gbl rfl) (gbl rfl) q4218 q4220 qs88 dX2_cabin_107 K hM R e1 e2) fun v18 h19 => ?_
    exact g_ireturn (pc := 110) rfl dX2_cabin_110
  · refine g_aload_n (pc := 111) (x := a0) 0 rfl rfl dX2_cabin_111 ?_
    refine g_iload_n (pc := 112) (x := a1) 1 rfl rfl dX2_cabin_112 ?_
    refine g_bVi (pc := 113) (y := yX2_votesBy) (ws := ws_ yX2_votesBy cX2_votesBy 4 (some .int)) (fr := 1) (lo := 22) (as := [gi a1]) (st := []) (g_no) rfl (fun _ _ _ e => tX2_votesBy hs e) (fun K _ _ _ hq hM R e1 e2 => g_runV (M := mX2_cabin) (pc := 113) (y := yX2_votesBy) (bytes := cX2_votesBy) (maxL := 4) (ret := (some .int)) (fr := 1) (lo := 22) (as := [gi a1]) (st := []) hq (C := "FlareSlopesModel") rfl gy_X2_votesBy (gbl rfl) (gbl rfl) (gbl rfl) q4161 q4163 qs79 dX2_cabin_113 K hM R e1 e2) fun v21 h22 => ?_
    exact g_ireturn (pc := 116) rfl dX2_cabin_116
  · refine g_aload_n (pc := 117) (x := a0) 0 rfl rfl dX2_cabin_117 ?_
    refine g_getfr (pc := 118) k_18 (gblt rfl) lk_X2_9_18 dX2_cabin_118 fun v24 => ?_
    refine g_sipush (pc := 121) (v := (138 : Int32)) sc_138 dX2_cabin_121 ?_
    refine g_iload_n (pc := 124) (x := a1) 1 rfl rfl dX2_cabin_124 ?_
    refine g_iadd (pc := 125) dX2_cabin_125 ?_
    refine g_iaload (pc := 126) rfl dX2_cabin_126 fun v25 => ?_
    refine g_bi (pc := 127) (y := yX2_bitsOfSlopes) (ws := ws_ yX2_bitsOfSlopes cX2_bitsOfSlopes 3 (some .int)) (fr := 0) (lo := 0) (as := [gi v25]) (st := []) (g_no) rfl (fun _ _ e => tX2_bitsOfSlopes hs e) (fun K _ _ hM R e1 e2 => g_runS (M := mX2_cabin) (pc := 127) (y := yX2_bitsOfSlopes) (bytes := cX2_bitsOfSlopes) (maxL := 3) (ret := (some .int)) (fr := 0) (lo := 0) (as := [gi v25]) (st := []) gy_X2_bitsOfSlopes (gbl rfl) (gbl rfl) (gbl rfl) q4168 q4169 dX2_cabin_127 K hM R e1 e2) fun v26 h27 => ?_
    exact g_ireturn (pc := 130) rfl dX2_cabin_130
  · refine g_aload_n (pc := 131) (x := a0) 0 rfl rfl dX2_cabin_131 ?_
    refine g_iload_n (pc := 132) (x := a1) 1 rfl rfl dX2_cabin_132 ?_
    refine g_bVi (pc := 133) (y := yX2_slopesSeen) (ws := ws_ yX2_slopesSeen cX2_slopesSeen 4 (some .int)) (fr := 3) (lo := 71) (as := [gi a1]) (st := []) (g_no) rfl (fun _ _ _ e => tX2_slopesSeen hs e) (fun K _ _ _ hq hM R e1 e2 => g_runV (M := mX2_cabin) (pc := 133) (y := yX2_slopesSeen) (bytes := cX2_slopesSeen) (maxL := 4) (ret := (some .int)) (fr := 3) (lo := 71) (as := [gi a1]) (st := []) hq (C := "FlareSlopesModel") rfl gy_X2_slopesSeen (gbl rfl) (gbl rfl) (gbl rfl) q4226 q4228 qs90 dX2_cabin_133 K hM R e1 e2) fun v28 h29 => ?_
    exact g_ireturn (pc := 136) rfl dX2_cabin_136
  · refine g_aload_n (pc := 137) (x := a0) 0 rfl rfl dX2_cabin_137 ?_
    refine g_iload_n (pc := 138) (x := a1) 1 rfl rfl dX2_cabin_138 ?_
    refine g_bVi (pc := 139) (y := yX2_slopesKnown) (ws := ws_ yX2_slopesKnown cX2_slopesKnown 4 (some .int)) (fr := 3) (lo := 70) (as := [gi a1]) (st := []) (g_no) rfl (fun _ _ _ e => tX2_slopesKnown hs e) (fun K _ _ _ hq hM R e1 e2 => g_runV (M := mX2_cabin) (pc := 139) (y := yX2_slopesKnown) (bytes := cX2_slopesKnown) (maxL := 4) (ret := (some .int)) (fr := 3) (lo := 70) (as := [gi a1]) (st := []) hq (C := "FlareSlopesModel") rfl gy_X2_slopesKnown (gbl rfl) (gbl rfl) (gbl rfl) q4233 q4235 qs91 dX2_cabin_139 K hM R e1 e2) fun v31 h32 => ?_
    exact g_ireturn (pc := 142) rfl dX2_cabin_142
/-! FlareSlopes.withSlope(I)LFlareSlopes$Spot; -/
noncomputable def sX1_withSlope (G : GG) (N : Nat) (a0 : Option Nat) (a1 : Int32) (h : Hp) : Out (Option Nat) :=
  bV h a0 3 (fun q12 => sX1_loaded G N (some q12) h) fun v1 h2 =>
  bV h2 v1 16 (fun q11 => sX3_slopes G N (some q11) h2) fun v3 h4 =>
  bnd (sX1_checkIndex G N a1 v3 h4) fun v5 h6 =>
  gFr h6 a0 3 4 fun v7 =>
  bV h6 v7 16 (fun q10 => sX3_slope G N (some q10) a1 h6) fun v8 h9 =>
  some (.inl v8, h9)
abbrev mX1_withSlope : MI := (RX1, cX1_withSlope, 2, (some (.object "FlareSlopes$Spot")), [], 8, 121, "withSlope")
theorem tX1_withSlope {G : GG} {l : Launch} (hs : l.stackTraces = false) {N : Nat} {a0 : Option Nat} {a1 : Int32} {h : Hp} {r : Option Nat ⊕ Nat} {hf : Hp} (ho : sX1_withSlope G N a0 a1 h = some (r, hf)) : gMet G l yX1_withSlope (ws_ yX1_withSlope cX1_withSlope 2 (some (.object "FlareSlopes$Spot"))) 8 121 [gr a0, gi a1] h cvR r hf := by
  refine gMet.of ho hs (plainFor_of_name pn_X1) rfl rfl (gbl rfl) fun X => ?_
  show gT G l X mX1_withSlope cvR r hf 0 [(0, gr a0), (1, gi a1)] [] h (sX1_withSlope G N a0 a1 h)
  delta sX1_withSlope
  refine g_iload_n (pc := 0) (x := a1) 1 rfl rfl dX1_withSlope_0 ?_
  refine g_aload_n (pc := 1) (x := a0) 0 rfl rfl dX1_withSlope_1 ?_
  refine g_bVr (pc := 2) (y := yX1_loaded) (ws := ws_ yX1_loaded cX1_loaded 1 (some (.object "FlareSlopes$State"))) (fr := 7) (lo := 101) (as := []) (st := [gi a1]) (g_no) rfl (fun _ _ _ e => tX1_loaded hs e) (fun K _ _ _ hq hM R e1 e2 => g_runV (M := mX1_withSlope) (pc := 2) (y := yX1_loaded) (bytes := cX1_loaded) (maxL := 1) (ret := (some (.object "FlareSlopes$State"))) (fr := 7) (lo := 101) (as := []) (st := [gi a1]) hq (C := "FlareSlopes") rfl gy_X1_loaded (gbl rfl) (gbl rfl) (gbl rfl) q1430 q1432 qs17 dX1_withSlope_2 K hM R e1 e2) fun v1 h2 => ?_
  refine g_bVi (pc := 5) (y := yX3_slopes) (ws := ws_ yX3_slopes cX3_slopes 1 (some .int)) (fr := 2) (lo := 40) (as := []) (st := [gi a1]) (g_no) rfl (fun _ _ _ e => tX3_slopes hs e) (fun K _ _ _ hq hM R e1 e2 => g_runV (M := mX1_withSlope) (pc := 5) (y := yX3_slopes) (bytes := cX3_slopes) (maxL := 1) (ret := (some .int)) (fr := 2) (lo := 40) (as := []) (st := [gi a1]) hq (C := "FlareSlopes$State") rfl gy_X3_slopes (gbl rfl) (gbl rfl) (gbl rfl) q1464 q1465 q1466 dX1_withSlope_5 K hM R e1 e2) fun v3 h4 => ?_
  refine g_bu (pc := 8) (y := yX1_checkIndex) (ws := ws_ yX1_checkIndex cX1_checkIndex 2 none) (fr := 6) (lo := 81) (as := [gi a1, gi v3]) (st := []) (g_no) rfl (fun _ _ e => tX1_checkIndex hs e) (fun K _ _ hM R e1 e2 => g_runS (M := mX1_withSlope) (pc := 8) (y := yX1_checkIndex) (bytes := cX1_checkIndex) (maxL := 2) (ret := none) (fr := 6) (lo := 81) (as := [gi a1, gi v3]) (st := []) gy_X1_checkIndex (gbl rfl) (gbl rfl) (gbl rfl) q410 q411 dX1_withSlope_8 K hM R e1 e2) fun v5 h6 => ?_
  refine g_aload_n (pc := 11) (x := a0) 0 rfl rfl dX1_withSlope_11 ?_
  refine g_getfr (pc := 12) k_3 (gblt rfl) lk_X1_56_3 dX1_withSlope_12 fun v7 => ?_
  refine g_iload_n (pc := 15) (x := a1) 1 rfl rfl dX1_withSlope_15 ?_
  refine g_bVr (pc := 16) (y := yX3_slope) (ws := ws_ yX3_slope cX3_slope 2 (some (.object "FlareSlopes$Spot"))) (fr := 4) (lo := 85) (as := [gi a1]) (st := []) (g_no) rfl (fun _ _ _ e => tX3_slope hs e) (fun K _ _ _ hq hM R e1 e2 => g_runV (M := mX1_withSlope) (pc := 16) (y := yX3_slope) (bytes := cX3_slope) (maxL := 2) (ret := (some (.object "FlareSlopes$Spot"))) (fr := 4) (lo := 85) (as := [gi a1]) (st := []) hq (C := "FlareSlopes$State") rfl gy_X3_slope (gbl rfl) (gbl rfl) (gbl rfl) q3048 q2354 q2355 dX1_withSlope_16 K hM R e1 e2) fun v8 h9 => ?_
  exact g_areturn (pc := 19) rfl (Or.inl ⟨_, rfl⟩) dX1_withSlope_19
/-! FlareSlopes$Cabin.holdsClosed(I)Z -/
noncomputable def sX12_holdsClosed (G : GG) (N : Nat) (a0 : Option Nat) (a1 : Int32) (h : Hp) : Out (Int32) :=
  gFi h a0 7 5 fun v1 =>
  bnd (sX1_has G N v1 a1 h) fun v2 h3 =>
  gRtZ v2 h3
abbrev mX12_holdsClosed : MI := (RX12, cX12_holdsClosed, 2, (some .boolean), [], 1, 21, "holdsClosed")
theorem tX12_holdsClosed {G : GG} {l : Launch} (hs : l.stackTraces = false) {N : Nat} {a0 : Option Nat} {a1 : Int32} {h : Hp} {r : Int32 ⊕ Nat} {hf : Hp} (ho : sX12_holdsClosed G N a0 a1 h = some (r, hf)) : gMet G l yX12_holdsClosed (ws_ yX12_holdsClosed cX12_holdsClosed 2 (some .boolean)) 1 21 [gr a0, gi a1] h cvI r hf := by
  refine gMet.of ho hs (plainFor_of_name pn_X12) rfl rfl (gbl rfl) fun X => ?_
  show gT G l X mX12_holdsClosed cvI r hf 0 [(0, gr a0), (1, gi a1)] [] h (sX12_holdsClosed G N a0 a1 h)
  delta sX12_holdsClosed
  refine g_aload_n (pc := 0) (x := a0) 0 rfl rfl dX12_holdsClosed_0 ?_
  refine g_getfi (pc := 1) k_7 (gblt rfl) lk_X12_47_7 dX12_holdsClosed_1 fun v1 => ?_
  refine g_iload_n (pc := 4) (x := a1) 1 rfl rfl dX12_holdsClosed_4 ?_
  refine g_bi (pc := 5) (y := yX1_has) (ws := ws_ yX1_has cX1_has 2 (some .boolean)) (fr := 0) (lo := 0) (as := [gi v1, gi a1]) (st := []) (g_no) rfl (fun _ _ e => tX1_has hs e) (fun K _ _ hM R e1 e2 => g_runSN (M := mX12_holdsClosed) (pc := 5) (y := yX1_has) (bytes := cX1_has) (maxL := 2) (ret := (some .boolean)) (fr := 0) (lo := 0) (as := [gi v1, gi a1]) (st := []) gy_X1_has (gbl rfl) (gbl rfl) (gbl rfl) q3058 q2337 dX12_holdsClosed_5 K hM R e1 e2) fun v2 h3 => ?_
  exact g_zreturn (pc := 8) rfl dX12_holdsClosed_8
/-! FlareSlopes$State.closers(I)I -/
noncomputable def bX3_closers_4 (G : GG) (N : Nat) (a0 : Option Nat) (a1 : Int32) (w3 : (Int32 × Int32) → Hp → Out (Int32)) (x1 : Int32 × Int32) (h2 : Hp) : Out (Int32) :=
  bV h2 a0 16 (fun q16 => sX3_size G N (some q16) h2) fun v4 h5 =>
  if v4 ≤ x1.2 then (some (.inl x1.1, h5))
  else bV h5 a0 16 (fun q15 => sX3_cabin G N (some q15) x1.2 h5) fun v6 h7 =>
  bV h7 v6 7 (fun q14 => sX12_holdsClosed G N (some q14) a1 h7) fun v8 h9 =>
  gJ (fun (x10 : Int32) (h11 : Hp) =>
  w3 (x10, x1.2 + (1 : Int32)) h11) fun j12 =>
  if v8 = 0 then (j12 x1.1 h9)
  else gLet (x1.1 ||| ((1 : Int32) <<< (x1.2 &&& 31))) fun v13 =>
  j12 v13 h9
noncomputable def sX3_closers (G : GG) (N : Nat) (a0 : Option Nat) (a1 : Int32) (h : Hp) : Out (Int32) :=
  gLp (bX3_closers_4 G N a0 a1) N ((0 : Int32), (0 : Int32)) h
abbrev mX3_closers : MI := (RX3, cX3_closers, 4, (some .int), [], 4, 85, "closers")
theorem tX3_closers {G : GG} {l : Launch} (hs : l.stackTraces = false) {N : Nat} {a0 : Option Nat} {a1 : Int32} {h : Hp} {r : Int32 ⊕ Nat} {hf : Hp} (ho : sX3_closers G N a0 a1 h = some (r, hf)) : gMet G l yX3_closers (ws_ yX3_closers cX3_closers 4 (some .int)) 4 85 [gr a0, gi a1] h cvI r hf := by
  refine gMet.of ho hs (plainFor_of_name pn_X3) rfl rfl (gbl rfl) fun X => ?_
  show gT G l X mX3_closers cvI r hf 0 [(0, gr a0), (1, gi a1)] [] h (sX3_closers G N a0 a1 h)
  delta sX3_closers
  refine g_iconst (pc := 0) (v := (0 : Int32)) ic_0 dX3_closers_0 ?_
  refine g_istore_n (pc := 1) (lv' := [(2, gi (0 : Int32)), (0, gr a0), (1, gi a1)]) [0, 1, 2] rfl rfl (gblt rfl) dX3_closers_1 ?_
  refine g_iconst (pc := 2) (v := (0 : Int32)) ic_0 dX3_closers_2 ?_
  refine g_istore_n (pc := 3) (lv' := [(3, gi (0 : Int32)), (2, gi (0 : Int32)), (0, gr a0), (1, gi a1)]) [0, 1, 2, 3] rfl rfl (gblt rfl) dX3_closers_3 ?_
  refine g_sub (lv' := [(0, gr a0), (1, gi a1), (2, gi (0 : Int32)), (3, gi (0 : Int32))]) [2, 3, 1, 0] rfl ?_
  refine g_loop (pc := 4) (fun (x1 : Int32 × Int32) => [(0, gr a0), (1, gi a1), (2, gi x1.1), (3, gi x1.2)]) (fun (_ : Int32 × Int32) => []) (fun w3 Hw3 x1 h2 => ?_) N ((0 : Int32), (0 : Int32)) h
  delta bX3_closers_4
  refine g_iload_n (pc := 4) (x := x1.2) 3 rfl rfl dX3_closers_4 ?_
  refine g_aload_n (pc := 5) (x := a0) 0 rfl rfl dX3_closers_5 ?_
  refine g_bVi (pc := 6) (y := yX3_size) (ws := ws_ yX3_size cX3_size 1 (some .int)) (fr := 1) (lo := 20) (as := []) (st := [gi x1.2]) (g_no) rfl (fun _ _ _ e => tX3_size hs e) (fun K _ _ _ hq hM R e1 e2 => g_runV (M := mX3_closers) (pc := 6) (y := yX3_size) (bytes := cX3_size) (maxL := 1) (ret := (some .int)) (fr := 1) (lo := 20) (as := []) (st := [gi x1.2]) hq (C := "FlareSlopes$State") rfl gy_X3_size (gbl rfl) (gbl rfl) (gbl rfl) q1633 q1412 q1413 dX3_closers_6 K hM R e1 e2) fun v4 h5 => ?_
  refine g_icmp_ge (pc := 9) (tgt := 36) rfl dX3_closers_9 ?_ ?_
  · refine g_iload_n (pc := 36) (x := x1.1) 2 rfl rfl dX3_closers_36 ?_
    exact g_ireturn (pc := 37) rfl dX3_closers_37
  refine g_aload_n (pc := 12) (x := a0) 0 rfl rfl dX3_closers_12 ?_
  refine g_iload_n (pc := 13) (x := x1.2) 3 rfl rfl dX3_closers_13 ?_
  refine g_bVr (pc := 14) (y := yX3_cabin) (ws := ws_ yX3_cabin cX3_cabin 2 (some (.object "FlareSlopes$Cabin"))) (fr := 3) (lo := 64) (as := [gi x1.2]) (st := []) (g_no) rfl (fun _ _ _ e => tX3_cabin hs e) (fun K _ _ _ hq hM R e1 e2 => g_runV (M := mX3_closers) (pc := 14) (y := yX3_cabin) (bytes := cX3_cabin) (maxL := 2) (ret := (some (.object "FlareSlopes$Cabin"))) (fr := 3) (lo := 64) (as := [gi x1.2]) (st := []) hq (C := "FlareSlopes$State") rfl gy_X3_cabin (gbl rfl) (gbl rfl) (gbl rfl) q1638 q1639 q1640 dX3_closers_14 K hM R e1 e2) fun v6 h7 => ?_
  refine g_iload_n (pc := 17) (x := a1) 1 rfl rfl dX3_closers_17 ?_
  refine g_bVi (pc := 18) (y := yX12_holdsClosed) (ws := ws_ yX12_holdsClosed cX12_holdsClosed 2 (some .boolean)) (fr := 1) (lo := 21) (as := [gi a1]) (st := []) (g_no) rfl (fun _ _ _ e => tX12_holdsClosed hs e) (fun K _ _ _ hq hM R e1 e2 => g_runV (M := mX3_closers) (pc := 18) (y := yX12_holdsClosed) (bytes := cX12_holdsClosed) (maxL := 2) (ret := (some .boolean)) (fr := 1) (lo := 21) (as := [gi a1]) (st := []) hq (C := "FlareSlopes$Cabin") rfl gy_X12_holdsClosed (gbl rfl) (gbl rfl) (gbl rfl) q3054 q3055 q3056 dX3_closers_18 K hM R e1 e2) fun v8 h9 => ?_
  refine g_join 30 (fun (x10 : Int32) => [(0, gr a0), (1, gi a1), (2, gi x10), (3, gi x1.2)]) (fun (x10 : Int32) => []) (fun x10 h11 => ?_) (fun j12 Hj12 => ?_)
  · refine g_iinc (pc := 30) (v := x1.2 + (1 : Int32)) 3 rfl (ii_1 _) (lv' := [(3, gi (x1.2 + (1 : Int32))), (0, gr a0), (1, gi a1), (2, gi x10)]) [0, 1, 2, 3] rfl (gblt rfl) dX3_closers_30 ?_
    refine g_goto (pc := 33) (tgt := 4) rfl dX3_closers_33 ?_
    exact g_sub [1, 2, 3, 0] rfl (Hw3 (x10, x1.2 + (1 : Int32)) h11)
  refine g_if_eq (pc := 21) (tgt := 30) rfl dX3_closers_21 ?_ ?_
  · exact Hj12 x1.1 h9
  refine g_iload_n (pc := 24) (x := x1.1) 2 rfl rfl dX3_closers_24 ?_
  refine g_iconst (pc := 25) (v := (1 : Int32)) ic_1 dX3_closers_25 ?_
  refine g_iload_n (pc := 26) (x := x1.2) 3 rfl rfl dX3_closers_26 ?_
  refine g_ishl (pc := 27) dX3_closers_27 ?_
  refine g_ior (pc := 28) dX3_closers_28 ?_
  refine g_leti fun v13 => ?_
  refine g_istore_n (pc := 29) (lv' := [(2, gi v13), (0, gr a0), (1, gi a1), (3, gi x1.2)]) [0, 1, 2, 3] rfl rfl (gblt rfl) dX3_closers_29 ?_
  exact g_sub [1, 2, 0, 3] rfl (Hj12 v13 h9)
/-! FlareSlopes.seersOf(I)I -/
noncomputable def bX1_seersOf_4 (G : GG) (N : Nat) (a0 : Option Nat) (a1 : Int32) (w3 : (Int32 × Int32) → Hp → Out (Int32)) (x1 : Int32 × Int32) (h2 : Hp) : Out (Int32) :=
  gFr h2 a0 3 4 fun v4 =>
  bV h2 v4 16 (fun q15 => sX3_size G N (some q15) h2) fun v5 h6 =>
  if v5 ≤ x1.2 then (some (.inl x1.1, h6))
  else gFr h6 a0 3 4 fun v7 =>
  bV h6 v7 16 (fun q14 => sX3_seesSlope G N (some q14) x1.2 a1 h6) fun v8 h9 =>
  gJ (fun (x10 : Int32) (h11 : Hp) =>
  gLet (x1.1 + x10) fun v13 =>
  w3 (v13, x1.2 + (1 : Int32)) h11) fun j12 =>
  if v8 = 0 then (j12 (0 : Int32) h9)
  else j12 (1 : Int32) h9
noncomputable def sX1_seersOf (G : GG) (N : Nat) (a0 : Option Nat) (a1 : Int32) (h : Hp) : Out (Int32) :=
  gLp (bX1_seersOf_4 G N a0 a1) N ((0 : Int32), (0 : Int32)) h
abbrev mX1_seersOf : MI := (RX1, cX1_seersOf, 4, (some .int), [], 7, 151, "seersOf")
theorem tX1_seersOf {G : GG} {l : Launch} (hs : l.stackTraces = false) {N : Nat} {a0 : Option Nat} {a1 : Int32} {h : Hp} {r : Int32 ⊕ Nat} {hf : Hp} (ho : sX1_seersOf G N a0 a1 h = some (r, hf)) : gMet G l yX1_seersOf (ws_ yX1_seersOf cX1_seersOf 4 (some .int)) 7 151 [gr a0, gi a1] h cvI r hf := by
  refine gMet.of ho hs (plainFor_of_name pn_X1) rfl rfl (gbl rfl) fun X => ?_
  show gT G l X mX1_seersOf cvI r hf 0 [(0, gr a0), (1, gi a1)] [] h (sX1_seersOf G N a0 a1 h)
  delta sX1_seersOf
  refine g_iconst (pc := 0) (v := (0 : Int32)) ic_0 dX1_seersOf_0 ?_
  refine g_istore_n (pc := 1) (lv' := [(2, gi (0 : Int32)), (0, gr a0), (1, gi a1)]) [0, 1, 2] rfl rfl (gblt rfl) dX1_seersOf_1 ?_
  refine g_iconst (pc := 2) (v := (0 : Int32)) ic_0 dX1_seersOf_2 ?_
  refine g_istore_n (pc := 3) (lv' := [(3, gi (0 : Int32)), (2, gi (0 : Int32)), (0, gr a0), (1, gi a1)]) [0, 1, 2, 3] rfl rfl (gblt rfl) dX1_seersOf_3 ?_
  refine g_sub (lv' := [(0, gr a0), (1, gi a1), (2, gi (0 : Int32)), (3, gi (0 : Int32))]) [2, 3, 1, 0] rfl ?_
  refine g_loop (pc := 4) (fun (x1 : Int32 × Int32) => [(0, gr a0), (1, gi a1), (2, gi x1.1), (3, gi x1.2)]) (fun (_ : Int32 × Int32) => []) (fun w3 Hw3 x1 h2 => ?_) N ((0 : Int32), (0 : Int32)) h
  delta bX1_seersOf_4
  refine g_iload_n (pc := 4) (x := x1.2) 3 rfl rfl dX1_seersOf_4 ?_
  refine g_aload_n (pc := 5) (x := a0) 0 rfl rfl dX1_seersOf_5 ?_
  refine g_getfr (pc := 6) k_3 (gblt rfl) lk_X1_56_3 dX1_seersOf_6 fun v4 => ?_
  refine g_bVi (pc := 9) (y := yX3_size) (ws := ws_ yX3_size cX3_size 1 (some .int)) (fr := 1) (lo := 20) (as := []) (st := [gi x1.2]) (g_no) rfl (fun _ _ _ e => tX3_size hs e) (fun K _ _ _ hq hM R e1 e2 => g_runV (M := mX1_seersOf) (pc := 9) (y := yX3_size) (bytes := cX3_size) (maxL := 1) (ret := (some .int)) (fr := 1) (lo := 20) (as := []) (st := [gi x1.2]) hq (C := "FlareSlopes$State") rfl gy_X3_size (gbl rfl) (gbl rfl) (gbl rfl) q1411 q1412 q1413 dX1_seersOf_9 K hM R e1 e2) fun v5 h6 => ?_
  refine g_icmp_ge (pc := 12) (tgt := 41) rfl dX1_seersOf_12 ?_ ?_
  · refine g_iload_n (pc := 41) (x := x1.1) 2 rfl rfl dX1_seersOf_41 ?_
    exact g_ireturn (pc := 42) rfl dX1_seersOf_42
  refine g_iload_n (pc := 15) (x := x1.1) 2 rfl rfl dX1_seersOf_15 ?_
  refine g_aload_n (pc := 16) (x := a0) 0 rfl rfl dX1_seersOf_16 ?_
  refine g_getfr (pc := 17) k_3 (gblt rfl) lk_X1_56_3 dX1_seersOf_17 fun v7 => ?_
  refine g_iload_n (pc := 20) (x := x1.2) 3 rfl rfl dX1_seersOf_20 ?_
  refine g_iload_n (pc := 21) (x := a1) 1 rfl rfl dX1_seersOf_21 ?_
  refine g_bVi (pc := 22) (y := yX3_seesSlope) (ws := ws_ yX3_seesSlope cX3_seesSlope 3 (some .boolean)) (fr := 6) (lo := 129) (as := [gi x1.2, gi a1]) (st := [gi x1.1]) (g_no) rfl (fun _ _ _ e => tX3_seesSlope hs e) (fun K _ _ _ hq hM R e1 e2 => g_runV (M := mX1_seersOf) (pc := 22) (y := yX3_seesSlope) (bytes := cX3_seesSlope) (maxL := 3) (ret := (some .boolean)) (fr := 6) (lo := 129) (as := [gi x1.2, gi a1]) (st := [gi x1.1]) hq (C := "FlareSlopes$State") rfl gy_X3_seesSlope (gbl rfl) (gbl rfl) (gbl rfl) q2349 q2350 q2351 dX1_seersOf_22 K hM R e1 e2) fun v8 h9 => ?_
  refine g_join 33 (fun (x10 : Int32) => [(0, gr a0), (1, gi a1), (3, gi x1.2)]) (fun (x10 : Int32) => [gi x10, gi x1.1]) (fun x10 h11 => ?_) (fun j12 Hj12 => ?_)
  · refine g_iadd (pc := 33) dX1_seersOf_33 ?_
    refine g_leti fun v13 => ?_
    refine g_istore_n (pc := 34) (lv' := [(2, gi v13), (0, gr a0), (1, gi a1), (3, gi x1.2)]) [0, 1, 2, 3] rfl rfl (gblt rfl) dX1_seersOf_34 ?_
    refine g_iinc (pc := 35) (v := x1.2 + (1 : Int32)) 3 rfl (ii_1 _) (lv' := [(3, gi (x1.2 + (1 : Int32))), (2, gi v13), (0, gr a0), (1, gi a1)]) [0, 1, 2, 3] rfl (gblt rfl) dX1_seersOf_35 ?_
    refine g_goto (pc := 38) (tgt := 4) rfl dX1_seersOf_38 ?_
    exact g_sub [2, 3, 1, 0] rfl (Hw3 (v13, x1.2 + (1 : Int32)) h11)
  refine g_if_eq (pc := 25) (tgt := 32) rfl dX1_seersOf_25 ?_ ?_
  · refine g_iconst (pc := 32) (v := (0 : Int32)) ic_0 dX1_seersOf_32 ?_
    exact g_sub [0, 1, 3] rfl (Hj12 (0 : Int32) h9)
  refine g_iconst (pc := 28) (v := (1 : Int32)) ic_1 dX1_seersOf_28 ?_
  refine g_goto (pc := 29) (tgt := 33) rfl dX1_seersOf_29 ?_
  exact g_sub [0, 1, 3] rfl (Hj12 (1 : Int32) h9)
/-! FlareSlopes.votesOn(I)I -/
noncomputable def bX1_votesOn_38 (G : GG) (N : Nat) (a1 : Int32) (v13 : Option Nat) (j17 : (Int32) → Hp → Out (Int32)) (w20 : (Int32) → Hp → Out (Int32)) (x18 : Int32) (h19 : Hp) : Out (Int32) :=
  bV h19 v13 30 (fun q31 => sJ31_hasNext_c30 G N (some q31) h19) fun v21 h22 =>
  if v21 = 0 then (j17 x18 h22)
  else bV h22 v13 30 (fun q30 => sJ33_next G N (some q30) h22) fun v23 h24 =>
  gCk h24 v23 [10] (gFi h24 v23 10 1 fun v25 =>
  gJ (fun (x26 : Int32) (h27 : Hp) =>
  gLet (x18 + x26) fun v29 =>
  w20 v29 h27) fun j28 =>
  if v25 = a1 then (j28 (1 : Int32) h24)
  else j28 (0 : Int32) h24)
noncomputable def bX1_votesOn_4 (G : GG) (N : Nat) (a0 : Option Nat) (a1 : Int32) (w3 : (Int32 × Int32) → Hp → Out (Int32)) (x1 : Int32 × Int32) (h2 : Hp) : Out (Int32) :=
  gFr h2 a0 3 4 fun v4 =>
  bV h2 v4 16 (fun q35 => sX3_size G N (some q35) h2) fun v5 h6 =>
  if v5 ≤ x1.2 then (some (.inl x1.1, h6))
  else gFr h6 a0 3 4 fun v7 =>
  bV h6 v7 16 (fun q34 => sX3_cabin G N (some q34) x1.2 h6) fun v8 h9 =>
  gFr h9 v8 7 8 fun v10 =>
  bV h9 v10 26 (fun q33 => sJ24_keySet G N (some q33) h9) fun v11 h12 =>
  bV h12 v11 31 (fun q32 => sJ37_iterator G N (some q32) h12) fun v13 h14 =>
  gJ (fun (x15 : Int32) (h16 : Hp) =>
  w3 (x15, x1.2 + (1 : Int32)) h16) fun j17 =>
  gLp (bX1_votesOn_38 G N a1 v13 j17) N x1.1 h14
noncomputable def sX1_votesOn (G : GG) (N : Nat) (a0 : Option Nat) (a1 : Int32) (h : Hp) : Out (Int32) :=
  gLp (bX1_votesOn_4 G N a0 a1) N ((0 : Int32), (0 : Int32)) h
abbrev mX1_votesOn : MI := (RX1, cX1_votesOn, 6, (some .int), [], 6, 116, "votesOn")
theorem tX1_votesOn {G : GG} {l : Launch} (hs : l.stackTraces = false) {N : Nat} {a0 : Option Nat} {a1 : Int32} {h : Hp} {r : Int32 ⊕ Nat} {hf : Hp} (ho : sX1_votesOn G N a0 a1 h = some (r, hf)) : gMet G l yX1_votesOn (ws_ yX1_votesOn cX1_votesOn 6 (some .int)) 6 116 [gr a0, gi a1] h cvI r hf := by
  refine gMet.of ho hs (plainFor_of_name pn_X1) rfl rfl (gbl rfl) fun X => ?_
  show gT G l X mX1_votesOn cvI r hf 0 [(0, gr a0), (1, gi a1)] [] h (sX1_votesOn G N a0 a1 h)
  delta sX1_votesOn
  refine g_iconst (pc := 0) (v := (0 : Int32)) ic_0 dX1_votesOn_0 ?_
  refine g_istore_n (pc := 1) (lv' := [(2, gi (0 : Int32)), (0, gr a0), (1, gi a1)]) [0, 1, 2] rfl rfl (gblt rfl) dX1_votesOn_1 ?_
  refine g_iconst (pc := 2) (v := (0 : Int32)) ic_0 dX1_votesOn_2 ?_
  refine g_istore_n (pc := 3) (lv' := [(3, gi (0 : Int32)), (2, gi (0 : Int32)), (0, gr a0), (1, gi a1)]) [0, 1, 2, 3] rfl rfl (gblt rfl) dX1_votesOn_3 ?_
  refine g_sub (lv' := [(0, gr a0), (1, gi a1), (2, gi (0 : Int32)), (3, gi (0 : Int32))]) [2, 3, 1, 0] rfl ?_
  refine g_loop (pc := 4) (fun (x1 : Int32 × Int32) => [(0, gr a0), (1, gi a1), (2, gi x1.1), (3, gi x1.2)]) (fun (_ : Int32 × Int32) => []) (fun w3 Hw3 x1 h2 => ?_) N ((0 : Int32), (0 : Int32)) h
  delta bX1_votesOn_4
  refine g_iload_n (pc := 4) (x := x1.2) 3 rfl rfl dX1_votesOn_4 ?_
  refine g_aload_n (pc := 5) (x := a0) 0 rfl rfl dX1_votesOn_5 ?_
  refine g_getfr (pc := 6) k_3 (gblt rfl) lk_X1_56_3 dX1_votesOn_6 fun v4 => ?_
  refine g_bVi (pc := 9) (y := yX3_size) (ws := ws_ yX3_size cX3_size 1 (some .int)) (fr := 1) (lo := 20) (as := []) (st := [gi x1.2]) (g_no) rfl (fun _ _ _ e => tX3_size hs e) (fun K _ _ _ hq hM R e1 e2 => g_runV (M := mX1_votesOn) (pc := 9) (y := yX3_size) (bytes := cX3_size) (maxL := 1) (ret := (some .int)) (fr := 1) (lo := 20) (as := []) (st := [gi x1.2]) hq (C := "FlareSlopes$State") rfl gy_X3_size (gbl rfl) (gbl rfl) (gbl rfl) q1411 q1412 q1413 dX1_votesOn_9 K hM R e1 e2) fun v5 h6 => ?_
  refine g_icmp_ge (pc := 12) (tgt := 86) rfl dX1_votesOn_12 ?_ ?_
  · refine g_iload_n (pc := 86) (x := x1.1) 2 rfl rfl dX1_votesOn_86 ?_
    exact g_ireturn (pc := 87) rfl dX1_votesOn_87
  refine g_aload_n (pc := 15) (x := a0) 0 rfl rfl dX1_votesOn_15 ?_
  refine g_getfr (pc := 16) k_3 (gblt rfl) lk_X1_56_3 dX1_votesOn_16 fun v7 => ?_
  refine g_iload_n (pc := 19) (x := x1.2) 3 rfl rfl dX1_votesOn_19 ?_
  refine g_bVr (pc := 20) (y := yX3_cabin) (ws := ws_ yX3_cabin cX3_cabin 2 (some (.object "FlareSlopes$Cabin"))) (fr := 3) (lo := 64) (as := [gi x1.2]) (st := []) (g_no) rfl (fun _ _ _ e => tX3_cabin hs e) (fun K _ _ _ hq hM R e1 e2 => g_runV (M := mX1_votesOn) (pc := 20) (y := yX3_cabin) (bytes := cX3_cabin) (maxL := 2) (ret := (some (.object "FlareSlopes$Cabin"))) (fr := 3) (lo := 64) (as := [gi x1.2]) (st := []) hq (C := "FlareSlopes$State") rfl gy_X3_cabin (gbl rfl) (gbl rfl) (gbl rfl) q1738 q1639 q1640 dX1_votesOn_20 K hM R e1 e2) fun v8 h9 => ?_
  refine g_getfr (pc := 23) k_7 (gblt rfl) lk_X1_205_7 dX1_votesOn_23 fun v10 => ?_
  refine g_bVr (pc := 26) (y := yJ24_keySet) (ws := ws_ yJ24_keySet cJ24_keySet 1 (some (.object "java/util/Set"))) (fr := 5) (lo := 96) (as := []) (st := []) (g_no) rfl (fun _ _ _ e => tJ24_keySet hs e) (fun K _ _ _ hq hM R e1 e2 => g_runF (x := ⟨"java/util/Map", "keySet", "()Ljava/util/Set;"⟩) (M := mX1_votesOn) (pc := 26) (y := yJ24_keySet) (bytes := cJ24_keySet) (maxL := 1) (ret := (some (.object "java/util/Set"))) (fr := 5) (lo := 96) (as := []) (st := []) hq (C := "java/util/LinkedHashMap") rfl gy_J24_keySet rfl (gbl rfl) (gbl rfl) (gbl rfl) q2776 q2778 q2777 q2781 q2780 q1613 mhx_java_util_Map q2779 q1910 dX1_votesOn_26 K hM R e1 e2) fun v11 h12 => ?_
  refine g_bVr (pc := 31) (y := yJ37_iterator) (ws := ws_ yJ37_iterator cJ37_iterator 1 (some (.object "java/util/Iterator"))) (fr := 3) (lo := 56) (as := []) (st := []) (g_no) rfl (fun _ _ _ e => tJ37_iterator hs e) (fun K _ _ _ hq hM R e1 e2 => g_runF (x := ⟨"java/util/Set", "iterator", "()Ljava/util/Iterator;"⟩) (M := mX1_votesOn) (pc := 31) (y := yJ37_iterator) (bytes := cJ37_iterator) (maxL := 1) (ret := (some (.object "java/util/Iterator"))) (fr := 3) (lo := 56) (as := []) (st := []) hq (C := "java/util/LinkedHashMap$LinkedKeySet") rfl gy_J37_iterator rfl (gbl rfl) (gbl rfl) (gbl rfl) q2783 q1937 q1936 q1868 q1866 q1942 mhx_java_util_Set q1943 q1867 dX1_votesOn_31 K hM R e1 e2) fun v13 h14 => ?_
  refine g_astore (pc := 36) (lv' := [(4, gr v13), (0, gr a0), (1, gi a1), (2, gi x1.1), (3, gi x1.2)]) [0, 1, 2, 3, 4] rfl (gblt rfl) dX1_votesOn_36 ?_
  refine g_join 80 (fun (x15 : Int32) => [(0, gr a0), (1, gi a1), (2, gi x15), (3, gi x1.2)]) (fun (x15 : Int32) => []) (fun x15 h16 => ?_) (fun j17 Hj17 => ?_)
  · refine g_iinc (pc := 80) (v := x1.2 + (1 : Int32)) 3 rfl (ii_1 _) (lv' := [(3, gi (x1.2 + (1 : Int32))), (0, gr a0), (1, gi a1), (2, gi x15)]) [0, 1, 2, 3] rfl (gblt rfl) dX1_votesOn_80 ?_
    refine g_goto (pc := 83) (tgt := 4) rfl dX1_votesOn_83 ?_
    exact g_sub [1, 2, 3, 0] rfl (Hw3 (x15, x1.2 + (1 : Int32)) h16)
  refine g_sub (lv' := [(0, gr a0), (1, gi a1), (2, gi x1.1), (3, gi x1.2), (4, gr v13)]) [1, 2, 3, 4, 0] rfl ?_
  refine g_loop (pc := 38) (fun (x18 : Int32) => [(0, gr a0), (1, gi a1), (2, gi x18), (3, gi x1.2), (4, gr v13)]) (fun (_ : Int32) => []) (fun w20 Hw20 x18 h19 => ?_) N x1.1 h14
  delta bX1_votesOn_38
  refine g_aload (pc := 38) (x := v13) 4 rfl dX1_votesOn_38 ?_
  refine g_bVi (pc := 40) (y := yJ31_hasNext) (ws := ws_ yJ31_hasNext cJ31_hasNext 1 (some .boolean)) (fr := 0) (lo := 0) (as := []) (st := []) (g_no) rfl (fun _ _ _ e => tJ31_hasNext_c30 hs e) (fun K _ _ _ hq hM R e1 e2 => g_runF (x := ⟨"java/util/Iterator", "hasNext", "()Z"⟩) (M := mX1_votesOn) (pc := 40) (y := yJ31_hasNext) (bytes := cJ31_hasNext) (maxL := 1) (ret := (some .boolean)) (fr := 0) (lo := 0) (as := []) (st := []) hq (C := "java/util/LinkedHashMap$LinkedKeyIterator") rfl gy_J31_hasNext rfl (gbl rfl) (gbl rfl) (gbl rfl) q1947 q1505 q1504 q1528 q1532 q1530 mhx_java_util_Iterator q1531 q1527 dX1_votesOn_40 K hM R e1 e2) fun v21 h22 => ?_
  refine g_if_eq (pc := 45) (tgt := 80) rfl dX1_votesOn_45 ?_ ?_
  · exact g_sub [0, 1, 2, 3] rfl (Hj17 x18 h22)
  refine g_aload (pc := 48) (x := v13) 4 rfl dX1_votesOn_48 ?_
  refine g_bVr (pc := 50) (y := yJ33_next) (ws := ws_ yJ33_next cJ33_next 1 (some (.object "java/lang/Object"))) (fr := 1) (lo := 21) (as := []) (st := []) (g_no) rfl (fun _ _ _ e => tJ33_next hs e) (fun K _ _ _ hq hM R e1 e2 => g_runF (x := ⟨"java/util/Iterator", "next", "()Ljava/lang/Object;"⟩) (M := mX1_votesOn) (pc := 50) (y := yJ33_next) (bytes := cJ33_next) (maxL := 1) (ret := (some (.object "java/lang/Object"))) (fr := 1) (lo := 21) (as := []) (st := []) hq (C := "java/util/LinkedHashMap$LinkedKeyIterator") rfl gy_J33_next rfl (gbl rfl) (gbl rfl) (gbl rfl) q1949 q1539 q1538 q1589 q1587 q1530 mhx_java_util_Iterator q1586 q1588 dX1_votesOn_50 K hM R e1 e2) fun v23 h24 => ?_
  refine g_checkcast (pc := 55) q2784 as_10_FlareSlopes_Key dX1_votesOn_55 ?_
  refine g_astore (pc := 58) (lv' := [(5, gr v23), (0, gr a0), (1, gi a1), (2, gi x18), (3, gi x1.2), (4, gr v13)]) [0, 1, 2, 3, 4, 5] rfl (gblt rfl) dX1_votesOn_58 ?_
  refine g_iload_n (pc := 60) (x := x18) 3 rfl rfl dX1_votesOn_60 ?_
  refine g_aload (pc := 61) (x := v23) 0 rfl dX1_votesOn_61 ?_
  refine g_getfi (pc := 63) k_10 (gblt rfl) lk_X1_269_10 dX1_votesOn_63 fun v25 => ?_
  refine g_iload_n (pc := 66) (x := a1) 2 rfl rfl dX1_votesOn_66 ?_
  refine g_join 75 (fun (x26 : Int32) => [(0, gr a0), (1, gi a1), (3, gi x1.2), (4, gr v13)]) (fun (x26 : Int32) => [gi x26, gi x18]) (fun x26 h27 => ?_) (fun j28 Hj28 => ?_)
  · refine g_iadd (pc := 75) dX1_votesOn_75 ?_
    refine g_leti fun v29 => ?_
    refine g_istore_n (pc := 76) (lv' := [(2, gi v29), (0, gr a0), (1, gi a1), (3, gi x1.2), (4, gr v13)]) [0, 1, 2, 3, 4] rfl rfl (gblt rfl) dX1_votesOn_76 ?_
    refine g_goto (pc := 77) (tgt := 38) rfl dX1_votesOn_77 ?_
    exact g_sub [1, 2, 0, 3, 4] rfl (Hw20 v29 h27)
  refine g_icmp_ne (pc := 67) (tgt := 74) rfl dX1_votesOn_67 ?_ ?_
  rotate_left
  · refine g_iconst (pc := 74) (v := (0 : Int32)) ic_0 dX1_votesOn_74 ?_
    exact g_sub [1, 2, 4, 5] rfl (Hj28 (0 : Int32) h24)
  refine g_iconst (pc := 70) (v := (1 : Int32)) ic_1 dX1_votesOn_70 ?_
  refine g_goto (pc := 71) (tgt := 75) rfl dX1_votesOn_71 ?_
  exact g_sub [1, 2, 4, 5] rfl (Hj28 (1 : Int32) h24)
/-! java/util/HashMap.isEmpty()Z -/
noncomputable def sJ23_isEmpty_c26 (G : GG) (N : Nat) (a0 : Option Nat) (h : Hp) : Out (Int32) :=
  gFi h a0 26 2 fun v1 =>
  if v1 = 0 then (gRtZ (1 : Int32) h)
  else gRtZ (0 : Int32) h
abbrev mJ23_isEmpty_c26 : MI := (RJ23, cJ23_isEmpty, 1, (some .boolean), [], 0, 0, "isEmpty")
theorem tJ23_isEmpty_c26 {G : GG} {l : Launch} (hs : l.stackTraces = false) {N : Nat} {a0 : Option Nat} {h : Hp} {r : Int32 ⊕ Nat} {hf : Hp} (ho : sJ23_isEmpty_c26 G N a0 h = some (r, hf)) : gMet G l yJ23_isEmpty (ws_ yJ23_isEmpty cJ23_isEmpty 1 (some .boolean)) 0 0 [gr a0] h cvI r hf := by
  refine gMet.of ho hs (plainFor_of_name pn_J23) rfl rfl (gbl rfl) fun X => ?_
  show gT G l X mJ23_isEmpty_c26 cvI r hf 0 [(0, gr a0)] [] h (sJ23_isEmpty_c26 G N a0 h)
  delta sJ23_isEmpty_c26
  refine g_aload_n (pc := 0) (x := a0) 0 rfl rfl dJ23_isEmpty_0 ?_
  refine g_getfi (pc := 1) k_26 (gblt rfl) lk_J23_156_26 dJ23_isEmpty_1 fun v1 => ?_
  refine g_if_ne (pc := 4) (tgt := 11) rfl dJ23_isEmpty_4 ?_ ?_
  rotate_left
  · refine g_iconst (pc := 11) (v := (0 : Int32)) ic_0 dJ23_isEmpty_11 ?_
    exact g_zreturn (pc := 12) rfl dJ23_isEmpty_12
  refine g_iconst (pc := 7) (v := (1 : Int32)) ic_1 dJ23_isEmpty_7 ?_
  refine g_goto (pc := 8) (tgt := 12) rfl dJ23_isEmpty_8 ?_
  exact g_zreturn (pc := 12) rfl dJ23_isEmpty_12
/-! java/lang/Math.abs(I)I -/
noncomputable def sJ14_abs (G : GG) (N : Nat) (a0 : Int32) (h : Hp) : Out (Int32) :=
  if 0 ≤ a0 then (some (.inl a0, h))
  else some (.inl (-a0), h)
abbrev mJ14_abs : MI := (RJ14, cJ14_abs, 1, (some .int), [], 0, 0, "abs")
theorem tJ14_abs {G : GG} {l : Launch} (hs : l.stackTraces = false) {N : Nat} {a0 : Int32} {h : Hp} {r : Int32 ⊕ Nat} {hf : Hp} (ho : sJ14_abs G N a0 h = some (r, hf)) : gMet G l yJ14_abs (ws_ yJ14_abs cJ14_abs 1 (some .int)) 0 0 [gi a0] h cvI r hf := by
  refine gMet.of ho hs pf_J14_abs rfl rfl (gbl rfl) fun X => ?_
  show gT G l X mJ14_abs cvI r hf 0 [(0, gi a0)] [] h (sJ14_abs G N a0 h)
  delta sJ14_abs
  refine g_iload_n (pc := 0) (x := a0) 0 rfl rfl dJ14_abs_0 ?_
  refine g_if_ge (pc := 1) (tgt := 9) rfl dJ14_abs_1 ?_ ?_
  · refine g_iload_n (pc := 9) (x := a0) 0 rfl rfl dJ14_abs_9 ?_
    exact g_ireturn (pc := 10) rfl dJ14_abs_10
  refine g_iload_n (pc := 4) (x := a0) 0 rfl rfl dJ14_abs_4 ?_
  refine g_ineg (pc := 5) dJ14_abs_5 ?_
  refine g_goto (pc := 6) (tgt := 10) rfl dJ14_abs_6 ?_
  exact g_ireturn (pc := 10) rfl dJ14_abs_10
/-! FlareSlopes$Located.distance(LFlareSlopes$Located;)I -/
noncomputable def sX13_distance_c7 (G : GG) (N : Nat) (a0 : Option Nat) (a1 : Option Nat) (h : Hp) : Out (Int32) :=
  bV h a0 7 (fun q20 => sX12_x G N (some q20) h) fun v1 h2 =>
  gJ (fun (v3 : Int32) (h4 : Hp) =>
  bnd (sJ14_abs G N (v1 - v3) h4) fun v6 h7 =>
  bV h7 a0 7 (fun q17 => sX12_y G N (some q17) h7) fun v8 h9 =>
  gJ (fun (v10 : Int32) (h11 : Hp) =>
  bnd (sJ14_abs G N (v8 - v10) h11) fun v13 h14 =>
  some (.inl (v6 + v13), h14)) fun j12 =>
  gSw h9 a1 7 (bV h9 a1 7 (fun q15 => sX12_y G N (some q15) h9) j12) (bV h9 a1 15 (fun q16 => sX9_y G N (some q16) h9) j12)) fun j5 =>
  gSw h2 a1 7 (bV h2 a1 7 (fun q18 => sX12_x G N (some q18) h2) j5) (bV h2 a1 15 (fun q19 => sX9_x G N (some q19) h2) j5)
abbrev mX13_distance_c7 : MI := (RX13, cX13_distance, 2, (some .int), [], 1, 20, "distance")
theorem tX13_distance_c7 {G : GG} {l : Launch} (hs : l.stackTraces = false) {N : Nat} {a0 : Option Nat} {a1 : Option Nat} {h : Hp} {r : Int32 ⊕ Nat} {hf : Hp} (ho : sX13_distance_c7 G N a0 a1 h = some (r, hf)) : gMet G l yX13_distance (ws_ yX13_distance cX13_distance 2 (some .int)) 1 20 [gr a0, gr a1] h cvI r hf := by
  refine gMet.of ho hs (plainFor_of_name pn_X13) rfl rfl (gbl rfl) fun X => ?_
  show gT G l X mX13_distance_c7 cvI r hf 0 [(0, gr a0), (1, gr a1)] [] h (sX13_distance_c7 G N a0 a1 h)
  delta sX13_distance_c7
  refine g_aload_n (pc := 0) (x := a0) 0 rfl rfl dX13_distance_0 ?_
  refine g_bVi (pc := 1) (y := yX12_x) (ws := ws_ yX12_x cX12_x 1 (some .int)) (fr := 0) (lo := 0) (as := []) (st := []) (g_no) rfl (fun _ _ _ e => tX12_x hs e) (fun K _ _ _ hq hM R e1 e2 => g_runF (x := ⟨"FlareSlopes$Located", "x", "()I"⟩) (M := mX13_distance_c7) (pc := 1) (y := yX12_x) (bytes := cX12_x) (maxL := 1) (ret := (some .int)) (fr := 0) (lo := 0) (as := []) (st := []) hq (C := "FlareSlopes$Cabin") rfl gy_X12_x rfl (gbl rfl) (gbl rfl) (gbl rfl) q1677 q1679 q1678 q1683 q1681 q1671 mhx_FlareSlopes_Located q1680 q1682 dX13_distance_1 K hM R e1 e2) fun v1 h2 => ?_
  refine g_aload_n (pc := 6) (x := a1) 1 rfl rfl dX13_distance_6 ?_
  refine g_join 12 (fun (_ : Int32) => [(0, gr a0), (1, gr a1)]) (fun (v3 : Int32) => [gi v3, gi v1]) (fun v3 h4 => ?_) (fun j5 Hj5 => ?_)
  · refine g_isub (pc := 12) dX13_distance_12 ?_
    refine g_bi (pc := 13) (y := yJ14_abs) (ws := ws_ yJ14_abs cJ14_abs 1 (some .int)) (fr := 0) (lo := 0) (as := [gi (v1 - v3)]) (st := []) (g_no) rfl (fun _ _ e => tJ14_abs hs e) (fun K _ _ hM R e1 e2 => g_runS (M := mX13_distance_c7) (pc := 13) (y := yJ14_abs) (bytes := cJ14_abs) (maxL := 1) (ret := (some .int)) (fr := 0) (lo := 0) (as := [gi (v1 - v3)]) (st := []) gy_J14_abs (gbl rfl) (gbl rfl) (gbl rfl) q3093 q3094 dX13_distance_13 K hM R e1 e2) fun v6 h7 => ?_
    refine g_aload_n (pc := 16) (x := a0) 0 rfl rfl dX13_distance_16 ?_
    refine g_bVi (pc := 17) (y := yX12_y) (ws := ws_ yX12_y cX12_y 1 (some .int)) (fr := 0) (lo := 0) (as := []) (st := [gi v6]) (g_no) rfl (fun _ _ _ e => tX12_y hs e) (fun K _ _ _ hq hM R e1 e2 => g_runF (x := ⟨"FlareSlopes$Located", "y", "()I"⟩) (M := mX13_distance_c7) (pc := 17) (y := yX12_y) (bytes := cX12_y) (maxL := 1) (ret := (some .int)) (fr := 0) (lo := 0) (as := []) (st := [gi v6]) hq (C := "FlareSlopes$Cabin") rfl gy_X12_y rfl (gbl rfl) (gbl rfl) (gbl rfl) q1695 q1697 q1696 q1701 q1699 q1671 mhx_FlareSlopes_Located q1698 q1700 dX13_distance_17 K hM R e1 e2) fun v8 h9 => ?_
    refine g_aload_n (pc := 22) (x := a1) 1 rfl rfl dX13_distance_22 ?_
    refine g_join 28 (fun (_ : Int32) => [(0, gr a0), (1, gr a1)]) (fun (v10 : Int32) => [gi v10, gi v8, gi v6]) (fun v10 h11 => ?_) (fun j12 Hj12 => ?_)
    · refine g_isub (pc := 28) dX13_distance_28 ?_
      refine g_bi (pc := 29) (y := yJ14_abs) (ws := ws_ yJ14_abs cJ14_abs 1 (some .int)) (fr := 0) (lo := 0) (as := [gi (v8 - v10)]) (st := [gi v6]) (g_no) rfl (fun _ _ e => tJ14_abs hs e) (fun K _ _ hM R e1 e2 => g_runS (M := mX13_distance_c7) (pc := 29) (y := yJ14_abs) (bytes := cJ14_abs) (maxL := 1) (ret := (some .int)) (fr := 0) (lo := 0) (as := [gi (v8 - v10)]) (st := [gi v6]) gy_J14_abs (gbl rfl) (gbl rfl) (gbl rfl) q3093 q3094 dX13_distance_29 K hM R e1 e2) fun v13 h14 => ?_
      refine g_iadd (pc := 32) dX13_distance_32 ?_
      exact g_ireturn (pc := 33) rfl dX13_distance_33
    refine g_sw ?_ ?_
    · exact g_bVi (pc := 23) (y := yX12_y) (ws := ws_ yX12_y cX12_y 1 (some .int)) (fr := 0) (lo := 0) (as := []) (st := [gi v8, gi v6]) (g_no) rfl (fun _ _ _ e => tX12_y hs e) (fun K _ _ _ hq hM R e1 e2 => g_runF (x := ⟨"FlareSlopes$Located", "y", "()I"⟩) (M := mX13_distance_c7) (pc := 23) (y := yX12_y) (bytes := cX12_y) (maxL := 1) (ret := (some .int)) (fr := 0) (lo := 0) (as := []) (st := [gi v8, gi v6]) hq (C := "FlareSlopes$Cabin") rfl gy_X12_y rfl (gbl rfl) (gbl rfl) (gbl rfl) q1695 q1697 q1696 q1701 q1699 q1671 mhx_FlareSlopes_Located q1698 q1700 dX13_distance_23 K hM R e1 e2) Hj12
    exact g_bVi (pc := 23) (y := yX9_y) (ws := ws_ yX9_y cX9_y 1 (some .int)) (fr := 0) (lo := 0) (as := []) (st := [gi v8, gi v6]) (g_no) rfl (fun _ _ _ e => tX9_y hs e) (fun K _ _ _ hq hM R e1 e2 => g_runF (x := ⟨"FlareSlopes$Located", "y", "()I"⟩) (M := mX13_distance_c7) (pc := 23) (y := yX9_y) (bytes := cX9_y) (maxL := 1) (ret := (some .int)) (fr := 0) (lo := 0) (as := []) (st := [gi v8, gi v6]) hq (C := "FlareSlopes$Spot") rfl gy_X9_y rfl (gbl rfl) (gbl rfl) (gbl rfl) q1695 q1697 q1696 q1706 q1704 q1685 mhx_FlareSlopes_Located q1703 q1705 dX13_distance_23 K hM R e1 e2) Hj12
  refine g_sw ?_ ?_
  · exact g_bVi (pc := 7) (y := yX12_x) (ws := ws_ yX12_x cX12_x 1 (some .int)) (fr := 0) (lo := 0) (as := []) (st := [gi v1]) (g_no) rfl (fun _ _ _ e => tX12_x hs e) (fun K _ _ _ hq hM R e1 e2 => g_runF (x := ⟨"FlareSlopes$Located", "x", "()I"⟩) (M := mX13_distance_c7) (pc := 7) (y := yX12_x) (bytes := cX12_x) (maxL := 1) (ret := (some .int)) (fr := 0) (lo := 0) (as := []) (st := [gi v1]) hq (C := "FlareSlopes$Cabin") rfl gy_X12_x rfl (gbl rfl) (gbl rfl) (gbl rfl) q1677 q1679 q1678 q1683 q1681 q1671 mhx_FlareSlopes_Located q1680 q1682 dX13_distance_7 K hM R e1 e2) Hj5
  exact g_bVi (pc := 7) (y := yX9_x) (ws := ws_ yX9_x cX9_x 1 (some .int)) (fr := 0) (lo := 0) (as := []) (st := [gi v1]) (g_no) rfl (fun _ _ _ e => tX9_x hs e) (fun K _ _ _ hq hM R e1 e2 => g_runF (x := ⟨"FlareSlopes$Located", "x", "()I"⟩) (M := mX13_distance_c7) (pc := 7) (y := yX9_x) (bytes := cX9_x) (maxL := 1) (ret := (some .int)) (fr := 0) (lo := 0) (as := []) (st := [gi v1]) hq (C := "FlareSlopes$Spot") rfl gy_X9_x rfl (gbl rfl) (gbl rfl) (gbl rfl) q1677 q1679 q1678 q1689 q1687 q1685 mhx_FlareSlopes_Located q1686 q1688 dX13_distance_7 K hM R e1 e2) Hj5
/-! FlareSlopes$State.weight(II)I -/
noncomputable def sX3_weight (G : GG) (N : Nat) (a0 : Option Nat) (a1 : Int32) (a2 : Int32) (h : Hp) : Out (Int32) :=
  bV h a0 16 (fun q14 => sX3_cabin G N (some q14) a1 h) fun v1 h2 =>
  gFi h2 v1 7 3 fun v3 =>
  bV h2 a0 16 (fun q13 => sX3_cabin G N (some q13) a1 h2) fun v4 h5 =>
  bV h5 a0 16 (fun q12 => sX3_slope G N (some q12) a2 h5) fun v6 h7 =>
  bV h7 v4 7 (fun q11 => sX13_distance_c7 G N (some q11) v6 h7) fun v8 h9 =>
  gDv (v3 * ((200 : Int32) - v8)) (100 : Int32) fun v10 =>
  some (.inl v10, h9)
abbrev mX3_weight : MI := (RX3, cX3_weight, 3, (some .int), [], 5, 106, "weight")
theorem tX3_weight {G : GG} {l : Launch} (hs : l.stackTraces = false) {N : Nat} {a0 : Option Nat} {a1 : Int32} {a2 : Int32} {h : Hp} {r : Int32 ⊕ Nat} {hf : Hp} (ho : sX3_weight G N a0 a1 a2 h = some (r, hf)) : gMet G l yX3_weight (ws_ yX3_weight cX3_weight 3 (some .int)) 5 106 [gr a0, gi a1, gi a2] h cvI r hf := by
  refine gMet.of ho hs (plainFor_of_name pn_X3) rfl rfl (gbl rfl) fun X => ?_
  show gT G l X mX3_weight cvI r hf 0 [(0, gr a0), (1, gi a1), (2, gi a2)] [] h (sX3_weight G N a0 a1 a2 h)
  delta sX3_weight
  refine g_aload_n (pc := 0) (x := a0) 0 rfl rfl dX3_weight_0 ?_
  refine g_iload_n (pc := 1) (x := a1) 1 rfl rfl dX3_weight_1 ?_
  refine g_bVr (pc := 2) (y := yX3_cabin) (ws := ws_ yX3_cabin cX3_cabin 2 (some (.object "FlareSlopes$Cabin"))) (fr := 3) (lo := 64) (as := [gi a1]) (st := []) (g_no) rfl (fun _ _ _ e => tX3_cabin hs e) (fun K _ _ _ hq hM R e1 e2 => g_runV (M := mX3_weight) (pc := 2) (y := yX3_cabin) (bytes := cX3_cabin) (maxL := 2) (ret := (some (.object "FlareSlopes$Cabin"))) (fr := 3) (lo := 64) (as := [gi a1]) (st := []) hq (C := "FlareSlopes$State") rfl gy_X3_cabin (gbl rfl) (gbl rfl) (gbl rfl) q1638 q1639 q1640 dX3_weight_2 K hM R e1 e2) fun v1 h2 => ?_
  refine g_getfi (pc := 5) k_7 (gblt rfl) lk_X3_179_7 dX3_weight_5 fun v3 => ?_
  refine g_sipush (pc := 8) (v := (200 : Int32)) sc_200 dX3_weight_8 ?_
  refine g_aload_n (pc := 11) (x := a0) 0 rfl rfl dX3_weight_11 ?_
  refine g_iload_n (pc := 12) (x := a1) 1 rfl rfl dX3_weight_12 ?_
  refine g_bVr (pc := 13) (y := yX3_cabin) (ws := ws_ yX3_cabin cX3_cabin 2 (some (.object "FlareSlopes$Cabin"))) (fr := 3) (lo := 64) (as := [gi a1]) (st := [gi (200 : Int32), gi v3]) (g_no) rfl (fun _ _ _ e => tX3_cabin hs e) (fun K _ _ _ hq hM R e1 e2 => g_runV (M := mX3_weight) (pc := 13) (y := yX3_cabin) (bytes := cX3_cabin) (maxL := 2) (ret := (some (.object "FlareSlopes$Cabin"))) (fr := 3) (lo := 64) (as := [gi a1]) (st := [gi (200 : Int32), gi v3]) hq (C := "FlareSlopes$State") rfl gy_X3_cabin (gbl rfl) (gbl rfl) (gbl rfl) q1638 q1639 q1640 dX3_weight_13 K hM R e1 e2) fun v4 h5 => ?_
  refine g_aload_n (pc := 16) (x := a0) 0 rfl rfl dX3_weight_16 ?_
  refine g_iload_n (pc := 17) (x := a2) 2 rfl rfl dX3_weight_17 ?_
  refine g_bVr (pc := 18) (y := yX3_slope) (ws := ws_ yX3_slope cX3_slope 2 (some (.object "FlareSlopes$Spot"))) (fr := 4) (lo := 85) (as := [gi a2]) (st := [gr v4, gi (200 : Int32), gi v3]) (g_no) rfl (fun _ _ _ e => tX3_slope hs e) (fun K _ _ _ hq hM R e1 e2 => g_runV (M := mX3_weight) (pc := 18) (y := yX3_slope) (bytes := cX3_slope) (maxL := 2) (ret := (some (.object "FlareSlopes$Spot"))) (fr := 4) (lo := 85) (as := [gi a2]) (st := [gr v4, gi (200 : Int32), gi v3]) hq (C := "FlareSlopes$State") rfl gy_X3_slope (gbl rfl) (gbl rfl) (gbl rfl) q2353 q2354 q2355 dX3_weight_18 K hM R e1 e2) fun v6 h7 => ?_
  refine g_bVi (pc := 21) (y := yX13_distance) (ws := ws_ yX13_distance cX13_distance 2 (some .int)) (fr := 1) (lo := 20) (as := [gr v6]) (st := [gi (200 : Int32), gi v3]) (g_no) rfl (fun _ _ _ e => tX13_distance_c7 hs e) (fun K _ _ _ hq hM R e1 e2 => g_runUD (x := ⟨"FlareSlopes$Cabin", "distance", "(LFlareSlopes$Located;)I"⟩) (owner := "FlareSlopes$Located") (M := mX3_weight) (pc := 21) (y := yX13_distance) (bytes := cX13_distance) (maxL := 2) (ret := (some .int)) (fr := 1) (lo := 20) (as := [gr v6]) (st := [gi (200 : Int32), gi v3]) hq (C := "FlareSlopes$Cabin") rfl gy_X13_distance (gbl rfl) (gbl rfl) (gbl rfl) rfl rfl hdl_X3_182 hdl_same mhx_Loc hdf_distance q3090 dX3_weight_21 K hM R e1 e2) fun v8 h9 => ?_
  refine g_isub (pc := 24) dX3_weight_24 ?_
  refine g_imul (pc := 25) dX3_weight_25 ?_
  refine g_bipush (pc := 26) (v := (100 : Int32)) bc_100 dX3_weight_26 ?_
  refine g_idiv (pc := 28) dX3_weight_28 fun v10 => ?_
  exact g_ireturn (pc := 29) rfl dX3_weight_29
/-! FlareSlopes$State.laySums(I)V -/
noncomputable def bX3_laySums_61 (G : GG) (N : Nat) (a0 : Option Nat) (v6 : Option Nat) (x7 : Int32) (j16 : (Unit) → Hp → Out (Unit)) (w19 : (Int32) → Hp → Out (Unit)) (x17 : Int32) (h18 : Hp) : Out (Unit) :=
  bV h18 a0 16 (fun q45 => sX3_slopes G N (some q45) h18) fun v20 h21 =>
  if v20 ≤ x17 then (j16 () h21)
  else gFr h21 a0 16 0 fun v22 =>
  bV h21 v22 11 (fun q44 => sX5_key G N (some q44) x7 x17 h21) fun v23 h24 =>
  bV h24 v6 26 (fun q43 => sJ24_get G N (some q43) v23 h24) fun v25 h26 =>
  gCk h26 v25 [17] (gJ (fun (x27 : Unit) (h28 : Hp) =>
  w19 (x17 + (1 : Int32)) h28) fun j29 =>
  if v25 = none then (j29 () h26)
  else gFi h26 v25 17 0 fun v30 =>
  if v30 = 0 then (gFr h26 a0 16 13 fun v31 =>
  gAi h26 v31 0 x17 fun v32 =>
  bV h26 a0 16 (fun q36 => sX3_weight G N (some q36) x7 x17 h26) fun v33 h34 =>
  gSi G h34 v31 0 x17 (v32 + v33) fun h35 =>
  j29 () h35)
  else gFr h26 a0 16 12 fun v37 =>
  gAi h26 v37 0 x17 fun v38 =>
  bV h26 a0 16 (fun q42 => sX3_weight G N (some q42) x7 x17 h26) fun v39 h40 =>
  gSi G h40 v37 0 x17 (v38 + v39) fun h41 =>
  j29 () h41)
noncomputable def bX3_laySums_41 (G : GG) (N : Nat) (a0 : Option Nat) (v6 : Option Nat) (w9 : (Int32) → Hp → Out (Unit)) (x7 : Int32) (h8 : Hp) : Out (Unit) :=
  bV h8 a0 16 (fun q47 => sX3_size G N (some q47) h8) fun v10 h11 =>
  if v10 ≤ x7 then (some (.inl (), h11))
  else bV h11 v6 26 (fun q46 => sJ23_isEmpty_c26 G N (some q46) h11) fun v12 h13 =>
  if v12 = 0 then (gJ (fun (x14 : Unit) (h15 : Hp) =>
  w9 (x7 + (1 : Int32)) h15) fun j16 =>
  gLp (bX3_laySums_61 G N a0 v6 x7 j16) N (0 : Int32) h13)
  else some (.inl (), h13)
noncomputable def bX3_laySums_2 (G : GG) (N : Nat) (a0 : Option Nat) (j3 : (Unit) → Hp → Out (Unit)) (w51 : (Int32) → Hp → Out (Unit)) (x49 : Int32) (h50 : Hp) : Out (Unit) :=
  bV h50 a0 16 (fun q58 => sX3_slopes G N (some q58) h50) fun v52 h53 =>
  if v52 ≤ x49 then (j3 () h53)
  else gFr h53 a0 16 12 fun v54 =>
  gSi G h53 v54 0 x49 (0 : Int32) fun h55 =>
  gFr h55 a0 16 13 fun v56 =>
  gSi G h55 v56 0 x49 (0 : Int32) fun h57 =>
  w51 (x49 + (1 : Int32)) h57
noncomputable def sX3_laySums (G : GG) (N : Nat) (a0 : Option Nat) (a1 : Int32) (h : Hp) : Out (Unit) :=
  gJ (fun (x1 : Unit) (h2 : Hp) =>
  bV h2 a0 16 (fun q48 => sX3_cabin G N (some q48) a1 h2) fun v4 h5 =>
  gFr h5 v4 7 8 fun v6 =>
  gLp (bX3_laySums_41 G N a0 v6) N (0 : Int32) h5) fun j3 =>
  gLp (bX3_laySums_2 G N a0 j3) N (0 : Int32) h
abbrev mX3_laySums : MI := (RX3, cX3_laySums, 6, none, [], 6, 128, "laySums")
theorem tX3_laySums {G : GG} {l : Launch} (hs : l.stackTraces = false) {N : Nat} {a0 : Option Nat} {a1 : Int32} {h : Hp} {r : Unit ⊕ Nat} {hf : Hp} (ho : sX3_laySums G N a0 a1 h = some (r, hf)) : gMet G l yX3_laySums (ws_ yX3_laySums cX3_laySums 6 none) 6 128 [gr a0, gi a1] h cvU r hf := by
  refine gMet.of ho hs (plainFor_of_name pn_X3) rfl rfl (gbl rfl) fun X => ?_
  show gT G l X mX3_laySums cvU r hf 0 [(0, gr a0), (1, gi a1)] [] h (sX3_laySums G N a0 a1 h)
  delta sX3_laySums
  refine g_iconst (pc := 0) (v := (0 : Int32)) ic_0 dX3_laySums_0 ?_
  refine g_istore_n (pc := 1) (lv' := [(2, gi (0 : Int32)), (0, gr a0), (1, gi a1)]) [0, 1, 2] rfl rfl (gblt rfl) dX3_laySums_1 ?_
  refine g_join 30 (fun (x1 : Unit) => [(0, gr a0), (1, gi a1)]) (fun (x1 : Unit) => []) (fun x1 h2 => ?_) (fun j3 Hj3 => ?_)
  · refine g_aload_n (pc := 30) (x := a0) 0 rfl rfl dX3_laySums_30 ?_
    refine g_iload_n (pc := 31) (x := a1) 1 rfl rfl dX3_laySums_31 ?_
    refine g_bVr (pc := 32) (y := yX3_cabin) (ws := ws_ yX3_cabin cX3_cabin 2 (some (.object "FlareSlopes$Cabin"))) (fr := 3) (lo := 64) (as := [gi a1]) (st := []) (g_no) rfl (fun _ _ _ e => tX3_cabin hs e) (fun K _ _ _ hq hM R e1 e2 => g_runV (M := mX3_laySums) (pc := 32) (y := yX3_cabin) (bytes := cX3_cabin) (maxL := 2) (ret := (some (.object "FlareSlopes$Cabin"))) (fr := 3) (lo := 64) (as := [gi a1]) (st := []) hq (C := "FlareSlopes$State") rfl gy_X3_cabin (gbl rfl) (gbl rfl) (gbl rfl) q1638 q1639 q1640 dX3_laySums_32 K hM R e1 e2) fun v4 h5 => ?_
    refine g_getfr (pc := 35) k_7 (gblt rfl) lk_X3_188_7 dX3_laySums_35 fun v6 => ?_
    refine g_astore_n (pc := 38) (lv' := [(2, gr v6), (0, gr a0)]) [0, 1] rfl rfl (gblt rfl) dX3_laySums_38 ?_
    refine g_iconst (pc := 39) (v := (0 : Int32)) ic_0 dX3_laySums_39 ?_
    refine g_istore_n (pc := 40) (lv' := [(3, gi (0 : Int32)), (2, gr v6), (0, gr a0)]) [0, 1, 2] rfl rfl (gblt rfl) dX3_laySums_40 ?_
    refine g_sub (lv' := [(0, gr a0), (2, gr v6), (3, gi (0 : Int32))]) [2, 1, 0] rfl ?_
    refine g_loop (pc := 41) (fun (x7 : Int32) => [(0, gr a0), (2, gr v6), (3, gi x7)]) (fun (_ : Int32) => []) (fun w9 Hw9 x7 h8 => ?_) N (0 : Int32) h5
    delta bX3_laySums_41
    refine g_iload_n (pc := 41) (x := x7) 2 rfl rfl dX3_laySums_41 ?_
    refine g_aload_n (pc := 42) (x := a0) 0 rfl rfl dX3_laySums_42 ?_
    refine g_bVi (pc := 43) (y := yX3_size) (ws := ws_ yX3_size cX3_size 1 (some .int)) (fr := 1) (lo := 20) (as := []) (st := [gi x7]) (g_no) rfl (fun _ _ _ e => tX3_size hs e) (fun K _ _ _ hq hM R e1 e2 => g_runV (M := mX3_laySums) (pc := 43) (y := yX3_size) (bytes := cX3_size) (maxL := 1) (ret := (some .int)) (fr := 1) (lo := 20) (as := []) (st := [gi x7]) hq (C := "FlareSlopes$State") rfl gy_X3_size (gbl rfl) (gbl rfl) (gbl rfl) q1633 q1412 q1413 dX3_laySums_43 K hM R e1 e2) fun v10 h11 => ?_
    refine g_icmp_ge (pc := 46) (tgt := 156) rfl dX3_laySums_46 ?_ ?_
    · exact g_return (pc := 156) rfl dX3_laySums_156
    refine g_aload_n (pc := 49) (x := v6) 1 rfl rfl dX3_laySums_49 ?_
    refine g_bVi (pc := 50) (y := yJ23_isEmpty) (ws := ws_ yJ23_isEmpty cJ23_isEmpty 1 (some .boolean)) (fr := 0) (lo := 0) (as := []) (st := []) (g_no) rfl (fun _ _ _ e => tJ23_isEmpty_c26 hs e) (fun K _ _ _ hq hM R e1 e2 => g_runF (x := ⟨"java/util/Map", "isEmpty", "()Z"⟩) (M := mX3_laySums) (pc := 50) (y := yJ23_isEmpty) (bytes := cJ23_isEmpty) (maxL := 1) (ret := (some .boolean)) (fr := 0) (lo := 0) (as := []) (st := []) hq (C := "java/util/LinkedHashMap") rfl gy_J23_isEmpty rfl (gbl rfl) (gbl rfl) (gbl rfl) q3076 q3078 q3077 q3082 q3080 q1613 mhx_java_util_Map q3079 q3081 dX3_laySums_50 K hM R e1 e2) fun v12 h13 => ?_
    refine g_if_ne (pc := 55) (tgt := 156) rfl dX3_laySums_55 ?_ ?_
    rotate_left
    · exact g_return (pc := 156) rfl dX3_laySums_156
    refine g_iconst (pc := 58) (v := (0 : Int32)) ic_0 dX3_laySums_58 ?_
    refine g_istore (pc := 59) (lv' := [(4, gi (0 : Int32)), (0, gr a0), (2, gr v6), (3, gi x7)]) [0, 1, 2, 3] rfl (gblt rfl) dX3_laySums_59 ?_
    refine g_join 150 (fun (x14 : Unit) => [(0, gr a0), (2, gr v6), (3, gi x7)]) (fun (x14 : Unit) => []) (fun x14 h15 => ?_) (fun j16 Hj16 => ?_)
    · refine g_iinc (pc := 150) (v := x7 + (1 : Int32)) 2 rfl (ii_1 _) (lv' := [(3, gi (x7 + (1 : Int32))), (0, gr a0), (2, gr v6)]) [0, 1, 2] rfl (gblt rfl) dX3_laySums_150 ?_
      refine g_goto (pc := 153) (tgt := 41) rfl dX3_laySums_153 ?_
      exact g_sub [1, 2, 0] rfl (Hw9 (x7 + (1 : Int32)) h15)
    refine g_sub (lv' := [(0, gr a0), (2, gr v6), (3, gi x7), (4, gi (0 : Int32))]) [1, 2, 3, 0] rfl ?_
    refine g_loop (pc := 61) (fun (x17 : Int32) => [(0, gr a0), (2, gr v6), (3, gi x7), (4, gi x17)]) (fun (_ : Int32) => []) (fun w19 Hw19 x17 h18 => ?_) N (0 : Int32) h13
    delta bX3_laySums_61
    refine g_iload (pc := 61) (x := x17) 3 rfl dX3_laySums_61 ?_
    refine g_aload_n (pc := 63) (x := a0) 0 rfl rfl dX3_laySums_63 ?_
    refine g_bVi (pc := 64) (y := yX3_slopes) (ws := ws_ yX3_slopes cX3_slopes 1 (some .int)) (fr := 2) (lo := 40) (as := []) (st := [gi x17]) (g_no) rfl (fun _ _ _ e => tX3_slopes hs e) (fun K _ _ _ hq hM R e1 e2 => g_runV (M := mX3_laySums) (pc := 64) (y := yX3_slopes) (bytes := cX3_slopes) (maxL := 1) (ret := (some .int)) (fr := 2) (lo := 40) (as := []) (st := [gi x17]) hq (C := "FlareSlopes$State") rfl gy_X3_slopes (gbl rfl) (gbl rfl) (gbl rfl) q1993 q1465 q1466 dX3_laySums_64 K hM R e1 e2) fun v20 h21 => ?_
    refine g_icmp_ge (pc := 67) (tgt := 150) rfl dX3_laySums_67 ?_ ?_
    · exact g_sub [0, 1, 2] rfl (Hj16 () h21)
    refine g_aload_n (pc := 70) (x := v6) 1 rfl rfl dX3_laySums_70 ?_
    refine g_aload_n (pc := 71) (x := a0) 0 rfl rfl dX3_laySums_71 ?_
    refine g_getfr (pc := 72) k_16 (gblt rfl) lk_X3_35_16 dX3_laySums_72 fun v22 => ?_
    refine g_iload_n (pc := 75) (x := x7) 2 rfl rfl dX3_laySums_75 ?_
    refine g_iload (pc := 76) (x := x17) 3 rfl dX3_laySums_76 ?_
    refine g_bVr (pc := 78) (y := yX5_key) (ws := ws_ yX5_key cX5_key 3 (some (.object "FlareSlopes$Key"))) (fr := 0) (lo := 0) (as := [gi x7, gi x17]) (st := [gr v6]) (g_no) rfl (fun _ _ _ e => tX5_key hs e) (fun K _ _ _ hq hM R e1 e2 => g_runV (M := mX3_laySums) (pc := 78) (y := yX5_key) (bytes := cX5_key) (maxL := 3) (ret := (some (.object "FlareSlopes$Key"))) (fr := 0) (lo := 0) (as := [gi x7, gi x17]) (st := [gr v6]) hq (C := "FlareSlopes$Mountain") rfl gy_X5_key (gbl rfl) (gbl rfl) (gbl rfl) q1994 q1995 q1996 dX3_laySums_78 K hM R e1 e2) fun v23 h24 => ?_
    refine g_bVr (pc := 81) (y := yJ24_get) (ws := ws_ yJ24_get cJ24_get 3 (some (.object "java/lang/Object"))) (fr := 4) (lo := 88) (as := [gr v23]) (st := []) (g_no) rfl (fun _ _ _ e => tJ24_get hs e) (fun K _ _ _ hq hM R e1 e2 => g_runF (x := ⟨"java/util/Map", "get", "(Ljava/lang/Object;)Ljava/lang/Object;"⟩) (M := mX3_laySums) (pc := 81) (y := yJ24_get) (bytes := cJ24_get) (maxL := 3) (ret := (some (.object "java/lang/Object"))) (fr := 4) (lo := 88) (as := [gr v23]) (st := []) hq (C := "java/util/LinkedHashMap") rfl gy_J24_get rfl (gbl rfl) (gbl rfl) (gbl rfl) q1999 q2001 q2000 q2005 q2003 q1613 mhx_java_util_Map q2002 q2004 dX3_laySums_81 K hM R e1 e2) fun v25 h26 => ?_
    refine g_checkcast (pc := 86) q2322 as_17_FlareSlopes_Vote dX3_laySums_86 ?_
    refine g_astore (pc := 89) (lv' := [(5, gr v25), (0, gr a0), (2, gr v6), (3, gi x7), (4, gi x17)]) [0, 1, 2, 3, 4] rfl (gblt rfl) dX3_laySums_89 ?_
    refine g_aload (pc := 91) (x := v25) 0 rfl dX3_laySums_91 ?_
    refine g_join 144 (fun (x27 : Unit) => [(0, gr a0), (2, gr v6), (3, gi x7), (4, gi x17)]) (fun (x27 : Unit) => []) (fun x27 h28 => ?_) (fun j29 Hj29 => ?_)
    · refine g_iinc (pc := 144) (v := x17 + (1 : Int32)) 3 rfl (ii_1 _) (lv' := [(4, gi (x17 + (1 : Int32))), (0, gr a0), (2, gr v6), (3, gi x7)]) [0, 1, 2, 3] rfl (gblt rfl) dX3_laySums_144 ?_
      refine g_goto (pc := 147) (tgt := 61) rfl dX3_laySums_147 ?_
      exact g_sub [1, 2, 3, 0] rfl (Hw19 (x17 + (1 : Int32)) h28)
    refine g_ifnonnull (pc := 93) (tgt := 99) rfl dX3_laySums_93 ?_ ?_
    · refine g_goto (pc := 96) (tgt := 144) rfl dX3_laySums_96 ?_
      exact g_sub [1, 2, 3, 4] rfl (Hj29 () h26)
    refine g_aload (pc := 99) (x := v25) 0 rfl dX3_laySums_99 ?_
    refine g_getfi (pc := 101) k_17 (gblt rfl) lk_X3_206_17 dX3_laySums_101 fun v30 => ?_
    refine g_if_eq (pc := 104) (tgt := 127) rfl dX3_laySums_104 ?_ ?_
    · refine g_aload_n (pc := 127) (x := a0) 1 rfl rfl dX3_laySums_127 ?_
      refine g_getfr (pc := 128) k_16 (gblt rfl) lk_X3_32_16 dX3_laySums_128 fun v31 => ?_
      refine g_iload (pc := 131) (x := x17) 4 rfl dX3_laySums_131 ?_
      refine g_dup2 (pc := 133) rfl rfl dX3_laySums_133 ?_
      refine g_iaload (pc := 134) rfl dX3_laySums_134 fun v32 => ?_
      refine g_aload_n (pc := 135) (x := a0) 1 rfl rfl dX3_laySums_135 ?_
      refine g_iload_n (pc := 136) (x := x7) 3 rfl rfl dX3_laySums_136 ?_
      refine g_iload (pc := 137) (x := x17) 4 rfl dX3_laySums_137 ?_
      refine g_bVi (pc := 139) (y := yX3_weight) (ws := ws_ yX3_weight cX3_weight 3 (some .int)) (fr := 5) (lo := 106) (as := [gi x7, gi x17]) (st := [gi v32, gi x17, gr v31]) (g_no) rfl (fun _ _ _ e => tX3_weight hs e) (fun K _ _ _ hq hM R e1 e2 => g_runV (M := mX3_laySums) (pc := 139) (y := yX3_weight) (bytes := cX3_weight) (maxL := 3) (ret := (some .int)) (fr := 5) (lo := 106) (as := [gi x7, gi x17]) (st := [gi v32, gi x17, gr v31]) hq (C := "FlareSlopes$State") rfl gy_X3_weight (gbl rfl) (gbl rfl) (gbl rfl) q3084 q3085 q3086 dX3_laySums_139 K hM R e1 e2) fun v33 h34 => ?_
      refine g_iadd (pc := 142) dX3_laySums_142 ?_
      refine g_iastore (pc := 143) rfl dX3_laySums_143 fun h35 => ?_
      exact g_sub [1, 2, 3, 4] rfl (Hj29 () h35)
    refine g_aload_n (pc := 107) (x := a0) 1 rfl rfl dX3_laySums_107 ?_
    refine g_getfr (pc := 108) k_16 (gblt rfl) lk_X3_29_16 dX3_laySums_108 fun v37 => ?_
    refine g_iload (pc := 111) (x := x17) 4 rfl dX3_laySums_111 ?_
    refine g_dup2 (pc := 113) rfl rfl dX3_laySums_113 ?_
    refine g_iaload (pc := 114) rfl dX3_laySums_114 fun v38 => ?_
    refine g_aload_n (pc := 115) (x := a0) 1 rfl rfl dX3_laySums_115 ?_
    refine g_iload_n (pc := 116) (x := x7) 3 rfl rfl dX3_laySums_116 ?_
    refine g_iload (pc := 117) (x := x17) 4 rfl dX3_laySums_117 ?_
    refine g_bVi (pc := 119) (y := yX3_weight) (ws := ws_ yX3_weight cX3_weight 3 (some .int)) (fr := 5) (lo := 106) (as := [gi x7, gi x17]) (st := [gi v38, gi x17, gr v37]) (g_no) rfl (fun _ _ _ e => tX3_weight hs e) (fun K _ _ _ hq hM R e1 e2 => g_runV (M := mX3_laySums) (pc := 119) (y := yX3_weight) (bytes := cX3_weight) (maxL := 3) (ret := (some .int)) (fr := 5) (lo := 106) (as := [gi x7, gi x17]) (st := [gi v38, gi x17, gr v37]) hq (C := "FlareSlopes$State") rfl gy_X3_weight (gbl rfl) (gbl rfl) (gbl rfl) q3084 q3085 q3086 dX3_laySums_119 K hM R e1 e2) fun v39 h40 => ?_
    refine g_iadd (pc := 122) dX3_laySums_122 ?_
    refine g_iastore (pc := 123) rfl dX3_laySums_123 fun h41 => ?_
    refine g_goto (pc := 124) (tgt := 144) rfl dX3_laySums_124 ?_
    exact g_sub [1, 2, 3, 4] rfl (Hj29 () h41)
  refine g_sub (lv' := [(0, gr a0), (1, gi a1), (2, gi (0 : Int32))]) [1, 2, 0] rfl ?_
  refine g_loop (pc := 2) (fun (x49 : Int32) => [(0, gr a0), (1, gi a1), (2, gi x49)]) (fun (_ : Int32) => []) (fun w51 Hw51 x49 h50 => ?_) N (0 : Int32) h
  delta bX3_laySums_2
  refine g_iload_n (pc := 2) (x := x49) 2 rfl rfl dX3_laySums_2 ?_
  refine g_aload_n (pc := 3) (x := a0) 0 rfl rfl dX3_laySums_3 ?_
  refine g_bVi (pc := 4) (y := yX3_slopes) (ws := ws_ yX3_slopes cX3_slopes 1 (some .int)) (fr := 2) (lo := 40) (as := []) (st := [gi x49]) (g_no) rfl (fun _ _ _ e => tX3_slopes hs e) (fun K _ _ _ hq hM R e1 e2 => g_runV (M := mX3_laySums) (pc := 4) (y := yX3_slopes) (bytes := cX3_slopes) (maxL := 1) (ret := (some .int)) (fr := 2) (lo := 40) (as := []) (st := [gi x49]) hq (C := "FlareSlopes$State") rfl gy_X3_slopes (gbl rfl) (gbl rfl) (gbl rfl) q1993 q1465 q1466 dX3_laySums_4 K hM R e1 e2) fun v52 h53 => ?_
  refine g_icmp_ge (pc := 7) (tgt := 30) rfl dX3_laySums_7 ?_ ?_
  · exact g_sub [0, 1] rfl (Hj3 () h53)
  refine g_aload_n (pc := 10) (x := a0) 0 rfl rfl dX3_laySums_10 ?_
  refine g_getfr (pc := 11) k_16 (gblt rfl) lk_X3_29_16 dX3_laySums_11 fun v54 => ?_
  refine g_iload_n (pc := 14) (x := x49) 2 rfl rfl dX3_laySums_14 ?_
  refine g_iconst (pc := 15) (v := (0 : Int32)) ic_0 dX3_laySums_15 ?_
  refine g_iastore (pc := 16) rfl dX3_laySums_16 fun h55 => ?_
  refine g_aload_n (pc := 17) (x := a0) 0 rfl rfl dX3_laySums_17 ?_
  refine g_getfr (pc := 18) k_16 (gblt rfl) lk_X3_32_16 dX3_laySums_18 fun v56 => ?_
  refine g_iload_n (pc := 21) (x := x49) 2 rfl rfl dX3_laySums_21 ?_
  refine g_iconst (pc := 22) (v := (0 : Int32)) ic_0 dX3_laySums_22 ?_
  refine g_iastore (pc := 23) rfl dX3_laySums_23 fun h57 => ?_
  refine g_iinc (pc := 24) (v := x49 + (1 : Int32)) 2 rfl (ii_1 _) (lv' := [(2, gi (x49 + (1 : Int32))), (0, gr a0), (1, gi a1)]) [0, 1, 2] rfl (gblt rfl) dX3_laySums_24 ?_
  refine g_goto (pc := 27) (tgt := 2) rfl dX3_laySums_27 ?_
  exact g_sub [1, 2, 0] rfl (Hw51 (x49 + (1 : Int32)) h57)
/-! FlareSlopes.weightsOn(IZ)I -/
noncomputable def bX1_weightsOn_5 (G : GG) (N : Nat) (a0 : Option Nat) (a1 : Int32) (a2 : Int32) (w3 : (Int32 × Int32) → Hp → Out (Int32)) (x1 : Int32 × Int32) (h2 : Hp) : Out (Int32) :=
  gFr h2 a0 3 4 fun v4 =>
  bV h2 v4 16 (fun q21 => sX3_size G N (some q21) h2) fun v5 h6 =>
  if v5 ≤ x1.2 then (some (.inl x1.1, h6))
  else gFr h6 a0 3 4 fun v7 =>
  bV h6 v7 16 (fun q20 => sX3_laySums G N (some q20) x1.2 h6) fun v8 h9 =>
  gJ (fun (x10 : Int32) (h11 : Hp) =>
  gLet (x1.1 + x10) fun v13 =>
  w3 (v13, x1.2 + (1 : Int32)) h11) fun j12 =>
  if a2 = 0 then (gFr h9 a0 3 4 fun v14 =>
  gFr h9 v14 16 13 fun v15 =>
  gAi h9 v15 0 a1 fun v16 =>
  j12 v16 h9)
  else gFr h9 a0 3 4 fun v17 =>
  gFr h9 v17 16 12 fun v18 =>
  gAi h9 v18 0 a1 fun v19 =>
  j12 v19 h9
noncomputable def sX1_weightsOn (G : GG) (N : Nat) (a0 : Option Nat) (a1 : Int32) (a2 : Int32) (h : Hp) : Out (Int32) :=
  gLp (bX1_weightsOn_5 G N a0 a1 a2) N ((0 : Int32), (0 : Int32)) h
abbrev mX1_weightsOn : MI := (RX1, cX1_weightsOn, 5, (some .int), [], 7, 153, "weightsOn")
theorem tX1_weightsOn {G : GG} {l : Launch} (hs : l.stackTraces = false) {N : Nat} {a0 : Option Nat} {a1 : Int32} {a2 : Int32} {h : Hp} {r : Int32 ⊕ Nat} {hf : Hp} (ho : sX1_weightsOn G N a0 a1 a2 h = some (r, hf)) : gMet G l yX1_weightsOn (ws_ yX1_weightsOn cX1_weightsOn 5 (some .int)) 7 153 [gr a0, gi a1, gi a2] h cvI r hf := by
  refine gMet.of ho hs (plainFor_of_name pn_X1) rfl rfl (gbl rfl) fun X => ?_
  show gT G l X mX1_weightsOn cvI r hf 0 [(0, gr a0), (1, gi a1), (2, gi a2)] [] h (sX1_weightsOn G N a0 a1 a2 h)
  delta sX1_weightsOn
  refine g_iconst (pc := 0) (v := (0 : Int32)) ic_0 dX1_weightsOn_0 ?_
  refine g_istore_n (pc := 1) (lv' := [(3, gi (0 : Int32)), (0, gr a0), (1, gi a1), (2, gi a2)]) [0, 1, 2, 3] rfl rfl (gblt rfl) dX1_weightsOn_1 ?_
  refine g_iconst (pc := 2) (v := (0 : Int32)) ic_0 dX1_weightsOn_2 ?_
  refine g_istore (pc := 3) (lv' := [(4, gi (0 : Int32)), (3, gi (0 : Int32)), (0, gr a0), (1, gi a1), (2, gi a2)]) [0, 1, 2, 3, 4] rfl (gblt rfl) dX1_weightsOn_3 ?_
  refine g_sub (lv' := [(0, gr a0), (1, gi a1), (2, gi a2), (3, gi (0 : Int32)), (4, gi (0 : Int32))]) [2, 3, 4, 1, 0] rfl ?_
  refine g_loop (pc := 5) (fun (x1 : Int32 × Int32) => [(0, gr a0), (1, gi a1), (2, gi a2), (3, gi x1.1), (4, gi x1.2)]) (fun (_ : Int32 × Int32) => []) (fun w3 Hw3 x1 h2 => ?_) N ((0 : Int32), (0 : Int32)) h
  delta bX1_weightsOn_5
  refine g_iload (pc := 5) (x := x1.2) 4 rfl dX1_weightsOn_5 ?_
  refine g_aload_n (pc := 7) (x := a0) 0 rfl rfl dX1_weightsOn_7 ?_
  refine g_getfr (pc := 8) k_3 (gblt rfl) lk_X1_56_3 dX1_weightsOn_8 fun v4 => ?_
  refine g_bVi (pc := 11) (y := yX3_size) (ws := ws_ yX3_size cX3_size 1 (some .int)) (fr := 1) (lo := 20) (as := []) (st := [gi x1.2]) (g_no) rfl (fun _ _ _ e => tX3_size hs e) (fun K _ _ _ hq hM R e1 e2 => g_runV (M := mX1_weightsOn) (pc := 11) (y := yX3_size) (bytes := cX3_size) (maxL := 1) (ret := (some .int)) (fr := 1) (lo := 20) (as := []) (st := [gi x1.2]) hq (C := "FlareSlopes$State") rfl gy_X3_size (gbl rfl) (gbl rfl) (gbl rfl) q1411 q1412 q1413 dX1_weightsOn_11 K hM R e1 e2) fun v5 h6 => ?_
  refine g_icmp_ge (pc := 14) (tgt := 60) rfl dX1_weightsOn_14 ?_ ?_
  · refine g_iload_n (pc := 60) (x := x1.1) 3 rfl rfl dX1_weightsOn_60 ?_
    exact g_ireturn (pc := 61) rfl dX1_weightsOn_61
  refine g_aload_n (pc := 17) (x := a0) 0 rfl rfl dX1_weightsOn_17 ?_
  refine g_getfr (pc := 18) k_3 (gblt rfl) lk_X1_56_3 dX1_weightsOn_18 fun v7 => ?_
  refine g_iload (pc := 21) (x := x1.2) 4 rfl dX1_weightsOn_21 ?_
  refine g_bVu (pc := 23) (y := yX3_laySums) (ws := ws_ yX3_laySums cX3_laySums 6 none) (fr := 6) (lo := 128) (as := [gi x1.2]) (st := []) (g_no) rfl (fun _ _ _ e => tX3_laySums hs e) (fun K _ _ _ hq hM R e1 e2 => g_runV (M := mX1_weightsOn) (pc := 23) (y := yX3_laySums) (bytes := cX3_laySums) (maxL := 6) (ret := none) (fr := 6) (lo := 128) (as := [gi x1.2]) (st := []) hq (C := "FlareSlopes$State") rfl gy_X3_laySums (gbl rfl) (gbl rfl) (gbl rfl) q3071 q3072 q3073 dX1_weightsOn_23 K hM R e1 e2) fun v8 h9 => ?_
  refine g_iload_n (pc := 26) (x := x1.1) 3 rfl rfl dX1_weightsOn_26 ?_
  refine g_iload_n (pc := 27) (x := a2) 2 rfl rfl dX1_weightsOn_27 ?_
  refine g_join 52 (fun (x10 : Int32) => [(0, gr a0), (1, gi a1), (2, gi a2), (4, gi x1.2)]) (fun (x10 : Int32) => [gi x10, gi x1.1]) (fun x10 h11 => ?_) (fun j12 Hj12 => ?_)
  · refine g_iadd (pc := 52) dX1_weightsOn_52 ?_
    refine g_leti fun v13 => ?_
    refine g_istore_n (pc := 53) (lv' := [(3, gi v13), (0, gr a0), (1, gi a1), (2, gi a2), (4, gi x1.2)]) [0, 1, 2, 3, 4] rfl rfl (gblt rfl) dX1_weightsOn_53 ?_
    refine g_iinc (pc := 54) (v := x1.2 + (1 : Int32)) 4 rfl (ii_1 _) (lv' := [(4, gi (x1.2 + (1 : Int32))), (3, gi v13), (0, gr a0), (1, gi a1), (2, gi a2)]) [0, 1, 2, 3, 4] rfl (gblt rfl) dX1_weightsOn_54 ?_
    refine g_goto (pc := 57) (tgt := 5) rfl dX1_weightsOn_57 ?_
    exact g_sub [2, 3, 4, 1, 0] rfl (Hw3 (v13, x1.2 + (1 : Int32)) h11)
  refine g_if_eq (pc := 28) (tgt := 43) rfl dX1_weightsOn_28 ?_ ?_
  · refine g_aload_n (pc := 43) (x := a0) 0 rfl rfl dX1_weightsOn_43 ?_
    refine g_getfr (pc := 44) k_3 (gblt rfl) lk_X1_56_3 dX1_weightsOn_44 fun v14 => ?_
    refine g_getfr (pc := 47) k_16 (gblt rfl) lk_X1_314_16 dX1_weightsOn_47 fun v15 => ?_
    refine g_iload_n (pc := 50) (x := a1) 1 rfl rfl dX1_weightsOn_50 ?_
    refine g_iaload (pc := 51) rfl dX1_weightsOn_51 fun v16 => ?_
    exact g_sub [0, 1, 2, 4] rfl (Hj12 v16 h9)
  refine g_aload_n (pc := 31) (x := a0) 0 rfl rfl dX1_weightsOn_31 ?_
  refine g_getfr (pc := 32) k_3 (gblt rfl) lk_X1_56_3 dX1_weightsOn_32 fun v17 => ?_
  refine g_getfr (pc := 35) k_16 (gblt rfl) lk_X1_311_16 dX1_weightsOn_35 fun v18 => ?_
  refine g_iload_n (pc := 38) (x := a1) 1 rfl rfl dX1_weightsOn_38 ?_
  refine g_iaload (pc := 39) rfl dX1_weightsOn_39 fun v19 => ?_
  refine g_goto (pc := 40) (tgt := 52) rfl dX1_weightsOn_40 ?_
  exact g_sub [0, 1, 2, 4] rfl (Hj12 v19 h9)
/-! FlareSlopes.slope(II)I -/
noncomputable def sX1_slope (G : GG) (N : Nat) (a0 : Option Nat) (a1 : Int32) (a2 : Int32) (h : Hp) : Out (Int32) :=
  bV h a0 3 (fun q36 => sX1_withSlope G N (some q36) a1 h) fun v1 h2 =>
  gSel a2 [((0 : Int32), gFi h2 v1 15 1 fun v5 =>
  some (.inl v5, h2)),
  ((1 : Int32), gFi h2 v1 15 2 fun v6 =>
  some (.inl v6, h2)),
  ((2 : Int32), gFi h2 v1 15 3 fun v7 =>
  some (.inl v7, h2)),
  ((3 : Int32), gFr h2 a0 3 4 fun v8 =>
  bV h2 v8 16 (fun q11 => sX3_isDangerous G N (some q11) a1 h2) fun v9 h10 =>
  if v9 = 0 then (some (.inl (0 : Int32), h10))
  else some (.inl (1 : Int32), h10)),
  ((4 : Int32), gFr h2 a0 3 4 fun v12 =>
  bV h2 v12 16 (fun q17 => sX3_closers G N (some q17) a1 h2) fun v13 h14 =>
  bnd (sJ20_bitCount G N v13 h14) fun v15 h16 =>
  some (.inl v15, h16)),
  ((5 : Int32), bV h2 a0 3 (fun q20 => sX1_seersOf G N (some q20) a1 h2) fun v18 h19 =>
  some (.inl v18, h19)),
  ((6 : Int32), bV h2 a0 3 (fun q23 => sX1_votesOn G N (some q23) a1 h2) fun v21 h22 =>
  some (.inl v21, h22)),
  ((7 : Int32), gJ (fun (x24 : Int32) (h25 : Hp) =>
  bV h25 a0 3 (fun q29 => sX1_weightsOn G N (some q29) a1 x24 h25) fun v27 h28 =>
  some (.inl v27, h28)) fun j26 =>
  if a2 = (7 : Int32) then (j26 (1 : Int32) h2)
  else j26 (0 : Int32) h2),
  ((8 : Int32), gJ (fun (x30 : Int32) (h31 : Hp) =>
  bV h31 a0 3 (fun q35 => sX1_weightsOn G N (some q35) a1 x30 h31) fun v33 h34 =>
  some (.inl v33, h34)) fun j32 =>
  if a2 = (7 : Int32) then (j32 (1 : Int32) h2)
  else j32 (0 : Int32) h2)] (gMk h2 1 fun v3 h4 =>
  gThr G v3 h4)
abbrev mX1_slope : MI := (RX1, cX1_slope, 4, (some .int), [], 9, 177, "slope")
theorem tX1_slope {G : GG} {l : Launch} (hs : l.stackTraces = false) {N : Nat} {a0 : Option Nat} {a1 : Int32} {a2 : Int32} {h : Hp} {r : Int32 ⊕ Nat} {hf : Hp} (ho : sX1_slope G N a0 a1 a2 h = some (r, hf)) : gMet G l yX1_slope (ws_ yX1_slope cX1_slope 4 (some .int)) 9 177 [gr a0, gi a1, gi a2] h cvI r hf := by
  refine gMet.of ho hs (plainFor_of_name pn_X1) rfl rfl (gbl rfl) fun X => ?_
  show gT G l X mX1_slope cvI r hf 0 [(0, gr a0), (1, gi a1), (2, gi a2)] [] h (sX1_slope G N a0 a1 a2 h)
  delta sX1_slope
  refine g_aload_n (pc := 0) (x := a0) 0 rfl rfl dX1_slope_0 ?_
  refine g_iload_n (pc := 1) (x := a1) 1 rfl rfl dX1_slope_1 ?_
  refine g_bVr (pc := 2) (y := yX1_withSlope) (ws := ws_ yX1_withSlope cX1_withSlope 2 (some (.object "FlareSlopes$Spot"))) (fr := 8) (lo := 121) (as := [gi a1]) (st := []) (g_no) rfl (fun _ _ _ e => tX1_withSlope hs e) (fun K _ _ _ hq hM R e1 e2 => g_runV (M := mX1_slope) (pc := 2) (y := yX1_withSlope) (bytes := cX1_withSlope) (maxL := 2) (ret := (some (.object "FlareSlopes$Spot"))) (fr := 8) (lo := 121) (as := [gi a1]) (st := []) hq (C := "FlareSlopes") rfl gy_X1_withSlope (gbl rfl) (gbl rfl) (gbl rfl) q3044 q3046 qs40 dX1_slope_2 K hM R e1 e2) fun v1 h2 => ?_
  refine g_astore_n (pc := 5) (lv' := [(3, gr v1), (0, gr a0), (1, gi a1), (2, gi a2)]) [0, 1, 2, 3] rfl rfl (gblt rfl) dX1_slope_5 ?_
  refine g_iload_n (pc := 6) (x := a2) 3 rfl rfl dX1_slope_6 ?_
  refine g_tableswitch (pc := 7) (td := 145) [((0 : Int32), 56), ((1 : Int32), 63), ((2 : Int32), 70), ((3 : Int32), 77), ((4 : Int32), 96), ((5 : Int32), 110), ((6 : Int32), 118), ((7 : Int32), 126), ((8 : Int32), 126)] (by decide +kernel) dX1_slope_7 ?_ (g_all_cons ?_ (g_all_cons ?_ (g_all_cons ?_ (g_all_cons ?_ (g_all_cons ?_ (g_all_cons ?_ (g_all_cons ?_ (g_all_cons ?_ (g_all_cons ?_ g_all_nil)))))))))
  · refine g_make0 (pc := 145) xw_X1_43_45 rfl dX1_slope_145 dX1_slope_148 dX1_slope_149 (gblt rfl) (gbl rfl) fun v3 h4 => ?_
    exact g_athrow (pc := 152) (g_no) dX1_slope_152
  · refine g_aload_n (pc := 56) (x := v1) 0 rfl rfl dX1_slope_56 ?_
    refine g_getfi (pc := 57) k_15 (gblt rfl) lk_X1_320_15 dX1_slope_57 fun v5 => ?_
    refine g_goto (pc := 60) (tgt := 153) rfl dX1_slope_60 ?_
    exact g_ireturn (pc := 153) rfl dX1_slope_153
  · refine g_aload_n (pc := 63) (x := v1) 0 rfl rfl dX1_slope_63 ?_
    refine g_getfi (pc := 64) k_15 (gblt rfl) lk_X1_323_15 dX1_slope_64 fun v6 => ?_
    refine g_goto (pc := 67) (tgt := 153) rfl dX1_slope_67 ?_
    exact g_ireturn (pc := 153) rfl dX1_slope_153
  · refine g_aload_n (pc := 70) (x := v1) 0 rfl rfl dX1_slope_70 ?_
    refine g_getfi (pc := 71) k_15 (gblt rfl) lk_X1_324_15 dX1_slope_71 fun v7 => ?_
    refine g_goto (pc := 74) (tgt := 153) rfl dX1_slope_74 ?_
    exact g_ireturn (pc := 153) rfl dX1_slope_153
  · refine g_aload_n (pc := 77) (x := a0) 1 rfl rfl dX1_slope_77 ?_
    refine g_getfr (pc := 78) k_3 (gblt rfl) lk_X1_56_3 dX1_slope_78 fun v8 => ?_
    refine g_iload_n (pc := 81) (x := a1) 2 rfl rfl dX1_slope_81 ?_
    refine g_bVi (pc := 82) (y := yX3_isDangerous) (ws := ws_ yX3_isDangerous cX3_isDangerous 2 (some .boolean)) (fr := 1) (lo := 21) (as := [gi a1]) (st := []) (g_no) rfl (fun _ _ _ e => tX3_isDangerous hs e) (fun K _ _ _ hq hM R e1 e2 => g_runV (M := mX1_slope) (pc := 82) (y := yX3_isDangerous) (bytes := cX3_isDangerous) (maxL := 2) (ret := (some .boolean)) (fr := 1) (lo := 21) (as := [gi a1]) (st := []) hq (C := "FlareSlopes$State") rfl gy_X3_isDangerous (gbl rfl) (gbl rfl) (gbl rfl) q3049 q2333 q2334 dX1_slope_82 K hM R e1 e2) fun v9 h10 => ?_
    refine g_if_eq (pc := 85) (tgt := 92) rfl dX1_slope_85 ?_ ?_
    · refine g_iconst (pc := 92) (v := (0 : Int32)) ic_0 dX1_slope_92 ?_
      refine g_goto (pc := 93) (tgt := 153) rfl dX1_slope_93 ?_
      exact g_ireturn (pc := 153) rfl dX1_slope_153
    refine g_iconst (pc := 88) (v := (1 : Int32)) ic_1 dX1_slope_88 ?_
    refine g_goto (pc := 89) (tgt := 153) rfl dX1_slope_89 ?_
    exact g_ireturn (pc := 153) rfl dX1_slope_153
  · refine g_aload_n (pc := 96) (x := a0) 1 rfl rfl dX1_slope_96 ?_
    refine g_getfr (pc := 97) k_3 (gblt rfl) lk_X1_56_3 dX1_slope_97 fun v12 => ?_
    refine g_iload_n (pc := 100) (x := a1) 2 rfl rfl dX1_slope_100 ?_
    refine g_bVi (pc := 101) (y := yX3_closers) (ws := ws_ yX3_closers cX3_closers 4 (some .int)) (fr := 4) (lo := 85) (as := [gi a1]) (st := []) (g_no) rfl (fun _ _ _ e => tX3_closers hs e) (fun K _ _ _ hq hM R e1 e2 => g_runV (M := mX1_slope) (pc := 101) (y := yX3_closers) (bytes := cX3_closers) (maxL := 4) (ret := (some .int)) (fr := 4) (lo := 85) (as := [gi a1]) (st := []) hq (C := "FlareSlopes$State") rfl gy_X3_closers (gbl rfl) (gbl rfl) (gbl rfl) q3050 q3051 q3052 dX1_slope_101 K hM R e1 e2) fun v13 h14 => ?_
    refine g_bi (pc := 104) (y := yJ20_bitCount) (ws := ws_ yJ20_bitCount cJ20_bitCount 1 (some .int)) (fr := 0) (lo := 0) (as := [gi v13]) (st := []) (g_no) rfl (fun _ _ e => tJ20_bitCount hs e) (fun K _ _ hM R e1 e2 => g_runS (M := mX1_slope) (pc := 104) (y := yJ20_bitCount) (bytes := cJ20_bitCount) (maxL := 1) (ret := (some .int)) (fr := 0) (lo := 0) (as := [gi v13]) (st := []) gy_J20_bitCount (gbl rfl) (gbl rfl) (gbl rfl) q1619 q1620 dX1_slope_104 K hM R e1 e2) fun v15 h16 => ?_
    refine g_goto (pc := 107) (tgt := 153) rfl dX1_slope_107 ?_
    exact g_ireturn (pc := 153) rfl dX1_slope_153
  · refine g_aload_n (pc := 110) (x := a0) 1 rfl rfl dX1_slope_110 ?_
    refine g_iload_n (pc := 111) (x := a1) 2 rfl rfl dX1_slope_111 ?_
    refine g_bVi (pc := 112) (y := yX1_seersOf) (ws := ws_ yX1_seersOf cX1_seersOf 4 (some .int)) (fr := 7) (lo := 151) (as := [gi a1]) (st := []) (g_no) rfl (fun _ _ _ e => tX1_seersOf hs e) (fun K _ _ _ hq hM R e1 e2 => g_runV (M := mX1_slope) (pc := 112) (y := yX1_seersOf) (bytes := cX1_seersOf) (maxL := 4) (ret := (some .int)) (fr := 7) (lo := 151) (as := [gi a1]) (st := []) hq (C := "FlareSlopes") rfl gy_X1_seersOf (gbl rfl) (gbl rfl) (gbl rfl) q3059 q3061 qs41 dX1_slope_112 K hM R e1 e2) fun v18 h19 => ?_
    refine g_goto (pc := 115) (tgt := 153) rfl dX1_slope_115 ?_
    exact g_ireturn (pc := 153) rfl dX1_slope_153
  · refine g_aload_n (pc := 118) (x := a0) 1 rfl rfl dX1_slope_118 ?_
    refine g_iload_n (pc := 119) (x := a1) 2 rfl rfl dX1_slope_119 ?_
    refine g_bVi (pc := 120) (y := yX1_votesOn) (ws := ws_ yX1_votesOn cX1_votesOn 6 (some .int)) (fr := 6) (lo := 116) (as := [gi a1]) (st := []) (g_no) rfl (fun _ _ _ e => tX1_votesOn hs e) (fun K _ _ _ hq hM R e1 e2 => g_runV (M := mX1_slope) (pc := 120) (y := yX1_votesOn) (bytes := cX1_votesOn) (maxL := 6) (ret := (some .int)) (fr := 6) (lo := 116) (as := [gi a1]) (st := []) hq (C := "FlareSlopes") rfl gy_X1_votesOn (gbl rfl) (gbl rfl) (gbl rfl) q3063 q3065 qs42 dX1_slope_120 K hM R e1 e2) fun v21 h22 => ?_
    refine g_goto (pc := 123) (tgt := 153) rfl dX1_slope_123 ?_
    exact g_ireturn (pc := 153) rfl dX1_slope_153
  · refine g_aload_n (pc := 126) (x := a0) 1 rfl rfl dX1_slope_126 ?_
    refine g_iload_n (pc := 127) (x := a1) 2 rfl rfl dX1_slope_127 ?_
    refine g_iload_n (pc := 128) (x := a2) 3 rfl rfl dX1_slope_128 ?_
    refine g_bipush (pc := 129) (v := (7 : Int32)) bc_7 dX1_slope_129 ?_
    refine g_join 139 (fun (x24 : Int32) => []) (fun (x24 : Int32) => [gi x24, gi a1, gr a0]) (fun x24 h25 => ?_) (fun j26 Hj26 => ?_)
    · refine g_bVi (pc := 139) (y := yX1_weightsOn) (ws := ws_ yX1_weightsOn cX1_weightsOn 5 (some .int)) (fr := 7) (lo := 153) (as := [gi a1, gi x24]) (st := []) (g_no) rfl (fun _ _ _ e => tX1_weightsOn hs e) (fun K _ _ _ hq hM R e1 e2 => g_runV (M := mX1_slope) (pc := 139) (y := yX1_weightsOn) (bytes := cX1_weightsOn) (maxL := 5) (ret := (some .int)) (fr := 7) (lo := 153) (as := [gi a1, gi x24]) (st := []) hq (C := "FlareSlopes") rfl gy_X1_weightsOn (gbl rfl) (gbl rfl) (gbl rfl) q3067 q3069 qs43 dX1_slope_139 K hM R e1 e2) fun v27 h28 => ?_
      refine g_goto (pc := 142) (tgt := 153) rfl dX1_slope_142 ?_
      exact g_ireturn (pc := 153) rfl dX1_slope_153
    refine g_icmp_ne (pc := 131) (tgt := 138) rfl dX1_slope_131 ?_ ?_
    rotate_left
    · refine g_iconst (pc := 138) (v := (0 : Int32)) ic_0 dX1_slope_138 ?_
      exact g_sub [] rfl (Hj26 (0 : Int32) h2)
    refine g_iconst (pc := 134) (v := (1 : Int32)) ic_1 dX1_slope_134 ?_
    refine g_goto (pc := 135) (tgt := 139) rfl dX1_slope_135 ?_
    exact g_sub [] rfl (Hj26 (1 : Int32) h2)
  · refine g_aload_n (pc := 126) (x := a0) 1 rfl rfl dX1_slope_126 ?_
    refine g_iload_n (pc := 127) (x := a1) 2 rfl rfl dX1_slope_127 ?_
    refine g_iload_n (pc := 128) (x := a2) 3 rfl rfl dX1_slope_128 ?_
    refine g_bipush (pc := 129) (v := (7 : Int32)) bc_7 dX1_slope_129 ?_
    refine g_join 139 (fun (x30 : Int32) => []) (fun (x30 : Int32) => [gi x30, gi a1, gr a0]) (fun x30 h31 => ?_) (fun j32 Hj32 => ?_)
    · refine g_bVi (pc := 139) (y := yX1_weightsOn) (ws := ws_ yX1_weightsOn cX1_weightsOn 5 (some .int)) (fr := 7) (lo := 153) (as := [gi a1, gi x30]) (st := []) (g_no) rfl (fun _ _ _ e => tX1_weightsOn hs e) (fun K _ _ _ hq hM R e1 e2 => g_runV (M := mX1_slope) (pc := 139) (y := yX1_weightsOn) (bytes := cX1_weightsOn) (maxL := 5) (ret := (some .int)) (fr := 7) (lo := 153) (as := [gi a1, gi x30]) (st := []) hq (C := "FlareSlopes") rfl gy_X1_weightsOn (gbl rfl) (gbl rfl) (gbl rfl) q3067 q3069 qs43 dX1_slope_139 K hM R e1 e2) fun v33 h34 => ?_
      refine g_goto (pc := 142) (tgt := 153) rfl dX1_slope_142 ?_
      exact g_ireturn (pc := 153) rfl dX1_slope_153
    refine g_icmp_ne (pc := 131) (tgt := 138) rfl dX1_slope_131 ?_ ?_
    rotate_left
    · refine g_iconst (pc := 138) (v := (0 : Int32)) ic_0 dX1_slope_138 ?_
      exact g_sub [] rfl (Hj32 (0 : Int32) h2)
    refine g_iconst (pc := 134) (v := (1 : Int32)) ic_1 dX1_slope_134 ?_
    refine g_goto (pc := 135) (tgt := 139) rfl dX1_slope_135 ?_
    exact g_sub [] rfl (Hj32 (1 : Int32) h2)
/-! FlareSlopesLaw.slope(LFlareSlopes;II[J)I -/
noncomputable def sX0_slope (G : GG) (N : Nat) (a0 : Option Nat) (a1 : Int32) (a2 : Int32) (a3 : Option Nat) (h : Hp) : Out (Int32) :=
  bVX h a0 3 (fun q4 => sX1_slope G N (some q4) a1 a2 h) (fun v1 h2 =>
  gSl G h2 a3 3 (0 : Int32) (v1.toInt64) fun h3 =>
  some (.inl (0 : Int32), h3)) fun q5 h6 =>
  gSw h6 (some q5) 0 (some (.inl (1 : Int32), h6)) (gSw h6 (some q5) 1 (some (.inl (3 : Int32), h6)) (gSw h6 (some q5) 2 (some (.inl (2 : Int32), h6)) (none)))
abbrev mX0_slope : MI := (RX0, cX0_slope, 5, (some .int), [(0, 10, 13, 21), (0, 10, 17, 13), (0, 10, 21, 15)], 10, 200, "slope")
theorem tX0_slope {G : GG} {l : Launch} (hs : l.stackTraces = false) {N : Nat} {a0 : Option Nat} {a1 : Int32} {a2 : Int32} {a3 : Option Nat} {h : Hp} {r : Int32 ⊕ Nat} {hf : Hp} (ho : sX0_slope G N a0 a1 a2 a3 h = some (r, hf)) : gMet G l yX0_slope (wsW_ yX0_slope cX0_slope 5 (some .int) [(0, 10, 13, 21), (0, 10, 17, 13), (0, 10, 21, 15)]) 10 200 [gr a0, gi a1, gi a2, gr a3] h cvI r hf := by
  refine gMet.ofW ho hs (plainFor_of_name pn_X0) rfl rfl (gbl rfl) fun X => ?_
  show gT G l X mX0_slope cvI r hf 0 [(0, gr a0), (1, gi a1), (2, gi a2), (3, gr a3)] [] h (sX0_slope G N a0 a1 a2 a3 h)
  delta sX0_slope
  refine g_aload_n (pc := 0) (x := a3) 3 rfl rfl dX0_slope_0 ?_
  refine g_iconst (pc := 1) (v := (0 : Int32)) ic_0 dX0_slope_1 ?_
  refine g_aload_n (pc := 2) (x := a0) 0 rfl rfl dX0_slope_2 ?_
  refine g_iload_n (pc := 3) (x := a1) 1 rfl rfl dX0_slope_3 ?_
  refine g_iload_n (pc := 4) (x := a2) 2 rfl rfl dX0_slope_4 ?_
  refine g_bVXi (pc := 5) (y := yX1_slope) (ws := ws_ yX1_slope cX1_slope 4 (some .int)) (fr := 9) (lo := 177) (as := [gi a1, gi a2]) (st := [gi (0 : Int32), gr a3]) rfl (fun _ _ _ e => tX1_slope hs e) (fun K _ _ _ hq hM R e1 e2 => g_runV (M := mX0_slope) (pc := 5) (y := yX1_slope) (bytes := cX1_slope) (maxL := 4) (ret := (some .int)) (fr := 9) (lo := 177) (as := [gi a1, gi a2]) (st := [gi (0 : Int32), gr a3]) hq (C := "FlareSlopes") rfl gy_X1_slope (gbl rfl) (gbl rfl) (gbl rfl) q3040 q3041 q3042 dX0_slope_5 K hM R e1 e2) (fun v1 h2 => ?_) (fun q5 h6 => ?_)
  · refine g_i2l (pc := 8) dX0_slope_8 ?_
    refine g_lastore (pc := 9) rfl dX0_slope_9 fun h3 => ?_
    refine g_goto (pc := 10) (tgt := 25) rfl dX0_slope_10 ?_
    refine g_iconst (pc := 25) (v := (0 : Int32)) ic_0 dX0_slope_25 ?_
    exact g_ireturn (pc := 26) rfl dX0_slope_26
  refine g_catch (E := "java/lang/IllegalStateException") [] ⟨0, 10, 13, 21⟩ [⟨0, 10, 17, 13⟩, ⟨0, 10, 21, 15⟩] rfl rfl (List.forall_mem_nil _) (by decide +kernel) (by decide +kernel) q1425 q1439 ?_ ?_
  · refine g_astore (pc := 13) (lv' := []) [] rfl (gblt rfl) dX0_slope_13 ?_
    refine g_iconst (pc := 15) (v := (1 : Int32)) ic_1 dX0_slope_15 ?_
    exact g_ireturn (pc := 16) rfl dX0_slope_16
  refine g_catch (E := "java/lang/IllegalArgumentException") [⟨0, 10, 13, 21⟩, ⟨0, 10, 17, 13⟩] ⟨0, 10, 21, 15⟩ [] rfl rfl (List.forall_mem_cons.mpr ⟨Or.inr ⟨by decide +kernel, _, q1425, ncl_java_lang_IllegalArgumentException_java_lang_IllegalStateException⟩, List.forall_mem_cons.mpr ⟨Or.inr ⟨by decide +kernel, _, q325, ncl_java_lang_IllegalArgumentException_java_lang_IndexOutOfBoundsException⟩, List.forall_mem_nil _⟩⟩) (by decide +kernel) (by decide +kernel) q404 q751 ?_ ?_
  · refine g_astore (pc := 21) (lv' := []) [] rfl (gblt rfl) dX0_slope_21 ?_
    refine g_iconst (pc := 23) (v := (3 : Int32)) ic_3 dX0_slope_23 ?_
    exact g_ireturn (pc := 24) rfl dX0_slope_24
  refine g_catch (E := "java/lang/IndexOutOfBoundsException") [⟨0, 10, 13, 21⟩] ⟨0, 10, 17, 13⟩ [⟨0, 10, 21, 15⟩] rfl rfl (List.forall_mem_cons.mpr ⟨Or.inr ⟨by decide +kernel, _, q1425, ncl_java_lang_IndexOutOfBoundsException_java_lang_IllegalStateException⟩, List.forall_mem_nil _⟩) (by decide +kernel) (by decide +kernel) q325 q418 ?_ ?_
  · refine g_astore (pc := 17) (lv' := []) [] rfl (gblt rfl) dX0_slope_17 ?_
    refine g_iconst (pc := 19) (v := (2 : Int32)) ic_2 dX0_slope_19 ?_
    exact g_ireturn (pc := 20) rfl dX0_slope_20
  exact g_noneX
/-! FlareSlopesModel.isSlope(I)Z -/
noncomputable def sX2_isSlope (G : GG) (N : Nat) (a0 : Option Nat) (a1 : Int32) (h : Hp) : Out (Int32) :=
  gFr h a0 18 1 fun v1 =>
  gAi h v1 0 (7 : Int32) fun v2 =>
  bnd (sX2_in G N a1 (0 : Int32) (v2 - (1 : Int32)) h) fun v3 h4 =>
  gRtZ v3 h4
abbrev mX2_isSlope : MI := (RX2, cX2_isSlope, 2, (some .boolean), [], 1, 22, "isSlope")
theorem tX2_isSlope {G : GG} {l : Launch} (hs : l.stackTraces = false) {N : Nat} {a0 : Option Nat} {a1 : Int32} {h : Hp} {r : Int32 ⊕ Nat} {hf : Hp} (ho : sX2_isSlope G N a0 a1 h = some (r, hf)) : gMet G l yX2_isSlope (ws_ yX2_isSlope cX2_isSlope 2 (some .boolean)) 1 22 [gr a0, gi a1] h cvI r hf := by
  refine gMet.of ho hs (plainFor_of_name pn_X2) rfl rfl (gbl rfl) fun X => ?_
  show gT G l X mX2_isSlope cvI r hf 0 [(0, gr a0), (1, gi a1)] [] h (sX2_isSlope G N a0 a1 h)
  delta sX2_isSlope
  refine g_iload_n (pc := 0) (x := a1) 1 rfl rfl dX2_isSlope_0 ?_
  refine g_iconst (pc := 1) (v := (0 : Int32)) ic_0 dX2_isSlope_1 ?_
  refine g_aload_n (pc := 2) (x := a0) 0 rfl rfl dX2_isSlope_2 ?_
  refine g_getfr (pc := 3) k_18 (gblt rfl) lk_X2_9_18 dX2_isSlope_3 fun v1 => ?_
  refine g_bipush (pc := 6) (v := (7 : Int32)) bc_7 dX2_isSlope_6 ?_
  refine g_iaload (pc := 8) rfl dX2_isSlope_8 fun v2 => ?_
  refine g_iconst (pc := 9) (v := (1 : Int32)) ic_1 dX2_isSlope_9 ?_
  refine g_isub (pc := 10) dX2_isSlope_10 ?_
  refine g_bi (pc := 11) (y := yX2_in) (ws := ws_ yX2_in cX2_in 3 (some .boolean)) (fr := 0) (lo := 0) (as := [gi a1, gi (0 : Int32), gi (v2 - (1 : Int32))]) (st := []) (g_no) rfl (fun _ _ e => tX2_in hs e) (fun K _ _ hM R e1 e2 => g_runS (M := mX2_isSlope) (pc := 11) (y := yX2_in) (bytes := cX2_in) (maxL := 3) (ret := (some .boolean)) (fr := 0) (lo := 0) (as := [gi a1, gi (0 : Int32), gi (v2 - (1 : Int32))]) (st := []) gy_X2_in (gbl rfl) (gbl rfl) (gbl rfl) q4037 q4038 dX2_isSlope_11 K hM R e1 e2) fun v3 h4 => ?_
  exact g_zreturn (pc := 14) rfl dX2_isSlope_14
/-! FlareSlopesModel.has(II)Z -/
noncomputable def sX2_has (G : GG) (N : Nat) (a0 : Int32) (a1 : Int32) (h : Hp) : Out (Int32) :=
  if ((a0 >>> (a1 &&& 31)) &&& (1 : Int32)) = (1 : Int32) then (gRtZ (1 : Int32) h)
  else gRtZ (0 : Int32) h
abbrev mX2_has : MI := (RX2, cX2_has, 2, (some .boolean), [], 0, 0, "has")
theorem tX2_has {G : GG} {l : Launch} (hs : l.stackTraces = false) {N : Nat} {a0 : Int32} {a1 : Int32} {h : Hp} {r : Int32 ⊕ Nat} {hf : Hp} (ho : sX2_has G N a0 a1 h = some (r, hf)) : gMet G l yX2_has (ws_ yX2_has cX2_has 2 (some .boolean)) 0 0 [gi a0, gi a1] h cvI r hf := by
  refine gMet.of ho hs (plainFor_of_name pn_X2) rfl rfl (gbl rfl) fun X => ?_
  show gT G l X mX2_has cvI r hf 0 [(0, gi a0), (1, gi a1)] [] h (sX2_has G N a0 a1 h)
  delta sX2_has
  refine g_iload_n (pc := 0) (x := a0) 0 rfl rfl dX2_has_0 ?_
  refine g_iload_n (pc := 1) (x := a1) 1 rfl rfl dX2_has_1 ?_
  refine g_ishr (pc := 2) dX2_has_2 ?_
  refine g_iconst (pc := 3) (v := (1 : Int32)) ic_1 dX2_has_3 ?_
  refine g_iand (pc := 4) dX2_has_4 ?_
  refine g_iconst (pc := 5) (v := (1 : Int32)) ic_1 dX2_has_5 ?_
  refine g_icmp_ne (pc := 6) (tgt := 13) rfl dX2_has_6 ?_ ?_
  rotate_left
  · refine g_iconst (pc := 13) (v := (0 : Int32)) ic_0 dX2_has_13 ?_
    exact g_zreturn (pc := 14) rfl dX2_has_14
  refine g_iconst (pc := 9) (v := (1 : Int32)) ic_1 dX2_has_9 ?_
  refine g_goto (pc := 10) (tgt := 14) rfl dX2_has_10 ?_
  exact g_zreturn (pc := 14) rfl dX2_has_14
/-! FlareSlopesModel.holds(II)Z -/
noncomputable def sX2_holds (G : GG) (N : Nat) (a0 : Option Nat) (a1 : Int32) (a2 : Int32) (h : Hp) : Out (Int32) :=
  gFr h a0 18 1 fun v1 =>
  gAi h v1 0 ((138 : Int32) + a1) fun v2 =>
  bnd (sX2_has G N v2 a2 h) fun v3 h4 =>
  gRtZ v3 h4
abbrev mX2_holds : MI := (RX2, cX2_holds, 3, (some .boolean), [], 1, 21, "holds")
theorem tX2_holds {G : GG} {l : Launch} (hs : l.stackTraces = false) {N : Nat} {a0 : Option Nat} {a1 : Int32} {a2 : Int32} {h : Hp} {r : Int32 ⊕ Nat} {hf : Hp} (ho : sX2_holds G N a0 a1 a2 h = some (r, hf)) : gMet G l yX2_holds (ws_ yX2_holds cX2_holds 3 (some .boolean)) 1 21 [gr a0, gi a1, gi a2] h cvI r hf := by
  refine gMet.of ho hs (plainFor_of_name pn_X2) rfl rfl (gbl rfl) fun X => ?_
  show gT G l X mX2_holds cvI r hf 0 [(0, gr a0), (1, gi a1), (2, gi a2)] [] h (sX2_holds G N a0 a1 a2 h)
  delta sX2_holds
  refine g_aload_n (pc := 0) (x := a0) 0 rfl rfl dX2_holds_0 ?_
  refine g_getfr (pc := 1) k_18 (gblt rfl) lk_X2_9_18 dX2_holds_1 fun v1 => ?_
  refine g_sipush (pc := 4) (v := (138 : Int32)) sc_138 dX2_holds_4 ?_
  refine g_iload_n (pc := 7) (x := a1) 1 rfl rfl dX2_holds_7 ?_
  refine g_iadd (pc := 8) dX2_holds_8 ?_
  refine g_iaload (pc := 9) rfl dX2_holds_9 fun v2 => ?_
  refine g_iload_n (pc := 10) (x := a2) 2 rfl rfl dX2_holds_10 ?_
  refine g_bi (pc := 11) (y := yX2_has) (ws := ws_ yX2_has cX2_has 2 (some .boolean)) (fr := 0) (lo := 0) (as := [gi v2, gi a2]) (st := []) (g_no) rfl (fun _ _ e => tX2_has hs e) (fun K _ _ hM R e1 e2 => g_runS (M := mX2_holds) (pc := 11) (y := yX2_has) (bytes := cX2_has) (maxL := 2) (ret := (some .boolean)) (fr := 0) (lo := 0) (as := [gi v2, gi a2]) (st := []) gy_X2_has (gbl rfl) (gbl rfl) (gbl rfl) q4257 q4258 dX2_holds_11 K hM R e1 e2) fun v3 h4 => ?_
  exact g_zreturn (pc := 14) rfl dX2_holds_14
/-! FlareSlopesModel.closersOf(I)I -/
noncomputable def bX2_closersOf_4 (G : GG) (N : Nat) (a0 : Option Nat) (a1 : Int32) (w3 : (Int32 × Int32) → Hp → Out (Int32)) (x1 : Int32 × Int32) (h2 : Hp) : Out (Int32) :=
  gFr h2 a0 18 1 fun v4 =>
  gAi h2 v4 0 (6 : Int32) fun v5 =>
  if v5 ≤ x1.2 then (some (.inl x1.1, h2))
  else bV h2 a0 18 (fun q12 => sX2_holds G N (some q12) x1.2 a1 h2) fun v6 h7 =>
  gJ (fun (x8 : Int32) (h9 : Hp) =>
  gLet (x1.1 ||| x8) fun v11 =>
  w3 (v11, x1.2 + (1 : Int32)) h9) fun j10 =>
  if v6 = 0 then (j10 (0 : Int32) h7)
  else j10 ((1 : Int32) <<< (x1.2 &&& 31)) h7
noncomputable def sX2_closersOf (G : GG) (N : Nat) (a0 : Option Nat) (a1 : Int32) (h : Hp) : Out (Int32) :=
  gLp (bX2_closersOf_4 G N a0 a1) N ((0 : Int32), (0 : Int32)) h
abbrev mX2_closersOf : MI := (RX2, cX2_closersOf, 4, (some .int), [], 2, 43, "closersOf")
theorem tX2_closersOf {G : GG} {l : Launch} (hs : l.stackTraces = false) {N : Nat} {a0 : Option Nat} {a1 : Int32} {h : Hp} {r : Int32 ⊕ Nat} {hf : Hp} (ho : sX2_closersOf G N a0 a1 h = some (r, hf)) : gMet G l yX2_closersOf (ws_ yX2_closersOf cX2_closersOf 4 (some .int)) 2 43 [gr a0, gi a1] h cvI r hf := by
  refine gMet.of ho hs (plainFor_of_name pn_X2) rfl rfl (gbl rfl) fun X => ?_
  show gT G l X mX2_closersOf cvI r hf 0 [(0, gr a0), (1, gi a1)] [] h (sX2_closersOf G N a0 a1 h)
  delta sX2_closersOf
  refine g_iconst (pc := 0) (v := (0 : Int32)) ic_0 dX2_closersOf_0 ?_
  refine g_istore_n (pc := 1) (lv' := [(2, gi (0 : Int32)), (0, gr a0), (1, gi a1)]) [0, 1, 2] rfl rfl (gblt rfl) dX2_closersOf_1 ?_
  refine g_iconst (pc := 2) (v := (0 : Int32)) ic_0 dX2_closersOf_2 ?_
  refine g_istore_n (pc := 3) (lv' := [(3, gi (0 : Int32)), (2, gi (0 : Int32)), (0, gr a0), (1, gi a1)]) [0, 1, 2, 3] rfl rfl (gblt rfl) dX2_closersOf_3 ?_
  refine g_sub (lv' := [(0, gr a0), (1, gi a1), (2, gi (0 : Int32)), (3, gi (0 : Int32))]) [2, 3, 1, 0] rfl ?_
  refine g_loop (pc := 4) (fun (x1 : Int32 × Int32) => [(0, gr a0), (1, gi a1), (2, gi x1.1), (3, gi x1.2)]) (fun (_ : Int32 × Int32) => []) (fun w3 Hw3 x1 h2 => ?_) N ((0 : Int32), (0 : Int32)) h
  delta bX2_closersOf_4
  refine g_iload_n (pc := 4) (x := x1.2) 3 rfl rfl dX2_closersOf_4 ?_
  refine g_aload_n (pc := 5) (x := a0) 0 rfl rfl dX2_closersOf_5 ?_
  refine g_getfr (pc := 6) k_18 (gblt rfl) lk_X2_9_18 dX2_closersOf_6 fun v4 => ?_
  refine g_bipush (pc := 9) (v := (6 : Int32)) bc_6 dX2_closersOf_9 ?_
  refine g_iaload (pc := 11) rfl dX2_closersOf_11 fun v5 => ?_
  refine g_icmp_ge (pc := 12) (tgt := 40) rfl dX2_closersOf_12 ?_ ?_
  · refine g_iload_n (pc := 40) (x := x1.1) 2 rfl rfl dX2_closersOf_40 ?_
    exact g_ireturn (pc := 41) rfl dX2_closersOf_41
  refine g_iload_n (pc := 15) (x := x1.1) 2 rfl rfl dX2_closersOf_15 ?_
  refine g_aload_n (pc := 16) (x := a0) 0 rfl rfl dX2_closersOf_16 ?_
  refine g_iload_n (pc := 17) (x := x1.2) 3 rfl rfl dX2_closersOf_17 ?_
  refine g_iload_n (pc := 18) (x := a1) 1 rfl rfl dX2_closersOf_18 ?_
  refine g_bVi (pc := 19) (y := yX2_holds) (ws := ws_ yX2_holds cX2_holds 3 (some .boolean)) (fr := 1) (lo := 21) (as := [gi x1.2, gi a1]) (st := [gi x1.1]) (g_no) rfl (fun _ _ _ e => tX2_holds hs e) (fun K _ _ _ hq hM R e1 e2 => g_runV (M := mX2_closersOf) (pc := 19) (y := yX2_holds) (bytes := cX2_holds) (maxL := 3) (ret := (some .boolean)) (fr := 1) (lo := 21) (as := [gi x1.2, gi a1]) (st := [gi x1.1]) hq (C := "FlareSlopesModel") rfl gy_X2_holds (gbl rfl) (gbl rfl) (gbl rfl) q4253 q4255 qs95 dX2_closersOf_19 K hM R e1 e2) fun v6 h7 => ?_
  refine g_join 32 (fun (x8 : Int32) => [(0, gr a0), (1, gi a1), (3, gi x1.2)]) (fun (x8 : Int32) => [gi x8, gi x1.1]) (fun x8 h9 => ?_) (fun j10 Hj10 => ?_)
  · refine g_ior (pc := 32) dX2_closersOf_32 ?_
    refine g_leti fun v11 => ?_
    refine g_istore_n (pc := 33) (lv' := [(2, gi v11), (0, gr a0), (1, gi a1), (3, gi x1.2)]) [0, 1, 2, 3] rfl rfl (gblt rfl) dX2_closersOf_33 ?_
    refine g_iinc (pc := 34) (v := x1.2 + (1 : Int32)) 3 rfl (ii_1 _) (lv' := [(3, gi (x1.2 + (1 : Int32))), (2, gi v11), (0, gr a0), (1, gi a1)]) [0, 1, 2, 3] rfl (gblt rfl) dX2_closersOf_34 ?_
    refine g_goto (pc := 37) (tgt := 4) rfl dX2_closersOf_37 ?_
    exact g_sub [2, 3, 1, 0] rfl (Hw3 (v11, x1.2 + (1 : Int32)) h9)
  refine g_if_eq (pc := 22) (tgt := 31) rfl dX2_closersOf_22 ?_ ?_
  · refine g_iconst (pc := 31) (v := (0 : Int32)) ic_0 dX2_closersOf_31 ?_
    exact g_sub [0, 1, 3] rfl (Hj10 (0 : Int32) h7)
  refine g_iconst (pc := 25) (v := (1 : Int32)) ic_1 dX2_closersOf_25 ?_
  refine g_iload_n (pc := 26) (x := x1.2) 3 rfl rfl dX2_closersOf_26 ?_
  refine g_ishl (pc := 27) dX2_closersOf_27 ?_
  refine g_goto (pc := 28) (tgt := 32) rfl dX2_closersOf_28 ?_
  exact g_sub [0, 1, 3] rfl (Hj10 ((1 : Int32) <<< (x1.2 &&& 31)) h7)
/-! FlareSlopesModel.bits(I)I -/
noncomputable def bX2_bits_4 (G : GG) (N : Nat) (a0 : Int32) (w3 : (Int32 × Int32) → Hp → Out (Int32)) (x1 : Int32 × Int32) (h2 : Hp) : Out (Int32) :=
  if (10 : Int32) ≤ x1.2 then (some (.inl x1.1, h2))
  else gLet (x1.1 + ((a0 >>> (x1.2 &&& 31)) &&& (1 : Int32))) fun v4 =>
  w3 (v4, x1.2 + (1 : Int32)) h2
noncomputable def sX2_bits (G : GG) (N : Nat) (a0 : Int32) (h : Hp) : Out (Int32) :=
  gLp (bX2_bits_4 G N a0) N ((0 : Int32), (0 : Int32)) h
abbrev mX2_bits : MI := (RX2, cX2_bits, 3, (some .int), [], 0, 0, "bits")
theorem tX2_bits {G : GG} {l : Launch} (hs : l.stackTraces = false) {N : Nat} {a0 : Int32} {h : Hp} {r : Int32 ⊕ Nat} {hf : Hp} (ho : sX2_bits G N a0 h = some (r, hf)) : gMet G l yX2_bits (ws_ yX2_bits cX2_bits 3 (some .int)) 0 0 [gi a0] h cvI r hf := by
  refine gMet.of ho hs (plainFor_of_name pn_X2) rfl rfl (gbl rfl) fun X => ?_
  show gT G l X mX2_bits cvI r hf 0 [(0, gi a0)] [] h (sX2_bits G N a0 h)
  delta sX2_bits
  refine g_iconst (pc := 0) (v := (0 : Int32)) ic_0 dX2_bits_0 ?_
  refine g_istore_n (pc := 1) (lv' := [(1, gi (0 : Int32)), (0, gi a0)]) [0, 1] rfl rfl (gblt rfl) dX2_bits_1 ?_
  refine g_iconst (pc := 2) (v := (0 : Int32)) ic_0 dX2_bits_2 ?_
  refine g_istore_n (pc := 3) (lv' := [(2, gi (0 : Int32)), (1, gi (0 : Int32)), (0, gi a0)]) [0, 1, 2] rfl rfl (gblt rfl) dX2_bits_3 ?_
  refine g_sub (lv' := [(0, gi a0), (1, gi (0 : Int32)), (2, gi (0 : Int32))]) [2, 1, 0] rfl ?_
  refine g_loop (pc := 4) (fun (x1 : Int32 × Int32) => [(0, gi a0), (1, gi x1.1), (2, gi x1.2)]) (fun (_ : Int32 × Int32) => []) (fun w3 Hw3 x1 h2 => ?_) N ((0 : Int32), (0 : Int32)) h
  delta bX2_bits_4
  refine g_iload_n (pc := 4) (x := x1.2) 2 rfl rfl dX2_bits_4 ?_
  refine g_bipush (pc := 5) (v := (10 : Int32)) bc_10 dX2_bits_5 ?_
  refine g_icmp_ge (pc := 7) (tgt := 24) rfl dX2_bits_7 ?_ ?_
  · refine g_iload_n (pc := 24) (x := x1.1) 1 rfl rfl dX2_bits_24 ?_
    exact g_ireturn (pc := 25) rfl dX2_bits_25
  refine g_iload_n (pc := 10) (x := x1.1) 1 rfl rfl dX2_bits_10 ?_
  refine g_iload_n (pc := 11) (x := a0) 0 rfl rfl dX2_bits_11 ?_
  refine g_iload_n (pc := 12) (x := x1.2) 2 rfl rfl dX2_bits_12 ?_
  refine g_ishr (pc := 13) dX2_bits_13 ?_
  refine g_iconst (pc := 14) (v := (1 : Int32)) ic_1 dX2_bits_14 ?_
  refine g_iand (pc := 15) dX2_bits_15 ?_
  refine g_iadd (pc := 16) dX2_bits_16 ?_
  refine g_leti fun v4 => ?_
  refine g_istore_n (pc := 17) (lv' := [(1, gi v4), (0, gi a0), (2, gi x1.2)]) [0, 1, 2] rfl rfl (gblt rfl) dX2_bits_17 ?_
  refine g_iinc (pc := 18) (v := x1.2 + (1 : Int32)) 2 rfl (ii_1 _) (lv' := [(2, gi (x1.2 + (1 : Int32))), (1, gi v4), (0, gi a0)]) [0, 1, 2] rfl (gblt rfl) dX2_bits_18 ?_
  refine g_goto (pc := 21) (tgt := 4) rfl dX2_bits_21 ?_
  exact g_sub [2, 1, 0] rfl (Hw3 (v4, x1.2 + (1 : Int32)) h2)
/-! FlareSlopesModel.seers0(I)I -/
noncomputable def bX2_seers0_4 (G : GG) (N : Nat) (a0 : Option Nat) (a1 : Int32) (w3 : (Int32 × Int32) → Hp → Out (Int32)) (x1 : Int32 × Int32) (h2 : Hp) : Out (Int32) :=
  gFr h2 a0 18 1 fun v4 =>
  gAi h2 v4 0 (6 : Int32) fun v5 =>
  if v5 ≤ x1.2 then (some (.inl x1.1, h2))
  else bnd (sX2_cabinAt G N x1.2 h2) fun v6 h7 =>
  bnd (sX2_slopeAt G N a1 h7) fun v8 h9 =>
  bV h9 a0 18 (fun q16 => sX2_see G N (some q16) v6 v8 h9) fun v10 h11 =>
  gJ (fun (x12 : Int32) (h13 : Hp) =>
  gLet (x1.1 + x12) fun v15 =>
  w3 (v15, x1.2 + (1 : Int32)) h13) fun j14 =>
  if v10 = 0 then (j14 (0 : Int32) h11)
  else j14 (1 : Int32) h11
noncomputable def sX2_seers0 (G : GG) (N : Nat) (a0 : Option Nat) (a1 : Int32) (h : Hp) : Out (Int32) :=
  gLp (bX2_seers0_4 G N a0 a1) N ((0 : Int32), (0 : Int32)) h
abbrev mX2_seers0 : MI := (RX2, cX2_seers0, 4, (some .int), [], 3, 71, "seers0")
theorem tX2_seers0 {G : GG} {l : Launch} (hs : l.stackTraces = false) {N : Nat} {a0 : Option Nat} {a1 : Int32} {h : Hp} {r : Int32 ⊕ Nat} {hf : Hp} (ho : sX2_seers0 G N a0 a1 h = some (r, hf)) : gMet G l yX2_seers0 (ws_ yX2_seers0 cX2_seers0 4 (some .int)) 3 71 [gr a0, gi a1] h cvI r hf := by
  refine gMet.of ho hs (plainFor_of_name pn_X2) rfl rfl (gbl rfl) fun X => ?_
  show gT G l X mX2_seers0 cvI r hf 0 [(0, gr a0), (1, gi a1)] [] h (sX2_seers0 G N a0 a1 h)
  delta sX2_seers0
  refine g_iconst (pc := 0) (v := (0 : Int32)) ic_0 dX2_seers0_0 ?_
  refine g_istore_n (pc := 1) (lv' := [(2, gi (0 : Int32)), (0, gr a0), (1, gi a1)]) [0, 1, 2] rfl rfl (gblt rfl) dX2_seers0_1 ?_
  refine g_iconst (pc := 2) (v := (0 : Int32)) ic_0 dX2_seers0_2 ?_
  refine g_istore_n (pc := 3) (lv' := [(3, gi (0 : Int32)), (2, gi (0 : Int32)), (0, gr a0), (1, gi a1)]) [0, 1, 2, 3] rfl rfl (gblt rfl) dX2_seers0_3 ?_
  refine g_sub (lv' := [(0, gr a0), (1, gi a1), (2, gi (0 : Int32)), (3, gi (0 : Int32))]) [2, 3, 1, 0] rfl ?_
  refine g_loop (pc := 4) (fun (x1 : Int32 × Int32) => [(0, gr a0), (1, gi a1), (2, gi x1.1), (3, gi x1.2)]) (fun (_ : Int32 × Int32) => []) (fun w3 Hw3 x1 h2 => ?_) N ((0 : Int32), (0 : Int32)) h
  delta bX2_seers0_4
  refine g_iload_n (pc := 4) (x := x1.2) 3 rfl rfl dX2_seers0_4 ?_
  refine g_aload_n (pc := 5) (x := a0) 0 rfl rfl dX2_seers0_5 ?_
  refine g_getfr (pc := 6) k_18 (gblt rfl) lk_X2_9_18 dX2_seers0_6 fun v4 => ?_
  refine g_bipush (pc := 9) (v := (6 : Int32)) bc_6 dX2_seers0_9 ?_
  refine g_iaload (pc := 11) rfl dX2_seers0_11 fun v5 => ?_
  refine g_icmp_ge (pc := 12) (tgt := 44) rfl dX2_seers0_12 ?_ ?_
  · refine g_iload_n (pc := 44) (x := x1.1) 2 rfl rfl dX2_seers0_44 ?_
    exact g_ireturn (pc := 45) rfl dX2_seers0_45
  refine g_iload_n (pc := 15) (x := x1.1) 2 rfl rfl dX2_seers0_15 ?_
  refine g_aload_n (pc := 16) (x := a0) 0 rfl rfl dX2_seers0_16 ?_
  refine g_iload_n (pc := 17) (x := x1.2) 3 rfl rfl dX2_seers0_17 ?_
  refine g_bi (pc := 18) (y := yX2_cabinAt) (ws := ws_ yX2_cabinAt cX2_cabinAt 1 (some .int)) (fr := 0) (lo := 0) (as := [gi x1.2]) (st := [gr a0, gi x1.1]) (g_no) rfl (fun _ _ e => tX2_cabinAt hs e) (fun K _ _ hM R e1 e2 => g_runS (M := mX2_seers0) (pc := 18) (y := yX2_cabinAt) (bytes := cX2_cabinAt) (maxL := 1) (ret := (some .int)) (fr := 0) (lo := 0) (as := [gi x1.2]) (st := [gr a0, gi x1.1]) gy_X2_cabinAt (gbl rfl) (gbl rfl) (gbl rfl) q4179 q4180 dX2_seers0_18 K hM R e1 e2) fun v6 h7 => ?_
  refine g_iload_n (pc := 21) (x := a1) 1 rfl rfl dX2_seers0_21 ?_
  refine g_bi (pc := 22) (y := yX2_slopeAt) (ws := ws_ yX2_slopeAt cX2_slopeAt 1 (some .int)) (fr := 0) (lo := 0) (as := [gi a1]) (st := [gi v6, gr a0, gi x1.1]) (g_no) rfl (fun _ _ e => tX2_slopeAt hs e) (fun K _ _ hM R e1 e2 => g_runS (M := mX2_seers0) (pc := 22) (y := yX2_slopeAt) (bytes := cX2_slopeAt) (maxL := 1) (ret := (some .int)) (fr := 0) (lo := 0) (as := [gi a1]) (st := [gi v6, gr a0, gi x1.1]) gy_X2_slopeAt (gbl rfl) (gbl rfl) (gbl rfl) q4230 q4231 dX2_seers0_22 K hM R e1 e2) fun v8 h9 => ?_
  refine g_bVi (pc := 25) (y := yX2_see) (ws := ws_ yX2_see cX2_see 6 (some .boolean)) (fr := 2) (lo := 46) (as := [gi v6, gi v8]) (st := [gi x1.1]) (g_no) rfl (fun _ _ _ e => tX2_see hs e) (fun K _ _ _ hq hM R e1 e2 => g_runV (M := mX2_seers0) (pc := 25) (y := yX2_see) (bytes := cX2_see) (maxL := 6) (ret := (some .boolean)) (fr := 2) (lo := 46) (as := [gi v6, gi v8]) (st := [gi x1.1]) hq (C := "FlareSlopesModel") rfl gy_X2_see (gbl rfl) (gbl rfl) (gbl rfl) q4182 q4184 qs82 dX2_seers0_25 K hM R e1 e2) fun v10 h11 => ?_
  refine g_join 36 (fun (x12 : Int32) => [(0, gr a0), (1, gi a1), (3, gi x1.2)]) (fun (x12 : Int32) => [gi x12, gi x1.1]) (fun x12 h13 => ?_) (fun j14 Hj14 => ?_)
  · refine g_iadd (pc := 36) dX2_seers0_36 ?_
    refine g_leti fun v15 => ?_
    refine g_istore_n (pc := 37) (lv' := [(2, gi v15), (0, gr a0), (1, gi a1), (3, gi x1.2)]) [0, 1, 2, 3] rfl rfl (gblt rfl) dX2_seers0_37 ?_
    refine g_iinc (pc := 38) (v := x1.2 + (1 : Int32)) 3 rfl (ii_1 _) (lv' := [(3, gi (x1.2 + (1 : Int32))), (2, gi v15), (0, gr a0), (1, gi a1)]) [0, 1, 2, 3] rfl (gblt rfl) dX2_seers0_38 ?_
    refine g_goto (pc := 41) (tgt := 4) rfl dX2_seers0_41 ?_
    exact g_sub [2, 3, 1, 0] rfl (Hw3 (v15, x1.2 + (1 : Int32)) h13)
  refine g_if_eq (pc := 28) (tgt := 35) rfl dX2_seers0_28 ?_ ?_
  · refine g_iconst (pc := 35) (v := (0 : Int32)) ic_0 dX2_seers0_35 ?_
    exact g_sub [0, 1, 3] rfl (Hj14 (0 : Int32) h11)
  refine g_iconst (pc := 31) (v := (1 : Int32)) ic_1 dX2_seers0_31 ?_
  refine g_goto (pc := 32) (tgt := 36) rfl dX2_seers0_32 ?_
  exact g_sub [0, 1, 3] rfl (Hj14 (1 : Int32) h11)
/-! FlareSlopesModel.votesOn(I)I -/
noncomputable def bX2_votesOn_8 (G : GG) (N : Nat) (a0 : Option Nat) (w4 : (Int32 × Int32) → Hp → Out (Int32)) (x2 : Int32 × Int32) (h3 : Hp) : Out (Int32) :=
  if (1058 : Int32) ≤ x2.2 then (some (.inl x2.1, h3))
  else gFr h3 a0 18 1 fun v5 =>
  gAi h3 v5 0 x2.2 fun v6 =>
  gJ (fun (x7 : Int32) (h8 : Hp) =>
  gLet (x2.1 + x7) fun v10 =>
  w4 (v10, x2.2 + (8 : Int32)) h8) fun j9 =>
  if v6 ≤ 0 then (j9 (0 : Int32) h3)
  else j9 (1 : Int32) h3
noncomputable def sX2_votesOn (G : GG) (N : Nat) (a0 : Option Nat) (a1 : Int32) (h : Hp) : Out (Int32) :=
  gLet ((258 : Int32) + a1) fun v1 =>
  gLp (bX2_votesOn_8 G N a0) N ((0 : Int32), v1) h
abbrev mX2_votesOn : MI := (RX2, cX2_votesOn, 4, (some .int), [], 0, 0, "votesOn")
theorem tX2_votesOn {G : GG} {l : Launch} (hs : l.stackTraces = false) {N : Nat} {a0 : Option Nat} {a1 : Int32} {h : Hp} {r : Int32 ⊕ Nat} {hf : Hp} (ho : sX2_votesOn G N a0 a1 h = some (r, hf)) : gMet G l yX2_votesOn (ws_ yX2_votesOn cX2_votesOn 4 (some .int)) 0 0 [gr a0, gi a1] h cvI r hf := by
  refine gMet.of ho hs (plainFor_of_name pn_X2) rfl rfl (gbl rfl) fun X => ?_
  show gT G l X mX2_votesOn cvI r hf 0 [(0, gr a0), (1, gi a1)] [] h (sX2_votesOn G N a0 a1 h)
  delta sX2_votesOn
  refine g_iconst (pc := 0) (v := (0 : Int32)) ic_0 dX2_votesOn_0 ?_
  refine g_istore_n (pc := 1) (lv' := [(2, gi (0 : Int32)), (0, gr a0), (1, gi a1)]) [0, 1, 2] rfl rfl (gblt rfl) dX2_votesOn_1 ?_
  refine g_sipush (pc := 2) (v := (258 : Int32)) sc_258 dX2_votesOn_2 ?_
  refine g_iload_n (pc := 5) (x := a1) 2 rfl rfl dX2_votesOn_5 ?_
  refine g_iadd (pc := 6) dX2_votesOn_6 ?_
  refine g_leti fun v1 => ?_
  refine g_istore_n (pc := 7) (lv' := [(3, gi v1), (2, gi (0 : Int32)), (0, gr a0)]) [0, 1, 2] rfl rfl (gblt rfl) dX2_votesOn_7 ?_
  refine g_sub (lv' := [(0, gr a0), (2, gi (0 : Int32)), (3, gi v1)]) [2, 1, 0] rfl ?_
  refine g_loop (pc := 8) (fun (x2 : Int32 × Int32) => [(0, gr a0), (2, gi x2.1), (3, gi x2.2)]) (fun (_ : Int32 × Int32) => []) (fun w4 Hw4 x2 h3 => ?_) N ((0 : Int32), v1) h
  delta bX2_votesOn_8
  refine g_iload_n (pc := 8) (x := x2.2) 2 rfl rfl dX2_votesOn_8 ?_
  refine g_sipush (pc := 9) (v := (1058 : Int32)) sc_1058 dX2_votesOn_9 ?_
  refine g_icmp_ge (pc := 12) (tgt := 38) rfl dX2_votesOn_12 ?_ ?_
  · refine g_iload_n (pc := 38) (x := x2.1) 1 rfl rfl dX2_votesOn_38 ?_
    exact g_ireturn (pc := 39) rfl dX2_votesOn_39
  refine g_iload_n (pc := 15) (x := x2.1) 1 rfl rfl dX2_votesOn_15 ?_
  refine g_aload_n (pc := 16) (x := a0) 0 rfl rfl dX2_votesOn_16 ?_
  refine g_getfr (pc := 17) k_18 (gblt rfl) lk_X2_9_18 dX2_votesOn_17 fun v5 => ?_
  refine g_iload_n (pc := 20) (x := x2.2) 2 rfl rfl dX2_votesOn_20 ?_
  refine g_iaload (pc := 21) rfl dX2_votesOn_21 fun v6 => ?_
  refine g_join 30 (fun (x7 : Int32) => [(0, gr a0), (3, gi x2.2)]) (fun (x7 : Int32) => [gi x7, gi x2.1]) (fun x7 h8 => ?_) (fun j9 Hj9 => ?_)
  · refine g_iadd (pc := 30) dX2_votesOn_30 ?_
    refine g_leti fun v10 => ?_
    refine g_istore_n (pc := 31) (lv' := [(2, gi v10), (0, gr a0), (3, gi x2.2)]) [0, 1, 2] rfl rfl (gblt rfl) dX2_votesOn_31 ?_
    refine g_iinc (pc := 32) (v := x2.2 + (8 : Int32)) 2 rfl (ii_8 _) (lv' := [(3, gi (x2.2 + (8 : Int32))), (2, gi v10), (0, gr a0)]) [0, 1, 2] rfl (gblt rfl) dX2_votesOn_32 ?_
    refine g_goto (pc := 35) (tgt := 8) rfl dX2_votesOn_35 ?_
    exact g_sub [2, 1, 0] rfl (Hw4 (v10, x2.2 + (8 : Int32)) h8)
  refine g_if_le (pc := 22) (tgt := 29) rfl dX2_votesOn_22 ?_ ?_
  · refine g_iconst (pc := 29) (v := (0 : Int32)) ic_0 dX2_votesOn_29 ?_
    exact g_sub [0, 2] rfl (Hj9 (0 : Int32) h3)
  refine g_iconst (pc := 25) (v := (1 : Int32)) ic_1 dX2_votesOn_25 ?_
  refine g_goto (pc := 26) (tgt := 30) rfl dX2_votesOn_26 ?_
  exact g_sub [0, 2] rfl (Hj9 (1 : Int32) h3)
/-! FlareSlopesModel.far(II)I -/
noncomputable def sX2_far (G : GG) (N : Nat) (a0 : Option Nat) (a1 : Int32) (a2 : Int32) (h : Hp) : Out (Int32) :=
  gFr h a0 18 1 fun v1 =>
  bnd (sX2_cabinAt G N a1 h) fun v2 h3 =>
  gAi h3 v1 0 v2 fun v4 =>
  gFr h3 a0 18 1 fun v5 =>
  bnd (sX2_slopeAt G N a2 h3) fun v6 h7 =>
  gAi h7 v5 0 v6 fun v8 =>
  bnd (sJ14_abs G N (v4 - v8) h7) fun v9 h10 =>
  gFr h10 a0 18 1 fun v11 =>
  bnd (sX2_cabinAt G N a1 h10) fun v12 h13 =>
  gAi h13 v11 0 (v12 + (1 : Int32)) fun v14 =>
  gFr h13 a0 18 1 fun v15 =>
  bnd (sX2_slopeAt G N a2 h13) fun v16 h17 =>
  gAi h17 v15 0 (v16 + (1 : Int32)) fun v18 =>
  bnd (sJ14_abs G N (v14 - v18) h17) fun v19 h20 =>
  some (.inl (v9 + v19), h20)
abbrev mX2_far : MI := (RX2, cX2_far, 3, (some .int), [], 1, 20, "far")
theorem tX2_far {G : GG} {l : Launch} (hs : l.stackTraces = false) {N : Nat} {a0 : Option Nat} {a1 : Int32} {a2 : Int32} {h : Hp} {r : Int32 ⊕ Nat} {hf : Hp} (ho : sX2_far G N a0 a1 a2 h = some (r, hf)) : gMet G l yX2_far (ws_ yX2_far cX2_far 3 (some .int)) 1 20 [gr a0, gi a1, gi a2] h cvI r hf := by
  refine gMet.of ho hs (plainFor_of_name pn_X2) rfl rfl (gbl rfl) fun X => ?_
  show gT G l X mX2_far cvI r hf 0 [(0, gr a0), (1, gi a1), (2, gi a2)] [] h (sX2_far G N a0 a1 a2 h)
  delta sX2_far
  refine g_aload_n (pc := 0) (x := a0) 0 rfl rfl dX2_far_0 ?_
  refine g_getfr (pc := 1) k_18 (gblt rfl) lk_X2_9_18 dX2_far_1 fun v1 => ?_
  refine g_iload_n (pc := 4) (x := a1) 1 rfl rfl dX2_far_4 ?_
  refine g_bi (pc := 5) (y := yX2_cabinAt) (ws := ws_ yX2_cabinAt cX2_cabinAt 1 (some .int)) (fr := 0) (lo := 0) (as := [gi a1]) (st := [gr v1]) (g_no) rfl (fun _ _ e => tX2_cabinAt hs e) (fun K _ _ hM R e1 e2 => g_runS (M := mX2_far) (pc := 5) (y := yX2_cabinAt) (bytes := cX2_cabinAt) (maxL := 1) (ret := (some .int)) (fr := 0) (lo := 0) (as := [gi a1]) (st := [gr v1]) gy_X2_cabinAt (gbl rfl) (gbl rfl) (gbl rfl) q4179 q4180 dX2_far_5 K hM R e1 e2) fun v2 h3 => ?_
  refine g_iaload (pc := 8) rfl dX2_far_8 fun v4 => ?_
  refine g_aload_n (pc := 9) (x := a0) 0 rfl rfl dX2_far_9 ?_
  refine g_getfr (pc := 10) k_18 (gblt rfl) lk_X2_9_18 dX2_far_10 fun v5 => ?_
  refine g_iload_n (pc := 13) (x := a2) 2 rfl rfl dX2_far_13 ?_
  refine g_bi (pc := 14) (y := yX2_slopeAt) (ws := ws_ yX2_slopeAt cX2_slopeAt 1 (some .int)) (fr := 0) (lo := 0) (as := [gi a2]) (st := [gr v5, gi v4]) (g_no) rfl (fun _ _ e => tX2_slopeAt hs e) (fun K _ _ hM R e1 e2 => g_runS (M := mX2_far) (pc := 14) (y := yX2_slopeAt) (bytes := cX2_slopeAt) (maxL := 1) (ret := (some .int)) (fr := 0) (lo := 0) (as := [gi a2]) (st := [gr v5, gi v4]) gy_X2_slopeAt (gbl rfl) (gbl rfl) (gbl rfl) q4230 q4231 dX2_far_14 K hM R e1 e2) fun v6 h7 => ?_
  refine g_iaload (pc := 17) rfl dX2_far_17 fun v8 => ?_
  refine g_isub (pc := 18) dX2_far_18 ?_
  refine g_bi (pc := 19) (y := yJ14_abs) (ws := ws_ yJ14_abs cJ14_abs 1 (some .int)) (fr := 0) (lo := 0) (as := [gi (v4 - v8)]) (st := []) (g_no) rfl (fun _ _ e => tJ14_abs hs e) (fun K _ _ hM R e1 e2 => g_runS (M := mX2_far) (pc := 19) (y := yJ14_abs) (bytes := cJ14_abs) (maxL := 1) (ret := (some .int)) (fr := 0) (lo := 0) (as := [gi (v4 - v8)]) (st := []) gy_J14_abs (gbl rfl) (gbl rfl) (gbl rfl) q4287 q3094 dX2_far_19 K hM R e1 e2) fun v9 h10 => ?_
  refine g_aload_n (pc := 22) (x := a0) 0 rfl rfl dX2_far_22 ?_
  refine g_getfr (pc := 23) k_18 (gblt rfl) lk_X2_9_18 dX2_far_23 fun v11 => ?_
  refine g_iload_n (pc := 26) (x := a1) 1 rfl rfl dX2_far_26 ?_
  refine g_bi (pc := 27) (y := yX2_cabinAt) (ws := ws_ yX2_cabinAt cX2_cabinAt 1 (some .int)) (fr := 0) (lo := 0) (as := [gi a1]) (st := [gr v11, gi v9]) (g_no) rfl (fun _ _ e => tX2_cabinAt hs e) (fun K _ _ hM R e1 e2 => g_runS (M := mX2_far) (pc := 27) (y := yX2_cabinAt) (bytes := cX2_cabinAt) (maxL := 1) (ret := (some .int)) (fr := 0) (lo := 0) (as := [gi a1]) (st := [gr v11, gi v9]) gy_X2_cabinAt (gbl rfl) (gbl rfl) (gbl rfl) q4179 q4180 dX2_far_27 K hM R e1 e2) fun v12 h13 => ?_
  refine g_iconst (pc := 30) (v := (1 : Int32)) ic_1 dX2_far_30 ?_
  refine g_iadd (pc := 31) dX2_far_31 ?_
  refine g_iaload (pc := 32) rfl dX2_far_32 fun v14 => ?_
  refine g_aload_n (pc := 33) (x := a0) 0 rfl rfl dX2_far_33 ?_
  refine g_getfr (pc := 34) k_18 (gblt rfl) lk_X2_9_18 dX2_far_34 fun v15 => ?_
  refine g_iload_n (pc := 37) (x := a2) 2 rfl rfl dX2_far_37 ?_
  refine g_bi (pc := 38) (y := yX2_slopeAt) (ws := ws_ yX2_slopeAt cX2_slopeAt 1 (some .int)) (fr := 0) (lo := 0) (as := [gi a2]) (st := [gr v15, gi v14, gi v9]) (g_no) rfl (fun _ _ e => tX2_slopeAt hs e) (fun K _ _ hM R e1 e2 => g_runS (M := mX2_far) (pc := 38) (y := yX2_slopeAt) (bytes := cX2_slopeAt) (maxL := 1) (ret := (some .int)) (fr := 0) (lo := 0) (as := [gi a2]) (st := [gr v15, gi v14, gi v9]) gy_X2_slopeAt (gbl rfl) (gbl rfl) (gbl rfl) q4230 q4231 dX2_far_38 K hM R e1 e2) fun v16 h17 => ?_
  refine g_iconst (pc := 41) (v := (1 : Int32)) ic_1 dX2_far_41 ?_
  refine g_iadd (pc := 42) dX2_far_42 ?_
  refine g_iaload (pc := 43) rfl dX2_far_43 fun v18 => ?_
  refine g_isub (pc := 44) dX2_far_44 ?_
  refine g_bi (pc := 45) (y := yJ14_abs) (ws := ws_ yJ14_abs cJ14_abs 1 (some .int)) (fr := 0) (lo := 0) (as := [gi (v14 - v18)]) (st := [gi v9]) (g_no) rfl (fun _ _ e => tJ14_abs hs e) (fun K _ _ hM R e1 e2 => g_runS (M := mX2_far) (pc := 45) (y := yJ14_abs) (bytes := cJ14_abs) (maxL := 1) (ret := (some .int)) (fr := 0) (lo := 0) (as := [gi (v14 - v18)]) (st := [gi v9]) gy_J14_abs (gbl rfl) (gbl rfl) (gbl rfl) q4287 q3094 dX2_far_45 K hM R e1 e2) fun v19 h20 => ?_
  refine g_iadd (pc := 48) dX2_far_48 ?_
  exact g_ireturn (pc := 49) rfl dX2_far_49
/-! FlareSlopesModel.weight(II)I -/
noncomputable def sX2_weight (G : GG) (N : Nat) (a0 : Option Nat) (a1 : Int32) (a2 : Int32) (h : Hp) : Out (Int32) :=
  gFr h a0 18 1 fun v1 =>
  gAi h v1 0 ((158 : Int32) + a1) fun v2 =>
  bV h a0 18 (fun q6 => sX2_far G N (some q6) a1 a2 h) fun v3 h4 =>
  gDv (v2 * ((200 : Int32) - v3)) (100 : Int32) fun v5 =>
  some (.inl v5, h4)
abbrev mX2_weight : MI := (RX2, cX2_weight, 3, (some .int), [], 2, 42, "weight")
theorem tX2_weight {G : GG} {l : Launch} (hs : l.stackTraces = false) {N : Nat} {a0 : Option Nat} {a1 : Int32} {a2 : Int32} {h : Hp} {r : Int32 ⊕ Nat} {hf : Hp} (ho : sX2_weight G N a0 a1 a2 h = some (r, hf)) : gMet G l yX2_weight (ws_ yX2_weight cX2_weight 3 (some .int)) 2 42 [gr a0, gi a1, gi a2] h cvI r hf := by
  refine gMet.of ho hs (plainFor_of_name pn_X2) rfl rfl (gbl rfl) fun X => ?_
  show gT G l X mX2_weight cvI r hf 0 [(0, gr a0), (1, gi a1), (2, gi a2)] [] h (sX2_weight G N a0 a1 a2 h)
  delta sX2_weight
  refine g_aload_n (pc := 0) (x := a0) 0 rfl rfl dX2_weight_0 ?_
  refine g_getfr (pc := 1) k_18 (gblt rfl) lk_X2_9_18 dX2_weight_1 fun v1 => ?_
  refine g_sipush (pc := 4) (v := (158 : Int32)) sc_158 dX2_weight_4 ?_
  refine g_iload_n (pc := 7) (x := a1) 1 rfl rfl dX2_weight_7 ?_
  refine g_iadd (pc := 8) dX2_weight_8 ?_
  refine g_iaload (pc := 9) rfl dX2_weight_9 fun v2 => ?_
  refine g_sipush (pc := 10) (v := (200 : Int32)) sc_200 dX2_weight_10 ?_
  refine g_aload_n (pc := 13) (x := a0) 0 rfl rfl dX2_weight_13 ?_
  refine g_iload_n (pc := 14) (x := a1) 1 rfl rfl dX2_weight_14 ?_
  refine g_iload_n (pc := 15) (x := a2) 2 rfl rfl dX2_weight_15 ?_
  refine g_bVi (pc := 16) (y := yX2_far) (ws := ws_ yX2_far cX2_far 3 (some .int)) (fr := 1) (lo := 20) (as := [gi a1, gi a2]) (st := [gi (200 : Int32), gi v2]) (g_no) rfl (fun _ _ _ e => tX2_far hs e) (fun K _ _ _ hq hM R e1 e2 => g_runV (M := mX2_weight) (pc := 16) (y := yX2_far) (bytes := cX2_far) (maxL := 3) (ret := (some .int)) (fr := 1) (lo := 20) (as := [gi a1, gi a2]) (st := [gi (200 : Int32), gi v2]) hq (C := "FlareSlopesModel") rfl gy_X2_far (gbl rfl) (gbl rfl) (gbl rfl) q4283 q4285 qs101 dX2_weight_16 K hM R e1 e2) fun v3 h4 => ?_
  refine g_isub (pc := 19) dX2_weight_19 ?_
  refine g_imul (pc := 20) dX2_weight_20 ?_
  refine g_bipush (pc := 21) (v := (100 : Int32)) bc_100 dX2_weight_21 ?_
  refine g_idiv (pc := 23) dX2_weight_23 fun v5 => ?_
  exact g_ireturn (pc := 24) rfl dX2_weight_24
/-! FlareSlopesModel.sum(IIZ)I -/
noncomputable def bX2_sum_6 (G : GG) (N : Nat) (a0 : Option Nat) (a1 : Int32) (a2 : Int32) (a3 : Int32) (w3 : (Int32 × Int32) → Hp → Out (Int32)) (x1 : Int32 × Int32) (h2 : Hp) : Out (Int32) :=
  gFr h2 a0 18 1 fun v4 =>
  gAi h2 v4 0 (6 : Int32) fun v5 =>
  if v5 ≤ x1.2 then (some (.inl x1.1, h2))
  else bV h2 a0 18 (fun q23 => sX2_voteOf G N (some q23) a1 x1.2 a2 h2) fun v6 h7 =>
  gJ (fun (x8 : Int32) (h9 : Hp) =>
  gLet (x1.1 + x8) fun v11 =>
  w3 (v11, x1.2 + (1 : Int32)) h9) fun j10 =>
  gJ (fun (x12 : Unit) (h13 : Hp) =>
  j10 (0 : Int32) h13) fun j14 =>
  if v6 ≤ 0 then (j14 () h7)
  else bV h7 a0 18 (fun q22 => sX2_voteOf G N (some q22) a1 x1.2 a2 h7) fun v15 h16 =>
  bnd (sX2_isRed G N v15 h16) fun v17 h18 =>
  if v17 = a3 then (bV h18 a0 18 (fun q21 => sX2_weight G N (some q21) x1.2 a2 h18) fun v19 h20 =>
  j10 v19 h20)
  else j14 () h18
noncomputable def sX2_sum (G : GG) (N : Nat) (a0 : Option Nat) (a1 : Int32) (a2 : Int32) (a3 : Int32) (h : Hp) : Out (Int32) :=
  gLp (bX2_sum_6 G N a0 a1 a2 a3) N ((0 : Int32), (0 : Int32)) h
abbrev mX2_sum : MI := (RX2, cX2_sum, 6, (some .int), [], 3, 64, "sum")
theorem tX2_sum {G : GG} {l : Launch} (hs : l.stackTraces = false) {N : Nat} {a0 : Option Nat} {a1 : Int32} {a2 : Int32} {a3 : Int32} {h : Hp} {r : Int32 ⊕ Nat} {hf : Hp} (ho : sX2_sum G N a0 a1 a2 a3 h = some (r, hf)) : gMet G l yX2_sum (ws_ yX2_sum cX2_sum 6 (some .int)) 3 64 [gr a0, gi a1, gi a2, gi a3] h cvI r hf := by
  refine gMet.of ho hs (plainFor_of_name pn_X2) rfl rfl (gbl rfl) fun X => ?_
  show gT G l X mX2_sum cvI r hf 0 [(0, gr a0), (1, gi a1), (2, gi a2), (3, gi a3)] [] h (sX2_sum G N a0 a1 a2 a3 h)
  delta sX2_sum
  refine g_iconst (pc := 0) (v := (0 : Int32)) ic_0 dX2_sum_0 ?_
  refine g_istore (pc := 1) (lv' := [(4, gi (0 : Int32)), (0, gr a0), (1, gi a1), (2, gi a2), (3, gi a3)]) [0, 1, 2, 3, 4] rfl (gblt rfl) dX2_sum_1 ?_
  refine g_iconst (pc := 3) (v := (0 : Int32)) ic_0 dX2_sum_3 ?_
  refine g_istore (pc := 4) (lv' := [(5, gi (0 : Int32)), (4, gi (0 : Int32)), (0, gr a0), (1, gi a1), (2, gi a2), (3, gi a3)]) [0, 1, 2, 3, 4, 5] rfl (gblt rfl) dX2_sum_4 ?_
  refine g_sub (lv' := [(0, gr a0), (1, gi a1), (2, gi a2), (3, gi a3), (4, gi (0 : Int32)), (5, gi (0 : Int32))]) [2, 3, 4, 5, 1, 0] rfl ?_
  refine g_loop (pc := 6) (fun (x1 : Int32 × Int32) => [(0, gr a0), (1, gi a1), (2, gi a2), (3, gi a3), (4, gi x1.1), (5, gi x1.2)]) (fun (_ : Int32 × Int32) => []) (fun w3 Hw3 x1 h2 => ?_) N ((0 : Int32), (0 : Int32)) h
  delta bX2_sum_6
  refine g_iload (pc := 6) (x := x1.2) 5 rfl dX2_sum_6 ?_
  refine g_aload_n (pc := 8) (x := a0) 0 rfl rfl dX2_sum_8 ?_
  refine g_getfr (pc := 9) k_18 (gblt rfl) lk_X2_9_18 dX2_sum_9 fun v4 => ?_
  refine g_bipush (pc := 12) (v := (6 : Int32)) bc_6 dX2_sum_12 ?_
  refine g_iaload (pc := 14) rfl dX2_sum_14 fun v5 => ?_
  refine g_icmp_ge (pc := 15) (tgt := 66) rfl dX2_sum_15 ?_ ?_
  · refine g_iload (pc := 66) (x := x1.1) 4 rfl dX2_sum_66 ?_
    exact g_ireturn (pc := 68) rfl dX2_sum_68
  refine g_iload (pc := 18) (x := x1.1) 4 rfl dX2_sum_18 ?_
  refine g_aload_n (pc := 20) (x := a0) 0 rfl rfl dX2_sum_20 ?_
  refine g_iload_n (pc := 21) (x := a1) 1 rfl rfl dX2_sum_21 ?_
  refine g_iload (pc := 22) (x := x1.2) 5 rfl dX2_sum_22 ?_
  refine g_iload_n (pc := 24) (x := a2) 2 rfl rfl dX2_sum_24 ?_
  refine g_bVi (pc := 25) (y := yX2_voteOf) (ws := ws_ yX2_voteOf cX2_voteOf 4 (some .int)) (fr := 1) (lo := 22) (as := [gi a1, gi x1.2, gi a2]) (st := [gi x1.1]) (g_no) rfl (fun _ _ _ e => tX2_voteOf hs e) (fun K _ _ _ hq hM R e1 e2 => g_runV (M := mX2_sum) (pc := 25) (y := yX2_voteOf) (bytes := cX2_voteOf) (maxL := 4) (ret := (some .int)) (fr := 1) (lo := 22) (as := [gi a1, gi x1.2, gi a2]) (st := [gi x1.1]) hq (C := "FlareSlopesModel") rfl gy_X2_voteOf (gbl rfl) (gbl rfl) (gbl rfl) q4222 q4224 qs89 dX2_sum_25 K hM R e1 e2) fun v6 h7 => ?_
  refine g_join 57 (fun (x8 : Int32) => [(0, gr a0), (1, gi a1), (2, gi a2), (3, gi a3), (5, gi x1.2)]) (fun (x8 : Int32) => [gi x8, gi x1.1]) (fun x8 h9 => ?_) (fun j10 Hj10 => ?_)
  · refine g_iadd (pc := 57) dX2_sum_57 ?_
    refine g_leti fun v11 => ?_
    refine g_istore (pc := 58) (lv' := [(4, gi v11), (0, gr a0), (1, gi a1), (2, gi a2), (3, gi a3), (5, gi x1.2)]) [0, 1, 2, 3, 4, 5] rfl (gblt rfl) dX2_sum_58 ?_
    refine g_iinc (pc := 60) (v := x1.2 + (1 : Int32)) 5 rfl (ii_1 _) (lv' := [(5, gi (x1.2 + (1 : Int32))), (4, gi v11), (0, gr a0), (1, gi a1), (2, gi a2), (3, gi a3)]) [0, 1, 2, 3, 4, 5] rfl (gblt rfl) dX2_sum_60 ?_
    refine g_goto (pc := 63) (tgt := 6) rfl dX2_sum_63 ?_
    exact g_sub [2, 3, 4, 5, 1, 0] rfl (Hw3 (v11, x1.2 + (1 : Int32)) h9)
  refine g_join 56 (fun (x12 : Unit) => [(0, gr a0), (1, gi a1), (2, gi a2), (3, gi a3), (5, gi x1.2)]) (fun (x12 : Unit) => [gi x1.1]) (fun x12 h13 => ?_) (fun j14 Hj14 => ?_)
  · refine g_iconst (pc := 56) (v := (0 : Int32)) ic_0 dX2_sum_56 ?_
    exact Hj10 (0 : Int32) h13
  refine g_if_le (pc := 28) (tgt := 56) rfl dX2_sum_28 ?_ ?_
  · exact g_sub [0, 1, 2, 3, 5] rfl (Hj14 () h7)
  refine g_aload_n (pc := 31) (x := a0) 0 rfl rfl dX2_sum_31 ?_
  refine g_iload_n (pc := 32) (x := a1) 1 rfl rfl dX2_sum_32 ?_
  refine g_iload (pc := 33) (x := x1.2) 5 rfl dX2_sum_33 ?_
  refine g_iload_n (pc := 35) (x := a2) 2 rfl rfl dX2_sum_35 ?_
  refine g_bVi (pc := 36) (y := yX2_voteOf) (ws := ws_ yX2_voteOf cX2_voteOf 4 (some .int)) (fr := 1) (lo := 22) (as := [gi a1, gi x1.2, gi a2]) (st := [gi x1.1]) (g_no) rfl (fun _ _ _ e => tX2_voteOf hs e) (fun K _ _ _ hq hM R e1 e2 => g_runV (M := mX2_sum) (pc := 36) (y := yX2_voteOf) (bytes := cX2_voteOf) (maxL := 4) (ret := (some .int)) (fr := 1) (lo := 22) (as := [gi a1, gi x1.2, gi a2]) (st := [gi x1.1]) hq (C := "FlareSlopesModel") rfl gy_X2_voteOf (gbl rfl) (gbl rfl) (gbl rfl) q4222 q4224 qs89 dX2_sum_36 K hM R e1 e2) fun v15 h16 => ?_
  refine g_bi (pc := 39) (y := yX2_isRed) (ws := ws_ yX2_isRed cX2_isRed 1 (some .boolean)) (fr := 0) (lo := 0) (as := [gi v15]) (st := [gi x1.1]) (g_no) rfl (fun _ _ e => tX2_isRed hs e) (fun K _ _ hM R e1 e2 => g_runS (M := mX2_sum) (pc := 39) (y := yX2_isRed) (bytes := cX2_isRed) (maxL := 1) (ret := (some .boolean)) (fr := 0) (lo := 0) (as := [gi v15]) (st := [gi x1.1]) gy_X2_isRed (gbl rfl) (gbl rfl) (gbl rfl) q4203 q4204 dX2_sum_39 K hM R e1 e2) fun v17 h18 => ?_
  refine g_iload_n (pc := 42) (x := a3) 3 rfl rfl dX2_sum_42 ?_
  refine g_icmp_ne (pc := 43) (tgt := 56) rfl dX2_sum_43 ?_ ?_
  rotate_left
  · exact g_sub [0, 1, 2, 3, 5] rfl (Hj14 () h18)
  refine g_aload_n (pc := 46) (x := a0) 0 rfl rfl dX2_sum_46 ?_
  refine g_iload (pc := 47) (x := x1.2) 5 rfl dX2_sum_47 ?_
  refine g_iload_n (pc := 49) (x := a2) 2 rfl rfl dX2_sum_49 ?_
  refine g_bVi (pc := 50) (y := yX2_weight) (ws := ws_ yX2_weight cX2_weight 3 (some .int)) (fr := 2) (lo := 42) (as := [gi x1.2, gi a2]) (st := [gi x1.1]) (g_no) rfl (fun _ _ _ e => tX2_weight hs e) (fun K _ _ _ hq hM R e1 e2 => g_runV (M := mX2_sum) (pc := 50) (y := yX2_weight) (bytes := cX2_weight) (maxL := 3) (ret := (some .int)) (fr := 2) (lo := 42) (as := [gi x1.2, gi a2]) (st := [gi x1.1]) hq (C := "FlareSlopesModel") rfl gy_X2_weight (gbl rfl) (gbl rfl) (gbl rfl) q4279 q4281 qs100 dX2_sum_50 K hM R e1 e2) fun v19 h20 => ?_
  refine g_goto (pc := 53) (tgt := 57) rfl dX2_sum_53 ?_
  exact g_sub [0, 1, 2, 3, 5] rfl (Hj10 v19 h20)
/-! FlareSlopesModel.allWeights(IZ)I -/
noncomputable def bX2_allWeights_5 (G : GG) (N : Nat) (a0 : Option Nat) (a1 : Int32) (a2 : Int32) (w3 : (Int32 × Int32) → Hp → Out (Int32)) (x1 : Int32 × Int32) (h2 : Hp) : Out (Int32) :=
  gFr h2 a0 18 1 fun v4 =>
  gAi h2 v4 0 (6 : Int32) fun v5 =>
  if v5 ≤ x1.2 then (some (.inl x1.1, h2))
  else bV h2 a0 18 (fun q9 => sX2_sum G N (some q9) x1.2 a1 a2 h2) fun v6 h7 =>
  gLet (x1.1 + v6) fun v8 =>
  w3 (v8, x1.2 + (1 : Int32)) h7
noncomputable def sX2_allWeights (G : GG) (N : Nat) (a0 : Option Nat) (a1 : Int32) (a2 : Int32) (h : Hp) : Out (Int32) :=
  gLp (bX2_allWeights_5 G N a0 a1 a2) N ((0 : Int32), (0 : Int32)) h
abbrev mX2_allWeights : MI := (RX2, cX2_allWeights, 5, (some .int), [], 4, 89, "allWeights")
theorem tX2_allWeights {G : GG} {l : Launch} (hs : l.stackTraces = false) {N : Nat} {a0 : Option Nat} {a1 : Int32} {a2 : Int32} {h : Hp} {r : Int32 ⊕ Nat} {hf : Hp} (ho : sX2_allWeights G N a0 a1 a2 h = some (r, hf)) : gMet G l yX2_allWeights (ws_ yX2_allWeights cX2_allWeights 5 (some .int)) 4 89 [gr a0, gi a1, gi a2] h cvI r hf := by
  refine gMet.of ho hs (plainFor_of_name pn_X2) rfl rfl (gbl rfl) fun X => ?_
  show gT G l X mX2_allWeights cvI r hf 0 [(0, gr a0), (1, gi a1), (2, gi a2)] [] h (sX2_allWeights G N a0 a1 a2 h)
  delta sX2_allWeights
  refine g_iconst (pc := 0) (v := (0 : Int32)) ic_0 dX2_allWeights_0 ?_
  refine g_istore_n (pc := 1) (lv' := [(3, gi (0 : Int32)), (0, gr a0), (1, gi a1), (2, gi a2)]) [0, 1, 2, 3] rfl rfl (gblt rfl) dX2_allWeights_1 ?_
  refine g_iconst (pc := 2) (v := (0 : Int32)) ic_0 dX2_allWeights_2 ?_
  refine g_istore (pc := 3) (lv' := [(4, gi (0 : Int32)), (3, gi (0 : Int32)), (0, gr a0), (1, gi a1), (2, gi a2)]) [0, 1, 2, 3, 4] rfl (gblt rfl) dX2_allWeights_3 ?_
  refine g_sub (lv' := [(0, gr a0), (1, gi a1), (2, gi a2), (3, gi (0 : Int32)), (4, gi (0 : Int32))]) [2, 3, 4, 1, 0] rfl ?_
  refine g_loop (pc := 5) (fun (x1 : Int32 × Int32) => [(0, gr a0), (1, gi a1), (2, gi a2), (3, gi x1.1), (4, gi x1.2)]) (fun (_ : Int32 × Int32) => []) (fun w3 Hw3 x1 h2 => ?_) N ((0 : Int32), (0 : Int32)) h
  delta bX2_allWeights_5
  refine g_iload (pc := 5) (x := x1.2) 4 rfl dX2_allWeights_5 ?_
  refine g_aload_n (pc := 7) (x := a0) 0 rfl rfl dX2_allWeights_7 ?_
  refine g_getfr (pc := 8) k_18 (gblt rfl) lk_X2_9_18 dX2_allWeights_8 fun v4 => ?_
  refine g_bipush (pc := 11) (v := (6 : Int32)) bc_6 dX2_allWeights_11 ?_
  refine g_iaload (pc := 13) rfl dX2_allWeights_13 fun v5 => ?_
  refine g_icmp_ge (pc := 14) (tgt := 34) rfl dX2_allWeights_14 ?_ ?_
  · refine g_iload_n (pc := 34) (x := x1.1) 3 rfl rfl dX2_allWeights_34 ?_
    exact g_ireturn (pc := 35) rfl dX2_allWeights_35
  refine g_iload_n (pc := 17) (x := x1.1) 3 rfl rfl dX2_allWeights_17 ?_
  refine g_aload_n (pc := 18) (x := a0) 0 rfl rfl dX2_allWeights_18 ?_
  refine g_iload (pc := 19) (x := x1.2) 4 rfl dX2_allWeights_19 ?_
  refine g_iload_n (pc := 21) (x := a1) 1 rfl rfl dX2_allWeights_21 ?_
  refine g_iload_n (pc := 22) (x := a2) 2 rfl rfl dX2_allWeights_22 ?_
  refine g_bVi (pc := 23) (y := yX2_sum) (ws := ws_ yX2_sum cX2_sum 6 (some .int)) (fr := 3) (lo := 64) (as := [gi x1.2, gi a1, gi a2]) (st := [gi x1.1]) (g_no) rfl (fun _ _ _ e => tX2_sum hs e) (fun K _ _ _ hq hM R e1 e2 => g_runV (M := mX2_allWeights) (pc := 23) (y := yX2_sum) (bytes := cX2_sum) (maxL := 6) (ret := (some .int)) (fr := 3) (lo := 64) (as := [gi x1.2, gi a1, gi a2]) (st := [gi x1.1]) hq (C := "FlareSlopesModel") rfl gy_X2_sum (gbl rfl) (gbl rfl) (gbl rfl) q4275 q4277 qs99 dX2_allWeights_23 K hM R e1 e2) fun v6 h7 => ?_
  refine g_iadd (pc := 26) dX2_allWeights_26 ?_
  refine g_leti fun v8 => ?_
  refine g_istore_n (pc := 27) (lv' := [(3, gi v8), (0, gr a0), (1, gi a1), (2, gi a2), (4, gi x1.2)]) [0, 1, 2, 3, 4] rfl rfl (gblt rfl) dX2_allWeights_27 ?_
  refine g_iinc (pc := 28) (v := x1.2 + (1 : Int32)) 4 rfl (ii_1 _) (lv' := [(4, gi (x1.2 + (1 : Int32))), (3, gi v8), (0, gr a0), (1, gi a1), (2, gi a2)]) [0, 1, 2, 3, 4] rfl (gblt rfl) dX2_allWeights_28 ?_
  refine g_goto (pc := 31) (tgt := 5) rfl dX2_allWeights_31 ?_
  exact g_sub [2, 3, 4, 1, 0] rfl (Hw3 (v8, x1.2 + (1 : Int32)) h7)
/-! FlareSlopesModel.slope(II)I -/
noncomputable def sX2_slope (G : GG) (N : Nat) (a0 : Option Nat) (a1 : Int32) (a2 : Int32) (h : Hp) : Out (Int32) :=
  gFi h a0 18 8 fun v1 =>
  bV h a0 18 (fun q32 => sX2_isSlope G N (some q32) a1 h) fun v2 h3 =>
  bnd (sX2_in G N a2 (0 : Int32) (8 : Int32) h3) fun v4 h5 =>
  bV h5 a0 18 (fun q31 => sX2_may G N (some q31) v1 v2 v4 h5) fun v6 h7 =>
  if v6 = 0 then (some (.inl (0 : Int32), h7))
  else gSel a2 [((3 : Int32), gFr h7 a0 18 1 fun v12 =>
  gAi h7 v12 0 (97 : Int32) fun v13 =>
  some (.inl ((v13 >>> (a1 &&& 31)) &&& (1 : Int32)), h7)),
  ((4 : Int32), bV h7 a0 18 (fun q18 => sX2_closersOf G N (some q18) a1 h7) fun v14 h15 =>
  bnd (sX2_bits G N v14 h15) fun v16 h17 =>
  some (.inl v16, h17)),
  ((5 : Int32), bV h7 a0 18 (fun q21 => sX2_seers0 G N (some q21) a1 h7) fun v19 h20 =>
  some (.inl v19, h20)),
  ((6 : Int32), bV h7 a0 18 (fun q24 => sX2_votesOn G N (some q24) a1 h7) fun v22 h23 =>
  some (.inl v22, h23)),
  ((7 : Int32), bV h7 a0 18 (fun q27 => sX2_allWeights G N (some q27) a1 (1 : Int32) h7) fun v25 h26 =>
  some (.inl v25, h26)),
  ((8 : Int32), bV h7 a0 18 (fun q30 => sX2_allWeights G N (some q30) a1 (0 : Int32) h7) fun v28 h29 =>
  some (.inl v28, h29))] (gFr h7 a0 18 1 fun v8 =>
  bnd (sX2_slopeAt G N a1 h7) fun v9 h10 =>
  gAi h10 v8 0 (v9 + a2) fun v11 =>
  some (.inl v11, h10))
abbrev mX2_slope : MI := (RX2, cX2_slope, 3, (some .int), [], 5, 113, "slope")
theorem tX2_slope {G : GG} {l : Launch} (hs : l.stackTraces = false) {N : Nat} {a0 : Option Nat} {a1 : Int32} {a2 : Int32} {h : Hp} {r : Int32 ⊕ Nat} {hf : Hp} (ho : sX2_slope G N a0 a1 a2 h = some (r, hf)) : gMet G l yX2_slope (ws_ yX2_slope cX2_slope 3 (some .int)) 5 113 [gr a0, gi a1, gi a2] h cvI r hf := by
  refine gMet.of ho hs (plainFor_of_name pn_X2) rfl rfl (gbl rfl) fun X => ?_
  show gT G l X mX2_slope cvI r hf 0 [(0, gr a0), (1, gi a1), (2, gi a2)] [] h (sX2_slope G N a0 a1 a2 h)
  delta sX2_slope
  refine g_aload_n (pc := 0) (x := a0) 0 rfl rfl dX2_slope_0 ?_
  refine g_aload_n (pc := 1) (x := a0) 0 rfl rfl dX2_slope_1 ?_
  refine g_getfi (pc := 2) k_18 (gblt rfl) lk_X2_184_18 dX2_slope_2 fun v1 => ?_
  refine g_aload_n (pc := 5) (x := a0) 0 rfl rfl dX2_slope_5 ?_
  refine g_iload_n (pc := 6) (x := a1) 1 rfl rfl dX2_slope_6 ?_
  refine g_bVi (pc := 7) (y := yX2_isSlope) (ws := ws_ yX2_isSlope cX2_isSlope 2 (some .boolean)) (fr := 1) (lo := 22) (as := [gi a1]) (st := [gi v1, gr a0]) (g_no) rfl (fun _ _ _ e => tX2_isSlope hs e) (fun K _ _ _ hq hM R e1 e2 => g_runV (M := mX2_slope) (pc := 7) (y := yX2_isSlope) (bytes := cX2_isSlope) (maxL := 2) (ret := (some .boolean)) (fr := 1) (lo := 22) (as := [gi a1]) (st := [gi v1, gr a0]) hq (C := "FlareSlopesModel") rfl gy_X2_isSlope (gbl rfl) (gbl rfl) (gbl rfl) q4245 q4247 qs93 dX2_slope_7 K hM R e1 e2) fun v2 h3 => ?_
  refine g_iload_n (pc := 10) (x := a2) 2 rfl rfl dX2_slope_10 ?_
  refine g_iconst (pc := 11) (v := (0 : Int32)) ic_0 dX2_slope_11 ?_
  refine g_bipush (pc := 12) (v := (8 : Int32)) bc_8 dX2_slope_12 ?_
  refine g_bi (pc := 14) (y := yX2_in) (ws := ws_ yX2_in cX2_in 3 (some .boolean)) (fr := 0) (lo := 0) (as := [gi a2, gi (0 : Int32), gi (8 : Int32)]) (st := [gi v2, gi v1, gr a0]) (g_no) rfl (fun _ _ e => tX2_in hs e) (fun K _ _ hM R e1 e2 => g_runS (M := mX2_slope) (pc := 14) (y := yX2_in) (bytes := cX2_in) (maxL := 3) (ret := (some .boolean)) (fr := 0) (lo := 0) (as := [gi a2, gi (0 : Int32), gi (8 : Int32)]) (st := [gi v2, gi v1, gr a0]) gy_X2_in (gbl rfl) (gbl rfl) (gbl rfl) q4037 q4038 dX2_slope_14 K hM R e1 e2) fun v4 h5 => ?_
  refine g_bVi (pc := 17) (y := yX2_may) (ws := ws_ yX2_may cX2_may 4 (some .boolean)) (fr := 0) (lo := 0) (as := [gi v1, gi v2, gi v4]) (st := []) (g_no) rfl (fun _ _ _ e => tX2_may hs e) (fun K _ _ _ hq hM R e1 e2 => g_runV (M := mX2_slope) (pc := 17) (y := yX2_may) (bytes := cX2_may) (maxL := 4) (ret := (some .boolean)) (fr := 0) (lo := 0) (as := [gi v1, gi v2, gi v4]) (st := []) hq (C := "FlareSlopesModel") rfl gy_X2_may (gbl rfl) (gbl rfl) (gbl rfl) q4040 q4042 qs54 dX2_slope_17 K hM R e1 e2) fun v6 h7 => ?_
  refine g_if_ne (pc := 20) (tgt := 25) rfl dX2_slope_20 ?_ ?_
  · refine g_iconst (pc := 23) (v := (0 : Int32)) ic_0 dX2_slope_23 ?_
    exact g_ireturn (pc := 24) rfl dX2_slope_24
  refine g_iload_n (pc := 25) (x := a2) 2 rfl rfl dX2_slope_25 ?_
  refine g_tableswitch (pc := 26) (td := 111) [((3 : Int32), 64), ((4 : Int32), 76), ((5 : Int32), 85), ((6 : Int32), 91), ((7 : Int32), 97), ((8 : Int32), 104)] (by decide +kernel) dX2_slope_26 ?_ (g_all_cons ?_ (g_all_cons ?_ (g_all_cons ?_ (g_all_cons ?_ (g_all_cons ?_ (g_all_cons ?_ g_all_nil))))))
  · refine g_aload_n (pc := 111) (x := a0) 0 rfl rfl dX2_slope_111 ?_
    refine g_getfr (pc := 112) k_18 (gblt rfl) lk_X2_9_18 dX2_slope_112 fun v8 => ?_
    refine g_iload_n (pc := 115) (x := a1) 1 rfl rfl dX2_slope_115 ?_
    refine g_bi (pc := 116) (y := yX2_slopeAt) (ws := ws_ yX2_slopeAt cX2_slopeAt 1 (some .int)) (fr := 0) (lo := 0) (as := [gi a1]) (st := [gr v8]) (g_no) rfl (fun _ _ e => tX2_slopeAt hs e) (fun K _ _ hM R e1 e2 => g_runS (M := mX2_slope) (pc := 116) (y := yX2_slopeAt) (bytes := cX2_slopeAt) (maxL := 1) (ret := (some .int)) (fr := 0) (lo := 0) (as := [gi a1]) (st := [gr v8]) gy_X2_slopeAt (gbl rfl) (gbl rfl) (gbl rfl) q4230 q4231 dX2_slope_116 K hM R e1 e2) fun v9 h10 => ?_
    refine g_iload_n (pc := 119) (x := a2) 2 rfl rfl dX2_slope_119 ?_
    refine g_iadd (pc := 120) dX2_slope_120 ?_
    refine g_iaload (pc := 121) rfl dX2_slope_121 fun v11 => ?_
    exact g_ireturn (pc := 122) rfl dX2_slope_122
  · refine g_aload_n (pc := 64) (x := a0) 0 rfl rfl dX2_slope_64 ?_
    refine g_getfr (pc := 65) k_18 (gblt rfl) lk_X2_9_18 dX2_slope_65 fun v12 => ?_
    refine g_bipush (pc := 68) (v := (97 : Int32)) bc_97 dX2_slope_68 ?_
    refine g_iaload (pc := 70) rfl dX2_slope_70 fun v13 => ?_
    refine g_iload_n (pc := 71) (x := a1) 1 rfl rfl dX2_slope_71 ?_
    refine g_ishr (pc := 72) dX2_slope_72 ?_
    refine g_iconst (pc := 73) (v := (1 : Int32)) ic_1 dX2_slope_73 ?_
    refine g_iand (pc := 74) dX2_slope_74 ?_
    exact g_ireturn (pc := 75) rfl dX2_slope_75
  · refine g_aload_n (pc := 76) (x := a0) 0 rfl rfl dX2_slope_76 ?_
    refine g_iload_n (pc := 77) (x := a1) 1 rfl rfl dX2_slope_77 ?_
    refine g_bVi (pc := 78) (y := yX2_closersOf) (ws := ws_ yX2_closersOf cX2_closersOf 4 (some .int)) (fr := 2) (lo := 43) (as := [gi a1]) (st := []) (g_no) rfl (fun _ _ _ e => tX2_closersOf hs e) (fun K _ _ _ hq hM R e1 e2 => g_runV (M := mX2_slope) (pc := 78) (y := yX2_closersOf) (bytes := cX2_closersOf) (maxL := 4) (ret := (some .int)) (fr := 2) (lo := 43) (as := [gi a1]) (st := []) hq (C := "FlareSlopesModel") rfl gy_X2_closersOf (gbl rfl) (gbl rfl) (gbl rfl) q4249 q4251 qs94 dX2_slope_78 K hM R e1 e2) fun v14 h15 => ?_
    refine g_bi (pc := 81) (y := yX2_bits) (ws := ws_ yX2_bits cX2_bits 3 (some .int)) (fr := 0) (lo := 0) (as := [gi v14]) (st := []) (g_no) rfl (fun _ _ e => tX2_bits hs e) (fun K _ _ hM R e1 e2 => g_runS (M := mX2_slope) (pc := 81) (y := yX2_bits) (bytes := cX2_bits) (maxL := 3) (ret := (some .int)) (fr := 0) (lo := 0) (as := [gi v14]) (st := []) gy_X2_bits (gbl rfl) (gbl rfl) (gbl rfl) q4260 q4261 dX2_slope_81 K hM R e1 e2) fun v16 h17 => ?_
    exact g_ireturn (pc := 84) rfl dX2_slope_84
  · refine g_aload_n (pc := 85) (x := a0) 0 rfl rfl dX2_slope_85 ?_
    refine g_iload_n (pc := 86) (x := a1) 1 rfl rfl dX2_slope_86 ?_
    refine g_bVi (pc := 87) (y := yX2_seers0) (ws := ws_ yX2_seers0 cX2_seers0 4 (some .int)) (fr := 3) (lo := 71) (as := [gi a1]) (st := []) (g_no) rfl (fun _ _ _ e => tX2_seers0 hs e) (fun K _ _ _ hq hM R e1 e2 => g_runV (M := mX2_slope) (pc := 87) (y := yX2_seers0) (bytes := cX2_seers0) (maxL := 4) (ret := (some .int)) (fr := 3) (lo := 71) (as := [gi a1]) (st := []) hq (C := "FlareSlopesModel") rfl gy_X2_seers0 (gbl rfl) (gbl rfl) (gbl rfl) q4263 q4265 qs96 dX2_slope_87 K hM R e1 e2) fun v19 h20 => ?_
    exact g_ireturn (pc := 90) rfl dX2_slope_90
  · refine g_aload_n (pc := 91) (x := a0) 0 rfl rfl dX2_slope_91 ?_
    refine g_iload_n (pc := 92) (x := a1) 1 rfl rfl dX2_slope_92 ?_
    refine g_bVi (pc := 93) (y := yX2_votesOn) (ws := ws_ yX2_votesOn cX2_votesOn 4 (some .int)) (fr := 0) (lo := 0) (as := [gi a1]) (st := []) (g_no) rfl (fun _ _ _ e => tX2_votesOn hs e) (fun K _ _ _ hq hM R e1 e2 => g_runV (M := mX2_slope) (pc := 93) (y := yX2_votesOn) (bytes := cX2_votesOn) (maxL := 4) (ret := (some .int)) (fr := 0) (lo := 0) (as := [gi a1]) (st := []) hq (C := "FlareSlopesModel") rfl gy_X2_votesOn (gbl rfl) (gbl rfl) (gbl rfl) q4267 q4269 qs97 dX2_slope_93 K hM R e1 e2) fun v22 h23 => ?_
    exact g_ireturn (pc := 96) rfl dX2_slope_96
  · refine g_aload_n (pc := 97) (x := a0) 0 rfl rfl dX2_slope_97 ?_
    refine g_iload_n (pc := 98) (x := a1) 1 rfl rfl dX2_slope_98 ?_
    refine g_iconst (pc := 99) (v := (1 : Int32)) ic_1 dX2_slope_99 ?_
    refine g_bVi (pc := 100) (y := yX2_allWeights) (ws := ws_ yX2_allWeights cX2_allWeights 5 (some .int)) (fr := 4) (lo := 89) (as := [gi a1, gi (1 : Int32)]) (st := []) (g_no) rfl (fun _ _ _ e => tX2_allWeights hs e) (fun K _ _ _ hq hM R e1 e2 => g_runV (M := mX2_slope) (pc := 100) (y := yX2_allWeights) (bytes := cX2_allWeights) (maxL := 5) (ret := (some .int)) (fr := 4) (lo := 89) (as := [gi a1, gi (1 : Int32)]) (st := []) hq (C := "FlareSlopesModel") rfl gy_X2_allWeights (gbl rfl) (gbl rfl) (gbl rfl) q4271 q4273 qs98 dX2_slope_100 K hM R e1 e2) fun v25 h26 => ?_
    exact g_ireturn (pc := 103) rfl dX2_slope_103
  · refine g_aload_n (pc := 104) (x := a0) 0 rfl rfl dX2_slope_104 ?_
    refine g_iload_n (pc := 105) (x := a1) 1 rfl rfl dX2_slope_105 ?_
    refine g_iconst (pc := 106) (v := (0 : Int32)) ic_0 dX2_slope_106 ?_
    refine g_bVi (pc := 107) (y := yX2_allWeights) (ws := ws_ yX2_allWeights cX2_allWeights 5 (some .int)) (fr := 4) (lo := 89) (as := [gi a1, gi (0 : Int32)]) (st := []) (g_no) rfl (fun _ _ _ e => tX2_allWeights hs e) (fun K _ _ _ hq hM R e1 e2 => g_runV (M := mX2_slope) (pc := 107) (y := yX2_allWeights) (bytes := cX2_allWeights) (maxL := 5) (ret := (some .int)) (fr := 4) (lo := 89) (as := [gi a1, gi (0 : Int32)]) (st := []) hq (C := "FlareSlopesModel") rfl gy_X2_allWeights (gbl rfl) (gbl rfl) (gbl rfl) q4271 q4273 qs98 dX2_slope_107 K hM R e1 e2) fun v28 h29 => ?_
    exact g_ireturn (pc := 110) rfl dX2_slope_110
