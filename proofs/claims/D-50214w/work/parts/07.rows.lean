section GP
variable {α : Type} {G : GG} {l : Launch} {X : CTX} {M : MI} {cv : α → Option Value} {r : α ⊕ Nat} {hf : Hp} {pc : Nat} {lv : List (Nat × GV)} {st : List GV} {h : Hp} {o : Out α}
theorem gT.pure {pc' : Nat} {lv' : List (Nat × GV)} {st' : List GV} (hk : gT G l X M cv r hf pc' lv' st' h o) (hW : Cx G l X M → ∀ (R : Room) (H : Heap) (locs : List Loc) (cells slots : Nat) (Q : State → Prop) (ls : Array Slot), lv_has ls (mN M) (gLs lv) → (∀ ls' : Array Slot, lv_has ls' (mN M) (gLs lv') → gW l X R H locs cells slots Q (F0 (xM X) pc' ls' (gVs st'))) → gW l X R H locs cells slots Q (F0 (xM X) pc ls (gVs st))) : gT G l X M cv r hf pc lv st h o :=
  fun ho => ⟨(hk ho).1, fun K h0 H locs ls a b c => hW K _ _ _ _ _ _ ls c (fun ls' c' => (hk ho).2 K h0 H locs ls' a b c')⟩
theorem g_lvat {ls : Array Slot} {nL : Nat} (c : lv_has ls nL (gLs lv)) (j : Nat) {i : Nat} {v : GV} (hj : lv[j]? = some (i, v)) : ls[i]? = some (.val (toV v)) :=
  lv_at c j (by show (lv.map _)[j]? = _; rw [List.getElem?_map, hj]; rfl)
/-- the locals behind a store, as many as are still wanted -/
def g_pk (lv : List (Nat × GV)) (i w : Nat) (v : GV) (ks : List Nat) : List (Nat × GV) := ks.filterMap (fun k => ((i, v) :: lv.filter (fun q => !(q.1 == i) && (!(q.1 == i + 1 && w == 2) && !(q.1 + 1 == i && g_cat q.2 == 2))))[k]?)
theorem g_stored {ls' : Array Slot} {nL i w : Nat} {v : GV} {lv' : List (Nat × GV)} {ks : List Nat} (hl : g_pk lv i w v ks = lv')
    (c : lv_has ls' nL ((i, toV v) :: (gLs lv).filter (fun q => !(q.1 == i) && (!(q.1 == i + 1 && w == 2) && !(q.1 + 1 == i && q.2.category == 2))))) : lv_has ls' nL (gLs lv') := by
  refine ⟨c.1, c.2.1, fun q hq => c.2.2 q ?_⟩
  obtain ⟨z, hz, rfl⟩ := List.mem_map.mp hq
  rw [← hl] at hz
  obtain ⟨k, -, hk⟩ := List.mem_filterMap.mp hz
  have hm := List.mem_of_getElem? hk
  rcases List.mem_cons.mp hm with e | e
  · rw [e]; exact List.mem_cons_self
  · obtain ⟨e1, e2⟩ := List.mem_filter.mp e
    refine List.mem_cons_of_mem _ (List.mem_filter.mpr ⟨List.mem_map.mpr ⟨z, e1, rfl⟩, ?_⟩)
    show (!(z.1 == i) && (!(z.1 == i + 1 && w == 2) && !(z.1 + 1 == i && (toV z.2).category == 2))) = true
    rw [g_cat_eq]
    exact e2
theorem g_f1 {nL i : Nat} {v : Value} {l : List (Nat × Value)} {ls : Array Slot} (c : lv_has ls nL ((i, v) :: l.filter (fun q => !(q.1 == i) && !(q.1 + 1 == i && q.2.category == 2)))) : lv_has ls nL ((i, v) :: l.filter (fun q => !(q.1 == i) && (!(q.1 == i + 1 && (1 : Nat) == 2) && !(q.1 + 1 == i && q.2.category == 2)))) := by
  refine ⟨c.1, c.2.1, fun q hq => c.2.2 q ?_⟩
  rcases List.mem_cons.mp hq with e | e
  · rw [e]; exact List.mem_cons_self
  · obtain ⟨e1, e2⟩ := List.mem_filter.mp e
    refine List.mem_cons_of_mem _ (List.mem_filter.mpr ⟨e1, ?_⟩)
    simpa using e2
theorem g_f2 {nL i : Nat} {v : Value} {l : List (Nat × Value)} {ls : Array Slot} (c : lv_has ls nL ((i, v) :: l.filter (fun q => !(q.1 == i) && (!(q.1 == i + 1) && !(q.1 + 1 == i && q.2.category == 2))))) : lv_has ls nL ((i, v) :: l.filter (fun q => !(q.1 == i) && (!(q.1 == i + 1 && (2 : Nat) == 2) && !(q.1 + 1 == i && q.2.category == 2)))) := by
  refine ⟨c.1, c.2.1, fun q hq => c.2.2 q ?_⟩
  rcases List.mem_cons.mp hq with e | e
  · rw [e]; exact List.mem_cons_self
  · obtain ⟨e1, e2⟩ := List.mem_filter.mp e
    refine List.mem_cons_of_mem _ (List.mem_filter.mpr ⟨e1, ?_⟩)
    simpa using e2
/-- fewer locals, in another order -/
theorem g_sub {lv' : List (Nat × GV)} (ks : List Nat) (hl : ks.filterMap (fun k => lv[k]?) = lv') (hk : gT G l X M cv r hf pc lv' st h o) : gT G l X M cv r hf pc lv st h o := by
  refine gT.pure hk (fun K R H locs cells slots Q ls c k => k ls ⟨c.1, c.2.1, fun q hq => c.2.2 q ?_⟩)
  obtain ⟨z, hz, rfl⟩ := List.mem_map.mp hq
  rw [← hl] at hz
  obtain ⟨j, -, hj⟩ := List.mem_filterMap.mp hz
  exact List.mem_map.mpr ⟨z, List.mem_of_getElem? hj, rfl⟩

theorem g_iconst {n : Int} {v : Int32} (hv : Int32.ofInt n = v) (d : decode (mC M) pc = .ok (.iconst n, 1)) (hk : gT G l X M cv r hf (pc + 1) lv (gi v :: st) h o) : gT G l X M cv r hf pc lv (st) h o :=
  gT.pure hk (fun K _ _ _ _ _ _ ls c k => lv_iconst K.1 K.2.1 d hv (k ls c))
theorem g_bipush {n : Int} {v : Int32} (hv : (Int8.ofInt n).toInt32 = v) (d : decode (mC M) pc = .ok (.bipush n, 2)) (hk : gT G l X M cv r hf (pc + 2) lv (gi v :: st) h o) : gT G l X M cv r hf pc lv (st) h o :=
  gT.pure hk (fun K _ _ _ _ _ _ ls c k => lv_bipush K.1 K.2.1 d hv (k ls c))
theorem g_sipush {n : Int} {v : Int32} (hv : (Int16.ofInt n).toInt32 = v) (d : decode (mC M) pc = .ok (.sipush n, 3)) (hk : gT G l X M cv r hf (pc + 3) lv (gi v :: st) h o) : gT G l X M cv r hf pc lv (st) h o :=
  gT.pure hk (fun K _ _ _ _ _ _ ls c k => lv_sipush K.1 K.2.1 d hv (k ls c))
theorem g_lconst {n : Fin 2} {v : Int64} (hv : Int64.ofNat (n : Nat) = v) (d : decode (mC M) pc = .ok (.lconst n, 1)) (hk : gT G l X M cv r hf (pc + 1) lv (gl v :: st) h o) : gT G l X M cv r hf pc lv (st) h o :=
  gT.pure hk (fun K _ _ _ _ _ _ ls c k => lv_lconst K.1 K.2.1 d hv (k ls c))
theorem g_fconst0 (d : decode (mC M) pc = .ok (.fconst 0, 1)) (hk : gT G l X M cv r hf (pc + 1) lv (gf FP.fconst0 :: st) h o) : gT G l X M cv r hf pc lv (st) h o :=
  gT.pure hk (fun K _ _ _ _ _ _ ls c k => lv_fconst0 K.1 K.2.1 d (k ls c))
theorem g_fconst1 (d : decode (mC M) pc = .ok (.fconst 1, 1)) (hk : gT G l X M cv r hf (pc + 1) lv (gf FP.fconst1 :: st) h o) : gT G l X M cv r hf pc lv (st) h o :=
  gT.pure hk (fun K _ _ _ _ _ _ ls c k => lv_fconst1 K.1 K.2.1 d (k ls c))
theorem g_fconst2 (d : decode (mC M) pc = .ok (.fconst 2, 1)) (hk : gT G l X M cv r hf (pc + 1) lv (gf FP.fconst2 :: st) h o) : gT G l X M cv r hf pc lv (st) h o :=
  gT.pure hk (fun K _ _ _ _ _ _ ls c k => lv_fconst2 K.1 K.2.1 d (k ls c))
theorem g_dconst0 (d : decode (mC M) pc = .ok (.dconst 0, 1)) (hk : gT G l X M cv r hf (pc + 1) lv (gd FP.dconst0 :: st) h o) : gT G l X M cv r hf pc lv (st) h o :=
  gT.pure hk (fun K _ _ _ _ _ _ ls c k => lv_dconst0 K.1 K.2.1 d (k ls c))
theorem g_dconst1 (d : decode (mC M) pc = .ok (.dconst 1, 1)) (hk : gT G l X M cv r hf (pc + 1) lv (gd FP.dconst1 :: st) h o) : gT G l X M cv r hf pc lv (st) h o :=
  gT.pure hk (fun K _ _ _ _ _ _ ls c k => lv_dconst1 K.1 K.2.1 d (k ls c))
theorem g_aconst_null (d : decode (mC M) pc = .ok (.aconst_null, 1)) (hk : gT G l X M cv r hf (pc + 1) lv (gr none :: st) h o) : gT G l X M cv r hf pc lv (st) h o :=
  gT.pure hk (fun K _ _ _ _ _ _ ls c k => lv_null K.1 K.2.1 d (k ls c))
theorem g_iload_n {k' : Fin 4} {i : Nat} {x : Int32} (j : Nat) (hj : lv[j]? = some (i, gi x)) (hi : (k' : Nat) = i) (d : decode (mC M) pc = .ok (.iload_n k', 1)) (hk : gT G l X M cv r hf (pc + 1) lv (gi x :: st) h o) : gT G l X M cv r hf pc lv (st) h o :=
  gT.pure hk (fun K _ _ _ _ _ _ ls c k => lv_iload_n K.1 K.2.1 d hi (g_lvat c j hj) (k ls c))
theorem g_iload {i : Nat} {x : Int32} (j : Nat) (hj : lv[j]? = some (i, gi x)) (d : decode (mC M) pc = .ok (.iload i, 2)) (hk : gT G l X M cv r hf (pc + 2) lv (gi x :: st) h o) : gT G l X M cv r hf pc lv (st) h o :=
  gT.pure hk (fun K _ _ _ _ _ _ ls c k => lv_iload K.1 K.2.1 d (g_lvat c j hj) (k ls c))
theorem g_istore_n {k' : Fin 4} {i : Nat} {x : Int32} {lv' : List (Nat × GV)} (ks : List Nat) (hl : g_pk lv i 1 (gi x) ks = lv') (hi : (k' : Nat) = i) (hn : i < mN M) (d : decode (mC M) pc = .ok (.istore_n k', 1)) (hk : gT G l X M cv r hf (pc + 1) lv' (st) h o) : gT G l X M cv r hf pc lv (gi x :: st) h o :=
  gT.pure hk (fun K _ _ _ _ _ _ ls c k => lv_istore_n K.1 K.2.1 d hi c hn rfl (fun ls' c' => k ls' (g_stored hl (g_f1 c'))))
theorem g_istore {i : Nat} {x : Int32} {lv' : List (Nat × GV)} (ks : List Nat) (hl : g_pk lv i 1 (gi x) ks = lv') (hn : i < mN M) (d : decode (mC M) pc = .ok (.istore i, 2)) (hk : gT G l X M cv r hf (pc + 2) lv' (st) h o) : gT G l X M cv r hf pc lv (gi x :: st) h o :=
  gT.pure hk (fun K _ _ _ _ _ _ ls c k => lv_istore K.1 K.2.1 d c hn rfl (fun ls' c' => k ls' (g_stored hl (g_f1 c'))))
theorem g_lload_n {k' : Fin 4} {i : Nat} {x : Int64} (j : Nat) (hj : lv[j]? = some (i, gl x)) (hi : (k' : Nat) = i) (d : decode (mC M) pc = .ok (.lload_n k', 1)) (hk : gT G l X M cv r hf (pc + 1) lv (gl x :: st) h o) : gT G l X M cv r hf pc lv (st) h o :=
  gT.pure hk (fun K _ _ _ _ _ _ ls c k => lv_lload_n K.1 K.2.1 d hi (g_lvat c j hj) (k ls c))
theorem g_lload {i : Nat} {x : Int64} (j : Nat) (hj : lv[j]? = some (i, gl x)) (d : decode (mC M) pc = .ok (.lload i, 2)) (hk : gT G l X M cv r hf (pc + 2) lv (gl x :: st) h o) : gT G l X M cv r hf pc lv (st) h o :=
  gT.pure hk (fun K _ _ _ _ _ _ ls c k => lv_lload K.1 K.2.1 d (g_lvat c j hj) (k ls c))
theorem g_lstore_n {k' : Fin 4} {i : Nat} {x : Int64} {lv' : List (Nat × GV)} (ks : List Nat) (hl : g_pk lv i 2 (gl x) ks = lv') (hi : (k' : Nat) = i) (hn : i + 1 < mN M) (d : decode (mC M) pc = .ok (.lstore_n k', 1)) (hk : gT G l X M cv r hf (pc + 1) lv' (st) h o) : gT G l X M cv r hf pc lv (gl x :: st) h o :=
  gT.pure hk (fun K _ _ _ _ _ _ ls c k => lv_lstore_n K.1 K.2.1 d hi c hn rfl (fun ls' c' => k ls' (g_stored hl (g_f2 c'))))
theorem g_lstore {i : Nat} {x : Int64} {lv' : List (Nat × GV)} (ks : List Nat) (hl : g_pk lv i 2 (gl x) ks = lv') (hn : i + 1 < mN M) (d : decode (mC M) pc = .ok (.lstore i, 2)) (hk : gT G l X M cv r hf (pc + 2) lv' (st) h o) : gT G l X M cv r hf pc lv (gl x :: st) h o :=
  gT.pure hk (fun K _ _ _ _ _ _ ls c k => lv_lstore K.1 K.2.1 d c hn rfl (fun ls' c' => k ls' (g_stored hl (g_f2 c'))))
theorem g_fload_n {k' : Fin 4} {i : Nat} {x : UInt32} (j : Nat) (hj : lv[j]? = some (i, gf x)) (hi : (k' : Nat) = i) (d : decode (mC M) pc = .ok (.fload_n k', 1)) (hk : gT G l X M cv r hf (pc + 1) lv (gf x :: st) h o) : gT G l X M cv r hf pc lv (st) h o :=
  gT.pure hk (fun K _ _ _ _ _ _ ls c k => lv_fload_n K.1 K.2.1 d hi (g_lvat c j hj) (k ls c))
theorem g_fload {i : Nat} {x : UInt32} (j : Nat) (hj : lv[j]? = some (i, gf x)) (d : decode (mC M) pc = .ok (.fload i, 2)) (hk : gT G l X M cv r hf (pc + 2) lv (gf x :: st) h o) : gT G l X M cv r hf pc lv (st) h o :=
  gT.pure hk (fun K _ _ _ _ _ _ ls c k => lv_fload K.1 K.2.1 d (g_lvat c j hj) (k ls c))
theorem g_fstore_n {k' : Fin 4} {i : Nat} {x : UInt32} {lv' : List (Nat × GV)} (ks : List Nat) (hl : g_pk lv i 1 (gf x) ks = lv') (hi : (k' : Nat) = i) (hn : i < mN M) (d : decode (mC M) pc = .ok (.fstore_n k', 1)) (hk : gT G l X M cv r hf (pc + 1) lv' (st) h o) : gT G l X M cv r hf pc lv (gf x :: st) h o :=
  gT.pure hk (fun K _ _ _ _ _ _ ls c k => lv_fstore_n K.1 K.2.1 d hi c hn rfl (fun ls' c' => k ls' (g_stored hl (g_f1 c'))))
theorem g_fstore {i : Nat} {x : UInt32} {lv' : List (Nat × GV)} (ks : List Nat) (hl : g_pk lv i 1 (gf x) ks = lv') (hn : i < mN M) (d : decode (mC M) pc = .ok (.fstore i, 2)) (hk : gT G l X M cv r hf (pc + 2) lv' (st) h o) : gT G l X M cv r hf pc lv (gf x :: st) h o :=
  gT.pure hk (fun K _ _ _ _ _ _ ls c k => lv_fstore K.1 K.2.1 d c hn rfl (fun ls' c' => k ls' (g_stored hl (g_f1 c'))))
theorem g_dload_n {k' : Fin 4} {i : Nat} {x : UInt64} (j : Nat) (hj : lv[j]? = some (i, gd x)) (hi : (k' : Nat) = i) (d : decode (mC M) pc = .ok (.dload_n k', 1)) (hk : gT G l X M cv r hf (pc + 1) lv (gd x :: st) h o) : gT G l X M cv r hf pc lv (st) h o :=
  gT.pure hk (fun K _ _ _ _ _ _ ls c k => lv_dload_n K.1 K.2.1 d hi (g_lvat c j hj) (k ls c))
theorem g_dload {i : Nat} {x : UInt64} (j : Nat) (hj : lv[j]? = some (i, gd x)) (d : decode (mC M) pc = .ok (.dload i, 2)) (hk : gT G l X M cv r hf (pc + 2) lv (gd x :: st) h o) : gT G l X M cv r hf pc lv (st) h o :=
  gT.pure hk (fun K _ _ _ _ _ _ ls c k => lv_dload K.1 K.2.1 d (g_lvat c j hj) (k ls c))
theorem g_dstore_n {k' : Fin 4} {i : Nat} {x : UInt64} {lv' : List (Nat × GV)} (ks : List Nat) (hl : g_pk lv i 2 (gd x) ks = lv') (hi : (k' : Nat) = i) (hn : i + 1 < mN M) (d : decode (mC M) pc = .ok (.dstore_n k', 1)) (hk : gT G l X M cv r hf (pc + 1) lv' (st) h o) : gT G l X M cv r hf pc lv (gd x :: st) h o :=
  gT.pure hk (fun K _ _ _ _ _ _ ls c k => lv_dstore_n K.1 K.2.1 d hi c hn rfl (fun ls' c' => k ls' (g_stored hl (g_f2 c'))))
theorem g_dstore {i : Nat} {x : UInt64} {lv' : List (Nat × GV)} (ks : List Nat) (hl : g_pk lv i 2 (gd x) ks = lv') (hn : i + 1 < mN M) (d : decode (mC M) pc = .ok (.dstore i, 2)) (hk : gT G l X M cv r hf (pc + 2) lv' (st) h o) : gT G l X M cv r hf pc lv (gd x :: st) h o :=
  gT.pure hk (fun K _ _ _ _ _ _ ls c k => lv_dstore K.1 K.2.1 d c hn rfl (fun ls' c' => k ls' (g_stored hl (g_f2 c'))))
theorem g_aload_n {k' : Fin 4} {i : Nat} {x : Option Nat} (j : Nat) (hj : lv[j]? = some (i, gr x)) (hi : (k' : Nat) = i) (d : decode (mC M) pc = .ok (.aload_n k', 1)) (hk : gT G l X M cv r hf (pc + 1) lv (gr x :: st) h o) : gT G l X M cv r hf pc lv (st) h o := by
  refine gT.pure hk (fun K _ _ _ _ _ _ ls c k => ?_)
  have h1 := g_lvat c j hj
  cases x with
  | none => exact lv_aload_nN K.1 K.2.1 d hi h1 (k ls c)
  | some a => exact lv_aload_n K.1 K.2.1 d hi h1 (k ls c)
theorem g_aload {i : Nat} {x : Option Nat} (j : Nat) (hj : lv[j]? = some (i, gr x)) (d : decode (mC M) pc = .ok (.aload i, 2)) (hk : gT G l X M cv r hf (pc + 2) lv (gr x :: st) h o) : gT G l X M cv r hf pc lv (st) h o := by
  refine gT.pure hk (fun K _ _ _ _ _ _ ls c k => ?_)
  have h1 := g_lvat c j hj
  cases x with
  | none => exact lv_aloadN K.1 K.2.1 d h1 (k ls c)
  | some a => exact lv_aload K.1 K.2.1 d h1 (k ls c)
theorem g_astore_n {k' : Fin 4} {i : Nat} {x : Option Nat} {lv' : List (Nat × GV)} (ks : List Nat) (hl : g_pk lv i 1 (gr x) ks = lv') (hi : (k' : Nat) = i) (hn : i < mN M) (d : decode (mC M) pc = .ok (.astore_n k', 1)) (hk : gT G l X M cv r hf (pc + 1) lv' st h o) : gT G l X M cv r hf pc lv (gr x :: st) h o := by
  refine gT.pure hk (fun K _ _ _ _ _ _ ls c k => ?_)
  cases x with
  | none => exact lv_astore_nN K.1 K.2.1 d hi c hn rfl (fun ls' c' => k ls' (g_stored hl (g_f1 c')))
  | some a => exact lv_astore_n K.1 K.2.1 d hi c hn rfl (fun ls' c' => k ls' (g_stored hl (g_f1 c')))
theorem g_astore {i : Nat} {x : Option Nat} {lv' : List (Nat × GV)} (ks : List Nat) (hl : g_pk lv i 1 (gr x) ks = lv') (hn : i < mN M) (d : decode (mC M) pc = .ok (.astore i, 2)) (hk : gT G l X M cv r hf (pc + 2) lv' st h o) : gT G l X M cv r hf pc lv (gr x :: st) h o := by
  refine gT.pure hk (fun K _ _ _ _ _ _ ls c k => ?_)
  cases x with
  | none => exact lv_astoreN K.1 K.2.1 d c hn rfl (fun ls' c' => k ls' (g_stored hl (g_f1 c')))
  | some a => exact lv_astore K.1 K.2.1 d c hn rfl (fun ls' c' => k ls' (g_stored hl (g_f1 c')))
theorem g_iinc {i : Nat} {n : Int} {x v : Int32} {lv' : List (Nat × GV)} (j : Nat) (hj : lv[j]? = some (i, gi x)) (hv : x + Int32.ofInt n = v) (ks : List Nat) (hl : g_pk lv i 1 (gi v) ks = lv') (hn : i < mN M) (d : decode (mC M) pc = .ok (.iinc i n, 3)) (hk : gT G l X M cv r hf (pc + 3) lv' st h o) : gT G l X M cv r hf pc lv st h o :=
  gT.pure hk (fun K _ _ _ _ _ _ ls c k => lv_iinc K.1 K.2.1 d c (k := j) (by show (lv.map _)[j]? = _; rw [List.getElem?_map, hj]; rfl) hv hn rfl (fun ls' c' => k ls' (g_stored hl (g_f1 c'))))
theorem g_iadd {x y : Int32} (d : decode (mC M) pc = .ok (.iadd, 1)) (hk : gT G l X M cv r hf (pc + 1) lv (gi (x + y) :: st) h o) : gT G l X M cv r hf pc lv (gi y :: gi x :: st) h o :=
  gT.pure hk (fun K _ _ _ _ _ _ ls c k => lv_iadd K.1 K.2.1 d (k ls c))
theorem g_isub {x y : Int32} (d : decode (mC M) pc = .ok (.isub, 1)) (hk : gT G l X M cv r hf (pc + 1) lv (gi (x - y) :: st) h o) : gT G l X M cv r hf pc lv (gi y :: gi x :: st) h o :=
  gT.pure hk (fun K _ _ _ _ _ _ ls c k => lv_isub K.1 K.2.1 d (k ls c))
theorem g_imul {x y : Int32} (d : decode (mC M) pc = .ok (.imul, 1)) (hk : gT G l X M cv r hf (pc + 1) lv (gi (x * y) :: st) h o) : gT G l X M cv r hf pc lv (gi y :: gi x :: st) h o :=
  gT.pure hk (fun K _ _ _ _ _ _ ls c k => lv_imul K.1 K.2.1 d (k ls c))
theorem g_iand {x y : Int32} (d : decode (mC M) pc = .ok (.iand, 1)) (hk : gT G l X M cv r hf (pc + 1) lv (gi (x &&& y) :: st) h o) : gT G l X M cv r hf pc lv (gi y :: gi x :: st) h o :=
  gT.pure hk (fun K _ _ _ _ _ _ ls c k => lv_iand K.1 K.2.1 d (k ls c))
theorem g_ior {x y : Int32} (d : decode (mC M) pc = .ok (.ior, 1)) (hk : gT G l X M cv r hf (pc + 1) lv (gi (x ||| y) :: st) h o) : gT G l X M cv r hf pc lv (gi y :: gi x :: st) h o :=
  gT.pure hk (fun K _ _ _ _ _ _ ls c k => lv_ior K.1 K.2.1 d (k ls c))
theorem g_ixor {x y : Int32} (d : decode (mC M) pc = .ok (.ixor, 1)) (hk : gT G l X M cv r hf (pc + 1) lv (gi (x ^^^ y) :: st) h o) : gT G l X M cv r hf pc lv (gi y :: gi x :: st) h o :=
  gT.pure hk (fun K _ _ _ _ _ _ ls c k => lv_ixor K.1 K.2.1 d (k ls c))
theorem g_ishl {x y : Int32} (d : decode (mC M) pc = .ok (.ishl, 1)) (hk : gT G l X M cv r hf (pc + 1) lv (gi (x <<< (y &&& 31)) :: st) h o) : gT G l X M cv r hf pc lv (gi y :: gi x :: st) h o :=
  gT.pure hk (fun K _ _ _ _ _ _ ls c k => lv_ishl K.1 K.2.1 d (k ls c))
theorem g_ishr {x y : Int32} (d : decode (mC M) pc = .ok (.ishr, 1)) (hk : gT G l X M cv r hf (pc + 1) lv (gi (x >>> (y &&& 31)) :: st) h o) : gT G l X M cv r hf pc lv (gi y :: gi x :: st) h o :=
  gT.pure hk (fun K _ _ _ _ _ _ ls c k => lv_ishr K.1 K.2.1 d (k ls c))
theorem g_iushr {x y : Int32} (d : decode (mC M) pc = .ok (.iushr, 1)) (hk : gT G l X M cv r hf (pc + 1) lv (gi ((x.toUInt32 >>> (y.toUInt32 &&& Int32.toUInt32 31)).toInt32) :: st) h o) : gT G l X M cv r hf pc lv (gi y :: gi x :: st) h o :=
  gT.pure hk (fun K _ _ _ _ _ _ ls c k => lv_iushr K.1 K.2.1 d rfl (k ls c))
theorem g_ineg {x : Int32} (d : decode (mC M) pc = .ok (.ineg, 1)) (hk : gT G l X M cv r hf (pc + 1) lv (gi (-x) :: st) h o) : gT G l X M cv r hf pc lv (gi x :: st) h o :=
  gT.pure hk (fun K _ _ _ _ _ _ ls c k => lv_ineg K.1 K.2.1 d (k ls c))
theorem g_ladd {x y : Int64} (d : decode (mC M) pc = .ok (.ladd, 1)) (hk : gT G l X M cv r hf (pc + 1) lv (gl (x + y) :: st) h o) : gT G l X M cv r hf pc lv (gl y :: gl x :: st) h o :=
  gT.pure hk (fun K _ _ _ _ _ _ ls c k => lv_ladd K.1 K.2.1 d (k ls c))
theorem g_lsub {x y : Int64} (d : decode (mC M) pc = .ok (.lsub, 1)) (hk : gT G l X M cv r hf (pc + 1) lv (gl (x - y) :: st) h o) : gT G l X M cv r hf pc lv (gl y :: gl x :: st) h o :=
  gT.pure hk (fun K _ _ _ _ _ _ ls c k => lv_lsub K.1 K.2.1 d (k ls c))
theorem g_lmul {x y : Int64} (d : decode (mC M) pc = .ok (.lmul, 1)) (hk : gT G l X M cv r hf (pc + 1) lv (gl (x * y) :: st) h o) : gT G l X M cv r hf pc lv (gl y :: gl x :: st) h o :=
  gT.pure hk (fun K _ _ _ _ _ _ ls c k => lv_lmul K.1 K.2.1 d (k ls c))
theorem g_land {x y : Int64} (d : decode (mC M) pc = .ok (.land, 1)) (hk : gT G l X M cv r hf (pc + 1) lv (gl (x &&& y) :: st) h o) : gT G l X M cv r hf pc lv (gl y :: gl x :: st) h o :=
  gT.pure hk (fun K _ _ _ _ _ _ ls c k => lv_land K.1 K.2.1 d (k ls c))
theorem g_lor {x y : Int64} (d : decode (mC M) pc = .ok (.lor, 1)) (hk : gT G l X M cv r hf (pc + 1) lv (gl (x ||| y) :: st) h o) : gT G l X M cv r hf pc lv (gl y :: gl x :: st) h o :=
  gT.pure hk (fun K _ _ _ _ _ _ ls c k => lv_lor K.1 K.2.1 d (k ls c))
theorem g_lxor {x y : Int64} (d : decode (mC M) pc = .ok (.lxor, 1)) (hk : gT G l X M cv r hf (pc + 1) lv (gl (x ^^^ y) :: st) h o) : gT G l X M cv r hf pc lv (gl y :: gl x :: st) h o :=
  gT.pure hk (fun K _ _ _ _ _ _ ls c k => lv_lxor K.1 K.2.1 d (k ls c))
theorem g_lneg {x : Int64} (d : decode (mC M) pc = .ok (.lneg, 1)) (hk : gT G l X M cv r hf (pc + 1) lv (gl (-x) :: st) h o) : gT G l X M cv r hf pc lv (gl x :: st) h o :=
  gT.pure hk (fun K _ _ _ _ _ _ ls c k => lv_lneg K.1 K.2.1 d (k ls c))
theorem g_lshl {x : Int64} {y : Int32} (d : decode (mC M) pc = .ok (.lshl, 1)) (hk : gT G l X M cv r hf (pc + 1) lv (gl (x <<< (y.toInt64 &&& 63)) :: st) h o) : gT G l X M cv r hf pc lv (gi y :: gl x :: st) h o :=
  gT.pure hk (fun K _ _ _ _ _ _ ls c k => lv_lshl K.1 K.2.1 d rfl (k ls c))
theorem g_lshr {x : Int64} {y : Int32} (d : decode (mC M) pc = .ok (.lshr, 1)) (hk : gT G l X M cv r hf (pc + 1) lv (gl (x >>> (y.toInt64 &&& 63)) :: st) h o) : gT G l X M cv r hf pc lv (gi y :: gl x :: st) h o :=
  gT.pure hk (fun K _ _ _ _ _ _ ls c k => lv_lshr K.1 K.2.1 d rfl (k ls c))
theorem g_i2l {x : Int32} (d : decode (mC M) pc = .ok (.i2l, 1)) (hk : gT G l X M cv r hf (pc + 1) lv (gl x.toInt64 :: st) h o) : gT G l X M cv r hf pc lv (gi x :: st) h o :=
  gT.pure hk (fun K _ _ _ _ _ _ ls c k => lv_i2l K.1 K.2.1 d rfl (k ls c))
theorem g_l2i {x : Int64} (d : decode (mC M) pc = .ok (.l2i, 1)) (hk : gT G l X M cv r hf (pc + 1) lv (gi x.toInt32 :: st) h o) : gT G l X M cv r hf pc lv (gl x :: st) h o :=
  gT.pure hk (fun K _ _ _ _ _ _ ls c k => lv_l2i K.1 K.2.1 d rfl (k ls c))
theorem g_i2b {x : Int32} (d : decode (mC M) pc = .ok (.i2b, 1)) (hk : gT G l X M cv r hf (pc + 1) lv (gi x.toInt8.toInt32 :: st) h o) : gT G l X M cv r hf pc lv (gi x :: st) h o :=
  gT.pure hk (fun K _ _ _ _ _ _ ls c k => lv_i2b K.1 K.2.1 d rfl (k ls c))
theorem g_i2c {x : Int32} (d : decode (mC M) pc = .ok (.i2c, 1)) (hk : gT G l X M cv r hf (pc + 1) lv (gi (x.toUInt32 % 65536).toInt32 :: st) h o) : gT G l X M cv r hf pc lv (gi x :: st) h o :=
  gT.pure hk (fun K _ _ _ _ _ _ ls c k => lv_i2c K.1 K.2.1 d rfl (k ls c))
theorem g_lcmp {x y : Int64} (d : decode (mC M) pc = .ok (.lcmp, 1)) (hk : gT G l X M cv r hf (pc + 1) lv (gi (lg_cmp x y) :: st) h o) : gT G l X M cv r hf pc lv (gl y :: gl x :: st) h o :=
  gT.pure hk (fun K _ _ _ _ _ _ ls c k => W.lcmp K.1 K.2.1 d (k ls c))
theorem g_i2f {x : Int32} (d : decode (mC M) pc = .ok (.i2f, 1)) (hk : gT G l X M cv r hf (pc + 1) lv (gf (FP.i2f x) :: st) h o) : gT G l X M cv r hf pc lv (gi x :: st) h o :=
  gT.pure hk (fun K _ _ _ _ _ _ ls c k => lv_i2f K.1 K.2.1 d (k ls c))
theorem g_i2d {x : Int32} (d : decode (mC M) pc = .ok (.i2d, 1)) (hk : gT G l X M cv r hf (pc + 1) lv (gd (FP.i2d x) :: st) h o) : gT G l X M cv r hf pc lv (gi x :: st) h o :=
  gT.pure hk (fun K _ _ _ _ _ _ ls c k => lv_i2d K.1 K.2.1 d (k ls c))
theorem g_f2i {x : UInt32} (d : decode (mC M) pc = .ok (.f2i, 1)) (hk : gT G l X M cv r hf (pc + 1) lv (gi (FP.f2i x) :: st) h o) : gT G l X M cv r hf pc lv (gf x :: st) h o :=
  gT.pure hk (fun K _ _ _ _ _ _ ls c k => lv_f2i K.1 K.2.1 d (k ls c))
theorem g_fcmp {x y : UInt32} {op : CmpOp} (d : decode (mC M) pc = .ok (.fcmp op, 1)) (hk : gT G l X M cv r hf (pc + 1) lv (gi (Op.cmpValue (FP.fcmp x y) op) :: st) h o) : gT G l X M cv r hf pc lv (gf y :: gf x :: st) h o :=
  gT.pure hk (fun K _ _ _ _ _ _ ls c k => lv_fcmp K.1 K.2.1 d (k ls c))
theorem g_dcmp {x y : UInt64} {op : CmpOp} (d : decode (mC M) pc = .ok (.dcmp op, 1)) (hk : gT G l X M cv r hf (pc + 1) lv (gi (Op.cmpValue (FP.dcmp x y) op) :: st) h o) : gT G l X M cv r hf pc lv (gd y :: gd x :: st) h o :=
  gT.pure hk (fun K _ _ _ _ _ _ ls c k => lv_dcmp K.1 K.2.1 d (k ls c))
theorem g_dup {v : GV} (hc : g_cat v = 1) (d : decode (mC M) pc = .ok (.dup, 1)) (hk : gT G l X M cv r hf (pc + 1) lv (v :: v :: st) h o) : gT G l X M cv r hf pc lv (v :: st) h o :=
  gT.pure hk (fun K _ _ _ _ _ _ ls c k => lv_dup K.1 K.2.1 d ((g_cat_eq v).trans hc) (k ls c))
theorem g_pop {v : GV} (hc : g_cat v = 1) (d : decode (mC M) pc = .ok (.pop, 1)) (hk : gT G l X M cv r hf (pc + 1) lv (st) h o) : gT G l X M cv r hf pc lv (v :: st) h o :=
  gT.pure hk (fun K _ _ _ _ _ _ ls c k => lv_pop K.1 K.2.1 d ((g_cat_eq v).trans hc) (k ls c))
theorem g_dup_x1 {v w : GV} (hc : g_cat v = 1) (hc2 : g_cat w = 1) (d : decode (mC M) pc = .ok (.dup_x1, 1)) (hk : gT G l X M cv r hf (pc + 1) lv (v :: w :: v :: st) h o) : gT G l X M cv r hf pc lv (v :: w :: st) h o :=
  gT.pure hk (fun K _ _ _ _ _ _ ls c k => lv_dup_x1 K.1 K.2.1 d ((g_cat_eq v).trans hc) ((g_cat_eq w).trans hc2) (k ls c))
theorem g_dup_x2 {v w u : GV} (hc : g_cat v = 1) (hc2 : g_cat w = 1) (hc3 : g_cat u = 1) (d : decode (mC M) pc = .ok (.dup_x2, 1)) (hk : gT G l X M cv r hf (pc + 1) lv (v :: w :: u :: v :: st) h o) : gT G l X M cv r hf pc lv (v :: w :: u :: st) h o :=
  gT.pure hk (fun K _ _ _ _ _ _ ls c k => lv_dup_x2 K.1 K.2.1 d ((g_cat_eq v).trans hc) ((g_cat_eq w).trans hc2) ((g_cat_eq u).trans hc3) (k ls c))
theorem g_dup2 {v w : GV} (hc : g_cat v = 1) (hc2 : g_cat w = 1) (d : decode (mC M) pc = .ok (.dup2, 1)) (hk : gT G l X M cv r hf (pc + 1) lv (v :: w :: v :: w :: st) h o) : gT G l X M cv r hf pc lv (v :: w :: st) h o :=
  gT.pure hk (fun K _ _ _ _ _ _ ls c k => lv_dup2_11 K.1 K.2.1 d ((g_cat_eq v).trans hc) ((g_cat_eq w).trans hc2) (k ls c))
theorem g_dup2_2 {v : GV} (hc : g_cat v = 2) (d : decode (mC M) pc = .ok (.dup2, 1)) (hk : gT G l X M cv r hf (pc + 1) lv (v :: v :: st) h o) : gT G l X M cv r hf pc lv (v :: st) h o :=
  gT.pure hk (fun K _ _ _ _ _ _ ls c k => lv_dup2_2 K.1 K.2.1 d ((g_cat_eq v).trans hc) (k ls c))
theorem g_goto {off : Int} {tgt : Nat} (ht : (pc : Int) + off = (tgt : Int)) (d : decode (mC M) pc = .ok (.goto off, 3)) (hk : gT G l X M cv r hf tgt lv st h o) : gT G l X M cv r hf pc lv st h o :=
  gT.pure hk (fun K _ _ _ _ _ _ ls c k => lv_goto K.1 K.2.1 d ht (k ls c))
/-- two ways on -/
theorem gT.ite {p : Prop} [Decidable p] {t1 t2 : Nat} {st1 st2 : List GV} {o1 o2 : Out α} (k1 : gT G l X M cv r hf t1 lv st1 h o1) (k2 : gT G l X M cv r hf t2 lv st2 h o2) (hW : Cx G l X M → ∀ (R : Room) (H : Heap) (locs : List Loc) (cells slots : Nat) (Q : State → Prop) (ls : Array Slot), lv_has ls (mN M) (gLs lv) → (p → gW l X R H locs cells slots Q (F0 (xM X) t1 ls (gVs st1))) → (¬ p → gW l X R H locs cells slots Q (F0 (xM X) t2 ls (gVs st2))) → gW l X R H locs cells slots Q (F0 (xM X) pc ls (gVs st))) : gT G l X M cv r hf pc lv st h (if p then o1 else o2) := by
  intro ho
  by_cases hp : p
  · rw [if_pos hp] at ho
    exact ⟨(k1 ho).1, fun K h0 H locs ls a b c => hW K _ _ _ _ _ _ ls c (fun _ => (k1 ho).2 K h0 H locs ls a b c) (fun hn => absurd hp hn)⟩
  · rw [if_neg hp] at ho
    exact ⟨(k2 ho).1, fun K h0 H locs ls a b c => hW K _ _ _ _ _ _ ls c (fun hn => absurd hn hp) (fun _ => (k2 ho).2 K h0 H locs ls a b c)⟩
theorem g_if_eq {x : Int32} {o1 o2 : Out α} {off : Int} {tgt : Nat} (ht : (pc : Int) + off = (tgt : Int)) (d : decode (mC M) pc = .ok (.ifCond .eq off, 3)) (k1 : gT G l X M cv r hf tgt lv st h o1) (k2 : gT G l X M cv r hf (pc + 3) lv st h o2) : gT G l X M cv r hf pc lv (gi x :: st) h (if x = 0 then o1 else o2) :=
  gT.ite k1 k2 (fun K _ _ _ _ _ _ ls c a b => lv_if_eq K.1 K.2.1 d ht a b)
theorem g_icmp_eq {x y : Int32} {o1 o2 : Out α} {off : Int} {tgt : Nat} (ht : (pc : Int) + off = (tgt : Int)) (d : decode (mC M) pc = .ok (.if_icmp .eq off, 3)) (k1 : gT G l X M cv r hf tgt lv st h o1) (k2 : gT G l X M cv r hf (pc + 3) lv st h o2) : gT G l X M cv r hf pc lv (gi y :: gi x :: st) h (if x = y then o1 else o2) :=
  gT.ite k1 k2 (fun K _ _ _ _ _ _ ls c a b => lv_icmp_eq K.1 K.2.1 d ht a b)
theorem g_if_ne {x : Int32} {o1 o2 : Out α} {off : Int} {tgt : Nat} (ht : (pc : Int) + off = (tgt : Int)) (d : decode (mC M) pc = .ok (.ifCond .ne off, 3)) (k1 : gT G l X M cv r hf (pc + 3) lv st h o1) (k2 : gT G l X M cv r hf tgt lv st h o2) : gT G l X M cv r hf pc lv (gi x :: st) h (if x = 0 then o1 else o2) :=
  gT.ite k1 k2 (fun K _ _ _ _ _ _ ls c a b => lv_if_ne K.1 K.2.1 d ht b a)
theorem g_icmp_ne {x y : Int32} {o1 o2 : Out α} {off : Int} {tgt : Nat} (ht : (pc : Int) + off = (tgt : Int)) (d : decode (mC M) pc = .ok (.if_icmp .ne off, 3)) (k1 : gT G l X M cv r hf (pc + 3) lv st h o1) (k2 : gT G l X M cv r hf tgt lv st h o2) : gT G l X M cv r hf pc lv (gi y :: gi x :: st) h (if x = y then o1 else o2) :=
  gT.ite k1 k2 (fun K _ _ _ _ _ _ ls c a b => lv_icmp_ne K.1 K.2.1 d ht b a)
theorem g_if_lt {x : Int32} {o1 o2 : Out α} {off : Int} {tgt : Nat} (ht : (pc : Int) + off = (tgt : Int)) (d : decode (mC M) pc = .ok (.ifCond .lt off, 3)) (k1 : gT G l X M cv r hf tgt lv st h o1) (k2 : gT G l X M cv r hf (pc + 3) lv st h o2) : gT G l X M cv r hf pc lv (gi x :: st) h (if x < 0 then o1 else o2) :=
  gT.ite k1 k2 (fun K _ _ _ _ _ _ ls c a b => lv_if_lt K.1 K.2.1 d ht a b)
theorem g_icmp_lt {x y : Int32} {o1 o2 : Out α} {off : Int} {tgt : Nat} (ht : (pc : Int) + off = (tgt : Int)) (d : decode (mC M) pc = .ok (.if_icmp .lt off, 3)) (k1 : gT G l X M cv r hf tgt lv st h o1) (k2 : gT G l X M cv r hf (pc + 3) lv st h o2) : gT G l X M cv r hf pc lv (gi y :: gi x :: st) h (if x < y then o1 else o2) :=
  gT.ite k1 k2 (fun K _ _ _ _ _ _ ls c a b => lv_icmp_lt K.1 K.2.1 d ht a b)
theorem g_if_ge {x : Int32} {o1 o2 : Out α} {off : Int} {tgt : Nat} (ht : (pc : Int) + off = (tgt : Int)) (d : decode (mC M) pc = .ok (.ifCond .ge off, 3)) (k1 : gT G l X M cv r hf tgt lv st h o1) (k2 : gT G l X M cv r hf (pc + 3) lv st h o2) : gT G l X M cv r hf pc lv (gi x :: st) h (if 0 ≤ x then o1 else o2) :=
  gT.ite k1 k2 (fun K _ _ _ _ _ _ ls c a b => lv_if_ge K.1 K.2.1 d ht a b)
theorem g_icmp_ge {x y : Int32} {o1 o2 : Out α} {off : Int} {tgt : Nat} (ht : (pc : Int) + off = (tgt : Int)) (d : decode (mC M) pc = .ok (.if_icmp .ge off, 3)) (k1 : gT G l X M cv r hf tgt lv st h o1) (k2 : gT G l X M cv r hf (pc + 3) lv st h o2) : gT G l X M cv r hf pc lv (gi y :: gi x :: st) h (if y ≤ x then o1 else o2) :=
  gT.ite k1 k2 (fun K _ _ _ _ _ _ ls c a b => lv_icmp_ge K.1 K.2.1 d ht a b)
theorem g_if_gt {x : Int32} {o1 o2 : Out α} {off : Int} {tgt : Nat} (ht : (pc : Int) + off = (tgt : Int)) (d : decode (mC M) pc = .ok (.ifCond .gt off, 3)) (k1 : gT G l X M cv r hf tgt lv st h o1) (k2 : gT G l X M cv r hf (pc + 3) lv st h o2) : gT G l X M cv r hf pc lv (gi x :: st) h (if 0 < x then o1 else o2) :=
  gT.ite k1 k2 (fun K _ _ _ _ _ _ ls c a b => lv_if_gt K.1 K.2.1 d ht a b)
theorem g_icmp_gt {x y : Int32} {o1 o2 : Out α} {off : Int} {tgt : Nat} (ht : (pc : Int) + off = (tgt : Int)) (d : decode (mC M) pc = .ok (.if_icmp .gt off, 3)) (k1 : gT G l X M cv r hf tgt lv st h o1) (k2 : gT G l X M cv r hf (pc + 3) lv st h o2) : gT G l X M cv r hf pc lv (gi y :: gi x :: st) h (if y < x then o1 else o2) :=
  gT.ite k1 k2 (fun K _ _ _ _ _ _ ls c a b => lv_icmp_gt K.1 K.2.1 d ht a b)
theorem g_if_le {x : Int32} {o1 o2 : Out α} {off : Int} {tgt : Nat} (ht : (pc : Int) + off = (tgt : Int)) (d : decode (mC M) pc = .ok (.ifCond .le off, 3)) (k1 : gT G l X M cv r hf tgt lv st h o1) (k2 : gT G l X M cv r hf (pc + 3) lv st h o2) : gT G l X M cv r hf pc lv (gi x :: st) h (if x ≤ 0 then o1 else o2) :=
  gT.ite k1 k2 (fun K _ _ _ _ _ _ ls c a b => lv_if_le K.1 K.2.1 d ht a b)
theorem g_icmp_le {x y : Int32} {o1 o2 : Out α} {off : Int} {tgt : Nat} (ht : (pc : Int) + off = (tgt : Int)) (d : decode (mC M) pc = .ok (.if_icmp .le off, 3)) (k1 : gT G l X M cv r hf tgt lv st h o1) (k2 : gT G l X M cv r hf (pc + 3) lv st h o2) : gT G l X M cv r hf pc lv (gi y :: gi x :: st) h (if x ≤ y then o1 else o2) :=
  gT.ite k1 k2 (fun K _ _ _ _ _ _ ls c a b => lv_icmp_le K.1 K.2.1 d ht a b)
theorem g_acmp_eq {x y : Option Nat} {o1 o2 : Out α} {off : Int} {tgt : Nat} (ht : (pc : Int) + off = (tgt : Int)) (d : decode (mC M) pc = .ok (.if_acmp .eq off, 3)) (k1 : gT G l X M cv r hf tgt lv st h o1) (k2 : gT G l X M cv r hf (pc + 3) lv st h o2) : gT G l X M cv r hf pc lv (gr y :: gr x :: st) h (if x = y then o1 else o2) :=
  gT.ite k1 k2 (fun K _ _ _ _ _ _ ls c a b => lv_acmp_eq K.1 K.2.1 d ht a b)
theorem g_acmp_ne {x y : Option Nat} {o1 o2 : Out α} {off : Int} {tgt : Nat} (ht : (pc : Int) + off = (tgt : Int)) (d : decode (mC M) pc = .ok (.if_acmp .ne off, 3)) (k1 : gT G l X M cv r hf (pc + 3) lv st h o1) (k2 : gT G l X M cv r hf tgt lv st h o2) : gT G l X M cv r hf pc lv (gr y :: gr x :: st) h (if x = y then o1 else o2) :=
  gT.ite k1 k2 (fun K _ _ _ _ _ _ ls c a b => lv_acmp_ne K.1 K.2.1 d ht b a)
theorem g_ifnull {x : Option Nat} {o1 o2 : Out α} {off : Int} {tgt : Nat} (ht : (pc : Int) + off = (tgt : Int)) (d : decode (mC M) pc = .ok (.ifnull off, 3)) (k1 : gT G l X M cv r hf tgt lv st h o1) (k2 : gT G l X M cv r hf (pc + 3) lv st h o2) : gT G l X M cv r hf pc lv (gr x :: st) h (if x = none then o1 else o2) := by
  refine gT.ite k1 k2 (fun K _ _ _ _ _ _ ls c a b => ?_)
  cases x with
  | none => exact lv_ifnullN K.1 K.2.1 d ht (a rfl)
  | some x => exact lv_ifnull K.1 K.2.1 d (b (fun q => nomatch q))
theorem g_ifnonnull {x : Option Nat} {o1 o2 : Out α} {off : Int} {tgt : Nat} (ht : (pc : Int) + off = (tgt : Int)) (d : decode (mC M) pc = .ok (.ifnonnull off, 3)) (k1 : gT G l X M cv r hf (pc + 3) lv st h o1) (k2 : gT G l X M cv r hf tgt lv st h o2) : gT G l X M cv r hf pc lv (gr x :: st) h (if x = none then o1 else o2) := by
  refine gT.ite k1 k2 (fun K _ _ _ _ _ _ ls c a b => ?_)
  cases x with
  | none => exact lv_ifnonnullN K.1 K.2.1 d (a rfl)
  | some x => exact lv_ifnonnull K.1 K.2.1 d ht (b (fun q => nomatch q))
end GP
