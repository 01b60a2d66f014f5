/-! switches -/
def gSel {α : Type} (x : Int32) : List (Int32 × Out α) → Out α → Out α
  | [], d => d
  | (k, o) :: t, d => if x = k then o else gSel x t d
def g_lk (td : Nat) (x : Int32) : List (Int32 × Nat) → Nat
  | [] => td
  | (k, t) :: r => if x = k then t else g_lk td x r
section GSW
variable {α : Type} {G : GG} {l : Launch} {X : CTX} {M : MI} {cv : α → Option Value} {r : α ⊕ Nat} {hf : Hp} {pc len : Nat} {lv : List (Nat × GV)} {st : List GV} {h : Hp} {o : Out α}
def gAll {α : Type} (G : GG) (l : Launch) (X : CTX) (M : MI) (cv : α → Option Value) (r : α ⊕ Nat) (hf : Hp) (lv : List (Nat × GV)) (st : List GV) (h : Hp) : List (Int32 × Nat) → List (Int32 × Out α) → Prop
  | (k, t) :: ks, (k', o) :: os => k = k' ∧ gT G l X M cv r hf t lv st h o ∧ gAll G l X M cv r hf lv st h ks os
  | [], [] => True
  | _, _ => False
theorem gAll_at {td : Nat} {od : Out α} (hd : gT G l X M cv r hf td lv st h od) (x : Int32) : ∀ (ks : List (Int32 × Nat)) (os : List (Int32 × Out α)), gAll G l X M cv r hf lv st h ks os → gT G l X M cv r hf (g_lk td x ks) lv st h (gSel x os od)
  | [], [], _ => hd
  | [], _ :: _, h => h.elim
  | _ :: _, [], h => h.elim
  | (k, t) :: ks, (k', o) :: os, ⟨e, h1, h2⟩ => by
    subst e
    show gT G l X M cv r hf (if x = k then t else g_lk td x ks) lv st h (if x = k then o else gSel x os od)
    by_cases hx : x = k
    · rw [if_pos hx, if_pos hx]; exact h1
    · rw [if_neg hx, if_neg hx]; exact gAll_at hd x ks os h2
theorem g_lk_out {td : Nat} {x : Int32} : ∀ (ks : List (Int32 × Nat)), (∀ e ∈ ks, ¬ x = e.1) → g_lk td x ks = td
  | [], _ => rfl
  | (k, t) :: r, h => by
    show (if x = k then t else g_lk td x r) = td
    rw [if_neg (h (k, t) List.mem_cons_self)]
    exact g_lk_out r (fun e he => h e (List.mem_cons_of_mem _ he))
def g_tchk (pc td : Nat) (dflt lo hi : Int) (offs : Array Int) (ks : List (Int32 × Nat)) : Bool :=
  ks.all (fun e => decide (¬ e.1.toInt < lo) && decide (¬ hi < e.1.toInt)) && decide ((td : Int) = pc + dflt) && decide ((offs.size : Int) = hi - lo + 1) &&
  (List.range offs.size).all (fun j => offs[j]? == some ((g_lk td (Int32.ofInt (lo + j)) ks : Int) - pc))
theorem g_tableswitch {x : Int32} {dflt lo hi : Int} {offs : Array Int} {td : Nat} {os : List (Int32 × Out α)} {od : Out α} (ks : List (Int32 × Nat)) (hc : g_tchk pc td dflt lo hi offs ks = true) (d : decode (mC M) pc = .ok (.tableswitch dflt lo hi offs, len)) (hd : gT G l X M cv r hf td lv st h od) (ha : gAll G l X M cv r hf lv st h ks os) : gT G l X M cv r hf pc lv (gi x :: st) h (gSel x os od) := by
  simp only [g_tchk, Bool.and_eq_true, List.all_eq_true, decide_eq_true_eq, beq_iff_eq, List.mem_range] at hc
  obtain ⟨⟨⟨c1, c2⟩, c3⟩, c4⟩ := hc
  refine gT.pure (gAll_at hd x ks os ha) (fun K _ _ _ _ _ _ ls c k => ?_)
  by_cases hx : x.toInt < lo ∨ hi < x.toInt
  · have e : g_lk td x ks = td := g_lk_out ks (fun e he q => by
      have := c1 e he
      rw [q] at hx
      omega)
    rw [e] at k
    exact lv_tableOut K.1 K.2.1 d hx c2.symm (k ls c)
  · have h1 : ¬ x.toInt < lo := fun q => hx (Or.inl q)
    have h2 : ¬ hi < x.toInt := fun q => hx (Or.inr q)
    have h3 := c4 (x.toInt - lo).toNat (by omega)
    have h4 : lo + ((x.toInt - lo).toNat : Int) = x.toInt := by omega
    rw [h4, Int32.ofInt_toInt] at h3
    exact lv_tableIn K.1 K.2.1 d h1 h2 h3 (by omega) (k ls c)
def g_lchk (pc td : Nat) (dflt : Int) (ps : List (Int × Int)) (ks : List (Int32 × Nat)) : Bool :=
  (ps.zip (ps.drop 1)).all (fun (a, next) => a.1 < next.1) && decide ((td : Int) = pc + dflt) && decide (ks.map (fun e => (e.1.toInt, (e.2 : Int) - pc)) = ps)
theorem g_lk_off {pc td : Nat} {dflt : Int} (hd : (td : Int) = pc + dflt) (x : Int32) : ∀ ks : List (Int32 × Nat), (pc : Int) + Op.lookupswitch.offset (ks.map (fun e => (e.1.toInt, (e.2 : Int) - pc))) dflt x.toInt = (g_lk td x ks : Int)
  | [] => hd.symm
  | (k, t) :: ks => by
    show (pc : Int) + Op.lookupswitch.offset ((k.toInt, (t : Int) - pc) :: ks.map (fun e => (e.1.toInt, (e.2 : Int) - pc))) dflt x.toInt = ((if x = k then t else g_lk td x ks : Nat) : Int)
    rw [Op.lookupswitch.offset_cons]
    by_cases hx : x = k
    · subst hx
      rw [if_pos rfl, if_pos rfl]
      omega
    · rw [if_neg hx, if_neg (fun q => hx (Int32.toInt_inj.mp q).symm)]
      exact g_lk_off hd x ks
theorem g_lookupswitch {x : Int32} {dflt : Int} {ps : Array (Int × Int)} {td : Nat} {os : List (Int32 × Out α)} {od : Out α} (ks : List (Int32 × Nat)) (hc : g_lchk pc td dflt ps.toList ks = true) (d : decode (mC M) pc = .ok (.lookupswitch dflt ps, len)) (hd : gT G l X M cv r hf td lv st h od) (ha : gAll G l X M cv r hf lv st h ks os) : gT G l X M cv r hf pc lv (gi x :: st) h (gSel x os od) := by
  simp only [g_lchk, Bool.and_eq_true, decide_eq_true_eq] at hc
  obtain ⟨⟨c1, c2⟩, c3⟩ := hc
  refine gT.pure (gAll_at hd x ks os ha) (fun K _ _ _ _ _ _ ls c k => ?_)
  refine lv_lookup K.1 K.2.1 d c1 rfl ?_ (k ls c)
  rw [← c3]
  exact g_lk_off c2 x ks
/-! what may fail -/
def gDv (x y : Int32) (k : Int32 → Out α) : Out α := if y = 0 then none else k (x / y)
def gRm (x y : Int32) (k : Int32 → Out α) : Out α := if y = 0 then none else k (x - x / y * y)
def gDvl (x y : Int64) (k : Int64 → Out α) : Out α := if y = 0 then none else k (x / y)
def gRml (x y : Int64) (k : Int64 → Out α) : Out α := if y = 0 then none else k (x - x / y * y)
theorem g_idiv {x y : Int32} {k : Int32 → Out α} (d : decode (mC M) pc = .ok (.idiv, 1)) (hk : ∀ v, gT G l X M cv r hf (pc + 1) lv (gi v :: st) h (k v)) : gT G l X M cv r hf pc lv (gi y :: gi x :: st) h (gDv x y k) := by
  unfold gDv
  by_cases hy : y = 0
  · rw [if_pos hy]; exact g_none
  · rw [if_neg hy]; exact gT.pure (hk _) (fun K _ _ _ _ _ _ ls c k => lv_idiv K.1 K.2.1 d hy (k ls c))
theorem g_irem {x y : Int32} {k : Int32 → Out α} (d : decode (mC M) pc = .ok (.irem, 1)) (hk : ∀ v, gT G l X M cv r hf (pc + 1) lv (gi v :: st) h (k v)) : gT G l X M cv r hf pc lv (gi y :: gi x :: st) h (gRm x y k) := by
  unfold gRm
  by_cases hy : y = 0
  · rw [if_pos hy]; exact g_none
  · rw [if_neg hy]; exact gT.pure (hk _) (fun K _ _ _ _ _ _ ls c k => lv_irem K.1 K.2.1 d hy (k ls c))
theorem g_ldiv {x y : Int64} {k : Int64 → Out α} (d : decode (mC M) pc = .ok (.ldiv, 1)) (hk : ∀ v, gT G l X M cv r hf (pc + 1) lv (gl v :: st) h (k v)) : gT G l X M cv r hf pc lv (gl y :: gl x :: st) h (gDvl x y k) := by
  unfold gDvl
  by_cases hy : y = 0
  · rw [if_pos hy]; exact g_none
  · rw [if_neg hy]; exact gT.pure (hk _) (fun K _ _ _ _ _ _ ls c k => lv_ldiv K.1 K.2.1 d hy (k ls c))
theorem g_lrem {x y : Int64} {k : Int64 → Out α} (d : decode (mC M) pc = .ok (.lrem, 1)) (hk : ∀ v, gT G l X M cv r hf (pc + 1) lv (gl v :: st) h (k v)) : gT G l X M cv r hf pc lv (gl y :: gl x :: st) h (gRml x y k) := by
  unfold gRml
  by_cases hy : y = 0
  · rw [if_pos hy]; exact g_none
  · rw [if_neg hy]; exact gT.pure (hk _) (fun K _ _ _ _ _ _ ls c k => lv_lrem K.1 K.2.1 d hy (k ls c))
def gOk32 (v : UInt32) (k : UInt32 → Out α) : Out α := if v &&& 0x7fffffff ≤ 0x7f800000 then k v else none
def gOk64 (v : UInt64) (k : UInt64 → Out α) : Out α := if v &&& 0x7fffffffffffffff ≤ 0x7ff0000000000000 then k v else none
theorem g_fmul {x y : UInt32} {k : UInt32 → Out α} (d : decode (mC M) pc = .ok (.fmul, 1)) (hk : ∀ v, gT G l X M cv r hf (pc + 1) lv (gf v :: st) h (k v)) : gT G l X M cv r hf pc lv (gf y :: gf x :: st) h (gOk32 (FP.fmul x y) k) := by
  unfold gOk32
  split
  · rename_i hy; exact gT.pure (hk _) (fun K _ _ _ _ _ _ ls c k => lv_fmul K.1 K.2.1 d hy (k ls c))
  · exact g_none
theorem g_fdiv {x y : UInt32} {k : UInt32 → Out α} (d : decode (mC M) pc = .ok (.fdiv, 1)) (hk : ∀ v, gT G l X M cv r hf (pc + 1) lv (gf v :: st) h (k v)) : gT G l X M cv r hf pc lv (gf y :: gf x :: st) h (gOk32 (FP.fdiv x y) k) := by
  unfold gOk32
  split
  · rename_i hy; exact gT.pure (hk _) (fun K _ _ _ _ _ _ ls c k => lv_fdiv K.1 K.2.1 d hy (k ls c))
  · exact g_none
theorem g_ddiv {x y : UInt64} {k : UInt64 → Out α} (d : decode (mC M) pc = .ok (.ddiv, 1)) (hk : ∀ v, gT G l X M cv r hf (pc + 1) lv (gd v :: st) h (k v)) : gT G l X M cv r hf pc lv (gd y :: gd x :: st) h (gOk64 (FP.ddiv x y) k) := by
  unfold gOk64
  split
  · rename_i hy; exact gT.pure (hk _) (fun K _ _ _ _ _ _ ls c k => lv_ddiv K.1 K.2.1 d hy (k ls c))
  · exact g_none
theorem g_f2d {x : UInt32} {k : UInt64 → Out α} (d : decode (mC M) pc = .ok (.f2d, 1)) (hk : ∀ v, gT G l X M cv r hf (pc + 1) lv (gd v :: st) h (k v)) : gT G l X M cv r hf pc lv (gf x :: st) h (gOk64 (FP.f2d x) k) := by
  unfold gOk64
  split
  · rename_i hy; exact gT.pure (hk _) (fun K _ _ _ _ _ _ ls c k => lv_f2d K.1 K.2.1 d hy (k ls c))
  · exact g_none
/-! exceptions of the JDK's: new E() -/
def gMk (h : Hp) (ci : Nat) (kont : Option Nat → Hp → Out α) : Out α := kont (some h.1) (hnw h (.inr (ci, [])) 6)
/-- the words of a throw, as the tables have them -/
def gXw (own : String) (ik ic : Nat) (cls : String) (names : List String) : Prop := Bundle.fit cls = true ∧ (∀ n ∈ names, Bundle.fit n = true) ∧ Cond.classLink own ik cls ∈ lw_all ∧ Cond.initialized cls ∈ lw_all ∧ (∀ w ∈ vx_at0 own ic cls names, w ∈ lw_all ∨ (w ∈ lw_tbl ∧ g_kx w = true)) ∧ ∀ w ∈ Cond.classLink own ik cls :: Cond.initialized cls :: vx_at0 own ic cls names, vx_ot w = true
set_option maxHeartbeats 4000000 in
/-- follows the kit's vx_make0 -/
theorem g_make0 {ik ic ci : Nat} {cls : String} {names : List String} {T0 : u_T} {kont : Option Nat → Hp → Out α} (hx : gXw (mO M) ik ic cls names) (hc : CL[ci]? = some (cls, T0, 0)) (d0 : decode (mC M) pc = .ok (.new ik, 3)) (d3 : decode (mC M) (pc + 3) = .ok (.dup, 1)) (d4 : decode (mC M) (pc + 4) = .ok (.invokespecial ic, 3))
    (hF : names.length + 3 < mF M) (hL : g_wd st + (13 * (names.length + 1) + 42) ≤ mL M) (hk : ∀ v h', gT G l X M cv r hf (pc + 7) lv (gr v :: st) h' (kont v h')) : gT G l X M cv r hf pc lv st h (gMk h ci kont) := by
  intro ho
  obtain ⟨i1, i2⟩ := hk _ _ ho
  have j1 : h.1 + 1 ≤ hf.1 := i1.1
  have j2 : h.2.1 + 6 ≤ hf.2.1 := i1.2
  refine ⟨⟨by omega, by omega⟩, fun K h0 H locs ls a b c9 => ?_⟩
  obtain ⟨hcls, hnames, hk1, hini1, hat1, hgood⟩ := hx
  have l1 := h0.1
  have l2 := h0.2
  intro T hT Y0
  obtain ⟨k1, k2, k3, k4, k5, k6, k7, k8, -⟩ := id K
  have hat : ∀ w ∈ vx_at0 (mO M) ic cls names, w.before (xA X) (xS X) = true := fun w hw => by
    rcases hat1 w hw with e | ⟨e, g⟩
    · exact k5 _ e
    · refine va_Nw.use ?_ (k6.2.2.1 w e g)
      cases w <;> first | rfl | cases g
  have hS : va_S (gOwn G) (xS X).heap H locs := b
  subst hT
  have htr : X.2.1.platform.stackTraces = false := (show X.2.1.platform.stackTraces = l.stackTraces by rw [Y0.admits.platform]).trans k8
  have Y := vx_rebase Y0 (R' := { frames := mF M, locals := mL M, cells := 1, slots := 6 }) (Nat.le_refl _) (Nat.le_refl _) (by show h.1 - (xH X).1 + 1 ≤ hf.1 - (xH X).1; omega) (by show h.2.1 - (xH X).2.1 + 6 ≤ hf.2.1 - (xH X).2.1; omega)
  obtain ⟨s', hA'⟩ : ∃ z, z = (T.setVm (xS X).vm).setFrames (.invoking (xM X) (xA X) :: (xB X)) := ⟨_, rfl⟩
  rw [← hA'] at Y
  have hvm : s'.vm = (xS X).vm := by rw [hA']; rfl
  have hhp : s'.heap = T.heap := by rw [hA']; rfl
  have hW0 : (xS X).WarmedH s'.vm := by rw [hvm]; exact State.WarmedH.refl _
  have hat' : ∀ w ∈ vx_at0 (mO M) ic cls names, w.before (xA X) s' = true := fun w hw => vx_ot_at hW0 hvm.symm (hgood w (List.mem_cons_of_mem _ (List.mem_cons_of_mem _ hw))) (hat w hw)
  have hk' : (Cond.classLink (mO M) ik cls).before (xA X) s' = true := vx_ot_at hW0 hvm.symm (hgood _ List.mem_cons_self) (k5 _ hk1)
  have hini' : (Cond.initialized cls).before (xA X) s' = true := vx_ot_at hW0 hvm.symm (hgood _ (List.mem_cons_of_mem _ List.mem_cons_self)) (k5 _ hini1)
  have hU' : vx_Zq Bundle.tN "UNASSIGNED_STACK" Bundle.steD (gOwn G) s' s'.heap := by rw [hhp]; exact vx_Zq.moved hW0.alike (k6.2.2.2.2.2.2.2.2.1.kept hS.2.1)
  have hN' : vx_Zq Bundle.tN "SUPPRESSED_SENTINEL" Bundle.listD (gOwn G) s' s'.heap := by rw [hhp]; exact vx_Zq.moved hW0.alike (k6.2.2.2.2.2.2.2.2.2.1.kept hS.2.1)
  have hw9 : ∀ w ∈ Bundle.ownAtoms0 (mO M) ic cls names, w.before (xA X) s' = true := vx_own hat' (vx_isRefq hU'.1) (vx_isRefq hN'.1) hU'.2.word hN'.2.word
  have hown' : s'.vm.findClass (mO M) = some (xM X).cls := by rw [hvm]; exact k4
  have hins : (Cond.instantiable cls 6).before (xA X) s' = true := hw9 _ (by simp [Bundle.ownAtoms0])
  obtain ⟨vm₁, cX, kX, hfX, hkX, -, -, X₁, st1⟩ := Y.newCold k1 (own := mO M) (C := cls) (index := ik) (n := 6) hown' hk' hins hini'
    (g := F0 (xM X) pc ls (gVs st)) rfl (by rw [k2]; exact d0) (Nat.le_refl _) (Nat.le_refl _)
  generalize hT1 : (T.setVm vm₁).pushCell { cls := cX, slots := kX.instanceTypes.map defaultValue, vm := .none } = T1 at X₁ st1
  have hcat : (Value.ref T.heap.size).category = 1 := rfl
  have hcellA : T1.heap[T.heap.size]? = some (freshCell cX kX) := by rw [← hT1]; exact State.heap_pushCell_size _ _
  have d3' : decode (xC X).code (pc + 3) = .ok (.dup, 1) := by rw [k2]; exact d3
  obtain ⟨V, ce, L, Z, hLz, hlt, hcl9, hvm9, stz⟩ := vx_ctorMade0 X₁ k1 htr (own := mO M) (cls := cls) (names := names) (ic := ic) hown' hcls hnames hw9 (fun x hx => nomatch hx) hfX hkX hcellA (by rw [hhp]; exact Nat.le_refl _)
    (g := { method := xM X, pc := pc + 4, locals := ls, stack := .ref T.heap.size :: .ref T.heap.size :: gVs st, locked := none }) rfl (by rw [k3]; exact c9.1) (rest := gVs st) rfl
    (by rw [k2]; exact d4) hF (by simp only [List.map_cons, List.sum_cons, hcat, g_wd_eq]; omega)
  have Z0 := Stand.forget (locs := []) Z (fun y hy => by rw [hLz y hy, hhp]; exact Nat.le_refl _)
  have hz9 := Z0.heapSize
  obtain ⟨f1, f2⟩ := vx_frame Z0.same
  rw [hhp] at f1 f2 hz9
  have hcid : ce.cls = G.2.2.1.1 ci := by
    rw [hcl9]
    have h1 := (k6.1.1 ci _ hc).2.1
    rw [hvm] at hfX
    exact Option.some.inj (hfX.symm.trans h1)
  have hh : (V.setCell T.heap.size ce).heap[T.heap.size]? = some ce := heapAt_setCell_self (s := V) ce hlt
  have hsz : (V.setCell T.heap.size ce).heap.size = T.heap.size + 1 := by
    have := (Array.getElem?_eq_some_iff.mp hh).1
    omega
  subst hA'
  have X5 := vx_back9 Y0 Y Z0
  have hT9 : T.heap.size = h.1 := a.1
  have e5 : (hnw h (.inr (ci, [])) 6).1 - (xH X).1 = h.1 - (xH X).1 + 1 := g_sub1 l1
  have e6 : (hnw h (.inr (ci, [])) 6).2.1 - (xH X).2.1 = h.2.1 - (xH X).2.1 + 6 := g_sub1 l2
  have X6 : Stand X.1 l X.2.1 (gR M X hf) (xS X) (xM X) (xA X) (xB X) (xT X) (xC X) (V.setCell T.heap.size ce) locs ((hnw h (.inr (ci, [])) 6).1 - (xH X).1) ((hnw h (.inr (ci, [])) 6).2.1 - (xH X).2.1) := by
    rw [e5, e6]
    exact { X5 with same := X5.same.mono (by omega) (by omega) }
  have i3 := i2 K ⟨by show (xH X).1 ≤ h.1 + 1; omega, by show (xH X).2.1 ≤ h.2.1 + 6; omega⟩ (V.setCell T.heap.size ce).heap locs ls (a.nw hsz (fun q hq => f2 q hq (fun z hz => nomatch hz)) (show va_at _ CL (h.1, .inr (ci, [])) _ by
      rw [← hT9]
      exact ⟨_, hc, ce, hh, hcid, hvm9, fun k hk => absurd hk (Nat.not_lt_zero k)⟩))
    ⟨Nat.le_trans hS.1 f1, fun q h1 h2 => (f2 q (Nat.lt_of_lt_of_le h1 hS.1) (fun z hz => nomatch hz)).trans (hS.2.1 q h1 h2), hS.2.2⟩ c9
  obtain ⟨t, a1, b1⟩ := i3 _ rfl X6
  refine ⟨t, st1 _ ?_, b1⟩
  show Steps X.1.tables X.2.1 (xB X) (T1.setTop { method := xM X, pc := pc + 3, locals := ls, stack := .ref T.heap.size :: gVs st, locked := none }) _
  jvm_step X₁.here [X₁.here.top, k1, d3', Value.category]
  refine stz _ ?_
  show Steps X.1.tables X.2.1 (xB X) ((V.setCell T.heap.size ce).setTop (F0 (xM X) (pc + 4 + 3) ls (.ref T.heap.size :: gVs st))) t
  have e8 : (Value.ref T.heap.size :: gVs st) = gVs (gr (some h.1) :: st) := by rw [← hT9]; rfl
  rw [e8]
  exact a1
/-! handlers -/
theorem g_catch {q ci : Nat} {E name : String} {T0 : u_T} {N0 : Nat} (pre : List ExceptionTableEntry) (x : ExceptionTableEntry) (suf : List ExceptionTableEntry) (hc : CL[ci]? = some (E, T0, N0)) (hsplit : tableOf (mX M) = pre ++ x :: suf)
    (hpass : ∀ z ∈ pre, covers z pc = false ∨ (z.catchType ≠ 0 ∧ ∃ nm : String, Cond.classLink (mO M) z.catchType nm ∈ lw_all ∧ (E, nm) ∈ NCL)) (hx : covers x pc = true) (h0 : x.catchType ≠ 0) (hlink : Cond.classLink (mO M) x.catchType name ∈ lw_all) (hcast : Cond.castable E name ∈ lw_tbl)
    {o1 o2 : Out α} (k1 : gT G l X M cv r hf x.handlerPc lv [gr (some q)] h o1) (k2 : gTx G l X M cv r hf pc lv q h o2) : gTx G l X M cv r hf pc lv q h (gSw h (some q) ci o1 o2) := by
  intro ho
  unfold gSw at ho
  dsimp only at ho
  split at ho
  · rename_i c fs he
    split at ho
    · rename_i hcc
      subst hcc
      obtain ⟨i1, i2⟩ := k1 ho
      refine ⟨i1, fun K hle hq H locs ls st a b c9 _ => ?_⟩
      obtain ⟨cell, g1, g2, g3, g4⟩ : ∃ cell : Cell, H[q]? = some cell ∧ cell.vm = .none ∧ (xS X).vm.findClass E = some cell.cls ∧ True := by
        obtain ⟨r0, h1, cell, q1, q2, q3, -⟩ := a.2.2.2 q _ hq he
        cases hc.symm.trans h1
        exact ⟨cell, q1, q3, by rw [q2]; exact (K.2.2.2.2.2.1.1.1 c _ hc).2.1, trivial⟩
      exact vx_catch (name := name) K.2.2.2.1 pre x suf (by rw [K.2.2.2.2.2.2.2.2.2.1]; exact hsplit) (fun z hz => (hpass z hz).imp id (fun ⟨z1, nm, z2, z3⟩ => ⟨z1, nm, K.2.2.2.2.1 _ z2, K.2.2.2.2.2.1.2.2.2.2.2.1 _ z3⟩)) hx h0 (K.2.2.2.2.1 _ hlink) (va_Nw.use rfl (K.2.2.2.2.2.1.2.2.1 _ hcast rfl)) g1 g2 g3 (i2 K hle H locs ls a b c9)
    · exact k2 ho
  · cases ho
theorem g_noneX {q : Nat} : gTx G l X M cv r hf pc lv q h (none : Out α) := fun ho => nomatch ho
end GSW
