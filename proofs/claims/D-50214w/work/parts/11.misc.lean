section GM
variable {α : Type} {G : GG} {l : Launch} {X : CTX} {M : MI} {cv : α → Option Value} {r : α ⊕ Nat} {hf : Hp} {pc : Nat} {lv : List (Nat × GV)} {st : List GV} {h : Hp} {o : Out α}
/-! statics, constants, casts -/
theorem g_gets {idx : Nat} {C n d0 ref : String} {sv : Value ⊕ Nat} {w : GV} (hm : (C, n, d0, sv) ∈ SFL) (hw : toV w = g_sv G.2.2.2.2 sv) (hl : gLk (mO M) idx ref (C, n, d0, false)) (d : decode (mC M) pc = .ok (.getstatic idx, 3))
    (hk : gT G l X M cv r hf (pc + 3) lv (w :: st) h o) : gT G l X M cv r hf pc lv st h o := by
  intro ho
  obtain ⟨i1, i2⟩ := hk ho
  refine ⟨i1, fun K h0 H locs ls a b c9 => ?_⟩
  have i3 := i2 K h0 H locs ls a b c9
  obtain ⟨k1, k2, k3, k4, k5, k6, -⟩ := K
  obtain ⟨cf, kf, fi, f, ad, cell, h1, h2, h3, h4, h5, h6, h7, h8⟩ := k6.2.2.2.2.2.2.2.1 _ hm
  have h5' : H[ad]? = some cell := by rw [b.2.1 ad (Array.getElem?_eq_some_iff.mp h5).1 h8]; exact h5
  have h7' : cell.slots[f.slot]? = some (toV w) := by rw [hw]; exact h7
  have hun : cell.vm ≠ .unknown := fun e => by rw [e] at h6; cases h6
  rcases hl.1 with e | ⟨host, e⟩
  · exact W.gets k1 k2 k4 (k5 _ e) (hl.same k5 _ h1) h2 h3 h4 h5' hun h7' rfl d i3
  · exact va_WgetsN k1 k2 k4 (va_Nw.use rfl (k6.2.2.1 _ e rfl)) (hl.same k5 _ h1) h2 h3 h4 h5' hun h7' rfl d i3
theorem g_ldcS {idx k : Nat} {own tx : String} (hm : (own, idx, tx, k) ∈ SRL) (hown : own = mO M) (d : decode (mC M) pc = .ok (.ldc idx, 2)) (hk : gT G l X M cv r hf (pc + 2) lv (gr (some (G.2.2.2.2 k)) :: st) h o) : gT G l X M cv r hf pc lv st h o := by
  subst hown
  exact gT.pure hk (fun K _ _ _ _ _ _ ls c k => va_ldcS K.1 K.2.1 K.2.2.2.1 (K.2.2.2.2.2.1.2.2.2.2.2.2.1 _ hm) d (k ls c))
theorem g_ldc {idx : Nat} {v : Int32} (hm : Cond.constant (mO M) idx v ∈ lw_all) (d : decode (mC M) pc = .ok (.ldc idx, 2)) (hk : gT G l X M cv r hf (pc + 2) lv (gi v :: st) h o) : gT G l X M cv r hf pc lv st h o :=
  gT.pure hk (fun K _ _ _ _ _ _ ls c k => lv_ldc K.1 K.2.1 K.2.2.2.1 (K.2.2.2.2.1 _ hm) d (k ls c))
theorem g_ldcf {idx : Nat} {v : UInt32} (hm : Cond.constantFloat (mO M) idx v ∈ lw_all) (d : decode (mC M) pc = .ok (.ldc idx, 2)) (hk : gT G l X M cv r hf (pc + 2) lv (gf v :: st) h o) : gT G l X M cv r hf pc lv st h o :=
  gT.pure hk (fun K _ _ _ _ _ _ ls c k => lv_ldcf K.1 K.2.1 K.2.2.2.1 (K.2.2.2.2.1 _ hm) d (k ls c))
theorem g_ldc2 {idx : Nat} {v : Int64} (hm : Cond.constantLong (mO M) idx v ∈ lw_all) (d : decode (mC M) pc = .ok (.ldc2_w idx, 3)) (hk : gT G l X M cv r hf (pc + 3) lv (gl v :: st) h o) : gT G l X M cv r hf pc lv st h o :=
  gT.pure hk (fun K _ _ _ _ _ _ ls c k => lv_ldc2 K.1 K.2.1 K.2.2.2.1 (K.2.2.2.2.1 _ hm) d (k ls c))
theorem g_ldcw {idx : Nat} {v : Int32} (hm : Cond.constant (mO M) idx v ∈ lw_all) (d : decode (mC M) pc = .ok (.ldc_w idx, 3)) (hk : gT G l X M cv r hf (pc + 3) lv (gi v :: st) h o) : gT G l X M cv r hf pc lv st h o :=
  gT.pure hk (fun K _ _ _ _ _ _ ls c k => lv_ldcw K.1 K.2.1 K.2.2.2.1 (K.2.2.2.2.1 _ hm) d (k ls c))
def gCk (h : Hp) (x : Option Nat) (cs : List Nat) (kont : Out α) : Out α := match x with
  | none => kont
  | some a => match h.2.2 a with
    | some (.inr (c, _)) => if c ∈ cs then kont else none
    | _ => none
theorem g_checkcast {x : Option Nat} {cs : List Nat} {idx : Nat} {E : String} (hcl : Cond.classLink (mO M) idx E ∈ lw_all) (hcs : gAs E cs) (d : decode (mC M) pc = .ok (.checkcast idx, 3)) (hk : gT G l X M cv r hf (pc + 3) lv (gr x :: st) h o) : gT G l X M cv r hf pc lv (gr x :: st) h (gCk h x cs o) := by
  cases x with
  | none => exact gT.pure hk (fun K _ _ _ _ _ _ ls c k => lv_castN K.1 K.2.1 d (k ls c))
  | some q =>
    intro ho
    unfold gCk at ho
    dsimp only at ho
    split at ho
    · rename_i c0 fs0 he
      split at ho
      · rename_i hcc
        obtain ⟨i1, i2⟩ := hk ho
        refine ⟨i1, fun K h0 H locs ls a b c9 => ?_⟩
        obtain ⟨C, T, N, e1, e2⟩ := hcs c0 hcc
        have hr := g_cellO K.2.2.2.2.2.1 a b he e1
        rcases e2 with e2 | e2
        · subst e2
          exact va_castE K.1 K.2.1 K.2.2.2.1 (K.2.2.2.2.1 _ hcl) hr d (i2 K h0 H locs ls a b c9)
        · exact va_castY K.1 K.2.1 K.2.2.2.1 (K.2.2.2.2.1 _ hcl) (K.2.2.2.2.2.1.2.2.1 _ e2 rfl) hr d (i2 K h0 H locs ls a b c9)
      · cases ho
    · cases ho
def gIn (h : Hp) (x : Option Nat) (ys ns : List Nat) (kont : Int32 → Out α) : Out α := match x with
  | none => kont 0
  | some a => match h.2.2 a with
    | some (.inr (c, _)) => if c ∈ ys then kont 1 else if c ∈ ns then kont 0 else none
    | _ => none
def gNs (E : String) (cs : List Nat) : Prop := ∀ c ∈ cs, ∃ (C : String) (T : u_T) (N : Nat), CL[c]? = some (C, T, N) ∧ (C, E) ∈ NCL
theorem g_instanceof {x : Option Nat} {ys ns : List Nat} {idx : Nat} {E : String} {kont : Int32 → Out α} (hcl : Cond.classLink (mO M) idx E ∈ lw_all) (hys : gAs E ys) (hns : gNs E ns) (d : decode (mC M) pc = .ok (.instanceof idx, 3)) (hk : ∀ v, gT G l X M cv r hf (pc + 3) lv (gi v :: st) h (kont v)) : gT G l X M cv r hf pc lv (gr x :: st) h (gIn h x ys ns kont) := by
  cases x with
  | none => exact gT.pure (hk 0) (fun K _ _ _ _ _ _ ls c k => lv_instN K.1 K.2.1 d (k ls c))
  | some q =>
    intro ho
    unfold gIn at ho
    dsimp only at ho
    split at ho
    · rename_i c0 fs0 he
      split at ho
      · rename_i hcc
        obtain ⟨i1, i2⟩ := hk _ ho
        refine ⟨i1, fun K h0 H locs ls a b c9 => ?_⟩
        obtain ⟨C, T, N, e1, e2⟩ := hys c0 hcc
        have hr := g_cellO K.2.2.2.2.2.1 a b he e1
        rcases e2 with e2 | e2
        · subst e2
          exact va_instE K.1 K.2.1 K.2.2.2.1 (K.2.2.2.2.1 _ hcl) hr d (i2 K h0 H locs ls a b c9)
        · exact va_instY K.1 K.2.1 K.2.2.2.1 (K.2.2.2.2.1 _ hcl) (K.2.2.2.2.2.1.2.2.1 _ e2 rfl) hr d (i2 K h0 H locs ls a b c9)
      · split at ho
        · rename_i hcn
          obtain ⟨i1, i2⟩ := hk _ ho
          refine ⟨i1, fun K h0 H locs ls a b c9 => ?_⟩
          obtain ⟨C, T, N, e1, e2⟩ := hns c0 hcn
          have hr := g_cellO K.2.2.2.2.2.1 a b he e1
          exact va_instNo K.1 K.2.1 K.2.2.2.1 (K.2.2.2.2.1 _ hcl) (K.2.2.2.2.2.1.2.2.2.2.2.1 _ e2) hr d (i2 K h0 H locs ls a b c9)
        · cases ho
    · cases ho
theorem g_objInit {x : Option Nat} {idx a0 : Nat} (hx : x = some a0) (hlk : Cond.methodLink (mO M) idx Lib.objectInit ∈ lw_all) (hin : Cond.instanceMethod Lib.objectInit ∈ lw_all) (hcode : Cond.code Lib.objectInit ⟨#[0xb1]⟩ 1 none ∈ lw_all) (hF : 1 ≤ mF M) (hL : g_wd st + 12 ≤ mL M) (d : decode (mC M) pc = .ok (.invokespecial idx, 3))
    (hk : gT G l X M cv r hf (pc + 3) lv st h o) : gT G l X M cv r hf pc lv (gr x :: st) h o := by
  subst hx
  intro ho
  obtain ⟨i1, i2⟩ := hk ho
  refine ⟨i1, fun K h0 H locs ls a b c9 => ?_⟩
  refine W.objInit (g := F0 (xM X) pc ls (.ref a0 :: gVs st)) K.1 K.2.1 K.2.2.2.1 (K.2.2.2.2.1 _ hlk) (K.2.2.2.2.1 _ hin) (K.2.2.2.2.1 _ hcode) rfl (by rw [K.2.2.1]; exact c9.1) rfl d hF ?_ (i2 K h0 H locs ls a b c9)
  show 2 * 0 + ((gVs st).map fun v => v.category).sum + 12 ≤ mL M
  rw [g_wd_eq]
  omega
/-- Object.<init> of what may be null -/
def gNN (x : Option Nat) (kont : Out α) : Out α := match x with
  | none => none
  | some _ => kont
theorem g_objInit' {x : Option Nat} {idx : Nat} (hlk : Cond.methodLink (mO M) idx Lib.objectInit ∈ lw_all) (hin : Cond.instanceMethod Lib.objectInit ∈ lw_all) (hcode : Cond.code Lib.objectInit ⟨#[0xb1]⟩ 1 none ∈ lw_all) (hF : 1 ≤ mF M) (hL : g_wd st + 12 ≤ mL M) (d : decode (mC M) pc = .ok (.invokespecial idx, 3))
    (hk : gT G l X M cv r hf (pc + 3) lv st h o) : gT G l X M cv r hf pc lv (gr x :: st) h (gNN x o) := by
  cases x with
  | none => exact fun ho => nomatch ho
  | some a0 => exact g_objInit rfl hlk hin hcode hF hL d hk
/-! System.arraycopy between arrays of one primitive kind that are kept as ints -/
def gCp (G : GG) (h : Hp) (x : Option Nat) (sp : Int32) (y : Option Nat) (dp n : Int32) (t : Nat) (ty : FieldType) (kont : Hp → Out α) : Out α := match x, y with
  | some a0, some a => match h.2.2 a0, h.2.2 a with
    | some (.inl (t0, n0, .inl f)), some (.inl (t1, n1, .inl g)) =>
      if t0 = t ∧ t1 = t ∧ G.1 ≤ a0 ∧ G.1 ≤ a ∧ ¬ sp < 0 ∧ ¬ dp < 0 ∧ ¬ n < 0 ∧ sp.toNatClampNeg + n.toNatClampNeg ≤ n0 ∧ dp.toNatClampNeg + n.toNatClampNeg ≤ n1 ∧ (∀ i, i < n.toNatClampNeg → fits ty (.int (f (sp.toNatClampNeg + i))) = true) then
        kont (hup h a (.inl (t, n1, .inl (va_cpy f g sp.toNatClampNeg dp.toNatClampNeg n.toNatClampNeg)))) else none
    | _, _ => none
  | _, _ => none
theorem g_nn (z : Int32) (hz : ¬ z < 0) : z.toInt = (z.toNatClampNeg : Int) := by
  have hz0 : (0 : Int) ≤ z.toInt := by
    have := Int32.not_lt.mp hz
    simpa using Int32.le_iff_toInt_le.mp this
  show z.toInt = ((z.toInt.toNat : Nat) : Int)
  omega
theorem g_arraycopy {x y : Option Nat} {sp dp n : Int32} {t idx : Nat} {ty : FieldType} {kont : Hp → Out α} (ht : AT[t]? = some ty) (hprim : refKind ty = false) (hlk : Cond.methodLink (mO M) idx arraycopyName ∈ lw_all) (hnat : Cond.native arraycopyName ∈ lw_all) (hstat : Cond.static arraycopyName ∈ lw_all) (hini : Cond.initialized "java/lang/System" ∈ lw_all) (hF : 1 ≤ mF M) (hL : g_wd st + (nativeFrameWords "java/lang/System" "arraycopy" 5 + 11) ≤ mL M) (d : decode (mC M) pc = .ok (.invokestatic idx, 3))
    (hk : ∀ h', gT G l X M cv r hf (pc + 3) lv st h' (kont h')) : gT G l X M cv r hf pc lv (gi n :: gi dp :: gr y :: gi sp :: gr x :: st) h (gCp G h x sp y dp n t ty kont) := by
  intro ho
  unfold gCp at ho
  split at ho
  · rename_i a0 a1
    split at ho
    · rename_i t0 n0 f t1 n1 g e0 e1
      split at ho
      · rename_i hc
        obtain ⟨rfl, rfl, q0, q1, h1, h2, h3, h4, h5, hfit⟩ := hc
        obtain ⟨i1, i2⟩ := hk _ ho
        refine ⟨i1, fun K h0 H locs ls a b c9 => ?_⟩
        have K9 := K
        obtain ⟨k1, k2, k3, k4, k5, k6, -⟩ := K
        intro T hT Y
        have hc0 : H[a0]? = some (vp_cell (G.2.2.2.1 t1) (n0, .inl f)) := a.2.2.2 a0 _ q0 e0
        have hc1 : H[a1]? = some (vp_cell (G.2.2.2.1 t1) (n1, .inl g)) := a.2.2.2 a1 _ q1 e1
        have hty := (k6.1.2 t1 _ (g_tys_at ht)).1
        obtain ⟨-, c0, hk0, cm0, hkk0⟩ := hty n0 (fun j => .int (f j))
        obtain ⟨-, c1, hk1, cm1, hkk1⟩ := hty n1 (fun j => .int (g j))
        obtain ⟨vm', X', step⟩ := Y.arraycopy k1 k4 (k5 _ hlk) (k5 _ hnat) (k5 _ hstat) (k5 _ hini) (src := a0) (dst := a1) (cs := vp_cell (G.2.2.2.1 t1) (n0, .inl f)) (cd := vp_cell (G.2.2.2.1 t1) (n1, .inl g)) (srcPos := sp) (destPos := dp) (n := n) (by rw [hT]; exact hc0) (by rw [hT]; exact hc1)
          (fun _ h => by cases h) (fun _ h => by cases h) (fun h => by cases h) (fun h => by cases h) hk0 hk1 hkk0 hkk1 (by simp [hprim]) h1 h2 h3
          (by rw [g_nn sp h1, g_nn n h3]; show ¬ _ > ((arrV (G.2.2.2.1 t1) n0 (fun j => .int (f j))).slots.size : Int); rw [arrV_size]; omega)
          (by rw [g_nn dp h2, g_nn n h3]; show ¬ _ > ((arrV (G.2.2.2.1 t1) n1 (fun j => .int (g j))).slots.size : Int); rw [arrV_size]; omega)
          (fun vm₁ _ i hi => by
            have e : (vp_cell (G.2.2.2.1 t1) (n0, .inl f)).slots.getD (sp.toNatClampNeg + i) .null = .int (f (sp.toNatClampNeg + i)) := by
              show (arrV (G.2.2.2.1 t1) n0 (fun j => .int (f j))).slots.getD _ _ = _
              rw [Array.getD_eq_getD_getElem?, arrV_read _ _ (by omega)]
              rfl
            refine ⟨?_, ?_⟩
            · rw [e]
              exact hfit i hi
            · rw [e]
              exact trivial)
          (g := F0 (xM X) pc ls (.int n :: .int dp :: .ref a1 :: .int sp :: .ref a0 :: gVs st)) rfl (by rw [k3]; exact c9.1) (rest := gVs st) rfl (by rw [k2]; exact d) hF (by
            show 2 * 0 + ((gVs st).map fun v => v.category).sum + _ ≤ mL M
            rw [g_wd_eq]
            omega)
        have e1' : copied (vp_cell (G.2.2.2.1 t1) (n0, .inl f)) (vp_cell (G.2.2.2.1 t1) (n1, .inl g)) sp dp n = vp_cell (G.2.2.2.1 t1) (n1, .inl (va_cpy f g sp.toNatClampNeg dp.toNatClampNeg n.toNatClampNeg)) := va_copied (fun z => .int z) _ _ f g h4
        rw [e1'] at X' step
        have hl : a1 < H.size := (Array.getElem?_eq_some_iff.mp hc1).1
        have hheap : ((T.setVm vm').setCell a1 (vp_cell (G.2.2.2.1 t1) (n1, .inl (va_cpy f g sp.toNatClampNeg dp.toNatClampNeg n.toNatClampNeg)))).heap = H.setIfInBounds a1 (vp_cell (G.2.2.2.1 t1) (n1, .inl (va_cpy f g sp.toNatClampNeg dp.toNatClampNeg n.toNatClampNeg))) := by rw [← hT]; rfl
        have oq : ∀ q : Nat, q ≠ a1 → (H.setIfInBounds a1 (vp_cell (G.2.2.2.1 t1) (n1, .inl (va_cpy f g sp.toNatClampNeg dp.toNatClampNeg n.toNatClampNeg))))[q]? = H[q]? := fun q hq => by simp [Array.getElem?_setIfInBounds, Ne.symm hq]
        obtain ⟨t, s1, s2⟩ := i2 K9 h0 _ _ ls (a.up q1 (by simp) oq (show (H.setIfInBounds a1 _)[a1]? = some _ by simp [Array.getElem?_setIfInBounds, hl]))
          ⟨by simp; exact b.1, fun q g1 g2 => by
            rw [oq q (fun e => g2 (by rw [e]; exact q1))]
            exact b.2.1 q g1 g2, fun q hq => by
            rcases List.mem_append.mp hq with z | z
            · exact b.2.2 q z
            · obtain ⟨w, -, hw⟩ := List.mem_map.mp z
              rw [← hw]
              exact q1⟩ c9 _ hheap X'
        exact ⟨t, step t s1, s2⟩
      · cases ho
    · cases ho
  · cases ho
end GM
