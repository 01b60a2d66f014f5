theorem g_cellV (cA : ClassId) (x : vp_A) : vp_cell cA x = arrV cA x.1 (g_val x.2) := by
  obtain ⟨n, f | f | f | f | f⟩ := x <;> rfl
theorem g_cellA {G : GG} {s : State} {h : Hp} {H : Heap} {locs : List Loc} {q t n : Nat} {c : (Nat → Int32) ⊕ (Nat → Int64) ⊕ (Nat → UInt32) ⊕ (Nat → UInt64) ⊕ (Nat → Option Nat)} {ty : FieldType} (K : KK G s) (a : HR G h H) (b : va_S (gOwn G) s.heap H locs) (he : h.2.2 q = some (.inl (t, n, c))) (ht : AT[t]? = some ty) :
    ∃ cell : Cell, H[q]? = some cell ∧ s.isArrayOf cell ty ∧ cell.vm ≠ .unknown ∧ n ≤ cell.slots.size ∧ cell.slots.size.toInt32 = Int32.ofNat n ∧ ∀ j, j < n → cell.slots[j]? = some (g_val c j) := by
  by_cases hq : G.1 ≤ q
  · have h1 : H[q]? = some (vp_cell (G.2.2.2.1 t) (n, c)) := a.2.2.2 q _ hq he
    rw [g_cellV] at h1
    refine ⟨_, h1, (K.1.2 t _ (g_tys_at ht)).1 n _, (fun e => nomatch e), (by rw [arrV_size]; exact Nat.le_refl _), (by rw [arrV_size]), fun j hj => arrV_read _ _ hj⟩
  · obtain ⟨ty', h1, h2⟩ := K.2.1 q (.inl (t, n, c)) (by rw [← a.2.2.1 q (by omega)]; exact he)
    cases ht.symm.trans h1
    obtain ⟨cell, g1, g2, g3, g4, g5, g6, -⟩ := h2.kept b.2.1
    exact ⟨cell, g1, g2, g3, g4, g5, g6⟩
theorem g_idx {n : Nat} {i : Int32} {cell : Cell} (hi : ¬ (i < 0 ∨ n ≤ i.toNatClampNeg)) (hn : n ≤ cell.slots.size) : ¬ (i < 0 ∨ cell.slots.size ≤ i.toNatClampNeg) := by
  intro q
  rcases q with q | q
  · exact hi (Or.inl q)
  · exact hi (Or.inr (Nat.le_trans hn q))
theorem g_idl {n : Nat} {i : Int32} (hi : ¬ (i < 0 ∨ n ≤ i.toNatClampNeg)) : i.toNatClampNeg < n := Nat.not_le.mp fun q => hi (Or.inr q)
theorem g_arrUp {G : GG} {h : Hp} {H H1 : Heap} {q t n k : Nat} {v : Value} {c c' : (Nat → Int32) ⊕ (Nat → Int64) ⊕ (Nat → UInt32) ⊕ (Nat → UInt64) ⊕ (Nat → Option Nat)} (a : HR G h H) (hq : G.1 ≤ q) (e : H1[q]? = some ((arrV (G.2.2.2.1 t) n (g_val c)).setSlot k v)) (hc : g_val c' = updV (g_val c) k v) (z : H1.size = H.size) (oq : ∀ x, x ≠ q → H1[x]? = H[x]?) : HR G (hup h q (.inl (t, n, c'))) H1 := by
  refine a.up hq z oq ?_
  show H1[q]? = some (vp_cell (G.2.2.2.1 t) (n, c'))
  rw [g_cellV, e, arrV_store]
  show some (arrV _ n (updV (g_val c) k v)) = some (arrV _ n (g_val c'))
  rw [hc]
section GA
variable {α : Type} {G : GG} {l : Launch} {X : CTX} {M : MI} {cv : α → Option Value} {r : α ⊕ Nat} {hf : Hp} {pc : Nat} {lv : List (Nat × GV)} {st : List GV} {h : Hp} {o : Out α}
def gLen (h : Hp) (x : Option Nat) (kont : Int32 → Out α) : Out α := match x with
  | none => none
  | some a => match h.2.2 a with
    | some (.inl (t, n, _)) => if t < AT.length then kont (Int32.ofNat n) else none
    | _ => none
theorem g_alen {x : Option Nat} {kont : Int32 → Out α} (d : decode (mC M) pc = .ok (.arraylength, 1)) (hk : ∀ v, gT G l X M cv r hf (pc + 1) lv (gi v :: st) h (kont v)) : gT G l X M cv r hf pc lv (gr x :: st) h (gLen h x kont) := by
  cases x with
  | none => exact fun ho => nomatch ho
  | some q =>
    intro ho
    unfold gLen at ho
    dsimp only at ho
    split at ho
    · rename_i t n c he
      split at ho
      · rename_i ht
        obtain ⟨i1, i2⟩ := hk _ ho
        refine ⟨i1, fun K h0 H locs ls a b c9 => ?_⟩
        obtain ⟨cell, g1, g2, g3, g4, g5, g6⟩ := g_cellA (ty := AT[t]) K.2.2.2.2.2.1 a b he (List.getElem?_eq_getElem ht)
        exact W.alen K.1 K.2.1 g1 g2 g5 rfl rfl d (i2 K h0 H locs ls a b c9)
      · cases ho
    · cases ho
def gAi (h : Hp) (x : Option Nat) (t : Nat) (i : Int32) (kont : Int32 → Out α) : Out α := match x with
  | none => none
  | some a => match h.2.2 a with
    | some (.inl (t', n, .inl f)) => if t' = t ∧ ¬ (i < 0 ∨ n ≤ i.toNatClampNeg) then kont (f i.toNatClampNeg) else none
    | _ => none
def gAl (h : Hp) (x : Option Nat) (t : Nat) (i : Int32) (kont : Int64 → Out α) : Out α := match x with
  | none => none
  | some a => match h.2.2 a with
    | some (.inl (t', n, .inr (.inl f))) => if t' = t ∧ ¬ (i < 0 ∨ n ≤ i.toNatClampNeg) then kont (f i.toNatClampNeg) else none
    | _ => none
def gAd (h : Hp) (x : Option Nat) (t : Nat) (i : Int32) (kont : UInt64 → Out α) : Out α := match x with
  | none => none
  | some a => match h.2.2 a with
    | some (.inl (t', n, .inr (.inr (.inr (.inl f))))) => if t' = t ∧ ¬ (i < 0 ∨ n ≤ i.toNatClampNeg) then kont (f i.toNatClampNeg) else none
    | _ => none
def gAr (h : Hp) (x : Option Nat) (t : Nat) (i : Int32) (kont : Option Nat → Out α) : Out α := match x with
  | none => none
  | some a => match h.2.2 a with
    | some (.inl (t', n, .inr (.inr (.inr (.inr f))))) => if t' = t ∧ ¬ (i < 0 ∨ n ≤ i.toNatClampNeg) then kont (f i.toNatClampNeg) else none
    | _ => none
theorem g_iaload {x : Option Nat} {t : Nat} {i : Int32} {kont : Int32 → Out α} (ht : AT[t]? = some .int) (d : decode (mC M) pc = .ok (.iaload, 1)) (hk : ∀ v, gT G l X M cv r hf (pc + 1) lv (gi v :: st) h (kont v)) : gT G l X M cv r hf pc lv (gi i :: gr x :: st) h (gAi h x t i kont) := by
  cases x with
  | none => exact fun ho => nomatch ho
  | some q =>
    intro ho
    unfold gAi at ho
    dsimp only at ho
    split at ho
    · rename_i t' n f he
      split at ho
      · rename_i hc
        obtain ⟨rfl, hi⟩ := hc
        obtain ⟨i1, i2⟩ := hk _ ho
        refine ⟨i1, fun K h0 H locs ls a b c9 => ?_⟩
        obtain ⟨cell, g1, g2, g3, g4, g5, g6⟩ := g_cellA K.2.2.2.2.2.1 a b he ht
        exact W.iald K.1 K.2.1 g1 g2 g3 (g_idx hi g4) (g6 _ (g_idl hi)) rfl rfl d (i2 K h0 H locs ls a b c9)
      · cases ho
    · cases ho
theorem g_baload {x : Option Nat} {t : Nat} {i : Int32} {kont : Int32 → Out α} (ht : AT[t]? = some .byte) (d : decode (mC M) pc = .ok (.baload, 1)) (hk : ∀ v, gT G l X M cv r hf (pc + 1) lv (gi v :: st) h (kont v)) : gT G l X M cv r hf pc lv (gi i :: gr x :: st) h (gAi h x t i kont) := by
  cases x with
  | none => exact fun ho => nomatch ho
  | some q =>
    intro ho
    unfold gAi at ho
    dsimp only at ho
    split at ho
    · rename_i t' n f he
      split at ho
      · rename_i hc
        obtain ⟨rfl, hi⟩ := hc
        obtain ⟨i1, i2⟩ := hk _ ho
        refine ⟨i1, fun K h0 H locs ls a b c9 => ?_⟩
        obtain ⟨cell, g1, g2, g3, g4, g5, g6⟩ := g_cellA K.2.2.2.2.2.1 a b he ht
        exact W.bald K.1 K.2.1 g1 g2 g3 (g_idx hi g4) (g6 _ (g_idl hi)) rfl rfl d (i2 K h0 H locs ls a b c9)
      · cases ho
    · cases ho
theorem g_zaload {x : Option Nat} {t : Nat} {i : Int32} {kont : Int32 → Out α} (ht : AT[t]? = some .boolean) (d : decode (mC M) pc = .ok (.baload, 1)) (hk : ∀ v, gT G l X M cv r hf (pc + 1) lv (gi v :: st) h (kont v)) : gT G l X M cv r hf pc lv (gi i :: gr x :: st) h (gAi h x t i kont) := by
  cases x with
  | none => exact fun ho => nomatch ho
  | some q =>
    intro ho
    unfold gAi at ho
    dsimp only at ho
    split at ho
    · rename_i t' n f he
      split at ho
      · rename_i hc
        obtain ⟨rfl, hi⟩ := hc
        obtain ⟨i1, i2⟩ := hk _ ho
        refine ⟨i1, fun K h0 H locs ls a b c9 => ?_⟩
        obtain ⟨cell, g1, g2, g3, g4, g5, g6⟩ := g_cellA K.2.2.2.2.2.1 a b he ht
        exact W.zald K.1 K.2.1 g1 g2 g3 (g_idx hi g4) (g6 _ (g_idl hi)) rfl rfl d (i2 K h0 H locs ls a b c9)
      · cases ho
    · cases ho
theorem g_caload {x : Option Nat} {t : Nat} {i : Int32} {kont : Int32 → Out α} (ht : AT[t]? = some .char) (d : decode (mC M) pc = .ok (.caload, 1)) (hk : ∀ v, gT G l X M cv r hf (pc + 1) lv (gi v :: st) h (kont v)) : gT G l X M cv r hf pc lv (gi i :: gr x :: st) h (gAi h x t i kont) := by
  cases x with
  | none => exact fun ho => nomatch ho
  | some q =>
    intro ho
    unfold gAi at ho
    dsimp only at ho
    split at ho
    · rename_i t' n f he
      split at ho
      · rename_i hc
        obtain ⟨rfl, hi⟩ := hc
        obtain ⟨i1, i2⟩ := hk _ ho
        refine ⟨i1, fun K h0 H locs ls a b c9 => ?_⟩
        obtain ⟨cell, g1, g2, g3, g4, g5, g6⟩ := g_cellA K.2.2.2.2.2.1 a b he ht
        exact W.cald K.1 K.2.1 g1 g2 g3 (g_idx hi g4) (g6 _ (g_idl hi)) rfl rfl d (i2 K h0 H locs ls a b c9)
      · cases ho
    · cases ho
theorem g_laload {x : Option Nat} {t : Nat} {i : Int32} {kont : Int64 → Out α} (ht : AT[t]? = some .long) (d : decode (mC M) pc = .ok (.laload, 1)) (hk : ∀ v, gT G l X M cv r hf (pc + 1) lv (gl v :: st) h (kont v)) : gT G l X M cv r hf pc lv (gi i :: gr x :: st) h (gAl h x t i kont) := by
  cases x with
  | none => exact fun ho => nomatch ho
  | some q =>
    intro ho
    unfold gAl at ho
    dsimp only at ho
    split at ho
    · rename_i t' n f he
      split at ho
      · rename_i hc
        obtain ⟨rfl, hi⟩ := hc
        obtain ⟨i1, i2⟩ := hk _ ho
        refine ⟨i1, fun K h0 H locs ls a b c9 => ?_⟩
        obtain ⟨cell, g1, g2, g3, g4, g5, g6⟩ := g_cellA K.2.2.2.2.2.1 a b he ht
        exact W.lald K.1 K.2.1 g1 g2 g3 (g_idx hi g4) (g6 _ (g_idl hi)) rfl rfl d (i2 K h0 H locs ls a b c9)
      · cases ho
    · cases ho
theorem g_daload {x : Option Nat} {t : Nat} {i : Int32} {kont : UInt64 → Out α} (ht : AT[t]? = some .double) (d : decode (mC M) pc = .ok (.daload, 1)) (hk : ∀ v, gT G l X M cv r hf (pc + 1) lv (gd v :: st) h (kont v)) : gT G l X M cv r hf pc lv (gi i :: gr x :: st) h (gAd h x t i kont) := by
  cases x with
  | none => exact fun ho => nomatch ho
  | some q =>
    intro ho
    unfold gAd at ho
    dsimp only at ho
    split at ho
    · rename_i t' n f he
      split at ho
      · rename_i hc
        obtain ⟨rfl, hi⟩ := hc
        obtain ⟨i1, i2⟩ := hk _ ho
        refine ⟨i1, fun K h0 H locs ls a b c9 => ?_⟩
        obtain ⟨cell, g1, g2, g3, g4, g5, g6⟩ := g_cellA K.2.2.2.2.2.1 a b he ht
        exact W.dald K.1 K.2.1 g1 g2 g3 (g_idx hi g4) (g6 _ (g_idl hi)) rfl rfl d (i2 K h0 H locs ls a b c9)
      · cases ho
    · cases ho
theorem g_aaload {x : Option Nat} {t : Nat} {i : Int32} {kont : Option Nat → Out α} {C : String} (ht : AT[t]? = some (.object C)) (d : decode (mC M) pc = .ok (.aaload, 1)) (hk : ∀ v, gT G l X M cv r hf (pc + 1) lv (gr v :: st) h (kont v)) : gT G l X M cv r hf pc lv (gi i :: gr x :: st) h (gAr h x t i kont) := by
  cases x with
  | none => exact fun ho => nomatch ho
  | some q =>
    intro ho
    unfold gAr at ho
    dsimp only at ho
    split at ho
    · rename_i t' n f he
      split at ho
      · rename_i hc
        obtain ⟨rfl, hi⟩ := hc
        obtain ⟨i1, i2⟩ := hk _ ho
        refine ⟨i1, fun K h0 H locs ls a b c9 => ?_⟩
        obtain ⟨cell, g1, g2, g3, g4, g5, g6⟩ := g_cellA K.2.2.2.2.2.1 a b he ht
        exact W.aald K.1 K.2.1 g1 g2 rfl g3 (g_idx hi g4) (g6 _ (g_idl hi)) rfl rfl d (i2 K h0 H locs ls a b c9)
      · cases ho
    · cases ho
def gSi (G : GG) (h : Hp) (x : Option Nat) (t : Nat) (i : Int32) (v : Int32) (kont : Hp → Out α) : Out α := match x with
  | none => none
  | some a => match h.2.2 a with
    | some (.inl (t', n, .inl f)) => if t' = t ∧ G.1 ≤ a ∧ ¬ (i < 0 ∨ n ≤ i.toNatClampNeg) then kont (hup h a (.inl (t, n, .inl (upd f i.toNatClampNeg v)))) else none
    | _ => none
theorem g_iastore {x : Option Nat} {t : Nat} {i : Int32} {v : Int32} {kont : Hp → Out α} (ht : AT[t]? = some .int) (d : decode (mC M) pc = .ok (.iastore, 1)) (hk : ∀ h', gT G l X M cv r hf (pc + 1) lv st h' (kont h')) : gT G l X M cv r hf pc lv (gi v :: gi i :: gr x :: st) h (gSi G h x t i v kont) := by
  cases x with
  | none => exact fun ho => nomatch ho
  | some q =>
    intro ho
    unfold gSi at ho
    dsimp only at ho
    split at ho
    · rename_i t' n f he
      split at ho
      · rename_i hc
        obtain ⟨rfl, hq, hi⟩ := hc
        obtain ⟨i1, i2⟩ := hk _ ho
        refine ⟨i1, fun K h0 H locs ls a b c9 => ?_⟩
        have h1 : H[q]? = some (vp_cell (G.2.2.2.1 t') (n, _)) := a.2.2.2 q _ hq he
        rw [g_cellV] at h1
        refine W.iast K.1 K.2.1 h1 ((K.2.2.2.2.2.1.1.2 t' _ (g_tys_at ht)).1 n _) (fun e => nomatch e) (by rw [arrV_size]; exact hi) rfl rfl d fun H1 e z oq => ?_
        refine i2 K h0 H1 _ ls (g_arrUp a hq e ?_ z oq) (b.put z oq hq) c9
        funext j
        by_cases hj : j = i.toNatClampNeg
        · subst hj
          simp [g_val, updV, upd]
        · simp [g_val, updV, upd, hj]
      · cases ho
    · cases ho
def gSb (G : GG) (h : Hp) (x : Option Nat) (t : Nat) (i : Int32) (v : Int32) (kont : Hp → Out α) : Out α := match x with
  | none => none
  | some a => match h.2.2 a with
    | some (.inl (t', n, .inl f)) => if t' = t ∧ G.1 ≤ a ∧ ¬ (i < 0 ∨ n ≤ i.toNatClampNeg) then kont (hup h a (.inl (t, n, .inl (upd f i.toNatClampNeg v.toInt8.toInt32)))) else none
    | _ => none
theorem g_bastore {x : Option Nat} {t : Nat} {i : Int32} {v : Int32} {kont : Hp → Out α} (ht : AT[t]? = some .byte) (d : decode (mC M) pc = .ok (.bastore, 1)) (hk : ∀ h', gT G l X M cv r hf (pc + 1) lv st h' (kont h')) : gT G l X M cv r hf pc lv (gi v :: gi i :: gr x :: st) h (gSb G h x t i v kont) := by
  cases x with
  | none => exact fun ho => nomatch ho
  | some q =>
    intro ho
    unfold gSb at ho
    dsimp only at ho
    split at ho
    · rename_i t' n f he
      split at ho
      · rename_i hc
        obtain ⟨rfl, hq, hi⟩ := hc
        obtain ⟨i1, i2⟩ := hk _ ho
        refine ⟨i1, fun K h0 H locs ls a b c9 => ?_⟩
        have h1 : H[q]? = some (vp_cell (G.2.2.2.1 t') (n, _)) := a.2.2.2 q _ hq he
        rw [g_cellV] at h1
        refine W.bast K.1 K.2.1 h1 ((K.2.2.2.2.2.1.1.2 t' _ (g_tys_at ht)).1 n _) (fun e => nomatch e) (by rw [arrV_size]; exact hi) rfl rfl d fun H1 e z oq => ?_
        refine i2 K h0 H1 _ ls (g_arrUp a hq e ?_ z oq) (b.put z oq hq) c9
        funext j
        by_cases hj : j = i.toNatClampNeg
        · subst hj
          simp [g_val, updV, upd, narrow_byte]
        · simp [g_val, updV, upd, narrow_byte, hj]
      · cases ho
    · cases ho
def gSz (G : GG) (h : Hp) (x : Option Nat) (t : Nat) (i : Int32) (v : Int32) (kont : Hp → Out α) : Out α := match x with
  | none => none
  | some a => match h.2.2 a with
    | some (.inl (t', n, .inl f)) => if t' = t ∧ G.1 ≤ a ∧ ¬ (i < 0 ∨ n ≤ i.toNatClampNeg) then kont (hup h a (.inl (t, n, .inl (upd f i.toNatClampNeg (vp_nar .boolean v))))) else none
    | _ => none
theorem g_zastore {x : Option Nat} {t : Nat} {i : Int32} {v : Int32} {kont : Hp → Out α} (ht : AT[t]? = some .boolean) (d : decode (mC M) pc = .ok (.bastore, 1)) (hk : ∀ h', gT G l X M cv r hf (pc + 1) lv st h' (kont h')) : gT G l X M cv r hf pc lv (gi v :: gi i :: gr x :: st) h (gSz G h x t i v kont) := by
  cases x with
  | none => exact fun ho => nomatch ho
  | some q =>
    intro ho
    unfold gSz at ho
    dsimp only at ho
    split at ho
    · rename_i t' n f he
      split at ho
      · rename_i hc
        obtain ⟨rfl, hq, hi⟩ := hc
        obtain ⟨i1, i2⟩ := hk _ ho
        refine ⟨i1, fun K h0 H locs ls a b c9 => ?_⟩
        have h1 : H[q]? = some (vp_cell (G.2.2.2.1 t') (n, _)) := a.2.2.2 q _ hq he
        rw [g_cellV] at h1
        refine W.zast K.1 K.2.1 h1 ((K.2.2.2.2.2.1.1.2 t' _ (g_tys_at ht)).1 n _) (fun e => nomatch e) (by rw [arrV_size]; exact hi) rfl rfl d fun H1 e z oq => ?_
        refine i2 K h0 H1 _ ls (g_arrUp a hq e ?_ z oq) (b.put z oq hq) c9
        funext j
        by_cases hj : j = i.toNatClampNeg
        · subst hj
          simp [g_val, updV, upd, vp_nar, narrow]
        · simp [g_val, updV, upd, vp_nar, narrow, hj]
      · cases ho
    · cases ho
def gSl (G : GG) (h : Hp) (x : Option Nat) (t : Nat) (i : Int32) (v : Int64) (kont : Hp → Out α) : Out α := match x with
  | none => none
  | some a => match h.2.2 a with
    | some (.inl (t', n, .inr (.inl f))) => if t' = t ∧ G.1 ≤ a ∧ ¬ (i < 0 ∨ n ≤ i.toNatClampNeg) then kont (hup h a (.inl (t, n, .inr (.inl (vp_updL f i.toNatClampNeg v))))) else none
    | _ => none
theorem g_lastore {x : Option Nat} {t : Nat} {i : Int32} {v : Int64} {kont : Hp → Out α} (ht : AT[t]? = some .long) (d : decode (mC M) pc = .ok (.lastore, 1)) (hk : ∀ h', gT G l X M cv r hf (pc + 1) lv st h' (kont h')) : gT G l X M cv r hf pc lv (gl v :: gi i :: gr x :: st) h (gSl G h x t i v kont) := by
  cases x with
  | none => exact fun ho => nomatch ho
  | some q =>
    intro ho
    unfold gSl at ho
    dsimp only at ho
    split at ho
    · rename_i t' n f he
      split at ho
      · rename_i hc
        obtain ⟨rfl, hq, hi⟩ := hc
        obtain ⟨i1, i2⟩ := hk _ ho
        refine ⟨i1, fun K h0 H locs ls a b c9 => ?_⟩
        have h1 : H[q]? = some (vp_cell (G.2.2.2.1 t') (n, _)) := a.2.2.2 q _ hq he
        rw [g_cellV] at h1
        refine W.last K.1 K.2.1 h1 ((K.2.2.2.2.2.1.1.2 t' _ (g_tys_at ht)).1 n _) (fun e => nomatch e) (by rw [arrV_size]; exact hi) rfl rfl d fun H1 e z oq => ?_
        refine i2 K h0 H1 _ ls (g_arrUp a hq e ?_ z oq) (b.put z oq hq) c9
        funext j
        by_cases hj : j = i.toNatClampNeg
        · subst hj
          simp [g_val, updV, vp_updL]
        · simp [g_val, updV, vp_updL, hj]
      · cases ho
    · cases ho
def gSd (G : GG) (h : Hp) (x : Option Nat) (t : Nat) (i : Int32) (v : UInt64) (kont : Hp → Out α) : Out α := match x with
  | none => none
  | some a => match h.2.2 a with
    | some (.inl (t', n, .inr (.inr (.inr (.inl f))))) => if t' = t ∧ G.1 ≤ a ∧ ¬ (i < 0 ∨ n ≤ i.toNatClampNeg) then kont (hup h a (.inl (t, n, .inr (.inr (.inr (.inl (vf_upd f i.toNatClampNeg v))))))) else none
    | _ => none
theorem g_dastore {x : Option Nat} {t : Nat} {i : Int32} {v : UInt64} {kont : Hp → Out α} (ht : AT[t]? = some .double) (d : decode (mC M) pc = .ok (.dastore, 1)) (hk : ∀ h', gT G l X M cv r hf (pc + 1) lv st h' (kont h')) : gT G l X M cv r hf pc lv (gd v :: gi i :: gr x :: st) h (gSd G h x t i v kont) := by
  cases x with
  | none => exact fun ho => nomatch ho
  | some q =>
    intro ho
    unfold gSd at ho
    dsimp only at ho
    split at ho
    · rename_i t' n f he
      split at ho
      · rename_i hc
        obtain ⟨rfl, hq, hi⟩ := hc
        obtain ⟨i1, i2⟩ := hk _ ho
        refine ⟨i1, fun K h0 H locs ls a b c9 => ?_⟩
        have h1 : H[q]? = some (vp_cell (G.2.2.2.1 t') (n, _)) := a.2.2.2 q _ hq he
        rw [g_cellV] at h1
        refine W.dast K.1 K.2.1 h1 ((K.2.2.2.2.2.1.1.2 t' _ (g_tys_at ht)).1 n _) (fun e => nomatch e) (by rw [arrV_size]; exact hi) rfl rfl d fun H1 e z oq => ?_
        refine i2 K h0 H1 _ ls (g_arrUp a hq e ?_ z oq) (b.put z oq hq) c9
        funext j
        by_cases hj : j = i.toNatClampNeg
        · subst hj
          simp [g_val, updV, vf_upd]
        · simp [g_val, updV, vf_upd, hj]
      · cases ho
    · cases ho
/-- classes that may stand where E is asked for -/
def gAs (E : String) (cs : List Nat) : Prop := ∀ c ∈ cs, ∃ (C : String) (T : u_T) (N : Nat), CL[c]? = some (C, T, N) ∧ (C = E ∨ Cond.castable C E ∈ lw_tbl)
def gSr (G : GG) (h : Hp) (x : Option Nat) (t : Nat) (cs : List Nat) (i : Int32) (v : Option Nat) (kont : Hp → Out α) : Out α := match x with
  | none => none
  | some a => match h.2.2 a with
    | some (.inl (t', n, .inr (.inr (.inr (.inr f))))) => if t' = t ∧ G.1 ≤ a ∧ ¬ (i < 0 ∨ n ≤ i.toNatClampNeg) then (match v with
      | none => kont (hup h a (.inl (t, n, .inr (.inr (.inr (.inr (va_up f i.toNatClampNeg none)))))))
      | some b => match h.2.2 b with
        | some (.inr (c, _)) => if c ∈ cs then kont (hup h a (.inl (t, n, .inr (.inr (.inr (.inr (va_up f i.toNatClampNeg (some b)))))))) else none
        | _ => none) else none
    | _ => none
theorem g_asg {E C : String} {s : State} (hx : ∀ w ∈ lw_tbl, g_kx w = true → va_Nw w s) (hC : C = E ∨ Cond.castable C E ∈ lw_tbl) {c0 comp : ClassId} (h1 : s.vm.findClass E = some comp) (h2 : s.vm.findClass C = some c0) : s.vm.assignable c0 comp = true := by
  rcases hC with e | e
  · subst e
    exact vb_asgS comp c0 h1 h2
  · exact vb_asgC (hx _ e rfl) comp c0 h1 h2
theorem g_aastore {x : Option Nat} {t : Nat} {cs : List Nat} {i : Int32} {v : Option Nat} {kont : Hp → Out α} {E : String} (ht : AT[t]? = some (.object E)) (hcs : gAs E cs) (d : decode (mC M) pc = .ok (.aastore, 1)) (hk : ∀ h', gT G l X M cv r hf (pc + 1) lv st h' (kont h')) : gT G l X M cv r hf pc lv (gr v :: gi i :: gr x :: st) h (gSr G h x t cs i v kont) := by
  cases x with
  | none => exact fun ho => nomatch ho
  | some q =>
    intro ho
    unfold gSr at ho
    dsimp only at ho
    split at ho
    · rename_i t' n f he
      split at ho
      · rename_i hc
        obtain ⟨rfl, hq, hi⟩ := hc
        split at ho
        · obtain ⟨i1, i2⟩ := hk _ ho
          refine ⟨i1, fun K h0 H locs ls a b c9 => ?_⟩
          have h1 : H[q]? = some (vp_cell (G.2.2.2.1 t') (n, _)) := a.2.2.2 q _ hq he
          rw [g_cellV] at h1
          refine va_WaastN (C := E) K.1 K.2.1 h1 ((K.2.2.2.2.2.1.1.2 t' _ (g_tys_at ht)).1 n _) (fun e => nomatch e) (by rw [arrV_size]; exact hi) rfl rfl d fun H1 e z oq => ?_
          refine i2 K h0 H1 _ ls (g_arrUp a hq e ?_ z oq) (b.put z oq hq) c9
          funext j
          by_cases hj : j = i.toNatClampNeg
          · subst hj
            simp [g_val, updV, va_up, va_rf]
          · simp [g_val, updV, va_up, hj]
        · rename_i b0
          split at ho
          · rename_i c0 fs0 hb0
            split at ho
            · rename_i hcc
              obtain ⟨i1, i2⟩ := hk _ ho
              refine ⟨i1, fun K h0 H locs ls a b c9 => ?_⟩
              obtain ⟨C, T, N, e1, e2⟩ := hcs c0 hcc
              obtain ⟨cellV, g1, g3, g2⟩ := g_cellO K.2.2.2.2.2.1 a b hb0 e1
              have h1 : H[q]? = some (vp_cell (G.2.2.2.1 t') (n, _)) := a.2.2.2 q _ hq he
              rw [g_cellV] at h1
              obtain ⟨kA, comp, k1, k2, k3, -⟩ := (K.2.2.2.2.2.1.1.2 t' _ (g_tys_at ht)).2
              obtain ⟨kE, hkE, -⟩ := Vm.findClass_spec k3
              obtain ⟨kC, hkC, -⟩ := Vm.findClass_spec g2
              refine W.aast K.1 K.2.1 h1 (fun q h => by cases h) (fun h => by cases h) k1 k2 rfl hkE ⟨fun z => hi (Or.inl z), by rw [arrV_size]; exact g_idl hi⟩ g1 (fun q h => by rw [h] at g3; cases g3) hkC (g_asg K.2.2.2.2.2.1.2.2.1 e2 k3 g2) rfl rfl d fun H1 e z oq => ?_
              refine i2 K h0 H1 _ ls (g_arrUp a hq e ?_ z oq) (b.put z oq hq) c9
              funext j
              by_cases hj : j = i.toNatClampNeg
              · subst hj
                simp [g_val, updV, va_up, va_rf]
              · simp [g_val, updV, va_up, hj]
            · cases ho
          · cases ho
      · cases ho
    · cases ho
/-! new arrays -/
def gNA (h : Hp) (t : Nat) (z : (Nat → Int32) ⊕ (Nat → Int64) ⊕ (Nat → UInt32) ⊕ (Nat → UInt64) ⊕ (Nat → Option Nat)) (n : Int32) (kont : Option Nat → Hp → Out α) : Out α :=
  if n < 0 ∨ 67108864 < n.toNatClampNeg then none else kont (some h.1) (hnw h (.inl (t, n.toNatClampNeg, z)) n.toNatClampNeg)
theorem g_newA {t : Nat} {z : (Nat → Int32) ⊕ (Nat → Int64) ⊕ (Nat → UInt32) ⊕ (Nat → UInt64) ⊕ (Nat → Option Nat)} {n : Int32} {kont : Option Nat → Hp → Out α} {len : Nat}
    (hk : ∀ v h', gT G l X M cv r hf (pc + len) lv (gr v :: st) h' (kont v h'))
    (hW : Cx G l X M → ∀ (R : Room) (H : Heap) (locs : List Loc) (cells slots : Nat) (Q : State → Prop) (ls : Array Slot), H.size = h.1 → ¬ n < 0 → n.toNatClampNeg ≤ 67108864 → cells + 1 ≤ R.cells → slots + n.toNatClampNeg ≤ R.slots →
      (∀ H1 : Heap, H1[h.1]? = some (arrV (G.2.2.2.1 t) n.toNatClampNeg (g_val z)) → H1.size = h.1 + 1 → (∀ q, q < h.1 → H1[q]? = H[q]?) → gW l X R H1 locs (cells + 1) (slots + n.toNatClampNeg) Q (F0 (xM X) (pc + len) ls (.ref h.1 :: gVs st))) → gW l X R H locs cells slots Q (F0 (xM X) pc ls (.int n :: gVs st))) :
    gT G l X M cv r hf pc lv (gi n :: st) h (gNA h t z n kont) := by
  intro ho
  unfold gNA at ho
  split at ho
  · cases ho
  · rename_i hn
    obtain ⟨i1, i2⟩ := hk _ _ ho
    have j1 : h.1 + 1 ≤ hf.1 := i1.1
    have j2 : h.2.1 + n.toNatClampNeg ≤ hf.2.1 := i1.2
    refine ⟨⟨by omega, by omega⟩, fun K h0 H locs ls a b c9 => ?_⟩
    have l1 := h0.1
    have l2 := h0.2
    refine hW K _ H locs _ _ _ ls a.1 (fun q => hn (Or.inl q)) (by omega) (by show h.1 - (xH X).1 + 1 ≤ hf.1 - (xH X).1; omega) (by show h.2.1 - (xH X).2.1 + n.toNatClampNeg ≤ hf.2.1 - (xH X).2.1; omega) fun H1 e1 z1 o1 => ?_
    have i3 := i2 K ⟨by show (xH X).1 ≤ h.1 + 1; omega, by show (xH X).2.1 ≤ h.2.1 + n.toNatClampNeg; omega⟩ H1 locs ls (a.nw (by rw [a.1]; exact z1) (fun q hq => o1 q (by rw [← a.1]; exact hq)) (show H1[h.1]? = some (vp_cell _ _) by rw [g_cellV]; exact e1))
      ⟨Nat.le_trans b.1 (by rw [z1, a.1]; exact Nat.le_succ _), fun q q1 q2 => (o1 q (by rw [← a.1]; exact Nat.lt_of_lt_of_le q1 b.1)).trans (b.2.1 q q1 q2), b.2.2⟩ c9
    have e5 : (hnw h (.inl (t, n.toNatClampNeg, z)) n.toNatClampNeg).1 - (xH X).1 = h.1 - (xH X).1 + 1 := g_sub1 l1
    have e6 : (hnw h (.inl (t, n.toNatClampNeg, z)) n.toNatClampNeg).2.1 - (xH X).2.1 = h.2.1 - (xH X).2.1 + n.toNatClampNeg := g_sub1 l2
    rw [e5, e6] at i3
    exact i3
theorem g_newarray {atype : ArrayType} {t : Nat} {ty : FieldType} {z : (Nat → Int32) ⊕ (Nat → Int64) ⊕ (Nat → UInt32) ⊕ (Nat → UInt64) ⊕ (Nat → Option Nat)} {n : Int32} {kont : Option Nat → Hp → Out α} (hty : newarray.typeOf atype = ty) (ht : AT[t]? = some ty) (hz : g_val z = fun _ => defaultValue ty) (hb8 : componentBytes ty ≤ 8) (hRA : ∀ (U : State) (cA : ClassId), va_RA U cA ty → U.vm.findClass ("[" ++ ty.toString) = some cA) (harr : Cond.arrayClass (newarray.typeOf atype) ∈ lw_all) (d : decode (mC M) pc = .ok (.newarray atype, 2))
    (hk : ∀ v h', gT G l X M cv r hf (pc + 2) lv (gr v :: st) h' (kont v h')) : gT G l X M cv r hf pc lv (gi n :: st) h (gNA h t z n kont) := by
  subst hty
  refine g_newA hk fun K R H locs cells slots Q ls hH hn hN hc hs kk => ?_
  have hm : n.toNatClampNeg * componentBytes (newarray.typeOf atype) ≤ 536870912 := by
    have := Nat.mul_le_mul hN hb8
    omega
  refine va_newaK K.1 K.2.1 (K.2.2.2.2.1 _ harr) rfl d rfl hn rfl hm hc hs hH fun H1 cA e1 z1 o1 hA hfc => kk H1 ?_ z1 o1
  have e9 : cA = G.2.2.2.1 t := Option.some.inj (hfc.symm.trans (hRA _ _ (K.2.2.2.2.2.1.1.2 t _ (g_tys_at ht)).2))
  rw [hz, ← e9]
  exact e1
theorem g_anewarray {t idx : Nat} {C : String} {n : Int32} {kont : Option Nat → Hp → Out α} (ht : AT[t]? = some (.object C)) (hcl : Cond.classLink (mO M) idx C ∈ lw_all) (hao : Cond.arrayOver (.object C) ∈ lw_tbl) (d : decode (mC M) pc = .ok (.anewarray idx, 3))
    (hk : ∀ v h', gT G l X M cv r hf (pc + 3) lv (gr v :: st) h' (kont v h')) : gT G l X M cv r hf pc lv (gi n :: st) h (gNA h t (.inr (.inr (.inr (.inr (fun _ => none))))) n kont) := by
  refine g_newA hk fun K R H locs cells slots Q ls hH hn hN hc hs kk => ?_
  refine W.anew K.1 K.2.1 K.2.2.2.1 (K.2.2.2.2.1 _ hcl) (va_AO.use (K.2.2.2.2.2.1.2.2.2.1 C hao)) rfl d rfl hn (by omega) hc hs fun cA kA comp f1 f2 f3 f4 => ?_
  obtain ⟨-, -, -, -, -, h4⟩ := (K.2.2.2.2.2.1.1.2 t _ (g_tys_at ht)).2
  have e9 : cA = G.2.2.2.1 t := Option.some.inj (f1.symm.trans h4)
  rw [hH]
  refine kk _ ?_ ?_ ?_
  · rw [← hH, Array.getElem?_push_size, ← e9]
    exact congrArg some (arrV_new _ _ _)
  · rw [Array.size_push, hH]
  · intro q hq
    rw [Array.getElem?_push, if_neg (by omega)]
end GA
