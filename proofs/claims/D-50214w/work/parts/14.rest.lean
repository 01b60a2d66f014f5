/-! SMALL THINGS for the printed proofs -/
theorem gbl {n m : Nat} (h : Nat.ble n m = true) : n ≤ m := Nat.le_of_ble_eq_true h
theorem gblt {n m : Nat} (h : Nat.ble (n + 1) m = true) : n < m := Nat.le_of_ble_eq_true h
def z_I : (Nat → Int32) ⊕ (Nat → Int64) ⊕ (Nat → UInt32) ⊕ (Nat → UInt64) ⊕ (Nat → Option Nat) := .inl (fun _ => 0)
def z_B : (Nat → Int32) ⊕ (Nat → Int64) ⊕ (Nat → UInt32) ⊕ (Nat → UInt64) ⊕ (Nat → Option Nat) := .inl (fun _ => 0)
def z_Z : (Nat → Int32) ⊕ (Nat → Int64) ⊕ (Nat → UInt32) ⊕ (Nat → UInt64) ⊕ (Nat → Option Nat) := .inl (fun _ => 0)
def z_J : (Nat → Int32) ⊕ (Nat → Int64) ⊕ (Nat → UInt32) ⊕ (Nat → UInt64) ⊕ (Nat → Option Nat) := .inr (.inl (fun _ => 0))
def z_D : (Nat → Int32) ⊕ (Nat → Int64) ⊕ (Nat → UInt32) ⊕ (Nat → UInt64) ⊕ (Nat → Option Nat) := .inr (.inr (.inr (.inl (fun _ => 0))))
def z_R : (Nat → Int32) ⊕ (Nat → Int64) ⊕ (Nat → UInt32) ⊕ (Nat → UInt64) ⊕ (Nat → Option Nat) := .inr (.inr (.inr (.inr (fun _ => none))))
section GX
variable {α β : Type} {G : GG} {l : Launch} {X : CTX} {M : MI} {cv : α → Option Value} {r : α ⊕ Nat} {hf : Hp} {pc len : Nat} {lv : List (Nat × GV)} {st : List GV} {h : Hp} {o : Out α}
theorem g_all_nil : gAll G l X M cv r hf lv st h [] [] := trivial
theorem g_all_cons {k : Int32} {t : Nat} {ks : List (Int32 × Nat)} {os : List (Int32 × Out α)} (h1 : gT G l X M cv r hf t lv st h o) (h2 : gAll G l X M cv r hf lv st h ks os) : gAll G l X M cv r hf lv st h ((k, t) :: ks) ((k, o) :: os) := ⟨rfl, h1, h2⟩
theorem g_naI {n : Int32} {kont : Option Nat → Hp → Out α} (harr : Cond.arrayClass .int ∈ lw_all) (d : decode (mC M) pc = .ok (.newarray .int, 2))
    (hk : ∀ v h', gT G l X M cv r hf (pc + 2) lv (gr v :: st) h' (kont v h')) : gT G l X M cv r hf pc lv (gi n :: st) h (gNA h 0 z_I n kont) :=
  g_newarray (atype := .int) (ty := .int) rfl rfl rfl (by decide) (fun _ _ h => h) harr d hk
theorem g_naB {n : Int32} {kont : Option Nat → Hp → Out α} (harr : Cond.arrayClass .byte ∈ lw_all) (d : decode (mC M) pc = .ok (.newarray .byte, 2))
    (hk : ∀ v h', gT G l X M cv r hf (pc + 2) lv (gr v :: st) h' (kont v h')) : gT G l X M cv r hf pc lv (gi n :: st) h (gNA h 1 z_B n kont) :=
  g_newarray (atype := .byte) (ty := .byte) rfl rfl rfl (by decide) (fun _ _ h => h) harr d hk
theorem g_naZ {n : Int32} {kont : Option Nat → Hp → Out α} (harr : Cond.arrayClass .boolean ∈ lw_all) (d : decode (mC M) pc = .ok (.newarray .boolean, 2))
    (hk : ∀ v h', gT G l X M cv r hf (pc + 2) lv (gr v :: st) h' (kont v h')) : gT G l X M cv r hf pc lv (gi n :: st) h (gNA h 2 z_Z n kont) :=
  g_newarray (atype := .boolean) (ty := .boolean) rfl rfl rfl (by decide) (fun _ _ h => h) harr d hk
theorem g_naJ {n : Int32} {kont : Option Nat → Hp → Out α} (harr : Cond.arrayClass .long ∈ lw_all) (d : decode (mC M) pc = .ok (.newarray .long, 2))
    (hk : ∀ v h', gT G l X M cv r hf (pc + 2) lv (gr v :: st) h' (kont v h')) : gT G l X M cv r hf pc lv (gi n :: st) h (gNA h 3 z_J n kont) :=
  g_newarray (atype := .long) (ty := .long) rfl rfl rfl (by decide) (fun _ _ h => h) harr d hk
theorem g_naD {n : Int32} {kont : Option Nat → Hp → Out α} (harr : Cond.arrayClass .double ∈ lw_all) (d : decode (mC M) pc = .ok (.newarray .double, 2))
    (hk : ∀ v h', gT G l X M cv r hf (pc + 2) lv (gr v :: st) h' (kont v h')) : gT G l X M cv r hf pc lv (gi n :: st) h (gNA h 4 z_D n kont) :=
  g_newarray (atype := .double) (ty := .double) rfl rfl rfl (by decide) (fun _ _ h => h) harr d hk
theorem g_putz {x : Option Nat} {ci k idx : Nat} {v : Int32} {kont : Hp → Out α} {C ref : String} {T : u_T} {N : Nat} {ty : Nat → FieldType} (kC : gCls ci C T N ty) (hk : k < N) (hl : gLk (mO M) idx ref (T k)) (hfin : (T k).2.2.2 = false) (hty : ty k = .boolean) (d : decode (mC M) pc = .ok (.putfield idx, 3))
    (hk2 : ∀ h', gT G l X M cv r hf (pc + 3) lv st h' (kont h')) : gT G l X M cv r hf pc lv (gi v :: gr x :: st) h (gPz G h x ci k v kont) := by
  unfold gPz
  split
  · rename_i hx
    exact g_put kC hk hl hfin rfl (by rw [hty]; exact gOkZ_n hx) d hk2
  · exact g_none
theorem g_putzFin {x : Option Nat} {ci k idx : Nat} {v : Int32} {kont : Hp → Out α} {C ref : String} {T : u_T} {N : Nat} {ty : Nat → FieldType} (kC : gCls ci C T N ty) (hk : k < N) (hl : gLk (mO M) idx ref (T k)) (hlk : Cond.fieldLink (mO M) idx ref (T k).2.1 (T k).2.2.1 ∈ lw_all) (hfin : (T k).2.2.2 = true) (hin : mY M = "<init>") (hdecl : (T k).1 = mO M) (hty : ty k = .boolean) (d : decode (mC M) pc = .ok (.putfield idx, 3))
    (hk2 : ∀ h', gT G l X M cv r hf (pc + 3) lv st h' (kont h')) : gT G l X M cv r hf pc lv (gi v :: gr x :: st) h (gPz G h x ci k v kont) := by
  unfold gPz
  split
  · rename_i hx
    exact g_putFin kC hk hl hlk hfin hin hdecl rfl (by rw [hty]; exact gOkZ_n hx) d hk2
  · exact g_none
theorem g_putb {x : Option Nat} {ci k idx : Nat} {v : Int32} {kont : Hp → Out α} {C ref : String} {T : u_T} {N : Nat} {ty : Nat → FieldType} (kC : gCls ci C T N ty) (hk : k < N) (hl : gLk (mO M) idx ref (T k)) (hfin : (T k).2.2.2 = false) (hty : ty k = .byte) (d : decode (mC M) pc = .ok (.putfield idx, 3))
    (hk2 : ∀ h', gT G l X M cv r hf (pc + 3) lv st h' (kont h')) : gT G l X M cv r hf pc lv (gi v :: gr x :: st) h (gPb G h x ci k v kont) := by
  unfold gPb
  split
  · rename_i hx
    exact g_put kC hk hl hfin rfl (by rw [hty]; exact gOkB_n hx) d hk2
  · exact g_none
theorem g_putbFin {x : Option Nat} {ci k idx : Nat} {v : Int32} {kont : Hp → Out α} {C ref : String} {T : u_T} {N : Nat} {ty : Nat → FieldType} (kC : gCls ci C T N ty) (hk : k < N) (hl : gLk (mO M) idx ref (T k)) (hlk : Cond.fieldLink (mO M) idx ref (T k).2.1 (T k).2.2.1 ∈ lw_all) (hfin : (T k).2.2.2 = true) (hin : mY M = "<init>") (hdecl : (T k).1 = mO M) (hty : ty k = .byte) (d : decode (mC M) pc = .ok (.putfield idx, 3))
    (hk2 : ∀ h', gT G l X M cv r hf (pc + 3) lv st h' (kont h')) : gT G l X M cv r hf pc lv (gi v :: gr x :: st) h (gPb G h x ci k v kont) := by
  unfold gPb
  split
  · rename_i hx
    exact g_putFin kC hk hl hlk hfin hin hdecl rfl (by rw [hty]; exact gOkB_n hx) d hk2
  · exact g_none
def gCkA (G : GG) (h : Hp) (x : Option Nat) (t : Nat) (kont : Out α) : Out α := match x with
  | none => none
  | some a => match h.2.2 a with
    | some (.inl (t', _)) => if t' = t ∧ G.1 ≤ a then kont else none
    | _ => none
theorem g_checkcastA {x : Option Nat} {t idx : Nat} {ty : FieldType} {nm : String} (ht : AT[t]? = some ty) (hcl : Cond.classLink (mO M) idx nm ∈ lw_all) (hRA : ∀ (U : State) (cA : ClassId), va_RA U cA ty → U.vm.findClass nm = some cA) (d : decode (mC M) pc = .ok (.checkcast idx, 3)) (hk : gT G l X M cv r hf (pc + 3) lv (gr x :: st) h o) : gT G l X M cv r hf pc lv (gr x :: st) h (gCkA G h x t o) := by
  cases x with
  | none => exact g_none
  | some q =>
    intro ho
    unfold gCkA at ho
    dsimp only at ho
    split at ho
    · rename_i t' y he
      split at ho
      · rename_i hcc
        obtain ⟨e1, e2⟩ := hcc
        subst e1
        obtain ⟨i1, i2⟩ := hk ho
        refine ⟨i1, fun K h0 H locs ls a b c9 => ?_⟩
        exact va_castA K.1 K.2.1 K.2.2.2.1 (K.2.2.2.2.1 _ hcl) (g_one (a.2.2.2 q _ e2 he)) 0 rfl (hRA _ _ (K.2.2.2.2.2.1.1.2 t' _ (g_tys_at ht)).2) d (i2 K h0 H locs ls a b c9)
      · cases ho
    · cases ho
theorem gXw.of {own : String} {ik ic : Nat} {cls : String} {names : List String} (ps : List Nat) (hp : vx_at0 own ic cls names = ps.filterMap (fun i => lw_tbl[i]?)) (hg : (vx_at0 own ic cls names).all (fun w => goodWord w || g_kx w) = true) (h1 : Bundle.fit cls = true) (h2 : (names.all fun n => Bundle.fit n) = true) (h3 : Cond.classLink own ik cls ∈ lw_all) (h4 : Cond.initialized cls ∈ lw_all) (h5 : ((Cond.classLink own ik cls :: Cond.initialized cls :: vx_at0 own ic cls names).all vx_ot) = true) : gXw own ik ic cls names := by
  refine ⟨h1, fun n hn => List.all_eq_true.mp h2 n hn, h3, h4, fun w hw => ?_, fun w hw => List.all_eq_true.mp h5 w hw⟩
  have hw2 : w ∈ lw_tbl := by
    rw [hp] at hw
    obtain ⟨i, -, hi⟩ := List.mem_filterMap.mp hw
    exact List.mem_of_getElem? hi
  have h6 := List.all_eq_true.mp hg w hw
  simp only [Bool.or_eq_true] at h6
  rcases h6 with h6 | h6
  · exact Or.inl (lw_g hw2 h6)
  · exact Or.inr ⟨hw2, h6⟩
/-! calls where handlers lie -/
def bndX (o : Out β) (k : β → Hp → Out α) (kx : Nat → Hp → Out α) : Out α := match o with
  | none => none
  | some (.inl v, h') => k v h'
  | some (.inr q, h') => kx q h'
def bIX (x : Option Nat) (f : Nat → Out β) (k : β → Hp → Out α) (kx : Nat → Hp → Out α) : Out α := match x with
  | none => none
  | some a => bndX (f a) k kx
def bVX (h : Hp) (x : Option Nat) (ci : Nat) (f : Nat → Out β) (k : β → Hp → Out α) (kx : Nat → Hp → Out α) : Out α := match x with
  | none => none
  | some a => match h.2.2 a with
    | some (.inr (c, _)) => if c = ci then bndX (f a) k kx else none
    | _ => none
theorem g_bndX_eq {ob : Out β} {k : β → Hp → Out α} {kx : Nat → Hp → Out α} : bndX ob k kx = (match ob with
      | none => none
      | some (.inl v, h') => k v h'
      | some (.inr q, h') => kx q h') := by
  unfold bndX
  rcases ob with _ | ⟨v | q, h'⟩ <;> rfl
theorem g_bXi {ob : Out (Int32)} {k : Int32 → Hp → Out α} {kx : Nat → Hp → Out α} {y : MethodName} {ws : List Cond} {fr lo : Nat} {as stk : List GV} (hstk : stk = as.reverse ++ st) (hM : ∀ rc hc, ob = some (rc, hc) → gMet G l y ws fr lo as h cvI rc hc)
    (hrun : Cx G l X M → ∀ rc hc, gMet G l y ws fr lo as h cvI rc hc → ∀ R : Room, R.frames = mF M → R.locals = mL M → gRun G l X M pc len cvI h rc hc R (gVs (as.reverse ++ st)) (gVs st))
    (hk : ∀ (v : Int32) h', gT G l X M cv r hf (pc + len) lv (gi v :: st) h' (k v h')) (hx : ∀ q h', gTx G l X M cv r hf pc lv q h' (kx q h')) : gT G l X M cv r hf pc lv stk h (bndX ob k kx) := by
  subst hstk
  rw [g_bndX_eq]
  exact g_callX (tp := fun v => [gi v]) (fun _ => rfl) (fun rc hc e => (hM rc hc e).1 ⟨X⟩) (fun K rc hc R e e1 e2 => hrun K rc hc (hM rc hc e) R e1 e2) hk hx
theorem g_bIXi {x : Option Nat} {f : Nat → Out (Int32)} {k : Int32 → Hp → Out α} {kx : Nat → Hp → Out α} {y : MethodName} {ws : List Cond} {fr lo : Nat} {as stk : List GV} (hstk : stk = as.reverse ++ gr x :: st) (hM : ∀ q rc hc, f q = some (rc, hc) → gMet G l y ws fr lo (gr (some q) :: as) h cvI rc hc)
    (hrun : Cx G l X M → ∀ q rc hc, gMet G l y ws fr lo (gr (some q) :: as) h cvI rc hc → ∀ R : Room, R.frames = mF M → R.locals = mL M → gRun G l X M pc len cvI h rc hc R (gVs (as.reverse ++ gr (some q) :: st)) (gVs st))
    (hk : ∀ (v : Int32) h', gT G l X M cv r hf (pc + len) lv (gi v :: st) h' (k v h')) (hx : ∀ q h', gTx G l X M cv r hf pc lv q h' (kx q h')) : gT G l X M cv r hf pc lv stk h (bIX x f k kx) := by
  subst hstk
  cases x with
  | none => exact fun ho => nomatch ho
  | some q =>
    show gT G l X M cv r hf pc lv (as.reverse ++ gr (some q) :: st) h (bndX (f q) k kx)
    rw [g_bndX_eq]
    exact g_callX (tp := fun v => [gi v]) (fun _ => rfl) (fun rc hc e => (hM q rc hc e).1 ⟨X⟩) (fun K rc hc R e e1 e2 => hrun K q rc hc (hM q rc hc e) R e1 e2) hk hx
theorem g_bVXi {x : Option Nat} {ci : Nat} {f : Nat → Out (Int32)} {k : Int32 → Hp → Out α} {kx : Nat → Hp → Out α} {y : MethodName} {ws : List Cond} {fr lo : Nat} {as stk : List GV} (hstk : stk = as.reverse ++ gr x :: st) (hM : ∀ q rc hc, f q = some (rc, hc) → gMet G l y ws fr lo (gr (some q) :: as) h cvI rc hc)
    (hrun : Cx G l X M → ∀ q rc hc, (∃ fs, h.2.2 q = some (.inr (ci, fs))) → gMet G l y ws fr lo (gr (some q) :: as) h cvI rc hc → ∀ R : Room, R.frames = mF M → R.locals = mL M → gRun G l X M pc len cvI h rc hc R (gVs (as.reverse ++ gr (some q) :: st)) (gVs st))
    (hk : ∀ (v : Int32) h', gT G l X M cv r hf (pc + len) lv (gi v :: st) h' (k v h')) (hx : ∀ q h', gTx G l X M cv r hf pc lv q h' (kx q h')) : gT G l X M cv r hf pc lv stk h (bVX h x ci f k kx) := by
  subst hstk
  cases x with
  | none => exact fun ho => nomatch ho
  | some q =>
    intro ho
    unfold bVX at ho
    dsimp only at ho
    split at ho
    · rename_i c0 fs he
      split at ho
      · rename_i hc
        subst hc
        rw [g_bndX_eq] at ho
        exact g_callX (tp := fun v => [gi v]) (fun _ => rfl) (fun rc hc e => (hM q rc hc e).1 ⟨X⟩) (fun K rc hc R e e1 e2 => hrun K q rc hc ⟨fs, he⟩ (hM q rc hc e) R e1 e2) hk hx ho
      · cases ho
    · cases ho
theorem g_bXl {ob : Out (Int64)} {k : Int64 → Hp → Out α} {kx : Nat → Hp → Out α} {y : MethodName} {ws : List Cond} {fr lo : Nat} {as stk : List GV} (hstk : stk = as.reverse ++ st) (hM : ∀ rc hc, ob = some (rc, hc) → gMet G l y ws fr lo as h cvL rc hc)
    (hrun : Cx G l X M → ∀ rc hc, gMet G l y ws fr lo as h cvL rc hc → ∀ R : Room, R.frames = mF M → R.locals = mL M → gRun G l X M pc len cvL h rc hc R (gVs (as.reverse ++ st)) (gVs st))
    (hk : ∀ (v : Int64) h', gT G l X M cv r hf (pc + len) lv (gl v :: st) h' (k v h')) (hx : ∀ q h', gTx G l X M cv r hf pc lv q h' (kx q h')) : gT G l X M cv r hf pc lv stk h (bndX ob k kx) := by
  subst hstk
  rw [g_bndX_eq]
  exact g_callX (tp := fun v => [gl v]) (fun _ => rfl) (fun rc hc e => (hM rc hc e).1 ⟨X⟩) (fun K rc hc R e e1 e2 => hrun K rc hc (hM rc hc e) R e1 e2) hk hx
theorem g_bIXl {x : Option Nat} {f : Nat → Out (Int64)} {k : Int64 → Hp → Out α} {kx : Nat → Hp → Out α} {y : MethodName} {ws : List Cond} {fr lo : Nat} {as stk : List GV} (hstk : stk = as.reverse ++ gr x :: st) (hM : ∀ q rc hc, f q = some (rc, hc) → gMet G l y ws fr lo (gr (some q) :: as) h cvL rc hc)
    (hrun : Cx G l X M → ∀ q rc hc, gMet G l y ws fr lo (gr (some q) :: as) h cvL rc hc → ∀ R : Room, R.frames = mF M → R.locals = mL M → gRun G l X M pc len cvL h rc hc R (gVs (as.reverse ++ gr (some q) :: st)) (gVs st))
    (hk : ∀ (v : Int64) h', gT G l X M cv r hf (pc + len) lv (gl v :: st) h' (k v h')) (hx : ∀ q h', gTx G l X M cv r hf pc lv q h' (kx q h')) : gT G l X M cv r hf pc lv stk h (bIX x f k kx) := by
  subst hstk
  cases x with
  | none => exact fun ho => nomatch ho
  | some q =>
    show gT G l X M cv r hf pc lv (as.reverse ++ gr (some q) :: st) h (bndX (f q) k kx)
    rw [g_bndX_eq]
    exact g_callX (tp := fun v => [gl v]) (fun _ => rfl) (fun rc hc e => (hM q rc hc e).1 ⟨X⟩) (fun K rc hc R e e1 e2 => hrun K q rc hc (hM q rc hc e) R e1 e2) hk hx
theorem g_bVXl {x : Option Nat} {ci : Nat} {f : Nat → Out (Int64)} {k : Int64 → Hp → Out α} {kx : Nat → Hp → Out α} {y : MethodName} {ws : List Cond} {fr lo : Nat} {as stk : List GV} (hstk : stk = as.reverse ++ gr x :: st) (hM : ∀ q rc hc, f q = some (rc, hc) → gMet G l y ws fr lo (gr (some q) :: as) h cvL rc hc)
    (hrun : Cx G l X M → ∀ q rc hc, (∃ fs, h.2.2 q = some (.inr (ci, fs))) → gMet G l y ws fr lo (gr (some q) :: as) h cvL rc hc → ∀ R : Room, R.frames = mF M → R.locals = mL M → gRun G l X M pc len cvL h rc hc R (gVs (as.reverse ++ gr (some q) :: st)) (gVs st))
    (hk : ∀ (v : Int64) h', gT G l X M cv r hf (pc + len) lv (gl v :: st) h' (k v h')) (hx : ∀ q h', gTx G l X M cv r hf pc lv q h' (kx q h')) : gT G l X M cv r hf pc lv stk h (bVX h x ci f k kx) := by
  subst hstk
  cases x with
  | none => exact fun ho => nomatch ho
  | some q =>
    intro ho
    unfold bVX at ho
    dsimp only at ho
    split at ho
    · rename_i c0 fs he
      split at ho
      · rename_i hc
        subst hc
        rw [g_bndX_eq] at ho
        exact g_callX (tp := fun v => [gl v]) (fun _ => rfl) (fun rc hc e => (hM q rc hc e).1 ⟨X⟩) (fun K rc hc R e e1 e2 => hrun K q rc hc ⟨fs, he⟩ (hM q rc hc e) R e1 e2) hk hx ho
      · cases ho
    · cases ho
theorem g_bXf {ob : Out (UInt32)} {k : UInt32 → Hp → Out α} {kx : Nat → Hp → Out α} {y : MethodName} {ws : List Cond} {fr lo : Nat} {as stk : List GV} (hstk : stk = as.reverse ++ st) (hM : ∀ rc hc, ob = some (rc, hc) → gMet G l y ws fr lo as h cvF rc hc)
    (hrun : Cx G l X M → ∀ rc hc, gMet G l y ws fr lo as h cvF rc hc → ∀ R : Room, R.frames = mF M → R.locals = mL M → gRun G l X M pc len cvF h rc hc R (gVs (as.reverse ++ st)) (gVs st))
    (hk : ∀ (v : UInt32) h', gT G l X M cv r hf (pc + len) lv (gf v :: st) h' (k v h')) (hx : ∀ q h', gTx G l X M cv r hf pc lv q h' (kx q h')) : gT G l X M cv r hf pc lv stk h (bndX ob k kx) := by
  subst hstk
  rw [g_bndX_eq]
  exact g_callX (tp := fun v => [gf v]) (fun _ => rfl) (fun rc hc e => (hM rc hc e).1 ⟨X⟩) (fun K rc hc R e e1 e2 => hrun K rc hc (hM rc hc e) R e1 e2) hk hx
theorem g_bIXf {x : Option Nat} {f : Nat → Out (UInt32)} {k : UInt32 → Hp → Out α} {kx : Nat → Hp → Out α} {y : MethodName} {ws : List Cond} {fr lo : Nat} {as stk : List GV} (hstk : stk = as.reverse ++ gr x :: st) (hM : ∀ q rc hc, f q = some (rc, hc) → gMet G l y ws fr lo (gr (some q) :: as) h cvF rc hc)
    (hrun : Cx G l X M → ∀ q rc hc, gMet G l y ws fr lo (gr (some q) :: as) h cvF rc hc → ∀ R : Room, R.frames = mF M → R.locals = mL M → gRun G l X M pc len cvF h rc hc R (gVs (as.reverse ++ gr (some q) :: st)) (gVs st))
    (hk : ∀ (v : UInt32) h', gT G l X M cv r hf (pc + len) lv (gf v :: st) h' (k v h')) (hx : ∀ q h', gTx G l X M cv r hf pc lv q h' (kx q h')) : gT G l X M cv r hf pc lv stk h (bIX x f k kx) := by
  subst hstk
  cases x with
  | none => exact fun ho => nomatch ho
  | some q =>
    show gT G l X M cv r hf pc lv (as.reverse ++ gr (some q) :: st) h (bndX (f q) k kx)
    rw [g_bndX_eq]
    exact g_callX (tp := fun v => [gf v]) (fun _ => rfl) (fun rc hc e => (hM q rc hc e).1 ⟨X⟩) (fun K rc hc R e e1 e2 => hrun K q rc hc (hM q rc hc e) R e1 e2) hk hx
theorem g_bVXf {x : Option Nat} {ci : Nat} {f : Nat → Out (UInt32)} {k : UInt32 → Hp → Out α} {kx : Nat → Hp → Out α} {y : MethodName} {ws : List Cond} {fr lo : Nat} {as stk : List GV} (hstk : stk = as.reverse ++ gr x :: st) (hM : ∀ q rc hc, f q = some (rc, hc) → gMet G l y ws fr lo (gr (some q) :: as) h cvF rc hc)
    (hrun : Cx G l X M → ∀ q rc hc, (∃ fs, h.2.2 q = some (.inr (ci, fs))) → gMet G l y ws fr lo (gr (some q) :: as) h cvF rc hc → ∀ R : Room, R.frames = mF M → R.locals = mL M → gRun G l X M pc len cvF h rc hc R (gVs (as.reverse ++ gr (some q) :: st)) (gVs st))
    (hk : ∀ (v : UInt32) h', gT G l X M cv r hf (pc + len) lv (gf v :: st) h' (k v h')) (hx : ∀ q h', gTx G l X M cv r hf pc lv q h' (kx q h')) : gT G l X M cv r hf pc lv stk h (bVX h x ci f k kx) := by
  subst hstk
  cases x with
  | none => exact fun ho => nomatch ho
  | some q =>
    intro ho
    unfold bVX at ho
    dsimp only at ho
    split at ho
    · rename_i c0 fs he
      split at ho
      · rename_i hc
        subst hc
        rw [g_bndX_eq] at ho
        exact g_callX (tp := fun v => [gf v]) (fun _ => rfl) (fun rc hc e => (hM q rc hc e).1 ⟨X⟩) (fun K rc hc R e e1 e2 => hrun K q rc hc ⟨fs, he⟩ (hM q rc hc e) R e1 e2) hk hx ho
      · cases ho
    · cases ho
theorem g_bXd {ob : Out (UInt64)} {k : UInt64 → Hp → Out α} {kx : Nat → Hp → Out α} {y : MethodName} {ws : List Cond} {fr lo : Nat} {as stk : List GV} (hstk : stk = as.reverse ++ st) (hM : ∀ rc hc, ob = some (rc, hc) → gMet G l y ws fr lo as h cvD rc hc)
    (hrun : Cx G l X M → ∀ rc hc, gMet G l y ws fr lo as h cvD rc hc → ∀ R : Room, R.frames = mF M → R.locals = mL M → gRun G l X M pc len cvD h rc hc R (gVs (as.reverse ++ st)) (gVs st))
    (hk : ∀ (v : UInt64) h', gT G l X M cv r hf (pc + len) lv (gd v :: st) h' (k v h')) (hx : ∀ q h', gTx G l X M cv r hf pc lv q h' (kx q h')) : gT G l X M cv r hf pc lv stk h (bndX ob k kx) := by
  subst hstk
  rw [g_bndX_eq]
  exact g_callX (tp := fun v => [gd v]) (fun _ => rfl) (fun rc hc e => (hM rc hc e).1 ⟨X⟩) (fun K rc hc R e e1 e2 => hrun K rc hc (hM rc hc e) R e1 e2) hk hx
theorem g_bIXd {x : Option Nat} {f : Nat → Out (UInt64)} {k : UInt64 → Hp → Out α} {kx : Nat → Hp → Out α} {y : MethodName} {ws : List Cond} {fr lo : Nat} {as stk : List GV} (hstk : stk = as.reverse ++ gr x :: st) (hM : ∀ q rc hc, f q = some (rc, hc) → gMet G l y ws fr lo (gr (some q) :: as) h cvD rc hc)
    (hrun : Cx G l X M → ∀ q rc hc, gMet G l y ws fr lo (gr (some q) :: as) h cvD rc hc → ∀ R : Room, R.frames = mF M → R.locals = mL M → gRun G l X M pc len cvD h rc hc R (gVs (as.reverse ++ gr (some q) :: st)) (gVs st))
    (hk : ∀ (v : UInt64) h', gT G l X M cv r hf (pc + len) lv (gd v :: st) h' (k v h')) (hx : ∀ q h', gTx G l X M cv r hf pc lv q h' (kx q h')) : gT G l X M cv r hf pc lv stk h (bIX x f k kx) := by
  subst hstk
  cases x with
  | none => exact fun ho => nomatch ho
  | some q =>
    show gT G l X M cv r hf pc lv (as.reverse ++ gr (some q) :: st) h (bndX (f q) k kx)
    rw [g_bndX_eq]
    exact g_callX (tp := fun v => [gd v]) (fun _ => rfl) (fun rc hc e => (hM q rc hc e).1 ⟨X⟩) (fun K rc hc R e e1 e2 => hrun K q rc hc (hM q rc hc e) R e1 e2) hk hx
theorem g_bVXd {x : Option Nat} {ci : Nat} {f : Nat → Out (UInt64)} {k : UInt64 → Hp → Out α} {kx : Nat → Hp → Out α} {y : MethodName} {ws : List Cond} {fr lo : Nat} {as stk : List GV} (hstk : stk = as.reverse ++ gr x :: st) (hM : ∀ q rc hc, f q = some (rc, hc) → gMet G l y ws fr lo (gr (some q) :: as) h cvD rc hc)
    (hrun : Cx G l X M → ∀ q rc hc, (∃ fs, h.2.2 q = some (.inr (ci, fs))) → gMet G l y ws fr lo (gr (some q) :: as) h cvD rc hc → ∀ R : Room, R.frames = mF M → R.locals = mL M → gRun G l X M pc len cvD h rc hc R (gVs (as.reverse ++ gr (some q) :: st)) (gVs st))
    (hk : ∀ (v : UInt64) h', gT G l X M cv r hf (pc + len) lv (gd v :: st) h' (k v h')) (hx : ∀ q h', gTx G l X M cv r hf pc lv q h' (kx q h')) : gT G l X M cv r hf pc lv stk h (bVX h x ci f k kx) := by
  subst hstk
  cases x with
  | none => exact fun ho => nomatch ho
  | some q =>
    intro ho
    unfold bVX at ho
    dsimp only at ho
    split at ho
    · rename_i c0 fs he
      split at ho
      · rename_i hc
        subst hc
        rw [g_bndX_eq] at ho
        exact g_callX (tp := fun v => [gd v]) (fun _ => rfl) (fun rc hc e => (hM q rc hc e).1 ⟨X⟩) (fun K rc hc R e e1 e2 => hrun K q rc hc ⟨fs, he⟩ (hM q rc hc e) R e1 e2) hk hx ho
      · cases ho
    · cases ho
theorem g_bXr {ob : Out (Option Nat)} {k : Option Nat → Hp → Out α} {kx : Nat → Hp → Out α} {y : MethodName} {ws : List Cond} {fr lo : Nat} {as stk : List GV} (hstk : stk = as.reverse ++ st) (hM : ∀ rc hc, ob = some (rc, hc) → gMet G l y ws fr lo as h cvR rc hc)
    (hrun : Cx G l X M → ∀ rc hc, gMet G l y ws fr lo as h cvR rc hc → ∀ R : Room, R.frames = mF M → R.locals = mL M → gRun G l X M pc len cvR h rc hc R (gVs (as.reverse ++ st)) (gVs st))
    (hk : ∀ (v : Option Nat) h', gT G l X M cv r hf (pc + len) lv (gr v :: st) h' (k v h')) (hx : ∀ q h', gTx G l X M cv r hf pc lv q h' (kx q h')) : gT G l X M cv r hf pc lv stk h (bndX ob k kx) := by
  subst hstk
  rw [g_bndX_eq]
  exact g_callX (tp := fun v => [gr v]) (fun _ => rfl) (fun rc hc e => (hM rc hc e).1 ⟨X⟩) (fun K rc hc R e e1 e2 => hrun K rc hc (hM rc hc e) R e1 e2) hk hx
theorem g_bIXr {x : Option Nat} {f : Nat → Out (Option Nat)} {k : Option Nat → Hp → Out α} {kx : Nat → Hp → Out α} {y : MethodName} {ws : List Cond} {fr lo : Nat} {as stk : List GV} (hstk : stk = as.reverse ++ gr x :: st) (hM : ∀ q rc hc, f q = some (rc, hc) → gMet G l y ws fr lo (gr (some q) :: as) h cvR rc hc)
    (hrun : Cx G l X M → ∀ q rc hc, gMet G l y ws fr lo (gr (some q) :: as) h cvR rc hc → ∀ R : Room, R.frames = mF M → R.locals = mL M → gRun G l X M pc len cvR h rc hc R (gVs (as.reverse ++ gr (some q) :: st)) (gVs st))
    (hk : ∀ (v : Option Nat) h', gT G l X M cv r hf (pc + len) lv (gr v :: st) h' (k v h')) (hx : ∀ q h', gTx G l X M cv r hf pc lv q h' (kx q h')) : gT G l X M cv r hf pc lv stk h (bIX x f k kx) := by
  subst hstk
  cases x with
  | none => exact fun ho => nomatch ho
  | some q =>
    show gT G l X M cv r hf pc lv (as.reverse ++ gr (some q) :: st) h (bndX (f q) k kx)
    rw [g_bndX_eq]
    exact g_callX (tp := fun v => [gr v]) (fun _ => rfl) (fun rc hc e => (hM q rc hc e).1 ⟨X⟩) (fun K rc hc R e e1 e2 => hrun K q rc hc (hM q rc hc e) R e1 e2) hk hx
theorem g_bVXr {x : Option Nat} {ci : Nat} {f : Nat → Out (Option Nat)} {k : Option Nat → Hp → Out α} {kx : Nat → Hp → Out α} {y : MethodName} {ws : List Cond} {fr lo : Nat} {as stk : List GV} (hstk : stk = as.reverse ++ gr x :: st) (hM : ∀ q rc hc, f q = some (rc, hc) → gMet G l y ws fr lo (gr (some q) :: as) h cvR rc hc)
    (hrun : Cx G l X M → ∀ q rc hc, (∃ fs, h.2.2 q = some (.inr (ci, fs))) → gMet G l y ws fr lo (gr (some q) :: as) h cvR rc hc → ∀ R : Room, R.frames = mF M → R.locals = mL M → gRun G l X M pc len cvR h rc hc R (gVs (as.reverse ++ gr (some q) :: st)) (gVs st))
    (hk : ∀ (v : Option Nat) h', gT G l X M cv r hf (pc + len) lv (gr v :: st) h' (k v h')) (hx : ∀ q h', gTx G l X M cv r hf pc lv q h' (kx q h')) : gT G l X M cv r hf pc lv stk h (bVX h x ci f k kx) := by
  subst hstk
  cases x with
  | none => exact fun ho => nomatch ho
  | some q =>
    intro ho
    unfold bVX at ho
    dsimp only at ho
    split at ho
    · rename_i c0 fs he
      split at ho
      · rename_i hc
        subst hc
        rw [g_bndX_eq] at ho
        exact g_callX (tp := fun v => [gr v]) (fun _ => rfl) (fun rc hc e => (hM q rc hc e).1 ⟨X⟩) (fun K rc hc R e e1 e2 => hrun K q rc hc ⟨fs, he⟩ (hM q rc hc e) R e1 e2) hk hx ho
      · cases ho
    · cases ho
theorem g_bXu {ob : Out (Unit)} {k : Unit → Hp → Out α} {kx : Nat → Hp → Out α} {y : MethodName} {ws : List Cond} {fr lo : Nat} {as stk : List GV} (hstk : stk = as.reverse ++ st) (hM : ∀ rc hc, ob = some (rc, hc) → gMet G l y ws fr lo as h cvU rc hc)
    (hrun : Cx G l X M → ∀ rc hc, gMet G l y ws fr lo as h cvU rc hc → ∀ R : Room, R.frames = mF M → R.locals = mL M → gRun G l X M pc len cvU h rc hc R (gVs (as.reverse ++ st)) (gVs st))
    (hk : ∀ (v : Unit) h', gT G l X M cv r hf (pc + len) lv (st) h' (k v h')) (hx : ∀ q h', gTx G l X M cv r hf pc lv q h' (kx q h')) : gT G l X M cv r hf pc lv stk h (bndX ob k kx) := by
  subst hstk
  rw [g_bndX_eq]
  exact g_callX (tp := fun _ => []) (fun _ => rfl) (fun rc hc e => (hM rc hc e).1 ⟨X⟩) (fun K rc hc R e e1 e2 => hrun K rc hc (hM rc hc e) R e1 e2) hk hx
theorem g_bIXu {x : Option Nat} {f : Nat → Out (Unit)} {k : Unit → Hp → Out α} {kx : Nat → Hp → Out α} {y : MethodName} {ws : List Cond} {fr lo : Nat} {as stk : List GV} (hstk : stk = as.reverse ++ gr x :: st) (hM : ∀ q rc hc, f q = some (rc, hc) → gMet G l y ws fr lo (gr (some q) :: as) h cvU rc hc)
    (hrun : Cx G l X M → ∀ q rc hc, gMet G l y ws fr lo (gr (some q) :: as) h cvU rc hc → ∀ R : Room, R.frames = mF M → R.locals = mL M → gRun G l X M pc len cvU h rc hc R (gVs (as.reverse ++ gr (some q) :: st)) (gVs st))
    (hk : ∀ (v : Unit) h', gT G l X M cv r hf (pc + len) lv (st) h' (k v h')) (hx : ∀ q h', gTx G l X M cv r hf pc lv q h' (kx q h')) : gT G l X M cv r hf pc lv stk h (bIX x f k kx) := by
  subst hstk
  cases x with
  | none => exact fun ho => nomatch ho
  | some q =>
    show gT G l X M cv r hf pc lv (as.reverse ++ gr (some q) :: st) h (bndX (f q) k kx)
    rw [g_bndX_eq]
    exact g_callX (tp := fun _ => []) (fun _ => rfl) (fun rc hc e => (hM q rc hc e).1 ⟨X⟩) (fun K rc hc R e e1 e2 => hrun K q rc hc (hM q rc hc e) R e1 e2) hk hx
theorem g_bVXu {x : Option Nat} {ci : Nat} {f : Nat → Out (Unit)} {k : Unit → Hp → Out α} {kx : Nat → Hp → Out α} {y : MethodName} {ws : List Cond} {fr lo : Nat} {as stk : List GV} (hstk : stk = as.reverse ++ gr x :: st) (hM : ∀ q rc hc, f q = some (rc, hc) → gMet G l y ws fr lo (gr (some q) :: as) h cvU rc hc)
    (hrun : Cx G l X M → ∀ q rc hc, (∃ fs, h.2.2 q = some (.inr (ci, fs))) → gMet G l y ws fr lo (gr (some q) :: as) h cvU rc hc → ∀ R : Room, R.frames = mF M → R.locals = mL M → gRun G l X M pc len cvU h rc hc R (gVs (as.reverse ++ gr (some q) :: st)) (gVs st))
    (hk : ∀ (v : Unit) h', gT G l X M cv r hf (pc + len) lv (st) h' (k v h')) (hx : ∀ q h', gTx G l X M cv r hf pc lv q h' (kx q h')) : gT G l X M cv r hf pc lv stk h (bVX h x ci f k kx) := by
  subst hstk
  cases x with
  | none => exact fun ho => nomatch ho
  | some q =>
    intro ho
    unfold bVX at ho
    dsimp only at ho
    split at ho
    · rename_i c0 fs he
      split at ho
      · rename_i hc
        subst hc
        rw [g_bndX_eq] at ho
        exact g_callX (tp := fun _ => []) (fun _ => rfl) (fun rc hc e => (hM q rc hc e).1 ⟨X⟩) (fun K rc hc R e e1 e2 => hrun K q rc hc ⟨fs, he⟩ (hM q rc hc e) R e1 e2) hk hx ho
      · cases ho
    · cases ho
end GX
/-! private methods of classes above; defaults of interfaces (follow vx_callVU, vx_callIF) -/
section GPD
variable {p : Program} {l : Launch} {e : Env} {R : Room} {s : State} {m : MethodId} {args : Array Value} {below : List Frame} {meth : Method} {c : Code} {H : Heap} {T : State} {locs : List Loc} {cells slots : Nat}
theorem g_callVP (X : Stand p l e R s m args below meth c T locs cells slots) (hexec : p.tables.exec = Jvm.exec) {own C : String} {index : Nat} {y : MethodName} {bytes : ByteArray} {maxL : Nat} {ret : Option FieldType}
    (hown : s.vm.findClass own = some m.cls) (hlink : (Cond.methodLink own index y).before args s = true) (hsame : (Cond.sameMethod y.cls y.cls y.name y.desc).before args s = true)
    (hpriv : (Cond.privateMethod y).before args s = true) (hinst : (Cond.instanceMethod y).before args s = true) (hcode : (Cond.code y bytes maxL ret).before args s = true) (hMH : y.cls ≠ "java/lang/invoke/MethodHandle" ∧ y.cls ≠ "java/lang/invoke/VarHandle")
    {W : Nat} {Pre : Pt → Array Value → Prop} {Post : Pt → Array Value → Option Value → Pt → Prop} {PostX : Pt → Array Value → Addr → Pt → Prop} (hK : vx_Back l R p e below s args y 3 W Pre Post PostX)
    {b : Addr} {cellB : Cell} (hcell : T.heap[b]? = some cellB) (hobj : cellB.vm.isStatics = false) (hcls : s.vm.findClass C = some cellB.cls)
    {g : JFrame} (hg : g.method = m) (hsize : g.locals.size = c.maxLocals) {argsL rest : List Value} (hlen : ∀ sig, parseMethodDescriptor y.desc = some sig → argsL.length = sig.parameters.length)
    (hstack : g.stack = argsL.reverse ++ .ref b :: rest) (hW : 2 * g.monitorRoom + (rest.map fun v => v.category).sum ≤ W) (hdg : decode c.code g.pc = .ok (.invokevirtual index, 3))
    (hpre : ∀ vm₁, s.WarmedH vm₁ → Pre ⟨T.setVm vm₁, locs, cells, slots⟩ (Value.ref b :: argsL).toArray) :
    (∃ (v : Option Value) (vm₁ : Vm) (B : Pt), s.WarmedH vm₁ ∧ Stand p l e R s m args below meth c B.U B.locs B.cells B.slots ∧ Post ⟨T.setVm vm₁, locs, cells, slots⟩ (Value.ref b :: argsL).toArray v B ∧
      ∀ target, Steps p.tables e below (B.U.setTop { g with pc := g.pc + 3, stack := v.toList ++ rest }) target → Steps p.tables e below (T.setTop g) target) ∨
    (∃ (q : Addr) (vm₁ : Vm) (B : Pt), s.WarmedH vm₁ ∧ Stand p l e R s m args below meth c B.U B.locs B.cells B.slots ∧ PostX ⟨T.setVm vm₁, locs, cells, slots⟩ (Value.ref b :: argsL).toArray q B ∧
      Steps p.tables e below (T.setTop g) ((B.U.setTop { g with stack := rest }).pushFrame (.throwing q))) := by
  obtain ⟨cn, ck, r1, hcn, hck, hni, hf, hn1⟩ := Cond.sameMethod_found hsame
  obtain ⟨mk, methM, hnamed, hmethM, hstM, habM⟩ := Cond.instanceMethod_spec hinst
  obtain ⟨methM', cM, hmethM', -, -, -, -, -, -, hsigM⟩ := Cond.code_spec hnamed hcode
  cases hmethM.symm.trans hmethM'
  have hkP : s.vm.classes[mk.cls]? = some ck := by
    have h1 := (findClass_of_methodNamed hnamed).symm.trans hcn
    rw [Option.some.inj h1]
    exact hck
  have hselP : selectMethod e.platform s.vm cellB.cls mk = .method mk := selectMethod_private hmethM (Cond.privateMethod_at hpriv mk methM hnamed hmethM)
  obtain ⟨vm₁, X₁, hstep₁⟩ := X.invokevirtual hexec hown hlink hnamed hmethM hstM hkP hni hMH (a := b) (cell := cellB) hcell
    (fun z h => by rw [h] at hobj; cases hobj) hselP hmethM habM hkP hni (g := g) hg (argsL := argsL) (rest := rest) (hlen _ hsigM) hstack hdg
  rcases hK m meth c ⟨T.setVm vm₁, locs, cells, slots⟩ { g with stack := rest } (.invokevirtual index) mk (Value.ref b :: argsL).toArray X₁ hg hsize hdg hW (X₁.named hnamed) (hpre vm₁ X₁.warmed) with ⟨v, B, X', hpost, hsteps⟩ | ⟨q, B, X', hpost, hsteps⟩
  · exact Or.inl ⟨v, vm₁, B, X₁.warmed, X', hpost, fun target h => hstep₁ _ fun acts => by rw [doInvoke_state]; exact hsteps.trans h⟩
  · exact Or.inr ⟨q, vm₁, B, X₁.warmed, X', hpost, hstep₁ _ fun acts => by rw [doInvoke_state]; exact hsteps⟩
theorem g_callUD (X : Stand p l e R s m args below meth c T locs cells slots) (hexec : p.tables.exec = Jvm.exec) {own C owner : String} {index : Nat} {x y : MethodName}
    (hown : s.vm.findClass own = some m.cls) (hlink : (Cond.methodLink own index x).before args s = true) (hsame : (Cond.sameMethod x.cls owner x.name x.desc).before args s = true)
    (hd0 : va_Decl s ⟨owner, x.name, x.desc⟩) (howner : owner ≠ "java/lang/invoke/MethodHandle" ∧ owner ≠ "java/lang/invoke/VarHandle")
    (hsel : (Cond.landsInDefault C x y).before args s = true) (hinst : (Cond.instanceMethod y).before args s = true)
    {W : Nat} {Pre : Pt → Array Value → Prop} {Post : Pt → Array Value → Option Value → Pt → Prop} {PostX : Pt → Array Value → Addr → Pt → Prop} (hK : vx_Back l R p e below s args y 3 W Pre Post PostX)
    {b : Addr} {cellB : Cell} (hcell : T.heap[b]? = some cellB) (hobj : cellB.vm.isStatics = false) (hcls : s.vm.findClass C = some cellB.cls)
    {g : JFrame} (hg : g.method = m) (hsize : g.locals.size = c.maxLocals) {argsL rest : List Value} (hlen : ∀ sig, parseMethodDescriptor x.desc = some sig → argsL.length = sig.parameters.length)
    (hstack : g.stack = argsL.reverse ++ .ref b :: rest) (hW : 2 * g.monitorRoom + (rest.map fun v => v.category).sum ≤ W) (hdg : decode c.code g.pc = .ok (.invokevirtual index, 3))
    (hpre : ∀ vm₁, s.WarmedH vm₁ → Pre ⟨T.setVm vm₁, locs, cells, slots⟩ (Value.ref b :: argsL).toArray) :
    (∃ (v : Option Value) (vm₁ : Vm) (B : Pt), s.WarmedH vm₁ ∧ Stand p l e R s m args below meth c B.U B.locs B.cells B.slots ∧ Post ⟨T.setVm vm₁, locs, cells, slots⟩ (Value.ref b :: argsL).toArray v B ∧
      ∀ target, Steps p.tables e below (B.U.setTop { g with pc := g.pc + 3, stack := v.toList ++ rest }) target → Steps p.tables e below (T.setTop g) target) ∨
    (∃ (q : Addr) (vm₁ : Vm) (B : Pt), s.WarmedH vm₁ ∧ Stand p l e R s m args below meth c B.U B.locs B.cells B.slots ∧ PostX ⟨T.setVm vm₁, locs, cells, slots⟩ (Value.ref b :: argsL).toArray q B ∧
      Steps p.tables e below (T.setTop g) ((B.U.setTop { g with stack := rest }).pushFrame (.throwing q))) := by
  obtain ⟨r0, r, hn, hrm, hstR, hsigR⟩ := hd0
  obtain ⟨cn, ck, r1, hcn, hck, hni, hf, hn1⟩ := Cond.sameMethod_found hsame
  cases hn.symm.trans hn1
  obtain ⟨mk, methM, hnamed, hmethM, -, habM⟩ := Cond.instanceMethod_spec hinst
  obtain ⟨c2, r2, m2, rm, q1, q2, q3, q5, q4, ⟨kP, hkP, hkPi⟩, -, q7⟩ := Cond.landsInDefault_spec hsel
  cases hcls.symm.trans q1
  cases hf.symm.trans q2
  cases hnamed.symm.trans q3
  cases hrm.symm.trans q5
  have hselP : selectMethod e.platform s.vm cellB.cls r0 = .method mk := by rw [Launch.admits_selectMethod X.admits]; exact q4
  obtain ⟨vm₁, X₁, hstep₁⟩ := X.invokevirtualUpD hexec hown hlink hsame howner hn hrm hstR (a := b) (cell := cellB) hcell
    (fun z h => by rw [h] at hobj; cases hobj) hselP hmethM habM hkP hkPi q7 (g := g) hg (argsL := argsL) (rest := rest) (hlen _ hsigR) hstack hdg
  rcases hK m meth c ⟨T.setVm vm₁, locs, cells, slots⟩ { g with stack := rest } (.invokevirtual index) mk (Value.ref b :: argsL).toArray X₁ hg hsize hdg hW (X₁.named hnamed) (hpre vm₁ X₁.warmed) with ⟨v, B, X', hpost, hsteps⟩ | ⟨q, B, X', hpost, hsteps⟩
  · exact Or.inl ⟨v, vm₁, B, X₁.warmed, X', hpost, fun target h => hstep₁ _ fun acts => by rw [doInvoke_state]; exact hsteps.trans h⟩
  · exact Or.inr ⟨q, vm₁, B, X₁.warmed, X', hpost, hstep₁ _ fun acts => by rw [doInvoke_state]; exact hsteps⟩
theorem g_callFD (X : Stand p l e R s m args below meth c T locs cells slots) (hexec : p.tables.exec = Jvm.exec) {own C : String} {index count : Nat} {x y : MethodName}
    (hown : s.vm.findClass own = some m.cls) (hlink : (Cond.methodLink own index x).before args s = true) (hdecl : (Cond.declares x).before args s = true)
    (hface : (Cond.interfaceMethod x.cls x.cls x.name x.desc).before args s = true) (hsel : (Cond.landsInDefault C x y).before args s = true) (hinst : (Cond.instanceMethod y).before args s = true)
    (hpub : (Cond.publicMethod y).before args s = true) (hcast : (Cond.castable C x.cls).before args s = true) (hx : x.cls ≠ "java/lang/invoke/MethodHandle" ∧ x.cls ≠ "java/lang/invoke/VarHandle")
    {W : Nat} {Pre : Pt → Array Value → Prop} {Post : Pt → Array Value → Option Value → Pt → Prop} {PostX : Pt → Array Value → Addr → Pt → Prop} (hK : vx_Back l R p e below s args y 5 W Pre Post PostX)
    {b : Addr} {cellB : Cell} {kB : Class} (hcell : T.heap[b]? = some cellB) (hobj : cellB.vm.isStatics = false) (hcls : s.vm.findClass C = some cellB.cls) (hkB : s.vm.classes[cellB.cls]? = some kB)
    {g : JFrame} (hg : g.method = m) (hsize : g.locals.size = c.maxLocals) {argsL rest : List Value} (hlen : ∀ sig, parseMethodDescriptor x.desc = some sig → argsL.length = sig.parameters.length)
    (hstack : g.stack = argsL.reverse ++ .ref b :: rest) (hW : 2 * g.monitorRoom + (rest.map fun v => v.category).sum ≤ W) (hdg : decode c.code g.pc = .ok (.invokeinterface index count, 5))
    (hpre : ∀ vm₁, s.WarmedH vm₁ → Pre ⟨T.setVm vm₁, locs, cells, slots⟩ (Value.ref b :: argsL).toArray) :
    (∃ (v : Option Value) (vm₁ : Vm) (B : Pt), s.WarmedH vm₁ ∧ Stand p l e R s m args below meth c B.U B.locs B.cells B.slots ∧ Post ⟨T.setVm vm₁, locs, cells, slots⟩ (Value.ref b :: argsL).toArray v B ∧
      ∀ target, Steps p.tables e below (B.U.setTop { g with pc := g.pc + 5, stack := v.toList ++ rest }) target → Steps p.tables e below (T.setTop g) target) ∨
    (∃ (q : Addr) (vm₁ : Vm) (B : Pt), s.WarmedH vm₁ ∧ Stand p l e R s m args below meth c B.U B.locs B.cells B.slots ∧ PostX ⟨T.setVm vm₁, locs, cells, slots⟩ (Value.ref b :: argsL).toArray q B ∧
      Steps p.tables e below (T.setTop g) ((B.U.setTop { g with stack := rest }).pushFrame (.throwing q))) := by
  obtain ⟨r0, r, hn, hrm, hstR, hsigR⟩ := Cond.declares_spec hdecl
  obtain ⟨cL, kL, r1, hcL, hkL, hiL, hfoundL, hn1⟩ := Cond.interfaceMethod_spec hface
  cases hn.symm.trans hn1
  have hr0cls : r0.cls = cL := Option.some.inj ((findClass_of_methodNamed hn).symm.trans hcL)
  obtain ⟨mk, methM, hnamed, hmethM, -, habM⟩ := Cond.instanceMethod_spec hinst
  obtain ⟨c2, r2, m2, rm, q1, q2, q3, q5, q4, -, q6, -⟩ := Cond.landsInDefault_spec hsel
  cases hcls.symm.trans q1
  cases hfoundL.symm.trans q2
  cases hnamed.symm.trans q3
  cases hrm.symm.trans q5
  have hselP : selectMethod e.platform s.vm cellB.cls r0 = .method mk := by rw [Launch.admits_selectMethod X.admits]; exact q4
  have hpubM : hasFlag methM.accessFlags Acc.public_ = true := Cond.publicMethod_spec hnamed hmethM hpub
  obtain ⟨c3, t3, w1, w2, w3⟩ := Cond.castable_spec hcast
  cases hcls.symm.trans w1
  cases hcL.symm.trans w2
  obtain ⟨vm₁, X₁, hstep₁⟩ := X.invokeinterface hexec hown hlink hn hrm hstR (by rw [hr0cls]; exact hkL) hiL hx (a := b) (cell := cellB) (kcell := kB) hcell
    (fun z h => by rw [h] at hobj; cases hobj) hkB (by rw [hr0cls]; exact w3) hselP hmethM q6 hpubM habM (g := g) hg (argsL := argsL) (rest := rest) (hlen _ hsigR) hstack hdg
  rcases hK m meth c ⟨T.setVm vm₁, locs, cells, slots⟩ { g with stack := rest } (.invokeinterface index count) mk (Value.ref b :: argsL).toArray X₁ hg hsize hdg hW (X₁.named hnamed) (hpre vm₁ X₁.warmed) with ⟨v, B, X', hpost, hsteps⟩ | ⟨q, B, X', hpost, hsteps⟩
  · exact Or.inl ⟨v, vm₁, B, X₁.warmed, X', hpost, fun target h => hstep₁ _ fun acts => by rw [doInvoke_state]; exact hsteps.trans h⟩
  · exact Or.inr ⟨q, vm₁, B, X₁.warmed, X', hpost, hstep₁ _ fun acts => by rw [doInvoke_state]; exact hsteps⟩
end GPD
section GR
variable {α β : Type} {G : GG} {l : Launch} {X : CTX} {M : MI} {cv : α → Option Value} {r : α ⊕ Nat} {hf : Hp} {pc len : Nat} {lv : List (Nat × GV)} {st : List GV} {h : Hp} {o : Out α}
theorem g_dfl {K9 : Prop} {s : State} {args : Array Value} (K : KK G s) {C : String} {x y : MethodName} (hq : (C, x, y) ∈ DFL) : (Cond.landsInDefault C x y).before args s = true := K.2.2.2.2.2.2.2.2.2.2.2 _ hq
theorem g_dfw {s : State} {args : Array Value} (K : KK G s) {w : Cond} (ht : w.onTables = true) (hq : w ∈ DFG) : w.before args s = true := va_tabs ht rfl (K.2.2.2.2.2.2.2.2.2.2.1 _ hq)
theorem g_runVP {y : MethodName} {bytes : ByteArray} {maxL : Nat} {ret : Option FieldType} {idx fr lo : Nat} {as : List GV} {rc : β ⊕ Nat} {hc : Hp} {cvb : β → Option Value} {C : String} {ci : Nat} {Tc : u_T} {Nc : Nat} {q : Nat} (hq : ∃ fs, h.2.2 q = some (.inr (ci, fs))) (hcl : CL[ci]? = some (C, Tc, Nc)) (hY : gY y bytes maxL ret as.length) (hw : g_wd st ≤ 8) (hF : fr + 1 ≤ mF M) (hL : 8 + (maxL + 11) + lo ≤ mL M) (hlk : Cond.methodLink (mO M) idx y ∈ lw_all) (hsame : Cond.sameMethod y.cls y.cls y.name y.desc ∈ lw_all) (hpriv : Cond.privateMethod y ∈ lw_tbl) (hin : Cond.instanceMethod y ∈ lw_all) (d : decode (mC M) pc = .ok (.invokevirtual idx, 3))
    (K : Cx G l X M) (hM : gMet G l y (ws_ y bytes maxL ret) fr lo (gr (some q) :: as) h cvb rc hc) (R : Room) (hRF : R.frames = mF M) (hRL : R.locals = mL M) :
    gRun G l X M pc 3 cvb h rc hc R (gVs (as.reverse ++ gr (some q) :: st)) (gVs st) := by
  intro H locs cells slots ls T hT a b hsz hc1 hs1 Y
  have hts := K.2.2.2.2.1
  obtain ⟨hcode, hini, hMH, hlen⟩ := hY
  have hK : vx_Back l R X.1 X.2.1 (xB X) (xS X) (xA X) y 3 8 (gPre G (gr (some q) :: as) h hc R) (gPo G h hc cvb rc) (gPx G h hc rc) :=
    g_back hM (by rw [hRF]; exact hF) (by rw [hRL]; exact hL) (g_warms hts hcode rfl) (g_hcd hts hcode) (fun a' U hW => g_warm hts hini a' U hW)
  have hlen' : ∀ sig, parseMethodDescriptor y.desc = some sig → (gVs as).length = sig.parameters.length := fun sig hsig => by
    rw [hsig] at hlen
    rw [List.length_map]
    exact (Option.some.inj hlen).symm
  have hwd : 2 * (F0 (xM X) pc ls (gVs (as.reverse ++ gr (some q) :: st))).monitorRoom + ((gVs st).map fun v => v.category).sum ≤ 8 := by
    show 2 * 0 + _ ≤ 8
    rw [g_wd_eq]
    omega
  have hstk : gVs (as.reverse ++ gr (some q) :: st) = (gVs as).reverse ++ .ref q :: gVs st := by
    show (as.reverse ++ gr (some q) :: st).map toV = (as.map toV).reverse ++ .ref q :: st.map toV
    rw [List.map_append, List.map_reverse]
    rfl
  obtain ⟨fs, hq⟩ := hq
  obtain ⟨cellB, r1, r2, r3⟩ := g_cellO K.2.2.2.2.2.1 a b hq hcl
  obtain ⟨kB, hkB, -⟩ := Vm.findClass_spec r3
  exact g_callVP Y K.1 (own := mO M) (C := C) (index := idx) (bytes := bytes) (maxL := maxL) (ret := ret) K.2.2.2.1 (hts _ hlk) (hts _ hsame) (va_Nw.use rfl (K.2.2.2.2.2.1.2.2.1 _ hpriv rfl)) (hts _ hin) (hts _ hcode) hMH hK (b := q) (cellB := cellB) (by rw [hT]; exact r1) r2 r3 (g := F0 (xM X) pc ls (gVs (as.reverse ++ gr (some q) :: st))) rfl (hsz.trans K.2.2.1.symm) (argsL := gVs as) (rest := gVs st) hlen' hstk hwd (by rw [K.2.1]; exact d) (fun vm₁ hW₁ => ⟨hc1, hs1, rfl, by show HR G h T.heap; rw [hT]; exact a, KK.move hW₁ (fun q z1 z2 => by show T.heap[q]? = _; rw [hT]; exact b.2.1 q z1 z2) K.2.2.2.2.2.1⟩)
theorem g_runUD {y : MethodName} {bytes : ByteArray} {maxL : Nat} {ret : Option FieldType} {idx fr lo : Nat} {as : List GV} {rc : β ⊕ Nat} {hc : Hp} {cvb : β → Option Value} {C : String} {ci : Nat} {Tc : u_T} {Nc : Nat} {q : Nat} (hq : ∃ fs, h.2.2 q = some (.inr (ci, fs))) (hcl : CL[ci]? = some (C, Tc, Nc)) (hY : gY y bytes maxL ret as.length) (hw : g_wd st ≤ 8) (hF : fr + 1 ≤ mF M) (hL : 8 + (maxL + 11) + lo ≤ mL M) {x : MethodName} {owner : String} (hxd : x.desc = y.desc) (hyo : y = ⟨owner, x.name, x.desc⟩) (hlk : Cond.methodLink (mO M) idx x ∈ DFG) (hsame : Cond.sameMethod x.cls owner x.name x.desc ∈ DFG) (hmh : owner ≠ "java/lang/invoke/MethodHandle" ∧ owner ≠ "java/lang/invoke/VarHandle") (hdl : (C, x, y) ∈ DFL) (hin : Cond.instanceMethod y ∈ lw_all) (d : decode (mC M) pc = .ok (.invokevirtual idx, 3))
    (K : Cx G l X M) (hM : gMet G l y (ws_ y bytes maxL ret) fr lo (gr (some q) :: as) h cvb rc hc) (R : Room) (hRF : R.frames = mF M) (hRL : R.locals = mL M) :
    gRun G l X M pc 3 cvb h rc hc R (gVs (as.reverse ++ gr (some q) :: st)) (gVs st) := by
  intro H locs cells slots ls T hT a b hsz hc1 hs1 Y
  have hts := K.2.2.2.2.1
  obtain ⟨hcode, hini, hMH, hlen⟩ := hY
  have hK : vx_Back l R X.1 X.2.1 (xB X) (xS X) (xA X) y 3 8 (gPre G (gr (some q) :: as) h hc R) (gPo G h hc cvb rc) (gPx G h hc rc) :=
    g_back hM (by rw [hRF]; exact hF) (by rw [hRL]; exact hL) (g_warms hts hcode rfl) (g_hcd hts hcode) (fun a' U hW => g_warm hts hini a' U hW)
  have hlen' : ∀ sig, parseMethodDescriptor y.desc = some sig → (gVs as).length = sig.parameters.length := fun sig hsig => by
    rw [hsig] at hlen
    rw [List.length_map]
    exact (Option.some.inj hlen).symm
  have hwd : 2 * (F0 (xM X) pc ls (gVs (as.reverse ++ gr (some q) :: st))).monitorRoom + ((gVs st).map fun v => v.category).sum ≤ 8 := by
    show 2 * 0 + _ ≤ 8
    rw [g_wd_eq]
    omega
  have hstk : gVs (as.reverse ++ gr (some q) :: st) = (gVs as).reverse ++ .ref q :: gVs st := by
    show (as.reverse ++ gr (some q) :: st).map toV = (as.map toV).reverse ++ .ref q :: st.map toV
    rw [List.map_append, List.map_reverse]
    rfl
  obtain ⟨fs, hq⟩ := hq
  obtain ⟨cellB, r1, r2, r3⟩ := g_cellO K.2.2.2.2.2.1 a b hq hcl
  obtain ⟨kB, hkB, -⟩ := Vm.findClass_spec r3
  have KK9 := K.2.2.2.2.2.1
  exact g_callUD Y K.1 (own := mO M) (C := C) (owner := owner) (index := idx) (x := x) K.2.2.2.1 (g_dfw KK9 rfl hlk) (g_dfw KK9 rfl hsame) (by rw [← hyo]; exact va_Decl.of (hts _ hin) (hts _ hcode)) hmh (g_dfl (K9 := True) KK9 hdl) (hts _ hin) hK (b := q) (cellB := cellB) (by rw [hT]; exact r1) r2 r3 (g := F0 (xM X) pc ls (gVs (as.reverse ++ gr (some q) :: st))) rfl (hsz.trans K.2.2.1.symm) (argsL := gVs as) (rest := gVs st) (by rw [hxd]; exact hlen') hstk hwd (by rw [K.2.1]; exact d) (fun vm₁ hW₁ => ⟨hc1, hs1, rfl, by show HR G h T.heap; rw [hT]; exact a, KK.move hW₁ (fun q z1 z2 => by show T.heap[q]? = _; rw [hT]; exact b.2.1 q z1 z2) K.2.2.2.2.2.1⟩)
theorem g_runFD {y : MethodName} {bytes : ByteArray} {maxL : Nat} {ret : Option FieldType} {idx fr lo : Nat} {as : List GV} {rc : β ⊕ Nat} {hc : Hp} {cvb : β → Option Value} {C : String} {ci : Nat} {Tc : u_T} {Nc : Nat} {cnt q : Nat} (hq : ∃ fs, h.2.2 q = some (.inr (ci, fs))) (hcl : CL[ci]? = some (C, Tc, Nc)) {x : MethodName} (hY : gY y bytes maxL ret as.length) (hxd : x.desc = y.desc) (hw : g_wd st ≤ 8) (hF : fr + 1 ≤ mF M) (hL : 8 + (maxL + 11) + lo ≤ mL M) (hlk : Cond.methodLink (mO M) idx x ∈ lw_all) (hde : Cond.declares x ∈ lw_tbl) (hif : Cond.interfaceMethod x.cls x.cls x.name x.desc ∈ lw_tbl) (hpub : Cond.publicMethod y ∈ lw_tbl) (hunh : Cond.unhidden C x.name x.desc ∈ lw_tbl) (hcast : Cond.castable C x.cls ∈ lw_tbl) (hxMH : x.cls ≠ "java/lang/invoke/MethodHandle" ∧ x.cls ≠ "java/lang/invoke/VarHandle") (hdl : (C, x, y) ∈ DFL) (hin : Cond.instanceMethod y ∈ lw_all) (d : decode (mC M) pc = .ok (.invokeinterface idx cnt, 5))
    (K : Cx G l X M) (hM : gMet G l y (ws_ y bytes maxL ret) fr lo (gr (some q) :: as) h cvb rc hc) (R : Room) (hRF : R.frames = mF M) (hRL : R.locals = mL M) :
    gRun G l X M pc 5 cvb h rc hc R (gVs (as.reverse ++ gr (some q) :: st)) (gVs st) := by
  intro H locs cells slots ls T hT a b hsz hc1 hs1 Y
  have hts := K.2.2.2.2.1
  obtain ⟨hcode, hini, hMH, hlen⟩ := hY
  have hK : vx_Back l R X.1 X.2.1 (xB X) (xS X) (xA X) y 5 8 (gPre G (gr (some q) :: as) h hc R) (gPo G h hc cvb rc) (gPx G h hc rc) :=
    g_back hM (by rw [hRF]; exact hF) (by rw [hRL]; exact hL) (g_warms hts hcode rfl) (g_hcd hts hcode) (fun a' U hW => g_warm hts hini a' U hW)
  have hlen' : ∀ sig, parseMethodDescriptor y.desc = some sig → (gVs as).length = sig.parameters.length := fun sig hsig => by
    rw [hsig] at hlen
    rw [List.length_map]
    exact (Option.some.inj hlen).symm
  have hwd : 2 * (F0 (xM X) pc ls (gVs (as.reverse ++ gr (some q) :: st))).monitorRoom + ((gVs st).map fun v => v.category).sum ≤ 8 := by
    show 2 * 0 + _ ≤ 8
    rw [g_wd_eq]
    omega
  have hstk : gVs (as.reverse ++ gr (some q) :: st) = (gVs as).reverse ++ .ref q :: gVs st := by
    show (as.reverse ++ gr (some q) :: st).map toV = (as.map toV).reverse ++ .ref q :: st.map toV
    rw [List.map_append, List.map_reverse]
    rfl
  obtain ⟨fs, hq⟩ := hq
  obtain ⟨cellB, r1, r2, r3⟩ := g_cellO K.2.2.2.2.2.1 a b hq hcl
  obtain ⟨kB, hkB, -⟩ := Vm.findClass_spec r3
  have KK9 := K.2.2.2.2.2.1
  obtain ⟨w1, w2, w3, w4, w5⟩ := KK9.2.2.2.2.1 C x y hde hif hpub hunh hcast hxMH
  exact g_callFD Y K.1 (own := mO M) (C := C) (index := idx) (count := cnt) (x := x) K.2.2.2.1 (hts _ hlk) (va_any rfl w1) (va_any rfl w2) (g_dfl (K9 := True) KK9 hdl) (hts _ hin) (va_any rfl w3) (va_any rfl w5) hxMH hK (b := q) (cellB := cellB) (kB := kB) (by rw [hT]; exact r1) r2 r3 hkB (g := F0 (xM X) pc ls (gVs (as.reverse ++ gr (some q) :: st))) rfl (hsz.trans K.2.2.1.symm) (argsL := gVs as) (rest := gVs st) (by rw [hxd]; exact hlen') hstk hwd (by rw [K.2.1]; exact d) (fun vm₁ hW₁ => ⟨hc1, hs1, rfl, by show HR G h T.heap; rw [hT]; exact a, KK.move hW₁ (fun q z1 z2 => by show T.heap[q]? = _; rw [hT]; exact b.2.1 q z1 z2) K.2.2.2.2.2.1⟩)
theorem g_runUA {y : MethodName} {bytes : ByteArray} {maxL : Nat} {ret : Option FieldType} {idx fr lo : Nat} {as : List GV} {rc : β ⊕ Nat} {hc : Hp} {cvb : β → Option Value} {C : String} {ci : Nat} {Tc : u_T} {Nc : Nat} {q : Nat} (hq : ∃ fs, h.2.2 q = some (.inr (ci, fs))) (hcl : CL[ci]? = some (C, Tc, Nc)) {x : MethodName} {owner : String} (hY : gY y bytes maxL ret as.length) (hxd : x.desc = y.desc) (hw : g_wd st ≤ 8) (hF : fr + 1 ≤ mF M) (hL : 8 + (maxL + 11) + lo ≤ mL M) (hlk : Cond.methodLink (mO M) idx x ∈ lw_all) (hsame : Cond.sameMethod x.cls owner x.name x.desc ∈ lw_all) (hd0 : Cond.declares ⟨owner, x.name, x.desc⟩ ∈ lw_tbl) (hoMH : owner ≠ "java/lang/invoke/MethodHandle" ∧ owner ≠ "java/lang/invoke/VarHandle") (hsel : Cond.selects C x y ∈ lw_all) (hin : Cond.instanceMethod y ∈ lw_all) (d : decode (mC M) pc = .ok (.invokevirtual idx, 3))
    (K : Cx G l X M) (hM : gMet G l y (ws_ y bytes maxL ret) fr lo (gr (some q) :: as) h cvb rc hc) (R : Room) (hRF : R.frames = mF M) (hRL : R.locals = mL M) :
    gRun G l X M pc 3 cvb h rc hc R (gVs (as.reverse ++ gr (some q) :: st)) (gVs st) := by
  intro H locs cells slots ls T hT a b hsz hc1 hs1 Y
  have hts := K.2.2.2.2.1
  obtain ⟨hcode, hini, hMH, hlen⟩ := hY
  have hK : vx_Back l R X.1 X.2.1 (xB X) (xS X) (xA X) y 3 8 (gPre G (gr (some q) :: as) h hc R) (gPo G h hc cvb rc) (gPx G h hc rc) :=
    g_back hM (by rw [hRF]; exact hF) (by rw [hRL]; exact hL) (g_warms hts hcode rfl) (g_hcd hts hcode) (fun a' U hW => g_warm hts hini a' U hW)
  have hlen' : ∀ sig, parseMethodDescriptor x.desc = some sig → (gVs as).length = sig.parameters.length := fun sig hsig => by
    rw [← hxd] at hlen
    rw [hsig] at hlen
    rw [List.length_map]
    exact (Option.some.inj hlen).symm
  have hwd : 2 * (F0 (xM X) pc ls (gVs (as.reverse ++ gr (some q) :: st))).monitorRoom + ((gVs st).map fun v => v.category).sum ≤ 8 := by
    show 2 * 0 + _ ≤ 8
    rw [g_wd_eq]
    omega
  have hstk : gVs (as.reverse ++ gr (some q) :: st) = (gVs as).reverse ++ .ref q :: gVs st := by
    show (as.reverse ++ gr (some q) :: st).map toV = (as.map toV).reverse ++ .ref q :: st.map toV
    rw [List.map_append, List.map_reverse]
    rfl
  obtain ⟨fs, hq⟩ := hq
  obtain ⟨cellB, r1, r2, r3⟩ := g_cellO K.2.2.2.2.2.1 a b hq hcl
  exact vx_callVU Y K.1 (own := mO M) (C := C) (owner := owner) (index := idx) (x := x) (bytes := bytes) (maxL := maxL) (ret := ret) K.2.2.2.1 (hts _ hlk) (hts _ hsame) (va_Decl.abs (va_Nw.use (A := xA X) rfl (K.2.2.2.2.2.1.2.2.1 _ hd0 rfl))) hoMH (hts _ hsel) (hts _ hin) (hts _ hcode) hK (b := q) (cellB := cellB) (by rw [hT]; exact r1) r2 r3 (g := F0 (xM X) pc ls (gVs (as.reverse ++ gr (some q) :: st))) rfl (hsz.trans K.2.2.1.symm) (argsL := gVs as) (rest := gVs st) hlen' hstk hwd (by rw [K.2.1]; exact d) (fun vm₁ hW₁ => ⟨hc1, hs1, rfl, by show HR G h T.heap; rw [hT]; exact a, KK.move hW₁ (fun q z1 z2 => by show T.heap[q]? = _; rw [hT]; exact b.2.1 q z1 z2) K.2.2.2.2.2.1⟩)
end GR
