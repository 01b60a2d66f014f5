/-- a class: its place, name, fields -/
def gCls (ci : Nat) (C : String) (T : u_T) (N : Nat) (ty : Nat → FieldType) : Prop := CL[ci]? = some (C, T, N) ∧ (∀ w ∈ u_ws C T N, w ∈ lw_all) ∧ (∀ k, k < N → parseFieldDescriptor (T k).2.2.1 = some (ty k)) ∧ ∀ a, a < N → ∀ b, b < N → a ≠ b → (T a).2.1 ≠ (T b).2.1
theorem g_cellO {G : GG} {s : State} {h : Hp} {H : Heap} {locs : List Loc} {q ci : Nat} {fs : List Value} {C : String} {T : u_T} {N : Nat} (K : KK G s) (a : HR G h H) (b : va_S (gOwn G) s.heap H locs) (he : h.2.2 q = some (.inr (ci, fs))) (hc : CL[ci]? = some (C, T, N)) :
    ∃ cell : Cell, H[q]? = some cell ∧ cell.vm.isStatics = false ∧ s.vm.findClass C = some cell.cls := by
  by_cases hq : G.1 ≤ q
  · exact va_recv K.1 (g_one (a.2.2.2 q _ hq he)) (q0 := 0) hc rfl
  · obtain ⟨r, h1, h2, -⟩ := K.2.1 q (.inr (ci, fs)) (by rw [← a.2.2.1 q (by omega)]; exact he)
    cases hc.symm.trans h1
    obtain ⟨cell, g1, g2, g3, -⟩ := h2.kept b.2.1
    exact ⟨cell, g1, g2, g3⟩
theorem g_cellF {G : GG} {s : State} {h : Hp} {H : Heap} {locs : List Loc} {q ci k : Nat} {fs : List Value} {v : Value} {C : String} {T : u_T} {N : Nat} {args : Array Value} (K : KK G s) (hts : ∀ w ∈ lw_all, w.before args s = true) (a : HR G h H) (b : va_S (gOwn G) s.heap H locs) (he : h.2.2 q = some (.inr (ci, fs))) (hc : CL[ci]? = some (C, T, N)) (hin : ∀ w ∈ u_ws C T N, w ∈ lw_all) (hk : k < N) (hv : fs[k]? = some v) :
    ∃ (cf : ClassId) (kf : Class) (fi : Nat) (f : Field) (cell : Cell), s.fieldFound? (T k).1 (T k).2.1 (T k).2.2.1 = some (cf, kf, fi, f) ∧ f.isStatic = false ∧ H[q]? = some cell ∧ cell.vm ≠ .unknown ∧ cell.slots[f.slot]? = some v := by
  by_cases hq : G.1 ≤ q
  · obtain ⟨r, h1, cell, q1, q2, q3, q4⟩ := a.2.2.2 q _ hq he
    cases hc.symm.trans h1
    obtain ⟨hS, hfc, kC, hkC, hkind⟩ := K.1.1 ci _ hc
    obtain ⟨cf, kf, fi, f, hi, hsl⟩ := hS k hk
    refine ⟨cf, kf, fi, f, cell, hi, (u_facts hfc hkC (u_lays hts hin hk) hi).1, q1, (by rw [q3]; exact fun h => nomatch h), ?_⟩
    rw [hsl, q4 k hk]
    simp [vp_V, hv]
  · obtain ⟨r, h1, -, h3⟩ := K.2.1 q (.inr (ci, fs)) (by rw [← a.2.2.1 q (by omega)]; exact he)
    cases hc.symm.trans h1
    obtain ⟨cf, kf, fi, f, cell, g1, g2, g3, g4, g5, -⟩ := (h3 k v hv).kept b.2.1
    exact ⟨cf, kf, fi, f, cell, g1, g2, g3, g4, g5⟩
section GH
variable {α : Type} {G : GG} {l : Launch} {X : CTX} {M : MI} {cv : α → Option Value} {r : α ⊕ Nat} {hf : Hp} {pc : Nat} {lv : List (Nat × GV)} {st : List GV} {h : Hp} {o : Out α}
/-! fields -/
def gF (h : Hp) (x : Option Nat) (ci k : Nat) (kont : Value → Out α) : Out α := match x with
  | none => none
  | some a => match h.2.2 a with
    | some (.inr (c, fs)) => if c = ci then (match fs[k]? with
      | some v => kont v
      | none => none) else none
    | _ => none
def gFi (h : Hp) (x : Option Nat) (ci k : Nat) (kont : Int32 → Out α) : Out α := gF h x ci k (fun v => match v with
  | .int y => kont y
  | _ => none)
def gFl (h : Hp) (x : Option Nat) (ci k : Nat) (kont : Int64 → Out α) : Out α := gF h x ci k (fun v => match v with
  | .long y => kont y
  | _ => none)
def gFf (h : Hp) (x : Option Nat) (ci k : Nat) (kont : UInt32 → Out α) : Out α := gF h x ci k (fun v => match v with
  | .float y => kont y
  | _ => none)
def gFr (h : Hp) (x : Option Nat) (ci k : Nat) (kont : Option Nat → Out α) : Out α := gF h x ci k (fun v => match v with
  | .null => kont none
  | .ref y => kont (some y)
  | _ => none)
/-- what a field's link asks -/
def gLk (own : String) (idx : Nat) (ref : String) (f : String × String × String × Bool) : Prop := (Cond.fieldLink own idx ref f.2.1 f.2.2.1 ∈ lw_all ∨ ∃ host, Cond.fieldLinkNest own idx ref f.2.1 f.2.2.1 host ∈ lw_tbl) ∧ (f.1 = ref ∨ Cond.sameField ref f.1 f.2.1 f.2.2.1 ∈ lw_all)
theorem gLk.same {own : String} {idx : Nat} {ref : String} {f : String × String × String × Bool} {args : Array Value} {s : State} (hl : gLk own idx ref f) (hts : ∀ w ∈ lw_all, w.before args s = true) : ∀ x, s.fieldFound? f.1 f.2.1 f.2.2.1 = some x → s.fieldFound? ref f.2.1 f.2.2.1 = some x := by
  intro x hx
  rcases hl.2 with e | e
  · rw [← e]; exact hx
  · exact u_same (hts _ e) x hx
theorem gw_get {R : Room} {H : Heap} {locs : List Loc} {cells slots : Nat} {Q : State → Prop} {ls : Array Slot} {rest : List Value} {q ci k idx : Nat} {fs : List Value} {v : Value} {C ref : String} {T : u_T} {N : Nat} {ty : Nat → FieldType} (K : Cx G l X M) (a : HR G h H) (b : va_S (gOwn G) (xS X).heap H locs) (kC : gCls ci C T N ty) (hk : k < N) (hl : gLk (mO M) idx ref (T k)) (he : h.2.2 q = some (.inr (ci, fs))) (hv : fs[k]? = some v) (d : decode (mC M) pc = .ok (.getfield idx, 3))
    (kk : gW l X R H locs cells slots Q (F0 (xM X) (pc + 3) ls (v :: rest))) : gW l X R H locs cells slots Q (F0 (xM X) pc ls (.ref q :: rest)) := by
  obtain ⟨k1, k2, k3, k4, k5, k6, -⟩ := K
  obtain ⟨cf, kf, fi, f, cell, g1, g2, g3, g4, g5⟩ := g_cellF (args := xA X) k6 k5 a b he kC.1 kC.2.1 hk hv
  rcases hl.1 with e | ⟨host, e⟩
  · exact W.getf k1 k2 k4 (k5 _ e) (hl.same k5 _ g1) g2 g3 g4 g5 rfl rfl d kk
  · exact va_Wgetf k1 k2 k4 (va_Nw.use rfl (k6.2.2.1 _ e rfl)) (hl.same k5 _ g1) g2 g3 g4 g5 rfl rfl d kk
theorem g_getF {x : Option Nat} {ci k idx : Nat} {kont : Value → Out α} {C ref : String} {T : u_T} {N : Nat} {ty : Nat → FieldType} (kC : gCls ci C T N ty) (hk : k < N) (hl : gLk (mO M) idx ref (T k)) (d : decode (mC M) pc = .ok (.getfield idx, 3))
    (hk2 : ∀ v, (∃ w, toV w = v ∧ gT G l X M cv r hf (pc + 3) lv (w :: st) h (kont v)) ∨ kont v = none) : gT G l X M cv r hf pc lv (gr x :: st) h (gF h x ci k kont) := by
  cases x with
  | none => exact fun ho => nomatch ho
  | some q =>
    intro ho
    unfold gF at ho
    dsimp only at ho
    split at ho
    · rename_i c fs he
      split at ho
      · rename_i hc
        subst hc
        split at ho
        · rename_i v hv
          rcases hk2 v with ⟨w, rfl, hT⟩ | hn
          · exact ⟨(hT ho).1, fun K h0 H locs ls a b c9 => gw_get K a b kC hk hl he hv d ((hT ho).2 K h0 H locs ls a b c9)⟩
          · rw [hn] at ho
            cases ho
        · cases ho
      · cases ho
    · cases ho
theorem g_getfi {x : Option Nat} {ci k idx : Nat} {kont : Int32 → Out α} {C ref : String} {T : u_T} {N : Nat} {ty : Nat → FieldType} (kC : gCls ci C T N ty) (hk : k < N) (hl : gLk (mO M) idx ref (T k)) (d : decode (mC M) pc = .ok (.getfield idx, 3))
    (hk2 : ∀ v, gT G l X M cv r hf (pc + 3) lv (gi v :: st) h (kont v)) : gT G l X M cv r hf pc lv (gr x :: st) h (gFi h x ci k kont) := by
  refine g_getF kC hk hl d fun v => ?_
  cases v with
  | int y => exact Or.inl ⟨gi y, rfl, hk2 y⟩
  | _ => exact Or.inr rfl
theorem g_getfl {x : Option Nat} {ci k idx : Nat} {kont : Int64 → Out α} {C ref : String} {T : u_T} {N : Nat} {ty : Nat → FieldType} (kC : gCls ci C T N ty) (hk : k < N) (hl : gLk (mO M) idx ref (T k)) (d : decode (mC M) pc = .ok (.getfield idx, 3))
    (hk2 : ∀ v, gT G l X M cv r hf (pc + 3) lv (gl v :: st) h (kont v)) : gT G l X M cv r hf pc lv (gr x :: st) h (gFl h x ci k kont) := by
  refine g_getF kC hk hl d fun v => ?_
  cases v with
  | long y => exact Or.inl ⟨gl y, rfl, hk2 y⟩
  | _ => exact Or.inr rfl
theorem g_getff {x : Option Nat} {ci k idx : Nat} {kont : UInt32 → Out α} {C ref : String} {T : u_T} {N : Nat} {ty : Nat → FieldType} (kC : gCls ci C T N ty) (hk : k < N) (hl : gLk (mO M) idx ref (T k)) (d : decode (mC M) pc = .ok (.getfield idx, 3))
    (hk2 : ∀ v, gT G l X M cv r hf (pc + 3) lv (gf v :: st) h (kont v)) : gT G l X M cv r hf pc lv (gr x :: st) h (gFf h x ci k kont) := by
  refine g_getF kC hk hl d fun v => ?_
  cases v with
  | float y => exact Or.inl ⟨gf y, rfl, hk2 y⟩
  | _ => exact Or.inr rfl
theorem g_getfr {x : Option Nat} {ci k idx : Nat} {kont : Option Nat → Out α} {C ref : String} {T : u_T} {N : Nat} {ty : Nat → FieldType} (kC : gCls ci C T N ty) (hk : k < N) (hl : gLk (mO M) idx ref (T k)) (d : decode (mC M) pc = .ok (.getfield idx, 3))
    (hk2 : ∀ v, gT G l X M cv r hf (pc + 3) lv (gr v :: st) h (kont v)) : gT G l X M cv r hf pc lv (gr x :: st) h (gFr h x ci k kont) := by
  refine g_getF kC hk hl d fun v => ?_
  cases v with
  | null => exact Or.inl ⟨gr none, rfl, hk2 none⟩
  | ref y => exact Or.inl ⟨gr (some y), rfl, hk2 (some y)⟩
  | _ => exact Or.inr rfl
def gP (G : GG) (h : Hp) (x : Option Nat) (ci k : Nat) (v : Value) (kont : Hp → Out α) : Out α := match x with
  | none => none
  | some a => match h.2.2 a with
    | some (.inr (c, fs)) => if c = ci ∧ G.1 ≤ a ∧ k < fs.length then kont (hup h a (.inr (ci, fs.set k v))) else none
    | _ => none
def gPz (G : GG) (h : Hp) (x : Option Nat) (ci k : Nat) (v : Int32) (kont : Hp → Out α) : Out α := if gOkZ v = true then gP G h x ci k (.int v) kont else none
def gPb (G : GG) (h : Hp) (x : Option Nat) (ci k : Nat) (v : Int32) (kont : Hp → Out α) : Out α := if gOkB v = true then gP G h x ci k (.int v) kont else none
theorem gNi (x : Int32) : narrow .int (.int x) = .int x ∧ fits .int (.int x) = true := ⟨rfl, rfl⟩
theorem gNl (x : Int64) : narrow .long (.long x) = .long x ∧ fits .long (.long x) = true := ⟨rfl, rfl⟩
theorem gNf (x : UInt32) : narrow .float (.float x) = .float x ∧ fits .float (.float x) = true := ⟨rfl, rfl⟩
theorem gNr (C : String) (x : Option Nat) : narrow (.object C) (va_rf x) = va_rf x ∧ fits (.object C) (va_rf x) = true := by
  cases x <;> exact ⟨rfl, rfl⟩
theorem gNa (t : FieldType) (x : Option Nat) : narrow (.array t) (va_rf x) = va_rf x ∧ fits (.array t) (va_rf x) = true := by
  cases x <;> exact ⟨rfl, rfl⟩
/-- the cell behind a write -/
theorem g_putAt {s : State} {args : Array Value} {h : Hp} {H : Heap} {q ci k : Nat} {fs : List Value} {v : Value} {C : String} {T : u_T} {N : Nat} {ty : Nat → FieldType} (K : KK G s) (hts : ∀ w ∈ lw_all, w.before args s = true) (a : HR G h H) (kC : gCls ci C T N ty) (hk : k < N) (hq : G.1 ≤ q) (he : h.2.2 q = some (.inr (ci, fs))) (hl : k < fs.length) :
    ∃ (cf : ClassId) (kf : Class) (fi : Nat) (f : Field) (cell : Cell) (kL : Class), s.fieldFound? (T k).1 (T k).2.1 (T k).2.2.1 = some (cf, kf, fi, f) ∧ f.isStatic = false ∧ H[q]? = some cell ∧ cell.vm = .none ∧ f.slot < cell.slots.size ∧ s.vm.findClass C = some cell.cls ∧ s.vm.classes[cell.cls]? = some kL ∧ kL.kind = .ordinary ∧
      ∀ H1 : Heap, H1[q]? = some (cell.setSlot f.slot v) → va_at G.2.2.1 CL (q, .inr (ci, fs.set k v)) H1 := by
  have hap := va_apart (own := C) hts kC.2.1 ty kC.2.2.1 kC.2.2.2 K.1 kC.1
  obtain ⟨r, h1, cell, q1, q2, q3, q4⟩ := a.2.2.2 q _ hq he
  cases kC.1.symm.trans h1
  obtain ⟨hS, hfc, kL, hkL, hkind⟩ := K.1.1 ci _ kC.1
  obtain ⟨cf, kf, fi, f, hi, hsl⟩ := hS k hk
  refine ⟨cf, kf, fi, f, cell, kL, hi, (u_facts hfc hkL (u_lays hts kC.2.1 hk) hi).1, q1, q3, by rw [hsl]; exact k2_hasslot (q4 k hk), by rw [q2]; exact hfc, by rw [q2]; exact hkL, hkind, fun H1 e1 => ?_⟩
  rw [hsl] at e1
  exact ⟨_, kC.1, t_OB.to (V := updV (vp_V fs) k v) ⟨_, e1, q2, q3, t_set q4 hap hk v⟩ (fun j _ => vp_updV_set hl v j)⟩
theorem g_put {x : Option Nat} {ci k idx : Nat} {w : GV} {v : Value} {kont : Hp → Out α} {C ref : String} {T : u_T} {N : Nat} {ty : Nat → FieldType} (kC : gCls ci C T N ty) (hk : k < N) (hl : gLk (mO M) idx ref (T k)) (hfin : (T k).2.2.2 = false) (hw : toV w = v) (hn : narrow (ty k) v = v ∧ fits (ty k) v = true) (d : decode (mC M) pc = .ok (.putfield idx, 3))
    (hk2 : ∀ h', gT G l X M cv r hf (pc + 3) lv st h' (kont h')) : gT G l X M cv r hf pc lv (w :: gr x :: st) h (gP G h x ci k v kont) := by
  cases x with
  | none => exact fun ho => nomatch ho
  | some q =>
    intro ho
    unfold gP at ho
    dsimp only at ho
    split at ho
    · rename_i c fs he
      split at ho
      · rename_i hc
        obtain ⟨hc, hq, hlen⟩ := hc
        subst hc
        obtain ⟨i1, i2⟩ := hk2 _ ho
        refine ⟨i1, fun K h0 H locs ls a b c9 => ?_⟩
        have K9 := K
        obtain ⟨k1, k2, k3, k4, k5, k6, -⟩ := K
        obtain ⟨cf, kf, fi, f, cell, kL, g1, g2, g3, g4, g5, g6, g7, g8, g9⟩ := g_putAt (args := xA X) (v := v) k6 k5 a kC hk hq he hlen
        have hlay := k5 _ (kC.2.1 _ (u_in_lay hk))
        unfold u_lay at hlay
        rw [if_neg (by rw [hfin]; decide)] at hlay
        have h6 := u_store g6 g7 g8 hlay g1 (kC.2.2.1 k hk) hn.1 hn.2
        show gW l X _ H locs _ _ _ (F0 (xM X) pc ls (toV w :: .ref q :: gVs st))
        rw [hw]
        have fin : ∀ H' : Heap, H'[q]? = some (cell.setSlot f.slot v) → H'.size = H.size → (∀ z, z ≠ q → H'[z]? = H[z]?) → gW l X (gR M X hf) H' (locs ++ [⟨q, f.slot⟩]) (h.1 - (xH X).1) (h.2.1 - (xH X).2.1) (gMQ G X cv r hf) (F0 (xM X) (pc + 3) ls (gVs st)) := fun H' e1 e2 e3 =>
          i2 K9 h0 H' _ ls (a.up hq e2 e3 (g9 H' e1)) (b.put e2 e3 hq) c9
        rcases hl.1 with e | ⟨host, e⟩
        · exact W.putK k1 k2 (f := f) ⟨k4, k5 _ e, ⟨_, _, _, hl.same k5 _ g1⟩, g2⟩ h6 g3 g4 g5 rfl rfl d fin
        · exact va_WputK k1 k2 (f := f) k4 (va_Nw.use rfl (k6.2.2.1 _ e rfl)) (hl.same k5 _ g1) g2 h6 g3 g4 g5 rfl rfl d fin
      · cases ho
    · cases ho
/-- a final field, in its class's constructor -/
theorem g_putFin {x : Option Nat} {ci k idx : Nat} {w : GV} {v : Value} {kont : Hp → Out α} {C ref : String} {T : u_T} {N : Nat} {ty : Nat → FieldType} (kC : gCls ci C T N ty) (hk : k < N) (hl : gLk (mO M) idx ref (T k)) (hlk : Cond.fieldLink (mO M) idx ref (T k).2.1 (T k).2.2.1 ∈ lw_all) (hfin : (T k).2.2.2 = true) (hin : mY M = "<init>") (hdecl : (T k).1 = mO M) (hw : toV w = v) (hn : narrow (ty k) v = v ∧ fits (ty k) v = true) (d : decode (mC M) pc = .ok (.putfield idx, 3))
    (hk2 : ∀ h', gT G l X M cv r hf (pc + 3) lv st h' (kont h')) : gT G l X M cv r hf pc lv (w :: gr x :: st) h (gP G h x ci k v kont) := by
  cases x with
  | none => exact fun ho => nomatch ho
  | some q =>
    intro ho
    unfold gP at ho
    dsimp only at ho
    split at ho
    · rename_i c fs he
      split at ho
      · rename_i hc
        obtain ⟨hc, hq, hlen⟩ := hc
        subst hc
        obtain ⟨i1, i2⟩ := hk2 _ ho
        refine ⟨i1, fun K h0 H locs ls a b c9 => ?_⟩
        have K9 := K
        obtain ⟨k1, k2, k3, k4, k5, k6, -, -, -, -, -, kN⟩ := K
        obtain ⟨cf, kf, fi, f, cell, kL, g1, g2, g3, g4, g5, g6, g7, g8, g9⟩ := g_putAt (args := xA X) (v := v) k6 k5 a kC hk hq he hlen
        have hlay := k5 _ (kC.2.1 _ (u_in_lay hk))
        unfold u_lay at hlay
        rw [if_pos hfin] at hlay
        have hcf : (xM X).cls = cf := by
          obtain ⟨_, _, c', _, _, _, -, -, hf', -, -, -, hown2, -⟩ := Cond.laysFinal_spec hlay
          have e1 : c' = cf := by have := g1.symm.trans hf'; simp at this; exact this.1.symm
          rw [hdecl] at hown2
          rw [← e1]; exact Option.some.inj (k4.symm.trans hown2)
        have h6 := u_fits g6 g7 g8 (Or.inr hlay) g1 (kC.2.2.1 k hk) hn.1 hn.2
        show gW l X _ H locs _ _ _ (F0 (xM X) pc ls (toV w :: .ref q :: gVs st))
        rw [hw]
        exact W.putFinK k1 k2 k4 (k5 _ hlk) (hl.same k5 _ g1) g2 hcf (by rw [kN]; exact hin) h6 g3 g4 g5 rfl rfl d fun H' e1 e2 e3 =>
          i2 K9 h0 H' _ ls (a.up hq e2 e3 (g9 H' e1)) (b.put e2 e3 hq) c9
      · cases ho
    · cases ho
/-! new objects -/
def gDf (N : Nat) (ty : Nat → FieldType) : List Value := (List.range N).map (fun k => defaultValue (ty k))
theorem gDf_at {N : Nat} {ty : Nat → FieldType} {j : Nat} (hj : j < N) : defaultValue (ty j) = vp_V (gDf N ty) j := by
  simp [vp_V, gDf, List.getD, List.getElem?_map, List.getElem?_range hj]
def gNew (h : Hp) (ci : Nat) (fs : List Value) (n : Nat) (kont : Option Nat → Hp → Out α) : Out α := kont (some h.1) (hnw h (.inr (ci, fs)) n)
theorem g_sub1 {a b c : Nat} (h1 : b ≤ a) : a + c - b = a - b + c := by omega
theorem g_new {ci idx : Nat} {fs : List Value} {kont : Option Nat → Hp → Out α} {C : String} {T : u_T} {N : Nat} {ty : Nat → FieldType} (kC : gCls ci C T N ty) (hfs : gDf N ty = fs) (hcl : Cond.classLink (mO M) idx C ∈ lw_all) (hins : Cond.instantiable C N ∈ lw_all) (hini : Cond.initialized C ∈ lw_all) (d : decode (mC M) pc = .ok (.new idx, 3))
    (hk2 : ∀ v h', gT G l X M cv r hf (pc + 3) lv (gr v :: st) h' (kont v h')) : gT G l X M cv r hf pc lv st h (gNew h ci fs N kont) := by
  intro ho
  obtain ⟨i1, i2⟩ := hk2 _ _ ho
  have j1 : h.1 + 1 ≤ hf.1 := i1.1
  have j2 : h.2.1 + N ≤ hf.2.1 := i1.2
  refine ⟨⟨by omega, by omega⟩, fun K h0 H locs ls a b c9 => ?_⟩
  have K9 := K
  obtain ⟨k1, k2, k3, k4, k5, k6, -⟩ := K
  have l1 := h0.1
  have l2 := h0.2
  have hKn := k6.1.1 ci _ kC.1
  refine W.newcK k1 k2 k4 (k5 _ hcl) (k5 _ hins) (k5 _ hini) rfl d (by show h.1 - (xH X).1 + 1 ≤ hf.1 - (xH X).1; omega) (by show h.2.1 - (xH X).2.1 + N ≤ hf.2.1 - (xH X).2.1; omega) hKn.2.1 a.1 fun H1 kC2 hkC e1 z1 o1 => ?_
  have i3 := i2 K9 ⟨by show (xH X).1 ≤ h.1 + 1; omega, by show (xH X).2.1 ≤ h.2.1 + N; omega⟩ H1 locs ls (a.nw (by rw [a.1]; exact z1) (fun q hq => o1 q (by rw [← a.1]; exact hq)) ⟨_, kC.1, (u_born ty k5 kC.2.1 hKn hkC e1 kC.2.2.1).to (fun j hj => by subst hfs; exact gDf_at hj)⟩)
    ⟨Nat.le_trans b.1 (by rw [z1, a.1]; exact Nat.le_succ _), fun q q1 q2 => (o1 q (by rw [← a.1]; exact Nat.lt_of_lt_of_le q1 b.1)).trans (b.2.1 q q1 q2), b.2.2⟩ c9
  have e5 : (hnw h (.inr (ci, fs)) N).1 - (xH X).1 = h.1 - (xH X).1 + 1 := g_sub1 l1
  have e6 : (hnw h (.inr (ci, fs)) N).2.1 - (xH X).2.1 = h.2.1 - (xH X).2.1 + N := g_sub1 l2
  rw [e5, e6] at i3
  exact i3
end GH
