/-! GHOST HEAPS: what a walk tracks of the heap is a function from addresses to cells; every row turns a step of the machine into a step of a Lean function over such heaps -/
set_option maxRecDepth 100000
/-- a cell: an array (its type's place in AT, its length, its contents) or an object (its class's place in CL, its fields) -/
abbrev GC : Type := (Nat × vp_A) ⊕ (Nat × List Value)
/-- how many cells, how many slots were made, the cells -/
abbrev Hp : Type := Nat × Nat × (Nat → Option GC)
/-- what a method comes to: a value or the address of what was thrown, and the heap; none: not covered -/
abbrev Out (α : Type) : Type := Option ((α ⊕ Nat) × Hp)
/-- the first address of ours; the cells below it that are known; classes and fields; the classes of arrays; known addresses -/
abbrev GG : Type := Nat × (Nat → Option GC) × va_G × (Nat → ClassId) × (Nat → Nat)
abbrev gOwn (G : GG) : Nat → Prop := fun q => G.1 ≤ q
def g_tys (aC : Nat → ClassId) : List (ClassId × FieldType) := (List.range AT.length).map (fun i => (aC i, AT.getD i .int))
theorem g_tys_at {aC : Nat → ClassId} {i : Nat} {ty : FieldType} (h : AT[i]? = some ty) : (g_tys aC)[i]? = some (aC i, ty) := by
  have hl := (List.getElem?_eq_some_iff.mp h).1
  unfold g_tys
  rw [List.getElem?_map, List.getElem?_range hl]
  simp [List.getD, h]
def g_E (aC : Nat → ClassId) (e : GC) : va_E := match e with
  | .inl x => .inl (aC x.1, x.2)
  | .inr o => .inr o
def hup (h : Hp) (a : Nat) (e : GC) : Hp := (h.1, h.2.1, fun q => if q = a then some e else h.2.2 q)
def hnw (h : Hp) (e : GC) (n : Nat) : Hp := (h.1 + 1, h.2.1 + n, fun q => if q = h.1 then some e else h.2.2 q)
/-- the ghost heap h tells what H holds -/
def HR (G : GG) (h : Hp) (H : Heap) : Prop := H.size = h.1 ∧ G.1 ≤ h.1 ∧ (∀ a, a < G.1 → h.2.2 a = G.2.1 a) ∧ ∀ (a : Nat) (e : GC), G.1 ≤ a → h.2.2 a = some e → va_at G.2.2.1 CL (a, g_E G.2.2.2.1 e) H
theorem HR.up {G : GG} {h : Hp} {H H1 : Heap} {a : Nat} {e : GC} (hr : HR G h H) (ha : G.1 ≤ a) (hz : H1.size = H.size) (ho : ∀ q, q ≠ a → H1[q]? = H[q]?) (he : va_at G.2.2.1 CL (a, g_E G.2.2.2.1 e) H1) : HR G (hup h a e) H1 := by
  obtain ⟨h1, h2, h3, h4⟩ := hr
  refine ⟨hz.trans h1, h2, fun q hq => ?_, fun q x hq hx => ?_⟩
  · show (if q = a then some e else h.2.2 q) = _
    rw [if_neg (by omega)]
    exact h3 q hq
  · have hx : (if q = a then some e else h.2.2 q) = some x := hx
    by_cases hqa : q = a
    · rw [if_pos hqa] at hx
      cases hx
      rw [hqa]
      exact he
    · rw [if_neg hqa] at hx
      exact (h4 q x hq hx).kept (ho q hqa)
theorem HR.nw {G : GG} {h : Hp} {H H1 : Heap} {e : GC} {n : Nat} (hr : HR G h H) (hz : H1.size = H.size + 1) (ho : ∀ q, q < H.size → H1[q]? = H[q]?) (he : va_at G.2.2.1 CL (h.1, g_E G.2.2.2.1 e) H1) : HR G (hnw h e n) H1 := by
  obtain ⟨h1, h2, h3, h4⟩ := hr
  refine ⟨?_, ?_, fun q hq => ?_, fun q x hq hx => ?_⟩
  · show H1.size = h.1 + 1
    omega
  · show G.1 ≤ h.1 + 1
    omega
  · show (if q = h.1 then some e else h.2.2 q) = _
    rw [if_neg (by omega)]
    exact h3 q hq
  · have hx : (if q = h.1 then some e else h.2.2 q) = some x := hx
    by_cases hqa : q = h.1
    · rw [if_pos hqa] at hx
      cases hx
      rw [hqa]
      exact he
    · rw [if_neg hqa] at hx
      have h5 := h4 q x hq hx
      exact h5.kept (ho q h5.lt)
/-- one cell as a world -/
theorem g_one {D : va_G} {q : Nat × va_E} {H : Heap} (h : va_at D CL q H) : va_P D CL [q] H := by
  intro k x hk
  have hz : k < 1 := (List.getElem?_eq_some_iff.mp hk).1
  rw [show k = 0 by omega] at hk
  cases hk
  exact h
theorem g_oneD {A : Nat → Prop} {q : Nat × va_E} (h : A q.1) : va_D A [q] := by
  refine ⟨fun i j x y hi hj _ => ?_, fun k x hk => ?_⟩
  · have h1 : i < 1 := (List.getElem?_eq_some_iff.mp hi).1
    have h2 : j < 1 := (List.getElem?_eq_some_iff.mp hj).1
    omega
  · have hz : k < 1 := (List.getElem?_eq_some_iff.mp hk).1
    rw [show k = 0 by omega] at hk
    cases hk
    exact h
/-! what is known of the cells from before -/
def g_val (c : (Nat → Int32) ⊕ (Nat → Int64) ⊕ (Nat → UInt32) ⊕ (Nat → UInt64) ⊕ (Nat → Option Nat)) : Nat → Value := match c with
  | .inl f => fun j => .int (f j)
  | .inr (.inl f) => fun j => .long (f j)
  | .inr (.inr (.inl f)) => fun j => .float (f j)
  | .inr (.inr (.inr (.inl f))) => fun j => .double (f j)
  | .inr (.inr (.inr (.inr f))) => fun j => va_rf (f j)
def g_st1 (G : GG) (s : State) (a : Nat) (e : GC) : Prop := match e with
  | .inl x => ∃ ty, AT[x.1]? = some ty ∧ va_T ty a x.2.1 (g_val x.2.2) (gOwn G) s s.heap
  | .inr o => ∃ r : vw_C, CL[o.1]? = some r ∧ va_O r.1 a (gOwn G) s s.heap ∧ ∀ (k : Nat) (v : Value), o.2[k]? = some v → va_OF (r.2.1 k).1 (r.2.1 k).2.1 (r.2.1 k).2.2.1 v a (gOwn G) s s.heap
def g_st (G : GG) (s : State) : Prop := ∀ (a : Nat) (e : GC), G.2.1 a = some e → g_st1 G s a e
theorem g_st1.move {G : GG} {s U : State} {a : Nat} {e : GC} (hvm : s.vm.Alike U.vm) (hq : ∀ q : Nat, q < s.heap.size → ¬ gOwn G q → U.heap[q]? = s.heap[q]?) (h : g_st1 G s a e) : g_st1 G U a e := by
  cases e with
  | inl x =>
    obtain ⟨ty, h1, h2⟩ := h
    exact ⟨ty, h1, (h2.moved hvm).kept hq⟩
  | inr o =>
    obtain ⟨r, h1, h2, h3⟩ := h
    exact ⟨r, h1, (h2.moved hvm).kept hq, fun k v hk => ((h3 k v hk).moved hvm).kept hq⟩
/-- words of the tables that ride along by themselves -/
def g_kx (w : Cond) : Bool := match w with
  | .fieldLinkNest _ _ _ _ _ _ => true
  | .methodLinkNest _ _ _ _ => true
  | .castable _ _ => true
  | .declares _ => true
  | .privateMethod _ => true
  | _ => false
theorem g_kx_warm {s U : State} (hW : s.WarmedH U.vm) {w : Cond} (hk : g_kx w = true) (h : va_Nw w s) : va_Nw w U := by
  cases w with
  | fieldLinkNest a b c d e f => exact va_Nw.warmF hW h
  | methodLinkNest a b c d => exact va_Nw.warmM hW h
  | castable a b => exact va_Nw.warmC hW h
  | declares a => exact va_Nw.warmD hW h
  | privateMethod a => exact Cond.privateMethod_warm hW h
  | _ => cases hk
/-- a static's value: given, or a known address, or null or an address -/
def g_sv (sa : Nat → Nat) (x : Value ⊕ Nat) : Value := match x with
  | .inl v => v
  | .inr k => .ref (sa k)
theorem g_lands {s U : State} (hvm : s.vm.Alike U.vm) {C : String} {x y : MethodName} (h : (Cond.landsInDefault C x y).before #[] s = true) : (Cond.landsInDefault C x y).before #[] U = true := by
  have h1 : (Cond.landsInDefault C x y).before #[] (s.setVm U.vm) = true := (Cond.landsInDefault_setVm hvm (State.methodFound?_setVm hvm _ _ _)).trans h
  exact h1
/-- links of defaults, and what lands in them -/
def DFG : List Cond := [.methodLink "FlareSlopes$State" 182 ⟨"FlareSlopes$Cabin", "distance", "(LFlareSlopes$Located;)I"⟩, .sameMethod "FlareSlopes$Cabin" "FlareSlopes$Located" "distance" "(LFlareSlopes$Located;)I", .methodLink "FlareSlopes" 376 ⟨"FlareSlopes$Cabin", "distance", "(LFlareSlopes$Located;)I"⟩]
def DFL : List (String × MethodName × MethodName) := [("FlareSlopes$Cabin", ⟨"FlareSlopes$Located", "isWithin", "(LFlareSlopes$Located;I)Z"⟩, ⟨"FlareSlopes$Located", "isWithin", "(LFlareSlopes$Located;I)Z"⟩), ("FlareSlopes$Cabin", ⟨"FlareSlopes$Cabin", "distance", "(LFlareSlopes$Located;)I"⟩, ⟨"FlareSlopes$Located", "distance", "(LFlareSlopes$Located;)I"⟩)]
theorem g_dfg : GoodIn DFG DFG := fun w h => ⟨h, Or.inl (by
  simp only [DFG, List.mem_cons, List.not_mem_nil, or_false] at h
  rcases h with rfl | rfl | rfl <;> rfl)⟩
/-- what every method may take for granted -/
def KK (G : GG) (s : State) : Prop :=
  va_K G.2.2.1 CL (g_tys G.2.2.2.1) s ∧ g_st G s ∧ (∀ w ∈ lw_tbl, g_kx w = true → va_Nw w s) ∧
  (∀ C : String, Cond.arrayOver (.object C) ∈ lw_tbl → va_AO C s) ∧
  (∀ (C : String) (x y : MethodName), Cond.declares x ∈ lw_tbl → Cond.interfaceMethod x.cls x.cls x.name x.desc ∈ lw_tbl → Cond.publicMethod y ∈ lw_tbl → Cond.unhidden C x.name x.desc ∈ lw_tbl → Cond.castable C x.cls ∈ lw_tbl → x.cls ≠ "java/lang/invoke/MethodHandle" ∧ x.cls ≠ "java/lang/invoke/VarHandle" → va_Fw C x y s) ∧
  (∀ q ∈ NCL, va_Nc q.1 q.2 s) ∧
  (∀ q ∈ SRL, vk_R q.1 q.2.1 q.2.2.1 (G.2.2.2.2 q.2.2.2) s) ∧
  (∀ q ∈ SFL, va_Z q.1 q.2.1 q.2.2.1 (g_sv G.2.2.2.2 q.2.2.2) (gOwn G) s s.heap) ∧
  vx_Zq Bundle.tN "UNASSIGNED_STACK" Bundle.steD (gOwn G) s s.heap ∧ vx_Zq Bundle.tN "SUPPRESSED_SENTINEL" Bundle.listD (gOwn G) s s.heap ∧
  (∀ w ∈ DFG, w.before #[] s = true) ∧ (∀ q ∈ DFL, (Cond.landsInDefault q.1 q.2.1 q.2.2).before #[] s = true)
theorem KK.move {G : GG} {s U : State} (hW : s.WarmedH U.vm) (hq : ∀ q : Nat, q < s.heap.size → ¬ gOwn G q → U.heap[q]? = s.heap[q]?) (h : KK G s) : KK G U := by
  obtain ⟨h1, h2, h3, h4, h5, h6, h7, h8, h9, h10, h11, h12⟩ := h
  have hvm := hW.alike
  exact ⟨va_K.moved hvm h1, fun a e he => (h2 a e he).move hvm hq, fun w hw hk => g_kx_warm hW hk (h3 w hw hk), fun C hC => va_AO.moved hvm (h4 C hC),
    fun C x y a1 a2 a3 a4 a5 a6 => va_Fw.moved a6 hvm (h5 C x y a1 a2 a3 a4 a5 a6), fun q hq' => va_Nc.moved hvm (h6 q hq'), fun q hq' => vk_R.warm hW (h7 q hq'),
    fun q hq' => ((h8 q hq').moved hvm).kept hq, (h9.moved hvm).kept hq, (h10.moved hvm).kept hq,
    fun w hw => pay_in h11 g_dfg w hw #[] U hW, fun q hq' => g_lands hvm (h12 q hq')⟩
/-! what a frame of a method is up to, over ghost heaps -/
set_option maxRecDepth 100000
/-- a value by its kind: int, long, float, double, reference -/
abbrev GV : Type := Int32 ⊕ (Int64 ⊕ (UInt32 ⊕ (UInt64 ⊕ Option Nat)))
abbrev gi (x : Int32) : GV := .inl x
abbrev gl (x : Int64) : GV := .inr (.inl x)
abbrev gf (x : UInt32) : GV := .inr (.inr (.inl x))
abbrev gd (x : UInt64) : GV := .inr (.inr (.inr (.inl x)))
abbrev gr (x : Option Nat) : GV := .inr (.inr (.inr (.inr x)))
def toV (v : GV) : Value := match v with
  | .inl x => .int x
  | .inr (.inl x) => .long x
  | .inr (.inr (.inl x)) => .float x
  | .inr (.inr (.inr (.inl x))) => .double x
  | .inr (.inr (.inr (.inr x))) => va_rf x
def g_cat (v : GV) : Nat := match v with
  | .inl _ => 1
  | .inr (.inl _) => 2
  | .inr (.inr (.inl _)) => 1
  | .inr (.inr (.inr (.inl _))) => 2
  | .inr (.inr (.inr (.inr _))) => 1
theorem g_cat_eq (v : GV) : (toV v).category = g_cat v := by
  rcases v with x | x | x | x | x
  · rfl
  · rfl
  · rfl
  · rfl
  · cases x <;> rfl
abbrev gVs (st : List GV) : List Value := st.map toV
abbrev gLs (lv : List (Nat × GV)) : List (Nat × Value) := lv.map (fun q => (q.1, toV q.2))
def g_wd (st : List GV) : Nat := (st.map g_cat).sum
theorem g_wd_eq (st : List GV) : ((gVs st).map fun v => v.category).sum = g_wd st := by
  show ((st.map toV).map fun v => v.category).sum = (st.map g_cat).sum
  rw [List.map_map]
  congr 1
  apply List.map_congr_left
  intro v _
  exact g_cat_eq v
def g_args : Nat → List GV → List (Nat × GV)
  | _, [] => []
  | i, v :: vs => (i, v) :: g_args (i + g_cat v) vs
theorem g_args_eq : ∀ (vs : List GV) (i : Nat), gLs (g_args i vs) = lv_args i (gVs vs)
  | [], _ => rfl
  | v :: vs, i => by
    show (i, toV v) :: gLs (g_args (i + g_cat v) vs) = (i, toV v) :: lv_args (if (toV v).category = 2 then i + 2 else i + 1) (gVs vs)
    rw [g_args_eq vs, g_cat_eq]
    congr 2
    rcases v with x | x | x | x | x <;> rfl
def g_le (h h' : Hp) : Prop := h.1 ≤ h'.1 ∧ h.2.1 ≤ h'.2.1
theorem g_le.rf {h : Hp} : g_le h h := ⟨Nat.le_refl _, Nat.le_refl _⟩
theorem g_le.tr {a b c : Hp} (h1 : g_le a b) (h2 : g_le b c) : g_le a c := ⟨Nat.le_trans h1.1 h2.1, Nat.le_trans h1.2 h2.2⟩
/-- what stays the same all through a run of a method: program, environment, its start, itself, its arguments, what is below, its heap at the start -/
abbrev CTX : Type := Program × Env × State × MethodId × Array Value × List Frame × Method × Code × Hp
abbrev xS (X : CTX) : State := X.2.2.1
abbrev xM (X : CTX) : MethodId := X.2.2.2.1
abbrev xA (X : CTX) : Array Value := X.2.2.2.2.1
abbrev xB (X : CTX) : List Frame := X.2.2.2.2.2.1
abbrev xT (X : CTX) : Method := X.2.2.2.2.2.2.1
abbrev xC (X : CTX) : Code := X.2.2.2.2.2.2.2.1
abbrev xH (X : CTX) : Hp := X.2.2.2.2.2.2.2.2
/-- what is known of a method: its class, code, locals, answer, handlers, the frames and the words of locals that it and what it calls want -/
abbrev MI : Type := String × ByteArray × Nat × Option FieldType × List (Nat × Nat × Nat × Nat) × Nat × Nat × String
abbrev mO (M : MI) : String := M.1
abbrev mC (M : MI) : ByteArray := M.2.1
abbrev mN (M : MI) : Nat := M.2.2.1
abbrev mR (M : MI) : Option FieldType := M.2.2.2.1
abbrev mX (M : MI) : List (Nat × Nat × Nat × Nat) := M.2.2.2.2.1
abbrev mF (M : MI) : Nat := M.2.2.2.2.2.1
abbrev mL (M : MI) : Nat := M.2.2.2.2.2.2.1
abbrev mY (M : MI) : String := M.2.2.2.2.2.2.2
def gW (l : Launch) (X : CTX) (R : Room) (H : Heap) (locs : List Loc) (cells slots : Nat) (Q : State → Prop) (g : JFrame) : Prop :=
  W X.1 l X.2.1 R (xS X) (xM X) (xA X) (xB X) (xT X) (xC X) H locs cells slots Q g
def gWx (l : Launch) (X : CTX) (R : Room) (H : Heap) (locs : List Loc) (cells slots : Nat) (Q : State → Prop) (g : JFrame) (q : Addr) : Prop :=
  vx_W X.1 l X.2.1 R (xS X) (xM X) (xA X) (xB X) (xT X) (xC X) H locs cells slots Q g q
def Cx (G : GG) (l : Launch) (X : CTX) (M : MI) : Prop :=
  X.1.tables.exec = Jvm.exec ∧ (xC X).code = mC M ∧ (xC X).maxLocals = mN M ∧ (xS X).vm.findClass (mO M) = some (xM X).cls ∧ (∀ w ∈ lw_all, w.before (xA X) (xS X) = true) ∧ KK G (xS X) ∧ (xT X).locks = false ∧ l.stackTraces = false ∧ (xT X).sig.returnType = mR M ∧ (xC X).exceptionTable.toList = tableOf (mX M) ∧
  G.1 ≤ (xS X).heap.size ∧ (xT X).name = mY M
/-- a method's end -/
def gQ {α : Type} (G : GG) (cv : α → Option Value) (r : α ⊕ Nat) (hf : Hp) (mc ms : Nat) (st : State) (o : Outcome) (t : State) : Prop :=
  HR G hf t.heap ∧ va_F (gOwn G) st t ∧ st.WarmedH t.vm ∧ (∃ L, st.sameButNew ({ t with vm := st.vm } : State) L mc ms ∧ ∀ z ∈ L, gOwn G z.base) ∧
  match r with
  | .inl v => o = .returned (cv v)
  | .inr q => o = .threw q ∧ gOwn G q ∧ ∃ (ci : Nat) (fs : List Value), hf.2.2 q = some (.inr (ci, fs))
def gMQ {α : Type} (G : GG) (X : CTX) (cv : α → Option Value) (r : α ⊕ Nat) (hf : Hp) : State → Prop := fun t =>
  ∃ o, t.status = .running ∧ Ended t (xB X) o ∧ gQ G cv r hf (hf.1 - (xH X).1) (hf.2.1 - (xH X).2.1) (xS X) o t
abbrev gR (M : MI) (X : CTX) (hf : Hp) : Room := { frames := mF M, cells := hf.1 - (xH X).1, slots := hf.2.1 - (xH X).2.1, locals := mL M }
/-- THE JUDGEMENT: at pc with locals lv and stack st over h, the Lean side being o: if o comes to r and hf, so does the machine -/
def gT {α : Type} (G : GG) (l : Launch) (X : CTX) (M : MI) (cv : α → Option Value) (r : α ⊕ Nat) (hf : Hp) (pc : Nat) (lv : List (Nat × GV)) (st : List GV) (h : Hp) (o : Out α) : Prop :=
  o = some (r, hf) → g_le h hf ∧ (Cx G l X M → g_le (xH X) h → ∀ (H : Heap) (locs : List Loc) (ls : Array Slot), HR G h H → va_S (gOwn G) (xS X).heap H locs → lv_has ls (mN M) (gLs lv) →
    gW l X (gR M X hf) H locs (h.1 - (xH X).1) (h.2.1 - (xH X).2.1) (gMQ G X cv r hf) (F0 (xM X) pc ls (gVs st)))
/-- the same where q has been thrown at pc -/
def gTx {α : Type} (G : GG) (l : Launch) (X : CTX) (M : MI) (cv : α → Option Value) (r : α ⊕ Nat) (hf : Hp) (pc : Nat) (lv : List (Nat × GV)) (q : Nat) (h : Hp) (o : Out α) : Prop :=
  o = some (r, hf) → g_le h hf ∧ (Cx G l X M → g_le (xH X) h → gOwn G q → ∀ (H : Heap) (locs : List Loc) (ls : Array Slot) (st : List Value), HR G h H → va_S (gOwn G) (xS X).heap H locs → lv_has ls (mN M) (gLs lv) → (∃ (ci : Nat) (fs : List Value), h.2.2 q = some (.inr (ci, fs))) →
    gWx l X (gR M X hf) H locs (h.1 - (xH X).1) (h.2.1 - (xH X).2.1) (gMQ G X cv r hf) (F0 (xM X) pc ls st) q)
/-- a contract of ours: what comes back, and the heap, were computed beforehand -/
def gMet {α : Type} (G : GG) (l : Launch) (y : MethodName) (ws : List Cond) (fr lo : Nat) (vals : List GV) (h : Hp) (cv : α → Option Value) (r : α ⊕ Nat) (hf : Hp) : Prop :=
  (Nonempty CTX → g_le h hf) ∧ MetFree l y (headSpec ws { frames := fr, cells := hf.1 - h.1, slots := hf.2.1 - h.2.1, locals := lo }) (fun v U => v = (gVs vals).toArray ∧ HR G h U.heap ∧ KK G U) (fun _ _ _ _ _ => True)
    (fun _ st o t => gQ G cv r hf (hf.1 - h.1) (hf.2.1 - h.2.1) st o t)
abbrev cvI : Int32 → Option Value := fun v => some (.int v)
abbrev cvL : Int64 → Option Value := fun v => some (.long v)
abbrev cvF : UInt32 → Option Value := fun v => some (.float v)
abbrev cvD : UInt64 → Option Value := fun v => some (.double v)
abbrev cvR : Option Nat → Option Value := fun v => some (va_rf v)
abbrev cvU : Unit → Option Value := fun _ => none
theorem gW.mono {l : Launch} {X : CTX} {R : Room} {H : Heap} {locs : List Loc} {cells slots : Nat} {Q Q' : State → Prop} {g : JFrame} (hq : ∀ t, Q t → Q' t) (h : gW l X R H locs cells slots Q g) : gW l X R H locs cells slots Q' g := by
  intro T hT Y
  obtain ⟨t, a, b⟩ := h T hT Y
  exact ⟨t, a, hq t b⟩
theorem g_slw : ∀ vals : List GV, (lg_sl (gVs vals)).length = g_wd vals
  | [] => rfl
  | v :: vs => by
    have ih := g_slw vs
    show ((if (toV v).category = 2 then [Slot.val (toV v), .second] else [.val (toV v)]) ++ lg_sl (gVs vs)).length = g_cat v + g_wd vs
    rw [List.length_append, ih]
    rcases v with x | x | x | x | x
    · rfl
    · rfl
    · rfl
    · rfl
    · cases x <;> rfl
theorem gMet.of {α : Type} {G : GG} {l : Launch} {y : MethodName} {ws : List Cond} {vals : List GV} {h : Hp} {cv : α → Option Value} {r : α ⊕ Nat} {hf : Hp} {own : String} {cc : ByteArray} {nL fr lo : Nat} {ret : Option FieldType} {o : Out α} (ho : o = some (r, hf))
    (hl : l.stackTraces = false) (hy : plainFor y = true) (hw : ws = ws_ y cc nL ret) (hown : y.cls = own) (hn : g_wd vals ≤ nL)
    (body : ∀ X : CTX, gT G l X (own, cc, nL, ret, [], fr, lo, y.name) cv r hf 0 (g_args 0 vals) [] h o) : gMet G l y ws fr lo vals h cv r hf := by
  refine ⟨fun hX => hX.elim fun X => (body X ho).1, ?_⟩
  refine MetFree.of_bodySF (code := cc) (maxLocals := nL) (ret := ret) hy ?_ ?_
  · intro args s m h hn
    obtain ⟨meth, c, h1, h2, h3, h4, h5, h6, -, -⟩ := Cond.code_spec hn (atoms_spec (ws := ws) h _ (by rw [hw]; exact List.mem_cons_self))
    exact ⟨meth, c, h1, h2, h3, h4, h5, h6⟩
  · intro p e s m args below meth c s₁ B hml hP _
    obtain ⟨hargs, hHR, hKK⟩ := hP
    subst hargs
    have hh0 : s₁.heap = s.heap := by rw [B.state]; rfl
    have ht : c.exceptionTable.toList = tableOf [] := by
      obtain ⟨meth9, c9, h1, h2, -, -, -, -, h7, -⟩ := Cond.code_spec B.named (atoms_spec (ws := ws) B.pre _ (by rw [hw]; exact List.mem_cons_self))
      cases Option.some.inj (h1.symm.trans B.method)
      cases Option.some.inj (h2.symm.trans (Stand.of_body B).code)
      have h8 : c.exceptionTable = #[] := by simpa using h7
      rw [h8]
      rfl
    have hts : ∀ w ∈ lw_all, w.before (gVs vals).toArray s = true := fun w h => atoms_spec (ws := ws) B.pre w (by rw [hw]; exact List.mem_cons_of_mem _ h)
    have hb := body (p, e, s, m, (gVs vals).toArray, below, meth, c, h) ho
    have hfc : s.vm.findClass own = some m.cls := by rw [← hown]; exact findClass_of_methodNamed B.named
    have hS0 : G.1 ≤ s.heap.size := by have h1 := hHR.1; have h2 := hHR.2.1; omega
    have h9 := hb.2 ⟨B.exec, B.bytes, hml, hfc, hts, hKK, B.notSynchronized, hl, B.returns, ht, hS0, (name_of_methodNamed B.named B.method).1⟩ g_le.rf s.heap [] _ hHR va_S.rf (by rw [g_args_eq]; exact lv_entry (gVs vals) (by rw [g_slw]; exact hn))
    have hz1 : h.1 - h.1 = 0 := Nat.sub_self _
    have hz2 : h.2.1 - h.2.1 = 0 := Nat.sub_self _
    simp only [xH, hz1, hz2] at h9
    obtain ⟨t, a1, o, b1, b2, b3⟩ := h9 s₁ hh0 (Stand.of_body B)
    refine ⟨t, o, ?_, b1, b2, b3⟩
    rw [lg_entry_eq]
    exact a1
theorem gMet.ofW {α : Type} {G : GG} {l : Launch} {y : MethodName} {ws : List Cond} {vals : List GV} {h : Hp} {cv : α → Option Value} {r : α ⊕ Nat} {hf : Hp} {own : String} {cc : ByteArray} {nL fr lo : Nat} {ret : Option FieldType} {hh : List (Nat × Nat × Nat × Nat)} {o : Out α} (ho : o = some (r, hf))
    (hl : l.stackTraces = false) (hy : plainFor y = true) (hw : ws = wsW_ y cc nL ret hh) (hown : y.cls = own) (hn : g_wd vals ≤ nL)
    (body : ∀ X : CTX, gT G l X (own, cc, nL, ret, hh, fr, lo, y.name) cv r hf 0 (g_args 0 vals) [] h o) : gMet G l y ws fr lo vals h cv r hf := by
  refine ⟨fun hX => hX.elim fun X => (body X ho).1, ?_⟩
  refine MetFree.of_bodySF (code := cc) (maxLocals := nL) (ret := ret) hy ?_ ?_
  · intro args s m h hn
    obtain ⟨m9, meth, c, hn9, h1, h2, h3, h4, -, h5, h6, -⟩ := Cond.codeWith_spec (atoms_spec (ws := ws) h _ (by rw [hw]; exact List.mem_cons_self))
    cases hn.symm.trans hn9
    exact ⟨meth, c, h1, h2, h3, h4, h5, h6⟩
  · intro p e s m args below meth c s₁ B hml hP _
    obtain ⟨hargs, hHR, hKK⟩ := hP
    subst hargs
    have hh0 : s₁.heap = s.heap := by rw [B.state]; rfl
    have ht : c.exceptionTable.toList = tableOf hh := vx_table (x := y) B (atoms_spec (ws := ws) B.pre _ (by rw [hw]; exact List.mem_cons_self))
    have hts : ∀ w ∈ lw_all, w.before (gVs vals).toArray s = true := fun w h => atoms_spec (ws := ws) B.pre w (by rw [hw]; exact List.mem_cons_of_mem _ h)
    have hb := body (p, e, s, m, (gVs vals).toArray, below, meth, c, h) ho
    have hfc : s.vm.findClass own = some m.cls := by rw [← hown]; exact findClass_of_methodNamed B.named
    have hS0 : G.1 ≤ s.heap.size := by have h1 := hHR.1; have h2 := hHR.2.1; omega
    have h9 := hb.2 ⟨B.exec, B.bytes, hml, hfc, hts, hKK, B.notSynchronized, hl, B.returns, ht, hS0, (name_of_methodNamed B.named B.method).1⟩ g_le.rf s.heap [] _ hHR va_S.rf (by rw [g_args_eq]; exact lv_entry (gVs vals) (by rw [g_slw]; exact hn))
    have hz1 : h.1 - h.1 = 0 := Nat.sub_self _
    have hz2 : h.2.1 - h.2.1 = 0 := Nat.sub_self _
    simp only [xH, hz1, hz2] at h9
    obtain ⟨t, a1, o, b1, b2, b3⟩ := h9 s₁ hh0 (Stand.of_body B)
    refine ⟨t, o, ?_, b1, b2, b3⟩
    rw [lg_entry_eq]
    exact a1
