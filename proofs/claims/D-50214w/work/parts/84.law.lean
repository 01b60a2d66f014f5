/-! the law: what holds between calls; a call that asks -/
set_option maxRecDepth 100000
set_option maxHeartbeats 2000000
/-- the twin's cells, and whose they are -/
def TwA (b : Nat) (h : Hp) (w : Nat → Nat) (tb : Nat) (T : TS) : Prop := ∀ j, j < 10 → h.2.2 (tb + j) = tCell tb T j ∧ Ow b h w 4 (tb + j)
def OdO (b : Nat) (h : Hp) (w : Nat → Nat) (od : Nat) : Prop := Ow b h w 6 od ∧ ∃ f : Nat → UInt64, h.2.2 od = some (.inl (4, 1, .inr (.inr (.inr (.inl f)))))
/-- all but the component's own -/
def Oth (b c0 s0 n : Nat) (h : Hp) (w : Nat → Nat) (a0 m : Nat) (sc : Nat → Int32) (tb ou od : Nat) (T : TS) : Prop := TwA b h w tb T ∧ OuO b h w ou ∧ OdO b h w od ∧ ImC h w a0 (.inl (0, m, .inl sc)) ∧ h.1 ≤ c0 + 50000 * n ∧ h.2.1 ≤ s0 + 200000 * n
def LI (G : GG) (c0 s0 n : Nat) (h : Hp) (w : Nat → Nat) (a0 m : Nat) (sc : Nat → Int32) (x bf pa pel sv ob tb ou od : Nat) (nl : Nat → List Nat) (T : TS) : Prop := CI G n h w x bf pa pel sv ob nl T ∧ Oth G.1 c0 s0 n h w a0 m sc tb ou od T
section L1
variable {S : Nat → Prop} {b c c0 s0 n a0 m tb ou od x bf pa pel sv ob : Nat} {G : GG} {N : Nat} {nl : Nat → List Nat} {h h' : Hp} {w w' : Nat → Nat} {sc : Nat → Int32} {T T' : TS}
theorem tCell_k {j : Nat} {e : GC} (he : tCell b T j = some e) : ∀ fs, e ≠ .inr (26, fs) := by
  intro fs q
  unfold tCell at he
  rw [q] at he
  split at he <;> first
    | (injection he with he; injection he with he; exact absurd (Prod.mk.inj he).1 (by decide))
    | (cases he)
theorem tCell_some {j : Nat} (hj : j < 10) : ∃ e, tCell b T j = some e := by
  match j with
  | 0 => exact ⟨_, rfl⟩
  | 1 => exact ⟨_, rfl⟩
  | 2 => exact ⟨_, rfl⟩
  | 3 => exact ⟨_, rfl⟩
  | 4 => exact ⟨_, rfl⟩
  | 5 => exact ⟨_, rfl⟩
  | 6 => exact ⟨_, rfl⟩
  | 7 => exact ⟨_, rfl⟩
  | 8 => exact ⟨_, rfl⟩
  | 9 => exact ⟨_, rfl⟩
  | n + 10 => omega
theorem TwA.keep (A : TwA b h w tb T) (Q : Tr S c h w h' w') (h4 : ¬ S 4) : TwA b h' w' tb T := fun j hj => by
  obtain ⟨a1, a2⟩ := A j hj
  obtain ⟨e, he⟩ := tCell_some (b := tb) (T := T) hj
  rw [he] at a1
  exact ⟨by rw [Q.own a2 h4 (by decide) a1 (tCell_k he), he], a2.keep Q⟩
theorem TwA.eq (A : TwA b h w tb T) : hT tb T h = h := by
  unfold hT
  refine Prod.ext rfl (Prod.ext rfl (funext fun q => ?_))
  show (if tb ≤ q ∧ q < tb + 10 then tCell tb T (q - tb) else h.2.2 q) = h.2.2 q
  by_cases hq : tb ≤ q ∧ q < tb + 10
  · rw [if_pos hq, ← (A (q - tb) (by omega)).1, show tb + (q - tb) = q by omega]
  · rw [if_neg hq]
theorem TwA.to (A : TwA b h w tb T) (T' : TS) : TwA b (hT tb T' h) w tb T' ∧ Tr (fun t => t = 4) 0 h w (hT tb T' h) w := by
  refine ⟨fun j hj => ⟨hT_at tb T' h hj, (A j hj).2⟩, Tr.ex rfl rfl (fun q _ q2 => ?_)⟩
  show (if tb ≤ q ∧ q < tb + 10 then tCell tb T' (q - tb) else h.2.2 q) = h.2.2 q
  rw [if_neg]
  intro hq
  have := (A (q - tb) (by omega)).2.2.2
  rw [show tb + (q - tb) = q by omega] at this
  exact q2 this
theorem OdO.keep (A : OdO b h w od) (Q : Tr S c h w h' w') (h5 : ¬ S 6) : OdO b h' w' od := by
  obtain ⟨a1, f, a2⟩ := A
  exact ⟨a1.keep Q, f, Q.own a1 h5 (by decide) a2 nar⟩
theorem l_Al {α : Type} {a t n i : Nat} {f : Nat → Int64} {kont : Int64 → Out α} (e : h.2.2 a = some (.inl (t, n, .inr (.inl f)))) (hi : i < n) (hn : n < 2 ^ 31) : gAl h (some a) t (nI i) kont = kont (f i) := by
  unfold gAl; simp only [e]
  rw [if_pos ⟨trivial, nI_in hi hn⟩, nI_clamp (by omega)]
theorem lg_same {v : Int64} : lg_cmp v v = 0 := by
  unfold lg_cmp
  rw [if_neg (Int64.lt_irrefl (a := v)), if_pos rfl]
/-- what x's state is, out of what is kept -/
theorem CI.now (A : CI G n h w x bf pa pel sv ob nl T) : ∃ now, Now G h w x now nl (T.2.2.1 1) ∧ T.1 8 = bZ (now ≠ none) ∧ (∃ fs, h.2.2 x = some (.inr (3, fs))) ∧ (now ≠ none → ROK (T.2.2.1 1) ∧ NumI n (T.2.2.1 1)) := by
  obtain ⟨b1, b2, b3, now, um, hd, bn, pf, sf, c1, c2, c3, c6, c7, c8⟩ := A
  refine ⟨now, ⟨⟨_, c2, rfl⟩, b1, fun st e => ?_⟩, ?_, ⟨_, c2⟩, fun hn => ?_⟩
  · rcases c7 with ⟨d1, -⟩ | ⟨st', d1, d2, d3, -⟩
    · rw [e] at d1; cases d1
    · rw [e] at d1
      cases d1
      exact d3.1
  · rcases c7 with ⟨d1, d2, -⟩ | ⟨st', d1, d2, d3, -⟩
    · rw [d2]; exact bZ_c ⟨fun q => q.elim, fun q => absurd d1 q⟩
    · rw [d2]; exact bZ_c ⟨fun _ => by rw [d1]; simp, fun _ => trivial⟩
  · rcases c7 with ⟨d1, -⟩ | ⟨st', d1, d2, d3, -⟩
    · exact absurd d1 hn
    · obtain ⟨⟨mt, cl, se, bu, rd, gr, cb, ru, mp, sp, nn, es, X⟩, d4⟩ := d3
      exact ⟨X.2.2.2.2.2.2.2.2.1, d4⟩
/-- a call that asks: the component's side -/
theorem ask_c {q r : Prop} {v : Int32} {f : Nat → Out Int32} {kx : Nat → Hp → Out Int32} {K : Int32 → Hp → Out Int32} {u : Int32 → Int64} (hK : ∀ v h2 g, h2.2.2 ou = some (.inl (3, 1, .inr (.inl g))) → G.1 ≤ ou → K v h2 = some (.inl 0, hup h2 ou (.inl (3, 1, .inr (.inl (vp_updL g 0 (u v))))))) (L : LI G c0 s0 n h w a0 m sc x bf pa pel sv ob tb ou od nl T) (hc : c ≤ 49000) (hQ : ∀ now, Now G h w x now nl (T.2.2.1 1) → (now ≠ none → ROK (T.2.2.1 1) ∧ NumI n (T.2.2.1 1)) → Q4 c h w (now ≠ none) q r v (f x)) (k0 : ∀ q h', h'.2.2 q = some (.inr (0, [])) → kx q h' = some (.inl 1, h')) (k2 : ¬ q → ∀ q h', h'.2.2 q = some (.inr (2, [])) → kx q h' = some (.inl 2, h')) (k1 : ¬ r → ∀ q h', h'.2.2 q = some (.inr (1, [])) → kx q h' = some (.inl 3, h')) :
    ∃ h1 w1 p, T.1 8 = bZ p ∧ (p → ROK (T.2.2.1 1) ∧ NumI n (T.2.2.1 1)) ∧ bVX h (some x) 3 f K kx = some (.inl (th3 p q r), h1) ∧ CI G (n + 1) h1 w1 x bf pa pel sv ob nl (tI T 0 (th3 p q r)) ∧ Oth G.1 c0 s0 (n + 1) h1 w1 a0 m sc tb ou od T ∧ (th3 p q r = 0 → ∃ g : Nat → Int64, h1.2.2 ou = some (.inl (3, 1, .inr (.inl g))) ∧ g 0 = u v) := by
  classical
  obtain ⟨A, o1, o2, o3, o4, o5, o6⟩ := L
  obtain ⟨now, N1, N2, ⟨fs, N3⟩, N4⟩ := A.now
  obtain ⟨h1, w1, e1, e2, g, e3, e4⟩ := wrap (G := G) hK N3 A.1 o2 (hQ now N1 N4) k0 (fun z => k2 z.2) (fun z => k1 z.2.2)
  have T1 := e2.seal A.2.1
  refine ⟨h1, fun q => f9 (w1 q), now ≠ none, N2, N4, e1, A.keep T1 (by decide) (by decide) (by decide) NT.seal (by omega) (fun k hk => tI_ne (by omega)) (fun _ _ => rfl) rfl, ⟨o1.keep T1 (by decide), ⟨o2.1.keep T1, g, e3⟩, o3.keep T1 (by decide), o4.keep T1 (by decide) nar, ?_, ?_⟩, fun hz => ⟨g, e3, e4 ?_⟩⟩
  · have := T1.2.1; omega
  · have := T1.2.2.1; omega
  · unfold th3 at hz
    by_cases hp : now ≠ none
    · rw [if_pos hp] at hz
      by_cases hq : q
      · rw [if_pos hq] at hz
        by_cases hr : r
        · exact ⟨hp, hq, hr⟩
        · rw [if_neg hr] at hz; exact absurd hz (by decide)
      · rw [if_neg hq] at hz; exact absurd hz (by decide)
    · rw [if_neg hp] at hz; exact absurd hz (by decide)
theorem Oth.mono {n' : Nat} (A : Oth b c0 s0 n h w a0 m sc tb ou od T) (hn : n ≤ n') : Oth b c0 s0 n' h w a0 m sc tb ou od T := by
  obtain ⟨o1, o2, o3, o4, o5, o6⟩ := A
  exact ⟨o1, o2, o3, o4, by omega, by omega⟩
/-- the two ways of storing an answer -/
theorem kInt : ∀ (v : Int32) (h2 : Hp) (g : Nat → Int64), h2.2.2 ou = some (.inl (3, 1, .inr (.inl g))) → G.1 ≤ ou → (fun (v1 : Int32) (h2 : Hp) => (gSl G h2 (some ou) 3 (0 : Int32) (v1.toInt64) fun h3 => some (.inl (0 : Int32), h3) : Out Int32)) v h2 = some (.inl 0, hup h2 ou (.inl (3, 1, .inr (.inl (vp_updL g 0 v.toInt64))))) := fun v h2 g e hb => by
  dsimp only
  rw [n_0, l_Sl e hb (by omega) (by omega)]
def uB (v : Int32) : Int64 := if v = 0 then 0 else 1
theorem kBool : ∀ (v : Int32) (h2 : Hp) (g : Nat → Int64), h2.2.2 ou = some (.inl (3, 1, .inr (.inl g))) → G.1 ≤ ou → (fun (v1 : Int32) (h2 : Hp) => (gJ (fun (x3 : Int64) (h4 : Hp) => gSl G h4 (some ou) 3 (0 : Int32) x3 fun h6 => some (.inl (0 : Int32), h6)) fun j5 => if v1 = 0 then (j5 (0 : Int64) h2) else j5 (1 : Int64) h2 : Out Int32)) v h2 = some (.inl 0, hup h2 ou (.inl (3, 1, .inr (.inl (vp_updL g 0 (uB v)))))) := fun v h2 g e hb => by
  dsimp only
  rw [l_J]
  unfold uB
  by_cases hv : v = 0
  · rw [if_pos hv, if_pos hv]
    exact l_Sl (i := 0) e hb (by omega) (by omega)
  · rw [if_neg hv, if_neg hv]
    exact l_Sl (i := 0) e hb (by omega) (by omega)
/-- the two ways of comparing -/
def cmI (o : Int64) (b : Int32) (j : Unit → Hp → Out Int32) (h3 : Hp) : Out Int32 := if (lg_cmp o (b.toInt64)) = 0 then (j () h3) else gRtZ (0 : Int32) h3
def cmB (o : Int64) (b : Int32) (j : Unit → Hp → Out Int32) (h3 : Hp) : Out Int32 := gJ (fun (x : Int64) (h4 : Hp) => if (lg_cmp o x) = 0 then (j () h4) else gRtZ (0 : Int32) h4) fun j4 => if b = 0 then (j4 (0 : Int64) h3) else j4 (1 : Int64) h3
theorem cInt (b : Int32) (j : Unit → Hp → Out Int32) (h : Hp) : cmI (b.toInt64) b j h = j () h := by
  unfold cmI
  rw [lg_same, if_pos (by decide)]
theorem cBool (b : Int32) (j : Unit → Hp → Out Int32) (h : Hp) : cmB (uB b) b j h = j () h := by
  unfold cmB
  rw [l_J]
  unfold uB
  by_cases hv : b = 0
  · rw [if_pos hv, if_pos hv]
    dsimp only
    rw [lg_same, if_pos (by decide)]
  · rw [if_neg hv, if_neg hv]
    dsimp only
    rw [lg_same, if_pos (by decide)]
/-- the twin's turn, and the comparing -/
theorem fin_i {k v : Int32} {t : Nat → Out Int32} {j20 : Unit → Hp → Out Int32} {u : Int32 → Int64} {CMP : Int64 → Int32 → (Unit → Hp → Out Int32) → Hp → Out Int32} (hC : ∀ b j h3, CMP (u b) b j h3 = j () h3) (C : CI G n h w x bf pa pel sv ob nl T') (O : Oth G.1 c0 s0 n h w a0 m sc tb ou od T) (hk : T'.1 0 = k) (ht : t tb = some (.inl v, hT tb T' h)) (ho : k = 0 → ∃ g : Nat → Int64, h.2.2 ou = some (.inl (3, 1, .inr (.inl g))) ∧ g 0 = u v) :
    (bV h (some tb) 18 t fun b h2 => bV h2 (some tb) 18 (fun q => sX2_thrown G N (some q) h2) fun th h3 => if th = k then (gJ (fun (_ : Unit) (hh : Hp) => j20 () hh) fun j => if k = 0 then (gAl h3 (some ou) 3 (0 : Int32) fun o => CMP o b j h3) else j () h3) else gRtZ (0 : Int32) h3) = j20 () (hT tb T' h) ∧ LI G c0 s0 n (hT tb T' h) w a0 m sc x bf pa pel sv ob tb ou od nl T' := by
  obtain ⟨o1, o2, o3, o4, o5, o6⟩ := O
  obtain ⟨t1, t2⟩ := o1.to T'
  have e0 := (o1 0 (by omega)).1
  refine ⟨?_, C.keep t2 (by decide) (by decide) (by decide) (fun q hq => C.2.1 q hq) (Nat.le_refl _) (fun _ _ => rfl) (fun _ _ => rfl) rfl, t1, o2.keep t2 (by decide), o3.keep t2 (by decide), o4.keep t2 (by decide) nar, o5, o6⟩
  rw [l_bV (show h.2.2 tb = some (.inr (18, tObj tb T)) from e0), ht, l_bnd, t_bV]
  unfold sX2_thrown
  rw [t_fi0, l_bnd, if_pos hk, l_J]
  by_cases hz : k = 0
  · obtain ⟨g, g1, g2⟩ := ho hz
    have g3 : (hT tb T' h).2.2 ou = some (.inl (3, 1, .inr (.inl g))) := by
      have := o2.1
      exact t2.own this (by decide) (by decide) g1 nar
    rw [if_pos hz, n_0, l_Al g3 (by omega) (by omega), g2, hC]
  · rw [if_neg hz]
end L1
