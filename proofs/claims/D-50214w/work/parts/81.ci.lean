/-! what the component keeps between calls, by what the twin keeps -/
set_option maxRecDepth 100000
set_option maxHeartbeats 2000000
def Rw (T : TS) (a k : Nat) : Row := fun j => T.2.2.1 a (1058 * k + j)
/-- a row's numbers; n: how many calls there were at most -/
def NumI (n : Nat) (R : Row) : Prop := (∃ t, t ≤ 5000 ∧ R 90 = nI t ∧ RunB (100 * t) R) ∧ HelB R ∧ TruB R ∧ (∃ m, m < 256 ∧ R 97 = nI m) ∧ ∃ i, i ≤ n ∧ R 95 = nI i
def StS (b : Nat) (h : Hp) (w : Nat → Nat) (nl : Nat → List Nat) (st : Nat) (R : Row) : Prop := ∃ (mt cl se bu rd gr : Nat) (cb ru mp sp nn : Nat → Nat) (es : Nat → List En), StX b h w (fun _ => 0) st R nl mt cl se bu rd gr cb ru mp sp nn es
def StN (b : Nat) (h : Hp) (w : Nat → Nat) (n : Nat) (nl : Nat → List Nat) (st : Nat) (R : Row) : Prop := StS b h w nl st R ∧ NumI n R
/-- a name as a number -/
def num27 (L : List Nat) : Nat := L.foldl (fun a c => 27 * a + (c - 96)) 0
def NamO (nl : Nat → List Nat) (T : TS) (k : Nat) : Prop := T.2.2.2 6 k = Int64.ofNat (num27 (nl k)) ∧ 0 < (nl k).length ∧ (nl k).length ≤ 6 ∧ ∀ c, c ∈ nl k → 97 ≤ c ∧ c ≤ 122
/-- the text written last -/
def OutO (b : Nat) (h : Hp) (w : Nat → Nat) (ob : Nat) (T : TS) : Prop := ∃ (a m ps : Nat) (ml : Int32) (f : Nat → Int32), Ow b h w 3 ob ∧ h.2.2 ob = some (.inr (21, [.ref a, .int 0, .int ml, .int (nI ps)])) ∧ Ow b h w 3 a ∧ h.2.2 a = some (.inl (1, m, .inl f)) ∧ ps ≤ m ∧ m ≤ 2000 ∧ T.1 21 = nI ps ∧ ps ≤ 300 ∧ ∀ i, i < ps → f i = T.2.2.1 20 i
def CI (G : GG) (n : Nat) (h : Hp) (w : Nat → Nat) (x bf pa pel sv ob : Nat) (nl : Nat → List Nat) (T : TS) : Prop := G.1 ≤ h.1 ∧ NT h w ∧ (∃ fE, ImC h w (G.2.2.2.2 0) (.inl (5, 0, .inr (.inr (.inr (.inr fE)))))) ∧
  ∃ (now : Option Nat) (um hd bn : Nat) (pf sf : Nat → Option Nat), Ow G.1 h w 3 x ∧ h.2.2 x = some (XC bf (T.1 11) (T.1 12) (T.1 13) now pa sv ob) ∧ (Ow G.1 h w 3 bf ∧ ∃ f : Nat → Int32, h.2.2 bf = some (.inl (1, 700, .inl f)) ∧ ∀ i, i < 700 → f i = T.2.2.1 10 i) ∧ (T.1 11 = nI bn ∧ bn ≤ 700) ∧
  ((now = none ∧ T.1 8 = bZ False ∧ um = 0) ∨ ∃ st, now = some st ∧ T.1 8 = bZ True ∧ StN G.1 h w n nl st (T.2.2.1 1) ∧ (∀ k, k < cN (T.2.2.1 1) → NamO nl T k) ∧ ∀ s, s < sN (T.2.2.1 1) → NamO nl T (10 + s)) ∧
  (T.1 9 = nI um ∧ um ≤ 8) ∧ Ow G.1 h w 3 pa ∧ Ow G.1 h w 3 pel ∧ DQ h pa pel hd um pf ∧ (∀ k, k < um → ∃ st, pf ((hd + k) % 17) = some st ∧ StN G.1 h w n nl st (Rw T 3 k)) ∧
  (Ow G.1 h w 3 sv ∧ h.2.2 sv = some (.inl (7, 2, .inr (.inr (.inr (.inr sf))))) ∧ ∀ k, k < 2 → (sf k = none ∧ T.2.2.1 5 k = bZ False) ∨ ∃ st, sf k = some st ∧ T.2.2.1 5 k = bZ True ∧ StN G.1 h w n nl st (Rw T 4 k)) ∧ OutO G.1 h w ob T
section B1
variable {S : Nat → Prop} {b c n n' : Nat} {G : GG} {N : Nat} {nl : Nat → List Nat} {h h' : Hp} {w w' : Nat → Nat} {x bf pa pel sv ob st : Nat} {T T' : TS} {R : Row}
theorem NumI.mono (A : NumI n R) (h : n ≤ n') : NumI n' R := by
  obtain ⟨a1, a2, a3, a4, i, i1, i2⟩ := A
  exact ⟨a1, a2, a3, a4, i, by omega, i2⟩
theorem StS.keep (A : StS b h w nl st R) (Q : Tr S c h w h' w') (h0 : ¬ S 0) (h1 : ¬ S 1) : StS b h' w' nl st R := by
  obtain ⟨mt, cl, se, bu, rd, gr, cb, ru, mp, sp, nn, es, X⟩ := A
  exact ⟨mt, cl, se, bu, rd, gr, cb, ru, mp, sp, nn, es, X.keep Q h0 h1 (fun _ => ⟨h0, by decide⟩)⟩
theorem StN.keep (A : StN b h w n nl st R) (Q : Tr S c h w h' w') (h0 : ¬ S 0) (h1 : ¬ S 1) (hn : n ≤ n') : StN b h' w' n' nl st R := ⟨A.1.keep Q h0 h1, A.2.mono hn⟩
theorem OutO.keep (A : OutO b h w ob T) (Q : Tr S c h w h' w') (h3 : ¬ S 3) (e1 : T'.1 21 = T.1 21) (e2 : T'.2.2.1 20 = T.2.2.1 20) : OutO b h' w' ob T' := by
  obtain ⟨a, m, ps, ml, f, a1, a2, a3, a4, a5, a6, a7, a8, a9⟩ := A
  exact ⟨a, m, ps, ml, f, a1.keep Q, Q.own a1 h3 (by decide) a2 (ncl (by decide)), a3.keep Q, Q.own a3 h3 (by decide) a4 nar, a5, a6, by rw [e1]; exact a7, a8, fun i hi => by rw [e2]; exact a9 i hi⟩
/-- what changes nothing of it -/
theorem CI.keep (A : CI G n h w x bf pa pel sv ob nl T) (Q : Tr S c h w h' w') (h0 : ¬ S 0) (h1 : ¬ S 1) (h3 : ¬ S 3) (hNT : NT h' w') (hn : n ≤ n') (e : ∀ k, k = 8 ∨ k = 9 ∨ k = 11 ∨ k = 12 ∨ k = 13 ∨ k = 21 → T'.1 k = T.1 k) (ea : ∀ a, a = 1 ∨ a = 3 ∨ a = 4 ∨ a = 5 ∨ a = 10 ∨ a = 20 → T'.2.2.1 a = T.2.2.1 a) (el : T'.2.2.2 6 = T.2.2.2 6) : CI G n' h' w' x bf pa pel sv ob nl T' := by
  obtain ⟨b1, b2, ⟨fE, b3⟩, now, um, hd, bn, pf, sf, c1, c2, ⟨c3, f, c4, c5⟩, c6, c7, c8, c9, c10, c11, c12, ⟨c13, c14, c15⟩, c16⟩ := A
  have rw' : ∀ a k, a = 3 ∨ a = 4 → Rw T' a k = Rw T a k := fun a k ha => by unfold Rw; rw [ea a (by omega)]
  have nm : ∀ k, NamO nl T k → NamO nl T' k := fun k Z => by unfold NamO at Z ⊢; rw [el]; exact Z
  refine ⟨by have := Q.1; omega, hNT, ⟨fE, b3.keep Q h0 nar⟩, now, um, hd, bn, pf, sf, c1.keep Q, ?_, ⟨c3.keep Q, f, Q.own c3 h3 (by decide) c4 nar, fun i hi => by rw [ea 10 (by omega)]; exact c5 i hi⟩, by rw [e 11 (by omega)]; exact c6, ?_, by rw [e 9 (by omega)]; exact c8, c9.keep Q, c10.keep Q, ⟨Q.own c9 h3 (by decide) c11.1 (ncl (by decide)), Q.own c10 h3 (by decide) c11.2.1 nar, c11.2.2⟩, fun k hk => ?_, ⟨c13.keep Q, Q.own c13 h3 (by decide) c14 nar, fun k hk => ?_⟩, c16.keep Q h3 (e 21 (by omega)) (ea 20 (by omega))⟩
  · rw [e 11 (by omega), e 12 (by omega), e 13 (by omega)]
    exact Q.own c1 h3 (by decide) c2 (ncl (by decide))
  · rw [e 8 (by omega), ea 1 (by omega)]
    rcases c7 with c7 | ⟨st, d1, d2, d3, d4, d5⟩
    · exact Or.inl c7
    · exact Or.inr ⟨st, d1, d2, d3.keep Q h0 h1 hn, fun k hk => nm _ (d4 k hk), fun s hs => nm _ (d5 s hs)⟩
  · obtain ⟨st, d1, d2⟩ := c12 k hk
    exact ⟨st, d1, by rw [rw' 3 k (by omega)]; exact d2.keep Q h0 h1 hn⟩
  · rw [ea 5 (by omega), rw' 4 k (by omega)]
    rcases c15 k hk with d | ⟨st, d1, d2, d3⟩
    · exact Or.inl d
    · exact Or.inr ⟨st, d1, d2, d3.keep Q h0 h1 hn⟩
end B1
/-! a call that answers a number, and what may be thrown ahead of it -/
section B2
variable {G : GG} {N : Nat} {h : Hp} {w : Nat → Nat} {x ou : Nat}
/-- p, then q, then r must hold; the answer; what it costs -/
def Q4 (c : Nat) (h : Hp) (w : Nat → Nat) (p q r : Prop) (v : Int32) (o : Out Int32) : Prop := (¬ p → o = some (.inr h.1, exH 0 h)) ∧ (p → ¬ q → o = some (.inr h.1, exH 2 h)) ∧ (p → q → ¬ r → o = some (.inr h.1, exH 1 h)) ∧ (p → q → r → ∃ h1 w1, o = some (.inl v, h1) ∧ Tr (fun _ => False) c h w h1 w1)
theorem l_Sl {α : Type} {a t n i : Nat} {f : Nat → Int64} {v : Int64} {kont : Hp → Out α} (e : h.2.2 a = some (.inl (t, n, .inr (.inl f)))) (hb : G.1 ≤ a) (hi : i < n) (hn : n < 2 ^ 31) : gSl G h (some a) t (nI i) v kont = kont (hup h a (.inl (t, n, .inr (.inl (vp_updL f i v))))) := by
  unfold gSl; simp only [e]
  rw [if_pos ⟨trivial, hb, nI_in hi hn⟩, nI_clamp (by omega)]
/-- the law's own array for answers -/
def OuO (b : Nat) (h : Hp) (w : Nat → Nat) (ou : Nat) : Prop := Ow b h w 5 ou ∧ ∃ f : Nat → Int64, h.2.2 ou = some (.inl (3, 1, .inr (.inl f)))
theorem OuO.keep {S : Nat → Prop} {b c : Nat} {h' : Hp} {w' : Nat → Nat} (A : OuO b h w ou) (Q : Tr S c h w h' w') (h5 : ¬ S 5) : OuO b h' w' ou := by
  obtain ⟨a1, f, a2⟩ := A
  exact ⟨a1.keep Q, f, Q.own a1 h5 (by decide) a2 nar⟩
theorem wrap {c : Nat} {p q r : Prop} {v : Int32} {fs : List Value} {f : Nat → Out Int32} {kx : Nat → Hp → Out Int32} {K : Int32 → Hp → Out Int32} {u : Int32 → Int64} (hK : ∀ v h2 g, h2.2.2 ou = some (.inl (3, 1, .inr (.inl g))) → G.1 ≤ ou → K v h2 = some (.inl 0, hup h2 ou (.inl (3, 1, .inr (.inl (vp_updL g 0 (u v))))))) (e : h.2.2 x = some (.inr (3, fs))) (hb : G.1 ≤ h.1) (O : OuO G.1 h w ou) (Q : Q4 c h w p q r v (f x)) (k0 : ∀ q h', h'.2.2 q = some (.inr (0, [])) → kx q h' = some (.inl 1, h')) (k2 : (p ∧ ¬ q) → ∀ q h', h'.2.2 q = some (.inr (2, [])) → kx q h' = some (.inl 2, h')) (k1 : (p ∧ q ∧ ¬ r) → ∀ q h', h'.2.2 q = some (.inr (1, [])) → kx q h' = some (.inl 3, h')) :
    ∃ h1 w1, bVX h (some x) 3 f K kx = some (.inl (th3 p q r), h1) ∧ Tr (fun t => t = 5) (c + 2) h w h1 w1 ∧ ∃ g : Nat → Int64, h1.2.2 ou = some (.inl (3, 1, .inr (.inl g))) ∧ (p ∧ q ∧ r → g 0 = u v) := by
  classical
  obtain ⟨q0, q2, q1, qv⟩ := Q
  have ex : ∀ ci, Tr (fun t => t = 5) (c + 2) h w (exH ci h) (nw w h.1 0) := fun ci => exH_tr.mono (fun _ q => q.elim) (by omega)
  have exO : ∀ ci, ∃ g : Nat → Int64, (exH ci h).2.2 ou = some (.inl (3, 1, .inr (.inl g))) := fun ci => (O.keep (exH_tr (ci := ci)) id).2
  by_cases hp : p
  · by_cases hq : q
    · by_cases hr : r
      · obtain ⟨h1, w1, e1, T1⟩ := qv hp hq hr
        obtain ⟨O1, g, O2⟩ := O.keep T1 id
        have T2 : Tr (fun t => t = 5) 0 h1 w1 (hup h1 ou (.inl (3, 1, .inr (.inl (vp_updL g 0 (u v)))))) w1 := Tr.ex rfl rfl (fun q _ q2 => hup_ne (fun e => q2 (by rw [e]; exact O1.2.2)))
        refine ⟨_, w1, ?_, ((T1.mono (S' := fun t => t = 5) (fun _ q => q.elim) (Nat.le_refl _)).trans T2 (by decide)).mono (fun _ q => q) (by omega), _, hup_at, fun _ => ?_⟩
        · rw [l_bVXok e e1, hK v h1 g O2 O1.1]
          unfold th3
          rw [if_pos hp, if_pos hq, if_pos hr]
        · show (if 0 = 0 then _ else _) = _
          rw [if_pos rfl]
      · obtain ⟨g, hg⟩ := exO 1
        refine ⟨_, _, ?_, ex 1, g, hg, fun z => absurd z.2.2 hr⟩
        rw [l_bVXex e (q1 hp hq hr), k1 ⟨hp, hq, hr⟩ _ _ exH_at]
        unfold th3
        rw [if_pos hp, if_pos hq, if_neg hr]
    · obtain ⟨g, hg⟩ := exO 2
      refine ⟨_, _, ?_, ex 2, g, hg, fun z => absurd z.2.1 hq⟩
      rw [l_bVXex e (q2 hp hq), k2 ⟨hp, hq⟩ _ _ exH_at]
      unfold th3
      rw [if_pos hp, if_neg hq]
  · obtain ⟨g, hg⟩ := exO 0
    refine ⟨_, _, ?_, ex 0, g, hg, fun z => absurd z.1 hp⟩
    rw [l_bVXex e (q0 hp), k0 _ _ exH_at]
    unfold th3
    rw [if_neg hp]
end B2
