/-! the component's queries of a state, but for votes -/
set_option maxRecDepth 100000
set_option maxHeartbeats 1000000
theorem i_or0 {x : Int32} : x ||| nI 0 = x := Int32.or_zero
theorem om_keep {n : Nat} {f : Nat → Int32} (h : f n = nI 0) : om (n + 1) f = om n f := by rw [om_succ, h, i_or0]
theorem og_keep {S : Int32} {n : Nat} {f : Nat → Int32} (h : f n = nI 0) : og S (n + 1) f = og S n f := by rw [og_succ, h, i_or0]
/-- the bits of a set, as the library counts them -/
def bitC (a : Int32) : Int32 :=
  let v1 := a - (((a.toUInt32 >>> ((1 : Int32).toUInt32 &&& Int32.toUInt32 31)).toInt32) &&& 1431655765)
  let v2 := (v1 &&& 858993459) + (((v1.toUInt32 >>> ((2 : Int32).toUInt32 &&& Int32.toUInt32 31)).toInt32) &&& 858993459)
  let v3 := (v2 + ((v2.toUInt32 >>> ((4 : Int32).toUInt32 &&& Int32.toUInt32 31)).toInt32)) &&& 252645135
  let v4 := v3 + ((v3.toUInt32 >>> ((8 : Int32).toUInt32 &&& Int32.toUInt32 31)).toInt32)
  let v5 := v4 + ((v4.toUInt32 >>> ((16 : Int32).toUInt32 &&& Int32.toUInt32 31)).toInt32)
  v5 &&& 63
theorem c_bitCount {G : GG} {N : Nat} {h : Hp} {a : Int32} : sJ20_bitCount G N a h = some (.inl (bitC a), h) := rfl
theorem bitC_10 : ∀ n, n < 1024 → bitC (nI n) = qBits 10 (nI n) := by decide +kernel
theorem qBits_8 : ∀ n, n < 256 → qBits 8 (nI n) = qBits 10 (nI n) := by decide +kernel
theorem ni_and (a b : Nat) : nI a &&& nI b = nI (a &&& b) := by
  apply Int32.toBitVec_inj.1
  show BitVec.ofNat 32 a &&& BitVec.ofNat 32 b = BitVec.ofNat 32 (a &&& b)
  apply BitVec.eq_of_getLsbD_eq
  intro i hi
  simp [hi]
theorem ni_or (a b : Nat) : nI a ||| nI b = nI (a ||| b) := by
  apply Int32.toBitVec_inj.1
  show BitVec.ofNat 32 a ||| BitVec.ofNat 32 b = BitVec.ofNat 32 (a ||| b)
  apply BitVec.eq_of_getLsbD_eq
  intro i hi
  simp [hi]
theorem ni_1shl : ∀ n, n < 31 → (1 : Int32) <<< (nI n &&& 31) = nI (2 ^ n) := by decide +kernel
/-- sets below 2 ^ n -/
theorem om_nI {n : Nat} {f : Nat → Int32} (h : ∀ k, k < n → f k = nI 0 ∨ f k = 1 <<< (nI k &&& 31)) (hn : n ≤ 30) : ∃ m, m < 2 ^ n ∧ om n f = nI m := by
  induction n with
  | zero => exact ⟨0, by omega, rfl⟩
  | succ n ih =>
    obtain ⟨m, h1, h2⟩ := ih (fun k hk => h k (by omega)) (by omega)
    have h3 : 2 ^ (n + 1) = 2 ^ n * 2 := Nat.pow_succ 2 n
    rcases h n (by omega) with e | e
    · exact ⟨m, by omega, by rw [om_keep e, h2]⟩
    · refine ⟨m ||| 2 ^ n, Nat.or_lt_two_pow (by omega) (Nat.pow_lt_pow_right (by omega) (by omega)), ?_⟩
      rw [om_succ, h2, e, ni_1shl n (by omega), ni_or]
section C3
variable {α : Type} {G : GG} {N : Nat} {h : Hp} {R : Row} {mt st cl se bu rd gr : Nat} {cb ru mp sp : Nat → Nat}
theorem c_has {s k : Int32} : sX1_has G N s k h = some (.inl (bZ (hasB s k)), h) := p_has (G := G) (N := N)
/-- what the queries want of a state -/
def StQ (h : Hp) (st : Nat) (R : Row) (mt cl se bu rd gr : Nat) (cb ru mp sp : Nat → Nat) : Prop := StC h st R mt cl se bu rd gr ∧ CabsR h cl R cb ru mp ∧ SetR h se R ∧ FogR h mt R ∧ RidR h mt R ∧ SloR h mt R sp ∧ ROK R
theorem c_sees {o k : Nat} (Q : StQ h st R mt cl se bu rd gr cb ru mp sp) (ho : o < cN R) (hk : k < cN R) (hN : 20 < N) : sX3_sees G N (some st) (nI o) (nI k) h = some (.inl (bZ (seeOne R o k)), h) := by
  classical
  obtain ⟨S, C, E, F, D, M, H⟩ := Q
  obtain ⟨h6, h7, h8, h9, l6, l7, l8, l9, hv⟩ := H
  unfold sX3_sees
  simp (disch := omega) only [l_J, nI_eq, st_bV S, c_cabin S C ho, c_cabin S C hk, l_bnd, c_isSeen S C E F D l9 l8 ho (C.2 k hk).loc hN, bZ_0]
  unfold seeOne
  by_cases h1 : o = k
  · rw [if_pos h1, bZ_t (Or.inl h1)]; rfl
  · rw [if_neg h1]
    by_cases h2 : isSee R (10 + 3 * o) (10 + 3 * k)
    · rw [if_neg (fun q => q h2), bZ_t (Or.inr h2)]; rfl
    · rw [if_pos h2, bZ_f (fun q => q.elim h1 h2)]; rfl
theorem c_seesSlope {o s : Nat} (Q : StQ h st R mt cl se bu rd gr cb ru mp sp) (ho : o < cN R) (hs : s < sN R) (hN : 20 < N) : sX3_seesSlope G N (some st) (nI o) (nI s) h = some (.inl (bZ (isSee R (10 + 3 * o) (40 + 3 * s))), h) := by
  obtain ⟨S, C, E, F, D, M, H⟩ := Q
  obtain ⟨h6, h7, h8, h9, l6, l7, l8, l9, hv⟩ := H
  unfold sX3_seesSlope
  simp only [st_bV S, c_cabin S C ho, c_slope S M hs, l_bnd, c_isSeen S C E F D l9 l8 ho (M.loc hs) hN, l_RZb]
theorem c_seers {o : Nat} (Q : StQ h st R mt cl se bu rd gr cb ru mp sp) (ho : o < cN R) (hN : 20 < N) : sX3_seers G N (some st) (nI o) h = some (.inl (qSeen R o), h) := by
  classical
  have Q' := Q
  obtain ⟨S, C, E, F, D, M, H⟩ := Q
  obtain ⟨h6, h7, h8, h9, l6, l7, l8, l9, hv⟩ := H
  unfold sX3_seers qSeen
  refine lp_q (cN R) (fun k => (om k (fun k => pz (seeOne R o k) (1 <<< (nI k &&& 31))), nI k)) (by omega) rfl ?_ ?_
  · intro k hk self
    unfold bX3_seers_4
    simp (disch := omega) only [l_J, l_let, st_bV S, c_size S C, l_bnd, c_sees Q' ho hk hN, bZ_0, nI_leI, Nat.not_le.mpr hk, ↓reduceIte, n_1, nI_add]
    by_cases h1 : seeOne R o k
    · rw [if_neg (fun q => q h1)]
      exact l_ot (pz_t h1) rfl
    · rw [if_pos h1, om_keep (pz_f h1)]
  · intro self
    unfold bX3_seers_4
    simp (disch := omega) only [st_bV S, c_size S C, l_bnd, nI_leI, Nat.le_refl, ↓reduceIte]
theorem c_holds {o s : Nat} (C : CabsR h cl R cb ru mp) (ho : o < cN R) : sX12_holdsClosed G N (some (cb o)) (nI s) h = some (.inl (bZ (hasB (R (138 + o)) (nI s))), h) := by
  have C' := C.2 o ho
  unfold sX12_holdsClosed
  rw [l_Fi C' rfl, c_has, l_bnd, l_RZb]
theorem c_closers {s : Nat} (S : StC h st R mt cl se bu rd gr) (C : CabsR h cl R cb ru mp) (H : ROK R) (hN : 20 < N) : sX3_closers G N (some st) (nI s) h = some (.inl (qClosers R s), h) := by
  classical
  obtain ⟨h6, h7, h8, h9, l6, l7, l8, l9, hv⟩ := H
  unfold sX3_closers qClosers
  refine lp_q (cN R) (fun k => (om k (fun o => pz (hasB (R (138 + o)) (nI s)) (1 <<< (nI o &&& 31))), nI k)) (by omega) rfl ?_ ?_
  · intro k hk self
    unfold bX3_closers_4
    simp (disch := omega) only [l_J, l_let, st_bV S, c_size S C, l_bnd, c_cabin S C hk, cab_bV (C.2 k hk), c_holds C hk, bZ_0, nI_leI, Nat.not_le.mpr hk, ↓reduceIte, n_1, nI_add]
    by_cases h1 : hasB (R (138 + k)) (nI s)
    · rw [if_neg (fun q => q h1)]
      exact l_ot (pz_t h1) rfl
    · rw [if_pos h1, om_keep (pz_f h1)]
  · intro self
    unfold bX3_closers_4
    simp (disch := omega) only [st_bV S, c_size S C, l_bnd, nI_leI, Nat.le_refl, ↓reduceIte]
theorem pz_or {p : Prop} {v : Int32} : pz p v = nI 0 ∨ pz p v = v := by
  by_cases h : p
  · exact Or.inr (pz_t h)
  · exact Or.inl (pz_f h)
theorem qSeen_nI (H : ROK R) (o : Nat) : ∃ m, m < 1024 ∧ qSeen R o = nI m := by
  obtain ⟨h6, h7, h8, h9, l6, l7, l8, l9, hv⟩ := H
  obtain ⟨m, h1, h2⟩ := om_nI (n := cN R) (f := fun k => pz (seeOne R o k) (1 <<< (nI k &&& 31))) (fun k _ => pz_or) (by omega)
  have h3 : 2 ^ cN R ≤ 2 ^ 10 := Nat.pow_le_pow_right (by omega) l6
  exact ⟨m, by omega, h2⟩
theorem qClosers_nI (H : ROK R) (s : Nat) : ∃ m, m < 1024 ∧ qClosers R s = nI m := by
  obtain ⟨h6, h7, h8, h9, l6, l7, l8, l9, hv⟩ := H
  obtain ⟨m, h1, h2⟩ := om_nI (n := cN R) (f := fun o => pz (hasB (R (138 + o)) (nI s)) (1 <<< (nI o &&& 31))) (fun k _ => pz_or) (by omega)
  have h3 : 2 ^ cN R ≤ 2 ^ 10 := Nat.pow_le_pow_right (by omega) l6
  exact ⟨m, by omega, h2⟩
theorem c_tells {o s : Nat} (Q : StQ h st R mt cl se bu rd gr cb ru mp sp) (ho : o < cN R) (hN : 20 < N) : sX3_tellsClosed G N (some st) (nI o) (nI s) h = some (.inl (bZ (tells R o s)), h) := by
  classical
  have Q' := Q
  obtain ⟨S, C, E, F, D, M, H⟩ := Q
  obtain ⟨m, m1, m2⟩ := qSeen_nI H o
  obtain ⟨m', m3, m4⟩ := qClosers_nI H s
  have m5 : qSeen R o &&& qClosers R s = nI (m &&& m') := by rw [m2, m4, ni_and]
  have m6 : m &&& m' < 1024 := Nat.lt_of_le_of_lt Nat.and_le_left m1
  unfold sX3_tellsClosed
  simp only [l_J, st_bV S, c_seers Q' ho hN, l_bnd, c_cabin S C ho, cab_bV (C.2 o ho), c_holds C ho, c_closers S C H hN, c_bitCount, bZ_0]
  rw [show bitC (qSeen R o) = qBits 10 (qSeen R o) by rw [m2]; exact bitC_10 m m1, show bitC (qSeen R o &&& qClosers R s) = qBits 10 (qSeen R o &&& qClosers R s) by rw [m5]; exact bitC_10 _ m6]
  unfold tells
  by_cases h1 : hasB (R (138 + o)) (nI s)
  · rw [if_neg (fun q => q h1), bZ_t (Or.inl h1)]; rfl
  · rw [if_pos h1]
    by_cases h2 : 2 * qBits 10 (qSeen R o &&& qClosers R s) ≤ qBits 10 (qSeen R o)
    · rw [if_pos h2, bZ_f (fun q => q.elim h1 (Int32.not_lt.mpr h2))]; rfl
    · rw [if_neg h2, bZ_t (Or.inr (show qBits 10 (qSeen R o) < nI 2 * qBits 10 (qSeen R o &&& qClosers R s) from Int32.not_le.mp h2))]; rfl
theorem c_weight {c s : Nat} (Q : StQ h st R mt cl se bu rd gr cb ru mp sp) (hc : c < cN R) (hs : s < sN R) : sX3_weight G N (some st) (nI c) (nI s) h = some (.inl (qWeight R c s), h) := by
  obtain ⟨S, C, E, F, D, M, H⟩ := Q
  unfold sX3_weight
  simp only [st_bV S, c_cabin S C hc, c_slope S M hs, l_bnd, l_Fi (C.2 c hc) (k := 3) rfl, cab_bV (C.2 c hc), c_dist (C.2 c hc) (M.loc hs)]
  unfold gDv
  rw [if_neg (by decide)]
  rfl
noncomputable def qTells (R : Row) (o : Nat) : Int32 := om (sN R) (fun s => pz (tells R o s) (1 <<< (nI s &&& 31)))
theorem c_tellsSet {o : Nat} (Q : StQ h st R mt cl se bu rd gr cb ru mp sp) (ho : o < cN R) (hN : 20 < N) : sX3_tells G N (some st) (nI o) h = some (.inl (qTells R o), h) := by
  classical
  have Q' := Q
  obtain ⟨S, C, E, F, D, M, H⟩ := Q
  obtain ⟨h6, h7, h8, h9, l6, l7, l8, l9, hv⟩ := H
  unfold sX3_tells qTells
  refine lp_q (sN R) (fun k => (om k (fun s => pz (tells R o s) (1 <<< (nI s &&& 31))), nI k)) (by omega) rfl ?_ ?_
  · intro k hk self
    unfold bX3_tells_4
    simp (disch := omega) only [l_J, l_let, st_bV S, c_slopes S M, l_bnd, c_tells Q' ho hN, bZ_0, nI_leI, Nat.not_le.mpr hk, ↓reduceIte, n_1, nI_add]
    by_cases h1 : tells R o k
    · rw [if_neg (fun q => q h1)]
      exact l_ot (pz_t h1) rfl
    · rw [if_pos h1, om_keep (pz_f h1)]
  · intro self
    unfold bX3_tells_4
    simp (disch := omega) only [st_bV S, c_slopes S M, l_bnd, nI_leI, Nat.le_refl, ↓reduceIte]
theorem c_isDangerous {s : Nat} (S : StC h st R mt cl se bu rd gr) : sX3_isDangerous G N (some st) (nI s) h = some (.inl (bZ (hasB (R 97) (nI s))), h) := by
  unfold sX3_isDangerous
  rw [l_Fi S rfl, c_has, l_bnd, l_RZb]
/-- set grows till it does no more -/
noncomputable def spI (R : Row) (x : Int32) : Nat → Int32
  | 0 => x
  | n + 1 => qSpread R (spI R x n)
theorem spI_fix {R : Row} {x : Int32} {n : Nat} (h : spI R x (n + 1) = spI R x n) : ∀ d, spI R x (n + d) = spI R x n
  | 0 => rfl
  | d + 1 => by
    show qSpread R (spI R x (n + d)) = _
    rw [spI_fix h d]
    exact h
theorem c_reached {o m : Nat} (Q : StQ h st R mt cl se bu rd gr cb ru mp sp) (hm : m < 100) (hN : 200 < N) : sX3_reached G N (some st) (nI o) (nI m) h = some (.inl (spI R (1 <<< (nI o &&& 31)) m), h) := by
  classical
  have Q' := Q
  obtain ⟨S, C, E, F, D, M, H⟩ := Q
  obtain ⟨h6, h7, h8, h9, l6, l7, l8, l9, hv⟩ := H
  unfold sX3_reached
  rw [l_let]
  -- the first turn that adds nothing, or the last
  have step : ∀ n, n < m → ∀ self : Int32 × Int32 → Hp → Out Int32, bX3_reached_7 G N (some st) (nI m) self (spI R (1 <<< (nI o &&& 31)) n, nI n) h = if spI R (1 <<< (nI o &&& 31)) (n + 1) = spI R (1 <<< (nI o &&& 31)) n then some (.inl (spI R (1 <<< (nI o &&& 31)) (n + 1)), h) else self (spI R (1 <<< (nI o &&& 31)) (n + 1), nI (n + 1)) h := by
    intro n hn self
    unfold bX3_reached_7
    simp (disch := omega) only [nI_leI, Nat.not_le.mpr hn, ↓reduceIte, n_1, nI_add]
    refine l_Jk (fun j hj => ?_)
    have e : j (spI R (nI 1 <<< (nI o &&& 31)) (n + 1)) h = if spI R (nI 1 <<< (nI o &&& 31)) (n + 1) = spI R (nI 1 <<< (nI o &&& 31)) n then some (.inl (spI R (nI 1 <<< (nI o &&& 31)) (n + 1)), h) else self (spI R (nI 1 <<< (nI o &&& 31)) (n + 1), nI (n + 1)) h := by rw [hj]
    rw [← e]
    refine lp_q (cN R) (fun k => (og (spI R (nI 1 <<< (nI o &&& 31)) n) k (fun k => pz (hasB (spI R (nI 1 <<< (nI o &&& 31)) n) (nI k)) (qSeen R k)), nI k)) (by omega) rfl ?_ ?_
    · intro k hk self
      unfold bX3_reached_19
      simp (disch := omega) only [l_J, l_let, st_bV S, c_size S C, c_has, c_seers Q' hk (show 20 < N by omega), l_bnd, bZ_0, nI_leI, Nat.not_le.mpr hk, ↓reduceIte, n_1, nI_add]
      by_cases h1 : hasB (spI R (nI 1 <<< (nI o &&& 31)) n) (nI k)
      · rw [if_neg (fun q => q h1)]
        exact l_gt (pz_t h1) rfl
      · rw [if_pos h1, og_keep (pz_f h1)]
    · intro self
      unfold bX3_reached_19
      simp (disch := omega) only [st_bV S, c_size S C, l_bnd, nI_leI, Nat.le_refl, ↓reduceIte]
      rfl
  by_cases hx : ∃ n, n < m ∧ spI R (1 <<< (nI o &&& 31)) (n + 1) = spI R (1 <<< (nI o &&& 31)) n
  · -- the least of them
    have hw : ∃ n, n < m ∧ spI R (1 <<< (nI o &&& 31)) (n + 1) = spI R (1 <<< (nI o &&& 31)) n ∧ ∀ k, k < n → spI R (1 <<< (nI o &&& 31)) (k + 1) ≠ spI R (1 <<< (nI o &&& 31)) k := by
      obtain ⟨n, h1, h2⟩ := hx
      induction n using Nat.strongRecOn with
      | ind n ih =>
        by_cases hk : ∃ k, k < n ∧ spI R (1 <<< (nI o &&& 31)) (k + 1) = spI R (1 <<< (nI o &&& 31)) k
        · obtain ⟨k, k1, k2⟩ := hk
          exact ih k k1 (by omega) k2
        · exact ⟨n, h1, h2, fun k k1 k2 => hk ⟨k, k1, k2⟩⟩
    obtain ⟨n, h1, h2, h3⟩ := hw
    refine lp_q n (fun k => (spI R (1 <<< (nI o &&& 31)) k, nI k)) (by omega) rfl (fun k hk self => ?_) (fun self => ?_)
    · rw [step k (by omega), if_neg (h3 k hk)]
    · rw [step n h1, if_pos h2, h2]
      have h4 := spI_fix h2 (m - n)
      rw [show n + (m - n) = m by omega] at h4
      rw [h4]
  · refine lp_q m (fun k => (spI R (1 <<< (nI o &&& 31)) k, nI k)) (by omega) rfl (fun k hk self => ?_) (fun self => ?_)
    · rw [step k hk, if_neg (fun q => hx ⟨k, hk, q⟩)]
    · unfold bX3_reached_7
      simp (disch := omega) only [nI_leI, Nat.le_refl, ↓reduceIte]
end C3
