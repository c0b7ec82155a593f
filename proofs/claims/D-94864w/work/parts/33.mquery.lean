/-! QUERIES: the reference's side -/
/-- what is told -/
def zMt (I : zI) (V : Nat → Nat → Nat → Nat) : Prop :=
  (I 2000 12 = nI (V 5 0 0) ∧ ∀ s, s < V 5 0 0 → I 2035 s = nI (V 6 s 0) ∧ I 2036 s = nI (V 6 s 1) ∧ I 2037 s = nI (V 6 s 2)) ∧
  (I 2000 13 = nI (V 5 0 1) ∧ ∀ c, c < V 5 0 1 → I 2039 (4 * c) = nI (V 7 c 0) ∧ I 2039 (4 * c + 1) = nI (V 7 c 1) ∧ I 2039 (4 * c + 2) = nI (V 7 c 2) ∧ I 2039 (4 * c + 3) = nI (V 7 c 3)) ∧
  (I 2000 14 = nI (V 5 0 2) ∧ ∀ f, f < V 5 0 2 → I 2040 (2 * f) = nI (V 8 f 0) ∧ I 2040 (2 * f + 1) = nI (V 8 f 1)) ∧
  (I 2000 15 = nI (V 5 0 3) ∧ ∀ m, m < V 5 0 3 → I 2041 m = nI (V 9 m 0) ∧ ∀ k, k < V 9 m 0 → I 2042 (12 * m + k) = nI (V 10 m k)) ∧
  (∀ c, 1 ≤ c → c ≤ 26 → I 2043 c = nI (V 11 c 0)) ∧
  (I 2000 16 = nI (V 5 0 4) ∧ ∀ i, i < V 5 0 4 → I 2044 i = nI (V 12 i 0) ∧ I 2045 i = nI (V 12 i 1) ∧ (3 ≤ V 12 i 0 → I 2046 i = nI (V 12 i 2))) ∧ I 2000 19 = nI (V 5 0 5)
/-- what is now -/
def zMn (I : zI) (V : Nat → Nat → Nat → Nat) : Prop :=
  (∀ t, t < 2 → I 2032 t = nI (V 20 t 0) ∧ ∀ i, i < V 20 t 0 → I 2033 (12 * t + i) = nI (V 21 t i) ∧ I 2034 (12 * t + i) = nI (V 22 t i)) ∧
  (∀ s, s < V 5 0 0 → ∀ k, k < V 6 s 2 → I 2061 (12 * s + k) = nI (V 23 s k)) ∧ I 2000 57 = nI (V 24 0 0) ∧ I 2000 58 = nI (V 24 0 1)
def zMq (T : zT) (I : zI) (R : zR) (V : Nat → Nat → Nat → Nat) : Prop := zMok T R ∧ zMt I V ∧ zTw V ∧ zMn I V ∧ zSw V 20
/-- the reference's ints that are the state, alike -/
def zMe (I I' : zI) : Prop := (∀ e ∈ [2032, 2033, 2034, 2035, 2036, 2037, 2039, 2040, 2041, 2042, 2043, 2044, 2045, 2046, 2061], I' e = I e) ∧ ∀ f ∈ [12, 13, 14, 15, 16, 19, 57, 58], I' 2000 f = I 2000 f
theorem zMq.e {T : zT} {I I' : zI} {R : zR} {V : Nat → Nat → Nat → Nat} (h : zMq T I R V) (e : zMe I I') : zMq T I' R V := by
  have e1 : ∀ k ∈ [2032, 2033, 2034, 2035, 2036, 2037, 2039, 2040, 2041, 2042, 2043, 2044, 2045, 2046, 2061], I' k = I k := e.1
  have e2 : ∀ f ∈ [12, 13, 14, 15, 16, 19, 57, 58], I' 2000 f = I 2000 f := e.2
  unfold zMq zMt zMn at h ⊢
  simpa only [e1 2032 (by decide), e1 2033 (by decide), e1 2034 (by decide), e1 2035 (by decide), e1 2036 (by decide), e1 2037 (by decide), e1 2039 (by decide), e1 2040 (by decide), e1 2041 (by decide), e1 2042 (by decide), e1 2043 (by decide), e1 2044 (by decide), e1 2045 (by decide), e1 2046 (by decide), e1 2061 (by decide),
    e2 12 (by decide), e2 13 (by decide), e2 14 (by decide), e2 15 (by decide), e2 16 (by decide), e2 19 (by decide), e2 57 (by decide), e2 58 (by decide)] using h
theorem zMe_th {I : zI} {x : Int32} : zMe I (z2 I 2000 2 x) := ⟨fun e he => z2_ro (fun q => by rw [q] at he; exact absurd he (by decide)), fun f hf => z2_nk (fun q => by rw [q] at hf; exact absurd hf (by decide))⟩
theorem kX13_isIn {T : zT} {I : zI} {L : zL} {R : zR} {x lo hi : Int32} {a b : Nat} {K : Int32 → Prop} (hl : lo = nI a) (hh : hi = nI b) (ha : a < 2 ^ 31) (hb : b < 2 ^ 31) (h1 : ∀ j, a ≤ j → j ≤ b → x = nI j → K 1) (h0 : (¬ ∃ j, a ≤ j ∧ j ≤ b ∧ x = nI j) → K 0) : zMet mX13_isIn 1 0 [.int x, .int lo, .int hi] T I L R (zqI_ T I L R K) := by
  subst hl hh
  have hz := zz_mid (x := x) ha hb
  rw [fa_wide_le, fa_wide_le] at hz
  refine sX13_isIn (gX13_isIn_0 ⟨fun c => zqI__i (h0 fun q => ?_), fun c => ⟨fun c2 => zqI__i (h0 fun q => ?_), fun c2 => zqI__i ?_⟩⟩)
  · have := (hz.mpr q).1
    rw [fa_le] at this
    rw [fa_lt] at c
    omega
  · have := (hz.mpr q).2
    rw [fa_le] at this
    rw [fa_lt] at c2
    omega
  · obtain ⟨j, g1, g2, g3⟩ := hz.mp ⟨fa_of_nlt c, fa_of_nlt c2⟩
    exact h1 j g1 g2 g3
theorem kX13_isBoard {T : zT} {I : zI} {L : zL} {R : zR} {V : Nat → Nat → Nat → Nat} {x : Int32} {K : Int32 → Prop} (h : zMq T I R V) (h1 : ∀ s, s < V 5 0 0 → x = nI s → K 1) (h0 : (¬ ∃ s, s < V 5 0 0 ∧ x = nI s) → K 0) : zMet mX13_isBoard 1 0 [.ref 2000, .int x] T I L R (zqI_ T I L R K) := by
  have hn := h.2.2.1.1.1
  refine sX13_isBoard (gX13_isBoard_0 h.1 ⟨fun c => zqI__i (h0 ?_), fun c => ⟨fun c2 => zqI__i (h0 ?_), fun c2 => zqI__i ?_⟩⟩)
  · rintro ⟨s, g1, rfl⟩
    (try simp (disch := omega) only [fa_lit, nI_add, zz_mul, zz_sub, nI_leI, nI_ltI, nI_eq, nI_clamp, zz_in, zz_m1, zz_m1e, zz_le_m1, zz_m1_le, zz_lt_m1, zz_m1_lt, zz_B0, zz_B1, zz_shr, zz_shl, zz_and31, Nat.mod_eq_of_lt, not_true_eq_false, not_false_eq_true, Nat.reduceAdd, Nat.reduceMul, Nat.reduceSub] at c) <;> (try omega)
  · rw [h.2.1.1.1] at c2
    rintro ⟨s, g1, rfl⟩
    (try simp (disch := omega) only [fa_lit, nI_add, zz_mul, zz_sub, nI_leI, nI_ltI, nI_eq, nI_clamp, zz_in, zz_m1, zz_m1e, zz_le_m1, zz_m1_le, zz_lt_m1, zz_m1_lt, zz_B0, zz_B1, zz_shr, zz_shl, zz_and31, Nat.mod_eq_of_lt, not_true_eq_false, not_false_eq_true, Nat.reduceAdd, Nat.reduceMul, Nat.reduceSub] at c2) <;> (try omega)
  · obtain ⟨j, hj, rfl⟩ := nI_of c
    rw [h.2.1.1.1] at c2
    simp (disch := omega) only [fa_lit, nI_add, zz_mul, zz_sub, nI_leI, nI_ltI, nI_eq, nI_clamp, zz_in, zz_m1, zz_m1e, zz_le_m1, zz_m1_le, zz_lt_m1, zz_m1_lt, zz_B0, zz_B1, zz_shr, zz_shl, zz_and31, Nat.mod_eq_of_lt, not_true_eq_false, not_false_eq_true, Nat.reduceAdd, Nat.reduceMul, Nat.reduceSub] at c2
    exact h1 j (by omega) rfl
theorem kX13_isTongue {T : zT} {I : zI} {L : zL} {R : zR} {x : Int32} {K : Int32 → Prop} (h1 : ∀ t, t < 2 → x = nI t → K 1) (h0 : (¬ ∃ t, t < 2 ∧ x = nI t) → K 0) : zMet mX13_isTongue 1 0 [.int x] T I L R (zqI_ T I L R K) :=
  sX13_isTongue (gX13_isTongue_0 ⟨fun c => zqI__i (h1 0 (by decide) c), fun c => ⟨fun c2 => zqI__i (h1 1 (by decide) c2), fun c2 => zqI__i (h0 fun ⟨t, g1, g2⟩ => by
    match t, g1 with
    | 0, _ => exact c g2
    | 1, _ => exact c2 g2)⟩⟩)
theorem kX13_isDay {T : zT} {I : zI} {L : zL} {R : zR} {x : Int32} {K : Int32 → Prop} (h1 : ∀ t, t < 1000 → x = nI t → K 1) (h0 : (¬ ∃ t, t < 1000 ∧ x = nI t) → K 0) : zMet mX13_isDay 2 0 [.int x] T I L R (zqI_ T I L R K) :=
  sX13_isDay (gX13_isDay_0 (kX13_isIn (a := 0) (b := 999) rfl rfl (by decide) (by decide) (fun j _ g2 g3 => ⟨Or.inr rfl, zqI__i (h1 j (by omega) g3)⟩) (fun q => ⟨Or.inl rfl, zqI__i (h0 (fun ⟨j, g1, g2⟩ => q ⟨j, Nat.zero_le _, by omega, g2⟩))⟩)))
theorem kX13_isLetter {T : zT} {I : zI} {L : zL} {R : zR} {V : Nat → Nat → Nat → Nat} {x y : Int32} {K : Int32 → Prop} (h : zMq T I R V) (h1 : ∀ s k, s < V 5 0 0 → k < V 6 s 2 → x = nI s → y = nI k → K 1) (h0 : (¬ ∃ s k, s < V 5 0 0 ∧ k < V 6 s 2 ∧ x = nI s ∧ y = nI k) → K 0) : zMet mX13_isLetter 2 0 [.ref 2000, .int x, .int y] T I L R (zqI_ T I L R K) := by
  have hn := h.2.2.1.1.1
  refine sX13_isLetter (gX13_isLetter_0 h.1 (kX13_isBoard h (fun s hs e => ⟨fun c => absurd c (by decide), fun _ => ?_⟩) (fun q => ⟨fun _ => zqI__i (h0 (fun ⟨s, k, g1, _, g2, _⟩ => q ⟨s, g1, g2⟩)), fun c => absurd rfl c⟩)))
  subst e
  have hw := h.2.2.1.1.2 s hs
  have hv := (h.2.1.1.2 s hs).2.2
  have nope : ∀ {p : Prop}, (∀ k, k < V 6 s 2 → y = nI k → False) → K 0 := fun {p} hp => h0 (by
    rintro ⟨s2, k, g1, g2, g3, g4⟩
    have e2 := (nI_eq (by omega) (by omega)).mp g3
    subst e2
    exact hp k g2 g4)
  refine ⟨fun c => zqI__i (nope (p := True) ?_), fun c => ⟨by simp (disch := omega) only [fa_lit, nI_add, zz_mul, zz_sub, nI_leI, nI_ltI, nI_eq, nI_clamp, zz_in, zz_m1, zz_m1e, zz_le_m1, zz_m1_le, zz_lt_m1, zz_m1_lt, zz_B0, zz_B1, zz_shr, zz_shl, zz_and31, Nat.mod_eq_of_lt, not_true_eq_false, not_false_eq_true, Nat.reduceAdd, Nat.reduceMul, Nat.reduceSub]; omega, fun c2 => zqI__i (nope (p := True) ?_), fun c2 => zqI__i ?_⟩⟩
  · rintro k g1 rfl
    (try simp (disch := omega) only [fa_lit, nI_add, zz_mul, zz_sub, nI_leI, nI_ltI, nI_eq, nI_clamp, zz_in, zz_m1, zz_m1e, zz_le_m1, zz_m1_le, zz_lt_m1, zz_m1_lt, zz_B0, zz_B1, zz_shr, zz_shl, zz_and31, Nat.mod_eq_of_lt, not_true_eq_false, not_false_eq_true, Nat.reduceAdd, Nat.reduceMul, Nat.reduceSub] at c) <;> (try omega)
  · rw [nI_clamp (by omega), hv] at c2
    rintro k g1 rfl
    (try simp (disch := omega) only [fa_lit, nI_add, zz_mul, zz_sub, nI_leI, nI_ltI, nI_eq, nI_clamp, zz_in, zz_m1, zz_m1e, zz_le_m1, zz_m1_le, zz_lt_m1, zz_m1_lt, zz_B0, zz_B1, zz_shr, zz_shl, zz_and31, Nat.mod_eq_of_lt, not_true_eq_false, not_false_eq_true, Nat.reduceAdd, Nat.reduceMul, Nat.reduceSub] at c2) <;> (try omega)
  · obtain ⟨j, hj, rfl⟩ := nI_of c
    rw [nI_clamp (by omega), hv] at c2
    simp (disch := omega) only [fa_lit, nI_add, zz_mul, zz_sub, nI_leI, nI_ltI, nI_eq, nI_clamp, zz_in, zz_m1, zz_m1e, zz_le_m1, zz_m1_le, zz_lt_m1, zz_m1_lt, zz_B0, zz_B1, zz_shr, zz_shl, zz_and31, Nat.mod_eq_of_lt, not_true_eq_false, not_false_eq_true, Nat.reduceAdd, Nat.reduceMul, Nat.reduceSub] at c2
    exact h1 s j hs (by omega) rfl rfl
theorem kX13_find {T : zT} {I : zI} {L : zL} {R : zR} {κ c a n : Nat} {f : Nat → Nat} {x y z : Int32} {K : Int32 → Prop} (h2 : T κ = (100, c)) (hy : y = nI a) (hz : z = nI n) (hc : a + n ≤ c) (hc2 : c < 2 ^ 31) (hw : ∀ k, k < n → I κ (a + k) = nI (f k)) (hK : K (fndI f n x)) :
    zMet mX13_find 1 0 [.ref κ, .int y, .int z, .int x] T I L R (zqI_ T I L R K) := by
  subst hy hz
  refine sX13_find (gX13_find_0 ?_)
  have main : ∀ j k, k + j = n → ∀ y, y = nI k → (∀ q, q < k → nI (f q) ≠ x) → zAW mX13_find 1 0 3 [(0, .ref κ), (1, .int (nI a)), (2, .int (nI n)), (3, .int x), (4, .int y)] [] T I L R (zqI_ T I L R K) := by
    intro j
    induction j with
    | zero =>
      rintro k hk y rfl hq
      obtain rfl : k = n := by omega
      refine gX13_find_3 ⟨fun _ => zqI__i ?_, fun c => ?_⟩
      · rw [fndI_no hq] at hK
        exact hK
      · exfalso
        (try simp (disch := omega) only [fa_lit, nI_add, zz_mul, zz_sub, nI_leI, nI_ltI, nI_eq, nI_clamp, zz_in, zz_m1, zz_m1e, zz_le_m1, zz_m1_le, zz_lt_m1, zz_m1_lt, zz_B0, zz_B1, zz_shr, zz_shl, zz_and31, Nat.mod_eq_of_lt, not_true_eq_false, not_false_eq_true, Nat.reduceAdd, Nat.reduceMul, Nat.reduceSub] at c) <;> (try omega)
    | succ j ih =>
      rintro k hk y rfl hq
      refine gX13_find_3 ⟨fun c => ?_, fun _ => ⟨by rw [h2], by rw [h2]; simp (disch := omega) only [fa_lit, nI_add, zz_mul, zz_sub, nI_leI, nI_ltI, nI_eq, nI_clamp, zz_in, zz_m1, zz_m1e, zz_le_m1, zz_m1_le, zz_lt_m1, zz_m1_lt, zz_B0, zz_B1, zz_shr, zz_shl, zz_and31, Nat.mod_eq_of_lt, not_true_eq_false, not_false_eq_true, Nat.reduceAdd, Nat.reduceMul, Nat.reduceSub]; omega, fun c => zqI__i ?_, fun c => ?_⟩⟩
      · exfalso
        (try simp (disch := omega) only [fa_lit, nI_add, zz_mul, zz_sub, nI_leI, nI_ltI, nI_eq, nI_clamp, zz_in, zz_m1, zz_m1e, zz_le_m1, zz_m1_le, zz_lt_m1, zz_m1_lt, zz_B0, zz_B1, zz_shr, zz_shl, zz_and31, Nat.mod_eq_of_lt, not_true_eq_false, not_false_eq_true, Nat.reduceAdd, Nat.reduceMul, Nat.reduceSub] at c) <;> (try omega)
      · rw [nI_add, nI_clamp (by omega), hw k (by omega)] at c
        rw [fndI_at (by omega) c hq] at hK
        exact hK
      · rw [nI_add, nI_clamp (by omega), hw k (by omega)] at c
        refine ih (k + 1) (by omega) _ (nI_1 k) ?_
        intro q hq2
        by_cases e : q = k
        · rw [e]
          exact c
        · exact hq q (by omega)
  exact main n 0 (by omega) _ rfl (fun q h => absurd h (Nat.not_lt_zero q))
theorem kX13_letterOf {T : zT} {I : zI} {L : zL} {R : zR} {w k : Nat} {K : Int32 → Prop} (hw : w < 2 ^ 31) (hk : k ≤ 5) (hK : K (nI (ltr w k))) : zMet mX13_letterOf 1 0 [.int (nI w), .int (nI k)] T I L R (zqI_ T I L R K) := by
  refine sX13_letterOf (gX13_letterOf_0 (zqI__i ?_))
  have e : ((nI w >>> (((25 : Int32) - ((5 : Int32) * nI k)) &&& 31)) &&& (31 : Int32)) = nI (ltr w k) := by
    simp (disch := omega) only [fa_lit, nI_add, zz_mul, zz_sub, nI_leI, nI_ltI, nI_eq, nI_clamp, zz_in, zz_m1, zz_m1e, zz_le_m1, zz_m1_le, zz_lt_m1, zz_m1_lt, zz_B0, zz_B1, zz_shr, zz_shl, zz_and31, Nat.mod_eq_of_lt, not_true_eq_false, not_false_eq_true, Nat.reduceAdd, Nat.reduceMul, Nat.reduceSub]
    rfl
  rw [e]
  exact hK
theorem kX13_longOf {T : zT} {I : zI} {L : zL} {R : zR} {w : Nat} {K : Int32 → Prop} (hw : w < 2 ^ 31) (hK : K (nI (wln w))) : zMet mX13_longOf 1 0 [.int (nI w)] T I L R (zqI_ T I L R K) := by
  refine sX13_longOf (gX13_longOf_0 ?_)
  have main : ∀ j k, k + j = 6 → ∀ x, x = nI k → (∀ q, q < k → decide (ltr w q = 0) = false) → zAW mX13_longOf 1 0 2 [(0, .int (nI w)), (1, .int x)] [] T I L R (zqI_ T I L R K) := by
    intro j
    induction j with
    | zero =>
      rintro k hk x rfl hq
      obtain rfl : k = 6 := by omega
      refine gX13_longOf_2 ⟨fun _ => zqI__i ?_, fun c => ?_⟩
      · rw [show wln w = 6 from fs_no hq] at hK
        exact hK
      · exfalso
        (try simp (disch := omega) only [fa_lit, nI_add, zz_mul, zz_sub, nI_leI, nI_ltI, nI_eq, nI_clamp, zz_in, zz_m1, zz_m1e, zz_le_m1, zz_m1_le, zz_lt_m1, zz_m1_lt, zz_B0, zz_B1, zz_shr, zz_shl, zz_and31, Nat.mod_eq_of_lt, not_true_eq_false, not_false_eq_true, Nat.reduceAdd, Nat.reduceMul, Nat.reduceSub] at c) <;> (try omega)
    | succ j ih =>
      rintro k hk x rfl hq
      have hl := ltr_lt w k
      have e : ((nI w >>> (((25 : Int32) - ((5 : Int32) * nI k)) &&& 31)) &&& (31 : Int32)) = nI (ltr w k) := by
        simp (disch := omega) only [fa_lit, nI_add, zz_mul, zz_sub, nI_leI, nI_ltI, nI_eq, nI_clamp, zz_in, zz_m1, zz_m1e, zz_le_m1, zz_m1_le, zz_lt_m1, zz_m1_lt, zz_B0, zz_B1, zz_shr, zz_shl, zz_and31, Nat.mod_eq_of_lt, not_true_eq_false, not_false_eq_true, Nat.reduceAdd, Nat.reduceMul, Nat.reduceSub]
        rfl
      refine gX13_longOf_2 ⟨fun c => ?_, fun _ => ⟨fun c => zqI__i ?_, fun c => ?_⟩⟩
      · exfalso
        (try simp (disch := omega) only [fa_lit, nI_add, zz_mul, zz_sub, nI_leI, nI_ltI, nI_eq, nI_clamp, zz_in, zz_m1, zz_m1e, zz_le_m1, zz_m1_le, zz_lt_m1, zz_m1_lt, zz_B0, zz_B1, zz_shr, zz_shl, zz_and31, Nat.mod_eq_of_lt, not_true_eq_false, not_false_eq_true, Nat.reduceAdd, Nat.reduceMul, Nat.reduceSub] at c) <;> (try omega)
      · rw [e] at c
        simp (disch := omega) only [fa_lit, nI_add, zz_mul, zz_sub, nI_leI, nI_ltI, nI_eq, nI_clamp, zz_in, zz_m1, zz_m1e, zz_le_m1, zz_m1_le, zz_lt_m1, zz_m1_lt, zz_B0, zz_B1, zz_shr, zz_shl, zz_and31, Nat.mod_eq_of_lt, not_true_eq_false, not_false_eq_true, Nat.reduceAdd, Nat.reduceMul, Nat.reduceSub] at c
        rw [show wln w = k from fs_at (by omega) (decide_eq_true (Nat.le_zero.mp c)) hq] at hK
        exact hK
      · rw [e] at c
        simp (disch := omega) only [fa_lit, nI_add, zz_mul, zz_sub, nI_leI, nI_ltI, nI_eq, nI_clamp, zz_in, zz_m1, zz_m1e, zz_le_m1, zz_m1_le, zz_lt_m1, zz_m1_lt, zz_B0, zz_B1, zz_shr, zz_shl, zz_and31, Nat.mod_eq_of_lt, not_true_eq_false, not_false_eq_true, Nat.reduceAdd, Nat.reduceMul, Nat.reduceSub] at c
        refine ih (k + 1) (by omega) _ (nI_1 k) ?_
        intro q hq2
        by_cases e : q = k
        · rw [e]
          exact decide_eq_false (by omega)
        · exact hq q (by omega)
  exact main 6 0 rfl _ rfl (fun q h => absurd h (Nat.not_lt_zero q))
theorem kX13_lostOf {T : zT} {I : zI} {L : zL} {R : zR} {V : Nat → Nat → Nat → Nat} {s : Nat} {K : Int32 → Prop} (h : zMq T I R V) (hs : s < V 5 0 0) (hK : K (nI (fLost (V 23 s) (V 6 s 2)))) : zMet mX13_lostOf 1 0 [.ref 2000, .int (nI s)] T I L R (zqI_ T I L R K) := by
  have hn := h.2.2.1.1.1
  have hw := h.2.2.1.1.2 s hs
  have hv := (h.2.1.1.2 s hs).2.2
  refine sX13_lostOf (gX13_lostOf_0 h.1 ?_)
  have main : ∀ j k, k + j = V 6 s 2 → ∀ x y, x = nI (fLost (V 23 s) k) → y = nI k → zAW mX13_lostOf 1 0 4 [(0, .ref 2000), (1, .int (nI s)), (2, .int x), (3, .int y)] [] T I L R (zqI_ T I L R K) := by
    intro j
    induction j with
    | zero =>
      rintro k hk x y rfl rfl
      obtain rfl : k = V 6 s 2 := by omega
      refine gX13_lostOf_4 h.1 ⟨by simp (disch := omega) only [fa_lit, nI_add, zz_mul, zz_sub, nI_leI, nI_ltI, nI_eq, nI_clamp, zz_in, zz_m1, zz_m1e, zz_le_m1, zz_m1_le, zz_lt_m1, zz_m1_lt, zz_B0, zz_B1, zz_shr, zz_shl, zz_and31, Nat.mod_eq_of_lt, not_true_eq_false, not_false_eq_true, Nat.reduceAdd, Nat.reduceMul, Nat.reduceSub]; omega, fun _ => zqI__i hK, fun c => ?_⟩
      exfalso
      rw [nI_clamp (by omega), hv] at c
      (try simp (disch := omega) only [fa_lit, nI_add, zz_mul, zz_sub, nI_leI, nI_ltI, nI_eq, nI_clamp, zz_in, zz_m1, zz_m1e, zz_le_m1, zz_m1_le, zz_lt_m1, zz_m1_lt, zz_B0, zz_B1, zz_shr, zz_shl, zz_and31, Nat.mod_eq_of_lt, not_true_eq_false, not_false_eq_true, Nat.reduceAdd, Nat.reduceMul, Nat.reduceSub] at c) <;> (try omega)
    | succ j ih =>
      rintro k hk x y rfl rfl
      have hr : I 2061 (12 * s + k) = nI (V 23 s k) := h.2.2.2.1.2.1 s hs k (by omega)
      have hr2 : V 23 s k ≤ 26 := h.2.2.2.2.2.1 s hs k (by omega)
      refine gX13_lostOf_4 h.1 ⟨by simp (disch := omega) only [fa_lit, nI_add, zz_mul, zz_sub, nI_leI, nI_ltI, nI_eq, nI_clamp, zz_in, zz_m1, zz_m1e, zz_le_m1, zz_m1_le, zz_lt_m1, zz_m1_lt, zz_B0, zz_B1, zz_shr, zz_shl, zz_and31, Nat.mod_eq_of_lt, not_true_eq_false, not_false_eq_true, Nat.reduceAdd, Nat.reduceMul, Nat.reduceSub]; omega, fun c => ?_, fun _ => ⟨by simp (disch := omega) only [fa_lit, nI_add, zz_mul, zz_sub, nI_leI, nI_ltI, nI_eq, nI_clamp, zz_in, zz_m1, zz_m1e, zz_le_m1, zz_m1_le, zz_lt_m1, zz_m1_lt, zz_B0, zz_B1, zz_shr, zz_shl, zz_and31, Nat.mod_eq_of_lt, not_true_eq_false, not_false_eq_true, Nat.reduceAdd, Nat.reduceMul, Nat.reduceSub]; omega, fun c => ?_, fun c => ?_⟩⟩
      · exfalso
        rw [nI_clamp (by omega), hv] at c
        (try simp (disch := omega) only [fa_lit, nI_add, zz_mul, zz_sub, nI_leI, nI_ltI, nI_eq, nI_clamp, zz_in, zz_m1, zz_m1e, zz_le_m1, zz_m1_le, zz_lt_m1, zz_m1_lt, zz_B0, zz_B1, zz_shr, zz_shl, zz_and31, Nat.mod_eq_of_lt, not_true_eq_false, not_false_eq_true, Nat.reduceAdd, Nat.reduceMul, Nat.reduceSub] at c) <;> (try omega)
      · simp (disch := omega) only [hr, fa_lit, nI_add, zz_mul, zz_sub, nI_leI, nI_ltI, nI_eq, nI_clamp, zz_in, zz_m1, zz_m1e, zz_le_m1, zz_m1_le, zz_lt_m1, zz_m1_lt, zz_B0, zz_B1, zz_shr, zz_shl, zz_and31, Nat.mod_eq_of_lt, not_true_eq_false, not_false_eq_true, Nat.reduceAdd, Nat.reduceMul, Nat.reduceSub] at c
        exact ih (k + 1) (by omega) _ _ (by rw [nI_1, fLost, if_pos c]) (nI_1 k)
      · simp (disch := omega) only [hr, fa_lit, nI_add, zz_mul, zz_sub, nI_leI, nI_ltI, nI_eq, nI_clamp, zz_in, zz_m1, zz_m1e, zz_le_m1, zz_m1_le, zz_lt_m1, zz_m1_lt, zz_B0, zz_B1, zz_shr, zz_shl, zz_and31, Nat.mod_eq_of_lt, not_true_eq_false, not_false_eq_true, Nat.reduceAdd, Nat.reduceMul, Nat.reduceSub] at c
        exact ih (k + 1) (by omega) _ _ (by rw [fLost, if_neg c]; exact nI_add _ 0) (nI_1 k)
  exact main (V 6 s 2) 0 (by omega) _ _ rfl rfl
theorem kX13_ironOf {T : zT} {I : zI} {L : zL} {R : zR} {V : Nat → Nat → Nat → Nat} {s : Nat} {K : Int32 → Prop} (h : zMq T I R V) (hs : s < V 5 0 0) (hK : K (nI (fIron (fun c => V 11 c 0) (V 23 s) (V 6 s 2)))) : zMet mX13_ironOf 1 0 [.ref 2000, .int (nI s)] T I L R (zqI_ T I L R K) := by
  have hn := h.2.2.1.1.1
  have hw := h.2.2.1.1.2 s hs
  have hv := (h.2.1.1.2 s hs).2.2
  refine sX13_ironOf (gX13_ironOf_0 h.1 ?_)
  have main : ∀ j k, k + j = V 6 s 2 → ∀ x y, x = nI (fIron (fun c => V 11 c 0) (V 23 s) k) → y = nI k → zAW mX13_ironOf 1 0 4 [(0, .ref 2000), (1, .int (nI s)), (2, .int x), (3, .int y)] [] T I L R (zqI_ T I L R K) := by
    intro j
    induction j with
    | zero =>
      rintro k hk x y rfl rfl
      obtain rfl : k = V 6 s 2 := by omega
      refine gX13_ironOf_4 h.1 ⟨by simp (disch := omega) only [fa_lit, nI_add, zz_mul, zz_sub, nI_leI, nI_ltI, nI_eq, nI_clamp, zz_in, zz_m1, zz_m1e, zz_le_m1, zz_m1_le, zz_lt_m1, zz_m1_lt, zz_B0, zz_B1, zz_shr, zz_shl, zz_and31, Nat.mod_eq_of_lt, not_true_eq_false, not_false_eq_true, Nat.reduceAdd, Nat.reduceMul, Nat.reduceSub]; omega, fun _ => zqI__i hK, fun c => ?_⟩
      exfalso
      rw [nI_clamp (by omega), hv] at c
      (try simp (disch := omega) only [fa_lit, nI_add, zz_mul, zz_sub, nI_leI, nI_ltI, nI_eq, nI_clamp, zz_in, zz_m1, zz_m1e, zz_le_m1, zz_m1_le, zz_lt_m1, zz_m1_lt, zz_B0, zz_B1, zz_shr, zz_shl, zz_and31, Nat.mod_eq_of_lt, not_true_eq_false, not_false_eq_true, Nat.reduceAdd, Nat.reduceMul, Nat.reduceSub] at c) <;> (try omega)
    | succ j ih =>
      rintro k hk x y rfl rfl
      have hr : I 2061 (12 * s + k) = nI (V 23 s k) := h.2.2.2.1.2.1 s hs k (by omega)
      have hr2 : V 23 s k ≤ 26 := h.2.2.2.2.2.1 s hs k (by omega)
      refine gX13_ironOf_4 h.1 ⟨by simp (disch := omega) only [fa_lit, nI_add, zz_mul, zz_sub, nI_leI, nI_ltI, nI_eq, nI_clamp, zz_in, zz_m1, zz_m1e, zz_le_m1, zz_m1_le, zz_lt_m1, zz_m1_lt, zz_B0, zz_B1, zz_shr, zz_shl, zz_and31, Nat.mod_eq_of_lt, not_true_eq_false, not_false_eq_true, Nat.reduceAdd, Nat.reduceMul, Nat.reduceSub]; omega, fun c => ?_, fun _ => ⟨by simp (disch := omega) only [fa_lit, nI_add, zz_mul, zz_sub, nI_leI, nI_ltI, nI_eq, nI_clamp, zz_in, zz_m1, zz_m1e, zz_le_m1, zz_m1_le, zz_lt_m1, zz_m1_lt, zz_B0, zz_B1, zz_shr, zz_shl, zz_and31, Nat.mod_eq_of_lt, not_true_eq_false, not_false_eq_true, Nat.reduceAdd, Nat.reduceMul, Nat.reduceSub]; omega, fun c => ?_, fun c => ⟨?_, ?_⟩⟩⟩
      · exfalso
        rw [nI_clamp (by omega), hv] at c
        (try simp (disch := omega) only [fa_lit, nI_add, zz_mul, zz_sub, nI_leI, nI_ltI, nI_eq, nI_clamp, zz_in, zz_m1, zz_m1e, zz_le_m1, zz_m1_le, zz_lt_m1, zz_m1_lt, zz_B0, zz_B1, zz_shr, zz_shl, zz_and31, Nat.mod_eq_of_lt, not_true_eq_false, not_false_eq_true, Nat.reduceAdd, Nat.reduceMul, Nat.reduceSub] at c) <;> (try omega)
      · simp (disch := omega) only [hr, fa_lit, nI_add, zz_mul, zz_sub, nI_leI, nI_ltI, nI_eq, nI_clamp, zz_in, zz_m1, zz_m1e, zz_le_m1, zz_m1_le, zz_lt_m1, zz_m1_lt, zz_B0, zz_B1, zz_shr, zz_shl, zz_and31, Nat.mod_eq_of_lt, not_true_eq_false, not_false_eq_true, Nat.reduceAdd, Nat.reduceMul, Nat.reduceSub] at c
        exact ih (k + 1) (by omega) _ _ (by show _ = nI (_ + V 11 (V 23 s k) 0); rw [c, h.2.2.1.2.2.2.2.1.1]; exact nI_add _ 0) (nI_1 k)
      · simp (disch := omega) only [hr, fa_lit, nI_add, zz_mul, zz_sub, nI_leI, nI_ltI, nI_eq, nI_clamp, zz_in, zz_m1, zz_m1e, zz_le_m1, zz_m1_le, zz_lt_m1, zz_m1_lt, zz_B0, zz_B1, zz_shr, zz_shl, zz_and31, Nat.mod_eq_of_lt, not_true_eq_false, not_false_eq_true, Nat.reduceAdd, Nat.reduceMul, Nat.reduceSub]
        omega
      · simp (disch := omega) only [hr, fa_lit, nI_add, zz_mul, zz_sub, nI_leI, nI_ltI, nI_eq, nI_clamp, zz_in, zz_m1, zz_m1e, zz_le_m1, zz_m1_le, zz_lt_m1, zz_m1_lt, zz_B0, zz_B1, zz_shr, zz_shl, zz_and31, Nat.mod_eq_of_lt, not_true_eq_false, not_false_eq_true, Nat.reduceAdd, Nat.reduceMul, Nat.reduceSub] at c
        have e : I 2043 (nI (V 23 s k)).toNatClampNeg = nI (V 11 (V 23 s k) 0) := by rw [nI_clamp (by omega)]; exact h.2.1.2.2.2.2.1 _ (by omega) hr2
        refine ih (k + 1) (by omega) _ _ ?_ (nI_1 k)
        have e2 : (((12 : Int32) * nI s) + nI k).toNatClampNeg = 12 * s + k := by simp (disch := omega) only [fa_lit, nI_add, zz_mul, zz_sub, nI_leI, nI_ltI, nI_eq, nI_clamp, zz_in, zz_m1, zz_m1e, zz_le_m1, zz_m1_le, zz_lt_m1, zz_m1_lt, zz_B0, zz_B1, zz_shr, zz_shl, zz_and31, Nat.mod_eq_of_lt, not_true_eq_false, not_false_eq_true, Nat.reduceAdd, Nat.reduceMul, Nat.reduceSub]
        rw [e2, hr, e]
        exact nI_add _ _
  exact main (V 6 s 2) 0 (by omega) _ _ rfl rfl
