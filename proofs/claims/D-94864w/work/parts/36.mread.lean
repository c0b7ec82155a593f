/-! READINGS: plain laws; the reference's side -/
def hasG (g : Nat → Nat) : Nat → Bool
  | 0 => false
  | k + 1 => hasG g k || decide (g k = 0)
theorem hasG_iff {g : Nat → Nat} : ∀ {n : Nat}, hasG g n = true ↔ ∃ p, p < n ∧ g p = 0
  | 0 => ⟨fun h => (by cases h), fun ⟨p, h, _⟩ => absurd h (Nat.not_lt_zero p)⟩
  | n + 1 => by
    rw [hasG, Bool.or_eq_true, hasG_iff, decide_eq_true_iff]
    constructor
    · rintro (⟨p, h1, h2⟩ | h)
      · exact ⟨p, by omega, h2⟩
      · exact ⟨n, by omega, h⟩
    · rintro ⟨p, h1, h2⟩
      by_cases e : p = n
      · exact Or.inr (by rw [← e]; exact h2)
      · exact Or.inl ⟨p, by omega, h2⟩
theorem rdW_zero {ws : Nat → Nat} {n a : Nat} {g y : Nat → Nat} : ∀ {m : Nat}, (∀ i, i < m → stN (ws i) n g a = true → y (a + wln (ws i)) = 0) → rdW ws n g y a m = 0
  | 0, _ => rfl
  | m + 1, h => by
    rw [rdW, rdW_zero (fun i hi => h i (by omega))]
    split
    · rename_i e
      rw [h m (by omega) e]
    · rfl
theorem rdB_zero {ws wo : Nat → Nat} {n a : Nat} {g y : Nat → Nat} : ∀ {m : Nat}, (∀ i, i < m → stN (ws i) n g a = true → y (a + wln (ws i)) = 0) → rdB ws wo n g y a m = 0
  | 0, _ => rfl
  | m + 1, h => by
    rw [rdB, if_neg]
    · exact rdB_zero (fun i hi => h i (by omega))
    · rw [Bool.and_eq_true, decide_eq_true_iff]
      rintro ⟨e1, e2⟩
      exact e2 (h m (by omega) e1)
theorem rd_gap {m : Nat} {ws wo : Nat → Nat} {n p : Nat} {g : Nat → Nat} (hw : ∀ i, i < m → 0 < wln (ws i)) (hp : p < n) (h0 : g p = 0) : ∀ r, r ≤ n → ∀ a, n ≤ a + r → a ≤ p → rdY m ws n g r a = 0 ∧ rdZ m ws wo n g r a = 0
  | 0, _, a, h1, h2 => absurd h1 (by omega)
  | r + 1, hr, a, h1, h2 => by
    have ih := rd_gap (wo := wo) hw hp h0 r (by omega)
    unfold rdY rdZ
    by_cases e : a + (r + 1) = n
    · rw [if_pos e, if_pos e]
      have key : ∀ i, i < m → stN (ws i) n g a = true → a + wln (ws i) ≤ p := fun i hi hs => by
        have hs2 := of_decide_eq_true hs
        rcases Nat.lt_or_ge p (a + wln (ws i)) with q | q
        · have h3 := hs2.2 (p - a) (by omega)
          rw [show a + (p - a) = p by omega, h0] at h3
          have h4 := fa_first_no (fun k => decide (ltr (ws i) k = 0)) 6 (p - a) (by show p - a < wln (ws i); omega)
          rw [decide_eq_false_iff_not] at h4
          exact absurd h3 h4
        · exact q
      exact ⟨rdW_zero (fun i hi hs => (ih _ (by have := hw i hi; omega) (key i hi hs)).1), rdB_zero (fun i hi hs => (ih _ (by have := hw i hi; omega) (key i hi hs)).2)⟩
    · rw [if_neg e, if_neg e]
      exact ih a (by omega) h2
theorem rdWB {ws wo : Nat → Nat} {n a : Nat} {g y z : Nat → Nat} : ∀ {m : Nat}, (∀ i, i < m → stN (ws i) n g a = true → (y (a + wln (ws i)) = 0 ↔ z (a + wln (ws i)) = 0)) → (rdW ws n g y a m = 0 ↔ rdB ws wo n g z a m = 0)
  | 0, _ => ⟨fun _ => rfl, fun _ => rfl⟩
  | m + 1, h => by
    have ih := rdWB (wo := wo) (m := m) (fun i hi => h i (by omega))
    have hm := h m (by omega)
    rw [rdW, rdB]
    cases e : stN (ws m) n g a
    · simp only [Bool.false_and, Bool.false_eq_true, if_false, Nat.add_zero]
      exact ih
    · have hm2 := hm e
      simp only [if_true, Bool.true_and, decide_eq_true_eq]
      by_cases e2 : z (a + wln (ws m)) = 0
      · rw [if_neg (fun q => q e2), hm2.mpr e2, Nat.add_zero]
        exact ih
      · have e3 : ¬ y (a + wln (ws m)) = 0 := fun q => e2 (hm2.mp q)
        rw [if_pos e2, Nat.max_def]
        constructor
        · intro q
          omega
        · intro q
          split at q <;> omega
theorem rd_pos {m : Nat} {ws wo : Nat → Nat} {n : Nat} {g : Nat → Nat} (hw : ∀ i, i < m → 0 < wln (ws i)) : ∀ r, r ≤ n → ∀ a, n ≤ a + r → a ≤ n → (rdY m ws n g r a = 0 ↔ rdZ m ws wo n g r a = 0)
  | 0, _, a, h1, h2 => by
    unfold rdY rdZ
    exact Iff.rfl
  | r + 1, hr, a, h1, h2 => by
    have ih := rd_pos (n := n) (wo := wo) (g := g) hw r (by omega)
    unfold rdY rdZ
    by_cases e : a + (r + 1) = n
    · rw [if_pos e, if_pos e]
      exact rdWB (fun i hi hs => ih _ (by have := hw i hi; omega) (stN_len hs))
    · rw [if_neg e, if_neg e]
      exact ih a (by omega) h2
theorem rdW_le {ws : Nat → Nat} {n a c : Nat} {g y : Nat → Nat} (hy : ∀ q, y q ≤ c) : ∀ m, rdW ws n g y a m ≤ m * c
  | 0 => Nat.zero_le _
  | m + 1 => by
    have ih := rdW_le (ws := ws) (n := n) (a := a) (g := g) hy m
    have := hy (a + wln (ws m))
    rw [rdW, Nat.add_mul, Nat.one_mul]
    split <;> omega
theorem rdY_le {m : Nat} {ws : Nat → Nat} {n : Nat} {g : Nat → Nat} (hm : m ≤ 12) : ∀ r a, rdY m ws n g r a ≤ 12 ^ r
  | 0, a => by
    unfold rdY
    split <;> decide
  | r + 1, a => by
    have ih := rdY_le (ws := ws) (n := n) (g := g) hm r
    rw [Nat.pow_succ]
    unfold rdY
    split
    · have h1 := rdW_le (ws := ws) (n := n) (a := a) (g := g) ih m
      have h2 := Nat.mul_le_mul_right (12 ^ r) hm
      omega
    · have := ih a
      omega
theorem rdY_lt {m : Nat} {ws : Nat → Nat} {n : Nat} {g : Nat → Nat} {a : Nat} (hm : m ≤ 12) (hn : n ≤ 12) : rdY m ws n g n a < 2 ^ 63 := by
  have h1 := rdY_le (ws := ws) (n := n) (g := g) hm n a
  have h2 : 12 ^ n ≤ 12 ^ 12 := Nat.pow_le_pow_right (by decide) hn
  have h3 : 12 ^ 12 < 2 ^ 63 := by decide
  omega
theorem zL_0 {n : Nat} (h : n < 2 ^ 63) : lN n = 0 ↔ n = 0 := by
  rw [fa_eq64, zL_toInt h, show (0 : Int64).toInt = 0 by decide]
  omega
theorem zL_pos {n : Nat} (h : n < 2 ^ 63) : (0 : Int64) < lN n ↔ n ≠ 0 := by
  rw [fa_lt64, zL_toInt h, show (0 : Int64).toInt = 0 by decide]
  omega
/-- the table of a tongue over a row of a kind -/
def rdBest (V : Nat → Nat → Nat → Nat) (t : Nat) (f : Nat → Nat) (n kd : Nat) : Nat → Nat := rdZ (V 20 t 0) (V 21 t) (V 22 t) n (gMet f n (isR kd t)) n
def rdWays (V : Nat → Nat → Nat → Nat) (t : Nat) (f : Nat → Nat) (n kd : Nat) : Nat → Nat := rdY (V 20 t 0) (V 21 t) n (gMet f n (isR kd t)) n
def srv (V : Nat → Nat → Nat → Nat) (f : Nat → Nat) (n kd : Nat) : Bool := decide (rdBest V 0 f n kd 0 ≠ 0) && decide (rdBest V 1 f n kd 0 ≠ 0)
theorem kX13_isLeft {T : zT} {I : zI} {L : zL} {R : zR} {kd t : Nat} {K : Int32 → Prop} (hk : kd < 4) (ht : t < 2) (hK : K (if isR kd t then 0 else 1)) : zMet mX13_isLeft 1 0 [.int (nI kd), .int (nI t)] T I L R (zqI_ T I L R K) := by
  refine sX13_isLeft (gX13_isLeft_0 ?_)
  match kd, hk, t, ht with
  | 0, _, 0, _ => exact ⟨fun _ => ⟨fun _ => zqI__i hK, fun c => absurd rfl c⟩, fun c => absurd rfl c⟩
  | 1, _, 0, _ => exact ⟨fun _ => ⟨fun c => absurd c (by decide), fun _ => ⟨fun c => absurd c (by decide), fun _ => zqI__i hK⟩⟩, fun c => absurd rfl c⟩
  | 2, _, 0, _ => exact ⟨fun _ => ⟨fun c => absurd c (by decide), fun _ => ⟨fun _ => zqI__i hK, fun c => absurd rfl c⟩⟩, fun c => absurd rfl c⟩
  | 3, _, 0, _ => exact ⟨fun _ => ⟨fun c => absurd c (by decide), fun _ => ⟨fun c => absurd c (by decide), fun _ => zqI__i hK⟩⟩, fun c => absurd rfl c⟩
  | 0, _, 1, _ => exact ⟨fun c => absurd c (by decide), fun _ => ⟨fun c => absurd c (by decide), fun _ => ⟨fun c => absurd c (by decide), fun _ => zqI__i hK⟩⟩⟩
  | 1, _, 1, _ => exact ⟨fun c => absurd c (by decide), fun _ => ⟨fun _ => zqI__i hK, fun c => absurd rfl c⟩⟩
  | 2, _, 1, _ => exact ⟨fun c => absurd c (by decide), fun _ => ⟨fun c => absurd c (by decide), fun _ => ⟨fun _ => zqI__i hK, fun c => absurd rfl c⟩⟩⟩
  | 3, _, 1, _ => exact ⟨fun c => absurd c (by decide), fun _ => ⟨fun c => absurd c (by decide), fun _ => ⟨fun c => absurd c (by decide), fun _ => zqI__i hK⟩⟩⟩
theorem kX13_layMet {T : zT} {I : zI} {L : zL} {R : zR} {κ c a n : Nat} {f : Nat → Nat} {r : Bool} {lv : Int32} {K : zI → Prop} (hx : zMok T R) (h2 : T κ = (100, c)) (hc : c < 2 ^ 31) (ha : a + n ≤ c) (hn : n ≤ 12) (hf : ∀ k, k < n → I κ (a + k) = nI (f k) ∧ f k ≤ 26) (hl : lv = if r then 0 else 1) (d1 : κ ≠ 2062) (d2 : κ ≠ 2000)
    (hK : ∀ I', zE [2062, 2000] I I' → (∀ q, q ∉ [62, 63] → I' 2000 q = I 2000 q) → I' 2000 62 = nI n → (I' 2000 63 = if hasG (gMet f n r) n then 1 else 0) → (∀ k, k < n → I' 2062 k = nI (gMet f n r k)) → K I') :
    zMet mX13_layMet 1 0 [.ref 2000, .ref κ, .int (nI a), .int (nI n), .int lv] T I L R (zqV_I T L R K) := by
  have hT := zM_t2062 hx
  have main : ∀ j k, k + j = n → ∀ I', zE [2062, 2000] I I' → (∀ q, q ∉ [62, 63] → I' 2000 q = I 2000 q) → I' 2000 62 = nI n → (I' 2000 63 = if hasG (gMet f n r) k then 1 else 0) → (∀ q, q < k → I' 2062 q = nI (gMet f n r q)) → ∀ x, x = nI k → zAW mX13_layMet 1 0 13 [(0, .ref 2000), (1, .ref κ), (2, .int (nI a)), (3, .int (nI n)), (4, .int lv), (5, .int x)] [] T I' L R (zqV_I T L R K) := by
    intro j
    induction j with
    | zero =>
      rintro k hk I' hE hq h62 h63 hm x rfl
      obtain rfl : k = n := by omega
      refine gX13_layMet_13 hx ⟨fun _ => zqV_I_i (hK I' hE hq h62 h63 hm), fun c => ?_⟩
      exfalso
      (try simp (disch := omega) only [fa_lit, nI_add, zz_mul, zz_sub, nI_leI, nI_ltI, nI_eq, nI_clamp, zz_in, zz_m1, zz_m1e, zz_le_m1, zz_m1_le, zz_lt_m1, zz_m1_lt, zz_B0, zz_B1, zz_shr, zz_shl, zz_and31, Nat.mod_eq_of_lt, not_true_eq_false, not_false_eq_true, Nat.reduceAdd, Nat.reduceMul, Nat.reduceSub] at c) <;> (try omega)
    | succ j ih =>
      rintro k hk I' hE hq h62 h63 hm x rfl
      have fin : ∀ p, p < n → f p = gMet f n r k → ∀ s, s = nI (a + p) → zAW mX13_layMet 1 0 46 [(0, .ref 2000), (1, .ref κ), (2, .int (nI a)), (3, .int (nI n)), (4, .int lv), (5, .int (nI k))] [.int s, .ref κ, .int (nI k), .ref 2062] T I' L R (zqV_I T L R K) := by
        rintro p hp e s rfl
        have hfp := hf p hp
        have e1 : I' κ = I κ := hE κ (by simp [d1, d2])
        have step : ∀ v : Int32, v = (if hasG (gMet f n r) (k + 1) then 1 else 0) → zAW mX13_layMet 1 0 13 [(0, .ref 2000), (1, .ref κ), (2, .int (nI a)), (3, .int (nI n)), (4, .int lv), (5, .int (nI k + 1))] [] T (z2 (z2 I' 2062 k (nI (gMet f n r k))) 2000 63 v) L R (zqV_I T L R K) := by
          intro v hv
          refine ih (k + 1) (by omega) _ (zE_w2 (zE_w2 hE (by simp)) (by simp)) ?_ ?_ ?_ ?_ _ (nI_1 k)
          · intro q hq1
            rw [z2_nk (fun e => hq1 (by rw [e]; simp)), z2_na (by decide)]
            exact hq q hq1
          · rw [z2_nk (by decide), z2_na (by decide)]
            exact h62
          · rw [z2_s, hv]
          · intro q hq1
            rw [z2_na (by decide)]
            by_cases e2 : q = k
            · rw [e2, z2_s]
            · rw [z2_nk e2]
              exact hm q (by omega)
        refine gX13_layMet_46 hx ⟨by rw [h2], by rw [h2]; simp (disch := omega) only [fa_lit, nI_add, zz_mul, zz_sub, nI_leI, nI_ltI, nI_eq, nI_clamp, zz_in, zz_m1, zz_m1e, zz_le_m1, zz_m1_le, zz_lt_m1, zz_m1_lt, zz_B0, zz_B1, zz_shr, zz_shl, zz_and31, Nat.mod_eq_of_lt, not_true_eq_false, not_false_eq_true, Nat.reduceAdd, Nat.reduceMul, Nat.reduceSub]; omega, by rw [hT], by rw [hT]; simp (disch := omega) only [fa_lit, nI_add, zz_mul, zz_sub, nI_leI, nI_ltI, nI_eq, nI_clamp, zz_in, zz_m1, zz_m1e, zz_le_m1, zz_m1_le, zz_lt_m1, zz_m1_lt, zz_B0, zz_B1, zz_shr, zz_shl, zz_and31, Nat.mod_eq_of_lt, not_true_eq_false, not_false_eq_true, Nat.reduceAdd, Nat.reduceMul, Nat.reduceSub]; omega, ?_⟩
        rw [nI_clamp (by omega), nI_clamp (by omega), e1, hfp.1, e, z2_na (by decide), h63]
        have hb : gMet f n r k ≤ 26 := by rw [← e]; exact hfp.2
        cases hg : hasG (gMet f n r) k
        · refine ⟨fun _ => ⟨by simp (disch := omega) only [fa_lit, nI_add, zz_mul, zz_sub, nI_leI, nI_ltI, nI_eq, nI_clamp, zz_in, zz_m1, zz_m1e, zz_le_m1, zz_m1_le, zz_lt_m1, zz_m1_lt, zz_B0, zz_B1, zz_shr, zz_shl, zz_and31, Nat.mod_eq_of_lt, not_true_eq_false, not_false_eq_true, Nat.reduceAdd, Nat.reduceMul, Nat.reduceSub]; omega, fun c => step 1 ?_, fun c => step 0 ?_⟩, fun c => absurd rfl c⟩
          · rw [z2_s] at c
            simp (disch := omega) only [fa_lit, nI_add, zz_mul, zz_sub, nI_leI, nI_ltI, nI_eq, nI_clamp, zz_in, zz_m1, zz_m1e, zz_le_m1, zz_m1_le, zz_lt_m1, zz_m1_lt, zz_B0, zz_B1, zz_shr, zz_shl, zz_and31, Nat.mod_eq_of_lt, not_true_eq_false, not_false_eq_true, Nat.reduceAdd, Nat.reduceMul, Nat.reduceSub] at c
            rw [hasG, hg, decide_eq_true c]
            rfl
          · rw [z2_s] at c
            simp (disch := omega) only [fa_lit, nI_add, zz_mul, zz_sub, nI_leI, nI_ltI, nI_eq, nI_clamp, zz_in, zz_m1, zz_m1e, zz_le_m1, zz_m1_le, zz_lt_m1, zz_m1_lt, zz_B0, zz_B1, zz_shr, zz_shl, zz_and31, Nat.mod_eq_of_lt, not_true_eq_false, not_false_eq_true, Nat.reduceAdd, Nat.reduceMul, Nat.reduceSub] at c
            rw [hasG, hg, decide_eq_false c]
            rfl
        · refine ⟨fun c => absurd c (by decide), fun _ => step 1 ?_⟩
          rw [hasG, hg]
          rfl
      refine gX13_layMet_13 hx ⟨fun c => ?_, fun _ => ⟨fun c => ?_, fun c => ?_⟩⟩
      · exfalso
        (try simp (disch := omega) only [fa_lit, nI_add, zz_mul, zz_sub, nI_leI, nI_ltI, nI_eq, nI_clamp, zz_in, zz_m1, zz_m1e, zz_le_m1, zz_m1_le, zz_lt_m1, zz_m1_lt, zz_B0, zz_B1, zz_shr, zz_shl, zz_and31, Nat.mod_eq_of_lt, not_true_eq_false, not_false_eq_true, Nat.reduceAdd, Nat.reduceMul, Nat.reduceSub] at c) <;> (try omega)
      · have er : r = true := by
          cases r
          · rw [hl] at c
            exact absurd c (by decide)
          · rfl
        refine fin (n - 1 - k) (by omega) (by rw [er]; rfl) _ ?_
        simp (disch := omega) only [fa_lit, nI_add, zz_mul, zz_sub, nI_leI, nI_ltI, nI_eq, nI_clamp, zz_in, zz_m1, zz_m1e, zz_le_m1, zz_m1_le, zz_lt_m1, zz_m1_lt, zz_B0, zz_B1, zz_shr, zz_shl, zz_and31, Nat.mod_eq_of_lt, not_true_eq_false, not_false_eq_true, Nat.reduceAdd, Nat.reduceMul, Nat.reduceSub]
        rw [show a + n - 1 - k = a + (n - 1 - k) by omega]
      · have er : r = false := by
          cases r
          · rfl
          · rw [hl] at c
            exact absurd rfl c
        exact fin k (by omega) (by rw [er]; rfl) _ (nI_add a k)
  refine sX13_layMet (gX13_layMet_0 hx (main n 0 (by omega) _ (zE_w2 (zE_w2 zE_rf (by simp)) (by simp)) ?_ ?_ ?_ (fun q h => absurd h (Nat.not_lt_zero q)) _ rfl))
  · intro q hq1
    rw [z2_nk (fun e => hq1 (by rw [e]; simp)), z2_nk (fun e => hq1 (by rw [e]; simp))]
  · rw [z2_nk (by decide), z2_s]
  · rw [z2_s]
    rfl
theorem kX13_standsAt {T : zT} {I : zI} {L : zL} {R : zR} {w n a : Nat} {g : Nat → Nat} {K : Int32 → Prop} (hx : zMok T R) (hw2 : w < 2 ^ 31) (hn : n ≤ 12) (h62 : I 2000 62 = nI n) (hg : ∀ k, k < n → I 2062 k = nI (g k) ∧ g k ≤ 26) (ha : a ≤ n) (hK : K (if stN w n g a then 1 else 0)) :
    zMet mX13_standsAt 2 0 [.ref 2000, .int (nI w), .int (nI a)] T I L R (zqI_ T I L R K) := by
  have hl := wln_le w
  refine sX13_standsAt (gX13_standsAt_0 hx (kX13_longOf hw2 ⟨fun c => ?_, fun c => ?_⟩))
  · simp (disch := omega) only [h62, fa_lit, nI_add, zz_mul, zz_sub, nI_leI, nI_ltI, nI_eq, nI_clamp, zz_in, zz_m1, zz_m1e, zz_le_m1, zz_m1_le, zz_lt_m1, zz_m1_lt, zz_B0, zz_B1, zz_shr, zz_shl, zz_and31, Nat.mod_eq_of_lt, not_true_eq_false, not_false_eq_true, Nat.reduceAdd, Nat.reduceMul, Nat.reduceSub] at c
    have main : ∀ j k, k + j = wln w → (∀ q, q < k → ltr w q = g (a + q)) → ∀ x, x = nI k → zAW mX13_standsAt 2 0 20 [(0, .ref 2000), (1, .int (nI w)), (2, .int (nI a)), (3, .int (nI (wln w))), (4, .int x)] [] T I L R (zqI_ T I L R K) := by
      intro j
      induction j with
      | zero =>
        rintro k hk hq x rfl
        obtain rfl : k = wln w := by omega
        refine gX13_standsAt_20 hx ⟨fun _ => zqI__i ?_, fun c2 => ?_⟩
        · rw [show stN w n g a = true from decide_eq_true ⟨c, hq⟩] at hK
          exact hK
        · exfalso
          (try simp (disch := omega) only [fa_lit, nI_add, zz_mul, zz_sub, nI_leI, nI_ltI, nI_eq, nI_clamp, zz_in, zz_m1, zz_m1e, zz_le_m1, zz_m1_le, zz_lt_m1, zz_m1_lt, zz_B0, zz_B1, zz_shr, zz_shl, zz_and31, Nat.mod_eq_of_lt, not_true_eq_false, not_false_eq_true, Nat.reduceAdd, Nat.reduceMul, Nat.reduceSub] at c2) <;> (try omega)
      | succ j ih =>
        rintro k hk hq x rfl
        have hlt := ltr_lt w k
        have hgk := hg (a + k) (by omega)
        refine gX13_standsAt_20 hx ⟨fun c2 => ?_, fun _ => ⟨by simp (disch := omega) only [fa_lit, nI_add, zz_mul, zz_sub, nI_leI, nI_ltI, nI_eq, nI_clamp, zz_in, zz_m1, zz_m1e, zz_le_m1, zz_m1_le, zz_lt_m1, zz_m1_lt, zz_B0, zz_B1, zz_shr, zz_shl, zz_and31, Nat.mod_eq_of_lt, not_true_eq_false, not_false_eq_true, Nat.reduceAdd, Nat.reduceMul, Nat.reduceSub]; omega, kX13_letterOf hw2 (by omega) ⟨fun c2 => ?_, fun c2 => zqI__i ?_⟩⟩⟩
        · exfalso
          (try simp (disch := omega) only [fa_lit, nI_add, zz_mul, zz_sub, nI_leI, nI_ltI, nI_eq, nI_clamp, zz_in, zz_m1, zz_m1e, zz_le_m1, zz_m1_le, zz_lt_m1, zz_m1_lt, zz_B0, zz_B1, zz_shr, zz_shl, zz_and31, Nat.mod_eq_of_lt, not_true_eq_false, not_false_eq_true, Nat.reduceAdd, Nat.reduceMul, Nat.reduceSub] at c2) <;> (try omega)
        · rw [nI_add, nI_clamp (by omega), hgk.1] at c2
          simp (disch := omega) only [fa_lit, nI_add, zz_mul, zz_sub, nI_leI, nI_ltI, nI_eq, nI_clamp, zz_in, zz_m1, zz_m1e, zz_le_m1, zz_m1_le, zz_lt_m1, zz_m1_lt, zz_B0, zz_B1, zz_shr, zz_shl, zz_and31, Nat.mod_eq_of_lt, not_true_eq_false, not_false_eq_true, Nat.reduceAdd, Nat.reduceMul, Nat.reduceSub] at c2
          refine ih (k + 1) (by omega) ?_ _ (nI_1 k)
          intro q hq2
          by_cases e2 : q = k
          · rw [e2, c2]
          · exact hq q (by omega)
        · rw [nI_add, nI_clamp (by omega), hgk.1] at c2
          simp (disch := omega) only [fa_lit, nI_add, zz_mul, zz_sub, nI_leI, nI_ltI, nI_eq, nI_clamp, zz_in, zz_m1, zz_m1e, zz_le_m1, zz_m1_le, zz_lt_m1, zz_m1_lt, zz_B0, zz_B1, zz_shr, zz_shl, zz_and31, Nat.mod_eq_of_lt, not_true_eq_false, not_false_eq_true, Nat.reduceAdd, Nat.reduceMul, Nat.reduceSub] at c2
          rw [show stN w n g a = false from decide_eq_false (fun q => c2 (q.2 k (by omega)).symm)] at hK
          exact hK
    exact main (wln w) 0 (by omega) (fun q h => absurd h (Nat.not_lt_zero q)) _ rfl
  · simp (disch := omega) only [h62, fa_lit, nI_add, zz_mul, zz_sub, nI_leI, nI_ltI, nI_eq, nI_clamp, zz_in, zz_m1, zz_m1e, zz_le_m1, zz_m1_le, zz_lt_m1, zz_m1_lt, zz_B0, zz_B1, zz_shr, zz_shl, zz_and31, Nat.mod_eq_of_lt, not_true_eq_false, not_false_eq_true, Nat.reduceAdd, Nat.reduceMul, Nat.reduceSub] at c
    rw [show stN w n g a = false from decide_eq_false (fun q => c q.1)] at hK
    exact zqI__i hK
