/-! READINGS: a row's ways and the greatest worth, from each letter on -/
theorem zL_toInt {n : Nat} (h : n < 2 ^ 63) : (lN n).toInt = n := by
  show (Int64.ofNat n).toInt = n
  rw [Int64.toInt_ofNat_of_lt h]
theorem nM_toInt {x : Nat} (h : x < 2 ^ 31) : (nI x - 1 : Int32).toInt = (x : Int) - 1 := by
  rcases Nat.eq_zero_or_pos x with e | e
  · subst e
    decide
  · rw [show (1 : Int32) = nI 1 from rfl, zz_sub e, nI_toInt (by omega)]
    omega
theorem nM_m1 {x : Nat} (h : x < 2 ^ 31) : (nI x - 1 : Int32) = -1 ↔ x = 0 := by
  rw [fa_eq, nM_toInt h, show (-1 : Int32).toInt = -1 by decide]
  omega
theorem nM_lt0 {x : Nat} (h : x < 2 ^ 31) : (nI x - 1 : Int32) < 0 ↔ x = 0 := by
  rw [fa_lt, nM_toInt h, show (0 : Int32).toInt = 0 by decide]
  omega
theorem nM_dec {k : Nat} (h : 1 ≤ k) : (nI k - 1 : Int32) = nI (k - 1) := by rw [show (1 : Int32) = nI 1 from rfl, zz_sub h]
theorem nM_next {k : Nat} (h : 1 ≤ k) : (nI (k - 1) + (-1 : Int32)) = nI (k - 1) - 1 := by
  rw [Int32.sub_eq_add_neg]
/-- letters as a tongue meets them -/
def gMet (f : Nat → Nat) (n : Nat) (r : Bool) (k : Nat) : Nat := if r then f (n - 1 - k) else f k
/-- whether a word stands in them -/
def stN (w n : Nat) (g : Nat → Nat) (a : Nat) : Bool := decide (a + wln w ≤ n ∧ ∀ k, k < wln w → ltr w k = g (a + k))
def rdW (ws : Nat → Nat) (n : Nat) (g y : Nat → Nat) (a : Nat) : Nat → Nat
  | 0 => 0
  | i + 1 => rdW ws n g y a i + if stN (ws i) n g a then y (a + wln (ws i)) else 0
def rdB (ws wo : Nat → Nat) (n : Nat) (g y : Nat → Nat) (a : Nat) : Nat → Nat
  | 0 => 0
  | i + 1 => if stN (ws i) n g a && decide (y (a + wln (ws i)) ≠ 0) then max (rdB ws wo n g y a i) (wo i + y (a + wln (ws i))) else rdB ws wo n g y a i
def rdY (m : Nat) (ws : Nat → Nat) (n : Nat) (g : Nat → Nat) : Nat → Nat → Nat
  | 0, a => if a = n then 1 else 0
  | r + 1, a => if a + (r + 1) = n then rdW ws n g (rdY m ws n g r) a m else rdY m ws n g r a
def rdZ (m : Nat) (ws wo : Nat → Nat) (n : Nat) (g : Nat → Nat) : Nat → Nat → Nat
  | 0, a => if a = n then 1 else 0
  | r + 1, a => if a + (r + 1) = n then rdB ws wo n g (rdZ m ws wo n g r) a m else rdZ m ws wo n g r a
theorem stN_len {w n a : Nat} {g : Nat → Nat} (h : stN w n g a = true) : a + wln w ≤ n := (of_decide_eq_true h).1
theorem rdB_le {ws wo : Nat → Nat} {n a c : Nat} {g y : Nat → Nat} : ∀ {m : Nat}, (∀ i, i < m → wo i ≤ 99 ∧ 0 < wln (ws i)) → (∀ q, a < q → q ≤ n → y q ≤ 99 * (n - q) + 1) → c = 99 * (n - a) + 1 → rdB ws wo n g y a m ≤ c
  | 0, _, _, _ => Nat.zero_le _
  | m + 1, h, hy, hc => by
    have ih := rdB_le (m := m) (g := g) (fun i hi => h i (by omega)) hy hc
    unfold rdB
    split
    · rename_i e
      rw [Bool.and_eq_true] at e
      have h1 := stN_len e.1
      have h2 := h m (by omega)
      have h3 := hy (a + wln (ws m)) (by omega) h1
      rw [Nat.max_def]
      split <;> omega
    · exact ih
theorem rdZ_le {m : Nat} {ws wo : Nat → Nat} {n : Nat} {g : Nat → Nat} (h : ∀ i, i < m → wo i ≤ 99 ∧ 0 < wln (ws i)) : ∀ r, r ≤ n → ∀ q, n ≤ q + r → q ≤ n → rdZ m ws wo n g r q ≤ 99 * (n - q) + 1
  | 0, _, q, h1, h2 => by
    unfold rdZ
    split <;> omega
  | r + 1, hr, q, h1, h2 => by
    have ih := rdZ_le (n := n) (g := g) h r (by omega)
    unfold rdZ
    split
    · rename_i e
      exact rdB_le h (fun p hp hp2 => ih p (by omega) hp2) rfl
    · exact ih q (by omega) h2
/-- the class's answer whether a word stands -/
theorem kX1_stands {T : zT} {I : zI} {L : zL} {R : zR} {κ ρ i w n a : Nat} {f : Nat → Nat} {r : Bool} {rv : Int32} {K : Int32 → Prop} (h1 : (T κ).1 = 4) (h2 : T (R κ 0) = (100, 12)) (hi : i < 12) (hw : I (R κ 0) i = nI w) (hw2 : w < 2 ^ 31)
    (g1 : (T ρ).1 = 11) (g2 : T (R ρ 0) = (100, 12)) (g3 : I ρ 1 = nI n) (hn : n ≤ 12) (hf : ∀ k, k < n → I (R ρ 0) k = nI (f k) ∧ f k ≤ 26) (hr : rv = if r then 1 else 0) (ha : a ≤ n) (hK : K (if stN w n (gMet f n r) a then 1 else 0)) :
    zMet mX1_stands 3 0 [.ref κ, .int (nI i), .ref ρ, .int rv, .int (nI a)] T I L R (zqI_ T I L R K) := by
  have hl := wln_le w
  refine sX1_stands (gX1_stands_0 ⟨h1, kX4_length h1 h2 hi hw hw2 ⟨g1, fun c => ?_, fun c => ?_⟩⟩)
  · simp (disch := omega) only [g3, fa_lit, nI_add, zz_mul, zz_sub, nI_leI, nI_ltI, nI_eq, nI_clamp, zz_in, zz_m1, zz_m1e, zz_le_m1, zz_m1_le, zz_lt_m1, zz_m1_lt, zz_B0, zz_B1, zz_shr, zz_shl, zz_and31, Nat.mod_eq_of_lt, not_true_eq_false, not_false_eq_true, Nat.reduceAdd, Nat.reduceMul, Nat.reduceSub] at c
    have main : ∀ j k, k + j = wln w → (∀ q, q < k → ltr w q = gMet f n r (a + q)) → ∀ x, x = nI k → zAW mX1_stands 3 0 24 [(0, .ref κ), (1, .int (nI i)), (2, .ref ρ), (3, .int rv), (4, .int (nI a)), (5, .int (nI (wln w))), (6, .int x)] [] T I L R (zqI_ T I L R K) := by
      intro j
      induction j with
      | zero =>
        rintro k hk hq x rfl
        obtain rfl : k = wln w := by omega
        refine gX1_stands_24 ⟨fun _ => zqI__i ?_, fun c2 => ?_⟩
        · rw [show stN w n (gMet f n r) a = true from decide_eq_true ⟨c, hq⟩] at hK
          exact hK
        · exfalso
          (try simp (disch := omega) only [fa_lit, nI_add, zz_mul, zz_sub, nI_leI, nI_ltI, nI_eq, nI_clamp, zz_in, zz_m1, zz_m1e, zz_le_m1, zz_m1_le, zz_lt_m1, zz_m1_lt, zz_B0, zz_B1, zz_shr, zz_shl, zz_and31, Nat.mod_eq_of_lt, not_true_eq_false, not_false_eq_true, Nat.reduceAdd, Nat.reduceMul, Nat.reduceSub] at c2) <;> (try omega)
      | succ j ih =>
        rintro k hk hq x rfl
        have hlt := ltr_lt w k
        have fin : ∀ p, p < n → f p = gMet f n r (a + k) → ∀ s, s = nI p → zAW mX1_stands 3 0 66 [(0, .ref κ), (1, .int (nI i)), (2, .ref ρ), (3, .int rv), (4, .int (nI a)), (5, .int (nI (wln w))), (6, .int (nI k))] [.int s, .ref (R ρ 0), .int (nI (ltr w k))] T I L R (zqI_ T I L R K) := by
          rintro p hp e s rfl
          have hfp := hf p hp
          refine gX1_stands_66 ⟨by rw [g2], by rw [g2]; simp (disch := omega) only [fa_lit, nI_add, zz_mul, zz_sub, nI_leI, nI_ltI, nI_eq, nI_clamp, zz_in, zz_m1, zz_m1e, zz_le_m1, zz_m1_le, zz_lt_m1, zz_m1_lt, zz_B0, zz_B1, zz_shr, zz_shl, zz_and31, Nat.mod_eq_of_lt, not_true_eq_false, not_false_eq_true, Nat.reduceAdd, Nat.reduceMul, Nat.reduceSub]; omega, fun c2 => ?_, fun c2 => zqI__i ?_⟩
          · rw [nI_clamp (by omega), hfp.1] at c2
            simp (disch := omega) only [fa_lit, nI_add, zz_mul, zz_sub, nI_leI, nI_ltI, nI_eq, nI_clamp, zz_in, zz_m1, zz_m1e, zz_le_m1, zz_m1_le, zz_lt_m1, zz_m1_lt, zz_B0, zz_B1, zz_shr, zz_shl, zz_and31, Nat.mod_eq_of_lt, not_true_eq_false, not_false_eq_true, Nat.reduceAdd, Nat.reduceMul, Nat.reduceSub] at c2
            refine ih (k + 1) (by omega) ?_ _ (nI_1 k)
            intro q hq2
            by_cases e2 : q = k
            · rw [e2, c2, e]
            · exact hq q (by omega)
          · rw [nI_clamp (by omega), hfp.1] at c2
            simp (disch := omega) only [fa_lit, nI_add, zz_mul, zz_sub, nI_leI, nI_ltI, nI_eq, nI_clamp, zz_in, zz_m1, zz_m1e, zz_le_m1, zz_m1_le, zz_lt_m1, zz_m1_lt, zz_B0, zz_B1, zz_shr, zz_shl, zz_and31, Nat.mod_eq_of_lt, not_true_eq_false, not_false_eq_true, Nat.reduceAdd, Nat.reduceMul, Nat.reduceSub] at c2
            rw [show stN w n (gMet f n r) a = false from decide_eq_false (fun q => c2 (by rw [q.2 k (by omega), e]))] at hK
            exact hK
        refine gX1_stands_24 ⟨fun c2 => ?_, fun _ => ⟨h1, kX4_letter h1 h2 hi hw hw2 (by omega) ⟨g1, fun c2 => ?_, fun c2 => ?_⟩⟩⟩
        · exfalso
          (try simp (disch := omega) only [fa_lit, nI_add, zz_mul, zz_sub, nI_leI, nI_ltI, nI_eq, nI_clamp, zz_in, zz_m1, zz_m1e, zz_le_m1, zz_m1_le, zz_lt_m1, zz_m1_lt, zz_B0, zz_B1, zz_shr, zz_shl, zz_and31, Nat.mod_eq_of_lt, not_true_eq_false, not_false_eq_true, Nat.reduceAdd, Nat.reduceMul, Nat.reduceSub] at c2) <;> (try omega)
        · have er : r = false := by
            cases r
            · rfl
            · rw [hr] at c2
              exact absurd c2 (by decide)
          exact fin (a + k) (by omega) (by rw [er]; rfl) _ (nI_add a k)
        · have er : r = true := by
            cases r
            · rw [hr] at c2
              exact absurd rfl c2
            · rfl
          refine fin (n - 1 - (a + k)) (by omega) (by rw [er]; rfl) _ ?_
          simp (disch := omega) only [g3, fa_lit, nI_add, zz_mul, zz_sub, nI_leI, nI_ltI, nI_eq, nI_clamp, zz_in, zz_m1, zz_m1e, zz_le_m1, zz_m1_le, zz_lt_m1, zz_m1_lt, zz_B0, zz_B1, zz_shr, zz_shl, zz_and31, Nat.mod_eq_of_lt, not_true_eq_false, not_false_eq_true, Nat.reduceAdd, Nat.reduceMul, Nat.reduceSub]
          rw [show n - 1 - a - k = n - 1 - (a + k) by omega]
    exact main (wln w) 0 (by omega) (fun q h => absurd h (Nat.not_lt_zero q)) _ rfl
  · simp (disch := omega) only [g3, fa_lit, nI_add, zz_mul, zz_sub, nI_leI, nI_ltI, nI_eq, nI_clamp, zz_in, zz_m1, zz_m1e, zz_le_m1, zz_m1_le, zz_lt_m1, zz_m1_lt, zz_B0, zz_B1, zz_shr, zz_shl, zz_and31, Nat.mod_eq_of_lt, not_true_eq_false, not_false_eq_true, Nat.reduceAdd, Nat.reduceMul, Nat.reduceSub] at c
    rw [show stN w n (gMet f n r) a = false from decide_eq_false (fun q => c q.1)] at hK
    exact zqI__i hK
/-- .. and its table -/
theorem kX1_read2 {T : zT} {I : zI} {L : zL} {R : zR} {κ ρ m n : Nat} {f ws wo : Nat → Nat} {r : Bool} {rv : Int32} {K : zI → zL → Prop} (hx : zXok T R) (h1 : (T κ).1 = 4) (h2 : T (R κ 0) = (100, 12)) (h3 : T (R κ 1) = (100, 12)) (h4 : I κ 2 = nI m) (hm : m ≤ 12) (hw : ∀ i, i < m → I (R κ 0) i = nI (ws i) ∧ wdok (ws i) ∧ I (R κ 1) i = nI (wo i) ∧ wo i ≤ 99)
    (g1 : (T ρ).1 = 11) (g2 : T (R ρ 0) = (100, 12)) (g3 : I ρ 1 = nI n) (hn : n ≤ 12) (hf : ∀ k, k < n → I (R ρ 0) k = nI (f k) ∧ f k ≤ 26) (hr : rv = if r then 1 else 0) (d1 : κ ≠ 1017) (d2 : R κ 0 ≠ 1017) (d3 : R κ 1 ≠ 1017) (d4 : ρ ≠ 1017) (d5 : R ρ 0 ≠ 1017)
    (hK : ∀ I' L', zE [1017] I I' → zE [1016] L L' → (∀ q, q ≤ n → L' 1016 q = lN (rdY m ws n (gMet f n r) n q) ∧ I' 1017 q = nI (rdZ m ws wo n (gMet f n r) n q) - 1) → K I' L') :
    zMet mX1_read_2 4 0 [.ref 1000, .ref κ, .ref ρ, .int rv] T I L R (zqV_IL T R K) := by
  have hwb : ∀ i, i < m → wo i ≤ 99 ∧ 0 < wln (ws i) := fun i hi => ⟨(hw i hi).2.2.2, (hw i hi).2.1.1⟩
  have inner : ∀ j i t, i + j = m → t + 1 ≤ n → ∀ I' L', zE [1017] I I' → zE [1016] L L' → (∀ q, n ≤ q + t → q ≤ n → L' 1016 q = lN (rdY m ws n (gMet f n r) t q) ∧ I' 1017 q = nI (rdZ m ws wo n (gMet f n r) t q) - 1) →
      L' 1016 (n - (t + 1)) = lN (rdW ws n (gMet f n r) (rdY m ws n (gMet f n r) t) (n - (t + 1)) i) → I' 1017 (n - (t + 1)) = nI (rdB ws wo n (gMet f n r) (rdZ m ws wo n (gMet f n r) t) (n - (t + 1)) i) - 1 →
      (∀ I' L', zE [1017] I I' → zE [1016] L L' → (∀ q, n ≤ q + (t + 1) → q ≤ n → L' 1016 q = lN (rdY m ws n (gMet f n r) (t + 1) q) ∧ I' 1017 q = nI (rdZ m ws wo n (gMet f n r) (t + 1) q) - 1) → ∀ y, y = nI (n - (t + 1)) - 1 → zAW mX1_read_2 4 0 28 [(0, .ref 1000), (1, .ref κ), (2, .ref ρ), (3, .int rv), (4, .int y)] [] T I' L' R (zqV_IL T R K)) →
      ∀ x, x = nI i → zAW mX1_read_2 4 0 52 [(0, .ref 1000), (1, .ref κ), (2, .ref ρ), (3, .int rv), (4, .int (nI (n - (t + 1)))), (5, .int x)] [] T I' L' R (zqV_IL T R K) := by
    intro j
    induction j with
    | zero =>
      rintro i t hi ht I' L' hE hF hold hA hB next x rfl
      obtain rfl : i = m := by omega
      refine gX1_read_2_52 hx ⟨h1, fun _ => next I' L' hE hF ?_ _ ?_, fun c => ?_⟩
      · intro q hq1 hq2
        unfold rdY rdZ
        by_cases e : q + (t + 1) = n
        · obtain rfl : q = n - (t + 1) := by omega
          rw [if_pos e, if_pos e]
          exact ⟨hA, hB⟩
        · rw [if_neg e, if_neg e]
          exact hold q (by omega) hq2
      · rw [Int32.sub_eq_add_neg]
      · exfalso
        rw [hE κ (by simp [d1]), h4] at c
        (try simp (disch := omega) only [fa_lit, nI_add, zz_mul, zz_sub, nI_leI, nI_ltI, nI_eq, nI_clamp, zz_in, zz_m1, zz_m1e, zz_le_m1, zz_m1_le, zz_lt_m1, zz_m1_lt, zz_B0, zz_B1, zz_shr, zz_shl, zz_and31, Nat.mod_eq_of_lt, not_true_eq_false, not_false_eq_true, Nat.reduceAdd, Nat.reduceMul, Nat.reduceSub] at c) <;> (try omega)
    | succ j ih =>
      rintro i t hi ht I' L' hE hF hold hA hB next x rfl
      have hwi := hw i (by omega)
      have e1 : I' κ = I κ := hE κ (by simp [d1])
      have e2 : I' (R κ 0) = I (R κ 0) := hE _ (by simp [d2])
      have e3 : I' (R κ 1) = I (R κ 1) := hE _ (by simp [d3])
      have e4 : I' ρ = I ρ := hE _ (by simp [d4])
      have e5 : I' (R ρ 0) = I (R ρ 0) := hE _ (by simp [d5])
      have hwl := wln_le (ws i)
      refine gX1_read_2_52 hx ⟨h1, fun c => ?_, fun _ => kX1_stands (w := ws i) (n := n) (a := n - (t + 1)) (f := f) (r := r) h1 h2 (by omega) (by rw [e2]; exact hwi.1) (by have := hwi.2.1.2.1; omega) g1 g2 (by rw [e4]; exact g3) hn (fun k hk => by rw [e5]; exact hf k hk) hr (by omega) ⟨fun c => ?_, fun c => ?_⟩⟩
      · exfalso
        rw [e1, h4] at c
        (try simp (disch := omega) only [fa_lit, nI_add, zz_mul, zz_sub, nI_leI, nI_ltI, nI_eq, nI_clamp, zz_in, zz_m1, zz_m1e, zz_le_m1, zz_m1_le, zz_lt_m1, zz_m1_lt, zz_B0, zz_B1, zz_shr, zz_shl, zz_and31, Nat.mod_eq_of_lt, not_true_eq_false, not_false_eq_true, Nat.reduceAdd, Nat.reduceMul, Nat.reduceSub] at c) <;> (try omega)
      · have es : stN (ws i) n (gMet f n r) (n - (t + 1)) = false := by
          cases h : stN (ws i) n (gMet f n r) (n - (t + 1))
          · rfl
          · rw [h] at c
            exact absurd c (by decide)
        refine ih (i + 1) t (by omega) ht I' L' hE hF hold ?_ ?_ next _ (nI_1 i)
        · rw [rdW, es]
          exact hA
        · rw [rdB, es]
          exact hB
      · have es : stN (ws i) n (gMet f n r) (n - (t + 1)) = true := by
          cases h : stN (ws i) n (gMet f n r) (n - (t + 1))
          · rw [h] at c
            exact absurd rfl c
          · rfl
        have hto := stN_len es
        have hpos := hwi.2.1.1
        have ht2 := hold (n - (t + 1) + wln (ws i)) (by omega) hto
        have hz := rdZ_le (g := gMet f n r) hwb t (by omega) (n - (t + 1) + wln (ws i)) (by omega) hto
        have hb := rdB_le (y := rdZ m ws wo n (gMet f n r) t) (g := gMet f n r) (m := i) (a := n - (t + 1)) (n := n) (ws := ws) (wo := wo) (fun q hq => hwb q (by omega)) (fun q hq1 hq2 => rdZ_le (g := gMet f n r) hwb t (by omega) q (by omega) hq2) rfl
        refine kX4_length h1 h2 (by omega) (by rw [e2]; exact hwi.1) (by have := hwi.2.1.2.1; omega) ⟨by simp (disch := omega) only [fa_lit, nI_add, zz_mul, zz_sub, nI_leI, nI_ltI, nI_eq, nI_clamp, zz_in, zz_m1, zz_m1e, zz_le_m1, zz_m1_le, zz_lt_m1, zz_m1_lt, zz_B0, zz_B1, zz_shr, zz_shl, zz_and31, Nat.mod_eq_of_lt, not_true_eq_false, not_false_eq_true, Nat.reduceAdd, Nat.reduceMul, Nat.reduceSub]; omega, by simp (disch := omega) only [fa_lit, nI_add, zz_mul, zz_sub, nI_leI, nI_ltI, nI_eq, nI_clamp, zz_in, zz_m1, zz_m1e, zz_le_m1, zz_m1_le, zz_lt_m1, zz_m1_lt, zz_B0, zz_B1, zz_shr, zz_shl, zz_and31, Nat.mod_eq_of_lt, not_true_eq_false, not_false_eq_true, Nat.reduceAdd, Nat.reduceMul, Nat.reduceSub]; omega, ?_⟩
        rw [nI_add, nI_clamp (by omega), nI_clamp (by omega), nI_clamp (by omega), ht2.1, ht2.2, hA, hB, lN_add]
        have hF2 : zE [1016] L (z2 L' 1016 (n - (t + 1)) (lN (rdW ws n (gMet f n r) (rdY m ws n (gMet f n r) t) (n - (t + 1)) i + rdY m ws n (gMet f n r) t (n - (t + 1) + wln (ws i))))) := zE_w2 hF (by simp)
        have hA2 : lN (rdW ws n (gMet f n r) (rdY m ws n (gMet f n r) t) (n - (t + 1)) i + rdY m ws n (gMet f n r) t (n - (t + 1) + wln (ws i))) = lN (rdW ws n (gMet f n r) (rdY m ws n (gMet f n r) t) (n - (t + 1)) (i + 1)) := by rw [rdW, es]; rfl
        refine ⟨fun c2 => ?_, fun c2 => ⟨by rw [h3], by rw [h3]; simp (disch := omega) only [fa_lit, nI_add, zz_mul, zz_sub, nI_leI, nI_ltI, nI_eq, nI_clamp, zz_in, zz_m1, zz_m1e, zz_le_m1, zz_m1_le, zz_lt_m1, zz_m1_lt, zz_B0, zz_B1, zz_shr, zz_shl, zz_and31, Nat.mod_eq_of_lt, not_true_eq_false, not_false_eq_true, Nat.reduceAdd, Nat.reduceMul, Nat.reduceSub]; omega, ?_⟩⟩
        · rw [nM_m1 (by omega)] at c2
          refine ih (i + 1) t (by omega) ht I' _ hE hF2 ?_ ?_ ?_ next _ (nI_1 i)
          · intro q hq1 hq2
            rw [z2_nk (by omega)]
            exact hold q hq1 hq2
          · rw [z2_s, hA2]
          · rw [rdB, es, c2]
            exact hB
        · rw [nM_m1 (by omega)] at c2
          rw [e3, hwi.2.2.1]
          refine ih (i + 1) t (by omega) ht _ _ (zE_w2 hE (by simp)) hF2 ?_ ?_ ?_ next _ (nI_1 i)
          · intro q hq1 hq2
            rw [z2_nk (by omega), z2_nk (by omega)]
            exact hold q hq1 hq2
          · rw [z2_s, hA2]
          · rw [z2_s, rdB, es, decide_eq_true c2]
            have e6 : nI (wo i) + (nI (rdZ m ws wo n (gMet f n r) t (n - (t + 1) + wln (ws i))) - 1) = nI (wo i + rdZ m ws wo n (gMet f n r) t (n - (t + 1) + wln (ws i))) - 1 := by
              rw [nM_dec (by omega), nM_dec (by omega), nI_add]
              congr 1
              omega
            rw [e6]
            have hwo := hwi.2.2.2
            simp only [Bool.and_self, if_true]
            rw [Nat.max_def]
            by_cases e7 : rdB ws wo n (gMet f n r) (rdZ m ws wo n (gMet f n r) t) (n - (t + 1)) i ≤ wo i + rdZ m ws wo n (gMet f n r) t (n - (t + 1) + wln (ws i))
            · rw [if_pos e7]
              split
              · rfl
              · rename_i e8
                rw [fa_lt, nM_toInt (by omega), nM_toInt (by omega)] at e8
                congr 2
                omega
            · rw [if_neg e7, if_neg]
              rw [fa_lt, nM_toInt (by omega), nM_toInt (by omega)]
              omega
  have outer : ∀ j t, t + j = n → ∀ I' L', zE [1017] I I' → zE [1016] L L' → (∀ q, n ≤ q + t → q ≤ n → L' 1016 q = lN (rdY m ws n (gMet f n r) t q) ∧ I' 1017 q = nI (rdZ m ws wo n (gMet f n r) t q) - 1) → ∀ y, y = nI (n - t) - 1 → zAW mX1_read_2 4 0 28 [(0, .ref 1000), (1, .ref κ), (2, .ref ρ), (3, .int rv), (4, .int y)] [] T I' L' R (zqV_IL T R K) := by
    intro j
    induction j with
    | zero =>
      rintro t ht I' L' hE hF hold y rfl
      obtain rfl : t = n := by omega
      refine gX1_read_2_28 hx ⟨fun _ => zqV_IL_i (hK I' L' hE hF (fun q hq => hold q (by omega) hq)), fun c => ?_⟩
      exfalso
      rw [nM_lt0 (by omega)] at c
      omega
    | succ j ih =>
      rintro t ht I' L' hE hF hold y rfl
      rw [nM_dec (by omega)]
      refine gX1_read_2_28 hx ⟨fun c => ?_, fun _ => ⟨by simp (disch := omega) only [fa_lit, nI_add, zz_mul, zz_sub, nI_leI, nI_ltI, nI_eq, nI_clamp, zz_in, zz_m1, zz_m1e, zz_le_m1, zz_m1_le, zz_lt_m1, zz_m1_lt, zz_B0, zz_B1, zz_shr, zz_shl, zz_and31, Nat.mod_eq_of_lt, not_true_eq_false, not_false_eq_true, Nat.reduceAdd, Nat.reduceMul, Nat.reduceSub]; omega, ?_⟩⟩
      · exfalso
        (try simp (disch := omega) only [fa_lit, nI_add, zz_mul, zz_sub, nI_leI, nI_ltI, nI_eq, nI_clamp, zz_in, zz_m1, zz_m1e, zz_le_m1, zz_m1_le, zz_lt_m1, zz_m1_lt, zz_B0, zz_B1, zz_shr, zz_shl, zz_and31, Nat.mod_eq_of_lt, not_true_eq_false, not_false_eq_true, Nat.reduceAdd, Nat.reduceMul, Nat.reduceSub] at c) <;> (try omega)
      · rw [nI_clamp (by omega), show n - t - 1 = n - (t + 1) by omega]
        refine inner m 0 t (by omega) (by omega) _ _ (zE_w2 hE (by simp)) (zE_w2 hF (by simp)) ?_ ?_ ?_ (fun I2 L2 a1 a2 a3 => ih (t + 1) (by omega) I2 L2 a1 a2 a3) _ rfl
        · intro q hq1 hq2
          rw [z2_nk (by omega), z2_nk (by omega)]
          exact hold q hq1 hq2
        · rw [z2_s]
          rfl
        · rw [z2_s]
          rfl
  refine sX1_read_2 (gX1_read_2_0 hx ⟨g1, by rw [g3]; simp (disch := omega) only [fa_lit, nI_add, zz_mul, zz_sub, nI_leI, nI_ltI, nI_eq, nI_clamp, zz_in, zz_m1, zz_m1e, zz_le_m1, zz_m1_le, zz_lt_m1, zz_m1_lt, zz_B0, zz_B1, zz_shr, zz_shl, zz_and31, Nat.mod_eq_of_lt, not_true_eq_false, not_false_eq_true, Nat.reduceAdd, Nat.reduceMul, Nat.reduceSub]; omega, ?_⟩)
  rw [g3, nI_clamp (by omega), z2_na d4, g3]
  refine outer n 0 (by omega) _ _ (zE_w2 zE_rf (by simp)) (zE_w2 zE_rf (by simp)) ?_ _ rfl
  intro q hq1 hq2
  obtain rfl : q = n := by omega
  rw [z2_s, z2_s, rdY, rdZ, if_pos rfl]
  exact ⟨rfl, by decide⟩
