/-! CONTRACTS: stores and rows -/
def ltr (w k : Nat) : Nat := w / 2 ^ (25 - 5 * k) % 32
def wln (w : Nat) : Nat := fa_first (fun k => decide (ltr w k = 0)) 6
theorem ltr_lt (w k : Nat) : ltr w k < 32 := Nat.mod_lt _ (by decide)
theorem wln_le (w : Nat) : wln w ≤ 6 := fa_first_le _ _
theorem kX4_letter {T : zT} {I : zI} {L : zL} {R : zR} {κ i w k : Nat} {K : Int32 → Prop} (h1 : (T κ).1 = 4) (h2 : T (R κ 0) = (100, 12)) (hi : i < 12) (hw : I (R κ 0) i = nI w) (hw2 : w < 2 ^ 31) (hk : k ≤ 5) (hK : K (nI (ltr w k))) :
    zMet mX4_letter 1 0 [.ref κ, .int (nI i), .int (nI k)] T I L R (zqI_ T I L R K) := by
  refine sX4_letter (gX4_letter_0 ⟨h1, by rw [h2], by rw [h2]; simp (disch := omega) only [hi, fa_lit, nI_add, zz_mul, zz_sub, nI_leI, nI_ltI, nI_eq, nI_clamp, zz_in, zz_m1, zz_m1e, zz_le_m1, zz_m1_le, zz_lt_m1, zz_m1_lt, zz_B0, zz_B1, zz_shr, zz_shl, zz_and31, Nat.mod_eq_of_lt, not_true_eq_false, not_false_eq_true, Nat.reduceAdd, Nat.reduceMul, Nat.reduceSub], zqI__i ?_⟩)
  have e : (((I (R κ 0) ((nI i).toNatClampNeg)) >>> (((5 : Int32) * ((5 : Int32) - nI k)) &&& 31)) &&& (31 : Int32)) = nI (ltr w k) := by
    simp (disch := omega) only [hw, fa_lit, nI_add, zz_mul, zz_sub, nI_leI, nI_ltI, nI_eq, nI_clamp, zz_in, zz_m1, zz_m1e, zz_le_m1, zz_m1_le, zz_lt_m1, zz_m1_lt, zz_B0, zz_B1, zz_shr, zz_shl, zz_and31, Nat.mod_eq_of_lt, not_true_eq_false, not_false_eq_true, Nat.reduceAdd, Nat.reduceMul, Nat.reduceSub]
    unfold ltr
    rw [show 5 * (5 - k) = 25 - 5 * k by omega]
  rw [e]
  exact hK
theorem kX4_length {T : zT} {I : zI} {L : zL} {R : zR} {κ i w : Nat} {K : Int32 → Prop} (h1 : (T κ).1 = 4) (h2 : T (R κ 0) = (100, 12)) (hi : i < 12) (hw : I (R κ 0) i = nI w) (hw2 : w < 2 ^ 31) (hK : K (nI (wln w))) :
    zMet mX4_length 2 0 [.ref κ, .int (nI i)] T I L R (zqI_ T I L R K) := by
  refine sX4_length (gX4_length_0 ?_)
  have main : ∀ j k, k + j = 6 → ∀ x, x = nI k → (∀ q, q < k → decide (ltr w q = 0) = false) → zAW mX4_length 2 0 2 [(0, .ref κ), (1, .int (nI i)), (2, .int x)] [] T I L R (zqI_ T I L R K) := by
    intro j
    induction j with
    | zero =>
      rintro k hk x rfl hq
      have hk6 : k = 6 := by omega
      subst hk6
      refine gX4_length_2 ⟨fun _ => zqI__i ?_, fun c => ?_⟩
      · rw [show wln w = 6 from fs_no hq] at hK
        exact hK
      · exfalso
        (try simp (disch := omega) only [fa_lit, nI_add, zz_mul, zz_sub, nI_leI, nI_ltI, nI_eq, nI_clamp, zz_in, zz_m1, zz_m1e, zz_le_m1, zz_m1_le, zz_lt_m1, zz_m1_lt, zz_B0, zz_B1, zz_shr, zz_shl, zz_and31, Nat.mod_eq_of_lt, not_true_eq_false, not_false_eq_true, Nat.reduceAdd, Nat.reduceMul, Nat.reduceSub] at c) <;> (try omega)
    | succ j ih =>
      rintro k hk x rfl hq
      refine gX4_length_2 ⟨fun c => ?_, fun _ => ⟨h1, kX4_letter h1 h2 hi hw hw2 (by omega) ⟨fun c => zqI__i ?_, fun c => ?_⟩⟩⟩
      · exfalso
        (try simp (disch := omega) only [fa_lit, nI_add, zz_mul, zz_sub, nI_leI, nI_ltI, nI_eq, nI_clamp, zz_in, zz_m1, zz_m1e, zz_le_m1, zz_m1_le, zz_lt_m1, zz_m1_lt, zz_B0, zz_B1, zz_shr, zz_shl, zz_and31, Nat.mod_eq_of_lt, not_true_eq_false, not_false_eq_true, Nat.reduceAdd, Nat.reduceMul, Nat.reduceSub] at c) <;> (try omega)
      · have hl := ltr_lt w k
        simp (disch := omega) only [fa_lit, nI_add, zz_mul, zz_sub, nI_leI, nI_ltI, nI_eq, nI_clamp, zz_in, zz_m1, zz_m1e, zz_le_m1, zz_m1_le, zz_lt_m1, zz_m1_lt, zz_B0, zz_B1, zz_shr, zz_shl, zz_and31, Nat.mod_eq_of_lt, not_true_eq_false, not_false_eq_true, Nat.reduceAdd, Nat.reduceMul, Nat.reduceSub] at c
        rw [show wln w = k from fs_at (by omega) (by rw [c]; rfl) hq] at hK
        exact hK
      · have hl := ltr_lt w k
        simp (disch := omega) only [fa_lit, nI_add, zz_mul, zz_sub, nI_leI, nI_ltI, nI_eq, nI_clamp, zz_in, zz_m1, zz_m1e, zz_le_m1, zz_m1_le, zz_lt_m1, zz_m1_lt, zz_B0, zz_B1, zz_shr, zz_shl, zz_and31, Nat.mod_eq_of_lt, not_true_eq_false, not_false_eq_true, Nat.reduceAdd, Nat.reduceMul, Nat.reduceSub] at c
        refine ih (k + 1) (by omega) _ (nI_1 k) ?_
        intro q hq2
        by_cases e : q = k
        · rw [e]
          exact decide_eq_false c
        · exact hq q (by omega)
  exact main 6 0 rfl _ rfl (fun q h => absurd h (Nat.not_lt_zero q))
def fndI (f : Nat → Nat) (n : Nat) (x : Int32) : Int32 := if fa_first (fun k => decide (nI (f k) = x)) n < n then nI (fa_first (fun k => decide (nI (f k) = x)) n) else -1
theorem fndI_at {f : Nat → Nat} {n k : Nat} {x : Int32} (hk : k < n) (hy : nI (f k) = x) (hn : ∀ i, i < k → nI (f i) ≠ x) : fndI f n x = nI k := by
  unfold fndI
  rw [fs_at hk (decide_eq_true hy) (fun i h => decide_eq_false (hn i h)), if_pos hk]
theorem fndI_no {f : Nat → Nat} {n : Nat} {x : Int32} (hn : ∀ i, i < n → nI (f i) ≠ x) : fndI f n x = -1 := by
  unfold fndI
  rw [fs_no (fun i h => decide_eq_false (hn i h)), if_neg (Nat.lt_irrefl n)]
theorem kX4_find {T : zT} {I : zI} {L : zL} {R : zR} {κ n : Nat} {f : Nat → Nat} {x : Int32} {K : Int32 → Prop} (h1 : (T κ).1 = 4) (h2 : T (R κ 0) = (100, 12)) (h3 : I κ 2 = nI n) (hn : n ≤ 12) (hw : ∀ k, k < n → I (R κ 0) k = nI (f k)) (hK : K (fndI f n x)) :
    zMet mX4_find 1 0 [.ref κ, .int x] T I L R (zqI_ T I L R K) := by
  refine sX4_find (gX4_find_0 ?_)
  have main : ∀ j k, k + j = n → ∀ y, y = nI k → (∀ q, q < k → nI (f q) ≠ x) → zAW mX4_find 1 0 2 [(0, .ref κ), (1, .int x), (2, .int y)] [] T I L R (zqI_ T I L R K) := by
    intro j
    induction j with
    | zero =>
      rintro k hk y rfl hq
      obtain rfl : k = n := by omega
      refine gX4_find_2 ⟨h1, fun _ => zqI__i ?_, fun c => ?_⟩
      · rw [fndI_no hq] at hK
        exact hK
      · exfalso
        (try simp (disch := omega) only [h3, fa_lit, nI_add, zz_mul, zz_sub, nI_leI, nI_ltI, nI_eq, nI_clamp, zz_in, zz_m1, zz_m1e, zz_le_m1, zz_m1_le, zz_lt_m1, zz_m1_lt, zz_B0, zz_B1, zz_shr, zz_shl, zz_and31, Nat.mod_eq_of_lt, not_true_eq_false, not_false_eq_true, Nat.reduceAdd, Nat.reduceMul, Nat.reduceSub] at c) <;> (try omega)
    | succ j ih =>
      rintro k hk y rfl hq
      refine gX4_find_2 ⟨h1, fun c => ?_, fun _ => ⟨by rw [h2], by rw [h2]; simp (disch := omega) only [fa_lit, nI_add, zz_mul, zz_sub, nI_leI, nI_ltI, nI_eq, nI_clamp, zz_in, zz_m1, zz_m1e, zz_le_m1, zz_m1_le, zz_lt_m1, zz_m1_lt, zz_B0, zz_B1, zz_shr, zz_shl, zz_and31, Nat.mod_eq_of_lt, not_true_eq_false, not_false_eq_true, Nat.reduceAdd, Nat.reduceMul, Nat.reduceSub]; omega, fun c => zqI__i ?_, fun c => ?_⟩⟩
      · exfalso
        (try simp (disch := omega) only [h3, fa_lit, nI_add, zz_mul, zz_sub, nI_leI, nI_ltI, nI_eq, nI_clamp, zz_in, zz_m1, zz_m1e, zz_le_m1, zz_m1_le, zz_lt_m1, zz_m1_lt, zz_B0, zz_B1, zz_shr, zz_shl, zz_and31, Nat.mod_eq_of_lt, not_true_eq_false, not_false_eq_true, Nat.reduceAdd, Nat.reduceMul, Nat.reduceSub] at c) <;> (try omega)
      · rw [nI_clamp (by omega), hw k (by omega)] at c
        rw [fndI_at (by omega) c hq] at hK
        exact hK
      · rw [nI_clamp (by omega), hw k (by omega)] at c
        refine ih (k + 1) (by omega) _ (nI_1 k) ?_
        intro q hq2
        by_cases e : q = k
        · rw [e]
          exact c
        · exact hq q (by omega)
  exact main n 0 (by omega) _ rfl (fun q h => absurd h (Nat.not_lt_zero q))
/-- how many of the first n are lost -/
def fLost (f : Nat → Nat) : Nat → Nat
  | 0 => 0
  | n + 1 => fLost f n + if f n = 0 then 1 else 0
theorem fLost_le (f : Nat → Nat) : ∀ n, fLost f n ≤ n
  | 0 => Nat.le_refl 0
  | n + 1 => by
    have := fLost_le f n
    unfold fLost
    split <;> omega
theorem kX11_lost {T : zT} {I : zI} {L : zL} {R : zR} {κ n : Nat} {f : Nat → Nat} {K : Int32 → Prop} (h1 : (T κ).1 = 11) (h2 : T (R κ 0) = (100, 12)) (h3 : I κ 1 = nI n) (hn : n ≤ 12) (hw : ∀ k, k < n → I (R κ 0) k = nI (f k) ∧ f k ≤ 26) (hK : K (nI (fLost f n))) :
    zMet mX11_lost 1 0 [.ref κ] T I L R (zqI_ T I L R K) := by
  refine sX11_lost (gX11_lost_0 ?_)
  have main : ∀ j k, k + j = n → ∀ x y, x = nI (fLost f k) → y = nI k → zAW mX11_lost 1 0 4 [(0, .ref κ), (1, .int x), (2, .int y)] [] T I L R (zqI_ T I L R K) := by
    intro j
    induction j with
    | zero =>
      rintro k hk x y rfl rfl
      obtain rfl : k = n := by omega
      refine gX11_lost_4 ⟨h1, fun _ => zqI__i hK, fun c => ?_⟩
      exfalso
      (try simp (disch := omega) only [h3, fa_lit, nI_add, zz_mul, zz_sub, nI_leI, nI_ltI, nI_eq, nI_clamp, zz_in, zz_m1, zz_m1e, zz_le_m1, zz_m1_le, zz_lt_m1, zz_m1_lt, zz_B0, zz_B1, zz_shr, zz_shl, zz_and31, Nat.mod_eq_of_lt, not_true_eq_false, not_false_eq_true, Nat.reduceAdd, Nat.reduceMul, Nat.reduceSub] at c) <;> (try omega)
    | succ j ih =>
      rintro k hk x y rfl rfl
      have hf := hw k (by omega)
      refine gX11_lost_4 ⟨h1, fun c => ?_, fun _ => ⟨by rw [h2], by rw [h2]; simp (disch := omega) only [fa_lit, nI_add, zz_mul, zz_sub, nI_leI, nI_ltI, nI_eq, nI_clamp, zz_in, zz_m1, zz_m1e, zz_le_m1, zz_m1_le, zz_lt_m1, zz_m1_lt, zz_B0, zz_B1, zz_shr, zz_shl, zz_and31, Nat.mod_eq_of_lt, not_true_eq_false, not_false_eq_true, Nat.reduceAdd, Nat.reduceMul, Nat.reduceSub]; omega, fun c => ?_, fun c => ?_⟩⟩
      · exfalso
        (try simp (disch := omega) only [h3, fa_lit, nI_add, zz_mul, zz_sub, nI_leI, nI_ltI, nI_eq, nI_clamp, zz_in, zz_m1, zz_m1e, zz_le_m1, zz_m1_le, zz_lt_m1, zz_m1_lt, zz_B0, zz_B1, zz_shr, zz_shl, zz_and31, Nat.mod_eq_of_lt, not_true_eq_false, not_false_eq_true, Nat.reduceAdd, Nat.reduceMul, Nat.reduceSub] at c) <;> (try omega)
      · rw [nI_clamp (by omega), hf.1] at c
        simp (disch := omega) only [fa_lit, nI_add, zz_mul, zz_sub, nI_leI, nI_ltI, nI_eq, nI_clamp, zz_in, zz_m1, zz_m1e, zz_le_m1, zz_m1_le, zz_lt_m1, zz_m1_lt, zz_B0, zz_B1, zz_shr, zz_shl, zz_and31, Nat.mod_eq_of_lt, not_true_eq_false, not_false_eq_true, Nat.reduceAdd, Nat.reduceMul, Nat.reduceSub] at c
        exact ih (k + 1) (by omega) _ _ (by rw [nI_1, fLost, if_pos c]) (nI_1 k)
      · rw [nI_clamp (by omega), hf.1] at c
        simp (disch := omega) only [fa_lit, nI_add, zz_mul, zz_sub, nI_leI, nI_ltI, nI_eq, nI_clamp, zz_in, zz_m1, zz_m1e, zz_le_m1, zz_m1_le, zz_lt_m1, zz_m1_lt, zz_B0, zz_B1, zz_shr, zz_shl, zz_and31, Nat.mod_eq_of_lt, not_true_eq_false, not_false_eq_true, Nat.reduceAdd, Nat.reduceMul, Nat.reduceSub] at c
        exact ih (k + 1) (by omega) _ _ (by rw [fLost, if_neg c]; exact nI_add _ 0) (nI_1 k)
  exact main n 0 (by omega) _ _ rfl rfl
