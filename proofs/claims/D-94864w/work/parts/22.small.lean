/-! CONTRACTS: what writes stores and rows; kinds; the street's readers -/
def zE {α : Type} (ks : List Nat) (I I' : Nat → Nat → α) : Prop := ∀ e, e ∉ ks → I' e = I e
theorem zE_rf {α : Type} {ks : List Nat} {I : Nat → Nat → α} : zE ks I I := fun _ _ => rfl
theorem zE_w2 {α : Type} {ks : List Nat} {I I' : Nat → Nat → α} {a k : Nat} {v : α} (h : zE ks I I') (ha : a ∈ ks) : zE ks I (z2 I' a k v) := fun e he => by
  rw [z2_ro (fun q => he (by rw [q]; exact ha))]
  exact h e he
theorem zE_tr {α : Type} {ks : List Nat} {I I' I2 : Nat → Nat → α} (h : zE ks I I') (h2 : zE ks I' I2) : zE ks I I2 := fun e he => (h2 e he).trans (h e he)
theorem zE_sub {α : Type} {ks ks' : List Nat} {I I' : Nat → Nat → α} (h : zE ks I I') (hs : ∀ x ∈ ks, x ∈ ks') : zE ks' I I' := fun e he => h e (fun q => he (hs e q))
theorem kX4_become {T : zT} {I : zI} {L : zL} {R : zR} {κ o n : Nat} {K : zI → Prop} (h1 : (T κ).1 = 4) (h2 : T (R κ 0) = (100, 12)) (h3 : T (R κ 1) = (100, 12)) (g1 : (T o).1 = 4) (g2 : T (R o 0) = (100, 12)) (g3 : T (R o 1) = (100, 12)) (hm : I o 2 = nI n) (hn : n ≤ 12)
    (d1 : R o 0 ≠ R κ 0) (d2 : R o 0 ≠ R κ 1) (d3 : R o 1 ≠ R κ 0) (d4 : R o 1 ≠ R κ 1) (d5 : R κ 0 ≠ R κ 1)
    (hK : ∀ I', zE [κ, R κ 0, R κ 1] I I' → I' κ 2 = nI n → (∀ k, k < n → I' (R κ 0) k = I (R o 0) k) → (∀ k, k < n → I' (R κ 1) k = I (R o 1) k) → K I') :
    zMet mX4_become 1 0 [.ref κ, .ref o] T I L R (zqV_I T L R K) := by
  have e1 : κ ≠ R κ 0 := fun q => by rw [← q, Prod.ext_iff] at h2; rw [h1] at h2; exact absurd h2.1 (by decide)
  have e2 : κ ≠ R κ 1 := fun q => by rw [← q, Prod.ext_iff] at h3; rw [h1] at h3; exact absurd h3.1 (by decide)
  have e3 : R o 0 ≠ κ := fun q => by rw [q, Prod.ext_iff] at g2; rw [h1] at g2; exact absurd g2.1 (by decide)
  have e4 : R o 1 ≠ κ := fun q => by rw [q, Prod.ext_iff] at g3; rw [h1] at g3; exact absurd g3.1 (by decide)
  have main : ∀ j k I', k + j = n → zE [κ, R κ 0, R κ 1] I I' → I' κ 2 = nI n → (∀ q, q < k → I' (R κ 0) q = I (R o 0) q) → (∀ q, q < k → I' (R κ 1) q = I (R o 1) q) → ∀ y, y = nI k → zAW mX4_become 1 0 10 [(0, .ref κ), (1, .ref o), (2, .int y)] [] T I' L R (zqV_I T L R K) := by
    intro j
    induction j with
    | zero =>
      rintro k I' hk hE hm' ha hb y rfl
      obtain rfl : k = n := by omega
      refine gX4_become_10 ⟨h1, fun _ => zqV_I_i (hK I' hE hm' ha hb), fun c => ?_⟩
      exfalso
      (try simp (disch := omega) only [hm', fa_lit, nI_add, zz_mul, zz_sub, nI_leI, nI_ltI, nI_eq, nI_clamp, zz_in, zz_m1, zz_m1e, zz_le_m1, zz_m1_le, zz_lt_m1, zz_m1_lt, zz_B0, zz_B1, zz_shr, zz_shl, zz_and31, Nat.mod_eq_of_lt, not_true_eq_false, not_false_eq_true, Nat.reduceAdd, Nat.reduceMul, Nat.reduceSub] at c) <;> (try omega)
    | succ j ih =>
      rintro k I' hk hE hm' ha hb y rfl
      refine gX4_become_10 ⟨h1, fun c => ?_, fun _ => ⟨g1, by rw [g2], by rw [g2]; simp (disch := omega) only [fa_lit, nI_add, zz_mul, zz_sub, nI_leI, nI_ltI, nI_eq, nI_clamp, zz_in, zz_m1, zz_m1e, zz_le_m1, zz_m1_le, zz_lt_m1, zz_m1_lt, zz_B0, zz_B1, zz_shr, zz_shl, zz_and31, Nat.mod_eq_of_lt, not_true_eq_false, not_false_eq_true, Nat.reduceAdd, Nat.reduceMul, Nat.reduceSub]; omega, by rw [h2], by rw [h2]; simp (disch := omega) only [fa_lit, nI_add, zz_mul, zz_sub, nI_leI, nI_ltI, nI_eq, nI_clamp, zz_in, zz_m1, zz_m1e, zz_le_m1, zz_m1_le, zz_lt_m1, zz_m1_lt, zz_B0, zz_B1, zz_shr, zz_shl, zz_and31, Nat.mod_eq_of_lt, not_true_eq_false, not_false_eq_true, Nat.reduceAdd, Nat.reduceMul, Nat.reduceSub]; omega, by rw [g3], by rw [g3]; simp (disch := omega) only [fa_lit, nI_add, zz_mul, zz_sub, nI_leI, nI_ltI, nI_eq, nI_clamp, zz_in, zz_m1, zz_m1e, zz_le_m1, zz_m1_le, zz_lt_m1, zz_m1_lt, zz_B0, zz_B1, zz_shr, zz_shl, zz_and31, Nat.mod_eq_of_lt, not_true_eq_false, not_false_eq_true, Nat.reduceAdd, Nat.reduceMul, Nat.reduceSub]; omega, by rw [h3], by rw [h3]; simp (disch := omega) only [fa_lit, nI_add, zz_mul, zz_sub, nI_leI, nI_ltI, nI_eq, nI_clamp, zz_in, zz_m1, zz_m1e, zz_le_m1, zz_m1_le, zz_lt_m1, zz_m1_lt, zz_B0, zz_B1, zz_shr, zz_shl, zz_and31, Nat.mod_eq_of_lt, not_true_eq_false, not_false_eq_true, Nat.reduceAdd, Nat.reduceMul, Nat.reduceSub]; omega, ?_⟩⟩
      · exfalso
        (try simp (disch := omega) only [hm', fa_lit, nI_add, zz_mul, zz_sub, nI_leI, nI_ltI, nI_eq, nI_clamp, zz_in, zz_m1, zz_m1e, zz_le_m1, zz_m1_le, zz_lt_m1, zz_m1_lt, zz_B0, zz_B1, zz_shr, zz_shl, zz_and31, Nat.mod_eq_of_lt, not_true_eq_false, not_false_eq_true, Nat.reduceAdd, Nat.reduceMul, Nat.reduceSub] at c) <;> (try omega)
      · rw [nI_clamp (by omega)]
        have r0 : I' (R o 0) = I (R o 0) := hE _ (by simp [e3, d1, d2])
        have r1 : I' (R o 1) = I (R o 1) := hE _ (by simp [e4, d3, d4])
        refine ih (k + 1) _ (by omega) (zE_w2 (zE_w2 hE (by simp)) (by simp)) ?_ ?_ ?_ _ (nI_1 k)
        · rw [z2_na e2, z2_na e1]
          exact hm'
        · intro q hq
          rw [z2_na d5]
          by_cases e : q = k
          · rw [e, z2_s, r0]
          · rw [z2_nk e]
            exact ha q (by omega)
        · intro q hq
          by_cases e : q = k
          · rw [e, z2_s, z2_na d3, r1]
          · rw [z2_nk e, z2_na (Ne.symm d5)]
            exact hb q (by omega)
  refine sX4_become (gX4_become_0 ⟨g1, h1, main n 0 _ (by omega) (zE_w2 zE_rf (by simp)) ?_ (fun q h => absurd h (Nat.not_lt_zero q)) (fun q h => absurd h (Nat.not_lt_zero q)) _ rfl⟩)
  rw [z2_s, hm]
theorem kX4_add {T : zT} {I : zI} {L : zL} {R : zR} {κ n : Nat} {x y : Int32} {K : zI → Prop} (h1 : (T κ).1 = 4) (h2 : T (R κ 0) = (100, 12)) (h3 : T (R κ 1) = (100, 12)) (hm : I κ 2 = nI n) (hn : n < 12) (d5 : R κ 0 ≠ R κ 1)
    (hK : ∀ I', zE [κ, R κ 0, R κ 1] I I' → I' κ 2 = nI (n + 1) → (∀ k, k < n → I' (R κ 0) k = I (R κ 0) k ∧ I' (R κ 1) k = I (R κ 1) k) → I' (R κ 0) n = x → I' (R κ 1) n = y → K I') :
    zMet mX4_add 1 0 [.ref κ, .int x, .int y] T I L R (zqV_I T L R K) := by
  have e1 : κ ≠ R κ 0 := fun q => by rw [← q, Prod.ext_iff] at h2; rw [h1] at h2; exact absurd h2.1 (by decide)
  have e2 : κ ≠ R κ 1 := fun q => by rw [← q, Prod.ext_iff] at h3; rw [h1] at h3; exact absurd h3.1 (by decide)
  refine sX4_add (gX4_add_0 ⟨h1, by rw [h2], by rw [h2, hm]; simp (disch := omega) only [fa_lit, nI_add, zz_mul, zz_sub, nI_leI, nI_ltI, nI_eq, nI_clamp, zz_in, zz_m1, zz_m1e, zz_le_m1, zz_m1_le, zz_lt_m1, zz_m1_lt, zz_B0, zz_B1, zz_shr, zz_shl, zz_and31, Nat.mod_eq_of_lt, not_true_eq_false, not_false_eq_true, Nat.reduceAdd, Nat.reduceMul, Nat.reduceSub]; omega, by rw [h3], by rw [h3, z2_na e1, hm]; simp (disch := omega) only [fa_lit, nI_add, zz_mul, zz_sub, nI_leI, nI_ltI, nI_eq, nI_clamp, zz_in, zz_m1, zz_m1e, zz_le_m1, zz_m1_le, zz_lt_m1, zz_m1_lt, zz_B0, zz_B1, zz_shr, zz_shl, zz_and31, Nat.mod_eq_of_lt, not_true_eq_false, not_false_eq_true, Nat.reduceAdd, Nat.reduceMul, Nat.reduceSub]; omega, zqV_I_i ?_⟩)
  rw [z2_na e2, z2_na e1, hm, nI_clamp (by omega), nI_1]
  refine hK _ (zE_w2 (zE_w2 (zE_w2 zE_rf (by simp)) (by simp)) (by simp)) z2_s ?_ ?_ ?_
  · intro k hk
    rw [z2_na (Ne.symm e1), z2_na d5, z2_nk (by omega), z2_na (Ne.symm e2), z2_nk (by omega), z2_na (Ne.symm d5)]
    exact ⟨rfl, rfl⟩
  · rw [z2_na (Ne.symm e1), z2_na d5, z2_s]
  · rw [z2_na (Ne.symm e2), z2_s]
theorem kX11_become {T : zT} {I : zI} {L : zL} {R : zR} {κ o : Nat} {K : zI → Prop} (h1 : (T κ).1 = 11) (h2 : T (R κ 0) = (100, 12)) (g1 : (T o).1 = 11) (g2 : T (R o 0) = (100, 12)) (d1 : R o 0 ≠ R κ 0)
    (hK : ∀ I', zE [κ, R κ 0] I I' → I' κ 1 = I o 1 → (∀ k, k < 12 → I' (R κ 0) k = I (R o 0) k) → K I') :
    zMet mX11_become 1 0 [.ref κ, .ref o] T I L R (zqV_I T L R K) := by
  have e1 : κ ≠ R κ 0 := fun q => by rw [← q, Prod.ext_iff] at h2; rw [h1] at h2; exact absurd h2.1 (by decide)
  have e3 : R o 0 ≠ κ := fun q => by rw [q, Prod.ext_iff] at g2; rw [h1] at g2; exact absurd g2.1 (by decide)
  have main : ∀ j k I', k + j = 12 → zE [κ, R κ 0] I I' → I' κ 1 = I o 1 → (∀ q, q < k → I' (R κ 0) q = I (R o 0) q) → ∀ y, y = nI k → zAW mX11_become 1 0 10 [(0, .ref κ), (1, .ref o), (2, .int y)] [] T I' L R (zqV_I T L R K) := by
    intro j
    induction j with
    | zero =>
      rintro k I' hk hE hm' ha y rfl
      obtain rfl : k = 12 := by omega
      refine gX11_become_10 ⟨fun _ => zqV_I_i (hK I' hE hm' ha), fun c => ?_⟩
      exfalso
      (try simp (disch := omega) only [fa_lit, nI_add, zz_mul, zz_sub, nI_leI, nI_ltI, nI_eq, nI_clamp, zz_in, zz_m1, zz_m1e, zz_le_m1, zz_m1_le, zz_lt_m1, zz_m1_lt, zz_B0, zz_B1, zz_shr, zz_shl, zz_and31, Nat.mod_eq_of_lt, not_true_eq_false, not_false_eq_true, Nat.reduceAdd, Nat.reduceMul, Nat.reduceSub] at c) <;> (try omega)
    | succ j ih =>
      rintro k I' hk hE hm' ha y rfl
      refine gX11_become_10 ⟨fun c => ?_, fun _ => ⟨h1, g1, by rw [g2], by rw [g2]; simp (disch := omega) only [fa_lit, nI_add, zz_mul, zz_sub, nI_leI, nI_ltI, nI_eq, nI_clamp, zz_in, zz_m1, zz_m1e, zz_le_m1, zz_m1_le, zz_lt_m1, zz_m1_lt, zz_B0, zz_B1, zz_shr, zz_shl, zz_and31, Nat.mod_eq_of_lt, not_true_eq_false, not_false_eq_true, Nat.reduceAdd, Nat.reduceMul, Nat.reduceSub]; omega, by rw [h2], by rw [h2]; simp (disch := omega) only [fa_lit, nI_add, zz_mul, zz_sub, nI_leI, nI_ltI, nI_eq, nI_clamp, zz_in, zz_m1, zz_m1e, zz_le_m1, zz_m1_le, zz_lt_m1, zz_m1_lt, zz_B0, zz_B1, zz_shr, zz_shl, zz_and31, Nat.mod_eq_of_lt, not_true_eq_false, not_false_eq_true, Nat.reduceAdd, Nat.reduceMul, Nat.reduceSub]; omega, ?_⟩⟩
      · exfalso
        (try simp (disch := omega) only [fa_lit, nI_add, zz_mul, zz_sub, nI_leI, nI_ltI, nI_eq, nI_clamp, zz_in, zz_m1, zz_m1e, zz_le_m1, zz_m1_le, zz_lt_m1, zz_m1_lt, zz_B0, zz_B1, zz_shr, zz_shl, zz_and31, Nat.mod_eq_of_lt, not_true_eq_false, not_false_eq_true, Nat.reduceAdd, Nat.reduceMul, Nat.reduceSub] at c) <;> (try omega)
      · rw [nI_clamp (by omega)]
        have r0 : I' (R o 0) = I (R o 0) := hE _ (by simp [e3, d1])
        refine ih (k + 1) _ (by omega) (zE_w2 hE (by simp)) ?_ ?_ _ (nI_1 k)
        · rw [z2_na e1]
          exact hm'
        · intro q hq
          by_cases e : q = k
          · rw [e, z2_s, r0]
          · rw [z2_nk e]
            exact ha q (by omega)
  exact sX11_become (gX11_become_0 ⟨g1, h1, main 12 0 _ rfl (zE_w2 zE_rf (by simp)) z2_s (fun q h => absurd h (Nat.not_lt_zero q)) _ rfl⟩)
/-- the letters of a row as one number -/
def cdN (f : Nat → Nat) : Nat → Nat
  | 0 => 0
  | n + 1 => cdN f n * 32 + f n
theorem cdN_lt {f : Nat → Nat} : ∀ {n : Nat}, (∀ k, k < n → f k < 32) → cdN f n < 2 ^ (5 * n)
  | 0, _ => by simp [cdN]
  | n + 1, h => by
    have h1 := cdN_lt (n := n) (fun k hk => h k (by omega))
    have h2 := h n (by omega)
    rw [show 5 * (n + 1) = 5 * n + 5 by omega, Nat.pow_add]
    unfold cdN
    omega
theorem zz_shl5 {n b : Nat} (hn : n < 2 ^ 58) (hb : b < 32) : (lN n <<< ((5 : Int32).toInt64 &&& 63)) ||| (nI b).toInt64 = lN (n * 32 + b) := by
  have h1 : lN n <<< ((5 : Int32).toInt64 &&& 63) = lN (n * 2 ^ 5) := wb_shl n (by decide)
  rw [h1, nI_l (by omega), wb_or (by omega) (by omega), Nat.mul_comm n, ← Nat.two_pow_add_eq_or_of_lt (by omega)]
theorem cdN_step {f : Nat → Nat} {k : Nat} (hk : k < 12) (hf : ∀ q, q ≤ k → f q < 32) : (lN (cdN f k) <<< ((5 : Int32).toInt64 &&& 63)) ||| (nI (f k)).toInt64 = lN (cdN f (k + 1)) := by
  have h1 := cdN_lt (f := f) (n := k) (fun q h => hf q (by omega))
  have h2 : 2 ^ (5 * k) ≤ 2 ^ 55 := Nat.pow_le_pow_right (by decide) (by omega)
  exact zz_shl5 (Nat.lt_of_lt_of_le h1 (Nat.le_trans h2 (by decide))) (hf k (Nat.le_refl k))
theorem kX11_code {T : zT} {I : zI} {L : zL} {R : zR} {κ n : Nat} {f : Nat → Nat} {K : Int64 → Prop} (h1 : (T κ).1 = 11) (h2 : T (R κ 0) = (100, 12)) (h3 : I κ 1 = nI n) (hn : n ≤ 12) (hw : ∀ k, k < n → I (R κ 0) k = nI (f k) ∧ f k ≤ 26) (hK : K (lN (cdN f n))) :
    zMet mX11_code 1 0 [.ref κ] T I L R (zqJ_ T I L R K) := by
  refine sX11_code (gX11_code_0 ?_)
  have main : ∀ j k, k + j = n → ∀ x y, x = lN (cdN f k) → y = nI k → zAW mX11_code 1 0 4 [(0, .ref κ), (1, .long x), (3, .int y)] [] T I L R (zqJ_ T I L R K) := by
    intro j
    induction j with
    | zero =>
      rintro k hk x y rfl rfl
      obtain rfl : k = n := by omega
      refine gX11_code_4 ⟨h1, fun _ => zqJ__i hK, fun c => ?_⟩
      exfalso
      (try simp (disch := omega) only [h3, fa_lit, nI_add, zz_mul, zz_sub, nI_leI, nI_ltI, nI_eq, nI_clamp, zz_in, zz_m1, zz_m1e, zz_le_m1, zz_m1_le, zz_lt_m1, zz_m1_lt, zz_B0, zz_B1, zz_shr, zz_shl, zz_and31, Nat.mod_eq_of_lt, not_true_eq_false, not_false_eq_true, Nat.reduceAdd, Nat.reduceMul, Nat.reduceSub] at c) <;> (try omega)
    | succ j ih =>
      rintro k hk x y rfl rfl
      refine gX11_code_4 ⟨h1, fun c => ?_, fun _ => ⟨by rw [h2], by rw [h2]; simp (disch := omega) only [fa_lit, nI_add, zz_mul, zz_sub, nI_leI, nI_ltI, nI_eq, nI_clamp, zz_in, zz_m1, zz_m1e, zz_le_m1, zz_m1_le, zz_lt_m1, zz_m1_lt, zz_B0, zz_B1, zz_shr, zz_shl, zz_and31, Nat.mod_eq_of_lt, not_true_eq_false, not_false_eq_true, Nat.reduceAdd, Nat.reduceMul, Nat.reduceSub]; omega, ih (k + 1) (by omega) _ _ ?_ (nI_1 k)⟩⟩
      · exfalso
        (try simp (disch := omega) only [h3, fa_lit, nI_add, zz_mul, zz_sub, nI_leI, nI_ltI, nI_eq, nI_clamp, zz_in, zz_m1, zz_m1e, zz_le_m1, zz_m1_le, zz_lt_m1, zz_m1_lt, zz_B0, zz_B1, zz_shr, zz_shl, zz_and31, Nat.mod_eq_of_lt, not_true_eq_false, not_false_eq_true, Nat.reduceAdd, Nat.reduceMul, Nat.reduceSub] at c) <;> (try omega)
      · rw [nI_clamp (by omega), (hw k (by omega)).1]
        exact cdN_step (by omega) (fun q hq => by have := (hw q (by omega)).2; omega)
  exact main n 0 (by omega) _ _ rfl rfl
/-- whether a kind reads from the right -/
def isR (kd t : Nat) : Bool := if kd = 0 then t == 1 else if kd = 1 then t == 0 else kd == 3
theorem kX6_isFromRight {T : zT} {I : zI} {L : zL} {R : zR} {κ t : Nat} {K : Int32 → Prop} (ht : t < 2) (hK : K (if isR 0 t then 1 else 0)) : zMet mX6_isFromRight 1 0 [.ref κ, .int (nI t)] T I L R (zqI_ T I L R K) := by
  refine sX6_isFromRight (gX6_isFromRight_0 ⟨fun c => zqI__i ?_, fun c => zqI__i ?_⟩)
  · simp (disch := omega) only [fa_lit, nI_add, zz_mul, zz_sub, nI_leI, nI_ltI, nI_eq, nI_clamp, zz_in, zz_m1, zz_m1e, zz_le_m1, zz_m1_le, zz_lt_m1, zz_m1_lt, zz_B0, zz_B1, zz_shr, zz_shl, zz_and31, Nat.mod_eq_of_lt, not_true_eq_false, not_false_eq_true, Nat.reduceAdd, Nat.reduceMul, Nat.reduceSub] at c
    subst c
    exact hK
  · simp (disch := omega) only [fa_lit, nI_add, zz_mul, zz_sub, nI_leI, nI_ltI, nI_eq, nI_clamp, zz_in, zz_m1, zz_m1e, zz_le_m1, zz_m1_le, zz_lt_m1, zz_m1_lt, zz_B0, zz_B1, zz_shr, zz_shl, zz_and31, Nat.mod_eq_of_lt, not_true_eq_false, not_false_eq_true, Nat.reduceAdd, Nat.reduceMul, Nat.reduceSub] at c
    obtain rfl : t = 0 := by omega
    exact hK
theorem kX7_isFromRight {T : zT} {I : zI} {L : zL} {R : zR} {κ t : Nat} {K : Int32 → Prop} (ht : t < 2) (hK : K (if isR 1 t then 1 else 0)) : zMet mX7_isFromRight 1 0 [.ref κ, .int (nI t)] T I L R (zqI_ T I L R K) := by
  refine sX7_isFromRight (gX7_isFromRight_0 ⟨fun c => zqI__i ?_, fun c => zqI__i ?_⟩)
  · simp (disch := omega) only [fa_lit, nI_add, zz_mul, zz_sub, nI_leI, nI_ltI, nI_eq, nI_clamp, zz_in, zz_m1, zz_m1e, zz_le_m1, zz_m1_le, zz_lt_m1, zz_m1_lt, zz_B0, zz_B1, zz_shr, zz_shl, zz_and31, Nat.mod_eq_of_lt, not_true_eq_false, not_false_eq_true, Nat.reduceAdd, Nat.reduceMul, Nat.reduceSub] at c
    subst c
    exact hK
  · simp (disch := omega) only [fa_lit, nI_add, zz_mul, zz_sub, nI_leI, nI_ltI, nI_eq, nI_clamp, zz_in, zz_m1, zz_m1e, zz_le_m1, zz_m1_le, zz_lt_m1, zz_m1_lt, zz_B0, zz_B1, zz_shr, zz_shl, zz_and31, Nat.mod_eq_of_lt, not_true_eq_false, not_false_eq_true, Nat.reduceAdd, Nat.reduceMul, Nat.reduceSub] at c
    obtain rfl : t = 1 := by omega
    exact hK
theorem kX8_isFromRight {T : zT} {I : zI} {L : zL} {R : zR} {κ : Nat} {x : Int32} {K : Int32 → Prop} (hK : K 0) : zMet mX8_isFromRight 1 0 [.ref κ, .int x] T I L R (zqI_ T I L R K) := sX8_isFromRight (gX8_isFromRight_0 (zqI__i hK))
theorem kX9_isFromRight {T : zT} {I : zI} {L : zL} {R : zR} {κ : Nat} {x : Int32} {K : Int32 → Prop} (h1 : (T κ).1 = 9) (hK : K 1) : zMet mX9_isFromRight 2 0 [.ref κ, .int x] T I L R (zqI_ T I L R K) := sX9_isFromRight (gX9_isFromRight_0 ⟨h1, kX8_isFromRight ⟨fun _ => zqI__i hK, fun c => absurd rfl c⟩⟩)
theorem kX3_find {T : zT} {I : zI} {L : zL} {R : zR} {κ n : Nat} {f : Nat → Nat} {x : Int32} {K : Int32 → Prop} (h1 : (T κ).1 = 3) (h2 : (T (R κ 2)).1 = 5) (h3 : T (R (R κ 2) 1) = (109, 6)) (h4 : I (R κ 2) 2 = nI n) (hn : n ≤ 6) (hw : ∀ k, k < n → (T (R (R (R κ 2) 1) k)).1 = 15 ∧ I (R (R (R κ 2) 1) k) 0 = nI (f k)) (hK : K (fndI f n x)) :
    zMet mX3_find 4 0 [.ref κ, .int x] T I L R (zqI_ T I L R K) := by
  refine sX3_find (gX3_find_0 ?_)
  have main : ∀ j k, k + j = n → ∀ y, y = nI k → (∀ q, q < k → nI (f q) ≠ x) → zAW mX3_find 4 0 2 [(0, .ref κ), (1, .int x), (2, .int y)] [] T I L R (zqI_ T I L R K) := by
    intro j
    induction j with
    | zero =>
      rintro k hk y rfl hq
      obtain rfl : k = n := by omega
      refine gX3_find_2 ⟨h1, h2, kJ2_size h2 ⟨fun _ => zqI__i ?_, fun c => ?_⟩⟩
      · rw [fndI_no hq] at hK
        exact hK
      · exfalso
        (try simp (disch := omega) only [h4, fa_lit, nI_add, zz_mul, zz_sub, nI_leI, nI_ltI, nI_eq, nI_clamp, zz_in, zz_m1, zz_m1e, zz_le_m1, zz_m1_le, zz_lt_m1, zz_m1_lt, zz_B0, zz_B1, zz_shr, zz_shl, zz_and31, Nat.mod_eq_of_lt, not_true_eq_false, not_false_eq_true, Nat.reduceAdd, Nat.reduceMul, Nat.reduceSub] at c) <;> (try omega)
    | succ j ih =>
      rintro k hk y rfl hq
      have hf := hw k (by omega)
      refine gX3_find_2 ⟨h1, h2, kJ2_size h2 ⟨fun c => ?_, fun _ => kJ2_get h2 h3 h4 (by omega) hn (by omega) ⟨hf.1, fun c => zqI__i ?_, fun c => ?_⟩⟩⟩
      · exfalso
        (try simp (disch := omega) only [h4, fa_lit, nI_add, zz_mul, zz_sub, nI_leI, nI_ltI, nI_eq, nI_clamp, zz_in, zz_m1, zz_m1e, zz_le_m1, zz_m1_le, zz_lt_m1, zz_m1_lt, zz_B0, zz_B1, zz_shr, zz_shl, zz_and31, Nat.mod_eq_of_lt, not_true_eq_false, not_false_eq_true, Nat.reduceAdd, Nat.reduceMul, Nat.reduceSub] at c) <;> (try omega)
      · rw [hf.2] at c
        rw [fndI_at (by omega) c hq] at hK
        exact hK
      · rw [hf.2] at c
        refine ih (k + 1) (by omega) _ (nI_1 k) ?_
        intro q hq2
        by_cases e : q = k
        · rw [e]
          exact c
        · exact hq q (by omega)
  exact main n 0 (by omega) _ rfl (fun q h => absurd h (Nat.not_lt_zero q))
/-- the iron of the first n letters -/
def fIron (wg f : Nat → Nat) : Nat → Nat
  | 0 => 0
  | n + 1 => fIron wg f n + wg (f n)
theorem kX3_iron {T : zT} {I : zI} {L : zL} {R : zR} {κ o n : Nat} {f wg : Nat → Nat} {K : Int32 → Prop} (h1 : (T κ).1 = 3) (h2 : T (R κ 8) = (100, 27)) (hwg : ∀ k, k ≤ 26 → I (R κ 8) k = nI (wg k)) (g1 : (T o).1 = 11) (g2 : T (R o 0) = (100, 12)) (h3 : I o 1 = nI n) (hn : n ≤ 12) (hw : ∀ k, k < n → I (R o 0) k = nI (f k) ∧ f k ≤ 26) (hK : K (nI (fIron wg f n))) :
    zMet mX3_iron 1 0 [.ref κ, .ref o] T I L R (zqI_ T I L R K) := by
  refine sX3_iron (gX3_iron_0 ?_)
  have main : ∀ j k, k + j = n → ∀ x y, x = nI (fIron wg f k) → y = nI k → zAW mX3_iron 1 0 4 [(0, .ref κ), (1, .ref o), (2, .int x), (3, .int y)] [] T I L R (zqI_ T I L R K) := by
    intro j
    induction j with
    | zero =>
      rintro k hk x y rfl rfl
      obtain rfl : k = n := by omega
      refine gX3_iron_4 ⟨g1, fun _ => zqI__i hK, fun c => ?_⟩
      exfalso
      (try simp (disch := omega) only [h3, fa_lit, nI_add, zz_mul, zz_sub, nI_leI, nI_ltI, nI_eq, nI_clamp, zz_in, zz_m1, zz_m1e, zz_le_m1, zz_m1_le, zz_lt_m1, zz_m1_lt, zz_B0, zz_B1, zz_shr, zz_shl, zz_and31, Nat.mod_eq_of_lt, not_true_eq_false, not_false_eq_true, Nat.reduceAdd, Nat.reduceMul, Nat.reduceSub] at c) <;> (try omega)
    | succ j ih =>
      rintro k hk x y rfl rfl
      have hf := hw k (by omega)
      refine gX3_iron_4 ⟨g1, fun c => ?_, fun _ => ⟨h1, by rw [g2], by rw [g2]; simp (disch := omega) only [fa_lit, nI_add, zz_mul, zz_sub, nI_leI, nI_ltI, nI_eq, nI_clamp, zz_in, zz_m1, zz_m1e, zz_le_m1, zz_m1_le, zz_lt_m1, zz_m1_lt, zz_B0, zz_B1, zz_shr, zz_shl, zz_and31, Nat.mod_eq_of_lt, not_true_eq_false, not_false_eq_true, Nat.reduceAdd, Nat.reduceMul, Nat.reduceSub]; omega, by rw [h2], ?_, ?_⟩⟩
      · exfalso
        (try simp (disch := omega) only [h3, fa_lit, nI_add, zz_mul, zz_sub, nI_leI, nI_ltI, nI_eq, nI_clamp, zz_in, zz_m1, zz_m1e, zz_le_m1, zz_m1_le, zz_lt_m1, zz_m1_lt, zz_B0, zz_B1, zz_shr, zz_shl, zz_and31, Nat.mod_eq_of_lt, not_true_eq_false, not_false_eq_true, Nat.reduceAdd, Nat.reduceMul, Nat.reduceSub] at c) <;> (try omega)
      · rw [nI_clamp (by omega), hf.1, h2]
        simp (disch := omega) only [fa_lit, nI_add, zz_mul, zz_sub, nI_leI, nI_ltI, nI_eq, nI_clamp, zz_in, zz_m1, zz_m1e, zz_le_m1, zz_m1_le, zz_lt_m1, zz_m1_lt, zz_B0, zz_B1, zz_shr, zz_shl, zz_and31, Nat.mod_eq_of_lt, not_true_eq_false, not_false_eq_true, Nat.reduceAdd, Nat.reduceMul, Nat.reduceSub]
        omega
      · rw [nI_clamp (by omega), hf.1, nI_clamp (by omega), hwg _ hf.2]
        exact ih (k + 1) (by omega) _ _ (nI_add _ _) (nI_1 k)
  exact main n 0 (by omega) _ _ rfl rfl
/-- whether a day is a tongue's feast -/
def fCov (fd ft : Nat → Nat) (n : Nat) (t d : Int32) : Bool := decide (fa_first (fun k => decide (nI (fd k) = d) && decide (nI (ft k) = t)) n < n)
theorem kX3_isCovered {T : zT} {I : zI} {L : zL} {R : zR} {κ n : Nat} {fd ft : Nat → Nat} {t d : Int32} {K : Int32 → Prop} (h1 : (T κ).1 = 3) (h2 : T (R κ 9) = (100, 6)) (h3 : T (R κ 10) = (100, 6)) (h4 : I κ 13 = nI n) (hn : n ≤ 6) (hw : ∀ k, k < n → I (R κ 9) k = nI (fd k) ∧ I (R κ 10) k = nI (ft k)) (hK : K (if fCov fd ft n t d then 1 else 0)) :
    zMet mX3_isCovered 1 0 [.ref κ, .int t, .int d] T I L R (zqI_ T I L R K) := by
  refine sX3_isCovered (gX3_isCovered_0 ?_)
  have main : ∀ j k, k + j = n → ∀ y, y = nI k → (∀ q, q < k → (decide (nI (fd q) = d) && decide (nI (ft q) = t)) = false) → zAW mX3_isCovered 1 0 2 [(0, .ref κ), (1, .int t), (2, .int d), (3, .int y)] [] T I L R (zqI_ T I L R K) := by
    intro j
    induction j with
    | zero =>
      rintro k hk y rfl hq
      obtain rfl : k = n := by omega
      refine gX3_isCovered_2 ⟨h1, fun _ => zqI__i ?_, fun c => ?_⟩
      · have e : fCov fd ft k t d = false := by
          unfold fCov
          rw [fs_no hq]
          exact decide_eq_false (Nat.lt_irrefl k)
        rw [e] at hK
        exact hK
      · exfalso
        (try simp (disch := omega) only [h4, fa_lit, nI_add, zz_mul, zz_sub, nI_leI, nI_ltI, nI_eq, nI_clamp, zz_in, zz_m1, zz_m1e, zz_le_m1, zz_m1_le, zz_lt_m1, zz_m1_lt, zz_B0, zz_B1, zz_shr, zz_shl, zz_and31, Nat.mod_eq_of_lt, not_true_eq_false, not_false_eq_true, Nat.reduceAdd, Nat.reduceMul, Nat.reduceSub] at c) <;> (try omega)
    | succ j ih =>
      rintro k hk y rfl hq
      have hf := hw k (by omega)
      have next : (decide (nI (fd k) = d) && decide (nI (ft k) = t)) = false → zAW mX3_isCovered 1 0 2 [(0, .ref κ), (1, .int t), (2, .int d), (3, .int (nI k + 1))] [] T I L R (zqI_ T I L R K) := fun h9 => by
        refine ih (k + 1) (by omega) _ (nI_1 k) ?_
        intro q hq2
        by_cases e : q = k
        · rw [e]
          exact h9
        · exact hq q (by omega)
      refine gX3_isCovered_2 ⟨h1, fun c => ?_, fun _ => ⟨by rw [h2], by rw [h2]; simp (disch := omega) only [fa_lit, nI_add, zz_mul, zz_sub, nI_leI, nI_ltI, nI_eq, nI_clamp, zz_in, zz_m1, zz_m1e, zz_le_m1, zz_m1_le, zz_lt_m1, zz_m1_lt, zz_B0, zz_B1, zz_shr, zz_shl, zz_and31, Nat.mod_eq_of_lt, not_true_eq_false, not_false_eq_true, Nat.reduceAdd, Nat.reduceMul, Nat.reduceSub]; omega, fun c => ⟨by rw [h3], by rw [h3]; simp (disch := omega) only [fa_lit, nI_add, zz_mul, zz_sub, nI_leI, nI_ltI, nI_eq, nI_clamp, zz_in, zz_m1, zz_m1e, zz_le_m1, zz_m1_le, zz_lt_m1, zz_m1_lt, zz_B0, zz_B1, zz_shr, zz_shl, zz_and31, Nat.mod_eq_of_lt, not_true_eq_false, not_false_eq_true, Nat.reduceAdd, Nat.reduceMul, Nat.reduceSub]; omega, fun c2 => zqI__i ?_, fun c2 => ?_⟩, fun c => ?_⟩⟩
      · exfalso
        (try simp (disch := omega) only [h4, fa_lit, nI_add, zz_mul, zz_sub, nI_leI, nI_ltI, nI_eq, nI_clamp, zz_in, zz_m1, zz_m1e, zz_le_m1, zz_m1_le, zz_lt_m1, zz_m1_lt, zz_B0, zz_B1, zz_shr, zz_shl, zz_and31, Nat.mod_eq_of_lt, not_true_eq_false, not_false_eq_true, Nat.reduceAdd, Nat.reduceMul, Nat.reduceSub] at c) <;> (try omega)
      · rw [nI_clamp (by omega), hf.1] at c
        rw [nI_clamp (by omega), hf.2] at c2
        have e : fCov fd ft n t d = true := by
          unfold fCov
          rw [fs_at (k := k) (by omega) (by rw [decide_eq_true c, decide_eq_true c2]; rfl) hq]
          exact decide_eq_true (by omega)
        rw [e] at hK
        exact hK
      · rw [nI_clamp (by omega), hf.2] at c2
        exact next (by rw [decide_eq_false c2, Bool.and_false])
      · rw [nI_clamp (by omega), hf.1] at c
        exact next (by rw [decide_eq_false c, Bool.false_and])
  exact main n 0 (by omega) _ rfl (fun q h => absurd h (Nat.not_lt_zero q))
