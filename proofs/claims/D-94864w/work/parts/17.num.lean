/-! NUMBERS: what the contracts say of ints as naturals -/
theorem zz_mul (a b : Nat) : nI a * nI b = nI (a * b) := (Int32.ofNat_mul a b).symm
theorem zz_sub {a b : Nat} (h : b ≤ a) : nI a - nI b = nI (a - b) := pk_sub h
theorem zz_in {a n : Nat} (ha : a < 2 ^ 31) : vp_in (nI a) n ↔ a < n := by
  rw [vp_in_iff, nI_toInt ha]
  omega
theorem zz_m1t : (-nI 1 : Int32).toInt = -1 := by decide
theorem zz_m1 {a : Nat} (ha : a < 2 ^ 31) : (nI a = -nI 1) = False := by
  refine eq_false fun h => ?_
  have := congrArg Int32.toInt h
  rw [nI_toInt ha, zz_m1t] at this
  omega
theorem zz_m1e {a : Nat} (ha : a < 2 ^ 31) : (-nI 1 = nI a) = False := eq_false fun h => (zz_m1 ha).mp h.symm
theorem zz_le_m1 {a : Nat} (ha : a < 2 ^ 31) : (nI a ≤ -nI 1) = False := eq_false fun h => by
  rw [fa_le, nI_toInt ha, zz_m1t] at h
  omega
theorem zz_m1_le {a : Nat} (ha : a < 2 ^ 31) : (-nI 1 ≤ nI a) = True := eq_true (by rw [fa_le, nI_toInt ha, zz_m1t]; omega)
theorem zz_lt_m1 {a : Nat} (ha : a < 2 ^ 31) : (nI a < -nI 1) = False := eq_false fun h => by
  rw [fa_lt, nI_toInt ha, zz_m1t] at h
  omega
theorem zz_m1_lt {a : Nat} (ha : a < 2 ^ 31) : (-nI 1 < nI a) = True := eq_true (by rw [fa_lt, nI_toInt ha, zz_m1t]; omega)
theorem zz_B0 : zB (nI 0) = True := eq_true (Or.inl rfl)
theorem zz_B1 : zB (nI 1) = True := eq_true (Or.inr rfl)
theorem zz_and31 (n : Nat) : nI n &&& nI 31 = nI (n % 32) := fa_mask n 5
theorem zz_shr {w k : Nat} (hw : w < 2 ^ 31) (hk : k < 32) : nI w >>> nI k = nI (w / 2 ^ k) := by
  refine b_ext fun i hi => ?_
  have e31 : nI k = nI k &&& 31 := by
    have := zz_and31 k
    rw [Nat.mod_eq_of_lt hk] at this
    exact this.symm
  rw [e31, b_sshr k hk _ hi]
  have e : ∀ n i : Nat, i < 32 → bt (nI n) i = n.testBit i := fun n i hi => by
    show (BitVec.ofNat 32 n).getLsbD i = _
    rw [BitVec.getLsbD_ofNat, decide_eq_true hi, Bool.true_and]
  rw [e _ _ hi, Nat.testBit_div_two_pow]
  by_cases h : k + i < 32
  · rw [if_pos h, e _ _ h, Nat.add_comm]
  · rw [if_neg h, e _ _ (by omega)]
    have h1 : w.testBit 31 = false := Nat.testBit_lt_two_pow hw
    have h2 : w.testBit (i + k) = false := Nat.testBit_lt_two_pow (Nat.lt_of_lt_of_le hw (Nat.pow_le_pow_right (by decide) (by omega)))
    rw [h1, h2]
theorem zz_shl {w k : Nat} (hk : k < 32) : nI w <<< nI k = nI (w * 2 ^ k) := by
  refine b_ext fun i hi => ?_
  have e31 : nI k = nI k &&& 31 := by
    have := zz_and31 k
    rw [Nat.mod_eq_of_lt hk] at this
    exact this.symm
  rw [e31, b_shl k hk _ hi]
  have e : ∀ n i : Nat, i < 32 → bt (nI n) i = n.testBit i := fun n i hi => by
    show (BitVec.ofNat 32 n).getLsbD i = _
    rw [BitVec.getLsbD_ofNat, decide_eq_true hi, Bool.true_and]
  rw [e _ _ hi, Nat.testBit_mul_two_pow]
  by_cases h : k ≤ i
  · rw [e _ _ (by omega)]
  · rw [decide_eq_false h, Bool.false_and, Bool.false_and]
theorem fs_at {p : Nat → Bool} {n k : Nat} (hk : k < n) (hy : p k = true) (hn : ∀ i, i < k → p i = false) : fa_first p n = k := by
  have h1 := fa_first_le p n
  rcases Nat.lt_trichotomy (fa_first p n) k with h | h | h
  · have := fa_first_yes p n (by omega)
    rw [hn _ h] at this
    cases this
  · exact h
  · have := fa_first_no p n k h
    rw [hy] at this
    cases this
theorem fs_no {p : Nat → Bool} {n : Nat} (hn : ∀ i, i < n → p i = false) : fa_first p n = n := by
  have h1 := fa_first_le p n
  by_cases h : fa_first p n < n
  · have := fa_first_yes p n h
    rw [hn _ h] at this
    cases this
  · omega
