/-! STATES: undo of the reference; numbers drawn -/
theorem kX13_undo {T : zT} {I : zI} {L : zL} {R : zR} {m : Nat} {K : Int32 → zI → Prop} (hx : zMok T R) (h66 : I 2000 66 = nI m) (hm : m ≤ 20) (h0 : m = 0 → K (-1) (z2 I 2000 2 0))
    (h1 : 0 < m → (∃ e, e < 72 ∧ I 2068 (3 * (m - 1)) = nI e) ∨ (I 2068 (3 * (m - 1)) = -1 ∧ ∃ t, t < 2 ∧ I 2068 (3 * (m - 1) + 1) = nI t))
    (hK : 0 < m → ∀ e, e < 72 → I 2068 (3 * (m - 1)) = nI e → K (nI (m - 1)) (z2 (z2 (z2 (z2 I 2000 2 0) 2000 66 (nI (m - 1))) 2061 e (I 2068 (3 * (m - 1) + 1))) 2000 58 (I 2000 58 + I 2068 (3 * (m - 1) + 2))))
    (hC : 0 < m → I 2068 (3 * (m - 1)) = -1 → ∀ t, t < 2 → I 2068 (3 * (m - 1) + 1) = nI t → K (nI (m - 1)) (z2 (z2 (z2 I 2000 2 0) 2000 66 (nI (m - 1))) 2032 t (I 2032 t - 1))) :
    zMet mX13_undo 1 0 [.ref 2000] T I L R (zqI_I T L R K) := by
  refine sX13_undo (gX13_undo_0 hx ⟨fun c => zqI_I_i (h0 ?_), fun c => ?_⟩)
  · simp (disch := omega) only [h66, fa_lit, nI_add, zz_mul, zz_sub, nI_leI, nI_ltI, nI_eq, nI_clamp, zz_in, zz_m1, zz_m1e, zz_le_m1, zz_m1_le, zz_lt_m1, zz_m1_lt, zz_B0, zz_B1, zz_shr, zz_shl, zz_and31, Nat.mod_eq_of_lt, not_true_eq_false, not_false_eq_true, Nat.reduceAdd, Nat.reduceMul, Nat.reduceSub] at c
    exact c
  · simp (disch := omega) only [h66, fa_lit, nI_add, zz_mul, zz_sub, nI_leI, nI_ltI, nI_eq, nI_clamp, zz_in, zz_m1, zz_m1e, zz_le_m1, zz_m1_le, zz_lt_m1, zz_m1_lt, zz_B0, zz_B1, zz_shr, zz_shl, zz_and31, Nat.mod_eq_of_lt, not_true_eq_false, not_false_eq_true, Nat.reduceAdd, Nat.reduceMul, Nat.reduceSub] at c
    have hp : 0 < m := by omega
    have e0 : ((3 : Int32) * nI (m - 1)).toNatClampNeg = 3 * (m - 1) := by simp (disch := omega) only [fa_lit, nI_add, zz_mul, zz_sub, nI_leI, nI_ltI, nI_eq, nI_clamp, zz_in, zz_m1, zz_m1e, zz_le_m1, zz_m1_le, zz_lt_m1, zz_m1_lt, zz_B0, zz_B1, zz_shr, zz_shl, zz_and31, Nat.mod_eq_of_lt, not_true_eq_false, not_false_eq_true, Nat.reduceAdd, Nat.reduceMul, Nat.reduceSub]
    have e1 : (((3 : Int32) * nI (m - 1)) + (1 : Int32)).toNatClampNeg = 3 * (m - 1) + 1 := by simp (disch := omega) only [fa_lit, nI_add, zz_mul, zz_sub, nI_leI, nI_ltI, nI_eq, nI_clamp, zz_in, zz_m1, zz_m1e, zz_le_m1, zz_m1_le, zz_lt_m1, zz_m1_lt, zz_B0, zz_B1, zz_shr, zz_shl, zz_and31, Nat.mod_eq_of_lt, not_true_eq_false, not_false_eq_true, Nat.reduceAdd, Nat.reduceMul, Nat.reduceSub]
    have e2 : (((3 : Int32) * nI (m - 1)) + (2 : Int32)).toNatClampNeg = 3 * (m - 1) + 2 := by simp (disch := omega) only [fa_lit, nI_add, zz_mul, zz_sub, nI_leI, nI_ltI, nI_eq, nI_clamp, zz_in, zz_m1, zz_m1e, zz_le_m1, zz_m1_le, zz_lt_m1, zz_m1_lt, zz_B0, zz_B1, zz_shr, zz_shl, zz_and31, Nat.mod_eq_of_lt, not_true_eq_false, not_false_eq_true, Nat.reduceAdd, Nat.reduceMul, Nat.reduceSub]
    rw [h66, nM_dec hp, e0, e1, e2]
    refine ⟨by simp (disch := omega) only [fa_lit, nI_add, zz_mul, zz_sub, nI_leI, nI_ltI, nI_eq, nI_clamp, zz_in, zz_m1, zz_m1e, zz_le_m1, zz_m1_le, zz_lt_m1, zz_m1_lt, zz_B0, zz_B1, zz_shr, zz_shl, zz_and31, Nat.mod_eq_of_lt, not_true_eq_false, not_false_eq_true, Nat.reduceAdd, Nat.reduceMul, Nat.reduceSub]; omega, by simp (disch := omega) only [fa_lit, nI_add, zz_mul, zz_sub, nI_leI, nI_ltI, nI_eq, nI_clamp, zz_in, zz_m1, zz_m1e, zz_le_m1, zz_m1_le, zz_lt_m1, zz_m1_lt, zz_B0, zz_B1, zz_shr, zz_shl, zz_and31, Nat.mod_eq_of_lt, not_true_eq_false, not_false_eq_true, Nat.reduceAdd, Nat.reduceMul, Nat.reduceSub]; omega, fun c2 => ?_, fun c2 => ?_⟩
    · rcases h1 hp with ⟨e, he, q⟩ | ⟨q, -⟩
      · rw [q, nI_clamp (by omega)]
        exact ⟨by simp (disch := omega) only [fa_lit, nI_add, zz_mul, zz_sub, nI_leI, nI_ltI, nI_eq, nI_clamp, zz_in, zz_m1, zz_m1e, zz_le_m1, zz_m1_le, zz_lt_m1, zz_m1_lt, zz_B0, zz_B1, zz_shr, zz_shl, zz_and31, Nat.mod_eq_of_lt, not_true_eq_false, not_false_eq_true, Nat.reduceAdd, Nat.reduceMul, Nat.reduceSub]; omega, by simp (disch := omega) only [fa_lit, nI_add, zz_mul, zz_sub, nI_leI, nI_ltI, nI_eq, nI_clamp, zz_in, zz_m1, zz_m1e, zz_le_m1, zz_m1_le, zz_lt_m1, zz_m1_lt, zz_B0, zz_B1, zz_shr, zz_shl, zz_and31, Nat.mod_eq_of_lt, not_true_eq_false, not_false_eq_true, Nat.reduceAdd, Nat.reduceMul, Nat.reduceSub]; omega, zqI_I_i (hK hp e he q)⟩
      · rw [q] at c2
        exact absurd c2 (by decide)
    · rcases h1 hp with ⟨e, he, q⟩ | ⟨q, t, ht, q2⟩
      · rw [q] at c2
        exact absurd (nI_pos' (by omega)) c2
      · rw [q2, nI_clamp (by omega)]
        exact ⟨by simp (disch := omega) only [fa_lit, nI_add, zz_mul, zz_sub, nI_leI, nI_ltI, nI_eq, nI_clamp, zz_in, zz_m1, zz_m1e, zz_le_m1, zz_m1_le, zz_lt_m1, zz_m1_lt, zz_B0, zz_B1, zz_shr, zz_shl, zz_and31, Nat.mod_eq_of_lt, not_true_eq_false, not_false_eq_true, Nat.reduceAdd, Nat.reduceMul, Nat.reduceSub]; omega, zqI_I_i (hC hp q t ht q2)⟩
