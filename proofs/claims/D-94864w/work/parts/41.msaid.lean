/-! READINGS: which word is said k-th, the reference's side -/
theorem kX13_said {T : zT} {I : zI} {L : zL} {R : zR} {V : Nat → Nat → Nat → Nat} {x y z : Int32} {K : Int32 → zI → zL → Prop} (h0 : zMq T I R V) (hK : ∀ I' L', zMs I I' → zE [2065] L L' → K (qSaid V x y z) I' L') : zMet mX13_said 5 0 [.ref 2000, .int x, .int y, .int z] T I L R (zqI_IL T R K) := by
  have h := h0.e (zMe_th (x := 0))
  have hx := h.1
  have hn := h.2.2.1.1.1
  have hSw := h.2.2.2.2
  unfold qSaid at hK
  refine sX13_said (gX13_said_0 hx (kX13_isBoard h (fun s hs e => ⟨fun c => absurd c (by decide), fun _ => kX13_isTongue (fun t ht e2 => ⟨fun c => absurd c (by decide), fun _ => ⟨fun c => ?_, fun c => zqI_IL_i ?_⟩⟩) (fun q => ⟨fun _ => zqI_IL_i ?_, fun c => absurd rfl c⟩)⟩) (fun q => ⟨fun _ => zqI_IL_i ?_, fun c => absurd rfl c⟩)))
  · simp only [idx_at hs (by omega) e, idx_at ht (by decide) e2] at hK
    subst e e2
    obtain ⟨k, hk, rfl⟩ := nI_of (x := z) (fun q => by rw [fa_le] at c; rw [fa_lt] at q; omega)
    rw [if_neg (nI_pos hk), nI_clamp hk] at hK
    have hl := h.2.2.1.1.2 s hs
    have hwb : ∀ i, i < V 20 t 0 → 0 < wln (V 21 t i) := fun i hi => ((hSw.1 t ht).2 i hi).1.1
    have hb0 := rdBest_le (f := V 23 s) (kd := V 6 s 1) hSw ht (Nat.zero_le (V 6 s 2))
    refine kX13_reads h hs ht (fun I' L' a1 a2 a3 a4 a5 => ?_)
    have hk' := hK I' L' a1.th a2
    have hq := h.e a1.e
    have hvt := hq.2.2.2.1.1 t ht
    have hst := hSw.1 t ht
    have hg : ∀ q, q < V 6 s 2 → I' 2062 q = nI (gMet (V 23 s) (V 6 s 2) (isR (V 6 s 1) t) q) ∧ gMet (V 23 s) (V 6 s 2) (isR (V 6 s 1) t) q ≤ 26 := fun q hq2 => ⟨a5 q hq2, by
      unfold gMet
      split
      · exact hSw.2.1 s hs _ (by omega)
      · exact hSw.2.1 s hs _ hq2⟩
    rw [(a3 0 (Nat.zero_le _)).2, fa_le, nM_toInt (by omega), show (0 : Int32).toInt = 0 by decide]
    refine ⟨fun c2 => ?_, fun c2 => zqI_IL_i ?_⟩
    · have c3 : ¬ rdBest V t (V 23 s) (V 6 s 2) (V 6 s 1) 0 = 0 := by omega
      rw [if_neg c3] at hk'
      have main : ∀ u a i, V 6 s 2 < a + u → a ≤ V 6 s 2 → i ≤ a → i ≤ k → rdBest V t (V 23 s) (V 6 s 2) (V 6 s 1) a ≠ 0 → K (sdN V t (V 23 s) (V 6 s 2) (V 6 s 1) u a (k - i)) I' L' → ∀ p r, p = nI a → r = nI i → zAW mX13_said 5 0 50 [(0, .ref 2000), (2, .int (nI t)), (3, .int (nI k)), (4, .int p), (5, .int r)] [] T I' L' R (zqI_IL T R K) := by
        intro u
        induction u with
        | zero => intro a i b1 b2; omega
        | succ u ih =>
          rintro a i b1 b2 b2b b3 b4 b5 p r rfl rfl
          unfold sdN at b5
          refine gX13_said_50 hx ⟨fun c4 => zqI_IL_i ?_, fun c4 => ?_⟩
          · rw [a4] at c4
            simp (disch := omega) only [fa_lit, nI_add, zz_mul, zz_sub, nI_leI, nI_ltI, nI_eq, nI_clamp, zz_in, zz_m1, zz_m1e, zz_le_m1, zz_m1_le, zz_lt_m1, zz_m1_lt, zz_B0, zz_B1, zz_shr, zz_shl, zz_and31, Nat.mod_eq_of_lt, not_true_eq_false, not_false_eq_true, Nat.reduceAdd, Nat.reduceMul, Nat.reduceSub] at c4
            rw [if_pos c4] at b5
            exact b5
          · rw [a4] at c4
            simp (disch := omega) only [fa_lit, nI_add, zz_mul, zz_sub, nI_leI, nI_ltI, nI_eq, nI_clamp, zz_in, zz_m1, zz_m1e, zz_le_m1, zz_m1_le, zz_lt_m1, zz_m1_lt, zz_B0, zz_B1, zz_shr, zz_shl, zz_and31, Nat.mod_eq_of_lt, not_true_eq_false, not_false_eq_true, Nat.reduceAdd, Nat.reduceMul, Nat.reduceSub] at c4
            rw [if_neg c4] at b5
            obtain ⟨w0, hw0, hw1⟩ := sd_ex hwb (by omega) b4
            have inner : ∀ j w, w + j = V 20 t 0 → (∀ q, q < w → sdC V t (V 23 s) (V 6 s 2) (V 6 s 1) a q = false) → ∀ y, y = nI (12 * t + w) → zAW mX13_said 5 0 65 [(0, .ref 2000), (2, .int (nI t)), (3, .int (nI k)), (4, .int (nI a)), (5, .int (nI i)), (6, .int y)] [] T I' L' R (zqI_IL T R K) := by
              intro j
              induction j with
              | zero =>
                intro w d1 d2
                have := d2 w0 (by omega)
                rw [hw1] at this
                cases this
              | succ j ihj =>
                rintro w d1 d2 y rfl
                have d3 : w < V 20 t 0 := by omega
                have hvw : I' 2033 (12 * t + w) = nI (V 21 t w) ∧ I' 2034 (12 * t + w) = nI (V 22 t w) := hvt.2 w d3
                have hsw : wdok (V 21 t w) ∧ V 22 t w ≤ 99 := hst.2 w d3
                have h31 := hsw.1.2.1
                have hwl := wln_le (V 21 t w)
                have hwp := hwb w d3
                have h12 := hst.1
                have hwo := hsw.2
                have next : sdC V t (V 23 s) (V 6 s 2) (V 6 s 1) a w = false → zAW mX13_said 5 0 65 [(0, .ref 2000), (2, .int (nI t)), (3, .int (nI k)), (4, .int (nI a)), (5, .int (nI i)), (6, .int (nI (12 * t + w) + 1))] [] T I' L' R (zqI_IL T R K) := fun h9 => by
                  refine ihj (w + 1) (by omega) ?_ _ (nI_1 _)
                  intro q hq2
                  by_cases e : q = w
                  · rw [e]
                    exact h9
                  · exact d2 q (by omega)
                have ew : (nI (12 * t + w)).toNatClampNeg = 12 * t + w := by simp (disch := omega) only [fa_lit, nI_add, zz_mul, zz_sub, nI_leI, nI_ltI, nI_eq, nI_clamp, zz_in, zz_m1, zz_m1e, zz_le_m1, zz_m1_le, zz_lt_m1, zz_m1_lt, zz_B0, zz_B1, zz_shr, zz_shl, zz_and31, Nat.mod_eq_of_lt, not_true_eq_false, not_false_eq_true, Nat.reduceAdd, Nat.reduceMul, Nat.reduceSub]
                have ea : (nI a).toNatClampNeg = a := by simp (disch := omega) only [fa_lit, nI_add, zz_mul, zz_sub, nI_leI, nI_ltI, nI_eq, nI_clamp, zz_in, zz_m1, zz_m1e, zz_le_m1, zz_m1_le, zz_lt_m1, zz_m1_lt, zz_B0, zz_B1, zz_shr, zz_shl, zz_and31, Nat.mod_eq_of_lt, not_true_eq_false, not_false_eq_true, Nat.reduceAdd, Nat.reduceMul, Nat.reduceSub]
                refine gX13_said_65 hx ⟨by simp (disch := omega) only [fa_lit, nI_add, zz_mul, zz_sub, nI_leI, nI_ltI, nI_eq, nI_clamp, zz_in, zz_m1, zz_m1e, zz_le_m1, zz_m1_le, zz_lt_m1, zz_m1_lt, zz_B0, zz_B1, zz_shr, zz_shl, zz_and31, Nat.mod_eq_of_lt, not_true_eq_false, not_false_eq_true, Nat.reduceAdd, Nat.reduceMul, Nat.reduceSub]; omega, ?_⟩
                rw [ew, ea, hvw.1, hvw.2]
                refine kX13_standsAt (n := V 6 s 2) (g := gMet (V 23 s) (V 6 s 2) (isR (V 6 s 1) t)) hx (by omega) hl.2.2.2 a4 hg b2 ⟨fun c5 => next ?_, fun c5 => kX13_longOf (by omega) ?_⟩
                · unfold sdC
                  cases hst2 : stN (V 21 t w) (V 6 s 2) (gMet (V 23 s) (V 6 s 2) (isR (V 6 s 1) t)) a
                  · rfl
                  · rw [hst2] at c5
                    exact absurd c5 (by decide)
                · have hst2 : stN (V 21 t w) (V 6 s 2) (gMet (V 23 s) (V 6 s 2) (isR (V 6 s 1) t)) a = true := by
                    cases hst2 : stN (V 21 t w) (V 6 s 2) (gMet (V 23 s) (V 6 s 2) (isR (V 6 s 1) t)) a
                    · rw [hst2] at c5
                      exact absurd rfl c5
                    · rfl
                  have hto := stN_len hst2
                  have hz := rdBest_le (f := V 23 s) (kd := V 6 s 1) hSw ht hto
                  have hza := rdBest_le (f := V 23 s) (kd := V 6 s 1) hSw ht b2
                  have et : (nI a + nI (wln (V 21 t w))).toNatClampNeg = a + wln (V 21 t w) := by simp (disch := omega) only [fa_lit, nI_add, zz_mul, zz_sub, nI_leI, nI_ltI, nI_eq, nI_clamp, zz_in, zz_m1, zz_m1e, zz_le_m1, zz_m1_le, zz_lt_m1, zz_m1_lt, zz_B0, zz_B1, zz_shr, zz_shl, zz_and31, Nat.mod_eq_of_lt, not_true_eq_false, not_false_eq_true, Nat.reduceAdd, Nat.reduceMul, Nat.reduceSub]
                  rw [et, (a3 _ hto).2, (a3 a b2).2]
                  refine ⟨by simp (disch := omega) only [fa_lit, nI_add, zz_mul, zz_sub, nI_leI, nI_ltI, nI_eq, nI_clamp, zz_in, zz_m1, zz_m1e, zz_le_m1, zz_m1_le, zz_lt_m1, zz_m1_lt, zz_B0, zz_B1, zz_shr, zz_shl, zz_and31, Nat.mod_eq_of_lt, not_true_eq_false, not_false_eq_true, Nat.reduceAdd, Nat.reduceMul, Nat.reduceSub]; omega, fun c6 => next ?_, fun c6 => kX13_longOf (by omega) ?_⟩
                  · unfold sdC
                    rw [(nM_lt0 (by omega)).mp c6]
                    simp
                  · have c7 : rdBest V t (V 23 s) (V 6 s 2) (V 6 s 1) (a + wln (V 21 t w)) ≠ 0 := fun q => c6 ((nM_lt0 (by omega)).mpr q)
                    have e8 : (nI (rdBest V t (V 23 s) (V 6 s 2) (V 6 s 1) (a + wln (V 21 t w))) - 1) + nI (V 22 t w) = nI (V 22 t w + rdBest V t (V 23 s) (V 6 s 2) (V 6 s 1) (a + wln (V 21 t w))) - 1 := by
                      rw [nM_dec (by omega), nM_dec (by omega), nI_add]
                      congr 1
                      omega
                    rw [et, (a3 _ hto).2, e8, fa_eq, nM_toInt (by omega), nM_toInt (by omega)]
                    refine ⟨by simp (disch := omega) only [fa_lit, nI_add, zz_mul, zz_sub, nI_leI, nI_ltI, nI_eq, nI_clamp, zz_in, zz_m1, zz_m1e, zz_le_m1, zz_m1_le, zz_lt_m1, zz_m1_lt, zz_B0, zz_B1, zz_shr, zz_shl, zz_and31, Nat.mod_eq_of_lt, not_true_eq_false, not_false_eq_true, Nat.reduceAdd, Nat.reduceMul, Nat.reduceSub]; omega, by simp (disch := omega) only [fa_lit, nI_add, zz_mul, zz_sub, nI_leI, nI_ltI, nI_eq, nI_clamp, zz_in, zz_m1, zz_m1e, zz_le_m1, zz_m1_le, zz_lt_m1, zz_m1_lt, zz_B0, zz_B1, zz_shr, zz_shl, zz_and31, Nat.mod_eq_of_lt, not_true_eq_false, not_false_eq_true, Nat.reduceAdd, Nat.reduceMul, Nat.reduceSub]; omega, fun c8 => ?_, fun c8 => next ?_⟩
                    · have hc : sdC V t (V 23 s) (V 6 s 2) (V 6 s 1) a w = true := by
                        unfold sdC
                        rw [hst2, decide_eq_true c7, decide_eq_true (show V 22 t w + rdBest V t (V 23 s) (V 6 s 2) (V 6 s 1) (a + wln (V 21 t w)) = rdBest V t (V 23 s) (V 6 s 2) (V 6 s 1) a by omega)]
                        rfl
                      have ew2 : sdW V t (V 23 s) (V 6 s 2) (V 6 s 1) a = w := fs_at d3 hc d2
                      rw [ew2] at b5
                      refine ⟨fun c9 => zqI_IL_i ?_, fun c9 => kX13_longOf (by omega) (ih (a + wln (V 21 t w)) (i + 1) (by omega) hto (by omega) ?_ c7 ?_ _ _ (nI_add _ _) (nI_1 i))⟩
                      · simp (disch := omega) only [fa_lit, nI_add, zz_mul, zz_sub, nI_leI, nI_ltI, nI_eq, nI_clamp, zz_in, zz_m1, zz_m1e, zz_le_m1, zz_m1_le, zz_lt_m1, zz_m1_lt, zz_B0, zz_B1, zz_shr, zz_shl, zz_and31, Nat.mod_eq_of_lt, not_true_eq_false, not_false_eq_true, Nat.reduceAdd, Nat.reduceMul, Nat.reduceSub] at c9
                        rw [if_pos (by omega)] at b5
                        have e10 : nI (12 * t + w) - ((12 : Int32) * nI t) = nI w := by
                          simp (disch := omega) only [fa_lit, nI_add, zz_mul, zz_sub, nI_leI, nI_ltI, nI_eq, nI_clamp, zz_in, zz_m1, zz_m1e, zz_le_m1, zz_m1_le, zz_lt_m1, zz_m1_lt, zz_B0, zz_B1, zz_shr, zz_shl, zz_and31, Nat.mod_eq_of_lt, not_true_eq_false, not_false_eq_true, Nat.reduceAdd, Nat.reduceMul, Nat.reduceSub]
                          rw [show 12 * t + w - 12 * t = w by omega]
                        rw [e10]
                        exact b5
                      · simp (disch := omega) only [fa_lit, nI_add, zz_mul, zz_sub, nI_leI, nI_ltI, nI_eq, nI_clamp, zz_in, zz_m1, zz_m1e, zz_le_m1, zz_m1_le, zz_lt_m1, zz_m1_lt, zz_B0, zz_B1, zz_shr, zz_shl, zz_and31, Nat.mod_eq_of_lt, not_true_eq_false, not_false_eq_true, Nat.reduceAdd, Nat.reduceMul, Nat.reduceSub] at c9
                        omega
                      · simp (disch := omega) only [fa_lit, nI_add, zz_mul, zz_sub, nI_leI, nI_ltI, nI_eq, nI_clamp, zz_in, zz_m1, zz_m1e, zz_le_m1, zz_m1_le, zz_lt_m1, zz_m1_lt, zz_B0, zz_B1, zz_shr, zz_shl, zz_and31, Nat.mod_eq_of_lt, not_true_eq_false, not_false_eq_true, Nat.reduceAdd, Nat.reduceMul, Nat.reduceSub] at c9
                        rw [if_neg (by omega), show k - i - 1 = k - (i + 1) by omega] at b5
                        exact b5
                    · unfold sdC
                      rw [decide_eq_false (show ¬ V 22 t w + rdBest V t (V 23 s) (V 6 s 2) (V 6 s 1) (a + wln (V 21 t w)) = rdBest V t (V 23 s) (V 6 s 2) (V 6 s 1) a by omega), Bool.and_false, Bool.and_false]
            exact inner (V 20 t 0) 0 (by omega) (fun q h => absurd h (Nat.not_lt_zero q)) _ (zz_mul 12 t)
      exact main (V 6 s 2 + 1) 0 0 (by omega) (by omega) (by omega) (by omega) c3 hk' _ _ rfl rfl
    · rw [if_pos (by omega)] at hk'
      exact hk'
  · simp only [idx_at hs (by omega) e, idx_at ht (by decide) e2] at hK
    rw [if_pos (fa_of_nle c)] at hK
    exact hK _ L zMs.th zE_rf
  · simp only [idx_at hs (by omega) e, idx_no q] at hK
    exact hK _ L zMs.th zE_rf
  · simp only [idx_no q] at hK
    exact hK _ L zMs.th zE_rf
