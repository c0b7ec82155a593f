/-! READINGS: which word is said k-th -/
theorem rdZ_st {m : Nat} {ws wo : Nat → Nat} {n q : Nat} {g : Nat → Nat} {r : Nat} (h : n ≤ q + r) : ∀ j, rdZ m ws wo n g (r + j) q = rdZ m ws wo n g r q
  | 0 => rfl
  | j + 1 => by
    rw [show r + (j + 1) = (r + j) + 1 by omega, rdZ, if_neg (by omega)]
    exact rdZ_st h j
theorem rdB_ex {ws wo : Nat → Nat} {n a : Nat} {g y : Nat → Nat} : ∀ {m : Nat}, rdB ws wo n g y a m ≠ 0 → ∃ i, i < m ∧ stN (ws i) n g a = true ∧ y (a + wln (ws i)) ≠ 0 ∧ wo i + y (a + wln (ws i)) = rdB ws wo n g y a m
  | 0, h => absurd rfl h
  | m + 1, h => by
    unfold rdB at h ⊢
    split at h
    · rename_i e
      rw [if_pos e]
      rw [Bool.and_eq_true, decide_eq_true_iff] at e
      rw [Nat.max_def] at h ⊢
      split at h
      · rename_i e2
        rw [if_pos e2]
        exact ⟨m, by omega, e.1, e.2, rfl⟩
      · rename_i e2
        rw [if_neg e2]
        obtain ⟨i, h1, h2⟩ := rdB_ex h
        exact ⟨i, by omega, h2⟩
    · rename_i e
      rw [if_neg e]
      obtain ⟨i, h1, h2⟩ := rdB_ex h
      exact ⟨i, by omega, h2⟩
def sdC (V : Nat → Nat → Nat → Nat) (t : Nat) (f : Nat → Nat) (n kd a i : Nat) : Bool := stN (V 21 t i) n (gMet f n (isR kd t)) a && (decide (rdBest V t f n kd (a + wln (V 21 t i)) ≠ 0) && decide (V 22 t i + rdBest V t f n kd (a + wln (V 21 t i)) = rdBest V t f n kd a))
def sdW (V : Nat → Nat → Nat → Nat) (t : Nat) (f : Nat → Nat) (n kd a : Nat) : Nat := fa_first (sdC V t f n kd a) (V 20 t 0)
def sdN (V : Nat → Nat → Nat → Nat) (t : Nat) (f : Nat → Nat) (n kd : Nat) : Nat → Nat → Nat → Int32
  | 0, _, _ => -2
  | u + 1, a, k => if n ≤ a then -2 else if k = 0 then nI (sdW V t f n kd a) else sdN V t f n kd u (a + wln (V 21 t (sdW V t f n kd a))) (k - 1)
theorem sd_ex {V : Nat → Nat → Nat → Nat} {t n kd a : Nat} {f : Nat → Nat} (hw : ∀ i, i < V 20 t 0 → 0 < wln (V 21 t i)) (ha : a < n) (h : rdBest V t f n kd a ≠ 0) : ∃ i, i < V 20 t 0 ∧ sdC V t f n kd a i = true := by
  have e1 : rdBest V t f n kd a = rdB (V 21 t) (V 22 t) n (gMet f n (isR kd t)) (rdZ (V 20 t 0) (V 21 t) (V 22 t) n (gMet f n (isR kd t)) (n - a - 1)) a (V 20 t 0) := by
    have h1 := rdZ_st (m := V 20 t 0) (ws := V 21 t) (wo := V 22 t) (n := n) (q := a) (g := gMet f n (isR kd t)) (r := n - a) (by omega) a
    rw [show n - a + a = n by omega] at h1
    unfold rdBest
    rw [h1, show n - a = (n - a - 1) + 1 by omega, rdZ, if_pos (by omega)]
    rfl
  have e2 : ∀ q, a < q → q ≤ n → rdBest V t f n kd q = rdZ (V 20 t 0) (V 21 t) (V 22 t) n (gMet f n (isR kd t)) (n - a - 1) q := fun q h1 h2 => by
    have h3 := rdZ_st (m := V 20 t 0) (ws := V 21 t) (wo := V 22 t) (n := n) (q := q) (g := gMet f n (isR kd t)) (r := n - a - 1) (by omega) (a + 1)
    rw [show n - a - 1 + (a + 1) = n by omega] at h3
    exact h3
  rw [e1] at h
  obtain ⟨i, h1, h2, h3, h4⟩ := rdB_ex h
  have h5 := hw i h1
  have h6 := e2 (a + wln (V 21 t i)) (by omega) (stN_len h2)
  refine ⟨i, h1, ?_⟩
  unfold sdC
  rw [h2, h6, e1, decide_eq_true h3, decide_eq_true h4]
  rfl
def qSaid (V : Nat → Nat → Nat → Nat) (x y z : Int32) : Int32 := match idx x (V 5 0 0) with
  | none => -1
  | some s => match idx y 2 with
    | none => -1
    | some t => if z < 0 then -1 else if rdBest V t (V 23 s) (V 6 s 2) (V 6 s 1) 0 = 0 then -2 else sdN V t (V 23 s) (V 6 s 2) (V 6 s 1) (V 6 s 2 + 1) 0 z.toNatClampNeg
theorem kX1_said {T : zT} {I : zI} {L : zL} {R : zR} {σ : Nat} {V : Nat → Nat → Nat → Nat} {x y z : Int32} {K : Int32 → zI → zL → Prop} (h : zCq T I R σ V) (hK : ∀ I' L', zE [1017] I I' → zE [1016] L L' → K (qSaid V x y z) I' L') : zMet mX1_said 6 0 [.ref 1000, .int x, .int y, .int z] T I L R (zqI_IL T R K) := by
  have hx := h.1
  have hn := h.2.2.2.2.2.1.1.1
  have hSw := h.2.2.2.2.2.2.2
  unfold qSaid at hK
  refine sX1_said (gX1_said_0 hx (kX1_isSign h (fun s hs e => ⟨fun c => absurd c (by decide), fun _ => kX1_isTongue (fun t ht e2 => ⟨fun c => absurd c (by decide), fun _ => ⟨fun c => ?_, fun c => zqI_IL_i ?_⟩⟩) (fun q => ⟨fun _ => zqI_IL_i ?_, fun c => absurd rfl c⟩)⟩) (fun q => ⟨fun _ => zqI_IL_i ?_, fun c => absurd rfl c⟩)))
  · simp only [idx_at hs (by omega) e, idx_at ht (by decide) e2] at hK
    subst e e2
    obtain ⟨k, hk, rfl⟩ := nI_of (x := z) (fun q => by rw [fa_le] at c; rw [fa_lt] at q; omega)
    rw [if_neg (nI_pos hk), nI_clamp hk] at hK
    have hl := h.2.2.2.2.2.1.1.2 s hs
    have hr1 := (zSL_now hx).2.2.2.2.2.2.1 t ht
    have hr2 := (zSL_now hx).2.2.2.2.2.2.2 s (by omega)
    have hwb : ∀ i, i < V 20 t 0 → 0 < wln (V 21 t i) := fun i hi => ((hSw.1 t ht).2 i hi).1.1
    have hb0 := rdBest_le (f := V 23 s) (kd := V 6 s 1) hSw ht (Nat.zero_le (V 6 s 2))
    refine kX1_read h hs ht (fun I' L' a1 a2 a3 => ?_)
    have hk' := hK I' L' a1 a2
    have hq := h.e (zE_hi a1 (by decide))
    have hv := hq.2.2.2.2.2.2.1.2.1 s hs
    have hvt := hq.2.2.2.2.2.2.1.1 t ht
    have hst := hSw.1 t ht
    rw [nI_clamp (by omega), nI_clamp (by omega), hr1.1, hr2.1, (a3 0 (Nat.zero_le _)).2]
    refine ⟨by simp (disch := omega) only [fa_lit, nI_add, zz_mul, zz_sub, nI_leI, nI_ltI, nI_eq, nI_clamp, zz_in, zz_m1, zz_m1e, zz_le_m1, zz_m1_le, zz_lt_m1, zz_m1_lt, zz_B0, zz_B1, zz_shr, zz_shl, zz_and31, Nat.mod_eq_of_lt, not_true_eq_false, not_false_eq_true, Nat.reduceAdd, Nat.reduceMul, Nat.reduceSub]; omega, by simp (disch := omega) only [fa_lit, nI_add, zz_mul, zz_sub, nI_leI, nI_ltI, nI_eq, nI_clamp, zz_in, zz_m1, zz_m1e, zz_le_m1, zz_m1_le, zz_lt_m1, zz_m1_lt, zz_B0, zz_B1, zz_shr, zz_shl, zz_and31, Nat.mod_eq_of_lt, not_true_eq_false, not_false_eq_true, Nat.reduceAdd, Nat.reduceMul, Nat.reduceSub]; omega, fun c2 => zqI_IL_i ?_, fun c2 => ?_⟩
    · rw [if_pos ((nM_m1 (by omega)).mp c2)] at hk'
      exact hk'
    · have c3 : ¬ rdBest V t (V 23 s) (V 6 s 2) (V 6 s 1) 0 = 0 := fun q => c2 ((nM_m1 (by omega)).mpr q)
      rw [if_neg c3] at hk'
      have main : ∀ u a i, V 6 s 2 < a + u → a ≤ V 6 s 2 → i ≤ a → i ≤ k → rdBest V t (V 23 s) (V 6 s 2) (V 6 s 1) a ≠ 0 → K (sdN V t (V 23 s) (V 6 s 2) (V 6 s 1) u a (k - i)) I' L' → ∀ p r, p = nI a → r = nI i → zAW mX1_said 6 0 68 [(0, .ref 1000), (1, .int (nI s)), (2, .int (nI t)), (3, .int (nI k)), (4, .ref (1203 + 3 * t)), (5, .ref (1210 + 2 * s)), (6, .int p), (7, .int r)] [] T I' L' R (zqI_IL T R K) := by
        intro u
        induction u with
        | zero => intro a i b1 b2; omega
        | succ u ih =>
          rintro a i b1 b2 b2b b3 b4 b5 p r rfl rfl
          unfold sdN at b5
          refine gX1_said_68 hx ⟨by rw [hr2.2.1], fun c4 => zqI_IL_i ?_, fun c4 => ?_⟩
          · rw [hv.1] at c4
            simp (disch := omega) only [fa_lit, nI_add, zz_mul, zz_sub, nI_leI, nI_ltI, nI_eq, nI_clamp, zz_in, zz_m1, zz_m1e, zz_le_m1, zz_m1_le, zz_lt_m1, zz_m1_lt, zz_B0, zz_B1, zz_shr, zz_shl, zz_and31, Nat.mod_eq_of_lt, not_true_eq_false, not_false_eq_true, Nat.reduceAdd, Nat.reduceMul, Nat.reduceSub] at c4
            rw [if_pos c4] at b5
            exact b5
          · rw [hv.1] at c4
            simp (disch := omega) only [fa_lit, nI_add, zz_mul, zz_sub, nI_leI, nI_ltI, nI_eq, nI_clamp, zz_in, zz_m1, zz_m1e, zz_le_m1, zz_m1_le, zz_lt_m1, zz_m1_lt, zz_B0, zz_B1, zz_shr, zz_shl, zz_and31, Nat.mod_eq_of_lt, not_true_eq_false, not_false_eq_true, Nat.reduceAdd, Nat.reduceMul, Nat.reduceSub] at c4
            rw [if_neg c4] at b5
            obtain ⟨w0, hw0, hw1⟩ := sd_ex hwb (by omega) b4
            have inner : ∀ j w, w + j = V 20 t 0 → (∀ q, q < w → sdC V t (V 23 s) (V 6 s 2) (V 6 s 1) a q = false) → ∀ y, y = nI w → zAW mX1_said 6 0 81 [(0, .ref 1000), (1, .int (nI s)), (2, .int (nI t)), (3, .int (nI k)), (4, .ref (1203 + 3 * t)), (5, .ref (1210 + 2 * s)), (6, .int (nI a)), (7, .int (nI i)), (8, .int y)] [] T I' L' R (zqI_IL T R K) := by
              intro j
              induction j with
              | zero =>
                intro w d1 d2
                have := d2 w0 (by omega)
                rw [hw1] at this
                cases this
              | succ j ihj =>
                rintro w d1 d2 y rfl
                have d3 : w < V 20 t 0 := by omega
                have hvw : I' (1200 + 4 + 3 * t) w = nI (V 21 t w) ∧ I' (1200 + 5 + 3 * t) w = nI (V 22 t w) := hvt.2 w d3
                have hsw : wdok (V 21 t w) ∧ V 22 t w ≤ 99 := hst.2 w d3
                have h31 := hsw.1.2.1
                have hwl := wln_le (V 21 t w)
                have hwp := hwb w d3
                have h12 := hst.1
                have next : sdC V t (V 23 s) (V 6 s 2) (V 6 s 1) a w = false → zAW mX1_said 6 0 81 [(0, .ref 1000), (1, .int (nI s)), (2, .int (nI t)), (3, .int (nI k)), (4, .ref (1203 + 3 * t)), (5, .ref (1210 + 2 * s)), (6, .int (nI a)), (7, .int (nI i)), (8, .int (nI w + 1))] [] T I' L' R (zqI_IL T R K) := fun h9 => by
                  refine ihj (w + 1) (by omega) ?_ _ (nI_1 w)
                  intro q hq2
                  by_cases e : q = w
                  · rw [e]
                    exact h9
                  · exact d2 q (by omega)
                have len : ∀ {K : Int32 → Prop}, K (nI (wln (V 21 t w))) → zMet mX4_length 2 0 [.ref (1203 + 3 * t), .int (nI w)] T I' L' R (zqI_ T I' L' R K) := fun hK => kX4_length (w := V 21 t w) (by rw [hr1.2.1]) (by rw [hr1.2.2.1, hr1.2.2.2.2.1]) (by omega) (by rw [hr1.2.2.1]; exact hvw.1) (by omega) hK
                have fin : ∀ rv, rv = (if isR (V 6 s 1) t then 1 else 0) → zAW mX1_said 6 0 96 [(0, .ref 1000), (1, .int (nI s)), (2, .int (nI t)), (3, .int (nI k)), (4, .ref (1203 + 3 * t)), (5, .ref (1210 + 2 * s)), (6, .int (nI a)), (7, .int (nI i)), (8, .int (nI w))] [.int rv, .ref (1210 + 2 * s), .int (nI w), .ref (1203 + 3 * t)] T I' L' R (zqI_IL T R K) := by
                  intro rv hrv
                  refine gX1_said_96 hx (kX1_stands (w := V 21 t w) (n := V 6 s 2) (f := V 23 s) (r := isR (V 6 s 1) t) (by rw [hr1.2.1]) (by rw [hr1.2.2.1, hr1.2.2.2.2.1]) (by omega) (by rw [hr1.2.2.1]; exact hvw.1) (by omega) (by rw [hr2.2.1]) (by rw [hr2.2.2.1, hr2.2.2.2]) hv.1 hl.2.2.2 (fun q hq2 => by rw [hr2.2.2.1]; exact ⟨hv.2 q hq2, hSw.2.1 s hs q hq2⟩) hrv b2 ⟨fun c5 => next ?_, fun c5 => ⟨by rw [hr1.2.1], len ?_⟩⟩)
                  · unfold sdC
                    cases hst2 : stN (V 21 t w) (V 6 s 2) (gMet (V 23 s) (V 6 s 2) (isR (V 6 s 1) t)) a
                    · rfl
                    · rw [hst2] at c5
                      exact absurd c5 (by decide)
                  · have hst2 : stN (V 21 t w) (V 6 s 2) (gMet (V 23 s) (V 6 s 2) (isR (V 6 s 1) t)) a = true := by
                      cases hst2 : stN (V 21 t w) (V 6 s 2) (gMet (V 23 s) (V 6 s 2) (isR (V 6 s 1) t)) a
                      · rw [hst2] at c5
                        exact absurd rfl c5
                      · rfl
                    have hto := stN_len hst2
                    have hz := rdBest_le (f := V 23 s) (kd := V 6 s 1) hSw ht hto
                    have hza := rdBest_le (f := V 23 s) (kd := V 6 s 1) hSw ht b2
                    have et : (nI a + nI (wln (V 21 t w))).toNatClampNeg = a + wln (V 21 t w) := by simp (disch := omega) only [fa_lit, nI_add, zz_mul, zz_sub, nI_leI, nI_ltI, nI_eq, nI_clamp, zz_in, zz_m1, zz_m1e, zz_le_m1, zz_m1_le, zz_lt_m1, zz_m1_lt, zz_B0, zz_B1, zz_shr, zz_shl, zz_and31, Nat.mod_eq_of_lt, not_true_eq_false, not_false_eq_true, Nat.reduceAdd, Nat.reduceMul, Nat.reduceSub]
                    have ea : (nI a).toNatClampNeg = a := by simp (disch := omega) only [fa_lit, nI_add, zz_mul, zz_sub, nI_leI, nI_ltI, nI_eq, nI_clamp, zz_in, zz_m1, zz_m1e, zz_le_m1, zz_m1_le, zz_lt_m1, zz_m1_lt, zz_B0, zz_B1, zz_shr, zz_shl, zz_and31, Nat.mod_eq_of_lt, not_true_eq_false, not_false_eq_true, Nat.reduceAdd, Nat.reduceMul, Nat.reduceSub]
                    have ew : (nI w).toNatClampNeg = w := by simp (disch := omega) only [fa_lit, nI_add, zz_mul, zz_sub, nI_leI, nI_ltI, nI_eq, nI_clamp, zz_in, zz_m1, zz_m1e, zz_le_m1, zz_m1_le, zz_lt_m1, zz_m1_lt, zz_B0, zz_B1, zz_shr, zz_shl, zz_and31, Nat.mod_eq_of_lt, not_true_eq_false, not_false_eq_true, Nat.reduceAdd, Nat.reduceMul, Nat.reduceSub]
                    rw [et, ea, ew, (a3 _ hto).2, (a3 a b2).2, hr1.2.2.2.1, hvw.2]
                    have hwo := hsw.2
                    refine ⟨by simp (disch := omega) only [fa_lit, nI_add, zz_mul, zz_sub, nI_leI, nI_ltI, nI_eq, nI_clamp, zz_in, zz_m1, zz_m1e, zz_le_m1, zz_m1_le, zz_lt_m1, zz_m1_lt, zz_B0, zz_B1, zz_shr, zz_shl, zz_and31, Nat.mod_eq_of_lt, not_true_eq_false, not_false_eq_true, Nat.reduceAdd, Nat.reduceMul, Nat.reduceSub]; omega, fun c6 => next ?_, fun c6 => ⟨by rw [hr1.2.2.2.2.2], by rw [hr1.2.2.2.2.2]; simp (disch := omega) only [fa_lit, nI_add, zz_mul, zz_sub, nI_leI, nI_ltI, nI_eq, nI_clamp, zz_in, zz_m1, zz_m1e, zz_le_m1, zz_m1_le, zz_lt_m1, zz_m1_lt, zz_B0, zz_B1, zz_shr, zz_shl, zz_and31, Nat.mod_eq_of_lt, not_true_eq_false, not_false_eq_true, Nat.reduceAdd, Nat.reduceMul, Nat.reduceSub]; omega, len ?_⟩⟩
                    · unfold sdC
                      rw [(nM_m1 (by omega)).mp c6]
                      simp
                    · have c7 : rdBest V t (V 23 s) (V 6 s 2) (V 6 s 1) (a + wln (V 21 t w)) ≠ 0 := fun q => c6 ((nM_m1 (by omega)).mpr q)
                      have e8 : nI (V 22 t w) + (nI (rdBest V t (V 23 s) (V 6 s 2) (V 6 s 1) (a + wln (V 21 t w))) - 1) = nI (V 22 t w + rdBest V t (V 23 s) (V 6 s 2) (V 6 s 1) (a + wln (V 21 t w))) - 1 := by
                        rw [nM_dec (by omega), nM_dec (by omega), nI_add]
                        congr 1
                        omega
                      rw [et, (a3 _ hto).2, e8, fa_eq, nM_toInt (by omega), nM_toInt (by omega)]
                      refine ⟨by simp (disch := omega) only [fa_lit, nI_add, zz_mul, zz_sub, nI_leI, nI_ltI, nI_eq, nI_clamp, zz_in, zz_m1, zz_m1e, zz_le_m1, zz_m1_le, zz_lt_m1, zz_m1_lt, zz_B0, zz_B1, zz_shr, zz_shl, zz_and31, Nat.mod_eq_of_lt, not_true_eq_false, not_false_eq_true, Nat.reduceAdd, Nat.reduceMul, Nat.reduceSub]; omega, by simp (disch := omega) only [fa_lit, nI_add, zz_mul, zz_sub, nI_leI, nI_ltI, nI_eq, nI_clamp, zz_in, zz_m1, zz_m1e, zz_le_m1, zz_m1_le, zz_lt_m1, zz_m1_lt, zz_B0, zz_B1, zz_shr, zz_shl, zz_and31, Nat.mod_eq_of_lt, not_true_eq_false, not_false_eq_true, Nat.reduceAdd, Nat.reduceMul, Nat.reduceSub]; omega, fun c8 => ?_, fun c8 => next ?_⟩
                      · have hc : sdC V t (V 23 s) (V 6 s 2) (V 6 s 1) a w = true := by
                          unfold sdC
                          rw [hst2, decide_eq_true c7, decide_eq_true (show V 22 t w + rdBest V t (V 23 s) (V 6 s 2) (V 6 s 1) (a + wln (V 21 t w)) = rdBest V t (V 23 s) (V 6 s 2) (V 6 s 1) a by omega)]
                          rfl
                        have ew2 : sdW V t (V 23 s) (V 6 s 2) (V 6 s 1) a = w := fs_at d3 hc d2
                        rw [ew2] at b5
                        refine ⟨fun c9 => zqI_IL_i ?_, fun c9 => len (ih (a + wln (V 21 t w)) (i + 1) (by omega) hto (by omega) ?_ c7 ?_ _ _ (nI_add _ _) (nI_1 i))⟩
                        · simp (disch := omega) only [fa_lit, nI_add, zz_mul, zz_sub, nI_leI, nI_ltI, nI_eq, nI_clamp, zz_in, zz_m1, zz_m1e, zz_le_m1, zz_m1_le, zz_lt_m1, zz_m1_lt, zz_B0, zz_B1, zz_shr, zz_shl, zz_and31, Nat.mod_eq_of_lt, not_true_eq_false, not_false_eq_true, Nat.reduceAdd, Nat.reduceMul, Nat.reduceSub] at c9
                          rw [if_pos (by omega)] at b5
                          exact b5
                        · simp (disch := omega) only [fa_lit, nI_add, zz_mul, zz_sub, nI_leI, nI_ltI, nI_eq, nI_clamp, zz_in, zz_m1, zz_m1e, zz_le_m1, zz_m1_le, zz_lt_m1, zz_m1_lt, zz_B0, zz_B1, zz_shr, zz_shl, zz_and31, Nat.mod_eq_of_lt, not_true_eq_false, not_false_eq_true, Nat.reduceAdd, Nat.reduceMul, Nat.reduceSub] at c9
                          omega
                        · simp (disch := omega) only [fa_lit, nI_add, zz_mul, zz_sub, nI_leI, nI_ltI, nI_eq, nI_clamp, zz_in, zz_m1, zz_m1e, zz_le_m1, zz_m1_le, zz_lt_m1, zz_m1_lt, zz_B0, zz_B1, zz_shr, zz_shl, zz_and31, Nat.mod_eq_of_lt, not_true_eq_false, not_false_eq_true, Nat.reduceAdd, Nat.reduceMul, Nat.reduceSub] at c9
                          rw [if_neg (by omega), show k - i - 1 = k - (i + 1) by omega] at b5
                          exact b5
                      · unfold sdC
                        rw [decide_eq_false (show ¬ V 22 t w + rdBest V t (V 23 s) (V 6 s 2) (V 6 s 1) (a + wln (V 21 t w)) = rdBest V t (V 23 s) (V 6 s 2) (V 6 s 1) a by omega), Bool.and_false, Bool.and_false]
                exact gX1_said_81 hx (kX1_kindOf hq hs (kIsR (zK_t hx _ hl.2.1).2 hl.2.1 ht fin fin fin fin))
            exact inner (V 20 t 0) 0 (by omega) (fun q h => absurd h (Nat.not_lt_zero q)) _ rfl
      exact main (V 6 s 2 + 1) 0 0 (by omega) (by omega) (by omega) (by omega) c3 hk' _ _ rfl rfl
  · simp only [idx_at hs (by omega) e, idx_at ht (by decide) e2] at hK
    rw [if_pos (fa_of_nle c)] at hK
    exact hK I L zE_rf zE_rf
  · simp only [idx_at hs (by omega) e, idx_no q] at hK
    exact hK I L zE_rf zE_rf
  · simp only [idx_no q] at hK
    exact hK I L zE_rf zE_rf
