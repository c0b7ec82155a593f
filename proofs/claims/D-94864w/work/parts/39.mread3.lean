/-! READINGS: what is asked of the reference -/
theorem zMr.th {I I' : zI} {x : Int32} (h : zMr (z2 I 2000 2 x) I') : zE [2062, 2066, 2000] I I' ∧ ∀ q, q ∉ [2, 62, 63] → I' 2000 q = I 2000 q := by
  refine ⟨zE_tr (zE_w2 zE_rf (by simp)) h.1, fun q hq => ?_⟩
  simp only [List.mem_cons, List.not_mem_nil, or_false, not_or] at hq
  rw [h.2 q (by simp [hq.2.1, hq.2.2]), z2_nk hq.1]
/-- the scratch of a reading, and thrown -/
def zMs (I I' : zI) : Prop := zE [2062, 2066, 2000] I I' ∧ ∀ q, q ∉ [2, 62, 63] → I' 2000 q = I 2000 q
theorem zMs.e {I I' : zI} (h : zMs I I') : zMe I I' := by
  refine ⟨fun e he => h.1 e ?_, fun f hf => h.2 f ?_⟩
  · have : ∀ e ∈ [2032, 2033, 2034, 2035, 2036, 2037, 2039, 2040, 2041, 2042, 2043, 2044, 2045, 2046, 2061], e ∉ [2062, 2066, 2000] := by decide
    exact this e he
  · have : ∀ f ∈ [12, 13, 14, 15, 16, 19, 57, 58], f ∉ [2, 62, 63] := by decide
    exact this f hf
theorem zMs.th {I : zI} {x : Int32} : zMs I (z2 I 2000 2 x) := ⟨zE_w2 zE_rf (by simp), fun q hq => z2_nk (fun e => hq (by rw [e]; simp))⟩
theorem kX13_isCovered {T : zT} {I : zI} {L : zL} {R : zR} {V : Nat → Nat → Nat → Nat} {t d : Int32} {K : Int32 → Prop} (h : zMq T I R V) (hK : K (if fCov (fun k => V 8 k 0) (fun k => V 8 k 1) (V 5 0 2) t d then 1 else 0)) :
    zMet mX13_isCovered 1 0 [.ref 2000, .int t, .int d] T I L R (zqI_ T I L R K) := by
  have hn := h.2.2.1.2.2.1.1
  have h4 := h.2.1.2.2.1.1
  refine sX13_isCovered (gX13_isCovered_0 h.1 ?_)
  have main : ∀ j k, k + j = V 5 0 2 → ∀ y, y = nI k → (∀ q, q < k → (decide (nI (V 8 q 0) = d) && decide (nI (V 8 q 1) = t)) = false) → zAW mX13_isCovered 1 0 2 [(0, .ref 2000), (1, .int t), (2, .int d), (3, .int y)] [] T I L R (zqI_ T I L R K) := by
    intro j
    induction j with
    | zero =>
      rintro k hk y rfl hq
      obtain rfl : k = V 5 0 2 := by omega
      refine gX13_isCovered_2 h.1 ⟨fun _ => zqI__i ?_, fun c => ?_⟩
      · have e : fCov (fun k => V 8 k 0) (fun k => V 8 k 1) (V 5 0 2) t d = false := by
          unfold fCov
          rw [fs_no hq]
          exact decide_eq_false (Nat.lt_irrefl _)
        rw [e] at hK
        exact hK
      · exfalso
        (try simp (disch := omega) only [h4, fa_lit, nI_add, zz_mul, zz_sub, nI_leI, nI_ltI, nI_eq, nI_clamp, zz_in, zz_m1, zz_m1e, zz_le_m1, zz_m1_le, zz_lt_m1, zz_m1_lt, zz_B0, zz_B1, zz_shr, zz_shl, zz_and31, Nat.mod_eq_of_lt, not_true_eq_false, not_false_eq_true, Nat.reduceAdd, Nat.reduceMul, Nat.reduceSub] at c) <;> (try omega)
    | succ j ih =>
      rintro k hk y rfl hq
      have hf := h.2.1.2.2.1.2 k (by omega)
      have e1 : ((2 : Int32) * nI k).toNatClampNeg = 2 * k := by simp (disch := omega) only [fa_lit, nI_add, zz_mul, zz_sub, nI_leI, nI_ltI, nI_eq, nI_clamp, zz_in, zz_m1, zz_m1e, zz_le_m1, zz_m1_le, zz_lt_m1, zz_m1_lt, zz_B0, zz_B1, zz_shr, zz_shl, zz_and31, Nat.mod_eq_of_lt, not_true_eq_false, not_false_eq_true, Nat.reduceAdd, Nat.reduceMul, Nat.reduceSub]
      have e2 : (((2 : Int32) * nI k) + (1 : Int32)).toNatClampNeg = 2 * k + 1 := by simp (disch := omega) only [fa_lit, nI_add, zz_mul, zz_sub, nI_leI, nI_ltI, nI_eq, nI_clamp, zz_in, zz_m1, zz_m1e, zz_le_m1, zz_m1_le, zz_lt_m1, zz_m1_lt, zz_B0, zz_B1, zz_shr, zz_shl, zz_and31, Nat.mod_eq_of_lt, not_true_eq_false, not_false_eq_true, Nat.reduceAdd, Nat.reduceMul, Nat.reduceSub]
      have next : (decide (nI (V 8 k 0) = d) && decide (nI (V 8 k 1) = t)) = false → zAW mX13_isCovered 1 0 2 [(0, .ref 2000), (1, .int t), (2, .int d), (3, .int (nI k + 1))] [] T I L R (zqI_ T I L R K) := fun h9 => by
        refine ih (k + 1) (by omega) _ (nI_1 k) ?_
        intro q hq2
        by_cases e : q = k
        · rw [e]
          exact h9
        · exact hq q (by omega)
      refine gX13_isCovered_2 h.1 ⟨fun c => ?_, fun _ => ⟨by simp (disch := omega) only [fa_lit, nI_add, zz_mul, zz_sub, nI_leI, nI_ltI, nI_eq, nI_clamp, zz_in, zz_m1, zz_m1e, zz_le_m1, zz_m1_le, zz_lt_m1, zz_m1_lt, zz_B0, zz_B1, zz_shr, zz_shl, zz_and31, Nat.mod_eq_of_lt, not_true_eq_false, not_false_eq_true, Nat.reduceAdd, Nat.reduceMul, Nat.reduceSub]; omega, fun c => ⟨by simp (disch := omega) only [fa_lit, nI_add, zz_mul, zz_sub, nI_leI, nI_ltI, nI_eq, nI_clamp, zz_in, zz_m1, zz_m1e, zz_le_m1, zz_m1_le, zz_lt_m1, zz_m1_lt, zz_B0, zz_B1, zz_shr, zz_shl, zz_and31, Nat.mod_eq_of_lt, not_true_eq_false, not_false_eq_true, Nat.reduceAdd, Nat.reduceMul, Nat.reduceSub]; omega, fun c2 => zqI__i ?_, fun c2 => ?_⟩, fun c => ?_⟩⟩
      · exfalso
        (try simp (disch := omega) only [h4, fa_lit, nI_add, zz_mul, zz_sub, nI_leI, nI_ltI, nI_eq, nI_clamp, zz_in, zz_m1, zz_m1e, zz_le_m1, zz_m1_le, zz_lt_m1, zz_m1_lt, zz_B0, zz_B1, zz_shr, zz_shl, zz_and31, Nat.mod_eq_of_lt, not_true_eq_false, not_false_eq_true, Nat.reduceAdd, Nat.reduceMul, Nat.reduceSub] at c) <;> (try omega)
      · rw [e1, hf.1] at c
        rw [e2, hf.2] at c2
        have e : fCov (fun k => V 8 k 0) (fun k => V 8 k 1) (V 5 0 2) t d = true := by
          unfold fCov
          rw [fs_at (k := k) (by omega) (by show (decide (nI (V 8 k 0) = d) && decide (nI (V 8 k 1) = t)) = true; rw [decide_eq_true c, decide_eq_true c2]; rfl) hq]
          exact decide_eq_true (by omega)
        rw [e] at hK
        exact hK
      · rw [e2, hf.2] at c2
        exact next (by rw [decide_eq_false c2, Bool.and_false])
      · rw [e1, hf.1] at c
        exact next (by rw [decide_eq_false c, Bool.false_and])
  exact main (V 5 0 2) 0 (by omega) _ rfl (fun q h => absurd h (Nat.not_lt_zero q))
theorem kX13_saysOn {T : zT} {I : zI} {L : zL} {R : zR} {V : Nat → Nat → Nat → Nat} {s t d : Nat} {K : Int32 → zI → zL → Prop} (h : zMq T I R V) (hs : s < V 5 0 0) (ht : t < 2) (hK : ∀ I' L', zMr I I' → zE [2065] L L' → K (if sayB V s t d then 1 else 0) I' L') : zMet mX13_saysOn 5 0 [.ref 2000, .int (nI s), .int (nI t), .int (nI d)] T I L R (zqI_IL T R K) := by
  have hl := h.2.2.1.1.2 s hs
  have hb := rdBest_le (f := V 23 s) (kd := V 6 s 1) h.2.2.2.2 ht (Nat.zero_le (V 6 s 2))
  unfold sayB at hK
  refine sX13_saysOn (gX13_saysOn_0 h.1 (kX13_isCovered h ⟨fun c => kX13_reads h hs ht (fun I' L' a1 a2 a3 _ _ => ?_), fun c => zqI_IL_i ?_⟩))
  · have hk := hK I' L' a1 a2
    have hc : fCov (fun k => V 8 k 0) (fun k => V 8 k 1) (V 5 0 2) (nI t) (nI d) = false := by
      cases hc : fCov (fun k => V 8 k 0) (fun k => V 8 k 1) (V 5 0 2) (nI t) (nI d)
      · rfl
      · rw [hc] at c
        exact absurd c (by decide)
    rw [hc] at hk
    rw [(a3 0 (Nat.zero_le _)).2]
    refine ⟨fun c2 => zqI_IL_i ?_, fun c2 => zqI_IL_i ?_⟩
    · rw [(nM_lt0 (by omega)).mp c2] at hk
      exact hk
    · have e : rdBest V t (V 23 s) (V 6 s 2) (V 6 s 1) 0 ≠ 0 := fun q => c2 ((nM_lt0 (by omega)).mpr q)
      rw [decide_eq_true e] at hk
      exact hk
  · have hk := hK I L zMr.rf zE_rf
    have hc : fCov (fun k => V 8 k 0) (fun k => V 8 k 1) (V 5 0 2) (nI t) (nI d) = true := by
      cases hc : fCov (fun k => V 8 k 0) (fun k => V 8 k 1) (V 5 0 2) (nI t) (nI d)
      · rw [hc] at c
        exact absurd rfl c
      · rfl
    rw [hc, Bool.not_true, Bool.and_false] at hk
    exact hk
theorem kX13_ways {T : zT} {I : zI} {L : zL} {R : zR} {V : Nat → Nat → Nat → Nat} {x y : Int32} {K : Int64 → zI → zL → Prop} (h0 : zMq T I R V) (hK : ∀ I' L', zMs I I' → zE [2065] L L' → K (qWays V x y) I' L') : zMet mX13_ways 5 0 [.ref 2000, .int x, .int y] T I L R (zqJ_IL T R K) := by
  have h := h0.e (zMe_th (x := 0))
  have hn := h.2.2.1.1.1
  unfold qWays at hK
  refine sX13_ways (gX13_ways_0 h.1 (kX13_isBoard h (fun s hs e => ⟨fun c => absurd c (by decide), fun _ => kX13_isTongue (fun t ht e2 => ⟨fun c => absurd c (by decide), fun _ => ?_⟩) (fun q => ⟨fun _ => zqJ_IL_i ?_, fun c => absurd rfl c⟩)⟩) (fun q => ⟨fun _ => zqJ_IL_i ?_, fun c => absurd rfl c⟩)))
  · simp only [idx_at hs (by omega) e, idx_at ht (by decide) e2] at hK
    subst e e2
    exact kX13_reads h hs ht (fun I' L' a1 a2 a3 _ _ => zqJ_IL_i (by rw [(a3 0 (Nat.zero_le _)).1]; exact hK I' L' a1.th a2))
  · simp only [idx_at hs (by omega) e, idx_no q] at hK
    exact hK _ L zMs.th zE_rf
  · simp only [idx_no q] at hK
    exact hK _ L zMs.th zE_rf
theorem kX13_worth {T : zT} {I : zI} {L : zL} {R : zR} {V : Nat → Nat → Nat → Nat} {x y : Int32} {K : Int32 → zI → zL → Prop} (h0 : zMq T I R V) (hK : ∀ I' L', zMs I I' → zE [2065] L L' → K (qWorth V x y) I' L') : zMet mX13_worth 5 0 [.ref 2000, .int x, .int y] T I L R (zqI_IL T R K) := by
  have h := h0.e (zMe_th (x := 0))
  have hn := h.2.2.1.1.1
  unfold qWorth at hK
  refine sX13_worth (gX13_worth_0 h.1 (kX13_isBoard h (fun s hs e => ⟨fun c => absurd c (by decide), fun _ => kX13_isTongue (fun t ht e2 => ⟨fun c => absurd c (by decide), fun _ => ?_⟩) (fun q => ⟨fun _ => zqI_IL_i ?_, fun c => absurd rfl c⟩)⟩) (fun q => ⟨fun _ => zqI_IL_i ?_, fun c => absurd rfl c⟩)))
  · simp only [idx_at hs (by omega) e, idx_at ht (by decide) e2] at hK
    subst e e2
    have hl := h.2.2.1.1.2 s hs
    have hb := rdBest_le (f := V 23 s) (kd := V 6 s 1) h.2.2.2.2 ht (Nat.zero_le (V 6 s 2))
    refine kX13_reads h hs ht (fun I' L' a1 a2 a3 _ _ => ?_)
    rw [(a3 0 (Nat.zero_le _)).2, fa_le, nM_toInt (by omega), show (0 : Int32).toInt = 0 by decide]
    have := hK I' L' a1.th a2
    refine ⟨fun c => zqI_IL_i ?_, fun c => zqI_IL_i ?_⟩
    · rw [if_neg (by omega)] at this
      exact this
    · rw [if_pos (by omega)] at this
      exact this
  · simp only [idx_at hs (by omega) e, idx_no q] at hK
    exact hK _ L zMs.th zE_rf
  · simp only [idx_no q] at hK
    exact hK _ L zMs.th zE_rf
theorem kX13_says {T : zT} {I : zI} {L : zL} {R : zR} {V : Nat → Nat → Nat → Nat} {x y z : Int32} {K : Int32 → zI → zL → Prop} (h0 : zMq T I R V) (hK : ∀ I' L', zMs I I' → zE [2065] L L' → K (qSays V x y z) I' L') : zMet mX13_says 6 0 [.ref 2000, .int x, .int y, .int z] T I L R (zqI_IL T R K) := by
  have h := h0.e (zMe_th (x := 0))
  have hn := h.2.2.1.1.1
  unfold qSays at hK
  refine sX13_says (gX13_says_0 h.1 (kX13_isBoard h (fun s hs e => ⟨fun c => absurd c (by decide), fun _ => kX13_isTongue (fun t ht e2 => ⟨fun c => absurd c (by decide), fun _ => kX13_isDay (fun d hd e3 => ⟨fun c => absurd c (by decide), fun _ => ?_⟩) (fun q => ⟨fun _ => zqI_IL_i ?_, fun c => absurd rfl c⟩)⟩) (fun q => ⟨fun _ => zqI_IL_i ?_, fun c => absurd rfl c⟩)⟩) (fun q => ⟨fun _ => zqI_IL_i ?_, fun c => absurd rfl c⟩)))
  · simp only [idx_at hs (by omega) e, idx_at ht (by decide) e2, idx_at hd (by decide) e3] at hK
    subst e e2 e3
    refine kX13_saysOn h hs ht (fun I' L' a1 a2 => ⟨fun c => zqI_IL_i ?_, fun c => zqI_IL_i ?_⟩)
    · have := hK I' L' a1.th a2
      rw [c] at this
      exact this
    · have := hK I' L' a1.th a2
      cases hb : sayB V s t d
      · rw [hb] at c
        exact absurd rfl c
      · rw [hb] at this
        exact this
  · simp only [idx_at hs (by omega) e, idx_at ht (by decide) e2, idx_no q] at hK
    exact hK _ L zMs.th zE_rf
  · simp only [idx_at hs (by omega) e, idx_no q] at hK
    exact hK _ L zMs.th zE_rf
  · simp only [idx_no q] at hK
    exact hK _ L zMs.th zE_rf
