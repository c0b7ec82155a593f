/-! STATES: keep, back, undo of the class -/
theorem kX1_keep {T : zT} {I : zI} {L : zL} {R : zR} {V : Nat → Nat → Nat → Nat} {σ : Nat} {K : Int32 → zI → Prop} (h : zCq T I R σ V)
    (hK : ∀ I1, zBk 1230 I I1 → zSv I1 1230 V 20 → K (nI (V 24 0 0)) (z2 (z2 I1 1000 6 (I 1000 5)) 1000 14 1)) : zMet mX1_keep 3 0 [.ref 1000] T I L R (zqI_I T L R K) := by
  have hTw := h.2.2.2.2.2.1
  have hd : I 1200 2 = nI (V 24 0 0) := h.2.2.2.2.2.2.1.2.2.1
  refine sX1_keep (gX1_keep_0 h.1 (kX10_become (zSL_img h.1) (zSL_now h.1) (by omega) h.2.2.2.2.2.2.1 (fun t ht => (h.2.2.2.2.2.2.2.1 t ht).1) hTw.1.1 (fun s hs => (hTw.1.2 s hs).2.2.2) (fun I1 a1 a2 => zqI_I_i ?_)))
  rw [a1 1200 (by omega), a1 1000 (by omega), hd]
  exact hK I1 a1 a2
theorem kX1_back {T : zT} {I : zI} {L : zL} {R : zR} {V : Nat → Nat → Nat → Nat} {K : Int32 → zI → Prop} (hx : zXok T R) (hTw : zTw V) (h0 : I 1000 14 = 0 → K (-1) I)
    (h1 : I 1000 14 ≠ 0 → zSv I 1230 V 30 ∧ ∀ t, t < 2 → V 30 t 0 ≤ 12) (hK : I 1000 14 ≠ 0 → ∀ I1, zBk 1200 I I1 → zSv I1 1200 V 30 → K (nI (V 34 0 0)) (z2 (z2 I1 1000 5 (I 1000 6)) 1000 4 0)) : zMet mX1_back 3 0 [.ref 1000] T I L R (zqI_I T L R K) := by
  refine sX1_back (gX1_back_0 hx ⟨fun c => zqI_I_i (h0 c), fun c => kX10_become (zSL_now hx) (zSL_img hx) (by omega) (h1 c).1 (h1 c).2 hTw.1.1 (fun s hs => (hTw.1.2 s hs).2.2.2) (fun I1 a1 a2 => zqI_I_i ?_)⟩)
  have hd : I1 1200 2 = nI (V 34 0 0) := a2.2.2.1
  rw [a1 1000 (by omega), hd]
  exact hK c I1 a1 a2
theorem kX1_undo {T : zT} {I : zI} {L : zL} {R : zR} {V : Nat → Nat → Nat → Nat} {m B bb : Nat} {K : Int32 → zI → Prop} (hx : zXok T R) (hTw : zTw V) (h4 : I 1000 4 = nI m) (hm : m ≤ 20) (h0 : m = 0 → K (-1) I)
    (h1 : 0 < m → R 1013 (m - 1) = B ∧ zSL T R B ∧ 5000 ≤ B ∧ zSv I B V bb ∧ ∀ t, t < 2 → V bb t 0 ≤ 12) (hK : 0 < m → ∀ I1, zBk 1200 (z2 I 1000 4 (nI (m - 1))) I1 → zSv I1 1200 V bb → K (nI (m - 1)) I1) : zMet mX1_undo 3 0 [.ref 1000] T I L R (zqI_I T L R K) := by
  refine sX1_undo (gX1_undo_0 hx ⟨fun c => zqI_I_i (h0 ?_), fun c => ?_⟩)
  · simp (disch := omega) only [h4, fa_lit, nI_add, zz_mul, zz_sub, nI_leI, nI_ltI, nI_eq, nI_clamp, zz_in, zz_m1, zz_m1e, zz_le_m1, zz_m1_le, zz_lt_m1, zz_m1_lt, zz_B0, zz_B1, zz_shr, zz_shl, zz_and31, Nat.mod_eq_of_lt, not_true_eq_false, not_false_eq_true, Nat.reduceAdd, Nat.reduceMul, Nat.reduceSub] at c
    exact c
  · simp (disch := omega) only [h4, fa_lit, nI_add, zz_mul, zz_sub, nI_leI, nI_ltI, nI_eq, nI_clamp, zz_in, zz_m1, zz_m1e, zz_le_m1, zz_m1_le, zz_lt_m1, zz_m1_lt, zz_B0, zz_B1, zz_shr, zz_shl, zz_and31, Nat.mod_eq_of_lt, not_true_eq_false, not_false_eq_true, Nat.reduceAdd, Nat.reduceMul, Nat.reduceSub] at c
    have hp : 0 < m := by omega
    obtain ⟨g1, g2, g3, g4, g5⟩ := h1 hp
    rw [h4, nM_dec hp, nI_clamp (by omega), g1]
    refine ⟨by simp (disch := omega) only [fa_lit, nI_add, zz_mul, zz_sub, nI_leI, nI_ltI, nI_eq, nI_clamp, zz_in, zz_m1, zz_m1e, zz_le_m1, zz_m1_le, zz_lt_m1, zz_m1_lt, zz_B0, zz_B1, zz_shr, zz_shl, zz_and31, Nat.mod_eq_of_lt, not_true_eq_false, not_false_eq_true, Nat.reduceAdd, Nat.reduceMul, Nat.reduceSub]; omega, kX10_become (zSL_now hx) g2 (by omega) (g4.of hTw.1.1 (fun k q1 q2 => z2_ro (by omega))) g5 hTw.1.1 (fun s hs => (hTw.1.2 s hs).2.2.2) (fun I1 a1 a2 => zqI_I_i ?_)⟩
    rw [a1 1000 (by omega), z2_s]
    exact hK hp I1 a1 a2
/-- whether an int is a word -/
theorem kX1_isWord {T : zT} {I : zI} {L : zL} {R : zR} {x : Int32} {K : Int32 → Prop} (h1 : ∀ w, wdok w → x = nI w → K 1) (h0 : (¬ ∃ w, wdok w ∧ x = nI w) → K 0) : zMet mX1_isWord 1 0 [.int x] T I L R (zqI_ T I L R K) := by
  refine sX1_isWord (gX1_isWord_0 ⟨fun c => zqI__i (h0 ?_), fun c => ?_⟩)
  · rintro ⟨w, hw, rfl⟩
    have := hw.2.1
    simp (disch := omega) only [fa_lit, nI_add, zz_mul, zz_sub, nI_leI, nI_ltI, nI_eq, nI_clamp, zz_in, zz_m1, zz_m1e, zz_le_m1, zz_m1_le, zz_lt_m1, zz_m1_lt, zz_B0, zz_B1, zz_shr, zz_shl, zz_and31, Nat.mod_eq_of_lt, not_true_eq_false, not_false_eq_true, Nat.reduceAdd, Nat.reduceMul, Nat.reduceSub] at c
    have e : w = 0 := by omega
    subst e
    exact absurd hw.1 (by decide)
  · obtain ⟨w, hw, rfl⟩ := nI_of (x := x) (fun q => c (fa_of_lt q).1)
    refine ⟨fun c2 => ?_, fun c2 => zqI__i (h0 ?_)⟩
    · have w30 : w < 2 ^ 30 := by
        simp (disch := omega) only [fa_lit, nI_add, zz_mul, zz_sub, nI_leI, nI_ltI, nI_eq, nI_clamp, zz_in, zz_m1, zz_m1e, zz_le_m1, zz_m1_le, zz_lt_m1, zz_m1_lt, zz_B0, zz_B1, zz_shr, zz_shl, zz_and31, Nat.mod_eq_of_lt, not_true_eq_false, not_false_eq_true, Nat.reduceAdd, Nat.reduceMul, Nat.reduceSub] at c2
        omega
      have main : ∀ j k, k + j = 6 → (∀ q, q < k → ltr w q ≤ 26 ∧ (wln w ≤ q → ltr w q = 0)) → ∀ y z, y = (if wln w < k then 1 else 0) → z = nI (6 - k) - 1 → zAW mX1_isWord 1 0 17 [(0, .int (nI w)), (1, .int y), (2, .int z)] [] T I L R (zqI_ T I L R K) := by
        intro j
        induction j with
        | zero =>
          rintro k hk hq y z rfl rfl
          obtain rfl : k = 6 := by omega
          refine gX1_isWord_17 ⟨fun _ => ⟨fun c3 => zqI__i (h0 ?_), fun c3 => zqI__i (h1 w ⟨?_, w30, hq⟩ rfl)⟩, fun c3 => absurd (by decide) c3⟩
          · rintro ⟨w', hw', e⟩
            have e2 := (nI_eq (by omega) (by have := hw'.2.1; omega)).mp e
            subst e2
            simp (disch := omega) only [fa_lit, nI_add, zz_mul, zz_sub, nI_leI, nI_ltI, nI_eq, nI_clamp, zz_in, zz_m1, zz_m1e, zz_le_m1, zz_m1_le, zz_lt_m1, zz_m1_lt, zz_B0, zz_B1, zz_shr, zz_shl, zz_and31, Nat.mod_eq_of_lt, not_true_eq_false, not_false_eq_true, Nat.reduceAdd, Nat.reduceMul, Nat.reduceSub] at c3
            have l0 : ltr w 0 = 0 := by
              show w / 2 ^ 25 % 32 = 0
              omega
            have : wln w = 0 := fs_at (by decide) (decide_eq_true l0) (fun i hi => absurd hi (Nat.not_lt_zero i))
            have := hw'.1
            omega
          · rcases Nat.eq_zero_or_pos (wln w) with e | e
            · exfalso
              have l0 : ltr w 0 = 0 := (hq 0 (by omega)).2 (by omega)
              have l1 : w / 2 ^ 25 % 32 = 0 := l0
              refine c3 ?_
              simp (disch := omega) only [fa_lit, nI_add, zz_mul, zz_sub, nI_leI, nI_ltI, nI_eq, nI_clamp, zz_in, zz_m1, zz_m1e, zz_le_m1, zz_m1_le, zz_lt_m1, zz_m1_lt, zz_B0, zz_B1, zz_shr, zz_shl, zz_and31, Nat.mod_eq_of_lt, not_true_eq_false, not_false_eq_true, Nat.reduceAdd, Nat.reduceMul, Nat.reduceSub]
              omega
            · exact e
        | succ j ih =>
          rintro k hk hq y z rfl rfl
          have hl := ltr_lt w k
          have e1 : ((nI w >>> (((5 : Int32) * (nI (6 - k) - 1)) &&& 31)) &&& (31 : Int32)) = nI (ltr w k) := by
            rw [nM_dec (by omega)]
            simp (disch := omega) only [fa_lit, nI_add, zz_mul, zz_sub, nI_leI, nI_ltI, nI_eq, nI_clamp, zz_in, zz_m1, zz_m1e, zz_le_m1, zz_m1_le, zz_lt_m1, zz_m1_lt, zz_B0, zz_B1, zz_shr, zz_shl, zz_and31, Nat.mod_eq_of_lt, not_true_eq_false, not_false_eq_true, Nat.reduceAdd, Nat.reduceMul, Nat.reduceSub]
            unfold ltr
            rw [show 5 * (6 - k - 1) = 25 - 5 * k by omega]
          have bad : ¬ (ltr w k ≤ 26 ∧ (wln w ≤ k → ltr w k = 0)) → K 0 := fun hb => h0 (by
            rintro ⟨w', hw', e⟩
            have e2 := (nI_eq (by omega) (by have := hw'.2.1; omega)).mp e
            subst e2
            exact hb (hw'.2.2 k (by omega)))
          have hfst : wln w < k + 1 ↔ wln w < k ∨ ltr w k = 0 ∧ wln w ≤ k := by
            constructor
            · intro q
              by_cases e : wln w = k
              · have h3 := fa_first_yes (fun k => decide (ltr w k = 0)) 6 (show wln w < 6 by omega)
                have h4 : ltr w (wln w) = 0 := of_decide_eq_true h3
                rw [e] at h4
                exact Or.inr ⟨h4, by omega⟩
              · exact Or.inl (by omega)
            · rintro (q | ⟨_, q⟩) <;> omega
          have hzero : ltr w k = 0 → wln w ≤ k := fun q => by
            rcases Nat.lt_or_ge k (wln w) with q2 | q2
            · have h3 := fa_first_no (fun k => decide (ltr w k = 0)) 6 k q2
              rw [decide_eq_false_iff_not] at h3
              exact absurd q h3
            · exact q2
          have go : (ltr w k ≤ 26 ∧ (wln w ≤ k → ltr w k = 0)) → ∀ y, y = (if wln w < k then (1 : Int32) else 0) → zAW mX1_isWord 1 0 46 [(0, .int (nI w)), (1, .int y), (2, .int (nI (6 - k) - 1)), (3, .int (nI (ltr w k)))] [] T I L R (zqI_ T I L R K) := by
            rintro hok y rfl
            have nx : ∀ v, v = (if wln w < k + 1 then (1 : Int32) else 0) → zAW mX1_isWord 1 0 17 [(0, .int (nI w)), (1, .int v), (2, .int ((nI (6 - k) - 1) + (-1 : Int32)))] [] T I L R (zqI_ T I L R K) := fun v hv => by
              refine ih (k + 1) (by omega) (fun q hq2 => ?_) _ _ hv ?_
              · by_cases e : q = k
                · rw [e]
                  exact hok
                · exact hq q (by omega)
              · rw [nM_dec (by omega), show 6 - k - 1 = 6 - (k + 1) by omega, Int32.sub_eq_add_neg]
            refine gX1_isWord_46 ⟨fun c3 => nx _ ?_, fun c3 => nx _ ?_⟩
            · simp (disch := omega) only [fa_lit, nI_add, zz_mul, zz_sub, nI_leI, nI_ltI, nI_eq, nI_clamp, zz_in, zz_m1, zz_m1e, zz_le_m1, zz_m1_le, zz_lt_m1, zz_m1_lt, zz_B0, zz_B1, zz_shr, zz_shl, zz_and31, Nat.mod_eq_of_lt, not_true_eq_false, not_false_eq_true, Nat.reduceAdd, Nat.reduceMul, Nat.reduceSub] at c3
              rw [if_pos (hfst.mpr (Or.inr ⟨c3, hzero c3⟩))]
              split <;> decide
            · simp (disch := omega) only [fa_lit, nI_add, zz_mul, zz_sub, nI_leI, nI_ltI, nI_eq, nI_clamp, zz_in, zz_m1, zz_m1e, zz_le_m1, zz_m1_le, zz_lt_m1, zz_m1_lt, zz_B0, zz_B1, zz_shr, zz_shl, zz_and31, Nat.mod_eq_of_lt, not_true_eq_false, not_false_eq_true, Nat.reduceAdd, Nat.reduceMul, Nat.reduceSub] at c3
              by_cases e : wln w < k
              · rw [if_pos e, if_pos (by omega)]
                decide
              · rw [if_neg e, if_neg (fun q => (hfst.mp q).elim e (fun q => c3 q.1))]
                decide
          refine gX1_isWord_17 ⟨fun c3 => ?_, fun _ => ?_⟩
          · exfalso
            rw [nM_lt0 (by omega)] at c3
            omega
          · rw [e1]
            refine ⟨fun c3 => zqI__i (bad ?_), fun c3 => ⟨fun c4 => ?_, fun c4 => ⟨fun c5 => ?_, fun c5 => zqI__i (bad ?_)⟩⟩⟩
            · simp (disch := omega) only [fa_lit, nI_add, zz_mul, zz_sub, nI_leI, nI_ltI, nI_eq, nI_clamp, zz_in, zz_m1, zz_m1e, zz_le_m1, zz_m1_le, zz_lt_m1, zz_m1_lt, zz_B0, zz_B1, zz_shr, zz_shl, zz_and31, Nat.mod_eq_of_lt, not_true_eq_false, not_false_eq_true, Nat.reduceAdd, Nat.reduceMul, Nat.reduceSub] at c3
              rintro ⟨q, _⟩
              omega
            · simp (disch := omega) only [fa_lit, nI_add, zz_mul, zz_sub, nI_leI, nI_ltI, nI_eq, nI_clamp, zz_in, zz_m1, zz_m1e, zz_le_m1, zz_m1_le, zz_lt_m1, zz_m1_lt, zz_B0, zz_B1, zz_shr, zz_shl, zz_and31, Nat.mod_eq_of_lt, not_true_eq_false, not_false_eq_true, Nat.reduceAdd, Nat.reduceMul, Nat.reduceSub] at c3
              have e : ¬ wln w < k := fun q => by
                rw [if_pos q] at c4
                exact absurd c4 (by decide)
              by_cases hz : ltr w k = 0
              · exact go ⟨by omega, fun _ => hz⟩ _ rfl
              · refine go ⟨by omega, fun q => ?_⟩ _ rfl
                have e2 : wln w = k := by omega
                have h3 := fa_first_yes (fun k => decide (ltr w k = 0)) 6 (show wln w < 6 by omega)
                have h4 : ltr w (wln w) = 0 := of_decide_eq_true h3
                rw [e2] at h4
                exact h4
            · simp (disch := omega) only [fa_lit, nI_add, zz_mul, zz_sub, nI_leI, nI_ltI, nI_eq, nI_clamp, zz_in, zz_m1, zz_m1e, zz_le_m1, zz_m1_le, zz_lt_m1, zz_m1_lt, zz_B0, zz_B1, zz_shr, zz_shl, zz_and31, Nat.mod_eq_of_lt, not_true_eq_false, not_false_eq_true, Nat.reduceAdd, Nat.reduceMul, Nat.reduceSub] at c3
              simp (disch := omega) only [fa_lit, nI_add, zz_mul, zz_sub, nI_leI, nI_ltI, nI_eq, nI_clamp, zz_in, zz_m1, zz_m1e, zz_le_m1, zz_m1_le, zz_lt_m1, zz_m1_lt, zz_B0, zz_B1, zz_shr, zz_shl, zz_and31, Nat.mod_eq_of_lt, not_true_eq_false, not_false_eq_true, Nat.reduceAdd, Nat.reduceMul, Nat.reduceSub] at c5
              exact go ⟨by omega, fun _ => c5⟩ _ rfl
            · simp (disch := omega) only [fa_lit, nI_add, zz_mul, zz_sub, nI_leI, nI_ltI, nI_eq, nI_clamp, zz_in, zz_m1, zz_m1e, zz_le_m1, zz_m1_le, zz_lt_m1, zz_m1_lt, zz_B0, zz_B1, zz_shr, zz_shl, zz_and31, Nat.mod_eq_of_lt, not_true_eq_false, not_false_eq_true, Nat.reduceAdd, Nat.reduceMul, Nat.reduceSub] at c5
              have e : wln w < k := Classical.byContradiction fun q => by
                rw [if_neg q] at c4
                exact c4 rfl
              rintro ⟨_, q⟩
              exact c5 (q (by omega))
      exact main 6 0 rfl (fun q h => absurd h (Nat.not_lt_zero q)) _ _ rfl (by decide)
    · rintro ⟨w', hw', e⟩
      have e2 := (nI_eq (by omega) (by have := hw'.2.1; omega)).mp e
      subst e2
      have := hw'.2.1
      refine c2 ?_
      simp (disch := omega) only [fa_lit, nI_add, zz_mul, zz_sub, nI_leI, nI_ltI, nI_eq, nI_clamp, zz_in, zz_m1, zz_m1e, zz_le_m1, zz_m1_le, zz_lt_m1, zz_m1_lt, zz_B0, zz_B1, zz_shr, zz_shl, zz_and31, Nat.mod_eq_of_lt, not_true_eq_false, not_false_eq_true, Nat.reduceAdd, Nat.reduceMul, Nat.reduceSub]
      omega
