/-! QUERIES: the reference's public ones -/
theorem zN7 {x : Int32} {n : Nat} (h : ¬ x = nI n) : ∀ j, x = nI j → j ≠ n := fun j e q => h (by rw [e, q])
theorem kX13_fault {T : zT} {I : zI} {L : zL} {R : zR} {V : Nat → Nat → Nat → Nat} {x : Int32} {K : Int32 → zI → Prop} (hx : zMok T R) (h2 : I 2000 4 = nI (V 13 0 2)) (h3 : I 2000 5 = nI (V 13 0 3) - 1) (hK : K (qFault V x) (z2 I 2000 2 0)) : zMet mX13_fault 1 0 [.ref 2000, .int x] T I L R (zqI_I T L R K) := by
  unfold qFault at hK
  refine sX13_fault (gX13_fault_0 hx ⟨fun c => zqI_I_i ?_, fun c => ⟨fun c2 => zqI_I_i ?_, fun c2 => zqI_I_i ?_⟩⟩)
  · rw [if_pos c] at hK
    rw [h2]
    exact hK
  · rw [if_neg c, if_pos c2] at hK
    rw [h3]
    exact hK
  · rw [if_neg c, if_neg c2] at hK
    exact hK
theorem kX13_letter {T : zT} {I : zI} {L : zL} {R : zR} {V : Nat → Nat → Nat → Nat} {x y : Int32} {K : Int32 → zI → Prop} (h0 : zMq T I R V) (hK : K (qLetter V x y) (z2 I 2000 2 0)) : zMet mX13_letter 3 0 [.ref 2000, .int x, .int y] T I L R (zqI_I T L R K) := by
  have h := h0.e (zMe_th (x := 0))
  have h6 := h.2.2.1.1.1
  refine sX13_letter (gX13_letter_0 h.1 (kX13_isLetter h (fun s k hs hk e1 e2 => ⟨fun c => absurd c (by decide), fun _ => ?_⟩) (fun q => ⟨fun _ => zqI_I_i ?_, fun c => absurd rfl c⟩)))
  · have h7 := h.2.2.1.1.2 s hs
    unfold qLetter at hK
    rw [idx_at hs (by omega) e1] at hK
    simp only [idx_at hk (by omega) e2] at hK
    subst e1 e2
    have hr : I 2061 (12 * s + k) = nI (V 23 s k) := h0.2.2.2.1.2.1 s hs k hk
    have e3 : (((12 : Int32) * nI s) + nI k).toNatClampNeg = 12 * s + k := by simp (disch := omega) only [fa_lit, nI_add, zz_mul, zz_sub, nI_leI, nI_ltI, nI_eq, nI_clamp, zz_in, zz_m1, zz_m1e, zz_le_m1, zz_m1_le, zz_lt_m1, zz_m1_lt, zz_B0, zz_B1, zz_shr, zz_shl, zz_and31, Nat.mod_eq_of_lt, not_true_eq_false, not_false_eq_true, Nat.reduceAdd, Nat.reduceMul, Nat.reduceSub]
    rw [e3, hr]
    exact ⟨by simp (disch := omega) only [fa_lit, nI_add, zz_mul, zz_sub, nI_leI, nI_ltI, nI_eq, nI_clamp, zz_in, zz_m1, zz_m1e, zz_le_m1, zz_m1_le, zz_lt_m1, zz_m1_lt, zz_B0, zz_B1, zz_shr, zz_shl, zz_and31, Nat.mod_eq_of_lt, not_true_eq_false, not_false_eq_true, Nat.reduceAdd, Nat.reduceMul, Nat.reduceSub]; omega, zqI_I_i hK⟩
  · have e : qLetter V x y = -1 := by
      unfold qLetter
      cases e1 : idx x (V 5 0 0) with
      | none => rfl
      | some s =>
        cases e2 : idx y (V 6 s 2) with
        | none => simp only [e2]
        | some k => exact absurd ⟨s, k, (idx_some e1).1, (idx_some e2).1, (idx_some e1).2, (idx_some e2).2⟩ q
    rw [e] at hK
    exact hK
theorem kX13_named {T : zT} {I : zI} {L : zL} {R : zR} {V : Nat → Nat → Nat → Nat} {x y : Int32} {K : Int32 → zI → Prop} (h0 : zMq T I R V) (hK : K (qNamed V x y) (z2 I 2000 2 0)) : zMet mX13_named 2 0 [.ref 2000, .int x, .int y] T I L R (zqI_I T L R K) := by
  have h := h0.e (zMe_th (x := 0))
  have hn := h.2.2.1.1.1
  have tongue : ∀ t, t < 2 → x = nI t → zAW mX13_named 2 0 14 [(0, .ref 2000), (1, .int x), (2, .int y)] [] T (z2 I 2000 2 0) L R (zqI_I T L R K) := by
    rintro t ht rfl
    unfold qNamed at hK
    simp only [idx_at (show t < 3 by omega) (by decide) rfl] at hK
    rw [if_neg (by omega)] at hK
    have hv := h.2.2.2.1.1 t ht
    have hw := (h.2.2.2.2.1 t ht).1
    refine gX13_named_14 h.1 ⟨by simp (disch := omega) only [fa_lit, nI_add, zz_mul, zz_sub, nI_leI, nI_ltI, nI_eq, nI_clamp, zz_in, zz_m1, zz_m1e, zz_le_m1, zz_m1_le, zz_lt_m1, zz_m1_lt, zz_B0, zz_B1, zz_shr, zz_shl, zz_and31, Nat.mod_eq_of_lt, not_true_eq_false, not_false_eq_true, Nat.reduceAdd, Nat.reduceMul, Nat.reduceSub]; omega, kX13_find (a := 12 * t) (n := V 20 t 0) (zM_t2033 h.1) (by simp (disch := omega) only [fa_lit, nI_add, zz_mul, zz_sub, nI_leI, nI_ltI, nI_eq, nI_clamp, zz_in, zz_m1, zz_m1e, zz_le_m1, zz_m1_le, zz_lt_m1, zz_m1_lt, zz_B0, zz_B1, zz_shr, zz_shl, zz_and31, Nat.mod_eq_of_lt, not_true_eq_false, not_false_eq_true, Nat.reduceAdd, Nat.reduceMul, Nat.reduceSub]) (by rw [nI_clamp (by omega)]; exact hv.1) (by omega) (by decide) (fun k hk => (hv.2 k hk).1) (zqI_I_i hK)⟩
  refine sX13_named (gX13_named_0 h.1 ⟨fun c => tongue 0 (by decide) c, fun c0 => ⟨fun c => tongue 1 (by decide) c, fun c1 => ⟨fun c => ?_, fun c2 => zqI_I_i ?_⟩⟩⟩)
  · unfold qNamed at hK
    simp only [idx_at (show 2 < 3 by omega) (by decide) c] at hK
    rw [if_pos trivial] at hK
    exact kX13_find (a := 0) (n := V 5 0 0) (zM_t2035 h.1) rfl h0.2.1.1.1 (by omega) (by decide) (fun k hk => by rw [Nat.zero_add]; exact (h.2.1.1.2 k hk).1) (zqI_I_i hK)
  · unfold qNamed at hK
    rw [idx_no (fun ⟨j, g1, g2⟩ => by
      match j, g1 with
      | 0, _ => exact c0 g2
      | 1, _ => exact c1 g2
      | 2, _ => exact c2 g2)] at hK
    exact hK
theorem kX13_word {T : zT} {I : zI} {L : zL} {R : zR} {V : Nat → Nat → Nat → Nat} {x y z : Int32} {K : Int32 → zI → Prop} (h0 : zMq T I R V) (hK : K (qWord V x y z) (z2 I 2000 2 0)) : zMet mX13_word 2 0 [.ref 2000, .int x, .int y, .int z] T I L R (zqI_I T L R K) := by
  have h := h0.e (zMe_th (x := 0))
  refine sX13_word (gX13_word_0 h.1 (kX13_isTongue (fun t ht e => ⟨fun c => absurd c (by decide), fun _ => ?_⟩) (fun q => ⟨fun _ => zqI_I_i ?_, fun c => absurd rfl c⟩)))
  · unfold qWord at hK
    simp only [idx_at ht (by decide) e] at hK
    subst e
    have hv := h0.2.2.2.1.1 t ht
    have hw := (h0.2.2.2.2.1 t ht).1
    refine ⟨fun c => zqI_I_i ?_, fun c => ?_⟩
    · rw [idx_no (by rintro ⟨j, g1, rfl⟩; (try simp (disch := omega) only [fa_lit, nI_add, zz_mul, zz_sub, nI_leI, nI_ltI, nI_eq, nI_clamp, zz_in, zz_m1, zz_m1e, zz_le_m1, zz_m1_le, zz_lt_m1, zz_m1_lt, zz_B0, zz_B1, zz_shr, zz_shl, zz_and31, Nat.mod_eq_of_lt, not_true_eq_false, not_false_eq_true, Nat.reduceAdd, Nat.reduceMul, Nat.reduceSub] at c) <;> (try omega))] at hK
      exact hK
    · obtain ⟨i, hi, rfl⟩ := nI_of c
      rw [nI_clamp (by omega), hv.1]
      have e3 : V 20 t 0 ≤ 12 → i < V 20 t 0 → (((12 : Int32) * nI t) + nI i).toNatClampNeg = 12 * t + i := fun _ _ => by simp (disch := omega) only [fa_lit, nI_add, zz_mul, zz_sub, nI_leI, nI_ltI, nI_eq, nI_clamp, zz_in, zz_m1, zz_m1e, zz_le_m1, zz_m1_le, zz_lt_m1, zz_m1_lt, zz_B0, zz_B1, zz_shr, zz_shl, zz_and31, Nat.mod_eq_of_lt, not_true_eq_false, not_false_eq_true, Nat.reduceAdd, Nat.reduceMul, Nat.reduceSub]
      refine ⟨by simp (disch := omega) only [fa_lit, nI_add, zz_mul, zz_sub, nI_leI, nI_ltI, nI_eq, nI_clamp, zz_in, zz_m1, zz_m1e, zz_le_m1, zz_m1_le, zz_lt_m1, zz_m1_lt, zz_B0, zz_B1, zz_shr, zz_shl, zz_and31, Nat.mod_eq_of_lt, not_true_eq_false, not_false_eq_true, Nat.reduceAdd, Nat.reduceMul, Nat.reduceSub]; omega, fun c2 => ?_, fun c2 => zqI_I_i ?_⟩
      · have hw2 : i < V 20 t 0 := by simp (disch := omega) only [fa_lit, nI_add, zz_mul, zz_sub, nI_leI, nI_ltI, nI_eq, nI_clamp, zz_in, zz_m1, zz_m1e, zz_le_m1, zz_m1_le, zz_lt_m1, zz_m1_lt, zz_B0, zz_B1, zz_shr, zz_shl, zz_and31, Nat.mod_eq_of_lt, not_true_eq_false, not_false_eq_true, Nat.reduceAdd, Nat.reduceMul, Nat.reduceSub] at c2; exact c2
        simp only [idx_at hw2 (by omega) rfl] at hK
        rw [e3 hw hw2, (hv.2 i hw2).1, (hv.2 i hw2).2]
        refine ⟨fun c3 => ⟨by simp (disch := omega) only [fa_lit, nI_add, zz_mul, zz_sub, nI_leI, nI_ltI, nI_eq, nI_clamp, zz_in, zz_m1, zz_m1e, zz_le_m1, zz_m1_le, zz_lt_m1, zz_m1_lt, zz_B0, zz_B1, zz_shr, zz_shl, zz_and31, Nat.mod_eq_of_lt, not_true_eq_false, not_false_eq_true, Nat.reduceAdd, Nat.reduceMul, Nat.reduceSub]; omega, zqI_I_i ?_⟩, fun c3 => ⟨fun c4 => ⟨by simp (disch := omega) only [fa_lit, nI_add, zz_mul, zz_sub, nI_leI, nI_ltI, nI_eq, nI_clamp, zz_in, zz_m1, zz_m1e, zz_le_m1, zz_m1_le, zz_lt_m1, zz_m1_lt, zz_B0, zz_B1, zz_shr, zz_shl, zz_and31, Nat.mod_eq_of_lt, not_true_eq_false, not_false_eq_true, Nat.reduceAdd, Nat.reduceMul, Nat.reduceSub]; omega, zqI_I_i ?_⟩, fun c4 => zqI_I_i ?_⟩⟩
        · rw [if_pos c3] at hK
          exact hK
        · rw [if_neg c3, if_pos c4] at hK
          exact hK
        · rw [if_neg c3, if_neg c4] at hK
          exact hK
      · have hw2 : ¬ i < V 20 t 0 := by simp (disch := omega) only [fa_lit, nI_add, zz_mul, zz_sub, nI_leI, nI_ltI, nI_eq, nI_clamp, zz_in, zz_m1, zz_m1e, zz_le_m1, zz_m1_le, zz_lt_m1, zz_m1_lt, zz_B0, zz_B1, zz_shr, zz_shl, zz_and31, Nat.mod_eq_of_lt, not_true_eq_false, not_false_eq_true, Nat.reduceAdd, Nat.reduceMul, Nat.reduceSub] at c2; exact c2
        rw [idx_no (by rintro ⟨j, g1, g2⟩; exact hw2 (by rw [(nI_eq (by omega) (by omega)).mp g2]; exact g1))] at hK
        exact hK
  · unfold qWord at hK
    rw [idx_no q] at hK
    exact hK
theorem kX13_allLost {T : zT} {I : zI} {L : zL} {R : zR} {V : Nat → Nat → Nat → Nat} {K : Int32 → Prop} (h : zMq T I R V) (hK : K (nI (fSum (fun s => fLost (V 23 s) (V 6 s 2)) (V 5 0 0)))) : zMet mX13_allLost 2 0 [.ref 2000] T I L R (zqI_ T I L R K) := by
  have hn := h.2.2.1.1.1
  refine sX13_allLost (gX13_allLost_0 h.1 ?_)
  have main : ∀ j k, k + j = V 5 0 0 → ∀ x y, x = nI (fSum (fun s => fLost (V 23 s) (V 6 s 2)) k) → y = nI k → zAW mX13_allLost 2 0 4 [(0, .ref 2000), (1, .int x), (2, .int y)] [] T I L R (zqI_ T I L R K) := by
    intro j
    induction j with
    | zero =>
      rintro k hk x y rfl rfl
      obtain rfl : k = V 5 0 0 := by omega
      refine gX13_allLost_4 h.1 ⟨fun _ => zqI__i hK, fun c => ?_⟩
      exfalso
      rw [h.2.1.1.1] at c
      (try simp (disch := omega) only [fa_lit, nI_add, zz_mul, zz_sub, nI_leI, nI_ltI, nI_eq, nI_clamp, zz_in, zz_m1, zz_m1e, zz_le_m1, zz_m1_le, zz_lt_m1, zz_m1_lt, zz_B0, zz_B1, zz_shr, zz_shl, zz_and31, Nat.mod_eq_of_lt, not_true_eq_false, not_false_eq_true, Nat.reduceAdd, Nat.reduceMul, Nat.reduceSub] at c) <;> (try omega)
    | succ j ih =>
      rintro k hk x y rfl rfl
      refine gX13_allLost_4 h.1 ⟨fun c => ?_, fun _ => kX13_lostOf h (by omega) (ih (k + 1) (by omega) _ _ (nI_add _ _) (nI_1 k))⟩
      exfalso
      rw [h.2.1.1.1] at c
      (try simp (disch := omega) only [fa_lit, nI_add, zz_mul, zz_sub, nI_leI, nI_ltI, nI_eq, nI_clamp, zz_in, zz_m1, zz_m1e, zz_le_m1, zz_m1_le, zz_lt_m1, zz_m1_lt, zz_B0, zz_B1, zz_shr, zz_shl, zz_and31, Nat.mod_eq_of_lt, not_true_eq_false, not_false_eq_true, Nat.reduceAdd, Nat.reduceMul, Nat.reduceSub] at c) <;> (try omega)
  exact main (V 5 0 0) 0 (by omega) _ _ rfl rfl
theorem kX13_count {T : zT} {I : zI} {L : zL} {R : zR} {V : Nat → Nat → Nat → Nat} {x : Int32} {K : Int32 → zI → Prop} (h0 : zMq T I R V) (h9 : I 2000 66 = nI (V 13 0 4)) (hK : K (qCount V x) (z2 I 2000 2 0)) : zMet mX13_count 3 0 [.ref 2000, .int x] T I L R (zqI_I T L R K) := by
  have h := h0.e (zMe_th (x := 0))
  unfold qCount at hK
  refine sX13_count (gX13_count_0 h.1 ⟨fun c => ?_, fun c0 => ⟨fun c => ?_, fun c1 => ⟨fun c => ?_, fun c2 => ⟨fun c => ?_, fun c3 => ⟨fun c => ?_, fun c4 => ⟨fun c => ?_, fun c5 => ⟨fun c => ?_, fun c6 => ⟨fun c => ?_, fun c7 => ⟨fun c => ?_, fun c8 => ⟨fun c => ?_, fun c9 => zqI_I_i ?_⟩⟩⟩⟩⟩⟩⟩⟩⟩⟩)
  · simp only [idx_at (show 0 < 10 by omega) (by decide) c] at hK
    exact zqI_I_i (by rw [(h0.2.2.2.1.1 0 (by decide)).1]; exact hK)
  · simp only [idx_at (show 1 < 10 by omega) (by decide) c] at hK
    exact zqI_I_i (by rw [(h0.2.2.2.1.1 1 (by decide)).1]; exact hK)
  · simp only [idx_at (show 2 < 10 by omega) (by decide) c] at hK
    exact zqI_I_i (by rw [h0.2.1.1.1]; exact hK)
  · simp only [idx_at (show 3 < 10 by omega) (by decide) c] at hK
    exact zqI_I_i (by rw [h0.2.1.2.1.1]; exact hK)
  · simp only [idx_at (show 4 < 10 by omega) (by decide) c] at hK
    exact zqI_I_i (by rw [h0.2.1.2.2.2.1.1]; exact hK)
  · simp only [idx_at (show 5 < 10 by omega) (by decide) c] at hK
    exact zqI_I_i (by rw [h0.2.1.2.2.2.2.2.1.1]; exact hK)
  · simp only [idx_at (show 6 < 10 by omega) (by decide) c] at hK
    exact zqI_I_i (by rw [h0.2.2.2.1.2.2.1]; exact hK)
  · simp only [idx_at (show 7 < 10 by omega) (by decide) c] at hK
    exact zqI_I_i (by rw [h0.2.2.2.1.2.2.2]; exact hK)
  · simp only [idx_at (show 8 < 10 by omega) (by decide) c] at hK
    exact zqI_I_i (by rw [h9]; exact hK)
  · simp only [idx_at (show 9 < 10 by omega) (by decide) c] at hK
    exact kX13_allLost h (zqI_I_i hK)
  · have e : idx x 10 = none := idx_no (by
      rintro ⟨j, g1, g2⟩
      match j, g1 with
      | 0, _ => exact c0 g2
      | 1, _ => exact c1 g2
      | 2, _ => exact c2 g2
      | 3, _ => exact c3 g2
      | 4, _ => exact c4 g2
      | 5, _ => exact c5 g2
      | 6, _ => exact c6 g2
      | 7, _ => exact c7 g2
      | 8, _ => exact c8 g2
      | 9, _ => exact c9 g2)
    simp only [e] at hK
    exact hK
theorem kX13_look {T : zT} {I : zI} {L : zL} {R : zR} {V : Nat → Nat → Nat → Nat} {x y : Int32} {K : Int32 → zI → Prop} (h0 : zMq T I R V) (hK : ∀ I', zE [2000] I I' → (∀ f, f ≠ 2 → I' 2000 f = I 2000 f) → I' 2000 2 = nI (qLook V x y).1 → K (nI (qLook V x y).2) I') : zMet mX13_look 2 0 [.ref 2000, .int x, .int y] T I L R (zqI_I T L R K) := by
  have h := h0.e (zMe_th (x := 0))
  have hn := h.2.2.1.1.1
  have k1 : (qLook V x y).1 = 0 → K (nI (qLook V x y).2) (z2 I 2000 2 0) := fun e => hK _ (zE_w2 zE_rf (by simp)) (fun f hf => z2_nk hf) (by rw [z2_s, e]; rfl)
  have k2 : ∀ c, (qLook V x y).1 = c → K (nI (qLook V x y).2) (z2 (z2 I 2000 2 0) 2000 2 (nI c)) := fun c e => hK _ (zE_w2 (zE_w2 zE_rf (by simp)) (by simp)) (fun f hf => by rw [z2_nk hf, z2_nk hf]) (by rw [z2_s, e])
  unfold qLook at k1 k2
  refine sX13_look (gX13_look_0 h.1 (kX13_isBoard h (fun s hs e => ⟨fun c => absurd c (by decide), fun _ => ?_⟩) (fun q => ⟨fun _ => ?_, fun c => absurd rfl c⟩)))
  · have hw := h.2.2.1.1.2 s hs
    have hv := h0.2.1.1.2 s hs
    simp only [idx_at hs (by omega) e] at k1 k2
    subst e
    refine ⟨fun c => ⟨by simp (disch := omega) only [fa_lit, nI_add, zz_mul, zz_sub, nI_leI, nI_ltI, nI_eq, nI_clamp, zz_in, zz_m1, zz_m1e, zz_le_m1, zz_m1_le, zz_lt_m1, zz_m1_lt, zz_B0, zz_B1, zz_shr, zz_shl, zz_and31, Nat.mod_eq_of_lt, not_true_eq_false, not_false_eq_true, Nat.reduceAdd, Nat.reduceMul, Nat.reduceSub]; omega, zqI_I_i ?_⟩, fun c0 => ⟨fun c => ⟨by simp (disch := omega) only [fa_lit, nI_add, zz_mul, zz_sub, nI_leI, nI_ltI, nI_eq, nI_clamp, zz_in, zz_m1, zz_m1e, zz_le_m1, zz_m1_le, zz_lt_m1, zz_m1_lt, zz_B0, zz_B1, zz_shr, zz_shl, zz_and31, Nat.mod_eq_of_lt, not_true_eq_false, not_false_eq_true, Nat.reduceAdd, Nat.reduceMul, Nat.reduceSub]; omega, zqI_I_i ?_⟩, fun c1 => ⟨fun c => kX13_lostOf h hs (zqI_I_i ?_), fun c2 => ⟨fun c => kX13_ironOf h hs (zqI_I_i ?_), fun c3 => ?_⟩⟩⟩⟩
    · simp only [idx_at (show 0 < 4 by omega) (by decide) c] at k1
      rw [nI_clamp (by omega), hv.2.1]
      exact k1 trivial
    · simp only [idx_at (show 1 < 4 by omega) (by decide) c] at k1
      rw [nI_clamp (by omega), hv.2.2]
      exact k1 trivial
    · simp only [idx_at (show 2 < 4 by omega) (by decide) c] at k1
      exact k1 trivial
    · simp only [idx_at (show 3 < 4 by omega) (by decide) c] at k1
      exact k1 trivial
    · have e : idx y 4 = none := idx_no (by
        rintro ⟨j, g1, g2⟩
        match j, g1 with
        | 0, _ => exact c0 g2
        | 1, _ => exact c1 g2
        | 2, _ => exact c2 g2
        | 3, _ => exact c3 g2)
      simp only [e] at k2
      exact sX13_fails (gX13_fails_0 h.1 (zqI_I_i (zqI_I_i (k2 2 rfl))))
  · simp only [idx_no q] at k2
    exact sX13_fails (gX13_fails_0 h.1 (zqI_I_i (zqI_I_i (k2 1 rfl))))
