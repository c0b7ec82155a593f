/-! STATES: put, coin, undo of the reference -/
theorem kX13_put {T : zT} {I : zI} {L : zL} {R : zR} {V : Nat → Nat → Nat → Nat} {m : Nat} {x y z : Int32} {K : Int32 → zI → Prop} (h0 : zMq T I R V) (h66 : I 2000 66 = nI m) (hm : m ≤ 20)
    (hno : (¬ ∃ s k d, s < V 5 0 0 ∧ k < V 6 s 2 ∧ 1 ≤ d ∧ d ≤ 26 ∧ x = nI s ∧ y = nI k ∧ z = nI d ∧ V 23 s k ≠ d) → K (-1) (z2 I 2000 2 0))
    (h2 : ∀ s k d, s < V 5 0 0 → k < V 6 s 2 → 1 ≤ d → d ≤ 26 → x = nI s → y = nI k → z = nI d → V 23 s k ≠ d → V 24 0 1 < V 11 d 0 → K (-2) (z2 I 2000 2 0))
    (h1 : ∀ s k d, s < V 5 0 0 → k < V 6 s 2 → 1 ≤ d → d ≤ 26 → x = nI s → y = nI k → z = nI d → V 23 s k ≠ d → V 11 d 0 ≤ V 24 0 1 → ∀ I' n o, zRm I m I' n o (nI (12 * s + k)) (nI (V 23 s k)) (nI (V 11 d 0)) → K (nI (V 11 d 0)) (z2 (z2 I' 2061 (12 * s + k) (nI d)) 2000 58 (nI (V 24 0 1 - V 11 d 0)))) :
    zMet mX13_put 3 0 [.ref 2000, .int x, .int y, .int z] T I L R (zqI_I T L R K) := by
  have h := h0.e (zMe_th (x := 0))
  have hn := h.2.2.1.1.1
  refine sX13_put (gX13_put_0 h.1 (kX13_isLetter h (fun s k hs hl e1 e2 => ⟨fun q => absurd q (by decide), fun _ => kX13_isIn (a := 1) (b := 26) rfl rfl (by decide) (by decide) (fun d d1 d2 e3 => ⟨fun q => absurd q (by decide), fun _ => ?_⟩) (fun q => ⟨fun _ => zqI_I_i (hno (fun ⟨s, k, d, g1, g2, g3, g4, g5, g6, g7, _⟩ => q ⟨d, g3, g4, g7⟩)), fun q => absurd rfl q⟩)⟩) (fun q => ⟨fun _ => zqI_I_i (hno (fun ⟨s, k, d, g1, g2, g3, g4, g5, g6, g7, _⟩ => q ⟨s, k, g1, g2, g5, g6⟩)), fun q => absurd rfl q⟩)))
  have hw := h.2.2.1.1.2 s hs
  have hv : I 2061 (12 * s + k) = nI (V 23 s k) := h0.2.2.2.1.2.1 s hs k hl
  have hv2 : V 23 s k ≤ 26 := h0.2.2.2.2.2.1 s hs k hl
  have hp : I 2000 58 = nI (V 24 0 1) := h0.2.2.2.1.2.2.2
  have hp2 : V 24 0 1 ≤ 9999 := h0.2.2.2.2.2.2.2
  have g9 : I 2043 d = nI (V 11 d 0) := h0.2.1.2.2.2.2.1 d d1 d2
  have g10 : V 11 d 0 ≤ 99 := h0.2.2.1.2.2.2.2.1.2 d d2
  subst e1 e2 e3
  have e3 : (((12 : Int32) * nI s) + nI k).toNatClampNeg = 12 * s + k := by simp (disch := omega) only [fa_lit, nI_add, zz_mul, zz_sub, nI_leI, nI_ltI, nI_eq, nI_clamp, zz_in, zz_m1, zz_m1e, zz_le_m1, zz_m1_le, zz_lt_m1, zz_m1_lt, zz_B0, zz_B1, zz_shr, zz_shl, zz_and31, Nat.mod_eq_of_lt, not_true_eq_false, not_false_eq_true, Nat.reduceAdd, Nat.reduceMul, Nat.reduceSub]
  have e4 : ((12 : Int32) * nI s) + nI k = nI (12 * s + k) := by simp (disch := omega) only [fa_lit, nI_add, zz_mul, zz_sub, nI_leI, nI_ltI, nI_eq, nI_clamp, zz_in, zz_m1, zz_m1e, zz_le_m1, zz_m1_le, zz_lt_m1, zz_m1_lt, zz_B0, zz_B1, zz_shr, zz_shl, zz_and31, Nat.mod_eq_of_lt, not_true_eq_false, not_false_eq_true, Nat.reduceAdd, Nat.reduceMul, Nat.reduceSub]
  have ed : (nI d).toNatClampNeg = d := by simp (disch := omega) only [fa_lit, nI_add, zz_mul, zz_sub, nI_leI, nI_ltI, nI_eq, nI_clamp, zz_in, zz_m1, zz_m1e, zz_le_m1, zz_m1_le, zz_lt_m1, zz_m1_lt, zz_B0, zz_B1, zz_shr, zz_shl, zz_and31, Nat.mod_eq_of_lt, not_true_eq_false, not_false_eq_true, Nat.reduceAdd, Nat.reduceMul, Nat.reduceSub]
  rw [e3, e4, ed, hv, g9, hp]
  refine ⟨by simp (disch := omega) only [fa_lit, nI_add, zz_mul, zz_sub, nI_leI, nI_ltI, nI_eq, nI_clamp, zz_in, zz_m1, zz_m1e, zz_le_m1, zz_m1_le, zz_lt_m1, zz_m1_lt, zz_B0, zz_B1, zz_shr, zz_shl, zz_and31, Nat.mod_eq_of_lt, not_true_eq_false, not_false_eq_true, Nat.reduceAdd, Nat.reduceMul, Nat.reduceSub]; omega, fun c0 => zqI_I_i (hno ?_), fun c0 => ⟨by simp (disch := omega) only [fa_lit, nI_add, zz_mul, zz_sub, nI_leI, nI_ltI, nI_eq, nI_clamp, zz_in, zz_m1, zz_m1e, zz_le_m1, zz_m1_le, zz_lt_m1, zz_m1_lt, zz_B0, zz_B1, zz_shr, zz_shl, zz_and31, Nat.mod_eq_of_lt, not_true_eq_false, not_false_eq_true, Nat.reduceAdd, Nat.reduceMul, Nat.reduceSub]; omega, fun c1 => kX13_rem h.1 h66 hm (fun I' n o a => zqI_I_i ?_), fun c1 => zqI_I_i ?_⟩⟩
  · rintro ⟨s2, k2, e2, q1, q2, q3, q4, q5, q6, q7, q8⟩
    have w2 := h.2.2.1.1.2 s2 q1
    have e1 := (nI_eq (by omega) (by omega)).mp q5
    subst e1
    have e3 := (nI_eq (by omega) (by omega)).mp q6
    subst e3
    have e4 := (nI_eq (by omega) (by omega)).mp q7
    subst e4
    simp (disch := omega) only [fa_lit, nI_add, zz_mul, zz_sub, nI_leI, nI_ltI, nI_eq, nI_clamp, zz_in, zz_m1, zz_m1e, zz_le_m1, zz_m1_le, zz_lt_m1, zz_m1_lt, zz_B0, zz_B1, zz_shr, zz_shl, zz_and31, Nat.mod_eq_of_lt, not_true_eq_false, not_false_eq_true, Nat.reduceAdd, Nat.reduceMul, Nat.reduceSub] at c0
    exact q8 c0
  · simp (disch := omega) only [fa_lit, nI_add, zz_mul, zz_sub, nI_leI, nI_ltI, nI_eq, nI_clamp, zz_in, zz_m1, zz_m1e, zz_le_m1, zz_m1_le, zz_lt_m1, zz_m1_lt, zz_B0, zz_B1, zz_shr, zz_shl, zz_and31, Nat.mod_eq_of_lt, not_true_eq_false, not_false_eq_true, Nat.reduceAdd, Nat.reduceMul, Nat.reduceSub] at c0
    simp (disch := omega) only [fa_lit, nI_add, zz_mul, zz_sub, nI_leI, nI_ltI, nI_eq, nI_clamp, zz_in, zz_m1, zz_m1e, zz_le_m1, zz_m1_le, zz_lt_m1, zz_m1_lt, zz_B0, zz_B1, zz_shr, zz_shl, zz_and31, Nat.mod_eq_of_lt, not_true_eq_false, not_false_eq_true, Nat.reduceAdd, Nat.reduceMul, Nat.reduceSub] at c1
    rw [a.2.2.1 2043 (by decide), a.2.2.2.1 58 (by decide), g9, hp, zz_sub c1]
    exact h1 s k d hs hl d1 d2 rfl rfl rfl c0 c1 I' n o a
  · simp (disch := omega) only [fa_lit, nI_add, zz_mul, zz_sub, nI_leI, nI_ltI, nI_eq, nI_clamp, zz_in, zz_m1, zz_m1e, zz_le_m1, zz_m1_le, zz_lt_m1, zz_m1_lt, zz_B0, zz_B1, zz_shr, zz_shl, zz_and31, Nat.mod_eq_of_lt, not_true_eq_false, not_false_eq_true, Nat.reduceAdd, Nat.reduceMul, Nat.reduceSub] at c0
    simp (disch := omega) only [fa_lit, nI_add, zz_mul, zz_sub, nI_leI, nI_ltI, nI_eq, nI_clamp, zz_in, zz_m1, zz_m1e, zz_le_m1, zz_m1_le, zz_lt_m1, zz_m1_lt, zz_B0, zz_B1, zz_shr, zz_shl, zz_and31, Nat.mod_eq_of_lt, not_true_eq_false, not_false_eq_true, Nat.reduceAdd, Nat.reduceMul, Nat.reduceSub] at c1
    exact h2 s k d hs hl d1 d2 rfl rfl rfl c0 (by omega)
theorem fndI_neg {f : Nat → Nat} {n : Nat} {x : Int32} (hn : n < 2 ^ 31) : fndI f n x < 0 ↔ fndI f n x = -1 := by
  unfold fndI
  split
  · rename_i e
    constructor
    · intro q
      exact absurd q (nI_pos (by omega))
    · intro q
      rw [fa_eq, nI_toInt (by omega), show (-1 : Int32).toInt = -1 by decide] at q
      omega
  · exact ⟨fun _ => rfl, fun _ => by decide⟩
theorem kX13_coin {T : zT} {I : zI} {L : zL} {R : zR} {V : Nat → Nat → Nat → Nat} {m : Nat} {x y z : Int32} {K : Int32 → zI → Prop} (h0 : zMq T I R V) (h66 : I 2000 66 = nI m) (hm : m ≤ 20)
    (hno : (¬ ∃ t w d, t < 2 ∧ wdok w ∧ d ≤ 99 ∧ x = nI t ∧ y = nI w ∧ z = nI d ∧ fndI (V 21 t) (V 20 t 0) (nI w) = -1 ∧ V 20 t 0 ≠ 12) → K (-1) (z2 I 2000 2 0))
    (h1 : ∀ t w d, t < 2 → wdok w → d ≤ 99 → x = nI t → y = nI w → z = nI d → fndI (V 21 t) (V 20 t 0) (nI w) = -1 → V 20 t 0 < 12 → ∀ I' n o, zRm I m I' n o (-1) (nI t) 0 → K (nI (V 20 t 0)) (z2 (z2 (z2 I' 2033 (12 * t + V 20 t 0) (nI w)) 2034 (12 * t + V 20 t 0) (nI d)) 2032 t (nI (V 20 t 0 + 1)))) :
    zMet mX13_coin 3 0 [.ref 2000, .int x, .int y, .int z] T I L R (zqI_I T L R K) := by
  have h := h0.e (zMe_th (x := 0))
  refine sX13_coin (gX13_coin_0 h.1 (kX13_isTongue (fun t ht e1 => ⟨fun q => absurd q (by decide), fun _ => ?_⟩) (fun q => ⟨fun _ => zqI_I_i (hno (fun ⟨t, w, d, g1, g2, g3, g4, g5, g6, _⟩ => q ⟨t, g1, g4⟩)), fun q => absurd rfl q⟩)))
  have hv := h0.2.2.2.1.1 t ht
  have hs : V 20 t 0 ≤ 12 := (h0.2.2.2.2.1 t ht).1
  subst e1
  have et : (nI t).toNatClampNeg = t := by simp (disch := omega) only [fa_lit, nI_add, zz_mul, zz_sub, nI_leI, nI_ltI, nI_eq, nI_clamp, zz_in, zz_m1, zz_m1e, zz_le_m1, zz_m1_le, zz_lt_m1, zz_m1_lt, zz_B0, zz_B1, zz_shr, zz_shl, zz_and31, Nat.mod_eq_of_lt, not_true_eq_false, not_false_eq_true, Nat.reduceAdd, Nat.reduceMul, Nat.reduceSub]
  have uniq : ∀ t2, t2 < 2 → nI t = nI t2 → t2 = t := fun t2 q1 q4 => ((nI_eq (by omega) (by omega)).mp q4).symm
  rw [et, hv.1]
  refine ⟨by simp (disch := omega) only [fa_lit, nI_add, zz_mul, zz_sub, nI_leI, nI_ltI, nI_eq, nI_clamp, zz_in, zz_m1, zz_m1e, zz_le_m1, zz_m1_le, zz_lt_m1, zz_m1_lt, zz_B0, zz_B1, zz_shr, zz_shl, zz_and31, Nat.mod_eq_of_lt, not_true_eq_false, not_false_eq_true, Nat.reduceAdd, Nat.reduceMul, Nat.reduceSub]; omega, fun c2 => zqI_I_i (hno ?_), fun c2 => kX13_isName (fun w hw e2 => ⟨fun q => absurd q (by decide), fun _ => kX13_isIn (a := 0) (b := 99) rfl rfl (by decide) (by decide) (fun d _ d2 e3 => ⟨fun q => absurd q (by decide), fun _ => ?_⟩) (fun q => ⟨fun _ => zqI_I_i (hno (fun ⟨t, w, d, g1, g2, g3, g4, g5, g6, _⟩ => q ⟨d, Nat.zero_le _, g3, g6⟩)), fun q => absurd rfl q⟩)⟩)
    (fun q => ⟨fun _ => zqI_I_i (hno (fun ⟨t, w, d, g1, g2, g3, g4, g5, g6, _⟩ => q ⟨w, g2, g5⟩)), fun q => absurd rfl q⟩)⟩
  · simp (disch := omega) only [fa_lit, nI_add, zz_mul, zz_sub, nI_leI, nI_ltI, nI_eq, nI_clamp, zz_in, zz_m1, zz_m1e, zz_le_m1, zz_m1_le, zz_lt_m1, zz_m1_lt, zz_B0, zz_B1, zz_shr, zz_shl, zz_and31, Nat.mod_eq_of_lt, not_true_eq_false, not_false_eq_true, Nat.reduceAdd, Nat.reduceMul, Nat.reduceSub] at c2
    rintro ⟨t2, w2, d2, q1, q2, q3, q4, q5, q6, q7, q8⟩
    obtain rfl := uniq t2 q1 q4
    exact q8 c2
  · simp (disch := omega) only [fa_lit, nI_add, zz_mul, zz_sub, nI_leI, nI_ltI, nI_eq, nI_clamp, zz_in, zz_m1, zz_m1e, zz_le_m1, zz_m1_le, zz_lt_m1, zz_m1_lt, zz_B0, zz_B1, zz_shr, zz_shl, zz_and31, Nat.mod_eq_of_lt, not_true_eq_false, not_false_eq_true, Nat.reduceAdd, Nat.reduceMul, Nat.reduceSub] at c2
    subst e2 e3
    refine kX13_find (a := 12 * t) (n := V 20 t 0) (f := V 21 t) (zM_t2033 h.1) (zz_mul 12 t) rfl (by omega) (by decide) (fun k hk => by rw [z2_na (by decide)]; exact (hv.2 k hk).1) ⟨fun c1 => kX13_rem h.1 h66 hm (fun I' n o a => ?_), fun c1 => zqI_I_i (hno ?_)⟩
    · rw [fndI_neg (by omega)] at c1
      have e5 : I' 2032 t = nI (V 20 t 0) := by rw [a.2.2.1 2032 (by decide)]; exact hv.1
      have e6 : (((12 : Int32) * nI t) + nI (V 20 t 0)).toNatClampNeg = 12 * t + V 20 t 0 := by simp (disch := omega) only [fa_lit, nI_add, zz_mul, zz_sub, nI_leI, nI_ltI, nI_eq, nI_clamp, zz_in, zz_m1, zz_m1e, zz_le_m1, zz_m1_le, zz_lt_m1, zz_m1_lt, zz_B0, zz_B1, zz_shr, zz_shl, zz_and31, Nat.mod_eq_of_lt, not_true_eq_false, not_false_eq_true, Nat.reduceAdd, Nat.reduceMul, Nat.reduceSub]
      rw [e5, e6]
      refine ⟨by simp (disch := omega) only [fa_lit, nI_add, zz_mul, zz_sub, nI_leI, nI_ltI, nI_eq, nI_clamp, zz_in, zz_m1, zz_m1e, zz_le_m1, zz_m1_le, zz_lt_m1, zz_m1_lt, zz_B0, zz_B1, zz_shr, zz_shl, zz_and31, Nat.mod_eq_of_lt, not_true_eq_false, not_false_eq_true, Nat.reduceAdd, Nat.reduceMul, Nat.reduceSub]; omega, gX13_coin_106 h.1 ⟨by simp (disch := omega) only [fa_lit, nI_add, zz_mul, zz_sub, nI_leI, nI_ltI, nI_eq, nI_clamp, zz_in, zz_m1, zz_m1e, zz_le_m1, zz_m1_le, zz_lt_m1, zz_m1_lt, zz_B0, zz_B1, zz_shr, zz_shl, zz_and31, Nat.mod_eq_of_lt, not_true_eq_false, not_false_eq_true, Nat.reduceAdd, Nat.reduceMul, Nat.reduceSub]; omega, zqI_I_i ?_⟩⟩
      rw [et, z2_s, z2_na (by decide), z2_na (by decide), e5, nI_1, nM_dec (by omega), show V 20 t 0 + 1 - 1 = V 20 t 0 by omega]
      exact h1 t w d ht hw d2 rfl rfl rfl c1 (by omega) I' n o a
    · rw [fndI_neg (by omega)] at c1
      rintro ⟨t2, w2, d3, q1, q2, q3, q4, q5, q6, q7, q8⟩
      obtain rfl := uniq t2 q1 q4
      have a1 := hw.2.1
      have a2 := q2.2.1
      have e9 := (nI_eq (by omega) (by omega)).mp q5
      subst e9
      exact c1 q7
