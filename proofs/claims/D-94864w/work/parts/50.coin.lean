/-! STATES: coin, of the class -/
theorem kX1_coin {T : zT} {I : zI} {L : zL} {R : zR} {V : Nat → Nat → Nat → Nat} {σ m c b : Nat} {x y z : Int32} {K : Int32 → zT → zI → zL → zR → Prop} (h : zCq T I R σ V) (h4 : I 1000 4 = nI m) (hm : m ≤ c) (hk : zKp T R c) (hb : 210 ≤ b)
    (h0 : (¬ ∃ t w d, t < 2 ∧ wdok w ∧ d ≤ 99 ∧ x = nI t ∧ y = nI w ∧ z = nI d ∧ fndI (V 21 t) (V 20 t 0) (nI w) = -1 ∧ V 20 t 0 ≠ 12) → K (-1) T I L R)
    (h1 : ∀ t w d, t < 2 → wdok w → d ≤ 99 → x = nI t → y = nI w → z = nI d → fndI (V 21 t) (V 20 t 0) (nI w) = -1 → V 20 t 0 < 12 → ∀ T' I' L' R' c' n o, zKd T I L R V m T' I' L' R' c' n o → zCq T' I' R' σ V → ∀ I2, zE [1203 + 3 * t, 1204 + 3 * t, 1205 + 3 * t] I' I2 → I2 (1203 + 3 * t) 2 = nI (V 20 t 0 + 1) →
      (∀ k, k < V 20 t 0 → I2 (1204 + 3 * t) k = nI (V 21 t k) ∧ I2 (1205 + 3 * t) k = nI (V 22 t k)) → I2 (1204 + 3 * t) (V 20 t 0) = nI w → I2 (1205 + 3 * t) (V 20 t 0) = nI d → K (nI (V 20 t 0)) T' I2 L' R') :
    zMet mX1_coin 4 b [.ref 1000, .int x, .int y, .int z] T I L R (zqI_TILR K) := by
  refine sX1_coin (gX1_coin_0 h.1 (kX1_isTongue (fun t ht e1 => ⟨fun q => absurd q (by decide), fun _ => kX1_isWord (fun w hw e2 => ⟨fun q => absurd q (by decide), fun _ => kX1_inN (a := 0) (b := 99) rfl rfl (by decide) (by decide) (fun d _ d2 e3 => ⟨fun q => absurd q (by decide), fun _ => ?_⟩) (fun q => ⟨fun _ => zqI_TILR_i (h0 (fun ⟨t, w, d, g1, g2, g3, g4, g5, g6, _⟩ => q ⟨d, Nat.zero_le _, g3, g6⟩)), fun q => absurd rfl q⟩)⟩)
    (fun q => ⟨fun _ => zqI_TILR_i (h0 (fun ⟨t, w, d, g1, g2, g3, g4, g5, g6, _⟩ => q ⟨w, g2, g5⟩)), fun q => absurd rfl q⟩)⟩) (fun q => ⟨fun _ => zqI_TILR_i (h0 (fun ⟨t, w, d, g1, g2, g3, g4, g5, g6, _⟩ => q ⟨t, g1, g4⟩)), fun q => absurd rfl q⟩)))
  have hr := (zSL_now h.1).2.2.2.2.2.2.1 t ht
  have hv : I (1200 + 3 + 3 * t) 2 = nI (V 20 t 0) ∧ ∀ i, i < V 20 t 0 → I (1200 + 4 + 3 * t) i = nI (V 21 t i) ∧ I (1200 + 5 + 3 * t) i = nI (V 22 t i) := h.2.2.2.2.2.2.1.1 t ht
  have hs : V 20 t 0 ≤ 12 := (h.2.2.2.2.2.2.2.1 t ht).1
  subst e1 e2 e3
  have uniq : ∀ t2 w2 d2, t2 < 2 → wdok w2 → d2 ≤ 99 → nI t = nI t2 → nI w = nI w2 → nI d = nI d2 → t2 = t ∧ w2 = w ∧ d2 = d := fun t2 w2 d2 q1 q2 q3 q4 q5 q6 => by
    have a1 := hw.2.1
    have a2 := q2.2.1
    exact ⟨((nI_eq (by omega) (by omega)).mp q4).symm, ((nI_eq (by omega) (by omega)).mp q5).symm, ((nI_eq (by omega) (by omega)).mp q6).symm⟩
  have et : (nI t).toNatClampNeg = t := by simp (disch := omega) only [fa_lit, nI_add, zz_mul, zz_sub, nI_leI, nI_ltI, nI_eq, nI_clamp, zz_in, zz_m1, zz_m1e, zz_le_m1, zz_m1_le, zz_lt_m1, zz_m1_lt, zz_B0, zz_B1, zz_shr, zz_shl, zz_and31, Nat.mod_eq_of_lt, not_true_eq_false, not_false_eq_true, Nat.reduceAdd, Nat.reduceMul, Nat.reduceSub]
  rw [et, hr.1, hv.1]
  refine ⟨by simp (disch := omega) only [fa_lit, nI_add, zz_mul, zz_sub, nI_leI, nI_ltI, nI_eq, nI_clamp, zz_in, zz_m1, zz_m1e, zz_le_m1, zz_m1_le, zz_lt_m1, zz_m1_lt, zz_B0, zz_B1, zz_shr, zz_shl, zz_and31, Nat.mod_eq_of_lt, not_true_eq_false, not_false_eq_true, Nat.reduceAdd, Nat.reduceMul, Nat.reduceSub]; omega, by rw [hr.2.1], kX4_find (f := V 21 t) (n := V 20 t 0) (by rw [hr.2.1]) (by rw [hr.2.2.1, hr.2.2.2.2.1]) hv.1 hs (fun k hk2 => by rw [hr.2.2.1]; exact (hv.2 k hk2).1) ⟨fun c1 => ⟨fun c2 => zqI_TILR_i (h0 ?_), fun c2 => ⟨b, by omega, kX1_keepD h h4 hm hk hb (fun T' I' L' R' c' n o a1 a2 => ?_)⟩⟩, fun c1 => zqI_TILR_i (h0 ?_)⟩⟩
  · simp (disch := omega) only [fa_lit, nI_add, zz_mul, zz_sub, nI_leI, nI_ltI, nI_eq, nI_clamp, zz_in, zz_m1, zz_m1e, zz_le_m1, zz_m1_le, zz_lt_m1, zz_m1_lt, zz_B0, zz_B1, zz_shr, zz_shl, zz_and31, Nat.mod_eq_of_lt, not_true_eq_false, not_false_eq_true, Nat.reduceAdd, Nat.reduceMul, Nat.reduceSub] at c2
    rintro ⟨t2, w2, d2, q1, q2, q3, q4, q5, q6, q7, q8⟩
    obtain ⟨rfl, rfl, rfl⟩ := uniq t2 w2 d2 q1 q2 q3 q4 q5 q6
    exact q8 c2
  · simp (disch := omega) only [fa_lit, nI_add, zz_mul, zz_sub, nI_leI, nI_ltI, nI_eq, nI_clamp, zz_in, zz_m1, zz_m1e, zz_le_m1, zz_m1_le, zz_lt_m1, zz_m1_lt, zz_B0, zz_B1, zz_shr, zz_shl, zz_and31, Nat.mod_eq_of_lt, not_true_eq_false, not_false_eq_true, Nat.reduceAdd, Nat.reduceMul, Nat.reduceSub] at c2
    have hr2 := (zSL_now a2.1).2.2.2.2.2.2.1 t ht
    have hv2 : I' (1200 + 3 + 3 * t) 2 = nI (V 20 t 0) ∧ ∀ i, i < V 20 t 0 → I' (1200 + 4 + 3 * t) i = nI (V 21 t i) ∧ I' (1200 + 5 + 3 * t) i = nI (V 22 t i) := a2.2.2.2.2.2.2.1.1 t ht
    rw [hr2.1]
    refine ⟨a2.1, by rw [hr2.2.1], kX4_add (n := V 20 t 0) (by rw [hr2.2.1]) (by rw [hr2.2.2.1, hr2.2.2.2.2.1]) (by rw [hr2.2.2.2.1, hr2.2.2.2.2.2]) hv2.1 (by omega) (by rw [hr2.2.2.1, hr2.2.2.2.1]; omega) (fun I2 b1 b2 b3 b4 b5 => zqI_TILR_i ?_)⟩
    rw [hr2.2.2.1, hr2.2.2.2.1] at b1 b3
    rw [hr2.2.2.1] at b4
    rw [hr2.2.2.2.1] at b5
    rw [b2, nM_dec (by omega), show V 20 t 0 + 1 - 1 = V 20 t 0 by omega]
    have e3 : 1200 + 3 + 3 * t = 1203 + 3 * t := by omega
    have e4 : 1200 + 4 + 3 * t = 1204 + 3 * t := by omega
    have e5 : 1200 + 5 + 3 * t = 1205 + 3 * t := by omega
    rw [e3, e4, e5] at b1
    rw [e3] at b2
    rw [e4, e5] at b3 hv2
    rw [e4] at b4
    rw [e5] at b5
    exact h1 t w d ht hw d2 rfl rfl rfl c1 (by omega) T' I' L' R' c' n o a1 a2 I2 b1 b2 (fun k hk2 => by rw [(b3 k hk2).1, (b3 k hk2).2]; exact hv2.2 k hk2) b4 b5
  · rintro ⟨t2, w2, d2, q1, q2, q3, q4, q5, q6, q7, q8⟩
    obtain ⟨rfl, rfl, rfl⟩ := uniq t2 w2 d2 q1 q2 q3 q4 q5 q6
    exact c1 q7
