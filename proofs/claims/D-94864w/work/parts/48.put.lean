/-! STATES: put, lose, of the class -/
/-- what stands behind a kept State -/
def zKd (T : zT) (I : zI) (L : zL) (R : zR) (V : Nat → Nat → Nat → Nat) (m : Nat) (T' : zT) (I' : zI) (L' : zL) (R' : zR) (c' n o : Nat) : Prop :=
  (m < 20 → n = m ∧ o = 0) ∧ (m = 20 → n = 19 ∧ o = 1) ∧ n < c' ∧ zKp T' R' c' ∧ (∀ i, i < n → R' 1013 i = R 1013 (i + o)) ∧ zSv I' (R' 1013 n) V 20 ∧ I' 1000 4 = nI (n + 1) ∧
  (∀ e, e < 5000 ∨ 6000 ≤ e → T' e = T e ∧ L' e = L e ∧ (e ≠ 1000 → I' e = I e) ∧ (e ≠ 1013 → R' e = R e)) ∧ (∀ f, f ≠ 4 → I' 1000 f = I 1000 f) ∧ ∀ i, i < n → ∀ e, R' 1013 i ≤ e → e < R' 1013 i + 22 → I' e = I e
theorem kX1_keepD {T : zT} {I : zI} {L : zL} {R : zR} {V : Nat → Nat → Nat → Nat} {σ m c b : Nat} {K : zT → zI → zL → zR → Prop} (h : zCq T I R σ V) (h4 : I 1000 4 = nI m) (hm : m ≤ c) (hk : zKp T R c) (hb : 210 ≤ b)
    (hK : ∀ T' I' L' R' c' n o, zKd T I L R V m T' I' L' R' c' n o → zCq T' I' R' σ V → K T' I' L' R') : zMet mX1_keepNow 3 b [.ref 1000] T I L R (zqV_TILR K) := by
  have hTw := h.2.2.2.2.2.1
  exact kX1_keepNow h.1 h4 hm hk h.2.2.2.2.2.2.1 (fun t ht => (h.2.2.2.2.2.2.2.1 t ht).1) hTw.1.1 (fun s hs => (hTw.1.2 s hs).2.2.2) hb (fun T' I' L' R' c' n o a1 a2 a3 a4 a5 a6 a7 a8 a9 a10 a11 => hK T' I' L' R' c' n o ⟨a1, a2, a3, a4, a6, a7, a8, a9, a10, a11⟩ (h.fr (fun e he => ⟨(a9 e he).1, (a9 e he).2.2.1, (a9 e he).2.2.2⟩)))
theorem kX1_lose {T : zT} {I : zI} {L : zL} {R : zR} {V : Nat → Nat → Nat → Nat} {σ m c b : Nat} {x y : Int32} {K : Int32 → zT → zI → zL → zR → Prop} (h : zCq T I R σ V) (h4 : I 1000 4 = nI m) (hm : m ≤ c) (hk : zKp T R c) (hb : 210 ≤ b)
    (h0 : (¬ ∃ s k, s < V 5 0 0 ∧ k < V 6 s 2 ∧ x = nI s ∧ y = nI k ∧ V 23 s k ≠ 0) → K 0 T I L R)
    (h1 : ∀ s k, s < V 5 0 0 → k < V 6 s 2 → x = nI s → y = nI k → V 23 s k ≠ 0 → ∀ T' I' L' R' c' n o, zKd T I L R V m T' I' L' R' c' n o → zCq T' I' R' σ V → K 1 T' (z2 I' (1211 + 2 * s) k 0) L' R') :
    zMet mX1_lose 4 b [.ref 1000, .int x, .int y] T I L R (zqI_TILR K) := by
  have hn := h.2.2.2.2.2.1.1.1
  refine sX1_lose (gX1_lose_0 h.1 (kX1_isLetter h (fun s k hs hl e1 e2 => ⟨fun q => absurd q (by decide), fun _ => ?_⟩) (fun q => ⟨fun _ => zqI_TILR_i (h0 (fun ⟨s, k, g1, g2, g3, g4, _⟩ => q ⟨s, k, g1, g2, g3, g4⟩)), fun q => absurd rfl q⟩)))
  have hw := h.2.2.2.2.2.1.1.2 s hs
  have hr := (zSL_now h.1).2.2.2.2.2.2.2 s (by omega)
  have hv : I (1200 + 11 + 2 * s) k = nI (V 23 s k) := (h.2.2.2.2.2.2.1.2.1 s hs).2 k hl
  have hv2 : V 23 s k ≤ 26 := h.2.2.2.2.2.2.2.2.1 s hs k hl
  subst e1 e2
  have es : (nI s).toNatClampNeg = s := by simp (disch := omega) only [fa_lit, nI_add, zz_mul, zz_sub, nI_leI, nI_ltI, nI_eq, nI_clamp, zz_in, zz_m1, zz_m1e, zz_le_m1, zz_m1_le, zz_lt_m1, zz_m1_lt, zz_B0, zz_B1, zz_shr, zz_shl, zz_and31, Nat.mod_eq_of_lt, not_true_eq_false, not_false_eq_true, Nat.reduceAdd, Nat.reduceMul, Nat.reduceSub]
  have ek : (nI k).toNatClampNeg = k := by simp (disch := omega) only [fa_lit, nI_add, zz_mul, zz_sub, nI_leI, nI_ltI, nI_eq, nI_clamp, zz_in, zz_m1, zz_m1e, zz_le_m1, zz_m1_le, zz_lt_m1, zz_m1_lt, zz_B0, zz_B1, zz_shr, zz_shl, zz_and31, Nat.mod_eq_of_lt, not_true_eq_false, not_false_eq_true, Nat.reduceAdd, Nat.reduceMul, Nat.reduceSub]
  rw [es, ek, hr.1, hr.2.2.1, hv]
  refine ⟨by simp (disch := omega) only [fa_lit, nI_add, zz_mul, zz_sub, nI_leI, nI_ltI, nI_eq, nI_clamp, zz_in, zz_m1, zz_m1e, zz_le_m1, zz_m1_le, zz_lt_m1, zz_m1_lt, zz_B0, zz_B1, zz_shr, zz_shl, zz_and31, Nat.mod_eq_of_lt, not_true_eq_false, not_false_eq_true, Nat.reduceAdd, Nat.reduceMul, Nat.reduceSub]; omega, by rw [hr.2.1], by rw [hr.2.2.2], by rw [hr.2.2.2]; simp (disch := omega) only [fa_lit, nI_add, zz_mul, zz_sub, nI_leI, nI_ltI, nI_eq, nI_clamp, zz_in, zz_m1, zz_m1e, zz_le_m1, zz_m1_le, zz_lt_m1, zz_m1_lt, zz_B0, zz_B1, zz_shr, zz_shl, zz_and31, Nat.mod_eq_of_lt, not_true_eq_false, not_false_eq_true, Nat.reduceAdd, Nat.reduceMul, Nat.reduceSub]; omega, fun c0 => zqI_TILR_i (h0 ?_), fun c0 => ⟨b, Nat.le_refl b, kX1_keepD h h4 hm hk hb (fun T' I' L' R' c' n o a1 a2 => ?_)⟩⟩
  · rintro ⟨s2, k2, g1, g2, g3, g4, g5⟩
    have w2 := h.2.2.2.2.2.1.1.2 s2 g1
    have e1 := (nI_eq (by omega) (by omega)).mp g3
    subst e1
    have e2 := (nI_eq (by omega) (by omega)).mp g4
    subst e2
    simp (disch := omega) only [fa_lit, nI_add, zz_mul, zz_sub, nI_leI, nI_ltI, nI_eq, nI_clamp, zz_in, zz_m1, zz_m1e, zz_le_m1, zz_m1_le, zz_lt_m1, zz_m1_lt, zz_B0, zz_B1, zz_shr, zz_shl, zz_and31, Nat.mod_eq_of_lt, not_true_eq_false, not_false_eq_true, Nat.reduceAdd, Nat.reduceMul, Nat.reduceSub] at c0
    exact g5 c0
  · simp (disch := omega) only [fa_lit, nI_add, zz_mul, zz_sub, nI_leI, nI_ltI, nI_eq, nI_clamp, zz_in, zz_m1, zz_m1e, zz_le_m1, zz_m1_le, zz_lt_m1, zz_m1_lt, zz_B0, zz_B1, zz_shr, zz_shl, zz_and31, Nat.mod_eq_of_lt, not_true_eq_false, not_false_eq_true, Nat.reduceAdd, Nat.reduceMul, Nat.reduceSub] at c0
    have hr2 := (zSL_now a2.1).2.2.2.2.2.2.2 s (by omega)
    rw [hr2.1, hr2.2.2.1]
    have := h1 s k hs hl rfl rfl c0 T' I' L' R' c' n o a1 a2
    rw [show 1211 + 2 * s = 1200 + 11 + 2 * s by omega] at this
    exact ⟨a2.1, by rw [hr2.2.1], by rw [hr2.2.2.2], by rw [hr2.2.2.2]; simp (disch := omega) only [fa_lit, nI_add, zz_mul, zz_sub, nI_leI, nI_ltI, nI_eq, nI_clamp, zz_in, zz_m1, zz_m1e, zz_le_m1, zz_m1_le, zz_lt_m1, zz_m1_lt, zz_B0, zz_B1, zz_shr, zz_shl, zz_and31, Nat.mod_eq_of_lt, not_true_eq_false, not_false_eq_true, Nat.reduceAdd, Nat.reduceMul, Nat.reduceSub]; omega, zqI_TILR_i this⟩
theorem kX1_put2 {T : zT} {I : zI} {L : zL} {R : zR} {V : Nat → Nat → Nat → Nat} {σ m c b : Nat} {x y z : Int32} {K : Int32 → zT → zI → zL → zR → Prop} (h : zCq T I R σ V) (h4 : I 1000 4 = nI m) (hm : m ≤ c) (hk : zKp T R c) (hb : 210 ≤ b)
    (h0 : (¬ ∃ s k d, s < V 5 0 0 ∧ k < V 6 s 2 ∧ 1 ≤ d ∧ d ≤ 26 ∧ x = nI s ∧ y = nI k ∧ z = nI d ∧ V 23 s k ≠ d) → K (-1) T I L R)
    (h2 : ∀ s k d, s < V 5 0 0 → k < V 6 s 2 → 1 ≤ d → d ≤ 26 → x = nI s → y = nI k → z = nI d → V 23 s k ≠ d → V 24 0 1 < V 11 d 0 → K (-2) T I L R)
    (h1 : ∀ s k d, s < V 5 0 0 → k < V 6 s 2 → 1 ≤ d → d ≤ 26 → x = nI s → y = nI k → z = nI d → V 23 s k ≠ d → V 11 d 0 ≤ V 24 0 1 → ∀ T' I' L' R' c' n o, zKd T I L R V m T' I' L' R' c' n o → zCq T' I' R' σ V → K (nI (V 11 d 0)) T' (z2 (z2 I' 1200 3 (nI (V 24 0 1 - V 11 d 0))) (1211 + 2 * s) k (nI d)) L' R') :
    zMet mX1_put_2 4 b [.ref 1000, .int x, .int y, .int z] T I L R (zqI_TILR K) := by
  have hn := h.2.2.2.2.2.1.1.1
  refine sX1_put_2 (gX1_put_2_0 h.1 (kX1_isLetter h (fun s k hs hl e1 e2 => ⟨fun q => absurd q (by decide), fun _ => kX1_inN (a := 1) (b := 26) rfl rfl (by decide) (by decide) (fun d d1 d2 e3 => ⟨fun q => absurd q (by decide), fun _ => ?_⟩) (fun q => ⟨fun _ => zqI_TILR_i (h0 (fun ⟨s, k, d, g1, g2, g3, g4, g5, g6, g7, _⟩ => q ⟨d, g3, g4, g7⟩)), fun q => absurd rfl q⟩)⟩) (fun q => ⟨fun _ => zqI_TILR_i (h0 (fun ⟨s, k, d, g1, g2, g3, g4, g5, g6, g7, _⟩ => q ⟨s, k, g1, g2, g5, g6⟩)), fun q => absurd rfl q⟩)))
  have hw := h.2.2.2.2.2.1.1.2 s hs
  have hr := (zSL_now h.1).2.2.2.2.2.2.2 s (by omega)
  have hv : I (1200 + 11 + 2 * s) k = nI (V 23 s k) := (h.2.2.2.2.2.2.1.2.1 s hs).2 k hl
  have hv2 : V 23 s k ≤ 26 := h.2.2.2.2.2.2.2.2.1 s hs k hl
  have hp : I 1200 3 = nI (V 24 0 1) := h.2.2.2.2.2.2.1.2.2.2
  have hp2 : V 24 0 1 ≤ 9999 := h.2.2.2.2.2.2.2.2.2.2
  have hσ := h.2.1
  have hTL := h.2.2.2.1
  have g2 : T σ = (3, 0) := hTL.1.t 0 rfl
  have g7 : R σ 8 = σ + 15 := hTL.1.r 8 rfl
  have g8 : T (σ + 15) = (100, 27) := hTL.1.t 15 rfl
  have g9 : I (σ + 15) d = nI (V 11 d 0) := h.2.2.2.2.1.2.2.2.2.1 d d2
  have g10 : V 11 d 0 ≤ 99 := h.2.2.2.2.2.1.2.2.2.2.1.2 d d2
  subst e1 e2 e3
  have es : (nI s).toNatClampNeg = s := by simp (disch := omega) only [fa_lit, nI_add, zz_mul, zz_sub, nI_leI, nI_ltI, nI_eq, nI_clamp, zz_in, zz_m1, zz_m1e, zz_le_m1, zz_m1_le, zz_lt_m1, zz_m1_lt, zz_B0, zz_B1, zz_shr, zz_shl, zz_and31, Nat.mod_eq_of_lt, not_true_eq_false, not_false_eq_true, Nat.reduceAdd, Nat.reduceMul, Nat.reduceSub]
  have ek : (nI k).toNatClampNeg = k := by simp (disch := omega) only [fa_lit, nI_add, zz_mul, zz_sub, nI_leI, nI_ltI, nI_eq, nI_clamp, zz_in, zz_m1, zz_m1e, zz_le_m1, zz_m1_le, zz_lt_m1, zz_m1_lt, zz_B0, zz_B1, zz_shr, zz_shl, zz_and31, Nat.mod_eq_of_lt, not_true_eq_false, not_false_eq_true, Nat.reduceAdd, Nat.reduceMul, Nat.reduceSub]
  have ed : (nI d).toNatClampNeg = d := by simp (disch := omega) only [fa_lit, nI_add, zz_mul, zz_sub, nI_leI, nI_ltI, nI_eq, nI_clamp, zz_in, zz_m1, zz_m1e, zz_le_m1, zz_m1_le, zz_lt_m1, zz_m1_lt, zz_B0, zz_B1, zz_shr, zz_shl, zz_and31, Nat.mod_eq_of_lt, not_true_eq_false, not_false_eq_true, Nat.reduceAdd, Nat.reduceMul, Nat.reduceSub]
  rw [es, ek, ed, hr.1, hr.2.2.1, hv, hσ, g7, g9, hp]
  refine ⟨by simp (disch := omega) only [fa_lit, nI_add, zz_mul, zz_sub, nI_leI, nI_ltI, nI_eq, nI_clamp, zz_in, zz_m1, zz_m1e, zz_le_m1, zz_m1_le, zz_lt_m1, zz_m1_lt, zz_B0, zz_B1, zz_shr, zz_shl, zz_and31, Nat.mod_eq_of_lt, not_true_eq_false, not_false_eq_true, Nat.reduceAdd, Nat.reduceMul, Nat.reduceSub]; omega, by rw [hr.2.1], by rw [hr.2.2.2], by rw [hr.2.2.2]; simp (disch := omega) only [fa_lit, nI_add, zz_mul, zz_sub, nI_leI, nI_ltI, nI_eq, nI_clamp, zz_in, zz_m1, zz_m1e, zz_le_m1, zz_m1_le, zz_lt_m1, zz_m1_lt, zz_B0, zz_B1, zz_shr, zz_shl, zz_and31, Nat.mod_eq_of_lt, not_true_eq_false, not_false_eq_true, Nat.reduceAdd, Nat.reduceMul, Nat.reduceSub]; omega, fun c0 => zqI_TILR_i (h0 ?_), fun c0 => ⟨by rw [g2], by rw [g8], by rw [g8]; simp (disch := omega) only [fa_lit, nI_add, zz_mul, zz_sub, nI_leI, nI_ltI, nI_eq, nI_clamp, zz_in, zz_m1, zz_m1e, zz_le_m1, zz_m1_le, zz_lt_m1, zz_m1_lt, zz_B0, zz_B1, zz_shr, zz_shl, zz_and31, Nat.mod_eq_of_lt, not_true_eq_false, not_false_eq_true, Nat.reduceAdd, Nat.reduceMul, Nat.reduceSub]; omega, fun c1 => ⟨b, by omega, kX1_keepD h h4 hm hk hb (fun T' I' L' R' c' n o a1 a2 => ?_)⟩, fun c1 => zqI_TILR_i ?_⟩⟩
  · rintro ⟨s2, k2, e2, q1, q2, q3, q4, q5, q6, q7, q8⟩
    have w2 := h.2.2.2.2.2.1.1.2 s2 q1
    have e1 := (nI_eq (by omega) (by omega)).mp q5
    subst e1
    have e3 := (nI_eq (by omega) (by omega)).mp q6
    subst e3
    have e4 := (nI_eq (by omega) (by omega)).mp q7
    subst e4
    simp (disch := omega) only [fa_lit, nI_add, zz_mul, zz_sub, nI_leI, nI_ltI, nI_eq, nI_clamp, zz_in, zz_m1, zz_m1e, zz_le_m1, zz_m1_le, zz_lt_m1, zz_m1_lt, zz_B0, zz_B1, zz_shr, zz_shl, zz_and31, Nat.mod_eq_of_lt, not_true_eq_false, not_false_eq_true, Nat.reduceAdd, Nat.reduceMul, Nat.reduceSub] at c0
    exact q8 c0
  · simp (disch := omega) only [fa_lit, nI_add, zz_mul, zz_sub, nI_leI, nI_ltI, nI_eq, nI_clamp, zz_in, zz_m1, zz_m1e, zz_le_m1, zz_m1_le, zz_lt_m1, zz_m1_lt, zz_B0, zz_B1, zz_shr, zz_shl, zz_and31, Nat.mod_eq_of_lt, not_true_eq_false, not_false_eq_true, Nat.reduceAdd, Nat.reduceMul, Nat.reduceSub] at c0
    simp (disch := omega) only [fa_lit, nI_add, zz_mul, zz_sub, nI_leI, nI_ltI, nI_eq, nI_clamp, zz_in, zz_m1, zz_m1e, zz_le_m1, zz_m1_le, zz_lt_m1, zz_m1_lt, zz_B0, zz_B1, zz_shr, zz_shl, zz_and31, Nat.mod_eq_of_lt, not_true_eq_false, not_false_eq_true, Nat.reduceAdd, Nat.reduceMul, Nat.reduceSub] at c1
    have hr2 := (zSL_now a2.1).2.2.2.2.2.2.2 s (by omega)
    have hσ' := a2.2.1
    have hTL' := a2.2.2.2.1
    have g2' : T' σ = (3, 0) := hTL'.1.t 0 rfl
    have g7' : R' σ 8 = σ + 15 := hTL'.1.r 8 rfl
    have g8' : T' (σ + 15) = (100, 27) := hTL'.1.t 15 rfl
    have g9' : I' (σ + 15) d = nI (V 11 d 0) := a2.2.2.2.2.1.2.2.2.2.1 d d2
    have hp' : I' 1200 3 = nI (V 24 0 1) := a2.2.2.2.2.2.2.1.2.2.2
    have hσ2 := h.2.2.1
    have := h1 s k d hs hl d1 d2 rfl rfl rfl c0 c1 T' I' L' R' c' n o a1 a2
    rw [show 1211 + 2 * s = 1200 + 11 + 2 * s by omega] at this
    rw [hr2.1, hr2.2.2.1, hσ', g7', g9', hp']
    refine ⟨a2.1, by rw [g2'], by rw [g8'], by rw [g8']; simp (disch := omega) only [fa_lit, nI_add, zz_mul, zz_sub, nI_leI, nI_ltI, nI_eq, nI_clamp, zz_in, zz_m1, zz_m1e, zz_le_m1, zz_m1_le, zz_lt_m1, zz_m1_lt, zz_B0, zz_B1, zz_shr, zz_shl, zz_and31, Nat.mod_eq_of_lt, not_true_eq_false, not_false_eq_true, Nat.reduceAdd, Nat.reduceMul, Nat.reduceSub]; omega, by rw [hr2.2.1], by rw [hr2.2.2.2], by rw [hr2.2.2.2]; simp (disch := omega) only [fa_lit, nI_add, zz_mul, zz_sub, nI_leI, nI_ltI, nI_eq, nI_clamp, zz_in, zz_m1, zz_m1e, zz_le_m1, zz_m1_le, zz_lt_m1, zz_m1_lt, zz_B0, zz_B1, zz_shr, zz_shl, zz_and31, Nat.mod_eq_of_lt, not_true_eq_false, not_false_eq_true, Nat.reduceAdd, Nat.reduceMul, Nat.reduceSub]; omega, zqI_TILR_i ?_⟩
    rw [z2_na (by omega), z2_na (by omega), g9', zz_sub c1]
    exact this
  · simp (disch := omega) only [fa_lit, nI_add, zz_mul, zz_sub, nI_leI, nI_ltI, nI_eq, nI_clamp, zz_in, zz_m1, zz_m1e, zz_le_m1, zz_m1_le, zz_lt_m1, zz_m1_lt, zz_B0, zz_B1, zz_shr, zz_shl, zz_and31, Nat.mod_eq_of_lt, not_true_eq_false, not_false_eq_true, Nat.reduceAdd, Nat.reduceMul, Nat.reduceSub] at c0
    simp (disch := omega) only [fa_lit, nI_add, zz_mul, zz_sub, nI_leI, nI_ltI, nI_eq, nI_clamp, zz_in, zz_m1, zz_m1e, zz_le_m1, zz_m1_le, zz_lt_m1, zz_m1_lt, zz_B0, zz_B1, zz_shr, zz_shl, zz_and31, Nat.mod_eq_of_lt, not_true_eq_false, not_false_eq_true, Nat.reduceAdd, Nat.reduceMul, Nat.reduceSub] at c1
    exact h2 s k d hs hl d1 d2 rfl rfl rfl c0 (by omega)
