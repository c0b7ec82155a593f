/-! STATES: the class keeps the street as it is -/
theorem zXok_of {T T' : zT} {R R' : zR} (h : zXok T R) (ht : ∀ e, e < 2000 → T' e = T e) (hr : ∀ e, e < 2000 → e ≠ 1013 → R' e = R e) : zXok T' R' := by
  have a1 : ∀ q ∈ zXF, q.1 < 2000 ∧ q.1 ≠ 1013 := by decide +kernel
  have a2 : ∀ q ∈ zXT, q.1 < 2000 := by decide +kernel
  exact ⟨fun q hq => by rw [hr _ (a1 q hq).1 (a1 q hq).2]; exact h.1 q hq, fun q hq => by rw [ht _ (a2 q hq)]; exact h.2 q hq⟩
/-- the kept States: c of them are made, slot i holds one of them -/
def zKp (T : zT) (R : zR) (c : Nat) : Prop := c ≤ 20 ∧ (∀ i, i < c → ∃ p, p < c ∧ R 1013 i = 5000 + 40 * p) ∧ (∀ i j, i < c → j < c → R 1013 i = R 1013 j → i = j) ∧ (∀ i, c ≤ i → i < 20 → R 1013 i = 0) ∧ (∀ p, p < c → zSL T R (5000 + 40 * p)) ∧ ∀ p, c ≤ p → p < 20 → ∀ e, 5000 + 40 * p ≤ e → e < 5000 + 40 * p + 40 → (T e).1 = 0
theorem zSL.of {T T' : zT} {R R' : zR} {B : Nat} (h : zSL T R B) (ht : ∀ e, B ≤ e → e < B + 22 → T' e = T e ∧ R' e = R e) : zSL T' R' B := by
  obtain ⟨h1, h2, h3, h4, h5, h6, h7, h8⟩ := h
  refine ⟨by rw [(ht B (by omega) (by omega)).1]; exact h1, by rw [(ht B (by omega) (by omega)).2]; exact h2, by rw [(ht B (by omega) (by omega)).2]; exact h3, by rw [(ht B (by omega) (by omega)).2]; exact h4, by rw [(ht (B + 1) (by omega) (by omega)).1]; exact h5, by rw [(ht (B + 2) (by omega) (by omega)).1]; exact h6, fun t h9 => ?_, fun s h9 => ?_⟩
  · rw [(ht (B + 1) (by omega) (by omega)).2, (ht (B + 3 + 3 * t) (by omega) (by omega)).1, (ht (B + 3 + 3 * t) (by omega) (by omega)).2, (ht (B + 4 + 3 * t) (by omega) (by omega)).1, (ht (B + 5 + 3 * t) (by omega) (by omega)).1]
    exact h7 t h9
  · rw [(ht (B + 2) (by omega) (by omega)).2, (ht (B + 10 + 2 * s) (by omega) (by omega)).1, (ht (B + 10 + 2 * s) (by omega) (by omega)).2, (ht (B + 11 + 2 * s) (by omega) (by omega)).1]
    exact h8 s h9
theorem kX1_keepNow {T : zT} {I : zI} {L : zL} {R : zR} {V : Nat → Nat → Nat → Nat} {m c b : Nat} {K : zT → zI → zL → zR → Prop} (hx : zXok T R) (h4 : I 1000 4 = nI m) (hm : m ≤ c) (hk : zKp T R c) (hv : zSv I 1200 V 20) (hw : ∀ t, t < 2 → V 20 t 0 ≤ 12) (hn : V 5 0 0 ≤ 6) (hl : ∀ s, s < V 5 0 0 → V 6 s 2 ≤ 12) (hb : 210 ≤ b)
    (hK : ∀ T' I' L' R' c' n o, (m < 20 → n = m ∧ o = 0) → (m = 20 → n = 19 ∧ o = 1) → n < c' → zKp T' R' c' → zXok T' R' → (∀ i, i < n → R' 1013 i = R 1013 (i + o)) → zSv I' (R' 1013 n) V 20 → I' 1000 4 = nI (n + 1) →
      (∀ e, e < 5000 ∨ 6000 ≤ e → T' e = T e ∧ L' e = L e ∧ (e ≠ 1000 → I' e = I e) ∧ (e ≠ 1013 → R' e = R e)) → (∀ f, f ≠ 4 → I' 1000 f = I 1000 f) → (∀ i, i < n → ∀ e, R' 1013 i ≤ e → e < R' 1013 i + 22 → I' e = I e) → K T' I' L' R') :
    zMet mX1_keepNow 3 b [.ref 1000] T I L R (zqV_TILR K) := by
  -- the copy, once a State is there
  have last : ∀ (T' : zT) (I' : zI) (L' : zL) (R' : zR) (c' n o b' : Nat), (m < 20 → n = m ∧ o = 0) → (m = 20 → n = 19 ∧ o = 1) → n < c' → n < 20 → zKp T' R' c' → zXok T' R' → (∀ i, i < n → R' 1013 i = R 1013 (i + o)) → zSv I' 1200 V 20 → I' 1000 4 = nI n →
      (∀ e, e < 5000 ∨ 6000 ≤ e → T' e = T e ∧ L' e = L e ∧ (e ≠ 1000 → I' e = I e) ∧ (e ≠ 1013 → R' e = R e)) → (∀ f, f ≠ 4 → I' 1000 f = I 1000 f) → (∀ i, i < n → ∀ e, R' 1013 i ≤ e → e < R' 1013 i + 22 → I' e = I e) → zAW mX1_keepNow 3 b' 91 [(0, .ref 1000)] [] T' I' L' R' (zqV_TILR K) := by
    intro T' I' L' R' c' n o b' q1 q2 q3 q4 q5 q6 q7 q8 q9 q10 q11 q12
    have hk' := q5
    obtain ⟨k0, k1, k2, k3, k4, k5⟩ := q5
    obtain ⟨p, hp, ep⟩ := k1 n q3
    have hL := k4 p hp
    refine gX1_keepNow_91 q6 ⟨by rw [q9]; simp (disch := omega) only [fa_lit, nI_add, zz_mul, zz_sub, nI_leI, nI_ltI, nI_eq, nI_clamp, zz_in, zz_m1, zz_m1e, zz_le_m1, zz_m1_le, zz_lt_m1, zz_m1_lt, zz_B0, zz_B1, zz_shr, zz_shl, zz_and31, Nat.mod_eq_of_lt, not_true_eq_false, not_false_eq_true, Nat.reduceAdd, Nat.reduceMul, Nat.reduceSub]; omega, ?_⟩
    rw [q9, nI_clamp (by omega), ep]
    refine ⟨by rw [hL.1], kX10_become hL (zSL_now q6) (by omega) q8 hw hn hl (fun I2 a1 a2 => zqV_TILR_i ?_)⟩
    have e1000 : I2 1000 = I' 1000 := a1 _ (by omega)
    refine hK _ _ _ _ c' n o q1 q2 q3 hk' q6 q7 ?_ ?_ (fun e he => ?_) (fun f hf => ?_) (fun i hi e g1 g2 => ?_)
    · rw [ep]
      have g : ∀ e, e ≠ 1000 → (z2 I2 1000 4 (I2 1000 4 + 1)) e = I2 e := fun e he => z2_ro he
      refine ⟨fun t ht => ?_, fun s hs => ?_, ?_, ?_⟩
      · rw [g _ (by omega), g (5000 + 40 * p + 4 + 3 * t) (by omega), g (5000 + 40 * p + 5 + 3 * t) (by omega)]
        exact a2.1 t ht
      · rw [g _ (by omega), g (5000 + 40 * p + 11 + 2 * s) (by omega)]
        exact a2.2.1 s hs
      · rw [g _ (by omega)]
        exact a2.2.2.1
      · rw [g _ (by omega)]
        exact a2.2.2.2
    · rw [z2_s, e1000, q9, nI_1]
    · have := q10 e he
      refine ⟨this.1, this.2.1, fun h9 => ?_, this.2.2.2⟩
      rw [z2_ro h9, a1 e (by omega)]
      exact this.2.2.1 h9
    · rw [z2_nk hf, e1000]
      exact q11 f hf
    · obtain ⟨p2, hp2, ep2⟩ := k1 i (by omega)
      have hne : p2 ≠ p := fun q => by
        have := k2 i n (by omega) q3 (by rw [ep2, ep, q])
        omega
      rw [z2_ro (by omega), a1 e (by omega)]
      exact q12 i hi e g1 g2
  -- a slot, filled or not
  have slot : ∀ (I' : zI) (R' : zR) (n o : Nat), (m < 20 → n = m ∧ o = 0) → (m = 20 → n = 19 ∧ o = 1) → n < 20 → n ≤ c → zKp T R' c → zXok T R' → (∀ i, i < n → R' 1013 i = R 1013 (i + o)) → zSv I' 1200 V 20 → I' 1000 4 = nI n →
      (∀ e, e ≠ 1000 → I' e = I e) → (∀ e, e ≠ 1013 → R' e = R e) → (∀ f, f ≠ 4 → I' 1000 f = I 1000 f) → zAW mX1_keepNow 3 b 62 [(0, .ref 1000)] [] T I' L R' (zqV_TILR K) := by
    intro I' R' n o q1 q2 q3 q4 q5 q6 q7 q8 q9 q10 q11 q12
    have hk' := q5
    obtain ⟨k0, k1, k2, k3, k4, k5⟩ := q5
    refine gX1_keepNow_62 q6 ⟨by rw [q9]; simp (disch := omega) only [fa_lit, nI_add, zz_mul, zz_sub, nI_leI, nI_ltI, nI_eq, nI_clamp, zz_in, zz_m1, zz_m1e, zz_le_m1, zz_m1_le, zz_lt_m1, zz_m1_lt, zz_B0, zz_B1, zz_shr, zz_shl, zz_and31, Nat.mod_eq_of_lt, not_true_eq_false, not_false_eq_true, Nat.reduceAdd, Nat.reduceMul, Nat.reduceSub]; omega, ?_⟩
    rw [q9, nI_clamp (by omega)]
    by_cases hnc : n < c
    · obtain ⟨p, hp, ep⟩ := k1 n hnc
      have hbig : ∀ i, i < n → 5000 ≤ R' 1013 i := fun i hi => by
        obtain ⟨p2, _, ep2⟩ := k1 i (by omega)
        omega
      refine ⟨Or.inr (by omega), fun e => absurd e (by omega), fun _ => last T I' L R' c n o b q1 q2 hnc q3 hk' q6 q7 q8 q9 (fun e he => ⟨rfl, rfl, q10 e, q11 e⟩) q12 (fun i hi e g1 g2 => q10 e (by have := hbig i hi; omega))⟩
    · obtain rfl : n = c := by omega
      have e0 := k3 n (Nat.le_refl n) q3
      have hfree : ∀ e, 5000 + 40 * n ≤ e → e < 5000 + 40 * n + 40 → (T e).1 = 0 := k5 n (Nat.le_refl n) q3
      refine ⟨Or.inl e0, fun _ => ⟨5000 + 40 * n, by omega, hfree _ (Nat.le_refl _) (by omega), by omega, 200, by omega, kX10_init (by rw [z1_s]) (fun e g1 g2 => by rw [z1_n (by omega)]; exact hfree e (by omega) (by omega)) (by omega) (Nat.le_refl _) (fun T2 I2 L2 R2 a1 a2 => ?_)⟩, fun e => absurd e0 e⟩
      have fr : ∀ e, e < 5000 + 40 * n ∨ 5000 + 40 * n + 22 ≤ e → T2 e = T e ∧ I2 e = I' e ∧ L2 e = L e ∧ R2 e = R' e := fun e he => by
        have := a1 e he
        rw [z1_n (by omega), z1_n (by omega), z1_n (by omega), z1_n (by omega)] at this
        exact this
      have hx2 : zXok T2 R2 := zXok_of q6 (fun e he => (fr e (by omega)).1) (fun e he _ => (fr e (by omega)).2.2.2)
      have hx3 : zXok T2 (z2 R2 1013 n (5000 + 40 * n)) := zXok_of hx2 (fun e _ => rfl) (fun e _ h9 => z2_ro h9)
      have r1013 : ∀ i, i ≠ n → (z2 R2 1013 n (5000 + 40 * n)) 1013 i = R' 1013 i := fun i hi => by rw [z2_nk hi, (fr 1013 (by omega)).2.2.2]
      refine ⟨hx2, by rw [a2.1], last T2 I2 L2 _ (n + 1) n o _ q1 q2 (by omega) q3 ⟨by omega, fun i hi => ?_, fun i j hi hj e => ?_, fun i hi hi2 => ?_, fun p hp => ?_, fun p hp hp2 e g1 g2 => ?_⟩ hx3 (fun i hi => ?_) ?_ ?_ (fun e he => ?_) (fun f hf => ?_) (fun i hi e g1 g2 => ?_)⟩
      · by_cases e : i = n
        · exact ⟨n, by omega, by rw [e, z2_s]⟩
        · obtain ⟨p, hp, ep⟩ := k1 i (by omega)
          exact ⟨p, by omega, by rw [r1013 i e]; exact ep⟩
      · by_cases e1 : i = n
        · by_cases e2 : j = n
          · omega
          · obtain ⟨p, hp, ep⟩ := k1 j (by omega)
            rw [e1, z2_s, r1013 j e2, ep] at e
            omega
        · by_cases e2 : j = n
          · obtain ⟨p, hp, ep⟩ := k1 i (by omega)
            rw [e2, z2_s, r1013 i e1, ep] at e
            omega
          · rw [r1013 i e1, r1013 j e2] at e
            exact k2 i j (by omega) (by omega) e
      · rw [r1013 i (by omega)]
        exact k3 i (by omega) hi2
      · by_cases e : p = n
        · rw [e]
          exact a2.of (fun e g1 g2 => ⟨rfl, z2_ro (by omega)⟩)
        · exact (k4 p (by omega)).of (fun e g1 g2 => ⟨(fr e (by omega)).1, by rw [z2_ro (by omega)]; exact (fr e (by omega)).2.2.2⟩)
      · rw [(fr e (by omega)).1]
        exact k5 p (by omega) hp2 e g1 g2
      · rw [r1013 i (by omega)]
        exact q7 i hi
      · exact ⟨fun t ht => by
          rw [(fr (1200 + 3 + 3 * t) (by omega)).2.1, (fr (1200 + 4 + 3 * t) (by omega)).2.1, (fr (1200 + 5 + 3 * t) (by omega)).2.1]
          exact q8.1 t ht, fun s hs => by
          rw [(fr (1200 + 10 + 2 * s) (by omega)).2.1, (fr (1200 + 11 + 2 * s) (by omega)).2.1]
          exact q8.2.1 s hs, by rw [(fr 1200 (by omega)).2.1]; exact q8.2.2.1, by rw [(fr 1200 (by omega)).2.1]; exact q8.2.2.2⟩
      · rw [(fr 1000 (by omega)).2.1]
        exact q9
      · have := fr e (by omega)
        refine ⟨this.1, this.2.2.1, fun h9 => by rw [this.2.1]; exact q10 e h9, fun h9 => by rw [z2_ro h9, this.2.2.2]; exact q11 e h9⟩
      · rw [(fr 1000 (by omega)).2.1]
        exact q12 f hf
      · rw [r1013 i (by omega)] at g1 g2
        obtain ⟨p2, hp2, ep2⟩ := k1 i (by omega)
        rw [(fr e (by omega)).2.1]
        exact q10 e (by omega)
  have hc := hk.1
  refine sX1_keepNow (gX1_keepNow_0 hx ⟨fun c0 => ?_, fun c0 => ?_⟩)
  · simp (disch := omega) only [h4, fa_lit, nI_add, zz_mul, zz_sub, nI_leI, nI_ltI, nI_eq, nI_clamp, zz_in, zz_m1, zz_m1e, zz_le_m1, zz_m1_le, zz_lt_m1, zz_m1_lt, zz_B0, zz_B1, zz_shr, zz_shl, zz_and31, Nat.mod_eq_of_lt, not_true_eq_false, not_false_eq_true, Nat.reduceAdd, Nat.reduceMul, Nat.reduceSub] at c0
    subst c0
    obtain rfl : c = 20 := by omega
    have hk0 := hk
    obtain ⟨k0, k1, k2, k3, k4, k5⟩ := hk
    have shift : ∀ j i R', i + j = 20 → 1 ≤ i → (∀ e, e ≠ 1013 → R' e = R e) → (∀ q, q + 1 < i → R' 1013 q = R 1013 (q + 1)) → (∀ q, i ≤ q + 1 → R' 1013 q = R 1013 q) → ∀ y, y = nI i → zAW mX1_keepNow 3 b 18 [(0, .ref 1000), (1, .ref (R 1013 0)), (2, .int y)] [] T I L R' (zqV_TILR K) := by
      intro j
      induction j with
      | zero =>
        rintro i R' hi h1 a1 a2 a3 y rfl
        obtain rfl : i = 20 := by omega
        have hx' : zXok T R' := zXok_of hx (fun e _ => rfl) (fun e _ h9 => a1 e h9)
        obtain ⟨p0, hp0, ep0⟩ := k1 0 (by omega)
        refine gX1_keepNow_18 hx' ⟨fun _ => ⟨by rw [ep0, (k4 p0 hp0).1], ?_⟩, fun c2 => ?_⟩
        · have r19 : ∀ i, i < 20 → ∃ i2, i2 < 20 ∧ (z2 R' 1013 19 (R 1013 0)) 1013 i = R 1013 i2 ∧ (i = 19 → i2 = 0) ∧ (i ≠ 19 → i2 = i + 1) := fun i hi => by
            by_cases e : i = 19
            · exact ⟨0, by omega, by rw [e, z2_s], fun _ => rfl, fun q => absurd e q⟩
            · exact ⟨i + 1, by omega, by rw [z2_nk e]; exact a2 i (by omega), fun q => absurd q e, fun _ => rfl⟩
          refine slot _ _ 19 1 (fun q => absurd q (by omega)) (fun _ => ⟨rfl, rfl⟩) (by omega) (by omega) ⟨by omega, fun i hi => ?_, fun i j hi hj e => ?_, fun i g1 g2 => absurd g1 (by omega), fun p hp => (k4 p hp).of (fun e g1 g2 => ⟨rfl, by rw [z2_ro (by omega)]; exact a1 e (by omega)⟩), fun p g1 g2 => absurd g1 (by omega)⟩ (zXok_of hx (fun e _ => rfl) (fun e _ h9 => by rw [z2_ro h9]; exact a1 e h9)) (fun i hi => ?_) ?_ ?_ (fun e he => z2_ro he) (fun e he => by rw [z2_ro he]; exact a1 e he) (fun f hf => z2_nk hf)
          · obtain ⟨i2, h2, h3, -⟩ := r19 i hi
            rw [h3]
            exact k1 i2 h2
          · obtain ⟨i2, h2, h3, h5, h6⟩ := r19 i hi
            obtain ⟨j2, g2, g3, g5, g6⟩ := r19 j hj
            rw [h3, g3] at e
            have := k2 i2 j2 h2 g2 e
            by_cases x1 : i = 19
            · by_cases x2 : j = 19
              · omega
              · have := h5 x1
                have := g6 x2
                omega
            · by_cases x2 : j = 19
              · have := h6 x1
                have := g5 x2
                omega
              · have := h6 x1
                have := g6 x2
                omega
          · rw [z2_nk (by omega)]
            exact a2 i (by omega)
          · exact ⟨fun t ht => by rw [z2_ro (by omega), z2_ro (show 1200 + 4 + 3 * t ≠ 1000 by omega), z2_ro (show 1200 + 5 + 3 * t ≠ 1000 by omega)]; exact hv.1 t ht, fun s hs => by rw [z2_ro (by omega), z2_ro (show 1200 + 11 + 2 * s ≠ 1000 by omega)]; exact hv.2.1 s hs, by rw [z2_ro (by decide)]; exact hv.2.2.1, by rw [z2_ro (by decide)]; exact hv.2.2.2⟩
          · rw [z2_s, h4]
            decide
        · exfalso
          (try simp (disch := omega) only [fa_lit, nI_add, zz_mul, zz_sub, nI_leI, nI_ltI, nI_eq, nI_clamp, zz_in, zz_m1, zz_m1e, zz_le_m1, zz_m1_le, zz_lt_m1, zz_m1_lt, zz_B0, zz_B1, zz_shr, zz_shl, zz_and31, Nat.mod_eq_of_lt, not_true_eq_false, not_false_eq_true, Nat.reduceAdd, Nat.reduceMul, Nat.reduceSub] at c2) <;> (try omega)
      | succ j ih =>
        rintro i R' hi h1 a1 a2 a3 y rfl
        have hx' : zXok T R' := zXok_of hx (fun e _ => rfl) (fun e _ h9 => a1 e h9)
        obtain ⟨p0, hp0, ep0⟩ := k1 i (by omega)
        have e1 : (nI i - (1 : Int32)).toNatClampNeg = i - 1 := by simp (disch := omega) only [fa_lit, nI_add, zz_mul, zz_sub, nI_leI, nI_ltI, nI_eq, nI_clamp, zz_in, zz_m1, zz_m1e, zz_le_m1, zz_m1_le, zz_lt_m1, zz_m1_lt, zz_B0, zz_B1, zz_shr, zz_shl, zz_and31, Nat.mod_eq_of_lt, not_true_eq_false, not_false_eq_true, Nat.reduceAdd, Nat.reduceMul, Nat.reduceSub]
        refine gX1_keepNow_18 hx' ⟨fun c2 => ?_, fun _ => ⟨by simp (disch := omega) only [fa_lit, nI_add, zz_mul, zz_sub, nI_leI, nI_ltI, nI_eq, nI_clamp, zz_in, zz_m1, zz_m1e, zz_le_m1, zz_m1_le, zz_lt_m1, zz_m1_lt, zz_B0, zz_B1, zz_shr, zz_shl, zz_and31, Nat.mod_eq_of_lt, not_true_eq_false, not_false_eq_true, Nat.reduceAdd, Nat.reduceMul, Nat.reduceSub]; omega, by simp (disch := omega) only [fa_lit, nI_add, zz_mul, zz_sub, nI_leI, nI_ltI, nI_eq, nI_clamp, zz_in, zz_m1, zz_m1e, zz_le_m1, zz_m1_le, zz_lt_m1, zz_m1_lt, zz_B0, zz_B1, zz_shr, zz_shl, zz_and31, Nat.mod_eq_of_lt, not_true_eq_false, not_false_eq_true, Nat.reduceAdd, Nat.reduceMul, Nat.reduceSub]; omega, ?_⟩⟩
        · exfalso
          (try simp (disch := omega) only [fa_lit, nI_add, zz_mul, zz_sub, nI_leI, nI_ltI, nI_eq, nI_clamp, zz_in, zz_m1, zz_m1e, zz_le_m1, zz_m1_le, zz_lt_m1, zz_m1_lt, zz_B0, zz_B1, zz_shr, zz_shl, zz_and31, Nat.mod_eq_of_lt, not_true_eq_false, not_false_eq_true, Nat.reduceAdd, Nat.reduceMul, Nat.reduceSub] at c2) <;> (try omega)
        · rw [nI_clamp (by omega), e1, a3 i (by omega), ep0]
          refine ⟨by rw [(k4 p0 hp0).1], ih (i + 1) _ (by omega) (by omega) (fun e he => by rw [z2_ro he]; exact a1 e he) (fun q hq => ?_) (fun q hq => ?_) _ (nI_1 i)⟩
          · by_cases e : q = i - 1
            · rw [e, z2_s, show i - 1 + 1 = i by omega, ep0]
            · rw [z2_nk e]
              exact a2 q (by omega)
          · rw [z2_nk (by omega)]
            exact a3 q (by omega)
    exact shift 19 1 R rfl (Nat.le_refl 1) (fun _ _ => rfl) (fun q hq => absurd hq (by omega)) (fun q _ => rfl) _ rfl
  · simp (disch := omega) only [h4, fa_lit, nI_add, zz_mul, zz_sub, nI_leI, nI_ltI, nI_eq, nI_clamp, zz_in, zz_m1, zz_m1e, zz_le_m1, zz_m1_le, zz_lt_m1, zz_m1_lt, zz_B0, zz_B1, zz_shr, zz_shl, zz_and31, Nat.mod_eq_of_lt, not_true_eq_false, not_false_eq_true, Nat.reduceAdd, Nat.reduceMul, Nat.reduceSub] at c0
    exact slot I R m 0 (fun _ => ⟨rfl, rfl⟩) (fun q => absurd q c0) (by omega) hm hk hx (fun i _ => rfl) hv h4 (fun _ _ => rfl) (fun _ _ => rfl) (fun _ _ => rfl)
