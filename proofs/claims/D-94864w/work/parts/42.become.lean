/-! STATES: one becomes another -/
/-- only a State's block is written -/
def zBk (B : Nat) (I I' : zI) : Prop := ∀ e, e < B ∨ B + 22 ≤ e → I' e = I e
theorem zBk.rf {B : Nat} {I : zI} : zBk B I I := fun _ _ => rfl
theorem zBk.tr {B : Nat} {I I' I2 : zI} (h : zBk B I I') (h2 : zBk B I' I2) : zBk B I I2 := fun e he => (h2 e he).trans (h e he)
theorem zBk.of {B : Nat} {I I' : zI} {ks : List Nat} (h : zE ks I I') (hk : ∀ x ∈ ks, B ≤ x ∧ x < B + 22) : zBk B I I' := fun e he => h e (fun q => by have := hk e q; omega)
theorem zSv.bk {B C c : Nat} {I I' : zI} {V : Nat → Nat → Nat → Nat} (hn : V 5 0 0 ≤ 6) (h : zSv I C V c) (hb : zBk B I I') (hd : B + 22 ≤ C ∨ C + 22 ≤ B) : zSv I' C V c := by
  refine ⟨fun t ht => ?_, fun s hs => ?_, ?_, ?_⟩
  · have := h.1 t ht
    refine ⟨by rw [hb _ (by omega)]; exact this.1, fun i hi => ?_⟩
    rw [hb _ (by omega), hb (C + 5 + 3 * t) (by omega)]
    exact this.2 i hi
  · have := h.2.1 s hs
    refine ⟨by rw [hb _ (by omega)]; exact this.1, fun k hk => ?_⟩
    rw [hb _ (by omega)]
    exact this.2 k hk
  · rw [hb _ (by omega)]
    exact h.2.2.1
  · rw [hb _ (by omega)]
    exact h.2.2.2
theorem kX10_become {T : zT} {I : zI} {L : zL} {R : zR} {B C c : Nat} {V : Nat → Nat → Nat → Nat} {K : zI → Prop} (h1 : zSL T R B) (h2 : zSL T R C) (hd : B + 22 ≤ C ∨ C + 22 ≤ B) (hv : zSv I C V c) (hw : ∀ t, t < 2 → V c t 0 ≤ 12) (hn : V 5 0 0 ≤ 6) (hl : ∀ s, s < V 5 0 0 → V 6 s 2 ≤ 12)
    (hK : ∀ I', zBk B I I' → zSv I' B V c → K I') : zMet mX10_become 2 0 [.ref B, .ref C] T I L R (zqV_I T L R K) := by
  have rows : ∀ j s I', s + j = 6 → zBk B I I' → (∀ t, t < 2 → I' (B + 3 + 3 * t) 2 = nI (V c t 0) ∧ ∀ i, i < V c t 0 → I' (B + 4 + 3 * t) i = nI (V (c + 1) t i) ∧ I' (B + 5 + 3 * t) i = nI (V (c + 2) t i)) →
      (∀ q, q < s → q < V 5 0 0 → I' (B + 10 + 2 * q) 1 = nI (V 6 q 2) ∧ ∀ k, k < V 6 q 2 → k < 12 → I' (B + 11 + 2 * q) k = nI (V (c + 3) q k)) → ∀ y, y = nI s → zAW mX10_become 2 0 30 [(0, .ref B), (1, .ref C), (2, .int y)] [] T I' L R (zqV_I T L R K) := by
    intro j
    induction j with
    | zero =>
      rintro s I' hs hb hst hro y rfl
      obtain rfl : s = 6 := by omega
      refine gX10_become_30 ⟨fun _ => ⟨by rw [h2.1], by rw [h1.1], zqV_I_i (hK _ ?_ ⟨fun t ht => ?_, fun q hq => ?_, ?_, ?_⟩)⟩, fun e => ?_⟩
      · exact hb.tr (zBk.of (ks := [B]) (zE_w2 (zE_w2 zE_rf (by simp)) (by simp)) (by simp))
      · have := hst t ht
        refine ⟨?_, fun i hi => ?_⟩
        · rw [z2_na (by omega), z2_na (by omega)]
          exact this.1
        · rw [z2_na (by omega), z2_na (by omega), z2_na (by omega), z2_na (by omega)]
          exact this.2 i hi
      · have h12 := hro q (by omega) hq
        refine ⟨?_, fun k hk => ?_⟩
        · rw [z2_na (by omega), z2_na (by omega)]
          exact h12.1
        · rw [z2_na (by omega), z2_na (by omega)]
          exact h12.2 k hk (by have := hl q hq; omega)
      · rw [z2_nk (by decide), z2_s, hb C (by omega)]
        exact hv.2.2.1
      · rw [z2_s, hb C (by omega)]
        exact hv.2.2.2
      · exfalso
        (try simp (disch := omega) only [fa_lit, nI_add, zz_mul, zz_sub, nI_leI, nI_ltI, nI_eq, nI_clamp, zz_in, zz_m1, zz_m1e, zz_le_m1, zz_m1_le, zz_lt_m1, zz_m1_lt, zz_B0, zz_B1, zz_shr, zz_shl, zz_and31, Nat.mod_eq_of_lt, not_true_eq_false, not_false_eq_true, Nat.reduceAdd, Nat.reduceMul, Nat.reduceSub] at e) <;> (try omega)
    | succ j ih =>
      rintro s I' hs hb hst hro y rfl
      have r1 := h1.2.2.2.2.2.2.2 s (by omega)
      have r2 := h2.2.2.2.2.2.2.2 s (by omega)
      refine gX10_become_30 ⟨fun e => ?_, fun _ => ?_⟩
      · exfalso
        (try simp (disch := omega) only [fa_lit, nI_add, zz_mul, zz_sub, nI_leI, nI_ltI, nI_eq, nI_clamp, zz_in, zz_m1, zz_m1e, zz_le_m1, zz_m1_le, zz_lt_m1, zz_m1_lt, zz_B0, zz_B1, zz_shr, zz_shl, zz_and31, Nat.mod_eq_of_lt, not_true_eq_false, not_false_eq_true, Nat.reduceAdd, Nat.reduceMul, Nat.reduceSub] at e) <;> (try omega)
      · rw [nI_clamp (by omega), h1.2.2.1, h2.2.2.1, h1.2.2.2.2.2.1, h2.2.2.2.2.2.1, r1.1, r2.1]
        refine ⟨by rw [h1.1], rfl, by simp (disch := omega) only [fa_lit, nI_add, zz_mul, zz_sub, nI_leI, nI_ltI, nI_eq, nI_clamp, zz_in, zz_m1, zz_m1e, zz_le_m1, zz_m1_le, zz_lt_m1, zz_m1_lt, zz_B0, zz_B1, zz_shr, zz_shl, zz_and31, Nat.mod_eq_of_lt, not_true_eq_false, not_false_eq_true, Nat.reduceAdd, Nat.reduceMul, Nat.reduceSub]; omega, by rw [h2.1], rfl, by simp (disch := omega) only [fa_lit, nI_add, zz_mul, zz_sub, nI_leI, nI_ltI, nI_eq, nI_clamp, zz_in, zz_m1, zz_m1e, zz_le_m1, zz_m1_le, zz_lt_m1, zz_m1_lt, zz_B0, zz_B1, zz_shr, zz_shl, zz_and31, Nat.mod_eq_of_lt, not_true_eq_false, not_false_eq_true, Nat.reduceAdd, Nat.reduceMul, Nat.reduceSub]; omega, by rw [r1.2.1], kX11_become (by rw [r1.2.1]) (by rw [r1.2.2.1, r1.2.2.2]) (by rw [r2.2.1]) (by rw [r2.2.2.1, r2.2.2.2]) (by rw [r1.2.2.1, r2.2.2.1]; omega) (fun I2 a1 a2 a3 => ?_)⟩
        rw [r1.2.2.1] at a1 a3
        rw [r2.2.2.1] at a3
        refine ih (s + 1) I2 (by omega) (hb.tr (zBk.of a1 (by simp; omega))) (fun t ht => ?_) (fun q hq1 hq2 => ?_) _ (nI_1 s)
        · rw [a1 (B + 3 + 3 * t) (by simp; omega), a1 (B + 4 + 3 * t) (by simp; omega), a1 (B + 5 + 3 * t) (by simp; omega)]
          exact hst t ht
        · by_cases e : q = s
          · subst e
            have hvq := hv.2.1 q hq2
            refine ⟨?_, fun k hk hk2 => ?_⟩
            · rw [a2, hb _ (by omega)]
              exact hvq.1
            · rw [a3 k hk2, hb _ (by omega)]
              exact hvq.2 k hk
          · rw [a1 (B + 10 + 2 * q) (by simp; omega), a1 (B + 11 + 2 * q) (by simp; omega)]
            exact hro q (by omega) hq2
  have stores : ∀ j t I', t + j = 2 → zBk B I I' → (∀ q, q < t → I' (B + 3 + 3 * q) 2 = nI (V c q 0) ∧ ∀ i, i < V c q 0 → I' (B + 4 + 3 * q) i = nI (V (c + 1) q i) ∧ I' (B + 5 + 3 * q) i = nI (V (c + 2) q i)) → ∀ y, y = nI t → zAW mX10_become 2 0 2 [(0, .ref B), (1, .ref C), (2, .int y)] [] T I' L R (zqV_I T L R K) := by
    intro j
    induction j with
    | zero =>
      rintro t I' ht hb hst y rfl
      obtain rfl : t = 2 := by omega
      refine gX10_become_2 ⟨fun _ => rows 6 0 I' rfl hb (fun q hq => hst q hq) (fun q hq => absurd hq (Nat.not_lt_zero q)) _ rfl, fun e => ?_⟩
      exfalso
      (try simp (disch := omega) only [fa_lit, nI_add, zz_mul, zz_sub, nI_leI, nI_ltI, nI_eq, nI_clamp, zz_in, zz_m1, zz_m1e, zz_le_m1, zz_m1_le, zz_lt_m1, zz_m1_lt, zz_B0, zz_B1, zz_shr, zz_shl, zz_and31, Nat.mod_eq_of_lt, not_true_eq_false, not_false_eq_true, Nat.reduceAdd, Nat.reduceMul, Nat.reduceSub] at e) <;> (try omega)
    | succ j ih =>
      rintro t I' ht hb hst y rfl
      have r1 := h1.2.2.2.2.2.2.1 t (by omega)
      have r2 := h2.2.2.2.2.2.2.1 t (by omega)
      have hvt := hv.1 t (by omega)
      refine gX10_become_2 ⟨fun e => ?_, fun _ => ?_⟩
      · exfalso
        (try simp (disch := omega) only [fa_lit, nI_add, zz_mul, zz_sub, nI_leI, nI_ltI, nI_eq, nI_clamp, zz_in, zz_m1, zz_m1e, zz_le_m1, zz_m1_le, zz_lt_m1, zz_m1_lt, zz_B0, zz_B1, zz_shr, zz_shl, zz_and31, Nat.mod_eq_of_lt, not_true_eq_false, not_false_eq_true, Nat.reduceAdd, Nat.reduceMul, Nat.reduceSub] at e) <;> (try omega)
      · rw [nI_clamp (by omega), h1.2.1, h2.2.1, h1.2.2.2.2.1, h2.2.2.2.2.1, r1.1, r2.1]
        refine ⟨by rw [h1.1], rfl, by simp (disch := omega) only [fa_lit, nI_add, zz_mul, zz_sub, nI_leI, nI_ltI, nI_eq, nI_clamp, zz_in, zz_m1, zz_m1e, zz_le_m1, zz_m1_le, zz_lt_m1, zz_m1_lt, zz_B0, zz_B1, zz_shr, zz_shl, zz_and31, Nat.mod_eq_of_lt, not_true_eq_false, not_false_eq_true, Nat.reduceAdd, Nat.reduceMul, Nat.reduceSub]; omega, by rw [h2.1], rfl, by simp (disch := omega) only [fa_lit, nI_add, zz_mul, zz_sub, nI_leI, nI_ltI, nI_eq, nI_clamp, zz_in, zz_m1, zz_m1e, zz_le_m1, zz_m1_le, zz_lt_m1, zz_m1_lt, zz_B0, zz_B1, zz_shr, zz_shl, zz_and31, Nat.mod_eq_of_lt, not_true_eq_false, not_false_eq_true, Nat.reduceAdd, Nat.reduceMul, Nat.reduceSub]; omega, by rw [r1.2.1], kX4_become (n := V c t 0) (by rw [r1.2.1]) (by rw [r1.2.2.1, r1.2.2.2.2.1]) (by rw [r1.2.2.2.1, r1.2.2.2.2.2]) (by rw [r2.2.1]) (by rw [r2.2.2.1, r2.2.2.2.2.1]) (by rw [r2.2.2.2.1, r2.2.2.2.2.2]) (by rw [hb _ (by omega)]; exact hvt.1) (hw t (by omega))
          (by rw [r1.2.2.1, r2.2.2.1]; omega) (by rw [r1.2.2.2.1, r2.2.2.1]; omega) (by rw [r1.2.2.1, r2.2.2.2.1]; omega) (by rw [r1.2.2.2.1, r2.2.2.2.1]; omega) (by rw [r1.2.2.1, r1.2.2.2.1]; omega) (fun I2 a1 a2 a3 a4 => ?_)⟩
        rw [r1.2.2.1, r1.2.2.2.1] at a1
        rw [r1.2.2.1, r2.2.2.1] at a3
        rw [r1.2.2.2.1, r2.2.2.2.1] at a4
        refine ih (t + 1) I2 (by omega) (hb.tr (zBk.of a1 (by simp; omega))) (fun q hq => ?_) _ (nI_1 t)
        by_cases e : q = t
        · subst e
          refine ⟨a2, fun i hi => ?_⟩
          rw [a3 i hi, a4 i hi, hb _ (by omega), hb (C + 5 + 3 * q) (by omega)]
          exact hvt.2 i hi
        · rw [a1 (B + 3 + 3 * q) (by simp; omega), a1 (B + 4 + 3 * q) (by simp; omega), a1 (B + 5 + 3 * q) (by simp; omega)]
          exact hst q (by omega)
  exact sX10_become (gX10_become_0 (stores 2 0 I rfl zBk.rf (fun q h => absurd h (Nat.not_lt_zero q)) _ rfl))
