/-! FEED: five ints -/
def fdX (a b c d e : Int32) (q : Nat) : Int32 := if q < 4 then a else if q < 8 then b else if q < 12 then c else if q < 16 then d else e
/-- the q-th of the twenty bytes -/
def fdB (a b c d e : Int32) (q : Nat) : Int32 := byI (fdX a b c d e q) (q % 4)
theorem kX1_feed {T : zT} {I : zI} {L : zL} {R : zR} {n : Nat} {a b c d e : Int32} {K : Int32 → zI → Prop} (hx : zXok T R) (h1 : I 1000 1 = nI n) (hn : n ≤ 800) (h0 : 800 < n + 20 → K (-1) I)
    (hK : n + 20 ≤ 800 → ∀ I', zE [1000, 1001] I I' → (∀ f, f ≠ 1 → I' 1000 f = I 1000 f) → I' 1000 1 = nI (n + 20) → (∀ q, q < n → I' 1001 q = I 1001 q) → (∀ j, j < 20 → I' 1001 (n + j) = (fdB a b c d e j).toInt8.toInt32) → K (nI (n + 20)) I') :
    zMet mX1_feed 2 0 [.ref 1000, .int a, .int b, .int c, .int d, .int e] T I L R (zqI_I T L R K) := by
  refine sX1_feed (gX1_feed_0 hx ⟨fun q => ?_, fun q => zqI_I_i (h0 ?_)⟩)
  · simp (disch := omega) only [h1, fa_lit, nI_add, zz_mul, zz_sub, nI_leI, nI_ltI, nI_eq, nI_clamp, zz_in, zz_m1, zz_m1e, zz_le_m1, zz_m1_le, zz_lt_m1, zz_m1_lt, zz_B0, zz_B1, zz_shr, zz_shl, zz_and31, Nat.mod_eq_of_lt, not_true_eq_false, not_false_eq_true, Nat.reduceAdd, Nat.reduceMul, Nat.reduceSub] at q
    refine kX1_put1 hx h1 (by omega) (fun I1 a1 a2 a3 a4 a5 => kX1_put1 hx a3 (by omega) (fun I2 b1 b2 b3 b4 b5 => kX1_put1 hx b3 (by omega) (fun I3 c1 c2 c3 c4 c5 => kX1_put1 hx c3 (by omega) (fun I4 d1 d2 d3 d4 d5 => kX1_put1 hx d3 (by omega) (fun I5 e1 e2 e3 e4 e5 => zqI_I_i ?_)))))
    rw [e3]
    refine hK q I5 (zE_tr a1 (zE_tr b1 (zE_tr c1 (zE_tr d1 e1)))) (fun f hf => by rw [e2 f hf, d2 f hf, c2 f hf, b2 f hf, a2 f hf]) e3 (fun q hq => by rw [e4 q (by omega), d4 q (by omega), c4 q (by omega), b4 q (by omega), a4 q hq]) (fun j hj => ?_)
    unfold fdB fdX
    by_cases j1 : j < 4
    · rw [if_pos j1, e4 _ (by omega), d4 _ (by omega), c4 _ (by omega), b4 _ (by omega), a5 j j1, Nat.mod_eq_of_lt j1]
    · by_cases j2 : j < 8
      · rw [if_neg j1, if_pos j2, e4 _ (by omega), d4 _ (by omega), c4 _ (by omega), show n + j = n + 4 + (j - 4) by omega, b5 (j - 4) (by omega), show j % 4 = j - 4 by omega]
      · by_cases j3 : j < 12
        · rw [if_neg j1, if_neg j2, if_pos j3, e4 _ (by omega), d4 _ (by omega), show n + j = n + 4 + 4 + (j - 8) by omega, c5 (j - 8) (by omega), show j % 4 = j - 8 by omega]
        · by_cases j4 : j < 16
          · rw [if_neg j1, if_neg j2, if_neg j3, if_pos j4, e4 _ (by omega), show n + j = n + 4 + 4 + 4 + (j - 12) by omega, d5 (j - 12) (by omega), show j % 4 = j - 12 by omega]
          · rw [if_neg j1, if_neg j2, if_neg j3, if_neg j4, show n + j = n + 4 + 4 + 4 + 4 + (j - 16) by omega, e5 (j - 16) (by omega), show j % 4 = j - 16 by omega]
  · simp (disch := omega) only [h1, fa_lit, nI_add, zz_mul, zz_sub, nI_leI, nI_ltI, nI_eq, nI_clamp, zz_in, zz_m1, zz_m1e, zz_le_m1, zz_m1_le, zz_lt_m1, zz_m1_lt, zz_B0, zz_B1, zz_shr, zz_shl, zz_and31, Nat.mod_eq_of_lt, not_true_eq_false, not_false_eq_true, Nat.reduceAdd, Nat.reduceMul, Nat.reduceSub] at q
    omega
theorem zz_mod4 : ∀ k, k < 20 → (24 : Int32) - ((8 : Int32) * (nI k - nI k / (4 : Int32) * (4 : Int32))) = nI (24 - 8 * (k % 4)) := by decide +kernel
theorem kX13_feed {T : zT} {I : zI} {L : zL} {R : zR} {n : Nat} {a b c d e : Int32} {K : Int32 → zI → Prop} (hx : zMok T R) (h1 : I 2000 1 = nI n) (hn : n ≤ 800) (h0 : 800 < n + 20 → K (-1) (z2 I 2000 2 0))
    (hK : n + 20 ≤ 800 → ∀ I', zE [2000, 2001] I I' → (∀ f, f ∉ [1, 2] → I' 2000 f = I 2000 f) → I' 2000 1 = nI (n + 20) → (∀ q, q < n → I' 2001 q = I 2001 q) → (∀ j, j < 20 → I' 2001 (n + j) = fdB a b c d e j) → K (nI (n + 20)) I') :
    zMet mX13_feed 1 0 [.ref 2000, .int a, .int b, .int c, .int d, .int e] T I L R (zqI_I T L R K) := by
  refine sX13_feed (gX13_feed_0 hx ⟨fun q => ?_, fun q => zqI_I_i (h0 ?_)⟩)
  · simp (disch := omega) only [h1, fa_lit, nI_add, zz_mul, zz_sub, nI_leI, nI_ltI, nI_eq, nI_clamp, zz_in, zz_m1, zz_m1e, zz_le_m1, zz_m1_le, zz_lt_m1, zz_m1_lt, zz_B0, zz_B1, zz_shr, zz_shl, zz_and31, Nat.mod_eq_of_lt, not_true_eq_false, not_false_eq_true, Nat.reduceAdd, Nat.reduceMul, Nat.reduceSub] at q
    have main : ∀ j k I', k + j = 20 → zE [2000, 2001] I I' → (∀ f, f ∉ [1, 2] → I' 2000 f = I 2000 f) → I' 2000 1 = nI n → (∀ q, q < n → I' 2001 q = I 2001 q) → (∀ j, j < k → I' 2001 (n + j) = fdB a b c d e j) → ∀ y, y = nI k → zAW mX13_feed 1 0 23 [(0, .ref 2000), (1, .int a), (2, .int b), (3, .int c), (4, .int d), (5, .int e), (6, .int y)] [] T I' L R (zqI_I T L R K) := by
      intro j
      induction j with
      | zero =>
        rintro k I' hk a1 a2 a3 a4 a5 y rfl
        obtain rfl : k = 20 := by omega
        refine gX13_feed_23 hx ⟨fun _ => zqI_I_i ?_, fun q2 => absurd (by decide) q2⟩
        have e1 : nI n + (20 : Int32) = nI (n + 20) := nI_add n 20
        rw [a3, e1]
        refine hK q _ (zE_w2 a1 (by simp)) (fun f hf => ?_) z2_s (fun q hq => by rw [z2_na (by decide)]; exact a4 q hq) (fun j hj => by rw [z2_na (by decide)]; exact a5 j hj)
        rw [z2_nk (fun q => hf (by rw [q]; simp))]
        exact a2 f hf
      | succ j ih =>
        rintro k I' hk a1 a2 a3 a4 a5 y rfl
        have fin : ∀ s, s = fdX a b c d e k → zAW mX13_feed 1 0 76 [(0, .ref 2000), (1, .int a), (2, .int b), (3, .int c), (4, .int d), (5, .int e), (6, .int (nI k))] [.int s] T I' L R (zqI_I T L R K) := by
          rintro s rfl
          refine gX13_feed_76 hx ⟨by rw [a3]; simp (disch := omega) only [fa_lit, nI_add, zz_mul, zz_sub, nI_leI, nI_ltI, nI_eq, nI_clamp, zz_in, zz_m1, zz_m1e, zz_le_m1, zz_m1_le, zz_lt_m1, zz_m1_lt, zz_B0, zz_B1, zz_shr, zz_shl, zz_and31, Nat.mod_eq_of_lt, not_true_eq_false, not_false_eq_true, Nat.reduceAdd, Nat.reduceMul, Nat.reduceSub]; omega, ?_⟩
          rw [a3, nI_add, nI_clamp (by omega), zz_mod4 k (by omega)]
          refine ih (k + 1) _ (by omega) (zE_w2 a1 (by simp)) (fun f hf => by rw [z2_na (by decide)]; exact a2 f hf) (by rw [z2_na (by decide)]; exact a3) (fun q hq => by rw [z2_nk (by omega)]; exact a4 q hq) (fun q hq => ?_) _ (nI_1 k)
          by_cases e9 : q = k
          · rw [e9, z2_s]
            rfl
          · rw [z2_nk (by omega)]
            exact a5 q (by omega)
        have x4 : (4 : Int32) ≤ nI k ↔ 4 ≤ k := nI_leI (by decide) (by omega)
        have x8 : (8 : Int32) ≤ nI k ↔ 8 ≤ k := nI_leI (by decide) (by omega)
        have x12 : (12 : Int32) ≤ nI k ↔ 12 ≤ k := nI_leI (by decide) (by omega)
        have x16 : (16 : Int32) ≤ nI k ↔ 16 ≤ k := nI_leI (by decide) (by omega)
        refine gX13_feed_23 hx ⟨fun c2 => ?_, fun _ => ⟨fun c4 => ⟨fun c8 => ⟨fun c12 => ⟨fun c16 => fin _ ?_, fun c16 => fin _ ?_⟩, fun c12 => fin _ ?_⟩, fun c8 => fin _ ?_⟩, fun c4 => fin _ ?_⟩⟩
        · exfalso
          (try simp (disch := omega) only [fa_lit, nI_add, zz_mul, zz_sub, nI_leI, nI_ltI, nI_eq, nI_clamp, zz_in, zz_m1, zz_m1e, zz_le_m1, zz_m1_le, zz_lt_m1, zz_m1_lt, zz_B0, zz_B1, zz_shr, zz_shl, zz_and31, Nat.mod_eq_of_lt, not_true_eq_false, not_false_eq_true, Nat.reduceAdd, Nat.reduceMul, Nat.reduceSub] at c2) <;> (try omega)
        · have z1 := x16.mp c16
          unfold fdX
          rw [if_neg (by omega), if_neg (by omega), if_neg (by omega), if_neg (by omega)]
        · have z1 := x12.mp c12
          have z2 : ¬ 16 ≤ k := fun q => c16 (x16.mpr q)
          unfold fdX
          rw [if_neg (by omega), if_neg (by omega), if_neg (by omega), if_pos (by omega)]
        · have z1 := x8.mp c8
          have z2 : ¬ 12 ≤ k := fun q => c12 (x12.mpr q)
          unfold fdX
          rw [if_neg (by omega), if_neg (by omega), if_pos (by omega)]
        · have z1 := x4.mp c4
          have z2 : ¬ 8 ≤ k := fun q => c8 (x8.mpr q)
          unfold fdX
          rw [if_neg (by omega), if_pos (by omega)]
        · have z2 : ¬ 4 ≤ k := fun q => c4 (x4.mpr q)
          unfold fdX
          rw [if_pos (by omega)]
    refine main 20 0 _ rfl (zE_w2 zE_rf (by simp)) (fun f hf => z2_nk (fun q => hf (by rw [q]; simp))) (by rw [z2_nk (by decide)]; exact h1) (fun q _ => by rw [z2_na (by decide)]) (fun q hq => absurd hq (Nat.not_lt_zero q)) _ rfl
  · simp (disch := omega) only [h1, fa_lit, nI_add, zz_mul, zz_sub, nI_leI, nI_ltI, nI_eq, nI_clamp, zz_in, zz_m1, zz_m1e, zz_le_m1, zz_m1_le, zz_lt_m1, zz_m1_lt, zz_B0, zz_B1, zz_shr, zz_shl, zz_and31, Nat.mod_eq_of_lt, not_true_eq_false, not_false_eq_true, Nat.reduceAdd, Nat.reduceMul, Nat.reduceSub] at q
    omega
