/-! STATES: the reference's image, and what it remembers -/
/-- fields of the reference, but some, alike -/
def zFd (fs : List Nat) (I I' : zI) : Prop := ∀ f, f ∉ fs → I' 2000 f = I 2000 f
theorem zFd.rf {fs : List Nat} {I : zI} : zFd fs I I := fun _ _ => rfl
theorem zFd.w {fs : List Nat} {I I' : zI} {f : Nat} {v : Int32} (h : zFd fs I I') (hf : f ∈ fs) : zFd fs I (z2 I' 2000 f v) := fun q hq => by
  rw [z2_nk (fun e => hq (by rw [e]; exact hf))]
  exact h q hq
theorem zFd.o {fs : List Nat} {I I' : zI} {a k : Nat} {v : Int32} (h : zFd fs I I') (ha : 2000 ≠ a) : zFd fs I (z2 I' a k v) := fun q hq => by
  rw [z2_na ha]
  exact h q hq
theorem kX13_keep {T : zT} {I : zI} {L : zL} {R : zR} {K : Int32 → zI → zL → Prop} (hx : zMok T R)
    (hK : ∀ I', zE [2000, 2086, 2087, 2088, 2089] I I' → zFd [2, 81, 82, 83] I I' → I' 2000 81 = 1 → I' 2000 82 = I 2000 57 → I' 2000 83 = I 2000 58 → (∀ k, k < 72 → I' 2086 k = I 2061 k) → (∀ k, k < 2 → I' 2087 k = I 2032 k) → (∀ k, k < 24 → I' 2088 k = I 2033 k ∧ I' 2089 k = I 2034 k) → K (I 2000 57) I' (z2 L 2000 84 (L 2000 59))) :
    zMet mX13_keep 1 0 [.ref 2000] T I L R (zqI_IL T R K) := by
  have l3 : ∀ j k I', k + j = 24 → zE [2000, 2086, 2087, 2088, 2089] I I' → zFd [2, 81, 82, 83] I I' → I' 2000 81 = 1 → I' 2000 82 = I 2000 57 → I' 2000 83 = I 2000 58 → (∀ k, k < 72 → I' 2086 k = I 2061 k) → (∀ k, k < 2 → I' 2087 k = I 2032 k) → (∀ q, q < k → I' 2088 q = I 2033 q ∧ I' 2089 q = I 2034 q) → ∀ y, y = nI k →
      zAW mX13_keep 1 0 87 [(0, .ref 2000), (1, .int y)] [] T I' (z2 L 2000 84 (L 2000 59)) R (zqI_IL T R K) := by
    intro j
    induction j with
    | zero =>
      rintro k I' hk a1 a2 a3 a4 a5 a6 a7 a8 y rfl
      obtain rfl : k = 24 := by omega
      refine gX13_keep_87 hx ⟨fun _ => zqI_IL_i ?_, fun c => ?_⟩
      · rw [a2 57 (by decide)]
        exact hK I' a1 a2 a3 a4 a5 a6 a7 a8
      · exfalso
        (try simp (disch := omega) only [fa_lit, nI_add, zz_mul, zz_sub, nI_leI, nI_ltI, nI_eq, nI_clamp, zz_in, zz_m1, zz_m1e, zz_le_m1, zz_m1_le, zz_lt_m1, zz_m1_lt, zz_B0, zz_B1, zz_shr, zz_shl, zz_and31, Nat.mod_eq_of_lt, not_true_eq_false, not_false_eq_true, Nat.reduceAdd, Nat.reduceMul, Nat.reduceSub] at c) <;> (try omega)
    | succ j ih =>
      rintro k I' hk a1 a2 a3 a4 a5 a6 a7 a8 y rfl
      refine gX13_keep_87 hx ⟨fun c => ?_, fun _ => ⟨by simp (disch := omega) only [fa_lit, nI_add, zz_mul, zz_sub, nI_leI, nI_ltI, nI_eq, nI_clamp, zz_in, zz_m1, zz_m1e, zz_le_m1, zz_m1_le, zz_lt_m1, zz_m1_lt, zz_B0, zz_B1, zz_shr, zz_shl, zz_and31, Nat.mod_eq_of_lt, not_true_eq_false, not_false_eq_true, Nat.reduceAdd, Nat.reduceMul, Nat.reduceSub]; omega, by simp (disch := omega) only [fa_lit, nI_add, zz_mul, zz_sub, nI_leI, nI_ltI, nI_eq, nI_clamp, zz_in, zz_m1, zz_m1e, zz_le_m1, zz_m1_le, zz_lt_m1, zz_m1_lt, zz_B0, zz_B1, zz_shr, zz_shl, zz_and31, Nat.mod_eq_of_lt, not_true_eq_false, not_false_eq_true, Nat.reduceAdd, Nat.reduceMul, Nat.reduceSub]; omega, ?_⟩⟩
      · exfalso
        (try simp (disch := omega) only [fa_lit, nI_add, zz_mul, zz_sub, nI_leI, nI_ltI, nI_eq, nI_clamp, zz_in, zz_m1, zz_m1e, zz_le_m1, zz_m1_le, zz_lt_m1, zz_m1_lt, zz_B0, zz_B1, zz_shr, zz_shl, zz_and31, Nat.mod_eq_of_lt, not_true_eq_false, not_false_eq_true, Nat.reduceAdd, Nat.reduceMul, Nat.reduceSub] at c) <;> (try omega)
      · rw [nI_clamp (by omega)]
        refine ih (k + 1) _ (by omega) (zE_w2 (zE_w2 a1 (by simp)) (by simp)) ((a2.o (by decide)).o (by decide)) ?_ ?_ ?_ (fun q hq => ?_) (fun q hq => ?_) (fun q hq => ?_) _ (nI_1 k)
        · rw [z2_na (by decide), z2_na (by decide)]
          exact a3
        · rw [z2_na (by decide), z2_na (by decide)]
          exact a4
        · rw [z2_na (by decide), z2_na (by decide)]
          exact a5
        · rw [z2_na (by decide), z2_na (by decide)]
          exact a6 q hq
        · rw [z2_na (by decide), z2_na (by decide)]
          exact a7 q hq
        · rw [z2_na (by decide)]
          by_cases e : q = k
          · rw [e, z2_s, z2_s, a1 2033 (by decide), a1 2034 (by decide)]
            exact ⟨rfl, rfl⟩
          · rw [z2_nk e, z2_nk e, z2_na (by decide)]
            exact a8 q (by omega)
  have l2 : ∀ j k I', k + j = 2 → zE [2000, 2086, 2087, 2088, 2089] I I' → zFd [2, 81, 82, 83] I I' → I' 2000 81 = 1 → I' 2000 82 = I 2000 57 → I' 2000 83 = I 2000 58 → (∀ k, k < 72 → I' 2086 k = I 2061 k) → (∀ q, q < k → I' 2087 q = I 2032 q) → ∀ y, y = nI k →
      zAW mX13_keep 1 0 62 [(0, .ref 2000), (1, .int y)] [] T I' (z2 L 2000 84 (L 2000 59)) R (zqI_IL T R K) := by
    intro j
    induction j with
    | zero =>
      rintro k I' hk a1 a2 a3 a4 a5 a6 a7 y rfl
      obtain rfl : k = 2 := by omega
      refine gX13_keep_62 hx ⟨fun _ => l3 24 0 I' rfl a1 a2 a3 a4 a5 a6 a7 (fun q hq => absurd hq (Nat.not_lt_zero q)) _ rfl, fun c => ?_⟩
      exfalso
      (try simp (disch := omega) only [fa_lit, nI_add, zz_mul, zz_sub, nI_leI, nI_ltI, nI_eq, nI_clamp, zz_in, zz_m1, zz_m1e, zz_le_m1, zz_m1_le, zz_lt_m1, zz_m1_lt, zz_B0, zz_B1, zz_shr, zz_shl, zz_and31, Nat.mod_eq_of_lt, not_true_eq_false, not_false_eq_true, Nat.reduceAdd, Nat.reduceMul, Nat.reduceSub] at c) <;> (try omega)
    | succ j ih =>
      rintro k I' hk a1 a2 a3 a4 a5 a6 a7 y rfl
      refine gX13_keep_62 hx ⟨fun c => ?_, fun _ => ⟨by simp (disch := omega) only [fa_lit, nI_add, zz_mul, zz_sub, nI_leI, nI_ltI, nI_eq, nI_clamp, zz_in, zz_m1, zz_m1e, zz_le_m1, zz_m1_le, zz_lt_m1, zz_m1_lt, zz_B0, zz_B1, zz_shr, zz_shl, zz_and31, Nat.mod_eq_of_lt, not_true_eq_false, not_false_eq_true, Nat.reduceAdd, Nat.reduceMul, Nat.reduceSub]; omega, ?_⟩⟩
      · exfalso
        (try simp (disch := omega) only [fa_lit, nI_add, zz_mul, zz_sub, nI_leI, nI_ltI, nI_eq, nI_clamp, zz_in, zz_m1, zz_m1e, zz_le_m1, zz_m1_le, zz_lt_m1, zz_m1_lt, zz_B0, zz_B1, zz_shr, zz_shl, zz_and31, Nat.mod_eq_of_lt, not_true_eq_false, not_false_eq_true, Nat.reduceAdd, Nat.reduceMul, Nat.reduceSub] at c) <;> (try omega)
      · rw [nI_clamp (by omega)]
        refine ih (k + 1) _ (by omega) (zE_w2 a1 (by simp)) (a2.o (by decide)) ?_ ?_ ?_ (fun q hq => ?_) (fun q hq => ?_) _ (nI_1 k)
        · rw [z2_na (by decide)]
          exact a3
        · rw [z2_na (by decide)]
          exact a4
        · rw [z2_na (by decide)]
          exact a5
        · rw [z2_na (by decide)]
          exact a6 q hq
        · by_cases e : q = k
          · rw [e, z2_s, a1 2032 (by decide)]
          · rw [z2_nk e]
            exact a7 q (by omega)
  have l1 : ∀ j k I', k + j = 72 → zE [2000, 2086, 2087, 2088, 2089] I I' → zFd [2, 81, 82, 83] I I' → I' 2000 81 = 1 → I' 2000 82 = I 2000 57 → I' 2000 83 = I 2000 58 → (∀ q, q < k → I' 2086 q = I 2061 q) → ∀ y, y = nI k →
      zAW mX13_keep 1 0 36 [(0, .ref 2000), (1, .int y)] [] T I' (z2 L 2000 84 (L 2000 59)) R (zqI_IL T R K) := by
    intro j
    induction j with
    | zero =>
      rintro k I' hk a1 a2 a3 a4 a5 a6 y rfl
      obtain rfl : k = 72 := by omega
      refine gX13_keep_36 hx ⟨fun _ => l2 2 0 I' rfl a1 a2 a3 a4 a5 a6 (fun q hq => absurd hq (Nat.not_lt_zero q)) _ rfl, fun c => ?_⟩
      exfalso
      (try simp (disch := omega) only [fa_lit, nI_add, zz_mul, zz_sub, nI_leI, nI_ltI, nI_eq, nI_clamp, zz_in, zz_m1, zz_m1e, zz_le_m1, zz_m1_le, zz_lt_m1, zz_m1_lt, zz_B0, zz_B1, zz_shr, zz_shl, zz_and31, Nat.mod_eq_of_lt, not_true_eq_false, not_false_eq_true, Nat.reduceAdd, Nat.reduceMul, Nat.reduceSub] at c) <;> (try omega)
    | succ j ih =>
      rintro k I' hk a1 a2 a3 a4 a5 a6 y rfl
      refine gX13_keep_36 hx ⟨fun c => ?_, fun _ => ⟨by simp (disch := omega) only [fa_lit, nI_add, zz_mul, zz_sub, nI_leI, nI_ltI, nI_eq, nI_clamp, zz_in, zz_m1, zz_m1e, zz_le_m1, zz_m1_le, zz_lt_m1, zz_m1_lt, zz_B0, zz_B1, zz_shr, zz_shl, zz_and31, Nat.mod_eq_of_lt, not_true_eq_false, not_false_eq_true, Nat.reduceAdd, Nat.reduceMul, Nat.reduceSub]; omega, ?_⟩⟩
      · exfalso
        (try simp (disch := omega) only [fa_lit, nI_add, zz_mul, zz_sub, nI_leI, nI_ltI, nI_eq, nI_clamp, zz_in, zz_m1, zz_m1e, zz_le_m1, zz_m1_le, zz_lt_m1, zz_m1_lt, zz_B0, zz_B1, zz_shr, zz_shl, zz_and31, Nat.mod_eq_of_lt, not_true_eq_false, not_false_eq_true, Nat.reduceAdd, Nat.reduceMul, Nat.reduceSub] at c) <;> (try omega)
      · rw [nI_clamp (by omega)]
        refine ih (k + 1) _ (by omega) (zE_w2 a1 (by simp)) (a2.o (by decide)) ?_ ?_ ?_ (fun q hq => ?_) _ (nI_1 k)
        · rw [z2_na (by decide)]
          exact a3
        · rw [z2_na (by decide)]
          exact a4
        · rw [z2_na (by decide)]
          exact a5
        · by_cases e : q = k
          · rw [e, z2_s, a1 2061 (by decide)]
          · rw [z2_nk e]
            exact a6 q (by omega)
  refine sX13_keep (gX13_keep_0 hx (l1 72 0 _ rfl (zE_w2 (zE_w2 (zE_w2 (zE_w2 zE_rf (by simp)) (by simp)) (by simp)) (by simp)) ((((zFd.rf.w (by simp)).w (by simp)).w (by simp)).w (by simp)) ?_ ?_ ?_ (fun q hq => absurd hq (Nat.not_lt_zero q)) _ rfl))
  · rw [z2_nk (by decide), z2_nk (by decide), z2_s]
  · rw [z2_nk (by decide), z2_s]
  · rw [z2_s]
theorem kX13_back {T : zT} {I : zI} {L : zL} {R : zR} {K : Int32 → zI → zL → Prop} (hx : zMok T R) (h0 : I 2000 81 = 0 → K (-1) (z2 I 2000 2 0) L)
    (hK : I 2000 81 ≠ 0 → ∀ I', zE [2000, 2061, 2032, 2033, 2034] I I' → zFd [2, 57, 58, 66] I I' → I' 2000 57 = I 2000 82 → I' 2000 58 = I 2000 83 → I' 2000 66 = 0 → (∀ k, k < 72 → I' 2061 k = I 2086 k) → (∀ k, k < 2 → I' 2032 k = I 2087 k) → (∀ k, k < 24 → I' 2033 k = I 2088 k ∧ I' 2034 k = I 2089 k) → K (I 2000 82) I' (z2 L 2000 59 (L 2000 84))) :
    zMet mX13_back 1 0 [.ref 2000] T I L R (zqI_IL T R K) := by
  refine sX13_back (gX13_back_0 hx ⟨fun c => zqI_IL_i (h0 c), fun c0 => ?_⟩)
  have l3 : ∀ j k I', k + j = 24 → zE [2000, 2061, 2032, 2033, 2034] I I' → zFd [2, 57, 58, 66] I I' → I' 2000 57 = I 2000 82 → I' 2000 58 = I 2000 83 → (∀ k, k < 72 → I' 2061 k = I 2086 k) → (∀ k, k < 2 → I' 2032 k = I 2087 k) → (∀ q, q < k → I' 2033 q = I 2088 q ∧ I' 2034 q = I 2089 q) → ∀ y, y = nI k →
      zAW mX13_back 1 0 91 [(0, .ref 2000), (1, .int y)] [] T I' (z2 L 2000 59 (L 2000 84)) R (zqI_IL T R K) := by
    intro j
    induction j with
    | zero =>
      rintro k I' hk a1 a2 a3 a4 a6 a7 a8 y rfl
      obtain rfl : k = 24 := by omega
      refine gX13_back_91 hx ⟨fun _ => zqI_IL_i ?_, fun c => ?_⟩
      · rw [a3]
        refine hK c0 _ (zE_w2 a1 (by simp)) (a2.w (by simp)) ?_ ?_ z2_s (fun q hq => ?_) (fun q hq => ?_) (fun q hq => ?_)
        · rw [z2_nk (by decide)]
          exact a3
        · rw [z2_nk (by decide)]
          exact a4
        · rw [z2_na (by decide)]
          exact a6 q hq
        · rw [z2_na (by decide)]
          exact a7 q hq
        · rw [z2_na (by decide), z2_na (by decide)]
          exact a8 q hq
      · exfalso
        (try simp (disch := omega) only [fa_lit, nI_add, zz_mul, zz_sub, nI_leI, nI_ltI, nI_eq, nI_clamp, zz_in, zz_m1, zz_m1e, zz_le_m1, zz_m1_le, zz_lt_m1, zz_m1_lt, zz_B0, zz_B1, zz_shr, zz_shl, zz_and31, Nat.mod_eq_of_lt, not_true_eq_false, not_false_eq_true, Nat.reduceAdd, Nat.reduceMul, Nat.reduceSub] at c) <;> (try omega)
    | succ j ih =>
      rintro k I' hk a1 a2 a3 a4 a6 a7 a8 y rfl
      refine gX13_back_91 hx ⟨fun c => ?_, fun _ => ⟨by simp (disch := omega) only [fa_lit, nI_add, zz_mul, zz_sub, nI_leI, nI_ltI, nI_eq, nI_clamp, zz_in, zz_m1, zz_m1e, zz_le_m1, zz_m1_le, zz_lt_m1, zz_m1_lt, zz_B0, zz_B1, zz_shr, zz_shl, zz_and31, Nat.mod_eq_of_lt, not_true_eq_false, not_false_eq_true, Nat.reduceAdd, Nat.reduceMul, Nat.reduceSub]; omega, by simp (disch := omega) only [fa_lit, nI_add, zz_mul, zz_sub, nI_leI, nI_ltI, nI_eq, nI_clamp, zz_in, zz_m1, zz_m1e, zz_le_m1, zz_m1_le, zz_lt_m1, zz_m1_lt, zz_B0, zz_B1, zz_shr, zz_shl, zz_and31, Nat.mod_eq_of_lt, not_true_eq_false, not_false_eq_true, Nat.reduceAdd, Nat.reduceMul, Nat.reduceSub]; omega, ?_⟩⟩
      · exfalso
        (try simp (disch := omega) only [fa_lit, nI_add, zz_mul, zz_sub, nI_leI, nI_ltI, nI_eq, nI_clamp, zz_in, zz_m1, zz_m1e, zz_le_m1, zz_m1_le, zz_lt_m1, zz_m1_lt, zz_B0, zz_B1, zz_shr, zz_shl, zz_and31, Nat.mod_eq_of_lt, not_true_eq_false, not_false_eq_true, Nat.reduceAdd, Nat.reduceMul, Nat.reduceSub] at c) <;> (try omega)
      · rw [nI_clamp (by omega)]
        refine ih (k + 1) _ (by omega) (zE_w2 (zE_w2 a1 (by simp)) (by simp)) ((a2.o (by decide)).o (by decide)) ?_ ?_ (fun q hq => ?_) (fun q hq => ?_) (fun q hq => ?_) _ (nI_1 k)
        · rw [z2_na (by decide), z2_na (by decide)]
          exact a3
        · rw [z2_na (by decide), z2_na (by decide)]
          exact a4
        · rw [z2_na (by decide), z2_na (by decide)]
          exact a6 q hq
        · rw [z2_na (by decide), z2_na (by decide)]
          exact a7 q hq
        · rw [z2_na (by decide)]
          by_cases e : q = k
          · rw [e, z2_s, z2_s, a1 2088 (by decide), a1 2089 (by decide)]
            exact ⟨rfl, rfl⟩
          · rw [z2_nk e, z2_nk e, z2_na (by decide)]
            exact a8 q (by omega)
  have l2 : ∀ j k I', k + j = 2 → zE [2000, 2061, 2032, 2033, 2034] I I' → zFd [2, 57, 58, 66] I I' → I' 2000 57 = I 2000 82 → I' 2000 58 = I 2000 83 → (∀ k, k < 72 → I' 2061 k = I 2086 k) → (∀ q, q < k → I' 2032 q = I 2087 q) → ∀ y, y = nI k →
      zAW mX13_back 1 0 66 [(0, .ref 2000), (1, .int y)] [] T I' (z2 L 2000 59 (L 2000 84)) R (zqI_IL T R K) := by
    intro j
    induction j with
    | zero =>
      rintro k I' hk a1 a2 a3 a4 a6 a7 y rfl
      obtain rfl : k = 2 := by omega
      refine gX13_back_66 hx ⟨fun _ => l3 24 0 I' rfl a1 a2 a3 a4 a6 a7 (fun q hq => absurd hq (Nat.not_lt_zero q)) _ rfl, fun c => ?_⟩
      exfalso
      (try simp (disch := omega) only [fa_lit, nI_add, zz_mul, zz_sub, nI_leI, nI_ltI, nI_eq, nI_clamp, zz_in, zz_m1, zz_m1e, zz_le_m1, zz_m1_le, zz_lt_m1, zz_m1_lt, zz_B0, zz_B1, zz_shr, zz_shl, zz_and31, Nat.mod_eq_of_lt, not_true_eq_false, not_false_eq_true, Nat.reduceAdd, Nat.reduceMul, Nat.reduceSub] at c) <;> (try omega)
    | succ j ih =>
      rintro k I' hk a1 a2 a3 a4 a6 a7 y rfl
      refine gX13_back_66 hx ⟨fun c => ?_, fun _ => ⟨by simp (disch := omega) only [fa_lit, nI_add, zz_mul, zz_sub, nI_leI, nI_ltI, nI_eq, nI_clamp, zz_in, zz_m1, zz_m1e, zz_le_m1, zz_m1_le, zz_lt_m1, zz_m1_lt, zz_B0, zz_B1, zz_shr, zz_shl, zz_and31, Nat.mod_eq_of_lt, not_true_eq_false, not_false_eq_true, Nat.reduceAdd, Nat.reduceMul, Nat.reduceSub]; omega, ?_⟩⟩
      · exfalso
        (try simp (disch := omega) only [fa_lit, nI_add, zz_mul, zz_sub, nI_leI, nI_ltI, nI_eq, nI_clamp, zz_in, zz_m1, zz_m1e, zz_le_m1, zz_m1_le, zz_lt_m1, zz_m1_lt, zz_B0, zz_B1, zz_shr, zz_shl, zz_and31, Nat.mod_eq_of_lt, not_true_eq_false, not_false_eq_true, Nat.reduceAdd, Nat.reduceMul, Nat.reduceSub] at c) <;> (try omega)
      · rw [nI_clamp (by omega)]
        refine ih (k + 1) _ (by omega) (zE_w2 a1 (by simp)) (a2.o (by decide)) ?_ ?_ (fun q hq => ?_) (fun q hq => ?_) _ (nI_1 k)
        · rw [z2_na (by decide)]
          exact a3
        · rw [z2_na (by decide)]
          exact a4
        · rw [z2_na (by decide)]
          exact a6 q hq
        · by_cases e : q = k
          · rw [e, z2_s, a1 2087 (by decide)]
          · rw [z2_nk e]
            exact a7 q (by omega)
  have l1 : ∀ j k I', k + j = 72 → zE [2000, 2061, 2032, 2033, 2034] I I' → zFd [2, 57, 58, 66] I I' → I' 2000 57 = I 2000 82 → I' 2000 58 = I 2000 83 → (∀ q, q < k → I' 2061 q = I 2086 q) → ∀ y, y = nI k →
      zAW mX13_back 1 0 40 [(0, .ref 2000), (1, .int y)] [] T I' (z2 L 2000 59 (L 2000 84)) R (zqI_IL T R K) := by
    intro j
    induction j with
    | zero =>
      rintro k I' hk a1 a2 a3 a4 a6 y rfl
      obtain rfl : k = 72 := by omega
      refine gX13_back_40 hx ⟨fun _ => l2 2 0 I' rfl a1 a2 a3 a4 a6 (fun q hq => absurd hq (Nat.not_lt_zero q)) _ rfl, fun c => ?_⟩
      exfalso
      (try simp (disch := omega) only [fa_lit, nI_add, zz_mul, zz_sub, nI_leI, nI_ltI, nI_eq, nI_clamp, zz_in, zz_m1, zz_m1e, zz_le_m1, zz_m1_le, zz_lt_m1, zz_m1_lt, zz_B0, zz_B1, zz_shr, zz_shl, zz_and31, Nat.mod_eq_of_lt, not_true_eq_false, not_false_eq_true, Nat.reduceAdd, Nat.reduceMul, Nat.reduceSub] at c) <;> (try omega)
    | succ j ih =>
      rintro k I' hk a1 a2 a3 a4 a6 y rfl
      refine gX13_back_40 hx ⟨fun c => ?_, fun _ => ⟨by simp (disch := omega) only [fa_lit, nI_add, zz_mul, zz_sub, nI_leI, nI_ltI, nI_eq, nI_clamp, zz_in, zz_m1, zz_m1e, zz_le_m1, zz_m1_le, zz_lt_m1, zz_m1_lt, zz_B0, zz_B1, zz_shr, zz_shl, zz_and31, Nat.mod_eq_of_lt, not_true_eq_false, not_false_eq_true, Nat.reduceAdd, Nat.reduceMul, Nat.reduceSub]; omega, ?_⟩⟩
      · exfalso
        (try simp (disch := omega) only [fa_lit, nI_add, zz_mul, zz_sub, nI_leI, nI_ltI, nI_eq, nI_clamp, zz_in, zz_m1, zz_m1e, zz_le_m1, zz_m1_le, zz_lt_m1, zz_m1_lt, zz_B0, zz_B1, zz_shr, zz_shl, zz_and31, Nat.mod_eq_of_lt, not_true_eq_false, not_false_eq_true, Nat.reduceAdd, Nat.reduceMul, Nat.reduceSub] at c) <;> (try omega)
      · rw [nI_clamp (by omega)]
        refine ih (k + 1) _ (by omega) (zE_w2 a1 (by simp)) (a2.o (by decide)) ?_ ?_ (fun q hq => ?_) _ (nI_1 k)
        · rw [z2_na (by decide)]
          exact a3
        · rw [z2_na (by decide)]
          exact a4
        · by_cases e : q = k
          · rw [e, z2_s, a1 2086 (by decide)]
          · rw [z2_nk e]
            exact a6 q (by omega)
  refine l1 72 0 _ rfl (zE_w2 (zE_w2 (zE_w2 zE_rf (by simp)) (by simp)) (by simp)) (((zFd.rf.w (by simp)).w (by simp)).w (by simp)) ?_ ?_ (fun q hq => absurd hq (Nat.not_lt_zero q)) _ rfl
  · rw [z2_nk (by decide), z2_s]
  · rw [z2_s]
/-- three ints are remembered; of twenty the first goes -/
theorem kX13_remember {T : zT} {I : zI} {L : zL} {R : zR} {m : Nat} {x y z : Int32} {K : zI → Prop} (hx : zMok T R) (h66 : I 2000 66 = nI m) (hm : m ≤ 20)
    (hK : ∀ I' n o, (m < 20 → n = m ∧ o = 0) → (m = 20 → n = 19 ∧ o = 3) → zE [2000, 2068] I I' → zFd [66] I I' → I' 2000 66 = nI (n + 1) → I' 2068 (3 * n) = x → I' 2068 (3 * n + 1) = y → I' 2068 (3 * n + 2) = z → (∀ k, k < 3 * n → I' 2068 k = I 2068 (k + o)) → K I') :
    zMet mX13_remember 1 0 [.ref 2000, .int x, .int y, .int z] T I L R (zqV_I T L R K) := by
  have fin : ∀ I' n o, n < 20 → (m < 20 → n = m ∧ o = 0) → (m = 20 → n = 19 ∧ o = 3) → zE [2000, 2068] I I' → zFd [66] I I' → I' 2000 66 = nI n → (∀ k, k < 3 * n → I' 2068 k = I 2068 (k + o)) → zAW mX13_remember 1 0 51 [(0, .ref 2000), (1, .int x), (2, .int y), (3, .int z)] [] T I' L R (zqV_I T L R K) := by
    intro I' n o hn b1 b2 a1 a2 a3 a4
    refine gX13_remember_51 hx ⟨by rw [a3]; simp (disch := omega) only [fa_lit, nI_add, zz_mul, zz_sub, nI_leI, nI_ltI, nI_eq, nI_clamp, zz_in, zz_m1, zz_m1e, zz_le_m1, zz_m1_le, zz_lt_m1, zz_m1_lt, zz_B0, zz_B1, zz_shr, zz_shl, zz_and31, Nat.mod_eq_of_lt, not_true_eq_false, not_false_eq_true, Nat.reduceAdd, Nat.reduceMul, Nat.reduceSub]; omega, by rw [a3]; simp (disch := omega) only [fa_lit, nI_add, zz_mul, zz_sub, nI_leI, nI_ltI, nI_eq, nI_clamp, zz_in, zz_m1, zz_m1e, zz_le_m1, zz_m1_le, zz_lt_m1, zz_m1_lt, zz_B0, zz_B1, zz_shr, zz_shl, zz_and31, Nat.mod_eq_of_lt, not_true_eq_false, not_false_eq_true, Nat.reduceAdd, Nat.reduceMul, Nat.reduceSub]; omega, by rw [a3]; simp (disch := omega) only [fa_lit, nI_add, zz_mul, zz_sub, nI_leI, nI_ltI, nI_eq, nI_clamp, zz_in, zz_m1, zz_m1e, zz_le_m1, zz_m1_le, zz_lt_m1, zz_m1_lt, zz_B0, zz_B1, zz_shr, zz_shl, zz_and31, Nat.mod_eq_of_lt, not_true_eq_false, not_false_eq_true, Nat.reduceAdd, Nat.reduceMul, Nat.reduceSub]; omega, zqV_I_i ?_⟩
    have e0 : ((3 : Int32) * (I' 2000 66)).toNatClampNeg = 3 * n := by rw [a3]; simp (disch := omega) only [fa_lit, nI_add, zz_mul, zz_sub, nI_leI, nI_ltI, nI_eq, nI_clamp, zz_in, zz_m1, zz_m1e, zz_le_m1, zz_m1_le, zz_lt_m1, zz_m1_lt, zz_B0, zz_B1, zz_shr, zz_shl, zz_and31, Nat.mod_eq_of_lt, not_true_eq_false, not_false_eq_true, Nat.reduceAdd, Nat.reduceMul, Nat.reduceSub]
    have e1 : (((3 : Int32) * (I' 2000 66)) + (1 : Int32)).toNatClampNeg = 3 * n + 1 := by rw [a3]; simp (disch := omega) only [fa_lit, nI_add, zz_mul, zz_sub, nI_leI, nI_ltI, nI_eq, nI_clamp, zz_in, zz_m1, zz_m1e, zz_le_m1, zz_m1_le, zz_lt_m1, zz_m1_lt, zz_B0, zz_B1, zz_shr, zz_shl, zz_and31, Nat.mod_eq_of_lt, not_true_eq_false, not_false_eq_true, Nat.reduceAdd, Nat.reduceMul, Nat.reduceSub]
    have e2 : (((3 : Int32) * (I' 2000 66)) + (2 : Int32)).toNatClampNeg = 3 * n + 2 := by rw [a3]; simp (disch := omega) only [fa_lit, nI_add, zz_mul, zz_sub, nI_leI, nI_ltI, nI_eq, nI_clamp, zz_in, zz_m1, zz_m1e, zz_le_m1, zz_m1_le, zz_lt_m1, zz_m1_lt, zz_B0, zz_B1, zz_shr, zz_shl, zz_and31, Nat.mod_eq_of_lt, not_true_eq_false, not_false_eq_true, Nat.reduceAdd, Nat.reduceMul, Nat.reduceSub]
    rw [e0, e1, e2, a3, nI_1]
    refine hK _ n o b1 b2 (zE_w2 (zE_w2 (zE_w2 (zE_w2 a1 (by simp)) (by simp)) (by simp)) (by simp)) ((((a2.o (by decide)).o (by decide)).o (by decide)).w (by simp)) z2_s ?_ ?_ ?_ (fun k hk => ?_)
    · rw [z2_na (by decide), z2_nk (by omega), z2_nk (by omega), z2_s]
    · rw [z2_na (by decide), z2_nk (by omega), z2_s]
    · rw [z2_na (by decide), z2_s]
    · rw [z2_na (by decide), z2_nk (by omega), z2_nk (by omega), z2_nk (by omega)]
      exact a4 k hk
  refine sX13_remember (gX13_remember_0 hx ⟨fun c => ?_, fun c => ?_⟩)
  · simp (disch := omega) only [h66, fa_lit, nI_add, zz_mul, zz_sub, nI_leI, nI_ltI, nI_eq, nI_clamp, zz_in, zz_m1, zz_m1e, zz_le_m1, zz_m1_le, zz_lt_m1, zz_m1_lt, zz_B0, zz_B1, zz_shr, zz_shl, zz_and31, Nat.mod_eq_of_lt, not_true_eq_false, not_false_eq_true, Nat.reduceAdd, Nat.reduceMul, Nat.reduceSub] at c
    have loop : ∀ j k I', k + j = 57 → zE [2000, 2068] I I' → zFd [66] I I' → I' 2000 66 = nI 20 → (∀ q, q < k → I' 2068 q = I 2068 (q + 3)) → (∀ q, k ≤ q → I' 2068 q = I 2068 q) → ∀ y9, y9 = nI k → zAW mX13_remember 1 0 12 [(0, .ref 2000), (1, .int x), (2, .int y), (3, .int z), (4, .int y9)] [] T I' L R (zqV_I T L R K) := by
      intro j
      induction j with
      | zero =>
        rintro k I' hk a1 a2 a3 a4 a5 y9 rfl
        obtain rfl : k = 57 := by omega
        refine gX13_remember_12 hx ⟨fun _ => fin _ 19 3 (by decide) (fun q => absurd q (by omega)) (fun _ => ⟨rfl, rfl⟩) (zE_w2 a1 (by simp)) (a2.w (by simp)) (by rw [z2_s, a3]; rfl) (fun q hq => by rw [z2_na (by decide)]; exact a4 q (by omega)), fun c2 => ?_⟩
        exfalso
        (try simp (disch := omega) only [fa_lit, nI_add, zz_mul, zz_sub, nI_leI, nI_ltI, nI_eq, nI_clamp, zz_in, zz_m1, zz_m1e, zz_le_m1, zz_m1_le, zz_lt_m1, zz_m1_lt, zz_B0, zz_B1, zz_shr, zz_shl, zz_and31, Nat.mod_eq_of_lt, not_true_eq_false, not_false_eq_true, Nat.reduceAdd, Nat.reduceMul, Nat.reduceSub] at c2) <;> (try omega)
      | succ j ih =>
        rintro k I' hk a1 a2 a3 a4 a5 y9 rfl
        refine gX13_remember_12 hx ⟨fun c2 => ?_, fun _ => ⟨by simp (disch := omega) only [fa_lit, nI_add, zz_mul, zz_sub, nI_leI, nI_ltI, nI_eq, nI_clamp, zz_in, zz_m1, zz_m1e, zz_le_m1, zz_m1_le, zz_lt_m1, zz_m1_lt, zz_B0, zz_B1, zz_shr, zz_shl, zz_and31, Nat.mod_eq_of_lt, not_true_eq_false, not_false_eq_true, Nat.reduceAdd, Nat.reduceMul, Nat.reduceSub]; omega, by simp (disch := omega) only [fa_lit, nI_add, zz_mul, zz_sub, nI_leI, nI_ltI, nI_eq, nI_clamp, zz_in, zz_m1, zz_m1e, zz_le_m1, zz_m1_le, zz_lt_m1, zz_m1_lt, zz_B0, zz_B1, zz_shr, zz_shl, zz_and31, Nat.mod_eq_of_lt, not_true_eq_false, not_false_eq_true, Nat.reduceAdd, Nat.reduceMul, Nat.reduceSub]; omega, ?_⟩⟩
        · exfalso
          (try simp (disch := omega) only [fa_lit, nI_add, zz_mul, zz_sub, nI_leI, nI_ltI, nI_eq, nI_clamp, zz_in, zz_m1, zz_m1e, zz_le_m1, zz_m1_le, zz_lt_m1, zz_m1_lt, zz_B0, zz_B1, zz_shr, zz_shl, zz_and31, Nat.mod_eq_of_lt, not_true_eq_false, not_false_eq_true, Nat.reduceAdd, Nat.reduceMul, Nat.reduceSub] at c2) <;> (try omega)
        · have e1 : (nI k + (3 : Int32)).toNatClampNeg = k + 3 := by simp (disch := omega) only [fa_lit, nI_add, zz_mul, zz_sub, nI_leI, nI_ltI, nI_eq, nI_clamp, zz_in, zz_m1, zz_m1e, zz_le_m1, zz_m1_le, zz_lt_m1, zz_m1_lt, zz_B0, zz_B1, zz_shr, zz_shl, zz_and31, Nat.mod_eq_of_lt, not_true_eq_false, not_false_eq_true, Nat.reduceAdd, Nat.reduceMul, Nat.reduceSub]
          rw [nI_clamp (by omega), e1]
          refine ih (k + 1) _ (by omega) (zE_w2 a1 (by simp)) (a2.o (by decide)) (by rw [z2_na (by decide)]; exact a3) (fun q hq => ?_) (fun q hq => ?_) _ (nI_1 k)
          · by_cases e : q = k
            · rw [e, z2_s]
              exact a5 _ (by omega)
            · rw [z2_nk e]
              exact a4 q (by omega)
          · rw [z2_nk (by omega)]
            exact a5 q (by omega)
    exact loop 57 0 I rfl zE_rf zFd.rf (by rw [h66, c]) (fun q hq => absurd hq (Nat.not_lt_zero q)) (fun q _ => rfl) _ rfl
  · simp (disch := omega) only [h66, fa_lit, nI_add, zz_mul, zz_sub, nI_leI, nI_ltI, nI_eq, nI_clamp, zz_in, zz_m1, zz_m1e, zz_le_m1, zz_m1_le, zz_lt_m1, zz_m1_lt, zz_B0, zz_B1, zz_shr, zz_shl, zz_and31, Nat.mod_eq_of_lt, not_true_eq_false, not_false_eq_true, Nat.reduceAdd, Nat.reduceMul, Nat.reduceSub] at c
    exact fin I m 0 (by omega) (fun _ => ⟨rfl, rfl⟩) (fun q => absurd q c) zE_rf zFd.rf h66 (fun k _ => rfl)
