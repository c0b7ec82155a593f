/-! FEED: bytes of ints on the tape -/
/-- the j-th byte of an int, from the highest -/
def byI (x : Int32) (j : Nat) : Int32 := (x >>> (nI (24 - 8 * j) &&& 31)) &&& 255
theorem byI_nat (x : Int32) (j : Nat) : ∃ n, n < 256 ∧ byI x j = nI n := by
  obtain ⟨n, hn, e⟩ := wb_of32 (x >>> (nI (24 - 8 * j) &&& 31))
  refine ⟨n % 256, Nat.mod_lt _ (by decide), ?_⟩
  unfold byI
  rw [e]
  exact fa_mask n 8
theorem byI_byte (x : Int32) (j : Nat) : (x >>> (nI (24 - 8 * j) &&& 31)).toInt8.toInt32 = (byI x j).toInt8.toInt32 := by
  unfold byI
  rw [fa_byte_low]
theorem zz_b8 (w : Int32) : w.toInt8.toInt32.toInt8.toInt32 = w.toInt8.toInt32 := by simp
theorem kX1_put1 {T : zT} {I : zI} {L : zL} {R : zR} {n : Nat} {x : Int32} {K : zI → Prop} (hx : zXok T R) (h1 : I 1000 1 = nI n) (hn : n + 4 ≤ 800)
    (hK : ∀ I', zE [1000, 1001] I I' → (∀ f, f ≠ 1 → I' 1000 f = I 1000 f) → I' 1000 1 = nI (n + 4) → (∀ q, q < n → I' 1001 q = I 1001 q) → (∀ j, j < 4 → I' 1001 (n + j) = (byI x j).toInt8.toInt32) → K I') :
    zMet mX1_put 1 0 [.ref 1000, .int x] T I L R (zqV_I T L R K) := by
  have main : ∀ j i I', i + j = 4 → zE [1000, 1001] I I' → (∀ f, f ≠ 1 → I' 1000 f = I 1000 f) → I' 1000 1 = nI (n + i) → (∀ q, q < n → I' 1001 q = I 1001 q) → (∀ j, j < i → I' 1001 (n + j) = (byI x j).toInt8.toInt32) → ∀ y, y = nI (32 - 8 * i) - nI 8 → zAW mX1_put 1 0 3 [(0, .ref 1000), (1, .int x), (2, .int y)] [] T I' L R (zqV_I T L R K) := by
    intro j
    induction j with
    | zero =>
      rintro i I' hi a1 a2 a3 a4 a5 y rfl
      obtain rfl : i = 4 := by omega
      refine gX1_put_3 hx ⟨fun _ => zqV_I_i (hK I' a1 a2 a3 a4 a5), fun c => absurd (by decide) c⟩
    | succ j ih =>
      rintro i I' hi a1 a2 a3 a4 a5 y rfl
      rw [zz_sub (by omega), show 32 - 8 * i - 8 = 24 - 8 * i by omega]
      refine gX1_put_3 hx ⟨fun c => ?_, fun _ => ⟨by rw [a3]; simp (disch := omega) only [fa_lit, nI_add, zz_mul, zz_sub, nI_leI, nI_ltI, nI_eq, nI_clamp, zz_in, zz_m1, zz_m1e, zz_le_m1, zz_m1_le, zz_lt_m1, zz_m1_lt, zz_B0, zz_B1, zz_shr, zz_shl, zz_and31, Nat.mod_eq_of_lt, not_true_eq_false, not_false_eq_true, Nat.reduceAdd, Nat.reduceMul, Nat.reduceSub]; omega, ?_⟩⟩
      · exfalso
        (try simp (disch := omega) only [fa_lit, nI_add, zz_mul, zz_sub, nI_leI, nI_ltI, nI_eq, nI_clamp, zz_in, zz_m1, zz_m1e, zz_le_m1, zz_m1_le, zz_lt_m1, zz_m1_lt, zz_B0, zz_B1, zz_shr, zz_shl, zz_and31, Nat.mod_eq_of_lt, not_true_eq_false, not_false_eq_true, Nat.reduceAdd, Nat.reduceMul, Nat.reduceSub] at c) <;> (try omega)
      · rw [a3, nI_clamp (by omega), nI_1, vp_nar_byte, byI_byte]
        refine ih (i + 1) _ (by omega) (zE_w2 (zE_w2 a1 (by simp)) (by simp)) (fun f hf => ?_) ?_ (fun q hq => ?_) (fun q hq => ?_) _ ?_
        · rw [z2_na (by decide), z2_nk hf]
          exact a2 f hf
        · rw [z2_na (by decide), z2_s]
          rfl
        · rw [z2_nk (by omega), z2_na (by decide)]
          exact a4 q hq
        · by_cases e : q = i
          · rw [e, z2_s]
            exact zz_b8 _
          · rw [z2_nk (by omega), z2_na (by decide)]
            exact a5 q (by omega)
        · rw [show 32 - 8 * (i + 1) = 24 - 8 * i by omega, Int32.sub_eq_add_neg]
          rfl
  exact sX1_put (gX1_put_0 hx (main 4 0 I rfl zE_rf (fun _ _ => rfl) h1 (fun _ _ => rfl) (fun q hq => absurd hq (Nat.not_lt_zero q)) _ (by decide)))
