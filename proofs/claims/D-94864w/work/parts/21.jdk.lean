/-! CONTRACTS: the JDK's methods that are reached -/
theorem kJ4_checkIndex {T : zT} {I : zI} {L : zL} {R : zR} {i n v : Nat} {K : Int32 → Prop} (hi : i < n) (hn : n < 2 ^ 31) (hK : K (nI i)) : zMet mJ4_checkIndex 1 0 [.int (nI i), .int (nI n), .ref v] T I L R (zqI_ T I L R K) := by
  refine sJ4_checkIndex (gJ4_checkIndex_0 ⟨fun c => ?_, fun _ => ⟨fun _ => zqI__i hK, fun c => ?_⟩⟩)
  · (try simp (disch := omega) only [fa_lit, nI_add, zz_mul, zz_sub, nI_leI, nI_ltI, nI_eq, nI_clamp, zz_in, zz_m1, zz_m1e, zz_le_m1, zz_m1_le, zz_lt_m1, zz_m1_lt, zz_B0, zz_B1, zz_shr, zz_shl, zz_and31, Nat.mod_eq_of_lt, not_true_eq_false, not_false_eq_true, Nat.reduceAdd, Nat.reduceMul, Nat.reduceSub] at c) <;> (try omega)
  · (try simp (disch := omega) only [fa_lit, nI_add, zz_mul, zz_sub, nI_leI, nI_ltI, nI_eq, nI_clamp, zz_in, zz_m1, zz_m1e, zz_le_m1, zz_m1_le, zz_lt_m1, zz_m1_lt, zz_B0, zz_B1, zz_shr, zz_shl, zz_and31, Nat.mod_eq_of_lt, not_true_eq_false, not_false_eq_true, Nat.reduceAdd, Nat.reduceMul, Nat.reduceSub] at c) <;> (try omega)
theorem kJ3_checkIndex {T : zT} {I : zI} {L : zL} {R : zR} {i n : Nat} {K : Int32 → Prop} (hi : i < n) (hn : n < 2 ^ 31) (hK : K (nI i)) : zMet mJ3_checkIndex 2 0 [.int (nI i), .int (nI n)] T I L R (zqI_ T I L R K) :=
  sJ3_checkIndex (gJ3_checkIndex_0 (kJ4_checkIndex hi hn (zqI__i hK)))
theorem kJ2_size {T : zT} {I : zI} {L : zL} {R : zR} {κ : Nat} {K : Int32 → Prop} (h1 : (T κ).1 = 5) (hK : K (I κ 2)) : zMet mJ2_size 1 0 [.ref κ] T I L R (zqI_ T I L R K) := sJ2_size (gJ2_size_0 ⟨h1, zqI__i hK⟩)
theorem kJ2_isEmpty {T : zT} {I : zI} {L : zL} {R : zR} {κ n : Nat} {K : Int32 → Prop} (h1 : (T κ).1 = 5) (h3 : I κ 2 = nI n) (hn : n < 2 ^ 31) (hK : K (if n = 0 then 1 else 0)) : zMet mJ2_isEmpty 1 0 [.ref κ] T I L R (zqI_ T I L R K) := by
  refine sJ2_isEmpty (gJ2_isEmpty_0 ⟨h1, fun c => ?_, fun c => ?_⟩)
  · simp (disch := omega) only [h3, fa_lit, nI_add, zz_mul, zz_sub, nI_leI, nI_ltI, nI_eq, nI_clamp, zz_in, zz_m1, zz_m1e, zz_le_m1, zz_m1_le, zz_lt_m1, zz_m1_lt, zz_B0, zz_B1, zz_shr, zz_shl, zz_and31, Nat.mod_eq_of_lt, not_true_eq_false, not_false_eq_true, Nat.reduceAdd, Nat.reduceMul, Nat.reduceSub] at c
    rw [if_pos c] at hK
    exact zqI__i hK
  · simp (disch := omega) only [h3, fa_lit, nI_add, zz_mul, zz_sub, nI_leI, nI_ltI, nI_eq, nI_clamp, zz_in, zz_m1, zz_m1e, zz_le_m1, zz_m1_le, zz_lt_m1, zz_m1_lt, zz_B0, zz_B1, zz_shr, zz_shl, zz_and31, Nat.mod_eq_of_lt, not_true_eq_false, not_false_eq_true, Nat.reduceAdd, Nat.reduceMul, Nat.reduceSub] at c
    rw [if_neg c] at hK
    exact zqI__i hK
theorem kJ2_get {T : zT} {I : zI} {L : zL} {R : zR} {κ c n i : Nat} {K : Nat → Prop} (h1 : (T κ).1 = 5) (h2 : T (R κ 1) = (109, c)) (h3 : I κ 2 = nI n) (hi : i < n) (hn : n ≤ c) (hc : c < 2 ^ 31) (hK : K (R (R κ 1) i)) : zMet mJ2_get 3 0 [.ref κ, .int (nI i)] T I L R (zqR_ T I L R K) := by
  refine sJ2_get (gJ2_get_0 ⟨h1, ?_⟩)
  rw [h3]
  refine kJ3_checkIndex hi (by omega) (sJ2_elementData (gJ2_elementData_0 ⟨h1, by rw [h2], by rw [h2]; simp (disch := omega) only [fa_lit, nI_add, zz_mul, zz_sub, nI_leI, nI_ltI, nI_eq, nI_clamp, zz_in, zz_m1, zz_m1e, zz_le_m1, zz_m1_le, zz_lt_m1, zz_m1_lt, zz_B0, zz_B1, zz_shr, zz_shl, zz_and31, Nat.mod_eq_of_lt, not_true_eq_false, not_false_eq_true, Nat.reduceAdd, Nat.reduceMul, Nat.reduceSub]; omega, zqR__i ?_⟩))
  rw [nI_clamp (by omega)]
  exact zqR__i hK
theorem kJ2_add {T : zT} {I : zI} {L : zL} {R : zR} {κ c n v : Nat} {K : Int32 → zI → zR → Prop} (h1 : (T κ).1 = 5) (h2 : T (R κ 1) = (109, c)) (h3 : I κ 2 = nI n) (hn : n < c) (hc : c < 2 ^ 31) (hv : (T v).1 = 15 ∨ (T v).1 = 11) (hK : K 1 (z2 (z2 I κ 0 (I κ 0 + 1)) κ 2 (nI (n + 1))) (z2 R (R κ 1) n v)) : zMet mJ2_add 2 0 [.ref κ, .ref v] T I L R (zqI_IR T L K) := by
  refine sJ2_add (gJ2_add_0 ⟨h1, sJ2_add_2 (gJ2_add_2_0 ⟨by rw [h2], fun e => ?_, fun _ => ⟨by rw [h2, h3]; simp (disch := omega) only [fa_lit, nI_add, zz_mul, zz_sub, nI_leI, nI_ltI, nI_eq, nI_clamp, zz_in, zz_m1, zz_m1e, zz_le_m1, zz_m1_le, zz_lt_m1, zz_m1_lt, zz_B0, zz_B1, zz_shr, zz_shl, zz_and31, Nat.mod_eq_of_lt, not_true_eq_false, not_false_eq_true, Nat.reduceAdd, Nat.reduceMul, Nat.reduceSub]; omega, hv, h1, zqV_IR_i (zqI_IR_i ?_)⟩⟩)⟩)
  · exfalso
    rw [h2] at e
    (try simp (disch := omega) only [h3, fa_lit, nI_add, zz_mul, zz_sub, nI_leI, nI_ltI, nI_eq, nI_clamp, zz_in, zz_m1, zz_m1e, zz_le_m1, zz_m1_le, zz_lt_m1, zz_m1_lt, zz_B0, zz_B1, zz_shr, zz_shl, zz_and31, Nat.mod_eq_of_lt, not_true_eq_false, not_false_eq_true, Nat.reduceAdd, Nat.reduceMul, Nat.reduceSub] at e) <;> (try omega)
  · rw [h3, nI_1, nI_clamp (by omega)]
    exact hK
theorem kJ2_init {T : zT} {I : zI} {L : zL} {R : zR} {κ b q : Nat} {K : zT → zI → zL → zR → Prop} (h1 : (T κ).1 = 5) (hq : 100 ≤ q) (hf : (T q).1 = 0) (hb : 7 ≤ b) (hK : K (z1 T q (109, 6)) (z1 (z2 I κ 0 0) q fun _ => 0) (z1 L q fun _ => 0) (z2 (z1 R q fun _ => 0) κ 1 q)) : zMet mJ2_init 3 b [.ref κ, .int 6] T I L R (zqV_TILR K) := by
  refine sJ2_init (gJ2_init_0 ⟨h1, sJ1_init (gJ1_init_0 ⟨by rw [h1]; decide, sJ0_init (gJ0_init_0 ⟨by rw [h1]; decide, zqV__i ⟨h1, zqV_I_i ⟨fun c => absurd c (by decide), fun _ => ⟨q, hq, hf, ?_, by decide, by decide, zqV_TILR_i hK⟩⟩⟩⟩)⟩)⟩)
  show 6 + 1 ≤ b - 0
  omega
theorem kJ5_length {T : zT} {I : zI} {L : zL} {R : zR} {κ : Nat} {K : Int32 → Prop} (h1 : 10 ≤ κ ∧ κ < 35) (hK : K (nI (zlen.getD (κ - 10) 0))) : zMet mJ5_length 2 0 [.ref κ] T I L R (zqI_ T I L R K) := by
  refine sJ5_length (gJ5_length_0 ⟨h1, sJ5_coder (gJ5_coder_0 ⟨h1, zqI__i (zqI__i ?_)⟩)⟩)
  have e : (nI (zlen.getD ((κ + 40) - 50) 0)) >>> ((0 : Int32) &&& 31) = nI (zlen.getD (κ - 10) 0) := by
    rw [show κ + 40 - 50 = κ - 10 by omega]
    have h2 : ∀ x : Int32, x >>> ((0 : Int32) &&& 31) = x := fun x => by
      refine b_ext fun i hi => (b_sshr 0 (by decide) x hi).trans ?_
      rw [Nat.zero_add, if_pos hi]
    exact h2 _
  rw [e]
  exact hK
/-- the bytes of the start's Strings, as naturals -/
def zby (κ i : Nat) : Nat := ((zbyt.getD κ []).getD i 0).toNatClampNeg
theorem zby_at : ∀ κ, κ < 25 → ∀ i, i < zlen.getD κ 0 → (((((zbyt.getD κ []).getD i 0) &&& (255 : Int32)).toUInt32 % 65536).toInt32) = nI (zby κ i) ∧ ((zbyt.getD κ []).getD i 0) = nI (zby κ i) ∧ zby κ i < 128 ∧ narrow .char (.int (nI (zby κ i))) = .int (nI (zby κ i)) := by decide +kernel
theorem zlen_le : ∀ κ, κ < 25 → zlen.getD κ 0 ≤ 10 := by decide +kernel
theorem kJ5_charAt {T : zT} {I : zI} {L : zL} {R : zR} {κ i : Nat} {K : Int32 → Prop} (h1 : 10 ≤ κ ∧ κ < 35) (hi : i < zlen.getD (κ - 10) 0) (hK : K (nI (zby (κ - 10) i))) : zMet mJ5_charAt 4 0 [.ref κ, .int (nI i)] T I L R (zqI_ T I L R K) := by
  have hl := zlen_le (κ - 10) (by omega)
  have hz := zby_at (κ - 10) (by omega) i hi
  refine sJ5_charAt (gJ5_charAt_0 ⟨h1, sJ5_isLatin1 (gJ5_isLatin1_0 ⟨h1, zqI__i ⟨fun c => absurd c (by decide), fun _ => ?_⟩⟩)⟩)
  refine sJ6_charAt (gJ6_charAt_0 ⟨by omega, ?_⟩)
  rw [show κ + 40 - 50 = κ - 10 by omega, nI_clamp (by omega)]
  refine sJ5_checkIndex (gJ5_checkIndex_0 (kJ4_checkIndex hi (by omega) (zqV__i ⟨by simp (disch := omega) only [fa_lit, nI_add, zz_mul, zz_sub, nI_leI, nI_ltI, nI_eq, nI_clamp, zz_in, zz_m1, zz_m1e, zz_le_m1, zz_m1_le, zz_lt_m1, zz_m1_lt, zz_B0, zz_B1, zz_shr, zz_shl, zz_and31, Nat.mod_eq_of_lt, not_true_eq_false, not_false_eq_true, Nat.reduceAdd, Nat.reduceMul, Nat.reduceSub]; exact hi, ?_, zqI__i ?_⟩)))
  · rw [hz.1]
    exact hz.2.2.2
  · rw [hz.1]
    exact ⟨hz.2.2.2, zqI__i hK⟩
/-- where a char stands among the signs -/
def zsg (c : Nat) : Int32 := fndI (zby 24) 10 (nI c).toInt8.toInt32
theorem kJ5_indexOf {T : zT} {I : zI} {L : zL} {R : zR} {c : Nat} {K : Int32 → Prop} (hc : c < 256) (hK : K (zsg c)) : zMet mJ5_indexOf 4 0 [.ref 34, .int (nI c)] T I L R (zqI_ T I L R K) := by
  refine sJ5_indexOf (gJ5_indexOf_0 ⟨by decide, sJ5_indexOf_2 (gJ5_indexOf_2_0 ⟨by decide, sJ5_isLatin1 (gJ5_isLatin1_0 ⟨by decide, zqI__i ⟨fun c => absurd c (by decide), fun _ => kJ5_length (by decide) ?_⟩⟩)⟩)⟩)
  refine sJ6_indexOf (gJ6_indexOf_0 (sJ6_canEncode (gJ6_canEncode_0 ⟨fun e => ?_, fun _ => ⟨fun e => ?_, fun _ => zqI__i ⟨fun e => absurd e (by decide), fun _ => ⟨by decide, fun _ => ?_, fun e => absurd ?_ e⟩⟩⟩⟩)))
  · exfalso
    (try simp (disch := omega) only [fa_lit, nI_add, zz_mul, zz_sub, nI_leI, nI_ltI, nI_eq, nI_clamp, zz_in, zz_m1, zz_m1e, zz_le_m1, zz_m1_le, zz_lt_m1, zz_m1_lt, zz_B0, zz_B1, zz_shr, zz_shl, zz_and31, Nat.mod_eq_of_lt, not_true_eq_false, not_false_eq_true, Nat.reduceAdd, Nat.reduceMul, Nat.reduceSub] at e) <;> (try omega)
  · exfalso
    (try simp (disch := omega) only [fa_lit, nI_add, zz_mul, zz_sub, nI_leI, nI_ltI, nI_eq, nI_clamp, zz_in, zz_m1, zz_m1e, zz_le_m1, zz_m1_le, zz_lt_m1, zz_m1_lt, zz_B0, zz_B1, zz_shr, zz_shl, zz_and31, Nat.mod_eq_of_lt, not_true_eq_false, not_false_eq_true, Nat.reduceAdd, Nat.reduceMul, Nat.reduceSub] at e) <;> (try omega)
  · have main : ∀ j k, k + j = 10 → ∀ y, y = nI k → (∀ q, q < k → nI (zby 24 q) ≠ (nI c).toInt8.toInt32) → zAW mJ6_indexOfChar 1 0 7 [(0, .ref 74), (3, .int (nI 10)), (4, .int ((nI c).toInt8.toInt32)), (5, .int y)] [] T I L R (zqI_ T I L R K) := by
      intro j
      induction j with
      | zero =>
        rintro k hk y rfl hq
        obtain rfl : k = 10 := by omega
        refine gJ6_indexOfChar_7 ⟨fun _ => zqI__i ?_, fun e => ?_⟩
        · rw [zsg, fndI_no hq] at hK
          exact hK
        · exfalso
          (try simp (disch := omega) only [fa_lit, nI_add, zz_mul, zz_sub, nI_leI, nI_ltI, nI_eq, nI_clamp, zz_in, zz_m1, zz_m1e, zz_le_m1, zz_m1_le, zz_lt_m1, zz_m1_lt, zz_B0, zz_B1, zz_shr, zz_shl, zz_and31, Nat.mod_eq_of_lt, not_true_eq_false, not_false_eq_true, Nat.reduceAdd, Nat.reduceMul, Nat.reduceSub] at e) <;> (try omega)
      | succ j ih =>
        rintro k hk y rfl hq
        have hz := zby_at 24 (by decide) k (show k < 10 by omega)
        refine gJ6_indexOfChar_7 ⟨fun e => ?_, fun _ => ⟨by decide, by show vp_in _ 10; simp (disch := omega) only [fa_lit, nI_add, zz_mul, zz_sub, nI_leI, nI_ltI, nI_eq, nI_clamp, zz_in, zz_m1, zz_m1e, zz_le_m1, zz_m1_le, zz_lt_m1, zz_m1_lt, zz_B0, zz_B1, zz_shr, zz_shl, zz_and31, Nat.mod_eq_of_lt, not_true_eq_false, not_false_eq_true, Nat.reduceAdd, Nat.reduceMul, Nat.reduceSub]; omega, fun e => zqI__i ?_, fun e => ?_⟩⟩
        · exfalso
          (try simp (disch := omega) only [fa_lit, nI_add, zz_mul, zz_sub, nI_leI, nI_ltI, nI_eq, nI_clamp, zz_in, zz_m1, zz_m1e, zz_le_m1, zz_m1_le, zz_lt_m1, zz_m1_lt, zz_B0, zz_B1, zz_shr, zz_shl, zz_and31, Nat.mod_eq_of_lt, not_true_eq_false, not_false_eq_true, Nat.reduceAdd, Nat.reduceMul, Nat.reduceSub] at e) <;> (try omega)
        · rw [nI_clamp (by omega), hz.2.1] at e
          rw [zsg, fndI_at (by omega) e hq] at hK
          exact hK
        · rw [nI_clamp (by omega), hz.2.1] at e
          refine ih (k + 1) (by omega) _ (nI_1 k) ?_
          intro q hq2
          by_cases e2 : q = k
          · rw [e2]
            exact e
          · exact hq q (by omega)
    have := main 10 0 rfl _ rfl (fun q h => absurd h (Nat.not_lt_zero q))
    exact zMet_mono (fun o v T I L R h => ⟨h.1, by obtain ⟨r, h1, h2, h3, h4, h5, h6⟩ := h.2; exact ⟨r, h1, h2, h3, h4, h5, zqI__i (zqI__i (zqI__i h6))⟩⟩) (sJ6_indexOfChar (gJ6_indexOfChar_0 this))
  · decide
