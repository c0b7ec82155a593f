/-! STATES: put, lose, names of the reference -/
theorem kX13_isName {T : zT} {I : zI} {L : zL} {R : zR} {x : Int32} {K : Int32 → Prop} (h1 : ∀ w, wdok w → x = nI w → K 1) (h0 : (¬ ∃ w, wdok w ∧ x = nI w) → K 0) : zMet mX13_isName 2 0 [.int x] T I L R (zqI_ T I L R K) := by
  refine sX13_isName (gX13_isName_0 ⟨fun c => zqI__i (h0 ?_), fun c => ?_⟩)
  · rintro ⟨w, hw, rfl⟩
    have := hw.2.1
    (try simp (disch := omega) only [fa_lit, nI_add, zz_mul, zz_sub, nI_leI, nI_ltI, nI_eq, nI_clamp, zz_in, zz_m1, zz_m1e, zz_le_m1, zz_m1_le, zz_lt_m1, zz_m1_lt, zz_B0, zz_B1, zz_shr, zz_shl, zz_and31, Nat.mod_eq_of_lt, not_true_eq_false, not_false_eq_true, Nat.reduceAdd, Nat.reduceMul, Nat.reduceSub] at c) <;> (try omega)
  · obtain ⟨w, hw, rfl⟩ := nI_of c
    have bad : ¬ wdok w → K 0 := fun hb => h0 (by
      rintro ⟨w', hw', e⟩
      have e2 := (nI_eq (by omega) (by have := hw'.2.1; omega)).mp e
      subst e2
      exact hb hw')
    refine ⟨fun c2 => kX13_longOf hw ⟨fun c3 => zqI__i (bad ?_), fun c3 => ?_⟩, fun c2 => zqI__i (bad ?_)⟩
    · have hl := wln_le w
      simp (disch := omega) only [fa_lit, nI_add, zz_mul, zz_sub, nI_leI, nI_ltI, nI_eq, nI_clamp, zz_in, zz_m1, zz_m1e, zz_le_m1, zz_m1_le, zz_lt_m1, zz_m1_lt, zz_B0, zz_B1, zz_shr, zz_shl, zz_and31, Nat.mod_eq_of_lt, not_true_eq_false, not_false_eq_true, Nat.reduceAdd, Nat.reduceMul, Nat.reduceSub] at c3
      intro q
      have := q.1
      omega
    · have hl := wln_le w
      simp (disch := omega) only [fa_lit, nI_add, zz_mul, zz_sub, nI_leI, nI_ltI, nI_eq, nI_clamp, zz_in, zz_m1, zz_m1e, zz_le_m1, zz_m1_le, zz_lt_m1, zz_m1_lt, zz_B0, zz_B1, zz_shr, zz_shl, zz_and31, Nat.mod_eq_of_lt, not_true_eq_false, not_false_eq_true, Nat.reduceAdd, Nat.reduceMul, Nat.reduceSub] at c3
      have w30 : w < 2 ^ 30 := by
        simp (disch := omega) only [fa_lit, nI_add, zz_mul, zz_sub, nI_leI, nI_ltI, nI_eq, nI_clamp, zz_in, zz_m1, zz_m1e, zz_le_m1, zz_m1_le, zz_lt_m1, zz_m1_lt, zz_B0, zz_B1, zz_shr, zz_shl, zz_and31, Nat.mod_eq_of_lt, not_true_eq_false, not_false_eq_true, Nat.reduceAdd, Nat.reduceMul, Nat.reduceSub] at c2
        omega
      have main : ∀ j k, k + j = 6 → (∀ q, q < k → ltr w q ≤ 26 ∧ (wln w ≤ q → ltr w q = 0)) → ∀ z, z = nI k → zAW mX13_isName 2 0 22 [(0, .int (nI w)), (1, .int z)] [] T I L R (zqI_ T I L R K) := by
        intro j
        induction j with
        | zero =>
          rintro k hk hq z rfl
          obtain rfl : k = 6 := by omega
          refine gX13_isName_22 ⟨fun _ => zqI__i (h1 w ⟨by omega, w30, hq⟩ rfl), fun c4 => ?_⟩
          exfalso
          (try simp (disch := omega) only [fa_lit, nI_add, zz_mul, zz_sub, nI_leI, nI_ltI, nI_eq, nI_clamp, zz_in, zz_m1, zz_m1e, zz_le_m1, zz_m1_le, zz_lt_m1, zz_m1_lt, zz_B0, zz_B1, zz_shr, zz_shl, zz_and31, Nat.mod_eq_of_lt, not_true_eq_false, not_false_eq_true, Nat.reduceAdd, Nat.reduceMul, Nat.reduceSub] at c4) <;> (try omega)
        | succ j ih =>
          rintro k hk hq z rfl
          have hlt := ltr_lt w k
          have next : ltr w k ≤ 26 → (wln w ≤ k → ltr w k = 0) → zAW mX13_isName 2 0 22 [(0, .int (nI w)), (1, .int (nI k + 1))] [] T I L R (zqI_ T I L R K) := fun g1 g2 => ih (k + 1) (by omega) (fun q hq2 => by
            by_cases e : q = k
            · rw [e]
              exact ⟨g1, g2⟩
            · exact hq q (by omega)) _ (nI_1 k)
          refine gX13_isName_22 ⟨fun c4 => ?_, fun _ => kX13_letterOf hw (by omega) ⟨fun c4 => zqI__i (bad ?_), fun c4 => ⟨fun c5 => ?_, fun c5 => kX13_longOf hw ⟨fun c6 => ?_, fun c6 => zqI__i (bad ?_)⟩⟩⟩⟩
          · exfalso
            (try simp (disch := omega) only [fa_lit, nI_add, zz_mul, zz_sub, nI_leI, nI_ltI, nI_eq, nI_clamp, zz_in, zz_m1, zz_m1e, zz_le_m1, zz_m1_le, zz_lt_m1, zz_m1_lt, zz_B0, zz_B1, zz_shr, zz_shl, zz_and31, Nat.mod_eq_of_lt, not_true_eq_false, not_false_eq_true, Nat.reduceAdd, Nat.reduceMul, Nat.reduceSub] at c4) <;> (try omega)
          · simp (disch := omega) only [fa_lit, nI_add, zz_mul, zz_sub, nI_leI, nI_ltI, nI_eq, nI_clamp, zz_in, zz_m1, zz_m1e, zz_le_m1, zz_m1_le, zz_lt_m1, zz_m1_lt, zz_B0, zz_B1, zz_shr, zz_shl, zz_and31, Nat.mod_eq_of_lt, not_true_eq_false, not_false_eq_true, Nat.reduceAdd, Nat.reduceMul, Nat.reduceSub] at c4
            intro q
            have := (q.2.2 k (by omega)).1
            omega
          · simp (disch := omega) only [fa_lit, nI_add, zz_mul, zz_sub, nI_leI, nI_ltI, nI_eq, nI_clamp, zz_in, zz_m1, zz_m1e, zz_le_m1, zz_m1_le, zz_lt_m1, zz_m1_lt, zz_B0, zz_B1, zz_shr, zz_shl, zz_and31, Nat.mod_eq_of_lt, not_true_eq_false, not_false_eq_true, Nat.reduceAdd, Nat.reduceMul, Nat.reduceSub] at c4
            simp (disch := omega) only [fa_lit, nI_add, zz_mul, zz_sub, nI_leI, nI_ltI, nI_eq, nI_clamp, zz_in, zz_m1, zz_m1e, zz_le_m1, zz_m1_le, zz_lt_m1, zz_m1_lt, zz_B0, zz_B1, zz_shr, zz_shl, zz_and31, Nat.mod_eq_of_lt, not_true_eq_false, not_false_eq_true, Nat.reduceAdd, Nat.reduceMul, Nat.reduceSub] at c5
            exact next (by omega) (fun _ => by omega)
          · simp (disch := omega) only [fa_lit, nI_add, zz_mul, zz_sub, nI_leI, nI_ltI, nI_eq, nI_clamp, zz_in, zz_m1, zz_m1e, zz_le_m1, zz_m1_le, zz_lt_m1, zz_m1_lt, zz_B0, zz_B1, zz_shr, zz_shl, zz_and31, Nat.mod_eq_of_lt, not_true_eq_false, not_false_eq_true, Nat.reduceAdd, Nat.reduceMul, Nat.reduceSub] at c4
            simp (disch := omega) only [fa_lit, nI_add, zz_mul, zz_sub, nI_leI, nI_ltI, nI_eq, nI_clamp, zz_in, zz_m1, zz_m1e, zz_le_m1, zz_m1_le, zz_lt_m1, zz_m1_lt, zz_B0, zz_B1, zz_shr, zz_shl, zz_and31, Nat.mod_eq_of_lt, not_true_eq_false, not_false_eq_true, Nat.reduceAdd, Nat.reduceMul, Nat.reduceSub] at c6
            exact next (by omega) (fun q => absurd q (by omega))
          · simp (disch := omega) only [fa_lit, nI_add, zz_mul, zz_sub, nI_leI, nI_ltI, nI_eq, nI_clamp, zz_in, zz_m1, zz_m1e, zz_le_m1, zz_m1_le, zz_lt_m1, zz_m1_lt, zz_B0, zz_B1, zz_shr, zz_shl, zz_and31, Nat.mod_eq_of_lt, not_true_eq_false, not_false_eq_true, Nat.reduceAdd, Nat.reduceMul, Nat.reduceSub] at c5
            simp (disch := omega) only [fa_lit, nI_add, zz_mul, zz_sub, nI_leI, nI_ltI, nI_eq, nI_clamp, zz_in, zz_m1, zz_m1e, zz_le_m1, zz_m1_le, zz_lt_m1, zz_m1_lt, zz_B0, zz_B1, zz_shr, zz_shl, zz_and31, Nat.mod_eq_of_lt, not_true_eq_false, not_false_eq_true, Nat.reduceAdd, Nat.reduceMul, Nat.reduceSub] at c6
            intro q
            have := (q.2.2 k (by omega)).2 (by omega)
            omega
      exact main 6 0 rfl (fun q h => absurd h (Nat.not_lt_zero q)) _ rfl
    · intro q
      have := q.2.1
      refine c2 ?_
      simp (disch := omega) only [fa_lit, nI_add, zz_mul, zz_sub, nI_leI, nI_ltI, nI_eq, nI_clamp, zz_in, zz_m1, zz_m1e, zz_le_m1, zz_m1_le, zz_lt_m1, zz_m1_lt, zz_B0, zz_B1, zz_shr, zz_shl, zz_and31, Nat.mod_eq_of_lt, not_true_eq_false, not_false_eq_true, Nat.reduceAdd, Nat.reduceMul, Nat.reduceSub]
      omega
/-- what the reference remembers -/
def zRm (I : zI) (m : Nat) (I' : zI) (n o : Nat) (x y z : Int32) : Prop :=
  (m < 20 → n = m ∧ o = 0) ∧ (m = 20 → n = 19 ∧ o = 3) ∧ zE [2000, 2068] I I' ∧ zFd [2, 66] I I' ∧ I' 2000 66 = nI (n + 1) ∧ I' 2068 (3 * n) = x ∧ I' 2068 (3 * n + 1) = y ∧ I' 2068 (3 * n + 2) = z ∧ ∀ k, k < 3 * n → I' 2068 k = I 2068 (k + o)
theorem kX13_rem {T : zT} {I : zI} {L : zL} {R : zR} {m : Nat} {x y z : Int32} {K : zI → Prop} (hx : zMok T R) (h66 : I 2000 66 = nI m) (hm : m ≤ 20) (hK : ∀ I' n o, zRm I m I' n o x y z → K I') :
    zMet mX13_remember 1 0 [.ref 2000, .int x, .int y, .int z] T (z2 I 2000 2 0) L R (zqV_I T L R K) :=
  kX13_remember hx (by rw [z2_nk (by decide)]; exact h66) hm (fun I' n o a1 a2 a3 a4 a5 a6 a7 a8 a9 => hK I' n o ⟨a1, a2, zE_tr (zE_w2 zE_rf (by simp)) a3, fun f hf => by
    simp only [List.mem_cons, List.not_mem_nil, or_false, not_or] at hf
    rw [a4 f (by simp [hf.2]), z2_nk hf.1], a5, a6, a7, a8, fun k hk => by rw [a9 k hk, z2_na (by decide)]⟩)
theorem kX13_lose {T : zT} {I : zI} {L : zL} {R : zR} {V : Nat → Nat → Nat → Nat} {m : Nat} {x y : Int32} {K : Int32 → zI → Prop} (h0 : zMq T I R V) (h66 : I 2000 66 = nI m) (hm : m ≤ 20)
    (hno : (¬ ∃ s k, s < V 5 0 0 ∧ k < V 6 s 2 ∧ x = nI s ∧ y = nI k ∧ V 23 s k ≠ 0) → K 0 (z2 I 2000 2 0))
    (h1 : ∀ s k, s < V 5 0 0 → k < V 6 s 2 → x = nI s → y = nI k → V 23 s k ≠ 0 → ∀ I' n o, zRm I m I' n o (nI (12 * s + k)) (nI (V 23 s k)) 0 → K 1 (z2 I' 2061 (12 * s + k) 0)) :
    zMet mX13_lose 3 0 [.ref 2000, .int x, .int y] T I L R (zqI_I T L R K) := by
  have h := h0.e (zMe_th (x := 0))
  have hn := h.2.2.1.1.1
  refine sX13_lose (gX13_lose_0 h.1 (kX13_isLetter h (fun s k hs hl e1 e2 => ⟨fun q => absurd q (by decide), fun _ => ?_⟩) (fun q => ⟨fun _ => zqI_I_i (hno (fun ⟨s, k, g1, g2, g3, g4, _⟩ => q ⟨s, k, g1, g2, g3, g4⟩)), fun q => absurd rfl q⟩)))
  have hw := h.2.2.1.1.2 s hs
  have hv : I 2061 (12 * s + k) = nI (V 23 s k) := h0.2.2.2.1.2.1 s hs k hl
  have hv2 : V 23 s k ≤ 26 := h0.2.2.2.2.2.1 s hs k hl
  subst e1 e2
  have e3 : (((12 : Int32) * nI s) + nI k).toNatClampNeg = 12 * s + k := by simp (disch := omega) only [fa_lit, nI_add, zz_mul, zz_sub, nI_leI, nI_ltI, nI_eq, nI_clamp, zz_in, zz_m1, zz_m1e, zz_le_m1, zz_m1_le, zz_lt_m1, zz_m1_lt, zz_B0, zz_B1, zz_shr, zz_shl, zz_and31, Nat.mod_eq_of_lt, not_true_eq_false, not_false_eq_true, Nat.reduceAdd, Nat.reduceMul, Nat.reduceSub]
  have e4 : ((12 : Int32) * nI s) + nI k = nI (12 * s + k) := by simp (disch := omega) only [fa_lit, nI_add, zz_mul, zz_sub, nI_leI, nI_ltI, nI_eq, nI_clamp, zz_in, zz_m1, zz_m1e, zz_le_m1, zz_m1_le, zz_lt_m1, zz_m1_lt, zz_B0, zz_B1, zz_shr, zz_shl, zz_and31, Nat.mod_eq_of_lt, not_true_eq_false, not_false_eq_true, Nat.reduceAdd, Nat.reduceMul, Nat.reduceSub]
  rw [e3, e4, hv]
  refine ⟨by simp (disch := omega) only [fa_lit, nI_add, zz_mul, zz_sub, nI_leI, nI_ltI, nI_eq, nI_clamp, zz_in, zz_m1, zz_m1e, zz_le_m1, zz_m1_le, zz_lt_m1, zz_m1_lt, zz_B0, zz_B1, zz_shr, zz_shl, zz_and31, Nat.mod_eq_of_lt, not_true_eq_false, not_false_eq_true, Nat.reduceAdd, Nat.reduceMul, Nat.reduceSub]; omega, fun c0 => zqI_I_i (hno ?_), fun c0 => kX13_rem h.1 h66 hm (fun I' n o a => zqI_I_i (h1 s k hs hl rfl rfl ?_ I' n o a))⟩
  · rintro ⟨s2, k2, g1, g2, g3, g4, g5⟩
    have w2 := h.2.2.1.1.2 s2 g1
    have e1 := (nI_eq (by omega) (by omega)).mp g3
    subst e1
    have e2 := (nI_eq (by omega) (by omega)).mp g4
    subst e2
    simp (disch := omega) only [fa_lit, nI_add, zz_mul, zz_sub, nI_leI, nI_ltI, nI_eq, nI_clamp, zz_in, zz_m1, zz_m1e, zz_le_m1, zz_m1_le, zz_lt_m1, zz_m1_lt, zz_B0, zz_B1, zz_shr, zz_shl, zz_and31, Nat.mod_eq_of_lt, not_true_eq_false, not_false_eq_true, Nat.reduceAdd, Nat.reduceMul, Nat.reduceSub] at c0
    exact g5 c0
  · simp (disch := omega) only [fa_lit, nI_add, zz_mul, zz_sub, nI_leI, nI_ltI, nI_eq, nI_clamp, zz_in, zz_m1, zz_m1e, zz_le_m1, zz_m1_le, zz_lt_m1, zz_m1_lt, zz_B0, zz_B1, zz_shr, zz_shl, zz_and31, Nat.mod_eq_of_lt, not_true_eq_false, not_false_eq_true, Nat.reduceAdd, Nat.reduceMul, Nat.reduceSub] at c0
    exact c0
