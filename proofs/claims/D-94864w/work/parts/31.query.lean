/-! QUERIES: what they answer, of the state; the class's side -/
/-- an int as a natural below n -/
def idx (x : Int32) (n : Nat) : Option Nat := if 0 ≤ x ∧ x.toNatClampNeg < n then some x.toNatClampNeg else none
theorem idx_at {x : Int32} {n j : Nat} (hj : j < n) (hn : n < 2 ^ 31) (e : x = nI j) : idx x n = some j := by
  subst e
  unfold idx
  rw [nI_clamp (by omega), if_pos ⟨nI_pos' (by omega), hj⟩]
theorem idx_no {x : Int32} {n : Nat} (h : ¬ ∃ j, j < n ∧ x = nI j) : idx x n = none := by
  unfold idx
  refine if_neg fun q => h ⟨x.toNatClampNeg, q.2, ?_⟩
  obtain ⟨j, hj, rfl⟩ := nI_of (x := x) (fun c => by
    have := q.1
    rw [fa_le] at this
    rw [fa_lt] at c
    omega)
  rw [nI_clamp hj]
theorem idx_some {x : Int32} {n s : Nat} (h : idx x n = some s) : s < n ∧ x = nI s := by
  unfold idx at h
  split at h
  · rename_i q
    cases h
    obtain ⟨j, hj, rfl⟩ := nI_of (x := x) (fun c => by
      have := q.1
      rw [fa_le] at this
      rw [fa_lt] at c
      omega)
    exact ⟨q.2, by rw [nI_clamp hj]⟩
  · cases h
def qLetter (V : Nat → Nat → Nat → Nat) (x y : Int32) : Int32 := match idx x (V 5 0 0) with
  | none => -1
  | some s => match idx y (V 6 s 2) with
    | none => -1
    | some k => nI (V 23 s k)
theorem kX1_letter {T : zT} {I : zI} {L : zL} {R : zR} {σ : Nat} {V : Nat → Nat → Nat → Nat} {x y : Int32} {K : Int32 → Prop} (h : zCq T I R σ V) (hK : K (qLetter V x y)) : zMet mX1_letter 4 0 [.ref 1000, .int x, .int y] T I L R (zqI_ T I L R K) := by
  have hx := h.1
  have hTw := h.2.2.2.2.2.1
  have hSv := h.2.2.2.2.2.2.1
  have hL := zSL_now hx
  have h6 := hTw.1.1
  refine sX1_letter (gX1_letter_0 hx (kX1_isLetter h (fun s k hs hk e1 e2 => ⟨fun c => absurd c (by decide), fun _ => ?_⟩) (fun q => ⟨fun _ => zqI__i ?_, fun c => absurd rfl c⟩)))
  · have h7 := hTw.1.2 s hs
    unfold qLetter at hK
    rw [idx_at hs (by omega) e1] at hK
    simp only [idx_at hk (by omega) e2] at hK
    subst e1 e2
    have hr := hL.2.2.2.2.2.2.2 s (by omega)
    have hv := hSv.2.1 s hs
    rw [nI_clamp (by omega), nI_clamp (by omega), hr.1, hr.2.2.1]
    refine ⟨by simp (disch := omega) only [fa_lit, nI_add, zz_mul, zz_sub, nI_leI, nI_ltI, nI_eq, nI_clamp, zz_in, zz_m1, zz_m1e, zz_le_m1, zz_m1_le, zz_lt_m1, zz_m1_lt, zz_B0, zz_B1, zz_shr, zz_shl, zz_and31, Nat.mod_eq_of_lt, not_true_eq_false, not_false_eq_true, Nat.reduceAdd, Nat.reduceMul, Nat.reduceSub]; omega, by rw [hr.2.1], by rw [hr.2.2.2], by rw [hr.2.2.2]; simp (disch := omega) only [fa_lit, nI_add, zz_mul, zz_sub, nI_leI, nI_ltI, nI_eq, nI_clamp, zz_in, zz_m1, zz_m1e, zz_le_m1, zz_m1_le, zz_lt_m1, zz_m1_lt, zz_B0, zz_B1, zz_shr, zz_shl, zz_and31, Nat.mod_eq_of_lt, not_true_eq_false, not_false_eq_true, Nat.reduceAdd, Nat.reduceMul, Nat.reduceSub]; omega, zqI__i ?_⟩
    rw [hv.2 k hk]
    exact hK
  · have e : qLetter V x y = -1 := by
      unfold qLetter
      cases e1 : idx x (V 5 0 0) with
      | none => rfl
      | some s =>
        cases e2 : idx y (V 6 s 2) with
        | none => simp only [e2]
        | some k => exact absurd ⟨s, k, (idx_some e1).1, (idx_some e2).1, (idx_some e1).2, (idx_some e2).2⟩ q
    rw [e] at hK
    exact hK
def qNamed (V : Nat → Nat → Nat → Nat) (x y : Int32) : Int32 := match idx x 3 with
  | none => -1
  | some t => if t = 2 then fndI (fun s => V 6 s 0) (V 5 0 0) y else fndI (V 21 t) (V 20 t 0) y
theorem kX1_named {T : zT} {I : zI} {L : zL} {R : zR} {σ : Nat} {V : Nat → Nat → Nat → Nat} {x y : Int32} {K : Int32 → Prop} (h : zCq T I R σ V) (hK : K (qNamed V x y)) : zMet mX1_named 5 0 [.ref 1000, .int x, .int y] T I L R (zqI_ T I L R K) := by
  obtain ⟨hx, hσ, hσ2, hTL, hTv, hTw, hSv, hSw⟩ := h
  have hL := zSL_now hx
  have h2 : T σ = (3, 0) := hTL.1.t 0 rfl
  have h3 : R σ 2 = σ + 7 := hTL.1.r 2 rfl
  have h4 : T (σ + 7) = (5, 0) := hTL.1.t 7 rfl
  have h5 : R (σ + 7) 1 = σ + 8 := hTL.1.r 15 rfl
  have h6 : T (σ + 8) = (109, 6) := hTL.1.t 8 rfl
  have hn := hTw.1.1
  refine sX1_named (gX1_named_0 hx (kX1_inN (a := 0) (b := 1) rfl rfl (by decide) (by decide) (fun t g1 g2 e => ⟨fun c => absurd c (by decide), fun _ => ?_⟩) (fun q => ⟨fun _ => ⟨fun c => ?_, fun c => zqI__i ?_⟩, fun c => absurd rfl c⟩)))
  · unfold qNamed at hK
    simp only [idx_at (show t < 3 by omega) (by decide) e] at hK
    rw [if_neg (by omega)] at hK
    subst e
    have hr := hL.2.2.2.2.2.2.1 t (by omega)
    have hv := hSv.1 t (by omega)
    have hw := hSw.1 t (by omega)
    rw [nI_clamp (by omega), hr.1]
    exact ⟨by simp (disch := omega) only [fa_lit, nI_add, zz_mul, zz_sub, nI_leI, nI_ltI, nI_eq, nI_clamp, zz_in, zz_m1, zz_m1e, zz_le_m1, zz_m1_le, zz_lt_m1, zz_m1_lt, zz_B0, zz_B1, zz_shr, zz_shl, zz_and31, Nat.mod_eq_of_lt, not_true_eq_false, not_false_eq_true, Nat.reduceAdd, Nat.reduceMul, Nat.reduceSub]; omega, by rw [hr.2.1], kX4_find (by rw [hr.2.1]) (by rw [hr.2.2.1, hr.2.2.2.2.1]) hv.1 hw.1 (fun k hk => by rw [hr.2.2.1]; exact (hv.2 k hk).1) (zqI__i hK)⟩
  · unfold qNamed at hK
    simp only [idx_at (show 2 < 3 by omega) (by decide) c] at hK
    rw [if_pos trivial] at hK
    rw [hσ]
    exact ⟨by rw [h2], kX3_find (by rw [h2]) (by rw [h3, h4]) (by rw [h3, h5, h6]) (by rw [h3]; exact hTv.1.1) hn (fun s hs => by
      rw [h3, h5, (hTL.2.1 s hs).1, (hTL.2.1 s hs).2.1]
      exact ⟨rfl, (hTv.1.2 s hs).1⟩) (zqI__i hK)⟩
  · unfold qNamed at hK
    rw [idx_no (fun ⟨j, g1, g2⟩ => by
      by_cases e : j = 2
      · exact c (by rw [g2, e]; rfl)
      · exact q ⟨j, by omega, by omega, g2⟩)] at hK
    exact hK
def qWord (V : Nat → Nat → Nat → Nat) (x y z : Int32) : Int32 := match idx x 2 with
  | none => -1
  | some t => match idx y (V 20 t 0) with
    | none => -1
    | some i => if z = 0 then nI (V 21 t i) else if z = 1 then nI (V 22 t i) else -1
theorem kX1_word {T : zT} {I : zI} {L : zL} {R : zR} {σ : Nat} {V : Nat → Nat → Nat → Nat} {x y z : Int32} {K : Int32 → Prop} (h : zCq T I R σ V) (hK : K (qWord V x y z)) : zMet mX1_word 3 0 [.ref 1000, .int x, .int y, .int z] T I L R (zqI_ T I L R K) := by
  obtain ⟨hx, hσ, hσ2, hTL, hTv, hTw, hSv, hSw⟩ := h
  have hL := zSL_now hx
  refine sX1_word (gX1_word_0 hx (kX1_isTongue (fun t ht e => ⟨fun c => absurd c (by decide), fun _ => ?_⟩) (fun q => ⟨fun _ => zqI__i ?_, fun c => absurd rfl c⟩)))
  · unfold qWord at hK
    simp only [idx_at ht (by decide) e] at hK
    subst e
    have hr := hL.2.2.2.2.2.2.1 t ht
    have hv := hSv.1 t ht
    have hw := hSw.1 t ht
    have hw1 := hw.1
    rw [nI_clamp (by omega), hr.1, hv.1]
    refine ⟨by simp (disch := omega) only [fa_lit, nI_add, zz_mul, zz_sub, nI_leI, nI_ltI, nI_eq, nI_clamp, zz_in, zz_m1, zz_m1e, zz_le_m1, zz_m1_le, zz_lt_m1, zz_m1_lt, zz_B0, zz_B1, zz_shr, zz_shl, zz_and31, Nat.mod_eq_of_lt, not_true_eq_false, not_false_eq_true, Nat.reduceAdd, Nat.reduceMul, Nat.reduceSub]; omega, by rw [hr.2.1], kX1_inB rfl rfl (by omega) (fun i hi e => ⟨fun c => absurd c (by decide), fun _ => ⟨fun c => ?_, fun c => ⟨fun c2 => ?_, fun c2 => zqI__i ?_⟩⟩⟩) (fun q => ⟨fun _ => zqI__i ?_, fun c => absurd rfl c⟩)⟩
    · simp only [idx_at hi (by omega) e] at hK
      rw [if_pos c] at hK
      subst e
      rw [hr.2.2.1, hr.2.2.2.2.1, nI_clamp (by omega), (hv.2 i hi).1]
      exact ⟨rfl, by simp (disch := omega) only [fa_lit, nI_add, zz_mul, zz_sub, nI_leI, nI_ltI, nI_eq, nI_clamp, zz_in, zz_m1, zz_m1e, zz_le_m1, zz_m1_le, zz_lt_m1, zz_m1_lt, zz_B0, zz_B1, zz_shr, zz_shl, zz_and31, Nat.mod_eq_of_lt, not_true_eq_false, not_false_eq_true, Nat.reduceAdd, Nat.reduceMul, Nat.reduceSub]; omega, zqI__i hK⟩
    · simp only [idx_at hi (by omega) e] at hK
      rw [if_neg c, if_pos c2] at hK
      subst e
      rw [hr.2.2.2.1, hr.2.2.2.2.2, nI_clamp (by omega), (hv.2 i hi).2]
      exact ⟨rfl, by simp (disch := omega) only [fa_lit, nI_add, zz_mul, zz_sub, nI_leI, nI_ltI, nI_eq, nI_clamp, zz_in, zz_m1, zz_m1e, zz_le_m1, zz_m1_le, zz_lt_m1, zz_m1_lt, zz_B0, zz_B1, zz_shr, zz_shl, zz_and31, Nat.mod_eq_of_lt, not_true_eq_false, not_false_eq_true, Nat.reduceAdd, Nat.reduceMul, Nat.reduceSub]; omega, zqI__i hK⟩
    · simp only [idx_at hi (by omega) e] at hK
      rw [if_neg c, if_neg c2] at hK
      exact hK
    · rw [idx_no q] at hK
      exact hK
  · unfold qWord at hK
    rw [idx_no q] at hK
    exact hK
