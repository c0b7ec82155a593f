/-! QUERIES of the class: count, look, fault -/
theorem zXok_new {T : zT} {R : zR} {κ : Nat} {x : Nat × Nat} {f : Nat → Nat} (h : zXok T R) (h0 : (T κ).1 = 0) : zXok (z1 T κ x) (z1 R κ f) := by
  have ht : ∀ q ∈ zXT, q.1 ≠ κ := fun q hq e => by
    have h1 := h.2 q hq
    rw [e] at h1
    rw [h1] at h0
    have : ∀ q ∈ zXT, q.2.1 ≠ 0 := by decide +kernel
    exact this q hq h0
  refine ⟨fun q hq => ?_, fun q hq => ?_⟩
  · have h2 : ∀ q ∈ zXF, ∃ p ∈ zXT, p.1 = q.1 := by decide +kernel
    obtain ⟨p, hp, e⟩ := h2 q hq
    rw [z1_n (by rw [← e]; exact ht p hp)]
    exact h.1 q hq
  · rw [z1_n (ht q hq)]
    exact h.2 q hq
def fSum (g : Nat → Nat) : Nat → Nat
  | 0 => 0
  | n + 1 => fSum g n + g n
def qCount (V : Nat → Nat → Nat → Nat) (x : Int32) : Int32 := match idx x 10 with
  | none => -1
  | some 0 => nI (V 20 0 0)
  | some 1 => nI (V 20 1 0)
  | some 2 => nI (V 5 0 0)
  | some 3 => nI (V 5 0 1)
  | some 4 => nI (V 5 0 3)
  | some 5 => nI (V 5 0 4)
  | some 6 => nI (V 24 0 0)
  | some 7 => nI (V 24 0 1)
  | some 8 => nI (V 13 0 4)
  | some _ => nI (fSum (fun s => fLost (V 23 s) (V 6 s 2)) (V 5 0 0))
theorem kX1_count {T : zT} {I : zI} {L : zL} {R : zR} {σ : Nat} {V : Nat → Nat → Nat → Nat} {x : Int32} {K : Int32 → Prop} (h : zCq T I R σ V) (h9 : I 1000 4 = nI (V 13 0 4)) (hK : K (qCount V x)) : zMet mX1_count 2 0 [.ref 1000, .int x] T I L R (zqI_ T I L R K) := by
  obtain ⟨hx, hσ, hσ2, hTL, hTv, hTw, hSv, hSw⟩ := h
  have hL := zSL_now hx
  have h2 : T σ = (3, 0) := hTL.1.t 0 rfl
  have h3 : R σ 2 = σ + 7 := hTL.1.r 2 rfl
  have h4 : T (σ + 7) = (5, 0) := hTL.1.t 7 rfl
  have h5 : R σ 3 = σ + 9 := hTL.1.r 3 rfl
  have h6 : T (σ + 9) = (5, 0) := hTL.1.t 9 rfl
  have hn := hTw.1.1
  have loop : ∀ j k, k + j = V 5 0 0 → ∀ v w, v = nI (fSum (fun s => fLost (V 23 s) (V 6 s 2)) k) → w = nI k → x = nI 9 → zAW mX1_count 2 0 132 [(0, .ref 1000), (2, .int v), (3, .int w)] [] T I L R (zqI_ T I L R K) := by
    intro j
    induction j with
    | zero =>
      rintro k hk v w rfl rfl e
      obtain rfl : k = V 5 0 0 := by omega
      refine gX1_count_132 hx ⟨by rw [hσ, h2], by rw [hσ, h3, h4], kJ2_size (by rw [hσ, h3, h4]) ⟨fun _ => zqI__i ?_, fun c => ?_⟩⟩
      · unfold qCount at hK
        simp only [idx_at (show 9 < 10 by omega) (by decide) e] at hK
        exact hK
      · exfalso
        (try simp (disch := omega) only [hσ, h3, hTv.1.1, fa_lit, nI_add, zz_mul, zz_sub, nI_leI, nI_ltI, nI_eq, nI_clamp, zz_in, zz_m1, zz_m1e, zz_le_m1, zz_m1_le, zz_lt_m1, zz_m1_lt, zz_B0, zz_B1, zz_shr, zz_shl, zz_and31, Nat.mod_eq_of_lt, not_true_eq_false, not_false_eq_true, Nat.reduceAdd, Nat.reduceMul, Nat.reduceSub] at c) <;> (try omega)
    | succ j ih =>
      rintro k hk v w rfl rfl e
      have hv := hSv.2.1 k (by omega)
      have hr := hL.2.2.2.2.2.2.2 k (by omega)
      have hw := hTw.1.2 k (by omega)
      refine gX1_count_132 hx ⟨by rw [hσ, h2], by rw [hσ, h3, h4], kJ2_size (by rw [hσ, h3, h4]) ⟨fun c => ?_, fun _ => ?_⟩⟩
      · exfalso
        (try simp (disch := omega) only [hσ, h3, hTv.1.1, fa_lit, nI_add, zz_mul, zz_sub, nI_leI, nI_ltI, nI_eq, nI_clamp, zz_in, zz_m1, zz_m1e, zz_le_m1, zz_m1_le, zz_lt_m1, zz_m1_lt, zz_B0, zz_B1, zz_shr, zz_shl, zz_and31, Nat.mod_eq_of_lt, not_true_eq_false, not_false_eq_true, Nat.reduceAdd, Nat.reduceMul, Nat.reduceSub] at c) <;> (try omega)
      · rw [nI_clamp (by omega), hr.1]
        refine ⟨by simp (disch := omega) only [fa_lit, nI_add, zz_mul, zz_sub, nI_leI, nI_ltI, nI_eq, nI_clamp, zz_in, zz_m1, zz_m1e, zz_le_m1, zz_m1_le, zz_lt_m1, zz_m1_lt, zz_B0, zz_B1, zz_shr, zz_shl, zz_and31, Nat.mod_eq_of_lt, not_true_eq_false, not_false_eq_true, Nat.reduceAdd, Nat.reduceMul, Nat.reduceSub]; omega, by rw [hr.2.1], kX11_lost (by rw [hr.2.1]) (by rw [hr.2.2.1, hr.2.2.2]) hv.1 hw.2.2.2 (fun q hq => by rw [hr.2.2.1]; exact ⟨hv.2 q hq, hSw.2.1 k (by omega) q hq⟩) (ih (k + 1) (by omega) _ _ (nI_add _ _) (nI_1 k) e)⟩
  have e2 : ∀ t, t < 2 → R 1201 t = 1203 + 3 * t ∧ T (1203 + 3 * t) = (4, 0) ∧ I (1203 + 3 * t) 2 = nI (V 20 t 0) := fun t ht => ⟨(hL.2.2.2.2.2.2.1 t ht).1, (hL.2.2.2.2.2.2.1 t ht).2.1, (hSv.1 t ht).1⟩
  unfold qCount at hK
  refine sX1_count (gX1_count_0 hx ⟨fun c => ?_, fun c0 => ⟨fun c => ?_, fun c1 => ⟨fun c => ?_, fun c2 => ⟨fun c => ?_, fun c3 => ⟨fun c => ?_, fun c4 => ⟨fun c => ?_, fun c5 => ⟨fun c => ?_, fun c6 => ⟨fun c => ?_, fun c7 => ⟨fun c => ?_, fun c8 => ⟨fun c => ?_, fun c9 => zqI__i ?_⟩⟩⟩⟩⟩⟩⟩⟩⟩⟩)
  · simp only [idx_at (show 0 < 10 by omega) (by decide) c] at hK
    subst c
    have := e2 0 (by decide)
    exact ⟨zin (by decide), by rw [show (0 : Int32).toNatClampNeg = 0 by decide, this.1, this.2.1], zqI__i (by rw [show (0 : Int32).toNatClampNeg = 0 by decide, this.1, this.2.2]; exact hK)⟩
  · simp only [idx_at (show 1 < 10 by omega) (by decide) c] at hK
    subst c
    have := e2 1 (by decide)
    exact ⟨zin (by decide), by rw [show (1 : Int32).toNatClampNeg = 1 by decide, this.1, this.2.1], zqI__i (by rw [show (1 : Int32).toNatClampNeg = 1 by decide, this.1, this.2.2]; exact hK)⟩
  · simp only [idx_at (show 2 < 10 by omega) (by decide) c] at hK
    exact ⟨by rw [hσ, h2], by rw [hσ, h3, h4], kJ2_size (by rw [hσ, h3, h4]) (zqI__i (by rw [hσ, h3, hTv.1.1]; exact hK))⟩
  · simp only [idx_at (show 3 < 10 by omega) (by decide) c] at hK
    exact ⟨by rw [hσ, h2], zqI__i (by rw [hσ, hTv.2.1.1]; exact hK)⟩
  · simp only [idx_at (show 4 < 10 by omega) (by decide) c] at hK
    exact ⟨by rw [hσ, h2], by rw [hσ, h5, h6], kJ2_size (by rw [hσ, h5, h6]) (zqI__i (by rw [hσ, h5, hTv.2.2.2.1.1]; exact hK))⟩
  · simp only [idx_at (show 5 < 10 by omega) (by decide) c] at hK
    exact ⟨by rw [hσ, h2], zqI__i (by rw [hσ, hTv.2.2.2.2.2]; exact hK)⟩
  · simp only [idx_at (show 6 < 10 by omega) (by decide) c] at hK
    exact zqI__i (by rw [hSv.2.2.1]; exact hK)
  · simp only [idx_at (show 7 < 10 by omega) (by decide) c] at hK
    exact zqI__i (by rw [hSv.2.2.2]; exact hK)
  · simp only [idx_at (show 8 < 10 by omega) (by decide) c] at hK
    exact zqI__i (by rw [h9]; exact hK)
  · exact loop (V 5 0 0) 0 (by omega) _ _ rfl rfl c
  · have e : idx x 10 = none := idx_no (by
      rintro ⟨j, g1, g2⟩
      match j, g1 with
      | 0, _ => exact c0 g2
      | 1, _ => exact c1 g2
      | 2, _ => exact c2 g2
      | 3, _ => exact c3 g2
      | 4, _ => exact c4 g2
      | 5, _ => exact c5 g2
      | 6, _ => exact c6 g2
      | 7, _ => exact c7 g2
      | 8, _ => exact c8 g2
      | 9, _ => exact c9 g2)
    simp only [e] at hK
    exact hK
/-- 0 and the answer, or which exception (1, 2) -/
def qLook (V : Nat → Nat → Nat → Nat) (x y : Int32) : Nat × Nat := match idx x (V 5 0 0) with
  | none => (1, 0)
  | some s => match idx y 4 with
    | none => (2, 0)
    | some 0 => (0, V 6 s 1)
    | some 1 => (0, V 6 s 2)
    | some 2 => (0, fLost (V 23 s) (V 6 s 2))
    | some _ => (0, fIron (fun c => V 11 c 0) (V 23 s) (V 6 s 2))
theorem kX1_look {T : zT} {I : zI} {L : zL} {R : zR} {σ b κ : Nat} {V : Nat → Nat → Nat → Nat} {x y : Int32} {P : zP} {K : Int32 → zT → zI → zL → zR → Prop} (h : zCq T I R σ V) (hκ : 100 ≤ κ) (hf : (T κ).1 = 0) (hb : 6 ≤ b)
    (hK : (qLook V x y).1 = 0 → K (nI (qLook V x y).2) T I L R) (h1 : (qLook V x y).1 = 1 → P 3 (.ref κ) (z1 T κ (20, 0)) (z1 I κ fun _ => 0) (z1 L κ fun _ => 0) (z1 R κ fun _ => 0)) (h2 : (qLook V x y).1 = 2 → P 4 (.ref κ) (z1 T κ (21, 0)) (z1 I κ fun _ => 0) (z1 L κ fun _ => 0) (z1 R κ fun _ => 0)) :
    zMet mX1_look 12 b [.ref 1000, .int x, .int y] T I L R (zqI_TILRx P K) := by
  have hq := h
  obtain ⟨hx, hσ, hσ2, hTL, hTv, hTw, hSv, hSw⟩ := h
  have hL := zSL_now hx
  have g2 : T σ = (3, 0) := hTL.1.t 0 rfl
  have g3 : R σ 2 = σ + 7 := hTL.1.r 2 rfl
  have g4 : T (σ + 7) = (5, 0) := hTL.1.t 7 rfl
  have g5 : R (σ + 7) 1 = σ + 8 := hTL.1.r 15 rfl
  have g6 : T (σ + 8) = (109, 6) := hTL.1.t 8 rfl
  have g7 : R σ 8 = σ + 15 := hTL.1.r 8 rfl
  have g8 : T (σ + 15) = (100, 27) := hTL.1.t 15 rfl
  have hn := hTw.1.1
  unfold qLook at hK h1 h2
  refine sX1_look (gX1_look_0 hx (kX1_isSign hq (fun s hs e => ⟨fun c => absurd c (by decide), fun _ => ?_⟩) (fun q => ⟨fun _ => ⟨κ, hκ, hf, by omega, ?_⟩, fun c => absurd rfl c⟩)))
  · have hv := hSv.2.1 s hs
    have hr := hL.2.2.2.2.2.2.2 s (by omega)
    have hw := hTw.1.2 s hs
    simp only [idx_at hs (by omega) e] at hK h1 h2
    subst e
    refine ⟨fun c => ?_, fun c0 => ⟨fun c => ?_, fun c1 => ⟨fun c => ?_, fun c2 => ⟨fun c => ?_, fun c3 => ⟨κ, hκ, hf, by omega, ?_⟩⟩⟩⟩⟩
    · simp only [idx_at (show 0 < 4 by omega) (by decide) c] at hK
      refine ⟨by rw [hσ, g2], by rw [hσ, g3, g4], kJ2_get (by rw [hσ, g3, g4]) (by rw [hσ, g3, g5, g6]) (by rw [hσ, g3]; exact hTv.1.1) hs hn (by omega) ?_⟩
      rw [hσ, g3, g5, (hTL.2.1 s hs).1, (hTL.2.1 s hs).2.1, (hTv.1.2 s hs).2]
      exact ⟨rfl, zqI_TILRx_i (hK trivial)⟩
    · simp only [idx_at (show 1 < 4 by omega) (by decide) c] at hK
      rw [nI_clamp (by omega), hr.1, hv.1]
      exact ⟨by simp (disch := omega) only [fa_lit, nI_add, zz_mul, zz_sub, nI_leI, nI_ltI, nI_eq, nI_clamp, zz_in, zz_m1, zz_m1e, zz_le_m1, zz_m1_le, zz_lt_m1, zz_m1_lt, zz_B0, zz_B1, zz_shr, zz_shl, zz_and31, Nat.mod_eq_of_lt, not_true_eq_false, not_false_eq_true, Nat.reduceAdd, Nat.reduceMul, Nat.reduceSub]; omega, by rw [hr.2.1], zqI_TILRx_i (hK trivial)⟩
    · simp only [idx_at (show 2 < 4 by omega) (by decide) c] at hK
      rw [nI_clamp (by omega), hr.1]
      exact ⟨by simp (disch := omega) only [fa_lit, nI_add, zz_mul, zz_sub, nI_leI, nI_ltI, nI_eq, nI_clamp, zz_in, zz_m1, zz_m1e, zz_le_m1, zz_m1_le, zz_lt_m1, zz_m1_lt, zz_B0, zz_B1, zz_shr, zz_shl, zz_and31, Nat.mod_eq_of_lt, not_true_eq_false, not_false_eq_true, Nat.reduceAdd, Nat.reduceMul, Nat.reduceSub]; omega, by rw [hr.2.1], kX11_lost (by rw [hr.2.1]) (by rw [hr.2.2.1, hr.2.2.2]) hv.1 hw.2.2.2 (fun q hq => by rw [hr.2.2.1]; exact ⟨hv.2 q hq, hSw.2.1 s hs q hq⟩) (zqI_TILRx_i (hK trivial))⟩
    · simp only [idx_at (show 3 < 4 by omega) (by decide) c] at hK
      rw [nI_clamp (by omega), hr.1]
      exact ⟨by simp (disch := omega) only [fa_lit, nI_add, zz_mul, zz_sub, nI_leI, nI_ltI, nI_eq, nI_clamp, zz_in, zz_m1, zz_m1e, zz_le_m1, zz_m1_le, zz_lt_m1, zz_m1_lt, zz_B0, zz_B1, zz_shr, zz_shl, zz_and31, Nat.mod_eq_of_lt, not_true_eq_false, not_false_eq_true, Nat.reduceAdd, Nat.reduceMul, Nat.reduceSub]; omega, by rw [hσ, g2], kX3_iron (by rw [hσ, g2]) (by rw [hσ, g7, g8]) (wg := fun c => V 11 c 0) (fun k hk => by rw [hσ, g7]; exact hTv.2.2.2.2.1 k hk) (by rw [hr.2.1]) (by rw [hr.2.2.1, hr.2.2.2]) hv.1 hw.2.2.2 (fun q hq => by rw [hr.2.2.1]; exact ⟨hv.2 q hq, hSw.2.1 s hs q hq⟩) (zqI_TILRx_i (hK trivial))⟩
    · have e : idx y 4 = none := idx_no (by
        rintro ⟨j, g1, g2⟩
        match j, g1 with
        | 0, _ => exact c0 g2
        | 1, _ => exact c1 g2
        | 2, _ => exact c2 g2
        | 3, _ => exact c3 g2)
      simp only [e] at h2
      exact gX1_look_116 (zXok_new hx hf) ⟨by rw [z1_s], ⟨fun c => absurd c (by decide), fun _ => h2 trivial⟩⟩
  · simp only [idx_no q] at h1
    exact ⟨fun c => absurd c (by decide), fun _ => h1 trivial⟩
def qFault (V : Nat → Nat → Nat → Nat) (x : Int32) : Int32 := if x = 0 then nI (V 13 0 2) else if x = 1 then nI (V 13 0 3) - 1 else -1
theorem kX1_fault {T : zT} {I : zI} {L : zL} {R : zR} {V : Nat → Nat → Nat → Nat} {x : Int32} {K : Int32 → Prop} (hx : zXok T R) (h2 : I 1000 2 = nI (V 13 0 2)) (h3 : I 1000 3 = nI (V 13 0 3) - 1) (hK : K (qFault V x)) : zMet mX1_fault 1 0 [.ref 1000, .int x] T I L R (zqI_ T I L R K) := by
  unfold qFault at hK
  refine sX1_fault (gX1_fault_0 hx ⟨fun c => zqI__i ?_, fun c => ⟨fun c2 => zqI__i ?_, fun c2 => zqI__i ?_⟩⟩)
  · rw [if_pos c] at hK
    rw [h2]
    exact hK
  · rw [if_neg c, if_pos c2] at hK
    rw [h3]
    exact hK
  · rw [if_neg c, if_neg c2] at hK
    exact hK
theorem kX0_look {T : zT} {I : zI} {L : zL} {R : zR} {σ b κ o : Nat} {V : Nat → Nat → Nat → Nat} {x y : Int32} {K : Int32 → zT → zI → zL → zR → Prop} (h : zCq T I R σ V) (hκ : 100 ≤ κ) (hf : (T κ).1 = 0) (hb : 6 ≤ b) (ho : T o = (101, 1))
    (hK : (qLook V x y).1 = 0 → K 0 T I (z2 L o 0 (nI (qLook V x y).2).toInt64) R) (h1 : (qLook V x y).1 = 1 → K 1 (z1 T κ (20, 0)) (z1 I κ fun _ => 0) (z1 L κ fun _ => 0) (z1 R κ fun _ => 0)) (h2 : (qLook V x y).1 = 2 → K 2 (z1 T κ (21, 0)) (z1 I κ fun _ => 0) (z1 L κ fun _ => 0) (z1 R κ fun _ => 0)) :
    zMet mX0_look 13 b [.ref 1000, .int x, .int y, .ref o] T I L R (zqI_TILR K) :=
  sX0_look (gX0_look_0 ⟨by rw [zX_t1000 h.1], b, Nat.le_refl b, kX1_look h hκ hf hb (fun e => ⟨by rw [ho], by rw [ho]; exact zin (by decide), zqI_TILR_i (hK e)⟩) (fun e => Or.inl ⟨rfl, _, rfl, gX0_look_13 (zqI_TILR_i (h1 e))⟩) (fun e => Or.inr ⟨rfl, _, rfl, gX0_look_17 (zqI_TILR_i (h2 e))⟩)⟩)
