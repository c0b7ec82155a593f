/-! READINGS: what is asked of the class -/
theorem zCq.e {T : zT} {I I' : zI} {R : zR} {σ : Nat} {V : Nat → Nat → Nat → Nat} (h : zCq T I R σ V) (e : ∀ k, 1200 ≤ k → I' k = I k) : zCq T I' R σ V := by
  obtain ⟨hx, hσ, hσ2, hTL, hTv, hTw, hSv, hSw⟩ := h
  refine ⟨hx, hσ, hσ2, hTL, ?_, hTw, ?_, hSw⟩
  · unfold zTv at hTv ⊢
    simpa (disch := omega) only [e] using hTv
  · unfold zSv at hSv ⊢
    simpa (disch := omega) only [e] using hSv
theorem zE_hi {I I' : zI} {ks : List Nat} (h : zE ks I I') (hk : ∀ x ∈ ks, x < 1200) : ∀ k, 1200 ≤ k → I' k = I k := fun k hk2 => h k (fun q => absurd (hk k q) (by omega))
/-- the kinds' answers: 1030 + kd is the kind kd -/
theorem zK_t {T : zT} {R : zR} (h : zXok T R) : ∀ kd, kd < 4 → R 1010 kd = 1030 + kd ∧ (T (1030 + kd)).1 = 6 + kd := fun kd hk => by
  match kd, hk with
  | 0, _ => exact ⟨zX_r1010_0 h, by rw [zX_t1030 h]⟩
  | 1, _ => exact ⟨zX_r1010_1 h, by rw [zX_t1031 h]⟩
  | 2, _ => exact ⟨zX_r1010_2 h, by rw [zX_t1032 h]⟩
  | 3, _ => exact ⟨zX_r1010_3 h, by rw [zX_t1033 h]⟩
theorem kIsR {T : zT} {I : zI} {L : zL} {R : zR} {κ kd t : Nat} {K6 K7 K8 K9 : Int32 → Prop} (hT : (T κ).1 = 6 + kd) (hk : kd < 4) (ht : t < 2) (h6 : ∀ r, r = (if isR kd t then 1 else 0) → K6 r) (h7 : ∀ r, r = (if isR kd t then 1 else 0) → K7 r) (h8 : ∀ r, r = (if isR kd t then 1 else 0) → K8 r) (h9 : ∀ r, r = (if isR kd t then 1 else 0) → K9 r) :
    ((T κ).1 = 6 ∧ zMet mX6_isFromRight 1 0 [.ref κ, .int (nI t)] T I L R (zqI_ T I L R K6)) ∨ ((T κ).1 = 7 ∧ zMet mX7_isFromRight 1 0 [.ref κ, .int (nI t)] T I L R (zqI_ T I L R K7)) ∨ ((T κ).1 = 8 ∧ zMet mX8_isFromRight 1 0 [.ref κ, .int (nI t)] T I L R (zqI_ T I L R K8)) ∨ ((T κ).1 = 9 ∧ zMet mX9_isFromRight 2 0 [.ref κ, .int (nI t)] T I L R (zqI_ T I L R K9)) := by
  match kd, hk with
  | 0, _ => exact Or.inl ⟨hT, kX6_isFromRight ht (h6 _ rfl)⟩
  | 1, _ => exact Or.inr (Or.inl ⟨hT, kX7_isFromRight ht (h7 _ rfl)⟩)
  | 2, _ => exact Or.inr (Or.inr (Or.inl ⟨hT, kX8_isFromRight (h8 _ rfl)⟩))
  | 3, _ => exact Or.inr (Or.inr (Or.inr ⟨hT, kX9_isFromRight hT (h9 _ rfl)⟩))
theorem kX1_kindOf {T : zT} {I : zI} {L : zL} {R : zR} {σ s : Nat} {V : Nat → Nat → Nat → Nat} {K : Nat → Prop} (h : zCq T I R σ V) (hs : s < V 5 0 0) (hK : K (1030 + V 6 s 1)) : zMet mX1_kindOf 4 0 [.ref 1000, .int (nI s)] T I L R (zqR_ T I L R K) := by
  obtain ⟨hx, hσ, hσ2, hTL, hTv, hTw, hSv, hSw⟩ := h
  have g2 : T σ = (3, 0) := hTL.1.t 0 rfl
  have g3 : R σ 2 = σ + 7 := hTL.1.r 2 rfl
  have g4 : T (σ + 7) = (5, 0) := hTL.1.t 7 rfl
  have g5 : R (σ + 7) 1 = σ + 8 := hTL.1.r 15 rfl
  have g6 : T (σ + 8) = (109, 6) := hTL.1.t 8 rfl
  have hw := hTw.1.2 s hs
  refine sX1_kindOf (gX1_kindOf_0 hx ⟨by rw [hσ, g2], by rw [hσ, g3, g4], kJ2_get (by rw [hσ, g3, g4]) (by rw [hσ, g3, g5, g6]) (by rw [hσ, g3]; exact hTv.1.1) hs hTw.1.1 (by omega) ?_⟩)
  rw [hσ, g3, g5, (hTL.2.1 s hs).1, (hTL.2.1 s hs).2.1, (hTv.1.2 s hs).2, nI_clamp (by omega), (zK_t hx _ hw.2.1).1]
  exact ⟨rfl, by simp (disch := omega) only [fa_lit, nI_add, zz_mul, zz_sub, nI_leI, nI_ltI, nI_eq, nI_clamp, zz_in, zz_m1, zz_m1e, zz_le_m1, zz_m1_le, zz_lt_m1, zz_m1_lt, zz_B0, zz_B1, zz_shr, zz_shl, zz_and31, Nat.mod_eq_of_lt, not_true_eq_false, not_false_eq_true, Nat.reduceAdd, Nat.reduceMul, Nat.reduceSub]; omega, zqR__i hK⟩
/-- a row's table, any row -/
theorem kX1_readAny {T : zT} {I : zI} {L : zL} {R : zR} {σ ρ n t kd : Nat} {V : Nat → Nat → Nat → Nat} {f : Nat → Nat} {rv : Int32} {K : zI → zL → Prop} (h : zCq T I R σ V) (ht : t < 2) (g1 : (T ρ).1 = 11) (g2 : T (R ρ 0) = (100, 12)) (g3 : I ρ 1 = nI n) (hn : n ≤ 12) (hf : ∀ k, k < n → I (R ρ 0) k = nI (f k) ∧ f k ≤ 26) (hr : rv = if isR kd t then 1 else 0) (d4 : ρ ≠ 1017) (d5 : R ρ 0 ≠ 1017)
    (hK : ∀ I' L', zE [1017] I I' → zE [1016] L L' → (∀ q, q ≤ n → L' 1016 q = lN (rdWays V t f n kd q) ∧ I' 1017 q = nI (rdBest V t f n kd q) - 1) → K I' L') :
    zMet mX1_read_2 4 0 [.ref 1000, .ref (1203 + 3 * t), .ref ρ, .int rv] T I L R (zqV_IL T R K) := by
  obtain ⟨hx, hσ, hσ2, hTL, hTv, hTw, hSv, hSw⟩ := h
  have hr1 := (zSL_now hx).2.2.2.2.2.2.1 t ht
  have hv := hSv.1 t ht
  have hw := hSw.1 t ht
  exact kX1_read2 (m := V 20 t 0) (ws := V 21 t) (wo := V 22 t) hx (by rw [hr1.2.1]) (by rw [hr1.2.2.1, hr1.2.2.2.2.1]) (by rw [hr1.2.2.2.1, hr1.2.2.2.2.2]) hv.1 hw.1 (fun i hi => by
    rw [hr1.2.2.1, hr1.2.2.2.1]
    exact ⟨(hv.2 i hi).1, (hw.2 i hi).1, (hv.2 i hi).2, (hw.2 i hi).2⟩) g1 g2 g3 hn hf hr (by omega) (by rw [hr1.2.2.1]; omega) (by rw [hr1.2.2.2.1]; omega) d4 d5 hK
theorem kX1_read {T : zT} {I : zI} {L : zL} {R : zR} {σ s t : Nat} {V : Nat → Nat → Nat → Nat} {K : zI → zL → Prop} (h : zCq T I R σ V) (hs : s < V 5 0 0) (ht : t < 2)
    (hK : ∀ I' L', zE [1017] I I' → zE [1016] L L' → (∀ q, q ≤ V 6 s 2 → L' 1016 q = lN (rdWays V t (V 23 s) (V 6 s 2) (V 6 s 1) q) ∧ I' 1017 q = nI (rdBest V t (V 23 s) (V 6 s 2) (V 6 s 1) q) - 1) → K I' L') :
    zMet mX1_read 5 0 [.ref 1000, .int (nI s), .int (nI t)] T I L R (zqV_IL T R K) := by
  have hq := h
  obtain ⟨hx, hσ, hσ2, hTL, hTv, hTw, hSv, hSw⟩ := h
  have hn := hTw.1.1
  have hw := hTw.1.2 s hs
  have hr1 := (zSL_now hx).2.2.2.2.2.2.1 t ht
  have hr2 := (zSL_now hx).2.2.2.2.2.2.2 s (by omega)
  have hv := hSv.2.1 s hs
  have fin : ∀ r, r = (if isR (V 6 s 1) t then 1 else 0) → zAW mX1_read 5 0 28 [] [.int r, .ref (R 1202 ((nI s).toNatClampNeg)), .ref (R 1201 ((nI t).toNatClampNeg)), .ref 1000] T I L R (zqV_IL T R K) := fun r hr => by
    refine gX1_read_28 hx ⟨by rw [zX_t1000 hx], ?_⟩
    rw [nI_clamp (by omega), nI_clamp (by omega), hr1.1, hr2.1]
    exact kX1_readAny (n := V 6 s 2) (f := V 23 s) (kd := V 6 s 1) hq ht (by rw [hr2.2.1]) (by rw [hr2.2.2.1, hr2.2.2.2]) hv.1 hw.2.2.2 (fun k hk => by rw [hr2.2.2.1]; exact ⟨hv.2 k hk, hSw.2.1 s hs k hk⟩) hr (by omega) (by rw [hr2.2.2.1]; omega) (fun I' L' a1 a2 a3 => zqV_IL_i (hK I' L' a1 a2 a3))
  exact sX1_read (gX1_read_0 hx ⟨by simp (disch := omega) only [fa_lit, nI_add, zz_mul, zz_sub, nI_leI, nI_ltI, nI_eq, nI_clamp, zz_in, zz_m1, zz_m1e, zz_le_m1, zz_m1_le, zz_lt_m1, zz_m1_lt, zz_B0, zz_B1, zz_shr, zz_shl, zz_and31, Nat.mod_eq_of_lt, not_true_eq_false, not_false_eq_true, Nat.reduceAdd, Nat.reduceMul, Nat.reduceSub]; omega, by simp (disch := omega) only [fa_lit, nI_add, zz_mul, zz_sub, nI_leI, nI_ltI, nI_eq, nI_clamp, zz_in, zz_m1, zz_m1e, zz_le_m1, zz_m1_le, zz_lt_m1, zz_m1_lt, zz_B0, zz_B1, zz_shr, zz_shl, zz_and31, Nat.mod_eq_of_lt, not_true_eq_false, not_false_eq_true, Nat.reduceAdd, Nat.reduceMul, Nat.reduceSub]; omega, kX1_kindOf hq hs (kIsR (zK_t hx _ hw.2.1).2 hw.2.1 ht fin fin fin fin)⟩)
theorem kX1_serves2 {T : zT} {I : zI} {L : zL} {R : zR} {σ ρ n kd : Nat} {V : Nat → Nat → Nat → Nat} {f : Nat → Nat} {K : Int32 → zI → zL → Prop} (h : zCq T I R σ V) (hk : kd < 4) (g1 : (T ρ).1 = 11) (g2 : T (R ρ 0) = (100, 12)) (g3 : I ρ 1 = nI n) (hn : n ≤ 12) (hf : ∀ k, k < n → I (R ρ 0) k = nI (f k) ∧ f k ≤ 26) (d4 : ρ ≠ 1017) (d5 : R ρ 0 ≠ 1017)
    (hK : ∀ I' L', zE [1017] I I' → zE [1016] L L' → K (if srv V f n kd then 1 else 0) I' L') :
    zMet mX1_serves_2 5 0 [.ref 1000, .ref ρ, .ref (1030 + kd)] T I L R (zqI_IL T R K) := by
  have hx := h.1
  have hm : ∀ t, t < 2 → V 20 t 0 ≤ 12 ∧ ∀ i, i < V 20 t 0 → 0 < wln (V 21 t i) := fun t ht => ⟨(h.2.2.2.2.2.2.2.1 t ht).1, fun i hi => ((h.2.2.2.2.2.2.2.1 t ht).2 i hi).1.1⟩
  have step : ∀ t, t < 2 → ∀ I' L', zE [1017] I I' → zE [1016] L L' → (rdBest V t f n kd 0 = 0 → ∀ I' L', zE [1017] I I' → zE [1016] L L' → K 0 I' L') → (rdBest V t f n kd 0 ≠ 0 → ∀ I' L', zE [1017] I I' → zE [1016] L L' → ∀ y, y = nI (t + 1) → zAW mX1_serves_2 5 0 2 [(0, .ref 1000), (1, .ref ρ), (2, .ref (1030 + kd)), (3, .int y)] [] T I' L' R (zqI_IL T R K)) → ∀ x, x = nI t → zAW mX1_serves_2 5 0 2 [(0, .ref 1000), (1, .ref ρ), (2, .ref (1030 + kd)), (3, .int x)] [] T I' L' R (zqI_IL T R K) := by
    rintro t ht I' L' a1 a2 no yes x rfl
    have hq := h.e (zE_hi a1 (by decide))
    have hr1 := (zSL_now hx).2.2.2.2.2.2.1 t ht
    have e1 : I' ρ = I ρ := a1 _ (by simp [d4])
    have e2 : I' (R ρ 0) = I (R ρ 0) := a1 _ (by simp [d5])
    have hp := rd_pos (wo := V 22 t) (g := gMet f n (isR kd t)) (hm t ht).2 n (Nat.le_refl n) 0 (by omega) (Nat.zero_le n)
    have hlt := rdY_lt (ws := V 21 t) (g := gMet f n (isR kd t)) (a := 0) (hm t ht).1 hn
    have fin : ∀ r, r = (if isR kd t then 1 else 0) → zAW mX1_serves_2 5 0 23 [(0, .ref 1000), (1, .ref ρ), (2, .ref (1030 + kd)), (3, .int (nI t))] [.int r, .ref ρ, .ref (R 1201 ((nI t).toNatClampNeg)), .ref 1000] T I' L' R (zqI_IL T R K) := fun r hr => by
      refine gX1_serves_2_23 hx ⟨by rw [zX_t1000 hx], ?_⟩
      rw [nI_clamp (by omega), hr1.1]
      refine kX1_readAny (n := n) (f := f) (kd := kd) hq ht g1 g2 (by rw [e1]; exact g3) hn (fun k hk => by rw [e2]; exact hf k hk) hr d4 d5 (fun I2 L2 b1 b2 b3 => ⟨fun c => zqI_IL_i ?_, fun c => ?_⟩)
      · rw [(b3 0 (Nat.zero_le n)).1] at c
        exact no (hp.mp ((zL_0 hlt).mp c)) I2 L2 (zE_tr a1 b1) (zE_tr a2 b2)
      · rw [(b3 0 (Nat.zero_le n)).1] at c
        exact yes (fun q => c ((zL_0 hlt).mpr (hp.mpr q))) I2 L2 (zE_tr a1 b1) (zE_tr a2 b2) _ (nI_1 t)
    refine gX1_serves_2_2 hx ⟨fun c => ?_, fun _ => ⟨by simp (disch := omega) only [fa_lit, nI_add, zz_mul, zz_sub, nI_leI, nI_ltI, nI_eq, nI_clamp, zz_in, zz_m1, zz_m1e, zz_le_m1, zz_m1_le, zz_lt_m1, zz_m1_lt, zz_B0, zz_B1, zz_shr, zz_shl, zz_and31, Nat.mod_eq_of_lt, not_true_eq_false, not_false_eq_true, Nat.reduceAdd, Nat.reduceMul, Nat.reduceSub]; omega, kIsR (zK_t hx _ hk).2 hk ht fin fin fin fin⟩⟩
    exfalso
    (try simp (disch := omega) only [fa_lit, nI_add, zz_mul, zz_sub, nI_leI, nI_ltI, nI_eq, nI_clamp, zz_in, zz_m1, zz_m1e, zz_le_m1, zz_m1_le, zz_lt_m1, zz_m1_lt, zz_B0, zz_B1, zz_shr, zz_shl, zz_and31, Nat.mod_eq_of_lt, not_true_eq_false, not_false_eq_true, Nat.reduceAdd, Nat.reduceMul, Nat.reduceSub] at c) <;> (try omega)
  refine sX1_serves_2 (gX1_serves_2_0 hx (step 0 (by decide) I L zE_rf zE_rf (fun e I' L' a1 a2 => ?_) (fun e I' L' a1 a2 y hy => step 1 (by decide) I' L' a1 a2 (fun e2 I' L' a1 a2 => ?_) (fun e2 I' L' a1 a2 y hy => ?_) y hy) _ rfl))
  · have := hK I' L' a1 a2
    unfold srv at this
    rw [e] at this
    exact this
  · have := hK I' L' a1 a2
    unfold srv at this
    rw [e2, Bool.and_comm] at this
    exact this
  · subst hy
    refine gX1_serves_2_2 hx ⟨fun _ => zqI_IL_i ?_, fun c => absurd (by decide) c⟩
    have := hK I' L' a1 a2
    unfold srv at this
    rw [decide_eq_true e, decide_eq_true e2] at this
    exact this
def qWays (V : Nat → Nat → Nat → Nat) (x y : Int32) : Int64 := match idx x (V 5 0 0) with
  | none => -1
  | some s => match idx y 2 with
    | none => -1
    | some t => lN (rdWays V t (V 23 s) (V 6 s 2) (V 6 s 1) 0)
theorem kX1_ways {T : zT} {I : zI} {L : zL} {R : zR} {σ : Nat} {V : Nat → Nat → Nat → Nat} {x y : Int32} {K : Int64 → zI → zL → Prop} (h : zCq T I R σ V) (hK : ∀ I' L', zE [1017] I I' → zE [1016] L L' → K (qWays V x y) I' L') : zMet mX1_ways 6 0 [.ref 1000, .int x, .int y] T I L R (zqJ_IL T R K) := by
  have hn := h.2.2.2.2.2.1.1.1
  unfold qWays at hK
  refine sX1_ways (gX1_ways_0 h.1 (kX1_isSign h (fun s hs e => ⟨fun c => absurd c (by decide), fun _ => kX1_isTongue (fun t ht e2 => ⟨fun c => absurd c (by decide), fun _ => ?_⟩) (fun q => ⟨fun _ => zqJ_IL_i ?_, fun c => absurd rfl c⟩)⟩) (fun q => ⟨fun _ => zqJ_IL_i ?_, fun c => absurd rfl c⟩)))
  · simp only [idx_at hs (by omega) e, idx_at ht (by decide) e2] at hK
    subst e e2
    exact kX1_read h hs ht (fun I' L' a1 a2 a3 => zqJ_IL_i (by rw [(a3 0 (Nat.zero_le _)).1]; exact hK I' L' a1 a2))
  · simp only [idx_at hs (by omega) e, idx_no q] at hK
    exact hK I L zE_rf zE_rf
  · simp only [idx_no q] at hK
    exact hK I L zE_rf zE_rf
def qWorth (V : Nat → Nat → Nat → Nat) (x y : Int32) : Int32 := match idx x (V 5 0 0) with
  | none => -1
  | some s => match idx y 2 with
    | none => -1
    | some t => if rdBest V t (V 23 s) (V 6 s 2) (V 6 s 1) 0 = 0 then -2 else nI (rdBest V t (V 23 s) (V 6 s 2) (V 6 s 1) 0) - 1
theorem rdBest_le {V : Nat → Nat → Nat → Nat} {t n kd q : Nat} {f : Nat → Nat} (hSw : zSw V 20) (ht : t < 2) (hq : q ≤ n) : rdBest V t f n kd q ≤ 99 * n + 1 := by
  have := rdZ_le (g := gMet f n (isR kd t)) (ws := V 21 t) (wo := V 22 t) (m := V 20 t 0) (fun i hi => ⟨((hSw.1 t ht).2 i hi).2, ((hSw.1 t ht).2 i hi).1.1⟩) n (Nat.le_refl n) q (by omega) hq
  unfold rdBest
  omega
theorem kX1_worth {T : zT} {I : zI} {L : zL} {R : zR} {σ : Nat} {V : Nat → Nat → Nat → Nat} {x y : Int32} {K : Int32 → zI → zL → Prop} (h : zCq T I R σ V) (hK : ∀ I' L', zE [1017] I I' → zE [1016] L L' → K (qWorth V x y) I' L') : zMet mX1_worth 6 0 [.ref 1000, .int x, .int y] T I L R (zqI_IL T R K) := by
  have hn := h.2.2.2.2.2.1.1.1
  have hSw := h.2.2.2.2.2.2.2
  unfold qWorth at hK
  refine sX1_worth (gX1_worth_0 h.1 (kX1_isSign h (fun s hs e => ⟨fun c => absurd c (by decide), fun _ => kX1_isTongue (fun t ht e2 => ⟨fun c => absurd c (by decide), fun _ => ?_⟩) (fun q => ⟨fun _ => zqI_IL_i ?_, fun c => absurd rfl c⟩)⟩) (fun q => ⟨fun _ => zqI_IL_i ?_, fun c => absurd rfl c⟩)))
  · simp only [idx_at hs (by omega) e, idx_at ht (by decide) e2] at hK
    subst e e2
    have hl := h.2.2.2.2.2.1.1.2 s hs
    have hb := rdBest_le (f := V 23 s) (kd := V 6 s 1) hSw ht (Nat.zero_le (V 6 s 2))
    refine kX1_read h hs ht (fun I' L' a1 a2 a3 => ?_)
    rw [(a3 0 (Nat.zero_le _)).2]
    have := hK I' L' a1 a2
    refine ⟨fun c => zqI_IL_i ?_, fun c => zqI_IL_i ?_⟩
    · rw [if_pos ((nM_m1 (by omega)).mp c)] at this
      exact this
    · rw [if_neg (fun q => c ((nM_m1 (by omega)).mpr q))] at this
      exact this
  · simp only [idx_at hs (by omega) e, idx_no q] at hK
    exact hK I L zE_rf zE_rf
  · simp only [idx_no q] at hK
    exact hK I L zE_rf zE_rf
/-- whether a sign is said on a day -/
def sayB (V : Nat → Nat → Nat → Nat) (s t d : Nat) : Bool := decide (rdBest V t (V 23 s) (V 6 s 2) (V 6 s 1) 0 ≠ 0) && !fCov (fun k => V 8 k 0) (fun k => V 8 k 1) (V 5 0 2) (nI t) (nI d)
theorem kX1_isSaid {T : zT} {I : zI} {L : zL} {R : zR} {σ s t d : Nat} {V : Nat → Nat → Nat → Nat} {K : Int32 → zI → zL → Prop} (h : zCq T I R σ V) (hs : s < V 5 0 0) (ht : t < 2) (hK : ∀ I' L', zE [1017] I I' → zE [1016] L L' → K (if sayB V s t d then 1 else 0) I' L') : zMet mX1_isSaid 6 0 [.ref 1000, .int (nI s), .int (nI t), .int (nI d)] T I L R (zqI_IL T R K) := by
  have hSw := h.2.2.2.2.2.2.2
  have hl := h.2.2.2.2.2.1.1.2 s hs
  have hp := rd_pos (wo := V 22 t) (ws := V 21 t) (m := V 20 t 0) (g := gMet (V 23 s) (V 6 s 2) (isR (V 6 s 1) t)) (fun i hi => ((hSw.1 t ht).2 i hi).1.1) (V 6 s 2) (Nat.le_refl _) 0 (by omega) (Nat.zero_le _)
  have hlt := rdY_lt (ws := V 21 t) (g := gMet (V 23 s) (V 6 s 2) (isR (V 6 s 1) t)) (a := 0) (hSw.1 t ht).1 hl.2.2.2
  refine sX1_isSaid (gX1_isSaid_0 h.1 (kX1_read h hs ht (fun I' L' a1 a2 a3 => ?_)))
  have hq := h.e (zE_hi a1 (by decide))
  obtain ⟨hx, hσ, hσ2, hTL, hTv, hTw, hSv, -⟩ := hq
  have g2 : T σ = (3, 0) := hTL.1.t 0 rfl
  have g3 : R σ 9 = σ + 16 := hTL.1.r 9 rfl
  have g4 : R σ 10 = σ + 17 := hTL.1.r 10 rfl
  have g5 : T (σ + 16) = (100, 6) := hTL.1.t 16 rfl
  have g6 : T (σ + 17) = (100, 6) := hTL.1.t 17 rfl
  have hk := hK I' L' a1 a2
  unfold sayB at hk
  rw [(a3 0 (Nat.zero_le _)).1]
  refine ⟨fun c => zqI_IL_i ?_, fun c => ⟨by rw [hσ, g2], kX3_isCovered (fd := fun k => V 8 k 0) (ft := fun k => V 8 k 1) (n := V 5 0 2) (by rw [hσ, g2]) (by rw [hσ, g3, g5]) (by rw [hσ, g4, g6]) (by rw [hσ]; exact hTv.2.2.1.1) hTw.2.2.1.1 (fun k hk2 => by rw [hσ, g3, g4]; exact hTv.2.2.1.2 k hk2) ⟨fun c2 => zqI_IL_i ?_, fun c2 => zqI_IL_i ?_⟩⟩⟩
  · have e : rdBest V t (V 23 s) (V 6 s 2) (V 6 s 1) 0 = 0 := hp.mp (Classical.byContradiction fun q => by
      have := (zL_pos hlt).mpr q
      rw [fa_lt64] at this
      rw [fa_le64] at c
      unfold rdWays at c
      omega)
    rw [e] at hk
    exact hk
  · have e : rdBest V t (V 23 s) (V 6 s 2) (V 6 s 1) 0 ≠ 0 := fun q => c (by
      unfold rdWays
      rw [hp.mpr q]
      decide)
    cases hc : fCov (fun k => V 8 k 0) (fun k => V 8 k 1) (V 5 0 2) (nI t) (nI d)
    · rw [hc, decide_eq_true e] at hk
      exact hk
    · rw [hc] at c2
      exact absurd c2 (by decide)
  · cases hc : fCov (fun k => V 8 k 0) (fun k => V 8 k 1) (V 5 0 2) (nI t) (nI d)
    · rw [hc] at c2
      exact absurd rfl c2
    · rw [hc, Bool.not_true, Bool.and_false] at hk
      exact hk
def qSays (V : Nat → Nat → Nat → Nat) (x y z : Int32) : Int32 := match idx x (V 5 0 0) with
  | none => -1
  | some s => match idx y 2 with
    | none => -1
    | some t => match idx z 1000 with
      | none => -1
      | some d => if sayB V s t d then 1 else 0
theorem kX1_says {T : zT} {I : zI} {L : zL} {R : zR} {σ : Nat} {V : Nat → Nat → Nat → Nat} {x y z : Int32} {K : Int32 → zI → zL → Prop} (h : zCq T I R σ V) (hK : ∀ I' L', zE [1017] I I' → zE [1016] L L' → K (qSays V x y z) I' L') : zMet mX1_says 7 0 [.ref 1000, .int x, .int y, .int z] T I L R (zqI_IL T R K) := by
  have hn := h.2.2.2.2.2.1.1.1
  unfold qSays at hK
  refine sX1_says (gX1_says_0 h.1 (kX1_isSign h (fun s hs e => ⟨fun c => absurd c (by decide), fun _ => kX1_isTongue (fun t ht e2 => ⟨fun c => absurd c (by decide), fun _ => kX1_isDay (fun d hd e3 => ⟨fun c => absurd c (by decide), fun _ => ?_⟩) (fun q => ⟨fun _ => zqI_IL_i ?_, fun c => absurd rfl c⟩)⟩) (fun q => ⟨fun _ => zqI_IL_i ?_, fun c => absurd rfl c⟩)⟩) (fun q => ⟨fun _ => zqI_IL_i ?_, fun c => absurd rfl c⟩)))
  · simp only [idx_at hs (by omega) e, idx_at ht (by decide) e2, idx_at hd (by decide) e3] at hK
    subst e e2 e3
    refine kX1_isSaid h hs ht (fun I' L' a1 a2 => ⟨fun c => zqI_IL_i ?_, fun c => zqI_IL_i ?_⟩)
    · have := hK I' L' a1 a2
      rw [c] at this
      exact this
    · have := hK I' L' a1 a2
      cases hb : sayB V s t d
      · rw [hb] at c
        exact absurd rfl c
      · rw [hb] at this
        exact this
  · simp only [idx_at hs (by omega) e, idx_at ht (by decide) e2, idx_no q] at hK
    exact hK I L zE_rf zE_rf
  · simp only [idx_at hs (by omega) e, idx_no q] at hK
    exact hK I L zE_rf zE_rf
  · simp only [idx_no q] at hK
    exact hK I L zE_rf zE_rf
