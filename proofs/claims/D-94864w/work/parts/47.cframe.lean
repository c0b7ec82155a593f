/-! THE CLASS behind a kept State: what else stands -/
theorem zSv.of {I I' : zI} {B b : Nat} {V : Nat → Nat → Nat → Nat} (hn : V 5 0 0 ≤ 6) (h : zSv I B V b) (e : ∀ k, B ≤ k → k < B + 22 → I' k = I k) : zSv I' B V b := by
  refine ⟨fun t ht => ?_, fun s hs => ?_, ?_, ?_⟩
  · rw [e (B + 3 + 3 * t) (by omega) (by omega), e (B + 4 + 3 * t) (by omega) (by omega), e (B + 5 + 3 * t) (by omega) (by omega)]
    exact h.1 t ht
  · rw [e (B + 10 + 2 * s) (by omega) (by omega), e (B + 11 + 2 * s) (by omega) (by omega)]
    exact h.2.1 s hs
  · rw [e B (by omega) (by omega)]
    exact h.2.2.1
  · rw [e B (by omega) (by omega)]
    exact h.2.2.2
theorem zTL.of {T T' : zT} {R R' : zR} {σ n m : Nat} (h : zTL T R σ n m) (ht : ∀ e, σ ≤ e → T' e = T e) (hr : ∀ e, σ ≤ e → R' e = R e) : zTL T' R' σ n m := by
  refine ⟨⟨fun q hq => by rw [hr _ (by omega)]; exact h.1.1 q hq, fun q hq => by rw [ht _ (by omega)]; exact h.1.2 q hq⟩, fun s hs => ?_, fun s hs => ?_⟩
  · rw [hr (σ + 8) (by omega), ht (σ + 100 + 4 * s) (by omega), hr (σ + 100 + 4 * s) (by omega), ht (σ + 101 + 4 * s) (by omega), hr (σ + 101 + 4 * s) (by omega), ht (σ + 102 + 4 * s) (by omega)]
    exact h.2.1 s hs
  · rw [hr (σ + 10) (by omega), ht (σ + 200 + 2 * s) (by omega), hr (σ + 200 + 2 * s) (by omega), ht (σ + 201 + 2 * s) (by omega)]
    exact h.2.2 s hs
theorem zTv.of {I I' : zI} {σ : Nat} {V : Nat → Nat → Nat → Nat} (h : zTv I σ V) (e : ∀ k, σ ≤ k → I' k = I k) : zTv I' σ V := by
  unfold zTv at h ⊢
  simpa (disch := omega) only [e] using h
theorem zCq.fr {T T' : zT} {I I' : zI} {R R' : zR} {σ : Nat} {V : Nat → Nat → Nat → Nat} (h : zCq T I R σ V) (fr : ∀ e, e < 5000 ∨ 6000 ≤ e → T' e = T e ∧ (e ≠ 1000 → I' e = I e) ∧ (e ≠ 1013 → R' e = R e)) : zCq T' I' R' σ V := by
  obtain ⟨hx, hσ, hσ2, hTL, hTv, hTw, hSv, hSw⟩ := h
  refine ⟨zXok_of hx (fun e he => (fr e (by omega)).1) (fun e he h9 => (fr e (by omega)).2.2 h9), by rw [(fr 1000 (by omega)).2.2 (by decide)]; exact hσ, hσ2, hTL.of (fun e he => (fr e (by omega)).1) (fun e he => (fr e (by omega)).2.2 (by omega)), hTv.of (fun e he => (fr e (by omega)).2.1 (by omega)), hTw, hSv.of hTw.1.1 (fun k g1 g2 => (fr k (by omega)).2.1 (by omega)), hSw⟩
