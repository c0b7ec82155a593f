/-! NEW OBJECTS: stores, rows, states -/
/-- nothing but ks has changed -/
def zA (ks : List Nat) (T : zT) (I : zI) (L : zL) (R : zR) (T' : zT) (I' : zI) (L' : zL) (R' : zR) : Prop := ∀ e, e ∉ ks → T' e = T e ∧ I' e = I e ∧ L' e = L e ∧ R' e = R e
theorem zA.rf {ks : List Nat} {T : zT} {I : zI} {L : zL} {R : zR} : zA ks T I L R T I L R := fun _ _ => ⟨rfl, rfl, rfl, rfl⟩
theorem zA.tr {ks : List Nat} {T T' T2 : zT} {I I' I2 : zI} {L L' L2 : zL} {R R' R2 : zR} (h : zA ks T I L R T' I' L' R') (h2 : zA ks T' I' L' R' T2 I2 L2 R2) : zA ks T I L R T2 I2 L2 R2 := fun e he => by
  have a := h e he
  have b := h2 e he
  exact ⟨b.1.trans a.1, b.2.1.trans a.2.1, b.2.2.1.trans a.2.2.1, b.2.2.2.trans a.2.2.2⟩
theorem zA.sub {ks ks' : List Nat} {T T' : zT} {I I' : zI} {L L' : zL} {R R' : zR} (h : zA ks T I L R T' I' L' R') (hs : ∀ x ∈ ks, x ∈ ks') : zA ks' T I L R T' I' L' R' := fun e he => h e (fun q => he (hs e q))
theorem zA.new {ks : List Nat} {T : zT} {I : zI} {L : zL} {R : zR} {κ : Nat} {x : Nat × Nat} (hk : κ ∈ ks) : zA ks T I L R (z1 T κ x) (z1 I κ fun _ => 0) (z1 L κ fun _ => 0) (z1 R κ fun _ => 0) := fun e he => by
  have h : e ≠ κ := fun q => he (by rw [q]; exact hk)
  rw [z1_n h, z1_n h, z1_n h, z1_n h]
  exact ⟨rfl, rfl, rfl, rfl⟩
theorem zA.wr {ks : List Nat} {T T' : zT} {I I' : zI} {L L' : zL} {R R' : zR} {a k v : Nat} (h : zA ks T I L R T' I' L' R') (hk : a ∈ ks) : zA ks T I L R T' I' L' (z2 R' a k v) := fun e he => by
  have g : e ≠ a := fun q => he (by rw [q]; exact hk)
  rw [z2_ro g]
  exact h e he
theorem kX4_init {T : zT} {I : zI} {L : zL} {R : zR} {κ q1 q2 b : Nat} {K : zT → zI → zL → zR → Prop} (h1 : (T κ).1 = 4) (g1 : 100 ≤ q1 ∧ (T q1).1 = 0) (g2 : 100 ≤ q2 ∧ (T q2).1 = 0) (d : q1 ≠ q2) (hb : 26 ≤ b)
    (hK : ∀ T' I' L' R', zA [κ, q1, q2] T I L R T' I' L' R' → T' κ = T κ → T' q1 = (100, 12) → T' q2 = (100, 12) → R' κ 0 = q1 → R' κ 1 = q2 → I' κ = I κ → K T' I' L' R') : zMet mX4_init 1 b [.ref κ] T I L R (zqV_TILR K) := by
  have e1 : κ ≠ q1 := fun q => by rw [← q, h1] at g1; exact absurd g1.2 (by decide)
  have e2 : κ ≠ q2 := fun q => by rw [← q, h1] at g2; exact absurd g2.2 (by decide)
  refine sX4_init (gX4_init_0 ⟨h1, q1, g1.1, g1.2, by omega, q2, g2.1, by rw [z1_n (Ne.symm d)]; exact g2.2, by omega, zqV_TILR_i (hK _ _ _ _ (fun e he => ?_) ?_ ?_ z1_s ?_ z2_s ?_)⟩)
  · simp only [List.mem_cons, List.not_mem_nil, or_false, not_or] at he
    rw [z1_n he.2.2, z1_n he.2.1, z1_n he.2.2, z1_n he.2.1, z1_n he.2.2, z1_n he.2.1, z2_ro he.1, z1_n he.2.2, z2_ro he.1, z1_n he.2.1]
    exact ⟨rfl, rfl, rfl, rfl⟩
  · rw [z1_n e2, z1_n e1]
  · rw [z1_n d, z1_s]
  · rw [z2_nk (by decide), z1_n e2, z2_s]
  · rw [z1_n e2, z1_n e1]
theorem kX11_init {T : zT} {I : zI} {L : zL} {R : zR} {κ q b : Nat} {K : zT → zI → zL → zR → Prop} (h1 : (T κ).1 = 11) (g1 : 100 ≤ q ∧ (T q).1 = 0) (hb : 13 ≤ b)
    (hK : ∀ T' I' L' R', zA [κ, q] T I L R T' I' L' R' → T' κ = T κ → T' q = (100, 12) → R' κ 0 = q → I' κ = I κ → K T' I' L' R') : zMet mX11_init 1 b [.ref κ] T I L R (zqV_TILR K) := by
  have e1 : κ ≠ q := fun e => by rw [← e, h1] at g1; exact absurd g1.2 (by decide)
  refine sX11_init (gX11_init_0 ⟨h1, q, g1.1, g1.2, by omega, zqV_TILR_i (hK _ _ _ _ (fun e he => ?_) ?_ z1_s z2_s ?_)⟩)
  · simp only [List.mem_cons, List.not_mem_nil, or_false, not_or] at he
    rw [z1_n he.2, z1_n he.2, z1_n he.2, z2_ro he.1, z1_n he.2]
    exact ⟨rfl, rfl, rfl, rfl⟩
  · rw [z1_n e1]
  · rw [z1_n e1]
/-- only keys from a to below b have changed -/
def zAr (a b : Nat) (T : zT) (I : zI) (L : zL) (R : zR) (T' : zT) (I' : zI) (L' : zL) (R' : zR) : Prop := ∀ e, e < a ∨ b ≤ e → T' e = T e ∧ I' e = I e ∧ L' e = L e ∧ R' e = R e
theorem zAr.of {a b : Nat} {ks : List Nat} {T T' : zT} {I I' : zI} {L L' : zL} {R R' : zR} (h : zA ks T I L R T' I' L' R') (hk : ∀ x ∈ ks, a ≤ x ∧ x < b) : zAr a b T I L R T' I' L' R' := fun e he => h e (fun q => by have := hk e q; omega)
theorem zAr.tr {a b : Nat} {T T' T2 : zT} {I I' I2 : zI} {L L' L2 : zL} {R R' R2 : zR} (h : zAr a b T I L R T' I' L' R') (h2 : zAr a b T' I' L' R' T2 I2 L2 R2) : zAr a b T I L R T2 I2 L2 R2 := fun e he => by
  have x := h e he
  have y := h2 e he
  exact ⟨y.1.trans x.1, y.2.1.trans x.2.1, y.2.2.1.trans x.2.2.1, y.2.2.2.trans x.2.2.2⟩
theorem zAr.new {a b κ : Nat} {T T' : zT} {I I' : zI} {L L' : zL} {R R' : zR} {x : Nat × Nat} (h : zAr a b T I L R T' I' L' R') (hk : a ≤ κ ∧ κ < b) : zAr a b T I L R (z1 T' κ x) (z1 I' κ fun _ => 0) (z1 L' κ fun _ => 0) (z1 R' κ fun _ => 0) := fun e he => by
  have g : e ≠ κ := by omega
  rw [z1_n g, z1_n g, z1_n g, z1_n g]
  exact h e he
theorem zAr.wr {a b κ k v : Nat} {T T' : zT} {I I' : zI} {L L' : zL} {R R' : zR} (h : zAr a b T I L R T' I' L' R') (hk : a ≤ κ ∧ κ < b) : zAr a b T I L R T' I' L' (z2 R' κ k v) := fun e he => by
  rw [z2_ro (by omega)]
  exact h e he
/-- one more row for a State: the row, its letters -/
theorem kRowAt {T : zT} {I : zI} {L : zL} {R : zR} {κ b : Nat} {K : zT → zI → zL → zR → Prop} (g0 : (T κ).1 = 0) (g1 : (T (κ + 1)).1 = 0) (hκ : 100 ≤ κ) (hb : 13 ≤ b)
    (hK : ∀ T' I' L' R', zAr κ (κ + 2) T I L R T' I' L' R' → T' κ = (11, 0) → T' (κ + 1) = (100, 12) → R' κ 0 = κ + 1 → K T' I' L' R') : zMet mX11_init 1 b [.ref κ] (z1 T κ (11, 0)) (z1 I κ fun _ => 0) (z1 L κ fun _ => 0) (z1 R κ fun _ => 0) (zqV_TILR K) :=
  kX11_init (q := κ + 1) (by rw [z1_s]) ⟨by omega, by rw [z1_n (by omega)]; exact g1⟩ hb (fun T' I' L' R' a1 a2 a3 a4 _ => hK T' I' L' R' (((zAr.of (a := κ) (b := κ + 2) (ks := [κ]) zA.rf (by simp)).new (by omega)).tr (zAr.of a1 (by simp))) (by rw [a2, z1_s]) a3 a4)
theorem kStoAt {T : zT} {I : zI} {L : zL} {R : zR} {κ b : Nat} {K : zT → zI → zL → zR → Prop} (g0 : (T κ).1 = 0) (g1 : (T (κ + 1)).1 = 0) (g2 : (T (κ + 2)).1 = 0) (hκ : 100 ≤ κ) (hb : 26 ≤ b)
    (hK : ∀ T' I' L' R', zAr κ (κ + 3) T I L R T' I' L' R' → T' κ = (4, 0) → T' (κ + 1) = (100, 12) → T' (κ + 2) = (100, 12) → R' κ 0 = κ + 1 → R' κ 1 = κ + 2 → I' κ 2 = 0 → K T' I' L' R') : zMet mX4_init 1 b [.ref κ] (z1 T κ (4, 0)) (z1 I κ fun _ => 0) (z1 L κ fun _ => 0) (z1 R κ fun _ => 0) (zqV_TILR K) :=
  kX4_init (q1 := κ + 1) (q2 := κ + 2) (by rw [z1_s]) ⟨by omega, by rw [z1_n (by omega)]; exact g1⟩ ⟨by omega, by rw [z1_n (by omega)]; exact g2⟩ (by omega) hb (fun T' I' L' R' a1 a2 a3 a4 a5 a6 a7 => hK T' I' L' R' (((zAr.of (a := κ) (b := κ + 3) (ks := [κ]) zA.rf (by simp)).new (by omega)).tr (zAr.of a1 (by simp))) (by rw [a2, z1_s]) a3 a4 a5 a6 (by rw [a7, z1_s]))
