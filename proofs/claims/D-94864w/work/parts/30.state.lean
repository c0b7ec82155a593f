/-! THE STATE: V f i j, all naturals. 20.. the street as it is (30.. its image, 40 + 10 i .. the i-th kept): f t 0 words of a tongue, f+1 t i letters, f+2 t i worth, f+3 s k letters of signs, f+4 0 0 day, f+4 0 1 purse.
5 0: signs, corners, feasts, mays, knots, law; 6 s: name, kind, length; 7 c: corner; 8 f: feast; 9 m 0, 10 m k: mays; 11 c 0: iron; 12 i: knots; 13 0: number, taped, fault, its place + 1, kept, image, its number; 14 0 k: the tape -/
/-- a word's letters, packed -/
def wdok (w : Nat) : Prop := 0 < wln w ∧ w < 2 ^ 30 ∧ ∀ k, k < 6 → ltr w k ≤ 26 ∧ (wln w ≤ k → ltr w k = 0)
def zSw (V : Nat → Nat → Nat → Nat) (b : Nat) : Prop :=
  (∀ t, t < 2 → V b t 0 ≤ 12 ∧ ∀ i, i < V b t 0 → wdok (V (b + 1) t i) ∧ V (b + 2) t i ≤ 99) ∧ (∀ s, s < V 5 0 0 → ∀ k, k < V 6 s 2 → V (b + 3) s k ≤ 26) ∧ V (b + 4) 0 0 ≤ 999 ∧ V (b + 4) 0 1 ≤ 9999
def zTw (V : Nat → Nat → Nat → Nat) : Prop :=
  (V 5 0 0 ≤ 6 ∧ ∀ s, s < V 5 0 0 → V 6 s 0 < 2 ^ 30 ∧ V 6 s 1 < 4 ∧ 1 ≤ V 6 s 2 ∧ V 6 s 2 ≤ 12) ∧
  (V 5 0 1 ≤ 6 ∧ ∀ c, c < V 5 0 1 → V 7 c 0 < V 5 0 0 ∧ V 7 c 1 < V 6 (V 7 c 0) 2 ∧ V 7 c 2 < V 5 0 0 ∧ V 7 c 3 < V 6 (V 7 c 2) 2) ∧
  (V 5 0 2 ≤ 6 ∧ ∀ f, f < V 5 0 2 → V 8 f 0 < 100 ∧ V 8 f 1 < 2) ∧
  (V 5 0 3 ≤ 6 ∧ ∀ m, m < V 5 0 3 → 1 ≤ V 9 m 0 ∧ V 9 m 0 ≤ 12 ∧ ∀ k, k < V 9 m 0 → 1 ≤ V 10 m k ∧ V 10 m k ≤ 26) ∧
  (V 11 0 0 = 0 ∧ ∀ c, c ≤ 26 → V 11 c 0 ≤ 99) ∧ V 5 0 4 ≤ 64 ∧ (V 5 0 5 = 0 ∨ V 5 0 5 = 1)
/-! ===== the class ===== -/
/-- a State's objects at B -/
def zSL (T : zT) (R : zR) (B : Nat) : Prop := T B = (10, 0) ∧ R B 0 = B + 1 ∧ R B 1 = B + 2 ∧ R B 4 = 1000 ∧ T (B + 1) = (104, 2) ∧ T (B + 2) = (105, 6) ∧
  (∀ t, t < 2 → R (B + 1) t = B + 3 + 3 * t ∧ T (B + 3 + 3 * t) = (4, 0) ∧ R (B + 3 + 3 * t) 0 = B + 4 + 3 * t ∧ R (B + 3 + 3 * t) 1 = B + 5 + 3 * t ∧ T (B + 4 + 3 * t) = (100, 12) ∧ T (B + 5 + 3 * t) = (100, 12)) ∧
  ∀ s, s < 6 → R (B + 2) s = B + 10 + 2 * s ∧ T (B + 10 + 2 * s) = (11, 0) ∧ R (B + 10 + 2 * s) 0 = B + 11 + 2 * s ∧ T (B + 11 + 2 * s) = (100, 12)
theorem zfor2 {p : Nat → Prop} (h0 : p 0) (h1 : p 1) : ∀ t, t < 2 → p t := fun t h => by
  match t, h with
  | 0, _ => exact h0
  | 1, _ => exact h1
theorem zfor6 {p : Nat → Prop} (h0 : p 0) (h1 : p 1) (h2 : p 2) (h3 : p 3) (h4 : p 4) (h5 : p 5) : ∀ t, t < 6 → p t := fun t h => by
  match t, h with
  | 0, _ => exact h0
  | 1, _ => exact h1
  | 2, _ => exact h2
  | 3, _ => exact h3
  | 4, _ => exact h4
  | 5, _ => exact h5
theorem zSL_now {T : zT} {R : zR} (h : zXok T R) : zSL T R 1200 :=
  ⟨zX_t1200 h, zX_r1200_0 h, zX_r1200_1 h, zX_r1200_4 h, zX_t1201 h, zX_t1202 h, zfor2 ⟨zX_r1201_0 h, zX_t1203 h, zX_r1203_0 h, zX_r1203_1 h, zX_t1204 h, zX_t1205 h⟩ ⟨zX_r1201_1 h, zX_t1206 h, zX_r1206_0 h, zX_r1206_1 h, zX_t1207 h, zX_t1208 h⟩,
    zfor6 ⟨zX_r1202_0 h, zX_t1210 h, zX_r1210_0 h, zX_t1211 h⟩ ⟨zX_r1202_1 h, zX_t1212 h, zX_r1212_0 h, zX_t1213 h⟩ ⟨zX_r1202_2 h, zX_t1214 h, zX_r1214_0 h, zX_t1215 h⟩ ⟨zX_r1202_3 h, zX_t1216 h, zX_r1216_0 h, zX_t1217 h⟩ ⟨zX_r1202_4 h, zX_t1218 h, zX_r1218_0 h, zX_t1219 h⟩ ⟨zX_r1202_5 h, zX_t1220 h, zX_r1220_0 h, zX_t1221 h⟩⟩
theorem zSL_img {T : zT} {R : zR} (h : zXok T R) : zSL T R 1230 :=
  ⟨zX_t1230 h, zX_r1230_0 h, zX_r1230_1 h, zX_r1230_4 h, zX_t1231 h, zX_t1232 h, zfor2 ⟨zX_r1231_0 h, zX_t1233 h, zX_r1233_0 h, zX_r1233_1 h, zX_t1234 h, zX_t1235 h⟩ ⟨zX_r1231_1 h, zX_t1236 h, zX_r1236_0 h, zX_r1236_1 h, zX_t1237 h, zX_t1238 h⟩,
    zfor6 ⟨zX_r1232_0 h, zX_t1240 h, zX_r1240_0 h, zX_t1241 h⟩ ⟨zX_r1232_1 h, zX_t1242 h, zX_r1242_0 h, zX_t1243 h⟩ ⟨zX_r1232_2 h, zX_t1244 h, zX_r1244_0 h, zX_t1245 h⟩ ⟨zX_r1232_3 h, zX_t1246 h, zX_r1246_0 h, zX_t1247 h⟩ ⟨zX_r1232_4 h, zX_t1248 h, zX_r1248_0 h, zX_t1249 h⟩ ⟨zX_r1232_5 h, zX_t1250 h, zX_r1250_0 h, zX_t1251 h⟩⟩
/-- .. and what they hold: the block b of V -/
def zSv (I : zI) (B : Nat) (V : Nat → Nat → Nat → Nat) (b : Nat) : Prop :=
  (∀ t, t < 2 → I (B + 3 + 3 * t) 2 = nI (V b t 0) ∧ ∀ i, i < V b t 0 → I (B + 4 + 3 * t) i = nI (V (b + 1) t i) ∧ I (B + 5 + 3 * t) i = nI (V (b + 2) t i)) ∧
  (∀ s, s < V 5 0 0 → I (B + 10 + 2 * s) 1 = nI (V 6 s 2) ∧ ∀ k, k < V 6 s 2 → I (B + 11 + 2 * s) k = nI (V (b + 3) s k)) ∧ I B 2 = nI (V (b + 4) 0 0) ∧ I B 3 = nI (V (b + 4) 0 1)
/-- a Street's own objects at σ -/
def zTF : List (Nat × Nat × Nat) := [(0, 0, 1), (0, 1, 4), (0, 2, 7), (0, 3, 9), (0, 4, 11), (0, 5, 12), (0, 6, 13), (0, 7, 14), (0, 8, 15), (0, 9, 16), (0, 10, 17), (1, 0, 2), (1, 1, 3), (4, 0, 5), (4, 1, 6), (7, 1, 8), (9, 1, 10)]
def zTT : List (Nat × Nat × Nat) := [(0, 3, 0), (1, 4, 0), (2, 100, 12), (3, 100, 12), (4, 4, 0), (5, 100, 12), (6, 100, 12), (7, 5, 0), (8, 109, 6), (9, 5, 0), (10, 109, 6), (11, 100, 6), (12, 100, 6), (13, 100, 6), (14, 100, 6), (15, 100, 27), (16, 100, 6), (17, 100, 6)]
def zTL0 (T : zT) (R : zR) (σ : Nat) : Prop := (∀ q ∈ zTF, R (σ + q.1) q.2.1 = σ + q.2.2) ∧ ∀ q ∈ zTT, T (σ + q.1) = (q.2.1, q.2.2)
theorem zTL0.r {T : zT} {R : zR} {σ : Nat} (h : zTL0 T R σ) (i : Nat) {q : Nat × Nat × Nat} (e : zTF[i]? = some q) : R (σ + q.1) q.2.1 = σ + q.2.2 := h.1 q (List.mem_of_getElem? e)
theorem zTL0.t {T : zT} {R : zR} {σ : Nat} (h : zTL0 T R σ) (i : Nat) {q : Nat × Nat × Nat} (e : zTT[i]? = some q) : T (σ + q.1) = (q.2.1, q.2.2) := h.2 q (List.mem_of_getElem? e)
/-- .. with n signs and m mays -/
def zTL (T : zT) (R : zR) (σ n m : Nat) : Prop := zTL0 T R σ ∧
  (∀ s, s < n → R (σ + 8) s = σ + 100 + 4 * s ∧ T (σ + 100 + 4 * s) = (15, 0) ∧ R (σ + 100 + 4 * s) 2 = σ + 101 + 4 * s ∧ T (σ + 101 + 4 * s) = (11, 0) ∧ R (σ + 101 + 4 * s) 0 = σ + 102 + 4 * s ∧ T (σ + 102 + 4 * s) = (100, 12)) ∧
  ∀ s, s < m → R (σ + 10) s = σ + 200 + 2 * s ∧ T (σ + 200 + 2 * s) = (11, 0) ∧ R (σ + 200 + 2 * s) 0 = σ + 201 + 2 * s ∧ T (σ + 201 + 2 * s) = (100, 12)
/-- what a Street holds -/
def zTv (I : zI) (σ : Nat) (V : Nat → Nat → Nat → Nat) : Prop :=
  (I (σ + 7) 2 = nI (V 5 0 0) ∧ ∀ s, s < V 5 0 0 → I (σ + 100 + 4 * s) 0 = nI (V 6 s 0) ∧ I (σ + 100 + 4 * s) 1 = nI (V 6 s 1)) ∧
  (I σ 12 = nI (V 5 0 1) ∧ ∀ c, c < V 5 0 1 → I (σ + 11) c = nI (V 7 c 0) ∧ I (σ + 12) c = nI (V 7 c 1) ∧ I (σ + 13) c = nI (V 7 c 2) ∧ I (σ + 14) c = nI (V 7 c 3)) ∧
  (I σ 13 = nI (V 5 0 2) ∧ ∀ f, f < V 5 0 2 → I (σ + 16) f = nI (V 8 f 0) ∧ I (σ + 17) f = nI (V 8 f 1)) ∧
  (I (σ + 9) 2 = nI (V 5 0 3) ∧ ∀ m, m < V 5 0 3 → I (σ + 200 + 2 * m) 1 = nI (V 9 m 0) ∧ ∀ k, k < V 9 m 0 → I (σ + 201 + 2 * m) k = nI (V 10 m k)) ∧
  (∀ c, c ≤ 26 → I (σ + 15) c = nI (V 11 c 0)) ∧ I σ 16 = nI (V 5 0 4)
/-- what the class's queries look at -/
def zCq (T : zT) (I : zI) (R : zR) (σ : Nat) (V : Nat → Nat → Nat → Nat) : Prop :=
  zXok T R ∧ R 1000 8 = σ ∧ 10000 ≤ σ ∧ zTL T R σ (V 5 0 0) (V 5 0 3) ∧ zTv I σ V ∧ zTw V ∧ zSv I 1200 V 20 ∧ zSw V 20
theorem kX1_in {T : zT} {I : zI} {L : zL} {R : zR} {v lo hi : Int64} {K : Int32 → Prop} (hK : K (if lo ≤ v ∧ v ≤ hi then 1 else 0)) : zMet mX1_in 1 0 [.long v, .long lo, .long hi] T I L R (zqI_ T I L R K) := by
  refine sX1_in (gX1_in_0 ⟨fun c => zqI__i ?_, fun c => ⟨fun c2 => zqI__i ?_, fun c2 => zqI__i ?_⟩⟩)
  · rw [if_neg (fun q => by rw [fa_le64] at q; rw [fa_lt64] at c; omega)] at hK
    exact hK
  · rw [if_neg (fun q => by rw [fa_le64, fa_le64] at q; rw [fa_lt64] at c2; omega)] at hK
    exact hK
  · rw [if_pos (by rw [fa_le64, fa_le64]; rw [fa_lt64] at c c2; omega)] at hK
    exact hK
/-- an int between naturals -/
theorem zz_mid {x : Int32} {a b : Nat} (ha : a < 2 ^ 31) (hb : b < 2 ^ 31) : ((nI a).toInt64 ≤ x.toInt64 ∧ x.toInt64 ≤ (nI b).toInt64) ↔ ∃ j, a ≤ j ∧ j ≤ b ∧ x = nI j := by
  rw [fa_wide_le, fa_wide_le]
  constructor
  · intro h
    obtain ⟨j, hj, rfl⟩ := nI_of (x := x) (fun q => by
      rw [fa_le, nI_toInt ha] at h
      rw [fa_lt] at q
      have e : (0 : Int32).toInt = 0 := by decide
      rw [e] at q
      omega)
    rw [nI_leI ha hj, nI_leI hj hb] at h
    exact ⟨j, h.1, h.2, rfl⟩
  · rintro ⟨j, h1, h2, rfl⟩
    exact ⟨(nI_leI ha (by omega)).mpr h1, (nI_leI (by omega) hb).mpr h2⟩
/-- 'in' with ints: either a natural between, or not -/
theorem kX1_inN {T : zT} {I : zI} {L : zL} {R : zR} {x : Int32} {a b : Nat} {lo hi : Int64} {K : Int32 → Prop} (hl : lo = (nI a).toInt64) (hh : hi = (nI b).toInt64) (ha : a < 2 ^ 31) (hb : b < 2 ^ 31) (h1 : ∀ j, a ≤ j → j ≤ b → x = nI j → K 1) (h0 : (¬ ∃ j, a ≤ j ∧ j ≤ b ∧ x = nI j) → K 0) : zMet mX1_in 1 0 [.long x.toInt64, .long lo, .long hi] T I L R (zqI_ T I L R K) := by
  subst hl hh
  refine kX1_in ?_
  by_cases c : (nI a).toInt64 ≤ x.toInt64 ∧ x.toInt64 ≤ (nI b).toInt64
  · rw [if_pos c]
    obtain ⟨j, g1, g2, g3⟩ := (zz_mid ha hb).mp c
    exact h1 j g1 g2 g3
  · rw [if_neg c]
    exact h0 (fun q => c ((zz_mid ha hb).mpr q))
/-- .. below a natural -/
theorem kX1_inB {T : zT} {I : zI} {L : zL} {R : zR} {x : Int32} {b : Nat} {lo hi : Int64} {K : Int32 → Prop} (hl : lo = 0) (hh : hi = (nI b - 1).toInt64) (hb : b < 2 ^ 31) (h1 : ∀ j, j < b → x = nI j → K 1) (h0 : (¬ ∃ j, j < b ∧ x = nI j) → K 0) : zMet mX1_in 1 0 [.long x.toInt64, .long lo, .long hi] T I L R (zqI_ T I L R K) := by
  subst hl hh
  rcases Nat.eq_zero_or_pos b with h | h
  · subst h
    refine kX1_in ?_
    rw [if_neg]
    · exact h0 (fun ⟨j, hj, _⟩ => absurd hj (Nat.not_lt_zero j))
    · rintro ⟨g1, g2⟩
      rw [fa_le64] at g1 g2
      have e1 : (0 : Int64).toInt = 0 := by decide
      have e2 : ((nI 0 - 1 : Int32).toInt64).toInt = -1 := by decide
      rw [e1] at g1
      rw [e2] at g2
      omega
  · refine kX1_inN (a := 0) (b := b - 1) (by decide) ?_ (by decide) (by omega) (fun j _ g2 g3 => h1 j (by omega) g3) (fun q => h0 (fun ⟨j, g1, g2⟩ => q ⟨j, Nat.zero_le _, by omega, g2⟩))
    rw [show (1 : Int32) = nI 1 from rfl, zz_sub h]
theorem kX1_isSign {T : zT} {I : zI} {L : zL} {R : zR} {σ : Nat} {V : Nat → Nat → Nat → Nat} {x : Int32} {K : Int32 → Prop} (h : zCq T I R σ V) (h1 : ∀ s, s < V 5 0 0 → x = nI s → K 1) (h0 : (¬ ∃ s, s < V 5 0 0 ∧ x = nI s) → K 0) : zMet mX1_isSign 2 0 [.ref 1000, .int x] T I L R (zqI_ T I L R K) := by
  obtain ⟨hx, hσ, hσ2, hTL, hTv, hTw, hSv, hSw⟩ := h
  have h2 := hTL.1.t 0 rfl
  have h3 := hTL.1.r 2 rfl
  have h4 := hTL.1.t 7 rfl
  have h5 := hTw.1.1
  simp only [Nat.add_zero] at h2 h3
  refine sX1_isSign (gX1_isSign_0 hx ⟨by rw [hσ, h2], by rw [hσ, h3, h4], kJ2_size (by rw [hσ, h3, h4]) ?_⟩)
  rw [hσ, h3, hTv.1.1]
  exact kX1_inB rfl rfl (by omega) (fun j g1 g2 => ⟨Or.inr rfl, zqI__i (h1 j g1 g2)⟩) (fun q => ⟨Or.inl rfl, zqI__i (h0 q)⟩)
theorem kX1_isTongue {T : zT} {I : zI} {L : zL} {R : zR} {x : Int32} {K : Int32 → Prop} (h1 : ∀ t, t < 2 → x = nI t → K 1) (h0 : (¬ ∃ t, t < 2 ∧ x = nI t) → K 0) : zMet mX1_isTongue 2 0 [.int x] T I L R (zqI_ T I L R K) :=
  sX1_isTongue (gX1_isTongue_0 (kX1_inN (a := 0) (b := 1) (by decide) (by decide) (by decide) (by decide) (fun j _ g2 g3 => ⟨Or.inr rfl, zqI__i (h1 j (by omega) g3)⟩) (fun q => ⟨Or.inl rfl, zqI__i (h0 (fun ⟨j, g1, g2⟩ => q ⟨j, Nat.zero_le _, by omega, g2⟩))⟩)))
theorem kX1_isDay {T : zT} {I : zI} {L : zL} {R : zR} {x : Int32} {K : Int32 → Prop} (h1 : ∀ t, t < 1000 → x = nI t → K 1) (h0 : (¬ ∃ t, t < 1000 ∧ x = nI t) → K 0) : zMet mX1_isDay 2 0 [.int x] T I L R (zqI_ T I L R K) :=
  sX1_isDay (gX1_isDay_0 (kX1_inN (a := 0) (b := 999) (by decide) (by decide) (by decide) (by decide) (fun j _ g2 g3 => ⟨Or.inr rfl, zqI__i (h1 j (by omega) g3)⟩) (fun q => ⟨Or.inl rfl, zqI__i (h0 (fun ⟨j, g1, g2⟩ => q ⟨j, Nat.zero_le _, by omega, g2⟩))⟩)))
theorem kX1_isLetter {T : zT} {I : zI} {L : zL} {R : zR} {σ : Nat} {V : Nat → Nat → Nat → Nat} {x y : Int32} {K : Int32 → Prop} (h : zCq T I R σ V) (h1 : ∀ s k, s < V 5 0 0 → k < V 6 s 2 → x = nI s → y = nI k → K 1) (h0 : (¬ ∃ s k, s < V 5 0 0 ∧ k < V 6 s 2 ∧ x = nI s ∧ y = nI k) → K 0) : zMet mX1_isLetter 3 0 [.ref 1000, .int x, .int y] T I L R (zqI_ T I L R K) := by
  have hx := h.1
  have hTw := h.2.2.2.2.2.1
  have hSv := h.2.2.2.2.2.2.1
  have hL := zSL_now hx
  refine sX1_isLetter (gX1_isLetter_0 hx (kX1_isSign h (fun s hs e => ⟨fun c => absurd c (by decide), fun _ => ?_⟩) (fun q => ⟨fun _ => zqI__i (h0 (fun ⟨s, k, g1, _, g2, _⟩ => q ⟨s, g1, g2⟩)), fun c => absurd rfl c⟩)))
  subst e
  have h6 := hTw.1.1
  have h7 := hTw.1.2 s hs
  have hr := hL.2.2.2.2.2.2.2 s (by omega)
  have hv := hSv.2.1 s hs
  rw [nI_clamp (by omega), hr.1, hv.1]
  refine ⟨by simp (disch := omega) only [fa_lit, nI_add, zz_mul, zz_sub, nI_leI, nI_ltI, nI_eq, nI_clamp, zz_in, zz_m1, zz_m1e, zz_le_m1, zz_m1_le, zz_lt_m1, zz_m1_lt, zz_B0, zz_B1, zz_shr, zz_shl, zz_and31, Nat.mod_eq_of_lt, not_true_eq_false, not_false_eq_true, Nat.reduceAdd, Nat.reduceMul, Nat.reduceSub]; omega, by rw [hr.2.1], kX1_inB rfl rfl (by omega) (fun k g1 g2 => ⟨fun c => absurd c (by decide), fun _ => zqI__i (h1 s k hs g1 rfl g2)⟩) (fun q => ⟨fun _ => zqI__i (h0 ?_), fun c => absurd rfl c⟩)⟩
  rintro ⟨s2, k, g1, g2, g3, g4⟩
  have e2 := (nI_eq (by omega) (by omega)).mp g3
  subst e2
  exact q ⟨k, g2, g4⟩
