/-! READINGS: the reference's table, and what is asked of it -/
theorem kX13_layReadings {T : zT} {I : zI} {L : zL} {R : zR} {t m n : Nat} {g ws wo : Nat → Nat} {K : zI → zL → Prop} (hx : zMok T R) (ht : t < 2) (h4 : I 2032 t = nI m) (hm : m ≤ 12) (hw : ∀ i, i < m → I 2033 (12 * t + i) = nI (ws i) ∧ wdok (ws i) ∧ I 2034 (12 * t + i) = nI (wo i) ∧ wo i ≤ 99)
    (h62 : I 2000 62 = nI n) (hn : n ≤ 12) (h63 : I 2000 63 = if hasG g n then 1 else 0) (hg : ∀ k, k < n → I 2062 k = nI (g k) ∧ g k ≤ 26)
    (hK : ∀ I' L', zE [2066] I I' → zE [2065] L L' → (∀ q, q ≤ n → L' 2065 q = lN (rdY m ws n g n q) ∧ I' 2066 q = nI (rdZ m ws wo n g n q) - 1) → K I' L') :
    zMet mX13_layReadings 3 0 [.ref 2000, .int (nI t)] T I L R (zqV_IL T R K) := by
  have hwb : ∀ i, i < m → wo i ≤ 99 ∧ 0 < wln (ws i) := fun i hi => ⟨(hw i hi).2.2.2, (hw i hi).2.1.1⟩
  have inner : ∀ j i r, i + j = m → r + 1 ≤ n → ∀ I' L', zE [2066] I I' → zE [2065] L L' → (∀ q, n ≤ q + r → q ≤ n → L' 2065 q = lN (rdY m ws n g r q) ∧ I' 2066 q = nI (rdZ m ws wo n g r q) - 1) →
      L' 2065 (n - (r + 1)) = lN (rdW ws n g (rdY m ws n g r) (n - (r + 1)) i) → I' 2066 (n - (r + 1)) = nI (rdB ws wo n g (rdZ m ws wo n g r) (n - (r + 1)) i) - 1 →
      (∀ I' L', zE [2066] I I' → zE [2065] L L' → (∀ q, n ≤ q + (r + 1) → q ≤ n → L' 2065 q = lN (rdY m ws n g (r + 1) q) ∧ I' 2066 q = nI (rdZ m ws wo n g (r + 1) q) - 1) → ∀ y, y = nI (n - (r + 1)) - 1 → zAW mX13_layReadings 3 0 27 [(0, .ref 2000), (1, .int (nI t)), (2, .int y)] [] T I' L' R (zqV_IL T R K)) →
      ∀ x, x = nI (12 * t + i) → zAW mX13_layReadings 3 0 50 [(0, .ref 2000), (1, .int (nI t)), (2, .int (nI (n - (r + 1)))), (3, .int x)] [] T I' L' R (zqV_IL T R K) := by
    intro j
    induction j with
    | zero =>
      rintro i r hi hr I' L' hE hF hold hA hB next x rfl
      obtain rfl : i = m := by omega
      refine gX13_layReadings_50 hx ⟨by simp (disch := omega) only [fa_lit, nI_add, zz_mul, zz_sub, nI_leI, nI_ltI, nI_eq, nI_clamp, zz_in, zz_m1, zz_m1e, zz_le_m1, zz_m1_le, zz_lt_m1, zz_m1_lt, zz_B0, zz_B1, zz_shr, zz_shl, zz_and31, Nat.mod_eq_of_lt, not_true_eq_false, not_false_eq_true, Nat.reduceAdd, Nat.reduceMul, Nat.reduceSub]; omega, fun _ => next I' L' hE hF ?_ _ ?_, fun c => ?_⟩
      · intro q hq1 hq2
        unfold rdY rdZ
        by_cases e : q + (r + 1) = n
        · obtain rfl : q = n - (r + 1) := by omega
          rw [if_pos e, if_pos e]
          exact ⟨hA, hB⟩
        · rw [if_neg e, if_neg e]
          exact hold q (by omega) hq2
      · rw [Int32.sub_eq_add_neg]
      · exfalso
        rw [nI_clamp (by omega), hE 2032 (by simp), h4] at c
        (try simp (disch := omega) only [fa_lit, nI_add, zz_mul, zz_sub, nI_leI, nI_ltI, nI_eq, nI_clamp, zz_in, zz_m1, zz_m1e, zz_le_m1, zz_m1_le, zz_lt_m1, zz_m1_lt, zz_B0, zz_B1, zz_shr, zz_shl, zz_and31, Nat.mod_eq_of_lt, not_true_eq_false, not_false_eq_true, Nat.reduceAdd, Nat.reduceMul, Nat.reduceSub] at c) <;> (try omega)
    | succ j ih =>
      rintro i r hi hr I' L' hE hF hold hA hB next x rfl
      have hwi := hw i (by omega)
      have e1 : I' 2032 = I 2032 := hE _ (by simp)
      have e2 : I' 2033 = I 2033 := hE _ (by simp)
      have e3 : I' 2034 = I 2034 := hE _ (by simp)
      have e4 : I' 2000 = I 2000 := hE _ (by simp)
      have e5 : I' 2062 = I 2062 := hE _ (by simp)
      have hwl := wln_le (ws i)
      have hw31 := hwi.2.1.2.1
      have e6 : I' 2033 (nI (12 * t + i)).toNatClampNeg = nI (ws i) := by rw [nI_clamp (by omega), e2]; exact hwi.1
      have e7 : I' 2034 (nI (12 * t + i)).toNatClampNeg = nI (wo i) := by rw [nI_clamp (by omega), e3]; exact hwi.2.2.1
      refine gX13_layReadings_50 hx ⟨by simp (disch := omega) only [fa_lit, nI_add, zz_mul, zz_sub, nI_leI, nI_ltI, nI_eq, nI_clamp, zz_in, zz_m1, zz_m1e, zz_le_m1, zz_m1_le, zz_lt_m1, zz_m1_lt, zz_B0, zz_B1, zz_shr, zz_shl, zz_and31, Nat.mod_eq_of_lt, not_true_eq_false, not_false_eq_true, Nat.reduceAdd, Nat.reduceMul, Nat.reduceSub]; omega, fun c => ?_, fun _ => ⟨by simp (disch := omega) only [fa_lit, nI_add, zz_mul, zz_sub, nI_leI, nI_ltI, nI_eq, nI_clamp, zz_in, zz_m1, zz_m1e, zz_le_m1, zz_m1_le, zz_lt_m1, zz_m1_lt, zz_B0, zz_B1, zz_shr, zz_shl, zz_and31, Nat.mod_eq_of_lt, not_true_eq_false, not_false_eq_true, Nat.reduceAdd, Nat.reduceMul, Nat.reduceSub]; omega, ?_⟩⟩
      · exfalso
        rw [nI_clamp (by omega), e1, h4] at c
        (try simp (disch := omega) only [fa_lit, nI_add, zz_mul, zz_sub, nI_leI, nI_ltI, nI_eq, nI_clamp, zz_in, zz_m1, zz_m1e, zz_le_m1, zz_m1_le, zz_lt_m1, zz_m1_lt, zz_B0, zz_B1, zz_shr, zz_shl, zz_and31, Nat.mod_eq_of_lt, not_true_eq_false, not_false_eq_true, Nat.reduceAdd, Nat.reduceMul, Nat.reduceSub] at c) <;> (try omega)
      · rw [e6, e7]
        refine kX13_standsAt (n := n) (g := g) hx (by omega) hn (by rw [e4]; exact h62) (fun k hk => by rw [e5]; exact hg k hk) (by omega) ⟨fun c => ?_, fun c => ?_⟩
        · have es : stN (ws i) n g (n - (r + 1)) = false := by
            cases h : stN (ws i) n g (n - (r + 1))
            · rfl
            · rw [h] at c
              exact absurd c (by decide)
          refine ih (i + 1) r (by omega) hr I' L' hE hF hold ?_ ?_ next _ (nI_1 _)
          · rw [rdW, es]
            exact hA
          · rw [rdB, es]
            exact hB
        · have es : stN (ws i) n g (n - (r + 1)) = true := by
            cases h : stN (ws i) n g (n - (r + 1))
            · rw [h] at c
              exact absurd rfl c
            · rfl
          have hto := stN_len es
          have hpos := hwi.2.1.1
          have ht2 := hold (n - (r + 1) + wln (ws i)) (by omega) hto
          have hz := rdZ_le (g := g) hwb r (by omega) (n - (r + 1) + wln (ws i)) (by omega) hto
          have hb := rdB_le (y := rdZ m ws wo n g r) (g := g) (m := i) (a := n - (r + 1)) (n := n) (ws := ws) (wo := wo) (fun q hq => hwb q (by omega)) (fun q hq1 hq2 => rdZ_le (g := g) hwb r (by omega) q (by omega) hq2) rfl
          refine kX13_longOf (by omega) ⟨by simp (disch := omega) only [fa_lit, nI_add, zz_mul, zz_sub, nI_leI, nI_ltI, nI_eq, nI_clamp, zz_in, zz_m1, zz_m1e, zz_le_m1, zz_m1_le, zz_lt_m1, zz_m1_lt, zz_B0, zz_B1, zz_shr, zz_shl, zz_and31, Nat.mod_eq_of_lt, not_true_eq_false, not_false_eq_true, Nat.reduceAdd, Nat.reduceMul, Nat.reduceSub]; omega, by simp (disch := omega) only [fa_lit, nI_add, zz_mul, zz_sub, nI_leI, nI_ltI, nI_eq, nI_clamp, zz_in, zz_m1, zz_m1e, zz_le_m1, zz_m1_le, zz_lt_m1, zz_m1_lt, zz_B0, zz_B1, zz_shr, zz_shl, zz_and31, Nat.mod_eq_of_lt, not_true_eq_false, not_false_eq_true, Nat.reduceAdd, Nat.reduceMul, Nat.reduceSub]; omega, ?_⟩
          rw [nI_add, nI_clamp (by omega), nI_clamp (by omega), ht2.1, ht2.2, hA, hB, lN_add]
          have hF2 : zE [2065] L (z2 L' 2065 (n - (r + 1)) (lN (rdW ws n g (rdY m ws n g r) (n - (r + 1)) i + rdY m ws n g r (n - (r + 1) + wln (ws i))))) := zE_w2 hF (by simp)
          have hA2 : lN (rdW ws n g (rdY m ws n g r) (n - (r + 1)) i + rdY m ws n g r (n - (r + 1) + wln (ws i))) = lN (rdW ws n g (rdY m ws n g r) (n - (r + 1)) (i + 1)) := by rw [rdW, es]; rfl
          have hwo := hwi.2.2.2
          have hold2 : ∀ v, ∀ q, n ≤ q + r → q ≤ n → (z2 L' 2065 (n - (r + 1)) v) 2065 q = lN (rdY m ws n g r q) ∧ I' 2066 q = nI (rdZ m ws wo n g r q) - 1 := fun v q hq1 hq2 => by
            rw [z2_nk (by omega)]
            exact hold q hq1 hq2
          refine ⟨fun c2 => ?_, fun c2 => ?_⟩
          · rw [nM_lt0 (by omega)] at c2
            refine ih (i + 1) r (by omega) hr I' _ hE hF2 (hold2 _) ?_ ?_ next _ (nI_1 _)
            · rw [z2_s, hA2]
            · rw [rdB, es, c2]
              exact hB
          · rw [nM_lt0 (by omega)] at c2
            have e8 : (nI (rdZ m ws wo n g r (n - (r + 1) + wln (ws i))) - 1) + nI (wo i) = nI (wo i + rdZ m ws wo n g r (n - (r + 1) + wln (ws i))) - 1 := by
              rw [nM_dec (by omega), nM_dec (by omega), nI_add]
              congr 1
              omega
            rw [e8, fa_le, nM_toInt (by omega), nM_toInt (by omega)]
            have e9 : rdB ws wo n g (rdZ m ws wo n g r) (n - (r + 1)) (i + 1) = max (rdB ws wo n g (rdZ m ws wo n g r) (n - (r + 1)) i) (wo i + rdZ m ws wo n g r (n - (r + 1) + wln (ws i))) := by
              rw [rdB, es, decide_eq_true c2]
              rfl
            refine ⟨fun c3 => ?_, fun c3 => ?_⟩
            · refine ih (i + 1) r (by omega) hr I' _ hE hF2 (hold2 _) ?_ ?_ next _ (nI_1 _)
              · rw [z2_s, hA2]
              · rw [e9, Nat.max_eq_left (by omega)]
                exact hB
            · refine ih (i + 1) r (by omega) hr _ _ (zE_w2 hE (by simp)) hF2 ?_ ?_ ?_ next _ (nI_1 _)
              · intro q hq1 hq2
                rw [z2_nk (by omega), z2_nk (by omega)]
                exact hold q hq1 hq2
              · rw [z2_s, hA2]
              · rw [z2_s, e9, Nat.max_eq_right (by omega)]
  have outer : ∀ j r, r + j = n → ∀ I' L', zE [2066] I I' → zE [2065] L L' → (∀ q, n ≤ q + r → q ≤ n → L' 2065 q = lN (rdY m ws n g r q) ∧ I' 2066 q = nI (rdZ m ws wo n g r q) - 1) → ∀ y, y = nI (n - r) - 1 → zAW mX13_layReadings 3 0 27 [(0, .ref 2000), (1, .int (nI t)), (2, .int y)] [] T I' L' R (zqV_IL T R K) := by
    intro j
    induction j with
    | zero =>
      rintro r hr I' L' hE hF hold y rfl
      obtain rfl : r = n := by omega
      have e4 : I' 2000 = I 2000 := hE _ (by simp)
      refine gX13_layReadings_27 hx ⟨fun _ => ⟨fun c => zqV_IL_i (hK I' L' hE hF (fun q hq => hold q (by omega) hq)), fun c => zqV_IL_i (hK _ _ (zE_w2 hE (by simp)) (zE_w2 hF (by simp)) ?_)⟩, fun c => ?_⟩
      · rw [e4, h63] at c
        have hgp : hasG g r = true := by
          cases h : hasG g r
          · rw [h] at c
            exact absurd rfl c
          · rfl
        obtain ⟨p, hp, h0⟩ := hasG_iff.mp hgp
        have hz := rd_gap (wo := wo) (fun i hi => (hwb i hi).2) hp h0 r (Nat.le_refl r) 0 (by omega) (Nat.zero_le p)
        intro q hq
        by_cases e : q = 0
        · subst e
          rw [z2_s, z2_s, hz.1, hz.2]
          exact ⟨rfl, by decide⟩
        · rw [z2_nk e, z2_nk e]
          exact hold q (by omega) hq
      · exfalso
        rw [nM_lt0 (by omega)] at c
        omega
    | succ j ih =>
      rintro r hr I' L' hE hF hold y rfl
      rw [nM_dec (by omega)]
      refine gX13_layReadings_27 hx ⟨fun c => ?_, fun _ => ⟨by simp (disch := omega) only [fa_lit, nI_add, zz_mul, zz_sub, nI_leI, nI_ltI, nI_eq, nI_clamp, zz_in, zz_m1, zz_m1e, zz_le_m1, zz_m1_le, zz_lt_m1, zz_m1_lt, zz_B0, zz_B1, zz_shr, zz_shl, zz_and31, Nat.mod_eq_of_lt, not_true_eq_false, not_false_eq_true, Nat.reduceAdd, Nat.reduceMul, Nat.reduceSub]; omega, ?_⟩⟩
      · exfalso
        (try simp (disch := omega) only [fa_lit, nI_add, zz_mul, zz_sub, nI_leI, nI_ltI, nI_eq, nI_clamp, zz_in, zz_m1, zz_m1e, zz_le_m1, zz_m1_le, zz_lt_m1, zz_m1_lt, zz_B0, zz_B1, zz_shr, zz_shl, zz_and31, Nat.mod_eq_of_lt, not_true_eq_false, not_false_eq_true, Nat.reduceAdd, Nat.reduceMul, Nat.reduceSub] at c) <;> (try omega)
      · rw [nI_clamp (by omega), show n - r - 1 = n - (r + 1) by omega]
        refine inner m 0 r (by omega) (by omega) _ _ (zE_w2 hE (by simp)) (zE_w2 hF (by simp)) ?_ ?_ ?_ (fun I2 L2 a1 a2 a3 => ih (r + 1) (by omega) I2 L2 a1 a2 a3) _ (zz_mul 12 t)
        · intro q hq1 hq2
          rw [z2_nk (by omega), z2_nk (by omega)]
          exact hold q hq1 hq2
        · rw [z2_s]
          rfl
        · rw [z2_s]
          rfl
  refine sX13_layReadings (gX13_layReadings_0 hx ⟨by rw [h62]; simp (disch := omega) only [fa_lit, nI_add, zz_mul, zz_sub, nI_leI, nI_ltI, nI_eq, nI_clamp, zz_in, zz_m1, zz_m1e, zz_le_m1, zz_m1_le, zz_lt_m1, zz_m1_lt, zz_B0, zz_B1, zz_shr, zz_shl, zz_and31, Nat.mod_eq_of_lt, not_true_eq_false, not_false_eq_true, Nat.reduceAdd, Nat.reduceMul, Nat.reduceSub]; omega, ?_⟩)
  rw [h62, nI_clamp (by omega)]
  refine outer n 0 (by omega) _ _ (zE_w2 zE_rf (by simp)) (zE_w2 zE_rf (by simp)) ?_ _ rfl
  intro q hq1 hq2
  obtain rfl : q = n := by omega
  rw [z2_s, z2_s, rdY, rdZ, if_pos rfl]
  exact ⟨rfl, by decide⟩
/-- the reference's scratch of a reading -/
def zMr (I I' : zI) : Prop := zE [2062, 2066, 2000] I I' ∧ ∀ q, q ∉ [62, 63] → I' 2000 q = I 2000 q
theorem zMr.rf {I : zI} : zMr I I := ⟨zE_rf, fun _ _ => rfl⟩
theorem zMr.tr {I I' I2 : zI} (h : zMr I I') (h2 : zMr I' I2) : zMr I I2 := ⟨zE_tr h.1 h2.1, fun q hq => (h2.2 q hq).trans (h.2 q hq)⟩
theorem zMr.e {I I' : zI} (h : zMr I I') : zMe I I' := by
  refine ⟨fun e he => h.1 e ?_, fun f hf => h.2 f ?_⟩
  · have : ∀ e ∈ [2032, 2033, 2034, 2035, 2036, 2037, 2039, 2040, 2041, 2042, 2043, 2044, 2045, 2046, 2061], e ∉ [2062, 2066, 2000] := by decide
    exact this e he
  · have : ∀ f ∈ [12, 13, 14, 15, 16, 19, 57, 58], f ∉ [62, 63] := by decide
    exact this f hf
/-- laid and read: a tongue over letters that lie in an array -/
theorem kX13_laid {T : zT} {I : zI} {L : zL} {R : zR} {V : Nat → Nat → Nat → Nat} {κ c a n t kd : Nat} {f : Nat → Nat} {K : zI → zL → Prop} (h : zMq T I R V) (h2 : T κ = (100, c)) (hc : c < 2 ^ 31) (ha : a + n ≤ c) (hn : n ≤ 12) (hf : ∀ k, k < n → I κ (a + k) = nI (f k) ∧ f k ≤ 26) (ht : t < 2) (d1 : κ ≠ 2062) (d2 : κ ≠ 2000)
    (hK : ∀ I' L', zMr I I' → zE [2065] L L' → (∀ q, q ≤ n → L' 2065 q = lN (rdWays V t f n kd q) ∧ I' 2066 q = nI (rdBest V t f n kd q) - 1) → I' 2000 62 = nI n → (∀ k, k < n → I' 2062 k = nI (gMet f n (isR kd t) k)) → K I' L') :
    zMet mX13_layMet 1 0 [.ref 2000, .ref κ, .int (nI a), .int (nI n), .int (if isR kd t then 0 else 1)] T I L R (zqV_I T L R fun I3 => zMet mX13_layReadings 3 0 [.ref 2000, .int (nI t)] T I3 L R (zqV_IL T R K)) := by
  refine kX13_layMet (f := f) (r := isR kd t) h.1 h2 hc ha hn hf rfl d1 d2 (fun I1 a1 a2 a3 a4 a5 => ?_)
  have e1 : zMr I I1 := ⟨zE_sub a1 (by simp), a2⟩
  have h3 := h.e e1.e
  have hv := h3.2.2.2.1.1 t ht
  have hs := h3.2.2.2.2.1 t ht
  have hb : ∀ k, k < n → gMet f n (isR kd t) k ≤ 26 := fun k hk => by
    unfold gMet
    split
    · exact (hf _ (by omega)).2
    · exact (hf _ hk).2
  refine kX13_layReadings (g := gMet f n (isR kd t)) (ws := V 21 t) (wo := V 22 t) h.1 ht hv.1 hs.1 (fun i hi => ⟨(hv.2 i hi).1, (hs.2 i hi).1, (hv.2 i hi).2, (hs.2 i hi).2⟩) a3 hn a4 (fun k hk => ⟨a5 k hk, hb k hk⟩) (fun I2 L2 b1 b2 b3 => hK I2 L2 ⟨zE_tr (zE_sub a1 (by simp)) (zE_sub b1 (by simp)), fun q hq => by rw [b1 2000 (by simp)]; exact a2 q hq⟩ b2 b3 (by rw [b1 2000 (by simp)]; exact a3) (fun k hk => by rw [b1 2062 (by simp)]; exact a5 k hk))
theorem kX13_reads {T : zT} {I : zI} {L : zL} {R : zR} {V : Nat → Nat → Nat → Nat} {s t : Nat} {K : zI → zL → Prop} (h : zMq T I R V) (hs : s < V 5 0 0) (ht : t < 2)
    (hK : ∀ I' L', zMr I I' → zE [2065] L L' → (∀ q, q ≤ V 6 s 2 → L' 2065 q = lN (rdWays V t (V 23 s) (V 6 s 2) (V 6 s 1) q) ∧ I' 2066 q = nI (rdBest V t (V 23 s) (V 6 s 2) (V 6 s 1) q) - 1) → I' 2000 62 = nI (V 6 s 2) → (∀ k, k < V 6 s 2 → I' 2062 k = nI (gMet (V 23 s) (V 6 s 2) (isR (V 6 s 1) t) k)) → K I' L') :
    zMet mX13_reads 4 0 [.ref 2000, .int (nI s), .int (nI t)] T I L R (zqV_IL T R K) := by
  have hn := h.2.2.1.1.1
  have hw := h.2.2.1.1.2 s hs
  have hv := h.2.1.1.2 s hs
  refine sX13_reads (gX13_reads_0 h.1 ⟨by simp (disch := omega) only [fa_lit, nI_add, zz_mul, zz_sub, nI_leI, nI_ltI, nI_eq, nI_clamp, zz_in, zz_m1, zz_m1e, zz_le_m1, zz_m1_le, zz_lt_m1, zz_m1_lt, zz_B0, zz_B1, zz_shr, zz_shl, zz_and31, Nat.mod_eq_of_lt, not_true_eq_false, not_false_eq_true, Nat.reduceAdd, Nat.reduceMul, Nat.reduceSub]; omega, ?_⟩)
  rw [nI_clamp (by omega), hv.2.1, hv.2.2, show (12 : Int32) * nI s = nI (12 * s) from zz_mul 12 s]
  refine kX13_isLeft hw.2.1 ht (kX13_laid h (zM_t2061 h.1) (by decide) (by omega) hw.2.2.2 (fun k hk => ⟨h.2.2.2.1.2.1 s hs k hk, h.2.2.2.2.2.1 s hs k hk⟩) ht (by decide) (by decide) (fun I' L' a1 a2 a3 a4 a5 => zqV_IL_i (hK I' L' a1 a2 a3 a4 a5)))
theorem kX13_servesBy {T : zT} {I : zI} {L : zL} {R : zR} {V : Nat → Nat → Nat → Nat} {κ c a n kd : Nat} {f : Nat → Nat} {K : Int32 → zI → zL → Prop} (h : zMq T I R V) (h2 : T κ = (100, c)) (hc : c < 2 ^ 31) (ha : a + n ≤ c) (hn : n ≤ 12) (hf : ∀ k, k < n → I κ (a + k) = nI (f k) ∧ f k ≤ 26) (hk : kd < 4) (d1 : κ ∉ [2062, 2066, 2000])
    (hK : ∀ I' L', zMr I I' → zE [2065] L L' → K (if srv V f n kd then 1 else 0) I' L') :
    zMet mX13_servesBy 4 0 [.ref 2000, .ref κ, .int (nI a), .int (nI n), .int (nI kd)] T I L R (zqI_IL T R K) := by
  have d2 : κ ≠ 2062 ∧ κ ≠ 2066 ∧ κ ≠ 2000 := by simpa using d1
  have step : ∀ t, t < 2 → ∀ I' L', zMr I I' → zE [2065] L L' → (rdBest V t f n kd 0 = 0 → ∀ I' L', zMr I I' → zE [2065] L L' → K 0 I' L') → (rdBest V t f n kd 0 ≠ 0 → ∀ I' L', zMr I I' → zE [2065] L L' → ∀ y, y = nI (t + 1) → zAW mX13_servesBy 4 0 3 [(0, .ref 2000), (1, .ref κ), (2, .int (nI a)), (3, .int (nI n)), (4, .int (nI kd)), (5, .int y)] [] T I' L' R (zqI_IL T R K)) → ∀ x, x = nI t → zAW mX13_servesBy 4 0 3 [(0, .ref 2000), (1, .ref κ), (2, .int (nI a)), (3, .int (nI n)), (4, .int (nI kd)), (5, .int x)] [] T I' L' R (zqI_IL T R K) := by
    rintro t ht I' L' a1 a2 no yes x rfl
    have h3 := h.e a1.e
    have hwb : ∀ i, i < V 20 t 0 → V 22 t i ≤ 99 ∧ 0 < wln (V 21 t i) := fun i hi => ⟨((h.2.2.2.2.1 t ht).2 i hi).2, ((h.2.2.2.2.1 t ht).2 i hi).1.1⟩
    have hz := rdZ_le (g := gMet f n (isR kd t)) hwb n (Nat.le_refl n) 0 (by omega) (Nat.zero_le n)
    refine gX13_servesBy_3 h.1 ⟨fun c => ?_, fun _ => kX13_isLeft hk ht (kX13_laid h3 h2 hc ha hn (fun k hk => by rw [a1.1 κ d1]; exact hf k hk) ht d2.1 d2.2.2 (fun I2 L2 b1 b2 b3 b4 b5 => ⟨fun c => ?_, fun c => zqI_IL_i ?_⟩))⟩
    · exfalso
      (try simp (disch := omega) only [fa_lit, nI_add, zz_mul, zz_sub, nI_leI, nI_ltI, nI_eq, nI_clamp, zz_in, zz_m1, zz_m1e, zz_le_m1, zz_m1_le, zz_lt_m1, zz_m1_lt, zz_B0, zz_B1, zz_shr, zz_shl, zz_and31, Nat.mod_eq_of_lt, not_true_eq_false, not_false_eq_true, Nat.reduceAdd, Nat.reduceMul, Nat.reduceSub] at c) <;> (try omega)
    · rw [(b3 0 (Nat.zero_le n)).2, fa_le, nM_toInt (by unfold rdBest; omega), show (0 : Int32).toInt = 0 by decide] at c
      exact yes (by omega) I2 L2 (a1.tr b1) (zE_tr a2 b2) _ (nI_1 t)
    · rw [(b3 0 (Nat.zero_le n)).2, fa_le, nM_toInt (by unfold rdBest; omega), show (0 : Int32).toInt = 0 by decide] at c
      exact no (by omega) I2 L2 (a1.tr b1) (zE_tr a2 b2)
  refine sX13_servesBy (gX13_servesBy_0 h.1 (step 0 (by decide) I L zMr.rf zE_rf (fun e I' L' a1 a2 => ?_) (fun e I' L' a1 a2 y hy => step 1 (by decide) I' L' a1 a2 (fun e2 I' L' a1 a2 => ?_) (fun e2 I' L' a1 a2 y hy => ?_) y hy) _ rfl))
  · have := hK I' L' a1 a2
    unfold srv at this
    rw [e] at this
    exact this
  · have := hK I' L' a1 a2
    unfold srv at this
    rw [e2, Bool.and_comm] at this
    exact this
  · subst hy
    refine gX13_servesBy_3 h.1 ⟨fun _ => zqI_IL_i ?_, fun c => absurd (by decide) c⟩
    have := hK I' L' a1 a2
    unfold srv at this
    rw [decide_eq_true e, decide_eq_true e2] at this
    exact this
