/-! NIGHTS: the number drawn by the reference -/
theorem kX13_number1 {T : zT} {I : zI} {L : zL} {R : zR} {n b : Nat} {K : Int32 → zL → Prop} (hx : zMok T R) (h5 : L 2000 59 = lN n) (hn : n < 2 ^ 31) (hb : 0 < b) (hb2 : b < 2 ^ 31) (hK : K (nI (rN n / 65536 % b)) (z2 L 2000 59 (lN (rN n)))) : zMet mX13_number1 1 0 [.ref 2000, .int (nI b)] T I L R (zqI_L T I R K) := by
  have e1 : ((L 2000 59 * (1103515245 : Int64)) + (12345 : Int64)) &&& (2147483647 : Int64) = lN (rN n) := by
    rw [h5, show (1103515245 : Int64) = lN 1103515245 from rfl, show (12345 : Int64) = lN 12345 from rfl, lN_mul, lN_add]
    exact wb_mask (k := 31) (by omega) (by decide)
  have hl := rN_lt n
  have hd : rN n / 65536 < 2 ^ 31 := Nat.lt_of_le_of_lt (Nat.div_le_self _ _) hl
  have e2 : lN (rN n) / (65536 : Int64) = lN (rN n / 65536) := pk_lDiv (b := 65536) (by omega) (by decide) (by decide)
  refine sX13_number1 (gX13_number1_0 hx ⟨?_, zqI_L_i ?_⟩)
  · rw [nI_l hb2, zL_0 (by omega)]
    omega
  · rw [e1, e2, nI_l hb2, pk_lRem (by omega) hb (by omega), lN_i]
    exact hK
