/-! NIGHTS: the number drawn -/
def rN (n : Nat) : Nat := (n * 1103515245 + 12345) % 2 ^ 31
theorem rN_lt (n : Nat) : rN n < 2 ^ 31 := Nat.mod_lt _ (by decide)
theorem kX1_draw {T : zT} {I : zI} {L : zL} {R : zR} {n b : Nat} {K : Int32 → zI → Prop} (hx : zXok T R) (h5 : I 1000 5 = nI n) (hb : 0 < b) (hb2 : b < 2 ^ 31) (hK : K (nI (rN n / 65536 % b)) (z2 I 1000 5 (nI (rN n)))) : zMet mX1_draw 1 0 [.ref 1000, .int (nI b)] T I L R (zqI_I T L R K) := by
  have e1 : ((I 1000 5 * (1103515245 : Int32)) + (12345 : Int32)) &&& (2147483647 : Int32) = nI (rN n) := by
    rw [h5, show (1103515245 : Int32) = nI 1103515245 from rfl, show (12345 : Int32) = nI 12345 from rfl, zz_mul, nI_add]
    exact fa_mask _ 31
  have e2 : nI (rN n) >>> ((16 : Int32) &&& 31) = nI (rN n / 65536) := by
    have := rN_lt n
    rw [show ((16 : Int32) &&& 31) = nI 16 by decide, zz_shr this (by decide)]
  have hl := rN_lt n
  have hd : rN n / 65536 < 2 ^ 31 := Nat.lt_of_le_of_lt (Nat.div_le_self _ _) hl
  refine sX1_draw (gX1_draw_0 hx ⟨nI_ne0 hb hb2, zqI_I_i ?_⟩)
  rw [e1, e2, pk_rem hd hb hb2]
  exact hK
