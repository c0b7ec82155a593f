set_option maxRecDepth 100000
/-! TwoTongues$Store.<init> ()V -/
def dkwX4_init_0 : List UInt8 := [42, 183, 0, 3, 42, 16, 12, 188, 10, 181, 0, 9, 42, 16, 12, 188, 10, 181, 0, 15, 177]
abbrev dktX4_init_0 : List UInt8 := dkwX4_init_0 ++ []
theorem dksX4_init_0 : cX4_init.data.toList.drop 0 = dktX4_init_0 := by decide +kernel
theorem dX4_init_0 : decode cX4_init 0 = .ok (.aload_n 0, 1) := dk_42 (dk_at dksX4_init_0 0 rfl rfl)
theorem dX4_init_1 : decode cX4_init 1 = .ok (.invokespecial 3, 3) := dk_183 0 3 (dk_at dksX4_init_0 1 rfl rfl)
theorem dX4_init_4 : decode cX4_init 4 = .ok (.aload_n 0, 1) := dk_42 (dk_at dksX4_init_0 4 rfl rfl)
theorem dX4_init_5 : decode cX4_init 5 = .ok (.bipush 12, 2) := dk_16 12 (dk_at dksX4_init_0 5 rfl rfl)
theorem dX4_init_7 : decode cX4_init 7 = .ok (.newarray .int, 2) := dk_188_10 (dk_at dksX4_init_0 7 rfl rfl)
theorem dX4_init_9 : decode cX4_init 9 = .ok (.putfield 9, 3) := dk_181 0 9 (dk_at dksX4_init_0 9 rfl rfl)
theorem dX4_init_12 : decode cX4_init 12 = .ok (.aload_n 0, 1) := dk_42 (dk_at dksX4_init_0 12 rfl rfl)
theorem dX4_init_13 : decode cX4_init 13 = .ok (.bipush 12, 2) := dk_16 12 (dk_at dksX4_init_0 13 rfl rfl)
theorem dX4_init_15 : decode cX4_init 15 = .ok (.newarray .int, 2) := dk_188_10 (dk_at dksX4_init_0 15 rfl rfl)
theorem dX4_init_17 : decode cX4_init 17 = .ok (.putfield 15, 3) := dk_181 0 15 (dk_at dksX4_init_0 17 rfl rfl)
theorem dX4_init_20 : decode cX4_init 20 = .ok (.return_, 1) := dk_177 (dk_at dksX4_init_0 20 rfl rfl)
theorem gX4_init_0 {b : Nat} {v0 : Nat} {T : zT} {I : zI} {L : zL} {R : zR} {P : zP} (h : (T v0).1 = 4 ∧ ∃ κ2, 100 ≤ κ2 ∧ (T κ2).1 = 0 ∧ 12 + 1 ≤ b ∧ ∃ κ6, 100 ≤ κ6 ∧ ((z1 T κ2 (100, 12)) κ6).1 = 0 ∧ 12 + 1 ≤ (b - (12 + 1)) ∧ P 0 (.int 0) (z1 (z1 T κ2 (100, 12)) κ6 (100, 12)) (z1 (z1 I κ2 fun _ => 0) κ6 fun _ => 0) (z1 (z1 L κ2 fun _ => 0) κ6 fun _ => 0) (z2 (z1 (z2 (z1 R κ2 fun _ => 0) v0 0 κ2) κ6 fun _ => 0) v0 1 κ6)) : zAW mX4_init 1 b 0 [(0, .ref v0)] [] T I L R P := by
  obtain ⟨ht1, h⟩ := h
  refine za_aload_n (pc' := 1) 0 dX4_init_0 rfl rfl rfl ?_
  refine za_objInit (pc' := 4) dX4_init_1 q225 (by decide) (by rw [ht1]; decide) (Nat.le_of_ble_eq_true rfl) rfl ?_
  refine za_aload_n (pc' := 5) 0 dX4_init_4 rfl rfl rfl ?_
  refine za_bipush (pc' := 7) dX4_init_5 zb8_12 rfl ?_
  obtain ⟨κ2, hk3, hf4, hb5, h⟩ := h
  refine za_newa_int (κ := κ2) (N := 12) (pc' := 9) dX4_init_7 q241 (by decide) zn_12 (by decide) hk3 hf4 hb5 rfl ?_
  refine za_putFR (fi := 0) (pc' := 12) dX4_init_9 zc3 (by decide) in_X4 zok3 znm3 (by decide) q226 (Or.inl rfl) rfl rfl rfl rfl (fun _ _ _ => rfl) (z1_tk hf4 ht1 (by decide)) rfl ?_
  refine za_aload_n (pc' := 13) 0 dX4_init_12 rfl rfl rfl ?_
  refine za_bipush (pc' := 15) dX4_init_13 zb8_12 rfl ?_
  obtain ⟨κ6, hk7, hf8, hb9, h⟩ := h
  refine za_newa_int (κ := κ6) (N := 12) (pc' := 17) dX4_init_15 q241 (by decide) zn_12 (by decide) hk7 hf8 hb9 rfl ?_
  refine za_putFR (fi := 1) (pc' := 20) dX4_init_17 zc3 (by decide) in_X4 zok3 znm3 (by decide) q228 (Or.inl rfl) rfl rfl rfl rfl (fun _ _ _ => rfl) (z1_tk hf8 (z1_tk hf4 ht1 (by decide)) (by decide)) rfl ?_
  exact za_return rfl dX4_init_20 h
theorem sX4_init {d b : Nat} {v0 : Nat} {T : zT} {I : zI} {L : zL} {R : zR} {P : zP} (h : zAW mX4_init d b 0 [(0, .ref v0)] [] T I L R P) : zMet mX4_init d b [.ref v0] T I L R P := zMet_of (by decide +kernel) rfl (Nat.le_of_ble_eq_true rfl) rfl h
/-! TwoTongues$Store.become (LTwoTongues$Store;)V -/
def dkwX4_become_2 : List UInt8 := [177]
abbrev dktX4_become_2 : List UInt8 := dkwX4_become_2 ++ []
def dkwX4_become_1 : List UInt8 := [180, 0, 9, 28, 46, 79, 42, 180, 0, 15, 28, 43, 180, 0, 15, 28, 46, 79, 132, 2, 1, 167, 255, 221]
abbrev dktX4_become_1 : List UInt8 := dkwX4_become_1 ++ dktX4_become_2
def dkwX4_become_0 : List UInt8 := [42, 43, 180, 0, 18, 181, 0, 18, 3, 61, 28, 42, 180, 0, 18, 162, 0, 33, 42, 180, 0, 9, 28, 43]
abbrev dktX4_become_0 : List UInt8 := dkwX4_become_0 ++ dktX4_become_1
theorem dksX4_become_0 : cX4_become.data.toList.drop 0 = dktX4_become_0 := by decide +kernel
theorem dksX4_become_1 : cX4_become.data.toList.drop 24 = dktX4_become_1 := dk_seg dksX4_become_0 24 rfl rfl
theorem dksX4_become_2 : cX4_become.data.toList.drop 48 = dktX4_become_2 := dk_seg dksX4_become_1 24 rfl rfl
theorem dX4_become_0 : decode cX4_become 0 = .ok (.aload_n 0, 1) := dk_42 (dk_at dksX4_become_0 0 rfl rfl)
theorem dX4_become_1 : decode cX4_become 1 = .ok (.aload_n 1, 1) := dk_43 (dk_at dksX4_become_0 1 rfl rfl)
theorem dX4_become_2 : decode cX4_become 2 = .ok (.getfield 18, 3) := dk_180 0 18 (dk_at dksX4_become_0 2 rfl rfl)
theorem dX4_become_5 : decode cX4_become 5 = .ok (.putfield 18, 3) := dk_181 0 18 (dk_at dksX4_become_0 5 rfl rfl)
theorem dX4_become_8 : decode cX4_become 8 = .ok (.iconst 0, 1) := dk_3 (dk_at dksX4_become_0 8 rfl rfl)
theorem dX4_become_9 : decode cX4_become 9 = .ok (.istore_n 2, 1) := dk_61 (dk_at dksX4_become_0 9 rfl rfl)
theorem dX4_become_10 : decode cX4_become 10 = .ok (.iload_n 2, 1) := dk_28 (dk_at dksX4_become_0 10 rfl rfl)
theorem dX4_become_11 : decode cX4_become 11 = .ok (.aload_n 0, 1) := dk_42 (dk_at dksX4_become_0 11 rfl rfl)
theorem dX4_become_12 : decode cX4_become 12 = .ok (.getfield 18, 3) := dk_180 0 18 (dk_at dksX4_become_0 12 rfl rfl)
theorem dX4_become_15 : decode cX4_become 15 = .ok (.if_icmp .ge 33, 3) := dk_162 0 33 (dk_at dksX4_become_0 15 rfl rfl)
theorem dX4_become_18 : decode cX4_become 18 = .ok (.aload_n 0, 1) := dk_42 (dk_at dksX4_become_0 18 rfl rfl)
theorem dX4_become_19 : decode cX4_become 19 = .ok (.getfield 9, 3) := dk_180 0 9 (dk_at dksX4_become_0 19 rfl rfl)
theorem dX4_become_22 : decode cX4_become 22 = .ok (.iload_n 2, 1) := dk_28 (dk_at dksX4_become_0 22 rfl rfl)
theorem dX4_become_23 : decode cX4_become 23 = .ok (.aload_n 1, 1) := dk_43 (dk_at dksX4_become_0 23 rfl rfl)
theorem dX4_become_24 : decode cX4_become 24 = .ok (.getfield 9, 3) := dk_180 0 9 (dk_at dksX4_become_1 0 rfl rfl)
theorem dX4_become_27 : decode cX4_become 27 = .ok (.iload_n 2, 1) := dk_28 (dk_at dksX4_become_1 3 rfl rfl)
theorem dX4_become_28 : decode cX4_become 28 = .ok (.iaload, 1) := dk_46 (dk_at dksX4_become_1 4 rfl rfl)
theorem dX4_become_29 : decode cX4_become 29 = .ok (.iastore, 1) := dk_79 (dk_at dksX4_become_1 5 rfl rfl)
theorem dX4_become_30 : decode cX4_become 30 = .ok (.aload_n 0, 1) := dk_42 (dk_at dksX4_become_1 6 rfl rfl)
theorem dX4_become_31 : decode cX4_become 31 = .ok (.getfield 15, 3) := dk_180 0 15 (dk_at dksX4_become_1 7 rfl rfl)
theorem dX4_become_34 : decode cX4_become 34 = .ok (.iload_n 2, 1) := dk_28 (dk_at dksX4_become_1 10 rfl rfl)
theorem dX4_become_35 : decode cX4_become 35 = .ok (.aload_n 1, 1) := dk_43 (dk_at dksX4_become_1 11 rfl rfl)
theorem dX4_become_36 : decode cX4_become 36 = .ok (.getfield 15, 3) := dk_180 0 15 (dk_at dksX4_become_1 12 rfl rfl)
theorem dX4_become_39 : decode cX4_become 39 = .ok (.iload_n 2, 1) := dk_28 (dk_at dksX4_become_1 15 rfl rfl)
theorem dX4_become_40 : decode cX4_become 40 = .ok (.iaload, 1) := dk_46 (dk_at dksX4_become_1 16 rfl rfl)
theorem dX4_become_41 : decode cX4_become 41 = .ok (.iastore, 1) := dk_79 (dk_at dksX4_become_1 17 rfl rfl)
theorem dX4_become_42 : decode cX4_become 42 = .ok (.iinc 2 1, 3) := dk_132 2 1 (dk_at dksX4_become_1 18 rfl rfl)
theorem dX4_become_45 : decode cX4_become 45 = .ok (.goto (-35), 3) := dk_167 255 221 (dk_at dksX4_become_1 21 rfl rfl)
theorem dX4_become_48 : decode cX4_become 48 = .ok (.return_, 1) := dk_177 (dk_at dksX4_become_2 0 rfl rfl)
theorem gX4_become_0 {v0 : Nat} {v1 : Nat} {T : zT} {I : zI} {L : zL} {R : zR} {P : zP} (h : (T v1).1 = 4 ∧ (T v0).1 = 4 ∧ zAW mX4_become 1 0 10 [(0, .ref v0), (1, .ref v1), (2, .int (0 : Int32))] [] T (z2 I v0 2 (I v1 2)) L R P) : zAW mX4_become 1 0 0 [(0, .ref v0), (1, .ref v1)] [] T I L R P := by
  refine za_aload_n (pc' := 1) 0 dX4_become_0 rfl rfl rfl ?_
  refine za_aload_n (pc' := 2) 1 dX4_become_1 rfl rfl rfl ?_
  obtain ⟨ht1, h⟩ := h
  refine za_get (fi := 2) (v := .int (I v1 2)) (pc' := 5) dX4_become_2 zc3 (by decide) in_X4 (by decide) q230 (Or.inl rfl) ht1 rfl rfl ?_
  obtain ⟨ht2, h⟩ := h
  refine za_putI (fi := 2) (pc' := 8) dX4_become_5 zc3 (by decide) in_X4 zok3 znm3 (by decide) q230 (Or.inl rfl) rfl rfl (fun _ _ _ => rfl) rfl rfl ht2 rfl ?_
  refine za_iconst (pc' := 9) dX4_become_8 zi_0 rfl ?_
  refine za_istore_n (pc' := 10) (l' := [(2, .int (0 : Int32)), (0, .ref v0), (1, .ref v1)]) dX4_become_9 rfl (Nat.le_of_ble_eq_true rfl) rfl rfl ?_
  exact zAW_sub [1, 2, 0] rfl h
theorem gX4_become_10 {v0 : Nat} {v1 : Nat} {v2 : Int32} {T : zT} {I : zI} {L : zL} {R : zR} {P : zP} (h : (T v0).1 = 4 ∧ (((I v0 2) ≤ v2 → P 0 (.int 0) T I L R) ∧ (¬ (I v0 2) ≤ v2 → (T v1).1 = 4 ∧ (T (R v1 0)).1 = 100 ∧ vp_in v2 ((T (R v1 0)).2) ∧ (T (R v0 0)).1 = 100 ∧ vp_in v2 ((T (R v0 0)).2) ∧ (T (R v1 1)).1 = 100 ∧ vp_in v2 ((T (R v1 1)).2) ∧ (T (R v0 1)).1 = 100 ∧ vp_in v2 ((T (R v0 1)).2) ∧ zAW mX4_become 1 0 10 [(0, .ref v0), (1, .ref v1), (2, .int (v2 + (1 : Int32)))] [] T (z2 (z2 I (R v0 0) (v2.toNatClampNeg) (I (R v1 0) (v2.toNatClampNeg))) (R v0 1) (v2.toNatClampNeg) ((z2 I (R v0 0) (v2.toNatClampNeg) (I (R v1 0) (v2.toNatClampNeg))) (R v1 1) (v2.toNatClampNeg))) L R P))) : zAW mX4_become 1 0 10 [(0, .ref v0), (1, .ref v1), (2, .int v2)] [] T I L R P := by
  refine za_iload_n (pc' := 11) 2 dX4_become_10 rfl rfl rfl ?_
  refine za_aload_n (pc' := 12) 0 dX4_become_11 rfl rfl rfl ?_
  obtain ⟨ht3, h⟩ := h
  refine za_get (fi := 2) (v := .int (I v0 2)) (pc' := 15) dX4_become_12 zc3 (by decide) in_X4 (by decide) q230 (Or.inl rfl) ht3 rfl rfl ?_
  refine za_icmp_ge (pc' := 18) (tgt := 48) dX4_become_15 (by decide) rfl (fun c9 => ?_) (fun c9 => ?_)
  · replace h := h.1 c9
    exact za_return rfl dX4_become_48 h
  · replace h := h.2 c9
    refine za_aload_n (pc' := 19) 0 dX4_become_18 rfl rfl rfl ?_
    refine za_get (fi := 0) (v := .ref (R v0 0)) (pc' := 22) dX4_become_19 zc3 (by decide) in_X4 (by decide) q226 (Or.inl rfl) ht3 rfl rfl ?_
    refine za_iload_n (pc' := 23) 2 dX4_become_22 rfl rfl rfl ?_
    refine za_aload_n (pc' := 24) 1 dX4_become_23 rfl rfl rfl ?_
    obtain ⟨ht4, h⟩ := h
    refine za_get (fi := 0) (v := .ref (R v1 0)) (pc' := 27) dX4_become_24 zc3 (by decide) in_X4 (by decide) q226 (Or.inl rfl) ht4 rfl rfl ?_
    refine za_iload_n (pc' := 28) 2 dX4_become_27 rfl rfl rfl ?_
    obtain ⟨ht5, h⟩ := h
    obtain ⟨hi6, h⟩ := h
    refine za_iald (v := .int (I (R v1 0) (v2.toNatClampNeg))) (pc' := 29) dX4_become_28 (zpair ht5) hi6 rfl rfl ?_
    obtain ⟨ht7, h⟩ := h
    obtain ⟨hi8, h⟩ := h
    refine za_iast (k := v2.toNatClampNeg) (pc' := 30) dX4_become_29 (zpair ht7) hi8 rfl rfl ?_
    refine za_aload_n (pc' := 31) 0 dX4_become_30 rfl rfl rfl ?_
    refine za_get (fi := 1) (v := .ref (R v0 1)) (pc' := 34) dX4_become_31 zc3 (by decide) in_X4 (by decide) q228 (Or.inl rfl) ht3 rfl rfl ?_
    refine za_iload_n (pc' := 35) 2 dX4_become_34 rfl rfl rfl ?_
    refine za_aload_n (pc' := 36) 1 dX4_become_35 rfl rfl rfl ?_
    refine za_get (fi := 1) (v := .ref (R v1 1)) (pc' := 39) dX4_become_36 zc3 (by decide) in_X4 (by decide) q228 (Or.inl rfl) ht4 rfl rfl ?_
    refine za_iload_n (pc' := 40) 2 dX4_become_39 rfl rfl rfl ?_
    obtain ⟨ht9, h⟩ := h
    obtain ⟨hi10, h⟩ := h
    refine za_iald (v := .int ((z2 I (R v0 0) (v2.toNatClampNeg) (I (R v1 0) (v2.toNatClampNeg))) (R v1 1) (v2.toNatClampNeg))) (pc' := 41) dX4_become_40 (zpair ht9) hi10 rfl rfl ?_
    obtain ⟨ht11, h⟩ := h
    obtain ⟨hi12, h⟩ := h
    refine za_iast (k := v2.toNatClampNeg) (pc' := 42) dX4_become_41 (zpair ht11) hi12 rfl rfl ?_
    refine za_iinc (pc' := 45) (l' := [(2, .int (v2 + (1 : Int32))), (0, .ref v0), (1, .ref v1)]) 2 dX4_become_42 rfl (zinc zi_1) (Nat.le_of_ble_eq_true rfl) rfl rfl ?_
    refine za_goto (tgt := 10) dX4_become_45 (by decide) ?_
    exact zAW_sub [1, 2, 0] rfl h
theorem sX4_become {d b : Nat} {v0 : Nat} {v1 : Nat} {T : zT} {I : zI} {L : zL} {R : zR} {P : zP} (h : zAW mX4_become d b 0 [(0, .ref v0), (1, .ref v1)] [] T I L R P) : zMet mX4_become d b [.ref v0, .ref v1] T I L R P := zMet_of (by decide +kernel) rfl (Nat.le_of_ble_eq_true rfl) rfl h
/-! TwoTongues$Store.find (I)I -/
def dkwX4_find_1 : List UInt8 := [132, 2, 1, 167, 255, 233, 2, 172]
abbrev dktX4_find_1 : List UInt8 := dkwX4_find_1 ++ []
def dkwX4_find_0 : List UInt8 := [3, 61, 28, 42, 180, 0, 18, 162, 0, 21, 42, 180, 0, 9, 28, 46, 27, 160, 0, 5, 28, 172]
abbrev dktX4_find_0 : List UInt8 := dkwX4_find_0 ++ dktX4_find_1
theorem dksX4_find_0 : cX4_find.data.toList.drop 0 = dktX4_find_0 := by decide +kernel
theorem dksX4_find_1 : cX4_find.data.toList.drop 22 = dktX4_find_1 := dk_seg dksX4_find_0 22 rfl rfl
theorem dX4_find_0 : decode cX4_find 0 = .ok (.iconst 0, 1) := dk_3 (dk_at dksX4_find_0 0 rfl rfl)
theorem dX4_find_1 : decode cX4_find 1 = .ok (.istore_n 2, 1) := dk_61 (dk_at dksX4_find_0 1 rfl rfl)
theorem dX4_find_2 : decode cX4_find 2 = .ok (.iload_n 2, 1) := dk_28 (dk_at dksX4_find_0 2 rfl rfl)
theorem dX4_find_3 : decode cX4_find 3 = .ok (.aload_n 0, 1) := dk_42 (dk_at dksX4_find_0 3 rfl rfl)
theorem dX4_find_4 : decode cX4_find 4 = .ok (.getfield 18, 3) := dk_180 0 18 (dk_at dksX4_find_0 4 rfl rfl)
theorem dX4_find_7 : decode cX4_find 7 = .ok (.if_icmp .ge 21, 3) := dk_162 0 21 (dk_at dksX4_find_0 7 rfl rfl)
theorem dX4_find_10 : decode cX4_find 10 = .ok (.aload_n 0, 1) := dk_42 (dk_at dksX4_find_0 10 rfl rfl)
theorem dX4_find_11 : decode cX4_find 11 = .ok (.getfield 9, 3) := dk_180 0 9 (dk_at dksX4_find_0 11 rfl rfl)
theorem dX4_find_14 : decode cX4_find 14 = .ok (.iload_n 2, 1) := dk_28 (dk_at dksX4_find_0 14 rfl rfl)
theorem dX4_find_15 : decode cX4_find 15 = .ok (.iaload, 1) := dk_46 (dk_at dksX4_find_0 15 rfl rfl)
theorem dX4_find_16 : decode cX4_find 16 = .ok (.iload_n 1, 1) := dk_27 (dk_at dksX4_find_0 16 rfl rfl)
theorem dX4_find_17 : decode cX4_find 17 = .ok (.if_icmp .ne 5, 3) := dk_160 0 5 (dk_at dksX4_find_0 17 rfl rfl)
theorem dX4_find_20 : decode cX4_find 20 = .ok (.iload_n 2, 1) := dk_28 (dk_at dksX4_find_0 20 rfl rfl)
theorem dX4_find_21 : decode cX4_find 21 = .ok (.ireturn, 1) := dk_172 (dk_at dksX4_find_0 21 rfl rfl)
theorem dX4_find_22 : decode cX4_find 22 = .ok (.iinc 2 1, 3) := dk_132 2 1 (dk_at dksX4_find_1 0 rfl rfl)
theorem dX4_find_25 : decode cX4_find 25 = .ok (.goto (-23), 3) := dk_167 255 233 (dk_at dksX4_find_1 3 rfl rfl)
theorem dX4_find_28 : decode cX4_find 28 = .ok (.iconst (-1), 1) := dk_2 (dk_at dksX4_find_1 6 rfl rfl)
theorem dX4_find_29 : decode cX4_find 29 = .ok (.ireturn, 1) := dk_172 (dk_at dksX4_find_1 7 rfl rfl)
theorem gX4_find_0 {v0 : Nat} {v1 : Int32} {T : zT} {I : zI} {L : zL} {R : zR} {P : zP} (h : zAW mX4_find 1 0 2 [(0, .ref v0), (1, .int v1), (2, .int (0 : Int32))] [] T I L R P) : zAW mX4_find 1 0 0 [(0, .ref v0), (1, .int v1)] [] T I L R P := by
  refine za_iconst (pc' := 1) dX4_find_0 zi_0 rfl ?_
  refine za_istore_n (pc' := 2) (l' := [(2, .int (0 : Int32)), (0, .ref v0), (1, .int v1)]) dX4_find_1 rfl (Nat.le_of_ble_eq_true rfl) rfl rfl ?_
  exact zAW_sub [1, 2, 0] rfl h
theorem gX4_find_2 {v0 : Nat} {v1 : Int32} {v2 : Int32} {T : zT} {I : zI} {L : zL} {R : zR} {P : zP} (h : (T v0).1 = 4 ∧ (((I v0 2) ≤ v2 → P 0 (.int (-1 : Int32)) T I L R) ∧ (¬ (I v0 2) ≤ v2 → (T (R v0 0)).1 = 100 ∧ vp_in v2 ((T (R v0 0)).2) ∧ (((I (R v0 0) (v2.toNatClampNeg)) = v1 → P 0 (.int v2) T I L R) ∧ (¬ (I (R v0 0) (v2.toNatClampNeg)) = v1 → zAW mX4_find 1 0 2 [(0, .ref v0), (1, .int v1), (2, .int (v2 + (1 : Int32)))] [] T I L R P))))) : zAW mX4_find 1 0 2 [(0, .ref v0), (1, .int v1), (2, .int v2)] [] T I L R P := by
  refine za_iload_n (pc' := 3) 2 dX4_find_2 rfl rfl rfl ?_
  refine za_aload_n (pc' := 4) 0 dX4_find_3 rfl rfl rfl ?_
  obtain ⟨ht1, h⟩ := h
  refine za_get (fi := 2) (v := .int (I v0 2)) (pc' := 7) dX4_find_4 zc3 (by decide) in_X4 (by decide) q230 (Or.inl rfl) ht1 rfl rfl ?_
  refine za_icmp_ge (pc' := 10) (tgt := 28) dX4_find_7 (by decide) rfl (fun c9 => ?_) (fun c9 => ?_)
  · replace h := h.1 c9
    refine za_iconst (pc' := 29) dX4_find_28 zi_m1 rfl ?_
    exact za_ireturn rfl dX4_find_29 h
  · replace h := h.2 c9
    refine za_aload_n (pc' := 11) 0 dX4_find_10 rfl rfl rfl ?_
    refine za_get (fi := 0) (v := .ref (R v0 0)) (pc' := 14) dX4_find_11 zc3 (by decide) in_X4 (by decide) q226 (Or.inl rfl) ht1 rfl rfl ?_
    refine za_iload_n (pc' := 15) 2 dX4_find_14 rfl rfl rfl ?_
    obtain ⟨ht2, h⟩ := h
    obtain ⟨hi3, h⟩ := h
    refine za_iald (v := .int (I (R v0 0) (v2.toNatClampNeg))) (pc' := 16) dX4_find_15 (zpair ht2) hi3 rfl rfl ?_
    refine za_iload_n (pc' := 17) 1 dX4_find_16 rfl rfl rfl ?_
    refine za_icmp_ne (pc' := 20) (tgt := 22) dX4_find_17 (by decide) rfl (fun c9 => ?_) (fun c9 => ?_)
    · replace h := h.2 c9
      refine za_iinc (pc' := 25) (l' := [(2, .int (v2 + (1 : Int32))), (0, .ref v0), (1, .int v1)]) 2 dX4_find_22 rfl (zinc zi_1) (Nat.le_of_ble_eq_true rfl) rfl rfl ?_
      refine za_goto (tgt := 2) dX4_find_25 (by decide) ?_
      exact zAW_sub [1, 2, 0] rfl h
    · replace h := h.1 c9
      refine za_iload_n (pc' := 21) 2 dX4_find_20 rfl rfl rfl ?_
      exact za_ireturn rfl dX4_find_21 h
theorem sX4_find {d b : Nat} {v0 : Nat} {v1 : Int32} {T : zT} {I : zI} {L : zL} {R : zR} {P : zP} (h : zAW mX4_find d b 0 [(0, .ref v0), (1, .int v1)] [] T I L R P) : zMet mX4_find d b [.ref v0, .int v1] T I L R P := zMet_of (by decide +kernel) rfl (Nat.le_of_ble_eq_true rfl) rfl h
/-! TwoTongues$Store.add (II)V -/
def dkwX4_add_1 : List UInt8 := [180, 0, 18, 4, 96, 181, 0, 18, 177]
abbrev dktX4_add_1 : List UInt8 := dkwX4_add_1 ++ []
def dkwX4_add_0 : List UInt8 := [42, 180, 0, 9, 42, 180, 0, 18, 27, 79, 42, 180, 0, 15, 42, 180, 0, 18, 28, 79, 42, 89]
abbrev dktX4_add_0 : List UInt8 := dkwX4_add_0 ++ dktX4_add_1
theorem dksX4_add_0 : cX4_add.data.toList.drop 0 = dktX4_add_0 := by decide +kernel
theorem dksX4_add_1 : cX4_add.data.toList.drop 22 = dktX4_add_1 := dk_seg dksX4_add_0 22 rfl rfl
theorem dX4_add_0 : decode cX4_add 0 = .ok (.aload_n 0, 1) := dk_42 (dk_at dksX4_add_0 0 rfl rfl)
theorem dX4_add_1 : decode cX4_add 1 = .ok (.getfield 9, 3) := dk_180 0 9 (dk_at dksX4_add_0 1 rfl rfl)
theorem dX4_add_4 : decode cX4_add 4 = .ok (.aload_n 0, 1) := dk_42 (dk_at dksX4_add_0 4 rfl rfl)
theorem dX4_add_5 : decode cX4_add 5 = .ok (.getfield 18, 3) := dk_180 0 18 (dk_at dksX4_add_0 5 rfl rfl)
theorem dX4_add_8 : decode cX4_add 8 = .ok (.iload_n 1, 1) := dk_27 (dk_at dksX4_add_0 8 rfl rfl)
theorem dX4_add_9 : decode cX4_add 9 = .ok (.iastore, 1) := dk_79 (dk_at dksX4_add_0 9 rfl rfl)
theorem dX4_add_10 : decode cX4_add 10 = .ok (.aload_n 0, 1) := dk_42 (dk_at dksX4_add_0 10 rfl rfl)
theorem dX4_add_11 : decode cX4_add 11 = .ok (.getfield 15, 3) := dk_180 0 15 (dk_at dksX4_add_0 11 rfl rfl)
theorem dX4_add_14 : decode cX4_add 14 = .ok (.aload_n 0, 1) := dk_42 (dk_at dksX4_add_0 14 rfl rfl)
theorem dX4_add_15 : decode cX4_add 15 = .ok (.getfield 18, 3) := dk_180 0 18 (dk_at dksX4_add_0 15 rfl rfl)
theorem dX4_add_18 : decode cX4_add 18 = .ok (.iload_n 2, 1) := dk_28 (dk_at dksX4_add_0 18 rfl rfl)
theorem dX4_add_19 : decode cX4_add 19 = .ok (.iastore, 1) := dk_79 (dk_at dksX4_add_0 19 rfl rfl)
theorem dX4_add_20 : decode cX4_add 20 = .ok (.aload_n 0, 1) := dk_42 (dk_at dksX4_add_0 20 rfl rfl)
theorem dX4_add_21 : decode cX4_add 21 = .ok (.dup, 1) := dk_89 (dk_at dksX4_add_0 21 rfl rfl)
theorem dX4_add_22 : decode cX4_add 22 = .ok (.getfield 18, 3) := dk_180 0 18 (dk_at dksX4_add_1 0 rfl rfl)
theorem dX4_add_25 : decode cX4_add 25 = .ok (.iconst 1, 1) := dk_4 (dk_at dksX4_add_1 3 rfl rfl)
theorem dX4_add_26 : decode cX4_add 26 = .ok (.iadd, 1) := dk_96 (dk_at dksX4_add_1 4 rfl rfl)
theorem dX4_add_27 : decode cX4_add 27 = .ok (.putfield 18, 3) := dk_181 0 18 (dk_at dksX4_add_1 5 rfl rfl)
theorem dX4_add_30 : decode cX4_add 30 = .ok (.return_, 1) := dk_177 (dk_at dksX4_add_1 8 rfl rfl)
theorem gX4_add_0 {v0 : Nat} {v1 : Int32} {v2 : Int32} {T : zT} {I : zI} {L : zL} {R : zR} {P : zP} (h : (T v0).1 = 4 ∧ (T (R v0 0)).1 = 100 ∧ vp_in (I v0 2) ((T (R v0 0)).2) ∧ (T (R v0 1)).1 = 100 ∧ vp_in ((z2 I (R v0 0) ((I v0 2).toNatClampNeg) v1) v0 2) ((T (R v0 1)).2) ∧ P 0 (.int 0) T (z2 (z2 (z2 I (R v0 0) ((I v0 2).toNatClampNeg) v1) (R v0 1) (((z2 I (R v0 0) ((I v0 2).toNatClampNeg) v1) v0 2).toNatClampNeg) v2) v0 2 (((z2 (z2 I (R v0 0) ((I v0 2).toNatClampNeg) v1) (R v0 1) (((z2 I (R v0 0) ((I v0 2).toNatClampNeg) v1) v0 2).toNatClampNeg) v2) v0 2) + (1 : Int32))) L R) : zAW mX4_add 1 0 0 [(0, .ref v0), (1, .int v1), (2, .int v2)] [] T I L R P := by
  refine za_aload_n (pc' := 1) 0 dX4_add_0 rfl rfl rfl ?_
  obtain ⟨ht1, h⟩ := h
  refine za_get (fi := 0) (v := .ref (R v0 0)) (pc' := 4) dX4_add_1 zc3 (by decide) in_X4 (by decide) q226 (Or.inl rfl) ht1 rfl rfl ?_
  refine za_aload_n (pc' := 5) 0 dX4_add_4 rfl rfl rfl ?_
  refine za_get (fi := 2) (v := .int (I v0 2)) (pc' := 8) dX4_add_5 zc3 (by decide) in_X4 (by decide) q230 (Or.inl rfl) ht1 rfl rfl ?_
  refine za_iload_n (pc' := 9) 1 dX4_add_8 rfl rfl rfl ?_
  obtain ⟨ht2, h⟩ := h
  obtain ⟨hi3, h⟩ := h
  refine za_iast (k := (I v0 2).toNatClampNeg) (pc' := 10) dX4_add_9 (zpair ht2) hi3 rfl rfl ?_
  refine za_aload_n (pc' := 11) 0 dX4_add_10 rfl rfl rfl ?_
  refine za_get (fi := 1) (v := .ref (R v0 1)) (pc' := 14) dX4_add_11 zc3 (by decide) in_X4 (by decide) q228 (Or.inl rfl) ht1 rfl rfl ?_
  refine za_aload_n (pc' := 15) 0 dX4_add_14 rfl rfl rfl ?_
  refine za_get (fi := 2) (v := .int ((z2 I (R v0 0) ((I v0 2).toNatClampNeg) v1) v0 2)) (pc' := 18) dX4_add_15 zc3 (by decide) in_X4 (by decide) q230 (Or.inl rfl) ht1 rfl rfl ?_
  refine za_iload_n (pc' := 19) 2 dX4_add_18 rfl rfl rfl ?_
  obtain ⟨ht4, h⟩ := h
  obtain ⟨hi5, h⟩ := h
  refine za_iast (k := ((z2 I (R v0 0) ((I v0 2).toNatClampNeg) v1) v0 2).toNatClampNeg) (pc' := 20) dX4_add_19 (zpair ht4) hi5 rfl rfl ?_
  refine za_aload_n (pc' := 21) 0 dX4_add_20 rfl rfl rfl ?_
  refine za_dup (pc' := 22) dX4_add_21 rfl rfl ?_
  refine za_get (fi := 2) (v := .int ((z2 (z2 I (R v0 0) ((I v0 2).toNatClampNeg) v1) (R v0 1) (((z2 I (R v0 0) ((I v0 2).toNatClampNeg) v1) v0 2).toNatClampNeg) v2) v0 2)) (pc' := 25) dX4_add_22 zc3 (by decide) in_X4 (by decide) q230 (Or.inl rfl) ht1 rfl rfl ?_
  refine za_iconst (pc' := 26) dX4_add_25 zi_1 rfl ?_
  refine za_iadd (pc' := 27) dX4_add_26 rfl ?_
  refine za_putI (fi := 2) (pc' := 30) dX4_add_27 zc3 (by decide) in_X4 zok3 znm3 (by decide) q230 (Or.inl rfl) rfl rfl (fun _ _ _ => rfl) rfl rfl ht1 rfl ?_
  exact za_return rfl dX4_add_30 h
theorem sX4_add {d b : Nat} {v0 : Nat} {v1 : Int32} {v2 : Int32} {T : zT} {I : zI} {L : zL} {R : zR} {P : zP} (h : zAW mX4_add d b 0 [(0, .ref v0), (1, .int v1), (2, .int v2)] [] T I L R P) : zMet mX4_add d b [.ref v0, .int v1, .int v2] T I L R P := zMet_of (by decide +kernel) rfl (Nat.le_of_ble_eq_true rfl) rfl h
/-! TwoTongues$Store.length (I)I -/
def dkwX4_length_1 : List UInt8 := [172]
abbrev dktX4_length_1 : List UInt8 := dkwX4_length_1 ++ []
def dkwX4_length_0 : List UInt8 := [3, 61, 28, 16, 6, 162, 0, 18, 42, 27, 28, 182, 0, 22, 153, 0, 9, 132, 2, 1, 167, 255, 238, 28]
abbrev dktX4_length_0 : List UInt8 := dkwX4_length_0 ++ dktX4_length_1
theorem dksX4_length_0 : cX4_length.data.toList.drop 0 = dktX4_length_0 := by decide +kernel
theorem dksX4_length_1 : cX4_length.data.toList.drop 24 = dktX4_length_1 := dk_seg dksX4_length_0 24 rfl rfl
theorem dX4_length_0 : decode cX4_length 0 = .ok (.iconst 0, 1) := dk_3 (dk_at dksX4_length_0 0 rfl rfl)
theorem dX4_length_1 : decode cX4_length 1 = .ok (.istore_n 2, 1) := dk_61 (dk_at dksX4_length_0 1 rfl rfl)
theorem dX4_length_2 : decode cX4_length 2 = .ok (.iload_n 2, 1) := dk_28 (dk_at dksX4_length_0 2 rfl rfl)
theorem dX4_length_3 : decode cX4_length 3 = .ok (.bipush 6, 2) := dk_16 6 (dk_at dksX4_length_0 3 rfl rfl)
theorem dX4_length_5 : decode cX4_length 5 = .ok (.if_icmp .ge 18, 3) := dk_162 0 18 (dk_at dksX4_length_0 5 rfl rfl)
theorem dX4_length_8 : decode cX4_length 8 = .ok (.aload_n 0, 1) := dk_42 (dk_at dksX4_length_0 8 rfl rfl)
theorem dX4_length_9 : decode cX4_length 9 = .ok (.iload_n 1, 1) := dk_27 (dk_at dksX4_length_0 9 rfl rfl)
theorem dX4_length_10 : decode cX4_length 10 = .ok (.iload_n 2, 1) := dk_28 (dk_at dksX4_length_0 10 rfl rfl)
theorem dX4_length_11 : decode cX4_length 11 = .ok (.invokevirtual 22, 3) := dk_182 0 22 (dk_at dksX4_length_0 11 rfl rfl)
theorem dX4_length_14 : decode cX4_length 14 = .ok (.ifCond .eq 9, 3) := dk_153 0 9 (dk_at dksX4_length_0 14 rfl rfl)
theorem dX4_length_17 : decode cX4_length 17 = .ok (.iinc 2 1, 3) := dk_132 2 1 (dk_at dksX4_length_0 17 rfl rfl)
theorem dX4_length_20 : decode cX4_length 20 = .ok (.goto (-18), 3) := dk_167 255 238 (dk_at dksX4_length_0 20 rfl rfl)
theorem dX4_length_23 : decode cX4_length 23 = .ok (.iload_n 2, 1) := dk_28 (dk_at dksX4_length_0 23 rfl rfl)
theorem dX4_length_24 : decode cX4_length 24 = .ok (.ireturn, 1) := dk_172 (dk_at dksX4_length_1 0 rfl rfl)
theorem gX4_length_0 {v0 : Nat} {v1 : Int32} {T : zT} {I : zI} {L : zL} {R : zR} {P : zP} (h : zAW mX4_length 2 0 2 [(0, .ref v0), (1, .int v1), (2, .int (0 : Int32))] [] T I L R P) : zAW mX4_length 2 0 0 [(0, .ref v0), (1, .int v1)] [] T I L R P := by
  refine za_iconst (pc' := 1) dX4_length_0 zi_0 rfl ?_
  refine za_istore_n (pc' := 2) (l' := [(2, .int (0 : Int32)), (0, .ref v0), (1, .int v1)]) dX4_length_1 rfl (Nat.le_of_ble_eq_true rfl) rfl rfl ?_
  exact zAW_sub [1, 2, 0] rfl h
theorem gX4_length_2 {v0 : Nat} {v1 : Int32} {v2 : Int32} {T : zT} {I : zI} {L : zL} {R : zR} {P : zP} (h : (((6 : Int32) ≤ v2 → P 0 (.int v2) T I L R) ∧ (¬ (6 : Int32) ≤ v2 → (T v0).1 = 4 ∧ zMet mX4_letter 1 0 [.ref v0, .int v1, .int v2] T I L R (zqI_ T I L R  (fun (r1 : Int32)  => ((r1 = 0 → P 0 (.int v2) T I L R) ∧ (¬ r1 = 0 → zAW mX4_length 2 0 2 [(0, .ref v0), (1, .int v1), (2, .int (v2 + (1 : Int32)))] [] T I L R P))))))) : zAW mX4_length 2 0 2 [(0, .ref v0), (1, .int v1), (2, .int v2)] [] T I L R P := by
  refine za_iload_n (pc' := 3) 2 dX4_length_2 rfl rfl rfl ?_
  refine za_bipush (pc' := 5) dX4_length_3 zb8_6 rfl ?_
  refine za_icmp_ge (pc' := 8) (tgt := 23) dX4_length_5 (by decide) rfl (fun c9 => ?_) (fun c9 => ?_)
  · replace h := h.1 c9
    refine za_iload_n (pc' := 24) 2 dX4_length_23 rfl rfl rfl ?_
    exact za_ireturn rfl dX4_length_24 h
  · replace h := h.2 c9
    refine za_aload_n (pc' := 9) 0 dX4_length_8 rfl rfl rfl ?_
    refine za_iload_n (pc' := 10) 1 dX4_length_9 rfl rfl rfl ?_
    refine za_iload_n (pc' := 11) 2 dX4_length_10 rfl rfl rfl ?_
    obtain ⟨ht2, h⟩ := h
    refine za_callV (κ := v0) (M2 := mX4_letter) (d2 := 1) (b2 := 0) (n := 2) (As := [.int v1, .int v2]) (st := []) (pc' := 14) zc3 (by decide) ht2 dX4_length_11 rfl (lw_V q1120 q1121 q1122 q134 q1123) ⟨rfl, hd_X4_letter⟩ rfl (by decide) (by decide) (Nat.zero_le _) (Or.inl rfl) (Nat.le_of_ble_eq_true rfl) h (zqI__k rfl (fun r1 h => ?_)) (fun _ _ _ _ _ _ h9 h8 => absurd h8.1 h9) rfl
    refine za_if_eq (pc' := 17) (tgt := 23) dX4_length_14 (by decide) rfl (fun c9 => ?_) (fun c9 => ?_)
    · replace h := h.1 c9
      refine za_iload_n (pc' := 24) 2 dX4_length_23 rfl rfl rfl ?_
      exact za_ireturn rfl dX4_length_24 h
    · replace h := h.2 c9
      refine za_iinc (pc' := 20) (l' := [(2, .int (v2 + (1 : Int32))), (0, .ref v0), (1, .int v1)]) 2 dX4_length_17 rfl (zinc zi_1) (Nat.le_of_ble_eq_true rfl) rfl rfl ?_
      refine za_goto (tgt := 2) dX4_length_20 (by decide) ?_
      exact zAW_sub [1, 2, 0] rfl h
theorem sX4_length {d b : Nat} {v0 : Nat} {v1 : Int32} {T : zT} {I : zI} {L : zL} {R : zR} {P : zP} (h : zAW mX4_length d b 0 [(0, .ref v0), (1, .int v1)] [] T I L R P) : zMet mX4_length d b [.ref v0, .int v1] T I L R P := zMet_of (by decide +kernel) rfl (Nat.le_of_ble_eq_true rfl) rfl h
/-! TwoTongues$Store.letter (II)I -/
def dkwX4_letter_0 : List UInt8 := [42, 180, 0, 9, 27, 46, 8, 8, 28, 100, 104, 122, 16, 31, 126, 172]
abbrev dktX4_letter_0 : List UInt8 := dkwX4_letter_0 ++ []
theorem dksX4_letter_0 : cX4_letter.data.toList.drop 0 = dktX4_letter_0 := by decide +kernel
theorem dX4_letter_0 : decode cX4_letter 0 = .ok (.aload_n 0, 1) := dk_42 (dk_at dksX4_letter_0 0 rfl rfl)
theorem dX4_letter_1 : decode cX4_letter 1 = .ok (.getfield 9, 3) := dk_180 0 9 (dk_at dksX4_letter_0 1 rfl rfl)
theorem dX4_letter_4 : decode cX4_letter 4 = .ok (.iload_n 1, 1) := dk_27 (dk_at dksX4_letter_0 4 rfl rfl)
theorem dX4_letter_5 : decode cX4_letter 5 = .ok (.iaload, 1) := dk_46 (dk_at dksX4_letter_0 5 rfl rfl)
theorem dX4_letter_6 : decode cX4_letter 6 = .ok (.iconst 5, 1) := dk_8 (dk_at dksX4_letter_0 6 rfl rfl)
theorem dX4_letter_7 : decode cX4_letter 7 = .ok (.iconst 5, 1) := dk_8 (dk_at dksX4_letter_0 7 rfl rfl)
theorem dX4_letter_8 : decode cX4_letter 8 = .ok (.iload_n 2, 1) := dk_28 (dk_at dksX4_letter_0 8 rfl rfl)
theorem dX4_letter_9 : decode cX4_letter 9 = .ok (.isub, 1) := dk_100 (dk_at dksX4_letter_0 9 rfl rfl)
theorem dX4_letter_10 : decode cX4_letter 10 = .ok (.imul, 1) := dk_104 (dk_at dksX4_letter_0 10 rfl rfl)
theorem dX4_letter_11 : decode cX4_letter 11 = .ok (.ishr, 1) := dk_122 (dk_at dksX4_letter_0 11 rfl rfl)
theorem dX4_letter_12 : decode cX4_letter 12 = .ok (.bipush 31, 2) := dk_16 31 (dk_at dksX4_letter_0 12 rfl rfl)
theorem dX4_letter_14 : decode cX4_letter 14 = .ok (.iand, 1) := dk_126 (dk_at dksX4_letter_0 14 rfl rfl)
theorem dX4_letter_15 : decode cX4_letter 15 = .ok (.ireturn, 1) := dk_172 (dk_at dksX4_letter_0 15 rfl rfl)
theorem gX4_letter_0 {v0 : Nat} {v1 : Int32} {v2 : Int32} {T : zT} {I : zI} {L : zL} {R : zR} {P : zP} (h : (T v0).1 = 4 ∧ (T (R v0 0)).1 = 100 ∧ vp_in v1 ((T (R v0 0)).2) ∧ P 0 (.int (((I (R v0 0) (v1.toNatClampNeg)) >>> (((5 : Int32) * ((5 : Int32) - v2)) &&& 31)) &&& (31 : Int32))) T I L R) : zAW mX4_letter 1 0 0 [(0, .ref v0), (1, .int v1), (2, .int v2)] [] T I L R P := by
  refine za_aload_n (pc' := 1) 0 dX4_letter_0 rfl rfl rfl ?_
  obtain ⟨ht1, h⟩ := h
  refine za_get (fi := 0) (v := .ref (R v0 0)) (pc' := 4) dX4_letter_1 zc3 (by decide) in_X4 (by decide) q226 (Or.inl rfl) ht1 rfl rfl ?_
  refine za_iload_n (pc' := 5) 1 dX4_letter_4 rfl rfl rfl ?_
  obtain ⟨ht2, h⟩ := h
  obtain ⟨hi3, h⟩ := h
  refine za_iald (v := .int (I (R v0 0) (v1.toNatClampNeg))) (pc' := 6) dX4_letter_5 (zpair ht2) hi3 rfl rfl ?_
  refine za_iconst (pc' := 7) dX4_letter_6 zi_5 rfl ?_
  refine za_iconst (pc' := 8) dX4_letter_7 zi_5 rfl ?_
  refine za_iload_n (pc' := 9) 2 dX4_letter_8 rfl rfl rfl ?_
  refine za_isub (pc' := 10) dX4_letter_9 rfl ?_
  refine za_imul (pc' := 11) dX4_letter_10 rfl ?_
  refine za_ishr (pc' := 12) dX4_letter_11 rfl ?_
  refine za_bipush (pc' := 14) dX4_letter_12 zb8_31 rfl ?_
  refine za_iand (pc' := 15) dX4_letter_14 rfl ?_
  exact za_ireturn rfl dX4_letter_15 h
theorem sX4_letter {d b : Nat} {v0 : Nat} {v1 : Int32} {v2 : Int32} {T : zT} {I : zI} {L : zL} {R : zR} {P : zP} (h : zAW mX4_letter d b 0 [(0, .ref v0), (1, .int v1), (2, .int v2)] [] T I L R P) : zMet mX4_letter d b [.ref v0, .int v1, .int v2] T I L R P := zMet_of (by decide +kernel) rfl (Nat.le_of_ble_eq_true rfl) rfl h
/-! TwoTongues$Row.<init> ()V -/
def dkwX11_init_0 : List UInt8 := [42, 183, 0, 3, 42, 16, 12, 188, 10, 181, 0, 9, 177]
abbrev dktX11_init_0 : List UInt8 := dkwX11_init_0 ++ []
theorem dksX11_init_0 : cX11_init.data.toList.drop 0 = dktX11_init_0 := by decide +kernel
theorem dX11_init_0 : decode cX11_init 0 = .ok (.aload_n 0, 1) := dk_42 (dk_at dksX11_init_0 0 rfl rfl)
theorem dX11_init_1 : decode cX11_init 1 = .ok (.invokespecial 3, 3) := dk_183 0 3 (dk_at dksX11_init_0 1 rfl rfl)
theorem dX11_init_4 : decode cX11_init 4 = .ok (.aload_n 0, 1) := dk_42 (dk_at dksX11_init_0 4 rfl rfl)
theorem dX11_init_5 : decode cX11_init 5 = .ok (.bipush 12, 2) := dk_16 12 (dk_at dksX11_init_0 5 rfl rfl)
theorem dX11_init_7 : decode cX11_init 7 = .ok (.newarray .int, 2) := dk_188_10 (dk_at dksX11_init_0 7 rfl rfl)
theorem dX11_init_9 : decode cX11_init 9 = .ok (.putfield 9, 3) := dk_181 0 9 (dk_at dksX11_init_0 9 rfl rfl)
theorem dX11_init_12 : decode cX11_init 12 = .ok (.return_, 1) := dk_177 (dk_at dksX11_init_0 12 rfl rfl)
theorem gX11_init_0 {b : Nat} {v0 : Nat} {T : zT} {I : zI} {L : zL} {R : zR} {P : zP} (h : (T v0).1 = 11 ∧ ∃ κ2, 100 ≤ κ2 ∧ (T κ2).1 = 0 ∧ 12 + 1 ≤ b ∧ P 0 (.int 0) (z1 T κ2 (100, 12)) (z1 I κ2 fun _ => 0) (z1 L κ2 fun _ => 0) (z2 (z1 R κ2 fun _ => 0) v0 0 κ2)) : zAW mX11_init 1 b 0 [(0, .ref v0)] [] T I L R P := by
  obtain ⟨ht1, h⟩ := h
  refine za_aload_n (pc' := 1) 0 dX11_init_0 rfl rfl rfl ?_
  refine za_objInit (pc' := 4) dX11_init_1 q401 (by decide) (by rw [ht1]; decide) (Nat.le_of_ble_eq_true rfl) rfl ?_
  refine za_aload_n (pc' := 5) 0 dX11_init_4 rfl rfl rfl ?_
  refine za_bipush (pc' := 7) dX11_init_5 zb8_12 rfl ?_
  obtain ⟨κ2, hk3, hf4, hb5, h⟩ := h
  refine za_newa_int (κ := κ2) (N := 12) (pc' := 9) dX11_init_7 q241 (by decide) zn_12 (by decide) hk3 hf4 hb5 rfl ?_
  refine za_putFR (fi := 0) (pc' := 12) dX11_init_9 zc10 (by decide) in_X11 zok10 znm10 (by decide) q402 (Or.inl rfl) rfl rfl rfl rfl (fun _ _ _ => rfl) (z1_tk hf4 ht1 (by decide)) rfl ?_
  exact za_return rfl dX11_init_12 h
theorem sX11_init {d b : Nat} {v0 : Nat} {T : zT} {I : zI} {L : zL} {R : zR} {P : zP} (h : zAW mX11_init d b 0 [(0, .ref v0)] [] T I L R P) : zMet mX11_init d b [.ref v0] T I L R P := zMet_of (by decide +kernel) rfl (Nat.le_of_ble_eq_true rfl) rfl h
/-! TwoTongues$Row.become (LTwoTongues$Row;)V -/
def dkwX11_become_1 : List UInt8 := [180, 0, 9, 28, 46, 79, 132, 2, 1, 167, 255, 235, 177]
abbrev dktX11_become_1 : List UInt8 := dkwX11_become_1 ++ []
def dkwX11_become_0 : List UInt8 := [42, 43, 180, 0, 15, 181, 0, 15, 3, 61, 28, 16, 12, 162, 0, 21, 42, 180, 0, 9, 28, 43]
abbrev dktX11_become_0 : List UInt8 := dkwX11_become_0 ++ dktX11_become_1
theorem dksX11_become_0 : cX11_become.data.toList.drop 0 = dktX11_become_0 := by decide +kernel
theorem dksX11_become_1 : cX11_become.data.toList.drop 22 = dktX11_become_1 := dk_seg dksX11_become_0 22 rfl rfl
theorem dX11_become_0 : decode cX11_become 0 = .ok (.aload_n 0, 1) := dk_42 (dk_at dksX11_become_0 0 rfl rfl)
theorem dX11_become_1 : decode cX11_become 1 = .ok (.aload_n 1, 1) := dk_43 (dk_at dksX11_become_0 1 rfl rfl)
theorem dX11_become_2 : decode cX11_become 2 = .ok (.getfield 15, 3) := dk_180 0 15 (dk_at dksX11_become_0 2 rfl rfl)
theorem dX11_become_5 : decode cX11_become 5 = .ok (.putfield 15, 3) := dk_181 0 15 (dk_at dksX11_become_0 5 rfl rfl)
theorem dX11_become_8 : decode cX11_become 8 = .ok (.iconst 0, 1) := dk_3 (dk_at dksX11_become_0 8 rfl rfl)
theorem dX11_become_9 : decode cX11_become 9 = .ok (.istore_n 2, 1) := dk_61 (dk_at dksX11_become_0 9 rfl rfl)
theorem dX11_become_10 : decode cX11_become 10 = .ok (.iload_n 2, 1) := dk_28 (dk_at dksX11_become_0 10 rfl rfl)
theorem dX11_become_11 : decode cX11_become 11 = .ok (.bipush 12, 2) := dk_16 12 (dk_at dksX11_become_0 11 rfl rfl)
theorem dX11_become_13 : decode cX11_become 13 = .ok (.if_icmp .ge 21, 3) := dk_162 0 21 (dk_at dksX11_become_0 13 rfl rfl)
theorem dX11_become_16 : decode cX11_become 16 = .ok (.aload_n 0, 1) := dk_42 (dk_at dksX11_become_0 16 rfl rfl)
theorem dX11_become_17 : decode cX11_become 17 = .ok (.getfield 9, 3) := dk_180 0 9 (dk_at dksX11_become_0 17 rfl rfl)
theorem dX11_become_20 : decode cX11_become 20 = .ok (.iload_n 2, 1) := dk_28 (dk_at dksX11_become_0 20 rfl rfl)
theorem dX11_become_21 : decode cX11_become 21 = .ok (.aload_n 1, 1) := dk_43 (dk_at dksX11_become_0 21 rfl rfl)
theorem dX11_become_22 : decode cX11_become 22 = .ok (.getfield 9, 3) := dk_180 0 9 (dk_at dksX11_become_1 0 rfl rfl)
theorem dX11_become_25 : decode cX11_become 25 = .ok (.iload_n 2, 1) := dk_28 (dk_at dksX11_become_1 3 rfl rfl)
theorem dX11_become_26 : decode cX11_become 26 = .ok (.iaload, 1) := dk_46 (dk_at dksX11_become_1 4 rfl rfl)
theorem dX11_become_27 : decode cX11_become 27 = .ok (.iastore, 1) := dk_79 (dk_at dksX11_become_1 5 rfl rfl)
theorem dX11_become_28 : decode cX11_become 28 = .ok (.iinc 2 1, 3) := dk_132 2 1 (dk_at dksX11_become_1 6 rfl rfl)
theorem dX11_become_31 : decode cX11_become 31 = .ok (.goto (-21), 3) := dk_167 255 235 (dk_at dksX11_become_1 9 rfl rfl)
theorem dX11_become_34 : decode cX11_become 34 = .ok (.return_, 1) := dk_177 (dk_at dksX11_become_1 12 rfl rfl)
theorem gX11_become_0 {v0 : Nat} {v1 : Nat} {T : zT} {I : zI} {L : zL} {R : zR} {P : zP} (h : (T v1).1 = 11 ∧ (T v0).1 = 11 ∧ zAW mX11_become 1 0 10 [(0, .ref v0), (1, .ref v1), (2, .int (0 : Int32))] [] T (z2 I v0 1 (I v1 1)) L R P) : zAW mX11_become 1 0 0 [(0, .ref v0), (1, .ref v1)] [] T I L R P := by
  refine za_aload_n (pc' := 1) 0 dX11_become_0 rfl rfl rfl ?_
  refine za_aload_n (pc' := 2) 1 dX11_become_1 rfl rfl rfl ?_
  obtain ⟨ht1, h⟩ := h
  refine za_get (fi := 1) (v := .int (I v1 1)) (pc' := 5) dX11_become_2 zc10 (by decide) in_X11 (by decide) q406 (Or.inl rfl) ht1 rfl rfl ?_
  obtain ⟨ht2, h⟩ := h
  refine za_putI (fi := 1) (pc' := 8) dX11_become_5 zc10 (by decide) in_X11 zok10 znm10 (by decide) q406 (Or.inl rfl) rfl rfl (fun _ _ _ => rfl) rfl rfl ht2 rfl ?_
  refine za_iconst (pc' := 9) dX11_become_8 zi_0 rfl ?_
  refine za_istore_n (pc' := 10) (l' := [(2, .int (0 : Int32)), (0, .ref v0), (1, .ref v1)]) dX11_become_9 rfl (Nat.le_of_ble_eq_true rfl) rfl rfl ?_
  exact zAW_sub [1, 2, 0] rfl h
theorem gX11_become_10 {v0 : Nat} {v1 : Nat} {v2 : Int32} {T : zT} {I : zI} {L : zL} {R : zR} {P : zP} (h : (((12 : Int32) ≤ v2 → P 0 (.int 0) T I L R) ∧ (¬ (12 : Int32) ≤ v2 → (T v0).1 = 11 ∧ (T v1).1 = 11 ∧ (T (R v1 0)).1 = 100 ∧ vp_in v2 ((T (R v1 0)).2) ∧ (T (R v0 0)).1 = 100 ∧ vp_in v2 ((T (R v0 0)).2) ∧ zAW mX11_become 1 0 10 [(0, .ref v0), (1, .ref v1), (2, .int (v2 + (1 : Int32)))] [] T (z2 I (R v0 0) (v2.toNatClampNeg) (I (R v1 0) (v2.toNatClampNeg))) L R P))) : zAW mX11_become 1 0 10 [(0, .ref v0), (1, .ref v1), (2, .int v2)] [] T I L R P := by
  refine za_iload_n (pc' := 11) 2 dX11_become_10 rfl rfl rfl ?_
  refine za_bipush (pc' := 13) dX11_become_11 zb8_12 rfl ?_
  refine za_icmp_ge (pc' := 16) (tgt := 34) dX11_become_13 (by decide) rfl (fun c9 => ?_) (fun c9 => ?_)
  · replace h := h.1 c9
    exact za_return rfl dX11_become_34 h
  · replace h := h.2 c9
    refine za_aload_n (pc' := 17) 0 dX11_become_16 rfl rfl rfl ?_
    obtain ⟨ht3, h⟩ := h
    refine za_get (fi := 0) (v := .ref (R v0 0)) (pc' := 20) dX11_become_17 zc10 (by decide) in_X11 (by decide) q402 (Or.inl rfl) ht3 rfl rfl ?_
    refine za_iload_n (pc' := 21) 2 dX11_become_20 rfl rfl rfl ?_
    refine za_aload_n (pc' := 22) 1 dX11_become_21 rfl rfl rfl ?_
    obtain ⟨ht4, h⟩ := h
    refine za_get (fi := 0) (v := .ref (R v1 0)) (pc' := 25) dX11_become_22 zc10 (by decide) in_X11 (by decide) q402 (Or.inl rfl) ht4 rfl rfl ?_
    refine za_iload_n (pc' := 26) 2 dX11_become_25 rfl rfl rfl ?_
    obtain ⟨ht5, h⟩ := h
    obtain ⟨hi6, h⟩ := h
    refine za_iald (v := .int (I (R v1 0) (v2.toNatClampNeg))) (pc' := 27) dX11_become_26 (zpair ht5) hi6 rfl rfl ?_
    obtain ⟨ht7, h⟩ := h
    obtain ⟨hi8, h⟩ := h
    refine za_iast (k := v2.toNatClampNeg) (pc' := 28) dX11_become_27 (zpair ht7) hi8 rfl rfl ?_
    refine za_iinc (pc' := 31) (l' := [(2, .int (v2 + (1 : Int32))), (0, .ref v0), (1, .ref v1)]) 2 dX11_become_28 rfl (zinc zi_1) (Nat.le_of_ble_eq_true rfl) rfl rfl ?_
    refine za_goto (tgt := 10) dX11_become_31 (by decide) ?_
    exact zAW_sub [1, 2, 0] rfl h
theorem sX11_become {d b : Nat} {v0 : Nat} {v1 : Nat} {T : zT} {I : zI} {L : zL} {R : zR} {P : zP} (h : zAW mX11_become d b 0 [(0, .ref v0), (1, .ref v1)] [] T I L R P) : zMet mX11_become d b [.ref v0, .ref v1] T I L R P := zMet_of (by decide +kernel) rfl (Nat.le_of_ble_eq_true rfl) rfl h
/-! TwoTongues$Row.code ()J -/
def dkwX11_code_1 : List UInt8 := [132, 3, 1, 167, 255, 233, 31, 173]
abbrev dktX11_code_1 : List UInt8 := dkwX11_code_1 ++ []
def dkwX11_code_0 : List UInt8 := [9, 64, 3, 62, 29, 42, 180, 0, 15, 162, 0, 21, 31, 8, 121, 42, 180, 0, 9, 29, 46, 133, 129, 64]
abbrev dktX11_code_0 : List UInt8 := dkwX11_code_0 ++ dktX11_code_1
theorem dksX11_code_0 : cX11_code.data.toList.drop 0 = dktX11_code_0 := by decide +kernel
theorem dksX11_code_1 : cX11_code.data.toList.drop 24 = dktX11_code_1 := dk_seg dksX11_code_0 24 rfl rfl
theorem dX11_code_0 : decode cX11_code 0 = .ok (.lconst 0, 1) := dk_9 (dk_at dksX11_code_0 0 rfl rfl)
theorem dX11_code_1 : decode cX11_code 1 = .ok (.lstore_n 1, 1) := dk_64 (dk_at dksX11_code_0 1 rfl rfl)
theorem dX11_code_2 : decode cX11_code 2 = .ok (.iconst 0, 1) := dk_3 (dk_at dksX11_code_0 2 rfl rfl)
theorem dX11_code_3 : decode cX11_code 3 = .ok (.istore_n 3, 1) := dk_62 (dk_at dksX11_code_0 3 rfl rfl)
theorem dX11_code_4 : decode cX11_code 4 = .ok (.iload_n 3, 1) := dk_29 (dk_at dksX11_code_0 4 rfl rfl)
theorem dX11_code_5 : decode cX11_code 5 = .ok (.aload_n 0, 1) := dk_42 (dk_at dksX11_code_0 5 rfl rfl)
theorem dX11_code_6 : decode cX11_code 6 = .ok (.getfield 15, 3) := dk_180 0 15 (dk_at dksX11_code_0 6 rfl rfl)
theorem dX11_code_9 : decode cX11_code 9 = .ok (.if_icmp .ge 21, 3) := dk_162 0 21 (dk_at dksX11_code_0 9 rfl rfl)
theorem dX11_code_12 : decode cX11_code 12 = .ok (.lload_n 1, 1) := dk_31 (dk_at dksX11_code_0 12 rfl rfl)
theorem dX11_code_13 : decode cX11_code 13 = .ok (.iconst 5, 1) := dk_8 (dk_at dksX11_code_0 13 rfl rfl)
theorem dX11_code_14 : decode cX11_code 14 = .ok (.lshl, 1) := dk_121 (dk_at dksX11_code_0 14 rfl rfl)
theorem dX11_code_15 : decode cX11_code 15 = .ok (.aload_n 0, 1) := dk_42 (dk_at dksX11_code_0 15 rfl rfl)
theorem dX11_code_16 : decode cX11_code 16 = .ok (.getfield 9, 3) := dk_180 0 9 (dk_at dksX11_code_0 16 rfl rfl)
theorem dX11_code_19 : decode cX11_code 19 = .ok (.iload_n 3, 1) := dk_29 (dk_at dksX11_code_0 19 rfl rfl)
theorem dX11_code_20 : decode cX11_code 20 = .ok (.iaload, 1) := dk_46 (dk_at dksX11_code_0 20 rfl rfl)
theorem dX11_code_21 : decode cX11_code 21 = .ok (.i2l, 1) := dk_133 (dk_at dksX11_code_0 21 rfl rfl)
theorem dX11_code_22 : decode cX11_code 22 = .ok (.lor, 1) := dk_129 (dk_at dksX11_code_0 22 rfl rfl)
theorem dX11_code_23 : decode cX11_code 23 = .ok (.lstore_n 1, 1) := dk_64 (dk_at dksX11_code_0 23 rfl rfl)
theorem dX11_code_24 : decode cX11_code 24 = .ok (.iinc 3 1, 3) := dk_132 3 1 (dk_at dksX11_code_1 0 rfl rfl)
theorem dX11_code_27 : decode cX11_code 27 = .ok (.goto (-23), 3) := dk_167 255 233 (dk_at dksX11_code_1 3 rfl rfl)
theorem dX11_code_30 : decode cX11_code 30 = .ok (.lload_n 1, 1) := dk_31 (dk_at dksX11_code_1 6 rfl rfl)
theorem dX11_code_31 : decode cX11_code 31 = .ok (.lreturn, 1) := dk_173 (dk_at dksX11_code_1 7 rfl rfl)
theorem gX11_code_0 {v0 : Nat} {T : zT} {I : zI} {L : zL} {R : zR} {P : zP} (h : zAW mX11_code 1 0 4 [(0, .ref v0), (1, .long (0 : Int64)), (3, .int (0 : Int32))] [] T I L R P) : zAW mX11_code 1 0 0 [(0, .ref v0)] [] T I L R P := by
  refine za_lconst (pc' := 1) dX11_code_0 zl_0 rfl ?_
  refine za_lstore_n (pc' := 2) (l' := [(1, .long (0 : Int64)), (0, .ref v0)]) dX11_code_1 rfl (Nat.le_of_ble_eq_true rfl) rfl rfl ?_
  refine za_iconst (pc' := 3) dX11_code_2 zi_0 rfl ?_
  refine za_istore_n (pc' := 4) (l' := [(3, .int (0 : Int32)), (1, .long (0 : Int64)), (0, .ref v0)]) dX11_code_3 rfl (Nat.le_of_ble_eq_true rfl) rfl rfl ?_
  exact zAW_sub [2, 1, 0] rfl h
theorem gX11_code_4 {v0 : Nat} {v1 : Int64} {v3 : Int32} {T : zT} {I : zI} {L : zL} {R : zR} {P : zP} (h : (T v0).1 = 11 ∧ (((I v0 1) ≤ v3 → P 0 (.long v1) T I L R) ∧ (¬ (I v0 1) ≤ v3 → (T (R v0 0)).1 = 100 ∧ vp_in v3 ((T (R v0 0)).2) ∧ zAW mX11_code 1 0 4 [(0, .ref v0), (1, .long ((v1 <<< ((5 : Int32).toInt64 &&& 63)) ||| ((I (R v0 0) (v3.toNatClampNeg)).toInt64))), (3, .int (v3 + (1 : Int32)))] [] T I L R P))) : zAW mX11_code 1 0 4 [(0, .ref v0), (1, .long v1), (3, .int v3)] [] T I L R P := by
  refine za_iload_n (pc' := 5) 2 dX11_code_4 rfl rfl rfl ?_
  refine za_aload_n (pc' := 6) 0 dX11_code_5 rfl rfl rfl ?_
  obtain ⟨ht1, h⟩ := h
  refine za_get (fi := 1) (v := .int (I v0 1)) (pc' := 9) dX11_code_6 zc10 (by decide) in_X11 (by decide) q406 (Or.inl rfl) ht1 rfl rfl ?_
  refine za_icmp_ge (pc' := 12) (tgt := 30) dX11_code_9 (by decide) rfl (fun c9 => ?_) (fun c9 => ?_)
  · replace h := h.1 c9
    refine za_lload_n (pc' := 31) 1 dX11_code_30 rfl rfl rfl ?_
    exact za_lreturn rfl dX11_code_31 h
  · replace h := h.2 c9
    refine za_lload_n (pc' := 13) 1 dX11_code_12 rfl rfl rfl ?_
    refine za_iconst (pc' := 14) dX11_code_13 zi_5 rfl ?_
    refine za_lshl (pc' := 15) dX11_code_14 rfl rfl ?_
    refine za_aload_n (pc' := 16) 0 dX11_code_15 rfl rfl rfl ?_
    refine za_get (fi := 0) (v := .ref (R v0 0)) (pc' := 19) dX11_code_16 zc10 (by decide) in_X11 (by decide) q402 (Or.inl rfl) ht1 rfl rfl ?_
    refine za_iload_n (pc' := 20) 2 dX11_code_19 rfl rfl rfl ?_
    obtain ⟨ht2, h⟩ := h
    obtain ⟨hi3, h⟩ := h
    refine za_iald (v := .int (I (R v0 0) (v3.toNatClampNeg))) (pc' := 21) dX11_code_20 (zpair ht2) hi3 rfl rfl ?_
    refine za_i2l (pc' := 22) dX11_code_21 rfl rfl ?_
    refine za_lor (pc' := 23) dX11_code_22 rfl ?_
    refine za_lstore_n (pc' := 24) (l' := [(1, .long ((v1 <<< ((5 : Int32).toInt64 &&& 63)) ||| ((I (R v0 0) (v3.toNatClampNeg)).toInt64))), (0, .ref v0), (3, .int v3)]) dX11_code_23 rfl (Nat.le_of_ble_eq_true rfl) rfl rfl ?_
    refine za_iinc (pc' := 27) (l' := [(3, .int (v3 + (1 : Int32))), (1, .long ((v1 <<< ((5 : Int32).toInt64 &&& 63)) ||| ((I (R v0 0) (v3.toNatClampNeg)).toInt64))), (0, .ref v0)]) 2 dX11_code_24 rfl (zinc zi_1) (Nat.le_of_ble_eq_true rfl) rfl rfl ?_
    refine za_goto (tgt := 4) dX11_code_27 (by decide) ?_
    exact zAW_sub [2, 1, 0] rfl h
theorem sX11_code {d b : Nat} {v0 : Nat} {T : zT} {I : zI} {L : zL} {R : zR} {P : zP} (h : zAW mX11_code d b 0 [(0, .ref v0)] [] T I L R P) : zMet mX11_code d b [.ref v0] T I L R P := zMet_of (by decide +kernel) rfl (Nat.le_of_ble_eq_true rfl) rfl h
/-! TwoTongues$Row.lost ()I -/
def dkwX11_lost_1 : List UInt8 := [167, 0, 4, 3, 96, 60, 132, 2, 1, 167, 255, 228, 27, 172]
abbrev dktX11_lost_1 : List UInt8 := dkwX11_lost_1 ++ []
def dkwX11_lost_0 : List UInt8 := [3, 60, 3, 61, 28, 42, 180, 0, 15, 162, 0, 26, 27, 42, 180, 0, 9, 28, 46, 154, 0, 7, 4]
abbrev dktX11_lost_0 : List UInt8 := dkwX11_lost_0 ++ dktX11_lost_1
theorem dksX11_lost_0 : cX11_lost.data.toList.drop 0 = dktX11_lost_0 := by decide +kernel
theorem dksX11_lost_1 : cX11_lost.data.toList.drop 23 = dktX11_lost_1 := dk_seg dksX11_lost_0 23 rfl rfl
theorem dX11_lost_0 : decode cX11_lost 0 = .ok (.iconst 0, 1) := dk_3 (dk_at dksX11_lost_0 0 rfl rfl)
theorem dX11_lost_1 : decode cX11_lost 1 = .ok (.istore_n 1, 1) := dk_60 (dk_at dksX11_lost_0 1 rfl rfl)
theorem dX11_lost_2 : decode cX11_lost 2 = .ok (.iconst 0, 1) := dk_3 (dk_at dksX11_lost_0 2 rfl rfl)
theorem dX11_lost_3 : decode cX11_lost 3 = .ok (.istore_n 2, 1) := dk_61 (dk_at dksX11_lost_0 3 rfl rfl)
theorem dX11_lost_4 : decode cX11_lost 4 = .ok (.iload_n 2, 1) := dk_28 (dk_at dksX11_lost_0 4 rfl rfl)
theorem dX11_lost_5 : decode cX11_lost 5 = .ok (.aload_n 0, 1) := dk_42 (dk_at dksX11_lost_0 5 rfl rfl)
theorem dX11_lost_6 : decode cX11_lost 6 = .ok (.getfield 15, 3) := dk_180 0 15 (dk_at dksX11_lost_0 6 rfl rfl)
theorem dX11_lost_9 : decode cX11_lost 9 = .ok (.if_icmp .ge 26, 3) := dk_162 0 26 (dk_at dksX11_lost_0 9 rfl rfl)
theorem dX11_lost_12 : decode cX11_lost 12 = .ok (.iload_n 1, 1) := dk_27 (dk_at dksX11_lost_0 12 rfl rfl)
theorem dX11_lost_13 : decode cX11_lost 13 = .ok (.aload_n 0, 1) := dk_42 (dk_at dksX11_lost_0 13 rfl rfl)
theorem dX11_lost_14 : decode cX11_lost 14 = .ok (.getfield 9, 3) := dk_180 0 9 (dk_at dksX11_lost_0 14 rfl rfl)
theorem dX11_lost_17 : decode cX11_lost 17 = .ok (.iload_n 2, 1) := dk_28 (dk_at dksX11_lost_0 17 rfl rfl)
theorem dX11_lost_18 : decode cX11_lost 18 = .ok (.iaload, 1) := dk_46 (dk_at dksX11_lost_0 18 rfl rfl)
theorem dX11_lost_19 : decode cX11_lost 19 = .ok (.ifCond .ne 7, 3) := dk_154 0 7 (dk_at dksX11_lost_0 19 rfl rfl)
theorem dX11_lost_22 : decode cX11_lost 22 = .ok (.iconst 1, 1) := dk_4 (dk_at dksX11_lost_0 22 rfl rfl)
theorem dX11_lost_23 : decode cX11_lost 23 = .ok (.goto 4, 3) := dk_167 0 4 (dk_at dksX11_lost_1 0 rfl rfl)
theorem dX11_lost_26 : decode cX11_lost 26 = .ok (.iconst 0, 1) := dk_3 (dk_at dksX11_lost_1 3 rfl rfl)
theorem dX11_lost_27 : decode cX11_lost 27 = .ok (.iadd, 1) := dk_96 (dk_at dksX11_lost_1 4 rfl rfl)
theorem dX11_lost_28 : decode cX11_lost 28 = .ok (.istore_n 1, 1) := dk_60 (dk_at dksX11_lost_1 5 rfl rfl)
theorem dX11_lost_29 : decode cX11_lost 29 = .ok (.iinc 2 1, 3) := dk_132 2 1 (dk_at dksX11_lost_1 6 rfl rfl)
theorem dX11_lost_32 : decode cX11_lost 32 = .ok (.goto (-28), 3) := dk_167 255 228 (dk_at dksX11_lost_1 9 rfl rfl)
theorem dX11_lost_35 : decode cX11_lost 35 = .ok (.iload_n 1, 1) := dk_27 (dk_at dksX11_lost_1 12 rfl rfl)
theorem dX11_lost_36 : decode cX11_lost 36 = .ok (.ireturn, 1) := dk_172 (dk_at dksX11_lost_1 13 rfl rfl)
theorem gX11_lost_0 {v0 : Nat} {T : zT} {I : zI} {L : zL} {R : zR} {P : zP} (h : zAW mX11_lost 1 0 4 [(0, .ref v0), (1, .int (0 : Int32)), (2, .int (0 : Int32))] [] T I L R P) : zAW mX11_lost 1 0 0 [(0, .ref v0)] [] T I L R P := by
  refine za_iconst (pc' := 1) dX11_lost_0 zi_0 rfl ?_
  refine za_istore_n (pc' := 2) (l' := [(1, .int (0 : Int32)), (0, .ref v0)]) dX11_lost_1 rfl (Nat.le_of_ble_eq_true rfl) rfl rfl ?_
  refine za_iconst (pc' := 3) dX11_lost_2 zi_0 rfl ?_
  refine za_istore_n (pc' := 4) (l' := [(2, .int (0 : Int32)), (1, .int (0 : Int32)), (0, .ref v0)]) dX11_lost_3 rfl (Nat.le_of_ble_eq_true rfl) rfl rfl ?_
  exact zAW_sub [2, 1, 0] rfl h
theorem gX11_lost_4 {v0 : Nat} {v1 : Int32} {v2 : Int32} {T : zT} {I : zI} {L : zL} {R : zR} {P : zP} (h : (T v0).1 = 11 ∧ (((I v0 1) ≤ v2 → P 0 (.int v1) T I L R) ∧ (¬ (I v0 1) ≤ v2 → (T (R v0 0)).1 = 100 ∧ vp_in v2 ((T (R v0 0)).2) ∧ (((I (R v0 0) (v2.toNatClampNeg)) = 0 → zAW mX11_lost 1 0 4 [(0, .ref v0), (1, .int (v1 + (1 : Int32))), (2, .int (v2 + (1 : Int32)))] [] T I L R P) ∧ (¬ (I (R v0 0) (v2.toNatClampNeg)) = 0 → zAW mX11_lost 1 0 4 [(0, .ref v0), (1, .int (v1 + (0 : Int32))), (2, .int (v2 + (1 : Int32)))] [] T I L R P))))) : zAW mX11_lost 1 0 4 [(0, .ref v0), (1, .int v1), (2, .int v2)] [] T I L R P := by
  refine za_iload_n (pc' := 5) 2 dX11_lost_4 rfl rfl rfl ?_
  refine za_aload_n (pc' := 6) 0 dX11_lost_5 rfl rfl rfl ?_
  obtain ⟨ht1, h⟩ := h
  refine za_get (fi := 1) (v := .int (I v0 1)) (pc' := 9) dX11_lost_6 zc10 (by decide) in_X11 (by decide) q406 (Or.inl rfl) ht1 rfl rfl ?_
  refine za_icmp_ge (pc' := 12) (tgt := 35) dX11_lost_9 (by decide) rfl (fun c9 => ?_) (fun c9 => ?_)
  · replace h := h.1 c9
    refine za_iload_n (pc' := 36) 1 dX11_lost_35 rfl rfl rfl ?_
    exact za_ireturn rfl dX11_lost_36 h
  · replace h := h.2 c9
    refine za_iload_n (pc' := 13) 1 dX11_lost_12 rfl rfl rfl ?_
    refine za_aload_n (pc' := 14) 0 dX11_lost_13 rfl rfl rfl ?_
    refine za_get (fi := 0) (v := .ref (R v0 0)) (pc' := 17) dX11_lost_14 zc10 (by decide) in_X11 (by decide) q402 (Or.inl rfl) ht1 rfl rfl ?_
    refine za_iload_n (pc' := 18) 2 dX11_lost_17 rfl rfl rfl ?_
    obtain ⟨ht2, h⟩ := h
    obtain ⟨hi3, h⟩ := h
    refine za_iald (v := .int (I (R v0 0) (v2.toNatClampNeg))) (pc' := 19) dX11_lost_18 (zpair ht2) hi3 rfl rfl ?_
    refine za_if_ne (pc' := 22) (tgt := 26) dX11_lost_19 (by decide) rfl (fun c9 => ?_) (fun c9 => ?_)
    · replace h := h.2 c9
      refine za_iconst (pc' := 27) dX11_lost_26 zi_0 rfl ?_
      refine za_iadd (pc' := 28) dX11_lost_27 rfl ?_
      refine za_istore_n (pc' := 29) (l' := [(1, .int (v1 + (0 : Int32))), (0, .ref v0), (2, .int v2)]) dX11_lost_28 rfl (Nat.le_of_ble_eq_true rfl) rfl rfl ?_
      refine za_iinc (pc' := 32) (l' := [(2, .int (v2 + (1 : Int32))), (1, .int (v1 + (0 : Int32))), (0, .ref v0)]) 2 dX11_lost_29 rfl (zinc zi_1) (Nat.le_of_ble_eq_true rfl) rfl rfl ?_
      refine za_goto (tgt := 4) dX11_lost_32 (by decide) ?_
      exact zAW_sub [2, 1, 0] rfl h
    · replace h := h.1 c9
      refine za_iconst (pc' := 23) dX11_lost_22 zi_1 rfl ?_
      refine za_goto (tgt := 27) dX11_lost_23 (by decide) ?_
      refine za_iadd (pc' := 28) dX11_lost_27 rfl ?_
      refine za_istore_n (pc' := 29) (l' := [(1, .int (v1 + (1 : Int32))), (0, .ref v0), (2, .int v2)]) dX11_lost_28 rfl (Nat.le_of_ble_eq_true rfl) rfl rfl ?_
      refine za_iinc (pc' := 32) (l' := [(2, .int (v2 + (1 : Int32))), (1, .int (v1 + (1 : Int32))), (0, .ref v0)]) 2 dX11_lost_29 rfl (zinc zi_1) (Nat.le_of_ble_eq_true rfl) rfl rfl ?_
      refine za_goto (tgt := 4) dX11_lost_32 (by decide) ?_
      exact zAW_sub [2, 1, 0] rfl h
theorem sX11_lost {d b : Nat} {v0 : Nat} {T : zT} {I : zI} {L : zL} {R : zR} {P : zP} (h : zAW mX11_lost d b 0 [(0, .ref v0)] [] T I L R P) : zMet mX11_lost d b [.ref v0] T I L R P := zMet_of (by decide +kernel) rfl (Nat.le_of_ble_eq_true rfl) rfl h
/-! TwoTongues$Street.<init> ()V -/
def dkwX3_init_5 : List UInt8 := [180, 0, 46, 27, 4, 79, 132, 1, 1, 167, 255, 240, 177]
abbrev dktX3_init_5 : List UInt8 := dkwX3_init_5 ++ []
def dkwX3_init_4 : List UInt8 := [16, 6, 188, 10, 181, 0, 49, 42, 16, 6, 188, 10, 181, 0, 52, 4, 60, 27, 16, 26, 163, 0, 16, 42]
abbrev dktX3_init_4 : List UInt8 := dkwX3_init_4 ++ dktX3_init_5
def dkwX3_init_3 : List UInt8 := [16, 6, 188, 10, 181, 0, 40, 42, 16, 6, 188, 10, 181, 0, 43, 42, 16, 27, 188, 10, 181, 0, 46, 42]
abbrev dktX3_init_3 : List UInt8 := dkwX3_init_3 ++ dktX3_init_4
def dkwX3_init_2 : List UInt8 := [183, 0, 23, 181, 0, 30, 42, 16, 6, 188, 10, 181, 0, 33, 42, 16, 6, 188, 10, 181, 0, 37, 42]
abbrev dktX3_init_2 : List UInt8 := dkwX3_init_2 ++ dktX3_init_3
def dkwX3_init_1 : List UInt8 := [181, 0, 18, 42, 187, 0, 21, 89, 16, 6, 183, 0, 23, 181, 0, 26, 42, 187, 0, 21, 89, 16, 6]
abbrev dktX3_init_1 : List UInt8 := dkwX3_init_1 ++ dktX3_init_2
def dkwX3_init_0 : List UInt8 := [42, 183, 0, 3, 42, 187, 0, 9, 89, 183, 0, 11, 181, 0, 12, 42, 187, 0, 9, 89, 183, 0, 11]
abbrev dktX3_init_0 : List UInt8 := dkwX3_init_0 ++ dktX3_init_1
theorem dksX3_init_0 : cX3_init.data.toList.drop 0 = dktX3_init_0 := by decide +kernel
theorem dksX3_init_1 : cX3_init.data.toList.drop 23 = dktX3_init_1 := dk_seg dksX3_init_0 23 rfl rfl
theorem dksX3_init_2 : cX3_init.data.toList.drop 46 = dktX3_init_2 := dk_seg dksX3_init_1 23 rfl rfl
theorem dksX3_init_3 : cX3_init.data.toList.drop 69 = dktX3_init_3 := dk_seg dksX3_init_2 23 rfl rfl
theorem dksX3_init_4 : cX3_init.data.toList.drop 93 = dktX3_init_4 := dk_seg dksX3_init_3 24 rfl rfl
theorem dksX3_init_5 : cX3_init.data.toList.drop 117 = dktX3_init_5 := dk_seg dksX3_init_4 24 rfl rfl
theorem dX3_init_0 : decode cX3_init 0 = .ok (.aload_n 0, 1) := dk_42 (dk_at dksX3_init_0 0 rfl rfl)
theorem dX3_init_1 : decode cX3_init 1 = .ok (.invokespecial 3, 3) := dk_183 0 3 (dk_at dksX3_init_0 1 rfl rfl)
theorem dX3_init_4 : decode cX3_init 4 = .ok (.aload_n 0, 1) := dk_42 (dk_at dksX3_init_0 4 rfl rfl)
theorem dX3_init_5 : decode cX3_init 5 = .ok (.new 9, 3) := dk_187 0 9 (dk_at dksX3_init_0 5 rfl rfl)
theorem dX3_init_8 : decode cX3_init 8 = .ok (.dup, 1) := dk_89 (dk_at dksX3_init_0 8 rfl rfl)
theorem dX3_init_9 : decode cX3_init 9 = .ok (.invokespecial 11, 3) := dk_183 0 11 (dk_at dksX3_init_0 9 rfl rfl)
theorem dX3_init_12 : decode cX3_init 12 = .ok (.putfield 12, 3) := dk_181 0 12 (dk_at dksX3_init_0 12 rfl rfl)
theorem dX3_init_15 : decode cX3_init 15 = .ok (.aload_n 0, 1) := dk_42 (dk_at dksX3_init_0 15 rfl rfl)
theorem dX3_init_16 : decode cX3_init 16 = .ok (.new 9, 3) := dk_187 0 9 (dk_at dksX3_init_0 16 rfl rfl)
theorem dX3_init_19 : decode cX3_init 19 = .ok (.dup, 1) := dk_89 (dk_at dksX3_init_0 19 rfl rfl)
theorem dX3_init_20 : decode cX3_init 20 = .ok (.invokespecial 11, 3) := dk_183 0 11 (dk_at dksX3_init_0 20 rfl rfl)
theorem dX3_init_23 : decode cX3_init 23 = .ok (.putfield 18, 3) := dk_181 0 18 (dk_at dksX3_init_1 0 rfl rfl)
theorem dX3_init_26 : decode cX3_init 26 = .ok (.aload_n 0, 1) := dk_42 (dk_at dksX3_init_1 3 rfl rfl)
theorem dX3_init_27 : decode cX3_init 27 = .ok (.new 21, 3) := dk_187 0 21 (dk_at dksX3_init_1 4 rfl rfl)
theorem dX3_init_30 : decode cX3_init 30 = .ok (.dup, 1) := dk_89 (dk_at dksX3_init_1 7 rfl rfl)
theorem dX3_init_31 : decode cX3_init 31 = .ok (.bipush 6, 2) := dk_16 6 (dk_at dksX3_init_1 8 rfl rfl)
theorem dX3_init_33 : decode cX3_init 33 = .ok (.invokespecial 23, 3) := dk_183 0 23 (dk_at dksX3_init_1 10 rfl rfl)
theorem dX3_init_36 : decode cX3_init 36 = .ok (.putfield 26, 3) := dk_181 0 26 (dk_at dksX3_init_1 13 rfl rfl)
theorem dX3_init_39 : decode cX3_init 39 = .ok (.aload_n 0, 1) := dk_42 (dk_at dksX3_init_1 16 rfl rfl)
theorem dX3_init_40 : decode cX3_init 40 = .ok (.new 21, 3) := dk_187 0 21 (dk_at dksX3_init_1 17 rfl rfl)
theorem dX3_init_43 : decode cX3_init 43 = .ok (.dup, 1) := dk_89 (dk_at dksX3_init_1 20 rfl rfl)
theorem dX3_init_44 : decode cX3_init 44 = .ok (.bipush 6, 2) := dk_16 6 (dk_at dksX3_init_1 21 rfl rfl)
theorem dX3_init_46 : decode cX3_init 46 = .ok (.invokespecial 23, 3) := dk_183 0 23 (dk_at dksX3_init_2 0 rfl rfl)
theorem dX3_init_49 : decode cX3_init 49 = .ok (.putfield 30, 3) := dk_181 0 30 (dk_at dksX3_init_2 3 rfl rfl)
theorem dX3_init_52 : decode cX3_init 52 = .ok (.aload_n 0, 1) := dk_42 (dk_at dksX3_init_2 6 rfl rfl)
theorem dX3_init_53 : decode cX3_init 53 = .ok (.bipush 6, 2) := dk_16 6 (dk_at dksX3_init_2 7 rfl rfl)
theorem dX3_init_55 : decode cX3_init 55 = .ok (.newarray .int, 2) := dk_188_10 (dk_at dksX3_init_2 9 rfl rfl)
theorem dX3_init_57 : decode cX3_init 57 = .ok (.putfield 33, 3) := dk_181 0 33 (dk_at dksX3_init_2 11 rfl rfl)
theorem dX3_init_60 : decode cX3_init 60 = .ok (.aload_n 0, 1) := dk_42 (dk_at dksX3_init_2 14 rfl rfl)
theorem dX3_init_61 : decode cX3_init 61 = .ok (.bipush 6, 2) := dk_16 6 (dk_at dksX3_init_2 15 rfl rfl)
theorem dX3_init_63 : decode cX3_init 63 = .ok (.newarray .int, 2) := dk_188_10 (dk_at dksX3_init_2 17 rfl rfl)
theorem dX3_init_65 : decode cX3_init 65 = .ok (.putfield 37, 3) := dk_181 0 37 (dk_at dksX3_init_2 19 rfl rfl)
theorem dX3_init_68 : decode cX3_init 68 = .ok (.aload_n 0, 1) := dk_42 (dk_at dksX3_init_2 22 rfl rfl)
theorem dX3_init_69 : decode cX3_init 69 = .ok (.bipush 6, 2) := dk_16 6 (dk_at dksX3_init_3 0 rfl rfl)
theorem dX3_init_71 : decode cX3_init 71 = .ok (.newarray .int, 2) := dk_188_10 (dk_at dksX3_init_3 2 rfl rfl)
theorem dX3_init_73 : decode cX3_init 73 = .ok (.putfield 40, 3) := dk_181 0 40 (dk_at dksX3_init_3 4 rfl rfl)
theorem dX3_init_76 : decode cX3_init 76 = .ok (.aload_n 0, 1) := dk_42 (dk_at dksX3_init_3 7 rfl rfl)
theorem dX3_init_77 : decode cX3_init 77 = .ok (.bipush 6, 2) := dk_16 6 (dk_at dksX3_init_3 8 rfl rfl)
theorem dX3_init_79 : decode cX3_init 79 = .ok (.newarray .int, 2) := dk_188_10 (dk_at dksX3_init_3 10 rfl rfl)
theorem dX3_init_81 : decode cX3_init 81 = .ok (.putfield 43, 3) := dk_181 0 43 (dk_at dksX3_init_3 12 rfl rfl)
theorem dX3_init_84 : decode cX3_init 84 = .ok (.aload_n 0, 1) := dk_42 (dk_at dksX3_init_3 15 rfl rfl)
theorem dX3_init_85 : decode cX3_init 85 = .ok (.bipush 27, 2) := dk_16 27 (dk_at dksX3_init_3 16 rfl rfl)
theorem dX3_init_87 : decode cX3_init 87 = .ok (.newarray .int, 2) := dk_188_10 (dk_at dksX3_init_3 18 rfl rfl)
theorem dX3_init_89 : decode cX3_init 89 = .ok (.putfield 46, 3) := dk_181 0 46 (dk_at dksX3_init_3 20 rfl rfl)
theorem dX3_init_92 : decode cX3_init 92 = .ok (.aload_n 0, 1) := dk_42 (dk_at dksX3_init_3 23 rfl rfl)
theorem dX3_init_93 : decode cX3_init 93 = .ok (.bipush 6, 2) := dk_16 6 (dk_at dksX3_init_4 0 rfl rfl)
theorem dX3_init_95 : decode cX3_init 95 = .ok (.newarray .int, 2) := dk_188_10 (dk_at dksX3_init_4 2 rfl rfl)
theorem dX3_init_97 : decode cX3_init 97 = .ok (.putfield 49, 3) := dk_181 0 49 (dk_at dksX3_init_4 4 rfl rfl)
theorem dX3_init_100 : decode cX3_init 100 = .ok (.aload_n 0, 1) := dk_42 (dk_at dksX3_init_4 7 rfl rfl)
theorem dX3_init_101 : decode cX3_init 101 = .ok (.bipush 6, 2) := dk_16 6 (dk_at dksX3_init_4 8 rfl rfl)
theorem dX3_init_103 : decode cX3_init 103 = .ok (.newarray .int, 2) := dk_188_10 (dk_at dksX3_init_4 10 rfl rfl)
theorem dX3_init_105 : decode cX3_init 105 = .ok (.putfield 52, 3) := dk_181 0 52 (dk_at dksX3_init_4 12 rfl rfl)
theorem dX3_init_108 : decode cX3_init 108 = .ok (.iconst 1, 1) := dk_4 (dk_at dksX3_init_4 15 rfl rfl)
theorem dX3_init_109 : decode cX3_init 109 = .ok (.istore_n 1, 1) := dk_60 (dk_at dksX3_init_4 16 rfl rfl)
theorem dX3_init_110 : decode cX3_init 110 = .ok (.iload_n 1, 1) := dk_27 (dk_at dksX3_init_4 17 rfl rfl)
theorem dX3_init_111 : decode cX3_init 111 = .ok (.bipush 26, 2) := dk_16 26 (dk_at dksX3_init_4 18 rfl rfl)
theorem dX3_init_113 : decode cX3_init 113 = .ok (.if_icmp .gt 16, 3) := dk_163 0 16 (dk_at dksX3_init_4 20 rfl rfl)
theorem dX3_init_116 : decode cX3_init 116 = .ok (.aload_n 0, 1) := dk_42 (dk_at dksX3_init_4 23 rfl rfl)
theorem dX3_init_117 : decode cX3_init 117 = .ok (.getfield 46, 3) := dk_180 0 46 (dk_at dksX3_init_5 0 rfl rfl)
theorem dX3_init_120 : decode cX3_init 120 = .ok (.iload_n 1, 1) := dk_27 (dk_at dksX3_init_5 3 rfl rfl)
theorem dX3_init_121 : decode cX3_init 121 = .ok (.iconst 1, 1) := dk_4 (dk_at dksX3_init_5 4 rfl rfl)
theorem dX3_init_122 : decode cX3_init 122 = .ok (.iastore, 1) := dk_79 (dk_at dksX3_init_5 5 rfl rfl)
theorem dX3_init_123 : decode cX3_init 123 = .ok (.iinc 1 1, 3) := dk_132 1 1 (dk_at dksX3_init_5 6 rfl rfl)
theorem dX3_init_126 : decode cX3_init 126 = .ok (.goto (-16), 3) := dk_167 255 240 (dk_at dksX3_init_5 9 rfl rfl)
theorem dX3_init_129 : decode cX3_init 129 = .ok (.return_, 1) := dk_177 (dk_at dksX3_init_5 12 rfl rfl)
theorem gX3_init_0 {b : Nat} {v0 : Nat} {T : zT} {I : zI} {L : zL} {R : zR} {P : zP} (h : (T v0).1 = 3 ∧ ∃ κ2, 100 ≤ κ2 ∧ (T κ2).1 = 0 ∧ 3 + 1 ≤ b ∧ ∃ b10, b10 ≤ (b - (3 + 1)) ∧ zMet mX4_init 1 b10 [.ref κ2] (z1 T κ2 (4, 0)) (z1 I κ2 fun _ => 0) (z1 L κ2 fun _ => 0) (z1 R κ2 fun _ => 0) (zqV_TILR   (fun (T6 : zT) (I7 : zI) (L8 : zL) (R9 : zR)  => (T6 v0).1 = 3 ∧ ∃ κ13, 100 ≤ κ13 ∧ (T6 κ13).1 = 0 ∧ 3 + 1 ≤ ((b - (3 + 1)) - b10) ∧ ∃ b21, b21 ≤ (((b - (3 + 1)) - b10) - (3 + 1)) ∧ zMet mX4_init 1 b21 [.ref κ13] (z1 T6 κ13 (4, 0)) (z1 I7 κ13 fun _ => 0) (z1 L8 κ13 fun _ => 0) (z1 (z2 R9 v0 0 κ2) κ13 fun _ => 0) (zqV_TILR   (fun (T17 : zT) (I18 : zI) (L19 : zL) (R20 : zR)  => (T17 v0).1 = 3 ∧ ∃ κ24, 100 ≤ κ24 ∧ (T17 κ24).1 = 0 ∧ 3 + 1 ≤ ((((b - (3 + 1)) - b10) - (3 + 1)) - b21) ∧ zAW mX3_init 4 (((((b - (3 + 1)) - b10) - (3 + 1)) - b21) - (3 + 1)) 30 [(0, .ref v0)] [.ref κ24, .ref v0] (z1 T17 κ24 (5, 0)) (z1 I18 κ24 fun _ => 0) (z1 L19 κ24 fun _ => 0) (z1 (z2 R20 v0 1 κ13) κ24 fun _ => 0) P))))) : zAW mX3_init 4 b 0 [(0, .ref v0)] [] T I L R P := by
  obtain ⟨ht1, h⟩ := h
  refine za_aload_n (pc' := 1) 0 dX3_init_0 rfl rfl rfl ?_
  refine za_objInit (pc' := 4) dX3_init_1 q219 (by decide) (by rw [ht1]; decide) (Nat.le_of_ble_eq_true rfl) rfl ?_
  refine za_aload_n (pc' := 5) 0 dX3_init_4 rfl rfl rfl ?_
  obtain ⟨κ2, hk3, hf4, hb5, h⟩ := h
  refine za_new (κ := κ2) (pc' := 8) dX3_init_5 zc3 (by decide) in_X4 zok3 zdf3 q220 q221 q134 hk3 hf4 hb5 rfl ?_
  refine za_dup (pc' := 9) dX3_init_8 rfl rfl ?_
  obtain ⟨b10, hb11, h⟩ := h
  refine za_callIN (κ := κ2) (M2 := mX4_init) (d2 := 1) (b2 := b10) (n := 0) (As := []) (st := [.ref κ2, .ref v0]) (pc' := 12) (by rw [(congrArg Prod.fst z1_s)]; decide) dX3_init_9 rfl (lw_meth q224) rfl q222 q223 q134 rfl hd_X4_init rfl (by decide) (by decide) hb11 (Or.inl rfl) (Nat.le_of_ble_eq_true rfl) h (zqV_TILR_k rfl (fun T6 I7 L8 R9 h => ?_)) (fun _ _ _ _ _ _ h9 h8 => absurd h8.1 h9) rfl
  obtain ⟨ht12, h⟩ := h
  refine za_putFR (fi := 0) (pc' := 15) dX3_init_12 zc2 (by decide) in_X3 zok2 znm2 (by decide) q270 (Or.inl rfl) rfl rfl rfl rfl (fun _ _ _ => rfl) ht12 rfl ?_
  refine za_aload_n (pc' := 16) 0 dX3_init_15 rfl rfl rfl ?_
  obtain ⟨κ13, hk14, hf15, hb16, h⟩ := h
  refine za_new (κ := κ13) (pc' := 19) dX3_init_16 zc3 (by decide) in_X4 zok3 zdf3 q220 q221 q134 hk14 hf15 hb16 rfl ?_
  refine za_dup (pc' := 20) dX3_init_19 rfl rfl ?_
  obtain ⟨b21, hb22, h⟩ := h
  refine za_callIN (κ := κ13) (M2 := mX4_init) (d2 := 1) (b2 := b21) (n := 0) (As := []) (st := [.ref κ13, .ref v0]) (pc' := 23) (by rw [(congrArg Prod.fst z1_s)]; decide) dX3_init_20 rfl (lw_meth q224) rfl q222 q223 q134 rfl hd_X4_init rfl (by decide) (by decide) hb22 (Or.inl rfl) (Nat.le_of_ble_eq_true rfl) h (zqV_TILR_k rfl (fun T17 I18 L19 R20 h => ?_)) (fun _ _ _ _ _ _ h9 h8 => absurd h8.1 h9) rfl
  obtain ⟨ht23, h⟩ := h
  refine za_putFR (fi := 1) (pc' := 26) dX3_init_23 zc2 (by decide) in_X3 zok2 znm2 (by decide) q273 (Or.inl rfl) rfl rfl rfl rfl (fun _ _ _ => rfl) ht23 rfl ?_
  refine za_aload_n (pc' := 27) 0 dX3_init_26 rfl rfl rfl ?_
  obtain ⟨κ24, hk25, hf26, hb27, h⟩ := h
  refine za_new (κ := κ24) (pc' := 30) dX3_init_27 zc4 (by decide) in_J2 zok4 zdf4 q242 q243 q137 hk25 hf26 hb27 rfl ?_
  exact zAW_sub [0] rfl h
theorem gX3_init_30 {b : Nat} {v0 : Nat} {s0 : Nat} {s1 : Nat} {T : zT} {I : zI} {L : zL} {R : zR} {P : zP} (h : (T v0).1 = 3 ∧ (T s0).1 = 5 ∧ ∃ b33, b33 ≤ b ∧ zMet mJ2_init 3 b33 [.ref s0, .int (6 : Int32)] T I L R (zqV_TILR   (fun (T29 : zT) (I30 : zI) (L31 : zL) (R32 : zR)  => (T29 s1).1 = 3 ∧ ∃ κ37, 100 ≤ κ37 ∧ (T29 κ37).1 = 0 ∧ 3 + 1 ≤ (b - b33) ∧ ∃ b45, b45 ≤ ((b - b33) - (3 + 1)) ∧ zMet mJ2_init 3 b45 [.ref κ37, .int (6 : Int32)] (z1 T29 κ37 (5, 0)) (z1 I30 κ37 fun _ => 0) (z1 L31 κ37 fun _ => 0) (z1 (z2 R32 s1 2 s0) κ37 fun _ => 0) (zqV_TILR   (fun (T41 : zT) (I42 : zI) (L43 : zL) (R44 : zR)  => (T41 v0).1 = 3 ∧ ∃ κ48, 100 ≤ κ48 ∧ (T41 κ48).1 = 0 ∧ 6 + 1 ≤ (((b - b33) - (3 + 1)) - b45) ∧ ∃ κ52, 100 ≤ κ52 ∧ ((z1 T41 κ48 (100, 6)) κ52).1 = 0 ∧ 6 + 1 ≤ ((((b - b33) - (3 + 1)) - b45) - (6 + 1)) ∧ zAW mX3_init 4 (((((b - b33) - (3 + 1)) - b45) - (6 + 1)) - (6 + 1)) 65 [(0, .ref v0)] [.ref κ52, .ref v0] (z1 (z1 T41 κ48 (100, 6)) κ52 (100, 6)) (z1 (z1 I42 κ48 fun _ => 0) κ52 fun _ => 0) (z1 (z1 L43 κ48 fun _ => 0) κ52 fun _ => 0) (z1 (z2 (z1 (z2 R44 v0 3 κ37) κ48 fun _ => 0) v0 4 κ48) κ52 fun _ => 0) P))))) : zAW mX3_init 4 b 30 [(0, .ref v0)] [.ref s0, .ref s1] T I L R P := by
  obtain ⟨ht28, h⟩ := h
  refine za_dup (pc' := 31) dX3_init_30 rfl rfl ?_
  refine za_bipush (pc' := 33) dX3_init_31 zb8_6 rfl ?_
  obtain ⟨ht35, h⟩ := h
  obtain ⟨b33, hb34, h⟩ := h
  refine za_callI (κ := s0) (M2 := mJ2_init) (d2 := 3) (b2 := b33) (n := 1) (As := [.int (6 : Int32)]) (st := [.ref s0, .ref s1]) (pc' := 36) (by rw [ht35]; decide) dX3_init_33 rfl (lw_meth q246) rfl q244 q245 q137 rfl hd_J2_init rfl (by decide) (by decide) hb34 (Or.inl rfl) (Nat.le_of_ble_eq_true rfl) h (zqV_TILR_k rfl (fun T29 I30 L31 R32 h => ?_)) (fun _ _ _ _ _ _ h9 h8 => absurd h8.1 h9) rfl
  obtain ⟨ht36, h⟩ := h
  refine za_putFR (fi := 2) (pc' := 39) dX3_init_36 zc2 (by decide) in_X3 zok2 znm2 (by decide) q276 (Or.inl rfl) rfl rfl rfl rfl (fun _ _ _ => rfl) ht36 rfl ?_
  refine za_aload_n (pc' := 40) 0 dX3_init_39 rfl rfl rfl ?_
  obtain ⟨κ37, hk38, hf39, hb40, h⟩ := h
  refine za_new (κ := κ37) (pc' := 43) dX3_init_40 zc4 (by decide) in_J2 zok4 zdf4 q242 q243 q137 hk38 hf39 hb40 rfl ?_
  refine za_dup (pc' := 44) dX3_init_43 rfl rfl ?_
  refine za_bipush (pc' := 46) dX3_init_44 zb8_6 rfl ?_
  obtain ⟨b45, hb46, h⟩ := h
  refine za_callI (κ := κ37) (M2 := mJ2_init) (d2 := 3) (b2 := b45) (n := 1) (As := [.int (6 : Int32)]) (st := [.ref κ37, .ref v0]) (pc' := 49) (by rw [(congrArg Prod.fst z1_s)]; decide) dX3_init_46 rfl (lw_meth q246) rfl q244 q245 q137 rfl hd_J2_init rfl (by decide) (by decide) hb46 (Or.inl rfl) (Nat.le_of_ble_eq_true rfl) h (zqV_TILR_k rfl (fun T41 I42 L43 R44 h => ?_)) (fun _ _ _ _ _ _ h9 h8 => absurd h8.1 h9) rfl
  obtain ⟨ht47, h⟩ := h
  refine za_putFR (fi := 3) (pc' := 52) dX3_init_49 zc2 (by decide) in_X3 zok2 znm2 (by decide) q280 (Or.inl rfl) rfl rfl rfl rfl (fun _ _ _ => rfl) ht47 rfl ?_
  refine za_aload_n (pc' := 53) 0 dX3_init_52 rfl rfl rfl ?_
  refine za_bipush (pc' := 55) dX3_init_53 zb8_6 rfl ?_
  obtain ⟨κ48, hk49, hf50, hb51, h⟩ := h
  refine za_newa_int (κ := κ48) (N := 6) (pc' := 57) dX3_init_55 q241 (by decide) zn_6 (by decide) hk49 hf50 hb51 rfl ?_
  refine za_putFR (fi := 4) (pc' := 60) dX3_init_57 zc2 (by decide) in_X3 zok2 znm2 (by decide) q283 (Or.inl rfl) rfl rfl rfl rfl (fun _ _ _ => rfl) (z1_tk hf50 ht47 (by decide)) rfl ?_
  refine za_aload_n (pc' := 61) 0 dX3_init_60 rfl rfl rfl ?_
  refine za_bipush (pc' := 63) dX3_init_61 zb8_6 rfl ?_
  obtain ⟨κ52, hk53, hf54, hb55, h⟩ := h
  refine za_newa_int (κ := κ52) (N := 6) (pc' := 65) dX3_init_63 q241 (by decide) zn_6 (by decide) hk53 hf54 hb55 rfl ?_
  exact zAW_sub [0] rfl h
theorem gX3_init_65 {b : Nat} {v0 : Nat} {s0 : Nat} {s1 : Nat} {T : zT} {I : zI} {L : zL} {R : zR} {P : zP} (h : (T v0).1 = 3 ∧ (T s1).1 = 3 ∧ ∃ κ58, 100 ≤ κ58 ∧ (T κ58).1 = 0 ∧ 6 + 1 ≤ b ∧ ∃ κ62, 100 ≤ κ62 ∧ ((z1 T κ58 (100, 6)) κ62).1 = 0 ∧ 6 + 1 ≤ (b - (6 + 1)) ∧ ∃ κ66, 100 ≤ κ66 ∧ ((z1 (z1 T κ58 (100, 6)) κ62 (100, 6)) κ66).1 = 0 ∧ 27 + 1 ≤ ((b - (6 + 1)) - (6 + 1)) ∧ ∃ κ70, 100 ≤ κ70 ∧ ((z1 (z1 (z1 T κ58 (100, 6)) κ62 (100, 6)) κ66 (100, 27)) κ70).1 = 0 ∧ 6 + 1 ≤ (((b - (6 + 1)) - (6 + 1)) - (27 + 1)) ∧ zAW mX3_init 4 ((((b - (6 + 1)) - (6 + 1)) - (27 + 1)) - (6 + 1)) 97 [(0, .ref v0)] [.ref κ70, .ref v0] (z1 (z1 (z1 (z1 T κ58 (100, 6)) κ62 (100, 6)) κ66 (100, 27)) κ70 (100, 6)) (z1 (z1 (z1 (z1 I κ58 fun _ => 0) κ62 fun _ => 0) κ66 fun _ => 0) κ70 fun _ => 0) (z1 (z1 (z1 (z1 L κ58 fun _ => 0) κ62 fun _ => 0) κ66 fun _ => 0) κ70 fun _ => 0) (z1 (z2 (z1 (z2 (z1 (z2 (z1 (z2 R s1 5 s0) κ58 fun _ => 0) v0 6 κ58) κ62 fun _ => 0) v0 7 κ62) κ66 fun _ => 0) v0 8 κ66) κ70 fun _ => 0) P) : zAW mX3_init 4 b 65 [(0, .ref v0)] [.ref s0, .ref s1] T I L R P := by
  obtain ⟨ht56, h⟩ := h
  obtain ⟨ht57, h⟩ := h
  refine za_putFR (fi := 5) (pc' := 68) dX3_init_65 zc2 (by decide) in_X3 zok2 znm2 (by decide) q286 (Or.inl rfl) rfl rfl rfl rfl (fun _ _ _ => rfl) ht57 rfl ?_
  refine za_aload_n (pc' := 69) 0 dX3_init_68 rfl rfl rfl ?_
  refine za_bipush (pc' := 71) dX3_init_69 zb8_6 rfl ?_
  obtain ⟨κ58, hk59, hf60, hb61, h⟩ := h
  refine za_newa_int (κ := κ58) (N := 6) (pc' := 73) dX3_init_71 q241 (by decide) zn_6 (by decide) hk59 hf60 hb61 rfl ?_
  refine za_putFR (fi := 6) (pc' := 76) dX3_init_73 zc2 (by decide) in_X3 zok2 znm2 (by decide) q289 (Or.inl rfl) rfl rfl rfl rfl (fun _ _ _ => rfl) (z1_tk hf60 ht56 (by decide)) rfl ?_
  refine za_aload_n (pc' := 77) 0 dX3_init_76 rfl rfl rfl ?_
  refine za_bipush (pc' := 79) dX3_init_77 zb8_6 rfl ?_
  obtain ⟨κ62, hk63, hf64, hb65, h⟩ := h
  refine za_newa_int (κ := κ62) (N := 6) (pc' := 81) dX3_init_79 q241 (by decide) zn_6 (by decide) hk63 hf64 hb65 rfl ?_
  refine za_putFR (fi := 7) (pc' := 84) dX3_init_81 zc2 (by decide) in_X3 zok2 znm2 (by decide) q292 (Or.inl rfl) rfl rfl rfl rfl (fun _ _ _ => rfl) (z1_tk hf64 (z1_tk hf60 ht56 (by decide)) (by decide)) rfl ?_
  refine za_aload_n (pc' := 85) 0 dX3_init_84 rfl rfl rfl ?_
  refine za_bipush (pc' := 87) dX3_init_85 zb8_27 rfl ?_
  obtain ⟨κ66, hk67, hf68, hb69, h⟩ := h
  refine za_newa_int (κ := κ66) (N := 27) (pc' := 89) dX3_init_87 q241 (by decide) zn_27 (by decide) hk67 hf68 hb69 rfl ?_
  refine za_putFR (fi := 8) (pc' := 92) dX3_init_89 zc2 (by decide) in_X3 zok2 znm2 (by decide) q295 (Or.inl rfl) rfl rfl rfl rfl (fun _ _ _ => rfl) (z1_tk hf68 (z1_tk hf64 (z1_tk hf60 ht56 (by decide)) (by decide)) (by decide)) rfl ?_
  refine za_aload_n (pc' := 93) 0 dX3_init_92 rfl rfl rfl ?_
  refine za_bipush (pc' := 95) dX3_init_93 zb8_6 rfl ?_
  obtain ⟨κ70, hk71, hf72, hb73, h⟩ := h
  refine za_newa_int (κ := κ70) (N := 6) (pc' := 97) dX3_init_95 q241 (by decide) zn_6 (by decide) hk71 hf72 hb73 rfl ?_
  exact zAW_sub [0] rfl h
theorem gX3_init_97 {b : Nat} {v0 : Nat} {s0 : Nat} {s1 : Nat} {T : zT} {I : zI} {L : zL} {R : zR} {P : zP} (h : (T v0).1 = 3 ∧ (T s1).1 = 3 ∧ ∃ κ76, 100 ≤ κ76 ∧ (T κ76).1 = 0 ∧ 6 + 1 ≤ b ∧ zAW mX3_init 4 (b - (6 + 1)) 110 [(0, .ref v0), (1, .int (1 : Int32))] [] (z1 T κ76 (100, 6)) (z1 I κ76 fun _ => 0) (z1 L κ76 fun _ => 0) (z2 (z1 (z2 R s1 9 s0) κ76 fun _ => 0) v0 10 κ76) P) : zAW mX3_init 4 b 97 [(0, .ref v0)] [.ref s0, .ref s1] T I L R P := by
  obtain ⟨ht74, h⟩ := h
  obtain ⟨ht75, h⟩ := h
  refine za_putFR (fi := 9) (pc' := 100) dX3_init_97 zc2 (by decide) in_X3 zok2 znm2 (by decide) q298 (Or.inl rfl) rfl rfl rfl rfl (fun _ _ _ => rfl) ht75 rfl ?_
  refine za_aload_n (pc' := 101) 0 dX3_init_100 rfl rfl rfl ?_
  refine za_bipush (pc' := 103) dX3_init_101 zb8_6 rfl ?_
  obtain ⟨κ76, hk77, hf78, hb79, h⟩ := h
  refine za_newa_int (κ := κ76) (N := 6) (pc' := 105) dX3_init_103 q241 (by decide) zn_6 (by decide) hk77 hf78 hb79 rfl ?_
  refine za_putFR (fi := 10) (pc' := 108) dX3_init_105 zc2 (by decide) in_X3 zok2 znm2 (by decide) q300 (Or.inl rfl) rfl rfl rfl rfl (fun _ _ _ => rfl) (z1_tk hf78 ht74 (by decide)) rfl ?_
  refine za_iconst (pc' := 109) dX3_init_108 zi_1 rfl ?_
  refine za_istore_n (pc' := 110) (l' := [(1, .int (1 : Int32)), (0, .ref v0)]) dX3_init_109 rfl (Nat.le_of_ble_eq_true rfl) rfl rfl ?_
  exact zAW_sub [1, 0] rfl h
theorem gX3_init_110 {b : Nat} {v0 : Nat} {v1 : Int32} {T : zT} {I : zI} {L : zL} {R : zR} {P : zP} (h : (T v0).1 = 3 ∧ (((26 : Int32) < v1 → P 0 (.int 0) T I L R) ∧ (¬ (26 : Int32) < v1 → (T (R v0 8)).1 = 100 ∧ vp_in v1 ((T (R v0 8)).2) ∧ zAW mX3_init 4 b 110 [(0, .ref v0), (1, .int (v1 + (1 : Int32)))] [] T (z2 I (R v0 8) (v1.toNatClampNeg) (1 : Int32)) L R P))) : zAW mX3_init 4 b 110 [(0, .ref v0), (1, .int v1)] [] T I L R P := by
  obtain ⟨ht80, h⟩ := h
  refine za_iload_n (pc' := 111) 1 dX3_init_110 rfl rfl rfl ?_
  refine za_bipush (pc' := 113) dX3_init_111 zb8_26 rfl ?_
  refine za_icmp_gt (pc' := 116) (tgt := 129) dX3_init_113 (by decide) rfl (fun c9 => ?_) (fun c9 => ?_)
  · replace h := h.1 c9
    exact za_return rfl dX3_init_129 h
  · replace h := h.2 c9
    refine za_aload_n (pc' := 117) 0 dX3_init_116 rfl rfl rfl ?_
    refine za_get (fi := 8) (v := .ref (R v0 8)) (pc' := 120) dX3_init_117 zc2 (by decide) in_X3 (by decide) q295 (Or.inl rfl) ht80 rfl rfl ?_
    refine za_iload_n (pc' := 121) 1 dX3_init_120 rfl rfl rfl ?_
    refine za_iconst (pc' := 122) dX3_init_121 zi_1 rfl ?_
    obtain ⟨ht81, h⟩ := h
    obtain ⟨hi82, h⟩ := h
    refine za_iast (k := v1.toNatClampNeg) (pc' := 123) dX3_init_122 (zpair ht81) hi82 rfl rfl ?_
    refine za_iinc (pc' := 126) (l' := [(1, .int (v1 + (1 : Int32))), (0, .ref v0)]) 1 dX3_init_123 rfl (zinc zi_1) (Nat.le_of_ble_eq_true rfl) rfl rfl ?_
    refine za_goto (tgt := 110) dX3_init_126 (by decide) ?_
    exact zAW_sub [1, 0] rfl h
theorem sX3_init {d b : Nat} {v0 : Nat} {T : zT} {I : zI} {L : zL} {R : zR} {P : zP} (h : zAW mX3_init d b 0 [(0, .ref v0)] [] T I L R P) : zMet mX3_init d b [.ref v0] T I L R P := zMet_of (by decide +kernel) rfl (Nat.le_of_ble_eq_true rfl) rfl h
/-! TwoTongues$Street.find (I)I -/
def dkwX3_find_1 : List UInt8 := [180, 0, 65, 27, 160, 0, 5, 28, 172, 132, 2, 1, 167, 255, 222, 2, 172]
abbrev dktX3_find_1 : List UInt8 := dkwX3_find_1 ++ []
def dkwX3_find_0 : List UInt8 := [3, 61, 28, 42, 180, 0, 26, 182, 0, 55, 162, 0, 29, 42, 180, 0, 26, 28, 182, 0, 59, 192, 0, 63]
abbrev dktX3_find_0 : List UInt8 := dkwX3_find_0 ++ dktX3_find_1
theorem dksX3_find_0 : cX3_find.data.toList.drop 0 = dktX3_find_0 := by decide +kernel
theorem dksX3_find_1 : cX3_find.data.toList.drop 24 = dktX3_find_1 := dk_seg dksX3_find_0 24 rfl rfl
theorem dX3_find_0 : decode cX3_find 0 = .ok (.iconst 0, 1) := dk_3 (dk_at dksX3_find_0 0 rfl rfl)
theorem dX3_find_1 : decode cX3_find 1 = .ok (.istore_n 2, 1) := dk_61 (dk_at dksX3_find_0 1 rfl rfl)
theorem dX3_find_2 : decode cX3_find 2 = .ok (.iload_n 2, 1) := dk_28 (dk_at dksX3_find_0 2 rfl rfl)
theorem dX3_find_3 : decode cX3_find 3 = .ok (.aload_n 0, 1) := dk_42 (dk_at dksX3_find_0 3 rfl rfl)
theorem dX3_find_4 : decode cX3_find 4 = .ok (.getfield 26, 3) := dk_180 0 26 (dk_at dksX3_find_0 4 rfl rfl)
theorem dX3_find_7 : decode cX3_find 7 = .ok (.invokevirtual 55, 3) := dk_182 0 55 (dk_at dksX3_find_0 7 rfl rfl)
theorem dX3_find_10 : decode cX3_find 10 = .ok (.if_icmp .ge 29, 3) := dk_162 0 29 (dk_at dksX3_find_0 10 rfl rfl)
theorem dX3_find_13 : decode cX3_find 13 = .ok (.aload_n 0, 1) := dk_42 (dk_at dksX3_find_0 13 rfl rfl)
theorem dX3_find_14 : decode cX3_find 14 = .ok (.getfield 26, 3) := dk_180 0 26 (dk_at dksX3_find_0 14 rfl rfl)
theorem dX3_find_17 : decode cX3_find 17 = .ok (.iload_n 2, 1) := dk_28 (dk_at dksX3_find_0 17 rfl rfl)
theorem dX3_find_18 : decode cX3_find 18 = .ok (.invokevirtual 59, 3) := dk_182 0 59 (dk_at dksX3_find_0 18 rfl rfl)
theorem dX3_find_21 : decode cX3_find 21 = .ok (.checkcast 63, 3) := dk_192 0 63 (dk_at dksX3_find_0 21 rfl rfl)
theorem dX3_find_24 : decode cX3_find 24 = .ok (.getfield 65, 3) := dk_180 0 65 (dk_at dksX3_find_1 0 rfl rfl)
theorem dX3_find_27 : decode cX3_find 27 = .ok (.iload_n 1, 1) := dk_27 (dk_at dksX3_find_1 3 rfl rfl)
theorem dX3_find_28 : decode cX3_find 28 = .ok (.if_icmp .ne 5, 3) := dk_160 0 5 (dk_at dksX3_find_1 4 rfl rfl)
theorem dX3_find_31 : decode cX3_find 31 = .ok (.iload_n 2, 1) := dk_28 (dk_at dksX3_find_1 7 rfl rfl)
theorem dX3_find_32 : decode cX3_find 32 = .ok (.ireturn, 1) := dk_172 (dk_at dksX3_find_1 8 rfl rfl)
theorem dX3_find_33 : decode cX3_find 33 = .ok (.iinc 2 1, 3) := dk_132 2 1 (dk_at dksX3_find_1 9 rfl rfl)
theorem dX3_find_36 : decode cX3_find 36 = .ok (.goto (-34), 3) := dk_167 255 222 (dk_at dksX3_find_1 12 rfl rfl)
theorem dX3_find_39 : decode cX3_find 39 = .ok (.iconst (-1), 1) := dk_2 (dk_at dksX3_find_1 15 rfl rfl)
theorem dX3_find_40 : decode cX3_find 40 = .ok (.ireturn, 1) := dk_172 (dk_at dksX3_find_1 16 rfl rfl)
theorem gX3_find_0 {v0 : Nat} {v1 : Int32} {T : zT} {I : zI} {L : zL} {R : zR} {P : zP} (h : zAW mX3_find 4 0 2 [(0, .ref v0), (1, .int v1), (2, .int (0 : Int32))] [] T I L R P) : zAW mX3_find 4 0 0 [(0, .ref v0), (1, .int v1)] [] T I L R P := by
  refine za_iconst (pc' := 1) dX3_find_0 zi_0 rfl ?_
  refine za_istore_n (pc' := 2) (l' := [(2, .int (0 : Int32)), (0, .ref v0), (1, .int v1)]) dX3_find_1 rfl (Nat.le_of_ble_eq_true rfl) rfl rfl ?_
  exact zAW_sub [1, 2, 0] rfl h
theorem gX3_find_2 {v0 : Nat} {v1 : Int32} {v2 : Int32} {T : zT} {I : zI} {L : zL} {R : zR} {P : zP} (h : (T v0).1 = 3 ∧ (T (R v0 2)).1 = 5 ∧ zMet mJ2_size 1 0 [.ref (R v0 2)] T I L R (zqI_ T I L R  (fun (r2 : Int32)  => ((r2 ≤ v2 → P 0 (.int (-1 : Int32)) T I L R) ∧ (¬ r2 ≤ v2 → zMet mJ2_get 3 0 [.ref (R v0 2), .int v2] T I L R (zqR_ T I L R  (fun (r4 : Nat)  => (T r4).1 = 15 ∧ (((I r4 0) = v1 → P 0 (.int v2) T I L R) ∧ (¬ (I r4 0) = v1 → zAW mX3_find 4 0 2 [(0, .ref v0), (1, .int v1), (2, .int (v2 + (1 : Int32)))] [] T I L R P))))))))) : zAW mX3_find 4 0 2 [(0, .ref v0), (1, .int v1), (2, .int v2)] [] T I L R P := by
  refine za_iload_n (pc' := 3) 2 dX3_find_2 rfl rfl rfl ?_
  refine za_aload_n (pc' := 4) 0 dX3_find_3 rfl rfl rfl ?_
  obtain ⟨ht1, h⟩ := h
  refine za_get (fi := 2) (v := .ref (R v0 2)) (pc' := 7) dX3_find_4 zc2 (by decide) in_X3 (by decide) q276 (Or.inl rfl) ht1 rfl rfl ?_
  obtain ⟨ht3, h⟩ := h
  refine za_callV (κ := (R v0 2)) (M2 := mJ2_size) (d2 := 1) (b2 := 0) (n := 0) (As := []) (st := [.int v2]) (pc' := 10) zc4 (by decide) ht3 dX3_find_7 rfl (lw_V q845 q466 q467 q137 q468) ⟨rfl, hd_J2_size⟩ rfl (by decide) (by decide) (Nat.zero_le _) (Or.inl rfl) (Nat.le_of_ble_eq_true rfl) h (zqI__k rfl (fun r2 h => ?_)) (fun _ _ _ _ _ _ h9 h8 => absurd h8.1 h9) rfl
  refine za_icmp_ge (pc' := 13) (tgt := 39) dX3_find_10 (by decide) rfl (fun c9 => ?_) (fun c9 => ?_)
  · replace h := h.1 c9
    refine za_iconst (pc' := 40) dX3_find_39 zi_m1 rfl ?_
    exact za_ireturn rfl dX3_find_40 h
  · replace h := h.2 c9
    refine za_aload_n (pc' := 14) 0 dX3_find_13 rfl rfl rfl ?_
    refine za_get (fi := 2) (v := .ref (R v0 2)) (pc' := 17) dX3_find_14 zc2 (by decide) in_X3 (by decide) q276 (Or.inl rfl) ht1 rfl rfl ?_
    refine za_iload_n (pc' := 18) 2 dX3_find_17 rfl rfl rfl ?_
    refine za_callV (κ := (R v0 2)) (M2 := mJ2_get) (d2 := 3) (b2 := 0) (n := 1) (As := [.int v2]) (st := []) (pc' := 21) zc4 (by decide) ht3 dX3_find_18 rfl (lw_V q846 q470 q471 q137 q472) ⟨rfl, hd_J2_get⟩ rfl (by decide) (by decide) (Nat.zero_le _) (Or.inl rfl) (Nat.le_of_ble_eq_true rfl) h (zqR__k rfl (fun r4 h => ?_)) (fun _ _ _ _ _ _ h9 h8 => absurd h8.1 h9) rfl
    obtain ⟨ht5, h⟩ := h
    refine za_cast (pc' := 24) dX3_find_21 q847 zc14 (by decide) ht5 rfl ?_
    refine za_getN (fi := 0) (v := .int (I r4 0)) (pc' := 27) dX3_find_24 zc14 (by decide) in_X15 (by decide) q857 (Or.inl rfl) ht5 rfl rfl ?_
    refine za_iload_n (pc' := 28) 1 dX3_find_27 rfl rfl rfl ?_
    refine za_icmp_ne (pc' := 31) (tgt := 33) dX3_find_28 (by decide) rfl (fun c9 => ?_) (fun c9 => ?_)
    · replace h := h.2 c9
      refine za_iinc (pc' := 36) (l' := [(2, .int (v2 + (1 : Int32))), (0, .ref v0), (1, .int v1)]) 2 dX3_find_33 rfl (zinc zi_1) (Nat.le_of_ble_eq_true rfl) rfl rfl ?_
      refine za_goto (tgt := 2) dX3_find_36 (by decide) ?_
      exact zAW_sub [1, 2, 0] rfl h
    · replace h := h.1 c9
      refine za_iload_n (pc' := 32) 2 dX3_find_31 rfl rfl rfl ?_
      exact za_ireturn rfl dX3_find_32 h
theorem sX3_find {d b : Nat} {v0 : Nat} {v1 : Int32} {T : zT} {I : zI} {L : zL} {R : zR} {P : zP} (h : zAW mX3_find d b 0 [(0, .ref v0), (1, .int v1)] [] T I L R P) : zMet mX3_find d b [.ref v0, .int v1] T I L R P := zMet_of (by decide +kernel) rfl (Nat.le_of_ble_eq_true rfl) rfl h
/-! TwoTongues$Street.isCovered (II)Z -/
def dkwX3_isCovered_1 : List UInt8 := [29, 46, 27, 160, 0, 5, 4, 172, 132, 3, 1, 167, 255, 223, 3, 172]
abbrev dktX3_isCovered_1 : List UInt8 := dkwX3_isCovered_1 ++ []
def dkwX3_isCovered_0 : List UInt8 := [3, 62, 29, 42, 180, 0, 69, 162, 0, 31, 42, 180, 0, 49, 29, 46, 28, 160, 0, 15, 42, 180, 0, 52]
abbrev dktX3_isCovered_0 : List UInt8 := dkwX3_isCovered_0 ++ dktX3_isCovered_1
theorem dksX3_isCovered_0 : cX3_isCovered.data.toList.drop 0 = dktX3_isCovered_0 := by decide +kernel
theorem dksX3_isCovered_1 : cX3_isCovered.data.toList.drop 24 = dktX3_isCovered_1 := dk_seg dksX3_isCovered_0 24 rfl rfl
theorem dX3_isCovered_0 : decode cX3_isCovered 0 = .ok (.iconst 0, 1) := dk_3 (dk_at dksX3_isCovered_0 0 rfl rfl)
theorem dX3_isCovered_1 : decode cX3_isCovered 1 = .ok (.istore_n 3, 1) := dk_62 (dk_at dksX3_isCovered_0 1 rfl rfl)
theorem dX3_isCovered_2 : decode cX3_isCovered 2 = .ok (.iload_n 3, 1) := dk_29 (dk_at dksX3_isCovered_0 2 rfl rfl)
theorem dX3_isCovered_3 : decode cX3_isCovered 3 = .ok (.aload_n 0, 1) := dk_42 (dk_at dksX3_isCovered_0 3 rfl rfl)
theorem dX3_isCovered_4 : decode cX3_isCovered 4 = .ok (.getfield 69, 3) := dk_180 0 69 (dk_at dksX3_isCovered_0 4 rfl rfl)
theorem dX3_isCovered_7 : decode cX3_isCovered 7 = .ok (.if_icmp .ge 31, 3) := dk_162 0 31 (dk_at dksX3_isCovered_0 7 rfl rfl)
theorem dX3_isCovered_10 : decode cX3_isCovered 10 = .ok (.aload_n 0, 1) := dk_42 (dk_at dksX3_isCovered_0 10 rfl rfl)
theorem dX3_isCovered_11 : decode cX3_isCovered 11 = .ok (.getfield 49, 3) := dk_180 0 49 (dk_at dksX3_isCovered_0 11 rfl rfl)
theorem dX3_isCovered_14 : decode cX3_isCovered 14 = .ok (.iload_n 3, 1) := dk_29 (dk_at dksX3_isCovered_0 14 rfl rfl)
theorem dX3_isCovered_15 : decode cX3_isCovered 15 = .ok (.iaload, 1) := dk_46 (dk_at dksX3_isCovered_0 15 rfl rfl)
theorem dX3_isCovered_16 : decode cX3_isCovered 16 = .ok (.iload_n 2, 1) := dk_28 (dk_at dksX3_isCovered_0 16 rfl rfl)
theorem dX3_isCovered_17 : decode cX3_isCovered 17 = .ok (.if_icmp .ne 15, 3) := dk_160 0 15 (dk_at dksX3_isCovered_0 17 rfl rfl)
theorem dX3_isCovered_20 : decode cX3_isCovered 20 = .ok (.aload_n 0, 1) := dk_42 (dk_at dksX3_isCovered_0 20 rfl rfl)
theorem dX3_isCovered_21 : decode cX3_isCovered 21 = .ok (.getfield 52, 3) := dk_180 0 52 (dk_at dksX3_isCovered_0 21 rfl rfl)
theorem dX3_isCovered_24 : decode cX3_isCovered 24 = .ok (.iload_n 3, 1) := dk_29 (dk_at dksX3_isCovered_1 0 rfl rfl)
theorem dX3_isCovered_25 : decode cX3_isCovered 25 = .ok (.iaload, 1) := dk_46 (dk_at dksX3_isCovered_1 1 rfl rfl)
theorem dX3_isCovered_26 : decode cX3_isCovered 26 = .ok (.iload_n 1, 1) := dk_27 (dk_at dksX3_isCovered_1 2 rfl rfl)
theorem dX3_isCovered_27 : decode cX3_isCovered 27 = .ok (.if_icmp .ne 5, 3) := dk_160 0 5 (dk_at dksX3_isCovered_1 3 rfl rfl)
theorem dX3_isCovered_30 : decode cX3_isCovered 30 = .ok (.iconst 1, 1) := dk_4 (dk_at dksX3_isCovered_1 6 rfl rfl)
theorem dX3_isCovered_31 : decode cX3_isCovered 31 = .ok (.ireturn, 1) := dk_172 (dk_at dksX3_isCovered_1 7 rfl rfl)
theorem dX3_isCovered_32 : decode cX3_isCovered 32 = .ok (.iinc 3 1, 3) := dk_132 3 1 (dk_at dksX3_isCovered_1 8 rfl rfl)
theorem dX3_isCovered_35 : decode cX3_isCovered 35 = .ok (.goto (-33), 3) := dk_167 255 223 (dk_at dksX3_isCovered_1 11 rfl rfl)
theorem dX3_isCovered_38 : decode cX3_isCovered 38 = .ok (.iconst 0, 1) := dk_3 (dk_at dksX3_isCovered_1 14 rfl rfl)
theorem dX3_isCovered_39 : decode cX3_isCovered 39 = .ok (.ireturn, 1) := dk_172 (dk_at dksX3_isCovered_1 15 rfl rfl)
theorem gX3_isCovered_0 {v0 : Nat} {v1 : Int32} {v2 : Int32} {T : zT} {I : zI} {L : zL} {R : zR} {P : zP} (h : zAW mX3_isCovered 1 0 2 [(0, .ref v0), (1, .int v1), (2, .int v2), (3, .int (0 : Int32))] [] T I L R P) : zAW mX3_isCovered 1 0 0 [(0, .ref v0), (1, .int v1), (2, .int v2)] [] T I L R P := by
  refine za_iconst (pc' := 1) dX3_isCovered_0 zi_0 rfl ?_
  refine za_istore_n (pc' := 2) (l' := [(3, .int (0 : Int32)), (0, .ref v0), (1, .int v1), (2, .int v2)]) dX3_isCovered_1 rfl (Nat.le_of_ble_eq_true rfl) rfl rfl ?_
  exact zAW_sub [1, 2, 3, 0] rfl h
theorem gX3_isCovered_2 {v0 : Nat} {v1 : Int32} {v2 : Int32} {v3 : Int32} {T : zT} {I : zI} {L : zL} {R : zR} {P : zP} (h : (T v0).1 = 3 ∧ (((I v0 13) ≤ v3 → P 0 (.int (0 : Int32)) T I L R) ∧ (¬ (I v0 13) ≤ v3 → (T (R v0 9)).1 = 100 ∧ vp_in v3 ((T (R v0 9)).2) ∧ (((I (R v0 9) (v3.toNatClampNeg)) = v2 → (T (R v0 10)).1 = 100 ∧ vp_in v3 ((T (R v0 10)).2) ∧ (((I (R v0 10) (v3.toNatClampNeg)) = v1 → P 0 (.int (1 : Int32)) T I L R) ∧ (¬ (I (R v0 10) (v3.toNatClampNeg)) = v1 → zAW mX3_isCovered 1 0 2 [(0, .ref v0), (1, .int v1), (2, .int v2), (3, .int (v3 + (1 : Int32)))] [] T I L R P))) ∧ (¬ (I (R v0 9) (v3.toNatClampNeg)) = v2 → zAW mX3_isCovered 1 0 2 [(0, .ref v0), (1, .int v1), (2, .int v2), (3, .int (v3 + (1 : Int32)))] [] T I L R P))))) : zAW mX3_isCovered 1 0 2 [(0, .ref v0), (1, .int v1), (2, .int v2), (3, .int v3)] [] T I L R P := by
  refine za_iload_n (pc' := 3) 3 dX3_isCovered_2 rfl rfl rfl ?_
  refine za_aload_n (pc' := 4) 0 dX3_isCovered_3 rfl rfl rfl ?_
  obtain ⟨ht1, h⟩ := h
  refine za_get (fi := 13) (v := .int (I v0 13)) (pc' := 7) dX3_isCovered_4 zc2 (by decide) in_X3 (by decide) q306 (Or.inl rfl) ht1 rfl rfl ?_
  refine za_icmp_ge (pc' := 10) (tgt := 38) dX3_isCovered_7 (by decide) rfl (fun c9 => ?_) (fun c9 => ?_)
  · replace h := h.1 c9
    refine za_iconst (pc' := 39) dX3_isCovered_38 zi_0 rfl ?_
    exact za_zreturn rfl dX3_isCovered_39 (by decide) h
  · replace h := h.2 c9
    refine za_aload_n (pc' := 11) 0 dX3_isCovered_10 rfl rfl rfl ?_
    refine za_get (fi := 9) (v := .ref (R v0 9)) (pc' := 14) dX3_isCovered_11 zc2 (by decide) in_X3 (by decide) q298 (Or.inl rfl) ht1 rfl rfl ?_
    refine za_iload_n (pc' := 15) 3 dX3_isCovered_14 rfl rfl rfl ?_
    obtain ⟨ht2, h⟩ := h
    obtain ⟨hi3, h⟩ := h
    refine za_iald (v := .int (I (R v0 9) (v3.toNatClampNeg))) (pc' := 16) dX3_isCovered_15 (zpair ht2) hi3 rfl rfl ?_
    refine za_iload_n (pc' := 17) 2 dX3_isCovered_16 rfl rfl rfl ?_
    refine za_icmp_ne (pc' := 20) (tgt := 32) dX3_isCovered_17 (by decide) rfl (fun c9 => ?_) (fun c9 => ?_)
    · replace h := h.2 c9
      refine za_iinc (pc' := 35) (l' := [(3, .int (v3 + (1 : Int32))), (0, .ref v0), (1, .int v1), (2, .int v2)]) 3 dX3_isCovered_32 rfl (zinc zi_1) (Nat.le_of_ble_eq_true rfl) rfl rfl ?_
      refine za_goto (tgt := 2) dX3_isCovered_35 (by decide) ?_
      exact zAW_sub [1, 2, 3, 0] rfl h
    · replace h := h.1 c9
      refine za_aload_n (pc' := 21) 0 dX3_isCovered_20 rfl rfl rfl ?_
      refine za_get (fi := 10) (v := .ref (R v0 10)) (pc' := 24) dX3_isCovered_21 zc2 (by decide) in_X3 (by decide) q300 (Or.inl rfl) ht1 rfl rfl ?_
      refine za_iload_n (pc' := 25) 3 dX3_isCovered_24 rfl rfl rfl ?_
      obtain ⟨ht4, h⟩ := h
      obtain ⟨hi5, h⟩ := h
      refine za_iald (v := .int (I (R v0 10) (v3.toNatClampNeg))) (pc' := 26) dX3_isCovered_25 (zpair ht4) hi5 rfl rfl ?_
      refine za_iload_n (pc' := 27) 1 dX3_isCovered_26 rfl rfl rfl ?_
      refine za_icmp_ne (pc' := 30) (tgt := 32) dX3_isCovered_27 (by decide) rfl (fun c9 => ?_) (fun c9 => ?_)
      · replace h := h.2 c9
        refine za_iinc (pc' := 35) (l' := [(3, .int (v3 + (1 : Int32))), (0, .ref v0), (1, .int v1), (2, .int v2)]) 3 dX3_isCovered_32 rfl (zinc zi_1) (Nat.le_of_ble_eq_true rfl) rfl rfl ?_
        refine za_goto (tgt := 2) dX3_isCovered_35 (by decide) ?_
        exact zAW_sub [1, 2, 3, 0] rfl h
      · replace h := h.1 c9
        refine za_iconst (pc' := 31) dX3_isCovered_30 zi_1 rfl ?_
        exact za_zreturn rfl dX3_isCovered_31 (by decide) h
theorem sX3_isCovered {d b : Nat} {v0 : Nat} {v1 : Int32} {v2 : Int32} {T : zT} {I : zI} {L : zL} {R : zR} {P : zP} (h : zAW mX3_isCovered d b 0 [(0, .ref v0), (1, .int v1), (2, .int v2)] [] T I L R P) : zMet mX3_isCovered d b [.ref v0, .int v1, .int v2] T I L R P := zMet_of (by decide +kernel) rfl (Nat.le_of_ble_eq_true rfl) rfl h
/-! TwoTongues$Street.iron (LTwoTongues$Row;)I -/
def dkwX3_iron_1 : List UInt8 := [96, 61, 132, 3, 1, 167, 255, 231, 28, 172]
abbrev dktX3_iron_1 : List UInt8 := dkwX3_iron_1 ++ []
def dkwX3_iron_0 : List UInt8 := [3, 61, 3, 62, 29, 43, 180, 0, 72, 162, 0, 23, 28, 42, 180, 0, 46, 43, 180, 0, 77, 29, 46, 46]
abbrev dktX3_iron_0 : List UInt8 := dkwX3_iron_0 ++ dktX3_iron_1
theorem dksX3_iron_0 : cX3_iron.data.toList.drop 0 = dktX3_iron_0 := by decide +kernel
theorem dksX3_iron_1 : cX3_iron.data.toList.drop 24 = dktX3_iron_1 := dk_seg dksX3_iron_0 24 rfl rfl
theorem dX3_iron_0 : decode cX3_iron 0 = .ok (.iconst 0, 1) := dk_3 (dk_at dksX3_iron_0 0 rfl rfl)
theorem dX3_iron_1 : decode cX3_iron 1 = .ok (.istore_n 2, 1) := dk_61 (dk_at dksX3_iron_0 1 rfl rfl)
theorem dX3_iron_2 : decode cX3_iron 2 = .ok (.iconst 0, 1) := dk_3 (dk_at dksX3_iron_0 2 rfl rfl)
theorem dX3_iron_3 : decode cX3_iron 3 = .ok (.istore_n 3, 1) := dk_62 (dk_at dksX3_iron_0 3 rfl rfl)
theorem dX3_iron_4 : decode cX3_iron 4 = .ok (.iload_n 3, 1) := dk_29 (dk_at dksX3_iron_0 4 rfl rfl)
theorem dX3_iron_5 : decode cX3_iron 5 = .ok (.aload_n 1, 1) := dk_43 (dk_at dksX3_iron_0 5 rfl rfl)
theorem dX3_iron_6 : decode cX3_iron 6 = .ok (.getfield 72, 3) := dk_180 0 72 (dk_at dksX3_iron_0 6 rfl rfl)
theorem dX3_iron_9 : decode cX3_iron 9 = .ok (.if_icmp .ge 23, 3) := dk_162 0 23 (dk_at dksX3_iron_0 9 rfl rfl)
theorem dX3_iron_12 : decode cX3_iron 12 = .ok (.iload_n 2, 1) := dk_28 (dk_at dksX3_iron_0 12 rfl rfl)
theorem dX3_iron_13 : decode cX3_iron 13 = .ok (.aload_n 0, 1) := dk_42 (dk_at dksX3_iron_0 13 rfl rfl)
theorem dX3_iron_14 : decode cX3_iron 14 = .ok (.getfield 46, 3) := dk_180 0 46 (dk_at dksX3_iron_0 14 rfl rfl)
theorem dX3_iron_17 : decode cX3_iron 17 = .ok (.aload_n 1, 1) := dk_43 (dk_at dksX3_iron_0 17 rfl rfl)
theorem dX3_iron_18 : decode cX3_iron 18 = .ok (.getfield 77, 3) := dk_180 0 77 (dk_at dksX3_iron_0 18 rfl rfl)
theorem dX3_iron_21 : decode cX3_iron 21 = .ok (.iload_n 3, 1) := dk_29 (dk_at dksX3_iron_0 21 rfl rfl)
theorem dX3_iron_22 : decode cX3_iron 22 = .ok (.iaload, 1) := dk_46 (dk_at dksX3_iron_0 22 rfl rfl)
theorem dX3_iron_23 : decode cX3_iron 23 = .ok (.iaload, 1) := dk_46 (dk_at dksX3_iron_0 23 rfl rfl)
theorem dX3_iron_24 : decode cX3_iron 24 = .ok (.iadd, 1) := dk_96 (dk_at dksX3_iron_1 0 rfl rfl)
theorem dX3_iron_25 : decode cX3_iron 25 = .ok (.istore_n 2, 1) := dk_61 (dk_at dksX3_iron_1 1 rfl rfl)
theorem dX3_iron_26 : decode cX3_iron 26 = .ok (.iinc 3 1, 3) := dk_132 3 1 (dk_at dksX3_iron_1 2 rfl rfl)
theorem dX3_iron_29 : decode cX3_iron 29 = .ok (.goto (-25), 3) := dk_167 255 231 (dk_at dksX3_iron_1 5 rfl rfl)
theorem dX3_iron_32 : decode cX3_iron 32 = .ok (.iload_n 2, 1) := dk_28 (dk_at dksX3_iron_1 8 rfl rfl)
theorem dX3_iron_33 : decode cX3_iron 33 = .ok (.ireturn, 1) := dk_172 (dk_at dksX3_iron_1 9 rfl rfl)
theorem gX3_iron_0 {v0 : Nat} {v1 : Nat} {T : zT} {I : zI} {L : zL} {R : zR} {P : zP} (h : zAW mX3_iron 1 0 4 [(0, .ref v0), (1, .ref v1), (2, .int (0 : Int32)), (3, .int (0 : Int32))] [] T I L R P) : zAW mX3_iron 1 0 0 [(0, .ref v0), (1, .ref v1)] [] T I L R P := by
  refine za_iconst (pc' := 1) dX3_iron_0 zi_0 rfl ?_
  refine za_istore_n (pc' := 2) (l' := [(2, .int (0 : Int32)), (0, .ref v0), (1, .ref v1)]) dX3_iron_1 rfl (Nat.le_of_ble_eq_true rfl) rfl rfl ?_
  refine za_iconst (pc' := 3) dX3_iron_2 zi_0 rfl ?_
  refine za_istore_n (pc' := 4) (l' := [(3, .int (0 : Int32)), (2, .int (0 : Int32)), (0, .ref v0), (1, .ref v1)]) dX3_iron_3 rfl (Nat.le_of_ble_eq_true rfl) rfl rfl ?_
  exact zAW_sub [2, 3, 1, 0] rfl h
theorem gX3_iron_4 {v0 : Nat} {v1 : Nat} {v2 : Int32} {v3 : Int32} {T : zT} {I : zI} {L : zL} {R : zR} {P : zP} (h : (T v1).1 = 11 ∧ (((I v1 1) ≤ v3 → P 0 (.int v2) T I L R) ∧ (¬ (I v1 1) ≤ v3 → (T v0).1 = 3 ∧ (T (R v1 0)).1 = 100 ∧ vp_in v3 ((T (R v1 0)).2) ∧ (T (R v0 8)).1 = 100 ∧ vp_in (I (R v1 0) (v3.toNatClampNeg)) ((T (R v0 8)).2) ∧ zAW mX3_iron 1 0 4 [(0, .ref v0), (1, .ref v1), (2, .int (v2 + (I (R v0 8) ((I (R v1 0) (v3.toNatClampNeg)).toNatClampNeg)))), (3, .int (v3 + (1 : Int32)))] [] T I L R P))) : zAW mX3_iron 1 0 4 [(0, .ref v0), (1, .ref v1), (2, .int v2), (3, .int v3)] [] T I L R P := by
  refine za_iload_n (pc' := 5) 3 dX3_iron_4 rfl rfl rfl ?_
  refine za_aload_n (pc' := 6) 1 dX3_iron_5 rfl rfl rfl ?_
  obtain ⟨ht1, h⟩ := h
  refine za_getN (fi := 1) (v := .int (I v1 1)) (pc' := 9) dX3_iron_6 zc10 (by decide) in_X11 (by decide) q407 (Or.inl rfl) ht1 rfl rfl ?_
  refine za_icmp_ge (pc' := 12) (tgt := 32) dX3_iron_9 (by decide) rfl (fun c9 => ?_) (fun c9 => ?_)
  · replace h := h.1 c9
    refine za_iload_n (pc' := 33) 2 dX3_iron_32 rfl rfl rfl ?_
    exact za_ireturn rfl dX3_iron_33 h
  · replace h := h.2 c9
    refine za_iload_n (pc' := 13) 2 dX3_iron_12 rfl rfl rfl ?_
    refine za_aload_n (pc' := 14) 0 dX3_iron_13 rfl rfl rfl ?_
    obtain ⟨ht2, h⟩ := h
    refine za_get (fi := 8) (v := .ref (R v0 8)) (pc' := 17) dX3_iron_14 zc2 (by decide) in_X3 (by decide) q295 (Or.inl rfl) ht2 rfl rfl ?_
    refine za_aload_n (pc' := 18) 1 dX3_iron_17 rfl rfl rfl ?_
    refine za_getN (fi := 0) (v := .ref (R v1 0)) (pc' := 21) dX3_iron_18 zc10 (by decide) in_X11 (by decide) q403 (Or.inl rfl) ht1 rfl rfl ?_
    refine za_iload_n (pc' := 22) 3 dX3_iron_21 rfl rfl rfl ?_
    obtain ⟨ht3, h⟩ := h
    obtain ⟨hi4, h⟩ := h
    refine za_iald (v := .int (I (R v1 0) (v3.toNatClampNeg))) (pc' := 23) dX3_iron_22 (zpair ht3) hi4 rfl rfl ?_
    obtain ⟨ht5, h⟩ := h
    obtain ⟨hi6, h⟩ := h
    refine za_iald (v := .int (I (R v0 8) ((I (R v1 0) (v3.toNatClampNeg)).toNatClampNeg))) (pc' := 24) dX3_iron_23 (zpair ht5) hi6 rfl rfl ?_
    refine za_iadd (pc' := 25) dX3_iron_24 rfl ?_
    refine za_istore_n (pc' := 26) (l' := [(2, .int (v2 + (I (R v0 8) ((I (R v1 0) (v3.toNatClampNeg)).toNatClampNeg)))), (0, .ref v0), (1, .ref v1), (3, .int v3)]) dX3_iron_25 rfl (Nat.le_of_ble_eq_true rfl) rfl rfl ?_
    refine za_iinc (pc' := 29) (l' := [(3, .int (v3 + (1 : Int32))), (2, .int (v2 + (I (R v0 8) ((I (R v1 0) (v3.toNatClampNeg)).toNatClampNeg)))), (0, .ref v0), (1, .ref v1)]) 3 dX3_iron_26 rfl (zinc zi_1) (Nat.le_of_ble_eq_true rfl) rfl rfl ?_
    refine za_goto (tgt := 4) dX3_iron_29 (by decide) ?_
    exact zAW_sub [2, 3, 1, 0] rfl h
theorem sX3_iron {d b : Nat} {v0 : Nat} {v1 : Nat} {T : zT} {I : zI} {L : zL} {R : zR} {P : zP} (h : zAW mX3_iron d b 0 [(0, .ref v0), (1, .ref v1)] [] T I L R P) : zMet mX3_iron d b [.ref v0, .ref v1] T I L R P := zMet_of (by decide +kernel) rfl (Nat.le_of_ble_eq_true rfl) rfl h
/-! TwoTongues$Net.<init> (LTwoTongues;)V -/
def dkwX12_init_0 : List UInt8 := [42, 43, 181, 0, 3, 42, 183, 0, 9, 177]
abbrev dktX12_init_0 : List UInt8 := dkwX12_init_0 ++ []
theorem dksX12_init_0 : cX12_init.data.toList.drop 0 = dktX12_init_0 := by decide +kernel
theorem dX12_init_0 : decode cX12_init 0 = .ok (.aload_n 0, 1) := dk_42 (dk_at dksX12_init_0 0 rfl rfl)
theorem dX12_init_1 : decode cX12_init 1 = .ok (.aload_n 1, 1) := dk_43 (dk_at dksX12_init_0 1 rfl rfl)
theorem dX12_init_2 : decode cX12_init 2 = .ok (.putfield 3, 3) := dk_181 0 3 (dk_at dksX12_init_0 2 rfl rfl)
theorem dX12_init_5 : decode cX12_init 5 = .ok (.aload_n 0, 1) := dk_42 (dk_at dksX12_init_0 5 rfl rfl)
theorem dX12_init_6 : decode cX12_init 6 = .ok (.invokespecial 9, 3) := dk_183 0 9 (dk_at dksX12_init_0 6 rfl rfl)
theorem dX12_init_9 : decode cX12_init 9 = .ok (.return_, 1) := dk_177 (dk_at dksX12_init_0 9 rfl rfl)
theorem gX12_init_0 {v0 : Nat} {v1 : Nat} {T : zT} {I : zI} {L : zL} {R : zR} {P : zP} (h : (T v0).1 = 12 ∧ P 0 (.int 0) T I L (z2 R v0 2 v1)) : zAW mX12_init 1 0 0 [(0, .ref v0), (1, .ref v1)] [] T I L R P := by
  refine za_aload_n (pc' := 1) 0 dX12_init_0 rfl rfl rfl ?_
  refine za_aload_n (pc' := 2) 1 dX12_init_1 rfl rfl rfl ?_
  obtain ⟨ht1, h⟩ := h
  refine za_putFR (fi := 2) (pc' := 5) dX12_init_2 zc11 (by decide) in_X12 zok11 znm11 (by decide) q445 (Or.inl rfl) rfl rfl rfl rfl (fun _ _ _ => rfl) ht1 rfl ?_
  refine za_aload_n (pc' := 6) 0 dX12_init_5 rfl rfl rfl ?_
  refine za_objInit (pc' := 9) dX12_init_6 q442 (by decide) (by rw [ht1]; decide) (Nat.le_of_ble_eq_true rfl) rfl ?_
  exact za_return rfl dX12_init_9 h
theorem sX12_init {d b : Nat} {v0 : Nat} {v1 : Nat} {T : zT} {I : zI} {L : zL} {R : zR} {P : zP} (h : zAW mX12_init d b 0 [(0, .ref v0), (1, .ref v1)] [] T I L R P) : zMet mX12_init d b [.ref v0, .ref v1] T I L R P := zMet_of (by decide +kernel) rfl (Nat.le_of_ble_eq_true rfl) rfl h
/-! TwoTongues$Net.lay (LTwoTongues$Store;Z)V -/
def dkwX12_lay_0 : List UInt8 := [42, 43, 181, 0, 15, 42, 28, 181, 0, 19, 177]
abbrev dktX12_lay_0 : List UInt8 := dkwX12_lay_0 ++ []
theorem dksX12_lay_0 : cX12_lay.data.toList.drop 0 = dktX12_lay_0 := by decide +kernel
theorem dX12_lay_0 : decode cX12_lay 0 = .ok (.aload_n 0, 1) := dk_42 (dk_at dksX12_lay_0 0 rfl rfl)
theorem dX12_lay_1 : decode cX12_lay 1 = .ok (.aload_n 1, 1) := dk_43 (dk_at dksX12_lay_0 1 rfl rfl)
theorem dX12_lay_2 : decode cX12_lay 2 = .ok (.putfield 15, 3) := dk_181 0 15 (dk_at dksX12_lay_0 2 rfl rfl)
theorem dX12_lay_5 : decode cX12_lay 5 = .ok (.aload_n 0, 1) := dk_42 (dk_at dksX12_lay_0 5 rfl rfl)
theorem dX12_lay_6 : decode cX12_lay 6 = .ok (.iload_n 2, 1) := dk_28 (dk_at dksX12_lay_0 6 rfl rfl)
theorem dX12_lay_7 : decode cX12_lay 7 = .ok (.putfield 19, 3) := dk_181 0 19 (dk_at dksX12_lay_0 7 rfl rfl)
theorem dX12_lay_10 : decode cX12_lay 10 = .ok (.return_, 1) := dk_177 (dk_at dksX12_lay_0 10 rfl rfl)
theorem gX12_lay_0 {v0 : Nat} {v1 : Nat} {v2 : Int32} {T : zT} {I : zI} {L : zL} {R : zR} {P : zP} (h : (T v0).1 = 12 ∧ zB v2 ∧ P 0 (.int 0) T (z2 I v0 1 v2) L (z2 R v0 0 v1)) : zAW mX12_lay 1 0 0 [(0, .ref v0), (1, .ref v1), (2, .int v2)] [] T I L R P := by
  refine za_aload_n (pc' := 1) 0 dX12_lay_0 rfl rfl rfl ?_
  refine za_aload_n (pc' := 2) 1 dX12_lay_1 rfl rfl rfl ?_
  obtain ⟨ht1, h⟩ := h
  refine za_putR (fi := 0) (pc' := 5) dX12_lay_2 zc11 (by decide) in_X12 zok11 znm11 (by decide) q443 (Or.inl rfl) rfl rfl (fun _ _ _ => rfl) ht1 rfl ?_
  refine za_aload_n (pc' := 6) 0 dX12_lay_5 rfl rfl rfl ?_
  refine za_iload_n (pc' := 7) 2 dX12_lay_6 rfl rfl rfl ?_
  obtain ⟨hb2, h⟩ := h
  refine za_putI (fi := 1) (pc' := 10) dX12_lay_7 zc11 (by decide) in_X12 zok11 znm11 (by decide) q444 (Or.inl rfl) rfl rfl (fun _ _ _ => rfl) (zB_n hb2) (zB_f hb2) ht1 rfl ?_
  exact za_return rfl dX12_lay_10 h
theorem sX12_lay {d b : Nat} {v0 : Nat} {v1 : Nat} {v2 : Int32} {T : zT} {I : zI} {L : zL} {R : zR} {P : zP} (h : zAW mX12_lay d b 0 [(0, .ref v0), (1, .ref v1), (2, .int v2)] [] T I L R P) : zMet mX12_lay d b [.ref v0, .ref v1, .int v2] T I L R P := zMet_of (by decide +kernel) rfl (Nat.le_of_ble_eq_true rfl) rfl h
/-! TwoTongues$Net.only (I)I -/
def dkwX12_only_2 : List UInt8 := [167, 0, 4, 3, 172]
abbrev dktX12_only_2 : List UInt8 := dkwX12_only_2 ++ []
def dkwX12_only_1 : List UInt8 := [180, 0, 33, 162, 0, 24, 29, 42, 180, 0, 15, 28, 182, 0, 23, 162, 0, 12, 42, 28, 29, 182, 0, 37]
abbrev dktX12_only_1 : List UInt8 := dkwX12_only_1 ++ dktX12_only_2
def dkwX12_only_0 : List UInt8 := [27, 16, 60, 160, 0, 5, 2, 172, 27, 8, 108, 61, 27, 8, 112, 4, 96, 62, 28, 42, 180, 0, 15]
abbrev dktX12_only_0 : List UInt8 := dkwX12_only_0 ++ dktX12_only_1
theorem dksX12_only_0 : cX12_only.data.toList.drop 0 = dktX12_only_0 := by decide +kernel
theorem dksX12_only_1 : cX12_only.data.toList.drop 23 = dktX12_only_1 := dk_seg dksX12_only_0 23 rfl rfl
theorem dksX12_only_2 : cX12_only.data.toList.drop 47 = dktX12_only_2 := dk_seg dksX12_only_1 24 rfl rfl
theorem dX12_only_0 : decode cX12_only 0 = .ok (.iload_n 1, 1) := dk_27 (dk_at dksX12_only_0 0 rfl rfl)
theorem dX12_only_1 : decode cX12_only 1 = .ok (.bipush 60, 2) := dk_16 60 (dk_at dksX12_only_0 1 rfl rfl)
theorem dX12_only_3 : decode cX12_only 3 = .ok (.if_icmp .ne 5, 3) := dk_160 0 5 (dk_at dksX12_only_0 3 rfl rfl)
theorem dX12_only_6 : decode cX12_only 6 = .ok (.iconst (-1), 1) := dk_2 (dk_at dksX12_only_0 6 rfl rfl)
theorem dX12_only_7 : decode cX12_only 7 = .ok (.ireturn, 1) := dk_172 (dk_at dksX12_only_0 7 rfl rfl)
theorem dX12_only_8 : decode cX12_only 8 = .ok (.iload_n 1, 1) := dk_27 (dk_at dksX12_only_0 8 rfl rfl)
theorem dX12_only_9 : decode cX12_only 9 = .ok (.iconst 5, 1) := dk_8 (dk_at dksX12_only_0 9 rfl rfl)
theorem dX12_only_10 : decode cX12_only 10 = .ok (.idiv, 1) := dk_108 (dk_at dksX12_only_0 10 rfl rfl)
theorem dX12_only_11 : decode cX12_only 11 = .ok (.istore_n 2, 1) := dk_61 (dk_at dksX12_only_0 11 rfl rfl)
theorem dX12_only_12 : decode cX12_only 12 = .ok (.iload_n 1, 1) := dk_27 (dk_at dksX12_only_0 12 rfl rfl)
theorem dX12_only_13 : decode cX12_only 13 = .ok (.iconst 5, 1) := dk_8 (dk_at dksX12_only_0 13 rfl rfl)
theorem dX12_only_14 : decode cX12_only 14 = .ok (.irem, 1) := dk_112 (dk_at dksX12_only_0 14 rfl rfl)
theorem dX12_only_15 : decode cX12_only 15 = .ok (.iconst 1, 1) := dk_4 (dk_at dksX12_only_0 15 rfl rfl)
theorem dX12_only_16 : decode cX12_only 16 = .ok (.iadd, 1) := dk_96 (dk_at dksX12_only_0 16 rfl rfl)
theorem dX12_only_17 : decode cX12_only 17 = .ok (.istore_n 3, 1) := dk_62 (dk_at dksX12_only_0 17 rfl rfl)
theorem dX12_only_18 : decode cX12_only 18 = .ok (.iload_n 2, 1) := dk_28 (dk_at dksX12_only_0 18 rfl rfl)
theorem dX12_only_19 : decode cX12_only 19 = .ok (.aload_n 0, 1) := dk_42 (dk_at dksX12_only_0 19 rfl rfl)
theorem dX12_only_20 : decode cX12_only 20 = .ok (.getfield 15, 3) := dk_180 0 15 (dk_at dksX12_only_0 20 rfl rfl)
theorem dX12_only_23 : decode cX12_only 23 = .ok (.getfield 33, 3) := dk_180 0 33 (dk_at dksX12_only_1 0 rfl rfl)
theorem dX12_only_26 : decode cX12_only 26 = .ok (.if_icmp .ge 24, 3) := dk_162 0 24 (dk_at dksX12_only_1 3 rfl rfl)
theorem dX12_only_29 : decode cX12_only 29 = .ok (.iload_n 3, 1) := dk_29 (dk_at dksX12_only_1 6 rfl rfl)
theorem dX12_only_30 : decode cX12_only 30 = .ok (.aload_n 0, 1) := dk_42 (dk_at dksX12_only_1 7 rfl rfl)
theorem dX12_only_31 : decode cX12_only 31 = .ok (.getfield 15, 3) := dk_180 0 15 (dk_at dksX12_only_1 8 rfl rfl)
theorem dX12_only_34 : decode cX12_only 34 = .ok (.iload_n 2, 1) := dk_28 (dk_at dksX12_only_1 11 rfl rfl)
theorem dX12_only_35 : decode cX12_only 35 = .ok (.invokevirtual 23, 3) := dk_182 0 23 (dk_at dksX12_only_1 12 rfl rfl)
theorem dX12_only_38 : decode cX12_only 38 = .ok (.if_icmp .ge 12, 3) := dk_162 0 12 (dk_at dksX12_only_1 15 rfl rfl)
theorem dX12_only_41 : decode cX12_only 41 = .ok (.aload_n 0, 1) := dk_42 (dk_at dksX12_only_1 18 rfl rfl)
theorem dX12_only_42 : decode cX12_only 42 = .ok (.iload_n 2, 1) := dk_28 (dk_at dksX12_only_1 19 rfl rfl)
theorem dX12_only_43 : decode cX12_only 43 = .ok (.iload_n 3, 1) := dk_29 (dk_at dksX12_only_1 20 rfl rfl)
theorem dX12_only_44 : decode cX12_only 44 = .ok (.invokevirtual 37, 3) := dk_182 0 37 (dk_at dksX12_only_1 21 rfl rfl)
theorem dX12_only_47 : decode cX12_only 47 = .ok (.goto 4, 3) := dk_167 0 4 (dk_at dksX12_only_2 0 rfl rfl)
theorem dX12_only_50 : decode cX12_only 50 = .ok (.iconst 0, 1) := dk_3 (dk_at dksX12_only_2 3 rfl rfl)
theorem dX12_only_51 : decode cX12_only 51 = .ok (.ireturn, 1) := dk_172 (dk_at dksX12_only_2 4 rfl rfl)
theorem gX12_only_0 {v0 : Nat} {v1 : Int32} {T : zT} {I : zI} {L : zL} {R : zR} {P : zP} (h : ((v1 = (60 : Int32) → P 0 (.int (-1 : Int32)) T I L R) ∧ (¬ v1 = (60 : Int32) → (T v0).1 = 12 ∧ (T (R v0 0)).1 = 4 ∧ (((I (R v0 0) 2) ≤ (v1 / (5 : Int32)) → P 0 (.int (0 : Int32)) T I L R) ∧ (¬ (I (R v0 0) 2) ≤ (v1 / (5 : Int32)) → zMet mX4_length 2 0 [.ref (R v0 0), .int (v1 / (5 : Int32))] T I L R (zqI_ T I L R  (fun (r3 : Int32)  => ((r3 ≤ ((v1 - v1 / (5 : Int32) * (5 : Int32)) + (1 : Int32)) → P 0 (.int (0 : Int32)) T I L R) ∧ (¬ r3 ≤ ((v1 - v1 / (5 : Int32) * (5 : Int32)) + (1 : Int32)) → zMet mX12_letter 3 0 [.ref v0, .int (v1 / (5 : Int32)), .int ((v1 - v1 / (5 : Int32) * (5 : Int32)) + (1 : Int32))] T I L R (zqI_ T I L R  (fun (r4 : Int32)  => P 0 (.int r4) T I L R))))))))))) : zAW mX12_only 4 0 0 [(0, .ref v0), (1, .int v1)] [] T I L R P := by
  refine za_iload_n (pc' := 1) 1 dX12_only_0 rfl rfl rfl ?_
  refine za_bipush (pc' := 3) dX12_only_1 zb8_60 rfl ?_
  refine za_icmp_ne (pc' := 6) (tgt := 8) dX12_only_3 (by decide) rfl (fun c9 => ?_) (fun c9 => ?_)
  · replace h := h.2 c9
    refine za_iload_n (pc' := 9) 1 dX12_only_8 rfl rfl rfl ?_
    refine za_iconst (pc' := 10) dX12_only_9 zi_5 rfl ?_
    refine za_idiv (pc' := 11) dX12_only_10 (by decide) rfl ?_
    refine za_istore_n (pc' := 12) (l' := [(2, .int (v1 / (5 : Int32))), (0, .ref v0), (1, .int v1)]) dX12_only_11 rfl (Nat.le_of_ble_eq_true rfl) rfl rfl ?_
    refine za_iload_n (pc' := 13) 2 dX12_only_12 rfl rfl rfl ?_
    refine za_iconst (pc' := 14) dX12_only_13 zi_5 rfl ?_
    refine za_irem (pc' := 15) dX12_only_14 (by decide) rfl ?_
    refine za_iconst (pc' := 16) dX12_only_15 zi_1 rfl ?_
    refine za_iadd (pc' := 17) dX12_only_16 rfl ?_
    refine za_istore_n (pc' := 18) (l' := [(3, .int ((v1 - v1 / (5 : Int32) * (5 : Int32)) + (1 : Int32))), (2, .int (v1 / (5 : Int32))), (0, .ref v0), (1, .int v1)]) dX12_only_17 rfl (Nat.le_of_ble_eq_true rfl) rfl rfl ?_
    refine za_iload_n (pc' := 19) 1 dX12_only_18 rfl rfl rfl ?_
    refine za_aload_n (pc' := 20) 2 dX12_only_19 rfl rfl rfl ?_
    obtain ⟨ht1, h⟩ := h
    refine za_get (fi := 0) (v := .ref (R v0 0)) (pc' := 23) dX12_only_20 zc11 (by decide) in_X12 (by decide) q443 (Or.inl rfl) ht1 rfl rfl ?_
    obtain ⟨ht2, h⟩ := h
    refine za_getN (fi := 2) (v := .int (I (R v0 0) 2)) (pc' := 26) dX12_only_23 zc3 (by decide) in_X4 (by decide) q231 (Or.inl rfl) ht2 rfl rfl ?_
    refine za_icmp_ge (pc' := 29) (tgt := 50) dX12_only_26 (by decide) rfl (fun c9 => ?_) (fun c9 => ?_)
    · replace h := h.1 c9
      refine za_iconst (pc' := 51) dX12_only_50 zi_0 rfl ?_
      exact za_ireturn rfl dX12_only_51 h
    · replace h := h.2 c9
      refine za_iload_n (pc' := 30) 0 dX12_only_29 rfl rfl rfl ?_
      refine za_aload_n (pc' := 31) 2 dX12_only_30 rfl rfl rfl ?_
      refine za_get (fi := 0) (v := .ref (R v0 0)) (pc' := 34) dX12_only_31 zc11 (by decide) in_X12 (by decide) q443 (Or.inl rfl) ht1 rfl rfl ?_
      refine za_iload_n (pc' := 35) 1 dX12_only_34 rfl rfl rfl ?_
      refine za_callV (κ := (R v0 0)) (M2 := mX4_length) (d2 := 2) (b2 := 0) (n := 1) (As := [.int (v1 / (5 : Int32))]) (st := [.int ((v1 - v1 / (5 : Int32) * (5 : Int32)) + (1 : Int32))]) (pc' := 38) zc3 (by decide) ht2 dX12_only_35 rfl (lw_V q1224 q1117 q1118 q134 q1119) ⟨rfl, hd_X4_length⟩ rfl (by decide) (by decide) (Nat.zero_le _) (Or.inl rfl) (Nat.le_of_ble_eq_true rfl) h (zqI__k rfl (fun r3 h => ?_)) (fun _ _ _ _ _ _ h9 h8 => absurd h8.1 h9) rfl
      refine za_icmp_ge (pc' := 41) (tgt := 50) dX12_only_38 (by decide) rfl (fun c9 => ?_) (fun c9 => ?_)
      · replace h := h.1 c9
        refine za_iconst (pc' := 51) dX12_only_50 zi_0 rfl ?_
        exact za_ireturn rfl dX12_only_51 h
      · replace h := h.2 c9
        refine za_aload_n (pc' := 42) 2 dX12_only_41 rfl rfl rfl ?_
        refine za_iload_n (pc' := 43) 1 dX12_only_42 rfl rfl rfl ?_
        refine za_iload_n (pc' := 44) 0 dX12_only_43 rfl rfl rfl ?_
        refine za_callV (κ := v0) (M2 := mX12_letter) (d2 := 3) (b2 := 0) (n := 2) (As := [.int (v1 / (5 : Int32)), .int ((v1 - v1 / (5 : Int32) * (5 : Int32)) + (1 : Int32))]) (st := []) (pc' := 47) zc11 (by decide) ht1 dX12_only_44 rfl (lw_V q1225 q1227 qs42 q145 q1228) ⟨rfl, hd_X12_letter⟩ rfl (by decide) (by decide) (Nat.zero_le _) (Or.inl rfl) (Nat.le_of_ble_eq_true rfl) h (zqI__k rfl (fun r4 h => ?_)) (fun _ _ _ _ _ _ h9 h8 => absurd h8.1 h9) rfl
        refine za_goto (tgt := 51) dX12_only_47 (by decide) ?_
        exact za_ireturn rfl dX12_only_51 h
  · replace h := h.1 c9
    refine za_iconst (pc' := 7) dX12_only_6 zi_m1 rfl ?_
    exact za_ireturn rfl dX12_only_7 h
theorem sX12_only {d b : Nat} {v0 : Nat} {v1 : Int32} {T : zT} {I : zI} {L : zL} {R : zR} {P : zP} (h : zAW mX12_only d b 0 [(0, .ref v0), (1, .int v1)] [] T I L R P) : zMet mX12_only d b [.ref v0, .int v1] T I L R P := zMet_of (by decide +kernel) rfl (Nat.le_of_ble_eq_true rfl) rfl h
/-! TwoTongues$Net.letter (II)I -/
def dkwX12_letter_1 : List UInt8 := [167, 0, 4, 28, 182, 0, 29, 172]
abbrev dktX12_letter_1 : List UInt8 := dkwX12_letter_1 ++ []
def dkwX12_letter_0 : List UInt8 := [42, 180, 0, 15, 27, 42, 180, 0, 19, 153, 0, 18, 42, 180, 0, 15, 27, 182, 0, 23, 4, 100, 28, 100]
abbrev dktX12_letter_0 : List UInt8 := dkwX12_letter_0 ++ dktX12_letter_1
theorem dksX12_letter_0 : cX12_letter.data.toList.drop 0 = dktX12_letter_0 := by decide +kernel
theorem dksX12_letter_1 : cX12_letter.data.toList.drop 24 = dktX12_letter_1 := dk_seg dksX12_letter_0 24 rfl rfl
theorem dX12_letter_0 : decode cX12_letter 0 = .ok (.aload_n 0, 1) := dk_42 (dk_at dksX12_letter_0 0 rfl rfl)
theorem dX12_letter_1 : decode cX12_letter 1 = .ok (.getfield 15, 3) := dk_180 0 15 (dk_at dksX12_letter_0 1 rfl rfl)
theorem dX12_letter_4 : decode cX12_letter 4 = .ok (.iload_n 1, 1) := dk_27 (dk_at dksX12_letter_0 4 rfl rfl)
theorem dX12_letter_5 : decode cX12_letter 5 = .ok (.aload_n 0, 1) := dk_42 (dk_at dksX12_letter_0 5 rfl rfl)
theorem dX12_letter_6 : decode cX12_letter 6 = .ok (.getfield 19, 3) := dk_180 0 19 (dk_at dksX12_letter_0 6 rfl rfl)
theorem dX12_letter_9 : decode cX12_letter 9 = .ok (.ifCond .eq 18, 3) := dk_153 0 18 (dk_at dksX12_letter_0 9 rfl rfl)
theorem dX12_letter_12 : decode cX12_letter 12 = .ok (.aload_n 0, 1) := dk_42 (dk_at dksX12_letter_0 12 rfl rfl)
theorem dX12_letter_13 : decode cX12_letter 13 = .ok (.getfield 15, 3) := dk_180 0 15 (dk_at dksX12_letter_0 13 rfl rfl)
theorem dX12_letter_16 : decode cX12_letter 16 = .ok (.iload_n 1, 1) := dk_27 (dk_at dksX12_letter_0 16 rfl rfl)
theorem dX12_letter_17 : decode cX12_letter 17 = .ok (.invokevirtual 23, 3) := dk_182 0 23 (dk_at dksX12_letter_0 17 rfl rfl)
theorem dX12_letter_20 : decode cX12_letter 20 = .ok (.iconst 1, 1) := dk_4 (dk_at dksX12_letter_0 20 rfl rfl)
theorem dX12_letter_21 : decode cX12_letter 21 = .ok (.isub, 1) := dk_100 (dk_at dksX12_letter_0 21 rfl rfl)
theorem dX12_letter_22 : decode cX12_letter 22 = .ok (.iload_n 2, 1) := dk_28 (dk_at dksX12_letter_0 22 rfl rfl)
theorem dX12_letter_23 : decode cX12_letter 23 = .ok (.isub, 1) := dk_100 (dk_at dksX12_letter_0 23 rfl rfl)
theorem dX12_letter_24 : decode cX12_letter 24 = .ok (.goto 4, 3) := dk_167 0 4 (dk_at dksX12_letter_1 0 rfl rfl)
theorem dX12_letter_27 : decode cX12_letter 27 = .ok (.iload_n 2, 1) := dk_28 (dk_at dksX12_letter_1 3 rfl rfl)
theorem dX12_letter_28 : decode cX12_letter 28 = .ok (.invokevirtual 29, 3) := dk_182 0 29 (dk_at dksX12_letter_1 4 rfl rfl)
theorem dX12_letter_31 : decode cX12_letter 31 = .ok (.ireturn, 1) := dk_172 (dk_at dksX12_letter_1 7 rfl rfl)
theorem gX12_letter_0 {v0 : Nat} {v1 : Int32} {v2 : Int32} {T : zT} {I : zI} {L : zL} {R : zR} {P : zP} (h : (T v0).1 = 12 ∧ (((I v0 1) = 0 → (T (R v0 0)).1 = 4 ∧ zMet mX4_letter 1 0 [.ref (R v0 0), .int v1, .int v2] T I L R (zqI_ T I L R  (fun (r2 : Int32)  => P 0 (.int r2) T I L R))) ∧ (¬ (I v0 1) = 0 → (T (R v0 0)).1 = 4 ∧ zMet mX4_length 2 0 [.ref (R v0 0), .int v1] T I L R (zqI_ T I L R  (fun (r4 : Int32)  => zMet mX4_letter 1 0 [.ref (R v0 0), .int v1, .int ((r4 - (1 : Int32)) - v2)] T I L R (zqI_ T I L R  (fun (r6 : Int32)  => P 0 (.int r6) T I L R))))))) : zAW mX12_letter 3 0 0 [(0, .ref v0), (1, .int v1), (2, .int v2)] [] T I L R P := by
  refine za_aload_n (pc' := 1) 0 dX12_letter_0 rfl rfl rfl ?_
  obtain ⟨ht1, h⟩ := h
  refine za_get (fi := 0) (v := .ref (R v0 0)) (pc' := 4) dX12_letter_1 zc11 (by decide) in_X12 (by decide) q443 (Or.inl rfl) ht1 rfl rfl ?_
  refine za_iload_n (pc' := 5) 1 dX12_letter_4 rfl rfl rfl ?_
  refine za_aload_n (pc' := 6) 0 dX12_letter_5 rfl rfl rfl ?_
  refine za_get (fi := 1) (v := .int (I v0 1)) (pc' := 9) dX12_letter_6 zc11 (by decide) in_X12 (by decide) q444 (Or.inl rfl) ht1 rfl rfl ?_
  refine za_if_eq (pc' := 12) (tgt := 27) dX12_letter_9 (by decide) rfl (fun c9 => ?_) (fun c9 => ?_)
  · replace h := h.1 c9
    refine za_iload_n (pc' := 28) 2 dX12_letter_27 rfl rfl rfl ?_
    obtain ⟨ht3, h⟩ := h
    refine za_callV (κ := (R v0 0)) (M2 := mX4_letter) (d2 := 1) (b2 := 0) (n := 2) (As := [.int v1, .int v2]) (st := []) (pc' := 31) zc3 (by decide) ht3 dX12_letter_28 rfl (lw_V q1229 q1121 q1122 q134 q1123) ⟨rfl, hd_X4_letter⟩ rfl (by decide) (by decide) (Nat.zero_le _) (Or.inl rfl) (Nat.le_of_ble_eq_true rfl) h (zqI__k rfl (fun r2 h => ?_)) (fun _ _ _ _ _ _ h9 h8 => absurd h8.1 h9) rfl
    exact za_ireturn rfl dX12_letter_31 h
  · replace h := h.2 c9
    refine za_aload_n (pc' := 13) 0 dX12_letter_12 rfl rfl rfl ?_
    refine za_get (fi := 0) (v := .ref (R v0 0)) (pc' := 16) dX12_letter_13 zc11 (by decide) in_X12 (by decide) q443 (Or.inl rfl) ht1 rfl rfl ?_
    refine za_iload_n (pc' := 17) 1 dX12_letter_16 rfl rfl rfl ?_
    obtain ⟨ht5, h⟩ := h
    refine za_callV (κ := (R v0 0)) (M2 := mX4_length) (d2 := 2) (b2 := 0) (n := 1) (As := [.int v1]) (st := [.int v1, .ref (R v0 0)]) (pc' := 20) zc3 (by decide) ht5 dX12_letter_17 rfl (lw_V q1224 q1117 q1118 q134 q1119) ⟨rfl, hd_X4_length⟩ rfl (by decide) (by decide) (Nat.zero_le _) (Or.inl rfl) (Nat.le_of_ble_eq_true rfl) h (zqI__k rfl (fun r4 h => ?_)) (fun _ _ _ _ _ _ h9 h8 => absurd h8.1 h9) rfl
    refine za_iconst (pc' := 21) dX12_letter_20 zi_1 rfl ?_
    refine za_isub (pc' := 22) dX12_letter_21 rfl ?_
    refine za_iload_n (pc' := 23) 2 dX12_letter_22 rfl rfl rfl ?_
    refine za_isub (pc' := 24) dX12_letter_23 rfl ?_
    refine za_goto (tgt := 28) dX12_letter_24 (by decide) ?_
    refine za_callV (κ := (R v0 0)) (M2 := mX4_letter) (d2 := 1) (b2 := 0) (n := 2) (As := [.int v1, .int ((r4 - (1 : Int32)) - v2)]) (st := []) (pc' := 31) zc3 (by decide) ht5 dX12_letter_28 rfl (lw_V q1229 q1121 q1122 q134 q1123) ⟨rfl, hd_X4_letter⟩ rfl (by decide) (by decide) (Nat.zero_le _) (Or.inl rfl) (Nat.le_of_ble_eq_true rfl) h (zqI__k rfl (fun r6 h => ?_)) (fun _ _ _ _ _ _ h9 h8 => absurd h8.1 h9) rfl
    exact za_ireturn rfl dX12_letter_31 h
theorem sX12_letter {d b : Nat} {v0 : Nat} {v1 : Int32} {v2 : Int32} {T : zT} {I : zI} {L : zL} {R : zR} {P : zP} (h : zAW mX12_letter d b 0 [(0, .ref v0), (1, .int v1), (2, .int v2)] [] T I L R P) : zMet mX12_letter d b [.ref v0, .int v1, .int v2] T I L R P := zMet_of (by decide +kernel) rfl (Nat.le_of_ble_eq_true rfl) rfl h
/-! TwoTongues$Net.goes (III)I -/
def dkwX12_goes_3 : List UInt8 := [21, 4, 4, 96, 182, 0, 38, 167, 0, 4, 2, 172]
abbrev dktX12_goes_3 : List UInt8 := dkwX12_goes_3 ++ []
def dkwX12_goes_2 : List UInt8 := [180, 0, 15, 28, 182, 0, 23, 162, 0, 26, 42, 28, 21, 4, 182, 0, 37, 29, 160, 0, 15, 42, 28]
abbrev dktX12_goes_2 : List UInt8 := dkwX12_goes_2 ++ dktX12_goes_3
def dkwX12_goes_1 : List UInt8 := [8, 108, 28, 159, 0, 5, 2, 172, 28, 42, 180, 0, 15, 180, 0, 33, 162, 0, 39, 21, 4, 42]
abbrev dktX12_goes_1 : List UInt8 := dkwX12_goes_1 ++ dktX12_goes_2
def dkwX12_goes_0 : List UInt8 := [27, 16, 60, 160, 0, 7, 3, 167, 0, 8, 27, 8, 112, 4, 96, 54, 4, 27, 16, 60, 159, 0, 12, 27]
abbrev dktX12_goes_0 : List UInt8 := dkwX12_goes_0 ++ dktX12_goes_1
theorem dksX12_goes_0 : cX12_goes.data.toList.drop 0 = dktX12_goes_0 := by decide +kernel
theorem dksX12_goes_1 : cX12_goes.data.toList.drop 24 = dktX12_goes_1 := dk_seg dksX12_goes_0 24 rfl rfl
theorem dksX12_goes_2 : cX12_goes.data.toList.drop 46 = dktX12_goes_2 := dk_seg dksX12_goes_1 22 rfl rfl
theorem dksX12_goes_3 : cX12_goes.data.toList.drop 69 = dktX12_goes_3 := dk_seg dksX12_goes_2 23 rfl rfl
theorem dX12_goes_0 : decode cX12_goes 0 = .ok (.iload_n 1, 1) := dk_27 (dk_at dksX12_goes_0 0 rfl rfl)
theorem dX12_goes_1 : decode cX12_goes 1 = .ok (.bipush 60, 2) := dk_16 60 (dk_at dksX12_goes_0 1 rfl rfl)
theorem dX12_goes_3 : decode cX12_goes 3 = .ok (.if_icmp .ne 7, 3) := dk_160 0 7 (dk_at dksX12_goes_0 3 rfl rfl)
theorem dX12_goes_6 : decode cX12_goes 6 = .ok (.iconst 0, 1) := dk_3 (dk_at dksX12_goes_0 6 rfl rfl)
theorem dX12_goes_7 : decode cX12_goes 7 = .ok (.goto 8, 3) := dk_167 0 8 (dk_at dksX12_goes_0 7 rfl rfl)
theorem dX12_goes_10 : decode cX12_goes 10 = .ok (.iload_n 1, 1) := dk_27 (dk_at dksX12_goes_0 10 rfl rfl)
theorem dX12_goes_11 : decode cX12_goes 11 = .ok (.iconst 5, 1) := dk_8 (dk_at dksX12_goes_0 11 rfl rfl)
theorem dX12_goes_12 : decode cX12_goes 12 = .ok (.irem, 1) := dk_112 (dk_at dksX12_goes_0 12 rfl rfl)
theorem dX12_goes_13 : decode cX12_goes 13 = .ok (.iconst 1, 1) := dk_4 (dk_at dksX12_goes_0 13 rfl rfl)
theorem dX12_goes_14 : decode cX12_goes 14 = .ok (.iadd, 1) := dk_96 (dk_at dksX12_goes_0 14 rfl rfl)
theorem dX12_goes_15 : decode cX12_goes 15 = .ok (.istore 4, 2) := dk_54 4 (dk_at dksX12_goes_0 15 rfl rfl)
theorem dX12_goes_17 : decode cX12_goes 17 = .ok (.iload_n 1, 1) := dk_27 (dk_at dksX12_goes_0 17 rfl rfl)
theorem dX12_goes_18 : decode cX12_goes 18 = .ok (.bipush 60, 2) := dk_16 60 (dk_at dksX12_goes_0 18 rfl rfl)
theorem dX12_goes_20 : decode cX12_goes 20 = .ok (.if_icmp .eq 12, 3) := dk_159 0 12 (dk_at dksX12_goes_0 20 rfl rfl)
theorem dX12_goes_23 : decode cX12_goes 23 = .ok (.iload_n 1, 1) := dk_27 (dk_at dksX12_goes_0 23 rfl rfl)
theorem dX12_goes_24 : decode cX12_goes 24 = .ok (.iconst 5, 1) := dk_8 (dk_at dksX12_goes_1 0 rfl rfl)
theorem dX12_goes_25 : decode cX12_goes 25 = .ok (.idiv, 1) := dk_108 (dk_at dksX12_goes_1 1 rfl rfl)
theorem dX12_goes_26 : decode cX12_goes 26 = .ok (.iload_n 2, 1) := dk_28 (dk_at dksX12_goes_1 2 rfl rfl)
theorem dX12_goes_27 : decode cX12_goes 27 = .ok (.if_icmp .eq 5, 3) := dk_159 0 5 (dk_at dksX12_goes_1 3 rfl rfl)
theorem dX12_goes_30 : decode cX12_goes 30 = .ok (.iconst (-1), 1) := dk_2 (dk_at dksX12_goes_1 6 rfl rfl)
theorem dX12_goes_31 : decode cX12_goes 31 = .ok (.ireturn, 1) := dk_172 (dk_at dksX12_goes_1 7 rfl rfl)
theorem dX12_goes_32 : decode cX12_goes 32 = .ok (.iload_n 2, 1) := dk_28 (dk_at dksX12_goes_1 8 rfl rfl)
theorem dX12_goes_33 : decode cX12_goes 33 = .ok (.aload_n 0, 1) := dk_42 (dk_at dksX12_goes_1 9 rfl rfl)
theorem dX12_goes_34 : decode cX12_goes 34 = .ok (.getfield 15, 3) := dk_180 0 15 (dk_at dksX12_goes_1 10 rfl rfl)
theorem dX12_goes_37 : decode cX12_goes 37 = .ok (.getfield 33, 3) := dk_180 0 33 (dk_at dksX12_goes_1 13 rfl rfl)
theorem dX12_goes_40 : decode cX12_goes 40 = .ok (.if_icmp .ge 39, 3) := dk_162 0 39 (dk_at dksX12_goes_1 16 rfl rfl)
theorem dX12_goes_43 : decode cX12_goes 43 = .ok (.iload 4, 2) := dk_21 4 (dk_at dksX12_goes_1 19 rfl rfl)
theorem dX12_goes_45 : decode cX12_goes 45 = .ok (.aload_n 0, 1) := dk_42 (dk_at dksX12_goes_1 21 rfl rfl)
theorem dX12_goes_46 : decode cX12_goes 46 = .ok (.getfield 15, 3) := dk_180 0 15 (dk_at dksX12_goes_2 0 rfl rfl)
theorem dX12_goes_49 : decode cX12_goes 49 = .ok (.iload_n 2, 1) := dk_28 (dk_at dksX12_goes_2 3 rfl rfl)
theorem dX12_goes_50 : decode cX12_goes 50 = .ok (.invokevirtual 23, 3) := dk_182 0 23 (dk_at dksX12_goes_2 4 rfl rfl)
theorem dX12_goes_53 : decode cX12_goes 53 = .ok (.if_icmp .ge 26, 3) := dk_162 0 26 (dk_at dksX12_goes_2 7 rfl rfl)
theorem dX12_goes_56 : decode cX12_goes 56 = .ok (.aload_n 0, 1) := dk_42 (dk_at dksX12_goes_2 10 rfl rfl)
theorem dX12_goes_57 : decode cX12_goes 57 = .ok (.iload_n 2, 1) := dk_28 (dk_at dksX12_goes_2 11 rfl rfl)
theorem dX12_goes_58 : decode cX12_goes 58 = .ok (.iload 4, 2) := dk_21 4 (dk_at dksX12_goes_2 12 rfl rfl)
theorem dX12_goes_60 : decode cX12_goes 60 = .ok (.invokevirtual 37, 3) := dk_182 0 37 (dk_at dksX12_goes_2 14 rfl rfl)
theorem dX12_goes_63 : decode cX12_goes 63 = .ok (.iload_n 3, 1) := dk_29 (dk_at dksX12_goes_2 17 rfl rfl)
theorem dX12_goes_64 : decode cX12_goes 64 = .ok (.if_icmp .ne 15, 3) := dk_160 0 15 (dk_at dksX12_goes_2 18 rfl rfl)
theorem dX12_goes_67 : decode cX12_goes 67 = .ok (.aload_n 0, 1) := dk_42 (dk_at dksX12_goes_2 21 rfl rfl)
theorem dX12_goes_68 : decode cX12_goes 68 = .ok (.iload_n 2, 1) := dk_28 (dk_at dksX12_goes_2 22 rfl rfl)
theorem dX12_goes_69 : decode cX12_goes 69 = .ok (.iload 4, 2) := dk_21 4 (dk_at dksX12_goes_3 0 rfl rfl)
theorem dX12_goes_71 : decode cX12_goes 71 = .ok (.iconst 1, 1) := dk_4 (dk_at dksX12_goes_3 2 rfl rfl)
theorem dX12_goes_72 : decode cX12_goes 72 = .ok (.iadd, 1) := dk_96 (dk_at dksX12_goes_3 3 rfl rfl)
theorem dX12_goes_73 : decode cX12_goes 73 = .ok (.invokevirtual 38, 3) := dk_182 0 38 (dk_at dksX12_goes_3 4 rfl rfl)
theorem dX12_goes_76 : decode cX12_goes 76 = .ok (.goto 4, 3) := dk_167 0 4 (dk_at dksX12_goes_3 7 rfl rfl)
theorem dX12_goes_79 : decode cX12_goes 79 = .ok (.iconst (-1), 1) := dk_2 (dk_at dksX12_goes_3 10 rfl rfl)
theorem dX12_goes_80 : decode cX12_goes 80 = .ok (.ireturn, 1) := dk_172 (dk_at dksX12_goes_3 11 rfl rfl)
theorem gX12_goes_0 {v0 : Nat} {v1 : Int32} {v2 : Int32} {v3 : Int32} {T : zT} {I : zI} {L : zL} {R : zR} {P : zP} (h : ((v1 = (60 : Int32) → zAW mX12_goes 4 0 15 [(0, .ref v0), (1, .int v1), (2, .int v2), (3, .int v3)] [.int (0 : Int32)] T I L R P) ∧ (¬ v1 = (60 : Int32) → zAW mX12_goes 4 0 15 [(0, .ref v0), (1, .int v1), (2, .int v2), (3, .int v3)] [.int ((v1 - v1 / (5 : Int32) * (5 : Int32)) + (1 : Int32))] T I L R P))) : zAW mX12_goes 4 0 0 [(0, .ref v0), (1, .int v1), (2, .int v2), (3, .int v3)] [] T I L R P := by
  refine za_iload_n (pc' := 1) 1 dX12_goes_0 rfl rfl rfl ?_
  refine za_bipush (pc' := 3) dX12_goes_1 zb8_60 rfl ?_
  refine za_icmp_ne (pc' := 6) (tgt := 10) dX12_goes_3 (by decide) rfl (fun c9 => ?_) (fun c9 => ?_)
  · replace h := h.2 c9
    refine za_iload_n (pc' := 11) 1 dX12_goes_10 rfl rfl rfl ?_
    refine za_iconst (pc' := 12) dX12_goes_11 zi_5 rfl ?_
    refine za_irem (pc' := 13) dX12_goes_12 (by decide) rfl ?_
    refine za_iconst (pc' := 14) dX12_goes_13 zi_1 rfl ?_
    refine za_iadd (pc' := 15) dX12_goes_14 rfl ?_
    exact zAW_sub [0, 1, 2, 3] rfl h
  · replace h := h.1 c9
    refine za_iconst (pc' := 7) dX12_goes_6 zi_0 rfl ?_
    refine za_goto (tgt := 15) dX12_goes_7 (by decide) ?_
    exact zAW_sub [0, 1, 2, 3] rfl h
theorem gX12_goes_15 {v0 : Nat} {v1 : Int32} {v2 : Int32} {v3 : Int32} {s0 : Int32} {T : zT} {I : zI} {L : zL} {R : zR} {P : zP} (h : ((v1 = (60 : Int32) → zAW mX12_goes 4 0 32 [(0, .ref v0), (2, .int v2), (3, .int v3), (4, .int s0)] [] T I L R P) ∧ (¬ v1 = (60 : Int32) → (((v1 / (5 : Int32)) = v2 → zAW mX12_goes 4 0 32 [(0, .ref v0), (2, .int v2), (3, .int v3), (4, .int s0)] [] T I L R P) ∧ (¬ (v1 / (5 : Int32)) = v2 → P 0 (.int (-1 : Int32)) T I L R))))) : zAW mX12_goes 4 0 15 [(0, .ref v0), (1, .int v1), (2, .int v2), (3, .int v3)] [.int s0] T I L R P := by
  refine za_istore (pc' := 17) (l' := [(4, .int s0), (0, .ref v0), (1, .int v1), (2, .int v2), (3, .int v3)]) dX12_goes_15 (Nat.le_of_ble_eq_true rfl) rfl rfl ?_
  refine za_iload_n (pc' := 18) 2 dX12_goes_17 rfl rfl rfl ?_
  refine za_bipush (pc' := 20) dX12_goes_18 zb8_60 rfl ?_
  refine za_icmp_eq (pc' := 23) (tgt := 32) dX12_goes_20 (by decide) rfl (fun c9 => ?_) (fun c9 => ?_)
  · replace h := h.1 c9
    exact zAW_sub [1, 3, 4, 0] rfl h
  · replace h := h.2 c9
    refine za_iload_n (pc' := 24) 2 dX12_goes_23 rfl rfl rfl ?_
    refine za_iconst (pc' := 25) dX12_goes_24 zi_5 rfl ?_
    refine za_idiv (pc' := 26) dX12_goes_25 (by decide) rfl ?_
    refine za_iload_n (pc' := 27) 3 dX12_goes_26 rfl rfl rfl ?_
    refine za_icmp_eq (pc' := 30) (tgt := 32) dX12_goes_27 (by decide) rfl (fun c9 => ?_) (fun c9 => ?_)
    · replace h := h.1 c9
      exact zAW_sub [1, 3, 4, 0] rfl h
    · replace h := h.2 c9
      refine za_iconst (pc' := 31) dX12_goes_30 zi_m1 rfl ?_
      exact za_ireturn rfl dX12_goes_31 h
theorem gX12_goes_32 {v0 : Nat} {v2 : Int32} {v3 : Int32} {v4 : Int32} {T : zT} {I : zI} {L : zL} {R : zR} {P : zP} (h : (T v0).1 = 12 ∧ (T (R v0 0)).1 = 4 ∧ (((I (R v0 0) 2) ≤ v2 → P 0 (.int (-1 : Int32)) T I L R) ∧ (¬ (I (R v0 0) 2) ≤ v2 → zMet mX4_length 2 0 [.ref (R v0 0), .int v2] T I L R (zqI_ T I L R  (fun (r3 : Int32)  => ((r3 ≤ v4 → P 0 (.int (-1 : Int32)) T I L R) ∧ (¬ r3 ≤ v4 → zMet mX12_letter 3 0 [.ref v0, .int v2, .int v4] T I L R (zqI_ T I L R  (fun (r4 : Int32)  => ((r4 = v3 → zMet mX12_placeOf 3 0 [.ref v0, .int v2, .int (v4 + (1 : Int32))] T I L R (zqI_ T I L R  (fun (r5 : Int32)  => P 0 (.int r5) T I L R))) ∧ (¬ r4 = v3 → P 0 (.int (-1 : Int32)) T I L R))))))))))) : zAW mX12_goes 4 0 32 [(0, .ref v0), (2, .int v2), (3, .int v3), (4, .int v4)] [] T I L R P := by
  refine za_iload_n (pc' := 33) 1 dX12_goes_32 rfl rfl rfl ?_
  refine za_aload_n (pc' := 34) 0 dX12_goes_33 rfl rfl rfl ?_
  obtain ⟨ht1, h⟩ := h
  refine za_get (fi := 0) (v := .ref (R v0 0)) (pc' := 37) dX12_goes_34 zc11 (by decide) in_X12 (by decide) q443 (Or.inl rfl) ht1 rfl rfl ?_
  obtain ⟨ht2, h⟩ := h
  refine za_getN (fi := 2) (v := .int (I (R v0 0) 2)) (pc' := 40) dX12_goes_37 zc3 (by decide) in_X4 (by decide) q231 (Or.inl rfl) ht2 rfl rfl ?_
  refine za_icmp_ge (pc' := 43) (tgt := 79) dX12_goes_40 (by decide) rfl (fun c9 => ?_) (fun c9 => ?_)
  · replace h := h.1 c9
    refine za_iconst (pc' := 80) dX12_goes_79 zi_m1 rfl ?_
    exact za_ireturn rfl dX12_goes_80 h
  · replace h := h.2 c9
    refine za_iload (pc' := 45) 3 dX12_goes_43 rfl rfl ?_
    refine za_aload_n (pc' := 46) 0 dX12_goes_45 rfl rfl rfl ?_
    refine za_get (fi := 0) (v := .ref (R v0 0)) (pc' := 49) dX12_goes_46 zc11 (by decide) in_X12 (by decide) q443 (Or.inl rfl) ht1 rfl rfl ?_
    refine za_iload_n (pc' := 50) 1 dX12_goes_49 rfl rfl rfl ?_
    refine za_callV (κ := (R v0 0)) (M2 := mX4_length) (d2 := 2) (b2 := 0) (n := 1) (As := [.int v2]) (st := [.int v4]) (pc' := 53) zc3 (by decide) ht2 dX12_goes_50 rfl (lw_V q1224 q1117 q1118 q134 q1119) ⟨rfl, hd_X4_length⟩ rfl (by decide) (by decide) (Nat.zero_le _) (Or.inl rfl) (Nat.le_of_ble_eq_true rfl) h (zqI__k rfl (fun r3 h => ?_)) (fun _ _ _ _ _ _ h9 h8 => absurd h8.1 h9) rfl
    refine za_icmp_ge (pc' := 56) (tgt := 79) dX12_goes_53 (by decide) rfl (fun c9 => ?_) (fun c9 => ?_)
    · replace h := h.1 c9
      refine za_iconst (pc' := 80) dX12_goes_79 zi_m1 rfl ?_
      exact za_ireturn rfl dX12_goes_80 h
    · replace h := h.2 c9
      refine za_aload_n (pc' := 57) 0 dX12_goes_56 rfl rfl rfl ?_
      refine za_iload_n (pc' := 58) 1 dX12_goes_57 rfl rfl rfl ?_
      refine za_iload (pc' := 60) 3 dX12_goes_58 rfl rfl ?_
      refine za_callV (κ := v0) (M2 := mX12_letter) (d2 := 3) (b2 := 0) (n := 2) (As := [.int v2, .int v4]) (st := []) (pc' := 63) zc11 (by decide) ht1 dX12_goes_60 rfl (lw_V q1225 q1227 qs42 q145 q1228) ⟨rfl, hd_X12_letter⟩ rfl (by decide) (by decide) (Nat.zero_le _) (Or.inl rfl) (Nat.le_of_ble_eq_true rfl) h (zqI__k rfl (fun r4 h => ?_)) (fun _ _ _ _ _ _ h9 h8 => absurd h8.1 h9) rfl
      refine za_iload_n (pc' := 64) 2 dX12_goes_63 rfl rfl rfl ?_
      refine za_icmp_ne (pc' := 67) (tgt := 79) dX12_goes_64 (by decide) rfl (fun c9 => ?_) (fun c9 => ?_)
      · replace h := h.2 c9
        refine za_iconst (pc' := 80) dX12_goes_79 zi_m1 rfl ?_
        exact za_ireturn rfl dX12_goes_80 h
      · replace h := h.1 c9
        refine za_aload_n (pc' := 68) 0 dX12_goes_67 rfl rfl rfl ?_
        refine za_iload_n (pc' := 69) 1 dX12_goes_68 rfl rfl rfl ?_
        refine za_iload (pc' := 71) 3 dX12_goes_69 rfl rfl ?_
        refine za_iconst (pc' := 72) dX12_goes_71 zi_1 rfl ?_
        refine za_iadd (pc' := 73) dX12_goes_72 rfl ?_
        refine za_callV (κ := v0) (M2 := mX12_placeOf) (d2 := 3) (b2 := 0) (n := 2) (As := [.int v2, .int (v4 + (1 : Int32))]) (st := []) (pc' := 76) zc11 (by decide) ht1 dX12_goes_73 rfl (lw_V q1234 q1236 qs43 q145 q1237) ⟨rfl, hd_X12_placeOf⟩ rfl (by decide) (by decide) (Nat.zero_le _) (Or.inl rfl) (Nat.le_of_ble_eq_true rfl) h (zqI__k rfl (fun r5 h => ?_)) (fun _ _ _ _ _ _ h9 h8 => absurd h8.1 h9) rfl
        refine za_goto (tgt := 80) dX12_goes_76 (by decide) ?_
        exact za_ireturn rfl dX12_goes_80 h
theorem sX12_goes {d b : Nat} {v0 : Nat} {v1 : Int32} {v2 : Int32} {v3 : Int32} {T : zT} {I : zI} {L : zL} {R : zR} {P : zP} (h : zAW mX12_goes d b 0 [(0, .ref v0), (1, .int v1), (2, .int v2), (3, .int v3)] [] T I L R P) : zMet mX12_goes d b [.ref v0, .int v1, .int v2, .int v3] T I L R P := zMet_of (by decide +kernel) rfl (Nat.le_of_ble_eq_true rfl) rfl h
/-! TwoTongues$Net.placeOf (II)I -/
def dkwX12_placeOf_1 : List UInt8 := [172]
abbrev dktX12_placeOf_1 : List UInt8 := dkwX12_placeOf_1 ++ []
def dkwX12_placeOf_0 : List UInt8 := [28, 42, 180, 0, 15, 27, 182, 0, 23, 160, 0, 8, 16, 60, 167, 0, 10, 8, 27, 104, 28, 96, 4, 100]
abbrev dktX12_placeOf_0 : List UInt8 := dkwX12_placeOf_0 ++ dktX12_placeOf_1
theorem dksX12_placeOf_0 : cX12_placeOf.data.toList.drop 0 = dktX12_placeOf_0 := by decide +kernel
theorem dksX12_placeOf_1 : cX12_placeOf.data.toList.drop 24 = dktX12_placeOf_1 := dk_seg dksX12_placeOf_0 24 rfl rfl
theorem dX12_placeOf_0 : decode cX12_placeOf 0 = .ok (.iload_n 2, 1) := dk_28 (dk_at dksX12_placeOf_0 0 rfl rfl)
theorem dX12_placeOf_1 : decode cX12_placeOf 1 = .ok (.aload_n 0, 1) := dk_42 (dk_at dksX12_placeOf_0 1 rfl rfl)
theorem dX12_placeOf_2 : decode cX12_placeOf 2 = .ok (.getfield 15, 3) := dk_180 0 15 (dk_at dksX12_placeOf_0 2 rfl rfl)
theorem dX12_placeOf_5 : decode cX12_placeOf 5 = .ok (.iload_n 1, 1) := dk_27 (dk_at dksX12_placeOf_0 5 rfl rfl)
theorem dX12_placeOf_6 : decode cX12_placeOf 6 = .ok (.invokevirtual 23, 3) := dk_182 0 23 (dk_at dksX12_placeOf_0 6 rfl rfl)
theorem dX12_placeOf_9 : decode cX12_placeOf 9 = .ok (.if_icmp .ne 8, 3) := dk_160 0 8 (dk_at dksX12_placeOf_0 9 rfl rfl)
theorem dX12_placeOf_12 : decode cX12_placeOf 12 = .ok (.bipush 60, 2) := dk_16 60 (dk_at dksX12_placeOf_0 12 rfl rfl)
theorem dX12_placeOf_14 : decode cX12_placeOf 14 = .ok (.goto 10, 3) := dk_167 0 10 (dk_at dksX12_placeOf_0 14 rfl rfl)
theorem dX12_placeOf_17 : decode cX12_placeOf 17 = .ok (.iconst 5, 1) := dk_8 (dk_at dksX12_placeOf_0 17 rfl rfl)
theorem dX12_placeOf_18 : decode cX12_placeOf 18 = .ok (.iload_n 1, 1) := dk_27 (dk_at dksX12_placeOf_0 18 rfl rfl)
theorem dX12_placeOf_19 : decode cX12_placeOf 19 = .ok (.imul, 1) := dk_104 (dk_at dksX12_placeOf_0 19 rfl rfl)
theorem dX12_placeOf_20 : decode cX12_placeOf 20 = .ok (.iload_n 2, 1) := dk_28 (dk_at dksX12_placeOf_0 20 rfl rfl)
theorem dX12_placeOf_21 : decode cX12_placeOf 21 = .ok (.iadd, 1) := dk_96 (dk_at dksX12_placeOf_0 21 rfl rfl)
theorem dX12_placeOf_22 : decode cX12_placeOf 22 = .ok (.iconst 1, 1) := dk_4 (dk_at dksX12_placeOf_0 22 rfl rfl)
theorem dX12_placeOf_23 : decode cX12_placeOf 23 = .ok (.isub, 1) := dk_100 (dk_at dksX12_placeOf_0 23 rfl rfl)
theorem dX12_placeOf_24 : decode cX12_placeOf 24 = .ok (.ireturn, 1) := dk_172 (dk_at dksX12_placeOf_1 0 rfl rfl)
theorem gX12_placeOf_0 {v0 : Nat} {v1 : Int32} {v2 : Int32} {T : zT} {I : zI} {L : zL} {R : zR} {P : zP} (h : (T v0).1 = 12 ∧ (T (R v0 0)).1 = 4 ∧ zMet mX4_length 2 0 [.ref (R v0 0), .int v1] T I L R (zqI_ T I L R  (fun (r2 : Int32)  => ((v2 = r2 → P 0 (.int (60 : Int32)) T I L R) ∧ (¬ v2 = r2 → P 0 (.int ((((5 : Int32) * v1) + v2) - (1 : Int32))) T I L R))))) : zAW mX12_placeOf 3 0 0 [(0, .ref v0), (1, .int v1), (2, .int v2)] [] T I L R P := by
  refine za_iload_n (pc' := 1) 2 dX12_placeOf_0 rfl rfl rfl ?_
  refine za_aload_n (pc' := 2) 0 dX12_placeOf_1 rfl rfl rfl ?_
  obtain ⟨ht1, h⟩ := h
  refine za_get (fi := 0) (v := .ref (R v0 0)) (pc' := 5) dX12_placeOf_2 zc11 (by decide) in_X12 (by decide) q443 (Or.inl rfl) ht1 rfl rfl ?_
  refine za_iload_n (pc' := 6) 1 dX12_placeOf_5 rfl rfl rfl ?_
  obtain ⟨ht3, h⟩ := h
  refine za_callV (κ := (R v0 0)) (M2 := mX4_length) (d2 := 2) (b2 := 0) (n := 1) (As := [.int v1]) (st := [.int v2]) (pc' := 9) zc3 (by decide) ht3 dX12_placeOf_6 rfl (lw_V q1224 q1117 q1118 q134 q1119) ⟨rfl, hd_X4_length⟩ rfl (by decide) (by decide) (Nat.zero_le _) (Or.inl rfl) (Nat.le_of_ble_eq_true rfl) h (zqI__k rfl (fun r2 h => ?_)) (fun _ _ _ _ _ _ h9 h8 => absurd h8.1 h9) rfl
  refine za_icmp_ne (pc' := 12) (tgt := 17) dX12_placeOf_9 (by decide) rfl (fun c9 => ?_) (fun c9 => ?_)
  · replace h := h.2 c9
    refine za_iconst (pc' := 18) dX12_placeOf_17 zi_5 rfl ?_
    refine za_iload_n (pc' := 19) 1 dX12_placeOf_18 rfl rfl rfl ?_
    refine za_imul (pc' := 20) dX12_placeOf_19 rfl ?_
    refine za_iload_n (pc' := 21) 2 dX12_placeOf_20 rfl rfl rfl ?_
    refine za_iadd (pc' := 22) dX12_placeOf_21 rfl ?_
    refine za_iconst (pc' := 23) dX12_placeOf_22 zi_1 rfl ?_
    refine za_isub (pc' := 24) dX12_placeOf_23 rfl ?_
    exact za_ireturn rfl dX12_placeOf_24 h
  · replace h := h.1 c9
    refine za_bipush (pc' := 14) dX12_placeOf_12 zb8_60 rfl ?_
    refine za_goto (tgt := 24) dX12_placeOf_14 (by decide) ?_
    exact za_ireturn rfl dX12_placeOf_24 h
theorem sX12_placeOf {d b : Nat} {v0 : Nat} {v1 : Int32} {v2 : Int32} {T : zT} {I : zI} {L : zL} {R : zR} {P : zP} (h : zAW mX12_placeOf d b 0 [(0, .ref v0), (1, .int v1), (2, .int v2)] [] T I L R P) : zMet mX12_placeOf d b [.ref v0, .int v1, .int v2] T I L R P := zMet_of (by decide +kernel) rfl (Nat.le_of_ble_eq_true rfl) rfl h
/-! TwoTongues$Net.goes (JI)J -/
def dkwX12_goes_2_4 : List UInt8 := [132, 7, 1, 167, 255, 178, 132, 6, 1, 167, 255, 157, 22, 4, 173]
abbrev dktX12_goes_2_4 : List UInt8 := dkwX12_goes_2_4 ++ []
def dkwX12_goes_2_3 : List UInt8 := [182, 0, 37, 29, 160, 0, 20, 22, 4, 10, 42, 21, 6, 21, 7, 4, 96, 182, 0, 38, 121, 129, 55, 4]
abbrev dktX12_goes_2_3 : List UInt8 := dkwX12_goes_2_3 ++ dktX12_goes_2_4
def dkwX12_goes_2_2 : List UInt8 := [104, 21, 7, 96, 4, 100, 54, 8, 31, 21, 8, 123, 10, 127, 10, 148, 154, 0, 32, 42, 21, 6, 21, 7]
abbrev dktX12_goes_2_2 : List UInt8 := dkwX12_goes_2_2 ++ dktX12_goes_2_3
def dkwX12_goes_2_1 : List UInt8 := [180, 0, 15, 21, 6, 182, 0, 23, 162, 0, 70, 21, 7, 154, 0, 8, 16, 60, 167, 0, 12, 8, 21, 6]
abbrev dktX12_goes_2_1 : List UInt8 := dkwX12_goes_2_1 ++ dktX12_goes_2_2
def dkwX12_goes_2_0 : List UInt8 := [9, 55, 4, 3, 54, 6, 21, 6, 42, 180, 0, 15, 180, 0, 33, 162, 0, 93, 3, 54, 7, 21, 7, 42]
abbrev dktX12_goes_2_0 : List UInt8 := dkwX12_goes_2_0 ++ dktX12_goes_2_1
theorem dksX12_goes_2_0 : cX12_goes_2.data.toList.drop 0 = dktX12_goes_2_0 := by decide +kernel
theorem dksX12_goes_2_1 : cX12_goes_2.data.toList.drop 24 = dktX12_goes_2_1 := dk_seg dksX12_goes_2_0 24 rfl rfl
theorem dksX12_goes_2_2 : cX12_goes_2.data.toList.drop 48 = dktX12_goes_2_2 := dk_seg dksX12_goes_2_1 24 rfl rfl
theorem dksX12_goes_2_3 : cX12_goes_2.data.toList.drop 72 = dktX12_goes_2_3 := dk_seg dksX12_goes_2_2 24 rfl rfl
theorem dksX12_goes_2_4 : cX12_goes_2.data.toList.drop 96 = dktX12_goes_2_4 := dk_seg dksX12_goes_2_3 24 rfl rfl
theorem dX12_goes_2_0 : decode cX12_goes_2 0 = .ok (.lconst 0, 1) := dk_9 (dk_at dksX12_goes_2_0 0 rfl rfl)
theorem dX12_goes_2_1 : decode cX12_goes_2 1 = .ok (.lstore 4, 2) := dk_55 4 (dk_at dksX12_goes_2_0 1 rfl rfl)
theorem dX12_goes_2_3 : decode cX12_goes_2 3 = .ok (.iconst 0, 1) := dk_3 (dk_at dksX12_goes_2_0 3 rfl rfl)
theorem dX12_goes_2_4 : decode cX12_goes_2 4 = .ok (.istore 6, 2) := dk_54 6 (dk_at dksX12_goes_2_0 4 rfl rfl)
theorem dX12_goes_2_6 : decode cX12_goes_2 6 = .ok (.iload 6, 2) := dk_21 6 (dk_at dksX12_goes_2_0 6 rfl rfl)
theorem dX12_goes_2_8 : decode cX12_goes_2 8 = .ok (.aload_n 0, 1) := dk_42 (dk_at dksX12_goes_2_0 8 rfl rfl)
theorem dX12_goes_2_9 : decode cX12_goes_2 9 = .ok (.getfield 15, 3) := dk_180 0 15 (dk_at dksX12_goes_2_0 9 rfl rfl)
theorem dX12_goes_2_12 : decode cX12_goes_2 12 = .ok (.getfield 33, 3) := dk_180 0 33 (dk_at dksX12_goes_2_0 12 rfl rfl)
theorem dX12_goes_2_15 : decode cX12_goes_2 15 = .ok (.if_icmp .ge 93, 3) := dk_162 0 93 (dk_at dksX12_goes_2_0 15 rfl rfl)
theorem dX12_goes_2_18 : decode cX12_goes_2 18 = .ok (.iconst 0, 1) := dk_3 (dk_at dksX12_goes_2_0 18 rfl rfl)
theorem dX12_goes_2_19 : decode cX12_goes_2 19 = .ok (.istore 7, 2) := dk_54 7 (dk_at dksX12_goes_2_0 19 rfl rfl)
theorem dX12_goes_2_21 : decode cX12_goes_2 21 = .ok (.iload 7, 2) := dk_21 7 (dk_at dksX12_goes_2_0 21 rfl rfl)
theorem dX12_goes_2_23 : decode cX12_goes_2 23 = .ok (.aload_n 0, 1) := dk_42 (dk_at dksX12_goes_2_0 23 rfl rfl)
theorem dX12_goes_2_24 : decode cX12_goes_2 24 = .ok (.getfield 15, 3) := dk_180 0 15 (dk_at dksX12_goes_2_1 0 rfl rfl)
theorem dX12_goes_2_27 : decode cX12_goes_2 27 = .ok (.iload 6, 2) := dk_21 6 (dk_at dksX12_goes_2_1 3 rfl rfl)
theorem dX12_goes_2_29 : decode cX12_goes_2 29 = .ok (.invokevirtual 23, 3) := dk_182 0 23 (dk_at dksX12_goes_2_1 5 rfl rfl)
theorem dX12_goes_2_32 : decode cX12_goes_2 32 = .ok (.if_icmp .ge 70, 3) := dk_162 0 70 (dk_at dksX12_goes_2_1 8 rfl rfl)
theorem dX12_goes_2_35 : decode cX12_goes_2 35 = .ok (.iload 7, 2) := dk_21 7 (dk_at dksX12_goes_2_1 11 rfl rfl)
theorem dX12_goes_2_37 : decode cX12_goes_2 37 = .ok (.ifCond .ne 8, 3) := dk_154 0 8 (dk_at dksX12_goes_2_1 13 rfl rfl)
theorem dX12_goes_2_40 : decode cX12_goes_2 40 = .ok (.bipush 60, 2) := dk_16 60 (dk_at dksX12_goes_2_1 16 rfl rfl)
theorem dX12_goes_2_42 : decode cX12_goes_2 42 = .ok (.goto 12, 3) := dk_167 0 12 (dk_at dksX12_goes_2_1 18 rfl rfl)
theorem dX12_goes_2_45 : decode cX12_goes_2 45 = .ok (.iconst 5, 1) := dk_8 (dk_at dksX12_goes_2_1 21 rfl rfl)
theorem dX12_goes_2_46 : decode cX12_goes_2 46 = .ok (.iload 6, 2) := dk_21 6 (dk_at dksX12_goes_2_1 22 rfl rfl)
theorem dX12_goes_2_48 : decode cX12_goes_2 48 = .ok (.imul, 1) := dk_104 (dk_at dksX12_goes_2_2 0 rfl rfl)
theorem dX12_goes_2_49 : decode cX12_goes_2 49 = .ok (.iload 7, 2) := dk_21 7 (dk_at dksX12_goes_2_2 1 rfl rfl)
theorem dX12_goes_2_51 : decode cX12_goes_2 51 = .ok (.iadd, 1) := dk_96 (dk_at dksX12_goes_2_2 3 rfl rfl)
theorem dX12_goes_2_52 : decode cX12_goes_2 52 = .ok (.iconst 1, 1) := dk_4 (dk_at dksX12_goes_2_2 4 rfl rfl)
theorem dX12_goes_2_53 : decode cX12_goes_2 53 = .ok (.isub, 1) := dk_100 (dk_at dksX12_goes_2_2 5 rfl rfl)
theorem dX12_goes_2_54 : decode cX12_goes_2 54 = .ok (.istore 8, 2) := dk_54 8 (dk_at dksX12_goes_2_2 6 rfl rfl)
theorem dX12_goes_2_56 : decode cX12_goes_2 56 = .ok (.lload_n 1, 1) := dk_31 (dk_at dksX12_goes_2_2 8 rfl rfl)
theorem dX12_goes_2_57 : decode cX12_goes_2 57 = .ok (.iload 8, 2) := dk_21 8 (dk_at dksX12_goes_2_2 9 rfl rfl)
theorem dX12_goes_2_59 : decode cX12_goes_2 59 = .ok (.lshr, 1) := dk_123 (dk_at dksX12_goes_2_2 11 rfl rfl)
theorem dX12_goes_2_60 : decode cX12_goes_2 60 = .ok (.lconst 1, 1) := dk_10 (dk_at dksX12_goes_2_2 12 rfl rfl)
theorem dX12_goes_2_61 : decode cX12_goes_2 61 = .ok (.land, 1) := dk_127 (dk_at dksX12_goes_2_2 13 rfl rfl)
theorem dX12_goes_2_62 : decode cX12_goes_2 62 = .ok (.lconst 1, 1) := dk_10 (dk_at dksX12_goes_2_2 14 rfl rfl)
theorem dX12_goes_2_63 : decode cX12_goes_2 63 = .ok (.lcmp, 1) := dk_148 (dk_at dksX12_goes_2_2 15 rfl rfl)
theorem dX12_goes_2_64 : decode cX12_goes_2 64 = .ok (.ifCond .ne 32, 3) := dk_154 0 32 (dk_at dksX12_goes_2_2 16 rfl rfl)
theorem dX12_goes_2_67 : decode cX12_goes_2 67 = .ok (.aload_n 0, 1) := dk_42 (dk_at dksX12_goes_2_2 19 rfl rfl)
theorem dX12_goes_2_68 : decode cX12_goes_2 68 = .ok (.iload 6, 2) := dk_21 6 (dk_at dksX12_goes_2_2 20 rfl rfl)
theorem dX12_goes_2_70 : decode cX12_goes_2 70 = .ok (.iload 7, 2) := dk_21 7 (dk_at dksX12_goes_2_2 22 rfl rfl)
theorem dX12_goes_2_72 : decode cX12_goes_2 72 = .ok (.invokevirtual 37, 3) := dk_182 0 37 (dk_at dksX12_goes_2_3 0 rfl rfl)
theorem dX12_goes_2_75 : decode cX12_goes_2 75 = .ok (.iload_n 3, 1) := dk_29 (dk_at dksX12_goes_2_3 3 rfl rfl)
theorem dX12_goes_2_76 : decode cX12_goes_2 76 = .ok (.if_icmp .ne 20, 3) := dk_160 0 20 (dk_at dksX12_goes_2_3 4 rfl rfl)
theorem dX12_goes_2_79 : decode cX12_goes_2 79 = .ok (.lload 4, 2) := dk_22 4 (dk_at dksX12_goes_2_3 7 rfl rfl)
theorem dX12_goes_2_81 : decode cX12_goes_2 81 = .ok (.lconst 1, 1) := dk_10 (dk_at dksX12_goes_2_3 9 rfl rfl)
theorem dX12_goes_2_82 : decode cX12_goes_2 82 = .ok (.aload_n 0, 1) := dk_42 (dk_at dksX12_goes_2_3 10 rfl rfl)
theorem dX12_goes_2_83 : decode cX12_goes_2 83 = .ok (.iload 6, 2) := dk_21 6 (dk_at dksX12_goes_2_3 11 rfl rfl)
theorem dX12_goes_2_85 : decode cX12_goes_2 85 = .ok (.iload 7, 2) := dk_21 7 (dk_at dksX12_goes_2_3 13 rfl rfl)
theorem dX12_goes_2_87 : decode cX12_goes_2 87 = .ok (.iconst 1, 1) := dk_4 (dk_at dksX12_goes_2_3 15 rfl rfl)
theorem dX12_goes_2_88 : decode cX12_goes_2 88 = .ok (.iadd, 1) := dk_96 (dk_at dksX12_goes_2_3 16 rfl rfl)
theorem dX12_goes_2_89 : decode cX12_goes_2 89 = .ok (.invokevirtual 38, 3) := dk_182 0 38 (dk_at dksX12_goes_2_3 17 rfl rfl)
theorem dX12_goes_2_92 : decode cX12_goes_2 92 = .ok (.lshl, 1) := dk_121 (dk_at dksX12_goes_2_3 20 rfl rfl)
theorem dX12_goes_2_93 : decode cX12_goes_2 93 = .ok (.lor, 1) := dk_129 (dk_at dksX12_goes_2_3 21 rfl rfl)
theorem dX12_goes_2_94 : decode cX12_goes_2 94 = .ok (.lstore 4, 2) := dk_55 4 (dk_at dksX12_goes_2_3 22 rfl rfl)
theorem dX12_goes_2_96 : decode cX12_goes_2 96 = .ok (.iinc 7 1, 3) := dk_132 7 1 (dk_at dksX12_goes_2_4 0 rfl rfl)
theorem dX12_goes_2_99 : decode cX12_goes_2 99 = .ok (.goto (-78), 3) := dk_167 255 178 (dk_at dksX12_goes_2_4 3 rfl rfl)
theorem dX12_goes_2_102 : decode cX12_goes_2 102 = .ok (.iinc 6 1, 3) := dk_132 6 1 (dk_at dksX12_goes_2_4 6 rfl rfl)
theorem dX12_goes_2_105 : decode cX12_goes_2 105 = .ok (.goto (-99), 3) := dk_167 255 157 (dk_at dksX12_goes_2_4 9 rfl rfl)
theorem dX12_goes_2_108 : decode cX12_goes_2 108 = .ok (.lload 4, 2) := dk_22 4 (dk_at dksX12_goes_2_4 12 rfl rfl)
theorem dX12_goes_2_110 : decode cX12_goes_2 110 = .ok (.lreturn, 1) := dk_173 (dk_at dksX12_goes_2_4 14 rfl rfl)
theorem gX12_goes_2_0 {v0 : Nat} {v1 : Int64} {v3 : Int32} {T : zT} {I : zI} {L : zL} {R : zR} {P : zP} (h : zAW mX12_goes_2 4 0 6 [(0, .ref v0), (1, .long v1), (3, .int v3), (4, .long (0 : Int64)), (6, .int (0 : Int32))] [] T I L R P) : zAW mX12_goes_2 4 0 0 [(0, .ref v0), (1, .long v1), (3, .int v3)] [] T I L R P := by
  refine za_lconst (pc' := 1) dX12_goes_2_0 zl_0 rfl ?_
  refine za_lstore (pc' := 3) (l' := [(4, .long (0 : Int64)), (0, .ref v0), (1, .long v1), (3, .int v3)]) dX12_goes_2_1 (Nat.le_of_ble_eq_true rfl) rfl rfl ?_
  refine za_iconst (pc' := 4) dX12_goes_2_3 zi_0 rfl ?_
  refine za_istore (pc' := 6) (l' := [(6, .int (0 : Int32)), (4, .long (0 : Int64)), (0, .ref v0), (1, .long v1), (3, .int v3)]) dX12_goes_2_4 (Nat.le_of_ble_eq_true rfl) rfl rfl ?_
  exact zAW_sub [2, 3, 4, 1, 0] rfl h
theorem gX12_goes_2_6 {v0 : Nat} {v1 : Int64} {v3 : Int32} {v4 : Int64} {v6 : Int32} {T : zT} {I : zI} {L : zL} {R : zR} {P : zP} (h : (T v0).1 = 12 ∧ (T (R v0 0)).1 = 4 ∧ (((I (R v0 0) 2) ≤ v6 → P 0 (.long v4) T I L R) ∧ (¬ (I (R v0 0) 2) ≤ v6 → zAW mX12_goes_2 4 0 21 [(0, .ref v0), (1, .long v1), (3, .int v3), (4, .long v4), (6, .int v6), (7, .int (0 : Int32))] [] T I L R P))) : zAW mX12_goes_2 4 0 6 [(0, .ref v0), (1, .long v1), (3, .int v3), (4, .long v4), (6, .int v6)] [] T I L R P := by
  refine za_iload (pc' := 8) 4 dX12_goes_2_6 rfl rfl ?_
  refine za_aload_n (pc' := 9) 0 dX12_goes_2_8 rfl rfl rfl ?_
  obtain ⟨ht1, h⟩ := h
  refine za_get (fi := 0) (v := .ref (R v0 0)) (pc' := 12) dX12_goes_2_9 zc11 (by decide) in_X12 (by decide) q443 (Or.inl rfl) ht1 rfl rfl ?_
  obtain ⟨ht2, h⟩ := h
  refine za_getN (fi := 2) (v := .int (I (R v0 0) 2)) (pc' := 15) dX12_goes_2_12 zc3 (by decide) in_X4 (by decide) q231 (Or.inl rfl) ht2 rfl rfl ?_
  refine za_icmp_ge (pc' := 18) (tgt := 108) dX12_goes_2_15 (by decide) rfl (fun c9 => ?_) (fun c9 => ?_)
  · replace h := h.1 c9
    refine za_lload (pc' := 110) 3 dX12_goes_2_108 rfl rfl ?_
    exact za_lreturn rfl dX12_goes_2_110 h
  · replace h := h.2 c9
    refine za_iconst (pc' := 19) dX12_goes_2_18 zi_0 rfl ?_
    refine za_istore (pc' := 21) (l' := [(7, .int (0 : Int32)), (0, .ref v0), (1, .long v1), (3, .int v3), (4, .long v4), (6, .int v6)]) dX12_goes_2_19 (Nat.le_of_ble_eq_true rfl) rfl rfl ?_
    exact zAW_sub [1, 2, 3, 4, 5, 0] rfl h
theorem gX12_goes_2_21 {v0 : Nat} {v1 : Int64} {v3 : Int32} {v4 : Int64} {v6 : Int32} {v7 : Int32} {T : zT} {I : zI} {L : zL} {R : zR} {P : zP} (h : (T v0).1 = 12 ∧ (T (R v0 0)).1 = 4 ∧ zMet mX4_length 2 0 [.ref (R v0 0), .int v6] T I L R (zqI_ T I L R  (fun (r4 : Int32)  => ((r4 ≤ v7 → zAW mX12_goes_2 4 0 6 [(0, .ref v0), (1, .long v1), (3, .int v3), (4, .long v4), (6, .int (v6 + (1 : Int32)))] [] T I L R P) ∧ (¬ r4 ≤ v7 → ((v7 = 0 → zAW mX12_goes_2 4 0 54 [(0, .ref v0), (1, .long v1), (3, .int v3), (4, .long v4), (6, .int v6), (7, .int v7)] [.int (60 : Int32)] T I L R P) ∧ (¬ v7 = 0 → zAW mX12_goes_2 4 0 54 [(0, .ref v0), (1, .long v1), (3, .int v3), (4, .long v4), (6, .int v6), (7, .int v7)] [.int ((((5 : Int32) * v6) + v7) - (1 : Int32))] T I L R P))))))) : zAW mX12_goes_2 4 0 21 [(0, .ref v0), (1, .long v1), (3, .int v3), (4, .long v4), (6, .int v6), (7, .int v7)] [] T I L R P := by
  refine za_iload (pc' := 23) 5 dX12_goes_2_21 rfl rfl ?_
  refine za_aload_n (pc' := 24) 0 dX12_goes_2_23 rfl rfl rfl ?_
  obtain ⟨ht3, h⟩ := h
  refine za_get (fi := 0) (v := .ref (R v0 0)) (pc' := 27) dX12_goes_2_24 zc11 (by decide) in_X12 (by decide) q443 (Or.inl rfl) ht3 rfl rfl ?_
  refine za_iload (pc' := 29) 4 dX12_goes_2_27 rfl rfl ?_
  obtain ⟨ht5, h⟩ := h
  refine za_callV (κ := (R v0 0)) (M2 := mX4_length) (d2 := 2) (b2 := 0) (n := 1) (As := [.int v6]) (st := [.int v7]) (pc' := 32) zc3 (by decide) ht5 dX12_goes_2_29 rfl (lw_V q1224 q1117 q1118 q134 q1119) ⟨rfl, hd_X4_length⟩ rfl (by decide) (by decide) (Nat.zero_le _) (Or.inl rfl) (Nat.le_of_ble_eq_true rfl) h (zqI__k rfl (fun r4 h => ?_)) (fun _ _ _ _ _ _ h9 h8 => absurd h8.1 h9) rfl
  refine za_icmp_ge (pc' := 35) (tgt := 102) dX12_goes_2_32 (by decide) rfl (fun c9 => ?_) (fun c9 => ?_)
  · replace h := h.1 c9
    refine za_iinc (pc' := 105) (l' := [(6, .int (v6 + (1 : Int32))), (0, .ref v0), (1, .long v1), (3, .int v3), (4, .long v4), (7, .int v7)]) 4 dX12_goes_2_102 rfl (zinc zi_1) (Nat.le_of_ble_eq_true rfl) rfl rfl ?_
    refine za_goto (tgt := 6) dX12_goes_2_105 (by decide) ?_
    exact zAW_sub [1, 2, 3, 4, 0] rfl h
  · replace h := h.2 c9
    refine za_iload (pc' := 37) 5 dX12_goes_2_35 rfl rfl ?_
    refine za_if_ne (pc' := 40) (tgt := 45) dX12_goes_2_37 (by decide) rfl (fun c9 => ?_) (fun c9 => ?_)
    · replace h := h.2 c9
      refine za_iconst (pc' := 46) dX12_goes_2_45 zi_5 rfl ?_
      refine za_iload (pc' := 48) 4 dX12_goes_2_46 rfl rfl ?_
      refine za_imul (pc' := 49) dX12_goes_2_48 rfl ?_
      refine za_iload (pc' := 51) 5 dX12_goes_2_49 rfl rfl ?_
      refine za_iadd (pc' := 52) dX12_goes_2_51 rfl ?_
      refine za_iconst (pc' := 53) dX12_goes_2_52 zi_1 rfl ?_
      refine za_isub (pc' := 54) dX12_goes_2_53 rfl ?_
      exact zAW_sub [0, 1, 2, 3, 4, 5] rfl h
    · replace h := h.1 c9
      refine za_bipush (pc' := 42) dX12_goes_2_40 zb8_60 rfl ?_
      refine za_goto (tgt := 54) dX12_goes_2_42 (by decide) ?_
      exact zAW_sub [0, 1, 2, 3, 4, 5] rfl h
theorem gX12_goes_2_54 {v0 : Nat} {v1 : Int64} {v3 : Int32} {v4 : Int64} {v6 : Int32} {v7 : Int32} {s0 : Int32} {T : zT} {I : zI} {L : zL} {R : zR} {P : zP} (h : ((((v1 >>> (s0.toInt64 &&& 63)) &&& (1 : Int64)) = (1 : Int64) → (T v0).1 = 12 ∧ zMet mX12_letter 3 0 [.ref v0, .int v6, .int v7] T I L R (zqI_ T I L R  (fun (r6 : Int32)  => ((r6 = v3 → zMet mX12_placeOf 3 0 [.ref v0, .int v6, .int (v7 + (1 : Int32))] T I L R (zqI_ T I L R  (fun (r8 : Int32)  => zAW mX12_goes_2 4 0 21 [(0, .ref v0), (1, .long v1), (3, .int v3), (4, .long (v4 ||| ((1 : Int64) <<< (r8.toInt64 &&& 63)))), (6, .int v6), (7, .int (v7 + (1 : Int32)))] [] T I L R P))) ∧ (¬ r6 = v3 → zAW mX12_goes_2 4 0 21 [(0, .ref v0), (1, .long v1), (3, .int v3), (4, .long v4), (6, .int v6), (7, .int (v7 + (1 : Int32)))] [] T I L R P))))) ∧ (¬ ((v1 >>> (s0.toInt64 &&& 63)) &&& (1 : Int64)) = (1 : Int64) → zAW mX12_goes_2 4 0 21 [(0, .ref v0), (1, .long v1), (3, .int v3), (4, .long v4), (6, .int v6), (7, .int (v7 + (1 : Int32)))] [] T I L R P))) : zAW mX12_goes_2 4 0 54 [(0, .ref v0), (1, .long v1), (3, .int v3), (4, .long v4), (6, .int v6), (7, .int v7)] [.int s0] T I L R P := by
  refine za_istore (pc' := 56) (l' := [(8, .int s0), (0, .ref v0), (1, .long v1), (3, .int v3), (4, .long v4), (6, .int v6), (7, .int v7)]) dX12_goes_2_54 (Nat.le_of_ble_eq_true rfl) rfl rfl ?_
  refine za_lload_n (pc' := 57) 2 dX12_goes_2_56 rfl rfl rfl ?_
  refine za_iload (pc' := 59) 0 dX12_goes_2_57 rfl rfl ?_
  refine za_lshr (pc' := 60) dX12_goes_2_59 rfl rfl ?_
  refine za_lconst (pc' := 61) dX12_goes_2_60 zl_1 rfl ?_
  refine za_land (pc' := 62) dX12_goes_2_61 rfl ?_
  refine za_lconst (pc' := 63) dX12_goes_2_62 zl_1 rfl ?_
  refine za_lcmp (pc' := 64) dX12_goes_2_63 rfl ?_
  refine za_if_ne (pc' := 67) (tgt := 96) dX12_goes_2_64 (by decide) rfl (fun c9 => ?_) (fun c9 => ?_)
  · replace h := h.2 (fun c8 => c9 ((lg_cmp_eq ((v1 >>> (s0.toInt64 &&& 63)) &&& (1 : Int64)) (1 : Int64)).mpr c8))
    refine za_iinc (pc' := 99) (l' := [(7, .int (v7 + (1 : Int32))), (8, .int s0), (0, .ref v0), (1, .long v1), (3, .int v3), (4, .long v4), (6, .int v6)]) 6 dX12_goes_2_96 rfl (zinc zi_1) (Nat.le_of_ble_eq_true rfl) rfl rfl ?_
    refine za_goto (tgt := 21) dX12_goes_2_99 (by decide) ?_
    exact zAW_sub [2, 3, 4, 5, 6, 0] rfl h
  · replace h := h.1 ((lg_cmp_eq ((v1 >>> (s0.toInt64 &&& 63)) &&& (1 : Int64)) (1 : Int64)).mp c9)
    refine za_aload_n (pc' := 68) 1 dX12_goes_2_67 rfl rfl rfl ?_
    refine za_iload (pc' := 70) 5 dX12_goes_2_68 rfl rfl ?_
    refine za_iload (pc' := 72) 6 dX12_goes_2_70 rfl rfl ?_
    obtain ⟨ht7, h⟩ := h
    refine za_callV (κ := v0) (M2 := mX12_letter) (d2 := 3) (b2 := 0) (n := 2) (As := [.int v6, .int v7]) (st := []) (pc' := 75) zc11 (by decide) ht7 dX12_goes_2_72 rfl (lw_V q1225 q1227 qs42 q145 q1228) ⟨rfl, hd_X12_letter⟩ rfl (by decide) (by decide) (Nat.zero_le _) (Or.inl rfl) (Nat.le_of_ble_eq_true rfl) h (zqI__k rfl (fun r6 h => ?_)) (fun _ _ _ _ _ _ h9 h8 => absurd h8.1 h9) rfl
    refine za_iload_n (pc' := 76) 3 dX12_goes_2_75 rfl rfl rfl ?_
    refine za_icmp_ne (pc' := 79) (tgt := 96) dX12_goes_2_76 (by decide) rfl (fun c9 => ?_) (fun c9 => ?_)
    · replace h := h.2 c9
      refine za_iinc (pc' := 99) (l' := [(7, .int (v7 + (1 : Int32))), (8, .int s0), (0, .ref v0), (1, .long v1), (3, .int v3), (4, .long v4), (6, .int v6)]) 6 dX12_goes_2_96 rfl (zinc zi_1) (Nat.le_of_ble_eq_true rfl) rfl rfl ?_
      refine za_goto (tgt := 21) dX12_goes_2_99 (by decide) ?_
      exact zAW_sub [2, 3, 4, 5, 6, 0] rfl h
    · replace h := h.1 c9
      refine za_lload (pc' := 81) 4 dX12_goes_2_79 rfl rfl ?_
      refine za_lconst (pc' := 82) dX12_goes_2_81 zl_1 rfl ?_
      refine za_aload_n (pc' := 83) 1 dX12_goes_2_82 rfl rfl rfl ?_
      refine za_iload (pc' := 85) 5 dX12_goes_2_83 rfl rfl ?_
      refine za_iload (pc' := 87) 6 dX12_goes_2_85 rfl rfl ?_
      refine za_iconst (pc' := 88) dX12_goes_2_87 zi_1 rfl ?_
      refine za_iadd (pc' := 89) dX12_goes_2_88 rfl ?_
      refine za_callV (κ := v0) (M2 := mX12_placeOf) (d2 := 3) (b2 := 0) (n := 2) (As := [.int v6, .int (v7 + (1 : Int32))]) (st := [.long (1 : Int64), .long v4]) (pc' := 92) zc11 (by decide) ht7 dX12_goes_2_89 rfl (lw_V q1234 q1236 qs43 q145 q1237) ⟨rfl, hd_X12_placeOf⟩ rfl (by decide) (by decide) (Nat.zero_le _) (Or.inl rfl) (Nat.le_of_ble_eq_true rfl) h (zqI__k rfl (fun r8 h => ?_)) (fun _ _ _ _ _ _ h9 h8 => absurd h8.1 h9) rfl
      refine za_lshl (pc' := 93) dX12_goes_2_92 rfl rfl ?_
      refine za_lor (pc' := 94) dX12_goes_2_93 rfl ?_
      refine za_lstore (pc' := 96) (l' := [(4, .long (v4 ||| ((1 : Int64) <<< (r8.toInt64 &&& 63)))), (8, .int s0), (0, .ref v0), (1, .long v1), (3, .int v3), (6, .int v6), (7, .int v7)]) dX12_goes_2_94 (Nat.le_of_ble_eq_true rfl) rfl rfl ?_
      refine za_iinc (pc' := 99) (l' := [(7, .int (v7 + (1 : Int32))), (4, .long (v4 ||| ((1 : Int64) <<< (r8.toInt64 &&& 63)))), (8, .int s0), (0, .ref v0), (1, .long v1), (3, .int v3), (6, .int v6)]) 6 dX12_goes_2_96 rfl (zinc zi_1) (Nat.le_of_ble_eq_true rfl) rfl rfl ?_
      refine za_goto (tgt := 21) dX12_goes_2_99 (by decide) ?_
      exact zAW_sub [3, 4, 5, 1, 6, 0] rfl h
theorem sX12_goes_2 {d b : Nat} {v0 : Nat} {v1 : Int64} {v3 : Int32} {T : zT} {I : zI} {L : zL} {R : zR} {P : zP} (h : zAW mX12_goes_2 d b 0 [(0, .ref v0), (1, .long v1), (3, .int v3)] [] T I L R P) : zMet mX12_goes_2 d b [.ref v0, .long v1, .int v3] T I L R P := zMet_of (by decide +kernel) rfl (Nat.le_of_ble_eq_true rfl) rfl h
/-! TwoTongues$Kind.<init> ()V -/
theorem dX5_init_0 : decode cX5_init 0 = .ok (.aload_n 0, 1) := by decide +kernel
theorem dX5_init_1 : decode cX5_init 1 = .ok (.invokespecial 1, 3) := by decide +kernel
theorem dX5_init_4 : decode cX5_init 4 = .ok (.return_, 1) := by decide +kernel
theorem gX5_init_0 {v0 : Nat} {T : zT} {I : zI} {L : zL} {R : zR} {P : zP} (h : (T v0).1 ≠ 0 ∧ P 0 (.int 0) T I L R) : zAW mX5_init 1 0 0 [(0, .ref v0)] [] T I L R P := by
  refine za_aload_n (pc' := 1) 0 dX5_init_0 rfl rfl rfl ?_
  obtain ⟨ht1, h⟩ := h
  refine za_objInit (pc' := 4) dX5_init_1 q363 (by decide) (ht1) (Nat.le_of_ble_eq_true rfl) rfl ?_
  exact za_return rfl dX5_init_4 h
theorem sX5_init {d b : Nat} {v0 : Nat} {T : zT} {I : zI} {L : zL} {R : zR} {P : zP} (h : zAW mX5_init d b 0 [(0, .ref v0)] [] T I L R P) : zMet mX5_init d b [.ref v0] T I L R P := zMet_of (by decide +kernel) rfl (Nat.le_of_ble_eq_true rfl) rfl h
/-! TwoTongues$Plain.<init> ()V -/
theorem dX6_init_0 : decode cX6_init 0 = .ok (.aload_n 0, 1) := by decide +kernel
theorem dX6_init_1 : decode cX6_init 1 = .ok (.invokespecial 3, 3) := by decide +kernel
theorem dX6_init_4 : decode cX6_init 4 = .ok (.return_, 1) := by decide +kernel
theorem gX6_init_0 {v0 : Nat} {T : zT} {I : zI} {L : zL} {R : zR} {P : zP} (h : (T v0).1 = 6 ∧ zMet mX5_init 1 0 [.ref v0] T I L R (zqV_ T I L R  (P 0 (.int 0) T I L R))) : zAW mX6_init 2 0 0 [(0, .ref v0)] [] T I L R P := by
  refine za_aload_n (pc' := 1) 0 dX6_init_0 rfl rfl rfl ?_
  obtain ⟨ht1, h⟩ := h
  refine za_callIN (κ := v0) (M2 := mX5_init) (d2 := 1) (b2 := 0) (n := 0) (As := []) (st := []) (pc' := 4) (by rw [ht1]; decide) dX6_init_1 rfl (lw_meth q362) rfl q360 q361 q138 rfl hd_X5_init rfl (by decide) (by decide) (Nat.zero_le _) (Or.inl rfl) (Nat.le_of_ble_eq_true rfl) h (zqV__k rfl (fun  h => ?_)) (fun _ _ _ _ _ _ h9 h8 => absurd h8.1 h9) rfl
  exact za_return rfl dX6_init_4 h
theorem sX6_init {d b : Nat} {v0 : Nat} {T : zT} {I : zI} {L : zL} {R : zR} {P : zP} (h : zAW mX6_init d b 0 [(0, .ref v0)] [] T I L R P) : zMet mX6_init d b [.ref v0] T I L R P := zMet_of (by decide +kernel) rfl (Nat.le_of_ble_eq_true rfl) rfl h
/-! TwoTongues$Plain.isFromRight (I)Z -/
def dkwX6_isFromRight_0 : List UInt8 := [27, 4, 160, 0, 7, 4, 167, 0, 4, 3, 172]
abbrev dktX6_isFromRight_0 : List UInt8 := dkwX6_isFromRight_0 ++ []
theorem dksX6_isFromRight_0 : cX6_isFromRight.data.toList.drop 0 = dktX6_isFromRight_0 := by decide +kernel
theorem dX6_isFromRight_0 : decode cX6_isFromRight 0 = .ok (.iload_n 1, 1) := dk_27 (dk_at dksX6_isFromRight_0 0 rfl rfl)
theorem dX6_isFromRight_1 : decode cX6_isFromRight 1 = .ok (.iconst 1, 1) := dk_4 (dk_at dksX6_isFromRight_0 1 rfl rfl)
theorem dX6_isFromRight_2 : decode cX6_isFromRight 2 = .ok (.if_icmp .ne 7, 3) := dk_160 0 7 (dk_at dksX6_isFromRight_0 2 rfl rfl)
theorem dX6_isFromRight_5 : decode cX6_isFromRight 5 = .ok (.iconst 1, 1) := dk_4 (dk_at dksX6_isFromRight_0 5 rfl rfl)
theorem dX6_isFromRight_6 : decode cX6_isFromRight 6 = .ok (.goto 4, 3) := dk_167 0 4 (dk_at dksX6_isFromRight_0 6 rfl rfl)
theorem dX6_isFromRight_9 : decode cX6_isFromRight 9 = .ok (.iconst 0, 1) := dk_3 (dk_at dksX6_isFromRight_0 9 rfl rfl)
theorem dX6_isFromRight_10 : decode cX6_isFromRight 10 = .ok (.ireturn, 1) := dk_172 (dk_at dksX6_isFromRight_0 10 rfl rfl)
theorem gX6_isFromRight_0 {v0 : Nat} {v1 : Int32} {T : zT} {I : zI} {L : zL} {R : zR} {P : zP} (h : ((v1 = (1 : Int32) → P 0 (.int (1 : Int32)) T I L R) ∧ (¬ v1 = (1 : Int32) → P 0 (.int (0 : Int32)) T I L R))) : zAW mX6_isFromRight 1 0 0 [(0, .ref v0), (1, .int v1)] [] T I L R P := by
  refine za_iload_n (pc' := 1) 1 dX6_isFromRight_0 rfl rfl rfl ?_
  refine za_iconst (pc' := 2) dX6_isFromRight_1 zi_1 rfl ?_
  refine za_icmp_ne (pc' := 5) (tgt := 9) dX6_isFromRight_2 (by decide) rfl (fun c9 => ?_) (fun c9 => ?_)
  · replace h := h.2 c9
    refine za_iconst (pc' := 10) dX6_isFromRight_9 zi_0 rfl ?_
    exact za_zreturn rfl dX6_isFromRight_10 (by decide) h
  · replace h := h.1 c9
    refine za_iconst (pc' := 6) dX6_isFromRight_5 zi_1 rfl ?_
    refine za_goto (tgt := 10) dX6_isFromRight_6 (by decide) ?_
    exact za_zreturn rfl dX6_isFromRight_10 (by decide) h
theorem sX6_isFromRight {d b : Nat} {v0 : Nat} {v1 : Int32} {T : zT} {I : zI} {L : zL} {R : zR} {P : zP} (h : zAW mX6_isFromRight d b 0 [(0, .ref v0), (1, .int v1)] [] T I L R P) : zMet mX6_isFromRight d b [.ref v0, .int v1] T I L R P := zMet_of (by decide +kernel) rfl (Nat.le_of_ble_eq_true rfl) rfl h
/-! TwoTongues$Mirror.<init> ()V -/
theorem dX7_init_0 : decode cX7_init 0 = .ok (.aload_n 0, 1) := by decide +kernel
theorem dX7_init_1 : decode cX7_init 1 = .ok (.invokespecial 3, 3) := by decide +kernel
theorem dX7_init_4 : decode cX7_init 4 = .ok (.return_, 1) := by decide +kernel
theorem gX7_init_0 {v0 : Nat} {T : zT} {I : zI} {L : zL} {R : zR} {P : zP} (h : (T v0).1 = 7 ∧ zMet mX5_init 1 0 [.ref v0] T I L R (zqV_ T I L R  (P 0 (.int 0) T I L R))) : zAW mX7_init 2 0 0 [(0, .ref v0)] [] T I L R P := by
  refine za_aload_n (pc' := 1) 0 dX7_init_0 rfl rfl rfl ?_
  obtain ⟨ht1, h⟩ := h
  refine za_callIN (κ := v0) (M2 := mX5_init) (d2 := 1) (b2 := 0) (n := 0) (As := []) (st := []) (pc' := 4) (by rw [ht1]; decide) dX7_init_1 rfl (lw_meth q362) rfl q370 q361 q138 rfl hd_X5_init rfl (by decide) (by decide) (Nat.zero_le _) (Or.inl rfl) (Nat.le_of_ble_eq_true rfl) h (zqV__k rfl (fun  h => ?_)) (fun _ _ _ _ _ _ h9 h8 => absurd h8.1 h9) rfl
  exact za_return rfl dX7_init_4 h
theorem sX7_init {d b : Nat} {v0 : Nat} {T : zT} {I : zI} {L : zL} {R : zR} {P : zP} (h : zAW mX7_init d b 0 [(0, .ref v0)] [] T I L R P) : zMet mX7_init d b [.ref v0] T I L R P := zMet_of (by decide +kernel) rfl (Nat.le_of_ble_eq_true rfl) rfl h
/-! TwoTongues$Mirror.isFromRight (I)Z -/
def dkwX7_isFromRight_0 : List UInt8 := [27, 154, 0, 7, 4, 167, 0, 4, 3, 172]
abbrev dktX7_isFromRight_0 : List UInt8 := dkwX7_isFromRight_0 ++ []
theorem dksX7_isFromRight_0 : cX7_isFromRight.data.toList.drop 0 = dktX7_isFromRight_0 := by decide +kernel
theorem dX7_isFromRight_0 : decode cX7_isFromRight 0 = .ok (.iload_n 1, 1) := dk_27 (dk_at dksX7_isFromRight_0 0 rfl rfl)
theorem dX7_isFromRight_1 : decode cX7_isFromRight 1 = .ok (.ifCond .ne 7, 3) := dk_154 0 7 (dk_at dksX7_isFromRight_0 1 rfl rfl)
theorem dX7_isFromRight_4 : decode cX7_isFromRight 4 = .ok (.iconst 1, 1) := dk_4 (dk_at dksX7_isFromRight_0 4 rfl rfl)
theorem dX7_isFromRight_5 : decode cX7_isFromRight 5 = .ok (.goto 4, 3) := dk_167 0 4 (dk_at dksX7_isFromRight_0 5 rfl rfl)
theorem dX7_isFromRight_8 : decode cX7_isFromRight 8 = .ok (.iconst 0, 1) := dk_3 (dk_at dksX7_isFromRight_0 8 rfl rfl)
theorem dX7_isFromRight_9 : decode cX7_isFromRight 9 = .ok (.ireturn, 1) := dk_172 (dk_at dksX7_isFromRight_0 9 rfl rfl)
theorem gX7_isFromRight_0 {v0 : Nat} {v1 : Int32} {T : zT} {I : zI} {L : zL} {R : zR} {P : zP} (h : ((v1 = 0 → P 0 (.int (1 : Int32)) T I L R) ∧ (¬ v1 = 0 → P 0 (.int (0 : Int32)) T I L R))) : zAW mX7_isFromRight 1 0 0 [(0, .ref v0), (1, .int v1)] [] T I L R P := by
  refine za_iload_n (pc' := 1) 1 dX7_isFromRight_0 rfl rfl rfl ?_
  refine za_if_ne (pc' := 4) (tgt := 8) dX7_isFromRight_1 (by decide) rfl (fun c9 => ?_) (fun c9 => ?_)
  · replace h := h.2 c9
    refine za_iconst (pc' := 9) dX7_isFromRight_8 zi_0 rfl ?_
    exact za_zreturn rfl dX7_isFromRight_9 (by decide) h
  · replace h := h.1 c9
    refine za_iconst (pc' := 5) dX7_isFromRight_4 zi_1 rfl ?_
    refine za_goto (tgt := 9) dX7_isFromRight_5 (by decide) ?_
    exact za_zreturn rfl dX7_isFromRight_9 (by decide) h
theorem sX7_isFromRight {d b : Nat} {v0 : Nat} {v1 : Int32} {T : zT} {I : zI} {L : zL} {R : zR} {P : zP} (h : zAW mX7_isFromRight d b 0 [(0, .ref v0), (1, .int v1)] [] T I L R P) : zMet mX7_isFromRight d b [.ref v0, .int v1] T I L R P := zMet_of (by decide +kernel) rfl (Nat.le_of_ble_eq_true rfl) rfl h
/-! TwoTongues$Royal.<init> ()V -/
theorem dX8_init_0 : decode cX8_init 0 = .ok (.aload_n 0, 1) := by decide +kernel
theorem dX8_init_1 : decode cX8_init 1 = .ok (.invokespecial 1, 3) := by decide +kernel
theorem dX8_init_4 : decode cX8_init 4 = .ok (.return_, 1) := by decide +kernel
theorem gX8_init_0 {v0 : Nat} {T : zT} {I : zI} {L : zL} {R : zR} {P : zP} (h : (T v0).1 = 8 ∧ zMet mX5_init 1 0 [.ref v0] T I L R (zqV_ T I L R  (P 0 (.int 0) T I L R))) : zAW mX8_init 2 0 0 [(0, .ref v0)] [] T I L R P := by
  refine za_aload_n (pc' := 1) 0 dX8_init_0 rfl rfl rfl ?_
  obtain ⟨ht1, h⟩ := h
  refine za_callIN (κ := v0) (M2 := mX5_init) (d2 := 1) (b2 := 0) (n := 0) (As := []) (st := []) (pc' := 4) (by rw [ht1]; decide) dX8_init_1 rfl (lw_meth q362) rfl q377 q361 q138 rfl hd_X5_init rfl (by decide) (by decide) (Nat.zero_le _) (Or.inl rfl) (Nat.le_of_ble_eq_true rfl) h (zqV__k rfl (fun  h => ?_)) (fun _ _ _ _ _ _ h9 h8 => absurd h8.1 h9) rfl
  exact za_return rfl dX8_init_4 h
theorem sX8_init {d b : Nat} {v0 : Nat} {T : zT} {I : zI} {L : zL} {R : zR} {P : zP} (h : zAW mX8_init d b 0 [(0, .ref v0)] [] T I L R P) : zMet mX8_init d b [.ref v0] T I L R P := zMet_of (by decide +kernel) rfl (Nat.le_of_ble_eq_true rfl) rfl h
/-! TwoTongues$Royal.isFromRight (I)Z -/
theorem dX8_isFromRight_0 : decode cX8_isFromRight 0 = .ok (.iconst 0, 1) := by decide +kernel
theorem dX8_isFromRight_1 : decode cX8_isFromRight 1 = .ok (.ireturn, 1) := by decide +kernel
theorem gX8_isFromRight_0 {v0 : Nat} {v1 : Int32} {T : zT} {I : zI} {L : zL} {R : zR} {P : zP} (h : P 0 (.int (0 : Int32)) T I L R) : zAW mX8_isFromRight 1 0 0 [(0, .ref v0), (1, .int v1)] [] T I L R P := by
  refine za_iconst (pc' := 1) dX8_isFromRight_0 zi_0 rfl ?_
  exact za_zreturn rfl dX8_isFromRight_1 (by decide) h
theorem sX8_isFromRight {d b : Nat} {v0 : Nat} {v1 : Int32} {T : zT} {I : zI} {L : zL} {R : zR} {P : zP} (h : zAW mX8_isFromRight d b 0 [(0, .ref v0), (1, .int v1)] [] T I L R P) : zMet mX8_isFromRight d b [.ref v0, .int v1] T I L R P := zMet_of (by decide +kernel) rfl (Nat.le_of_ble_eq_true rfl) rfl h
/-! TwoTongues$Blind.<init> ()V -/
theorem dX9_init_0 : decode cX9_init 0 = .ok (.aload_n 0, 1) := by decide +kernel
theorem dX9_init_1 : decode cX9_init 1 = .ok (.invokespecial 1, 3) := by decide +kernel
theorem dX9_init_4 : decode cX9_init 4 = .ok (.return_, 1) := by decide +kernel
theorem gX9_init_0 {v0 : Nat} {T : zT} {I : zI} {L : zL} {R : zR} {P : zP} (h : (T v0).1 = 9 ∧ zMet mX8_init 2 0 [.ref v0] T I L R (zqV_ T I L R  (P 0 (.int 0) T I L R))) : zAW mX9_init 3 0 0 [(0, .ref v0)] [] T I L R P := by
  refine za_aload_n (pc' := 1) 0 dX9_init_0 rfl rfl rfl ?_
  obtain ⟨ht1, h⟩ := h
  refine za_callIN (κ := v0) (M2 := mX8_init) (d2 := 2) (b2 := 0) (n := 0) (As := []) (st := []) (pc' := 4) (by rw [ht1]; decide) dX9_init_1 rfl (lw_meth q376) rfl q384 q375 q141 rfl hd_X8_init rfl (by decide) (by decide) (Nat.zero_le _) (Or.inl rfl) (Nat.le_of_ble_eq_true rfl) h (zqV__k rfl (fun  h => ?_)) (fun _ _ _ _ _ _ h9 h8 => absurd h8.1 h9) rfl
  exact za_return rfl dX9_init_4 h
theorem sX9_init {d b : Nat} {v0 : Nat} {T : zT} {I : zI} {L : zL} {R : zR} {P : zP} (h : zAW mX9_init d b 0 [(0, .ref v0)] [] T I L R P) : zMet mX9_init d b [.ref v0] T I L R P := zMet_of (by decide +kernel) rfl (Nat.le_of_ble_eq_true rfl) rfl h
/-! TwoTongues$Blind.isFromRight (I)Z -/
def dkwX9_isFromRight_0 : List UInt8 := [42, 27, 183, 0, 7, 154, 0, 7, 4, 167, 0, 4, 3, 172]
abbrev dktX9_isFromRight_0 : List UInt8 := dkwX9_isFromRight_0 ++ []
theorem dksX9_isFromRight_0 : cX9_isFromRight.data.toList.drop 0 = dktX9_isFromRight_0 := by decide +kernel
theorem dX9_isFromRight_0 : decode cX9_isFromRight 0 = .ok (.aload_n 0, 1) := dk_42 (dk_at dksX9_isFromRight_0 0 rfl rfl)
theorem dX9_isFromRight_1 : decode cX9_isFromRight 1 = .ok (.iload_n 1, 1) := dk_27 (dk_at dksX9_isFromRight_0 1 rfl rfl)
theorem dX9_isFromRight_2 : decode cX9_isFromRight 2 = .ok (.invokespecial 7, 3) := dk_183 0 7 (dk_at dksX9_isFromRight_0 2 rfl rfl)
theorem dX9_isFromRight_5 : decode cX9_isFromRight 5 = .ok (.ifCond .ne 7, 3) := dk_154 0 7 (dk_at dksX9_isFromRight_0 5 rfl rfl)
theorem dX9_isFromRight_8 : decode cX9_isFromRight 8 = .ok (.iconst 1, 1) := dk_4 (dk_at dksX9_isFromRight_0 8 rfl rfl)
theorem dX9_isFromRight_9 : decode cX9_isFromRight 9 = .ok (.goto 4, 3) := dk_167 0 4 (dk_at dksX9_isFromRight_0 9 rfl rfl)
theorem dX9_isFromRight_12 : decode cX9_isFromRight 12 = .ok (.iconst 0, 1) := dk_3 (dk_at dksX9_isFromRight_0 12 rfl rfl)
theorem dX9_isFromRight_13 : decode cX9_isFromRight 13 = .ok (.ireturn, 1) := dk_172 (dk_at dksX9_isFromRight_0 13 rfl rfl)
theorem gX9_isFromRight_0 {v0 : Nat} {v1 : Int32} {T : zT} {I : zI} {L : zL} {R : zR} {P : zP} (h : (T v0).1 = 9 ∧ zMet mX8_isFromRight 1 0 [.ref v0, .int v1] T I L R (zqI_ T I L R  (fun (r1 : Int32)  => ((r1 = 0 → P 0 (.int (1 : Int32)) T I L R) ∧ (¬ r1 = 0 → P 0 (.int (0 : Int32)) T I L R))))) : zAW mX9_isFromRight 2 0 0 [(0, .ref v0), (1, .int v1)] [] T I L R P := by
  refine za_aload_n (pc' := 1) 0 dX9_isFromRight_0 rfl rfl rfl ?_
  refine za_iload_n (pc' := 2) 1 dX9_isFromRight_1 rfl rfl rfl ?_
  obtain ⟨ht2, h⟩ := h
  refine za_callSU (κ := v0) (M2 := mX8_isFromRight) (d2 := 1) (b2 := 0) (n := 1) (As := [.int v1]) (st := []) (pc' := 5) zc8 (by decide) ht2 dX9_isFromRight_2 rfl (lw_SU q1099 q2259 q385 q1100 q141 q1101) hdn_X8_isFromRight rfl (by decide) (by decide) (Nat.zero_le _) (Or.inl rfl) (Nat.le_of_ble_eq_true rfl) h (zqI__k rfl (fun r1 h => ?_)) (fun _ _ _ _ _ _ h9 h8 => absurd h8.1 h9) rfl
  refine za_if_ne (pc' := 8) (tgt := 12) dX9_isFromRight_5 (by decide) rfl (fun c9 => ?_) (fun c9 => ?_)
  · replace h := h.2 c9
    refine za_iconst (pc' := 13) dX9_isFromRight_12 zi_0 rfl ?_
    exact za_zreturn rfl dX9_isFromRight_13 (by decide) h
  · replace h := h.1 c9
    refine za_iconst (pc' := 9) dX9_isFromRight_8 zi_1 rfl ?_
    refine za_goto (tgt := 13) dX9_isFromRight_9 (by decide) ?_
    exact za_zreturn rfl dX9_isFromRight_13 (by decide) h
theorem sX9_isFromRight {d b : Nat} {v0 : Nat} {v1 : Int32} {T : zT} {I : zI} {L : zL} {R : zR} {P : zP} (h : zAW mX9_isFromRight d b 0 [(0, .ref v0), (1, .int v1)] [] T I L R P) : zMet mX9_isFromRight d b [.ref v0, .int v1] T I L R P := zMet_of (by decide +kernel) rfl (Nat.le_of_ble_eq_true rfl) rfl h
/-! TwoTongues$Sign.<init> (II)V -/
def dkwX15_init_1 : List UInt8 := [181, 0, 20, 177]
abbrev dktX15_init_1 : List UInt8 := dkwX15_init_1 ++ []
def dkwX15_init_0 : List UInt8 := [42, 183, 0, 1, 42, 187, 0, 7, 89, 183, 0, 9, 181, 0, 10, 42, 27, 181, 0, 16, 42, 28]
abbrev dktX15_init_0 : List UInt8 := dkwX15_init_0 ++ dktX15_init_1
theorem dksX15_init_0 : cX15_init.data.toList.drop 0 = dktX15_init_0 := by decide +kernel
theorem dksX15_init_1 : cX15_init.data.toList.drop 22 = dktX15_init_1 := dk_seg dksX15_init_0 22 rfl rfl
theorem dX15_init_0 : decode cX15_init 0 = .ok (.aload_n 0, 1) := dk_42 (dk_at dksX15_init_0 0 rfl rfl)
theorem dX15_init_1 : decode cX15_init 1 = .ok (.invokespecial 1, 3) := dk_183 0 1 (dk_at dksX15_init_0 1 rfl rfl)
theorem dX15_init_4 : decode cX15_init 4 = .ok (.aload_n 0, 1) := dk_42 (dk_at dksX15_init_0 4 rfl rfl)
theorem dX15_init_5 : decode cX15_init 5 = .ok (.new 7, 3) := dk_187 0 7 (dk_at dksX15_init_0 5 rfl rfl)
theorem dX15_init_8 : decode cX15_init 8 = .ok (.dup, 1) := dk_89 (dk_at dksX15_init_0 8 rfl rfl)
theorem dX15_init_9 : decode cX15_init 9 = .ok (.invokespecial 9, 3) := dk_183 0 9 (dk_at dksX15_init_0 9 rfl rfl)
theorem dX15_init_12 : decode cX15_init 12 = .ok (.putfield 10, 3) := dk_181 0 10 (dk_at dksX15_init_0 12 rfl rfl)
theorem dX15_init_15 : decode cX15_init 15 = .ok (.aload_n 0, 1) := dk_42 (dk_at dksX15_init_0 15 rfl rfl)
theorem dX15_init_16 : decode cX15_init 16 = .ok (.iload_n 1, 1) := dk_27 (dk_at dksX15_init_0 16 rfl rfl)
theorem dX15_init_17 : decode cX15_init 17 = .ok (.putfield 16, 3) := dk_181 0 16 (dk_at dksX15_init_0 17 rfl rfl)
theorem dX15_init_20 : decode cX15_init 20 = .ok (.aload_n 0, 1) := dk_42 (dk_at dksX15_init_0 20 rfl rfl)
theorem dX15_init_21 : decode cX15_init 21 = .ok (.iload_n 2, 1) := dk_28 (dk_at dksX15_init_0 21 rfl rfl)
theorem dX15_init_22 : decode cX15_init 22 = .ok (.putfield 20, 3) := dk_181 0 20 (dk_at dksX15_init_1 0 rfl rfl)
theorem dX15_init_25 : decode cX15_init 25 = .ok (.return_, 1) := dk_177 (dk_at dksX15_init_1 3 rfl rfl)
theorem gX15_init_0 {b : Nat} {v0 : Nat} {v1 : Int32} {v2 : Int32} {T : zT} {I : zI} {L : zL} {R : zR} {P : zP} (h : (T v0).1 = 15 ∧ ∃ κ2, 100 ≤ κ2 ∧ (T κ2).1 = 0 ∧ 2 + 1 ≤ b ∧ ∃ b10, b10 ≤ (b - (2 + 1)) ∧ zMet mX11_init 1 b10 [.ref κ2] (z1 T κ2 (11, 0)) (z1 I κ2 fun _ => 0) (z1 L κ2 fun _ => 0) (z1 R κ2 fun _ => 0) (zqV_TILR   (fun (T6 : zT) (I7 : zI) (L8 : zL) (R9 : zR)  => (T6 v0).1 = 15 ∧ P 0 (.int 0) T6 (z2 (z2 I7 v0 0 v1) v0 1 v2) L8 (z2 R9 v0 2 κ2)))) : zAW mX15_init 2 b 0 [(0, .ref v0), (1, .int v1), (2, .int v2)] [] T I L R P := by
  obtain ⟨ht1, h⟩ := h
  refine za_aload_n (pc' := 1) 0 dX15_init_0 rfl rfl rfl ?_
  refine za_objInit (pc' := 4) dX15_init_1 q853 (by decide) (by rw [ht1]; decide) (Nat.le_of_ble_eq_true rfl) rfl ?_
  refine za_aload_n (pc' := 5) 0 dX15_init_4 rfl rfl rfl ?_
  obtain ⟨κ2, hk3, hf4, hb5, h⟩ := h
  refine za_new (κ := κ2) (pc' := 8) dX15_init_5 zc10 (by decide) in_X11 zok10 zdf10 q854 q397 q144 hk3 hf4 hb5 rfl ?_
  refine za_dup (pc' := 9) dX15_init_8 rfl rfl ?_
  obtain ⟨b10, hb11, h⟩ := h
  refine za_callIN (κ := κ2) (M2 := mX11_init) (d2 := 1) (b2 := b10) (n := 0) (As := []) (st := [.ref κ2, .ref v0]) (pc' := 12) (by rw [(congrArg Prod.fst z1_s)]; decide) dX15_init_9 rfl (lw_meth q400) rfl q855 q399 q144 rfl hd_X11_init rfl (by decide) (by decide) hb11 (Or.inl rfl) (Nat.le_of_ble_eq_true rfl) h (zqV_TILR_k rfl (fun T6 I7 L8 R9 h => ?_)) (fun _ _ _ _ _ _ h9 h8 => absurd h8.1 h9) rfl
  obtain ⟨ht12, h⟩ := h
  refine za_putFR (fi := 2) (pc' := 15) dX15_init_12 zc14 (by decide) in_X15 zok14 znm14 (by decide) q860 (Or.inl rfl) rfl rfl rfl rfl (fun _ _ _ => rfl) ht12 rfl ?_
  refine za_aload_n (pc' := 16) 0 dX15_init_15 rfl rfl rfl ?_
  refine za_iload_n (pc' := 17) 1 dX15_init_16 rfl rfl rfl ?_
  refine za_putFI (fi := 0) (pc' := 20) dX15_init_17 zc14 (by decide) in_X15 zok14 znm14 (by decide) q856 (Or.inl rfl) rfl rfl rfl rfl (fun _ _ _ => rfl) rfl rfl ht12 rfl ?_
  refine za_aload_n (pc' := 21) 0 dX15_init_20 rfl rfl rfl ?_
  refine za_iload_n (pc' := 22) 2 dX15_init_21 rfl rfl rfl ?_
  refine za_putFI (fi := 1) (pc' := 25) dX15_init_22 zc14 (by decide) in_X15 zok14 znm14 (by decide) q858 (Or.inl rfl) rfl rfl rfl rfl (fun _ _ _ => rfl) rfl rfl ht12 rfl ?_
  exact za_return rfl dX15_init_25 h
theorem sX15_init {d b : Nat} {v0 : Nat} {v1 : Int32} {v2 : Int32} {T : zT} {I : zI} {L : zL} {R : zR} {P : zP} (h : zAW mX15_init d b 0 [(0, .ref v0), (1, .int v1), (2, .int v2)] [] T I L R P) : zMet mX15_init d b [.ref v0, .int v1, .int v2] T I L R P := zMet_of (by decide +kernel) rfl (Nat.le_of_ble_eq_true rfl) rfl h
/-! TwoTongues$Fault.<init> (II)V -/
def dkwX14_init_0 : List UInt8 := [42, 1, 1, 3, 3, 183, 0, 1, 42, 27, 181, 0, 7, 42, 28, 181, 0, 13, 177]
abbrev dktX14_init_0 : List UInt8 := dkwX14_init_0 ++ []
theorem dksX14_init_0 : cX14_init.data.toList.drop 0 = dktX14_init_0 := by decide +kernel
theorem dX14_init_0 : decode cX14_init 0 = .ok (.aload_n 0, 1) := dk_42 (dk_at dksX14_init_0 0 rfl rfl)
theorem dX14_init_1 : decode cX14_init 1 = .ok (.aconst_null, 1) := dk_1 (dk_at dksX14_init_0 1 rfl rfl)
theorem dX14_init_2 : decode cX14_init 2 = .ok (.aconst_null, 1) := dk_1 (dk_at dksX14_init_0 2 rfl rfl)
theorem dX14_init_3 : decode cX14_init 3 = .ok (.iconst 0, 1) := dk_3 (dk_at dksX14_init_0 3 rfl rfl)
theorem dX14_init_4 : decode cX14_init 4 = .ok (.iconst 0, 1) := dk_3 (dk_at dksX14_init_0 4 rfl rfl)
theorem dX14_init_5 : decode cX14_init 5 = .ok (.invokespecial 1, 3) := dk_183 0 1 (dk_at dksX14_init_0 5 rfl rfl)
theorem dX14_init_8 : decode cX14_init 8 = .ok (.aload_n 0, 1) := dk_42 (dk_at dksX14_init_0 8 rfl rfl)
theorem dX14_init_9 : decode cX14_init 9 = .ok (.iload_n 1, 1) := dk_27 (dk_at dksX14_init_0 9 rfl rfl)
theorem dX14_init_10 : decode cX14_init 10 = .ok (.putfield 7, 3) := dk_181 0 7 (dk_at dksX14_init_0 10 rfl rfl)
theorem dX14_init_13 : decode cX14_init 13 = .ok (.aload_n 0, 1) := dk_42 (dk_at dksX14_init_0 13 rfl rfl)
theorem dX14_init_14 : decode cX14_init 14 = .ok (.iload_n 2, 1) := dk_28 (dk_at dksX14_init_0 14 rfl rfl)
theorem dX14_init_15 : decode cX14_init 15 = .ok (.putfield 13, 3) := dk_181 0 13 (dk_at dksX14_init_0 15 rfl rfl)
theorem dX14_init_18 : decode cX14_init 18 = .ok (.return_, 1) := dk_177 (dk_at dksX14_init_0 18 rfl rfl)
theorem gX14_init_0 {v0 : Nat} {v1 : Int32} {v2 : Int32} {T : zT} {I : zI} {L : zL} {R : zR} {P : zP} (h : (T v0).1 = 14 ∧ zMet mJ11_init 2 0 [.ref v0, .ref 0, .ref 0, .int (0 : Int32), .int (0 : Int32)] T I L R (zqV_R T I L  (fun (R1 : zR)  => P 0 (.int 0) T (z2 (z2 I v0 6 v1) v0 7 v2) L R1))) : zAW mX14_init 3 0 0 [(0, .ref v0), (1, .int v1), (2, .int v2)] [] T I L R P := by
  refine za_aload_n (pc' := 1) 0 dX14_init_0 rfl rfl rfl ?_
  refine za_null (pc' := 2) dX14_init_1 rfl ?_
  refine za_null (pc' := 3) dX14_init_2 rfl ?_
  refine za_iconst (pc' := 4) dX14_init_3 zi_0 rfl ?_
  refine za_iconst (pc' := 5) dX14_init_4 zi_0 rfl ?_
  obtain ⟨ht2, h⟩ := h
  refine za_callI (κ := v0) (M2 := mJ11_init) (d2 := 2) (b2 := 0) (n := 4) (As := [.ref 0, .ref 0, .int (0 : Int32), .int (0 : Int32)]) (st := []) (pc' := 8) (by rw [ht2]; decide) dX14_init_5 rfl (lw_meth q789) rfl q787 q788 q155 rfl hd_J11_init rfl (by decide) (by decide) (Nat.zero_le _) (Or.inl rfl) (Nat.le_of_ble_eq_true rfl) h (zqV_R_k rfl (fun R1 h => ?_)) (fun _ _ _ _ _ _ h9 h8 => absurd h8.1 h9) rfl
  refine za_aload_n (pc' := 9) 0 dX14_init_8 rfl rfl rfl ?_
  refine za_iload_n (pc' := 10) 1 dX14_init_9 rfl rfl rfl ?_
  refine za_putFI (fi := 6) (pc' := 13) dX14_init_10 zc13 (by decide) in_X14 zok13 znm13 (by decide) q793 (Or.inl rfl) rfl rfl rfl rfl (fun _ _ _ => rfl) rfl rfl ht2 rfl ?_
  refine za_aload_n (pc' := 14) 0 dX14_init_13 rfl rfl rfl ?_
  refine za_iload_n (pc' := 15) 2 dX14_init_14 rfl rfl rfl ?_
  refine za_putFI (fi := 7) (pc' := 18) dX14_init_15 zc13 (by decide) in_X14 zok13 znm13 (by decide) q795 (Or.inl rfl) rfl rfl rfl rfl (fun _ _ _ => rfl) rfl rfl ht2 rfl ?_
  exact za_return rfl dX14_init_18 h
theorem sX14_init {d b : Nat} {v0 : Nat} {v1 : Int32} {v2 : Int32} {T : zT} {I : zI} {L : zL} {R : zR} {P : zP} (h : zAW mX14_init d b 0 [(0, .ref v0), (1, .int v1), (2, .int v2)] [] T I L R P) : zMet mX14_init d b [.ref v0, .int v1, .int v2] T I L R P := zMet_of (by decide +kernel) rfl (Nat.le_of_ble_eq_true rfl) rfl h
/-! TwoTongues$Part.<init> ()V -/
theorem dX16_init_0 : decode cX16_init 0 = .ok (.aload_n 0, 1) := by decide +kernel
theorem dX16_init_1 : decode cX16_init 1 = .ok (.invokespecial 1, 3) := by decide +kernel
theorem dX16_init_4 : decode cX16_init 4 = .ok (.return_, 1) := by decide +kernel
theorem gX16_init_0 {v0 : Nat} {T : zT} {I : zI} {L : zL} {R : zR} {P : zP} (h : (T v0).1 ≠ 0 ∧ P 0 (.int 0) T I L R) : zAW mX16_init 1 0 0 [(0, .ref v0)] [] T I L R P := by
  refine za_aload_n (pc' := 1) 0 dX16_init_0 rfl rfl rfl ?_
  obtain ⟨ht1, h⟩ := h
  refine za_objInit (pc' := 4) dX16_init_1 q1007 (by decide) (ht1) (Nat.le_of_ble_eq_true rfl) rfl ?_
  exact za_return rfl dX16_init_4 h
theorem sX16_init {d b : Nat} {v0 : Nat} {T : zT} {I : zI} {L : zL} {R : zR} {P : zP} (h : zAW mX16_init d b 0 [(0, .ref v0)] [] T I L R P) : zMet mX16_init d b [.ref v0] T I L R P := zMet_of (by decide +kernel) rfl (Nat.le_of_ble_eq_true rfl) rfl h
/-! TwoTongues$Number.<init> (I)V -/
def dkwX17_init_0 : List UInt8 := [42, 183, 0, 1, 42, 27, 181, 0, 7, 177]
abbrev dktX17_init_0 : List UInt8 := dkwX17_init_0 ++ []
theorem dksX17_init_0 : cX17_init.data.toList.drop 0 = dktX17_init_0 := by decide +kernel
theorem dX17_init_0 : decode cX17_init 0 = .ok (.aload_n 0, 1) := dk_42 (dk_at dksX17_init_0 0 rfl rfl)
theorem dX17_init_1 : decode cX17_init 1 = .ok (.invokespecial 1, 3) := dk_183 0 1 (dk_at dksX17_init_0 1 rfl rfl)
theorem dX17_init_4 : decode cX17_init 4 = .ok (.aload_n 0, 1) := dk_42 (dk_at dksX17_init_0 4 rfl rfl)
theorem dX17_init_5 : decode cX17_init 5 = .ok (.iload_n 1, 1) := dk_27 (dk_at dksX17_init_0 5 rfl rfl)
theorem dX17_init_6 : decode cX17_init 6 = .ok (.putfield 7, 3) := dk_181 0 7 (dk_at dksX17_init_0 6 rfl rfl)
theorem dX17_init_9 : decode cX17_init 9 = .ok (.return_, 1) := dk_177 (dk_at dksX17_init_0 9 rfl rfl)
theorem gX17_init_0 {v0 : Nat} {v1 : Int32} {T : zT} {I : zI} {L : zL} {R : zR} {P : zP} (h : (T v0).1 = 16 ∧ zMet mX16_init 1 0 [.ref v0] T I L R (zqV_ T I L R  (P 0 (.int 0) T (z2 I v0 0 v1) L R))) : zAW mX17_init 2 0 0 [(0, .ref v0), (1, .int v1)] [] T I L R P := by
  refine za_aload_n (pc' := 1) 0 dX17_init_0 rfl rfl rfl ?_
  obtain ⟨ht1, h⟩ := h
  refine za_callIN (κ := v0) (M2 := mX16_init) (d2 := 1) (b2 := 0) (n := 0) (As := []) (st := []) (pc' := 4) (by rw [ht1]; decide) dX17_init_1 rfl (lw_meth q1006) rfl q1004 q1005 q161 rfl hd_X16_init rfl (by decide) (by decide) (Nat.zero_le _) (Or.inl rfl) (Nat.le_of_ble_eq_true rfl) h (zqV__k rfl (fun  h => ?_)) (fun _ _ _ _ _ _ h9 h8 => absurd h8.1 h9) rfl
  refine za_aload_n (pc' := 5) 0 dX17_init_4 rfl rfl rfl ?_
  refine za_iload_n (pc' := 6) 1 dX17_init_5 rfl rfl rfl ?_
  refine za_putFI (fi := 0) (pc' := 9) dX17_init_6 zc15 (by decide) in_X17 zok15 znm15 (by decide) q1008 (Or.inl rfl) rfl rfl rfl rfl (fun _ _ _ => rfl) rfl rfl ht1 rfl ?_
  exact za_return rfl dX17_init_9 h
theorem sX17_init {d b : Nat} {v0 : Nat} {v1 : Int32} {T : zT} {I : zI} {L : zL} {R : zR} {P : zP} (h : zAW mX17_init d b 0 [(0, .ref v0), (1, .int v1)] [] T I L R P) : zMet mX17_init d b [.ref v0, .int v1] T I L R P := zMet_of (by decide +kernel) rfl (Nat.le_of_ble_eq_true rfl) rfl h
/-! TwoTongues$Number.of ([J)J -/
def dkwX17_of_0 : List UInt8 := [42, 180, 0, 7, 133, 173]
abbrev dktX17_of_0 : List UInt8 := dkwX17_of_0 ++ []
theorem dksX17_of_0 : cX17_of.data.toList.drop 0 = dktX17_of_0 := by decide +kernel
theorem dX17_of_0 : decode cX17_of 0 = .ok (.aload_n 0, 1) := dk_42 (dk_at dksX17_of_0 0 rfl rfl)
theorem dX17_of_1 : decode cX17_of 1 = .ok (.getfield 7, 3) := dk_180 0 7 (dk_at dksX17_of_0 1 rfl rfl)
theorem dX17_of_4 : decode cX17_of 4 = .ok (.i2l, 1) := dk_133 (dk_at dksX17_of_0 4 rfl rfl)
theorem dX17_of_5 : decode cX17_of 5 = .ok (.lreturn, 1) := dk_173 (dk_at dksX17_of_0 5 rfl rfl)
theorem gX17_of_0 {v0 : Nat} {v1 : Nat} {T : zT} {I : zI} {L : zL} {R : zR} {P : zP} (h : (T v0).1 = 16 ∧ P 0 (.long ((I v0 0).toInt64)) T I L R) : zAW mX17_of 1 0 0 [(0, .ref v0), (1, .ref v1)] [] T I L R P := by
  refine za_aload_n (pc' := 1) 0 dX17_of_0 rfl rfl rfl ?_
  obtain ⟨ht1, h⟩ := h
  refine za_get (fi := 0) (v := .int (I v0 0)) (pc' := 4) dX17_of_1 zc15 (by decide) in_X17 (by decide) q1008 (Or.inl rfl) ht1 rfl rfl ?_
  refine za_i2l (pc' := 5) dX17_of_4 rfl rfl ?_
  exact za_lreturn rfl dX17_of_5 h
theorem sX17_of {d b : Nat} {v0 : Nat} {v1 : Nat} {T : zT} {I : zI} {L : zL} {R : zR} {P : zP} (h : zAW mX17_of d b 0 [(0, .ref v0), (1, .ref v1)] [] T I L R P) : zMet mX17_of d b [.ref v0, .ref v1] T I L R P := zMet_of (by decide +kernel) rfl (Nat.le_of_ble_eq_true rfl) rfl h
/-! TwoTongues$Name.<init> (I)V -/
def dkwX18_init_0 : List UInt8 := [42, 183, 0, 1, 42, 27, 181, 0, 7, 177]
abbrev dktX18_init_0 : List UInt8 := dkwX18_init_0 ++ []
theorem dksX18_init_0 : cX18_init.data.toList.drop 0 = dktX18_init_0 := by decide +kernel
theorem dX18_init_0 : decode cX18_init 0 = .ok (.aload_n 0, 1) := dk_42 (dk_at dksX18_init_0 0 rfl rfl)
theorem dX18_init_1 : decode cX18_init 1 = .ok (.invokespecial 1, 3) := dk_183 0 1 (dk_at dksX18_init_0 1 rfl rfl)
theorem dX18_init_4 : decode cX18_init 4 = .ok (.aload_n 0, 1) := dk_42 (dk_at dksX18_init_0 4 rfl rfl)
theorem dX18_init_5 : decode cX18_init 5 = .ok (.iload_n 1, 1) := dk_27 (dk_at dksX18_init_0 5 rfl rfl)
theorem dX18_init_6 : decode cX18_init 6 = .ok (.putfield 7, 3) := dk_181 0 7 (dk_at dksX18_init_0 6 rfl rfl)
theorem dX18_init_9 : decode cX18_init 9 = .ok (.return_, 1) := dk_177 (dk_at dksX18_init_0 9 rfl rfl)
theorem gX18_init_0 {v0 : Nat} {v1 : Int32} {T : zT} {I : zI} {L : zL} {R : zR} {P : zP} (h : (T v0).1 = 17 ∧ zMet mX16_init 1 0 [.ref v0] T I L R (zqV_ T I L R  (P 0 (.int 0) T (z2 I v0 0 v1) L R))) : zAW mX18_init 2 0 0 [(0, .ref v0), (1, .int v1)] [] T I L R P := by
  refine za_aload_n (pc' := 1) 0 dX18_init_0 rfl rfl rfl ?_
  obtain ⟨ht1, h⟩ := h
  refine za_callIN (κ := v0) (M2 := mX16_init) (d2 := 1) (b2 := 0) (n := 0) (As := []) (st := []) (pc' := 4) (by rw [ht1]; decide) dX18_init_1 rfl (lw_meth q1006) rfl q1017 q1005 q161 rfl hd_X16_init rfl (by decide) (by decide) (Nat.zero_le _) (Or.inl rfl) (Nat.le_of_ble_eq_true rfl) h (zqV__k rfl (fun  h => ?_)) (fun _ _ _ _ _ _ h9 h8 => absurd h8.1 h9) rfl
  refine za_aload_n (pc' := 5) 0 dX18_init_4 rfl rfl rfl ?_
  refine za_iload_n (pc' := 6) 1 dX18_init_5 rfl rfl rfl ?_
  refine za_putFI (fi := 0) (pc' := 9) dX18_init_6 zc16 (by decide) in_X18 zok16 znm16 (by decide) q1018 (Or.inl rfl) rfl rfl rfl rfl (fun _ _ _ => rfl) rfl rfl ht1 rfl ?_
  exact za_return rfl dX18_init_9 h
theorem sX18_init {d b : Nat} {v0 : Nat} {v1 : Int32} {T : zT} {I : zI} {L : zL} {R : zR} {P : zP} (h : zAW mX18_init d b 0 [(0, .ref v0), (1, .int v1)] [] T I L R P) : zMet mX18_init d b [.ref v0, .int v1] T I L R P := zMet_of (by decide +kernel) rfl (Nat.le_of_ble_eq_true rfl) rfl h
/-! TwoTongues$Name.of ([J)J -/
def dkwX18_of_0 : List UInt8 := [43, 42, 180, 0, 7, 47, 173]
abbrev dktX18_of_0 : List UInt8 := dkwX18_of_0 ++ []
theorem dksX18_of_0 : cX18_of.data.toList.drop 0 = dktX18_of_0 := by decide +kernel
theorem dX18_of_0 : decode cX18_of 0 = .ok (.aload_n 1, 1) := dk_43 (dk_at dksX18_of_0 0 rfl rfl)
theorem dX18_of_1 : decode cX18_of 1 = .ok (.aload_n 0, 1) := dk_42 (dk_at dksX18_of_0 1 rfl rfl)
theorem dX18_of_2 : decode cX18_of 2 = .ok (.getfield 7, 3) := dk_180 0 7 (dk_at dksX18_of_0 2 rfl rfl)
theorem dX18_of_5 : decode cX18_of 5 = .ok (.laload, 1) := dk_47 (dk_at dksX18_of_0 5 rfl rfl)
theorem dX18_of_6 : decode cX18_of 6 = .ok (.lreturn, 1) := dk_173 (dk_at dksX18_of_0 6 rfl rfl)
theorem gX18_of_0 {v0 : Nat} {v1 : Nat} {T : zT} {I : zI} {L : zL} {R : zR} {P : zP} (h : (T v0).1 = 17 ∧ (T v1).1 = 101 ∧ vp_in (I v0 0) ((T v1).2) ∧ P 0 (.long (L v1 ((I v0 0).toNatClampNeg))) T I L R) : zAW mX18_of 1 0 0 [(0, .ref v0), (1, .ref v1)] [] T I L R P := by
  refine za_aload_n (pc' := 1) 1 dX18_of_0 rfl rfl rfl ?_
  refine za_aload_n (pc' := 2) 0 dX18_of_1 rfl rfl rfl ?_
  obtain ⟨ht1, h⟩ := h
  refine za_get (fi := 0) (v := .int (I v0 0)) (pc' := 5) dX18_of_2 zc16 (by decide) in_X18 (by decide) q1018 (Or.inl rfl) ht1 rfl rfl ?_
  obtain ⟨ht2, h⟩ := h
  obtain ⟨hi3, h⟩ := h
  refine za_lald (v := .long (L v1 ((I v0 0).toNatClampNeg))) (pc' := 6) dX18_of_5 (zpair ht2) hi3 rfl rfl ?_
  exact za_lreturn rfl dX18_of_6 h
theorem sX18_of {d b : Nat} {v0 : Nat} {v1 : Nat} {T : zT} {I : zI} {L : zL} {R : zR} {P : zP} (h : zAW mX18_of d b 0 [(0, .ref v0), (1, .ref v1)] [] T I L R P) : zMet mX18_of d b [.ref v0, .ref v1] T I L R P := zMet_of (by decide +kernel) rfl (Nat.le_of_ble_eq_true rfl) rfl h
/-! TwoTongues$Not.<init> (LTwoTongues$Part;)V -/
def dkwX19_init_0 : List UInt8 := [42, 183, 0, 1, 42, 43, 181, 0, 7, 177]
abbrev dktX19_init_0 : List UInt8 := dkwX19_init_0 ++ []
theorem dksX19_init_0 : cX19_init.data.toList.drop 0 = dktX19_init_0 := by decide +kernel
theorem dX19_init_0 : decode cX19_init 0 = .ok (.aload_n 0, 1) := dk_42 (dk_at dksX19_init_0 0 rfl rfl)
theorem dX19_init_1 : decode cX19_init 1 = .ok (.invokespecial 1, 3) := dk_183 0 1 (dk_at dksX19_init_0 1 rfl rfl)
theorem dX19_init_4 : decode cX19_init 4 = .ok (.aload_n 0, 1) := dk_42 (dk_at dksX19_init_0 4 rfl rfl)
theorem dX19_init_5 : decode cX19_init 5 = .ok (.aload_n 1, 1) := dk_43 (dk_at dksX19_init_0 5 rfl rfl)
theorem dX19_init_6 : decode cX19_init 6 = .ok (.putfield 7, 3) := dk_181 0 7 (dk_at dksX19_init_0 6 rfl rfl)
theorem dX19_init_9 : decode cX19_init 9 = .ok (.return_, 1) := dk_177 (dk_at dksX19_init_0 9 rfl rfl)
theorem gX19_init_0 {v0 : Nat} {v1 : Nat} {T : zT} {I : zI} {L : zL} {R : zR} {P : zP} (h : (T v0).1 = 18 ∧ zMet mX16_init 1 0 [.ref v0] T I L R (zqV_ T I L R  (P 0 (.int 0) T I L (z2 R v0 0 v1)))) : zAW mX19_init 2 0 0 [(0, .ref v0), (1, .ref v1)] [] T I L R P := by
  refine za_aload_n (pc' := 1) 0 dX19_init_0 rfl rfl rfl ?_
  obtain ⟨ht1, h⟩ := h
  refine za_callIN (κ := v0) (M2 := mX16_init) (d2 := 1) (b2 := 0) (n := 0) (As := []) (st := []) (pc' := 4) (by rw [ht1]; decide) dX19_init_1 rfl (lw_meth q1006) rfl q1030 q1005 q161 rfl hd_X16_init rfl (by decide) (by decide) (Nat.zero_le _) (Or.inl rfl) (Nat.le_of_ble_eq_true rfl) h (zqV__k rfl (fun  h => ?_)) (fun _ _ _ _ _ _ h9 h8 => absurd h8.1 h9) rfl
  refine za_aload_n (pc' := 5) 0 dX19_init_4 rfl rfl rfl ?_
  refine za_aload_n (pc' := 6) 1 dX19_init_5 rfl rfl rfl ?_
  refine za_putFR (fi := 0) (pc' := 9) dX19_init_6 zc17 (by decide) in_X19 zok17 znm17 (by decide) q1033 (Or.inl rfl) rfl rfl rfl rfl (fun _ _ _ => rfl) ht1 rfl ?_
  exact za_return rfl dX19_init_9 h
theorem sX19_init {d b : Nat} {v0 : Nat} {v1 : Nat} {T : zT} {I : zI} {L : zL} {R : zR} {P : zP} (h : zAW mX19_init d b 0 [(0, .ref v0), (1, .ref v1)] [] T I L R P) : zMet mX19_init d b [.ref v0, .ref v1] T I L R P := zMet_of (by decide +kernel) rfl (Nat.le_of_ble_eq_true rfl) rfl h
theorem gX19_initB_0 {v0 : Nat} {v1 : Nat} {T : zT} {I : zI} {L : zL} {R : zR} {P : zP} (h : (T v0).1 = 19 ∧ zMet mX16_init 1 0 [.ref v0] T I L R (zqV_ T I L R  (P 0 (.int 0) T I L (z2 R v0 0 v1)))) : zAW mX19_init 2 0 0 [(0, .ref v0), (1, .ref v1)] [] T I L R P := by
  refine za_aload_n (pc' := 1) 0 dX19_init_0 rfl rfl rfl ?_
  obtain ⟨ht1, h⟩ := h
  refine za_callIN (κ := v0) (M2 := mX16_init) (d2 := 1) (b2 := 0) (n := 0) (As := []) (st := []) (pc' := 4) (by rw [ht1]; decide) dX19_init_1 rfl (lw_meth q1006) rfl q1030 q1005 q161 rfl hd_X16_init rfl (by decide) (by decide) (Nat.zero_le _) (Or.inl rfl) (Nat.le_of_ble_eq_true rfl) h (zqV__k rfl (fun  h => ?_)) (fun _ _ _ _ _ _ h9 h8 => absurd h8.1 h9) rfl
  refine za_aload_n (pc' := 5) 0 dX19_init_4 rfl rfl rfl ?_
  refine za_aload_n (pc' := 6) 1 dX19_init_5 rfl rfl rfl ?_
  refine za_putFR (fi := 0) (pc' := 9) dX19_init_6 zc18 (by decide) in_X20 zok18 znm18 (by decide) q1033 (Or.inl rfl) rfl rfl rfl rfl (fun _ _ _ => rfl) ht1 rfl ?_
  exact za_return rfl dX19_init_9 h
/-! TwoTongues$Not.of ([J)J -/
def dkwX19_of_0 : List UInt8 := [42, 180, 0, 7, 43, 182, 0, 13, 9, 148, 154, 0, 7, 10, 167, 0, 4, 9, 173]
abbrev dktX19_of_0 : List UInt8 := dkwX19_of_0 ++ []
theorem dksX19_of_0 : cX19_of.data.toList.drop 0 = dktX19_of_0 := by decide +kernel
theorem dX19_of_0 : decode cX19_of 0 = .ok (.aload_n 0, 1) := dk_42 (dk_at dksX19_of_0 0 rfl rfl)
theorem dX19_of_1 : decode cX19_of 1 = .ok (.getfield 7, 3) := dk_180 0 7 (dk_at dksX19_of_0 1 rfl rfl)
theorem dX19_of_4 : decode cX19_of 4 = .ok (.aload_n 1, 1) := dk_43 (dk_at dksX19_of_0 4 rfl rfl)
theorem dX19_of_5 : decode cX19_of 5 = .ok (.invokevirtual 13, 3) := dk_182 0 13 (dk_at dksX19_of_0 5 rfl rfl)
theorem dX19_of_8 : decode cX19_of 8 = .ok (.lconst 0, 1) := dk_9 (dk_at dksX19_of_0 8 rfl rfl)
theorem dX19_of_9 : decode cX19_of 9 = .ok (.lcmp, 1) := dk_148 (dk_at dksX19_of_0 9 rfl rfl)
theorem dX19_of_10 : decode cX19_of 10 = .ok (.ifCond .ne 7, 3) := dk_154 0 7 (dk_at dksX19_of_0 10 rfl rfl)
theorem dX19_of_13 : decode cX19_of 13 = .ok (.lconst 1, 1) := dk_10 (dk_at dksX19_of_0 13 rfl rfl)
theorem dX19_of_14 : decode cX19_of 14 = .ok (.goto 4, 3) := dk_167 0 4 (dk_at dksX19_of_0 14 rfl rfl)
theorem dX19_of_17 : decode cX19_of 17 = .ok (.lconst 0, 1) := dk_9 (dk_at dksX19_of_0 17 rfl rfl)
theorem dX19_of_18 : decode cX19_of 18 = .ok (.lreturn, 1) := dk_173 (dk_at dksX19_of_0 18 rfl rfl)
theorem gX19_of_0 {d : Nat} {v0 : Nat} {v1 : Nat} {T : zT} {I : zI} {L : zL} {R : zR} {P : zP} (h : (T v0).1 = 18 ∧ ((1 < d ∧ ((T (R v0 0)).1 = 16 ∧ zMet mX17_of 1 0 [.ref (R v0 0), .ref v1] T I L R (zqJ_x T I L R P (fun (r2 : Int64)  => zAW mX19_of d 0 8 [] [.long r2] T I L R P)))) ∨ (1 < d ∧ ((T (R v0 0)).1 = 17 ∧ zMet mX18_of 1 0 [.ref (R v0 0), .ref v1] T I L R (zqJ_x T I L R P (fun (r4 : Int64)  => zAW mX19_of d 0 8 [] [.long r4] T I L R P)))) ∨ (∃ d7, d7 < d ∧ ((T (R v0 0)).1 = 18 ∧ zMet mX19_of d7 0 [.ref (R v0 0), .ref v1] T I L R (zqJ_x T I L R P (fun (r6 : Int64)  => zAW mX19_of d 0 8 [] [.long r6] T I L R P)))) ∨ (∃ d10, d10 < d ∧ ((T (R v0 0)).1 = 19 ∧ zMet mX20_of d10 0 [.ref (R v0 0), .ref v1] T I L R (zqJ_x T I L R P (fun (r9 : Int64)  => zAW mX19_of d 0 8 [] [.long r9] T I L R P)))))) : zAW mX19_of d 0 0 [(0, .ref v0), (1, .ref v1)] [] T I L R P := by
  refine za_aload_n (pc' := 1) 0 dX19_of_0 rfl rfl rfl ?_
  obtain ⟨ht1, h⟩ := h
  refine za_get (fi := 0) (v := .ref (R v0 0)) (pc' := 4) dX19_of_1 zc17 (by decide) in_X19 (by decide) q1033 (Or.inl rfl) ht1 rfl rfl ?_
  refine za_aload_n (pc' := 5) 1 dX19_of_4 rfl rfl rfl ?_
  rcases h with h | h | h | h
  · obtain ⟨hd3, h⟩ := h
    obtain ⟨h0, h⟩ := h
    exact za_callU (κ := (R v0 0)) (owner := "TwoTongues$Part") (x9 := ⟨"TwoTongues$Part", "of", "([J)J"⟩) (M2 := mX17_of) (d2 := 1) (b2 := 0) (n := 1) (As := [.ref v1]) (st := []) (pc' := 8) zc15 (by decide) h0 dX19_of_5 rfl (lw_U q1375 q1368 q1399 q1376 q162 q1377) q1367 hdx_part rfl (by decide) hd3 (Nat.zero_le _) (Or.inl rfl) (Nat.le_of_ble_eq_true rfl) h (zqJ_x_k rfl (fun r2 h => zAW_sub [] rfl h)) (fun _ _ _ _ _ _ h9 h8 => h8.2 h9) rfl
  · obtain ⟨hd5, h⟩ := h
    obtain ⟨h0, h⟩ := h
    exact za_callU (κ := (R v0 0)) (owner := "TwoTongues$Part") (x9 := ⟨"TwoTongues$Part", "of", "([J)J"⟩) (M2 := mX18_of) (d2 := 1) (b2 := 0) (n := 1) (As := [.ref v1]) (st := []) (pc' := 8) zc16 (by decide) h0 dX19_of_5 rfl (lw_U q1375 q1368 q1369 q1370 q163 q1371) q1367 hdx_part rfl (by decide) hd5 (Nat.zero_le _) (Or.inl rfl) (Nat.le_of_ble_eq_true rfl) h (zqJ_x_k rfl (fun r4 h => zAW_sub [] rfl h)) (fun _ _ _ _ _ _ h9 h8 => h8.2 h9) rfl
  · obtain ⟨d7, hd8, h⟩ := h
    obtain ⟨h0, h⟩ := h
    exact za_callU (κ := (R v0 0)) (owner := "TwoTongues$Part") (x9 := ⟨"TwoTongues$Part", "of", "([J)J"⟩) (M2 := mX19_of) (d2 := d7) (b2 := 0) (n := 1) (As := [.ref v1]) (st := []) (pc' := 8) zc17 (by decide) h0 dX19_of_5 rfl (lw_U q1375 q1368 q1372 q1373 q164 q1374) q1367 hdx_part rfl (by decide) hd8 (Nat.zero_le _) (Or.inl rfl) (Nat.le_of_ble_eq_true rfl) h (zqJ_x_k rfl (fun r6 h => zAW_sub [] rfl h)) (fun _ _ _ _ _ _ h9 h8 => h8.2 h9) rfl
  · obtain ⟨d10, hd11, h⟩ := h
    obtain ⟨h0, h⟩ := h
    exact za_callU (κ := (R v0 0)) (owner := "TwoTongues$Part") (x9 := ⟨"TwoTongues$Part", "of", "([J)J"⟩) (M2 := mX20_of) (d2 := d10) (b2 := 0) (n := 1) (As := [.ref v1]) (st := []) (pc' := 8) zc18 (by decide) h0 dX19_of_5 rfl (lw_U q1375 q1368 q1400 q1378 q165 q1379) q1367 hdx_part rfl (by decide) hd11 (Nat.zero_le _) (Or.inl rfl) (Nat.le_of_ble_eq_true rfl) h (zqJ_x_k rfl (fun r9 h => zAW_sub [] rfl h)) (fun _ _ _ _ _ _ h9 h8 => h8.2 h9) rfl
theorem gX19_of_8 {d : Nat} {s0 : Int64} {T : zT} {I : zI} {L : zL} {R : zR} {P : zP} (h : ((s0 = (0 : Int64) → P 0 (.long (1 : Int64)) T I L R) ∧ (¬ s0 = (0 : Int64) → P 0 (.long (0 : Int64)) T I L R))) : zAW mX19_of d 0 8 [] [.long s0] T I L R P := by
  refine za_lconst (pc' := 9) dX19_of_8 zl_0 rfl ?_
  refine za_lcmp (pc' := 10) dX19_of_9 rfl ?_
  refine za_if_ne (pc' := 13) (tgt := 17) dX19_of_10 (by decide) rfl (fun c9 => ?_) (fun c9 => ?_)
  · replace h := h.2 (fun c8 => c9 ((lg_cmp_eq s0 (0 : Int64)).mpr c8))
    refine za_lconst (pc' := 18) dX19_of_17 zl_0 rfl ?_
    exact za_lreturn rfl dX19_of_18 h
  · replace h := h.1 ((lg_cmp_eq s0 (0 : Int64)).mp c9)
    refine za_lconst (pc' := 14) dX19_of_13 zl_1 rfl ?_
    refine za_goto (tgt := 18) dX19_of_14 (by decide) ?_
    exact za_lreturn rfl dX19_of_18 h
theorem sX19_of {d b : Nat} {v0 : Nat} {v1 : Nat} {T : zT} {I : zI} {L : zL} {R : zR} {P : zP} (h : zAW mX19_of d b 0 [(0, .ref v0), (1, .ref v1)] [] T I L R P) : zMet mX19_of d b [.ref v0, .ref v1] T I L R P := zMet_of (by decide +kernel) rfl (Nat.le_of_ble_eq_true rfl) rfl h
/-! TwoTongues$Two.<init> (ILTwoTongues$Part;LTwoTongues$Part;)V -/
def dkwX20_init_0 : List UInt8 := [42, 44, 183, 0, 3, 42, 27, 181, 0, 9, 42, 45, 181, 0, 15, 177]
abbrev dktX20_init_0 : List UInt8 := dkwX20_init_0 ++ []
theorem dksX20_init_0 : cX20_init.data.toList.drop 0 = dktX20_init_0 := by decide +kernel
theorem dX20_init_0 : decode cX20_init 0 = .ok (.aload_n 0, 1) := dk_42 (dk_at dksX20_init_0 0 rfl rfl)
theorem dX20_init_1 : decode cX20_init 1 = .ok (.aload_n 2, 1) := dk_44 (dk_at dksX20_init_0 1 rfl rfl)
theorem dX20_init_2 : decode cX20_init 2 = .ok (.invokespecial 3, 3) := dk_183 0 3 (dk_at dksX20_init_0 2 rfl rfl)
theorem dX20_init_5 : decode cX20_init 5 = .ok (.aload_n 0, 1) := dk_42 (dk_at dksX20_init_0 5 rfl rfl)
theorem dX20_init_6 : decode cX20_init 6 = .ok (.iload_n 1, 1) := dk_27 (dk_at dksX20_init_0 6 rfl rfl)
theorem dX20_init_7 : decode cX20_init 7 = .ok (.putfield 9, 3) := dk_181 0 9 (dk_at dksX20_init_0 7 rfl rfl)
theorem dX20_init_10 : decode cX20_init 10 = .ok (.aload_n 0, 1) := dk_42 (dk_at dksX20_init_0 10 rfl rfl)
theorem dX20_init_11 : decode cX20_init 11 = .ok (.aload_n 3, 1) := dk_45 (dk_at dksX20_init_0 11 rfl rfl)
theorem dX20_init_12 : decode cX20_init 12 = .ok (.putfield 15, 3) := dk_181 0 15 (dk_at dksX20_init_0 12 rfl rfl)
theorem dX20_init_15 : decode cX20_init 15 = .ok (.return_, 1) := dk_177 (dk_at dksX20_init_0 15 rfl rfl)
theorem gX20_init_0 {v0 : Nat} {v1 : Int32} {v2 : Nat} {v3 : Nat} {T : zT} {I : zI} {L : zL} {R : zR} {P : zP} (h : (T v0).1 = 19 ∧ zMet mX19_init 2 0 [.ref v0, .ref v2] T I L R (zqV_R T I L  (fun (R1 : zR)  => P 0 (.int 0) T (z2 I v0 1 v1) L (z2 R1 v0 2 v3)))) : zAW mX20_init 3 0 0 [(0, .ref v0), (1, .int v1), (2, .ref v2), (3, .ref v3)] [] T I L R P := by
  refine za_aload_n (pc' := 1) 0 dX20_init_0 rfl rfl rfl ?_
  refine za_aload_n (pc' := 2) 2 dX20_init_1 rfl rfl rfl ?_
  obtain ⟨ht2, h⟩ := h
  refine za_callI (κ := v0) (M2 := mX19_init) (d2 := 2) (b2 := 0) (n := 1) (As := [.ref v2]) (st := []) (pc' := 5) (by rw [ht2]; decide) dX20_init_2 rfl (lw_meth q1029) rfl q1027 q1028 q164 rfl hd_X19_init rfl (by decide) (by decide) (Nat.zero_le _) (Or.inl rfl) (Nat.le_of_ble_eq_true rfl) h (zqV_R_k rfl (fun R1 h => ?_)) (fun _ _ _ _ _ _ h9 h8 => absurd h8.1 h9) rfl
  refine za_aload_n (pc' := 6) 0 dX20_init_5 rfl rfl rfl ?_
  refine za_iload_n (pc' := 7) 1 dX20_init_6 rfl rfl rfl ?_
  refine za_putFI (fi := 1) (pc' := 10) dX20_init_7 zc18 (by decide) in_X20 zok18 znm18 (by decide) q1031 (Or.inl rfl) rfl rfl rfl rfl (fun _ _ _ => rfl) rfl rfl ht2 rfl ?_
  refine za_aload_n (pc' := 11) 0 dX20_init_10 rfl rfl rfl ?_
  refine za_aload_n (pc' := 12) 3 dX20_init_11 rfl rfl rfl ?_
  refine za_putFR (fi := 2) (pc' := 15) dX20_init_12 zc18 (by decide) in_X20 zok18 znm18 (by decide) q1032 (Or.inl rfl) rfl rfl rfl rfl (fun _ _ _ => rfl) ht2 rfl ?_
  exact za_return rfl dX20_init_15 h
theorem sX20_init {d b : Nat} {v0 : Nat} {v1 : Int32} {v2 : Nat} {v3 : Nat} {T : zT} {I : zI} {L : zL} {R : zR} {P : zP} (h : zAW mX20_init d b 0 [(0, .ref v0), (1, .int v1), (2, .ref v2), (3, .ref v3)] [] T I L R P) : zMet mX20_init d b [.ref v0, .int v1, .ref v2, .ref v3] T I L R P := zMet_of (by decide +kernel) rfl (Nat.le_of_ble_eq_true rfl) rfl h
/-! TwoTongues$Two.of ([J)J -/
def dkwX20_of_9 : List UInt8 := [153, 0, 7, 4, 167, 0, 4, 3, 184, 0, 40, 173]
abbrev dktX20_of_9 : List UInt8 := dkwX20_of_9 ++ []
def dkwX20_of_8 : List UInt8 := [9, 148, 153, 0, 7, 4, 167, 0, 4, 3, 184, 0, 40, 173, 32, 9, 148, 154, 0, 10, 22, 4, 9, 148]
abbrev dktX20_of_8 : List UInt8 := dkwX20_of_8 ++ dktX20_of_9
def dkwX20_of_7 : List UInt8 := [32, 22, 4, 148, 153, 0, 7, 4, 167, 0, 4, 3, 184, 0, 40, 173, 32, 9, 148, 153, 0, 14, 22, 4]
abbrev dktX20_of_7 : List UInt8 := dkwX20_of_7 ++ dktX20_of_8
def dkwX20_of_6 : List UInt8 := [167, 0, 4, 3, 184, 0, 40, 173, 32, 22, 4, 148, 155, 0, 7, 4, 167, 0, 4, 3, 184, 0, 40, 173]
abbrev dktX20_of_6 : List UInt8 := dkwX20_of_6 ++ dktX20_of_7
def dkwX20_of_5 : List UInt8 := [32, 22, 4, 148, 154, 0, 7, 4, 167, 0, 4, 3, 184, 0, 40, 173, 32, 22, 4, 148, 157, 0, 7, 4]
abbrev dktX20_of_5 : List UInt8 := dkwX20_of_5 ++ dktX20_of_6
def dkwX20_of_4 : List UInt8 := [167, 0, 4, 3, 184, 0, 40, 173, 32, 22, 4, 148, 158, 0, 7, 4, 167, 0, 4, 3, 184, 0, 40, 173]
abbrev dktX20_of_4 : List UInt8 := dkwX20_of_4 ++ dktX20_of_5
def dkwX20_of_3 : List UInt8 := [22, 4, 9, 148, 154, 0, 7, 178, 0, 36, 191, 32, 22, 4, 109, 173, 32, 22, 4, 148, 156, 0, 7, 4]
abbrev dktX20_of_3 : List UInt8 := dkwX20_of_3 ++ dktX20_of_4
def dkwX20_of_2 : List UInt8 := [32, 22, 4, 97, 184, 0, 28, 173, 32, 22, 4, 101, 184, 0, 28, 173, 32, 22, 4, 184, 0, 32, 173]
abbrev dktX20_of_2 : List UInt8 := dkwX20_of_2 ++ dktX20_of_3
def dkwX20_of_1 : List UInt8 := [171, 0, 0, 0, 254, 0, 0, 0, 11, 0, 0, 0, 16, 0, 0, 0, 232, 0, 0, 0, 42, 0, 0, 0, 113, 0, 0, 0, 43, 0, 0, 0, 97, 0, 0, 0, 45, 0, 0, 0, 105, 0, 0, 0, 47, 0, 0, 0, 120, 0, 0, 0, 60, 0, 0, 0, 136, 0, 0, 0, 61, 0, 0, 0, 168, 0, 0, 0, 62, 0, 0, 0, 152, 0, 0, 1, 0, 0, 0, 0, 184, 0, 0, 1, 1, 0, 0, 0, 200, 0, 0, 1, 2, 0, 0, 0, 216]
abbrev dktX20_of_1 : List UInt8 := dkwX20_of_1 ++ dktX20_of_2
def dkwX20_of_0 : List UInt8 := [42, 180, 0, 19, 43, 182, 0, 22, 65, 42, 180, 0, 15, 43, 182, 0, 22, 55, 4, 42, 180, 0, 9]
abbrev dktX20_of_0 : List UInt8 := dkwX20_of_0 ++ dktX20_of_1
theorem dksX20_of_0 : cX20_of.data.toList.drop 0 = dktX20_of_0 := by decide +kernel
theorem dksX20_of_1 : cX20_of.data.toList.drop 23 = dktX20_of_1 := dk_seg dksX20_of_0 23 rfl rfl
theorem dksX20_of_2 : cX20_of.data.toList.drop 120 = dktX20_of_2 := dk_seg dksX20_of_1 97 rfl rfl
theorem dksX20_of_3 : cX20_of.data.toList.drop 143 = dktX20_of_3 := dk_seg dksX20_of_2 23 rfl rfl
theorem dksX20_of_4 : cX20_of.data.toList.drop 167 = dktX20_of_4 := dk_seg dksX20_of_3 24 rfl rfl
theorem dksX20_of_5 : cX20_of.data.toList.drop 191 = dktX20_of_5 := dk_seg dksX20_of_4 24 rfl rfl
theorem dksX20_of_6 : cX20_of.data.toList.drop 215 = dktX20_of_6 := dk_seg dksX20_of_5 24 rfl rfl
theorem dksX20_of_7 : cX20_of.data.toList.drop 239 = dktX20_of_7 := dk_seg dksX20_of_6 24 rfl rfl
theorem dksX20_of_8 : cX20_of.data.toList.drop 263 = dktX20_of_8 := dk_seg dksX20_of_7 24 rfl rfl
theorem dksX20_of_9 : cX20_of.data.toList.drop 287 = dktX20_of_9 := dk_seg dksX20_of_8 24 rfl rfl
theorem dX20_of_0 : decode cX20_of 0 = .ok (.aload_n 0, 1) := dk_42 (dk_at dksX20_of_0 0 rfl rfl)
theorem dX20_of_1 : decode cX20_of 1 = .ok (.getfield 19, 3) := dk_180 0 19 (dk_at dksX20_of_0 1 rfl rfl)
theorem dX20_of_4 : decode cX20_of 4 = .ok (.aload_n 1, 1) := dk_43 (dk_at dksX20_of_0 4 rfl rfl)
theorem dX20_of_5 : decode cX20_of 5 = .ok (.invokevirtual 22, 3) := dk_182 0 22 (dk_at dksX20_of_0 5 rfl rfl)
theorem dX20_of_8 : decode cX20_of 8 = .ok (.lstore_n 2, 1) := dk_65 (dk_at dksX20_of_0 8 rfl rfl)
theorem dX20_of_9 : decode cX20_of 9 = .ok (.aload_n 0, 1) := dk_42 (dk_at dksX20_of_0 9 rfl rfl)
theorem dX20_of_10 : decode cX20_of 10 = .ok (.getfield 15, 3) := dk_180 0 15 (dk_at dksX20_of_0 10 rfl rfl)
theorem dX20_of_13 : decode cX20_of 13 = .ok (.aload_n 1, 1) := dk_43 (dk_at dksX20_of_0 13 rfl rfl)
theorem dX20_of_14 : decode cX20_of 14 = .ok (.invokevirtual 22, 3) := dk_182 0 22 (dk_at dksX20_of_0 14 rfl rfl)
theorem dX20_of_17 : decode cX20_of 17 = .ok (.lstore 4, 2) := dk_55 4 (dk_at dksX20_of_0 17 rfl rfl)
theorem dX20_of_19 : decode cX20_of 19 = .ok (.aload_n 0, 1) := dk_42 (dk_at dksX20_of_0 19 rfl rfl)
theorem dX20_of_20 : decode cX20_of 20 = .ok (.getfield 9, 3) := dk_180 0 9 (dk_at dksX20_of_0 20 rfl rfl)
theorem dX20_of_23 : decode cX20_of 23 = .ok (.lookupswitch 254 #[(16, 232), (42, 113), (43, 97), (45, 105), (47, 120), (60, 136), (61, 168), (62, 152), (256, 184), (257, 200), (258, 216)], 97) := by decide +kernel
theorem dX20_of_120 : decode cX20_of 120 = .ok (.lload_n 2, 1) := dk_32 (dk_at dksX20_of_2 0 rfl rfl)
theorem dX20_of_121 : decode cX20_of 121 = .ok (.lload 4, 2) := dk_22 4 (dk_at dksX20_of_2 1 rfl rfl)
theorem dX20_of_123 : decode cX20_of 123 = .ok (.ladd, 1) := dk_97 (dk_at dksX20_of_2 3 rfl rfl)
theorem dX20_of_124 : decode cX20_of 124 = .ok (.invokestatic 28, 3) := dk_184 0 28 (dk_at dksX20_of_2 4 rfl rfl)
theorem dX20_of_127 : decode cX20_of 127 = .ok (.lreturn, 1) := dk_173 (dk_at dksX20_of_2 7 rfl rfl)
theorem dX20_of_128 : decode cX20_of 128 = .ok (.lload_n 2, 1) := dk_32 (dk_at dksX20_of_2 8 rfl rfl)
theorem dX20_of_129 : decode cX20_of 129 = .ok (.lload 4, 2) := dk_22 4 (dk_at dksX20_of_2 9 rfl rfl)
theorem dX20_of_131 : decode cX20_of 131 = .ok (.lsub, 1) := dk_101 (dk_at dksX20_of_2 11 rfl rfl)
theorem dX20_of_132 : decode cX20_of 132 = .ok (.invokestatic 28, 3) := dk_184 0 28 (dk_at dksX20_of_2 12 rfl rfl)
theorem dX20_of_135 : decode cX20_of 135 = .ok (.lreturn, 1) := dk_173 (dk_at dksX20_of_2 15 rfl rfl)
theorem dX20_of_136 : decode cX20_of 136 = .ok (.lload_n 2, 1) := dk_32 (dk_at dksX20_of_2 16 rfl rfl)
theorem dX20_of_137 : decode cX20_of 137 = .ok (.lload 4, 2) := dk_22 4 (dk_at dksX20_of_2 17 rfl rfl)
theorem dX20_of_139 : decode cX20_of 139 = .ok (.invokestatic 32, 3) := dk_184 0 32 (dk_at dksX20_of_2 19 rfl rfl)
theorem dX20_of_142 : decode cX20_of 142 = .ok (.lreturn, 1) := dk_173 (dk_at dksX20_of_2 22 rfl rfl)
theorem dX20_of_143 : decode cX20_of 143 = .ok (.lload 4, 2) := dk_22 4 (dk_at dksX20_of_3 0 rfl rfl)
theorem dX20_of_145 : decode cX20_of 145 = .ok (.lconst 0, 1) := dk_9 (dk_at dksX20_of_3 2 rfl rfl)
theorem dX20_of_146 : decode cX20_of 146 = .ok (.lcmp, 1) := dk_148 (dk_at dksX20_of_3 3 rfl rfl)
theorem dX20_of_147 : decode cX20_of 147 = .ok (.ifCond .ne 7, 3) := dk_154 0 7 (dk_at dksX20_of_3 4 rfl rfl)
theorem dX20_of_150 : decode cX20_of 150 = .ok (.getstatic 36, 3) := dk_178 0 36 (dk_at dksX20_of_3 7 rfl rfl)
theorem dX20_of_153 : decode cX20_of 153 = .ok (.athrow, 1) := dk_191 (dk_at dksX20_of_3 10 rfl rfl)
theorem dX20_of_154 : decode cX20_of 154 = .ok (.lload_n 2, 1) := dk_32 (dk_at dksX20_of_3 11 rfl rfl)
theorem dX20_of_155 : decode cX20_of 155 = .ok (.lload 4, 2) := dk_22 4 (dk_at dksX20_of_3 12 rfl rfl)
theorem dX20_of_157 : decode cX20_of 157 = .ok (.ldiv, 1) := dk_109 (dk_at dksX20_of_3 14 rfl rfl)
theorem dX20_of_158 : decode cX20_of 158 = .ok (.lreturn, 1) := dk_173 (dk_at dksX20_of_3 15 rfl rfl)
theorem dX20_of_159 : decode cX20_of 159 = .ok (.lload_n 2, 1) := dk_32 (dk_at dksX20_of_3 16 rfl rfl)
theorem dX20_of_160 : decode cX20_of 160 = .ok (.lload 4, 2) := dk_22 4 (dk_at dksX20_of_3 17 rfl rfl)
theorem dX20_of_162 : decode cX20_of 162 = .ok (.lcmp, 1) := dk_148 (dk_at dksX20_of_3 19 rfl rfl)
theorem dX20_of_163 : decode cX20_of 163 = .ok (.ifCond .ge 7, 3) := dk_156 0 7 (dk_at dksX20_of_3 20 rfl rfl)
theorem dX20_of_166 : decode cX20_of 166 = .ok (.iconst 1, 1) := dk_4 (dk_at dksX20_of_3 23 rfl rfl)
theorem dX20_of_167 : decode cX20_of 167 = .ok (.goto 4, 3) := dk_167 0 4 (dk_at dksX20_of_4 0 rfl rfl)
theorem dX20_of_170 : decode cX20_of 170 = .ok (.iconst 0, 1) := dk_3 (dk_at dksX20_of_4 3 rfl rfl)
theorem dX20_of_171 : decode cX20_of 171 = .ok (.invokestatic 40, 3) := dk_184 0 40 (dk_at dksX20_of_4 4 rfl rfl)
theorem dX20_of_174 : decode cX20_of 174 = .ok (.lreturn, 1) := dk_173 (dk_at dksX20_of_4 7 rfl rfl)
theorem dX20_of_175 : decode cX20_of 175 = .ok (.lload_n 2, 1) := dk_32 (dk_at dksX20_of_4 8 rfl rfl)
theorem dX20_of_176 : decode cX20_of 176 = .ok (.lload 4, 2) := dk_22 4 (dk_at dksX20_of_4 9 rfl rfl)
theorem dX20_of_178 : decode cX20_of 178 = .ok (.lcmp, 1) := dk_148 (dk_at dksX20_of_4 11 rfl rfl)
theorem dX20_of_179 : decode cX20_of 179 = .ok (.ifCond .le 7, 3) := dk_158 0 7 (dk_at dksX20_of_4 12 rfl rfl)
theorem dX20_of_182 : decode cX20_of 182 = .ok (.iconst 1, 1) := dk_4 (dk_at dksX20_of_4 15 rfl rfl)
theorem dX20_of_183 : decode cX20_of 183 = .ok (.goto 4, 3) := dk_167 0 4 (dk_at dksX20_of_4 16 rfl rfl)
theorem dX20_of_186 : decode cX20_of 186 = .ok (.iconst 0, 1) := dk_3 (dk_at dksX20_of_4 19 rfl rfl)
theorem dX20_of_187 : decode cX20_of 187 = .ok (.invokestatic 40, 3) := dk_184 0 40 (dk_at dksX20_of_4 20 rfl rfl)
theorem dX20_of_190 : decode cX20_of 190 = .ok (.lreturn, 1) := dk_173 (dk_at dksX20_of_4 23 rfl rfl)
theorem dX20_of_191 : decode cX20_of 191 = .ok (.lload_n 2, 1) := dk_32 (dk_at dksX20_of_5 0 rfl rfl)
theorem dX20_of_192 : decode cX20_of 192 = .ok (.lload 4, 2) := dk_22 4 (dk_at dksX20_of_5 1 rfl rfl)
theorem dX20_of_194 : decode cX20_of 194 = .ok (.lcmp, 1) := dk_148 (dk_at dksX20_of_5 3 rfl rfl)
theorem dX20_of_195 : decode cX20_of 195 = .ok (.ifCond .ne 7, 3) := dk_154 0 7 (dk_at dksX20_of_5 4 rfl rfl)
theorem dX20_of_198 : decode cX20_of 198 = .ok (.iconst 1, 1) := dk_4 (dk_at dksX20_of_5 7 rfl rfl)
theorem dX20_of_199 : decode cX20_of 199 = .ok (.goto 4, 3) := dk_167 0 4 (dk_at dksX20_of_5 8 rfl rfl)
theorem dX20_of_202 : decode cX20_of 202 = .ok (.iconst 0, 1) := dk_3 (dk_at dksX20_of_5 11 rfl rfl)
theorem dX20_of_203 : decode cX20_of 203 = .ok (.invokestatic 40, 3) := dk_184 0 40 (dk_at dksX20_of_5 12 rfl rfl)
theorem dX20_of_206 : decode cX20_of 206 = .ok (.lreturn, 1) := dk_173 (dk_at dksX20_of_5 15 rfl rfl)
theorem dX20_of_207 : decode cX20_of 207 = .ok (.lload_n 2, 1) := dk_32 (dk_at dksX20_of_5 16 rfl rfl)
theorem dX20_of_208 : decode cX20_of 208 = .ok (.lload 4, 2) := dk_22 4 (dk_at dksX20_of_5 17 rfl rfl)
theorem dX20_of_210 : decode cX20_of 210 = .ok (.lcmp, 1) := dk_148 (dk_at dksX20_of_5 19 rfl rfl)
theorem dX20_of_211 : decode cX20_of 211 = .ok (.ifCond .gt 7, 3) := dk_157 0 7 (dk_at dksX20_of_5 20 rfl rfl)
theorem dX20_of_214 : decode cX20_of 214 = .ok (.iconst 1, 1) := dk_4 (dk_at dksX20_of_5 23 rfl rfl)
theorem dX20_of_215 : decode cX20_of 215 = .ok (.goto 4, 3) := dk_167 0 4 (dk_at dksX20_of_6 0 rfl rfl)
theorem dX20_of_218 : decode cX20_of 218 = .ok (.iconst 0, 1) := dk_3 (dk_at dksX20_of_6 3 rfl rfl)
theorem dX20_of_219 : decode cX20_of 219 = .ok (.invokestatic 40, 3) := dk_184 0 40 (dk_at dksX20_of_6 4 rfl rfl)
theorem dX20_of_222 : decode cX20_of 222 = .ok (.lreturn, 1) := dk_173 (dk_at dksX20_of_6 7 rfl rfl)
theorem dX20_of_223 : decode cX20_of 223 = .ok (.lload_n 2, 1) := dk_32 (dk_at dksX20_of_6 8 rfl rfl)
theorem dX20_of_224 : decode cX20_of 224 = .ok (.lload 4, 2) := dk_22 4 (dk_at dksX20_of_6 9 rfl rfl)
theorem dX20_of_226 : decode cX20_of 226 = .ok (.lcmp, 1) := dk_148 (dk_at dksX20_of_6 11 rfl rfl)
theorem dX20_of_227 : decode cX20_of 227 = .ok (.ifCond .lt 7, 3) := dk_155 0 7 (dk_at dksX20_of_6 12 rfl rfl)
theorem dX20_of_230 : decode cX20_of 230 = .ok (.iconst 1, 1) := dk_4 (dk_at dksX20_of_6 15 rfl rfl)
theorem dX20_of_231 : decode cX20_of 231 = .ok (.goto 4, 3) := dk_167 0 4 (dk_at dksX20_of_6 16 rfl rfl)
theorem dX20_of_234 : decode cX20_of 234 = .ok (.iconst 0, 1) := dk_3 (dk_at dksX20_of_6 19 rfl rfl)
theorem dX20_of_235 : decode cX20_of 235 = .ok (.invokestatic 40, 3) := dk_184 0 40 (dk_at dksX20_of_6 20 rfl rfl)
theorem dX20_of_238 : decode cX20_of 238 = .ok (.lreturn, 1) := dk_173 (dk_at dksX20_of_6 23 rfl rfl)
theorem dX20_of_239 : decode cX20_of 239 = .ok (.lload_n 2, 1) := dk_32 (dk_at dksX20_of_7 0 rfl rfl)
theorem dX20_of_240 : decode cX20_of 240 = .ok (.lload 4, 2) := dk_22 4 (dk_at dksX20_of_7 1 rfl rfl)
theorem dX20_of_242 : decode cX20_of 242 = .ok (.lcmp, 1) := dk_148 (dk_at dksX20_of_7 3 rfl rfl)
theorem dX20_of_243 : decode cX20_of 243 = .ok (.ifCond .eq 7, 3) := dk_153 0 7 (dk_at dksX20_of_7 4 rfl rfl)
theorem dX20_of_246 : decode cX20_of 246 = .ok (.iconst 1, 1) := dk_4 (dk_at dksX20_of_7 7 rfl rfl)
theorem dX20_of_247 : decode cX20_of 247 = .ok (.goto 4, 3) := dk_167 0 4 (dk_at dksX20_of_7 8 rfl rfl)
theorem dX20_of_250 : decode cX20_of 250 = .ok (.iconst 0, 1) := dk_3 (dk_at dksX20_of_7 11 rfl rfl)
theorem dX20_of_251 : decode cX20_of 251 = .ok (.invokestatic 40, 3) := dk_184 0 40 (dk_at dksX20_of_7 12 rfl rfl)
theorem dX20_of_254 : decode cX20_of 254 = .ok (.lreturn, 1) := dk_173 (dk_at dksX20_of_7 15 rfl rfl)
theorem dX20_of_255 : decode cX20_of 255 = .ok (.lload_n 2, 1) := dk_32 (dk_at dksX20_of_7 16 rfl rfl)
theorem dX20_of_256 : decode cX20_of 256 = .ok (.lconst 0, 1) := dk_9 (dk_at dksX20_of_7 17 rfl rfl)
theorem dX20_of_257 : decode cX20_of 257 = .ok (.lcmp, 1) := dk_148 (dk_at dksX20_of_7 18 rfl rfl)
theorem dX20_of_258 : decode cX20_of 258 = .ok (.ifCond .eq 14, 3) := dk_153 0 14 (dk_at dksX20_of_7 19 rfl rfl)
theorem dX20_of_261 : decode cX20_of 261 = .ok (.lload 4, 2) := dk_22 4 (dk_at dksX20_of_7 22 rfl rfl)
theorem dX20_of_263 : decode cX20_of 263 = .ok (.lconst 0, 1) := dk_9 (dk_at dksX20_of_8 0 rfl rfl)
theorem dX20_of_264 : decode cX20_of 264 = .ok (.lcmp, 1) := dk_148 (dk_at dksX20_of_8 1 rfl rfl)
theorem dX20_of_265 : decode cX20_of 265 = .ok (.ifCond .eq 7, 3) := dk_153 0 7 (dk_at dksX20_of_8 2 rfl rfl)
theorem dX20_of_268 : decode cX20_of 268 = .ok (.iconst 1, 1) := dk_4 (dk_at dksX20_of_8 5 rfl rfl)
theorem dX20_of_269 : decode cX20_of 269 = .ok (.goto 4, 3) := dk_167 0 4 (dk_at dksX20_of_8 6 rfl rfl)
theorem dX20_of_272 : decode cX20_of 272 = .ok (.iconst 0, 1) := dk_3 (dk_at dksX20_of_8 9 rfl rfl)
theorem dX20_of_273 : decode cX20_of 273 = .ok (.invokestatic 40, 3) := dk_184 0 40 (dk_at dksX20_of_8 10 rfl rfl)
theorem dX20_of_276 : decode cX20_of 276 = .ok (.lreturn, 1) := dk_173 (dk_at dksX20_of_8 13 rfl rfl)
theorem dX20_of_277 : decode cX20_of 277 = .ok (.lload_n 2, 1) := dk_32 (dk_at dksX20_of_8 14 rfl rfl)
theorem dX20_of_278 : decode cX20_of 278 = .ok (.lconst 0, 1) := dk_9 (dk_at dksX20_of_8 15 rfl rfl)
theorem dX20_of_279 : decode cX20_of 279 = .ok (.lcmp, 1) := dk_148 (dk_at dksX20_of_8 16 rfl rfl)
theorem dX20_of_280 : decode cX20_of 280 = .ok (.ifCond .ne 10, 3) := dk_154 0 10 (dk_at dksX20_of_8 17 rfl rfl)
theorem dX20_of_283 : decode cX20_of 283 = .ok (.lload 4, 2) := dk_22 4 (dk_at dksX20_of_8 20 rfl rfl)
theorem dX20_of_285 : decode cX20_of 285 = .ok (.lconst 0, 1) := dk_9 (dk_at dksX20_of_8 22 rfl rfl)
theorem dX20_of_286 : decode cX20_of 286 = .ok (.lcmp, 1) := dk_148 (dk_at dksX20_of_8 23 rfl rfl)
theorem dX20_of_287 : decode cX20_of 287 = .ok (.ifCond .eq 7, 3) := dk_153 0 7 (dk_at dksX20_of_9 0 rfl rfl)
theorem dX20_of_290 : decode cX20_of 290 = .ok (.iconst 1, 1) := dk_4 (dk_at dksX20_of_9 3 rfl rfl)
theorem dX20_of_291 : decode cX20_of 291 = .ok (.goto 4, 3) := dk_167 0 4 (dk_at dksX20_of_9 4 rfl rfl)
theorem dX20_of_294 : decode cX20_of 294 = .ok (.iconst 0, 1) := dk_3 (dk_at dksX20_of_9 7 rfl rfl)
theorem dX20_of_295 : decode cX20_of 295 = .ok (.invokestatic 40, 3) := dk_184 0 40 (dk_at dksX20_of_9 8 rfl rfl)
theorem dX20_of_298 : decode cX20_of 298 = .ok (.lreturn, 1) := dk_173 (dk_at dksX20_of_9 11 rfl rfl)
theorem gX20_of_0 {d : Nat} {v0 : Nat} {v1 : Nat} {T : zT} {I : zI} {L : zL} {R : zR} {P : zP} (h : (T v0).1 = 19 ∧ ((1 < d ∧ ((T (R v0 0)).1 = 16 ∧ zMet mX17_of 1 0 [.ref (R v0 0), .ref v1] T I L R (zqJ_x T I L R P (fun (r2 : Int64)  => zAW mX20_of d 0 8 [(0, .ref v0), (1, .ref v1)] [.long r2] T I L R P)))) ∨ (1 < d ∧ ((T (R v0 0)).1 = 17 ∧ zMet mX18_of 1 0 [.ref (R v0 0), .ref v1] T I L R (zqJ_x T I L R P (fun (r4 : Int64)  => zAW mX20_of d 0 8 [(0, .ref v0), (1, .ref v1)] [.long r4] T I L R P)))) ∨ (∃ d7, d7 < d ∧ ((T (R v0 0)).1 = 18 ∧ zMet mX19_of d7 0 [.ref (R v0 0), .ref v1] T I L R (zqJ_x T I L R P (fun (r6 : Int64)  => zAW mX20_of d 0 8 [(0, .ref v0), (1, .ref v1)] [.long r6] T I L R P)))) ∨ (∃ d10, d10 < d ∧ ((T (R v0 0)).1 = 19 ∧ zMet mX20_of d10 0 [.ref (R v0 0), .ref v1] T I L R (zqJ_x T I L R P (fun (r9 : Int64)  => zAW mX20_of d 0 8 [(0, .ref v0), (1, .ref v1)] [.long r9] T I L R P)))))) : zAW mX20_of d 0 0 [(0, .ref v0), (1, .ref v1)] [] T I L R P := by
  refine za_aload_n (pc' := 1) 0 dX20_of_0 rfl rfl rfl ?_
  obtain ⟨ht1, h⟩ := h
  refine za_get (fi := 0) (v := .ref (R v0 0)) (pc' := 4) dX20_of_1 zc18 (by decide) in_X20 (by decide) q1034 (Or.inr q1035) ht1 rfl rfl ?_
  refine za_aload_n (pc' := 5) 1 dX20_of_4 rfl rfl rfl ?_
  rcases h with h | h | h | h
  · obtain ⟨hd3, h⟩ := h
    obtain ⟨h0, h⟩ := h
    exact za_callU (κ := (R v0 0)) (owner := "TwoTongues$Part") (x9 := ⟨"TwoTongues$Part", "of", "([J)J"⟩) (M2 := mX17_of) (d2 := 1) (b2 := 0) (n := 1) (As := [.ref v1]) (st := []) (pc' := 8) zc15 (by decide) h0 dX20_of_5 rfl (lw_U q1380 q1368 q1399 q1376 q162 q1377) q1367 hdx_part rfl (by decide) hd3 (Nat.zero_le _) (Or.inl rfl) (Nat.le_of_ble_eq_true rfl) h (zqJ_x_k rfl (fun r2 h => zAW_sub [0, 1] rfl h)) (fun _ _ _ _ _ _ h9 h8 => h8.2 h9) rfl
  · obtain ⟨hd5, h⟩ := h
    obtain ⟨h0, h⟩ := h
    exact za_callU (κ := (R v0 0)) (owner := "TwoTongues$Part") (x9 := ⟨"TwoTongues$Part", "of", "([J)J"⟩) (M2 := mX18_of) (d2 := 1) (b2 := 0) (n := 1) (As := [.ref v1]) (st := []) (pc' := 8) zc16 (by decide) h0 dX20_of_5 rfl (lw_U q1380 q1368 q1369 q1370 q163 q1371) q1367 hdx_part rfl (by decide) hd5 (Nat.zero_le _) (Or.inl rfl) (Nat.le_of_ble_eq_true rfl) h (zqJ_x_k rfl (fun r4 h => zAW_sub [0, 1] rfl h)) (fun _ _ _ _ _ _ h9 h8 => h8.2 h9) rfl
  · obtain ⟨d7, hd8, h⟩ := h
    obtain ⟨h0, h⟩ := h
    exact za_callU (κ := (R v0 0)) (owner := "TwoTongues$Part") (x9 := ⟨"TwoTongues$Part", "of", "([J)J"⟩) (M2 := mX19_of) (d2 := d7) (b2 := 0) (n := 1) (As := [.ref v1]) (st := []) (pc' := 8) zc17 (by decide) h0 dX20_of_5 rfl (lw_U q1380 q1368 q1372 q1373 q164 q1374) q1367 hdx_part rfl (by decide) hd8 (Nat.zero_le _) (Or.inl rfl) (Nat.le_of_ble_eq_true rfl) h (zqJ_x_k rfl (fun r6 h => zAW_sub [0, 1] rfl h)) (fun _ _ _ _ _ _ h9 h8 => h8.2 h9) rfl
  · obtain ⟨d10, hd11, h⟩ := h
    obtain ⟨h0, h⟩ := h
    exact za_callU (κ := (R v0 0)) (owner := "TwoTongues$Part") (x9 := ⟨"TwoTongues$Part", "of", "([J)J"⟩) (M2 := mX20_of) (d2 := d10) (b2 := 0) (n := 1) (As := [.ref v1]) (st := []) (pc' := 8) zc18 (by decide) h0 dX20_of_5 rfl (lw_U q1380 q1368 q1400 q1378 q165 q1379) q1367 hdx_part rfl (by decide) hd11 (Nat.zero_le _) (Or.inl rfl) (Nat.le_of_ble_eq_true rfl) h (zqJ_x_k rfl (fun r9 h => zAW_sub [0, 1] rfl h)) (fun _ _ _ _ _ _ h9 h8 => h8.2 h9) rfl
theorem gX20_of_8 {d : Nat} {v0 : Nat} {v1 : Nat} {s0 : Int64} {T : zT} {I : zI} {L : zL} {R : zR} {P : zP} (h : (T v0).1 = 19 ∧ ((1 < d ∧ ((T (R v0 2)).1 = 16 ∧ zMet mX17_of 1 0 [.ref (R v0 2), .ref v1] T I L R (zqJ_x T I L R P (fun (r13 : Int64)  => zAW mX20_of d 0 17 [(0, .ref v0), (2, .long s0)] [.long r13] T I L R P)))) ∨ (1 < d ∧ ((T (R v0 2)).1 = 17 ∧ zMet mX18_of 1 0 [.ref (R v0 2), .ref v1] T I L R (zqJ_x T I L R P (fun (r15 : Int64)  => zAW mX20_of d 0 17 [(0, .ref v0), (2, .long s0)] [.long r15] T I L R P)))) ∨ (∃ d18, d18 < d ∧ ((T (R v0 2)).1 = 18 ∧ zMet mX19_of d18 0 [.ref (R v0 2), .ref v1] T I L R (zqJ_x T I L R P (fun (r17 : Int64)  => zAW mX20_of d 0 17 [(0, .ref v0), (2, .long s0)] [.long r17] T I L R P)))) ∨ (∃ d21, d21 < d ∧ ((T (R v0 2)).1 = 19 ∧ zMet mX20_of d21 0 [.ref (R v0 2), .ref v1] T I L R (zqJ_x T I L R P (fun (r20 : Int64)  => zAW mX20_of d 0 17 [(0, .ref v0), (2, .long s0)] [.long r20] T I L R P)))))) : zAW mX20_of d 0 8 [(0, .ref v0), (1, .ref v1)] [.long s0] T I L R P := by
  refine za_lstore_n (pc' := 9) (l' := [(2, .long s0), (0, .ref v0), (1, .ref v1)]) dX20_of_8 rfl (Nat.le_of_ble_eq_true rfl) rfl rfl ?_
  refine za_aload_n (pc' := 10) 1 dX20_of_9 rfl rfl rfl ?_
  obtain ⟨ht12, h⟩ := h
  refine za_get (fi := 2) (v := .ref (R v0 2)) (pc' := 13) dX20_of_10 zc18 (by decide) in_X20 (by decide) q1032 (Or.inl rfl) ht12 rfl rfl ?_
  refine za_aload_n (pc' := 14) 2 dX20_of_13 rfl rfl rfl ?_
  rcases h with h | h | h | h
  · obtain ⟨hd14, h⟩ := h
    obtain ⟨h0, h⟩ := h
    exact za_callU (κ := (R v0 2)) (owner := "TwoTongues$Part") (x9 := ⟨"TwoTongues$Part", "of", "([J)J"⟩) (M2 := mX17_of) (d2 := 1) (b2 := 0) (n := 1) (As := [.ref v1]) (st := []) (pc' := 17) zc15 (by decide) h0 dX20_of_14 rfl (lw_U q1380 q1368 q1399 q1376 q162 q1377) q1367 hdx_part rfl (by decide) hd14 (Nat.zero_le _) (Or.inl rfl) (Nat.le_of_ble_eq_true rfl) h (zqJ_x_k rfl (fun r13 h => zAW_sub [1, 0] rfl h)) (fun _ _ _ _ _ _ h9 h8 => h8.2 h9) rfl
  · obtain ⟨hd16, h⟩ := h
    obtain ⟨h0, h⟩ := h
    exact za_callU (κ := (R v0 2)) (owner := "TwoTongues$Part") (x9 := ⟨"TwoTongues$Part", "of", "([J)J"⟩) (M2 := mX18_of) (d2 := 1) (b2 := 0) (n := 1) (As := [.ref v1]) (st := []) (pc' := 17) zc16 (by decide) h0 dX20_of_14 rfl (lw_U q1380 q1368 q1369 q1370 q163 q1371) q1367 hdx_part rfl (by decide) hd16 (Nat.zero_le _) (Or.inl rfl) (Nat.le_of_ble_eq_true rfl) h (zqJ_x_k rfl (fun r15 h => zAW_sub [1, 0] rfl h)) (fun _ _ _ _ _ _ h9 h8 => h8.2 h9) rfl
  · obtain ⟨d18, hd19, h⟩ := h
    obtain ⟨h0, h⟩ := h
    exact za_callU (κ := (R v0 2)) (owner := "TwoTongues$Part") (x9 := ⟨"TwoTongues$Part", "of", "([J)J"⟩) (M2 := mX19_of) (d2 := d18) (b2 := 0) (n := 1) (As := [.ref v1]) (st := []) (pc' := 17) zc17 (by decide) h0 dX20_of_14 rfl (lw_U q1380 q1368 q1372 q1373 q164 q1374) q1367 hdx_part rfl (by decide) hd19 (Nat.zero_le _) (Or.inl rfl) (Nat.le_of_ble_eq_true rfl) h (zqJ_x_k rfl (fun r17 h => zAW_sub [1, 0] rfl h)) (fun _ _ _ _ _ _ h9 h8 => h8.2 h9) rfl
  · obtain ⟨d21, hd22, h⟩ := h
    obtain ⟨h0, h⟩ := h
    exact za_callU (κ := (R v0 2)) (owner := "TwoTongues$Part") (x9 := ⟨"TwoTongues$Part", "of", "([J)J"⟩) (M2 := mX20_of) (d2 := d21) (b2 := 0) (n := 1) (As := [.ref v1]) (st := []) (pc' := 17) zc18 (by decide) h0 dX20_of_14 rfl (lw_U q1380 q1368 q1400 q1378 q165 q1379) q1367 hdx_part rfl (by decide) hd22 (Nat.zero_le _) (Or.inl rfl) (Nat.le_of_ble_eq_true rfl) h (zqJ_x_k rfl (fun r20 h => zAW_sub [1, 0] rfl h)) (fun _ _ _ _ _ _ h9 h8 => h8.2 h9) rfl
theorem gX20_of_17 {d : Nat} {v0 : Nat} {v2 : Int64} {s0 : Int64} {T : zT} {I : zI} {L : zL} {R : zR} {P : zP} (h : (T v0).1 = 19 ∧ (((I v0 1) = (16 : Int32) → ((v2 = (0 : Int64) → 1 < d ∧ zMet mX20_is 1 0 [.int (0 : Int32)] T I L R (zqJ_ T I L R  (fun (r24 : Int64)  => P 0 (.long r24) T I L R))) ∧ (¬ v2 = (0 : Int64) → ((s0 = (0 : Int64) → 1 < d ∧ zMet mX20_is 1 0 [.int (0 : Int32)] T I L R (zqJ_ T I L R  (fun (r26 : Int64)  => P 0 (.long r26) T I L R))) ∧ (¬ s0 = (0 : Int64) → 1 < d ∧ zMet mX20_is 1 0 [.int (1 : Int32)] T I L R (zqJ_ T I L R  (fun (r28 : Int64)  => P 0 (.long r28) T I L R))))))) ∧ (¬ (I v0 1) = (16 : Int32) → (((I v0 1) = (42 : Int32) → 1 < d ∧ zMet mX20_times 1 0 [.long v2, .long s0] T I L R (zqJ_x T I L R P (fun (r30 : Int64)  => P 0 (.long r30) T I L R))) ∧ (¬ (I v0 1) = (42 : Int32) → (((I v0 1) = (43 : Int32) → 1 < d ∧ zMet mX1_sure_2 1 0 [.long (v2 + s0)] T I L R (zqJ_x T I L R P (fun (r32 : Int64)  => P 0 (.long r32) T I L R))) ∧ (¬ (I v0 1) = (43 : Int32) → (((I v0 1) = (45 : Int32) → 1 < d ∧ zMet mX1_sure_2 1 0 [.long (v2 - s0)] T I L R (zqJ_x T I L R P (fun (r34 : Int64)  => P 0 (.long r34) T I L R))) ∧ (¬ (I v0 1) = (45 : Int32) → (((I v0 1) = (47 : Int32) → ((s0 = (0 : Int64) → P 2 (.ref 2) T I L R) ∧ (¬ s0 = (0 : Int64) → ¬ s0 = 0 ∧ (P 0 (.long (v2 / s0)) T I L R)))) ∧ (¬ (I v0 1) = (47 : Int32) → (((I v0 1) = (60 : Int32) → ((s0 ≤ v2 → 1 < d ∧ zMet mX20_is 1 0 [.int (0 : Int32)] T I L R (zqJ_ T I L R  (fun (r37 : Int64)  => P 0 (.long r37) T I L R))) ∧ (¬ s0 ≤ v2 → 1 < d ∧ zMet mX20_is 1 0 [.int (1 : Int32)] T I L R (zqJ_ T I L R  (fun (r39 : Int64)  => P 0 (.long r39) T I L R))))) ∧ (¬ (I v0 1) = (60 : Int32) → (((I v0 1) = (61 : Int32) → ((v2 = s0 → 1 < d ∧ zMet mX20_is 1 0 [.int (1 : Int32)] T I L R (zqJ_ T I L R  (fun (r43 : Int64)  => P 0 (.long r43) T I L R))) ∧ (¬ v2 = s0 → 1 < d ∧ zMet mX20_is 1 0 [.int (0 : Int32)] T I L R (zqJ_ T I L R  (fun (r41 : Int64)  => P 0 (.long r41) T I L R))))) ∧ (¬ (I v0 1) = (61 : Int32) → (((I v0 1) = (62 : Int32) → ((v2 ≤ s0 → 1 < d ∧ zMet mX20_is 1 0 [.int (0 : Int32)] T I L R (zqJ_ T I L R  (fun (r45 : Int64)  => P 0 (.long r45) T I L R))) ∧ (¬ v2 ≤ s0 → 1 < d ∧ zMet mX20_is 1 0 [.int (1 : Int32)] T I L R (zqJ_ T I L R  (fun (r47 : Int64)  => P 0 (.long r47) T I L R))))) ∧ (¬ (I v0 1) = (62 : Int32) → (((I v0 1) = (256 : Int32) → ((s0 < v2 → 1 < d ∧ zMet mX20_is 1 0 [.int (0 : Int32)] T I L R (zqJ_ T I L R  (fun (r49 : Int64)  => P 0 (.long r49) T I L R))) ∧ (¬ s0 < v2 → 1 < d ∧ zMet mX20_is 1 0 [.int (1 : Int32)] T I L R (zqJ_ T I L R  (fun (r51 : Int64)  => P 0 (.long r51) T I L R))))) ∧ (¬ (I v0 1) = (256 : Int32) → (((I v0 1) = (257 : Int32) → ((v2 < s0 → 1 < d ∧ zMet mX20_is 1 0 [.int (0 : Int32)] T I L R (zqJ_ T I L R  (fun (r53 : Int64)  => P 0 (.long r53) T I L R))) ∧ (¬ v2 < s0 → 1 < d ∧ zMet mX20_is 1 0 [.int (1 : Int32)] T I L R (zqJ_ T I L R  (fun (r55 : Int64)  => P 0 (.long r55) T I L R))))) ∧ (¬ (I v0 1) = (257 : Int32) → (((I v0 1) = (258 : Int32) → ((v2 = s0 → 1 < d ∧ zMet mX20_is 1 0 [.int (0 : Int32)] T I L R (zqJ_ T I L R  (fun (r57 : Int64)  => P 0 (.long r57) T I L R))) ∧ (¬ v2 = s0 → 1 < d ∧ zMet mX20_is 1 0 [.int (1 : Int32)] T I L R (zqJ_ T I L R  (fun (r59 : Int64)  => P 0 (.long r59) T I L R))))) ∧ (¬ (I v0 1) = (258 : Int32) → ((v2 = (0 : Int64) → ((s0 = (0 : Int64) → 1 < d ∧ zMet mX20_is 1 0 [.int (0 : Int32)] T I L R (zqJ_ T I L R  (fun (r63 : Int64)  => P 0 (.long r63) T I L R))) ∧ (¬ s0 = (0 : Int64) → 1 < d ∧ zMet mX20_is 1 0 [.int (1 : Int32)] T I L R (zqJ_ T I L R  (fun (r65 : Int64)  => P 0 (.long r65) T I L R))))) ∧ (¬ v2 = (0 : Int64) → 1 < d ∧ zMet mX20_is 1 0 [.int (1 : Int32)] T I L R (zqJ_ T I L R  (fun (r61 : Int64)  => P 0 (.long r61) T I L R))))))))))))))))))))))))))) : zAW mX20_of d 0 17 [(0, .ref v0), (2, .long v2)] [.long s0] T I L R P := by
  refine za_lstore (pc' := 19) (l' := [(4, .long s0), (0, .ref v0), (2, .long v2)]) dX20_of_17 (Nat.le_of_ble_eq_true rfl) rfl rfl ?_
  refine za_aload_n (pc' := 20) 1 dX20_of_19 rfl rfl rfl ?_
  obtain ⟨ht23, h⟩ := h
  refine za_get (fi := 1) (v := .int (I v0 1)) (pc' := 23) dX20_of_20 zc18 (by decide) in_X20 (by decide) q1031 (Or.inl rfl) ht23 rfl rfl ?_
  by_cases hs67 : (I v0 1) = (16 : Int32)
  · replace h := h.1 hs67
    refine za_lookup (off := 232) (tgt := 255) dX20_of_23 (by decide) (by rw [hs67]; decide) (by decide) ?_
    refine za_lload_n (pc' := 256) 2 dX20_of_255 rfl rfl rfl ?_
    refine za_lconst (pc' := 257) dX20_of_256 zl_0 rfl ?_
    refine za_lcmp (pc' := 258) dX20_of_257 rfl ?_
    refine za_if_eq (pc' := 261) (tgt := 272) dX20_of_258 (by decide) rfl (fun c9 => ?_) (fun c9 => ?_)
    · replace h := h.1 ((lg_cmp_eq v2 (0 : Int64)).mp c9)
      refine za_iconst (pc' := 273) dX20_of_272 zi_0 rfl ?_
      obtain ⟨hd25, h⟩ := h
      refine za_callS (M2 := mX20_is) (d2 := 1) (b2 := 0) (n := 1) (As := [.int (0 : Int32)]) (st := []) (pc' := 276) dX20_of_273 rfl (lw_S q1396 q1397 q165 q1398) hd_X20_is rfl (by decide) hd25 (Nat.zero_le _) (Or.inl rfl) (Nat.le_of_ble_eq_true rfl) h (zqJ__k rfl (fun r24 h => ?_)) (fun _ _ _ _ _ _ h9 h8 => absurd h8.1 h9) rfl
      exact za_lreturn rfl dX20_of_276 h
    · replace h := h.2 (fun c8 => c9 ((lg_cmp_eq v2 (0 : Int64)).mpr c8))
      refine za_lload (pc' := 263) 0 dX20_of_261 rfl rfl ?_
      refine za_lconst (pc' := 264) dX20_of_263 zl_0 rfl ?_
      refine za_lcmp (pc' := 265) dX20_of_264 rfl ?_
      refine za_if_eq (pc' := 268) (tgt := 272) dX20_of_265 (by decide) rfl (fun c9 => ?_) (fun c9 => ?_)
      · replace h := h.1 ((lg_cmp_eq s0 (0 : Int64)).mp c9)
        refine za_iconst (pc' := 273) dX20_of_272 zi_0 rfl ?_
        obtain ⟨hd27, h⟩ := h
        refine za_callS (M2 := mX20_is) (d2 := 1) (b2 := 0) (n := 1) (As := [.int (0 : Int32)]) (st := []) (pc' := 276) dX20_of_273 rfl (lw_S q1396 q1397 q165 q1398) hd_X20_is rfl (by decide) hd27 (Nat.zero_le _) (Or.inl rfl) (Nat.le_of_ble_eq_true rfl) h (zqJ__k rfl (fun r26 h => ?_)) (fun _ _ _ _ _ _ h9 h8 => absurd h8.1 h9) rfl
        exact za_lreturn rfl dX20_of_276 h
      · replace h := h.2 (fun c8 => c9 ((lg_cmp_eq s0 (0 : Int64)).mpr c8))
        refine za_iconst (pc' := 269) dX20_of_268 zi_1 rfl ?_
        refine za_goto (tgt := 273) dX20_of_269 (by decide) ?_
        obtain ⟨hd29, h⟩ := h
        refine za_callS (M2 := mX20_is) (d2 := 1) (b2 := 0) (n := 1) (As := [.int (1 : Int32)]) (st := []) (pc' := 276) dX20_of_273 rfl (lw_S q1396 q1397 q165 q1398) hd_X20_is rfl (by decide) hd29 (Nat.zero_le _) (Or.inl rfl) (Nat.le_of_ble_eq_true rfl) h (zqJ__k rfl (fun r28 h => ?_)) (fun _ _ _ _ _ _ h9 h8 => absurd h8.1 h9) rfl
        exact za_lreturn rfl dX20_of_276 h
  replace h := h.2 hs67
  by_cases hs68 : (I v0 1) = (42 : Int32)
  · replace h := h.1 hs68
    refine za_lookup (off := 113) (tgt := 136) dX20_of_23 (by decide) (by rw [hs68]; decide) (by decide) ?_
    refine za_lload_n (pc' := 137) 2 dX20_of_136 rfl rfl rfl ?_
    refine za_lload (pc' := 139) 0 dX20_of_137 rfl rfl ?_
    obtain ⟨hd31, h⟩ := h
    refine za_callS (M2 := mX20_times) (d2 := 1) (b2 := 0) (n := 2) (As := [.long v2, .long s0]) (st := []) (pc' := 142) dX20_of_139 rfl (lw_S q1388 q1389 q165 q1390) hd_X20_times rfl (by decide) hd31 (Nat.zero_le _) (Or.inl rfl) (Nat.le_of_ble_eq_true rfl) h (zqJ_x_k rfl (fun r30 h => ?_)) (fun _ _ _ _ _ _ h9 h8 => h8.2 h9) rfl
    exact za_lreturn rfl dX20_of_142 h
  replace h := h.2 hs68
  by_cases hs69 : (I v0 1) = (43 : Int32)
  · replace h := h.1 hs69
    refine za_lookup (off := 97) (tgt := 120) dX20_of_23 (by decide) (by rw [hs69]; decide) (by decide) ?_
    refine za_lload_n (pc' := 121) 2 dX20_of_120 rfl rfl rfl ?_
    refine za_lload (pc' := 123) 0 dX20_of_121 rfl rfl ?_
    refine za_ladd (pc' := 124) dX20_of_123 rfl ?_
    obtain ⟨hd33, h⟩ := h
    refine za_callSN (M2 := mX1_sure_2) (d2 := 1) (b2 := 0) (n := 1) (As := [.long (v2 + s0)]) (st := []) (pc' := 127) dX20_of_124 rfl (lw_meth q1383) q1381 q1382 q131 hd_X1_sure_2 rfl (by decide) hd33 (Nat.zero_le _) (Or.inl rfl) (Nat.le_of_ble_eq_true rfl) h (zqJ_x_k rfl (fun r32 h => ?_)) (fun _ _ _ _ _ _ h9 h8 => h8.2 h9) rfl
    exact za_lreturn rfl dX20_of_127 h
  replace h := h.2 hs69
  by_cases hs70 : (I v0 1) = (45 : Int32)
  · replace h := h.1 hs70
    refine za_lookup (off := 105) (tgt := 128) dX20_of_23 (by decide) (by rw [hs70]; decide) (by decide) ?_
    refine za_lload_n (pc' := 129) 2 dX20_of_128 rfl rfl rfl ?_
    refine za_lload (pc' := 131) 0 dX20_of_129 rfl rfl ?_
    refine za_lsub (pc' := 132) dX20_of_131 rfl ?_
    obtain ⟨hd35, h⟩ := h
    refine za_callSN (M2 := mX1_sure_2) (d2 := 1) (b2 := 0) (n := 1) (As := [.long (v2 - s0)]) (st := []) (pc' := 135) dX20_of_132 rfl (lw_meth q1383) q1381 q1382 q131 hd_X1_sure_2 rfl (by decide) hd35 (Nat.zero_le _) (Or.inl rfl) (Nat.le_of_ble_eq_true rfl) h (zqJ_x_k rfl (fun r34 h => ?_)) (fun _ _ _ _ _ _ h9 h8 => h8.2 h9) rfl
    exact za_lreturn rfl dX20_of_135 h
  replace h := h.2 hs70
  by_cases hs71 : (I v0 1) = (47 : Int32)
  · replace h := h.1 hs71
    refine za_lookup (off := 120) (tgt := 143) dX20_of_23 (by decide) (by rw [hs71]; decide) (by decide) ?_
    refine za_lload (pc' := 145) 0 dX20_of_143 rfl rfl ?_
    refine za_lconst (pc' := 146) dX20_of_145 zl_0 rfl ?_
    refine za_lcmp (pc' := 147) dX20_of_146 rfl ?_
    refine za_if_ne (pc' := 150) (tgt := 154) dX20_of_147 (by decide) rfl (fun c9 => ?_) (fun c9 => ?_)
    · replace h := h.2 (fun c8 => c9 ((lg_cmp_eq s0 (0 : Int64)).mpr c8))
      refine za_lload_n (pc' := 155) 2 dX20_of_154 rfl rfl rfl ?_
      refine za_lload (pc' := 157) 0 dX20_of_155 rfl rfl ?_
      obtain ⟨hn36, h⟩ := h
      refine za_ldiv (pc' := 158) dX20_of_157 hn36 rfl ?_
      exact za_lreturn rfl dX20_of_158 h
    · replace h := h.1 ((lg_cmp_eq s0 (0 : Int64)).mp c9)
      refine za_getTroubleN (pc' := 153) dX20_of_150 q1395 rfl ?_
      exact za_trouble dX20_of_153 rfl h
  replace h := h.2 hs71
  by_cases hs72 : (I v0 1) = (60 : Int32)
  · replace h := h.1 hs72
    refine za_lookup (off := 136) (tgt := 159) dX20_of_23 (by decide) (by rw [hs72]; decide) (by decide) ?_
    refine za_lload_n (pc' := 160) 2 dX20_of_159 rfl rfl rfl ?_
    refine za_lload (pc' := 162) 0 dX20_of_160 rfl rfl ?_
    refine za_lcmp (pc' := 163) dX20_of_162 rfl ?_
    refine za_if_ge (pc' := 166) (tgt := 170) dX20_of_163 (by decide) rfl (fun c9 => ?_) (fun c9 => ?_)
    · replace h := h.1 ((lg_cmp_ge v2 s0).mp c9)
      refine za_iconst (pc' := 171) dX20_of_170 zi_0 rfl ?_
      obtain ⟨hd38, h⟩ := h
      refine za_callS (M2 := mX20_is) (d2 := 1) (b2 := 0) (n := 1) (As := [.int (0 : Int32)]) (st := []) (pc' := 174) dX20_of_171 rfl (lw_S q1396 q1397 q165 q1398) hd_X20_is rfl (by decide) hd38 (Nat.zero_le _) (Or.inl rfl) (Nat.le_of_ble_eq_true rfl) h (zqJ__k rfl (fun r37 h => ?_)) (fun _ _ _ _ _ _ h9 h8 => absurd h8.1 h9) rfl
      exact za_lreturn rfl dX20_of_174 h
    · replace h := h.2 (fun c8 => c9 ((lg_cmp_ge v2 s0).mpr c8))
      refine za_iconst (pc' := 167) dX20_of_166 zi_1 rfl ?_
      refine za_goto (tgt := 171) dX20_of_167 (by decide) ?_
      obtain ⟨hd40, h⟩ := h
      refine za_callS (M2 := mX20_is) (d2 := 1) (b2 := 0) (n := 1) (As := [.int (1 : Int32)]) (st := []) (pc' := 174) dX20_of_171 rfl (lw_S q1396 q1397 q165 q1398) hd_X20_is rfl (by decide) hd40 (Nat.zero_le _) (Or.inl rfl) (Nat.le_of_ble_eq_true rfl) h (zqJ__k rfl (fun r39 h => ?_)) (fun _ _ _ _ _ _ h9 h8 => absurd h8.1 h9) rfl
      exact za_lreturn rfl dX20_of_174 h
  replace h := h.2 hs72
  by_cases hs73 : (I v0 1) = (61 : Int32)
  · replace h := h.1 hs73
    refine za_lookup (off := 168) (tgt := 191) dX20_of_23 (by decide) (by rw [hs73]; decide) (by decide) ?_
    refine za_lload_n (pc' := 192) 2 dX20_of_191 rfl rfl rfl ?_
    refine za_lload (pc' := 194) 0 dX20_of_192 rfl rfl ?_
    refine za_lcmp (pc' := 195) dX20_of_194 rfl ?_
    refine za_if_ne (pc' := 198) (tgt := 202) dX20_of_195 (by decide) rfl (fun c9 => ?_) (fun c9 => ?_)
    · replace h := h.2 (fun c8 => c9 ((lg_cmp_eq v2 s0).mpr c8))
      refine za_iconst (pc' := 203) dX20_of_202 zi_0 rfl ?_
      obtain ⟨hd42, h⟩ := h
      refine za_callS (M2 := mX20_is) (d2 := 1) (b2 := 0) (n := 1) (As := [.int (0 : Int32)]) (st := []) (pc' := 206) dX20_of_203 rfl (lw_S q1396 q1397 q165 q1398) hd_X20_is rfl (by decide) hd42 (Nat.zero_le _) (Or.inl rfl) (Nat.le_of_ble_eq_true rfl) h (zqJ__k rfl (fun r41 h => ?_)) (fun _ _ _ _ _ _ h9 h8 => absurd h8.1 h9) rfl
      exact za_lreturn rfl dX20_of_206 h
    · replace h := h.1 ((lg_cmp_eq v2 s0).mp c9)
      refine za_iconst (pc' := 199) dX20_of_198 zi_1 rfl ?_
      refine za_goto (tgt := 203) dX20_of_199 (by decide) ?_
      obtain ⟨hd44, h⟩ := h
      refine za_callS (M2 := mX20_is) (d2 := 1) (b2 := 0) (n := 1) (As := [.int (1 : Int32)]) (st := []) (pc' := 206) dX20_of_203 rfl (lw_S q1396 q1397 q165 q1398) hd_X20_is rfl (by decide) hd44 (Nat.zero_le _) (Or.inl rfl) (Nat.le_of_ble_eq_true rfl) h (zqJ__k rfl (fun r43 h => ?_)) (fun _ _ _ _ _ _ h9 h8 => absurd h8.1 h9) rfl
      exact za_lreturn rfl dX20_of_206 h
  replace h := h.2 hs73
  by_cases hs74 : (I v0 1) = (62 : Int32)
  · replace h := h.1 hs74
    refine za_lookup (off := 152) (tgt := 175) dX20_of_23 (by decide) (by rw [hs74]; decide) (by decide) ?_
    refine za_lload_n (pc' := 176) 2 dX20_of_175 rfl rfl rfl ?_
    refine za_lload (pc' := 178) 0 dX20_of_176 rfl rfl ?_
    refine za_lcmp (pc' := 179) dX20_of_178 rfl ?_
    refine za_if_le (pc' := 182) (tgt := 186) dX20_of_179 (by decide) rfl (fun c9 => ?_) (fun c9 => ?_)
    · replace h := h.1 ((lg_cmp_le v2 s0).mp c9)
      refine za_iconst (pc' := 187) dX20_of_186 zi_0 rfl ?_
      obtain ⟨hd46, h⟩ := h
      refine za_callS (M2 := mX20_is) (d2 := 1) (b2 := 0) (n := 1) (As := [.int (0 : Int32)]) (st := []) (pc' := 190) dX20_of_187 rfl (lw_S q1396 q1397 q165 q1398) hd_X20_is rfl (by decide) hd46 (Nat.zero_le _) (Or.inl rfl) (Nat.le_of_ble_eq_true rfl) h (zqJ__k rfl (fun r45 h => ?_)) (fun _ _ _ _ _ _ h9 h8 => absurd h8.1 h9) rfl
      exact za_lreturn rfl dX20_of_190 h
    · replace h := h.2 (fun c8 => c9 ((lg_cmp_le v2 s0).mpr c8))
      refine za_iconst (pc' := 183) dX20_of_182 zi_1 rfl ?_
      refine za_goto (tgt := 187) dX20_of_183 (by decide) ?_
      obtain ⟨hd48, h⟩ := h
      refine za_callS (M2 := mX20_is) (d2 := 1) (b2 := 0) (n := 1) (As := [.int (1 : Int32)]) (st := []) (pc' := 190) dX20_of_187 rfl (lw_S q1396 q1397 q165 q1398) hd_X20_is rfl (by decide) hd48 (Nat.zero_le _) (Or.inl rfl) (Nat.le_of_ble_eq_true rfl) h (zqJ__k rfl (fun r47 h => ?_)) (fun _ _ _ _ _ _ h9 h8 => absurd h8.1 h9) rfl
      exact za_lreturn rfl dX20_of_190 h
  replace h := h.2 hs74
  by_cases hs75 : (I v0 1) = (256 : Int32)
  · replace h := h.1 hs75
    refine za_lookup (off := 184) (tgt := 207) dX20_of_23 (by decide) (by rw [hs75]; decide) (by decide) ?_
    refine za_lload_n (pc' := 208) 2 dX20_of_207 rfl rfl rfl ?_
    refine za_lload (pc' := 210) 0 dX20_of_208 rfl rfl ?_
    refine za_lcmp (pc' := 211) dX20_of_210 rfl ?_
    refine za_if_gt (pc' := 214) (tgt := 218) dX20_of_211 (by decide) rfl (fun c9 => ?_) (fun c9 => ?_)
    · replace h := h.1 ((lg_cmp_gt v2 s0).mp c9)
      refine za_iconst (pc' := 219) dX20_of_218 zi_0 rfl ?_
      obtain ⟨hd50, h⟩ := h
      refine za_callS (M2 := mX20_is) (d2 := 1) (b2 := 0) (n := 1) (As := [.int (0 : Int32)]) (st := []) (pc' := 222) dX20_of_219 rfl (lw_S q1396 q1397 q165 q1398) hd_X20_is rfl (by decide) hd50 (Nat.zero_le _) (Or.inl rfl) (Nat.le_of_ble_eq_true rfl) h (zqJ__k rfl (fun r49 h => ?_)) (fun _ _ _ _ _ _ h9 h8 => absurd h8.1 h9) rfl
      exact za_lreturn rfl dX20_of_222 h
    · replace h := h.2 (fun c8 => c9 ((lg_cmp_gt v2 s0).mpr c8))
      refine za_iconst (pc' := 215) dX20_of_214 zi_1 rfl ?_
      refine za_goto (tgt := 219) dX20_of_215 (by decide) ?_
      obtain ⟨hd52, h⟩ := h
      refine za_callS (M2 := mX20_is) (d2 := 1) (b2 := 0) (n := 1) (As := [.int (1 : Int32)]) (st := []) (pc' := 222) dX20_of_219 rfl (lw_S q1396 q1397 q165 q1398) hd_X20_is rfl (by decide) hd52 (Nat.zero_le _) (Or.inl rfl) (Nat.le_of_ble_eq_true rfl) h (zqJ__k rfl (fun r51 h => ?_)) (fun _ _ _ _ _ _ h9 h8 => absurd h8.1 h9) rfl
      exact za_lreturn rfl dX20_of_222 h
  replace h := h.2 hs75
  by_cases hs76 : (I v0 1) = (257 : Int32)
  · replace h := h.1 hs76
    refine za_lookup (off := 200) (tgt := 223) dX20_of_23 (by decide) (by rw [hs76]; decide) (by decide) ?_
    refine za_lload_n (pc' := 224) 2 dX20_of_223 rfl rfl rfl ?_
    refine za_lload (pc' := 226) 0 dX20_of_224 rfl rfl ?_
    refine za_lcmp (pc' := 227) dX20_of_226 rfl ?_
    refine za_if_lt (pc' := 230) (tgt := 234) dX20_of_227 (by decide) rfl (fun c9 => ?_) (fun c9 => ?_)
    · replace h := h.1 ((lg_cmp_lt v2 s0).mp c9)
      refine za_iconst (pc' := 235) dX20_of_234 zi_0 rfl ?_
      obtain ⟨hd54, h⟩ := h
      refine za_callS (M2 := mX20_is) (d2 := 1) (b2 := 0) (n := 1) (As := [.int (0 : Int32)]) (st := []) (pc' := 238) dX20_of_235 rfl (lw_S q1396 q1397 q165 q1398) hd_X20_is rfl (by decide) hd54 (Nat.zero_le _) (Or.inl rfl) (Nat.le_of_ble_eq_true rfl) h (zqJ__k rfl (fun r53 h => ?_)) (fun _ _ _ _ _ _ h9 h8 => absurd h8.1 h9) rfl
      exact za_lreturn rfl dX20_of_238 h
    · replace h := h.2 (fun c8 => c9 ((lg_cmp_lt v2 s0).mpr c8))
      refine za_iconst (pc' := 231) dX20_of_230 zi_1 rfl ?_
      refine za_goto (tgt := 235) dX20_of_231 (by decide) ?_
      obtain ⟨hd56, h⟩ := h
      refine za_callS (M2 := mX20_is) (d2 := 1) (b2 := 0) (n := 1) (As := [.int (1 : Int32)]) (st := []) (pc' := 238) dX20_of_235 rfl (lw_S q1396 q1397 q165 q1398) hd_X20_is rfl (by decide) hd56 (Nat.zero_le _) (Or.inl rfl) (Nat.le_of_ble_eq_true rfl) h (zqJ__k rfl (fun r55 h => ?_)) (fun _ _ _ _ _ _ h9 h8 => absurd h8.1 h9) rfl
      exact za_lreturn rfl dX20_of_238 h
  replace h := h.2 hs76
  by_cases hs77 : (I v0 1) = (258 : Int32)
  · replace h := h.1 hs77
    refine za_lookup (off := 216) (tgt := 239) dX20_of_23 (by decide) (by rw [hs77]; decide) (by decide) ?_
    refine za_lload_n (pc' := 240) 2 dX20_of_239 rfl rfl rfl ?_
    refine za_lload (pc' := 242) 0 dX20_of_240 rfl rfl ?_
    refine za_lcmp (pc' := 243) dX20_of_242 rfl ?_
    refine za_if_eq (pc' := 246) (tgt := 250) dX20_of_243 (by decide) rfl (fun c9 => ?_) (fun c9 => ?_)
    · replace h := h.1 ((lg_cmp_eq v2 s0).mp c9)
      refine za_iconst (pc' := 251) dX20_of_250 zi_0 rfl ?_
      obtain ⟨hd58, h⟩ := h
      refine za_callS (M2 := mX20_is) (d2 := 1) (b2 := 0) (n := 1) (As := [.int (0 : Int32)]) (st := []) (pc' := 254) dX20_of_251 rfl (lw_S q1396 q1397 q165 q1398) hd_X20_is rfl (by decide) hd58 (Nat.zero_le _) (Or.inl rfl) (Nat.le_of_ble_eq_true rfl) h (zqJ__k rfl (fun r57 h => ?_)) (fun _ _ _ _ _ _ h9 h8 => absurd h8.1 h9) rfl
      exact za_lreturn rfl dX20_of_254 h
    · replace h := h.2 (fun c8 => c9 ((lg_cmp_eq v2 s0).mpr c8))
      refine za_iconst (pc' := 247) dX20_of_246 zi_1 rfl ?_
      refine za_goto (tgt := 251) dX20_of_247 (by decide) ?_
      obtain ⟨hd60, h⟩ := h
      refine za_callS (M2 := mX20_is) (d2 := 1) (b2 := 0) (n := 1) (As := [.int (1 : Int32)]) (st := []) (pc' := 254) dX20_of_251 rfl (lw_S q1396 q1397 q165 q1398) hd_X20_is rfl (by decide) hd60 (Nat.zero_le _) (Or.inl rfl) (Nat.le_of_ble_eq_true rfl) h (zqJ__k rfl (fun r59 h => ?_)) (fun _ _ _ _ _ _ h9 h8 => absurd h8.1 h9) rfl
      exact za_lreturn rfl dX20_of_254 h
  replace h := h.2 hs77
  refine za_lookup (off := 254) (tgt := 277) dX20_of_23 (by decide) (by simp only [Op.lookupswitch.offset]; have q0 := (zsw_ne hs67).symm; have q1 := (zsw_ne hs68).symm; have q2 := (zsw_ne hs69).symm; have q3 := (zsw_ne hs70).symm; have q4 := (zsw_ne hs71).symm; have q5 := (zsw_ne hs72).symm; have q6 := (zsw_ne hs73).symm; have q7 := (zsw_ne hs74).symm; have q8 := (zsw_ne hs75).symm; have q9 := (zsw_ne hs76).symm; have q10 := (zsw_ne hs77).symm; simp_all) (by decide) ?_
  refine za_lload_n (pc' := 278) 2 dX20_of_277 rfl rfl rfl ?_
  refine za_lconst (pc' := 279) dX20_of_278 zl_0 rfl ?_
  refine za_lcmp (pc' := 280) dX20_of_279 rfl ?_
  refine za_if_ne (pc' := 283) (tgt := 290) dX20_of_280 (by decide) rfl (fun c9 => ?_) (fun c9 => ?_)
  · replace h := h.2 (fun c8 => c9 ((lg_cmp_eq v2 (0 : Int64)).mpr c8))
    refine za_iconst (pc' := 291) dX20_of_290 zi_1 rfl ?_
    refine za_goto (tgt := 295) dX20_of_291 (by decide) ?_
    obtain ⟨hd62, h⟩ := h
    refine za_callS (M2 := mX20_is) (d2 := 1) (b2 := 0) (n := 1) (As := [.int (1 : Int32)]) (st := []) (pc' := 298) dX20_of_295 rfl (lw_S q1396 q1397 q165 q1398) hd_X20_is rfl (by decide) hd62 (Nat.zero_le _) (Or.inl rfl) (Nat.le_of_ble_eq_true rfl) h (zqJ__k rfl (fun r61 h => ?_)) (fun _ _ _ _ _ _ h9 h8 => absurd h8.1 h9) rfl
    exact za_lreturn rfl dX20_of_298 h
  · replace h := h.1 ((lg_cmp_eq v2 (0 : Int64)).mp c9)
    refine za_lload (pc' := 285) 0 dX20_of_283 rfl rfl ?_
    refine za_lconst (pc' := 286) dX20_of_285 zl_0 rfl ?_
    refine za_lcmp (pc' := 287) dX20_of_286 rfl ?_
    refine za_if_eq (pc' := 290) (tgt := 294) dX20_of_287 (by decide) rfl (fun c9 => ?_) (fun c9 => ?_)
    · replace h := h.1 ((lg_cmp_eq s0 (0 : Int64)).mp c9)
      refine za_iconst (pc' := 295) dX20_of_294 zi_0 rfl ?_
      obtain ⟨hd64, h⟩ := h
      refine za_callS (M2 := mX20_is) (d2 := 1) (b2 := 0) (n := 1) (As := [.int (0 : Int32)]) (st := []) (pc' := 298) dX20_of_295 rfl (lw_S q1396 q1397 q165 q1398) hd_X20_is rfl (by decide) hd64 (Nat.zero_le _) (Or.inl rfl) (Nat.le_of_ble_eq_true rfl) h (zqJ__k rfl (fun r63 h => ?_)) (fun _ _ _ _ _ _ h9 h8 => absurd h8.1 h9) rfl
      exact za_lreturn rfl dX20_of_298 h
    · replace h := h.2 (fun c8 => c9 ((lg_cmp_eq s0 (0 : Int64)).mpr c8))
      refine za_iconst (pc' := 291) dX20_of_290 zi_1 rfl ?_
      refine za_goto (tgt := 295) dX20_of_291 (by decide) ?_
      obtain ⟨hd66, h⟩ := h
      refine za_callS (M2 := mX20_is) (d2 := 1) (b2 := 0) (n := 1) (As := [.int (1 : Int32)]) (st := []) (pc' := 298) dX20_of_295 rfl (lw_S q1396 q1397 q165 q1398) hd_X20_is rfl (by decide) hd66 (Nat.zero_le _) (Or.inl rfl) (Nat.le_of_ble_eq_true rfl) h (zqJ__k rfl (fun r65 h => ?_)) (fun _ _ _ _ _ _ h9 h8 => absurd h8.1 h9) rfl
      exact za_lreturn rfl dX20_of_298 h
theorem sX20_of {d b : Nat} {v0 : Nat} {v1 : Nat} {T : zT} {I : zI} {L : zL} {R : zR} {P : zP} (h : zAW mX20_of d b 0 [(0, .ref v0), (1, .ref v1)] [] T I L R P) : zMet mX20_of d b [.ref v0, .ref v1] T I L R P := zMet_of (by decide +kernel) rfl (Nat.le_of_ble_eq_true rfl) rfl h
/-! TwoTongues$Two.times (JJ)J -/
def dkwX20_times_1 : List UInt8 := [178, 0, 36, 191, 30, 32, 105, 173]
abbrev dktX20_times_1 : List UInt8 := dkwX20_times_1 ++ []
def dkwX20_times_0 : List UInt8 := [30, 9, 148, 153, 0, 23, 32, 184, 0, 44, 20, 0, 49, 30, 184, 0, 44, 109, 148, 158, 0, 7]
abbrev dktX20_times_0 : List UInt8 := dkwX20_times_0 ++ dktX20_times_1
theorem dksX20_times_0 : cX20_times.data.toList.drop 0 = dktX20_times_0 := by decide +kernel
theorem dksX20_times_1 : cX20_times.data.toList.drop 22 = dktX20_times_1 := dk_seg dksX20_times_0 22 rfl rfl
theorem dX20_times_0 : decode cX20_times 0 = .ok (.lload_n 0, 1) := dk_30 (dk_at dksX20_times_0 0 rfl rfl)
theorem dX20_times_1 : decode cX20_times 1 = .ok (.lconst 0, 1) := dk_9 (dk_at dksX20_times_0 1 rfl rfl)
theorem dX20_times_2 : decode cX20_times 2 = .ok (.lcmp, 1) := dk_148 (dk_at dksX20_times_0 2 rfl rfl)
theorem dX20_times_3 : decode cX20_times 3 = .ok (.ifCond .eq 23, 3) := dk_153 0 23 (dk_at dksX20_times_0 3 rfl rfl)
theorem dX20_times_6 : decode cX20_times 6 = .ok (.lload_n 2, 1) := dk_32 (dk_at dksX20_times_0 6 rfl rfl)
theorem dX20_times_7 : decode cX20_times 7 = .ok (.invokestatic 44, 3) := dk_184 0 44 (dk_at dksX20_times_0 7 rfl rfl)
theorem dX20_times_10 : decode cX20_times 10 = .ok (.ldc2_w 49, 3) := dk_20 0 49 (dk_at dksX20_times_0 10 rfl rfl)
theorem dX20_times_13 : decode cX20_times 13 = .ok (.lload_n 0, 1) := dk_30 (dk_at dksX20_times_0 13 rfl rfl)
theorem dX20_times_14 : decode cX20_times 14 = .ok (.invokestatic 44, 3) := dk_184 0 44 (dk_at dksX20_times_0 14 rfl rfl)
theorem dX20_times_17 : decode cX20_times 17 = .ok (.ldiv, 1) := dk_109 (dk_at dksX20_times_0 17 rfl rfl)
theorem dX20_times_18 : decode cX20_times 18 = .ok (.lcmp, 1) := dk_148 (dk_at dksX20_times_0 18 rfl rfl)
theorem dX20_times_19 : decode cX20_times 19 = .ok (.ifCond .le 7, 3) := dk_158 0 7 (dk_at dksX20_times_0 19 rfl rfl)
theorem dX20_times_22 : decode cX20_times 22 = .ok (.getstatic 36, 3) := dk_178 0 36 (dk_at dksX20_times_1 0 rfl rfl)
theorem dX20_times_25 : decode cX20_times 25 = .ok (.athrow, 1) := dk_191 (dk_at dksX20_times_1 3 rfl rfl)
theorem dX20_times_26 : decode cX20_times 26 = .ok (.lload_n 0, 1) := dk_30 (dk_at dksX20_times_1 4 rfl rfl)
theorem dX20_times_27 : decode cX20_times 27 = .ok (.lload_n 2, 1) := dk_32 (dk_at dksX20_times_1 5 rfl rfl)
theorem dX20_times_28 : decode cX20_times 28 = .ok (.lmul, 1) := dk_105 (dk_at dksX20_times_1 6 rfl rfl)
theorem dX20_times_29 : decode cX20_times 29 = .ok (.lreturn, 1) := dk_173 (dk_at dksX20_times_1 7 rfl rfl)
theorem gX20_times_0 {v0 : Int64} {v2 : Int64} {T : zT} {I : zI} {L : zL} {R : zR} {P : zP} (h : ((v0 = (0 : Int64) → P 0 (.long (v0 * v2)) T I L R) ∧ (¬ v0 = (0 : Int64) → ¬ (if 0 < v0 then v0 else -v0) = 0 ∧ ((((if 0 < v2 then v2 else -v2) ≤ ((1000000000000 : Int64) / (if 0 < v0 then v0 else -v0)) → P 0 (.long (v0 * v2)) T I L R) ∧ (¬ (if 0 < v2 then v2 else -v2) ≤ ((1000000000000 : Int64) / (if 0 < v0 then v0 else -v0)) → P 2 (.ref 2) T I L R)))))) : zAW mX20_times 1 0 0 [(0, .long v0), (2, .long v2)] [] T I L R P := by
  refine za_lload_n (pc' := 1) 0 dX20_times_0 rfl rfl rfl ?_
  refine za_lconst (pc' := 2) dX20_times_1 zl_0 rfl ?_
  refine za_lcmp (pc' := 3) dX20_times_2 rfl ?_
  refine za_if_eq (pc' := 6) (tgt := 26) dX20_times_3 (by decide) rfl (fun c9 => ?_) (fun c9 => ?_)
  · replace h := h.1 ((lg_cmp_eq v0 (0 : Int64)).mp c9)
    refine za_lload_n (pc' := 27) 0 dX20_times_26 rfl rfl rfl ?_
    refine za_lload_n (pc' := 28) 1 dX20_times_27 rfl rfl rfl ?_
    refine za_lmul (pc' := 29) dX20_times_28 rfl ?_
    exact za_lreturn rfl dX20_times_29 h
  · replace h := h.2 (fun c8 => c9 ((lg_cmp_eq v0 (0 : Int64)).mpr c8))
    refine za_lload_n (pc' := 7) 1 dX20_times_6 rfl rfl rfl ?_
    refine za_mabsL (pc' := 10) dX20_times_7 q1391 (by decide) (Nat.le_of_ble_eq_true rfl) rfl ?_
    refine za_ldc2 (pc' := 13) (v := (1000000000000 : Int64)) (own := "") dX20_times_10 q1394 rfl ?_
    refine za_lload_n (pc' := 14) 0 dX20_times_13 rfl rfl rfl ?_
    refine za_mabsL (pc' := 17) dX20_times_14 q1391 (by decide) (Nat.le_of_ble_eq_true rfl) rfl ?_
    obtain ⟨hn1, h⟩ := h
    refine za_ldiv (pc' := 18) dX20_times_17 hn1 rfl ?_
    refine za_lcmp (pc' := 19) dX20_times_18 rfl ?_
    refine za_if_le (pc' := 22) (tgt := 26) dX20_times_19 (by decide) rfl (fun c9 => ?_) (fun c9 => ?_)
    · replace h := h.1 ((lg_cmp_le (if 0 < v2 then v2 else -v2) ((1000000000000 : Int64) / (if 0 < v0 then v0 else -v0))).mp c9)
      refine za_lload_n (pc' := 27) 0 dX20_times_26 rfl rfl rfl ?_
      refine za_lload_n (pc' := 28) 1 dX20_times_27 rfl rfl rfl ?_
      refine za_lmul (pc' := 29) dX20_times_28 rfl ?_
      exact za_lreturn rfl dX20_times_29 h
    · replace h := h.2 (fun c8 => c9 ((lg_cmp_le (if 0 < v2 then v2 else -v2) ((1000000000000 : Int64) / (if 0 < v0 then v0 else -v0))).mpr c8))
      refine za_getTroubleN (pc' := 25) dX20_times_22 q1395 rfl ?_
      exact za_trouble dX20_times_25 rfl h
theorem sX20_times {d b : Nat} {v0 : Int64} {v2 : Int64} {T : zT} {I : zI} {L : zL} {R : zR} {P : zP} (h : zAW mX20_times d b 0 [(0, .long v0), (2, .long v2)] [] T I L R P) : zMet mX20_times d b [.long v0, .long v2] T I L R P := zMet_of (by decide +kernel) rfl (Nat.le_of_ble_eq_true rfl) rfl h
/-! TwoTongues$Two.is (Z)J -/
def dkwX20_is_0 : List UInt8 := [26, 153, 0, 7, 10, 167, 0, 4, 9, 173]
abbrev dktX20_is_0 : List UInt8 := dkwX20_is_0 ++ []
theorem dksX20_is_0 : cX20_is.data.toList.drop 0 = dktX20_is_0 := by decide +kernel
theorem dX20_is_0 : decode cX20_is 0 = .ok (.iload_n 0, 1) := dk_26 (dk_at dksX20_is_0 0 rfl rfl)
theorem dX20_is_1 : decode cX20_is 1 = .ok (.ifCond .eq 7, 3) := dk_153 0 7 (dk_at dksX20_is_0 1 rfl rfl)
theorem dX20_is_4 : decode cX20_is 4 = .ok (.lconst 1, 1) := dk_10 (dk_at dksX20_is_0 4 rfl rfl)
theorem dX20_is_5 : decode cX20_is 5 = .ok (.goto 4, 3) := dk_167 0 4 (dk_at dksX20_is_0 5 rfl rfl)
theorem dX20_is_8 : decode cX20_is 8 = .ok (.lconst 0, 1) := dk_9 (dk_at dksX20_is_0 8 rfl rfl)
theorem dX20_is_9 : decode cX20_is 9 = .ok (.lreturn, 1) := dk_173 (dk_at dksX20_is_0 9 rfl rfl)
theorem gX20_is_0 {v0 : Int32} {T : zT} {I : zI} {L : zL} {R : zR} {P : zP} (h : ((v0 = 0 → P 0 (.long (0 : Int64)) T I L R) ∧ (¬ v0 = 0 → P 0 (.long (1 : Int64)) T I L R))) : zAW mX20_is 1 0 0 [(0, .int v0)] [] T I L R P := by
  refine za_iload_n (pc' := 1) 0 dX20_is_0 rfl rfl rfl ?_
  refine za_if_eq (pc' := 4) (tgt := 8) dX20_is_1 (by decide) rfl (fun c9 => ?_) (fun c9 => ?_)
  · replace h := h.1 c9
    refine za_lconst (pc' := 9) dX20_is_8 zl_0 rfl ?_
    exact za_lreturn rfl dX20_is_9 h
  · replace h := h.2 c9
    refine za_lconst (pc' := 5) dX20_is_4 zl_1 rfl ?_
    refine za_goto (tgt := 9) dX20_is_5 (by decide) ?_
    exact za_lreturn rfl dX20_is_9 h
theorem sX20_is {d b : Nat} {v0 : Int32} {T : zT} {I : zI} {L : zL} {R : zR} {P : zP} (h : zAW mX20_is d b 0 [(0, .int v0)] [] T I L R P) : zMet mX20_is d b [.int v0] T I L R P := zMet_of (by decide +kernel) rfl (Nat.le_of_ble_eq_true rfl) rfl h
/-! TwoTongues$State.<init> (LTwoTongues;)V -/
def dkwX10_init_4 : List UInt8 := [187, 0, 22, 89, 183, 0, 24, 83, 181, 0, 25, 177]
abbrev dktX10_init_4 : List UInt8 := dkwX10_init_4 ++ []
def dkwX10_init_3 : List UInt8 := [83, 89, 6, 187, 0, 22, 89, 183, 0, 24, 83, 89, 7, 187, 0, 22, 89, 183, 0, 24, 83, 89, 8]
abbrev dktX10_init_3 : List UInt8 := dkwX10_init_3 ++ dktX10_init_4
def dkwX10_init_2 : List UInt8 := [89, 183, 0, 24, 83, 89, 4, 187, 0, 22, 89, 183, 0, 24, 83, 89, 5, 187, 0, 22, 89, 183, 0, 24]
abbrev dktX10_init_2 : List UInt8 := dkwX10_init_2 ++ dktX10_init_3
def dkwX10_init_1 : List UInt8 := [89, 4, 187, 0, 15, 89, 183, 0, 17, 83, 181, 0, 18, 42, 16, 6, 189, 0, 22, 89, 3, 187, 0, 22]
abbrev dktX10_init_1 : List UInt8 := dkwX10_init_1 ++ dktX10_init_2
def dkwX10_init_0 : List UInt8 := [42, 43, 181, 0, 3, 42, 183, 0, 9, 42, 5, 189, 0, 15, 89, 3, 187, 0, 15, 89, 183, 0, 17, 83]
abbrev dktX10_init_0 : List UInt8 := dkwX10_init_0 ++ dktX10_init_1
theorem dksX10_init_0 : cX10_init.data.toList.drop 0 = dktX10_init_0 := by decide +kernel
theorem dksX10_init_1 : cX10_init.data.toList.drop 24 = dktX10_init_1 := dk_seg dksX10_init_0 24 rfl rfl
theorem dksX10_init_2 : cX10_init.data.toList.drop 48 = dktX10_init_2 := dk_seg dksX10_init_1 24 rfl rfl
theorem dksX10_init_3 : cX10_init.data.toList.drop 72 = dktX10_init_3 := dk_seg dksX10_init_2 24 rfl rfl
theorem dksX10_init_4 : cX10_init.data.toList.drop 95 = dktX10_init_4 := dk_seg dksX10_init_3 23 rfl rfl
theorem dX10_init_0 : decode cX10_init 0 = .ok (.aload_n 0, 1) := dk_42 (dk_at dksX10_init_0 0 rfl rfl)
theorem dX10_init_1 : decode cX10_init 1 = .ok (.aload_n 1, 1) := dk_43 (dk_at dksX10_init_0 1 rfl rfl)
theorem dX10_init_2 : decode cX10_init 2 = .ok (.putfield 3, 3) := dk_181 0 3 (dk_at dksX10_init_0 2 rfl rfl)
theorem dX10_init_5 : decode cX10_init 5 = .ok (.aload_n 0, 1) := dk_42 (dk_at dksX10_init_0 5 rfl rfl)
theorem dX10_init_6 : decode cX10_init 6 = .ok (.invokespecial 9, 3) := dk_183 0 9 (dk_at dksX10_init_0 6 rfl rfl)
theorem dX10_init_9 : decode cX10_init 9 = .ok (.aload_n 0, 1) := dk_42 (dk_at dksX10_init_0 9 rfl rfl)
theorem dX10_init_10 : decode cX10_init 10 = .ok (.iconst 2, 1) := dk_5 (dk_at dksX10_init_0 10 rfl rfl)
theorem dX10_init_11 : decode cX10_init 11 = .ok (.anewarray 15, 3) := dk_189 0 15 (dk_at dksX10_init_0 11 rfl rfl)
theorem dX10_init_14 : decode cX10_init 14 = .ok (.dup, 1) := dk_89 (dk_at dksX10_init_0 14 rfl rfl)
theorem dX10_init_15 : decode cX10_init 15 = .ok (.iconst 0, 1) := dk_3 (dk_at dksX10_init_0 15 rfl rfl)
theorem dX10_init_16 : decode cX10_init 16 = .ok (.new 15, 3) := dk_187 0 15 (dk_at dksX10_init_0 16 rfl rfl)
theorem dX10_init_19 : decode cX10_init 19 = .ok (.dup, 1) := dk_89 (dk_at dksX10_init_0 19 rfl rfl)
theorem dX10_init_20 : decode cX10_init 20 = .ok (.invokespecial 17, 3) := dk_183 0 17 (dk_at dksX10_init_0 20 rfl rfl)
theorem dX10_init_23 : decode cX10_init 23 = .ok (.aastore, 1) := dk_83 (dk_at dksX10_init_0 23 rfl rfl)
theorem dX10_init_24 : decode cX10_init 24 = .ok (.dup, 1) := dk_89 (dk_at dksX10_init_1 0 rfl rfl)
theorem dX10_init_25 : decode cX10_init 25 = .ok (.iconst 1, 1) := dk_4 (dk_at dksX10_init_1 1 rfl rfl)
theorem dX10_init_26 : decode cX10_init 26 = .ok (.new 15, 3) := dk_187 0 15 (dk_at dksX10_init_1 2 rfl rfl)
theorem dX10_init_29 : decode cX10_init 29 = .ok (.dup, 1) := dk_89 (dk_at dksX10_init_1 5 rfl rfl)
theorem dX10_init_30 : decode cX10_init 30 = .ok (.invokespecial 17, 3) := dk_183 0 17 (dk_at dksX10_init_1 6 rfl rfl)
theorem dX10_init_33 : decode cX10_init 33 = .ok (.aastore, 1) := dk_83 (dk_at dksX10_init_1 9 rfl rfl)
theorem dX10_init_34 : decode cX10_init 34 = .ok (.putfield 18, 3) := dk_181 0 18 (dk_at dksX10_init_1 10 rfl rfl)
theorem dX10_init_37 : decode cX10_init 37 = .ok (.aload_n 0, 1) := dk_42 (dk_at dksX10_init_1 13 rfl rfl)
theorem dX10_init_38 : decode cX10_init 38 = .ok (.bipush 6, 2) := dk_16 6 (dk_at dksX10_init_1 14 rfl rfl)
theorem dX10_init_40 : decode cX10_init 40 = .ok (.anewarray 22, 3) := dk_189 0 22 (dk_at dksX10_init_1 16 rfl rfl)
theorem dX10_init_43 : decode cX10_init 43 = .ok (.dup, 1) := dk_89 (dk_at dksX10_init_1 19 rfl rfl)
theorem dX10_init_44 : decode cX10_init 44 = .ok (.iconst 0, 1) := dk_3 (dk_at dksX10_init_1 20 rfl rfl)
theorem dX10_init_45 : decode cX10_init 45 = .ok (.new 22, 3) := dk_187 0 22 (dk_at dksX10_init_1 21 rfl rfl)
theorem dX10_init_48 : decode cX10_init 48 = .ok (.dup, 1) := dk_89 (dk_at dksX10_init_2 0 rfl rfl)
theorem dX10_init_49 : decode cX10_init 49 = .ok (.invokespecial 24, 3) := dk_183 0 24 (dk_at dksX10_init_2 1 rfl rfl)
theorem dX10_init_52 : decode cX10_init 52 = .ok (.aastore, 1) := dk_83 (dk_at dksX10_init_2 4 rfl rfl)
theorem dX10_init_53 : decode cX10_init 53 = .ok (.dup, 1) := dk_89 (dk_at dksX10_init_2 5 rfl rfl)
theorem dX10_init_54 : decode cX10_init 54 = .ok (.iconst 1, 1) := dk_4 (dk_at dksX10_init_2 6 rfl rfl)
theorem dX10_init_55 : decode cX10_init 55 = .ok (.new 22, 3) := dk_187 0 22 (dk_at dksX10_init_2 7 rfl rfl)
theorem dX10_init_58 : decode cX10_init 58 = .ok (.dup, 1) := dk_89 (dk_at dksX10_init_2 10 rfl rfl)
theorem dX10_init_59 : decode cX10_init 59 = .ok (.invokespecial 24, 3) := dk_183 0 24 (dk_at dksX10_init_2 11 rfl rfl)
theorem dX10_init_62 : decode cX10_init 62 = .ok (.aastore, 1) := dk_83 (dk_at dksX10_init_2 14 rfl rfl)
theorem dX10_init_63 : decode cX10_init 63 = .ok (.dup, 1) := dk_89 (dk_at dksX10_init_2 15 rfl rfl)
theorem dX10_init_64 : decode cX10_init 64 = .ok (.iconst 2, 1) := dk_5 (dk_at dksX10_init_2 16 rfl rfl)
theorem dX10_init_65 : decode cX10_init 65 = .ok (.new 22, 3) := dk_187 0 22 (dk_at dksX10_init_2 17 rfl rfl)
theorem dX10_init_68 : decode cX10_init 68 = .ok (.dup, 1) := dk_89 (dk_at dksX10_init_2 20 rfl rfl)
theorem dX10_init_69 : decode cX10_init 69 = .ok (.invokespecial 24, 3) := dk_183 0 24 (dk_at dksX10_init_2 21 rfl rfl)
theorem dX10_init_72 : decode cX10_init 72 = .ok (.aastore, 1) := dk_83 (dk_at dksX10_init_3 0 rfl rfl)
theorem dX10_init_73 : decode cX10_init 73 = .ok (.dup, 1) := dk_89 (dk_at dksX10_init_3 1 rfl rfl)
theorem dX10_init_74 : decode cX10_init 74 = .ok (.iconst 3, 1) := dk_6 (dk_at dksX10_init_3 2 rfl rfl)
theorem dX10_init_75 : decode cX10_init 75 = .ok (.new 22, 3) := dk_187 0 22 (dk_at dksX10_init_3 3 rfl rfl)
theorem dX10_init_78 : decode cX10_init 78 = .ok (.dup, 1) := dk_89 (dk_at dksX10_init_3 6 rfl rfl)
theorem dX10_init_79 : decode cX10_init 79 = .ok (.invokespecial 24, 3) := dk_183 0 24 (dk_at dksX10_init_3 7 rfl rfl)
theorem dX10_init_82 : decode cX10_init 82 = .ok (.aastore, 1) := dk_83 (dk_at dksX10_init_3 10 rfl rfl)
theorem dX10_init_83 : decode cX10_init 83 = .ok (.dup, 1) := dk_89 (dk_at dksX10_init_3 11 rfl rfl)
theorem dX10_init_84 : decode cX10_init 84 = .ok (.iconst 4, 1) := dk_7 (dk_at dksX10_init_3 12 rfl rfl)
theorem dX10_init_85 : decode cX10_init 85 = .ok (.new 22, 3) := dk_187 0 22 (dk_at dksX10_init_3 13 rfl rfl)
theorem dX10_init_88 : decode cX10_init 88 = .ok (.dup, 1) := dk_89 (dk_at dksX10_init_3 16 rfl rfl)
theorem dX10_init_89 : decode cX10_init 89 = .ok (.invokespecial 24, 3) := dk_183 0 24 (dk_at dksX10_init_3 17 rfl rfl)
theorem dX10_init_92 : decode cX10_init 92 = .ok (.aastore, 1) := dk_83 (dk_at dksX10_init_3 20 rfl rfl)
theorem dX10_init_93 : decode cX10_init 93 = .ok (.dup, 1) := dk_89 (dk_at dksX10_init_3 21 rfl rfl)
theorem dX10_init_94 : decode cX10_init 94 = .ok (.iconst 5, 1) := dk_8 (dk_at dksX10_init_3 22 rfl rfl)
theorem dX10_init_95 : decode cX10_init 95 = .ok (.new 22, 3) := dk_187 0 22 (dk_at dksX10_init_4 0 rfl rfl)
theorem dX10_init_98 : decode cX10_init 98 = .ok (.dup, 1) := dk_89 (dk_at dksX10_init_4 3 rfl rfl)
theorem dX10_init_99 : decode cX10_init 99 = .ok (.invokespecial 24, 3) := dk_183 0 24 (dk_at dksX10_init_4 4 rfl rfl)
theorem dX10_init_102 : decode cX10_init 102 = .ok (.aastore, 1) := dk_83 (dk_at dksX10_init_4 7 rfl rfl)
theorem dX10_init_103 : decode cX10_init 103 = .ok (.putfield 25, 3) := dk_181 0 25 (dk_at dksX10_init_4 8 rfl rfl)
theorem dX10_init_106 : decode cX10_init 106 = .ok (.return_, 1) := dk_177 (dk_at dksX10_init_4 11 rfl rfl)
theorem gX10_init_0 {b : Nat} {v0 : Nat} {v1 : Nat} {T : zT} {I : zI} {L : zL} {R : zR} {P : zP} (h : (T v0).1 = 10 ∧ ∃ κ2, 100 ≤ κ2 ∧ (T κ2).1 = 0 ∧ 2 + 1 ≤ b ∧ ∃ κ6, 100 ≤ κ6 ∧ ((z1 T κ2 (104, 2)) κ6).1 = 0 ∧ 3 + 1 ≤ (b - (2 + 1)) ∧ ∃ b14, b14 ≤ ((b - (2 + 1)) - (3 + 1)) ∧ zMet mX4_init 1 b14 [.ref κ6] (z1 (z1 T κ2 (104, 2)) κ6 (4, 0)) (z1 (z1 I κ2 fun _ => 0) κ6 fun _ => 0) (z1 (z1 L κ2 fun _ => 0) κ6 fun _ => 0) (z1 (z1 (z2 R v0 4 v1) κ2 fun _ => 0) κ6 fun _ => 0) (zqV_TILR   (fun (T10 : zT) (I11 : zI) (L12 : zL) (R13 : zR)  => (T10 κ2).1 = 104 ∧ vp_in (0 : Int32) ((T10 κ2).2) ∧ (T10 κ6).1 = 4 ∧ ∃ κ19, 100 ≤ κ19 ∧ (T10 κ19).1 = 0 ∧ 3 + 1 ≤ (((b - (2 + 1)) - (3 + 1)) - b14) ∧ ∃ b27, b27 ≤ ((((b - (2 + 1)) - (3 + 1)) - b14) - (3 + 1)) ∧ zMet mX4_init 1 b27 [.ref κ19] (z1 T10 κ19 (4, 0)) (z1 I11 κ19 fun _ => 0) (z1 L12 κ19 fun _ => 0) (z1 (z2 R13 κ2 0 κ6) κ19 fun _ => 0) (zqV_TILR   (fun (T23 : zT) (I24 : zI) (L25 : zL) (R26 : zR)  => zAW mX10_init 2 (((((b - (2 + 1)) - (3 + 1)) - b14) - (3 + 1)) - b27) 33 [(0, .ref v0)] [.ref κ19, .int (1 : Int32), .ref κ2, .ref κ2, .ref v0] T23 I24 L25 R26 P))))) : zAW mX10_init 2 b 0 [(0, .ref v0), (1, .ref v1)] [] T I L R P := by
  obtain ⟨ht1, h⟩ := h
  refine za_aload_n (pc' := 1) 0 dX10_init_0 rfl rfl rfl ?_
  refine za_aload_n (pc' := 2) 1 dX10_init_1 rfl rfl rfl ?_
  refine za_putFR (fi := 4) (pc' := 5) dX10_init_2 zc9 (by decide) in_X10 zok9 znm9 (by decide) q423 (Or.inl rfl) rfl rfl rfl rfl (fun _ _ _ => rfl) ht1 rfl ?_
  refine za_aload_n (pc' := 6) 0 dX10_init_5 rfl rfl rfl ?_
  refine za_objInit (pc' := 9) dX10_init_6 q391 (by decide) (by rw [ht1]; decide) (Nat.le_of_ble_eq_true rfl) rfl ?_
  refine za_aload_n (pc' := 10) 0 dX10_init_9 rfl rfl rfl ?_
  refine za_iconst (pc' := 11) dX10_init_10 zi_2 rfl ?_
  obtain ⟨κ2, hk3, hf4, hb5, h⟩ := h
  refine za_newq (κ := κ2) (N := 2) (t := 4) (C := RX4) (pc' := 14) dX10_init_11 q392 (by decide) (by decide) (fun _ => rfl) (by decide) zn_2 (by decide) hk3 hf4 hb5 rfl ?_
  refine za_dup (pc' := 15) dX10_init_14 rfl rfl ?_
  refine za_iconst (pc' := 16) dX10_init_15 zi_0 rfl ?_
  obtain ⟨κ6, hk7, hf8, hb9, h⟩ := h
  refine za_new (κ := κ6) (pc' := 19) dX10_init_16 zc3 (by decide) in_X4 zok3 zdf3 q392 q221 q134 hk7 hf8 hb9 rfl ?_
  refine za_dup (pc' := 20) dX10_init_19 rfl rfl ?_
  obtain ⟨b14, hb15, h⟩ := h
  refine za_callIN (κ := κ6) (M2 := mX4_init) (d2 := 1) (b2 := b14) (n := 0) (As := []) (st := [.ref κ6, .int (0 : Int32), .ref κ2, .ref κ2, .ref v0]) (pc' := 23) (by rw [(congrArg Prod.fst z1_s)]; decide) dX10_init_20 rfl (lw_meth q224) rfl q394 q223 q134 rfl hd_X4_init rfl (by decide) (by decide) hb15 (Or.inl rfl) (Nat.le_of_ble_eq_true rfl) h (zqV_TILR_k rfl (fun T10 I11 L12 R13 h => ?_)) (fun _ _ _ _ _ _ h9 h8 => absurd h8.1 h9) rfl
  obtain ⟨ht16, h⟩ := h
  obtain ⟨hi17, h⟩ := h
  obtain ⟨ht18, h⟩ := h
  refine za_aast (kx := 0) (t := 4) (pc' := 24) dX10_init_23 (by decide) (fun _ => rfl) (zpair ht16) hi17 zc3 (by decide) ht18 zn_0 rfl ?_
  refine za_dup (pc' := 25) dX10_init_24 rfl rfl ?_
  refine za_iconst (pc' := 26) dX10_init_25 zi_1 rfl ?_
  obtain ⟨κ19, hk20, hf21, hb22, h⟩ := h
  refine za_new (κ := κ19) (pc' := 29) dX10_init_26 zc3 (by decide) in_X4 zok3 zdf3 q392 q221 q134 hk20 hf21 hb22 rfl ?_
  refine za_dup (pc' := 30) dX10_init_29 rfl rfl ?_
  obtain ⟨b27, hb28, h⟩ := h
  refine za_callIN (κ := κ19) (M2 := mX4_init) (d2 := 1) (b2 := b27) (n := 0) (As := []) (st := [.ref κ19, .int (1 : Int32), .ref κ2, .ref κ2, .ref v0]) (pc' := 33) (by rw [(congrArg Prod.fst z1_s)]; decide) dX10_init_30 rfl (lw_meth q224) rfl q394 q223 q134 rfl hd_X4_init rfl (by decide) (by decide) hb28 (Or.inl rfl) (Nat.le_of_ble_eq_true rfl) h (zqV_TILR_k rfl (fun T23 I24 L25 R26 h => ?_)) (fun _ _ _ _ _ _ h9 h8 => absurd h8.1 h9) rfl
  exact zAW_sub [0] rfl h
theorem gX10_init_33 {b : Nat} {v0 : Nat} {s0 : Nat} {s1 : Int32} {s2 : Nat} {s3 : Nat} {s4 : Nat} {T : zT} {I : zI} {L : zL} {R : zR} {P : zP} (h : (T v0).1 = 10 ∧ (T s2).1 = 104 ∧ vp_in s1 ((T s2).2) ∧ (T s0).1 = 4 ∧ (T s4).1 = 10 ∧ ∃ κ34, 100 ≤ κ34 ∧ (T κ34).1 = 0 ∧ 6 + 1 ≤ b ∧ ∃ κ38, 100 ≤ κ38 ∧ ((z1 T κ34 (105, 6)) κ38).1 = 0 ∧ 2 + 1 ≤ (b - (6 + 1)) ∧ ∃ b46, b46 ≤ ((b - (6 + 1)) - (2 + 1)) ∧ zMet mX11_init 1 b46 [.ref κ38] (z1 (z1 T κ34 (105, 6)) κ38 (11, 0)) (z1 (z1 I κ34 fun _ => 0) κ38 fun _ => 0) (z1 (z1 L κ34 fun _ => 0) κ38 fun _ => 0) (z1 (z1 (z2 (z2 R s2 (s1.toNatClampNeg) s0) s4 0 s3) κ34 fun _ => 0) κ38 fun _ => 0) (zqV_TILR   (fun (T42 : zT) (I43 : zI) (L44 : zL) (R45 : zR)  => (T42 κ34).1 = 105 ∧ vp_in (0 : Int32) ((T42 κ34).2) ∧ (T42 κ38).1 = 11 ∧ ∃ κ51, 100 ≤ κ51 ∧ (T42 κ51).1 = 0 ∧ 2 + 1 ≤ (((b - (6 + 1)) - (2 + 1)) - b46) ∧ ∃ b59, b59 ≤ ((((b - (6 + 1)) - (2 + 1)) - b46) - (2 + 1)) ∧ zMet mX11_init 1 b59 [.ref κ51] (z1 T42 κ51 (11, 0)) (z1 I43 κ51 fun _ => 0) (z1 L44 κ51 fun _ => 0) (z1 (z2 R45 κ34 0 κ38) κ51 fun _ => 0) (zqV_TILR   (fun (T55 : zT) (I56 : zI) (L57 : zL) (R58 : zR)  => zAW mX10_init 2 (((((b - (6 + 1)) - (2 + 1)) - b46) - (2 + 1)) - b59) 62 [] [.ref κ51, .int (1 : Int32), .ref κ34, .ref κ34, .ref v0] T55 I56 L57 R58 P))))) : zAW mX10_init 2 b 33 [(0, .ref v0)] [.ref s0, .int s1, .ref s2, .ref s3, .ref s4] T I L R P := by
  obtain ⟨ht29, h⟩ := h
  obtain ⟨ht30, h⟩ := h
  obtain ⟨hi31, h⟩ := h
  obtain ⟨ht32, h⟩ := h
  refine za_aast (kx := s1.toNatClampNeg) (t := 4) (pc' := 34) dX10_init_33 (by decide) (fun _ => rfl) (zpair ht30) hi31 zc3 (by decide) ht32 rfl rfl ?_
  obtain ⟨ht33, h⟩ := h
  refine za_putFR (fi := 0) (pc' := 37) dX10_init_34 zc9 (by decide) in_X10 zok9 znm9 (by decide) q415 (Or.inl rfl) rfl rfl rfl rfl (fun _ _ _ => rfl) ht33 rfl ?_
  refine za_aload_n (pc' := 38) 0 dX10_init_37 rfl rfl rfl ?_
  refine za_bipush (pc' := 40) dX10_init_38 zb8_6 rfl ?_
  obtain ⟨κ34, hk35, hf36, hb37, h⟩ := h
  refine za_newq (κ := κ34) (N := 6) (t := 5) (C := RX11) (pc' := 43) dX10_init_40 q395 (by decide) (by decide) (fun _ => rfl) (by decide) zn_6 (by decide) hk35 hf36 hb37 rfl ?_
  refine za_dup (pc' := 44) dX10_init_43 rfl rfl ?_
  refine za_iconst (pc' := 45) dX10_init_44 zi_0 rfl ?_
  obtain ⟨κ38, hk39, hf40, hb41, h⟩ := h
  refine za_new (κ := κ38) (pc' := 48) dX10_init_45 zc10 (by decide) in_X11 zok10 zdf10 q395 q397 q144 hk39 hf40 hb41 rfl ?_
  refine za_dup (pc' := 49) dX10_init_48 rfl rfl ?_
  obtain ⟨b46, hb47, h⟩ := h
  refine za_callIN (κ := κ38) (M2 := mX11_init) (d2 := 1) (b2 := b46) (n := 0) (As := []) (st := [.ref κ38, .int (0 : Int32), .ref κ34, .ref κ34, .ref v0]) (pc' := 52) (by rw [(congrArg Prod.fst z1_s)]; decide) dX10_init_49 rfl (lw_meth q400) rfl q398 q399 q144 rfl hd_X11_init rfl (by decide) (by decide) hb47 (Or.inl rfl) (Nat.le_of_ble_eq_true rfl) h (zqV_TILR_k rfl (fun T42 I43 L44 R45 h => ?_)) (fun _ _ _ _ _ _ h9 h8 => absurd h8.1 h9) rfl
  obtain ⟨ht48, h⟩ := h
  obtain ⟨hi49, h⟩ := h
  obtain ⟨ht50, h⟩ := h
  refine za_aast (kx := 0) (t := 5) (pc' := 53) dX10_init_52 (by decide) (fun _ => rfl) (zpair ht48) hi49 zc10 (by decide) ht50 zn_0 rfl ?_
  refine za_dup (pc' := 54) dX10_init_53 rfl rfl ?_
  refine za_iconst (pc' := 55) dX10_init_54 zi_1 rfl ?_
  obtain ⟨κ51, hk52, hf53, hb54, h⟩ := h
  refine za_new (κ := κ51) (pc' := 58) dX10_init_55 zc10 (by decide) in_X11 zok10 zdf10 q395 q397 q144 hk52 hf53 hb54 rfl ?_
  refine za_dup (pc' := 59) dX10_init_58 rfl rfl ?_
  obtain ⟨b59, hb60, h⟩ := h
  refine za_callIN (κ := κ51) (M2 := mX11_init) (d2 := 1) (b2 := b59) (n := 0) (As := []) (st := [.ref κ51, .int (1 : Int32), .ref κ34, .ref κ34, .ref v0]) (pc' := 62) (by rw [(congrArg Prod.fst z1_s)]; decide) dX10_init_59 rfl (lw_meth q400) rfl q398 q399 q144 rfl hd_X11_init rfl (by decide) (by decide) hb60 (Or.inl rfl) (Nat.le_of_ble_eq_true rfl) h (zqV_TILR_k rfl (fun T55 I56 L57 R58 h => ?_)) (fun _ _ _ _ _ _ h9 h8 => absurd h8.1 h9) rfl
  exact zAW_sub [] rfl h
theorem gX10_init_62 {b : Nat} {s0 : Nat} {s1 : Int32} {s2 : Nat} {s3 : Nat} {s4 : Nat} {T : zT} {I : zI} {L : zL} {R : zR} {P : zP} (h : (T s2).1 = 105 ∧ vp_in s1 ((T s2).2) ∧ (T s0).1 = 11 ∧ ∃ κ64, 100 ≤ κ64 ∧ (T κ64).1 = 0 ∧ 2 + 1 ≤ b ∧ ∃ b72, b72 ≤ (b - (2 + 1)) ∧ zMet mX11_init 1 b72 [.ref κ64] (z1 T κ64 (11, 0)) (z1 I κ64 fun _ => 0) (z1 L κ64 fun _ => 0) (z1 (z2 R s2 (s1.toNatClampNeg) s0) κ64 fun _ => 0) (zqV_TILR   (fun (T68 : zT) (I69 : zI) (L70 : zL) (R71 : zR)  => (T68 s3).1 = 105 ∧ vp_in (2 : Int32) ((T68 s3).2) ∧ (T68 κ64).1 = 11 ∧ ∃ κ77, 100 ≤ κ77 ∧ (T68 κ77).1 = 0 ∧ 2 + 1 ≤ ((b - (2 + 1)) - b72) ∧ ∃ b85, b85 ≤ (((b - (2 + 1)) - b72) - (2 + 1)) ∧ zMet mX11_init 1 b85 [.ref κ77] (z1 T68 κ77 (11, 0)) (z1 I69 κ77 fun _ => 0) (z1 L70 κ77 fun _ => 0) (z1 (z2 R71 s3 2 κ64) κ77 fun _ => 0) (zqV_TILR   (fun (T81 : zT) (I82 : zI) (L83 : zL) (R84 : zR)  => (T81 s3).1 = 105 ∧ vp_in (3 : Int32) ((T81 s3).2) ∧ (T81 κ77).1 = 11 ∧ ∃ κ90, 100 ≤ κ90 ∧ (T81 κ90).1 = 0 ∧ 2 + 1 ≤ ((((b - (2 + 1)) - b72) - (2 + 1)) - b85) ∧ zAW mX10_init 2 (((((b - (2 + 1)) - b72) - (2 + 1)) - b85) - (2 + 1)) 88 [] [.ref κ90, .int (4 : Int32), .ref s3, .ref s3, .ref s4] (z1 T81 κ90 (11, 0)) (z1 I82 κ90 fun _ => 0) (z1 L83 κ90 fun _ => 0) (z1 (z2 R84 s3 3 κ77) κ90 fun _ => 0) P))))) : zAW mX10_init 2 b 62 [] [.ref s0, .int s1, .ref s2, .ref s3, .ref s4] T I L R P := by
  obtain ⟨ht61, h⟩ := h
  obtain ⟨hi62, h⟩ := h
  obtain ⟨ht63, h⟩ := h
  refine za_aast (kx := s1.toNatClampNeg) (t := 5) (pc' := 63) dX10_init_62 (by decide) (fun _ => rfl) (zpair ht61) hi62 zc10 (by decide) ht63 rfl rfl ?_
  refine za_dup (pc' := 64) dX10_init_63 rfl rfl ?_
  refine za_iconst (pc' := 65) dX10_init_64 zi_2 rfl ?_
  obtain ⟨κ64, hk65, hf66, hb67, h⟩ := h
  refine za_new (κ := κ64) (pc' := 68) dX10_init_65 zc10 (by decide) in_X11 zok10 zdf10 q395 q397 q144 hk65 hf66 hb67 rfl ?_
  refine za_dup (pc' := 69) dX10_init_68 rfl rfl ?_
  obtain ⟨b72, hb73, h⟩ := h
  refine za_callIN (κ := κ64) (M2 := mX11_init) (d2 := 1) (b2 := b72) (n := 0) (As := []) (st := [.ref κ64, .int (2 : Int32), .ref s3, .ref s3, .ref s4]) (pc' := 72) (by rw [(congrArg Prod.fst z1_s)]; decide) dX10_init_69 rfl (lw_meth q400) rfl q398 q399 q144 rfl hd_X11_init rfl (by decide) (by decide) hb73 (Or.inl rfl) (Nat.le_of_ble_eq_true rfl) h (zqV_TILR_k rfl (fun T68 I69 L70 R71 h => ?_)) (fun _ _ _ _ _ _ h9 h8 => absurd h8.1 h9) rfl
  obtain ⟨ht74, h⟩ := h
  obtain ⟨hi75, h⟩ := h
  obtain ⟨ht76, h⟩ := h
  refine za_aast (kx := 2) (t := 5) (pc' := 73) dX10_init_72 (by decide) (fun _ => rfl) (zpair ht74) hi75 zc10 (by decide) ht76 zn_2 rfl ?_
  refine za_dup (pc' := 74) dX10_init_73 rfl rfl ?_
  refine za_iconst (pc' := 75) dX10_init_74 zi_3 rfl ?_
  obtain ⟨κ77, hk78, hf79, hb80, h⟩ := h
  refine za_new (κ := κ77) (pc' := 78) dX10_init_75 zc10 (by decide) in_X11 zok10 zdf10 q395 q397 q144 hk78 hf79 hb80 rfl ?_
  refine za_dup (pc' := 79) dX10_init_78 rfl rfl ?_
  obtain ⟨b85, hb86, h⟩ := h
  refine za_callIN (κ := κ77) (M2 := mX11_init) (d2 := 1) (b2 := b85) (n := 0) (As := []) (st := [.ref κ77, .int (3 : Int32), .ref s3, .ref s3, .ref s4]) (pc' := 82) (by rw [(congrArg Prod.fst z1_s)]; decide) dX10_init_79 rfl (lw_meth q400) rfl q398 q399 q144 rfl hd_X11_init rfl (by decide) (by decide) hb86 (Or.inl rfl) (Nat.le_of_ble_eq_true rfl) h (zqV_TILR_k rfl (fun T81 I82 L83 R84 h => ?_)) (fun _ _ _ _ _ _ h9 h8 => absurd h8.1 h9) rfl
  obtain ⟨ht87, h⟩ := h
  obtain ⟨hi88, h⟩ := h
  obtain ⟨ht89, h⟩ := h
  refine za_aast (kx := 3) (t := 5) (pc' := 83) dX10_init_82 (by decide) (fun _ => rfl) (zpair ht87) hi88 zc10 (by decide) ht89 zn_3 rfl ?_
  refine za_dup (pc' := 84) dX10_init_83 rfl rfl ?_
  refine za_iconst (pc' := 85) dX10_init_84 zi_4 rfl ?_
  obtain ⟨κ90, hk91, hf92, hb93, h⟩ := h
  refine za_new (κ := κ90) (pc' := 88) dX10_init_85 zc10 (by decide) in_X11 zok10 zdf10 q395 q397 q144 hk91 hf92 hb93 rfl ?_
  exact zAW_sub [] rfl h
theorem gX10_init_88 {b : Nat} {s0 : Nat} {s1 : Int32} {s2 : Nat} {s3 : Nat} {s4 : Nat} {T : zT} {I : zI} {L : zL} {R : zR} {P : zP} (h : (T s0).1 = 11 ∧ ∃ b98, b98 ≤ b ∧ zMet mX11_init 1 b98 [.ref s0] T I L R (zqV_TILR   (fun (T94 : zT) (I95 : zI) (L96 : zL) (R97 : zR)  => (T94 s2).1 = 105 ∧ vp_in s1 ((T94 s2).2) ∧ (T94 s0).1 = 11 ∧ ∃ κ104, 100 ≤ κ104 ∧ (T94 κ104).1 = 0 ∧ 2 + 1 ≤ (b - b98) ∧ ∃ b112, b112 ≤ ((b - b98) - (2 + 1)) ∧ zMet mX11_init 1 b112 [.ref κ104] (z1 T94 κ104 (11, 0)) (z1 I95 κ104 fun _ => 0) (z1 L96 κ104 fun _ => 0) (z1 (z2 R97 s2 (s1.toNatClampNeg) s0) κ104 fun _ => 0) (zqV_TILR   (fun (T108 : zT) (I109 : zI) (L110 : zL) (R111 : zR)  => (T108 s3).1 = 105 ∧ vp_in (5 : Int32) ((T108 s3).2) ∧ (T108 κ104).1 = 11 ∧ (T108 s4).1 = 10 ∧ P 0 (.int 0) T108 I109 L110 (z2 (z2 R111 s3 5 κ104) s4 1 s3)))))) : zAW mX10_init 2 b 88 [] [.ref s0, .int s1, .ref s2, .ref s3, .ref s4] T I L R P := by
  refine za_dup (pc' := 89) dX10_init_88 rfl rfl ?_
  obtain ⟨ht100, h⟩ := h
  obtain ⟨b98, hb99, h⟩ := h
  refine za_callIN (κ := s0) (M2 := mX11_init) (d2 := 1) (b2 := b98) (n := 0) (As := []) (st := [.ref s0, .int s1, .ref s2, .ref s3, .ref s4]) (pc' := 92) (by rw [ht100]; decide) dX10_init_89 rfl (lw_meth q400) rfl q398 q399 q144 rfl hd_X11_init rfl (by decide) (by decide) hb99 (Or.inl rfl) (Nat.le_of_ble_eq_true rfl) h (zqV_TILR_k rfl (fun T94 I95 L96 R97 h => ?_)) (fun _ _ _ _ _ _ h9 h8 => absurd h8.1 h9) rfl
  obtain ⟨ht101, h⟩ := h
  obtain ⟨hi102, h⟩ := h
  obtain ⟨ht103, h⟩ := h
  refine za_aast (kx := s1.toNatClampNeg) (t := 5) (pc' := 93) dX10_init_92 (by decide) (fun _ => rfl) (zpair ht101) hi102 zc10 (by decide) ht103 rfl rfl ?_
  refine za_dup (pc' := 94) dX10_init_93 rfl rfl ?_
  refine za_iconst (pc' := 95) dX10_init_94 zi_5 rfl ?_
  obtain ⟨κ104, hk105, hf106, hb107, h⟩ := h
  refine za_new (κ := κ104) (pc' := 98) dX10_init_95 zc10 (by decide) in_X11 zok10 zdf10 q395 q397 q144 hk105 hf106 hb107 rfl ?_
  refine za_dup (pc' := 99) dX10_init_98 rfl rfl ?_
  obtain ⟨b112, hb113, h⟩ := h
  refine za_callIN (κ := κ104) (M2 := mX11_init) (d2 := 1) (b2 := b112) (n := 0) (As := []) (st := [.ref κ104, .int (5 : Int32), .ref s3, .ref s3, .ref s4]) (pc' := 102) (by rw [(congrArg Prod.fst z1_s)]; decide) dX10_init_99 rfl (lw_meth q400) rfl q398 q399 q144 rfl hd_X11_init rfl (by decide) (by decide) hb113 (Or.inl rfl) (Nat.le_of_ble_eq_true rfl) h (zqV_TILR_k rfl (fun T108 I109 L110 R111 h => ?_)) (fun _ _ _ _ _ _ h9 h8 => absurd h8.1 h9) rfl
  obtain ⟨ht114, h⟩ := h
  obtain ⟨hi115, h⟩ := h
  obtain ⟨ht116, h⟩ := h
  refine za_aast (kx := 5) (t := 5) (pc' := 103) dX10_init_102 (by decide) (fun _ => rfl) (zpair ht114) hi115 zc10 (by decide) ht116 zn_5 rfl ?_
  obtain ⟨ht117, h⟩ := h
  refine za_putFR (fi := 1) (pc' := 106) dX10_init_103 zc9 (by decide) in_X10 zok9 znm9 (by decide) q417 (Or.inl rfl) rfl rfl rfl rfl (fun _ _ _ => rfl) ht117 rfl ?_
  exact za_return rfl dX10_init_106 h
theorem sX10_init {d b : Nat} {v0 : Nat} {v1 : Nat} {T : zT} {I : zI} {L : zL} {R : zR} {P : zP} (h : zAW mX10_init d b 0 [(0, .ref v0), (1, .ref v1)] [] T I L R P) : zMet mX10_init d b [.ref v0, .ref v1] T I L R P := zMet_of (by decide +kernel) rfl (Nat.le_of_ble_eq_true rfl) rfl h
/-! TwoTongues$State.begin ()V -/
def dkwX10_begin_4 : List UInt8 := [181, 0, 69, 42, 42, 180, 0, 3, 180, 0, 29, 180, 0, 73, 181, 0, 76, 177]
abbrev dktX10_begin_4 : List UInt8 := dkwX10_begin_4 ++ []
def dkwX10_begin_3 : List UInt8 := [180, 0, 46, 27, 182, 0, 56, 192, 0, 60, 180, 0, 62, 182, 0, 66, 132, 1, 1, 167, 255, 207, 42, 3]
abbrev dktX10_begin_3 : List UInt8 := dkwX10_begin_3 ++ dktX10_begin_4
def dkwX10_begin_2 : List UInt8 := [180, 0, 46, 182, 0, 50, 162, 0, 38, 42, 180, 0, 25, 27, 50, 42, 180, 0, 3, 180, 0, 29]
abbrev dktX10_begin_2 : List UInt8 := dkwX10_begin_2 ++ dktX10_begin_3
def dkwX10_begin_1 : List UInt8 := [50, 42, 180, 0, 3, 180, 0, 29, 180, 0, 43, 182, 0, 39, 3, 60, 27, 42, 180, 0, 3, 180, 0, 29]
abbrev dktX10_begin_1 : List UInt8 := dkwX10_begin_1 ++ dktX10_begin_2
def dkwX10_begin_0 : List UInt8 := [42, 180, 0, 18, 3, 50, 42, 180, 0, 3, 180, 0, 29, 180, 0, 33, 182, 0, 39, 42, 180, 0, 18, 4]
abbrev dktX10_begin_0 : List UInt8 := dkwX10_begin_0 ++ dktX10_begin_1
theorem dksX10_begin_0 : cX10_begin.data.toList.drop 0 = dktX10_begin_0 := by decide +kernel
theorem dksX10_begin_1 : cX10_begin.data.toList.drop 24 = dktX10_begin_1 := dk_seg dksX10_begin_0 24 rfl rfl
theorem dksX10_begin_2 : cX10_begin.data.toList.drop 48 = dktX10_begin_2 := dk_seg dksX10_begin_1 24 rfl rfl
theorem dksX10_begin_3 : cX10_begin.data.toList.drop 70 = dktX10_begin_3 := dk_seg dksX10_begin_2 22 rfl rfl
theorem dksX10_begin_4 : cX10_begin.data.toList.drop 94 = dktX10_begin_4 := dk_seg dksX10_begin_3 24 rfl rfl
theorem dX10_begin_0 : decode cX10_begin 0 = .ok (.aload_n 0, 1) := dk_42 (dk_at dksX10_begin_0 0 rfl rfl)
theorem dX10_begin_1 : decode cX10_begin 1 = .ok (.getfield 18, 3) := dk_180 0 18 (dk_at dksX10_begin_0 1 rfl rfl)
theorem dX10_begin_4 : decode cX10_begin 4 = .ok (.iconst 0, 1) := dk_3 (dk_at dksX10_begin_0 4 rfl rfl)
theorem dX10_begin_5 : decode cX10_begin 5 = .ok (.aaload, 1) := dk_50 (dk_at dksX10_begin_0 5 rfl rfl)
theorem dX10_begin_6 : decode cX10_begin 6 = .ok (.aload_n 0, 1) := dk_42 (dk_at dksX10_begin_0 6 rfl rfl)
theorem dX10_begin_7 : decode cX10_begin 7 = .ok (.getfield 3, 3) := dk_180 0 3 (dk_at dksX10_begin_0 7 rfl rfl)
theorem dX10_begin_10 : decode cX10_begin 10 = .ok (.getfield 29, 3) := dk_180 0 29 (dk_at dksX10_begin_0 10 rfl rfl)
theorem dX10_begin_13 : decode cX10_begin 13 = .ok (.getfield 33, 3) := dk_180 0 33 (dk_at dksX10_begin_0 13 rfl rfl)
theorem dX10_begin_16 : decode cX10_begin 16 = .ok (.invokevirtual 39, 3) := dk_182 0 39 (dk_at dksX10_begin_0 16 rfl rfl)
theorem dX10_begin_19 : decode cX10_begin 19 = .ok (.aload_n 0, 1) := dk_42 (dk_at dksX10_begin_0 19 rfl rfl)
theorem dX10_begin_20 : decode cX10_begin 20 = .ok (.getfield 18, 3) := dk_180 0 18 (dk_at dksX10_begin_0 20 rfl rfl)
theorem dX10_begin_23 : decode cX10_begin 23 = .ok (.iconst 1, 1) := dk_4 (dk_at dksX10_begin_0 23 rfl rfl)
theorem dX10_begin_24 : decode cX10_begin 24 = .ok (.aaload, 1) := dk_50 (dk_at dksX10_begin_1 0 rfl rfl)
theorem dX10_begin_25 : decode cX10_begin 25 = .ok (.aload_n 0, 1) := dk_42 (dk_at dksX10_begin_1 1 rfl rfl)
theorem dX10_begin_26 : decode cX10_begin 26 = .ok (.getfield 3, 3) := dk_180 0 3 (dk_at dksX10_begin_1 2 rfl rfl)
theorem dX10_begin_29 : decode cX10_begin 29 = .ok (.getfield 29, 3) := dk_180 0 29 (dk_at dksX10_begin_1 5 rfl rfl)
theorem dX10_begin_32 : decode cX10_begin 32 = .ok (.getfield 43, 3) := dk_180 0 43 (dk_at dksX10_begin_1 8 rfl rfl)
theorem dX10_begin_35 : decode cX10_begin 35 = .ok (.invokevirtual 39, 3) := dk_182 0 39 (dk_at dksX10_begin_1 11 rfl rfl)
theorem dX10_begin_38 : decode cX10_begin 38 = .ok (.iconst 0, 1) := dk_3 (dk_at dksX10_begin_1 14 rfl rfl)
theorem dX10_begin_39 : decode cX10_begin 39 = .ok (.istore_n 1, 1) := dk_60 (dk_at dksX10_begin_1 15 rfl rfl)
theorem dX10_begin_40 : decode cX10_begin 40 = .ok (.iload_n 1, 1) := dk_27 (dk_at dksX10_begin_1 16 rfl rfl)
theorem dX10_begin_41 : decode cX10_begin 41 = .ok (.aload_n 0, 1) := dk_42 (dk_at dksX10_begin_1 17 rfl rfl)
theorem dX10_begin_42 : decode cX10_begin 42 = .ok (.getfield 3, 3) := dk_180 0 3 (dk_at dksX10_begin_1 18 rfl rfl)
theorem dX10_begin_45 : decode cX10_begin 45 = .ok (.getfield 29, 3) := dk_180 0 29 (dk_at dksX10_begin_1 21 rfl rfl)
theorem dX10_begin_48 : decode cX10_begin 48 = .ok (.getfield 46, 3) := dk_180 0 46 (dk_at dksX10_begin_2 0 rfl rfl)
theorem dX10_begin_51 : decode cX10_begin 51 = .ok (.invokevirtual 50, 3) := dk_182 0 50 (dk_at dksX10_begin_2 3 rfl rfl)
theorem dX10_begin_54 : decode cX10_begin 54 = .ok (.if_icmp .ge 38, 3) := dk_162 0 38 (dk_at dksX10_begin_2 6 rfl rfl)
theorem dX10_begin_57 : decode cX10_begin 57 = .ok (.aload_n 0, 1) := dk_42 (dk_at dksX10_begin_2 9 rfl rfl)
theorem dX10_begin_58 : decode cX10_begin 58 = .ok (.getfield 25, 3) := dk_180 0 25 (dk_at dksX10_begin_2 10 rfl rfl)
theorem dX10_begin_61 : decode cX10_begin 61 = .ok (.iload_n 1, 1) := dk_27 (dk_at dksX10_begin_2 13 rfl rfl)
theorem dX10_begin_62 : decode cX10_begin 62 = .ok (.aaload, 1) := dk_50 (dk_at dksX10_begin_2 14 rfl rfl)
theorem dX10_begin_63 : decode cX10_begin 63 = .ok (.aload_n 0, 1) := dk_42 (dk_at dksX10_begin_2 15 rfl rfl)
theorem dX10_begin_64 : decode cX10_begin 64 = .ok (.getfield 3, 3) := dk_180 0 3 (dk_at dksX10_begin_2 16 rfl rfl)
theorem dX10_begin_67 : decode cX10_begin 67 = .ok (.getfield 29, 3) := dk_180 0 29 (dk_at dksX10_begin_2 19 rfl rfl)
theorem dX10_begin_70 : decode cX10_begin 70 = .ok (.getfield 46, 3) := dk_180 0 46 (dk_at dksX10_begin_3 0 rfl rfl)
theorem dX10_begin_73 : decode cX10_begin 73 = .ok (.iload_n 1, 1) := dk_27 (dk_at dksX10_begin_3 3 rfl rfl)
theorem dX10_begin_74 : decode cX10_begin 74 = .ok (.invokevirtual 56, 3) := dk_182 0 56 (dk_at dksX10_begin_3 4 rfl rfl)
theorem dX10_begin_77 : decode cX10_begin 77 = .ok (.checkcast 60, 3) := dk_192 0 60 (dk_at dksX10_begin_3 7 rfl rfl)
theorem dX10_begin_80 : decode cX10_begin 80 = .ok (.getfield 62, 3) := dk_180 0 62 (dk_at dksX10_begin_3 10 rfl rfl)
theorem dX10_begin_83 : decode cX10_begin 83 = .ok (.invokevirtual 66, 3) := dk_182 0 66 (dk_at dksX10_begin_3 13 rfl rfl)
theorem dX10_begin_86 : decode cX10_begin 86 = .ok (.iinc 1 1, 3) := dk_132 1 1 (dk_at dksX10_begin_3 16 rfl rfl)
theorem dX10_begin_89 : decode cX10_begin 89 = .ok (.goto (-49), 3) := dk_167 255 207 (dk_at dksX10_begin_3 19 rfl rfl)
theorem dX10_begin_92 : decode cX10_begin 92 = .ok (.aload_n 0, 1) := dk_42 (dk_at dksX10_begin_3 22 rfl rfl)
theorem dX10_begin_93 : decode cX10_begin 93 = .ok (.iconst 0, 1) := dk_3 (dk_at dksX10_begin_3 23 rfl rfl)
theorem dX10_begin_94 : decode cX10_begin 94 = .ok (.putfield 69, 3) := dk_181 0 69 (dk_at dksX10_begin_4 0 rfl rfl)
theorem dX10_begin_97 : decode cX10_begin 97 = .ok (.aload_n 0, 1) := dk_42 (dk_at dksX10_begin_4 3 rfl rfl)
theorem dX10_begin_98 : decode cX10_begin 98 = .ok (.aload_n 0, 1) := dk_42 (dk_at dksX10_begin_4 4 rfl rfl)
theorem dX10_begin_99 : decode cX10_begin 99 = .ok (.getfield 3, 3) := dk_180 0 3 (dk_at dksX10_begin_4 5 rfl rfl)
theorem dX10_begin_102 : decode cX10_begin 102 = .ok (.getfield 29, 3) := dk_180 0 29 (dk_at dksX10_begin_4 8 rfl rfl)
theorem dX10_begin_105 : decode cX10_begin 105 = .ok (.getfield 73, 3) := dk_180 0 73 (dk_at dksX10_begin_4 11 rfl rfl)
theorem dX10_begin_108 : decode cX10_begin 108 = .ok (.putfield 76, 3) := dk_181 0 76 (dk_at dksX10_begin_4 14 rfl rfl)
theorem dX10_begin_111 : decode cX10_begin 111 = .ok (.return_, 1) := dk_177 (dk_at dksX10_begin_4 17 rfl rfl)
theorem gX10_begin_0 {v0 : Nat} {T : zT} {I : zI} {L : zL} {R : zR} {P : zP} (h : (T v0).1 = 10 ∧ (T (R v0 0)).1 = 104 ∧ vp_in (0 : Int32) ((T (R v0 0)).2) ∧ (T (R v0 4)).1 = 1 ∧ (T (R (R v0 4) 8)).1 = 3 ∧ (T (R (R v0 0) 0)).1 = 4 ∧ zMet mX4_become 1 0 [.ref (R (R v0 0) 0), .ref (R (R (R v0 4) 8) 0)] T I L R (zqV_I T L R  (fun (I6 : zI)  => vp_in (1 : Int32) ((T (R v0 0)).2) ∧ (T (R (R v0 0) 1)).1 = 4 ∧ zMet mX4_become 1 0 [.ref (R (R v0 0) 1), .ref (R (R (R v0 4) 8) 1)] T I6 L R (zqV_I T L R  (fun (I9 : zI)  => zAW mX10_begin 4 0 40 [(0, .ref v0), (1, .int (0 : Int32))] [] T I9 L R P))))) : zAW mX10_begin 4 0 0 [(0, .ref v0)] [] T I L R P := by
  refine za_aload_n (pc' := 1) 0 dX10_begin_0 rfl rfl rfl ?_
  obtain ⟨ht1, h⟩ := h
  refine za_get (fi := 0) (v := .ref (R v0 0)) (pc' := 4) dX10_begin_1 zc9 (by decide) in_X10 (by decide) q415 (Or.inl rfl) ht1 rfl rfl ?_
  refine za_iconst (pc' := 5) dX10_begin_4 zi_0 rfl ?_
  obtain ⟨ht2, h⟩ := h
  obtain ⟨hi3, h⟩ := h
  refine za_aald (r := (R (R v0 0) 0)) (t := 4) (C := RX4) (pc' := 6) dX10_begin_5 (by decide) (fun _ => rfl) (zpair ht2) hi3 (zix zn_0 (rfl)) rfl ?_
  refine za_aload_n (pc' := 7) 0 dX10_begin_6 rfl rfl rfl ?_
  refine za_get (fi := 4) (v := .ref (R v0 4)) (pc' := 10) dX10_begin_7 zc9 (by decide) in_X10 (by decide) q423 (Or.inl rfl) ht1 rfl rfl ?_
  obtain ⟨ht4, h⟩ := h
  refine za_getN (fi := 8) (v := .ref (R (R v0 4) 8)) (pc' := 13) dX10_begin_10 zc0 (by decide) in_X1 (by decide) q497 (Or.inl rfl) ht4 rfl rfl ?_
  obtain ⟨ht5, h⟩ := h
  refine za_getN (fi := 0) (v := .ref (R (R (R v0 4) 8) 0)) (pc' := 16) dX10_begin_13 zc2 (by decide) in_X3 (by decide) q271 (Or.inl rfl) ht5 rfl rfl ?_
  obtain ⟨ht7, h⟩ := h
  refine za_callV (κ := (R (R v0 0) 0)) (M2 := mX4_become) (d2 := 1) (b2 := 0) (n := 1) (As := [.ref (R (R (R v0 4) 8) 0)]) (st := []) (pc' := 19) zc3 (by decide) ht7 dX10_begin_16 rfl (lw_V q461 q462 q463 q134 q464) ⟨rfl, hd_X4_become⟩ rfl (by decide) (by decide) (Nat.zero_le _) (Or.inl rfl) (Nat.le_of_ble_eq_true rfl) h (zqV_I_k rfl (fun I6 h => ?_)) (fun _ _ _ _ _ _ h9 h8 => absurd h8.1 h9) rfl
  refine za_aload_n (pc' := 20) 0 dX10_begin_19 rfl rfl rfl ?_
  refine za_get (fi := 0) (v := .ref (R v0 0)) (pc' := 23) dX10_begin_20 zc9 (by decide) in_X10 (by decide) q415 (Or.inl rfl) ht1 rfl rfl ?_
  refine za_iconst (pc' := 24) dX10_begin_23 zi_1 rfl ?_
  obtain ⟨hi8, h⟩ := h
  refine za_aald (r := (R (R v0 0) 1)) (t := 4) (C := RX4) (pc' := 25) dX10_begin_24 (by decide) (fun _ => rfl) (zpair ht2) hi8 (zix zn_1 (rfl)) rfl ?_
  refine za_aload_n (pc' := 26) 0 dX10_begin_25 rfl rfl rfl ?_
  refine za_get (fi := 4) (v := .ref (R v0 4)) (pc' := 29) dX10_begin_26 zc9 (by decide) in_X10 (by decide) q423 (Or.inl rfl) ht1 rfl rfl ?_
  refine za_getN (fi := 8) (v := .ref (R (R v0 4) 8)) (pc' := 32) dX10_begin_29 zc0 (by decide) in_X1 (by decide) q497 (Or.inl rfl) ht4 rfl rfl ?_
  refine za_getN (fi := 1) (v := .ref (R (R (R v0 4) 8) 1)) (pc' := 35) dX10_begin_32 zc2 (by decide) in_X3 (by decide) q274 (Or.inl rfl) ht5 rfl rfl ?_
  obtain ⟨ht10, h⟩ := h
  refine za_callV (κ := (R (R v0 0) 1)) (M2 := mX4_become) (d2 := 1) (b2 := 0) (n := 1) (As := [.ref (R (R (R v0 4) 8) 1)]) (st := []) (pc' := 38) zc3 (by decide) ht10 dX10_begin_35 rfl (lw_V q461 q462 q463 q134 q464) ⟨rfl, hd_X4_become⟩ rfl (by decide) (by decide) (Nat.zero_le _) (Or.inl rfl) (Nat.le_of_ble_eq_true rfl) h (zqV_I_k rfl (fun I9 h => ?_)) (fun _ _ _ _ _ _ h9 h8 => absurd h8.1 h9) rfl
  refine za_iconst (pc' := 39) dX10_begin_38 zi_0 rfl ?_
  refine za_istore_n (pc' := 40) (l' := [(1, .int (0 : Int32)), (0, .ref v0)]) dX10_begin_39 rfl (Nat.le_of_ble_eq_true rfl) rfl rfl ?_
  exact zAW_sub [1, 0] rfl h
theorem gX10_begin_40 {v0 : Nat} {v1 : Int32} {T : zT} {I : zI} {L : zL} {R : zR} {P : zP} (h : (T v0).1 = 10 ∧ (T (R v0 4)).1 = 1 ∧ (T (R (R v0 4) 8)).1 = 3 ∧ (T (R (R (R v0 4) 8) 2)).1 = 5 ∧ zMet mJ2_size 1 0 [.ref (R (R (R v0 4) 8) 2)] T I L R (zqI_ T I L R  (fun (r14 : Int32)  => ((r14 ≤ v1 → P 0 (.int 0) T (z2 (z2 I v0 2 (0 : Int32)) v0 3 (I (R (R v0 4) 8) 14)) L R) ∧ (¬ r14 ≤ v1 → (T (R v0 1)).1 = 105 ∧ vp_in v1 ((T (R v0 1)).2) ∧ zMet mJ2_get 3 0 [.ref (R (R (R v0 4) 8) 2), .int v1] T I L R (zqR_ T I L R  (fun (r18 : Nat)  => (T r18).1 = 15 ∧ (T (R (R v0 1) (v1.toNatClampNeg))).1 = 11 ∧ zMet mX11_become 1 0 [.ref (R (R v0 1) (v1.toNatClampNeg)), .ref (R r18 2)] T I L R (zqV_I T L R  (fun (I20 : zI)  => zAW mX10_begin 4 0 40 [(0, .ref v0), (1, .int (v1 + (1 : Int32)))] [] T I20 L R P))))))))) : zAW mX10_begin 4 0 40 [(0, .ref v0), (1, .int v1)] [] T I L R P := by
  refine za_iload_n (pc' := 41) 1 dX10_begin_40 rfl rfl rfl ?_
  refine za_aload_n (pc' := 42) 0 dX10_begin_41 rfl rfl rfl ?_
  obtain ⟨ht11, h⟩ := h
  refine za_get (fi := 4) (v := .ref (R v0 4)) (pc' := 45) dX10_begin_42 zc9 (by decide) in_X10 (by decide) q423 (Or.inl rfl) ht11 rfl rfl ?_
  obtain ⟨ht12, h⟩ := h
  refine za_getN (fi := 8) (v := .ref (R (R v0 4) 8)) (pc' := 48) dX10_begin_45 zc0 (by decide) in_X1 (by decide) q497 (Or.inl rfl) ht12 rfl rfl ?_
  obtain ⟨ht13, h⟩ := h
  refine za_getN (fi := 2) (v := .ref (R (R (R v0 4) 8) 2)) (pc' := 51) dX10_begin_48 zc2 (by decide) in_X3 (by decide) q277 (Or.inl rfl) ht13 rfl rfl ?_
  obtain ⟨ht15, h⟩ := h
  refine za_callV (κ := (R (R (R v0 4) 8) 2)) (M2 := mJ2_size) (d2 := 1) (b2 := 0) (n := 0) (As := []) (st := [.int v1]) (pc' := 54) zc4 (by decide) ht15 dX10_begin_51 rfl (lw_V q465 q466 q467 q137 q468) ⟨rfl, hd_J2_size⟩ rfl (by decide) (by decide) (Nat.zero_le _) (Or.inl rfl) (Nat.le_of_ble_eq_true rfl) h (zqI__k rfl (fun r14 h => ?_)) (fun _ _ _ _ _ _ h9 h8 => absurd h8.1 h9) rfl
  refine za_icmp_ge (pc' := 57) (tgt := 92) dX10_begin_54 (by decide) rfl (fun c9 => ?_) (fun c9 => ?_)
  · replace h := h.1 c9
    refine za_aload_n (pc' := 93) 0 dX10_begin_92 rfl rfl rfl ?_
    refine za_iconst (pc' := 94) dX10_begin_93 zi_0 rfl ?_
    refine za_putI (fi := 2) (pc' := 97) dX10_begin_94 zc9 (by decide) in_X10 zok9 znm9 (by decide) q419 (Or.inl rfl) rfl rfl (fun _ _ _ => rfl) rfl rfl ht11 rfl ?_
    refine za_aload_n (pc' := 98) 0 dX10_begin_97 rfl rfl rfl ?_
    refine za_aload_n (pc' := 99) 0 dX10_begin_98 rfl rfl rfl ?_
    refine za_get (fi := 4) (v := .ref (R v0 4)) (pc' := 102) dX10_begin_99 zc9 (by decide) in_X10 (by decide) q423 (Or.inl rfl) ht11 rfl rfl ?_
    refine za_getN (fi := 8) (v := .ref (R (R v0 4) 8)) (pc' := 105) dX10_begin_102 zc0 (by decide) in_X1 (by decide) q497 (Or.inl rfl) ht12 rfl rfl ?_
    refine za_getN (fi := 14) (v := .int (I (R (R v0 4) 8) 14)) (pc' := 108) dX10_begin_105 zc2 (by decide) in_X3 (by decide) q308 (Or.inl rfl) ht13 (congrArg Value.int (z2_nk (by decide))) rfl ?_
    refine za_putI (fi := 3) (pc' := 111) dX10_begin_108 zc9 (by decide) in_X10 zok9 znm9 (by decide) q421 (Or.inl rfl) rfl rfl (fun _ _ _ => rfl) rfl rfl ht11 rfl ?_
    exact za_return rfl dX10_begin_111 h
  · replace h := h.2 c9
    refine za_aload_n (pc' := 58) 0 dX10_begin_57 rfl rfl rfl ?_
    refine za_get (fi := 1) (v := .ref (R v0 1)) (pc' := 61) dX10_begin_58 zc9 (by decide) in_X10 (by decide) q417 (Or.inl rfl) ht11 rfl rfl ?_
    refine za_iload_n (pc' := 62) 1 dX10_begin_61 rfl rfl rfl ?_
    obtain ⟨ht16, h⟩ := h
    obtain ⟨hi17, h⟩ := h
    refine za_aald (r := (R (R v0 1) (v1.toNatClampNeg))) (t := 5) (C := RX11) (pc' := 63) dX10_begin_62 (by decide) (fun _ => rfl) (zpair ht16) hi17 (rfl) rfl ?_
    refine za_aload_n (pc' := 64) 0 dX10_begin_63 rfl rfl rfl ?_
    refine za_get (fi := 4) (v := .ref (R v0 4)) (pc' := 67) dX10_begin_64 zc9 (by decide) in_X10 (by decide) q423 (Or.inl rfl) ht11 rfl rfl ?_
    refine za_getN (fi := 8) (v := .ref (R (R v0 4) 8)) (pc' := 70) dX10_begin_67 zc0 (by decide) in_X1 (by decide) q497 (Or.inl rfl) ht12 rfl rfl ?_
    refine za_getN (fi := 2) (v := .ref (R (R (R v0 4) 8) 2)) (pc' := 73) dX10_begin_70 zc2 (by decide) in_X3 (by decide) q277 (Or.inl rfl) ht13 rfl rfl ?_
    refine za_iload_n (pc' := 74) 1 dX10_begin_73 rfl rfl rfl ?_
    refine za_callV (κ := (R (R (R v0 4) 8) 2)) (M2 := mJ2_get) (d2 := 3) (b2 := 0) (n := 1) (As := [.int v1]) (st := [.ref (R (R v0 1) (v1.toNatClampNeg))]) (pc' := 77) zc4 (by decide) ht15 dX10_begin_74 rfl (lw_V q469 q470 q471 q137 q472) ⟨rfl, hd_J2_get⟩ rfl (by decide) (by decide) (Nat.zero_le _) (Or.inl rfl) (Nat.le_of_ble_eq_true rfl) h (zqR__k rfl (fun r18 h => ?_)) (fun _ _ _ _ _ _ h9 h8 => absurd h8.1 h9) rfl
    obtain ⟨ht19, h⟩ := h
    refine za_cast (pc' := 80) dX10_begin_77 q483 zc14 (by decide) ht19 rfl ?_
    refine za_getN (fi := 2) (v := .ref (R r18 2)) (pc' := 83) dX10_begin_80 zc14 (by decide) in_X15 (by decide) q861 (Or.inl rfl) ht19 rfl rfl ?_
    obtain ⟨ht21, h⟩ := h
    refine za_callV (κ := (R (R v0 1) (v1.toNatClampNeg))) (M2 := mX11_become) (d2 := 1) (b2 := 0) (n := 1) (As := [.ref (R r18 2)]) (st := []) (pc' := 86) zc10 (by decide) ht21 dX10_begin_83 rfl (lw_V q484 q485 q486 q144 q487) ⟨rfl, hd_X11_become⟩ rfl (by decide) (by decide) (Nat.zero_le _) (Or.inl rfl) (Nat.le_of_ble_eq_true rfl) h (zqV_I_k rfl (fun I20 h => ?_)) (fun _ _ _ _ _ _ h9 h8 => absurd h8.1 h9) rfl
    refine za_iinc (pc' := 89) (l' := [(1, .int (v1 + (1 : Int32))), (0, .ref v0)]) 1 dX10_begin_86 rfl (zinc zi_1) (Nat.le_of_ble_eq_true rfl) rfl rfl ?_
    refine za_goto (tgt := 40) dX10_begin_89 (by decide) ?_
    exact zAW_sub [1, 0] rfl h
theorem sX10_begin {d b : Nat} {v0 : Nat} {T : zT} {I : zI} {L : zL} {R : zR} {P : zP} (h : zAW mX10_begin d b 0 [(0, .ref v0)] [] T I L R P) : zMet mX10_begin d b [.ref v0] T I L R P := zMet_of (by decide +kernel) rfl (Nat.le_of_ble_eq_true rfl) rfl h
/-! TwoTongues$State.become (LTwoTongues$State;)V -/
def dkwX10_become_3 : List UInt8 := [181, 0, 76, 177]
abbrev dktX10_become_3 : List UInt8 := dkwX10_become_3 ++ []
def dkwX10_become_2 : List UInt8 := [28, 50, 182, 0, 66, 132, 2, 1, 167, 255, 232, 42, 43, 180, 0, 69, 181, 0, 69, 42, 43, 180, 0, 76]
abbrev dktX10_become_2 : List UInt8 := dkwX10_become_2 ++ dktX10_become_3
def dkwX10_become_1 : List UInt8 := [132, 2, 1, 167, 255, 233, 3, 61, 28, 16, 6, 162, 0, 24, 42, 180, 0, 25, 28, 50, 43, 180, 0, 25]
abbrev dktX10_become_1 : List UInt8 := dkwX10_become_1 ++ dktX10_become_2
def dkwX10_become_0 : List UInt8 := [3, 61, 28, 5, 162, 0, 24, 42, 180, 0, 18, 28, 50, 43, 180, 0, 18, 28, 50, 182, 0, 39]
abbrev dktX10_become_0 : List UInt8 := dkwX10_become_0 ++ dktX10_become_1
theorem dksX10_become_0 : cX10_become.data.toList.drop 0 = dktX10_become_0 := by decide +kernel
theorem dksX10_become_1 : cX10_become.data.toList.drop 22 = dktX10_become_1 := dk_seg dksX10_become_0 22 rfl rfl
theorem dksX10_become_2 : cX10_become.data.toList.drop 46 = dktX10_become_2 := dk_seg dksX10_become_1 24 rfl rfl
theorem dksX10_become_3 : cX10_become.data.toList.drop 70 = dktX10_become_3 := dk_seg dksX10_become_2 24 rfl rfl
theorem dX10_become_0 : decode cX10_become 0 = .ok (.iconst 0, 1) := dk_3 (dk_at dksX10_become_0 0 rfl rfl)
theorem dX10_become_1 : decode cX10_become 1 = .ok (.istore_n 2, 1) := dk_61 (dk_at dksX10_become_0 1 rfl rfl)
theorem dX10_become_2 : decode cX10_become 2 = .ok (.iload_n 2, 1) := dk_28 (dk_at dksX10_become_0 2 rfl rfl)
theorem dX10_become_3 : decode cX10_become 3 = .ok (.iconst 2, 1) := dk_5 (dk_at dksX10_become_0 3 rfl rfl)
theorem dX10_become_4 : decode cX10_become 4 = .ok (.if_icmp .ge 24, 3) := dk_162 0 24 (dk_at dksX10_become_0 4 rfl rfl)
theorem dX10_become_7 : decode cX10_become 7 = .ok (.aload_n 0, 1) := dk_42 (dk_at dksX10_become_0 7 rfl rfl)
theorem dX10_become_8 : decode cX10_become 8 = .ok (.getfield 18, 3) := dk_180 0 18 (dk_at dksX10_become_0 8 rfl rfl)
theorem dX10_become_11 : decode cX10_become 11 = .ok (.iload_n 2, 1) := dk_28 (dk_at dksX10_become_0 11 rfl rfl)
theorem dX10_become_12 : decode cX10_become 12 = .ok (.aaload, 1) := dk_50 (dk_at dksX10_become_0 12 rfl rfl)
theorem dX10_become_13 : decode cX10_become 13 = .ok (.aload_n 1, 1) := dk_43 (dk_at dksX10_become_0 13 rfl rfl)
theorem dX10_become_14 : decode cX10_become 14 = .ok (.getfield 18, 3) := dk_180 0 18 (dk_at dksX10_become_0 14 rfl rfl)
theorem dX10_become_17 : decode cX10_become 17 = .ok (.iload_n 2, 1) := dk_28 (dk_at dksX10_become_0 17 rfl rfl)
theorem dX10_become_18 : decode cX10_become 18 = .ok (.aaload, 1) := dk_50 (dk_at dksX10_become_0 18 rfl rfl)
theorem dX10_become_19 : decode cX10_become 19 = .ok (.invokevirtual 39, 3) := dk_182 0 39 (dk_at dksX10_become_0 19 rfl rfl)
theorem dX10_become_22 : decode cX10_become 22 = .ok (.iinc 2 1, 3) := dk_132 2 1 (dk_at dksX10_become_1 0 rfl rfl)
theorem dX10_become_25 : decode cX10_become 25 = .ok (.goto (-23), 3) := dk_167 255 233 (dk_at dksX10_become_1 3 rfl rfl)
theorem dX10_become_28 : decode cX10_become 28 = .ok (.iconst 0, 1) := dk_3 (dk_at dksX10_become_1 6 rfl rfl)
theorem dX10_become_29 : decode cX10_become 29 = .ok (.istore_n 2, 1) := dk_61 (dk_at dksX10_become_1 7 rfl rfl)
theorem dX10_become_30 : decode cX10_become 30 = .ok (.iload_n 2, 1) := dk_28 (dk_at dksX10_become_1 8 rfl rfl)
theorem dX10_become_31 : decode cX10_become 31 = .ok (.bipush 6, 2) := dk_16 6 (dk_at dksX10_become_1 9 rfl rfl)
theorem dX10_become_33 : decode cX10_become 33 = .ok (.if_icmp .ge 24, 3) := dk_162 0 24 (dk_at dksX10_become_1 11 rfl rfl)
theorem dX10_become_36 : decode cX10_become 36 = .ok (.aload_n 0, 1) := dk_42 (dk_at dksX10_become_1 14 rfl rfl)
theorem dX10_become_37 : decode cX10_become 37 = .ok (.getfield 25, 3) := dk_180 0 25 (dk_at dksX10_become_1 15 rfl rfl)
theorem dX10_become_40 : decode cX10_become 40 = .ok (.iload_n 2, 1) := dk_28 (dk_at dksX10_become_1 18 rfl rfl)
theorem dX10_become_41 : decode cX10_become 41 = .ok (.aaload, 1) := dk_50 (dk_at dksX10_become_1 19 rfl rfl)
theorem dX10_become_42 : decode cX10_become 42 = .ok (.aload_n 1, 1) := dk_43 (dk_at dksX10_become_1 20 rfl rfl)
theorem dX10_become_43 : decode cX10_become 43 = .ok (.getfield 25, 3) := dk_180 0 25 (dk_at dksX10_become_1 21 rfl rfl)
theorem dX10_become_46 : decode cX10_become 46 = .ok (.iload_n 2, 1) := dk_28 (dk_at dksX10_become_2 0 rfl rfl)
theorem dX10_become_47 : decode cX10_become 47 = .ok (.aaload, 1) := dk_50 (dk_at dksX10_become_2 1 rfl rfl)
theorem dX10_become_48 : decode cX10_become 48 = .ok (.invokevirtual 66, 3) := dk_182 0 66 (dk_at dksX10_become_2 2 rfl rfl)
theorem dX10_become_51 : decode cX10_become 51 = .ok (.iinc 2 1, 3) := dk_132 2 1 (dk_at dksX10_become_2 5 rfl rfl)
theorem dX10_become_54 : decode cX10_become 54 = .ok (.goto (-24), 3) := dk_167 255 232 (dk_at dksX10_become_2 8 rfl rfl)
theorem dX10_become_57 : decode cX10_become 57 = .ok (.aload_n 0, 1) := dk_42 (dk_at dksX10_become_2 11 rfl rfl)
theorem dX10_become_58 : decode cX10_become 58 = .ok (.aload_n 1, 1) := dk_43 (dk_at dksX10_become_2 12 rfl rfl)
theorem dX10_become_59 : decode cX10_become 59 = .ok (.getfield 69, 3) := dk_180 0 69 (dk_at dksX10_become_2 13 rfl rfl)
theorem dX10_become_62 : decode cX10_become 62 = .ok (.putfield 69, 3) := dk_181 0 69 (dk_at dksX10_become_2 16 rfl rfl)
theorem dX10_become_65 : decode cX10_become 65 = .ok (.aload_n 0, 1) := dk_42 (dk_at dksX10_become_2 19 rfl rfl)
theorem dX10_become_66 : decode cX10_become 66 = .ok (.aload_n 1, 1) := dk_43 (dk_at dksX10_become_2 20 rfl rfl)
theorem dX10_become_67 : decode cX10_become 67 = .ok (.getfield 76, 3) := dk_180 0 76 (dk_at dksX10_become_2 21 rfl rfl)
theorem dX10_become_70 : decode cX10_become 70 = .ok (.putfield 76, 3) := dk_181 0 76 (dk_at dksX10_become_3 0 rfl rfl)
theorem dX10_become_73 : decode cX10_become 73 = .ok (.return_, 1) := dk_177 (dk_at dksX10_become_3 3 rfl rfl)
theorem gX10_become_0 {v0 : Nat} {v1 : Nat} {T : zT} {I : zI} {L : zL} {R : zR} {P : zP} (h : zAW mX10_become 2 0 2 [(0, .ref v0), (1, .ref v1), (2, .int (0 : Int32))] [] T I L R P) : zAW mX10_become 2 0 0 [(0, .ref v0), (1, .ref v1)] [] T I L R P := by
  refine za_iconst (pc' := 1) dX10_become_0 zi_0 rfl ?_
  refine za_istore_n (pc' := 2) (l' := [(2, .int (0 : Int32)), (0, .ref v0), (1, .ref v1)]) dX10_become_1 rfl (Nat.le_of_ble_eq_true rfl) rfl rfl ?_
  exact zAW_sub [1, 2, 0] rfl h
theorem gX10_become_2 {v0 : Nat} {v1 : Nat} {v2 : Int32} {T : zT} {I : zI} {L : zL} {R : zR} {P : zP} (h : (((2 : Int32) ≤ v2 → zAW mX10_become 2 0 30 [(0, .ref v0), (1, .ref v1), (2, .int (0 : Int32))] [] T I L R P) ∧ (¬ (2 : Int32) ≤ v2 → (T v0).1 = 10 ∧ (T (R v0 0)).1 = 104 ∧ vp_in v2 ((T (R v0 0)).2) ∧ (T v1).1 = 10 ∧ (T (R v1 0)).1 = 104 ∧ vp_in v2 ((T (R v1 0)).2) ∧ (T (R (R v0 0) (v2.toNatClampNeg))).1 = 4 ∧ zMet mX4_become 1 0 [.ref (R (R v0 0) (v2.toNatClampNeg)), .ref (R (R v1 0) (v2.toNatClampNeg))] T I L R (zqV_I T L R  (fun (I7 : zI)  => zAW mX10_become 2 0 2 [(0, .ref v0), (1, .ref v1), (2, .int (v2 + (1 : Int32)))] [] T I7 L R P))))) : zAW mX10_become 2 0 2 [(0, .ref v0), (1, .ref v1), (2, .int v2)] [] T I L R P := by
  refine za_iload_n (pc' := 3) 2 dX10_become_2 rfl rfl rfl ?_
  refine za_iconst (pc' := 4) dX10_become_3 zi_2 rfl ?_
  refine za_icmp_ge (pc' := 7) (tgt := 28) dX10_become_4 (by decide) rfl (fun c9 => ?_) (fun c9 => ?_)
  · replace h := h.1 c9
    refine za_iconst (pc' := 29) dX10_become_28 zi_0 rfl ?_
    refine za_istore_n (pc' := 30) (l' := [(2, .int (0 : Int32)), (0, .ref v0), (1, .ref v1)]) dX10_become_29 rfl (Nat.le_of_ble_eq_true rfl) rfl rfl ?_
    exact zAW_sub [1, 2, 0] rfl h
  · replace h := h.2 c9
    refine za_aload_n (pc' := 8) 0 dX10_become_7 rfl rfl rfl ?_
    obtain ⟨ht1, h⟩ := h
    refine za_get (fi := 0) (v := .ref (R v0 0)) (pc' := 11) dX10_become_8 zc9 (by decide) in_X10 (by decide) q415 (Or.inl rfl) ht1 rfl rfl ?_
    refine za_iload_n (pc' := 12) 2 dX10_become_11 rfl rfl rfl ?_
    obtain ⟨ht2, h⟩ := h
    obtain ⟨hi3, h⟩ := h
    refine za_aald (r := (R (R v0 0) (v2.toNatClampNeg))) (t := 4) (C := RX4) (pc' := 13) dX10_become_12 (by decide) (fun _ => rfl) (zpair ht2) hi3 (rfl) rfl ?_
    refine za_aload_n (pc' := 14) 1 dX10_become_13 rfl rfl rfl ?_
    obtain ⟨ht4, h⟩ := h
    refine za_get (fi := 0) (v := .ref (R v1 0)) (pc' := 17) dX10_become_14 zc9 (by decide) in_X10 (by decide) q415 (Or.inl rfl) ht4 rfl rfl ?_
    refine za_iload_n (pc' := 18) 2 dX10_become_17 rfl rfl rfl ?_
    obtain ⟨ht5, h⟩ := h
    obtain ⟨hi6, h⟩ := h
    refine za_aald (r := (R (R v1 0) (v2.toNatClampNeg))) (t := 4) (C := RX4) (pc' := 19) dX10_become_18 (by decide) (fun _ => rfl) (zpair ht5) hi6 (rfl) rfl ?_
    obtain ⟨ht8, h⟩ := h
    refine za_callV (κ := (R (R v0 0) (v2.toNatClampNeg))) (M2 := mX4_become) (d2 := 1) (b2 := 0) (n := 1) (As := [.ref (R (R v1 0) (v2.toNatClampNeg))]) (st := []) (pc' := 22) zc3 (by decide) ht8 dX10_become_19 rfl (lw_V q461 q462 q463 q134 q464) ⟨rfl, hd_X4_become⟩ rfl (by decide) (by decide) (Nat.zero_le _) (Or.inl rfl) (Nat.le_of_ble_eq_true rfl) h (zqV_I_k rfl (fun I7 h => ?_)) (fun _ _ _ _ _ _ h9 h8 => absurd h8.1 h9) rfl
    refine za_iinc (pc' := 25) (l' := [(2, .int (v2 + (1 : Int32))), (0, .ref v0), (1, .ref v1)]) 2 dX10_become_22 rfl (zinc zi_1) (Nat.le_of_ble_eq_true rfl) rfl rfl ?_
    refine za_goto (tgt := 2) dX10_become_25 (by decide) ?_
    exact zAW_sub [1, 2, 0] rfl h
theorem gX10_become_30 {v0 : Nat} {v1 : Nat} {v2 : Int32} {T : zT} {I : zI} {L : zL} {R : zR} {P : zP} (h : (((6 : Int32) ≤ v2 → (T v1).1 = 10 ∧ (T v0).1 = 10 ∧ P 0 (.int 0) T (z2 (z2 I v0 2 (I v1 2)) v0 3 (I v1 3)) L R) ∧ (¬ (6 : Int32) ≤ v2 → (T v0).1 = 10 ∧ (T (R v0 1)).1 = 105 ∧ vp_in v2 ((T (R v0 1)).2) ∧ (T v1).1 = 10 ∧ (T (R v1 1)).1 = 105 ∧ vp_in v2 ((T (R v1 1)).2) ∧ (T (R (R v0 1) (v2.toNatClampNeg))).1 = 11 ∧ zMet mX11_become 1 0 [.ref (R (R v0 1) (v2.toNatClampNeg)), .ref (R (R v1 1) (v2.toNatClampNeg))] T I L R (zqV_I T L R  (fun (I17 : zI)  => zAW mX10_become 2 0 30 [(0, .ref v0), (1, .ref v1), (2, .int (v2 + (1 : Int32)))] [] T I17 L R P))))) : zAW mX10_become 2 0 30 [(0, .ref v0), (1, .ref v1), (2, .int v2)] [] T I L R P := by
  refine za_iload_n (pc' := 31) 2 dX10_become_30 rfl rfl rfl ?_
  refine za_bipush (pc' := 33) dX10_become_31 zb8_6 rfl ?_
  refine za_icmp_ge (pc' := 36) (tgt := 57) dX10_become_33 (by decide) rfl (fun c9 => ?_) (fun c9 => ?_)
  · replace h := h.1 c9
    refine za_aload_n (pc' := 58) 0 dX10_become_57 rfl rfl rfl ?_
    refine za_aload_n (pc' := 59) 1 dX10_become_58 rfl rfl rfl ?_
    obtain ⟨ht9, h⟩ := h
    refine za_get (fi := 2) (v := .int (I v1 2)) (pc' := 62) dX10_become_59 zc9 (by decide) in_X10 (by decide) q419 (Or.inl rfl) ht9 rfl rfl ?_
    obtain ⟨ht10, h⟩ := h
    refine za_putI (fi := 2) (pc' := 65) dX10_become_62 zc9 (by decide) in_X10 zok9 znm9 (by decide) q419 (Or.inl rfl) rfl rfl (fun _ _ _ => rfl) rfl rfl ht10 rfl ?_
    refine za_aload_n (pc' := 66) 0 dX10_become_65 rfl rfl rfl ?_
    refine za_aload_n (pc' := 67) 1 dX10_become_66 rfl rfl rfl ?_
    refine za_get (fi := 3) (v := .int (I v1 3)) (pc' := 70) dX10_become_67 zc9 (by decide) in_X10 (by decide) q421 (Or.inl rfl) ht9 (congrArg Value.int (z2_nk (by decide))) rfl ?_
    refine za_putI (fi := 3) (pc' := 73) dX10_become_70 zc9 (by decide) in_X10 zok9 znm9 (by decide) q421 (Or.inl rfl) rfl rfl (fun _ _ _ => rfl) rfl rfl ht10 rfl ?_
    exact za_return rfl dX10_become_73 h
  · replace h := h.2 c9
    refine za_aload_n (pc' := 37) 0 dX10_become_36 rfl rfl rfl ?_
    obtain ⟨ht11, h⟩ := h
    refine za_get (fi := 1) (v := .ref (R v0 1)) (pc' := 40) dX10_become_37 zc9 (by decide) in_X10 (by decide) q417 (Or.inl rfl) ht11 rfl rfl ?_
    refine za_iload_n (pc' := 41) 2 dX10_become_40 rfl rfl rfl ?_
    obtain ⟨ht12, h⟩ := h
    obtain ⟨hi13, h⟩ := h
    refine za_aald (r := (R (R v0 1) (v2.toNatClampNeg))) (t := 5) (C := RX11) (pc' := 42) dX10_become_41 (by decide) (fun _ => rfl) (zpair ht12) hi13 (rfl) rfl ?_
    refine za_aload_n (pc' := 43) 1 dX10_become_42 rfl rfl rfl ?_
    obtain ⟨ht14, h⟩ := h
    refine za_get (fi := 1) (v := .ref (R v1 1)) (pc' := 46) dX10_become_43 zc9 (by decide) in_X10 (by decide) q417 (Or.inl rfl) ht14 rfl rfl ?_
    refine za_iload_n (pc' := 47) 2 dX10_become_46 rfl rfl rfl ?_
    obtain ⟨ht15, h⟩ := h
    obtain ⟨hi16, h⟩ := h
    refine za_aald (r := (R (R v1 1) (v2.toNatClampNeg))) (t := 5) (C := RX11) (pc' := 48) dX10_become_47 (by decide) (fun _ => rfl) (zpair ht15) hi16 (rfl) rfl ?_
    obtain ⟨ht18, h⟩ := h
    refine za_callV (κ := (R (R v0 1) (v2.toNatClampNeg))) (M2 := mX11_become) (d2 := 1) (b2 := 0) (n := 1) (As := [.ref (R (R v1 1) (v2.toNatClampNeg))]) (st := []) (pc' := 51) zc10 (by decide) ht18 dX10_become_48 rfl (lw_V q484 q485 q486 q144 q487) ⟨rfl, hd_X11_become⟩ rfl (by decide) (by decide) (Nat.zero_le _) (Or.inl rfl) (Nat.le_of_ble_eq_true rfl) h (zqV_I_k rfl (fun I17 h => ?_)) (fun _ _ _ _ _ _ h9 h8 => absurd h8.1 h9) rfl
    refine za_iinc (pc' := 54) (l' := [(2, .int (v2 + (1 : Int32))), (0, .ref v0), (1, .ref v1)]) 2 dX10_become_51 rfl (zinc zi_1) (Nat.le_of_ble_eq_true rfl) rfl rfl ?_
    refine za_goto (tgt := 30) dX10_become_54 (by decide) ?_
    exact zAW_sub [1, 2, 0] rfl h
theorem sX10_become {d b : Nat} {v0 : Nat} {v1 : Nat} {T : zT} {I : zI} {L : zL} {R : zR} {P : zP} (h : zAW mX10_become d b 0 [(0, .ref v0), (1, .ref v1)] [] T I L R P) : zMet mX10_become d b [.ref v0, .ref v1] T I L R P := zMet_of (by decide +kernel) rfl (Nat.le_of_ble_eq_true rfl) rfl h
