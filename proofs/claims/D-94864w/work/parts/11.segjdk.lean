set_option maxRecDepth 100000
/-! java/util/AbstractCollection.<init> ()V -/
theorem dJ0_init_0 : decode cJ0_init 0 = .ok (.aload_n 0, 1) := by decide +kernel
theorem dJ0_init_1 : decode cJ0_init 1 = .ok (.invokespecial 1, 3) := by decide +kernel
theorem dJ0_init_4 : decode cJ0_init 4 = .ok (.return_, 1) := by decide +kernel
theorem gJ0_init_0 {v0 : Nat} {T : zT} {I : zI} {L : zL} {R : zR} {P : zP} (h : (T v0).1 ≠ 0 ∧ P 0 (.int 0) T I L R) : zAW mJ0_init 1 0 0 [(0, .ref v0)] [] T I L R P := by
  refine za_aload_n (pc' := 1) 0 dJ0_init_0 rfl rfl rfl ?_
  obtain ⟨ht1, h⟩ := h
  refine za_objInit (pc' := 4) dJ0_init_1 q253 (by decide) (ht1) (Nat.le_of_ble_eq_true rfl) rfl ?_
  exact za_return rfl dJ0_init_4 h
theorem sJ0_init {d b : Nat} {v0 : Nat} {T : zT} {I : zI} {L : zL} {R : zR} {P : zP} (h : zAW mJ0_init d b 0 [(0, .ref v0)] [] T I L R P) : zMet mJ0_init d b [.ref v0] T I L R P := zMet_of (by decide +kernel) rfl (Nat.le_of_ble_eq_true rfl) rfl h
/-! java/util/AbstractList.<init> ()V -/
def dkwJ1_init_0 : List UInt8 := [42, 183, 0, 1, 42, 3, 181, 0, 7, 177]
abbrev dktJ1_init_0 : List UInt8 := dkwJ1_init_0 ++ []
theorem dksJ1_init_0 : cJ1_init.data.toList.drop 0 = dktJ1_init_0 := by decide +kernel
theorem dJ1_init_0 : decode cJ1_init 0 = .ok (.aload_n 0, 1) := dk_42 (dk_at dksJ1_init_0 0 rfl rfl)
theorem dJ1_init_1 : decode cJ1_init 1 = .ok (.invokespecial 1, 3) := dk_183 0 1 (dk_at dksJ1_init_0 1 rfl rfl)
theorem dJ1_init_4 : decode cJ1_init 4 = .ok (.aload_n 0, 1) := dk_42 (dk_at dksJ1_init_0 4 rfl rfl)
theorem dJ1_init_5 : decode cJ1_init 5 = .ok (.iconst 0, 1) := dk_3 (dk_at dksJ1_init_0 5 rfl rfl)
theorem dJ1_init_6 : decode cJ1_init 6 = .ok (.putfield 7, 3) := dk_181 0 7 (dk_at dksJ1_init_0 6 rfl rfl)
theorem dJ1_init_9 : decode cJ1_init 9 = .ok (.return_, 1) := dk_177 (dk_at dksJ1_init_0 9 rfl rfl)
theorem gJ1_init_0 {v0 : Nat} {T : zT} {I : zI} {L : zL} {R : zR} {P : zP} (h : (T v0).1 ≠ 0 ∧ zMet mJ0_init 1 0 [.ref v0] T I L R (zqV_ T I L R  ((T v0).1 = 5 ∧ P 0 (.int 0) T (z2 I v0 0 (0 : Int32)) L R))) : zAW mJ1_init 2 0 0 [(0, .ref v0)] [] T I L R P := by
  refine za_aload_n (pc' := 1) 0 dJ1_init_0 rfl rfl rfl ?_
  obtain ⟨ht1, h⟩ := h
  refine za_callI (κ := v0) (M2 := mJ0_init) (d2 := 1) (b2 := 0) (n := 0) (As := []) (st := []) (pc' := 4) ht1 dJ1_init_1 rfl (lw_meth q252) rfl q250 q251 q135 rfl hd_J0_init rfl (by decide) (by decide) (Nat.zero_le _) (Or.inl rfl) (Nat.le_of_ble_eq_true rfl) h (zqV__k rfl (fun  h => ?_)) (fun _ _ _ _ _ _ h9 h8 => absurd h8.1 h9) rfl
  refine za_aload_n (pc' := 5) 0 dJ1_init_4 rfl rfl rfl ?_
  refine za_iconst (pc' := 6) dJ1_init_5 zi_0 rfl ?_
  obtain ⟨ht2, h⟩ := h
  refine za_putI (fi := 0) (pc' := 9) dJ1_init_6 zc4 (by decide) in_J2 zok4 znm4 (by decide) q260 (Or.inl rfl) rfl rfl (fun _ _ _ => rfl) rfl rfl ht2 rfl ?_
  exact za_return rfl dJ1_init_9 h
theorem sJ1_init {d b : Nat} {v0 : Nat} {T : zT} {I : zI} {L : zL} {R : zR} {P : zP} (h : zAW mJ1_init d b 0 [(0, .ref v0)] [] T I L R P) : zMet mJ1_init d b [.ref v0] T I L R P := zMet_of (by decide +kernel) rfl (Nat.le_of_ble_eq_true rfl) rfl h
/-! java/util/ArrayList.<init> (I)V -/
def dkwJ2_init_2 : List UInt8 := [182, 0, 25, 27, 182, 0, 29, 182, 0, 32, 183, 0, 36, 191, 177]
abbrev dktJ2_init_2 : List UInt8 := dkwJ2_init_2 ++ []
def dkwJ2_init_1 : List UInt8 := [178, 0, 15, 181, 0, 9, 167, 0, 30, 187, 0, 18, 89, 187, 0, 20, 89, 183, 0, 22, 18, 23]
abbrev dktJ2_init_1 : List UInt8 := dkwJ2_init_1 ++ dktJ2_init_2
def dkwJ2_init_0 : List UInt8 := [42, 183, 0, 1, 27, 158, 0, 14, 42, 27, 189, 0, 7, 181, 0, 9, 167, 0, 44, 27, 154, 0, 13, 42]
abbrev dktJ2_init_0 : List UInt8 := dkwJ2_init_0 ++ dktJ2_init_1
theorem dksJ2_init_0 : cJ2_init.data.toList.drop 0 = dktJ2_init_0 := by decide +kernel
theorem dksJ2_init_1 : cJ2_init.data.toList.drop 24 = dktJ2_init_1 := dk_seg dksJ2_init_0 24 rfl rfl
theorem dksJ2_init_2 : cJ2_init.data.toList.drop 46 = dktJ2_init_2 := dk_seg dksJ2_init_1 22 rfl rfl
theorem dJ2_init_0 : decode cJ2_init 0 = .ok (.aload_n 0, 1) := dk_42 (dk_at dksJ2_init_0 0 rfl rfl)
theorem dJ2_init_1 : decode cJ2_init 1 = .ok (.invokespecial 1, 3) := dk_183 0 1 (dk_at dksJ2_init_0 1 rfl rfl)
theorem dJ2_init_4 : decode cJ2_init 4 = .ok (.iload_n 1, 1) := dk_27 (dk_at dksJ2_init_0 4 rfl rfl)
theorem dJ2_init_5 : decode cJ2_init 5 = .ok (.ifCond .le 14, 3) := dk_158 0 14 (dk_at dksJ2_init_0 5 rfl rfl)
theorem dJ2_init_8 : decode cJ2_init 8 = .ok (.aload_n 0, 1) := dk_42 (dk_at dksJ2_init_0 8 rfl rfl)
theorem dJ2_init_9 : decode cJ2_init 9 = .ok (.iload_n 1, 1) := dk_27 (dk_at dksJ2_init_0 9 rfl rfl)
theorem dJ2_init_10 : decode cJ2_init 10 = .ok (.anewarray 7, 3) := dk_189 0 7 (dk_at dksJ2_init_0 10 rfl rfl)
theorem dJ2_init_13 : decode cJ2_init 13 = .ok (.putfield 9, 3) := dk_181 0 9 (dk_at dksJ2_init_0 13 rfl rfl)
theorem dJ2_init_16 : decode cJ2_init 16 = .ok (.goto 44, 3) := dk_167 0 44 (dk_at dksJ2_init_0 16 rfl rfl)
theorem dJ2_init_19 : decode cJ2_init 19 = .ok (.iload_n 1, 1) := dk_27 (dk_at dksJ2_init_0 19 rfl rfl)
theorem dJ2_init_20 : decode cJ2_init 20 = .ok (.ifCond .ne 13, 3) := dk_154 0 13 (dk_at dksJ2_init_0 20 rfl rfl)
theorem dJ2_init_23 : decode cJ2_init 23 = .ok (.aload_n 0, 1) := dk_42 (dk_at dksJ2_init_0 23 rfl rfl)
theorem dJ2_init_24 : decode cJ2_init 24 = .ok (.getstatic 15, 3) := dk_178 0 15 (dk_at dksJ2_init_1 0 rfl rfl)
theorem dJ2_init_27 : decode cJ2_init 27 = .ok (.putfield 9, 3) := dk_181 0 9 (dk_at dksJ2_init_1 3 rfl rfl)
theorem dJ2_init_30 : decode cJ2_init 30 = .ok (.goto 30, 3) := dk_167 0 30 (dk_at dksJ2_init_1 6 rfl rfl)
theorem dJ2_init_33 : decode cJ2_init 33 = .ok (.new 18, 3) := dk_187 0 18 (dk_at dksJ2_init_1 9 rfl rfl)
theorem dJ2_init_36 : decode cJ2_init 36 = .ok (.dup, 1) := dk_89 (dk_at dksJ2_init_1 12 rfl rfl)
theorem dJ2_init_37 : decode cJ2_init 37 = .ok (.new 20, 3) := dk_187 0 20 (dk_at dksJ2_init_1 13 rfl rfl)
theorem dJ2_init_40 : decode cJ2_init 40 = .ok (.dup, 1) := dk_89 (dk_at dksJ2_init_1 16 rfl rfl)
theorem dJ2_init_41 : decode cJ2_init 41 = .ok (.invokespecial 22, 3) := dk_183 0 22 (dk_at dksJ2_init_1 17 rfl rfl)
theorem dJ2_init_44 : decode cJ2_init 44 = .ok (.ldc 23, 2) := dk_18 23 (dk_at dksJ2_init_1 20 rfl rfl)
theorem dJ2_init_46 : decode cJ2_init 46 = .ok (.invokevirtual 25, 3) := dk_182 0 25 (dk_at dksJ2_init_2 0 rfl rfl)
theorem dJ2_init_49 : decode cJ2_init 49 = .ok (.iload_n 1, 1) := dk_27 (dk_at dksJ2_init_2 3 rfl rfl)
theorem dJ2_init_50 : decode cJ2_init 50 = .ok (.invokevirtual 29, 3) := dk_182 0 29 (dk_at dksJ2_init_2 4 rfl rfl)
theorem dJ2_init_53 : decode cJ2_init 53 = .ok (.invokevirtual 32, 3) := dk_182 0 32 (dk_at dksJ2_init_2 7 rfl rfl)
theorem dJ2_init_56 : decode cJ2_init 56 = .ok (.invokespecial 36, 3) := dk_183 0 36 (dk_at dksJ2_init_2 10 rfl rfl)
theorem dJ2_init_59 : decode cJ2_init 59 = .ok (.athrow, 1) := dk_191 (dk_at dksJ2_init_2 13 rfl rfl)
theorem dJ2_init_60 : decode cJ2_init 60 = .ok (.return_, 1) := dk_177 (dk_at dksJ2_init_2 14 rfl rfl)
theorem gJ2_init_0 {b : Nat} {v0 : Nat} {v1 : Int32} {T : zT} {I : zI} {L : zL} {R : zR} {P : zP} (h : (T v0).1 = 5 ∧ zMet mJ1_init 2 0 [.ref v0] T I L R (zqV_I T L R  (fun (I2 : zI)  => ((v1 ≤ 0 → ((v1 = 0 → False) ∧ (¬ v1 = 0 → False))) ∧ (¬ v1 ≤ 0 → ∃ κ3, 100 ≤ κ3 ∧ (T κ3).1 = 0 ∧ v1.toNatClampNeg + 1 ≤ (b - 0) ∧ ¬ v1 < 0 ∧ v1.toNatClampNeg * 4 ≤ 536870912 ∧ P 0 (.int 0) (z1 T κ3 (109, v1.toNatClampNeg)) (z1 I2 κ3 fun _ => 0) (z1 L κ3 fun _ => 0) (z2 (z1 R κ3 fun _ => 0) v0 1 κ3)))))) : zAW mJ2_init 3 b 0 [(0, .ref v0), (1, .int v1)] [] T I L R P := by
  obtain ⟨ht1, h⟩ := h
  refine za_aload_n (pc' := 1) 0 dJ2_init_0 rfl rfl rfl ?_
  refine za_callI (κ := v0) (M2 := mJ1_init) (d2 := 2) (b2 := 0) (n := 0) (As := []) (st := []) (pc' := 4) (by rw [ht1]; decide) dJ2_init_1 rfl (lw_meth q249) rfl q247 q248 q136 rfl hd_J1_init rfl (by decide) (by decide) (Nat.zero_le _) (Or.inl rfl) (Nat.le_of_ble_eq_true rfl) h (zqV_I_k rfl (fun I2 h => ?_)) (fun _ _ _ _ _ _ h9 h8 => absurd h8.1 h9) rfl
  refine za_iload_n (pc' := 5) 1 dJ2_init_4 rfl rfl rfl ?_
  refine za_if_le (pc' := 8) (tgt := 19) dJ2_init_5 (by decide) rfl (fun c9 => ?_) (fun c9 => ?_)
  · replace h := h.1 c9
    refine za_iload_n (pc' := 20) 1 dJ2_init_19 rfl rfl rfl ?_
    refine za_if_ne (pc' := 23) (tgt := 33) dJ2_init_20 (by decide) rfl (fun c9 => ?_) (fun c9 => ?_)
    · replace h := h.2 c9
      exact h.elim
    · replace h := h.1 c9
      refine za_aload_n (pc' := 24) 0 dJ2_init_23 rfl rfl rfl ?_
      exact h.elim
  · replace h := h.2 c9
    refine za_aload_n (pc' := 9) 0 dJ2_init_8 rfl rfl rfl ?_
    refine za_iload_n (pc' := 10) 1 dJ2_init_9 rfl rfl rfl ?_
    obtain ⟨κ3, hk4, hf5, hb6, hn7, hn8, h⟩ := h
    refine za_newq (κ := κ3) (N := v1.toNatClampNeg) (t := 9) (C := "java/lang/Object") (pc' := 13) dJ2_init_10 q254 (by decide) (by decide) (fun _ => rfl) hn7 rfl hn8 hk4 hf5 hb6 rfl ?_
    refine za_putR (fi := 1) (pc' := 16) dJ2_init_13 zc4 (by decide) in_J2 zok4 znm4 (by decide) q258 (Or.inl rfl) rfl rfl (fun _ _ _ => rfl) (z1_tk hf5 ht1 (by decide)) rfl ?_
    refine za_goto (tgt := 60) dJ2_init_16 (by decide) ?_
    exact za_return rfl dJ2_init_60 h
theorem gJ2_init_49 {b : Nat} {v1 : Int32} {s0 : Nat} {T : zT} {I : zI} {L : zL} {R : zR} {P : zP} (h : False) : zAW mJ2_init 3 b 49 [(1, .int v1)] [.ref s0] T I L R P := by
  refine za_iload_n (pc' := 50) 0 dJ2_init_49 rfl rfl rfl ?_
  exact h.elim
theorem sJ2_init {d b : Nat} {v0 : Nat} {v1 : Int32} {T : zT} {I : zI} {L : zL} {R : zR} {P : zP} (h : zAW mJ2_init d b 0 [(0, .ref v0), (1, .int v1)] [] T I L R P) : zMet mJ2_init d b [.ref v0, .int v1] T I L R P := zMet_of (by decide +kernel) rfl (Nat.le_of_ble_eq_true rfl) rfl h
/-! java/util/ArrayList.size ()I -/
theorem dJ2_size_0 : decode cJ2_size 0 = .ok (.aload_n 0, 1) := by decide +kernel
theorem dJ2_size_1 : decode cJ2_size 1 = .ok (.getfield 48, 3) := by decide +kernel
theorem dJ2_size_4 : decode cJ2_size 4 = .ok (.ireturn, 1) := by decide +kernel
theorem gJ2_size_0 {v0 : Nat} {T : zT} {I : zI} {L : zL} {R : zR} {P : zP} (h : (T v0).1 = 5 ∧ P 0 (.int (I v0 2)) T I L R) : zAW mJ2_size 1 0 0 [(0, .ref v0)] [] T I L R P := by
  refine za_aload_n (pc' := 1) 0 dJ2_size_0 rfl rfl rfl ?_
  obtain ⟨ht1, h⟩ := h
  refine za_get (fi := 2) (v := .int (I v0 2)) (pc' := 4) dJ2_size_1 zc4 (by decide) in_J2 (by decide) q259 (Or.inl rfl) ht1 rfl rfl ?_
  exact za_ireturn rfl dJ2_size_4 h
theorem sJ2_size {d b : Nat} {v0 : Nat} {T : zT} {I : zI} {L : zL} {R : zR} {P : zP} (h : zAW mJ2_size d b 0 [(0, .ref v0)] [] T I L R P) : zMet mJ2_size d b [.ref v0] T I L R P := zMet_of (by decide +kernel) rfl (Nat.le_of_ble_eq_true rfl) rfl h
/-! java/util/ArrayList.get (I)Ljava/lang/Object; -/
def dkwJ2_get_0 : List UInt8 := [27, 42, 180, 0, 48, 184, 0, 118, 87, 42, 27, 182, 0, 123, 176]
abbrev dktJ2_get_0 : List UInt8 := dkwJ2_get_0 ++ []
theorem dksJ2_get_0 : cJ2_get.data.toList.drop 0 = dktJ2_get_0 := by decide +kernel
theorem dJ2_get_0 : decode cJ2_get 0 = .ok (.iload_n 1, 1) := dk_27 (dk_at dksJ2_get_0 0 rfl rfl)
theorem dJ2_get_1 : decode cJ2_get 1 = .ok (.aload_n 0, 1) := dk_42 (dk_at dksJ2_get_0 1 rfl rfl)
theorem dJ2_get_2 : decode cJ2_get 2 = .ok (.getfield 48, 3) := dk_180 0 48 (dk_at dksJ2_get_0 2 rfl rfl)
theorem dJ2_get_5 : decode cJ2_get 5 = .ok (.invokestatic 118, 3) := dk_184 0 118 (dk_at dksJ2_get_0 5 rfl rfl)
theorem dJ2_get_8 : decode cJ2_get 8 = .ok (.pop, 1) := dk_87 (dk_at dksJ2_get_0 8 rfl rfl)
theorem dJ2_get_9 : decode cJ2_get 9 = .ok (.aload_n 0, 1) := dk_42 (dk_at dksJ2_get_0 9 rfl rfl)
theorem dJ2_get_10 : decode cJ2_get 10 = .ok (.iload_n 1, 1) := dk_27 (dk_at dksJ2_get_0 10 rfl rfl)
theorem dJ2_get_11 : decode cJ2_get 11 = .ok (.invokevirtual 123, 3) := dk_182 0 123 (dk_at dksJ2_get_0 11 rfl rfl)
theorem dJ2_get_14 : decode cJ2_get 14 = .ok (.areturn, 1) := dk_176 (dk_at dksJ2_get_0 14 rfl rfl)
theorem gJ2_get_0 {v0 : Nat} {v1 : Int32} {T : zT} {I : zI} {L : zL} {R : zR} {P : zP} (h : (T v0).1 = 5 ∧ zMet mJ3_checkIndex 2 0 [.int v1, .int (I v0 2)] T I L R (zqI_ T I L R  (fun (r2 : Int32)  => zMet mJ2_elementData 1 0 [.ref v0, .int v1] T I L R (zqR_ T I L R  (fun (r3 : Nat)  => P 0 (.ref r3) T I L R))))) : zAW mJ2_get 3 0 0 [(0, .ref v0), (1, .int v1)] [] T I L R P := by
  refine za_iload_n (pc' := 1) 1 dJ2_get_0 rfl rfl rfl ?_
  refine za_aload_n (pc' := 2) 0 dJ2_get_1 rfl rfl rfl ?_
  obtain ⟨ht1, h⟩ := h
  refine za_get (fi := 2) (v := .int (I v0 2)) (pc' := 5) dJ2_get_2 zc4 (by decide) in_J2 (by decide) q259 (Or.inl rfl) ht1 rfl rfl ?_
  refine za_callS (M2 := mJ3_checkIndex) (d2 := 2) (b2 := 0) (n := 2) (As := [.int v1, .int (I v0 2)]) (st := []) (pc' := 8) dJ2_get_5 rfl (lw_S q473 q474 q146 q475) hd_J3_checkIndex rfl (by decide) (by decide) (Nat.zero_le _) (Or.inl rfl) (Nat.le_of_ble_eq_true rfl) h (zqI__k rfl (fun r2 h => ?_)) (fun _ _ _ _ _ _ h9 h8 => absurd h8.1 h9) rfl
  refine za_pop (pc' := 9) dJ2_get_8 rfl rfl ?_
  refine za_aload_n (pc' := 10) 0 dJ2_get_9 rfl rfl rfl ?_
  refine za_iload_n (pc' := 11) 1 dJ2_get_10 rfl rfl rfl ?_
  refine za_callV (κ := v0) (M2 := mJ2_elementData) (d2 := 1) (b2 := 0) (n := 1) (As := [.int v1]) (st := []) (pc' := 14) zc4 (by decide) ht1 dJ2_get_11 rfl (lw_V q479 q480 q481 q137 q482) ⟨rfl, hd_J2_elementData⟩ rfl (by decide) (by decide) (Nat.zero_le _) (Or.inl rfl) (Nat.le_of_ble_eq_true rfl) h (zqR__k rfl (fun r3 h => ?_)) (fun _ _ _ _ _ _ h9 h8 => absurd h8.1 h9) rfl
  exact za_areturn rfl dJ2_get_14 (Or.inl ⟨_, rfl⟩) h
theorem sJ2_get {d b : Nat} {v0 : Nat} {v1 : Int32} {T : zT} {I : zI} {L : zL} {R : zR} {P : zP} (h : zAW mJ2_get d b 0 [(0, .ref v0), (1, .int v1)] [] T I L R P) : zMet mJ2_get d b [.ref v0, .int v1] T I L R P := zMet_of (by decide +kernel) rfl (Nat.le_of_ble_eq_true rfl) rfl h
/-! java/util/ArrayList.elementData (I)Ljava/lang/Object; -/
def dkwJ2_elementData_0 : List UInt8 := [42, 180, 0, 9, 27, 50, 176]
abbrev dktJ2_elementData_0 : List UInt8 := dkwJ2_elementData_0 ++ []
theorem dksJ2_elementData_0 : cJ2_elementData.data.toList.drop 0 = dktJ2_elementData_0 := by decide +kernel
theorem dJ2_elementData_0 : decode cJ2_elementData 0 = .ok (.aload_n 0, 1) := dk_42 (dk_at dksJ2_elementData_0 0 rfl rfl)
theorem dJ2_elementData_1 : decode cJ2_elementData 1 = .ok (.getfield 9, 3) := dk_180 0 9 (dk_at dksJ2_elementData_0 1 rfl rfl)
theorem dJ2_elementData_4 : decode cJ2_elementData 4 = .ok (.iload_n 1, 1) := dk_27 (dk_at dksJ2_elementData_0 4 rfl rfl)
theorem dJ2_elementData_5 : decode cJ2_elementData 5 = .ok (.aaload, 1) := dk_50 (dk_at dksJ2_elementData_0 5 rfl rfl)
theorem dJ2_elementData_6 : decode cJ2_elementData 6 = .ok (.areturn, 1) := dk_176 (dk_at dksJ2_elementData_0 6 rfl rfl)
theorem gJ2_elementData_0 {v0 : Nat} {v1 : Int32} {T : zT} {I : zI} {L : zL} {R : zR} {P : zP} (h : (T v0).1 = 5 ∧ (T (R v0 1)).1 = 109 ∧ vp_in v1 ((T (R v0 1)).2) ∧ P 0 (.ref (R (R v0 1) (v1.toNatClampNeg))) T I L R) : zAW mJ2_elementData 1 0 0 [(0, .ref v0), (1, .int v1)] [] T I L R P := by
  refine za_aload_n (pc' := 1) 0 dJ2_elementData_0 rfl rfl rfl ?_
  obtain ⟨ht1, h⟩ := h
  refine za_get (fi := 1) (v := .ref (R v0 1)) (pc' := 4) dJ2_elementData_1 zc4 (by decide) in_J2 (by decide) q258 (Or.inl rfl) ht1 rfl rfl ?_
  refine za_iload_n (pc' := 5) 1 dJ2_elementData_4 rfl rfl rfl ?_
  obtain ⟨ht2, h⟩ := h
  obtain ⟨hi3, h⟩ := h
  refine za_aald (r := (R (R v0 1) (v1.toNatClampNeg))) (t := 9) (C := "java/lang/Object") (pc' := 6) dJ2_elementData_5 (by decide) (fun _ => rfl) (zpair ht2) hi3 (rfl) rfl ?_
  exact za_areturn rfl dJ2_elementData_6 (Or.inl ⟨_, rfl⟩) h
theorem sJ2_elementData {d b : Nat} {v0 : Nat} {v1 : Int32} {T : zT} {I : zI} {L : zL} {R : zR} {P : zP} (h : zAW mJ2_elementData d b 0 [(0, .ref v0), (1, .int v1)] [] T I L R P) : zMet mJ2_elementData d b [.ref v0, .int v1] T I L R P := zMet_of (by decide +kernel) rfl (Nat.le_of_ble_eq_true rfl) rfl h
/-! java/util/ArrayList.add (Ljava/lang/Object;)Z -/
def dkwJ2_add_1 : List UInt8 := [172]
abbrev dktJ2_add_1 : List UInt8 := dkwJ2_add_1 ++ []
def dkwJ2_add_0 : List UInt8 := [42, 89, 180, 0, 63, 4, 96, 181, 0, 63, 42, 43, 42, 180, 0, 9, 42, 180, 0, 48, 182, 0, 131, 4]
abbrev dktJ2_add_0 : List UInt8 := dkwJ2_add_0 ++ dktJ2_add_1
theorem dksJ2_add_0 : cJ2_add.data.toList.drop 0 = dktJ2_add_0 := by decide +kernel
theorem dksJ2_add_1 : cJ2_add.data.toList.drop 24 = dktJ2_add_1 := dk_seg dksJ2_add_0 24 rfl rfl
theorem dJ2_add_0 : decode cJ2_add 0 = .ok (.aload_n 0, 1) := dk_42 (dk_at dksJ2_add_0 0 rfl rfl)
theorem dJ2_add_1 : decode cJ2_add 1 = .ok (.dup, 1) := dk_89 (dk_at dksJ2_add_0 1 rfl rfl)
theorem dJ2_add_2 : decode cJ2_add 2 = .ok (.getfield 63, 3) := dk_180 0 63 (dk_at dksJ2_add_0 2 rfl rfl)
theorem dJ2_add_5 : decode cJ2_add 5 = .ok (.iconst 1, 1) := dk_4 (dk_at dksJ2_add_0 5 rfl rfl)
theorem dJ2_add_6 : decode cJ2_add 6 = .ok (.iadd, 1) := dk_96 (dk_at dksJ2_add_0 6 rfl rfl)
theorem dJ2_add_7 : decode cJ2_add 7 = .ok (.putfield 63, 3) := dk_181 0 63 (dk_at dksJ2_add_0 7 rfl rfl)
theorem dJ2_add_10 : decode cJ2_add 10 = .ok (.aload_n 0, 1) := dk_42 (dk_at dksJ2_add_0 10 rfl rfl)
theorem dJ2_add_11 : decode cJ2_add 11 = .ok (.aload_n 1, 1) := dk_43 (dk_at dksJ2_add_0 11 rfl rfl)
theorem dJ2_add_12 : decode cJ2_add 12 = .ok (.aload_n 0, 1) := dk_42 (dk_at dksJ2_add_0 12 rfl rfl)
theorem dJ2_add_13 : decode cJ2_add 13 = .ok (.getfield 9, 3) := dk_180 0 9 (dk_at dksJ2_add_0 13 rfl rfl)
theorem dJ2_add_16 : decode cJ2_add 16 = .ok (.aload_n 0, 1) := dk_42 (dk_at dksJ2_add_0 16 rfl rfl)
theorem dJ2_add_17 : decode cJ2_add 17 = .ok (.getfield 48, 3) := dk_180 0 48 (dk_at dksJ2_add_0 17 rfl rfl)
theorem dJ2_add_20 : decode cJ2_add 20 = .ok (.invokevirtual 131, 3) := dk_182 0 131 (dk_at dksJ2_add_0 20 rfl rfl)
theorem dJ2_add_23 : decode cJ2_add 23 = .ok (.iconst 1, 1) := dk_4 (dk_at dksJ2_add_0 23 rfl rfl)
theorem dJ2_add_24 : decode cJ2_add 24 = .ok (.ireturn, 1) := dk_172 (dk_at dksJ2_add_1 0 rfl rfl)
theorem gJ2_add_0 {v0 : Nat} {v1 : Nat} {T : zT} {I : zI} {L : zL} {R : zR} {P : zP} (h : (T v0).1 = 5 ∧ zMet mJ2_add_2 1 0 [.ref v0, .ref v1, .ref (R v0 1), .int (I v0 2)] T (z2 I v0 0 ((I v0 0) + (1 : Int32))) L R (zqV_IR T L  (fun (I2 : zI) (R3 : zR)  => P 0 (.int (1 : Int32)) T I2 L R3))) : zAW mJ2_add 2 0 0 [(0, .ref v0), (1, .ref v1)] [] T I L R P := by
  refine za_aload_n (pc' := 1) 0 dJ2_add_0 rfl rfl rfl ?_
  refine za_dup (pc' := 2) dJ2_add_1 rfl rfl ?_
  obtain ⟨ht1, h⟩ := h
  refine za_get (fi := 0) (v := .int (I v0 0)) (pc' := 5) dJ2_add_2 zc4 (by decide) in_J2 (by decide) q261 (Or.inr q262) ht1 rfl rfl ?_
  refine za_iconst (pc' := 6) dJ2_add_5 zi_1 rfl ?_
  refine za_iadd (pc' := 7) dJ2_add_6 rfl ?_
  refine za_putI (fi := 0) (pc' := 10) dJ2_add_7 zc4 (by decide) in_J2 zok4 znm4 (by decide) q261 (Or.inr q262) rfl rfl (fun _ _ _ => rfl) rfl rfl ht1 rfl ?_
  refine za_aload_n (pc' := 11) 0 dJ2_add_10 rfl rfl rfl ?_
  refine za_aload_n (pc' := 12) 1 dJ2_add_11 rfl rfl rfl ?_
  refine za_aload_n (pc' := 13) 0 dJ2_add_12 rfl rfl rfl ?_
  refine za_get (fi := 1) (v := .ref (R v0 1)) (pc' := 16) dJ2_add_13 zc4 (by decide) in_J2 (by decide) q258 (Or.inl rfl) ht1 rfl rfl ?_
  refine za_aload_n (pc' := 17) 0 dJ2_add_16 rfl rfl rfl ?_
  refine za_get (fi := 2) (v := .int (I v0 2)) (pc' := 20) dJ2_add_17 zc4 (by decide) in_J2 (by decide) q259 (Or.inl rfl) ht1 (congrArg Value.int (z2_nk (by decide))) rfl ?_
  refine za_callV (κ := v0) (M2 := mJ2_add_2) (d2 := 1) (b2 := 0) (n := 3) (As := [.ref v1, .ref (R v0 1), .int (I v0 2)]) (st := []) (pc' := 23) zc4 (by decide) ht1 dJ2_add_20 rfl (lw_V q878 q880 qs15 q137 q881) ⟨rfl, hd_J2_add_2⟩ rfl (by decide) (by decide) (Nat.zero_le _) (Or.inl rfl) (Nat.le_of_ble_eq_true rfl) h (zqV_IR_k rfl (fun I2 R3 h => ?_)) (fun _ _ _ _ _ _ h9 h8 => absurd h8.1 h9) rfl
  refine za_iconst (pc' := 24) dJ2_add_23 zi_1 rfl ?_
  exact za_zreturn rfl dJ2_add_24 (by decide) h
theorem sJ2_add {d b : Nat} {v0 : Nat} {v1 : Nat} {T : zT} {I : zI} {L : zL} {R : zR} {P : zP} (h : zAW mJ2_add d b 0 [(0, .ref v0), (1, .ref v1)] [] T I L R P) : zMet mJ2_add d b [.ref v0, .ref v1] T I L R P := zMet_of (by decide +kernel) rfl (Nat.le_of_ble_eq_true rfl) rfl h
/-! java/util/ArrayList.add (Ljava/lang/Object;[Ljava/lang/Object;I)V -/
def dkwJ2_add_2_0 : List UInt8 := [29, 44, 190, 160, 0, 8, 42, 182, 0, 129, 77, 44, 29, 43, 83, 42, 29, 4, 96, 181, 0, 48, 177]
abbrev dktJ2_add_2_0 : List UInt8 := dkwJ2_add_2_0 ++ []
theorem dksJ2_add_2_0 : cJ2_add_2.data.toList.drop 0 = dktJ2_add_2_0 := by decide +kernel
theorem dJ2_add_2_0 : decode cJ2_add_2 0 = .ok (.iload_n 3, 1) := dk_29 (dk_at dksJ2_add_2_0 0 rfl rfl)
theorem dJ2_add_2_1 : decode cJ2_add_2 1 = .ok (.aload_n 2, 1) := dk_44 (dk_at dksJ2_add_2_0 1 rfl rfl)
theorem dJ2_add_2_2 : decode cJ2_add_2 2 = .ok (.arraylength, 1) := dk_190 (dk_at dksJ2_add_2_0 2 rfl rfl)
theorem dJ2_add_2_3 : decode cJ2_add_2 3 = .ok (.if_icmp .ne 8, 3) := dk_160 0 8 (dk_at dksJ2_add_2_0 3 rfl rfl)
theorem dJ2_add_2_6 : decode cJ2_add_2 6 = .ok (.aload_n 0, 1) := dk_42 (dk_at dksJ2_add_2_0 6 rfl rfl)
theorem dJ2_add_2_7 : decode cJ2_add_2 7 = .ok (.invokevirtual 129, 3) := dk_182 0 129 (dk_at dksJ2_add_2_0 7 rfl rfl)
theorem dJ2_add_2_10 : decode cJ2_add_2 10 = .ok (.astore_n 2, 1) := dk_77 (dk_at dksJ2_add_2_0 10 rfl rfl)
theorem dJ2_add_2_11 : decode cJ2_add_2 11 = .ok (.aload_n 2, 1) := dk_44 (dk_at dksJ2_add_2_0 11 rfl rfl)
theorem dJ2_add_2_12 : decode cJ2_add_2 12 = .ok (.iload_n 3, 1) := dk_29 (dk_at dksJ2_add_2_0 12 rfl rfl)
theorem dJ2_add_2_13 : decode cJ2_add_2 13 = .ok (.aload_n 1, 1) := dk_43 (dk_at dksJ2_add_2_0 13 rfl rfl)
theorem dJ2_add_2_14 : decode cJ2_add_2 14 = .ok (.aastore, 1) := dk_83 (dk_at dksJ2_add_2_0 14 rfl rfl)
theorem dJ2_add_2_15 : decode cJ2_add_2 15 = .ok (.aload_n 0, 1) := dk_42 (dk_at dksJ2_add_2_0 15 rfl rfl)
theorem dJ2_add_2_16 : decode cJ2_add_2 16 = .ok (.iload_n 3, 1) := dk_29 (dk_at dksJ2_add_2_0 16 rfl rfl)
theorem dJ2_add_2_17 : decode cJ2_add_2 17 = .ok (.iconst 1, 1) := dk_4 (dk_at dksJ2_add_2_0 17 rfl rfl)
theorem dJ2_add_2_18 : decode cJ2_add_2 18 = .ok (.iadd, 1) := dk_96 (dk_at dksJ2_add_2_0 18 rfl rfl)
theorem dJ2_add_2_19 : decode cJ2_add_2 19 = .ok (.putfield 48, 3) := dk_181 0 48 (dk_at dksJ2_add_2_0 19 rfl rfl)
theorem dJ2_add_2_22 : decode cJ2_add_2 22 = .ok (.return_, 1) := dk_177 (dk_at dksJ2_add_2_0 22 rfl rfl)
theorem gJ2_add_2_0 {v0 : Nat} {v1 : Nat} {v2 : Nat} {v3 : Int32} {T : zT} {I : zI} {L : zL} {R : zR} {P : zP} (h : (T v2).1 = 109 ∧ ((v3 = (nI ((T v2).2)) → False) ∧ (¬ v3 = (nI ((T v2).2)) → vp_in v3 ((T v2).2) ∧ ((T v1).1 = 15 ∨ (T v1).1 = 11) ∧ (T v0).1 = 5 ∧ P 0 (.int 0) T (z2 I v0 2 (v3 + (1 : Int32))) L (z2 R v2 (v3.toNatClampNeg) v1)))) : zAW mJ2_add_2 1 0 0 [(0, .ref v0), (1, .ref v1), (2, .ref v2), (3, .int v3)] [] T I L R P := by
  refine za_iload_n (pc' := 1) 3 dJ2_add_2_0 rfl rfl rfl ?_
  refine za_aload_n (pc' := 2) 2 dJ2_add_2_1 rfl rfl rfl ?_
  obtain ⟨ht1, h⟩ := h
  refine za_alen (t := 9) (pc' := 3) dJ2_add_2_2 (zpair ht1) (fun _ => rfl) rfl rfl ?_
  refine za_icmp_ne (pc' := 6) (tgt := 11) dJ2_add_2_3 (by decide) rfl (fun c9 => ?_) (fun c9 => ?_)
  · replace h := h.2 c9
    refine za_aload_n (pc' := 12) 2 dJ2_add_2_11 rfl rfl rfl ?_
    refine za_iload_n (pc' := 13) 3 dJ2_add_2_12 rfl rfl rfl ?_
    refine za_aload_n (pc' := 14) 1 dJ2_add_2_13 rfl rfl rfl ?_
    obtain ⟨hi2, h⟩ := h
    obtain ⟨hv3, h⟩ := h
    refine za_aastObj (kx := v3.toNatClampNeg) (pc' := 15) dJ2_add_2_14 (zpair ht1) hi2 hv3 rfl rfl ?_
    refine za_aload_n (pc' := 16) 0 dJ2_add_2_15 rfl rfl rfl ?_
    refine za_iload_n (pc' := 17) 3 dJ2_add_2_16 rfl rfl rfl ?_
    refine za_iconst (pc' := 18) dJ2_add_2_17 zi_1 rfl ?_
    refine za_iadd (pc' := 19) dJ2_add_2_18 rfl ?_
    obtain ⟨ht4, h⟩ := h
    refine za_putI (fi := 2) (pc' := 22) dJ2_add_2_19 zc4 (by decide) in_J2 zok4 znm4 (by decide) q259 (Or.inl rfl) rfl rfl (fun _ _ _ => rfl) rfl rfl ht4 rfl ?_
    exact za_return rfl dJ2_add_2_22 h
  · replace h := h.1 c9
    refine za_aload_n (pc' := 7) 0 dJ2_add_2_6 rfl rfl rfl ?_
    exact h.elim
theorem sJ2_add_2 {d b : Nat} {v0 : Nat} {v1 : Nat} {v2 : Nat} {v3 : Int32} {T : zT} {I : zI} {L : zL} {R : zR} {P : zP} (h : zAW mJ2_add_2 d b 0 [(0, .ref v0), (1, .ref v1), (2, .ref v2), (3, .int v3)] [] T I L R P) : zMet mJ2_add_2 d b [.ref v0, .ref v1, .ref v2, .int v3] T I L R P := zMet_of (by decide +kernel) rfl (Nat.le_of_ble_eq_true rfl) rfl h
/-! java/util/ArrayList.isEmpty ()Z -/
def dkwJ2_isEmpty_0 : List UInt8 := [42, 180, 0, 48, 154, 0, 7, 4, 167, 0, 4, 3, 172]
abbrev dktJ2_isEmpty_0 : List UInt8 := dkwJ2_isEmpty_0 ++ []
theorem dksJ2_isEmpty_0 : cJ2_isEmpty.data.toList.drop 0 = dktJ2_isEmpty_0 := by decide +kernel
theorem dJ2_isEmpty_0 : decode cJ2_isEmpty 0 = .ok (.aload_n 0, 1) := dk_42 (dk_at dksJ2_isEmpty_0 0 rfl rfl)
theorem dJ2_isEmpty_1 : decode cJ2_isEmpty 1 = .ok (.getfield 48, 3) := dk_180 0 48 (dk_at dksJ2_isEmpty_0 1 rfl rfl)
theorem dJ2_isEmpty_4 : decode cJ2_isEmpty 4 = .ok (.ifCond .ne 7, 3) := dk_154 0 7 (dk_at dksJ2_isEmpty_0 4 rfl rfl)
theorem dJ2_isEmpty_7 : decode cJ2_isEmpty 7 = .ok (.iconst 1, 1) := dk_4 (dk_at dksJ2_isEmpty_0 7 rfl rfl)
theorem dJ2_isEmpty_8 : decode cJ2_isEmpty 8 = .ok (.goto 4, 3) := dk_167 0 4 (dk_at dksJ2_isEmpty_0 8 rfl rfl)
theorem dJ2_isEmpty_11 : decode cJ2_isEmpty 11 = .ok (.iconst 0, 1) := dk_3 (dk_at dksJ2_isEmpty_0 11 rfl rfl)
theorem dJ2_isEmpty_12 : decode cJ2_isEmpty 12 = .ok (.ireturn, 1) := dk_172 (dk_at dksJ2_isEmpty_0 12 rfl rfl)
theorem gJ2_isEmpty_0 {v0 : Nat} {T : zT} {I : zI} {L : zL} {R : zR} {P : zP} (h : (T v0).1 = 5 ∧ (((I v0 2) = 0 → P 0 (.int (1 : Int32)) T I L R) ∧ (¬ (I v0 2) = 0 → P 0 (.int (0 : Int32)) T I L R))) : zAW mJ2_isEmpty 1 0 0 [(0, .ref v0)] [] T I L R P := by
  refine za_aload_n (pc' := 1) 0 dJ2_isEmpty_0 rfl rfl rfl ?_
  obtain ⟨ht1, h⟩ := h
  refine za_get (fi := 2) (v := .int (I v0 2)) (pc' := 4) dJ2_isEmpty_1 zc4 (by decide) in_J2 (by decide) q259 (Or.inl rfl) ht1 rfl rfl ?_
  refine za_if_ne (pc' := 7) (tgt := 11) dJ2_isEmpty_4 (by decide) rfl (fun c9 => ?_) (fun c9 => ?_)
  · replace h := h.2 c9
    refine za_iconst (pc' := 12) dJ2_isEmpty_11 zi_0 rfl ?_
    exact za_zreturn rfl dJ2_isEmpty_12 (by decide) h
  · replace h := h.1 c9
    refine za_iconst (pc' := 8) dJ2_isEmpty_7 zi_1 rfl ?_
    refine za_goto (tgt := 12) dJ2_isEmpty_8 (by decide) ?_
    exact za_zreturn rfl dJ2_isEmpty_12 (by decide) h
theorem sJ2_isEmpty {d b : Nat} {v0 : Nat} {T : zT} {I : zI} {L : zL} {R : zR} {P : zP} (h : zAW mJ2_isEmpty d b 0 [(0, .ref v0)] [] T I L R P) : zMet mJ2_isEmpty d b [.ref v0] T I L R P := zMet_of (by decide +kernel) rfl (Nat.le_of_ble_eq_true rfl) rfl h
/-! java/util/Objects.checkIndex (II)I -/
def dkwJ3_checkIndex_0 : List UInt8 := [26, 27, 1, 184, 0, 105, 172]
abbrev dktJ3_checkIndex_0 : List UInt8 := dkwJ3_checkIndex_0 ++ []
theorem dksJ3_checkIndex_0 : cJ3_checkIndex.data.toList.drop 0 = dktJ3_checkIndex_0 := by decide +kernel
theorem dJ3_checkIndex_0 : decode cJ3_checkIndex 0 = .ok (.iload_n 0, 1) := dk_26 (dk_at dksJ3_checkIndex_0 0 rfl rfl)
theorem dJ3_checkIndex_1 : decode cJ3_checkIndex 1 = .ok (.iload_n 1, 1) := dk_27 (dk_at dksJ3_checkIndex_0 1 rfl rfl)
theorem dJ3_checkIndex_2 : decode cJ3_checkIndex 2 = .ok (.aconst_null, 1) := dk_1 (dk_at dksJ3_checkIndex_0 2 rfl rfl)
theorem dJ3_checkIndex_3 : decode cJ3_checkIndex 3 = .ok (.invokestatic 105, 3) := dk_184 0 105 (dk_at dksJ3_checkIndex_0 3 rfl rfl)
theorem dJ3_checkIndex_6 : decode cJ3_checkIndex 6 = .ok (.ireturn, 1) := dk_172 (dk_at dksJ3_checkIndex_0 6 rfl rfl)
theorem gJ3_checkIndex_0 {v0 : Int32} {v1 : Int32} {T : zT} {I : zI} {L : zL} {R : zR} {P : zP} (h : zMet mJ4_checkIndex 1 0 [.int v0, .int v1, .ref 0] T I L R (zqI_ T I L R  (fun (r1 : Int32)  => P 0 (.int r1) T I L R))) : zAW mJ3_checkIndex 2 0 0 [(0, .int v0), (1, .int v1)] [] T I L R P := by
  refine za_iload_n (pc' := 1) 0 dJ3_checkIndex_0 rfl rfl rfl ?_
  refine za_iload_n (pc' := 2) 1 dJ3_checkIndex_1 rfl rfl rfl ?_
  refine za_null (pc' := 3) dJ3_checkIndex_2 rfl ?_
  refine za_callS (M2 := mJ4_checkIndex) (d2 := 1) (b2 := 0) (n := 3) (As := [.int v0, .int v1, .ref 0]) (st := []) (pc' := 6) dJ3_checkIndex_3 rfl (lw_S q476 q477 q147 q478) hd_J4_checkIndex rfl (by decide) (by decide) (Nat.zero_le _) (Or.inl rfl) (Nat.le_of_ble_eq_true rfl) h (zqI__k rfl (fun r1 h => ?_)) (fun _ _ _ _ _ _ h9 h8 => absurd h8.1 h9) rfl
  exact za_ireturn rfl dJ3_checkIndex_6 h
theorem sJ3_checkIndex {d b : Nat} {v0 : Int32} {v1 : Int32} {T : zT} {I : zI} {L : zL} {R : zR} {P : zP} (h : zAW mJ3_checkIndex d b 0 [(0, .int v0), (1, .int v1)] [] T I L R P) : zMet mJ3_checkIndex d b [.int v0, .int v1] T I L R P := zMet_of (by decide +kernel) rfl (Nat.le_of_ble_eq_true rfl) rfl h
/-! jdk/internal/util/Preconditions.checkIndex (IILjava/util/function/BiFunction;)I -/
def dkwJ4_checkIndex_0 : List UInt8 := [26, 155, 0, 8, 26, 27, 161, 0, 10, 44, 26, 27, 184, 0, 95, 191, 26, 172]
abbrev dktJ4_checkIndex_0 : List UInt8 := dkwJ4_checkIndex_0 ++ []
theorem dksJ4_checkIndex_0 : cJ4_checkIndex.data.toList.drop 0 = dktJ4_checkIndex_0 := by decide +kernel
theorem dJ4_checkIndex_0 : decode cJ4_checkIndex 0 = .ok (.iload_n 0, 1) := dk_26 (dk_at dksJ4_checkIndex_0 0 rfl rfl)
theorem dJ4_checkIndex_1 : decode cJ4_checkIndex 1 = .ok (.ifCond .lt 8, 3) := dk_155 0 8 (dk_at dksJ4_checkIndex_0 1 rfl rfl)
theorem dJ4_checkIndex_4 : decode cJ4_checkIndex 4 = .ok (.iload_n 0, 1) := dk_26 (dk_at dksJ4_checkIndex_0 4 rfl rfl)
theorem dJ4_checkIndex_5 : decode cJ4_checkIndex 5 = .ok (.iload_n 1, 1) := dk_27 (dk_at dksJ4_checkIndex_0 5 rfl rfl)
theorem dJ4_checkIndex_6 : decode cJ4_checkIndex 6 = .ok (.if_icmp .lt 10, 3) := dk_161 0 10 (dk_at dksJ4_checkIndex_0 6 rfl rfl)
theorem dJ4_checkIndex_9 : decode cJ4_checkIndex 9 = .ok (.aload_n 2, 1) := dk_44 (dk_at dksJ4_checkIndex_0 9 rfl rfl)
theorem dJ4_checkIndex_10 : decode cJ4_checkIndex 10 = .ok (.iload_n 0, 1) := dk_26 (dk_at dksJ4_checkIndex_0 10 rfl rfl)
theorem dJ4_checkIndex_11 : decode cJ4_checkIndex 11 = .ok (.iload_n 1, 1) := dk_27 (dk_at dksJ4_checkIndex_0 11 rfl rfl)
theorem dJ4_checkIndex_12 : decode cJ4_checkIndex 12 = .ok (.invokestatic 95, 3) := dk_184 0 95 (dk_at dksJ4_checkIndex_0 12 rfl rfl)
theorem dJ4_checkIndex_15 : decode cJ4_checkIndex 15 = .ok (.athrow, 1) := dk_191 (dk_at dksJ4_checkIndex_0 15 rfl rfl)
theorem dJ4_checkIndex_16 : decode cJ4_checkIndex 16 = .ok (.iload_n 0, 1) := dk_26 (dk_at dksJ4_checkIndex_0 16 rfl rfl)
theorem dJ4_checkIndex_17 : decode cJ4_checkIndex 17 = .ok (.ireturn, 1) := dk_172 (dk_at dksJ4_checkIndex_0 17 rfl rfl)
theorem gJ4_checkIndex_0 {v0 : Int32} {v1 : Int32} {v2 : Nat} {T : zT} {I : zI} {L : zL} {R : zR} {P : zP} (h : ((v0 < 0 → False) ∧ (¬ v0 < 0 → ((v0 < v1 → P 0 (.int v0) T I L R) ∧ (¬ v0 < v1 → False))))) : zAW mJ4_checkIndex 1 0 0 [(0, .int v0), (1, .int v1), (2, .ref v2)] [] T I L R P := by
  refine za_iload_n (pc' := 1) 0 dJ4_checkIndex_0 rfl rfl rfl ?_
  refine za_if_lt (pc' := 4) (tgt := 9) dJ4_checkIndex_1 (by decide) rfl (fun c9 => ?_) (fun c9 => ?_)
  · replace h := h.1 c9
    refine za_aload_n (pc' := 10) 2 dJ4_checkIndex_9 rfl rfl rfl ?_
    refine za_iload_n (pc' := 11) 0 dJ4_checkIndex_10 rfl rfl rfl ?_
    refine za_iload_n (pc' := 12) 1 dJ4_checkIndex_11 rfl rfl rfl ?_
    exact h.elim
  · replace h := h.2 c9
    refine za_iload_n (pc' := 5) 0 dJ4_checkIndex_4 rfl rfl rfl ?_
    refine za_iload_n (pc' := 6) 1 dJ4_checkIndex_5 rfl rfl rfl ?_
    refine za_icmp_lt (pc' := 9) (tgt := 16) dJ4_checkIndex_6 (by decide) rfl (fun c9 => ?_) (fun c9 => ?_)
    · replace h := h.1 c9
      refine za_iload_n (pc' := 17) 0 dJ4_checkIndex_16 rfl rfl rfl ?_
      exact za_ireturn rfl dJ4_checkIndex_17 h
    · replace h := h.2 c9
      refine za_aload_n (pc' := 10) 2 dJ4_checkIndex_9 rfl rfl rfl ?_
      refine za_iload_n (pc' := 11) 0 dJ4_checkIndex_10 rfl rfl rfl ?_
      refine za_iload_n (pc' := 12) 1 dJ4_checkIndex_11 rfl rfl rfl ?_
      exact h.elim
theorem sJ4_checkIndex {d b : Nat} {v0 : Int32} {v1 : Int32} {v2 : Nat} {T : zT} {I : zI} {L : zL} {R : zR} {P : zP} (h : zAW mJ4_checkIndex d b 0 [(0, .int v0), (1, .int v1), (2, .ref v2)] [] T I L R P) : zMet mJ4_checkIndex d b [.int v0, .int v1, .ref v2] T I L R P := zMet_of (by decide +kernel) rfl (Nat.le_of_ble_eq_true rfl) rfl h
/-! java/lang/String.length ()I -/
def dkwJ5_length_0 : List UInt8 := [42, 180, 0, 9, 190, 42, 182, 1, 79, 122, 172]
abbrev dktJ5_length_0 : List UInt8 := dkwJ5_length_0 ++ []
theorem dksJ5_length_0 : cJ5_length.data.toList.drop 0 = dktJ5_length_0 := by decide +kernel
theorem dJ5_length_0 : decode cJ5_length 0 = .ok (.aload_n 0, 1) := dk_42 (dk_at dksJ5_length_0 0 rfl rfl)
theorem dJ5_length_1 : decode cJ5_length 1 = .ok (.getfield 9, 3) := dk_180 0 9 (dk_at dksJ5_length_0 1 rfl rfl)
theorem dJ5_length_4 : decode cJ5_length 4 = .ok (.arraylength, 1) := dk_190 (dk_at dksJ5_length_0 4 rfl rfl)
theorem dJ5_length_5 : decode cJ5_length 5 = .ok (.aload_n 0, 1) := dk_42 (dk_at dksJ5_length_0 5 rfl rfl)
theorem dJ5_length_6 : decode cJ5_length 6 = .ok (.invokevirtual 335, 3) := dk_182 1 79 (dk_at dksJ5_length_0 6 rfl rfl)
theorem dJ5_length_9 : decode cJ5_length 9 = .ok (.ishr, 1) := dk_122 (dk_at dksJ5_length_0 9 rfl rfl)
theorem dJ5_length_10 : decode cJ5_length 10 = .ok (.ireturn, 1) := dk_172 (dk_at dksJ5_length_0 10 rfl rfl)
theorem gJ5_length_0 {v0 : Nat} {T : zT} {I : zI} {L : zL} {R : zR} {P : zP} (h : (10 ≤ v0 ∧ v0 < 35) ∧ zMet mJ5_coder 1 0 [.ref v0] T I L R (zqI_ T I L R  (fun (r3 : Int32)  => P 0 (.int ((nI (zlen.getD ((v0 + 40) - 50) 0)) >>> (r3 &&& 31))) T I L R))) : zAW mJ5_length 2 0 0 [(0, .ref v0)] [] T I L R P := by
  refine za_aload_n (pc' := 1) 0 dJ5_length_0 rfl rfl rfl ?_
  obtain ⟨hc2, h⟩ := h
  refine za_strVal (pc' := 4) dJ5_length_1 hc2 q2307 rfl ?_
  refine za_conLen (pc' := 5) dJ5_length_4 (zcon40 hc2) rfl rfl ?_
  refine za_aload_n (pc' := 6) 0 dJ5_length_5 rfl rfl rfl ?_
  refine za_callVS (κ := v0) (M2 := mJ5_coder) (d2 := 1) (b2 := 0) (n := 0) (As := []) (st := [.int (nI (zlen.getD ((v0 + 40) - 50) 0))]) (pc' := 9) hc2 dJ5_length_6 rfl (lw_V q618 q619 q620 q149 q621) ⟨rfl, hd_J5_coder⟩ rfl (by decide) (by decide) (Nat.zero_le _) (Or.inl rfl) (Nat.le_of_ble_eq_true rfl) h (zqI__k rfl (fun r3 h => ?_)) (fun _ _ _ _ _ _ h9 h8 => absurd h8.1 h9) rfl
  refine za_ishr (pc' := 10) dJ5_length_9 rfl ?_
  exact za_ireturn rfl dJ5_length_10 h
theorem sJ5_length {d b : Nat} {v0 : Nat} {T : zT} {I : zI} {L : zL} {R : zR} {P : zP} (h : zAW mJ5_length d b 0 [(0, .ref v0)] [] T I L R P) : zMet mJ5_length d b [.ref v0] T I L R P := zMet_of (by decide +kernel) rfl (Nat.le_of_ble_eq_true rfl) rfl h
/-! java/lang/String.coder ()B -/
def dkwJ5_coder_0 : List UInt8 := [178, 0, 38, 153, 0, 10, 42, 180, 0, 15, 167, 0, 4, 4, 172]
abbrev dktJ5_coder_0 : List UInt8 := dkwJ5_coder_0 ++ []
theorem dksJ5_coder_0 : cJ5_coder.data.toList.drop 0 = dktJ5_coder_0 := by decide +kernel
theorem dJ5_coder_0 : decode cJ5_coder 0 = .ok (.getstatic 38, 3) := dk_178 0 38 (dk_at dksJ5_coder_0 0 rfl rfl)
theorem dJ5_coder_3 : decode cJ5_coder 3 = .ok (.ifCond .eq 10, 3) := dk_153 0 10 (dk_at dksJ5_coder_0 3 rfl rfl)
theorem dJ5_coder_6 : decode cJ5_coder 6 = .ok (.aload_n 0, 1) := dk_42 (dk_at dksJ5_coder_0 6 rfl rfl)
theorem dJ5_coder_7 : decode cJ5_coder 7 = .ok (.getfield 15, 3) := dk_180 0 15 (dk_at dksJ5_coder_0 7 rfl rfl)
theorem dJ5_coder_10 : decode cJ5_coder 10 = .ok (.goto 4, 3) := dk_167 0 4 (dk_at dksJ5_coder_0 10 rfl rfl)
theorem dJ5_coder_13 : decode cJ5_coder 13 = .ok (.iconst 1, 1) := dk_4 (dk_at dksJ5_coder_0 13 rfl rfl)
theorem dJ5_coder_14 : decode cJ5_coder 14 = .ok (.ireturn, 1) := dk_172 (dk_at dksJ5_coder_0 14 rfl rfl)
theorem gJ5_coder_0 {v0 : Nat} {T : zT} {I : zI} {L : zL} {R : zR} {P : zP} (h : (10 ≤ v0 ∧ v0 < 35) ∧ P 0 (.int (0 : Int32)) T I L R) : zAW mJ5_coder 1 0 0 [(0, .ref v0)] [] T I L R P := by
  refine za_compact (pc' := 3) dJ5_coder_0 q622 rfl ?_
  refine za_if_eq (pc' := 6) (tgt := 13) dJ5_coder_3 (by decide) rfl (fun c9 => ?_) (fun c9 => ?_)
  · exact absurd c9 (by decide)
  · refine za_aload_n (pc' := 7) 0 dJ5_coder_6 rfl rfl rfl ?_
    obtain ⟨hc2, h⟩ := h
    refine za_strCoder (pc' := 10) dJ5_coder_7 hc2 q2308 rfl ?_
    refine za_goto (tgt := 14) dJ5_coder_10 (by decide) ?_
    exact za_zreturn rfl dJ5_coder_14 (by decide) h
theorem sJ5_coder {d b : Nat} {v0 : Nat} {T : zT} {I : zI} {L : zL} {R : zR} {P : zP} (h : zAW mJ5_coder d b 0 [(0, .ref v0)] [] T I L R P) : zMet mJ5_coder d b [.ref v0] T I L R P := zMet_of (by decide +kernel) rfl (Nat.le_of_ble_eq_true rfl) rfl h
/-! java/lang/String.charAt (I)C -/
def dkwJ5_charAt_1 : List UInt8 := [172]
abbrev dktJ5_charAt_1 : List UInt8 := dkwJ5_charAt_1 ++ []
def dkwJ5_charAt_0 : List UInt8 := [42, 182, 1, 236, 153, 0, 12, 42, 180, 0, 9, 27, 184, 1, 239, 172, 42, 180, 0, 9, 27, 184, 1, 242]
abbrev dktJ5_charAt_0 : List UInt8 := dkwJ5_charAt_0 ++ dktJ5_charAt_1
theorem dksJ5_charAt_0 : cJ5_charAt.data.toList.drop 0 = dktJ5_charAt_0 := by decide +kernel
theorem dksJ5_charAt_1 : cJ5_charAt.data.toList.drop 24 = dktJ5_charAt_1 := dk_seg dksJ5_charAt_0 24 rfl rfl
theorem dJ5_charAt_0 : decode cJ5_charAt 0 = .ok (.aload_n 0, 1) := dk_42 (dk_at dksJ5_charAt_0 0 rfl rfl)
theorem dJ5_charAt_1 : decode cJ5_charAt 1 = .ok (.invokevirtual 492, 3) := dk_182 1 236 (dk_at dksJ5_charAt_0 1 rfl rfl)
theorem dJ5_charAt_4 : decode cJ5_charAt 4 = .ok (.ifCond .eq 12, 3) := dk_153 0 12 (dk_at dksJ5_charAt_0 4 rfl rfl)
theorem dJ5_charAt_7 : decode cJ5_charAt 7 = .ok (.aload_n 0, 1) := dk_42 (dk_at dksJ5_charAt_0 7 rfl rfl)
theorem dJ5_charAt_8 : decode cJ5_charAt 8 = .ok (.getfield 9, 3) := dk_180 0 9 (dk_at dksJ5_charAt_0 8 rfl rfl)
theorem dJ5_charAt_11 : decode cJ5_charAt 11 = .ok (.iload_n 1, 1) := dk_27 (dk_at dksJ5_charAt_0 11 rfl rfl)
theorem dJ5_charAt_12 : decode cJ5_charAt 12 = .ok (.invokestatic 495, 3) := dk_184 1 239 (dk_at dksJ5_charAt_0 12 rfl rfl)
theorem dJ5_charAt_15 : decode cJ5_charAt 15 = .ok (.ireturn, 1) := dk_172 (dk_at dksJ5_charAt_0 15 rfl rfl)
theorem dJ5_charAt_16 : decode cJ5_charAt 16 = .ok (.aload_n 0, 1) := dk_42 (dk_at dksJ5_charAt_0 16 rfl rfl)
theorem dJ5_charAt_17 : decode cJ5_charAt 17 = .ok (.getfield 9, 3) := dk_180 0 9 (dk_at dksJ5_charAt_0 17 rfl rfl)
theorem dJ5_charAt_20 : decode cJ5_charAt 20 = .ok (.iload_n 1, 1) := dk_27 (dk_at dksJ5_charAt_0 20 rfl rfl)
theorem dJ5_charAt_21 : decode cJ5_charAt 21 = .ok (.invokestatic 498, 3) := dk_184 1 242 (dk_at dksJ5_charAt_0 21 rfl rfl)
theorem dJ5_charAt_24 : decode cJ5_charAt 24 = .ok (.ireturn, 1) := dk_172 (dk_at dksJ5_charAt_1 0 rfl rfl)
theorem gJ5_charAt_0 {v0 : Nat} {v1 : Int32} {T : zT} {I : zI} {L : zL} {R : zR} {P : zP} (h : (10 ≤ v0 ∧ v0 < 35) ∧ zMet mJ5_isLatin1 1 0 [.ref v0] T I L R (zqI_ T I L R  (fun (r1 : Int32)  => ((r1 = 0 → False) ∧ (¬ r1 = 0 → zMet mJ6_charAt 3 0 [.ref (v0 + 40), .int v1] T I L R (zqI_ T I L R  (fun (r5 : Int32)  => narrow .char (.int r5) = .int r5 ∧ P 0 (.int r5) T I L R))))))) : zAW mJ5_charAt 4 0 0 [(0, .ref v0), (1, .int v1)] [] T I L R P := by
  refine za_aload_n (pc' := 1) 0 dJ5_charAt_0 rfl rfl rfl ?_
  obtain ⟨hc2, h⟩ := h
  refine za_callVS (κ := v0) (M2 := mJ5_isLatin1) (d2 := 1) (b2 := 0) (n := 0) (As := []) (st := []) (pc' := 4) hc2 dJ5_charAt_1 rfl (lw_V q628 q629 q630 q149 q631) ⟨rfl, hd_J5_isLatin1⟩ rfl (by decide) (by decide) (Nat.zero_le _) (Or.inl rfl) (Nat.le_of_ble_eq_true rfl) h (zqI__k rfl (fun r1 h => ?_)) (fun _ _ _ _ _ _ h9 h8 => absurd h8.1 h9) rfl
  refine za_if_eq (pc' := 7) (tgt := 16) dJ5_charAt_4 (by decide) rfl (fun c9 => ?_) (fun c9 => ?_)
  · replace h := h.1 c9
    refine za_aload_n (pc' := 17) 0 dJ5_charAt_16 rfl rfl rfl ?_
    refine za_strVal (pc' := 20) dJ5_charAt_17 hc2 q2307 rfl ?_
    refine za_iload_n (pc' := 21) 1 dJ5_charAt_20 rfl rfl rfl ?_
    exact h.elim
  · replace h := h.2 c9
    refine za_aload_n (pc' := 8) 0 dJ5_charAt_7 rfl rfl rfl ?_
    refine za_strVal (pc' := 11) dJ5_charAt_8 hc2 q2307 rfl ?_
    refine za_iload_n (pc' := 12) 1 dJ5_charAt_11 rfl rfl rfl ?_
    refine za_callS (M2 := mJ6_charAt) (d2 := 3) (b2 := 0) (n := 2) (As := [.ref (v0 + 40), .int v1]) (st := []) (pc' := 15) dJ5_charAt_12 rfl (lw_S q632 q633 q150 q634) hd_J6_charAt rfl (by decide) (by decide) (Nat.zero_le _) (Or.inl rfl) (Nat.le_of_ble_eq_true rfl) h (zqI__k rfl (fun r5 h => ?_)) (fun _ _ _ _ _ _ h9 h8 => absurd h8.1 h9) rfl
    exact za_zreturn rfl dJ5_charAt_15 h.1 h.2
theorem sJ5_charAt {d b : Nat} {v0 : Nat} {v1 : Int32} {T : zT} {I : zI} {L : zL} {R : zR} {P : zP} (h : zAW mJ5_charAt d b 0 [(0, .ref v0), (1, .int v1)] [] T I L R P) : zMet mJ5_charAt d b [.ref v0, .int v1] T I L R P := zMet_of (by decide +kernel) rfl (Nat.le_of_ble_eq_true rfl) rfl h
/-! java/lang/String.isLatin1 ()Z -/
def dkwJ5_isLatin1_0 : List UInt8 := [178, 0, 38, 153, 0, 14, 42, 180, 0, 15, 154, 0, 7, 4, 167, 0, 4, 3, 172]
abbrev dktJ5_isLatin1_0 : List UInt8 := dkwJ5_isLatin1_0 ++ []
theorem dksJ5_isLatin1_0 : cJ5_isLatin1.data.toList.drop 0 = dktJ5_isLatin1_0 := by decide +kernel
theorem dJ5_isLatin1_0 : decode cJ5_isLatin1 0 = .ok (.getstatic 38, 3) := dk_178 0 38 (dk_at dksJ5_isLatin1_0 0 rfl rfl)
theorem dJ5_isLatin1_3 : decode cJ5_isLatin1 3 = .ok (.ifCond .eq 14, 3) := dk_153 0 14 (dk_at dksJ5_isLatin1_0 3 rfl rfl)
theorem dJ5_isLatin1_6 : decode cJ5_isLatin1 6 = .ok (.aload_n 0, 1) := dk_42 (dk_at dksJ5_isLatin1_0 6 rfl rfl)
theorem dJ5_isLatin1_7 : decode cJ5_isLatin1 7 = .ok (.getfield 15, 3) := dk_180 0 15 (dk_at dksJ5_isLatin1_0 7 rfl rfl)
theorem dJ5_isLatin1_10 : decode cJ5_isLatin1 10 = .ok (.ifCond .ne 7, 3) := dk_154 0 7 (dk_at dksJ5_isLatin1_0 10 rfl rfl)
theorem dJ5_isLatin1_13 : decode cJ5_isLatin1 13 = .ok (.iconst 1, 1) := dk_4 (dk_at dksJ5_isLatin1_0 13 rfl rfl)
theorem dJ5_isLatin1_14 : decode cJ5_isLatin1 14 = .ok (.goto 4, 3) := dk_167 0 4 (dk_at dksJ5_isLatin1_0 14 rfl rfl)
theorem dJ5_isLatin1_17 : decode cJ5_isLatin1 17 = .ok (.iconst 0, 1) := dk_3 (dk_at dksJ5_isLatin1_0 17 rfl rfl)
theorem dJ5_isLatin1_18 : decode cJ5_isLatin1 18 = .ok (.ireturn, 1) := dk_172 (dk_at dksJ5_isLatin1_0 18 rfl rfl)
theorem gJ5_isLatin1_0 {v0 : Nat} {T : zT} {I : zI} {L : zL} {R : zR} {P : zP} (h : (10 ≤ v0 ∧ v0 < 35) ∧ P 0 (.int (1 : Int32)) T I L R) : zAW mJ5_isLatin1 1 0 0 [(0, .ref v0)] [] T I L R P := by
  refine za_compact (pc' := 3) dJ5_isLatin1_0 q622 rfl ?_
  refine za_if_eq (pc' := 6) (tgt := 17) dJ5_isLatin1_3 (by decide) rfl (fun c9 => ?_) (fun c9 => ?_)
  · exact absurd c9 (by decide)
  · refine za_aload_n (pc' := 7) 0 dJ5_isLatin1_6 rfl rfl rfl ?_
    obtain ⟨hc2, h⟩ := h
    refine za_strCoder (pc' := 10) dJ5_isLatin1_7 hc2 q2308 rfl ?_
    refine za_if_ne (pc' := 13) (tgt := 17) dJ5_isLatin1_10 (by decide) rfl (fun c9 => ?_) (fun c9 => ?_)
    · exact absurd (by decide) c9
    · refine za_iconst (pc' := 14) dJ5_isLatin1_13 zi_1 rfl ?_
      refine za_goto (tgt := 18) dJ5_isLatin1_14 (by decide) ?_
      exact za_zreturn rfl dJ5_isLatin1_18 (by decide) h
theorem sJ5_isLatin1 {d b : Nat} {v0 : Nat} {T : zT} {I : zI} {L : zL} {R : zR} {P : zP} (h : zAW mJ5_isLatin1 d b 0 [(0, .ref v0)] [] T I L R P) : zMet mJ5_isLatin1 d b [.ref v0] T I L R P := zMet_of (by decide +kernel) rfl (Nat.le_of_ble_eq_true rfl) rfl h
/-! java/lang/String.checkIndex (II)V -/
def dkwJ5_checkIndex_0 : List UInt8 := [26, 27, 178, 4, 29, 184, 4, 35, 87, 177]
abbrev dktJ5_checkIndex_0 : List UInt8 := dkwJ5_checkIndex_0 ++ []
theorem dksJ5_checkIndex_0 : cJ5_checkIndex.data.toList.drop 0 = dktJ5_checkIndex_0 := by decide +kernel
theorem dJ5_checkIndex_0 : decode cJ5_checkIndex 0 = .ok (.iload_n 0, 1) := dk_26 (dk_at dksJ5_checkIndex_0 0 rfl rfl)
theorem dJ5_checkIndex_1 : decode cJ5_checkIndex 1 = .ok (.iload_n 1, 1) := dk_27 (dk_at dksJ5_checkIndex_0 1 rfl rfl)
theorem dJ5_checkIndex_2 : decode cJ5_checkIndex 2 = .ok (.getstatic 1053, 3) := dk_178 4 29 (dk_at dksJ5_checkIndex_0 2 rfl rfl)
theorem dJ5_checkIndex_5 : decode cJ5_checkIndex 5 = .ok (.invokestatic 1059, 3) := dk_184 4 35 (dk_at dksJ5_checkIndex_0 5 rfl rfl)
theorem dJ5_checkIndex_8 : decode cJ5_checkIndex 8 = .ok (.pop, 1) := dk_87 (dk_at dksJ5_checkIndex_0 8 rfl rfl)
theorem dJ5_checkIndex_9 : decode cJ5_checkIndex 9 = .ok (.return_, 1) := dk_177 (dk_at dksJ5_checkIndex_0 9 rfl rfl)
theorem gJ5_checkIndex_0 {v0 : Int32} {v1 : Int32} {T : zT} {I : zI} {L : zL} {R : zR} {P : zP} (h : zMet mJ4_checkIndex 1 0 [.int v0, .int v1, .ref 6] T I L R (zqI_ T I L R  (fun (r1 : Int32)  => P 0 (.int 0) T I L R))) : zAW mJ5_checkIndex 2 0 0 [(0, .int v0), (1, .int v1)] [] T I L R P := by
  refine za_iload_n (pc' := 1) 0 dJ5_checkIndex_0 rfl rfl rfl ?_
  refine za_iload_n (pc' := 2) 1 dJ5_checkIndex_1 rfl rfl rfl ?_
  refine za_sioobe (pc' := 5) dJ5_checkIndex_2 q638 rfl ?_
  refine za_callS (M2 := mJ4_checkIndex) (d2 := 1) (b2 := 0) (n := 3) (As := [.int v0, .int v1, .ref 6]) (st := []) (pc' := 8) dJ5_checkIndex_5 rfl (lw_S q640 q477 q147 q478) hd_J4_checkIndex rfl (by decide) (by decide) (Nat.zero_le _) (Or.inl rfl) (Nat.le_of_ble_eq_true rfl) h (zqI__k rfl (fun r1 h => ?_)) (fun _ _ _ _ _ _ h9 h8 => absurd h8.1 h9) rfl
  refine za_pop (pc' := 9) dJ5_checkIndex_8 rfl rfl ?_
  exact za_return rfl dJ5_checkIndex_9 h
theorem sJ5_checkIndex {d b : Nat} {v0 : Int32} {v1 : Int32} {T : zT} {I : zI} {L : zL} {R : zR} {P : zP} (h : zAW mJ5_checkIndex d b 0 [(0, .int v0), (1, .int v1)] [] T I L R P) : zMet mJ5_checkIndex d b [.int v0, .int v1] T I L R P := zMet_of (by decide +kernel) rfl (Nat.le_of_ble_eq_true rfl) rfl h
/-! java/lang/String.indexOf (I)I -/
def dkwJ5_indexOf_0 : List UInt8 := [42, 27, 3, 182, 2, 121, 172]
abbrev dktJ5_indexOf_0 : List UInt8 := dkwJ5_indexOf_0 ++ []
theorem dksJ5_indexOf_0 : cJ5_indexOf.data.toList.drop 0 = dktJ5_indexOf_0 := by decide +kernel
theorem dJ5_indexOf_0 : decode cJ5_indexOf 0 = .ok (.aload_n 0, 1) := dk_42 (dk_at dksJ5_indexOf_0 0 rfl rfl)
theorem dJ5_indexOf_1 : decode cJ5_indexOf 1 = .ok (.iload_n 1, 1) := dk_27 (dk_at dksJ5_indexOf_0 1 rfl rfl)
theorem dJ5_indexOf_2 : decode cJ5_indexOf 2 = .ok (.iconst 0, 1) := dk_3 (dk_at dksJ5_indexOf_0 2 rfl rfl)
theorem dJ5_indexOf_3 : decode cJ5_indexOf 3 = .ok (.invokevirtual 633, 3) := dk_182 2 121 (dk_at dksJ5_indexOf_0 3 rfl rfl)
theorem dJ5_indexOf_6 : decode cJ5_indexOf 6 = .ok (.ireturn, 1) := dk_172 (dk_at dksJ5_indexOf_0 6 rfl rfl)
theorem gJ5_indexOf_0 {v0 : Nat} {v1 : Int32} {T : zT} {I : zI} {L : zL} {R : zR} {P : zP} (h : (10 ≤ v0 ∧ v0 < 35) ∧ zMet mJ5_indexOf_2 3 0 [.ref v0, .int v1, .int (0 : Int32)] T I L R (zqI_ T I L R  (fun (r1 : Int32)  => P 0 (.int r1) T I L R))) : zAW mJ5_indexOf 4 0 0 [(0, .ref v0), (1, .int v1)] [] T I L R P := by
  refine za_aload_n (pc' := 1) 0 dJ5_indexOf_0 rfl rfl rfl ?_
  refine za_iload_n (pc' := 2) 1 dJ5_indexOf_1 rfl rfl rfl ?_
  refine za_iconst (pc' := 3) dJ5_indexOf_2 zi_0 rfl ?_
  obtain ⟨hc2, h⟩ := h
  refine za_callVS (κ := v0) (M2 := mJ5_indexOf_2) (d2 := 3) (b2 := 0) (n := 2) (As := [.int v1, .int (0 : Int32)]) (st := []) (pc' := 6) hc2 dJ5_indexOf_3 rfl (lw_V q676 q677 q678 q149 q679) ⟨rfl, hd_J5_indexOf_2⟩ rfl (by decide) (by decide) (Nat.zero_le _) (Or.inl rfl) (Nat.le_of_ble_eq_true rfl) h (zqI__k rfl (fun r1 h => ?_)) (fun _ _ _ _ _ _ h9 h8 => absurd h8.1 h9) rfl
  exact za_ireturn rfl dJ5_indexOf_6 h
theorem sJ5_indexOf {d b : Nat} {v0 : Nat} {v1 : Int32} {T : zT} {I : zI} {L : zL} {R : zR} {P : zP} (h : zAW mJ5_indexOf d b 0 [(0, .ref v0), (1, .int v1)] [] T I L R P) : zMet mJ5_indexOf d b [.ref v0, .int v1] T I L R P := zMet_of (by decide +kernel) rfl (Nat.le_of_ble_eq_true rfl) rfl h
/-! java/lang/String.indexOf (II)I -/
def dkwJ5_indexOf_2_1 : List UInt8 := [180, 0, 9, 27, 28, 42, 182, 1, 249, 184, 2, 128, 172]
abbrev dktJ5_indexOf_2_1 : List UInt8 := dkwJ5_indexOf_2_1 ++ []
def dkwJ5_indexOf_2_0 : List UInt8 := [42, 182, 1, 236, 153, 0, 19, 42, 180, 0, 9, 27, 28, 42, 182, 1, 249, 184, 2, 125, 167, 0, 16, 42]
abbrev dktJ5_indexOf_2_0 : List UInt8 := dkwJ5_indexOf_2_0 ++ dktJ5_indexOf_2_1
theorem dksJ5_indexOf_2_0 : cJ5_indexOf_2.data.toList.drop 0 = dktJ5_indexOf_2_0 := by decide +kernel
theorem dksJ5_indexOf_2_1 : cJ5_indexOf_2.data.toList.drop 24 = dktJ5_indexOf_2_1 := dk_seg dksJ5_indexOf_2_0 24 rfl rfl
theorem dJ5_indexOf_2_0 : decode cJ5_indexOf_2 0 = .ok (.aload_n 0, 1) := dk_42 (dk_at dksJ5_indexOf_2_0 0 rfl rfl)
theorem dJ5_indexOf_2_1 : decode cJ5_indexOf_2 1 = .ok (.invokevirtual 492, 3) := dk_182 1 236 (dk_at dksJ5_indexOf_2_0 1 rfl rfl)
theorem dJ5_indexOf_2_4 : decode cJ5_indexOf_2 4 = .ok (.ifCond .eq 19, 3) := dk_153 0 19 (dk_at dksJ5_indexOf_2_0 4 rfl rfl)
theorem dJ5_indexOf_2_7 : decode cJ5_indexOf_2 7 = .ok (.aload_n 0, 1) := dk_42 (dk_at dksJ5_indexOf_2_0 7 rfl rfl)
theorem dJ5_indexOf_2_8 : decode cJ5_indexOf_2 8 = .ok (.getfield 9, 3) := dk_180 0 9 (dk_at dksJ5_indexOf_2_0 8 rfl rfl)
theorem dJ5_indexOf_2_11 : decode cJ5_indexOf_2 11 = .ok (.iload_n 1, 1) := dk_27 (dk_at dksJ5_indexOf_2_0 11 rfl rfl)
theorem dJ5_indexOf_2_12 : decode cJ5_indexOf_2 12 = .ok (.iload_n 2, 1) := dk_28 (dk_at dksJ5_indexOf_2_0 12 rfl rfl)
theorem dJ5_indexOf_2_13 : decode cJ5_indexOf_2 13 = .ok (.aload_n 0, 1) := dk_42 (dk_at dksJ5_indexOf_2_0 13 rfl rfl)
theorem dJ5_indexOf_2_14 : decode cJ5_indexOf_2 14 = .ok (.invokevirtual 505, 3) := dk_182 1 249 (dk_at dksJ5_indexOf_2_0 14 rfl rfl)
theorem dJ5_indexOf_2_17 : decode cJ5_indexOf_2 17 = .ok (.invokestatic 637, 3) := dk_184 2 125 (dk_at dksJ5_indexOf_2_0 17 rfl rfl)
theorem dJ5_indexOf_2_20 : decode cJ5_indexOf_2 20 = .ok (.goto 16, 3) := dk_167 0 16 (dk_at dksJ5_indexOf_2_0 20 rfl rfl)
theorem dJ5_indexOf_2_23 : decode cJ5_indexOf_2 23 = .ok (.aload_n 0, 1) := dk_42 (dk_at dksJ5_indexOf_2_0 23 rfl rfl)
theorem dJ5_indexOf_2_24 : decode cJ5_indexOf_2 24 = .ok (.getfield 9, 3) := dk_180 0 9 (dk_at dksJ5_indexOf_2_1 0 rfl rfl)
theorem dJ5_indexOf_2_27 : decode cJ5_indexOf_2 27 = .ok (.iload_n 1, 1) := dk_27 (dk_at dksJ5_indexOf_2_1 3 rfl rfl)
theorem dJ5_indexOf_2_28 : decode cJ5_indexOf_2 28 = .ok (.iload_n 2, 1) := dk_28 (dk_at dksJ5_indexOf_2_1 4 rfl rfl)
theorem dJ5_indexOf_2_29 : decode cJ5_indexOf_2 29 = .ok (.aload_n 0, 1) := dk_42 (dk_at dksJ5_indexOf_2_1 5 rfl rfl)
theorem dJ5_indexOf_2_30 : decode cJ5_indexOf_2 30 = .ok (.invokevirtual 505, 3) := dk_182 1 249 (dk_at dksJ5_indexOf_2_1 6 rfl rfl)
theorem dJ5_indexOf_2_33 : decode cJ5_indexOf_2 33 = .ok (.invokestatic 640, 3) := dk_184 2 128 (dk_at dksJ5_indexOf_2_1 9 rfl rfl)
theorem dJ5_indexOf_2_36 : decode cJ5_indexOf_2 36 = .ok (.ireturn, 1) := dk_172 (dk_at dksJ5_indexOf_2_1 12 rfl rfl)
theorem gJ5_indexOf_2_0 {v0 : Nat} {v1 : Int32} {v2 : Int32} {T : zT} {I : zI} {L : zL} {R : zR} {P : zP} (h : (10 ≤ v0 ∧ v0 < 35) ∧ zMet mJ5_isLatin1 1 0 [.ref v0] T I L R (zqI_ T I L R  (fun (r1 : Int32)  => ((r1 = 0 → zMet mJ5_length 2 0 [.ref v0] T I L R (zqI_ T I L R  (fun (r4 : Int32)  => False))) ∧ (¬ r1 = 0 → zMet mJ5_length 2 0 [.ref v0] T I L R (zqI_ T I L R  (fun (r6 : Int32)  => zMet mJ6_indexOf 2 0 [.ref (v0 + 40), .int v1, .int v2, .int r6] T I L R (zqI_ T I L R  (fun (r7 : Int32)  => P 0 (.int r7) T I L R))))))))) : zAW mJ5_indexOf_2 3 0 0 [(0, .ref v0), (1, .int v1), (2, .int v2)] [] T I L R P := by
  refine za_aload_n (pc' := 1) 0 dJ5_indexOf_2_0 rfl rfl rfl ?_
  obtain ⟨hc2, h⟩ := h
  refine za_callVS (κ := v0) (M2 := mJ5_isLatin1) (d2 := 1) (b2 := 0) (n := 0) (As := []) (st := []) (pc' := 4) hc2 dJ5_indexOf_2_1 rfl (lw_V q628 q629 q630 q149 q631) ⟨rfl, hd_J5_isLatin1⟩ rfl (by decide) (by decide) (Nat.zero_le _) (Or.inl rfl) (Nat.le_of_ble_eq_true rfl) h (zqI__k rfl (fun r1 h => ?_)) (fun _ _ _ _ _ _ h9 h8 => absurd h8.1 h9) rfl
  refine za_if_eq (pc' := 7) (tgt := 23) dJ5_indexOf_2_4 (by decide) rfl (fun c9 => ?_) (fun c9 => ?_)
  · replace h := h.1 c9
    refine za_aload_n (pc' := 24) 0 dJ5_indexOf_2_23 rfl rfl rfl ?_
    refine za_strVal (pc' := 27) dJ5_indexOf_2_24 hc2 q2307 rfl ?_
    refine za_iload_n (pc' := 28) 1 dJ5_indexOf_2_27 rfl rfl rfl ?_
    refine za_iload_n (pc' := 29) 2 dJ5_indexOf_2_28 rfl rfl rfl ?_
    refine za_aload_n (pc' := 30) 0 dJ5_indexOf_2_29 rfl rfl rfl ?_
    refine za_callVS (κ := v0) (M2 := mJ5_length) (d2 := 2) (b2 := 0) (n := 0) (As := []) (st := [.int v2, .int v1, .ref (v0 + 40)]) (pc' := 33) hc2 dJ5_indexOf_2_30 rfl (lw_V q680 q615 q616 q149 q617) ⟨rfl, hd_J5_length⟩ rfl (by decide) (by decide) (Nat.zero_le _) (Or.inl rfl) (Nat.le_of_ble_eq_true rfl) h (zqI__k rfl (fun r4 h => ?_)) (fun _ _ _ _ _ _ h9 h8 => absurd h8.1 h9) rfl
    exact h.elim
  · replace h := h.2 c9
    refine za_aload_n (pc' := 8) 0 dJ5_indexOf_2_7 rfl rfl rfl ?_
    refine za_strVal (pc' := 11) dJ5_indexOf_2_8 hc2 q2307 rfl ?_
    refine za_iload_n (pc' := 12) 1 dJ5_indexOf_2_11 rfl rfl rfl ?_
    refine za_iload_n (pc' := 13) 2 dJ5_indexOf_2_12 rfl rfl rfl ?_
    refine za_aload_n (pc' := 14) 0 dJ5_indexOf_2_13 rfl rfl rfl ?_
    refine za_callVS (κ := v0) (M2 := mJ5_length) (d2 := 2) (b2 := 0) (n := 0) (As := []) (st := [.int v2, .int v1, .ref (v0 + 40)]) (pc' := 17) hc2 dJ5_indexOf_2_14 rfl (lw_V q680 q615 q616 q149 q617) ⟨rfl, hd_J5_length⟩ rfl (by decide) (by decide) (Nat.zero_le _) (Or.inl rfl) (Nat.le_of_ble_eq_true rfl) h (zqI__k rfl (fun r6 h => ?_)) (fun _ _ _ _ _ _ h9 h8 => absurd h8.1 h9) rfl
    refine za_callS (M2 := mJ6_indexOf) (d2 := 2) (b2 := 0) (n := 4) (As := [.ref (v0 + 40), .int v1, .int v2, .int r6]) (st := []) (pc' := 20) dJ5_indexOf_2_17 rfl (lw_S q681 q682 q150 q683) hd_J6_indexOf rfl (by decide) (by decide) (Nat.zero_le _) (Or.inl rfl) (Nat.le_of_ble_eq_true rfl) h (zqI__k rfl (fun r7 h => ?_)) (fun _ _ _ _ _ _ h9 h8 => absurd h8.1 h9) rfl
    refine za_goto (tgt := 36) dJ5_indexOf_2_20 (by decide) ?_
    exact za_ireturn rfl dJ5_indexOf_2_36 h
theorem sJ5_indexOf_2 {d b : Nat} {v0 : Nat} {v1 : Int32} {v2 : Int32} {T : zT} {I : zI} {L : zL} {R : zR} {P : zP} (h : zAW mJ5_indexOf_2 d b 0 [(0, .ref v0), (1, .int v1), (2, .int v2)] [] T I L R P) : zMet mJ5_indexOf_2 d b [.ref v0, .int v1, .int v2] T I L R P := zMet_of (by decide +kernel) rfl (Nat.le_of_ble_eq_true rfl) rfl h
/-! java/lang/StringLatin1.charAt ([BI)C -/
def dkwJ6_charAt_0 : List UInt8 := [27, 42, 190, 184, 0, 9, 42, 27, 51, 17, 0, 255, 126, 146, 172]
abbrev dktJ6_charAt_0 : List UInt8 := dkwJ6_charAt_0 ++ []
theorem dksJ6_charAt_0 : cJ6_charAt.data.toList.drop 0 = dktJ6_charAt_0 := by decide +kernel
theorem dJ6_charAt_0 : decode cJ6_charAt 0 = .ok (.iload_n 1, 1) := dk_27 (dk_at dksJ6_charAt_0 0 rfl rfl)
theorem dJ6_charAt_1 : decode cJ6_charAt 1 = .ok (.aload_n 0, 1) := dk_42 (dk_at dksJ6_charAt_0 1 rfl rfl)
theorem dJ6_charAt_2 : decode cJ6_charAt 2 = .ok (.arraylength, 1) := dk_190 (dk_at dksJ6_charAt_0 2 rfl rfl)
theorem dJ6_charAt_3 : decode cJ6_charAt 3 = .ok (.invokestatic 9, 3) := dk_184 0 9 (dk_at dksJ6_charAt_0 3 rfl rfl)
theorem dJ6_charAt_6 : decode cJ6_charAt 6 = .ok (.aload_n 0, 1) := dk_42 (dk_at dksJ6_charAt_0 6 rfl rfl)
theorem dJ6_charAt_7 : decode cJ6_charAt 7 = .ok (.iload_n 1, 1) := dk_27 (dk_at dksJ6_charAt_0 7 rfl rfl)
theorem dJ6_charAt_8 : decode cJ6_charAt 8 = .ok (.baload, 1) := dk_51 (dk_at dksJ6_charAt_0 8 rfl rfl)
theorem dJ6_charAt_9 : decode cJ6_charAt 9 = .ok (.sipush 255, 3) := dk_17 0 255 (dk_at dksJ6_charAt_0 9 rfl rfl)
theorem dJ6_charAt_12 : decode cJ6_charAt 12 = .ok (.iand, 1) := dk_126 (dk_at dksJ6_charAt_0 12 rfl rfl)
theorem dJ6_charAt_13 : decode cJ6_charAt 13 = .ok (.i2c, 1) := dk_146 (dk_at dksJ6_charAt_0 13 rfl rfl)
theorem dJ6_charAt_14 : decode cJ6_charAt 14 = .ok (.ireturn, 1) := dk_172 (dk_at dksJ6_charAt_0 14 rfl rfl)
theorem gJ6_charAt_0 {v0 : Nat} {v1 : Int32} {T : zT} {I : zI} {L : zL} {R : zR} {P : zP} (h : (50 ≤ v0 ∧ v0 < 75) ∧ zMet mJ5_checkIndex 2 0 [.int v1, .int (nI (zlen.getD (v0 - 50) 0))] T I L R (zqV_ T I L R  (vp_in v1 (zlen.getD (v0 - 50) 0) ∧ narrow .char (.int (((((zbyt.getD (v0 - 50) []).getD v1.toNatClampNeg 0) &&& (255 : Int32)).toUInt32 % 65536).toInt32)) = .int (((((zbyt.getD (v0 - 50) []).getD v1.toNatClampNeg 0) &&& (255 : Int32)).toUInt32 % 65536).toInt32) ∧ P 0 (.int (((((zbyt.getD (v0 - 50) []).getD v1.toNatClampNeg 0) &&& (255 : Int32)).toUInt32 % 65536).toInt32)) T I L R))) : zAW mJ6_charAt 3 0 0 [(0, .ref v0), (1, .int v1)] [] T I L R P := by
  refine za_iload_n (pc' := 1) 1 dJ6_charAt_0 rfl rfl rfl ?_
  refine za_aload_n (pc' := 2) 0 dJ6_charAt_1 rfl rfl rfl ?_
  obtain ⟨hc1, h⟩ := h
  refine za_conLen (pc' := 3) dJ6_charAt_2 hc1 rfl rfl ?_
  refine za_callS (M2 := mJ5_checkIndex) (d2 := 2) (b2 := 0) (n := 2) (As := [.int v1, .int (nI (zlen.getD (v0 - 50) 0))]) (st := []) (pc' := 6) dJ6_charAt_3 rfl (lw_S q635 q636 q149 q637) hd_J5_checkIndex rfl (by decide) (by decide) (Nat.zero_le _) (Or.inl rfl) (Nat.le_of_ble_eq_true rfl) h (zqV__k rfl (fun  h => ?_)) (fun _ _ _ _ _ _ h9 h8 => absurd h8.1 h9) rfl
  refine za_aload_n (pc' := 7) 0 dJ6_charAt_6 rfl rfl rfl ?_
  refine za_iload_n (pc' := 8) 1 dJ6_charAt_7 rfl rfl rfl ?_
  obtain ⟨hi2, h⟩ := h
  refine za_conAt (pc' := 9) dJ6_charAt_8 hc1 hi2 rfl rfl ?_
  refine za_sipush (pc' := 12) dJ6_charAt_9 zb16_255 rfl ?_
  refine za_iand (pc' := 13) dJ6_charAt_12 rfl ?_
  refine za_i2c (pc' := 14) dJ6_charAt_13 rfl rfl ?_
  exact za_zreturn rfl dJ6_charAt_14 h.1 h.2
theorem sJ6_charAt {d b : Nat} {v0 : Nat} {v1 : Int32} {T : zT} {I : zI} {L : zL} {R : zR} {P : zP} (h : zAW mJ6_charAt d b 0 [(0, .ref v0), (1, .int v1)] [] T I L R P) : zMet mJ6_charAt d b [.ref v0, .int v1] T I L R P := zMet_of (by decide +kernel) rfl (Nat.le_of_ble_eq_true rfl) rfl h
/-! java/lang/StringLatin1.indexOf ([BIII)I -/
def dkwJ6_indexOf_1 : List UInt8 := [161, 0, 5, 2, 172, 42, 27, 28, 29, 184, 0, 95, 172]
abbrev dktJ6_indexOf_1 : List UInt8 := dkwJ6_indexOf_1 ++ []
def dkwJ6_indexOf_0 : List UInt8 := [27, 184, 0, 88, 154, 0, 5, 2, 172, 28, 3, 184, 0, 92, 61, 29, 42, 190, 184, 0, 38, 62, 28, 29]
abbrev dktJ6_indexOf_0 : List UInt8 := dkwJ6_indexOf_0 ++ dktJ6_indexOf_1
theorem dksJ6_indexOf_0 : cJ6_indexOf.data.toList.drop 0 = dktJ6_indexOf_0 := by decide +kernel
theorem dksJ6_indexOf_1 : cJ6_indexOf.data.toList.drop 24 = dktJ6_indexOf_1 := dk_seg dksJ6_indexOf_0 24 rfl rfl
theorem dJ6_indexOf_0 : decode cJ6_indexOf 0 = .ok (.iload_n 1, 1) := dk_27 (dk_at dksJ6_indexOf_0 0 rfl rfl)
theorem dJ6_indexOf_1 : decode cJ6_indexOf 1 = .ok (.invokestatic 88, 3) := dk_184 0 88 (dk_at dksJ6_indexOf_0 1 rfl rfl)
theorem dJ6_indexOf_4 : decode cJ6_indexOf 4 = .ok (.ifCond .ne 5, 3) := dk_154 0 5 (dk_at dksJ6_indexOf_0 4 rfl rfl)
theorem dJ6_indexOf_7 : decode cJ6_indexOf 7 = .ok (.iconst (-1), 1) := dk_2 (dk_at dksJ6_indexOf_0 7 rfl rfl)
theorem dJ6_indexOf_8 : decode cJ6_indexOf 8 = .ok (.ireturn, 1) := dk_172 (dk_at dksJ6_indexOf_0 8 rfl rfl)
theorem dJ6_indexOf_9 : decode cJ6_indexOf 9 = .ok (.iload_n 2, 1) := dk_28 (dk_at dksJ6_indexOf_0 9 rfl rfl)
theorem dJ6_indexOf_10 : decode cJ6_indexOf 10 = .ok (.iconst 0, 1) := dk_3 (dk_at dksJ6_indexOf_0 10 rfl rfl)
theorem dJ6_indexOf_11 : decode cJ6_indexOf 11 = .ok (.invokestatic 92, 3) := dk_184 0 92 (dk_at dksJ6_indexOf_0 11 rfl rfl)
theorem dJ6_indexOf_14 : decode cJ6_indexOf 14 = .ok (.istore_n 2, 1) := dk_61 (dk_at dksJ6_indexOf_0 14 rfl rfl)
theorem dJ6_indexOf_15 : decode cJ6_indexOf 15 = .ok (.iload_n 3, 1) := dk_29 (dk_at dksJ6_indexOf_0 15 rfl rfl)
theorem dJ6_indexOf_16 : decode cJ6_indexOf 16 = .ok (.aload_n 0, 1) := dk_42 (dk_at dksJ6_indexOf_0 16 rfl rfl)
theorem dJ6_indexOf_17 : decode cJ6_indexOf 17 = .ok (.arraylength, 1) := dk_190 (dk_at dksJ6_indexOf_0 17 rfl rfl)
theorem dJ6_indexOf_18 : decode cJ6_indexOf 18 = .ok (.invokestatic 38, 3) := dk_184 0 38 (dk_at dksJ6_indexOf_0 18 rfl rfl)
theorem dJ6_indexOf_21 : decode cJ6_indexOf 21 = .ok (.istore_n 3, 1) := dk_62 (dk_at dksJ6_indexOf_0 21 rfl rfl)
theorem dJ6_indexOf_22 : decode cJ6_indexOf 22 = .ok (.iload_n 2, 1) := dk_28 (dk_at dksJ6_indexOf_0 22 rfl rfl)
theorem dJ6_indexOf_23 : decode cJ6_indexOf 23 = .ok (.iload_n 3, 1) := dk_29 (dk_at dksJ6_indexOf_0 23 rfl rfl)
theorem dJ6_indexOf_24 : decode cJ6_indexOf 24 = .ok (.if_icmp .lt 5, 3) := dk_161 0 5 (dk_at dksJ6_indexOf_1 0 rfl rfl)
theorem dJ6_indexOf_27 : decode cJ6_indexOf 27 = .ok (.iconst (-1), 1) := dk_2 (dk_at dksJ6_indexOf_1 3 rfl rfl)
theorem dJ6_indexOf_28 : decode cJ6_indexOf 28 = .ok (.ireturn, 1) := dk_172 (dk_at dksJ6_indexOf_1 4 rfl rfl)
theorem dJ6_indexOf_29 : decode cJ6_indexOf 29 = .ok (.aload_n 0, 1) := dk_42 (dk_at dksJ6_indexOf_1 5 rfl rfl)
theorem dJ6_indexOf_30 : decode cJ6_indexOf 30 = .ok (.iload_n 1, 1) := dk_27 (dk_at dksJ6_indexOf_1 6 rfl rfl)
theorem dJ6_indexOf_31 : decode cJ6_indexOf 31 = .ok (.iload_n 2, 1) := dk_28 (dk_at dksJ6_indexOf_1 7 rfl rfl)
theorem dJ6_indexOf_32 : decode cJ6_indexOf 32 = .ok (.iload_n 3, 1) := dk_29 (dk_at dksJ6_indexOf_1 8 rfl rfl)
theorem dJ6_indexOf_33 : decode cJ6_indexOf 33 = .ok (.invokestatic 95, 3) := dk_184 0 95 (dk_at dksJ6_indexOf_1 9 rfl rfl)
theorem dJ6_indexOf_36 : decode cJ6_indexOf 36 = .ok (.ireturn, 1) := dk_172 (dk_at dksJ6_indexOf_1 12 rfl rfl)
theorem gJ6_indexOf_0 {v0 : Nat} {v1 : Int32} {v2 : Int32} {v3 : Int32} {T : zT} {I : zI} {L : zL} {R : zR} {P : zP} (h : zMet mJ6_canEncode 1 0 [.int v1] T I L R (zqI_ T I L R  (fun (r1 : Int32)  => ((r1 = 0 → P 0 (.int (-1 : Int32)) T I L R) ∧ (¬ r1 = 0 → (50 ≤ v0 ∧ v0 < 75) ∧ (((if v2 < (0 : Int32) then (0 : Int32) else v2) < (if (nI (zlen.getD (v0 - 50) 0)) < v3 then (nI (zlen.getD (v0 - 50) 0)) else v3) → zMet mJ6_indexOfChar 1 0 [.ref v0, .int v1, .int (if v2 < (0 : Int32) then (0 : Int32) else v2), .int (if (nI (zlen.getD (v0 - 50) 0)) < v3 then (nI (zlen.getD (v0 - 50) 0)) else v3)] T I L R (zqI_ T I L R  (fun (r3 : Int32)  => P 0 (.int r3) T I L R))) ∧ (¬ (if v2 < (0 : Int32) then (0 : Int32) else v2) < (if (nI (zlen.getD (v0 - 50) 0)) < v3 then (nI (zlen.getD (v0 - 50) 0)) else v3) → P 0 (.int (-1 : Int32)) T I L R))))))) : zAW mJ6_indexOf 2 0 0 [(0, .ref v0), (1, .int v1), (2, .int v2), (3, .int v3)] [] T I L R P := by
  refine za_iload_n (pc' := 1) 1 dJ6_indexOf_0 rfl rfl rfl ?_
  refine za_callS (M2 := mJ6_canEncode) (d2 := 1) (b2 := 0) (n := 1) (As := [.int v1]) (st := []) (pc' := 4) dJ6_indexOf_1 rfl (lw_S q684 q685 q150 q686) hd_J6_canEncode rfl (by decide) (by decide) (Nat.zero_le _) (Or.inl rfl) (Nat.le_of_ble_eq_true rfl) h (zqI__k rfl (fun r1 h => ?_)) (fun _ _ _ _ _ _ h9 h8 => absurd h8.1 h9) rfl
  refine za_if_ne (pc' := 7) (tgt := 9) dJ6_indexOf_4 (by decide) rfl (fun c9 => ?_) (fun c9 => ?_)
  · replace h := h.2 c9
    refine za_iload_n (pc' := 10) 2 dJ6_indexOf_9 rfl rfl rfl ?_
    refine za_iconst (pc' := 11) dJ6_indexOf_10 zi_0 rfl ?_
    refine za_mmax (pc' := 14) dJ6_indexOf_11 q687 (by decide) (Nat.le_of_ble_eq_true rfl) rfl ?_
    refine za_istore_n (pc' := 15) (l' := [(2, .int (if v2 < (0 : Int32) then (0 : Int32) else v2)), (0, .ref v0), (1, .int v1), (3, .int v3)]) dJ6_indexOf_14 rfl (Nat.le_of_ble_eq_true rfl) rfl rfl ?_
    refine za_iload_n (pc' := 16) 3 dJ6_indexOf_15 rfl rfl rfl ?_
    refine za_aload_n (pc' := 17) 1 dJ6_indexOf_16 rfl rfl rfl ?_
    obtain ⟨hc2, h⟩ := h
    refine za_conLen (pc' := 18) dJ6_indexOf_17 hc2 rfl rfl ?_
    refine za_mmin (pc' := 21) dJ6_indexOf_18 q690 (by decide) (Nat.le_of_ble_eq_true rfl) rfl ?_
    refine za_istore_n (pc' := 22) (l' := [(3, .int (if (nI (zlen.getD (v0 - 50) 0)) < v3 then (nI (zlen.getD (v0 - 50) 0)) else v3)), (2, .int (if v2 < (0 : Int32) then (0 : Int32) else v2)), (0, .ref v0), (1, .int v1)]) dJ6_indexOf_21 rfl (Nat.le_of_ble_eq_true rfl) rfl rfl ?_
    refine za_iload_n (pc' := 23) 1 dJ6_indexOf_22 rfl rfl rfl ?_
    refine za_iload_n (pc' := 24) 0 dJ6_indexOf_23 rfl rfl rfl ?_
    refine za_icmp_lt (pc' := 27) (tgt := 29) dJ6_indexOf_24 (by decide) rfl (fun c9 => ?_) (fun c9 => ?_)
    · replace h := h.1 c9
      refine za_aload_n (pc' := 30) 2 dJ6_indexOf_29 rfl rfl rfl ?_
      refine za_iload_n (pc' := 31) 3 dJ6_indexOf_30 rfl rfl rfl ?_
      refine za_iload_n (pc' := 32) 1 dJ6_indexOf_31 rfl rfl rfl ?_
      refine za_iload_n (pc' := 33) 0 dJ6_indexOf_32 rfl rfl rfl ?_
      refine za_callS (M2 := mJ6_indexOfChar) (d2 := 1) (b2 := 0) (n := 4) (As := [.ref v0, .int v1, .int (if v2 < (0 : Int32) then (0 : Int32) else v2), .int (if (nI (zlen.getD (v0 - 50) 0)) < v3 then (nI (zlen.getD (v0 - 50) 0)) else v3)]) (st := []) (pc' := 36) dJ6_indexOf_33 rfl (lw_S q693 q694 q150 q695) hd_J6_indexOfChar rfl (by decide) (by decide) (Nat.zero_le _) (Or.inl rfl) (Nat.le_of_ble_eq_true rfl) h (zqI__k rfl (fun r3 h => ?_)) (fun _ _ _ _ _ _ h9 h8 => absurd h8.1 h9) rfl
      exact za_ireturn rfl dJ6_indexOf_36 h
    · replace h := h.2 c9
      refine za_iconst (pc' := 28) dJ6_indexOf_27 zi_m1 rfl ?_
      exact za_ireturn rfl dJ6_indexOf_28 h
  · replace h := h.1 c9
    refine za_iconst (pc' := 8) dJ6_indexOf_7 zi_m1 rfl ?_
    exact za_ireturn rfl dJ6_indexOf_8 h
theorem sJ6_indexOf {d b : Nat} {v0 : Nat} {v1 : Int32} {v2 : Int32} {v3 : Int32} {T : zT} {I : zI} {L : zL} {R : zR} {P : zP} (h : zAW mJ6_indexOf d b 0 [(0, .ref v0), (1, .int v1), (2, .int v2), (3, .int v3)] [] T I L R P) : zMet mJ6_indexOf d b [.ref v0, .int v1, .int v2, .int v3] T I L R P := zMet_of (by decide +kernel) rfl (Nat.le_of_ble_eq_true rfl) rfl h
/-! java/lang/StringLatin1.canEncode (I)Z -/
def dkwJ6_canEncode_0 : List UInt8 := [26, 155, 0, 14, 26, 17, 0, 255, 163, 0, 7, 4, 167, 0, 4, 3, 172]
abbrev dktJ6_canEncode_0 : List UInt8 := dkwJ6_canEncode_0 ++ []
theorem dksJ6_canEncode_0 : cJ6_canEncode.data.toList.drop 0 = dktJ6_canEncode_0 := by decide +kernel
theorem dJ6_canEncode_0 : decode cJ6_canEncode 0 = .ok (.iload_n 0, 1) := dk_26 (dk_at dksJ6_canEncode_0 0 rfl rfl)
theorem dJ6_canEncode_1 : decode cJ6_canEncode 1 = .ok (.ifCond .lt 14, 3) := dk_155 0 14 (dk_at dksJ6_canEncode_0 1 rfl rfl)
theorem dJ6_canEncode_4 : decode cJ6_canEncode 4 = .ok (.iload_n 0, 1) := dk_26 (dk_at dksJ6_canEncode_0 4 rfl rfl)
theorem dJ6_canEncode_5 : decode cJ6_canEncode 5 = .ok (.sipush 255, 3) := dk_17 0 255 (dk_at dksJ6_canEncode_0 5 rfl rfl)
theorem dJ6_canEncode_8 : decode cJ6_canEncode 8 = .ok (.if_icmp .gt 7, 3) := dk_163 0 7 (dk_at dksJ6_canEncode_0 8 rfl rfl)
theorem dJ6_canEncode_11 : decode cJ6_canEncode 11 = .ok (.iconst 1, 1) := dk_4 (dk_at dksJ6_canEncode_0 11 rfl rfl)
theorem dJ6_canEncode_12 : decode cJ6_canEncode 12 = .ok (.goto 4, 3) := dk_167 0 4 (dk_at dksJ6_canEncode_0 12 rfl rfl)
theorem dJ6_canEncode_15 : decode cJ6_canEncode 15 = .ok (.iconst 0, 1) := dk_3 (dk_at dksJ6_canEncode_0 15 rfl rfl)
theorem dJ6_canEncode_16 : decode cJ6_canEncode 16 = .ok (.ireturn, 1) := dk_172 (dk_at dksJ6_canEncode_0 16 rfl rfl)
theorem gJ6_canEncode_0 {v0 : Int32} {T : zT} {I : zI} {L : zL} {R : zR} {P : zP} (h : ((v0 < 0 → P 0 (.int (0 : Int32)) T I L R) ∧ (¬ v0 < 0 → (((255 : Int32) < v0 → P 0 (.int (0 : Int32)) T I L R) ∧ (¬ (255 : Int32) < v0 → P 0 (.int (1 : Int32)) T I L R))))) : zAW mJ6_canEncode 1 0 0 [(0, .int v0)] [] T I L R P := by
  refine za_iload_n (pc' := 1) 0 dJ6_canEncode_0 rfl rfl rfl ?_
  refine za_if_lt (pc' := 4) (tgt := 15) dJ6_canEncode_1 (by decide) rfl (fun c9 => ?_) (fun c9 => ?_)
  · replace h := h.1 c9
    refine za_iconst (pc' := 16) dJ6_canEncode_15 zi_0 rfl ?_
    exact za_zreturn rfl dJ6_canEncode_16 (by decide) h
  · replace h := h.2 c9
    refine za_iload_n (pc' := 5) 0 dJ6_canEncode_4 rfl rfl rfl ?_
    refine za_sipush (pc' := 8) dJ6_canEncode_5 zb16_255 rfl ?_
    refine za_icmp_gt (pc' := 11) (tgt := 15) dJ6_canEncode_8 (by decide) rfl (fun c9 => ?_) (fun c9 => ?_)
    · replace h := h.1 c9
      refine za_iconst (pc' := 16) dJ6_canEncode_15 zi_0 rfl ?_
      exact za_zreturn rfl dJ6_canEncode_16 (by decide) h
    · replace h := h.2 c9
      refine za_iconst (pc' := 12) dJ6_canEncode_11 zi_1 rfl ?_
      refine za_goto (tgt := 16) dJ6_canEncode_12 (by decide) ?_
      exact za_zreturn rfl dJ6_canEncode_16 (by decide) h
theorem sJ6_canEncode {d b : Nat} {v0 : Int32} {T : zT} {I : zI} {L : zL} {R : zR} {P : zP} (h : zAW mJ6_canEncode d b 0 [(0, .int v0)] [] T I L R P) : zMet mJ6_canEncode d b [.int v0] T I L R P := zMet_of (by decide +kernel) rfl (Nat.le_of_ble_eq_true rfl) rfl h
/-! java/lang/StringLatin1.indexOfChar ([BIII)I -/
def dkwJ6_indexOfChar_1 : List UInt8 := [172, 132, 5, 1, 167, 255, 235, 2, 172]
abbrev dktJ6_indexOfChar_1 : List UInt8 := dkwJ6_indexOfChar_1 ++ []
def dkwJ6_indexOfChar_0 : List UInt8 := [27, 145, 54, 4, 28, 54, 5, 21, 5, 29, 162, 0, 21, 42, 21, 5, 51, 21, 4, 160, 0, 6, 21, 5]
abbrev dktJ6_indexOfChar_0 : List UInt8 := dkwJ6_indexOfChar_0 ++ dktJ6_indexOfChar_1
theorem dksJ6_indexOfChar_0 : cJ6_indexOfChar.data.toList.drop 0 = dktJ6_indexOfChar_0 := by decide +kernel
theorem dksJ6_indexOfChar_1 : cJ6_indexOfChar.data.toList.drop 24 = dktJ6_indexOfChar_1 := dk_seg dksJ6_indexOfChar_0 24 rfl rfl
theorem dJ6_indexOfChar_0 : decode cJ6_indexOfChar 0 = .ok (.iload_n 1, 1) := dk_27 (dk_at dksJ6_indexOfChar_0 0 rfl rfl)
theorem dJ6_indexOfChar_1 : decode cJ6_indexOfChar 1 = .ok (.i2b, 1) := dk_145 (dk_at dksJ6_indexOfChar_0 1 rfl rfl)
theorem dJ6_indexOfChar_2 : decode cJ6_indexOfChar 2 = .ok (.istore 4, 2) := dk_54 4 (dk_at dksJ6_indexOfChar_0 2 rfl rfl)
theorem dJ6_indexOfChar_4 : decode cJ6_indexOfChar 4 = .ok (.iload_n 2, 1) := dk_28 (dk_at dksJ6_indexOfChar_0 4 rfl rfl)
theorem dJ6_indexOfChar_5 : decode cJ6_indexOfChar 5 = .ok (.istore 5, 2) := dk_54 5 (dk_at dksJ6_indexOfChar_0 5 rfl rfl)
theorem dJ6_indexOfChar_7 : decode cJ6_indexOfChar 7 = .ok (.iload 5, 2) := dk_21 5 (dk_at dksJ6_indexOfChar_0 7 rfl rfl)
theorem dJ6_indexOfChar_9 : decode cJ6_indexOfChar 9 = .ok (.iload_n 3, 1) := dk_29 (dk_at dksJ6_indexOfChar_0 9 rfl rfl)
theorem dJ6_indexOfChar_10 : decode cJ6_indexOfChar 10 = .ok (.if_icmp .ge 21, 3) := dk_162 0 21 (dk_at dksJ6_indexOfChar_0 10 rfl rfl)
theorem dJ6_indexOfChar_13 : decode cJ6_indexOfChar 13 = .ok (.aload_n 0, 1) := dk_42 (dk_at dksJ6_indexOfChar_0 13 rfl rfl)
theorem dJ6_indexOfChar_14 : decode cJ6_indexOfChar 14 = .ok (.iload 5, 2) := dk_21 5 (dk_at dksJ6_indexOfChar_0 14 rfl rfl)
theorem dJ6_indexOfChar_16 : decode cJ6_indexOfChar 16 = .ok (.baload, 1) := dk_51 (dk_at dksJ6_indexOfChar_0 16 rfl rfl)
theorem dJ6_indexOfChar_17 : decode cJ6_indexOfChar 17 = .ok (.iload 4, 2) := dk_21 4 (dk_at dksJ6_indexOfChar_0 17 rfl rfl)
theorem dJ6_indexOfChar_19 : decode cJ6_indexOfChar 19 = .ok (.if_icmp .ne 6, 3) := dk_160 0 6 (dk_at dksJ6_indexOfChar_0 19 rfl rfl)
theorem dJ6_indexOfChar_22 : decode cJ6_indexOfChar 22 = .ok (.iload 5, 2) := dk_21 5 (dk_at dksJ6_indexOfChar_0 22 rfl rfl)
theorem dJ6_indexOfChar_24 : decode cJ6_indexOfChar 24 = .ok (.ireturn, 1) := dk_172 (dk_at dksJ6_indexOfChar_1 0 rfl rfl)
theorem dJ6_indexOfChar_25 : decode cJ6_indexOfChar 25 = .ok (.iinc 5 1, 3) := dk_132 5 1 (dk_at dksJ6_indexOfChar_1 1 rfl rfl)
theorem dJ6_indexOfChar_28 : decode cJ6_indexOfChar 28 = .ok (.goto (-21), 3) := dk_167 255 235 (dk_at dksJ6_indexOfChar_1 4 rfl rfl)
theorem dJ6_indexOfChar_31 : decode cJ6_indexOfChar 31 = .ok (.iconst (-1), 1) := dk_2 (dk_at dksJ6_indexOfChar_1 7 rfl rfl)
theorem dJ6_indexOfChar_32 : decode cJ6_indexOfChar 32 = .ok (.ireturn, 1) := dk_172 (dk_at dksJ6_indexOfChar_1 8 rfl rfl)
theorem gJ6_indexOfChar_0 {v0 : Nat} {v1 : Int32} {v2 : Int32} {v3 : Int32} {T : zT} {I : zI} {L : zL} {R : zR} {P : zP} (h : zAW mJ6_indexOfChar 1 0 7 [(0, .ref v0), (3, .int v3), (4, .int (v1.toInt8.toInt32)), (5, .int v2)] [] T I L R P) : zAW mJ6_indexOfChar 1 0 0 [(0, .ref v0), (1, .int v1), (2, .int v2), (3, .int v3)] [] T I L R P := by
  refine za_iload_n (pc' := 1) 1 dJ6_indexOfChar_0 rfl rfl rfl ?_
  refine za_i2b (pc' := 2) dJ6_indexOfChar_1 rfl rfl ?_
  refine za_istore (pc' := 4) (l' := [(4, .int (v1.toInt8.toInt32)), (0, .ref v0), (1, .int v1), (2, .int v2), (3, .int v3)]) dJ6_indexOfChar_2 (Nat.le_of_ble_eq_true rfl) rfl rfl ?_
  refine za_iload_n (pc' := 5) 3 dJ6_indexOfChar_4 rfl rfl rfl ?_
  refine za_istore (pc' := 7) (l' := [(5, .int v2), (4, .int (v1.toInt8.toInt32)), (0, .ref v0), (1, .int v1), (2, .int v2), (3, .int v3)]) dJ6_indexOfChar_5 (Nat.le_of_ble_eq_true rfl) rfl rfl ?_
  exact zAW_sub [2, 5, 1, 0] rfl h
theorem gJ6_indexOfChar_7 {v0 : Nat} {v3 : Int32} {v4 : Int32} {v5 : Int32} {T : zT} {I : zI} {L : zL} {R : zR} {P : zP} (h : ((v3 ≤ v5 → P 0 (.int (-1 : Int32)) T I L R) ∧ (¬ v3 ≤ v5 → (50 ≤ v0 ∧ v0 < 75) ∧ vp_in v5 (zlen.getD (v0 - 50) 0) ∧ ((((zbyt.getD (v0 - 50) []).getD v5.toNatClampNeg 0) = v4 → P 0 (.int v5) T I L R) ∧ (¬ ((zbyt.getD (v0 - 50) []).getD v5.toNatClampNeg 0) = v4 → zAW mJ6_indexOfChar 1 0 7 [(0, .ref v0), (3, .int v3), (4, .int v4), (5, .int (v5 + (1 : Int32)))] [] T I L R P))))) : zAW mJ6_indexOfChar 1 0 7 [(0, .ref v0), (3, .int v3), (4, .int v4), (5, .int v5)] [] T I L R P := by
  refine za_iload (pc' := 9) 3 dJ6_indexOfChar_7 rfl rfl ?_
  refine za_iload_n (pc' := 10) 1 dJ6_indexOfChar_9 rfl rfl rfl ?_
  refine za_icmp_ge (pc' := 13) (tgt := 31) dJ6_indexOfChar_10 (by decide) rfl (fun c9 => ?_) (fun c9 => ?_)
  · replace h := h.1 c9
    refine za_iconst (pc' := 32) dJ6_indexOfChar_31 zi_m1 rfl ?_
    exact za_ireturn rfl dJ6_indexOfChar_32 h
  · replace h := h.2 c9
    refine za_aload_n (pc' := 14) 0 dJ6_indexOfChar_13 rfl rfl rfl ?_
    refine za_iload (pc' := 16) 3 dJ6_indexOfChar_14 rfl rfl ?_
    obtain ⟨hc2, h⟩ := h
    obtain ⟨hi1, h⟩ := h
    refine za_conAt (pc' := 17) dJ6_indexOfChar_16 hc2 hi1 rfl rfl ?_
    refine za_iload (pc' := 19) 2 dJ6_indexOfChar_17 rfl rfl ?_
    refine za_icmp_ne (pc' := 22) (tgt := 25) dJ6_indexOfChar_19 (by decide) rfl (fun c9 => ?_) (fun c9 => ?_)
    · replace h := h.2 c9
      refine za_iinc (pc' := 28) (l' := [(5, .int (v5 + (1 : Int32))), (0, .ref v0), (3, .int v3), (4, .int v4)]) 3 dJ6_indexOfChar_25 rfl (zinc zi_1) (Nat.le_of_ble_eq_true rfl) rfl rfl ?_
      refine za_goto (tgt := 7) dJ6_indexOfChar_28 (by decide) ?_
      exact zAW_sub [1, 2, 3, 0] rfl h
    · replace h := h.1 c9
      refine za_iload (pc' := 24) 3 dJ6_indexOfChar_22 rfl rfl ?_
      exact za_ireturn rfl dJ6_indexOfChar_24 h
theorem sJ6_indexOfChar {d b : Nat} {v0 : Nat} {v1 : Int32} {v2 : Int32} {v3 : Int32} {T : zT} {I : zI} {L : zL} {R : zR} {P : zP} (h : zAW mJ6_indexOfChar d b 0 [(0, .ref v0), (1, .int v1), (2, .int v2), (3, .int v3)] [] T I L R P) : zMet mJ6_indexOfChar d b [.ref v0, .int v1, .int v2, .int v3] T I L R P := zMet_of (by decide +kernel) rfl (Nat.le_of_ble_eq_true rfl) rfl h
/-! java/lang/Throwable.<init> (Ljava/lang/String;Ljava/lang/Throwable;ZZ)V -/
def dkwJ10_init_2_2 : List UInt8 := [44, 181, 0, 7, 29, 154, 0, 8, 42, 1, 181, 0, 24, 177]
abbrev dktJ10_init_2_2 : List UInt8 := dkwJ10_init_2_2 ++ []
def dkwJ10_init_2_1 : List UInt8 := [21, 4, 153, 0, 11, 42, 182, 0, 27, 87, 167, 0, 8, 42, 1, 181, 0, 17, 42, 43, 181, 0, 31, 42]
abbrev dktJ10_init_2_1 : List UInt8 := dkwJ10_init_2_1 ++ dktJ10_init_2_2
def dkwJ10_init_2_0 : List UInt8 := [42, 183, 0, 1, 42, 42, 181, 0, 7, 42, 178, 0, 13, 181, 0, 17, 42, 178, 0, 20, 181, 0, 24]
abbrev dktJ10_init_2_0 : List UInt8 := dkwJ10_init_2_0 ++ dktJ10_init_2_1
theorem dksJ10_init_2_0 : cJ10_init_2.data.toList.drop 0 = dktJ10_init_2_0 := by decide +kernel
theorem dksJ10_init_2_1 : cJ10_init_2.data.toList.drop 23 = dktJ10_init_2_1 := dk_seg dksJ10_init_2_0 23 rfl rfl
theorem dksJ10_init_2_2 : cJ10_init_2.data.toList.drop 47 = dktJ10_init_2_2 := dk_seg dksJ10_init_2_1 24 rfl rfl
theorem dJ10_init_2_0 : decode cJ10_init_2 0 = .ok (.aload_n 0, 1) := dk_42 (dk_at dksJ10_init_2_0 0 rfl rfl)
theorem dJ10_init_2_1 : decode cJ10_init_2 1 = .ok (.invokespecial 1, 3) := dk_183 0 1 (dk_at dksJ10_init_2_0 1 rfl rfl)
theorem dJ10_init_2_4 : decode cJ10_init_2 4 = .ok (.aload_n 0, 1) := dk_42 (dk_at dksJ10_init_2_0 4 rfl rfl)
theorem dJ10_init_2_5 : decode cJ10_init_2 5 = .ok (.aload_n 0, 1) := dk_42 (dk_at dksJ10_init_2_0 5 rfl rfl)
theorem dJ10_init_2_6 : decode cJ10_init_2 6 = .ok (.putfield 7, 3) := dk_181 0 7 (dk_at dksJ10_init_2_0 6 rfl rfl)
theorem dJ10_init_2_9 : decode cJ10_init_2 9 = .ok (.aload_n 0, 1) := dk_42 (dk_at dksJ10_init_2_0 9 rfl rfl)
theorem dJ10_init_2_10 : decode cJ10_init_2 10 = .ok (.getstatic 13, 3) := dk_178 0 13 (dk_at dksJ10_init_2_0 10 rfl rfl)
theorem dJ10_init_2_13 : decode cJ10_init_2 13 = .ok (.putfield 17, 3) := dk_181 0 17 (dk_at dksJ10_init_2_0 13 rfl rfl)
theorem dJ10_init_2_16 : decode cJ10_init_2 16 = .ok (.aload_n 0, 1) := dk_42 (dk_at dksJ10_init_2_0 16 rfl rfl)
theorem dJ10_init_2_17 : decode cJ10_init_2 17 = .ok (.getstatic 20, 3) := dk_178 0 20 (dk_at dksJ10_init_2_0 17 rfl rfl)
theorem dJ10_init_2_20 : decode cJ10_init_2 20 = .ok (.putfield 24, 3) := dk_181 0 24 (dk_at dksJ10_init_2_0 20 rfl rfl)
theorem dJ10_init_2_23 : decode cJ10_init_2 23 = .ok (.iload 4, 2) := dk_21 4 (dk_at dksJ10_init_2_1 0 rfl rfl)
theorem dJ10_init_2_25 : decode cJ10_init_2 25 = .ok (.ifCond .eq 11, 3) := dk_153 0 11 (dk_at dksJ10_init_2_1 2 rfl rfl)
theorem dJ10_init_2_28 : decode cJ10_init_2 28 = .ok (.aload_n 0, 1) := dk_42 (dk_at dksJ10_init_2_1 5 rfl rfl)
theorem dJ10_init_2_29 : decode cJ10_init_2 29 = .ok (.invokevirtual 27, 3) := dk_182 0 27 (dk_at dksJ10_init_2_1 6 rfl rfl)
theorem dJ10_init_2_32 : decode cJ10_init_2 32 = .ok (.pop, 1) := dk_87 (dk_at dksJ10_init_2_1 9 rfl rfl)
theorem dJ10_init_2_33 : decode cJ10_init_2 33 = .ok (.goto 8, 3) := dk_167 0 8 (dk_at dksJ10_init_2_1 10 rfl rfl)
theorem dJ10_init_2_36 : decode cJ10_init_2 36 = .ok (.aload_n 0, 1) := dk_42 (dk_at dksJ10_init_2_1 13 rfl rfl)
theorem dJ10_init_2_37 : decode cJ10_init_2 37 = .ok (.aconst_null, 1) := dk_1 (dk_at dksJ10_init_2_1 14 rfl rfl)
theorem dJ10_init_2_38 : decode cJ10_init_2 38 = .ok (.putfield 17, 3) := dk_181 0 17 (dk_at dksJ10_init_2_1 15 rfl rfl)
theorem dJ10_init_2_41 : decode cJ10_init_2 41 = .ok (.aload_n 0, 1) := dk_42 (dk_at dksJ10_init_2_1 18 rfl rfl)
theorem dJ10_init_2_42 : decode cJ10_init_2 42 = .ok (.aload_n 1, 1) := dk_43 (dk_at dksJ10_init_2_1 19 rfl rfl)
theorem dJ10_init_2_43 : decode cJ10_init_2 43 = .ok (.putfield 31, 3) := dk_181 0 31 (dk_at dksJ10_init_2_1 20 rfl rfl)
theorem dJ10_init_2_46 : decode cJ10_init_2 46 = .ok (.aload_n 0, 1) := dk_42 (dk_at dksJ10_init_2_1 23 rfl rfl)
theorem dJ10_init_2_47 : decode cJ10_init_2 47 = .ok (.aload_n 2, 1) := dk_44 (dk_at dksJ10_init_2_2 0 rfl rfl)
theorem dJ10_init_2_48 : decode cJ10_init_2 48 = .ok (.putfield 7, 3) := dk_181 0 7 (dk_at dksJ10_init_2_2 1 rfl rfl)
theorem dJ10_init_2_51 : decode cJ10_init_2 51 = .ok (.iload_n 3, 1) := dk_29 (dk_at dksJ10_init_2_2 4 rfl rfl)
theorem dJ10_init_2_52 : decode cJ10_init_2 52 = .ok (.ifCond .ne 8, 3) := dk_154 0 8 (dk_at dksJ10_init_2_2 5 rfl rfl)
theorem dJ10_init_2_55 : decode cJ10_init_2 55 = .ok (.aload_n 0, 1) := dk_42 (dk_at dksJ10_init_2_2 8 rfl rfl)
theorem dJ10_init_2_56 : decode cJ10_init_2 56 = .ok (.aconst_null, 1) := dk_1 (dk_at dksJ10_init_2_2 9 rfl rfl)
theorem dJ10_init_2_57 : decode cJ10_init_2 57 = .ok (.putfield 24, 3) := dk_181 0 24 (dk_at dksJ10_init_2_2 10 rfl rfl)
theorem dJ10_init_2_60 : decode cJ10_init_2 60 = .ok (.return_, 1) := dk_177 (dk_at dksJ10_init_2_2 13 rfl rfl)
theorem gJ10_init_2_0 {v0 : Nat} {v1 : Nat} {v2 : Nat} {v3 : Int32} {v4 : Int32} {T : zT} {I : zI} {L : zL} {R : zR} {P : zP} (h : (T v0).1 ≠ 0 ∧ (T v0).1 = 14 ∧ ((v4 = 0 → zAW mJ10_init_2 1 0 41 [(0, .ref v0), (1, .ref v1), (2, .ref v2), (3, .int v3)] [] T I L (z2 (z2 (z2 (z2 R v0 0 v0) v0 1 3) v0 2 4) v0 1 0) P) ∧ (¬ v4 = 0 → False))) : zAW mJ10_init_2 1 0 0 [(0, .ref v0), (1, .ref v1), (2, .ref v2), (3, .int v3), (4, .int v4)] [] T I L R P := by
  refine za_aload_n (pc' := 1) 0 dJ10_init_2_0 rfl rfl rfl ?_
  obtain ⟨ht1, h⟩ := h
  refine za_objInit (pc' := 4) dJ10_init_2_1 q766 (by decide) (ht1) (Nat.le_of_ble_eq_true rfl) rfl ?_
  refine za_aload_n (pc' := 5) 0 dJ10_init_2_4 rfl rfl rfl ?_
  refine za_aload_n (pc' := 6) 0 dJ10_init_2_5 rfl rfl rfl ?_
  obtain ⟨ht2, h⟩ := h
  refine za_putR (fi := 0) (pc' := 9) dJ10_init_2_6 zc13 (by decide) in_X14 zok13 znm13 (by decide) q799 (Or.inl rfl) rfl rfl (fun _ _ _ => rfl) ht2 rfl ?_
  refine za_aload_n (pc' := 10) 0 dJ10_init_2_9 rfl rfl rfl ?_
  refine za_getStack (pc' := 13) dJ10_init_2_10 q767 rfl ?_
  refine za_putR (fi := 1) (pc' := 16) dJ10_init_2_13 zc13 (by decide) in_X14 zok13 znm13 (by decide) q800 (Or.inl rfl) rfl rfl (fun _ _ _ => rfl) ht2 rfl ?_
  refine za_aload_n (pc' := 17) 0 dJ10_init_2_16 rfl rfl rfl ?_
  refine za_getSupp (pc' := 20) dJ10_init_2_17 q769 rfl ?_
  refine za_putR (fi := 2) (pc' := 23) dJ10_init_2_20 zc13 (by decide) in_X14 zok13 znm13 (by decide) q801 (Or.inl rfl) rfl rfl (fun _ _ _ => rfl) ht2 rfl ?_
  refine za_iload (pc' := 25) 4 dJ10_init_2_23 rfl rfl ?_
  refine za_if_eq (pc' := 28) (tgt := 36) dJ10_init_2_25 (by decide) rfl (fun c9 => ?_) (fun c9 => ?_)
  · replace h := h.1 c9
    refine za_aload_n (pc' := 37) 0 dJ10_init_2_36 rfl rfl rfl ?_
    refine za_null (pc' := 38) dJ10_init_2_37 rfl ?_
    refine za_putR (fi := 1) (pc' := 41) dJ10_init_2_38 zc13 (by decide) in_X14 zok13 znm13 (by decide) q800 (Or.inl rfl) rfl rfl (fun _ _ _ => rfl) ht2 rfl ?_
    exact zAW_sub [0, 1, 2, 3] rfl h
  · replace h := h.2 c9
    refine za_aload_n (pc' := 29) 0 dJ10_init_2_28 rfl rfl rfl ?_
    exact h.elim
theorem gJ10_init_2_41 {v0 : Nat} {v1 : Nat} {v2 : Nat} {v3 : Int32} {T : zT} {I : zI} {L : zL} {R : zR} {P : zP} (h : (T v0).1 = 14 ∧ ((v3 = 0 → P 0 (.int 0) T I L (z2 (z2 (z2 R v0 3 v1) v0 0 v2) v0 2 0)) ∧ (¬ v3 = 0 → P 0 (.int 0) T I L (z2 (z2 R v0 3 v1) v0 0 v2)))) : zAW mJ10_init_2 1 0 41 [(0, .ref v0), (1, .ref v1), (2, .ref v2), (3, .int v3)] [] T I L R P := by
  refine za_aload_n (pc' := 42) 0 dJ10_init_2_41 rfl rfl rfl ?_
  refine za_aload_n (pc' := 43) 1 dJ10_init_2_42 rfl rfl rfl ?_
  obtain ⟨ht3, h⟩ := h
  refine za_putR (fi := 3) (pc' := 46) dJ10_init_2_43 zc13 (by decide) in_X14 zok13 znm13 (by decide) q798 (Or.inl rfl) rfl rfl (fun _ _ _ => rfl) ht3 rfl ?_
  refine za_aload_n (pc' := 47) 0 dJ10_init_2_46 rfl rfl rfl ?_
  refine za_aload_n (pc' := 48) 2 dJ10_init_2_47 rfl rfl rfl ?_
  refine za_putR (fi := 0) (pc' := 51) dJ10_init_2_48 zc13 (by decide) in_X14 zok13 znm13 (by decide) q799 (Or.inl rfl) rfl rfl (fun _ _ _ => rfl) ht3 rfl ?_
  refine za_iload_n (pc' := 52) 3 dJ10_init_2_51 rfl rfl rfl ?_
  refine za_if_ne (pc' := 55) (tgt := 60) dJ10_init_2_52 (by decide) rfl (fun c9 => ?_) (fun c9 => ?_)
  · replace h := h.2 c9
    exact za_return rfl dJ10_init_2_60 h
  · replace h := h.1 c9
    refine za_aload_n (pc' := 56) 0 dJ10_init_2_55 rfl rfl rfl ?_
    refine za_null (pc' := 57) dJ10_init_2_56 rfl ?_
    refine za_putR (fi := 2) (pc' := 60) dJ10_init_2_57 zc13 (by decide) in_X14 zok13 znm13 (by decide) q801 (Or.inl rfl) rfl rfl (fun _ _ _ => rfl) ht3 rfl ?_
    exact za_return rfl dJ10_init_2_60 h
theorem sJ10_init_2 {d b : Nat} {v0 : Nat} {v1 : Nat} {v2 : Nat} {v3 : Int32} {v4 : Int32} {T : zT} {I : zI} {L : zL} {R : zR} {P : zP} (h : zAW mJ10_init_2 d b 0 [(0, .ref v0), (1, .ref v1), (2, .ref v2), (3, .int v3), (4, .int v4)] [] T I L R P) : zMet mJ10_init_2 d b [.ref v0, .ref v1, .ref v2, .int v3, .int v4] T I L R P := zMet_of (by decide +kernel) rfl (Nat.le_of_ble_eq_true rfl) rfl h
/-! java/lang/Exception.<init> (Ljava/lang/String;Ljava/lang/Throwable;ZZ)V -/
def dkwJ11_init_0 : List UInt8 := [42, 43, 44, 29, 21, 4, 183, 0, 16, 177]
abbrev dktJ11_init_0 : List UInt8 := dkwJ11_init_0 ++ []
theorem dksJ11_init_0 : cJ11_init.data.toList.drop 0 = dktJ11_init_0 := by decide +kernel
theorem dJ11_init_0 : decode cJ11_init 0 = .ok (.aload_n 0, 1) := dk_42 (dk_at dksJ11_init_0 0 rfl rfl)
theorem dJ11_init_1 : decode cJ11_init 1 = .ok (.aload_n 1, 1) := dk_43 (dk_at dksJ11_init_0 1 rfl rfl)
theorem dJ11_init_2 : decode cJ11_init 2 = .ok (.aload_n 2, 1) := dk_44 (dk_at dksJ11_init_0 2 rfl rfl)
theorem dJ11_init_3 : decode cJ11_init 3 = .ok (.iload_n 3, 1) := dk_29 (dk_at dksJ11_init_0 3 rfl rfl)
theorem dJ11_init_4 : decode cJ11_init 4 = .ok (.iload 4, 2) := dk_21 4 (dk_at dksJ11_init_0 4 rfl rfl)
theorem dJ11_init_6 : decode cJ11_init 6 = .ok (.invokespecial 16, 3) := dk_183 0 16 (dk_at dksJ11_init_0 6 rfl rfl)
theorem dJ11_init_9 : decode cJ11_init 9 = .ok (.return_, 1) := dk_177 (dk_at dksJ11_init_0 9 rfl rfl)
theorem gJ11_init_0 {v0 : Nat} {v1 : Nat} {v2 : Nat} {v3 : Int32} {v4 : Int32} {T : zT} {I : zI} {L : zL} {R : zR} {P : zP} (h : (T v0).1 ≠ 0 ∧ zMet mJ10_init_2 1 0 [.ref v0, .ref v1, .ref v2, .int v3, .int v4] T I L R (zqV_R T I L  (fun (R1 : zR)  => P 0 (.int 0) T I L R1))) : zAW mJ11_init 2 0 0 [(0, .ref v0), (1, .ref v1), (2, .ref v2), (3, .int v3), (4, .int v4)] [] T I L R P := by
  refine za_aload_n (pc' := 1) 0 dJ11_init_0 rfl rfl rfl ?_
  refine za_aload_n (pc' := 2) 1 dJ11_init_1 rfl rfl rfl ?_
  refine za_aload_n (pc' := 3) 2 dJ11_init_2 rfl rfl rfl ?_
  refine za_iload_n (pc' := 4) 3 dJ11_init_3 rfl rfl rfl ?_
  refine za_iload (pc' := 6) 4 dJ11_init_4 rfl rfl ?_
  obtain ⟨ht2, h⟩ := h
  refine za_callI (κ := v0) (M2 := mJ10_init_2) (d2 := 1) (b2 := 0) (n := 4) (As := [.ref v1, .ref v2, .int v3, .int v4]) (st := []) (pc' := 9) ht2 dJ11_init_6 rfl (lw_meth q792) rfl q790 q791 q154 rfl hd_J10_init_2 rfl (by decide) (by decide) (Nat.zero_le _) (Or.inl rfl) (Nat.le_of_ble_eq_true rfl) h (zqV_R_k rfl (fun R1 h => ?_)) (fun _ _ _ _ _ _ h9 h8 => absurd h8.1 h9) rfl
  exact za_return rfl dJ11_init_9 h
theorem sJ11_init {d b : Nat} {v0 : Nat} {v1 : Nat} {v2 : Nat} {v3 : Int32} {v4 : Int32} {T : zT} {I : zI} {L : zL} {R : zR} {P : zP} (h : zAW mJ11_init d b 0 [(0, .ref v0), (1, .ref v1), (2, .ref v2), (3, .int v3), (4, .int v4)] [] T I L R P) : zMet mJ11_init d b [.ref v0, .ref v1, .ref v2, .int v3, .int v4] T I L R P := zMet_of (by decide +kernel) rfl (Nat.le_of_ble_eq_true rfl) rfl h
/-! java/lang/Integer.bitCount (I)I -/
def dkwJ18_bitCount_2 : List UInt8 := [26, 16, 63, 126, 172]
abbrev dktJ18_bitCount_2 : List UInt8 := dkwJ18_bitCount_2 ++ []
def dkwJ18_bitCount_1 : List UInt8 := [26, 26, 7, 124, 96, 19, 1, 11, 126, 59, 26, 26, 16, 8, 124, 96, 59, 26, 26, 16, 16, 124, 96, 59]
abbrev dktJ18_bitCount_1 : List UInt8 := dkwJ18_bitCount_1 ++ dktJ18_bitCount_2
def dkwJ18_bitCount_0 : List UInt8 := [26, 26, 4, 124, 19, 1, 9, 126, 100, 59, 26, 19, 1, 10, 126, 26, 5, 124, 19, 1, 10, 126, 96, 59]
abbrev dktJ18_bitCount_0 : List UInt8 := dkwJ18_bitCount_0 ++ dktJ18_bitCount_1
theorem dksJ18_bitCount_0 : cJ18_bitCount.data.toList.drop 0 = dktJ18_bitCount_0 := by decide +kernel
theorem dksJ18_bitCount_1 : cJ18_bitCount.data.toList.drop 24 = dktJ18_bitCount_1 := dk_seg dksJ18_bitCount_0 24 rfl rfl
theorem dksJ18_bitCount_2 : cJ18_bitCount.data.toList.drop 48 = dktJ18_bitCount_2 := dk_seg dksJ18_bitCount_1 24 rfl rfl
theorem dJ18_bitCount_0 : decode cJ18_bitCount 0 = .ok (.iload_n 0, 1) := dk_26 (dk_at dksJ18_bitCount_0 0 rfl rfl)
theorem dJ18_bitCount_1 : decode cJ18_bitCount 1 = .ok (.iload_n 0, 1) := dk_26 (dk_at dksJ18_bitCount_0 1 rfl rfl)
theorem dJ18_bitCount_2 : decode cJ18_bitCount 2 = .ok (.iconst 1, 1) := dk_4 (dk_at dksJ18_bitCount_0 2 rfl rfl)
theorem dJ18_bitCount_3 : decode cJ18_bitCount 3 = .ok (.iushr, 1) := dk_124 (dk_at dksJ18_bitCount_0 3 rfl rfl)
theorem dJ18_bitCount_4 : decode cJ18_bitCount 4 = .ok (.ldc_w 265, 3) := dk_19 1 9 (dk_at dksJ18_bitCount_0 4 rfl rfl)
theorem dJ18_bitCount_7 : decode cJ18_bitCount 7 = .ok (.iand, 1) := dk_126 (dk_at dksJ18_bitCount_0 7 rfl rfl)
theorem dJ18_bitCount_8 : decode cJ18_bitCount 8 = .ok (.isub, 1) := dk_100 (dk_at dksJ18_bitCount_0 8 rfl rfl)
theorem dJ18_bitCount_9 : decode cJ18_bitCount 9 = .ok (.istore_n 0, 1) := dk_59 (dk_at dksJ18_bitCount_0 9 rfl rfl)
theorem dJ18_bitCount_10 : decode cJ18_bitCount 10 = .ok (.iload_n 0, 1) := dk_26 (dk_at dksJ18_bitCount_0 10 rfl rfl)
theorem dJ18_bitCount_11 : decode cJ18_bitCount 11 = .ok (.ldc_w 266, 3) := dk_19 1 10 (dk_at dksJ18_bitCount_0 11 rfl rfl)
theorem dJ18_bitCount_14 : decode cJ18_bitCount 14 = .ok (.iand, 1) := dk_126 (dk_at dksJ18_bitCount_0 14 rfl rfl)
theorem dJ18_bitCount_15 : decode cJ18_bitCount 15 = .ok (.iload_n 0, 1) := dk_26 (dk_at dksJ18_bitCount_0 15 rfl rfl)
theorem dJ18_bitCount_16 : decode cJ18_bitCount 16 = .ok (.iconst 2, 1) := dk_5 (dk_at dksJ18_bitCount_0 16 rfl rfl)
theorem dJ18_bitCount_17 : decode cJ18_bitCount 17 = .ok (.iushr, 1) := dk_124 (dk_at dksJ18_bitCount_0 17 rfl rfl)
theorem dJ18_bitCount_18 : decode cJ18_bitCount 18 = .ok (.ldc_w 266, 3) := dk_19 1 10 (dk_at dksJ18_bitCount_0 18 rfl rfl)
theorem dJ18_bitCount_21 : decode cJ18_bitCount 21 = .ok (.iand, 1) := dk_126 (dk_at dksJ18_bitCount_0 21 rfl rfl)
theorem dJ18_bitCount_22 : decode cJ18_bitCount 22 = .ok (.iadd, 1) := dk_96 (dk_at dksJ18_bitCount_0 22 rfl rfl)
theorem dJ18_bitCount_23 : decode cJ18_bitCount 23 = .ok (.istore_n 0, 1) := dk_59 (dk_at dksJ18_bitCount_0 23 rfl rfl)
theorem dJ18_bitCount_24 : decode cJ18_bitCount 24 = .ok (.iload_n 0, 1) := dk_26 (dk_at dksJ18_bitCount_1 0 rfl rfl)
theorem dJ18_bitCount_25 : decode cJ18_bitCount 25 = .ok (.iload_n 0, 1) := dk_26 (dk_at dksJ18_bitCount_1 1 rfl rfl)
theorem dJ18_bitCount_26 : decode cJ18_bitCount 26 = .ok (.iconst 4, 1) := dk_7 (dk_at dksJ18_bitCount_1 2 rfl rfl)
theorem dJ18_bitCount_27 : decode cJ18_bitCount 27 = .ok (.iushr, 1) := dk_124 (dk_at dksJ18_bitCount_1 3 rfl rfl)
theorem dJ18_bitCount_28 : decode cJ18_bitCount 28 = .ok (.iadd, 1) := dk_96 (dk_at dksJ18_bitCount_1 4 rfl rfl)
theorem dJ18_bitCount_29 : decode cJ18_bitCount 29 = .ok (.ldc_w 267, 3) := dk_19 1 11 (dk_at dksJ18_bitCount_1 5 rfl rfl)
theorem dJ18_bitCount_32 : decode cJ18_bitCount 32 = .ok (.iand, 1) := dk_126 (dk_at dksJ18_bitCount_1 8 rfl rfl)
theorem dJ18_bitCount_33 : decode cJ18_bitCount 33 = .ok (.istore_n 0, 1) := dk_59 (dk_at dksJ18_bitCount_1 9 rfl rfl)
theorem dJ18_bitCount_34 : decode cJ18_bitCount 34 = .ok (.iload_n 0, 1) := dk_26 (dk_at dksJ18_bitCount_1 10 rfl rfl)
theorem dJ18_bitCount_35 : decode cJ18_bitCount 35 = .ok (.iload_n 0, 1) := dk_26 (dk_at dksJ18_bitCount_1 11 rfl rfl)
theorem dJ18_bitCount_36 : decode cJ18_bitCount 36 = .ok (.bipush 8, 2) := dk_16 8 (dk_at dksJ18_bitCount_1 12 rfl rfl)
theorem dJ18_bitCount_38 : decode cJ18_bitCount 38 = .ok (.iushr, 1) := dk_124 (dk_at dksJ18_bitCount_1 14 rfl rfl)
theorem dJ18_bitCount_39 : decode cJ18_bitCount 39 = .ok (.iadd, 1) := dk_96 (dk_at dksJ18_bitCount_1 15 rfl rfl)
theorem dJ18_bitCount_40 : decode cJ18_bitCount 40 = .ok (.istore_n 0, 1) := dk_59 (dk_at dksJ18_bitCount_1 16 rfl rfl)
theorem dJ18_bitCount_41 : decode cJ18_bitCount 41 = .ok (.iload_n 0, 1) := dk_26 (dk_at dksJ18_bitCount_1 17 rfl rfl)
theorem dJ18_bitCount_42 : decode cJ18_bitCount 42 = .ok (.iload_n 0, 1) := dk_26 (dk_at dksJ18_bitCount_1 18 rfl rfl)
theorem dJ18_bitCount_43 : decode cJ18_bitCount 43 = .ok (.bipush 16, 2) := dk_16 16 (dk_at dksJ18_bitCount_1 19 rfl rfl)
theorem dJ18_bitCount_45 : decode cJ18_bitCount 45 = .ok (.iushr, 1) := dk_124 (dk_at dksJ18_bitCount_1 21 rfl rfl)
theorem dJ18_bitCount_46 : decode cJ18_bitCount 46 = .ok (.iadd, 1) := dk_96 (dk_at dksJ18_bitCount_1 22 rfl rfl)
theorem dJ18_bitCount_47 : decode cJ18_bitCount 47 = .ok (.istore_n 0, 1) := dk_59 (dk_at dksJ18_bitCount_1 23 rfl rfl)
theorem dJ18_bitCount_48 : decode cJ18_bitCount 48 = .ok (.iload_n 0, 1) := dk_26 (dk_at dksJ18_bitCount_2 0 rfl rfl)
theorem dJ18_bitCount_49 : decode cJ18_bitCount 49 = .ok (.bipush 63, 2) := dk_16 63 (dk_at dksJ18_bitCount_2 1 rfl rfl)
theorem dJ18_bitCount_51 : decode cJ18_bitCount 51 = .ok (.iand, 1) := dk_126 (dk_at dksJ18_bitCount_2 3 rfl rfl)
theorem dJ18_bitCount_52 : decode cJ18_bitCount 52 = .ok (.ireturn, 1) := dk_172 (dk_at dksJ18_bitCount_2 4 rfl rfl)
theorem gJ18_bitCount_0 {v0 : Int32} {T : zT} {I : zI} {L : zL} {R : zR} {P : zP} (h : P 0 (.int ((((((((v0 - (((v0.toUInt32 >>> ((1 : Int32).toUInt32 &&& Int32.toUInt32 31)).toInt32) &&& (1431655765 : Int32))) &&& (858993459 : Int32)) + ((((v0 - (((v0.toUInt32 >>> ((1 : Int32).toUInt32 &&& Int32.toUInt32 31)).toInt32) &&& (1431655765 : Int32))).toUInt32 >>> ((2 : Int32).toUInt32 &&& Int32.toUInt32 31)).toInt32) &&& (858993459 : Int32))) + (((((v0 - (((v0.toUInt32 >>> ((1 : Int32).toUInt32 &&& Int32.toUInt32 31)).toInt32) &&& (1431655765 : Int32))) &&& (858993459 : Int32)) + ((((v0 - (((v0.toUInt32 >>> ((1 : Int32).toUInt32 &&& Int32.toUInt32 31)).toInt32) &&& (1431655765 : Int32))).toUInt32 >>> ((2 : Int32).toUInt32 &&& Int32.toUInt32 31)).toInt32) &&& (858993459 : Int32))).toUInt32 >>> ((4 : Int32).toUInt32 &&& Int32.toUInt32 31)).toInt32)) &&& (252645135 : Int32)) + (((((((v0 - (((v0.toUInt32 >>> ((1 : Int32).toUInt32 &&& Int32.toUInt32 31)).toInt32) &&& (1431655765 : Int32))) &&& (858993459 : Int32)) + ((((v0 - (((v0.toUInt32 >>> ((1 : Int32).toUInt32 &&& Int32.toUInt32 31)).toInt32) &&& (1431655765 : Int32))).toUInt32 >>> ((2 : Int32).toUInt32 &&& Int32.toUInt32 31)).toInt32) &&& (858993459 : Int32))) + (((((v0 - (((v0.toUInt32 >>> ((1 : Int32).toUInt32 &&& Int32.toUInt32 31)).toInt32) &&& (1431655765 : Int32))) &&& (858993459 : Int32)) + ((((v0 - (((v0.toUInt32 >>> ((1 : Int32).toUInt32 &&& Int32.toUInt32 31)).toInt32) &&& (1431655765 : Int32))).toUInt32 >>> ((2 : Int32).toUInt32 &&& Int32.toUInt32 31)).toInt32) &&& (858993459 : Int32))).toUInt32 >>> ((4 : Int32).toUInt32 &&& Int32.toUInt32 31)).toInt32)) &&& (252645135 : Int32)).toUInt32 >>> ((8 : Int32).toUInt32 &&& Int32.toUInt32 31)).toInt32)) + ((((((((v0 - (((v0.toUInt32 >>> ((1 : Int32).toUInt32 &&& Int32.toUInt32 31)).toInt32) &&& (1431655765 : Int32))) &&& (858993459 : Int32)) + ((((v0 - (((v0.toUInt32 >>> ((1 : Int32).toUInt32 &&& Int32.toUInt32 31)).toInt32) &&& (1431655765 : Int32))).toUInt32 >>> ((2 : Int32).toUInt32 &&& Int32.toUInt32 31)).toInt32) &&& (858993459 : Int32))) + (((((v0 - (((v0.toUInt32 >>> ((1 : Int32).toUInt32 &&& Int32.toUInt32 31)).toInt32) &&& (1431655765 : Int32))) &&& (858993459 : Int32)) + ((((v0 - (((v0.toUInt32 >>> ((1 : Int32).toUInt32 &&& Int32.toUInt32 31)).toInt32) &&& (1431655765 : Int32))).toUInt32 >>> ((2 : Int32).toUInt32 &&& Int32.toUInt32 31)).toInt32) &&& (858993459 : Int32))).toUInt32 >>> ((4 : Int32).toUInt32 &&& Int32.toUInt32 31)).toInt32)) &&& (252645135 : Int32)) + (((((((v0 - (((v0.toUInt32 >>> ((1 : Int32).toUInt32 &&& Int32.toUInt32 31)).toInt32) &&& (1431655765 : Int32))) &&& (858993459 : Int32)) + ((((v0 - (((v0.toUInt32 >>> ((1 : Int32).toUInt32 &&& Int32.toUInt32 31)).toInt32) &&& (1431655765 : Int32))).toUInt32 >>> ((2 : Int32).toUInt32 &&& Int32.toUInt32 31)).toInt32) &&& (858993459 : Int32))) + (((((v0 - (((v0.toUInt32 >>> ((1 : Int32).toUInt32 &&& Int32.toUInt32 31)).toInt32) &&& (1431655765 : Int32))) &&& (858993459 : Int32)) + ((((v0 - (((v0.toUInt32 >>> ((1 : Int32).toUInt32 &&& Int32.toUInt32 31)).toInt32) &&& (1431655765 : Int32))).toUInt32 >>> ((2 : Int32).toUInt32 &&& Int32.toUInt32 31)).toInt32) &&& (858993459 : Int32))).toUInt32 >>> ((4 : Int32).toUInt32 &&& Int32.toUInt32 31)).toInt32)) &&& (252645135 : Int32)).toUInt32 >>> ((8 : Int32).toUInt32 &&& Int32.toUInt32 31)).toInt32)).toUInt32 >>> ((16 : Int32).toUInt32 &&& Int32.toUInt32 31)).toInt32)) &&& (63 : Int32))) T I L R) : zAW mJ18_bitCount 1 0 0 [(0, .int v0)] [] T I L R P := by
  refine za_iload_n (pc' := 1) 0 dJ18_bitCount_0 rfl rfl rfl ?_
  refine za_iload_n (pc' := 2) 0 dJ18_bitCount_1 rfl rfl rfl ?_
  refine za_iconst (pc' := 3) dJ18_bitCount_2 zi_1 rfl ?_
  refine za_iushr (pc' := 4) dJ18_bitCount_3 rfl rfl ?_
  refine za_ldc_w (pc' := 7) (v := (1431655765 : Int32)) (own := "") dJ18_bitCount_4 q1309 rfl ?_
  refine za_iand (pc' := 8) dJ18_bitCount_7 rfl ?_
  refine za_isub (pc' := 9) dJ18_bitCount_8 rfl ?_
  refine za_istore_n (pc' := 10) (l' := [(0, .int (v0 - (((v0.toUInt32 >>> ((1 : Int32).toUInt32 &&& Int32.toUInt32 31)).toInt32) &&& (1431655765 : Int32))))]) dJ18_bitCount_9 rfl (Nat.le_of_ble_eq_true rfl) rfl rfl ?_
  refine za_iload_n (pc' := 11) 0 dJ18_bitCount_10 rfl rfl rfl ?_
  refine za_ldc_w (pc' := 14) (v := (858993459 : Int32)) (own := "") dJ18_bitCount_11 q1310 rfl ?_
  refine za_iand (pc' := 15) dJ18_bitCount_14 rfl ?_
  refine za_iload_n (pc' := 16) 0 dJ18_bitCount_15 rfl rfl rfl ?_
  refine za_iconst (pc' := 17) dJ18_bitCount_16 zi_2 rfl ?_
  refine za_iushr (pc' := 18) dJ18_bitCount_17 rfl rfl ?_
  refine za_ldc_w (pc' := 21) (v := (858993459 : Int32)) (own := "") dJ18_bitCount_18 q1310 rfl ?_
  refine za_iand (pc' := 22) dJ18_bitCount_21 rfl ?_
  refine za_iadd (pc' := 23) dJ18_bitCount_22 rfl ?_
  refine za_istore_n (pc' := 24) (l' := [(0, .int (((v0 - (((v0.toUInt32 >>> ((1 : Int32).toUInt32 &&& Int32.toUInt32 31)).toInt32) &&& (1431655765 : Int32))) &&& (858993459 : Int32)) + ((((v0 - (((v0.toUInt32 >>> ((1 : Int32).toUInt32 &&& Int32.toUInt32 31)).toInt32) &&& (1431655765 : Int32))).toUInt32 >>> ((2 : Int32).toUInt32 &&& Int32.toUInt32 31)).toInt32) &&& (858993459 : Int32))))]) dJ18_bitCount_23 rfl (Nat.le_of_ble_eq_true rfl) rfl rfl ?_
  refine za_iload_n (pc' := 25) 0 dJ18_bitCount_24 rfl rfl rfl ?_
  refine za_iload_n (pc' := 26) 0 dJ18_bitCount_25 rfl rfl rfl ?_
  refine za_iconst (pc' := 27) dJ18_bitCount_26 zi_4 rfl ?_
  refine za_iushr (pc' := 28) dJ18_bitCount_27 rfl rfl ?_
  refine za_iadd (pc' := 29) dJ18_bitCount_28 rfl ?_
  refine za_ldc_w (pc' := 32) (v := (252645135 : Int32)) (own := "") dJ18_bitCount_29 q1311 rfl ?_
  refine za_iand (pc' := 33) dJ18_bitCount_32 rfl ?_
  refine za_istore_n (pc' := 34) (l' := [(0, .int (((((v0 - (((v0.toUInt32 >>> ((1 : Int32).toUInt32 &&& Int32.toUInt32 31)).toInt32) &&& (1431655765 : Int32))) &&& (858993459 : Int32)) + ((((v0 - (((v0.toUInt32 >>> ((1 : Int32).toUInt32 &&& Int32.toUInt32 31)).toInt32) &&& (1431655765 : Int32))).toUInt32 >>> ((2 : Int32).toUInt32 &&& Int32.toUInt32 31)).toInt32) &&& (858993459 : Int32))) + (((((v0 - (((v0.toUInt32 >>> ((1 : Int32).toUInt32 &&& Int32.toUInt32 31)).toInt32) &&& (1431655765 : Int32))) &&& (858993459 : Int32)) + ((((v0 - (((v0.toUInt32 >>> ((1 : Int32).toUInt32 &&& Int32.toUInt32 31)).toInt32) &&& (1431655765 : Int32))).toUInt32 >>> ((2 : Int32).toUInt32 &&& Int32.toUInt32 31)).toInt32) &&& (858993459 : Int32))).toUInt32 >>> ((4 : Int32).toUInt32 &&& Int32.toUInt32 31)).toInt32)) &&& (252645135 : Int32)))]) dJ18_bitCount_33 rfl (Nat.le_of_ble_eq_true rfl) rfl rfl ?_
  refine za_iload_n (pc' := 35) 0 dJ18_bitCount_34 rfl rfl rfl ?_
  refine za_iload_n (pc' := 36) 0 dJ18_bitCount_35 rfl rfl rfl ?_
  refine za_bipush (pc' := 38) dJ18_bitCount_36 zb8_8 rfl ?_
  refine za_iushr (pc' := 39) dJ18_bitCount_38 rfl rfl ?_
  refine za_iadd (pc' := 40) dJ18_bitCount_39 rfl ?_
  refine za_istore_n (pc' := 41) (l' := [(0, .int ((((((v0 - (((v0.toUInt32 >>> ((1 : Int32).toUInt32 &&& Int32.toUInt32 31)).toInt32) &&& (1431655765 : Int32))) &&& (858993459 : Int32)) + ((((v0 - (((v0.toUInt32 >>> ((1 : Int32).toUInt32 &&& Int32.toUInt32 31)).toInt32) &&& (1431655765 : Int32))).toUInt32 >>> ((2 : Int32).toUInt32 &&& Int32.toUInt32 31)).toInt32) &&& (858993459 : Int32))) + (((((v0 - (((v0.toUInt32 >>> ((1 : Int32).toUInt32 &&& Int32.toUInt32 31)).toInt32) &&& (1431655765 : Int32))) &&& (858993459 : Int32)) + ((((v0 - (((v0.toUInt32 >>> ((1 : Int32).toUInt32 &&& Int32.toUInt32 31)).toInt32) &&& (1431655765 : Int32))).toUInt32 >>> ((2 : Int32).toUInt32 &&& Int32.toUInt32 31)).toInt32) &&& (858993459 : Int32))).toUInt32 >>> ((4 : Int32).toUInt32 &&& Int32.toUInt32 31)).toInt32)) &&& (252645135 : Int32)) + (((((((v0 - (((v0.toUInt32 >>> ((1 : Int32).toUInt32 &&& Int32.toUInt32 31)).toInt32) &&& (1431655765 : Int32))) &&& (858993459 : Int32)) + ((((v0 - (((v0.toUInt32 >>> ((1 : Int32).toUInt32 &&& Int32.toUInt32 31)).toInt32) &&& (1431655765 : Int32))).toUInt32 >>> ((2 : Int32).toUInt32 &&& Int32.toUInt32 31)).toInt32) &&& (858993459 : Int32))) + (((((v0 - (((v0.toUInt32 >>> ((1 : Int32).toUInt32 &&& Int32.toUInt32 31)).toInt32) &&& (1431655765 : Int32))) &&& (858993459 : Int32)) + ((((v0 - (((v0.toUInt32 >>> ((1 : Int32).toUInt32 &&& Int32.toUInt32 31)).toInt32) &&& (1431655765 : Int32))).toUInt32 >>> ((2 : Int32).toUInt32 &&& Int32.toUInt32 31)).toInt32) &&& (858993459 : Int32))).toUInt32 >>> ((4 : Int32).toUInt32 &&& Int32.toUInt32 31)).toInt32)) &&& (252645135 : Int32)).toUInt32 >>> ((8 : Int32).toUInt32 &&& Int32.toUInt32 31)).toInt32)))]) dJ18_bitCount_40 rfl (Nat.le_of_ble_eq_true rfl) rfl rfl ?_
  refine za_iload_n (pc' := 42) 0 dJ18_bitCount_41 rfl rfl rfl ?_
  refine za_iload_n (pc' := 43) 0 dJ18_bitCount_42 rfl rfl rfl ?_
  refine za_bipush (pc' := 45) dJ18_bitCount_43 zb8_16 rfl ?_
  refine za_iushr (pc' := 46) dJ18_bitCount_45 rfl rfl ?_
  refine za_iadd (pc' := 47) dJ18_bitCount_46 rfl ?_
  refine za_istore_n (pc' := 48) (l' := [(0, .int (((((((v0 - (((v0.toUInt32 >>> ((1 : Int32).toUInt32 &&& Int32.toUInt32 31)).toInt32) &&& (1431655765 : Int32))) &&& (858993459 : Int32)) + ((((v0 - (((v0.toUInt32 >>> ((1 : Int32).toUInt32 &&& Int32.toUInt32 31)).toInt32) &&& (1431655765 : Int32))).toUInt32 >>> ((2 : Int32).toUInt32 &&& Int32.toUInt32 31)).toInt32) &&& (858993459 : Int32))) + (((((v0 - (((v0.toUInt32 >>> ((1 : Int32).toUInt32 &&& Int32.toUInt32 31)).toInt32) &&& (1431655765 : Int32))) &&& (858993459 : Int32)) + ((((v0 - (((v0.toUInt32 >>> ((1 : Int32).toUInt32 &&& Int32.toUInt32 31)).toInt32) &&& (1431655765 : Int32))).toUInt32 >>> ((2 : Int32).toUInt32 &&& Int32.toUInt32 31)).toInt32) &&& (858993459 : Int32))).toUInt32 >>> ((4 : Int32).toUInt32 &&& Int32.toUInt32 31)).toInt32)) &&& (252645135 : Int32)) + (((((((v0 - (((v0.toUInt32 >>> ((1 : Int32).toUInt32 &&& Int32.toUInt32 31)).toInt32) &&& (1431655765 : Int32))) &&& (858993459 : Int32)) + ((((v0 - (((v0.toUInt32 >>> ((1 : Int32).toUInt32 &&& Int32.toUInt32 31)).toInt32) &&& (1431655765 : Int32))).toUInt32 >>> ((2 : Int32).toUInt32 &&& Int32.toUInt32 31)).toInt32) &&& (858993459 : Int32))) + (((((v0 - (((v0.toUInt32 >>> ((1 : Int32).toUInt32 &&& Int32.toUInt32 31)).toInt32) &&& (1431655765 : Int32))) &&& (858993459 : Int32)) + ((((v0 - (((v0.toUInt32 >>> ((1 : Int32).toUInt32 &&& Int32.toUInt32 31)).toInt32) &&& (1431655765 : Int32))).toUInt32 >>> ((2 : Int32).toUInt32 &&& Int32.toUInt32 31)).toInt32) &&& (858993459 : Int32))).toUInt32 >>> ((4 : Int32).toUInt32 &&& Int32.toUInt32 31)).toInt32)) &&& (252645135 : Int32)).toUInt32 >>> ((8 : Int32).toUInt32 &&& Int32.toUInt32 31)).toInt32)) + ((((((((v0 - (((v0.toUInt32 >>> ((1 : Int32).toUInt32 &&& Int32.toUInt32 31)).toInt32) &&& (1431655765 : Int32))) &&& (858993459 : Int32)) + ((((v0 - (((v0.toUInt32 >>> ((1 : Int32).toUInt32 &&& Int32.toUInt32 31)).toInt32) &&& (1431655765 : Int32))).toUInt32 >>> ((2 : Int32).toUInt32 &&& Int32.toUInt32 31)).toInt32) &&& (858993459 : Int32))) + (((((v0 - (((v0.toUInt32 >>> ((1 : Int32).toUInt32 &&& Int32.toUInt32 31)).toInt32) &&& (1431655765 : Int32))) &&& (858993459 : Int32)) + ((((v0 - (((v0.toUInt32 >>> ((1 : Int32).toUInt32 &&& Int32.toUInt32 31)).toInt32) &&& (1431655765 : Int32))).toUInt32 >>> ((2 : Int32).toUInt32 &&& Int32.toUInt32 31)).toInt32) &&& (858993459 : Int32))).toUInt32 >>> ((4 : Int32).toUInt32 &&& Int32.toUInt32 31)).toInt32)) &&& (252645135 : Int32)) + (((((((v0 - (((v0.toUInt32 >>> ((1 : Int32).toUInt32 &&& Int32.toUInt32 31)).toInt32) &&& (1431655765 : Int32))) &&& (858993459 : Int32)) + ((((v0 - (((v0.toUInt32 >>> ((1 : Int32).toUInt32 &&& Int32.toUInt32 31)).toInt32) &&& (1431655765 : Int32))).toUInt32 >>> ((2 : Int32).toUInt32 &&& Int32.toUInt32 31)).toInt32) &&& (858993459 : Int32))) + (((((v0 - (((v0.toUInt32 >>> ((1 : Int32).toUInt32 &&& Int32.toUInt32 31)).toInt32) &&& (1431655765 : Int32))) &&& (858993459 : Int32)) + ((((v0 - (((v0.toUInt32 >>> ((1 : Int32).toUInt32 &&& Int32.toUInt32 31)).toInt32) &&& (1431655765 : Int32))).toUInt32 >>> ((2 : Int32).toUInt32 &&& Int32.toUInt32 31)).toInt32) &&& (858993459 : Int32))).toUInt32 >>> ((4 : Int32).toUInt32 &&& Int32.toUInt32 31)).toInt32)) &&& (252645135 : Int32)).toUInt32 >>> ((8 : Int32).toUInt32 &&& Int32.toUInt32 31)).toInt32)).toUInt32 >>> ((16 : Int32).toUInt32 &&& Int32.toUInt32 31)).toInt32)))]) dJ18_bitCount_47 rfl (Nat.le_of_ble_eq_true rfl) rfl rfl ?_
  refine za_iload_n (pc' := 49) 0 dJ18_bitCount_48 rfl rfl rfl ?_
  refine za_bipush (pc' := 51) dJ18_bitCount_49 zb8_63 rfl ?_
  refine za_iand (pc' := 52) dJ18_bitCount_51 rfl ?_
  exact za_ireturn rfl dJ18_bitCount_52 h
theorem sJ18_bitCount {d b : Nat} {v0 : Int32} {T : zT} {I : zI} {L : zL} {R : zR} {P : zP} (h : zAW mJ18_bitCount d b 0 [(0, .int v0)] [] T I L R P) : zMet mJ18_bitCount d b [.int v0] T I L R P := zMet_of (by decide +kernel) rfl (Nat.le_of_ble_eq_true rfl) rfl h
