set_option maxRecDepth 100000
/-! TwoTongues$Reader.<init> (LTwoTongues;)V -/
def dkwX2_init_0 : List UInt8 := [42, 43, 181, 0, 3, 42, 183, 0, 9, 177]
abbrev dktX2_init_0 : List UInt8 := dkwX2_init_0 ++ []
theorem dksX2_init_0 : cX2_init.data.toList.drop 0 = dktX2_init_0 := by decide +kernel
theorem dX2_init_0 : decode cX2_init 0 = .ok (.aload_n 0, 1) := dk_42 (dk_at dksX2_init_0 0 rfl rfl)
theorem dX2_init_1 : decode cX2_init 1 = .ok (.aload_n 1, 1) := dk_43 (dk_at dksX2_init_0 1 rfl rfl)
theorem dX2_init_2 : decode cX2_init 2 = .ok (.putfield 3, 3) := dk_181 0 3 (dk_at dksX2_init_0 2 rfl rfl)
theorem dX2_init_5 : decode cX2_init 5 = .ok (.aload_n 0, 1) := dk_42 (dk_at dksX2_init_0 5 rfl rfl)
theorem dX2_init_6 : decode cX2_init 6 = .ok (.invokespecial 9, 3) := dk_183 0 9 (dk_at dksX2_init_0 6 rfl rfl)
theorem dX2_init_9 : decode cX2_init 9 = .ok (.return_, 1) := dk_177 (dk_at dksX2_init_0 9 rfl rfl)
theorem gX2_init_0 {v0 : Nat} {v1 : Nat} {T : zT} {I : zI} {L : zL} {R : zR} {P : zP} (h : (T v0).1 = 2 ∧ P 0 (.int 0) T I L (z2 R v0 8 v1)) : zAW mX2_init 1 0 0 [(0, .ref v0), (1, .ref v1)] [] T I L R P := by
  obtain ⟨ht1, h⟩ := h
  refine za_aload_n (pc' := 1) 0 dX2_init_0 rfl rfl rfl ?_
  refine za_aload_n (pc' := 2) 1 dX2_init_1 rfl rfl rfl ?_
  refine za_putFR (fi := 8) (pc' := 5) dX2_init_2 zc1 (by decide) in_X2 zok1 znm1 (by decide) q193 (Or.inl rfl) rfl rfl rfl rfl (fun _ _ _ => rfl) ht1 rfl ?_
  refine za_aload_n (pc' := 6) 0 dX2_init_5 rfl rfl rfl ?_
  refine za_objInit (pc' := 9) dX2_init_6 q184 (by decide) (by rw [ht1]; decide) (Nat.le_of_ble_eq_true rfl) rfl ?_
  exact za_return rfl dX2_init_9 h
theorem sX2_init {d b : Nat} {v0 : Nat} {v1 : Nat} {T : zT} {I : zI} {L : zL} {R : zR} {P : zP} (h : zAW mX2_init d b 0 [(0, .ref v0), (1, .ref v1)] [] T I L R P) : zMet mX2_init d b [.ref v0, .ref v1] T I L R P := zMet_of (by decide +kernel) rfl (Nat.le_of_ble_eq_true rfl) rfl h
/-! TwoTongues$Reader.read (I)LTwoTongues$Street; -/
def dkwX2_read_2 : List UInt8 := [167, 255, 244, 42, 180, 0, 101, 176]
abbrev dktX2_read_2 : List UInt8 := dkwX2_read_2 ++ []
def dkwX2_read_1 : List UInt8 := [89, 183, 0, 100, 181, 0, 101, 42, 182, 0, 89, 42, 180, 0, 33, 7, 159, 0, 10, 42, 182, 0, 105]
abbrev dktX2_read_1 : List UInt8 := dkwX2_read_1 ++ dktX2_read_2
def dkwX2_read_0 : List UInt8 := [42, 3, 181, 0, 15, 42, 27, 181, 0, 19, 42, 3, 181, 0, 92, 42, 3, 181, 0, 95, 42, 187, 0, 98]
abbrev dktX2_read_0 : List UInt8 := dkwX2_read_0 ++ dktX2_read_1
theorem dksX2_read_0 : cX2_read.data.toList.drop 0 = dktX2_read_0 := by decide +kernel
theorem dksX2_read_1 : cX2_read.data.toList.drop 24 = dktX2_read_1 := dk_seg dksX2_read_0 24 rfl rfl
theorem dksX2_read_2 : cX2_read.data.toList.drop 47 = dktX2_read_2 := dk_seg dksX2_read_1 23 rfl rfl
theorem dX2_read_0 : decode cX2_read 0 = .ok (.aload_n 0, 1) := dk_42 (dk_at dksX2_read_0 0 rfl rfl)
theorem dX2_read_1 : decode cX2_read 1 = .ok (.iconst 0, 1) := dk_3 (dk_at dksX2_read_0 1 rfl rfl)
theorem dX2_read_2 : decode cX2_read 2 = .ok (.putfield 15, 3) := dk_181 0 15 (dk_at dksX2_read_0 2 rfl rfl)
theorem dX2_read_5 : decode cX2_read 5 = .ok (.aload_n 0, 1) := dk_42 (dk_at dksX2_read_0 5 rfl rfl)
theorem dX2_read_6 : decode cX2_read 6 = .ok (.iload_n 1, 1) := dk_27 (dk_at dksX2_read_0 6 rfl rfl)
theorem dX2_read_7 : decode cX2_read 7 = .ok (.putfield 19, 3) := dk_181 0 19 (dk_at dksX2_read_0 7 rfl rfl)
theorem dX2_read_10 : decode cX2_read 10 = .ok (.aload_n 0, 1) := dk_42 (dk_at dksX2_read_0 10 rfl rfl)
theorem dX2_read_11 : decode cX2_read 11 = .ok (.iconst 0, 1) := dk_3 (dk_at dksX2_read_0 11 rfl rfl)
theorem dX2_read_12 : decode cX2_read 12 = .ok (.putfield 92, 3) := dk_181 0 92 (dk_at dksX2_read_0 12 rfl rfl)
theorem dX2_read_15 : decode cX2_read 15 = .ok (.aload_n 0, 1) := dk_42 (dk_at dksX2_read_0 15 rfl rfl)
theorem dX2_read_16 : decode cX2_read 16 = .ok (.iconst 0, 1) := dk_3 (dk_at dksX2_read_0 16 rfl rfl)
theorem dX2_read_17 : decode cX2_read 17 = .ok (.putfield 95, 3) := dk_181 0 95 (dk_at dksX2_read_0 17 rfl rfl)
theorem dX2_read_20 : decode cX2_read 20 = .ok (.aload_n 0, 1) := dk_42 (dk_at dksX2_read_0 20 rfl rfl)
theorem dX2_read_21 : decode cX2_read 21 = .ok (.new 98, 3) := dk_187 0 98 (dk_at dksX2_read_0 21 rfl rfl)
theorem dX2_read_24 : decode cX2_read 24 = .ok (.dup, 1) := dk_89 (dk_at dksX2_read_1 0 rfl rfl)
theorem dX2_read_25 : decode cX2_read 25 = .ok (.invokespecial 100, 3) := dk_183 0 100 (dk_at dksX2_read_1 1 rfl rfl)
theorem dX2_read_28 : decode cX2_read 28 = .ok (.putfield 101, 3) := dk_181 0 101 (dk_at dksX2_read_1 4 rfl rfl)
theorem dX2_read_31 : decode cX2_read 31 = .ok (.aload_n 0, 1) := dk_42 (dk_at dksX2_read_1 7 rfl rfl)
theorem dX2_read_32 : decode cX2_read 32 = .ok (.invokevirtual 89, 3) := dk_182 0 89 (dk_at dksX2_read_1 8 rfl rfl)
theorem dX2_read_35 : decode cX2_read 35 = .ok (.aload_n 0, 1) := dk_42 (dk_at dksX2_read_1 11 rfl rfl)
theorem dX2_read_36 : decode cX2_read 36 = .ok (.getfield 33, 3) := dk_180 0 33 (dk_at dksX2_read_1 12 rfl rfl)
theorem dX2_read_39 : decode cX2_read 39 = .ok (.iconst 4, 1) := dk_7 (dk_at dksX2_read_1 15 rfl rfl)
theorem dX2_read_40 : decode cX2_read 40 = .ok (.if_icmp .eq 10, 3) := dk_159 0 10 (dk_at dksX2_read_1 16 rfl rfl)
theorem dX2_read_43 : decode cX2_read 43 = .ok (.aload_n 0, 1) := dk_42 (dk_at dksX2_read_1 19 rfl rfl)
theorem dX2_read_44 : decode cX2_read 44 = .ok (.invokevirtual 105, 3) := dk_182 0 105 (dk_at dksX2_read_1 20 rfl rfl)
theorem dX2_read_47 : decode cX2_read 47 = .ok (.goto (-12), 3) := dk_167 255 244 (dk_at dksX2_read_2 0 rfl rfl)
theorem dX2_read_50 : decode cX2_read 50 = .ok (.aload_n 0, 1) := dk_42 (dk_at dksX2_read_2 3 rfl rfl)
theorem dX2_read_51 : decode cX2_read 51 = .ok (.getfield 101, 3) := dk_180 0 101 (dk_at dksX2_read_2 4 rfl rfl)
theorem dX2_read_54 : decode cX2_read 54 = .ok (.areturn, 1) := dk_176 (dk_at dksX2_read_2 7 rfl rfl)
theorem gX2_read_0 {b : Nat} {v1 : Int32} {T : zT} {I : zI} {L : zL} {R : zR} {P : zP} (hx : zXok T R) (h : ∃ κ1, 100 ≤ κ1 ∧ (T κ1).1 = 0 ∧ 18 + 1 ≤ b ∧ ∃ b10, b10 ≤ (b - (18 + 1)) ∧ zMet mX3_init 4 b10 [.ref κ1] (z1 T κ1 (3, 0)) (z1 (z2 (z2 (z2 (z2 I 1008 0 (0 : Int32)) 1008 1 v1) 1008 5 (0 : Int32)) 1008 6 (0 : Int32)) κ1 fun _ => 0) (z1 L κ1 fun _ => 0) (z1 R κ1 fun _ => 0) (zqV_TILR   (fun (T5 : zT) (I6 : zI) (L7 : zL) (R8 : zR)  => zXok T5 R8 ∧ zMet mX2_next 6 0 [.ref 1008] T5 I6 L7 (z2 R8 1008 7 κ1) (zqV_I T5 L7 (z2 R8 1008 7 κ1)  (fun (I12 : zI)  => zAW mX2_read 402 (((b - (18 + 1)) - b10) - 0) 35 [(0, .ref 1008)] [] T5 I12 L7 (z2 R8 1008 7 κ1) P))))) : zAW mX2_read 402 b 0 [(0, .ref 1008), (1, .int v1)] [] T I L R P := by
  refine za_aload_n (pc' := 1) 0 dX2_read_0 rfl rfl rfl ?_
  refine za_iconst (pc' := 2) dX2_read_1 zi_0 rfl ?_
  refine za_putI (fi := 0) (pc' := 5) dX2_read_2 zc1 (by decide) in_X2 zok1 znm1 (by decide) q185 (Or.inl rfl) rfl rfl (fun _ _ _ => rfl) rfl rfl (congrArg Prod.fst (zX_t1008 hx)) rfl ?_
  refine za_aload_n (pc' := 6) 0 dX2_read_5 rfl rfl rfl ?_
  refine za_iload_n (pc' := 7) 1 dX2_read_6 rfl rfl rfl ?_
  refine za_putI (fi := 1) (pc' := 10) dX2_read_7 zc1 (by decide) in_X2 zok1 znm1 (by decide) q186 (Or.inl rfl) rfl rfl (fun _ _ _ => rfl) rfl rfl (congrArg Prod.fst (zX_t1008 hx)) rfl ?_
  refine za_aload_n (pc' := 11) 0 dX2_read_10 rfl rfl rfl ?_
  refine za_iconst (pc' := 12) dX2_read_11 zi_0 rfl ?_
  refine za_putI (fi := 5) (pc' := 15) dX2_read_12 zc1 (by decide) in_X2 zok1 znm1 (by decide) q190 (Or.inl rfl) rfl rfl (fun _ _ _ => rfl) rfl rfl (congrArg Prod.fst (zX_t1008 hx)) rfl ?_
  refine za_aload_n (pc' := 16) 0 dX2_read_15 rfl rfl rfl ?_
  refine za_iconst (pc' := 17) dX2_read_16 zi_0 rfl ?_
  refine za_putI (fi := 6) (pc' := 20) dX2_read_17 zc1 (by decide) in_X2 zok1 znm1 (by decide) q191 (Or.inl rfl) rfl rfl (fun _ _ _ => rfl) rfl rfl (congrArg Prod.fst (zX_t1008 hx)) rfl ?_
  refine za_aload_n (pc' := 21) 0 dX2_read_20 rfl rfl rfl ?_
  obtain ⟨κ1, hk2, hf3, hb4, h⟩ := h
  refine za_new (κ := κ1) (pc' := 24) dX2_read_21 zc2 (by decide) in_X3 zok2 zdf2 q595 q215 q133 hk2 hf3 hb4 rfl ?_
  refine za_dup (pc' := 25) dX2_read_24 rfl rfl ?_
  obtain ⟨b10, hb11, h⟩ := h
  refine za_callI (κ := κ1) (M2 := mX3_init) (d2 := 4) (b2 := b10) (n := 0) (As := []) (st := [.ref κ1, .ref 1008]) (pc' := 28) (by rw [(congrArg Prod.fst z1_s)]; decide) dX2_read_25 rfl (lw_meth q218) rfl q596 q217 q133 rfl hd_X3_init rfl (by decide) (by decide) hb11 (Or.inl rfl) (Nat.le_of_ble_eq_true rfl) h (zqV_TILR_k rfl (fun T5 I6 L7 R8 h => ?_)) (fun _ _ _ _ _ _ h9 h8 => absurd h8.1 h9) rfl
  obtain ⟨hx9, h⟩ := h
  refine za_putR (fi := 7) (pc' := 31) dX2_read_28 zc1 (by decide) in_X2 zok1 znm1 (by decide) q192 (Or.inl rfl) rfl rfl (fun _ _ _ => rfl) (congrArg Prod.fst (zX_t1008 hx9)) rfl ?_
  refine za_aload_n (pc' := 32) 0 dX2_read_31 rfl rfl rfl ?_
  refine za_callV (κ := 1008) (M2 := mX2_next) (d2 := 6) (b2 := 0) (n := 0) (As := []) (st := []) (pc' := 35) zc1 (by decide) (congrArg Prod.fst (zX_t1008 hx9)) dX2_read_32 rfl (lw_V q597 q599 qs1 q132 q600) ⟨rfl, hd_X2_next⟩ rfl (by decide) (by decide) (Nat.zero_le _) (Or.inl rfl) (Nat.le_of_ble_eq_true rfl) h (zqV_I_k rfl (fun I12 h => ?_)) (fun _ _ _ _ _ _ h9 h8 => absurd h8.1 h9) rfl
  exact zAW_sub [0] rfl h
theorem gX2_read_35 {b : Nat}  {T : zT} {I : zI} {L : zL} {R : zR} {P : zP} (hx : zXok T R) (h : (((I 1008 3) = (4 : Int32) → P 0 (.ref (R 1008 7)) T I L R) ∧ (¬ (I 1008 3) = (4 : Int32) → ∃ b18, b18 ≤ b ∧ zMet mX2_line 401 b18 [.ref 1008] T I L R (zqV_TILRx  P (fun (T13 : zT) (I14 : zI) (L15 : zL) (R16 : zR)  => zXok T13 R16 ∧ zAW mX2_read 402 (b - b18) 35 [(0, .ref 1008)] [] T13 I14 L15 R16 P))))) : zAW mX2_read 402 b 35 [(0, .ref 1008)] [] T I L R P := by
  refine za_aload_n (pc' := 36) 0 dX2_read_35 rfl rfl rfl ?_
  refine za_get (fi := 3) (v := .int (I 1008 3)) (pc' := 39) dX2_read_36 zc1 (by decide) in_X2 (by decide) q188 (Or.inl rfl) (congrArg Prod.fst (zX_t1008 hx)) rfl rfl ?_
  refine za_iconst (pc' := 40) dX2_read_39 zi_4 rfl ?_
  refine za_icmp_eq (pc' := 43) (tgt := 50) dX2_read_40 (by decide) rfl (fun c9 => ?_) (fun c9 => ?_)
  · replace h := h.1 c9
    refine za_aload_n (pc' := 51) 0 dX2_read_50 rfl rfl rfl ?_
    refine za_get (fi := 7) (v := .ref (R 1008 7)) (pc' := 54) dX2_read_51 zc1 (by decide) in_X2 (by decide) q192 (Or.inl rfl) (congrArg Prod.fst (zX_t1008 hx)) rfl rfl ?_
    exact za_areturn rfl dX2_read_54 (Or.inl ⟨_, rfl⟩) h
  · replace h := h.2 c9
    refine za_aload_n (pc' := 44) 0 dX2_read_43 rfl rfl rfl ?_
    obtain ⟨b18, hb19, h⟩ := h
    refine za_callV (κ := 1008) (M2 := mX2_line) (d2 := 401) (b2 := b18) (n := 0) (As := []) (st := []) (pc' := 47) zc1 (by decide) (congrArg Prod.fst (zX_t1008 hx)) dX2_read_44 rfl (lw_V q731 q733 qs6 q132 q734) ⟨rfl, hd_X2_line⟩ rfl (by decide) (by decide) hb19 (Or.inl rfl) (Nat.le_of_ble_eq_true rfl) h (zqV_TILRx_k rfl (fun T13 I14 L15 R16 h => ?_)) (fun _ _ _ _ _ _ h9 h8 => h8.2 h9) rfl
    obtain ⟨hx17, h⟩ := h
    refine za_goto (tgt := 35) dX2_read_47 (by decide) ?_
    exact zAW_sub [0] rfl h
theorem sX2_read {d b : Nat} {v1 : Int32} {T : zT} {I : zI} {L : zL} {R : zR} {P : zP} (h : zAW mX2_read d b 0 [(0, .ref 1008), (1, .int v1)] [] T I L R P) : zMet mX2_read d b [.ref 1008, .int v1] T I L R P := zMet_of (by decide +kernel) rfl (Nat.le_of_ble_eq_true rfl) rfl h
/-! TwoTongues$Reader.next ()V -/
def dkwX2_next_11 : List UInt8 := [181, 0, 15, 167, 255, 194, 42, 182, 0, 58, 177]
abbrev dktX2_next_11 : List UInt8 := dkwX2_next_11 ++ []
def dkwX2_next_10 : List UInt8 := [180, 0, 47, 104, 42, 182, 0, 26, 96, 16, 48, 100, 181, 0, 47, 42, 89, 180, 0, 15, 4, 96]
abbrev dktX2_next_10 : List UInt8 := dkwX2_next_10 ++ dktX2_next_11
def dkwX2_next_9 : List UInt8 := [153, 0, 55, 42, 42, 180, 0, 47, 18, 57, 164, 0, 10, 42, 180, 0, 47, 167, 0, 18, 16, 10, 42]
abbrev dktX2_next_9 : List UInt8 := dkwX2_next_9 ++ dktX2_next_10
def dkwX2_next_8 : List UInt8 := [181, 0, 33, 42, 3, 181, 0, 47, 42, 182, 0, 26, 133, 20, 0, 53, 20, 0, 55, 184, 0, 40]
abbrev dktX2_next_8 : List UInt8 := dkwX2_next_8 ++ dktX2_next_9
def dkwX2_next_7 : List UInt8 := [167, 0, 99, 42, 182, 0, 26, 133, 20, 0, 53, 20, 0, 55, 184, 0, 40, 153, 0, 78, 42, 5]
abbrev dktX2_next_7 : List UInt8 := dkwX2_next_7 ++ dktX2_next_8
def dkwX2_next_6 : List UInt8 := [164, 0, 7, 8, 167, 0, 4, 4, 181, 0, 33, 42, 180, 0, 33, 4, 160, 0, 106, 42, 182, 0, 50]
abbrev dktX2_next_6 : List UInt8 := dkwX2_next_6 ++ dktX2_next_7
def dkwX2_next_5 : List UInt8 := [180, 0, 47, 2, 159, 0, 7, 3, 167, 0, 22, 42, 180, 0, 15, 42, 180, 0, 30, 100, 16, 6]
abbrev dktX2_next_5 : List UInt8 := dkwX2_next_5 ++ dktX2_next_6
def dkwX2_next_4 : List UInt8 := [89, 180, 0, 15, 4, 96, 181, 0, 15, 167, 255, 229, 42, 42, 182, 0, 44, 181, 0, 47, 42, 42]
abbrev dktX2_next_4 : List UInt8 := dkwX2_next_4 ++ dktX2_next_5
def dkwX2_next_3 : List UInt8 := [184, 0, 40, 153, 0, 91, 42, 182, 0, 26, 133, 20, 0, 36, 20, 0, 38, 184, 0, 40, 153, 0, 16, 42]
abbrev dktX2_next_3 : List UInt8 := dkwX2_next_3 ++ dktX2_next_4
def dkwX2_next_2 : List UInt8 := [160, 0, 11, 42, 7, 181, 0, 33, 167, 0, 204, 42, 182, 0, 26, 133, 20, 0, 36, 20, 0, 38]
abbrev dktX2_next_2 : List UInt8 := dkwX2_next_2 ++ dktX2_next_3
def dkwX2_next_1 : List UInt8 := [96, 181, 0, 15, 167, 255, 228, 42, 42, 180, 0, 15, 181, 0, 30, 42, 180, 0, 15, 42, 180, 0, 19]
abbrev dktX2_next_1 : List UInt8 := dkwX2_next_1 ++ dktX2_next_2
def dkwX2_next_0 : List UInt8 := [42, 182, 0, 26, 16, 10, 159, 0, 12, 42, 182, 0, 26, 16, 32, 160, 0, 16, 42, 89, 180, 0, 15, 4]
abbrev dktX2_next_0 : List UInt8 := dkwX2_next_0 ++ dktX2_next_1
theorem dksX2_next_0 : cX2_next.data.toList.drop 0 = dktX2_next_0 := by decide +kernel
theorem dksX2_next_1 : cX2_next.data.toList.drop 24 = dktX2_next_1 := dk_seg dksX2_next_0 24 rfl rfl
theorem dksX2_next_2 : cX2_next.data.toList.drop 47 = dktX2_next_2 := dk_seg dksX2_next_1 23 rfl rfl
theorem dksX2_next_3 : cX2_next.data.toList.drop 69 = dktX2_next_3 := dk_seg dksX2_next_2 22 rfl rfl
theorem dksX2_next_4 : cX2_next.data.toList.drop 93 = dktX2_next_4 := dk_seg dksX2_next_3 24 rfl rfl
theorem dksX2_next_5 : cX2_next.data.toList.drop 115 = dktX2_next_5 := dk_seg dksX2_next_4 22 rfl rfl
theorem dksX2_next_6 : cX2_next.data.toList.drop 137 = dktX2_next_6 := dk_seg dksX2_next_5 22 rfl rfl
theorem dksX2_next_7 : cX2_next.data.toList.drop 160 = dktX2_next_7 := dk_seg dksX2_next_6 23 rfl rfl
theorem dksX2_next_8 : cX2_next.data.toList.drop 182 = dktX2_next_8 := dk_seg dksX2_next_7 22 rfl rfl
theorem dksX2_next_9 : cX2_next.data.toList.drop 204 = dktX2_next_9 := dk_seg dksX2_next_8 22 rfl rfl
theorem dksX2_next_10 : cX2_next.data.toList.drop 227 = dktX2_next_10 := dk_seg dksX2_next_9 23 rfl rfl
theorem dksX2_next_11 : cX2_next.data.toList.drop 249 = dktX2_next_11 := dk_seg dksX2_next_10 22 rfl rfl
theorem dX2_next_0 : decode cX2_next 0 = .ok (.aload_n 0, 1) := dk_42 (dk_at dksX2_next_0 0 rfl rfl)
theorem dX2_next_1 : decode cX2_next 1 = .ok (.invokevirtual 26, 3) := dk_182 0 26 (dk_at dksX2_next_0 1 rfl rfl)
theorem dX2_next_4 : decode cX2_next 4 = .ok (.bipush 10, 2) := dk_16 10 (dk_at dksX2_next_0 4 rfl rfl)
theorem dX2_next_6 : decode cX2_next 6 = .ok (.if_icmp .eq 12, 3) := dk_159 0 12 (dk_at dksX2_next_0 6 rfl rfl)
theorem dX2_next_9 : decode cX2_next 9 = .ok (.aload_n 0, 1) := dk_42 (dk_at dksX2_next_0 9 rfl rfl)
theorem dX2_next_10 : decode cX2_next 10 = .ok (.invokevirtual 26, 3) := dk_182 0 26 (dk_at dksX2_next_0 10 rfl rfl)
theorem dX2_next_13 : decode cX2_next 13 = .ok (.bipush 32, 2) := dk_16 32 (dk_at dksX2_next_0 13 rfl rfl)
theorem dX2_next_15 : decode cX2_next 15 = .ok (.if_icmp .ne 16, 3) := dk_160 0 16 (dk_at dksX2_next_0 15 rfl rfl)
theorem dX2_next_18 : decode cX2_next 18 = .ok (.aload_n 0, 1) := dk_42 (dk_at dksX2_next_0 18 rfl rfl)
theorem dX2_next_19 : decode cX2_next 19 = .ok (.dup, 1) := dk_89 (dk_at dksX2_next_0 19 rfl rfl)
theorem dX2_next_20 : decode cX2_next 20 = .ok (.getfield 15, 3) := dk_180 0 15 (dk_at dksX2_next_0 20 rfl rfl)
theorem dX2_next_23 : decode cX2_next 23 = .ok (.iconst 1, 1) := dk_4 (dk_at dksX2_next_0 23 rfl rfl)
theorem dX2_next_24 : decode cX2_next 24 = .ok (.iadd, 1) := dk_96 (dk_at dksX2_next_1 0 rfl rfl)
theorem dX2_next_25 : decode cX2_next 25 = .ok (.putfield 15, 3) := dk_181 0 15 (dk_at dksX2_next_1 1 rfl rfl)
theorem dX2_next_28 : decode cX2_next 28 = .ok (.goto (-28), 3) := dk_167 255 228 (dk_at dksX2_next_1 4 rfl rfl)
theorem dX2_next_31 : decode cX2_next 31 = .ok (.aload_n 0, 1) := dk_42 (dk_at dksX2_next_1 7 rfl rfl)
theorem dX2_next_32 : decode cX2_next 32 = .ok (.aload_n 0, 1) := dk_42 (dk_at dksX2_next_1 8 rfl rfl)
theorem dX2_next_33 : decode cX2_next 33 = .ok (.getfield 15, 3) := dk_180 0 15 (dk_at dksX2_next_1 9 rfl rfl)
theorem dX2_next_36 : decode cX2_next 36 = .ok (.putfield 30, 3) := dk_181 0 30 (dk_at dksX2_next_1 12 rfl rfl)
theorem dX2_next_39 : decode cX2_next 39 = .ok (.aload_n 0, 1) := dk_42 (dk_at dksX2_next_1 15 rfl rfl)
theorem dX2_next_40 : decode cX2_next 40 = .ok (.getfield 15, 3) := dk_180 0 15 (dk_at dksX2_next_1 16 rfl rfl)
theorem dX2_next_43 : decode cX2_next 43 = .ok (.aload_n 0, 1) := dk_42 (dk_at dksX2_next_1 19 rfl rfl)
theorem dX2_next_44 : decode cX2_next 44 = .ok (.getfield 19, 3) := dk_180 0 19 (dk_at dksX2_next_1 20 rfl rfl)
theorem dX2_next_47 : decode cX2_next 47 = .ok (.if_icmp .ne 11, 3) := dk_160 0 11 (dk_at dksX2_next_2 0 rfl rfl)
theorem dX2_next_50 : decode cX2_next 50 = .ok (.aload_n 0, 1) := dk_42 (dk_at dksX2_next_2 3 rfl rfl)
theorem dX2_next_51 : decode cX2_next 51 = .ok (.iconst 4, 1) := dk_7 (dk_at dksX2_next_2 4 rfl rfl)
theorem dX2_next_52 : decode cX2_next 52 = .ok (.putfield 33, 3) := dk_181 0 33 (dk_at dksX2_next_2 5 rfl rfl)
theorem dX2_next_55 : decode cX2_next 55 = .ok (.goto 204, 3) := dk_167 0 204 (dk_at dksX2_next_2 8 rfl rfl)
theorem dX2_next_58 : decode cX2_next 58 = .ok (.aload_n 0, 1) := dk_42 (dk_at dksX2_next_2 11 rfl rfl)
theorem dX2_next_59 : decode cX2_next 59 = .ok (.invokevirtual 26, 3) := dk_182 0 26 (dk_at dksX2_next_2 12 rfl rfl)
theorem dX2_next_62 : decode cX2_next 62 = .ok (.i2l, 1) := dk_133 (dk_at dksX2_next_2 15 rfl rfl)
theorem dX2_next_63 : decode cX2_next 63 = .ok (.ldc2_w 36, 3) := dk_20 0 36 (dk_at dksX2_next_2 16 rfl rfl)
theorem dX2_next_66 : decode cX2_next 66 = .ok (.ldc2_w 38, 3) := dk_20 0 38 (dk_at dksX2_next_2 19 rfl rfl)
theorem dX2_next_69 : decode cX2_next 69 = .ok (.invokestatic 40, 3) := dk_184 0 40 (dk_at dksX2_next_3 0 rfl rfl)
theorem dX2_next_72 : decode cX2_next 72 = .ok (.ifCond .eq 91, 3) := dk_153 0 91 (dk_at dksX2_next_3 3 rfl rfl)
theorem dX2_next_75 : decode cX2_next 75 = .ok (.aload_n 0, 1) := dk_42 (dk_at dksX2_next_3 6 rfl rfl)
theorem dX2_next_76 : decode cX2_next 76 = .ok (.invokevirtual 26, 3) := dk_182 0 26 (dk_at dksX2_next_3 7 rfl rfl)
theorem dX2_next_79 : decode cX2_next 79 = .ok (.i2l, 1) := dk_133 (dk_at dksX2_next_3 10 rfl rfl)
theorem dX2_next_80 : decode cX2_next 80 = .ok (.ldc2_w 36, 3) := dk_20 0 36 (dk_at dksX2_next_3 11 rfl rfl)
theorem dX2_next_83 : decode cX2_next 83 = .ok (.ldc2_w 38, 3) := dk_20 0 38 (dk_at dksX2_next_3 14 rfl rfl)
theorem dX2_next_86 : decode cX2_next 86 = .ok (.invokestatic 40, 3) := dk_184 0 40 (dk_at dksX2_next_3 17 rfl rfl)
theorem dX2_next_89 : decode cX2_next 89 = .ok (.ifCond .eq 16, 3) := dk_153 0 16 (dk_at dksX2_next_3 20 rfl rfl)
theorem dX2_next_92 : decode cX2_next 92 = .ok (.aload_n 0, 1) := dk_42 (dk_at dksX2_next_3 23 rfl rfl)
theorem dX2_next_93 : decode cX2_next 93 = .ok (.dup, 1) := dk_89 (dk_at dksX2_next_4 0 rfl rfl)
theorem dX2_next_94 : decode cX2_next 94 = .ok (.getfield 15, 3) := dk_180 0 15 (dk_at dksX2_next_4 1 rfl rfl)
theorem dX2_next_97 : decode cX2_next 97 = .ok (.iconst 1, 1) := dk_4 (dk_at dksX2_next_4 4 rfl rfl)
theorem dX2_next_98 : decode cX2_next 98 = .ok (.iadd, 1) := dk_96 (dk_at dksX2_next_4 5 rfl rfl)
theorem dX2_next_99 : decode cX2_next 99 = .ok (.putfield 15, 3) := dk_181 0 15 (dk_at dksX2_next_4 6 rfl rfl)
theorem dX2_next_102 : decode cX2_next 102 = .ok (.goto (-27), 3) := dk_167 255 229 (dk_at dksX2_next_4 9 rfl rfl)
theorem dX2_next_105 : decode cX2_next 105 = .ok (.aload_n 0, 1) := dk_42 (dk_at dksX2_next_4 12 rfl rfl)
theorem dX2_next_106 : decode cX2_next 106 = .ok (.aload_n 0, 1) := dk_42 (dk_at dksX2_next_4 13 rfl rfl)
theorem dX2_next_107 : decode cX2_next 107 = .ok (.invokevirtual 44, 3) := dk_182 0 44 (dk_at dksX2_next_4 14 rfl rfl)
theorem dX2_next_110 : decode cX2_next 110 = .ok (.putfield 47, 3) := dk_181 0 47 (dk_at dksX2_next_4 17 rfl rfl)
theorem dX2_next_113 : decode cX2_next 113 = .ok (.aload_n 0, 1) := dk_42 (dk_at dksX2_next_4 20 rfl rfl)
theorem dX2_next_114 : decode cX2_next 114 = .ok (.aload_n 0, 1) := dk_42 (dk_at dksX2_next_4 21 rfl rfl)
theorem dX2_next_115 : decode cX2_next 115 = .ok (.getfield 47, 3) := dk_180 0 47 (dk_at dksX2_next_5 0 rfl rfl)
theorem dX2_next_118 : decode cX2_next 118 = .ok (.iconst (-1), 1) := dk_2 (dk_at dksX2_next_5 3 rfl rfl)
theorem dX2_next_119 : decode cX2_next 119 = .ok (.if_icmp .eq 7, 3) := dk_159 0 7 (dk_at dksX2_next_5 4 rfl rfl)
theorem dX2_next_122 : decode cX2_next 122 = .ok (.iconst 0, 1) := dk_3 (dk_at dksX2_next_5 7 rfl rfl)
theorem dX2_next_123 : decode cX2_next 123 = .ok (.goto 22, 3) := dk_167 0 22 (dk_at dksX2_next_5 8 rfl rfl)
theorem dX2_next_126 : decode cX2_next 126 = .ok (.aload_n 0, 1) := dk_42 (dk_at dksX2_next_5 11 rfl rfl)
theorem dX2_next_127 : decode cX2_next 127 = .ok (.getfield 15, 3) := dk_180 0 15 (dk_at dksX2_next_5 12 rfl rfl)
theorem dX2_next_130 : decode cX2_next 130 = .ok (.aload_n 0, 1) := dk_42 (dk_at dksX2_next_5 15 rfl rfl)
theorem dX2_next_131 : decode cX2_next 131 = .ok (.getfield 30, 3) := dk_180 0 30 (dk_at dksX2_next_5 16 rfl rfl)
theorem dX2_next_134 : decode cX2_next 134 = .ok (.isub, 1) := dk_100 (dk_at dksX2_next_5 19 rfl rfl)
theorem dX2_next_135 : decode cX2_next 135 = .ok (.bipush 6, 2) := dk_16 6 (dk_at dksX2_next_5 20 rfl rfl)
theorem dX2_next_137 : decode cX2_next 137 = .ok (.if_icmp .le 7, 3) := dk_164 0 7 (dk_at dksX2_next_6 0 rfl rfl)
theorem dX2_next_140 : decode cX2_next 140 = .ok (.iconst 5, 1) := dk_8 (dk_at dksX2_next_6 3 rfl rfl)
theorem dX2_next_141 : decode cX2_next 141 = .ok (.goto 4, 3) := dk_167 0 4 (dk_at dksX2_next_6 4 rfl rfl)
theorem dX2_next_144 : decode cX2_next 144 = .ok (.iconst 1, 1) := dk_4 (dk_at dksX2_next_6 7 rfl rfl)
theorem dX2_next_145 : decode cX2_next 145 = .ok (.putfield 33, 3) := dk_181 0 33 (dk_at dksX2_next_6 8 rfl rfl)
theorem dX2_next_148 : decode cX2_next 148 = .ok (.aload_n 0, 1) := dk_42 (dk_at dksX2_next_6 11 rfl rfl)
theorem dX2_next_149 : decode cX2_next 149 = .ok (.getfield 33, 3) := dk_180 0 33 (dk_at dksX2_next_6 12 rfl rfl)
theorem dX2_next_152 : decode cX2_next 152 = .ok (.iconst 1, 1) := dk_4 (dk_at dksX2_next_6 15 rfl rfl)
theorem dX2_next_153 : decode cX2_next 153 = .ok (.if_icmp .ne 106, 3) := dk_160 0 106 (dk_at dksX2_next_6 16 rfl rfl)
theorem dX2_next_156 : decode cX2_next 156 = .ok (.aload_n 0, 1) := dk_42 (dk_at dksX2_next_6 19 rfl rfl)
theorem dX2_next_157 : decode cX2_next 157 = .ok (.invokevirtual 50, 3) := dk_182 0 50 (dk_at dksX2_next_6 20 rfl rfl)
theorem dX2_next_160 : decode cX2_next 160 = .ok (.goto 99, 3) := dk_167 0 99 (dk_at dksX2_next_7 0 rfl rfl)
theorem dX2_next_163 : decode cX2_next 163 = .ok (.aload_n 0, 1) := dk_42 (dk_at dksX2_next_7 3 rfl rfl)
theorem dX2_next_164 : decode cX2_next 164 = .ok (.invokevirtual 26, 3) := dk_182 0 26 (dk_at dksX2_next_7 4 rfl rfl)
theorem dX2_next_167 : decode cX2_next 167 = .ok (.i2l, 1) := dk_133 (dk_at dksX2_next_7 7 rfl rfl)
theorem dX2_next_168 : decode cX2_next 168 = .ok (.ldc2_w 53, 3) := dk_20 0 53 (dk_at dksX2_next_7 8 rfl rfl)
theorem dX2_next_171 : decode cX2_next 171 = .ok (.ldc2_w 55, 3) := dk_20 0 55 (dk_at dksX2_next_7 11 rfl rfl)
theorem dX2_next_174 : decode cX2_next 174 = .ok (.invokestatic 40, 3) := dk_184 0 40 (dk_at dksX2_next_7 14 rfl rfl)
theorem dX2_next_177 : decode cX2_next 177 = .ok (.ifCond .eq 78, 3) := dk_153 0 78 (dk_at dksX2_next_7 17 rfl rfl)
theorem dX2_next_180 : decode cX2_next 180 = .ok (.aload_n 0, 1) := dk_42 (dk_at dksX2_next_7 20 rfl rfl)
theorem dX2_next_181 : decode cX2_next 181 = .ok (.iconst 2, 1) := dk_5 (dk_at dksX2_next_7 21 rfl rfl)
theorem dX2_next_182 : decode cX2_next 182 = .ok (.putfield 33, 3) := dk_181 0 33 (dk_at dksX2_next_8 0 rfl rfl)
theorem dX2_next_185 : decode cX2_next 185 = .ok (.aload_n 0, 1) := dk_42 (dk_at dksX2_next_8 3 rfl rfl)
theorem dX2_next_186 : decode cX2_next 186 = .ok (.iconst 0, 1) := dk_3 (dk_at dksX2_next_8 4 rfl rfl)
theorem dX2_next_187 : decode cX2_next 187 = .ok (.putfield 47, 3) := dk_181 0 47 (dk_at dksX2_next_8 5 rfl rfl)
theorem dX2_next_190 : decode cX2_next 190 = .ok (.aload_n 0, 1) := dk_42 (dk_at dksX2_next_8 8 rfl rfl)
theorem dX2_next_191 : decode cX2_next 191 = .ok (.invokevirtual 26, 3) := dk_182 0 26 (dk_at dksX2_next_8 9 rfl rfl)
theorem dX2_next_194 : decode cX2_next 194 = .ok (.i2l, 1) := dk_133 (dk_at dksX2_next_8 12 rfl rfl)
theorem dX2_next_195 : decode cX2_next 195 = .ok (.ldc2_w 53, 3) := dk_20 0 53 (dk_at dksX2_next_8 13 rfl rfl)
theorem dX2_next_198 : decode cX2_next 198 = .ok (.ldc2_w 55, 3) := dk_20 0 55 (dk_at dksX2_next_8 16 rfl rfl)
theorem dX2_next_201 : decode cX2_next 201 = .ok (.invokestatic 40, 3) := dk_184 0 40 (dk_at dksX2_next_8 19 rfl rfl)
theorem dX2_next_204 : decode cX2_next 204 = .ok (.ifCond .eq 55, 3) := dk_153 0 55 (dk_at dksX2_next_9 0 rfl rfl)
theorem dX2_next_207 : decode cX2_next 207 = .ok (.aload_n 0, 1) := dk_42 (dk_at dksX2_next_9 3 rfl rfl)
theorem dX2_next_208 : decode cX2_next 208 = .ok (.aload_n 0, 1) := dk_42 (dk_at dksX2_next_9 4 rfl rfl)
theorem dX2_next_209 : decode cX2_next 209 = .ok (.getfield 47, 3) := dk_180 0 47 (dk_at dksX2_next_9 5 rfl rfl)
theorem dX2_next_212 : decode cX2_next 212 = .ok (.ldc 57, 2) := dk_18 57 (dk_at dksX2_next_9 8 rfl rfl)
theorem dX2_next_214 : decode cX2_next 214 = .ok (.if_icmp .le 10, 3) := dk_164 0 10 (dk_at dksX2_next_9 10 rfl rfl)
theorem dX2_next_217 : decode cX2_next 217 = .ok (.aload_n 0, 1) := dk_42 (dk_at dksX2_next_9 13 rfl rfl)
theorem dX2_next_218 : decode cX2_next 218 = .ok (.getfield 47, 3) := dk_180 0 47 (dk_at dksX2_next_9 14 rfl rfl)
theorem dX2_next_221 : decode cX2_next 221 = .ok (.goto 18, 3) := dk_167 0 18 (dk_at dksX2_next_9 17 rfl rfl)
theorem dX2_next_224 : decode cX2_next 224 = .ok (.bipush 10, 2) := dk_16 10 (dk_at dksX2_next_9 20 rfl rfl)
theorem dX2_next_226 : decode cX2_next 226 = .ok (.aload_n 0, 1) := dk_42 (dk_at dksX2_next_9 22 rfl rfl)
theorem dX2_next_227 : decode cX2_next 227 = .ok (.getfield 47, 3) := dk_180 0 47 (dk_at dksX2_next_10 0 rfl rfl)
theorem dX2_next_230 : decode cX2_next 230 = .ok (.imul, 1) := dk_104 (dk_at dksX2_next_10 3 rfl rfl)
theorem dX2_next_231 : decode cX2_next 231 = .ok (.aload_n 0, 1) := dk_42 (dk_at dksX2_next_10 4 rfl rfl)
theorem dX2_next_232 : decode cX2_next 232 = .ok (.invokevirtual 26, 3) := dk_182 0 26 (dk_at dksX2_next_10 5 rfl rfl)
theorem dX2_next_235 : decode cX2_next 235 = .ok (.iadd, 1) := dk_96 (dk_at dksX2_next_10 8 rfl rfl)
theorem dX2_next_236 : decode cX2_next 236 = .ok (.bipush 48, 2) := dk_16 48 (dk_at dksX2_next_10 9 rfl rfl)
theorem dX2_next_238 : decode cX2_next 238 = .ok (.isub, 1) := dk_100 (dk_at dksX2_next_10 11 rfl rfl)
theorem dX2_next_239 : decode cX2_next 239 = .ok (.putfield 47, 3) := dk_181 0 47 (dk_at dksX2_next_10 12 rfl rfl)
theorem dX2_next_242 : decode cX2_next 242 = .ok (.aload_n 0, 1) := dk_42 (dk_at dksX2_next_10 15 rfl rfl)
theorem dX2_next_243 : decode cX2_next 243 = .ok (.dup, 1) := dk_89 (dk_at dksX2_next_10 16 rfl rfl)
theorem dX2_next_244 : decode cX2_next 244 = .ok (.getfield 15, 3) := dk_180 0 15 (dk_at dksX2_next_10 17 rfl rfl)
theorem dX2_next_247 : decode cX2_next 247 = .ok (.iconst 1, 1) := dk_4 (dk_at dksX2_next_10 20 rfl rfl)
theorem dX2_next_248 : decode cX2_next 248 = .ok (.iadd, 1) := dk_96 (dk_at dksX2_next_10 21 rfl rfl)
theorem dX2_next_249 : decode cX2_next 249 = .ok (.putfield 15, 3) := dk_181 0 15 (dk_at dksX2_next_11 0 rfl rfl)
theorem dX2_next_252 : decode cX2_next 252 = .ok (.goto (-62), 3) := dk_167 255 194 (dk_at dksX2_next_11 3 rfl rfl)
theorem dX2_next_255 : decode cX2_next 255 = .ok (.aload_n 0, 1) := dk_42 (dk_at dksX2_next_11 6 rfl rfl)
theorem dX2_next_256 : decode cX2_next 256 = .ok (.invokevirtual 58, 3) := dk_182 0 58 (dk_at dksX2_next_11 7 rfl rfl)
theorem dX2_next_259 : decode cX2_next 259 = .ok (.return_, 1) := dk_177 (dk_at dksX2_next_11 10 rfl rfl)
theorem gX2_next_0  {T : zT} {I : zI} {L : zL} {R : zR} {P : zP} (hx : zXok T R) (h : zMet mX2_here 1 0 [.ref 1008] T I L R (zqI_ T I L R  (fun (r1 : Int32)  => ((r1 = (10 : Int32) → zAW mX2_next 6 0 0 [(0, .ref 1008)] [] T (z2 I 1008 0 ((I 1008 0) + (1 : Int32))) L R P) ∧ (¬ r1 = (10 : Int32) → zMet mX2_here 1 0 [.ref 1008] T I L R (zqI_ T I L R  (fun (r2 : Int32)  => ((r2 = (32 : Int32) → zAW mX2_next 6 0 0 [(0, .ref 1008)] [] T (z2 I 1008 0 ((I 1008 0) + (1 : Int32))) L R P) ∧ (¬ r2 = (32 : Int32) → (((I 1008 0) = (I 1008 1) → P 0 (.int 0) T (z2 (z2 I 1008 2 (I 1008 0)) 1008 3 (4 : Int32)) L R) ∧ (¬ (I 1008 0) = (I 1008 1) → zMet mX2_here 1 0 [.ref 1008] T (z2 I 1008 2 (I 1008 0)) L R (zqI_ T (z2 I 1008 2 (I 1008 0)) L R  (fun (r3 : Int32)  => zMet mX1_in 1 0 [.long (r3.toInt64), .long (97 : Int64), .long (122 : Int64)] T (z2 I 1008 2 (I 1008 0)) L R (zqI_ T (z2 I 1008 2 (I 1008 0)) L R  (fun (r4 : Int32)  => ((r4 = 0 → zMet mX2_here 1 0 [.ref 1008] T (z2 I 1008 2 (I 1008 0)) L R (zqI_ T (z2 I 1008 2 (I 1008 0)) L R  (fun (r5 : Int32)  => zMet mX1_in 1 0 [.long (r5.toInt64), .long (48 : Int64), .long (57 : Int64)] T (z2 I 1008 2 (I 1008 0)) L R (zqI_ T (z2 I 1008 2 (I 1008 0)) L R  (fun (r6 : Int32)  => ((r6 = 0 → zMet mX2_sign 5 0 [.ref 1008] T (z2 I 1008 2 (I 1008 0)) L R (zqV_I T L R  (fun (I7 : zI)  => P 0 (.int 0) T I7 L R))) ∧ (¬ r6 = 0 → zAW mX2_next 6 0 190 [(0, .ref 1008)] [] T (z2 (z2 (z2 I 1008 2 (I 1008 0)) 1008 3 (2 : Int32)) 1008 4 (0 : Int32)) L R P))))))) ∧ (¬ r4 = 0 → zAW mX2_next 6 0 75 [(0, .ref 1008)] [] T (z2 I 1008 2 (I 1008 0)) L R P))))))))))))))))) : zAW mX2_next 6 0 0 [(0, .ref 1008)] [] T I L R P := by
  refine za_aload_n (pc' := 1) 0 dX2_next_0 rfl rfl rfl ?_
  refine za_callV (κ := 1008) (M2 := mX2_here) (d2 := 1) (b2 := 0) (n := 0) (As := []) (st := []) (pc' := 4) zc1 (by decide) (congrArg Prod.fst (zX_t1008 hx)) dX2_next_1 rfl (lw_V q601 q603 qs2 q132 q604) ⟨rfl, hd_X2_here⟩ rfl (by decide) (by decide) (Nat.zero_le _) (Or.inl rfl) (Nat.le_of_ble_eq_true rfl) h (zqI__k rfl (fun r1 h => ?_)) (fun _ _ _ _ _ _ h9 h8 => absurd h8.1 h9) rfl
  refine za_bipush (pc' := 6) dX2_next_4 zb8_10 rfl ?_
  refine za_icmp_eq (pc' := 9) (tgt := 18) dX2_next_6 (by decide) rfl (fun c9 => ?_) (fun c9 => ?_)
  · replace h := h.1 c9
    refine za_aload_n (pc' := 19) 0 dX2_next_18 rfl rfl rfl ?_
    refine za_dup (pc' := 20) dX2_next_19 rfl rfl ?_
    refine za_get (fi := 0) (v := .int (I 1008 0)) (pc' := 23) dX2_next_20 zc1 (by decide) in_X2 (by decide) q185 (Or.inl rfl) (congrArg Prod.fst (zX_t1008 hx)) rfl rfl ?_
    refine za_iconst (pc' := 24) dX2_next_23 zi_1 rfl ?_
    refine za_iadd (pc' := 25) dX2_next_24 rfl ?_
    refine za_putI (fi := 0) (pc' := 28) dX2_next_25 zc1 (by decide) in_X2 zok1 znm1 (by decide) q185 (Or.inl rfl) rfl rfl (fun _ _ _ => rfl) rfl rfl (congrArg Prod.fst (zX_t1008 hx)) rfl ?_
    refine za_goto (tgt := 0) dX2_next_28 (by decide) ?_
    exact zAW_sub [0] rfl h
  · replace h := h.2 c9
    refine za_aload_n (pc' := 10) 0 dX2_next_9 rfl rfl rfl ?_
    refine za_callV (κ := 1008) (M2 := mX2_here) (d2 := 1) (b2 := 0) (n := 0) (As := []) (st := []) (pc' := 13) zc1 (by decide) (congrArg Prod.fst (zX_t1008 hx)) dX2_next_10 rfl (lw_V q601 q603 qs2 q132 q604) ⟨rfl, hd_X2_here⟩ rfl (by decide) (by decide) (Nat.zero_le _) (Or.inl rfl) (Nat.le_of_ble_eq_true rfl) h (zqI__k rfl (fun r2 h => ?_)) (fun _ _ _ _ _ _ h9 h8 => absurd h8.1 h9) rfl
    refine za_bipush (pc' := 15) dX2_next_13 zb8_32 rfl ?_
    refine za_icmp_ne (pc' := 18) (tgt := 31) dX2_next_15 (by decide) rfl (fun c9 => ?_) (fun c9 => ?_)
    · replace h := h.2 c9
      refine za_aload_n (pc' := 32) 0 dX2_next_31 rfl rfl rfl ?_
      refine za_aload_n (pc' := 33) 0 dX2_next_32 rfl rfl rfl ?_
      refine za_get (fi := 0) (v := .int (I 1008 0)) (pc' := 36) dX2_next_33 zc1 (by decide) in_X2 (by decide) q185 (Or.inl rfl) (congrArg Prod.fst (zX_t1008 hx)) rfl rfl ?_
      refine za_putI (fi := 2) (pc' := 39) dX2_next_36 zc1 (by decide) in_X2 zok1 znm1 (by decide) q187 (Or.inl rfl) rfl rfl (fun _ _ _ => rfl) rfl rfl (congrArg Prod.fst (zX_t1008 hx)) rfl ?_
      refine za_aload_n (pc' := 40) 0 dX2_next_39 rfl rfl rfl ?_
      refine za_get (fi := 0) (v := .int (I 1008 0)) (pc' := 43) dX2_next_40 zc1 (by decide) in_X2 (by decide) q185 (Or.inl rfl) (congrArg Prod.fst (zX_t1008 hx)) (congrArg Value.int (z2_nk (by decide))) rfl ?_
      refine za_aload_n (pc' := 44) 0 dX2_next_43 rfl rfl rfl ?_
      refine za_get (fi := 1) (v := .int (I 1008 1)) (pc' := 47) dX2_next_44 zc1 (by decide) in_X2 (by decide) q186 (Or.inl rfl) (congrArg Prod.fst (zX_t1008 hx)) (congrArg Value.int (z2_nk (by decide))) rfl ?_
      refine za_icmp_ne (pc' := 50) (tgt := 58) dX2_next_47 (by decide) rfl (fun c9 => ?_) (fun c9 => ?_)
      · replace h := h.2 c9
        refine za_aload_n (pc' := 59) 0 dX2_next_58 rfl rfl rfl ?_
        refine za_callV (κ := 1008) (M2 := mX2_here) (d2 := 1) (b2 := 0) (n := 0) (As := []) (st := []) (pc' := 62) zc1 (by decide) (congrArg Prod.fst (zX_t1008 hx)) dX2_next_59 rfl (lw_V q601 q603 qs2 q132 q604) ⟨rfl, hd_X2_here⟩ rfl (by decide) (by decide) (Nat.zero_le _) (Or.inl rfl) (Nat.le_of_ble_eq_true rfl) h (zqI__k rfl (fun r3 h => ?_)) (fun _ _ _ _ _ _ h9 h8 => absurd h8.1 h9) rfl
        refine za_i2l (pc' := 63) dX2_next_62 rfl rfl ?_
        refine za_ldc2 (pc' := 66) (v := (97 : Int64)) (own := "") dX2_next_63 q605 rfl ?_
        refine za_ldc2 (pc' := 69) (v := (122 : Int64)) (own := "") dX2_next_66 q606 rfl ?_
        refine za_callSN (M2 := mX1_in) (d2 := 1) (b2 := 0) (n := 3) (As := [.long (r3.toInt64), .long (97 : Int64), .long (122 : Int64)]) (st := []) (pc' := 72) dX2_next_69 rfl (lw_meth q590) q607 q589 q131 hd_X1_in rfl (by decide) (by decide) (Nat.zero_le _) (Or.inl rfl) (Nat.le_of_ble_eq_true rfl) h (zqI__k rfl (fun r4 h => ?_)) (fun _ _ _ _ _ _ h9 h8 => absurd h8.1 h9) rfl
        refine za_if_eq (pc' := 75) (tgt := 163) dX2_next_72 (by decide) rfl (fun c9 => ?_) (fun c9 => ?_)
        · replace h := h.1 c9
          refine za_aload_n (pc' := 164) 0 dX2_next_163 rfl rfl rfl ?_
          refine za_callV (κ := 1008) (M2 := mX2_here) (d2 := 1) (b2 := 0) (n := 0) (As := []) (st := []) (pc' := 167) zc1 (by decide) (congrArg Prod.fst (zX_t1008 hx)) dX2_next_164 rfl (lw_V q601 q603 qs2 q132 q604) ⟨rfl, hd_X2_here⟩ rfl (by decide) (by decide) (Nat.zero_le _) (Or.inl rfl) (Nat.le_of_ble_eq_true rfl) h (zqI__k rfl (fun r5 h => ?_)) (fun _ _ _ _ _ _ h9 h8 => absurd h8.1 h9) rfl
          refine za_i2l (pc' := 168) dX2_next_167 rfl rfl ?_
          refine za_ldc2 (pc' := 171) (v := (48 : Int64)) (own := "") dX2_next_168 q664 rfl ?_
          refine za_ldc2 (pc' := 174) (v := (57 : Int64)) (own := "") dX2_next_171 q665 rfl ?_
          refine za_callSN (M2 := mX1_in) (d2 := 1) (b2 := 0) (n := 3) (As := [.long (r5.toInt64), .long (48 : Int64), .long (57 : Int64)]) (st := []) (pc' := 177) dX2_next_174 rfl (lw_meth q590) q607 q589 q131 hd_X1_in rfl (by decide) (by decide) (Nat.zero_le _) (Or.inl rfl) (Nat.le_of_ble_eq_true rfl) h (zqI__k rfl (fun r6 h => ?_)) (fun _ _ _ _ _ _ h9 h8 => absurd h8.1 h9) rfl
          refine za_if_eq (pc' := 180) (tgt := 255) dX2_next_177 (by decide) rfl (fun c9 => ?_) (fun c9 => ?_)
          · replace h := h.1 c9
            refine za_aload_n (pc' := 256) 0 dX2_next_255 rfl rfl rfl ?_
            refine za_callV (κ := 1008) (M2 := mX2_sign) (d2 := 5) (b2 := 0) (n := 0) (As := []) (st := []) (pc' := 259) zc1 (by decide) (congrArg Prod.fst (zX_t1008 hx)) dX2_next_256 rfl (lw_V q667 q669 qs5 q132 q670) ⟨rfl, hd_X2_sign⟩ rfl (by decide) (by decide) (Nat.zero_le _) (Or.inl rfl) (Nat.le_of_ble_eq_true rfl) h (zqV_I_k rfl (fun I7 h => ?_)) (fun _ _ _ _ _ _ h9 h8 => absurd h8.1 h9) rfl
            exact za_return rfl dX2_next_259 h
          · replace h := h.2 c9
            refine za_aload_n (pc' := 181) 0 dX2_next_180 rfl rfl rfl ?_
            refine za_iconst (pc' := 182) dX2_next_181 zi_2 rfl ?_
            refine za_putI (fi := 3) (pc' := 185) dX2_next_182 zc1 (by decide) in_X2 zok1 znm1 (by decide) q188 (Or.inl rfl) rfl rfl (fun _ _ _ => rfl) rfl rfl (congrArg Prod.fst (zX_t1008 hx)) rfl ?_
            refine za_aload_n (pc' := 186) 0 dX2_next_185 rfl rfl rfl ?_
            refine za_iconst (pc' := 187) dX2_next_186 zi_0 rfl ?_
            refine za_putI (fi := 4) (pc' := 190) dX2_next_187 zc1 (by decide) in_X2 zok1 znm1 (by decide) q189 (Or.inl rfl) rfl rfl (fun _ _ _ => rfl) rfl rfl (congrArg Prod.fst (zX_t1008 hx)) rfl ?_
            exact zAW_sub [0] rfl h
        · replace h := h.2 c9
          exact zAW_sub [0] rfl h
      · replace h := h.1 c9
        refine za_aload_n (pc' := 51) 0 dX2_next_50 rfl rfl rfl ?_
        refine za_iconst (pc' := 52) dX2_next_51 zi_4 rfl ?_
        refine za_putI (fi := 3) (pc' := 55) dX2_next_52 zc1 (by decide) in_X2 zok1 znm1 (by decide) q188 (Or.inl rfl) rfl rfl (fun _ _ _ => rfl) rfl rfl (congrArg Prod.fst (zX_t1008 hx)) rfl ?_
        refine za_goto (tgt := 259) dX2_next_55 (by decide) ?_
        exact za_return rfl dX2_next_259 h
    · replace h := h.1 c9
      refine za_aload_n (pc' := 19) 0 dX2_next_18 rfl rfl rfl ?_
      refine za_dup (pc' := 20) dX2_next_19 rfl rfl ?_
      refine za_get (fi := 0) (v := .int (I 1008 0)) (pc' := 23) dX2_next_20 zc1 (by decide) in_X2 (by decide) q185 (Or.inl rfl) (congrArg Prod.fst (zX_t1008 hx)) rfl rfl ?_
      refine za_iconst (pc' := 24) dX2_next_23 zi_1 rfl ?_
      refine za_iadd (pc' := 25) dX2_next_24 rfl ?_
      refine za_putI (fi := 0) (pc' := 28) dX2_next_25 zc1 (by decide) in_X2 zok1 znm1 (by decide) q185 (Or.inl rfl) rfl rfl (fun _ _ _ => rfl) rfl rfl (congrArg Prod.fst (zX_t1008 hx)) rfl ?_
      refine za_goto (tgt := 0) dX2_next_28 (by decide) ?_
      exact zAW_sub [0] rfl h
theorem gX2_next_75  {T : zT} {I : zI} {L : zL} {R : zR} {P : zP} (hx : zXok T R) (h : zMet mX2_here 1 0 [.ref 1008] T I L R (zqI_ T I L R  (fun (r8 : Int32)  => zMet mX1_in 1 0 [.long (r8.toInt64), .long (97 : Int64), .long (122 : Int64)] T I L R (zqI_ T I L R  (fun (r9 : Int32)  => ((r9 = 0 → zMet mX2_word 5 0 [.ref 1008] T I L R (zqI_ T I L R  (fun (r10 : Int32)  => ((r10 = (-1 : Int32) → ((((I 1008 0) - (I 1008 2)) ≤ (6 : Int32) → zAW mX2_next 6 0 145 [(0, .ref 1008)] [.int (1 : Int32), .ref 1008] T (z2 I 1008 4 r10) L R P) ∧ (¬ ((I 1008 0) - (I 1008 2)) ≤ (6 : Int32) → zAW mX2_next 6 0 145 [(0, .ref 1008)] [.int (5 : Int32), .ref 1008] T (z2 I 1008 4 r10) L R P))) ∧ (¬ r10 = (-1 : Int32) → zAW mX2_next 6 0 145 [(0, .ref 1008)] [.int (0 : Int32), .ref 1008] T (z2 I 1008 4 r10) L R P))))) ∧ (¬ r9 = 0 → zAW mX2_next 6 0 75 [(0, .ref 1008)] [] T (z2 I 1008 0 ((I 1008 0) + (1 : Int32))) L R P))))))) : zAW mX2_next 6 0 75 [(0, .ref 1008)] [] T I L R P := by
  refine za_aload_n (pc' := 76) 0 dX2_next_75 rfl rfl rfl ?_
  refine za_callV (κ := 1008) (M2 := mX2_here) (d2 := 1) (b2 := 0) (n := 0) (As := []) (st := []) (pc' := 79) zc1 (by decide) (congrArg Prod.fst (zX_t1008 hx)) dX2_next_76 rfl (lw_V q601 q603 qs2 q132 q604) ⟨rfl, hd_X2_here⟩ rfl (by decide) (by decide) (Nat.zero_le _) (Or.inl rfl) (Nat.le_of_ble_eq_true rfl) h (zqI__k rfl (fun r8 h => ?_)) (fun _ _ _ _ _ _ h9 h8 => absurd h8.1 h9) rfl
  refine za_i2l (pc' := 80) dX2_next_79 rfl rfl ?_
  refine za_ldc2 (pc' := 83) (v := (97 : Int64)) (own := "") dX2_next_80 q605 rfl ?_
  refine za_ldc2 (pc' := 86) (v := (122 : Int64)) (own := "") dX2_next_83 q606 rfl ?_
  refine za_callSN (M2 := mX1_in) (d2 := 1) (b2 := 0) (n := 3) (As := [.long (r8.toInt64), .long (97 : Int64), .long (122 : Int64)]) (st := []) (pc' := 89) dX2_next_86 rfl (lw_meth q590) q607 q589 q131 hd_X1_in rfl (by decide) (by decide) (Nat.zero_le _) (Or.inl rfl) (Nat.le_of_ble_eq_true rfl) h (zqI__k rfl (fun r9 h => ?_)) (fun _ _ _ _ _ _ h9 h8 => absurd h8.1 h9) rfl
  refine za_if_eq (pc' := 92) (tgt := 105) dX2_next_89 (by decide) rfl (fun c9 => ?_) (fun c9 => ?_)
  · replace h := h.1 c9
    refine za_aload_n (pc' := 106) 0 dX2_next_105 rfl rfl rfl ?_
    refine za_aload_n (pc' := 107) 0 dX2_next_106 rfl rfl rfl ?_
    refine za_callV (κ := 1008) (M2 := mX2_word) (d2 := 5) (b2 := 0) (n := 0) (As := []) (st := [.ref 1008]) (pc' := 110) zc1 (by decide) (congrArg Prod.fst (zX_t1008 hx)) dX2_next_107 rfl (lw_V q608 q610 qs3 q132 q611) ⟨rfl, hd_X2_word⟩ rfl (by decide) (by decide) (Nat.zero_le _) (Or.inl rfl) (Nat.le_of_ble_eq_true rfl) h (zqI__k rfl (fun r10 h => ?_)) (fun _ _ _ _ _ _ h9 h8 => absurd h8.1 h9) rfl
    refine za_putI (fi := 4) (pc' := 113) dX2_next_110 zc1 (by decide) in_X2 zok1 znm1 (by decide) q189 (Or.inl rfl) rfl rfl (fun _ _ _ => rfl) rfl rfl (congrArg Prod.fst (zX_t1008 hx)) rfl ?_
    refine za_aload_n (pc' := 114) 0 dX2_next_113 rfl rfl rfl ?_
    refine za_aload_n (pc' := 115) 0 dX2_next_114 rfl rfl rfl ?_
    refine za_get (fi := 4) (v := .int r10) (pc' := 118) dX2_next_115 zc1 (by decide) in_X2 (by decide) q189 (Or.inl rfl) (congrArg Prod.fst (zX_t1008 hx)) (congrArg Value.int (z2_s)) rfl ?_
    refine za_iconst (pc' := 119) dX2_next_118 zi_m1 rfl ?_
    refine za_icmp_eq (pc' := 122) (tgt := 126) dX2_next_119 (by decide) rfl (fun c9 => ?_) (fun c9 => ?_)
    · replace h := h.1 c9
      refine za_aload_n (pc' := 127) 0 dX2_next_126 rfl rfl rfl ?_
      refine za_get (fi := 0) (v := .int (I 1008 0)) (pc' := 130) dX2_next_127 zc1 (by decide) in_X2 (by decide) q185 (Or.inl rfl) (congrArg Prod.fst (zX_t1008 hx)) (congrArg Value.int (z2_nk (by decide))) rfl ?_
      refine za_aload_n (pc' := 131) 0 dX2_next_130 rfl rfl rfl ?_
      refine za_get (fi := 2) (v := .int (I 1008 2)) (pc' := 134) dX2_next_131 zc1 (by decide) in_X2 (by decide) q187 (Or.inl rfl) (congrArg Prod.fst (zX_t1008 hx)) (congrArg Value.int (z2_nk (by decide))) rfl ?_
      refine za_isub (pc' := 135) dX2_next_134 rfl ?_
      refine za_bipush (pc' := 137) dX2_next_135 zb8_6 rfl ?_
      refine za_icmp_le (pc' := 140) (tgt := 144) dX2_next_137 (by decide) rfl (fun c9 => ?_) (fun c9 => ?_)
      · replace h := h.1 c9
        refine za_iconst (pc' := 145) dX2_next_144 zi_1 rfl ?_
        exact zAW_sub [0] rfl h
      · replace h := h.2 c9
        refine za_iconst (pc' := 141) dX2_next_140 zi_5 rfl ?_
        refine za_goto (tgt := 145) dX2_next_141 (by decide) ?_
        exact zAW_sub [0] rfl h
    · replace h := h.2 c9
      refine za_iconst (pc' := 123) dX2_next_122 zi_0 rfl ?_
      refine za_goto (tgt := 145) dX2_next_123 (by decide) ?_
      exact zAW_sub [0] rfl h
  · replace h := h.2 c9
    refine za_aload_n (pc' := 93) 0 dX2_next_92 rfl rfl rfl ?_
    refine za_dup (pc' := 94) dX2_next_93 rfl rfl ?_
    refine za_get (fi := 0) (v := .int (I 1008 0)) (pc' := 97) dX2_next_94 zc1 (by decide) in_X2 (by decide) q185 (Or.inl rfl) (congrArg Prod.fst (zX_t1008 hx)) rfl rfl ?_
    refine za_iconst (pc' := 98) dX2_next_97 zi_1 rfl ?_
    refine za_iadd (pc' := 99) dX2_next_98 rfl ?_
    refine za_putI (fi := 0) (pc' := 102) dX2_next_99 zc1 (by decide) in_X2 zok1 znm1 (by decide) q185 (Or.inl rfl) rfl rfl (fun _ _ _ => rfl) rfl rfl (congrArg Prod.fst (zX_t1008 hx)) rfl ?_
    refine za_goto (tgt := 75) dX2_next_102 (by decide) ?_
    exact zAW_sub [0] rfl h
theorem gX2_next_145 {s0 : Int32} {s1 : Nat} {T : zT} {I : zI} {L : zL} {R : zR} {P : zP} (hx : zXok T R) (h : (T s1).1 = 2 ∧ ((((z2 I s1 3 s0) 1008 3) = (1 : Int32) → zMet mX2_name 1 0 [.ref 1008] T (z2 I s1 3 s0) L R (zqV_I T L R  (fun (I12 : zI)  => P 0 (.int 0) T I12 L R))) ∧ (¬ ((z2 I s1 3 s0) 1008 3) = (1 : Int32) → P 0 (.int 0) T (z2 I s1 3 s0) L R))) : zAW mX2_next 6 0 145 [(0, .ref 1008)] [.int s0, .ref s1] T I L R P := by
  obtain ⟨ht11, h⟩ := h
  refine za_putI (fi := 3) (pc' := 148) dX2_next_145 zc1 (by decide) in_X2 zok1 znm1 (by decide) q188 (Or.inl rfl) rfl rfl (fun _ _ _ => rfl) rfl rfl ht11 rfl ?_
  refine za_aload_n (pc' := 149) 0 dX2_next_148 rfl rfl rfl ?_
  refine za_get (fi := 3) (v := .int ((z2 I s1 3 s0) 1008 3)) (pc' := 152) dX2_next_149 zc1 (by decide) in_X2 (by decide) q188 (Or.inl rfl) (congrArg Prod.fst (zX_t1008 hx)) rfl rfl ?_
  refine za_iconst (pc' := 153) dX2_next_152 zi_1 rfl ?_
  refine za_icmp_ne (pc' := 156) (tgt := 259) dX2_next_153 (by decide) rfl (fun c9 => ?_) (fun c9 => ?_)
  · replace h := h.2 c9
    exact za_return rfl dX2_next_259 h
  · replace h := h.1 c9
    refine za_aload_n (pc' := 157) 0 dX2_next_156 rfl rfl rfl ?_
    refine za_callV (κ := 1008) (M2 := mX2_name) (d2 := 1) (b2 := 0) (n := 0) (As := []) (st := []) (pc' := 160) zc1 (by decide) (congrArg Prod.fst (zX_t1008 hx)) dX2_next_157 rfl (lw_V q660 q662 qs4 q132 q663) ⟨rfl, hd_X2_name⟩ rfl (by decide) (by decide) (Nat.zero_le _) (Or.inl rfl) (Nat.le_of_ble_eq_true rfl) h (zqV_I_k rfl (fun I12 h => ?_)) (fun _ _ _ _ _ _ h9 h8 => absurd h8.1 h9) rfl
    refine za_goto (tgt := 259) dX2_next_160 (by decide) ?_
    exact za_return rfl dX2_next_259 h
theorem gX2_next_190  {T : zT} {I : zI} {L : zL} {R : zR} {P : zP} (hx : zXok T R) (h : zMet mX2_here 1 0 [.ref 1008] T I L R (zqI_ T I L R  (fun (r13 : Int32)  => zMet mX1_in 1 0 [.long (r13.toInt64), .long (48 : Int64), .long (57 : Int64)] T I L R (zqI_ T I L R  (fun (r14 : Int32)  => ((r14 = 0 → P 0 (.int 0) T I L R) ∧ (¬ r14 = 0 → (((I 1008 4) ≤ (99999 : Int32) → zMet mX2_here 1 0 [.ref 1008] T I L R (zqI_ T I L R  (fun (r15 : Int32)  => zAW mX2_next 6 0 190 [(0, .ref 1008)] [] T (z2 (z2 I 1008 4 ((((10 : Int32) * (I 1008 4)) + r15) - (48 : Int32))) 1008 0 ((I 1008 0) + (1 : Int32))) L R P))) ∧ (¬ (I 1008 4) ≤ (99999 : Int32) → zAW mX2_next 6 0 190 [(0, .ref 1008)] [] T (z2 (z2 I 1008 4 (I 1008 4)) 1008 0 ((I 1008 0) + (1 : Int32))) L R P))))))))) : zAW mX2_next 6 0 190 [(0, .ref 1008)] [] T I L R P := by
  refine za_aload_n (pc' := 191) 0 dX2_next_190 rfl rfl rfl ?_
  refine za_callV (κ := 1008) (M2 := mX2_here) (d2 := 1) (b2 := 0) (n := 0) (As := []) (st := []) (pc' := 194) zc1 (by decide) (congrArg Prod.fst (zX_t1008 hx)) dX2_next_191 rfl (lw_V q601 q603 qs2 q132 q604) ⟨rfl, hd_X2_here⟩ rfl (by decide) (by decide) (Nat.zero_le _) (Or.inl rfl) (Nat.le_of_ble_eq_true rfl) h (zqI__k rfl (fun r13 h => ?_)) (fun _ _ _ _ _ _ h9 h8 => absurd h8.1 h9) rfl
  refine za_i2l (pc' := 195) dX2_next_194 rfl rfl ?_
  refine za_ldc2 (pc' := 198) (v := (48 : Int64)) (own := "") dX2_next_195 q664 rfl ?_
  refine za_ldc2 (pc' := 201) (v := (57 : Int64)) (own := "") dX2_next_198 q665 rfl ?_
  refine za_callSN (M2 := mX1_in) (d2 := 1) (b2 := 0) (n := 3) (As := [.long (r13.toInt64), .long (48 : Int64), .long (57 : Int64)]) (st := []) (pc' := 204) dX2_next_201 rfl (lw_meth q590) q607 q589 q131 hd_X1_in rfl (by decide) (by decide) (Nat.zero_le _) (Or.inl rfl) (Nat.le_of_ble_eq_true rfl) h (zqI__k rfl (fun r14 h => ?_)) (fun _ _ _ _ _ _ h9 h8 => absurd h8.1 h9) rfl
  refine za_if_eq (pc' := 207) (tgt := 259) dX2_next_204 (by decide) rfl (fun c9 => ?_) (fun c9 => ?_)
  · replace h := h.1 c9
    exact za_return rfl dX2_next_259 h
  · replace h := h.2 c9
    refine za_aload_n (pc' := 208) 0 dX2_next_207 rfl rfl rfl ?_
    refine za_aload_n (pc' := 209) 0 dX2_next_208 rfl rfl rfl ?_
    refine za_get (fi := 4) (v := .int (I 1008 4)) (pc' := 212) dX2_next_209 zc1 (by decide) in_X2 (by decide) q189 (Or.inl rfl) (congrArg Prod.fst (zX_t1008 hx)) rfl rfl ?_
    refine za_ldc (pc' := 214) (v := (99999 : Int32)) (own := "") dX2_next_212 q666 rfl ?_
    refine za_icmp_le (pc' := 217) (tgt := 224) dX2_next_214 (by decide) rfl (fun c9 => ?_) (fun c9 => ?_)
    · replace h := h.1 c9
      refine za_bipush (pc' := 226) dX2_next_224 zb8_10 rfl ?_
      refine za_aload_n (pc' := 227) 0 dX2_next_226 rfl rfl rfl ?_
      refine za_get (fi := 4) (v := .int (I 1008 4)) (pc' := 230) dX2_next_227 zc1 (by decide) in_X2 (by decide) q189 (Or.inl rfl) (congrArg Prod.fst (zX_t1008 hx)) rfl rfl ?_
      refine za_imul (pc' := 231) dX2_next_230 rfl ?_
      refine za_aload_n (pc' := 232) 0 dX2_next_231 rfl rfl rfl ?_
      refine za_callV (κ := 1008) (M2 := mX2_here) (d2 := 1) (b2 := 0) (n := 0) (As := []) (st := [.int ((10 : Int32) * (I 1008 4)), .ref 1008]) (pc' := 235) zc1 (by decide) (congrArg Prod.fst (zX_t1008 hx)) dX2_next_232 rfl (lw_V q601 q603 qs2 q132 q604) ⟨rfl, hd_X2_here⟩ rfl (by decide) (by decide) (Nat.zero_le _) (Or.inl rfl) (Nat.le_of_ble_eq_true rfl) h (zqI__k rfl (fun r15 h => ?_)) (fun _ _ _ _ _ _ h9 h8 => absurd h8.1 h9) rfl
      refine za_iadd (pc' := 236) dX2_next_235 rfl ?_
      refine za_bipush (pc' := 238) dX2_next_236 zb8_48 rfl ?_
      refine za_isub (pc' := 239) dX2_next_238 rfl ?_
      refine za_putI (fi := 4) (pc' := 242) dX2_next_239 zc1 (by decide) in_X2 zok1 znm1 (by decide) q189 (Or.inl rfl) rfl rfl (fun _ _ _ => rfl) rfl rfl (congrArg Prod.fst (zX_t1008 hx)) rfl ?_
      refine za_aload_n (pc' := 243) 0 dX2_next_242 rfl rfl rfl ?_
      refine za_dup (pc' := 244) dX2_next_243 rfl rfl ?_
      refine za_get (fi := 0) (v := .int (I 1008 0)) (pc' := 247) dX2_next_244 zc1 (by decide) in_X2 (by decide) q185 (Or.inl rfl) (congrArg Prod.fst (zX_t1008 hx)) (congrArg Value.int (z2_nk (by decide))) rfl ?_
      refine za_iconst (pc' := 248) dX2_next_247 zi_1 rfl ?_
      refine za_iadd (pc' := 249) dX2_next_248 rfl ?_
      refine za_putI (fi := 0) (pc' := 252) dX2_next_249 zc1 (by decide) in_X2 zok1 znm1 (by decide) q185 (Or.inl rfl) rfl rfl (fun _ _ _ => rfl) rfl rfl (congrArg Prod.fst (zX_t1008 hx)) rfl ?_
      refine za_goto (tgt := 190) dX2_next_252 (by decide) ?_
      exact zAW_sub [0] rfl h
    · replace h := h.2 c9
      refine za_aload_n (pc' := 218) 0 dX2_next_217 rfl rfl rfl ?_
      refine za_get (fi := 4) (v := .int (I 1008 4)) (pc' := 221) dX2_next_218 zc1 (by decide) in_X2 (by decide) q189 (Or.inl rfl) (congrArg Prod.fst (zX_t1008 hx)) rfl rfl ?_
      refine za_goto (tgt := 239) dX2_next_221 (by decide) ?_
      refine za_putI (fi := 4) (pc' := 242) dX2_next_239 zc1 (by decide) in_X2 zok1 znm1 (by decide) q189 (Or.inl rfl) rfl rfl (fun _ _ _ => rfl) rfl rfl (congrArg Prod.fst (zX_t1008 hx)) rfl ?_
      refine za_aload_n (pc' := 243) 0 dX2_next_242 rfl rfl rfl ?_
      refine za_dup (pc' := 244) dX2_next_243 rfl rfl ?_
      refine za_get (fi := 0) (v := .int (I 1008 0)) (pc' := 247) dX2_next_244 zc1 (by decide) in_X2 (by decide) q185 (Or.inl rfl) (congrArg Prod.fst (zX_t1008 hx)) (congrArg Value.int (z2_nk (by decide))) rfl ?_
      refine za_iconst (pc' := 248) dX2_next_247 zi_1 rfl ?_
      refine za_iadd (pc' := 249) dX2_next_248 rfl ?_
      refine za_putI (fi := 0) (pc' := 252) dX2_next_249 zc1 (by decide) in_X2 zok1 znm1 (by decide) q185 (Or.inl rfl) rfl rfl (fun _ _ _ => rfl) rfl rfl (congrArg Prod.fst (zX_t1008 hx)) rfl ?_
      refine za_goto (tgt := 190) dX2_next_252 (by decide) ?_
      exact zAW_sub [0] rfl h
theorem sX2_next {d b : Nat}  {T : zT} {I : zI} {L : zL} {R : zR} {P : zP} (h : zAW mX2_next d b 0 [(0, .ref 1008)] [] T I L R P) : zMet mX2_next d b [.ref 1008] T I L R P := zMet_of (by decide +kernel) rfl (Nat.le_of_ble_eq_true rfl) rfl h
/-! TwoTongues$Reader.here ()I -/
def dkwX2_here_1 : List UInt8 := [17, 0, 255, 126, 167, 0, 4, 2, 172]
abbrev dktX2_here_1 : List UInt8 := dkwX2_here_1 ++ []
def dkwX2_here_0 : List UInt8 := [42, 180, 0, 15, 42, 180, 0, 19, 162, 0, 22, 42, 180, 0, 3, 180, 0, 22, 42, 180, 0, 15, 51]
abbrev dktX2_here_0 : List UInt8 := dkwX2_here_0 ++ dktX2_here_1
theorem dksX2_here_0 : cX2_here.data.toList.drop 0 = dktX2_here_0 := by decide +kernel
theorem dksX2_here_1 : cX2_here.data.toList.drop 23 = dktX2_here_1 := dk_seg dksX2_here_0 23 rfl rfl
theorem dX2_here_0 : decode cX2_here 0 = .ok (.aload_n 0, 1) := dk_42 (dk_at dksX2_here_0 0 rfl rfl)
theorem dX2_here_1 : decode cX2_here 1 = .ok (.getfield 15, 3) := dk_180 0 15 (dk_at dksX2_here_0 1 rfl rfl)
theorem dX2_here_4 : decode cX2_here 4 = .ok (.aload_n 0, 1) := dk_42 (dk_at dksX2_here_0 4 rfl rfl)
theorem dX2_here_5 : decode cX2_here 5 = .ok (.getfield 19, 3) := dk_180 0 19 (dk_at dksX2_here_0 5 rfl rfl)
theorem dX2_here_8 : decode cX2_here 8 = .ok (.if_icmp .ge 22, 3) := dk_162 0 22 (dk_at dksX2_here_0 8 rfl rfl)
theorem dX2_here_11 : decode cX2_here 11 = .ok (.aload_n 0, 1) := dk_42 (dk_at dksX2_here_0 11 rfl rfl)
theorem dX2_here_12 : decode cX2_here 12 = .ok (.getfield 3, 3) := dk_180 0 3 (dk_at dksX2_here_0 12 rfl rfl)
theorem dX2_here_15 : decode cX2_here 15 = .ok (.getfield 22, 3) := dk_180 0 22 (dk_at dksX2_here_0 15 rfl rfl)
theorem dX2_here_18 : decode cX2_here 18 = .ok (.aload_n 0, 1) := dk_42 (dk_at dksX2_here_0 18 rfl rfl)
theorem dX2_here_19 : decode cX2_here 19 = .ok (.getfield 15, 3) := dk_180 0 15 (dk_at dksX2_here_0 19 rfl rfl)
theorem dX2_here_22 : decode cX2_here 22 = .ok (.baload, 1) := dk_51 (dk_at dksX2_here_0 22 rfl rfl)
theorem dX2_here_23 : decode cX2_here 23 = .ok (.sipush 255, 3) := dk_17 0 255 (dk_at dksX2_here_1 0 rfl rfl)
theorem dX2_here_26 : decode cX2_here 26 = .ok (.iand, 1) := dk_126 (dk_at dksX2_here_1 3 rfl rfl)
theorem dX2_here_27 : decode cX2_here 27 = .ok (.goto 4, 3) := dk_167 0 4 (dk_at dksX2_here_1 4 rfl rfl)
theorem dX2_here_30 : decode cX2_here 30 = .ok (.iconst (-1), 1) := dk_2 (dk_at dksX2_here_1 7 rfl rfl)
theorem dX2_here_31 : decode cX2_here 31 = .ok (.ireturn, 1) := dk_172 (dk_at dksX2_here_1 8 rfl rfl)
theorem gX2_here_0  {T : zT} {I : zI} {L : zL} {R : zR} {P : zP} (hx : zXok T R) (h : (((I 1008 1) ≤ (I 1008 0) → P 0 (.int (-1 : Int32)) T I L R) ∧ (¬ (I 1008 1) ≤ (I 1008 0) → vp_in (I 1008 0) 800 ∧ P 0 (.int ((I 1001 ((I 1008 0).toNatClampNeg)) &&& (255 : Int32))) T I L R))) : zAW mX2_here 1 0 0 [(0, .ref 1008)] [] T I L R P := by
  refine za_aload_n (pc' := 1) 0 dX2_here_0 rfl rfl rfl ?_
  refine za_get (fi := 0) (v := .int (I 1008 0)) (pc' := 4) dX2_here_1 zc1 (by decide) in_X2 (by decide) q185 (Or.inl rfl) (congrArg Prod.fst (zX_t1008 hx)) rfl rfl ?_
  refine za_aload_n (pc' := 5) 0 dX2_here_4 rfl rfl rfl ?_
  refine za_get (fi := 1) (v := .int (I 1008 1)) (pc' := 8) dX2_here_5 zc1 (by decide) in_X2 (by decide) q186 (Or.inl rfl) (congrArg Prod.fst (zX_t1008 hx)) rfl rfl ?_
  refine za_icmp_ge (pc' := 11) (tgt := 30) dX2_here_8 (by decide) rfl (fun c9 => ?_) (fun c9 => ?_)
  · replace h := h.1 c9
    refine za_iconst (pc' := 31) dX2_here_30 zi_m1 rfl ?_
    exact za_ireturn rfl dX2_here_31 h
  · replace h := h.2 c9
    refine za_aload_n (pc' := 12) 0 dX2_here_11 rfl rfl rfl ?_
    refine za_get (fi := 8) (v := .ref 1000) (pc' := 15) dX2_here_12 zc1 (by decide) in_X2 (by decide) q193 (Or.inl rfl) (congrArg Prod.fst (zX_t1008 hx)) (congrArg Value.ref (zX_r1008_8 hx)) rfl ?_
    refine za_getN (fi := 0) (v := .ref 1001) (pc' := 18) dX2_here_15 zc0 (by decide) in_X1 (by decide) q488 (Or.inl rfl) (congrArg Prod.fst (zX_t1000 hx)) (congrArg Value.ref (zX_r1000_0 hx)) rfl ?_
    refine za_aload_n (pc' := 19) 0 dX2_here_18 rfl rfl rfl ?_
    refine za_get (fi := 0) (v := .int (I 1008 0)) (pc' := 22) dX2_here_19 zc1 (by decide) in_X2 (by decide) q185 (Or.inl rfl) (congrArg Prod.fst (zX_t1008 hx)) rfl rfl ?_
    obtain ⟨hi1, h⟩ := h
    refine za_bald (v := .int (I 1001 ((I 1008 0).toNatClampNeg))) (pc' := 23) dX2_here_22 (zX_t1001 hx) hi1 rfl rfl ?_
    refine za_sipush (pc' := 26) dX2_here_23 zb16_255 rfl ?_
    refine za_iand (pc' := 27) dX2_here_26 rfl ?_
    refine za_goto (tgt := 31) dX2_here_27 (by decide) ?_
    exact za_ireturn rfl dX2_here_31 h
theorem sX2_here {d b : Nat}  {T : zT} {I : zI} {L : zL} {R : zR} {P : zP} (h : zAW mX2_here d b 0 [(0, .ref 1008)] [] T I L R P) : zMet mX2_here d b [.ref 1008] T I L R P := zMet_of (by decide +kernel) rfl (Nat.le_of_ble_eq_true rfl) rfl h
/-! TwoTongues$Reader.word ()I -/
def dkwX2_word_4 : List UInt8 := [27, 172, 132, 1, 1, 167, 255, 160, 2, 172]
abbrev dktX2_word_4 : List UInt8 := dkwX2_word_4 ++ []
def dkwX2_word_3 : List UInt8 := [96, 51, 160, 0, 9, 132, 2, 1, 167, 255, 214, 42, 180, 0, 30, 28, 96, 42, 180, 0, 15, 160, 0, 5]
abbrev dktX2_word_3 : List UInt8 := dkwX2_word_3 ++ dktX2_word_4
def dkwX2_word_2 : List UInt8 := [162, 0, 35, 178, 0, 69, 27, 50, 28, 182, 0, 76, 42, 180, 0, 3, 180, 0, 22, 42, 180, 0, 30, 28]
abbrev dktX2_word_2 : List UInt8 := dkwX2_word_2 ++ dktX2_word_3
def dkwX2_word_1 : List UInt8 := [180, 0, 30, 100, 159, 0, 6, 167, 0, 65, 3, 61, 42, 180, 0, 30, 28, 96, 42, 180, 0, 15]
abbrev dktX2_word_1 : List UInt8 := dkwX2_word_1 ++ dktX2_word_2
def dkwX2_word_0 : List UInt8 := [3, 60, 27, 178, 0, 69, 190, 162, 0, 94, 178, 0, 69, 27, 50, 182, 0, 73, 42, 180, 0, 15, 42]
abbrev dktX2_word_0 : List UInt8 := dkwX2_word_0 ++ dktX2_word_1
theorem dksX2_word_0 : cX2_word.data.toList.drop 0 = dktX2_word_0 := by decide +kernel
theorem dksX2_word_1 : cX2_word.data.toList.drop 23 = dktX2_word_1 := dk_seg dksX2_word_0 23 rfl rfl
theorem dksX2_word_2 : cX2_word.data.toList.drop 45 = dktX2_word_2 := dk_seg dksX2_word_1 22 rfl rfl
theorem dksX2_word_3 : cX2_word.data.toList.drop 69 = dktX2_word_3 := dk_seg dksX2_word_2 24 rfl rfl
theorem dksX2_word_4 : cX2_word.data.toList.drop 93 = dktX2_word_4 := dk_seg dksX2_word_3 24 rfl rfl
theorem dX2_word_0 : decode cX2_word 0 = .ok (.iconst 0, 1) := dk_3 (dk_at dksX2_word_0 0 rfl rfl)
theorem dX2_word_1 : decode cX2_word 1 = .ok (.istore_n 1, 1) := dk_60 (dk_at dksX2_word_0 1 rfl rfl)
theorem dX2_word_2 : decode cX2_word 2 = .ok (.iload_n 1, 1) := dk_27 (dk_at dksX2_word_0 2 rfl rfl)
theorem dX2_word_3 : decode cX2_word 3 = .ok (.getstatic 69, 3) := dk_178 0 69 (dk_at dksX2_word_0 3 rfl rfl)
theorem dX2_word_6 : decode cX2_word 6 = .ok (.arraylength, 1) := dk_190 (dk_at dksX2_word_0 6 rfl rfl)
theorem dX2_word_7 : decode cX2_word 7 = .ok (.if_icmp .ge 94, 3) := dk_162 0 94 (dk_at dksX2_word_0 7 rfl rfl)
theorem dX2_word_10 : decode cX2_word 10 = .ok (.getstatic 69, 3) := dk_178 0 69 (dk_at dksX2_word_0 10 rfl rfl)
theorem dX2_word_13 : decode cX2_word 13 = .ok (.iload_n 1, 1) := dk_27 (dk_at dksX2_word_0 13 rfl rfl)
theorem dX2_word_14 : decode cX2_word 14 = .ok (.aaload, 1) := dk_50 (dk_at dksX2_word_0 14 rfl rfl)
theorem dX2_word_15 : decode cX2_word 15 = .ok (.invokevirtual 73, 3) := dk_182 0 73 (dk_at dksX2_word_0 15 rfl rfl)
theorem dX2_word_18 : decode cX2_word 18 = .ok (.aload_n 0, 1) := dk_42 (dk_at dksX2_word_0 18 rfl rfl)
theorem dX2_word_19 : decode cX2_word 19 = .ok (.getfield 15, 3) := dk_180 0 15 (dk_at dksX2_word_0 19 rfl rfl)
theorem dX2_word_22 : decode cX2_word 22 = .ok (.aload_n 0, 1) := dk_42 (dk_at dksX2_word_0 22 rfl rfl)
theorem dX2_word_23 : decode cX2_word 23 = .ok (.getfield 30, 3) := dk_180 0 30 (dk_at dksX2_word_1 0 rfl rfl)
theorem dX2_word_26 : decode cX2_word 26 = .ok (.isub, 1) := dk_100 (dk_at dksX2_word_1 3 rfl rfl)
theorem dX2_word_27 : decode cX2_word 27 = .ok (.if_icmp .eq 6, 3) := dk_159 0 6 (dk_at dksX2_word_1 4 rfl rfl)
theorem dX2_word_30 : decode cX2_word 30 = .ok (.goto 65, 3) := dk_167 0 65 (dk_at dksX2_word_1 7 rfl rfl)
theorem dX2_word_33 : decode cX2_word 33 = .ok (.iconst 0, 1) := dk_3 (dk_at dksX2_word_1 10 rfl rfl)
theorem dX2_word_34 : decode cX2_word 34 = .ok (.istore_n 2, 1) := dk_61 (dk_at dksX2_word_1 11 rfl rfl)
theorem dX2_word_35 : decode cX2_word 35 = .ok (.aload_n 0, 1) := dk_42 (dk_at dksX2_word_1 12 rfl rfl)
theorem dX2_word_36 : decode cX2_word 36 = .ok (.getfield 30, 3) := dk_180 0 30 (dk_at dksX2_word_1 13 rfl rfl)
theorem dX2_word_39 : decode cX2_word 39 = .ok (.iload_n 2, 1) := dk_28 (dk_at dksX2_word_1 16 rfl rfl)
theorem dX2_word_40 : decode cX2_word 40 = .ok (.iadd, 1) := dk_96 (dk_at dksX2_word_1 17 rfl rfl)
theorem dX2_word_41 : decode cX2_word 41 = .ok (.aload_n 0, 1) := dk_42 (dk_at dksX2_word_1 18 rfl rfl)
theorem dX2_word_42 : decode cX2_word 42 = .ok (.getfield 15, 3) := dk_180 0 15 (dk_at dksX2_word_1 19 rfl rfl)
theorem dX2_word_45 : decode cX2_word 45 = .ok (.if_icmp .ge 35, 3) := dk_162 0 35 (dk_at dksX2_word_2 0 rfl rfl)
theorem dX2_word_48 : decode cX2_word 48 = .ok (.getstatic 69, 3) := dk_178 0 69 (dk_at dksX2_word_2 3 rfl rfl)
theorem dX2_word_51 : decode cX2_word 51 = .ok (.iload_n 1, 1) := dk_27 (dk_at dksX2_word_2 6 rfl rfl)
theorem dX2_word_52 : decode cX2_word 52 = .ok (.aaload, 1) := dk_50 (dk_at dksX2_word_2 7 rfl rfl)
theorem dX2_word_53 : decode cX2_word 53 = .ok (.iload_n 2, 1) := dk_28 (dk_at dksX2_word_2 8 rfl rfl)
theorem dX2_word_54 : decode cX2_word 54 = .ok (.invokevirtual 76, 3) := dk_182 0 76 (dk_at dksX2_word_2 9 rfl rfl)
theorem dX2_word_57 : decode cX2_word 57 = .ok (.aload_n 0, 1) := dk_42 (dk_at dksX2_word_2 12 rfl rfl)
theorem dX2_word_58 : decode cX2_word 58 = .ok (.getfield 3, 3) := dk_180 0 3 (dk_at dksX2_word_2 13 rfl rfl)
theorem dX2_word_61 : decode cX2_word 61 = .ok (.getfield 22, 3) := dk_180 0 22 (dk_at dksX2_word_2 16 rfl rfl)
theorem dX2_word_64 : decode cX2_word 64 = .ok (.aload_n 0, 1) := dk_42 (dk_at dksX2_word_2 19 rfl rfl)
theorem dX2_word_65 : decode cX2_word 65 = .ok (.getfield 30, 3) := dk_180 0 30 (dk_at dksX2_word_2 20 rfl rfl)
theorem dX2_word_68 : decode cX2_word 68 = .ok (.iload_n 2, 1) := dk_28 (dk_at dksX2_word_2 23 rfl rfl)
theorem dX2_word_69 : decode cX2_word 69 = .ok (.iadd, 1) := dk_96 (dk_at dksX2_word_3 0 rfl rfl)
theorem dX2_word_70 : decode cX2_word 70 = .ok (.baload, 1) := dk_51 (dk_at dksX2_word_3 1 rfl rfl)
theorem dX2_word_71 : decode cX2_word 71 = .ok (.if_icmp .ne 9, 3) := dk_160 0 9 (dk_at dksX2_word_3 2 rfl rfl)
theorem dX2_word_74 : decode cX2_word 74 = .ok (.iinc 2 1, 3) := dk_132 2 1 (dk_at dksX2_word_3 5 rfl rfl)
theorem dX2_word_77 : decode cX2_word 77 = .ok (.goto (-42), 3) := dk_167 255 214 (dk_at dksX2_word_3 8 rfl rfl)
theorem dX2_word_80 : decode cX2_word 80 = .ok (.aload_n 0, 1) := dk_42 (dk_at dksX2_word_3 11 rfl rfl)
theorem dX2_word_81 : decode cX2_word 81 = .ok (.getfield 30, 3) := dk_180 0 30 (dk_at dksX2_word_3 12 rfl rfl)
theorem dX2_word_84 : decode cX2_word 84 = .ok (.iload_n 2, 1) := dk_28 (dk_at dksX2_word_3 15 rfl rfl)
theorem dX2_word_85 : decode cX2_word 85 = .ok (.iadd, 1) := dk_96 (dk_at dksX2_word_3 16 rfl rfl)
theorem dX2_word_86 : decode cX2_word 86 = .ok (.aload_n 0, 1) := dk_42 (dk_at dksX2_word_3 17 rfl rfl)
theorem dX2_word_87 : decode cX2_word 87 = .ok (.getfield 15, 3) := dk_180 0 15 (dk_at dksX2_word_3 18 rfl rfl)
theorem dX2_word_90 : decode cX2_word 90 = .ok (.if_icmp .ne 5, 3) := dk_160 0 5 (dk_at dksX2_word_3 21 rfl rfl)
theorem dX2_word_93 : decode cX2_word 93 = .ok (.iload_n 1, 1) := dk_27 (dk_at dksX2_word_4 0 rfl rfl)
theorem dX2_word_94 : decode cX2_word 94 = .ok (.ireturn, 1) := dk_172 (dk_at dksX2_word_4 1 rfl rfl)
theorem dX2_word_95 : decode cX2_word 95 = .ok (.iinc 1 1, 3) := dk_132 1 1 (dk_at dksX2_word_4 2 rfl rfl)
theorem dX2_word_98 : decode cX2_word 98 = .ok (.goto (-96), 3) := dk_167 255 160 (dk_at dksX2_word_4 5 rfl rfl)
theorem dX2_word_101 : decode cX2_word 101 = .ok (.iconst (-1), 1) := dk_2 (dk_at dksX2_word_4 8 rfl rfl)
theorem dX2_word_102 : decode cX2_word 102 = .ok (.ireturn, 1) := dk_172 (dk_at dksX2_word_4 9 rfl rfl)
theorem gX2_word_0  {T : zT} {I : zI} {L : zL} {R : zR} {P : zP} (hx : zXok T R) (h : zAW mX2_word 5 0 2 [(0, .ref 1008), (1, .int (0 : Int32))] [] T I L R P) : zAW mX2_word 5 0 0 [(0, .ref 1008)] [] T I L R P := by
  refine za_iconst (pc' := 1) dX2_word_0 zi_0 rfl ?_
  refine za_istore_n (pc' := 2) (l' := [(1, .int (0 : Int32)), (0, .ref 1008)]) dX2_word_1 rfl (Nat.le_of_ble_eq_true rfl) rfl rfl ?_
  exact zAW_sub [1, 0] rfl h
theorem gX2_word_2 {v1 : Int32} {T : zT} {I : zI} {L : zL} {R : zR} {P : zP} (hx : zXok T R) (h : (((24 : Int32) ≤ v1 → P 0 (.int (-1 : Int32)) T I L R) ∧ (¬ (24 : Int32) ≤ v1 → vp_in v1 24 ∧ (10 ≤ (10 + v1.toNatClampNeg) ∧ (10 + v1.toNatClampNeg) < 35) ∧ zMet mJ5_length 2 0 [.ref (10 + v1.toNatClampNeg)] T I L R (zqI_ T I L R  (fun (r2 : Int32)  => ((r2 = ((I 1008 0) - (I 1008 2)) → zAW mX2_word 5 0 35 [(0, .ref 1008), (1, .int v1), (2, .int (0 : Int32))] [] T I L R P) ∧ (¬ r2 = ((I 1008 0) - (I 1008 2)) → zAW mX2_word 5 0 2 [(0, .ref 1008), (1, .int (v1 + (1 : Int32)))] [] T I L R P))))))) : zAW mX2_word 5 0 2 [(0, .ref 1008), (1, .int v1)] [] T I L R P := by
  refine za_iload_n (pc' := 3) 1 dX2_word_2 rfl rfl rfl ?_
  refine za_getNames (pc' := 6) dX2_word_3 q612 rfl ?_
  refine za_namesLen (pc' := 7) dX2_word_6 rfl ?_
  refine za_icmp_ge (pc' := 10) (tgt := 101) dX2_word_7 (by decide) rfl (fun c9 => ?_) (fun c9 => ?_)
  · replace h := h.1 c9
    refine za_iconst (pc' := 102) dX2_word_101 zi_m1 rfl ?_
    exact za_ireturn rfl dX2_word_102 h
  · replace h := h.2 c9
    refine za_getNames (pc' := 13) dX2_word_10 q612 rfl ?_
    refine za_iload_n (pc' := 14) 1 dX2_word_13 rfl rfl rfl ?_
    obtain ⟨hi1, h⟩ := h
    refine za_namesAt (pc' := 15) dX2_word_14 hi1 rfl rfl ?_
    obtain ⟨hc3, h⟩ := h
    refine za_callVS (κ := (10 + v1.toNatClampNeg)) (M2 := mJ5_length) (d2 := 2) (b2 := 0) (n := 0) (As := []) (st := []) (pc' := 18) hc3 dX2_word_15 rfl (lw_V q614 q615 q616 q149 q617) ⟨rfl, hd_J5_length⟩ rfl (by decide) (by decide) (Nat.zero_le _) (Or.inl rfl) (Nat.le_of_ble_eq_true rfl) h (zqI__k rfl (fun r2 h => ?_)) (fun _ _ _ _ _ _ h9 h8 => absurd h8.1 h9) rfl
    refine za_aload_n (pc' := 19) 0 dX2_word_18 rfl rfl rfl ?_
    refine za_get (fi := 0) (v := .int (I 1008 0)) (pc' := 22) dX2_word_19 zc1 (by decide) in_X2 (by decide) q185 (Or.inl rfl) (congrArg Prod.fst (zX_t1008 hx)) rfl rfl ?_
    refine za_aload_n (pc' := 23) 0 dX2_word_22 rfl rfl rfl ?_
    refine za_get (fi := 2) (v := .int (I 1008 2)) (pc' := 26) dX2_word_23 zc1 (by decide) in_X2 (by decide) q187 (Or.inl rfl) (congrArg Prod.fst (zX_t1008 hx)) rfl rfl ?_
    refine za_isub (pc' := 27) dX2_word_26 rfl ?_
    refine za_icmp_eq (pc' := 30) (tgt := 33) dX2_word_27 (by decide) rfl (fun c9 => ?_) (fun c9 => ?_)
    · replace h := h.1 c9
      refine za_iconst (pc' := 34) dX2_word_33 zi_0 rfl ?_
      refine za_istore_n (pc' := 35) (l' := [(2, .int (0 : Int32)), (0, .ref 1008), (1, .int v1)]) dX2_word_34 rfl (Nat.le_of_ble_eq_true rfl) rfl rfl ?_
      exact zAW_sub [1, 2, 0] rfl h
    · replace h := h.2 c9
      refine za_goto (tgt := 95) dX2_word_30 (by decide) ?_
      refine za_iinc (pc' := 98) (l' := [(1, .int (v1 + (1 : Int32))), (0, .ref 1008)]) 1 dX2_word_95 rfl (zinc zi_1) (Nat.le_of_ble_eq_true rfl) rfl rfl ?_
      refine za_goto (tgt := 2) dX2_word_98 (by decide) ?_
      exact zAW_sub [1, 0] rfl h
theorem gX2_word_35 {v1 : Int32} {v2 : Int32} {T : zT} {I : zI} {L : zL} {R : zR} {P : zP} (hx : zXok T R) (h : (((I 1008 0) ≤ ((I 1008 2) + v2) → zAW mX2_word 5 0 80 [(0, .ref 1008), (1, .int v1), (2, .int v2)] [] T I L R P) ∧ (¬ (I 1008 0) ≤ ((I 1008 2) + v2) → vp_in v1 24 ∧ (10 ≤ (10 + v1.toNatClampNeg) ∧ (10 + v1.toNatClampNeg) < 35) ∧ zMet mJ5_charAt 4 0 [.ref (10 + v1.toNatClampNeg), .int v2] T I L R (zqI_ T I L R  (fun (r5 : Int32)  => vp_in ((I 1008 2) + v2) 800 ∧ ((r5 = (I 1001 (((I 1008 2) + v2).toNatClampNeg)) → zAW mX2_word 5 0 35 [(0, .ref 1008), (1, .int v1), (2, .int (v2 + (1 : Int32)))] [] T I L R P) ∧ (¬ r5 = (I 1001 (((I 1008 2) + v2).toNatClampNeg)) → zAW mX2_word 5 0 80 [(0, .ref 1008), (1, .int v1), (2, .int v2)] [] T I L R P))))))) : zAW mX2_word 5 0 35 [(0, .ref 1008), (1, .int v1), (2, .int v2)] [] T I L R P := by
  refine za_aload_n (pc' := 36) 0 dX2_word_35 rfl rfl rfl ?_
  refine za_get (fi := 2) (v := .int (I 1008 2)) (pc' := 39) dX2_word_36 zc1 (by decide) in_X2 (by decide) q187 (Or.inl rfl) (congrArg Prod.fst (zX_t1008 hx)) rfl rfl ?_
  refine za_iload_n (pc' := 40) 2 dX2_word_39 rfl rfl rfl ?_
  refine za_iadd (pc' := 41) dX2_word_40 rfl ?_
  refine za_aload_n (pc' := 42) 0 dX2_word_41 rfl rfl rfl ?_
  refine za_get (fi := 0) (v := .int (I 1008 0)) (pc' := 45) dX2_word_42 zc1 (by decide) in_X2 (by decide) q185 (Or.inl rfl) (congrArg Prod.fst (zX_t1008 hx)) rfl rfl ?_
  refine za_icmp_ge (pc' := 48) (tgt := 80) dX2_word_45 (by decide) rfl (fun c9 => ?_) (fun c9 => ?_)
  · replace h := h.1 c9
    exact zAW_sub [0, 1, 2] rfl h
  · replace h := h.2 c9
    refine za_getNames (pc' := 51) dX2_word_48 q612 rfl ?_
    refine za_iload_n (pc' := 52) 1 dX2_word_51 rfl rfl rfl ?_
    obtain ⟨hi4, h⟩ := h
    refine za_namesAt (pc' := 53) dX2_word_52 hi4 rfl rfl ?_
    refine za_iload_n (pc' := 54) 2 dX2_word_53 rfl rfl rfl ?_
    obtain ⟨hc6, h⟩ := h
    refine za_callVS (κ := (10 + v1.toNatClampNeg)) (M2 := mJ5_charAt) (d2 := 4) (b2 := 0) (n := 1) (As := [.int v2]) (st := []) (pc' := 57) hc6 dX2_word_54 rfl (lw_V q624 q625 q626 q149 q627) ⟨rfl, hd_J5_charAt⟩ rfl (by decide) (by decide) (Nat.zero_le _) (Or.inl rfl) (Nat.le_of_ble_eq_true rfl) h (zqI__k rfl (fun r5 h => ?_)) (fun _ _ _ _ _ _ h9 h8 => absurd h8.1 h9) rfl
    refine za_aload_n (pc' := 58) 0 dX2_word_57 rfl rfl rfl ?_
    refine za_get (fi := 8) (v := .ref 1000) (pc' := 61) dX2_word_58 zc1 (by decide) in_X2 (by decide) q193 (Or.inl rfl) (congrArg Prod.fst (zX_t1008 hx)) (congrArg Value.ref (zX_r1008_8 hx)) rfl ?_
    refine za_getN (fi := 0) (v := .ref 1001) (pc' := 64) dX2_word_61 zc0 (by decide) in_X1 (by decide) q488 (Or.inl rfl) (congrArg Prod.fst (zX_t1000 hx)) (congrArg Value.ref (zX_r1000_0 hx)) rfl ?_
    refine za_aload_n (pc' := 65) 0 dX2_word_64 rfl rfl rfl ?_
    refine za_get (fi := 2) (v := .int (I 1008 2)) (pc' := 68) dX2_word_65 zc1 (by decide) in_X2 (by decide) q187 (Or.inl rfl) (congrArg Prod.fst (zX_t1008 hx)) rfl rfl ?_
    refine za_iload_n (pc' := 69) 2 dX2_word_68 rfl rfl rfl ?_
    refine za_iadd (pc' := 70) dX2_word_69 rfl ?_
    obtain ⟨hi7, h⟩ := h
    refine za_bald (v := .int (I 1001 (((I 1008 2) + v2).toNatClampNeg))) (pc' := 71) dX2_word_70 (zX_t1001 hx) hi7 rfl rfl ?_
    refine za_icmp_ne (pc' := 74) (tgt := 80) dX2_word_71 (by decide) rfl (fun c9 => ?_) (fun c9 => ?_)
    · replace h := h.2 c9
      exact zAW_sub [0, 1, 2] rfl h
    · replace h := h.1 c9
      refine za_iinc (pc' := 77) (l' := [(2, .int (v2 + (1 : Int32))), (0, .ref 1008), (1, .int v1)]) 2 dX2_word_74 rfl (zinc zi_1) (Nat.le_of_ble_eq_true rfl) rfl rfl ?_
      refine za_goto (tgt := 35) dX2_word_77 (by decide) ?_
      exact zAW_sub [1, 2, 0] rfl h
theorem gX2_word_80 {v1 : Int32} {v2 : Int32} {T : zT} {I : zI} {L : zL} {R : zR} {P : zP} (hx : zXok T R) (h : ((((I 1008 2) + v2) = (I 1008 0) → P 0 (.int v1) T I L R) ∧ (¬ ((I 1008 2) + v2) = (I 1008 0) → zAW mX2_word 5 0 2 [(0, .ref 1008), (1, .int (v1 + (1 : Int32)))] [] T I L R P))) : zAW mX2_word 5 0 80 [(0, .ref 1008), (1, .int v1), (2, .int v2)] [] T I L R P := by
  refine za_aload_n (pc' := 81) 0 dX2_word_80 rfl rfl rfl ?_
  refine za_get (fi := 2) (v := .int (I 1008 2)) (pc' := 84) dX2_word_81 zc1 (by decide) in_X2 (by decide) q187 (Or.inl rfl) (congrArg Prod.fst (zX_t1008 hx)) rfl rfl ?_
  refine za_iload_n (pc' := 85) 2 dX2_word_84 rfl rfl rfl ?_
  refine za_iadd (pc' := 86) dX2_word_85 rfl ?_
  refine za_aload_n (pc' := 87) 0 dX2_word_86 rfl rfl rfl ?_
  refine za_get (fi := 0) (v := .int (I 1008 0)) (pc' := 90) dX2_word_87 zc1 (by decide) in_X2 (by decide) q185 (Or.inl rfl) (congrArg Prod.fst (zX_t1008 hx)) rfl rfl ?_
  refine za_icmp_ne (pc' := 93) (tgt := 95) dX2_word_90 (by decide) rfl (fun c9 => ?_) (fun c9 => ?_)
  · replace h := h.2 c9
    refine za_iinc (pc' := 98) (l' := [(1, .int (v1 + (1 : Int32))), (0, .ref 1008), (2, .int v2)]) 1 dX2_word_95 rfl (zinc zi_1) (Nat.le_of_ble_eq_true rfl) rfl rfl ?_
    refine za_goto (tgt := 2) dX2_word_98 (by decide) ?_
    exact zAW_sub [1, 0] rfl h
  · replace h := h.1 c9
    refine za_iload_n (pc' := 94) 1 dX2_word_93 rfl rfl rfl ?_
    exact za_ireturn rfl dX2_word_94 h
theorem sX2_word {d b : Nat}  {T : zT} {I : zI} {L : zL} {R : zR} {P : zP} (h : zAW mX2_word d b 0 [(0, .ref 1008)] [] T I L R P) : zMet mX2_word d b [.ref 1008] T I L R P := zMet_of (by decide +kernel) rfl (Nat.le_of_ble_eq_true rfl) rfl h
/-! TwoTongues$Reader.name ()V -/
def dkwX2_name_2 : List UInt8 := [16, 97, 100, 4, 96, 167, 0, 4, 3, 128, 181, 0, 47, 132, 1, 1, 167, 255, 200, 177]
abbrev dktX2_name_2 : List UInt8 := dkwX2_name_2 ++ []
def dkwX2_name_1 : List UInt8 := [27, 96, 42, 180, 0, 15, 162, 0, 25, 42, 180, 0, 3, 180, 0, 22, 42, 180, 0, 30, 27, 96, 51]
abbrev dktX2_name_1 : List UInt8 := dkwX2_name_1 ++ dktX2_name_2
def dkwX2_name_0 : List UInt8 := [42, 3, 181, 0, 47, 3, 60, 27, 16, 6, 162, 0, 56, 42, 42, 180, 0, 47, 8, 120, 42, 180, 0, 30]
abbrev dktX2_name_0 : List UInt8 := dkwX2_name_0 ++ dktX2_name_1
theorem dksX2_name_0 : cX2_name.data.toList.drop 0 = dktX2_name_0 := by decide +kernel
theorem dksX2_name_1 : cX2_name.data.toList.drop 24 = dktX2_name_1 := dk_seg dksX2_name_0 24 rfl rfl
theorem dksX2_name_2 : cX2_name.data.toList.drop 47 = dktX2_name_2 := dk_seg dksX2_name_1 23 rfl rfl
theorem dX2_name_0 : decode cX2_name 0 = .ok (.aload_n 0, 1) := dk_42 (dk_at dksX2_name_0 0 rfl rfl)
theorem dX2_name_1 : decode cX2_name 1 = .ok (.iconst 0, 1) := dk_3 (dk_at dksX2_name_0 1 rfl rfl)
theorem dX2_name_2 : decode cX2_name 2 = .ok (.putfield 47, 3) := dk_181 0 47 (dk_at dksX2_name_0 2 rfl rfl)
theorem dX2_name_5 : decode cX2_name 5 = .ok (.iconst 0, 1) := dk_3 (dk_at dksX2_name_0 5 rfl rfl)
theorem dX2_name_6 : decode cX2_name 6 = .ok (.istore_n 1, 1) := dk_60 (dk_at dksX2_name_0 6 rfl rfl)
theorem dX2_name_7 : decode cX2_name 7 = .ok (.iload_n 1, 1) := dk_27 (dk_at dksX2_name_0 7 rfl rfl)
theorem dX2_name_8 : decode cX2_name 8 = .ok (.bipush 6, 2) := dk_16 6 (dk_at dksX2_name_0 8 rfl rfl)
theorem dX2_name_10 : decode cX2_name 10 = .ok (.if_icmp .ge 56, 3) := dk_162 0 56 (dk_at dksX2_name_0 10 rfl rfl)
theorem dX2_name_13 : decode cX2_name 13 = .ok (.aload_n 0, 1) := dk_42 (dk_at dksX2_name_0 13 rfl rfl)
theorem dX2_name_14 : decode cX2_name 14 = .ok (.aload_n 0, 1) := dk_42 (dk_at dksX2_name_0 14 rfl rfl)
theorem dX2_name_15 : decode cX2_name 15 = .ok (.getfield 47, 3) := dk_180 0 47 (dk_at dksX2_name_0 15 rfl rfl)
theorem dX2_name_18 : decode cX2_name 18 = .ok (.iconst 5, 1) := dk_8 (dk_at dksX2_name_0 18 rfl rfl)
theorem dX2_name_19 : decode cX2_name 19 = .ok (.ishl, 1) := dk_120 (dk_at dksX2_name_0 19 rfl rfl)
theorem dX2_name_20 : decode cX2_name 20 = .ok (.aload_n 0, 1) := dk_42 (dk_at dksX2_name_0 20 rfl rfl)
theorem dX2_name_21 : decode cX2_name 21 = .ok (.getfield 30, 3) := dk_180 0 30 (dk_at dksX2_name_0 21 rfl rfl)
theorem dX2_name_24 : decode cX2_name 24 = .ok (.iload_n 1, 1) := dk_27 (dk_at dksX2_name_1 0 rfl rfl)
theorem dX2_name_25 : decode cX2_name 25 = .ok (.iadd, 1) := dk_96 (dk_at dksX2_name_1 1 rfl rfl)
theorem dX2_name_26 : decode cX2_name 26 = .ok (.aload_n 0, 1) := dk_42 (dk_at dksX2_name_1 2 rfl rfl)
theorem dX2_name_27 : decode cX2_name 27 = .ok (.getfield 15, 3) := dk_180 0 15 (dk_at dksX2_name_1 3 rfl rfl)
theorem dX2_name_30 : decode cX2_name 30 = .ok (.if_icmp .ge 25, 3) := dk_162 0 25 (dk_at dksX2_name_1 6 rfl rfl)
theorem dX2_name_33 : decode cX2_name 33 = .ok (.aload_n 0, 1) := dk_42 (dk_at dksX2_name_1 9 rfl rfl)
theorem dX2_name_34 : decode cX2_name 34 = .ok (.getfield 3, 3) := dk_180 0 3 (dk_at dksX2_name_1 10 rfl rfl)
theorem dX2_name_37 : decode cX2_name 37 = .ok (.getfield 22, 3) := dk_180 0 22 (dk_at dksX2_name_1 13 rfl rfl)
theorem dX2_name_40 : decode cX2_name 40 = .ok (.aload_n 0, 1) := dk_42 (dk_at dksX2_name_1 16 rfl rfl)
theorem dX2_name_41 : decode cX2_name 41 = .ok (.getfield 30, 3) := dk_180 0 30 (dk_at dksX2_name_1 17 rfl rfl)
theorem dX2_name_44 : decode cX2_name 44 = .ok (.iload_n 1, 1) := dk_27 (dk_at dksX2_name_1 20 rfl rfl)
theorem dX2_name_45 : decode cX2_name 45 = .ok (.iadd, 1) := dk_96 (dk_at dksX2_name_1 21 rfl rfl)
theorem dX2_name_46 : decode cX2_name 46 = .ok (.baload, 1) := dk_51 (dk_at dksX2_name_1 22 rfl rfl)
theorem dX2_name_47 : decode cX2_name 47 = .ok (.bipush 97, 2) := dk_16 97 (dk_at dksX2_name_2 0 rfl rfl)
theorem dX2_name_49 : decode cX2_name 49 = .ok (.isub, 1) := dk_100 (dk_at dksX2_name_2 2 rfl rfl)
theorem dX2_name_50 : decode cX2_name 50 = .ok (.iconst 1, 1) := dk_4 (dk_at dksX2_name_2 3 rfl rfl)
theorem dX2_name_51 : decode cX2_name 51 = .ok (.iadd, 1) := dk_96 (dk_at dksX2_name_2 4 rfl rfl)
theorem dX2_name_52 : decode cX2_name 52 = .ok (.goto 4, 3) := dk_167 0 4 (dk_at dksX2_name_2 5 rfl rfl)
theorem dX2_name_55 : decode cX2_name 55 = .ok (.iconst 0, 1) := dk_3 (dk_at dksX2_name_2 8 rfl rfl)
theorem dX2_name_56 : decode cX2_name 56 = .ok (.ior, 1) := dk_128 (dk_at dksX2_name_2 9 rfl rfl)
theorem dX2_name_57 : decode cX2_name 57 = .ok (.putfield 47, 3) := dk_181 0 47 (dk_at dksX2_name_2 10 rfl rfl)
theorem dX2_name_60 : decode cX2_name 60 = .ok (.iinc 1 1, 3) := dk_132 1 1 (dk_at dksX2_name_2 13 rfl rfl)
theorem dX2_name_63 : decode cX2_name 63 = .ok (.goto (-56), 3) := dk_167 255 200 (dk_at dksX2_name_2 16 rfl rfl)
theorem dX2_name_66 : decode cX2_name 66 = .ok (.return_, 1) := dk_177 (dk_at dksX2_name_2 19 rfl rfl)
theorem gX2_name_0  {T : zT} {I : zI} {L : zL} {R : zR} {P : zP} (hx : zXok T R) (h : zAW mX2_name 1 0 7 [(0, .ref 1008), (1, .int (0 : Int32))] [] T (z2 I 1008 4 (0 : Int32)) L R P) : zAW mX2_name 1 0 0 [(0, .ref 1008)] [] T I L R P := by
  refine za_aload_n (pc' := 1) 0 dX2_name_0 rfl rfl rfl ?_
  refine za_iconst (pc' := 2) dX2_name_1 zi_0 rfl ?_
  refine za_putI (fi := 4) (pc' := 5) dX2_name_2 zc1 (by decide) in_X2 zok1 znm1 (by decide) q189 (Or.inl rfl) rfl rfl (fun _ _ _ => rfl) rfl rfl (congrArg Prod.fst (zX_t1008 hx)) rfl ?_
  refine za_iconst (pc' := 6) dX2_name_5 zi_0 rfl ?_
  refine za_istore_n (pc' := 7) (l' := [(1, .int (0 : Int32)), (0, .ref 1008)]) dX2_name_6 rfl (Nat.le_of_ble_eq_true rfl) rfl rfl ?_
  exact zAW_sub [1, 0] rfl h
theorem gX2_name_7 {v1 : Int32} {T : zT} {I : zI} {L : zL} {R : zR} {P : zP} (hx : zXok T R) (h : (((6 : Int32) ≤ v1 → P 0 (.int 0) T I L R) ∧ (¬ (6 : Int32) ≤ v1 → (((I 1008 0) ≤ ((I 1008 2) + v1) → zAW mX2_name 1 0 7 [(0, .ref 1008), (1, .int (v1 + (1 : Int32)))] [] T (z2 I 1008 4 (((I 1008 4) <<< ((5 : Int32) &&& 31)) ||| (0 : Int32))) L R P) ∧ (¬ (I 1008 0) ≤ ((I 1008 2) + v1) → vp_in ((I 1008 2) + v1) 800 ∧ zAW mX2_name 1 0 7 [(0, .ref 1008), (1, .int (v1 + (1 : Int32)))] [] T (z2 I 1008 4 (((I 1008 4) <<< ((5 : Int32) &&& 31)) ||| (((I 1001 (((I 1008 2) + v1).toNatClampNeg)) - (97 : Int32)) + (1 : Int32)))) L R P))))) : zAW mX2_name 1 0 7 [(0, .ref 1008), (1, .int v1)] [] T I L R P := by
  refine za_iload_n (pc' := 8) 1 dX2_name_7 rfl rfl rfl ?_
  refine za_bipush (pc' := 10) dX2_name_8 zb8_6 rfl ?_
  refine za_icmp_ge (pc' := 13) (tgt := 66) dX2_name_10 (by decide) rfl (fun c9 => ?_) (fun c9 => ?_)
  · replace h := h.1 c9
    exact za_return rfl dX2_name_66 h
  · replace h := h.2 c9
    refine za_aload_n (pc' := 14) 0 dX2_name_13 rfl rfl rfl ?_
    refine za_aload_n (pc' := 15) 0 dX2_name_14 rfl rfl rfl ?_
    refine za_get (fi := 4) (v := .int (I 1008 4)) (pc' := 18) dX2_name_15 zc1 (by decide) in_X2 (by decide) q189 (Or.inl rfl) (congrArg Prod.fst (zX_t1008 hx)) rfl rfl ?_
    refine za_iconst (pc' := 19) dX2_name_18 zi_5 rfl ?_
    refine za_ishl (pc' := 20) dX2_name_19 rfl ?_
    refine za_aload_n (pc' := 21) 0 dX2_name_20 rfl rfl rfl ?_
    refine za_get (fi := 2) (v := .int (I 1008 2)) (pc' := 24) dX2_name_21 zc1 (by decide) in_X2 (by decide) q187 (Or.inl rfl) (congrArg Prod.fst (zX_t1008 hx)) rfl rfl ?_
    refine za_iload_n (pc' := 25) 1 dX2_name_24 rfl rfl rfl ?_
    refine za_iadd (pc' := 26) dX2_name_25 rfl ?_
    refine za_aload_n (pc' := 27) 0 dX2_name_26 rfl rfl rfl ?_
    refine za_get (fi := 0) (v := .int (I 1008 0)) (pc' := 30) dX2_name_27 zc1 (by decide) in_X2 (by decide) q185 (Or.inl rfl) (congrArg Prod.fst (zX_t1008 hx)) rfl rfl ?_
    refine za_icmp_ge (pc' := 33) (tgt := 55) dX2_name_30 (by decide) rfl (fun c9 => ?_) (fun c9 => ?_)
    · replace h := h.1 c9
      refine za_iconst (pc' := 56) dX2_name_55 zi_0 rfl ?_
      refine za_ior (pc' := 57) dX2_name_56 rfl ?_
      refine za_putI (fi := 4) (pc' := 60) dX2_name_57 zc1 (by decide) in_X2 zok1 znm1 (by decide) q189 (Or.inl rfl) rfl rfl (fun _ _ _ => rfl) rfl rfl (congrArg Prod.fst (zX_t1008 hx)) rfl ?_
      refine za_iinc (pc' := 63) (l' := [(1, .int (v1 + (1 : Int32))), (0, .ref 1008)]) 1 dX2_name_60 rfl (zinc zi_1) (Nat.le_of_ble_eq_true rfl) rfl rfl ?_
      refine za_goto (tgt := 7) dX2_name_63 (by decide) ?_
      exact zAW_sub [1, 0] rfl h
    · replace h := h.2 c9
      refine za_aload_n (pc' := 34) 0 dX2_name_33 rfl rfl rfl ?_
      refine za_get (fi := 8) (v := .ref 1000) (pc' := 37) dX2_name_34 zc1 (by decide) in_X2 (by decide) q193 (Or.inl rfl) (congrArg Prod.fst (zX_t1008 hx)) (congrArg Value.ref (zX_r1008_8 hx)) rfl ?_
      refine za_getN (fi := 0) (v := .ref 1001) (pc' := 40) dX2_name_37 zc0 (by decide) in_X1 (by decide) q488 (Or.inl rfl) (congrArg Prod.fst (zX_t1000 hx)) (congrArg Value.ref (zX_r1000_0 hx)) rfl ?_
      refine za_aload_n (pc' := 41) 0 dX2_name_40 rfl rfl rfl ?_
      refine za_get (fi := 2) (v := .int (I 1008 2)) (pc' := 44) dX2_name_41 zc1 (by decide) in_X2 (by decide) q187 (Or.inl rfl) (congrArg Prod.fst (zX_t1008 hx)) rfl rfl ?_
      refine za_iload_n (pc' := 45) 1 dX2_name_44 rfl rfl rfl ?_
      refine za_iadd (pc' := 46) dX2_name_45 rfl ?_
      obtain ⟨hi1, h⟩ := h
      refine za_bald (v := .int (I 1001 (((I 1008 2) + v1).toNatClampNeg))) (pc' := 47) dX2_name_46 (zX_t1001 hx) hi1 rfl rfl ?_
      refine za_bipush (pc' := 49) dX2_name_47 zb8_97 rfl ?_
      refine za_isub (pc' := 50) dX2_name_49 rfl ?_
      refine za_iconst (pc' := 51) dX2_name_50 zi_1 rfl ?_
      refine za_iadd (pc' := 52) dX2_name_51 rfl ?_
      refine za_goto (tgt := 56) dX2_name_52 (by decide) ?_
      refine za_ior (pc' := 57) dX2_name_56 rfl ?_
      refine za_putI (fi := 4) (pc' := 60) dX2_name_57 zc1 (by decide) in_X2 zok1 znm1 (by decide) q189 (Or.inl rfl) rfl rfl (fun _ _ _ => rfl) rfl rfl (congrArg Prod.fst (zX_t1008 hx)) rfl ?_
      refine za_iinc (pc' := 63) (l' := [(1, .int (v1 + (1 : Int32))), (0, .ref 1008)]) 1 dX2_name_60 rfl (zinc zi_1) (Nat.le_of_ble_eq_true rfl) rfl rfl ?_
      refine za_goto (tgt := 7) dX2_name_63 (by decide) ?_
      exact zAW_sub [1, 0] rfl h
theorem sX2_name {d b : Nat}  {T : zT} {I : zI} {L : zL} {R : zR} {P : zP} (h : zAW mX2_name d b 0 [(0, .ref 1008)] [] T I L R P) : zMet mX2_name d b [.ref 1008] T I L R P := zMet_of (by decide +kernel) rfl (Nat.le_of_ble_eq_true rfl) rfl h
/-! TwoTongues$Reader.sign ()V -/
def dkwX2_sign_5 : List UInt8 := [17, 1, 0, 161, 0, 13, 42, 89, 180, 0, 15, 4, 96, 181, 0, 15, 177]
abbrev dktX2_sign_5 : List UInt8 := dkwX2_sign_5 ++ []
def dkwX2_sign_4 : List UInt8 := [160, 0, 19, 42, 182, 0, 26, 16, 61, 160, 0, 10, 42, 17, 1, 1, 181, 0, 47, 42, 180, 0, 47]
abbrev dktX2_sign_4 : List UInt8 := dkwX2_sign_4 ++ dktX2_sign_5
def dkwX2_sign_3 : List UInt8 := [42, 182, 0, 26, 16, 62, 160, 0, 13, 42, 17, 1, 2, 181, 0, 47, 167, 0, 25, 27, 16, 62]
abbrev dktX2_sign_3 : List UInt8 := dkwX2_sign_3 ++ dktX2_sign_4
def dkwX2_sign_2 : List UInt8 := [182, 0, 26, 16, 61, 160, 0, 13, 42, 17, 1, 0, 181, 0, 47, 167, 0, 50, 27, 16, 60, 160, 0, 22]
abbrev dktX2_sign_2 : List UInt8 := dkwX2_sign_2 ++ dktX2_sign_3
def dkwX2_sign_1 : List UInt8 := [155, 0, 7, 6, 167, 0, 4, 8, 181, 0, 33, 42, 27, 181, 0, 47, 27, 16, 60, 160, 0, 22, 42]
abbrev dktX2_sign_1 : List UInt8 := dkwX2_sign_1 ++ dktX2_sign_2
def dkwX2_sign_0 : List UInt8 := [42, 182, 0, 26, 60, 42, 89, 180, 0, 15, 4, 96, 181, 0, 15, 42, 18, 61, 27, 182, 0, 63]
abbrev dktX2_sign_0 : List UInt8 := dkwX2_sign_0 ++ dktX2_sign_1
theorem dksX2_sign_0 : cX2_sign.data.toList.drop 0 = dktX2_sign_0 := by decide +kernel
theorem dksX2_sign_1 : cX2_sign.data.toList.drop 22 = dktX2_sign_1 := dk_seg dksX2_sign_0 22 rfl rfl
theorem dksX2_sign_2 : cX2_sign.data.toList.drop 45 = dktX2_sign_2 := dk_seg dksX2_sign_1 23 rfl rfl
theorem dksX2_sign_3 : cX2_sign.data.toList.drop 69 = dktX2_sign_3 := dk_seg dksX2_sign_2 24 rfl rfl
theorem dksX2_sign_4 : cX2_sign.data.toList.drop 91 = dktX2_sign_4 := dk_seg dksX2_sign_3 22 rfl rfl
theorem dksX2_sign_5 : cX2_sign.data.toList.drop 114 = dktX2_sign_5 := dk_seg dksX2_sign_4 23 rfl rfl
theorem dX2_sign_0 : decode cX2_sign 0 = .ok (.aload_n 0, 1) := dk_42 (dk_at dksX2_sign_0 0 rfl rfl)
theorem dX2_sign_1 : decode cX2_sign 1 = .ok (.invokevirtual 26, 3) := dk_182 0 26 (dk_at dksX2_sign_0 1 rfl rfl)
theorem dX2_sign_4 : decode cX2_sign 4 = .ok (.istore_n 1, 1) := dk_60 (dk_at dksX2_sign_0 4 rfl rfl)
theorem dX2_sign_5 : decode cX2_sign 5 = .ok (.aload_n 0, 1) := dk_42 (dk_at dksX2_sign_0 5 rfl rfl)
theorem dX2_sign_6 : decode cX2_sign 6 = .ok (.dup, 1) := dk_89 (dk_at dksX2_sign_0 6 rfl rfl)
theorem dX2_sign_7 : decode cX2_sign 7 = .ok (.getfield 15, 3) := dk_180 0 15 (dk_at dksX2_sign_0 7 rfl rfl)
theorem dX2_sign_10 : decode cX2_sign 10 = .ok (.iconst 1, 1) := dk_4 (dk_at dksX2_sign_0 10 rfl rfl)
theorem dX2_sign_11 : decode cX2_sign 11 = .ok (.iadd, 1) := dk_96 (dk_at dksX2_sign_0 11 rfl rfl)
theorem dX2_sign_12 : decode cX2_sign 12 = .ok (.putfield 15, 3) := dk_181 0 15 (dk_at dksX2_sign_0 12 rfl rfl)
theorem dX2_sign_15 : decode cX2_sign 15 = .ok (.aload_n 0, 1) := dk_42 (dk_at dksX2_sign_0 15 rfl rfl)
theorem dX2_sign_16 : decode cX2_sign 16 = .ok (.ldc 61, 2) := dk_18 61 (dk_at dksX2_sign_0 16 rfl rfl)
theorem dX2_sign_18 : decode cX2_sign 18 = .ok (.iload_n 1, 1) := dk_27 (dk_at dksX2_sign_0 18 rfl rfl)
theorem dX2_sign_19 : decode cX2_sign 19 = .ok (.invokevirtual 63, 3) := dk_182 0 63 (dk_at dksX2_sign_0 19 rfl rfl)
theorem dX2_sign_22 : decode cX2_sign 22 = .ok (.ifCond .lt 7, 3) := dk_155 0 7 (dk_at dksX2_sign_1 0 rfl rfl)
theorem dX2_sign_25 : decode cX2_sign 25 = .ok (.iconst 3, 1) := dk_6 (dk_at dksX2_sign_1 3 rfl rfl)
theorem dX2_sign_26 : decode cX2_sign 26 = .ok (.goto 4, 3) := dk_167 0 4 (dk_at dksX2_sign_1 4 rfl rfl)
theorem dX2_sign_29 : decode cX2_sign 29 = .ok (.iconst 5, 1) := dk_8 (dk_at dksX2_sign_1 7 rfl rfl)
theorem dX2_sign_30 : decode cX2_sign 30 = .ok (.putfield 33, 3) := dk_181 0 33 (dk_at dksX2_sign_1 8 rfl rfl)
theorem dX2_sign_33 : decode cX2_sign 33 = .ok (.aload_n 0, 1) := dk_42 (dk_at dksX2_sign_1 11 rfl rfl)
theorem dX2_sign_34 : decode cX2_sign 34 = .ok (.iload_n 1, 1) := dk_27 (dk_at dksX2_sign_1 12 rfl rfl)
theorem dX2_sign_35 : decode cX2_sign 35 = .ok (.putfield 47, 3) := dk_181 0 47 (dk_at dksX2_sign_1 13 rfl rfl)
theorem dX2_sign_38 : decode cX2_sign 38 = .ok (.iload_n 1, 1) := dk_27 (dk_at dksX2_sign_1 16 rfl rfl)
theorem dX2_sign_39 : decode cX2_sign 39 = .ok (.bipush 60, 2) := dk_16 60 (dk_at dksX2_sign_1 17 rfl rfl)
theorem dX2_sign_41 : decode cX2_sign 41 = .ok (.if_icmp .ne 22, 3) := dk_160 0 22 (dk_at dksX2_sign_1 19 rfl rfl)
theorem dX2_sign_44 : decode cX2_sign 44 = .ok (.aload_n 0, 1) := dk_42 (dk_at dksX2_sign_1 22 rfl rfl)
theorem dX2_sign_45 : decode cX2_sign 45 = .ok (.invokevirtual 26, 3) := dk_182 0 26 (dk_at dksX2_sign_2 0 rfl rfl)
theorem dX2_sign_48 : decode cX2_sign 48 = .ok (.bipush 61, 2) := dk_16 61 (dk_at dksX2_sign_2 3 rfl rfl)
theorem dX2_sign_50 : decode cX2_sign 50 = .ok (.if_icmp .ne 13, 3) := dk_160 0 13 (dk_at dksX2_sign_2 5 rfl rfl)
theorem dX2_sign_53 : decode cX2_sign 53 = .ok (.aload_n 0, 1) := dk_42 (dk_at dksX2_sign_2 8 rfl rfl)
theorem dX2_sign_54 : decode cX2_sign 54 = .ok (.sipush 256, 3) := dk_17 1 0 (dk_at dksX2_sign_2 9 rfl rfl)
theorem dX2_sign_57 : decode cX2_sign 57 = .ok (.putfield 47, 3) := dk_181 0 47 (dk_at dksX2_sign_2 12 rfl rfl)
theorem dX2_sign_60 : decode cX2_sign 60 = .ok (.goto 50, 3) := dk_167 0 50 (dk_at dksX2_sign_2 15 rfl rfl)
theorem dX2_sign_63 : decode cX2_sign 63 = .ok (.iload_n 1, 1) := dk_27 (dk_at dksX2_sign_2 18 rfl rfl)
theorem dX2_sign_64 : decode cX2_sign 64 = .ok (.bipush 60, 2) := dk_16 60 (dk_at dksX2_sign_2 19 rfl rfl)
theorem dX2_sign_66 : decode cX2_sign 66 = .ok (.if_icmp .ne 22, 3) := dk_160 0 22 (dk_at dksX2_sign_2 21 rfl rfl)
theorem dX2_sign_69 : decode cX2_sign 69 = .ok (.aload_n 0, 1) := dk_42 (dk_at dksX2_sign_3 0 rfl rfl)
theorem dX2_sign_70 : decode cX2_sign 70 = .ok (.invokevirtual 26, 3) := dk_182 0 26 (dk_at dksX2_sign_3 1 rfl rfl)
theorem dX2_sign_73 : decode cX2_sign 73 = .ok (.bipush 62, 2) := dk_16 62 (dk_at dksX2_sign_3 4 rfl rfl)
theorem dX2_sign_75 : decode cX2_sign 75 = .ok (.if_icmp .ne 13, 3) := dk_160 0 13 (dk_at dksX2_sign_3 6 rfl rfl)
theorem dX2_sign_78 : decode cX2_sign 78 = .ok (.aload_n 0, 1) := dk_42 (dk_at dksX2_sign_3 9 rfl rfl)
theorem dX2_sign_79 : decode cX2_sign 79 = .ok (.sipush 258, 3) := dk_17 1 2 (dk_at dksX2_sign_3 10 rfl rfl)
theorem dX2_sign_82 : decode cX2_sign 82 = .ok (.putfield 47, 3) := dk_181 0 47 (dk_at dksX2_sign_3 13 rfl rfl)
theorem dX2_sign_85 : decode cX2_sign 85 = .ok (.goto 25, 3) := dk_167 0 25 (dk_at dksX2_sign_3 16 rfl rfl)
theorem dX2_sign_88 : decode cX2_sign 88 = .ok (.iload_n 1, 1) := dk_27 (dk_at dksX2_sign_3 19 rfl rfl)
theorem dX2_sign_89 : decode cX2_sign 89 = .ok (.bipush 62, 2) := dk_16 62 (dk_at dksX2_sign_3 20 rfl rfl)
theorem dX2_sign_91 : decode cX2_sign 91 = .ok (.if_icmp .ne 19, 3) := dk_160 0 19 (dk_at dksX2_sign_4 0 rfl rfl)
theorem dX2_sign_94 : decode cX2_sign 94 = .ok (.aload_n 0, 1) := dk_42 (dk_at dksX2_sign_4 3 rfl rfl)
theorem dX2_sign_95 : decode cX2_sign 95 = .ok (.invokevirtual 26, 3) := dk_182 0 26 (dk_at dksX2_sign_4 4 rfl rfl)
theorem dX2_sign_98 : decode cX2_sign 98 = .ok (.bipush 61, 2) := dk_16 61 (dk_at dksX2_sign_4 7 rfl rfl)
theorem dX2_sign_100 : decode cX2_sign 100 = .ok (.if_icmp .ne 10, 3) := dk_160 0 10 (dk_at dksX2_sign_4 9 rfl rfl)
theorem dX2_sign_103 : decode cX2_sign 103 = .ok (.aload_n 0, 1) := dk_42 (dk_at dksX2_sign_4 12 rfl rfl)
theorem dX2_sign_104 : decode cX2_sign 104 = .ok (.sipush 257, 3) := dk_17 1 1 (dk_at dksX2_sign_4 13 rfl rfl)
theorem dX2_sign_107 : decode cX2_sign 107 = .ok (.putfield 47, 3) := dk_181 0 47 (dk_at dksX2_sign_4 16 rfl rfl)
theorem dX2_sign_110 : decode cX2_sign 110 = .ok (.aload_n 0, 1) := dk_42 (dk_at dksX2_sign_4 19 rfl rfl)
theorem dX2_sign_111 : decode cX2_sign 111 = .ok (.getfield 47, 3) := dk_180 0 47 (dk_at dksX2_sign_4 20 rfl rfl)
theorem dX2_sign_114 : decode cX2_sign 114 = .ok (.sipush 256, 3) := dk_17 1 0 (dk_at dksX2_sign_5 0 rfl rfl)
theorem dX2_sign_117 : decode cX2_sign 117 = .ok (.if_icmp .lt 13, 3) := dk_161 0 13 (dk_at dksX2_sign_5 3 rfl rfl)
theorem dX2_sign_120 : decode cX2_sign 120 = .ok (.aload_n 0, 1) := dk_42 (dk_at dksX2_sign_5 6 rfl rfl)
theorem dX2_sign_121 : decode cX2_sign 121 = .ok (.dup, 1) := dk_89 (dk_at dksX2_sign_5 7 rfl rfl)
theorem dX2_sign_122 : decode cX2_sign 122 = .ok (.getfield 15, 3) := dk_180 0 15 (dk_at dksX2_sign_5 8 rfl rfl)
theorem dX2_sign_125 : decode cX2_sign 125 = .ok (.iconst 1, 1) := dk_4 (dk_at dksX2_sign_5 11 rfl rfl)
theorem dX2_sign_126 : decode cX2_sign 126 = .ok (.iadd, 1) := dk_96 (dk_at dksX2_sign_5 12 rfl rfl)
theorem dX2_sign_127 : decode cX2_sign 127 = .ok (.putfield 15, 3) := dk_181 0 15 (dk_at dksX2_sign_5 13 rfl rfl)
theorem dX2_sign_130 : decode cX2_sign 130 = .ok (.return_, 1) := dk_177 (dk_at dksX2_sign_5 16 rfl rfl)
theorem gX2_sign_0  {T : zT} {I : zI} {L : zL} {R : zR} {P : zP} (hx : zXok T R) (h : zMet mX2_here 1 0 [.ref 1008] T I L R (zqI_ T I L R  (fun (r1 : Int32)  => zMet mJ5_indexOf 4 0 [.ref 34, .int r1] T (z2 I 1008 0 ((I 1008 0) + (1 : Int32))) L R (zqI_ T (z2 I 1008 0 ((I 1008 0) + (1 : Int32))) L R  (fun (r2 : Int32)  => ((r2 < 0 → zAW mX2_sign 5 0 30 [(0, .ref 1008), (1, .int r1)] [.int (5 : Int32), .ref 1008] T (z2 I 1008 0 ((I 1008 0) + (1 : Int32))) L R P) ∧ (¬ r2 < 0 → zAW mX2_sign 5 0 30 [(0, .ref 1008), (1, .int r1)] [.int (3 : Int32), .ref 1008] T (z2 I 1008 0 ((I 1008 0) + (1 : Int32))) L R P))))))) : zAW mX2_sign 5 0 0 [(0, .ref 1008)] [] T I L R P := by
  refine za_aload_n (pc' := 1) 0 dX2_sign_0 rfl rfl rfl ?_
  refine za_callV (κ := 1008) (M2 := mX2_here) (d2 := 1) (b2 := 0) (n := 0) (As := []) (st := []) (pc' := 4) zc1 (by decide) (congrArg Prod.fst (zX_t1008 hx)) dX2_sign_1 rfl (lw_V q601 q603 qs2 q132 q604) ⟨rfl, hd_X2_here⟩ rfl (by decide) (by decide) (Nat.zero_le _) (Or.inl rfl) (Nat.le_of_ble_eq_true rfl) h (zqI__k rfl (fun r1 h => ?_)) (fun _ _ _ _ _ _ h9 h8 => absurd h8.1 h9) rfl
  refine za_istore_n (pc' := 5) (l' := [(1, .int r1), (0, .ref 1008)]) dX2_sign_4 rfl (Nat.le_of_ble_eq_true rfl) rfl rfl ?_
  refine za_aload_n (pc' := 6) 1 dX2_sign_5 rfl rfl rfl ?_
  refine za_dup (pc' := 7) dX2_sign_6 rfl rfl ?_
  refine za_get (fi := 0) (v := .int (I 1008 0)) (pc' := 10) dX2_sign_7 zc1 (by decide) in_X2 (by decide) q185 (Or.inl rfl) (congrArg Prod.fst (zX_t1008 hx)) rfl rfl ?_
  refine za_iconst (pc' := 11) dX2_sign_10 zi_1 rfl ?_
  refine za_iadd (pc' := 12) dX2_sign_11 rfl ?_
  refine za_putI (fi := 0) (pc' := 15) dX2_sign_12 zc1 (by decide) in_X2 zok1 znm1 (by decide) q185 (Or.inl rfl) rfl rfl (fun _ _ _ => rfl) rfl rfl (congrArg Prod.fst (zX_t1008 hx)) rfl ?_
  refine za_aload_n (pc' := 16) 1 dX2_sign_15 rfl rfl rfl ?_
  refine za_ldcOps (pc' := 18) dX2_sign_16 rfl rfl rfl ?_
  refine za_iload_n (pc' := 19) 0 dX2_sign_18 rfl rfl rfl ?_
  refine za_callVS (κ := 34) (M2 := mJ5_indexOf) (d2 := 4) (b2 := 0) (n := 1) (As := [.int r1]) (st := [.ref 1008]) (pc' := 22) (by decide) dX2_sign_19 rfl (lw_V q672 q673 q674 q149 q675) ⟨rfl, hd_J5_indexOf⟩ rfl (by decide) (by decide) (Nat.zero_le _) (Or.inl rfl) (Nat.le_of_ble_eq_true rfl) h (zqI__k rfl (fun r2 h => ?_)) (fun _ _ _ _ _ _ h9 h8 => absurd h8.1 h9) rfl
  refine za_if_lt (pc' := 25) (tgt := 29) dX2_sign_22 (by decide) rfl (fun c9 => ?_) (fun c9 => ?_)
  · replace h := h.1 c9
    refine za_iconst (pc' := 30) dX2_sign_29 zi_5 rfl ?_
    exact zAW_sub [1, 0] rfl h
  · replace h := h.2 c9
    refine za_iconst (pc' := 26) dX2_sign_25 zi_3 rfl ?_
    refine za_goto (tgt := 30) dX2_sign_26 (by decide) ?_
    exact zAW_sub [1, 0] rfl h
theorem gX2_sign_30 {v1 : Int32} {s0 : Int32} {s1 : Nat} {T : zT} {I : zI} {L : zL} {R : zR} {P : zP} (hx : zXok T R) (h : (T s1).1 = 2 ∧ ((v1 = (60 : Int32) → zMet mX2_here 1 0 [.ref 1008] T (z2 (z2 I s1 3 s0) 1008 4 v1) L R (zqI_ T (z2 (z2 I s1 3 s0) 1008 4 v1) L R  (fun (r4 : Int32)  => ((r4 = (61 : Int32) → zAW mX2_sign 5 0 110 [(0, .ref 1008)] [] T (z2 (z2 (z2 I s1 3 s0) 1008 4 v1) 1008 4 (256 : Int32)) L R P) ∧ (¬ r4 = (61 : Int32) → zAW mX2_sign 5 0 63 [(0, .ref 1008), (1, .int v1)] [] T (z2 (z2 I s1 3 s0) 1008 4 v1) L R P))))) ∧ (¬ v1 = (60 : Int32) → zAW mX2_sign 5 0 63 [(0, .ref 1008), (1, .int v1)] [] T (z2 (z2 I s1 3 s0) 1008 4 v1) L R P))) : zAW mX2_sign 5 0 30 [(0, .ref 1008), (1, .int v1)] [.int s0, .ref s1] T I L R P := by
  obtain ⟨ht3, h⟩ := h
  refine za_putI (fi := 3) (pc' := 33) dX2_sign_30 zc1 (by decide) in_X2 zok1 znm1 (by decide) q188 (Or.inl rfl) rfl rfl (fun _ _ _ => rfl) rfl rfl ht3 rfl ?_
  refine za_aload_n (pc' := 34) 0 dX2_sign_33 rfl rfl rfl ?_
  refine za_iload_n (pc' := 35) 1 dX2_sign_34 rfl rfl rfl ?_
  refine za_putI (fi := 4) (pc' := 38) dX2_sign_35 zc1 (by decide) in_X2 zok1 znm1 (by decide) q189 (Or.inl rfl) rfl rfl (fun _ _ _ => rfl) rfl rfl (congrArg Prod.fst (zX_t1008 hx)) rfl ?_
  refine za_iload_n (pc' := 39) 1 dX2_sign_38 rfl rfl rfl ?_
  refine za_bipush (pc' := 41) dX2_sign_39 zb8_60 rfl ?_
  refine za_icmp_ne (pc' := 44) (tgt := 63) dX2_sign_41 (by decide) rfl (fun c9 => ?_) (fun c9 => ?_)
  · replace h := h.2 c9
    exact zAW_sub [0, 1] rfl h
  · replace h := h.1 c9
    refine za_aload_n (pc' := 45) 0 dX2_sign_44 rfl rfl rfl ?_
    refine za_callV (κ := 1008) (M2 := mX2_here) (d2 := 1) (b2 := 0) (n := 0) (As := []) (st := []) (pc' := 48) zc1 (by decide) (congrArg Prod.fst (zX_t1008 hx)) dX2_sign_45 rfl (lw_V q601 q603 qs2 q132 q604) ⟨rfl, hd_X2_here⟩ rfl (by decide) (by decide) (Nat.zero_le _) (Or.inl rfl) (Nat.le_of_ble_eq_true rfl) h (zqI__k rfl (fun r4 h => ?_)) (fun _ _ _ _ _ _ h9 h8 => absurd h8.1 h9) rfl
    refine za_bipush (pc' := 50) dX2_sign_48 zb8_61 rfl ?_
    refine za_icmp_ne (pc' := 53) (tgt := 63) dX2_sign_50 (by decide) rfl (fun c9 => ?_) (fun c9 => ?_)
    · replace h := h.2 c9
      exact zAW_sub [0, 1] rfl h
    · replace h := h.1 c9
      refine za_aload_n (pc' := 54) 0 dX2_sign_53 rfl rfl rfl ?_
      refine za_sipush (pc' := 57) dX2_sign_54 zb16_256 rfl ?_
      refine za_putI (fi := 4) (pc' := 60) dX2_sign_57 zc1 (by decide) in_X2 zok1 znm1 (by decide) q189 (Or.inl rfl) rfl rfl (fun _ _ _ => rfl) rfl rfl (congrArg Prod.fst (zX_t1008 hx)) rfl ?_
      refine za_goto (tgt := 110) dX2_sign_60 (by decide) ?_
      exact zAW_sub [0] rfl h
theorem gX2_sign_63 {v1 : Int32} {T : zT} {I : zI} {L : zL} {R : zR} {P : zP} (hx : zXok T R) (h : ((v1 = (60 : Int32) → zMet mX2_here 1 0 [.ref 1008] T I L R (zqI_ T I L R  (fun (r5 : Int32)  => ((r5 = (62 : Int32) → zAW mX2_sign 5 0 110 [(0, .ref 1008)] [] T (z2 I 1008 4 (258 : Int32)) L R P) ∧ (¬ r5 = (62 : Int32) → zAW mX2_sign 5 0 88 [(0, .ref 1008), (1, .int v1)] [] T I L R P))))) ∧ (¬ v1 = (60 : Int32) → zAW mX2_sign 5 0 88 [(0, .ref 1008), (1, .int v1)] [] T I L R P))) : zAW mX2_sign 5 0 63 [(0, .ref 1008), (1, .int v1)] [] T I L R P := by
  refine za_iload_n (pc' := 64) 1 dX2_sign_63 rfl rfl rfl ?_
  refine za_bipush (pc' := 66) dX2_sign_64 zb8_60 rfl ?_
  refine za_icmp_ne (pc' := 69) (tgt := 88) dX2_sign_66 (by decide) rfl (fun c9 => ?_) (fun c9 => ?_)
  · replace h := h.2 c9
    exact zAW_sub [0, 1] rfl h
  · replace h := h.1 c9
    refine za_aload_n (pc' := 70) 0 dX2_sign_69 rfl rfl rfl ?_
    refine za_callV (κ := 1008) (M2 := mX2_here) (d2 := 1) (b2 := 0) (n := 0) (As := []) (st := []) (pc' := 73) zc1 (by decide) (congrArg Prod.fst (zX_t1008 hx)) dX2_sign_70 rfl (lw_V q601 q603 qs2 q132 q604) ⟨rfl, hd_X2_here⟩ rfl (by decide) (by decide) (Nat.zero_le _) (Or.inl rfl) (Nat.le_of_ble_eq_true rfl) h (zqI__k rfl (fun r5 h => ?_)) (fun _ _ _ _ _ _ h9 h8 => absurd h8.1 h9) rfl
    refine za_bipush (pc' := 75) dX2_sign_73 zb8_62 rfl ?_
    refine za_icmp_ne (pc' := 78) (tgt := 88) dX2_sign_75 (by decide) rfl (fun c9 => ?_) (fun c9 => ?_)
    · replace h := h.2 c9
      exact zAW_sub [0, 1] rfl h
    · replace h := h.1 c9
      refine za_aload_n (pc' := 79) 0 dX2_sign_78 rfl rfl rfl ?_
      refine za_sipush (pc' := 82) dX2_sign_79 zb16_258 rfl ?_
      refine za_putI (fi := 4) (pc' := 85) dX2_sign_82 zc1 (by decide) in_X2 zok1 znm1 (by decide) q189 (Or.inl rfl) rfl rfl (fun _ _ _ => rfl) rfl rfl (congrArg Prod.fst (zX_t1008 hx)) rfl ?_
      refine za_goto (tgt := 110) dX2_sign_85 (by decide) ?_
      exact zAW_sub [0] rfl h
theorem gX2_sign_88 {v1 : Int32} {T : zT} {I : zI} {L : zL} {R : zR} {P : zP} (hx : zXok T R) (h : ((v1 = (62 : Int32) → zMet mX2_here 1 0 [.ref 1008] T I L R (zqI_ T I L R  (fun (r6 : Int32)  => ((r6 = (61 : Int32) → zAW mX2_sign 5 0 110 [(0, .ref 1008)] [] T (z2 I 1008 4 (257 : Int32)) L R P) ∧ (¬ r6 = (61 : Int32) → zAW mX2_sign 5 0 110 [(0, .ref 1008)] [] T I L R P))))) ∧ (¬ v1 = (62 : Int32) → zAW mX2_sign 5 0 110 [(0, .ref 1008)] [] T I L R P))) : zAW mX2_sign 5 0 88 [(0, .ref 1008), (1, .int v1)] [] T I L R P := by
  refine za_iload_n (pc' := 89) 1 dX2_sign_88 rfl rfl rfl ?_
  refine za_bipush (pc' := 91) dX2_sign_89 zb8_62 rfl ?_
  refine za_icmp_ne (pc' := 94) (tgt := 110) dX2_sign_91 (by decide) rfl (fun c9 => ?_) (fun c9 => ?_)
  · replace h := h.2 c9
    exact zAW_sub [0] rfl h
  · replace h := h.1 c9
    refine za_aload_n (pc' := 95) 0 dX2_sign_94 rfl rfl rfl ?_
    refine za_callV (κ := 1008) (M2 := mX2_here) (d2 := 1) (b2 := 0) (n := 0) (As := []) (st := []) (pc' := 98) zc1 (by decide) (congrArg Prod.fst (zX_t1008 hx)) dX2_sign_95 rfl (lw_V q601 q603 qs2 q132 q604) ⟨rfl, hd_X2_here⟩ rfl (by decide) (by decide) (Nat.zero_le _) (Or.inl rfl) (Nat.le_of_ble_eq_true rfl) h (zqI__k rfl (fun r6 h => ?_)) (fun _ _ _ _ _ _ h9 h8 => absurd h8.1 h9) rfl
    refine za_bipush (pc' := 100) dX2_sign_98 zb8_61 rfl ?_
    refine za_icmp_ne (pc' := 103) (tgt := 110) dX2_sign_100 (by decide) rfl (fun c9 => ?_) (fun c9 => ?_)
    · replace h := h.2 c9
      exact zAW_sub [0] rfl h
    · replace h := h.1 c9
      refine za_aload_n (pc' := 104) 0 dX2_sign_103 rfl rfl rfl ?_
      refine za_sipush (pc' := 107) dX2_sign_104 zb16_257 rfl ?_
      refine za_putI (fi := 4) (pc' := 110) dX2_sign_107 zc1 (by decide) in_X2 zok1 znm1 (by decide) q189 (Or.inl rfl) rfl rfl (fun _ _ _ => rfl) rfl rfl (congrArg Prod.fst (zX_t1008 hx)) rfl ?_
      exact zAW_sub [0] rfl h
theorem gX2_sign_110  {T : zT} {I : zI} {L : zL} {R : zR} {P : zP} (hx : zXok T R) (h : (((I 1008 4) < (256 : Int32) → P 0 (.int 0) T I L R) ∧ (¬ (I 1008 4) < (256 : Int32) → P 0 (.int 0) T (z2 I 1008 0 ((I 1008 0) + (1 : Int32))) L R))) : zAW mX2_sign 5 0 110 [(0, .ref 1008)] [] T I L R P := by
  refine za_aload_n (pc' := 111) 0 dX2_sign_110 rfl rfl rfl ?_
  refine za_get (fi := 4) (v := .int (I 1008 4)) (pc' := 114) dX2_sign_111 zc1 (by decide) in_X2 (by decide) q189 (Or.inl rfl) (congrArg Prod.fst (zX_t1008 hx)) rfl rfl ?_
  refine za_sipush (pc' := 117) dX2_sign_114 zb16_256 rfl ?_
  refine za_icmp_lt (pc' := 120) (tgt := 130) dX2_sign_117 (by decide) rfl (fun c9 => ?_) (fun c9 => ?_)
  · replace h := h.1 c9
    exact za_return rfl dX2_sign_130 h
  · replace h := h.2 c9
    refine za_aload_n (pc' := 121) 0 dX2_sign_120 rfl rfl rfl ?_
    refine za_dup (pc' := 122) dX2_sign_121 rfl rfl ?_
    refine za_get (fi := 0) (v := .int (I 1008 0)) (pc' := 125) dX2_sign_122 zc1 (by decide) in_X2 (by decide) q185 (Or.inl rfl) (congrArg Prod.fst (zX_t1008 hx)) rfl rfl ?_
    refine za_iconst (pc' := 126) dX2_sign_125 zi_1 rfl ?_
    refine za_iadd (pc' := 127) dX2_sign_126 rfl ?_
    refine za_putI (fi := 0) (pc' := 130) dX2_sign_127 zc1 (by decide) in_X2 zok1 znm1 (by decide) q185 (Or.inl rfl) rfl rfl (fun _ _ _ => rfl) rfl rfl (congrArg Prod.fst (zX_t1008 hx)) rfl ?_
    exact za_return rfl dX2_sign_130 h
theorem sX2_sign {d b : Nat}  {T : zT} {I : zI} {L : zL} {R : zR} {P : zP} (h : zAW mX2_sign d b 0 [(0, .ref 1008)] [] T I L R P) : zMet mX2_sign d b [.ref 1008] T I L R P := zMet_of (by decide +kernel) rfl (Nat.le_of_ble_eq_true rfl) rfl h
/-! TwoTongues$Reader.line ()V -/
def dkwX2_line_12 : List UInt8 := [182, 0, 85, 191, 42, 182, 0, 89, 42, 180, 0, 101, 89, 180, 0, 197, 4, 96, 181, 0, 197, 177]
abbrev dktX2_line_12 : List UInt8 := dkwX2_line_12 ++ []
def dkwX2_line_11 : List UInt8 := [42, 180, 0, 101, 42, 182, 0, 186, 181, 0, 190, 42, 16, 59, 182, 0, 194, 154, 0, 9, 42, 4]
abbrev dktX2_line_11 : List UInt8 := dkwX2_line_11 ++ dktX2_line_12
def dkwX2_line_10 : List UInt8 := [167, 0, 35, 42, 16, 14, 16, 14, 182, 0, 137, 154, 0, 9, 42, 4, 182, 0, 85, 191, 42, 182, 0, 89]
abbrev dktX2_line_10 : List UInt8 := dkwX2_line_10 ++ dktX2_line_11
def dkwX2_line_9 : List UInt8 := [182, 0, 176, 181, 0, 180, 167, 0, 52, 42, 180, 0, 101, 42, 3, 18, 57, 182, 0, 176, 181, 0, 183]
abbrev dktX2_line_9 : List UInt8 := dkwX2_line_9 ++ dktX2_line_10
def dkwX2_line_8 : List UInt8 := [180, 0, 101, 180, 0, 134, 44, 182, 0, 172, 87, 167, 0, 70, 42, 180, 0, 101, 42, 3, 17, 39, 15]
abbrev dktX2_line_8 : List UInt8 := dkwX2_line_8 ++ dktX2_line_9
def dkwX2_line_7 : List UInt8 := [167, 0, 105, 42, 182, 0, 162, 167, 0, 98, 187, 0, 165, 89, 183, 0, 167, 77, 42, 44, 182, 0, 168, 42]
abbrev dktX2_line_7 : List UInt8 := dkwX2_line_7 ++ dktX2_line_8
def dkwX2_line_6 : List UInt8 := [182, 0, 149, 167, 0, 126, 42, 182, 0, 153, 167, 0, 119, 42, 182, 0, 156, 167, 0, 112, 42, 182, 0, 159]
abbrev dktX2_line_6 : List UInt8 := dkwX2_line_6 ++ dktX2_line_7
def dkwX2_line_5 : List UInt8 := [42, 27, 154, 0, 13, 42, 180, 0, 101, 180, 0, 108, 167, 0, 10, 42, 180, 0, 101, 180, 0, 117]
abbrev dktX2_line_5 : List UInt8 := dkwX2_line_5 ++ dktX2_line_6
def dkwX2_line_4 : List UInt8 := [170, 0, 0, 0, 0, 0, 0, 171, 0, 0, 0, 0, 0, 0, 0, 8, 0, 0, 0, 52, 0, 0, 0, 52, 0, 0, 0, 80, 0, 0, 0, 87, 0, 0, 0, 94, 0, 0, 0, 101, 0, 0, 0, 108, 0, 0, 0, 136, 0, 0, 0, 154]
abbrev dktX2_line_4 : List UInt8 := dkwX2_line_4 ++ dktX2_line_5
def dkwX2_line_3 : List UInt8 := [180, 0, 95, 4, 27, 120, 128, 181, 0, 95, 42, 182, 0, 89, 27]
abbrev dktX2_line_3 : List UInt8 := dkwX2_line_3 ++ dktX2_line_4
def dkwX2_line_2 : List UInt8 := [153, 0, 21, 42, 180, 0, 95, 27, 122, 4, 126, 4, 160, 0, 9, 42, 6, 182, 0, 85, 191, 42, 89]
abbrev dktX2_line_2 : List UInt8 := dkwX2_line_2 ++ dktX2_line_3
def dkwX2_line_1 : List UInt8 := [182, 0, 141, 153, 0, 9, 42, 5, 182, 0, 85, 191, 27, 133, 20, 0, 145, 20, 0, 147, 184, 0, 40]
abbrev dktX2_line_1 : List UInt8 := dkwX2_line_1 ++ dktX2_line_2
def dkwX2_line_0 : List UInt8 := [42, 3, 16, 9, 182, 0, 137, 154, 0, 9, 42, 4, 182, 0, 85, 191, 42, 180, 0, 47, 60, 42, 27]
abbrev dktX2_line_0 : List UInt8 := dkwX2_line_0 ++ dktX2_line_1
theorem dksX2_line_0 : cX2_line.data.toList.drop 0 = dktX2_line_0 := by decide +kernel
theorem dksX2_line_1 : cX2_line.data.toList.drop 23 = dktX2_line_1 := dk_seg dksX2_line_0 23 rfl rfl
theorem dksX2_line_2 : cX2_line.data.toList.drop 46 = dktX2_line_2 := dk_seg dksX2_line_1 23 rfl rfl
theorem dksX2_line_3 : cX2_line.data.toList.drop 69 = dktX2_line_3 := dk_seg dksX2_line_2 23 rfl rfl
theorem dksX2_line_4 : cX2_line.data.toList.drop 84 = dktX2_line_4 := dk_seg dksX2_line_3 15 rfl rfl
theorem dksX2_line_5 : cX2_line.data.toList.drop 136 = dktX2_line_5 := dk_seg dksX2_line_4 52 rfl rfl
theorem dksX2_line_6 : cX2_line.data.toList.drop 158 = dktX2_line_6 := dk_seg dksX2_line_5 22 rfl rfl
theorem dksX2_line_7 : cX2_line.data.toList.drop 182 = dktX2_line_7 := dk_seg dksX2_line_6 24 rfl rfl
theorem dksX2_line_8 : cX2_line.data.toList.drop 206 = dktX2_line_8 := dk_seg dksX2_line_7 24 rfl rfl
theorem dksX2_line_9 : cX2_line.data.toList.drop 229 = dktX2_line_9 := dk_seg dksX2_line_8 23 rfl rfl
theorem dksX2_line_10 : cX2_line.data.toList.drop 252 = dktX2_line_10 := dk_seg dksX2_line_9 23 rfl rfl
theorem dksX2_line_11 : cX2_line.data.toList.drop 276 = dktX2_line_11 := dk_seg dksX2_line_10 24 rfl rfl
theorem dksX2_line_12 : cX2_line.data.toList.drop 298 = dktX2_line_12 := dk_seg dksX2_line_11 22 rfl rfl
theorem dX2_line_0 : decode cX2_line 0 = .ok (.aload_n 0, 1) := dk_42 (dk_at dksX2_line_0 0 rfl rfl)
theorem dX2_line_1 : decode cX2_line 1 = .ok (.iconst 0, 1) := dk_3 (dk_at dksX2_line_0 1 rfl rfl)
theorem dX2_line_2 : decode cX2_line 2 = .ok (.bipush 9, 2) := dk_16 9 (dk_at dksX2_line_0 2 rfl rfl)
theorem dX2_line_4 : decode cX2_line 4 = .ok (.invokevirtual 137, 3) := dk_182 0 137 (dk_at dksX2_line_0 4 rfl rfl)
theorem dX2_line_7 : decode cX2_line 7 = .ok (.ifCond .ne 9, 3) := dk_154 0 9 (dk_at dksX2_line_0 7 rfl rfl)
theorem dX2_line_10 : decode cX2_line 10 = .ok (.aload_n 0, 1) := dk_42 (dk_at dksX2_line_0 10 rfl rfl)
theorem dX2_line_11 : decode cX2_line 11 = .ok (.iconst 1, 1) := dk_4 (dk_at dksX2_line_0 11 rfl rfl)
theorem dX2_line_12 : decode cX2_line 12 = .ok (.invokevirtual 85, 3) := dk_182 0 85 (dk_at dksX2_line_0 12 rfl rfl)
theorem dX2_line_15 : decode cX2_line 15 = .ok (.athrow, 1) := dk_191 (dk_at dksX2_line_0 15 rfl rfl)
theorem dX2_line_16 : decode cX2_line 16 = .ok (.aload_n 0, 1) := dk_42 (dk_at dksX2_line_0 16 rfl rfl)
theorem dX2_line_17 : decode cX2_line 17 = .ok (.getfield 47, 3) := dk_180 0 47 (dk_at dksX2_line_0 17 rfl rfl)
theorem dX2_line_20 : decode cX2_line 20 = .ok (.istore_n 1, 1) := dk_60 (dk_at dksX2_line_0 20 rfl rfl)
theorem dX2_line_21 : decode cX2_line 21 = .ok (.aload_n 0, 1) := dk_42 (dk_at dksX2_line_0 21 rfl rfl)
theorem dX2_line_22 : decode cX2_line 22 = .ok (.iload_n 1, 1) := dk_27 (dk_at dksX2_line_0 22 rfl rfl)
theorem dX2_line_23 : decode cX2_line 23 = .ok (.invokevirtual 141, 3) := dk_182 0 141 (dk_at dksX2_line_1 0 rfl rfl)
theorem dX2_line_26 : decode cX2_line 26 = .ok (.ifCond .eq 9, 3) := dk_153 0 9 (dk_at dksX2_line_1 3 rfl rfl)
theorem dX2_line_29 : decode cX2_line 29 = .ok (.aload_n 0, 1) := dk_42 (dk_at dksX2_line_1 6 rfl rfl)
theorem dX2_line_30 : decode cX2_line 30 = .ok (.iconst 2, 1) := dk_5 (dk_at dksX2_line_1 7 rfl rfl)
theorem dX2_line_31 : decode cX2_line 31 = .ok (.invokevirtual 85, 3) := dk_182 0 85 (dk_at dksX2_line_1 8 rfl rfl)
theorem dX2_line_34 : decode cX2_line 34 = .ok (.athrow, 1) := dk_191 (dk_at dksX2_line_1 11 rfl rfl)
theorem dX2_line_35 : decode cX2_line 35 = .ok (.iload_n 1, 1) := dk_27 (dk_at dksX2_line_1 12 rfl rfl)
theorem dX2_line_36 : decode cX2_line 36 = .ok (.i2l, 1) := dk_133 (dk_at dksX2_line_1 13 rfl rfl)
theorem dX2_line_37 : decode cX2_line 37 = .ok (.ldc2_w 145, 3) := dk_20 0 145 (dk_at dksX2_line_1 14 rfl rfl)
theorem dX2_line_40 : decode cX2_line 40 = .ok (.ldc2_w 147, 3) := dk_20 0 147 (dk_at dksX2_line_1 17 rfl rfl)
theorem dX2_line_43 : decode cX2_line 43 = .ok (.invokestatic 40, 3) := dk_184 0 40 (dk_at dksX2_line_1 20 rfl rfl)
theorem dX2_line_46 : decode cX2_line 46 = .ok (.ifCond .eq 21, 3) := dk_153 0 21 (dk_at dksX2_line_2 0 rfl rfl)
theorem dX2_line_49 : decode cX2_line 49 = .ok (.aload_n 0, 1) := dk_42 (dk_at dksX2_line_2 3 rfl rfl)
theorem dX2_line_50 : decode cX2_line 50 = .ok (.getfield 95, 3) := dk_180 0 95 (dk_at dksX2_line_2 4 rfl rfl)
theorem dX2_line_53 : decode cX2_line 53 = .ok (.iload_n 1, 1) := dk_27 (dk_at dksX2_line_2 7 rfl rfl)
theorem dX2_line_54 : decode cX2_line 54 = .ok (.ishr, 1) := dk_122 (dk_at dksX2_line_2 8 rfl rfl)
theorem dX2_line_55 : decode cX2_line 55 = .ok (.iconst 1, 1) := dk_4 (dk_at dksX2_line_2 9 rfl rfl)
theorem dX2_line_56 : decode cX2_line 56 = .ok (.iand, 1) := dk_126 (dk_at dksX2_line_2 10 rfl rfl)
theorem dX2_line_57 : decode cX2_line 57 = .ok (.iconst 1, 1) := dk_4 (dk_at dksX2_line_2 11 rfl rfl)
theorem dX2_line_58 : decode cX2_line 58 = .ok (.if_icmp .ne 9, 3) := dk_160 0 9 (dk_at dksX2_line_2 12 rfl rfl)
theorem dX2_line_61 : decode cX2_line 61 = .ok (.aload_n 0, 1) := dk_42 (dk_at dksX2_line_2 15 rfl rfl)
theorem dX2_line_62 : decode cX2_line 62 = .ok (.iconst 3, 1) := dk_6 (dk_at dksX2_line_2 16 rfl rfl)
theorem dX2_line_63 : decode cX2_line 63 = .ok (.invokevirtual 85, 3) := dk_182 0 85 (dk_at dksX2_line_2 17 rfl rfl)
theorem dX2_line_66 : decode cX2_line 66 = .ok (.athrow, 1) := dk_191 (dk_at dksX2_line_2 20 rfl rfl)
theorem dX2_line_67 : decode cX2_line 67 = .ok (.aload_n 0, 1) := dk_42 (dk_at dksX2_line_2 21 rfl rfl)
theorem dX2_line_68 : decode cX2_line 68 = .ok (.dup, 1) := dk_89 (dk_at dksX2_line_2 22 rfl rfl)
theorem dX2_line_69 : decode cX2_line 69 = .ok (.getfield 95, 3) := dk_180 0 95 (dk_at dksX2_line_3 0 rfl rfl)
theorem dX2_line_72 : decode cX2_line 72 = .ok (.iconst 1, 1) := dk_4 (dk_at dksX2_line_3 3 rfl rfl)
theorem dX2_line_73 : decode cX2_line 73 = .ok (.iload_n 1, 1) := dk_27 (dk_at dksX2_line_3 4 rfl rfl)
theorem dX2_line_74 : decode cX2_line 74 = .ok (.ishl, 1) := dk_120 (dk_at dksX2_line_3 5 rfl rfl)
theorem dX2_line_75 : decode cX2_line 75 = .ok (.ior, 1) := dk_128 (dk_at dksX2_line_3 6 rfl rfl)
theorem dX2_line_76 : decode cX2_line 76 = .ok (.putfield 95, 3) := dk_181 0 95 (dk_at dksX2_line_3 7 rfl rfl)
theorem dX2_line_79 : decode cX2_line 79 = .ok (.aload_n 0, 1) := dk_42 (dk_at dksX2_line_3 10 rfl rfl)
theorem dX2_line_80 : decode cX2_line 80 = .ok (.invokevirtual 89, 3) := dk_182 0 89 (dk_at dksX2_line_3 11 rfl rfl)
theorem dX2_line_83 : decode cX2_line 83 = .ok (.iload_n 1, 1) := dk_27 (dk_at dksX2_line_3 14 rfl rfl)
theorem dX2_line_84 : decode cX2_line 84 = .ok (.tableswitch 171 0 8 #[52, 52, 80, 87, 94, 101, 108, 136, 154], 52) := by decide +kernel
theorem dX2_line_136 : decode cX2_line 136 = .ok (.aload_n 0, 1) := dk_42 (dk_at dksX2_line_5 0 rfl rfl)
theorem dX2_line_137 : decode cX2_line 137 = .ok (.iload_n 1, 1) := dk_27 (dk_at dksX2_line_5 1 rfl rfl)
theorem dX2_line_138 : decode cX2_line 138 = .ok (.ifCond .ne 13, 3) := dk_154 0 13 (dk_at dksX2_line_5 2 rfl rfl)
theorem dX2_line_141 : decode cX2_line 141 = .ok (.aload_n 0, 1) := dk_42 (dk_at dksX2_line_5 5 rfl rfl)
theorem dX2_line_142 : decode cX2_line 142 = .ok (.getfield 101, 3) := dk_180 0 101 (dk_at dksX2_line_5 6 rfl rfl)
theorem dX2_line_145 : decode cX2_line 145 = .ok (.getfield 108, 3) := dk_180 0 108 (dk_at dksX2_line_5 9 rfl rfl)
theorem dX2_line_148 : decode cX2_line 148 = .ok (.goto 10, 3) := dk_167 0 10 (dk_at dksX2_line_5 12 rfl rfl)
theorem dX2_line_151 : decode cX2_line 151 = .ok (.aload_n 0, 1) := dk_42 (dk_at dksX2_line_5 15 rfl rfl)
theorem dX2_line_152 : decode cX2_line 152 = .ok (.getfield 101, 3) := dk_180 0 101 (dk_at dksX2_line_5 16 rfl rfl)
theorem dX2_line_155 : decode cX2_line 155 = .ok (.getfield 117, 3) := dk_180 0 117 (dk_at dksX2_line_5 19 rfl rfl)
theorem dX2_line_158 : decode cX2_line 158 = .ok (.invokevirtual 149, 3) := dk_182 0 149 (dk_at dksX2_line_6 0 rfl rfl)
theorem dX2_line_161 : decode cX2_line 161 = .ok (.goto 126, 3) := dk_167 0 126 (dk_at dksX2_line_6 3 rfl rfl)
theorem dX2_line_164 : decode cX2_line 164 = .ok (.aload_n 0, 1) := dk_42 (dk_at dksX2_line_6 6 rfl rfl)
theorem dX2_line_165 : decode cX2_line 165 = .ok (.invokevirtual 153, 3) := dk_182 0 153 (dk_at dksX2_line_6 7 rfl rfl)
theorem dX2_line_168 : decode cX2_line 168 = .ok (.goto 119, 3) := dk_167 0 119 (dk_at dksX2_line_6 10 rfl rfl)
theorem dX2_line_171 : decode cX2_line 171 = .ok (.aload_n 0, 1) := dk_42 (dk_at dksX2_line_6 13 rfl rfl)
theorem dX2_line_172 : decode cX2_line 172 = .ok (.invokevirtual 156, 3) := dk_182 0 156 (dk_at dksX2_line_6 14 rfl rfl)
theorem dX2_line_175 : decode cX2_line 175 = .ok (.goto 112, 3) := dk_167 0 112 (dk_at dksX2_line_6 17 rfl rfl)
theorem dX2_line_178 : decode cX2_line 178 = .ok (.aload_n 0, 1) := dk_42 (dk_at dksX2_line_6 20 rfl rfl)
theorem dX2_line_179 : decode cX2_line 179 = .ok (.invokevirtual 159, 3) := dk_182 0 159 (dk_at dksX2_line_6 21 rfl rfl)
theorem dX2_line_182 : decode cX2_line 182 = .ok (.goto 105, 3) := dk_167 0 105 (dk_at dksX2_line_7 0 rfl rfl)
theorem dX2_line_185 : decode cX2_line 185 = .ok (.aload_n 0, 1) := dk_42 (dk_at dksX2_line_7 3 rfl rfl)
theorem dX2_line_186 : decode cX2_line 186 = .ok (.invokevirtual 162, 3) := dk_182 0 162 (dk_at dksX2_line_7 4 rfl rfl)
theorem dX2_line_189 : decode cX2_line 189 = .ok (.goto 98, 3) := dk_167 0 98 (dk_at dksX2_line_7 7 rfl rfl)
theorem dX2_line_192 : decode cX2_line 192 = .ok (.new 165, 3) := dk_187 0 165 (dk_at dksX2_line_7 10 rfl rfl)
theorem dX2_line_195 : decode cX2_line 195 = .ok (.dup, 1) := dk_89 (dk_at dksX2_line_7 13 rfl rfl)
theorem dX2_line_196 : decode cX2_line 196 = .ok (.invokespecial 167, 3) := dk_183 0 167 (dk_at dksX2_line_7 14 rfl rfl)
theorem dX2_line_199 : decode cX2_line 199 = .ok (.astore_n 2, 1) := dk_77 (dk_at dksX2_line_7 17 rfl rfl)
theorem dX2_line_200 : decode cX2_line 200 = .ok (.aload_n 0, 1) := dk_42 (dk_at dksX2_line_7 18 rfl rfl)
theorem dX2_line_201 : decode cX2_line 201 = .ok (.aload_n 2, 1) := dk_44 (dk_at dksX2_line_7 19 rfl rfl)
theorem dX2_line_202 : decode cX2_line 202 = .ok (.invokevirtual 168, 3) := dk_182 0 168 (dk_at dksX2_line_7 20 rfl rfl)
theorem dX2_line_205 : decode cX2_line 205 = .ok (.aload_n 0, 1) := dk_42 (dk_at dksX2_line_7 23 rfl rfl)
theorem dX2_line_206 : decode cX2_line 206 = .ok (.getfield 101, 3) := dk_180 0 101 (dk_at dksX2_line_8 0 rfl rfl)
theorem dX2_line_209 : decode cX2_line 209 = .ok (.getfield 134, 3) := dk_180 0 134 (dk_at dksX2_line_8 3 rfl rfl)
theorem dX2_line_212 : decode cX2_line 212 = .ok (.aload_n 2, 1) := dk_44 (dk_at dksX2_line_8 6 rfl rfl)
theorem dX2_line_213 : decode cX2_line 213 = .ok (.invokevirtual 172, 3) := dk_182 0 172 (dk_at dksX2_line_8 7 rfl rfl)
theorem dX2_line_216 : decode cX2_line 216 = .ok (.pop, 1) := dk_87 (dk_at dksX2_line_8 10 rfl rfl)
theorem dX2_line_217 : decode cX2_line 217 = .ok (.goto 70, 3) := dk_167 0 70 (dk_at dksX2_line_8 11 rfl rfl)
theorem dX2_line_220 : decode cX2_line 220 = .ok (.aload_n 0, 1) := dk_42 (dk_at dksX2_line_8 14 rfl rfl)
theorem dX2_line_221 : decode cX2_line 221 = .ok (.getfield 101, 3) := dk_180 0 101 (dk_at dksX2_line_8 15 rfl rfl)
theorem dX2_line_224 : decode cX2_line 224 = .ok (.aload_n 0, 1) := dk_42 (dk_at dksX2_line_8 18 rfl rfl)
theorem dX2_line_225 : decode cX2_line 225 = .ok (.iconst 0, 1) := dk_3 (dk_at dksX2_line_8 19 rfl rfl)
theorem dX2_line_226 : decode cX2_line 226 = .ok (.sipush 9999, 3) := dk_17 39 15 (dk_at dksX2_line_8 20 rfl rfl)
theorem dX2_line_229 : decode cX2_line 229 = .ok (.invokevirtual 176, 3) := dk_182 0 176 (dk_at dksX2_line_9 0 rfl rfl)
theorem dX2_line_232 : decode cX2_line 232 = .ok (.putfield 180, 3) := dk_181 0 180 (dk_at dksX2_line_9 3 rfl rfl)
theorem dX2_line_235 : decode cX2_line 235 = .ok (.goto 52, 3) := dk_167 0 52 (dk_at dksX2_line_9 6 rfl rfl)
theorem dX2_line_238 : decode cX2_line 238 = .ok (.aload_n 0, 1) := dk_42 (dk_at dksX2_line_9 9 rfl rfl)
theorem dX2_line_239 : decode cX2_line 239 = .ok (.getfield 101, 3) := dk_180 0 101 (dk_at dksX2_line_9 10 rfl rfl)
theorem dX2_line_242 : decode cX2_line 242 = .ok (.aload_n 0, 1) := dk_42 (dk_at dksX2_line_9 13 rfl rfl)
theorem dX2_line_243 : decode cX2_line 243 = .ok (.iconst 0, 1) := dk_3 (dk_at dksX2_line_9 14 rfl rfl)
theorem dX2_line_244 : decode cX2_line 244 = .ok (.ldc 57, 2) := dk_18 57 (dk_at dksX2_line_9 15 rfl rfl)
theorem dX2_line_246 : decode cX2_line 246 = .ok (.invokevirtual 176, 3) := dk_182 0 176 (dk_at dksX2_line_9 17 rfl rfl)
theorem dX2_line_249 : decode cX2_line 249 = .ok (.putfield 183, 3) := dk_181 0 183 (dk_at dksX2_line_9 20 rfl rfl)
theorem dX2_line_252 : decode cX2_line 252 = .ok (.goto 35, 3) := dk_167 0 35 (dk_at dksX2_line_10 0 rfl rfl)
theorem dX2_line_255 : decode cX2_line 255 = .ok (.aload_n 0, 1) := dk_42 (dk_at dksX2_line_10 3 rfl rfl)
theorem dX2_line_256 : decode cX2_line 256 = .ok (.bipush 14, 2) := dk_16 14 (dk_at dksX2_line_10 4 rfl rfl)
theorem dX2_line_258 : decode cX2_line 258 = .ok (.bipush 14, 2) := dk_16 14 (dk_at dksX2_line_10 6 rfl rfl)
theorem dX2_line_260 : decode cX2_line 260 = .ok (.invokevirtual 137, 3) := dk_182 0 137 (dk_at dksX2_line_10 8 rfl rfl)
theorem dX2_line_263 : decode cX2_line 263 = .ok (.ifCond .ne 9, 3) := dk_154 0 9 (dk_at dksX2_line_10 11 rfl rfl)
theorem dX2_line_266 : decode cX2_line 266 = .ok (.aload_n 0, 1) := dk_42 (dk_at dksX2_line_10 14 rfl rfl)
theorem dX2_line_267 : decode cX2_line 267 = .ok (.iconst 1, 1) := dk_4 (dk_at dksX2_line_10 15 rfl rfl)
theorem dX2_line_268 : decode cX2_line 268 = .ok (.invokevirtual 85, 3) := dk_182 0 85 (dk_at dksX2_line_10 16 rfl rfl)
theorem dX2_line_271 : decode cX2_line 271 = .ok (.athrow, 1) := dk_191 (dk_at dksX2_line_10 19 rfl rfl)
theorem dX2_line_272 : decode cX2_line 272 = .ok (.aload_n 0, 1) := dk_42 (dk_at dksX2_line_10 20 rfl rfl)
theorem dX2_line_273 : decode cX2_line 273 = .ok (.invokevirtual 89, 3) := dk_182 0 89 (dk_at dksX2_line_10 21 rfl rfl)
theorem dX2_line_276 : decode cX2_line 276 = .ok (.aload_n 0, 1) := dk_42 (dk_at dksX2_line_11 0 rfl rfl)
theorem dX2_line_277 : decode cX2_line 277 = .ok (.getfield 101, 3) := dk_180 0 101 (dk_at dksX2_line_11 1 rfl rfl)
theorem dX2_line_280 : decode cX2_line 280 = .ok (.aload_n 0, 1) := dk_42 (dk_at dksX2_line_11 4 rfl rfl)
theorem dX2_line_281 : decode cX2_line 281 = .ok (.invokevirtual 186, 3) := dk_182 0 186 (dk_at dksX2_line_11 5 rfl rfl)
theorem dX2_line_284 : decode cX2_line 284 = .ok (.putfield 190, 3) := dk_181 0 190 (dk_at dksX2_line_11 8 rfl rfl)
theorem dX2_line_287 : decode cX2_line 287 = .ok (.aload_n 0, 1) := dk_42 (dk_at dksX2_line_11 11 rfl rfl)
theorem dX2_line_288 : decode cX2_line 288 = .ok (.bipush 59, 2) := dk_16 59 (dk_at dksX2_line_11 12 rfl rfl)
theorem dX2_line_290 : decode cX2_line 290 = .ok (.invokevirtual 194, 3) := dk_182 0 194 (dk_at dksX2_line_11 14 rfl rfl)
theorem dX2_line_293 : decode cX2_line 293 = .ok (.ifCond .ne 9, 3) := dk_154 0 9 (dk_at dksX2_line_11 17 rfl rfl)
theorem dX2_line_296 : decode cX2_line 296 = .ok (.aload_n 0, 1) := dk_42 (dk_at dksX2_line_11 20 rfl rfl)
theorem dX2_line_297 : decode cX2_line 297 = .ok (.iconst 1, 1) := dk_4 (dk_at dksX2_line_11 21 rfl rfl)
theorem dX2_line_298 : decode cX2_line 298 = .ok (.invokevirtual 85, 3) := dk_182 0 85 (dk_at dksX2_line_12 0 rfl rfl)
theorem dX2_line_301 : decode cX2_line 301 = .ok (.athrow, 1) := dk_191 (dk_at dksX2_line_12 3 rfl rfl)
theorem dX2_line_302 : decode cX2_line 302 = .ok (.aload_n 0, 1) := dk_42 (dk_at dksX2_line_12 4 rfl rfl)
theorem dX2_line_303 : decode cX2_line 303 = .ok (.invokevirtual 89, 3) := dk_182 0 89 (dk_at dksX2_line_12 5 rfl rfl)
theorem dX2_line_306 : decode cX2_line 306 = .ok (.aload_n 0, 1) := dk_42 (dk_at dksX2_line_12 8 rfl rfl)
theorem dX2_line_307 : decode cX2_line 307 = .ok (.getfield 101, 3) := dk_180 0 101 (dk_at dksX2_line_12 9 rfl rfl)
theorem dX2_line_310 : decode cX2_line 310 = .ok (.dup, 1) := dk_89 (dk_at dksX2_line_12 12 rfl rfl)
theorem dX2_line_311 : decode cX2_line 311 = .ok (.getfield 197, 3) := dk_180 0 197 (dk_at dksX2_line_12 13 rfl rfl)
theorem dX2_line_314 : decode cX2_line 314 = .ok (.iconst 1, 1) := dk_4 (dk_at dksX2_line_12 16 rfl rfl)
theorem dX2_line_315 : decode cX2_line 315 = .ok (.iadd, 1) := dk_96 (dk_at dksX2_line_12 17 rfl rfl)
theorem dX2_line_316 : decode cX2_line 316 = .ok (.putfield 197, 3) := dk_181 0 197 (dk_at dksX2_line_12 18 rfl rfl)
theorem dX2_line_319 : decode cX2_line 319 = .ok (.return_, 1) := dk_177 (dk_at dksX2_line_12 21 rfl rfl)
theorem gX2_line_0 {b : Nat}  {T : zT} {I : zI} {L : zL} {R : zR} {P : zP} (hx : zXok T R) (h : zMet mX2_isWord 2 0 [.ref 1008, .int (0 : Int32), .int (9 : Int32)] T I L R (zqI_ T I L R  (fun (r1 : Int32)  => ((r1 = 0 → ∃ b28, b28 ≤ (b - 0) ∧ zMet mX2_wrong 4 b28 [.ref 1008, .int (1 : Int32)] T I L R (zqR_TILR   (fun (r22 : Nat) (T23 : zT) (I24 : zI) (L25 : zL) (R26 : zR)  => zXok T23 R26 ∧ (T23 r22).1 = 14 ∧ P 1 (.ref r22) T23 I24 L25 R26))) ∧ (¬ r1 = 0 → zMet mX2_isFull 2 0 [.ref 1008, .int (I 1008 4)] T I L R (zqI_ T I L R  (fun (r2 : Int32)  => ((r2 = 0 → zMet mX1_in 1 0 [.long ((I 1008 4).toInt64), .long (7 : Int64), .long (9 : Int64)] T I L R (zqI_ T I L R  (fun (r3 : Int32)  => ((r3 = 0 → zAW mX2_line 401 (((b - 0) - 0) - 0) 67 [(0, .ref 1008), (1, .int (I 1008 4))] [] T I L R P) ∧ (¬ r3 = 0 → (((((I 1008 6) >>> ((I 1008 4) &&& 31)) &&& (1 : Int32)) = (1 : Int32) → ∃ b10, b10 ≤ (((b - 0) - 0) - 0) ∧ zMet mX2_wrong 4 b10 [.ref 1008, .int (3 : Int32)] T I L R (zqR_TILR   (fun (r4 : Nat) (T5 : zT) (I6 : zI) (L7 : zL) (R8 : zR)  => zXok T5 R8 ∧ (T5 r4).1 = 14 ∧ P 1 (.ref r4) T5 I6 L7 R8))) ∧ (¬ (((I 1008 6) >>> ((I 1008 4) &&& 31)) &&& (1 : Int32)) = (1 : Int32) → zAW mX2_line 401 (((b - 0) - 0) - 0) 67 [(0, .ref 1008), (1, .int (I 1008 4))] [] T I L R P))))))) ∧ (¬ r2 = 0 → ∃ b19, b19 ≤ ((b - 0) - 0) ∧ zMet mX2_wrong 4 b19 [.ref 1008, .int (2 : Int32)] T I L R (zqR_TILR   (fun (r13 : Nat) (T14 : zT) (I15 : zI) (L16 : zL) (R17 : zR)  => zXok T14 R17 ∧ (T14 r13).1 = 14 ∧ P 1 (.ref r13) T14 I15 L16 R17))))))))))) : zAW mX2_line 401 b 0 [(0, .ref 1008)] [] T I L R P := by
  refine za_aload_n (pc' := 1) 0 dX2_line_0 rfl rfl rfl ?_
  refine za_iconst (pc' := 2) dX2_line_1 zi_0 rfl ?_
  refine za_bipush (pc' := 4) dX2_line_2 zb8_9 rfl ?_
  refine za_callV (κ := 1008) (M2 := mX2_isWord) (d2 := 2) (b2 := 0) (n := 2) (As := [.int (0 : Int32), .int (9 : Int32)]) (st := []) (pc' := 7) zc1 (by decide) (congrArg Prod.fst (zX_t1008 hx)) dX2_line_4 rfl (lw_V q735 q737 qs7 q132 q738) ⟨rfl, hd_X2_isWord⟩ rfl (by decide) (by decide) (Nat.zero_le _) (Or.inl rfl) (Nat.le_of_ble_eq_true rfl) h (zqI__k rfl (fun r1 h => ?_)) (fun _ _ _ _ _ _ h9 h8 => absurd h8.1 h9) rfl
  refine za_if_ne (pc' := 10) (tgt := 16) dX2_line_7 (by decide) rfl (fun c9 => ?_) (fun c9 => ?_)
  · replace h := h.2 c9
    refine za_aload_n (pc' := 17) 0 dX2_line_16 rfl rfl rfl ?_
    refine za_get (fi := 4) (v := .int (I 1008 4)) (pc' := 20) dX2_line_17 zc1 (by decide) in_X2 (by decide) q189 (Or.inl rfl) (congrArg Prod.fst (zX_t1008 hx)) rfl rfl ?_
    refine za_istore_n (pc' := 21) (l' := [(1, .int (I 1008 4)), (0, .ref 1008)]) dX2_line_20 rfl (Nat.le_of_ble_eq_true rfl) rfl rfl ?_
    refine za_aload_n (pc' := 22) 1 dX2_line_21 rfl rfl rfl ?_
    refine za_iload_n (pc' := 23) 0 dX2_line_22 rfl rfl rfl ?_
    refine za_callV (κ := 1008) (M2 := mX2_isFull) (d2 := 2) (b2 := 0) (n := 1) (As := [.int (I 1008 4)]) (st := []) (pc' := 26) zc1 (by decide) (congrArg Prod.fst (zX_t1008 hx)) dX2_line_23 rfl (lw_V q814 q816 qs10 q132 q817) ⟨rfl, hd_X2_isFull⟩ rfl (by decide) (by decide) (Nat.zero_le _) (Or.inl rfl) (Nat.le_of_ble_eq_true rfl) h (zqI__k rfl (fun r2 h => ?_)) (fun _ _ _ _ _ _ h9 h8 => absurd h8.1 h9) rfl
    refine za_if_eq (pc' := 29) (tgt := 35) dX2_line_26 (by decide) rfl (fun c9 => ?_) (fun c9 => ?_)
    · replace h := h.1 c9
      refine za_iload_n (pc' := 36) 0 dX2_line_35 rfl rfl rfl ?_
      refine za_i2l (pc' := 37) dX2_line_36 rfl rfl ?_
      refine za_ldc2 (pc' := 40) (v := (7 : Int64)) (own := "") dX2_line_37 q819 rfl ?_
      refine za_ldc2 (pc' := 43) (v := (9 : Int64)) (own := "") dX2_line_40 q820 rfl ?_
      refine za_callSN (M2 := mX1_in) (d2 := 1) (b2 := 0) (n := 3) (As := [.long ((I 1008 4).toInt64), .long (7 : Int64), .long (9 : Int64)]) (st := []) (pc' := 46) dX2_line_43 rfl (lw_meth q590) q607 q589 q131 hd_X1_in rfl (by decide) (by decide) (Nat.zero_le _) (Or.inl rfl) (Nat.le_of_ble_eq_true rfl) h (zqI__k rfl (fun r3 h => ?_)) (fun _ _ _ _ _ _ h9 h8 => absurd h8.1 h9) rfl
      refine za_if_eq (pc' := 49) (tgt := 67) dX2_line_46 (by decide) rfl (fun c9 => ?_) (fun c9 => ?_)
      · replace h := h.1 c9
        exact zAW_sub [1, 0] rfl h
      · replace h := h.2 c9
        refine za_aload_n (pc' := 50) 1 dX2_line_49 rfl rfl rfl ?_
        refine za_get (fi := 6) (v := .int (I 1008 6)) (pc' := 53) dX2_line_50 zc1 (by decide) in_X2 (by decide) q191 (Or.inl rfl) (congrArg Prod.fst (zX_t1008 hx)) rfl rfl ?_
        refine za_iload_n (pc' := 54) 0 dX2_line_53 rfl rfl rfl ?_
        refine za_ishr (pc' := 55) dX2_line_54 rfl ?_
        refine za_iconst (pc' := 56) dX2_line_55 zi_1 rfl ?_
        refine za_iand (pc' := 57) dX2_line_56 rfl ?_
        refine za_iconst (pc' := 58) dX2_line_57 zi_1 rfl ?_
        refine za_icmp_ne (pc' := 61) (tgt := 67) dX2_line_58 (by decide) rfl (fun c9 => ?_) (fun c9 => ?_)
        · replace h := h.2 c9
          exact zAW_sub [1, 0] rfl h
        · replace h := h.1 c9
          refine za_aload_n (pc' := 62) 1 dX2_line_61 rfl rfl rfl ?_
          refine za_iconst (pc' := 63) dX2_line_62 zi_3 rfl ?_
          obtain ⟨b10, hb11, h⟩ := h
          refine za_callV (κ := 1008) (M2 := mX2_wrong) (d2 := 4) (b2 := b10) (n := 1) (As := [.int (3 : Int32)]) (st := []) (pc' := 66) zc1 (by decide) (congrArg Prod.fst (zX_t1008 hx)) dX2_line_63 rfl (lw_V q739 q741 qs8 q132 q742) ⟨rfl, hd_X2_wrong⟩ rfl (by decide) (by decide) hb11 (Or.inl rfl) (Nat.le_of_ble_eq_true rfl) h (zqR_TILR_k rfl (fun r4 T5 I6 L7 R8 h => ?_)) (fun _ _ _ _ _ _ h9 h8 => absurd h8.1 h9) rfl
          obtain ⟨hx9, h⟩ := h
          obtain ⟨ht12, h⟩ := h
          exact za_athrow dX2_line_66 rfl (by decide) zc13 (by decide) ht12 rfl h
    · replace h := h.2 c9
      refine za_aload_n (pc' := 30) 1 dX2_line_29 rfl rfl rfl ?_
      refine za_iconst (pc' := 31) dX2_line_30 zi_2 rfl ?_
      obtain ⟨b19, hb20, h⟩ := h
      refine za_callV (κ := 1008) (M2 := mX2_wrong) (d2 := 4) (b2 := b19) (n := 1) (As := [.int (2 : Int32)]) (st := []) (pc' := 34) zc1 (by decide) (congrArg Prod.fst (zX_t1008 hx)) dX2_line_31 rfl (lw_V q739 q741 qs8 q132 q742) ⟨rfl, hd_X2_wrong⟩ rfl (by decide) (by decide) hb20 (Or.inl rfl) (Nat.le_of_ble_eq_true rfl) h (zqR_TILR_k rfl (fun r13 T14 I15 L16 R17 h => ?_)) (fun _ _ _ _ _ _ h9 h8 => absurd h8.1 h9) rfl
      obtain ⟨hx18, h⟩ := h
      obtain ⟨ht21, h⟩ := h
      exact za_athrow dX2_line_34 rfl (by decide) zc13 (by decide) ht21 rfl h
  · replace h := h.1 c9
    refine za_aload_n (pc' := 11) 0 dX2_line_10 rfl rfl rfl ?_
    refine za_iconst (pc' := 12) dX2_line_11 zi_1 rfl ?_
    obtain ⟨b28, hb29, h⟩ := h
    refine za_callV (κ := 1008) (M2 := mX2_wrong) (d2 := 4) (b2 := b28) (n := 1) (As := [.int (1 : Int32)]) (st := []) (pc' := 15) zc1 (by decide) (congrArg Prod.fst (zX_t1008 hx)) dX2_line_12 rfl (lw_V q739 q741 qs8 q132 q742) ⟨rfl, hd_X2_wrong⟩ rfl (by decide) (by decide) hb29 (Or.inl rfl) (Nat.le_of_ble_eq_true rfl) h (zqR_TILR_k rfl (fun r22 T23 I24 L25 R26 h => ?_)) (fun _ _ _ _ _ _ h9 h8 => absurd h8.1 h9) rfl
    obtain ⟨hx27, h⟩ := h
    obtain ⟨ht30, h⟩ := h
    exact za_athrow dX2_line_15 rfl (by decide) zc13 (by decide) ht30 rfl h
theorem gX2_line_67 {b : Nat} {v1 : Int32} {T : zT} {I : zI} {L : zL} {R : zR} {P : zP} (hx : zXok T R) (h : zMet mX2_next 6 0 [.ref 1008] T (z2 I 1008 6 ((I 1008 6) ||| ((1 : Int32) <<< (v1 &&& 31)))) L R (zqV_I T L R  (fun (I31 : zI)  => ((v1 = (0 : Int32) → ((v1 = 0 → (T (R 1008 7)).1 = 3 ∧ zAW mX2_line 401 (b - 0) 158 [(0, .ref 1008)] [.ref (R (R 1008 7) 0), .ref 1008] T I31 L R P) ∧ (¬ v1 = 0 → (T (R 1008 7)).1 = 3 ∧ zAW mX2_line 401 (b - 0) 158 [(0, .ref 1008)] [.ref (R (R 1008 7) 1), .ref 1008] T I31 L R P))) ∧ (¬ v1 = (0 : Int32) → ((v1 = (1 : Int32) → ((v1 = 0 → (T (R 1008 7)).1 = 3 ∧ zAW mX2_line 401 (b - 0) 158 [(0, .ref 1008)] [.ref (R (R 1008 7) 0), .ref 1008] T I31 L R P) ∧ (¬ v1 = 0 → (T (R 1008 7)).1 = 3 ∧ zAW mX2_line 401 (b - 0) 158 [(0, .ref 1008)] [.ref (R (R 1008 7) 1), .ref 1008] T I31 L R P))) ∧ (¬ v1 = (1 : Int32) → ((v1 = (2 : Int32) → ∃ b41, b41 ≤ (b - 0) ∧ zMet mX2_signLine 8 b41 [.ref 1008] T I31 L R (zqV_TILRx  P (fun (T36 : zT) (I37 : zI) (L38 : zL) (R39 : zR)  => zXok T36 R39 ∧ zAW mX2_line 401 ((b - 0) - b41) 287 [(0, .ref 1008)] [] T36 I37 L38 R39 P))) ∧ (¬ v1 = (2 : Int32) → ((v1 = (3 : Int32) → ∃ b48, b48 ≤ (b - 0) ∧ zMet mX2_corner 8 b48 [.ref 1008] T I31 L R (zqV_TILRx  P (fun (T43 : zT) (I44 : zI) (L45 : zL) (R46 : zR)  => zXok T43 R46 ∧ zAW mX2_line 401 ((b - 0) - b48) 287 [(0, .ref 1008)] [] T43 I44 L45 R46 P))) ∧ (¬ v1 = (3 : Int32) → ((v1 = (4 : Int32) → ∃ b55, b55 ≤ (b - 0) ∧ zMet mX2_weigh 8 b55 [.ref 1008] T I31 L R (zqV_TILRx  P (fun (T50 : zT) (I51 : zI) (L52 : zL) (R53 : zR)  => zXok T50 R53 ∧ zAW mX2_line 401 ((b - 0) - b55) 287 [(0, .ref 1008)] [] T50 I51 L52 R53 P))) ∧ (¬ v1 = (4 : Int32) → ((v1 = (5 : Int32) → ∃ b62, b62 ≤ (b - 0) ∧ zMet mX2_feast 8 b62 [.ref 1008] T I31 L R (zqV_TILRx  P (fun (T57 : zT) (I58 : zI) (L59 : zL) (R60 : zR)  => zXok T57 R60 ∧ zAW mX2_line 401 ((b - 0) - b62) 287 [(0, .ref 1008)] [] T57 I58 L59 R60 P))) ∧ (¬ v1 = (5 : Int32) → ((v1 = (6 : Int32) → ∃ κ64, 100 ≤ κ64 ∧ (T κ64).1 = 0 ∧ 2 + 1 ≤ (b - 0) ∧ ∃ b73, b73 ≤ ((b - 0) - (2 + 1)) ∧ zMet mX11_init 1 b73 [.ref κ64] (z1 T κ64 (11, 0)) (z1 I31 κ64 fun _ => 0) (z1 L κ64 fun _ => 0) (z1 R κ64 fun _ => 0) (zqV_TILR   (fun (T68 : zT) (I69 : zI) (L70 : zL) (R71 : zR)  => zXok T68 R71 ∧ ∃ b80, b80 ≤ (((b - 0) - (2 + 1)) - b73) ∧ zMet mX2_row 7 b80 [.ref 1008, .ref κ64] T68 I69 L70 R71 (zqV_TILRx  P (fun (T75 : zT) (I76 : zI) (L77 : zL) (R78 : zR)  => zXok T75 R78 ∧ zAW mX2_line 401 ((((b - 0) - (2 + 1)) - b73) - b80) 205 [(0, .ref 1008), (2, .ref κ64)] [] T75 I76 L77 R78 P))))) ∧ (¬ v1 = (6 : Int32) → ((v1 = (7 : Int32) → ∃ b88, b88 ≤ (b - 0) ∧ zMet mX2_number 7 b88 [.ref 1008, .int (0 : Int32), .int (9999 : Int32)] T I31 L R (zqI_TILRx  P (fun (r82 : Int32) (T83 : zT) (I84 : zI) (L85 : zL) (R86 : zR)  => zXok T83 R86 ∧ (T83 (R 1008 7)).1 = 3 ∧ zAW mX2_line 401 ((b - 0) - b88) 287 [(0, .ref 1008)] [] T83 (z2 I84 (R 1008 7) 14 r82) L85 R86 P))) ∧ (¬ v1 = (7 : Int32) → ((v1 = (8 : Int32) → ∃ b97, b97 ≤ (b - 0) ∧ zMet mX2_number 7 b97 [.ref 1008, .int (0 : Int32), .int (99999 : Int32)] T I31 L R (zqI_TILRx  P (fun (r91 : Int32) (T92 : zT) (I93 : zI) (L94 : zL) (R95 : zR)  => zXok T92 R95 ∧ (T92 (R 1008 7)).1 = 3 ∧ zAW mX2_line 401 ((b - 0) - b97) 287 [(0, .ref 1008)] [] T92 (z2 I93 (R 1008 7) 15 r91) L94 R95 P))) ∧ (¬ v1 = (8 : Int32) → zMet mX2_isWord 2 0 [.ref 1008, .int (14 : Int32), .int (14 : Int32)] T I31 L R (zqI_ T I31 L R  (fun (r100 : Int32)  => ((r100 = 0 → ∃ b108, b108 ≤ ((b - 0) - 0) ∧ zMet mX2_wrong 4 b108 [.ref 1008, .int (1 : Int32)] T I31 L R (zqR_TILR   (fun (r102 : Nat) (T103 : zT) (I104 : zI) (L105 : zL) (R106 : zR)  => zXok T103 R106 ∧ (T103 r102).1 = 14 ∧ P 1 (.ref r102) T103 I104 L105 R106))) ∧ (¬ r100 = 0 → zMet mX2_next 6 0 [.ref 1008] T I31 L R (zqV_I T L R  (fun (I101 : zI)  => zAW mX2_line 401 (((b - 0) - 0) - 0) 276 [(0, .ref 1008)] [] T I101 L R P))))))))))))))))))))))))))) : zAW mX2_line 401 b 67 [(0, .ref 1008), (1, .int v1)] [] T I L R P := by
  refine za_aload_n (pc' := 68) 0 dX2_line_67 rfl rfl rfl ?_
  refine za_dup (pc' := 69) dX2_line_68 rfl rfl ?_
  refine za_get (fi := 6) (v := .int (I 1008 6)) (pc' := 72) dX2_line_69 zc1 (by decide) in_X2 (by decide) q191 (Or.inl rfl) (congrArg Prod.fst (zX_t1008 hx)) rfl rfl ?_
  refine za_iconst (pc' := 73) dX2_line_72 zi_1 rfl ?_
  refine za_iload_n (pc' := 74) 1 dX2_line_73 rfl rfl rfl ?_
  refine za_ishl (pc' := 75) dX2_line_74 rfl ?_
  refine za_ior (pc' := 76) dX2_line_75 rfl ?_
  refine za_putI (fi := 6) (pc' := 79) dX2_line_76 zc1 (by decide) in_X2 zok1 znm1 (by decide) q191 (Or.inl rfl) rfl rfl (fun _ _ _ => rfl) rfl rfl (congrArg Prod.fst (zX_t1008 hx)) rfl ?_
  refine za_aload_n (pc' := 80) 0 dX2_line_79 rfl rfl rfl ?_
  refine za_callV (κ := 1008) (M2 := mX2_next) (d2 := 6) (b2 := 0) (n := 0) (As := []) (st := []) (pc' := 83) zc1 (by decide) (congrArg Prod.fst (zX_t1008 hx)) dX2_line_80 rfl (lw_V q597 q599 qs1 q132 q600) ⟨rfl, hd_X2_next⟩ rfl (by decide) (by decide) (Nat.zero_le _) (Or.inl rfl) (Nat.le_of_ble_eq_true rfl) h (zqV_I_k rfl (fun I31 h => ?_)) (fun _ _ _ _ _ _ h9 h8 => absurd h8.1 h9) rfl
  refine za_iload_n (pc' := 84) 1 dX2_line_83 rfl rfl rfl ?_
  by_cases hs111 : v1 = (0 : Int32)
  · replace h := h.1 hs111
    refine za_tableIn (off := 52) (tgt := 136) dX2_line_84 (by rw [hs111]; decide) (by rw [hs111]; decide) (by rw [hs111]; rfl) (by decide) ?_
    refine za_aload_n (pc' := 137) 0 dX2_line_136 rfl rfl rfl ?_
    refine za_iload_n (pc' := 138) 1 dX2_line_137 rfl rfl rfl ?_
    refine za_if_ne (pc' := 141) (tgt := 151) dX2_line_138 (by decide) rfl (fun c9 => ?_) (fun c9 => ?_)
    · replace h := h.2 c9
      refine za_aload_n (pc' := 152) 0 dX2_line_151 rfl rfl rfl ?_
      refine za_get (fi := 7) (v := .ref (R 1008 7)) (pc' := 155) dX2_line_152 zc1 (by decide) in_X2 (by decide) q192 (Or.inl rfl) (congrArg Prod.fst (zX_t1008 hx)) rfl rfl ?_
      obtain ⟨ht32, h⟩ := h
      refine za_getN (fi := 1) (v := .ref (R (R 1008 7) 1)) (pc' := 158) dX2_line_155 zc2 (by decide) in_X3 (by decide) q275 (Or.inl rfl) ht32 rfl rfl ?_
      exact zAW_sub [0] rfl h
    · replace h := h.1 c9
      refine za_aload_n (pc' := 142) 0 dX2_line_141 rfl rfl rfl ?_
      refine za_get (fi := 7) (v := .ref (R 1008 7)) (pc' := 145) dX2_line_142 zc1 (by decide) in_X2 (by decide) q192 (Or.inl rfl) (congrArg Prod.fst (zX_t1008 hx)) rfl rfl ?_
      obtain ⟨ht33, h⟩ := h
      refine za_getN (fi := 0) (v := .ref (R (R 1008 7) 0)) (pc' := 148) dX2_line_145 zc2 (by decide) in_X3 (by decide) q272 (Or.inl rfl) ht33 rfl rfl ?_
      refine za_goto (tgt := 158) dX2_line_148 (by decide) ?_
      exact zAW_sub [0] rfl h
  replace h := h.2 hs111
  by_cases hs112 : v1 = (1 : Int32)
  · replace h := h.1 hs112
    refine za_tableIn (off := 52) (tgt := 136) dX2_line_84 (by rw [hs112]; decide) (by rw [hs112]; decide) (by rw [hs112]; rfl) (by decide) ?_
    refine za_aload_n (pc' := 137) 0 dX2_line_136 rfl rfl rfl ?_
    refine za_iload_n (pc' := 138) 1 dX2_line_137 rfl rfl rfl ?_
    refine za_if_ne (pc' := 141) (tgt := 151) dX2_line_138 (by decide) rfl (fun c9 => ?_) (fun c9 => ?_)
    · replace h := h.2 c9
      refine za_aload_n (pc' := 152) 0 dX2_line_151 rfl rfl rfl ?_
      refine za_get (fi := 7) (v := .ref (R 1008 7)) (pc' := 155) dX2_line_152 zc1 (by decide) in_X2 (by decide) q192 (Or.inl rfl) (congrArg Prod.fst (zX_t1008 hx)) rfl rfl ?_
      obtain ⟨ht34, h⟩ := h
      refine za_getN (fi := 1) (v := .ref (R (R 1008 7) 1)) (pc' := 158) dX2_line_155 zc2 (by decide) in_X3 (by decide) q275 (Or.inl rfl) ht34 rfl rfl ?_
      exact zAW_sub [0] rfl h
    · replace h := h.1 c9
      refine za_aload_n (pc' := 142) 0 dX2_line_141 rfl rfl rfl ?_
      refine za_get (fi := 7) (v := .ref (R 1008 7)) (pc' := 145) dX2_line_142 zc1 (by decide) in_X2 (by decide) q192 (Or.inl rfl) (congrArg Prod.fst (zX_t1008 hx)) rfl rfl ?_
      obtain ⟨ht35, h⟩ := h
      refine za_getN (fi := 0) (v := .ref (R (R 1008 7) 0)) (pc' := 148) dX2_line_145 zc2 (by decide) in_X3 (by decide) q272 (Or.inl rfl) ht35 rfl rfl ?_
      refine za_goto (tgt := 158) dX2_line_148 (by decide) ?_
      exact zAW_sub [0] rfl h
  replace h := h.2 hs112
  by_cases hs113 : v1 = (2 : Int32)
  · replace h := h.1 hs113
    refine za_tableIn (off := 80) (tgt := 164) dX2_line_84 (by rw [hs113]; decide) (by rw [hs113]; decide) (by rw [hs113]; rfl) (by decide) ?_
    refine za_aload_n (pc' := 165) 0 dX2_line_164 rfl rfl rfl ?_
    obtain ⟨b41, hb42, h⟩ := h
    refine za_callV (κ := 1008) (M2 := mX2_signLine) (d2 := 8) (b2 := b41) (n := 0) (As := []) (st := []) (pc' := 168) zc1 (by decide) (congrArg Prod.fst (zX_t1008 hx)) dX2_line_165 rfl (lw_V q837 q839 qs13 q132 q840) ⟨rfl, hd_X2_signLine⟩ rfl (by decide) (by decide) hb42 (Or.inl rfl) (Nat.le_of_ble_eq_true rfl) h (zqV_TILRx_k rfl (fun T36 I37 L38 R39 h => ?_)) (fun _ _ _ _ _ _ h9 h8 => h8.2 h9) rfl
    obtain ⟨hx40, h⟩ := h
    refine za_goto (tgt := 287) dX2_line_168 (by decide) ?_
    exact zAW_sub [0] rfl h
  replace h := h.2 hs113
  by_cases hs114 : v1 = (3 : Int32)
  · replace h := h.1 hs114
    refine za_tableIn (off := 87) (tgt := 171) dX2_line_84 (by rw [hs114]; decide) (by rw [hs114]; decide) (by rw [hs114]; rfl) (by decide) ?_
    refine za_aload_n (pc' := 172) 0 dX2_line_171 rfl rfl rfl ?_
    obtain ⟨b48, hb49, h⟩ := h
    refine za_callV (κ := 1008) (M2 := mX2_corner) (d2 := 8) (b2 := b48) (n := 0) (As := []) (st := []) (pc' := 175) zc1 (by decide) (congrArg Prod.fst (zX_t1008 hx)) dX2_line_172 rfl (lw_V q940 q942 qs18 q132 q943) ⟨rfl, hd_X2_corner⟩ rfl (by decide) (by decide) hb49 (Or.inl rfl) (Nat.le_of_ble_eq_true rfl) h (zqV_TILRx_k rfl (fun T43 I44 L45 R46 h => ?_)) (fun _ _ _ _ _ _ h9 h8 => h8.2 h9) rfl
    obtain ⟨hx47, h⟩ := h
    refine za_goto (tgt := 287) dX2_line_175 (by decide) ?_
    exact zAW_sub [0] rfl h
  replace h := h.2 hs114
  by_cases hs115 : v1 = (4 : Int32)
  · replace h := h.1 hs115
    refine za_tableIn (off := 94) (tgt := 178) dX2_line_84 (by rw [hs115]; decide) (by rw [hs115]; decide) (by rw [hs115]; rfl) (by decide) ?_
    refine za_aload_n (pc' := 179) 0 dX2_line_178 rfl rfl rfl ?_
    obtain ⟨b55, hb56, h⟩ := h
    refine za_callV (κ := 1008) (M2 := mX2_weigh) (d2 := 8) (b2 := b55) (n := 0) (As := []) (st := []) (pc' := 182) zc1 (by decide) (congrArg Prod.fst (zX_t1008 hx)) dX2_line_179 rfl (lw_V q949 q951 qs20 q132 q952) ⟨rfl, hd_X2_weigh⟩ rfl (by decide) (by decide) hb56 (Or.inl rfl) (Nat.le_of_ble_eq_true rfl) h (zqV_TILRx_k rfl (fun T50 I51 L52 R53 h => ?_)) (fun _ _ _ _ _ _ h9 h8 => h8.2 h9) rfl
    obtain ⟨hx54, h⟩ := h
    refine za_goto (tgt := 287) dX2_line_182 (by decide) ?_
    exact zAW_sub [0] rfl h
  replace h := h.2 hs115
  by_cases hs116 : v1 = (5 : Int32)
  · replace h := h.1 hs116
    refine za_tableIn (off := 101) (tgt := 185) dX2_line_84 (by rw [hs116]; decide) (by rw [hs116]; decide) (by rw [hs116]; rfl) (by decide) ?_
    refine za_aload_n (pc' := 186) 0 dX2_line_185 rfl rfl rfl ?_
    obtain ⟨b62, hb63, h⟩ := h
    refine za_callV (κ := 1008) (M2 := mX2_feast) (d2 := 8) (b2 := b62) (n := 0) (As := []) (st := []) (pc' := 189) zc1 (by decide) (congrArg Prod.fst (zX_t1008 hx)) dX2_line_186 rfl (lw_V q953 q955 qs21 q132 q956) ⟨rfl, hd_X2_feast⟩ rfl (by decide) (by decide) hb63 (Or.inl rfl) (Nat.le_of_ble_eq_true rfl) h (zqV_TILRx_k rfl (fun T57 I58 L59 R60 h => ?_)) (fun _ _ _ _ _ _ h9 h8 => h8.2 h9) rfl
    obtain ⟨hx61, h⟩ := h
    refine za_goto (tgt := 287) dX2_line_189 (by decide) ?_
    exact zAW_sub [0] rfl h
  replace h := h.2 hs116
  by_cases hs117 : v1 = (6 : Int32)
  · replace h := h.1 hs117
    refine za_tableIn (off := 108) (tgt := 192) dX2_line_84 (by rw [hs117]; decide) (by rw [hs117]; decide) (by rw [hs117]; rfl) (by decide) ?_
    obtain ⟨κ64, hk65, hf66, hb67, h⟩ := h
    refine za_new (κ := κ64) (pc' := 195) dX2_line_192 zc10 (by decide) in_X11 zok10 zdf10 q961 q397 q144 hk65 hf66 hb67 rfl ?_
    refine za_dup (pc' := 196) dX2_line_195 rfl rfl ?_
    obtain ⟨b73, hb74, h⟩ := h
    refine za_callIN (κ := κ64) (M2 := mX11_init) (d2 := 1) (b2 := b73) (n := 0) (As := []) (st := [.ref κ64]) (pc' := 199) (by rw [(congrArg Prod.fst z1_s)]; decide) dX2_line_196 rfl (lw_meth q400) rfl q962 q399 q144 rfl hd_X11_init rfl (by decide) (by decide) hb74 (Or.inl rfl) (Nat.le_of_ble_eq_true rfl) h (zqV_TILR_k rfl (fun T68 I69 L70 R71 h => ?_)) (fun _ _ _ _ _ _ h9 h8 => absurd h8.1 h9) rfl
    obtain ⟨hx72, h⟩ := h
    refine za_astore_n (pc' := 200) (l' := [(2, .ref κ64), (0, .ref 1008), (1, .int v1)]) dX2_line_199 rfl (Nat.le_of_ble_eq_true rfl) rfl rfl ?_
    refine za_aload_n (pc' := 201) 1 dX2_line_200 rfl rfl rfl ?_
    refine za_aload_n (pc' := 202) 0 dX2_line_201 rfl rfl rfl ?_
    obtain ⟨b80, hb81, h⟩ := h
    refine za_callV (κ := 1008) (M2 := mX2_row) (d2 := 7) (b2 := b80) (n := 1) (As := [.ref κ64]) (st := []) (pc' := 205) zc1 (by decide) (congrArg Prod.fst (zX_t1008 hx72)) dX2_line_202 rfl (lw_V q870 q872 qs14 q132 q873) ⟨rfl, hd_X2_row⟩ rfl (by decide) (by decide) hb81 (Or.inl rfl) (Nat.le_of_ble_eq_true rfl) h (zqV_TILRx_k rfl (fun T75 I76 L77 R78 h => ?_)) (fun _ _ _ _ _ _ h9 h8 => h8.2 h9) rfl
    obtain ⟨hx79, h⟩ := h
    exact zAW_sub [1, 0] rfl h
  replace h := h.2 hs117
  by_cases hs118 : v1 = (7 : Int32)
  · replace h := h.1 hs118
    refine za_tableIn (off := 136) (tgt := 220) dX2_line_84 (by rw [hs118]; decide) (by rw [hs118]; decide) (by rw [hs118]; rfl) (by decide) ?_
    refine za_aload_n (pc' := 221) 0 dX2_line_220 rfl rfl rfl ?_
    refine za_get (fi := 7) (v := .ref (R 1008 7)) (pc' := 224) dX2_line_221 zc1 (by decide) in_X2 (by decide) q192 (Or.inl rfl) (congrArg Prod.fst (zX_t1008 hx)) rfl rfl ?_
    refine za_aload_n (pc' := 225) 0 dX2_line_224 rfl rfl rfl ?_
    refine za_iconst (pc' := 226) dX2_line_225 zi_0 rfl ?_
    refine za_sipush (pc' := 229) dX2_line_226 zb16_9999 rfl ?_
    obtain ⟨b88, hb89, h⟩ := h
    refine za_callV (κ := 1008) (M2 := mX2_number) (d2 := 7) (b2 := b88) (n := 2) (As := [.int (0 : Int32), .int (9999 : Int32)]) (st := [.ref (R 1008 7)]) (pc' := 232) zc1 (by decide) (congrArg Prod.fst (zX_t1008 hx)) dX2_line_229 rfl (lw_V q829 q831 qs12 q132 q832) ⟨rfl, hd_X2_number⟩ rfl (by decide) (by decide) hb89 (Or.inl rfl) (Nat.le_of_ble_eq_true rfl) h (zqI_TILRx_k rfl (fun r82 T83 I84 L85 R86 h => ?_)) (fun _ _ _ _ _ _ h9 h8 => h8.2 h9) rfl
    obtain ⟨hx87, h⟩ := h
    obtain ⟨ht90, h⟩ := h
    refine za_putNI (fi := 14) (pc' := 235) dX2_line_232 zc2 (by decide) in_X3 zok2 znm2 (by decide) q309 (Or.inl rfl) rfl rfl (fun _ _ _ => rfl) rfl rfl ht90 rfl ?_
    refine za_goto (tgt := 287) dX2_line_235 (by decide) ?_
    exact zAW_sub [0] rfl h
  replace h := h.2 hs118
  by_cases hs119 : v1 = (8 : Int32)
  · replace h := h.1 hs119
    refine za_tableIn (off := 154) (tgt := 238) dX2_line_84 (by rw [hs119]; decide) (by rw [hs119]; decide) (by rw [hs119]; rfl) (by decide) ?_
    refine za_aload_n (pc' := 239) 0 dX2_line_238 rfl rfl rfl ?_
    refine za_get (fi := 7) (v := .ref (R 1008 7)) (pc' := 242) dX2_line_239 zc1 (by decide) in_X2 (by decide) q192 (Or.inl rfl) (congrArg Prod.fst (zX_t1008 hx)) rfl rfl ?_
    refine za_aload_n (pc' := 243) 0 dX2_line_242 rfl rfl rfl ?_
    refine za_iconst (pc' := 244) dX2_line_243 zi_0 rfl ?_
    refine za_ldc (pc' := 246) (v := (99999 : Int32)) (own := "") dX2_line_244 q666 rfl ?_
    obtain ⟨b97, hb98, h⟩ := h
    refine za_callV (κ := 1008) (M2 := mX2_number) (d2 := 7) (b2 := b97) (n := 2) (As := [.int (0 : Int32), .int (99999 : Int32)]) (st := [.ref (R 1008 7)]) (pc' := 249) zc1 (by decide) (congrArg Prod.fst (zX_t1008 hx)) dX2_line_246 rfl (lw_V q829 q831 qs12 q132 q832) ⟨rfl, hd_X2_number⟩ rfl (by decide) (by decide) hb98 (Or.inl rfl) (Nat.le_of_ble_eq_true rfl) h (zqI_TILRx_k rfl (fun r91 T92 I93 L94 R95 h => ?_)) (fun _ _ _ _ _ _ h9 h8 => h8.2 h9) rfl
    obtain ⟨hx96, h⟩ := h
    obtain ⟨ht99, h⟩ := h
    refine za_putNI (fi := 15) (pc' := 252) dX2_line_249 zc2 (by decide) in_X3 zok2 znm2 (by decide) q311 (Or.inl rfl) rfl rfl (fun _ _ _ => rfl) rfl rfl ht99 rfl ?_
    refine za_goto (tgt := 287) dX2_line_252 (by decide) ?_
    exact zAW_sub [0] rfl h
  replace h := h.2 hs119
  refine za_tableOut (tgt := 255) dX2_line_84 (ztabOut (lo := 0) (hi := 8) (by omega) (fun k9 h8 h7 => by have q0 := zsw_n (0) (by decide) hs111; have q1 := zsw_n (1) (by decide) hs112; have q2 := zsw_n (2) (by decide) hs113; have q3 := zsw_n (3) (by decide) hs114; have q4 := zsw_n (4) (by decide) hs115; have q5 := zsw_n (5) (by decide) hs116; have q6 := zsw_n (6) (by decide) hs117; have q7 := zsw_n (7) (by decide) hs118; have q8 := zsw_n (8) (by decide) hs119; omega)) (by decide) ?_
  refine za_aload_n (pc' := 256) 0 dX2_line_255 rfl rfl rfl ?_
  refine za_bipush (pc' := 258) dX2_line_256 zb8_14 rfl ?_
  refine za_bipush (pc' := 260) dX2_line_258 zb8_14 rfl ?_
  refine za_callV (κ := 1008) (M2 := mX2_isWord) (d2 := 2) (b2 := 0) (n := 2) (As := [.int (14 : Int32), .int (14 : Int32)]) (st := []) (pc' := 263) zc1 (by decide) (congrArg Prod.fst (zX_t1008 hx)) dX2_line_260 rfl (lw_V q735 q737 qs7 q132 q738) ⟨rfl, hd_X2_isWord⟩ rfl (by decide) (by decide) (Nat.zero_le _) (Or.inl rfl) (Nat.le_of_ble_eq_true rfl) h (zqI__k rfl (fun r100 h => ?_)) (fun _ _ _ _ _ _ h9 h8 => absurd h8.1 h9) rfl
  refine za_if_ne (pc' := 266) (tgt := 272) dX2_line_263 (by decide) rfl (fun c9 => ?_) (fun c9 => ?_)
  · replace h := h.2 c9
    refine za_aload_n (pc' := 273) 0 dX2_line_272 rfl rfl rfl ?_
    refine za_callV (κ := 1008) (M2 := mX2_next) (d2 := 6) (b2 := 0) (n := 0) (As := []) (st := []) (pc' := 276) zc1 (by decide) (congrArg Prod.fst (zX_t1008 hx)) dX2_line_273 rfl (lw_V q597 q599 qs1 q132 q600) ⟨rfl, hd_X2_next⟩ rfl (by decide) (by decide) (Nat.zero_le _) (Or.inl rfl) (Nat.le_of_ble_eq_true rfl) h (zqV_I_k rfl (fun I101 h => ?_)) (fun _ _ _ _ _ _ h9 h8 => absurd h8.1 h9) rfl
    exact zAW_sub [0] rfl h
  · replace h := h.1 c9
    refine za_aload_n (pc' := 267) 0 dX2_line_266 rfl rfl rfl ?_
    refine za_iconst (pc' := 268) dX2_line_267 zi_1 rfl ?_
    obtain ⟨b108, hb109, h⟩ := h
    refine za_callV (κ := 1008) (M2 := mX2_wrong) (d2 := 4) (b2 := b108) (n := 1) (As := [.int (1 : Int32)]) (st := []) (pc' := 271) zc1 (by decide) (congrArg Prod.fst (zX_t1008 hx)) dX2_line_268 rfl (lw_V q739 q741 qs8 q132 q742) ⟨rfl, hd_X2_wrong⟩ rfl (by decide) (by decide) hb109 (Or.inl rfl) (Nat.le_of_ble_eq_true rfl) h (zqR_TILR_k rfl (fun r102 T103 I104 L105 R106 h => ?_)) (fun _ _ _ _ _ _ h9 h8 => absurd h8.1 h9) rfl
    obtain ⟨hx107, h⟩ := h
    obtain ⟨ht110, h⟩ := h
    exact za_athrow dX2_line_271 rfl (by decide) zc13 (by decide) ht110 rfl h
theorem gX2_line_158 {b : Nat} {s0 : Nat} {s1 : Nat} {T : zT} {I : zI} {L : zL} {R : zR} {P : zP} (hx : zXok T R) (h : (T s1).1 = 2 ∧ ∃ b125, b125 ≤ b ∧ zMet mX2_storeLine 8 b125 [.ref s1, .ref s0] T I L R (zqV_TILRx  P (fun (T120 : zT) (I121 : zI) (L122 : zL) (R123 : zR)  => zXok T120 R123 ∧ zAW mX2_line 401 (b - b125) 287 [(0, .ref 1008)] [] T120 I121 L122 R123 P))) : zAW mX2_line 401 b 158 [(0, .ref 1008)] [.ref s0, .ref s1] T I L R P := by
  obtain ⟨ht127, h⟩ := h
  obtain ⟨b125, hb126, h⟩ := h
  refine za_callV (κ := s1) (M2 := mX2_storeLine) (d2 := 8) (b2 := b125) (n := 1) (As := [.ref s0]) (st := []) (pc' := 161) zc1 (by decide) ht127 dX2_line_158 rfl (lw_V q821 q823 qs11 q132 q824) ⟨rfl, hd_X2_storeLine⟩ rfl (by decide) (by decide) hb126 (Or.inl rfl) (Nat.le_of_ble_eq_true rfl) h (zqV_TILRx_k rfl (fun T120 I121 L122 R123 h => ?_)) (fun _ _ _ _ _ _ h9 h8 => h8.2 h9) rfl
  obtain ⟨hx124, h⟩ := h
  refine za_goto (tgt := 287) dX2_line_161 (by decide) ?_
  exact zAW_sub [0] rfl h
theorem gX2_line_205 {b : Nat} {v2 : Nat} {T : zT} {I : zI} {L : zL} {R : zR} {P : zP} (hx : zXok T R) (h : (T (R 1008 7)).1 = 3 ∧ (T (R (R 1008 7) 3)).1 = 5 ∧ zMet mJ2_add 2 0 [.ref (R (R 1008 7) 3), .ref v2] T I L R (zqI_IR T L  (fun (r129 : Int32) (I130 : zI) (R131 : zR)  => zXok T R131 ∧ zAW mX2_line 401 (b - 0) 287 [(0, .ref 1008)] [] T I130 L R131 P))) : zAW mX2_line 401 b 205 [(0, .ref 1008), (2, .ref v2)] [] T I L R P := by
  refine za_aload_n (pc' := 206) 0 dX2_line_205 rfl rfl rfl ?_
  refine za_get (fi := 7) (v := .ref (R 1008 7)) (pc' := 209) dX2_line_206 zc1 (by decide) in_X2 (by decide) q192 (Or.inl rfl) (congrArg Prod.fst (zX_t1008 hx)) rfl rfl ?_
  obtain ⟨ht128, h⟩ := h
  refine za_getN (fi := 3) (v := .ref (R (R 1008 7) 3)) (pc' := 212) dX2_line_209 zc2 (by decide) in_X3 (by decide) q281 (Or.inl rfl) ht128 rfl rfl ?_
  refine za_aload_n (pc' := 213) 1 dX2_line_212 rfl rfl rfl ?_
  obtain ⟨ht133, h⟩ := h
  refine za_callV (κ := (R (R 1008 7) 3)) (M2 := mJ2_add) (d2 := 2) (b2 := 0) (n := 1) (As := [.ref v2]) (st := []) (pc' := 216) zc4 (by decide) ht133 dX2_line_213 rfl (lw_V q874 q875 q876 q137 q877) ⟨rfl, hd_J2_add⟩ rfl (by decide) (by decide) (Nat.zero_le _) (Or.inl rfl) (Nat.le_of_ble_eq_true rfl) h (zqI_IR_k rfl (fun r129 I130 R131 h => ?_)) (fun _ _ _ _ _ _ h9 h8 => absurd h8.1 h9) rfl
  obtain ⟨hx132, h⟩ := h
  refine za_pop (pc' := 217) dX2_line_216 rfl rfl ?_
  refine za_goto (tgt := 287) dX2_line_217 (by decide) ?_
  exact zAW_sub [0] rfl h
theorem gX2_line_276 {b : Nat}  {T : zT} {I : zI} {L : zL} {R : zR} {P : zP} (hx : zXok T R) (h : ∃ b140, b140 ≤ b ∧ zMet mX2_or 400 b140 [.ref 1008] T I L R (zqR_TILRx  P (fun (r134 : Nat) (T135 : zT) (I136 : zI) (L137 : zL) (R138 : zR)  => zXok T135 R138 ∧ (T135 (R 1008 7)).1 = 3 ∧ zAW mX2_line 401 (b - b140) 287 [(0, .ref 1008)] [] T135 I136 L137 (z2 R138 (R 1008 7) 11 r134) P))) : zAW mX2_line 401 b 276 [(0, .ref 1008)] [] T I L R P := by
  refine za_aload_n (pc' := 277) 0 dX2_line_276 rfl rfl rfl ?_
  refine za_get (fi := 7) (v := .ref (R 1008 7)) (pc' := 280) dX2_line_277 zc1 (by decide) in_X2 (by decide) q192 (Or.inl rfl) (congrArg Prod.fst (zX_t1008 hx)) rfl rfl ?_
  refine za_aload_n (pc' := 281) 0 dX2_line_280 rfl rfl rfl ?_
  obtain ⟨b140, hb141, h⟩ := h
  refine za_callV (κ := 1008) (M2 := mX2_or) (d2 := 400) (b2 := b140) (n := 0) (As := []) (st := [.ref (R 1008 7)]) (pc' := 284) zc1 (by decide) (congrArg Prod.fst (zX_t1008 hx)) dX2_line_281 rfl (lw_V q963 q965 qs22 q132 q966) ⟨rfl, hd_X2_or⟩ rfl (by decide) (by decide) hb141 (Or.inl rfl) (Nat.le_of_ble_eq_true rfl) h (zqR_TILRx_k rfl (fun r134 T135 I136 L137 R138 h => ?_)) (fun _ _ _ _ _ _ h9 h8 => h8.2 h9) rfl
  obtain ⟨hx139, h⟩ := h
  obtain ⟨ht142, h⟩ := h
  refine za_putNR (fi := 11) (pc' := 287) dX2_line_284 zc2 (by decide) in_X3 zok2 znm2 (by decide) q302 (Or.inl rfl) rfl rfl (fun _ _ _ => rfl) ht142 rfl ?_
  exact zAW_sub [0] rfl h
theorem gX2_line_287 {b : Nat}  {T : zT} {I : zI} {L : zL} {R : zR} {P : zP} (hx : zXok T R) (h : zMet mX2_isSign 1 0 [.ref 1008, .int (59 : Int32)] T I L R (zqI_ T I L R  (fun (r143 : Int32)  => ((r143 = 0 → ∃ b152, b152 ≤ (b - 0) ∧ zMet mX2_wrong 4 b152 [.ref 1008, .int (1 : Int32)] T I L R (zqR_TILR   (fun (r146 : Nat) (T147 : zT) (I148 : zI) (L149 : zL) (R150 : zR)  => zXok T147 R150 ∧ (T147 r146).1 = 14 ∧ P 1 (.ref r146) T147 I148 L149 R150))) ∧ (¬ r143 = 0 → zMet mX2_next 6 0 [.ref 1008] T I L R (zqV_I T L R  (fun (I144 : zI)  => (T (R 1008 7)).1 = 3 ∧ P 0 (.int 0) T (z2 I144 (R 1008 7) 17 ((I144 (R 1008 7) 17) + (1 : Int32))) L R))))))) : zAW mX2_line 401 b 287 [(0, .ref 1008)] [] T I L R P := by
  refine za_aload_n (pc' := 288) 0 dX2_line_287 rfl rfl rfl ?_
  refine za_bipush (pc' := 290) dX2_line_288 zb8_59 rfl ?_
  refine za_callV (κ := 1008) (M2 := mX2_isSign) (d2 := 1) (b2 := 0) (n := 1) (As := [.int (59 : Int32)]) (st := []) (pc' := 293) zc1 (by decide) (congrArg Prod.fst (zX_t1008 hx)) dX2_line_290 rfl (lw_V q991 q993 qs29 q132 q994) ⟨rfl, hd_X2_isSign⟩ rfl (by decide) (by decide) (Nat.zero_le _) (Or.inl rfl) (Nat.le_of_ble_eq_true rfl) h (zqI__k rfl (fun r143 h => ?_)) (fun _ _ _ _ _ _ h9 h8 => absurd h8.1 h9) rfl
  refine za_if_ne (pc' := 296) (tgt := 302) dX2_line_293 (by decide) rfl (fun c9 => ?_) (fun c9 => ?_)
  · replace h := h.2 c9
    refine za_aload_n (pc' := 303) 0 dX2_line_302 rfl rfl rfl ?_
    refine za_callV (κ := 1008) (M2 := mX2_next) (d2 := 6) (b2 := 0) (n := 0) (As := []) (st := []) (pc' := 306) zc1 (by decide) (congrArg Prod.fst (zX_t1008 hx)) dX2_line_303 rfl (lw_V q597 q599 qs1 q132 q600) ⟨rfl, hd_X2_next⟩ rfl (by decide) (by decide) (Nat.zero_le _) (Or.inl rfl) (Nat.le_of_ble_eq_true rfl) h (zqV_I_k rfl (fun I144 h => ?_)) (fun _ _ _ _ _ _ h9 h8 => absurd h8.1 h9) rfl
    refine za_aload_n (pc' := 307) 0 dX2_line_306 rfl rfl rfl ?_
    refine za_get (fi := 7) (v := .ref (R 1008 7)) (pc' := 310) dX2_line_307 zc1 (by decide) in_X2 (by decide) q192 (Or.inl rfl) (congrArg Prod.fst (zX_t1008 hx)) rfl rfl ?_
    refine za_dup (pc' := 311) dX2_line_310 rfl rfl ?_
    obtain ⟨ht145, h⟩ := h
    refine za_getN (fi := 17) (v := .int (I144 (R 1008 7) 17)) (pc' := 314) dX2_line_311 zc2 (by decide) in_X3 (by decide) q315 (Or.inl rfl) ht145 rfl rfl ?_
    refine za_iconst (pc' := 315) dX2_line_314 zi_1 rfl ?_
    refine za_iadd (pc' := 316) dX2_line_315 rfl ?_
    refine za_putNI (fi := 17) (pc' := 319) dX2_line_316 zc2 (by decide) in_X3 zok2 znm2 (by decide) q315 (Or.inl rfl) rfl rfl (fun _ _ _ => rfl) rfl rfl ht145 rfl ?_
    exact za_return rfl dX2_line_319 h
  · replace h := h.1 c9
    refine za_aload_n (pc' := 297) 0 dX2_line_296 rfl rfl rfl ?_
    refine za_iconst (pc' := 298) dX2_line_297 zi_1 rfl ?_
    obtain ⟨b152, hb153, h⟩ := h
    refine za_callV (κ := 1008) (M2 := mX2_wrong) (d2 := 4) (b2 := b152) (n := 1) (As := [.int (1 : Int32)]) (st := []) (pc' := 301) zc1 (by decide) (congrArg Prod.fst (zX_t1008 hx)) dX2_line_298 rfl (lw_V q739 q741 qs8 q132 q742) ⟨rfl, hd_X2_wrong⟩ rfl (by decide) (by decide) hb153 (Or.inl rfl) (Nat.le_of_ble_eq_true rfl) h (zqR_TILR_k rfl (fun r146 T147 I148 L149 R150 h => ?_)) (fun _ _ _ _ _ _ h9 h8 => absurd h8.1 h9) rfl
    obtain ⟨hx151, h⟩ := h
    obtain ⟨ht154, h⟩ := h
    exact za_athrow dX2_line_301 rfl (by decide) zc13 (by decide) ht154 rfl h
theorem sX2_line {d b : Nat}  {T : zT} {I : zI} {L : zL} {R : zR} {P : zP} (h : zAW mX2_line d b 0 [(0, .ref 1008)] [] T I L R P) : zMet mX2_line d b [.ref 1008] T I L R P := zMet_of (by decide +kernel) rfl (Nat.le_of_ble_eq_true rfl) rfl h
/-! TwoTongues$Reader.isWord (II)Z -/
def dkwX2_isWord_1 : List UInt8 := [167, 0, 4, 3, 172]
abbrev dktX2_isWord_1 : List UInt8 := dkwX2_isWord_1 ++ []
def dkwX2_isWord_0 : List UInt8 := [42, 180, 0, 33, 154, 0, 22, 42, 180, 0, 47, 133, 27, 133, 28, 133, 184, 0, 40, 153, 0, 7, 4]
abbrev dktX2_isWord_0 : List UInt8 := dkwX2_isWord_0 ++ dktX2_isWord_1
theorem dksX2_isWord_0 : cX2_isWord.data.toList.drop 0 = dktX2_isWord_0 := by decide +kernel
theorem dksX2_isWord_1 : cX2_isWord.data.toList.drop 23 = dktX2_isWord_1 := dk_seg dksX2_isWord_0 23 rfl rfl
theorem dX2_isWord_0 : decode cX2_isWord 0 = .ok (.aload_n 0, 1) := dk_42 (dk_at dksX2_isWord_0 0 rfl rfl)
theorem dX2_isWord_1 : decode cX2_isWord 1 = .ok (.getfield 33, 3) := dk_180 0 33 (dk_at dksX2_isWord_0 1 rfl rfl)
theorem dX2_isWord_4 : decode cX2_isWord 4 = .ok (.ifCond .ne 22, 3) := dk_154 0 22 (dk_at dksX2_isWord_0 4 rfl rfl)
theorem dX2_isWord_7 : decode cX2_isWord 7 = .ok (.aload_n 0, 1) := dk_42 (dk_at dksX2_isWord_0 7 rfl rfl)
theorem dX2_isWord_8 : decode cX2_isWord 8 = .ok (.getfield 47, 3) := dk_180 0 47 (dk_at dksX2_isWord_0 8 rfl rfl)
theorem dX2_isWord_11 : decode cX2_isWord 11 = .ok (.i2l, 1) := dk_133 (dk_at dksX2_isWord_0 11 rfl rfl)
theorem dX2_isWord_12 : decode cX2_isWord 12 = .ok (.iload_n 1, 1) := dk_27 (dk_at dksX2_isWord_0 12 rfl rfl)
theorem dX2_isWord_13 : decode cX2_isWord 13 = .ok (.i2l, 1) := dk_133 (dk_at dksX2_isWord_0 13 rfl rfl)
theorem dX2_isWord_14 : decode cX2_isWord 14 = .ok (.iload_n 2, 1) := dk_28 (dk_at dksX2_isWord_0 14 rfl rfl)
theorem dX2_isWord_15 : decode cX2_isWord 15 = .ok (.i2l, 1) := dk_133 (dk_at dksX2_isWord_0 15 rfl rfl)
theorem dX2_isWord_16 : decode cX2_isWord 16 = .ok (.invokestatic 40, 3) := dk_184 0 40 (dk_at dksX2_isWord_0 16 rfl rfl)
theorem dX2_isWord_19 : decode cX2_isWord 19 = .ok (.ifCond .eq 7, 3) := dk_153 0 7 (dk_at dksX2_isWord_0 19 rfl rfl)
theorem dX2_isWord_22 : decode cX2_isWord 22 = .ok (.iconst 1, 1) := dk_4 (dk_at dksX2_isWord_0 22 rfl rfl)
theorem dX2_isWord_23 : decode cX2_isWord 23 = .ok (.goto 4, 3) := dk_167 0 4 (dk_at dksX2_isWord_1 0 rfl rfl)
theorem dX2_isWord_26 : decode cX2_isWord 26 = .ok (.iconst 0, 1) := dk_3 (dk_at dksX2_isWord_1 3 rfl rfl)
theorem dX2_isWord_27 : decode cX2_isWord 27 = .ok (.ireturn, 1) := dk_172 (dk_at dksX2_isWord_1 4 rfl rfl)
theorem gX2_isWord_0 {v1 : Int32} {v2 : Int32} {T : zT} {I : zI} {L : zL} {R : zR} {P : zP} (hx : zXok T R) (h : (((I 1008 3) = 0 → zMet mX1_in 1 0 [.long ((I 1008 4).toInt64), .long (v1.toInt64), .long (v2.toInt64)] T I L R (zqI_ T I L R  (fun (r1 : Int32)  => ((r1 = 0 → P 0 (.int (0 : Int32)) T I L R) ∧ (¬ r1 = 0 → P 0 (.int (1 : Int32)) T I L R))))) ∧ (¬ (I 1008 3) = 0 → P 0 (.int (0 : Int32)) T I L R))) : zAW mX2_isWord 2 0 0 [(0, .ref 1008), (1, .int v1), (2, .int v2)] [] T I L R P := by
  refine za_aload_n (pc' := 1) 0 dX2_isWord_0 rfl rfl rfl ?_
  refine za_get (fi := 3) (v := .int (I 1008 3)) (pc' := 4) dX2_isWord_1 zc1 (by decide) in_X2 (by decide) q188 (Or.inl rfl) (congrArg Prod.fst (zX_t1008 hx)) rfl rfl ?_
  refine za_if_ne (pc' := 7) (tgt := 26) dX2_isWord_4 (by decide) rfl (fun c9 => ?_) (fun c9 => ?_)
  · replace h := h.2 c9
    refine za_iconst (pc' := 27) dX2_isWord_26 zi_0 rfl ?_
    exact za_zreturn rfl dX2_isWord_27 (by decide) h
  · replace h := h.1 c9
    refine za_aload_n (pc' := 8) 0 dX2_isWord_7 rfl rfl rfl ?_
    refine za_get (fi := 4) (v := .int (I 1008 4)) (pc' := 11) dX2_isWord_8 zc1 (by decide) in_X2 (by decide) q189 (Or.inl rfl) (congrArg Prod.fst (zX_t1008 hx)) rfl rfl ?_
    refine za_i2l (pc' := 12) dX2_isWord_11 rfl rfl ?_
    refine za_iload_n (pc' := 13) 1 dX2_isWord_12 rfl rfl rfl ?_
    refine za_i2l (pc' := 14) dX2_isWord_13 rfl rfl ?_
    refine za_iload_n (pc' := 15) 2 dX2_isWord_14 rfl rfl rfl ?_
    refine za_i2l (pc' := 16) dX2_isWord_15 rfl rfl ?_
    refine za_callSN (M2 := mX1_in) (d2 := 1) (b2 := 0) (n := 3) (As := [.long ((I 1008 4).toInt64), .long (v1.toInt64), .long (v2.toInt64)]) (st := []) (pc' := 19) dX2_isWord_16 rfl (lw_meth q590) q607 q589 q131 hd_X1_in rfl (by decide) (by decide) (Nat.zero_le _) (Or.inl rfl) (Nat.le_of_ble_eq_true rfl) h (zqI__k rfl (fun r1 h => ?_)) (fun _ _ _ _ _ _ h9 h8 => absurd h8.1 h9) rfl
    refine za_if_eq (pc' := 22) (tgt := 26) dX2_isWord_19 (by decide) rfl (fun c9 => ?_) (fun c9 => ?_)
    · replace h := h.1 c9
      refine za_iconst (pc' := 27) dX2_isWord_26 zi_0 rfl ?_
      exact za_zreturn rfl dX2_isWord_27 (by decide) h
    · replace h := h.2 c9
      refine za_iconst (pc' := 23) dX2_isWord_22 zi_1 rfl ?_
      refine za_goto (tgt := 27) dX2_isWord_23 (by decide) ?_
      exact za_zreturn rfl dX2_isWord_27 (by decide) h
theorem sX2_isWord {d b : Nat} {v1 : Int32} {v2 : Int32} {T : zT} {I : zI} {L : zL} {R : zR} {P : zP} (h : zAW mX2_isWord d b 0 [(0, .ref 1008), (1, .int v1), (2, .int v2)] [] T I L R P) : zMet mX2_isWord d b [.ref 1008, .int v1, .int v2] T I L R P := zMet_of (by decide +kernel) rfl (Nat.le_of_ble_eq_true rfl) rfl h
/-! TwoTongues$Reader.wrong (I)LTwoTongues$Fault; -/
def dkwX2_wrong_0 : List UInt8 := [187, 0, 80, 89, 27, 42, 180, 0, 30, 183, 0, 82, 176]
abbrev dktX2_wrong_0 : List UInt8 := dkwX2_wrong_0 ++ []
theorem dksX2_wrong_0 : cX2_wrong.data.toList.drop 0 = dktX2_wrong_0 := by decide +kernel
theorem dX2_wrong_0 : decode cX2_wrong 0 = .ok (.new 80, 3) := dk_187 0 80 (dk_at dksX2_wrong_0 0 rfl rfl)
theorem dX2_wrong_3 : decode cX2_wrong 3 = .ok (.dup, 1) := dk_89 (dk_at dksX2_wrong_0 3 rfl rfl)
theorem dX2_wrong_4 : decode cX2_wrong 4 = .ok (.iload_n 1, 1) := dk_27 (dk_at dksX2_wrong_0 4 rfl rfl)
theorem dX2_wrong_5 : decode cX2_wrong 5 = .ok (.aload_n 0, 1) := dk_42 (dk_at dksX2_wrong_0 5 rfl rfl)
theorem dX2_wrong_6 : decode cX2_wrong 6 = .ok (.getfield 30, 3) := dk_180 0 30 (dk_at dksX2_wrong_0 6 rfl rfl)
theorem dX2_wrong_9 : decode cX2_wrong 9 = .ok (.invokespecial 82, 3) := dk_183 0 82 (dk_at dksX2_wrong_0 9 rfl rfl)
theorem dX2_wrong_12 : decode cX2_wrong 12 = .ok (.areturn, 1) := dk_176 (dk_at dksX2_wrong_0 12 rfl rfl)
theorem gX2_wrong_0 {b : Nat} {v1 : Int32} {T : zT} {I : zI} {L : zL} {R : zR} {P : zP} (hx : zXok T R) (h : ∃ κ1, 100 ≤ κ1 ∧ (T κ1).1 = 0 ∧ 8 + 1 ≤ b ∧ zMet mX14_init 3 0 [.ref κ1, .int v1, .int (I 1008 2)] (z1 T κ1 (14, 0)) (z1 I κ1 fun _ => 0) (z1 L κ1 fun _ => 0) (z1 R κ1 fun _ => 0) (zqV_IR (z1 T κ1 (14, 0)) (z1 L κ1 fun _ => 0)  (fun (I5 : zI) (R6 : zR)  => zXok (z1 T κ1 (14, 0)) R6 ∧ P 0 (.ref κ1) (z1 T κ1 (14, 0)) I5 (z1 L κ1 fun _ => 0) R6))) : zAW mX2_wrong 4 b 0 [(0, .ref 1008), (1, .int v1)] [] T I L R P := by
  obtain ⟨κ1, hk2, hf3, hb4, h⟩ := h
  refine za_new (κ := κ1) (pc' := 3) dX2_wrong_0 zc13 (by decide) in_X14 zok13 zdf13 q743 q744 q156 hk2 hf3 hb4 rfl ?_
  refine za_dup (pc' := 4) dX2_wrong_3 rfl rfl ?_
  refine za_iload_n (pc' := 5) 1 dX2_wrong_4 rfl rfl rfl ?_
  refine za_aload_n (pc' := 6) 0 dX2_wrong_5 rfl rfl rfl ?_
  refine za_get (fi := 2) (v := .int (I 1008 2)) (pc' := 9) dX2_wrong_6 zc1 (by decide) in_X2 (by decide) q187 (Or.inl rfl) (congrArg Prod.fst (z1_tp hf3 (zX_t1008 hx) (by decide))) (congrArg Value.int (congrFun (z1_n (z1_ne hf3 (congrArg Prod.fst (zX_t1008 hx)))) _)) rfl ?_
  refine za_callI (κ := κ1) (M2 := mX14_init) (d2 := 3) (b2 := 0) (n := 2) (As := [.int v1, .int (I 1008 2)]) (st := [.ref κ1]) (pc' := 12) (by rw [(congrArg Prod.fst z1_s)]; decide) dX2_wrong_9 rfl (lw_meth q786) rfl q784 q785 q156 rfl hd_X14_init rfl (by decide) (by decide) (Nat.zero_le _) (Or.inl rfl) (Nat.le_of_ble_eq_true rfl) h (zqV_IR_k rfl (fun I5 R6 h => ?_)) (fun _ _ _ _ _ _ h9 h8 => absurd h8.1 h9) rfl
  obtain ⟨hx7, h⟩ := h
  exact za_areturn rfl dX2_wrong_12 (Or.inl ⟨_, rfl⟩) h
theorem sX2_wrong {d b : Nat} {v1 : Int32} {T : zT} {I : zI} {L : zL} {R : zR} {P : zP} (h : zAW mX2_wrong d b 0 [(0, .ref 1008), (1, .int v1)] [] T I L R P) : zMet mX2_wrong d b [.ref 1008, .int v1] T I L R P := zMet_of (by decide +kernel) rfl (Nat.le_of_ble_eq_true rfl) rfl h
/-! TwoTongues$Reader.isFull (I)Z -/
def dkwX2_isFull_7 : List UInt8 := [3, 172, 3, 172]
abbrev dktX2_isFull_7 : List UInt8 := dkwX2_isFull_7 ++ []
def dkwX2_isFull_6 : List UInt8 := [167, 0, 4, 3, 172, 42, 180, 0, 101, 180, 0, 134, 182, 0, 124, 16, 6, 160, 0, 7, 4, 167, 0, 4]
abbrev dktX2_isFull_6 : List UInt8 := dkwX2_isFull_6 ++ dktX2_isFull_7
def dkwX2_isFull_5 : List UInt8 := [16, 6, 160, 0, 7, 4, 167, 0, 4, 3, 172, 42, 180, 0, 101, 180, 0, 131, 16, 6, 160, 0, 7, 4]
abbrev dktX2_isFull_5 : List UInt8 := dkwX2_isFull_5 ++ dktX2_isFull_6
def dkwX2_isFull_4 : List UInt8 := [180, 0, 120, 182, 0, 124, 16, 6, 160, 0, 7, 4, 167, 0, 4, 3, 172, 42, 180, 0, 101, 180, 0, 128]
abbrev dktX2_isFull_4 : List UInt8 := dkwX2_isFull_4 ++ dktX2_isFull_5
def dkwX2_isFull_3 : List UInt8 := [180, 0, 101, 180, 0, 117, 180, 0, 112, 16, 9, 160, 0, 7, 4, 167, 0, 4, 3, 172, 42, 180, 0, 101]
abbrev dktX2_isFull_3 : List UInt8 := dkwX2_isFull_3 ++ dktX2_isFull_4
def dkwX2_isFull_2 : List UInt8 := [42, 180, 0, 101, 180, 0, 108, 180, 0, 112, 16, 9, 160, 0, 7, 4, 167, 0, 4, 3, 172, 42]
abbrev dktX2_isFull_2 : List UInt8 := dkwX2_isFull_2 ++ dktX2_isFull_3
def dkwX2_isFull_1 : List UInt8 := [170, 0, 0, 0, 0, 0, 163, 0, 0, 0, 0, 0, 0, 0, 6, 0, 0, 0, 43, 0, 0, 0, 64, 0, 0, 0, 85, 0, 0, 0, 106, 0, 0, 0, 163, 0, 0, 0, 124, 0, 0, 0, 142]
abbrev dktX2_isFull_1 : List UInt8 := dkwX2_isFull_1 ++ dktX2_isFull_2
def dkwX2_isFull_0 : List UInt8 := [27]
abbrev dktX2_isFull_0 : List UInt8 := dkwX2_isFull_0 ++ dktX2_isFull_1
theorem dksX2_isFull_0 : cX2_isFull.data.toList.drop 0 = dktX2_isFull_0 := by decide +kernel
theorem dksX2_isFull_1 : cX2_isFull.data.toList.drop 1 = dktX2_isFull_1 := dk_seg dksX2_isFull_0 1 rfl rfl
theorem dksX2_isFull_2 : cX2_isFull.data.toList.drop 44 = dktX2_isFull_2 := dk_seg dksX2_isFull_1 43 rfl rfl
theorem dksX2_isFull_3 : cX2_isFull.data.toList.drop 66 = dktX2_isFull_3 := dk_seg dksX2_isFull_2 22 rfl rfl
theorem dksX2_isFull_4 : cX2_isFull.data.toList.drop 90 = dktX2_isFull_4 := dk_seg dksX2_isFull_3 24 rfl rfl
theorem dksX2_isFull_5 : cX2_isFull.data.toList.drop 114 = dktX2_isFull_5 := dk_seg dksX2_isFull_4 24 rfl rfl
theorem dksX2_isFull_6 : cX2_isFull.data.toList.drop 138 = dktX2_isFull_6 := dk_seg dksX2_isFull_5 24 rfl rfl
theorem dksX2_isFull_7 : cX2_isFull.data.toList.drop 162 = dktX2_isFull_7 := dk_seg dksX2_isFull_6 24 rfl rfl
theorem dX2_isFull_0 : decode cX2_isFull 0 = .ok (.iload_n 1, 1) := dk_27 (dk_at dksX2_isFull_0 0 rfl rfl)
theorem dX2_isFull_1 : decode cX2_isFull 1 = .ok (.tableswitch 163 0 6 #[43, 64, 85, 106, 163, 124, 142], 43) := by decide +kernel
theorem dX2_isFull_44 : decode cX2_isFull 44 = .ok (.aload_n 0, 1) := dk_42 (dk_at dksX2_isFull_2 0 rfl rfl)
theorem dX2_isFull_45 : decode cX2_isFull 45 = .ok (.getfield 101, 3) := dk_180 0 101 (dk_at dksX2_isFull_2 1 rfl rfl)
theorem dX2_isFull_48 : decode cX2_isFull 48 = .ok (.getfield 108, 3) := dk_180 0 108 (dk_at dksX2_isFull_2 4 rfl rfl)
theorem dX2_isFull_51 : decode cX2_isFull 51 = .ok (.getfield 112, 3) := dk_180 0 112 (dk_at dksX2_isFull_2 7 rfl rfl)
theorem dX2_isFull_54 : decode cX2_isFull 54 = .ok (.bipush 9, 2) := dk_16 9 (dk_at dksX2_isFull_2 10 rfl rfl)
theorem dX2_isFull_56 : decode cX2_isFull 56 = .ok (.if_icmp .ne 7, 3) := dk_160 0 7 (dk_at dksX2_isFull_2 12 rfl rfl)
theorem dX2_isFull_59 : decode cX2_isFull 59 = .ok (.iconst 1, 1) := dk_4 (dk_at dksX2_isFull_2 15 rfl rfl)
theorem dX2_isFull_60 : decode cX2_isFull 60 = .ok (.goto 4, 3) := dk_167 0 4 (dk_at dksX2_isFull_2 16 rfl rfl)
theorem dX2_isFull_63 : decode cX2_isFull 63 = .ok (.iconst 0, 1) := dk_3 (dk_at dksX2_isFull_2 19 rfl rfl)
theorem dX2_isFull_64 : decode cX2_isFull 64 = .ok (.ireturn, 1) := dk_172 (dk_at dksX2_isFull_2 20 rfl rfl)
theorem dX2_isFull_65 : decode cX2_isFull 65 = .ok (.aload_n 0, 1) := dk_42 (dk_at dksX2_isFull_2 21 rfl rfl)
theorem dX2_isFull_66 : decode cX2_isFull 66 = .ok (.getfield 101, 3) := dk_180 0 101 (dk_at dksX2_isFull_3 0 rfl rfl)
theorem dX2_isFull_69 : decode cX2_isFull 69 = .ok (.getfield 117, 3) := dk_180 0 117 (dk_at dksX2_isFull_3 3 rfl rfl)
theorem dX2_isFull_72 : decode cX2_isFull 72 = .ok (.getfield 112, 3) := dk_180 0 112 (dk_at dksX2_isFull_3 6 rfl rfl)
theorem dX2_isFull_75 : decode cX2_isFull 75 = .ok (.bipush 9, 2) := dk_16 9 (dk_at dksX2_isFull_3 9 rfl rfl)
theorem dX2_isFull_77 : decode cX2_isFull 77 = .ok (.if_icmp .ne 7, 3) := dk_160 0 7 (dk_at dksX2_isFull_3 11 rfl rfl)
theorem dX2_isFull_80 : decode cX2_isFull 80 = .ok (.iconst 1, 1) := dk_4 (dk_at dksX2_isFull_3 14 rfl rfl)
theorem dX2_isFull_81 : decode cX2_isFull 81 = .ok (.goto 4, 3) := dk_167 0 4 (dk_at dksX2_isFull_3 15 rfl rfl)
theorem dX2_isFull_84 : decode cX2_isFull 84 = .ok (.iconst 0, 1) := dk_3 (dk_at dksX2_isFull_3 18 rfl rfl)
theorem dX2_isFull_85 : decode cX2_isFull 85 = .ok (.ireturn, 1) := dk_172 (dk_at dksX2_isFull_3 19 rfl rfl)
theorem dX2_isFull_86 : decode cX2_isFull 86 = .ok (.aload_n 0, 1) := dk_42 (dk_at dksX2_isFull_3 20 rfl rfl)
theorem dX2_isFull_87 : decode cX2_isFull 87 = .ok (.getfield 101, 3) := dk_180 0 101 (dk_at dksX2_isFull_3 21 rfl rfl)
theorem dX2_isFull_90 : decode cX2_isFull 90 = .ok (.getfield 120, 3) := dk_180 0 120 (dk_at dksX2_isFull_4 0 rfl rfl)
theorem dX2_isFull_93 : decode cX2_isFull 93 = .ok (.invokevirtual 124, 3) := dk_182 0 124 (dk_at dksX2_isFull_4 3 rfl rfl)
theorem dX2_isFull_96 : decode cX2_isFull 96 = .ok (.bipush 6, 2) := dk_16 6 (dk_at dksX2_isFull_4 6 rfl rfl)
theorem dX2_isFull_98 : decode cX2_isFull 98 = .ok (.if_icmp .ne 7, 3) := dk_160 0 7 (dk_at dksX2_isFull_4 8 rfl rfl)
theorem dX2_isFull_101 : decode cX2_isFull 101 = .ok (.iconst 1, 1) := dk_4 (dk_at dksX2_isFull_4 11 rfl rfl)
theorem dX2_isFull_102 : decode cX2_isFull 102 = .ok (.goto 4, 3) := dk_167 0 4 (dk_at dksX2_isFull_4 12 rfl rfl)
theorem dX2_isFull_105 : decode cX2_isFull 105 = .ok (.iconst 0, 1) := dk_3 (dk_at dksX2_isFull_4 15 rfl rfl)
theorem dX2_isFull_106 : decode cX2_isFull 106 = .ok (.ireturn, 1) := dk_172 (dk_at dksX2_isFull_4 16 rfl rfl)
theorem dX2_isFull_107 : decode cX2_isFull 107 = .ok (.aload_n 0, 1) := dk_42 (dk_at dksX2_isFull_4 17 rfl rfl)
theorem dX2_isFull_108 : decode cX2_isFull 108 = .ok (.getfield 101, 3) := dk_180 0 101 (dk_at dksX2_isFull_4 18 rfl rfl)
theorem dX2_isFull_111 : decode cX2_isFull 111 = .ok (.getfield 128, 3) := dk_180 0 128 (dk_at dksX2_isFull_4 21 rfl rfl)
theorem dX2_isFull_114 : decode cX2_isFull 114 = .ok (.bipush 6, 2) := dk_16 6 (dk_at dksX2_isFull_5 0 rfl rfl)
theorem dX2_isFull_116 : decode cX2_isFull 116 = .ok (.if_icmp .ne 7, 3) := dk_160 0 7 (dk_at dksX2_isFull_5 2 rfl rfl)
theorem dX2_isFull_119 : decode cX2_isFull 119 = .ok (.iconst 1, 1) := dk_4 (dk_at dksX2_isFull_5 5 rfl rfl)
theorem dX2_isFull_120 : decode cX2_isFull 120 = .ok (.goto 4, 3) := dk_167 0 4 (dk_at dksX2_isFull_5 6 rfl rfl)
theorem dX2_isFull_123 : decode cX2_isFull 123 = .ok (.iconst 0, 1) := dk_3 (dk_at dksX2_isFull_5 9 rfl rfl)
theorem dX2_isFull_124 : decode cX2_isFull 124 = .ok (.ireturn, 1) := dk_172 (dk_at dksX2_isFull_5 10 rfl rfl)
theorem dX2_isFull_125 : decode cX2_isFull 125 = .ok (.aload_n 0, 1) := dk_42 (dk_at dksX2_isFull_5 11 rfl rfl)
theorem dX2_isFull_126 : decode cX2_isFull 126 = .ok (.getfield 101, 3) := dk_180 0 101 (dk_at dksX2_isFull_5 12 rfl rfl)
theorem dX2_isFull_129 : decode cX2_isFull 129 = .ok (.getfield 131, 3) := dk_180 0 131 (dk_at dksX2_isFull_5 15 rfl rfl)
theorem dX2_isFull_132 : decode cX2_isFull 132 = .ok (.bipush 6, 2) := dk_16 6 (dk_at dksX2_isFull_5 18 rfl rfl)
theorem dX2_isFull_134 : decode cX2_isFull 134 = .ok (.if_icmp .ne 7, 3) := dk_160 0 7 (dk_at dksX2_isFull_5 20 rfl rfl)
theorem dX2_isFull_137 : decode cX2_isFull 137 = .ok (.iconst 1, 1) := dk_4 (dk_at dksX2_isFull_5 23 rfl rfl)
theorem dX2_isFull_138 : decode cX2_isFull 138 = .ok (.goto 4, 3) := dk_167 0 4 (dk_at dksX2_isFull_6 0 rfl rfl)
theorem dX2_isFull_141 : decode cX2_isFull 141 = .ok (.iconst 0, 1) := dk_3 (dk_at dksX2_isFull_6 3 rfl rfl)
theorem dX2_isFull_142 : decode cX2_isFull 142 = .ok (.ireturn, 1) := dk_172 (dk_at dksX2_isFull_6 4 rfl rfl)
theorem dX2_isFull_143 : decode cX2_isFull 143 = .ok (.aload_n 0, 1) := dk_42 (dk_at dksX2_isFull_6 5 rfl rfl)
theorem dX2_isFull_144 : decode cX2_isFull 144 = .ok (.getfield 101, 3) := dk_180 0 101 (dk_at dksX2_isFull_6 6 rfl rfl)
theorem dX2_isFull_147 : decode cX2_isFull 147 = .ok (.getfield 134, 3) := dk_180 0 134 (dk_at dksX2_isFull_6 9 rfl rfl)
theorem dX2_isFull_150 : decode cX2_isFull 150 = .ok (.invokevirtual 124, 3) := dk_182 0 124 (dk_at dksX2_isFull_6 12 rfl rfl)
theorem dX2_isFull_153 : decode cX2_isFull 153 = .ok (.bipush 6, 2) := dk_16 6 (dk_at dksX2_isFull_6 15 rfl rfl)
theorem dX2_isFull_155 : decode cX2_isFull 155 = .ok (.if_icmp .ne 7, 3) := dk_160 0 7 (dk_at dksX2_isFull_6 17 rfl rfl)
theorem dX2_isFull_158 : decode cX2_isFull 158 = .ok (.iconst 1, 1) := dk_4 (dk_at dksX2_isFull_6 20 rfl rfl)
theorem dX2_isFull_159 : decode cX2_isFull 159 = .ok (.goto 4, 3) := dk_167 0 4 (dk_at dksX2_isFull_6 21 rfl rfl)
theorem dX2_isFull_162 : decode cX2_isFull 162 = .ok (.iconst 0, 1) := dk_3 (dk_at dksX2_isFull_7 0 rfl rfl)
theorem dX2_isFull_163 : decode cX2_isFull 163 = .ok (.ireturn, 1) := dk_172 (dk_at dksX2_isFull_7 1 rfl rfl)
theorem dX2_isFull_164 : decode cX2_isFull 164 = .ok (.iconst 0, 1) := dk_3 (dk_at dksX2_isFull_7 2 rfl rfl)
theorem dX2_isFull_165 : decode cX2_isFull 165 = .ok (.ireturn, 1) := dk_172 (dk_at dksX2_isFull_7 3 rfl rfl)
theorem gX2_isFull_0 {v1 : Int32} {T : zT} {I : zI} {L : zL} {R : zR} {P : zP} (hx : zXok T R) (h : ((v1 = (0 : Int32) → (T (R 1008 7)).1 = 3 ∧ (T (R (R 1008 7) 0)).1 = 4 ∧ (((I (R (R 1008 7) 0) 2) = (9 : Int32) → P 0 (.int (1 : Int32)) T I L R) ∧ (¬ (I (R (R 1008 7) 0) 2) = (9 : Int32) → P 0 (.int (0 : Int32)) T I L R))) ∧ (¬ v1 = (0 : Int32) → ((v1 = (1 : Int32) → (T (R 1008 7)).1 = 3 ∧ (T (R (R 1008 7) 1)).1 = 4 ∧ (((I (R (R 1008 7) 1) 2) = (9 : Int32) → P 0 (.int (1 : Int32)) T I L R) ∧ (¬ (I (R (R 1008 7) 1) 2) = (9 : Int32) → P 0 (.int (0 : Int32)) T I L R))) ∧ (¬ v1 = (1 : Int32) → ((v1 = (2 : Int32) → (T (R 1008 7)).1 = 3 ∧ (T (R (R 1008 7) 2)).1 = 5 ∧ zMet mJ2_size 1 0 [.ref (R (R 1008 7) 2)] T I L R (zqI_ T I L R  (fun (r6 : Int32)  => ((r6 = (6 : Int32) → P 0 (.int (1 : Int32)) T I L R) ∧ (¬ r6 = (6 : Int32) → P 0 (.int (0 : Int32)) T I L R))))) ∧ (¬ v1 = (2 : Int32) → ((v1 = (3 : Int32) → (T (R 1008 7)).1 = 3 ∧ (((I (R 1008 7) 12) = (6 : Int32) → P 0 (.int (1 : Int32)) T I L R) ∧ (¬ (I (R 1008 7) 12) = (6 : Int32) → P 0 (.int (0 : Int32)) T I L R))) ∧ (¬ v1 = (3 : Int32) → ((v1 = (4 : Int32) → P 0 (.int (0 : Int32)) T I L R) ∧ (¬ v1 = (4 : Int32) → ((v1 = (5 : Int32) → (T (R 1008 7)).1 = 3 ∧ (((I (R 1008 7) 13) = (6 : Int32) → P 0 (.int (1 : Int32)) T I L R) ∧ (¬ (I (R 1008 7) 13) = (6 : Int32) → P 0 (.int (0 : Int32)) T I L R))) ∧ (¬ v1 = (5 : Int32) → ((v1 = (6 : Int32) → (T (R 1008 7)).1 = 3 ∧ (T (R (R 1008 7) 3)).1 = 5 ∧ zMet mJ2_size 1 0 [.ref (R (R 1008 7) 3)] T I L R (zqI_ T I L R  (fun (r11 : Int32)  => ((r11 = (6 : Int32) → P 0 (.int (1 : Int32)) T I L R) ∧ (¬ r11 = (6 : Int32) → P 0 (.int (0 : Int32)) T I L R))))) ∧ (¬ v1 = (6 : Int32) → P 0 (.int (0 : Int32)) T I L R))))))))))))))) : zAW mX2_isFull 2 0 0 [(0, .ref 1008), (1, .int v1)] [] T I L R P := by
  refine za_iload_n (pc' := 1) 1 dX2_isFull_0 rfl rfl rfl ?_
  by_cases hs13 : v1 = (0 : Int32)
  · replace h := h.1 hs13
    refine za_tableIn (off := 43) (tgt := 44) dX2_isFull_1 (by rw [hs13]; decide) (by rw [hs13]; decide) (by rw [hs13]; rfl) (by decide) ?_
    refine za_aload_n (pc' := 45) 0 dX2_isFull_44 rfl rfl rfl ?_
    refine za_get (fi := 7) (v := .ref (R 1008 7)) (pc' := 48) dX2_isFull_45 zc1 (by decide) in_X2 (by decide) q192 (Or.inl rfl) (congrArg Prod.fst (zX_t1008 hx)) rfl rfl ?_
    obtain ⟨ht1, h⟩ := h
    refine za_getN (fi := 0) (v := .ref (R (R 1008 7) 0)) (pc' := 51) dX2_isFull_48 zc2 (by decide) in_X3 (by decide) q272 (Or.inl rfl) ht1 rfl rfl ?_
    obtain ⟨ht2, h⟩ := h
    refine za_getN (fi := 2) (v := .int (I (R (R 1008 7) 0) 2)) (pc' := 54) dX2_isFull_51 zc3 (by decide) in_X4 (by decide) q232 (Or.inl rfl) ht2 rfl rfl ?_
    refine za_bipush (pc' := 56) dX2_isFull_54 zb8_9 rfl ?_
    refine za_icmp_ne (pc' := 59) (tgt := 63) dX2_isFull_56 (by decide) rfl (fun c9 => ?_) (fun c9 => ?_)
    · replace h := h.2 c9
      refine za_iconst (pc' := 64) dX2_isFull_63 zi_0 rfl ?_
      exact za_zreturn rfl dX2_isFull_64 (by decide) h
    · replace h := h.1 c9
      refine za_iconst (pc' := 60) dX2_isFull_59 zi_1 rfl ?_
      refine za_goto (tgt := 64) dX2_isFull_60 (by decide) ?_
      exact za_zreturn rfl dX2_isFull_64 (by decide) h
  replace h := h.2 hs13
  by_cases hs14 : v1 = (1 : Int32)
  · replace h := h.1 hs14
    refine za_tableIn (off := 64) (tgt := 65) dX2_isFull_1 (by rw [hs14]; decide) (by rw [hs14]; decide) (by rw [hs14]; rfl) (by decide) ?_
    refine za_aload_n (pc' := 66) 0 dX2_isFull_65 rfl rfl rfl ?_
    refine za_get (fi := 7) (v := .ref (R 1008 7)) (pc' := 69) dX2_isFull_66 zc1 (by decide) in_X2 (by decide) q192 (Or.inl rfl) (congrArg Prod.fst (zX_t1008 hx)) rfl rfl ?_
    obtain ⟨ht3, h⟩ := h
    refine za_getN (fi := 1) (v := .ref (R (R 1008 7) 1)) (pc' := 72) dX2_isFull_69 zc2 (by decide) in_X3 (by decide) q275 (Or.inl rfl) ht3 rfl rfl ?_
    obtain ⟨ht4, h⟩ := h
    refine za_getN (fi := 2) (v := .int (I (R (R 1008 7) 1) 2)) (pc' := 75) dX2_isFull_72 zc3 (by decide) in_X4 (by decide) q232 (Or.inl rfl) ht4 rfl rfl ?_
    refine za_bipush (pc' := 77) dX2_isFull_75 zb8_9 rfl ?_
    refine za_icmp_ne (pc' := 80) (tgt := 84) dX2_isFull_77 (by decide) rfl (fun c9 => ?_) (fun c9 => ?_)
    · replace h := h.2 c9
      refine za_iconst (pc' := 85) dX2_isFull_84 zi_0 rfl ?_
      exact za_zreturn rfl dX2_isFull_85 (by decide) h
    · replace h := h.1 c9
      refine za_iconst (pc' := 81) dX2_isFull_80 zi_1 rfl ?_
      refine za_goto (tgt := 85) dX2_isFull_81 (by decide) ?_
      exact za_zreturn rfl dX2_isFull_85 (by decide) h
  replace h := h.2 hs14
  by_cases hs15 : v1 = (2 : Int32)
  · replace h := h.1 hs15
    refine za_tableIn (off := 85) (tgt := 86) dX2_isFull_1 (by rw [hs15]; decide) (by rw [hs15]; decide) (by rw [hs15]; rfl) (by decide) ?_
    refine za_aload_n (pc' := 87) 0 dX2_isFull_86 rfl rfl rfl ?_
    refine za_get (fi := 7) (v := .ref (R 1008 7)) (pc' := 90) dX2_isFull_87 zc1 (by decide) in_X2 (by decide) q192 (Or.inl rfl) (congrArg Prod.fst (zX_t1008 hx)) rfl rfl ?_
    obtain ⟨ht5, h⟩ := h
    refine za_getN (fi := 2) (v := .ref (R (R 1008 7) 2)) (pc' := 93) dX2_isFull_90 zc2 (by decide) in_X3 (by decide) q279 (Or.inl rfl) ht5 rfl rfl ?_
    obtain ⟨ht7, h⟩ := h
    refine za_callV (κ := (R (R 1008 7) 2)) (M2 := mJ2_size) (d2 := 1) (b2 := 0) (n := 0) (As := []) (st := []) (pc' := 96) zc4 (by decide) ht7 dX2_isFull_93 rfl (lw_V q818 q466 q467 q137 q468) ⟨rfl, hd_J2_size⟩ rfl (by decide) (by decide) (Nat.zero_le _) (Or.inl rfl) (Nat.le_of_ble_eq_true rfl) h (zqI__k rfl (fun r6 h => ?_)) (fun _ _ _ _ _ _ h9 h8 => absurd h8.1 h9) rfl
    refine za_bipush (pc' := 98) dX2_isFull_96 zb8_6 rfl ?_
    refine za_icmp_ne (pc' := 101) (tgt := 105) dX2_isFull_98 (by decide) rfl (fun c9 => ?_) (fun c9 => ?_)
    · replace h := h.2 c9
      refine za_iconst (pc' := 106) dX2_isFull_105 zi_0 rfl ?_
      exact za_zreturn rfl dX2_isFull_106 (by decide) h
    · replace h := h.1 c9
      refine za_iconst (pc' := 102) dX2_isFull_101 zi_1 rfl ?_
      refine za_goto (tgt := 106) dX2_isFull_102 (by decide) ?_
      exact za_zreturn rfl dX2_isFull_106 (by decide) h
  replace h := h.2 hs15
  by_cases hs16 : v1 = (3 : Int32)
  · replace h := h.1 hs16
    refine za_tableIn (off := 106) (tgt := 107) dX2_isFull_1 (by rw [hs16]; decide) (by rw [hs16]; decide) (by rw [hs16]; rfl) (by decide) ?_
    refine za_aload_n (pc' := 108) 0 dX2_isFull_107 rfl rfl rfl ?_
    refine za_get (fi := 7) (v := .ref (R 1008 7)) (pc' := 111) dX2_isFull_108 zc1 (by decide) in_X2 (by decide) q192 (Or.inl rfl) (congrArg Prod.fst (zX_t1008 hx)) rfl rfl ?_
    obtain ⟨ht8, h⟩ := h
    refine za_getN (fi := 12) (v := .int (I (R 1008 7) 12)) (pc' := 114) dX2_isFull_111 zc2 (by decide) in_X3 (by decide) q304 (Or.inl rfl) ht8 rfl rfl ?_
    refine za_bipush (pc' := 116) dX2_isFull_114 zb8_6 rfl ?_
    refine za_icmp_ne (pc' := 119) (tgt := 123) dX2_isFull_116 (by decide) rfl (fun c9 => ?_) (fun c9 => ?_)
    · replace h := h.2 c9
      refine za_iconst (pc' := 124) dX2_isFull_123 zi_0 rfl ?_
      exact za_zreturn rfl dX2_isFull_124 (by decide) h
    · replace h := h.1 c9
      refine za_iconst (pc' := 120) dX2_isFull_119 zi_1 rfl ?_
      refine za_goto (tgt := 124) dX2_isFull_120 (by decide) ?_
      exact za_zreturn rfl dX2_isFull_124 (by decide) h
  replace h := h.2 hs16
  by_cases hs17 : v1 = (4 : Int32)
  · replace h := h.1 hs17
    refine za_tableIn (off := 163) (tgt := 164) dX2_isFull_1 (by rw [hs17]; decide) (by rw [hs17]; decide) (by rw [hs17]; rfl) (by decide) ?_
    refine za_iconst (pc' := 165) dX2_isFull_164 zi_0 rfl ?_
    exact za_zreturn rfl dX2_isFull_165 (by decide) h
  replace h := h.2 hs17
  by_cases hs18 : v1 = (5 : Int32)
  · replace h := h.1 hs18
    refine za_tableIn (off := 124) (tgt := 125) dX2_isFull_1 (by rw [hs18]; decide) (by rw [hs18]; decide) (by rw [hs18]; rfl) (by decide) ?_
    refine za_aload_n (pc' := 126) 0 dX2_isFull_125 rfl rfl rfl ?_
    refine za_get (fi := 7) (v := .ref (R 1008 7)) (pc' := 129) dX2_isFull_126 zc1 (by decide) in_X2 (by decide) q192 (Or.inl rfl) (congrArg Prod.fst (zX_t1008 hx)) rfl rfl ?_
    obtain ⟨ht9, h⟩ := h
    refine za_getN (fi := 13) (v := .int (I (R 1008 7) 13)) (pc' := 132) dX2_isFull_129 zc2 (by decide) in_X3 (by decide) q307 (Or.inl rfl) ht9 rfl rfl ?_
    refine za_bipush (pc' := 134) dX2_isFull_132 zb8_6 rfl ?_
    refine za_icmp_ne (pc' := 137) (tgt := 141) dX2_isFull_134 (by decide) rfl (fun c9 => ?_) (fun c9 => ?_)
    · replace h := h.2 c9
      refine za_iconst (pc' := 142) dX2_isFull_141 zi_0 rfl ?_
      exact za_zreturn rfl dX2_isFull_142 (by decide) h
    · replace h := h.1 c9
      refine za_iconst (pc' := 138) dX2_isFull_137 zi_1 rfl ?_
      refine za_goto (tgt := 142) dX2_isFull_138 (by decide) ?_
      exact za_zreturn rfl dX2_isFull_142 (by decide) h
  replace h := h.2 hs18
  by_cases hs19 : v1 = (6 : Int32)
  · replace h := h.1 hs19
    refine za_tableIn (off := 142) (tgt := 143) dX2_isFull_1 (by rw [hs19]; decide) (by rw [hs19]; decide) (by rw [hs19]; rfl) (by decide) ?_
    refine za_aload_n (pc' := 144) 0 dX2_isFull_143 rfl rfl rfl ?_
    refine za_get (fi := 7) (v := .ref (R 1008 7)) (pc' := 147) dX2_isFull_144 zc1 (by decide) in_X2 (by decide) q192 (Or.inl rfl) (congrArg Prod.fst (zX_t1008 hx)) rfl rfl ?_
    obtain ⟨ht10, h⟩ := h
    refine za_getN (fi := 3) (v := .ref (R (R 1008 7) 3)) (pc' := 150) dX2_isFull_147 zc2 (by decide) in_X3 (by decide) q281 (Or.inl rfl) ht10 rfl rfl ?_
    obtain ⟨ht12, h⟩ := h
    refine za_callV (κ := (R (R 1008 7) 3)) (M2 := mJ2_size) (d2 := 1) (b2 := 0) (n := 0) (As := []) (st := []) (pc' := 153) zc4 (by decide) ht12 dX2_isFull_150 rfl (lw_V q818 q466 q467 q137 q468) ⟨rfl, hd_J2_size⟩ rfl (by decide) (by decide) (Nat.zero_le _) (Or.inl rfl) (Nat.le_of_ble_eq_true rfl) h (zqI__k rfl (fun r11 h => ?_)) (fun _ _ _ _ _ _ h9 h8 => absurd h8.1 h9) rfl
    refine za_bipush (pc' := 155) dX2_isFull_153 zb8_6 rfl ?_
    refine za_icmp_ne (pc' := 158) (tgt := 162) dX2_isFull_155 (by decide) rfl (fun c9 => ?_) (fun c9 => ?_)
    · replace h := h.2 c9
      refine za_iconst (pc' := 163) dX2_isFull_162 zi_0 rfl ?_
      exact za_zreturn rfl dX2_isFull_163 (by decide) h
    · replace h := h.1 c9
      refine za_iconst (pc' := 159) dX2_isFull_158 zi_1 rfl ?_
      refine za_goto (tgt := 163) dX2_isFull_159 (by decide) ?_
      exact za_zreturn rfl dX2_isFull_163 (by decide) h
  replace h := h.2 hs19
  refine za_tableOut (tgt := 164) dX2_isFull_1 (ztabOut (lo := 0) (hi := 6) (by omega) (fun k9 h8 h7 => by have q0 := zsw_n (0) (by decide) hs13; have q1 := zsw_n (1) (by decide) hs14; have q2 := zsw_n (2) (by decide) hs15; have q3 := zsw_n (3) (by decide) hs16; have q4 := zsw_n (4) (by decide) hs17; have q5 := zsw_n (5) (by decide) hs18; have q6 := zsw_n (6) (by decide) hs19; omega)) (by decide) ?_
  refine za_iconst (pc' := 165) dX2_isFull_164 zi_0 rfl ?_
  exact za_zreturn rfl dX2_isFull_165 (by decide) h
theorem sX2_isFull {d b : Nat} {v1 : Int32} {T : zT} {I : zI} {L : zL} {R : zR} {P : zP} (h : zAW mX2_isFull d b 0 [(0, .ref 1008), (1, .int v1)] [] T I L R P) : zMet mX2_isFull d b [.ref 1008, .int v1] T I L R P := zMet_of (by decide +kernel) rfl (Nat.le_of_ble_eq_true rfl) rfl h
/-! TwoTongues$Reader.storeLine (LTwoTongues$Store;)V -/
def dkwX2_storeLine_2 : List UInt8 := [182, 0, 176, 182, 0, 203, 177]
abbrev dktX2_storeLine_2 : List UInt8 := dkwX2_storeLine_2 ++ []
def dkwX2_storeLine_1 : List UInt8 := [159, 0, 9, 42, 6, 182, 0, 85, 191, 42, 180, 0, 47, 61, 42, 182, 0, 89, 43, 28, 42, 3, 16, 99]
abbrev dktX2_storeLine_1 : List UInt8 := dkwX2_storeLine_1 ++ dktX2_storeLine_2
def dkwX2_storeLine_0 : List UInt8 := [42, 180, 0, 33, 4, 159, 0, 9, 42, 4, 182, 0, 85, 191, 43, 42, 180, 0, 47, 182, 0, 200, 2]
abbrev dktX2_storeLine_0 : List UInt8 := dkwX2_storeLine_0 ++ dktX2_storeLine_1
theorem dksX2_storeLine_0 : cX2_storeLine.data.toList.drop 0 = dktX2_storeLine_0 := by decide +kernel
theorem dksX2_storeLine_1 : cX2_storeLine.data.toList.drop 23 = dktX2_storeLine_1 := dk_seg dksX2_storeLine_0 23 rfl rfl
theorem dksX2_storeLine_2 : cX2_storeLine.data.toList.drop 47 = dktX2_storeLine_2 := dk_seg dksX2_storeLine_1 24 rfl rfl
theorem dX2_storeLine_0 : decode cX2_storeLine 0 = .ok (.aload_n 0, 1) := dk_42 (dk_at dksX2_storeLine_0 0 rfl rfl)
theorem dX2_storeLine_1 : decode cX2_storeLine 1 = .ok (.getfield 33, 3) := dk_180 0 33 (dk_at dksX2_storeLine_0 1 rfl rfl)
theorem dX2_storeLine_4 : decode cX2_storeLine 4 = .ok (.iconst 1, 1) := dk_4 (dk_at dksX2_storeLine_0 4 rfl rfl)
theorem dX2_storeLine_5 : decode cX2_storeLine 5 = .ok (.if_icmp .eq 9, 3) := dk_159 0 9 (dk_at dksX2_storeLine_0 5 rfl rfl)
theorem dX2_storeLine_8 : decode cX2_storeLine 8 = .ok (.aload_n 0, 1) := dk_42 (dk_at dksX2_storeLine_0 8 rfl rfl)
theorem dX2_storeLine_9 : decode cX2_storeLine 9 = .ok (.iconst 1, 1) := dk_4 (dk_at dksX2_storeLine_0 9 rfl rfl)
theorem dX2_storeLine_10 : decode cX2_storeLine 10 = .ok (.invokevirtual 85, 3) := dk_182 0 85 (dk_at dksX2_storeLine_0 10 rfl rfl)
theorem dX2_storeLine_13 : decode cX2_storeLine 13 = .ok (.athrow, 1) := dk_191 (dk_at dksX2_storeLine_0 13 rfl rfl)
theorem dX2_storeLine_14 : decode cX2_storeLine 14 = .ok (.aload_n 1, 1) := dk_43 (dk_at dksX2_storeLine_0 14 rfl rfl)
theorem dX2_storeLine_15 : decode cX2_storeLine 15 = .ok (.aload_n 0, 1) := dk_42 (dk_at dksX2_storeLine_0 15 rfl rfl)
theorem dX2_storeLine_16 : decode cX2_storeLine 16 = .ok (.getfield 47, 3) := dk_180 0 47 (dk_at dksX2_storeLine_0 16 rfl rfl)
theorem dX2_storeLine_19 : decode cX2_storeLine 19 = .ok (.invokevirtual 200, 3) := dk_182 0 200 (dk_at dksX2_storeLine_0 19 rfl rfl)
theorem dX2_storeLine_22 : decode cX2_storeLine 22 = .ok (.iconst (-1), 1) := dk_2 (dk_at dksX2_storeLine_0 22 rfl rfl)
theorem dX2_storeLine_23 : decode cX2_storeLine 23 = .ok (.if_icmp .eq 9, 3) := dk_159 0 9 (dk_at dksX2_storeLine_1 0 rfl rfl)
theorem dX2_storeLine_26 : decode cX2_storeLine 26 = .ok (.aload_n 0, 1) := dk_42 (dk_at dksX2_storeLine_1 3 rfl rfl)
theorem dX2_storeLine_27 : decode cX2_storeLine 27 = .ok (.iconst 3, 1) := dk_6 (dk_at dksX2_storeLine_1 4 rfl rfl)
theorem dX2_storeLine_28 : decode cX2_storeLine 28 = .ok (.invokevirtual 85, 3) := dk_182 0 85 (dk_at dksX2_storeLine_1 5 rfl rfl)
theorem dX2_storeLine_31 : decode cX2_storeLine 31 = .ok (.athrow, 1) := dk_191 (dk_at dksX2_storeLine_1 8 rfl rfl)
theorem dX2_storeLine_32 : decode cX2_storeLine 32 = .ok (.aload_n 0, 1) := dk_42 (dk_at dksX2_storeLine_1 9 rfl rfl)
theorem dX2_storeLine_33 : decode cX2_storeLine 33 = .ok (.getfield 47, 3) := dk_180 0 47 (dk_at dksX2_storeLine_1 10 rfl rfl)
theorem dX2_storeLine_36 : decode cX2_storeLine 36 = .ok (.istore_n 2, 1) := dk_61 (dk_at dksX2_storeLine_1 13 rfl rfl)
theorem dX2_storeLine_37 : decode cX2_storeLine 37 = .ok (.aload_n 0, 1) := dk_42 (dk_at dksX2_storeLine_1 14 rfl rfl)
theorem dX2_storeLine_38 : decode cX2_storeLine 38 = .ok (.invokevirtual 89, 3) := dk_182 0 89 (dk_at dksX2_storeLine_1 15 rfl rfl)
theorem dX2_storeLine_41 : decode cX2_storeLine 41 = .ok (.aload_n 1, 1) := dk_43 (dk_at dksX2_storeLine_1 18 rfl rfl)
theorem dX2_storeLine_42 : decode cX2_storeLine 42 = .ok (.iload_n 2, 1) := dk_28 (dk_at dksX2_storeLine_1 19 rfl rfl)
theorem dX2_storeLine_43 : decode cX2_storeLine 43 = .ok (.aload_n 0, 1) := dk_42 (dk_at dksX2_storeLine_1 20 rfl rfl)
theorem dX2_storeLine_44 : decode cX2_storeLine 44 = .ok (.iconst 0, 1) := dk_3 (dk_at dksX2_storeLine_1 21 rfl rfl)
theorem dX2_storeLine_45 : decode cX2_storeLine 45 = .ok (.bipush 99, 2) := dk_16 99 (dk_at dksX2_storeLine_1 22 rfl rfl)
theorem dX2_storeLine_47 : decode cX2_storeLine 47 = .ok (.invokevirtual 176, 3) := dk_182 0 176 (dk_at dksX2_storeLine_2 0 rfl rfl)
theorem dX2_storeLine_50 : decode cX2_storeLine 50 = .ok (.invokevirtual 203, 3) := dk_182 0 203 (dk_at dksX2_storeLine_2 3 rfl rfl)
theorem dX2_storeLine_53 : decode cX2_storeLine 53 = .ok (.return_, 1) := dk_177 (dk_at dksX2_storeLine_2 6 rfl rfl)
theorem gX2_storeLine_0 {b : Nat} {v1 : Nat} {T : zT} {I : zI} {L : zL} {R : zR} {P : zP} (hx : zXok T R) (h : (((I 1008 3) = (1 : Int32) → (T v1).1 = 4 ∧ zMet mX4_find 1 0 [.ref v1, .int (I 1008 4)] T I L R (zqI_ T I L R  (fun (r1 : Int32)  => ((r1 = (-1 : Int32) → zMet mX2_next 6 0 [.ref 1008] T I L R (zqV_I T L R  (fun (I3 : zI)  => ∃ b10, b10 ≤ ((b - 0) - 0) ∧ zMet mX2_number 7 b10 [.ref 1008, .int (0 : Int32), .int (99 : Int32)] T I3 L R (zqI_TILRx  P (fun (r4 : Int32) (T5 : zT) (I6 : zI) (L7 : zL) (R8 : zR)  => zXok T5 R8 ∧ (T5 v1).1 = 4 ∧ zMet mX4_add 1 0 [.ref v1, .int (I 1008 4), .int r4] T5 I6 L7 R8 (zqV_I T5 L7 R8  (fun (I12 : zI)  => P 0 (.int 0) T5 I12 L7 R8))))))) ∧ (¬ r1 = (-1 : Int32) → ∃ b20, b20 ≤ (b - 0) ∧ zMet mX2_wrong 4 b20 [.ref 1008, .int (3 : Int32)] T I L R (zqR_TILR   (fun (r14 : Nat) (T15 : zT) (I16 : zI) (L17 : zL) (R18 : zR)  => zXok T15 R18 ∧ (T15 r14).1 = 14 ∧ P 1 (.ref r14) T15 I16 L17 R18))))))) ∧ (¬ (I 1008 3) = (1 : Int32) → ∃ b29, b29 ≤ b ∧ zMet mX2_wrong 4 b29 [.ref 1008, .int (1 : Int32)] T I L R (zqR_TILR   (fun (r23 : Nat) (T24 : zT) (I25 : zI) (L26 : zL) (R27 : zR)  => zXok T24 R27 ∧ (T24 r23).1 = 14 ∧ P 1 (.ref r23) T24 I25 L26 R27))))) : zAW mX2_storeLine 8 b 0 [(0, .ref 1008), (1, .ref v1)] [] T I L R P := by
  refine za_aload_n (pc' := 1) 0 dX2_storeLine_0 rfl rfl rfl ?_
  refine za_get (fi := 3) (v := .int (I 1008 3)) (pc' := 4) dX2_storeLine_1 zc1 (by decide) in_X2 (by decide) q188 (Or.inl rfl) (congrArg Prod.fst (zX_t1008 hx)) rfl rfl ?_
  refine za_iconst (pc' := 5) dX2_storeLine_4 zi_1 rfl ?_
  refine za_icmp_eq (pc' := 8) (tgt := 14) dX2_storeLine_5 (by decide) rfl (fun c9 => ?_) (fun c9 => ?_)
  · replace h := h.1 c9
    refine za_aload_n (pc' := 15) 1 dX2_storeLine_14 rfl rfl rfl ?_
    refine za_aload_n (pc' := 16) 0 dX2_storeLine_15 rfl rfl rfl ?_
    refine za_get (fi := 4) (v := .int (I 1008 4)) (pc' := 19) dX2_storeLine_16 zc1 (by decide) in_X2 (by decide) q189 (Or.inl rfl) (congrArg Prod.fst (zX_t1008 hx)) rfl rfl ?_
    obtain ⟨ht2, h⟩ := h
    refine za_callV (κ := v1) (M2 := mX4_find) (d2 := 1) (b2 := 0) (n := 1) (As := [.int (I 1008 4)]) (st := []) (pc' := 22) zc3 (by decide) ht2 dX2_storeLine_19 rfl (lw_V q825 q826 q827 q134 q828) ⟨rfl, hd_X4_find⟩ rfl (by decide) (by decide) (Nat.zero_le _) (Or.inl rfl) (Nat.le_of_ble_eq_true rfl) h (zqI__k rfl (fun r1 h => ?_)) (fun _ _ _ _ _ _ h9 h8 => absurd h8.1 h9) rfl
    refine za_iconst (pc' := 23) dX2_storeLine_22 zi_m1 rfl ?_
    refine za_icmp_eq (pc' := 26) (tgt := 32) dX2_storeLine_23 (by decide) rfl (fun c9 => ?_) (fun c9 => ?_)
    · replace h := h.1 c9
      refine za_aload_n (pc' := 33) 0 dX2_storeLine_32 rfl rfl rfl ?_
      refine za_get (fi := 4) (v := .int (I 1008 4)) (pc' := 36) dX2_storeLine_33 zc1 (by decide) in_X2 (by decide) q189 (Or.inl rfl) (congrArg Prod.fst (zX_t1008 hx)) rfl rfl ?_
      refine za_istore_n (pc' := 37) (l' := [(2, .int (I 1008 4)), (0, .ref 1008), (1, .ref v1)]) dX2_storeLine_36 rfl (Nat.le_of_ble_eq_true rfl) rfl rfl ?_
      refine za_aload_n (pc' := 38) 1 dX2_storeLine_37 rfl rfl rfl ?_
      refine za_callV (κ := 1008) (M2 := mX2_next) (d2 := 6) (b2 := 0) (n := 0) (As := []) (st := []) (pc' := 41) zc1 (by decide) (congrArg Prod.fst (zX_t1008 hx)) dX2_storeLine_38 rfl (lw_V q597 q599 qs1 q132 q600) ⟨rfl, hd_X2_next⟩ rfl (by decide) (by decide) (Nat.zero_le _) (Or.inl rfl) (Nat.le_of_ble_eq_true rfl) h (zqV_I_k rfl (fun I3 h => ?_)) (fun _ _ _ _ _ _ h9 h8 => absurd h8.1 h9) rfl
      refine za_aload_n (pc' := 42) 2 dX2_storeLine_41 rfl rfl rfl ?_
      refine za_iload_n (pc' := 43) 0 dX2_storeLine_42 rfl rfl rfl ?_
      refine za_aload_n (pc' := 44) 1 dX2_storeLine_43 rfl rfl rfl ?_
      refine za_iconst (pc' := 45) dX2_storeLine_44 zi_0 rfl ?_
      refine za_bipush (pc' := 47) dX2_storeLine_45 zb8_99 rfl ?_
      obtain ⟨b10, hb11, h⟩ := h
      refine za_callV (κ := 1008) (M2 := mX2_number) (d2 := 7) (b2 := b10) (n := 2) (As := [.int (0 : Int32), .int (99 : Int32)]) (st := [.int (I 1008 4), .ref v1]) (pc' := 50) zc1 (by decide) (congrArg Prod.fst (zX_t1008 hx)) dX2_storeLine_47 rfl (lw_V q829 q831 qs12 q132 q832) ⟨rfl, hd_X2_number⟩ rfl (by decide) (by decide) hb11 (Or.inl rfl) (Nat.le_of_ble_eq_true rfl) h (zqI_TILRx_k rfl (fun r4 T5 I6 L7 R8 h => ?_)) (fun _ _ _ _ _ _ h9 h8 => h8.2 h9) rfl
      obtain ⟨hx9, h⟩ := h
      obtain ⟨ht13, h⟩ := h
      refine za_callV (κ := v1) (M2 := mX4_add) (d2 := 1) (b2 := 0) (n := 2) (As := [.int (I 1008 4), .int r4]) (st := []) (pc' := 53) zc3 (by decide) ht13 dX2_storeLine_50 rfl (lw_V q833 q834 q835 q134 q836) ⟨rfl, hd_X4_add⟩ rfl (by decide) (by decide) (Nat.zero_le _) (Or.inl rfl) (Nat.le_of_ble_eq_true rfl) h (zqV_I_k rfl (fun I12 h => ?_)) (fun _ _ _ _ _ _ h9 h8 => absurd h8.1 h9) rfl
      exact za_return rfl dX2_storeLine_53 h
    · replace h := h.2 c9
      refine za_aload_n (pc' := 27) 0 dX2_storeLine_26 rfl rfl rfl ?_
      refine za_iconst (pc' := 28) dX2_storeLine_27 zi_3 rfl ?_
      obtain ⟨b20, hb21, h⟩ := h
      refine za_callV (κ := 1008) (M2 := mX2_wrong) (d2 := 4) (b2 := b20) (n := 1) (As := [.int (3 : Int32)]) (st := []) (pc' := 31) zc1 (by decide) (congrArg Prod.fst (zX_t1008 hx)) dX2_storeLine_28 rfl (lw_V q739 q741 qs8 q132 q742) ⟨rfl, hd_X2_wrong⟩ rfl (by decide) (by decide) hb21 (Or.inl rfl) (Nat.le_of_ble_eq_true rfl) h (zqR_TILR_k rfl (fun r14 T15 I16 L17 R18 h => ?_)) (fun _ _ _ _ _ _ h9 h8 => absurd h8.1 h9) rfl
      obtain ⟨hx19, h⟩ := h
      obtain ⟨ht22, h⟩ := h
      exact za_athrow dX2_storeLine_31 rfl (by decide) zc13 (by decide) ht22 rfl h
  · replace h := h.2 c9
    refine za_aload_n (pc' := 9) 0 dX2_storeLine_8 rfl rfl rfl ?_
    refine za_iconst (pc' := 10) dX2_storeLine_9 zi_1 rfl ?_
    obtain ⟨b29, hb30, h⟩ := h
    refine za_callV (κ := 1008) (M2 := mX2_wrong) (d2 := 4) (b2 := b29) (n := 1) (As := [.int (1 : Int32)]) (st := []) (pc' := 13) zc1 (by decide) (congrArg Prod.fst (zX_t1008 hx)) dX2_storeLine_10 rfl (lw_V q739 q741 qs8 q132 q742) ⟨rfl, hd_X2_wrong⟩ rfl (by decide) (by decide) hb30 (Or.inl rfl) (Nat.le_of_ble_eq_true rfl) h (zqR_TILR_k rfl (fun r23 T24 I25 L26 R27 h => ?_)) (fun _ _ _ _ _ _ h9 h8 => absurd h8.1 h9) rfl
    obtain ⟨hx28, h⟩ := h
    obtain ⟨ht31, h⟩ := h
    exact za_athrow dX2_storeLine_13 rfl (by decide) zc13 (by decide) ht31 rfl h
theorem sX2_storeLine {d b : Nat} {v1 : Nat} {T : zT} {I : zI} {L : zL} {R : zR} {P : zP} (h : zAW mX2_storeLine d b 0 [(0, .ref 1008), (1, .ref v1)] [] T I L R P) : zMet mX2_storeLine d b [.ref 1008, .ref v1] T I L R P := zMet_of (by decide +kernel) rfl (Nat.le_of_ble_eq_true rfl) rfl h
/-! TwoTongues$Reader.number (II)I -/
def dkwX2_number_1 : List UInt8 := [184, 0, 40, 154, 0, 9, 42, 5, 182, 0, 85, 191, 42, 180, 0, 47, 62, 42, 182, 0, 89, 29, 172]
abbrev dktX2_number_1 : List UInt8 := dkwX2_number_1 ++ []
def dkwX2_number_0 : List UInt8 := [42, 180, 0, 33, 5, 159, 0, 9, 42, 4, 182, 0, 85, 191, 42, 180, 0, 47, 133, 27, 133, 28, 133]
abbrev dktX2_number_0 : List UInt8 := dkwX2_number_0 ++ dktX2_number_1
theorem dksX2_number_0 : cX2_number.data.toList.drop 0 = dktX2_number_0 := by decide +kernel
theorem dksX2_number_1 : cX2_number.data.toList.drop 23 = dktX2_number_1 := dk_seg dksX2_number_0 23 rfl rfl
theorem dX2_number_0 : decode cX2_number 0 = .ok (.aload_n 0, 1) := dk_42 (dk_at dksX2_number_0 0 rfl rfl)
theorem dX2_number_1 : decode cX2_number 1 = .ok (.getfield 33, 3) := dk_180 0 33 (dk_at dksX2_number_0 1 rfl rfl)
theorem dX2_number_4 : decode cX2_number 4 = .ok (.iconst 2, 1) := dk_5 (dk_at dksX2_number_0 4 rfl rfl)
theorem dX2_number_5 : decode cX2_number 5 = .ok (.if_icmp .eq 9, 3) := dk_159 0 9 (dk_at dksX2_number_0 5 rfl rfl)
theorem dX2_number_8 : decode cX2_number 8 = .ok (.aload_n 0, 1) := dk_42 (dk_at dksX2_number_0 8 rfl rfl)
theorem dX2_number_9 : decode cX2_number 9 = .ok (.iconst 1, 1) := dk_4 (dk_at dksX2_number_0 9 rfl rfl)
theorem dX2_number_10 : decode cX2_number 10 = .ok (.invokevirtual 85, 3) := dk_182 0 85 (dk_at dksX2_number_0 10 rfl rfl)
theorem dX2_number_13 : decode cX2_number 13 = .ok (.athrow, 1) := dk_191 (dk_at dksX2_number_0 13 rfl rfl)
theorem dX2_number_14 : decode cX2_number 14 = .ok (.aload_n 0, 1) := dk_42 (dk_at dksX2_number_0 14 rfl rfl)
theorem dX2_number_15 : decode cX2_number 15 = .ok (.getfield 47, 3) := dk_180 0 47 (dk_at dksX2_number_0 15 rfl rfl)
theorem dX2_number_18 : decode cX2_number 18 = .ok (.i2l, 1) := dk_133 (dk_at dksX2_number_0 18 rfl rfl)
theorem dX2_number_19 : decode cX2_number 19 = .ok (.iload_n 1, 1) := dk_27 (dk_at dksX2_number_0 19 rfl rfl)
theorem dX2_number_20 : decode cX2_number 20 = .ok (.i2l, 1) := dk_133 (dk_at dksX2_number_0 20 rfl rfl)
theorem dX2_number_21 : decode cX2_number 21 = .ok (.iload_n 2, 1) := dk_28 (dk_at dksX2_number_0 21 rfl rfl)
theorem dX2_number_22 : decode cX2_number 22 = .ok (.i2l, 1) := dk_133 (dk_at dksX2_number_0 22 rfl rfl)
theorem dX2_number_23 : decode cX2_number 23 = .ok (.invokestatic 40, 3) := dk_184 0 40 (dk_at dksX2_number_1 0 rfl rfl)
theorem dX2_number_26 : decode cX2_number 26 = .ok (.ifCond .ne 9, 3) := dk_154 0 9 (dk_at dksX2_number_1 3 rfl rfl)
theorem dX2_number_29 : decode cX2_number 29 = .ok (.aload_n 0, 1) := dk_42 (dk_at dksX2_number_1 6 rfl rfl)
theorem dX2_number_30 : decode cX2_number 30 = .ok (.iconst 2, 1) := dk_5 (dk_at dksX2_number_1 7 rfl rfl)
theorem dX2_number_31 : decode cX2_number 31 = .ok (.invokevirtual 85, 3) := dk_182 0 85 (dk_at dksX2_number_1 8 rfl rfl)
theorem dX2_number_34 : decode cX2_number 34 = .ok (.athrow, 1) := dk_191 (dk_at dksX2_number_1 11 rfl rfl)
theorem dX2_number_35 : decode cX2_number 35 = .ok (.aload_n 0, 1) := dk_42 (dk_at dksX2_number_1 12 rfl rfl)
theorem dX2_number_36 : decode cX2_number 36 = .ok (.getfield 47, 3) := dk_180 0 47 (dk_at dksX2_number_1 13 rfl rfl)
theorem dX2_number_39 : decode cX2_number 39 = .ok (.istore_n 3, 1) := dk_62 (dk_at dksX2_number_1 16 rfl rfl)
theorem dX2_number_40 : decode cX2_number 40 = .ok (.aload_n 0, 1) := dk_42 (dk_at dksX2_number_1 17 rfl rfl)
theorem dX2_number_41 : decode cX2_number 41 = .ok (.invokevirtual 89, 3) := dk_182 0 89 (dk_at dksX2_number_1 18 rfl rfl)
theorem dX2_number_44 : decode cX2_number 44 = .ok (.iload_n 3, 1) := dk_29 (dk_at dksX2_number_1 21 rfl rfl)
theorem dX2_number_45 : decode cX2_number 45 = .ok (.ireturn, 1) := dk_172 (dk_at dksX2_number_1 22 rfl rfl)
theorem gX2_number_0 {b : Nat} {v1 : Int32} {v2 : Int32} {T : zT} {I : zI} {L : zL} {R : zR} {P : zP} (hx : zXok T R) (h : (((I 1008 3) = (2 : Int32) → zMet mX1_in 1 0 [.long ((I 1008 4).toInt64), .long (v1.toInt64), .long (v2.toInt64)] T I L R (zqI_ T I L R  (fun (r1 : Int32)  => ((r1 = 0 → ∃ b9, b9 ≤ (b - 0) ∧ zMet mX2_wrong 4 b9 [.ref 1008, .int (2 : Int32)] T I L R (zqR_TILR   (fun (r3 : Nat) (T4 : zT) (I5 : zI) (L6 : zL) (R7 : zR)  => zXok T4 R7 ∧ (T4 r3).1 = 14 ∧ P 1 (.ref r3) T4 I5 L6 R7))) ∧ (¬ r1 = 0 → zMet mX2_next 6 0 [.ref 1008] T I L R (zqV_I T L R  (fun (I2 : zI)  => P 0 (.int (I 1008 4)) T I2 L R))))))) ∧ (¬ (I 1008 3) = (2 : Int32) → ∃ b18, b18 ≤ b ∧ zMet mX2_wrong 4 b18 [.ref 1008, .int (1 : Int32)] T I L R (zqR_TILR   (fun (r12 : Nat) (T13 : zT) (I14 : zI) (L15 : zL) (R16 : zR)  => zXok T13 R16 ∧ (T13 r12).1 = 14 ∧ P 1 (.ref r12) T13 I14 L15 R16))))) : zAW mX2_number 7 b 0 [(0, .ref 1008), (1, .int v1), (2, .int v2)] [] T I L R P := by
  refine za_aload_n (pc' := 1) 0 dX2_number_0 rfl rfl rfl ?_
  refine za_get (fi := 3) (v := .int (I 1008 3)) (pc' := 4) dX2_number_1 zc1 (by decide) in_X2 (by decide) q188 (Or.inl rfl) (congrArg Prod.fst (zX_t1008 hx)) rfl rfl ?_
  refine za_iconst (pc' := 5) dX2_number_4 zi_2 rfl ?_
  refine za_icmp_eq (pc' := 8) (tgt := 14) dX2_number_5 (by decide) rfl (fun c9 => ?_) (fun c9 => ?_)
  · replace h := h.1 c9
    refine za_aload_n (pc' := 15) 0 dX2_number_14 rfl rfl rfl ?_
    refine za_get (fi := 4) (v := .int (I 1008 4)) (pc' := 18) dX2_number_15 zc1 (by decide) in_X2 (by decide) q189 (Or.inl rfl) (congrArg Prod.fst (zX_t1008 hx)) rfl rfl ?_
    refine za_i2l (pc' := 19) dX2_number_18 rfl rfl ?_
    refine za_iload_n (pc' := 20) 1 dX2_number_19 rfl rfl rfl ?_
    refine za_i2l (pc' := 21) dX2_number_20 rfl rfl ?_
    refine za_iload_n (pc' := 22) 2 dX2_number_21 rfl rfl rfl ?_
    refine za_i2l (pc' := 23) dX2_number_22 rfl rfl ?_
    refine za_callSN (M2 := mX1_in) (d2 := 1) (b2 := 0) (n := 3) (As := [.long ((I 1008 4).toInt64), .long (v1.toInt64), .long (v2.toInt64)]) (st := []) (pc' := 26) dX2_number_23 rfl (lw_meth q590) q607 q589 q131 hd_X1_in rfl (by decide) (by decide) (Nat.zero_le _) (Or.inl rfl) (Nat.le_of_ble_eq_true rfl) h (zqI__k rfl (fun r1 h => ?_)) (fun _ _ _ _ _ _ h9 h8 => absurd h8.1 h9) rfl
    refine za_if_ne (pc' := 29) (tgt := 35) dX2_number_26 (by decide) rfl (fun c9 => ?_) (fun c9 => ?_)
    · replace h := h.2 c9
      refine za_aload_n (pc' := 36) 0 dX2_number_35 rfl rfl rfl ?_
      refine za_get (fi := 4) (v := .int (I 1008 4)) (pc' := 39) dX2_number_36 zc1 (by decide) in_X2 (by decide) q189 (Or.inl rfl) (congrArg Prod.fst (zX_t1008 hx)) rfl rfl ?_
      refine za_istore_n (pc' := 40) (l' := [(3, .int (I 1008 4)), (0, .ref 1008), (1, .int v1), (2, .int v2)]) dX2_number_39 rfl (Nat.le_of_ble_eq_true rfl) rfl rfl ?_
      refine za_aload_n (pc' := 41) 1 dX2_number_40 rfl rfl rfl ?_
      refine za_callV (κ := 1008) (M2 := mX2_next) (d2 := 6) (b2 := 0) (n := 0) (As := []) (st := []) (pc' := 44) zc1 (by decide) (congrArg Prod.fst (zX_t1008 hx)) dX2_number_41 rfl (lw_V q597 q599 qs1 q132 q600) ⟨rfl, hd_X2_next⟩ rfl (by decide) (by decide) (Nat.zero_le _) (Or.inl rfl) (Nat.le_of_ble_eq_true rfl) h (zqV_I_k rfl (fun I2 h => ?_)) (fun _ _ _ _ _ _ h9 h8 => absurd h8.1 h9) rfl
      refine za_iload_n (pc' := 45) 0 dX2_number_44 rfl rfl rfl ?_
      exact za_ireturn rfl dX2_number_45 h
    · replace h := h.1 c9
      refine za_aload_n (pc' := 30) 0 dX2_number_29 rfl rfl rfl ?_
      refine za_iconst (pc' := 31) dX2_number_30 zi_2 rfl ?_
      obtain ⟨b9, hb10, h⟩ := h
      refine za_callV (κ := 1008) (M2 := mX2_wrong) (d2 := 4) (b2 := b9) (n := 1) (As := [.int (2 : Int32)]) (st := []) (pc' := 34) zc1 (by decide) (congrArg Prod.fst (zX_t1008 hx)) dX2_number_31 rfl (lw_V q739 q741 qs8 q132 q742) ⟨rfl, hd_X2_wrong⟩ rfl (by decide) (by decide) hb10 (Or.inl rfl) (Nat.le_of_ble_eq_true rfl) h (zqR_TILR_k rfl (fun r3 T4 I5 L6 R7 h => ?_)) (fun _ _ _ _ _ _ h9 h8 => absurd h8.1 h9) rfl
      obtain ⟨hx8, h⟩ := h
      obtain ⟨ht11, h⟩ := h
      exact za_athrow dX2_number_34 rfl (by decide) zc13 (by decide) ht11 rfl h
  · replace h := h.2 c9
    refine za_aload_n (pc' := 9) 0 dX2_number_8 rfl rfl rfl ?_
    refine za_iconst (pc' := 10) dX2_number_9 zi_1 rfl ?_
    obtain ⟨b18, hb19, h⟩ := h
    refine za_callV (κ := 1008) (M2 := mX2_wrong) (d2 := 4) (b2 := b18) (n := 1) (As := [.int (1 : Int32)]) (st := []) (pc' := 13) zc1 (by decide) (congrArg Prod.fst (zX_t1008 hx)) dX2_number_10 rfl (lw_V q739 q741 qs8 q132 q742) ⟨rfl, hd_X2_wrong⟩ rfl (by decide) (by decide) hb19 (Or.inl rfl) (Nat.le_of_ble_eq_true rfl) h (zqR_TILR_k rfl (fun r12 T13 I14 L15 R16 h => ?_)) (fun _ _ _ _ _ _ h9 h8 => absurd h8.1 h9) rfl
    obtain ⟨hx17, h⟩ := h
    obtain ⟨ht20, h⟩ := h
    exact za_athrow dX2_number_13 rfl (by decide) zc13 (by decide) ht20 rfl h
theorem sX2_number {d b : Nat} {v1 : Int32} {v2 : Int32} {T : zT} {I : zI} {L : zL} {R : zR} {P : zP} (h : zAW mX2_number d b 0 [(0, .ref 1008), (1, .int v1), (2, .int v2)] [] T I L R P) : zMet mX2_number d b [.ref 1008, .int v1, .int v2] T I L R P := zMet_of (by decide +kernel) rfl (Nat.le_of_ble_eq_true rfl) rfl h
/-! TwoTongues$Reader.signLine ()V -/
def dkwX2_signLine_4 : List UInt8 := [180, 0, 101, 180, 0, 120, 44, 182, 0, 172, 87, 177]
abbrev dktX2_signLine_4 : List UInt8 := dkwX2_signLine_4 ++ []
def dkwX2_signLine_3 : List UInt8 := [180, 0, 47, 16, 10, 100, 183, 0, 213, 77, 42, 182, 0, 89, 42, 44, 180, 0, 214, 182, 0, 168, 42]
abbrev dktX2_signLine_3 : List UInt8 := dkwX2_signLine_3 ++ dktX2_signLine_4
def dkwX2_signLine_2 : List UInt8 := [16, 10, 16, 13, 182, 0, 137, 154, 0, 9, 42, 4, 182, 0, 85, 191, 187, 0, 211, 89, 27, 42]
abbrev dktX2_signLine_2 : List UInt8 := dkwX2_signLine_2 ++ dktX2_signLine_3
def dkwX2_signLine_1 : List UInt8 := [182, 0, 210, 2, 159, 0, 9, 42, 6, 182, 0, 85, 191, 42, 180, 0, 47, 60, 42, 182, 0, 89, 42]
abbrev dktX2_signLine_1 : List UInt8 := dkwX2_signLine_1 ++ dktX2_signLine_2
def dkwX2_signLine_0 : List UInt8 := [42, 180, 0, 33, 4, 159, 0, 9, 42, 4, 182, 0, 85, 191, 42, 180, 0, 101, 42, 180, 0, 47]
abbrev dktX2_signLine_0 : List UInt8 := dkwX2_signLine_0 ++ dktX2_signLine_1
theorem dksX2_signLine_0 : cX2_signLine.data.toList.drop 0 = dktX2_signLine_0 := by decide +kernel
theorem dksX2_signLine_1 : cX2_signLine.data.toList.drop 22 = dktX2_signLine_1 := dk_seg dksX2_signLine_0 22 rfl rfl
theorem dksX2_signLine_2 : cX2_signLine.data.toList.drop 45 = dktX2_signLine_2 := dk_seg dksX2_signLine_1 23 rfl rfl
theorem dksX2_signLine_3 : cX2_signLine.data.toList.drop 67 = dktX2_signLine_3 := dk_seg dksX2_signLine_2 22 rfl rfl
theorem dksX2_signLine_4 : cX2_signLine.data.toList.drop 90 = dktX2_signLine_4 := dk_seg dksX2_signLine_3 23 rfl rfl
theorem dX2_signLine_0 : decode cX2_signLine 0 = .ok (.aload_n 0, 1) := dk_42 (dk_at dksX2_signLine_0 0 rfl rfl)
theorem dX2_signLine_1 : decode cX2_signLine 1 = .ok (.getfield 33, 3) := dk_180 0 33 (dk_at dksX2_signLine_0 1 rfl rfl)
theorem dX2_signLine_4 : decode cX2_signLine 4 = .ok (.iconst 1, 1) := dk_4 (dk_at dksX2_signLine_0 4 rfl rfl)
theorem dX2_signLine_5 : decode cX2_signLine 5 = .ok (.if_icmp .eq 9, 3) := dk_159 0 9 (dk_at dksX2_signLine_0 5 rfl rfl)
theorem dX2_signLine_8 : decode cX2_signLine 8 = .ok (.aload_n 0, 1) := dk_42 (dk_at dksX2_signLine_0 8 rfl rfl)
theorem dX2_signLine_9 : decode cX2_signLine 9 = .ok (.iconst 1, 1) := dk_4 (dk_at dksX2_signLine_0 9 rfl rfl)
theorem dX2_signLine_10 : decode cX2_signLine 10 = .ok (.invokevirtual 85, 3) := dk_182 0 85 (dk_at dksX2_signLine_0 10 rfl rfl)
theorem dX2_signLine_13 : decode cX2_signLine 13 = .ok (.athrow, 1) := dk_191 (dk_at dksX2_signLine_0 13 rfl rfl)
theorem dX2_signLine_14 : decode cX2_signLine 14 = .ok (.aload_n 0, 1) := dk_42 (dk_at dksX2_signLine_0 14 rfl rfl)
theorem dX2_signLine_15 : decode cX2_signLine 15 = .ok (.getfield 101, 3) := dk_180 0 101 (dk_at dksX2_signLine_0 15 rfl rfl)
theorem dX2_signLine_18 : decode cX2_signLine 18 = .ok (.aload_n 0, 1) := dk_42 (dk_at dksX2_signLine_0 18 rfl rfl)
theorem dX2_signLine_19 : decode cX2_signLine 19 = .ok (.getfield 47, 3) := dk_180 0 47 (dk_at dksX2_signLine_0 19 rfl rfl)
theorem dX2_signLine_22 : decode cX2_signLine 22 = .ok (.invokevirtual 210, 3) := dk_182 0 210 (dk_at dksX2_signLine_1 0 rfl rfl)
theorem dX2_signLine_25 : decode cX2_signLine 25 = .ok (.iconst (-1), 1) := dk_2 (dk_at dksX2_signLine_1 3 rfl rfl)
theorem dX2_signLine_26 : decode cX2_signLine 26 = .ok (.if_icmp .eq 9, 3) := dk_159 0 9 (dk_at dksX2_signLine_1 4 rfl rfl)
theorem dX2_signLine_29 : decode cX2_signLine 29 = .ok (.aload_n 0, 1) := dk_42 (dk_at dksX2_signLine_1 7 rfl rfl)
theorem dX2_signLine_30 : decode cX2_signLine 30 = .ok (.iconst 3, 1) := dk_6 (dk_at dksX2_signLine_1 8 rfl rfl)
theorem dX2_signLine_31 : decode cX2_signLine 31 = .ok (.invokevirtual 85, 3) := dk_182 0 85 (dk_at dksX2_signLine_1 9 rfl rfl)
theorem dX2_signLine_34 : decode cX2_signLine 34 = .ok (.athrow, 1) := dk_191 (dk_at dksX2_signLine_1 12 rfl rfl)
theorem dX2_signLine_35 : decode cX2_signLine 35 = .ok (.aload_n 0, 1) := dk_42 (dk_at dksX2_signLine_1 13 rfl rfl)
theorem dX2_signLine_36 : decode cX2_signLine 36 = .ok (.getfield 47, 3) := dk_180 0 47 (dk_at dksX2_signLine_1 14 rfl rfl)
theorem dX2_signLine_39 : decode cX2_signLine 39 = .ok (.istore_n 1, 1) := dk_60 (dk_at dksX2_signLine_1 17 rfl rfl)
theorem dX2_signLine_40 : decode cX2_signLine 40 = .ok (.aload_n 0, 1) := dk_42 (dk_at dksX2_signLine_1 18 rfl rfl)
theorem dX2_signLine_41 : decode cX2_signLine 41 = .ok (.invokevirtual 89, 3) := dk_182 0 89 (dk_at dksX2_signLine_1 19 rfl rfl)
theorem dX2_signLine_44 : decode cX2_signLine 44 = .ok (.aload_n 0, 1) := dk_42 (dk_at dksX2_signLine_1 22 rfl rfl)
theorem dX2_signLine_45 : decode cX2_signLine 45 = .ok (.bipush 10, 2) := dk_16 10 (dk_at dksX2_signLine_2 0 rfl rfl)
theorem dX2_signLine_47 : decode cX2_signLine 47 = .ok (.bipush 13, 2) := dk_16 13 (dk_at dksX2_signLine_2 2 rfl rfl)
theorem dX2_signLine_49 : decode cX2_signLine 49 = .ok (.invokevirtual 137, 3) := dk_182 0 137 (dk_at dksX2_signLine_2 4 rfl rfl)
theorem dX2_signLine_52 : decode cX2_signLine 52 = .ok (.ifCond .ne 9, 3) := dk_154 0 9 (dk_at dksX2_signLine_2 7 rfl rfl)
theorem dX2_signLine_55 : decode cX2_signLine 55 = .ok (.aload_n 0, 1) := dk_42 (dk_at dksX2_signLine_2 10 rfl rfl)
theorem dX2_signLine_56 : decode cX2_signLine 56 = .ok (.iconst 1, 1) := dk_4 (dk_at dksX2_signLine_2 11 rfl rfl)
theorem dX2_signLine_57 : decode cX2_signLine 57 = .ok (.invokevirtual 85, 3) := dk_182 0 85 (dk_at dksX2_signLine_2 12 rfl rfl)
theorem dX2_signLine_60 : decode cX2_signLine 60 = .ok (.athrow, 1) := dk_191 (dk_at dksX2_signLine_2 15 rfl rfl)
theorem dX2_signLine_61 : decode cX2_signLine 61 = .ok (.new 211, 3) := dk_187 0 211 (dk_at dksX2_signLine_2 16 rfl rfl)
theorem dX2_signLine_64 : decode cX2_signLine 64 = .ok (.dup, 1) := dk_89 (dk_at dksX2_signLine_2 19 rfl rfl)
theorem dX2_signLine_65 : decode cX2_signLine 65 = .ok (.iload_n 1, 1) := dk_27 (dk_at dksX2_signLine_2 20 rfl rfl)
theorem dX2_signLine_66 : decode cX2_signLine 66 = .ok (.aload_n 0, 1) := dk_42 (dk_at dksX2_signLine_2 21 rfl rfl)
theorem dX2_signLine_67 : decode cX2_signLine 67 = .ok (.getfield 47, 3) := dk_180 0 47 (dk_at dksX2_signLine_3 0 rfl rfl)
theorem dX2_signLine_70 : decode cX2_signLine 70 = .ok (.bipush 10, 2) := dk_16 10 (dk_at dksX2_signLine_3 3 rfl rfl)
theorem dX2_signLine_72 : decode cX2_signLine 72 = .ok (.isub, 1) := dk_100 (dk_at dksX2_signLine_3 5 rfl rfl)
theorem dX2_signLine_73 : decode cX2_signLine 73 = .ok (.invokespecial 213, 3) := dk_183 0 213 (dk_at dksX2_signLine_3 6 rfl rfl)
theorem dX2_signLine_76 : decode cX2_signLine 76 = .ok (.astore_n 2, 1) := dk_77 (dk_at dksX2_signLine_3 9 rfl rfl)
theorem dX2_signLine_77 : decode cX2_signLine 77 = .ok (.aload_n 0, 1) := dk_42 (dk_at dksX2_signLine_3 10 rfl rfl)
theorem dX2_signLine_78 : decode cX2_signLine 78 = .ok (.invokevirtual 89, 3) := dk_182 0 89 (dk_at dksX2_signLine_3 11 rfl rfl)
theorem dX2_signLine_81 : decode cX2_signLine 81 = .ok (.aload_n 0, 1) := dk_42 (dk_at dksX2_signLine_3 14 rfl rfl)
theorem dX2_signLine_82 : decode cX2_signLine 82 = .ok (.aload_n 2, 1) := dk_44 (dk_at dksX2_signLine_3 15 rfl rfl)
theorem dX2_signLine_83 : decode cX2_signLine 83 = .ok (.getfield 214, 3) := dk_180 0 214 (dk_at dksX2_signLine_3 16 rfl rfl)
theorem dX2_signLine_86 : decode cX2_signLine 86 = .ok (.invokevirtual 168, 3) := dk_182 0 168 (dk_at dksX2_signLine_3 19 rfl rfl)
theorem dX2_signLine_89 : decode cX2_signLine 89 = .ok (.aload_n 0, 1) := dk_42 (dk_at dksX2_signLine_3 22 rfl rfl)
theorem dX2_signLine_90 : decode cX2_signLine 90 = .ok (.getfield 101, 3) := dk_180 0 101 (dk_at dksX2_signLine_4 0 rfl rfl)
theorem dX2_signLine_93 : decode cX2_signLine 93 = .ok (.getfield 120, 3) := dk_180 0 120 (dk_at dksX2_signLine_4 3 rfl rfl)
theorem dX2_signLine_96 : decode cX2_signLine 96 = .ok (.aload_n 2, 1) := dk_44 (dk_at dksX2_signLine_4 6 rfl rfl)
theorem dX2_signLine_97 : decode cX2_signLine 97 = .ok (.invokevirtual 172, 3) := dk_182 0 172 (dk_at dksX2_signLine_4 7 rfl rfl)
theorem dX2_signLine_100 : decode cX2_signLine 100 = .ok (.pop, 1) := dk_87 (dk_at dksX2_signLine_4 10 rfl rfl)
theorem dX2_signLine_101 : decode cX2_signLine 101 = .ok (.return_, 1) := dk_177 (dk_at dksX2_signLine_4 11 rfl rfl)
theorem gX2_signLine_0 {b : Nat}  {T : zT} {I : zI} {L : zL} {R : zR} {P : zP} (hx : zXok T R) (h : (((I 1008 3) = (1 : Int32) → (T (R 1008 7)).1 = 3 ∧ zMet mX3_find 4 0 [.ref (R 1008 7), .int (I 1008 4)] T I L R (zqI_ T I L R  (fun (r1 : Int32)  => ((r1 = (-1 : Int32) → zMet mX2_next 6 0 [.ref 1008] T I L R (zqV_I T L R  (fun (I3 : zI)  => zMet mX2_isWord 2 0 [.ref 1008, .int (10 : Int32), .int (13 : Int32)] T I3 L R (zqI_ T I3 L R  (fun (r4 : Int32)  => ((r4 = 0 → ∃ b22, b22 ≤ (((b - 0) - 0) - 0) ∧ zMet mX2_wrong 4 b22 [.ref 1008, .int (1 : Int32)] T I3 L R (zqR_TILR   (fun (r16 : Nat) (T17 : zT) (I18 : zI) (L19 : zL) (R20 : zR)  => zXok T17 R20 ∧ (T17 r16).1 = 14 ∧ P 1 (.ref r16) T17 I18 L19 R20))) ∧ (¬ r4 = 0 → ∃ κ5, 100 ≤ κ5 ∧ (T κ5).1 = 0 ∧ 3 + 1 ≤ (((b - 0) - 0) - 0) ∧ ∃ b14, b14 ≤ ((((b - 0) - 0) - 0) - (3 + 1)) ∧ zMet mX15_init 2 b14 [.ref κ5, .int (I 1008 4), .int ((I3 1008 4) - (10 : Int32))] (z1 T κ5 (15, 0)) (z1 I3 κ5 fun _ => 0) (z1 L κ5 fun _ => 0) (z1 R κ5 fun _ => 0) (zqV_TILR   (fun (T9 : zT) (I10 : zI) (L11 : zL) (R12 : zR)  => zXok T9 R12 ∧ zAW mX2_signLine 8 (((((b - 0) - 0) - 0) - (3 + 1)) - b14) 76 [(0, .ref 1008)] [.ref κ5] T9 I10 L11 R12 P))))))))) ∧ (¬ r1 = (-1 : Int32) → ∃ b31, b31 ≤ (b - 0) ∧ zMet mX2_wrong 4 b31 [.ref 1008, .int (3 : Int32)] T I L R (zqR_TILR   (fun (r25 : Nat) (T26 : zT) (I27 : zI) (L28 : zL) (R29 : zR)  => zXok T26 R29 ∧ (T26 r25).1 = 14 ∧ P 1 (.ref r25) T26 I27 L28 R29))))))) ∧ (¬ (I 1008 3) = (1 : Int32) → ∃ b40, b40 ≤ b ∧ zMet mX2_wrong 4 b40 [.ref 1008, .int (1 : Int32)] T I L R (zqR_TILR   (fun (r34 : Nat) (T35 : zT) (I36 : zI) (L37 : zL) (R38 : zR)  => zXok T35 R38 ∧ (T35 r34).1 = 14 ∧ P 1 (.ref r34) T35 I36 L37 R38))))) : zAW mX2_signLine 8 b 0 [(0, .ref 1008)] [] T I L R P := by
  refine za_aload_n (pc' := 1) 0 dX2_signLine_0 rfl rfl rfl ?_
  refine za_get (fi := 3) (v := .int (I 1008 3)) (pc' := 4) dX2_signLine_1 zc1 (by decide) in_X2 (by decide) q188 (Or.inl rfl) (congrArg Prod.fst (zX_t1008 hx)) rfl rfl ?_
  refine za_iconst (pc' := 5) dX2_signLine_4 zi_1 rfl ?_
  refine za_icmp_eq (pc' := 8) (tgt := 14) dX2_signLine_5 (by decide) rfl (fun c9 => ?_) (fun c9 => ?_)
  · replace h := h.1 c9
    refine za_aload_n (pc' := 15) 0 dX2_signLine_14 rfl rfl rfl ?_
    refine za_get (fi := 7) (v := .ref (R 1008 7)) (pc' := 18) dX2_signLine_15 zc1 (by decide) in_X2 (by decide) q192 (Or.inl rfl) (congrArg Prod.fst (zX_t1008 hx)) rfl rfl ?_
    refine za_aload_n (pc' := 19) 0 dX2_signLine_18 rfl rfl rfl ?_
    refine za_get (fi := 4) (v := .int (I 1008 4)) (pc' := 22) dX2_signLine_19 zc1 (by decide) in_X2 (by decide) q189 (Or.inl rfl) (congrArg Prod.fst (zX_t1008 hx)) rfl rfl ?_
    obtain ⟨ht2, h⟩ := h
    refine za_callV (κ := (R 1008 7)) (M2 := mX3_find) (d2 := 4) (b2 := 0) (n := 1) (As := [.int (I 1008 4)]) (st := []) (pc' := 25) zc2 (by decide) ht2 dX2_signLine_22 rfl (lw_V q841 q842 q843 q133 q844) ⟨rfl, hd_X3_find⟩ rfl (by decide) (by decide) (Nat.zero_le _) (Or.inl rfl) (Nat.le_of_ble_eq_true rfl) h (zqI__k rfl (fun r1 h => ?_)) (fun _ _ _ _ _ _ h9 h8 => absurd h8.1 h9) rfl
    refine za_iconst (pc' := 26) dX2_signLine_25 zi_m1 rfl ?_
    refine za_icmp_eq (pc' := 29) (tgt := 35) dX2_signLine_26 (by decide) rfl (fun c9 => ?_) (fun c9 => ?_)
    · replace h := h.1 c9
      refine za_aload_n (pc' := 36) 0 dX2_signLine_35 rfl rfl rfl ?_
      refine za_get (fi := 4) (v := .int (I 1008 4)) (pc' := 39) dX2_signLine_36 zc1 (by decide) in_X2 (by decide) q189 (Or.inl rfl) (congrArg Prod.fst (zX_t1008 hx)) rfl rfl ?_
      refine za_istore_n (pc' := 40) (l' := [(1, .int (I 1008 4)), (0, .ref 1008)]) dX2_signLine_39 rfl (Nat.le_of_ble_eq_true rfl) rfl rfl ?_
      refine za_aload_n (pc' := 41) 1 dX2_signLine_40 rfl rfl rfl ?_
      refine za_callV (κ := 1008) (M2 := mX2_next) (d2 := 6) (b2 := 0) (n := 0) (As := []) (st := []) (pc' := 44) zc1 (by decide) (congrArg Prod.fst (zX_t1008 hx)) dX2_signLine_41 rfl (lw_V q597 q599 qs1 q132 q600) ⟨rfl, hd_X2_next⟩ rfl (by decide) (by decide) (Nat.zero_le _) (Or.inl rfl) (Nat.le_of_ble_eq_true rfl) h (zqV_I_k rfl (fun I3 h => ?_)) (fun _ _ _ _ _ _ h9 h8 => absurd h8.1 h9) rfl
      refine za_aload_n (pc' := 45) 1 dX2_signLine_44 rfl rfl rfl ?_
      refine za_bipush (pc' := 47) dX2_signLine_45 zb8_10 rfl ?_
      refine za_bipush (pc' := 49) dX2_signLine_47 zb8_13 rfl ?_
      refine za_callV (κ := 1008) (M2 := mX2_isWord) (d2 := 2) (b2 := 0) (n := 2) (As := [.int (10 : Int32), .int (13 : Int32)]) (st := []) (pc' := 52) zc1 (by decide) (congrArg Prod.fst (zX_t1008 hx)) dX2_signLine_49 rfl (lw_V q735 q737 qs7 q132 q738) ⟨rfl, hd_X2_isWord⟩ rfl (by decide) (by decide) (Nat.zero_le _) (Or.inl rfl) (Nat.le_of_ble_eq_true rfl) h (zqI__k rfl (fun r4 h => ?_)) (fun _ _ _ _ _ _ h9 h8 => absurd h8.1 h9) rfl
      refine za_if_ne (pc' := 55) (tgt := 61) dX2_signLine_52 (by decide) rfl (fun c9 => ?_) (fun c9 => ?_)
      · replace h := h.2 c9
        obtain ⟨κ5, hk6, hf7, hb8, h⟩ := h
        refine za_new (κ := κ5) (pc' := 64) dX2_signLine_61 zc14 (by decide) in_X15 zok14 zdf14 q848 q849 q157 hk6 hf7 hb8 rfl ?_
        refine za_dup (pc' := 65) dX2_signLine_64 rfl rfl ?_
        refine za_iload_n (pc' := 66) 0 dX2_signLine_65 rfl rfl rfl ?_
        refine za_aload_n (pc' := 67) 1 dX2_signLine_66 rfl rfl rfl ?_
        refine za_get (fi := 4) (v := .int (I3 1008 4)) (pc' := 70) dX2_signLine_67 zc1 (by decide) in_X2 (by decide) q189 (Or.inl rfl) (congrArg Prod.fst (z1_tp hf7 (zX_t1008 hx) (by decide))) (congrArg Value.int (congrFun (z1_n (z1_ne hf7 (congrArg Prod.fst (zX_t1008 hx)))) _)) rfl ?_
        refine za_bipush (pc' := 72) dX2_signLine_70 zb8_10 rfl ?_
        refine za_isub (pc' := 73) dX2_signLine_72 rfl ?_
        obtain ⟨b14, hb15, h⟩ := h
        refine za_callI (κ := κ5) (M2 := mX15_init) (d2 := 2) (b2 := b14) (n := 2) (As := [.int (I 1008 4), .int ((I3 1008 4) - (10 : Int32))]) (st := [.ref κ5]) (pc' := 76) (by rw [(congrArg Prod.fst z1_s)]; decide) dX2_signLine_73 rfl (lw_meth q852) rfl q850 q851 q157 rfl hd_X15_init rfl (by decide) (by decide) hb15 (Or.inl rfl) (Nat.le_of_ble_eq_true rfl) h (zqV_TILR_k rfl (fun T9 I10 L11 R12 h => ?_)) (fun _ _ _ _ _ _ h9 h8 => absurd h8.1 h9) rfl
        obtain ⟨hx13, h⟩ := h
        exact zAW_sub [1] rfl h
      · replace h := h.1 c9
        refine za_aload_n (pc' := 56) 1 dX2_signLine_55 rfl rfl rfl ?_
        refine za_iconst (pc' := 57) dX2_signLine_56 zi_1 rfl ?_
        obtain ⟨b22, hb23, h⟩ := h
        refine za_callV (κ := 1008) (M2 := mX2_wrong) (d2 := 4) (b2 := b22) (n := 1) (As := [.int (1 : Int32)]) (st := []) (pc' := 60) zc1 (by decide) (congrArg Prod.fst (zX_t1008 hx)) dX2_signLine_57 rfl (lw_V q739 q741 qs8 q132 q742) ⟨rfl, hd_X2_wrong⟩ rfl (by decide) (by decide) hb23 (Or.inl rfl) (Nat.le_of_ble_eq_true rfl) h (zqR_TILR_k rfl (fun r16 T17 I18 L19 R20 h => ?_)) (fun _ _ _ _ _ _ h9 h8 => absurd h8.1 h9) rfl
        obtain ⟨hx21, h⟩ := h
        obtain ⟨ht24, h⟩ := h
        exact za_athrow dX2_signLine_60 rfl (by decide) zc13 (by decide) ht24 rfl h
    · replace h := h.2 c9
      refine za_aload_n (pc' := 30) 0 dX2_signLine_29 rfl rfl rfl ?_
      refine za_iconst (pc' := 31) dX2_signLine_30 zi_3 rfl ?_
      obtain ⟨b31, hb32, h⟩ := h
      refine za_callV (κ := 1008) (M2 := mX2_wrong) (d2 := 4) (b2 := b31) (n := 1) (As := [.int (3 : Int32)]) (st := []) (pc' := 34) zc1 (by decide) (congrArg Prod.fst (zX_t1008 hx)) dX2_signLine_31 rfl (lw_V q739 q741 qs8 q132 q742) ⟨rfl, hd_X2_wrong⟩ rfl (by decide) (by decide) hb32 (Or.inl rfl) (Nat.le_of_ble_eq_true rfl) h (zqR_TILR_k rfl (fun r25 T26 I27 L28 R29 h => ?_)) (fun _ _ _ _ _ _ h9 h8 => absurd h8.1 h9) rfl
      obtain ⟨hx30, h⟩ := h
      obtain ⟨ht33, h⟩ := h
      exact za_athrow dX2_signLine_34 rfl (by decide) zc13 (by decide) ht33 rfl h
  · replace h := h.2 c9
    refine za_aload_n (pc' := 9) 0 dX2_signLine_8 rfl rfl rfl ?_
    refine za_iconst (pc' := 10) dX2_signLine_9 zi_1 rfl ?_
    obtain ⟨b40, hb41, h⟩ := h
    refine za_callV (κ := 1008) (M2 := mX2_wrong) (d2 := 4) (b2 := b40) (n := 1) (As := [.int (1 : Int32)]) (st := []) (pc' := 13) zc1 (by decide) (congrArg Prod.fst (zX_t1008 hx)) dX2_signLine_10 rfl (lw_V q739 q741 qs8 q132 q742) ⟨rfl, hd_X2_wrong⟩ rfl (by decide) (by decide) hb41 (Or.inl rfl) (Nat.le_of_ble_eq_true rfl) h (zqR_TILR_k rfl (fun r34 T35 I36 L37 R38 h => ?_)) (fun _ _ _ _ _ _ h9 h8 => absurd h8.1 h9) rfl
    obtain ⟨hx39, h⟩ := h
    obtain ⟨ht42, h⟩ := h
    exact za_athrow dX2_signLine_13 rfl (by decide) zc13 (by decide) ht42 rfl h
theorem gX2_signLine_76 {b : Nat} {s0 : Nat} {T : zT} {I : zI} {L : zL} {R : zR} {P : zP} (hx : zXok T R) (h : zMet mX2_next 6 0 [.ref 1008] T I L R (zqV_I T L R  (fun (I43 : zI)  => (T s0).1 = 15 ∧ ∃ b50, b50 ≤ (b - 0) ∧ zMet mX2_row 7 b50 [.ref 1008, .ref (R s0 2)] T I43 L R (zqV_TILRx  P (fun (T45 : zT) (I46 : zI) (L47 : zL) (R48 : zR)  => zXok T45 R48 ∧ (T45 (R48 1008 7)).1 = 3 ∧ (T45 (R48 (R48 1008 7) 2)).1 = 5 ∧ zMet mJ2_add 2 0 [.ref (R48 (R48 1008 7) 2), .ref s0] T45 I46 L47 R48 (zqI_IR T45 L47  (fun (r53 : Int32) (I54 : zI) (R55 : zR)  => zXok T45 R55 ∧ P 0 (.int 0) T45 I54 L47 R55))))))) : zAW mX2_signLine 8 b 76 [(0, .ref 1008)] [.ref s0] T I L R P := by
  refine za_astore_n (pc' := 77) (l' := [(2, .ref s0), (0, .ref 1008)]) dX2_signLine_76 rfl (Nat.le_of_ble_eq_true rfl) rfl rfl ?_
  refine za_aload_n (pc' := 78) 1 dX2_signLine_77 rfl rfl rfl ?_
  refine za_callV (κ := 1008) (M2 := mX2_next) (d2 := 6) (b2 := 0) (n := 0) (As := []) (st := []) (pc' := 81) zc1 (by decide) (congrArg Prod.fst (zX_t1008 hx)) dX2_signLine_78 rfl (lw_V q597 q599 qs1 q132 q600) ⟨rfl, hd_X2_next⟩ rfl (by decide) (by decide) (Nat.zero_le _) (Or.inl rfl) (Nat.le_of_ble_eq_true rfl) h (zqV_I_k rfl (fun I43 h => ?_)) (fun _ _ _ _ _ _ h9 h8 => absurd h8.1 h9) rfl
  refine za_aload_n (pc' := 82) 1 dX2_signLine_81 rfl rfl rfl ?_
  refine za_aload_n (pc' := 83) 0 dX2_signLine_82 rfl rfl rfl ?_
  obtain ⟨ht44, h⟩ := h
  refine za_getN (fi := 2) (v := .ref (R s0 2)) (pc' := 86) dX2_signLine_83 zc14 (by decide) in_X15 (by decide) q862 (Or.inl rfl) ht44 rfl rfl ?_
  obtain ⟨b50, hb51, h⟩ := h
  refine za_callV (κ := 1008) (M2 := mX2_row) (d2 := 7) (b2 := b50) (n := 1) (As := [.ref (R s0 2)]) (st := []) (pc' := 89) zc1 (by decide) (congrArg Prod.fst (zX_t1008 hx)) dX2_signLine_86 rfl (lw_V q870 q872 qs14 q132 q873) ⟨rfl, hd_X2_row⟩ rfl (by decide) (by decide) hb51 (Or.inl rfl) (Nat.le_of_ble_eq_true rfl) h (zqV_TILRx_k rfl (fun T45 I46 L47 R48 h => ?_)) (fun _ _ _ _ _ _ h9 h8 => h8.2 h9) rfl
  obtain ⟨hx49, h⟩ := h
  refine za_aload_n (pc' := 90) 1 dX2_signLine_89 rfl rfl rfl ?_
  refine za_get (fi := 7) (v := .ref (R48 1008 7)) (pc' := 93) dX2_signLine_90 zc1 (by decide) in_X2 (by decide) q192 (Or.inl rfl) (congrArg Prod.fst (zX_t1008 hx49)) rfl rfl ?_
  obtain ⟨ht52, h⟩ := h
  refine za_getN (fi := 2) (v := .ref (R48 (R48 1008 7) 2)) (pc' := 96) dX2_signLine_93 zc2 (by decide) in_X3 (by decide) q279 (Or.inl rfl) ht52 rfl rfl ?_
  refine za_aload_n (pc' := 97) 0 dX2_signLine_96 rfl rfl rfl ?_
  obtain ⟨ht57, h⟩ := h
  refine za_callV (κ := (R48 (R48 1008 7) 2)) (M2 := mJ2_add) (d2 := 2) (b2 := 0) (n := 1) (As := [.ref s0]) (st := []) (pc' := 100) zc4 (by decide) ht57 dX2_signLine_97 rfl (lw_V q874 q875 q876 q137 q877) ⟨rfl, hd_J2_add⟩ rfl (by decide) (by decide) (Nat.zero_le _) (Or.inl rfl) (Nat.le_of_ble_eq_true rfl) h (zqI_IR_k rfl (fun r53 I54 R55 h => ?_)) (fun _ _ _ _ _ _ h9 h8 => absurd h8.1 h9) rfl
  obtain ⟨hx56, h⟩ := h
  refine za_pop (pc' := 101) dX2_signLine_100 rfl rfl ?_
  exact za_return rfl dX2_signLine_101 h
theorem sX2_signLine {d b : Nat}  {T : zT} {I : zI} {L : zL} {R : zR} {P : zP} (h : zAW mX2_signLine d b 0 [(0, .ref 1008)] [] T I L R P) : zMet mX2_signLine d b [.ref 1008] T I L R P := zMet_of (by decide +kernel) rfl (Nat.le_of_ble_eq_true rfl) rfl h
/-! TwoTongues$Reader.row (LTwoTongues$Row;)V -/
def dkwX2_row_4 : List UInt8 := [42, 180, 0, 33, 4, 159, 255, 159, 177]
abbrev dktX2_row_4 : List UInt8 := dkwX2_row_4 ++ []
def dkwX2_row_3 : List UInt8 := [180, 0, 3, 180, 0, 22, 28, 51, 16, 97, 100, 4, 96, 79, 132, 2, 1, 167, 255, 215, 42, 182, 0, 89]
abbrev dktX2_row_3 : List UInt8 := dkwX2_row_3 ++ dktX2_row_4
def dkwX2_row_2 : List UInt8 := [180, 0, 15, 162, 0, 39, 43, 180, 0, 206, 43, 89, 180, 0, 205, 90, 4, 96, 181, 0, 205, 42]
abbrev dktX2_row_2 : List UInt8 := dkwX2_row_2 ++ dktX2_row_3
def dkwX2_row_1 : List UInt8 := [180, 0, 30, 100, 16, 12, 164, 0, 9, 42, 5, 182, 0, 85, 191, 42, 180, 0, 30, 61, 28, 42]
abbrev dktX2_row_1 : List UInt8 := dkwX2_row_1 ++ dktX2_row_2
def dkwX2_row_0 : List UInt8 := [42, 180, 0, 33, 4, 159, 0, 9, 42, 4, 182, 0, 85, 191, 43, 180, 0, 205, 42, 180, 0, 15, 96, 42]
abbrev dktX2_row_0 : List UInt8 := dkwX2_row_0 ++ dktX2_row_1
theorem dksX2_row_0 : cX2_row.data.toList.drop 0 = dktX2_row_0 := by decide +kernel
theorem dksX2_row_1 : cX2_row.data.toList.drop 24 = dktX2_row_1 := dk_seg dksX2_row_0 24 rfl rfl
theorem dksX2_row_2 : cX2_row.data.toList.drop 46 = dktX2_row_2 := dk_seg dksX2_row_1 22 rfl rfl
theorem dksX2_row_3 : cX2_row.data.toList.drop 68 = dktX2_row_3 := dk_seg dksX2_row_2 22 rfl rfl
theorem dksX2_row_4 : cX2_row.data.toList.drop 92 = dktX2_row_4 := dk_seg dksX2_row_3 24 rfl rfl
theorem dX2_row_0 : decode cX2_row 0 = .ok (.aload_n 0, 1) := dk_42 (dk_at dksX2_row_0 0 rfl rfl)
theorem dX2_row_1 : decode cX2_row 1 = .ok (.getfield 33, 3) := dk_180 0 33 (dk_at dksX2_row_0 1 rfl rfl)
theorem dX2_row_4 : decode cX2_row 4 = .ok (.iconst 1, 1) := dk_4 (dk_at dksX2_row_0 4 rfl rfl)
theorem dX2_row_5 : decode cX2_row 5 = .ok (.if_icmp .eq 9, 3) := dk_159 0 9 (dk_at dksX2_row_0 5 rfl rfl)
theorem dX2_row_8 : decode cX2_row 8 = .ok (.aload_n 0, 1) := dk_42 (dk_at dksX2_row_0 8 rfl rfl)
theorem dX2_row_9 : decode cX2_row 9 = .ok (.iconst 1, 1) := dk_4 (dk_at dksX2_row_0 9 rfl rfl)
theorem dX2_row_10 : decode cX2_row 10 = .ok (.invokevirtual 85, 3) := dk_182 0 85 (dk_at dksX2_row_0 10 rfl rfl)
theorem dX2_row_13 : decode cX2_row 13 = .ok (.athrow, 1) := dk_191 (dk_at dksX2_row_0 13 rfl rfl)
theorem dX2_row_14 : decode cX2_row 14 = .ok (.aload_n 1, 1) := dk_43 (dk_at dksX2_row_0 14 rfl rfl)
theorem dX2_row_15 : decode cX2_row 15 = .ok (.getfield 205, 3) := dk_180 0 205 (dk_at dksX2_row_0 15 rfl rfl)
theorem dX2_row_18 : decode cX2_row 18 = .ok (.aload_n 0, 1) := dk_42 (dk_at dksX2_row_0 18 rfl rfl)
theorem dX2_row_19 : decode cX2_row 19 = .ok (.getfield 15, 3) := dk_180 0 15 (dk_at dksX2_row_0 19 rfl rfl)
theorem dX2_row_22 : decode cX2_row 22 = .ok (.iadd, 1) := dk_96 (dk_at dksX2_row_0 22 rfl rfl)
theorem dX2_row_23 : decode cX2_row 23 = .ok (.aload_n 0, 1) := dk_42 (dk_at dksX2_row_0 23 rfl rfl)
theorem dX2_row_24 : decode cX2_row 24 = .ok (.getfield 30, 3) := dk_180 0 30 (dk_at dksX2_row_1 0 rfl rfl)
theorem dX2_row_27 : decode cX2_row 27 = .ok (.isub, 1) := dk_100 (dk_at dksX2_row_1 3 rfl rfl)
theorem dX2_row_28 : decode cX2_row 28 = .ok (.bipush 12, 2) := dk_16 12 (dk_at dksX2_row_1 4 rfl rfl)
theorem dX2_row_30 : decode cX2_row 30 = .ok (.if_icmp .le 9, 3) := dk_164 0 9 (dk_at dksX2_row_1 6 rfl rfl)
theorem dX2_row_33 : decode cX2_row 33 = .ok (.aload_n 0, 1) := dk_42 (dk_at dksX2_row_1 9 rfl rfl)
theorem dX2_row_34 : decode cX2_row 34 = .ok (.iconst 2, 1) := dk_5 (dk_at dksX2_row_1 10 rfl rfl)
theorem dX2_row_35 : decode cX2_row 35 = .ok (.invokevirtual 85, 3) := dk_182 0 85 (dk_at dksX2_row_1 11 rfl rfl)
theorem dX2_row_38 : decode cX2_row 38 = .ok (.athrow, 1) := dk_191 (dk_at dksX2_row_1 14 rfl rfl)
theorem dX2_row_39 : decode cX2_row 39 = .ok (.aload_n 0, 1) := dk_42 (dk_at dksX2_row_1 15 rfl rfl)
theorem dX2_row_40 : decode cX2_row 40 = .ok (.getfield 30, 3) := dk_180 0 30 (dk_at dksX2_row_1 16 rfl rfl)
theorem dX2_row_43 : decode cX2_row 43 = .ok (.istore_n 2, 1) := dk_61 (dk_at dksX2_row_1 19 rfl rfl)
theorem dX2_row_44 : decode cX2_row 44 = .ok (.iload_n 2, 1) := dk_28 (dk_at dksX2_row_1 20 rfl rfl)
theorem dX2_row_45 : decode cX2_row 45 = .ok (.aload_n 0, 1) := dk_42 (dk_at dksX2_row_1 21 rfl rfl)
theorem dX2_row_46 : decode cX2_row 46 = .ok (.getfield 15, 3) := dk_180 0 15 (dk_at dksX2_row_2 0 rfl rfl)
theorem dX2_row_49 : decode cX2_row 49 = .ok (.if_icmp .ge 39, 3) := dk_162 0 39 (dk_at dksX2_row_2 3 rfl rfl)
theorem dX2_row_52 : decode cX2_row 52 = .ok (.aload_n 1, 1) := dk_43 (dk_at dksX2_row_2 6 rfl rfl)
theorem dX2_row_53 : decode cX2_row 53 = .ok (.getfield 206, 3) := dk_180 0 206 (dk_at dksX2_row_2 7 rfl rfl)
theorem dX2_row_56 : decode cX2_row 56 = .ok (.aload_n 1, 1) := dk_43 (dk_at dksX2_row_2 10 rfl rfl)
theorem dX2_row_57 : decode cX2_row 57 = .ok (.dup, 1) := dk_89 (dk_at dksX2_row_2 11 rfl rfl)
theorem dX2_row_58 : decode cX2_row 58 = .ok (.getfield 205, 3) := dk_180 0 205 (dk_at dksX2_row_2 12 rfl rfl)
theorem dX2_row_61 : decode cX2_row 61 = .ok (.dup_x1, 1) := dk_90 (dk_at dksX2_row_2 15 rfl rfl)
theorem dX2_row_62 : decode cX2_row 62 = .ok (.iconst 1, 1) := dk_4 (dk_at dksX2_row_2 16 rfl rfl)
theorem dX2_row_63 : decode cX2_row 63 = .ok (.iadd, 1) := dk_96 (dk_at dksX2_row_2 17 rfl rfl)
theorem dX2_row_64 : decode cX2_row 64 = .ok (.putfield 205, 3) := dk_181 0 205 (dk_at dksX2_row_2 18 rfl rfl)
theorem dX2_row_67 : decode cX2_row 67 = .ok (.aload_n 0, 1) := dk_42 (dk_at dksX2_row_2 21 rfl rfl)
theorem dX2_row_68 : decode cX2_row 68 = .ok (.getfield 3, 3) := dk_180 0 3 (dk_at dksX2_row_3 0 rfl rfl)
theorem dX2_row_71 : decode cX2_row 71 = .ok (.getfield 22, 3) := dk_180 0 22 (dk_at dksX2_row_3 3 rfl rfl)
theorem dX2_row_74 : decode cX2_row 74 = .ok (.iload_n 2, 1) := dk_28 (dk_at dksX2_row_3 6 rfl rfl)
theorem dX2_row_75 : decode cX2_row 75 = .ok (.baload, 1) := dk_51 (dk_at dksX2_row_3 7 rfl rfl)
theorem dX2_row_76 : decode cX2_row 76 = .ok (.bipush 97, 2) := dk_16 97 (dk_at dksX2_row_3 8 rfl rfl)
theorem dX2_row_78 : decode cX2_row 78 = .ok (.isub, 1) := dk_100 (dk_at dksX2_row_3 10 rfl rfl)
theorem dX2_row_79 : decode cX2_row 79 = .ok (.iconst 1, 1) := dk_4 (dk_at dksX2_row_3 11 rfl rfl)
theorem dX2_row_80 : decode cX2_row 80 = .ok (.iadd, 1) := dk_96 (dk_at dksX2_row_3 12 rfl rfl)
theorem dX2_row_81 : decode cX2_row 81 = .ok (.iastore, 1) := dk_79 (dk_at dksX2_row_3 13 rfl rfl)
theorem dX2_row_82 : decode cX2_row 82 = .ok (.iinc 2 1, 3) := dk_132 2 1 (dk_at dksX2_row_3 14 rfl rfl)
theorem dX2_row_85 : decode cX2_row 85 = .ok (.goto (-41), 3) := dk_167 255 215 (dk_at dksX2_row_3 17 rfl rfl)
theorem dX2_row_88 : decode cX2_row 88 = .ok (.aload_n 0, 1) := dk_42 (dk_at dksX2_row_3 20 rfl rfl)
theorem dX2_row_89 : decode cX2_row 89 = .ok (.invokevirtual 89, 3) := dk_182 0 89 (dk_at dksX2_row_3 21 rfl rfl)
theorem dX2_row_92 : decode cX2_row 92 = .ok (.aload_n 0, 1) := dk_42 (dk_at dksX2_row_4 0 rfl rfl)
theorem dX2_row_93 : decode cX2_row 93 = .ok (.getfield 33, 3) := dk_180 0 33 (dk_at dksX2_row_4 1 rfl rfl)
theorem dX2_row_96 : decode cX2_row 96 = .ok (.iconst 1, 1) := dk_4 (dk_at dksX2_row_4 4 rfl rfl)
theorem dX2_row_97 : decode cX2_row 97 = .ok (.if_icmp .eq (-97), 3) := dk_159 255 159 (dk_at dksX2_row_4 5 rfl rfl)
theorem dX2_row_100 : decode cX2_row 100 = .ok (.return_, 1) := dk_177 (dk_at dksX2_row_4 8 rfl rfl)
theorem gX2_row_0 {b : Nat} {v1 : Nat} {T : zT} {I : zI} {L : zL} {R : zR} {P : zP} (hx : zXok T R) (h : (((I 1008 3) = (1 : Int32) → (T v1).1 = 11 ∧ (((((I v1 1) + (I 1008 0)) - (I 1008 2)) ≤ (12 : Int32) → zAW mX2_row 7 b 44 [(0, .ref 1008), (1, .ref v1), (2, .int (I 1008 2))] [] T I L R P) ∧ (¬ (((I v1 1) + (I 1008 0)) - (I 1008 2)) ≤ (12 : Int32) → ∃ b8, b8 ≤ b ∧ zMet mX2_wrong 4 b8 [.ref 1008, .int (2 : Int32)] T I L R (zqR_TILR   (fun (r2 : Nat) (T3 : zT) (I4 : zI) (L5 : zL) (R6 : zR)  => zXok T3 R6 ∧ (T3 r2).1 = 14 ∧ P 1 (.ref r2) T3 I4 L5 R6))))) ∧ (¬ (I 1008 3) = (1 : Int32) → ∃ b17, b17 ≤ b ∧ zMet mX2_wrong 4 b17 [.ref 1008, .int (1 : Int32)] T I L R (zqR_TILR   (fun (r11 : Nat) (T12 : zT) (I13 : zI) (L14 : zL) (R15 : zR)  => zXok T12 R15 ∧ (T12 r11).1 = 14 ∧ P 1 (.ref r11) T12 I13 L14 R15))))) : zAW mX2_row 7 b 0 [(0, .ref 1008), (1, .ref v1)] [] T I L R P := by
  refine za_aload_n (pc' := 1) 0 dX2_row_0 rfl rfl rfl ?_
  refine za_get (fi := 3) (v := .int (I 1008 3)) (pc' := 4) dX2_row_1 zc1 (by decide) in_X2 (by decide) q188 (Or.inl rfl) (congrArg Prod.fst (zX_t1008 hx)) rfl rfl ?_
  refine za_iconst (pc' := 5) dX2_row_4 zi_1 rfl ?_
  refine za_icmp_eq (pc' := 8) (tgt := 14) dX2_row_5 (by decide) rfl (fun c9 => ?_) (fun c9 => ?_)
  · replace h := h.1 c9
    refine za_aload_n (pc' := 15) 1 dX2_row_14 rfl rfl rfl ?_
    obtain ⟨ht1, h⟩ := h
    refine za_getN (fi := 1) (v := .int (I v1 1)) (pc' := 18) dX2_row_15 zc10 (by decide) in_X11 (by decide) q409 (Or.inl rfl) ht1 rfl rfl ?_
    refine za_aload_n (pc' := 19) 0 dX2_row_18 rfl rfl rfl ?_
    refine za_get (fi := 0) (v := .int (I 1008 0)) (pc' := 22) dX2_row_19 zc1 (by decide) in_X2 (by decide) q185 (Or.inl rfl) (congrArg Prod.fst (zX_t1008 hx)) rfl rfl ?_
    refine za_iadd (pc' := 23) dX2_row_22 rfl ?_
    refine za_aload_n (pc' := 24) 0 dX2_row_23 rfl rfl rfl ?_
    refine za_get (fi := 2) (v := .int (I 1008 2)) (pc' := 27) dX2_row_24 zc1 (by decide) in_X2 (by decide) q187 (Or.inl rfl) (congrArg Prod.fst (zX_t1008 hx)) rfl rfl ?_
    refine za_isub (pc' := 28) dX2_row_27 rfl ?_
    refine za_bipush (pc' := 30) dX2_row_28 zb8_12 rfl ?_
    refine za_icmp_le (pc' := 33) (tgt := 39) dX2_row_30 (by decide) rfl (fun c9 => ?_) (fun c9 => ?_)
    · replace h := h.1 c9
      refine za_aload_n (pc' := 40) 0 dX2_row_39 rfl rfl rfl ?_
      refine za_get (fi := 2) (v := .int (I 1008 2)) (pc' := 43) dX2_row_40 zc1 (by decide) in_X2 (by decide) q187 (Or.inl rfl) (congrArg Prod.fst (zX_t1008 hx)) rfl rfl ?_
      refine za_istore_n (pc' := 44) (l' := [(2, .int (I 1008 2)), (0, .ref 1008), (1, .ref v1)]) dX2_row_43 rfl (Nat.le_of_ble_eq_true rfl) rfl rfl ?_
      exact zAW_sub [1, 2, 0] rfl h
    · replace h := h.2 c9
      refine za_aload_n (pc' := 34) 0 dX2_row_33 rfl rfl rfl ?_
      refine za_iconst (pc' := 35) dX2_row_34 zi_2 rfl ?_
      obtain ⟨b8, hb9, h⟩ := h
      refine za_callV (κ := 1008) (M2 := mX2_wrong) (d2 := 4) (b2 := b8) (n := 1) (As := [.int (2 : Int32)]) (st := []) (pc' := 38) zc1 (by decide) (congrArg Prod.fst (zX_t1008 hx)) dX2_row_35 rfl (lw_V q739 q741 qs8 q132 q742) ⟨rfl, hd_X2_wrong⟩ rfl (by decide) (by decide) hb9 (Or.inl rfl) (Nat.le_of_ble_eq_true rfl) h (zqR_TILR_k rfl (fun r2 T3 I4 L5 R6 h => ?_)) (fun _ _ _ _ _ _ h9 h8 => absurd h8.1 h9) rfl
      obtain ⟨hx7, h⟩ := h
      obtain ⟨ht10, h⟩ := h
      exact za_athrow dX2_row_38 rfl (by decide) zc13 (by decide) ht10 rfl h
  · replace h := h.2 c9
    refine za_aload_n (pc' := 9) 0 dX2_row_8 rfl rfl rfl ?_
    refine za_iconst (pc' := 10) dX2_row_9 zi_1 rfl ?_
    obtain ⟨b17, hb18, h⟩ := h
    refine za_callV (κ := 1008) (M2 := mX2_wrong) (d2 := 4) (b2 := b17) (n := 1) (As := [.int (1 : Int32)]) (st := []) (pc' := 13) zc1 (by decide) (congrArg Prod.fst (zX_t1008 hx)) dX2_row_10 rfl (lw_V q739 q741 qs8 q132 q742) ⟨rfl, hd_X2_wrong⟩ rfl (by decide) (by decide) hb18 (Or.inl rfl) (Nat.le_of_ble_eq_true rfl) h (zqR_TILR_k rfl (fun r11 T12 I13 L14 R15 h => ?_)) (fun _ _ _ _ _ _ h9 h8 => absurd h8.1 h9) rfl
    obtain ⟨hx16, h⟩ := h
    obtain ⟨ht19, h⟩ := h
    exact za_athrow dX2_row_13 rfl (by decide) zc13 (by decide) ht19 rfl h
theorem gX2_row_44 {b : Nat} {v1 : Nat} {v2 : Int32} {T : zT} {I : zI} {L : zL} {R : zR} {P : zP} (hx : zXok T R) (h : (((I 1008 0) ≤ v2 → zMet mX2_next 6 0 [.ref 1008] T I L R (zqV_I T L R  (fun (I20 : zI)  => (((I20 1008 3) = (1 : Int32) → zAW mX2_row 7 (b - 0) 0 [(0, .ref 1008), (1, .ref v1)] [] T I20 L R P) ∧ (¬ (I20 1008 3) = (1 : Int32) → P 0 (.int 0) T I20 L R))))) ∧ (¬ (I 1008 0) ≤ v2 → (T v1).1 = 11 ∧ vp_in v2 800 ∧ (T (R v1 0)).1 = 100 ∧ vp_in (I v1 1) ((T (R v1 0)).2) ∧ zAW mX2_row 7 b 44 [(0, .ref 1008), (1, .ref v1), (2, .int (v2 + (1 : Int32)))] [] T (z2 (z2 I v1 1 ((I v1 1) + (1 : Int32))) (R v1 0) ((I v1 1).toNatClampNeg) ((((z2 I v1 1 ((I v1 1) + (1 : Int32))) 1001 (v2.toNatClampNeg)) - (97 : Int32)) + (1 : Int32))) L R P))) : zAW mX2_row 7 b 44 [(0, .ref 1008), (1, .ref v1), (2, .int v2)] [] T I L R P := by
  refine za_iload_n (pc' := 45) 2 dX2_row_44 rfl rfl rfl ?_
  refine za_aload_n (pc' := 46) 0 dX2_row_45 rfl rfl rfl ?_
  refine za_get (fi := 0) (v := .int (I 1008 0)) (pc' := 49) dX2_row_46 zc1 (by decide) in_X2 (by decide) q185 (Or.inl rfl) (congrArg Prod.fst (zX_t1008 hx)) rfl rfl ?_
  refine za_icmp_ge (pc' := 52) (tgt := 88) dX2_row_49 (by decide) rfl (fun c9 => ?_) (fun c9 => ?_)
  · replace h := h.1 c9
    refine za_aload_n (pc' := 89) 0 dX2_row_88 rfl rfl rfl ?_
    refine za_callV (κ := 1008) (M2 := mX2_next) (d2 := 6) (b2 := 0) (n := 0) (As := []) (st := []) (pc' := 92) zc1 (by decide) (congrArg Prod.fst (zX_t1008 hx)) dX2_row_89 rfl (lw_V q597 q599 qs1 q132 q600) ⟨rfl, hd_X2_next⟩ rfl (by decide) (by decide) (Nat.zero_le _) (Or.inl rfl) (Nat.le_of_ble_eq_true rfl) h (zqV_I_k rfl (fun I20 h => ?_)) (fun _ _ _ _ _ _ h9 h8 => absurd h8.1 h9) rfl
    refine za_aload_n (pc' := 93) 0 dX2_row_92 rfl rfl rfl ?_
    refine za_get (fi := 3) (v := .int (I20 1008 3)) (pc' := 96) dX2_row_93 zc1 (by decide) in_X2 (by decide) q188 (Or.inl rfl) (congrArg Prod.fst (zX_t1008 hx)) rfl rfl ?_
    refine za_iconst (pc' := 97) dX2_row_96 zi_1 rfl ?_
    refine za_icmp_eq (pc' := 100) (tgt := 0) dX2_row_97 (by decide) rfl (fun c9 => ?_) (fun c9 => ?_)
    · replace h := h.1 c9
      exact zAW_sub [0, 1] rfl h
    · replace h := h.2 c9
      exact za_return rfl dX2_row_100 h
  · replace h := h.2 c9
    refine za_aload_n (pc' := 53) 1 dX2_row_52 rfl rfl rfl ?_
    obtain ⟨ht21, h⟩ := h
    refine za_getN (fi := 0) (v := .ref (R v1 0)) (pc' := 56) dX2_row_53 zc10 (by decide) in_X11 (by decide) q405 (Or.inl rfl) ht21 rfl rfl ?_
    refine za_aload_n (pc' := 57) 1 dX2_row_56 rfl rfl rfl ?_
    refine za_dup (pc' := 58) dX2_row_57 rfl rfl ?_
    refine za_getN (fi := 1) (v := .int (I v1 1)) (pc' := 61) dX2_row_58 zc10 (by decide) in_X11 (by decide) q409 (Or.inl rfl) ht21 rfl rfl ?_
    refine za_dup_x1 (pc' := 62) dX2_row_61 rfl rfl rfl ?_
    refine za_iconst (pc' := 63) dX2_row_62 zi_1 rfl ?_
    refine za_iadd (pc' := 64) dX2_row_63 rfl ?_
    refine za_putNI (fi := 1) (pc' := 67) dX2_row_64 zc10 (by decide) in_X11 zok10 znm10 (by decide) q409 (Or.inl rfl) rfl rfl (fun _ _ _ => rfl) rfl rfl ht21 rfl ?_
    refine za_aload_n (pc' := 68) 0 dX2_row_67 rfl rfl rfl ?_
    refine za_get (fi := 8) (v := .ref 1000) (pc' := 71) dX2_row_68 zc1 (by decide) in_X2 (by decide) q193 (Or.inl rfl) (congrArg Prod.fst (zX_t1008 hx)) (congrArg Value.ref (zX_r1008_8 hx)) rfl ?_
    refine za_getN (fi := 0) (v := .ref 1001) (pc' := 74) dX2_row_71 zc0 (by decide) in_X1 (by decide) q488 (Or.inl rfl) (congrArg Prod.fst (zX_t1000 hx)) (congrArg Value.ref (zX_r1000_0 hx)) rfl ?_
    refine za_iload_n (pc' := 75) 2 dX2_row_74 rfl rfl rfl ?_
    obtain ⟨hi22, h⟩ := h
    refine za_bald (v := .int ((z2 I v1 1 ((I v1 1) + (1 : Int32))) 1001 (v2.toNatClampNeg))) (pc' := 76) dX2_row_75 (zX_t1001 hx) hi22 rfl rfl ?_
    refine za_bipush (pc' := 78) dX2_row_76 zb8_97 rfl ?_
    refine za_isub (pc' := 79) dX2_row_78 rfl ?_
    refine za_iconst (pc' := 80) dX2_row_79 zi_1 rfl ?_
    refine za_iadd (pc' := 81) dX2_row_80 rfl ?_
    obtain ⟨ht23, h⟩ := h
    obtain ⟨hi24, h⟩ := h
    refine za_iast (k := (I v1 1).toNatClampNeg) (pc' := 82) dX2_row_81 (zpair ht23) hi24 rfl rfl ?_
    refine za_iinc (pc' := 85) (l' := [(2, .int (v2 + (1 : Int32))), (0, .ref 1008), (1, .ref v1)]) 2 dX2_row_82 rfl (zinc zi_1) (Nat.le_of_ble_eq_true rfl) rfl rfl ?_
    refine za_goto (tgt := 44) dX2_row_85 (by decide) ?_
    exact zAW_sub [1, 2, 0] rfl h
theorem sX2_row {d b : Nat} {v1 : Nat} {T : zT} {I : zI} {L : zL} {R : zR} {P : zP} (h : zAW mX2_row d b 0 [(0, .ref 1008), (1, .ref v1)] [] T I L R P) : zMet mX2_row d b [.ref 1008, .ref v1] T I L R P := zMet_of (by decide +kernel) rfl (Nat.le_of_ble_eq_true rfl) rfl h
/-! TwoTongues$Reader.corner ()V -/
def dkwX2_corner_6 : List UInt8 := [180, 0, 128, 4, 96, 181, 0, 128, 177]
abbrev dktX2_corner_6 : List UInt8 := dkwX2_corner_6 ++ []
def dkwX2_corner_5 : List UInt8 := [182, 0, 226, 192, 0, 211, 180, 0, 214, 180, 0, 205, 4, 100, 182, 0, 176, 79, 42, 180, 0, 101, 89]
abbrev dktX2_corner_5 : List UInt8 := dkwX2_corner_5 ++ dktX2_corner_6
def dkwX2_corner_4 : List UInt8 := [180, 0, 233, 27, 42, 3, 42, 180, 0, 101, 180, 0, 120, 42, 180, 0, 101, 180, 0, 230, 27, 46]
abbrev dktX2_corner_4 : List UInt8 := dkwX2_corner_4 ++ dktX2_corner_5
def dkwX2_corner_3 : List UInt8 := [180, 0, 230, 27, 42, 42, 180, 0, 101, 180, 0, 217, 27, 46, 182, 0, 220, 79, 42, 180, 0, 101]
abbrev dktX2_corner_3 : List UInt8 := dkwX2_corner_3 ++ dktX2_corner_4
def dkwX2_corner_2 : List UInt8 := [46, 182, 0, 226, 192, 0, 211, 180, 0, 214, 180, 0, 205, 4, 100, 182, 0, 176, 79, 42, 180, 0, 101]
abbrev dktX2_corner_2 : List UInt8 := dkwX2_corner_2 ++ dktX2_corner_3
def dkwX2_corner_1 : List UInt8 := [180, 0, 101, 180, 0, 223, 27, 42, 3, 42, 180, 0, 101, 180, 0, 120, 42, 180, 0, 101, 180, 0, 217, 27]
abbrev dktX2_corner_1 : List UInt8 := dkwX2_corner_1 ++ dktX2_corner_2
def dkwX2_corner_0 : List UInt8 := [42, 180, 0, 101, 180, 0, 128, 60, 42, 180, 0, 101, 180, 0, 217, 27, 42, 2, 182, 0, 220, 79, 42]
abbrev dktX2_corner_0 : List UInt8 := dkwX2_corner_0 ++ dktX2_corner_1
theorem dksX2_corner_0 : cX2_corner.data.toList.drop 0 = dktX2_corner_0 := by decide +kernel
theorem dksX2_corner_1 : cX2_corner.data.toList.drop 23 = dktX2_corner_1 := dk_seg dksX2_corner_0 23 rfl rfl
theorem dksX2_corner_2 : cX2_corner.data.toList.drop 47 = dktX2_corner_2 := dk_seg dksX2_corner_1 24 rfl rfl
theorem dksX2_corner_3 : cX2_corner.data.toList.drop 70 = dktX2_corner_3 := dk_seg dksX2_corner_2 23 rfl rfl
theorem dksX2_corner_4 : cX2_corner.data.toList.drop 92 = dktX2_corner_4 := dk_seg dksX2_corner_3 22 rfl rfl
theorem dksX2_corner_5 : cX2_corner.data.toList.drop 114 = dktX2_corner_5 := dk_seg dksX2_corner_4 22 rfl rfl
theorem dksX2_corner_6 : cX2_corner.data.toList.drop 137 = dktX2_corner_6 := dk_seg dksX2_corner_5 23 rfl rfl
theorem dX2_corner_0 : decode cX2_corner 0 = .ok (.aload_n 0, 1) := dk_42 (dk_at dksX2_corner_0 0 rfl rfl)
theorem dX2_corner_1 : decode cX2_corner 1 = .ok (.getfield 101, 3) := dk_180 0 101 (dk_at dksX2_corner_0 1 rfl rfl)
theorem dX2_corner_4 : decode cX2_corner 4 = .ok (.getfield 128, 3) := dk_180 0 128 (dk_at dksX2_corner_0 4 rfl rfl)
theorem dX2_corner_7 : decode cX2_corner 7 = .ok (.istore_n 1, 1) := dk_60 (dk_at dksX2_corner_0 7 rfl rfl)
theorem dX2_corner_8 : decode cX2_corner 8 = .ok (.aload_n 0, 1) := dk_42 (dk_at dksX2_corner_0 8 rfl rfl)
theorem dX2_corner_9 : decode cX2_corner 9 = .ok (.getfield 101, 3) := dk_180 0 101 (dk_at dksX2_corner_0 9 rfl rfl)
theorem dX2_corner_12 : decode cX2_corner 12 = .ok (.getfield 217, 3) := dk_180 0 217 (dk_at dksX2_corner_0 12 rfl rfl)
theorem dX2_corner_15 : decode cX2_corner 15 = .ok (.iload_n 1, 1) := dk_27 (dk_at dksX2_corner_0 15 rfl rfl)
theorem dX2_corner_16 : decode cX2_corner 16 = .ok (.aload_n 0, 1) := dk_42 (dk_at dksX2_corner_0 16 rfl rfl)
theorem dX2_corner_17 : decode cX2_corner 17 = .ok (.iconst (-1), 1) := dk_2 (dk_at dksX2_corner_0 17 rfl rfl)
theorem dX2_corner_18 : decode cX2_corner 18 = .ok (.invokevirtual 220, 3) := dk_182 0 220 (dk_at dksX2_corner_0 18 rfl rfl)
theorem dX2_corner_21 : decode cX2_corner 21 = .ok (.iastore, 1) := dk_79 (dk_at dksX2_corner_0 21 rfl rfl)
theorem dX2_corner_22 : decode cX2_corner 22 = .ok (.aload_n 0, 1) := dk_42 (dk_at dksX2_corner_0 22 rfl rfl)
theorem dX2_corner_23 : decode cX2_corner 23 = .ok (.getfield 101, 3) := dk_180 0 101 (dk_at dksX2_corner_1 0 rfl rfl)
theorem dX2_corner_26 : decode cX2_corner 26 = .ok (.getfield 223, 3) := dk_180 0 223 (dk_at dksX2_corner_1 3 rfl rfl)
theorem dX2_corner_29 : decode cX2_corner 29 = .ok (.iload_n 1, 1) := dk_27 (dk_at dksX2_corner_1 6 rfl rfl)
theorem dX2_corner_30 : decode cX2_corner 30 = .ok (.aload_n 0, 1) := dk_42 (dk_at dksX2_corner_1 7 rfl rfl)
theorem dX2_corner_31 : decode cX2_corner 31 = .ok (.iconst 0, 1) := dk_3 (dk_at dksX2_corner_1 8 rfl rfl)
theorem dX2_corner_32 : decode cX2_corner 32 = .ok (.aload_n 0, 1) := dk_42 (dk_at dksX2_corner_1 9 rfl rfl)
theorem dX2_corner_33 : decode cX2_corner 33 = .ok (.getfield 101, 3) := dk_180 0 101 (dk_at dksX2_corner_1 10 rfl rfl)
theorem dX2_corner_36 : decode cX2_corner 36 = .ok (.getfield 120, 3) := dk_180 0 120 (dk_at dksX2_corner_1 13 rfl rfl)
theorem dX2_corner_39 : decode cX2_corner 39 = .ok (.aload_n 0, 1) := dk_42 (dk_at dksX2_corner_1 16 rfl rfl)
theorem dX2_corner_40 : decode cX2_corner 40 = .ok (.getfield 101, 3) := dk_180 0 101 (dk_at dksX2_corner_1 17 rfl rfl)
theorem dX2_corner_43 : decode cX2_corner 43 = .ok (.getfield 217, 3) := dk_180 0 217 (dk_at dksX2_corner_1 20 rfl rfl)
theorem dX2_corner_46 : decode cX2_corner 46 = .ok (.iload_n 1, 1) := dk_27 (dk_at dksX2_corner_1 23 rfl rfl)
theorem dX2_corner_47 : decode cX2_corner 47 = .ok (.iaload, 1) := dk_46 (dk_at dksX2_corner_2 0 rfl rfl)
theorem dX2_corner_48 : decode cX2_corner 48 = .ok (.invokevirtual 226, 3) := dk_182 0 226 (dk_at dksX2_corner_2 1 rfl rfl)
theorem dX2_corner_51 : decode cX2_corner 51 = .ok (.checkcast 211, 3) := dk_192 0 211 (dk_at dksX2_corner_2 4 rfl rfl)
theorem dX2_corner_54 : decode cX2_corner 54 = .ok (.getfield 214, 3) := dk_180 0 214 (dk_at dksX2_corner_2 7 rfl rfl)
theorem dX2_corner_57 : decode cX2_corner 57 = .ok (.getfield 205, 3) := dk_180 0 205 (dk_at dksX2_corner_2 10 rfl rfl)
theorem dX2_corner_60 : decode cX2_corner 60 = .ok (.iconst 1, 1) := dk_4 (dk_at dksX2_corner_2 13 rfl rfl)
theorem dX2_corner_61 : decode cX2_corner 61 = .ok (.isub, 1) := dk_100 (dk_at dksX2_corner_2 14 rfl rfl)
theorem dX2_corner_62 : decode cX2_corner 62 = .ok (.invokevirtual 176, 3) := dk_182 0 176 (dk_at dksX2_corner_2 15 rfl rfl)
theorem dX2_corner_65 : decode cX2_corner 65 = .ok (.iastore, 1) := dk_79 (dk_at dksX2_corner_2 18 rfl rfl)
theorem dX2_corner_66 : decode cX2_corner 66 = .ok (.aload_n 0, 1) := dk_42 (dk_at dksX2_corner_2 19 rfl rfl)
theorem dX2_corner_67 : decode cX2_corner 67 = .ok (.getfield 101, 3) := dk_180 0 101 (dk_at dksX2_corner_2 20 rfl rfl)
theorem dX2_corner_70 : decode cX2_corner 70 = .ok (.getfield 230, 3) := dk_180 0 230 (dk_at dksX2_corner_3 0 rfl rfl)
theorem dX2_corner_73 : decode cX2_corner 73 = .ok (.iload_n 1, 1) := dk_27 (dk_at dksX2_corner_3 3 rfl rfl)
theorem dX2_corner_74 : decode cX2_corner 74 = .ok (.aload_n 0, 1) := dk_42 (dk_at dksX2_corner_3 4 rfl rfl)
theorem dX2_corner_75 : decode cX2_corner 75 = .ok (.aload_n 0, 1) := dk_42 (dk_at dksX2_corner_3 5 rfl rfl)
theorem dX2_corner_76 : decode cX2_corner 76 = .ok (.getfield 101, 3) := dk_180 0 101 (dk_at dksX2_corner_3 6 rfl rfl)
theorem dX2_corner_79 : decode cX2_corner 79 = .ok (.getfield 217, 3) := dk_180 0 217 (dk_at dksX2_corner_3 9 rfl rfl)
theorem dX2_corner_82 : decode cX2_corner 82 = .ok (.iload_n 1, 1) := dk_27 (dk_at dksX2_corner_3 12 rfl rfl)
theorem dX2_corner_83 : decode cX2_corner 83 = .ok (.iaload, 1) := dk_46 (dk_at dksX2_corner_3 13 rfl rfl)
theorem dX2_corner_84 : decode cX2_corner 84 = .ok (.invokevirtual 220, 3) := dk_182 0 220 (dk_at dksX2_corner_3 14 rfl rfl)
theorem dX2_corner_87 : decode cX2_corner 87 = .ok (.iastore, 1) := dk_79 (dk_at dksX2_corner_3 17 rfl rfl)
theorem dX2_corner_88 : decode cX2_corner 88 = .ok (.aload_n 0, 1) := dk_42 (dk_at dksX2_corner_3 18 rfl rfl)
theorem dX2_corner_89 : decode cX2_corner 89 = .ok (.getfield 101, 3) := dk_180 0 101 (dk_at dksX2_corner_3 19 rfl rfl)
theorem dX2_corner_92 : decode cX2_corner 92 = .ok (.getfield 233, 3) := dk_180 0 233 (dk_at dksX2_corner_4 0 rfl rfl)
theorem dX2_corner_95 : decode cX2_corner 95 = .ok (.iload_n 1, 1) := dk_27 (dk_at dksX2_corner_4 3 rfl rfl)
theorem dX2_corner_96 : decode cX2_corner 96 = .ok (.aload_n 0, 1) := dk_42 (dk_at dksX2_corner_4 4 rfl rfl)
theorem dX2_corner_97 : decode cX2_corner 97 = .ok (.iconst 0, 1) := dk_3 (dk_at dksX2_corner_4 5 rfl rfl)
theorem dX2_corner_98 : decode cX2_corner 98 = .ok (.aload_n 0, 1) := dk_42 (dk_at dksX2_corner_4 6 rfl rfl)
theorem dX2_corner_99 : decode cX2_corner 99 = .ok (.getfield 101, 3) := dk_180 0 101 (dk_at dksX2_corner_4 7 rfl rfl)
theorem dX2_corner_102 : decode cX2_corner 102 = .ok (.getfield 120, 3) := dk_180 0 120 (dk_at dksX2_corner_4 10 rfl rfl)
theorem dX2_corner_105 : decode cX2_corner 105 = .ok (.aload_n 0, 1) := dk_42 (dk_at dksX2_corner_4 13 rfl rfl)
theorem dX2_corner_106 : decode cX2_corner 106 = .ok (.getfield 101, 3) := dk_180 0 101 (dk_at dksX2_corner_4 14 rfl rfl)
theorem dX2_corner_109 : decode cX2_corner 109 = .ok (.getfield 230, 3) := dk_180 0 230 (dk_at dksX2_corner_4 17 rfl rfl)
theorem dX2_corner_112 : decode cX2_corner 112 = .ok (.iload_n 1, 1) := dk_27 (dk_at dksX2_corner_4 20 rfl rfl)
theorem dX2_corner_113 : decode cX2_corner 113 = .ok (.iaload, 1) := dk_46 (dk_at dksX2_corner_4 21 rfl rfl)
theorem dX2_corner_114 : decode cX2_corner 114 = .ok (.invokevirtual 226, 3) := dk_182 0 226 (dk_at dksX2_corner_5 0 rfl rfl)
theorem dX2_corner_117 : decode cX2_corner 117 = .ok (.checkcast 211, 3) := dk_192 0 211 (dk_at dksX2_corner_5 3 rfl rfl)
theorem dX2_corner_120 : decode cX2_corner 120 = .ok (.getfield 214, 3) := dk_180 0 214 (dk_at dksX2_corner_5 6 rfl rfl)
theorem dX2_corner_123 : decode cX2_corner 123 = .ok (.getfield 205, 3) := dk_180 0 205 (dk_at dksX2_corner_5 9 rfl rfl)
theorem dX2_corner_126 : decode cX2_corner 126 = .ok (.iconst 1, 1) := dk_4 (dk_at dksX2_corner_5 12 rfl rfl)
theorem dX2_corner_127 : decode cX2_corner 127 = .ok (.isub, 1) := dk_100 (dk_at dksX2_corner_5 13 rfl rfl)
theorem dX2_corner_128 : decode cX2_corner 128 = .ok (.invokevirtual 176, 3) := dk_182 0 176 (dk_at dksX2_corner_5 14 rfl rfl)
theorem dX2_corner_131 : decode cX2_corner 131 = .ok (.iastore, 1) := dk_79 (dk_at dksX2_corner_5 17 rfl rfl)
theorem dX2_corner_132 : decode cX2_corner 132 = .ok (.aload_n 0, 1) := dk_42 (dk_at dksX2_corner_5 18 rfl rfl)
theorem dX2_corner_133 : decode cX2_corner 133 = .ok (.getfield 101, 3) := dk_180 0 101 (dk_at dksX2_corner_5 19 rfl rfl)
theorem dX2_corner_136 : decode cX2_corner 136 = .ok (.dup, 1) := dk_89 (dk_at dksX2_corner_5 22 rfl rfl)
theorem dX2_corner_137 : decode cX2_corner 137 = .ok (.getfield 128, 3) := dk_180 0 128 (dk_at dksX2_corner_6 0 rfl rfl)
theorem dX2_corner_140 : decode cX2_corner 140 = .ok (.iconst 1, 1) := dk_4 (dk_at dksX2_corner_6 3 rfl rfl)
theorem dX2_corner_141 : decode cX2_corner 141 = .ok (.iadd, 1) := dk_96 (dk_at dksX2_corner_6 4 rfl rfl)
theorem dX2_corner_142 : decode cX2_corner 142 = .ok (.putfield 128, 3) := dk_181 0 128 (dk_at dksX2_corner_6 5 rfl rfl)
theorem dX2_corner_145 : decode cX2_corner 145 = .ok (.return_, 1) := dk_177 (dk_at dksX2_corner_6 8 rfl rfl)
theorem gX2_corner_0 {b : Nat}  {T : zT} {I : zI} {L : zL} {R : zR} {P : zP} (hx : zXok T R) (h : (T (R 1008 7)).1 = 3 ∧ ∃ b8, b8 ≤ b ∧ zMet mX2_ahead 7 b8 [.ref 1008, .int (-1 : Int32)] T I L R (zqI_TILRx  P (fun (r2 : Int32) (T3 : zT) (I4 : zI) (L5 : zL) (R6 : zR)  => zXok T3 R6 ∧ (T3 (R (R 1008 7) 4)).1 = 100 ∧ vp_in (I (R 1008 7) 12) ((T3 (R (R 1008 7) 4)).2) ∧ (T3 (R6 1008 7)).1 = 3 ∧ (T3 (R6 (R6 1008 7) 4)).1 = 100 ∧ vp_in (I (R 1008 7) 12) ((T3 (R6 (R6 1008 7) 4)).2) ∧ (T3 (R6 (R6 1008 7) 2)).1 = 5 ∧ zMet mJ2_get 3 0 [.ref (R6 (R6 1008 7) 2), .int ((z2 I4 (R (R 1008 7) 4) ((I (R 1008 7) 12).toNatClampNeg) r2) (R6 (R6 1008 7) 4) ((I (R 1008 7) 12).toNatClampNeg))] T3 (z2 I4 (R (R 1008 7) 4) ((I (R 1008 7) 12).toNatClampNeg) r2) L5 R6 (zqR_ T3 (z2 I4 (R (R 1008 7) 4) ((I (R 1008 7) 12).toNatClampNeg) r2) L5 R6  (fun (r15 : Nat)  => (T3 r15).1 = 15 ∧ (T3 (R6 r15 2)).1 = 11 ∧ ∃ b25, b25 ≤ ((b - b8) - 0) ∧ zMet mX2_number 7 b25 [.ref 1008, .int (0 : Int32), .int (((z2 I4 (R (R 1008 7) 4) ((I (R 1008 7) 12).toNatClampNeg) r2) (R6 r15 2) 1) - (1 : Int32))] T3 (z2 I4 (R (R 1008 7) 4) ((I (R 1008 7) 12).toNatClampNeg) r2) L5 R6 (zqI_TILRx  P (fun (r19 : Int32) (T20 : zT) (I21 : zI) (L22 : zL) (R23 : zR)  => zXok T20 R23 ∧ (T20 (R6 (R6 1008 7) 5)).1 = 100 ∧ vp_in (I (R 1008 7) 12) ((T20 (R6 (R6 1008 7) 5)).2) ∧ (T20 (R23 1008 7)).1 = 3 ∧ (T20 (R23 (R23 1008 7) 4)).1 = 100 ∧ vp_in (I (R 1008 7) 12) ((T20 (R23 (R23 1008 7) 4)).2) ∧ ∃ b38, b38 ≤ (((b - b8) - 0) - b25) ∧ zMet mX2_ahead 7 b38 [.ref 1008, .int ((z2 I21 (R6 (R6 1008 7) 5) ((I (R 1008 7) 12).toNatClampNeg) r19) (R23 (R23 1008 7) 4) ((I (R 1008 7) 12).toNatClampNeg))] T20 (z2 I21 (R6 (R6 1008 7) 5) ((I (R 1008 7) 12).toNatClampNeg) r19) L22 R23 (zqI_TILRx  P (fun (r32 : Int32) (T33 : zT) (I34 : zI) (L35 : zL) (R36 : zR)  => zXok T33 R36 ∧ (T33 (R23 (R23 1008 7) 6)).1 = 100 ∧ vp_in (I (R 1008 7) 12) ((T33 (R23 (R23 1008 7) 6)).2) ∧ (T33 (R36 1008 7)).1 = 3 ∧ (T33 (R36 (R36 1008 7) 6)).1 = 100 ∧ vp_in (I (R 1008 7) 12) ((T33 (R36 (R36 1008 7) 6)).2) ∧ (T33 (R36 (R36 1008 7) 2)).1 = 5 ∧ zMet mJ2_get 3 0 [.ref (R36 (R36 1008 7) 2), .int ((z2 I34 (R23 (R23 1008 7) 6) ((I (R 1008 7) 12).toNatClampNeg) r32) (R36 (R36 1008 7) 6) ((I (R 1008 7) 12).toNatClampNeg))] T33 (z2 I34 (R23 (R23 1008 7) 6) ((I (R 1008 7) 12).toNatClampNeg) r32) L35 R36 (zqR_ T33 (z2 I34 (R23 (R23 1008 7) 6) ((I (R 1008 7) 12).toNatClampNeg) r32) L35 R36  (fun (r45 : Nat)  => zAW mX2_corner 8 (((((b - b8) - 0) - b25) - b38) - 0) 117 [(0, .ref 1008)] [.ref r45, .int (0 : Int32), .ref 1008, .int (I (R 1008 7) 12), .ref (R36 (R36 1008 7) 7)] T33 (z2 I34 (R23 (R23 1008 7) 6) ((I (R 1008 7) 12).toNatClampNeg) r32) L35 R36 P))))))))))) : zAW mX2_corner 8 b 0 [(0, .ref 1008)] [] T I L R P := by
  refine za_aload_n (pc' := 1) 0 dX2_corner_0 rfl rfl rfl ?_
  refine za_get (fi := 7) (v := .ref (R 1008 7)) (pc' := 4) dX2_corner_1 zc1 (by decide) in_X2 (by decide) q192 (Or.inl rfl) (congrArg Prod.fst (zX_t1008 hx)) rfl rfl ?_
  obtain ⟨ht1, h⟩ := h
  refine za_getN (fi := 12) (v := .int (I (R 1008 7) 12)) (pc' := 7) dX2_corner_4 zc2 (by decide) in_X3 (by decide) q304 (Or.inl rfl) ht1 rfl rfl ?_
  refine za_istore_n (pc' := 8) (l' := [(1, .int (I (R 1008 7) 12)), (0, .ref 1008)]) dX2_corner_7 rfl (Nat.le_of_ble_eq_true rfl) rfl rfl ?_
  refine za_aload_n (pc' := 9) 1 dX2_corner_8 rfl rfl rfl ?_
  refine za_get (fi := 7) (v := .ref (R 1008 7)) (pc' := 12) dX2_corner_9 zc1 (by decide) in_X2 (by decide) q192 (Or.inl rfl) (congrArg Prod.fst (zX_t1008 hx)) rfl rfl ?_
  refine za_getN (fi := 4) (v := .ref (R (R 1008 7) 4)) (pc' := 15) dX2_corner_12 zc2 (by decide) in_X3 (by decide) q284 (Or.inl rfl) ht1 rfl rfl ?_
  refine za_iload_n (pc' := 16) 0 dX2_corner_15 rfl rfl rfl ?_
  refine za_aload_n (pc' := 17) 1 dX2_corner_16 rfl rfl rfl ?_
  refine za_iconst (pc' := 18) dX2_corner_17 zi_m1 rfl ?_
  obtain ⟨b8, hb9, h⟩ := h
  refine za_callV (κ := 1008) (M2 := mX2_ahead) (d2 := 7) (b2 := b8) (n := 1) (As := [.int (-1 : Int32)]) (st := [.int (I (R 1008 7) 12), .ref (R (R 1008 7) 4)]) (pc' := 21) zc1 (by decide) (congrArg Prod.fst (zX_t1008 hx)) dX2_corner_18 rfl (lw_V q944 q946 qs19 q132 q947) ⟨rfl, hd_X2_ahead⟩ rfl (by decide) (by decide) hb9 (Or.inl rfl) (Nat.le_of_ble_eq_true rfl) h (zqI_TILRx_k rfl (fun r2 T3 I4 L5 R6 h => ?_)) (fun _ _ _ _ _ _ h9 h8 => h8.2 h9) rfl
  obtain ⟨hx7, h⟩ := h
  obtain ⟨ht10, h⟩ := h
  obtain ⟨hi11, h⟩ := h
  refine za_iast (k := (I (R 1008 7) 12).toNatClampNeg) (pc' := 22) dX2_corner_21 (zpair ht10) hi11 rfl rfl ?_
  refine za_aload_n (pc' := 23) 1 dX2_corner_22 rfl rfl rfl ?_
  refine za_get (fi := 7) (v := .ref (R6 1008 7)) (pc' := 26) dX2_corner_23 zc1 (by decide) in_X2 (by decide) q192 (Or.inl rfl) (congrArg Prod.fst (zX_t1008 hx7)) rfl rfl ?_
  obtain ⟨ht12, h⟩ := h
  refine za_getN (fi := 5) (v := .ref (R6 (R6 1008 7) 5)) (pc' := 29) dX2_corner_26 zc2 (by decide) in_X3 (by decide) q287 (Or.inl rfl) ht12 rfl rfl ?_
  refine za_iload_n (pc' := 30) 0 dX2_corner_29 rfl rfl rfl ?_
  refine za_aload_n (pc' := 31) 1 dX2_corner_30 rfl rfl rfl ?_
  refine za_iconst (pc' := 32) dX2_corner_31 zi_0 rfl ?_
  refine za_aload_n (pc' := 33) 1 dX2_corner_32 rfl rfl rfl ?_
  refine za_get (fi := 7) (v := .ref (R6 1008 7)) (pc' := 36) dX2_corner_33 zc1 (by decide) in_X2 (by decide) q192 (Or.inl rfl) (congrArg Prod.fst (zX_t1008 hx7)) rfl rfl ?_
  refine za_getN (fi := 2) (v := .ref (R6 (R6 1008 7) 2)) (pc' := 39) dX2_corner_36 zc2 (by decide) in_X3 (by decide) q279 (Or.inl rfl) ht12 rfl rfl ?_
  refine za_aload_n (pc' := 40) 1 dX2_corner_39 rfl rfl rfl ?_
  refine za_get (fi := 7) (v := .ref (R6 1008 7)) (pc' := 43) dX2_corner_40 zc1 (by decide) in_X2 (by decide) q192 (Or.inl rfl) (congrArg Prod.fst (zX_t1008 hx7)) rfl rfl ?_
  refine za_getN (fi := 4) (v := .ref (R6 (R6 1008 7) 4)) (pc' := 46) dX2_corner_43 zc2 (by decide) in_X3 (by decide) q284 (Or.inl rfl) ht12 rfl rfl ?_
  refine za_iload_n (pc' := 47) 0 dX2_corner_46 rfl rfl rfl ?_
  obtain ⟨ht13, h⟩ := h
  obtain ⟨hi14, h⟩ := h
  refine za_iald (v := .int ((z2 I4 (R (R 1008 7) 4) ((I (R 1008 7) 12).toNatClampNeg) r2) (R6 (R6 1008 7) 4) ((I (R 1008 7) 12).toNatClampNeg))) (pc' := 48) dX2_corner_47 (zpair ht13) hi14 rfl rfl ?_
  obtain ⟨ht16, h⟩ := h
  refine za_callV (κ := (R6 (R6 1008 7) 2)) (M2 := mJ2_get) (d2 := 3) (b2 := 0) (n := 1) (As := [.int ((z2 I4 (R (R 1008 7) 4) ((I (R 1008 7) 12).toNatClampNeg) r2) (R6 (R6 1008 7) 4) ((I (R 1008 7) 12).toNatClampNeg))]) (st := [.int (0 : Int32), .ref 1008, .int (I (R 1008 7) 12), .ref (R6 (R6 1008 7) 5)]) (pc' := 51) zc4 (by decide) ht16 dX2_corner_48 rfl (lw_V q948 q470 q471 q137 q472) ⟨rfl, hd_J2_get⟩ rfl (by decide) (by decide) (Nat.zero_le _) (Or.inl rfl) (Nat.le_of_ble_eq_true rfl) h (zqR__k rfl (fun r15 h => ?_)) (fun _ _ _ _ _ _ h9 h8 => absurd h8.1 h9) rfl
  obtain ⟨ht17, h⟩ := h
  refine za_cast (pc' := 54) dX2_corner_51 q848 zc14 (by decide) ht17 rfl ?_
  refine za_getN (fi := 2) (v := .ref (R6 r15 2)) (pc' := 57) dX2_corner_54 zc14 (by decide) in_X15 (by decide) q862 (Or.inl rfl) ht17 rfl rfl ?_
  obtain ⟨ht18, h⟩ := h
  refine za_getN (fi := 1) (v := .int ((z2 I4 (R (R 1008 7) 4) ((I (R 1008 7) 12).toNatClampNeg) r2) (R6 r15 2) 1)) (pc' := 60) dX2_corner_57 zc10 (by decide) in_X11 (by decide) q409 (Or.inl rfl) ht18 rfl rfl ?_
  refine za_iconst (pc' := 61) dX2_corner_60 zi_1 rfl ?_
  refine za_isub (pc' := 62) dX2_corner_61 rfl ?_
  obtain ⟨b25, hb26, h⟩ := h
  refine za_callV (κ := 1008) (M2 := mX2_number) (d2 := 7) (b2 := b25) (n := 2) (As := [.int (0 : Int32), .int (((z2 I4 (R (R 1008 7) 4) ((I (R 1008 7) 12).toNatClampNeg) r2) (R6 r15 2) 1) - (1 : Int32))]) (st := [.int (I (R 1008 7) 12), .ref (R6 (R6 1008 7) 5)]) (pc' := 65) zc1 (by decide) (congrArg Prod.fst (zX_t1008 hx7)) dX2_corner_62 rfl (lw_V q829 q831 qs12 q132 q832) ⟨rfl, hd_X2_number⟩ rfl (by decide) (by decide) hb26 (Or.inl rfl) (Nat.le_of_ble_eq_true rfl) h (zqI_TILRx_k rfl (fun r19 T20 I21 L22 R23 h => ?_)) (fun _ _ _ _ _ _ h9 h8 => h8.2 h9) rfl
  obtain ⟨hx24, h⟩ := h
  obtain ⟨ht27, h⟩ := h
  obtain ⟨hi28, h⟩ := h
  refine za_iast (k := (I (R 1008 7) 12).toNatClampNeg) (pc' := 66) dX2_corner_65 (zpair ht27) hi28 rfl rfl ?_
  refine za_aload_n (pc' := 67) 1 dX2_corner_66 rfl rfl rfl ?_
  refine za_get (fi := 7) (v := .ref (R23 1008 7)) (pc' := 70) dX2_corner_67 zc1 (by decide) in_X2 (by decide) q192 (Or.inl rfl) (congrArg Prod.fst (zX_t1008 hx24)) rfl rfl ?_
  obtain ⟨ht29, h⟩ := h
  refine za_getN (fi := 6) (v := .ref (R23 (R23 1008 7) 6)) (pc' := 73) dX2_corner_70 zc2 (by decide) in_X3 (by decide) q290 (Or.inl rfl) ht29 rfl rfl ?_
  refine za_iload_n (pc' := 74) 0 dX2_corner_73 rfl rfl rfl ?_
  refine za_aload_n (pc' := 75) 1 dX2_corner_74 rfl rfl rfl ?_
  refine za_aload_n (pc' := 76) 1 dX2_corner_75 rfl rfl rfl ?_
  refine za_get (fi := 7) (v := .ref (R23 1008 7)) (pc' := 79) dX2_corner_76 zc1 (by decide) in_X2 (by decide) q192 (Or.inl rfl) (congrArg Prod.fst (zX_t1008 hx24)) rfl rfl ?_
  refine za_getN (fi := 4) (v := .ref (R23 (R23 1008 7) 4)) (pc' := 82) dX2_corner_79 zc2 (by decide) in_X3 (by decide) q284 (Or.inl rfl) ht29 rfl rfl ?_
  refine za_iload_n (pc' := 83) 0 dX2_corner_82 rfl rfl rfl ?_
  obtain ⟨ht30, h⟩ := h
  obtain ⟨hi31, h⟩ := h
  refine za_iald (v := .int ((z2 I21 (R6 (R6 1008 7) 5) ((I (R 1008 7) 12).toNatClampNeg) r19) (R23 (R23 1008 7) 4) ((I (R 1008 7) 12).toNatClampNeg))) (pc' := 84) dX2_corner_83 (zpair ht30) hi31 rfl rfl ?_
  obtain ⟨b38, hb39, h⟩ := h
  refine za_callV (κ := 1008) (M2 := mX2_ahead) (d2 := 7) (b2 := b38) (n := 1) (As := [.int ((z2 I21 (R6 (R6 1008 7) 5) ((I (R 1008 7) 12).toNatClampNeg) r19) (R23 (R23 1008 7) 4) ((I (R 1008 7) 12).toNatClampNeg))]) (st := [.int (I (R 1008 7) 12), .ref (R23 (R23 1008 7) 6)]) (pc' := 87) zc1 (by decide) (congrArg Prod.fst (zX_t1008 hx24)) dX2_corner_84 rfl (lw_V q944 q946 qs19 q132 q947) ⟨rfl, hd_X2_ahead⟩ rfl (by decide) (by decide) hb39 (Or.inl rfl) (Nat.le_of_ble_eq_true rfl) h (zqI_TILRx_k rfl (fun r32 T33 I34 L35 R36 h => ?_)) (fun _ _ _ _ _ _ h9 h8 => h8.2 h9) rfl
  obtain ⟨hx37, h⟩ := h
  obtain ⟨ht40, h⟩ := h
  obtain ⟨hi41, h⟩ := h
  refine za_iast (k := (I (R 1008 7) 12).toNatClampNeg) (pc' := 88) dX2_corner_87 (zpair ht40) hi41 rfl rfl ?_
  refine za_aload_n (pc' := 89) 1 dX2_corner_88 rfl rfl rfl ?_
  refine za_get (fi := 7) (v := .ref (R36 1008 7)) (pc' := 92) dX2_corner_89 zc1 (by decide) in_X2 (by decide) q192 (Or.inl rfl) (congrArg Prod.fst (zX_t1008 hx37)) rfl rfl ?_
  obtain ⟨ht42, h⟩ := h
  refine za_getN (fi := 7) (v := .ref (R36 (R36 1008 7) 7)) (pc' := 95) dX2_corner_92 zc2 (by decide) in_X3 (by decide) q293 (Or.inl rfl) ht42 rfl rfl ?_
  refine za_iload_n (pc' := 96) 0 dX2_corner_95 rfl rfl rfl ?_
  refine za_aload_n (pc' := 97) 1 dX2_corner_96 rfl rfl rfl ?_
  refine za_iconst (pc' := 98) dX2_corner_97 zi_0 rfl ?_
  refine za_aload_n (pc' := 99) 1 dX2_corner_98 rfl rfl rfl ?_
  refine za_get (fi := 7) (v := .ref (R36 1008 7)) (pc' := 102) dX2_corner_99 zc1 (by decide) in_X2 (by decide) q192 (Or.inl rfl) (congrArg Prod.fst (zX_t1008 hx37)) rfl rfl ?_
  refine za_getN (fi := 2) (v := .ref (R36 (R36 1008 7) 2)) (pc' := 105) dX2_corner_102 zc2 (by decide) in_X3 (by decide) q279 (Or.inl rfl) ht42 rfl rfl ?_
  refine za_aload_n (pc' := 106) 1 dX2_corner_105 rfl rfl rfl ?_
  refine za_get (fi := 7) (v := .ref (R36 1008 7)) (pc' := 109) dX2_corner_106 zc1 (by decide) in_X2 (by decide) q192 (Or.inl rfl) (congrArg Prod.fst (zX_t1008 hx37)) rfl rfl ?_
  refine za_getN (fi := 6) (v := .ref (R36 (R36 1008 7) 6)) (pc' := 112) dX2_corner_109 zc2 (by decide) in_X3 (by decide) q290 (Or.inl rfl) ht42 rfl rfl ?_
  refine za_iload_n (pc' := 113) 0 dX2_corner_112 rfl rfl rfl ?_
  obtain ⟨ht43, h⟩ := h
  obtain ⟨hi44, h⟩ := h
  refine za_iald (v := .int ((z2 I34 (R23 (R23 1008 7) 6) ((I (R 1008 7) 12).toNatClampNeg) r32) (R36 (R36 1008 7) 6) ((I (R 1008 7) 12).toNatClampNeg))) (pc' := 114) dX2_corner_113 (zpair ht43) hi44 rfl rfl ?_
  obtain ⟨ht46, h⟩ := h
  refine za_callV (κ := (R36 (R36 1008 7) 2)) (M2 := mJ2_get) (d2 := 3) (b2 := 0) (n := 1) (As := [.int ((z2 I34 (R23 (R23 1008 7) 6) ((I (R 1008 7) 12).toNatClampNeg) r32) (R36 (R36 1008 7) 6) ((I (R 1008 7) 12).toNatClampNeg))]) (st := [.int (0 : Int32), .ref 1008, .int (I (R 1008 7) 12), .ref (R36 (R36 1008 7) 7)]) (pc' := 117) zc4 (by decide) ht46 dX2_corner_114 rfl (lw_V q948 q470 q471 q137 q472) ⟨rfl, hd_J2_get⟩ rfl (by decide) (by decide) (Nat.zero_le _) (Or.inl rfl) (Nat.le_of_ble_eq_true rfl) h (zqR__k rfl (fun r45 h => ?_)) (fun _ _ _ _ _ _ h9 h8 => absurd h8.1 h9) rfl
  exact zAW_sub [1] rfl h
theorem gX2_corner_117 {b : Nat} {s0 : Nat} {s1 : Int32} {s2 : Nat} {s3 : Int32} {s4 : Nat} {T : zT} {I : zI} {L : zL} {R : zR} {P : zP} (hx : zXok T R) (h : (T s0).1 = 15 ∧ (T (R s0 2)).1 = 11 ∧ (T s2).1 = 2 ∧ ∃ b55, b55 ≤ b ∧ zMet mX2_number 7 b55 [.ref s2, .int s1, .int ((I (R s0 2) 1) - (1 : Int32))] T I L R (zqI_TILRx  P (fun (r49 : Int32) (T50 : zT) (I51 : zI) (L52 : zL) (R53 : zR)  => zXok T50 R53 ∧ (T50 s4).1 = 100 ∧ vp_in s3 ((T50 s4).2) ∧ (T50 (R53 1008 7)).1 = 3 ∧ P 0 (.int 0) T50 (z2 (z2 I51 s4 (s3.toNatClampNeg) r49) (R53 1008 7) 12 (((z2 I51 s4 (s3.toNatClampNeg) r49) (R53 1008 7) 12) + (1 : Int32))) L52 R53))) : zAW mX2_corner 8 b 117 [(0, .ref 1008)] [.ref s0, .int s1, .ref s2, .int s3, .ref s4] T I L R P := by
  obtain ⟨ht47, h⟩ := h
  refine za_cast (pc' := 120) dX2_corner_117 q848 zc14 (by decide) ht47 rfl ?_
  refine za_getN (fi := 2) (v := .ref (R s0 2)) (pc' := 123) dX2_corner_120 zc14 (by decide) in_X15 (by decide) q862 (Or.inl rfl) ht47 rfl rfl ?_
  obtain ⟨ht48, h⟩ := h
  refine za_getN (fi := 1) (v := .int (I (R s0 2) 1)) (pc' := 126) dX2_corner_123 zc10 (by decide) in_X11 (by decide) q409 (Or.inl rfl) ht48 rfl rfl ?_
  refine za_iconst (pc' := 127) dX2_corner_126 zi_1 rfl ?_
  refine za_isub (pc' := 128) dX2_corner_127 rfl ?_
  obtain ⟨ht57, h⟩ := h
  obtain ⟨b55, hb56, h⟩ := h
  refine za_callV (κ := s2) (M2 := mX2_number) (d2 := 7) (b2 := b55) (n := 2) (As := [.int s1, .int ((I (R s0 2) 1) - (1 : Int32))]) (st := [.int s3, .ref s4]) (pc' := 131) zc1 (by decide) ht57 dX2_corner_128 rfl (lw_V q829 q831 qs12 q132 q832) ⟨rfl, hd_X2_number⟩ rfl (by decide) (by decide) hb56 (Or.inl rfl) (Nat.le_of_ble_eq_true rfl) h (zqI_TILRx_k rfl (fun r49 T50 I51 L52 R53 h => ?_)) (fun _ _ _ _ _ _ h9 h8 => h8.2 h9) rfl
  obtain ⟨hx54, h⟩ := h
  obtain ⟨ht58, h⟩ := h
  obtain ⟨hi59, h⟩ := h
  refine za_iast (k := s3.toNatClampNeg) (pc' := 132) dX2_corner_131 (zpair ht58) hi59 rfl rfl ?_
  refine za_aload_n (pc' := 133) 0 dX2_corner_132 rfl rfl rfl ?_
  refine za_get (fi := 7) (v := .ref (R53 1008 7)) (pc' := 136) dX2_corner_133 zc1 (by decide) in_X2 (by decide) q192 (Or.inl rfl) (congrArg Prod.fst (zX_t1008 hx54)) rfl rfl ?_
  refine za_dup (pc' := 137) dX2_corner_136 rfl rfl ?_
  obtain ⟨ht60, h⟩ := h
  refine za_getN (fi := 12) (v := .int ((z2 I51 s4 (s3.toNatClampNeg) r49) (R53 1008 7) 12)) (pc' := 140) dX2_corner_137 zc2 (by decide) in_X3 (by decide) q304 (Or.inl rfl) ht60 rfl rfl ?_
  refine za_iconst (pc' := 141) dX2_corner_140 zi_1 rfl ?_
  refine za_iadd (pc' := 142) dX2_corner_141 rfl ?_
  refine za_putNI (fi := 12) (pc' := 145) dX2_corner_142 zc2 (by decide) in_X3 zok2 znm2 (by decide) q304 (Or.inl rfl) rfl rfl (fun _ _ _ => rfl) rfl rfl ht60 rfl ?_
  exact za_return rfl dX2_corner_145 h
theorem sX2_corner {d b : Nat}  {T : zT} {I : zI} {L : zL} {R : zR} {P : zP} (h : zAW mX2_corner d b 0 [(0, .ref 1008)] [] T I L R P) : zMet mX2_corner d b [.ref 1008] T I L R P := zMet_of (by decide +kernel) rfl (Nat.le_of_ble_eq_true rfl) rfl h
/-! TwoTongues$Reader.ahead (I)I -/
def dkwX2_ahead_2 : List UInt8 := [182, 0, 85, 191, 42, 182, 0, 89, 28, 172]
abbrev dktX2_ahead_2 : List UInt8 := dkwX2_ahead_2 ++ []
def dkwX2_ahead_1 : List UInt8 := [182, 0, 210, 61, 28, 2, 160, 0, 9, 42, 7, 182, 0, 85, 191, 28, 27, 160, 0, 9, 42, 8]
abbrev dktX2_ahead_1 : List UInt8 := dkwX2_ahead_1 ++ dktX2_ahead_2
def dkwX2_ahead_0 : List UInt8 := [42, 180, 0, 33, 4, 159, 0, 9, 42, 4, 182, 0, 85, 191, 42, 180, 0, 101, 42, 180, 0, 47]
abbrev dktX2_ahead_0 : List UInt8 := dkwX2_ahead_0 ++ dktX2_ahead_1
theorem dksX2_ahead_0 : cX2_ahead.data.toList.drop 0 = dktX2_ahead_0 := by decide +kernel
theorem dksX2_ahead_1 : cX2_ahead.data.toList.drop 22 = dktX2_ahead_1 := dk_seg dksX2_ahead_0 22 rfl rfl
theorem dksX2_ahead_2 : cX2_ahead.data.toList.drop 44 = dktX2_ahead_2 := dk_seg dksX2_ahead_1 22 rfl rfl
theorem dX2_ahead_0 : decode cX2_ahead 0 = .ok (.aload_n 0, 1) := dk_42 (dk_at dksX2_ahead_0 0 rfl rfl)
theorem dX2_ahead_1 : decode cX2_ahead 1 = .ok (.getfield 33, 3) := dk_180 0 33 (dk_at dksX2_ahead_0 1 rfl rfl)
theorem dX2_ahead_4 : decode cX2_ahead 4 = .ok (.iconst 1, 1) := dk_4 (dk_at dksX2_ahead_0 4 rfl rfl)
theorem dX2_ahead_5 : decode cX2_ahead 5 = .ok (.if_icmp .eq 9, 3) := dk_159 0 9 (dk_at dksX2_ahead_0 5 rfl rfl)
theorem dX2_ahead_8 : decode cX2_ahead 8 = .ok (.aload_n 0, 1) := dk_42 (dk_at dksX2_ahead_0 8 rfl rfl)
theorem dX2_ahead_9 : decode cX2_ahead 9 = .ok (.iconst 1, 1) := dk_4 (dk_at dksX2_ahead_0 9 rfl rfl)
theorem dX2_ahead_10 : decode cX2_ahead 10 = .ok (.invokevirtual 85, 3) := dk_182 0 85 (dk_at dksX2_ahead_0 10 rfl rfl)
theorem dX2_ahead_13 : decode cX2_ahead 13 = .ok (.athrow, 1) := dk_191 (dk_at dksX2_ahead_0 13 rfl rfl)
theorem dX2_ahead_14 : decode cX2_ahead 14 = .ok (.aload_n 0, 1) := dk_42 (dk_at dksX2_ahead_0 14 rfl rfl)
theorem dX2_ahead_15 : decode cX2_ahead 15 = .ok (.getfield 101, 3) := dk_180 0 101 (dk_at dksX2_ahead_0 15 rfl rfl)
theorem dX2_ahead_18 : decode cX2_ahead 18 = .ok (.aload_n 0, 1) := dk_42 (dk_at dksX2_ahead_0 18 rfl rfl)
theorem dX2_ahead_19 : decode cX2_ahead 19 = .ok (.getfield 47, 3) := dk_180 0 47 (dk_at dksX2_ahead_0 19 rfl rfl)
theorem dX2_ahead_22 : decode cX2_ahead 22 = .ok (.invokevirtual 210, 3) := dk_182 0 210 (dk_at dksX2_ahead_1 0 rfl rfl)
theorem dX2_ahead_25 : decode cX2_ahead 25 = .ok (.istore_n 2, 1) := dk_61 (dk_at dksX2_ahead_1 3 rfl rfl)
theorem dX2_ahead_26 : decode cX2_ahead 26 = .ok (.iload_n 2, 1) := dk_28 (dk_at dksX2_ahead_1 4 rfl rfl)
theorem dX2_ahead_27 : decode cX2_ahead 27 = .ok (.iconst (-1), 1) := dk_2 (dk_at dksX2_ahead_1 5 rfl rfl)
theorem dX2_ahead_28 : decode cX2_ahead 28 = .ok (.if_icmp .ne 9, 3) := dk_160 0 9 (dk_at dksX2_ahead_1 6 rfl rfl)
theorem dX2_ahead_31 : decode cX2_ahead 31 = .ok (.aload_n 0, 1) := dk_42 (dk_at dksX2_ahead_1 9 rfl rfl)
theorem dX2_ahead_32 : decode cX2_ahead 32 = .ok (.iconst 4, 1) := dk_7 (dk_at dksX2_ahead_1 10 rfl rfl)
theorem dX2_ahead_33 : decode cX2_ahead 33 = .ok (.invokevirtual 85, 3) := dk_182 0 85 (dk_at dksX2_ahead_1 11 rfl rfl)
theorem dX2_ahead_36 : decode cX2_ahead 36 = .ok (.athrow, 1) := dk_191 (dk_at dksX2_ahead_1 14 rfl rfl)
theorem dX2_ahead_37 : decode cX2_ahead 37 = .ok (.iload_n 2, 1) := dk_28 (dk_at dksX2_ahead_1 15 rfl rfl)
theorem dX2_ahead_38 : decode cX2_ahead 38 = .ok (.iload_n 1, 1) := dk_27 (dk_at dksX2_ahead_1 16 rfl rfl)
theorem dX2_ahead_39 : decode cX2_ahead 39 = .ok (.if_icmp .ne 9, 3) := dk_160 0 9 (dk_at dksX2_ahead_1 17 rfl rfl)
theorem dX2_ahead_42 : decode cX2_ahead 42 = .ok (.aload_n 0, 1) := dk_42 (dk_at dksX2_ahead_1 20 rfl rfl)
theorem dX2_ahead_43 : decode cX2_ahead 43 = .ok (.iconst 5, 1) := dk_8 (dk_at dksX2_ahead_1 21 rfl rfl)
theorem dX2_ahead_44 : decode cX2_ahead 44 = .ok (.invokevirtual 85, 3) := dk_182 0 85 (dk_at dksX2_ahead_2 0 rfl rfl)
theorem dX2_ahead_47 : decode cX2_ahead 47 = .ok (.athrow, 1) := dk_191 (dk_at dksX2_ahead_2 3 rfl rfl)
theorem dX2_ahead_48 : decode cX2_ahead 48 = .ok (.aload_n 0, 1) := dk_42 (dk_at dksX2_ahead_2 4 rfl rfl)
theorem dX2_ahead_49 : decode cX2_ahead 49 = .ok (.invokevirtual 89, 3) := dk_182 0 89 (dk_at dksX2_ahead_2 5 rfl rfl)
theorem dX2_ahead_52 : decode cX2_ahead 52 = .ok (.iload_n 2, 1) := dk_28 (dk_at dksX2_ahead_2 8 rfl rfl)
theorem dX2_ahead_53 : decode cX2_ahead 53 = .ok (.ireturn, 1) := dk_172 (dk_at dksX2_ahead_2 9 rfl rfl)
theorem gX2_ahead_0 {b : Nat} {v1 : Int32} {T : zT} {I : zI} {L : zL} {R : zR} {P : zP} (hx : zXok T R) (h : (((I 1008 3) = (1 : Int32) → (T (R 1008 7)).1 = 3 ∧ zMet mX3_find 4 0 [.ref (R 1008 7), .int (I 1008 4)] T I L R (zqI_ T I L R  (fun (r1 : Int32)  => ((r1 = (-1 : Int32) → ∃ b19, b19 ≤ (b - 0) ∧ zMet mX2_wrong 4 b19 [.ref 1008, .int (4 : Int32)] T I L R (zqR_TILR   (fun (r13 : Nat) (T14 : zT) (I15 : zI) (L16 : zL) (R17 : zR)  => zXok T14 R17 ∧ (T14 r13).1 = 14 ∧ P 1 (.ref r13) T14 I15 L16 R17))) ∧ (¬ r1 = (-1 : Int32) → ((r1 = v1 → ∃ b10, b10 ≤ (b - 0) ∧ zMet mX2_wrong 4 b10 [.ref 1008, .int (5 : Int32)] T I L R (zqR_TILR   (fun (r4 : Nat) (T5 : zT) (I6 : zI) (L7 : zL) (R8 : zR)  => zXok T5 R8 ∧ (T5 r4).1 = 14 ∧ P 1 (.ref r4) T5 I6 L7 R8))) ∧ (¬ r1 = v1 → zMet mX2_next 6 0 [.ref 1008] T I L R (zqV_I T L R  (fun (I3 : zI)  => P 0 (.int r1) T I3 L R))))))))) ∧ (¬ (I 1008 3) = (1 : Int32) → ∃ b28, b28 ≤ b ∧ zMet mX2_wrong 4 b28 [.ref 1008, .int (1 : Int32)] T I L R (zqR_TILR   (fun (r22 : Nat) (T23 : zT) (I24 : zI) (L25 : zL) (R26 : zR)  => zXok T23 R26 ∧ (T23 r22).1 = 14 ∧ P 1 (.ref r22) T23 I24 L25 R26))))) : zAW mX2_ahead 7 b 0 [(0, .ref 1008), (1, .int v1)] [] T I L R P := by
  refine za_aload_n (pc' := 1) 0 dX2_ahead_0 rfl rfl rfl ?_
  refine za_get (fi := 3) (v := .int (I 1008 3)) (pc' := 4) dX2_ahead_1 zc1 (by decide) in_X2 (by decide) q188 (Or.inl rfl) (congrArg Prod.fst (zX_t1008 hx)) rfl rfl ?_
  refine za_iconst (pc' := 5) dX2_ahead_4 zi_1 rfl ?_
  refine za_icmp_eq (pc' := 8) (tgt := 14) dX2_ahead_5 (by decide) rfl (fun c9 => ?_) (fun c9 => ?_)
  · replace h := h.1 c9
    refine za_aload_n (pc' := 15) 0 dX2_ahead_14 rfl rfl rfl ?_
    refine za_get (fi := 7) (v := .ref (R 1008 7)) (pc' := 18) dX2_ahead_15 zc1 (by decide) in_X2 (by decide) q192 (Or.inl rfl) (congrArg Prod.fst (zX_t1008 hx)) rfl rfl ?_
    refine za_aload_n (pc' := 19) 0 dX2_ahead_18 rfl rfl rfl ?_
    refine za_get (fi := 4) (v := .int (I 1008 4)) (pc' := 22) dX2_ahead_19 zc1 (by decide) in_X2 (by decide) q189 (Or.inl rfl) (congrArg Prod.fst (zX_t1008 hx)) rfl rfl ?_
    obtain ⟨ht2, h⟩ := h
    refine za_callV (κ := (R 1008 7)) (M2 := mX3_find) (d2 := 4) (b2 := 0) (n := 1) (As := [.int (I 1008 4)]) (st := []) (pc' := 25) zc2 (by decide) ht2 dX2_ahead_22 rfl (lw_V q841 q842 q843 q133 q844) ⟨rfl, hd_X3_find⟩ rfl (by decide) (by decide) (Nat.zero_le _) (Or.inl rfl) (Nat.le_of_ble_eq_true rfl) h (zqI__k rfl (fun r1 h => ?_)) (fun _ _ _ _ _ _ h9 h8 => absurd h8.1 h9) rfl
    refine za_istore_n (pc' := 26) (l' := [(2, .int r1), (0, .ref 1008), (1, .int v1)]) dX2_ahead_25 rfl (Nat.le_of_ble_eq_true rfl) rfl rfl ?_
    refine za_iload_n (pc' := 27) 0 dX2_ahead_26 rfl rfl rfl ?_
    refine za_iconst (pc' := 28) dX2_ahead_27 zi_m1 rfl ?_
    refine za_icmp_ne (pc' := 31) (tgt := 37) dX2_ahead_28 (by decide) rfl (fun c9 => ?_) (fun c9 => ?_)
    · replace h := h.2 c9
      refine za_iload_n (pc' := 38) 0 dX2_ahead_37 rfl rfl rfl ?_
      refine za_iload_n (pc' := 39) 2 dX2_ahead_38 rfl rfl rfl ?_
      refine za_icmp_ne (pc' := 42) (tgt := 48) dX2_ahead_39 (by decide) rfl (fun c9 => ?_) (fun c9 => ?_)
      · replace h := h.2 c9
        refine za_aload_n (pc' := 49) 1 dX2_ahead_48 rfl rfl rfl ?_
        refine za_callV (κ := 1008) (M2 := mX2_next) (d2 := 6) (b2 := 0) (n := 0) (As := []) (st := []) (pc' := 52) zc1 (by decide) (congrArg Prod.fst (zX_t1008 hx)) dX2_ahead_49 rfl (lw_V q597 q599 qs1 q132 q600) ⟨rfl, hd_X2_next⟩ rfl (by decide) (by decide) (Nat.zero_le _) (Or.inl rfl) (Nat.le_of_ble_eq_true rfl) h (zqV_I_k rfl (fun I3 h => ?_)) (fun _ _ _ _ _ _ h9 h8 => absurd h8.1 h9) rfl
        refine za_iload_n (pc' := 53) 0 dX2_ahead_52 rfl rfl rfl ?_
        exact za_ireturn rfl dX2_ahead_53 h
      · replace h := h.1 c9
        refine za_aload_n (pc' := 43) 1 dX2_ahead_42 rfl rfl rfl ?_
        refine za_iconst (pc' := 44) dX2_ahead_43 zi_5 rfl ?_
        obtain ⟨b10, hb11, h⟩ := h
        refine za_callV (κ := 1008) (M2 := mX2_wrong) (d2 := 4) (b2 := b10) (n := 1) (As := [.int (5 : Int32)]) (st := []) (pc' := 47) zc1 (by decide) (congrArg Prod.fst (zX_t1008 hx)) dX2_ahead_44 rfl (lw_V q739 q741 qs8 q132 q742) ⟨rfl, hd_X2_wrong⟩ rfl (by decide) (by decide) hb11 (Or.inl rfl) (Nat.le_of_ble_eq_true rfl) h (zqR_TILR_k rfl (fun r4 T5 I6 L7 R8 h => ?_)) (fun _ _ _ _ _ _ h9 h8 => absurd h8.1 h9) rfl
        obtain ⟨hx9, h⟩ := h
        obtain ⟨ht12, h⟩ := h
        exact za_athrow dX2_ahead_47 rfl (by decide) zc13 (by decide) ht12 rfl h
    · replace h := h.1 c9
      refine za_aload_n (pc' := 32) 1 dX2_ahead_31 rfl rfl rfl ?_
      refine za_iconst (pc' := 33) dX2_ahead_32 zi_4 rfl ?_
      obtain ⟨b19, hb20, h⟩ := h
      refine za_callV (κ := 1008) (M2 := mX2_wrong) (d2 := 4) (b2 := b19) (n := 1) (As := [.int (4 : Int32)]) (st := []) (pc' := 36) zc1 (by decide) (congrArg Prod.fst (zX_t1008 hx)) dX2_ahead_33 rfl (lw_V q739 q741 qs8 q132 q742) ⟨rfl, hd_X2_wrong⟩ rfl (by decide) (by decide) hb20 (Or.inl rfl) (Nat.le_of_ble_eq_true rfl) h (zqR_TILR_k rfl (fun r13 T14 I15 L16 R17 h => ?_)) (fun _ _ _ _ _ _ h9 h8 => absurd h8.1 h9) rfl
      obtain ⟨hx18, h⟩ := h
      obtain ⟨ht21, h⟩ := h
      exact za_athrow dX2_ahead_36 rfl (by decide) zc13 (by decide) ht21 rfl h
  · replace h := h.2 c9
    refine za_aload_n (pc' := 9) 0 dX2_ahead_8 rfl rfl rfl ?_
    refine za_iconst (pc' := 10) dX2_ahead_9 zi_1 rfl ?_
    obtain ⟨b28, hb29, h⟩ := h
    refine za_callV (κ := 1008) (M2 := mX2_wrong) (d2 := 4) (b2 := b28) (n := 1) (As := [.int (1 : Int32)]) (st := []) (pc' := 13) zc1 (by decide) (congrArg Prod.fst (zX_t1008 hx)) dX2_ahead_10 rfl (lw_V q739 q741 qs8 q132 q742) ⟨rfl, hd_X2_wrong⟩ rfl (by decide) (by decide) hb29 (Or.inl rfl) (Nat.le_of_ble_eq_true rfl) h (zqR_TILR_k rfl (fun r22 T23 I24 L25 R26 h => ?_)) (fun _ _ _ _ _ _ h9 h8 => absurd h8.1 h9) rfl
    obtain ⟨hx27, h⟩ := h
    obtain ⟨ht30, h⟩ := h
    exact za_athrow dX2_ahead_13 rfl (by decide) zc13 (by decide) ht30 rfl h
theorem sX2_ahead {d b : Nat} {v1 : Int32} {T : zT} {I : zI} {L : zL} {R : zR} {P : zP} (h : zAW mX2_ahead d b 0 [(0, .ref 1008), (1, .int v1)] [] T I L R P) : zMet mX2_ahead d b [.ref 1008, .int v1] T I L R P := zMet_of (by decide +kernel) rfl (Nat.le_of_ble_eq_true rfl) rfl h
/-! TwoTongues$Reader.weigh ()V -/
def dkwX2_weigh_3 : List UInt8 := [132, 4, 1, 167, 255, 223, 177]
abbrev dktX2_weigh_3 : List UInt8 := dkwX2_weigh_3 ++ []
def dkwX2_weigh_2 : List UInt8 := [180, 0, 101, 180, 0, 236, 42, 180, 0, 3, 180, 0, 22, 21, 4, 51, 16, 97, 100, 4, 96, 29, 79]
abbrev dktX2_weigh_2 : List UInt8 := dkwX2_weigh_2 ++ dktX2_weigh_3
def dkwX2_weigh_1 : List UInt8 := [42, 182, 0, 89, 42, 3, 16, 99, 182, 0, 176, 62, 27, 54, 4, 21, 4, 28, 162, 0, 33, 42]
abbrev dktX2_weigh_1 : List UInt8 := dkwX2_weigh_1 ++ dktX2_weigh_2
def dkwX2_weigh_0 : List UInt8 := [42, 180, 0, 33, 4, 159, 0, 9, 42, 4, 182, 0, 85, 191, 42, 180, 0, 30, 60, 42, 180, 0, 15, 61]
abbrev dktX2_weigh_0 : List UInt8 := dkwX2_weigh_0 ++ dktX2_weigh_1
theorem dksX2_weigh_0 : cX2_weigh.data.toList.drop 0 = dktX2_weigh_0 := by decide +kernel
theorem dksX2_weigh_1 : cX2_weigh.data.toList.drop 24 = dktX2_weigh_1 := dk_seg dksX2_weigh_0 24 rfl rfl
theorem dksX2_weigh_2 : cX2_weigh.data.toList.drop 46 = dktX2_weigh_2 := dk_seg dksX2_weigh_1 22 rfl rfl
theorem dksX2_weigh_3 : cX2_weigh.data.toList.drop 69 = dktX2_weigh_3 := dk_seg dksX2_weigh_2 23 rfl rfl
theorem dX2_weigh_0 : decode cX2_weigh 0 = .ok (.aload_n 0, 1) := dk_42 (dk_at dksX2_weigh_0 0 rfl rfl)
theorem dX2_weigh_1 : decode cX2_weigh 1 = .ok (.getfield 33, 3) := dk_180 0 33 (dk_at dksX2_weigh_0 1 rfl rfl)
theorem dX2_weigh_4 : decode cX2_weigh 4 = .ok (.iconst 1, 1) := dk_4 (dk_at dksX2_weigh_0 4 rfl rfl)
theorem dX2_weigh_5 : decode cX2_weigh 5 = .ok (.if_icmp .eq 9, 3) := dk_159 0 9 (dk_at dksX2_weigh_0 5 rfl rfl)
theorem dX2_weigh_8 : decode cX2_weigh 8 = .ok (.aload_n 0, 1) := dk_42 (dk_at dksX2_weigh_0 8 rfl rfl)
theorem dX2_weigh_9 : decode cX2_weigh 9 = .ok (.iconst 1, 1) := dk_4 (dk_at dksX2_weigh_0 9 rfl rfl)
theorem dX2_weigh_10 : decode cX2_weigh 10 = .ok (.invokevirtual 85, 3) := dk_182 0 85 (dk_at dksX2_weigh_0 10 rfl rfl)
theorem dX2_weigh_13 : decode cX2_weigh 13 = .ok (.athrow, 1) := dk_191 (dk_at dksX2_weigh_0 13 rfl rfl)
theorem dX2_weigh_14 : decode cX2_weigh 14 = .ok (.aload_n 0, 1) := dk_42 (dk_at dksX2_weigh_0 14 rfl rfl)
theorem dX2_weigh_15 : decode cX2_weigh 15 = .ok (.getfield 30, 3) := dk_180 0 30 (dk_at dksX2_weigh_0 15 rfl rfl)
theorem dX2_weigh_18 : decode cX2_weigh 18 = .ok (.istore_n 1, 1) := dk_60 (dk_at dksX2_weigh_0 18 rfl rfl)
theorem dX2_weigh_19 : decode cX2_weigh 19 = .ok (.aload_n 0, 1) := dk_42 (dk_at dksX2_weigh_0 19 rfl rfl)
theorem dX2_weigh_20 : decode cX2_weigh 20 = .ok (.getfield 15, 3) := dk_180 0 15 (dk_at dksX2_weigh_0 20 rfl rfl)
theorem dX2_weigh_23 : decode cX2_weigh 23 = .ok (.istore_n 2, 1) := dk_61 (dk_at dksX2_weigh_0 23 rfl rfl)
theorem dX2_weigh_24 : decode cX2_weigh 24 = .ok (.aload_n 0, 1) := dk_42 (dk_at dksX2_weigh_1 0 rfl rfl)
theorem dX2_weigh_25 : decode cX2_weigh 25 = .ok (.invokevirtual 89, 3) := dk_182 0 89 (dk_at dksX2_weigh_1 1 rfl rfl)
theorem dX2_weigh_28 : decode cX2_weigh 28 = .ok (.aload_n 0, 1) := dk_42 (dk_at dksX2_weigh_1 4 rfl rfl)
theorem dX2_weigh_29 : decode cX2_weigh 29 = .ok (.iconst 0, 1) := dk_3 (dk_at dksX2_weigh_1 5 rfl rfl)
theorem dX2_weigh_30 : decode cX2_weigh 30 = .ok (.bipush 99, 2) := dk_16 99 (dk_at dksX2_weigh_1 6 rfl rfl)
theorem dX2_weigh_32 : decode cX2_weigh 32 = .ok (.invokevirtual 176, 3) := dk_182 0 176 (dk_at dksX2_weigh_1 8 rfl rfl)
theorem dX2_weigh_35 : decode cX2_weigh 35 = .ok (.istore_n 3, 1) := dk_62 (dk_at dksX2_weigh_1 11 rfl rfl)
theorem dX2_weigh_36 : decode cX2_weigh 36 = .ok (.iload_n 1, 1) := dk_27 (dk_at dksX2_weigh_1 12 rfl rfl)
theorem dX2_weigh_37 : decode cX2_weigh 37 = .ok (.istore 4, 2) := dk_54 4 (dk_at dksX2_weigh_1 13 rfl rfl)
theorem dX2_weigh_39 : decode cX2_weigh 39 = .ok (.iload 4, 2) := dk_21 4 (dk_at dksX2_weigh_1 15 rfl rfl)
theorem dX2_weigh_41 : decode cX2_weigh 41 = .ok (.iload_n 2, 1) := dk_28 (dk_at dksX2_weigh_1 17 rfl rfl)
theorem dX2_weigh_42 : decode cX2_weigh 42 = .ok (.if_icmp .ge 33, 3) := dk_162 0 33 (dk_at dksX2_weigh_1 18 rfl rfl)
theorem dX2_weigh_45 : decode cX2_weigh 45 = .ok (.aload_n 0, 1) := dk_42 (dk_at dksX2_weigh_1 21 rfl rfl)
theorem dX2_weigh_46 : decode cX2_weigh 46 = .ok (.getfield 101, 3) := dk_180 0 101 (dk_at dksX2_weigh_2 0 rfl rfl)
theorem dX2_weigh_49 : decode cX2_weigh 49 = .ok (.getfield 236, 3) := dk_180 0 236 (dk_at dksX2_weigh_2 3 rfl rfl)
theorem dX2_weigh_52 : decode cX2_weigh 52 = .ok (.aload_n 0, 1) := dk_42 (dk_at dksX2_weigh_2 6 rfl rfl)
theorem dX2_weigh_53 : decode cX2_weigh 53 = .ok (.getfield 3, 3) := dk_180 0 3 (dk_at dksX2_weigh_2 7 rfl rfl)
theorem dX2_weigh_56 : decode cX2_weigh 56 = .ok (.getfield 22, 3) := dk_180 0 22 (dk_at dksX2_weigh_2 10 rfl rfl)
theorem dX2_weigh_59 : decode cX2_weigh 59 = .ok (.iload 4, 2) := dk_21 4 (dk_at dksX2_weigh_2 13 rfl rfl)
theorem dX2_weigh_61 : decode cX2_weigh 61 = .ok (.baload, 1) := dk_51 (dk_at dksX2_weigh_2 15 rfl rfl)
theorem dX2_weigh_62 : decode cX2_weigh 62 = .ok (.bipush 97, 2) := dk_16 97 (dk_at dksX2_weigh_2 16 rfl rfl)
theorem dX2_weigh_64 : decode cX2_weigh 64 = .ok (.isub, 1) := dk_100 (dk_at dksX2_weigh_2 18 rfl rfl)
theorem dX2_weigh_65 : decode cX2_weigh 65 = .ok (.iconst 1, 1) := dk_4 (dk_at dksX2_weigh_2 19 rfl rfl)
theorem dX2_weigh_66 : decode cX2_weigh 66 = .ok (.iadd, 1) := dk_96 (dk_at dksX2_weigh_2 20 rfl rfl)
theorem dX2_weigh_67 : decode cX2_weigh 67 = .ok (.iload_n 3, 1) := dk_29 (dk_at dksX2_weigh_2 21 rfl rfl)
theorem dX2_weigh_68 : decode cX2_weigh 68 = .ok (.iastore, 1) := dk_79 (dk_at dksX2_weigh_2 22 rfl rfl)
theorem dX2_weigh_69 : decode cX2_weigh 69 = .ok (.iinc 4 1, 3) := dk_132 4 1 (dk_at dksX2_weigh_3 0 rfl rfl)
theorem dX2_weigh_72 : decode cX2_weigh 72 = .ok (.goto (-33), 3) := dk_167 255 223 (dk_at dksX2_weigh_3 3 rfl rfl)
theorem dX2_weigh_75 : decode cX2_weigh 75 = .ok (.return_, 1) := dk_177 (dk_at dksX2_weigh_3 6 rfl rfl)
theorem gX2_weigh_0 {b : Nat}  {T : zT} {I : zI} {L : zL} {R : zR} {P : zP} (hx : zXok T R) (h : (((I 1008 3) = (1 : Int32) → zMet mX2_next 6 0 [.ref 1008] T I L R (zqV_I T L R  (fun (I1 : zI)  => ∃ b8, b8 ≤ (b - 0) ∧ zMet mX2_number 7 b8 [.ref 1008, .int (0 : Int32), .int (99 : Int32)] T I1 L R (zqI_TILRx  P (fun (r2 : Int32) (T3 : zT) (I4 : zI) (L5 : zL) (R6 : zR)  => zXok T3 R6 ∧ zAW mX2_weigh 8 ((b - 0) - b8) 39 [(0, .ref 1008), (2, .int (I 1008 0)), (3, .int r2), (4, .int (I 1008 2))] [] T3 I4 L5 R6 P))))) ∧ (¬ (I 1008 3) = (1 : Int32) → ∃ b16, b16 ≤ b ∧ zMet mX2_wrong 4 b16 [.ref 1008, .int (1 : Int32)] T I L R (zqR_TILR   (fun (r10 : Nat) (T11 : zT) (I12 : zI) (L13 : zL) (R14 : zR)  => zXok T11 R14 ∧ (T11 r10).1 = 14 ∧ P 1 (.ref r10) T11 I12 L13 R14))))) : zAW mX2_weigh 8 b 0 [(0, .ref 1008)] [] T I L R P := by
  refine za_aload_n (pc' := 1) 0 dX2_weigh_0 rfl rfl rfl ?_
  refine za_get (fi := 3) (v := .int (I 1008 3)) (pc' := 4) dX2_weigh_1 zc1 (by decide) in_X2 (by decide) q188 (Or.inl rfl) (congrArg Prod.fst (zX_t1008 hx)) rfl rfl ?_
  refine za_iconst (pc' := 5) dX2_weigh_4 zi_1 rfl ?_
  refine za_icmp_eq (pc' := 8) (tgt := 14) dX2_weigh_5 (by decide) rfl (fun c9 => ?_) (fun c9 => ?_)
  · replace h := h.1 c9
    refine za_aload_n (pc' := 15) 0 dX2_weigh_14 rfl rfl rfl ?_
    refine za_get (fi := 2) (v := .int (I 1008 2)) (pc' := 18) dX2_weigh_15 zc1 (by decide) in_X2 (by decide) q187 (Or.inl rfl) (congrArg Prod.fst (zX_t1008 hx)) rfl rfl ?_
    refine za_istore_n (pc' := 19) (l' := [(1, .int (I 1008 2)), (0, .ref 1008)]) dX2_weigh_18 rfl (Nat.le_of_ble_eq_true rfl) rfl rfl ?_
    refine za_aload_n (pc' := 20) 1 dX2_weigh_19 rfl rfl rfl ?_
    refine za_get (fi := 0) (v := .int (I 1008 0)) (pc' := 23) dX2_weigh_20 zc1 (by decide) in_X2 (by decide) q185 (Or.inl rfl) (congrArg Prod.fst (zX_t1008 hx)) rfl rfl ?_
    refine za_istore_n (pc' := 24) (l' := [(2, .int (I 1008 0)), (1, .int (I 1008 2)), (0, .ref 1008)]) dX2_weigh_23 rfl (Nat.le_of_ble_eq_true rfl) rfl rfl ?_
    refine za_aload_n (pc' := 25) 2 dX2_weigh_24 rfl rfl rfl ?_
    refine za_callV (κ := 1008) (M2 := mX2_next) (d2 := 6) (b2 := 0) (n := 0) (As := []) (st := []) (pc' := 28) zc1 (by decide) (congrArg Prod.fst (zX_t1008 hx)) dX2_weigh_25 rfl (lw_V q597 q599 qs1 q132 q600) ⟨rfl, hd_X2_next⟩ rfl (by decide) (by decide) (Nat.zero_le _) (Or.inl rfl) (Nat.le_of_ble_eq_true rfl) h (zqV_I_k rfl (fun I1 h => ?_)) (fun _ _ _ _ _ _ h9 h8 => absurd h8.1 h9) rfl
    refine za_aload_n (pc' := 29) 2 dX2_weigh_28 rfl rfl rfl ?_
    refine za_iconst (pc' := 30) dX2_weigh_29 zi_0 rfl ?_
    refine za_bipush (pc' := 32) dX2_weigh_30 zb8_99 rfl ?_
    obtain ⟨b8, hb9, h⟩ := h
    refine za_callV (κ := 1008) (M2 := mX2_number) (d2 := 7) (b2 := b8) (n := 2) (As := [.int (0 : Int32), .int (99 : Int32)]) (st := []) (pc' := 35) zc1 (by decide) (congrArg Prod.fst (zX_t1008 hx)) dX2_weigh_32 rfl (lw_V q829 q831 qs12 q132 q832) ⟨rfl, hd_X2_number⟩ rfl (by decide) (by decide) hb9 (Or.inl rfl) (Nat.le_of_ble_eq_true rfl) h (zqI_TILRx_k rfl (fun r2 T3 I4 L5 R6 h => ?_)) (fun _ _ _ _ _ _ h9 h8 => h8.2 h9) rfl
    obtain ⟨hx7, h⟩ := h
    refine za_istore_n (pc' := 36) (l' := [(3, .int r2), (2, .int (I 1008 0)), (1, .int (I 1008 2)), (0, .ref 1008)]) dX2_weigh_35 rfl (Nat.le_of_ble_eq_true rfl) rfl rfl ?_
    refine za_iload_n (pc' := 37) 2 dX2_weigh_36 rfl rfl rfl ?_
    refine za_istore (pc' := 39) (l' := [(4, .int (I 1008 2)), (3, .int r2), (2, .int (I 1008 0)), (1, .int (I 1008 2)), (0, .ref 1008)]) dX2_weigh_37 (Nat.le_of_ble_eq_true rfl) rfl rfl ?_
    exact zAW_sub [4, 2, 1, 0] rfl h
  · replace h := h.2 c9
    refine za_aload_n (pc' := 9) 0 dX2_weigh_8 rfl rfl rfl ?_
    refine za_iconst (pc' := 10) dX2_weigh_9 zi_1 rfl ?_
    obtain ⟨b16, hb17, h⟩ := h
    refine za_callV (κ := 1008) (M2 := mX2_wrong) (d2 := 4) (b2 := b16) (n := 1) (As := [.int (1 : Int32)]) (st := []) (pc' := 13) zc1 (by decide) (congrArg Prod.fst (zX_t1008 hx)) dX2_weigh_10 rfl (lw_V q739 q741 qs8 q132 q742) ⟨rfl, hd_X2_wrong⟩ rfl (by decide) (by decide) hb17 (Or.inl rfl) (Nat.le_of_ble_eq_true rfl) h (zqR_TILR_k rfl (fun r10 T11 I12 L13 R14 h => ?_)) (fun _ _ _ _ _ _ h9 h8 => absurd h8.1 h9) rfl
    obtain ⟨hx15, h⟩ := h
    obtain ⟨ht18, h⟩ := h
    exact za_athrow dX2_weigh_13 rfl (by decide) zc13 (by decide) ht18 rfl h
theorem gX2_weigh_39 {b : Nat} {v2 : Int32} {v3 : Int32} {v4 : Int32} {T : zT} {I : zI} {L : zL} {R : zR} {P : zP} (hx : zXok T R) (h : ((v2 ≤ v4 → P 0 (.int 0) T I L R) ∧ (¬ v2 ≤ v4 → (T (R 1008 7)).1 = 3 ∧ vp_in v4 800 ∧ (T (R (R 1008 7) 8)).1 = 100 ∧ vp_in (((I 1001 (v4.toNatClampNeg)) - (97 : Int32)) + (1 : Int32)) ((T (R (R 1008 7) 8)).2) ∧ zAW mX2_weigh 8 b 39 [(0, .ref 1008), (2, .int v2), (3, .int v3), (4, .int (v4 + (1 : Int32)))] [] T (z2 I (R (R 1008 7) 8) ((((I 1001 (v4.toNatClampNeg)) - (97 : Int32)) + (1 : Int32)).toNatClampNeg) v3) L R P))) : zAW mX2_weigh 8 b 39 [(0, .ref 1008), (2, .int v2), (3, .int v3), (4, .int v4)] [] T I L R P := by
  refine za_iload (pc' := 41) 3 dX2_weigh_39 rfl rfl ?_
  refine za_iload_n (pc' := 42) 1 dX2_weigh_41 rfl rfl rfl ?_
  refine za_icmp_ge (pc' := 45) (tgt := 75) dX2_weigh_42 (by decide) rfl (fun c9 => ?_) (fun c9 => ?_)
  · replace h := h.1 c9
    exact za_return rfl dX2_weigh_75 h
  · replace h := h.2 c9
    refine za_aload_n (pc' := 46) 0 dX2_weigh_45 rfl rfl rfl ?_
    refine za_get (fi := 7) (v := .ref (R 1008 7)) (pc' := 49) dX2_weigh_46 zc1 (by decide) in_X2 (by decide) q192 (Or.inl rfl) (congrArg Prod.fst (zX_t1008 hx)) rfl rfl ?_
    obtain ⟨ht19, h⟩ := h
    refine za_getN (fi := 8) (v := .ref (R (R 1008 7) 8)) (pc' := 52) dX2_weigh_49 zc2 (by decide) in_X3 (by decide) q296 (Or.inl rfl) ht19 rfl rfl ?_
    refine za_aload_n (pc' := 53) 0 dX2_weigh_52 rfl rfl rfl ?_
    refine za_get (fi := 8) (v := .ref 1000) (pc' := 56) dX2_weigh_53 zc1 (by decide) in_X2 (by decide) q193 (Or.inl rfl) (congrArg Prod.fst (zX_t1008 hx)) (congrArg Value.ref (zX_r1008_8 hx)) rfl ?_
    refine za_getN (fi := 0) (v := .ref 1001) (pc' := 59) dX2_weigh_56 zc0 (by decide) in_X1 (by decide) q488 (Or.inl rfl) (congrArg Prod.fst (zX_t1000 hx)) (congrArg Value.ref (zX_r1000_0 hx)) rfl ?_
    refine za_iload (pc' := 61) 3 dX2_weigh_59 rfl rfl ?_
    obtain ⟨hi20, h⟩ := h
    refine za_bald (v := .int (I 1001 (v4.toNatClampNeg))) (pc' := 62) dX2_weigh_61 (zX_t1001 hx) hi20 rfl rfl ?_
    refine za_bipush (pc' := 64) dX2_weigh_62 zb8_97 rfl ?_
    refine za_isub (pc' := 65) dX2_weigh_64 rfl ?_
    refine za_iconst (pc' := 66) dX2_weigh_65 zi_1 rfl ?_
    refine za_iadd (pc' := 67) dX2_weigh_66 rfl ?_
    refine za_iload_n (pc' := 68) 2 dX2_weigh_67 rfl rfl rfl ?_
    obtain ⟨ht21, h⟩ := h
    obtain ⟨hi22, h⟩ := h
    refine za_iast (k := (((I 1001 (v4.toNatClampNeg)) - (97 : Int32)) + (1 : Int32)).toNatClampNeg) (pc' := 69) dX2_weigh_68 (zpair ht21) hi22 rfl rfl ?_
    refine za_iinc (pc' := 72) (l' := [(4, .int (v4 + (1 : Int32))), (0, .ref 1008), (2, .int v2), (3, .int v3)]) 3 dX2_weigh_69 rfl (zinc zi_1) (Nat.le_of_ble_eq_true rfl) rfl rfl ?_
    refine za_goto (tgt := 39) dX2_weigh_72 (by decide) ?_
    exact zAW_sub [1, 2, 3, 0] rfl h
theorem sX2_weigh {d b : Nat}  {T : zT} {I : zI} {L : zL} {R : zR} {P : zP} (h : zAW mX2_weigh d b 0 [(0, .ref 1008)] [] T I L R P) : zMet mX2_weigh d b [.ref 1008] T I L R P := zMet_of (by decide +kernel) rfl (Nat.le_of_ble_eq_true rfl) rfl h
/-! TwoTongues$Reader.feast ()V -/
def dkwX2_feast_4 : List UInt8 := [182, 0, 89, 177]
abbrev dktX2_feast_4 : List UInt8 := dkwX2_feast_4 ++ []
def dkwX2_feast_3 : List UInt8 := [180, 0, 131, 42, 180, 0, 47, 79, 42, 180, 0, 101, 89, 180, 0, 131, 4, 96, 181, 0, 131, 42]
abbrev dktX2_feast_3 : List UInt8 := dkwX2_feast_3 ++ dktX2_feast_4
def dkwX2_feast_2 : List UInt8 := [180, 0, 241, 42, 180, 0, 101, 180, 0, 131, 27, 79, 42, 180, 0, 101, 180, 0, 244, 42, 180, 0, 101]
abbrev dktX2_feast_2 : List UInt8 := dkwX2_feast_2 ++ dktX2_feast_3
def dkwX2_feast_1 : List UInt8 := [180, 0, 101, 42, 180, 0, 47, 27, 182, 0, 238, 153, 0, 9, 42, 6, 182, 0, 85, 191, 42, 180, 0, 101]
abbrev dktX2_feast_1 : List UInt8 := dkwX2_feast_1 ++ dktX2_feast_2
def dkwX2_feast_0 : List UInt8 := [42, 3, 16, 99, 182, 0, 176, 60, 42, 3, 4, 182, 0, 137, 154, 0, 9, 42, 4, 182, 0, 85, 191, 42]
abbrev dktX2_feast_0 : List UInt8 := dkwX2_feast_0 ++ dktX2_feast_1
theorem dksX2_feast_0 : cX2_feast.data.toList.drop 0 = dktX2_feast_0 := by decide +kernel
theorem dksX2_feast_1 : cX2_feast.data.toList.drop 24 = dktX2_feast_1 := dk_seg dksX2_feast_0 24 rfl rfl
theorem dksX2_feast_2 : cX2_feast.data.toList.drop 48 = dktX2_feast_2 := dk_seg dksX2_feast_1 24 rfl rfl
theorem dksX2_feast_3 : cX2_feast.data.toList.drop 71 = dktX2_feast_3 := dk_seg dksX2_feast_2 23 rfl rfl
theorem dksX2_feast_4 : cX2_feast.data.toList.drop 93 = dktX2_feast_4 := dk_seg dksX2_feast_3 22 rfl rfl
theorem dX2_feast_0 : decode cX2_feast 0 = .ok (.aload_n 0, 1) := dk_42 (dk_at dksX2_feast_0 0 rfl rfl)
theorem dX2_feast_1 : decode cX2_feast 1 = .ok (.iconst 0, 1) := dk_3 (dk_at dksX2_feast_0 1 rfl rfl)
theorem dX2_feast_2 : decode cX2_feast 2 = .ok (.bipush 99, 2) := dk_16 99 (dk_at dksX2_feast_0 2 rfl rfl)
theorem dX2_feast_4 : decode cX2_feast 4 = .ok (.invokevirtual 176, 3) := dk_182 0 176 (dk_at dksX2_feast_0 4 rfl rfl)
theorem dX2_feast_7 : decode cX2_feast 7 = .ok (.istore_n 1, 1) := dk_60 (dk_at dksX2_feast_0 7 rfl rfl)
theorem dX2_feast_8 : decode cX2_feast 8 = .ok (.aload_n 0, 1) := dk_42 (dk_at dksX2_feast_0 8 rfl rfl)
theorem dX2_feast_9 : decode cX2_feast 9 = .ok (.iconst 0, 1) := dk_3 (dk_at dksX2_feast_0 9 rfl rfl)
theorem dX2_feast_10 : decode cX2_feast 10 = .ok (.iconst 1, 1) := dk_4 (dk_at dksX2_feast_0 10 rfl rfl)
theorem dX2_feast_11 : decode cX2_feast 11 = .ok (.invokevirtual 137, 3) := dk_182 0 137 (dk_at dksX2_feast_0 11 rfl rfl)
theorem dX2_feast_14 : decode cX2_feast 14 = .ok (.ifCond .ne 9, 3) := dk_154 0 9 (dk_at dksX2_feast_0 14 rfl rfl)
theorem dX2_feast_17 : decode cX2_feast 17 = .ok (.aload_n 0, 1) := dk_42 (dk_at dksX2_feast_0 17 rfl rfl)
theorem dX2_feast_18 : decode cX2_feast 18 = .ok (.iconst 1, 1) := dk_4 (dk_at dksX2_feast_0 18 rfl rfl)
theorem dX2_feast_19 : decode cX2_feast 19 = .ok (.invokevirtual 85, 3) := dk_182 0 85 (dk_at dksX2_feast_0 19 rfl rfl)
theorem dX2_feast_22 : decode cX2_feast 22 = .ok (.athrow, 1) := dk_191 (dk_at dksX2_feast_0 22 rfl rfl)
theorem dX2_feast_23 : decode cX2_feast 23 = .ok (.aload_n 0, 1) := dk_42 (dk_at dksX2_feast_0 23 rfl rfl)
theorem dX2_feast_24 : decode cX2_feast 24 = .ok (.getfield 101, 3) := dk_180 0 101 (dk_at dksX2_feast_1 0 rfl rfl)
theorem dX2_feast_27 : decode cX2_feast 27 = .ok (.aload_n 0, 1) := dk_42 (dk_at dksX2_feast_1 3 rfl rfl)
theorem dX2_feast_28 : decode cX2_feast 28 = .ok (.getfield 47, 3) := dk_180 0 47 (dk_at dksX2_feast_1 4 rfl rfl)
theorem dX2_feast_31 : decode cX2_feast 31 = .ok (.iload_n 1, 1) := dk_27 (dk_at dksX2_feast_1 7 rfl rfl)
theorem dX2_feast_32 : decode cX2_feast 32 = .ok (.invokevirtual 238, 3) := dk_182 0 238 (dk_at dksX2_feast_1 8 rfl rfl)
theorem dX2_feast_35 : decode cX2_feast 35 = .ok (.ifCond .eq 9, 3) := dk_153 0 9 (dk_at dksX2_feast_1 11 rfl rfl)
theorem dX2_feast_38 : decode cX2_feast 38 = .ok (.aload_n 0, 1) := dk_42 (dk_at dksX2_feast_1 14 rfl rfl)
theorem dX2_feast_39 : decode cX2_feast 39 = .ok (.iconst 3, 1) := dk_6 (dk_at dksX2_feast_1 15 rfl rfl)
theorem dX2_feast_40 : decode cX2_feast 40 = .ok (.invokevirtual 85, 3) := dk_182 0 85 (dk_at dksX2_feast_1 16 rfl rfl)
theorem dX2_feast_43 : decode cX2_feast 43 = .ok (.athrow, 1) := dk_191 (dk_at dksX2_feast_1 19 rfl rfl)
theorem dX2_feast_44 : decode cX2_feast 44 = .ok (.aload_n 0, 1) := dk_42 (dk_at dksX2_feast_1 20 rfl rfl)
theorem dX2_feast_45 : decode cX2_feast 45 = .ok (.getfield 101, 3) := dk_180 0 101 (dk_at dksX2_feast_1 21 rfl rfl)
theorem dX2_feast_48 : decode cX2_feast 48 = .ok (.getfield 241, 3) := dk_180 0 241 (dk_at dksX2_feast_2 0 rfl rfl)
theorem dX2_feast_51 : decode cX2_feast 51 = .ok (.aload_n 0, 1) := dk_42 (dk_at dksX2_feast_2 3 rfl rfl)
theorem dX2_feast_52 : decode cX2_feast 52 = .ok (.getfield 101, 3) := dk_180 0 101 (dk_at dksX2_feast_2 4 rfl rfl)
theorem dX2_feast_55 : decode cX2_feast 55 = .ok (.getfield 131, 3) := dk_180 0 131 (dk_at dksX2_feast_2 7 rfl rfl)
theorem dX2_feast_58 : decode cX2_feast 58 = .ok (.iload_n 1, 1) := dk_27 (dk_at dksX2_feast_2 10 rfl rfl)
theorem dX2_feast_59 : decode cX2_feast 59 = .ok (.iastore, 1) := dk_79 (dk_at dksX2_feast_2 11 rfl rfl)
theorem dX2_feast_60 : decode cX2_feast 60 = .ok (.aload_n 0, 1) := dk_42 (dk_at dksX2_feast_2 12 rfl rfl)
theorem dX2_feast_61 : decode cX2_feast 61 = .ok (.getfield 101, 3) := dk_180 0 101 (dk_at dksX2_feast_2 13 rfl rfl)
theorem dX2_feast_64 : decode cX2_feast 64 = .ok (.getfield 244, 3) := dk_180 0 244 (dk_at dksX2_feast_2 16 rfl rfl)
theorem dX2_feast_67 : decode cX2_feast 67 = .ok (.aload_n 0, 1) := dk_42 (dk_at dksX2_feast_2 19 rfl rfl)
theorem dX2_feast_68 : decode cX2_feast 68 = .ok (.getfield 101, 3) := dk_180 0 101 (dk_at dksX2_feast_2 20 rfl rfl)
theorem dX2_feast_71 : decode cX2_feast 71 = .ok (.getfield 131, 3) := dk_180 0 131 (dk_at dksX2_feast_3 0 rfl rfl)
theorem dX2_feast_74 : decode cX2_feast 74 = .ok (.aload_n 0, 1) := dk_42 (dk_at dksX2_feast_3 3 rfl rfl)
theorem dX2_feast_75 : decode cX2_feast 75 = .ok (.getfield 47, 3) := dk_180 0 47 (dk_at dksX2_feast_3 4 rfl rfl)
theorem dX2_feast_78 : decode cX2_feast 78 = .ok (.iastore, 1) := dk_79 (dk_at dksX2_feast_3 7 rfl rfl)
theorem dX2_feast_79 : decode cX2_feast 79 = .ok (.aload_n 0, 1) := dk_42 (dk_at dksX2_feast_3 8 rfl rfl)
theorem dX2_feast_80 : decode cX2_feast 80 = .ok (.getfield 101, 3) := dk_180 0 101 (dk_at dksX2_feast_3 9 rfl rfl)
theorem dX2_feast_83 : decode cX2_feast 83 = .ok (.dup, 1) := dk_89 (dk_at dksX2_feast_3 12 rfl rfl)
theorem dX2_feast_84 : decode cX2_feast 84 = .ok (.getfield 131, 3) := dk_180 0 131 (dk_at dksX2_feast_3 13 rfl rfl)
theorem dX2_feast_87 : decode cX2_feast 87 = .ok (.iconst 1, 1) := dk_4 (dk_at dksX2_feast_3 16 rfl rfl)
theorem dX2_feast_88 : decode cX2_feast 88 = .ok (.iadd, 1) := dk_96 (dk_at dksX2_feast_3 17 rfl rfl)
theorem dX2_feast_89 : decode cX2_feast 89 = .ok (.putfield 131, 3) := dk_181 0 131 (dk_at dksX2_feast_3 18 rfl rfl)
theorem dX2_feast_92 : decode cX2_feast 92 = .ok (.aload_n 0, 1) := dk_42 (dk_at dksX2_feast_3 21 rfl rfl)
theorem dX2_feast_93 : decode cX2_feast 93 = .ok (.invokevirtual 89, 3) := dk_182 0 89 (dk_at dksX2_feast_4 0 rfl rfl)
theorem dX2_feast_96 : decode cX2_feast 96 = .ok (.return_, 1) := dk_177 (dk_at dksX2_feast_4 3 rfl rfl)
theorem gX2_feast_0 {b : Nat}  {T : zT} {I : zI} {L : zL} {R : zR} {P : zP} (hx : zXok T R) (h : ∃ b7, b7 ≤ b ∧ zMet mX2_number 7 b7 [.ref 1008, .int (0 : Int32), .int (99 : Int32)] T I L R (zqI_TILRx  P (fun (r1 : Int32) (T2 : zT) (I3 : zI) (L4 : zL) (R5 : zR)  => zXok T2 R5 ∧ zMet mX2_isWord 2 0 [.ref 1008, .int (0 : Int32), .int (1 : Int32)] T2 I3 L4 R5 (zqI_ T2 I3 L4 R5  (fun (r9 : Int32)  => ((r9 = 0 → ∃ b31, b31 ≤ ((b - b7) - 0) ∧ zMet mX2_wrong 4 b31 [.ref 1008, .int (1 : Int32)] T2 I3 L4 R5 (zqR_TILR   (fun (r25 : Nat) (T26 : zT) (I27 : zI) (L28 : zL) (R29 : zR)  => zXok T26 R29 ∧ (T26 r25).1 = 14 ∧ P 1 (.ref r25) T26 I27 L28 R29))) ∧ (¬ r9 = 0 → (T2 (R5 1008 7)).1 = 3 ∧ zMet mX3_isCovered 1 0 [.ref (R5 1008 7), .int (I3 1008 4), .int r1] T2 I3 L4 R5 (zqI_ T2 I3 L4 R5  (fun (r10 : Int32)  => ((r10 = 0 → (T2 (R5 (R5 1008 7) 9)).1 = 100 ∧ vp_in (I3 (R5 1008 7) 13) ((T2 (R5 (R5 1008 7) 9)).2) ∧ (T2 (R5 (R5 1008 7) 10)).1 = 100 ∧ vp_in ((z2 I3 (R5 (R5 1008 7) 9) ((I3 (R5 1008 7) 13).toNatClampNeg) r1) (R5 1008 7) 13) ((T2 (R5 (R5 1008 7) 10)).2) ∧ zAW mX2_feast 8 (((b - b7) - 0) - 0) 92 [(0, .ref 1008)] [] T2 (z2 (z2 (z2 I3 (R5 (R5 1008 7) 9) ((I3 (R5 1008 7) 13).toNatClampNeg) r1) (R5 (R5 1008 7) 10) (((z2 I3 (R5 (R5 1008 7) 9) ((I3 (R5 1008 7) 13).toNatClampNeg) r1) (R5 1008 7) 13).toNatClampNeg) ((z2 I3 (R5 (R5 1008 7) 9) ((I3 (R5 1008 7) 13).toNatClampNeg) r1) 1008 4)) (R5 1008 7) 13 (((z2 (z2 I3 (R5 (R5 1008 7) 9) ((I3 (R5 1008 7) 13).toNatClampNeg) r1) (R5 (R5 1008 7) 10) (((z2 I3 (R5 (R5 1008 7) 9) ((I3 (R5 1008 7) 13).toNatClampNeg) r1) (R5 1008 7) 13).toNatClampNeg) ((z2 I3 (R5 (R5 1008 7) 9) ((I3 (R5 1008 7) 13).toNatClampNeg) r1) 1008 4)) (R5 1008 7) 13) + (1 : Int32))) L4 R5 P) ∧ (¬ r10 = 0 → ∃ b22, b22 ≤ (((b - b7) - 0) - 0) ∧ zMet mX2_wrong 4 b22 [.ref 1008, .int (3 : Int32)] T2 I3 L4 R5 (zqR_TILR   (fun (r16 : Nat) (T17 : zT) (I18 : zI) (L19 : zL) (R20 : zR)  => zXok T17 R20 ∧ (T17 r16).1 = 14 ∧ P 1 (.ref r16) T17 I18 L19 R20))))))))))))) : zAW mX2_feast 8 b 0 [(0, .ref 1008)] [] T I L R P := by
  refine za_aload_n (pc' := 1) 0 dX2_feast_0 rfl rfl rfl ?_
  refine za_iconst (pc' := 2) dX2_feast_1 zi_0 rfl ?_
  refine za_bipush (pc' := 4) dX2_feast_2 zb8_99 rfl ?_
  obtain ⟨b7, hb8, h⟩ := h
  refine za_callV (κ := 1008) (M2 := mX2_number) (d2 := 7) (b2 := b7) (n := 2) (As := [.int (0 : Int32), .int (99 : Int32)]) (st := []) (pc' := 7) zc1 (by decide) (congrArg Prod.fst (zX_t1008 hx)) dX2_feast_4 rfl (lw_V q829 q831 qs12 q132 q832) ⟨rfl, hd_X2_number⟩ rfl (by decide) (by decide) hb8 (Or.inl rfl) (Nat.le_of_ble_eq_true rfl) h (zqI_TILRx_k rfl (fun r1 T2 I3 L4 R5 h => ?_)) (fun _ _ _ _ _ _ h9 h8 => h8.2 h9) rfl
  obtain ⟨hx6, h⟩ := h
  refine za_istore_n (pc' := 8) (l' := [(1, .int r1), (0, .ref 1008)]) dX2_feast_7 rfl (Nat.le_of_ble_eq_true rfl) rfl rfl ?_
  refine za_aload_n (pc' := 9) 1 dX2_feast_8 rfl rfl rfl ?_
  refine za_iconst (pc' := 10) dX2_feast_9 zi_0 rfl ?_
  refine za_iconst (pc' := 11) dX2_feast_10 zi_1 rfl ?_
  refine za_callV (κ := 1008) (M2 := mX2_isWord) (d2 := 2) (b2 := 0) (n := 2) (As := [.int (0 : Int32), .int (1 : Int32)]) (st := []) (pc' := 14) zc1 (by decide) (congrArg Prod.fst (zX_t1008 hx6)) dX2_feast_11 rfl (lw_V q735 q737 qs7 q132 q738) ⟨rfl, hd_X2_isWord⟩ rfl (by decide) (by decide) (Nat.zero_le _) (Or.inl rfl) (Nat.le_of_ble_eq_true rfl) h (zqI__k rfl (fun r9 h => ?_)) (fun _ _ _ _ _ _ h9 h8 => absurd h8.1 h9) rfl
  refine za_if_ne (pc' := 17) (tgt := 23) dX2_feast_14 (by decide) rfl (fun c9 => ?_) (fun c9 => ?_)
  · replace h := h.2 c9
    refine za_aload_n (pc' := 24) 1 dX2_feast_23 rfl rfl rfl ?_
    refine za_get (fi := 7) (v := .ref (R5 1008 7)) (pc' := 27) dX2_feast_24 zc1 (by decide) in_X2 (by decide) q192 (Or.inl rfl) (congrArg Prod.fst (zX_t1008 hx6)) rfl rfl ?_
    refine za_aload_n (pc' := 28) 1 dX2_feast_27 rfl rfl rfl ?_
    refine za_get (fi := 4) (v := .int (I3 1008 4)) (pc' := 31) dX2_feast_28 zc1 (by decide) in_X2 (by decide) q189 (Or.inl rfl) (congrArg Prod.fst (zX_t1008 hx6)) rfl rfl ?_
    refine za_iload_n (pc' := 32) 0 dX2_feast_31 rfl rfl rfl ?_
    obtain ⟨ht11, h⟩ := h
    refine za_callV (κ := (R5 1008 7)) (M2 := mX3_isCovered) (d2 := 1) (b2 := 0) (n := 2) (As := [.int (I3 1008 4), .int r1]) (st := []) (pc' := 35) zc2 (by decide) ht11 dX2_feast_32 rfl (lw_V q957 q958 q959 q133 q960) ⟨rfl, hd_X3_isCovered⟩ rfl (by decide) (by decide) (Nat.zero_le _) (Or.inl rfl) (Nat.le_of_ble_eq_true rfl) h (zqI__k rfl (fun r10 h => ?_)) (fun _ _ _ _ _ _ h9 h8 => absurd h8.1 h9) rfl
    refine za_if_eq (pc' := 38) (tgt := 44) dX2_feast_35 (by decide) rfl (fun c9 => ?_) (fun c9 => ?_)
    · replace h := h.1 c9
      refine za_aload_n (pc' := 45) 1 dX2_feast_44 rfl rfl rfl ?_
      refine za_get (fi := 7) (v := .ref (R5 1008 7)) (pc' := 48) dX2_feast_45 zc1 (by decide) in_X2 (by decide) q192 (Or.inl rfl) (congrArg Prod.fst (zX_t1008 hx6)) rfl rfl ?_
      refine za_getN (fi := 9) (v := .ref (R5 (R5 1008 7) 9)) (pc' := 51) dX2_feast_48 zc2 (by decide) in_X3 (by decide) q299 (Or.inl rfl) ht11 rfl rfl ?_
      refine za_aload_n (pc' := 52) 1 dX2_feast_51 rfl rfl rfl ?_
      refine za_get (fi := 7) (v := .ref (R5 1008 7)) (pc' := 55) dX2_feast_52 zc1 (by decide) in_X2 (by decide) q192 (Or.inl rfl) (congrArg Prod.fst (zX_t1008 hx6)) rfl rfl ?_
      refine za_getN (fi := 13) (v := .int (I3 (R5 1008 7) 13)) (pc' := 58) dX2_feast_55 zc2 (by decide) in_X3 (by decide) q307 (Or.inl rfl) ht11 rfl rfl ?_
      refine za_iload_n (pc' := 59) 0 dX2_feast_58 rfl rfl rfl ?_
      obtain ⟨ht12, h⟩ := h
      obtain ⟨hi13, h⟩ := h
      refine za_iast (k := (I3 (R5 1008 7) 13).toNatClampNeg) (pc' := 60) dX2_feast_59 (zpair ht12) hi13 rfl rfl ?_
      refine za_aload_n (pc' := 61) 1 dX2_feast_60 rfl rfl rfl ?_
      refine za_get (fi := 7) (v := .ref (R5 1008 7)) (pc' := 64) dX2_feast_61 zc1 (by decide) in_X2 (by decide) q192 (Or.inl rfl) (congrArg Prod.fst (zX_t1008 hx6)) rfl rfl ?_
      refine za_getN (fi := 10) (v := .ref (R5 (R5 1008 7) 10)) (pc' := 67) dX2_feast_64 zc2 (by decide) in_X3 (by decide) q301 (Or.inl rfl) ht11 rfl rfl ?_
      refine za_aload_n (pc' := 68) 1 dX2_feast_67 rfl rfl rfl ?_
      refine za_get (fi := 7) (v := .ref (R5 1008 7)) (pc' := 71) dX2_feast_68 zc1 (by decide) in_X2 (by decide) q192 (Or.inl rfl) (congrArg Prod.fst (zX_t1008 hx6)) rfl rfl ?_
      refine za_getN (fi := 13) (v := .int ((z2 I3 (R5 (R5 1008 7) 9) ((I3 (R5 1008 7) 13).toNatClampNeg) r1) (R5 1008 7) 13)) (pc' := 74) dX2_feast_71 zc2 (by decide) in_X3 (by decide) q307 (Or.inl rfl) ht11 rfl rfl ?_
      refine za_aload_n (pc' := 75) 1 dX2_feast_74 rfl rfl rfl ?_
      refine za_get (fi := 4) (v := .int ((z2 I3 (R5 (R5 1008 7) 9) ((I3 (R5 1008 7) 13).toNatClampNeg) r1) 1008 4)) (pc' := 78) dX2_feast_75 zc1 (by decide) in_X2 (by decide) q189 (Or.inl rfl) (congrArg Prod.fst (zX_t1008 hx6)) rfl rfl ?_
      obtain ⟨ht14, h⟩ := h
      obtain ⟨hi15, h⟩ := h
      refine za_iast (k := ((z2 I3 (R5 (R5 1008 7) 9) ((I3 (R5 1008 7) 13).toNatClampNeg) r1) (R5 1008 7) 13).toNatClampNeg) (pc' := 79) dX2_feast_78 (zpair ht14) hi15 rfl rfl ?_
      refine za_aload_n (pc' := 80) 1 dX2_feast_79 rfl rfl rfl ?_
      refine za_get (fi := 7) (v := .ref (R5 1008 7)) (pc' := 83) dX2_feast_80 zc1 (by decide) in_X2 (by decide) q192 (Or.inl rfl) (congrArg Prod.fst (zX_t1008 hx6)) rfl rfl ?_
      refine za_dup (pc' := 84) dX2_feast_83 rfl rfl ?_
      refine za_getN (fi := 13) (v := .int ((z2 (z2 I3 (R5 (R5 1008 7) 9) ((I3 (R5 1008 7) 13).toNatClampNeg) r1) (R5 (R5 1008 7) 10) (((z2 I3 (R5 (R5 1008 7) 9) ((I3 (R5 1008 7) 13).toNatClampNeg) r1) (R5 1008 7) 13).toNatClampNeg) ((z2 I3 (R5 (R5 1008 7) 9) ((I3 (R5 1008 7) 13).toNatClampNeg) r1) 1008 4)) (R5 1008 7) 13)) (pc' := 87) dX2_feast_84 zc2 (by decide) in_X3 (by decide) q307 (Or.inl rfl) ht11 rfl rfl ?_
      refine za_iconst (pc' := 88) dX2_feast_87 zi_1 rfl ?_
      refine za_iadd (pc' := 89) dX2_feast_88 rfl ?_
      refine za_putNI (fi := 13) (pc' := 92) dX2_feast_89 zc2 (by decide) in_X3 zok2 znm2 (by decide) q307 (Or.inl rfl) rfl rfl (fun _ _ _ => rfl) rfl rfl ht11 rfl ?_
      exact zAW_sub [1] rfl h
    · replace h := h.2 c9
      refine za_aload_n (pc' := 39) 1 dX2_feast_38 rfl rfl rfl ?_
      refine za_iconst (pc' := 40) dX2_feast_39 zi_3 rfl ?_
      obtain ⟨b22, hb23, h⟩ := h
      refine za_callV (κ := 1008) (M2 := mX2_wrong) (d2 := 4) (b2 := b22) (n := 1) (As := [.int (3 : Int32)]) (st := []) (pc' := 43) zc1 (by decide) (congrArg Prod.fst (zX_t1008 hx6)) dX2_feast_40 rfl (lw_V q739 q741 qs8 q132 q742) ⟨rfl, hd_X2_wrong⟩ rfl (by decide) (by decide) hb23 (Or.inl rfl) (Nat.le_of_ble_eq_true rfl) h (zqR_TILR_k rfl (fun r16 T17 I18 L19 R20 h => ?_)) (fun _ _ _ _ _ _ h9 h8 => absurd h8.1 h9) rfl
      obtain ⟨hx21, h⟩ := h
      obtain ⟨ht24, h⟩ := h
      exact za_athrow dX2_feast_43 rfl (by decide) zc13 (by decide) ht24 rfl h
  · replace h := h.1 c9
    refine za_aload_n (pc' := 18) 1 dX2_feast_17 rfl rfl rfl ?_
    refine za_iconst (pc' := 19) dX2_feast_18 zi_1 rfl ?_
    obtain ⟨b31, hb32, h⟩ := h
    refine za_callV (κ := 1008) (M2 := mX2_wrong) (d2 := 4) (b2 := b31) (n := 1) (As := [.int (1 : Int32)]) (st := []) (pc' := 22) zc1 (by decide) (congrArg Prod.fst (zX_t1008 hx6)) dX2_feast_19 rfl (lw_V q739 q741 qs8 q132 q742) ⟨rfl, hd_X2_wrong⟩ rfl (by decide) (by decide) hb32 (Or.inl rfl) (Nat.le_of_ble_eq_true rfl) h (zqR_TILR_k rfl (fun r25 T26 I27 L28 R29 h => ?_)) (fun _ _ _ _ _ _ h9 h8 => absurd h8.1 h9) rfl
    obtain ⟨hx30, h⟩ := h
    obtain ⟨ht33, h⟩ := h
    exact za_athrow dX2_feast_22 rfl (by decide) zc13 (by decide) ht33 rfl h
theorem gX2_feast_92 {b : Nat}  {T : zT} {I : zI} {L : zL} {R : zR} {P : zP} (hx : zXok T R) (h : zMet mX2_next 6 0 [.ref 1008] T I L R (zqV_I T L R  (fun (I34 : zI)  => P 0 (.int 0) T I34 L R))) : zAW mX2_feast 8 b 92 [(0, .ref 1008)] [] T I L R P := by
  refine za_aload_n (pc' := 93) 0 dX2_feast_92 rfl rfl rfl ?_
  refine za_callV (κ := 1008) (M2 := mX2_next) (d2 := 6) (b2 := 0) (n := 0) (As := []) (st := []) (pc' := 96) zc1 (by decide) (congrArg Prod.fst (zX_t1008 hx)) dX2_feast_93 rfl (lw_V q597 q599 qs1 q132 q600) ⟨rfl, hd_X2_next⟩ rfl (by decide) (by decide) (Nat.zero_le _) (Or.inl rfl) (Nat.le_of_ble_eq_true rfl) h (zqV_I_k rfl (fun I34 h => ?_)) (fun _ _ _ _ _ _ h9 h8 => absurd h8.1 h9) rfl
  exact za_return rfl dX2_feast_96 h
theorem sX2_feast {d b : Nat}  {T : zT} {I : zI} {L : zL} {R : zR} {P : zP} (h : zAW mX2_feast d b 0 [(0, .ref 1008)] [] T I L R P) : zMet mX2_feast d b [.ref 1008] T I L R P := zMet_of (by decide +kernel) rfl (Nat.le_of_ble_eq_true rfl) rfl h
/-! TwoTongues$Reader.or ()LTwoTongues$Part; -/
def dkwX2_or_1 : List UInt8 := [89, 28, 43, 42, 182, 0, 250, 183, 1, 2, 76, 167, 255, 226, 43, 176]
abbrev dktX2_or_1 : List UInt8 := dkwX2_or_1 ++ []
def dkwX2_or_0 : List UInt8 := [42, 182, 0, 250, 76, 42, 16, 15, 16, 15, 182, 0, 137, 153, 0, 25, 42, 182, 0, 253, 61, 187, 1, 0]
abbrev dktX2_or_0 : List UInt8 := dkwX2_or_0 ++ dktX2_or_1
theorem dksX2_or_0 : cX2_or.data.toList.drop 0 = dktX2_or_0 := by decide +kernel
theorem dksX2_or_1 : cX2_or.data.toList.drop 24 = dktX2_or_1 := dk_seg dksX2_or_0 24 rfl rfl
theorem dX2_or_0 : decode cX2_or 0 = .ok (.aload_n 0, 1) := dk_42 (dk_at dksX2_or_0 0 rfl rfl)
theorem dX2_or_1 : decode cX2_or 1 = .ok (.invokevirtual 250, 3) := dk_182 0 250 (dk_at dksX2_or_0 1 rfl rfl)
theorem dX2_or_4 : decode cX2_or 4 = .ok (.astore_n 1, 1) := dk_76 (dk_at dksX2_or_0 4 rfl rfl)
theorem dX2_or_5 : decode cX2_or 5 = .ok (.aload_n 0, 1) := dk_42 (dk_at dksX2_or_0 5 rfl rfl)
theorem dX2_or_6 : decode cX2_or 6 = .ok (.bipush 15, 2) := dk_16 15 (dk_at dksX2_or_0 6 rfl rfl)
theorem dX2_or_8 : decode cX2_or 8 = .ok (.bipush 15, 2) := dk_16 15 (dk_at dksX2_or_0 8 rfl rfl)
theorem dX2_or_10 : decode cX2_or 10 = .ok (.invokevirtual 137, 3) := dk_182 0 137 (dk_at dksX2_or_0 10 rfl rfl)
theorem dX2_or_13 : decode cX2_or 13 = .ok (.ifCond .eq 25, 3) := dk_153 0 25 (dk_at dksX2_or_0 13 rfl rfl)
theorem dX2_or_16 : decode cX2_or 16 = .ok (.aload_n 0, 1) := dk_42 (dk_at dksX2_or_0 16 rfl rfl)
theorem dX2_or_17 : decode cX2_or 17 = .ok (.invokevirtual 253, 3) := dk_182 0 253 (dk_at dksX2_or_0 17 rfl rfl)
theorem dX2_or_20 : decode cX2_or 20 = .ok (.istore_n 2, 1) := dk_61 (dk_at dksX2_or_0 20 rfl rfl)
theorem dX2_or_21 : decode cX2_or 21 = .ok (.new 256, 3) := dk_187 1 0 (dk_at dksX2_or_0 21 rfl rfl)
theorem dX2_or_24 : decode cX2_or 24 = .ok (.dup, 1) := dk_89 (dk_at dksX2_or_1 0 rfl rfl)
theorem dX2_or_25 : decode cX2_or 25 = .ok (.iload_n 2, 1) := dk_28 (dk_at dksX2_or_1 1 rfl rfl)
theorem dX2_or_26 : decode cX2_or 26 = .ok (.aload_n 1, 1) := dk_43 (dk_at dksX2_or_1 2 rfl rfl)
theorem dX2_or_27 : decode cX2_or 27 = .ok (.aload_n 0, 1) := dk_42 (dk_at dksX2_or_1 3 rfl rfl)
theorem dX2_or_28 : decode cX2_or 28 = .ok (.invokevirtual 250, 3) := dk_182 0 250 (dk_at dksX2_or_1 4 rfl rfl)
theorem dX2_or_31 : decode cX2_or 31 = .ok (.invokespecial 258, 3) := dk_183 1 2 (dk_at dksX2_or_1 7 rfl rfl)
theorem dX2_or_34 : decode cX2_or 34 = .ok (.astore_n 1, 1) := dk_76 (dk_at dksX2_or_1 10 rfl rfl)
theorem dX2_or_35 : decode cX2_or 35 = .ok (.goto (-30), 3) := dk_167 255 226 (dk_at dksX2_or_1 11 rfl rfl)
theorem dX2_or_38 : decode cX2_or 38 = .ok (.aload_n 1, 1) := dk_43 (dk_at dksX2_or_1 14 rfl rfl)
theorem dX2_or_39 : decode cX2_or 39 = .ok (.areturn, 1) := dk_176 (dk_at dksX2_or_1 15 rfl rfl)
theorem gX2_or_0 {d : Nat} {b : Nat}  {T : zT} {I : zI} {L : zL} {R : zR} {P : zP} (hx : zXok T R) (h : ∃ d7, d7 < d ∧ ∃ b9, b9 ≤ b ∧ zMet mX2_and d7 b9 [.ref 1008] T I L R (zqR_TILRx  P (fun (r1 : Nat) (T2 : zT) (I3 : zI) (L4 : zL) (R5 : zR)  => zXok T2 R5 ∧ zAW mX2_or d (b - b9) 5 [(0, .ref 1008), (1, .ref r1)] [] T2 I3 L4 R5 P))) : zAW mX2_or d b 0 [(0, .ref 1008)] [] T I L R P := by
  refine za_aload_n (pc' := 1) 0 dX2_or_0 rfl rfl rfl ?_
  obtain ⟨d7, hd8, h⟩ := h
  obtain ⟨b9, hb10, h⟩ := h
  refine za_callV (κ := 1008) (M2 := mX2_and) (d2 := d7) (b2 := b9) (n := 0) (As := []) (st := []) (pc' := 4) zc1 (by decide) (congrArg Prod.fst (zX_t1008 hx)) dX2_or_1 rfl (lw_V q967 q969 qs23 q132 q970) ⟨rfl, hd_X2_and⟩ rfl (by decide) hd8 hb10 (Or.inl rfl) (Nat.le_of_ble_eq_true rfl) h (zqR_TILRx_k rfl (fun r1 T2 I3 L4 R5 h => ?_)) (fun _ _ _ _ _ _ h9 h8 => h8.2 h9) rfl
  obtain ⟨hx6, h⟩ := h
  refine za_astore_n (pc' := 5) (l' := [(1, .ref r1), (0, .ref 1008)]) dX2_or_4 rfl (Nat.le_of_ble_eq_true rfl) rfl rfl ?_
  exact zAW_sub [1, 0] rfl h
theorem gX2_or_5 {d : Nat} {b : Nat} {v1 : Nat} {T : zT} {I : zI} {L : zL} {R : zR} {P : zP} (hx : zXok T R) (h : 2 < d ∧ zMet mX2_isWord 2 0 [.ref 1008, .int (15 : Int32), .int (15 : Int32)] T I L R (zqI_ T I L R  (fun (r11 : Int32)  => ((r11 = 0 → P 0 (.ref v1) T I L R) ∧ (¬ r11 = 0 → 7 < d ∧ ∃ b20, b20 ≤ (b - 0) ∧ zMet mX2_knot 7 b20 [.ref 1008] T I L R (zqI_TILRx  P (fun (r13 : Int32) (T14 : zT) (I15 : zI) (L16 : zL) (R17 : zR)  => zXok T14 R17 ∧ ∃ κ22, 100 ≤ κ22 ∧ (T14 κ22).1 = 0 ∧ 3 + 1 ≤ ((b - 0) - b20) ∧ ∃ d32, d32 < d ∧ ∃ b34, b34 ≤ (((b - 0) - b20) - (3 + 1)) ∧ zMet mX2_and d32 b34 [.ref 1008] (z1 T14 κ22 (19, 0)) (z1 I15 κ22 fun _ => 0) (z1 L16 κ22 fun _ => 0) (z1 R17 κ22 fun _ => 0) (zqR_TILRx  P (fun (r26 : Nat) (T27 : zT) (I28 : zI) (L29 : zL) (R30 : zR)  => zXok T27 R30 ∧ (T27 κ22).1 = 19 ∧ 3 < d ∧ zMet mX20_init 3 0 [.ref κ22, .int r13, .ref v1, .ref r26] T27 I28 L29 R30 (zqV_IR T27 L29  (fun (I36 : zI) (R37 : zR)  => zXok T27 R37 ∧ zAW mX2_or d (((((b - 0) - b20) - (3 + 1)) - b34) - 0) 5 [(0, .ref 1008), (1, .ref κ22)] [] T27 I36 L29 R37 P))))))))))) : zAW mX2_or d b 5 [(0, .ref 1008), (1, .ref v1)] [] T I L R P := by
  refine za_aload_n (pc' := 6) 0 dX2_or_5 rfl rfl rfl ?_
  refine za_bipush (pc' := 8) dX2_or_6 zb8_15 rfl ?_
  refine za_bipush (pc' := 10) dX2_or_8 zb8_15 rfl ?_
  obtain ⟨hd12, h⟩ := h
  refine za_callV (κ := 1008) (M2 := mX2_isWord) (d2 := 2) (b2 := 0) (n := 2) (As := [.int (15 : Int32), .int (15 : Int32)]) (st := []) (pc' := 13) zc1 (by decide) (congrArg Prod.fst (zX_t1008 hx)) dX2_or_10 rfl (lw_V q735 q737 qs7 q132 q738) ⟨rfl, hd_X2_isWord⟩ rfl (by decide) hd12 (Nat.zero_le _) (Or.inl rfl) (Nat.le_of_ble_eq_true rfl) h (zqI__k rfl (fun r11 h => ?_)) (fun _ _ _ _ _ _ h9 h8 => absurd h8.1 h9) rfl
  refine za_if_eq (pc' := 16) (tgt := 38) dX2_or_13 (by decide) rfl (fun c9 => ?_) (fun c9 => ?_)
  · replace h := h.1 c9
    refine za_aload_n (pc' := 39) 1 dX2_or_38 rfl rfl rfl ?_
    exact za_areturn rfl dX2_or_39 (Or.inl ⟨_, rfl⟩) h
  · replace h := h.2 c9
    refine za_aload_n (pc' := 17) 0 dX2_or_16 rfl rfl rfl ?_
    obtain ⟨hd19, h⟩ := h
    obtain ⟨b20, hb21, h⟩ := h
    refine za_callV (κ := 1008) (M2 := mX2_knot) (d2 := 7) (b2 := b20) (n := 0) (As := []) (st := []) (pc' := 20) zc1 (by decide) (congrArg Prod.fst (zX_t1008 hx)) dX2_or_17 rfl (lw_V q997 q999 qs30 q132 q1000) ⟨rfl, hd_X2_knot⟩ rfl (by decide) hd19 hb21 (Or.inl rfl) (Nat.le_of_ble_eq_true rfl) h (zqI_TILRx_k rfl (fun r13 T14 I15 L16 R17 h => ?_)) (fun _ _ _ _ _ _ h9 h8 => h8.2 h9) rfl
    obtain ⟨hx18, h⟩ := h
    refine za_istore_n (pc' := 21) (l' := [(2, .int r13), (0, .ref 1008), (1, .ref v1)]) dX2_or_20 rfl (Nat.le_of_ble_eq_true rfl) rfl rfl ?_
    obtain ⟨κ22, hk23, hf24, hb25, h⟩ := h
    refine za_new (κ := κ22) (pc' := 24) dX2_or_21 zc18 (by decide) in_X20 zok18 zdf18 q1022 q1023 q165 hk23 hf24 hb25 rfl ?_
    refine za_dup (pc' := 25) dX2_or_24 rfl rfl ?_
    refine za_iload_n (pc' := 26) 0 dX2_or_25 rfl rfl rfl ?_
    refine za_aload_n (pc' := 27) 2 dX2_or_26 rfl rfl rfl ?_
    refine za_aload_n (pc' := 28) 1 dX2_or_27 rfl rfl rfl ?_
    obtain ⟨d32, hd33, h⟩ := h
    obtain ⟨b34, hb35, h⟩ := h
    refine za_callV (κ := 1008) (M2 := mX2_and) (d2 := d32) (b2 := b34) (n := 0) (As := []) (st := [.ref v1, .int r13, .ref κ22, .ref κ22]) (pc' := 31) zc1 (by decide) (congrArg Prod.fst (z1_tp hf24 (zX_t1008 hx18) (by decide))) dX2_or_28 rfl (lw_V q967 q969 qs23 q132 q970) ⟨rfl, hd_X2_and⟩ rfl (by decide) hd33 hb35 (Or.inl rfl) (Nat.le_of_ble_eq_true rfl) h (zqR_TILRx_k rfl (fun r26 T27 I28 L29 R30 h => ?_)) (fun _ _ _ _ _ _ h9 h8 => h8.2 h9) rfl
    obtain ⟨hx31, h⟩ := h
    obtain ⟨ht40, h⟩ := h
    obtain ⟨hd39, h⟩ := h
    refine za_callI (κ := κ22) (M2 := mX20_init) (d2 := 3) (b2 := 0) (n := 3) (As := [.int r13, .ref v1, .ref r26]) (st := [.ref κ22]) (pc' := 34) (by rw [ht40]; decide) dX2_or_31 rfl (lw_meth q1026) rfl q1024 q1025 q165 rfl hd_X20_init rfl (by decide) hd39 (Nat.zero_le _) (Or.inl rfl) (Nat.le_of_ble_eq_true rfl) h (zqV_IR_k rfl (fun I36 R37 h => ?_)) (fun _ _ _ _ _ _ h9 h8 => absurd h8.1 h9) rfl
    obtain ⟨hx38, h⟩ := h
    refine za_astore_n (pc' := 35) (l' := [(1, .ref κ22), (2, .int r13), (0, .ref 1008)]) dX2_or_34 rfl (Nat.le_of_ble_eq_true rfl) rfl rfl ?_
    refine za_goto (tgt := 5) dX2_or_35 (by decide) ?_
    exact zAW_sub [2, 0] rfl h
theorem sX2_or {d b : Nat}  {T : zT} {I : zI} {L : zL} {R : zR} {P : zP} (h : zAW mX2_or d b 0 [(0, .ref 1008)] [] T I L R P) : zMet mX2_or d b [.ref 1008] T I L R P := zMet_of (by decide +kernel) rfl (Nat.le_of_ble_eq_true rfl) rfl h
/-! TwoTongues$Reader.and ()LTwoTongues$Part; -/
def dkwX2_and_1 : List UInt8 := [89, 28, 43, 42, 182, 1, 5, 183, 1, 2, 76, 167, 255, 226, 43, 176]
abbrev dktX2_and_1 : List UInt8 := dkwX2_and_1 ++ []
def dkwX2_and_0 : List UInt8 := [42, 182, 1, 5, 76, 42, 16, 16, 16, 16, 182, 0, 137, 153, 0, 25, 42, 182, 0, 253, 61, 187, 1, 0]
abbrev dktX2_and_0 : List UInt8 := dkwX2_and_0 ++ dktX2_and_1
theorem dksX2_and_0 : cX2_and.data.toList.drop 0 = dktX2_and_0 := by decide +kernel
theorem dksX2_and_1 : cX2_and.data.toList.drop 24 = dktX2_and_1 := dk_seg dksX2_and_0 24 rfl rfl
theorem dX2_and_0 : decode cX2_and 0 = .ok (.aload_n 0, 1) := dk_42 (dk_at dksX2_and_0 0 rfl rfl)
theorem dX2_and_1 : decode cX2_and 1 = .ok (.invokevirtual 261, 3) := dk_182 1 5 (dk_at dksX2_and_0 1 rfl rfl)
theorem dX2_and_4 : decode cX2_and 4 = .ok (.astore_n 1, 1) := dk_76 (dk_at dksX2_and_0 4 rfl rfl)
theorem dX2_and_5 : decode cX2_and 5 = .ok (.aload_n 0, 1) := dk_42 (dk_at dksX2_and_0 5 rfl rfl)
theorem dX2_and_6 : decode cX2_and 6 = .ok (.bipush 16, 2) := dk_16 16 (dk_at dksX2_and_0 6 rfl rfl)
theorem dX2_and_8 : decode cX2_and 8 = .ok (.bipush 16, 2) := dk_16 16 (dk_at dksX2_and_0 8 rfl rfl)
theorem dX2_and_10 : decode cX2_and 10 = .ok (.invokevirtual 137, 3) := dk_182 0 137 (dk_at dksX2_and_0 10 rfl rfl)
theorem dX2_and_13 : decode cX2_and 13 = .ok (.ifCond .eq 25, 3) := dk_153 0 25 (dk_at dksX2_and_0 13 rfl rfl)
theorem dX2_and_16 : decode cX2_and 16 = .ok (.aload_n 0, 1) := dk_42 (dk_at dksX2_and_0 16 rfl rfl)
theorem dX2_and_17 : decode cX2_and 17 = .ok (.invokevirtual 253, 3) := dk_182 0 253 (dk_at dksX2_and_0 17 rfl rfl)
theorem dX2_and_20 : decode cX2_and 20 = .ok (.istore_n 2, 1) := dk_61 (dk_at dksX2_and_0 20 rfl rfl)
theorem dX2_and_21 : decode cX2_and 21 = .ok (.new 256, 3) := dk_187 1 0 (dk_at dksX2_and_0 21 rfl rfl)
theorem dX2_and_24 : decode cX2_and 24 = .ok (.dup, 1) := dk_89 (dk_at dksX2_and_1 0 rfl rfl)
theorem dX2_and_25 : decode cX2_and 25 = .ok (.iload_n 2, 1) := dk_28 (dk_at dksX2_and_1 1 rfl rfl)
theorem dX2_and_26 : decode cX2_and 26 = .ok (.aload_n 1, 1) := dk_43 (dk_at dksX2_and_1 2 rfl rfl)
theorem dX2_and_27 : decode cX2_and 27 = .ok (.aload_n 0, 1) := dk_42 (dk_at dksX2_and_1 3 rfl rfl)
theorem dX2_and_28 : decode cX2_and 28 = .ok (.invokevirtual 261, 3) := dk_182 1 5 (dk_at dksX2_and_1 4 rfl rfl)
theorem dX2_and_31 : decode cX2_and 31 = .ok (.invokespecial 258, 3) := dk_183 1 2 (dk_at dksX2_and_1 7 rfl rfl)
theorem dX2_and_34 : decode cX2_and 34 = .ok (.astore_n 1, 1) := dk_76 (dk_at dksX2_and_1 10 rfl rfl)
theorem dX2_and_35 : decode cX2_and 35 = .ok (.goto (-30), 3) := dk_167 255 226 (dk_at dksX2_and_1 11 rfl rfl)
theorem dX2_and_38 : decode cX2_and 38 = .ok (.aload_n 1, 1) := dk_43 (dk_at dksX2_and_1 14 rfl rfl)
theorem dX2_and_39 : decode cX2_and 39 = .ok (.areturn, 1) := dk_176 (dk_at dksX2_and_1 15 rfl rfl)
theorem gX2_and_0 {d : Nat} {b : Nat}  {T : zT} {I : zI} {L : zL} {R : zR} {P : zP} (hx : zXok T R) (h : ∃ d7, d7 < d ∧ ∃ b9, b9 ≤ b ∧ zMet mX2_not d7 b9 [.ref 1008] T I L R (zqR_TILRx  P (fun (r1 : Nat) (T2 : zT) (I3 : zI) (L4 : zL) (R5 : zR)  => zXok T2 R5 ∧ zAW mX2_and d (b - b9) 5 [(0, .ref 1008), (1, .ref r1)] [] T2 I3 L4 R5 P))) : zAW mX2_and d b 0 [(0, .ref 1008)] [] T I L R P := by
  refine za_aload_n (pc' := 1) 0 dX2_and_0 rfl rfl rfl ?_
  obtain ⟨d7, hd8, h⟩ := h
  obtain ⟨b9, hb10, h⟩ := h
  refine za_callV (κ := 1008) (M2 := mX2_not) (d2 := d7) (b2 := b9) (n := 0) (As := []) (st := []) (pc' := 4) zc1 (by decide) (congrArg Prod.fst (zX_t1008 hx)) dX2_and_1 rfl (lw_V q971 q973 qs24 q132 q974) ⟨rfl, hd_X2_not⟩ rfl (by decide) hd8 hb10 (Or.inl rfl) (Nat.le_of_ble_eq_true rfl) h (zqR_TILRx_k rfl (fun r1 T2 I3 L4 R5 h => ?_)) (fun _ _ _ _ _ _ h9 h8 => h8.2 h9) rfl
  obtain ⟨hx6, h⟩ := h
  refine za_astore_n (pc' := 5) (l' := [(1, .ref r1), (0, .ref 1008)]) dX2_and_4 rfl (Nat.le_of_ble_eq_true rfl) rfl rfl ?_
  exact zAW_sub [1, 0] rfl h
theorem gX2_and_5 {d : Nat} {b : Nat} {v1 : Nat} {T : zT} {I : zI} {L : zL} {R : zR} {P : zP} (hx : zXok T R) (h : 2 < d ∧ zMet mX2_isWord 2 0 [.ref 1008, .int (16 : Int32), .int (16 : Int32)] T I L R (zqI_ T I L R  (fun (r11 : Int32)  => ((r11 = 0 → P 0 (.ref v1) T I L R) ∧ (¬ r11 = 0 → 7 < d ∧ ∃ b20, b20 ≤ (b - 0) ∧ zMet mX2_knot 7 b20 [.ref 1008] T I L R (zqI_TILRx  P (fun (r13 : Int32) (T14 : zT) (I15 : zI) (L16 : zL) (R17 : zR)  => zXok T14 R17 ∧ ∃ κ22, 100 ≤ κ22 ∧ (T14 κ22).1 = 0 ∧ 3 + 1 ≤ ((b - 0) - b20) ∧ ∃ d32, d32 < d ∧ ∃ b34, b34 ≤ (((b - 0) - b20) - (3 + 1)) ∧ zMet mX2_not d32 b34 [.ref 1008] (z1 T14 κ22 (19, 0)) (z1 I15 κ22 fun _ => 0) (z1 L16 κ22 fun _ => 0) (z1 R17 κ22 fun _ => 0) (zqR_TILRx  P (fun (r26 : Nat) (T27 : zT) (I28 : zI) (L29 : zL) (R30 : zR)  => zXok T27 R30 ∧ (T27 κ22).1 = 19 ∧ 3 < d ∧ zMet mX20_init 3 0 [.ref κ22, .int r13, .ref v1, .ref r26] T27 I28 L29 R30 (zqV_IR T27 L29  (fun (I36 : zI) (R37 : zR)  => zXok T27 R37 ∧ zAW mX2_and d (((((b - 0) - b20) - (3 + 1)) - b34) - 0) 5 [(0, .ref 1008), (1, .ref κ22)] [] T27 I36 L29 R37 P))))))))))) : zAW mX2_and d b 5 [(0, .ref 1008), (1, .ref v1)] [] T I L R P := by
  refine za_aload_n (pc' := 6) 0 dX2_and_5 rfl rfl rfl ?_
  refine za_bipush (pc' := 8) dX2_and_6 zb8_16 rfl ?_
  refine za_bipush (pc' := 10) dX2_and_8 zb8_16 rfl ?_
  obtain ⟨hd12, h⟩ := h
  refine za_callV (κ := 1008) (M2 := mX2_isWord) (d2 := 2) (b2 := 0) (n := 2) (As := [.int (16 : Int32), .int (16 : Int32)]) (st := []) (pc' := 13) zc1 (by decide) (congrArg Prod.fst (zX_t1008 hx)) dX2_and_10 rfl (lw_V q735 q737 qs7 q132 q738) ⟨rfl, hd_X2_isWord⟩ rfl (by decide) hd12 (Nat.zero_le _) (Or.inl rfl) (Nat.le_of_ble_eq_true rfl) h (zqI__k rfl (fun r11 h => ?_)) (fun _ _ _ _ _ _ h9 h8 => absurd h8.1 h9) rfl
  refine za_if_eq (pc' := 16) (tgt := 38) dX2_and_13 (by decide) rfl (fun c9 => ?_) (fun c9 => ?_)
  · replace h := h.1 c9
    refine za_aload_n (pc' := 39) 1 dX2_and_38 rfl rfl rfl ?_
    exact za_areturn rfl dX2_and_39 (Or.inl ⟨_, rfl⟩) h
  · replace h := h.2 c9
    refine za_aload_n (pc' := 17) 0 dX2_and_16 rfl rfl rfl ?_
    obtain ⟨hd19, h⟩ := h
    obtain ⟨b20, hb21, h⟩ := h
    refine za_callV (κ := 1008) (M2 := mX2_knot) (d2 := 7) (b2 := b20) (n := 0) (As := []) (st := []) (pc' := 20) zc1 (by decide) (congrArg Prod.fst (zX_t1008 hx)) dX2_and_17 rfl (lw_V q997 q999 qs30 q132 q1000) ⟨rfl, hd_X2_knot⟩ rfl (by decide) hd19 hb21 (Or.inl rfl) (Nat.le_of_ble_eq_true rfl) h (zqI_TILRx_k rfl (fun r13 T14 I15 L16 R17 h => ?_)) (fun _ _ _ _ _ _ h9 h8 => h8.2 h9) rfl
    obtain ⟨hx18, h⟩ := h
    refine za_istore_n (pc' := 21) (l' := [(2, .int r13), (0, .ref 1008), (1, .ref v1)]) dX2_and_20 rfl (Nat.le_of_ble_eq_true rfl) rfl rfl ?_
    obtain ⟨κ22, hk23, hf24, hb25, h⟩ := h
    refine za_new (κ := κ22) (pc' := 24) dX2_and_21 zc18 (by decide) in_X20 zok18 zdf18 q1022 q1023 q165 hk23 hf24 hb25 rfl ?_
    refine za_dup (pc' := 25) dX2_and_24 rfl rfl ?_
    refine za_iload_n (pc' := 26) 0 dX2_and_25 rfl rfl rfl ?_
    refine za_aload_n (pc' := 27) 2 dX2_and_26 rfl rfl rfl ?_
    refine za_aload_n (pc' := 28) 1 dX2_and_27 rfl rfl rfl ?_
    obtain ⟨d32, hd33, h⟩ := h
    obtain ⟨b34, hb35, h⟩ := h
    refine za_callV (κ := 1008) (M2 := mX2_not) (d2 := d32) (b2 := b34) (n := 0) (As := []) (st := [.ref v1, .int r13, .ref κ22, .ref κ22]) (pc' := 31) zc1 (by decide) (congrArg Prod.fst (z1_tp hf24 (zX_t1008 hx18) (by decide))) dX2_and_28 rfl (lw_V q971 q973 qs24 q132 q974) ⟨rfl, hd_X2_not⟩ rfl (by decide) hd33 hb35 (Or.inl rfl) (Nat.le_of_ble_eq_true rfl) h (zqR_TILRx_k rfl (fun r26 T27 I28 L29 R30 h => ?_)) (fun _ _ _ _ _ _ h9 h8 => h8.2 h9) rfl
    obtain ⟨hx31, h⟩ := h
    obtain ⟨ht40, h⟩ := h
    obtain ⟨hd39, h⟩ := h
    refine za_callI (κ := κ22) (M2 := mX20_init) (d2 := 3) (b2 := 0) (n := 3) (As := [.int r13, .ref v1, .ref r26]) (st := [.ref κ22]) (pc' := 34) (by rw [ht40]; decide) dX2_and_31 rfl (lw_meth q1026) rfl q1024 q1025 q165 rfl hd_X20_init rfl (by decide) hd39 (Nat.zero_le _) (Or.inl rfl) (Nat.le_of_ble_eq_true rfl) h (zqV_IR_k rfl (fun I36 R37 h => ?_)) (fun _ _ _ _ _ _ h9 h8 => absurd h8.1 h9) rfl
    obtain ⟨hx38, h⟩ := h
    refine za_astore_n (pc' := 35) (l' := [(1, .ref κ22), (2, .int r13), (0, .ref 1008)]) dX2_and_34 rfl (Nat.le_of_ble_eq_true rfl) rfl rfl ?_
    refine za_goto (tgt := 5) dX2_and_35 (by decide) ?_
    exact zAW_sub [2, 0] rfl h
theorem sX2_and {d b : Nat}  {T : zT} {I : zI} {L : zL} {R : zR} {P : zP} (h : zAW mX2_and d b 0 [(0, .ref 1008)] [] T I L R P) : zMet mX2_and d b [.ref 1008] T I L R P := zMet_of (by decide +kernel) rfl (Nat.le_of_ble_eq_true rfl) rfl h
/-! TwoTongues$Reader.not ()LTwoTongues$Part; -/
def dkwX2_not_1 : List UInt8 := [89, 42, 182, 1, 5, 183, 1, 13, 176]
abbrev dktX2_not_1 : List UInt8 := dkwX2_not_1 ++ []
def dkwX2_not_0 : List UInt8 := [42, 16, 17, 16, 17, 182, 0, 137, 154, 0, 8, 42, 182, 1, 8, 176, 42, 182, 0, 253, 87, 187, 1, 11]
abbrev dktX2_not_0 : List UInt8 := dkwX2_not_0 ++ dktX2_not_1
theorem dksX2_not_0 : cX2_not.data.toList.drop 0 = dktX2_not_0 := by decide +kernel
theorem dksX2_not_1 : cX2_not.data.toList.drop 24 = dktX2_not_1 := dk_seg dksX2_not_0 24 rfl rfl
theorem dX2_not_0 : decode cX2_not 0 = .ok (.aload_n 0, 1) := dk_42 (dk_at dksX2_not_0 0 rfl rfl)
theorem dX2_not_1 : decode cX2_not 1 = .ok (.bipush 17, 2) := dk_16 17 (dk_at dksX2_not_0 1 rfl rfl)
theorem dX2_not_3 : decode cX2_not 3 = .ok (.bipush 17, 2) := dk_16 17 (dk_at dksX2_not_0 3 rfl rfl)
theorem dX2_not_5 : decode cX2_not 5 = .ok (.invokevirtual 137, 3) := dk_182 0 137 (dk_at dksX2_not_0 5 rfl rfl)
theorem dX2_not_8 : decode cX2_not 8 = .ok (.ifCond .ne 8, 3) := dk_154 0 8 (dk_at dksX2_not_0 8 rfl rfl)
theorem dX2_not_11 : decode cX2_not 11 = .ok (.aload_n 0, 1) := dk_42 (dk_at dksX2_not_0 11 rfl rfl)
theorem dX2_not_12 : decode cX2_not 12 = .ok (.invokevirtual 264, 3) := dk_182 1 8 (dk_at dksX2_not_0 12 rfl rfl)
theorem dX2_not_15 : decode cX2_not 15 = .ok (.areturn, 1) := dk_176 (dk_at dksX2_not_0 15 rfl rfl)
theorem dX2_not_16 : decode cX2_not 16 = .ok (.aload_n 0, 1) := dk_42 (dk_at dksX2_not_0 16 rfl rfl)
theorem dX2_not_17 : decode cX2_not 17 = .ok (.invokevirtual 253, 3) := dk_182 0 253 (dk_at dksX2_not_0 17 rfl rfl)
theorem dX2_not_20 : decode cX2_not 20 = .ok (.pop, 1) := dk_87 (dk_at dksX2_not_0 20 rfl rfl)
theorem dX2_not_21 : decode cX2_not 21 = .ok (.new 267, 3) := dk_187 1 11 (dk_at dksX2_not_0 21 rfl rfl)
theorem dX2_not_24 : decode cX2_not 24 = .ok (.dup, 1) := dk_89 (dk_at dksX2_not_1 0 rfl rfl)
theorem dX2_not_25 : decode cX2_not 25 = .ok (.aload_n 0, 1) := dk_42 (dk_at dksX2_not_1 1 rfl rfl)
theorem dX2_not_26 : decode cX2_not 26 = .ok (.invokevirtual 261, 3) := dk_182 1 5 (dk_at dksX2_not_1 2 rfl rfl)
theorem dX2_not_29 : decode cX2_not 29 = .ok (.invokespecial 269, 3) := dk_183 1 13 (dk_at dksX2_not_1 5 rfl rfl)
theorem dX2_not_32 : decode cX2_not 32 = .ok (.areturn, 1) := dk_176 (dk_at dksX2_not_1 8 rfl rfl)
theorem gX2_not_0 {d : Nat} {b : Nat}  {T : zT} {I : zI} {L : zL} {R : zR} {P : zP} (hx : zXok T R) (h : 2 < d ∧ zMet mX2_isWord 2 0 [.ref 1008, .int (17 : Int32), .int (17 : Int32)] T I L R (zqI_ T I L R  (fun (r1 : Int32)  => ((r1 = 0 → ∃ d36, d36 < d ∧ ∃ b38, b38 ≤ (b - 0) ∧ zMet mX2_compare d36 b38 [.ref 1008] T I L R (zqR_TILRx  P (fun (r30 : Nat) (T31 : zT) (I32 : zI) (L33 : zL) (R34 : zR)  => zXok T31 R34 ∧ P 0 (.ref r30) T31 I32 L33 R34))) ∧ (¬ r1 = 0 → 7 < d ∧ ∃ b10, b10 ≤ (b - 0) ∧ zMet mX2_knot 7 b10 [.ref 1008] T I L R (zqI_TILRx  P (fun (r3 : Int32) (T4 : zT) (I5 : zI) (L6 : zL) (R7 : zR)  => zXok T4 R7 ∧ ∃ κ12, 100 ≤ κ12 ∧ (T4 κ12).1 = 0 ∧ 1 + 1 ≤ ((b - 0) - b10) ∧ ∃ d22, d22 < d ∧ ∃ b24, b24 ≤ (((b - 0) - b10) - (1 + 1)) ∧ zMet mX2_not d22 b24 [.ref 1008] (z1 T4 κ12 (18, 0)) (z1 I5 κ12 fun _ => 0) (z1 L6 κ12 fun _ => 0) (z1 R7 κ12 fun _ => 0) (zqR_TILRx  P (fun (r16 : Nat) (T17 : zT) (I18 : zI) (L19 : zL) (R20 : zR)  => zXok T17 R20 ∧ (T17 κ12).1 = 18 ∧ 2 < d ∧ zMet mX19_init 2 0 [.ref κ12, .ref r16] T17 I18 L19 R20 (zqV_R T17 I18 L19  (fun (R26 : zR)  => zXok T17 R26 ∧ P 0 (.ref κ12) T17 I18 L19 R26))))))))))) : zAW mX2_not d b 0 [(0, .ref 1008)] [] T I L R P := by
  refine za_aload_n (pc' := 1) 0 dX2_not_0 rfl rfl rfl ?_
  refine za_bipush (pc' := 3) dX2_not_1 zb8_17 rfl ?_
  refine za_bipush (pc' := 5) dX2_not_3 zb8_17 rfl ?_
  obtain ⟨hd2, h⟩ := h
  refine za_callV (κ := 1008) (M2 := mX2_isWord) (d2 := 2) (b2 := 0) (n := 2) (As := [.int (17 : Int32), .int (17 : Int32)]) (st := []) (pc' := 8) zc1 (by decide) (congrArg Prod.fst (zX_t1008 hx)) dX2_not_5 rfl (lw_V q735 q737 qs7 q132 q738) ⟨rfl, hd_X2_isWord⟩ rfl (by decide) hd2 (Nat.zero_le _) (Or.inl rfl) (Nat.le_of_ble_eq_true rfl) h (zqI__k rfl (fun r1 h => ?_)) (fun _ _ _ _ _ _ h9 h8 => absurd h8.1 h9) rfl
  refine za_if_ne (pc' := 11) (tgt := 16) dX2_not_8 (by decide) rfl (fun c9 => ?_) (fun c9 => ?_)
  · replace h := h.2 c9
    refine za_aload_n (pc' := 17) 0 dX2_not_16 rfl rfl rfl ?_
    obtain ⟨hd9, h⟩ := h
    obtain ⟨b10, hb11, h⟩ := h
    refine za_callV (κ := 1008) (M2 := mX2_knot) (d2 := 7) (b2 := b10) (n := 0) (As := []) (st := []) (pc' := 20) zc1 (by decide) (congrArg Prod.fst (zX_t1008 hx)) dX2_not_17 rfl (lw_V q997 q999 qs30 q132 q1000) ⟨rfl, hd_X2_knot⟩ rfl (by decide) hd9 hb11 (Or.inl rfl) (Nat.le_of_ble_eq_true rfl) h (zqI_TILRx_k rfl (fun r3 T4 I5 L6 R7 h => ?_)) (fun _ _ _ _ _ _ h9 h8 => h8.2 h9) rfl
    obtain ⟨hx8, h⟩ := h
    refine za_pop (pc' := 21) dX2_not_20 rfl rfl ?_
    obtain ⟨κ12, hk13, hf14, hb15, h⟩ := h
    refine za_new (κ := κ12) (pc' := 24) dX2_not_21 zc17 (by decide) in_X19 zok17 zdf17 q1043 q1044 q164 hk13 hf14 hb15 rfl ?_
    refine za_dup (pc' := 25) dX2_not_24 rfl rfl ?_
    refine za_aload_n (pc' := 26) 0 dX2_not_25 rfl rfl rfl ?_
    obtain ⟨d22, hd23, h⟩ := h
    obtain ⟨b24, hb25, h⟩ := h
    refine za_callV (κ := 1008) (M2 := mX2_not) (d2 := d22) (b2 := b24) (n := 0) (As := []) (st := [.ref κ12, .ref κ12]) (pc' := 29) zc1 (by decide) (congrArg Prod.fst (z1_tp hf14 (zX_t1008 hx8) (by decide))) dX2_not_26 rfl (lw_V q971 q973 qs24 q132 q974) ⟨rfl, hd_X2_not⟩ rfl (by decide) hd23 hb25 (Or.inl rfl) (Nat.le_of_ble_eq_true rfl) h (zqR_TILRx_k rfl (fun r16 T17 I18 L19 R20 h => ?_)) (fun _ _ _ _ _ _ h9 h8 => h8.2 h9) rfl
    obtain ⟨hx21, h⟩ := h
    obtain ⟨ht29, h⟩ := h
    obtain ⟨hd28, h⟩ := h
    refine za_callI (κ := κ12) (M2 := mX19_init) (d2 := 2) (b2 := 0) (n := 1) (As := [.ref r16]) (st := [.ref κ12]) (pc' := 32) (by rw [ht29]; decide) dX2_not_29 rfl (lw_meth q1029) rfl q1045 q1028 q164 rfl hd_X19_init rfl (by decide) hd28 (Nat.zero_le _) (Or.inl rfl) (Nat.le_of_ble_eq_true rfl) h (zqV_R_k rfl (fun R26 h => ?_)) (fun _ _ _ _ _ _ h9 h8 => absurd h8.1 h9) rfl
    obtain ⟨hx27, h⟩ := h
    exact za_areturn rfl dX2_not_32 (Or.inl ⟨_, rfl⟩) h
  · replace h := h.1 c9
    refine za_aload_n (pc' := 12) 0 dX2_not_11 rfl rfl rfl ?_
    obtain ⟨d36, hd37, h⟩ := h
    obtain ⟨b38, hb39, h⟩ := h
    refine za_callV (κ := 1008) (M2 := mX2_compare) (d2 := d36) (b2 := b38) (n := 0) (As := []) (st := []) (pc' := 15) zc1 (by decide) (congrArg Prod.fst (zX_t1008 hx)) dX2_not_12 rfl (lw_V q975 q977 qs25 q132 q978) ⟨rfl, hd_X2_compare⟩ rfl (by decide) hd37 hb39 (Or.inl rfl) (Nat.le_of_ble_eq_true rfl) h (zqR_TILRx_k rfl (fun r30 T31 I32 L33 R34 h => ?_)) (fun _ _ _ _ _ _ h9 h8 => h8.2 h9) rfl
    obtain ⟨hx35, h⟩ := h
    exact za_areturn rfl dX2_not_15 (Or.inl ⟨_, rfl⟩) h
theorem sX2_not {d b : Nat}  {T : zT} {I : zI} {L : zL} {R : zR} {P : zP} (h : zAW mX2_not d b 0 [(0, .ref 1008)] [] T I L R P) : zMet mX2_not d b [.ref 1008] T I L R P := zMet_of (by decide +kernel) rfl (Nat.le_of_ble_eq_true rfl) rfl h
/-! TwoTongues$Reader.compare ()LTwoTongues$Part; -/
def dkwX2_compare_2 : List UInt8 := [162, 0, 5, 43, 176, 42, 182, 0, 253, 61, 187, 1, 0, 89, 28, 43, 42, 182, 1, 16, 183, 1, 2, 176]
abbrev dktX2_compare_2 : List UInt8 := dkwX2_compare_2 ++ []
def dkwX2_compare_1 : List UInt8 := [16, 61, 182, 0, 194, 154, 0, 23, 42, 180, 0, 33, 6, 160, 0, 13, 42, 180, 0, 47, 17, 1, 0]
abbrev dktX2_compare_1 : List UInt8 := dkwX2_compare_1 ++ dktX2_compare_2
def dkwX2_compare_0 : List UInt8 := [42, 182, 1, 16, 76, 42, 16, 60, 182, 0, 194, 154, 0, 41, 42, 16, 62, 182, 0, 194, 154, 0, 32, 42]
abbrev dktX2_compare_0 : List UInt8 := dkwX2_compare_0 ++ dktX2_compare_1
theorem dksX2_compare_0 : cX2_compare.data.toList.drop 0 = dktX2_compare_0 := by decide +kernel
theorem dksX2_compare_1 : cX2_compare.data.toList.drop 24 = dktX2_compare_1 := dk_seg dksX2_compare_0 24 rfl rfl
theorem dksX2_compare_2 : cX2_compare.data.toList.drop 47 = dktX2_compare_2 := dk_seg dksX2_compare_1 23 rfl rfl
theorem dX2_compare_0 : decode cX2_compare 0 = .ok (.aload_n 0, 1) := dk_42 (dk_at dksX2_compare_0 0 rfl rfl)
theorem dX2_compare_1 : decode cX2_compare 1 = .ok (.invokevirtual 272, 3) := dk_182 1 16 (dk_at dksX2_compare_0 1 rfl rfl)
theorem dX2_compare_4 : decode cX2_compare 4 = .ok (.astore_n 1, 1) := dk_76 (dk_at dksX2_compare_0 4 rfl rfl)
theorem dX2_compare_5 : decode cX2_compare 5 = .ok (.aload_n 0, 1) := dk_42 (dk_at dksX2_compare_0 5 rfl rfl)
theorem dX2_compare_6 : decode cX2_compare 6 = .ok (.bipush 60, 2) := dk_16 60 (dk_at dksX2_compare_0 6 rfl rfl)
theorem dX2_compare_8 : decode cX2_compare 8 = .ok (.invokevirtual 194, 3) := dk_182 0 194 (dk_at dksX2_compare_0 8 rfl rfl)
theorem dX2_compare_11 : decode cX2_compare 11 = .ok (.ifCond .ne 41, 3) := dk_154 0 41 (dk_at dksX2_compare_0 11 rfl rfl)
theorem dX2_compare_14 : decode cX2_compare 14 = .ok (.aload_n 0, 1) := dk_42 (dk_at dksX2_compare_0 14 rfl rfl)
theorem dX2_compare_15 : decode cX2_compare 15 = .ok (.bipush 62, 2) := dk_16 62 (dk_at dksX2_compare_0 15 rfl rfl)
theorem dX2_compare_17 : decode cX2_compare 17 = .ok (.invokevirtual 194, 3) := dk_182 0 194 (dk_at dksX2_compare_0 17 rfl rfl)
theorem dX2_compare_20 : decode cX2_compare 20 = .ok (.ifCond .ne 32, 3) := dk_154 0 32 (dk_at dksX2_compare_0 20 rfl rfl)
theorem dX2_compare_23 : decode cX2_compare 23 = .ok (.aload_n 0, 1) := dk_42 (dk_at dksX2_compare_0 23 rfl rfl)
theorem dX2_compare_24 : decode cX2_compare 24 = .ok (.bipush 61, 2) := dk_16 61 (dk_at dksX2_compare_1 0 rfl rfl)
theorem dX2_compare_26 : decode cX2_compare 26 = .ok (.invokevirtual 194, 3) := dk_182 0 194 (dk_at dksX2_compare_1 2 rfl rfl)
theorem dX2_compare_29 : decode cX2_compare 29 = .ok (.ifCond .ne 23, 3) := dk_154 0 23 (dk_at dksX2_compare_1 5 rfl rfl)
theorem dX2_compare_32 : decode cX2_compare 32 = .ok (.aload_n 0, 1) := dk_42 (dk_at dksX2_compare_1 8 rfl rfl)
theorem dX2_compare_33 : decode cX2_compare 33 = .ok (.getfield 33, 3) := dk_180 0 33 (dk_at dksX2_compare_1 9 rfl rfl)
theorem dX2_compare_36 : decode cX2_compare 36 = .ok (.iconst 3, 1) := dk_6 (dk_at dksX2_compare_1 12 rfl rfl)
theorem dX2_compare_37 : decode cX2_compare 37 = .ok (.if_icmp .ne 13, 3) := dk_160 0 13 (dk_at dksX2_compare_1 13 rfl rfl)
theorem dX2_compare_40 : decode cX2_compare 40 = .ok (.aload_n 0, 1) := dk_42 (dk_at dksX2_compare_1 16 rfl rfl)
theorem dX2_compare_41 : decode cX2_compare 41 = .ok (.getfield 47, 3) := dk_180 0 47 (dk_at dksX2_compare_1 17 rfl rfl)
theorem dX2_compare_44 : decode cX2_compare 44 = .ok (.sipush 256, 3) := dk_17 1 0 (dk_at dksX2_compare_1 20 rfl rfl)
theorem dX2_compare_47 : decode cX2_compare 47 = .ok (.if_icmp .ge 5, 3) := dk_162 0 5 (dk_at dksX2_compare_2 0 rfl rfl)
theorem dX2_compare_50 : decode cX2_compare 50 = .ok (.aload_n 1, 1) := dk_43 (dk_at dksX2_compare_2 3 rfl rfl)
theorem dX2_compare_51 : decode cX2_compare 51 = .ok (.areturn, 1) := dk_176 (dk_at dksX2_compare_2 4 rfl rfl)
theorem dX2_compare_52 : decode cX2_compare 52 = .ok (.aload_n 0, 1) := dk_42 (dk_at dksX2_compare_2 5 rfl rfl)
theorem dX2_compare_53 : decode cX2_compare 53 = .ok (.invokevirtual 253, 3) := dk_182 0 253 (dk_at dksX2_compare_2 6 rfl rfl)
theorem dX2_compare_56 : decode cX2_compare 56 = .ok (.istore_n 2, 1) := dk_61 (dk_at dksX2_compare_2 9 rfl rfl)
theorem dX2_compare_57 : decode cX2_compare 57 = .ok (.new 256, 3) := dk_187 1 0 (dk_at dksX2_compare_2 10 rfl rfl)
theorem dX2_compare_60 : decode cX2_compare 60 = .ok (.dup, 1) := dk_89 (dk_at dksX2_compare_2 13 rfl rfl)
theorem dX2_compare_61 : decode cX2_compare 61 = .ok (.iload_n 2, 1) := dk_28 (dk_at dksX2_compare_2 14 rfl rfl)
theorem dX2_compare_62 : decode cX2_compare 62 = .ok (.aload_n 1, 1) := dk_43 (dk_at dksX2_compare_2 15 rfl rfl)
theorem dX2_compare_63 : decode cX2_compare 63 = .ok (.aload_n 0, 1) := dk_42 (dk_at dksX2_compare_2 16 rfl rfl)
theorem dX2_compare_64 : decode cX2_compare 64 = .ok (.invokevirtual 272, 3) := dk_182 1 16 (dk_at dksX2_compare_2 17 rfl rfl)
theorem dX2_compare_67 : decode cX2_compare 67 = .ok (.invokespecial 258, 3) := dk_183 1 2 (dk_at dksX2_compare_2 20 rfl rfl)
theorem dX2_compare_70 : decode cX2_compare 70 = .ok (.areturn, 1) := dk_176 (dk_at dksX2_compare_2 23 rfl rfl)
theorem gX2_compare_0 {d : Nat} {b : Nat}  {T : zT} {I : zI} {L : zL} {R : zR} {P : zP} (hx : zXok T R) (h : ∃ d7, d7 < d ∧ ∃ b9, b9 ≤ b ∧ zMet mX2_sum d7 b9 [.ref 1008] T I L R (zqR_TILRx  P (fun (r1 : Nat) (T2 : zT) (I3 : zI) (L4 : zL) (R5 : zR)  => zXok T2 R5 ∧ 1 < d ∧ zMet mX2_isSign 1 0 [.ref 1008, .int (60 : Int32)] T2 I3 L4 R5 (zqI_ T2 I3 L4 R5  (fun (r11 : Int32)  => ((r11 = 0 → 1 < d ∧ zMet mX2_isSign 1 0 [.ref 1008, .int (62 : Int32)] T2 I3 L4 R5 (zqI_ T2 I3 L4 R5  (fun (r13 : Int32)  => ((r13 = 0 → 1 < d ∧ zMet mX2_isSign 1 0 [.ref 1008, .int (61 : Int32)] T2 I3 L4 R5 (zqI_ T2 I3 L4 R5  (fun (r15 : Int32)  => ((r15 = 0 → (((I3 1008 3) = (3 : Int32) → (((256 : Int32) ≤ (I3 1008 4) → zAW mX2_compare d ((((b - b9) - 0) - 0) - 0) 52 [(0, .ref 1008), (1, .ref r1)] [] T2 I3 L4 R5 P) ∧ (¬ (256 : Int32) ≤ (I3 1008 4) → P 0 (.ref r1) T2 I3 L4 R5))) ∧ (¬ (I3 1008 3) = (3 : Int32) → P 0 (.ref r1) T2 I3 L4 R5))) ∧ (¬ r15 = 0 → zAW mX2_compare d ((((b - b9) - 0) - 0) - 0) 52 [(0, .ref 1008), (1, .ref r1)] [] T2 I3 L4 R5 P))))) ∧ (¬ r13 = 0 → zAW mX2_compare d (((b - b9) - 0) - 0) 52 [(0, .ref 1008), (1, .ref r1)] [] T2 I3 L4 R5 P))))) ∧ (¬ r11 = 0 → zAW mX2_compare d ((b - b9) - 0) 52 [(0, .ref 1008), (1, .ref r1)] [] T2 I3 L4 R5 P))))))) : zAW mX2_compare d b 0 [(0, .ref 1008)] [] T I L R P := by
  refine za_aload_n (pc' := 1) 0 dX2_compare_0 rfl rfl rfl ?_
  obtain ⟨d7, hd8, h⟩ := h
  obtain ⟨b9, hb10, h⟩ := h
  refine za_callV (κ := 1008) (M2 := mX2_sum) (d2 := d7) (b2 := b9) (n := 0) (As := []) (st := []) (pc' := 4) zc1 (by decide) (congrArg Prod.fst (zX_t1008 hx)) dX2_compare_1 rfl (lw_V q979 q981 qs26 q132 q982) ⟨rfl, hd_X2_sum⟩ rfl (by decide) hd8 hb10 (Or.inl rfl) (Nat.le_of_ble_eq_true rfl) h (zqR_TILRx_k rfl (fun r1 T2 I3 L4 R5 h => ?_)) (fun _ _ _ _ _ _ h9 h8 => h8.2 h9) rfl
  obtain ⟨hx6, h⟩ := h
  refine za_astore_n (pc' := 5) (l' := [(1, .ref r1), (0, .ref 1008)]) dX2_compare_4 rfl (Nat.le_of_ble_eq_true rfl) rfl rfl ?_
  refine za_aload_n (pc' := 6) 1 dX2_compare_5 rfl rfl rfl ?_
  refine za_bipush (pc' := 8) dX2_compare_6 zb8_60 rfl ?_
  obtain ⟨hd12, h⟩ := h
  refine za_callV (κ := 1008) (M2 := mX2_isSign) (d2 := 1) (b2 := 0) (n := 1) (As := [.int (60 : Int32)]) (st := []) (pc' := 11) zc1 (by decide) (congrArg Prod.fst (zX_t1008 hx6)) dX2_compare_8 rfl (lw_V q991 q993 qs29 q132 q994) ⟨rfl, hd_X2_isSign⟩ rfl (by decide) hd12 (Nat.zero_le _) (Or.inl rfl) (Nat.le_of_ble_eq_true rfl) h (zqI__k rfl (fun r11 h => ?_)) (fun _ _ _ _ _ _ h9 h8 => absurd h8.1 h9) rfl
  refine za_if_ne (pc' := 14) (tgt := 52) dX2_compare_11 (by decide) rfl (fun c9 => ?_) (fun c9 => ?_)
  · replace h := h.2 c9
    exact zAW_sub [1, 0] rfl h
  · replace h := h.1 c9
    refine za_aload_n (pc' := 15) 1 dX2_compare_14 rfl rfl rfl ?_
    refine za_bipush (pc' := 17) dX2_compare_15 zb8_62 rfl ?_
    obtain ⟨hd14, h⟩ := h
    refine za_callV (κ := 1008) (M2 := mX2_isSign) (d2 := 1) (b2 := 0) (n := 1) (As := [.int (62 : Int32)]) (st := []) (pc' := 20) zc1 (by decide) (congrArg Prod.fst (zX_t1008 hx6)) dX2_compare_17 rfl (lw_V q991 q993 qs29 q132 q994) ⟨rfl, hd_X2_isSign⟩ rfl (by decide) hd14 (Nat.zero_le _) (Or.inl rfl) (Nat.le_of_ble_eq_true rfl) h (zqI__k rfl (fun r13 h => ?_)) (fun _ _ _ _ _ _ h9 h8 => absurd h8.1 h9) rfl
    refine za_if_ne (pc' := 23) (tgt := 52) dX2_compare_20 (by decide) rfl (fun c9 => ?_) (fun c9 => ?_)
    · replace h := h.2 c9
      exact zAW_sub [1, 0] rfl h
    · replace h := h.1 c9
      refine za_aload_n (pc' := 24) 1 dX2_compare_23 rfl rfl rfl ?_
      refine za_bipush (pc' := 26) dX2_compare_24 zb8_61 rfl ?_
      obtain ⟨hd16, h⟩ := h
      refine za_callV (κ := 1008) (M2 := mX2_isSign) (d2 := 1) (b2 := 0) (n := 1) (As := [.int (61 : Int32)]) (st := []) (pc' := 29) zc1 (by decide) (congrArg Prod.fst (zX_t1008 hx6)) dX2_compare_26 rfl (lw_V q991 q993 qs29 q132 q994) ⟨rfl, hd_X2_isSign⟩ rfl (by decide) hd16 (Nat.zero_le _) (Or.inl rfl) (Nat.le_of_ble_eq_true rfl) h (zqI__k rfl (fun r15 h => ?_)) (fun _ _ _ _ _ _ h9 h8 => absurd h8.1 h9) rfl
      refine za_if_ne (pc' := 32) (tgt := 52) dX2_compare_29 (by decide) rfl (fun c9 => ?_) (fun c9 => ?_)
      · replace h := h.2 c9
        exact zAW_sub [1, 0] rfl h
      · replace h := h.1 c9
        refine za_aload_n (pc' := 33) 1 dX2_compare_32 rfl rfl rfl ?_
        refine za_get (fi := 3) (v := .int (I3 1008 3)) (pc' := 36) dX2_compare_33 zc1 (by decide) in_X2 (by decide) q188 (Or.inl rfl) (congrArg Prod.fst (zX_t1008 hx6)) rfl rfl ?_
        refine za_iconst (pc' := 37) dX2_compare_36 zi_3 rfl ?_
        refine za_icmp_ne (pc' := 40) (tgt := 50) dX2_compare_37 (by decide) rfl (fun c9 => ?_) (fun c9 => ?_)
        · replace h := h.2 c9
          refine za_aload_n (pc' := 51) 0 dX2_compare_50 rfl rfl rfl ?_
          exact za_areturn rfl dX2_compare_51 (Or.inl ⟨_, rfl⟩) h
        · replace h := h.1 c9
          refine za_aload_n (pc' := 41) 1 dX2_compare_40 rfl rfl rfl ?_
          refine za_get (fi := 4) (v := .int (I3 1008 4)) (pc' := 44) dX2_compare_41 zc1 (by decide) in_X2 (by decide) q189 (Or.inl rfl) (congrArg Prod.fst (zX_t1008 hx6)) rfl rfl ?_
          refine za_sipush (pc' := 47) dX2_compare_44 zb16_256 rfl ?_
          refine za_icmp_ge (pc' := 50) (tgt := 52) dX2_compare_47 (by decide) rfl (fun c9 => ?_) (fun c9 => ?_)
          · replace h := h.1 c9
            exact zAW_sub [1, 0] rfl h
          · replace h := h.2 c9
            refine za_aload_n (pc' := 51) 0 dX2_compare_50 rfl rfl rfl ?_
            exact za_areturn rfl dX2_compare_51 (Or.inl ⟨_, rfl⟩) h
theorem gX2_compare_52 {d : Nat} {b : Nat} {v1 : Nat} {T : zT} {I : zI} {L : zL} {R : zR} {P : zP} (hx : zXok T R) (h : 7 < d ∧ ∃ b24, b24 ≤ b ∧ zMet mX2_knot 7 b24 [.ref 1008] T I L R (zqI_TILRx  P (fun (r17 : Int32) (T18 : zT) (I19 : zI) (L20 : zL) (R21 : zR)  => zXok T18 R21 ∧ ∃ κ26, 100 ≤ κ26 ∧ (T18 κ26).1 = 0 ∧ 3 + 1 ≤ (b - b24) ∧ ∃ d36, d36 < d ∧ ∃ b38, b38 ≤ ((b - b24) - (3 + 1)) ∧ zMet mX2_sum d36 b38 [.ref 1008] (z1 T18 κ26 (19, 0)) (z1 I19 κ26 fun _ => 0) (z1 L20 κ26 fun _ => 0) (z1 R21 κ26 fun _ => 0) (zqR_TILRx  P (fun (r30 : Nat) (T31 : zT) (I32 : zI) (L33 : zL) (R34 : zR)  => zXok T31 R34 ∧ (T31 κ26).1 = 19 ∧ 3 < d ∧ zMet mX20_init 3 0 [.ref κ26, .int r17, .ref v1, .ref r30] T31 I32 L33 R34 (zqV_IR T31 L33  (fun (I40 : zI) (R41 : zR)  => zXok T31 R41 ∧ P 0 (.ref κ26) T31 I40 L33 R41))))))) : zAW mX2_compare d b 52 [(0, .ref 1008), (1, .ref v1)] [] T I L R P := by
  refine za_aload_n (pc' := 53) 0 dX2_compare_52 rfl rfl rfl ?_
  obtain ⟨hd23, h⟩ := h
  obtain ⟨b24, hb25, h⟩ := h
  refine za_callV (κ := 1008) (M2 := mX2_knot) (d2 := 7) (b2 := b24) (n := 0) (As := []) (st := []) (pc' := 56) zc1 (by decide) (congrArg Prod.fst (zX_t1008 hx)) dX2_compare_53 rfl (lw_V q997 q999 qs30 q132 q1000) ⟨rfl, hd_X2_knot⟩ rfl (by decide) hd23 hb25 (Or.inl rfl) (Nat.le_of_ble_eq_true rfl) h (zqI_TILRx_k rfl (fun r17 T18 I19 L20 R21 h => ?_)) (fun _ _ _ _ _ _ h9 h8 => h8.2 h9) rfl
  obtain ⟨hx22, h⟩ := h
  refine za_istore_n (pc' := 57) (l' := [(2, .int r17), (0, .ref 1008), (1, .ref v1)]) dX2_compare_56 rfl (Nat.le_of_ble_eq_true rfl) rfl rfl ?_
  obtain ⟨κ26, hk27, hf28, hb29, h⟩ := h
  refine za_new (κ := κ26) (pc' := 60) dX2_compare_57 zc18 (by decide) in_X20 zok18 zdf18 q1022 q1023 q165 hk27 hf28 hb29 rfl ?_
  refine za_dup (pc' := 61) dX2_compare_60 rfl rfl ?_
  refine za_iload_n (pc' := 62) 0 dX2_compare_61 rfl rfl rfl ?_
  refine za_aload_n (pc' := 63) 2 dX2_compare_62 rfl rfl rfl ?_
  refine za_aload_n (pc' := 64) 1 dX2_compare_63 rfl rfl rfl ?_
  obtain ⟨d36, hd37, h⟩ := h
  obtain ⟨b38, hb39, h⟩ := h
  refine za_callV (κ := 1008) (M2 := mX2_sum) (d2 := d36) (b2 := b38) (n := 0) (As := []) (st := [.ref v1, .int r17, .ref κ26, .ref κ26]) (pc' := 67) zc1 (by decide) (congrArg Prod.fst (z1_tp hf28 (zX_t1008 hx22) (by decide))) dX2_compare_64 rfl (lw_V q979 q981 qs26 q132 q982) ⟨rfl, hd_X2_sum⟩ rfl (by decide) hd37 hb39 (Or.inl rfl) (Nat.le_of_ble_eq_true rfl) h (zqR_TILRx_k rfl (fun r30 T31 I32 L33 R34 h => ?_)) (fun _ _ _ _ _ _ h9 h8 => h8.2 h9) rfl
  obtain ⟨hx35, h⟩ := h
  obtain ⟨ht44, h⟩ := h
  obtain ⟨hd43, h⟩ := h
  refine za_callI (κ := κ26) (M2 := mX20_init) (d2 := 3) (b2 := 0) (n := 3) (As := [.int r17, .ref v1, .ref r30]) (st := [.ref κ26]) (pc' := 70) (by rw [ht44]; decide) dX2_compare_67 rfl (lw_meth q1026) rfl q1024 q1025 q165 rfl hd_X20_init rfl (by decide) hd43 (Nat.zero_le _) (Or.inl rfl) (Nat.le_of_ble_eq_true rfl) h (zqV_IR_k rfl (fun I40 R41 h => ?_)) (fun _ _ _ _ _ _ h9 h8 => absurd h8.1 h9) rfl
  obtain ⟨hx42, h⟩ := h
  exact za_areturn rfl dX2_compare_70 (Or.inl ⟨_, rfl⟩) h
theorem sX2_compare {d b : Nat}  {T : zT} {I : zI} {L : zL} {R : zR} {P : zP} (h : zAW mX2_compare d b 0 [(0, .ref 1008)] [] T I L R P) : zMet mX2_compare d b [.ref 1008] T I L R P := zMet_of (by decide +kernel) rfl (Nat.le_of_ble_eq_true rfl) rfl h
/-! TwoTongues$Reader.sum ()LTwoTongues$Part; -/
def dkwX2_sum_1 : List UInt8 := [182, 0, 253, 61, 187, 1, 0, 89, 28, 43, 42, 182, 1, 19, 183, 1, 2, 76, 167, 255, 219, 43, 176]
abbrev dktX2_sum_1 : List UInt8 := dkwX2_sum_1 ++ []
def dkwX2_sum_0 : List UInt8 := [42, 182, 1, 19, 76, 42, 16, 43, 182, 0, 194, 154, 0, 12, 42, 16, 45, 182, 0, 194, 153, 0, 25, 42]
abbrev dktX2_sum_0 : List UInt8 := dkwX2_sum_0 ++ dktX2_sum_1
theorem dksX2_sum_0 : cX2_sum.data.toList.drop 0 = dktX2_sum_0 := by decide +kernel
theorem dksX2_sum_1 : cX2_sum.data.toList.drop 24 = dktX2_sum_1 := dk_seg dksX2_sum_0 24 rfl rfl
theorem dX2_sum_0 : decode cX2_sum 0 = .ok (.aload_n 0, 1) := dk_42 (dk_at dksX2_sum_0 0 rfl rfl)
theorem dX2_sum_1 : decode cX2_sum 1 = .ok (.invokevirtual 275, 3) := dk_182 1 19 (dk_at dksX2_sum_0 1 rfl rfl)
theorem dX2_sum_4 : decode cX2_sum 4 = .ok (.astore_n 1, 1) := dk_76 (dk_at dksX2_sum_0 4 rfl rfl)
theorem dX2_sum_5 : decode cX2_sum 5 = .ok (.aload_n 0, 1) := dk_42 (dk_at dksX2_sum_0 5 rfl rfl)
theorem dX2_sum_6 : decode cX2_sum 6 = .ok (.bipush 43, 2) := dk_16 43 (dk_at dksX2_sum_0 6 rfl rfl)
theorem dX2_sum_8 : decode cX2_sum 8 = .ok (.invokevirtual 194, 3) := dk_182 0 194 (dk_at dksX2_sum_0 8 rfl rfl)
theorem dX2_sum_11 : decode cX2_sum 11 = .ok (.ifCond .ne 12, 3) := dk_154 0 12 (dk_at dksX2_sum_0 11 rfl rfl)
theorem dX2_sum_14 : decode cX2_sum 14 = .ok (.aload_n 0, 1) := dk_42 (dk_at dksX2_sum_0 14 rfl rfl)
theorem dX2_sum_15 : decode cX2_sum 15 = .ok (.bipush 45, 2) := dk_16 45 (dk_at dksX2_sum_0 15 rfl rfl)
theorem dX2_sum_17 : decode cX2_sum 17 = .ok (.invokevirtual 194, 3) := dk_182 0 194 (dk_at dksX2_sum_0 17 rfl rfl)
theorem dX2_sum_20 : decode cX2_sum 20 = .ok (.ifCond .eq 25, 3) := dk_153 0 25 (dk_at dksX2_sum_0 20 rfl rfl)
theorem dX2_sum_23 : decode cX2_sum 23 = .ok (.aload_n 0, 1) := dk_42 (dk_at dksX2_sum_0 23 rfl rfl)
theorem dX2_sum_24 : decode cX2_sum 24 = .ok (.invokevirtual 253, 3) := dk_182 0 253 (dk_at dksX2_sum_1 0 rfl rfl)
theorem dX2_sum_27 : decode cX2_sum 27 = .ok (.istore_n 2, 1) := dk_61 (dk_at dksX2_sum_1 3 rfl rfl)
theorem dX2_sum_28 : decode cX2_sum 28 = .ok (.new 256, 3) := dk_187 1 0 (dk_at dksX2_sum_1 4 rfl rfl)
theorem dX2_sum_31 : decode cX2_sum 31 = .ok (.dup, 1) := dk_89 (dk_at dksX2_sum_1 7 rfl rfl)
theorem dX2_sum_32 : decode cX2_sum 32 = .ok (.iload_n 2, 1) := dk_28 (dk_at dksX2_sum_1 8 rfl rfl)
theorem dX2_sum_33 : decode cX2_sum 33 = .ok (.aload_n 1, 1) := dk_43 (dk_at dksX2_sum_1 9 rfl rfl)
theorem dX2_sum_34 : decode cX2_sum 34 = .ok (.aload_n 0, 1) := dk_42 (dk_at dksX2_sum_1 10 rfl rfl)
theorem dX2_sum_35 : decode cX2_sum 35 = .ok (.invokevirtual 275, 3) := dk_182 1 19 (dk_at dksX2_sum_1 11 rfl rfl)
theorem dX2_sum_38 : decode cX2_sum 38 = .ok (.invokespecial 258, 3) := dk_183 1 2 (dk_at dksX2_sum_1 14 rfl rfl)
theorem dX2_sum_41 : decode cX2_sum 41 = .ok (.astore_n 1, 1) := dk_76 (dk_at dksX2_sum_1 17 rfl rfl)
theorem dX2_sum_42 : decode cX2_sum 42 = .ok (.goto (-37), 3) := dk_167 255 219 (dk_at dksX2_sum_1 18 rfl rfl)
theorem dX2_sum_45 : decode cX2_sum 45 = .ok (.aload_n 1, 1) := dk_43 (dk_at dksX2_sum_1 21 rfl rfl)
theorem dX2_sum_46 : decode cX2_sum 46 = .ok (.areturn, 1) := dk_176 (dk_at dksX2_sum_1 22 rfl rfl)
theorem gX2_sum_0 {d : Nat} {b : Nat}  {T : zT} {I : zI} {L : zL} {R : zR} {P : zP} (hx : zXok T R) (h : ∃ d7, d7 < d ∧ ∃ b9, b9 ≤ b ∧ zMet mX2_product d7 b9 [.ref 1008] T I L R (zqR_TILRx  P (fun (r1 : Nat) (T2 : zT) (I3 : zI) (L4 : zL) (R5 : zR)  => zXok T2 R5 ∧ zAW mX2_sum d (b - b9) 5 [(0, .ref 1008), (1, .ref r1)] [] T2 I3 L4 R5 P))) : zAW mX2_sum d b 0 [(0, .ref 1008)] [] T I L R P := by
  refine za_aload_n (pc' := 1) 0 dX2_sum_0 rfl rfl rfl ?_
  obtain ⟨d7, hd8, h⟩ := h
  obtain ⟨b9, hb10, h⟩ := h
  refine za_callV (κ := 1008) (M2 := mX2_product) (d2 := d7) (b2 := b9) (n := 0) (As := []) (st := []) (pc' := 4) zc1 (by decide) (congrArg Prod.fst (zX_t1008 hx)) dX2_sum_1 rfl (lw_V q983 q985 qs27 q132 q986) ⟨rfl, hd_X2_product⟩ rfl (by decide) hd8 hb10 (Or.inl rfl) (Nat.le_of_ble_eq_true rfl) h (zqR_TILRx_k rfl (fun r1 T2 I3 L4 R5 h => ?_)) (fun _ _ _ _ _ _ h9 h8 => h8.2 h9) rfl
  obtain ⟨hx6, h⟩ := h
  refine za_astore_n (pc' := 5) (l' := [(1, .ref r1), (0, .ref 1008)]) dX2_sum_4 rfl (Nat.le_of_ble_eq_true rfl) rfl rfl ?_
  exact zAW_sub [1, 0] rfl h
theorem gX2_sum_5 {d : Nat} {b : Nat} {v1 : Nat} {T : zT} {I : zI} {L : zL} {R : zR} {P : zP} (hx : zXok T R) (h : 1 < d ∧ zMet mX2_isSign 1 0 [.ref 1008, .int (43 : Int32)] T I L R (zqI_ T I L R  (fun (r11 : Int32)  => ((r11 = 0 → 1 < d ∧ zMet mX2_isSign 1 0 [.ref 1008, .int (45 : Int32)] T I L R (zqI_ T I L R  (fun (r13 : Int32)  => ((r13 = 0 → P 0 (.ref v1) T I L R) ∧ (¬ r13 = 0 → zAW mX2_sum d ((b - 0) - 0) 23 [(0, .ref 1008), (1, .ref v1)] [] T I L R P))))) ∧ (¬ r11 = 0 → zAW mX2_sum d (b - 0) 23 [(0, .ref 1008), (1, .ref v1)] [] T I L R P))))) : zAW mX2_sum d b 5 [(0, .ref 1008), (1, .ref v1)] [] T I L R P := by
  refine za_aload_n (pc' := 6) 0 dX2_sum_5 rfl rfl rfl ?_
  refine za_bipush (pc' := 8) dX2_sum_6 zb8_43 rfl ?_
  obtain ⟨hd12, h⟩ := h
  refine za_callV (κ := 1008) (M2 := mX2_isSign) (d2 := 1) (b2 := 0) (n := 1) (As := [.int (43 : Int32)]) (st := []) (pc' := 11) zc1 (by decide) (congrArg Prod.fst (zX_t1008 hx)) dX2_sum_8 rfl (lw_V q991 q993 qs29 q132 q994) ⟨rfl, hd_X2_isSign⟩ rfl (by decide) hd12 (Nat.zero_le _) (Or.inl rfl) (Nat.le_of_ble_eq_true rfl) h (zqI__k rfl (fun r11 h => ?_)) (fun _ _ _ _ _ _ h9 h8 => absurd h8.1 h9) rfl
  refine za_if_ne (pc' := 14) (tgt := 23) dX2_sum_11 (by decide) rfl (fun c9 => ?_) (fun c9 => ?_)
  · replace h := h.2 c9
    exact zAW_sub [0, 1] rfl h
  · replace h := h.1 c9
    refine za_aload_n (pc' := 15) 0 dX2_sum_14 rfl rfl rfl ?_
    refine za_bipush (pc' := 17) dX2_sum_15 zb8_45 rfl ?_
    obtain ⟨hd14, h⟩ := h
    refine za_callV (κ := 1008) (M2 := mX2_isSign) (d2 := 1) (b2 := 0) (n := 1) (As := [.int (45 : Int32)]) (st := []) (pc' := 20) zc1 (by decide) (congrArg Prod.fst (zX_t1008 hx)) dX2_sum_17 rfl (lw_V q991 q993 qs29 q132 q994) ⟨rfl, hd_X2_isSign⟩ rfl (by decide) hd14 (Nat.zero_le _) (Or.inl rfl) (Nat.le_of_ble_eq_true rfl) h (zqI__k rfl (fun r13 h => ?_)) (fun _ _ _ _ _ _ h9 h8 => absurd h8.1 h9) rfl
    refine za_if_eq (pc' := 23) (tgt := 45) dX2_sum_20 (by decide) rfl (fun c9 => ?_) (fun c9 => ?_)
    · replace h := h.1 c9
      refine za_aload_n (pc' := 46) 1 dX2_sum_45 rfl rfl rfl ?_
      exact za_areturn rfl dX2_sum_46 (Or.inl ⟨_, rfl⟩) h
    · replace h := h.2 c9
      exact zAW_sub [0, 1] rfl h
theorem gX2_sum_23 {d : Nat} {b : Nat} {v1 : Nat} {T : zT} {I : zI} {L : zL} {R : zR} {P : zP} (hx : zXok T R) (h : 7 < d ∧ ∃ b22, b22 ≤ b ∧ zMet mX2_knot 7 b22 [.ref 1008] T I L R (zqI_TILRx  P (fun (r15 : Int32) (T16 : zT) (I17 : zI) (L18 : zL) (R19 : zR)  => zXok T16 R19 ∧ ∃ κ24, 100 ≤ κ24 ∧ (T16 κ24).1 = 0 ∧ 3 + 1 ≤ (b - b22) ∧ ∃ d34, d34 < d ∧ ∃ b36, b36 ≤ ((b - b22) - (3 + 1)) ∧ zMet mX2_product d34 b36 [.ref 1008] (z1 T16 κ24 (19, 0)) (z1 I17 κ24 fun _ => 0) (z1 L18 κ24 fun _ => 0) (z1 R19 κ24 fun _ => 0) (zqR_TILRx  P (fun (r28 : Nat) (T29 : zT) (I30 : zI) (L31 : zL) (R32 : zR)  => zXok T29 R32 ∧ (T29 κ24).1 = 19 ∧ 3 < d ∧ zMet mX20_init 3 0 [.ref κ24, .int r15, .ref v1, .ref r28] T29 I30 L31 R32 (zqV_IR T29 L31  (fun (I38 : zI) (R39 : zR)  => zXok T29 R39 ∧ zAW mX2_sum d ((((b - b22) - (3 + 1)) - b36) - 0) 5 [(0, .ref 1008), (1, .ref κ24)] [] T29 I38 L31 R39 P))))))) : zAW mX2_sum d b 23 [(0, .ref 1008), (1, .ref v1)] [] T I L R P := by
  refine za_aload_n (pc' := 24) 0 dX2_sum_23 rfl rfl rfl ?_
  obtain ⟨hd21, h⟩ := h
  obtain ⟨b22, hb23, h⟩ := h
  refine za_callV (κ := 1008) (M2 := mX2_knot) (d2 := 7) (b2 := b22) (n := 0) (As := []) (st := []) (pc' := 27) zc1 (by decide) (congrArg Prod.fst (zX_t1008 hx)) dX2_sum_24 rfl (lw_V q997 q999 qs30 q132 q1000) ⟨rfl, hd_X2_knot⟩ rfl (by decide) hd21 hb23 (Or.inl rfl) (Nat.le_of_ble_eq_true rfl) h (zqI_TILRx_k rfl (fun r15 T16 I17 L18 R19 h => ?_)) (fun _ _ _ _ _ _ h9 h8 => h8.2 h9) rfl
  obtain ⟨hx20, h⟩ := h
  refine za_istore_n (pc' := 28) (l' := [(2, .int r15), (0, .ref 1008), (1, .ref v1)]) dX2_sum_27 rfl (Nat.le_of_ble_eq_true rfl) rfl rfl ?_
  obtain ⟨κ24, hk25, hf26, hb27, h⟩ := h
  refine za_new (κ := κ24) (pc' := 31) dX2_sum_28 zc18 (by decide) in_X20 zok18 zdf18 q1022 q1023 q165 hk25 hf26 hb27 rfl ?_
  refine za_dup (pc' := 32) dX2_sum_31 rfl rfl ?_
  refine za_iload_n (pc' := 33) 0 dX2_sum_32 rfl rfl rfl ?_
  refine za_aload_n (pc' := 34) 2 dX2_sum_33 rfl rfl rfl ?_
  refine za_aload_n (pc' := 35) 1 dX2_sum_34 rfl rfl rfl ?_
  obtain ⟨d34, hd35, h⟩ := h
  obtain ⟨b36, hb37, h⟩ := h
  refine za_callV (κ := 1008) (M2 := mX2_product) (d2 := d34) (b2 := b36) (n := 0) (As := []) (st := [.ref v1, .int r15, .ref κ24, .ref κ24]) (pc' := 38) zc1 (by decide) (congrArg Prod.fst (z1_tp hf26 (zX_t1008 hx20) (by decide))) dX2_sum_35 rfl (lw_V q983 q985 qs27 q132 q986) ⟨rfl, hd_X2_product⟩ rfl (by decide) hd35 hb37 (Or.inl rfl) (Nat.le_of_ble_eq_true rfl) h (zqR_TILRx_k rfl (fun r28 T29 I30 L31 R32 h => ?_)) (fun _ _ _ _ _ _ h9 h8 => h8.2 h9) rfl
  obtain ⟨hx33, h⟩ := h
  obtain ⟨ht42, h⟩ := h
  obtain ⟨hd41, h⟩ := h
  refine za_callI (κ := κ24) (M2 := mX20_init) (d2 := 3) (b2 := 0) (n := 3) (As := [.int r15, .ref v1, .ref r28]) (st := [.ref κ24]) (pc' := 41) (by rw [ht42]; decide) dX2_sum_38 rfl (lw_meth q1026) rfl q1024 q1025 q165 rfl hd_X20_init rfl (by decide) hd41 (Nat.zero_le _) (Or.inl rfl) (Nat.le_of_ble_eq_true rfl) h (zqV_IR_k rfl (fun I38 R39 h => ?_)) (fun _ _ _ _ _ _ h9 h8 => absurd h8.1 h9) rfl
  obtain ⟨hx40, h⟩ := h
  refine za_astore_n (pc' := 42) (l' := [(1, .ref κ24), (2, .int r15), (0, .ref 1008)]) dX2_sum_41 rfl (Nat.le_of_ble_eq_true rfl) rfl rfl ?_
  refine za_goto (tgt := 5) dX2_sum_42 (by decide) ?_
  exact zAW_sub [2, 0] rfl h
theorem sX2_sum {d b : Nat}  {T : zT} {I : zI} {L : zL} {R : zR} {P : zP} (h : zAW mX2_sum d b 0 [(0, .ref 1008)] [] T I L R P) : zMet mX2_sum d b [.ref 1008] T I L R P := zMet_of (by decide +kernel) rfl (Nat.le_of_ble_eq_true rfl) rfl h
/-! TwoTongues$Reader.product ()LTwoTongues$Part; -/
def dkwX2_product_1 : List UInt8 := [182, 0, 253, 61, 187, 1, 0, 89, 28, 43, 42, 182, 1, 22, 183, 1, 2, 76, 167, 255, 219, 43, 176]
abbrev dktX2_product_1 : List UInt8 := dkwX2_product_1 ++ []
def dkwX2_product_0 : List UInt8 := [42, 182, 1, 22, 76, 42, 16, 42, 182, 0, 194, 154, 0, 12, 42, 16, 47, 182, 0, 194, 153, 0, 25, 42]
abbrev dktX2_product_0 : List UInt8 := dkwX2_product_0 ++ dktX2_product_1
theorem dksX2_product_0 : cX2_product.data.toList.drop 0 = dktX2_product_0 := by decide +kernel
theorem dksX2_product_1 : cX2_product.data.toList.drop 24 = dktX2_product_1 := dk_seg dksX2_product_0 24 rfl rfl
theorem dX2_product_0 : decode cX2_product 0 = .ok (.aload_n 0, 1) := dk_42 (dk_at dksX2_product_0 0 rfl rfl)
theorem dX2_product_1 : decode cX2_product 1 = .ok (.invokevirtual 278, 3) := dk_182 1 22 (dk_at dksX2_product_0 1 rfl rfl)
theorem dX2_product_4 : decode cX2_product 4 = .ok (.astore_n 1, 1) := dk_76 (dk_at dksX2_product_0 4 rfl rfl)
theorem dX2_product_5 : decode cX2_product 5 = .ok (.aload_n 0, 1) := dk_42 (dk_at dksX2_product_0 5 rfl rfl)
theorem dX2_product_6 : decode cX2_product 6 = .ok (.bipush 42, 2) := dk_16 42 (dk_at dksX2_product_0 6 rfl rfl)
theorem dX2_product_8 : decode cX2_product 8 = .ok (.invokevirtual 194, 3) := dk_182 0 194 (dk_at dksX2_product_0 8 rfl rfl)
theorem dX2_product_11 : decode cX2_product 11 = .ok (.ifCond .ne 12, 3) := dk_154 0 12 (dk_at dksX2_product_0 11 rfl rfl)
theorem dX2_product_14 : decode cX2_product 14 = .ok (.aload_n 0, 1) := dk_42 (dk_at dksX2_product_0 14 rfl rfl)
theorem dX2_product_15 : decode cX2_product 15 = .ok (.bipush 47, 2) := dk_16 47 (dk_at dksX2_product_0 15 rfl rfl)
theorem dX2_product_17 : decode cX2_product 17 = .ok (.invokevirtual 194, 3) := dk_182 0 194 (dk_at dksX2_product_0 17 rfl rfl)
theorem dX2_product_20 : decode cX2_product 20 = .ok (.ifCond .eq 25, 3) := dk_153 0 25 (dk_at dksX2_product_0 20 rfl rfl)
theorem dX2_product_23 : decode cX2_product 23 = .ok (.aload_n 0, 1) := dk_42 (dk_at dksX2_product_0 23 rfl rfl)
theorem dX2_product_24 : decode cX2_product 24 = .ok (.invokevirtual 253, 3) := dk_182 0 253 (dk_at dksX2_product_1 0 rfl rfl)
theorem dX2_product_27 : decode cX2_product 27 = .ok (.istore_n 2, 1) := dk_61 (dk_at dksX2_product_1 3 rfl rfl)
theorem dX2_product_28 : decode cX2_product 28 = .ok (.new 256, 3) := dk_187 1 0 (dk_at dksX2_product_1 4 rfl rfl)
theorem dX2_product_31 : decode cX2_product 31 = .ok (.dup, 1) := dk_89 (dk_at dksX2_product_1 7 rfl rfl)
theorem dX2_product_32 : decode cX2_product 32 = .ok (.iload_n 2, 1) := dk_28 (dk_at dksX2_product_1 8 rfl rfl)
theorem dX2_product_33 : decode cX2_product 33 = .ok (.aload_n 1, 1) := dk_43 (dk_at dksX2_product_1 9 rfl rfl)
theorem dX2_product_34 : decode cX2_product 34 = .ok (.aload_n 0, 1) := dk_42 (dk_at dksX2_product_1 10 rfl rfl)
theorem dX2_product_35 : decode cX2_product 35 = .ok (.invokevirtual 278, 3) := dk_182 1 22 (dk_at dksX2_product_1 11 rfl rfl)
theorem dX2_product_38 : decode cX2_product 38 = .ok (.invokespecial 258, 3) := dk_183 1 2 (dk_at dksX2_product_1 14 rfl rfl)
theorem dX2_product_41 : decode cX2_product 41 = .ok (.astore_n 1, 1) := dk_76 (dk_at dksX2_product_1 17 rfl rfl)
theorem dX2_product_42 : decode cX2_product 42 = .ok (.goto (-37), 3) := dk_167 255 219 (dk_at dksX2_product_1 18 rfl rfl)
theorem dX2_product_45 : decode cX2_product 45 = .ok (.aload_n 1, 1) := dk_43 (dk_at dksX2_product_1 21 rfl rfl)
theorem dX2_product_46 : decode cX2_product 46 = .ok (.areturn, 1) := dk_176 (dk_at dksX2_product_1 22 rfl rfl)
theorem gX2_product_0 {d : Nat} {b : Nat}  {T : zT} {I : zI} {L : zL} {R : zR} {P : zP} (hx : zXok T R) (h : ∃ d7, d7 < d ∧ ∃ b9, b9 ≤ b ∧ zMet mX2_one d7 b9 [.ref 1008] T I L R (zqR_TILRx  P (fun (r1 : Nat) (T2 : zT) (I3 : zI) (L4 : zL) (R5 : zR)  => zXok T2 R5 ∧ zAW mX2_product d (b - b9) 5 [(0, .ref 1008), (1, .ref r1)] [] T2 I3 L4 R5 P))) : zAW mX2_product d b 0 [(0, .ref 1008)] [] T I L R P := by
  refine za_aload_n (pc' := 1) 0 dX2_product_0 rfl rfl rfl ?_
  obtain ⟨d7, hd8, h⟩ := h
  obtain ⟨b9, hb10, h⟩ := h
  refine za_callV (κ := 1008) (M2 := mX2_one) (d2 := d7) (b2 := b9) (n := 0) (As := []) (st := []) (pc' := 4) zc1 (by decide) (congrArg Prod.fst (zX_t1008 hx)) dX2_product_1 rfl (lw_V q987 q989 qs28 q132 q990) ⟨rfl, hd_X2_one⟩ rfl (by decide) hd8 hb10 (Or.inl rfl) (Nat.le_of_ble_eq_true rfl) h (zqR_TILRx_k rfl (fun r1 T2 I3 L4 R5 h => ?_)) (fun _ _ _ _ _ _ h9 h8 => h8.2 h9) rfl
  obtain ⟨hx6, h⟩ := h
  refine za_astore_n (pc' := 5) (l' := [(1, .ref r1), (0, .ref 1008)]) dX2_product_4 rfl (Nat.le_of_ble_eq_true rfl) rfl rfl ?_
  exact zAW_sub [1, 0] rfl h
theorem gX2_product_5 {d : Nat} {b : Nat} {v1 : Nat} {T : zT} {I : zI} {L : zL} {R : zR} {P : zP} (hx : zXok T R) (h : 1 < d ∧ zMet mX2_isSign 1 0 [.ref 1008, .int (42 : Int32)] T I L R (zqI_ T I L R  (fun (r11 : Int32)  => ((r11 = 0 → 1 < d ∧ zMet mX2_isSign 1 0 [.ref 1008, .int (47 : Int32)] T I L R (zqI_ T I L R  (fun (r13 : Int32)  => ((r13 = 0 → P 0 (.ref v1) T I L R) ∧ (¬ r13 = 0 → zAW mX2_product d ((b - 0) - 0) 23 [(0, .ref 1008), (1, .ref v1)] [] T I L R P))))) ∧ (¬ r11 = 0 → zAW mX2_product d (b - 0) 23 [(0, .ref 1008), (1, .ref v1)] [] T I L R P))))) : zAW mX2_product d b 5 [(0, .ref 1008), (1, .ref v1)] [] T I L R P := by
  refine za_aload_n (pc' := 6) 0 dX2_product_5 rfl rfl rfl ?_
  refine za_bipush (pc' := 8) dX2_product_6 zb8_42 rfl ?_
  obtain ⟨hd12, h⟩ := h
  refine za_callV (κ := 1008) (M2 := mX2_isSign) (d2 := 1) (b2 := 0) (n := 1) (As := [.int (42 : Int32)]) (st := []) (pc' := 11) zc1 (by decide) (congrArg Prod.fst (zX_t1008 hx)) dX2_product_8 rfl (lw_V q991 q993 qs29 q132 q994) ⟨rfl, hd_X2_isSign⟩ rfl (by decide) hd12 (Nat.zero_le _) (Or.inl rfl) (Nat.le_of_ble_eq_true rfl) h (zqI__k rfl (fun r11 h => ?_)) (fun _ _ _ _ _ _ h9 h8 => absurd h8.1 h9) rfl
  refine za_if_ne (pc' := 14) (tgt := 23) dX2_product_11 (by decide) rfl (fun c9 => ?_) (fun c9 => ?_)
  · replace h := h.2 c9
    exact zAW_sub [0, 1] rfl h
  · replace h := h.1 c9
    refine za_aload_n (pc' := 15) 0 dX2_product_14 rfl rfl rfl ?_
    refine za_bipush (pc' := 17) dX2_product_15 zb8_47 rfl ?_
    obtain ⟨hd14, h⟩ := h
    refine za_callV (κ := 1008) (M2 := mX2_isSign) (d2 := 1) (b2 := 0) (n := 1) (As := [.int (47 : Int32)]) (st := []) (pc' := 20) zc1 (by decide) (congrArg Prod.fst (zX_t1008 hx)) dX2_product_17 rfl (lw_V q991 q993 qs29 q132 q994) ⟨rfl, hd_X2_isSign⟩ rfl (by decide) hd14 (Nat.zero_le _) (Or.inl rfl) (Nat.le_of_ble_eq_true rfl) h (zqI__k rfl (fun r13 h => ?_)) (fun _ _ _ _ _ _ h9 h8 => absurd h8.1 h9) rfl
    refine za_if_eq (pc' := 23) (tgt := 45) dX2_product_20 (by decide) rfl (fun c9 => ?_) (fun c9 => ?_)
    · replace h := h.1 c9
      refine za_aload_n (pc' := 46) 1 dX2_product_45 rfl rfl rfl ?_
      exact za_areturn rfl dX2_product_46 (Or.inl ⟨_, rfl⟩) h
    · replace h := h.2 c9
      exact zAW_sub [0, 1] rfl h
theorem gX2_product_23 {d : Nat} {b : Nat} {v1 : Nat} {T : zT} {I : zI} {L : zL} {R : zR} {P : zP} (hx : zXok T R) (h : 7 < d ∧ ∃ b22, b22 ≤ b ∧ zMet mX2_knot 7 b22 [.ref 1008] T I L R (zqI_TILRx  P (fun (r15 : Int32) (T16 : zT) (I17 : zI) (L18 : zL) (R19 : zR)  => zXok T16 R19 ∧ ∃ κ24, 100 ≤ κ24 ∧ (T16 κ24).1 = 0 ∧ 3 + 1 ≤ (b - b22) ∧ ∃ d34, d34 < d ∧ ∃ b36, b36 ≤ ((b - b22) - (3 + 1)) ∧ zMet mX2_one d34 b36 [.ref 1008] (z1 T16 κ24 (19, 0)) (z1 I17 κ24 fun _ => 0) (z1 L18 κ24 fun _ => 0) (z1 R19 κ24 fun _ => 0) (zqR_TILRx  P (fun (r28 : Nat) (T29 : zT) (I30 : zI) (L31 : zL) (R32 : zR)  => zXok T29 R32 ∧ (T29 κ24).1 = 19 ∧ 3 < d ∧ zMet mX20_init 3 0 [.ref κ24, .int r15, .ref v1, .ref r28] T29 I30 L31 R32 (zqV_IR T29 L31  (fun (I38 : zI) (R39 : zR)  => zXok T29 R39 ∧ zAW mX2_product d ((((b - b22) - (3 + 1)) - b36) - 0) 5 [(0, .ref 1008), (1, .ref κ24)] [] T29 I38 L31 R39 P))))))) : zAW mX2_product d b 23 [(0, .ref 1008), (1, .ref v1)] [] T I L R P := by
  refine za_aload_n (pc' := 24) 0 dX2_product_23 rfl rfl rfl ?_
  obtain ⟨hd21, h⟩ := h
  obtain ⟨b22, hb23, h⟩ := h
  refine za_callV (κ := 1008) (M2 := mX2_knot) (d2 := 7) (b2 := b22) (n := 0) (As := []) (st := []) (pc' := 27) zc1 (by decide) (congrArg Prod.fst (zX_t1008 hx)) dX2_product_24 rfl (lw_V q997 q999 qs30 q132 q1000) ⟨rfl, hd_X2_knot⟩ rfl (by decide) hd21 hb23 (Or.inl rfl) (Nat.le_of_ble_eq_true rfl) h (zqI_TILRx_k rfl (fun r15 T16 I17 L18 R19 h => ?_)) (fun _ _ _ _ _ _ h9 h8 => h8.2 h9) rfl
  obtain ⟨hx20, h⟩ := h
  refine za_istore_n (pc' := 28) (l' := [(2, .int r15), (0, .ref 1008), (1, .ref v1)]) dX2_product_27 rfl (Nat.le_of_ble_eq_true rfl) rfl rfl ?_
  obtain ⟨κ24, hk25, hf26, hb27, h⟩ := h
  refine za_new (κ := κ24) (pc' := 31) dX2_product_28 zc18 (by decide) in_X20 zok18 zdf18 q1022 q1023 q165 hk25 hf26 hb27 rfl ?_
  refine za_dup (pc' := 32) dX2_product_31 rfl rfl ?_
  refine za_iload_n (pc' := 33) 0 dX2_product_32 rfl rfl rfl ?_
  refine za_aload_n (pc' := 34) 2 dX2_product_33 rfl rfl rfl ?_
  refine za_aload_n (pc' := 35) 1 dX2_product_34 rfl rfl rfl ?_
  obtain ⟨d34, hd35, h⟩ := h
  obtain ⟨b36, hb37, h⟩ := h
  refine za_callV (κ := 1008) (M2 := mX2_one) (d2 := d34) (b2 := b36) (n := 0) (As := []) (st := [.ref v1, .int r15, .ref κ24, .ref κ24]) (pc' := 38) zc1 (by decide) (congrArg Prod.fst (z1_tp hf26 (zX_t1008 hx20) (by decide))) dX2_product_35 rfl (lw_V q987 q989 qs28 q132 q990) ⟨rfl, hd_X2_one⟩ rfl (by decide) hd35 hb37 (Or.inl rfl) (Nat.le_of_ble_eq_true rfl) h (zqR_TILRx_k rfl (fun r28 T29 I30 L31 R32 h => ?_)) (fun _ _ _ _ _ _ h9 h8 => h8.2 h9) rfl
  obtain ⟨hx33, h⟩ := h
  obtain ⟨ht42, h⟩ := h
  obtain ⟨hd41, h⟩ := h
  refine za_callI (κ := κ24) (M2 := mX20_init) (d2 := 3) (b2 := 0) (n := 3) (As := [.int r15, .ref v1, .ref r28]) (st := [.ref κ24]) (pc' := 41) (by rw [ht42]; decide) dX2_product_38 rfl (lw_meth q1026) rfl q1024 q1025 q165 rfl hd_X20_init rfl (by decide) hd41 (Nat.zero_le _) (Or.inl rfl) (Nat.le_of_ble_eq_true rfl) h (zqV_IR_k rfl (fun I38 R39 h => ?_)) (fun _ _ _ _ _ _ h9 h8 => absurd h8.1 h9) rfl
  obtain ⟨hx40, h⟩ := h
  refine za_astore_n (pc' := 42) (l' := [(1, .ref κ24), (2, .int r15), (0, .ref 1008)]) dX2_product_41 rfl (Nat.le_of_ble_eq_true rfl) rfl rfl ?_
  refine za_goto (tgt := 5) dX2_product_42 (by decide) ?_
  exact zAW_sub [2, 0] rfl h
theorem sX2_product {d b : Nat}  {T : zT} {I : zI} {L : zL} {R : zR} {P : zP} (h : zAW mX2_product d b 0 [(0, .ref 1008)] [] T I L R P) : zMet mX2_product d b [.ref 1008] T I L R P := zMet_of (by decide +kernel) rfl (Nat.le_of_ble_eq_true rfl) rfl h
/-! TwoTongues$Reader.one ()LTwoTongues$Part; -/
def dkwX2_one_6 : List UInt8 := [16, 18, 100, 183, 1, 32, 176]
abbrev dktX2_one_6 : List UInt8 := dkwX2_one_6 ++ []
def dkwX2_one_5 : List UInt8 := [42, 180, 0, 47, 16, 18, 162, 0, 9, 42, 4, 182, 0, 85, 191, 187, 1, 30, 89, 42, 182, 0, 253]
abbrev dktX2_one_5 : List UInt8 := dkwX2_one_5 ++ dktX2_one_6
def dkwX2_one_4 : List UInt8 := [5, 182, 0, 85, 191, 187, 1, 25, 89, 42, 182, 0, 253, 183, 1, 27, 176, 42, 180, 0, 33, 154, 0, 12]
abbrev dktX2_one_4 : List UInt8 := dkwX2_one_4 ++ dktX2_one_5
def dkwX2_one_3 : List UInt8 := [182, 0, 89, 43, 176, 42, 180, 0, 33, 5, 160, 0, 31, 42, 180, 0, 47, 17, 39, 15, 164, 0, 9, 42]
abbrev dktX2_one_3 : List UInt8 := dkwX2_one_3 ++ dktX2_one_4
def dkwX2_one_2 : List UInt8 := [182, 0, 194, 154, 0, 9, 42, 4, 182, 0, 85, 191, 42, 89, 180, 0, 92, 4, 100, 181, 0, 92, 42]
abbrev dktX2_one_2 : List UInt8 := dkwX2_one_2 ++ dktX2_one_3
def dkwX2_one_1 : List UInt8 := [42, 89, 180, 0, 92, 4, 96, 181, 0, 92, 42, 182, 0, 89, 42, 182, 0, 186, 76, 42, 16, 41]
abbrev dktX2_one_1 : List UInt8 := dkwX2_one_1 ++ dktX2_one_2
def dkwX2_one_0 : List UInt8 := [42, 16, 40, 182, 0, 194, 153, 0, 68, 42, 180, 0, 92, 16, 8, 160, 0, 9, 42, 5, 182, 0, 85, 191]
abbrev dktX2_one_0 : List UInt8 := dkwX2_one_0 ++ dktX2_one_1
theorem dksX2_one_0 : cX2_one.data.toList.drop 0 = dktX2_one_0 := by decide +kernel
theorem dksX2_one_1 : cX2_one.data.toList.drop 24 = dktX2_one_1 := dk_seg dksX2_one_0 24 rfl rfl
theorem dksX2_one_2 : cX2_one.data.toList.drop 46 = dktX2_one_2 := dk_seg dksX2_one_1 22 rfl rfl
theorem dksX2_one_3 : cX2_one.data.toList.drop 69 = dktX2_one_3 := dk_seg dksX2_one_2 23 rfl rfl
theorem dksX2_one_4 : cX2_one.data.toList.drop 93 = dktX2_one_4 := dk_seg dksX2_one_3 24 rfl rfl
theorem dksX2_one_5 : cX2_one.data.toList.drop 117 = dktX2_one_5 := dk_seg dksX2_one_4 24 rfl rfl
theorem dksX2_one_6 : cX2_one.data.toList.drop 140 = dktX2_one_6 := dk_seg dksX2_one_5 23 rfl rfl
theorem dX2_one_0 : decode cX2_one 0 = .ok (.aload_n 0, 1) := dk_42 (dk_at dksX2_one_0 0 rfl rfl)
theorem dX2_one_1 : decode cX2_one 1 = .ok (.bipush 40, 2) := dk_16 40 (dk_at dksX2_one_0 1 rfl rfl)
theorem dX2_one_3 : decode cX2_one 3 = .ok (.invokevirtual 194, 3) := dk_182 0 194 (dk_at dksX2_one_0 3 rfl rfl)
theorem dX2_one_6 : decode cX2_one 6 = .ok (.ifCond .eq 68, 3) := dk_153 0 68 (dk_at dksX2_one_0 6 rfl rfl)
theorem dX2_one_9 : decode cX2_one 9 = .ok (.aload_n 0, 1) := dk_42 (dk_at dksX2_one_0 9 rfl rfl)
theorem dX2_one_10 : decode cX2_one 10 = .ok (.getfield 92, 3) := dk_180 0 92 (dk_at dksX2_one_0 10 rfl rfl)
theorem dX2_one_13 : decode cX2_one 13 = .ok (.bipush 8, 2) := dk_16 8 (dk_at dksX2_one_0 13 rfl rfl)
theorem dX2_one_15 : decode cX2_one 15 = .ok (.if_icmp .ne 9, 3) := dk_160 0 9 (dk_at dksX2_one_0 15 rfl rfl)
theorem dX2_one_18 : decode cX2_one 18 = .ok (.aload_n 0, 1) := dk_42 (dk_at dksX2_one_0 18 rfl rfl)
theorem dX2_one_19 : decode cX2_one 19 = .ok (.iconst 2, 1) := dk_5 (dk_at dksX2_one_0 19 rfl rfl)
theorem dX2_one_20 : decode cX2_one 20 = .ok (.invokevirtual 85, 3) := dk_182 0 85 (dk_at dksX2_one_0 20 rfl rfl)
theorem dX2_one_23 : decode cX2_one 23 = .ok (.athrow, 1) := dk_191 (dk_at dksX2_one_0 23 rfl rfl)
theorem dX2_one_24 : decode cX2_one 24 = .ok (.aload_n 0, 1) := dk_42 (dk_at dksX2_one_1 0 rfl rfl)
theorem dX2_one_25 : decode cX2_one 25 = .ok (.dup, 1) := dk_89 (dk_at dksX2_one_1 1 rfl rfl)
theorem dX2_one_26 : decode cX2_one 26 = .ok (.getfield 92, 3) := dk_180 0 92 (dk_at dksX2_one_1 2 rfl rfl)
theorem dX2_one_29 : decode cX2_one 29 = .ok (.iconst 1, 1) := dk_4 (dk_at dksX2_one_1 5 rfl rfl)
theorem dX2_one_30 : decode cX2_one 30 = .ok (.iadd, 1) := dk_96 (dk_at dksX2_one_1 6 rfl rfl)
theorem dX2_one_31 : decode cX2_one 31 = .ok (.putfield 92, 3) := dk_181 0 92 (dk_at dksX2_one_1 7 rfl rfl)
theorem dX2_one_34 : decode cX2_one 34 = .ok (.aload_n 0, 1) := dk_42 (dk_at dksX2_one_1 10 rfl rfl)
theorem dX2_one_35 : decode cX2_one 35 = .ok (.invokevirtual 89, 3) := dk_182 0 89 (dk_at dksX2_one_1 11 rfl rfl)
theorem dX2_one_38 : decode cX2_one 38 = .ok (.aload_n 0, 1) := dk_42 (dk_at dksX2_one_1 14 rfl rfl)
theorem dX2_one_39 : decode cX2_one 39 = .ok (.invokevirtual 186, 3) := dk_182 0 186 (dk_at dksX2_one_1 15 rfl rfl)
theorem dX2_one_42 : decode cX2_one 42 = .ok (.astore_n 1, 1) := dk_76 (dk_at dksX2_one_1 18 rfl rfl)
theorem dX2_one_43 : decode cX2_one 43 = .ok (.aload_n 0, 1) := dk_42 (dk_at dksX2_one_1 19 rfl rfl)
theorem dX2_one_44 : decode cX2_one 44 = .ok (.bipush 41, 2) := dk_16 41 (dk_at dksX2_one_1 20 rfl rfl)
theorem dX2_one_46 : decode cX2_one 46 = .ok (.invokevirtual 194, 3) := dk_182 0 194 (dk_at dksX2_one_2 0 rfl rfl)
theorem dX2_one_49 : decode cX2_one 49 = .ok (.ifCond .ne 9, 3) := dk_154 0 9 (dk_at dksX2_one_2 3 rfl rfl)
theorem dX2_one_52 : decode cX2_one 52 = .ok (.aload_n 0, 1) := dk_42 (dk_at dksX2_one_2 6 rfl rfl)
theorem dX2_one_53 : decode cX2_one 53 = .ok (.iconst 1, 1) := dk_4 (dk_at dksX2_one_2 7 rfl rfl)
theorem dX2_one_54 : decode cX2_one 54 = .ok (.invokevirtual 85, 3) := dk_182 0 85 (dk_at dksX2_one_2 8 rfl rfl)
theorem dX2_one_57 : decode cX2_one 57 = .ok (.athrow, 1) := dk_191 (dk_at dksX2_one_2 11 rfl rfl)
theorem dX2_one_58 : decode cX2_one 58 = .ok (.aload_n 0, 1) := dk_42 (dk_at dksX2_one_2 12 rfl rfl)
theorem dX2_one_59 : decode cX2_one 59 = .ok (.dup, 1) := dk_89 (dk_at dksX2_one_2 13 rfl rfl)
theorem dX2_one_60 : decode cX2_one 60 = .ok (.getfield 92, 3) := dk_180 0 92 (dk_at dksX2_one_2 14 rfl rfl)
theorem dX2_one_63 : decode cX2_one 63 = .ok (.iconst 1, 1) := dk_4 (dk_at dksX2_one_2 17 rfl rfl)
theorem dX2_one_64 : decode cX2_one 64 = .ok (.isub, 1) := dk_100 (dk_at dksX2_one_2 18 rfl rfl)
theorem dX2_one_65 : decode cX2_one 65 = .ok (.putfield 92, 3) := dk_181 0 92 (dk_at dksX2_one_2 19 rfl rfl)
theorem dX2_one_68 : decode cX2_one 68 = .ok (.aload_n 0, 1) := dk_42 (dk_at dksX2_one_2 22 rfl rfl)
theorem dX2_one_69 : decode cX2_one 69 = .ok (.invokevirtual 89, 3) := dk_182 0 89 (dk_at dksX2_one_3 0 rfl rfl)
theorem dX2_one_72 : decode cX2_one 72 = .ok (.aload_n 1, 1) := dk_43 (dk_at dksX2_one_3 3 rfl rfl)
theorem dX2_one_73 : decode cX2_one 73 = .ok (.areturn, 1) := dk_176 (dk_at dksX2_one_3 4 rfl rfl)
theorem dX2_one_74 : decode cX2_one 74 = .ok (.aload_n 0, 1) := dk_42 (dk_at dksX2_one_3 5 rfl rfl)
theorem dX2_one_75 : decode cX2_one 75 = .ok (.getfield 33, 3) := dk_180 0 33 (dk_at dksX2_one_3 6 rfl rfl)
theorem dX2_one_78 : decode cX2_one 78 = .ok (.iconst 2, 1) := dk_5 (dk_at dksX2_one_3 9 rfl rfl)
theorem dX2_one_79 : decode cX2_one 79 = .ok (.if_icmp .ne 31, 3) := dk_160 0 31 (dk_at dksX2_one_3 10 rfl rfl)
theorem dX2_one_82 : decode cX2_one 82 = .ok (.aload_n 0, 1) := dk_42 (dk_at dksX2_one_3 13 rfl rfl)
theorem dX2_one_83 : decode cX2_one 83 = .ok (.getfield 47, 3) := dk_180 0 47 (dk_at dksX2_one_3 14 rfl rfl)
theorem dX2_one_86 : decode cX2_one 86 = .ok (.sipush 9999, 3) := dk_17 39 15 (dk_at dksX2_one_3 17 rfl rfl)
theorem dX2_one_89 : decode cX2_one 89 = .ok (.if_icmp .le 9, 3) := dk_164 0 9 (dk_at dksX2_one_3 20 rfl rfl)
theorem dX2_one_92 : decode cX2_one 92 = .ok (.aload_n 0, 1) := dk_42 (dk_at dksX2_one_3 23 rfl rfl)
theorem dX2_one_93 : decode cX2_one 93 = .ok (.iconst 2, 1) := dk_5 (dk_at dksX2_one_4 0 rfl rfl)
theorem dX2_one_94 : decode cX2_one 94 = .ok (.invokevirtual 85, 3) := dk_182 0 85 (dk_at dksX2_one_4 1 rfl rfl)
theorem dX2_one_97 : decode cX2_one 97 = .ok (.athrow, 1) := dk_191 (dk_at dksX2_one_4 4 rfl rfl)
theorem dX2_one_98 : decode cX2_one 98 = .ok (.new 281, 3) := dk_187 1 25 (dk_at dksX2_one_4 5 rfl rfl)
theorem dX2_one_101 : decode cX2_one 101 = .ok (.dup, 1) := dk_89 (dk_at dksX2_one_4 8 rfl rfl)
theorem dX2_one_102 : decode cX2_one 102 = .ok (.aload_n 0, 1) := dk_42 (dk_at dksX2_one_4 9 rfl rfl)
theorem dX2_one_103 : decode cX2_one 103 = .ok (.invokevirtual 253, 3) := dk_182 0 253 (dk_at dksX2_one_4 10 rfl rfl)
theorem dX2_one_106 : decode cX2_one 106 = .ok (.invokespecial 283, 3) := dk_183 1 27 (dk_at dksX2_one_4 13 rfl rfl)
theorem dX2_one_109 : decode cX2_one 109 = .ok (.areturn, 1) := dk_176 (dk_at dksX2_one_4 16 rfl rfl)
theorem dX2_one_110 : decode cX2_one 110 = .ok (.aload_n 0, 1) := dk_42 (dk_at dksX2_one_4 17 rfl rfl)
theorem dX2_one_111 : decode cX2_one 111 = .ok (.getfield 33, 3) := dk_180 0 33 (dk_at dksX2_one_4 18 rfl rfl)
theorem dX2_one_114 : decode cX2_one 114 = .ok (.ifCond .ne 12, 3) := dk_154 0 12 (dk_at dksX2_one_4 21 rfl rfl)
theorem dX2_one_117 : decode cX2_one 117 = .ok (.aload_n 0, 1) := dk_42 (dk_at dksX2_one_5 0 rfl rfl)
theorem dX2_one_118 : decode cX2_one 118 = .ok (.getfield 47, 3) := dk_180 0 47 (dk_at dksX2_one_5 1 rfl rfl)
theorem dX2_one_121 : decode cX2_one 121 = .ok (.bipush 18, 2) := dk_16 18 (dk_at dksX2_one_5 4 rfl rfl)
theorem dX2_one_123 : decode cX2_one 123 = .ok (.if_icmp .ge 9, 3) := dk_162 0 9 (dk_at dksX2_one_5 6 rfl rfl)
theorem dX2_one_126 : decode cX2_one 126 = .ok (.aload_n 0, 1) := dk_42 (dk_at dksX2_one_5 9 rfl rfl)
theorem dX2_one_127 : decode cX2_one 127 = .ok (.iconst 1, 1) := dk_4 (dk_at dksX2_one_5 10 rfl rfl)
theorem dX2_one_128 : decode cX2_one 128 = .ok (.invokevirtual 85, 3) := dk_182 0 85 (dk_at dksX2_one_5 11 rfl rfl)
theorem dX2_one_131 : decode cX2_one 131 = .ok (.athrow, 1) := dk_191 (dk_at dksX2_one_5 14 rfl rfl)
theorem dX2_one_132 : decode cX2_one 132 = .ok (.new 286, 3) := dk_187 1 30 (dk_at dksX2_one_5 15 rfl rfl)
theorem dX2_one_135 : decode cX2_one 135 = .ok (.dup, 1) := dk_89 (dk_at dksX2_one_5 18 rfl rfl)
theorem dX2_one_136 : decode cX2_one 136 = .ok (.aload_n 0, 1) := dk_42 (dk_at dksX2_one_5 19 rfl rfl)
theorem dX2_one_137 : decode cX2_one 137 = .ok (.invokevirtual 253, 3) := dk_182 0 253 (dk_at dksX2_one_5 20 rfl rfl)
theorem dX2_one_140 : decode cX2_one 140 = .ok (.bipush 18, 2) := dk_16 18 (dk_at dksX2_one_6 0 rfl rfl)
theorem dX2_one_142 : decode cX2_one 142 = .ok (.isub, 1) := dk_100 (dk_at dksX2_one_6 2 rfl rfl)
theorem dX2_one_143 : decode cX2_one 143 = .ok (.invokespecial 288, 3) := dk_183 1 32 (dk_at dksX2_one_6 3 rfl rfl)
theorem dX2_one_146 : decode cX2_one 146 = .ok (.areturn, 1) := dk_176 (dk_at dksX2_one_6 6 rfl rfl)
theorem gX2_one_0 {d : Nat} {b : Nat}  {T : zT} {I : zI} {L : zL} {R : zR} {P : zP} (hx : zXok T R) (h : 1 < d ∧ zMet mX2_isSign 1 0 [.ref 1008, .int (40 : Int32)] T I L R (zqI_ T I L R  (fun (r1 : Int32)  => ((r1 = 0 → (((I 1008 3) = (2 : Int32) → (((I 1008 4) ≤ (9999 : Int32) → ∃ κ36, 100 ≤ κ36 ∧ (T κ36).1 = 0 ∧ 1 + 1 ≤ (b - 0) ∧ 7 < d ∧ ∃ b47, b47 ≤ ((b - 0) - (1 + 1)) ∧ zMet mX2_knot 7 b47 [.ref 1008] (z1 T κ36 (16, 0)) (z1 I κ36 fun _ => 0) (z1 L κ36 fun _ => 0) (z1 R κ36 fun _ => 0) (zqI_TILRx  P (fun (r40 : Int32) (T41 : zT) (I42 : zI) (L43 : zL) (R44 : zR)  => zXok T41 R44 ∧ (T41 κ36).1 = 16 ∧ 2 < d ∧ zMet mX17_init 2 0 [.ref κ36, .int r40] T41 I42 L43 R44 (zqV_I T41 L43 R44  (fun (I49 : zI)  => P 0 (.ref κ36) T41 I49 L43 R44))))) ∧ (¬ (I 1008 4) ≤ (9999 : Int32) → 4 < d ∧ ∃ b59, b59 ≤ (b - 0) ∧ zMet mX2_wrong 4 b59 [.ref 1008, .int (2 : Int32)] T I L R (zqR_TILR   (fun (r52 : Nat) (T53 : zT) (I54 : zI) (L55 : zL) (R56 : zR)  => zXok T53 R56 ∧ (T53 r52).1 = 14 ∧ P 1 (.ref r52) T53 I54 L55 R56))))) ∧ (¬ (I 1008 3) = (2 : Int32) → (((I 1008 3) = 0 → (((18 : Int32) ≤ (I 1008 4) → ∃ κ13, 100 ≤ κ13 ∧ (T κ13).1 = 0 ∧ 1 + 1 ≤ (b - 0) ∧ 7 < d ∧ ∃ b24, b24 ≤ ((b - 0) - (1 + 1)) ∧ zMet mX2_knot 7 b24 [.ref 1008] (z1 T κ13 (17, 0)) (z1 I κ13 fun _ => 0) (z1 L κ13 fun _ => 0) (z1 R κ13 fun _ => 0) (zqI_TILRx  P (fun (r17 : Int32) (T18 : zT) (I19 : zI) (L20 : zL) (R21 : zR)  => zXok T18 R21 ∧ zAW mX2_one d (((b - 0) - (1 + 1)) - b24) 140 [] [.int r17, .ref κ13, .ref κ13] T18 I19 L20 R21 P))) ∧ (¬ (18 : Int32) ≤ (I 1008 4) → 4 < d ∧ ∃ b33, b33 ≤ (b - 0) ∧ zMet mX2_wrong 4 b33 [.ref 1008, .int (1 : Int32)] T I L R (zqR_TILR   (fun (r26 : Nat) (T27 : zT) (I28 : zI) (L29 : zL) (R30 : zR)  => zXok T27 R30 ∧ (T27 r26).1 = 14 ∧ P 1 (.ref r26) T27 I28 L29 R30))))) ∧ (¬ (I 1008 3) = 0 → 4 < d ∧ ∃ b10, b10 ≤ (b - 0) ∧ zMet mX2_wrong 4 b10 [.ref 1008, .int (1 : Int32)] T I L R (zqR_TILR   (fun (r3 : Nat) (T4 : zT) (I5 : zI) (L6 : zL) (R7 : zR)  => zXok T4 R7 ∧ (T4 r3).1 = 14 ∧ P 1 (.ref r3) T4 I5 L6 R7))))))) ∧ (¬ r1 = 0 → (((I 1008 5) = (8 : Int32) → 4 < d ∧ ∃ b93, b93 ≤ (b - 0) ∧ zMet mX2_wrong 4 b93 [.ref 1008, .int (2 : Int32)] T I L R (zqR_TILR   (fun (r86 : Nat) (T87 : zT) (I88 : zI) (L89 : zL) (R90 : zR)  => zXok T87 R90 ∧ (T87 r86).1 = 14 ∧ P 1 (.ref r86) T87 I88 L89 R90))) ∧ (¬ (I 1008 5) = (8 : Int32) → 6 < d ∧ zMet mX2_next 6 0 [.ref 1008] T (z2 I 1008 5 ((I 1008 5) + (1 : Int32))) L R (zqV_I T L R  (fun (I62 : zI)  => ∃ d70, d70 < d ∧ ∃ b72, b72 ≤ ((b - 0) - 0) ∧ zMet mX2_or d70 b72 [.ref 1008] T I62 L R (zqR_TILRx  P (fun (r64 : Nat) (T65 : zT) (I66 : zI) (L67 : zL) (R68 : zR)  => zXok T65 R68 ∧ 1 < d ∧ zMet mX2_isSign 1 0 [.ref 1008, .int (41 : Int32)] T65 I66 L67 R68 (zqI_ T65 I66 L67 R68  (fun (r74 : Int32)  => ((r74 = 0 → 4 < d ∧ ∃ b83, b83 ≤ ((((b - 0) - 0) - b72) - 0) ∧ zMet mX2_wrong 4 b83 [.ref 1008, .int (1 : Int32)] T65 I66 L67 R68 (zqR_TILR   (fun (r76 : Nat) (T77 : zT) (I78 : zI) (L79 : zL) (R80 : zR)  => zXok T77 R80 ∧ (T77 r76).1 = 14 ∧ P 1 (.ref r76) T77 I78 L79 R80))) ∧ (¬ r74 = 0 → zAW mX2_one d ((((b - 0) - 0) - b72) - 0) 68 [(0, .ref 1008), (1, .ref r64)] [] T65 (z2 I66 1008 5 ((I66 1008 5) - (1 : Int32))) L67 R68 P))))))))))))))) : zAW mX2_one d b 0 [(0, .ref 1008)] [] T I L R P := by
  refine za_aload_n (pc' := 1) 0 dX2_one_0 rfl rfl rfl ?_
  refine za_bipush (pc' := 3) dX2_one_1 zb8_40 rfl ?_
  obtain ⟨hd2, h⟩ := h
  refine za_callV (κ := 1008) (M2 := mX2_isSign) (d2 := 1) (b2 := 0) (n := 1) (As := [.int (40 : Int32)]) (st := []) (pc' := 6) zc1 (by decide) (congrArg Prod.fst (zX_t1008 hx)) dX2_one_3 rfl (lw_V q991 q993 qs29 q132 q994) ⟨rfl, hd_X2_isSign⟩ rfl (by decide) hd2 (Nat.zero_le _) (Or.inl rfl) (Nat.le_of_ble_eq_true rfl) h (zqI__k rfl (fun r1 h => ?_)) (fun _ _ _ _ _ _ h9 h8 => absurd h8.1 h9) rfl
  refine za_if_eq (pc' := 9) (tgt := 74) dX2_one_6 (by decide) rfl (fun c9 => ?_) (fun c9 => ?_)
  · replace h := h.1 c9
    refine za_aload_n (pc' := 75) 0 dX2_one_74 rfl rfl rfl ?_
    refine za_get (fi := 3) (v := .int (I 1008 3)) (pc' := 78) dX2_one_75 zc1 (by decide) in_X2 (by decide) q188 (Or.inl rfl) (congrArg Prod.fst (zX_t1008 hx)) rfl rfl ?_
    refine za_iconst (pc' := 79) dX2_one_78 zi_2 rfl ?_
    refine za_icmp_ne (pc' := 82) (tgt := 110) dX2_one_79 (by decide) rfl (fun c9 => ?_) (fun c9 => ?_)
    · replace h := h.2 c9
      refine za_aload_n (pc' := 111) 0 dX2_one_110 rfl rfl rfl ?_
      refine za_get (fi := 3) (v := .int (I 1008 3)) (pc' := 114) dX2_one_111 zc1 (by decide) in_X2 (by decide) q188 (Or.inl rfl) (congrArg Prod.fst (zX_t1008 hx)) rfl rfl ?_
      refine za_if_ne (pc' := 117) (tgt := 126) dX2_one_114 (by decide) rfl (fun c9 => ?_) (fun c9 => ?_)
      · replace h := h.2 c9
        refine za_aload_n (pc' := 127) 0 dX2_one_126 rfl rfl rfl ?_
        refine za_iconst (pc' := 128) dX2_one_127 zi_1 rfl ?_
        obtain ⟨hd9, h⟩ := h
        obtain ⟨b10, hb11, h⟩ := h
        refine za_callV (κ := 1008) (M2 := mX2_wrong) (d2 := 4) (b2 := b10) (n := 1) (As := [.int (1 : Int32)]) (st := []) (pc' := 131) zc1 (by decide) (congrArg Prod.fst (zX_t1008 hx)) dX2_one_128 rfl (lw_V q739 q741 qs8 q132 q742) ⟨rfl, hd_X2_wrong⟩ rfl (by decide) hd9 hb11 (Or.inl rfl) (Nat.le_of_ble_eq_true rfl) h (zqR_TILR_k rfl (fun r3 T4 I5 L6 R7 h => ?_)) (fun _ _ _ _ _ _ h9 h8 => absurd h8.1 h9) rfl
        obtain ⟨hx8, h⟩ := h
        obtain ⟨ht12, h⟩ := h
        exact za_athrow dX2_one_131 rfl (by decide) zc13 (by decide) ht12 rfl h
      · replace h := h.1 c9
        refine za_aload_n (pc' := 118) 0 dX2_one_117 rfl rfl rfl ?_
        refine za_get (fi := 4) (v := .int (I 1008 4)) (pc' := 121) dX2_one_118 zc1 (by decide) in_X2 (by decide) q189 (Or.inl rfl) (congrArg Prod.fst (zX_t1008 hx)) rfl rfl ?_
        refine za_bipush (pc' := 123) dX2_one_121 zb8_18 rfl ?_
        refine za_icmp_ge (pc' := 126) (tgt := 132) dX2_one_123 (by decide) rfl (fun c9 => ?_) (fun c9 => ?_)
        · replace h := h.1 c9
          obtain ⟨κ13, hk14, hf15, hb16, h⟩ := h
          refine za_new (κ := κ13) (pc' := 135) dX2_one_132 zc16 (by decide) in_X18 zok16 zdf16 q1012 q1013 q163 hk14 hf15 hb16 rfl ?_
          refine za_dup (pc' := 136) dX2_one_135 rfl rfl ?_
          refine za_aload_n (pc' := 137) 0 dX2_one_136 rfl rfl rfl ?_
          obtain ⟨hd23, h⟩ := h
          obtain ⟨b24, hb25, h⟩ := h
          refine za_callV (κ := 1008) (M2 := mX2_knot) (d2 := 7) (b2 := b24) (n := 0) (As := []) (st := [.ref κ13, .ref κ13]) (pc' := 140) zc1 (by decide) (congrArg Prod.fst (z1_tp hf15 (zX_t1008 hx) (by decide))) dX2_one_137 rfl (lw_V q997 q999 qs30 q132 q1000) ⟨rfl, hd_X2_knot⟩ rfl (by decide) hd23 hb25 (Or.inl rfl) (Nat.le_of_ble_eq_true rfl) h (zqI_TILRx_k rfl (fun r17 T18 I19 L20 R21 h => ?_)) (fun _ _ _ _ _ _ h9 h8 => h8.2 h9) rfl
          obtain ⟨hx22, h⟩ := h
          exact zAW_sub [] rfl h
        · replace h := h.2 c9
          refine za_aload_n (pc' := 127) 0 dX2_one_126 rfl rfl rfl ?_
          refine za_iconst (pc' := 128) dX2_one_127 zi_1 rfl ?_
          obtain ⟨hd32, h⟩ := h
          obtain ⟨b33, hb34, h⟩ := h
          refine za_callV (κ := 1008) (M2 := mX2_wrong) (d2 := 4) (b2 := b33) (n := 1) (As := [.int (1 : Int32)]) (st := []) (pc' := 131) zc1 (by decide) (congrArg Prod.fst (zX_t1008 hx)) dX2_one_128 rfl (lw_V q739 q741 qs8 q132 q742) ⟨rfl, hd_X2_wrong⟩ rfl (by decide) hd32 hb34 (Or.inl rfl) (Nat.le_of_ble_eq_true rfl) h (zqR_TILR_k rfl (fun r26 T27 I28 L29 R30 h => ?_)) (fun _ _ _ _ _ _ h9 h8 => absurd h8.1 h9) rfl
          obtain ⟨hx31, h⟩ := h
          obtain ⟨ht35, h⟩ := h
          exact za_athrow dX2_one_131 rfl (by decide) zc13 (by decide) ht35 rfl h
    · replace h := h.1 c9
      refine za_aload_n (pc' := 83) 0 dX2_one_82 rfl rfl rfl ?_
      refine za_get (fi := 4) (v := .int (I 1008 4)) (pc' := 86) dX2_one_83 zc1 (by decide) in_X2 (by decide) q189 (Or.inl rfl) (congrArg Prod.fst (zX_t1008 hx)) rfl rfl ?_
      refine za_sipush (pc' := 89) dX2_one_86 zb16_9999 rfl ?_
      refine za_icmp_le (pc' := 92) (tgt := 98) dX2_one_89 (by decide) rfl (fun c9 => ?_) (fun c9 => ?_)
      · replace h := h.1 c9
        obtain ⟨κ36, hk37, hf38, hb39, h⟩ := h
        refine za_new (κ := κ36) (pc' := 101) dX2_one_98 zc15 (by decide) in_X17 zok15 zdf15 q995 q996 q162 hk37 hf38 hb39 rfl ?_
        refine za_dup (pc' := 102) dX2_one_101 rfl rfl ?_
        refine za_aload_n (pc' := 103) 0 dX2_one_102 rfl rfl rfl ?_
        obtain ⟨hd46, h⟩ := h
        obtain ⟨b47, hb48, h⟩ := h
        refine za_callV (κ := 1008) (M2 := mX2_knot) (d2 := 7) (b2 := b47) (n := 0) (As := []) (st := [.ref κ36, .ref κ36]) (pc' := 106) zc1 (by decide) (congrArg Prod.fst (z1_tp hf38 (zX_t1008 hx) (by decide))) dX2_one_103 rfl (lw_V q997 q999 qs30 q132 q1000) ⟨rfl, hd_X2_knot⟩ rfl (by decide) hd46 hb48 (Or.inl rfl) (Nat.le_of_ble_eq_true rfl) h (zqI_TILRx_k rfl (fun r40 T41 I42 L43 R44 h => ?_)) (fun _ _ _ _ _ _ h9 h8 => h8.2 h9) rfl
        obtain ⟨hx45, h⟩ := h
        obtain ⟨ht51, h⟩ := h
        obtain ⟨hd50, h⟩ := h
        refine za_callI (κ := κ36) (M2 := mX17_init) (d2 := 2) (b2 := 0) (n := 1) (As := [.int r40]) (st := [.ref κ36]) (pc' := 109) (by rw [ht51]; decide) dX2_one_106 rfl (lw_meth q1003) rfl q1001 q1002 q162 rfl hd_X17_init rfl (by decide) hd50 (Nat.zero_le _) (Or.inl rfl) (Nat.le_of_ble_eq_true rfl) h (zqV_I_k rfl (fun I49 h => ?_)) (fun _ _ _ _ _ _ h9 h8 => absurd h8.1 h9) rfl
        exact za_areturn rfl dX2_one_109 (Or.inl ⟨_, rfl⟩) h
      · replace h := h.2 c9
        refine za_aload_n (pc' := 93) 0 dX2_one_92 rfl rfl rfl ?_
        refine za_iconst (pc' := 94) dX2_one_93 zi_2 rfl ?_
        obtain ⟨hd58, h⟩ := h
        obtain ⟨b59, hb60, h⟩ := h
        refine za_callV (κ := 1008) (M2 := mX2_wrong) (d2 := 4) (b2 := b59) (n := 1) (As := [.int (2 : Int32)]) (st := []) (pc' := 97) zc1 (by decide) (congrArg Prod.fst (zX_t1008 hx)) dX2_one_94 rfl (lw_V q739 q741 qs8 q132 q742) ⟨rfl, hd_X2_wrong⟩ rfl (by decide) hd58 hb60 (Or.inl rfl) (Nat.le_of_ble_eq_true rfl) h (zqR_TILR_k rfl (fun r52 T53 I54 L55 R56 h => ?_)) (fun _ _ _ _ _ _ h9 h8 => absurd h8.1 h9) rfl
        obtain ⟨hx57, h⟩ := h
        obtain ⟨ht61, h⟩ := h
        exact za_athrow dX2_one_97 rfl (by decide) zc13 (by decide) ht61 rfl h
  · replace h := h.2 c9
    refine za_aload_n (pc' := 10) 0 dX2_one_9 rfl rfl rfl ?_
    refine za_get (fi := 5) (v := .int (I 1008 5)) (pc' := 13) dX2_one_10 zc1 (by decide) in_X2 (by decide) q190 (Or.inl rfl) (congrArg Prod.fst (zX_t1008 hx)) rfl rfl ?_
    refine za_bipush (pc' := 15) dX2_one_13 zb8_8 rfl ?_
    refine za_icmp_ne (pc' := 18) (tgt := 24) dX2_one_15 (by decide) rfl (fun c9 => ?_) (fun c9 => ?_)
    · replace h := h.2 c9
      refine za_aload_n (pc' := 25) 0 dX2_one_24 rfl rfl rfl ?_
      refine za_dup (pc' := 26) dX2_one_25 rfl rfl ?_
      refine za_get (fi := 5) (v := .int (I 1008 5)) (pc' := 29) dX2_one_26 zc1 (by decide) in_X2 (by decide) q190 (Or.inl rfl) (congrArg Prod.fst (zX_t1008 hx)) rfl rfl ?_
      refine za_iconst (pc' := 30) dX2_one_29 zi_1 rfl ?_
      refine za_iadd (pc' := 31) dX2_one_30 rfl ?_
      refine za_putI (fi := 5) (pc' := 34) dX2_one_31 zc1 (by decide) in_X2 zok1 znm1 (by decide) q190 (Or.inl rfl) rfl rfl (fun _ _ _ => rfl) rfl rfl (congrArg Prod.fst (zX_t1008 hx)) rfl ?_
      refine za_aload_n (pc' := 35) 0 dX2_one_34 rfl rfl rfl ?_
      obtain ⟨hd63, h⟩ := h
      refine za_callV (κ := 1008) (M2 := mX2_next) (d2 := 6) (b2 := 0) (n := 0) (As := []) (st := []) (pc' := 38) zc1 (by decide) (congrArg Prod.fst (zX_t1008 hx)) dX2_one_35 rfl (lw_V q597 q599 qs1 q132 q600) ⟨rfl, hd_X2_next⟩ rfl (by decide) hd63 (Nat.zero_le _) (Or.inl rfl) (Nat.le_of_ble_eq_true rfl) h (zqV_I_k rfl (fun I62 h => ?_)) (fun _ _ _ _ _ _ h9 h8 => absurd h8.1 h9) rfl
      refine za_aload_n (pc' := 39) 0 dX2_one_38 rfl rfl rfl ?_
      obtain ⟨d70, hd71, h⟩ := h
      obtain ⟨b72, hb73, h⟩ := h
      refine za_callV (κ := 1008) (M2 := mX2_or) (d2 := d70) (b2 := b72) (n := 0) (As := []) (st := []) (pc' := 42) zc1 (by decide) (congrArg Prod.fst (zX_t1008 hx)) dX2_one_39 rfl (lw_V q963 q965 qs22 q132 q966) ⟨rfl, hd_X2_or⟩ rfl (by decide) hd71 hb73 (Or.inl rfl) (Nat.le_of_ble_eq_true rfl) h (zqR_TILRx_k rfl (fun r64 T65 I66 L67 R68 h => ?_)) (fun _ _ _ _ _ _ h9 h8 => h8.2 h9) rfl
      obtain ⟨hx69, h⟩ := h
      refine za_astore_n (pc' := 43) (l' := [(1, .ref r64), (0, .ref 1008)]) dX2_one_42 rfl (Nat.le_of_ble_eq_true rfl) rfl rfl ?_
      refine za_aload_n (pc' := 44) 1 dX2_one_43 rfl rfl rfl ?_
      refine za_bipush (pc' := 46) dX2_one_44 zb8_41 rfl ?_
      obtain ⟨hd75, h⟩ := h
      refine za_callV (κ := 1008) (M2 := mX2_isSign) (d2 := 1) (b2 := 0) (n := 1) (As := [.int (41 : Int32)]) (st := []) (pc' := 49) zc1 (by decide) (congrArg Prod.fst (zX_t1008 hx69)) dX2_one_46 rfl (lw_V q991 q993 qs29 q132 q994) ⟨rfl, hd_X2_isSign⟩ rfl (by decide) hd75 (Nat.zero_le _) (Or.inl rfl) (Nat.le_of_ble_eq_true rfl) h (zqI__k rfl (fun r74 h => ?_)) (fun _ _ _ _ _ _ h9 h8 => absurd h8.1 h9) rfl
      refine za_if_ne (pc' := 52) (tgt := 58) dX2_one_49 (by decide) rfl (fun c9 => ?_) (fun c9 => ?_)
      · replace h := h.2 c9
        refine za_aload_n (pc' := 59) 1 dX2_one_58 rfl rfl rfl ?_
        refine za_dup (pc' := 60) dX2_one_59 rfl rfl ?_
        refine za_get (fi := 5) (v := .int (I66 1008 5)) (pc' := 63) dX2_one_60 zc1 (by decide) in_X2 (by decide) q190 (Or.inl rfl) (congrArg Prod.fst (zX_t1008 hx69)) rfl rfl ?_
        refine za_iconst (pc' := 64) dX2_one_63 zi_1 rfl ?_
        refine za_isub (pc' := 65) dX2_one_64 rfl ?_
        refine za_putI (fi := 5) (pc' := 68) dX2_one_65 zc1 (by decide) in_X2 zok1 znm1 (by decide) q190 (Or.inl rfl) rfl rfl (fun _ _ _ => rfl) rfl rfl (congrArg Prod.fst (zX_t1008 hx69)) rfl ?_
        exact zAW_sub [1, 0] rfl h
      · replace h := h.1 c9
        refine za_aload_n (pc' := 53) 1 dX2_one_52 rfl rfl rfl ?_
        refine za_iconst (pc' := 54) dX2_one_53 zi_1 rfl ?_
        obtain ⟨hd82, h⟩ := h
        obtain ⟨b83, hb84, h⟩ := h
        refine za_callV (κ := 1008) (M2 := mX2_wrong) (d2 := 4) (b2 := b83) (n := 1) (As := [.int (1 : Int32)]) (st := []) (pc' := 57) zc1 (by decide) (congrArg Prod.fst (zX_t1008 hx69)) dX2_one_54 rfl (lw_V q739 q741 qs8 q132 q742) ⟨rfl, hd_X2_wrong⟩ rfl (by decide) hd82 hb84 (Or.inl rfl) (Nat.le_of_ble_eq_true rfl) h (zqR_TILR_k rfl (fun r76 T77 I78 L79 R80 h => ?_)) (fun _ _ _ _ _ _ h9 h8 => absurd h8.1 h9) rfl
        obtain ⟨hx81, h⟩ := h
        obtain ⟨ht85, h⟩ := h
        exact za_athrow dX2_one_57 rfl (by decide) zc13 (by decide) ht85 rfl h
    · replace h := h.1 c9
      refine za_aload_n (pc' := 19) 0 dX2_one_18 rfl rfl rfl ?_
      refine za_iconst (pc' := 20) dX2_one_19 zi_2 rfl ?_
      obtain ⟨hd92, h⟩ := h
      obtain ⟨b93, hb94, h⟩ := h
      refine za_callV (κ := 1008) (M2 := mX2_wrong) (d2 := 4) (b2 := b93) (n := 1) (As := [.int (2 : Int32)]) (st := []) (pc' := 23) zc1 (by decide) (congrArg Prod.fst (zX_t1008 hx)) dX2_one_20 rfl (lw_V q739 q741 qs8 q132 q742) ⟨rfl, hd_X2_wrong⟩ rfl (by decide) hd92 hb94 (Or.inl rfl) (Nat.le_of_ble_eq_true rfl) h (zqR_TILR_k rfl (fun r86 T87 I88 L89 R90 h => ?_)) (fun _ _ _ _ _ _ h9 h8 => absurd h8.1 h9) rfl
      obtain ⟨hx91, h⟩ := h
      obtain ⟨ht95, h⟩ := h
      exact za_athrow dX2_one_23 rfl (by decide) zc13 (by decide) ht95 rfl h
theorem gX2_one_68 {d : Nat} {b : Nat} {v1 : Nat} {T : zT} {I : zI} {L : zL} {R : zR} {P : zP} (hx : zXok T R) (h : 6 < d ∧ zMet mX2_next 6 0 [.ref 1008] T I L R (zqV_I T L R  (fun (I96 : zI)  => P 0 (.ref v1) T I96 L R))) : zAW mX2_one d b 68 [(0, .ref 1008), (1, .ref v1)] [] T I L R P := by
  refine za_aload_n (pc' := 69) 0 dX2_one_68 rfl rfl rfl ?_
  obtain ⟨hd97, h⟩ := h
  refine za_callV (κ := 1008) (M2 := mX2_next) (d2 := 6) (b2 := 0) (n := 0) (As := []) (st := []) (pc' := 72) zc1 (by decide) (congrArg Prod.fst (zX_t1008 hx)) dX2_one_69 rfl (lw_V q597 q599 qs1 q132 q600) ⟨rfl, hd_X2_next⟩ rfl (by decide) hd97 (Nat.zero_le _) (Or.inl rfl) (Nat.le_of_ble_eq_true rfl) h (zqV_I_k rfl (fun I96 h => ?_)) (fun _ _ _ _ _ _ h9 h8 => absurd h8.1 h9) rfl
  refine za_aload_n (pc' := 73) 1 dX2_one_72 rfl rfl rfl ?_
  exact za_areturn rfl dX2_one_73 (Or.inl ⟨_, rfl⟩) h
theorem gX2_one_140 {d : Nat} {b : Nat} {s0 : Int32} {s1 : Nat} {s2 : Nat} {T : zT} {I : zI} {L : zL} {R : zR} {P : zP} (hx : zXok T R) (h : (T s1).1 = 17 ∧ 2 < d ∧ zMet mX18_init 2 0 [.ref s1, .int (s0 - (18 : Int32))] T I L R (zqV_I T L R  (fun (I98 : zI)  => P 0 (.ref s2) T I98 L R))) : zAW mX2_one d b 140 [] [.int s0, .ref s1, .ref s2] T I L R P := by
  refine za_bipush (pc' := 142) dX2_one_140 zb8_18 rfl ?_
  refine za_isub (pc' := 143) dX2_one_142 rfl ?_
  obtain ⟨ht100, h⟩ := h
  obtain ⟨hd99, h⟩ := h
  refine za_callI (κ := s1) (M2 := mX18_init) (d2 := 2) (b2 := 0) (n := 1) (As := [.int (s0 - (18 : Int32))]) (st := [.ref s2]) (pc' := 146) (by rw [ht100]; decide) dX2_one_143 rfl (lw_meth q1016) rfl q1014 q1015 q163 rfl hd_X18_init rfl (by decide) hd99 (Nat.zero_le _) (Or.inl rfl) (Nat.le_of_ble_eq_true rfl) h (zqV_I_k rfl (fun I98 h => ?_)) (fun _ _ _ _ _ _ h9 h8 => absurd h8.1 h9) rfl
  exact za_areturn rfl dX2_one_146 (Or.inl ⟨_, rfl⟩) h
theorem sX2_one {d b : Nat}  {T : zT} {I : zI} {L : zL} {R : zR} {P : zP} (h : zAW mX2_one d b 0 [(0, .ref 1008)] [] T I L R P) : zMet mX2_one d b [.ref 1008] T I L R P := zMet_of (by decide +kernel) rfl (Nat.le_of_ble_eq_true rfl) rfl h
/-! TwoTongues$Reader.isSign (I)Z -/
def dkwX2_isSign_0 : List UInt8 := [42, 180, 0, 33, 6, 160, 0, 15, 42, 180, 0, 47, 27, 160, 0, 7, 4, 167, 0, 4, 3, 172]
abbrev dktX2_isSign_0 : List UInt8 := dkwX2_isSign_0 ++ []
theorem dksX2_isSign_0 : cX2_isSign.data.toList.drop 0 = dktX2_isSign_0 := by decide +kernel
theorem dX2_isSign_0 : decode cX2_isSign 0 = .ok (.aload_n 0, 1) := dk_42 (dk_at dksX2_isSign_0 0 rfl rfl)
theorem dX2_isSign_1 : decode cX2_isSign 1 = .ok (.getfield 33, 3) := dk_180 0 33 (dk_at dksX2_isSign_0 1 rfl rfl)
theorem dX2_isSign_4 : decode cX2_isSign 4 = .ok (.iconst 3, 1) := dk_6 (dk_at dksX2_isSign_0 4 rfl rfl)
theorem dX2_isSign_5 : decode cX2_isSign 5 = .ok (.if_icmp .ne 15, 3) := dk_160 0 15 (dk_at dksX2_isSign_0 5 rfl rfl)
theorem dX2_isSign_8 : decode cX2_isSign 8 = .ok (.aload_n 0, 1) := dk_42 (dk_at dksX2_isSign_0 8 rfl rfl)
theorem dX2_isSign_9 : decode cX2_isSign 9 = .ok (.getfield 47, 3) := dk_180 0 47 (dk_at dksX2_isSign_0 9 rfl rfl)
theorem dX2_isSign_12 : decode cX2_isSign 12 = .ok (.iload_n 1, 1) := dk_27 (dk_at dksX2_isSign_0 12 rfl rfl)
theorem dX2_isSign_13 : decode cX2_isSign 13 = .ok (.if_icmp .ne 7, 3) := dk_160 0 7 (dk_at dksX2_isSign_0 13 rfl rfl)
theorem dX2_isSign_16 : decode cX2_isSign 16 = .ok (.iconst 1, 1) := dk_4 (dk_at dksX2_isSign_0 16 rfl rfl)
theorem dX2_isSign_17 : decode cX2_isSign 17 = .ok (.goto 4, 3) := dk_167 0 4 (dk_at dksX2_isSign_0 17 rfl rfl)
theorem dX2_isSign_20 : decode cX2_isSign 20 = .ok (.iconst 0, 1) := dk_3 (dk_at dksX2_isSign_0 20 rfl rfl)
theorem dX2_isSign_21 : decode cX2_isSign 21 = .ok (.ireturn, 1) := dk_172 (dk_at dksX2_isSign_0 21 rfl rfl)
theorem gX2_isSign_0 {v1 : Int32} {T : zT} {I : zI} {L : zL} {R : zR} {P : zP} (hx : zXok T R) (h : (((I 1008 3) = (3 : Int32) → (((I 1008 4) = v1 → P 0 (.int (1 : Int32)) T I L R) ∧ (¬ (I 1008 4) = v1 → P 0 (.int (0 : Int32)) T I L R))) ∧ (¬ (I 1008 3) = (3 : Int32) → P 0 (.int (0 : Int32)) T I L R))) : zAW mX2_isSign 1 0 0 [(0, .ref 1008), (1, .int v1)] [] T I L R P := by
  refine za_aload_n (pc' := 1) 0 dX2_isSign_0 rfl rfl rfl ?_
  refine za_get (fi := 3) (v := .int (I 1008 3)) (pc' := 4) dX2_isSign_1 zc1 (by decide) in_X2 (by decide) q188 (Or.inl rfl) (congrArg Prod.fst (zX_t1008 hx)) rfl rfl ?_
  refine za_iconst (pc' := 5) dX2_isSign_4 zi_3 rfl ?_
  refine za_icmp_ne (pc' := 8) (tgt := 20) dX2_isSign_5 (by decide) rfl (fun c9 => ?_) (fun c9 => ?_)
  · replace h := h.2 c9
    refine za_iconst (pc' := 21) dX2_isSign_20 zi_0 rfl ?_
    exact za_zreturn rfl dX2_isSign_21 (by decide) h
  · replace h := h.1 c9
    refine za_aload_n (pc' := 9) 0 dX2_isSign_8 rfl rfl rfl ?_
    refine za_get (fi := 4) (v := .int (I 1008 4)) (pc' := 12) dX2_isSign_9 zc1 (by decide) in_X2 (by decide) q189 (Or.inl rfl) (congrArg Prod.fst (zX_t1008 hx)) rfl rfl ?_
    refine za_iload_n (pc' := 13) 1 dX2_isSign_12 rfl rfl rfl ?_
    refine za_icmp_ne (pc' := 16) (tgt := 20) dX2_isSign_13 (by decide) rfl (fun c9 => ?_) (fun c9 => ?_)
    · replace h := h.2 c9
      refine za_iconst (pc' := 21) dX2_isSign_20 zi_0 rfl ?_
      exact za_zreturn rfl dX2_isSign_21 (by decide) h
    · replace h := h.1 c9
      refine za_iconst (pc' := 17) dX2_isSign_16 zi_1 rfl ?_
      refine za_goto (tgt := 21) dX2_isSign_17 (by decide) ?_
      exact za_zreturn rfl dX2_isSign_21 (by decide) h
theorem sX2_isSign {d b : Nat} {v1 : Int32} {T : zT} {I : zI} {L : zL} {R : zR} {P : zP} (h : zAW mX2_isSign d b 0 [(0, .ref 1008), (1, .int v1)] [] T I L R P) : zMet mX2_isSign d b [.ref 1008, .int v1] T I L R P := zMet_of (by decide +kernel) rfl (Nat.le_of_ble_eq_true rfl) rfl h
/-! TwoTongues$Reader.knot ()I -/
def dkwX2_knot_1 : List UInt8 := [180, 0, 247, 4, 96, 181, 0, 247, 42, 180, 0, 47, 60, 42, 182, 0, 89, 27, 172]
abbrev dktX2_knot_1 : List UInt8 := dkwX2_knot_1 ++ []
def dkwX2_knot_0 : List UInt8 := [42, 180, 0, 101, 180, 0, 247, 16, 64, 160, 0, 9, 42, 5, 182, 0, 85, 191, 42, 180, 0, 101, 89]
abbrev dktX2_knot_0 : List UInt8 := dkwX2_knot_0 ++ dktX2_knot_1
theorem dksX2_knot_0 : cX2_knot.data.toList.drop 0 = dktX2_knot_0 := by decide +kernel
theorem dksX2_knot_1 : cX2_knot.data.toList.drop 23 = dktX2_knot_1 := dk_seg dksX2_knot_0 23 rfl rfl
theorem dX2_knot_0 : decode cX2_knot 0 = .ok (.aload_n 0, 1) := dk_42 (dk_at dksX2_knot_0 0 rfl rfl)
theorem dX2_knot_1 : decode cX2_knot 1 = .ok (.getfield 101, 3) := dk_180 0 101 (dk_at dksX2_knot_0 1 rfl rfl)
theorem dX2_knot_4 : decode cX2_knot 4 = .ok (.getfield 247, 3) := dk_180 0 247 (dk_at dksX2_knot_0 4 rfl rfl)
theorem dX2_knot_7 : decode cX2_knot 7 = .ok (.bipush 64, 2) := dk_16 64 (dk_at dksX2_knot_0 7 rfl rfl)
theorem dX2_knot_9 : decode cX2_knot 9 = .ok (.if_icmp .ne 9, 3) := dk_160 0 9 (dk_at dksX2_knot_0 9 rfl rfl)
theorem dX2_knot_12 : decode cX2_knot 12 = .ok (.aload_n 0, 1) := dk_42 (dk_at dksX2_knot_0 12 rfl rfl)
theorem dX2_knot_13 : decode cX2_knot 13 = .ok (.iconst 2, 1) := dk_5 (dk_at dksX2_knot_0 13 rfl rfl)
theorem dX2_knot_14 : decode cX2_knot 14 = .ok (.invokevirtual 85, 3) := dk_182 0 85 (dk_at dksX2_knot_0 14 rfl rfl)
theorem dX2_knot_17 : decode cX2_knot 17 = .ok (.athrow, 1) := dk_191 (dk_at dksX2_knot_0 17 rfl rfl)
theorem dX2_knot_18 : decode cX2_knot 18 = .ok (.aload_n 0, 1) := dk_42 (dk_at dksX2_knot_0 18 rfl rfl)
theorem dX2_knot_19 : decode cX2_knot 19 = .ok (.getfield 101, 3) := dk_180 0 101 (dk_at dksX2_knot_0 19 rfl rfl)
theorem dX2_knot_22 : decode cX2_knot 22 = .ok (.dup, 1) := dk_89 (dk_at dksX2_knot_0 22 rfl rfl)
theorem dX2_knot_23 : decode cX2_knot 23 = .ok (.getfield 247, 3) := dk_180 0 247 (dk_at dksX2_knot_1 0 rfl rfl)
theorem dX2_knot_26 : decode cX2_knot 26 = .ok (.iconst 1, 1) := dk_4 (dk_at dksX2_knot_1 3 rfl rfl)
theorem dX2_knot_27 : decode cX2_knot 27 = .ok (.iadd, 1) := dk_96 (dk_at dksX2_knot_1 4 rfl rfl)
theorem dX2_knot_28 : decode cX2_knot 28 = .ok (.putfield 247, 3) := dk_181 0 247 (dk_at dksX2_knot_1 5 rfl rfl)
theorem dX2_knot_31 : decode cX2_knot 31 = .ok (.aload_n 0, 1) := dk_42 (dk_at dksX2_knot_1 8 rfl rfl)
theorem dX2_knot_32 : decode cX2_knot 32 = .ok (.getfield 47, 3) := dk_180 0 47 (dk_at dksX2_knot_1 9 rfl rfl)
theorem dX2_knot_35 : decode cX2_knot 35 = .ok (.istore_n 1, 1) := dk_60 (dk_at dksX2_knot_1 12 rfl rfl)
theorem dX2_knot_36 : decode cX2_knot 36 = .ok (.aload_n 0, 1) := dk_42 (dk_at dksX2_knot_1 13 rfl rfl)
theorem dX2_knot_37 : decode cX2_knot 37 = .ok (.invokevirtual 89, 3) := dk_182 0 89 (dk_at dksX2_knot_1 14 rfl rfl)
theorem dX2_knot_40 : decode cX2_knot 40 = .ok (.iload_n 1, 1) := dk_27 (dk_at dksX2_knot_1 17 rfl rfl)
theorem dX2_knot_41 : decode cX2_knot 41 = .ok (.ireturn, 1) := dk_172 (dk_at dksX2_knot_1 18 rfl rfl)
theorem gX2_knot_0 {b : Nat}  {T : zT} {I : zI} {L : zL} {R : zR} {P : zP} (hx : zXok T R) (h : (T (R 1008 7)).1 = 3 ∧ (((I (R 1008 7) 16) = (64 : Int32) → ∃ b9, b9 ≤ b ∧ zMet mX2_wrong 4 b9 [.ref 1008, .int (2 : Int32)] T I L R (zqR_TILR   (fun (r3 : Nat) (T4 : zT) (I5 : zI) (L6 : zL) (R7 : zR)  => zXok T4 R7 ∧ (T4 r3).1 = 14 ∧ P 1 (.ref r3) T4 I5 L6 R7))) ∧ (¬ (I (R 1008 7) 16) = (64 : Int32) → zMet mX2_next 6 0 [.ref 1008] T (z2 I (R 1008 7) 16 ((I (R 1008 7) 16) + (1 : Int32))) L R (zqV_I T L R  (fun (I2 : zI)  => P 0 (.int (I 1008 4)) T I2 L R))))) : zAW mX2_knot 7 b 0 [(0, .ref 1008)] [] T I L R P := by
  refine za_aload_n (pc' := 1) 0 dX2_knot_0 rfl rfl rfl ?_
  refine za_get (fi := 7) (v := .ref (R 1008 7)) (pc' := 4) dX2_knot_1 zc1 (by decide) in_X2 (by decide) q192 (Or.inl rfl) (congrArg Prod.fst (zX_t1008 hx)) rfl rfl ?_
  obtain ⟨ht1, h⟩ := h
  refine za_getN (fi := 16) (v := .int (I (R 1008 7) 16)) (pc' := 7) dX2_knot_4 zc2 (by decide) in_X3 (by decide) q312 (Or.inl rfl) ht1 rfl rfl ?_
  refine za_bipush (pc' := 9) dX2_knot_7 zb8_64 rfl ?_
  refine za_icmp_ne (pc' := 12) (tgt := 18) dX2_knot_9 (by decide) rfl (fun c9 => ?_) (fun c9 => ?_)
  · replace h := h.2 c9
    refine za_aload_n (pc' := 19) 0 dX2_knot_18 rfl rfl rfl ?_
    refine za_get (fi := 7) (v := .ref (R 1008 7)) (pc' := 22) dX2_knot_19 zc1 (by decide) in_X2 (by decide) q192 (Or.inl rfl) (congrArg Prod.fst (zX_t1008 hx)) rfl rfl ?_
    refine za_dup (pc' := 23) dX2_knot_22 rfl rfl ?_
    refine za_getN (fi := 16) (v := .int (I (R 1008 7) 16)) (pc' := 26) dX2_knot_23 zc2 (by decide) in_X3 (by decide) q312 (Or.inl rfl) ht1 rfl rfl ?_
    refine za_iconst (pc' := 27) dX2_knot_26 zi_1 rfl ?_
    refine za_iadd (pc' := 28) dX2_knot_27 rfl ?_
    refine za_putNI (fi := 16) (pc' := 31) dX2_knot_28 zc2 (by decide) in_X3 zok2 znm2 (by decide) q312 (Or.inl rfl) rfl rfl (fun _ _ _ => rfl) rfl rfl ht1 rfl ?_
    refine za_aload_n (pc' := 32) 0 dX2_knot_31 rfl rfl rfl ?_
    refine za_get (fi := 4) (v := .int (I 1008 4)) (pc' := 35) dX2_knot_32 zc1 (by decide) in_X2 (by decide) q189 (Or.inl rfl) (congrArg Prod.fst (zX_t1008 hx)) (congrArg Value.int (z2_nk (by decide))) rfl ?_
    refine za_istore_n (pc' := 36) (l' := [(1, .int (I 1008 4)), (0, .ref 1008)]) dX2_knot_35 rfl (Nat.le_of_ble_eq_true rfl) rfl rfl ?_
    refine za_aload_n (pc' := 37) 1 dX2_knot_36 rfl rfl rfl ?_
    refine za_callV (κ := 1008) (M2 := mX2_next) (d2 := 6) (b2 := 0) (n := 0) (As := []) (st := []) (pc' := 40) zc1 (by decide) (congrArg Prod.fst (zX_t1008 hx)) dX2_knot_37 rfl (lw_V q597 q599 qs1 q132 q600) ⟨rfl, hd_X2_next⟩ rfl (by decide) (by decide) (Nat.zero_le _) (Or.inl rfl) (Nat.le_of_ble_eq_true rfl) h (zqV_I_k rfl (fun I2 h => ?_)) (fun _ _ _ _ _ _ h9 h8 => absurd h8.1 h9) rfl
    refine za_iload_n (pc' := 41) 0 dX2_knot_40 rfl rfl rfl ?_
    exact za_ireturn rfl dX2_knot_41 h
  · replace h := h.1 c9
    refine za_aload_n (pc' := 13) 0 dX2_knot_12 rfl rfl rfl ?_
    refine za_iconst (pc' := 14) dX2_knot_13 zi_2 rfl ?_
    obtain ⟨b9, hb10, h⟩ := h
    refine za_callV (κ := 1008) (M2 := mX2_wrong) (d2 := 4) (b2 := b9) (n := 1) (As := [.int (2 : Int32)]) (st := []) (pc' := 17) zc1 (by decide) (congrArg Prod.fst (zX_t1008 hx)) dX2_knot_14 rfl (lw_V q739 q741 qs8 q132 q742) ⟨rfl, hd_X2_wrong⟩ rfl (by decide) (by decide) hb10 (Or.inl rfl) (Nat.le_of_ble_eq_true rfl) h (zqR_TILR_k rfl (fun r3 T4 I5 L6 R7 h => ?_)) (fun _ _ _ _ _ _ h9 h8 => absurd h8.1 h9) rfl
    obtain ⟨hx8, h⟩ := h
    obtain ⟨ht11, h⟩ := h
    exact za_athrow dX2_knot_17 rfl (by decide) zc13 (by decide) ht11 rfl h
theorem sX2_knot {d b : Nat}  {T : zT} {I : zI} {L : zL} {R : zR} {P : zP} (h : zAW mX2_knot d b 0 [(0, .ref 1008)] [] T I L R P) : zMet mX2_knot d b [.ref 1008] T I L R P := zMet_of (by decide +kernel) rfl (Nat.le_of_ble_eq_true rfl) rfl h
