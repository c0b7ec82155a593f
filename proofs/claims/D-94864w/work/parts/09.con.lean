/-! ROWS over the constants of the start; new X(); handlers -/
section ZCON
variable {M M2 : zM} {d d2 b b2 pc pc' : Nat} {l l' : List (Nat × Value)} {st st' : List Value} {T : zT} {I : zI} {L : zL} {R : zR} {P P2 : zP}
variable {below : List Frame} {e : Env}
theorem zc_con {cst : Nat → Option Nat} {θ : Nat → Nat} {κ a : Nat} (h : κ < 100) (e : cst κ = some a) : zc cst θ (.ref κ) = .ref a := by
  show va_rf (if κ < 100 then cst κ else some (θ κ)) = _
  rw [if_pos h, e]
  rfl
theorem za_getNames {idx : Nat} {host : String} (hdg : decode M.2.2.1 pc = .ok (.getstatic idx, 3)) (hq : Cond.fieldLinkNest M.1 idx RX1 "NAMES" "[Ljava/lang/String;" host ∈ lw_tbl) (hp : pc + 3 = pc') (k : zAW M d b pc' l (.ref 5 :: st) T I L R P) : zAW M d b pc l (st) T I L R P := by
  subst hp
  intro ln D cst dA A p e Rm s m args below meth c bs θ0 T0 θ H locs cells slots ls G
  obtain ⟨t, ht, hZ, -⟩ := G.1.2.2.2.2.2.2.2.2.2.1.2.2.2.2.2.2.2.1
  have hk := k ln D cst dA A p e Rm s m args below meth c bs θ0 T0 θ H locs cells slots ls (G.stk fun h => zl_c (Or.inl (by decide)) h)
  rw [List.map_cons, zc_con (by decide) ht] at hk
  exact va_getsN G.1.1 G.1.2.1 hZ G.2.2.2.1 G.1.2.2.2.2.1 (z_isN G.1.2.2.2.2.2.2.2.2.2.1 hq rfl rfl) (fun _ h => h) hdg hk
theorem za_compact {idx : Nat} (hdg : decode M.2.2.1 pc = .ok (.getstatic idx, 3)) (hq : Cond.fieldLink M.1 idx "java/lang/String" "COMPACT_STRINGS" "Z" ∈ lw_all) (hp : pc + 3 = pc') (k : zAW M d b pc' l (.int 1 :: st) T I L R P) : zAW M d b pc l (st) T I L R P := by
  subst hp
  intro ln D cst dA A p e Rm s m args below meth c bs θ0 T0 θ H locs cells slots ls G
  have hk := k ln D cst dA A p e Rm s m args below meth c bs θ0 T0 θ H locs cells slots ls (G.stk fun h => zl_c trivial h)
  exact va_gets G.1.1 G.1.2.1 G.1.2.2.2.2.2.2.2.2.2.1.2.2.2.2.2.2.2.2.2.1 G.2.2.2.1 G.1.2.2.2.2.1 (G.1.2.2.2.2.2.1 _ hq) (fun _ h => h) hdg hk
theorem za_sioobe {idx : Nat} (hdg : decode M.2.2.1 pc = .ok (.getstatic idx, 3)) (hq : Cond.fieldLink M.1 idx "jdk/internal/util/Preconditions" "SIOOBE_FORMATTER" "Ljava/util/function/BiFunction;" ∈ lw_all) (hp : pc + 3 = pc') (k : zAW M d b pc' l (.ref 6 :: st) T I L R P) : zAW M d b pc l (st) T I L R P := by
  subst hp
  intro ln D cst dA A p e Rm s m args below meth c bs θ0 T0 θ H locs cells slots ls G
  have hk := k ln D cst dA A p e Rm s m args below meth c bs θ0 T0 θ H locs cells slots ls (G.stk fun h => zl_c (Or.inl (by decide)) h)
  exact va_gets G.1.1 G.1.2.1 G.1.2.2.2.2.2.2.2.2.2.1.2.2.2.2.2.2.2.2.2.2.2.2.1 G.2.2.2.1 G.1.2.2.2.2.1 (G.1.2.2.2.2.2.1 _ hq) (fun _ h => h) hdg hk
theorem za_namesLen  (hdg : decode M.2.2.1 pc = .ok (.arraylength, 1))  (hp : pc + 1 = pc') (k : zAW M d b pc' l (.int 24 :: st) T I L R P) : zAW M d b pc l (.ref 5 :: st) T I L R P := by
  subst hp
  intro ln D cst dA A p e Rm s m args below meth c bs θ0 T0 θ H locs cells slots ls G
  obtain ⟨t, ht, -, hT9⟩ := G.1.2.2.2.2.2.2.2.2.2.1.2.2.2.2.2.2.2.1
  have hk := k ln D cst dA A p e Rm s m args below meth c bs θ0 T0 θ H locs cells slots ls (G.stk fun h => zl_c trivial (zl_t h))
  rw [List.map_cons, zc_con (by decide) ht]
  exact va_tlen G.1.1 G.1.2.1 hT9 G.2.2.2.1 rfl hdg hk
theorem za_namesAt {i : Int32} {r : Nat} (hdg : decode M.2.2.1 pc = .ok (.aaload, 1)) (hi : vp_in i 24) (hr : 10 + i.toNatClampNeg = r) (hp : pc + 1 = pc') (k : zAW M d b pc' l (.ref r :: st) T I L R P) : zAW M d b pc l (.int i :: .ref 5 :: st) T I L R P := by
  subst hp
  intro ln D cst dA A p e Rm s m args below meth c bs θ0 T0 θ H locs cells slots ls G
  obtain ⟨t, ht, -, hT9⟩ := G.1.2.2.2.2.2.2.2.2.2.1.2.2.2.2.2.2.2.1
  have h9 : i.toNatClampNeg < 24 := Nat.not_le.mp (fun q => hi (Or.inr q))
  have hk := k ln D cst dA A p e Rm s m args below meth c bs θ0 T0 θ H locs cells slots ls (G.stk fun h => zl_c (Or.inl (by have := vp_in_iff.mp hi; have h9 : i.toNatClampNeg < 24 := Nat.not_le.mp (fun q => hi (Or.inr q)); omega)) (zl_t (zl_t h)))
  rw [List.map_cons] at hk
  rw [List.map_cons, List.map_cons, zc_con (by decide) ht]
  have e9 : zc cst θ (.ref r) = va_rf (cst (10 + i.toNatClampNeg)) := by rw [hr]; show va_rf (if r < 100 then cst r else some (θ r)) = _; rw [if_pos (by omega)]
  rw [e9] at hk
  exact vb_tq G.1.1 G.1.2.1 hT9 G.2.2.2.1 hi rfl hdg hk
theorem za_ldcOps {idx : Nat} (hdg : decode M.2.2.1 pc = .ok (.ldc idx, 2)) (hid : idx = 61) (hown2 : M.1 = RX2) (hp : pc + 2 = pc') (k : zAW M d b pc' l (.ref 34 :: st) T I L R P) : zAW M d b pc l (st) T I L R P := by
  subst hp
  intro ln D cst dA A p e Rm s m args below meth c bs θ0 T0 θ H locs cells slots ls G
  obtain ⟨adK, adV, ha, hS9, hR9⟩ := G.1.2.2.2.2.2.2.2.2.2.1.2.2.2.2.2.2.1
  have hk := k ln D cst dA A p e Rm s m args below meth c bs θ0 T0 θ H locs cells slots ls (G.stk fun h => zl_c (Or.inl (by decide)) h)
  rw [List.map_cons, zc_con (by decide) (ha 24 (by decide)).1] at hk
  subst hid
  rw [← hown2] at hR9
  exact va_ldcS G.1.1 G.1.2.1 G.1.2.2.2.2.1 hR9 hdg hk
theorem za_strVal {idx κ : Nat} (hdg : decode M.2.2.1 pc = .ok (.getfield idx, 3)) (hκ : 10 ≤ κ ∧ κ < 35) (hq : Cond.fieldLink M.1 idx "java/lang/String" "value" "[B" ∈ lw_all) (hp : pc + 3 = pc') (k : zAW M d b pc' l (.ref (κ + 40) :: st) T I L R P) : zAW M d b pc l (.ref κ :: st) T I L R P := by
  subst hp
  intro ln D cst dA A p e Rm s m args below meth c bs θ0 T0 θ H locs cells slots ls G
  obtain ⟨adK, adV, ha, hS9, hR9⟩ := G.1.2.2.2.2.2.2.2.2.2.1.2.2.2.2.2.2.1
  have h25 : κ - 10 < 25 := by omega
  have e1 := (ha _ h25).1
  have e2 := (ha _ h25).2
  rw [show 10 + (κ - 10) = κ by omega] at e1
  rw [show 50 + (κ - 10) = κ + 40 by omega] at e2
  have hk := k ln D cst dA A p e Rm s m args below meth c bs θ0 T0 θ H locs cells slots ls (G.stk fun h => zl_c (Or.inl (by omega)) (zl_t h))
  rw [List.map_cons, zc_con (by omega) e2] at hk
  rw [List.map_cons, zc_con (by omega) e1]
  exact vk_getf G.1.1 G.1.2.1 (hS9.1 _ h25).2.2.1 G.2.2.2.1 G.1.2.2.2.2.1 (G.1.2.2.2.2.2.1 _ hq) (fun _ h => h) hdg hk
theorem za_strCoder {idx κ : Nat} (hdg : decode M.2.2.1 pc = .ok (.getfield idx, 3)) (hκ : 10 ≤ κ ∧ κ < 35) (hq : Cond.fieldLink M.1 idx "java/lang/String" "coder" "B" ∈ lw_all) (hp : pc + 3 = pc') (k : zAW M d b pc' l (.int 0 :: st) T I L R P) : zAW M d b pc l (.ref κ :: st) T I L R P := by
  subst hp
  intro ln D cst dA A p e Rm s m args below meth c bs θ0 T0 θ H locs cells slots ls G
  obtain ⟨adK, adV, ha, hS9, hR9⟩ := G.1.2.2.2.2.2.2.2.2.2.1.2.2.2.2.2.2.1
  have h25 : κ - 10 < 25 := by omega
  have e1 := (ha _ h25).1
  rw [show 10 + (κ - 10) = κ by omega] at e1
  have hk := k ln D cst dA A p e Rm s m args below meth c bs θ0 T0 θ H locs cells slots ls (G.stk fun h => zl_c trivial (zl_t h))
  rw [List.map_cons, zc_con (by omega) e1]
  exact vk_getf G.1.1 G.1.2.1 (hS9.1 _ h25).2.1 G.2.2.2.1 G.1.2.2.2.2.1 (G.1.2.2.2.2.2.1 _ hq) (fun _ h => h) hdg hk
theorem za_conLen {κ : Nat} {v : Int32} (hdg : decode M.2.2.1 pc = .ok (.arraylength, 1)) (hκ : 50 ≤ κ ∧ κ < 75) (hv : nI (zlen.getD (κ - 50) 0) = v) (hp : pc + 1 = pc') (k : zAW M d b pc' l (.int v :: st) T I L R P) : zAW M d b pc l (.ref κ :: st) T I L R P := by
  subst hp
  intro ln D cst dA A p e Rm s m args below meth c bs θ0 T0 θ H locs cells slots ls G
  obtain ⟨adK, adV, ha, hS9, hR9⟩ := G.1.2.2.2.2.2.2.2.2.2.1.2.2.2.2.2.2.1
  have h25 : κ - 50 < 25 := by omega
  have e1 := (ha _ h25).2
  rw [show 50 + (κ - 50) = κ by omega] at e1
  have hk := k ln D cst dA A p e Rm s m args below meth c bs θ0 T0 θ H locs cells slots ls (G.stk fun h => zl_c trivial (zl_t h))
  rw [List.map_cons, zc_con (by omega) e1]
  exact va_tlen G.1.1 G.1.2.1 (hS9.1 _ h25).2.2.2 G.2.2.2.1 hv hdg hk
theorem za_conAt {κ : Nat} {i v : Int32} (hdg : decode M.2.2.1 pc = .ok (.baload, 1)) (hκ : 50 ≤ κ ∧ κ < 75) (hi : vp_in i (zlen.getD (κ - 50) 0)) (hv : (zbyt.getD (κ - 50) []).getD i.toNatClampNeg 0 = v) (hp : pc + 1 = pc') (k : zAW M d b pc' l (.int v :: st) T I L R P) : zAW M d b pc l (.int i :: .ref κ :: st) T I L R P := by
  subst hp
  intro ln D cst dA A p e Rm s m args below meth c bs θ0 T0 θ H locs cells slots ls G
  obtain ⟨adK, adV, ha, hS9, hR9⟩ := G.1.2.2.2.2.2.2.2.2.2.1.2.2.2.2.2.2.1
  have h25 : κ - 50 < 25 := by omega
  have e1 := (ha _ h25).2
  rw [show 50 + (κ - 50) = κ by omega] at e1
  have hk := k ln D cst dA A p e Rm s m args below meth c bs θ0 T0 θ H locs cells slots ls (G.stk fun h => zl_c trivial (zl_t (zl_t h)))
  rw [List.map_cons, List.map_cons, zc_con (by omega) e1]
  subst hv
  exact va_tb G.1.1 G.1.2.1 (hS9.1 _ h25).2.2.2 G.2.2.2.1 hi rfl hdg hk
theorem za_scrLen {x9 : Nat × (Nat → Int32)} {v : Int32} (hdg : decode M.2.2.1 pc = .ok (.arraylength, 1)) (hx : M.2.2.2.2.2.2 = some x9) (hv : nI x9.1 = v) (hp : pc + 1 = pc') (k : zAW M d b pc' l (.int v :: st) T I L R P) : zAW M d b pc l (.ref 1 :: st) T I L R P := by
  subst hp
  intro ln D cst dA A p e Rm s m args below meth c bs θ0 T0 θ H locs cells slots ls G
  have hs9 := G.1.2.2.2.2.2.2.2.2.2.2
  unfold zscr at hs9
  rw [hx] at hs9
  obtain ⟨b9, e1, hX9, hb9, hA9⟩ := hs9
  have hk := k ln D cst dA A p e Rm s m args below meth c bs θ0 T0 θ H locs cells slots ls (G.stk fun h => zl_c trivial (zl_t h))
  rw [List.map_cons, zc_con (by decide) e1]
  subst hv
  exact va_slen G.1.1 G.1.2.1 hX9 hb9 hA9 G.2.2.2.1 hdg hk
theorem za_scrAt {x9 : Nat × (Nat → Int32)} {i v : Int32} (hdg : decode M.2.2.1 pc = .ok (.iaload, 1)) (hx : M.2.2.2.2.2.2 = some x9) (hi : vp_in i x9.1) (hv : x9.2 i.toNatClampNeg = v) (hp : pc + 1 = pc') (k : zAW M d b pc' l (.int v :: st) T I L R P) : zAW M d b pc l (.int i :: .ref 1 :: st) T I L R P := by
  subst hp
  intro ln D cst dA A p e Rm s m args below meth c bs θ0 T0 θ H locs cells slots ls G
  have hs9 := G.1.2.2.2.2.2.2.2.2.2.2
  unfold zscr at hs9
  rw [hx] at hs9
  obtain ⟨b9, e1, hX9, hb9, hA9⟩ := hs9
  have hk := k ln D cst dA A p e Rm s m args below meth c bs θ0 T0 θ H locs cells slots ls (G.stk fun h => zl_c trivial (zl_t (zl_t h)))
  rw [List.map_cons, List.map_cons, zc_con (by decide) e1]
  subst hv
  exact va_sld G.1.1 G.1.2.1 hX9 hb9 hA9 G.2.2.2.1 hi hdg hk
theorem za_callVS {n idx κ : Nat} {As : List Value} (hκ : 10 ≤ κ ∧ κ < 35) (hdg : decode M.2.2.1 pc = .ok (.invokevirtual idx, 3)) (hh : M2.2.2.2.2.2.1 = []) (hT9 : GoodIn lw_all (wsV M.1 idx "java/lang/String" M2.2.1 (zws M2))) (hd : M2.2.1.cls = "java/lang/String" ∧ M2.2.1.cls ≠ "java/lang/invoke/MethodHandle" ∧ M2.2.1.cls ≠ "java/lang/invoke/VarHandle" ∧ (parseMethodDescriptor M2.2.1.desc).map (fun d => d.parameters.length) = some n) (hn : As.length = n) (hL : M2.2.2.2.1 ≤ 45) (hdd : d2 < d) (hbb : b2 ≤ b) (hM0 : M.2.2.2.2.2.1 = [] ∨ ∀ o v T I L R, o ≠ 0 → ¬ P2 o v T I L R) (hw : (st.map fun v => v.category).sum ≤ 8) (hM : zMet M2 d2 b2 (.ref κ :: As) T I L R P2) (kk : ∀ v T I L R, P2 0 v T I L R → zAW M d (b - b2) pc' l (zvs M2 v ++ st) T I L R P) (kx : ∀ o v T I L R, o ≠ 0 → P2 o v T I L R → P o v T I L R) (hp : pc + 3 = pc') : zAW M d b pc l (As.reverse ++ .ref κ :: st) T I L R P := by
  subst hp
  intro ln D cst dA A p e Rm s m args below meth c bs θ0 T0 θ H locs cells slots ls G
  have hlall := G.2.2.2.2.2.2.2
  have hlst : ∀ v ∈ st, zlv T v := fun v h => hlall v (List.mem_append_right _ (List.mem_cons_of_mem _ h))
  have hlAs : ∀ v ∈ As, zlv T v := fun v h => hlall v (List.mem_append_left _ (List.mem_reverse.mpr h))
  obtain ⟨adK, adV, ha, hS9, hR9⟩ := G.1.2.2.2.2.2.2.2.2.2.1.2.2.2.2.2.2.1
  have h25 : κ - 10 < 25 := by omega
  have e1 := (ha _ h25).1
  rw [show 10 + (κ - 10) = κ by omega] at e1
  have e2 := zc_con (θ := θ) (show κ < 100 by omega) e1
  have hrec := vk_recv hS9 h25 G.2.2.2.1
  have hpc := fun U hU hW => zPc_at G (av := .ref κ :: As) (zl_c (Or.inl (by omega)) hlAs) U hU hW
  rw [List.map_cons, e2] at hpc
  rw [zMapRev, e2]
  have hcw := cwV n G.1.2.2.2.2.2.1 hT9 (zws_p hh) rfl rfl hd (show (zroom d2 b2).frames + 1 ≤ Rm.frames ∧ 8 + (M2.2.2.2.1 + 11) + (zroom d2 b2).locals ≤ Rm.locals from ⟨by have := G.2.1; show d2 + 1 ≤ Rm.frames; omega, by have := G.2.1; show 8 + (M2.2.2.2.1 + 11) + 64 * d2 ≤ Rm.locals; omega⟩)
  refine zcall (M2 := M2) G hM0 hbb hlst (vx_runV (⟨G.1.1, G.1.2.1, rfl, G.1.2.2.2.2.1, G.1.2.2.2.2.2.1⟩) (hM ln D cst dA A θ) hcw ⟨zPc_blind, hrec, hpc⟩ rfl (by rw [List.length_map]; exact hn) (G.2.2.2.2.2.1.1.trans G.1.2.2.2.1.symm) rfl (zst_room rfl hw) hdg (by have := G.2.1; omega)) kk kx
theorem za_make0 {ik ic ci κ pc2 : Nat} {C : String} {names : List String} (hdg0 : decode M.2.2.1 pc = .ok (.new ik, 3)) (hdg3 : decode M.2.2.1 (pc + 3) = .ok (.dup, 1)) (hdg4 : decode M.2.2.1 (pc + 4) = .ok (.invokespecial ic, 3))
    (hcls : Bundle.fit C = true) (hnames : ∀ n ∈ names, Bundle.fit n = true) (hq1 : Cond.classLink M.1 ik C ∈ lw_all) (hq2 : Cond.initialized C ∈ lw_all) (hat : ∀ w ∈ vx_at0 M.1 ic C names, w ∈ lw_tbl) (hgood : ∀ w ∈ Cond.classLink M.1 ik C :: Cond.initialized C :: vx_at0 M.1 ic C names, vx_ot w = true) (hat2 : ∀ w ∈ vx_at0 M.1 ic C names, w ∈ lw_all ∨ (zisN w = true ∧ w.onTables = true)) (hc : zcl[ci]? = some (C, zt0, 0)) (hci : ci < 99) (hd : names.length + 3 < d) (hd2 : 13 * (names.length + 1) + 50 ≤ 64 * d) (hw : (st.map fun v => v.category).sum ≤ 8) (h100 : 100 ≤ κ) (hT : (T κ).1 = 0) (hb : 6 ≤ b) (hp : pc + 7 = pc2)
    (k : zAW M d (b - 6) pc2 l (.ref κ :: st) (z1 T κ (ci + 1, 0)) (z1 I κ fun _ => 0) (z1 L κ fun _ => 0) (z1 R κ fun _ => 0) P) : zAW M d b pc l st T I L R P := by
  subst hp
  intro ln D cst dA A p e Rm s m args below meth c bs θ0 T0 θ H locs cells slots ls G
  obtain ⟨K, hR⟩ := G.2.2.1
  have hroom := G.2.1
  have hst : ((st.map (zc cst θ)).map fun v => v.category).sum ≤ 8 := by
    rw [List.map_map]
    have e9 : (st.map (((fun v => v.category) : Value → Nat) ∘ zc cst θ)) = st.map fun v => v.category := List.map_congr_left (fun v _ => zc_cat cst θ v)
    rw [e9]
    exact hw
  have hU0 := G.1.2.2.2.2.2.2.2.2.2.1.2.2.2.2.2.2.2.2.2.2.1
  have hN0 := G.1.2.2.2.2.2.2.2.2.2.1.2.2.2.2.2.2.2.2.2.2.2.1
  refine vx_make0 (D := D) (ci := ci) (T0 := zt0) (names := names) G.1.1 G.1.2.1 G.1.2.2.2.2.2.2.2.2.2.1.1 G.1.2.2.2.2.1 hcls hnames (G.1.2.2.2.2.2.1 _ hq1) (G.1.2.2.2.2.2.1 _ hq2) (fun w hw9 => (hat2 w hw9).elim (fun h => G.1.2.2.2.2.2.1 _ h) (fun h => z_isN G.1.2.2.2.2.2.2.2.2.2.1 (hat w hw9) h.1 h.2)) hgood ⟨?_, hU0.2⟩ ⟨?_, hN0.2⟩ G.2.2.2.1 (by rw [G.1.2.2.2.1]; exact G.2.2.2.2.2.1.1) hdg0 hdg3 hdg4 G.1.2.2.2.2.2.2.2.2.2.1.2.2.1 hR.2.2.2.2.1 hR.2.2.2.2.2 G.1.2.2.2.2.2.2.2.2.2.1.2.2.2.1 hc (by omega) (by omega) (by omega) (by omega) (fun q H1 hP1 hD1 hS1 => ?_)
  · have h9 := hU0.1
    cases hz : cst 3 with
    | none => rw [hz] at h9; exact Or.inl h9
    | some t => rw [hz] at h9; exact Or.inr ⟨t, h9⟩
  · have h9 := hN0.1
    cases hz : cst 4 with
    | none => rw [hz] at h9; exact Or.inl h9
    | some t => rw [hz] at h9; exact Or.inr ⟨t, h9⟩
  · have hN : zN ci = 0 := by unfold zN; rw [hc]
    have hr := z_fresh hR h100 hT (tg := ci + 1) (n := 0) (by omega) (x := .inr (ci, [])) (by
      rw [zcell_o (by rw [z1_s]) hci]
      unfold zfs
      rw [hN]
      rfl) hP1 hD1
    have hk := k ln D cst dA A p e Rm s m args below meth c bs θ0 T0 (z1 θ κ q) H1 locs (cells + 1) (slots + 6) ls (zGo.new G h100 hT (by omega) ⟨_, hr⟩ hS1 (by omega) (fun v hv => hv))
    rw [List.map_cons, zst_old hT h100 G.2.2.2.2.2.2.2, zc_big (by omega), z1_s] at hk
    exact hk
theorem zcallH {pc0 pch : Nat} {oc : Nat} {x0 : Nat × Nat × Nat × Nat} {nm : String} {pre suf : List (Nat × Nat × Nat × Nat)} {ln : Launch} {D : va_G} {cst : Nat → Option Nat} {dA : Nat → ClassId} {A : Nat → Prop} {p : Program} {Rm : Room} {s : State} {m : MethodId} {args : Array Value} {meth : Method} {c : Code} {bs : Nat} {θ0 : Nat → Nat} {T0 : zT} {θ : Nat → Nat} {H : Heap} {locs : List Loc} {cells slots : Nat} {ls : Array Slot} (G : zGo M d b l st' T I L R ln D cst dA A p Rm s m args meth c bs θ0 T0 θ H locs cells slots ls) (hM0 : M.2.2.2.2.2.1 = pre ++ x0 :: suf) (hbb : b2 ≤ b) (hlv : ∀ v ∈ st, zlv T v) {st0 : List Value} {a2 : Array Value}
    (hr : vx_Run p ln e Rm s m args below meth c H locs cells slots b2 b2 (F0 m pc ls st0) (st.map (zc cst θ)) (zQ D cst dA A M2.2.2.2.2.1 θ T P2 a2) (zX D cst dA A θ T P2) A)
    (hpass : ∀ z ∈ pre, covers ⟨z.1, z.2.1, z.2.2.1, z.2.2.2⟩ pc = false ∨ (z.2.2.2 ≠ 0 ∧ ∃ nm9 : String, Cond.classLink M.1 z.2.2.2 nm9 ∈ lw_all ∧ va_Nc (zxn oc) nm9 s)) (hcov : covers ⟨x0.1, x0.2.1, x0.2.2.1, x0.2.2.2⟩ pc = true) (h0 : x0.2.2.2 ≠ 0) (hl : Cond.classLink M.1 x0.2.2.2 nm ∈ lw_all) (hcast : (Cond.castable (zxn oc) nm) ∈ lw_tbl) (hpch : x0.2.2.1 = pch)
    (kk : ∀ v T I L R, P2 0 v T I L R → zAW M d (b - b2) (pc + 3) l (zvs M2 v ++ st) T I L R P) (kx : ∀ o v T I L R, o = oc → P2 o v T I L R → zAW M d (b - b2) pch l [v] T I L R P) (ko : ∀ o v T I L R, o ≠ 0 → P2 o v T I L R → o = oc ∨ ∃ (pre2 suf2 : List (Nat × Nat × Nat × Nat)) (x2 : Nat × Nat × Nat × Nat) (nm2 : String), M.2.2.2.2.2.1 = pre2 ++ x2 :: suf2 ∧ (∀ z ∈ pre2, covers ⟨z.1, z.2.1, z.2.2.1, z.2.2.2⟩ pc = false ∨ (z.2.2.2 ≠ 0 ∧ ∃ nm9 : String, Cond.classLink M.1 z.2.2.2 nm9 ∈ lw_all ∧ va_Nc (zxn o) nm9 s)) ∧ covers ⟨x2.1, x2.2.1, x2.2.2.1, x2.2.2.2⟩ pc = true ∧ x2.2.2.2 ≠ 0 ∧ Cond.classLink M.1 x2.2.2.2 nm2 ∈ lw_all ∧ Cond.castable (zxn o) nm2 ∈ lw_tbl ∧ zAW M d (b - b2) x2.2.2.1 l [v] T I L R P) :
    W p ln e Rm s m args below meth c H locs cells slots (vx_MQ below (zQ D cst dA A M.2.2.2.2.1 θ0 T0 P) (zX D cst dA A θ0 T0 P) args s bs bs A) (F0 m pc ls st0) := by
  intro Tm hT X
  have hroom := G.2.1
  rcases hr Tm hT X with ⟨v, st₀, t, T', Ls, h0', X', hL, e1, e2, ⟨⟨v2, T2, I2, L2, R2, θ2, hp, hv, hl2, hrep, hx⟩, hF⟩, hgo⟩ | ⟨q, st₀, t, T', Ls, E, ce, h0', X', hL, e1, e2, ⟨⟨o2, v2, T2, I2, L2, R2, θ2, ho, hp, hE, hq, hl2, hrep, hx⟩, hF⟩, hce, hcv, hcl, hst⟩
  · obtain ⟨k1, k2, k3⟩ := vx_keep h0' e1 G.2.2.2.1 (fun q _ h => h) (fun q h => h) hL hF
    have hv9 : v = if M2.2.2.2.2.1.isNone then none else some (zc cst θ2 v2) := Outcome.returned.inj hv
    have es : st.map (zc cst θ2) = st.map (zc cst θ) := List.map_congr_left (fun v9 h9 => (zst_ext hx (hlv v9 h9)).1)
    have el : zlc cst θ2 l = zlc cst θ l := List.map_congr_left (fun q9 h9 => by rw [(zst_ext hx (G.2.2.2.2.2.2.1 q9 h9)).1])
    have hk := kk v2 T2 I2 L2 R2 hp ln D cst dA A p e Rm s m args below meth c bs θ0 T0 θ2 T'.heap (locs ++ Ls) (cells + b2) (slots + b2) ls ⟨G.1, ⟨hroom.1, hroom.2.1, hroom.2.2.1, hroom.2.2.2.1, by omega, by omega⟩, by rw [e1]; exact hrep, k3, fun κ h9 => ⟨(hx κ (G.2.2.2.2.1 κ h9).2).1.trans (G.2.2.2.2.1 κ h9).1, (hx κ (G.2.2.2.2.1 κ h9).2).2⟩, by rw [el]; exact G.2.2.2.2.2.1, fun q9 h9 => (zst_ext (cst := cst) hx (G.2.2.2.2.2.2.1 q9 h9)).2, fun v9 h9 => by
      rcases List.mem_append.mp h9 with h8 | h8
      · unfold zvs at h8
        split at h8
        · cases h8
        · rw [List.mem_singleton.mp h8]; exact hl2
      · exact (zst_ext (cst := cst) hx (hlv v9 h8)).2⟩
    have ev : (zvs M2 v2 ++ st).map (zc cst θ2) = v.toList ++ st.map (zc cst θ) := by
      rw [List.map_append, es, hv9]
      unfold zvs
      split <;> rfl
    rw [ev] at hk
    obtain ⟨t2, a1, b1⟩ := hk T' rfl X'
    exact ⟨t2, hgo t2 a1, b1⟩
  · obtain ⟨k1, k2, k3⟩ := vx_keep h0' e1 G.2.2.2.1 (fun q _ h => h) (fun q h => h) hL hF
    have el : zlc cst θ2 l = zlc cst θ l := List.map_congr_left (fun q9 h9 => by rw [(zst_ext hx (G.2.2.2.2.2.2.1 q9 h9)).1])
    have hcont : ∀ pcx : Nat, zAW M d (b - b2) pcx l [v2] T2 I2 L2 R2 P → W p ln e Rm s m args below meth c T'.heap (locs ++ Ls) (cells + b2) (slots + b2) (vx_MQ below (zQ D cst dA A M.2.2.2.2.1 θ0 T0 P) (zX D cst dA A θ0 T0 P) args s bs bs A) (F0 m pcx ls [.ref q]) := fun pcx hz => by
      have hk := hz ln D cst dA A p e Rm s m args below meth c bs θ0 T0 θ2 T'.heap (locs ++ Ls) (cells + b2) (slots + b2) ls ⟨G.1, ⟨hroom.1, hroom.2.1, hroom.2.2.1, hroom.2.2.2.1, by omega, by omega⟩, by rw [e1]; exact hrep, k3, fun κ h9 => ⟨(hx κ (G.2.2.2.2.1 κ h9).2).1.trans (G.2.2.2.2.1 κ h9).1, (hx κ (G.2.2.2.2.1 κ h9).2).2⟩, by rw [el]; exact G.2.2.2.2.2.1, fun q9 h9 => (zst_ext (cst := cst) hx (G.2.2.2.2.2.2.1 q9 h9)).2, zl_c hl2 (fun _ h => by cases h)⟩
      rw [List.map_cons, hq] at hk
      exact hk
    have hex := G.1.2.2.2.2.2.2.2.2.1
    have hgo : ∀ (o9 : Nat) (pre9 suf9 : List (Nat × Nat × Nat × Nat)) (x9 : Nat × Nat × Nat × Nat) (nm9 : String), o2 = o9 → M.2.2.2.2.2.1 = pre9 ++ x9 :: suf9 → (∀ z ∈ pre9, covers ⟨z.1, z.2.1, z.2.2.1, z.2.2.2⟩ pc = false ∨ (z.2.2.2 ≠ 0 ∧ ∃ nm9 : String, Cond.classLink M.1 z.2.2.2 nm9 ∈ lw_all ∧ va_Nc (zxn o9) nm9 s)) → covers ⟨x9.1, x9.2.1, x9.2.2.1, x9.2.2.2⟩ pc = true → x9.2.2.2 ≠ 0 → Cond.classLink M.1 x9.2.2.2 nm9 ∈ lw_all → Cond.castable (zxn o9) nm9 ∈ lw_tbl → zAW M d (b - b2) x9.2.2.1 l [v2] T2 I2 L2 R2 P → ∃ t2, Steps p.tables e below ((T'.setTop (F0 m pc ls (st.map (zc cst θ)))).pushFrame (.throwing q)) t2 ∧ (vx_MQ below (zQ D cst dA A M.2.2.2.2.1 θ0 T0 P) (zX D cst dA A θ0 T0 P) args s bs bs A) t2 := fun o9 pre9 suf9 x9 nm9 eo a1 a2 a3 a4 a5 a6 a7 => by
      subst eo
      rw [a1] at hex
      have hcl9 : s.vm.findClass (zxn o2) = some ce.cls := by rw [← hE]; exact hcl
      refine vx_catch (own := M.1) (name := nm9) (E := zxn o2) (ce := ce) G.1.2.2.2.2.1 (tableOf pre9) ⟨x9.1, x9.2.1, x9.2.2.1, x9.2.2.2⟩ (tableOf suf9) (by rw [hex]; unfold tableOf; rw [List.map_append]; rfl) (fun z hz => ?_) a3 a4 (G.1.2.2.2.2.2.1 _ a5) (z_isN G.1.2.2.2.2.2.2.2.2.2.1 a6 rfl rfl) (H := T'.heap) (by rw [e1]; exact hce) hcv hcl9 (hcont _ a7) T' rfl X'
      obtain ⟨z9, hz9, rfl⟩ := List.mem_map.mp hz
      rcases a2 z9 hz9 with h9 | ⟨h9, nm8, h8, h7⟩
      · exact Or.inl h9
      · exact Or.inr ⟨h9, nm8, G.1.2.2.2.2.2.1 _ h8, h7⟩
    by_cases heo : o2 = oc
    · obtain ⟨t2, a1, b1⟩ := hgo oc pre suf x0 nm heo hM0 hpass hcov h0 hl hcast (by rw [hpch]; exact kx o2 v2 T2 I2 L2 R2 heo hp)
      exact ⟨t2, hst.trans a1, b1⟩
    · rcases ko o2 v2 T2 I2 L2 R2 ho hp with h9 | ⟨pre2, suf2, x2, nm2, a1, a2, a3, a4, a5, a6, a7⟩
      · exact absurd h9 heo
      · obtain ⟨t2, c1, d1⟩ := hgo o2 pre2 suf2 x2 nm2 rfl a1 a2 a3 a4 a5 a6 a7
        exact ⟨t2, hst.trans c1, d1⟩
theorem za_mmax {idx : Nat} {x y : Int32} (hdg : decode M.2.2.1 pc = .ok (.invokestatic idx, 3)) (hq : Cond.methodLink M.1 idx Lib.Math.max.name ∈ lw_all) (hd : 1 ≤ d) (hw : (st.map fun v => v.category).sum ≤ 40) (hp : pc + 3 = pc') (k : zAW M d b pc' l (.int (if x < y then y else x) :: st) T I L R P) : zAW M d b pc l (.int y :: .int x :: st) T I L R P := by
  subst hp
  intro ln D cst dA A p e Rm s m args below meth c bs θ0 T0 θ H locs cells slots ls G
  have hroom := G.2.1
  have hst : ((st.map (zc cst θ)).map fun v => v.category).sum ≤ 40 := by
    rw [List.map_map]
    have e9 : (st.map (((fun v => v.category) : Value → Nat) ∘ zc cst θ)) = st.map fun v => v.category := List.map_congr_left (fun v _ => zc_cat cst θ v)
    rw [e9]; exact hw
  exact va_mmax G.1.1 G.1.2.1 (by rw [G.1.2.2.2.1]; exact G.2.2.2.2.2.1.1.symm) G.1.2.2.2.2.1 (G.1.2.2.2.2.2.1 _ hq) (G.1.2.2.2.2.2.1 _ q688) (G.1.2.2.2.2.2.1 _ q152) (G.1.2.2.2.2.2.1 _ q689) (by omega) (by omega) (by omega) (by omega) hdg (k ln D cst dA A p e Rm s m args below meth c bs θ0 T0 θ H locs cells slots ls (G.stk fun h => zl_c trivial (zl_t (zl_t h))))
theorem za_mmin {idx : Nat} {x y : Int32} (hdg : decode M.2.2.1 pc = .ok (.invokestatic idx, 3)) (hq : Cond.methodLink M.1 idx Lib.Math.min.name ∈ lw_all) (hd : 1 ≤ d) (hw : (st.map fun v => v.category).sum ≤ 40) (hp : pc + 3 = pc') (k : zAW M d b pc' l (.int (if y < x then y else x) :: st) T I L R P) : zAW M d b pc l (.int y :: .int x :: st) T I L R P := by
  subst hp
  intro ln D cst dA A p e Rm s m args below meth c bs θ0 T0 θ H locs cells slots ls G
  have hroom := G.2.1
  have hst : ((st.map (zc cst θ)).map fun v => v.category).sum ≤ 40 := by
    rw [List.map_map]
    have e9 : (st.map (((fun v => v.category) : Value → Nat) ∘ zc cst θ)) = st.map fun v => v.category := List.map_congr_left (fun v _ => zc_cat cst θ v)
    rw [e9]; exact hw
  exact va_mmin G.1.1 G.1.2.1 (by rw [G.1.2.2.2.1]; exact G.2.2.2.2.2.1.1.symm) G.1.2.2.2.2.1 (G.1.2.2.2.2.2.1 _ hq) (G.1.2.2.2.2.2.1 _ q691) (G.1.2.2.2.2.2.1 _ q152) (G.1.2.2.2.2.2.1 _ q692) (by omega) (by omega) (by omega) (by omega) hdg (k ln D cst dA A p e Rm s m args below meth c bs θ0 T0 θ H locs cells slots ls (G.stk fun h => zl_c trivial (zl_t (zl_t h))))
theorem za_mabsL {idx : Nat} {x : Int64} (hdg : decode M.2.2.1 pc = .ok (.invokestatic idx, 3)) (hq : Cond.methodLink M.1 idx Lib.MathLoose.abs_long.x ∈ lw_all) (hd : 1 ≤ d) (hw : (st.map fun v => v.category).sum ≤ 40) (hp : pc + 3 = pc') (k : zAW M d b pc' l (.long (if 0 < x then x else -x) :: st) T I L R P) : zAW M d b pc l (.long x :: st) T I L R P := by
  subst hp
  intro ln D cst dA A p e Rm s m args below meth c bs θ0 T0 θ H locs cells slots ls G
  have hroom := G.2.1
  have hst : ((st.map (zc cst θ)).map fun v => v.category).sum ≤ 40 := by
    rw [List.map_map]
    have e9 : (st.map (((fun v => v.category) : Value → Nat) ∘ zc cst θ)) = st.map fun v => v.category := List.map_congr_left (fun v _ => zc_cat cst θ v)
    rw [e9]; exact hw
  exact va_mabs_long G.1.1 G.1.2.1 (by rw [G.1.2.2.2.1]; exact G.2.2.2.2.2.1.1.symm) G.1.2.2.2.2.1 (G.1.2.2.2.2.2.1 _ hq) (G.1.2.2.2.2.2.1 _ q1392) (G.1.2.2.2.2.2.1 _ q152) (G.1.2.2.2.2.2.1 _ q1393) (by omega) (by omega) (by omega) (by omega) hdg (k ln D cst dA A p e Rm s m args below meth c bs θ0 T0 θ H locs cells slots ls (G.stk fun h => zl_c trivial (zl_t h)))
theorem za_mminL {idx : Nat} {x y : Int64} (hdg : decode M.2.2.1 pc = .ok (.invokestatic idx, 3)) (hq : Cond.methodLink M.1 idx Lib.MathLoose.min_long.x ∈ lw_all) (hd : 1 ≤ d) (hw : (st.map fun v => v.category).sum ≤ 40) (hp : pc + 3 = pc') (k : zAW M d b pc' l (.long (if y < x then y else x) :: st) T I L R P) : zAW M d b pc l (.long y :: .long x :: st) T I L R P := by
  subst hp
  intro ln D cst dA A p e Rm s m args below meth c bs θ0 T0 θ H locs cells slots ls G
  have hroom := G.2.1
  have hst : ((st.map (zc cst θ)).map fun v => v.category).sum ≤ 40 := by
    rw [List.map_map]
    have e9 : (st.map (((fun v => v.category) : Value → Nat) ∘ zc cst θ)) = st.map fun v => v.category := List.map_congr_left (fun v _ => zc_cat cst θ v)
    rw [e9]; exact hw
  exact va_mmin_long G.1.1 G.1.2.1 (by rw [G.1.2.2.2.1]; exact G.2.2.2.2.2.1.1.symm) G.1.2.2.2.2.1 (G.1.2.2.2.2.2.1 _ hq) (G.1.2.2.2.2.2.1 _ q1402) (G.1.2.2.2.2.2.1 _ q152) (G.1.2.2.2.2.2.1 _ q1403) (by omega) (by omega) (by omega) (by omega) hdg (k ln D cst dA A p e Rm s m args below meth c bs θ0 T0 θ H locs cells slots ls (G.stk fun h => zl_c trivial (zl_t (zl_t h))))
theorem za_mmaxL {idx : Nat} {x y : Int64} (hdg : decode M.2.2.1 pc = .ok (.invokestatic idx, 3)) (hq : Cond.methodLink M.1 idx Lib.MathLoose.max_long.x ∈ lw_all) (hd : 1 ≤ d) (hw : (st.map fun v => v.category).sum ≤ 40) (hp : pc + 3 = pc') (k : zAW M d b pc' l (.long (if y < x then x else y) :: st) T I L R P) : zAW M d b pc l (.long y :: .long x :: st) T I L R P := by
  subst hp
  intro ln D cst dA A p e Rm s m args below meth c bs θ0 T0 θ H locs cells slots ls G
  have hroom := G.2.1
  have hst : ((st.map (zc cst θ)).map fun v => v.category).sum ≤ 40 := by
    rw [List.map_map]
    have e9 : (st.map (((fun v => v.category) : Value → Nat) ∘ zc cst θ)) = st.map fun v => v.category := List.map_congr_left (fun v _ => zc_cat cst θ v)
    rw [e9]; exact hw
  exact va_mmax_long G.1.1 G.1.2.1 (by rw [G.1.2.2.2.1]; exact G.2.2.2.2.2.1.1.symm) G.1.2.2.2.2.1 (G.1.2.2.2.2.2.1 _ hq) (G.1.2.2.2.2.2.1 _ q1405) (G.1.2.2.2.2.2.1 _ q152) (G.1.2.2.2.2.2.1 _ q1406) (by omega) (by omega) (by omega) (by omega) hdg (k ln D cst dA A p e Rm s m args below meth c bs θ0 T0 θ H locs cells slots ls (G.stk fun h => zl_c trivial (zl_t (zl_t h))))
theorem za_callVH {x9 : MethodName} {owner : String} {n idx pch oc : Nat} {As : List Value} {ci N : Nat} {C : String} {T1 : u_T} {κ : Nat} (hc : zcl[ci]? = some (C, T1, N)) (hci : ci < 99) (hT : (T κ).1 = ci + 1) {x0 : Nat × Nat × Nat × Nat} {nm : String} {suf : List (Nat × Nat × Nat × Nat)} (hdg : decode M.2.2.1 pc = .ok (.invokevirtual idx, 3)) (hh : M2.2.2.2.2.2.1 = []) (hT9 : GoodIn lw_all (wsV M.1 idx C M2.2.1 (zws M2))) (hd : M2.2.1.cls = C ∧ M2.2.1.cls ≠ "java/lang/invoke/MethodHandle" ∧ M2.2.1.cls ≠ "java/lang/invoke/VarHandle" ∧ (parseMethodDescriptor M2.2.1.desc).map (fun d => d.parameters.length) = some n) (hn : As.length = n) (hL : M2.2.2.2.1 ≤ 45) (hdd : d2 < d) (hbb : b2 ≤ b) (hM0 : M.2.2.2.2.2.1 = x0 :: suf) (hw : (st.map fun v => v.category).sum ≤ 8)
    (hcov : covers ⟨x0.1, x0.2.1, x0.2.2.1, x0.2.2.2⟩ pc = true) (h0 : x0.2.2.2 ≠ 0) (hlk : Cond.classLink M.1 x0.2.2.2 nm ∈ lw_all) (hcast : (Cond.castable (zxn oc) nm) ∈ lw_tbl) (hpch : x0.2.2.1 = pch)
    (hM : zMet M2 d2 b2 (.ref κ :: As) T I L R P2) (kk : ∀ v T I L R, P2 0 v T I L R → zAW M d (b - b2) pc' l (zvs M2 v ++ st) T I L R P) (kx : ∀ o v T I L R, o = oc → P2 o v T I L R → zAW M d (b - b2) pch l [v] T I L R P) (ko : ∀ o v T I L R, o ≠ 0 → P2 o v T I L R → o = oc) (hp : pc + 3 = pc') : zAW M d b pc l (As.reverse ++ .ref κ :: st) T I L R P := by
  subst hp
  intro ln D cst dA A p e Rm s m args below meth c bs θ0 T0 θ H locs cells slots ls G
  have hlall := G.2.2.2.2.2.2.2
  have hlst : ∀ v ∈ st, zlv T v := fun v h => hlall v (List.mem_append_right _ (List.mem_cons_of_mem _ h))
  have hlAs : ∀ v ∈ As, zlv T v := fun v h => hlall v (List.mem_append_left _ (List.mem_reverse.mpr h))
  have hlκ : zlv T (.ref κ) := hlall _ (List.mem_append_right _ (List.mem_cons_self))
  have hrec := zrecvS G hc hci hT
  have hbig : ¬ κ < 100 := by obtain ⟨K, hR⟩ := G.2.2.1; exact hR.big (κ := κ) (by rw [hT]; omega)
  have hpc := fun U hU hW => zPc_at G (av := .ref κ :: As) (zl_c hlκ hlAs) U hU hW
  rw [List.map_cons, zc_big hbig] at hpc
  rw [zMapRev, zc_big hbig]
  have hcw := cwV n G.1.2.2.2.2.2.1 hT9 (zws_p hh) rfl rfl hd (show (zroom d2 b2).frames + 1 ≤ Rm.frames ∧ 8 + (M2.2.2.2.1 + 11) + (zroom d2 b2).locals ≤ Rm.locals from ⟨by have := G.2.1; show d2 + 1 ≤ Rm.frames; omega, by have := G.2.1; show 8 + (M2.2.2.2.1 + 11) + 64 * d2 ≤ Rm.locals; omega⟩)
  exact zcallH (M2 := M2) (pre := []) (pc0 := 0) G hM0 hbb hlst (vx_runV (⟨G.1.1, G.1.2.1, rfl, G.1.2.2.2.2.1, G.1.2.2.2.2.2.1⟩) (hM ln D cst dA A θ) hcw ⟨zPc_blind, hrec, hpc⟩ rfl (by rw [List.length_map]; exact hn) (G.2.2.2.2.2.1.1.trans G.1.2.2.2.1.symm) rfl (zst_room rfl hw) hdg (by have := G.2.1; omega)) (fun z h => by cases h) hcov h0 hlk hcast hpch kk kx (fun o v T I L R h1 h2 => Or.inl (ko o v T I L R h1 h2))
theorem za_callUH {x9 : MethodName} {owner : String} {n idx pch oc : Nat} {As : List Value} {ci N : Nat} {C : String} {T1 : u_T} {κ : Nat} (hc : zcl[ci]? = some (C, T1, N)) (hci : ci < 99) (hT : (T κ).1 = ci + 1) {x0 : Nat × Nat × Nat × Nat} {nm : String} {suf : List (Nat × Nat × Nat × Nat)} (hdg : decode M.2.2.1 pc = .ok (.invokevirtual idx, 3)) (hh : M2.2.2.2.2.2.1 = []) (hT9 : GoodIn lw_all (va_wsU M.1 idx C owner x9 M2.2.1 (zws M2))) (hz : Cond.declares ⟨owner, x9.name, x9.desc⟩ ∈ lw_tbl) (hd : owner ≠ "java/lang/invoke/MethodHandle" ∧ owner ≠ "java/lang/invoke/VarHandle" ∧ (parseMethodDescriptor x9.desc).map (fun d => d.parameters.length) = some n) (hn : As.length = n) (hL : M2.2.2.2.1 ≤ 45) (hdd : d2 < d) (hbb : b2 ≤ b) (hM0 : M.2.2.2.2.2.1 = x0 :: suf) (hw : (st.map fun v => v.category).sum ≤ 8)
    (hcov : covers ⟨x0.1, x0.2.1, x0.2.2.1, x0.2.2.2⟩ pc = true) (h0 : x0.2.2.2 ≠ 0) (hlk : Cond.classLink M.1 x0.2.2.2 nm ∈ lw_all) (hcast : (Cond.castable (zxn oc) nm) ∈ lw_tbl) (hpch : x0.2.2.1 = pch)
    (hM : zMet M2 d2 b2 (.ref κ :: As) T I L R P2) (kk : ∀ v T I L R, P2 0 v T I L R → zAW M d (b - b2) pc' l (zvs M2 v ++ st) T I L R P) (kx : ∀ o v T I L R, o = oc → P2 o v T I L R → zAW M d (b - b2) pch l [v] T I L R P) (ko : ∀ o v T I L R, o ≠ 0 → P2 o v T I L R → o = oc) (hp : pc + 3 = pc') : zAW M d b pc l (As.reverse ++ .ref κ :: st) T I L R P := by
  subst hp
  intro ln D cst dA A p e Rm s m args below meth c bs θ0 T0 θ H locs cells slots ls G
  have hlall := G.2.2.2.2.2.2.2
  have hlst : ∀ v ∈ st, zlv T v := fun v h => hlall v (List.mem_append_right _ (List.mem_cons_of_mem _ h))
  have hlAs : ∀ v ∈ As, zlv T v := fun v h => hlall v (List.mem_append_left _ (List.mem_reverse.mpr h))
  have hlκ : zlv T (.ref κ) := hlall _ (List.mem_append_right _ (List.mem_cons_self))
  have hrec := zrecvS G hc hci hT
  have hbig : ¬ κ < 100 := by obtain ⟨K, hR⟩ := G.2.2.1; exact hR.big (κ := κ) (by rw [hT]; omega)
  have hpc := fun U hU hW => zPc_at G (av := .ref κ :: As) (zl_c hlκ hlAs) U hU hW
  rw [List.map_cons, zc_big hbig] at hpc
  rw [zMapRev, zc_big hbig]
  have hcw := va_cwA n G.1.2.2.2.2.2.1 hT9 (zws_p hh) rfl rfl (G.1.2.2.2.2.2.2.2.2.2.1.2.2.2.2.1 _ hz rfl) hd (show (zroom d2 b2).frames + 1 ≤ Rm.frames ∧ 8 + (M2.2.2.2.1 + 11) + (zroom d2 b2).locals ≤ Rm.locals from ⟨by have := G.2.1; show d2 + 1 ≤ Rm.frames; omega, by have := G.2.1; show 8 + (M2.2.2.2.1 + 11) + 64 * d2 ≤ Rm.locals; omega⟩)
  exact zcallH (M2 := M2) (pre := []) (pc0 := 0) G hM0 hbb hlst (vx_runU (⟨G.1.1, G.1.2.1, rfl, G.1.2.2.2.2.1, G.1.2.2.2.2.2.1⟩) (hM ln D cst dA A θ) hcw ⟨zPc_blind, hrec, hpc⟩ rfl (by rw [List.length_map]; exact hn) (G.2.2.2.2.2.1.1.trans G.1.2.2.2.1.symm) rfl (zst_room rfl hw) hdg (by have := G.2.1; omega)) (fun z h => by cases h) hcov h0 hlk hcast hpch kk kx (fun o v T I L R h1 h2 => Or.inl (ko o v T I L R h1 h2))
end ZCON
