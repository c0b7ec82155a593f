/-! ROWS THAT READ AND WRITE THE TYPED MEMORY -/
theorem z_map_set {α : Type} {K : List Nat} {f f' : Nat → α} {i κ : Nat} (hn : zND K) (hi : K[i]? = some κ) (hf : ∀ x, x ≠ κ → f' x = f x) : (K.map f).set i (f' κ) = K.map f' := by
  apply List.ext_getElem?
  intro j
  rw [List.getElem?_set, List.getElem?_map, List.getElem?_map, List.length_map]
  by_cases hj : i = j
  · subst hj
    rw [if_pos rfl, if_pos (List.getElem?_eq_some_iff.mp hi).1, hi]
    rfl
  · rw [if_neg hj]
    cases hx : K[j]? with
    | none => rfl
    | some x =>
      have hne : x ≠ κ := fun e => hj (hn i j κ hi (by rw [hx, e]))
      show some (f x) = some (f' x)
      rw [hf x hne]
theorem z_range_set {α : Type} {N k : Nat} {F F' : Nat → α} {v : α} (h1 : F' k = v) (h2 : ∀ j, j ≠ k → F' j = F j) : ((List.range N).map F).set k v = (List.range N).map F' := by
  apply List.ext_getElem?
  intro j
  rw [List.getElem?_set, List.getElem?_map, List.getElem?_map, List.length_map, List.length_range]
  by_cases hj : k = j
  · subst hj
    rw [if_pos rfl]
    by_cases hk : k < N
    · rw [if_pos hk, List.getElem?_range hk]
      show some v = some (F' k)
      rw [h1]
    · rw [if_neg hk, List.getElem?_eq_none (by rw [List.length_range]; omega)]
      rfl
  · rw [if_neg hj]
    cases hx : (List.range N)[j]? with
    | none => rfl
    | some x =>
      have hx2 : x = j := by
        have hl := (List.getElem?_eq_some_iff.mp hx).1
        rw [List.length_range] at hl
        rw [List.getElem?_range hl] at hx
        exact (Option.some.inj hx).symm
      subst hx2
      show some (F x) = some (F' x)
      rw [h2 x (fun e => hj e.symm)]
theorem z_map_push {α : Type} {K : List Nat} {f f' : Nat → α} {κ : Nat} {x : α} (h1 : f' κ = x) (h2 : ∀ y, y ∈ K → f' y = f y) : K.map f ++ [x] = (K ++ [κ]).map f' := by
  rw [List.map_append]
  congr 1
  · exact (List.map_congr_left (fun y hy => h2 y hy)).symm
  · show [x] = [f' κ]
    rw [h1]
theorem zND.push {K : List Nat} {κ : Nat} (h : zND K) (hκ : κ ∉ K) : zND (K ++ [κ]) := by
  intro i j a hi hj
  by_cases h1 : i < K.length <;> by_cases h2 : j < K.length
  · rw [List.getElem?_append_left h1] at hi
    rw [List.getElem?_append_left h2] at hj
    exact h i j a hi hj
  · rw [List.getElem?_append_left h1] at hi
    rw [List.getElem?_append_right (by omega)] at hj
    have hz : j - K.length < 1 := (List.getElem?_eq_some_iff.mp hj).1
    rw [show j - K.length = 0 by omega] at hj
    cases hj
    exact absurd (List.mem_of_getElem? hi) hκ
  · rw [List.getElem?_append_right (by omega)] at hi
    rw [List.getElem?_append_left h2] at hj
    have hz : i - K.length < 1 := (List.getElem?_eq_some_iff.mp hi).1
    rw [show i - K.length = 0 by omega] at hi
    cases hi
    exact absurd (List.mem_of_getElem? hj) hκ
  · rw [List.getElem?_append_right (by omega)] at hi hj
    have hz : i - K.length < 1 := (List.getElem?_eq_some_iff.mp hi).1
    have hz2 : j - K.length < 1 := (List.getElem?_eq_some_iff.mp hj).1
    omega
section ZMEM
variable {D : va_G} {cst : Nat → Option Nat} {dA : Nat → ClassId} {A : Nat → Prop} {θ θ2 : Nat → Nat} {T : zT} {I I2 : zI} {L L2 : zL} {R R2 : zR} {K : List Nat} {H H1 : Heap} {κ ci t n : Nat}
theorem zcell_o (hT : (T κ).1 = ci + 1) (hc : ci < 99) : zcell cst dA θ T I L R κ = .inr (ci, zfs cst θ I L R ci κ) := by
  unfold zcell
  rw [if_pos (by rw [hT]; omega), hT]
  rfl
theorem zcell_a (hT : T κ = (100 + t, n)) : zcell cst dA θ T I L R κ = .inl (dA t, n, zct cst θ I L R t κ) := by
  unfold zcell
  rw [hT]
  rw [if_neg (by show ¬ 100 + t < 100; omega)]
  show Sum.inl (dA (100 + t - 100), n, zct cst θ I L R (100 + t - 100) κ) = _
  rw [Nat.add_sub_cancel_left]
theorem zRepK.get (h : zRepK D cst dA A θ T I L R K H) (hT : (T κ).1 ≠ 0) : ∃ i : Nat, K[i]? = some κ ∧ (zW cst dA θ T I L R K)[i]? = some (θ κ, zcell cst dA θ T I L R κ) := by
  obtain ⟨i, hi⟩ := List.getElem?_of_mem ((h.2.1 κ).mpr hT)
  exact ⟨i, hi, by rw [List.getElem?_map, hi]; rfl⟩
theorem zRepK.big (h : zRepK D cst dA A θ T I L R K H) (hT : (T κ).1 ≠ 0) : ¬ κ < 100 := fun hk => hT (h.2.2.1 κ hk)
theorem zo_big (h : ¬ κ < 100) : zo cst θ κ = some (θ κ) := if_neg h
theorem zc_big (h : ¬ κ < 100) : zc cst θ (.ref κ) = .ref (θ κ) := by
  show va_rf (zo cst θ κ) = _
  rw [zo_big h]
  rfl
theorem zc_zfv {ty : FieldType} {i : Int32} {l : Int64} {r : Nat} : zc cst θ (zfv ty i l (.ref r)) = zfv ty i l (zc cst θ (.ref r)) := by
  cases ty <;> rfl
theorem zfs_at {fi N : Nat} {C : String} {T0 : u_T} (hc : zcl[ci]? = some (C, T0, N)) (hk : fi < N) : (zfs cst θ I L R ci κ)[fi]? = some (zc cst θ (zfv (zty ci fi) (I κ fi) (L κ fi) (.ref (R κ fi)))) := by
  have hN : zN ci = N := by unfold zN; rw [hc]
  unfold zfs
  rw [hN, List.getElem?_map, List.getElem?_range hk, zc_zfv]
  rfl
theorem zfs_len {N : Nat} {C : String} {T0 : u_T} (hc : zcl[ci]? = some (C, T0, N)) : (zfs cst θ I L R ci κ).length = N := by
  have hN : zN ci = N := by unfold zN; rw [hc]
  unfold zfs
  rw [hN, List.length_map, List.length_range]
/-- one key's cell is written -/
theorem zRepK.set {i : Nat} {e : va_E} (h : zRepK D cst dA A θ T I L R K H) (hi : K[i]? = some κ) (he : zcell cst dA θ T I2 L2 R2 κ = e) (ho : ∀ x, x ≠ κ → I2 x = I x ∧ L2 x = L x ∧ R2 x = R x) (hl : ∀ k, zlive T (R2 κ k)) (hP : va_P D zcl ((zW cst dA θ T I L R K).set i (θ κ, e)) H1) (hD : va_D A ((zW cst dA θ T I L R K).set i (θ κ, e))) : zRepK D cst dA A θ T I2 L2 R2 K H1 := by
  have e1 : (zW cst dA θ T I L R K).set i (θ κ, e) = zW cst dA θ T I2 L2 R2 K := by
    have := z_map_set (f := fun κ => (θ κ, zcell cst dA θ T I L R κ)) (f' := fun κ => (θ κ, zcell cst dA θ T I2 L2 R2 κ)) h.1 hi (fun x hx => by
      obtain ⟨a1, a2, a3⟩ := ho x hx
      show (θ x, zcell cst dA θ T I2 L2 R2 x) = (θ x, zcell cst dA θ T I L R x)
      unfold zcell zfs zct
      rw [a1, a2, a3])
    subst he
    exact this
  rw [e1] at hP hD
  refine ⟨h.1, h.2.1, h.2.2.1, fun x k hx => ?_, hP, hD⟩
  by_cases hxk : x = κ
  · subst hxk; exact hl k
  · rw [(ho x hxk).2.2]; exact h.2.2.2.1 x k hx
theorem zty_fits_r {ty : FieldType} {r : Nat} (h : ∀ z : Value, zfv ty 0 0 z = z) : narrow ty (zc cst θ (.ref r)) = zc cst θ (.ref r) ∧ fits ty (zc cst θ (.ref r)) = true := by
  show narrow ty (va_rf (zo cst θ r)) = va_rf (zo cst θ r) ∧ fits ty (va_rf (zo cst θ r)) = true
  cases ty <;> first | (cases zo cst θ r <;> exact ⟨rfl, rfl⟩) | exact nomatch (show Value.int 0 = Value.null from h .null) | exact nomatch (show Value.long 0 = Value.null from h .null)
end ZMEM
section ZMROWS
variable {M : zM} {d b pc pc' : Nat} {l : List (Nat × Value)} {st st' : List Value} {T : zT} {I : zI} {L : zL} {R : zR} {P : zP}
theorem zGo.mem {I2 : zI} {L2 : zL} {R2 : zR} {H1 : Heap} {locs1 : List Loc} {ln : Launch} {D : va_G} {cst : Nat → Option Nat} {dA : Nat → ClassId} {A : Nat → Prop} {p : Program} {Rm : Room} {s : State} {m : MethodId} {args : Array Value} {meth : Method} {c : Code} {bs : Nat} {θ0 : Nat → Nat} {T0 : zT} {θ : Nat → Nat} {H : Heap} {locs : List Loc} {cells slots : Nat} {ls : Array Slot} (G : zGo M d b l st T I L R ln D cst dA A p Rm s m args meth c bs θ0 T0 θ H locs cells slots ls) (h : (∀ v ∈ st, zlv T v) → ∀ v ∈ st', zlv T v) (hr : zRep D cst dA A θ T I2 L2 R2 H1) (hS : va_S A s.heap H1 locs1) : zGo M d b l st' T I2 L2 R2 ln D cst dA A p Rm s m args meth c bs θ0 T0 θ H1 locs1 cells slots ls := ⟨G.1, G.2.1, hr, hS, G.2.2.2.2.1, G.2.2.2.2.2.1, G.2.2.2.2.2.2.1, h G.2.2.2.2.2.2.2⟩
theorem z_isN {ln : Launch} {D : va_G} {cst : Nat → Option Nat} {dA : Nat → ClassId} {A : Nat → Prop} {U : State} {w : Cond} {args : Array Value} (h : zEnv ln D cst dA A U) (hw : w ∈ lw_tbl) (h1 : zisN w = true) (h2 : w.onTables = true) : w.before args U = true := va_Nw.use h2 (h.2.2.2.2.1 w hw h1)
theorem za_get {ci fi N idx : Nat} {C ref : String} {T0 : u_T} {κ : Nat} {v : Value} (hdg : decode M.2.2.1 pc = .ok (.getfield idx, 3)) (hc : zcl[ci]? = some (C, T0, N)) (hci : ci < 99) (hin : ∀ w ∈ u_ws C T0 N, w ∈ lw_all) (hk : fi < N) (hq : Cond.fieldLink M.1 idx ref (T0 fi).2.1 (T0 fi).2.2.1 ∈ lw_all) (hs : ref = (T0 fi).1 ∨ Cond.sameField ref (T0 fi).1 (T0 fi).2.1 (T0 fi).2.2.1 ∈ lw_all) (hT : (T κ).1 = ci + 1) (hv : zfv (zty ci fi) (I κ fi) (L κ fi) (.ref (R κ fi)) = v) (hp : pc + 3 = pc') (k : zAW M d b pc' l (v :: st) T I L R P) : zAW M d b pc l (.ref κ :: st) T I L R P := by
  subst hp; subst hv
  intro ln D cst dA A p e Rm s m args below meth c bs θ0 T0 θ H locs cells slots ls G
  obtain ⟨K, hR⟩ := G.2.2.1
  obtain ⟨i, hi, hw⟩ := hR.get (κ := κ) (by rw [hT]; omega)
  rw [zcell_o hT hci] at hw
  have hbig := hR.big (κ := κ) (by rw [hT]; omega)
  rw [List.map_cons, zc_big hbig]
  refine va_get (D := D) (ci := ci) G.1.1 G.1.2.1 G.1.2.2.2.2.2.1 hin G.1.2.2.2.2.1 G.1.2.2.2.2.2.2.2.2.2.1.2.2.1 hR.2.2.2.2.1 i hw hc fi hk (G.1.2.2.2.2.2.1 _ hq) (fun x9 h9 => hs.elim (fun e => by rw [e]; exact h9) (fun e => u_same (G.1.2.2.2.2.2.1 _ e) x9 h9)) (zfs_at hc hk) hdg (k ln D cst dA A p e Rm s m args below meth c bs θ0 T0 θ H locs cells slots ls (G.stk fun h => zl_c ?_ (zl_t h)))
  cases zty ci fi <;> first | exact trivial | exact hR.2.2.2.1 κ fi (by rw [hT]; omega)
theorem za_getN {ci fi N idx : Nat} {C ref : String} {T0 : u_T} {κ : Nat}{host : String}  {v : Value} (hdg : decode M.2.2.1 pc = .ok (.getfield idx, 3)) (hc : zcl[ci]? = some (C, T0, N)) (hci : ci < 99) (hin : ∀ w ∈ u_ws C T0 N, w ∈ lw_all) (hk : fi < N) (hq : Cond.fieldLinkNest M.1 idx ref (T0 fi).2.1 (T0 fi).2.2.1 host ∈ lw_tbl) (hs : ref = (T0 fi).1 ∨ Cond.sameField ref (T0 fi).1 (T0 fi).2.1 (T0 fi).2.2.1 ∈ lw_all) (hT : (T κ).1 = ci + 1) (hv : zfv (zty ci fi) (I κ fi) (L κ fi) (.ref (R κ fi)) = v) (hp : pc + 3 = pc') (k : zAW M d b pc' l (v :: st) T I L R P) : zAW M d b pc l (.ref κ :: st) T I L R P := by
  subst hp; subst hv
  intro ln D cst dA A p e Rm s m args below meth c bs θ0 T0 θ H locs cells slots ls G
  obtain ⟨K, hR⟩ := G.2.2.1
  obtain ⟨i, hi, hw⟩ := hR.get (κ := κ) (by rw [hT]; omega)
  rw [zcell_o hT hci] at hw
  have hbig := hR.big (κ := κ) (by rw [hT]; omega)
  rw [List.map_cons, zc_big hbig]
  refine va_getN (D := D) (ci := ci) G.1.1 G.1.2.1 G.1.2.2.2.2.2.1 hin G.1.2.2.2.2.1 G.1.2.2.2.2.2.2.2.2.2.1.2.2.1 hR.2.2.2.2.1 i hw hc fi hk (z_isN G.1.2.2.2.2.2.2.2.2.2.1 hq rfl rfl) (fun x9 h9 => hs.elim (fun e => by rw [e]; exact h9) (fun e => u_same (G.1.2.2.2.2.2.1 _ e) x9 h9)) (zfs_at hc hk) hdg (k ln D cst dA A p e Rm s m args below meth c bs θ0 T0 θ H locs cells slots ls (G.stk fun h => zl_c ?_ (zl_t h)))
  cases zty ci fi <;> first | exact trivial | exact hR.2.2.2.1 κ fi (by rw [hT]; omega)
theorem za_putI {ci fi N idx : Nat} {C ref : String} {T0 : u_T} {κ : Nat} {x : Int32} {ty : FieldType} (hdg : decode M.2.2.1 pc = .ok (.putfield idx, 3)) (hc : zcl[ci]? = some (C, T0, N)) (hci : ci < 99) (hin : ∀ w ∈ u_ws C T0 N, w ∈ lw_all) (hok : ∀ k, k < N → parseFieldDescriptor (T0 k).2.2.1 = some (zty ci k)) (hnm : ∀ a, a < N → ∀ b, b < N → a ≠ b → (T0 a).2.1 ≠ (T0 b).2.1) (hk : fi < N) (hq : Cond.fieldLink M.1 idx ref (T0 fi).2.1 (T0 fi).2.2.1 ∈ lw_all) (hs : ref = (T0 fi).1 ∨ Cond.sameField ref (T0 fi).1 (T0 fi).2.1 (T0 fi).2.2.1 ∈ lw_all) (hf : (T0 fi).2.2.2 = false) (hty : zty ci fi = ty) (hz : ∀ (a : Int32) (e : Int64) (z : Value), zfv ty a e z = .int a) (hn : narrow ty (.int x) = .int x) (hfit : fits ty (.int x) = true) (hT : (T κ).1 = ci + 1) (hp : pc + 3 = pc') (k : zAW M d b pc' l st T (z2 I κ fi x) L R P) : zAW M d b pc l (.int x :: .ref κ :: st) T I L R P := by
  subst hp
  intro ln D cst dA A p e Rm s m args below meth c bs θ0 T0 θ H locs cells slots ls G
  obtain ⟨K, hR⟩ := G.2.2.1
  obtain ⟨i, hi, hw⟩ := hR.get (κ := κ) (by rw [hT]; omega)
  rw [zcell_o hT hci] at hw
  have hbig := hR.big (κ := κ) (by rw [hT]; omega)
  rw [List.map_cons, List.map_cons, zc_big hbig]
  have hd9 := hok fi hk
  rw [hty] at hd9
  refine va_put (D := D) (ci := ci) (v := zc cst θ (.int x)) (ty := ty) G.1.1 G.1.2.1 G.1.2.2.2.2.2.1 hin (zty ci) hok hnm G.1.2.2.2.2.1 G.1.2.2.2.2.2.2.2.2.2.1.2.2.1 hR.2.2.2.2.1 hR.2.2.2.2.2 G.2.2.2.1 i hw hc fi hk (G.1.2.2.2.2.2.1 _ hq) (fun x9 h9 => hs.elim (fun e => by rw [e]; exact h9) (fun e => u_same (G.1.2.2.2.2.2.1 _ e) x9 h9)) hf hd9 hn hfit (by rw [zfs_len hc]; exact hk) hdg (fun H1 locs1 hP1 hD1 hS1 => k ln D cst dA A p e Rm s m args below meth c bs θ0 T0 θ H1 locs1 cells slots ls (G.mem (fun h => zl_t (zl_t h)) ⟨K, hR.set hi ?_ ?_ ?_ hP1 hD1⟩ hS1))
  · rw [zcell_o hT hci]
    congr 2
    unfold zfs
    refine (z_range_set (by rw [hty, hz, z2_s]; rfl) (fun j hj => by rw [z2_nk hj])).symm
  · exact fun x9 h9 => ⟨z2_ro h9, rfl, rfl⟩
  · exact fun k9 => hR.2.2.2.1 κ k9 (by rw [hT]; omega)
theorem za_putL {ci fi N idx : Nat} {C ref : String} {T0 : u_T} {κ : Nat} {x : Int64} {ty : FieldType} (hdg : decode M.2.2.1 pc = .ok (.putfield idx, 3)) (hc : zcl[ci]? = some (C, T0, N)) (hci : ci < 99) (hin : ∀ w ∈ u_ws C T0 N, w ∈ lw_all) (hok : ∀ k, k < N → parseFieldDescriptor (T0 k).2.2.1 = some (zty ci k)) (hnm : ∀ a, a < N → ∀ b, b < N → a ≠ b → (T0 a).2.1 ≠ (T0 b).2.1) (hk : fi < N) (hq : Cond.fieldLink M.1 idx ref (T0 fi).2.1 (T0 fi).2.2.1 ∈ lw_all) (hs : ref = (T0 fi).1 ∨ Cond.sameField ref (T0 fi).1 (T0 fi).2.1 (T0 fi).2.2.1 ∈ lw_all) (hf : (T0 fi).2.2.2 = false) (hty : zty ci fi = ty) (hz : ∀ (a : Int32) (e : Int64) (z : Value), zfv ty a e z = .long e) (hn : narrow ty (.long x) = .long x) (hfit : fits ty (.long x) = true) (hT : (T κ).1 = ci + 1) (hp : pc + 3 = pc') (k : zAW M d b pc' l st T I (z2 L κ fi x) R P) : zAW M d b pc l (.long x :: .ref κ :: st) T I L R P := by
  subst hp
  intro ln D cst dA A p e Rm s m args below meth c bs θ0 T0 θ H locs cells slots ls G
  obtain ⟨K, hR⟩ := G.2.2.1
  obtain ⟨i, hi, hw⟩ := hR.get (κ := κ) (by rw [hT]; omega)
  rw [zcell_o hT hci] at hw
  have hbig := hR.big (κ := κ) (by rw [hT]; omega)
  rw [List.map_cons, List.map_cons, zc_big hbig]
  have hd9 := hok fi hk
  rw [hty] at hd9
  refine va_put (D := D) (ci := ci) (v := zc cst θ (.long x)) (ty := ty) G.1.1 G.1.2.1 G.1.2.2.2.2.2.1 hin (zty ci) hok hnm G.1.2.2.2.2.1 G.1.2.2.2.2.2.2.2.2.2.1.2.2.1 hR.2.2.2.2.1 hR.2.2.2.2.2 G.2.2.2.1 i hw hc fi hk (G.1.2.2.2.2.2.1 _ hq) (fun x9 h9 => hs.elim (fun e => by rw [e]; exact h9) (fun e => u_same (G.1.2.2.2.2.2.1 _ e) x9 h9)) hf hd9 hn hfit (by rw [zfs_len hc]; exact hk) hdg (fun H1 locs1 hP1 hD1 hS1 => k ln D cst dA A p e Rm s m args below meth c bs θ0 T0 θ H1 locs1 cells slots ls (G.mem (fun h => zl_t (zl_t h)) ⟨K, hR.set hi ?_ ?_ ?_ hP1 hD1⟩ hS1))
  · rw [zcell_o hT hci]
    congr 2
    unfold zfs
    refine (z_range_set (by rw [hty, hz, z2_s]; rfl) (fun j hj => by rw [z2_nk hj])).symm
  · exact fun x9 h9 => ⟨rfl, z2_ro h9, rfl⟩
  · exact fun k9 => hR.2.2.2.1 κ k9 (by rw [hT]; omega)
theorem za_putR {ci fi N idx : Nat} {C ref : String} {T0 : u_T} {κ : Nat} {x : Nat} {ty : FieldType} (hdg : decode M.2.2.1 pc = .ok (.putfield idx, 3)) (hc : zcl[ci]? = some (C, T0, N)) (hci : ci < 99) (hin : ∀ w ∈ u_ws C T0 N, w ∈ lw_all) (hok : ∀ k, k < N → parseFieldDescriptor (T0 k).2.2.1 = some (zty ci k)) (hnm : ∀ a, a < N → ∀ b, b < N → a ≠ b → (T0 a).2.1 ≠ (T0 b).2.1) (hk : fi < N) (hq : Cond.fieldLink M.1 idx ref (T0 fi).2.1 (T0 fi).2.2.1 ∈ lw_all) (hs : ref = (T0 fi).1 ∨ Cond.sameField ref (T0 fi).1 (T0 fi).2.1 (T0 fi).2.2.1 ∈ lw_all) (hf : (T0 fi).2.2.2 = false) (hty : zty ci fi = ty) (hz : ∀ (a : Int32) (e : Int64) (z : Value), zfv ty a e z = z) (hT : (T κ).1 = ci + 1) (hp : pc + 3 = pc') (k : zAW M d b pc' l st T I L (z2 R κ fi x) P) : zAW M d b pc l (.ref x :: .ref κ :: st) T I L R P := by
  subst hp
  intro ln D cst dA A p e Rm s m args below meth c bs θ0 T0 θ H locs cells slots ls G
  obtain ⟨K, hR⟩ := G.2.2.1
  obtain ⟨i, hi, hw⟩ := hR.get (κ := κ) (by rw [hT]; omega)
  rw [zcell_o hT hci] at hw
  have hbig := hR.big (κ := κ) (by rw [hT]; omega)
  rw [List.map_cons, List.map_cons, zc_big hbig]
  have hd9 := hok fi hk
  rw [hty] at hd9
  refine va_put (D := D) (ci := ci) (v := zc cst θ (.ref x)) (ty := ty) G.1.1 G.1.2.1 G.1.2.2.2.2.2.1 hin (zty ci) hok hnm G.1.2.2.2.2.1 G.1.2.2.2.2.2.2.2.2.2.1.2.2.1 hR.2.2.2.2.1 hR.2.2.2.2.2 G.2.2.2.1 i hw hc fi hk (G.1.2.2.2.2.2.1 _ hq) (fun x9 h9 => hs.elim (fun e => by rw [e]; exact h9) (fun e => u_same (G.1.2.2.2.2.2.1 _ e) x9 h9)) hf hd9 (zty_fits_r (hz 0 0)).1 (zty_fits_r (hz 0 0)).2 (by rw [zfs_len hc]; exact hk) hdg (fun H1 locs1 hP1 hD1 hS1 => k ln D cst dA A p e Rm s m args below meth c bs θ0 T0 θ H1 locs1 cells slots ls (G.mem (fun h => zl_t (zl_t h)) ⟨K, hR.set hi ?_ ?_ ?_ hP1 hD1⟩ hS1))
  · rw [zcell_o hT hci]
    congr 2
    unfold zfs
    refine (z_range_set (by rw [hty, hz, z2_s]) (fun j hj => by rw [z2_nk hj])).symm
  · exact fun x9 h9 => ⟨rfl, rfl, z2_ro h9⟩
  · intro k9
    rw [z2_r]
    by_cases h9 : k9 = fi
    · subst h9; rw [z1_s]; exact zl_h G.2.2.2.2.2.2.2
    · rw [z1_n h9]; exact hR.2.2.2.1 κ k9 (by rw [hT]; omega)
theorem za_putNI {ci fi N idx : Nat} {C ref : String} {T0 : u_T} {κ : Nat}{host : String}  {x : Int32} {ty : FieldType} (hdg : decode M.2.2.1 pc = .ok (.putfield idx, 3)) (hc : zcl[ci]? = some (C, T0, N)) (hci : ci < 99) (hin : ∀ w ∈ u_ws C T0 N, w ∈ lw_all) (hok : ∀ k, k < N → parseFieldDescriptor (T0 k).2.2.1 = some (zty ci k)) (hnm : ∀ a, a < N → ∀ b, b < N → a ≠ b → (T0 a).2.1 ≠ (T0 b).2.1) (hk : fi < N) (hq : Cond.fieldLinkNest M.1 idx ref (T0 fi).2.1 (T0 fi).2.2.1 host ∈ lw_tbl) (hs : ref = (T0 fi).1 ∨ Cond.sameField ref (T0 fi).1 (T0 fi).2.1 (T0 fi).2.2.1 ∈ lw_all) (hf : (T0 fi).2.2.2 = false) (hty : zty ci fi = ty) (hz : ∀ (a : Int32) (e : Int64) (z : Value), zfv ty a e z = .int a) (hn : narrow ty (.int x) = .int x) (hfit : fits ty (.int x) = true) (hT : (T κ).1 = ci + 1) (hp : pc + 3 = pc') (k : zAW M d b pc' l st T (z2 I κ fi x) L R P) : zAW M d b pc l (.int x :: .ref κ :: st) T I L R P := by
  subst hp
  intro ln D cst dA A p e Rm s m args below meth c bs θ0 T0 θ H locs cells slots ls G
  obtain ⟨K, hR⟩ := G.2.2.1
  obtain ⟨i, hi, hw⟩ := hR.get (κ := κ) (by rw [hT]; omega)
  rw [zcell_o hT hci] at hw
  have hbig := hR.big (κ := κ) (by rw [hT]; omega)
  rw [List.map_cons, List.map_cons, zc_big hbig]
  have hd9 := hok fi hk
  rw [hty] at hd9
  refine va_putN (D := D) (ci := ci) (v := zc cst θ (.int x)) (ty := ty) G.1.1 G.1.2.1 G.1.2.2.2.2.2.1 hin (zty ci) hok hnm G.1.2.2.2.2.1 G.1.2.2.2.2.2.2.2.2.2.1.2.2.1 hR.2.2.2.2.1 hR.2.2.2.2.2 G.2.2.2.1 i hw hc fi hk (z_isN G.1.2.2.2.2.2.2.2.2.2.1 hq rfl rfl) (fun x9 h9 => hs.elim (fun e => by rw [e]; exact h9) (fun e => u_same (G.1.2.2.2.2.2.1 _ e) x9 h9)) hf hd9 hn hfit (by rw [zfs_len hc]; exact hk) hdg (fun H1 locs1 hP1 hD1 hS1 => k ln D cst dA A p e Rm s m args below meth c bs θ0 T0 θ H1 locs1 cells slots ls (G.mem (fun h => zl_t (zl_t h)) ⟨K, hR.set hi ?_ ?_ ?_ hP1 hD1⟩ hS1))
  · rw [zcell_o hT hci]
    congr 2
    unfold zfs
    refine (z_range_set (by rw [hty, hz, z2_s]; rfl) (fun j hj => by rw [z2_nk hj])).symm
  · exact fun x9 h9 => ⟨z2_ro h9, rfl, rfl⟩
  · exact fun k9 => hR.2.2.2.1 κ k9 (by rw [hT]; omega)
theorem za_putNL {ci fi N idx : Nat} {C ref : String} {T0 : u_T} {κ : Nat}{host : String}  {x : Int64} {ty : FieldType} (hdg : decode M.2.2.1 pc = .ok (.putfield idx, 3)) (hc : zcl[ci]? = some (C, T0, N)) (hci : ci < 99) (hin : ∀ w ∈ u_ws C T0 N, w ∈ lw_all) (hok : ∀ k, k < N → parseFieldDescriptor (T0 k).2.2.1 = some (zty ci k)) (hnm : ∀ a, a < N → ∀ b, b < N → a ≠ b → (T0 a).2.1 ≠ (T0 b).2.1) (hk : fi < N) (hq : Cond.fieldLinkNest M.1 idx ref (T0 fi).2.1 (T0 fi).2.2.1 host ∈ lw_tbl) (hs : ref = (T0 fi).1 ∨ Cond.sameField ref (T0 fi).1 (T0 fi).2.1 (T0 fi).2.2.1 ∈ lw_all) (hf : (T0 fi).2.2.2 = false) (hty : zty ci fi = ty) (hz : ∀ (a : Int32) (e : Int64) (z : Value), zfv ty a e z = .long e) (hn : narrow ty (.long x) = .long x) (hfit : fits ty (.long x) = true) (hT : (T κ).1 = ci + 1) (hp : pc + 3 = pc') (k : zAW M d b pc' l st T I (z2 L κ fi x) R P) : zAW M d b pc l (.long x :: .ref κ :: st) T I L R P := by
  subst hp
  intro ln D cst dA A p e Rm s m args below meth c bs θ0 T0 θ H locs cells slots ls G
  obtain ⟨K, hR⟩ := G.2.2.1
  obtain ⟨i, hi, hw⟩ := hR.get (κ := κ) (by rw [hT]; omega)
  rw [zcell_o hT hci] at hw
  have hbig := hR.big (κ := κ) (by rw [hT]; omega)
  rw [List.map_cons, List.map_cons, zc_big hbig]
  have hd9 := hok fi hk
  rw [hty] at hd9
  refine va_putN (D := D) (ci := ci) (v := zc cst θ (.long x)) (ty := ty) G.1.1 G.1.2.1 G.1.2.2.2.2.2.1 hin (zty ci) hok hnm G.1.2.2.2.2.1 G.1.2.2.2.2.2.2.2.2.2.1.2.2.1 hR.2.2.2.2.1 hR.2.2.2.2.2 G.2.2.2.1 i hw hc fi hk (z_isN G.1.2.2.2.2.2.2.2.2.2.1 hq rfl rfl) (fun x9 h9 => hs.elim (fun e => by rw [e]; exact h9) (fun e => u_same (G.1.2.2.2.2.2.1 _ e) x9 h9)) hf hd9 hn hfit (by rw [zfs_len hc]; exact hk) hdg (fun H1 locs1 hP1 hD1 hS1 => k ln D cst dA A p e Rm s m args below meth c bs θ0 T0 θ H1 locs1 cells slots ls (G.mem (fun h => zl_t (zl_t h)) ⟨K, hR.set hi ?_ ?_ ?_ hP1 hD1⟩ hS1))
  · rw [zcell_o hT hci]
    congr 2
    unfold zfs
    refine (z_range_set (by rw [hty, hz, z2_s]; rfl) (fun j hj => by rw [z2_nk hj])).symm
  · exact fun x9 h9 => ⟨rfl, z2_ro h9, rfl⟩
  · exact fun k9 => hR.2.2.2.1 κ k9 (by rw [hT]; omega)
theorem za_putNR {ci fi N idx : Nat} {C ref : String} {T0 : u_T} {κ : Nat}{host : String}  {x : Nat} {ty : FieldType} (hdg : decode M.2.2.1 pc = .ok (.putfield idx, 3)) (hc : zcl[ci]? = some (C, T0, N)) (hci : ci < 99) (hin : ∀ w ∈ u_ws C T0 N, w ∈ lw_all) (hok : ∀ k, k < N → parseFieldDescriptor (T0 k).2.2.1 = some (zty ci k)) (hnm : ∀ a, a < N → ∀ b, b < N → a ≠ b → (T0 a).2.1 ≠ (T0 b).2.1) (hk : fi < N) (hq : Cond.fieldLinkNest M.1 idx ref (T0 fi).2.1 (T0 fi).2.2.1 host ∈ lw_tbl) (hs : ref = (T0 fi).1 ∨ Cond.sameField ref (T0 fi).1 (T0 fi).2.1 (T0 fi).2.2.1 ∈ lw_all) (hf : (T0 fi).2.2.2 = false) (hty : zty ci fi = ty) (hz : ∀ (a : Int32) (e : Int64) (z : Value), zfv ty a e z = z) (hT : (T κ).1 = ci + 1) (hp : pc + 3 = pc') (k : zAW M d b pc' l st T I L (z2 R κ fi x) P) : zAW M d b pc l (.ref x :: .ref κ :: st) T I L R P := by
  subst hp
  intro ln D cst dA A p e Rm s m args below meth c bs θ0 T0 θ H locs cells slots ls G
  obtain ⟨K, hR⟩ := G.2.2.1
  obtain ⟨i, hi, hw⟩ := hR.get (κ := κ) (by rw [hT]; omega)
  rw [zcell_o hT hci] at hw
  have hbig := hR.big (κ := κ) (by rw [hT]; omega)
  rw [List.map_cons, List.map_cons, zc_big hbig]
  have hd9 := hok fi hk
  rw [hty] at hd9
  refine va_putN (D := D) (ci := ci) (v := zc cst θ (.ref x)) (ty := ty) G.1.1 G.1.2.1 G.1.2.2.2.2.2.1 hin (zty ci) hok hnm G.1.2.2.2.2.1 G.1.2.2.2.2.2.2.2.2.2.1.2.2.1 hR.2.2.2.2.1 hR.2.2.2.2.2 G.2.2.2.1 i hw hc fi hk (z_isN G.1.2.2.2.2.2.2.2.2.2.1 hq rfl rfl) (fun x9 h9 => hs.elim (fun e => by rw [e]; exact h9) (fun e => u_same (G.1.2.2.2.2.2.1 _ e) x9 h9)) hf hd9 (zty_fits_r (hz 0 0)).1 (zty_fits_r (hz 0 0)).2 (by rw [zfs_len hc]; exact hk) hdg (fun H1 locs1 hP1 hD1 hS1 => k ln D cst dA A p e Rm s m args below meth c bs θ0 T0 θ H1 locs1 cells slots ls (G.mem (fun h => zl_t (zl_t h)) ⟨K, hR.set hi ?_ ?_ ?_ hP1 hD1⟩ hS1))
  · rw [zcell_o hT hci]
    congr 2
    unfold zfs
    refine (z_range_set (by rw [hty, hz, z2_s]) (fun j hj => by rw [z2_nk hj])).symm
  · exact fun x9 h9 => ⟨rfl, rfl, z2_ro h9⟩
  · intro k9
    rw [z2_r]
    by_cases h9 : k9 = fi
    · subst h9; rw [z1_s]; exact zl_h G.2.2.2.2.2.2.2
    · rw [z1_n h9]; exact hR.2.2.2.1 κ k9 (by rw [hT]; omega)
theorem za_putFI {ci fi N idx : Nat} {C ref : String} {T0 : u_T} {κ : Nat} {x : Int32} {ty : FieldType} (hdg : decode M.2.2.1 pc = .ok (.putfield idx, 3)) (hc : zcl[ci]? = some (C, T0, N)) (hci : ci < 99) (hin : ∀ w ∈ u_ws C T0 N, w ∈ lw_all) (hok : ∀ k, k < N → parseFieldDescriptor (T0 k).2.2.1 = some (zty ci k)) (hnm : ∀ a, a < N → ∀ b, b < N → a ≠ b → (T0 a).2.1 ≠ (T0 b).2.1) (hk : fi < N) (hq : Cond.fieldLink M.1 idx ref (T0 fi).2.1 (T0 fi).2.2.1 ∈ lw_all) (hs : ref = (T0 fi).1 ∨ Cond.sameField ref (T0 fi).1 (T0 fi).2.1 (T0 fi).2.2.1 ∈ lw_all) (hf : (T0 fi).2.2.2 = true) (hin2 : M.2.1.name = "<init>") (hd2 : (T0 fi).1 = M.1) (hty : zty ci fi = ty) (hz : ∀ (a : Int32) (e : Int64) (z : Value), zfv ty a e z = .int a) (hn : narrow ty (.int x) = .int x) (hfit : fits ty (.int x) = true) (hT : (T κ).1 = ci + 1) (hp : pc + 3 = pc') (k : zAW M d b pc' l st T (z2 I κ fi x) L R P) : zAW M d b pc l (.int x :: .ref κ :: st) T I L R P := by
  subst hp
  intro ln D cst dA A p e Rm s m args below meth c bs θ0 T0 θ H locs cells slots ls G
  obtain ⟨K, hR⟩ := G.2.2.1
  obtain ⟨i, hi, hw⟩ := hR.get (κ := κ) (by rw [hT]; omega)
  rw [zcell_o hT hci] at hw
  have hbig := hR.big (κ := κ) (by rw [hT]; omega)
  rw [List.map_cons, List.map_cons, zc_big hbig]
  have hd9 := hok fi hk
  rw [hty] at hd9
  refine va_putF (D := D) (ci := ci) (v := zc cst θ (.int x)) (ty := ty) G.1.1 G.1.2.1 G.1.2.2.2.2.2.1 hin (zty ci) hok hnm G.1.2.2.2.2.1 G.1.2.2.2.2.2.2.2.2.2.1.2.2.1 hR.2.2.2.2.1 hR.2.2.2.2.2 G.2.2.2.1 i hw hc fi hk (G.1.2.2.2.2.2.1 _ hq) (fun x9 h9 => hs.elim (fun e => by rw [e]; exact h9) (fun e => u_same (G.1.2.2.2.2.2.1 _ e) x9 h9)) hf (G.1.2.2.2.2.2.2.2.1.trans hin2) hd2 hd9 hn hfit (by rw [zfs_len hc]; exact hk) hdg (fun H1 locs1 hP1 hD1 hS1 => k ln D cst dA A p e Rm s m args below meth c bs θ0 T0 θ H1 locs1 cells slots ls (G.mem (fun h => zl_t (zl_t h)) ⟨K, hR.set hi ?_ ?_ ?_ hP1 hD1⟩ hS1))
  · rw [zcell_o hT hci]
    congr 2
    unfold zfs
    refine (z_range_set (by rw [hty, hz, z2_s]; rfl) (fun j hj => by rw [z2_nk hj])).symm
  · exact fun x9 h9 => ⟨z2_ro h9, rfl, rfl⟩
  · exact fun k9 => hR.2.2.2.1 κ k9 (by rw [hT]; omega)
theorem za_putFL {ci fi N idx : Nat} {C ref : String} {T0 : u_T} {κ : Nat} {x : Int64} {ty : FieldType} (hdg : decode M.2.2.1 pc = .ok (.putfield idx, 3)) (hc : zcl[ci]? = some (C, T0, N)) (hci : ci < 99) (hin : ∀ w ∈ u_ws C T0 N, w ∈ lw_all) (hok : ∀ k, k < N → parseFieldDescriptor (T0 k).2.2.1 = some (zty ci k)) (hnm : ∀ a, a < N → ∀ b, b < N → a ≠ b → (T0 a).2.1 ≠ (T0 b).2.1) (hk : fi < N) (hq : Cond.fieldLink M.1 idx ref (T0 fi).2.1 (T0 fi).2.2.1 ∈ lw_all) (hs : ref = (T0 fi).1 ∨ Cond.sameField ref (T0 fi).1 (T0 fi).2.1 (T0 fi).2.2.1 ∈ lw_all) (hf : (T0 fi).2.2.2 = true) (hin2 : M.2.1.name = "<init>") (hd2 : (T0 fi).1 = M.1) (hty : zty ci fi = ty) (hz : ∀ (a : Int32) (e : Int64) (z : Value), zfv ty a e z = .long e) (hn : narrow ty (.long x) = .long x) (hfit : fits ty (.long x) = true) (hT : (T κ).1 = ci + 1) (hp : pc + 3 = pc') (k : zAW M d b pc' l st T I (z2 L κ fi x) R P) : zAW M d b pc l (.long x :: .ref κ :: st) T I L R P := by
  subst hp
  intro ln D cst dA A p e Rm s m args below meth c bs θ0 T0 θ H locs cells slots ls G
  obtain ⟨K, hR⟩ := G.2.2.1
  obtain ⟨i, hi, hw⟩ := hR.get (κ := κ) (by rw [hT]; omega)
  rw [zcell_o hT hci] at hw
  have hbig := hR.big (κ := κ) (by rw [hT]; omega)
  rw [List.map_cons, List.map_cons, zc_big hbig]
  have hd9 := hok fi hk
  rw [hty] at hd9
  refine va_putF (D := D) (ci := ci) (v := zc cst θ (.long x)) (ty := ty) G.1.1 G.1.2.1 G.1.2.2.2.2.2.1 hin (zty ci) hok hnm G.1.2.2.2.2.1 G.1.2.2.2.2.2.2.2.2.2.1.2.2.1 hR.2.2.2.2.1 hR.2.2.2.2.2 G.2.2.2.1 i hw hc fi hk (G.1.2.2.2.2.2.1 _ hq) (fun x9 h9 => hs.elim (fun e => by rw [e]; exact h9) (fun e => u_same (G.1.2.2.2.2.2.1 _ e) x9 h9)) hf (G.1.2.2.2.2.2.2.2.1.trans hin2) hd2 hd9 hn hfit (by rw [zfs_len hc]; exact hk) hdg (fun H1 locs1 hP1 hD1 hS1 => k ln D cst dA A p e Rm s m args below meth c bs θ0 T0 θ H1 locs1 cells slots ls (G.mem (fun h => zl_t (zl_t h)) ⟨K, hR.set hi ?_ ?_ ?_ hP1 hD1⟩ hS1))
  · rw [zcell_o hT hci]
    congr 2
    unfold zfs
    refine (z_range_set (by rw [hty, hz, z2_s]; rfl) (fun j hj => by rw [z2_nk hj])).symm
  · exact fun x9 h9 => ⟨rfl, z2_ro h9, rfl⟩
  · exact fun k9 => hR.2.2.2.1 κ k9 (by rw [hT]; omega)
theorem za_putFR {ci fi N idx : Nat} {C ref : String} {T0 : u_T} {κ : Nat} {x : Nat} {ty : FieldType} (hdg : decode M.2.2.1 pc = .ok (.putfield idx, 3)) (hc : zcl[ci]? = some (C, T0, N)) (hci : ci < 99) (hin : ∀ w ∈ u_ws C T0 N, w ∈ lw_all) (hok : ∀ k, k < N → parseFieldDescriptor (T0 k).2.2.1 = some (zty ci k)) (hnm : ∀ a, a < N → ∀ b, b < N → a ≠ b → (T0 a).2.1 ≠ (T0 b).2.1) (hk : fi < N) (hq : Cond.fieldLink M.1 idx ref (T0 fi).2.1 (T0 fi).2.2.1 ∈ lw_all) (hs : ref = (T0 fi).1 ∨ Cond.sameField ref (T0 fi).1 (T0 fi).2.1 (T0 fi).2.2.1 ∈ lw_all) (hf : (T0 fi).2.2.2 = true) (hin2 : M.2.1.name = "<init>") (hd2 : (T0 fi).1 = M.1) (hty : zty ci fi = ty) (hz : ∀ (a : Int32) (e : Int64) (z : Value), zfv ty a e z = z) (hT : (T κ).1 = ci + 1) (hp : pc + 3 = pc') (k : zAW M d b pc' l st T I L (z2 R κ fi x) P) : zAW M d b pc l (.ref x :: .ref κ :: st) T I L R P := by
  subst hp
  intro ln D cst dA A p e Rm s m args below meth c bs θ0 T0 θ H locs cells slots ls G
  obtain ⟨K, hR⟩ := G.2.2.1
  obtain ⟨i, hi, hw⟩ := hR.get (κ := κ) (by rw [hT]; omega)
  rw [zcell_o hT hci] at hw
  have hbig := hR.big (κ := κ) (by rw [hT]; omega)
  rw [List.map_cons, List.map_cons, zc_big hbig]
  have hd9 := hok fi hk
  rw [hty] at hd9
  refine va_putF (D := D) (ci := ci) (v := zc cst θ (.ref x)) (ty := ty) G.1.1 G.1.2.1 G.1.2.2.2.2.2.1 hin (zty ci) hok hnm G.1.2.2.2.2.1 G.1.2.2.2.2.2.2.2.2.2.1.2.2.1 hR.2.2.2.2.1 hR.2.2.2.2.2 G.2.2.2.1 i hw hc fi hk (G.1.2.2.2.2.2.1 _ hq) (fun x9 h9 => hs.elim (fun e => by rw [e]; exact h9) (fun e => u_same (G.1.2.2.2.2.2.1 _ e) x9 h9)) hf (G.1.2.2.2.2.2.2.2.1.trans hin2) hd2 hd9 (zty_fits_r (hz 0 0)).1 (zty_fits_r (hz 0 0)).2 (by rw [zfs_len hc]; exact hk) hdg (fun H1 locs1 hP1 hD1 hS1 => k ln D cst dA A p e Rm s m args below meth c bs θ0 T0 θ H1 locs1 cells slots ls (G.mem (fun h => zl_t (zl_t h)) ⟨K, hR.set hi ?_ ?_ ?_ hP1 hD1⟩ hS1))
  · rw [zcell_o hT hci]
    congr 2
    unfold zfs
    refine (z_range_set (by rw [hty, hz, z2_s]) (fun j hj => by rw [z2_nk hj])).symm
  · exact fun x9 h9 => ⟨rfl, rfl, z2_ro h9⟩
  · intro k9
    rw [z2_r]
    by_cases h9 : k9 = fi
    · subst h9; rw [z1_s]; exact zl_h G.2.2.2.2.2.2.2
    · rw [z1_n h9]; exact hR.2.2.2.1 κ k9 (by rw [hT]; omega)
theorem za_alen {κ t n : Nat} {ty : FieldType} {v : Int32} (hdg : decode M.2.2.1 pc = .ok (.arraylength, 1)) (hT : T κ = (100 + t, n)) (ht : ∀ dA : Nat → ClassId, (ztys dA)[t]? = some (dA t, ty)) (hv : nI n = v) (hp : pc + 1 = pc') (k : zAW M d b pc' l (.int v :: st) T I L R P) : zAW M d b pc l (.ref κ :: st) T I L R P := by
  subst hp
  intro ln D cst dA A p e Rm s m args below meth c bs θ0 T0 θ H locs cells slots ls G
  obtain ⟨K, hR⟩ := G.2.2.1
  have hn0 : (T κ).1 ≠ 0 := by rw [hT]; show 100 + t ≠ 0; omega
  obtain ⟨i, hi, hw⟩ := hR.get hn0
  rw [zcell_a hT] at hw
  rw [List.map_cons, zc_big (hR.big hn0)]
  exact va_alen (D := D) G.1.1 G.1.2.1 G.1.2.2.2.2.2.2.2.2.2.1.2.2.1 hR.2.2.2.2.1 i t hw (ht dA) hv hdg (k ln D cst dA A p e Rm s m args below meth c bs θ0 T0 θ H locs cells slots ls (G.stk fun h => zl_c trivial (zl_t h)))
theorem za_iald {κ n : Nat} {i : Int32} {v : Value} (hdg : decode M.2.2.1 pc = .ok (.iaload, 1)) (hT : T κ = (100 + 0, n)) (hi0 : vp_in i n) (hv : .int (I κ i.toNatClampNeg) = v) (hp : pc + 1 = pc') (k : zAW M d b pc' l (v :: st) T I L R P) : zAW M d b pc l (.int i :: .ref κ :: st) T I L R P := by
  subst hp; subst hv
  intro ln D cst dA A p e Rm s m args below meth c bs θ0 T0 θ H locs cells slots ls G
  obtain ⟨K, hR⟩ := G.2.2.1
  have hn0 : (T κ).1 ≠ 0 := by rw [hT]; show 100 + 0 ≠ 0; omega
  obtain ⟨i9, hi, hw⟩ := hR.get hn0
  rw [zcell_a hT] at hw
  have e9 : zct cst θ I L R 0 κ = .inl (I κ) := rfl
  rw [e9] at hw
  rw [List.map_cons, List.map_cons, zc_big (hR.big hn0)]
  exact va_iald (D := D) G.1.1 G.1.2.1 G.1.2.2.2.2.2.2.2.2.2.1.2.2.1 hR.2.2.2.2.1 i9 0 hw rfl hi0 hdg (k ln D cst dA A p e Rm s m args below meth c bs θ0 T0 θ H locs cells slots ls (G.stk fun h => zl_c trivial (zl_t (zl_t h))))
theorem za_zald {κ n : Nat} {i : Int32} {v : Value} (hdg : decode M.2.2.1 pc = .ok (.baload, 1)) (hT : T κ = (100 + 2, n)) (hi0 : vp_in i n) (hv : .int (I κ i.toNatClampNeg) = v) (hp : pc + 1 = pc') (k : zAW M d b pc' l (v :: st) T I L R P) : zAW M d b pc l (.int i :: .ref κ :: st) T I L R P := by
  subst hp; subst hv
  intro ln D cst dA A p e Rm s m args below meth c bs θ0 T0 θ H locs cells slots ls G
  obtain ⟨K, hR⟩ := G.2.2.1
  have hn0 : (T κ).1 ≠ 0 := by rw [hT]; show 100 + 2 ≠ 0; omega
  obtain ⟨i9, hi, hw⟩ := hR.get hn0
  rw [zcell_a hT] at hw
  have e9 : zct cst θ I L R 2 κ = .inl (I κ) := rfl
  rw [e9] at hw
  rw [List.map_cons, List.map_cons, zc_big (hR.big hn0)]
  exact va_zald (D := D) G.1.1 G.1.2.1 G.1.2.2.2.2.2.2.2.2.2.1.2.2.1 hR.2.2.2.2.1 i9 2 hw rfl hi0 hdg (k ln D cst dA A p e Rm s m args below meth c bs θ0 T0 θ H locs cells slots ls (G.stk fun h => zl_c trivial (zl_t (zl_t h))))
theorem za_bald {κ n : Nat} {i : Int32} {v : Value} (hdg : decode M.2.2.1 pc = .ok (.baload, 1)) (hT : T κ = (100 + 3, n)) (hi0 : vp_in i n) (hv : .int (I κ i.toNatClampNeg) = v) (hp : pc + 1 = pc') (k : zAW M d b pc' l (v :: st) T I L R P) : zAW M d b pc l (.int i :: .ref κ :: st) T I L R P := by
  subst hp; subst hv
  intro ln D cst dA A p e Rm s m args below meth c bs θ0 T0 θ H locs cells slots ls G
  obtain ⟨K, hR⟩ := G.2.2.1
  have hn0 : (T κ).1 ≠ 0 := by rw [hT]; show 100 + 3 ≠ 0; omega
  obtain ⟨i9, hi, hw⟩ := hR.get hn0
  rw [zcell_a hT] at hw
  have e9 : zct cst θ I L R 3 κ = .inl (I κ) := rfl
  rw [e9] at hw
  rw [List.map_cons, List.map_cons, zc_big (hR.big hn0)]
  exact va_bald (D := D) G.1.1 G.1.2.1 G.1.2.2.2.2.2.2.2.2.2.1.2.2.1 hR.2.2.2.2.1 i9 3 hw rfl hi0 hdg (k ln D cst dA A p e Rm s m args below meth c bs θ0 T0 θ H locs cells slots ls (G.stk fun h => zl_c trivial (zl_t (zl_t h))))
theorem za_lald {κ n : Nat} {i : Int32} {v : Value} (hdg : decode M.2.2.1 pc = .ok (.laload, 1)) (hT : T κ = (100 + 1, n)) (hi0 : vp_in i n) (hv : .long (L κ i.toNatClampNeg) = v) (hp : pc + 1 = pc') (k : zAW M d b pc' l (v :: st) T I L R P) : zAW M d b pc l (.int i :: .ref κ :: st) T I L R P := by
  subst hp; subst hv
  intro ln D cst dA A p e Rm s m args below meth c bs θ0 T0 θ H locs cells slots ls G
  obtain ⟨K, hR⟩ := G.2.2.1
  have hn0 : (T κ).1 ≠ 0 := by rw [hT]; show 100 + 1 ≠ 0; omega
  obtain ⟨i9, hi, hw⟩ := hR.get hn0
  rw [zcell_a hT] at hw
  have e9 : zct cst θ I L R 1 κ = .inr (.inl (L κ)) := rfl
  rw [e9] at hw
  rw [List.map_cons, List.map_cons, zc_big (hR.big hn0)]
  exact va_lald (D := D) G.1.1 G.1.2.1 G.1.2.2.2.2.2.2.2.2.2.1.2.2.1 hR.2.2.2.2.1 i9 1 hw rfl hi0 hdg (k ln D cst dA A p e Rm s m args below meth c bs θ0 T0 θ H locs cells slots ls (G.stk fun h => zl_c trivial (zl_t (zl_t h))))
theorem za_aald {κ t n : Nat} {i : Int32} {C : String} {r : Nat} (hdg : decode M.2.2.1 pc = .ok (.aaload, 1)) (ht4 : 4 ≤ t) (ht : ∀ dA : Nat → ClassId, (ztys dA)[t]? = some (dA t, .object C)) (hT : T κ = (100 + t, n)) (hi0 : vp_in i n) (hv : R κ i.toNatClampNeg = r) (hp : pc + 1 = pc') (k : zAW M d b pc' l (.ref r :: st) T I L R P) : zAW M d b pc l (.int i :: .ref κ :: st) T I L R P := by
  subst hp; subst hv
  intro ln D cst dA A p e Rm s m args below meth c bs θ0 T0 θ H locs cells slots ls G
  obtain ⟨K, hR⟩ := G.2.2.1
  have hn0 : (T κ).1 ≠ 0 := by rw [hT]; show 100 + t ≠ 0; omega
  obtain ⟨i9, hi, hw⟩ := hR.get hn0
  rw [zcell_a hT] at hw
  have e9 : zct cst θ I L R t κ = .inr (.inr (.inr (.inr fun i => zo cst θ (R κ i)))) := by unfold zct; rw [if_neg (by omega), if_neg (by omega)]
  rw [e9] at hw
  rw [List.map_cons, List.map_cons, zc_big (hR.big hn0)]
  exact va_aldq (D := D) G.1.1 G.1.2.1 G.1.2.2.2.2.2.2.2.2.2.1.2.2.1 hR.2.2.2.2.1 i9 t hw (ht dA) hi0 hdg (k ln D cst dA A p e Rm s m args below meth c bs θ0 T0 θ H locs cells slots ls (G.stk fun h => zl_c (hR.2.2.2.1 κ _ hn0) (zl_t (zl_t h))))
theorem za_iast {κ n k : Nat} {i : Int32} {x : Int32} (hdg : decode M.2.2.1 pc = .ok (.iastore, 1)) (hT : T κ = (100 + 0, n)) (hi0 : vp_in i n) (hk9 : i.toNatClampNeg = k) (hp : pc + 1 = pc') (kz : zAW M d b pc' l st T (z2 I κ k x) L R P) : zAW M d b pc l (.int x :: .int i :: .ref κ :: st) T I L R P := by
  subst hp; subst hk9
  intro ln D cst dA A p e Rm s m args below meth c bs θ0 T0 θ H locs cells slots ls G
  obtain ⟨K, hR⟩ := G.2.2.1
  have hn0 : (T κ).1 ≠ 0 := by rw [hT]; show 100 + 0 ≠ 0; omega
  obtain ⟨i9, hi, hw⟩ := hR.get hn0
  rw [zcell_a hT] at hw
  have e9 : zct cst θ I L R 0 κ = .inl (I κ) := rfl
  rw [e9] at hw
  rw [List.map_cons, List.map_cons, List.map_cons, zc_big (hR.big hn0)]
  refine va_iast (D := D) G.1.1 G.1.2.1 G.1.2.2.2.2.2.2.2.2.2.1.2.2.1 hR.2.2.2.2.1 hR.2.2.2.2.2 G.2.2.2.1 i9 0 hw rfl hi0 hdg (fun H1 locs1 hP1 hD1 hS1 => kz ln D cst dA A p e Rm s m args below meth c bs θ0 T0 θ H1 locs1 cells slots ls (G.mem (fun h => zl_t (zl_t (zl_t h))) ⟨K, hR.set hi ?_ ?_ ?_ hP1 hD1⟩ hS1))
  · rw [zcell_a hT]
    unfold zct
    simp only [z2_r]
    rfl
  · exact fun x9 h9 => ⟨z2_ro h9, rfl, rfl⟩
  · exact fun k9 => hR.2.2.2.1 κ k9 hn0
theorem za_zast {κ n k : Nat} {i : Int32} {x : Int32} (hdg : decode M.2.2.1 pc = .ok (.bastore, 1)) (hT : T κ = (100 + 2, n)) (hi0 : vp_in i n) (hk9 : i.toNatClampNeg = k) (hp : pc + 1 = pc') (kz : zAW M d b pc' l st T (z2 I κ k (vp_nar .boolean x)) L R P) : zAW M d b pc l (.int x :: .int i :: .ref κ :: st) T I L R P := by
  subst hp; subst hk9
  intro ln D cst dA A p e Rm s m args below meth c bs θ0 T0 θ H locs cells slots ls G
  obtain ⟨K, hR⟩ := G.2.2.1
  have hn0 : (T κ).1 ≠ 0 := by rw [hT]; show 100 + 2 ≠ 0; omega
  obtain ⟨i9, hi, hw⟩ := hR.get hn0
  rw [zcell_a hT] at hw
  have e9 : zct cst θ I L R 2 κ = .inl (I κ) := rfl
  rw [e9] at hw
  rw [List.map_cons, List.map_cons, List.map_cons, zc_big (hR.big hn0)]
  refine va_zast (D := D) G.1.1 G.1.2.1 G.1.2.2.2.2.2.2.2.2.2.1.2.2.1 hR.2.2.2.2.1 hR.2.2.2.2.2 G.2.2.2.1 i9 2 hw rfl hi0 hdg (fun H1 locs1 hP1 hD1 hS1 => kz ln D cst dA A p e Rm s m args below meth c bs θ0 T0 θ H1 locs1 cells slots ls (G.mem (fun h => zl_t (zl_t (zl_t h))) ⟨K, hR.set hi ?_ ?_ ?_ hP1 hD1⟩ hS1))
  · rw [zcell_a hT]
    unfold zct
    simp only [z2_r]
    rfl
  · exact fun x9 h9 => ⟨z2_ro h9, rfl, rfl⟩
  · exact fun k9 => hR.2.2.2.1 κ k9 hn0
theorem za_bast {κ n k : Nat} {i : Int32} {x : Int32} (hdg : decode M.2.2.1 pc = .ok (.bastore, 1)) (hT : T κ = (100 + 3, n)) (hi0 : vp_in i n) (hk9 : i.toNatClampNeg = k) (hp : pc + 1 = pc') (kz : zAW M d b pc' l st T (z2 I κ k (vp_nar .byte x)) L R P) : zAW M d b pc l (.int x :: .int i :: .ref κ :: st) T I L R P := by
  subst hp; subst hk9
  intro ln D cst dA A p e Rm s m args below meth c bs θ0 T0 θ H locs cells slots ls G
  obtain ⟨K, hR⟩ := G.2.2.1
  have hn0 : (T κ).1 ≠ 0 := by rw [hT]; show 100 + 3 ≠ 0; omega
  obtain ⟨i9, hi, hw⟩ := hR.get hn0
  rw [zcell_a hT] at hw
  have e9 : zct cst θ I L R 3 κ = .inl (I κ) := rfl
  rw [e9] at hw
  rw [List.map_cons, List.map_cons, List.map_cons, zc_big (hR.big hn0)]
  refine va_bast (D := D) G.1.1 G.1.2.1 G.1.2.2.2.2.2.2.2.2.2.1.2.2.1 hR.2.2.2.2.1 hR.2.2.2.2.2 G.2.2.2.1 i9 3 hw rfl hi0 hdg (fun H1 locs1 hP1 hD1 hS1 => kz ln D cst dA A p e Rm s m args below meth c bs θ0 T0 θ H1 locs1 cells slots ls (G.mem (fun h => zl_t (zl_t (zl_t h))) ⟨K, hR.set hi ?_ ?_ ?_ hP1 hD1⟩ hS1))
  · rw [zcell_a hT]
    unfold zct
    simp only [z2_r]
    rfl
  · exact fun x9 h9 => ⟨z2_ro h9, rfl, rfl⟩
  · exact fun k9 => hR.2.2.2.1 κ k9 hn0
theorem za_last {κ n k : Nat} {i : Int32} {x : Int64} (hdg : decode M.2.2.1 pc = .ok (.lastore, 1)) (hT : T κ = (100 + 1, n)) (hi0 : vp_in i n) (hk9 : i.toNatClampNeg = k) (hp : pc + 1 = pc') (kz : zAW M d b pc' l st T I (z2 L κ k x) R P) : zAW M d b pc l (.long x :: .int i :: .ref κ :: st) T I L R P := by
  subst hp; subst hk9
  intro ln D cst dA A p e Rm s m args below meth c bs θ0 T0 θ H locs cells slots ls G
  obtain ⟨K, hR⟩ := G.2.2.1
  have hn0 : (T κ).1 ≠ 0 := by rw [hT]; show 100 + 1 ≠ 0; omega
  obtain ⟨i9, hi, hw⟩ := hR.get hn0
  rw [zcell_a hT] at hw
  have e9 : zct cst θ I L R 1 κ = .inr (.inl (L κ)) := rfl
  rw [e9] at hw
  rw [List.map_cons, List.map_cons, List.map_cons, zc_big (hR.big hn0)]
  refine va_last (D := D) G.1.1 G.1.2.1 G.1.2.2.2.2.2.2.2.2.2.1.2.2.1 hR.2.2.2.2.1 hR.2.2.2.2.2 G.2.2.2.1 i9 1 hw rfl hi0 hdg (fun H1 locs1 hP1 hD1 hS1 => kz ln D cst dA A p e Rm s m args below meth c bs θ0 T0 θ H1 locs1 cells slots ls (G.mem (fun h => zl_t (zl_t (zl_t h))) ⟨K, hR.set hi ?_ ?_ ?_ hP1 hD1⟩ hS1))
  · rw [zcell_a hT]
    unfold zct
    simp only [z2_r]
    rfl
  · exact fun x9 h9 => ⟨rfl, z2_ro h9, rfl⟩
  · exact fun k9 => hR.2.2.2.1 κ k9 hn0
theorem za_aast {κ t n cv κv kx : Nat} {q9 : vw_C} {i : Int32} (hdg : decode M.2.2.1 pc = .ok (.aastore, 1)) (ht4 : 4 ≤ t) (ht : ∀ dA : Nat → ClassId, (ztys dA)[t]? = some (dA t, .object q9.1)) (hT : T κ = (100 + t, n)) (hi0 : vp_in i n) (hcv : zcl[cv]? = some q9) (hcl : cv < 99) (hTv : (T κv).1 = cv + 1) (hk9 : i.toNatClampNeg = kx) (hp : pc + 1 = pc') (k : zAW M d b pc' l st T I L (z2 R κ kx κv) P) : zAW M d b pc l (.ref κv :: .int i :: .ref κ :: st) T I L R P := by
  subst hp; subst hk9
  intro ln D cst dA A p e Rm s m args below meth c bs θ0 T0 θ H locs cells slots ls G
  obtain ⟨K, hR⟩ := G.2.2.1
  have hn0 : (T κ).1 ≠ 0 := by rw [hT]; show 100 + t ≠ 0; omega
  have hnv : (T κv).1 ≠ 0 := by rw [hTv]; omega
  obtain ⟨i9, hi, hw⟩ := hR.get hn0
  obtain ⟨iv, hiv, hwv⟩ := hR.get hnv
  rw [zcell_a hT] at hw
  rw [zcell_o hTv hcl] at hwv
  have e9 : ∀ R : zR, zct cst θ I L R t κ = .inr (.inr (.inr (.inr fun i => zo cst θ (R κ i)))) := by intro R; unfold zct; rw [if_neg (by omega), if_neg (by omega)]
  rw [e9] at hw
  rw [List.map_cons, List.map_cons, List.map_cons, zc_big (hR.big hn0), zc_big (hR.big hnv)]
  refine va_astq (D := D) G.1.1 G.1.2.1 G.1.2.2.2.2.2.2.2.2.2.1.2.2.1 hR.2.2.2.2.1 hR.2.2.2.2.2 G.2.2.2.1 i9 t iv cv hw (ht dA) hwv hcv hi0 hdg (fun H1 locs1 hP1 hD1 hS1 => k ln D cst dA A p e Rm s m args below meth c bs θ0 T0 θ H1 locs1 cells slots ls (G.mem (fun h => zl_t (zl_t (zl_t h))) ⟨K, hR.set hi ?_ ?_ ?_ hP1 hD1⟩ hS1))
  · rw [zcell_a hT, e9]
    congr 7
    funext j
    rw [z2_r]
    unfold z1 va_up
    by_cases hj : j = i.toNatClampNeg
    · rw [if_pos hj, if_pos hj, zo_big (hR.big hnv)]
    · rw [if_neg hj, if_neg hj]
  · exact fun x9 h9 => ⟨rfl, rfl, z2_ro h9⟩
  · intro k9
    rw [z2_r]
    by_cases h9 : k9 = i.toNatClampNeg
    · subst h9; rw [z1_s]; exact Or.inr hnv
    · rw [z1_n h9]; exact hR.2.2.2.1 κ k9 hn0
theorem za_aastO {κ t n cv κv kx : Nat} {q9 : vw_C} {i : Int32} {E : String} (hca : Cond.castable q9.1 E ∈ lw_tbl) (hdg : decode M.2.2.1 pc = .ok (.aastore, 1)) (ht4 : 4 ≤ t) (ht : ∀ dA : Nat → ClassId, (ztys dA)[t]? = some (dA t, .object E)) (hT : T κ = (100 + t, n)) (hi0 : vp_in i n) (hcv : zcl[cv]? = some q9) (hcl : cv < 99) (hTv : (T κv).1 = cv + 1) (hk9 : i.toNatClampNeg = kx) (hp : pc + 1 = pc') (k : zAW M d b pc' l st T I L (z2 R κ kx κv) P) : zAW M d b pc l (.ref κv :: .int i :: .ref κ :: st) T I L R P := by
  subst hp; subst hk9
  intro ln D cst dA A p e Rm s m args below meth c bs θ0 T0 θ H locs cells slots ls G
  obtain ⟨K, hR⟩ := G.2.2.1
  have hn0 : (T κ).1 ≠ 0 := by rw [hT]; show 100 + t ≠ 0; omega
  have hnv : (T κv).1 ≠ 0 := by rw [hTv]; omega
  obtain ⟨i9, hi, hw⟩ := hR.get hn0
  obtain ⟨iv, hiv, hwv⟩ := hR.get hnv
  rw [zcell_a hT] at hw
  rw [zcell_o hTv hcl] at hwv
  have e9 : ∀ R : zR, zct cst θ I L R t κ = .inr (.inr (.inr (.inr fun i => zo cst θ (R κ i)))) := by intro R; unfold zct; rw [if_neg (by omega), if_neg (by omega)]
  rw [e9] at hw
  rw [List.map_cons, List.map_cons, List.map_cons, zc_big (hR.big hn0), zc_big (hR.big hnv)]
  refine va_astqO (D := D) G.1.1 G.1.2.1 G.1.2.2.2.2.2.2.2.2.2.1.2.2.1 hR.2.2.2.2.1 hR.2.2.2.2.2 G.2.2.2.1 i9 t iv cv hw (ht dA) (G.1.2.2.2.2.2.2.2.2.2.1.2.2.2.2.1 _ hca rfl) hwv hcv hi0 hdg (fun H1 locs1 hP1 hD1 hS1 => k ln D cst dA A p e Rm s m args below meth c bs θ0 T0 θ H1 locs1 cells slots ls (G.mem (fun h => zl_t (zl_t (zl_t h))) ⟨K, hR.set hi ?_ ?_ ?_ hP1 hD1⟩ hS1))
  · rw [zcell_a hT, e9]
    congr 7
    funext j
    rw [z2_r]
    unfold z1 va_up
    by_cases hj : j = i.toNatClampNeg
    · rw [if_pos hj, if_pos hj, zo_big (hR.big hnv)]
    · rw [if_neg hj, if_neg hj]
  · exact fun x9 h9 => ⟨rfl, rfl, z2_ro h9⟩
  · intro k9
    rw [z2_r]
    by_cases h9 : k9 = i.toNatClampNeg
    · subst h9; rw [z1_s]; exact Or.inr hnv
    · rw [z1_n h9]; exact hR.2.2.2.1 κ k9 hn0
theorem za_aastObj {κ n κv kx : Nat} {i : Int32} (hdg : decode M.2.2.1 pc = .ok (.aastore, 1)) (hT : T κ = (109, n)) (hi0 : vp_in i n) (hTv : (T κv).1 = 15 ∨ (T κv).1 = 11) (hk9 : i.toNatClampNeg = kx) (hp : pc + 1 = pc') (k : zAW M d b pc' l st T I L (z2 R κ kx κv) P) : zAW M d b pc l (.ref κv :: .int i :: .ref κ :: st) T I L R P := by
  rcases hTv with h | h
  · exact za_aastO (t := 9) (cv := 14) (q9 := (RX15, TX15, 3)) (E := "java/lang/Object") q2279 hdg (by decide) (fun _ => rfl) hT hi0 rfl (by decide) h hk9 hp k
  · exact za_aastO (t := 9) (cv := 10) (q9 := (RX11, TX11, 2)) (E := "java/lang/Object") q2265 hdg (by decide) (fun _ => rfl) hT hi0 rfl (by decide) h hk9 hp k
end ZMROWS
