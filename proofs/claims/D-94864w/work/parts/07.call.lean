/-! ROWS: ends, throws, new cells, calls -/
section ZCALL
variable {M M2 : zM} {d d2 b b2 pc pc' : Nat} {l l' : List (Nat × Value)} {st st' : List Value} {T : zT} {I : zI} {L : zL} {R : zR} {P P2 : zP}
variable {below : List Frame} {e : Env}
theorem zc_rf (cst : Nat → Option Nat) (θ : Nat → Nat) (κ : Nat) : zc cst θ (.ref κ) = .null ∨ ∃ a, zc cst θ (.ref κ) = .ref a := by
  show va_rf (zo cst θ κ) = .null ∨ ∃ a, va_rf (zo cst θ κ) = .ref a
  cases zo cst θ κ with
  | none => exact Or.inl rfl
  | some a => exact Or.inr ⟨a, rfl⟩
theorem zEnd_Q {ln : Launch} {D : va_G} {cst : Nat → Option Nat} {dA : Nat → ClassId} {A : Nat → Prop} {p : Program} {Rm : Room} {s : State} {m : MethodId} {args : Array Value} {meth : Method} {c : Code} {bs : Nat} {θ0 : Nat → Nat} {T0 : zT} {θ : Nat → Nat} {H : Heap} {locs : List Loc} {cells slots : Nat} {ls : Array Slot} (G : zGo M d b l st T I L R ln D cst dA A p Rm s m args meth c bs θ0 T0 θ H locs cells slots ls) {v : Value} {oc : Outcome} (hP : P 0 v T I L R) (hv : zlv T v) (ho : oc = .returned (if M.2.2.2.2.1.isNone then none else some (zc cst θ v))) {t : State} (ht : t.heap = H) : zQ D cst dA A M.2.2.2.2.1 θ0 T0 P args s oc t :=
  ⟨⟨v, T, I, L, R, θ, hP, ho, hv, by rw [ht]; exact G.2.2.1, G.2.2.2.2.1⟩, G.2.2.2.1.F ht⟩
theorem za_ireturn {x : Int32} (hr : M.2.2.2.2.1 = some .int) (hdg : decode M.2.2.1 pc = .ok (.ireturn, 1)) (k : P 0 (.int x) T I L R) : zAW M d b pc l [.int x] T I L R P := by
  intro ln D cst dA A p e Rm s m args below meth c bs θ0 T0 θ H locs cells slots ls G
  have hret := G.1.2.2.1
  rw [hr] at hret
  refine vx_ret (W.widen (k := bs) (n := bs) (by have := G.2.1; omega) (by have := G.2.1; omega) ?_)
  exact W.iret G.1.1 G.1.2.1 hret (fun t ht _ => zEnd_Q G k trivial (by rw [hr]; rfl) ht) G.2.2.2.1.2.2 hdg G.1.2.2.2.2.2.2.1
theorem za_zreturn {x : Int32} {ty : FieldType} (hr : M.2.2.2.2.1 = some ty) (hdg : decode M.2.2.1 pc = .ok (.ireturn, 1)) (hn : narrow ty (.int x) = .int x) (k : P 0 (.int x) T I L R) : zAW M d b pc l [.int x] T I L R P := by
  intro ln D cst dA A p e Rm s m args below meth c bs θ0 T0 θ H locs cells slots ls G
  have hret := G.1.2.2.1
  rw [hr] at hret
  refine vx_ret (W.widen (k := bs) (n := bs) (by have := G.2.1; omega) (by have := G.2.1; omega) ?_)
  exact W.zret G.1.1 G.1.2.1 hret hn (fun t ht _ => zEnd_Q G k trivial (by rw [hr]; rfl) ht) G.2.2.2.1.2.2 hdg G.1.2.2.2.2.2.2.1
theorem za_lreturn {x : Int64} (hr : M.2.2.2.2.1 = some .long) (hdg : decode M.2.2.1 pc = .ok (.lreturn, 1)) (k : P 0 (.long x) T I L R) : zAW M d b pc l [.long x] T I L R P := by
  intro ln D cst dA A p e Rm s m args below meth c bs θ0 T0 θ H locs cells slots ls G
  have hret := G.1.2.2.1
  rw [hr] at hret
  refine vx_ret (W.widen (k := bs) (n := bs) (by have := G.2.1; omega) (by have := G.2.1; omega) ?_)
  exact W.lret G.1.1 G.1.2.1 hret (fun t ht _ => zEnd_Q G k trivial (by rw [hr]; rfl) ht) G.2.2.2.1.2.2 hdg G.1.2.2.2.2.2.2.1
theorem za_areturn {κ : Nat} {ty : FieldType} (hr : M.2.2.2.2.1 = some ty) (hdg : decode M.2.2.1 pc = .ok (.areturn, 1)) (ht0 : (∃ n, ty = .object n) ∨ ∃ t, ty = .array t) (k : P 0 (.ref κ) T I L R) : zAW M d b pc l [.ref κ] T I L R P := by
  intro ln D cst dA A p e Rm s m args below meth c bs θ0 T0 θ H locs cells slots ls G
  have hret := G.1.2.2.1
  rw [hr] at hret
  refine vx_ret (W.widen (k := bs) (n := bs) (by have := G.2.1; omega) (by have := G.2.1; omega) ?_)
  exact W.aret G.1.1 G.1.2.1 hret ht0 (zc_rf cst θ κ) (fun t ht _ => zEnd_Q G k (zl_h G.2.2.2.2.2.2.2) (by rw [hr]; rfl) ht) G.2.2.2.1.2.2 hdg G.1.2.2.2.2.2.2.1
theorem za_return (hr : M.2.2.2.2.1 = none) (hdg : decode M.2.2.1 pc = .ok (.return_, 1)) (k : P 0 (.int 0) T I L R) : zAW M d b pc l [] T I L R P := by
  intro ln D cst dA A p e Rm s m args below meth c bs θ0 T0 θ H locs cells slots ls G
  have hret := G.1.2.2.1
  rw [hr] at hret
  refine vx_ret (W.widen (k := bs) (n := bs) (by have := G.2.1; omega) (by have := G.2.1; omega) ?_)
  exact W.vret G.1.1 G.1.2.1 hret (fun t ht _ => zEnd_Q G (v := .int 0) k trivial (by rw [hr]; rfl) ht) G.2.2.2.1.2.2 hdg G.1.2.2.2.2.2.2.1
theorem zrecv {N : Nat} {C : String} {T1 : u_T} {κ ci : Nat} {ln : Launch} {D : va_G} {cst : Nat → Option Nat} {dA : Nat → ClassId} {A : Nat → Prop} {p : Program} {Rm : Room} {s : State} {m : MethodId} {args : Array Value} {meth : Method} {c : Code} {bs : Nat} {θ0 : Nat → Nat} {T0 : zT} {θ : Nat → Nat} {H : Heap} {locs : List Loc} {cells slots : Nat} {ls : Array Slot} (G : zGo M d b l st T I L R ln D cst dA A p Rm s m args meth c bs θ0 T0 θ H locs cells slots ls) (hc : zcl[ci]? = some (C, T1, N)) (hci : ci < 99) (hT : (T κ).1 = ci + 1) : ∃ cell : Cell, H[θ κ]? = some cell ∧ cell.vm = .none ∧ s.vm.findClass C = some cell.cls := by
  obtain ⟨K, hR⟩ := G.2.2.1
  obtain ⟨i, hi, hw⟩ := hR.get (κ := κ) (by rw [hT]; omega)
  rw [zcell_o hT hci] at hw
  obtain ⟨r, h1, cell, h2, h3, h4, -⟩ := hR.2.2.2.2.1 i _ hw
  have h1 : zcl[ci]? = some r := h1
  rw [hc] at h1
  have e := Option.some.inj h1
  have hcls := (G.1.2.2.2.2.2.2.2.2.2.1.2.2.1.1 ci _ hc).2.1
  exact ⟨cell, h2, h4, by rw [hcls]; exact congrArg some h3.symm⟩
theorem zout {ln : Launch} {D : va_G} {cst : Nat → Option Nat} {dA : Nat → ClassId} {A : Nat → Prop} {p : Program} {Rm : Room} {s : State} {m : MethodId} {args : Array Value} {meth : Method} {c : Code} {bs : Nat} {θ0 : Nat → Nat} {T0 : zT} {θ : Nat → Nat} {H : Heap} {locs : List Loc} {cells slots : Nat} {ls : Array Slot} (G : zGo M d b l st T I L R ln D cst dA A p Rm s m args meth c bs θ0 T0 θ H locs cells slots ls) (hh : M.2.2.2.2.2.1 = []) {o : Nat} {v : Value} {q : Addr} {ce : Cell} {T1 : zT} {I1 : zI} {L1 : zL} {R1 : zR} {θ1 : Nat → Nat} {H1 : Heap} {locs1 : List Loc} {cells1 slots1 : Nat} {rest : List Value} (ho : o ≠ 0) (hP : P o v T1 I1 L1 R1) (hq : zc cst θ1 v = .ref q) (hv : zlv T1 v) (hr : zRep D cst dA A θ1 T1 I1 L1 R1 H1) (hx : ∀ κ, zlive T0 κ → θ1 κ = θ0 κ ∧ zlive T1 κ) (hS : va_S A s.heap H1 locs1) (hce : H1[q]? = some ce) (hcv : ce.vm = .none) (hcl : s.vm.findClass (zxn o) = some ce.cls) (hc : cells1 ≤ bs) (hs : slots1 ≤ bs) :
    vx_W p ln e Rm s m args below meth c H1 locs1 cells1 slots1 (vx_MQ below (zQ D cst dA A M.2.2.2.2.1 θ0 T0 P) (zX D cst dA A θ0 T0 P) args s bs bs A) (F0 m pc ls rest) q := by
  refine vx_out (E := zxn o) (ce := ce) (fun x hx9 => ?_) G.1.2.2.2.2.2.2.1 hce hcv hcl (fun t ht _ => ⟨⟨o, v, T1, I1, L1, R1, θ1, ho, hP, rfl, hq, hv, by rw [ht]; exact hr, hx⟩, hS.F ht⟩) hS.2.2 hc hs
  have h9 := G.1.2.2.2.2.2.2.2.2.1
  rw [hh] at h9
  rw [h9] at hx9
  cases hx9
theorem za_athrow {κ o ci N : Nat} {C : String} {T1 : u_T} (hdg : decode M.2.2.1 pc = .ok (.athrow, 1)) (hh : M.2.2.2.2.2.1 = []) (ho : o ≠ 0) (hc : zcl[ci]? = some (C, T1, N)) (hci : ci < 99) (hT : (T κ).1 = ci + 1) (hC : zxn o = C) (k : P o (.ref κ) T I L R) : zAW M d b pc l (.ref κ :: st) T I L R P := by
  intro ln D cst dA A p e Rm s m args below meth c bs θ0 T0 θ H locs cells slots ls G
  obtain ⟨cell, h1, h2, h3⟩ := zrecv G hc hci hT
  obtain ⟨K, hR⟩ := G.2.2.1
  have hbig := hR.big (κ := κ) (by rw [hT]; omega)
  rw [List.map_cons, zc_big hbig]
  exact vx_athrow G.1.1 G.1.2.1 hdg (zout G hh ho k (zc_big hbig) (Or.inr (by rw [hT]; omega)) G.2.2.1 G.2.2.2.2.1 G.2.2.2.1 h1 h2 (by rw [hC]; exact h3) (by have := G.2.1; omega) (by have := G.2.1; omega))
theorem za_trouble (hdg : decode M.2.2.1 pc = .ok (.athrow, 1)) (hh : M.2.2.2.2.2.1 = []) (k : P 2 (.ref 2) T I L R) : zAW M d b pc l (.ref 2 :: st) T I L R P := by
  intro ln D cst dA A p e Rm s m args below meth c bs θ0 T0 θ H locs cells slots ls G
  obtain ⟨t, ht, -, ⟨cell, h1, h2, h3, h4⟩⟩ := G.1.2.2.2.2.2.2.2.2.2.1.2.2.2.2.2.2.2.2.1
  have e9 : zc cst θ (.ref 2) = .ref t := by show va_rf (if (2 : Nat) < 100 then cst 2 else some (θ 2)) = _; rw [if_pos (by decide), ht]; rfl
  have h1 : H[t]? = some cell := by rw [G.2.2.2.1.2.1 t (Array.getElem?_eq_some_iff.mp h1).1 h4]; exact h1
  rw [List.map_cons, e9]
  exact vx_athrow G.1.1 G.1.2.1 hdg (zout G hh (by decide) k e9 (Or.inl (by decide)) G.2.2.1 G.2.2.2.2.1 G.2.2.2.1 h1 h2 h3 (by have := G.2.1; omega) (by have := G.2.1; omega))
theorem za_getTrouble {idx : Nat} (hdg : decode M.2.2.1 pc = .ok (.getstatic idx, 3)) (hq : Cond.fieldLink M.1 idx RX1 "TROUBLE" "LTwoTongues$Trouble;" ∈ lw_all) (hp : pc + 3 = pc') (k : zAW M d b pc' l (.ref 2 :: st) T I L R P) : zAW M d b pc l st T I L R P := by
  subst hp
  intro ln D cst dA A p e Rm s m args below meth c bs θ0 T0 θ H locs cells slots ls G
  obtain ⟨t, ht, hZ, -⟩ := G.1.2.2.2.2.2.2.2.2.2.1.2.2.2.2.2.2.2.2.1
  have e9 : zc cst θ (.ref 2) = .ref t := by show va_rf (if (2 : Nat) < 100 then cst 2 else some (θ 2)) = _; rw [if_pos (by decide), ht]; rfl
  have hk := k ln D cst dA A p e Rm s m args below meth c bs θ0 T0 θ H locs cells slots ls (G.stk fun h => zl_c (Or.inl (by decide)) h)
  rw [List.map_cons, e9] at hk
  exact va_gets G.1.1 G.1.2.1 hZ G.2.2.2.1 G.1.2.2.2.2.1 (G.1.2.2.2.2.2.1 _ hq) (fun _ h => h) hdg hk
theorem za_getTroubleN {idx : Nat} {host : String} (hdg : decode M.2.2.1 pc = .ok (.getstatic idx, 3)) (hq : Cond.fieldLinkNest M.1 idx RX1 "TROUBLE" "LTwoTongues$Trouble;" host ∈ lw_tbl) (hp : pc + 3 = pc') (k : zAW M d b pc' l (.ref 2 :: st) T I L R P) : zAW M d b pc l st T I L R P := by
  subst hp
  intro ln D cst dA A p e Rm s m args below meth c bs θ0 T0 θ H locs cells slots ls G
  obtain ⟨t, ht, hZ, -⟩ := G.1.2.2.2.2.2.2.2.2.2.1.2.2.2.2.2.2.2.2.1
  have e9 : zc cst θ (.ref 2) = .ref t := by show va_rf (if (2 : Nat) < 100 then cst 2 else some (θ 2)) = _; rw [if_pos (by decide), ht]; rfl
  have hk := k ln D cst dA A p e Rm s m args below meth c bs θ0 T0 θ H locs cells slots ls (G.stk fun h => zl_c (Or.inl (by decide)) h)
  rw [List.map_cons, e9] at hk
  exact va_getsN G.1.1 G.1.2.1 hZ G.2.2.2.1 G.1.2.2.2.2.1 (z_isN G.1.2.2.2.2.2.2.2.2.2.1 hq rfl rfl) (fun _ h => h) hdg hk
theorem za_getStack {idx : Nat} (hdg : decode M.2.2.1 pc = .ok (.getstatic idx, 3)) (hq : Cond.fieldLink M.1 idx Bundle.tN "UNASSIGNED_STACK" Bundle.steD ∈ lw_all) (hp : pc + 3 = pc') (k : zAW M d b pc' l (.ref 3 :: st) T I L R P) : zAW M d b pc l st T I L R P := by
  subst hp
  intro ln D cst dA A p e Rm s m args below meth c bs θ0 T0 θ H locs cells slots ls G
  have hZ := G.1.2.2.2.2.2.2.2.2.2.1.2.2.2.2.2.2.2.2.2.2.1.1
  exact va_gets G.1.1 G.1.2.1 hZ G.2.2.2.1 G.1.2.2.2.2.1 (G.1.2.2.2.2.2.1 _ hq) (fun _ h => h) hdg (k ln D cst dA A p e Rm s m args below meth c bs θ0 T0 θ H locs cells slots ls (G.stk fun h => zl_c (Or.inl (by decide)) h))
theorem za_getSupp {idx : Nat} (hdg : decode M.2.2.1 pc = .ok (.getstatic idx, 3)) (hq : Cond.fieldLink M.1 idx Bundle.tN "SUPPRESSED_SENTINEL" Bundle.listD ∈ lw_all) (hp : pc + 3 = pc') (k : zAW M d b pc' l (.ref 4 :: st) T I L R P) : zAW M d b pc l st T I L R P := by
  subst hp
  intro ln D cst dA A p e Rm s m args below meth c bs θ0 T0 θ H locs cells slots ls G
  have hZ := G.1.2.2.2.2.2.2.2.2.2.1.2.2.2.2.2.2.2.2.2.2.2.1.1
  exact va_gets G.1.1 G.1.2.1 hZ G.2.2.2.1 G.1.2.2.2.2.1 (G.1.2.2.2.2.2.1 _ hq) (fun _ h => h) hdg (k ln D cst dA A p e Rm s m args below meth c bs θ0 T0 θ H locs cells slots ls (G.stk fun h => zl_c (Or.inl (by decide)) h))
theorem za_ifnull {κ : Nat} {off : Int} {tgt : Nat} (hdg : decode M.2.2.1 pc = .ok (.ifnull off, 3)) (hκ : κ = 0 ∨ 100 ≤ κ) (ht : (pc : Int) + off = (tgt : Int)) (hp : pc + 3 = pc') (kn : κ = 0 → zAW M d b tgt l st T I L R P) (kr : κ ≠ 0 → zAW M d b pc' l st T I L R P) : zAW M d b pc l (.ref κ :: st) T I L R P := by
  subst hp
  intro ln D cst dA A p e Rm s m args below meth c bs θ0 T0 θ H locs cells slots ls G
  rw [List.map_cons]
  rcases Nat.eq_zero_or_pos κ with h0 | h0
  · have e9 : zc cst θ (.ref κ) = .null := by rw [h0]; show va_rf (if (0 : Nat) < 100 then cst 0 else some (θ 0)) = _; rw [if_pos (by decide), G.1.2.2.2.2.2.2.2.2.2.1.2.1]; rfl
    rw [e9]
    exact lv_ifnullN G.1.1 G.1.2.1 hdg ht (kn h0 ln D cst dA A p e Rm s m args below meth c bs θ0 T0 θ H locs cells slots ls (G.stk fun h => zl_t h))
  · rw [zc_big (by omega)]
    exact lv_ifnull G.1.1 G.1.2.1 hdg (kr (by omega) ln D cst dA A p e Rm s m args below meth c bs θ0 T0 θ H locs cells slots ls (G.stk fun h => zl_t h))
theorem za_ifnonnull {κ : Nat} {off : Int} {tgt : Nat} (hdg : decode M.2.2.1 pc = .ok (.ifnonnull off, 3)) (hκ : κ = 0 ∨ 100 ≤ κ) (ht : (pc : Int) + off = (tgt : Int)) (hp : pc + 3 = pc') (kn : κ = 0 → zAW M d b pc' l st T I L R P) (kr : κ ≠ 0 → zAW M d b tgt l st T I L R P) : zAW M d b pc l (.ref κ :: st) T I L R P := by
  subst hp
  intro ln D cst dA A p e Rm s m args below meth c bs θ0 T0 θ H locs cells slots ls G
  rw [List.map_cons]
  rcases Nat.eq_zero_or_pos κ with h0 | h0
  · have e9 : zc cst θ (.ref κ) = .null := by rw [h0]; show va_rf (if (0 : Nat) < 100 then cst 0 else some (θ 0)) = _; rw [if_pos (by decide), G.1.2.2.2.2.2.2.2.2.2.1.2.1]; rfl
    rw [e9]
    exact lv_ifnonnullN G.1.1 G.1.2.1 hdg (kn h0 ln D cst dA A p e Rm s m args below meth c bs θ0 T0 θ H locs cells slots ls (G.stk fun h => zl_t h))
  · rw [zc_big (by omega)]
    exact lv_ifnonnull G.1.1 G.1.2.1 hdg ht (kr (by omega) ln D cst dA A p e Rm s m args below meth c bs θ0 T0 θ H locs cells slots ls (G.stk fun h => zl_t h))
theorem za_cast {κ idx ci N : Nat} {C : String} {T1 : u_T} (hdg : decode M.2.2.1 pc = .ok (.checkcast idx, 3)) (hq : Cond.classLink M.1 idx C ∈ lw_all) (hc : zcl[ci]? = some (C, T1, N)) (hci : ci < 99) (hT : (T κ).1 = ci + 1) (hp : pc + 3 = pc') (k : zAW M d b pc' l (.ref κ :: st) T I L R P) : zAW M d b pc l (.ref κ :: st) T I L R P := by
  subst hp
  intro ln D cst dA A p e Rm s m args below meth c bs θ0 T0 θ H locs cells slots ls G
  obtain ⟨cell, h1, h2, h3⟩ := zrecv G hc hci hT
  obtain ⟨K, hR⟩ := G.2.2.1
  have hbig := hR.big (κ := κ) (by rw [hT]; omega)
  have hk := k ln D cst dA A p e Rm s m args below meth c bs θ0 T0 θ H locs cells slots ls G
  rw [List.map_cons, zc_big hbig] at hk ⊢
  exact va_castE G.1.1 G.1.2.1 G.1.2.2.2.2.1 (G.1.2.2.2.2.2.1 _ hq) ⟨cell, h1, by rw [h2]; rfl, h3⟩ hdg hk
theorem za_objInit {κ idx : Nat} (hdg : decode M.2.2.1 pc = .ok (.invokespecial idx, 3)) (hq : Cond.methodLink M.1 idx Lib.objectInit ∈ lw_all) (hd : 1 ≤ d) (hκ : (T κ).1 ≠ 0) (hw : (st.map fun v => v.category).sum ≤ 8) (hp : pc + 3 = pc') (k : zAW M d b pc' l st T I L R P) : zAW M d b pc l (.ref κ :: st) T I L R P := by
  subst hp
  intro ln D cst dA A p e Rm s m args below meth c bs θ0 T0 θ H locs cells slots ls G
  have hbig : ¬ κ < 100 := by obtain ⟨K, hR⟩ := G.2.2.1; exact hR.big hκ
  have hk := k ln D cst dA A p e Rm s m args below meth c bs θ0 T0 θ H locs cells slots ls (G.stk fun h => zl_t h)
  rw [List.map_cons, zc_big hbig]
  refine W.objInit G.1.1 G.1.2.1 G.1.2.2.2.2.1 (G.1.2.2.2.2.2.1 _ hq) (G.1.2.2.2.2.2.1 _ q177) (G.1.2.2.2.2.2.1 _ q178) rfl (by rw [G.1.2.2.2.1]; exact G.2.2.2.2.2.1.1) rfl hdg (by have := G.2.1; omega) ?_ hk
  rw [List.map_map]
  have e9 : (st.map (((fun v => v.category) : Value → Nat) ∘ zc cst θ)) = st.map fun v => v.category := List.map_congr_left (fun v _ => zc_cat cst θ v)
  rw [e9]
  show 2 * 0 + _ + 12 ≤ _
  have := G.2.1
  omega
theorem z_fresh {D : va_G} {cst : Nat → Option Nat} {dA : Nat → ClassId} {A : Nat → Prop} {θ : Nat → Nat} {H H1 : Heap} {K : List Nat} {κ q tg n : Nat} {x : va_E} (hR : zRepK D cst dA A θ T I L R K H) (h100 : 100 ≤ κ) (hT : (T κ).1 = 0) (htg : tg ≠ 0)
    (he : zcell cst dA (z1 θ κ q) (z1 T κ (tg, n)) (z1 I κ fun _ => 0) (z1 L κ fun _ => 0) (z1 R κ fun _ => 0) κ = x) (hP : va_P D zcl (zW cst dA θ T I L R K ++ [(q, x)]) H1) (hD : va_D A (zW cst dA θ T I L R K ++ [(q, x)])) :
    zRepK D cst dA A (z1 θ κ q) (z1 T κ (tg, n)) (z1 I κ fun _ => 0) (z1 L κ fun _ => 0) (z1 R κ fun _ => 0) (K ++ [κ]) H1 := by
  have hκ : κ ∉ K := fun h => (hR.2.1 κ).mp h hT
  have hne : ∀ y, y ∈ K → y ≠ κ := fun y hy e => hκ (e ▸ hy)
  have hlive : ∀ y, zlive T y → y ≠ κ ∨ y < 100 := fun y hy => by
    rcases hy with h | h
    · exact Or.inr h
    · exact Or.inl (fun e => h (by rw [e]; exact hT))
  have ho : ∀ y, zlive T y → zo cst (z1 θ κ q) y = zo cst θ y := fun y hy => by
    unfold zo
    by_cases h : y < 100
    · rw [if_pos h, if_pos h]
    · rw [if_neg h, if_neg h, z1_n ((hlive y hy).resolve_right h)]
  have hzl : ∀ y, zlive T y → zlive (z1 T κ (tg, n)) y := fun y hy => by
    rcases hy with h | h
    · exact Or.inl h
    · refine Or.inr ?_
      by_cases e9 : y = κ
      · subst e9; exact absurd hT h
      · rw [z1_n e9]; exact h
  have e1 : zW cst dA θ T I L R K ++ [(q, x)] = zW cst dA (z1 θ κ q) (z1 T κ (tg, n)) (z1 I κ fun _ => 0) (z1 L κ fun _ => 0) (z1 R κ fun _ => 0) (K ++ [κ]) := by
    refine z_map_push (by rw [he, z1_s]) (fun y hy => ?_)
    have h9 := hne y hy
    have hr9 : ∀ k, zo cst (z1 θ κ q) (R y k) = zo cst θ (R y k) := fun k => ho _ (hR.2.2.2.1 y k ((hR.2.1 y).mp hy))
    show (z1 θ κ q y, _) = (θ y, _)
    rw [z1_n h9]
    congr 1
    unfold zcell zfs zct
    simp only [z1_n h9, zc, hr9]
  rw [e1] at hP hD
  refine ⟨hR.1.push hκ, fun y => ?_, fun y hy => ?_, fun y k hy => ?_, hP, hD⟩
  · rw [List.mem_append, List.mem_singleton]
    by_cases e9 : y = κ
    · subst e9; rw [z1_s]; exact ⟨fun _ => htg, fun _ => Or.inr rfl⟩
    · rw [z1_n e9]; exact ⟨fun h => h.elim (hR.2.1 y).mp (fun h => absurd h e9), fun h => Or.inl ((hR.2.1 y).mpr h)⟩
  · rw [z1_n (by omega)]; exact hR.2.2.1 y hy
  · by_cases e9 : y = κ
    · subst e9; rw [z1_s]; exact Or.inl (by decide)
    · rw [z1_n e9] at hy ⊢
      exact hzl _ (hR.2.2.2.1 y k hy)
theorem zc_old {cst : Nat → Option Nat} {θ : Nat → Nat} {κ q : Nat} (hT : (T κ).1 = 0) (h100 : 100 ≤ κ) {v : Value} (hv : zlv T v) : zc cst (z1 θ κ q) v = zc cst θ v := by
  cases v with
  | ref y =>
    show va_rf (zo cst (z1 θ κ q) y) = va_rf (zo cst θ y)
    unfold zo
    by_cases h : y < 100
    · rw [if_pos h, if_pos h]
    · rw [if_neg h, if_neg h, z1_n (fun e => ?_)]
      rcases hv with h9 | h9
      · exact h h9
      · exact h9 (by rw [e]; exact hT)
  | _ => rfl
theorem zlv_old {tg n κ : Nat} (hT : (T κ).1 = 0) {v : Value} (hv : zlv T v) : zlv (z1 T κ (tg, n)) v := by
  cases v with
  | ref y =>
    rcases hv with h | h
    · exact Or.inl h
    · refine Or.inr ?_
      by_cases e9 : y = κ
      · subst e9; exact absurd hT h
      · rw [z1_n e9]; exact h
  | _ => trivial
theorem zGo.new {D : va_G} {κ q tg n b2 : Nat} {H1 : Heap} {cells1 slots1 : Nat} {ln : Launch} {cst : Nat → Option Nat} {dA : Nat → ClassId} {A : Nat → Prop} {p : Program} {Rm : Room} {s : State} {m : MethodId} {args : Array Value} {meth : Method} {c : Code} {bs : Nat} {θ0 : Nat → Nat} {T0 : zT} {θ : Nat → Nat} {H : Heap} {locs : List Loc} {cells slots : Nat} {ls : Array Slot} (G : zGo M d b l st T I L R ln D cst dA A p Rm s m args meth c bs θ0 T0 θ H locs cells slots ls) (h100 : 100 ≤ κ) (hT : (T κ).1 = 0) (htg : tg ≠ 0) (hr : zRep D cst dA A (z1 θ κ q) (z1 T κ (tg, n)) (z1 I κ fun _ => 0) (z1 L κ fun _ => 0) (z1 R κ fun _ => 0) H1) (hS : va_S A s.heap H1 locs) (hb : cells1 + b2 ≤ bs ∧ slots1 + b2 ≤ bs) (hst : ∀ v ∈ st', v ∈ st) : zGo M d b2 l (.ref κ :: st') (z1 T κ (tg, n)) (z1 I κ fun _ => 0) (z1 L κ fun _ => 0) (z1 R κ fun _ => 0) ln D cst dA A p Rm s m args meth c bs θ0 T0 (z1 θ κ q) H1 locs cells1 slots1 ls := by
  refine ⟨G.1, ⟨G.2.1.1, G.2.1.2.1, G.2.1.2.2.1, G.2.1.2.2.2.1, hb.1, hb.2⟩, hr, hS, fun y hy => ?_, ?_, fun q9 h9 => zlv_old hT (G.2.2.2.2.2.2.1 q9 h9), zl_c (Or.inr (by rw [z1_s]; exact htg)) (fun v hv => zlv_old hT (G.2.2.2.2.2.2.2 v (hst v hv)))⟩
  · obtain ⟨h1, h2⟩ := G.2.2.2.2.1 y hy
    refine ⟨?_, zlv_old (v := .ref y) hT h2⟩
    by_cases e9 : y = κ
    · subst e9
      rcases h2 with h | h
      · omega
      · exact absurd hT h
    · rw [z1_n e9]; exact h1
  · have e9 : zlc cst (z1 θ κ q) l = zlc cst θ l := List.map_congr_left (fun q9 h9 => by rw [zc_old hT h100 (G.2.2.2.2.2.2.1 q9 h9)])
    rw [e9]
    exact G.2.2.2.2.2.1
theorem zst_old {cst : Nat → Option Nat} {θ : Nat → Nat} {κ q : Nat} (hT : (T κ).1 = 0) (h100 : 100 ≤ κ) (h : ∀ v ∈ st, zlv T v) : st.map (zc cst (z1 θ κ q)) = st.map (zc cst θ) := List.map_congr_left (fun v hv => zc_old hT h100 (h v hv))
theorem za_new {ci N idx κ : Nat} {C : String} {T1 : u_T} (hdg : decode M.2.2.1 pc = .ok (.new idx, 3)) (hc : zcl[ci]? = some (C, T1, N)) (hci : ci < 99) (hin : ∀ w ∈ u_ws C T1 N, w ∈ lw_all) (hok : ∀ k, k < N → parseFieldDescriptor (T1 k).2.2.1 = some (zty ci k)) (hdf : ∀ j, j < N → defaultValue (zty ci j) = zfv (zty ci j) 0 0 .null) (hq1 : Cond.classLink M.1 idx C ∈ lw_all) (hq2 : Cond.instantiable C N ∈ lw_all) (hq3 : Cond.initialized C ∈ lw_all) (h100 : 100 ≤ κ) (hT : (T κ).1 = 0) (hb : N + 1 ≤ b) (hp : pc + 3 = pc') (k : zAW M d (b - (N + 1)) pc' l (.ref κ :: st) (z1 T κ (ci + 1, 0)) (z1 I κ fun _ => 0) (z1 L κ fun _ => 0) (z1 R κ fun _ => 0) P) : zAW M d b pc l st T I L R P := by
  subst hp
  intro ln D cst dA A p e Rm s m args below meth c bs θ0 T0 θ H locs cells slots ls G
  obtain ⟨K, hR⟩ := G.2.2.1
  have hz0 : cst 0 = none := G.1.2.2.2.2.2.2.2.2.2.1.2.1
  have hN : zN ci = N := by unfold zN; rw [hc]
  have hroom := G.2.1
  refine va_new (D := D) (ci := ci) (fs := (List.range N).map fun k => zfv (zty ci k) 0 0 .null) G.1.1 G.1.2.1 G.1.2.2.2.2.2.1 hin (zty ci) hok G.1.2.2.2.2.1 (G.1.2.2.2.2.2.1 _ hq1) (G.1.2.2.2.2.2.1 _ hq2) (G.1.2.2.2.2.2.1 _ hq3) G.1.2.2.2.2.2.2.2.2.2.1.2.2.1 hR.2.2.2.2.1 hR.2.2.2.2.2 G.2.2.2.1 G.1.2.2.2.2.2.2.2.2.2.1.2.2.2.1 hc (fun j hj => ?_) (by omega) (by omega) hdg (fun q H1 hP1 hD1 hS1 => ?_)
  · rw [hdf j hj]
    unfold vp_V
    rw [List.getD_eq_getElem?_getD, List.getElem?_map, List.getElem?_range hj]
    rfl
  · have hr := z_fresh hR h100 hT (tg := ci + 1) (n := 0) (by omega) (x := .inr (ci, (List.range N).map fun k => zfv (zty ci k) 0 0 .null)) (by
      rw [zcell_o (by rw [z1_s]) hci]
      congr 2
      unfold zfs
      rw [hN]
      refine List.map_congr_left (fun j _ => ?_)
      rw [z1_s, z1_s, z1_s]
      show zfv _ 0 0 (va_rf (if (0 : Nat) < 100 then cst 0 else _)) = _
      rw [if_pos (by decide), hz0]
      rfl) hP1 hD1
    have hk := k ln D cst dA A p e Rm s m args below meth c bs θ0 T0 (z1 θ κ q) H1 locs (cells + 1) (slots + N) ls (zGo.new G h100 hT (by omega) ⟨_, hr⟩ hS1 (by omega) (fun v hv => hv))
    rw [List.map_cons, zst_old hT h100 G.2.2.2.2.2.2.2, zc_big (by omega), z1_s] at hk
    exact hk
theorem z_tyOf {D : va_G} {dA : Nat → ClassId} {s : State} {cA : ClassId} {ty : FieldType} {t : Nat} (hK : va_K D zcl (ztys dA) s) (ht : (ztys dA)[t]? = some (dA t, ty)) (h : va_K D zcl (ztys dA ++ [(cA, ty)]) s) : cA = dA t := by
  have h1 := (hK.2 t _ ht).2
  have h2 := (h.2 (ztys dA).length (cA, ty) (by rw [List.getElem?_append_right (Nat.le_refl _), Nat.sub_self]; rfl)).2
  have h3 : s.vm.findClass ("[" ++ ty.toString) = some (dA t) := by
    cases ty <;> first | exact h1 | (obtain ⟨_, _, _, _, _, h9⟩ := h1; exact h9)
  have h4 : s.vm.findClass ("[" ++ ty.toString) = some cA := by
    cases ty <;> first | exact h2 | (obtain ⟨_, _, _, _, _, h9⟩ := h2; exact h9)
  exact Option.some.inj (h4.symm.trans h3)
theorem za_newa_int {κ N : Nat} {n : Int32} (hdg : decode M.2.2.1 pc = .ok (.newarray .int, 2)) (hq : Cond.arrayClass .int ∈ lw_all) (hn : ¬ n < 0) (hN : n.toNatClampNeg = N) (hby : N * 4 ≤ 536870912) (h100 : 100 ≤ κ) (hT : (T κ).1 = 0) (hb : N + 1 ≤ b) (hp : pc + 2 = pc') (k : zAW M d (b - (N + 1)) pc' l (.ref κ :: st) (z1 T κ (100 + 0, N)) (z1 I κ fun _ => 0) (z1 L κ fun _ => 0) (z1 R κ fun _ => 0) P) : zAW M d b pc l (.int n :: st) T I L R P := by
  subst hp
  intro ln D cst dA A p e Rm s m args below meth c bs θ0 T0 θ H locs cells slots ls G
  obtain ⟨K, hR⟩ := G.2.2.1
  have hroom := G.2.1
  refine va_newa (D := D) (atype := .int) (ty := .int) (a0 := (N, .inl fun _ => 0)) G.1.1 G.1.2.1 (G.1.2.2.2.2.2.1 _ hq) rfl G.1.2.2.2.2.2.2.2.2.2.1.2.2.1 hR.2.2.2.2.1 hR.2.2.2.2.2 G.2.2.2.1 G.1.2.2.2.2.2.2.2.2.2.1.2.2.2.1 (fun cA => rfl) hn hN hby (by omega) (by omega) hdg (fun q cA H1 hK1 hP1 hD1 hS1 => ?_)
  have ec := z_tyOf (t := 0) G.1.2.2.2.2.2.2.2.2.2.1.2.2.1 rfl hK1
  rw [ec] at hP1 hD1
  have hr := z_fresh hR h100 hT (tg := 100 + 0) (n := N) (by omega) (x := .inl (dA 0, N, .inl fun _ => 0)) (by
    rw [zcell_a (t := 0) (n := N) z1_s]
    unfold zct
    rw [z1_s, z1_s]
    rfl) hP1 hD1
  have hk := k ln D cst dA A p e Rm s m args below meth c bs θ0 T0 (z1 θ κ q) H1 locs (cells + 1) (slots + N) ls (zGo.new G h100 hT (by omega) ⟨_, hr⟩ hS1 (by omega) (fun v hv => List.mem_cons_of_mem _ hv))
  rw [List.map_cons, zst_old hT h100 (zl_t G.2.2.2.2.2.2.2), zc_big (by omega), z1_s] at hk
  exact hk
theorem za_newa_long {κ N : Nat} {n : Int32} (hdg : decode M.2.2.1 pc = .ok (.newarray .long, 2)) (hq : Cond.arrayClass .long ∈ lw_all) (hn : ¬ n < 0) (hN : n.toNatClampNeg = N) (hby : N * 8 ≤ 536870912) (h100 : 100 ≤ κ) (hT : (T κ).1 = 0) (hb : N + 1 ≤ b) (hp : pc + 2 = pc') (k : zAW M d (b - (N + 1)) pc' l (.ref κ :: st) (z1 T κ (100 + 1, N)) (z1 I κ fun _ => 0) (z1 L κ fun _ => 0) (z1 R κ fun _ => 0) P) : zAW M d b pc l (.int n :: st) T I L R P := by
  subst hp
  intro ln D cst dA A p e Rm s m args below meth c bs θ0 T0 θ H locs cells slots ls G
  obtain ⟨K, hR⟩ := G.2.2.1
  have hroom := G.2.1
  refine va_newa (D := D) (atype := .long) (ty := .long) (a0 := (N, .inr (.inl fun _ => 0))) G.1.1 G.1.2.1 (G.1.2.2.2.2.2.1 _ hq) rfl G.1.2.2.2.2.2.2.2.2.2.1.2.2.1 hR.2.2.2.2.1 hR.2.2.2.2.2 G.2.2.2.1 G.1.2.2.2.2.2.2.2.2.2.1.2.2.2.1 (fun cA => rfl) hn hN hby (by omega) (by omega) hdg (fun q cA H1 hK1 hP1 hD1 hS1 => ?_)
  have ec := z_tyOf (t := 1) G.1.2.2.2.2.2.2.2.2.2.1.2.2.1 rfl hK1
  rw [ec] at hP1 hD1
  have hr := z_fresh hR h100 hT (tg := 100 + 1) (n := N) (by omega) (x := .inl (dA 1, N, .inr (.inl fun _ => 0))) (by
    rw [zcell_a (t := 1) (n := N) z1_s]
    unfold zct
    rw [z1_s, z1_s]
    rfl) hP1 hD1
  have hk := k ln D cst dA A p e Rm s m args below meth c bs θ0 T0 (z1 θ κ q) H1 locs (cells + 1) (slots + N) ls (zGo.new G h100 hT (by omega) ⟨_, hr⟩ hS1 (by omega) (fun v hv => List.mem_cons_of_mem _ hv))
  rw [List.map_cons, zst_old hT h100 (zl_t G.2.2.2.2.2.2.2), zc_big (by omega), z1_s] at hk
  exact hk
theorem za_newa_boolean {κ N : Nat} {n : Int32} (hdg : decode M.2.2.1 pc = .ok (.newarray .boolean, 2)) (hq : Cond.arrayClass .boolean ∈ lw_all) (hn : ¬ n < 0) (hN : n.toNatClampNeg = N) (hby : N * 1 ≤ 536870912) (h100 : 100 ≤ κ) (hT : (T κ).1 = 0) (hb : N + 1 ≤ b) (hp : pc + 2 = pc') (k : zAW M d (b - (N + 1)) pc' l (.ref κ :: st) (z1 T κ (100 + 2, N)) (z1 I κ fun _ => 0) (z1 L κ fun _ => 0) (z1 R κ fun _ => 0) P) : zAW M d b pc l (.int n :: st) T I L R P := by
  subst hp
  intro ln D cst dA A p e Rm s m args below meth c bs θ0 T0 θ H locs cells slots ls G
  obtain ⟨K, hR⟩ := G.2.2.1
  have hroom := G.2.1
  refine va_newa (D := D) (atype := .boolean) (ty := .boolean) (a0 := (N, .inl fun _ => 0)) G.1.1 G.1.2.1 (G.1.2.2.2.2.2.1 _ hq) rfl G.1.2.2.2.2.2.2.2.2.2.1.2.2.1 hR.2.2.2.2.1 hR.2.2.2.2.2 G.2.2.2.1 G.1.2.2.2.2.2.2.2.2.2.1.2.2.2.1 (fun cA => rfl) hn hN hby (by omega) (by omega) hdg (fun q cA H1 hK1 hP1 hD1 hS1 => ?_)
  have ec := z_tyOf (t := 2) G.1.2.2.2.2.2.2.2.2.2.1.2.2.1 rfl hK1
  rw [ec] at hP1 hD1
  have hr := z_fresh hR h100 hT (tg := 100 + 2) (n := N) (by omega) (x := .inl (dA 2, N, .inl fun _ => 0)) (by
    rw [zcell_a (t := 2) (n := N) z1_s]
    unfold zct
    rw [z1_s, z1_s]
    rfl) hP1 hD1
  have hk := k ln D cst dA A p e Rm s m args below meth c bs θ0 T0 (z1 θ κ q) H1 locs (cells + 1) (slots + N) ls (zGo.new G h100 hT (by omega) ⟨_, hr⟩ hS1 (by omega) (fun v hv => List.mem_cons_of_mem _ hv))
  rw [List.map_cons, zst_old hT h100 (zl_t G.2.2.2.2.2.2.2), zc_big (by omega), z1_s] at hk
  exact hk
theorem za_newa_byte {κ N : Nat} {n : Int32} (hdg : decode M.2.2.1 pc = .ok (.newarray .byte, 2)) (hq : Cond.arrayClass .byte ∈ lw_all) (hn : ¬ n < 0) (hN : n.toNatClampNeg = N) (hby : N * 1 ≤ 536870912) (h100 : 100 ≤ κ) (hT : (T κ).1 = 0) (hb : N + 1 ≤ b) (hp : pc + 2 = pc') (k : zAW M d (b - (N + 1)) pc' l (.ref κ :: st) (z1 T κ (100 + 3, N)) (z1 I κ fun _ => 0) (z1 L κ fun _ => 0) (z1 R κ fun _ => 0) P) : zAW M d b pc l (.int n :: st) T I L R P := by
  subst hp
  intro ln D cst dA A p e Rm s m args below meth c bs θ0 T0 θ H locs cells slots ls G
  obtain ⟨K, hR⟩ := G.2.2.1
  have hroom := G.2.1
  refine va_newa (D := D) (atype := .byte) (ty := .byte) (a0 := (N, .inl fun _ => 0)) G.1.1 G.1.2.1 (G.1.2.2.2.2.2.1 _ hq) rfl G.1.2.2.2.2.2.2.2.2.2.1.2.2.1 hR.2.2.2.2.1 hR.2.2.2.2.2 G.2.2.2.1 G.1.2.2.2.2.2.2.2.2.2.1.2.2.2.1 (fun cA => rfl) hn hN hby (by omega) (by omega) hdg (fun q cA H1 hK1 hP1 hD1 hS1 => ?_)
  have ec := z_tyOf (t := 3) G.1.2.2.2.2.2.2.2.2.2.1.2.2.1 rfl hK1
  rw [ec] at hP1 hD1
  have hr := z_fresh hR h100 hT (tg := 100 + 3) (n := N) (by omega) (x := .inl (dA 3, N, .inl fun _ => 0)) (by
    rw [zcell_a (t := 3) (n := N) z1_s]
    unfold zct
    rw [z1_s, z1_s]
    rfl) hP1 hD1
  have hk := k ln D cst dA A p e Rm s m args below meth c bs θ0 T0 (z1 θ κ q) H1 locs (cells + 1) (slots + N) ls (zGo.new G h100 hT (by omega) ⟨_, hr⟩ hS1 (by omega) (fun v hv => List.mem_cons_of_mem _ hv))
  rw [List.map_cons, zst_old hT h100 (zl_t G.2.2.2.2.2.2.2), zc_big (by omega), z1_s] at hk
  exact hk
theorem za_newq {κ N t idx : Nat} {C : String} {n : Int32} (hdg : decode M.2.2.1 pc = .ok (.anewarray idx, 3)) (hq : Cond.classLink M.1 idx C ∈ lw_all) (hC : C ∈ zAO) (ht4 : 4 ≤ t) (ht : ∀ dA : Nat → ClassId, (ztys dA)[t]? = some (dA t, .object C)) (hn : ¬ n < 0) (hN : n.toNatClampNeg = N) (hby : N * 4 ≤ 536870912) (h100 : 100 ≤ κ) (hT : (T κ).1 = 0) (hb : N + 1 ≤ b) (hp : pc + 3 = pc') (k : zAW M d (b - (N + 1)) pc' l (.ref κ :: st) (z1 T κ (100 + t, N)) (z1 I κ fun _ => 0) (z1 L κ fun _ => 0) (z1 R κ fun _ => 0) P) : zAW M d b pc l (.int n :: st) T I L R P := by
  subst hp
  intro ln D cst dA A p e Rm s m args below meth c bs θ0 T0 θ H locs cells slots ls G
  obtain ⟨K, hR⟩ := G.2.2.1
  have hroom := G.2.1
  have hz0 : cst 0 = none := G.1.2.2.2.2.2.2.2.2.2.1.2.1
  refine va_newq (D := D) (N' := N) G.1.1 G.1.2.1 G.1.2.2.2.2.1 (G.1.2.2.2.2.2.1 _ hq) (G.1.2.2.2.2.2.2.2.2.2.1.2.2.2.2.2.1 C hC) G.1.2.2.2.2.2.2.2.2.2.1.2.2.1 hR.2.2.2.2.1 hR.2.2.2.2.2 G.2.2.2.1 G.1.2.2.2.2.2.2.2.2.2.1.2.2.2.1 hn hN hby (by omega) (by omega) hdg (fun q cA H1 hK1 hP1 hD1 hS1 => ?_)
  have ec := z_tyOf (t := t) G.1.2.2.2.2.2.2.2.2.2.1.2.2.1 (ht dA) hK1
  rw [ec] at hP1 hD1
  have hr := z_fresh hR h100 hT (tg := 100 + t) (n := N) (by omega) (x := .inl (dA t, N, .inr (.inr (.inr (.inr fun _ => none))))) (by
    rw [zcell_a (t := t) (n := N) z1_s]
    congr 3
    unfold zct
    rw [if_neg (by omega), if_neg (by omega)]
    congr 4
    funext i
    rw [z1_s]
    show (if (0 : Nat) < 100 then cst 0 else _) = _
    rw [if_pos (by decide), hz0]) hP1 hD1
  have hk := k ln D cst dA A p e Rm s m args below meth c bs θ0 T0 (z1 θ κ q) H1 locs (cells + 1) (slots + N) ls (zGo.new G h100 hT (by omega) ⟨_, hr⟩ hS1 (by omega) (fun v hv => List.mem_cons_of_mem _ hv))
  rw [List.map_cons, zst_old hT h100 (zl_t G.2.2.2.2.2.2.2), zc_big (by omega), z1_s] at hk
  exact hk
end ZCALL
