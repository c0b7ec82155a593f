/-! CALLS -/
def zvs (M : zM) (v : Value) : List Value := if M.2.2.2.2.1.isNone then [] else [v]
/-- what is owed of a callee: int, long, reference, nothing; what it throws goes on -/
def zkI (K : Int32 → zT → zI → zL → zR → Prop) (P : zP) : zP := fun o v T I L R => (o = 0 → ∃ r, v = .int r ∧ K r T I L R) ∧ (o ≠ 0 → P o v T I L R)
def zkL (K : Int64 → zT → zI → zL → zR → Prop) (P : zP) : zP := fun o v T I L R => (o = 0 → ∃ r, v = .long r ∧ K r T I L R) ∧ (o ≠ 0 → P o v T I L R)
def zkR (K : Nat → zT → zI → zL → zR → Prop) (P : zP) : zP := fun o v T I L R => (o = 0 → ∃ r, v = .ref r ∧ K r T I L R) ∧ (o ≠ 0 → P o v T I L R)
def zkV (K : zT → zI → zL → zR → Prop) (P : zP) : zP := fun o _v T I L R => (o = 0 → K T I L R) ∧ (o ≠ 0 → P o _v T I L R)
theorem zkI_r {K : Int32 → zT → zI → zL → zR → Prop} {P : zP} {r : Int32} {T : zT} {I : zI} {L : zL} {R : zR} (h : K r T I L R) : zkI K P 0 (.int r) T I L R := ⟨fun _ => ⟨r, rfl, h⟩, fun h => absurd rfl h⟩
theorem zkL_r {K : Int64 → zT → zI → zL → zR → Prop} {P : zP} {r : Int64} {T : zT} {I : zI} {L : zL} {R : zR} (h : K r T I L R) : zkL K P 0 (.long r) T I L R := ⟨fun _ => ⟨r, rfl, h⟩, fun h => absurd rfl h⟩
theorem zkR_r {K : Nat → zT → zI → zL → zR → Prop} {P : zP} {r : Nat} {T : zT} {I : zI} {L : zL} {R : zR} (h : K r T I L R) : zkR K P 0 (.ref r) T I L R := ⟨fun _ => ⟨r, rfl, h⟩, fun h => absurd rfl h⟩
theorem zkV_r {K : zT → zI → zL → zR → Prop} {P : zP} {v : Value} {T : zT} {I : zI} {L : zL} {R : zR} (h : K T I L R) : zkV K P 0 v T I L R := ⟨fun _ => h, fun h => absurd rfl h⟩
theorem zk_x {o : Nat} {v : Value} {T : zT} {I : zI} {L : zL} {R : zR} {P : zP} {K : Prop} (ho : o ≠ 0) (h : P o v T I L R) : (o = 0 → K) ∧ (o ≠ 0 → P o v T I L R) := ⟨fun h => absurd h ho, fun _ => h⟩
theorem zMet_mono {M : zM} {d b : Nat} {av : List Value} {T : zT} {I : zI} {L : zL} {R : zR} {P Q : zP} (h : ∀ o v T I L R, P o v T I L R → Q o v T I L R) (k : zMet M d b av T I L R P) : zMet M d b av T I L R Q := by
  intro ln D cst dA A θ
  have hk := k ln D cst dA A θ
  intro p e h1 h2 h3 s m a below h4 h5 h6 h7
  obtain ⟨n, o, b1, b2, b3, b4⟩ := hk p e h1 h2 h3 s m a below h4 h5 h6 h7
  refine ⟨n, o, b1, b2, b3, ?_⟩
  rcases b4 with ⟨⟨⟨v, T2, I2, L2, R2, θ2, g1, g2⟩, g3⟩, g4⟩ | ⟨q, hq, E, ce, Ls, ⟨⟨o2, v, T2, I2, L2, R2, θ2, g0, g1, g2⟩, g3⟩, g4⟩
  · exact Or.inl ⟨⟨⟨v, T2, I2, L2, R2, θ2, h _ _ _ _ _ _ g1, g2⟩, g3⟩, g4⟩
  · exact Or.inr ⟨q, hq, E, ce, Ls, ⟨⟨o2, v, T2, I2, L2, R2, θ2, g0, h _ _ _ _ _ _ g1, g2⟩, g3⟩, g4⟩
section ZCALLS
variable {M M2 : zM} {d d2 b b2 pc pc' : Nat} {l l' : List (Nat × Value)} {st st' : List Value} {T : zT} {I : zI} {L : zL} {R : zR} {P P2 : zP}
variable {below : List Frame} {e : Env}
theorem zPc_blind {ln : Launch} {D : va_G} {cst : Nat → Option Nat} {dA : Nat → ClassId} {A : Nat → Prop} {θ : Nat → Nat} {av : List Value} : FrameBlind (zPc ln D cst dA A θ av T I L R) := fun a U g mk h => ⟨h.1, h.2.1, h.2.2.1.calling, h.2.2.2⟩
theorem zPc_at {ln : Launch} {D : va_G} {cst : Nat → Option Nat} {dA : Nat → ClassId} {A : Nat → Prop} {p : Program} {Rm : Room} {s : State} {m : MethodId} {args : Array Value} {meth : Method} {c : Code} {bs : Nat} {θ0 : Nat → Nat} {T0 : zT} {θ : Nat → Nat} {H : Heap} {locs : List Loc} {cells slots : Nat} {ls : Array Slot} (G : zGo M d b l st' T I L R ln D cst dA A p Rm s m args meth c bs θ0 T0 θ H locs cells slots ls) {av : List Value} (hv : ∀ v ∈ av, zlv T v) (U : State) (hU : U.heap = H) (hW : s.WarmedH U.vm) : zPc ln D cst dA A θ av T I L R (av.map (zc cst θ)).toArray U :=
  ⟨rfl, by rw [hU]; exact G.2.2.1, G.1.2.2.2.2.2.2.2.2.2.1.go G.2.2.2.1 hU hW, hv⟩
theorem zst_ext {cst : Nat → Option Nat} {θ θ2 : Nat → Nat} {T2 : zT} (hx : ∀ κ, zlive T κ → θ2 κ = θ κ ∧ zlive T2 κ) {v : Value} (hv : zlv T v) : zc cst θ2 v = zc cst θ v ∧ zlv T2 v := by
  cases v with
  | ref κ =>
    obtain ⟨h1, h2⟩ := hx κ hv
    refine ⟨?_, h2⟩
    show va_rf (zo cst θ2 κ) = va_rf (zo cst θ κ)
    unfold zo
    rw [h1]
  | _ => exact ⟨rfl, trivial⟩
theorem zcall {ln : Launch} {D : va_G} {cst : Nat → Option Nat} {dA : Nat → ClassId} {A : Nat → Prop} {p : Program} {Rm : Room} {s : State} {m : MethodId} {args : Array Value} {meth : Method} {c : Code} {bs : Nat} {θ0 : Nat → Nat} {T0 : zT} {θ : Nat → Nat} {H : Heap} {locs : List Loc} {cells slots : Nat} {ls : Array Slot} (G : zGo M d b l st' T I L R ln D cst dA A p Rm s m args meth c bs θ0 T0 θ H locs cells slots ls) (hM0 : M.2.2.2.2.2.1 = [] ∨ ∀ o v T I L R, o ≠ 0 → ¬ P2 o v T I L R) (hbb : b2 ≤ b) (hlv : ∀ v ∈ st, zlv T v) {st0 : List Value} {a2 : Array Value}
    (hr : vx_Run p ln e Rm s m args below meth c H locs cells slots b2 b2 (F0 m pc ls st0) (st.map (zc cst θ)) (zQ D cst dA A M2.2.2.2.2.1 θ T P2 a2) (zX D cst dA A θ T P2) A)
    (kk : ∀ v T I L R, P2 0 v T I L R → zAW M d (b - b2) (pc + 3) l (zvs M2 v ++ st) T I L R P) (kx : ∀ o v T I L R, o ≠ 0 → P2 o v T I L R → P o v T I L R) :
    W p ln e Rm s m args below meth c H locs cells slots (vx_MQ below (zQ D cst dA A M.2.2.2.2.1 θ0 T0 P) (zX D cst dA A θ0 T0 P) args s bs bs A) (F0 m pc ls st0) := by
  intro Tm hT X
  have hroom := G.2.1
  rcases hr Tm hT X with ⟨v, st₀, t, T', Ls, h0, X', hL, e1, e2, ⟨⟨v2, T2, I2, L2, R2, θ2, hp, hv, hl2, hrep, hx⟩, hF⟩, hgo⟩ | ⟨q, st₀, t, T', Ls, E, ce, h0, X', hL, e1, e2, ⟨⟨o2, v2, T2, I2, L2, R2, θ2, ho, hp, hE, hq, hl2, hrep, hx⟩, hF⟩, hce, hcv, hcl, hst⟩
  · obtain ⟨k1, k2, k3⟩ := vx_keep h0 e1 G.2.2.2.1 (fun q _ h => h) (fun q h => h) hL hF
    have hv9 : v = if M2.2.2.2.2.1.isNone then none else some (zc cst θ2 v2) := Outcome.returned.inj hv
    have es : st.map (zc cst θ2) = st.map (zc cst θ) := List.map_congr_left (fun v9 h9 => (zst_ext hx (hlv v9 h9)).1)
    have el : zlc cst θ2 l = zlc cst θ l := List.map_congr_left (fun q9 h9 => by rw [(zst_ext hx (G.2.2.2.2.2.2.1 q9 h9)).1])
    have hk := kk v2 T2 I2 L2 R2 hp ln D cst dA A p e Rm s m args below meth c bs θ0 T0 θ2 T'.heap (locs ++ Ls) (cells + b2) (slots + b2) ls ⟨G.1, ⟨hroom.1, hroom.2.1, hroom.2.2.1, hroom.2.2.2.1, by omega, by omega⟩, by rw [e1]; exact hrep, k3, fun κ h9 => ⟨(hx κ (G.2.2.2.2.1 κ h9).2).1.trans (G.2.2.2.2.1 κ h9).1, (hx κ (G.2.2.2.2.1 κ h9).2).2⟩, by rw [el]; exact G.2.2.2.2.2.1, fun q9 h9 => (zst_ext (cst := cst) hx (G.2.2.2.2.2.2.1 q9 h9)).2, fun v9 h9 => by
      rcases List.mem_append.mp h9 with h8 | h8
      · unfold zvs at h8
        split at h8
        · cases h8
        · rw [List.mem_singleton.mp h8]; exact hl2
      · exact (zst_ext (cst := cst) hx (hlv v9 h8)).2⟩
    have ev : (zvs M2 v2 ++ st).map (zc cst θ2) = v.toList ++ st.map (zc cst θ) := by
      rw [List.map_append, es, hv9]
      unfold zvs
      split <;> rfl
    rw [ev] at hk
    obtain ⟨t2, a1, b1⟩ := hk T' rfl X'
    exact ⟨t2, hgo t2 a1, b1⟩
  · obtain ⟨k1, k2, k3⟩ := vx_keep h0 e1 G.2.2.2.1 (fun q _ h => h) (fun q h => h) hL hF
    rcases hM0 with hM0 | hM0
    case inr => exact absurd hp (hM0 o2 v2 T2 I2 L2 R2 ho)
    have hk := zout (e := e) (below := below) (rest := st.map (zc cst θ)) (pc := pc) G hM0 ho (kx o2 v2 T2 I2 L2 R2 ho hp) hq hl2 (H1 := T'.heap) (locs1 := locs ++ Ls) (cells1 := cells + b2) (slots1 := slots + b2) (by rw [e1]; exact hrep) (fun κ h9 => ⟨(hx κ (G.2.2.2.2.1 κ h9).2).1.trans (G.2.2.2.2.1 κ h9).1, (hx κ (G.2.2.2.2.1 κ h9).2).2⟩) k3 (by rw [e1]; exact hce) hcv (by rw [← hE]; exact hcl) (by omega) (by omega)
    obtain ⟨t2, a1, b1⟩ := hk T' rfl X'
    exact ⟨t2, hst.trans a1, b1⟩
theorem zst_room {cst : Nat → Option Nat} {θ : Nat → Nat} {g : JFrame} (hg : g.monitorRoom = 0) (h : (st.map fun v => v.category).sum ≤ 8) : 2 * g.monitorRoom + ((st.map (zc cst θ)).map fun v => v.category).sum ≤ 8 := by
  rw [List.map_map]
  have e9 : (st.map (((fun v => v.category) : Value → Nat) ∘ zc cst θ)) = st.map fun v => v.category := List.map_congr_left (fun v _ => zc_cat cst θ v)
  rw [e9, hg]
  omega
theorem zws_p {M : zM} (h : M.2.2.2.2.2.1 = []) : zws M = Cond.code M.2.1 M.2.2.1 M.2.2.2.1 M.2.2.2.2.1 :: lw_all := by unfold zws; rw [h]
theorem zws_h {M : zM} {x : Nat × Nat × Nat × Nat} {hh : List (Nat × Nat × Nat × Nat)} (h : M.2.2.2.2.2.1 = x :: hh) : zws M = Cond.codeWith M.2.1 M.2.2.1 M.2.2.2.1 M.2.2.2.2.1 (x :: hh) :: lw_all := by unfold zws; rw [h]
theorem zrecvS {N : Nat} {C : String} {T1 : u_T} {κ ci : Nat} {ln : Launch} {D : va_G} {cst : Nat → Option Nat} {dA : Nat → ClassId} {A : Nat → Prop} {p : Program} {Rm : Room} {s : State} {m : MethodId} {args : Array Value} {meth : Method} {c : Code} {bs : Nat} {θ0 : Nat → Nat} {T0 : zT} {θ : Nat → Nat} {H : Heap} {locs : List Loc} {cells slots : Nat} {ls : Array Slot} (G : zGo M d b l st' T I L R ln D cst dA A p Rm s m args meth c bs θ0 T0 θ H locs cells slots ls) (hc : zcl[ci]? = some (C, T1, N)) (hci : ci < 99) (hT : (T κ).1 = ci + 1) : ∃ cell : Cell, H[θ κ]? = some cell ∧ cell.vm.isStatics = false ∧ s.vm.findClass C = some cell.cls := by
  obtain ⟨cell, h1, h2, h3⟩ := zrecv G hc hci hT
  exact ⟨cell, h1, by rw [h2]; rfl, h3⟩
theorem zMapRev {f : Value → Value} {As st : List Value} {x : Value} : (As.reverse ++ x :: st).map f = (As.map f).reverse ++ f x :: st.map f := by
  rw [List.map_append, List.map_reverse, List.map_cons]
theorem za_callV {n idx : Nat} {As : List Value} {ci N : Nat} {C : String} {T1 : u_T} {κ : Nat} (hc : zcl[ci]? = some (C, T1, N)) (hci : ci < 99) (hT : (T κ).1 = ci + 1) (hdg : decode M.2.2.1 pc = .ok (.invokevirtual idx, 3)) (hh : M2.2.2.2.2.2.1 = []) (hT9 : GoodIn lw_all (wsV M.1 idx C M2.2.1 (zws M2))) (hd : M2.2.1.cls = C ∧ M2.2.1.cls ≠ "java/lang/invoke/MethodHandle" ∧ M2.2.1.cls ≠ "java/lang/invoke/VarHandle" ∧ (parseMethodDescriptor M2.2.1.desc).map (fun d => d.parameters.length) = some n) (hn : As.length = n) (hL : M2.2.2.2.1 ≤ 45) (hdd : d2 < d) (hbb : b2 ≤ b) (hM0 : M.2.2.2.2.2.1 = [] ∨ ∀ o v T I L R, o ≠ 0 → ¬ P2 o v T I L R) (hw : (st.map fun v => v.category).sum ≤ 8) (hM : zMet M2 d2 b2 (.ref κ :: As) T I L R P2) (kk : ∀ v T I L R, P2 0 v T I L R → zAW M d (b - b2) pc' l (zvs M2 v ++ st) T I L R P) (kx : ∀ o v T I L R, o ≠ 0 → P2 o v T I L R → P o v T I L R) (hp : pc + 3 = pc') : zAW M d b pc l (As.reverse ++ .ref κ :: st) T I L R P := by
  subst hp
  intro ln D cst dA A p e Rm s m args below meth c bs θ0 T0 θ H locs cells slots ls G
  have hlall := G.2.2.2.2.2.2.2
  have hlst : ∀ v ∈ st, zlv T v := fun v h => hlall v (List.mem_append_right _ (List.mem_cons_of_mem _ h))
  have hlAs : ∀ v ∈ As, zlv T v := fun v h => hlall v (List.mem_append_left _ (List.mem_reverse.mpr h))
  have hlκ : zlv T (.ref κ) := hlall _ (List.mem_append_right _ (List.mem_cons_self))
  have hrec := zrecvS G hc hci hT
  have hbig : ¬ κ < 100 := by obtain ⟨K, hR⟩ := G.2.2.1; exact hR.big (κ := κ) (by rw [hT]; omega)
  have hpc := fun U hU hW => zPc_at G (av := .ref κ :: As) (zl_c hlκ hlAs) U hU hW
  rw [List.map_cons, zc_big hbig] at hpc
  rw [zMapRev, zc_big hbig]
  have hcw := cwV n G.1.2.2.2.2.2.1 hT9 (zws_p hh) rfl rfl hd (show (zroom d2 b2).frames + 1 ≤ Rm.frames ∧ 8 + (M2.2.2.2.1 + 11) + (zroom d2 b2).locals ≤ Rm.locals from ⟨by have := G.2.1; show d2 + 1 ≤ Rm.frames; omega, by have := G.2.1; show 8 + (M2.2.2.2.1 + 11) + 64 * d2 ≤ Rm.locals; omega⟩)
  refine zcall (M2 := M2) G hM0 hbb hlst (vx_runV (⟨G.1.1, G.1.2.1, rfl, G.1.2.2.2.2.1, G.1.2.2.2.2.2.1⟩) (hM ln D cst dA A θ) hcw ⟨zPc_blind, hrec, hpc⟩ rfl (by rw [List.length_map]; exact hn) (G.2.2.2.2.2.1.1.trans G.1.2.2.2.1.symm) rfl (zst_room rfl hw) hdg (by have := G.2.1; omega)) kk kx
theorem za_callVW {n idx : Nat} {As : List Value} {ci N : Nat} {C : String} {T1 : u_T} {κ : Nat} (hc : zcl[ci]? = some (C, T1, N)) (hci : ci < 99) (hT : (T κ).1 = ci + 1) (hdg : decode M.2.2.1 pc = .ok (.invokevirtual idx, 3)) {x9 : Nat × Nat × Nat × Nat} {h9 : List (Nat × Nat × Nat × Nat)} (hh : M2.2.2.2.2.2.1 = x9 :: h9) (hT9 : GoodIn lw_all (wsV M.1 idx C M2.2.1 (zws M2))) (hd : M2.2.1.cls = C ∧ M2.2.1.cls ≠ "java/lang/invoke/MethodHandle" ∧ M2.2.1.cls ≠ "java/lang/invoke/VarHandle" ∧ (parseMethodDescriptor M2.2.1.desc).map (fun d => d.parameters.length) = some n) (hn : As.length = n) (hL : M2.2.2.2.1 ≤ 45) (hdd : d2 < d) (hbb : b2 ≤ b) (hM0 : M.2.2.2.2.2.1 = [] ∨ ∀ o v T I L R, o ≠ 0 → ¬ P2 o v T I L R) (hw : (st.map fun v => v.category).sum ≤ 8) (hM : zMet M2 d2 b2 (.ref κ :: As) T I L R P2) (kk : ∀ v T I L R, P2 0 v T I L R → zAW M d (b - b2) pc' l (zvs M2 v ++ st) T I L R P) (kx : ∀ o v T I L R, o ≠ 0 → P2 o v T I L R → P o v T I L R) (hp : pc + 3 = pc') : zAW M d b pc l (As.reverse ++ .ref κ :: st) T I L R P := by
  subst hp
  intro ln D cst dA A p e Rm s m args below meth c bs θ0 T0 θ H locs cells slots ls G
  have hlall := G.2.2.2.2.2.2.2
  have hlst : ∀ v ∈ st, zlv T v := fun v h => hlall v (List.mem_append_right _ (List.mem_cons_of_mem _ h))
  have hlAs : ∀ v ∈ As, zlv T v := fun v h => hlall v (List.mem_append_left _ (List.mem_reverse.mpr h))
  have hlκ : zlv T (.ref κ) := hlall _ (List.mem_append_right _ (List.mem_cons_self))
  have hrec := zrecvS G hc hci hT
  have hbig : ¬ κ < 100 := by obtain ⟨K, hR⟩ := G.2.2.1; exact hR.big (κ := κ) (by rw [hT]; omega)
  have hpc := fun U hU hW => zPc_at G (av := .ref κ :: As) (zl_c hlκ hlAs) U hU hW
  rw [List.map_cons, zc_big hbig] at hpc
  rw [zMapRev, zc_big hbig]
  have hcw := vx_cwVW n G.1.2.2.2.2.2.1 hT9 (zws_h hh) rfl rfl hd (show (zroom d2 b2).frames + 1 ≤ Rm.frames ∧ 8 + (M2.2.2.2.1 + 11) + (zroom d2 b2).locals ≤ Rm.locals from ⟨by have := G.2.1; show d2 + 1 ≤ Rm.frames; omega, by have := G.2.1; show 8 + (M2.2.2.2.1 + 11) + 64 * d2 ≤ Rm.locals; omega⟩)
  refine zcall (M2 := M2) G hM0 hbb hlst (vx_runVX (hh := x9 :: h9) (⟨G.1.1, G.1.2.1, rfl, G.1.2.2.2.2.1, G.1.2.2.2.2.2.1⟩) (hM ln D cst dA A θ) hcw ⟨zPc_blind, hrec, hpc⟩ rfl (by rw [List.length_map]; exact hn) (G.2.2.2.2.2.1.1.trans G.1.2.2.2.1.symm) rfl (zst_room rfl hw) hdg (by have := G.2.1; omega)) kk kx
theorem za_callVN {n idx : Nat} {As : List Value} {ci N : Nat} {C : String} {T1 : u_T} {κ : Nat} (hc : zcl[ci]? = some (C, T1, N)) (hci : ci < 99) (hT : (T κ).1 = ci + 1) (hdg : decode M.2.2.1 pc = .ok (.invokevirtual idx, 3)) {host : String} (hh : M2.2.2.2.2.2.1 = []) (hT9 : GoodIn lw_all (zws M2)) (hq : Cond.methodLinkNest M.1 idx M2.2.1 host ∈ lw_tbl) (hq2 : Cond.instanceMethod M2.2.1 ∈ lw_all) (hq3 : Cond.selects C M2.2.1 M2.2.1 ∈ lw_all) (hq4 : Cond.initialized M2.2.1.cls ∈ lw_all) (hd : M2.2.1.cls ≠ "java/lang/invoke/MethodHandle" ∧ M2.2.1.cls ≠ "java/lang/invoke/VarHandle" ∧ (parseMethodDescriptor M2.2.1.desc).map (fun d => d.parameters.length) = some n) (hn : As.length = n) (hL : M2.2.2.2.1 ≤ 45) (hdd : d2 < d) (hbb : b2 ≤ b) (hM0 : M.2.2.2.2.2.1 = [] ∨ ∀ o v T I L R, o ≠ 0 → ¬ P2 o v T I L R) (hw : (st.map fun v => v.category).sum ≤ 8) (hM : zMet M2 d2 b2 (.ref κ :: As) T I L R P2) (kk : ∀ v T I L R, P2 0 v T I L R → zAW M d (b - b2) pc' l (zvs M2 v ++ st) T I L R P) (kx : ∀ o v T I L R, o ≠ 0 → P2 o v T I L R → P o v T I L R) (hp : pc + 3 = pc') : zAW M d b pc l (As.reverse ++ .ref κ :: st) T I L R P := by
  subst hp
  intro ln D cst dA A p e Rm s m args below meth c bs θ0 T0 θ H locs cells slots ls G
  have hlall := G.2.2.2.2.2.2.2
  have hlst : ∀ v ∈ st, zlv T v := fun v h => hlall v (List.mem_append_right _ (List.mem_cons_of_mem _ h))
  have hlAs : ∀ v ∈ As, zlv T v := fun v h => hlall v (List.mem_append_left _ (List.mem_reverse.mpr h))
  have hlκ : zlv T (.ref κ) := hlall _ (List.mem_append_right _ (List.mem_cons_self))
  have hrec := zrecvS G hc hci hT
  have hbig : ¬ κ < 100 := by obtain ⟨K, hR⟩ := G.2.2.1; exact hR.big (κ := κ) (by rw [hT]; omega)
  have hpc := fun U hU hW => zPc_at G (av := .ref κ :: As) (zl_c hlκ hlAs) U hU hW
  rw [List.map_cons, zc_big hbig] at hpc
  rw [zMapRev, zc_big hbig]
  have hcw := And.intro (va_cnB n G.1.2.2.2.2.2.1 hT9 (zws_p hh) rfl rfl (G.1.2.2.2.2.2.2.2.2.2.1.2.2.2.2.1 _ hq rfl) (G.1.2.2.2.2.2.1 _ hq4) hd (show (zroom d2 b2).frames + 1 ≤ Rm.frames ∧ 8 + (M2.2.2.2.1 + 11) + (zroom d2 b2).locals ≤ Rm.locals from ⟨by have := G.2.1; show d2 + 1 ≤ Rm.frames; omega, by have := G.2.1; show 8 + (M2.2.2.2.1 + 11) + 64 * d2 ≤ Rm.locals; omega⟩)) (And.intro (G.1.2.2.2.2.2.1 _ hq2) (G.1.2.2.2.2.2.1 _ hq3))
  refine zcall (M2 := M2) G hM0 hbb hlst (vx_runVN (⟨G.1.1, G.1.2.1, rfl, G.1.2.2.2.2.1, G.1.2.2.2.2.2.1⟩) (hM ln D cst dA A θ) hcw ⟨zPc_blind, hrec, hpc⟩ rfl (by rw [List.length_map]; exact hn) (G.2.2.2.2.2.1.1.trans G.1.2.2.2.1.symm) rfl (zst_room rfl hw) hdg (by have := G.2.1; omega)) kk kx
theorem za_callI {n idx : Nat} {As : List Value} {κ : Nat} (hTk : (T κ).1 ≠ 0) (hdg : decode M.2.2.1 pc = .ok (.invokespecial idx, 3)) (hh : M2.2.2.2.2.2.1 = []) (hT9 : GoodIn lw_all (zws M2)) (hret : M2.2.2.2.2.1 = none) (hq : Cond.methodLink M.1 idx M2.2.1 ∈ lw_all) (hq2 : Cond.instanceMethod M2.2.1 ∈ lw_all) (hq4 : Cond.initialized M2.2.1.cls ∈ lw_all) (hy1 : M2.2.1.name = "<init>") (hd : M2.2.1.cls ≠ "java/lang/invoke/MethodHandle" ∧ M2.2.1.cls ≠ "java/lang/invoke/VarHandle" ∧ (parseMethodDescriptor M2.2.1.desc).map (fun d => d.parameters.length) = some n) (hn : As.length = n) (hL : M2.2.2.2.1 ≤ 45) (hdd : d2 < d) (hbb : b2 ≤ b) (hM0 : M.2.2.2.2.2.1 = [] ∨ ∀ o v T I L R, o ≠ 0 → ¬ P2 o v T I L R) (hw : (st.map fun v => v.category).sum ≤ 8) (hM : zMet M2 d2 b2 (.ref κ :: As) T I L R P2) (kk : ∀ v T I L R, P2 0 v T I L R → zAW M d (b - b2) pc' l (zvs M2 v ++ st) T I L R P) (kx : ∀ o v T I L R, o ≠ 0 → P2 o v T I L R → P o v T I L R) (hp : pc + 3 = pc') : zAW M d b pc l (As.reverse ++ .ref κ :: st) T I L R P := by
  subst hp
  intro ln D cst dA A p e Rm s m args below meth c bs θ0 T0 θ H locs cells slots ls G
  have hlall := G.2.2.2.2.2.2.2
  have hlst : ∀ v ∈ st, zlv T v := fun v h => hlall v (List.mem_append_right _ (List.mem_cons_of_mem _ h))
  have hlAs : ∀ v ∈ As, zlv T v := fun v h => hlall v (List.mem_append_left _ (List.mem_reverse.mpr h))
  have hlκ : zlv T (.ref κ) := hlall _ (List.mem_append_right _ (List.mem_cons_self))
  have hbig : ¬ κ < 100 := by obtain ⟨K, hR⟩ := G.2.2.1; exact hR.big hTk
  have hpc := fun U hU hW => zPc_at G (av := .ref κ :: As) (zl_c hlκ hlAs) U hU hW
  rw [List.map_cons, zc_big hbig] at hpc
  rw [zMapRev, zc_big hbig]
  have hcw := cwI n G.1.2.2.2.2.2.1 hT9 ((zws_p hh).trans (by rw [hret])) rfl rfl (G.1.2.2.2.2.2.1 _ hq4) (G.1.2.2.2.2.2.1 _ hq) (G.1.2.2.2.2.2.1 _ hq2) hy1 hd (show (zroom d2 b2).frames + 1 ≤ Rm.frames ∧ 8 + (M2.2.2.2.1 + 11) + (zroom d2 b2).locals ≤ Rm.locals from ⟨by have := G.2.1; show d2 + 1 ≤ Rm.frames; omega, by have := G.2.1; show 8 + (M2.2.2.2.1 + 11) + 64 * d2 ≤ Rm.locals; omega⟩)
  refine zcall (M2 := M2) G hM0 hbb hlst (vx_runI (⟨G.1.1, G.1.2.1, rfl, G.1.2.2.2.2.1, G.1.2.2.2.2.2.1⟩) (hM ln D cst dA A θ) hcw ⟨zPc_blind, hpc⟩ rfl (by rw [List.length_map]; exact hn) (G.2.2.2.2.2.1.1.trans G.1.2.2.2.1.symm) rfl (zst_room rfl hw) hdg (by have := G.2.1; omega)) kk kx
theorem za_callIN {n idx : Nat} {As : List Value} {κ : Nat} (hTk : (T κ).1 ≠ 0) (hdg : decode M.2.2.1 pc = .ok (.invokespecial idx, 3)) {host : String} (hh : M2.2.2.2.2.2.1 = []) (hT9 : GoodIn lw_all (zws M2)) (hret : M2.2.2.2.2.1 = none) (hq : Cond.methodLinkNest M.1 idx M2.2.1 host ∈ lw_tbl) (hq2 : Cond.instanceMethod M2.2.1 ∈ lw_all) (hq4 : Cond.initialized M2.2.1.cls ∈ lw_all) (hy1 : M2.2.1.name = "<init>") (hd : M2.2.1.cls ≠ "java/lang/invoke/MethodHandle" ∧ M2.2.1.cls ≠ "java/lang/invoke/VarHandle" ∧ (parseMethodDescriptor M2.2.1.desc).map (fun d => d.parameters.length) = some n) (hn : As.length = n) (hL : M2.2.2.2.1 ≤ 45) (hdd : d2 < d) (hbb : b2 ≤ b) (hM0 : M.2.2.2.2.2.1 = [] ∨ ∀ o v T I L R, o ≠ 0 → ¬ P2 o v T I L R) (hw : (st.map fun v => v.category).sum ≤ 8) (hM : zMet M2 d2 b2 (.ref κ :: As) T I L R P2) (kk : ∀ v T I L R, P2 0 v T I L R → zAW M d (b - b2) pc' l (zvs M2 v ++ st) T I L R P) (kx : ∀ o v T I L R, o ≠ 0 → P2 o v T I L R → P o v T I L R) (hp : pc + 3 = pc') : zAW M d b pc l (As.reverse ++ .ref κ :: st) T I L R P := by
  subst hp
  intro ln D cst dA A p e Rm s m args below meth c bs θ0 T0 θ H locs cells slots ls G
  have hlall := G.2.2.2.2.2.2.2
  have hlst : ∀ v ∈ st, zlv T v := fun v h => hlall v (List.mem_append_right _ (List.mem_cons_of_mem _ h))
  have hlAs : ∀ v ∈ As, zlv T v := fun v h => hlall v (List.mem_append_left _ (List.mem_reverse.mpr h))
  have hlκ : zlv T (.ref κ) := hlall _ (List.mem_append_right _ (List.mem_cons_self))
  have hbig : ¬ κ < 100 := by obtain ⟨K, hR⟩ := G.2.2.1; exact hR.big hTk
  have hpc := fun U hU hW => zPc_at G (av := .ref κ :: As) (zl_c hlκ hlAs) U hU hW
  rw [List.map_cons, zc_big hbig] at hpc
  rw [zMapRev, zc_big hbig]
  have hcw := And.intro (va_cnB n G.1.2.2.2.2.2.1 hT9 ((zws_p hh).trans (by rw [hret])) rfl rfl (G.1.2.2.2.2.2.2.2.2.2.1.2.2.2.2.1 _ hq rfl) (G.1.2.2.2.2.2.1 _ hq4) hd (show (zroom d2 b2).frames + 1 ≤ Rm.frames ∧ 8 + (M2.2.2.2.1 + 11) + (zroom d2 b2).locals ≤ Rm.locals from ⟨by have := G.2.1; show d2 + 1 ≤ Rm.frames; omega, by have := G.2.1; show 8 + (M2.2.2.2.1 + 11) + 64 * d2 ≤ Rm.locals; omega⟩)) (And.intro hy1 (G.1.2.2.2.2.2.1 _ hq2))
  refine zcall (M2 := M2) G hM0 hbb hlst (vx_runIN (⟨G.1.1, G.1.2.1, rfl, G.1.2.2.2.2.1, G.1.2.2.2.2.2.1⟩) (hM ln D cst dA A θ) hcw ⟨zPc_blind, hpc⟩ rfl (by rw [List.length_map]; exact hn) (G.2.2.2.2.2.1.1.trans G.1.2.2.2.1.symm) rfl (zst_room rfl hw) hdg (by have := G.2.1; omega)) kk kx
theorem za_callU {n idx : Nat} {As : List Value} {ci N : Nat} {C : String} {T1 : u_T} {κ : Nat} (hc : zcl[ci]? = some (C, T1, N)) (hci : ci < 99) (hT : (T κ).1 = ci + 1) (hdg : decode M.2.2.1 pc = .ok (.invokevirtual idx, 3)) {x9 : MethodName} {owner : String} (hh : M2.2.2.2.2.2.1 = []) (hT9 : GoodIn lw_all (va_wsU M.1 idx C owner x9 M2.2.1 (zws M2))) (hz : Cond.declares ⟨owner, x9.name, x9.desc⟩ ∈ lw_tbl) (hd : owner ≠ "java/lang/invoke/MethodHandle" ∧ owner ≠ "java/lang/invoke/VarHandle" ∧ (parseMethodDescriptor x9.desc).map (fun d => d.parameters.length) = some n) (hn : As.length = n) (hL : M2.2.2.2.1 ≤ 45) (hdd : d2 < d) (hbb : b2 ≤ b) (hM0 : M.2.2.2.2.2.1 = [] ∨ ∀ o v T I L R, o ≠ 0 → ¬ P2 o v T I L R) (hw : (st.map fun v => v.category).sum ≤ 8) (hM : zMet M2 d2 b2 (.ref κ :: As) T I L R P2) (kk : ∀ v T I L R, P2 0 v T I L R → zAW M d (b - b2) pc' l (zvs M2 v ++ st) T I L R P) (kx : ∀ o v T I L R, o ≠ 0 → P2 o v T I L R → P o v T I L R) (hp : pc + 3 = pc') : zAW M d b pc l (As.reverse ++ .ref κ :: st) T I L R P := by
  subst hp
  intro ln D cst dA A p e Rm s m args below meth c bs θ0 T0 θ H locs cells slots ls G
  have hlall := G.2.2.2.2.2.2.2
  have hlst : ∀ v ∈ st, zlv T v := fun v h => hlall v (List.mem_append_right _ (List.mem_cons_of_mem _ h))
  have hlAs : ∀ v ∈ As, zlv T v := fun v h => hlall v (List.mem_append_left _ (List.mem_reverse.mpr h))
  have hlκ : zlv T (.ref κ) := hlall _ (List.mem_append_right _ (List.mem_cons_self))
  have hrec := zrecvS G hc hci hT
  have hbig : ¬ κ < 100 := by obtain ⟨K, hR⟩ := G.2.2.1; exact hR.big (κ := κ) (by rw [hT]; omega)
  have hpc := fun U hU hW => zPc_at G (av := .ref κ :: As) (zl_c hlκ hlAs) U hU hW
  rw [List.map_cons, zc_big hbig] at hpc
  rw [zMapRev, zc_big hbig]
  have hcw := va_cwA n G.1.2.2.2.2.2.1 hT9 (zws_p hh) rfl rfl (G.1.2.2.2.2.2.2.2.2.2.1.2.2.2.2.1 _ hz rfl) hd (show (zroom d2 b2).frames + 1 ≤ Rm.frames ∧ 8 + (M2.2.2.2.1 + 11) + (zroom d2 b2).locals ≤ Rm.locals from ⟨by have := G.2.1; show d2 + 1 ≤ Rm.frames; omega, by have := G.2.1; show 8 + (M2.2.2.2.1 + 11) + 64 * d2 ≤ Rm.locals; omega⟩)
  refine zcall (M2 := M2) G hM0 hbb hlst (vx_runU (⟨G.1.1, G.1.2.1, rfl, G.1.2.2.2.2.1, G.1.2.2.2.2.2.1⟩) (hM ln D cst dA A θ) hcw ⟨zPc_blind, hrec, hpc⟩ rfl (by rw [List.length_map]; exact hn) (G.2.2.2.2.2.1.1.trans G.1.2.2.2.1.symm) rfl (zst_room rfl hw) hdg (by have := G.2.1; omega)) kk kx
theorem za_callSU {n idx : Nat} {As : List Value} {ci N : Nat} {C : String} {T1 : u_T} {κ : Nat} (hc : zcl[ci]? = some (C, T1, N)) (hci : ci < 99) (hT : (T κ).1 = ci + 1) (hdg : decode M.2.2.1 pc = .ok (.invokespecial idx, 3)) (hh : M2.2.2.2.2.2.1 = []) (hT9 : GoodIn lw_all (va_wsSU M.1 idx M2.2.1 (zws M2))) (hd : M2.2.1.name ≠ "<init>" ∧ (parseMethodDescriptor M2.2.1.desc).map (fun d => d.parameters.length) = some n) (hn : As.length = n) (hL : M2.2.2.2.1 ≤ 45) (hdd : d2 < d) (hbb : b2 ≤ b) (hM0 : M.2.2.2.2.2.1 = [] ∨ ∀ o v T I L R, o ≠ 0 → ¬ P2 o v T I L R) (hw : (st.map fun v => v.category).sum ≤ 8) (hM : zMet M2 d2 b2 (.ref κ :: As) T I L R P2) (kk : ∀ v T I L R, P2 0 v T I L R → zAW M d (b - b2) pc' l (zvs M2 v ++ st) T I L R P) (kx : ∀ o v T I L R, o ≠ 0 → P2 o v T I L R → P o v T I L R) (hp : pc + 3 = pc') : zAW M d b pc l (As.reverse ++ .ref κ :: st) T I L R P := by
  subst hp
  intro ln D cst dA A p e Rm s m args below meth c bs θ0 T0 θ H locs cells slots ls G
  have hlall := G.2.2.2.2.2.2.2
  have hlst : ∀ v ∈ st, zlv T v := fun v h => hlall v (List.mem_append_right _ (List.mem_cons_of_mem _ h))
  have hlAs : ∀ v ∈ As, zlv T v := fun v h => hlall v (List.mem_append_left _ (List.mem_reverse.mpr h))
  have hlκ : zlv T (.ref κ) := hlall _ (List.mem_append_right _ (List.mem_cons_self))
  have hrec := zrecvS G hc hci hT
  have hbig : ¬ κ < 100 := by obtain ⟨K, hR⟩ := G.2.2.1; exact hR.big (κ := κ) (by rw [hT]; omega)
  have hpc := fun U hU hW => zPc_at G (av := .ref κ :: As) (zl_c hlκ hlAs) U hU hW
  rw [List.map_cons, zc_big hbig] at hpc
  rw [zMapRev, zc_big hbig]
  have hat := (G.1.2.2.2.2.2.2.2.2.2.1.2.2.1.1 ci _ hc).2
  have hcw := va_cwSU n G.1.2.2.2.2.2.1 hT9 (zws_p hh) rfl rfl hd (show (zroom d2 b2).frames + 1 ≤ Rm.frames ∧ 8 + (M2.2.2.2.1 + 11) + (zroom d2 b2).locals ≤ Rm.locals from ⟨by have := G.2.1; show d2 + 1 ≤ Rm.frames; omega, by have := G.2.1; show 8 + (M2.2.2.2.1 + 11) + 64 * d2 ≤ Rm.locals; omega⟩)
  refine zcall (M2 := M2) G hM0 hbb hlst (vx_runSU hat (⟨G.1.1, G.1.2.1, rfl, G.1.2.2.2.2.1, G.1.2.2.2.2.2.1⟩) (hM ln D cst dA A θ) hcw ⟨zPc_blind, hrec, hpc⟩ rfl (by rw [List.length_map]; exact hn) (G.2.2.2.2.2.1.1.trans G.1.2.2.2.1.symm) rfl (zst_room rfl hw) hdg (by have := G.2.1; omega)) kk kx
theorem za_callS {n idx : Nat} {As : List Value} (hdg : decode M.2.2.1 pc = .ok (.invokestatic idx, 3)) (hh : M2.2.2.2.2.2.1 = []) (hT9 : GoodIn lw_all (va_wsS M.1 idx M2.2.1 (zws M2))) (hd : M2.2.1.cls ≠ "java/lang/invoke/MethodHandle" ∧ M2.2.1.cls ≠ "java/lang/invoke/VarHandle" ∧ (parseMethodDescriptor M2.2.1.desc).map (fun d => d.parameters.length) = some n) (hn : As.length = n) (hL : M2.2.2.2.1 ≤ 45) (hdd : d2 < d) (hbb : b2 ≤ b) (hM0 : M.2.2.2.2.2.1 = [] ∨ ∀ o v T I L R, o ≠ 0 → ¬ P2 o v T I L R) (hw : (st.map fun v => v.category).sum ≤ 8) (hM : zMet M2 d2 b2 (As) T I L R P2) (kk : ∀ v T I L R, P2 0 v T I L R → zAW M d (b - b2) pc' l (zvs M2 v ++ st) T I L R P) (kx : ∀ o v T I L R, o ≠ 0 → P2 o v T I L R → P o v T I L R) (hp : pc + 3 = pc') : zAW M d b pc l (As.reverse ++ st) T I L R P := by
  subst hp
  intro ln D cst dA A p e Rm s m args below meth c bs θ0 T0 θ H locs cells slots ls G
  have hlall := G.2.2.2.2.2.2.2
  have hlst : ∀ v ∈ st, zlv T v := fun v h => hlall v (List.mem_append_right _ h)
  have hlAs : ∀ v ∈ As, zlv T v := fun v h => hlall v (List.mem_append_left _ (List.mem_reverse.mpr h))
  have hpc := fun U hU hW => zPc_at G (av := As) hlAs U hU hW
  rw [List.map_append, List.map_reverse]
  have hcw := va_cwS n G.1.2.2.2.2.2.1 hT9 (zws_p hh) rfl rfl hd (show (zroom d2 b2).frames + 1 ≤ Rm.frames ∧ 8 + (M2.2.2.2.1 + 11) + (zroom d2 b2).locals ≤ Rm.locals from ⟨by have := G.2.1; show d2 + 1 ≤ Rm.frames; omega, by have := G.2.1; show 8 + (M2.2.2.2.1 + 11) + 64 * d2 ≤ Rm.locals; omega⟩)
  refine zcall (M2 := M2) G hM0 hbb hlst (vx_runS (⟨G.1.1, G.1.2.1, rfl, G.1.2.2.2.2.1, G.1.2.2.2.2.2.1⟩) (hM ln D cst dA A θ) hcw ⟨zPc_blind, hpc⟩ rfl (by rw [List.length_map]; exact hn) (G.2.2.2.2.2.1.1.trans G.1.2.2.2.1.symm) rfl (zst_room rfl hw) hdg (by have := G.2.1; omega)) kk kx
theorem za_callSN {n idx : Nat} {As : List Value} (hdg : decode M.2.2.1 pc = .ok (.invokestatic idx, 3)) {host : String} (hh : M2.2.2.2.2.2.1 = []) (hT9 : GoodIn lw_all (zws M2)) (hq : Cond.methodLinkNest M.1 idx M2.2.1 host ∈ lw_tbl) (hq2 : Cond.static M2.2.1 ∈ lw_all) (hq4 : Cond.initialized M2.2.1.cls ∈ lw_all) (hd : M2.2.1.cls ≠ "java/lang/invoke/MethodHandle" ∧ M2.2.1.cls ≠ "java/lang/invoke/VarHandle" ∧ (parseMethodDescriptor M2.2.1.desc).map (fun d => d.parameters.length) = some n) (hn : As.length = n) (hL : M2.2.2.2.1 ≤ 45) (hdd : d2 < d) (hbb : b2 ≤ b) (hM0 : M.2.2.2.2.2.1 = [] ∨ ∀ o v T I L R, o ≠ 0 → ¬ P2 o v T I L R) (hw : (st.map fun v => v.category).sum ≤ 8) (hM : zMet M2 d2 b2 (As) T I L R P2) (kk : ∀ v T I L R, P2 0 v T I L R → zAW M d (b - b2) pc' l (zvs M2 v ++ st) T I L R P) (kx : ∀ o v T I L R, o ≠ 0 → P2 o v T I L R → P o v T I L R) (hp : pc + 3 = pc') : zAW M d b pc l (As.reverse ++ st) T I L R P := by
  subst hp
  intro ln D cst dA A p e Rm s m args below meth c bs θ0 T0 θ H locs cells slots ls G
  have hlall := G.2.2.2.2.2.2.2
  have hlst : ∀ v ∈ st, zlv T v := fun v h => hlall v (List.mem_append_right _ h)
  have hlAs : ∀ v ∈ As, zlv T v := fun v h => hlall v (List.mem_append_left _ (List.mem_reverse.mpr h))
  have hpc := fun U hU hW => zPc_at G (av := As) hlAs U hU hW
  rw [List.map_append, List.map_reverse]
  have hcw := And.intro (va_cnB n G.1.2.2.2.2.2.1 hT9 (zws_p hh) rfl rfl (G.1.2.2.2.2.2.2.2.2.2.1.2.2.2.2.1 _ hq rfl) (G.1.2.2.2.2.2.1 _ hq4) hd (show (zroom d2 b2).frames + 1 ≤ Rm.frames ∧ 8 + (M2.2.2.2.1 + 11) + (zroom d2 b2).locals ≤ Rm.locals from ⟨by have := G.2.1; show d2 + 1 ≤ Rm.frames; omega, by have := G.2.1; show 8 + (M2.2.2.2.1 + 11) + 64 * d2 ≤ Rm.locals; omega⟩)) (And.intro (G.1.2.2.2.2.2.1 _ hq2) trivial)
  refine zcall (M2 := M2) G hM0 hbb hlst (vx_runSN (⟨G.1.1, G.1.2.1, rfl, G.1.2.2.2.2.1, G.1.2.2.2.2.2.1⟩) (hM ln D cst dA A θ) hcw ⟨zPc_blind, hpc⟩ rfl (by rw [List.length_map]; exact hn) (G.2.2.2.2.2.1.1.trans G.1.2.2.2.1.symm) rfl (zst_room rfl hw) hdg (by have := G.2.1; omega)) kk kx
theorem za_callSW {n idx : Nat} {As : List Value} (hdg : decode M.2.2.1 pc = .ok (.invokestatic idx, 3)) {x9 : Nat × Nat × Nat × Nat} {h9 : List (Nat × Nat × Nat × Nat)} (hh : M2.2.2.2.2.2.1 = x9 :: h9) (hT9 : GoodIn lw_all (va_wsS M.1 idx M2.2.1 (zws M2))) (hd : M2.2.1.cls ≠ "java/lang/invoke/MethodHandle" ∧ M2.2.1.cls ≠ "java/lang/invoke/VarHandle" ∧ (parseMethodDescriptor M2.2.1.desc).map (fun d => d.parameters.length) = some n) (hn : As.length = n) (hL : M2.2.2.2.1 ≤ 45) (hdd : d2 < d) (hbb : b2 ≤ b) (hM0 : M.2.2.2.2.2.1 = [] ∨ ∀ o v T I L R, o ≠ 0 → ¬ P2 o v T I L R) (hw : (st.map fun v => v.category).sum ≤ 8) (hM : zMet M2 d2 b2 (As) T I L R P2) (kk : ∀ v T I L R, P2 0 v T I L R → zAW M d (b - b2) pc' l (zvs M2 v ++ st) T I L R P) (kx : ∀ o v T I L R, o ≠ 0 → P2 o v T I L R → P o v T I L R) (hp : pc + 3 = pc') : zAW M d b pc l (As.reverse ++ st) T I L R P := by
  subst hp
  intro ln D cst dA A p e Rm s m args below meth c bs θ0 T0 θ H locs cells slots ls G
  have hlall := G.2.2.2.2.2.2.2
  have hlst : ∀ v ∈ st, zlv T v := fun v h => hlall v (List.mem_append_right _ h)
  have hlAs : ∀ v ∈ As, zlv T v := fun v h => hlall v (List.mem_append_left _ (List.mem_reverse.mpr h))
  have hpc := fun U hU hW => zPc_at G (av := As) hlAs U hU hW
  rw [List.map_append, List.map_reverse]
  have hcw := vx_cwSW n G.1.2.2.2.2.2.1 hT9 (zws_h hh) rfl rfl hd (show (zroom d2 b2).frames + 1 ≤ Rm.frames ∧ 8 + (M2.2.2.2.1 + 11) + (zroom d2 b2).locals ≤ Rm.locals from ⟨by have := G.2.1; show d2 + 1 ≤ Rm.frames; omega, by have := G.2.1; show 8 + (M2.2.2.2.1 + 11) + 64 * d2 ≤ Rm.locals; omega⟩)
  refine zcall (M2 := M2) G hM0 hbb hlst (vx_runSX (hh := x9 :: h9) (⟨G.1.1, G.1.2.1, rfl, G.1.2.2.2.2.1, G.1.2.2.2.2.2.1⟩) (hM ln D cst dA A θ) hcw ⟨zPc_blind, hpc⟩ rfl (by rw [List.length_map]; exact hn) (G.2.2.2.2.2.1.1.trans G.1.2.2.2.1.symm) rfl (zst_room rfl hw) hdg (by have := G.2.1; omega)) kk kx
theorem lv_args_map {cst : Nat → Option Nat} {θ : Nat → Nat} : ∀ (i : Nat) (vs : List Value), lv_args i (vs.map (zc cst θ)) = zlc cst θ (lv_args i vs)
  | _, [] => rfl
  | i, v :: vs => by
    show (i, zc cst θ v) :: lv_args (if (zc cst θ v).category = 2 then i + 2 else i + 1) (vs.map (zc cst θ)) = (i, zc cst θ v) :: zlc cst θ (lv_args (if v.category = 2 then i + 2 else i + 1) vs)
    rw [zc_cat, lv_args_map _ vs]
theorem lg_sl_map {cst : Nat → Option Nat} {θ : Nat → Nat} : ∀ (vs : List Value), (lg_sl (vs.map (zc cst θ))).length = (lg_sl vs).length
  | [] => rfl
  | v :: vs => by
    have ih := lg_sl_map (cst := cst) (θ := θ) vs
    unfold lg_sl at ih ⊢
    rw [List.map_cons, List.flatMap_cons, List.flatMap_cons, List.length_append, List.length_append, ih, zc_cat]
    split <;> rfl
theorem lv_args_live : ∀ (i : Nat) (vs : List Value), (∀ v ∈ vs, zlv T v) → ∀ q ∈ lv_args i vs, zlv T q.2
  | _, [], _ => fun q h => by cases h
  | i, v :: vs, h => fun q hq => by
    rcases List.mem_cons.mp hq with h9 | h9
    · rw [h9]; exact zl_h h
    · exact lv_args_live _ vs (zl_t h) q h9
theorem zMet_core {own : String} {y : MethodName} {cc : ByteArray} {maxL : Nat} {ret : Option FieldType} {hh : List (Nat × Nat × Nat × Nat)} {av : List Value} (hsl : (lg_sl av).length ≤ maxL) (hl : lv_args 0 av = l)
    (k : zAW (own, y, cc, maxL, ret, hh, none) d b 0 l [] T I L R P) {ln : Launch} {D : va_G} {cst : Nat → Option Nat} {dA : Nat → ClassId} {A : Nat → Prop} {θ : Nat → Nat} {p : Program} {s : State} {m : MethodId} {args : Array Value} {meth : Method} {c : Code}
    (hin : zIn (own, y, cc, maxL, ret, hh, none) ln D cst dA A p s m args meth c) (hpc : zPc ln D cst dA A θ av T I L R args s) :
    W p ln e (zroom d b) s m args below meth c s.heap [] 0 0 (vx_MQ below (zQ D cst dA A ret θ T P) (zX D cst dA A θ T P) args s b b A) (entryFrame m args maxL) := by
  subst hl
  obtain ⟨hv, hrep, henv, hlive⟩ := hpc
  have hent := lv_entry (av.map (zc cst θ)) (n := maxL) (by rw [lg_sl_map]; exact hsl)
  rw [lv_args_map] at hent
  have hk := k ln D cst dA A p e (zroom d b) s m args below meth c b θ T θ s.heap [] 0 0 _ ⟨hin, ⟨Nat.le_refl _, Nat.le_refl _, Nat.le_refl _, Nat.le_refl _, by omega, by omega⟩, hrep, va_S.rf, fun κ h9 => ⟨rfl, h9⟩, hent, lv_args_live 0 av hlive, fun v h9 => by cases h9⟩
  have e9 : entryFrame m args maxL = F0 m 0 ((lg_sl (av.map (zc cst θ)) ++ List.replicate (maxL - (lg_sl (av.map (zc cst θ))).length) Slot.unset).toArray) [] := by rw [hv]; exact lg_entry_eq m (av.map (zc cst θ)) maxL
  rw [e9]
  exact hk
theorem zMet_of {own : String} {y : MethodName} {cc : ByteArray} {maxL : Nat} {ret : Option FieldType} {av : List Value} (hy : plainName y.cls = true) (hown : y.cls = own) (hsl : (lg_sl av).length ≤ maxL) (hl : lv_args 0 av = l)
    (k : zAW (own, y, cc, maxL, ret, [], none) d b 0 l [] T I L R P) : zMet (own, y, cc, maxL, ret, [], none) d b av T I L R P := by
  intro ln D cst dA A θ
  refine vx_ofW (cc := cc) (maxL := maxL) (ret := ret) hy rfl ?_
  intro p e s m args below meth c s₁ B hml hex hpc
  have hts := atoms_spec (ws := Cond.code y cc maxL ret :: lw_all) B.pre
  refine zMet_core hsl hl k ⟨B.exec, B.bytes, B.returns, hml, by rw [← hown]; exact findClass_of_methodNamed B.named, fun w h => hts w (List.mem_cons_of_mem _ h), B.notSynchronized, (name_of_methodNamed B.named B.method).1, ?_, hpc.2.2.1, trivial⟩ hpc
  cases hx : c.exceptionTable.toList with
  | nil => rfl
  | cons x r => exact (hex x (by rw [hx]; exact List.mem_cons_self)).elim
theorem zMet_ofH {own : String} {y : MethodName} {cc : ByteArray} {maxL : Nat} {ret : Option FieldType} {x9 : Nat × Nat × Nat × Nat} {h9 : List (Nat × Nat × Nat × Nat)} {av : List Value} (hy : plainName y.cls = true) (hown : y.cls = own) (hsl : (lg_sl av).length ≤ maxL) (hl : lv_args 0 av = l)
    (k : zAW (own, y, cc, maxL, ret, x9 :: h9, none) d b 0 l [] T I L R P) : zMet (own, y, cc, maxL, ret, x9 :: h9, none) d b av T I L R P := by
  intro ln D cst dA A θ
  refine vx_ofWH (cc := cc) (maxL := maxL) (ret := ret) (hh := x9 :: h9) hy rfl ?_
  intro p e s m args below meth c s₁ B hml hpc
  have hts := atoms_spec (ws := Cond.codeWith y cc maxL ret (x9 :: h9) :: lw_all) B.pre
  exact zMet_core hsl hl k ⟨B.exec, B.bytes, B.returns, hml, by rw [← hown]; exact findClass_of_methodNamed B.named, fun w h => hts w (List.mem_cons_of_mem _ h), B.notSynchronized, (name_of_methodNamed B.named B.method).1, vx_table (x := y) B (hts _ List.mem_cons_self), hpc.2.2.1, trivial⟩ hpc
end ZCALLS
