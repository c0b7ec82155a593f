/-! FRAMES AND CONTRACTS over the typed memory. M: a method (its class, its name, code, maxLocals, answer, handlers, the law's script) -/
abbrev zM : Type := String × MethodName × ByteArray × Nat × Option FieldType × List (Nat × Nat × Nat × Nat) × Option (Nat × (Nat → Int32))
def zscr (M : zM) (cst : Nat → Option Nat) (A : Nat → Prop) (s : State) : Prop := match M.2.2.2.2.2.2 with
  | none => True
  | some x => ∃ b, cst 1 = some b ∧ va_X b x.1 x.2 s s.heap ∧ b < s.heap.size ∧ ¬ A b
def zroom (d b : Nat) : Room := ({ frames := d, cells := b, slots := b, locals := 64 * d } : Room)
def zxn (o : Nat) : String := if o = 1 then RX14 else if o = 2 then "TwoTongues$Trouble" else if o = 3 then "java/lang/IndexOutOfBoundsException" else "java/util/NoSuchElementException"
def zlc (cst : Nat → Option Nat) (θ : Nat → Nat) (l : List (Nat × Value)) : List (Nat × Value) := l.map fun q => (q.1, zc cst θ q.2)
/-- what holds in a body all through -/
def zIn (M : zM) (ln : Launch) (D : va_G) (cst : Nat → Option Nat) (dA : Nat → ClassId) (A : Nat → Prop) (p : Program) (s : State) (m : MethodId) (args : Array Value) (meth : Method) (c : Code) : Prop :=
  p.tables.exec = Jvm.exec ∧ c.code = M.2.2.1 ∧ meth.sig.returnType = M.2.2.2.2.1 ∧ c.maxLocals = M.2.2.2.1 ∧ s.vm.findClass M.1 = some m.cls ∧ (∀ w ∈ lw_all, w.before args s = true) ∧ meth.locks = false ∧ meth.name = M.2.1.name ∧ c.exceptionTable.toList = tableOf M.2.2.2.2.2.1 ∧ zEnv ln D cst dA A s ∧ zscr M cst A s
def zQ (D : va_G) (cst : Nat → Option Nat) (dA : Nat → ClassId) (A : Nat → Prop) (ret : Option FieldType) (θ0 : Nat → Nat) (T0 : zT) (P : zP) : Array Value → State → Outcome → State → Prop := fun _ st oc t =>
  (∃ (v : Value) (T : zT) (I : zI) (L : zL) (R : zR) (θ : Nat → Nat), P 0 v T I L R ∧ oc = .returned (if ret.isNone then none else some (zc cst θ v)) ∧ zlv T v ∧ zRep D cst dA A θ T I L R t.heap ∧ (∀ κ, zlive T0 κ → θ κ = θ0 κ ∧ zlive T κ)) ∧ va_F A st t
def zX (D : va_G) (cst : Nat → Option Nat) (dA : Nat → ClassId) (A : Nat → Prop) (θ0 : Nat → Nat) (T0 : zT) (P : zP) : String → Addr → State → State → Prop := fun E q st t =>
  (∃ (o : Nat) (v : Value) (T : zT) (I : zI) (L : zL) (R : zR) (θ : Nat → Nat), o ≠ 0 ∧ P o v T I L R ∧ E = zxn o ∧ zc cst θ v = .ref q ∧ zlv T v ∧ zRep D cst dA A θ T I L R t.heap ∧ (∀ κ, zlive T0 κ → θ κ = θ0 κ ∧ zlive T κ)) ∧ va_F A st t
def zGo (M : zM) (d b : Nat) (l : List (Nat × Value)) (st : List Value) (T : zT) (I : zI) (L : zL) (R : zR) (ln : Launch) (D : va_G) (cst : Nat → Option Nat) (dA : Nat → ClassId) (A : Nat → Prop) (p : Program) (Rm : Room) (s : State) (m : MethodId) (args : Array Value) (meth : Method) (c : Code) (bs : Nat) (θ0 : Nat → Nat) (T0 : zT) (θ : Nat → Nat) (H : Heap) (locs : List Loc) (cells slots : Nat) (ls : Array Slot) : Prop :=
  zIn M ln D cst dA A p s m args meth c ∧ (d ≤ Rm.frames ∧ 64 * d ≤ Rm.locals ∧ bs ≤ Rm.cells ∧ bs ≤ Rm.slots ∧ cells + b ≤ bs ∧ slots + b ≤ bs) ∧ zRep D cst dA A θ T I L R H ∧ va_S A s.heap H locs ∧ (∀ κ, zlive T0 κ → θ κ = θ0 κ ∧ zlive T κ) ∧
  lv_has ls M.2.2.2.1 (zlc cst θ l) ∧ (∀ q ∈ l, zlv T q.2) ∧ ∀ v ∈ st, zlv T v
/-- the frame of M at pc, with locals l and stack st over the memory T I L R, comes to its end with P (o = 0: returned; else thrown); d bounds the frames above, b the cells that it may still make -/
def zAW (M : zM) (d b pc : Nat) (l : List (Nat × Value)) (st : List Value) (T : zT) (I : zI) (L : zL) (R : zR) (P : zP) : Prop :=
  ∀ (ln : Launch) (D : va_G) (cst : Nat → Option Nat) (dA : Nat → ClassId) (A : Nat → Prop) (p : Program) (e : Env) (Rm : Room) (s : State) (m : MethodId) (args : Array Value) (below : List Frame) (meth : Method) (c : Code) (bs : Nat) (θ0 : Nat → Nat) (T0 : zT) (θ : Nat → Nat) (H : Heap) (locs : List Loc) (cells slots : Nat) (ls : Array Slot),
    zGo M d b l st T I L R ln D cst dA A p Rm s m args meth c bs θ0 T0 θ H locs cells slots ls →
    W p ln e Rm s m args below meth c H locs cells slots (vx_MQ below (zQ D cst dA A M.2.2.2.2.1 θ0 T0 P) (zX D cst dA A θ0 T0 P) args s bs bs A) (F0 m pc ls (st.map (zc cst θ)))
def zws (M : zM) : List Cond := match M.2.2.2.2.2.1 with
  | [] => Cond.code M.2.1 M.2.2.1 M.2.2.2.1 M.2.2.2.2.1 :: lw_all
  | hh => Cond.codeWith M.2.1 M.2.2.1 M.2.2.2.1 M.2.2.2.2.1 hh :: lw_all
def zPc (ln : Launch) (D : va_G) (cst : Nat → Option Nat) (dA : Nat → ClassId) (A : Nat → Prop) (θ : Nat → Nat) (av : List Value) (T : zT) (I : zI) (L : zL) (R : zR) : Array Value → State → Prop := fun v U => v = (av.map (zc cst θ)).toArray ∧ zRep D cst dA A θ T I L R U.heap ∧ zEnv ln D cst dA A U ∧ ∀ v ∈ av, zlv T v
/-- M called with av over the memory comes to its end with P -/
def zMet (M : zM) (d b : Nat) (av : List Value) (T : zT) (I : zI) (L : zL) (R : zR) (P : zP) : Prop :=
  ∀ (ln : Launch) (D : va_G) (cst : Nat → Option Nat) (dA : Nat → ClassId) (A : Nat → Prop) (θ : Nat → Nat), vx_Met ln M.2.1 (zws M) (zroom d b) (zPc ln D cst dA A θ av T I L R) (zQ D cst dA A M.2.2.2.2.1 θ T P) (zX D cst dA A θ T P) b b A
theorem zl_c {T : zT} {v : Value} {st : List Value} (h : zlv T v) (hs : ∀ w ∈ st, zlv T w) : ∀ w ∈ v :: st, zlv T w := List.forall_mem_cons.mpr ⟨h, hs⟩
theorem zl_t {T : zT} {v : Value} {st : List Value} (h : ∀ w ∈ v :: st, zlv T w) : ∀ w ∈ st, zlv T w := (List.forall_mem_cons.mp h).2
theorem zl_h {T : zT} {v : Value} {st : List Value} (h : ∀ w ∈ v :: st, zlv T w) : zlv T v := (List.forall_mem_cons.mp h).1
theorem zc_cat (cst : Nat → Option Nat) (θ : Nat → Nat) (v : Value) : (zc cst θ v).category = v.category := by
  cases v with
  | ref κ => show (va_rf (zo cst θ κ)).category = _; cases zo cst θ κ <;> rfl
  | _ => rfl
theorem zlc_at {cst : Nat → Option Nat} {θ : Nat → Nat} {l : List (Nat × Value)} {j i : Nat} {v : Value} (h : l[j]? = some (i, v)) : (zlc cst θ l)[j]? = some (i, zc cst θ v) := by
  unfold zlc
  rw [List.getElem?_map, h]
  rfl
def zput (i : Nat) (v : Value) (l : List (Nat × Value)) : List (Nat × Value) := (i, v) :: l.filter (fun q => !(q.1 == i) && !(q.1 + 1 == i && q.2.category == 2))
def zputL (i : Nat) (v : Value) (l : List (Nat × Value)) : List (Nat × Value) := (i, v) :: l.filter (fun q => !(q.1 == i) && (!(q.1 == i + 1) && !(q.1 + 1 == i && q.2.category == 2)))
theorem zlc_put {cst : Nat → Option Nat} {θ : Nat → Nat} {l : List (Nat × Value)} {i : Nat} {v : Value} : (i, zc cst θ v) :: (zlc cst θ l).filter (fun q => !(q.1 == i) && !(q.1 + 1 == i && q.2.category == 2)) = zlc cst θ (zput i v l) := by
  unfold zlc zput
  rw [List.map_cons, List.filter_map]
  congr 2
  apply List.filter_congr
  intro q _
  simp [Function.comp, zc_cat]
theorem zlc_putL {cst : Nat → Option Nat} {θ : Nat → Nat} {l : List (Nat × Value)} {i : Nat} {v : Value} : (i, zc cst θ v) :: (zlc cst θ l).filter (fun q => !(q.1 == i) && (!(q.1 == i + 1) && !(q.1 + 1 == i && q.2.category == 2))) = zlc cst θ (zputL i v l) := by
  unfold zlc zputL
  rw [List.map_cons, List.filter_map]
  congr 2
  apply List.filter_congr
  intro q _
  simp [Function.comp, zc_cat]
theorem zput_live {T : zT} {l : List (Nat × Value)} {i : Nat} {v : Value} (h : ∀ q ∈ l, zlv T q.2) (hv : zlv T v) : ∀ q ∈ zput i v l, zlv T q.2 := List.forall_mem_cons.mpr ⟨hv, fun q hq => h q ((List.mem_filter.mp hq).1)⟩
theorem zputL_live {T : zT} {l : List (Nat × Value)} {i : Nat} {v : Value} (h : ∀ q ∈ l, zlv T q.2) (hv : zlv T v) : ∀ q ∈ zputL i v l, zlv T q.2 := List.forall_mem_cons.mpr ⟨hv, fun q hq => h q ((List.mem_filter.mp hq).1)⟩
section ZROWS
variable {M : zM} {d b pc pc' : Nat} {l l' : List (Nat × Value)} {st st' : List Value} {T : zT} {I : zI} {L : zL} {R : zR} {P : zP}
theorem zGo.stk {ln : Launch} {D : va_G} {cst : Nat → Option Nat} {dA : Nat → ClassId} {A : Nat → Prop} {p : Program} {Rm : Room} {s : State} {m : MethodId} {args : Array Value} {meth : Method} {c : Code} {bs : Nat} {θ0 : Nat → Nat} {T0 : zT} {θ : Nat → Nat} {H : Heap} {locs : List Loc} {cells slots : Nat} {ls : Array Slot} (G : zGo M d b l st T I L R ln D cst dA A p Rm s m args meth c bs θ0 T0 θ H locs cells slots ls) (h : (∀ v ∈ st, zlv T v) → ∀ v ∈ st', zlv T v) : zGo M d b l st' T I L R ln D cst dA A p Rm s m args meth c bs θ0 T0 θ H locs cells slots ls := ⟨G.1, G.2.1, G.2.2.1, G.2.2.2.1, G.2.2.2.2.1, G.2.2.2.2.2.1, G.2.2.2.2.2.2.1, h G.2.2.2.2.2.2.2⟩
theorem zGo.lo {ln : Launch} {D : va_G} {cst : Nat → Option Nat} {dA : Nat → ClassId} {A : Nat → Prop} {p : Program} {Rm : Room} {s : State} {m : MethodId} {args : Array Value} {meth : Method} {c : Code} {bs : Nat} {θ0 : Nat → Nat} {T0 : zT} {θ : Nat → Nat} {H : Heap} {locs : List Loc} {cells slots : Nat} {ls : Array Slot} {ls' : Array Slot} (G : zGo M d b l st T I L R ln D cst dA A p Rm s m args meth c bs θ0 T0 θ H locs cells slots ls) (h : (∀ v ∈ st, zlv T v) → ∀ v ∈ st', zlv T v) (hl : lv_has ls' M.2.2.2.1 (zlc cst θ l')) (hv : ∀ q ∈ l', zlv T q.2) : zGo M d b l' st' T I L R ln D cst dA A p Rm s m args meth c bs θ0 T0 θ H locs cells slots ls' := ⟨G.1, G.2.1, G.2.2.1, G.2.2.2.1, G.2.2.2.2.1, hl, hv, h G.2.2.2.2.2.2.2⟩
theorem za_iconst {n : Int} {v : Int32} (hdg : decode M.2.2.1 pc = .ok (.iconst n, 1)) (hv : Int32.ofInt n = v) (hp : pc + 1 = pc') (k : zAW M d b pc' l (.int v :: st) T I L R P) : zAW M d b pc l (st) T I L R P := by
  subst hp
  intro ln D cst dA A p e Rm s m args below meth c bs θ0 T0 θ H locs cells slots ls G
  exact lv_iconst G.1.1 G.1.2.1 hdg hv (k ln D cst dA A p e Rm s m args below meth c bs θ0 T0 θ H locs cells slots ls (G.stk fun h => zl_c trivial h))
theorem za_bipush {n : Int} {v : Int32} (hdg : decode M.2.2.1 pc = .ok (.bipush n, 2)) (hv : (Int8.ofInt n).toInt32 = v) (hp : pc + 2 = pc') (k : zAW M d b pc' l (.int v :: st) T I L R P) : zAW M d b pc l (st) T I L R P := by
  subst hp
  intro ln D cst dA A p e Rm s m args below meth c bs θ0 T0 θ H locs cells slots ls G
  exact lv_bipush G.1.1 G.1.2.1 hdg hv (k ln D cst dA A p e Rm s m args below meth c bs θ0 T0 θ H locs cells slots ls (G.stk fun h => zl_c trivial h))
theorem za_sipush {n : Int} {v : Int32} (hdg : decode M.2.2.1 pc = .ok (.sipush n, 3)) (hv : (Int16.ofInt n).toInt32 = v) (hp : pc + 3 = pc') (k : zAW M d b pc' l (.int v :: st) T I L R P) : zAW M d b pc l (st) T I L R P := by
  subst hp
  intro ln D cst dA A p e Rm s m args below meth c bs θ0 T0 θ H locs cells slots ls G
  exact lv_sipush G.1.1 G.1.2.1 hdg hv (k ln D cst dA A p e Rm s m args below meth c bs θ0 T0 θ H locs cells slots ls (G.stk fun h => zl_c trivial h))
theorem za_lconst {n : Fin 2} {v : Int64} (hdg : decode M.2.2.1 pc = .ok (.lconst n, 1)) (hv : Int64.ofNat (n : Nat) = v) (hp : pc + 1 = pc') (k : zAW M d b pc' l (.long v :: st) T I L R P) : zAW M d b pc l (st) T I L R P := by
  subst hp
  intro ln D cst dA A p e Rm s m args below meth c bs θ0 T0 θ H locs cells slots ls G
  exact lv_lconst G.1.1 G.1.2.1 hdg hv (k ln D cst dA A p e Rm s m args below meth c bs θ0 T0 θ H locs cells slots ls (G.stk fun h => zl_c trivial h))
theorem za_iload_n {k0 : Fin 4} {i : Nat} {x : Int32} (j : Nat) (hdg : decode M.2.2.1 pc = .ok (.iload_n k0, 1)) (hi : (k0 : Nat) = i) (hj : l[j]? = some (i, .int x)) (hp : pc + 1 = pc') (k : zAW M d b pc' l (.int x :: st) T I L R P) : zAW M d b pc l (st) T I L R P := by
  subst hp
  intro ln D cst dA A p e Rm s m args below meth c bs θ0 T0 θ H locs cells slots ls G
  exact lv_iload_n G.1.1 G.1.2.1 hdg hi (lv_at G.2.2.2.2.2.1 j (zlc_at hj)) (k ln D cst dA A p e Rm s m args below meth c bs θ0 T0 θ H locs cells slots ls (G.stk fun h => zl_c trivial h))
theorem za_iload {i : Nat} {x : Int32} (j : Nat) (hdg : decode M.2.2.1 pc = .ok (.iload i, 2)) (hj : l[j]? = some (i, .int x)) (hp : pc + 2 = pc') (k : zAW M d b pc' l (.int x :: st) T I L R P) : zAW M d b pc l (st) T I L R P := by
  subst hp
  intro ln D cst dA A p e Rm s m args below meth c bs θ0 T0 θ H locs cells slots ls G
  exact lv_iload G.1.1 G.1.2.1 hdg (lv_at G.2.2.2.2.2.1 j (zlc_at hj)) (k ln D cst dA A p e Rm s m args below meth c bs θ0 T0 θ H locs cells slots ls (G.stk fun h => zl_c trivial h))
theorem za_lload_n {k0 : Fin 4} {i : Nat} {x : Int64} (j : Nat) (hdg : decode M.2.2.1 pc = .ok (.lload_n k0, 1)) (hi : (k0 : Nat) = i) (hj : l[j]? = some (i, .long x)) (hp : pc + 1 = pc') (k : zAW M d b pc' l (.long x :: st) T I L R P) : zAW M d b pc l (st) T I L R P := by
  subst hp
  intro ln D cst dA A p e Rm s m args below meth c bs θ0 T0 θ H locs cells slots ls G
  exact lv_lload_n G.1.1 G.1.2.1 hdg hi (lv_at G.2.2.2.2.2.1 j (zlc_at hj)) (k ln D cst dA A p e Rm s m args below meth c bs θ0 T0 θ H locs cells slots ls (G.stk fun h => zl_c trivial h))
theorem za_lload {i : Nat} {x : Int64} (j : Nat) (hdg : decode M.2.2.1 pc = .ok (.lload i, 2)) (hj : l[j]? = some (i, .long x)) (hp : pc + 2 = pc') (k : zAW M d b pc' l (.long x :: st) T I L R P) : zAW M d b pc l (st) T I L R P := by
  subst hp
  intro ln D cst dA A p e Rm s m args below meth c bs θ0 T0 θ H locs cells slots ls G
  exact lv_lload G.1.1 G.1.2.1 hdg (lv_at G.2.2.2.2.2.1 j (zlc_at hj)) (k ln D cst dA A p e Rm s m args below meth c bs θ0 T0 θ H locs cells slots ls (G.stk fun h => zl_c trivial h))
theorem za_aload_n {k0 : Fin 4} {i κ : Nat} (j : Nat) (hdg : decode M.2.2.1 pc = .ok (.aload_n k0, 1)) (hi : (k0 : Nat) = i) (hj : l[j]? = some (i, .ref κ)) (hp : pc + 1 = pc') (k : zAW M d b pc' l (.ref κ :: st) T I L R P) : zAW M d b pc l st T I L R P := by
  subst hp
  intro ln D cst dA A p e Rm s m args below meth c bs θ0 T0 θ H locs cells slots ls G
  have hk := k ln D cst dA A p e Rm s m args below meth c bs θ0 T0 θ H locs cells slots ls (G.stk fun h => zl_c (G.2.2.2.2.2.2.1 _ (List.mem_of_getElem? hj)) h)
  have hl := lv_at G.2.2.2.2.2.1 j (zlc_at (cst := cst) (θ := θ) hj)
  rw [List.map_cons] at hk
  have e : zc cst θ (.ref κ) = va_rf (zo cst θ κ) := rfl
  rw [e] at hk hl
  cases hz : zo cst θ κ with
  | none => rw [hz] at hk hl; exact lv_aload_nN G.1.1 G.1.2.1 hdg hi hl hk
  | some a => rw [hz] at hk hl; exact lv_aload_n G.1.1 G.1.2.1 hdg hi hl hk
theorem za_aload {i κ : Nat} (j : Nat) (hdg : decode M.2.2.1 pc = .ok (.aload i, 2)) (hj : l[j]? = some (i, .ref κ)) (hp : pc + 2 = pc') (k : zAW M d b pc' l (.ref κ :: st) T I L R P) : zAW M d b pc l st T I L R P := by
  subst hp
  intro ln D cst dA A p e Rm s m args below meth c bs θ0 T0 θ H locs cells slots ls G
  have hk := k ln D cst dA A p e Rm s m args below meth c bs θ0 T0 θ H locs cells slots ls (G.stk fun h => zl_c (G.2.2.2.2.2.2.1 _ (List.mem_of_getElem? hj)) h)
  have hl := lv_at G.2.2.2.2.2.1 j (zlc_at (cst := cst) (θ := θ) hj)
  rw [List.map_cons] at hk
  have e : zc cst θ (.ref κ) = va_rf (zo cst θ κ) := rfl
  rw [e] at hk hl
  cases hz : zo cst θ κ with
  | none => rw [hz] at hk hl; exact lv_aloadN G.1.1 G.1.2.1 hdg hl hk
  | some a => rw [hz] at hk hl; exact lv_aload G.1.1 G.1.2.1 hdg hl hk
theorem za_istore_n {k0 : Fin 4} {i : Nat} {x : Int32} (hdg : decode M.2.2.1 pc = .ok (.istore_n k0, 1)) (hi : (k0 : Nat) = i) (hn : i < M.2.2.2.1) (hl : zput i (.int x) l = l') (hp : pc + 1 = pc') (k : zAW M d b pc' l' st T I L R P) : zAW M d b pc l (.int x :: st) T I L R P := by
  subst hp; subst hl
  intro ln D cst dA A p e Rm s m args below meth c bs θ0 T0 θ H locs cells slots ls G
  exact lv_istore_n G.1.1 G.1.2.1 hdg hi G.2.2.2.2.2.1 hn (zlc_put (cst := cst) (θ := θ) (v := .int x)) (fun ls2 hl2 => k ln D cst dA A p e Rm s m args below meth c bs θ0 T0 θ H locs cells slots ls2 (G.lo zl_t hl2 (zput_live G.2.2.2.2.2.2.1 trivial)))
theorem za_istore {i : Nat} {x : Int32} (hdg : decode M.2.2.1 pc = .ok (.istore i, 2)) (hn : i < M.2.2.2.1) (hl : zput i (.int x) l = l') (hp : pc + 2 = pc') (k : zAW M d b pc' l' st T I L R P) : zAW M d b pc l (.int x :: st) T I L R P := by
  subst hp; subst hl
  intro ln D cst dA A p e Rm s m args below meth c bs θ0 T0 θ H locs cells slots ls G
  exact lv_istore G.1.1 G.1.2.1 hdg G.2.2.2.2.2.1 hn (zlc_put (cst := cst) (θ := θ) (v := .int x)) (fun ls2 hl2 => k ln D cst dA A p e Rm s m args below meth c bs θ0 T0 θ H locs cells slots ls2 (G.lo zl_t hl2 (zput_live G.2.2.2.2.2.2.1 trivial)))
theorem za_lstore_n {k0 : Fin 4} {i : Nat} {x : Int64} (hdg : decode M.2.2.1 pc = .ok (.lstore_n k0, 1)) (hi : (k0 : Nat) = i) (hn : i + 1 < M.2.2.2.1) (hl : zputL i (.long x) l = l') (hp : pc + 1 = pc') (k : zAW M d b pc' l' st T I L R P) : zAW M d b pc l (.long x :: st) T I L R P := by
  subst hp; subst hl
  intro ln D cst dA A p e Rm s m args below meth c bs θ0 T0 θ H locs cells slots ls G
  exact lv_lstore_n G.1.1 G.1.2.1 hdg hi G.2.2.2.2.2.1 hn (zlc_putL (cst := cst) (θ := θ) (v := .long x)) (fun ls2 hl2 => k ln D cst dA A p e Rm s m args below meth c bs θ0 T0 θ H locs cells slots ls2 (G.lo zl_t hl2 (zputL_live G.2.2.2.2.2.2.1 trivial)))
theorem za_lstore {i : Nat} {x : Int64} (hdg : decode M.2.2.1 pc = .ok (.lstore i, 2)) (hn : i + 1 < M.2.2.2.1) (hl : zputL i (.long x) l = l') (hp : pc + 2 = pc') (k : zAW M d b pc' l' st T I L R P) : zAW M d b pc l (.long x :: st) T I L R P := by
  subst hp; subst hl
  intro ln D cst dA A p e Rm s m args below meth c bs θ0 T0 θ H locs cells slots ls G
  exact lv_lstore G.1.1 G.1.2.1 hdg G.2.2.2.2.2.1 hn (zlc_putL (cst := cst) (θ := θ) (v := .long x)) (fun ls2 hl2 => k ln D cst dA A p e Rm s m args below meth c bs θ0 T0 θ H locs cells slots ls2 (G.lo zl_t hl2 (zputL_live G.2.2.2.2.2.2.1 trivial)))
theorem za_astore_n {k0 : Fin 4} {i κ : Nat} (hdg : decode M.2.2.1 pc = .ok (.astore_n k0, 1)) (hi : (k0 : Nat) = i) (hn : i < M.2.2.2.1) (hl : zput i (.ref κ) l = l') (hp : pc + 1 = pc') (k : zAW M d b pc' l' st T I L R P) : zAW M d b pc l (.ref κ :: st) T I L R P := by
  subst hp; subst hl
  intro ln D cst dA A p e Rm s m args below meth c bs θ0 T0 θ H locs cells slots ls G
  have hk := fun (ls2 : Array Slot) hl2 => k ln D cst dA A p e Rm s m args below meth c bs θ0 T0 θ H locs cells slots ls2 (G.lo zl_t hl2 (zput_live G.2.2.2.2.2.2.1 (zl_h G.2.2.2.2.2.2.2)))
  have e0 := zlc_put (cst := cst) (θ := θ) (l := l) (i := i) (v := .ref κ)
  rw [List.map_cons]
  have e : zc cst θ (.ref κ) = va_rf (zo cst θ κ) := rfl
  rw [e] at e0 ⊢
  cases hz : zo cst θ κ with
  | none => rw [hz] at e0; exact lv_astore_nN G.1.1 G.1.2.1 hdg hi G.2.2.2.2.2.1 hn e0 hk
  | some a => rw [hz] at e0; exact lv_astore_n G.1.1 G.1.2.1 hdg hi G.2.2.2.2.2.1 hn e0 hk
theorem za_astore {i κ : Nat} (hdg : decode M.2.2.1 pc = .ok (.astore i, 2)) (hn : i < M.2.2.2.1) (hl : zput i (.ref κ) l = l') (hp : pc + 2 = pc') (k : zAW M d b pc' l' st T I L R P) : zAW M d b pc l (.ref κ :: st) T I L R P := by
  subst hp; subst hl
  intro ln D cst dA A p e Rm s m args below meth c bs θ0 T0 θ H locs cells slots ls G
  have hk := fun (ls2 : Array Slot) hl2 => k ln D cst dA A p e Rm s m args below meth c bs θ0 T0 θ H locs cells slots ls2 (G.lo zl_t hl2 (zput_live G.2.2.2.2.2.2.1 (zl_h G.2.2.2.2.2.2.2)))
  have e0 := zlc_put (cst := cst) (θ := θ) (l := l) (i := i) (v := .ref κ)
  rw [List.map_cons]
  have e : zc cst θ (.ref κ) = va_rf (zo cst θ κ) := rfl
  rw [e] at e0 ⊢
  cases hz : zo cst θ κ with
  | none => rw [hz] at e0; exact lv_astoreN G.1.1 G.1.2.1 hdg G.2.2.2.2.2.1 hn e0 hk
  | some a => rw [hz] at e0; exact lv_astore G.1.1 G.1.2.1 hdg G.2.2.2.2.2.1 hn e0 hk
theorem za_iinc {i : Nat} {n : Int} {x v : Int32} (j : Nat) (hdg : decode M.2.2.1 pc = .ok (.iinc i n, 3)) (hj : l[j]? = some (i, .int x)) (hv : x + Int32.ofInt n = v) (hn : i < M.2.2.2.1) (hl : zput i (.int v) l = l') (hp : pc + 3 = pc') (k : zAW M d b pc' l' st T I L R P) : zAW M d b pc l st T I L R P := by
  subst hp; subst hl
  intro ln D cst dA A p e Rm s m args below meth c bs θ0 T0 θ H locs cells slots ls G
  exact lv_iinc G.1.1 G.1.2.1 hdg G.2.2.2.2.2.1 (k := j) (zlc_at hj) hv hn (zlc_put (cst := cst) (θ := θ) (v := .int v)) (fun ls2 hl2 => k ln D cst dA A p e Rm s m args below meth c bs θ0 T0 θ H locs cells slots ls2 (G.lo (fun h => h) hl2 (zput_live G.2.2.2.2.2.2.1 trivial)))
theorem za_iadd {x y : Int32} (hdg : decode M.2.2.1 pc = .ok (.iadd, 1))  (hp : pc + 1 = pc') (k : zAW M d b pc' l (.int (x + y) :: st) T I L R P) : zAW M d b pc l (.int y :: .int x :: st) T I L R P := by
  subst hp
  intro ln D cst dA A p e Rm s m args below meth c bs θ0 T0 θ H locs cells slots ls G
  exact lv_iadd G.1.1 G.1.2.1 hdg (k ln D cst dA A p e Rm s m args below meth c bs θ0 T0 θ H locs cells slots ls (G.stk fun h => zl_c trivial (zl_t (zl_t h))))
theorem za_isub {x y : Int32} (hdg : decode M.2.2.1 pc = .ok (.isub, 1))  (hp : pc + 1 = pc') (k : zAW M d b pc' l (.int (x - y) :: st) T I L R P) : zAW M d b pc l (.int y :: .int x :: st) T I L R P := by
  subst hp
  intro ln D cst dA A p e Rm s m args below meth c bs θ0 T0 θ H locs cells slots ls G
  exact lv_isub G.1.1 G.1.2.1 hdg (k ln D cst dA A p e Rm s m args below meth c bs θ0 T0 θ H locs cells slots ls (G.stk fun h => zl_c trivial (zl_t (zl_t h))))
theorem za_imul {x y : Int32} (hdg : decode M.2.2.1 pc = .ok (.imul, 1))  (hp : pc + 1 = pc') (k : zAW M d b pc' l (.int (x * y) :: st) T I L R P) : zAW M d b pc l (.int y :: .int x :: st) T I L R P := by
  subst hp
  intro ln D cst dA A p e Rm s m args below meth c bs θ0 T0 θ H locs cells slots ls G
  exact lv_imul G.1.1 G.1.2.1 hdg (k ln D cst dA A p e Rm s m args below meth c bs θ0 T0 θ H locs cells slots ls (G.stk fun h => zl_c trivial (zl_t (zl_t h))))
theorem za_iand {x y : Int32} (hdg : decode M.2.2.1 pc = .ok (.iand, 1))  (hp : pc + 1 = pc') (k : zAW M d b pc' l (.int (x &&& y) :: st) T I L R P) : zAW M d b pc l (.int y :: .int x :: st) T I L R P := by
  subst hp
  intro ln D cst dA A p e Rm s m args below meth c bs θ0 T0 θ H locs cells slots ls G
  exact lv_iand G.1.1 G.1.2.1 hdg (k ln D cst dA A p e Rm s m args below meth c bs θ0 T0 θ H locs cells slots ls (G.stk fun h => zl_c trivial (zl_t (zl_t h))))
theorem za_ior {x y : Int32} (hdg : decode M.2.2.1 pc = .ok (.ior, 1))  (hp : pc + 1 = pc') (k : zAW M d b pc' l (.int (x ||| y) :: st) T I L R P) : zAW M d b pc l (.int y :: .int x :: st) T I L R P := by
  subst hp
  intro ln D cst dA A p e Rm s m args below meth c bs θ0 T0 θ H locs cells slots ls G
  exact lv_ior G.1.1 G.1.2.1 hdg (k ln D cst dA A p e Rm s m args below meth c bs θ0 T0 θ H locs cells slots ls (G.stk fun h => zl_c trivial (zl_t (zl_t h))))
theorem za_ishl {x y : Int32} (hdg : decode M.2.2.1 pc = .ok (.ishl, 1))  (hp : pc + 1 = pc') (k : zAW M d b pc' l (.int (x <<< (y &&& 31)) :: st) T I L R P) : zAW M d b pc l (.int y :: .int x :: st) T I L R P := by
  subst hp
  intro ln D cst dA A p e Rm s m args below meth c bs θ0 T0 θ H locs cells slots ls G
  exact lv_ishl G.1.1 G.1.2.1 hdg (k ln D cst dA A p e Rm s m args below meth c bs θ0 T0 θ H locs cells slots ls (G.stk fun h => zl_c trivial (zl_t (zl_t h))))
theorem za_ishr {x y : Int32} (hdg : decode M.2.2.1 pc = .ok (.ishr, 1))  (hp : pc + 1 = pc') (k : zAW M d b pc' l (.int (x >>> (y &&& 31)) :: st) T I L R P) : zAW M d b pc l (.int y :: .int x :: st) T I L R P := by
  subst hp
  intro ln D cst dA A p e Rm s m args below meth c bs θ0 T0 θ H locs cells slots ls G
  exact lv_ishr G.1.1 G.1.2.1 hdg (k ln D cst dA A p e Rm s m args below meth c bs θ0 T0 θ H locs cells slots ls (G.stk fun h => zl_c trivial (zl_t (zl_t h))))
theorem za_iushr {x y v : Int32} (hdg : decode M.2.2.1 pc = .ok (.iushr, 1)) (hv : (x.toUInt32 >>> (y.toUInt32 &&& Int32.toUInt32 31)).toInt32 = v) (hp : pc + 1 = pc') (k : zAW M d b pc' l (.int v :: st) T I L R P) : zAW M d b pc l (.int y :: .int x :: st) T I L R P := by
  subst hp
  intro ln D cst dA A p e Rm s m args below meth c bs θ0 T0 θ H locs cells slots ls G
  exact lv_iushr G.1.1 G.1.2.1 hdg hv (k ln D cst dA A p e Rm s m args below meth c bs θ0 T0 θ H locs cells slots ls (G.stk fun h => zl_c trivial (zl_t (zl_t h))))
theorem za_idiv {x y : Int32} (hdg : decode M.2.2.1 pc = .ok (.idiv, 1)) (hne : ¬ y = 0) (hp : pc + 1 = pc') (k : zAW M d b pc' l (.int (x / y) :: st) T I L R P) : zAW M d b pc l (.int y :: .int x :: st) T I L R P := by
  subst hp
  intro ln D cst dA A p e Rm s m args below meth c bs θ0 T0 θ H locs cells slots ls G
  exact lv_idiv G.1.1 G.1.2.1 hdg hne (k ln D cst dA A p e Rm s m args below meth c bs θ0 T0 θ H locs cells slots ls (G.stk fun h => zl_c trivial (zl_t (zl_t h))))
theorem za_irem {x y : Int32} (hdg : decode M.2.2.1 pc = .ok (.irem, 1)) (hne : ¬ y = 0) (hp : pc + 1 = pc') (k : zAW M d b pc' l (.int (x - x / y * y) :: st) T I L R P) : zAW M d b pc l (.int y :: .int x :: st) T I L R P := by
  subst hp
  intro ln D cst dA A p e Rm s m args below meth c bs θ0 T0 θ H locs cells slots ls G
  exact lv_irem G.1.1 G.1.2.1 hdg hne (k ln D cst dA A p e Rm s m args below meth c bs θ0 T0 θ H locs cells slots ls (G.stk fun h => zl_c trivial (zl_t (zl_t h))))
theorem za_ineg {x : Int32} (hdg : decode M.2.2.1 pc = .ok (.ineg, 1))  (hp : pc + 1 = pc') (k : zAW M d b pc' l (.int (-x) :: st) T I L R P) : zAW M d b pc l (.int x :: st) T I L R P := by
  subst hp
  intro ln D cst dA A p e Rm s m args below meth c bs θ0 T0 θ H locs cells slots ls G
  exact lv_ineg G.1.1 G.1.2.1 hdg (k ln D cst dA A p e Rm s m args below meth c bs θ0 T0 θ H locs cells slots ls (G.stk fun h => zl_c trivial (zl_t h)))
theorem za_ladd {x y : Int64} (hdg : decode M.2.2.1 pc = .ok (.ladd, 1))  (hp : pc + 1 = pc') (k : zAW M d b pc' l (.long (x + y) :: st) T I L R P) : zAW M d b pc l (.long y :: .long x :: st) T I L R P := by
  subst hp
  intro ln D cst dA A p e Rm s m args below meth c bs θ0 T0 θ H locs cells slots ls G
  exact lv_ladd G.1.1 G.1.2.1 hdg (k ln D cst dA A p e Rm s m args below meth c bs θ0 T0 θ H locs cells slots ls (G.stk fun h => zl_c trivial (zl_t (zl_t h))))
theorem za_lsub {x y : Int64} (hdg : decode M.2.2.1 pc = .ok (.lsub, 1))  (hp : pc + 1 = pc') (k : zAW M d b pc' l (.long (x - y) :: st) T I L R P) : zAW M d b pc l (.long y :: .long x :: st) T I L R P := by
  subst hp
  intro ln D cst dA A p e Rm s m args below meth c bs θ0 T0 θ H locs cells slots ls G
  exact lv_lsub G.1.1 G.1.2.1 hdg (k ln D cst dA A p e Rm s m args below meth c bs θ0 T0 θ H locs cells slots ls (G.stk fun h => zl_c trivial (zl_t (zl_t h))))
theorem za_lmul {x y : Int64} (hdg : decode M.2.2.1 pc = .ok (.lmul, 1))  (hp : pc + 1 = pc') (k : zAW M d b pc' l (.long (x * y) :: st) T I L R P) : zAW M d b pc l (.long y :: .long x :: st) T I L R P := by
  subst hp
  intro ln D cst dA A p e Rm s m args below meth c bs θ0 T0 θ H locs cells slots ls G
  exact lv_lmul G.1.1 G.1.2.1 hdg (k ln D cst dA A p e Rm s m args below meth c bs θ0 T0 θ H locs cells slots ls (G.stk fun h => zl_c trivial (zl_t (zl_t h))))
theorem za_land {x y : Int64} (hdg : decode M.2.2.1 pc = .ok (.land, 1))  (hp : pc + 1 = pc') (k : zAW M d b pc' l (.long (x &&& y) :: st) T I L R P) : zAW M d b pc l (.long y :: .long x :: st) T I L R P := by
  subst hp
  intro ln D cst dA A p e Rm s m args below meth c bs θ0 T0 θ H locs cells slots ls G
  exact lv_land G.1.1 G.1.2.1 hdg (k ln D cst dA A p e Rm s m args below meth c bs θ0 T0 θ H locs cells slots ls (G.stk fun h => zl_c trivial (zl_t (zl_t h))))
theorem za_lor {x y : Int64} (hdg : decode M.2.2.1 pc = .ok (.lor, 1))  (hp : pc + 1 = pc') (k : zAW M d b pc' l (.long (x ||| y) :: st) T I L R P) : zAW M d b pc l (.long y :: .long x :: st) T I L R P := by
  subst hp
  intro ln D cst dA A p e Rm s m args below meth c bs θ0 T0 θ H locs cells slots ls G
  exact lv_lor G.1.1 G.1.2.1 hdg (k ln D cst dA A p e Rm s m args below meth c bs θ0 T0 θ H locs cells slots ls (G.stk fun h => zl_c trivial (zl_t (zl_t h))))
theorem za_ldiv {x y : Int64} (hdg : decode M.2.2.1 pc = .ok (.ldiv, 1)) (hne : ¬ y = 0) (hp : pc + 1 = pc') (k : zAW M d b pc' l (.long (x / y) :: st) T I L R P) : zAW M d b pc l (.long y :: .long x :: st) T I L R P := by
  subst hp
  intro ln D cst dA A p e Rm s m args below meth c bs θ0 T0 θ H locs cells slots ls G
  exact lv_ldiv G.1.1 G.1.2.1 hdg hne (k ln D cst dA A p e Rm s m args below meth c bs θ0 T0 θ H locs cells slots ls (G.stk fun h => zl_c trivial (zl_t (zl_t h))))
theorem za_lrem {x y : Int64} (hdg : decode M.2.2.1 pc = .ok (.lrem, 1)) (hne : ¬ y = 0) (hp : pc + 1 = pc') (k : zAW M d b pc' l (.long (x - x / y * y) :: st) T I L R P) : zAW M d b pc l (.long y :: .long x :: st) T I L R P := by
  subst hp
  intro ln D cst dA A p e Rm s m args below meth c bs θ0 T0 θ H locs cells slots ls G
  exact lv_lrem G.1.1 G.1.2.1 hdg hne (k ln D cst dA A p e Rm s m args below meth c bs θ0 T0 θ H locs cells slots ls (G.stk fun h => zl_c trivial (zl_t (zl_t h))))
theorem za_lneg {x : Int64} (hdg : decode M.2.2.1 pc = .ok (.lneg, 1))  (hp : pc + 1 = pc') (k : zAW M d b pc' l (.long (-x) :: st) T I L R P) : zAW M d b pc l (.long x :: st) T I L R P := by
  subst hp
  intro ln D cst dA A p e Rm s m args below meth c bs θ0 T0 θ H locs cells slots ls G
  exact lv_lneg G.1.1 G.1.2.1 hdg (k ln D cst dA A p e Rm s m args below meth c bs θ0 T0 θ H locs cells slots ls (G.stk fun h => zl_c trivial (zl_t h)))
theorem za_lshl {x v : Int64} {y : Int32} (hdg : decode M.2.2.1 pc = .ok (.lshl, 1)) (hv : x <<< (y.toInt64 &&& 63) = v) (hp : pc + 1 = pc') (k : zAW M d b pc' l (.long v :: st) T I L R P) : zAW M d b pc l (.int y :: .long x :: st) T I L R P := by
  subst hp
  intro ln D cst dA A p e Rm s m args below meth c bs θ0 T0 θ H locs cells slots ls G
  exact lv_lshl G.1.1 G.1.2.1 hdg hv (k ln D cst dA A p e Rm s m args below meth c bs θ0 T0 θ H locs cells slots ls (G.stk fun h => zl_c trivial (zl_t (zl_t h))))
theorem za_lshr {x v : Int64} {y : Int32} (hdg : decode M.2.2.1 pc = .ok (.lshr, 1)) (hv : x >>> (y.toInt64 &&& 63) = v) (hp : pc + 1 = pc') (k : zAW M d b pc' l (.long v :: st) T I L R P) : zAW M d b pc l (.int y :: .long x :: st) T I L R P := by
  subst hp
  intro ln D cst dA A p e Rm s m args below meth c bs θ0 T0 θ H locs cells slots ls G
  exact lv_lshr G.1.1 G.1.2.1 hdg hv (k ln D cst dA A p e Rm s m args below meth c bs θ0 T0 θ H locs cells slots ls (G.stk fun h => zl_c trivial (zl_t (zl_t h))))
theorem za_i2l {x : Int32} {v : Int64} (hdg : decode M.2.2.1 pc = .ok (.i2l, 1)) (hv : x.toInt64 = v) (hp : pc + 1 = pc') (k : zAW M d b pc' l (.long v :: st) T I L R P) : zAW M d b pc l (.int x :: st) T I L R P := by
  subst hp
  intro ln D cst dA A p e Rm s m args below meth c bs θ0 T0 θ H locs cells slots ls G
  exact lv_i2l G.1.1 G.1.2.1 hdg hv (k ln D cst dA A p e Rm s m args below meth c bs θ0 T0 θ H locs cells slots ls (G.stk fun h => zl_c trivial (zl_t h)))
theorem za_l2i {x : Int64} {v : Int32} (hdg : decode M.2.2.1 pc = .ok (.l2i, 1)) (hv : x.toInt32 = v) (hp : pc + 1 = pc') (k : zAW M d b pc' l (.int v :: st) T I L R P) : zAW M d b pc l (.long x :: st) T I L R P := by
  subst hp
  intro ln D cst dA A p e Rm s m args below meth c bs θ0 T0 θ H locs cells slots ls G
  exact lv_l2i G.1.1 G.1.2.1 hdg hv (k ln D cst dA A p e Rm s m args below meth c bs θ0 T0 θ H locs cells slots ls (G.stk fun h => zl_c trivial (zl_t h)))
theorem za_i2b {x v : Int32} (hdg : decode M.2.2.1 pc = .ok (.i2b, 1)) (hv : x.toInt8.toInt32 = v) (hp : pc + 1 = pc') (k : zAW M d b pc' l (.int v :: st) T I L R P) : zAW M d b pc l (.int x :: st) T I L R P := by
  subst hp
  intro ln D cst dA A p e Rm s m args below meth c bs θ0 T0 θ H locs cells slots ls G
  exact lv_i2b G.1.1 G.1.2.1 hdg hv (k ln D cst dA A p e Rm s m args below meth c bs θ0 T0 θ H locs cells slots ls (G.stk fun h => zl_c trivial (zl_t h)))
theorem za_i2c {x v : Int32} (hdg : decode M.2.2.1 pc = .ok (.i2c, 1)) (hv : (x.toUInt32 % 65536).toInt32 = v) (hp : pc + 1 = pc') (k : zAW M d b pc' l (.int v :: st) T I L R P) : zAW M d b pc l (.int x :: st) T I L R P := by
  subst hp
  intro ln D cst dA A p e Rm s m args below meth c bs θ0 T0 θ H locs cells slots ls G
  exact lv_i2c G.1.1 G.1.2.1 hdg hv (k ln D cst dA A p e Rm s m args below meth c bs θ0 T0 θ H locs cells slots ls (G.stk fun h => zl_c trivial (zl_t h)))
theorem za_lcmp {x y : Int64} (hdg : decode M.2.2.1 pc = .ok (.lcmp, 1))  (hp : pc + 1 = pc') (k : zAW M d b pc' l (.int (lg_cmp x y) :: st) T I L R P) : zAW M d b pc l (.long y :: .long x :: st) T I L R P := by
  subst hp
  intro ln D cst dA A p e Rm s m args below meth c bs θ0 T0 θ H locs cells slots ls G
  exact W.lcmp G.1.1 G.1.2.1 hdg (k ln D cst dA A p e Rm s m args below meth c bs θ0 T0 θ H locs cells slots ls (G.stk fun h => zl_c trivial (zl_t (zl_t h))))
theorem za_pop {v : Value} (hdg : decode M.2.2.1 pc = .ok (.pop, 1)) (hc : v.category = 1) (hp : pc + 1 = pc') (k : zAW M d b pc' l (st) T I L R P) : zAW M d b pc l (v :: st) T I L R P := by
  subst hp
  intro ln D cst dA A p e Rm s m args below meth c bs θ0 T0 θ H locs cells slots ls G
  exact lv_pop G.1.1 G.1.2.1 hdg (by rw [zc_cat]; exact hc) (k ln D cst dA A p e Rm s m args below meth c bs θ0 T0 θ H locs cells slots ls (G.stk fun h => zl_t h))
theorem za_dup {v : Value} (hdg : decode M.2.2.1 pc = .ok (.dup, 1)) (hc : v.category = 1) (hp : pc + 1 = pc') (k : zAW M d b pc' l (v :: v :: st) T I L R P) : zAW M d b pc l (v :: st) T I L R P := by
  subst hp
  intro ln D cst dA A p e Rm s m args below meth c bs θ0 T0 θ H locs cells slots ls G
  exact lv_dup G.1.1 G.1.2.1 hdg (by rw [zc_cat]; exact hc) (k ln D cst dA A p e Rm s m args below meth c bs θ0 T0 θ H locs cells slots ls (G.stk fun h => zl_c (zl_h h) h))
theorem za_dup_x1 {v v2 : Value} (hdg : decode M.2.2.1 pc = .ok (.dup_x1, 1)) (hc : v.category = 1) (hc2 : v2.category = 1) (hp : pc + 1 = pc') (k : zAW M d b pc' l (v :: v2 :: v :: st) T I L R P) : zAW M d b pc l (v :: v2 :: st) T I L R P := by
  subst hp
  intro ln D cst dA A p e Rm s m args below meth c bs θ0 T0 θ H locs cells slots ls G
  exact lv_dup_x1 G.1.1 G.1.2.1 hdg (by rw [zc_cat]; exact hc) (by rw [zc_cat]; exact hc2) (k ln D cst dA A p e Rm s m args below meth c bs θ0 T0 θ H locs cells slots ls (G.stk fun h => zl_c (zl_h h) (zl_c (zl_h (zl_t h)) (zl_c (zl_h h) (zl_t (zl_t h))))))
theorem za_dup2 {v v2 : Value} (hdg : decode M.2.2.1 pc = .ok (.dup2, 1)) (hc : v.category = 1) (hc2 : v2.category = 1) (hp : pc + 1 = pc') (k : zAW M d b pc' l (v :: v2 :: v :: v2 :: st) T I L R P) : zAW M d b pc l (v :: v2 :: st) T I L R P := by
  subst hp
  intro ln D cst dA A p e Rm s m args below meth c bs θ0 T0 θ H locs cells slots ls G
  exact lv_dup2_11 G.1.1 G.1.2.1 hdg (by rw [zc_cat]; exact hc) (by rw [zc_cat]; exact hc2) (k ln D cst dA A p e Rm s m args below meth c bs θ0 T0 θ H locs cells slots ls (G.stk fun h => zl_c (zl_h h) (zl_c (zl_h (zl_t h)) h)))
theorem za_dup2L {x : Int64} (hdg : decode M.2.2.1 pc = .ok (.dup2, 1))  (hp : pc + 1 = pc') (k : zAW M d b pc' l (.long x :: .long x :: st) T I L R P) : zAW M d b pc l (.long x :: st) T I L R P := by
  subst hp
  intro ln D cst dA A p e Rm s m args below meth c bs θ0 T0 θ H locs cells slots ls G
  exact lv_dup2_2 G.1.1 G.1.2.1 hdg rfl (k ln D cst dA A p e Rm s m args below meth c bs θ0 T0 θ H locs cells slots ls (G.stk fun h => zl_c trivial h))
theorem za_ldc {own : String} {index : Nat} {v : Int32} (hdg : decode M.2.2.1 pc = .ok (.ldc index, 2)) (hq : Cond.constant M.1 index v ∈ lw_all) (hp : pc + 2 = pc') (k : zAW M d b pc' l (.int v :: st) T I L R P) : zAW M d b pc l (st) T I L R P := by
  subst hp
  intro ln D cst dA A p e Rm s m args below meth c bs θ0 T0 θ H locs cells slots ls G
  exact lv_ldc G.1.1 G.1.2.1 G.1.2.2.2.2.1 (G.1.2.2.2.2.2.1 _ hq) hdg (k ln D cst dA A p e Rm s m args below meth c bs θ0 T0 θ H locs cells slots ls (G.stk fun h => zl_c trivial h))
theorem za_ldc_w {own : String} {index : Nat} {v : Int32} (hdg : decode M.2.2.1 pc = .ok (.ldc_w index, 3)) (hq : Cond.constant M.1 index v ∈ lw_all) (hp : pc + 3 = pc') (k : zAW M d b pc' l (.int v :: st) T I L R P) : zAW M d b pc l (st) T I L R P := by
  subst hp
  intro ln D cst dA A p e Rm s m args below meth c bs θ0 T0 θ H locs cells slots ls G
  exact lv_ldcw G.1.1 G.1.2.1 G.1.2.2.2.2.1 (G.1.2.2.2.2.2.1 _ hq) hdg (k ln D cst dA A p e Rm s m args below meth c bs θ0 T0 θ H locs cells slots ls (G.stk fun h => zl_c trivial h))
theorem za_ldc2 {own : String} {index : Nat} {v : Int64} (hdg : decode M.2.2.1 pc = .ok (.ldc2_w index, 3)) (hq : Cond.constantLong M.1 index v ∈ lw_all) (hp : pc + 3 = pc') (k : zAW M d b pc' l (.long v :: st) T I L R P) : zAW M d b pc l (st) T I L R P := by
  subst hp
  intro ln D cst dA A p e Rm s m args below meth c bs θ0 T0 θ H locs cells slots ls G
  exact lv_ldc2 G.1.1 G.1.2.1 G.1.2.2.2.2.1 (G.1.2.2.2.2.2.1 _ hq) hdg (k ln D cst dA A p e Rm s m args below meth c bs θ0 T0 θ H locs cells slots ls (G.stk fun h => zl_c trivial h))
theorem za_null (hdg : decode M.2.2.1 pc = .ok (.aconst_null, 1)) (hp : pc + 1 = pc') (k : zAW M d b pc' l (.ref 0 :: st) T I L R P) : zAW M d b pc l st T I L R P := by
  subst hp
  intro ln D cst dA A p e Rm s m args below meth c bs θ0 T0 θ H locs cells slots ls G
  have hk := k ln D cst dA A p e Rm s m args below meth c bs θ0 T0 θ H locs cells slots ls (G.stk fun h => zl_c (Or.inl (by decide)) h)
  have e : zc cst θ (.ref 0) = .null := by show va_rf (if (0 : Nat) < 100 then cst 0 else some (θ 0)) = _; rw [if_pos (by decide), G.1.2.2.2.2.2.2.2.2.2.1.2.1]; rfl
  rw [List.map_cons, e] at hk
  exact lv_null G.1.1 G.1.2.1 hdg hk
theorem za_if_eq {x : Int32} {off : Int} {tgt : Nat} (hdg : decode M.2.2.1 pc = .ok (.ifCond .eq off, 3)) (ht : (pc : Int) + off = (tgt : Int)) (hp : pc + 3 = pc') (kt : x = 0 → zAW M d b tgt l st T I L R P) (kf : ¬ x = 0 → zAW M d b pc' l st T I L R P) : zAW M d b pc l (.int x :: st) T I L R P := by
  subst hp
  intro ln D cst dA A p e Rm s m args below meth c bs θ0 T0 θ H locs cells slots ls G
  exact lv_if_eq G.1.1 G.1.2.1 hdg ht (fun h9 => kt h9 ln D cst dA A p e Rm s m args below meth c bs θ0 T0 θ H locs cells slots ls (G.stk fun h => zl_t h)) (fun h9 => kf h9 ln D cst dA A p e Rm s m args below meth c bs θ0 T0 θ H locs cells slots ls (G.stk fun h => zl_t h))
theorem za_icmp_eq {x y : Int32} {off : Int} {tgt : Nat} (hdg : decode M.2.2.1 pc = .ok (.if_icmp .eq off, 3)) (ht : (pc : Int) + off = (tgt : Int)) (hp : pc + 3 = pc') (kt : x = y → zAW M d b tgt l st T I L R P) (kf : ¬ x = y → zAW M d b pc' l st T I L R P) : zAW M d b pc l (.int y :: .int x :: st) T I L R P := by
  subst hp
  intro ln D cst dA A p e Rm s m args below meth c bs θ0 T0 θ H locs cells slots ls G
  exact lv_icmp_eq G.1.1 G.1.2.1 hdg ht (fun h9 => kt h9 ln D cst dA A p e Rm s m args below meth c bs θ0 T0 θ H locs cells slots ls (G.stk fun h => zl_t (zl_t h))) (fun h9 => kf h9 ln D cst dA A p e Rm s m args below meth c bs θ0 T0 θ H locs cells slots ls (G.stk fun h => zl_t (zl_t h)))
theorem za_if_ne {x : Int32} {off : Int} {tgt : Nat} (hdg : decode M.2.2.1 pc = .ok (.ifCond .ne off, 3)) (ht : (pc : Int) + off = (tgt : Int)) (hp : pc + 3 = pc') (kt : ¬ x = 0 → zAW M d b tgt l st T I L R P) (kf : x = 0 → zAW M d b pc' l st T I L R P) : zAW M d b pc l (.int x :: st) T I L R P := by
  subst hp
  intro ln D cst dA A p e Rm s m args below meth c bs θ0 T0 θ H locs cells slots ls G
  exact lv_if_ne G.1.1 G.1.2.1 hdg ht (fun h9 => kt (fun h8 => h9 h8) ln D cst dA A p e Rm s m args below meth c bs θ0 T0 θ H locs cells slots ls (G.stk fun h => zl_t h)) (fun h9 => kf (by first | exact h9 | exact Decidable.not_not.mp h9) ln D cst dA A p e Rm s m args below meth c bs θ0 T0 θ H locs cells slots ls (G.stk fun h => zl_t h))
theorem za_icmp_ne {x y : Int32} {off : Int} {tgt : Nat} (hdg : decode M.2.2.1 pc = .ok (.if_icmp .ne off, 3)) (ht : (pc : Int) + off = (tgt : Int)) (hp : pc + 3 = pc') (kt : ¬ x = y → zAW M d b tgt l st T I L R P) (kf : x = y → zAW M d b pc' l st T I L R P) : zAW M d b pc l (.int y :: .int x :: st) T I L R P := by
  subst hp
  intro ln D cst dA A p e Rm s m args below meth c bs θ0 T0 θ H locs cells slots ls G
  exact lv_icmp_ne G.1.1 G.1.2.1 hdg ht (fun h9 => kt (fun h8 => h9 h8) ln D cst dA A p e Rm s m args below meth c bs θ0 T0 θ H locs cells slots ls (G.stk fun h => zl_t (zl_t h))) (fun h9 => kf (by first | exact h9 | exact Decidable.not_not.mp h9) ln D cst dA A p e Rm s m args below meth c bs θ0 T0 θ H locs cells slots ls (G.stk fun h => zl_t (zl_t h)))
theorem za_if_lt {x : Int32} {off : Int} {tgt : Nat} (hdg : decode M.2.2.1 pc = .ok (.ifCond .lt off, 3)) (ht : (pc : Int) + off = (tgt : Int)) (hp : pc + 3 = pc') (kt : x < 0 → zAW M d b tgt l st T I L R P) (kf : ¬ x < 0 → zAW M d b pc' l st T I L R P) : zAW M d b pc l (.int x :: st) T I L R P := by
  subst hp
  intro ln D cst dA A p e Rm s m args below meth c bs θ0 T0 θ H locs cells slots ls G
  exact lv_if_lt G.1.1 G.1.2.1 hdg ht (fun h9 => kt h9 ln D cst dA A p e Rm s m args below meth c bs θ0 T0 θ H locs cells slots ls (G.stk fun h => zl_t h)) (fun h9 => kf h9 ln D cst dA A p e Rm s m args below meth c bs θ0 T0 θ H locs cells slots ls (G.stk fun h => zl_t h))
theorem za_icmp_lt {x y : Int32} {off : Int} {tgt : Nat} (hdg : decode M.2.2.1 pc = .ok (.if_icmp .lt off, 3)) (ht : (pc : Int) + off = (tgt : Int)) (hp : pc + 3 = pc') (kt : x < y → zAW M d b tgt l st T I L R P) (kf : ¬ x < y → zAW M d b pc' l st T I L R P) : zAW M d b pc l (.int y :: .int x :: st) T I L R P := by
  subst hp
  intro ln D cst dA A p e Rm s m args below meth c bs θ0 T0 θ H locs cells slots ls G
  exact lv_icmp_lt G.1.1 G.1.2.1 hdg ht (fun h9 => kt h9 ln D cst dA A p e Rm s m args below meth c bs θ0 T0 θ H locs cells slots ls (G.stk fun h => zl_t (zl_t h))) (fun h9 => kf h9 ln D cst dA A p e Rm s m args below meth c bs θ0 T0 θ H locs cells slots ls (G.stk fun h => zl_t (zl_t h)))
theorem za_if_ge {x : Int32} {off : Int} {tgt : Nat} (hdg : decode M.2.2.1 pc = .ok (.ifCond .ge off, 3)) (ht : (pc : Int) + off = (tgt : Int)) (hp : pc + 3 = pc') (kt : 0 ≤ x → zAW M d b tgt l st T I L R P) (kf : ¬ 0 ≤ x → zAW M d b pc' l st T I L R P) : zAW M d b pc l (.int x :: st) T I L R P := by
  subst hp
  intro ln D cst dA A p e Rm s m args below meth c bs θ0 T0 θ H locs cells slots ls G
  exact lv_if_ge G.1.1 G.1.2.1 hdg ht (fun h9 => kt h9 ln D cst dA A p e Rm s m args below meth c bs θ0 T0 θ H locs cells slots ls (G.stk fun h => zl_t h)) (fun h9 => kf h9 ln D cst dA A p e Rm s m args below meth c bs θ0 T0 θ H locs cells slots ls (G.stk fun h => zl_t h))
theorem za_icmp_ge {x y : Int32} {off : Int} {tgt : Nat} (hdg : decode M.2.2.1 pc = .ok (.if_icmp .ge off, 3)) (ht : (pc : Int) + off = (tgt : Int)) (hp : pc + 3 = pc') (kt : y ≤ x → zAW M d b tgt l st T I L R P) (kf : ¬ y ≤ x → zAW M d b pc' l st T I L R P) : zAW M d b pc l (.int y :: .int x :: st) T I L R P := by
  subst hp
  intro ln D cst dA A p e Rm s m args below meth c bs θ0 T0 θ H locs cells slots ls G
  exact lv_icmp_ge G.1.1 G.1.2.1 hdg ht (fun h9 => kt h9 ln D cst dA A p e Rm s m args below meth c bs θ0 T0 θ H locs cells slots ls (G.stk fun h => zl_t (zl_t h))) (fun h9 => kf h9 ln D cst dA A p e Rm s m args below meth c bs θ0 T0 θ H locs cells slots ls (G.stk fun h => zl_t (zl_t h)))
theorem za_if_gt {x : Int32} {off : Int} {tgt : Nat} (hdg : decode M.2.2.1 pc = .ok (.ifCond .gt off, 3)) (ht : (pc : Int) + off = (tgt : Int)) (hp : pc + 3 = pc') (kt : 0 < x → zAW M d b tgt l st T I L R P) (kf : ¬ 0 < x → zAW M d b pc' l st T I L R P) : zAW M d b pc l (.int x :: st) T I L R P := by
  subst hp
  intro ln D cst dA A p e Rm s m args below meth c bs θ0 T0 θ H locs cells slots ls G
  exact lv_if_gt G.1.1 G.1.2.1 hdg ht (fun h9 => kt h9 ln D cst dA A p e Rm s m args below meth c bs θ0 T0 θ H locs cells slots ls (G.stk fun h => zl_t h)) (fun h9 => kf h9 ln D cst dA A p e Rm s m args below meth c bs θ0 T0 θ H locs cells slots ls (G.stk fun h => zl_t h))
theorem za_icmp_gt {x y : Int32} {off : Int} {tgt : Nat} (hdg : decode M.2.2.1 pc = .ok (.if_icmp .gt off, 3)) (ht : (pc : Int) + off = (tgt : Int)) (hp : pc + 3 = pc') (kt : y < x → zAW M d b tgt l st T I L R P) (kf : ¬ y < x → zAW M d b pc' l st T I L R P) : zAW M d b pc l (.int y :: .int x :: st) T I L R P := by
  subst hp
  intro ln D cst dA A p e Rm s m args below meth c bs θ0 T0 θ H locs cells slots ls G
  exact lv_icmp_gt G.1.1 G.1.2.1 hdg ht (fun h9 => kt h9 ln D cst dA A p e Rm s m args below meth c bs θ0 T0 θ H locs cells slots ls (G.stk fun h => zl_t (zl_t h))) (fun h9 => kf h9 ln D cst dA A p e Rm s m args below meth c bs θ0 T0 θ H locs cells slots ls (G.stk fun h => zl_t (zl_t h)))
theorem za_if_le {x : Int32} {off : Int} {tgt : Nat} (hdg : decode M.2.2.1 pc = .ok (.ifCond .le off, 3)) (ht : (pc : Int) + off = (tgt : Int)) (hp : pc + 3 = pc') (kt : x ≤ 0 → zAW M d b tgt l st T I L R P) (kf : ¬ x ≤ 0 → zAW M d b pc' l st T I L R P) : zAW M d b pc l (.int x :: st) T I L R P := by
  subst hp
  intro ln D cst dA A p e Rm s m args below meth c bs θ0 T0 θ H locs cells slots ls G
  exact lv_if_le G.1.1 G.1.2.1 hdg ht (fun h9 => kt h9 ln D cst dA A p e Rm s m args below meth c bs θ0 T0 θ H locs cells slots ls (G.stk fun h => zl_t h)) (fun h9 => kf h9 ln D cst dA A p e Rm s m args below meth c bs θ0 T0 θ H locs cells slots ls (G.stk fun h => zl_t h))
theorem za_icmp_le {x y : Int32} {off : Int} {tgt : Nat} (hdg : decode M.2.2.1 pc = .ok (.if_icmp .le off, 3)) (ht : (pc : Int) + off = (tgt : Int)) (hp : pc + 3 = pc') (kt : x ≤ y → zAW M d b tgt l st T I L R P) (kf : ¬ x ≤ y → zAW M d b pc' l st T I L R P) : zAW M d b pc l (.int y :: .int x :: st) T I L R P := by
  subst hp
  intro ln D cst dA A p e Rm s m args below meth c bs θ0 T0 θ H locs cells slots ls G
  exact lv_icmp_le G.1.1 G.1.2.1 hdg ht (fun h9 => kt h9 ln D cst dA A p e Rm s m args below meth c bs θ0 T0 θ H locs cells slots ls (G.stk fun h => zl_t (zl_t h))) (fun h9 => kf h9 ln D cst dA A p e Rm s m args below meth c bs θ0 T0 θ H locs cells slots ls (G.stk fun h => zl_t (zl_t h)))
theorem za_goto {off : Int} {tgt : Nat} (hdg : decode M.2.2.1 pc = .ok (.goto off, 3)) (ht : (pc : Int) + off = (tgt : Int)) (k : zAW M d b tgt l st T I L R P) : zAW M d b pc l st T I L R P := by
  intro ln D cst dA A p e Rm s m args below meth c bs θ0 T0 θ H locs cells slots ls G
  exact lv_goto G.1.1 G.1.2.1 hdg ht (k ln D cst dA A p e Rm s m args below meth c bs θ0 T0 θ H locs cells slots ls G)
theorem za_tableIn {dflt lo hi : Int} {offs : Array Int} {len : Nat} {x : Int32} {off : Int} {tgt : Nat} (hdg : decode M.2.2.1 pc = .ok (.tableswitch dflt lo hi offs, len)) (h1 : ¬ x.toInt < lo) (h2 : ¬ hi < x.toInt) (ho : offs[(x.toInt - lo).toNat]? = some off) (ht : (pc : Int) + off = (tgt : Int)) (k : zAW M d b tgt l st T I L R P) : zAW M d b pc l (.int x :: st) T I L R P := by
  intro ln D cst dA A p e Rm s m args below meth c bs θ0 T0 θ H locs cells slots ls G
  exact lv_tableIn G.1.1 G.1.2.1 hdg h1 h2 ho ht (k ln D cst dA A p e Rm s m args below meth c bs θ0 T0 θ H locs cells slots ls (G.stk fun h => zl_t h))
theorem za_tableOut {dflt lo hi : Int} {offs : Array Int} {len : Nat} {x : Int32} {tgt : Nat} (hdg : decode M.2.2.1 pc = .ok (.tableswitch dflt lo hi offs, len)) (h1 : x.toInt < lo ∨ hi < x.toInt) (ht : (pc : Int) + dflt = (tgt : Int)) (k : zAW M d b tgt l st T I L R P) : zAW M d b pc l (.int x :: st) T I L R P := by
  intro ln D cst dA A p e Rm s m args below meth c bs θ0 T0 θ H locs cells slots ls G
  exact lv_tableOut G.1.1 G.1.2.1 hdg h1 ht (k ln D cst dA A p e Rm s m args below meth c bs θ0 T0 θ H locs cells slots ls (G.stk fun h => zl_t h))
theorem za_lookup {dflt : Int} {ps : Array (Int × Int)} {len : Nat} {x : Int32} {off : Int} {tgt : Nat} (hdg : decode M.2.2.1 pc = .ok (.lookupswitch dflt ps, len)) (h1 : (ps.toList.zip (ps.toList.drop 1)).all (fun (a, next) => a.1 < next.1) = true) (ho : Op.lookupswitch.offset ps.toList dflt x.toInt = off) (ht : (pc : Int) + off = (tgt : Int)) (k : zAW M d b tgt l st T I L R P) : zAW M d b pc l (.int x :: st) T I L R P := by
  intro ln D cst dA A p e Rm s m args below meth c bs θ0 T0 θ H locs cells slots ls G
  exact lv_lookup G.1.1 G.1.2.1 hdg h1 ho ht (k ln D cst dA A p e Rm s m args below meth c bs θ0 T0 θ H locs cells slots ls (G.stk fun h => zl_t h))
theorem zAW_sub (ks : List Nat) (hs : lv_pick l ks = l') (k : zAW M d b pc l' st T I L R P) : zAW M d b pc l st T I L R P := by
  subst hs
  intro ln D cst dA A p e Rm s m args below meth c bs θ0 T0 θ H locs cells slots ls G
  refine k ln D cst dA A p e Rm s m args below meth c bs θ0 T0 θ H locs cells slots ls (G.lo (fun h => h) (lv_sub G.2.2.2.2.2.1 ks ?_) (fun q hq => ?_))
  · unfold lv_pick zlc; rw [List.map_filterMap]; congr 1; funext i; rw [List.getElem?_map]
  · obtain ⟨i, -, hi⟩ := List.mem_filterMap.mp hq; exact G.2.2.2.2.2.2.1 q (List.mem_of_getElem? hi)
theorem zAW_mono {Q : zP} (h : ∀ o v T I L R, P o v T I L R → Q o v T I L R) (k : zAW M d b pc l st T I L R P) : zAW M d b pc l st T I L R Q := by
  intro ln D cst dA A p e Rm s m args below meth c bs θ0 T0 θ H locs cells slots ls G
  intro Tm hT X
  obtain ⟨t, a1, o, b1, b2, b3⟩ := k ln D cst dA A p e Rm s m args below meth c bs θ0 T0 θ H locs cells slots ls G Tm hT X
  refine ⟨t, a1, o, b1, b2, ?_⟩
  rcases b3 with ⟨⟨⟨v, T2, I2, L2, R2, θ2, h1, h2⟩, h3⟩, h4⟩ | ⟨q, hq, E, ce, Ls, ⟨⟨o2, v, T2, I2, L2, R2, θ2, h0, h1, h2⟩, h3⟩, h4⟩
  · exact Or.inl ⟨⟨⟨v, T2, I2, L2, R2, θ2, h _ _ _ _ _ _ h1, h2⟩, h3⟩, h4⟩
  · exact Or.inr ⟨q, hq, E, ce, Ls, ⟨⟨o2, v, T2, I2, L2, R2, θ2, h0, h _ _ _ _ _ _ h1, h2⟩, h3⟩, h4⟩
end ZROWS
