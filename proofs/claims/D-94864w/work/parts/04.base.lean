/-! TYPED MEMORY of an abstract machine over the kit's rows: T the tag and length of each key (0: free; c + 1: an object of zcl's class c; 100 + t: an array of ztyA's type t), I ints, L longs, R references (keys; 0 is null; keys below 100 are constants of the start) -/
abbrev zT : Type := Nat → Nat × Nat
abbrev zI : Type := Nat → Nat → Int32
abbrev zL : Type := Nat → Nat → Int64
abbrev zR : Type := Nat → Nat → Nat
abbrev zP : Type := Nat → Value → zT → zI → zL → zR → Prop
def z1 {α : Type} (f : Nat → α) (k : Nat) (v : α) : Nat → α := fun j => if j = k then v else f j
def z2 {α : Type} (f : Nat → Nat → α) (a k : Nat) (v : α) : Nat → Nat → α := z1 f a (z1 (f a) k v)
theorem z1_s {α : Type} {f : Nat → α} {k : Nat} {v : α} : z1 f k v k = v := if_pos rfl
theorem z1_n {α : Type} {f : Nat → α} {k j : Nat} {v : α} (h : j ≠ k) : z1 f k v j = f j := if_neg h
theorem z2_r {α : Type} {f : Nat → Nat → α} {a k : Nat} {v : α} : z2 f a k v a = z1 (f a) k v := if_pos rfl
theorem z2_ro {α : Type} {f : Nat → Nat → α} {a b k : Nat} {v : α} (h : b ≠ a) : z2 f a k v b = f b := if_neg h
theorem z2_s {α : Type} {f : Nat → Nat → α} {a k : Nat} {v : α} : z2 f a k v a k = v := by rw [z2_r, z1_s]
theorem z2_na {α : Type} {f : Nat → Nat → α} {a b k j : Nat} {v : α} (h : b ≠ a) : z2 f a k v b j = f b j := by rw [z2_ro h]
theorem z2_nk {α : Type} {f : Nat → Nat → α} {a b k j : Nat} {v : α} (h : j ≠ k) : z2 f a k v b j = f b j := by
  by_cases e : b = a
  · subst e
    rw [z2_r, z1_n h]
  · rw [z2_ro e]
/-- an address by its key -/
def zo (cst : Nat → Option Nat) (θ : Nat → Nat) (κ : Nat) : Option Nat := if κ < 100 then cst κ else some (θ κ)
def zc (cst : Nat → Option Nat) (θ : Nat → Nat) : Value → Value
  | .ref κ => va_rf (zo cst θ κ)
  | v => v
def zlive (T : zT) (κ : Nat) : Prop := κ < 100 ∨ (T κ).1 ≠ 0
def zlv (T : zT) : Value → Prop
  | .ref κ => zlive T κ
  | _ => True
def zfv (ty : FieldType) (i : Int32) (l : Int64) (r : Value) : Value := match ty with
  | .long => .long l
  | .object _ => r
  | .array _ => r
  | _ => .int i
def zt0 : u_T := fun _ => ("", "", "", false)
def zcl : List vw_C := [(RX1, TX1, 28), (RX2, TX2, 9), (RX3, TX3, 18), (RX4, TX4, 3), (RJ2, TJ2, 3), (RX6, zt0, 0), (RX7, zt0, 0), (RX8, zt0, 0), (RX9, zt0, 0), (RX10, TX10, 5), (RX11, TX11, 2), (RX12, TX12, 3), (RX13, TX13, 89), (RX14, TX14, 8), (RX15, TX15, 3), (RX17, TX17, 1), (RX18, TX18, 1), (RX19, TX19, 1), (RX20, TX20, 3), (RJ15, zt0, 0), (RJ17, zt0, 0)]
def zty : Nat → Nat → FieldType := fun ci => match ci with
  | 0 => tyX1 | 1 => tyX2 | 2 => tyX3 | 3 => tyX4 | 4 => tyJ2 | 9 => tyX10 | 10 => tyX11 | 11 => tyX12 | 12 => tyX13 | 13 => tyX14 | 14 => tyX15 | 15 => tyX17 | 16 => tyX18 | 17 => tyX19 | 18 => tyX20
  | _ => fun _ => .int
def ztys (dA : Nat → ClassId) : List (ClassId × FieldType) := [(dA 0, .int), (dA 1, .long), (dA 2, .boolean), (dA 3, .byte), (dA 4, .object RX4), (dA 5, .object RX11), (dA 6, .object RX10), (dA 7, .object RX12), (dA 8, .object RX5), (dA 9, .object "java/lang/Object")]
def zN (ci : Nat) : Nat := match zcl[ci]? with
  | some q => q.2.2
  | none => 0
def zfs (cst : Nat → Option Nat) (θ : Nat → Nat) (I : zI) (L : zL) (R : zR) (ci κ : Nat) : List Value := (List.range (zN ci)).map fun k => zfv (zty ci k) (I κ k) (L κ k) (zc cst θ (.ref (R κ k)))
def zct (cst : Nat → Option Nat) (θ : Nat → Nat) (I : zI) (L : zL) (R : zR) (t κ : Nat) : (Nat → Int32) ⊕ (Nat → Int64) ⊕ (Nat → UInt32) ⊕ (Nat → UInt64) ⊕ (Nat → Option Nat) :=
  if t = 1 then .inr (.inl (L κ)) else if t < 4 then .inl (I κ) else .inr (.inr (.inr (.inr fun i => zo cst θ (R κ i))))
def zcell (cst : Nat → Option Nat) (dA : Nat → ClassId) (θ : Nat → Nat) (T : zT) (I : zI) (L : zL) (R : zR) (κ : Nat) : va_E :=
  if (T κ).1 < 100 then .inr ((T κ).1 - 1, zfs cst θ I L R ((T κ).1 - 1) κ) else .inl (dA ((T κ).1 - 100), (T κ).2, zct cst θ I L R ((T κ).1 - 100) κ)
abbrev zW (cst : Nat → Option Nat) (dA : Nat → ClassId) (θ : Nat → Nat) (T : zT) (I : zI) (L : zL) (R : zR) (K : List Nat) : va_W := K.map fun κ => (θ κ, zcell cst dA θ T I L R κ)
def zND (K : List Nat) : Prop := ∀ (i j a : Nat), K[i]? = some a → K[j]? = some a → i = j
/-- the heap holds the typed memory: the keys K that are taken -/
def zRepK (D : va_G) (cst : Nat → Option Nat) (dA : Nat → ClassId) (A : Nat → Prop) (θ : Nat → Nat) (T : zT) (I : zI) (L : zL) (R : zR) (K : List Nat) (H : Heap) : Prop :=
  zND K ∧ (∀ κ, κ ∈ K ↔ (T κ).1 ≠ 0) ∧ (∀ κ, κ < 100 → (T κ).1 = 0) ∧ (∀ κ k, (T κ).1 ≠ 0 → zlive T (R κ k)) ∧ va_P D zcl (zW cst dA θ T I L R K) H ∧ va_D A (zW cst dA θ T I L R K)
def zRep (D : va_G) (cst : Nat → Option Nat) (dA : Nat → ClassId) (A : Nat → Prop) (θ : Nat → Nat) (T : zT) (I : zI) (L : zL) (R : zR) (H : Heap) : Prop := ∃ K, zRepK D cst dA A θ T I L R K H
/-! the start's constants: 2 TROUBLE, 3 UNASSIGNED_STACK, 4 SUPPRESSED_SENTINEL, 5 NAMES, 6 SIOOBE_FORMATTER, 1 the script, 10 .. 34 the Strings, 50 .. 74 their bytes -/
def zlen : List Nat := [4, 4, 4, 6, 5, 5, 3, 5, 4, 3, 5, 6, 5, 5, 4, 2, 3, 3, 7, 4, 5, 6, 4, 3, 10]
def zbyt : List (List Int32) := [[101, 97, 115, 116], [119, 101, 115, 116], [115, 105, 103, 110], [99, 111, 114, 110, 101, 114], [119, 101, 105, 103, 104], [102, 101, 97, 115, 116], [109, 97, 121], [112, 117, 114, 115, 101], [115, 101, 101, 100], [108, 97, 119], [112, 108, 97, 105, 110], [109, 105, 114, 114, 111, 114], [114, 111, 121, 97, 108], [98, 108, 105, 110, 100], [102, 105, 110, 101], [111, 114], [97, 110, 100], [110, 111, 116], [108, 101, 116, 116, 101, 114, 115], [105, 114, 111, 110], [102, 105, 114, 115, 116], [115, 101, 99, 111, 110, 100], [108, 111, 115, 116], [100, 97, 121], [59, 40, 41, 43, 45, 42, 47, 60, 61, 62]]
def zOt (C : String) (t : Nat) (A : Nat → Prop) (U : State) (H : Heap) : Prop := ∃ cell : Cell, H[t]? = some cell ∧ cell.vm = .none ∧ U.vm.findClass C = some cell.cls ∧ ¬ A t
def zCon (cst : Nat → Option Nat) (A : Nat → Prop) (U : State) (H : Heap) : Prop :=
  (∃ adK adV : Nat → Nat, (∀ i, i < 25 → cst (10 + i) = some (adK i) ∧ cst (50 + i) = some (adV i)) ∧ vk_S 25 zlen zbyt adK adV A U H ∧ vk_R RX2 61 ";()+-*/<=>" (adK 24) U) ∧
  (∃ t, cst 5 = some t ∧ va_Z RX1 "NAMES" "[Ljava/lang/String;" (.ref t) A U H ∧ va_T (.object "java/lang/String") t 24 (fun j => va_rf (cst (10 + j))) A U H) ∧
  (∃ t, cst 2 = some t ∧ va_Z RX1 "TROUBLE" "LTwoTongues$Trouble;" (.ref t) A U H ∧ zOt "TwoTongues$Trouble" t A U H) ∧
  va_Z "java/lang/String" "COMPACT_STRINGS" "Z" (.int 1) A U H ∧
  (va_Z Bundle.tN "UNASSIGNED_STACK" Bundle.steD (va_rf (cst 3)) A U H ∧ vx_L Bundle.tN "UNASSIGNED_STACK" Bundle.steD A U H) ∧
  (va_Z Bundle.tN "SUPPRESSED_SENTINEL" Bundle.listD (va_rf (cst 4)) A U H ∧ vx_L Bundle.tN "SUPPRESSED_SENTINEL" Bundle.listD A U H) ∧
  va_Z "jdk/internal/util/Preconditions" "SIOOBE_FORMATTER" "Ljava/util/function/BiFunction;" (va_rf (cst 6)) A U H ∧
  va_Nc "java/util/NoSuchElementException" "java/lang/IndexOutOfBoundsException" U
/-- words that ride beside the lists -/
def zisN : Cond → Bool
  | .fieldLinkNest .. => true
  | .methodLinkNest .. => true
  | .castable .. => true
  | .declares .. => true
  | _ => false
def zAO : List String := ["java/lang/Object", RX5, RX4, RX11, RX10, RX12]
/-- what holds of the tables and the start's constants wherever a method begins -/
def zEnv (ln : Launch) (D : va_G) (cst : Nat → Option Nat) (dA : Nat → ClassId) (A : Nat → Prop) (U : State) : Prop :=
  ln.stackTraces = false ∧ cst 0 = none ∧ va_K D zcl (ztys dA) U ∧ (∀ q : Nat, U.heap.size ≤ q → A q) ∧ (∀ w ∈ lw_tbl, zisN w = true → va_Nw w U) ∧ (∀ C ∈ zAO, va_AO C U) ∧ zCon cst A U U.heap
theorem zNw_warm {w : Cond} {s U : State} (hW : s.WarmedH U.vm) (hw : zisN w = true) (h : va_Nw w s) : va_Nw w U := by
  cases w <;> first | exact va_Nw.warmF hW h | exact va_Nw.warmM hW h | exact va_Nw.warmC hW h | exact va_Nw.warmD hW h | exact Bool.noConfusion (show false = true from hw)
theorem zOt.go {C : String} {t : Nat} {A : Nat → Prop} {u U : State} {H H1 : Heap} (h : zOt C t A u H) (hvm : u.vm.Alike U.vm) (hq : ∀ a : Nat, a < H.size → ¬ A a → H1[a]? = H[a]?) : zOt C t A U H1 := by
  obtain ⟨cell, h1, h2, h3, h4⟩ := h
  exact ⟨cell, by rw [hq t (Array.getElem?_eq_some_iff.mp h1).1 h4]; exact h1, h2, by rw [hvm.findClass]; exact h3, h4⟩
theorem zCon.go {cst : Nat → Option Nat} {A : Nat → Prop} {u U : State} {H H1 : Heap} (h : zCon cst A u H) (hW : u.WarmedH U.vm) (hq : ∀ a : Nat, a < H.size → ¬ A a → H1[a]? = H[a]?) : zCon cst A U H1 := by
  have hvm := hW.alike
  obtain ⟨⟨adK, adV, a1, a2, a3⟩, ⟨t5, b1, b2, b3⟩, ⟨t2, c1, c2, c3⟩, d1, ⟨e1, e2⟩, ⟨f1, f2⟩, g1, ⟨x1, x2, y1, y2, y3⟩⟩ := h
  exact ⟨⟨adK, adV, a1, (a2.moved hvm).kept hq, a3.warm hW⟩, ⟨t5, b1, (b2.moved hvm).kept hq, (b3.moved hvm).kept hq⟩, ⟨t2, c1, (c2.moved hvm).kept hq, c3.go hvm hq⟩, (d1.moved hvm).kept hq,
    ⟨(e1.moved hvm).kept hq, (e2.moved hvm).kept hq⟩, ⟨(f1.moved hvm).kept hq, (f2.moved hvm).kept hq⟩, (g1.moved hvm).kept hq, ⟨x1, x2, by rw [hvm.findClass]; exact y1, by rw [hvm.findClass]; exact y2, by rw [hvm.assignable]; exact y3⟩⟩
theorem zEnv.go {ln : Launch} {D : va_G} {cst : Nat → Option Nat} {dA : Nat → ClassId} {A : Nat → Prop} {s U : State} {H : Heap} {locs : List Loc} (h : zEnv ln D cst dA A s) (hS : va_S A s.heap H locs) (hU : U.heap = H) (hW : s.WarmedH U.vm) : zEnv ln D cst dA A U := by
  obtain ⟨h1, h2, h3, h4, h5, h6, h7⟩ := h
  refine ⟨h1, h2, va_K.moved hW.alike h3, fun q hq => h4 q (Nat.le_trans hS.1 (by rw [← hU]; exact hq)), fun w hw hn => zNw_warm hW hn (h5 w hw hn), fun C hC => (h6 C hC).moved hW.alike, h7.go hW (fun a h8 h9 => by rw [hU]; exact hS.2.1 a h8 h9)⟩
theorem zEnv.calling {ln : Launch} {D : va_G} {cst : Nat → Option Nat} {dA : Nat → ClassId} {A : Nat → Prop} {U : State} {g : JFrame} {mk : MethodId} {a : Array Value} (h : zEnv ln D cst dA A U) : zEnv ln D cst dA A (U.calling g mk a) :=
  h.go (H := U.heap) (locs := []) va_S.rf rfl (State.WarmedH.refl U)
