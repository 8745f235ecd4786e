/-! THE COMPONENT's world: a heap by fields: types, lengths, final references stay; ints, longs, references, arrays move -/
set_option maxRecDepth 100000
def kC (t : Nat) : String := match t with
  | 1 => RX0
  | 2 => RX1
  | 3 => RX2
  | 4 => RX3
  | 5 => RX4
  | 6 => RX5
  | 7 => RX7
  | 8 => RX9
  | 9 => RX10
  | 10 => RX11
  | 11 => RX12
  | 12 => RX13
  | 13 => RX15
  | 14 => RX16
  | 15 => RX17
  | 16 => RX18
  | 17 => RX19
  | 18 => RJ2
  | 19 => RJ6
  | 20 => RJ15
  | 21 => RX6
  | _ => ""
def kT (t : Nat) : u_T := match t with
  | 1 => TX0
  | 2 => TX1
  | 3 => TX2
  | 4 => TX3
  | 5 => TX4
  | 6 => TX5
  | 7 => TX7
  | 8 => TX9
  | 9 => TX10
  | 10 => TX11
  | 11 => TX12
  | 12 => TX13
  | 13 => TX15
  | 14 => TX16
  | 15 => (fun _ => ("", "", "", false))
  | 16 => TX18
  | 17 => TX19
  | 18 => TJ2
  | 19 => TJ6
  | 20 => TJ15
  | 21 => TX6
  | _ => (fun _ => ("", "", "", false))
def kN (t : Nat) : Nat := match t with
  | 1 => 25
  | 2 => 11
  | 3 => 8
  | 4 => 8
  | 5 => 1
  | 6 => 11
  | 7 => 6
  | 8 => 2
  | 9 => 3
  | 10 => 1
  | 11 => 1
  | 12 => 3
  | 13 => 2
  | 14 => 1
  | 15 => 0
  | 16 => 3
  | 17 => 5
  | 18 => 3
  | 19 => 4
  | 20 => 4
  | 21 => 132
  | _ => 0
def kF (t : Nat) : Nat → FieldType := match t with
  | 1 => tyX0
  | 2 => tyX1
  | 3 => tyX2
  | 4 => tyX3
  | 5 => tyX4
  | 6 => tyX5
  | 7 => tyX7
  | 8 => tyX9
  | 9 => tyX10
  | 10 => tyX11
  | 11 => tyX12
  | 12 => tyX13
  | 13 => tyX15
  | 14 => tyX16
  | 15 => fun _ => .int
  | 16 => tyX18
  | 17 => tyX19
  | 18 => tyJ2
  | 19 => tyJ6
  | 20 => tyJ15
  | 21 => tyX6
  | _ => fun _ => .int
theorem kIn : ∀ t, 0 < t → t < 22 → ∀ w ∈ u_ws (kC t) (kT t) (kN t), w ∈ lw_all
  | 0, h, _ => absurd h (by decide)
  | 1, _, _ => in_X0
  | 2, _, _ => in_X1
  | 3, _, _ => in_X2
  | 4, _, _ => in_X3
  | 5, _, _ => in_X4
  | 6, _, _ => in_X5
  | 7, _, _ => in_X7
  | 8, _, _ => in_X9
  | 9, _, _ => in_X10
  | 10, _, _ => in_X11
  | 11, _, _ => in_X12
  | 12, _, _ => in_X13
  | 13, _, _ => in_X15
  | 14, _, _ => in_X16
  | 15, _, _ => (fun w h => by cases h)
  | 16, _, _ => in_X18
  | 17, _, _ => in_X19
  | 18, _, _ => in_J2
  | 19, _, _ => in_J6
  | 20, _, _ => in_J15
  | 21, _, _ => in_X6
  | t + 22, _, h => absurd h (by omega)
theorem kNm : ∀ t, 0 < t → t < 22 → ∀ a, a < kN t → ∀ b, b < kN t → a ≠ b → (kT t a).2.1 ≠ (kT t b).2.1
  | 0, h, _ => absurd h (by decide)
  | 1, _, _ => nmX0
  | 2, _, _ => nmX1
  | 3, _, _ => nmX2
  | 4, _, _ => nmX3
  | 5, _, _ => nmX4
  | 6, _, _ => nmX5
  | 7, _, _ => nmX7
  | 8, _, _ => nmX9
  | 9, _, _ => nmX10
  | 10, _, _ => nmX11
  | 11, _, _ => nmX12
  | 12, _, _ => nmX13
  | 13, _, _ => nmX15
  | 14, _, _ => nmX16
  | 15, _, _ => (fun a h => absurd h (Nat.not_lt_zero a))
  | 16, _, _ => nmX18
  | 17, _, _ => nmX19
  | 18, _, _ => nmJ2
  | 19, _, _ => nmJ6
  | 20, _, _ => nmJ15
  | 21, _, _ => nmX6
  | t + 22, _, h => absurd h (by omega)
theorem kTy : ∀ t, 0 < t → t < 22 → ∀ k, k < kN t → parseFieldDescriptor (kT t k).2.2.1 = some (kF t k)
  | 0, h, _ => absurd h (by decide)
  | 1, _, _ => tyX0_ok
  | 2, _, _ => tyX1_ok
  | 3, _, _ => tyX2_ok
  | 4, _, _ => tyX3_ok
  | 5, _, _ => tyX4_ok
  | 6, _, _ => tyX5_ok
  | 7, _, _ => tyX7_ok
  | 8, _, _ => tyX9_ok
  | 9, _, _ => tyX10_ok
  | 10, _, _ => tyX11_ok
  | 11, _, _ => tyX12_ok
  | 12, _, _ => tyX13_ok
  | 13, _, _ => tyX15_ok
  | 14, _, _ => tyX16_ok
  | 15, _, _ => (fun a h => absurd h (Nat.not_lt_zero a))
  | 16, _, _ => tyX18_ok
  | 17, _, _ => tyX19_ok
  | 18, _, _ => tyJ2_ok
  | 19, _, _ => tyJ6_ok
  | 20, _, _ => tyJ15_ok
  | 21, _, _ => tyX6_ok
  | t + 22, _, h => absurd h (by omega)
/-- a field: 0 int, 1 long, 2 a reference, 3 a final reference -/
def fk (t k : Nat) : Nat := match t with
  | 1 => ([2, 3, 0, 0, 0, 3, 3, 3, 3, 3, 3, 3, 3, 3, 3, 3, 3, 3, 0, 3, 3, 0, 1, 3, 0] : List Nat).getD k 9
  | 2 => ([0, 0, 0, 0, 0, 3, 3, 3, 3, 2, 2] : List Nat).getD k 9
  | 3 => ([3, 0, 0, 0, 0, 0, 2, 3] : List Nat).getD k 9
  | 4 => ([2, 2, 2, 2, 2, 0, 0, 0] : List Nat).getD k 9
  | 5 => ([3] : List Nat).getD k 9
  | 6 => ([0, 0, 0, 3, 3, 3, 3, 3, 3, 3, 3] : List Nat).getD k 9
  | 7 => ([3, 0, 0, 0, 0, 0] : List Nat).getD k 9
  | 8 => ([3, 3] : List Nat).getD k 9
  | 9 => ([0, 3, 3] : List Nat).getD k 9
  | 10 => ([1] : List Nat).getD k 9
  | 11 => ([0] : List Nat).getD k 9
  | 12 => ([0, 3, 3] : List Nat).getD k 9
  | 13 => ([3, 0] : List Nat).getD k 9
  | 14 => ([3] : List Nat).getD k 9
  | 15 => ([] : List Nat).getD k 9
  | 16 => ([3, 3, 0] : List Nat).getD k 9
  | 17 => ([0, 3, 3, 1, 0] : List Nat).getD k 9
  | 18 => ([0, 2, 0] : List Nat).getD k 9
  | 19 => ([3, 0, 0, 0] : List Nat).getD k 9
  | 20 => ([2, 0, 0, 0] : List Nat).getD k 9
  | 21 => ([3, 0, 0, 0, 0, 0, 0, 0, 0, 3, 0, 3, 3, 3, 3, 3, 3, 3, 3, 3, 3, 3, 3, 3, 3, 3, 3, 3, 3, 3, 3, 3, 3, 3, 3, 3, 3, 3, 3, 3, 3, 3, 3, 3, 0, 3, 0, 0, 3, 3, 3, 3, 3, 0, 0, 3, 3, 3, 0, 0, 0, 0, 3, 3, 0, 0, 0, 0, 0, 3, 0, 0, 3, 0, 0, 3, 3, 3, 3, 0, 3, 3, 3, 0, 3, 0, 0, 1, 3, 3, 3, 3, 3, 3, 3, 3, 3, 3, 3, 3, 3, 3, 3, 3, 3, 3, 3, 3, 3, 3, 3, 3, 3, 3, 3, 3, 3, 3, 3, 3, 3, 0, 3, 0, 0, 0, 3, 0, 1, 0, 3, 0] : List Nat).getD k 9
  | _ => 9
def aty (j : Nat) : FieldType := match j with
  | 100 => .int
  | 101 => .long
  | 102 => .char
  | 103 => .byte
  | 104 => .boolean
  | 105 => .array .int
  | 106 => .array (.array .int)
  | 107 => .array .int
  | 108 => .object "BentRiver$State"
  | 109 => .object "java/lang/Object"
  | 110 => .object "java/lang/String"
  | _ => .int
/-- an array: 0 ints, 1 longs, 2 references, 3 references that stay -/
def aknd (j : Nat) : Nat := match j with
  | 100 => 0
  | 101 => 1
  | 102 => 0
  | 103 => 0
  | 104 => 0
  | 105 => 3
  | 106 => 3
  | 107 => 2
  | 108 => 2
  | 109 => 2
  | 110 => 2
  | _ => 0
def asg (j e : Nat) : Bool := (j == 107 && e == 100) || (j == 108 && e == 6) || (j == 109 && e == 7) || (j == 109 && e == 8) || (j == 109 && e == 9) || (j == 109 && e == 10) || (j == 109 && e == 11) || (j == 109 && e == 12) || (j == 109 && e == 13) || (j == 109 && e == 14) || (j == 109 && e == 15) || (j == 109 && e == 16) || (j == 106 && e == 105) || (j == 105 && e == 100)
def txN : Nat := 21
def txO (i : Nat) : String × Nat × String := match i with
  | 0 => ("BentRiver$Reader", 116, "valley")
  | 1 => ("BentRiver$Reader", 118, "by")
  | 2 => ("BentRiver$Reader", 123, "reach")
  | 3 => ("BentRiver$Reader", 149, "runs")
  | 4 => ("BentRiver$Reader", 151, "soil")
  | 5 => ("BentRiver$Reader", 153, "willow")
  | 6 => ("BentRiver$Reader", 155, "lord")
  | 7 => ("BentRiver$Reader", 189, "from")
  | 8 => ("BentRiver$Reader", 190, "to")
  | 9 => ("BentRiver$Reader", 191, "pays")
  | 10 => ("BentRiver$Reader", 193, "joy")
  | 11 => ("BentRiver$Reader", 197, "purse")
  | 12 => ("BentRiver$Reader", 205, "eats")
  | 13 => ("BentRiver$Reader", 207, "bend")
  | 14 => ("BentRiver$Reader", 209, "spate")
  | 15 => ("BentRiver$Reader", 280, "min")
  | 16 => ("BentRiver$Reader", 282, "max")
  | 17 => ("BentRiver$Reader", 305, "not")
  | 18 => ("BentRiver$Reader", 312, "all")
  | 19 => ("BentRiver$Reader", 303, "and")
  | 20 => ("BentRiver$Reader", 295, "or")
  | _ => ("", 0, "")

/-- types, lengths, final references, arrays of references that stay, size, cells left, slots left -/
abbrev CG : Type := (Nat → Nat) × (Nat → Nat) × (Nat → Nat → Option Nat) × (Nat → Nat → Nat) × Nat × Nat × Nat
/-- ints, longs, references of objects; ints, longs, references of arrays -/
abbrev CC : Type := (Nat → Nat → Int32) × (Nat → Nat → Int64) × (Nat → Nat → Option Nat) × (Nat → Nat → Int32) × (Nat → Nat → Int64) × (Nat → Nat → Option Nat)
abbrev CS : Type := CG × CC
def gT (g : CG) (a : Nat) : Nat := g.1 a
def gK (g : CG) (a : Nat) : Nat := g.1 a % 1000
def gN (g : CG) (a : Nat) : Nat := g.2.1 a
def gR (g : CG) (k a : Nat) : Option Nat := g.2.2.1 k a
def gA (g : CG) (a i : Nat) : Nat := g.2.2.2.1 a i
def gz (g : CG) : Nat := g.2.2.2.2.1
def grc (g : CG) : Nat := g.2.2.2.2.2.1
def grs (g : CG) : Nat := g.2.2.2.2.2.2
def cI (c : CC) (k a : Nat) : Int32 := c.1 k a
def cL (c : CC) (k a : Nat) : Int64 := c.2.1 k a
def cR (c : CC) (k a : Nat) : Option Nat := c.2.2.1 k a
def cA (c : CC) (a i : Nat) : Int32 := c.2.2.2.1 a i
def cM (c : CC) (a i : Nat) : Int64 := c.2.2.2.2.1 a i
def cP (c : CC) (a i : Nat) : Option Nat := c.2.2.2.2.2 a i
def up2 {α : Type} (f : Nat → Nat → α) (k a : Nat) (v : α) : Nat → Nat → α := fun j b => if j = k ∧ b = a then v else f j b
def uI (c : CC) (k a : Nat) (v : Int32) : CC := (up2 c.1 k a v, c.2)
def uL (c : CC) (k a : Nat) (v : Int64) : CC := (c.1, up2 c.2.1 k a v, c.2.2)
def uR (c : CC) (k a : Nat) (v : Option Nat) : CC := (c.1, c.2.1, up2 c.2.2.1 k a v, c.2.2.2)
def uA (c : CC) (a i : Nat) (v : Int32) : CC := (c.1, c.2.1, c.2.2.1, up2 c.2.2.2.1 a i v, c.2.2.2.2)
def uM (c : CC) (a i : Nat) (v : Int64) : CC := (c.1, c.2.1, c.2.2.1, c.2.2.2.1, up2 c.2.2.2.2.1 a i v, c.2.2.2.2.2)
def uP (c : CC) (a i : Nat) (v : Option Nat) : CC := (c.1, c.2.1, c.2.2.1, c.2.2.2.1, c.2.2.2.2.1, up2 c.2.2.2.2.2 a i v)
/-- a final reference is set -/
def vR (g : CG) (k a : Nat) (v : Option Nat) : CG := (g.1, g.2.1, up2 g.2.2.1 k a v, g.2.2.2)
/-- classes by code, slots, cells of statics, what statics hold, texts -/
abbrev CD : Type := (Nat → ClassId) × (Nat → Nat → Nat) × (Nat → Nat) × (Nat → Value) × (Nat → Nat)
/-- below lo nothing is written; nor from z1 up to z2; cells and slots in all; the heap at the start -/
abbrev CP : Type := Nat × Nat × Nat × Nat × Nat × Heap
def cV (x : CS) (t k a : Nat) : Value := if fk t k = 0 then .int (cI x.2 (100 * t + k) a) else if fk t k = 1 then .long (cL x.2 (100 * t + k) a) else if fk t k = 2 then va_rf (cR x.2 (100 * t + k) a) else va_rf (gR x.1 (100 * t + k) a)
def cAr (x : CS) (t a : Nat) : vp_A := (gN x.1 a, if aknd t = 0 then .inl (cA x.2 a) else if aknd t = 1 then .inr (.inl (cM x.2 a)) else if aknd t = 2 then .inr (.inr (.inr (.inr (cP x.2 a)))) else .inr (.inr (.inr (.inr (fun i => some (gA x.1 a i))))))
def cAt (D : CD) (x : CS) (a : Nat) (H : Heap) : Prop := (0 < gK x.1 a → gK x.1 a < 22 → t_OB a (D.1 (gK x.1 a)) (kN (gK x.1 a)) (D.2.1 (gK x.1 a)) H (fun k => cV x (gK x.1 a) k a)) ∧ (100 ≤ gK x.1 a → gK x.1 a < 111 → H[a]? = some (vp_cell (D.1 (gK x.1 a)) (cAr x (gK x.1 a) a)))
def stN : Nat := 10
def ssum (H : Heap) : Nat := (H.toList.map (fun c => c.slots.size)).sum
def AC (P : CP) (q : Nat) : Prop := P.1 ≤ q ∧ ¬ (P.2.1 ≤ q ∧ q < P.2.2.1)
def RelC (D : CD) (P : CP) (x : CS) (H : Heap) : Prop :=
  H.size = gz x.1 ∧ gz x.1 + grc x.1 = P.2.2.2.1 ∧ ssum H + grs x.1 = P.2.2.2.2.1 ∧ (P.1 ≤ gz x.1 ∧ P.2.2.1 ≤ gz x.1 ∧ (∀ k, k < stN → k ≠ 8 → D.2.2.2.1 k = .ref (gA x.1 0 k)) ∧ ∀ i, i < txN → D.2.2.2.2 i = gA x.1 0 (100 + i)) ∧ (∀ q, q < P.1 → H[q]? = P.2.2.2.2.2[q]?) ∧ (∀ a, gT x.1 a ≠ 0 → gT x.1 a < 1000 → AC P a) ∧ (∀ a, gT x.1 a ≠ 0 → a < gz x.1) ∧ ∀ a, cAt D x a H
/-- words of the tables that ride along -/
def nw (w : Cond) : Bool := match w with
  | .fieldLinkNest .. => true
  | .methodLinkNest .. => true
  | .castable .. => true
  | .declares .. => true
  | .privateMethod .. => true
  | _ => false
def stt (k : Nat) : String × String × String := match k with
  | 0 => ("BentRiver", "OWN", "[Ljava/lang/String;")
  | 1 => ("BentRiver", "ASKED", "[Ljava/lang/String;")
  | 2 => ("BentRiver", "LOOKED", "[Ljava/lang/String;")
  | 3 => ("BentRiver", "TOLD_OF", "[Ljava/lang/String;")
  | 4 => ("java/util/ArrayList", "EMPTY_ELEMENTDATA", "[Ljava/lang/Object;")
  | 5 => ("java/util/ArrayList", "DEFAULTCAPACITY_EMPTY_ELEMENTDATA", "[Ljava/lang/Object;")
  | 6 => ("java/lang/Throwable", "UNASSIGNED_STACK", "[Ljava/lang/StackTraceElement;")
  | 7 => ("java/lang/Throwable", "SUPPRESSED_SENTINEL", "Ljava/util/List;")
  | 8 => ("java/lang/String", "COMPACT_STRINGS", "Z")
  | _ => ("jdk/internal/util/Preconditions", "SIOOBE_FORMATTER", "Ljava/util/function/BiFunction;")
def stOk (D : CD) (P : CP) (U : State) (k : Nat) : Prop := ∃ (cf : ClassId) (kf : Class) (fi : Nat) (f : Field) (cell : Cell), U.fieldFound? (stt k).1 (stt k).2.1 (stt k).2.2 = some (cf, kf, fi, f) ∧ f.isStatic = true ∧ kf.init = .initialized ∧ kf.statics = some (D.2.2.1 k) ∧ D.2.2.1 k < P.1 ∧ P.2.2.2.2.2[D.2.2.1 k]? = some cell ∧ cell.vm.isStatics = true ∧ cell.slots[f.slot]? = some (D.2.2.2.1 k)
def asgOk (D : CD) (U : State) (j e : Nat) : Prop := ∃ (kA kc ke : Class) (comp : ClassId), U.vm.classes[D.1 j]? = some kA ∧ kA.kind = .array comp (aty j) ∧ U.vm.classes[comp]? = some kc ∧ U.vm.classes[D.1 e]? = some ke ∧ U.vm.assignable (D.1 e) comp = true
abbrev yList_size : MethodName := ⟨"java/util/List", "size", "()I"⟩
abbrev yList_get : MethodName := ⟨"java/util/List", "get", "(I)Ljava/lang/Object;"⟩
abbrev yList_add : MethodName := ⟨"java/util/List", "add", "(Ljava/lang/Object;)Z"⟩
def aoL : List FieldType := [.array .int, .object "java/lang/Object", .array (.array .int), .object "BentRiver$State", .object "java/lang/String"]
def KC (D : CD) (P : CP) (U : State) : Prop :=
  (∀ t, 0 < t → t < 22 → u_Kn U (kC t) (kT t) (kN t) (D.1 t) (D.2.1 t)) ∧ (∀ j, 100 ≤ j → j < 111 → ArrOfT U (D.1 j) (aty j) ∧ U.vm.findClass ("[" ++ (aty j).toString) = some (D.1 j)) ∧ (∀ j e, asg j e = true → asgOk D U j e) ∧ (∀ w ∈ lw_tbl, nw w = true → va_Nw w U) ∧ (∀ k, k < stN → stOk D P U k) ∧
  (va_Fw RJ2 yList_size yJ2_size U ∧ va_Fw RJ2 yList_get yJ2_get U ∧ va_Fw RJ2 yList_add yJ2_add U) ∧ (∀ i, i < txN → vk_R (txO i).1 (txO i).2.1 (txO i).2.2 (D.2.2.2.2 i) U) ∧ (D.2.2.2.1 8 = .int 1 ∧ va_Mi "[Ljava/lang/Object;" (D.2.2.2.2 1000) U) ∧ ∀ ty ∈ aoL, (Cond.arrayOver ty).before #[] U = true
theorem KC_tab {D : CD} {P : CP} {u U : State} (h : u.vm.Alike U.vm) (q1 : ∀ t, 0 < t → t < 22 → u_Kn u (kC t) (kT t) (kN t) (D.1 t) (D.2.1 t)) (q2 : ∀ j, 100 ≤ j → j < 111 → ArrOfT u (D.1 j) (aty j) ∧ u.vm.findClass ("[" ++ (aty j).toString) = some (D.1 j)) (q3 : ∀ j e, asg j e = true → asgOk D u j e) (q5 : ∀ k, k < stN → stOk D P u k) :
    (∀ t, 0 < t → t < 22 → u_Kn U (kC t) (kT t) (kN t) (D.1 t) (D.2.1 t)) ∧ (∀ j, 100 ≤ j → j < 111 → ArrOfT U (D.1 j) (aty j) ∧ U.vm.findClass ("[" ++ (aty j).toString) = some (D.1 j)) ∧ (∀ j e, asg j e = true → asgOk D U j e) ∧ (∀ k, k < stN → stOk D P U k) := by
  refine ⟨fun t h0 h1 => u_Kn_moved h (q1 t h0 h1), fun j h0 h1 => ⟨arrOfT_moved h (q2 j h0 h1).1, by rw [h.findClass]; exact (q2 j h0 h1).2⟩, fun j e he => ?_, fun k hk => ?_⟩
  · obtain ⟨kA, kc, ke, comp, e1, e2, e3, e4, e5⟩ := q3 j e he
    obtain ⟨kA', f1, g1⟩ := h.2.2 _ _ e1
    obtain ⟨kc', f3, -⟩ := h.2.2 _ _ e3
    obtain ⟨ke', f4, -⟩ := h.2.2 _ _ e4
    exact ⟨kA', kc', ke', comp, f1, by rw [g1]; exact e2, f3, f4, by rw [h.assignable]; exact e5⟩
  · obtain ⟨cf, kf, fi, f, cell, e1, e2, e3, e4, e5⟩ := q5 k hk
    obtain ⟨k', hi', he⟩ := State.fieldFound?_setVm h e1
    exact ⟨cf, k', fi, f, cell, hi', e2, by rw [he]; exact e3, by rw [he]; exact e4, e5⟩
theorem AO_alike {ty : FieldType} {u U : State} {a : Array Value} (h : u.vm.Alike U.vm) (hq : (Cond.arrayOver ty).before #[] u = true) : (Cond.arrayOver ty).before a U = true := by
  have h1 : (Cond.arrayOver ty).before #[] (u.setVm U.vm) = true := by rw [Cond.arrayOver_setVmC h]; exact hq
  exact h1
theorem KC_moved {D : CD} {P : CP} : xKp (KC D P) := by
  have hne : ∀ x : MethodName, x.cls = "java/util/List" → x.cls ≠ "java/lang/invoke/MethodHandle" ∧ x.cls ≠ "java/lang/invoke/VarHandle" := fun x h => by rw [h]; decide +kernel
  constructor
  · intro u U h ⟨q1, q2, q3, q4, q5, q6, q7⟩
    obtain ⟨r1, r2, r3, r5⟩ := KC_tab h.alike q1 q2 q3 q5
    refine ⟨r1, r2, r3, fun w hw hn => ?_, r5, ⟨q6.1.moved (hne _ rfl) h.alike, q6.2.1.moved (hne _ rfl) h.alike, q6.2.2.moved (hne _ rfl) h.alike⟩, fun i hi => (q7.1 i hi).warm h, ⟨q7.2.1.1, q7.2.1.2.moved h.alike⟩, fun ty ht => AO_alike h.alike (q7.2.2 ty ht)⟩
    have hq := q4 w hw hn
    cases w <;> first | exact hq.warmF h | exact hq.warmM h | exact hq.warmC h | exact hq.warmD h | exact Cond.privateMethod_warm h hq | cases hn
  · intro u U h ⟨q1, q2, q3, q4, q5, q6, q7⟩
    obtain ⟨r1, r2, r3, r5⟩ := KC_tab (U := U) (h ▸ Vm.Alike.refl u.vm) q1 q2 q3 q5
    refine ⟨r1, r2, r3, fun w hw hn => ?_, r5, ⟨q6.1.moved (hne _ rfl) (h ▸ Vm.Alike.refl u.vm), q6.2.1.moved (hne _ rfl) (h ▸ Vm.Alike.refl u.vm), q6.2.2.moved (hne _ rfl) (h ▸ Vm.Alike.refl u.vm)⟩, fun i hi => (q7.1 i hi).same h.symm, ⟨q7.2.1.1, q7.2.1.2.moved (h ▸ Vm.Alike.refl u.vm)⟩, fun ty ht => AO_alike (h ▸ Vm.Alike.refl u.vm) (q7.2.2 ty ht)⟩
    have hq := q4 w hw hn
    cases w <;> first | exact hq.same rfl h | cases hn
def RPC (P : CP) (R : Room) (s : State) : Prop := s.heap.size + R.cells = P.2.2.2.1 ∧ ssum s.heap + R.slots = P.2.2.2.2.1
abbrev wC (D : CD) (P : CP) : xW CS := (RelC D P, AC P, KC D P, RPC P)
