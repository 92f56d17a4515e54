/-! ===== THE PURE LAYER, definitions: values, heaps, the judgement pw, the contract pS ===== -/
set_option maxRecDepth 100000
abbrev pv : Type := Int ⊕ (Int ⊕ Int)
abbrev pI (z : Int) : pv := Sum.inl z
abbrev pL (z : Int) : pv := Sum.inr (Sum.inl z)
abbrev pR (z : Int) : pv := Sum.inr (Sum.inr z)
abbrev ph : Type := List psh × (Int → Int → Int)
/-- how a method ends: a value, nothing, a thrown cell -/
abbrev po : Type := Option pv ⊕ Int
/-- method, code, locals, answer -/
abbrev pmd : Type := MethodName × ByteArray × Nat × Option FieldType
/-- launch, heap's size at the start, heap at the start, classes, their slots, array classes, old objects, the script -/
abbrev px : Type := Launch × Nat × Heap × (Nat → ClassId) × (Nat → Nat → Nat) × (Nat → ClassId) × (Nat → Option Nat) × Nat × (Nat → Int32)
def xL (X : px) : Launch := X.1
def xZ (X : px) : Nat := X.2.2.1.size
def xH (X : px) : Heap := X.2.2.1
def xC (X : px) : Nat → ClassId := X.2.2.2.1
def xI (X : px) : Nat → Nat → Nat := X.2.2.2.2.1
def xA (X : px) : Nat → ClassId := X.2.2.2.2.2.1
def xO (X : px) : Nat → Option Nat := X.2.2.2.2.2.2.1
def xN (X : px) : Nat := X.2.2.2.2.2.2.2.1
def xS (X : px) : Nat → Int32 := X.2.2.2.2.2.2.2.2
def pu_rf (X : px) (z : Int) : Option Nat := if 0 ≤ z then some (xZ X + z.toNat) else if z = -1 then none else xO X (-z).toNat
def pu_cv (X : px) (ty : FieldType) (z : Int) : Value := match ty with
  | .long => .long (Int64.ofInt z)
  | .object _ => va_rf (pu_rf X z)
  | .array _ => va_rf (pu_rf X z)
  | _ => .int (Int32.ofInt z)
def pu_v (X : px) (v : pv) : Value := match v with
  | .inl z => .int (Int32.ofInt z)
  | .inr (.inl z) => .long (Int64.ofInt z)
  | .inr (.inr z) => va_rf (pu_rf X z)
def pu_cl : List vw_C := [(RX0, TX0, 30), (RX1, TX1, 5), (RX2, TX2, 6), (RX3, TX3, 9), (RJ2, TJ2, 3), (RX9, TX9, 1), (RX5, TX5, 1), (RX10, TX10, 1), (RX11, TX11, 3), (RX8, TX8, 3), (RX12, TX12, 2), (RX7, TX7, 8), (RX6, TX6, 60)]
def pu_ft (c : Nat) : Nat → FieldType := match c with
  | 0 => tyX0 | 1 => tyX1 | 2 => tyX2 | 3 => tyX3 | 4 => tyJ2 | 5 => tyX9 | 6 => tyX5 | 7 => tyX10 | 8 => tyX11 | 9 => tyX8 | 10 => tyX12 | 11 => tyX7 | _ => tyX6
def pu_ty (t : Nat) : FieldType := match t with
  | 0 => .int | 1 => .byte | 2 => .short | 3 => .boolean | 4 => .long | 5 => .object "java/lang/Object" | 6 => .object "LadderLots$Step" | 7 => .object "LadderLots$Steps" | _ => .array .int
def pu_tys (X : px) : List (ClassId × FieldType) := (List.range 9).map fun t => (xA X t, pu_ty t)
def pu_at (X : px) (a : Nat) (σ : psh) (f : Int → Int) (H : Heap) : Prop := match σ.1 with
  | .inr t => t < 9 ∧ H[a]? = some (arrV (xA X t) σ.2 (fun j => pu_cv X (pu_ty t) (f j)))
  | .inl c => ∃ (cell : Cell) (q : vw_C), H[a]? = some cell ∧ cell.cls = xC X c ∧ cell.vm = .none ∧ cell.slots.size = σ.2 ∧ pu_cl[c]? = some q ∧ q.2.2 = σ.2 ∧ ∀ k : Nat, k < σ.2 → cell.slots[xI X c k]? = some (pu_cv X (pu_ft c k) (f k))
def pu_nc : List (String × String) := [("LadderLots$Rung", "LadderLots$Maybe"), ("LadderLots$Gate", "LadderLots$Maybe"), ("LadderLots$Back", "LadderLots$Maybe")]
/-- lengths and bytes of the ten words -/
def pu_len : List Nat := [4, 4, 4, 4, 4, 5, 3, 6, 6, 5]
def pu_byt : List (List Int32) := [[108, 101, 103, 115], [112, 97, 114, 116], [114, 117, 110, 103], [103, 97, 116, 101], [98, 97, 99, 107], [109, 97, 121, 98, 101], [117, 115, 101], [117, 112, 115, 105, 100, 101], [116, 117, 114, 110, 101, 100], [116, 105, 109, 101, 115]]
abbrev pu_A (X : px) : Nat → Prop := fun q => xZ X ≤ q
/-- the old objects: 2 the script, 3 WORDS, 4 the empty elementData, 5 UNASSIGNED_STACK, 6 SUPPRESSED_SENTINEL, 7 SIOOBE_FORMATTER, 8 the mirror of Object[], 10.. the words, 20.. their bytes -/
def pu_Z (X : px) (U : State) : Prop :=
  (∃ w : Nat, xO X 2 = some w ∧ w < xZ X ∧ va_X w (xN X) (xS X) U (xH X)) ∧
  (∃ w : Nat, xO X 3 = some w ∧ va_Z "LadderLots$Scanner" "WORDS" "[Ljava/lang/String;" (.ref w) (pu_A X) U (xH X) ∧ va_T (.object "java/lang/String") w 10 (fun j => va_rf (xO X (10 + j))) (pu_A X) U (xH X)) ∧
  (∃ w : Nat, xO X 4 = some w ∧ va_Z "java/util/ArrayList" "DEFAULTCAPACITY_EMPTY_ELEMENTDATA" "[Ljava/lang/Object;" (.ref w) (pu_A X) U (xH X) ∧ va_T (.object "java/lang/Object") w 0 (fun _ => .null) (pu_A X) U (xH X)) ∧
  va_Z "java/lang/Throwable" "UNASSIGNED_STACK" "[Ljava/lang/StackTraceElement;" (va_rf (xO X 5)) (pu_A X) U (xH X) ∧
  va_Z "java/lang/Throwable" "SUPPRESSED_SENTINEL" "Ljava/util/List;" (va_rf (xO X 6)) (pu_A X) U (xH X) ∧
  va_Z "jdk/internal/util/Preconditions" "SIOOBE_FORMATTER" "Ljava/util/function/BiFunction;" (va_rf (xO X 7)) (pu_A X) U (xH X) ∧
  va_Z "java/lang/String" "COMPACT_STRINGS" "Z" (.int 1) (pu_A X) U (xH X) ∧
  (∃ mi : Nat, xO X 8 = some mi ∧ va_Mi "[Ljava/lang/Object;" mi U) ∧ va_Dc U ∧ va_AO "java/lang/Object" U ∧ va_AO "LadderLots$Step" U ∧ va_AO "LadderLots$Steps" U ∧
  ∃ adK adV : Nat → Nat, (∀ i : Nat, i < 10 → xO X (10 + i) = some (adK i) ∧ xO X (20 + i) = some (adV i)) ∧ vk_S 10 pu_len pu_byt adK adV (pu_A X) U (xH X)
def pu_hs (g : List psh) : Nat := (g.map (·.2)).sum
def pu_H (b : Bool) (X : px) (h : ph) (H : Heap) : Prop :=
  H.size = xZ X + h.1.length ∧ (∀ q : Nat, q < xZ X → H[q]? = (xH X)[q]?) ∧ (∀ (a : Nat) (σ : psh), h.1[a]? = some σ → pu_at X (xZ X + a) σ (h.2 a) H) ∧
  h.1.length ≤ 601024 ∧ pu_hs h.1 ≤ 7293034 ∧ (b = true → pu_perm <+: h.1 ∧ ∀ q ∈ pu_cons, h.2 q.1 q.2.1 = q.2.2)
/-- int[][]: its class's component is the class of int[] -/
def pu_G (X : px) (U : State) : Prop := ∃ kA : Class, U.vm.classes[xA X 8]? = some kA ∧ kA.kind = .array (xA X 0) (.array .int)
/-- the one method with a handler: LadderLots.read -/
def pu_hh : List (Nat × Nat × Nat × Nat) := [(27, 42, 45, 230)]
def pu_ex (y : pmd) (c : Code) : Prop := (y.1 = yX0_read → c.exceptionTable.toList = tableOf pu_hh) ∧ (y.1 ≠ yX0_read → ∀ x ∈ c.exceptionTable.toList, False)
/-- what a state says all through the run: classes, arrays, words, statics -/
def pu_C (X : px) (U : State) : Prop :=
  ((xL X).stackTraces = false ∧ pu_G X U) ∧ va_K (xC X, xI X) pu_cl (pu_tys X) U ∧ (∀ w ∈ pu_nw, va_Nw w U) ∧ (∀ w ∈ pu_nc, va_Nc w.1 w.2 U) ∧ pu_Z X U
def pu_M (X : px) (y : pmd) (p : Program) (s : State) (m : MethodId) (args : Array Value) (meth : Method) (c : Code) : Prop :=
  p.tables.exec = Jvm.exec ∧ c.code = y.2.1 ∧ c.maxLocals = y.2.2.1 ∧ meth.sig.returnType = y.2.2.2 ∧ meth.locks = false ∧ s.vm.findClass y.1.cls = some m.cls ∧ meth.name = y.1.name ∧ (∀ w ∈ lw_all, w.before args s = true) ∧ pu_C X s ∧ pu_ex y c
def pu_room (d n k : Nat) : Room := { frames := d, cells := 601024 - n, slots := 7293034 - k, locals := 60 * d }
def pu_Qc (b : Bool) (X : px) (g : List psh) (Q : po → ph → Prop) : Array Value → State → Outcome → State → Prop := fun _ _ o t =>
  ∃ (r : Option pv) (h : ph), o = .returned (r.map (pu_v X)) ∧ pu_H b X h t.heap ∧ g <+: h.1 ∧ Q (.inl r) h
def pu_XC (b : Bool) (X : px) (g : List psh) (Q : po → ph → Prop) : Addr → State → State → Prop := fun q _ t =>
  ∃ (z : Nat) (h : ph), q = xZ X + z ∧ h.1[z]? = some (.inl 11, 8) ∧ pu_H b X h t.heap ∧ g <+: h.1 ∧ Q (.inr z) h
def pu_ls (X : px) (ls : List (Nat × pv)) : List (Nat × Value) := ls.map fun q => (q.1, pu_v X q.2)
def pw (b : Bool) (X : px) (y : pmd) (d : Nat) (pc : Nat) (ls : List (Nat × pv)) (st : List pv) (h : ph) (Q : po → ph → Prop) : Prop :=
  ∀ (p : Program) (e : Env) (s : State) (m : MethodId) (args : Array Value) (below : List Frame) (meth : Method) (c : Code) (H : Heap) (locs : List Loc) (cells slots : Nat) (lsa : Array Slot) (g : List psh),
    pu_M X y p s m args meth c → s.heap.size = xZ X + g.length → g <+: h.1 → pu_H b X h H → (∀ q ∈ locs, xZ X ≤ q.base) → lv_has lsa y.2.2.1 (pu_ls X ls) →
    W p (xL X) e (pu_room d g.length (pu_hs g)) s m args below meth c H locs cells slots (pu_MQ below (pu_Qc b X g Q) (pu_XC b X g Q) args s (601024 - g.length) (7293034 - pu_hs g) (fun q => xZ X ≤ q)) (F0 m pc lsa (st.map (pu_v X)))
abbrev pu_ws (y : pmd) : List Cond := ws_ y.1 y.2.1 y.2.2.1 y.2.2.2
/-- the contract of y: from the heap h with the arguments as it ends with Q -/
def pS (b : Bool) (X : px) (y : pmd) (d : Nat) (as : List pv) (h : ph) (Q : po → ph → Prop) : Prop :=
  pu_Met (xL X) y.1 (pu_ws y) (pu_room d h.1.length (pu_hs h.1)) (fun a U => a = (as.map (pu_v X)).toArray ∧ pu_H b X h U.heap ∧ pu_C X U) (pu_Qc b X h.1 Q) (pu_XC b X h.1 Q) (601024 - h.1.length) (7293034 - pu_hs h.1) (fun q => xZ X ≤ q)
/-- an int in range -/
abbrev inR (z : Int) : Prop := -2147483648 ≤ z ∧ z < 2147483648
abbrev inL (z : Int) : Prop := -9223372036854775808 ≤ z ∧ z < 9223372036854775808
def shp (h : ph) (a : Int) : Option psh := if 0 ≤ a then h.1[a.toNat]? else none
/-- in every heap of the kind b the cell a has the shape σ -/
def pu_sh (b : Bool) (h : ph) (a : Int) (σ : psh) : Prop := (b = true → pu_perm <+: h.1) → shp h a = some σ
def pu_nc_ (b : Bool) (a i : Int) : Prop := b = true → ∀ q ∈ pu_cons, ¬ (q.1 = a ∧ q.2.1 = i)
def pu_up (M : Int → Int → Int) (a i v : Int) : Int → Int → Int := fun x j => if x = a ∧ j = i then v else M x j
