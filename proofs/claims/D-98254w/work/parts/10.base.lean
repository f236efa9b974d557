/-! PART 10: the pure memory (ints, longs, references by address and place; kinds; the next address) and rows over it -/
set_option maxRecDepth 100000
def ly_T : List (Nat × Nat) := [(100, 0), (101, 0), (1, 9), (1, 6), (1, 8), (1, 195), (8, 24), (1, 6), (1, 6), (1, 6), (1, 6), (1, 6), (1, 6), (1, 6), (1, 6), (1, 6), (1, 6), (1, 6), (1, 6), (1, 6), (1, 6), (1, 6), (1, 6), (1, 6), (1, 6), (1, 6), (1, 6), (1, 6), (1, 6), (1, 6), (1, 6), (8, 6), (1, 6), (1, 6), (1, 6), (1, 6), (1, 6), (1, 6), (8, 8), (1, 2), (1, 2), (1, 2), (1, 2), (1, 2), (1, 2), (1, 2), (1, 2), (8, 30), (1, 195), (1, 195), (1, 195), (1, 195), (1, 195), (1, 195), (1, 195), (1, 195), (1, 195), (1, 195), (1, 195), (1, 195), (1, 195), (1, 195), (1, 195), (1, 195), (1, 195), (1, 195), (1, 195), (1, 195), (1, 195), (1, 195), (1, 195), (1, 195), (1, 195), (1, 195), (1, 195), (1, 195), (1, 195), (1, 195), (5, 4), (101, 0), (1, 9), (1, 6), (1, 8), (1, 195), (8, 24), (1, 6), (1, 6), (1, 6), (1, 6), (1, 6), (1, 6), (1, 6), (1, 6), (1, 6), (1, 6), (1, 6), (1, 6), (1, 6), (1, 6), (1, 6), (1, 6), (1, 6), (1, 6), (1, 6), (1, 6), (1, 6), (1, 6), (1, 6), (1, 6), (8, 6), (1, 6), (1, 6), (1, 6), (1, 6), (1, 6), (1, 6), (8, 8), (1, 2), (1, 2), (1, 2), (1, 2), (1, 2), (1, 2), (1, 2), (1, 2), (8, 30), (1, 195), (1, 195), (1, 195), (1, 195), (1, 195), (1, 195), (1, 195), (1, 195), (1, 195), (1, 195), (1, 195), (1, 195), (1, 195), (1, 195), (1, 195), (1, 195), (1, 195), (1, 195), (1, 195), (1, 195), (1, 195), (1, 195), (1, 195), (1, 195), (1, 195), (1, 195), (1, 195), (1, 195), (1, 195), (1, 195), (5, 4), (2, 300), (1, 15), (1, 24), (1, 24), (1, 7), (1, 7), (1, 6), (1, 6), (8, 6), (1, 6), (1, 6), (1, 6), (1, 6), (1, 6), (1, 6), (8, 6), (1, 6), (1, 6), (1, 6), (1, 6), (1, 6), (1, 6), (1, 4), (1, 4), (4, 16), (102, 0), (1, 5544), (1, 5544), (1, 3012), (1, 300), (1, 160), (1, 15), (4, 330), (1, 24), (1, 6), (1, 24), (1, 6), (1, 6), (1, 36), (1, 36), (3, 6), (1, 32), (1, 4), (1, 6), (4, 17)]
def ly_R : List (Nat × List (Option Nat)) := [(0, [some 1, some 79, some 157, none, none, none, some 158, some 159, none, some 160, some 161, some 162, none, none, none, none, some 163, some 164, some 165, some 172, some 179, some 180, some 181]), (1, [some 2, some 3, some 4, some 5, some 6, some 31, some 38, some 47, some 78]), (6, [some 7, some 8, some 9, some 10, some 11, some 12, some 13, some 14, some 15, some 16, some 17, some 18, some 19, some 20, some 21, some 22, some 23, some 24, some 25, some 26, some 27, some 28, some 29, some 30]), (31, [some 32, some 33, some 34, some 35, some 36, some 37]), (38, [some 39, some 40, some 41, some 42, some 43, some 44, some 45, some 46]), (47, [some 48, some 49, some 50, some 51, some 52, some 53, some 54, some 55, some 56, some 57, some 58, some 59, some 60, some 61, some 62, some 63, some 64, some 65, some 66, some 67, some 68, some 69, some 70, some 71, some 72, some 73, some 74, some 75, some 76, some 77]), (79, [some 80, some 81, some 82, some 83, some 84, some 109, some 116, some 125, some 156]), (84, [some 85, some 86, some 87, some 88, some 89, some 90, some 91, some 92, some 93, some 94, some 95, some 96, some 97, some 98, some 99, some 100, some 101, some 102, some 103, some 104, some 105, some 106, some 107, some 108]), (109, [some 110, some 111, some 112, some 113, some 114, some 115]), (116, [some 117, some 118, some 119, some 120, some 121, some 122, some 123, some 124]), (125, [some 126, some 127, some 128, some 129, some 130, some 131, some 132, some 133, some 134, some 135, some 136, some 137, some 138, some 139, some 140, some 141, some 142, some 143, some 144, some 145, some 146, some 147, some 148, some 149, some 150, some 151, some 152, some 153, some 154, some 155]), (165, [some 166, some 167, some 168, some 169, some 170, some 171]), (172, [some 173, some 174, some 175, some 176, some 177, some 178]), (182, [some 183, some 184, some 185, some 186, none, none, none, none, none, none, none, none, none, none, none, some 187, none, none, none, none, some 188, some 189, some 190, none, some 191, some 192, some 193, some 194, some 195, some 196, some 197, some 198, some 199, some 200, some 201])]
abbrev PS : Type := (Nat → Nat → Int32) × (Nat → Nat → Int64) × (Nat → Nat → Option Nat) × (Nat → Nat × Nat) × Nat
def gI (s : PS) (a k : Nat) : Int32 := s.1 a k
def gL (s : PS) (a k : Nat) : Int64 := s.2.1 a k
def gR (s : PS) (a k : Nat) : Option Nat := s.2.2.1 a k
def gT (s : PS) (a : Nat) : Nat := (s.2.2.2.1 a).1
def gN (s : PS) (a : Nat) : Nat := (s.2.2.2.1 a).2
def gZ (s : PS) : Nat := s.2.2.2.2
def up2 {α : Type} (f : Nat → Nat → α) (a k : Nat) (v : α) : Nat → Nat → α := fun x y => if x = a ∧ y = k then v else f x y
def up1 {α : Type} (f : Nat → α) (a : Nat) (v : α) : Nat → α := fun x => if x = a then v else f x
def pI (s : PS) (a k : Nat) (v : Int32) : PS := (up2 s.1 a k v, s.2)
def pL (s : PS) (a k : Nat) (v : Int64) : PS := (s.1, up2 s.2.1 a k v, s.2.2)
def pR (s : PS) (a k : Nat) (v : Option Nat) : PS := (s.1, s.2.1, up2 s.2.2.1 a k v, s.2.2.2)
def pNew (s : PS) (t n : Nat) : PS := (up1 s.1 s.2.2.2.2 (fun _ => 0), up1 s.2.1 s.2.2.2.2 (fun _ => 0), up1 s.2.2.1 s.2.2.2.2 (fun _ => none), up1 s.2.2.2.1 s.2.2.2.2 (t, n), s.2.2.2.2 + 1)
theorem gI_pI (s : PS) (a k : Nat) (v : Int32) (x y : Nat) : gI (pI s a k v) x y = if x = a ∧ y = k then v else gI s x y := rfl
theorem gL_pI (s : PS) (a k : Nat) (v : Int32) : gL (pI s a k v) = gL s := rfl
theorem gR_pI (s : PS) (a k : Nat) (v : Int32) : gR (pI s a k v) = gR s := rfl
theorem gT_pI (s : PS) (a k : Nat) (v : Int32) : gT (pI s a k v) = gT s := rfl
theorem gN_pI (s : PS) (a k : Nat) (v : Int32) : gN (pI s a k v) = gN s := rfl
theorem gZ_pI (s : PS) (a k : Nat) (v : Int32) : gZ (pI s a k v) = gZ s := rfl
theorem gI_pL (s : PS) (a k : Nat) (v : Int64) : gI (pL s a k v) = gI s := rfl
theorem gL_pL (s : PS) (a k : Nat) (v : Int64) (x y : Nat) : gL (pL s a k v) x y = if x = a ∧ y = k then v else gL s x y := rfl
theorem gR_pL (s : PS) (a k : Nat) (v : Int64) : gR (pL s a k v) = gR s := rfl
theorem gT_pL (s : PS) (a k : Nat) (v : Int64) : gT (pL s a k v) = gT s := rfl
theorem gN_pL (s : PS) (a k : Nat) (v : Int64) : gN (pL s a k v) = gN s := rfl
theorem gZ_pL (s : PS) (a k : Nat) (v : Int64) : gZ (pL s a k v) = gZ s := rfl
theorem gI_pR (s : PS) (a k : Nat) (v : Option Nat) : gI (pR s a k v) = gI s := rfl
theorem gL_pR (s : PS) (a k : Nat) (v : Option Nat) : gL (pR s a k v) = gL s := rfl
theorem gR_pR (s : PS) (a k : Nat) (v : Option Nat) (x y : Nat) : gR (pR s a k v) x y = if x = a ∧ y = k then v else gR s x y := rfl
theorem gT_pR (s : PS) (a k : Nat) (v : Option Nat) : gT (pR s a k v) = gT s := rfl
theorem gN_pR (s : PS) (a k : Nat) (v : Option Nat) : gN (pR s a k v) = gN s := rfl
theorem gZ_pR (s : PS) (a k : Nat) (v : Option Nat) : gZ (pR s a k v) = gZ s := rfl
theorem gI_pNew (s : PS) (t n x y : Nat) : gI (pNew s t n) x y = if x = gZ s then 0 else gI s x y := by
  show up1 s.1 s.2.2.2.2 (fun _ => 0) x y = _
  unfold up1 gZ gI; split <;> rfl
theorem gL_pNew (s : PS) (t n x y : Nat) : gL (pNew s t n) x y = if x = gZ s then 0 else gL s x y := by
  show up1 s.2.1 s.2.2.2.2 (fun _ => 0) x y = _
  unfold up1 gZ gL; split <;> rfl
theorem gR_pNew (s : PS) (t n x y : Nat) : gR (pNew s t n) x y = if x = gZ s then none else gR s x y := by
  show up1 s.2.2.1 s.2.2.2.2 (fun _ => none) x y = _
  unfold up1 gZ gR; split <;> rfl
theorem gT_pNew (s : PS) (t n x : Nat) : gT (pNew s t n) x = if x = gZ s then t else gT s x := by
  show (up1 s.2.2.2.1 s.2.2.2.2 (t, n) x).1 = _
  unfold up1 gZ gT; split <;> rfl
theorem gN_pNew (s : PS) (t n x : Nat) : gN (pNew s t n) x = if x = gZ s then n else gN s x := by
  show (up1 s.2.2.2.1 s.2.2.2.2 (t, n) x).2 = _
  unfold up1 gZ gN; split <;> rfl
theorem gZ_pNew (s : PS) (t n : Nat) : gZ (pNew s t n) = gZ s + 1 := rfl
/-- what is fixed all through the run: class numbers, arrays' classes, where the law's own cells begin, the phase (1: both objects stand), the first object's address, other addresses, the law's start -/
abbrev GT : Type := va_G × (Nat → ClassId) × Nat × Nat × Nat × (Nat → Nat) × State × Array Value × PS
def kD (G : GT) : va_G := G.1
def kA (G : GT) : Nat → ClassId := G.2.1
def kS (G : GT) : Nat := G.2.2.1
def kP (G : GT) : Nat := G.2.2.2.1
def kB (G : GT) : Nat := G.2.2.2.2.1
def kX (G : GT) : Nat → Nat := G.2.2.2.2.2.1
def k0 (G : GT) : State := G.2.2.2.2.2.2.1
def kV (G : GT) : Array Value := G.2.2.2.2.2.2.2.1
def kM (G : GT) : PS := G.2.2.2.2.2.2.2.2
/-- a cell's kind, be it of the start or new -/
def gM (s : PS) (a : Nat) : Nat := gT s a % 200
def kF (G : GT) : Nat → Prop := fun q => kS G ≤ q
/-- the element types of arrays by their kinds -/
def ety (t : Nat) : FieldType := match t with
  | 1 => .int
  | 2 => .byte
  | 3 => .boolean
  | 4 => .long
  | 5 => .object "AgainstFeather$Text"
  | 6 => .object "AgainstFeather$Sum"
  | 7 => .object "java/lang/Object"
  | 8 => .array .int
  | 10 => .object "java/lang/Integer"
  | _ => .object "java/lang/String"
def clT : List vw_C := [(RX0, TX0, 23), (RX1, TX1, 9), (RX2, TX2, 35), (RX3, TX3, 8), (RX4, TX4, 3), (RX5, TX5, 8), (RX6, TX6, 3), (RX7, TX7, 1), (RX8, TX8, 1), (RX9, TX9, 1), (RX10, TX10, 1), (RX11, TX11, 6), (RX12, TX12, 6), (RJ2, TJ2, 3), (RJ12, TJ12, 1)]
def tyT (ci : Nat) : Nat → FieldType := match ci with
  | 0 => tyX0
  | 1 => tyX1
  | 2 => tyX2
  | 3 => tyX3
  | 4 => tyX4
  | 5 => tyX5
  | 6 => tyX6
  | 7 => tyX7
  | 8 => tyX8
  | 9 => tyX9
  | 10 => tyX10
  | 11 => tyX11
  | 12 => tyX12
  | 13 => tyJ2
  | _ => tyJ12
def oVal (ty : FieldType) (s : PS) (a k : Nat) : Value := match ty with
  | .long => .long (gL s a k)
  | .object _ => va_rf (gR s a k)
  | .array _ => va_rf (gR s a k)
  | _ => .int (gI s a k)
def oF (s : PS) (a ci : Nat) : Nat → Value := fun k => oVal (tyT ci k) s a k
/-- where the two objects' own cells lie, and what they are -/
def Lay (G : GT) (s : PS) : Prop :=
  (∀ (i : Nat) (q : Nat × Nat), ly_T[i]? = some q → gT s (kB G + i) = q.1 ∧ gN s (kB G + i) = q.2) ∧
  (∀ (j : Nat) (q : Nat × List (Option Nat)), ly_R[j]? = some q → ∀ (k r : Nat), q.2[k]? = some (some r) → gR s (kB G + q.1) k = some (kB G + r))
/-- cells of the start that are read (kinds from 200 on: arrays 200 + t, objects 300 + class): as they were -/
def OldC (G : GT) (s : PS) : Prop := ∀ a, 200 ≤ gT s a → gT (kM G) a = gT s a ∧ gN (kM G) a = gN s a ∧ (∀ k, gI (kM G) a k = gI s a k) ∧ ∀ k, gR (kM G) a k = gR s a k
def Old (G : GT) (H : Heap) : Prop := ∀ q, q < kS G → H[q]? = (k0 G).heap[q]?
/-- the cell's monitor is free -/
def Mn (H : Heap) (a : Nat) : Prop := ∀ c, H[a]? = some c → c.monitor.owner = none ∧ c.monitor.count = 0
def Mon (s : PS) (H : Heap) : Prop := ∀ a, 100 ≤ gT s a → gT s a < 200 → Mn H a
theorem Mn.kept {H H1 : Heap} {a : Nat} (h : Mn H a) (e : H1[a]? = H[a]?) : Mn H1 a := fun c hc => h c (e ▸ hc)
def Rel (G : GT) (s : PS) (H : Heap) : Prop :=
  gZ s = H.size ∧ kS G ≤ H.size ∧ (∀ a, gT s a ≠ 0 → a < H.size) ∧
  (∀ a, 1 ≤ gT s a → gT s a ≤ 3 → H[a]? = some (arrV (kA G (gT s a)) (gN s a) (fun j => .int (gI s a j)))) ∧
  (∀ a, gT s a = 4 → H[a]? = some (arrV (kA G 4) (gN s a) (fun j => .long (gL s a j)))) ∧
  (∀ a, 5 ≤ gT s a → gT s a < 100 → H[a]? = some (arrV (kA G (gT s a)) (gN s a) (fun j => va_rf (gR s a j)))) ∧
  (∀ (a ci : Nat) (q : vw_C), gT s a = 100 + ci → clT[ci]? = some q → t_OB a ((kD G).1 ci) q.2.2 ((kD G).2 ci) H (oF s a ci)) ∧
  (kP G = 1 → Lay G s ∧ kS G ≤ kB G) ∧ OldC G s ∧ Mon s H
def tysT (G : GT) : List (ClassId × FieldType) := [(kA G 0, .int), (kA G 1, .int), (kA G 2, .byte), (kA G 3, .boolean), (kA G 4, .long), (kA G 5, ety 5), (kA G 6, ety 6), (kA G 7, ety 7), (kA G 8, ety 8), (kA G 9, ety 9), (kA G 10, ety 10)]
/-- what is known of the law's start -/
def oT (t : Nat) (s : PS) (a j : Nat) : Value := if t ≤ 3 then .int (gI s a j) else if t = 4 then .long (gL s a j) else va_rf (gR s a j)
def GO (G : GT) : Prop :=
  (∀ a, gT (kM G) a < 400) ∧
  (∀ a t, gT (kM G) a = 200 + t → 1 ≤ t → t ≤ 10 → t ≠ 4 → va_T (ety t) a (gN (kM G) a) (oT t (kM G) a) (kF G) (k0 G) (k0 G).heap) ∧
  (∀ a, gT (kM G) a = 304 → va_O "AgainstFeather$Text" a (kF G) (k0 G) (k0 G).heap ∧ va_OF "AgainstFeather$Text" "law" "[LAgainstFeather$Sum;" (va_rf (gR (kM G) a 0)) a (kF G) (k0 G) (k0 G).heap) ∧
  (∀ a, gT (kM G) a = 314 → va_O "java/lang/Integer" a (kF G) (k0 G) (k0 G).heap ∧ va_OF "java/lang/Integer" "value" "I" (.int (gI (kM G) a 0)) a (kF G) (k0 G) (k0 G).heap) ∧
  (∀ a, gT (kM G) a = 315 → va_O "java/lang/String" a (kF G) (k0 G) (k0 G).heap ∧ va_OF "java/lang/String" "value" "[B" (va_rf (gR (kM G) a 0)) a (kF G) (k0 G) (k0 G).heap ∧ va_OF "java/lang/String" "coder" "B" (.int (gI (kM G) a 1)) a (kF G) (k0 G) (k0 G).heap) ∧
  (∀ a t, gT (kM G) a = 200 + t → t ≠ 4)
/-- the statics that are read -/
def GZ (G : GT) : Prop :=
  va_Z "AgainstFeather" "NOTHING" "LAgainstFeather$Text;" (.ref (kX G 0)) (kF G) (k0 G) (k0 G).heap ∧
  va_Z "AgainstFeather$Tokens" "WORDS" "[Ljava/lang/String;" (.ref (kX G 1)) (kF G) (k0 G) (k0 G).heap ∧
  va_Z "java/util/ArrayList" "DEFAULTCAPACITY_EMPTY_ELEMENTDATA" "[Ljava/lang/Object;" (.ref (kX G 2)) (kF G) (k0 G) (k0 G).heap ∧
  va_Z "java/lang/Integer$IntegerCache" "high" "I" (.int 127) (kF G) (k0 G) (k0 G).heap ∧
  va_Z "java/lang/Integer$IntegerCache" "cache" "[Ljava/lang/Integer;" (.ref (kX G 4)) (kF G) (k0 G) (k0 G).heap ∧
  va_Z "java/lang/String" "COMPACT_STRINGS" "Z" (.int 1) (kF G) (k0 G) (k0 G).heap ∧
  va_Z "jdk/internal/util/Preconditions" "SIOOBE_FORMATTER" "Ljava/util/function/BiFunction;" (.ref (kX G 5)) (kF G) (k0 G) (k0 G).heap ∧
  vk_R "AgainstFeather$Tokens" 53 "<>=#+-*/(),;|" (kX G 429) (k0 G) ∧ va_Mi "[Ljava/lang/Object;" (kX G 6) (k0 G) ∧
  vx_Zq Bundle.tN "UNASSIGNED_STACK" Bundle.steD (kF G) (k0 G) (k0 G).heap ∧ vx_Zq Bundle.tN "SUPPRESSED_SENTINEL" Bundle.listD (kF G) (k0 G) (k0 G).heap
def GK (G : GT) : Prop := (∀ w ∈ lw_tbl, w.before (kV G) (k0 G) = true) ∧ va_K (kD G) clT (tysT G) (k0 G) ∧ kS G = (k0 G).heap.size ∧ GO G ∧ GZ G
/-- the world of a method: the memory, in a state that comes from the law's start -/
def Wr (G : GT) (s : PS) (U : State) : Prop := Rel G s U.heap ∧ (k0 G).WarmedH U.vm ∧ Old G U.heap
/-- a method's own standing: machine, environment, room, start .. -/
abbrev CT : Type := Program × Launch × Env × Room × State × MethodId × Array Value × List Frame × Method × Code
def xp (x : CT) : Program := x.1
def xl (x : CT) : Launch := x.2.1
def xe (x : CT) : Env := x.2.2.1
def xR (x : CT) : Room := x.2.2.2.1
def xs (x : CT) : State := x.2.2.2.2.1
def xm (x : CT) : MethodId := x.2.2.2.2.2.1
def xa (x : CT) : Array Value := x.2.2.2.2.2.2.1
def xb (x : CT) : List Frame := x.2.2.2.2.2.2.2.1
def xM (x : CT) : Method := x.2.2.2.2.2.2.2.2.1
def xc (x : CT) : Code := x.2.2.2.2.2.2.2.2.2
def Cx (x : CT) (G : GT) (cc : ByteArray) (nL : Nat) (own : String) (ret : Option FieldType) (R0 : Room) : Prop :=
  CallFix (xp x) (xm x) (xc x) cc nL (xs x) (xa x) lw_all own ∧ (xM x).locks = false ∧ (xM x).sig.returnType = ret ∧ xR x = R0 ∧ GK G ∧ (k0 G).WarmedH (xs x).vm ∧ kS G ≤ (xs x).heap.size ∧ Old G (xs x).heap
def WB (x : CT) (G : GT) (nL : Nat) (Qf : State → Prop) (ce sl : Nat) (s : PS) (pc : Nat) (lv : List (Nat × Value)) (st : List Value) : Prop :=
  ∀ (H : Heap) (locs : List Loc) (ls : Array Slot), Rel G s H → va_S (kF G) (xs x).heap H locs → lv_has ls nL lv → W (xp x) (xl x) (xe x) (xR x) (xs x) (xm x) (xa x) (xb x) (xM x) (xc x) H locs ce sl Qf (F0 (xm x) pc ls st)
theorem gk_K {G : GT} (g : GK G) {U : State} (h : (k0 G).WarmedH U.vm) : va_K (kD G) clT (tysT G) U := g.2.1.moved h.alike
theorem cx_K {x : CT} {G : GT} {cc : ByteArray} {nL : Nat} {own : String} {ret : Option FieldType} {R0 : Room} (X : Cx x G cc nL own ret R0) : va_K (kD G) clT (tysT G) (xs x) := gk_K X.2.2.2.2.1 X.2.2.2.2.2.1
/-- the arrays' classes -/
theorem ty_at (G : GT) {t : Nat} (h : t < 11) : (tysT G)[t]? = some (kA G t, if t = 0 then .int else ety t) := by
  match t, h with
  | 0, _ => rfl
  | 1, _ => rfl
  | 2, _ => rfl
  | 3, _ => rfl
  | 4, _ => rfl
  | 5, _ => rfl
  | 6, _ => rfl
  | 7, _ => rfl
  | 8, _ => rfl
  | 9, _ => rfl
  | 10, _ => rfl
theorem cx_A {x : CT} {G : GT} {cc : ByteArray} {nL : Nat} {own : String} {ret : Option FieldType} {R0 : Room} (X : Cx x G cc nL own ret R0) {t : Nat} (h0 : t ≠ 0) (h : t < 11) : ArrOfT (xs x) (kA G t) (ety t) := by
  have := ((cx_K X).2 t _ (ty_at G h)).1
  rwa [if_neg h0] at this

