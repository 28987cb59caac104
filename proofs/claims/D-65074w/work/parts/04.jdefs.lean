/-! J-layer, part 2: the types and what stands where (tables by gen/part04.py) -/
set_option maxRecDepth 10000
/-- the kinds of a type's fields: 0 int, 1 long, 2 boolean, 3 byte, 99 not looked at, 4 + t a reference to type t -/
def nft (t : Nat) : List Nat := match t with
  | 1 => [107, 0, 16, 16, 6, 11, 12, 2, 106]
  | 2 => [16, 117, 119, 136, 120, 120, 118, 105, 105, 106, 106, 105, 104, 106, 0, 0, 18, 0, 0, 7, 7, 7, 8, 8, 8, 0, 8, 118, 105]
  | 3 => [2, 118, 0, 0]
  | 4 => [2, 0, 0, 0, 1]
  | 5 => [2, 8, 0, 0, 1, 0, 0, 0, 105]
  | 6 => [8, 105]
  | 7 => [16, 6, 104, 0, 105, 104, 104, 104, 105, 105, 104, 1, 1, 135, 0, 0, 0]
  | 8 => [16, 104, 104, 104, 0, 104, 0, 104, 104, 104, 137, 134, 134, 134, 104, 0, 0, 0, 0, 0, 0, 104, 104, 0, 104, 0, 105, 0, 18, 0, 0, 2]
  | 9 => [0, 107, 0, 14, 14, 14, 106, 106, 0, 0, 0, 2, 1, 0, 1, 106, 0, 104, 106, 104, 104, 104, 105, 104, 104, 105, 105, 105, 105, 105, 106, 104, 104, 104, 105, 104, 104, 106, 104, 104, 104, 105, 106, 104, 104, 104, 106, 104, 104, 104, 105, 104, 104, 105, 104, 104, 104, 104, 104, 104, 105, 0, 0, 0, 0, 0, 0, 1, 0, 0, 0, 0, 2, 104, 0, 104, 105, 106, 0, 0, 0, 104, 0, 0, 106, 104, 104, 104, 104, 104, 104, 0, 104, 104, 104, 0, 0, 104, 104, 0, 0, 0, 2, 2, 105, 104]
  | 10 => [0, 0, 104, 104, 104, 104, 0, 104, 104, 104, 104, 104, 104, 104, 104, 104, 104, 104, 104, 104, 107, 0, 104, 104, 104, 104, 104, 104, 104, 104, 0, 104, 104]
  | 11 => [16, 107, 0, 0, 0, 106]
  | 12 => [107, 0, 0, 104, 134, 104, 128, 0, 0, 104, 104, 104, 104, 106, 0]
  | 13 => [0]
  | 14 => [0, 0, 0, 0, 0, 104, 0, 104, 104, 104, 104, 104, 104, 129, 0, 0, 0, 104, 104]
  | 15 => [0, 0, 0, 0]
  | 16 => [16, 18, 0, 0, 0]
  | 17 => [0]
  | 20 => [54]
  | 21 => [54]
  | 22 => [54]
  | _ => []
def fty (t k : Nat) : Nat := (nft t).getD k 99
/-- an array's kind of element -/
def ety (t : Nat) : Nat := match t with
  | 100 => 0
  | 101 => 1
  | 102 => 2
  | 103 => 3
  | 113 => 7
  | 114 => 8
  | 115 => 9
  | 116 => 10
  | 124 => 18
  | 125 => 19
  | 130 => 104
  | 131 => 106
  | 132 => 120
  | 133 => 128
  | _ => 99
/-- what a constructor lays for good: how far behind the object, the length of an array -/
def kft (t : Nat) : List (Int × Nat) := match t with
  | 2 => [(-1, 0), (1, 1500), (2, 40), (3, 63), (67, 63), (68, 8), (69, 8), (70, 1500), (71, 1500), (72, 1500), (73, 1500), (74, 1500), (75, 1500), (76, 1500), (-1, 0), (-1, 0), (-1, 0), (-1, 0), (-1, 0), (77, 0), (95, 0), (113, 0), (131, 0), (132, 0), (133, 0), (-1, 0), (134, 0), (135, 4), (140, 40)]
  | 7 => [(-1, 0), (-1, 0), (1, 1501), (-1, 0), (2, 1501), (3, 1500), (4, 40), (5, 8), (6, 40), (7, 40), (8, 8), (-1, 0), (-1, 0), (9, 40), (-1, 0), (-1, 0), (-1, 0)]
  | 8 => [(-1, 0), (1, 407), (2, 407), (3, 407), (-1, 0), (-1, 0), (-1, 0), (5, 8), (6, 8), (7, 8), (8, 8), (17, 8), (26, 8), (35, 8), (44, 8), (-1, 0), (-1, 0), (-1, 0), (-1, 0), (-1, 0), (-1, 0), (45, 200), (46, 200), (-1, 0), (47, 200), (-1, 0), (48, 1500), (-1, 0), (-1, 0), (-1, 0), (-1, 0), (-1, 0)]
  | 1 => [(1, 20000), (-1, 0), (-1, 0), (-1, 0), (2, 0), (295, 0), (345, 0), (-1, 0), (394, 65540)]
  | 10 => [(-1, 0), (-1, 0), (1, 8), (2, 24), (3, 24), (4, 192), (-1, 0), (5, 40), (6, 40), (7, 40), (8, 40), (9, 40), (10, 320), (11, 40), (12, 40), (13, 640), (14, 40), (15, 40), (16, 40), (17, 40), (18, 20000), (-1, 0), (19, 1500), (20, 1500), (21, 1500), (22, 1500), (23, 1500), (24, 1500), (25, 1500), (26, 63), (-1, 0), (27, 1500), (28, 1500)]
  | 9 => [(-1, 0), (1, 20000), (-1, 0), (-1, 0), (-1, 0), (-1, 0), (60, 40), (61, 40), (-1, 0), (-1, 0), (-1, 0), (-1, 0), (-1, 0), (-1, 0), (-1, 0), (62, 1500), (-1, 0), (63, 9000), (64, 1500), (65, 24000), (66, 24000), (67, 24000), (68, 24000), (69, 1500), (70, 1500), (71, 1500), (72, 1500), (73, 3000), (74, 3000), (75, 1500), (76, 63), (77, 504), (78, 504), (79, 504), (80, 504), (81, 63), (82, 63), (83, 63), (84, 8), (85, 8), (86, 8), (87, 8), (88, 8), (89, 8), (90, 8), (91, 8), (92, 40), (93, 40), (94, 40), (95, 40), (96, 40), (97, 40), (98, 40), (99, 40), (100, 40), (101, 40), (102, 40), (103, 16), (104, 16), (105, 16), (106, 16), (-1, 0), (-1, 0), (-1, 0), (-1, 0), (-1, 0), (-1, 0), (-1, 0), (-1, 0), (-1, 0), (-1, 0), (-1, 0), (-1, 0), (107, 1500), (-1, 0), (108, 1501), (109, 1501), (110, 1600), (-1, 0), (-1, 0), (-1, 0), (111, 200), (-1, 0), (-1, 0), (112, 8), (113, 8), (114, 240), (115, 240), (116, 240), (117, 3840), (118, 8), (-1, 0), (119, 400), (120, 400), (121, 40000), (-1, 0), (-1, 0), (122, 200), (123, 200), (-1, 0), (-1, 0), (-1, 0), (-1, 0), (-1, 0), (124, 1500), (125, 8)]
  | _ => []
def kof (t k : Nat) : Int × Nat := (kft t).getD k (-1, 0)
abbrev LV : Type := Nat × Int
/-- the mini heap: values, lengths, types, how many cells, how many slots -/
abbrev MH : Type := (Int → Int → Int) × (Int → Int) × (Int → Nat) × Int × Int
def hv (h : MH) (a k : Int) : Int := h.1 a k
def hn (h : MH) (a : Int) : Int := h.2.1 a
def ht (h : MH) (a : Int) : Nat := h.2.2.1 a
def hz (h : MH) : Int := h.2.2.2.1
def hs (h : MH) : Int := h.2.2.2.2
def hset (h : MH) (a k x : Int) : MH := (fun b j => if b = a ∧ j = k then x else h.1 b j, h.2)
/-- a new cell of type t, of length n (arrays), paid with c slots -/
def hnew (h : MH) (t : Nat) (n c : Int) : MH :=
  (fun b j => if b = hz h + 1 then 0 else h.1 b j, fun b => if b = hz h + 1 then n else h.2.1 b, fun b => if b = hz h + 1 then t else h.2.2.1 b, hz h + 1, hs h + c)
def hmt : MH := (fun _ _ => 0, fun _ => 0, fun _ => 0, 0, 0)
/-- a run's constants: classes, their slots, classes of arrays, the heap at the law's start, the script's address, whether the singletons are laid -/
abbrev JG : Type := (Nat → ClassId) × (Nat → Nat → Nat) × (Nat → ClassId) × Heap × Nat × Bool
def gC (G : JG) : Nat → ClassId := G.1
def gI (G : JG) : Nat → Nat → Nat := G.2.1
def gA (G : JG) : Nat → ClassId := G.2.2.1
def gH (G : JG) : Heap := G.2.2.2.1
def gB (G : JG) : Nat := G.2.2.2.1.size
def gX (G : JG) : Nat := G.2.2.2.2.1
def gO (G : JG) : Bool := G.2.2.2.2.2
def ad (G : JG) (z : Int) : Nat := if z < 0 then gX G else gB G + (z.toNat - 1)
def vl (G : JG) (x : LV) : Value := if x.1 = 1 then .long (Int64.ofInt x.2) else if x.1 < 4 then .int (Int32.ofInt x.2) else if x.2 = 0 then .null else .ref (ad G x.2)
/-- a value fits a kind of field -/
def okf (h : MH) (vt : Nat) (z : Int) : Prop :=
  if vt = 0 then c32 z else if vt = 1 then c64 z else if vt = 2 then (z = 0 ∨ z = 1) else if vt = 3 then (-128 ≤ z ∧ z ≤ 127) else (z = 0 ∨ (1 ≤ z ∧ z ≤ hz h ∧ ht h z = vt - 4))
/-- a value fits its tag: plain kinds; 800 the script; 900 null; 2000 + t not null; 1000000 + 1000 n + t an array of length n; 5000 unknown -/
def okv (h : MH) (x : LV) : Prop :=
  if x.1 < 800 then okf h x.1 x.2 else if x.1 = 800 then x.2 = -1 else if x.1 = 900 then x.2 = 0 else if x.1 = 5000 then True
  else 1 ≤ x.2 ∧ x.2 ≤ hz h ∧ ht h x.2 = x.1 % 1000 ∧ (1000000 ≤ x.1 → hn h x.2 = ((x.1 - 1000000) / 1000 : Nat))
def slotO (G : JG) (h : MH) (cell : Cell) (t : Nat) (a : Int) (k : Nat) : Prop :=
  cell.slots[gI G t k]? = some (vl G (fty t k, hv h a k)) ∧ okf h (fty t k) (hv h a k)
def slotA (G : JG) (h : MH) (cell : Cell) (t : Nat) (a : Int) (j : Nat) : Prop :=
  cell.slots[j]? = some (vl G (ety t, hv h a j)) ∧ okf h (ety t) (hv h a j)
/-- an exception's cell: room for Throwable's own fields; nobody holds its monitor -/
def xC (t : Nat) (c : Cell) : Prop := (t = 13 ∨ t = 17 ∨ 20 ≤ t) → 6 ≤ c.slots.size ∧ c.monitor.owner = none ∧ c.monitor.count = 0
def cellA (G : JG) (h : MH) (H : Heap) (a : Int) : Prop := ∃ cell : Cell, H[ad G a]? = some cell ∧ cell.vm = .none ∧
  ((ht h a < 100 ∧ (cell.cls = gC G (ht h a) ∧ xC (ht h a) cell) ∧ ∀ k : Nat, k < (nft (ht h a)).length → slotO G h cell (ht h a) a k) ∨
   (100 ≤ ht h a ∧ cell.cls = gA G (ht h a) ∧ 0 ≤ hn h a ∧ hn h a ≤ 2147483647 ∧ (cell.slots.size : Int) = hn h a ∧ ∀ j : Nat, (j : Int) < hn h a → slotA G h cell (ht h a) a j))
/-- what the constructors of the singletons (and of Load) laid for good -/
def kF (h : MH) : Prop := ∀ a : Int, 1 ≤ a → a ≤ hz h → ∀ k : Nat, 0 ≤ (kof (ht h a) k).1 → hv h a k = a + (kof (ht h a) k).1 ∧ 1 ≤ hv h a k ∧ hv h a k ≤ hz h ∧ ht h (hv h a k) = fty (ht h a) k - 4 ∧ (100 ≤ fty (ht h a) k - 4 → hn h (hv h a k) = (kof (ht h a) k).2)
def ssum (H : Heap) (n : Nat) : Nat := ((H.toList.drop n).map (·.slots.size)).sum
abbrev LIMC : Int := 1200384
abbrev LIMS : Int := 5490346
/-- the real heap holds the mini heap, behind what was there at the law's start, which is as it was -/
def JR (G : JG) (h : MH) (H : Heap) : Prop := 0 ≤ hz h ∧ H.size = gB G + (hz h).toNat ∧ (ssum H (gB G) : Int) = hs h ∧ hz h ≤ LIMC ∧ hs h ≤ LIMS ∧
  (∀ a : Int, 1 ≤ a → a ≤ hz h → cellA G h H a) ∧ (∀ q : Nat, q < gB G → H[q]? = (gH G)[q]?) ∧ (gO G = true → kF h)
