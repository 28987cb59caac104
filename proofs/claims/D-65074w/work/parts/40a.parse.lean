/-! Part 40a: a file is read (plain) -/
abbrev RdR : Type := Except Int (Int × PG)
/-- a byte from lo to hi -/
def tkC (B : Int → Int) (n lo hi p : Int) (k : Int → RdR) : RdR := if n ≤ p then .error n else if lo ≤ B p ∧ B p ≤ hi then k (B p) else .error p
def bnd (r : RdR) (k : Int → PG → RdR) : RdR := match r with
  | .ok (p, L) => k p L
  | .error e => .error e
/-- again and again, from i on -/
def rep (f : Int → Int → PG → RdR) : Nat → Int → Int → PG → RdR
  | 0, _, p, L => .ok (p, L)
  | n + 1, i, p, L => bnd (f i p L) (fun p' L' => rep f n (i + 1) p' L')
def s16 (a b : Int) : Int := if 32767 < 256 * a + b then 256 * a + b - 65536 else 256 * a + b
def tk2 (B : Int → Int) (n p : Int) (k : Int → RdR) : RdR := if n ≤ p + 1 then .error n else k (s16 (B p) (B (p + 1)))
/-- what a reading comes to -/
def prs (r : RdR) (K : Int → PG → Prop) (X : Int → Prop) : Prop := match r with
  | .ok (p, L) => K p L
  | .error e => X e
theorem prs_bnd (r : RdR) (k : Int → PG → RdR) (K : Int → PG → Prop) (X : Int → Prop) : prs (bnd r k) K X = prs r (fun p L => prs (k p L) K X) X := by
  cases r with
  | ok a => obtain ⟨p, L⟩ := a; rfl
  | error e => rfl
theorem prs_mono {r : RdR} {K K' : Int → PG → Prop} {X X' : Int → Prop} (h : prs r K X) (hK : ∀ p L, r = .ok (p, L) → K p L → K' p L) (hX : ∀ e, X e → X' e) : prs r K' X' := by
  cases r with
  | ok a => obtain ⟨p, L⟩ := a; exact hK p L rfl h
  | error e => exact hX e h
theorem prs_tk {B : Int → Int} {n lo hi p : Int} {k : Int → RdR} {K : Int → PG → Prop} {X : Int → Prop} (h : prs (tkC B n lo hi p k) K X) : (n ≤ p → X n) ∧ (p < n → (lo ≤ B p ∧ B p ≤ hi → prs (k (B p)) K X) ∧ (¬ (lo ≤ B p ∧ B p ≤ hi) → X p)) := by
  unfold tkC at h
  by_cases c : n ≤ p
  · rw [if_pos c] at h
    exact ⟨fun _ => h, fun d => by omega⟩
  · rw [if_neg c] at h
    refine ⟨fun d => absurd d c, fun _ => ⟨fun d => ?_, fun d => ?_⟩⟩
    · rw [if_pos d] at h; exact h
    · rw [if_neg d] at h; exact h
theorem prs_tk2 {B : Int → Int} {n p : Int} {k : Int → RdR} {K : Int → PG → Prop} {X : Int → Prop} (h : prs (tk2 B n p k) K X) : (n ≤ p + 1 → X n) ∧ (p + 1 < n → prs (k (s16 (B p) (B (p + 1)))) K X) := by
  unfold tk2 at h
  by_cases c : n ≤ p + 1
  · rw [if_pos c] at h
    exact ⟨fun _ => h, fun d => by omega⟩
  · rw [if_neg c] at h
    exact ⟨fun d => absurd d c, fun _ => h⟩
theorem prs_if {P : Prop} [Decidable P] {a b : RdR} {K : Int → PG → Prop} {X : Int → Prop} (h : prs (if P then a else b) K X) : (P → prs a K X) ∧ (¬ P → prs b K X) := by
  by_cases c : P
  · rw [if_pos c] at h; exact ⟨fun _ => h, fun d => absurd c d⟩
  · rw [if_neg c] at h; exact ⟨fun d => absurd d c, fun _ => h⟩
theorem prs_cif {P : Prop} {a b : RdR} {K : Int → PG → Prop} {X : Int → Prop} (h : prs (cif P a b) K X) : (P → prs a K X) ∧ (¬ P → prs b K X) := by
  by_cases c : P
  · rw [cif_p c] at h; exact ⟨fun _ => h, fun d => absurd c d⟩
  · rw [cif_n c] at h; exact ⟨fun d => absurd d c, fun _ => h⟩
/-- a kind is read into a row -/
def rdK (B : Int → Int) (n o b i p : Int) (L : PG) : RdR := tkC B n 0 1 p fun v => .ok (p + 1, mset L o (b + i) v)
/-- the classes that are there from the first -/
def ini24 (L : PG) : PG := fun a b => if a = 2 ∧ 0 ≤ b ∧ b < 24 then (if b < 2 then b - 1 else 1) else if a = 3 ∧ 0 ≤ b ∧ b < 24 then 0 else L a b
/-- fields of the class above -/
def cpF (L : PG) (c q d : Int) : PG := fun a b => if a = 4 ∧ 8 * c ≤ b ∧ b < 8 * c + d then L 4 (8 * q + (b - 8 * c)) else L a b
def rdCl (B : Int → Int) (n c p : Int) (L : PG) : RdR := tkC B n 0 (c - 1) p fun q => tkC B n 0 4 (p + 1) fun o => if 8 < L 3 q + o then .error (p + 1) else
  bnd (rep (rdK B n 4 (8 * c)) o.toNat (L 3 q) (p + 2) (cpF (mset L 2 c q) c q (L 3 q))) fun p' L' => .ok (p', mset L' 3 c (L 3 q + o))
def rdCs (B : Int → Int) (n p : Int) (L : PG) : RdR := tkC B n 0 16 p fun c => tkC B n 0 8 (p + 1) fun s =>
  bnd (rep (rdK B n 1 0) s.toNat 0 (p + 2) (mset (mset L 0 0 c) 0 1 s)) fun p' L' => rep (rdCl B n) c.toNat 8 p' (ini24 L')
/-- methods are alike -/
def alk (L : PG) (a b : Int) : Prop := L 7 a = L 7 b ∧ L 8 a = L 8 b ∧ ∀ j, 0 ≤ j → j < L 7 a → L 10 (8 * a + j) = L 10 (8 * b + j)
def moX (L : PG) (m op : Int) : Int :=
  if op = 30 ∨ op = 36 then 15 else if op = 27 ∨ op = 28 then L 0 1 - 1 else if op = 21 ∨ op = 23 ∨ op = 24 then 1 else if op = 20 ∨ op = 25 ∨ op = 26 ∨ op = 33 then 7 + L 0 0
  else if op = 17 then 47 else if op = 16 then 5 else if op = 13 ∨ op = 14 ∨ op = 34 ∨ op = 35 then 7 else if op = 2 ∨ op = 3 ∨ op = 18 ∨ op = 19 then L 9 m - 1 else 255
def goodY (L : PG) (op x y : Int) : Prop := (op = 19 → 0 ≤ y ∧ y ≤ 7 + L 0 0) ∧ (op = 29 → 0 ≤ y ∧ y ≤ L 0 6 - 1) ∧ (op = 25 ∨ op = 26 → 0 ≤ y ∧ y ≤ L 3 x - 1)
def goodZ (L : PG) (m op y z : Int) : Prop := (15 ≤ op ∧ op ≤ 19 → 0 ≤ z ∧ z ≤ L 14 m - 1) ∧ (op = 13 → y ≤ z)
/-- the site of an instruction that makes one -/
def siL (L : PG) (op : Int) : PG := if op = 20 ∨ op = 21 then mset (mset L 25 (L 0 21) (L 0 30)) 0 30 (L 0 30 + 1) else mset L 25 (L 0 21) 0
def scL (L : PG) (op x k : Int) : PG := if op = 20 ∨ op = 21 then mset L 26 (L 25 k) (if op = 20 then x else -1 - x) else L
def inL (L : PG) (k m p op x y z : Int) : PG := mset (mset (mset (mset (mset (mset (mset L 19 k op) 20 k x) 21 k y) 22 k z) 23 k p) 24 k m) 0 21 (k + 1)
noncomputable def rdI (B : Int → Int) (n m : Int) (_ p : Int) (L : PG) : RdR := tkC B n 0 36 p fun op => if (op = 20 ∨ op = 21) ∧ L 0 30 = 63 then .error p else
  tkC B n 0 (moX L m op) (p + 1) fun x => if op = 17 ∧ L 9 m ≤ x % 8 then .error (p + 1) else
  tk2 B n (p + 2) fun y => cif (goodY L op x y) (tk2 B n (p + 4) fun z => cif (goodZ L m op y z) (.ok (p + 6, inL (scL (siL L op) op x (L 0 21)) (L 0 21) m p op x y z)) (.error (p + 4))) (.error (p + 2))
def rdH (B : Int → Int) (n m i p : Int) (L : PG) : RdR := tkC B n 0 255 p fun a => tkC B n 0 255 (p + 1) fun b => if b ≤ a ∨ L 14 m < b then .error (p + 1) else
  tkC B n 0 (L 14 m - 1) (p + 2) fun c => tkC B n 0 (7 + L 0 0) (p + 3) fun d => .ok (p + 4, mset (mset (mset (mset L 13 (16 * m + 4 * i) a) 13 (16 * m + 4 * i + 1) b) 13 (16 * m + 4 * i + 2) c) 13 (16 * m + 4 * i + 3) d)
/-- kinds of arguments; of locals -/
def rdA (B : Int → Int) (n m own i p : Int) (L : PG) : RdR := tkC B n (if i = 0 ∧ own ≠ 255 then 1 else 0) 1 p fun v => .ok (p + 1, mset L 10 (8 * m + i) v)
def rdL (B : Int → Int) (n m i p : Int) (L : PG) : RdR := tkC B n 0 1 p fun v => if i < L 7 m ∧ v ≠ L 10 (8 * m + i) then .error p else .ok (p + 1, mset L 10 (8 * m + i) v)
noncomputable def rdM3 (B : Int → Int) (n m p : Int) (L : PG) : RdR := tkC B n 0 8 p fun de => tkC B n 0 4 (p + 1) fun hn => tkC B n 1 120 (p + 2) fun co => if 1500 < L 0 21 + co then .error (p + 2) else
  bnd (rep (rdI B n m) co.toNat 0 (p + 3) (mset (mset (mset (mset L 11 m de) 12 m hn) 14 m co) 15 m (L 0 21))) fun p' L' =>
  bnd (rep (rdH B n m) hn.toNat 0 p' L') fun p'' L'' => .ok (p'', mset L'' 17 m p'')
noncomputable def rdM2 (B : Int → Int) (n m c p : Int) (L : PG) : RdR := tkC B n 0 2 p fun gi => cif (c ≠ 255 ∧ ∃ k, 0 ≤ k ∧ k < m ∧ L 5 k ≠ 255 ∧ L 6 k = L 6 m ∧ ¬ alk (mset L 8 m gi) k m) (.error p)
  (tkC B n (L 7 m) 8 (p + 1) fun lc => bnd (rep (rdL B n m) lc.toNat 0 (p + 2) (mset (mset L 8 m gi) 9 m lc)) fun p' L' => rdM3 B n m p' L')
noncomputable def rdM (B : Int → Int) (n m p : Int) (L : PG) : RdR := tkC B n 0 255 p fun c => if c ≠ 255 ∧ 8 + L 0 0 ≤ c then .error p else
  tkC B n 0 15 (p + 1) fun nm => cif (c ≠ 255 ∧ ∃ k, 0 ≤ k ∧ k < m ∧ L 5 k = c ∧ L 6 k = nm) (.error (p + 1))
  (tkC B n (if c = 255 then 0 else 1) 4 (p + 2) fun ar => bnd (rep (rdA B n m c) ar.toNat 0 (p + 3) (mset (mset (mset (mset L 16 m p) 5 m c) 6 m nm) 7 m ar)) fun p' L' => rdM2 B n m c p' L')
