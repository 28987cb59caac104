/-! J-layer, part 10: the pure steps as one function, and that it is right -/
def lk {α : Type} : List (Nat × α) → Nat → Option α
  | [], _ => none
  | (k, x) :: r, i => cond (Nat.beq k i) (some x) (lk r i)
theorem lk_mem {α : Type} : ∀ {l : List (Nat × α)} {i : Nat} {x : α}, lk l i = some x → (i, x) ∈ l
  | [], _, _, h => by simp [lk] at h
  | (k, y) :: r, i, x, h => by
    unfold lk at h
    cases hb : Nat.beq k i with
    | true =>
      rw [hb] at h
      simp only [cond_true, Option.some.injEq] at h
      have e := Nat.eq_of_beq_eq_true hb
      subst e; subst h
      exact List.mem_cons_self
    | false =>
      rw [hb] at h
      exact List.mem_cons_of_mem _ (lk_mem h)
def nth : List LV → Nat → Option LV
  | [], _ => none
  | x :: _, 0 => some x
  | _ :: r, k + 1 => nth r k
theorem nth_eq : ∀ (l : List LV) (k : Nat), nth l k = l[k]?
  | [], k => by simp [nth]
  | x :: r, 0 => by simp [nth]
  | x :: r, k + 1 => by simp [nth, nth_eq r k]
/-- side conditions ahead of a goal -/
def sides : List Prop → Prop → Prop
  | [], q => q
  | p :: ps, q => p ∧ sides ps q
theorem sides_app : ∀ (a b : List Prop) (q : Prop), sides (a ++ b) q = sides a (sides b q)
  | [], b, q => rfl
  | p :: a, b, q => by show (p ∧ sides (a ++ b) q) = (p ∧ sides a (sides b q)); rw [sides_app a b q]
/-- a tag of a reference to an object or an array of the heap -/
def isRf (g : Nat) : Bool := Nat.ble 4 g && (!(Nat.beq g 5000) && (!(Nat.beq g 800) && (!(Nat.beq g 900) && (Nat.blt g 800 || Nat.ble 2000 g))))
def arT (g : Nat) : Nat := cond (Nat.blt g 800) (g - 4) (g % 1000)
def nlc (g : Nat) (a : Int) : List Prop := cond (Nat.blt g 800) [a ≠ 0] []
def aLn (g : Nat) (h : MH) (a : Int) : Int := cond (Nat.ble 1000000 g) (Int.ofNat ((g - 1000000) / 1000)) (hn h a)
theorem isRf_4 {g : Nat} (h : isRf g = true) : 4 ≤ g := by
  unfold isRf at h
  simp only [Bool.and_eq_true] at h
  exact Nat.le_of_ble_eq_true h.1
theorem blt_iff (a b : Nat) : Nat.blt a b = true ↔ a < b := by
  unfold Nat.blt
  constructor
  · intro h; exact Nat.le_of_ble_eq_true h
  · intro h; exact Nat.ble_eq_true_of_le h
theorem blt_f {a b : Nat} (h : ¬ a < b) : Nat.blt a b = false := by
  cases e : Nat.blt a b with
  | false => rfl
  | true => exact absurd ((blt_iff a b).mp e) h
theorem sides_nlc {g : Nat} {a : Int} {q : Prop} (h : sides (nlc g a) q) : (g < 800 → a ≠ 0) ∧ q := by
  unfold nlc at h
  by_cases hg : g < 800
  · rw [(blt_iff g 800).mpr hg] at h
    exact ⟨fun _ => h.1, h.2⟩
  · rw [blt_f hg] at h
    exact ⟨fun z => absurd z hg, h⟩
theorem tag_obj {h : MH} {g : Nat} {a : Int} (hr : isRf g = true) (hn0 : g < 800 → a ≠ 0) (ho : okv h (g, a)) : obj h (arT g) a := by
  have h4 := isRf_4 hr
  unfold arT
  by_cases hg : g < 800
  · rw [(blt_iff g 800).mpr hg]
    show obj h (g - 4) a
    exact obj_of_tag (by omega) (hn0 hg) (by rw [show 4 + (g - 4) = g by omega]; exact ho)
  · rw [blt_f hg]
    unfold isRf at hr
    simp only [Bool.and_eq_true, Bool.or_eq_true, Bool.not_eq_true'] at hr
    obtain ⟨-, h1, h2, h3, h5⟩ := hr
    refine obj_of_nn ?_ ?_ ho
    · rcases h5 with z | z
      · exact absurd ((blt_iff g 800).mp z) hg
      · exact Nat.le_of_ble_eq_true z
    · intro e
      rw [e] at h1
      exact absurd h1 (by decide)
theorem tag_len {h : MH} {g : Nat} {a : Int} (ho : okv h (g, a)) : aLn g h a = hn h a := by
  unfold aLn
  cases hb : Nat.ble 1000000 g with
  | false => rfl
  | true =>
    have hg := Nat.le_of_ble_eq_true hb
    unfold okv at ho
    simp only [show ¬ g < 800 by omega, show ¬ g = 800 by omega, show ¬ g = 900 by omega, show ¬ g = 5000 by omega, if_false] at ho
    exact (ho.2.2.2 hg).symm
/-- what a call leaves on the stack -/
def psh (rt : Nat) (z : Int) (st : List LV) : List LV := cond (Nat.beq rt 700) st ((ft rt, z) :: st)
/-- the weight of what stays on the stack -/
def wst : List LV → Nat
  | [] => 0
  | x :: r => cond (on1 x (fun g => Nat.beq g 1)) 2 1 + wst r
abbrev MS : Type := List LV → MH → (Int → MH → Prop) → (Nat → Int → MH → Prop) → Prop
/-- a call's entry: kind (0 static, 1 virtual, 2 constructor, 3 Object's constructor), the arguments' tags (the last first), the result, the contract -/
abbrev CE : Type := Nat × List Nat × Nat × MS
/-- a pure function's entry: the arguments' tags (the last first), the result, the function -/
abbrev PE : Type := List Nat × Nat × (List Int → Int)
/-- the executor's tables: on, fields, constants, long constants, stores, new, anewarray, calls, whether in a constructor, the result's kind, pure functions -/
abbrev JP : Type := Bool × List (Nat × Nat × Nat × Nat × Nat) × List (Nat × Int) × List (Nat × Int) × List (Nat × Nat × Nat × Nat) × List (Nat × Nat × Nat) × List (Nat × Nat) × List (Nat × CE) × Bool × Nat × List (Nat × PE)
abbrev pOn (P : JP) : Bool := P.1
abbrev pRf (P : JP) := P.2.1
abbrev pRc (P : JP) := P.2.2.1
abbrev pRl (P : JP) := P.2.2.2.1
abbrev pRp (P : JP) := P.2.2.2.2.1
abbrev pRn (P : JP) := P.2.2.2.2.2.1
abbrev pRa (P : JP) := P.2.2.2.2.2.2.1
abbrev pCa (P : JP) := P.2.2.2.2.2.2.2.1
abbrev pIn (P : JP) : Bool := P.2.2.2.2.2.2.2.2.1
abbrev pRt (P : JP) : Nat := P.2.2.2.2.2.2.2.2.2.1
abbrev pPf (P : JP) : List (Nat × PE) := P.2.2.2.2.2.2.2.2.2.2
/-- a tag may be taken for another one -/
def cvt (g g' : Nat) : Bool := Nat.beq g g' || (Nat.beq g' 5000 || ((Nat.ble 4 g' && (Nat.blt g' 700 && (Nat.beq g 900 || (Nat.ble 2000 g && (!(Nat.beq g 5000) && Nat.beq (g % 1000) (g' - 4)))))) || (Nat.ble 2000 g' && (Nat.blt g' 3000 && (Nat.ble 1000000 g && Nat.beq (g % 1000) (g' % 1000))))))
def rt1 (g' : Nat) (x : LV) : LV := cond (Nat.beq g' 5000) (5000, 0) (g', x.2)
def rtg : List Nat → List LV → Option (List LV)
  | [], [] => some []
  | g' :: gs, x :: xs => cond (on1 x (fun g => cvt g g')) (match rtg gs xs with | some r => some (rt1 g' x :: r) | none => none) none
  | _, _ => none
def tk : List Nat → List LV → List LV → Option (List LV × List LV)
  | [], acc, st => some (acc, st)
  | g' :: gs, acc, x :: st => cond (on1 x (fun g => cvt g g') && !(Nat.beq g' 5000)) (tk gs ((g', x.2) :: acc) st) none
  | _ :: _, _, [] => none
abbrev PR : Type := Option (List Prop × List LV × List LV)
def ldv (p : Nat → Bool) (lv st : List LV) (k : Nat) : PR := match nth lv k with
  | some x => cond (on1 x p) (some ([], lv, x :: st)) none
  | none => none
def stv (p : Nat → Bool) (lv st : List LV) (k : Nat) : PR := match st with
  | x :: st => cond (on1 x p && Nat.blt k lv.length) (some ([], stl lv k x, st)) none
  | _ => none
def stw (lv st : List LV) (k : Nat) : PR := match st with
  | x :: st => cond (on1 x (fun g => Nat.beq g 1) && Nat.blt (k + 1) lv.length) (some ([], stl2 lv k x, st)) none
  | _ => none
def p0 (g : Nat) : Bool := Nat.beq g 0
def p1 (g : Nat) : Bool := Nat.beq g 1
def pR (g : Nat) : Bool := Nat.ble 4 g && !(Nat.beq g 5000)
def c1 (g : Nat) : Bool := !(Nat.beq g 1) && !(Nat.beq g 5000)
def ii (st : List LV) (f : Int → Int → Int) (lv : List LV) : PR := match st with
  | (g, b) :: (g', a) :: st => cond (p0 g && p0 g') (some ([], lv, (0, f a b) :: st)) none
  | _ => none
def ll (st : List LV) (f : Int → Int → Int) (lv : List LV) : PR := match st with
  | (g, b) :: (g', a) :: st => cond (p1 g && p1 g') (some ([], lv, (1, f a b) :: st)) none
  | _ => none
def li (st : List LV) (f : Int → Int → Int) (lv : List LV) : PR := match st with
  | (g, b) :: (g', a) :: st => cond (p0 g && p1 g') (some ([], lv, (1, f a b) :: st)) none
  | _ => none
def u1 (p : Nat → Bool) (t : Nat) (st : List LV) (f : Int → Int) (lv : List LV) : PR := match st with
  | (g, a) :: st => cond (p g) (some ([], lv, (t, f a) :: st)) none
  | _ => none
def aal (t : Nat) (st : List LV) (h : MH) (lv : List LV) (e : Nat) : PR := match st with
  | (gi, i) :: (g, a) :: st => cond (p0 gi && (isRf g && Nat.beq (arT g) t)) (some (nlc g a ++ [0 ≤ i, i < aLn g h a], lv, (e, hv h a i) :: st)) none
  | _ => none
/-- a pure step: its side conditions, the locals and the stack behind it -/
def pst (P : JP) (bw : Nat) (i : Instr) (lv st : List LV) (h : MH) : PR := match i with
  | .iconst n => cond (decide (-2147483648 ≤ n ∧ n ≤ 2147483647)) (some ([], lv, (0, n) :: st)) none
  | .bipush n => cond (decide (-128 ≤ n ∧ n ≤ 127)) (some ([], lv, (0, n) :: st)) none
  | .sipush n => cond (decide (-32768 ≤ n ∧ n ≤ 32767)) (some ([], lv, (0, n) :: st)) none
  | .lconst n => some ([], lv, (1, Int.ofNat n.val) :: st)
  | .ldc k => match lk (pRc P) k with
    | some z => some ([], lv, (0, z) :: st)
    | none => none
  | .ldc_w k => match lk (pRc P) k with
    | some z => some ([], lv, (0, z) :: st)
    | none => none
  | .ldc2_w k => match lk (pRl P) k with
    | some z => some ([], lv, (1, z) :: st)
    | none => none
  | .aconst_null => some ([], lv, (900, 0) :: st)
  | .iload k => ldv p0 lv st k
  | .iload_n k => ldv p0 lv st k.val
  | .lload k => ldv p1 lv st k
  | .lload_n k => ldv p1 lv st k.val
  | .aload k => ldv pR lv st k
  | .aload_n k => ldv pR lv st k.val
  | .istore k => stv p0 lv st k
  | .istore_n k => stv p0 lv st k.val
  | .lstore k => stw lv st k
  | .lstore_n k => stw lv st k.val
  | .astore k => stv pR lv st k
  | .astore_n k => stv pR lv st k.val
  | .iinc k d => match nth lv k with
    | some x => cond (on1 x p0) (some ([], stl lv k (0, w32 (x.2 + d)), st)) none
    | none => none
  | .iadd => ii st (fun a b => w32 (a + b)) lv
  | .isub => ii st (fun a b => w32 (a - b)) lv
  | .imul => ii st (fun a b => w32 (a * b)) lv
  | .iand => ii st i_and lv
  | .ior => ii st i_or lv
  | .ixor => ii st i_xor lv
  | .ishl => ii st i_shl lv
  | .ishr => ii st i_shr lv
  | .iushr => ii st i_ushr lv
  | .idiv => match st with
    | (g, b) :: (g', a) :: st => cond (p0 g && p0 g') (some ([¬ b = 0], lv, (0, i_div a b) :: st)) none
    | _ => none
  | .irem => match st with
    | (g, b) :: (g', a) :: st => cond (p0 g && p0 g') (some ([¬ b = 0], lv, (0, i_rem a b) :: st)) none
    | _ => none
  | .ineg => u1 p0 0 st (fun a => w32 (-a)) lv
  | .ladd => ll st (fun a b => w64 (a + b)) lv
  | .lsub => ll st (fun a b => w64 (a - b)) lv
  | .lmul => ll st (fun a b => w64 (a * b)) lv
  | .land => ll st l_and lv
  | .lor => ll st l_or lv
  | .lxor => ll st l_xor lv
  | .lshl => li st l_shl lv
  | .lshr => li st l_shr lv
  | .lushr => li st l_ushr lv
  | .ldiv => match st with
    | (g, b) :: (g', a) :: st => cond (p1 g && p1 g') (some ([¬ b = 0], lv, (1, l_div a b) :: st)) none
    | _ => none
  | .lrem => match st with
    | (g, b) :: (g', a) :: st => cond (p1 g && p1 g') (some ([¬ b = 0], lv, (1, l_rem a b) :: st)) none
    | _ => none
  | .lneg => u1 p1 1 st (fun a => w64 (-a)) lv
  | .i2l => u1 p0 1 st (fun a => a) lv
  | .l2i => u1 p1 0 st w32 lv
  | .i2b => u1 p0 0 st w8 lv
  | .lcmp => match st with
    | (g, b) :: (g', a) :: st => cond (p1 g && p1 g') (some ([], lv, (0, lc a b) :: st)) none
    | _ => none
  | .dup => match st with
    | x :: st => cond (on1 x c1) (some ([], lv, x :: x :: st)) none
    | _ => none
  | .pop => match st with
    | x :: st => cond (on1 x c1) (some ([], lv, st)) none
    | _ => none
  | .dup_x1 => match st with
    | x :: y :: st => cond (on1 x c1 && on1 y c1) (some ([], lv, x :: y :: x :: st)) none
    | _ => none
  | .dup_x2 => match st with
    | x :: y :: z :: st => cond (on1 x c1 && (on1 y c1 && on1 z c1)) (some ([], lv, x :: y :: z :: x :: st)) none
    | _ => none
  | .dup2 => match st with
    | x :: y :: st => cond (on1 x c1 && on1 y c1) (some ([], lv, x :: y :: x :: y :: st)) none
    | _ => none
  | .getfield k => match lk (pRf P) k, st with
    | some (t, f, tg, off), (g, a) :: st => cond (isRf g && Nat.beq (arT g) t) (cond (Nat.beq off 0)
        (some (nlc g a, lv, (tg, hv h a (Int.ofNat f)) :: st)) (some (nlc g a, lv, (tg, a + Int.ofNat off) :: st))) none
    | _, _ => none
  | .invokestatic k => match lk (pPf P) k with
    | some (tgs, rt, f) => (match tk tgs [] st with
      | some (as, st0) => cond (Nat.ble (wst st0 + bw) 8) (some ([], lv, psh rt (f (as.map (fun x => x.2))) st0)) none
      | none => none)
    | none => none
  | .iaload => aal 100 st h lv 0
  | .laload => aal 101 st h lv 1
  | .baload => match st with
    | (gi, i) :: (g, a) :: st => cond (p0 gi && (isRf g && (Nat.beq (arT g) 102 || Nat.beq (arT g) 103))) (some (nlc g a ++ [0 ≤ i, i < aLn g h a], lv, (0, hv h a i) :: st)) none
    | _ => none
  | .aaload => match st with
    | (gi, i) :: (g, a) :: st => cond (p0 gi && (isRf g && (Nat.ble 113 (arT g) && (Nat.ble 4 (ety (arT g)) && (Nat.blt (ety (arT g)) 800 && (jat (arT g)).isSome))))) (some (nlc g a ++ [0 ≤ i, i < aLn g h a], lv, (ety (arT g), hv h a i) :: st)) none
    | _ => none
  | .arraylength => match st with
    | (g, a) :: st => cond (isRf g && (Nat.ble 100 (arT g) && (jat (arT g)).isSome)) (some (nlc g a, lv, (0, aLn g h a) :: st)) none
    | _ => none
  | _ => none
/-- an instruction's length, but for switches -/
def iln (i : Instr) : Nat := match i with
  | .bipush _ | .iload _ | .lload _ | .aload _ | .istore _ | .lstore _ | .astore _ | .ldc _ | .newarray _ => 2
  | .sipush _ | .ldc_w _ | .ldc2_w _ | .iinc _ _ | .getfield _ | .putfield _ | .getstatic _ | .putstatic _ | .invokevirtual _ | .invokespecial _ | .invokestatic _ | .new _ | .anewarray _ | .goto _ | .if_icmp _ _ | .ifCond _ _ | .ifnull _ | .ifnonnull _ => 3
  | .multianewarray _ _ => 4
  | _ => 1
