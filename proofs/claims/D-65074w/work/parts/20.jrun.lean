/-! J-layer, part 16: the symbolic executor -/
def cj : List Prop → Prop
  | [] => True
  | [p] => p
  | p :: ps => p ∧ cj ps
/-- side conditions of two branches -/
def csd (c nc : Prop) (s1 s2 : List Prop) : List Prop := match s1, s2 with
  | [], [] => []
  | [], s2 => [nc → cj s2]
  | s1, [] => [c → cj s1]
  | s1, s2 => [c → cj s1, nc → cj s2]
def sel (c : Jvm.ClassFile.Cond) (a b z1 z2 : Int) : Int := match c with
  | .eq => if a = b then z1 else z2
  | .ne => if a = b then z2 else z1
  | .lt => if a < b then z1 else z2
  | .ge => if a < b then z2 else z1
  | .gt => if b < a then z1 else z2
  | .le => if b < a then z2 else z1
def tgt (pc : Nat) (off : Int) : Nat := (Int.ofNat pc + off).toNat
def tok (pc : Nat) (off : Int) : Bool := decide (0 ≤ Int.ofNat pc + off)
/-- it leaves the locals as they are -/
def kpl (i : Instr) : Bool := match i with
  | .istore _ | .istore_n _ | .lstore _ | .lstore_n _ | .astore _ | .astore_n _ | .iinc _ _ => false
  | _ => true
/-- a value that is reckoned by branches, up to where they join -/
def evPb (P : JP) (bw : Nat) (code : List (Nat × List (Nat × Instr))) (join : Nat) (rc : Nat → List LV → List LV → MH → Option (List Prop × Nat × Int)) (pc : Nat) (lv r : List LV) (h : MH) : Option (List Prop × Nat × Int) := cond (Nat.beq pc join)
    (match r with
      | [(g, z)] => cond (Nat.beq g 5000) none (some ([], g, z))
      | _ => none)
    (match lkc code pc with
      | none => none
      | some i => match i with
        | .goto off => cond (tok pc off) (rc (tgt pc off) lv r h) none
        | .if_icmp c off => match r with
          | (g, b) :: (g', a) :: r0 => cond (p0 g && (p0 g' && tok pc off)) (match rc (tgt pc off) lv r0 h, rc (pc + 3) lv r0 h with
            | some (s1, g1, z1), some (s2, g2, z2) => cond (Nat.beq g1 g2) (some (csd (cnd c a b) (cnd (neg c) a b) s1 s2, g1, sel c a b z1 z2)) none
            | _, _ => none) none
          | _ => none
        | .ifCond c off => match r with
          | (g, a) :: r0 => cond (p0 g && tok pc off) (match rc (tgt pc off) lv r0 h, rc (pc + 3) lv r0 h with
            | some (s1, g1, z1), some (s2, g2, z2) => cond (Nat.beq g1 g2) (some (csd (cnd c a 0) (cnd (neg c) a 0) s1 s2, g1, sel c a 0 z1 z2)) none
            | _, _ => none) none
          | _ => none
        | .ifnull off => match r with
          | (g, a) :: r0 => cond (pR g && tok pc off) (match rc (tgt pc off) lv r0 h, rc (pc + 3) lv r0 h with
            | some (s1, g1, z1), some (s2, g2, z2) => cond (Nat.beq g1 g2) (some (csd (a = 0) (¬ a = 0) s1 s2, g1, if a = 0 then z1 else z2)) none
            | _, _ => none) none
          | _ => none
        | .ifnonnull off => match r with
          | (g, a) :: r0 => cond (pR g && tok pc off) (match rc (tgt pc off) lv r0 h, rc (pc + 3) lv r0 h with
            | some (s1, g1, z1), some (s2, g2, z2) => cond (Nat.beq g1 g2) (some (csd (¬ a = 0) (a = 0) s1 s2, g1, if a = 0 then z2 else z1)) none
            | _, _ => none) none
          | _ => none
        | i => match pst P bw i lv r h with
          | some (ps, _, r') => cond (kpl i) (match rc (pc + iln i) lv r' h with
            | some (s, g, z) => some (ps ++ s, g, z)
            | none => none) none
          | none => none)
def evP (P : JP) (bw : Nat) (code : List (Nat × List (Nat × Instr))) (join : Nat) : Nat → Nat → List LV → List LV → MH → Option (List Prop × Nat × Int)
  | 0 => fun _ _ _ _ => none
  | n + 1 => evPb P bw code join (evP P bw code join n)
/-- two roads put together: 0 always the first exit, 1 always the second, 2 by the condition -/
def cmb (c nc : Prop) (x y : Nat × Prop × List Prop) : Nat × Prop × List Prop :=
  cond (Nat.beq x.1 0) (cond (Nat.beq y.1 0) (0, True, csd c nc x.2.2 y.2.2) (cond (Nat.beq y.1 1) (2, c, csd c nc x.2.2 y.2.2) (2, c ∨ y.2.1, csd c nc x.2.2 y.2.2)))
  (cond (Nat.beq x.1 1) (cond (Nat.beq y.1 0) (2, nc, csd c nc x.2.2 y.2.2) (cond (Nat.beq y.1 1) (1, False, csd c nc x.2.2 y.2.2) (2, nc ∧ y.2.1, csd c nc x.2.2 y.2.2)))
  (cond (Nat.beq y.1 0) (2, nc ∨ x.2.1, csd c nc x.2.2 y.2.2) (cond (Nat.beq y.1 1) (2, c ∧ x.2.1, csd c nc x.2.2 y.2.2) (2, (c ∧ x.2.1) ∨ (nc ∧ y.2.1), csd c nc x.2.2 y.2.2))))
def evCb (P : JP) (bw : Nat) (code : List (Nat × List (Nat × Instr))) (X Y : Nat) (rc : Nat → List LV → List LV → MH → Option (Nat × Prop × List Prop)) (pc : Nat) (lv r : List LV) (h : MH) : Option (Nat × Prop × List Prop) := cond (Nat.beq pc X) (match r with
      | [] => some (0, True, [])
      | _ => none) (cond (Nat.beq pc Y) (match r with
      | [] => some (1, False, [])
      | _ => none)
    (match lkc code pc with
      | none => none
      | some i => match i with
        | .goto off => cond (tok pc off) (rc (tgt pc off) lv r h) none
        | .if_icmp c off => match r with
          | (g, b) :: (g', a) :: r0 => cond (p0 g && (p0 g' && tok pc off)) (match rc (tgt pc off) lv r0 h, rc (pc + 3) lv r0 h with
            | some x, some y => some (cmb (cnd c a b) (cnd (neg c) a b) x y)
            | _, _ => none) none
          | _ => none
        | .ifCond c off => match r with
          | (g, a) :: r0 => cond (p0 g && tok pc off) (match rc (tgt pc off) lv r0 h, rc (pc + 3) lv r0 h with
            | some x, some y => some (cmb (cnd c a 0) (cnd (neg c) a 0) x y)
            | _, _ => none) none
          | _ => none
        | .ifnull off => match r with
          | (g, a) :: r0 => cond (pR g && tok pc off) (match rc (tgt pc off) lv r0 h, rc (pc + 3) lv r0 h with
            | some x, some y => some (cmb (a = 0) (¬ a = 0) x y)
            | _, _ => none) none
          | _ => none
        | .ifnonnull off => match r with
          | (g, a) :: r0 => cond (pR g && tok pc off) (match rc (tgt pc off) lv r0 h, rc (pc + 3) lv r0 h with
            | some x, some y => some (cmb (¬ a = 0) (a = 0) x y)
            | _, _ => none) none
          | _ => none
        | i => match pst P bw i lv r h with
          | some (ps, _, r') => cond (kpl i) (match rc (pc + iln i) lv r' h with
            | some (k, C, s) => some (k, C, ps ++ s)
            | none => none) none
          | none => none))
def evC (P : JP) (bw : Nat) (code : List (Nat × List (Nat × Instr))) (X Y : Nat) : Nat → Nat → List LV → List LV → MH → Option (Nat × Prop × List Prop)
  | 0 => fun _ _ _ _ => none
  | n + 1 => evCb P bw code X Y (evC P bw code X Y n)
/-- what a branch takes from the stack -/
def ops (i : Instr) (st : List LV) : Option (List LV × List LV) := match i with
  | .if_icmp _ _ => match st with
    | x :: y :: st => some ([x, y], st)
    | _ => none
  | .ifCond _ _ | .ifnull _ | .ifnonnull _ => match st with
    | x :: st => some ([x], st)
    | _ => none
  | _ => none
/-- the side conditions of a value that is stored -/
def vsd (vt gx : Nat) (x : Int) : Option (List Prop) :=
  cond (Nat.beq vt 0) (cond (p0 gx) (some []) none) (cond (Nat.beq vt 1) (cond (p1 gx) (some []) none) (cond (Nat.beq vt 2) (cond (p0 gx) (some [x = 0 ∨ x = 1]) none) (cond (Nat.beq vt 3) (cond (p0 gx) (some [-128 ≤ x ∧ x ≤ 127]) none) (cond (cvt gx vt && Nat.ble 4 gx) (some []) none))))
def atT (a : ArrayType) : Nat := match a with
  | .int => 100
  | .long => 101
  | .boolean => 102
  | .byte => 103
  | _ => 0
/-- one step of the executor -/
def runb (P : JP) (code : List (Nat × List (Nat × Instr))) (cuts : List (Nat × List Nat × List Nat)) (dia : List (Nat × Nat)) (cnr : List (Nat × Nat × Nat)) (J : Nat → List LV → List LV → MH → Prop) (Q : Int → MH → Prop) (E : Nat → Int → MH → Prop) (rc : Nat → List LV → List LV → MH → Prop) (first : Bool) (pc : Nat) (lv st : List LV) (h : MH) : Prop := match cond first none (lk cuts pc) with
    | some (lt, stt) => (match rtg lt lv, rtg stt st with
      | some lv', some st' => J pc lv' st' h
      | _, _ => J pc lv st h)
    | none => match lkc code pc with
      | none => J pc lv st h
      | some i => match lk dia pc with
        | some j => (match ops i st with
          | some (r, st0) => (match evP P (wst st0) code j 200 pc lv r h with
            | some (s, g, z) => sides s (rc j lv ((g, z) :: st0) h)
            | none => J pc lv st h)
          | none => J pc lv st h)
        | none => match lk cnr pc with
          | some (X, Y) => (match ops i st with
            | some (r, st0) => (match evC P (wst st0) code X Y 200 pc lv r h with
              | some (_, C, s) => sides s ((C → rc X lv st0 h) ∧ (¬ C → rc Y lv st0 h))
              | none => J pc lv st h)
            | none => J pc lv st h)
          | none => match i with
            | .goto off => cond (tok pc off) (rc (tgt pc off) lv st h) (J pc lv st h)
            | .if_icmp c off => (match st with
              | (g, b) :: (g', a) :: st0 => cond (p0 g && (p0 g' && tok pc off)) ((cnd c a b → rc (tgt pc off) lv st0 h) ∧ (cnd (neg c) a b → rc (pc + 3) lv st0 h)) (J pc lv st h)
              | _ => J pc lv st h)
            | .ifCond c off => (match st with
              | (g, a) :: st0 => cond (p0 g && tok pc off) ((cnd c a 0 → rc (tgt pc off) lv st0 h) ∧ (cnd (neg c) a 0 → rc (pc + 3) lv st0 h)) (J pc lv st h)
              | _ => J pc lv st h)
            | .ifnull off => (match st with
              | (g, a) :: st0 => cond (pR g && tok pc off) ((a = 0 → rc (tgt pc off) lv st0 h) ∧ (¬ a = 0 → rc (pc + 3) lv st0 h)) (J pc lv st h)
              | _ => J pc lv st h)
            | .ifnonnull off => (match st with
              | (g, a) :: st0 => cond (pR g && tok pc off) ((¬ a = 0 → rc (tgt pc off) lv st0 h) ∧ (a = 0 → rc (pc + 3) lv st0 h)) (J pc lv st h)
              | _ => J pc lv st h)
            | .tableswitch dflt lo hi offs => (match st with
              | (g, a) :: st0 => cond (p0 g && (tok pc dflt && (offs.toList.all (fun o => tok pc o) && decide (hi = lo + Int.ofNat offs.toList.length - 1))))
                (swt (fun t => rc t lv st0 h) a lo (offs.toList.map (fun o => tgt pc o)) ∧ ((a < lo ∨ hi < a) → rc (tgt pc dflt) lv st0 h)) (J pc lv st h)
              | _ => J pc lv st h)
            | .ireturn => (match st with
              | [(g, z)] => cond (p0 g) (cond (Nat.beq (pRt P) 0) (Q z h) (cond (Nat.beq (pRt P) 2) ((z = 0 ∨ z = 1) ∧ Q z h) (J pc lv st h))) (J pc lv st h)
              | _ => J pc lv st h)
            | .lreturn => (match st with
              | [(g, z)] => cond (p1 g && Nat.beq (pRt P) 1) (Q z h) (J pc lv st h)
              | _ => J pc lv st h)
            | .areturn => (match st with
              | [(g, z)] => cond (Nat.ble 4 g && (Nat.ble 4 (pRt P) && (Nat.blt (pRt P) 700 && cvt g (pRt P)))) (Q z h) (J pc lv st h)
              | _ => J pc lv st h)
            | .return_ => (match st with
              | [] => cond (Nat.beq (pRt P) 700) (Q 0 h) (J pc lv st h)
              | _ => J pc lv st h)
            | .athrow => (match st with
              | (g, a) :: _ => cond (Nat.ble 2000 g && Nat.blt g 2100) (E (g - 2000) a h) (J pc lv st h)
              | _ => J pc lv st h)
            | .putfield k => (match lk (pRp P) k, st with
              | some (t, f, vt), (gx, x) :: (g, a) :: st0 => (match vsd vt gx x with
                | some vs => cond (isRf g && Nat.beq (arT g) t) (sides (nlc g a ++ vs) (∀ h1, h1 = hset h a (Int.ofNat f) x → rc (pc + 3) lv st0 h1)) (J pc lv st h)
                | none => J pc lv st h)
              | _, _ => J pc lv st h)
            | .iastore => (match st with
              | (gx, x) :: (gi, i) :: (g, a) :: st0 => cond (p0 gx && (p0 gi && (isRf g && Nat.beq (arT g) 100))) (sides (nlc g a ++ [0 ≤ i, i < aLn g h a]) (∀ h1, h1 = hset h a i x → rc (pc + 1) lv st0 h1)) (J pc lv st h)
              | _ => J pc lv st h)
            | .lastore => (match st with
              | (gx, x) :: (gi, i) :: (g, a) :: st0 => cond (p1 gx && (p0 gi && (isRf g && Nat.beq (arT g) 101))) (sides (nlc g a ++ [0 ≤ i, i < aLn g h a]) (∀ h1, h1 = hset h a i x → rc (pc + 1) lv st0 h1)) (J pc lv st h)
              | _ => J pc lv st h)
            | .bastore => (match st with
              | (gx, x) :: (gi, i) :: (g, a) :: st0 => cond (p0 gx && (p0 gi && (isRf g && Nat.beq (arT g) 102))) (sides (nlc g a ++ [0 ≤ i, i < aLn g h a, x = 0 ∨ x = 1]) (∀ h1, h1 = hset h a i x → rc (pc + 1) lv st0 h1))
                (cond (p0 gx && (p0 gi && (isRf g && Nat.beq (arT g) 103))) (sides (nlc g a ++ [0 ≤ i, i < aLn g h a, -128 ≤ x ∧ x ≤ 127]) (∀ h1, h1 = hset h a i x → rc (pc + 1) lv st0 h1)) (J pc lv st h))
              | _ => J pc lv st h)
            | .aastore => (match st with
              | (gx, x) :: (gi, i) :: (g, a) :: st0 => cond (isRf gx && (Nat.beq (arT gx) (ety (arT g) - 4) && (p0 gi && (isRf g && (Nat.ble 113 (arT g) && (Nat.ble 4 (ety (arT g)) && (jat (arT g)).isSome)))))) (sides (nlc g a ++ ([0 ≤ i, i < aLn g h a] ++ nlc gx x)) (∀ h1, h1 = hset h a i x → rc (pc + 1) lv st0 h1)) (J pc lv st h)
              | _ => J pc lv st h)
            | .new k => (match lk (pRn P) k with
              | some (t, c) => cond ((kft t).isEmpty || !(pOn P)) (sides [hz h + 1 ≤ LIMC, hs h + Int.ofNat c ≤ LIMS] (∀ h1, h1 = hnew h t 0 (Int.ofNat c) → rc (pc + 3) lv ((2000 + t, hz h + 1) :: st) h1)) (J pc lv st h)
              | none => J pc lv st h)
            | .newarray at' => (match st with
              | (g, z) :: st0 => cond (p0 g && Nat.ble 100 (atT at')) (sides [0 ≤ z, hz h + 1 ≤ LIMC, hs h + z ≤ LIMS] (∀ h1, h1 = hnew h (atT at') z z → rc (pc + 2) lv ((2000 + atT at', hz h + 1) :: st0) h1)) (J pc lv st h)
              | _ => J pc lv st h)
            | .anewarray k => (match lk (pRa P) k, st with
              | some t, (g, z) :: st0 => cond (p0 g) (sides [0 ≤ z, hz h + 1 ≤ LIMC, hs h + z ≤ LIMS] (∀ h1, h1 = hnew h t z z → rc (pc + 3) lv ((2000 + t, hz h + 1) :: st0) h1)) (J pc lv st h)
              | _, _ => J pc lv st h)
            | .istore k => (match st with
              | (g, z) :: st0 => cond (p0 g && Nat.blt k lv.length) (∀ y, y = z → rc (pc + 2) (stl lv k (0, y)) st0 h) (J pc lv st h)
              | _ => J pc lv st h)
            | .istore_n k => (match st with
              | (g, z) :: st0 => cond (p0 g && Nat.blt k.val lv.length) (∀ y, y = z → rc (pc + 1) (stl lv k.val (0, y)) st0 h) (J pc lv st h)
              | _ => J pc lv st h)
            | .astore k => (match st with
              | (g, z) :: st0 => cond (pR g && Nat.blt k lv.length) (∀ y, y = z → rc (pc + 2) (stl lv k (g, y)) st0 h) (J pc lv st h)
              | _ => J pc lv st h)
            | .astore_n k => (match st with
              | (g, z) :: st0 => cond (pR g && Nat.blt k.val lv.length) (∀ y, y = z → rc (pc + 1) (stl lv k.val (g, y)) st0 h) (J pc lv st h)
              | _ => J pc lv st h)
            | .lstore k => (match st with
              | (g, z) :: st0 => cond (p1 g && Nat.blt (k + 1) lv.length) (∀ y, y = z → rc (pc + 2) (stl2 lv k (1, y)) st0 h) (J pc lv st h)
              | _ => J pc lv st h)
            | .lstore_n k => (match st with
              | (g, z) :: st0 => cond (p1 g && Nat.blt (k.val + 1) lv.length) (∀ y, y = z → rc (pc + 1) (stl2 lv k.val (1, y)) st0 h) (J pc lv st h)
              | _ => J pc lv st h)
            | .iinc k d => (match nth lv k with
              | some x => cond (on1 x p0) (∀ y, y = w32 (x.2 + d) → rc (pc + 3) (stl lv k (0, y)) st h) (J pc lv st h)
              | none => J pc lv st h)
            | .invokestatic k => (match lk (pCa P) k with
              | some (0, tgs, rt, sem) => (match tk tgs [] st with
                | some (as, st0) => cond (Nat.ble (wst st0) 8) (sem as h (fun z h1 => rc (pc + 3) lv (psh rt z st0) h1) E) (J pc lv st h)
                | none => J pc lv st h)
              | _ => (match pst P 0 (.invokestatic k) lv st h with
                | some (ps, lv', st') => sides ps (rc (pc + 3) lv' st' h)
                | none => J pc lv st h))
            | .invokevirtual k => (match lk (pCa P) k with
              | some (1, tgs, rt, sem) => (match tk tgs.dropLast [] st, tgs.getLast? with
                | some (as, (g, a) :: st0), some g' => cond (Nat.ble (wst st0) 8 && (isRf g && (Nat.ble 2000 g' && (Nat.blt g' 2100 && Nat.beq (arT g) (g' % 1000))))) (sides (nlc g a) (sem ((g', a) :: as) h (fun z h1 => rc (pc + 3) lv (psh rt z st0) h1) E)) (J pc lv st h)
                | _, _ => J pc lv st h)
              | _ => J pc lv st h)
            | .invokespecial k => (match lk (pCa P) k with
              | some (2, tgs, rt, sem) => (match tk tgs.dropLast [] st, tgs.getLast? with
                | some (as, (g, a) :: st0), some g' => cond (Nat.ble (wst st0) 8 && (isRf g && (Nat.ble 2000 g' && (Nat.blt g' 2100 && Nat.beq (arT g) (g' % 1000))))) (sides (nlc g a) (sem ((g', a) :: as) h (fun z h1 => rc (pc + 3) lv (psh rt z st0) h1) E)) (J pc lv st h)
                | _, _ => J pc lv st h)
              | some (3, _, _, _) => (match st with
                | (g, a) :: st0 => cond (isRf g && Nat.ble (wst st0) 8) (sides (nlc g a) (rc (pc + 3) lv st0 h)) (J pc lv st h)
                | _ => J pc lv st h)
              | _ => J pc lv st h)
            | i => (match pst P 0 i lv st h with
              | some (ps, lv', st') => sides ps (rc (pc + iln i) lv' st' h)
              | none => J pc lv st h)
/-- the executor: from pc on, up to cuts, ends of the method, or what it does not know -/
def run (P : JP) (code : List (Nat × List (Nat × Instr))) (cuts : List (Nat × List Nat × List Nat)) (dia : List (Nat × Nat)) (cnr : List (Nat × Nat × Nat)) (J : Nat → List LV → List LV → MH → Prop) (Q : Int → MH → Prop) (E : Nat → Int → MH → Prop) : Nat → Bool → Nat → List LV → List LV → MH → Prop
  | 0 => fun _ => J
  | n + 1 => fun first pc lv st h => frc lv (fun lv => frc st (fun st => runb P code cuts dia cnr J Q E (run P code cuts dia cnr J Q E n false) first pc lv st h))
