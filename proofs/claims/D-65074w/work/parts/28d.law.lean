/-! Part 41: a program as it was read (plain), and what closed tables are -/
abbrev PG : Type := Int → Int → Int
abbrev pCl (L : PG) : Int := L 0 0
abbrev pNs (L : PG) : Int := L 0 1
abbrev pNm (L : PG) : Int := L 0 6
abbrev pNp (L : PG) : Int := L 0 21
abbrev pNt (L : PG) : Int := L 0 30
abbrev pSk (L : PG) (i : Int) : Int := L 1 i
abbrev pPa (L : PG) (c : Int) : Int := L 2 c
abbrev pFc (L : PG) (c : Int) : Int := L 3 c
abbrev pFk (L : PG) (c f : Int) : Int := L 4 (8 * c + f)
abbrev pOw (L : PG) (m : Int) : Int := L 5 m
abbrev pNa (L : PG) (m : Int) : Int := L 6 m
abbrev pAr (L : PG) (m : Int) : Int := L 7 m
abbrev pGi (L : PG) (m : Int) : Int := L 8 m
abbrev pLc (L : PG) (m : Int) : Int := L 9 m
abbrev pLk (L : PG) (m k : Int) : Int := L 10 (8 * m + k)
abbrev pDe (L : PG) (m : Int) : Int := L 11 m
abbrev pHn (L : PG) (m : Int) : Int := L 12 m
abbrev pHa (L : PG) (m h w : Int) : Int := L 13 (16 * m + 4 * h + w)
abbrev pCo (L : PG) (m : Int) : Int := L 14 m
abbrev pFi (L : PG) (m : Int) : Int := L 15 m
abbrev pOp (L : PG) (k : Int) : Int := L 19 k
abbrev pX (L : PG) (k : Int) : Int := L 20 k
abbrev pY (L : PG) (k : Int) : Int := L 21 k
abbrev pZ (L : PG) (k : Int) : Int := L 22 k
abbrev pMo (L : PG) (k : Int) : Int := L 24 k
abbrev pSi (L : PG) (k : Int) : Int := L 25 k
abbrev pSc (L : PG) (s : Int) : Int := L 26 s
abbrev pDp (L : PG) (k : Int) : Int := L 27 k
abbrev pKi (L : PG) (k : Int) : Int := L 28 k
/-- the first number from k on, of n, that has p -/
def frm (p : Int → Bool) : Nat → Int → Int
  | 0, _ => -1
  | n + 1, k => if p k = true then k else frm p n (k + 1)
/-- a class is another one or below it -/
def blw (L : PG) : Nat → Int → Int → Bool
  | 0, c, d => decide (c = d)
  | n + 1, c, d => if c = d then true else if c ≤ 0 then false else blw L n (pPa L c) d
def isOf (L : PG) (s c : Int) : Bool := if pSc L s < 0 then decide (c = 0) else blw L 30 (pSc L s) c
def owns (L : PG) (c nm m : Int) : Bool := decide (pOw L m = c) && decide (pNa L m = nm)
def sto (L : PG) (nm : Int) : Nat → Int → Int
  | 0, _ => -1
  | n + 1, c => if 0 ≤ frm (owns L c nm) (pNm L).toNat 0 then frm (owns L c nm) (pNm L).toNat 0 else if c ≤ 0 then -1 else sto L nm n (pPa L c)
/-- the method that a name is for a site; -1 -/
def sent (L : PG) (s nm : Int) : Int := sto L nm 30 (if pSc L s < 0 then 0 else pSc L s)
def wnm (L : PG) (nm : Int) : Int := frm (fun m => !decide (pOw L m = 255) && decide (pNa L m = nm)) (pNm L).toNat 0
/-- the handler that a site thrown at a place goes to; -1 -/
def hnd (L : PG) (k s : Int) : Int := frm (fun h => decide (pHa L (pMo L k) h 0 ≤ k - pFi L (pMo L k)) && decide (k - pFi L (pMo L k) < pHa L (pMo L k) h 1) && isOf L s (pHa L (pMo L k) h 3)) (pHn L (pMo L k)).toNat 0
/-! marks -/
def isMk (L : PG) (v : Int) : Prop := v = -2147483648 ∨ v = 2147483647 ∨ v = -1 ∨ v = 0 ∨ v = 1 ∨ v = 100 ∨
  ∃ k, 0 ≤ k ∧ k < pNp L ∧ (((pOp L k = 0 ∨ pOp L k = 17) ∧ (v = pY L k - 1 ∨ v = pY L k ∨ v = pY L k + 1)) ∨ (pOp L k = 13 ∧ (v = pY L k ∨ v = pZ L k)))
def isDn (L : PG) (v r : Int) : Prop := isMk L r ∧ r ≤ v ∧ ∀ u, isMk L u → u ≤ v → u ≤ r
def isUp (L : PG) (v r : Int) : Prop := isMk L r ∧ v ≤ r ∧ ∀ u, isMk L u → v ≤ u → r ≤ u
noncomputable def dn (L : PG) (v : Int) : Int := Classical.epsilon (isDn L v)
noncomputable def upm (L : PG) (v : Int) : Int := Classical.epsilon (isUp L v)
theorem dn_eq {L : PG} {v r : Int} (h : isDn L v r) : dn L v = r := by
  have q : isDn L v (dn L v) := Classical.epsilon_spec (p := isDn L v) ⟨r, h⟩
  have h1 := q.2.2 r h.1 h.2.1
  have h2 := h.2.2 _ q.1 q.2.1
  omega
theorem up_eq {L : PG} {v r : Int} (h : isUp L v r) : upm L v = r := by
  have q : isUp L v (upm L v) := Classical.epsilon_spec (p := isUp L v) ⟨r, h⟩
  have h1 := q.2.2 r h.1 h.2.1
  have h2 := h.2.2 _ q.1 q.2.1
  omega
/-- there is a greatest mark below a number of 32 bits -/
theorem dn_ex (L : PG) {v : Int} (h : -2147483648 ≤ v) : isDn L v (dn L v) := by
  apply Classical.epsilon_spec (p := isDn L v)
  have key : ∀ n : Nat, ∀ w : Int, w ≤ v → (w + 2147483648).toNat = n → -2147483648 ≤ w → (∀ u, isMk L u → u ≤ v → u ≤ w) → ∃ r, isDn L v r := by
    intro n
    induction n with
    | zero =>
      intro w w1 w2 w3 w4
      have : w = -2147483648 := by omega
      exact ⟨w, Or.inl this, w1, w4⟩
    | succ n ih =>
      intro w w1 w2 w3 w4
      by_cases c : isMk L w
      · exact ⟨w, c, w1, w4⟩
      · refine ih (w - 1) (by omega) (by omega) (by omega) (fun u u1 u2 => ?_)
        have := w4 u u1 u2
        have : u ≠ w := fun e => c (e ▸ u1)
        omega
  exact key _ v (Int.le_refl _) rfl h (fun u _ q => q)
theorem up_ex (L : PG) {v : Int} (h : v ≤ 2147483647) : isUp L v (upm L v) := by
  apply Classical.epsilon_spec (p := isUp L v)
  have key : ∀ n : Nat, ∀ w : Int, v ≤ w → (2147483647 - w).toNat = n → w ≤ 2147483647 → (∀ u, isMk L u → v ≤ u → w ≤ u) → ∃ r, isUp L v r := by
    intro n
    induction n with
    | zero =>
      intro w w1 w2 w3 w4
      have : w = 2147483647 := by omega
      exact ⟨w, Or.inr (Or.inl this), w1, w4⟩
    | succ n ih =>
      intro w w1 w2 w3 w4
      by_cases c : isMk L w
      · exact ⟨w, c, w1, w4⟩
      · refine ih (w + 1) (by omega) (by omega) (by omega) (fun u u1 u2 => ?_)
        have := w4 u u1 u2
        have : u ≠ w := fun e => c (e ▸ u1)
        omega
  exact key _ v (Int.le_refl _) rfl h (fun u _ q => q)
theorem dn_mono (L : PG) {v w : Int} (h : -2147483648 ≤ v) (e : v ≤ w) : dn L v ≤ dn L w :=
  (dn_ex L (by omega : -2147483648 ≤ w)).2.2 _ (dn_ex L h).1 (by have := (dn_ex L h).2.1; omega)
theorem up_mono (L : PG) {v w : Int} (h : w ≤ 2147483647) (e : v ≤ w) : upm L v ≤ upm L w :=
  (up_ex L (by omega : v ≤ 2147483647)).2.2 _ (up_ex L h).1 (by have := (up_ex L h).2.1; omega)
theorem dn_mk {L : PG} {v : Int} (h : isMk L v) : dn L v = v := dn_eq ⟨h, Int.le_refl _, fun _ _ q => q⟩
theorem up_mk {L : PG} {v : Int} (h : isMk L v) : upm L v = v := up_eq ⟨h, Int.le_refl _, fun _ _ q => q⟩
theorem dn_lo (L : PG) {v : Int} (h : -2147483648 ≤ v) : -2147483648 ≤ dn L v := (dn_ex L h).2.2 _ (Or.inl rfl) h
theorem up_hi (L : PG) {v : Int} (h : v ≤ 2147483647) : upm L v ≤ 2147483647 := (up_ex L h).2.2 _ (Or.inr (Or.inl rfl)) h
/-! numbers are reckoned -/
noncomputable def rnd (L : PG) (l h b : Int) : FA := if l < -2147483648 ∨ 2147483647 < h then fv (-2147483648) 2147483647 b 0 else fv (dn L l) (upm L h) b 0
def mn4 (a b c d : Int) : Int := min (min a b) (min c d)
def mx4 (a b c d : Int) : Int := max (max a b) (max c d)
def qlo (l h l2 h2 : Int) : Int :=
  if l2 < 0 then (if 0 < h2 then min (mn4 (l.tdiv l2) (l.tdiv (-1)) (h.tdiv l2) (h.tdiv (-1))) (mn4 (l.tdiv 1) (l.tdiv h2) (h.tdiv 1) (h.tdiv h2)) else mn4 (l.tdiv l2) (l.tdiv (min (-1) h2)) (h.tdiv l2) (h.tdiv (min (-1) h2)))
  else mn4 (l.tdiv (max 1 l2)) (l.tdiv h2) (h.tdiv (max 1 l2)) (h.tdiv h2)
def qhi (l h l2 h2 : Int) : Int :=
  if l2 < 0 then (if 0 < h2 then max (mx4 (l.tdiv l2) (l.tdiv (-1)) (h.tdiv l2) (h.tdiv (-1))) (mx4 (l.tdiv 1) (l.tdiv h2) (h.tdiv 1) (h.tdiv h2)) else mx4 (l.tdiv l2) (l.tdiv (min (-1) h2)) (h.tdiv l2) (h.tdiv (min (-1) h2)))
  else mx4 (l.tdiv (max 1 l2)) (l.tdiv h2) (h.tdiv (max 1 l2)) (h.tdiv h2)
def iabs (x : Int) : Int := if x < 0 then -x else x
/-- what comes of two numbers; nothing when the divisor is 0 alone -/
noncomputable def rk (L : PG) (op : Int) (a b : FA) : FA :=
  if ath a = 0 ∨ ath b = 0 then fz
  else if op = 12 then rnd L (-ahi b) (-alo b) (alb b)
  else if op = 7 then rnd L (alo a + alo b) (ahi a + ahi b) (i_or (alb b) (alb a))
  else if op = 8 then rnd L (alo a - ahi b) (ahi a - alo b) (i_or (alb b) (alb a))
  else if op = 9 then rnd L (mn4 (alo a * alo b) (alo a * ahi b) (ahi a * alo b) (ahi a * ahi b)) (mx4 (alo a * alo b) (alo a * ahi b) (ahi a * alo b) (ahi a * ahi b)) (i_or (alb b) (alb a))
  else if alo b = 0 ∧ ahi b = 0 then fz
  else if op = 11 then rnd L (if alo a < 0 then max (1 - max (iabs (alo b)) (iabs (ahi b))) (alo a) else 0) (if 0 < ahi a then min (max (iabs (alo b)) (iabs (ahi b)) - 1) (ahi a) else 0) (i_or (alb b) (alb a))
  else rnd L (qlo (alo a) (ahi a) (alo b) (ahi b)) (qhi (alo a) (ahi a) (alo b) (ahi b)) (i_or (alb b) (alb a))
/-- a span cut to what is so to y -/
def ctf (w : Int) (f : FA) (y : Int) : FA :=
  if w = 0 then fv y y (alb f) (ast f)
  else if w = 1 then fv (if alo f = y then alo f + 1 else alo f) (if ahi f = y then ahi f - 1 else ahi f) (alb f) (ast f)
  else if w = 2 then fv (alo f) (min (ahi f) (y - 1)) (alb f) (ast f)
  else if w = 3 then fv (max (alo f) y) (ahi f) (alb f) (ast f)
  else if w = 4 then fv (max (alo f) (y + 1)) (ahi f) (alb f) (ast f)
  else fv (alo f) (min (ahi f) y) (alb f) (ast f)
def mayp (w : Int) (a b : FA) : Prop := ath a ≠ 0 ∧ ath b ≠ 0 ∧ mayf w (alo a) (ahi a) (alo b) (ahi b) = 1
/-- 0, or null -/
def f1st (kind : Int) : FA := if kind = 1 then fs 1 else fv 0 0 0 0
/-! what a closed table has -/
def ux (X : Int → FA) (s : Int) (v : FA) : Int → FA := fun j => if j = s then v else X j
def rel (L : PG) (q s : Int) : Prop := (0 ≤ s ∧ s < pLc L (pMo L q)) ∨ (8 ≤ s ∧ s < 8 + pDp L q)
def Flow (L : PG) (U : TB) (q : Int) (X : Int → FA) (lk : FA) : Prop := (∀ s, rel L q s → fle (X s) (U 0 q s)) ∧ fle lk (U 6 q 0)
def GT (L : PG) (U : TB) (k i : Int) (X : Int → FA) (lk : FA) : Prop := fle (fs 0) (U 11 k i) ∧ Flow L U (pFi L (pMo L k) + i) X lk
def nx (L : PG) (k : Int) : Int := k - pFi L (pMo L k) + 1
def b1 (s : Int) : FA := fs (l_shl 1 s)
/-- a site is thrown at a place, with locks -/
def TS (L : PG) (U : TB) (k : Int) (X : Int → FA) (s : Int) (lk : FA) : Prop := fle (b1 s) (U 9 k 0) ∧
  (hnd L k s < 0 → fle (b1 s) (U 14 (pMo L k) 0) ∧ fle lk (U 8 (pMo L k) 0)) ∧
  (0 ≤ hnd L k s → Flow L U (pFi L (pMo L k) + pHa L (pMo L k) (hnd L k s) 2) (ux X 8 (b1 s)) lk)
/-- a site is among those of a fact -/
def sb (a : FA) (s : Int) : Prop := 0 ≤ s ∧ s < 63 ∧ bl (ast a) s = true
/-- the slot of a call's first argument -/
def frs (L : PG) (k : Int) : Int := 8 + pDp L k - pAr L (if pOp L k = 29 then pY L k else wnm L (pX L k))
/-- a method may be called at a place for a site (-1: none is asked) -/
def cld (L : PG) (X : Int → FA) (k s c : Int) : Prop := (pOp L k = 29 ∧ s = -1 ∧ c = pY L k) ∨ (pOp L k ≠ 29 ∧ 1 ≤ s ∧ sb (X (frs L k)) s ∧ c = sent L s (pX L k) ∧ 0 ≤ c)
/-- arguments and plain locals -/
def ent (L : PG) (X : Int → FA) (k s c : Int) : Int → FA := fun j => if j < pAr L c then (if j = 0 ∧ s ≠ -1 then b1 s else X (frs L k + j)) else f1st (pLk L c j)
/-- what may be unlocked by what is called at a place, of the first n methods -/
noncomputable def undI (L : PG) (T : TB) (k : Int) : Nat → Int
  | 0 => 0
  | n + 1 => @ite Int (∃ s, cld L (T 0 k) k s n) (Classical.propDecidable _) (i_or (undI L T k n) (alb (T 15 n 0))) (undI L T k n)
noncomputable def und (L : PG) (T : TB) (k : Int) : Int := undI L T k (pNm L).toNat
def isarr (L : PG) (s kind : Int) : Prop := pSc L s = -1 - kind
/-- locks behind a call; of what escapes from it -/
noncomputable def lkr (L : PG) (T : TB) (k c : Int) : FA := fk (i_or (asu (T 7 c 0)) (i_and (asu (T 6 k 0)) (i_xor (und L T k) (-1)))) (alb (T 7 c 0))
def lke (T : TB) (k c : Int) : FA := fk (i_or (asu (T 8 c 0)) (i_and (asu (T 6 k 0)) (i_xor (alb (T 15 c 0)) (-1)))) (alb (T 8 c 0))
def Cs (L : PG) (T U : TB) (k : Int) (X : Int → FA) (lk : FA) (d : Int) : Prop :=
  (pOp L k = 0 → GT L U k (nx L k) (ux X (8 + d) (fv (pY L k) (pY L k) 0 0)) lk) ∧
  (pOp L k = 1 → GT L U k (nx L k) (ux X (8 + d) (fs 1)) lk) ∧
  (pOp L k = 2 → GT L U k (nx L k) (ux X (8 + d) (X (pX L k))) lk) ∧
  (pOp L k = 3 → GT L U k (nx L k) (ux X (pX L k) (X (7 + d))) lk) ∧
  (pOp L k = 4 → GT L U k (nx L k) X lk) ∧
  (pOp L k = 5 → GT L U k (nx L k) (ux X (8 + d) (X (7 + d))) lk) ∧
  (pOp L k = 6 → GT L U k (nx L k) (ux (ux X (7 + d) (X (6 + d))) (6 + d) (X (7 + d))) lk) ∧
  (pOp L k = 7 ∨ pOp L k = 8 ∨ pOp L k = 9 → GT L U k (nx L k) (ux X (6 + d) (rk L (pOp L k) (X (6 + d)) (X (7 + d)))) lk) ∧
  (pOp L k = 10 ∨ pOp L k = 11 → (ath (rk L (pOp L k) (X (6 + d)) (X (7 + d))) ≠ 0 → GT L U k (nx L k) (ux X (6 + d) (rk L (pOp L k) (X (6 + d)) (X (7 + d)))) lk) ∧
    (ath (X (7 + d)) ≠ 0 ∧ alo (X (7 + d)) ≤ 0 ∧ 0 ≤ ahi (X (7 + d)) → TS L U k X 4 lk)) ∧
  (pOp L k = 12 → GT L U k (nx L k) (ux X (7 + d) (rk L 12 (X (7 + d)) (X (7 + d)))) lk) ∧
  (pOp L k = 13 → GT L U k (nx L k) (ux X (8 + d) (fv (pY L k) (pZ L k) (i_shl 1 (pX L k)) 0)) lk) ∧
  (pOp L k = 14 → (ath (X (7 + d)) ≠ 0 → fle (fv (alo (X (7 + d))) (ahi (X (7 + d))) (alb (X (7 + d))) 0) (U 4 (pX L k) 0)) ∧ GT L U k (nx L k) X lk) ∧
  (pOp L k = 15 → GT L U k (pZ L k) X lk) ∧
  (pOp L k = 16 → (mayp (pX L k) (X (6 + d)) (X (7 + d)) → GT L U k (pZ L k) X lk) ∧ (mayp (i_xor (pX L k) 1) (X (6 + d)) (X (7 + d)) → GT L U k (nx L k) X lk)) ∧
  (pOp L k = 17 → (mayp (pX L k / 8) (X (pX L k % 8)) (fv (pY L k) (pY L k) 0 0) → GT L U k (pZ L k) (ux X (pX L k % 8) (ctf (pX L k / 8) (X (pX L k % 8)) (pY L k))) lk) ∧
    (mayp (i_xor (pX L k / 8) 1) (X (pX L k % 8)) (fv (pY L k) (pY L k) 0 0) → GT L U k (nx L k) (ux X (pX L k % 8) (ctf (i_xor (pX L k / 8) 1) (X (pX L k % 8)) (pY L k))) lk)) ∧
  (pOp L k = 18 → ∀ s, sb (X (pX L k)) s → (s = 0 → GT L U k (pZ L k) (ux X (pX L k) (b1 s)) lk) ∧ (s ≠ 0 → GT L U k (nx L k) (ux X (pX L k) (b1 s)) lk)) ∧
  (pOp L k = 19 → ∀ s, sb (X (pX L k)) s → (s ≠ 0 ∧ isOf L s (pY L k) = true → GT L U k (pZ L k) (ux X (pX L k) (b1 s)) lk) ∧ (¬ (s ≠ 0 ∧ isOf L s (pY L k) = true) → GT L U k (nx L k) (ux X (pX L k) (b1 s)) lk))
def Co (L : PG) (T U : TB) (k : Int) (X : Int → FA) (lk : FA) (d : Int) : Prop :=
  (pOp L k = 20 → (∀ f, 0 ≤ f → f < pFc L (pX L k) → fle (f1st (pFk L (pX L k) f)) (U 1 (pSi L k) f)) ∧ GT L U k (nx L k) (ux X (8 + d) (b1 (pSi L k))) lk) ∧
  (pOp L k = 21 → ath (X (7 + d)) ≠ 0 → (0 ≤ ahi (X (7 + d)) ∧ alo (X (7 + d)) ≤ 100 → fle (f1st (pX L k)) (U 1 (pSi L k) 0) ∧ fle (fv (max 0 (alo (X (7 + d)))) (min 100 (ahi (X (7 + d)))) 0 0) (U 2 (pSi L k) 0) ∧ GT L U k (nx L k) (ux X (7 + d) (b1 (pSi L k))) lk) ∧
    (alo (X (7 + d)) < 0 ∨ 100 < ahi (X (7 + d)) → TS L U k X 3 lk)) ∧
  (pOp L k = 22 → ∀ s, sb (X (7 + d)) s → (s = 0 → TS L U k X 1 lk) ∧ (s ≠ 0 → 0 ≤ pSc L s → TS L U k X 5 lk) ∧
    (s ≠ 0 → pSc L s < 0 → ath (T 2 s 0) ≠ 0 → GT L U k (nx L k) (ux X (7 + d) (T 2 s 0)) lk)) ∧
  (pOp L k = 23 → ∀ s, sb (X (6 + d)) s → (s = 0 → TS L U k X 1 lk) ∧ (s ≠ 0 → ¬ isarr L s (pX L k) → TS L U k X 5 lk) ∧
    (s ≠ 0 → isarr L s (pX L k) → ath (T 2 s 0) ≠ 0 → ath (X (7 + d)) ≠ 0 → (alo (X (7 + d)) < 0 ∨ alo (T 2 s 0) ≤ ahi (X (7 + d)) → TS L U k X 2 lk) ∧
      (0 ≤ ahi (X (7 + d)) ∧ alo (X (7 + d)) < ahi (T 2 s 0) → GT L U k (nx L k) (ux X (6 + d) (T 1 s 0)) lk))) ∧
  (pOp L k = 24 → ∀ s, sb (X (5 + d)) s → (s = 0 → TS L U k X 1 lk) ∧ (s ≠ 0 → ¬ isarr L s (pX L k) → TS L U k X 5 lk) ∧
    (s ≠ 0 → isarr L s (pX L k) → ath (T 2 s 0) ≠ 0 → ath (X (6 + d)) ≠ 0 → (alo (X (6 + d)) < 0 ∨ alo (T 2 s 0) ≤ ahi (X (6 + d)) → TS L U k X 2 lk) ∧
      (0 ≤ ahi (X (6 + d)) ∧ alo (X (6 + d)) < ahi (T 2 s 0) → fle (X (7 + d)) (U 1 s 0) ∧ GT L U k (nx L k) X lk))) ∧
  (pOp L k = 25 → ∀ s, sb (X (7 + d)) s → (s = 0 → TS L U k X 1 lk) ∧ (s ≠ 0 → isOf L s (pX L k) = false → TS L U k X 5 lk) ∧
    (s ≠ 0 → isOf L s (pX L k) = true → GT L U k (nx L k) (ux X (7 + d) (T 1 s (pY L k))) lk)) ∧
  (pOp L k = 26 → ∀ s, sb (X (6 + d)) s → (s = 0 → TS L U k X 1 lk) ∧ (s ≠ 0 → isOf L s (pX L k) = false → TS L U k X 5 lk) ∧
    (s ≠ 0 → isOf L s (pX L k) = true → fle (X (7 + d)) (U 1 s (pY L k)) ∧ GT L U k (nx L k) X lk)) ∧
  (pOp L k = 27 → GT L U k (nx L k) (ux X (8 + d) (T 3 (pX L k) 0)) lk) ∧
  (pOp L k = 28 → fle (X (7 + d)) (U 3 (pX L k) 0) ∧ GT L U k (nx L k) X lk)
def Cc (L : PG) (T U : TB) (k : Int) (X : Int → FA) (lk : FA) (d : Int) : Prop :=
  (pOp L k = 29 ∨ pOp L k = 30 → ∀ s c, cld L X k s c →
    fle (b1 c) (U 10 k 0) ∧ Flow L U (pFi L c) (ent L X k s c) lk ∧ fle (T 15 c 0) (U 15 (pMo L k) 0) ∧
    (∀ s', sb (T 14 c 0) s' → TS L U k X s' (lke T k c)) ∧
    (ath (T 5 c 0) ≠ 0 → GT L U k (nx L k) (if 0 < pGi L c then ux X (frs L k) (T 5 c 0) else X) (lkr L T k c))) ∧
  (pOp L k = 36 → ∀ s c, cld L X k s c → fle (b1 c) (U 10 k 0) ∧ Flow L U (pFi L c) (ent L X k s c) (fk 0 0) ∧ TS L U k X 6 lk ∧ GT L U k (nx L k) X lk) ∧
  (pOp L k = 30 ∨ pOp L k = 36 → ∀ s, sb (X (frs L k)) s → (s = 0 → TS L U k X 1 lk) ∧ (s ≠ 0 → sent L s (pX L k) < 0 → TS L U k X 5 lk)) ∧
  (pOp L k = 31 → (fle (if 0 < pGi L (pMo L k) then X (7 + d) else fv 0 0 0 0) (U 5 (pMo L k) 0)) ∧ fle lk (U 7 (pMo L k) 0)) ∧
  (pOp L k = 32 → ∀ s, sb (X (7 + d)) s → (s = 0 → TS L U k X 1 lk) ∧ (s ≠ 0 → TS L U k X (if isOf L s 1 = true then s else 5) lk)) ∧
  (pOp L k = 33 → ∀ s, sb (X (7 + d)) s → (s = 0 ∨ isOf L s (pX L k) = true → GT L U k (nx L k) (ux X (7 + d) (b1 s)) lk) ∧ (s ≠ 0 → isOf L s (pX L k) = false → TS L U k X 5 lk)) ∧
  (pOp L k = 34 → (bi (asu lk) (pX L k) = false → GT L U k (nx L k) X (fk (i_or (asu lk) (i_shl 1 (pX L k))) (i_or (alb lk) (i_shl 1 (pX L k))))) ∧ (bi (alb lk) (pX L k) = true → TS L U k X 6 lk)) ∧
  (pOp L k = 35 → fle (fv 0 0 (i_shl 1 (pX L k)) 0) (U 15 (pMo L k) 0) ∧
    (bi (alb lk) (pX L k) = true → GT L U k (nx L k) X (fk (i_and (asu lk) (i_xor (i_shl 1 (pX L k)) (-1))) (i_and (alb lk) (i_xor (i_shl 1 (pX L k)) (-1))))) ∧ (bi (asu lk) (pX L k) = false → TS L U k X 6 lk))
/-- A TABLE U HAS WHAT A PLACE SENDS ON, of facts T -/
def CL (L : PG) (T U : TB) (k : Int) : Prop := Cs L T U k (T 0 k) (T 6 k 0) (pDp L k) ∧ Co L T U k (T 0 k) (T 6 k 0) (pDp L k) ∧ Cc L T U k (T 0 k) (T 6 k 0) (pDp L k)
def rch (T : TB) (k : Int) : Prop := ath (T 6 k 0) ≠ 0
/-- the first facts of a root -/
def rtx (L : PG) (m : Int) : Int → FA := fun j => if j < pAr L m ∧ pLk L m j = 0 then fv (-2147483648) 2147483647 0 0 else f1st (pLk L m j)
def CI (L : PG) (R : Int → Prop) (U : TB) : Prop := (∀ m, 0 ≤ m → m < pNm L → R m → Flow L U (pFi L m) (rtx L m) (fk 0 0)) ∧ (∀ i, 0 ≤ i → i < pNs L → fle (f1st (pSk L i)) (U 3 i 0))
def closed (L : PG) (R : Int → Prop) (U : TB) : Prop := CI L R U ∧ ∀ k, 0 ≤ k → k < pNp L → rch U k → CL L U U k
