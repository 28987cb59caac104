/-! Part 37z: closed tables (the definitions that are used; those of 28d of the same names without z are not) -/
/-- a fact of one of its sites -/
def rs (f : FA) (s : Int) : FA := if ath f = 0 then fz else fv (alo f) (ahi f) (alb f) (l_shl 1 s)
theorem rs_le {f g : FA} {s : Int} (p : fle f g) : fle (rs f s) (rs g s) := by
  unfold rs
  by_cases h : ath f = 0
  · rw [if_pos h]; exact fle_fz _
  · obtain ⟨p0, p1, p2, p3, -⟩ := p h
    rw [if_neg h, if_neg p0]
    exact fle_fv p1 p2 p3 (fun _ q => q)
/-- arguments and plain locals -/
def entz (L : PG) (X : Int → FA) (k s c : Int) : Int → FA := fun j => if j < pAr L c then (if j = 0 ∧ s ≠ -1 then (if L 99 0 = 1 then b1 s else rs (X (frs L k)) s) else X (frs L k + j)) else f1st (pLk L c j)
def Csz (L : PG) (T U : TB) (k : Int) (X : Int → FA) (lk : FA) (d : Int) : Prop :=
  (pOp L k = 0 → GT L U k (nx L k) (ux X (8 + d) (fv (pY L k) (pY L k) 0 0)) lk) ∧
  (pOp L k = 1 → GT L U k (nx L k) (ux X (8 + d) (fs 1)) lk) ∧
  (pOp L k = 2 → GT L U k (nx L k) (ux X (8 + d) (X (pX L k))) lk) ∧
  (pOp L k = 3 → GT L U k (nx L k) (ux X (pX L k) (X (7 + d))) lk) ∧
  (pOp L k = 4 → GT L U k (nx L k) X lk) ∧
  (pOp L k = 5 → GT L U k (nx L k) (ux X (8 + d) (X (7 + d))) lk) ∧
  (pOp L k = 6 → GT L U k (nx L k) (ux (ux X (7 + d) (X (6 + d))) (6 + d) (X (7 + d))) lk) ∧
  (pOp L k = 7 ∨ pOp L k = 8 ∨ pOp L k = 9 → GT L U k (nx L k) (ux X (6 + d) (rk L (pOp L k) (X (6 + d)) (X (7 + d)))) lk) ∧
  (pOp L k = 10 ∨ pOp L k = 11 → (ath (rk L (pOp L k) (X (6 + d)) (X (7 + d))) ≠ 0 → GT L U k (nx L k) (ux X (6 + d) (rk L (pOp L k) (X (6 + d)) (X (7 + d)))) lk) ∧
    (ath (X (7 + d)) ≠ 0 ∧ alo (X (7 + d)) ≤ 0 ∧ 0 ≤ ahi (X (7 + d)) → TS L U k X 4 lk)) ∧
  (pOp L k = 12 → GT L U k (nx L k) (ux X (7 + d) (rk L 12 (X (7 + d)) (X (7 + d)))) lk) ∧
  (pOp L k = 13 → GT L U k (nx L k) (ux X (8 + d) (fv (pY L k) (pZ L k) (i_shl 1 (pX L k)) 0)) lk) ∧
  (pOp L k = 14 → (ath (X (7 + d)) ≠ 0 → fle (fv (alo (X (7 + d))) (ahi (X (7 + d))) (alb (X (7 + d))) 0) (U 4 (pX L k) 0)) ∧ GT L U k (nx L k) X lk) ∧
  (pOp L k = 15 → GT L U k (pZ L k) X lk) ∧
  (pOp L k = 16 → (mayp (pX L k) (X (6 + d)) (X (7 + d)) → GT L U k (pZ L k) X lk) ∧ (mayp (i_xor (pX L k) 1) (X (6 + d)) (X (7 + d)) → GT L U k (nx L k) X lk)) ∧
  (pOp L k = 17 → (mayp (pX L k / 8) (X (pX L k % 8)) (fv (pY L k) (pY L k) 0 0) → GT L U k (pZ L k) (ux X (pX L k % 8) (ctf (pX L k / 8) (X (pX L k % 8)) (pY L k))) lk) ∧
    (mayp (i_xor (pX L k / 8) 1) (X (pX L k % 8)) (fv (pY L k) (pY L k) 0 0) → GT L U k (nx L k) (ux X (pX L k % 8) (ctf (i_xor (pX L k / 8) 1) (X (pX L k % 8)) (pY L k))) lk)) ∧
  (pOp L k = 18 → ∀ s, sb (X (pX L k)) s → (s = 0 → GT L U k (pZ L k) (ux X (pX L k) (rs (X (pX L k)) s)) lk) ∧ (s ≠ 0 → GT L U k (nx L k) (ux X (pX L k) (rs (X (pX L k)) s)) lk)) ∧
  (pOp L k = 19 → ∀ s, sb (X (pX L k)) s → (s ≠ 0 ∧ isOf L s (pY L k) = true → GT L U k (pZ L k) (ux X (pX L k) (rs (X (pX L k)) s)) lk) ∧ (¬ (s ≠ 0 ∧ isOf L s (pY L k) = true) → GT L U k (nx L k) (ux X (pX L k) (rs (X (pX L k)) s)) lk))
def Ccz (L : PG) (T U : TB) (k : Int) (X : Int → FA) (lk : FA) (d : Int) : Prop :=
  (pOp L k = 29 ∨ pOp L k = 30 → ∀ s c, cld L X k s c →
    fle (fs 0) (U 10 k c) ∧ Flow L U (pFi L c) (entz L X k s c) lk ∧ fle (T 15 c 0) (U 15 (pMo L k) 0) ∧
    (∀ s', sb (T 14 c 0) s' → TS L U k X s' (lke T k c)) ∧
    (ath (T 5 c 0) ≠ 0 → GT L U k (nx L k) (if 0 < pGi L c then ux X (frs L k) (T 5 c 0) else X) (lkr L T k c))) ∧
  (pOp L k = 36 → ∀ s c, cld L X k s c → fle (fs 0) (U 10 k c) ∧ Flow L U (pFi L c) (entz L X k s c) (fk 0 0) ∧ TS L U k X 6 lk ∧ GT L U k (nx L k) X lk) ∧
  (pOp L k = 30 ∨ pOp L k = 36 → ∀ s, sb (X (frs L k)) s → (s = 0 → TS L U k X 1 lk) ∧ (s ≠ 0 → sent L s (pX L k) < 0 → TS L U k X 5 lk)) ∧
  (pOp L k = 31 → (fle (if 0 < pGi L (pMo L k) then X (7 + d) else fv 0 0 0 0) (U 5 (pMo L k) 0)) ∧ fle lk (U 7 (pMo L k) 0)) ∧
  (pOp L k = 32 → ∀ s, sb (X (7 + d)) s → (s = 0 → TS L U k X 1 lk) ∧ (s ≠ 0 → TS L U k X (if isOf L s 1 = true then s else 5) lk)) ∧
  (pOp L k = 33 → ∀ s, sb (X (7 + d)) s → (s = 0 ∨ isOf L s (pX L k) = true → GT L U k (nx L k) (ux X (7 + d) (b1 s)) lk) ∧ (s ≠ 0 → isOf L s (pX L k) = false → TS L U k X 5 lk)) ∧
  (pOp L k = 34 → (bi (asu lk) (pX L k) = false → GT L U k (nx L k) X (fk (i_or (asu lk) (i_shl 1 (pX L k))) (i_or (alb lk) (i_shl 1 (pX L k))))) ∧ (bi (alb lk) (pX L k) = true → TS L U k X 6 lk)) ∧
  (pOp L k = 35 → fle (fv 0 0 (i_shl 1 (pX L k)) 0) (U 15 (pMo L k) 0) ∧
    (bi (alb lk) (pX L k) = true → GT L U k (nx L k) X (fk (i_and (asu lk) (i_xor (i_shl 1 (pX L k)) (-1))) (i_and (alb lk) (i_xor (i_shl 1 (pX L k)) (-1))))) ∧ (bi (asu lk) (pX L k) = false → TS L U k X 6 lk))
/-- A TABLE U HAS WHAT A PLACE SENDS ON, of facts T -/
def CLz (L : PG) (T U : TB) (k : Int) : Prop := Csz L T U k (T 0 k) (T 6 k 0) (pDp L k) ∧ Co L T U k (T 0 k) (T 6 k 0) (pDp L k) ∧ Ccz L T U k (T 0 k) (T 6 k 0) (pDp L k)
def closedz (L : PG) (R : Int → Prop) (U : TB) : Prop := CI L R U ∧ ∀ k, 0 ≤ k → k < pNp L → rch U k → CLz L U U k
theorem entz_le {L : PG} {X Y : Int → FA} {k s c : Int} (p : xle X Y) : xle (entz L X k s c) (entz L Y k s c) := by
  intro j; unfold entz; split
  · split
    · split
      · exact fle_rfl _
      · exact rs_le (p _)
    · exact p _
  · exact fle_rfl _
