/-! Part 38b: what a program that was read has (plain) -/
/-- how many values an instruction takes from the stack, lays on it -/
def lik (L : PG) (k : Int) : Int := if pOp L k = 29 then pY L k else wnm L (pX L k)
def ppo (L : PG) (k : Int) : Int :=
  if pOp L k = 3 ∨ pOp L k = 4 ∨ pOp L k = 5 ∨ pOp L k = 12 ∨ pOp L k = 14 ∨ pOp L k = 21 ∨ pOp L k = 22 ∨ pOp L k = 25 ∨ pOp L k = 28 ∨ pOp L k = 32 ∨ pOp L k = 33 ∨ pOp L k = 36 then 1
  else if pOp L k = 6 ∨ (7 ≤ pOp L k ∧ pOp L k ≤ 11) ∨ pOp L k = 16 ∨ pOp L k = 23 ∨ pOp L k = 26 then 2
  else if pOp L k = 24 then 3 else if pOp L k = 29 ∨ pOp L k = 30 then pAr L (lik L k)
  else if pOp L k = 31 then (if 0 < pGi L (pMo L k) then 1 else 0) else 0
def ppu (L : PG) (k : Int) : Int :=
  if pOp L k = 0 ∨ pOp L k = 1 ∨ pOp L k = 2 ∨ (7 ≤ pOp L k ∧ pOp L k ≤ 13) ∨ pOp L k = 20 ∨ pOp L k = 21 ∨ pOp L k = 22 ∨ pOp L k = 23 ∨ pOp L k = 25 ∨ pOp L k = 27 ∨ pOp L k = 33 then 1
  else if pOp L k = 5 ∨ pOp L k = 6 then 2 else if pOp L k = 29 ∨ pOp L k = 30 then (if 0 < pGi L (lik L k) then 1 else 0) else 0
def WFn (L : PG) : Prop := 0 ≤ pCl L ∧ pCl L ≤ 16 ∧ 0 ≤ pNs L ∧ pNs L ≤ 8 ∧ 1 ≤ pNm L ∧ pNm L ≤ 40 ∧ 0 ≤ pNp L ∧ pNp L ≤ 1500 ∧ 7 ≤ pNt L ∧ pNt L ≤ 63
def WFc (L : PG) : Prop := pPa L 0 = -1 ∧ (∀ c, 1 ≤ c → c < 24 → 0 ≤ pPa L c ∧ pPa L c < c) ∧ (∀ c, 0 ≤ c → c < 24 → 0 ≤ pFc L c ∧ pFc L c ≤ 8) ∧ (∀ c, 0 ≤ c → c < 8 → pFc L c = 0) ∧
  (∀ c f, 0 ≤ c → c < 24 → 0 ≤ f → f < pFc L c → pFk L c f = 0 ∨ pFk L c f = 1) ∧
  (∀ c, 1 ≤ c → c < 24 → pFc L (pPa L c) ≤ pFc L c ∧ ∀ f, 0 ≤ f → f < pFc L (pPa L c) → pFk L c f = pFk L (pPa L c) f) ∧
  (∀ i, 0 ≤ i → i < pNs L → pSk L i = 0 ∨ pSk L i = 1)
def WFm (L : PG) (m : Int) : Prop := (pOw L m = 255 ∨ (0 ≤ pOw L m ∧ pOw L m < 8 + pCl L)) ∧ 0 ≤ pNa L m ∧ pNa L m ≤ 15 ∧ 0 ≤ pAr L m ∧ pAr L m ≤ 4 ∧ (pOw L m ≠ 255 → 1 ≤ pAr L m ∧ pLk L m 0 = 1) ∧
  0 ≤ pGi L m ∧ pGi L m ≤ 2 ∧ pAr L m ≤ pLc L m ∧ pLc L m ≤ 8 ∧ (∀ j, 0 ≤ j → j < pLc L m → pLk L m j = 0 ∨ pLk L m j = 1) ∧ 0 ≤ pDe L m ∧ pDe L m ≤ 8 ∧ 0 ≤ pHn L m ∧ pHn L m ≤ 4 ∧
  1 ≤ pCo L m ∧ pCo L m ≤ 120 ∧ 0 ≤ pFi L m ∧ pFi L m + pCo L m ≤ pNp L ∧ (∀ i, 0 ≤ i → i < pCo L m → pMo L (pFi L m + i) = m) ∧ pDp L (pFi L m) = 0 ∧
  (∀ j, 0 ≤ j → j < pHn L m → 0 ≤ pHa L m j 0 ∧ pHa L m j 0 < pHa L m j 1 ∧ pHa L m j 1 ≤ pCo L m ∧ 0 ≤ pHa L m j 2 ∧ pHa L m j 2 < pCo L m ∧ 0 ≤ pHa L m j 3 ∧ pHa L m j 3 < 8 + pCl L ∧ pDp L (pFi L m + pHa L m j 2) = 1)
/-- methods of classes that share a name are alike -/
def WFl (L : PG) : Prop := ∀ a b, 0 ≤ a → a < pNm L → 0 ≤ b → b < pNm L → pOw L a ≠ 255 → pOw L b ≠ 255 → pNa L a = pNa L b → pAr L a = pAr L b ∧ pGi L a = pGi L b ∧ ∀ j, 0 ≤ j → j < pAr L a → pLk L a j = pLk L b j
def WFk (L : PG) (k : Int) : Prop := (0 ≤ pMo L k ∧ pMo L k < pNm L ∧ pFi L (pMo L k) ≤ k ∧ k < pFi L (pMo L k) + pCo L (pMo L k)) ∧ (0 ≤ pOp L k ∧ pOp L k ≤ 36) ∧ (0 ≤ pX L k ∧ pX L k ≤ 255) ∧
  (-32768 ≤ pY L k ∧ pY L k ≤ 32767 ∧ -32768 ≤ pZ L k ∧ pZ L k ≤ 32767) ∧
  ((pOp L k = 2 ∨ pOp L k = 3 ∨ pOp L k = 18 ∨ pOp L k = 19) → pX L k < pLc L (pMo L k)) ∧
  ((pOp L k = 13 ∨ pOp L k = 14 ∨ pOp L k = 34 ∨ pOp L k = 35) → pX L k ≤ 7) ∧ (pOp L k = 16 → pX L k ≤ 5) ∧ (pOp L k = 17 → pX L k ≤ 47 ∧ pX L k % 8 < pLc L (pMo L k)) ∧
  ((pOp L k = 20 ∨ pOp L k = 25 ∨ pOp L k = 26 ∨ pOp L k = 33) → pX L k < 8 + pCl L) ∧ ((pOp L k = 21 ∨ pOp L k = 23 ∨ pOp L k = 24) → pX L k ≤ 1) ∧
  ((pOp L k = 27 ∨ pOp L k = 28) → pX L k < pNs L) ∧ (pOp L k = 19 → 0 ≤ pY L k ∧ pY L k < 8 + pCl L) ∧ ((pOp L k = 25 ∨ pOp L k = 26) → 0 ≤ pY L k ∧ pY L k < pFc L (pX L k)) ∧
  (pOp L k = 29 → 0 ≤ pY L k ∧ pY L k < pNm L ∧ pOw L (pY L k) = 255) ∧ ((pOp L k = 30 ∨ pOp L k = 36) → pX L k ≤ 15 ∧ 0 ≤ wnm L (pX L k)) ∧
  (pOp L k = 36 → pAr L (wnm L (pX L k)) = 1 ∧ pGi L (wnm L (pX L k)) = 0) ∧ (pOp L k = 13 → pY L k ≤ pZ L k) ∧
  ((15 ≤ pOp L k ∧ pOp L k ≤ 19) → 0 ≤ pZ L k ∧ pZ L k < pCo L (pMo L k) ∧ pDp L (pFi L (pMo L k) + pZ L k) = 0 ∧ pDp L k = ppo L k) ∧
  ((pOp L k = 20 ∨ pOp L k = 21) → 7 ≤ pSi L k ∧ pSi L k < pNt L ∧ pSc L (pSi L k) = (if pOp L k = 20 then pX L k else -1 - pX L k)) ∧
  (0 ≤ pDp L k ∧ pDp L k ≤ 8 ∧ ppo L k ≤ pDp L k ∧ pDp L k - ppo L k + ppu L k ≤ 8) ∧
  (pOp L k ≠ 15 → pOp L k ≠ 31 → pOp L k ≠ 32 → k + 1 < pFi L (pMo L k) + pCo L (pMo L k) ∧ pDp L (k + 1) = pDp L k - ppo L k + ppu L k)
def WFs (L : PG) : Prop := (∀ s, 1 ≤ s → s < 7 → pSc L s = s + 1) ∧ (∀ s, 7 ≤ s → s < pNt L → -2 ≤ pSc L s ∧ pSc L s < 8 + pCl L)
def WF (L : PG) : Prop := WFn L ∧ WFc L ∧ (∀ m, 0 ≤ m → m < pNm L → WFm L m) ∧ WFl L ∧ (∀ k, 0 ≤ k → k < pNp L → WFk L k) ∧ WFs L
theorem WF.n {L : PG} (w : WF L) : WFn L := w.1
theorem WF.c {L : PG} (w : WF L) : WFc L := w.2.1
theorem WF.m {L : PG} (w : WF L) {m : Int} (h0 : 0 ≤ m) (h1 : m < pNm L) : WFm L m := w.2.2.1 m h0 h1
theorem WF.l {L : PG} (w : WF L) : WFl L := w.2.2.2.1
theorem WF.k {L : PG} (w : WF L) {k : Int} (h0 : 0 ≤ k) (h1 : k < pNp L) : WFk L k := w.2.2.2.2.1 k h0 h1
theorem WF.s {L : PG} (w : WF L) : WFs L := w.2.2.2.2.2
theorem WF.sc {L : PG} (w : WF L) {s : Int} (h0 : 1 ≤ s) (h1 : s < pNt L) : -2 ≤ pSc L s ∧ pSc L s < 24 := by
  have h := w.s
  have n := w.n
  unfold WFn at n
  by_cases c : s < 7
  · have := h.1 s h0 c; omega
  · have := h.2 s (by omega) h1; omega
theorem frm_lt (p : Int → Bool) : ∀ (n : Nat) (k : Int), 0 ≤ frm p n k → k ≤ frm p n k ∧ frm p n k < k + n ∧ p (frm p n k) = true
  | 0, k, h => by simp [frm] at h
  | n + 1, k, h => by
    unfold frm at h ⊢
    by_cases c : p k = true
    · rw [if_pos c]; exact ⟨by omega, by omega, c⟩
    · rw [if_neg c] at h ⊢
      have := frm_lt p n (k + 1) h
      exact ⟨by omega, by omega, this.2.2⟩
theorem frm_neg (p : Int → Bool) : ∀ (n : Nat) (k : Int), 0 ≤ k → frm p n k < 0 → frm p n k = -1 ∧ ∀ j, k ≤ j → j < k + n → p j = false
  | 0, k, h0, h => ⟨rfl, fun j h1 h2 => by omega⟩
  | n + 1, k, h0, h => by
    unfold frm at h ⊢
    by_cases c : p k = true
    · rw [if_pos c] at h; omega
    · rw [if_neg c] at h ⊢
      have := frm_neg p n (k + 1) (by omega) h
      refine ⟨this.1, fun j h1 h2 => ?_⟩
      by_cases e : j = k
      · rw [e]; simpa using c
      · exact this.2 j (by omega) (by omega)
/-- one step of a search -/
theorem frm_step (p : Int → Bool) {n : Int} {k : Int} (h : k < n) : frm p (n - k).toNat k = if p k = true then k else frm p (n - (k + 1)).toNat (k + 1) := by
  have e : (n - k).toNat = (n - (k + 1)).toNat + 1 := by omega
  rw [e]; rfl
theorem frm_end (p : Int → Bool) {n : Int} {k : Int} (h : n ≤ k) : frm p (n - k).toNat k = -1 := by
  have e : (n - k).toNat = 0 := by omega
  rw [e]; rfl
theorem blw_fuel {L : PG} (w : WF L) : ∀ (n : Nat) (c d : Int), c < n → c < 24 → blw L (n + 1) c d = blw L n c d
  | 0, c, d, h, h2 => by
    unfold blw
    by_cases e : c = d
    · simp [e]
    · rw [if_neg e, if_pos (by omega)]; simp [e]
  | n + 1, c, d, h, h2 => by
    unfold blw
    by_cases e : c = d
    · rw [if_pos e, if_pos e]
    · rw [if_neg e, if_neg e]
      by_cases z : c ≤ 0
      · rw [if_pos z, if_pos z]
      · rw [if_neg z, if_neg z]
        have := w.c.2.1 c (by omega) h2
        exact blw_fuel w n (pPa L c) d (by omega) (by omega)
theorem blw_step {L : PG} (w : WF L) {c d : Int} (h1 : c < 24) : blw L 30 c d = if c = d then true else if c ≤ 0 then false else blw L 30 (pPa L c) d := by
  have e : blw L 30 c d = if c = d then true else if c ≤ 0 then false else blw L 29 (pPa L c) d := rfl
  rw [e]
  by_cases x : c = d
  · rw [if_pos x, if_pos x]
  · rw [if_neg x, if_neg x]
    by_cases z : c ≤ 0
    · rw [if_pos z, if_pos z]
    · rw [if_neg z, if_neg z]
      have := w.c.2.1 c (by omega) h1
      exact (blw_fuel w 29 (pPa L c) d (by omega) (by omega)).symm
theorem sto_fuel {L : PG} (w : WF L) (nm : Int) : ∀ (n : Nat) (c : Int), c < n → c < 24 → sto L nm (n + 1 + 1) c = sto L nm (n + 1) c
  | 0, c, h, h2 => by
    unfold sto
    split
    · rfl
    · rw [if_pos (by omega), if_pos (by omega)]
  | n + 1, c, h, h2 => by
    unfold sto
    split
    · rfl
    · by_cases z : c ≤ 0
      · rw [if_pos z, if_pos z]
      · rw [if_neg z, if_neg z]
        have := w.c.2.1 c (by omega) h2
        exact sto_fuel w nm n (pPa L c) (by omega) (by omega)
theorem sto_step {L : PG} (w : WF L) (nm : Int) {c : Int} (h1 : c < 24) : sto L nm 30 c = if 0 ≤ frm (owns L c nm) (pNm L).toNat 0 then frm (owns L c nm) (pNm L).toNat 0 else if c ≤ 0 then -1 else sto L nm 30 (pPa L c) := by
  have e : sto L nm 30 c = if 0 ≤ frm (owns L c nm) (pNm L).toNat 0 then frm (owns L c nm) (pNm L).toNat 0 else if c ≤ 0 then -1 else sto L nm 29 (pPa L c) := rfl
  rw [e]
  split
  · rfl
  · by_cases z : c ≤ 0
    · rw [if_pos z, if_pos z]
    · rw [if_neg z, if_neg z]
      have := w.c.2.1 c (by omega) h1
      exact (sto_fuel w nm 28 (pPa L c) (by omega) (by omega)).symm
theorem sto_lt {L : PG} (w : WF L) (nm : Int) : ∀ (n : Nat) (c : Int), c < 24 → 0 ≤ sto L nm n c → sto L nm n c < pNm L ∧ pNa L (sto L nm n c) = nm ∧ 0 ≤ pOw L (sto L nm n c) ∧ pOw L (sto L nm n c) ≤ c ∨ (sto L nm n c < pNm L ∧ pNa L (sto L nm n c) = nm ∧ pOw L (sto L nm n c) = c)
  | 0, c, _, h => by simp [sto] at h
  | n + 1, c, h2, h => by
    unfold sto at h ⊢
    have nn := w.n
    unfold WFn at nn
    by_cases z : 0 ≤ frm (owns L c nm) (pNm L).toNat 0
    · rw [if_pos z] at h ⊢
      obtain ⟨a1, a2, a3⟩ := frm_lt _ _ _ z
      unfold owns at a3
      simp at a3
      exact Or.inr ⟨by omega, a3.2, a3.1⟩
    · rw [if_neg z] at h ⊢
      by_cases z2 : c ≤ 0
      · rw [if_pos z2] at h; omega
      · rw [if_neg z2] at h ⊢
        have pc := w.c.2.1 c (by omega) h2
        rcases sto_lt w nm n (pPa L c) (by omega) h with q | q
        · exact Or.inl ⟨q.1, q.2.1, q.2.2.1, by omega⟩
        · exact Or.inl ⟨q.1, q.2.1, by omega, by omega⟩
/-- a method that a name is for a site is of a class and has the name -/
theorem sent_ok {L : PG} (w : WF L) {s nm : Int} (h0 : 1 ≤ s) (h1 : s < pNt L) (h : 0 ≤ sent L s nm) : sent L s nm < pNm L ∧ pNa L (sent L s nm) = nm ∧ pOw L (sent L s nm) ≠ 255 := by
  have sc := w.sc h0 h1
  unfold sent at h ⊢
  have c24 : (if pSc L s < 0 then 0 else pSc L s) < 24 ∧ 0 ≤ (if pSc L s < 0 then 0 else pSc L s) := by split <;> omega
  rcases sto_lt w nm 30 _ c24.1 h with q | q
  · exact ⟨q.1, q.2.1, by omega⟩
  · exact ⟨q.1, q.2.1, by omega⟩
theorem wnm_ok {L : PG} (w : WF L) {nm : Int} (h : 0 ≤ wnm L nm) : wnm L nm < pNm L ∧ pNa L (wnm L nm) = nm ∧ pOw L (wnm L nm) ≠ 255 := by
  have nn := w.n
  unfold WFn at nn
  obtain ⟨a1, a2, a3⟩ := frm_lt _ _ _ h
  simp at a3
  exact ⟨by unfold wnm at *; omega, a3.2, a3.1⟩
