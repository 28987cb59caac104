/-! Part 39s: the twin walks: how a walk starts; the walk -/
set_option maxRecDepth 100000
theorem ac_f {L : PG} {A : MA} {t : Int} (h : A 396 82 ≤ A 396 80) : (acA L A t 396 103 = 0 → acA L A t 396 95 = A 396 95 + 1) ∧ acA L A t 396 80 = A 396 80 ∧ (∀ i, acA L A t 507 i = A 507 i) ∧ (acA L A t 396 96 = A 396 96 ∨ acA L A t 396 96 = A 396 96 + 1) ∧ (A 396 82 ≤ acA L A t 396 82 ∧ acA L A t 396 82 ≤ A 396 80) ∧ acA L A t 396 101 = A 396 101 := by
  have a1 : ∀ j, j ≠ 102 → mset A 396 102 0 396 j = A 396 j := fun j q => m_ne (by omega)
  have a5 : ∀ i, mset A 396 102 0 507 i = A 507 i := fun i => m_ne (by omega)
  have q82 := do_82 (L := L) (A := mset A 396 102 0) (t := t) (k := A 511 (fA A t)) (by rw [a1 _ (by decide), a1 _ (by decide)]; exact h)
  have q96 := do_96 (L := L) (A := mset A 396 102 0) (t := t) (k := A 511 (fA A t))
  have q507 := fun i => do_507 (L := L) (A := mset A 396 102 0) (t := t) (k := A 511 (fA A t)) (i := i)
  have d80 : doA L (mset A 396 102 0) t (A 511 (fA A t)) 396 80 = A 396 80 := by rw [doA_s (by unfold lvs; omega) (by omega) (by omega), a1 _ (by decide)]
  have d95 : doA L (mset A 396 102 0) t (A 511 (fA A t)) 396 95 = A 396 95 := by rw [doA_s (by unfold lvs; omega) (by omega) (by omega), a1 _ (by decide)]
  have d101 : doA L (mset A 396 102 0) t (A 511 (fA A t)) 396 101 = A 396 101 := by rw [doA_s (by unfold lvs; omega) (by omega) (by omega), a1 _ (by decide)]
  have e : acA L A t = if doA L (mset A 396 102 0) t (A 511 (fA A t)) 396 103 = 0 then mset (doA L (mset A 396 102 0) t (A 511 (fA A t))) 396 95 (doA L (mset A 396 102 0) t (A 511 (fA A t)) 396 95 + 1) else doA L (mset A 396 102 0) t (A 511 (fA A t)) := rfl
  rw [e]
  rw [a1 82 (by decide), a1 80 (by decide)] at q82
  rw [a1 96 (by decide)] at q96
  generalize doA L (mset A 396 102 0) t (A 511 (fA A t)) = D at *
  by_cases c : D 396 103 = 0
  · rw [if_pos c]
    refine ⟨fun _ => ?_, ?_, fun i => ?_, ?_, ?_, ?_⟩
    · rw [m_eq, d95]
    · rw [m_ne (by omega)]; exact d80
    · rw [m_ne (by omega), q507 i, a5]
    · rw [m_ne (by omega)]; exact q96
    · rw [m_ne (by omega)]; exact q82
    · rw [m_ne (by omega)]; exact d101
  · rw [if_neg c]
    exact ⟨fun z => absurd z c, d80, fun i => by rw [q507 i, a5], q96, q82, d101⟩
/-- all is laid anew for a walk -/
def w0A (A : MA) : MA := fun a j => if a = 396 ∧ (j = 82 ∨ j = 91 ∨ j = 95 ∨ j = 96 ∨ j = 99 ∨ j = 100 ∨ j = 103) then 0 else if a = 396 ∧ j = 83 then 1 else if a = 514 ∧ 0 ≤ j ∧ j < 8 then -1 else if a = 521 ∧ 0 ≤ j ∧ j < 8 then 0 else if (a = 508 ∨ a = 509) ∧ j = 0 then 0 else A a j
/-- arguments are taken from the input -/
def wgA (L : PG) (m : Int) (A : MA) : Nat → MA
  | 0 => A
  | n + 1 => if pLk L m n = 0 then mset (inA (wgA L m A n)) 513 n (inV (wgA L m A n)) else mset (wgA L m A n) 513 n 0
def stW (L : PG) (A : MA) (m : Int) : MA := wgA L m (opnA L (w0A A) 0 m) (pAr L m).toNat
theorem o0_v (L : PG) (A : MA) (m a j : Int) : opnA L (w0A A) 0 m a j = if a = 509 ∧ j = 0 then 1 else if a = 510 ∧ j = 0 then m else if a = 511 ∧ j = 0 then pFi L m else if a = 512 ∧ j = 0 then 0 else if a = 513 ∧ 0 ≤ j ∧ j < 16 then 0 else w0A A a j := by
  have e : w0A A 509 0 = 0 := by unfold w0A; simp
  unfold opnA
  rw [e]
  simp only [Int.mul_zero, Int.add_zero, Int.zero_add]
theorem wg_inv {L : PG} {m : Int} {A : MA} (i0 : 0 ≤ A 396 82) (i1 : A 396 82 ≤ A 396 80) (i2 : A 396 80 ≤ 200) (ic : ∀ i, 0 ≤ i → i < 200 → c32 (A 507 i)) : ∀ n : Nat,
    (∀ a j, a ≠ 513 → ¬ (a = 396 ∧ j = 82) → wgA L m A n a j = A a j) ∧ (0 ≤ wgA L m A n 396 82 ∧ wgA L m A n 396 82 ≤ A 396 80) ∧ (∀ j : Int, ¬ (0 ≤ j ∧ j < n) → wgA L m A n 513 j = A 513 j) ∧
    ∀ j : Int, 0 ≤ j → j < n → (pLk L m j = 0 → c32 (wgA L m A n 513 j)) ∧ (pLk L m j ≠ 0 → wgA L m A n 513 j = 0) := by
  intro n
  induction n with
  | zero => exact ⟨fun _ _ _ _ => rfl, ⟨i0, i1⟩, fun _ _ => rfl, fun j j0 j1 => by omega⟩
  | succ n ih =>
    obtain ⟨p1, p2, p3, p4⟩ := ih
    have e80 := p1 396 80 (by decide) (by omega)
    have e507 : ∀ i, wgA L m A n 507 i = A 507 i := fun i => p1 507 i (by decide) (by omega)
    by_cases c : pLk L m n = 0
    · have e : wgA L m A (n + 1) = mset (inA (wgA L m A n)) 513 n (inV (wgA L m A n)) := if_pos c
      have hin : ∀ a j, ¬ (a = 396 ∧ j = 82) → inA (wgA L m A n) a j = wgA L m A n a j := by
        intro a j q
        unfold inA
        split
        · rfl
        · exact m_ne q
      have h82 : 0 ≤ inA (wgA L m A n) 396 82 ∧ inA (wgA L m A n) 396 82 ≤ A 396 80 := by
        unfold inA
        split
        · exact p2
        · rename_i d
          rw [m_eq]; omega
      have hiv : c32 (inV (wgA L m A n)) := by
        unfold inV
        split
        · exact c32_0
        · rename_i d
          rw [e507]; exact ic _ p2.1 (by omega)
      rw [e]
      refine ⟨fun a j q1 q2 => ?_, ?_, fun j q => ?_, fun j j0 j1 => ?_⟩
      · rw [m_ne (by omega), hin a j q2, p1 a j q1 q2]
      · rw [m_ne (by omega)]; exact h82
      · rw [m_ne (by omega), hin _ _ (by omega), p3 j (by omega)]
      · by_cases x : j = n
        · rw [x, m_eq]; exact ⟨fun _ => hiv, fun y => absurd c y⟩
        · rw [m_ne (by omega), hin _ _ (by omega)]; exact p4 j j0 (by omega)
    · have e : wgA L m A (n + 1) = mset (wgA L m A n) 513 n 0 := if_neg c
      rw [e]
      refine ⟨fun a j q1 q2 => ?_, ?_, fun j q => ?_, fun j j0 j1 => ?_⟩
      · rw [m_ne (by omega), p1 a j q1 q2]
      · rw [m_ne (by omega)]; exact p2
      · rw [m_ne (by omega), p3 j (by omega)]
      · by_cases x : j = n
        · rw [x, m_eq]; exact ⟨fun y => absurd y c, fun _ => rfl⟩
        · rw [m_ne (by omega)]; exact p4 j j0 (by omega)
/-- what a walk starts from -/
theorem st_v {L : PG} {A : MA} {m : Int} (i1 : 0 ≤ A 396 80 ∧ A 396 80 ≤ 200) (ic : ∀ i, 0 ≤ i → i < 200 → c32 (A 507 i)) (ar : 0 ≤ pAr L m) :
    (∀ a j, a ≠ 513 → ¬ (a = 396 ∧ j = 82) → stW L A m a j = opnA L (w0A A) 0 m a j) ∧ (0 ≤ stW L A m 396 82 ∧ stW L A m 396 82 ≤ A 396 80) ∧ (∀ j, ¬ (0 ≤ j ∧ j < pAr L m) → stW L A m 513 j = opnA L (w0A A) 0 m 513 j) ∧
    ∀ j, 0 ≤ j → j < pAr L m → (pLk L m j = 0 → c32 (stW L A m 513 j)) ∧ (pLk L m j ≠ 0 → stW L A m 513 j = 0) := by
  have e80 : opnA L (w0A A) 0 m 396 80 = A 396 80 := by rw [o0_v]; unfold w0A; simp
  have e82 : opnA L (w0A A) 0 m 396 82 = 0 := by rw [o0_v]; unfold w0A; simp
  have e507 : ∀ i, opnA L (w0A A) 0 m 507 i = A 507 i := fun i => by rw [o0_v]; unfold w0A; simp
  have q := wg_inv (L := L) (m := m) (A := opnA L (w0A A) 0 m) (by omega) (by omega) (by omega) (fun i a b => by rw [e507]; exact ic i a b) (pAr L m).toNat
  have en : (((pAr L m).toNat : Nat) : Int) = pAr L m := by omega
  rw [en, e80] at q
  exact q
theorem st_inv {L : PG} {R : Int → Prop} {A : MA} {m : Int} (w : WF L) (hm : inM L m) (r : R m) (i1 : 0 ≤ A 396 80 ∧ A 396 80 ≤ 200) (ic : ∀ i, 0 ≤ i → i < 200 → c32 (A 507 i)) : INVL L R (stW L A m) := by
  intro T lst
  obtain ⟨-, -, -, ar0, ar4, -, -, -, al, l8, lk01, -, -, -, -, co1, co2, fi0, fi1, mo, dp0, -⟩ := w.m hm.1 hm.2
  have mo0 : pMo L (pFi L m) = m := by have := mo 0 (by omega) (by omega); rwa [Int.add_zero] at this
  have hq : inP L (pFi L m) := ⟨fi0, by omega⟩
  obtain ⟨b1, b2, b3, b4⟩ := st_v (L := L) (A := A) (m := m) i1 ic ar0
  have fl := lst.2.1.1.1 m hm.1 hm.2 r
  have fs3 := lst.2.1.1.2
  have eb : bgn (stW L A m) = 1 := by unfold bgn; rw [b1 _ _ (by decide) (by omega), o0_v]; unfold w0A; simp
  have en : nob (stW L A m) = 0 := by unfold nob; rw [b1 _ _ (by decide) (by omega), o0_v]; unfold w0A; simp
  have e508 : stW L A m 508 0 = 0 := by rw [b1 _ _ (by decide) (by omega), o0_v]; unfold w0A; simp
  have e509 : stW L A m 509 0 = 1 := by rw [b1 _ _ (by decide) (by omega), o0_v]; simp
  have e511 : stW L A m 511 0 = pFi L m := by rw [b1 _ _ (by decide) (by omega), o0_v]; simp
  have e512 : stW L A m 512 0 = 0 := by rw [b1 _ _ (by decide) (by omega), o0_v]; simp
  have e514 : ∀ x, 0 ≤ x → x < 8 → stW L A m 514 x = -1 := by
    intro x x0 x1
    rw [b1 _ _ (by decide) (by omega), o0_v]; unfold w0A; simp [x0, x1]
  have e521 : ∀ x, 0 ≤ x → x < 8 → stW L A m 521 x = 0 := by
    intro x x0 x1
    rw [b1 _ _ (by decide) (by omega), o0_v]; unfold w0A; simp [x0, x1]
  have nul : ∀ κ, κ = 1 → gm (stW L A m) κ (fs 1) 0 := by
    intro κ e
    rw [gm_r e]
    refine ⟨(by decide : (1 : Int) ≠ 0), ⟨by omega, by omega⟩, ?_⟩
    show bl 1 (sit (stW L A m) 0) = true
    unfold sit
    rw [if_pos (by decide), bl_one (by decide)]; rfl
  have zer : ∀ κ, κ ≠ 1 → gm (stW L A m) κ (fv 0 0 0 0) 0 := by
    intro κ e
    rw [gm_n e]
    exact ⟨fv_nz, Int.le_refl _, Int.le_refl _⟩
  have fst : ∀ κ, (κ = 0 ∨ κ = 1) → gm (stW L A m) κ (f1st κ) 0 := by
    intro κ e
    unfold f1st
    rcases e with e | e
    · rw [if_neg (by omega)]; exact zer κ (by omega)
    · rw [if_pos e]; exact nul κ e
  have nn := w.n
  unfold WFn at nn
  refine ⟨⟨by omega, by omega⟩, ⟨by omega, by omega, fun o o0 o1 => by omega⟩, fun i i0 i1 => ?_, fun x x0 x1 => ?_, fun t t0 t1 => ?_⟩
  · rw [e521 i i0 (by omega)]
    exact gm_le (fs3 i i0 i1) (fst _ (w.c.2.2.2.2.2.2 i i0 i1))
  · rw [e514 x x0 x1]; omega
  · have et : t = 0 := by omega
    subst et
    refine ⟨Or.inl e508, fun _ => ⟨by omega, by omega, fun j j0 j1 => by omega, ?_⟩⟩
    rw [show 30 * 0 + stW L A m 509 0 - 1 = 0 by omega]
    unfold ftop
    rw [e511, e512]
    have l6 := fl.2 (show (1 : Int) ≠ 0 by decide)
    refine ⟨⟨hq, l6.1⟩, dp0.symm, fun s hs => ?_, l6.1, fun x x0 x1 => ⟨fun z => ?_, fun z => ?_⟩⟩
    · have hs' : 0 ≤ s ∧ s < pLc L m := by
        unfold vld at hs
        rw [mo0, dp0] at hs
        omega
      rw [show 16 * 0 + s = s by omega, kd_l (by omega), mo0]
      refine gm_le (fl.1 s (Or.inl (by rw [mo0]; exact hs'))) ?_
      have k01 := lk01 s hs'.1 hs'.2
      unfold rtx
      by_cases c : s < pAr L m
      · by_cases d : pLk L m s = 0
        · rw [if_pos ⟨c, d⟩, gm_n (by omega)]
          have := (b4 s hs'.1 c).1 d
          unfold c32 at this
          exact ⟨fv_nz, by show -2147483648 ≤ _; omega, by show _ ≤ (2147483647 : Int); omega⟩
        · rw [if_neg (fun z => d z.2), (b4 s hs'.1 c).2 d]
          exact fst _ k01
      · rw [if_neg (fun z => c z.1), b3 s (by omega), o0_v]
        rw [if_neg (by omega), if_neg (by omega), if_neg (by omega), if_neg (by omega), if_pos ⟨rfl, hs'.1, by omega⟩]
        exact fst _ k01
    · have := l6.2.2.2.2.2 x z
      exact absurd this (by show ¬ bi 0 x = true; rw [bi_zero]; decide)
    · rw [e514 x x0 x1] at z; omega
