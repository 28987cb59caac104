/-! Part 41a: what a file has that was read: classes (plain) -/
def psK (r : RdR) (K : Int → PG → Prop) : Prop := prs r K (fun _ => True)
theorem psK_ok {p : Int} {L : PG} {K : Int → PG → Prop} (h : K p L) : psK (.ok (p, L)) K := h
theorem psK_er {e : Int} {K : Int → PG → Prop} : psK (.error e) K := trivial
theorem psK_tk {B : Int → Int} {n lo hi p : Int} {k : Int → RdR} {K : Int → PG → Prop} (h : p < n → lo ≤ B p → B p ≤ hi → psK (k (B p)) K) : psK (tkC B n lo hi p k) K := by
  unfold tkC
  by_cases c : n ≤ p
  · rw [if_pos c]; exact psK_er
  · rw [if_neg c]
    by_cases d : lo ≤ B p ∧ B p ≤ hi
    · rw [if_pos d]; exact h (by omega) d.1 d.2
    · rw [if_neg d]; exact psK_er
theorem psK_tk2 {B : Int → Int} {n p : Int} {k : Int → RdR} {K : Int → PG → Prop} (h : p + 1 < n → psK (k (s16 (B p) (B (p + 1)))) K) : psK (tk2 B n p k) K := by
  unfold tk2
  by_cases c : n ≤ p + 1
  · rw [if_pos c]; exact psK_er
  · rw [if_neg c]; exact h (by omega)
theorem psK_if {P : Prop} [Decidable P] {e : Int} {b : RdR} {K : Int → PG → Prop} (h : ¬ P → psK b K) : psK (if P then .error e else b) K := by
  by_cases c : P
  · rw [if_pos c]; exact psK_er
  · rw [if_neg c]; exact h c
theorem psK_ce {P : Prop} {e : Int} {b : RdR} {K : Int → PG → Prop} (h : ¬ P → psK b K) : psK (cif P (.error e) b) K := by
  by_cases c : P
  · rw [cif_p c]; exact psK_er
  · rw [cif_n c]; exact h c
theorem psK_cg {P : Prop} {e : Int} {b : RdR} {K : Int → PG → Prop} (h : P → psK b K) : psK (cif P b (.error e)) K := by
  by_cases c : P
  · rw [cif_p c]; exact h c
  · rw [cif_n c]; exact psK_er
theorem psK_bnd {r : RdR} {k : Int → PG → RdR} {K : Int → PG → Prop} (h : psK r (fun p L => psK (k p L) K)) : psK (bnd r k) K := by
  unfold psK
  rw [prs_bnd]
  exact h
theorem psK_mono {r : RdR} {K K' : Int → PG → Prop} (h : psK r K) (hK : ∀ p L, K p L → K' p L) : psK r K' := prs_mono h (fun p L _ q => hK p L q) (fun _ _ => trivial)
theorem psK_rep {f : Int → Int → PG → RdR} {I : Int → Int → PG → Prop} : ∀ (N : Nat) (i p : Int) (L : PG), I i p L → (∀ j p L, i ≤ j → j < i + N → I j p L → psK (f j p L) (fun p' L' => I (j + 1) p' L')) → psK (rep f N i p L) (fun p' L' => I (i + N) p' L')
  | 0, i, p, L, h, _ => by
    show I (i + (0 : Nat)) p L
    rw [show i + ((0 : Nat) : Int) = i by omega]; exact h
  | N + 1, i, p, L, h, s => by
    rw [rep_s]
    refine psK_bnd (psK_mono (s i p L (Int.le_refl _) (by omega) h) fun p' L' q => ?_)
    have := psK_rep N (i + 1) p' L' q (fun j p L a b c => s j p L (by omega) (by omega) c)
    rw [show i + 1 + (N : Int) = i + ((N + 1 : Nat) : Int) by omega] at this
    exact this
/-- what holds of a success -/
theorem psK_of {r : RdR} {K : Int → PG → Prop} (h : psK r K) {p : Int} {L : PG} (e : r = .ok (p, L)) : K p L := by
  rw [e] at h; exact h
/-- classes up to c are read -/
def PC (L : PG) (c : Int) : Prop := pPa L 0 = -1 ∧ (∀ d, 1 ≤ d → d < 24 → 0 ≤ pPa L d ∧ pPa L d < d) ∧ (∀ d, 0 ≤ d → d < 24 → 0 ≤ pFc L d ∧ pFc L d ≤ 8) ∧ (∀ d, 0 ≤ d → d < 8 → pFc L d = 0) ∧
  (∀ d f, 0 ≤ d → d < 24 → 0 ≤ f → f < pFc L d → pFk L d f = 0 ∨ pFk L d f = 1) ∧
  (∀ d, 1 ≤ d → d < 24 → pFc L (pPa L d) ≤ pFc L d ∧ ∀ f, 0 ≤ f → f < pFc L (pPa L d) → pFk L d f = pFk L (pPa L d) f) ∧
  (∀ d, c ≤ d → d < 24 → pPa L d = 1 ∧ pFc L d = 0)
theorem ps_K {B : Int → Int} {n o b c p : Int} {N : Nat} {L : PG} {K : Int → PG → Prop} (h : ∀ L', (∀ a i, ¬ (a = o ∧ b + c ≤ i ∧ i < b + c + N) → L' a i = L a i) → (∀ i, c ≤ i → i < c + N → L' o (b + i) = 0 ∨ L' o (b + i) = 1) → K (p + N) L') : psK (rep (rdK B n o b) N c p L) K := by
  have := psK_rep (f := rdK B n o b) (I := fun j q L' => q = p + (j - c) ∧ (∀ a i, ¬ (a = o ∧ b + c ≤ i ∧ i < b + j) → L' a i = L a i) ∧ (∀ i, c ≤ i → i < j → L' o (b + i) = 0 ∨ L' o (b + i) = 1)) N c p L ⟨by omega, fun _ _ _ => rfl, fun i i0 i1 => by omega⟩ ?_
  · refine psK_mono this fun q L' ⟨e, g1, g2⟩ => ?_
    rw [e, show p + (c + (N : Int) - c) = p + N by omega]
    exact h L' (fun a i x => g1 a i (by omega)) (fun i i0 i1 => g2 i i0 (by omega))
  · intro j q L' j0 j1 ⟨e, g1, g2⟩
    unfold rdK
    refine psK_tk fun _ v0 v1 => psK_ok ⟨by omega, fun a i x => ?_, fun i i0 i1 => ?_⟩
    · rw [m_ne (by omega)]; exact g1 a i (by omega)
    · by_cases ei : i = j
      · rw [ei, m_eq]; omega
      · rw [m_ne (by omega)]; exact g2 i i0 (by omega)
theorem ps_Cl {B : Int → Int} {n c p : Int} {L : PG} (c8 : 8 ≤ c) (c24 : c < 24) (h : PC L c) : psK (rdCl B n c p L) (fun p' L' => p + 2 ≤ p' ∧ PC L' (c + 1) ∧ (∀ a i, a ≠ 2 → a ≠ 3 → a ≠ 4 → L' a i = L a i)) := by
  obtain ⟨h0, h1, h2, h3, h4, h5, h6⟩ := h
  unfold rdCl
  refine psK_tk fun _ q0 q1 => psK_tk fun _ o0 o1 => psK_if fun le => psK_bnd ?_
  generalize B p = q at *
  generalize B (p + 1) = o at *
  have hq := h2 q q0 (by omega)
  have hd : pFc L q = L 3 q := rfl
  refine ps_K fun L' g1 g2 => psK_ok ?_
  have on : ((o.toNat : Nat) : Int) = o := by omega
  rw [on] at g1 g2 ⊢
  -- the new file, place by place
  have e2 : ∀ d, mset L' 3 c (L 3 q + o) 2 d = if d = c then q else L 2 d := by
    intro d
    rw [m_ne (by omega), g1 2 d (by omega)]
    unfold cpF
    rw [if_neg (by omega)]
    by_cases x : d = c
    · rw [if_pos x, x, m_eq]
    · rw [if_neg x, m_ne (by omega)]
  have e3 : ∀ d, mset L' 3 c (L 3 q + o) 3 d = if d = c then L 3 q + o else L 3 d := by
    intro d
    by_cases x : d = c
    · rw [if_pos x, x, m_eq]
    · rw [if_neg x, m_ne (by omega), g1 3 d (by omega)]
      unfold cpF
      rw [if_neg (by omega), m_ne (by omega)]
  have e4 : ∀ d f, d ≠ c → 0 ≤ f → f < 8 → mset L' 3 c (L 3 q + o) 4 (8 * d + f) = L 4 (8 * d + f) := by
    intro d f x f0 f1
    rw [m_ne (by omega), g1 4 _ (by omega)]
    unfold cpF
    rw [if_neg (by omega), m_ne (by omega)]
  have e4u : ∀ f, 0 ≤ f → f < L 3 q → mset L' 3 c (L 3 q + o) 4 (8 * c + f) = L 4 (8 * q + f) := by
    intro f f0 f1
    rw [m_ne (by omega), g1 4 _ (by omega)]
    unfold cpF
    rw [if_pos ⟨rfl, by omega, by omega⟩, m_ne (by omega), show 8 * q + (8 * c + f - 8 * c) = 8 * q + f by omega]
  have e4o : ∀ f, L 3 q ≤ f → f < L 3 q + o → mset L' 3 c (L 3 q + o) 4 (8 * c + f) = 0 ∨ mset L' 3 c (L 3 q + o) 4 (8 * c + f) = 1 := by
    intro f f0 f1
    rw [m_ne (by omega)]
    exact g2 f f0 f1
  refine ⟨by omega, ⟨?_, fun d d0 d1 => ?_, fun d d0 d1 => ?_, fun d d0 d1 => ?_, fun d f d0 d1 f0 f1 => ?_, fun d d0 d1 => ?_, fun d d0 d1 => ?_⟩, fun a i a2 a3 a4 => ?_⟩
  · show mset L' 3 c (L 3 q + o) 2 0 = -1
    rw [e2, if_neg (by omega)]; exact h0
  · show 0 ≤ mset L' 3 c (L 3 q + o) 2 d ∧ mset L' 3 c (L 3 q + o) 2 d < d
    rw [e2]
    by_cases x : d = c
    · rw [if_pos x]; omega
    · rw [if_neg x]; exact h1 d d0 d1
  · show 0 ≤ mset L' 3 c (L 3 q + o) 3 d ∧ mset L' 3 c (L 3 q + o) 3 d ≤ 8
    rw [e3]
    by_cases x : d = c
    · rw [if_pos x]; omega
    · rw [if_neg x]; exact h2 d d0 d1
  · show mset L' 3 c (L 3 q + o) 3 d = 0
    rw [e3, if_neg (by omega)]; exact h3 d d0 d1
  · have f1' : f < mset L' 3 c (L 3 q + o) 3 d := f1
    rw [e3] at f1'
    show mset L' 3 c (L 3 q + o) 4 (8 * d + f) = 0 ∨ mset L' 3 c (L 3 q + o) 4 (8 * d + f) = 1
    by_cases x : d = c
    · rw [if_pos x] at f1'
      rw [x]
      by_cases y : f < L 3 q
      · rw [e4u f f0 y]; exact h4 q f q0 (by omega) f0 y
      · exact e4o f (by omega) f1'
    · rw [if_neg x] at f1'
      have := h2 d d0 d1
      rw [e4 d f x f0 (by have : pFc L d = L 3 d := rfl; omega)]
      exact h4 d f d0 d1 f0 f1'
  · show mset L' 3 c (L 3 q + o) 3 (mset L' 3 c (L 3 q + o) 2 d) ≤ mset L' 3 c (L 3 q + o) 3 d ∧ ∀ f, 0 ≤ f → f < mset L' 3 c (L 3 q + o) 3 (mset L' 3 c (L 3 q + o) 2 d) → mset L' 3 c (L 3 q + o) 4 (8 * d + f) = mset L' 3 c (L 3 q + o) 4 (8 * (mset L' 3 c (L 3 q + o) 2 d) + f)
    rw [e2]
    by_cases x : d = c
    · rw [if_pos x, x, e3, if_neg (by omega), e3, if_pos rfl]
      refine ⟨by omega, fun f f0 f1 => ?_⟩
      rw [e4u f f0 f1, e4 q f (by omega) f0 (by omega)]
    · rw [if_neg x, e3 d, if_neg x]
      have pd := h1 d d0 d1
      have pe : pPa L d = L 2 d := rfl
      by_cases y : L 2 d = c
      · -- a class below this one is not read yet
        exfalso
        have := (h6 d (by omega) d1).1
        omega
      · rw [e3, if_neg y]
        have k5 := h5 d d0 d1
        refine ⟨k5.1, fun f f0 f1 => ?_⟩
        have f8 := h2 (L 2 d) (by omega) (by omega)
        have f8' : pFc L (L 2 d) = L 3 (L 2 d) := rfl
        rw [e4 d f x f0 (by omega), e4 (L 2 d) f y f0 (by omega)]
        exact k5.2 f f0 f1
  · show mset L' 3 c (L 3 q + o) 2 d = 1 ∧ mset L' 3 c (L 3 q + o) 3 d = 0
    rw [e2, if_neg (by omega), e3, if_neg (by omega)]
    exact h6 d (by omega) d1
  · rw [m_ne (by omega), g1 a i (by omega)]
    unfold cpF
    rw [if_neg (by omega), m_ne (by omega)]
/-- CLASSES ARE READ -/
theorem ps_Cs {B : Int → Int} {n p : Int} {L : PG} : psK (rdCs B n p L) (fun p' L' => p + 2 ≤ p' ∧ PC L' 24 ∧ (0 ≤ L' 0 0 ∧ L' 0 0 ≤ 16) ∧ (0 ≤ L' 0 1 ∧ L' 0 1 ≤ 8) ∧ (∀ i, 0 ≤ i → i < L' 0 1 → L' 1 i = 0 ∨ L' 1 i = 1)) := by
  unfold rdCs
  refine psK_tk fun _ c0 c1 => psK_tk fun _ s0 s1 => psK_bnd ?_
  generalize B p = c at *
  generalize B (p + 1) = s at *
  refine ps_K fun L' g1 g2 => ?_
  have sn : ((s.toNat : Nat) : Int) = s := by omega
  rw [sn] at g1 g2 ⊢
  have l00 : L' 0 0 = c := by rw [g1 0 0 (by omega), m_ne (by omega), m_eq]
  have l01 : L' 0 1 = s := by rw [g1 0 1 (by omega), m_eq]
  have := psK_rep (f := rdCl B n) (I := fun j q L2 => p + 2 ≤ q ∧ PC L2 j ∧ (∀ a i, a ≠ 2 → a ≠ 3 → a ≠ 4 → L2 a i = L' a i)) c.toNat 8 (p + 2 + s) (ini24 L') ?_ ?_
  · refine psK_mono this fun q L2 ⟨e0, e1, e2⟩ => ?_
    have cn : (8 : Int) + (c.toNat : Nat) = 8 + c := by omega
    rw [cn] at e1
    refine ⟨e0, ⟨e1.1, e1.2.1, e1.2.2.1, e1.2.2.2.1, e1.2.2.2.2.1, e1.2.2.2.2.2.1, fun d d0 d1 => by omega⟩, ?_, ?_, fun i i0 i1 => ?_⟩
    · rw [e2 0 0 (by decide) (by decide) (by decide), l00]; omega
    · rw [e2 0 1 (by decide) (by decide) (by decide), l01]; omega
    · rw [e2 0 1 (by decide) (by decide) (by decide), l01] at i1
      rw [e2 1 i (by decide) (by decide) (by decide)]
      have := g2 i i0 (by omega)
      rwa [Int.zero_add] at this
  · have i2 : ∀ d, 0 ≤ d → d < 24 → pPa (ini24 L') d = if d < 2 then d - 1 else 1 := fun d d0 d1 => by
      show ini24 L' 2 d = _
      unfold ini24
      rw [if_pos ⟨rfl, d0, d1⟩]
    have i3 : ∀ d, 0 ≤ d → d < 24 → pFc (ini24 L') d = 0 := fun d d0 d1 => by
      show ini24 L' 3 d = _
      unfold ini24
      rw [if_neg (by omega), if_pos ⟨rfl, d0, d1⟩]
    refine ⟨by omega, ⟨?_, fun d d0 d1 => ?_, fun d d0 d1 => ?_, fun d d0 d1 => i3 d d0 (by omega), fun d f d0 d1 f0 f1 => ?_, fun d d0 d1 => ?_, fun d d0 d1 => ?_⟩, fun a i a2 a3 a4 => ?_⟩
    · rw [i2 0 (by decide) (by decide)]; decide
    · rw [i2 d (by omega) d1]; split <;> omega
    · rw [i3 d d0 d1]; decide
    · rw [i3 d d0 d1] at f1; omega
    · have e : pPa (ini24 L') d = if d < 2 then d - 1 else 1 := i2 d (by omega) d1
      have e' : 0 ≤ pPa (ini24 L') d ∧ pPa (ini24 L') d < 24 := by rw [e]; split <;> omega
      rw [i3 _ e'.1 e'.2, i3 d (by omega) d1]
      exact ⟨Int.le_refl _, fun f f0 f1 => by omega⟩
    · rw [i2 d (by omega) d1, if_neg (by omega), i3 d (by omega) d1]
      exact ⟨rfl, rfl⟩
    · unfold ini24
      rw [if_neg (by omega), if_neg (by omega)]
  · intro j q L2 j0 j1 ⟨e0, e1, e2⟩
    refine psK_mono (ps_Cl (p := q) j0 (by omega) e1) fun p' L3 ⟨f0, f1, f2⟩ => ⟨by omega, f1, fun a i a2 a3 a4 => ?_⟩
    rw [f2 a i a2 a3 a4]; exact e2 a i a2 a3 a4
