/-! Part 51h: what a place rests on; places that are done -/
/-- entries of which a place's sending on depends (those that matter) -/
def inC (L : PG) (T : TB) (k a i j : Int) : Prop :=
  (a = 2 ∧ j = 0 ∧ i ≠ 0 ∧ ((pOp L k = 22 ∧ sb (T 0 k (7 + pDp L k)) i ∧ pSc L i < 0) ∨ (pOp L k = 23 ∧ sb (T 0 k (6 + pDp L k)) i ∧ isarr L i (pX L k)) ∨ (pOp L k = 24 ∧ sb (T 0 k (5 + pDp L k)) i ∧ isarr L i (pX L k)))) ∨
  (a = 1 ∧ i ≠ 0 ∧ ((pOp L k = 23 ∧ j = 0 ∧ usd L T k i) ∨ (pOp L k = 25 ∧ sb (T 0 k (7 + pDp L k)) i ∧ isOf L i (pX L k) = true ∧ j = pY L k))) ∨
  (a = 3 ∧ pOp L k = 27 ∧ i = pX L k ∧ j = 0) ∨ (oca a ∧ (pOp L k = 29 ∨ pOp L k = 30) ∧ j = 0 ∧ ∃ s, cld L (T 0 k) k s i)
theorem CL_eqC {L : PG} {T T' V : TB} {k : Int} (e0 : T' 0 k = T 0 k) (e6 : T' 6 k 0 = T 6 k 0) (ei : ∀ a i j, inC L T k a i j → T' a i j = T a i j) (h : CLz L T V k) : CLz L T' V k := by
  unfold CLz
  rw [e0, e6]
  obtain ⟨h1, ⟨c20, c21, c22, c23, c24, c25, c26, c27, c28⟩, ⟨c29, c36, c30, c31, c32', c33, c34, c35⟩⟩ := h
  refine ⟨h1, ⟨c20, c21, ?_, ?_, ?_, ?_, c26, ?_, c28⟩, ⟨?_, c36, c30, c31, c32', c33, c34, c35⟩⟩
  · intro e s q
    obtain ⟨x1, x2, x3⟩ := c22 e s q
    refine ⟨x1, x2, fun y1 y2 => ?_⟩
    rw [ei 2 s 0 (Or.inl ⟨rfl, rfl, y1, Or.inl ⟨e, q, y2⟩⟩)]
    exact x3 y1 y2
  · intro e s q
    obtain ⟨x1, x2, x3⟩ := c23 e s q
    refine ⟨x1, x2, fun y1 y2 => ?_⟩
    rw [ei 2 s 0 (Or.inl ⟨rfl, rfl, y1, Or.inr (Or.inl ⟨e, q, y2⟩)⟩)]
    intro y3 y4
    refine ⟨(x3 y1 y2 y3 y4).1, fun y5 => ?_⟩
    rw [ei 1 s 0 (Or.inr (Or.inl ⟨rfl, y1, Or.inl ⟨e, rfl, by have := q.1; omega, Or.inl ⟨e, q, y2, y3, y5⟩⟩⟩))]
    exact (x3 y1 y2 y3 y4).2 y5
  · intro e s q
    obtain ⟨x1, x2, x3⟩ := c24 e s q
    refine ⟨x1, x2, fun y1 y2 => ?_⟩
    rw [ei 2 s 0 (Or.inl ⟨rfl, rfl, y1, Or.inr (Or.inr ⟨e, q, y2⟩)⟩)]
    exact x3 y1 y2
  · intro e s q
    obtain ⟨x1, x2, x3⟩ := c25 e s q
    refine ⟨x1, x2, fun y1 y2 => ?_⟩
    rw [ei 1 s _ (Or.inr (Or.inl ⟨rfl, y1, Or.inr ⟨e, q, y2, rfl⟩⟩))]
    exact x3 y1 y2
  · intro e
    rw [ei 3 _ 0 (Or.inr (Or.inr (Or.inl ⟨rfl, e, rfl, rfl⟩)))]
    exact c27 e
  · intro e s c q
    have m : ∀ a, oca a → T' a c 0 = T a c 0 := fun a ha => ei a c 0 (Or.inr (Or.inr (Or.inr ⟨ha, e, rfl, s, q⟩)))
    have mu : und L T' k = und L T k := und_eq e0 _ (fun c ⟨s, hs⟩ => ei 15 c 0 (Or.inr (Or.inr (Or.inr ⟨by unfold oca; omega, e, rfl, s, hs⟩))))
    have el : lke T' k c = lke T k c := by unfold lke; rw [e6, m 8 (by unfold oca; omega), m 15 (by unfold oca; omega)]
    have er : lkr L T' k c = lkr L T k c := by unfold lkr; rw [e6, m 7 (by unfold oca; omega), mu]
    rw [m 15 (by unfold oca; omega), m 14 (by unfold oca; omega), m 5 (by unfold oca; omega), el, er]
    exact c29 e s c q
theorem usd_eqC {L : PG} {T T' : TB} {k : Int} (e0 : T' 0 k = T 0 k) (ei : ∀ a i j, inC L T k a i j → T' a i j = T a i j) (s : Int) : usd L T' k s ↔ usd L T k s := by
  unfold usd
  rw [e0]
  constructor
  · rintro ⟨s1, ⟨o, b, r, r'⟩ | ⟨o, b, r, r'⟩ | r | r⟩
    · rw [ei 2 s 0 (Or.inl ⟨rfl, rfl, by omega, Or.inr (Or.inl ⟨o, b, r⟩)⟩)] at r'; exact ⟨s1, Or.inl ⟨o, b, r, r'⟩⟩
    · rw [ei 2 s 0 (Or.inl ⟨rfl, rfl, by omega, Or.inr (Or.inr ⟨o, b, r⟩)⟩)] at r'; exact ⟨s1, Or.inr (Or.inl ⟨o, b, r, r'⟩)⟩
    · exact ⟨s1, Or.inr (Or.inr (Or.inl r))⟩
    · exact ⟨s1, Or.inr (Or.inr (Or.inr r))⟩
  · rintro ⟨s1, ⟨o, b, r, r'⟩ | ⟨o, b, r, r'⟩ | r | r⟩
    · rw [← ei 2 s 0 (Or.inl ⟨rfl, rfl, by omega, Or.inr (Or.inl ⟨o, b, r⟩)⟩)] at r'; exact ⟨s1, Or.inl ⟨o, b, r, r'⟩⟩
    · rw [← ei 2 s 0 (Or.inl ⟨rfl, rfl, by omega, Or.inr (Or.inr ⟨o, b, r⟩)⟩)] at r'; exact ⟨s1, Or.inr (Or.inl ⟨o, b, r, r'⟩)⟩
    · exact ⟨s1, Or.inr (Or.inr (Or.inl r))⟩
    · exact ⟨s1, Or.inr (Or.inr (Or.inr r))⟩
theorem inC_eq {L : PG} {T T' : TB} {k : Int} (e0 : T' 0 k = T 0 k) (ei : ∀ a i j, inC L T k a i j → T' a i j = T a i j) {a i j : Int} (h : inC L T' k a i j) : inC L T k a i j := by
  unfold inC at h ⊢
  rw [e0] at h
  rcases h with h | ⟨h1, h2, ⟨h3, h4, h5⟩ | h⟩ | h | h
  · exact Or.inl h
  · exact Or.inr (Or.inl ⟨h1, h2, Or.inl ⟨h3, h4, (usd_eqC e0 ei i).mp h5⟩⟩)
  · exact Or.inr (Or.inl ⟨h1, h2, Or.inr h⟩)
  · exact Or.inr (Or.inr (Or.inl h))
  · exact Or.inr (Or.inr (Or.inr h))
theorem usd_le {L : PG} {T U : TB} {k s : Int} (o : tbok T) (p : tle T U) (i7 : ∀ j, vld L (pMo L k) (pDp L k) j → ath (T 0 k j) ≠ 0) (hd : ppo L k ≤ pDp L k) (h : usd L T k s) : usd L U k s := by
  obtain ⟨s1, h⟩ := h
  have sl : ∀ {j : Int}, sb (T 0 k j) s → sb (U 0 k j) s := fun q => sb_le (o _ _ _) (p _ _ _) q
  refine ⟨s1, ?_⟩
  rcases h with ⟨e, b, r, t, u1, u2⟩ | ⟨e, b, r, t, u1, u2⟩ | ⟨e, b, r⟩ | ⟨e, b, r⟩
  · left
    have pp : ppo L k = 2 := by unfold ppo; simp [e]
    obtain ⟨a0, a1, a2, -⟩ := p 0 k (7 + pDp L k) (i7 _ (by unfold vld; omega))
    obtain ⟨b0, b1', b2, -⟩ := p 2 s 0 t
    exact ⟨e, sl b, r, b0, by omega, by omega⟩
  · right; left
    have pp : ppo L k = 3 := by unfold ppo; simp [e]
    obtain ⟨a0, a1, a2, -⟩ := p 0 k (6 + pDp L k) (i7 _ (by unfold vld; omega))
    obtain ⟨b0, b1', b2, -⟩ := p 2 s 0 t
    exact ⟨e, sl b, r, b0, by omega, by omega⟩
  · exact Or.inr (Or.inr (Or.inl ⟨e, sl b, r⟩))
  · exact Or.inr (Or.inr (Or.inr ⟨e, sl b, r⟩))
/-- what is noted as used is -/
def usI (h : MH) (L : PG) (k : Int) : Prop := ∀ s, 0 ≤ s → bl (hv h 77 k) s = true → usd L (cT h L) k s
/-- A PLACE IS DONE -/
def dnC (h : MH) (L : PG) (k : Int) : Prop := CLz L (cT h L) (cT h L) k ∧ (∀ a i j, inC L (cT h L) k a i j → udom L a i j ∧ ubt h (uad h a i j) k = true) ∧ used L (cT h L) (hv h 77 k) k
theorem usI_up {h g : MH} {L : PG} {k : Int} (w : WF L) (hk : inP L k) (t : tiv L (cT h L)) (hr : rch (cT h L) k) (p : tle (cT h L) (cT g L)) (e : hv g 77 k = hv h 77 k) (u : usI h L k) : usI g L k := by
  intro s s0 b
  rw [e] at b
  obtain ⟨-, -, -, -, -, -, -, -, -, -, -, -, -, -, -, -, -, -, -, dp, -⟩ := w.k hk.1 hk.2
  exact usd_le t.1 p (fun j v => t.2.2.2.2.2 k j hr v) dp.2.2.1 (u s s0 b)
/-- a place that is done stays so, or is awake -/
theorem stayC {h g : MH} {L : PG} {k : Int} (hk : inP L k) (t : tiv L (cT h L)) (hr : rch (cT h L) k) (p : tle (cT h L) (cT g L)) (wd : wkdC h g L) (e7 : hv g 77 k = hv h 77 k) (d : dnC h L k) : hv g 79 k ≠ 0 ∨ dnC g L k := by
  by_cases aw : hv g 79 k ≠ 0
  · exact Or.inl aw
  right
  obtain ⟨d1, d2, d3⟩ := d
  obtain ⟨w1, w2, w3, w4, -⟩ := wd
  obtain ⟨e0, e6⟩ := (w2 k hk).resolve_left aw
  have e0' : cT g L 0 k = cT h L 0 k := funext e0
  have ei : ∀ a i j, inC L (cT h L) k a i j → cT g L a i j = cT h L a i j := by
    intro a i j y
    obtain ⟨y1, y2⟩ := d2 a i j y
    rcases w3 a i j y1 with z | z
    · exact z
    · exact absurd (z k hk y2) aw
  refine ⟨CL_eqC e0' e6 ei (CL_up t hr p d1), fun a i j y => ?_, fun o1 o2 s s0 => ?_⟩
  · obtain ⟨y1, y2⟩ := d2 a i j (inC_eq e0' ei y)
    exact ⟨y1, w4 a i j y1 k hk y2⟩
  · rw [e7, usd_eqC e0' ei]
    exact d3 o1 o2 s s0
/-- WHAT THE WORK AT A PLACE LEAVES -/
def WE (h g : MH) (L : PG) (k : Int) : Prop := frC h g ∧ STc g L ∧ wkdC h g L ∧ tle (cT h L) (cT g L) ∧ (∀ U, tbok U → tle (cT h L) U → CLz L U U k → tle (cT g L) U) ∧ (∀ j, j ≠ k → hv g 77 j = hv h 77 j) ∧ usI g L k ∧ (hv g 79 k ≠ 0 ∨ dnC g L k) ∧ (cT g L = cT h L → ∀ j, hv g 79 j ≠ 0 → hv h 79 j ≠ 0)
/-- a work that rests on its own facts alone -/
theorem WE_of {h g : MH} {L : PG} {k : Int} (w : WF L) (hk : inP L k) (t : tiv L (cT h L)) (hr : rch (cT h L) k) (u : usI h L k) (a : AdK L h g (fun U => CLz L (cT h L) U k) (fun U => CLz L U U k)) (no : pOp L k < 22 ∨ pOp L k = 28 ∨ 31 ≤ pOp L k) : WE h g L k := by
  obtain ⟨a1, a2, a3, a4, a5, a6, a7, a8⟩ := a
  refine ⟨a1, a2, a3, a5, a7, fun j _ => a4 j, usI_up w hk t hr a5 (a4 k) u, ?_, a8⟩
  by_cases aw : hv g 79 k ≠ 0
  · exact Or.inl aw
  right
  obtain ⟨e0, e6⟩ := (a3.2.1 k hk).resolve_left aw
  have e0' : cT g L 0 k = cT h L 0 k := funext e0
  have ni : ∀ T a i j, ¬ inC L T k a i j := by
    intro T a i j y
    unfold inC at y
    rcases y with ⟨-, -, -, y⟩ | ⟨-, -, y⟩ | y | y
    · rcases y with y | y | y <;> omega
    · rcases y with y | y <;> omega
    · omega
    · have := y.2.1; omega
  exact ⟨CL_eqC e0' e6 (fun a i j y => absurd y (ni _ a i j)) a6, fun a i j y => absurd y (ni _ a i j), fun o1 o2 => by omega⟩
