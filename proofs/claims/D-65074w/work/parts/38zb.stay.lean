/-! Part 38zb: a place that is done stays done, or is flagged; the empty table; how tables end (plain) -/
set_option maxRecDepth 100000
/-- a place asks, for things that there are -/
def askr (L : PG) (T : TB) (k ns nst nm : Int) : Prop :=
  ((pOp L k = 29 ∨ pOp L k = 30 ∨ pOp L k = 36) ∧ ∃ m, inM L m ∧ ath (T 10 k m) ≠ 0 ∧ bl nm m = true) ∨ (pOp L k = 27 ∧ bi nst (pX L k) = true) ∨
  (0 < blo L k ∧ ∃ s, inS L s ∧ sb (T 0 k (8 + pDp L k - blo L k)) s ∧ bl ns s = true)
theorem askr_ask {L : PG} (w : WF L) {T : TB} {k ns nst nm : Int} (h : askr L T k ns nst nm) : ask L T k ns nst nm := by
  have nn := w.n
  unfold WFn at nn
  rcases h with ⟨o, m, hm, a, b⟩ | h | ⟨o, s, hs, a, b⟩
  · exact Or.inl ⟨o, m, hm.1, by have := hm.2; omega, a, b⟩
  · exact Or.inr (Or.inl h)
  · exact Or.inr (Or.inr ⟨o, s, a.1, by have := a.2.1; omega, a.2.2, b⟩)
theorem askr_le {L : PG} {T U : TB} {k a b c a' b' c' : Int} (oT : tbok T) (p : tle T U) (x0 : pOp L k = 27 → 0 ≤ pX L k ∧ pX L k < pNs L) (ha : ∀ s, inS L s → bl a s = true → bl a' s = true) (hb : ∀ i, 0 ≤ i → i < pNs L → bi b i = true → bi b' i = true) (hc : ∀ m, inM L m → bl c m = true → bl c' m = true) (h : askr L T k a b c) : askr L U k a' b' c' := by
  rcases h with ⟨o, m, hm, q, r⟩ | ⟨o, r⟩ | ⟨o, s, hs, q, r⟩
  · exact Or.inl ⟨o, m, hm, ath_le (p _ _ _) q, hc m hm r⟩
  · exact Or.inr (Or.inl ⟨o, hb _ (x0 o).1 (x0 o).2 r⟩)
  · exact Or.inr (Or.inr ⟨o, s, hs, sb_le (oT _ _ _) (p _ _ _) q, ha s hs r⟩)
theorem ask_0 {L : PG} {T : TB} {k a b c : Int} (ha : ∀ s, 0 ≤ s → bl a s = false) (hb : ∀ s, 0 ≤ s → bi b s = false) (hc : ∀ s, 0 ≤ s → bl c s = false) (x0 : 0 ≤ pX L k) : ¬ ask L T k a b c := by
  rintro (⟨-, m, m0, -, -, r⟩ | ⟨-, r⟩ | ⟨-, s, s0, -, -, r⟩)
  · rw [hc m m0] at r; cases r
  · rw [hb _ x0] at r; cases r
  · rw [ha s s0] at r; cases r
/-- what is used at a place is rightly noted -/
def used (L : PG) (T : TB) (v k : Int) : Prop := 23 ≤ pOp L k → pOp L k ≤ 26 → ∀ s, 0 ≤ s → (bl v s = true ↔ usd L T k s)
def dne (L : PG) (T : TB) (v k : Int) : Prop := CLz L T T k ∧ used L T v k
theorem usd_eq {L : PG} {T T' : TB} {k : Int} (e0 : T' 0 k = T 0 k) (e2 : ∀ s, pOp L k = 23 → sb (T 0 k (6 + pDp L k)) s → T' 2 s 0 = T 2 s 0) (e3 : ∀ s, pOp L k = 24 → sb (T 0 k (5 + pDp L k)) s → T' 2 s 0 = T 2 s 0) (s : Int) : usd L T' k s ↔ usd L T k s := by
  unfold usd
  rw [e0]
  constructor
  · rintro ⟨s1, ⟨o, b, r⟩ | ⟨o, b, r⟩ | r | r⟩
    · rw [e2 s o b] at r; exact ⟨s1, Or.inl ⟨o, b, r⟩⟩
    · rw [e3 s o b] at r; exact ⟨s1, Or.inr (Or.inl ⟨o, b, r⟩)⟩
    · exact ⟨s1, Or.inr (Or.inr (Or.inl r))⟩
    · exact ⟨s1, Or.inr (Or.inr (Or.inr r))⟩
  · rintro ⟨s1, ⟨o, b, r⟩ | ⟨o, b, r⟩ | r | r⟩
    · rw [← e2 s o b] at r; exact ⟨s1, Or.inl ⟨o, b, r⟩⟩
    · rw [← e3 s o b] at r; exact ⟨s1, Or.inr (Or.inl ⟨o, b, r⟩)⟩
    · exact ⟨s1, Or.inr (Or.inr (Or.inl r))⟩
    · exact ⟨s1, Or.inr (Or.inr (Or.inr r))⟩
/-- A PLACE THAT IS DONE STAYS SO, OR IS FLAGGED -/
theorem stay {g g' : MH} {L : PG} {k : Int} (w : WF L) (k0 : 0 ≤ k) (k1 : k < pNp L) (t : tiv L (tT g L)) (hr : rch (tT g L) k) (fl : flg g g' L) (c : CLz L (tT g L) (tT g' L) k) {v : Int} (u : used L (tT g L) v k) :
    hv g' 458 k = 1 ∨ dne L (tT g' L) v k ∨ askr L (tT g' L) k (hv g' 396 12) (hv g' 396 13) (hv g' 396 14) := by
  obtain ⟨mo, ops, xr, yr, x2, x7, x5, x47, xc, xa, xs, -⟩ := w.k k0 k1
  by_cases c1 : hv g' 458 k = 1
  · exact Or.inl c1
  by_cases c2 : askr L (tT g' L) k (hv g' 396 12) (hv g' 396 13) (hv g' 396 14)
  · exact Or.inr (Or.inr c2)
  refine Or.inr (Or.inl ?_)
  have e := (fl.1 k ⟨k0, k1⟩).2.resolve_left c1
  have e0 : tT g' L 0 k = tT g L 0 k := funext e.1
  have sit : ∀ s b, blo L k = b → 0 < b → sb (tT g L 0 k (8 + pDp L k - b)) s → (∀ f, tT g' L 1 s f = tT g L 1 s f) ∧ tT g' L 2 s 0 = tT g L 2 s 0 := by
    intro s b hb b0 hs
    subst hb
    by_cases i : inS L s
    · refine (fl.2.1 s i).2.resolve_left (fun y => c2 (Or.inr (Or.inr ⟨b0, s, i, ?_, y⟩)))
      rw [e0]; exact hs
    · refine ⟨fun f => ?_, ?_⟩
      · show t1 g' L s f = t1 g L s f
        unfold t1
        rw [iff_n (fun y => i y.1), iff_n (fun y => i y.1)]
      · show t2 g' L s 0 = t2 g L s 0
        unfold t2
        rw [iff_n (fun y => i y.1), iff_n (fun y => i y.1)]
  have q22 : pOp L k = 22 → ∀ s, sb (tT g L 0 k (7 + pDp L k)) s → (∀ f, tT g' L 1 s f = tT g L 1 s f) ∧ tT g' L 2 s 0 = tT g L 2 s 0 := fun o s b =>
    sit s 1 (by unfold blo; rw [if_pos o]) (by omega) (by rw [show 8 + pDp L k - 1 = 7 + pDp L k by omega]; exact b)
  have q25 : pOp L k = 25 → ∀ s, sb (tT g L 0 k (7 + pDp L k)) s → (∀ f, tT g' L 1 s f = tT g L 1 s f) ∧ tT g' L 2 s 0 = tT g L 2 s 0 := fun o s b =>
    sit s 1 (by unfold blo; rw [if_neg (by omega), if_pos o]) (by omega) (by rw [show 8 + pDp L k - 1 = 7 + pDp L k by omega]; exact b)
  have q23 : pOp L k = 23 → ∀ s, sb (tT g L 0 k (6 + pDp L k)) s → (∀ f, tT g' L 1 s f = tT g L 1 s f) ∧ tT g' L 2 s 0 = tT g L 2 s 0 := fun o s b =>
    sit s 2 (by unfold blo; rw [if_neg (by omega), if_neg (by omega), if_pos o]) (by omega) (by rw [show 8 + pDp L k - 2 = 6 + pDp L k by omega]; exact b)
  have q24 : pOp L k = 24 → ∀ s, sb (tT g L 0 k (5 + pDp L k)) s → (∀ f, tT g' L 1 s f = tT g L 1 s f) ∧ tT g' L 2 s 0 = tT g L 2 s 0 := fun o s b =>
    sit s 3 (by unfold blo; rw [if_neg (by omega), if_neg (by omega), if_neg (by omega), if_pos o]) (by omega) (by rw [show 8 + pDp L k - 3 = 5 + pDp L k by omega]; exact b)
  have ei : ∀ a i j, ins L (tT g L 0 k) k a i j → tT g' L a i j = tT g L a i j := by
    rintro a i j (⟨rfl, rfl, h⟩ | ⟨rfl, h⟩ | ⟨rfl, o, rfl, rfl⟩ | ⟨ha, o, rfl, s, hs⟩)
    · rcases h with ⟨o, b⟩ | ⟨o, b⟩ | ⟨o, b⟩
      · exact (q22 o i b).2
      · exact (q23 o i b).2
      · exact (q24 o i b).2
    · rcases h with ⟨o, b, rfl⟩ | ⟨o, b, rfl⟩
      · exact (q23 o i b).1 _
      · exact (q25 o i b).1 _
    · exact (fl.2.2.1 _ xr.1 (xs (by omega))).2.resolve_left (fun y => c2 (Or.inr (Or.inl ⟨o, y⟩)))
    · have hm : inM L i := (cld_ok w t k0 k1 (by omega) hs).1
      refine (fl.2.2.2.1 i hm).2.resolve_left (fun y => c2 (Or.inl ⟨by omega, i, hm, ?_, y⟩)) a ha
      exact ath_le ((c.2.2.1 o s i hs).1) (by decide : (1 : Int) ≠ 0)
  refine ⟨CL_eq e0 e.2 ei c, fun o1 o2 s s0 => ?_⟩
  rw [u o1 o2 s s0]
  exact (usd_eq e0 (fun s o b => (q23 o s b).2) (fun s o b => (q24 o s b).2) s).symm
/-! the empty table -/
theorem fgt_T {h : MH} {L : PG} (w : WF L) (f : FGT h L) (a i j : Int) : tT h L a i j = if a = 3 ∧ 0 ≤ i ∧ i < pNs L ∧ j = 0 then f1st (pSk L i) else fz := by
  have nn := w.n
  unfold WFn at nn
  obtain ⟨⟨c460, c458, c467, c468, c471, c469, c470⟩, ⟨c472, c479, c477, c478⟩, ⟨c475, c476⟩, ⟨c480, c481, c482, c484, c483⟩, ⟨c488, c491, c492, c495, c498, c489, c490⟩, -⟩ := f
  have n460 : ∀ {q : Int}, inP L q → ¬ hv h 460 q = 1 := fun {q} hq y => by
    have := c460 q hq.1 (by have := hq.2; omega); omega
  have n488 : ∀ {q : Int}, inM L q → ¬ hv h 488 q = 1 := fun {q} hq y => by
    have := c488 q hq.1 (by have := hq.2; omega); omega
  have n495 : ∀ {q : Int}, inM L q → hv h 495 q = 0 := fun {q} hq => c495 q hq.1 (by have := hq.2; omega)
  by_cases a0 : a = 0
  · subst a0
    rw [if_neg (by omega)]
    show t0 h L i j = fz
    unfold t0; exact iff_n (fun y => n460 y.1 y.2.1)
  by_cases a1 : a = 1
  · subst a1
    rw [if_neg (by omega)]
    show t1 h L i j = fz
    unfold t1; exact iff_n (fun y => by
      have := c472 i (by have := y.1.1; omega) (by have := y.1.2; omega)
      have := y.2.1; omega)
  by_cases a2 : a = 2
  · subst a2
    rw [if_neg (by omega)]
    show t2 h L i j = fz
    unfold t2; exact iff_n (fun y => by
      have := c479 i (by have := y.1.1; omega) (by have := y.1.2; omega)
      have := y.2.2; omega)
  by_cases a3 : a = 3
  · subst a3
    show t3 h L i j = _
    unfold t3
    by_cases y : 0 ≤ i ∧ i < pNs L ∧ j = 0
    · rw [iff_p y, if_pos ⟨rfl, y⟩, c480 i y.1 (by omega), c481 i y.1 (by omega), c482 i y.1 (by omega), c483 i y.1 y.2.1]
      unfold f1st
      by_cases z : pSk L i = 1
      · rw [if_pos z, if_pos z]; rfl
      · rw [if_neg z, if_neg z]
    · rw [iff_n y, if_neg (fun z => y z.2)]
  rw [if_neg (fun z => a3 z.1)]
  by_cases a4 : a = 4
  · subst a4
    show t4 h i j = fz
    unfold t4; exact iff_n (fun y => by
      have := c484 i y.1 y.2.1
      have := y.2.2.2; omega)
  by_cases a5 : a = 5
  · subst a5
    show t5 h L i j = fz
    unfold t5; exact iff_n (fun y => n488 y.1 y.2.2)
  by_cases a6 : a = 6
  · subst a6
    show t6 h L i j = fz
    unfold t6; exact iff_n (fun y => n460 y.1 y.2.2)
  by_cases a7 : a = 7
  · subst a7
    show t7 h L i j = fz
    unfold t7; exact iff_n (fun y => n488 y.1 y.2.2)
  by_cases a8 : a = 8
  · subst a8
    show t8 h L i j = fz
    unfold t8; exact iff_n (fun y => y.2.2 (n495 y.1))
  by_cases a9 : a = 9
  · subst a9
    show t9 h L i j = fz
    unfold t9
    by_cases y : inP L i ∧ j = 0
    · rw [iff_p y, c467 i y.1.1 (by have := y.1.2; omega)]; rfl
    · exact iff_n y
  by_cases a10 : a = 10
  · subst a10
    show t10 h L i j = fz
    unfold t10; exact iff_n (fun y => by
      have := y.2.2.2
      rw [c468 i y.1.1 (by have := y.1.2; omega), bl_zero] at this; cases this)
  by_cases a11 : a = 11
  · subst a11
    show t11 h L i j = fz
    unfold t11; exact iff_n (fun y => by
      have q1 := y.1.1
      have q2 := y.1.2
      have := y.2.2.2
      rw [c469 (2 * i + j / 64) (by omega) (by omega), bl_zero] at this; cases this)
  by_cases a14 : a = 14
  · subst a14
    show t14 h L i j = fz
    unfold t14
    by_cases y : inM L i ∧ j = 0
    · rw [iff_p y, n495 y.1]; rfl
    · exact iff_n y
  by_cases a15 : a = 15
  · subst a15
    show t15 h L i j = fz
    unfold t15
    by_cases y : inM L i ∧ j = 0
    · rw [iff_p y, c498 i y.1.1 (by have := y.1.2; omega)]; rfl
    · exact iff_n y
  unfold tT
  rw [if_neg a0, if_neg a1, if_neg a2, if_neg a3, if_neg a4, if_neg a5, if_neg a6, if_neg a7, if_neg a8, if_neg a9, if_neg a10, if_neg a11, if_neg a14, if_neg a15]
theorem f1st_gd (L : PG) (T : TB) (k : Int) : fgd L T (f1st k) := by
  unfold f1st
  split
  · exact fgd_1 L T
  · exact fgd_n (mk_0 L) (mk_0 L) (by omega) (by unfold c32; omega) (by unfold c32; omega) (by unfold c32; omega)
theorem fz_gd (L : PG) (T : TB) : fok fz ∧ fmk L T fz ∧ fmr L fz := ⟨fok_fz, (fun s _ q => by rw [show ast fz = 0 from rfl, bl_zero] at q; cases q), ⟨mk_0 L, su8_0⟩, mk_0 L⟩
theorem fgt_tiv {h : MH} {L : PG} (w : WF L) (f : FGT h L) : tiv L (tT h L) := by
  have e := fgt_T w f
  have n3 : ∀ a i j, a ≠ 3 → tT h L a i j = fz := fun a i j q => by rw [e, if_neg (fun z => q z.1)]
  have key : ∀ a i j, fok (tT h L a i j) ∧ fmk L (tT h L) (tT h L a i j) ∧ fmr L (tT h L a i j) := by
    intro a i j
    rw [show tT h L a i j = _ from e a i j]
    split
    · have := f1st_gd L (tT h L) (pSk L i)
      exact ⟨this.1, this.2.1, this.2.2.1⟩
    · exact fz_gd L _
  refine ⟨fun a i j => (key a i j).1, fun a i j => (key a i j).2.1, fun a i j => (key a i j).2.2, fun c => ?_, fun c => ?_, fun q s y => ?_⟩
  · rw [n3 5 c 0 (by omega), n3 7 c 0 (by omega)]
  · rw [n3 14 c 0 (by omega), n3 8 c 0 (by omega)]
    exact ⟨Iff.rfl, bl_zero 0⟩
  · rw [n3 6 q 0 (by omega)] at y
    exact absurd rfl y
theorem fgt_cgt {h : MH} {L : PG} (w : WF L) (f : FGT h L) : cgt h L := by
  have nn := w.n
  unfold WFn at nn
  obtain ⟨⟨c460, c458, c467, c468, c471, c469, c470⟩, ⟨c472, c479, c477, c478⟩, ⟨c475, c476⟩, ⟨c480, c481, c482, c484, c483⟩, ⟨c488, c491, c492, c495, c498, c489, c490⟩, -⟩ := f
  refine ⟨fun k i hk i0 i1 => ?_, fun s f s0 s1 f0 f1 _ => ⟨c475 _ (by omega) (by omega), c476 _ (by omega) (by omega)⟩, fun m m0 m1 _ => ⟨c491 m m0 m1, c492 m m0 m1⟩, fun s s0 s1 _ => ⟨c477 s s0 s1, c478 s s0 s1⟩, fun m m0 m1 _ => ⟨c489 m m0 m1, c490 m m0 m1⟩⟩
  have k0 := hk.1
  have k1 := hk.2
  rw [c470 (2 * k + i / 64) (by omega) (by omega), bl_zero, c467 k (by omega) (by omega)]
  constructor
  · intro y; cases y
  · rintro ⟨s, -, -, y, -⟩
    rw [bl_zero] at y; cases y
/-! outside of a table there is nothing -/
theorem tT_dom {h : MH} {L : PG} (w : WF L) {a i j : Int} (n : ¬ tdom a i j) : tT h L a i j = fz := by
  have nn := w.n
  unfold WFn at nn
  have pP : ∀ {q : Int}, inP L q → 0 ≤ q ∧ q < 1500 := fun {q} hq => ⟨hq.1, by have := hq.2; omega⟩
  have pM : ∀ {q : Int}, inM L q → 0 ≤ q ∧ q < 1500 := fun {q} hq => ⟨hq.1, by have := hq.2; omega⟩
  have pS : ∀ {q : Int}, inS L q → 0 ≤ q ∧ q < 1500 := fun {q} hq => ⟨by have := hq.1; omega, by have := hq.2; omega⟩
  have ng : ∀ {P : Prop} {v : FA}, (P → tdom a i j) → iff_ P v = fz := fun q => iff_n (fun y => n (q y))
  by_cases a0 : a = 0
  · subst a0
    show t0 h L i j = fz
    unfold t0
    exact ng (fun y => by have := pP y.1; have := rel_rng w y.1.1 y.1.2 y.2.2; unfold tdom; omega)
  by_cases a1 : a = 1
  · subst a1
    show t1 h L i j = fz
    unfold t1
    refine ng (fun y => ?_)
    have := pS y.1
    have y1 := y.1.1
    have sc := w.sc (s := i) (by omega) y.1.2
    have z1 := y.2.2.1
    have z2 := y.2.2.2
    unfold nfs at z2
    have : j < 8 := by
      by_cases z : pSc L i < 0
      · rw [if_pos z] at z2; omega
      · rw [if_neg z] at z2
        have := w.c.2.2.1 (pSc L i) (by omega) (by omega)
        omega
    unfold tdom; omega
  by_cases a2 : a = 2
  · subst a2
    show t2 h L i j = fz
    unfold t2
    exact ng (fun y => by have := pS y.1; have := y.2.1; unfold tdom; omega)
  by_cases a3 : a = 3
  · subst a3
    show t3 h L i j = fz
    unfold t3
    exact ng (fun y => by unfold tdom; omega)
  by_cases a4 : a = 4
  · subst a4
    show t4 h i j = fz
    unfold t4
    exact ng (fun y => by have := y.1; have := y.2.1; have := y.2.2.1; unfold tdom; omega)
  by_cases a5 : a = 5
  · subst a5
    show t5 h L i j = fz
    unfold t5
    exact ng (fun y => by have := pM y.1; have := y.2.1; unfold tdom; omega)
  by_cases a6 : a = 6
  · subst a6
    show t6 h L i j = fz
    unfold t6
    exact ng (fun y => by have := pP y.1; have := y.2.1; unfold tdom; omega)
  by_cases a7 : a = 7
  · subst a7
    show t7 h L i j = fz
    unfold t7
    exact ng (fun y => by have := pM y.1; have := y.2.1; unfold tdom; omega)
  by_cases a8 : a = 8
  · subst a8
    show t8 h L i j = fz
    unfold t8
    exact ng (fun y => by have := pM y.1; have := y.2.1; unfold tdom; omega)
  by_cases a9 : a = 9
  · subst a9
    show t9 h L i j = fz
    unfold t9
    exact ng (fun y => by have := pP y.1; have := y.2; unfold tdom; omega)
  by_cases a10 : a = 10
  · subst a10
    show t10 h L i j = fz
    unfold t10
    exact ng (fun y => by have := pP y.1; have := y.2.1; have := y.2.2.1; unfold tdom; omega)
  by_cases a11 : a = 11
  · subst a11
    show t11 h L i j = fz
    unfold t11
    exact ng (fun y => by have := pP y.1; have := y.2.1; have := y.2.2.1; unfold tdom; omega)
  by_cases a14 : a = 14
  · subst a14
    show t14 h L i j = fz
    unfold t14
    exact ng (fun y => by have := pM y.1; have := y.2; unfold tdom; omega)
  by_cases a15 : a = 15
  · subst a15
    show t15 h L i j = fz
    unfold t15
    exact ng (fun y => by have := pM y.1; have := y.2; unfold tdom; omega)
  unfold tT
  rw [if_neg a0, if_neg a1, if_neg a2, if_neg a3, if_neg a4, if_neg a5, if_neg a6, if_neg a7, if_neg a8, if_neg a9, if_neg a10, if_neg a11, if_neg a14, if_neg a15]
/-- how much is still to come -/
def b1n (p : Prop) [Decidable p] : Nat := if p then 0 else 1
noncomputable def msr (h : MH) (L : PG) : Nat := mt (tT h L) + sm 63 (fun s => b1n (hv h 472 s = 1))
theorem msr_le {g g' : MH} {L : PG} (w : WF L) (o : tbok (tT g L)) (o' : tbok (tT g' L)) (p : tle (tT g L) (tT g' L)) (q : ∀ s, hv g 472 s = 1 → hv g' 472 s = 1) :
    msr g' L ≤ msr g L ∧ (msr g' L = msr g L → tT g' L = tT g L ∧ ∀ s, 0 ≤ s → s < 63 → hv g' 472 s = 1 → hv g 472 s = 1) := by
  have h1 := mt_le o o' p
  have hb : ∀ i, i < 63 → b1n (hv g' 472 (i : Nat) = 1) ≤ b1n (hv g 472 (i : Nat) = 1) := by
    intro i _
    unfold b1n
    by_cases y : hv g 472 (i : Nat) = 1
    · rw [if_pos y, if_pos (q _ y)]; omega
    · rw [if_neg y]; split <;> omega
  have h2 := sm_le (n := 63) (f := fun s => b1n (hv g' 472 (s : Nat) = 1)) (g := fun s => b1n (hv g 472 (s : Nat) = 1)) hb
  unfold msr
  refine ⟨by omega, fun e => ⟨?_, fun s s0 s1 y => ?_⟩⟩
  · funext a i j
    by_cases d : tdom a i j
    · exact (mt_eq o o' p (by omega) d).symm
    · rw [tT_dom w d, tT_dom w d]
  · have := sm_eq (n := 63) hb (by omega) s.toNat (by omega)
    rw [show ((s.toNat : Nat) : Int) = s by omega] at this
    unfold b1n at this
    rw [if_pos y] at this
    by_cases z : hv g 472 s = 1
    · exact z
    · rw [if_neg z] at this; omega
