/-! Part 51q: elements of arrays in the component -/
/-- the slot of the array; the index is above it -/
def rfsC (L : PG) (k : Int) : Int := (if pOp L k = 23 then 6 else 5) + pDp L k
theorem CLel {L : PG} {T U : TB} {k : Int} (e : pOp L k = 23 ∨ pOp L k = 24) : CLz L T U k ↔ ∀ s, sb (T 0 k (rfsC L k)) s → (s = 0 → TS L U k (T 0 k) 1 (T 6 k 0)) ∧ (s ≠ 0 → ¬ isarr L s (pX L k) → TS L U k (T 0 k) 5 (T 6 k 0)) ∧
    (s ≠ 0 → isarr L s (pX L k) → ath (T 2 s 0) ≠ 0 → ath (T 0 k (rfsC L k + 1)) ≠ 0 → (alo (T 0 k (rfsC L k + 1)) < 0 ∨ alo (T 2 s 0) ≤ ahi (T 0 k (rfsC L k + 1)) → TS L U k (T 0 k) 2 (T 6 k 0)) ∧
      (0 ≤ ahi (T 0 k (rfsC L k + 1)) ∧ alo (T 0 k (rfsC L k + 1)) < ahi (T 2 s 0) → (pOp L k = 24 → fle (T 0 k (7 + pDp L k)) (U 1 s 0)) ∧ GT L U k (nx L k) (if pOp L k = 23 then ux (T 0 k) (6 + pDp L k) (T 1 s 0) else T 0 k) (T 6 k 0))) := by
  rcases e with e | e
  · have r : rfsC L k = 6 + pDp L k := by unfold rfsC; rw [if_pos e]
    rw [CL23 e, r, show 6 + pDp L k + 1 = 7 + pDp L k by omega]
    simp only [if_pos e]
    constructor
    · intro q s hs
      obtain ⟨q1, q2, q3⟩ := q s hs
      exact ⟨q1, q2, fun y1 y2 y3 y4 => ⟨(q3 y1 y2 y3 y4).1, fun y5 => ⟨fun y6 => by omega, (q3 y1 y2 y3 y4).2 y5⟩⟩⟩
    · intro q s hs
      obtain ⟨q1, q2, q3⟩ := q s hs
      exact ⟨q1, q2, fun y1 y2 y3 y4 => ⟨(q3 y1 y2 y3 y4).1, fun y5 => ((q3 y1 y2 y3 y4).2 y5).2⟩⟩
  · have n23 : ¬ pOp L k = 23 := by omega
    have r : rfsC L k = 5 + pDp L k := by unfold rfsC; rw [if_neg n23]
    rw [CL24 e, r, show 5 + pDp L k + 1 = 6 + pDp L k by omega]
    simp only [if_neg n23]
    constructor
    · intro q s hs
      obtain ⟨q1, q2, q3⟩ := q s hs
      exact ⟨q1, q2, fun y1 y2 y3 y4 => ⟨(q3 y1 y2 y3 y4).1, fun y5 => ⟨fun _ => ((q3 y1 y2 y3 y4).2 y5).1, ((q3 y1 y2 y3 y4).2 y5).2⟩⟩⟩
    · intro q s hs
      obtain ⟨q1, q2, q3⟩ := q s hs
      exact ⟨q1, q2, fun y1 y2 y3 y4 => ⟨(q3 y1 y2 y3 y4).1, fun y5 => ⟨((q3 y1 y2 y3 y4).2 y5).1 e, ((q3 y1 y2 y3 y4).2 y5).2⟩⟩⟩
theorem usd_el {L : PG} {T : TB} {k s : Int} (e : pOp L k = 23 ∨ pOp L k = 24) : usd L T k s ↔ 1 ≤ s ∧ sb (T 0 k (rfsC L k)) s ∧ isarr L s (pX L k) ∧ ath (T 2 s 0) ≠ 0 ∧ 0 ≤ ahi (T 0 k (rfsC L k + 1)) ∧ alo (T 0 k (rfsC L k + 1)) < ahi (T 2 s 0) := by
  rcases e with e | e
  · have r : rfsC L k = 6 + pDp L k := by unfold rfsC; rw [if_pos e]
    rw [r, show 6 + pDp L k + 1 = 7 + pDp L k by omega]
    unfold usd
    constructor
    · rintro ⟨y0, y | y | y | y⟩
      · exact ⟨y0, y.2⟩
      · omega
      · omega
      · omega
    · rintro ⟨y0, y⟩
      exact ⟨y0, Or.inl ⟨e, y⟩⟩
  · have r : rfsC L k = 5 + pDp L k := by unfold rfsC; rw [if_neg (by omega)]
    rw [r, show 5 + pDp L k + 1 = 6 + pDp L k by omega]
    unfold usd
    constructor
    · rintro ⟨y0, y | y | y | y⟩
      · omega
      · exact ⟨y0, y.2⟩
      · omega
      · omega
    · rintro ⟨y0, y⟩
      exact ⟨y0, Or.inr (Or.inl ⟨e, y⟩)⟩
/-- arrays so far whose elements may be met; arrays so far beyond whose ends the index may be -/
def eIN (T : TB) (I : FA) (x n s : Int) : Prop := 7 ≤ s ∧ s < n ∧ bl x s = true ∧ 0 ≤ ahi I ∧ alo I < ahi (T 2 s 0)
def eBN (T : TB) (I : FA) (x n s : Int) : Prop := 7 ≤ s ∧ s < n ∧ bl x s = true ∧ (alo I < 0 ∨ alo (T 2 s 0) ≤ ahi I)
/-- a join to one entry leaves the others -/
theorem AdK_one {g g' : MH} {L : PG} {a i j : Int} {v : FA} (t : tbok (cT g L)) (ov : fok v) (b : AdK L g g' (fun U => fle v (U a i j)) (fun U => fle v (U a i j))) {a' i' j' : Int} (ne : ¬ (a' = a ∧ i' = i ∧ j' = j)) : cT g' L a' i' j' = cT g L a' i' j' := by
  have p := b.2.2.2.2.2.2.1 (tj (cT g L) a i j v) (tj_ok t ov) (tj_ge _ _ _ _ _) (tj_le.mp (tle_rfl (tj (cT g L) a i j v))).2 a' i' j'
  unfold tj at p
  rw [if_neg ne] at p
  exact fle_anti (b.2.1.2.2.2.1.1 _ _ _) (t _ _ _) p (b.2.2.2.2.1 _ _ _)
section EL
variable {l : Launch} {G : JG} {h g : MH} {L : PG} {k M d : Int} {X : Int → FA} {lk : FA} {P : TB → Prop} {Q : Int → MH → Prop} {E : Nat → Int → MH → Prop}
theorem W_throwG {s x : Int} (hG : gO G = true) (w : WF L) (t : tiv L (cT h L)) (hr : rch (cT h L) k) (up : ∀ U V, tle U V → P U → P V) (c : wcf h g L k M X lk d P) (ex : x = l_shl 1 s) (s1 : 1 ≤ s) (s2 : s < 7)
    (f : ∀ U, tbok U → tle (cT g L) U → CLz L U U k → TS L U k (cT h L 0 k) s (cT h L 6 k 0)) (hQ : ∀ g', wcf h g' L k M X lk d (fun U => P U ∧ TS L U k (cT h L 0 k) s (cT h L 6 k 0)) → wsk g g' → wkdC g g' L → tle (cT g L) (cT g' L) → Q 0 g') : S_X2_hurl l G [(2002, 3), (1, x)] g Q E := by
  subst ex
  obtain ⟨c3, c3'⟩ := c.2.2.1
  have rl : ∀ j, 0 ≤ j → j < pLc L (pMo L k) → rel L k j := fun j j0 j1 => Or.inl ⟨j0, j1⟩
  refine K_hurl (X := cT h L 0 k) hG w c.1.2.1 c.2.1 (fun j j0 j1 => c3 j (rl j j0 j1)) (fun j j0 j1 => fgd_le c.1.2.2.2.2.1 (tiv_slot t hr (rl j j0 j1))) (by rw [bl_shl (by omega) (by omega) (by omega)]; simp; omega) (shl_ne (by omega) (by omega)) (fgd_b1 (by omega) (by omega) (Or.inl s2)) (by rw [c3']; exact fgd_le c.1.2.2.2.2.1 (tiv_lock t hr)) fun g' a ws => ?_
  rw [c3'] at a
  exact hQ g' (wcf_P (wcf_goG w up c a ws (fun U oU p q => (tsX_one s1 (by omega)).mpr (f U oU p q))) (fun _ p => ⟨p.1, (tsX_one s1 (by omega)).mp p.2⟩)) ws a.2.2.1 a.2.2.2.2.1
theorem hset_tw {h : MH} {a k x y : Int} : hset (hset h a k x) a k y = hset h a k y := by
  refine mh_ext rfl (fun b j => ?_)
  rw [hv_set, hv_set, hv_set]
  split
  · rfl
  · rfl
theorem eIN_s {T : TB} {I : FA} {x n s : Int} (n7 : 7 ≤ n) : eIN T I x (n + 1) s ↔ eIN T I x n s ∨ (s = n ∧ bl x n = true ∧ 0 ≤ ahi I ∧ alo I < ahi (T 2 n 0)) := by
  unfold eIN
  constructor
  · rintro ⟨y1, y2, y3, y4, y5⟩
    by_cases z : s = n
    · rw [z] at y3 y5; exact Or.inr ⟨z, y3, y4, y5⟩
    · exact Or.inl ⟨y1, by omega, y3, y4, y5⟩
  · rintro (⟨y1, y2, y3, y4, y5⟩ | ⟨rfl, y3, y4, y5⟩)
    · exact ⟨y1, by omega, y3, y4, y5⟩
    · exact ⟨n7, by omega, y3, y4, y5⟩
theorem eBN_s {T : TB} {I : FA} {x n s : Int} (n7 : 7 ≤ n) : eBN T I x (n + 1) s ↔ eBN T I x n s ∨ (s = n ∧ bl x n = true ∧ (alo I < 0 ∨ alo (T 2 n 0) ≤ ahi I)) := by
  unfold eBN
  constructor
  · rintro ⟨y1, y2, y3, y4⟩
    by_cases z : s = n
    · rw [z] at y3 y4; exact Or.inr ⟨z, y3, y4⟩
    · exact Or.inl ⟨y1, by omega, y3, y4⟩
  · rintro (⟨y1, y2, y3, y4⟩ | ⟨rfl, y3, y4⟩)
    · exact ⟨y1, by omega, y3, y4⟩
    · exact ⟨n7, by omega, y3, y4⟩
/-- what two marks of the loop say -/
def eFl (T : TB) (I : FA) (x n v5 v6 : Int) : Prop := (v5 ≠ 0 ↔ ∃ s, eIN T I x n s) ∧ (v6 ≠ 0 ↔ ∃ s, eBN T I x n s) ∧ (v6 = 0 ∨ v6 = 1)
/-- what holds after the arrays below n -/
def EI (h g3 : MH) (L : PG) (k M D x n : Int) (g' : MH) (V v5 v6 : Int) : Prop :=
  wcf (hset h 77 k V) g' L k M (cT h L 0 k) (cT h L 6 k 0) D (fun U => (True ∧ rfx L k (cT h L 0 k) (cT h L 6 k 0) (ast (cT h L 0 k (rfsC L k))) x U) ∧ (pOp L k = 24 → ∀ s, eIN (cT g3 L) (cT h L 0 k (rfsC L k + 1)) x n s → fle (cT h L 0 k (7 + pDp L k)) (U 1 s 0))) ∧
  (∀ s, cT g' L 2 s 0 = cT g3 L 2 s 0) ∧
  (pOp L k = 23 → cT g' L = cT g3 L ∧ lub (fo g' 136) (eIN (cT g3 L) (cT h L 0 k (rfsC L k + 1)) x n) (fun s => cT g3 L 1 s 0) ∧ (fo g' 136 = fz ∨ fgd L (cT g3 L) (fo g' 136)) ∧ ∀ s, eIN (cT g3 L) (cT h L 0 k (rfsC L k + 1)) x n s → ubt g' (uad g' 1 s 0) k = true) ∧
  (∀ s, 7 ≤ s → s < n → bl x s = true → ubt g' (uad g' 2 s 0) k = true) ∧
  eFl (cT g3 L) (cT h L 0 k (rfsC L k + 1)) x n v5 v6 ∧
  (∀ s, 0 ≤ s → (bl V s = true ↔ bl (hv h 77 k) s = true ∨ eIN (cT g3 L) (cT h L 0 k (rfsC L k + 1)) x n s)) ∧ fo g' 135 = cT h L 0 k (rfsC L k + 1) ∧ (pOp L k = 24 → fo g' 137 = cT h L 0 k (7 + pDp L k)) ∧ tle (cT g3 L) (cT g' L)
theorem EI_P {n : Int} {g3 : MH} {x : Int} : ∀ U V : TB, tle U V → ((True ∧ rfx L k (cT h L 0 k) (cT h L 6 k 0) (ast (cT h L 0 k (rfsC L k))) x U) ∧ (pOp L k = 24 → ∀ s, eIN (cT g3 L) (cT h L 0 k (rfsC L k + 1)) x n s → fle (cT h L 0 k (7 + pDp L k)) (U 1 s 0))) → ((True ∧ rfx L k (cT h L 0 k) (cT h L 6 k 0) (ast (cT h L 0 k (rfsC L k))) x V) ∧ (pOp L k = 24 → ∀ s, eIN (cT g3 L) (cT h L 0 k (rfsC L k + 1)) x n s → fle (cT h L 0 k (7 + pDp L k)) (V 1 s 0))) :=
  fun _ _ p q => ⟨⟨trivial, rfx_up p q.1.2⟩, fun e s y => fle_trans (q.2 e s y) (p _ _ _)⟩
theorem rfsC_r (e : pOp L k = 23 ∨ pOp L k = 24) (hd : ppo L k ≤ pDp L k) : 8 ≤ rfsC L k ∧ rfsC L k + 1 < 8 + pDp L k := by
  unfold rfsC
  rcases e with e | e
  · have pp : ppo L k = 2 := by unfold ppo; simp [e]
    rw [if_pos e]; omega
  · have pp : ppo L k = 3 := by unfold ppo; simp [e]
    rw [if_neg (by omega)]; omega
theorem el_arr (w : WF L) {v : FA} {T3 : TB} {kd s : Int} (t3 : tiv L T3) (kd0 : 0 ≤ kd) (md : mkd L T3 s) (s1 : 1 ≤ s) (sn : s < pNt L) (y3 : pSc L s = -1 - kd) : inS L s ∧ nfs L s = 1 ∧ fgd L T3 (T3 2 s 0) ∧ fgd L T3 (T3 1 s 0) := by
  have s7 : 7 ≤ s := by
    apply Classical.byContradiction
    intro y
    have := w.s.1 s s1 (by omega)
    omega
  have nf : nfs L s = 1 := by
    unfold nfs
    rw [if_pos (show pSc L s < 0 by omega)]
  rcases md with y | y
  · omega
  · have th := y.2.2 (by omega)
    have th1 := y.2.1 0 (by omega) (by omega)
    have g2 : fgd L T3 (T3 2 s 0) := ⟨t3.1 2 s 0, t3.2.1 2 s 0, t3.2.2.1 2 s 0, (fok_there (t3.1 2 s 0) th).1⟩
    have g1 : fgd L T3 (T3 1 s 0) := ⟨t3.1 1 s 0, t3.2.1 1 s 0, t3.2.2.1 1 s 0, (fok_there (t3.1 1 s 0) th1).1⟩
    exact ⟨⟨s7, sn⟩, nf, g2, g1⟩
theorem el_rel (w : WF L) (hk : inP L k) (e : pOp L k = 23 ∨ pOp L k = 24) : 0 ≤ pX L k ∧ rel L k (rfsC L k) ∧ rel L k (rfsC L k + 1) ∧ rel L k (7 + pDp L k) := by
  obtain ⟨-, -, xr, -, -, -, -, -, -, -, -, -, -, -, -, -, -, -, -, dp, -⟩ := w.k hk.1 hk.2
  have r := rfsC_r e dp.2.2.1
  have r1 := r.1
  have r2 := r.2
  have x0 := xr.1
  refine ⟨x0, Or.inr ⟨r1, ?_⟩, Or.inr ⟨?_, r2⟩, Or.inr ⟨?_, ?_⟩⟩
  · omega
  · omega
  · omega
  · omega
/-- what the work on elements knows -/
theorem el_facts (w : WF L) (hk : inP L k) (t : tiv L (cT h L)) (hr : rch (cT h L) k) (e : pOp L k = 23 ∨ pOp L k = 24) {x1 : Int} (bg : ∀ s, 0 ≤ s → (bl x1 s = true ↔ bl (ast (cT h L 0 k (rfsC L k))) s = true ∧ 1 ≤ s ∧ isarr L s (pX L k))) {g3 : MH} (t3 : tiv L (cT g3 L)) (le3 : tle (cT h L) (cT g3 L)) :
    (rel L k (rfsC L k) ∧ rel L k (rfsC L k + 1) ∧ rel L k (7 + pDp L k)) ∧ (∀ s, 0 ≤ s → bl (ast (cT h L 0 k (rfsC L k))) s = true → sb (cT h L 0 k (rfsC L k)) s) ∧
    ∀ s, bl x1 s = true → 0 ≤ s → inS L s ∧ nfs L s = 1 ∧ fgd L (cT g3 L) (cT g3 L 2 s 0) ∧ fgd L (cT g3 L) (cT g3 L 1 s 0) := by
  obtain ⟨x0, r1, r2, r3⟩ := el_rel w hk e
  have hb := (tiv_sok t w 0 k (rfsC L k)).2
  have n63 : pNt L ≤ 63 := by
    have nn := w.n
    unfold WFn at nn
    omega
  have bt := tiv_slot t hr r1
  refine ⟨⟨r1, r2, r3⟩, ?_, ?_⟩
  · intro s s0 y
    have := hb s s0 y
    exact ⟨s0, by omega, y⟩
  · intro s b s0
    have y := (bg s s0).mp b
    exact el_arr (v := fz) w t3 x0 (mkd_le le3 (bt.2.1 s s0 y.1)) y.2.1 (hb s s0 y.1) y.2.2
theorem el_inC {T : TB} {a i j : Int} (e : pOp L k = 23 ∨ pOp L k = 24) (y : inC L T k a i j) : (a = 2 ∧ j = 0 ∧ i ≠ 0 ∧ sb (T 0 k (rfsC L k)) i ∧ isarr L i (pX L k)) ∨ (a = 1 ∧ j = 0 ∧ pOp L k = 23 ∧ usd L T k i) := by
  unfold inC at y
  rcases y with ⟨y1, y2, y3, y⟩ | ⟨y1, y2, y⟩ | ⟨-, y, -⟩ | ⟨-, y, -⟩
  · rcases y with ⟨y, -⟩ | ⟨y, y4⟩ | ⟨y, y4⟩
    · omega
    · left
      refine ⟨y1, y2, y3, ?_, y4.2⟩
      unfold rfsC
      rw [if_pos y]; exact y4.1
    · left
      refine ⟨y1, y2, y3, ?_, y4.2⟩
      unfold rfsC
      rw [if_neg (by omega)]; exact y4.1
  · rcases y with ⟨y, y4⟩ | ⟨y, -⟩
    · exact Or.inr ⟨y1, y4.1, y, y4.2⟩
    · omega
  · omega
  · omega
/-- behind the loop -/
theorem w_elem_end (hG : gO G = true) (w : WF L) (t : tiv L (cT h L)) (hr : rch (cT h L) k) (u : usI h L k) (e : pOp L k = 23 ∨ pOp L k = 24) {x1 D : Int} (hD : D = rfsC L k - 8)
    (bg : ∀ s, 0 ≤ s → (bl x1 s = true ↔ bl (ast (cT h L 0 k (rfsC L k))) s = true ∧ 1 ≤ s ∧ isarr L s (pX L k))) {g3 gl : MH} (t3 : tiv L (cT g3 L)) (le3 : tle (cT h L) (cT g3 L)) {V v5 v6 : Int} (ei : EI h g3 L k M D x1 (pNt L) gl V v5 v6) (hQ : ∀ g', WE h g' L k → Q 0 g')
    {h0 : MH} {K : JC} (ki : KI K l G yX2_element cX2_element 9 none [] 11 321 700 Q E h0) :
    JW K 75 [(2002, 3), (0, pOp L k), (0, pX L k), (1, x1), (5000, 0), (0, v5), (0, v6), (0, pNt L), (5000, 0)] [] gl := by
  have nn := w.n
  unfold WFn at nn
  obtain ⟨cg, eT2, e23, rgL, ii, bV, f135, f137, le3l⟩ := ei
  have hk := cg.2.1.1
  have hk1 := hk.1
  have hk2 := hk.2
  obtain ⟨-, -, -, -, -, -, -, -, -, -, -, -, -, -, -, -, -, -, -, dp, -⟩ := w.k hk.1 hk.2
  obtain ⟨⟨rr1, rr2, rr3⟩, sbx, arr⟩ := el_facts w hk t hr e bg t3 le3
  have ch : CW h L := frC_CW (frC_sym (frC_tr (o77_f (o77_set h k V)) cg.1.1)) w (wcf_st cg).1
  obtain ⟨ebh, -⟩ := o77_T w ch (o77_set h k V)
  have it := tiv_slot t hr rr2
  have i0 : ath (cT h L 0 k (rfsC L k + 1)) ≠ 0 := by rw [it.2.2.2]; decide
  have cp := (wcf_st cg).1.1
  have leh : tle (cT h L) (cT gl L) := tle_trans le3 le3l
  have tl := (wcf_st cg).2.2.2.1
  have hrl : rch (cT gl L) k := ath_le (leh _ _ _) hr
  -- the place is closed by what is brought about
  have hle : ∀ T : TB, rfx L k (cT h L 0 k) (cT h L 6 k 0) (ast (cT h L 0 k (rfsC L k))) x1 T → (pOp L k = 24 → ∀ s, eIN (cT g3 L) (cT h L 0 k (rfsC L k + 1)) x1 (pNt L) s → fle (cT h L 0 k (7 + pDp L k)) (T 1 s 0)) → ((∃ s, eBN (cT g3 L) (cT h L 0 k (rfsC L k + 1)) x1 (pNt L) s) → TS L T k (cT h L 0 k) 2 (cT h L 6 k 0)) →
      (∀ s, eIN (cT g3 L) (cT h L 0 k (rfsC L k + 1)) x1 (pNt L) s → GT L T k (nx L k) (if pOp L k = 23 then ux (cT h L 0 k) (6 + pDp L k) (cT gl L 1 s 0) else cT h L 0 k) (cT h L 6 k 0)) → cT gl L 0 k = cT h L 0 k → cT gl L 6 k 0 = cT h L 6 k 0 → CLz L (cT gl L) T k := by
    intro T rf f24 bey gt z0 z6
    rw [CLel e, z0, z6]
    intro s hs
    have inx : s ≠ 0 → isarr L s (pX L k) → bl x1 s = true := fun y1 y2 => (bg s hs.1).mpr ⟨hs.2.2, by have := hs.1; omega, y2⟩
    refine ⟨fun y => rf.1 (by have h2 := hs.2.2; rw [y] at h2; exact h2), fun y1 y2 => rf.2 ⟨s, by have := hs.1; omega, by have := hs.2.1; omega, hs.2.2, ?_⟩, fun y1 y2 y3 y4 => ⟨fun y5 => ?_, fun y5 => ?_⟩⟩
    · cases r : bl x1 s
      · rfl
      · exact absurd ((bg s hs.1).mp r).2.2 y2
    · have b := inx y1 y2
      obtain ⟨i1, -⟩ := arr s b hs.1
      rw [eT2] at y5
      exact bey ⟨s, i1.1, i1.2, b, y5⟩
    · have b := inx y1 y2
      obtain ⟨i1, -⟩ := arr s b hs.1
      rw [eT2] at y5
      have ii : eIN (cT g3 L) (cT h L 0 k (rfsC L k + 1)) x1 (pNt L) s := ⟨i1.1, i1.2, b, y5⟩
      exact ⟨fun e24 => f24 e24 s ii, gt s ii⟩
  have use1 : ∀ s, 0 ≤ s → bl V s = true → usd L (cT gl L) k s := by
    intro s s0 b
    rcases (bV s s0).mp b with y | y
    · exact usd_le t.1 leh (fun j v => t.2.2.2.2.2 k j hr v) dp.2.2.1 (u s s0 y)
    · obtain ⟨y1, y2, y3, y4, y5⟩ := y
      obtain ⟨z1, z2, z3⟩ := (bg s s0).mp y3
      rw [usd_el e, eT2]
      obtain ⟨-, -, gs, -⟩ := arr s y3 s0
      obtain ⟨-, j1, j2, -⟩ := leh 0 k (rfsC L k + 1) i0
      exact ⟨z2, sb_le (t.1 _ _ _) (leh _ _ _) (sbx s s0 z1), z3, by rw [gs.2.2.2]; decide, by omega, by omega⟩
  have use2 : cT gl L 0 k = cT h L 0 k → used L (cT gl L) V k := by
    intro z0 _ _ s s0
    refine ⟨use1 s s0, fun y => ?_⟩
    rw [usd_el e, z0, eT2] at y
    obtain ⟨y1, y2, y3, y4, y5, y6⟩ := y
    have b := (bg s s0).mpr ⟨y2.2.2, y1, y3⟩
    obtain ⟨i1, -⟩ := arr s b s0
    exact (bV s s0).mpr (Or.inr ⟨i1.1, i1.2, b, y5, y6⟩)
  have reg : cT gl L 0 k = cT h L 0 k → ∀ a i j, inC L (cT gl L) k a i j → udom L a i j ∧ ubt gl (uad gl a i j) k = true := by
    intro z0 a i j y
    have this := el_inC e y
    rcases this with ⟨rfl, rfl, y3, y4, y5⟩ | ⟨rfl, rfl, y3, y4⟩
    · rw [z0] at y4
      have b := (bg i y4.1).mpr ⟨y4.2.2, by have := y4.1; omega, y5⟩
      obtain ⟨i1, -⟩ := arr i b y4.1
      exact ⟨Or.inl (Or.inr (Or.inl ⟨rfl, i1, rfl⟩)), rgL i i1.1 i1.2 b⟩
    · rw [usd_el e, z0, eT2] at y4
      obtain ⟨u1, u2, u3, u4, u5, u6⟩ := y4
      have b := (bg i (by omega)).mpr ⟨u2.2.2, u1, u3⟩
      obtain ⟨i1, nf, -⟩ := arr i b (by omega)
      exact ⟨Or.inl (Or.inl ⟨rfl, i1, by decide, by omega⟩), (e23 y3).2.2.2 i ⟨i1.1, i1.2, b, u5, u6⟩⟩
  -- the last steps, after what may be thrown
  have after : ∀ (ga : MH) (P' : TB → Prop), (∀ U V, tle U V → P' U → P' V) → wcf (hset h 77 k V) ga L k M (cT h L 0 k) (cT h L 6 k 0) D P' → wkdC gl ga L → tle (cT gl L) (cT ga L) → fo ga 136 = fo gl 136 →
      (∀ U, P' U → rfx L k (cT h L 0 k) (cT h L 6 k 0) (ast (cT h L 0 k (rfsC L k))) x1 U ∧ (pOp L k = 24 → ∀ s, eIN (cT g3 L) (cT h L 0 k (rfsC L k + 1)) x1 (pNt L) s → fle (cT h L 0 k (7 + pDp L k)) (U 1 s 0)) ∧ ((∃ s, eBN (cT g3 L) (cT h L 0 k (rfsC L k + 1)) x1 (pNt L) s) → TS L U k (cT h L 0 k) 2 (cT h L 6 k 0))) →
      ((¬ v5 = 0 → ((¬ pOp L k = 23 → S_X2_goOn l G [(2002, 3), (0, (w32 ((hv ga 3 17) + 1)))] ga (fun _ h2 => Q 0 h2) E) ∧ (pOp L k = 23 → S_X2_put l G [(2002, 3), (8, 136)] ga (fun _ h4 => S_X2_goOn l G [(2002, 3), (0, (w32 ((hv h4 3 17) + 1)))] h4 (fun _ h6 => Q 0 h6) E) E))) ∧ (v5 = 0 → Q 0 ga)) := by
    intro ga P' upP ca wda lea fa pz
    have endW : ∀ g5 {P5 : TB → Prop}, AdK L (hset h 77 k V) g5 P5 (fun U => CLz L U U k) → wkdC gl g5 L → tle (cT gl L) (cT g5 L) → (cT gl L 0 k = cT h L 0 k → cT gl L 6 k 0 = cT h L 6 k 0 → CLz L (cT gl L) (cT g5 L) k) → Q 0 g5 := by
      intro g5 P5 a5 wd5 le5 cl5
      have v5' : hv g5 77 k = V := by rw [a5.2.2.2.1 k, eq_a]
      exact hQ g5 (WE_77 w ch V (WE_rd w hk cg.1 a5 (by rw [ebh]; exact hr) (by rw [ebh]; exact t) wd5 le5 (fun z0 z6 => cl5 (by rw [z0, ebh]) (by rw [z6, ebh])) (fun z0 => reg (by rw [z0, ebh])) (by rw [v5']; exact use1) (fun z0 => by rw [v5']; exact use2 (by rw [z0, ebh]))))
    have lea' : tle (cT h L) (cT ga L) := tle_trans leh lea
    have ta := (wcf_st ca).2.2.2.1
    have hra : rch (cT ga L) k := ath_le (lea' _ _ _) hr
    -- what a closed table asks for an array that may be met
    have ask1 : ∀ U, tbok U → tle (cT gl L) U → CLz L U U k → ∀ s, eIN (cT g3 L) (cT h L 0 k (rfsC L k + 1)) x1 (pNt L) s → GT L U k (nx L k) (if pOp L k = 23 then ux (cT h L 0 k) (6 + pDp L k) (cT gl L 1 s 0) else cT h L 0 k) (cT h L 6 k 0) := by
      intro U oU p q s hs
      obtain ⟨y1, y2, y3, y4, y5⟩ := hs
      obtain ⟨z1, z2, z3⟩ := (bg s (by omega)).mp y3
      obtain ⟨-, -, gs, -⟩ := arr s y3 (by omega)
      obtain ⟨j0, j1, j2, -⟩ := leh 0 k (rfsC L k + 1) i0
      have q2 := ((CLel e).mp (CL_dn tl hrl p q) s (sb_le (t.1 _ _ _) (leh _ _ _) (sbx s (by omega) z1))).2.2 (by omega) z3 (by rw [eT2, gs.2.2.2]; decide) j0
      have q3 := (q2.2 (by rw [eT2]; omega)).2
      by_cases o : pOp L k = 23
      · rw [if_pos o] at q3 ⊢
        exact GT_dn (lk := fz) leh q3
      · rw [if_neg o] at q3 ⊢
        exact GT_le (fun _ => leh _ _ _) (leh _ _ _) (tle_rfl _) q3
    refine ⟨fun y => ⟨fun n23 => ?_, fun y23 => ?_⟩, fun y => ?_⟩
    · have e24 : pOp L k = 24 := by omega
      have pp : ppo L k = 3 := by unfold ppo; simp [e24]
      have pu : ppu L k = 0 := by unfold ppu; simp [e24]
      have rD : rfsC L k = 5 + pDp L k := by unfold rfsC; rw [if_neg n23]
      obtain ⟨s, hs⟩ := ii.1.mp y
      refine W_nextG hG w upP ca (by omega) (by omega) (fun U oU p q => ?_) fun g5 c5 ws5 wk5 le5 => endW g5 c5.1 (wkdC_tr wda wk5) (tle_trans lea le5) (fun z0 z6 => ?_)
      · have := ask1 U oU (tle_trans lea p) q s hs
        rw [if_neg n23] at this
        exact this
      · obtain ⟨p1, p2, p3⟩ := pz _ c5.1.2.2.2.2.2.1.1
        refine hle _ p1 p2 p3 (fun s hs => ?_) z0 z6
        rw [if_neg n23]
        exact c5.1.2.2.2.2.2.1.2
    · have pp : ppo L k = 2 := by unfold ppo; simp [y23]
      have pu : ppu L k = 1 := by unfold ppu; simp [y23]
      have rD : rfsC L k = 6 + pDp L k := by unfold rfsC; rw [if_pos y23]
      obtain ⟨eTl, lb, gd, rg1⟩ := e23 y23
      have ne := ii.1.mp y
      have na : ath (fo gl 136) ≠ 0 := by
        obtain ⟨s, hs⟩ := ne
        obtain ⟨-, -, -, gs⟩ := arr s hs.2.2.1 (by have := hs.1; omega)
        exact ((lb (fo gl 136)).mp (fle_rfl _) s hs (by rw [gs.2.2.2]; decide)).1
      have gdv : fgd L (cT g3 L) (fo gl 136) := by
        rcases gd with z | z
        · exact absurd (congrArg ath z) na
        · exact z
      refine W_put (v := fo gl 136) hG w ca (by omega) (by decide) (by decide) fa (fgd_le (by rw [← eTl]; exact lea) gdv) fun g4 c4 fr4 => ?_
      have sm : smC ga g4 := sm_put (by omega) ((c4.1.1.1).trans (ca.1.1.1).symm) fr4
      have wd4 := smC_wkd w (wcf_st ca).1 sm
      have e4a : cT g4 L = cT ga L := smC_ext w (wcf_st ca).1 sm
      rw [show 8 + D = 6 + pDp L k by omega] at c4
      refine W_nextG hG w upP c4 (by omega) (by omega) (fun U oU p q => (GT_lub lb ne).mpr (fun s hs => ?_)) fun g5 c5 ws5 wk5 le5 => endW g5 c5.1 (wkdC_tr wda (wkdC_tr wd4 wk5)) (tle_trans lea (by rw [← e4a]; exact le5)) (fun z0 z6 => ?_)
      · have := ask1 U oU (tle_trans lea (by rw [← e4a]; exact p)) q s hs
        rw [if_pos y23, eTl] at this
        exact this
      · obtain ⟨p1, p2, p3⟩ := pz _ c5.1.2.2.2.2.2.1.1
        refine hle _ p1 p2 p3 (fun s hs => ?_) z0 z6
        rw [if_pos y23, eTl]
        exact (GT_lub lb ne).mp c5.1.2.2.2.2.2.1.2 s hs
    · obtain ⟨p1, p2, p3⟩ := pz _ ca.1.2.2.2.2.2.1
      refine endW ga ca.1 wda lea (hle _ p1 p2 p3 (fun s hs => absurd (ii.1.mpr ⟨s, hs⟩) (by simpa using y)))
  refine r_X2_element_75 ki hG ⟨by have := cp.1.1; omega, ?_⟩
  rw [cp.2.1.2.2, w32_i (by omega) (by omega)]
  refine ⟨fun _ => ⟨fun y => ?_, fun y => ?_⟩, fun y => by omega⟩
  · exact after gl _ EI_P cg (wkdC_rfl _ _) (tle_rfl _) rfl (fun U p => ⟨p.1.2, p.2, fun z => absurd (ii.2.1.mpr z) (by simpa using y)⟩)
  · obtain ⟨s, hs⟩ := ii.2.1.mp y
    refine W_throwG (s := 2) hG w (by rw [ebh]; exact t) (by rw [ebh]; exact hr) EI_P cg (by decide) (by decide) (by decide) (fun U oU p q => ?_) fun ga ca ws wda lea => ?_
    · obtain ⟨y1, y2, y3, y4⟩ := hs
      obtain ⟨z1, z2, z3⟩ := (bg s (by omega)).mp y3
      obtain ⟨-, -, gs, -⟩ := arr s y3 (by omega)
      obtain ⟨j0, j1, j2, -⟩ := leh 0 k (rfsC L k + 1) i0
      have q2 := ((CLel e).mp (CL_dn tl hrl p q) s (sb_le (t.1 _ _ _) (leh _ _ _) (sbx s (by omega) z1))).2.2 (by omega) z3 (by rw [eT2, gs.2.2.2]; decide) j0
      rw [ebh]
      exact TS_le (fun _ => leh _ _ _) (leh _ _ _) (tle_rfl _) (q2.1 (by rw [eT2]; omega))
    · rw [ebh] at ca
      exact after ga _ (fun U V p q => ⟨EI_P U V p q.1, TS_up p q.2⟩) ca wda lea (fo_eq (fun j => ws _ j (by omega))) (fun U p => ⟨p.1.1.2, p.1.2, fun _ => p.2⟩)
end EL
