/-! Part 51c: facts come to a place, as a step forward -/
theorem onq_fr {h h' : MH} (o : onq h h') : frC h h' := ⟨o.1, fun b j p _ => o.2 b j (fun z => p (by unfold wlo; omega)) (fun z => p (by unfold wlo; omega)) (fun z => p (by unfold wlo; omega))⟩
theorem onq_hv {h h' : MH} (o : onq h h') {b : Int} (hb : b ≠ 78 ∧ b ≠ 79 ∧ b ≠ 3) (j : Int) : hv h' b j = hv h b j := o.2 b j hb.1 hb.2.1 (fun z => hb.2.2 z.1)
section ON
variable {h h' g : MH} {L : PG}
theorem onq_T (w : WF L) (c : CW h L) (o : onq h h') : cT h' L = cT h L ∧ (zC h L → zC h' L) := by
  have f := onq_fr o
  have e0 : ∀ q, inP L q → vq h h' q := fun q hq => vq_of (frC_4 f q) (fun b j hb => onq_hv o (by have := (c.2.1 q hq).2; omega) j)
  have eo : ∀ m, inM L m → vo h h' m := fun m hm => ⟨fun j _ _ => onq_hv o (by unfold inM at hm; omega) j, fo_eq (fun j => onq_hv o (by unfold inM at hm; omega) j)⟩
  exact ⟨cT_eq w e0 (fun a i j d => vc_of (frC_cad f w d) (fun k => onq_hv o (by have := (c.2.2.2.2.1 a i j d).2; omega) k)) (fun i i0 i1 => fo_eq (fun j => onq_hv o (by omega) j)) eo (fun q hq => ⟨onq_hv o (by omega) q, onq_hv o (by omega) q, onq_hv o (by omega) q, onq_hv o (by omega) q⟩), zC_eq e0 (fun i i0 i1 => onq_hv o (by omega) 0) eo⟩
/-- the table is changed, then those wake that rest on what has changed -/
theorem AdK_op {P A : TB → Prop} (w : WF L) (t : STc h L) (f : frC h g) (eu : ∀ a i j, udom L a i j → ∀ k, hv g (uad h a i j) k = hv h (uad h a i j) k) (e7 : ∀ j, hv g 77 j = hv h 77 j) (z : zC g L) (tv : tiv L (cT g L)) (le : tle (cT h L) (cT g L)) (hp : P (cT g L))
    (ha : ∀ U, tbok U → tle (cT h L) U → A U → tle (cT g L) U) (o : onq g h') (q' : QI h' (pNp L)) (k1 : ∀ j, hv h 79 j ≠ 0 → hv h' 79 j ≠ 0) (k2 : ∀ q, inP L q → hv h' 79 q ≠ 0 ∨ ((∀ s, cT g L 0 q s = cT h L 0 q s) ∧ cT g L 6 q 0 = cT h L 6 q 0))
    (k3 : ∀ a i j, udom L a i j → cT g L a i j = cT h L a i j ∨ ∀ p, inP L p → ubt h (uad h a i j) p = true → hv h' 79 p ≠ 0) (k4 : RWx h L → ∀ p, inP L p → hv h' 79 p ≠ 0 → hv h 79 p ≠ 0 ∨ rch (cT g L) p) (k5 : cT g L = cT h L → ∀ j, hv h' 79 j ≠ 0 → hv h 79 j ≠ 0) : AdK L h h' P A := by
  have cg := frC_CW f w t.1
  obtain ⟨eT, ez⟩ := onq_T w cg o
  have f' := frC_tr f (onq_fr o)
  have eu' : ∀ a i j, udom L a i j → ∀ k, hv h' (uad h a i j) k = hv h (uad h a i j) k := fun a i j d k => by
    rw [← eu a i j d k]
    exact onq_hv o (by have := (uad_ty w t.1 d).2.2; omega) k
  refine ⟨f', ⟨frC_CW f' w t.1, q', UB_eq w f' eu' t.2.2.1, by rw [eT]; exact tv, ez z⟩, ⟨k1, fun q hq => ?_, fun a i j d => ?_, fun a i j d p hp x => ?_, fun r => ⟨fun p hp x => ?_, fun a i j d p hp x => ?_⟩⟩, fun j => (onq_hv o (by omega) j).trans (e7 j), by rw [eT]; exact le, by rw [eT]; exact hp, by rw [eT]; exact ha, by rw [eT]; exact k5⟩
  · rw [eT]; exact k2 q hq
  · rw [eT]; exact k3 a i j d
  · rw [frC_uad f' w d, ubt_ne (eu' a i j d)]; exact x
  · rw [eT]
    rcases k4 r p hp x with y | y
    · exact ath_le (le _ _ _) (r.1 p hp y)
    · exact y
  · rw [frC_uad f' w d, ubt_ne (eu' a i j d)] at x
    rw [eT]
    exact ath_le (le _ _ _) (r.2 a i j d p hp x)
end ON
/-- the work's own room is as it was -/
def wsk (h h' : MH) : Prop := ∀ b j, ((b = 3 ∧ j ≠ 14 ∧ j ≠ 15) ∨ (80 ≤ b ∧ b < 98 ∧ ¬ (b = 80 ∧ j = 0)) ∨ (116 ≤ b ∧ b < 144)) → hv h' b j = hv h b j
theorem wsk_rfl (h : MH) : wsk h h := fun _ _ _ => rfl
theorem wsk_tr {h g k : MH} (a : wsk h g) (b : wsk g k) : wsk h k := fun x j p => (b x j p).trans (a x j p)
/-- a row of a place that was not reached is empty -/
theorem c0_rel {h : MH} {L : PG} (w : WF L) (z : zC h L) {q s : Int} (hq : inP L q) (r : rel L q s) : tc0 h L q s = fo h (hv h 4 q + 2 + s) := by
  unfold tc0
  rcases z.1 q hq with y | ⟨y, y2⟩
  · rw [iff_p ⟨hq, y, r⟩]
  · obtain ⟨s0, s1⟩ := rel_rng w hq.1 hq.2 r
    rw [iff_n (fun x => by have := x.2.1; omega), y2 s s0 s1]
section KC
variable {l : Launch} {G : JG} {h : MH} {L : PG} {m M t i : Int} {Q : Int → MH → Prop} {E : Nat → Int → MH → Prop}
theorem jdm_rel {q k : Int} (e : pMo L q = m) : jdm (pLc L m) (pDp L q) k ↔ rel L q k := by
  unfold jdm rel
  rw [e]
theorem K_come (hG : gO G = true) (w : WF L) (st : STc h L) (hm : inM L m) (cm : CPm h L m M) (i0 : 0 ≤ i) (i1 : i < pCo L m) (t5 : t = 80 ∨ t = 98) (gX : ∀ s, rel L (pFi L m + i) s → fgd L (cT h L) (fo h (t + 2 + s))) (gk : fgd L (cT h L) (fk (hv h t 2) (hv h t 3)))
    (hQ : ∀ h', AdK L h h' (fun U => Flow L U (pFi L m + i) (fun s => fo h (t + 2 + s)) (fk (hv h t 2) (hv h t 3))) (fun U => Flow L U (pFi L m + i) (fun s => fo h (t + 2 + s)) (fk (hv h t 2) (hv h t 3))) → wsk h h' → Q 0 h') : S_X2_come l G [(2002, 3), (18, M), (0, i), (7, t)] h Q E := by
  obtain ⟨-, -, -, -, -, -, -, -, alc, lc8, -, -, -, -, -, -, -, fi0, fi1, fim, -, -⟩ := w.m hm.1 hm.2
  have hq : inP L (pFi L m + i) := ⟨by omega, by omega⟩
  obtain ⟨-, -, -, -, -, -, -, -, -, -, -, -, -, -, -, -, -, -, -, dp, -⟩ := w.k hq.1 hq.2
  have mo := fim i i0 i1
  obtain ⟨c, qi, u, tv, z⟩ := st
  obtain ⟨ss, s5⟩ := c.2.1 _ hq
  have stt : stO h t := by
    obtain ⟨x1, x2, x3⟩ := c.2.2.2.1
    rcases t5 with e | e <;> rw [e]
    · exact x1
    · exact x2
  have ar0 : 0 ≤ pAr L m := by
    obtain ⟨-, -, -, ar0, -⟩ := w.m hm.1 hm.2
    exact ar0
  refine c_come hG w qi hm.1 hm.2 cm i0 i1 rfl fi0 fi1 ⟨by omega, lc8⟩ ⟨dp.1, dp.2.1⟩ ss s5 stt (by omega) fun h2 z2 h3 js c3 q3 => ?_
  generalize hq' : pFi L m + i = q at *
  generalize hS : hv h 4 q = S at *
  obtain ⟨o, y0, y2, y3, yf, -, yz⟩ := js
  have hn1 : ∀ b j : Int, ¬ (b = t ∧ j = 0) → hv (hset h t 0 1) b j = hv h b j := fun b j hb => by rw [hv_set, if_neg hb]
  have o2 : ∀ b j : Int, ¬ (b = t ∧ j = 0) → ¬ (b = S ∧ (j = 0 ∨ j = 2 ∨ j = 3)) → ¬ (S + 2 ≤ b ∧ b < S + 18) → hv h2 b j = hv h b j := fun b j x1 x2 x3 => by rw [o.2 b j x2 x3, hn1 b j x1]
  have eh : h2.2 = h.2 := o.1
  have f : frC h h2 := by
    refine ⟨eh, fun b j p1 p2 => o2 b j (fun x => p1 (by unfold wlo; omega)) (fun x => p2 ⟨by omega, Or.inr (Or.inr ⟨by rw [x.1]; exact ss.2.2.1, x.2⟩)⟩) (fun x => p2 ⟨by omega, Or.inl ?_⟩)⟩
    have := (ss.2.2.2.2.2.2 (b - S - 2) (by omega) (by omega)).2
    rw [show S + 2 + (b - S - 2) = b by omega] at this
    exact this
  have e4 : hv h2 4 q = S := by rw [frC_4 f]; exact hS
  have f1 : ∀ b : Int, b ≠ t → fo (hset h t 0 1) b = fo h b := fun b hb => fo_eq (fun j => ne_a hb)
  -- rows of other places
  have eq0 : ∀ p, inP L p → p ≠ q → vq h h2 p := by
    intro p hp ne
    obtain ⟨sp, sp5⟩ := c.2.1 p hp
    have nS : S ≠ hv h 4 p := fun e => ne (c.2.2.1 p q hp hq (by rw [hS, e]))
    refine vq_of (frC_4 f p) (fun b j hb => ?_)
    rcases hb with ⟨hb, -⟩ | hb
    · refine o2 b j (fun x => by omega) (fun x => nS (by omega)) (fun x => ?_)
      have := (ss.2.2.2.2.2.2 (b - S - 2) (by omega) (by omega)).2
      rw [show S + 2 + (b - S - 2) = b by omega, hb, sp.2.2.1] at this
      cases this
    · obtain ⟨d1, d2⟩ := st_dis ss sp nS (b - hv h 4 p - 2) (by omega) (by omega)
      rw [show hv h 4 p + 2 + (b - hv h 4 p - 2) = b by omega] at d1 d2
      exact o2 b j (fun x => by omega) (fun x => d2 x.1) d1
  have eo : ∀ m, inM L m → vo h h2 m := fun m' hm' => by
    have nn := w.n
    unfold WFn at nn
    unfold inM at hm'
    exact ⟨fun j _ _ => o2 _ j (by omega) (by omega) (by omega), fo_eq (fun j => o2 _ j (by omega) (by omega) (by omega))⟩
  have ea : ∀ p, inP L p → va h h2 p := fun p _ => ⟨o2 _ _ (by omega) (by omega) (by omega), o2 _ _ (by omega) (by omega) (by omega), o2 _ _ (by omega) (by omega) (by omega), o2 _ _ (by omega) (by omega) (by omega)⟩
  have ek : ∀ i, 0 ≤ i → i < 8 → fo h2 (288 + i) = fo h (288 + i) := fun i i0 i1 => fo_eq (fun j => o2 _ j (by omega) (by omega) (by omega))
  have ec : ∀ a i j, cdom L a i j → vc h h2 a i j := fun a i j d => vc_of (frC_cad f w d) (fun k => by
    obtain ⟨cl, r⟩ := c.2.2.2.2.1 a i j d
    obtain ⟨d1, d2, -, -⟩ := dSC ss cl
    exact o2 _ k (fun x => by omega) (fun x => d2 x.1) d1)
  have row : ∀ s, rel L q s → tc0 h2 L q s = fjoin (cT h L 0 q s) (fo h (t + 2 + s)) := by
    intro s r
    obtain ⟨s0, s1⟩ := rel_rng w hq.1 hq.2 r
    rw [cT_0, c0_rel w z hq r, hS]
    unfold tc0
    rw [e4, iff_p ⟨hq, y0, r⟩, (yf s s0 s1).1 ((jdm_rel mo).mpr r), f1 _ (by omega), f1 _ (by omega)]
  have lkr : tc6 h2 L q 0 = fjoin (cT h L 6 q 0) (fk (hv h t 2) (hv h t 3)) := by
    rw [cT_6]
    unfold tc6
    rw [e4, hS, iff_p ⟨hq, rfl, y0⟩, y2, y3, ne_a (show S ≠ t by omega), ne_a (show S ≠ t by omega), ne_a (show S ≠ t by omega), ne_k (show (2 : Int) ≠ 0 by decide), ne_k (show (3 : Int) ≠ 0 by decide)]
    rcases z.1 q hq with y | ⟨y, -⟩
    · rw [hS] at y
      rw [if_neg (by omega), if_neg (by omega), iff_p ⟨hq, rfl, y⟩, fjoin_fk]
    · rw [hS] at y
      rw [if_pos y, if_pos y, iff_n (fun x => by have := x.2.2; omega), fjoin_zv rfl]
  have eT : cT h2 L = jnS L (cT h L) q (fun s => fo h (t + 2 + s)) (fk (hv h t 2) (hv h t 3)) := by
    funext a p j
    unfold jnS
    by_cases c1 : a = 0 ∧ p = q ∧ rel L q j
    · rw [if_pos c1]
      obtain ⟨rfl, rfl, r⟩ := c1
      exact row j r
    rw [if_neg c1]
    by_cases c2 : a = 6 ∧ p = q ∧ j = 0
    · rw [if_pos c2]
      obtain ⟨rfl, rfl, rfl⟩ := c2
      exact lkr
    rw [if_neg c2]
    by_cases pq : p = q
    · subst pq
      unfold cT
      by_cases a0 : a = 0
      · have nr : ¬ rel L p j := fun r => c1 ⟨a0, rfl, r⟩
        rw [if_pos a0, if_pos a0]
        unfold tc0
        rw [iff_n (fun x => nr x.2.2), iff_n (fun x => nr x.2.2)]
      by_cases a6 : a = 6
      · have nj : j ≠ 0 := fun r => c2 ⟨a6, rfl, r⟩
        subst a6
        show tc6 h2 L p j = tc6 h L p j
        unfold tc6
        rw [iff_n (fun x => nj x.2.1), iff_n (fun x => nj x.2.1)]
      rw [if_neg a0, if_neg a0, if_neg a6, if_neg a6, e_c1 (ec a p j), e_c4 (ek p) j, (e_co w (eo p) j).1, (e_co w (eo p) j).2.1, (e_co w (eo p) j).2.2.1, (e_ca (ea p) j).1, (e_ca (ea p) j).2.1, (e_ca (ea p) j).2.2, (e_co w (eo p) j).2.2.2.1, (e_co w (eo p) j).2.2.2.2]
    · unfold cT
      rw [e_c0 w (fun hp => eq0 p hp pq) j, e_c1 (ec a p j), e_c4 (ek p) j, (e_co w (eo p) j).1, e_c6 (fun hp => eq0 p hp pq) j, (e_co w (eo p) j).2.1, (e_co w (eo p) j).2.2.1, (e_ca (ea p) j).1, (e_ca (ea p) j).2.1, (e_ca (ea p) j).2.2, (e_co w (eo p) j).2.2.2.1, (e_co w (eo p) j).2.2.2.2]
  have up := jnS_le.mp (tle_rfl (jnS L (cT h L) q (fun s => fo h (t + 2 + s)) (fk (hv h t 2) (hv h t 3))))
  have z2' : zC h2 L := by
    refine ⟨fun p hp => ?_, fun m' hm' => ?_, fun i i0 i1 => by rw [o2 _ 0 (by omega) (by omega) (by omega)]; exact z.2.2 i i0 i1⟩
    · by_cases e : p = q
      · rw [e, e4]; exact Or.inl y0
      · obtain ⟨v0, -, -, vs⟩ := eq0 p hp e
        rw [v0]
        rcases z.1 p hp with y | ⟨y, y'⟩
        · exact Or.inl y
        · exact Or.inr ⟨y, fun s s0 s1 => by rw [vs s s0 s1]; exact y' s s0 s1⟩
    · rw [(eo m' hm').1 0 (by decide) (by decide), (eo m' hm').2]; exact z.2.1 m' hm'
  have oq : onq h2 h3 := by
    rcases c3 with ⟨-, e⟩ | ⟨-, e, -⟩
    · rw [e]; exact onq_rfl h2
    · exact e
  have w79 : ∀ j, hv h2 79 j = hv h 79 j := fun j => o2 79 j (by omega) (by omega) (by omega)
  refine hQ h3 (AdK_op w ⟨c, qi, u, tv, z⟩ f (fun a i j d k => ?_) (fun j => o2 77 j (by omega) (by omega) (by omega)) z2' (by rw [eT]; exact tiv_jnS tv gX gk) (by rw [eT]; exact up.1) (by rw [eT]; exact up.2) (fun U _ p r => by rw [eT]; exact jnS_le.mpr ⟨p, r⟩) oq q3 (fun j hj => ?_) (fun p hp => ?_) (fun a i j d => Or.inl ?_) (fun _ p hp x => ?_) (fun eq j hj => ?_)) (fun b j hb => ?_)
  · obtain ⟨ty, -, r⟩ := uad_ty w c d
    refine o2 _ k (fun x => by omega) (fun x => ?_) (fun x => ?_)
    · rw [x.1, ss.2.2.1] at ty; cases ty
    · have := (ss.2.2.2.2.2.2 (uad h a i j - S - 2) (by omega) (by omega)).2
      rw [show S + 2 + (uad h a i j - S - 2) = uad h a i j by omega, ty] at this
      cases this
  · rcases c3 with ⟨-, e⟩ | ⟨-, e, aw, ot⟩
    · rw [e, w79]; exact hj
    · by_cases x : j = q
      · rw [x]; exact aw
      · rw [ot j x, w79]; exact hj
  · by_cases pq : p = q
    · subst pq
      rcases c3 with ⟨z0, e⟩ | ⟨-, e, aw, ot⟩
      · right
        obtain ⟨⟨b1, b2, b3⟩, b4⟩ := yz.mp z0
        have r1 : hv h S 0 = 1 := by
          rcases z.1 p hp with y | ⟨y, -⟩
          · rw [hS] at y; exact y
          · rw [hS] at y
            rw [ne_a (show S ≠ t by omega)] at b1
            exact absurd y b1
        have ro : ∀ s, cT h L 0 p s = tc0 h L p s := fun s => rfl
        refine ⟨fun s => ?_, ?_⟩
        · by_cases r : rel L p s
          · have := b4 s ((jdm_rel mo).mpr r)
            have rr := rel_rng w hp.1 hp.2 r
            rw [f1 (t + 2 + s) (by omega), f1 (S + 2 + s) (by omega)] at this
            rw [cT_0, row s r, ro, c0_rel w z hp r, hS]
            have ok1 : fok (fo h (S + 2 + s)) := by
              have := tv.1 0 p s
              rw [ro, c0_rel w z hp r, hS] at this
              exact this
            exact fjoin_of_le ok1 (gX s r).1 this
          · rw [cT_0, cT_0]
            unfold tc0
            rw [iff_n (fun x => r x.2.2), iff_n (fun x => r x.2.2)]
        · rw [cT_6, lkr]
          refine fjoin_of_le (tv.1 6 p 0) gk.1 ?_
          rw [cT_6]
          unfold tc6
          rw [hS, iff_p ⟨hp, rfl, r1⟩]
          rw [ne_a (show S ≠ t by omega), ne_k (show (2 : Int) ≠ 0 by decide)] at b2
          rw [ne_a (show S ≠ t by omega), ne_k (show (3 : Int) ≠ 0 by decide)] at b3
          exact fun _ => ⟨(by decide : (1 : Int) ≠ 0), Int.le_refl _, Int.le_refl _, b3, fun _ x => x, b2⟩
      · exact Or.inl aw
    · right
      rw [eT]
      unfold jnS
      refine ⟨fun s => ?_, ?_⟩
      · rw [if_neg (fun x => pq x.2.1), if_neg (fun x => by have := x.1; omega)]
      · rw [if_neg (fun x => pq x.2.1), if_neg (fun x => pq x.2.1)]
  · rw [eT]
    unfold jnS
    have a06 : a ≠ 0 ∧ a ≠ 6 := by
      unfold udom cdom oca at d
      omega
    rw [if_neg (fun x => a06.1 x.1), if_neg (fun x => a06.2 x.1)]
  · rcases c3 with ⟨-, e⟩ | ⟨-, e, aw, ot⟩
    · rw [e, w79] at x; exact Or.inl x
    · by_cases pq : p = q
      · right
        rw [pq]
        unfold rch
        rw [cT_6, lkr]
        exact ath_join.mpr (Or.inr (by decide : (1 : Int) ≠ 0))
      · rw [ot p pq, w79] at x
        exact Or.inl x
  · rcases c3 with ⟨-, e⟩ | ⟨z0, -⟩
    · rw [e, w79] at hj; exact hj
    · exfalso
      apply z0
      have fl := up.2
      rw [← eT, eq] at fl
      have rq : rch (cT h L) q := (fl.2 (by decide : (1 : Int) ≠ 0)).1
      have r1 : hv h S 0 = 1 := by
        rcases z.1 q hq with y | ⟨y, -⟩
        · rw [hS] at y; exact y
        · exfalso
          apply rq
          rw [cT_6]
          unfold tc6
          rw [iff_n (fun x => by have := x.2.2; omega)]
          rfl
      have l6 := fl.2
      rw [cT_6] at l6
      unfold tc6 at l6
      rw [hS, iff_p ⟨hq, rfl, r1⟩] at l6
      obtain ⟨-, -, -, l3, -, l5⟩ := l6 (by decide : (1 : Int) ≠ 0)
      refine yz.mpr ⟨⟨by rw [ne_a (show S ≠ t by omega), r1]; decide, ?_, ?_⟩, fun s ds => ?_⟩
      · rw [ne_a (show S ≠ t by omega), ne_k (show (2 : Int) ≠ 0 by decide)]
        exact l5
      · rw [ne_a (show S ≠ t by omega), ne_k (show (3 : Int) ≠ 0 by decide)]
        exact l3
      · have r := (jdm_rel mo).mp ds
        have rr := rel_rng w hq.1 hq.2 r
        have := fl.1 s r
        rw [cT_0, c0_rel w z hq r, hS] at this
        rw [f1 (t + 2 + s) (by omega), f1 (S + 2 + s) (by omega)]
        exact this
  · rw [oq.2 b j (by omega) (by omega) (by omega)]
    exact o2 b j (by omega) (by omega) (by omega)
end KC
