/-! Part 38l: goOn: steps one after another; numbers, jumps -/
theorem w_toss {l : Launch} {G : JG} (hG : gO G = true) {h h2 : MH} {L : PG} {k s : Int} (q : wrk h L k h2) {g : MH} {P : TB → Prop} (a : AdvC L k h g P) (up : ∀ U V, tle U V → P U → P V) (s0 : 1 ≤ s) (s1 : s < 7)
    (cond : ∀ U, tbok U → tle (tT h L) U → CLz L U U k → TS L U k (U 0 k) s (U 6 k 0)) {Q : Int → MH → Prop} {E : Nat → Int → MH → Prop}
    (hQ : ∀ h', AdvC L k h h' (fun U => P U ∧ TS L U k (tT h L 0 k) s (tT h L 6 k 0)) → Q 0 h') : S_X9_toss l G [(2009, 396), (0, k), (0, s)] g Q E := by
  have r := q.r
  obtain ⟨tf, w, mk, t, k0, k1, hr, -, -⟩ := q
  have le : tle (tT h L) (tT g L) := a.2.2.2.1
  have hr' : hv g 460 k = 1 := (rch_iff ⟨k0, k1⟩).mp (ath_le (le _ _ _) r)
  refine t_toss hG (frA_TF a.1 tf) w a.2.2.1 k0 k1 hr' s0 s1 fun h' b => ?_
  have b' : AdvC L k g h' (fun U => TS L U k (tT g L 0 k) s (tT g L 6 k 0)) := Adv_w b (fun _ p => p) (fun U oU p z => cond U oU (tle_trans le p) z)
  exact hQ h' (AdvC_w (AdvC_tr a b' up) (fun _ p => ⟨p.1, TS_le (fun j => le _ _ _) (le _ _ _) (tle_rfl _) p.2⟩))
theorem w_flow {l : Launch} {G : JG} (hG : gO G = true) {h h2 : MH} {L : PG} {k i : Int} (q : wrk h L k h2) {g : MH} {P : TB → Prop} (a : AdvC L k h g P) (up : ∀ U V, tle U V → P U → P V) (i0 : 0 ≤ i) (i1 : i < pCo L (pMo L k)) {X : Int → FA} {lk : FA} {d : Int}
    (cu : cur L (pMo L k) g X lk d) (hd : pDp L (pFi L (pMo L k) + i) = d) (gX : ∀ s, vld L (pMo L k) d s → fgd L (tT g L) (X s)) (gk : fgd L (tT g L) lk)
    (cond : ∀ U, tbok U → tle (tT g L) U → CLz L U U k → GT L U k i X lk) {Q : Int → MH → Prop} {E : Nat → Int → MH → Prop}
    (hQ : ∀ h', AdvC L k h h' (fun U => P U ∧ GT L U k i X lk) → wsm g h' → Q 0 h') : S_X9_flow l G [(2009, 396), (0, k), (0, i)] g Q E := by
  obtain ⟨tf, w, mk, t, k0, k1, hr, -, -⟩ := q
  refine t_flow hG (frA_TF a.1 tf) w a.2.2.1 k0 k1 i0 i1 cu hd gX gk fun h' b ws => hQ h' (AdvC_tr a (Adv_w b (fun _ p => p) (fun U oU p z => cond U oU p z)) up) ws
theorem w_flowOn {l : Launch} {G : JG} (hG : gO G = true) {h h2 : MH} {L : PG} {k : Int} (q : wrk h L k h2) {g : MH} {P : TB → Prop} (a : AdvC L k h g P) (up : ∀ U V, tle U V → P U → P V) (o1 : pOp L k ≠ 15) (o2 : pOp L k ≠ 31) (o3 : pOp L k ≠ 32) {X : Int → FA} {lk : FA} {d : Int}
    (cu : cur L (pMo L k) g X lk d) (hd : pDp L k - ppo L k + ppu L k = d) (gX : ∀ s, vld L (pMo L k) d s → fgd L (tT g L) (X s)) (gk : fgd L (tT g L) lk)
    (cond : ∀ U, tbok U → tle (tT g L) U → CLz L U U k → GT L U k (nx L k) X lk) {Q : Int → MH → Prop} {E : Nat → Int → MH → Prop}
    (hQ : ∀ h', AdvC L k h h' (fun U => P U ∧ GT L U k (nx L k) X lk) → wsm g h' → Q 0 h') : S_X9_flowOn l G [(2009, 396), (0, k)] g Q E := by
  obtain ⟨tf, w, mk, t, k0, k1, hr, -, -⟩ := q
  refine t_flowOn hG (frA_TF a.1 tf) w a.2.2.1 k0 k1 o1 o2 o3 cu hd gX gk fun h' b ws => hQ h' (AdvC_tr a (Adv_w b (fun _ p => p) (fun U oU p z => cond U oU p z)) up) ws
/-- facts are taken again -/
theorem w_take {l : Launch} {G : JG} (hG : gO G = true) {h h2 : MH} {L : PG} {k : Int} (q : wrk h L k h2) {g : MH} {P : TB → Prop} (a : AdvC L k h g P) {Q : Int → MH → Prop} {E : Nat → Int → MH → Prop}
    (hQ : ∀ g', same g g' → cur L (pMo L k) g' (tT g L 0 k) (tT g L 6 k 0) (pDp L k) → (∀ j, (j < 61 ∨ 63 < j) → hv g' 396 j = hv g 396 j) → AdvC L k h g' P → Q 0 g') (up : ∀ U V, tle U V → P U → P V) : S_X9_takeFacts l G [(2009, 396), (0, k)] g Q E := by
  have r := q.r
  obtain ⟨tf, w, mk, t, k0, k1, hr, -, -⟩ := q
  have le : tle (tT h L) (tT g L) := a.2.2.2.1
  have hr' : hv g 460 k = 1 := (rch_iff ⟨k0, k1⟩).mp (ath_le (le _ _ _) r)
  refine t_takeFacts hG (frA_TF a.1 tf) w k0 k1 hr' fun g' s c e => hQ g' s c e (AdvC_w (AdvC_tr a (AdvC_same s a.2.2.1) up) (fun _ p => p.1))
theorem up_t : ∀ U V : TB, tle U V → (fun _ : TB => True) U → (fun _ : TB => True) V := fun _ _ _ _ => trivial
theorem g_swap {l : Launch} {G : JG} (hG : gO G = true) {h h2 : MH} {L : PG} {k : Int} (q : wrk h L k h2) (e : pOp L k = 6) {Q : Int → MH → Prop} {E : Nat → Int → MH → Prop} (hQ : ∀ h', AdvC L k h h' (fun U => CLz L (tT h L) U k) → Q 0 h') :
    ∀ x5 : Int, x5 = w32 (8 + hv h2 396 61) →
      S_X9_pull_2 l G [(2009, 396)] h2 (fun _ h38 =>
      (0 ≤ (w32 (x5 - 2))) ∧ ((w32 (x5 - 2)) < 16) ∧ (0 ≤ (w32 (x5 - 2))) ∧ ((w32 (x5 - 2)) < 16) ∧ (0 ≤ (w32 (x5 - 2))) ∧ ((w32 (x5 - 2)) < 16) ∧ (0 ≤ (w32 (x5 - 2))) ∧ ((w32 (x5 - 2)) < 16) ∧
      S_X9_setSlot l G [(2009, 396), (0, (w32 (x5 - 1))), (0, (hv h38 499 (w32 (x5 - 2)))), (0, (hv h38 500 (w32 (x5 - 2)))), (0, (hv h38 501 (w32 (x5 - 2)))), (1, (hv h38 502 (w32 (x5 - 2))))] h38 (fun _ h40 =>
      S_X9_setSlot l G [(2009, 396), (0, (w32 (x5 - 2))), (0, (hv h40 396 64)), (0, (hv h40 396 65)), (0, (hv h40 396 66)), (1, (hv h40 396 67))] h40 (fun _ h42 =>
      (∀ h43, h43 = hset h42 396 61 (w32 ((hv h42 396 61) + 1)) →
      S_X9_flowOn l G [(2009, 396), (0, k)] h43 (fun _ h45 => Q 0 h45) E)) E) E) E := by
  have q' := q
  obtain ⟨tf, w, mk, t, k0, k1, hr, s2, c2⟩ := q'
  obtain ⟨mo, -, xr, yr, xl, -, -, -, -, -, -, -, -, -, -, -, -, -, -, dp, -⟩ := w.k k0 k1
  have p0 : ppo L k = 2 := by unfold ppo; simp [e]
  have p1 : ppu L k = 2 := by unfold ppu; simp [e]
  intro x5 e5
  rw [c2.2.2, w32_i (by omega) (by omega)] at e5
  refine t_pull hG c2 (by omega) (by omega) fun g s c p _ => ?_
  rw [w32_i (z := x5 - 2) (by omega) (by omega), w32_i (z := x5 - 1) (by omega) (by omega)]
  refine ⟨by omega, by omega, by omega, by omega, by omega, by omega, by omega, by omega, ?_⟩
  have v2 := c.1 (x5 - 2) (Or.inr ⟨by omega, by omega⟩)
  refine t_setSlot hG (by omega) (by omega) ?_
  have c3 := cur_set (k := x5 - 1) (l := hv g 499 (x5 - 2)) (hh := hv g 500 (x5 - 2)) (b := hv g 501 (x5 - 2)) (s := hv g 502 (x5 - 2)) c
  rw [slt_396, slt_396, slt_396, slt_396]
  refine t_setSlot hG (by omega) (by omega) ?_
  have c4 := cur_set (k := x5 - 2) (l := hv g 396 64) (hh := hv g 396 65) (b := hv g 396 66) (s := hv g 396 67) c3
  intro h43 e43
  rw [c4.2.2, w32_i (by omega) (by omega)] at e43
  have s43 : same h h43 := by rw [e43]; exact same_tr (same_tr (same_tr (same_tr s2 s) (slt_same _ _ _ _ _ _)) (slt_same _ _ _ _ _ _)) (same_set (by omega))
  have c5 : cur L (pMo L k) h43 (ux (ux (tT h L 0 k) (7 + pDp L k) (tT h L 0 k (6 + pDp L k))) (6 + pDp L k) (tT h L 0 k (7 + pDp L k))) (tT h L 6 k 0) (pDp L k) := by
    refine ⟨fun j hj => ?_, ?_, ?_⟩
    · have e1 : cX h43 j = cX (slt (slt g (x5 - 1) (hv g 499 (x5 - 2)) (hv g 500 (x5 - 2)) (hv g 501 (x5 - 2)) (hv g 502 (x5 - 2))) (x5 - 2) (hv g 396 64) (hv g 396 65) (hv g 396 66) (hv g 396 67)) j := by
        rw [e43]; unfold cX; simp [hv_set]
      rw [e1, slt_cX, slt_cX]
      unfold ux
      by_cases j6 : j = x5 - 2
      · rw [if_pos j6, if_pos (show j = 6 + pDp L k by omega)]; exact p
      · rw [if_neg j6, if_neg (show ¬ j = 6 + pDp L k by omega)]
        by_cases j7 : j = x5 - 1
        · rw [if_pos j7, if_pos (show j = 7 + pDp L k by omega), show 6 + pDp L k = x5 - 2 by omega]; exact v2
        · rw [if_neg j7, if_neg (show ¬ j = 7 + pDp L k by omega)]
          exact c.1 j (by unfold vld at *; omega)
    · rw [← c4.2.1, e43]; unfold lkc_; simp [hv_set]
    · rw [e43, eq_a]; omega
  refine w_on hG q (by omega) (by omega) (by omega) s43 c5 (by omega) (gX_ux (fun j hj ne => gX_ux (fun j hj _ => q.sl hj) (q.st (by omega) (by omega)) j hj) (q.st (by omega) (by omega))) q.lk (fun U => CL6 e) hQ
theorem rk_there {L : PG} {op : Int} {a b : FA} (ho : op = 7 ∨ op = 8 ∨ op = 9 ∨ op = 12) (ha : ath a ≠ 0) (hb : ath b ≠ 0) : ath (rk L op a b) ≠ 0 := by
  have rn : ∀ l h b, ath (rnd L l h b) ≠ 0 := fun l h b => by unfold rnd; split <;> exact (by decide : (1 : Int) ≠ 0)
  unfold rk
  rw [if_neg (by omega)]
  rcases ho with z | z | z | z <;> subst z
  · rw [if_neg (by omega), if_pos rfl]; exact rn _ _ _
  · rw [if_neg (by omega), if_neg (by omega), if_pos rfl]; exact rn _ _ _
  · rw [if_neg (by omega), if_neg (by omega), if_neg (by omega), if_pos rfl]; exact rn _ _ _
  · rw [if_pos rfl]; exact rn _ _ _
theorem g_num {l : Launch} {G : JG} (hG : gO G = true) {h h2 : MH} {L : PG} {k : Int} (q : wrk h L k h2) (e : pOp L k = 7 ∨ pOp L k = 8 ∨ pOp L k = 9) {Q : Int → MH → Prop} {E : Nat → Int → MH → Prop} (hQ : ∀ h', AdvC L k h h' (fun U => CLz L (tT h L) U k) → Q 0 h') :
    S_X9_reckon l G [(2009, 396), (0, pOp L k)] h2 (fun z46 h47 => ∀ x6 : Int, x6 = z46 → S_X9_flowOn l G [(2009, 396), (0, k)] h47 (fun _ h50 => Q 0 h50) E) E := by
  have q' := q
  obtain ⟨tf, w, mk, t, k0, k1, hr, s2, c2⟩ := q'
  obtain ⟨mo, -, xr, yr, xl, -, -, -, -, -, -, -, -, -, -, -, -, -, -, dp, -⟩ := w.k k0 k1
  have p0 : ppo L k = 2 := by unfold ppo; rw [if_neg (by omega), if_pos (by omega)]
  have p1 : ppu L k = 1 := by unfold ppu; rw [if_pos (by omega)]
  have ga := q.st (j := 6 + pDp L k) (by omega) (by omega)
  have gb := q.st (j := 7 + pDp L k) (by omega) (by omega)
  have th := rk_there (L := L) (op := pOp L k) (by omega) (show ath (tT h L 0 k (6 + pDp L k)) ≠ 0 by rw [ga.2.2.2]; decide) (show ath (tT h L 0 k (7 + pDp L k)) ≠ 0 by rw [gb.2.2.2]; decide)
  refine t_reckon2 hG w (by omega) (frA_MK s2.1 mk) c2 (by omega) (by omega) ga.1 (by rw [ga.2.2.2]; decide) gb.1 (by rw [gb.2.2.2]; decide) (fun _ g s c x6 _ => ?_) (fun z => absurd z th)
  refine w_on hG q (by omega) (by omega) (by omega) (same_tr s2 s) c (by omega) (gX_ux (fun j hj ne => q.sl (vld_up hj (by omega))) (fgd_rk w ga.1 gb.1 th)) q.lk (fun U => CL7 e) hQ
theorem g_neg {l : Launch} {G : JG} (hG : gO G = true) {h h2 : MH} {L : PG} {k : Int} (q : wrk h L k h2) (e : pOp L k = 12) {Q : Int → MH → Prop} {E : Nat → Int → MH → Prop} (hQ : ∀ h', AdvC L k h h' (fun U => CLz L (tT h L) U k) → Q 0 h') :
    S_X9_reckon l G [(2009, 396), (0, pOp L k)] h2 (fun z46 h47 => ∀ x6 : Int, x6 = z46 → S_X9_flowOn l G [(2009, 396), (0, k)] h47 (fun _ h50 => Q 0 h50) E) E := by
  have q' := q
  obtain ⟨tf, w, mk, t, k0, k1, hr, s2, c2⟩ := q'
  obtain ⟨mo, -, xr, yr, xl, -, -, -, -, -, -, -, -, -, -, -, -, -, -, dp, -⟩ := w.k k0 k1
  have p0 : ppo L k = 1 := by unfold ppo; simp [e]
  have p1 : ppu L k = 1 := by unfold ppu; simp [e]
  have gb := q.st (j := 7 + pDp L k) (by omega) (by omega)
  have th := rk_there (L := L) (op := 12) (by omega) (show ath (tT h L 0 k (7 + pDp L k)) ≠ 0 by rw [gb.2.2.2]; decide) (show ath (tT h L 0 k (7 + pDp L k)) ≠ 0 by rw [gb.2.2.2]; decide)
  rw [e]
  refine t_reckon1 hG w (frA_MK s2.1 mk) c2 (by omega) (by omega) gb.1 (by rw [gb.2.2.2]; decide) (fun g s c x6 _ => ?_)
  refine w_on hG q (by omega) (by omega) (by omega) (same_tr s2 s) c (by omega) (gX_ux (fun j hj ne => q.sl (vld_up hj (by omega))) (fgd_rk w gb.1 gb.1 th)) q.lk (fun U => CL12 e) hQ
theorem g_div {l : Launch} {G : JG} (hG : gO G = true) {h h2 : MH} {L : PG} {k : Int} (q : wrk h L k h2) (e : pOp L k = 10 ∨ pOp L k = 11) {Q : Int → MH → Prop} {E : Nat → Int → MH → Prop} (hQ : ∀ h', AdvC L k h h' (fun U => CLz L (tT h L) U k) → Q 0 h') :
    ∀ x7 : Int, x7 = (if 0 < (hv h2 499 (w32 ((w32 (8 + (hv h2 396 61))) - 1))) then 0 else (if (hv h2 500 (w32 ((w32 (8 + (hv h2 396 61))) - 1))) < 0 then 0 else 1 : Int) : Int) →
      S_X9_reckon l G [(2009, 396), (0, pOp L k)] h2 (fun z62 h63 =>
      ((z62 = 0 → ((x7 = 0 → Q 0 h63) ∧ (¬ x7 = 0 → S_X9_toss l G [(2009, 396), (0, k), (0, 4)] h63 (fun _ h65 => Q 0 h65) E))) ∧
      (¬ z62 = 0 → S_X9_flowOn l G [(2009, 396), (0, k)] h63 (fun _ h67 => ((x7 = 0 → Q 0 h67) ∧ (¬ x7 = 0 → S_X9_toss l G [(2009, 396), (0, k), (0, 4)] h67 (fun _ h69 => Q 0 h69) E))) E))) E := by
  have q' := q
  obtain ⟨tf, w, mk, t, k0, k1, hr, s2, c2⟩ := q'
  obtain ⟨mo, -, xr, yr, xl, -, -, -, -, -, -, -, -, -, -, -, -, -, -, dp, -⟩ := w.k k0 k1
  have p0 : ppo L k = 2 := by unfold ppo; rw [if_neg (by omega), if_pos (by omega)]
  have p1 : ppu L k = 1 := by unfold ppu; rw [if_pos (by omega)]
  have ga := q.st (j := 6 + pDp L k) (by omega) (by omega)
  have gb := q.st (j := 7 + pDp L k) (by omega) (by omega)
  have ta : ath (tT h L 0 k (6 + pDp L k)) ≠ 0 := by rw [ga.2.2.2]; decide
  have tb : ath (tT h L 0 k (7 + pDp L k)) ≠ 0 := by rw [gb.2.2.2]; decide
  intro x7 e7
  rw [c2.2.2, w32_i (z := 8 + pDp L k) (by omega) (by omega), w32_i (z := 8 + pDp L k - 1) (by omega) (by omega)] at e7
  have v := c2.1 (7 + pDp L k) (Or.inr ⟨by omega, by omega⟩)
  have e7' : x7 = if 0 < alo (tT h L 0 k (7 + pDp L k)) then 0 else if ahi (tT h L 0 k (7 + pDp L k)) < 0 then 0 else 1 := by
    rw [e7, ← v, show 8 + pDp L k - 1 = 7 + pDp L k by omega]; rfl
  have zc : ¬ x7 = 0 ↔ (alo (tT h L 0 k (7 + pDp L k)) ≤ 0 ∧ 0 ≤ ahi (tT h L 0 k (7 + pDp L k))) := by
    rw [e7']
    by_cases z1 : 0 < alo (tT h L 0 k (7 + pDp L k))
    · rw [if_pos z1]; constructor; (intro y; exact absurd rfl y); (intro y; omega)
    · rw [if_neg z1]
      by_cases z2 : ahi (tT h L 0 k (7 + pDp L k)) < 0
      · rw [if_pos z2]; constructor; (intro y; exact absurd rfl y); (intro y; omega)
      · rw [if_neg z2]; constructor; (intro y; omega); (intro y; decide)
  -- the toss, from any point
  have tss : ∀ {g : MH} {P : TB → Prop}, AdvC L k h g P → (∀ U V, tle U V → P U → P V) → ¬ x7 = 0 → (∀ h', AdvC L k h h' (fun U => P U ∧ TS L U k (tT h L 0 k) 4 (tT h L 6 k 0)) → Q 0 h') → S_X9_toss l G [(2009, 396), (0, k), (0, 4)] g (fun _ h65 => Q 0 h65) E := by
    intro g P a up nz hq
    refine w_toss hG q a up (by omega) (by omega) (fun U oU p z => ?_) hq
    obtain ⟨u0, u1, u2, -⟩ := p 0 k (7 + pDp L k) tb
    have := zc.mp nz
    exact ((CL10 e).mp z).2 ⟨u0, by omega, by omega⟩
  refine t_reckon2 hG w (by omega) (frA_MK s2.1 mk) c2 (by omega) (by omega) ga.1 ta gb.1 tb (fun th g s c => ⟨fun z => by omega, fun _ => ?_⟩) (fun th g s => ⟨fun _ => ⟨fun z => ?_, fun z => ?_⟩, fun z => absurd rfl z⟩)
  · have sg := same_tr s2 s
    have ag := AdvC_same (k := k) sg t
    have Tg : tT g L = tT h L := same_T sg
    refine w_flowOn hG q ag up_t (by omega) (by omega) (by omega) c (by omega) (by rw [Tg]; exact gX_ux (fun j hj ne => q.sl (vld_up hj (by omega))) (fgd_rk w ga.1 gb.1 th)) (by rw [Tg]; exact q.lk) (fun U oU p z => ?_) (fun h' a ws => ⟨fun z => ?_, fun z => ?_⟩)
    · rw [Tg] at p
      exact ((CL10 e).mp (CL_dn t q.r p z)).1 th
    · exact hQ h' (AdvC_w a (fun _ p => (CL10 e).mpr ⟨fun _ => p.2, fun y => absurd y.2 (fun y2 => (zc.mpr y2) z)⟩))
    · refine tss a (fun U V p y => ⟨trivial, GT_up p y.2⟩) z (fun h'' b => hQ h'' (AdvC_w b (fun _ p => (CL10 e).mpr ⟨fun _ => p.1.2, fun _ => p.2⟩)))
  · exact hQ g (AdvC_w (AdvC_same (same_tr s2 s) t) (fun _ _ => (CL10 e).mpr ⟨fun y => absurd th y, fun y => absurd y.2 (fun y2 => (zc.mpr y2) z)⟩))
  · refine tss (AdvC_same (same_tr s2 s) t) up_t z (fun h'' b => hQ h'' (AdvC_w b (fun _ p => (CL10 e).mpr ⟨fun y => absurd th y, fun _ => p.2⟩)))
theorem g_input {l : Launch} {G : JG} (hG : gO G = true) {h h2 : MH} {L : PG} {k : Int} (q : wrk h L k h2) (e : pOp L k = 13) {Q : Int → MH → Prop} {E : Nat → Int → MH → Prop} (hQ : ∀ h', AdvC L k h h' (fun U => CLz L (tT h L) U k) → Q 0 h') :
    S_X9_lay_2 l G [(2009, 396), (0, pY L k), (0, pZ L k), (0, i_shl 1 (pX L k)), (1, 0)] h2 (fun _ h7 => S_X9_flowOn l G [(2009, 396), (0, k)] h7 (fun _ h9 => Q 0 h9) E) E := by
  have q' := q
  obtain ⟨tf, w, mk, t, k0, k1, hr, s2, c2⟩ := q'
  obtain ⟨-, -, -, yr, -, -, -, -, -, -, -, -, -, -, -, -, yz, -, -, dp, -⟩ := w.k k0 k1
  have p0 : ppo L k = 0 := by unfold ppo; simp [e]
  have p1 : ppu L k = 1 := by unfold ppu; simp [e]
  refine t_lay2 hG c2 dp.1 (by omega) fun g s c => ?_
  refine w_on hG q (by omega) (by omega) (by omega) (same_tr s2 s) c (by omega) (gX_ux (fun j hj ne => ?_) ?_) q.lk (fun U => CL13 e) hQ
  · exact q.sl (by unfold vld at hj; unfold rel; omega)
  · have mk1 : isMk L (pY L k) := Or.inr (Or.inr (Or.inr (Or.inr (Or.inr (Or.inr ⟨k, k0, k1, Or.inr ⟨e, Or.inl rfl⟩⟩)))))
    have mk2 : isMk L (pZ L k) := Or.inr (Or.inr (Or.inr (Or.inr (Or.inr (Or.inr ⟨k, k0, k1, Or.inr ⟨e, Or.inr rfl⟩⟩)))))
    exact fgd_n mk1 mk2 (yz e) (by unfold c32; omega) (by unfold c32; omega) (c32_i_shl _ _)
theorem g_goto {l : Launch} {G : JG} (hG : gO G = true) {h h2 : MH} {L : PG} {k : Int} (q : wrk h L k h2) (e : pOp L k = 15) {Q : Int → MH → Prop} {E : Nat → Int → MH → Prop} (hQ : ∀ h', AdvC L k h h' (fun U => CLz L (tT h L) U k) → Q 0 h') :
    S_X9_flow l G [(2009, 396), (0, k), (0, pZ L k)] h2 (fun _ h100 => Q 0 h100) E := by
  have q' := q
  obtain ⟨tf, w, mk, t, k0, k1, hr, s2, c2⟩ := q'
  obtain ⟨-, -, -, yr, -, -, -, -, -, -, -, -, -, -, -, -, -, zz, -, dp, -⟩ := w.k k0 k1
  have z3 := zz (by omega)
  have Tg : tT h2 L = tT h L := q.t2
  have c3 : cur L (pMo L k) h2 (tT h L 0 k) (tT h L 6 k 0) (pDp L k) := c2
  refine w_flow hG q (AdvC_same (k := k) s2 t) up_t z3.1 z3.2.1 (X := tT h L 0 k) (lk := tT h L 6 k 0) (d := pDp L k) c2 ?_ (by rw [Tg]; exact fun j hj => q.sl hj) (by rw [Tg]; exact q.lk) (fun U oU p z => ?_) (fun h' a _ => hQ h' (AdvC_w a (fun _ p => (CL15 e).mpr p.2)))
  · have : ppo L k = 0 := by unfold ppo; simp [e]
    omega
  · rw [Tg] at p
    exact (CL15 e).mp (CL_dn t q.r p z)
theorem g_if {l : Launch} {G : JG} (hG : gO G = true) {h h2 : MH} {L : PG} {k : Int} (q : wrk h L k h2) (e : pOp L k = 16) {Q : Int → MH → Prop} {E : Nat → Int → MH → Prop} (hQ : ∀ h', AdvC L k h h' (fun U => CLz L (tT h L) U k) → Q 0 h') :
      S_X9_pull_2 l G [(2009, 396)] h2 (fun _ h102 =>
      (∀ x11 : Int, x11 = (hv h102 396 64) →
      (∀ x12 : Int, x12 = (hv h102 396 65) →
      S_X9_pull_2 l G [(2009, 396)] h102 (fun _ h106 =>
      (∀ x13 : Int, x13 = (mayf (pX L k) (hv h106 396 64) (hv h106 396 65) x11 x12) →
      (∀ x14 : Int, x14 = (mayf (i_xor (pX L k) 1) (hv h106 396 64) (hv h106 396 65) x11 x12) →
      ((x13 = 0 →
        ((x14 = 0 → Q 0 h106) ∧
        (¬ x14 = 0 → S_X9_flowOn l G [(2009, 396), (0, k)] h106 (fun _ h110 => Q 0 h110) E))) ∧
      (¬ x13 = 0 →
        ((hv h106 396 3) ≠ 0) ∧ (0 ≤ k) ∧ (k < 1500) ∧
        S_X9_flow l G [(2009, 396), (0, k), (0, (hv h106 ((hv h106 396 3) + 22) k))] h106 (fun _ h112 =>
        ((x14 = 0 → Q 0 h112) ∧
        (¬ x14 = 0 → S_X9_flowOn l G [(2009, 396), (0, k)] h112 (fun _ h114 => Q 0 h114) E))) E))))) E))) E := by
  have q' := q
  obtain ⟨tf, w, mk, t, k0, k1, hr, s2, c2⟩ := q'
  have nn := w.n
  unfold WFn at nn
  obtain ⟨-, -, xr, yr, -, -, -, -, -, -, -, -, -, -, -, -, -, zz, -, dp, -⟩ := w.k k0 k1
  have z3 := zz (by omega)
  have p0 : ppo L k = 2 := by unfold ppo; simp [e]
  have p1 : ppu L k = 0 := by unfold ppu; simp [e]
  have ga := q.st (j := 6 + pDp L k) (by omega) (by omega)
  have gb := q.st (j := 7 + pDp L k) (by omega) (by omega)
  have ta : ath (tT h L 0 k (6 + pDp L k)) ≠ 0 := by rw [ga.2.2.2]; decide
  have tb : ath (tT h L 0 k (7 + pDp L k)) ≠ 0 := by rw [gb.2.2.2]; decide
  refine t_pull hG c2 (by omega) (by omega) fun g s c p _ => ?_
  intro x11 e11 x12 e12
  refine t_pull hG c (by omega) (by omega) fun g1 s1 c1 p1' _ => ?_
  rw [show 7 + (pDp L k - 1) = 6 + pDp L k by omega] at p1'
  intro x13 e13 x14 e14
  have l2 : x11 = alo (tT h L 0 k (7 + pDp L k)) := by rw [e11, ← p]; rfl
  have hh2 : x12 = ahi (tT h L 0 k (7 + pDp L k)) := by rw [e12, ← p]; rfl
  have l1 : hv g1 396 64 = alo (tT h L 0 k (6 + pDp L k)) := by rw [← p1']; rfl
  have hh1 : hv g1 396 65 = ahi (tT h L 0 k (6 + pDp L k)) := by rw [← p1']; rfl
  rw [l1, hh1, l2, hh2] at e13 e14
  have m13 : ¬ x13 = 0 ↔ mayp (pX L k) (tT h L 0 k (6 + pDp L k)) (tT h L 0 k (7 + pDp L k)) := by
    have := mayf_b (pX L k) (alo (tT h L 0 k (6 + pDp L k))) (ahi (tT h L 0 k (6 + pDp L k))) (alo (tT h L 0 k (7 + pDp L k))) (ahi (tT h L 0 k (7 + pDp L k)))
    constructor
    · intro y; exact ⟨ta, tb, by omega⟩
    · intro y; have := y.2.2; omega
  have m14 : ¬ x14 = 0 ↔ mayp (i_xor (pX L k) 1) (tT h L 0 k (6 + pDp L k)) (tT h L 0 k (7 + pDp L k)) := by
    have := mayf_b (i_xor (pX L k) 1) (alo (tT h L 0 k (6 + pDp L k))) (ahi (tT h L 0 k (6 + pDp L k))) (alo (tT h L 0 k (7 + pDp L k))) (ahi (tT h L 0 k (7 + pDp L k)))
    constructor
    · intro y; exact ⟨ta, tb, by omega⟩
    · intro y; have := y.2.2; omega
  have sg := same_tr (same_tr s2 s) s1
  have Tg : tT g1 L = tT h L := same_T sg
  have c1' : cur L (pMo L k) g1 (tT h L 0 k) (tT h L 6 k 0) (pDp L k - 2) := by rw [show pDp L k - 1 - 1 = pDp L k - 2 by omega] at c1; exact c1
  have gX : ∀ {g : MH}, tle (tT h L) (tT g L) → ∀ j, vld L (pMo L k) (pDp L k - 2) j → fgd L (tT g L) (tT h L 0 k j) := fun le j hj => fgd_le le (q.sl (vld_up hj (by omega)))
  -- the fall, from any point
  have fall : ∀ {g : MH} {P : TB → Prop}, AdvC L k h g P → (∀ U V, tle U V → P U → P V) → cur L (pMo L k) g (tT h L 0 k) (tT h L 6 k 0) (pDp L k - 2) → ¬ x14 = 0 → (∀ h', AdvC L k h h' (fun U => P U ∧ GT L U k (nx L k) (tT h L 0 k) (tT h L 6 k 0)) → Q 0 h') → S_X9_flowOn l G [(2009, 396), (0, k)] g (fun _ h65 => Q 0 h65) E := by
    intro g P a up cg nz hq
    refine w_flowOn hG q a up (by omega) (by omega) (by omega) cg (by omega) (gX a.2.2.2.1) (fgd_le a.2.2.2.1 q.lk) (fun U oU p z => ?_) (fun h' b _ => hq h' b)
    exact ((CL16 e).mp (CL_dn t q.r (tle_trans a.2.2.2.1 p) z)).2 (m14.mp nz)
  refine ⟨fun z13 => ⟨fun z14 => ?_, fun z14 => ?_⟩, fun z13 => ?_⟩
  · exact hQ g1 (AdvC_w (AdvC_same sg t) (fun _ _ => (CL16 e).mpr ⟨fun y => absurd z13 (m13.mpr y), fun y => absurd z14 (m14.mpr y)⟩))
  · exact fall (AdvC_same sg t) up_t c1' z14 (fun h' b => hQ h' (AdvC_w b (fun _ p => (CL16 e).mpr ⟨fun y => absurd z13 (m13.mpr y), fun _ => p.2⟩)))
  · have tg := frA_TF sg.1 tf
    refine ⟨tg.ne, k0, by omega, ?_⟩
    rw [tg.z]
    refine w_flow hG q (AdvC_same (k := k) sg t) up_t z3.1 z3.2.1 c1' (by omega) (by rw [Tg]; exact fun j hj => q.sl (vld_up hj (by omega))) (by rw [Tg]; exact q.lk) (fun U oU p z => ?_) (fun h' a ws => ⟨fun z14 => ?_, fun z14 => ?_⟩)
    · rw [Tg] at p
      exact ((CL16 e).mp (CL_dn t q.r p z)).1 (m13.mp z13)
    · exact hQ h' (AdvC_w a (fun _ p => (CL16 e).mpr ⟨fun _ => p.2, fun y => absurd z14 (m14.mpr y)⟩))
    · exact fall a (fun U V p y => ⟨trivial, GT_up p y.2⟩) (wsm_cur ws c1') z14 (fun h' b => hQ h' (AdvC_w b (fun _ p => (CL16 e).mpr ⟨fun _ => p.1.2, fun _ => p.2⟩)))
theorem i_rem8 : ∀ x : Fin 256, i_rem (x.val : Int) 8 = (x.val : Int) % 8 ∧ i_div (x.val : Int) 8 = (x.val : Int) / 8 := by decide +kernel
theorem i_rem_8 {x : Int} (h0 : 0 ≤ x) (h1 : x ≤ 255) : i_rem x 8 = x % 8 ∧ i_div x 8 = x / 8 := by
  have := i_rem8 ⟨x.toNat, by omega⟩
  simp only [show ((x.toNat : Nat) : Int) = x by omega] at this
  exact this
theorem i_xor1 : ∀ x : Fin 6, i_xor (x.val : Int) 1 = if (x.val : Int) % 2 = 0 then (x.val : Int) + 1 else (x.val : Int) - 1 := by decide +kernel
theorem i_xor_1 {x : Int} (h0 : 0 ≤ x) (h1 : x ≤ 5) : 0 ≤ i_xor x 1 ∧ i_xor x 1 ≤ 5 ∧ i_xor x 1 = if x % 2 = 0 then x + 1 else x - 1 := by
  have := i_xor1 ⟨x.toNat, by omega⟩
  simp only [show ((x.toNat : Nat) : Int) = x by omega] at this
  refine ⟨?_, ?_, this⟩ <;> (rw [this]; split <;> omega)
theorem CL17 {L : PG} {T U : TB} {k : Int} (e : pOp L k = 17) : CLz L T U k ↔ ((mayp (pX L k / 8) (T 0 k (pX L k % 8)) (fv (pY L k) (pY L k) 0 0) → GT L U k (pZ L k) (ux (T 0 k) (pX L k % 8) (ctf (pX L k / 8) (T 0 k (pX L k % 8)) (pY L k))) (T 6 k 0)) ∧
    (mayp (i_xor (pX L k / 8) 1) (T 0 k (pX L k % 8)) (fv (pY L k) (pY L k) 0 0) → GT L U k (nx L k) (ux (T 0 k) (pX L k % 8) (ctf (i_xor (pX L k / 8) 1) (T 0 k (pX L k % 8)) (pY L k))) (T 6 k 0))) := by simp [CLz, Csz, Co, Ccz, e]
/-- a span that is cut is a good one -/
theorem fgd_ctf {L : PG} {T : TB} {v y : Int} {f : FA} (hv : 0 ≤ v ∧ v ≤ 5) (hy : -32768 ≤ y ∧ y ≤ 32767) (g : fgd L T f) (m : mayp v f (fv y y 0 0)) (m1 : isMk L (y - 1)) (m0 : isMk L y) (m2 : isMk L (y + 1)) : fgd L T (ctf v f y) := by
  obtain ⟨of', fm, fr, ft⟩ := g
  obtain ⟨-, a1, a2, a3, a4, a5, -⟩ := fok_there of' m.1
  have A1 := a1; have A2 := a2
  unfold c32 at A1 A2
  have mm : mayf v (alo f) (ahi f) y y = 1 := m.2.2
  have key : ∀ a b : Int, a ≤ b → isMk L a → isMk L b → c32 a → c32 b → fgd L T (fv a b (alb f) (ast f)) := fun a b h1 h2 h3 h4 h5 => ⟨fok_fv h4 h5 h1 a4 a5, fm, ⟨⟨h2, su8_0⟩, h3⟩, rfl⟩
  have yc : c32 y ∧ c32 (y - 1) ∧ c32 (y + 1) := by unfold c32; omega
  unfold mayf at mm
  unfold ctf
  by_cases o0 : v = 0
  · rw [if_pos o0]; exact key _ _ (Int.le_refl _) m0 m0 yc.1 yc.1
  rw [if_neg o0] at mm ⊢
  by_cases o1 : v = 1
  · rw [if_pos o1] at mm ⊢
    have nb : ¬ (alo f = ahi f ∧ y = y ∧ alo f = y) := by intro z; rw [if_pos z] at mm; cases mm
    by_cases z1 : alo f = y
    · rw [if_pos z1, z1, if_neg (by omega)]
      exact key _ _ (by omega) m2 fr.2 yc.2.2 a2
    · rw [if_neg z1]
      by_cases z2 : ahi f = y
      · rw [if_pos z2, z2]; exact key _ _ (by omega) fr.1.1 m1 a1 yc.2.1
      · rw [if_neg z2]; exact key _ _ a3 fr.1.1 fr.2 a1 a2
  rw [if_neg o1] at mm ⊢
  by_cases o2 : v = 2
  · rw [if_pos o2] at mm ⊢
    have nb : alo f < y := by by_cases z : alo f < y; exact z; (rw [if_neg z] at mm; cases mm)
    by_cases z : ahi f ≤ y - 1
    · rw [show min (ahi f) (y - 1) = ahi f by omega]; exact key _ _ a3 fr.1.1 fr.2 a1 a2
    · rw [show min (ahi f) (y - 1) = y - 1 by omega]; exact key _ _ (by omega) fr.1.1 m1 a1 yc.2.1
  rw [if_neg o2] at mm ⊢
  by_cases o3 : v = 3
  · rw [if_pos o3] at mm ⊢
    have nb : y ≤ ahi f := by by_cases z : y ≤ ahi f; exact z; (rw [if_neg z] at mm; cases mm)
    by_cases z : alo f ≤ y
    · rw [show max (alo f) y = y by omega]; exact key _ _ nb m0 fr.2 yc.1 a2
    · rw [show max (alo f) y = alo f by omega]; exact key _ _ a3 fr.1.1 fr.2 a1 a2
  rw [if_neg o3] at mm ⊢
  by_cases o4 : v = 4
  · rw [if_pos o4] at mm ⊢
    have nb : y < ahi f := by by_cases z : y < ahi f; exact z; (rw [if_neg z] at mm; cases mm)
    by_cases z : alo f ≤ y + 1
    · rw [show max (alo f) (y + 1) = y + 1 by omega]; exact key _ _ (by omega) m2 fr.2 yc.2.2 a2
    · rw [show max (alo f) (y + 1) = alo f by omega]; exact key _ _ a3 fr.1.1 fr.2 a1 a2
  rw [if_neg o4] at mm ⊢
  have nb : alo f ≤ y := by by_cases z : alo f ≤ y; exact z; (rw [if_neg z] at mm; cases mm)
  by_cases z : ahi f ≤ y
  · rw [show min (ahi f) y = ahi f by omega]; exact key _ _ a3 fr.1.1 fr.2 a1 a2
  · rw [show min (ahi f) y = y by omega]; exact key _ _ nb fr.1.1 m0 a1 yc.1
theorem tT0_fv {h : MH} {L : PG} {k j : Int} (hh : ath (tT h L 0 k j) ≠ 0) : tT h L 0 k j = fv (alo (tT h L 0 k j)) (ahi (tT h L 0 k j)) (alb (tT h L 0 k j)) (ast (tT h L 0 k j)) := by
  change ath (t0 h L k j) ≠ 0 at hh
  show t0 h L k j = fv (alo (t0 h L k j)) (ahi (t0 h L k j)) (alb (t0 h L k j)) (ast (t0 h L k j))
  unfold t0 at hh ⊢
  rw [iff_p (iff_b hh)]; rfl
theorem g_ifl {l : Launch} {G : JG} (hG : gO G = true) {h h2 : MH} {L : PG} {k : Int} (q : wrk h L k h2) (e : pOp L k = 17) {Q : Int → MH → Prop} {E : Nat → Int → MH → Prop} (hQ : ∀ h', AdvC L k h h' (fun U => CLz L (tT h L) U k) → Q 0 h') :
      S_X9_cut l G [(2009, 396), (0, (i_rem (pX L k) 8)), (0, (i_div (pX L k) 8)), (0, pY L k)] h2 (fun z115 h116 =>
      ((z115 = 0 →
        S_X9_takeFacts l G [(2009, 396), (0, k)] h116 (fun _ h118 =>
        (¬ (8 : Int) = 0) ∧ (¬ (8 : Int) = 0) ∧
        S_X9_cut l G [(2009, 396), (0, (i_rem (pX L k) 8)), (0, (i_xor (i_div (pX L k) 8) 1)), (0, pY L k)] h118 (fun z119 h120 =>
        ((z119 = 0 → Q 0 h120) ∧
        (¬ z119 = 0 → S_X9_flowOn l G [(2009, 396), (0, k)] h120 (fun _ h122 => Q 0 h122) E))) E) E) ∧
      (¬ z115 = 0 →
        ((hv h116 396 3) ≠ 0) ∧ (0 ≤ k) ∧ (k < 1500) ∧
        S_X9_flow l G [(2009, 396), (0, k), (0, (hv h116 ((hv h116 396 3) + 22) k))] h116 (fun _ h124 =>
        S_X9_takeFacts l G [(2009, 396), (0, k)] h124 (fun _ h126 =>
        (¬ (8 : Int) = 0) ∧ (¬ (8 : Int) = 0) ∧
        S_X9_cut l G [(2009, 396), (0, (i_rem (pX L k) 8)), (0, (i_xor (i_div (pX L k) 8) 1)), (0, pY L k)] h126 (fun z127 h128 =>
        ((z127 = 0 → Q 0 h128) ∧
        (¬ z127 = 0 → S_X9_flowOn l G [(2009, 396), (0, k)] h128 (fun _ h130 => Q 0 h130) E))) E) E) E))) E := by
  have q' := q
  obtain ⟨tf, w, mk, t, k0, k1, hr, s2, c2⟩ := q'
  have nn := w.n
  unfold WFn at nn
  obtain ⟨mo, -, xr, yr, -, -, -, xl, -, -, -, -, -, -, -, -, -, zz, -, dp, -⟩ := w.k k0 k1
  obtain ⟨-, -, -, -, -, -, -, -, -, lc1, -⟩ := w.m mo.1 mo.2.1
  have z3 := zz (by omega)
  have xl' := xl e
  have p0 : ppo L k = 0 := by unfold ppo; simp [e]
  have p1 : ppu L k = 0 := by unfold ppu; simp [e]
  have ir := i_rem_8 xr.1 xr.2
  rw [ir.1, ir.2]
  have ix := i_xor_1 (x := pX L k / 8) (by omega) (by omega)
  have xrel : rel L k (pX L k % 8) := Or.inl ⟨by omega, xl'.2⟩
  have mks : isMk L (pY L k - 1) ∧ isMk L (pY L k) ∧ isMk L (pY L k + 1) := by
    refine ⟨?_, ?_, ?_⟩
    · exact Or.inr (Or.inr (Or.inr (Or.inr (Or.inr (Or.inr ⟨k, k0, k1, Or.inl ⟨Or.inr e, Or.inl rfl⟩⟩)))))
    · exact Or.inr (Or.inr (Or.inr (Or.inr (Or.inr (Or.inr ⟨k, k0, k1, Or.inl ⟨Or.inr e, Or.inr (Or.inl rfl)⟩⟩)))))
    · exact Or.inr (Or.inr (Or.inr (Or.inr (Or.inr (Or.inr ⟨k, k0, k1, Or.inl ⟨Or.inr e, Or.inr (Or.inr rfl)⟩⟩)))))
  -- the second half, from any point
  have half : ∀ {g : MH} {P : TB → Prop}, AdvC L k h g P → (∀ U V, tle U V → P U → P V) →
      (∀ h', AdvC L k h h' (fun U => P U ∧ (mayp (i_xor (pX L k / 8) 1) (tT h L 0 k (pX L k % 8)) (fv (pY L k) (pY L k) 0 0) → GT L U k (nx L k) (ux (tT h L 0 k) (pX L k % 8) (ctf (i_xor (pX L k / 8) 1) (tT h L 0 k (pX L k % 8)) (pY L k))) (tT h L 6 k 0))) → Q 0 h') →
      S_X9_takeFacts l G [(2009, 396), (0, k)] g (fun _ h118 => (¬ (8 : Int) = 0) ∧ (¬ (8 : Int) = 0) ∧
        S_X9_cut l G [(2009, 396), (0, pX L k % 8), (0, (i_xor (pX L k / 8) 1)), (0, pY L k)] h118 (fun z119 h120 =>
        ((z119 = 0 → Q 0 h120) ∧ (¬ z119 = 0 → S_X9_flowOn l G [(2009, 396), (0, k)] h120 (fun _ h122 => Q 0 h122) E))) E) E := by
    intro g P a up hq
    have le := a.2.2.2.1
    have rg : rch (tT g L) k := ath_le (le _ _ _) q.r
    refine w_take hG q a (fun g' s c _ a' => ⟨by decide, by decide, ?_⟩) up
    have gs := tiv_slot a.2.2.1 rg xrel
    have ts : ath (tT g L 0 k (pX L k % 8)) ≠ 0 := by rw [gs.2.2.2]; decide
    have Tg : tT g' L = tT g L := same_T s
    have lm := fun (y : mayp (i_xor (pX L k / 8) 1) (tT h L 0 k (pX L k % 8)) (fv (pY L k) (pY L k) 0 0)) => may_mono1 (t.1 _ _ _) (le 0 k (pX L k % 8)) y
    refine t_cut hG c (Or.inl ⟨by omega, xl'.2⟩) (by omega) (by omega) ⟨ix.1, ix.2.1⟩ ⟨yr.1, yr.2.1⟩ gs.1 ts (tT0_fv ts) (fun m g2 s3 c3 => ⟨fun z => by omega, fun _ => ?_⟩) (fun m => ⟨fun _ => ?_, fun z => absurd rfl z⟩)
    · have a2 : AdvC L k h g2 P := AdvC_w (AdvC_tr a' (AdvC_same s3 (by rw [Tg]; exact a.2.2.1)) up) (fun _ p => p.1)
      have T2 : tT g2 L = tT g L := by rw [same_T s3, Tg]
      refine w_flowOn hG q a2 up (by omega) (by omega) (by omega) c3 (by omega) (by rw [T2]; exact gX_ux (fun j hj _ => tiv_slot a.2.2.1 rg (vld_up hj (by omega))) (fgd_ctf ⟨ix.1, ix.2.1⟩ ⟨yr.1, yr.2.1⟩ gs m mks.1 mks.2.1 mks.2.2)) (by rw [T2]; exact tiv_lock a.2.2.1 rg) (fun U oU p z => ?_) (fun h' b _ => hq h' (AdvC_w b (fun _ p => ⟨p.1, fun y => ?_⟩)))
      · rw [T2] at p
        exact ((CL17 e).mp (CL_dn a.2.2.1 rg p z)).2 m
      · exact GT_le (ux_le (fun j => le _ _ _) (ctf_mono (le _ _ _) y.1)) (le _ _ _) (tle_rfl _) p.2
    · exact hq g' (AdvC_w a' (fun _ p => ⟨p, fun y => absurd (lm y) m⟩))
  have gs := q.sl xrel
  have ts : ath (tT h L 0 k (pX L k % 8)) ≠ 0 := by rw [gs.2.2.2]; decide
  refine t_cut hG c2 (Or.inl ⟨by omega, xl'.2⟩) (by omega) (by omega) (by omega) ⟨yr.1, yr.2.1⟩ gs.1 ts (tT0_fv ts) (fun m g2 s3 c3 => ⟨fun z => by omega, fun _ => ?_⟩) (fun m => ⟨fun _ => ?_, fun z => absurd rfl z⟩)
  · have sg := same_tr s2 s3
    have tg := frA_TF sg.1 tf
    have Tg : tT g2 L = tT h L := same_T sg
    refine ⟨tg.ne, k0, by omega, ?_⟩
    rw [tg.z]
    refine w_flow hG q (AdvC_same (k := k) sg t) up_t z3.1 z3.2.1 c3 (by omega) (by rw [Tg]; exact gX_ux (fun j hj _ => q.sl (vld_up hj (by omega))) (fgd_ctf (by omega) ⟨yr.1, yr.2.1⟩ gs m mks.1 mks.2.1 mks.2.2)) (by rw [Tg]; exact q.lk) (fun U oU p z => ?_) (fun h' a ws => ?_)
    · rw [Tg] at p
      exact ((CL17 e).mp (CL_dn t q.r p z)).1 m
    · exact half a (fun U V p y => ⟨trivial, GT_up p y.2⟩) (fun h'' b => hQ h'' (AdvC_w b (fun _ p => (CL17 e).mpr ⟨fun _ => p.1.2, p.2⟩)))
  · exact half (AdvC_same s2 t) up_t (fun h'' b => hQ h'' (AdvC_w b (fun _ p => (CL17 e).mpr ⟨fun y => absurd y m, p.2⟩)))
