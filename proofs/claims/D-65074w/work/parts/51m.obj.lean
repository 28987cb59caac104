/-! Part 51m: objects are made, statics, in the component -/
section OB
variable {l : Launch} {G : JG} {h g : MH} {L : PG} {k M d : Int} {X : Int → FA} {lk : FA} {P : TB → Prop} {Q : Int → MH → Prop} {E : Nat → Int → MH → Prop}
/-- a work that rests on what it read on its way: g2 is where all of it was noted -/
theorem WE_rd {g2 g' : MH} {P P' : TB → Prop} (w : WF L) (hk : inP L k) (a1 : AdK L h g2 P (fun U => CLz L U U k)) (a2 : AdK L h g' P' (fun U => CLz L U U k)) (hr : rch (cT h L) k) (t : tiv L (cT h L)) (b : wkdC g2 g' L) (le : tle (cT g2 L) (cT g' L))
    (cl : cT g2 L 0 k = cT h L 0 k → cT g2 L 6 k 0 = cT h L 6 k 0 → CLz L (cT g2 L) (cT g' L) k) (rg : cT g2 L 0 k = cT h L 0 k → ∀ a i j, inC L (cT g2 L) k a i j → udom L a i j ∧ ubt g2 (uad g2 a i j) k = true)
    (u2 : ∀ s, 0 ≤ s → bl (hv g' 77 k) s = true → usd L (cT g2 L) k s) (us : cT g2 L 0 k = cT h L 0 k → used L (cT g2 L) (hv g' 77 k) k) : WE h g' L k := by
  have hr2 : rch (cT g2 L) k := ath_le (a1.2.2.2.2.1 _ _ _) hr
  obtain ⟨-, -, -, -, -, -, -, -, -, -, -, -, -, -, -, -, -, -, -, dp, -⟩ := w.k hk.1 hk.2
  have t2 := a1.2.1.2.2.2.1
  have t3 := a2.2.1.2.2.2.1
  refine ⟨a2.1, a2.2.1, a2.2.2.1, a2.2.2.2.2.1, a2.2.2.2.2.2.2.1, fun j _ => a2.2.2.2.1 j, fun s s0 y => usd_le t2.1 le (fun j v => t2.2.2.2.2.2 k j hr2 v) dp.2.2.1 (u2 s s0 y), ?_, a2.2.2.2.2.2.2.2⟩
  by_cases aw : hv g' 79 k ≠ 0
  · exact Or.inl aw
  right
  obtain ⟨e0, e6⟩ := (a2.2.2.1.2.1 k hk).resolve_left aw
  have s0 : ∀ s, cT g2 L 0 k s = cT h L 0 k s := fun s => fle_anti (t2.1 _ _ _) (t.1 _ _ _) (by rw [← e0 s]; exact le _ _ _) (a1.2.2.2.2.1 _ _ _)
  have s6 : cT g2 L 6 k 0 = cT h L 6 k 0 := fle_anti (t2.1 _ _ _) (t.1 _ _ _) (by rw [← e6]; exact le _ _ _) (a1.2.2.2.2.1 _ _ _)
  have f0 : cT g2 L 0 k = cT h L 0 k := funext s0
  have x0 : cT g' L 0 k = cT g2 L 0 k := funext fun s => (e0 s).trans (s0 s).symm
  have x6 : cT g' L 6 k 0 = cT g2 L 6 k 0 := e6.trans s6.symm
  have ei : ∀ a i j, inC L (cT g2 L) k a i j → cT g' L a i j = cT g2 L a i j := by
    intro a i j y
    obtain ⟨y1, y2⟩ := rg f0 a i j y
    rcases b.2.2.1 a i j y1 with z | z
    · exact z
    · exact absurd (z k hk y2) aw
  refine ⟨CL_eqC x0 x6 ei (cl f0 s6), fun a i j y => ?_, fun o1 o2 s s0 => ?_⟩
  · obtain ⟨y1, y2⟩ := rg f0 a i j (inC_eq x0 ei y)
    exact ⟨y1, b.2.2.2.1 a i j y1 k hk y2⟩
  · rw [usd_eqC x0 ei]
    exact us f0 o1 o2 s s0
theorem CP_row {P : Int} (cp : CP g L P) {c : Int} (c0 : 0 ≤ c) (c1 : c < 8 + pCl L) : hn g (hv g P 4) = 24 ∧ 523 ≤ hv g (hv g P 4) c ∧ hn g (hv g (hv g P 4) c) = pFc L c ∧ ∀ f, 0 ≤ f → f < pFc L c → hv g (hv g (hv g P 4) c) f = pFk L c f := by
  have r := cp.2.2.2.1
  have q := r.2.2 c c0 c1
  exact ⟨r.2.1, q.1.1, q.2.1, q.2.2⟩
theorem sc_rng (w : WF L) {s : Int} (s0 : 1 ≤ s) (s1 : s < pNt L) : -2 ≤ pSc L s ∧ pSc L s < 8 + pCl L := by
  have n := w.n
  unfold WFn at n
  have h := w.s
  by_cases c : s < 7
  · have := h.1 s s0 c; omega
  · exact h.2 s (by omega) s1
theorem c_fieldsOf (hG : gO G = true) (w : WF L) (cp : CP g L (hv g 3 0)) {s : Int} (s0 : 1 ≤ s) (s1 : s < pNt L) (hQ : Q (nfs L s) g) : S_X2_fieldsOf l G [(2002, 3), (0, s)] g Q E := by
  have nn := w.n
  unfold WFn at nn
  obtain ⟨q1, q2⟩ := CP_sc cp
  have ad := CP_ad cp
  have sr := sc_rng w s0 s1
  refine s_X2_fieldsOf rfl fun K ki => r_X2_fieldsOf_0 ki hG ⟨by omega, by omega, by omega, by omega, fun x2 e2 => ?_⟩
  rw [q2 s s0 s1] at e2
  subst e2
  unfold nfs at hQ
  refine ⟨fun y => ?_, ?_⟩
  · obtain ⟨r1, r2, r3, -⟩ := CP_row cp y sr.2
    exact ⟨by omega, by omega, y, by omega, by omega⟩
  · by_cases y : pSc L s < 0
    · rw [if_pos y] at hQ ⊢; exact hQ
    · obtain ⟨r1, r2, r3, -⟩ := CP_row cp (show 0 ≤ pSc L s by omega) sr.2
      rw [if_neg y] at hQ ⊢
      rw [r3]; exact hQ
theorem c_kindOf (hG : gO G = true) (w : WF L) (cp : CP g L (hv g 3 0)) {s f : Int} (s0 : 1 ≤ s) (s1 : s < pNt L) (f0 : 0 ≤ f) (f1 : f < nfs L s) (hQ : Q (if pSc L s = -1 then 0 else if pSc L s = -2 then 1 else pFk L (pSc L s) f) g) : S_X2_kindOf l G [(2002, 3), (0, s), (0, f)] g Q E := by
  have nn := w.n
  unfold WFn at nn
  obtain ⟨q1, q2⟩ := CP_sc cp
  have ad := CP_ad cp
  have sr := sc_rng w s0 s1
  refine s_X2_kindOf rfl fun K ki => r_X2_kindOf_0 ki hG ⟨by omega, by omega, by omega, by omega, fun x2 e2 => ?_⟩
  rw [q2 s s0 s1] at e2
  subst e2
  unfold nfs at f1
  refine ⟨fun y y2 => ?_, ?_⟩
  · obtain ⟨r1, r2, r3, -⟩ := CP_row cp (show 0 ≤ pSc L s by omega) sr.2
    rw [if_neg (by omega)] at f1
    exact ⟨by omega, by omega, by omega, by omega, by omega, f0, by omega⟩
  · by_cases y : pSc L s = -1
    · rw [if_pos y] at hQ ⊢; exact hQ
    · rw [if_neg y] at hQ ⊢
      by_cases y2 : pSc L s = -2
      · rw [if_pos y2] at hQ ⊢; exact hQ
      · obtain ⟨r1, r2, r3, r4⟩ := CP_row cp (show 0 ≤ pSc L s by omega) sr.2
        rw [if_neg (by omega)] at f1
        rw [if_neg y2] at hQ ⊢
        rw [r4 f f0 f1]; exact hQ
theorem kfst_f {kd : Int} (h : kd = 0 ∨ kd = 1) : kfst kd = f1st kd := by
  rcases h with h | h <;> rw [h] <;> rfl
theorem asu_f1 (kd : Int) : asu (f1st kd) = 0 := by
  unfold f1st
  split <;> rfl
theorem ath_f1 (kd : Int) : ath (f1st kd) ≠ 0 := by
  unfold f1st
  split <;> exact (by decide : (1 : Int) ≠ 0)
theorem CW_row (c : CW g L) {s : Int} (s0 : 0 ≤ s) (s1 : s < 63) : hv g 6 s = 7 + s ∧ hn g (7 + s) = 8 := c.2.2.2.2.2.2.2.1 s s0 s1
/-- an object is made -/
theorem w_new (hG : gO G = true) (w : WF L) (t : tiv L (cT h L)) (hr : rch (cT h L) k) (u : usI h L k) (c : wcf h g L k M (cT h L 0 k) (cT h L 6 k 0) (pDp L k) (fun _ => True)) (e : pOp L k = 20) (hQ : ∀ g', WE h g' L k → Q 0 g') : S_X2_makeNew l G [(2002, 3), (0, pSi L k)] g Q E := by
  have nn := w.n
  unfold WFn at nn
  have hk := c.2.1.1
  obtain ⟨mk, ops, xr, yr, x2, x7, x5, x47, xc, -, -, x19, -, -, -, -, -, -, si, dp, -⟩ := w.k hk.1 hk.2
  obtain ⟨i0, i1, i2⟩ := si (by omega)
  rw [if_pos e] at i2
  have xc' := xc (by omega)
  have nf : nfs L (pSi L k) = pFc L (pX L k) := by unfold nfs; rw [i2, if_neg (by omega)]
  obtain ⟨-, -, wfc, -, wfk, -⟩ := w.c
  have fc8 := wfc (pX L k) xr.1 (by omega)
  have pp : ppo L k = 0 := by unfold ppo; simp [e]
  have pu : ppu L k = 1 := by unfold ppu; simp [e]
  have fin : ∀ {g' : MH} {X' : Int → FA} {lk' : FA} {d' : Int} {P' : TB → Prop}, wcf h g' L k M X' lk' d' P' → (P' (cT g' L) → CLz L (cT h L) (cT g' L) k) → Q 0 g' := fun c f => hQ _ (WE_of w hk t hr u (AdK_w c.1 (fun _ p => f p) (fun _ _ _ q => q)) (by omega))
  refine s_X2_makeNew rfl fun K ki => r_X2_makeNew_0 ki hG ?_
  have loop : ∀ N : Nat, ∀ n : Int, ∀ g1 : MH, (pFc L (pX L k) - n).toNat ≤ N → 0 ≤ n → n ≤ pFc L (pX L k) → wcf h g1 L k M (cT h L 0 k) (cT h L 6 k 0) (pDp L k) (fun U => ∀ f, 0 ≤ f → f < n → fle (f1st (pFk L (pX L k) f)) (U 1 (pSi L k) f)) → JW K 2 [(2002, 3), (0, pSi L k), (0, n)] [] g1 := by
    have last : ∀ g1 : MH, wcf h g1 L k M (cT h L 0 k) (cT h L 6 k 0) (pDp L k) (fun U => ∀ f, 0 ≤ f → f < pFc L (pX L k) → fle (f1st (pFk L (pX L k) f)) (U 1 (pSi L k) f)) → JW K 2 [(2002, 3), (0, pSi L k), (0, pFc L (pX L k))] [] g1 := by
      intro g1 c1
      refine r_X2_makeNew_2 ki hG (c_fieldsOf hG w (wcf_st c1).1.1 (by omega) i1 ⟨fun _ => ?_, fun y => by omega⟩)
      refine c_sites hG ?_
      have c2 := wcf_fw (f := 134) (v := fs (l_shl 1 (pSi L k))) w (by omega) c1
      have md : mkd L (cT (fw g1 134 (fs (l_shl 1 (pSi L k)))) L) (pSi L k) := by
        refine Or.inr ⟨⟨i0, i1⟩, fun f f0 f1 => ?_, fun y => by omega⟩
        rw [nf] at f1
        exact ath_le (c2.1.2.2.2.2.2.1 f f0 f1) (ath_f1 _)
      refine W_put (v := b1 (pSi L k)) hG w c2 (by omega) (by decide) (by decide) (fo_fw0 rfl) (fgd_b1 (by omega) (by omega) md) fun g3 c3 _ => ?_
      exact W_next hG w t hr (fun U V p q f f0 f1 => fle_trans (q f f0 f1) (p _ _ _)) c3 (by omega) (by omega) (fun U _ q => ((CL20 e).mp q).2) fun g4 c4 _ => fin c4 (fun p => (CL20 e).mpr ⟨p.1, p.2⟩)
    intro N
    induction N with
    | zero =>
      intro n g1 m1 m2 m3 c1
      have en : n = pFc L (pX L k) := by omega
      subst en
      exact last g1 c1
    | succ N ih =>
      intro n g1 m1 m2 m3 c1
      by_cases en : n = pFc L (pX L k)
      · subst en
        exact last g1 c1
      obtain ⟨r6, r8⟩ := CW_row (wcf_st c1).1 (show 0 ≤ pSi L k by omega) (by omega)
      refine r_X2_makeNew_2 ki hG (c_fieldsOf hG w (wcf_st c1).1.1 (by omega) i1 ⟨fun y => by omega, fun _ => ?_⟩)
      rw [r6, r8]
      refine ⟨by omega, by omega, by omega, m2, by omega, c_kindOf hG w (wcf_st c1).1.1 (by omega) i1 m2 (by omega) ?_⟩
      rw [i2, if_neg (by omega), if_neg (by omega)]
      refine c_first hG ?_
      have kd := wfk (pX L k) n xr.1 (by omega) m2 (by omega)
      rw [kfst_f kd]
      have c2 := wcf_fw (f := 134) (v := f1st (pFk L (pX L k) n)) w (by omega) c1
      have ea : hv g1 (7 + pSi L k) n = cad (fw g1 134 (f1st (pFk L (pX L k) n))) 1 (pSi L k) n := by
        unfold cad
        rw [if_pos rfl, fw_ne (by omega)]
      rw [ea]
      refine W_cjoin (v := f1st (pFk L (pX L k) n)) hG w (fun U V p q f f0 f1 => fle_trans (q f f0 f1) (p _ _ _)) c2 (Or.inl ⟨rfl, ⟨i0, i1⟩, m2, by omega⟩) (by decide) (fo_fw0 (asu_f1 _)) (fgd_f1 L _ _) (fun U oU p q => ?_) fun g3 c3 _ _ => ?_
      · exact ((CL20 e).mp q).1 n m2 (by omega)
      · intro x ex
        rw [w32_i (by omega) (by omega)] at ex
        subst ex
        refine ih (n + 1) g3 (by omega) (by omega) (by omega) (wcf_P c3 (fun _ p f f0 f1 => ?_))
        by_cases y : f = n
        · rw [y]; exact p.2
        · exact p.1 f f0 (by omega)
  intro x ex
  subst ex
  exact loop _ 0 g (Nat.le_refl _) (by omega) fc8.1 (wcf_P c (fun _ _ f f0 f1 => by omega))
/-- an array is made -/
theorem w_newarr (hG : gO G = true) (w : WF L) (t : tiv L (cT h L)) (hr : rch (cT h L) k) (u : usI h L k) (c : wcf h g L k M (cT h L 0 k) (cT h L 6 k 0) (pDp L k) (fun _ => True)) (e : pOp L k = 21) (hQ : ∀ g', WE h g' L k → Q 0 g') : S_X2_makeArray l G [(2002, 3), (0, pSi L k), (0, pX L k)] g Q E := by
  have nn := w.n
  unfold WFn at nn
  have hk := c.2.1.1
  obtain ⟨mk, ops, xr, yr, x2, x7, x5, x47, xc, xa, -, x19, -, -, -, -, -, -, si, dp, -⟩ := w.k hk.1 hk.2
  obtain ⟨i0, i1, i2⟩ := si (by omega)
  rw [if_neg (by omega)] at i2
  have xa' := xa (by omega)
  have nf : nfs L (pSi L k) = 1 := by unfold nfs; rw [i2, if_pos (by omega)]
  have pp : ppo L k = 1 := by unfold ppo; simp [e]
  have pu : ppu L k = 1 := by unfold ppu; simp [e]
  have fin : ∀ {g' : MH} {X' : Int → FA} {lk' : FA} {d' : Int} {P' : TB → Prop}, wcf h g' L k M X' lk' d' P' → (P' (cT g' L) → CLz L (cT h L) (cT g' L) k) → Q 0 g' := fun c f => hQ _ (WE_of w hk t hr u (AdK_w c.1 (fun _ p => f p) (fun _ _ _ q => q)) (by omega))
  have upT : ∀ U V : TB, tle U V → (fun _ : TB => True) U → (fun _ : TB => True) V := fun _ _ _ x => x
  have bt := tiv_slot (j := 7 + pDp L k) t hr (Or.inr ⟨by omega, by omega⟩)
  have b0 : ath (cT h L 0 k (7 + pDp L k)) ≠ 0 := by rw [bt.2.2.2]; decide
  obtain ⟨-, bl1, bl2, bl3, -⟩ := fok_there bt.1 b0
  refine s_X2_makeArray rfl fun K ki => r_X2_makeArray_0 ki hG (W_take hG w c (by omega) (Or.inl ⟨by decide, by decide⟩) fun g1 c1 f1 gd1 fr1 => ?_)
  have num : ∀ g3, fo g3 135 = cT h L 0 k (7 + pDp L k) → hv g3 135 1 = alo (cT h L 0 k (7 + pDp L k)) ∧ hv g3 135 2 = ahi (cT h L 0 k (7 + pDp L k)) := fun g3 y => ⟨congrArg alo y, congrArg ahi y⟩
  obtain ⟨n1, n2⟩ := num g1 f1
  rw [n1, n2]
  have rest : ∀ (g4 : MH) (P' : TB → Prop), (∀ U V, tle U V → P' U → P' V) → wcf h g4 L k M (cT h L 0 k) (cT h L 6 k 0) (pDp L k - 1) P' → (∀ U, P' U → (alo (cT h L 0 k (7 + pDp L k)) < 0 ∨ 100 < ahi (cT h L 0 k (7 + pDp L k))) → TS L U k (cT h L 0 k) 3 (cT h L 6 k 0)) →
      (((ahi (cT h L 0 k (7 + pDp L k)) < 0 ∨ 100 < alo (cT h L 0 k (7 + pDp L k))) → Q 0 g4) ∧ (¬ (ahi (cT h L 0 k (7 + pDp L k)) < 0 ∨ 100 < alo (cT h L 0 k (7 + pDp L k))) → (0 ≤ pSi L k) ∧ (pSi L k < 63) ∧ S_X4_number l G [(2004, 134), (0, (max 0 (alo (cT h L 0 k (7 + pDp L k))))), (0, (min 100 (ahi (cT h L 0 k (7 + pDp L k))))), (0, 0)] g4 (fun z5 h6 => S_X2_join l G [(2002, 3), (10, (hv g4 70 (pSi L k))), (8, z5)] h6 (fun _ h8 => (0 ≤ pSi L k) ∧ (pSi L k < 63) ∧ ((hv h8 6 (pSi L k)) ≠ 0) ∧ (0 ≤ (0 : Int)) ∧ (0 < (hn h8 (hv h8 6 (pSi L k)))) ∧ S_X4_first l G [(2004, 134), (0, pX L k)] h8 (fun z9 h10 => S_X2_join l G [(2002, 3), (10, (hv h8 (hv h8 6 (pSi L k)) 0)), (8, z9)] h10 (fun _ h12 => S_X4_sites l G [(2004, 134), (1, (l_shl 1 (pSi L k)))] h12 (fun z13 h14 => S_X2_put l G [(2002, 3), (8, z13)] h14 (fun _ h16 => S_X2_goOn l G [(2002, 3), (0, (w32 ((hv h16 3 17) + 1)))] h16 (fun _ h18 => Q 0 h18) E) E) E) E) E) E) E)) := by
    intro g4 P' upP c4 th
    refine ⟨fun y => fin c4 (fun p => (CL21 e).mpr (fun _ => ⟨fun y2 => by omega, fun y2 => th _ p y2⟩)), fun y => ⟨by omega, by omega, c_number hG ?_⟩⟩
    have c5 := wcf_fw (f := 134) (v := fv (max 0 (alo (cT h L 0 k (7 + pDp L k)))) (min 100 (ahi (cT h L 0 k (7 + pDp L k)))) 0 0) w (by omega) c4
    have ea : hv g4 70 (pSi L k) = cad (fw g4 134 (fv (max 0 (alo (cT h L 0 k (7 + pDp L k)))) (min 100 (ahi (cT h L 0 k (7 + pDp L k)))) 0 0)) 2 (pSi L k) 0 := by
      unfold cad
      rw [if_neg (by decide), if_pos rfl, fw_ne (by decide)]
    rw [ea]
    have ml : isMk L (max 0 (alo (cT h L 0 k (7 + pDp L k)))) := by
      by_cases y2 : alo (cT h L 0 k (7 + pDp L k)) ≤ 0
      · rw [show max 0 (alo (cT h L 0 k (7 + pDp L k))) = 0 by omega]; exact mk_0 L
      · rw [show max 0 (alo (cT h L 0 k (7 + pDp L k))) = alo (cT h L 0 k (7 + pDp L k)) by omega]; exact bt.2.2.1.1.1
    have mh : isMk L (min 100 (ahi (cT h L 0 k (7 + pDp L k)))) := by
      by_cases y2 : 100 ≤ ahi (cT h L 0 k (7 + pDp L k))
      · rw [show min 100 (ahi (cT h L 0 k (7 + pDp L k))) = 100 by omega]
        unfold isMk
        omega
      · rw [show min 100 (ahi (cT h L 0 k (7 + pDp L k))) = ahi (cT h L 0 k (7 + pDp L k)) by omega]; exact bt.2.2.1.2
    unfold c32 at bl1 bl2
    refine W_cjoin (v := fv (max 0 (alo (cT h L 0 k (7 + pDp L k)))) (min 100 (ahi (cT h L 0 k (7 + pDp L k)))) 0 0) hG w upP c5 (Or.inr (Or.inl ⟨rfl, ⟨i0, i1⟩, rfl⟩)) (by decide) (fo_fw0 rfl) (fgd_n ml mh (by omega) (by unfold c32; omega) (by unfold c32; omega) (by unfold c32; omega)) (fun U oU p q => ?_) fun g6 c6 _ _ => ?_
    · have := CL_dn t hr (tle_trans c5.1.2.2.2.2.1 p) q
      exact (((CL21 e).mp this b0).1 (by omega)).2.1
    · obtain ⟨r6, r8⟩ := CW_row (wcf_st c6).1 (show 0 ≤ pSi L k by omega) (by omega)
      rw [r6, r8]
      refine ⟨by omega, by omega, by omega, by decide, by decide, c_first hG ?_⟩
      rw [kfst_f (by omega)]
      have c7 := wcf_fw (f := 134) (v := f1st (pX L k)) w (by omega) c6
      have ea2 : hv g6 (7 + pSi L k) 0 = cad (fw g6 134 (f1st (pX L k))) 1 (pSi L k) 0 := by
        unfold cad
        rw [if_pos rfl, fw_ne (by omega)]
      rw [ea2]
      refine W_cjoin (v := f1st (pX L k)) hG w (fun U V p q => ⟨upP U V p q.1, fle_trans q.2 (p _ _ _)⟩) c7 (Or.inl ⟨rfl, ⟨i0, i1⟩, by decide, by omega⟩) (by decide) (fo_fw0 (asu_f1 _)) (fgd_f1 L _ _) (fun U oU p q => ?_) fun g8 c8 _ _ => ?_
      · have := CL_dn t hr (tle_trans c7.1.2.2.2.2.1 p) q
        exact (((CL21 e).mp this b0).1 (by omega)).1
      · refine c_sites hG ?_
        have c9 := wcf_fw (f := 134) (v := fs (l_shl 1 (pSi L k))) w (by omega) c8
        have md : mkd L (cT (fw g8 134 (fs (l_shl 1 (pSi L k)))) L) (pSi L k) := by
          have p9 := c9.1.2.2.2.2.2.1
          refine Or.inr ⟨⟨i0, i1⟩, fun f f0 f1 => ?_, fun _ => ath_le p9.1.2 (by decide : (1 : Int) ≠ 0)⟩
          rw [nf] at f1
          rw [show f = 0 by omega]
          exact ath_le p9.2 (ath_f1 _)
        refine W_put (v := b1 (pSi L k)) hG w c9 (by omega) (by decide) (by decide) (fo_fw0 rfl) (fgd_b1 (by omega) (by omega) md) fun g10 c10 _ => ?_
        rw [show 8 + (pDp L k - 1) = 7 + pDp L k by omega] at c10
        exact W_next hG w t hr (fun U V p q => ⟨⟨upP U V p q.1.1, fle_trans q.1.2 (p _ _ _)⟩, fle_trans q.2 (p _ _ _)⟩) c10 (by omega) (by omega) (fun U _ q => (((CL21 e).mp q b0).1 (by omega)).2.2) fun g11 c11 _ => fin c11 (fun p => (CL21 e).mpr (fun _ => ⟨fun _ => ⟨p.1.2, p.1.1.2, p.2⟩, fun y2 => th _ p.1.1.1 y2⟩))
  refine ⟨fun y => ?_, fun y => rest g1 _ upT c1 (fun U _ y2 => absurd y2 y)⟩
  refine W_throw (s := 3) hG w t hr upT c1 (by decide) (by decide) (by decide) (fun U _ q => ((CL21 e).mp q b0).2 y) fun g4 c4 ws => ?_
  obtain ⟨n1', n2'⟩ := num g4 (by rw [← f1]; exact fo_eq (fun j => ws _ j (by omega)))
  rw [n1', n2']
  exact rest g4 _ (fun U V p q => ⟨trivial, TS_up p q.2⟩) c4 (fun U p _ => p.2)
end OB
