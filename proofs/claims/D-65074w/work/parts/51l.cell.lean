/-! Part 51l: cells in the component's work -/
theorem asu_join {a b : FA} (ha : asu a = 0) (hb : asu b = 0) : asu (fjoin a b) = 0 := by
  unfold fjoin
  split
  · exact ha
  · split
    · exact hb
    · show i_and (asu a) (asu b) = 0
      rw [ha, hb]
      decide
section CE
variable {l : Launch} {G : JG} {h g : MH} {L : PG} {k M d : Int} {X : Int → FA} {lk : FA} {P : TB → Prop} {Q : Int → MH → Prop} {E : Nat → Int → MH → Prop}
/-- the same steps, with what is asked seen from where the work stands -/
theorem wcf_goG {g' : MH} {P' A' : TB → Prop} (w : WF L) (up : ∀ U V, tle U V → P U → P V) (c : wcf h g L k M X lk d P) (b : AdK L g g' P' A') (ws : wsk g g') (f : ∀ U, tbok U → tle (cT g L) U → CLz L U U k → A' U) : wcf h g' L k M X lk d (fun U => P U ∧ P' U) := by
  obtain ⟨c1, c2, c3, ⟨c4, c5, c6, c9⟩, c7, c8⟩ := c
  have hk := c2.1
  have a : AdK L h g' (fun U => P U ∧ P' U) (fun U => CLz L U U k) := by
    obtain ⟨a1, a2, a3, a4, a5, a6, a7, a8⟩ := c1
    obtain ⟨b1', b2, b3, b4, b5, b6, b7, b8⟩ := b
    exact ⟨frC_tr a1 b1', b2, wkdC_tr a3 b3, fun j => (b4 j).trans (a4 j), tle_trans a5 b5, ⟨up _ _ b5 a6, b6⟩, fun U oU p q => b7 U oU (a7 U oU p q) (f U oU (a7 U oU p q) q), qui_C a5 b5 a2 b2 a8 b8⟩
  refine ⟨a, wkC_ws b.1 ws c2, ⟨fun j r => ?_, by rw [ws 116 2 (by omega), ws 116 3 (by omega)]; exact c3.2⟩, ⟨fun j v => ?_, by rw [ws 80 2 (by omega), ws 80 3 (by omega)]; exact c5, by rw [ws 3 25 (by omega)]; exact c6, c9⟩, fun j v => fgd_le b.2.2.2.2.1 (c7 j v), fgd_le b.2.2.2.2.1 c8⟩
  · have rr := rel_rng w hk.1 hk.2 r
    rw [← c3.1 j r]
    exact fo_eq (fun i => ws _ i (by omega))
  · have vr := vld_rng w hk c9 v
    rw [← c4 j v]
    exact fo_eq (fun i => ws _ i (by omega))
theorem W_goOnG {i : Int} (hG : gO G = true) (w : WF L) (up : ∀ U V, tle U V → P U → P V) (c : wcf h g L k M X lk d P) (hi : i = nx L k ∨ i = pZ L k) (i0 : 0 ≤ i) (i1 : i < pCo L (pMo L k)) (hv' : ∀ s, rel L (pFi L (pMo L k) + i) s → vld L (pMo L k) d s)
    (f : ∀ U, tbok U → tle (cT g L) U → CLz L U U k → GT L U k i X lk) (hQ : ∀ g', wcf h g' L k M X lk d (fun U => P U ∧ GT L U k i X lk) → wsk g g' → wkdC g g' L → tle (cT g L) (cT g' L) → Q 0 g') : S_X2_goOn l G [(2002, 3), (0, i)] g Q E := by
  obtain ⟨c4, c5, c6, c9⟩ := c.2.2.2.1
  refine K_goOn hG w c.1.2.1 c.2.1 hi i0 i1 (fun s r => by rw [c4 s (hv' s r)]; exact c.2.2.2.2.1 s (hv' s r)) (by rw [c5]; exact c.2.2.2.2.2) fun g' a ws => ?_
  rw [c5] at a
  refine hQ g' (wcf_P (wcf_goG w up c a ws (fun U oU p q => ⟨(f U oU p q).1, Flow_eq (fun s r => (c4 s (hv' s r)).symm) (f U oU p q).2⟩)) (fun _ p => ⟨p.1, p.2.1, Flow_eq (fun s r => c4 s (hv' s r)) p.2.2⟩)) ws a.2.2.1 a.2.2.2.2.1
theorem W_nextG (hG : gO G = true) (w : WF L) (up : ∀ U V, tle U V → P U → P V) (c : wcf h g L k M X lk d P) (no : pOp L k ≠ 15 ∧ pOp L k ≠ 31 ∧ pOp L k ≠ 32) (hd : d = pDp L k - ppo L k + ppu L k)
    (f : ∀ U, tbok U → tle (cT g L) U → CLz L U U k → GT L U k (nx L k) X lk) (hQ : ∀ g', wcf h g' L k M X lk d (fun U => P U ∧ GT L U k (nx L k) X lk) → wsk g g' → wkdC g g' L → tle (cT g L) (cT g' L) → Q 0 g') : S_X2_goOn l G [(2002, 3), (0, w32 (hv g 3 17 + 1))] g Q E := by
  obtain ⟨hk, -, -, -, h17⟩ := c.2.1
  have nn := w.n
  unfold WFn at nn
  have hk1 := hk.1
  have hk2 := hk.2
  obtain ⟨mk, -⟩ := w.k hk.1 hk.2
  obtain ⟨-, -, -, -, -, -, -, -, -, -, -, -, -, -, -, -, -, -, -, -, nxt⟩ := w.k hk.1 hk.2
  obtain ⟨n1, n2⟩ := nxt no.1 no.2.1 no.2.2
  obtain ⟨-, -, -, -, -, -, -, -, -, -, -, -, -, -, -, -, -, fi0, fi1, fim, -⟩ := w.m mk.1 mk.2.1
  rw [h17, w32_i (by omega) (by omega)]
  have en : k - pFi L (pMo L k) + 1 = nx L k := rfl
  rw [en]
  have eq : pFi L (pMo L k) + nx L k = k + 1 := by unfold nx; omega
  refine W_goOnG hG w up c (Or.inl rfl) (by unfold nx; omega) (by unfold nx; omega) (fun s r => ?_) f hQ
  rw [eq] at r
  have mo := fim (nx L k) (by unfold nx; omega) (by unfold nx; omega)
  rw [eq] at mo
  unfold rel at r
  unfold vld
  rw [mo, n2] at r
  omega
end CE
section CJ2
variable {l : Launch} {G : JG} {g : MH} {L : PG} {a i j f : Int} {Q : Int → MH → Prop} {E : Nat → Int → MH → Prop}
/-- a fact is joined to a cell -/
theorem K_cjoin (hG : gO G = true) (w : WF L) (t : STc g L) (d : cdom L a i j) (hf : f ≠ 0) (gd : fgd L (cT g L) (fo g f)) (hQ : ∀ g', AdK L g g' (fun U => fle (fo g f) (U a i j)) (fun U => fle (fo g f) (U a i j)) → wsk g g' → Q 0 g') : S_X2_join l G [(2002, 3), (10, cad g a i j), (8, f)] g Q E := by
  have nn := w.n
  unfold WFn at nn
  obtain ⟨c, qi, ub, tv, z⟩ := t
  have a123 : a = 1 ∨ a = 2 ∨ a = 3 := by unfold cdom at d; omega
  have ud : udom L a i j := Or.inl d
  have eu : uad g a i j = cad g a i j + 2 := by unfold uad; rw [if_pos a123]
  obtain ⟨cl, cr⟩ := c.2.2.2.2.1 a i j d
  have r1 : cT g L a i j = fo g (cad g a i j + 1) := by
    rw [cT_c g L i j a123]
    unfold tc1
    rw [iff_p d]
  refine c_cjoin hG qi cl (by omega) hf (fun p p0 p1 y => ub a i j ud p p0 p1 (by rw [eu]; exact y)) fun h' al q' => ?_
  generalize hC : cad g a i j = C at *
  generalize hV : fo g f = v at *
  have e : ∀ b k, b ≠ C + 1 → hv (fw g (C + 1) (fjoin (fo g (C + 1)) v)) b k = hv g b k := fun b k hb => fw_ne hb
  have fr : frC g (fw g (C + 1) (fjoin (fo g (C + 1)) v)) := ⟨rfl, fun b k p1 p2 => e b k (fun y => by
    rcases cr with y2 | y2
    · exact p2 ⟨by omega, Or.inl (by rw [y]; exact cl.2.2.2.2.1)⟩
    · exact p1 (by unfold wlo; omega))⟩
  have as0 : asu (fjoin (fo g (C + 1)) v) = 0 := asu_join rfl (by rw [← hV]; rfl)
  have e0 : ∀ q, inP L q → vq g (fw g (C + 1) (fjoin (fo g (C + 1)) v)) q := fun q hq => by
    obtain ⟨sq, s5⟩ := c.2.1 q hq
    obtain ⟨d1, d2, -, -⟩ := dSC sq cl
    exact vq_of (frC_4 fr q) (fun b k hb => e b k (fun y => by
      rcases hb with hb | hb
      · exact d2 (by rw [← y]; exact hb.1)
      · exact d1 (by rw [← y]; exact hb)))
  have eo : ∀ m, inM L m → vo g (fw g (C + 1) (fjoin (fo g (C + 1)) v)) m := fun m hm => ⟨fun j _ _ => e _ j (by unfold inM at hm; omega), fo_eq (fun j => e _ j (by unfold inM at hm; omega))⟩
  have ea : ∀ q, inP L q → va g (fw g (C + 1) (fjoin (fo g (C + 1)) v)) q := fun q _ => ⟨e _ _ (by omega), e _ _ (by omega), e _ _ (by omega), e _ _ (by omega)⟩
  have ek : ∀ i, 0 ≤ i → i < 8 → fo (fw g (C + 1) (fjoin (fo g (C + 1)) v)) (288 + i) = fo g (288 + i) := fun i i0 i1 => fo_eq (fun j => e _ j (by omega))
  have ec : ∀ a' i' j', cdom L a' i' j' → ¬ (a' = a ∧ i' = i ∧ j' = j) → vc g (fw g (C + 1) (fjoin (fo g (C + 1)) v)) a' i' j' := fun a' i' j' d' ne => vc_of (frC_cad fr w d') (fun k => e _ k (fun y => ne (c.2.2.2.2.2.1 a' i' j' a i j d' d (by omega))))
  have eT : cT (fw g (C + 1) (fjoin (fo g (C + 1)) v)) L = tj (cT g L) a i j v := by
    funext a' i' j'
    unfold tj
    by_cases y : a' = a ∧ i' = i ∧ j' = j
    · rw [if_pos y]
      obtain ⟨rfl, rfl, rfl⟩ := y
      rw [r1, cT_c _ L _ _ a123]
      unfold tc1
      rw [iff_p d, frC_cad fr w d, hC, fo_fw0 as0]
    · rw [if_neg y]
      unfold cT
      rw [e_c0 w (e0 i') j', e_c1 (fun d' => ec a' i' j' d' y), e_c4 (ek i') j', (e_co w (eo i') j').1, e_c6 (e0 i') j', (e_co w (eo i') j').2.1, (e_co w (eo i') j').2.2.1, (e_ca (ea i') j').1, (e_ca (ea i') j').2.1, (e_ca (ea i') j').2.2, (e_co w (eo i') j').2.2.2.1, (e_co w (eo i') j').2.2.2.2]
  have ne : ∀ b k m, ¬ (b = a ∧ k = i ∧ m = j) → cT (fw g (C + 1) (fjoin (fo g (C + 1)) v)) L b k m = cT g L b k m := by
    intro b k m hn
    rw [eT]
    unfold tj
    rw [if_neg hn]
  have eus : ∀ a' i' j', udom L a' i' j' → ∀ k, hv (fw g (C + 1) (fjoin (fo g (C + 1)) v)) (uad g a' i' j') k = hv g (uad g a' i' j') k := fun a' i' j' d' k => e _ k (fun y => by
    have ty := (uad_ty w c d').1
    rw [y, cl.2.2.2.2.1] at ty
    cases ty)
  have l1 := tj_le.mp (tle_rfl (tj (cT g L) a i j v))
  have z' := zC_eq e0 (fun i i0 i1 => e _ 0 (by omega)) eo z
  have ad : onq (fw g (C + 1) (fjoin (fo g (C + 1)) v)) h' → (∀ j, hv g 79 j ≠ 0 → hv h' 79 j ≠ 0) → (∀ a' i' j', udom L a' i' j' → cT (fw g (C + 1) (fjoin (fo g (C + 1)) v)) L a' i' j' = cT g L a' i' j' ∨ ∀ p, inP L p → ubt g (uad g a' i' j') p = true → hv h' 79 p ≠ 0) → (RWx g L → ∀ p, inP L p → hv h' 79 p ≠ 0 → hv g 79 p ≠ 0 ∨ rch (cT (fw g (C + 1) (fjoin (fo g (C + 1)) v)) L) p) → (cT (fw g (C + 1) (fjoin (fo g (C + 1)) v)) L = cT g L → ∀ j, hv h' 79 j ≠ 0 → hv g 79 j ≠ 0) → Q 0 h' := by
    intro oq k1 k3 k4 k5
    refine hQ h' (AdK_op w ⟨c, qi, ub, tv, z⟩ fr eus (fun j => e 77 j (by omega)) z' (by rw [eT]; exact tiv_tj tv (by omega) gd) (by rw [eT]; exact l1.1) (by rw [eT]; exact l1.2) (fun U _ p q => by rw [eT]; exact tj_le.mpr ⟨p, q⟩) oq q' k1 (fun q hq => Or.inr ⟨fun s => ne _ _ _ (by omega), ne _ _ _ (by omega)⟩) k3 k4 k5) (fun b j' hb => ?_)
    rw [oq.2 b j' (by omega) (by omega) (by omega)]
    exact e b j' (by omega)
  rcases al with ⟨rfl, le⟩ | ⟨ng, oq, k1, aw⟩
  · refine ad (onq_rfl _) (fun j' y => by rw [e 79 j' (by omega)]; exact y) (fun a' i' j' _ => Or.inl ?_) (fun _ p _ y => Or.inl (by rw [e 79 p (by omega)] at y; exact y)) (fun _ j y => by rw [e 79 j (by omega)] at y; exact y)
    rw [eT, tj_same tv.1 gd.1 (by rw [r1]; exact le)]
  · refine ad oq k1.1 (fun a' i' j' d' => ?_) (fun r p hp y => (k1.2 p y).imp id (fun q => ath_le (by rw [eT]; exact l1.1 _ _ _) (r.2 a i j ud p hp (by rw [eu]; exact q.2.2)))) (fun eq => absurd (by have q := l1.2; rw [← eT, eq, r1] at q; exact q) ng)
    by_cases y : a' = a ∧ i' = i ∧ j' = j
    · right
      intro p hp b
      obtain ⟨rfl, rfl, rfl⟩ := y
      rw [eu] at b
      exact aw p hp.1 (by have := hp.2; omega) b
    · exact Or.inl (ne a' i' j' y)
end CJ2
section CE2
variable {l : Launch} {G : JG} {h g : MH} {L : PG} {k M d : Int} {X : Int → FA} {lk : FA} {P : TB → Prop} {Q : Int → MH → Prop} {E : Nat → Int → MH → Prop}
/-- the place rests on an entry from now on -/
theorem W_reg {a i j : Int} (w : WF L) (hrg : rch (cT g L) k) (c : wcf h g L k M X lk d P) (ud : udom L a i j) : wcf h (urs g (uad g a i j) k) L k M X lk d P ∧ ubt (urs g (uad g a i j) k) (uad (urs g (uad g a i j) k) a i j) k = true ∧ cT (urs g (uad g a i j) k) L = cT g L ∧ (∀ b j', b < 144 → hv (urs g (uad g a i j) k) b j' = hv g b j') ∧ AdK L g (urs g (uad g a i j) k) (fun _ => True) (fun _ => True) := by
  obtain ⟨a1, a2, a3⟩ := urs_ST w c.1.2.1 ud c.2.1.1 hrg
  have r := (uad_ty w c.1.2.1.1 ud).2.2
  have e : ∀ b j', b < 144 → hv (urs g (uad g a i j) k) b j' = hv g b j' := fun b j' hb => urs_ne (by omega)
  obtain ⟨c1, c2, c3, ⟨c4, c5, c6, c9⟩, c7, c8⟩ := c
  have hk := c2.1
  refine ⟨⟨?_, wkC_of a1.1 (fun j _ _ => e _ _ (by omega)) c2, ⟨fun j r => ?_, by rw [e 116 2 (by omega), e 116 3 (by omega)]; exact c3.2⟩, ⟨fun j v => ?_, by rw [e 80 2 (by omega), e 80 3 (by omega)]; exact c5, by rw [e 3 25 (by omega)]; exact c6, c9⟩, fun j v => by rw [a3]; exact c7 j v, by rw [a3]; exact c8⟩, a2, a3, e, a1⟩
  · obtain ⟨x1, x2, x3, x4, x5, x6, x7, x8⟩ := c1
    exact ⟨frC_tr x1 a1.1, a1.2.1, wkdC_tr x3 a1.2.2.1, fun j => (a1.2.2.2.1 j).trans (x4 j), by rw [a3]; exact x5, by rw [a3]; exact x6, fun U oU p q => by rw [a3]; exact x7 U oU p q, qui_C x5 a1.2.2.2.2.1 x2 a1.2.1 x8 a1.2.2.2.2.2.2.2⟩
  · have rr := rel_rng w hk.1 hk.2 r
    rw [← c3.1 j r]
    exact fo_eq (fun i => e _ i (by omega))
  · have vr := vld_rng w hk c9 v
    rw [← c4 j v]
    exact fo_eq (fun i => e _ i (by omega))
/-- what a cell has is joined to what is made -/
theorem W_gather {a i j : Int} (hG : gO G = true) (w : WF L) (hrg : rch (cT g L) k) (c : wcf h g L k M X lk d P) (dd : cdom L a i j) (hQ : ∀ g', wcf h g' L k M X lk d P → ubt g' (uad g' a i j) k = true → cT g' L = cT g L → fo g' 136 = fjoin (fo g 136) (cT g L a i j) → (∀ b j', b < 144 → b ≠ 136 → hv g' b j' = hv g b j') → AdK L g g' (fun _ => True) (fun _ => True) → Q 0 g') : S_X2_gather l G [(2002, 3), (10, cad g a i j)] g Q E := by
  have a123 : a = 1 ∨ a = 2 ∨ a = 3 := by unfold cdom at dd; omega
  have eu : uad g a i j = cad g a i j + 2 := by unfold uad; rw [if_pos a123]
  have nn := w.n
  unfold WFn at nn
  have hk2 := c.2.1.1.2
  obtain ⟨cl, cr⟩ := c.1.2.1.1.2.2.2.2.1 a i j dd
  have e18 := c.2.1.2.1
  refine c_gather hG (by rw [e18]; exact c.2.1.1.1) (by rw [e18]; omega) cl ?_
  rw [e18, ← eu]
  obtain ⟨w1, w2, w3, w4, w5⟩ := W_reg w hrg c (Or.inl dd)
  have r1 : cT g L a i j = fo g (cad g a i j + 1) := by
    rw [cT_c g L i j a123]
    unfold tc1
    rw [iff_p dd]
  have as0 : asu (fjoin (fo (urs g (uad g a i j) k) 136) (fo g (cad g a i j + 1))) = 0 := asu_join rfl rfl
  have sm : smC (urs g (uad g a i j) k) (fw (urs g (uad g a i j) k) 136 (fjoin (fo (urs g (uad g a i j) k) 136) (fo g (cad g a i j + 1)))) := smC_fw (by omega)
  have sA := smC_A w (wcf_st w1) sm
  refine hQ _ (wcf_fw w (by omega) w1) ?_ ?_ ?_ (fun b j' hb hb2 => by rw [fw_ne hb2]; exact w4 b j' hb) (AdK_ms w w5 sm)
  · exact sA.2.2.1.2.2.2.1 a i j (Or.inl dd) k c.2.1.1 w2
  · rw [smC_ext w (wcf_st w1).1 sm, w3]
  · rw [fo_fw0 as0, r1, fo_eq (h := g) (h' := urs g (uad g a i j) k) (a := 136) (fun j' => w4 136 j' (by decide))]
/-- a fact is joined to a cell, at work -/
theorem W_cjoin {a i j f : Int} {v : FA} (hG : gO G = true) (w : WF L) (up : ∀ U V, tle U V → P U → P V) (c : wcf h g L k M X lk d P) (dd : cdom L a i j) (hf : f ≠ 0) (ev : fo g f = v) (gd : fgd L (cT g L) v) (fA : ∀ U, tbok U → tle (cT g L) U → CLz L U U k → fle v (U a i j))
    (hQ : ∀ g', wcf h g' L k M X lk d (fun U => P U ∧ fle v (U a i j)) → wsk g g' → AdK L g g' (fun U => fle v (U a i j)) (fun U => fle v (U a i j)) → Q 0 g') : S_X2_join l G [(2002, 3), (10, cad g a i j), (8, f)] g Q E := by
  subst ev
  exact K_cjoin hG w c.1.2.1 dd hf gd fun g' a ws => hQ g' (wcf_goG w up c a ws fA) ws a
/-- null, and sites that will not do, are thrown for -/
def rfx (L : PG) (k : Int) (X : Int → FA) (lk : FA) (x good : Int) (U : TB) : Prop := (bl x 0 = true → TS L U k X 1 lk) ∧ ((∃ s, 1 ≤ s ∧ s < 64 ∧ bl x s = true ∧ bl good s = false) → TS L U k X 5 lk)
theorem rfx_up {X : Int → FA} {lk : FA} {x good : Int} {U V : TB} (p : tle U V) (h : rfx L k X lk x good U) : rfx L k X lk x good V := ⟨fun b => TS_up p (h.1 b), fun b => TS_up p (h.2 b)⟩
theorem W_refuse {r x good : Int} (hG : gO G = true) (w : WF L) (t : tiv L (cT h L)) (hr : rch (cT h L) k) (up : ∀ U V, tle U V → P U → P V) (c : wcf h g L k M X lk d P) (hrr : (82 ≤ r ∧ r < 98) ∨ (116 ≤ r ∧ r < 144)) (ex : hv g r 4 = x)
    (f : ∀ U, tbok U → CLz L (cT h L) U k → rfx L k (cT h L 0 k) (cT h L 6 k 0) x good U) (hQ : ∀ g', wcf h g' L k M X lk d (fun U => P U ∧ rfx L k (cT h L 0 k) (cT h L 6 k 0) x good U) → wsk g g' → Q 0 g') : S_X2_refuse l G [(2002, 3), (8, r), (1, good)] g Q E := by
  have r0 : r ≠ 0 := by omega
  have rw4 : ∀ g2, wsk g g2 → hv g2 r 4 = x := fun g2 ws2 => by rw [ws2 r 4 (by omega)]; exact ex
  have b0 : l_and x 1 = 0 ↔ bl x 0 = false := by
    rw [bl_eq0 (c64_l_and _ _)]
    constructor
    · intro y
      have := y 0 (by decide) (by decide)
      rw [bl_and, bl_one (by decide)] at this
      simpa using this
    · intro y s s0 s1
      rw [bl_and, bl_one s0]
      by_cases e : s = 0
      · rw [e, y]; rfl
      · simp [e]
  have b5 : l_and (l_and x (l_xor good (-1))) (-2) = 0 ↔ ¬ ∃ s, 1 ≤ s ∧ s < 64 ∧ bl x s = true ∧ bl good s = false := by
    rw [bl_eq0 (c64_l_and _ _)]
    have m2 : ∀ s : Int, 0 ≤ s → s < 64 → bl (-2) s = !decide (s = 0) := by
      intro s s0 s1
      rw [show (-2 : Int) = l_xor 1 (-1) by decide, bl_not s1, bl_one s0]
    constructor
    · rintro y ⟨s, s1, s2, s3, s4⟩
      have := y s (by omega) s2
      rw [bl_and, bl_and, bl_not s2, m2 s (by omega) s2, s3, s4] at this
      simp at this
      omega
    · intro y s s0 s1
      rw [bl_and, bl_and, bl_not s1, m2 s s0 s1]
      by_cases e : s = 0
      · simp [e]
      · cases r1 : bl x s
        · simp
        · cases r2 : bl good s
          · exact absurd ⟨s, by omega, s1, r1, r2⟩ y
          · simp
  refine s_X2_refuse rfl fun K ki => r_X2_refuse_0 ki hG ?_
  rw [ex]
  simp only [lc_z]
  refine ⟨r0, fun y => ⟨r0, fun y2 => ?_, fun y2 => ?_⟩, fun y => ?_⟩
  · refine hQ g (wcf_P c (fun _ p => ⟨p, fun z => ?_, fun z => absurd z (b5.mp y2)⟩)) (wsk_rfl g)
    rw [b0.mp y] at z; cases z
  · have ex5 : ∃ s, 1 ≤ s ∧ s < 64 ∧ bl x s = true ∧ bl good s = false := Classical.byContradiction fun z => y2 (b5.mpr z)
    refine W_throw (s := 5) hG w t hr up c (by decide) (by decide) (by decide) (fun U oU q => (f U oU q).2 ex5) fun g' c' ws => hQ g' (wcf_P c' (fun _ p => ⟨p.1, fun z => ?_, fun _ => p.2⟩)) ws
    rw [b0.mp y] at z; cases z
  · have b1' : bl x 0 = true := by
      cases z : bl x 0
      · exact absurd (b0.mpr z) y
      · rfl
    refine W_throw (s := 1) hG w t hr up c (by decide) (by decide) (by decide) (fun U oU q => (f U oU q).1 b1') fun g2 c2 ws2 => ?_
    rw [rw4 g2 ws2]
    refine ⟨r0, fun y2 => ?_, fun y2 => ?_⟩
    · exact hQ g2 (wcf_P c2 (fun _ p => ⟨p.1, fun _ => p.2, fun z => absurd z (b5.mp y2)⟩)) ws2
    · have ex5 : ∃ s, 1 ≤ s ∧ s < 64 ∧ bl x s = true ∧ bl good s = false := Classical.byContradiction fun z => y2 (b5.mpr z)
      exact W_throw (s := 5) hG w t hr (fun U V p q => ⟨up U V p q.1, TS_up p q.2⟩) c2 (by decide) (by decide) (by decide) (fun U oU q => (f U oU q).2 ex5) fun g' c' ws => hQ g' (wcf_P c' (fun _ p => ⟨p.1.1, fun _ => p.1.2, fun _ => p.2⟩)) (wsk_tr ws2 ws)
end CE2
