/-! Part 51j: numbers in the component -/
theorem tsX_one {L : PG} {k s : Int} {X : Int → FA} {lk : FA} {U : TB} (s1 : 1 ≤ s) (s2 : s < 63) : tsX L k X (l_shl 1 s) lk U ↔ TS L U k X s lk := by
  constructor
  · intro p
    exact p s s1 (by omega) (by rw [bl_shl (by omega) (by omega) (by omega)]; simp)
  · intro p r r1 r2 b
    rw [bl_shl (by omega) (by omega) (by omega)] at b
    simp at b
    rw [b]; exact p
theorem fgd_nb {L : PG} {T : TB} {v : FA} (g : fgd L T v) : isNb v := by
  obtain ⟨x1, x2, x3, x4, -⟩ := fok_there g.1 (by rw [g.2.2.2]; decide)
  unfold c32 at x2 x3
  exact ⟨by rw [g.2.2.2]; decide, by omega, x4, by omega⟩
theorem TS_mono {L : PG} {k s : Int} {X : Int → FA} {lk : FA} : ∀ U V : TB, tle U V → TS L U k X s lk → TS L V k X s lk := fun _ _ p q => TS_up p q
section NU
variable {l : Launch} {G : JG} {h g : MH} {L : PG} {k M d : Int} {X : Int → FA} {lk : FA} {P : TB → Prop} {Q : Int → MH → Prop} {E : Nat → Int → MH → Prop}
/-- one of the machine's own sites is thrown -/
theorem W_throw {s x : Int} (hG : gO G = true) (w : WF L) (t : tiv L (cT h L)) (hr : rch (cT h L) k) (up : ∀ U V, tle U V → P U → P V) (c : wcf h g L k M X lk d P) (ex : x = l_shl 1 s) (s1 : 1 ≤ s) (s2 : s < 7)
    (f : ∀ U, tbok U → CLz L (cT h L) U k → TS L U k (cT h L 0 k) s (cT h L 6 k 0)) (hQ : ∀ g', wcf h g' L k M X lk d (fun U => P U ∧ TS L U k (cT h L 0 k) s (cT h L 6 k 0)) → wsk g g' → Q 0 g') : S_X2_hurl l G [(2002, 3), (1, x)] g Q E := by
  subst ex
  refine W_hurl hG w t hr up c (by rw [bl_shl (by omega) (by omega) (by omega)]; simp; omega) (shl_ne (by omega) (by omega)) (fgd_b1 (by omega) (by omega) (Or.inl s2)) (fun U oU q => (tsX_one s1 (by omega)).mpr (f U oU q)) fun g' c' ws => hQ g' (wcf_P c' (fun _ p => ⟨p.1, (tsX_one s1 (by omega)).mp p.2⟩)) ws
/-- a value is joined to a sink -/
theorem K_sink {i : Int} {v : FA} (w : WF L) (t : STc g L) (i0 : 0 ≤ i) (i1 : i < 8) (gd : fgd L (cT g L) v) : AdK L g (fw g (288 + i) (fjoin (fo g (288 + i)) v)) (fun U => fle (fv (alo v) (ahi v) (alb v) 0) (U 4 i 0)) (fun U => fle (fv (alo v) (ahi v) (alb v) 0) (U 4 i 0)) := by
  have nn := w.n
  unfold WFn at nn
  obtain ⟨c, qi, ub, tv, z⟩ := t
  have e : ∀ b j, b ≠ 288 + i → hv (fw g (288 + i) (fjoin (fo g (288 + i)) v)) b j = hv g b j := fun b j hb => fw_ne hb
  have f : frC g (fw g (288 + i) (fjoin (fo g (288 + i)) v)) := ⟨rfl, fun b j p _ => e b j (fun y => p (by unfold wlo; omega))⟩
  have a1 : ath v = 1 := gd.2.2.2
  obtain ⟨-, b1', b2, b3, b4, b5, -⟩ := fok_there gd.1 (by rw [a1]; decide)
  have gd' : fgd L (cT g L) (fv (alo v) (ahi v) (alb v) 0) := fgd_n gd.2.2.1.1.1 gd.2.2.1.2 b3 b1' b2 b4
  have e0 : ∀ q, inP L q → vq g (fw g (288 + i) (fjoin (fo g (288 + i)) v)) q := fun q hq => vq_of (frC_4 f q) (fun b j hb => e b j (by have := (c.2.1 q hq).2; omega))
  have eo : ∀ m, inM L m → vo g (fw g (288 + i) (fjoin (fo g (288 + i)) v)) m := fun m hm => ⟨fun j _ _ => e _ j (by unfold inM at hm; omega), fo_eq (fun j => e _ j (by unfold inM at hm; omega))⟩
  have ea : ∀ q, inP L q → va g (fw g (288 + i) (fjoin (fo g (288 + i)) v)) q := fun q _ => ⟨e _ _ (by omega), e _ _ (by omega), e _ _ (by omega), e _ _ (by omega)⟩
  have ec : ∀ a i' j, cdom L a i' j → vc g (fw g (288 + i) (fjoin (fo g (288 + i)) v)) a i' j := fun a i' j d => vc_of (frC_cad f w d) (fun k => e _ k (by have := (c.2.2.2.2.1 a i' j d).2; omega))
  have aj : ath (fjoin (fo g (288 + i)) v) = 1 := by
    unfold fjoin
    rw [if_neg (by omega)]
    split
    · exact a1
    · rfl
  have r0 : hv (fw g (288 + i) (fjoin (fo g (288 + i)) v)) (288 + i) 0 = 1 := by
    have := congrArg ath (fo_fw (h := g) (a := 288 + i) (f := fjoin (fo g (288 + i)) v))
    exact this.trans aj
  have r1 : hv (fw g (288 + i) (fjoin (fo g (288 + i)) v)) (288 + i) 1 = alo (fjoin (fo g (288 + i)) v) := congrArg alo (fo_fw (h := g) (a := 288 + i) (f := fjoin (fo g (288 + i)) v))
  have r2 : hv (fw g (288 + i) (fjoin (fo g (288 + i)) v)) (288 + i) 2 = ahi (fjoin (fo g (288 + i)) v) := congrArg ahi (fo_fw (h := g) (a := 288 + i) (f := fjoin (fo g (288 + i)) v))
  have r3 : hv (fw g (288 + i) (fjoin (fo g (288 + i)) v)) (288 + i) 3 = alb (fjoin (fo g (288 + i)) v) := congrArg alb (fo_fw (h := g) (a := 288 + i) (f := fjoin (fo g (288 + i)) v))
  refine AdK_tj w ⟨c, qi, ub, tv, z⟩ f ?_ (fun a i' j d k => e _ k (by have := (uad_ty w c d).2.2; omega)) (fun b j hb => e b j (by omega)) (Or.inl rfl) ?_ gd'
  · refine ⟨fun q hq => ?_, fun m hm => ?_, fun i' i0' i1' => ?_⟩
    · obtain ⟨x0, -, -, xs⟩ := e0 q hq
      rw [x0]
      rcases z.1 q hq with y | ⟨y, y2⟩
      · exact Or.inl y
      · exact Or.inr ⟨y, fun s s0 s1 => by rw [xs s s0 s1]; exact y2 s s0 s1⟩
    · rw [(eo m hm).1 0 (by decide) (by decide), (eo m hm).2]; exact z.2.1 m hm
    · by_cases y : i' = i
      · rw [y]; exact Or.inr r0
      · rw [e _ 0 (by omega)]; exact z.2.2 i' i0' i1'
  · funext a i' j
    unfold tj
    by_cases y : a = 4 ∧ i' = i ∧ j = 0
    · rw [if_pos y]
      obtain ⟨rfl, rfl, rfl⟩ := y
      rw [cT_4, cT_4]
      unfold tc4
      rw [iff_p ⟨i0, i1, rfl, r0⟩, r1, r2, r3]
      rcases z.2.2 i' i0 i1 with y | y
      · rw [iff_n (fun x => by have := x.2.2.2; omega), fjoin_zv rfl]
        unfold fjoin
        rw [if_neg (by omega), if_pos (show ath (fo g (288 + i')) = 0 from y)]
      · rw [iff_p ⟨i0, i1, rfl, y⟩, fjoin_fv, show l_or 0 0 = 0 by decide]
        unfold fjoin
        rw [if_neg (by omega), if_neg (show ¬ ath (fo g (288 + i')) = 0 from (by rw [show ath (fo g (288 + i')) = hv g (288 + i') 0 from rfl, y]; decide))]
        rfl
    · rw [if_neg y]
      by_cases a4 : a = 4
      · subst a4
        rw [cT_4, cT_4]
        by_cases j0 : j = 0
        · refine e_c4 (fun _ _ => fo_ne ?_) j
          intro q
          exact y ⟨rfl, by omega, j0⟩
        · unfold tc4
          rw [iff_n (fun x => j0 x.2.2.1), iff_n (fun x => j0 x.2.2.1)]
      · unfold cT
        rw [if_neg a4, if_neg a4, e_c0 w (e0 i') j, e_c1 (ec a i' j), (e_co w (eo i') j).1, e_c6 (e0 i') j, (e_co w (eo i') j).2.1, (e_co w (eo i') j).2.2.1, (e_ca (ea i') j).1, (e_ca (ea i') j).2.1, (e_ca (ea i') j).2.2, (e_co w (eo i') j).2.2.2.1, (e_co w (eo i') j).2.2.2.2]
theorem w_numbers (hG : gO G = true) (w : WF L) (t : tiv L (cT h L)) (hr : rch (cT h L) k) (u : usI h L k) (c : wcf h g L k M (cT h L 0 k) (cT h L 6 k 0) (pDp L k) (fun _ => True)) (ho : 7 ≤ pOp L k ∧ pOp L k < 15) (hQ : ∀ g', WE h g' L k → Q 0 g') : S_X2_numbers l G [(2002, 3), (0, pOp L k), (0, pX L k), (0, pY L k)] g Q E := by
  have nn := w.n
  unfold WFn at nn
  have hk := c.2.1.1
  have hk1 := hk.1
  have hk2 := hk.2
  obtain ⟨mk, ops, xr, yr, x2, x7, -, -, -, -, -, -, -, -, -, -, yz, -, -, dp, -⟩ := w.k hk.1 hk.2
  obtain ⟨-, -, -, -, -, -, -, -, -, lc8, -, -, -, -, -, -, co2, fi0, fi1, -⟩ := w.m mk.1 mk.2.1
  have fin : ∀ {g' : MH} {X' : Int → FA} {lk' : FA} {d' : Int} {P' : TB → Prop}, wcf h g' L k M X' lk' d' P' → (P' (cT g' L) → CLz L (cT h L) (cT g' L) k) → Q 0 g' := fun c f => hQ _ (WE_of w hk t hr u (AdK_w c.1 (fun _ p => f p) (fun _ _ _ q => q)) (by omega))
  have upT : ∀ U V : TB, tle U V → (fun _ : TB => True) U → (fun _ : TB => True) V := fun _ _ _ x => x
  refine s_X2_numbers rfl fun K ki => r_X2_numbers_0 ki hG ⟨fun n13 => ⟨fun n14 => ⟨fun n12 => ?_, fun e => ?_⟩, fun e => ?_⟩, fun e => ?_⟩
  · -- two numbers
    have pp : ppo L k = 2 := by unfold ppo; rw [if_neg (by omega), if_pos (by omega)]
    have pu : ppu L k = 1 := by unfold ppu; rw [if_pos (by omega)]
    refine W_take hG w c (by omega) (Or.inl ⟨by decide, by decide⟩) fun g1 c1 f1 gd1 fr1 x4 e4 => ?_
    subst e4
    refine W_take hG w c1 (by omega) (Or.inl ⟨by decide, by decide⟩) fun g2 c2 f2 gd2 fr2 x5 e5 => ?_
    subst e5
    rw [show 7 + (pDp L k - 1) = 6 + pDp L k by omega] at f2 gd2
    have f1' : fo g2 135 = cT h L 0 k (7 + pDp L k) := by rw [← f1]; exact fo_eq (fun j => fr2 _ j (by omega) (by decide) (by omega))
    have gdb : ∀ g', AdK L h g' (fun _ => True) (fun U => CLz L U U k) → fgd L (cT g' L) (cT h L 0 k (7 + pDp L k)) := fun g' a => fgd_le a.2.2.2.2.1 (tiv_slot t hr (Or.inr ⟨by omega, by omega⟩))
    have lo : hv g2 135 1 = alo (cT h L 0 k (7 + pDp L k)) := congrArg alo f1'
    have hi : hv g2 135 2 = ahi (cT h L 0 k (7 + pDp L k)) := congrArg ahi f1'
    have bt := tiv_slot (j := 7 + pDp L k) t hr (Or.inr ⟨by omega, by omega⟩)
    have at' := tiv_slot (j := 6 + pDp L k) t hr (Or.inr ⟨by omega, by omega⟩)
    rw [lo, hi]
    -- behind what may be thrown
    have rest : ∀ (g3 : MH) (P' : TB → Prop), (∀ U V, tle U V → P' U → P' V) → wcf h g3 L k M (cT h L 0 k) (cT h L 6 k 0) (pDp L k - 1 - 1) P' → fo g3 134 = cT h L 0 k (6 + pDp L k) → fo g3 135 = cT h L 0 k (7 + pDp L k) → (P' (cT g3 L) → True) → (10 ≤ pOp L k → ∀ U, P' U → ath (cT h L 0 k (7 + pDp L k)) ≠ 0 ∧ alo (cT h L 0 k (7 + pDp L k)) ≤ 0 ∧ 0 ≤ ahi (cT h L 0 k (7 + pDp L k)) → TS L U k (cT h L 0 k) 4 (cT h L 6 k 0)) →
        S_X2_reckon l G [(2002, 3), (0, pOp L k), (8, 134), (8, 135)] g3 (fun z9 h10 => ((¬ z9 = 0 → S_X2_put l G [(2002, 3), (8, 136)] h10 (fun _ h12 => S_X2_goOn l G [(2002, 3), (0, (w32 ((hv h12 3 17) + 1)))] h12 (fun _ h14 => Q 0 h14) E) E) ∧ (z9 = 0 → Q 0 h10))) E := by
      intro g3 P' upP c3 fa fb _ th
      have key : ∀ P2 : Prop, ath (rk L (pOp L k) (cT h L 0 k (6 + pDp L k)) (cT h L 0 k (7 + pDp L k))) ≠ 0 ∨ ¬ ath (rk L (pOp L k) (cT h L 0 k (6 + pDp L k)) (cT h L 0 k (7 + pDp L k))) ≠ 0 := fun _ => Classical.em _
      have cl : ∀ U, CLz L (cT h L) U k ↔ ((ath (rk L (pOp L k) (cT h L 0 k (6 + pDp L k)) (cT h L 0 k (7 + pDp L k))) ≠ 0 → GT L U k (nx L k) (ux (cT h L 0 k) (6 + pDp L k) (rk L (pOp L k) (cT h L 0 k (6 + pDp L k)) (cT h L 0 k (7 + pDp L k)))) (cT h L 6 k 0)) ∧ (10 ≤ pOp L k → ath (cT h L 0 k (7 + pDp L k)) ≠ 0 ∧ alo (cT h L 0 k (7 + pDp L k)) ≤ 0 ∧ 0 ≤ ahi (cT h L 0 k (7 + pDp L k)) → TS L U k (cT h L 0 k) 4 (cT h L 6 k 0))) := by
        intro U
        by_cases o10 : 10 ≤ pOp L k
        · rw [CL10 (by omega)]
          constructor
          · rintro ⟨y1, y2⟩; exact ⟨y1, fun _ => y2⟩
          · rintro ⟨y1, y2⟩; exact ⟨y1, y2 o10⟩
        · rw [CL7 (by omega)]
          have rt := rk_there (L := L) (op := pOp L k) (by omega) (show ath (cT h L 0 k (6 + pDp L k)) ≠ 0 by rw [at'.2.2.2]; decide) (show ath (cT h L 0 k (7 + pDp L k)) ≠ 0 by rw [bt.2.2.2]; decide)
          constructor
          · intro y; exact ⟨fun _ => y, fun y2 => absurd y2 o10⟩
          · rintro ⟨y1, -⟩; exact y1 rt
      refine c_reckon hG (wcf_st c3).1.1 (by decide) (by decide) (by rw [fa]; exact fgd_nb at') (by rw [fb]; exact fgd_nb bt) (by omega) (fun z => ⟨fun _ => ?_, fun y => absurd y (by decide)⟩) (fun z => ⟨fun y => absurd rfl y, fun _ => ?_⟩)
      · rw [fa, fb] at z ⊢
        have c4 := wcf_fw (f := 136) (v := rk L (pOp L k) (cT h L 0 k (6 + pDp L k)) (cT h L 0 k (7 + pDp L k))) w (by omega) c3
        have gr := fgd_rk (T := cT (fw g3 136 (rk L (pOp L k) (cT h L 0 k (6 + pDp L k)) (cT h L 0 k (7 + pDp L k)))) L) w at'.1 bt.1 z
        have as0 : asu (rk L (pOp L k) (cT h L 0 k (6 + pDp L k)) (cT h L 0 k (7 + pDp L k))) = 0 := by
          unfold rk rnd
          split
          · rfl
          · repeat' split
            all_goals rfl
        refine W_put (v := rk L (pOp L k) (cT h L 0 k (6 + pDp L k)) (cT h L 0 k (7 + pDp L k))) hG w c4 (by omega) (by decide) (by decide) (fo_fw0 as0) gr fun g5 c5 _ => ?_
        rw [show 8 + (pDp L k - 1 - 1) = 6 + pDp L k by omega] at c5
        exact W_next hG w t hr upP c5 (by omega) (by omega) (fun U _ q => ((cl U).mp q).1 z) fun g6 c6 _ => fin c6 (fun p => (cl _).mpr ⟨fun _ => p.2, fun y1 y2 => th y1 _ p.1 y2⟩)
      · rw [fa, fb] at z
        exact fin c3 (fun p => (cl _).mpr ⟨fun y => absurd z y, fun y1 y2 => th y1 _ p y2⟩)
    refine ⟨fun _ => ⟨by decide, fun _ => by decide⟩, fun y => ?_, fun y => ?_⟩
    · refine W_throw (s := 4) hG w t hr upT c2 (by decide) (by decide) (by decide) (fun U _ q => ((CL10 (by omega)).mp q).2 ⟨by rw [bt.2.2.2]; decide, y.2⟩) fun g3 c3 ws => ?_
      refine rest g3 _ (fun U V p q => ⟨trivial, TS_up p q.2⟩) c3 ?_ ?_ (fun _ => trivial) (fun _ U p _ => p.2)
      · rw [← f2]; exact fo_eq (fun j => ws _ j (by omega))
      · rw [← f1']; exact fo_eq (fun j => ws _ j (by omega))
    · exact rest g2 _ upT c2 f2 f1' (fun _ => trivial) (fun o10 U _ y2 => absurd ⟨o10, y2.2⟩ y)
  · -- one number
    have pp : ppo L k = 1 := by unfold ppo; simp [e]
    have pu : ppu L k = 1 := by unfold ppu; simp [e]
    refine W_take hG w c (by omega) (Or.inl ⟨by decide, by decide⟩) fun g1 c1 f1 gd1 fr1 x4 e4 => ?_
    subst e4
    have bt := tiv_slot (j := 7 + pDp L k) t hr (Or.inr ⟨by omega, by omega⟩)
    have nb := fgd_nb bt
    have lo : hv g1 134 1 = alo (cT h L 0 k (7 + pDp L k)) := congrArg alo f1
    have hi : hv g1 134 2 = ahi (cT h L 0 k (7 + pDp L k)) := congrArg ahi f1
    have lb : hv g1 134 3 = alb (cT h L 0 k (7 + pDp L k)) := congrArg alb f1
    rw [lo, hi, lb]
    unfold isNb at nb
    refine ⟨by decide, by decide, by decide, ?_⟩
    rw [w64_i (by omega) (by omega), w64_i (by omega) (by omega)]
    refine c_span hG (wcf_st c1).1.1 (by omega) ?_
    have er : rnd L (-ahi (cT h L 0 k (7 + pDp L k))) (-alo (cT h L 0 k (7 + pDp L k))) (alb (cT h L 0 k (7 + pDp L k))) = rk L 12 (cT h L 0 k (7 + pDp L k)) (cT h L 0 k (7 + pDp L k)) := by
      unfold rk
      rw [if_neg (fun y => by rcases y with y | y <;> exact nb.1 y), if_pos rfl]
    have rt := rk_there (L := L) (op := 12) (by omega) nb.1 nb.1
    rw [er]
    have c4 := wcf_fw (f := 136) (v := rk L 12 (cT h L 0 k (7 + pDp L k)) (cT h L 0 k (7 + pDp L k))) w (by omega) c1
    have as0 : asu (rk L 12 (cT h L 0 k (7 + pDp L k)) (cT h L 0 k (7 + pDp L k))) = 0 := by
      rw [← er]
      unfold rnd
      split <;> rfl
    refine W_put (v := rk L 12 (cT h L 0 k (7 + pDp L k)) (cT h L 0 k (7 + pDp L k))) hG w c4 (by omega) (by decide) (by decide) (fo_fw0 as0) (fgd_rk w bt.1 bt.1 rt) fun g5 c5 _ => ?_
    rw [show 8 + (pDp L k - 1) = 7 + pDp L k by omega] at c5
    exact W_next hG w t hr upT c5 (by omega) (by omega) (fun U _ q => (CL12 e).mp q) fun g6 c6 _ => fin c6 (fun p => (CL12 e).mpr p.2)
  · -- a sink
    have pp : ppo L k = 1 := by unfold ppo; simp [e]
    have pu : ppu L k = 0 := by unfold ppu; simp [e]
    have x8 := x7 (by omega)
    refine ⟨xr.1, by omega, W_take hG w c (by omega) (Or.inl ⟨by decide, by decide⟩) fun g1 c1 f1 gd1 fr1 => ?_⟩
    have e72 := ((wcf_st c).1.2.2.2.2.2.2.2.2.1 (pX L k) xr.1 (by omega)).2
    rw [e72]
    refine ⟨by omega, c_join hG (by decide) fun z _ _ x4 _ => ?_⟩
    have bt := tiv_slot (j := 7 + pDp L k) t hr (Or.inr ⟨by omega, by omega⟩)
    rw [f1]
    have a2 := K_sink (v := cT h L 0 k (7 + pDp L k)) w (wcf_st c1) xr.1 (show pX L k < 8 by omega) gd1
    have c2 := wcf_go w t hr upT c1 a2 (fun b j hb => fw_ne (by omega)) (fun U _ q => ((CL14 e).mp q).1 (by rw [bt.2.2.2]; decide))
    exact W_next hG w t hr (fun U V p q => ⟨trivial, fle_trans q.2 (p _ _ _)⟩) c2 (by omega) (by omega) (fun U _ q => ((CL14 e).mp q).2) fun g3 c3 _ => fin c3 (fun p => (CL14 e).mpr ⟨fun _ => p.1.2, p.2⟩)
  · -- input
    have pp : ppo L k = 0 := by unfold ppo; simp [e]
    have pu : ppu L k = 1 := by unfold ppu; simp [e]
    obtain ⟨-, -, hM, cm, h17⟩ := c.2.1
    obtain ⟨mo, -, -, -, -, -, ⟨k1, k2, k3⟩, -⟩ := cm
    have mo1 := mo.1
    have k11 := k1.1
    rw [hM, h17, k2]
    refine ⟨by omega, by omega, by omega, by omega, ?_⟩
    have kz : hv g (hv g M 10) (k - pFi L (pMo L k)) = pZ L k := by
      rw [k3 _ (by omega) (by omega)]
      show pZ L (pFi L (pMo L k) + (k - pFi L (pMo L k))) = pZ L k
      rw [show pFi L (pMo L k) + (k - pFi L (pMo L k)) = k by omega]
    rw [kz]
    have m1 : isMk L (pY L k) := by
      unfold isMk
      right; right; right; right; right; right
      exact ⟨k, hk.1, hk.2, Or.inr ⟨e, Or.inl rfl⟩⟩
    have m2 : isMk L (pZ L k) := by
      unfold isMk
      right; right; right; right; right; right
      exact ⟨k, hk.1, hk.2, Or.inr ⟨e, Or.inr rfl⟩⟩
    refine c_number hG ?_
    have c1 := wcf_fw (f := 134) (v := fv (pY L k) (pZ L k) (i_shl 1 (pX L k)) 0) w (by omega) c
    refine W_put (v := fv (pY L k) (pZ L k) (i_shl 1 (pX L k)) 0) hG w c1 (by omega) (by decide) (by decide) (fo_fw0 rfl) (fgd_n m1 m2 (yz e) (by unfold c32; omega) (by unfold c32; omega) (c32_i_shl _ _)) fun g2 c2 _ => ?_
    exact W_next hG w t hr upT c2 (by omega) (by omega) (fun U _ q => (CL13 e).mp q) fun g3 c3 _ => fin c3 (fun p => (CL13 e).mpr p.2)
end NU
