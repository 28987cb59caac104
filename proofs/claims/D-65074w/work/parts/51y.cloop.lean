/-! Part 51y: the loop over methods that are called, in the component -/
/-- what holds after the methods below n -/
def CLI (h : MH) (L : PG) (k M D : Int) (rc : Int → Int) (P0 : TB → Prop) (n : Int) (g : MH) (f : Int → Int → FA) (v5 v6 v7 v8 : Int) : Prop :=
  wcf h g L k M (cT h L 0 k) (cT h L 6 k 0) D (fun U => P0 U ∧ ∀ c, 0 ≤ c → c < n → CD L (cT h L) k c → (∀ s, cld L (cT h L 0 k) k s c → fle (fs 0) (U 10 k c) ∧ Flow L U (pFi L c) (entz L (cT h L 0 k) k s c) (cT h L 6 k 0)) ∧ tsX L k (cT h L 0 k) (ast (f 14 c)) (lke (RTb (cT h L) f) k c) U) ∧
  RIx (cT h L) (cT g L) f ∧ RGx L (cT h L) k n g f ∧ cGx L (cT h L) k f n v5 v6 v7 v8 ∧ (∀ c, (f 15 c = fbi (alb (f 15 c)) ∧ c32 (alb (f 15 c))) ∧ su8 (asu (f 7 c))) ∧
  (0 < pGi L (lik L k) → lub (fo g 136) (cIx L (cT h L) k f n) (fun c => f 5 c) ∧ (fo g 136 = fz ∨ fgd L (cT g L) (fo g 136))) ∧
  (∀ j, 0 ≤ j → j < pAr L (lik L k) → fo g (139 + j) = cT h L 0 k (frs L k + j)) ∧ (∀ c, hv g 143 c = rc c)
theorem CLI_P {h : MH} {L : PG} {k n : Int} {P0 : TB → Prop} {f : Int → Int → FA} (upP : ∀ U V, tle U V → P0 U → P0 V) : ∀ U V : TB, tle U V → (P0 U ∧ ∀ c, 0 ≤ c → c < n → CD L (cT h L) k c → (∀ s, cld L (cT h L 0 k) k s c → fle (fs 0) (U 10 k c) ∧ Flow L U (pFi L c) (entz L (cT h L 0 k) k s c) (cT h L 6 k 0)) ∧ tsX L k (cT h L 0 k) (ast (f 14 c)) (lke (RTb (cT h L) f) k c) U) →
    (P0 V ∧ ∀ c, 0 ≤ c → c < n → CD L (cT h L) k c → (∀ s, cld L (cT h L 0 k) k s c → fle (fs 0) (V 10 k c) ∧ Flow L V (pFi L c) (entz L (cT h L 0 k) k s c) (cT h L 6 k 0)) ∧ tsX L k (cT h L 0 k) (ast (f 14 c)) (lke (RTb (cT h L) f) k c) V) :=
  fun U V p q => ⟨upP U V p q.1, fun c c0 c1 cd => ⟨fun s hs => ⟨fle_trans ((q.2 c c0 c1 cd).1 s hs).1 (p _ _ _), Flow_le (fun _ => fle_rfl _) (fle_rfl _) p ((q.2 c c0 c1 cd).1 s hs).2⟩, tsX_up p (q.2 c c0 c1 cd).2⟩⟩
theorem lke_f {T : TB} {f f' : Int → Int → FA} {k c : Int} (e8 : f' 8 c = f 8 c) (e15 : f' 15 c = f 15 c) : lke (RTb T f') k c = lke (RTb T f) k c := by
  unfold lke
  rw [RTb_o T f' c (by unfold oca; omega), RTb_o T f' c (by unfold oca; omega), RTb_o T f c (by unfold oca; omega), RTb_o T f c (by unfold oca; omega), RTb_6, RTb_6, e8, e15]
theorem lub_eq {v : FA} {I J : Int → Prop} {f g : Int → FA} (h : lub v I f) (hJ : ∀ s, J s ↔ I s) (e : ∀ s, I s → g s = f s) : lub v J g := fun u => by
  rw [h u]
  exact ⟨fun p s hs => by rw [e s ((hJ s).mp hs)]; exact p s ((hJ s).mp hs), fun p s hs => by rw [← e s hs]; exact p s ((hJ s).mpr hs)⟩
section CLL
variable {l : Launch} {G : JG} {h : MH} {L : PG} {k M D own : Int} {rc : Int → Int} {P0 : TB → Prop} {Q : Int → MH → Prop} {E : Nat → Int → MH → Prop}
/-- behind the loop -/
theorem w_call_end (hG : gO G = true) (w : WF L) (t : tiv L (cT h L)) (hr : rch (cT h L) k) (u : usI h L k) (e : pOp L k = 29 ∨ pOp L k = 30) (hD : D = pDp L k - pAr L (lik L k)) (upP : ∀ U V, tle U V → P0 U → P0 V)
    (p0 : ∀ U, P0 U → (pOp L k = 30 → ∀ s, sb (cT h L 0 k (frs L k)) s → (s = 0 → TS L U k (cT h L 0 k) 1 (cT h L 6 k 0)) ∧ (s ≠ 0 → sent L s (pX L k) < 0 → TS L U k (cT h L 0 k) 5 (cT h L 6 k 0))))
    (hQ : ∀ g', WE h g' L k → Q 0 g') {M1 v2 v5 v6 v7 v8 : Int} {g : MH} {f : Int → Int → FA} (cm1 : CPm g L (lik L k) M1) (ci : CLI h L k M D rc P0 (pNm L) g f v5 v6 v7 v8) {h0 : MH} {K : JC} (ki : KI K l G yX2_call cX2_call 12 none [] 9 276 700 Q E h0) :
    JW K 74 [(2002, 3), (18, M1), (1, v2), (5000, 0), (9, 144 + 3 * pMo L k), (0, v5), (0, v6), (0, v7), (0, v8), (0, pNm L), (5000, 0), (5000, 0)] [] g := by
  have nn := w.n
  unfold WFn at nn
  obtain ⟨cg, ri, rg, gx, f15', mad, arg, rcv⟩ := ci
  have f15 : ∀ c, f 15 c = fbi (alb (f 15 c)) ∧ c32 (alb (f 15 c)) := fun c => (f15' c).1
  have hk := cg.2.1.1
  have hk1 := hk.1
  have hk2 := hk.2
  obtain ⟨mk, -, -, -, -, -, -, -, -, -, -, -, -, -, -, -, -, -, -, dp, -⟩ := w.k hk.1 hk.2
  have hm : inM L (pMo L k) := ⟨mk.1, mk.2.1⟩
  have p1 : ppo L k = pAr L (lik L k) := by
    rcases e with e | e
    · unfold ppo; simp [e]
    · unfold ppo; simp [e]
  have p2 : ppu L k = if 0 < pGi L (lik L k) then 1 else 0 := by
    rcases e with e | e <;> (unfold ppu; simp [e])
  have nm0 : 0 ≤ pNm L := by omega
  have dD : 0 ≤ D ∧ D ≤ 8 := cg.2.2.2.1.2.2.2
  have fr : frs L k = 8 + D := by rw [frs_lik, hD]; omega
  have cdm : ∀ c, CD L (cT h L) k c → inM L c ∧ pGi L c = pGi L (lik L k) := fun c ⟨s, hs⟩ => by
    have := cld_ok w t hk1 hk2 (by omega) hs
    exact ⟨this.1, this.2.2.1⟩
  have cp := (wcf_st cg).1.1
  have ms := CP_ms cp
  have ad := CP_ad cp
  have leh : tle (cT h L) (cT g L) := cg.1.2.2.2.2.1
  -- what a closed table asks
  have ask1 : ∀ V U, tle (cT g L) V → tle V U → CLz L U U k → CLz L (RTb (cT h L) f) U k := fun V U p q c => RTb_dn t hr leh ri (tle_trans p q) c
  -- the work ends well
  have endW : ∀ g5 {P5 : TB → Prop}, AdK L h g5 P5 (fun U => CLz L U U k) → wkdC g g5 L → CLz L (RTb (cT h L) f) (cT g5 L) k → Q 0 g5 := by
    intro g5 P5 a5 wd cl
    have rg5 := RGx_up hk (fun c cd => (cdm c cd).1) wd rg
    refine hQ g5 (WE_cl w hk t hr u a5 (by omega) (fun aw z0 z6 => ?_))
    have ic : ∀ a i j, inC L (RTb (cT h L) f) k a i j → oca a ∧ j = 0 ∧ CD L (cT h L) k i := by
      intro a i j y
      unfold inC at y
      rcases y with ⟨-, -, -, y⟩ | ⟨-, -, y⟩ | y | ⟨y1, y2, y3, s, y4⟩
      · rcases y with y | y | y <;> omega
      · rcases y with y | y <;> omega
      · omega
      · rw [RTb_0] at y4
        exact ⟨y1, y3, s, y4⟩
    have e0 : cT g5 L 0 k = RTb (cT h L) f 0 k := by rw [RTb_0]; exact z0
    have e6 : cT g5 L 6 k 0 = RTb (cT h L) f 6 k 0 := by rw [RTb_6]; exact z6
    have ei : ∀ a i j, inC L (RTb (cT h L) f) k a i j → cT g5 L a i j = RTb (cT h L) f a i j := by
      intro a i j y
      obtain ⟨y1, y2, y3⟩ := ic a i j y
      have im := (cdm i y3).1
      rw [y2, RTb_o _ _ i y1]
      exact (rg5 i im.1 im.2 y3).2.resolve_left aw a y1
    refine ⟨CL_eqC e0 e6 ei cl, fun a i j y => ?_⟩
    obtain ⟨y1, y2, y3⟩ := ic a i j (inC_eq e0 ei y)
    have im := (cdm i y3).1
    exact ⟨Or.inr ⟨y1, im, y2⟩, by rw [uad_o y1]; exact (rg5 i im.1 im.2 y3).1⟩
  -- all but what goes on
  have most : ∀ U, (P0 U ∧ ∀ c, 0 ≤ c → c < pNm L → CD L (cT h L) k c → (∀ s, cld L (cT h L 0 k) k s c → fle (fs 0) (U 10 k c) ∧ Flow L U (pFi L c) (entz L (cT h L 0 k) k s c) (cT h L 6 k 0)) ∧ tsX L k (cT h L 0 k) (ast (f 14 c)) (lke (RTb (cT h L) f) k c) U) → fle (fbi v6) (U 15 (pMo L k) 0) →
      (∀ c, cIx L (cT h L) k f (pNm L) c → GT L U k (nx L k) (if 0 < pGi L (lik L k) then ux (cT h L 0 k) (frs L k) (f 5 c) else cT h L 0 k) (lkr L (RTb (cT h L) f) k c)) → CLz L (RTb (cT h L) f) U k := by
    intro U p un gt
    rw [CL29 e, RTb_0, RTb_6]
    refine ⟨fun s c hs => ?_, p0 U p.1⟩
    have cd : CD L (cT h L) k c := ⟨s, hs⟩
    obtain ⟨im, gi⟩ := cdm c cd
    obtain ⟨q1, q2⟩ := p.2 c im.1 im.2 cd
    refine ⟨(q1 s hs).1, (q1 s hs).2, ?_, fun s' hs' => ?_, fun y => ?_⟩
    · rw [RTb_o _ _ c (by unfold oca; omega)]
      exact (unl_all gx f15).mp un c im.1 im.2 cd
    · rw [RTb_o _ _ c (by unfold oca; omega)] at hs'
      refine q2 s' ?_ (by have := hs'.2.1; omega) hs'.2.2
      apply Classical.byContradiction
      intro y
      have z : s' = 0 := by have := hs'.1; omega
      have b0 : bl (ast (cT g L 14 c 0)) 0 = false := ((wcf_st cg).2.2.2.1.2.2.2.2.1 c).2
      have := (ri c).1 14 (by unfold oca; omega)
      have q := sb_le this.1 this.2.2 hs'
      rw [z] at q
      rw [q.2.2] at b0
      cases b0
    · rw [RTb_o _ _ c (by unfold oca; omega)] at y
      have q := gt c ⟨im.1, im.2, cd, y⟩
      rw [gi]
      by_cases z : 0 < pGi L (lik L k)
      · rw [if_pos z] at q ⊢
        rw [RTb_o _ _ c (by unfold oca; omega)]
        exact q
      · rw [if_neg z] at q ⊢
        exact q
  refine r_X2_call_74 ki hG ⟨by have := cp.1.1; omega, by omega, fun _ => ?_, fun y => by rw [ms.1] at y; omega⟩
  -- what is unlocked
  refine K_unlock hG w (wcf_st cg) hm gx.2.2.2.2.1 fun g2 a2 ws2 => ?_
  have c2 := wcf_goG w (CLI_P upP) cg a2 ws2 (fun U oU p q => (unl_all gx f15).mpr (fun c c0 c1 cd => by
    obtain ⟨s, hs⟩ := cd
    have := (((CL29 e).mp (ask1 _ U (tle_rfl _) p q)).1 s c (by rw [RTb_0]; exact hs)).2.2.1
    rw [RTb_o _ _ c (by unfold oca; omega)] at this
    exact this))
  have up2 : ∀ U V : TB, tle U V → ((P0 U ∧ ∀ c, 0 ≤ c → c < pNm L → CD L (cT h L) k c → (∀ s, cld L (cT h L 0 k) k s c → fle (fs 0) (U 10 k c) ∧ Flow L U (pFi L c) (entz L (cT h L 0 k) k s c) (cT h L 6 k 0)) ∧ tsX L k (cT h L 0 k) (ast (f 14 c)) (lke (RTb (cT h L) f) k c) U) ∧ fle (fbi v6) (U 15 (pMo L k) 0)) → ((P0 V ∧ ∀ c, 0 ≤ c → c < pNm L → CD L (cT h L) k c → (∀ s, cld L (cT h L 0 k) k s c → fle (fs 0) (V 10 k c) ∧ Flow L V (pFi L c) (entz L (cT h L 0 k) k s c) (cT h L 6 k 0)) ∧ tsX L k (cT h L 0 k) (ast (f 14 c)) (lke (RTb (cT h L) f) k c) V) ∧ fle (fbi v6) (V 15 (pMo L k) 0)) :=
    fun U V p q => ⟨CLI_P upP U V p q.1, fle_trans q.2 (p _ _ _)⟩
  have wd2 : wkdC g g2 L := a2.2.2.1
  have le2 : tle (cT g L) (cT g2 L) := a2.2.2.2.2.1
  have b2 : hv g2 116 2 = asu (cT h L 6 k 0) := congrArg asu c2.2.2.1.2
  have cm2 := frX_m (frC_X a2.1) cm1
  have M11 := cm1.1.1
  refine ⟨fun y h3 e3 h4 e4 => ⟨by omega, ?_⟩, fun y => ?_⟩
  · -- something is given back
    have lbk := lub_lk nm0 gx y
    have ne := gx.1.mp y
    have s7 : su8 v7 := by
      intro x hx
      obtain ⟨c, hc⟩ := ne
      cases q : bi v7 x
      · rfl
      · by_cases x32 : x < 32
        · have q2 := (gx.2.2.1 x x32).mp q c hc
          rw [(f15' c).2 x hx] at q2; cases q2
        · rw [bi_hi (by omega)] at q; cases q
    have gk := tiv_lock t hr
    have su' : su8 (i_or v7 (i_and (asu (cT h L 6 k 0)) (i_xor v6 (-1)))) := by
      intro x hx
      rw [bi_or, s7 x hx, bi_and, gk.2.2.1.1.2 x hx]; rfl
    have c4 := wcf_lk (su := i_or v7 (i_and (asu (cT h L 6 k 0)) (i_xor v6 (-1)))) (pe := v8) w c2 (fgd_fk (c32_i_or _ _) su' gx.2.2.2.2.2.2)
    rw [b2] at e3
    rw [← e3, ← e4] at c4
    have sm4 : smC g2 h4 := by
      rw [e4, e3]
      exact smC_tr (smC_set (by unfold scw; omega)) (smC_set (by unfold scw; omega))
    have eT4 : cT h4 L = cT g2 L := smC_ext w (wcf_st c2).1 sm4
    have wd4 : wkdC g h4 L := wkdC_tr wd2 (smC_wkd w (wcf_st c2).1 sm4)
    have le4 : tle (cT g L) (cT h4 L) := by rw [eT4]; exact le2
    have h80 : ∀ b j, b ≠ 80 → hv h4 b j = hv g2 b j := fun b j hb => by rw [e4, ne_a hb, e3, ne_a hb]
    have g4 : hv h4 M1 4 = pGi L (lik L k) := by rw [h80 M1 4 (by omega)]; exact cm2.2.1.2.2.2.2.1
    have f136 : fo h4 136 = fo g 136 := (fo_eq (fun j => h80 136 j (by decide))).trans (fo_eq (fun j => ws2 _ j (by omega)))
    have askG : ∀ U, tbok U → tle (cT h4 L) U → CLz L U U k → ∀ c, cIx L (cT h L) k f (pNm L) c → GT L U k (nx L k) (if 0 < pGi L (lik L k) then ux (cT h L 0 k) (frs L k) (f 5 c) else cT h L 0 k) (lkr L (RTb (cT h L) f) k c) := by
      intro U oU p q c hc
      obtain ⟨s, hs⟩ := hc.2.2.1
      have := (((CL29 e).mp (ask1 _ U le4 p q)).1 s c (by rw [RTb_0]; exact hs)).2.2.2.2 (by rw [RTb_o _ _ c (by unfold oca; omega)]; exact hc.2.2.2)
      rw [RTb_0, (cdm c hc.2.2.1).2, RTb_o _ _ c (by unfold oca; omega)] at this
      exact this
    rw [g4]
    refine ⟨fun gi => ?_, fun gi => ?_⟩
    · refine W_nextG hG w up2 c4 (by omega) (by rw [p2, if_neg (by omega)]; omega) (fun U oU p q => (GT_lub1 lbk ne).mpr (fun c hc => ?_)) fun g5 c5 ws5 wk5 le5 => endW g5 c5.1 (wkdC_tr wd4 wk5) (most _ c5.1.2.2.2.2.2.1.1.1 c5.1.2.2.2.2.2.1.1.2 (fun c hc => ?_))
      · have := askG U oU p q c hc
        rw [if_neg (by omega)] at this
        exact this
      · rw [if_neg (by omega)]
        exact (GT_lub1 lbk ne).mp c5.1.2.2.2.2.2.1.2 c hc
    · obtain ⟨lbv, gdv⟩ := mad gi
      have gdv' : fgd L (cT g L) (fo g 136) := by
        rcases gdv with z | z
        · obtain ⟨c, hc⟩ := ne
          have := (lbv (fo g 136)).mp (fle_rfl _) c hc hc.2.2.2
          exact absurd (congrArg ath z) this.1
        · exact z
      have d8 : D < 8 := by
        have q := dp.2.2.2
        rw [p1, p2, if_pos gi] at q
        omega
      refine W_put (v := fo g 136) hG w c4 d8 (by decide) (by decide) f136 (fgd_le le4 gdv') fun g6 c6 fr6 => ?_
      have sm6 : smC h4 g6 := sm_put (by omega) ((c6.1.1.1).trans (c4.1.1.1).symm) fr6
      have eT6 : cT g6 L = cT h4 L := smC_ext w (wcf_st c4).1 sm6
      have wd6 : wkdC g g6 L := wkdC_tr wd4 (smC_wkd w (wcf_st c4).1 sm6)
      rw [← fr] at c6
      refine W_nextG hG w up2 c6 (by omega) (by rw [p2, if_pos gi]; omega) (fun U oU p q => (GT_lub2 lbv lbk ne).mpr (fun c hc => ?_)) fun g5 c5 ws5 wk5 le5 => endW g5 c5.1 (wkdC_tr wd6 wk5) (most _ c5.1.2.2.2.2.2.1.1.1 c5.1.2.2.2.2.2.1.1.2 (fun c hc => ?_))
      · have := askG U oU (by rw [← eT6]; exact p) q c hc
        rw [if_pos gi] at this
        exact this
      · rw [if_pos gi]
        exact (GT_lub2 lbv lbk ne).mp c5.1.2.2.2.2.2.1.2 c hc
  · have p := c2.1.2.2.2.2.2.1
    exact endW g2 c2.1 wd2 (most _ p.1 p.2 (fun c hc => absurd (gx.1.mpr ⟨c, hc⟩) (by simpa using y)))
end CLL
