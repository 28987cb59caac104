/-! Part 52d: the work at a place, in the component -/
section WK
variable {l : Launch} {G : JG} {h g : MH} {L : PG} {k M : Int} {Q : Int → MH → Prop} {E : Nat → Int → MH → Prop}
theorem w_objects (hG : gO G = true) (w : WF L) (t : tiv L (cT h L)) (hr : rch (cT h L) k) (u : usI h L k) (s3 : ∀ i, 0 ≤ i → i < pNs L → ath (cT h L 3 i 0) ≠ 0) (c : wcf h g L k M (cT h L 0 k) (cT h L 6 k 0) (pDp L k) (fun _ => True)) (ho : 20 ≤ pOp L k ∧ pOp L k < 29) (hQ : ∀ g', WE h g' L k → Q 0 g') : S_X2_objects l G [(2002, 3), (0, pOp L k), (0, pX L k), (0, pY L k)] g Q E := by
  have nn := w.n
  unfold WFn at nn
  have hk := c.2.1.1
  have hk1 := hk.1
  have hk2 := hk.2
  obtain ⟨-, -, xr, -, -, -, -, -, -, -, xs, -⟩ := w.k hk.1 hk.2
  have xs' : pOp L k = 27 ∨ pOp L k = 28 → pX L k < 8 := fun y => by have := xs y; omega
  clear xs
  have cp := (wcf_st c).1.1
  obtain ⟨s1, s2, s4⟩ := cp.2.2.2.2.2.2.2.1
  have s11 := s1.1
  have cp1 := cp.1.1
  have e18 := c.2.1.2.1
  have ks := s4 k hk1 hk2
  refine s_X2_objects rfl fun K ki => r_X2_objects_0 ki hG ?_
  rw [e18]
  refine ⟨⟨fun e => ⟨by omega, by omega, hk1, by omega, ?_⟩, fun e => ⟨by omega, by omega, hk1, by omega, ?_⟩, fun e => ?_, fun e => ?_, fun e => ?_, fun e => ?_, fun e => ?_, fun e => ?_, trivial⟩, fun e => ⟨xr.1, xs' (by omega), ?_⟩⟩
  · rw [ks]; exact w_new hG w t hr u c e hQ
  · rw [ks]; exact w_newarr hG w t hr u c e hQ
  · exact w_length hG w t hr u c e hQ
  · exact w_elem hG w t hr u c (Or.inl e) hQ
  · exact w_elem hG w t hr u c (Or.inr e) hQ
  · exact w_field hG w t hr u c e hQ
  · exact w_setfield hG w t hr u c e hQ
  · exact w_static hG w t hr u s3 c e hQ
  · exact w_setstatic hG w t hr u c (by omega) hQ
/-- THE WORK AT A PLACE -/
theorem w_work (hG : gO G = true) (w : WF L) (hz : L 99 0 = 1) (st : STc h L) (hk : inP L k) (hr : rch (cT h L) k) (u : usI h L k) (s3 : ∀ i, 0 ≤ i → i < pNs L → ath (cT h L 3 i 0) ≠ 0) (hQ : ∀ g', WE h g' L k → Q 0 g') : S_X2_work l G [(2002, 3), (0, k)] h Q E := by
  have nn := w.n
  unfold WFn at nn
  have hk1 := hk.1
  have hk2 := hk.2
  obtain ⟨mk, ops, -, -, -, -, -, -, -, -, -, -, -, -, -, -, -, -, -, dp, -⟩ := w.k hk.1 hk.2
  have mk1 := mk.1
  have mk2 := mk.2.1
  have mk3 := mk.2.2.1
  have mk4 := mk.2.2.2
  obtain ⟨-, -, -, -, -, -, -, -, alc, lc8, -, -, -, -, -, co1, co2, fi0, fi1, -⟩ := w.m mk1 mk2
  have cp := st.1.1
  have cp1 := cp.1.1
  have ad := CP_ad cp
  obtain ⟨ms1, ms2⟩ := CP_ms cp
  obtain ⟨y1, y2, y3⟩ := cp.2.2.2.2.2.2.2.2.1
  have y11 := y1.1
  have km := y3 k hk1 hk2
  have cm := ms2 (pMo L k) mk1 mk2
  obtain ⟨ss, s5⟩ := st.1.2.1 k hk
  have tv := st.2.2.2.1
  have r1 : hv h (hv h 4 k) 0 = 1 := by
    rcases st.2.2.2.2.1 k hk with y | ⟨y, -⟩
    · exact y
    · exfalso
      apply hr
      rw [cT_6]
      unfold tc6
      rw [iff_n (fun z => by have := z.2.2; omega)]
      rfl
  generalize hM : hv h (hv h (hv h 3 0) 6) (pMo L k) = M at *
  have cm' := cm
  obtain ⟨mo, ⟨-, -, -, -, -, -, m14, -⟩, -, ⟨o1, o2, o3⟩, ⟨p1, p2, p3⟩, ⟨q1, q2, q3⟩, -, -, -, ⟨d1, d2, d3⟩, -⟩ := cm
  have mo1 := mo.1
  have o11 := o1.1
  have p11 := p1.1
  have q11 := q1.1
  have d11 := d1.1
  refine s_X2_work rfl fun K ki => r_X2_work_0 ki hG ?_
  rw [show hv h (hv h (hv h 3 0) 11) k = pMo L k from km, hM]
  refine ⟨by omega, by omega, by omega, hk1, by omega, by omega, mk1, by omega, fun h1 e1 h2 e2 => ?_⟩
  have e16 : hv h2 3 16 = M := by rw [e2, ne_k (by decide), e1, eq_a]
  have e14 : hv h2 M 14 = pFi L (pMo L k) := by rw [e2, ne_a (by omega), e1, ne_a (by omega)]; exact m14
  rw [e16, e14, w32_i (by omega) (by omega)]
  refine ⟨by omega, fun h3 e3 => ⟨hk1, by omega, ?_⟩⟩
  have f3 : ∀ b j, b ≠ 3 → hv h3 b j = hv h b j := fun b j hb => by rw [e3, ne_a hb, e2, ne_a hb, e1, ne_a hb]
  have sm3 : smC h h3 := by
    rw [e3, e2, e1]
    exact smC_tr (smC_tr (smC_set (by unfold scw; omega)) (smC_set (by unfold scw; omega))) (smC_set (by unfold scw; omega))
  have st3 := smC_ST w st sm3
  have e4 : hv h3 4 k = hv h 4 k := f3 4 k (by omega)
  rw [e4]
  have ss3 : stO h3 (hv h 4 k) := by have := (st3.1.2.1 k hk).1; rw [e4] at this; exact this
  refine c_Sbecome hG st3.1.2.2.2.1.1 ss3 (by omega) fun h5 o5 a50 a52 a53 f5 => ?_
  have sm5 : smC h3 h5 := smC_ons (by omega) o5
  have st5 := smC_ST w st3 sm5
  refine c_Sbecome hG st5.1.2.2.2.1.2.2 st5.1.2.2.2.1.1 (by decide) fun h7 o7 a70 a72 a73 f7 => ?_
  have sm7 : smC h5 h7 := smC_ons (by omega) o7
  have g3 : ∀ j, hv h7 3 j = hv h3 3 j := fun j => by rw [o7.2 3 j (by omega) (by omega), o5.2 3 j (by omega) (by omega)]
  have gM : ∀ b j, 523 ≤ b → hv h7 b j = hv h b j := fun b j hb => by rw [o7.2 b j (by omega) (by omega), o5.2 b j (by omega) (by omega)]; exact f3 b j (by omega)
  have e716 : hv h7 3 16 = M := by rw [g3, e3, ne_k (by decide)]; exact e16
  have e717 : hv h7 3 17 = k - pFi L (pMo L k) := by rw [g3, e3, eq_a]
  have sm37 := smC_tr sm3 (smC_tr sm5 sm7)
  have hn7 : ∀ a, hn h7 a = hn h a := fun a => h2_hn sm37.1 a
  rw [e716, gM M 17 (by omega), hn7, d2, e717, gM (hv h M 17) _ (by omega)]
  have kd : hv h (hv h M 17) (k - pFi L (pMo L k)) = pDp L k := by
    rw [d3 _ (by omega) (by omega)]
    show pDp L (pFi L (pMo L k) + (k - pFi L (pMo L k))) = pDp L k
    rw [show pFi L (pMo L k) + (k - pFi L (pMo L k)) = k by omega]
  rw [kd]
  refine ⟨by omega, by omega, by omega, by omega, fun h8 e8 => ?_⟩
  have sm8 : smC h7 h8 := by rw [e8]; exact smC_set (by unfold scw; omega)
  have sm := smC_tr sm37 sm8
  have b8 : ∀ b j, b ≠ 3 → hv h8 b j = hv h7 b j := fun b j hb => by rw [e8, ne_a hb]
  have e816 : hv h8 3 16 = M := by rw [e8, ne_k (by decide)]; exact e716
  have e817 : hv h8 3 17 = k - pFi L (pMo L k) := by rw [e8, ne_k (by decide)]; exact e717
  have e818 : hv h8 3 18 = k := by rw [e8, ne_k (by decide), g3, e3, ne_k (by decide), e2, eq_a]
  have hn8 : ∀ a, hn h8 a = hn h a := fun a => h2_hn sm.1 a
  have gM8 : ∀ b j, 523 ≤ b → hv h8 b j = hv h b j := fun b j hb => by rw [b8 b j (by omega)]; exact gM b j hb
  have eT := smC_ext w st.1 sm
  have row : ∀ j, rel L k j → fo h (hv h 4 k + 2 + j) = cT h L 0 k j := fun j r => (c0_rel w st.2.2.2.2 hk r).symm
  have now : ∀ j, rel L k j → fo h8 (80 + 2 + j) = cT h L 0 k j := by
    intro j r
    obtain ⟨j0, j1⟩ := rel_rng w hk1 hk2 r
    have x1 : fo h8 (80 + 2 + j) = fo h5 (80 + 2 + j) := fo_eq (fun i => by rw [b8 _ i (by omega), o7.2 _ i (by omega) (by omega)])
    have x2 : fo h3 (hv h 4 k + 2 + j) = fo h (hv h 4 k + 2 + j) := fo_eq (fun i => f3 _ i (by omega))
    rw [x1, f5 j j0 j1, x2, row j r]
  have bef : ∀ j, rel L k j → fo h8 (116 + 2 + j) = cT h L 0 k j := by
    intro j r
    obtain ⟨j0, j1⟩ := rel_rng w hk1 hk2 r
    have x1 : fo h8 (116 + 2 + j) = fo h7 (116 + 2 + j) := fo_eq (fun i => b8 _ i (by omega))
    have x2 : fo h3 (hv h 4 k + 2 + j) = fo h (hv h 4 k + 2 + j) := fo_eq (fun i => f3 _ i (by omega))
    rw [x1, f7 j j0 j1, f5 j j0 j1, x2, row j r]
  have lkk : fk (hv h (hv h 4 k) 2) (hv h (hv h 4 k) 3) = cT h L 6 k 0 := by
    rw [cT_6]
    unfold tc6
    rw [iff_p ⟨hk, rfl, r1⟩]
  have n2 : hv h8 80 2 = hv h (hv h 4 k) 2 := by rw [b8 80 2 (by omega), o7.2 80 2 (by omega) (by omega), a52, f3 _ 2 (by omega)]
  have n3 : hv h8 80 3 = hv h (hv h 4 k) 3 := by rw [b8 80 3 (by omega), o7.2 80 3 (by omega) (by omega), a53, f3 _ 3 (by omega)]
  have m2 : hv h8 116 2 = hv h (hv h 4 k) 2 := by rw [b8 116 2 (by omega), a72, a52, f3 _ 2 (by omega)]
  have m3 : hv h8 116 3 = hv h (hv h 4 k) 3 := by rw [b8 116 3 (by omega), a73, a53, f3 _ 3 (by omega)]
  have vr : ∀ j, vld L (pMo L k) (pDp L k) j → rel L k j := fun j v => v
  have cw : wcf h h8 L k M (cT h L 0 k) (cT h L 6 k 0) (pDp L k) (fun _ => True) := by
    refine ⟨AdK_w (smC_A w st sm) (fun _ _ => trivial) (fun _ _ _ _ => trivial), ⟨hk, e818, e816, frX_m (frC_X (smC_fr sm)) cm', e817⟩, ⟨bef, by rw [m2, m3]; exact lkk⟩, ⟨fun j v => now j (vr j v), by rw [n2, n3]; exact lkk, by rw [e8, eq_a], dp.1, dp.2.1⟩, fun j v => by rw [eT]; exact tiv_slot tv hr (vr j v), by rw [eT]; exact tiv_lock tv hr⟩
  rw [e816, e817, gM8 M 7 (by omega), gM8 M 8 (by omega), gM8 M 9 (by omega), hn8, hn8, hn8, o2, p2, q2, gM8 (hv h M 7) _ (by omega), gM8 (hv h M 8) _ (by omega), gM8 (hv h M 9) _ (by omega)]
  have kk : pFi L (pMo L k) + (k - pFi L (pMo L k)) = k := by omega
  have ko : hv h (hv h M 7) (k - pFi L (pMo L k)) = pOp L k := by
    rw [o3 _ (by omega) (by omega)]
    show pOp L (pFi L (pMo L k) + (k - pFi L (pMo L k))) = pOp L k
    rw [kk]
  have kx : hv h (hv h M 8) (k - pFi L (pMo L k)) = pX L k := by
    rw [p3 _ (by omega) (by omega)]
    show pX L (pFi L (pMo L k) + (k - pFi L (pMo L k))) = pX L k
    rw [kk]
  have ky : hv h (hv h M 9) (k - pFi L (pMo L k)) = pY L k := by
    rw [q3 _ (by omega) (by omega)]
    show pY L (pFi L (pMo L k) + (k - pFi L (pMo L k))) = pY L k
    rw [kk]
  rw [ko, kx, ky]
  refine ⟨by omega, by omega, by omega, by omega, fun x2 ex2 => ⟨by omega, by omega, by omega, by omega, fun x3 ex3 => ⟨by omega, by omega, by omega, by omega, fun x4 ex4 => ?_⟩⟩⟩
  subst ex2 ex3 ex4
  exact ⟨fun a7 => ⟨fun a15 => ⟨fun a20 => ⟨fun a29 => ⟨fun a34 => w_threads hG w tv hr u hz cw ⟨a34, ops.2⟩ hQ, fun b => w_calls hG w tv hr u hz cw ⟨a29, by omega⟩ hQ⟩, fun b => w_objects hG w tv hr u s3 cw ⟨a20, b⟩ hQ⟩, fun b => w_jumps hG w tv hr u cw ⟨a15, b⟩ hQ⟩, fun b => w_numbers hG w tv hr u cw ⟨a7, b⟩ hQ⟩, fun b => w_simple hG w tv hr u cw b hQ⟩
end WK
