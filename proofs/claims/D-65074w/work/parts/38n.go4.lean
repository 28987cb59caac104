/-! Part 38n: goOn: unlock, what is thrown, casts, statics and sinks that are set -/
set_option maxRecDepth 100000
theorem CL35 {L : PG} {T U : TB} {k : Int} (e : pOp L k = 35) : CLz L T U k ↔ (fle (fv 0 0 (i_shl 1 (pX L k)) 0) (U 15 (pMo L k) 0) ∧
    (bi (alb (T 6 k 0)) (pX L k) = true → GT L U k (nx L k) (T 0 k) (fk (i_and (asu (T 6 k 0)) (i_xor (i_shl 1 (pX L k)) (-1))) (i_and (alb (T 6 k 0)) (i_xor (i_shl 1 (pX L k)) (-1))))) ∧ (bi (asu (T 6 k 0)) (pX L k) = false → TS L U k (T 0 k) 6 (T 6 k 0))) := by simp [CLz, Csz, Co, Ccz, e]
theorem ishl_ne {s : Int} (h0 : 0 ≤ s) (h1 : s < 32) : i_shl 1 s ≠ 0 := by
  intro e
  have := (bi_eq0 (c32_i_shl 1 s)).mp e s h0 h1
  rw [bi_shl h0 h1 h0] at this
  simp at this
theorem i_or_ne {a b : Int} (hb : c32 b) (nz : b ≠ 0) : i_or a b ≠ 0 := by
  intro e
  apply nz
  rw [bi_eq0 hb]
  intro s s0 s1
  have := (bi_eq0 (c32_i_or a b)).mp e s s0 s1
  rw [bi_or] at this
  simp at this
  exact this.2
theorem fbi_join {a b : Int} (hb : c32 b) (nz : b ≠ 0) : fjoin (fbi a) (fv 0 0 b 0) = fbi (i_or a b) := by
  have n2 := i_or_ne (a := a) hb nz
  by_cases z : a = 0
  · have e0 : i_or a b = b := bi_ext (c32_i_or _ _) hb (fun s _ _ => by rw [bi_or, z, bi_zero]; simp)
    unfold fbi
    rw [if_pos z, if_neg n2, fjoin_zv rfl, e0]
  · unfold fbi
    rw [if_neg z, if_neg n2, fjoin_fv]
    rfl
/-- what a method unlocks is noted -/
theorem unl_T {h h' : MH} {L : PG} {m b : Int} (hm : inM L m) (hb : c32 b) (nz : b ≠ 0) (e : ∀ j, hv h' 498 j = if j = m then i_or (hv h 498 m) b else hv h 498 j) (hh : ∀ a j, 460 ≤ a → a ≤ 497 → hv h' a j = hv h a j) : tT h' L = tj (tT h L) 15 m 0 (fv 0 0 b 0) := by
  have e460 := fun j => hh 460 j (by omega) (by omega)
  funext x i c
  unfold tj
  by_cases a15 : x = 15
  · subst a15
    show t15 h' L i c = if _ then fjoin (t15 h L i c) _ else t15 h L i c
    unfold t15
    by_cases y : i = m ∧ c = 0
    · obtain ⟨rfl, rfl⟩ := y
      rw [if_pos ⟨rfl, rfl, rfl⟩, iff_p ⟨hm, rfl⟩, iff_p ⟨hm, rfl⟩, e, if_pos rfl, fbi_join hb nz]
    · rw [if_neg (fun z => y z.2)]
      refine iff_c Iff.rfl (fun z => ?_)
      rw [e, if_neg (fun z2 => y ⟨z2, z.2⟩)]
  · rw [if_neg (fun z => a15 z.1)]
    simp only [tT, if_neg a15, t0, t1, t2, t3, t4, t5, t6, t7, t8, t9, t10, t11, t14, row]
    simp only [hh 460 _ (by decide) (by decide), hh 461 _ (by decide) (by decide), hh 462 _ (by decide) (by decide), hh 463 _ (by decide) (by decide), hh 464 _ (by decide) (by decide), hh 465 _ (by decide) (by decide), hh 466 _ (by decide) (by decide), hh 467 _ (by decide) (by decide), hh 468 _ (by decide) (by decide), hh 469 _ (by decide) (by decide), hh 472 _ (by decide) (by decide), hh 473 _ (by decide) (by decide), hh 474 _ (by decide) (by decide), hh 475 _ (by decide) (by decide), hh 476 _ (by decide) (by decide), hh 477 _ (by decide) (by decide), hh 478 _ (by decide) (by decide), hh 479 _ (by decide) (by decide), hh 480 _ (by decide) (by decide), hh 481 _ (by decide) (by decide), hh 482 _ (by decide) (by decide), hh 483 _ (by decide) (by decide), hh 484 _ (by decide) (by decide), hh 485 _ (by decide) (by decide), hh 486 _ (by decide) (by decide), hh 487 _ (by decide) (by decide), hh 488 _ (by decide) (by decide), hh 489 _ (by decide) (by decide), hh 490 _ (by decide) (by decide), hh 491 _ (by decide) (by decide), hh 492 _ (by decide) (by decide), hh 493 _ (by decide) (by decide), hh 494 _ (by decide) (by decide), hh 495 _ (by decide) (by decide), hh 496 _ (by decide) (by decide), hh 497 _ (by decide) (by decide)]
/-- one step: what is unlocked is noted, flagged; b may be nothing -/
theorem Adv_unl {h h' : MH} {L : PG} {m b : Int} (t : tiv L (tT h L)) (hm : inM L m) (m40 : m < 40) (hb : c32 b) (c498 : c32 (hv h 498 m)) {fl : Int} (fl0 : fl = 0 → ∀ x : Int, bi b x = true → bi (hv h 498 m) x = true) (fl1 : (∀ x : Int, bi b x = true → bi (hv h 498 m) x = true) → fl = 0)
    (eh : ∀ a j, hv h' a j = if a = 498 ∧ j = m then i_or (hv h 498 m) b else if a = 396 ∧ j = 14 then l_or (hv h 396 14) (if fl = 0 then 0 else l_shl 1 m) else hv h a j) (e2 : h'.2 = h.2) :
    Adv L h h' (fun U => ∀ x : Int, bi b x = true → fle (fv 0 0 b 0) (U 15 m 0)) (fun U => ∀ x : Int, bi b x = true → fle (fv 0 0 b 0) (U 15 m 0)) := by
  have fr : frA h h' := ⟨e2, fun a j p1 p2 => by rw [eh, if_neg (by omega), if_neg (by omega)]⟩
  have e498 : ∀ j, hv h' 498 j = if j = m then i_or (hv h 498 m) b else hv h 498 j := by
    intro j; rw [eh]
    by_cases z : j = m
    · simp [z]
    · simp [z]
  have hh : ∀ a j, 460 ≤ a → a ≤ 497 → hv h' a j = hv h a j := fun a j p1 p2 => by rw [eh, if_neg (by omega), if_neg (by omega)]
  have e14 : hv h' 396 14 = l_or (hv h 396 14) (if fl = 0 then 0 else l_shl 1 m) := by rw [eh]; simp
  have oth : ∀ a j, a ≠ 498 → ¬ (a = 396 ∧ j = 14) → hv h' a j = hv h a j := fun a j p1 p2 => by rw [eh, if_neg (by omega), if_neg p2]
  have cg : cgt h L → cgt h' L := cgt_of (fun j => oth _ _ (by omega) (by omega)) (fun j => oth _ _ (by omega) (by omega)) (fun a j ha => oth _ _ (by unfold za at ha; omega) (by unfold za at ha; omega))
  -- no table changes when nothing new is unlocked
  have nog : (∀ x : Int, bi b x = true → bi (hv h 498 m) x = true) → tT h' L = tT h L := by
    intro z
    refine tT_eq (fun a j p1 p2 => ?_)
    by_cases y : a = 498 ∧ j = m
    · rw [eh, if_pos y, y.1, y.2, i_or_sub c498 z]
    · rw [eh, if_neg y, if_neg (by omega)]
  have sto : qui h h' L := qui_14 (fun j => oth _ _ (by omega) (by omega)) (fun j => oth _ _ (by omega) (by omega)) (oth _ _ (by omega) (by omega)) (oth _ _ (by omega) (by omega)) (fun eT s _ => by
    rw [e14]
    refine bl_or0 (fl1 (fun x y => ?_))
    have := congrArg alb (congrFun (congrFun (congrFun eT 15) m) 0)
    rw [rw_15a hm, rw_15a hm, e498, if_pos rfl] at this
    rw [← this, bi_or, y]; simp)
  by_cases nz : b = 0
  · have eT := nog (fun x y => by rw [nz, bi_zero] at y; cases y)
    refine ⟨fr, ⟨fun q _ => ⟨fun y => by rw [oth _ _ (by omega) (by omega)]; exact y, Or.inr ⟨fun _ => by rw [eT], by rw [eT]⟩⟩, fun q _ => ⟨fun y => by rw [oth _ _ (by omega) (by omega)]; exact y, Or.inr ⟨fun _ => by rw [eT], by rw [eT]⟩⟩, fun q _ _ => ⟨fun y => by rw [oth _ _ (by omega) (by omega)]; exact y, Or.inr (by rw [eT])⟩, fun q _ => ⟨fun y => by rw [e14, bl_or, y]; rfl, Or.inr fun _ _ => by rw [eT]⟩, sto⟩, by rw [eT]; exact t, by rw [eT]; exact tle_rfl _, (fun x y => by rw [nz, bi_zero] at y; cases y), fun U _ p _ => by rw [eT]; exact p, cg, fun j => oth _ _ (by omega) (by omega)⟩
  · have eT := unl_T hm hb nz e498 hh
    have le := tj_le.mp (tle_rfl (tj (tT h L) 15 m 0 (fv 0 0 b 0)))
    have ee : ∀ a i c, a ≠ 15 → tT h' L a i c = tT h L a i c := fun a i c ha => by rw [eT]; unfold tj; rw [if_neg (fun y => ha y.1)]
    have em : ∀ a i c, i ≠ m → tT h' L a i c = tT h L a i c := fun a i c hi => by rw [eT]; unfold tj; rw [if_neg (fun y => hi y.2.1)]
    have ex : ∃ x : Int, bi b x = true := by
      apply Classical.byContradiction
      intro z
      apply nz
      rw [bi_eq0 hb]
      intro s _ _
      cases r : bi b s
      · rfl
      · exact absurd ⟨s, r⟩ z
    have gv : fgd L (tT h L) (fv 0 0 b 0) := fgd_n (mk_0 L) (mk_0 L) (Int.le_refl _) c32_0 c32_0 hb
    refine ⟨fr, ⟨fun q _ => ⟨fun y => by rw [oth _ _ (by omega) (by omega)]; exact y, Or.inr ⟨fun _ => ee _ _ _ (by omega), ee _ _ _ (by omega)⟩⟩, fun q _ => ⟨fun y => by rw [oth _ _ (by omega) (by omega)]; exact y, Or.inr ⟨fun _ => ee _ _ _ (by omega), ee _ _ _ (by omega)⟩⟩, fun q _ _ => ⟨fun y => by rw [oth _ _ (by omega) (by omega)]; exact y, Or.inr (ee _ _ _ (by omega))⟩, fun m' hm' => ⟨fun y => by rw [e14, bl_or, y]; rfl, ?_⟩, sto⟩, by rw [eT]; exact tiv_tj t (by omega) gv, by rw [eT]; exact le.1, fun _ _ => by rw [eT]; exact le.2, fun U _ p z => by rw [eT]; exact tj_le.mpr ⟨p, z _ ex.choose_spec⟩, cg, fun j => oth _ _ (by omega) (by omega)⟩
    by_cases mm : m' = m
    · by_cases z0 : fl = 0
      · right; rw [nog (fl0 z0)]; exact fun _ _ => rfl
      · left; rw [e14, if_neg z0, bl_or, bl_shl hm.1 (by omega) hm'.1, mm]; simp
    · right; exact fun a _ => em a m' 0 mm
theorem g_unlock {l : Launch} {G : JG} (hG : gO G = true) {h h2 : MH} {L : PG} {k : Int} (q : wrk h L k h2) (e : pOp L k = 35) (c498 : c32 (hv h2 498 (pMo L k))) {Q : Int → MH → Prop} {E : Nat → Int → MH → Prop} (hQ : ∀ h', AdvC L k h h' (fun U => CLz L (tT h L) U k) → Q 0 h') :
      (∀ h259, h259 = hset h2 396 14 (l_or (hv h2 396 14) (if (i_and (i_shr (hv h2 498 (pMo L k)) (pX L k)) 1) = 0 then (l_shl 1 (pMo L k)) else 0 : Int)) →
      (0 ≤ pMo L k) ∧ (pMo L k < 40) ∧ (0 ≤ pMo L k) ∧ (pMo L k < 40) ∧
      (∀ h260, h260 = hset h259 498 (pMo L k) (i_or (hv h259 498 (pMo L k)) (i_shl 1 (pX L k))) →
      ((¬ (i_and (i_shr (hv h260 396 63) (pX L k)) 1) = 1 →
        (0 ≤ k) ∧ (k < 1500) ∧
        ((¬ (i_and (i_shr (hv h260 465 k) (pX L k)) 1) = 0 → Q 0 h260) ∧
        ((i_and (i_shr (hv h260 465 k) (pX L k)) 1) = 0 → S_X9_toss l G [(2009, 396), (0, k), (0, 6)] h260 (fun _ h262 => Q 0 h262) E))) ∧
      ((i_and (i_shr (hv h260 396 63) (pX L k)) 1) = 1 →
        (∀ h263, h263 = hset h260 396 62 (i_and (hv h260 396 62) (i_xor (i_shl 1 (pX L k)) (-1))) →
        (∀ h264, h264 = hset h263 396 63 (i_and (hv h263 396 63) (i_xor (i_shl 1 (pX L k)) (-1))) →
        S_X9_flowOn l G [(2009, 396), (0, k)] h264 (fun _ h266 =>
        (0 ≤ k) ∧ (k < 1500) ∧
        ((¬ (i_and (i_shr (hv h266 465 k) (pX L k)) 1) = 0 → Q 0 h266) ∧
        ((i_and (i_shr (hv h266 465 k) (pX L k)) 1) = 0 → S_X9_toss l G [(2009, 396), (0, k), (0, 6)] h266 (fun _ h268 => Q 0 h268) E))) E))))))  := by
  have q' := q
  obtain ⟨tf, w, mk, t, k0, k1, hr, s2, c2⟩ := q'
  have nn := w.n
  unfold WFn at nn
  obtain ⟨mo, -, xr, yr, -, x7, -, -, -, -, -, -, -, -, -, -, -, -, -, dp, -⟩ := w.k k0 k1
  have x7' := x7 (by omega)
  have p0 : ppo L k = 0 := by unfold ppo; simp [e]
  have p1 : ppu L k = 0 := by unfold ppu; simp [e]
  have T2 : tT h2 L = tT h L := q.t2
  have e62 : hv h2 396 62 = asu (tT h L 6 k 0) := congrArg asu c2.2.1
  have e63 : hv h2 396 63 = alb (tT h L 6 k 0) := congrArg alb c2.2.1
  have e6 : ∀ {g : MH}, hv g 460 k = 1 → hv g 465 k = asu (tT g L 6 k 0) := by
    intro g hg
    show _ = asu (t6 g L k 0)
    unfold t6
    rw [iff_p ⟨⟨k0, k1⟩, rfl, hg⟩]; rfl
  have last : ∀ {g : MH} {P : TB → Prop}, AdvC L k h g P → (∀ U V, tle U V → P U → P V) → (∀ h', AdvC L k h h' (fun U => P U ∧ (bi (asu (tT h L 6 k 0)) (pX L k) = false → TS L U k (tT h L 0 k) 6 (tT h L 6 k 0))) → Q 0 h') →
      ((¬ (i_and (i_shr (hv g 465 k) (pX L k)) 1) = 0 → Q 0 g) ∧ ((i_and (i_shr (hv g 465 k) (pX L k)) 1) = 0 → S_X9_toss l G [(2009, 396), (0, k), (0, 6)] g (fun _ h258 => Q 0 h258) E)) := by
    intro g P a up hq
    have le := a.2.2.2.1
    have rgt := ath_le (le 6 k 0) q.r
    have rg := (rch_iff ⟨k0, k1⟩).mp rgt
    rw [e6 rg, i_bit (by omega) (by omega)]
    refine ⟨fun z => hq g (AdvC_w a (fun _ p => ⟨p, fun y => ?_⟩)), fun z => ?_⟩
    · have zb : bi (asu (tT g L 6 k 0)) (pX L k) = true := bt2 z
      rw [fle_asu (le 6 k 0) q.r _ zb] at y; cases y
    · have zb : bi (asu (tT g L 6 k 0)) (pX L k) = false := bf1 z
      refine t_toss hG (frA_TF a.1 tf) w a.2.2.1 k0 k1 rg (by omega) (by omega) fun h' b => ?_
      have b' : AdvC L k g h' (fun U => TS L U k (tT g L 0 k) 6 (tT g L 6 k 0)) := Adv_w b (fun _ p => p) (fun U oU p cz => ((CL35 e).mp cz).2.2 (by
        cases r : bi (asu (U 6 k 0)) (pX L k)
        · rfl
        · rw [fle_asu (p 6 k 0) rgt _ r] at zb; cases zb))
      exact hq h' (AdvC_w (AdvC_tr a b' up) (fun _ p => ⟨p.1, fun _ => TS_le (fun j => le _ _ _) (le _ _ _) (tle_rfl _) p.2⟩))
  intro h259 e259
  refine ⟨mo.1, by omega, mo.1, by omega, ?_⟩
  intro h260 e260
  -- what is unlocked
  have au := Adv_unl (h := h2) (h' := h260) (L := L) (m := pMo L k) (b := i_shl 1 (pX L k)) (by rw [T2]; exact t) ⟨mo.1, mo.2.1⟩ (by omega) (c32_i_shl _ _) c498
    (fl := if (i_and (i_shr (hv h2 498 (pMo L k)) (pX L k)) 1) = 0 then 1 else 0) (fun z x y => by
      rw [i_bit (by omega) (by omega)] at z
      have zb : bi (hv h2 498 (pMo L k)) (pX L k) = true := by
        cases r : bi (hv h2 498 (pMo L k)) (pX L k)
        · rw [r] at z; simp at z
        · rfl
      by_cases x0 : 0 ≤ x
      · rw [bi_shl (by omega) (by omega) x0] at y; simp at y; rw [y]; exact zb
      · rw [bi_neg (by omega), bi_shl (by omega) (by omega) (by omega)] at y
        simp at y
        rw [bi_neg (by omega), y]; exact zb)
    (fun z => by
      have zb := z (pX L k) (by rw [bi_shl (by omega) (by omega) (by omega)]; simp)
      rw [i_bit (by omega) (by omega), zb]; rfl)
    (fun a j => by
      rw [e260, hv_set, e259, hv_set, hv_set]
      simp) (by rw [e260, e259]; rfl)
  have hx : bi (i_shl 1 (pX L k)) (pX L k) = true := by rw [bi_shl (by omega) (by omega) (by omega)]; simp
  have a1 : AdvC L k h h260 (fun U => fle (fv 0 0 (i_shl 1 (pX L k)) 0) (U 15 (pMo L k) 0)) := by
    have b : AdvC L k h2 h260 (fun U => fle (fv 0 0 (i_shl 1 (pX L k)) 0) (U 15 (pMo L k) 0)) := Adv_w au (fun _ p => p _ hx) (fun U oU p cz x _ => ((CL35 e).mp cz).1)
    exact AdvC_w (AdvC_tr (AdvC_same s2 t) b up_t) (fun _ p => p.2)
  have up1 : ∀ U V : TB, tle U V → fle (fv 0 0 (i_shl 1 (pX L k)) 0) (U 15 (pMo L k) 0) → fle (fv 0 0 (i_shl 1 (pX L k)) 0) (V 15 (pMo L k) 0) := fun U V p y => fle_trans y (p _ _ _)
  have c60 : cur L (pMo L k) h260 (tT h L 0 k) (tT h L 6 k 0) (pDp L k) := by
    refine ⟨fun j hj => ?_, ?_, ?_⟩
    · have o4 : ∀ a j' : Int, a ≠ 396 → a ≠ 498 → hv h260 a j' = hv h2 a j' := fun a j' ha hb => by rw [e260, ne_a hb, e259, ne_a ha]
      rw [← c2.1 j hj]
      unfold cX
      rw [o4 499 j (by decide) (by decide), o4 500 j (by decide) (by decide), o4 501 j (by decide) (by decide), o4 502 j (by decide) (by decide)]
    · have o5 : ∀ j' : Int, j' ≠ 14 → hv h260 396 j' = hv h2 396 j' := fun j' ha => by rw [e260, ne_a (show (396 : Int) ≠ 498 by decide), e259, ne_k ha]
      rw [← c2.2.1]
      unfold lkc_
      rw [o5 62 (by decide), o5 63 (by decide)]
    · rw [e260, ne_a (show (396 : Int) ≠ 498 by decide), e259, ne_k (show (61 : Int) ≠ 14 by decide)]; exact c2.2.2
  have f63 : hv h260 396 63 = alb (tT h L 6 k 0) := congrArg alb c60.2.1
  have f62 : hv h260 396 62 = asu (tT h L 6 k 0) := congrArg asu c60.2.1
  rw [f63, i_bit (by omega) (by omega)]
  refine ⟨fun z => ⟨k0, by omega, ?_⟩, fun z => ?_⟩
  · refine last a1 up1 (fun h' b => hQ h' (AdvC_w b (fun _ p => (CL35 e).mpr ⟨p.1, fun y => ?_, p.2⟩)))
    rw [y] at z; simp at z
  · have zb : bi (alb (tT h L 6 k 0)) (pX L k) = true := bt1 z
    intro h263 e263 h264 e264
    have s64 : same h260 h264 := by rw [e264, e263]; exact same_tr (same_set (by omega)) (same_set (by omega))
    have a2 : AdvC L k h h264 (fun U => fle (fv 0 0 (i_shl 1 (pX L k)) 0) (U 15 (pMo L k) 0)) := AdvC_w (AdvC_tr a1 (AdvC_same s64 a1.2.2.1) up1) (fun _ p => p.1)
    have c64' : cur L (pMo L k) h264 (tT h L 0 k) (fk (i_and (asu (tT h L 6 k 0)) (i_xor (i_shl 1 (pX L k)) (-1))) (i_and (alb (tT h L 6 k 0)) (i_xor (i_shl 1 (pX L k)) (-1)))) (pDp L k) := by
      refine ⟨fun j hj => ?_, ?_, ?_⟩
      · have o4 : ∀ a j' : Int, a ≠ 396 → hv h264 a j' = hv h260 a j' := fun a j' ha => by rw [e264, ne_a ha, e263, ne_a ha]
        rw [← c60.1 j hj]
        unfold cX
        rw [o4 499 j (by decide), o4 500 j (by decide), o4 501 j (by decide), o4 502 j (by decide)]
      · have v62 : hv h264 396 62 = i_and (asu (tT h L 6 k 0)) (i_xor (i_shl 1 (pX L k)) (-1)) := by
          rw [e264, ne_k (show (62 : Int) ≠ 63 by decide), e263, eq_a, f62]
        have v63 : hv h264 396 63 = i_and (alb (tT h L 6 k 0)) (i_xor (i_shl 1 (pX L k)) (-1)) := by
          rw [e264, eq_a, e263, ne_k (show (63 : Int) ≠ 62 by decide), f63]
        show fk (hv h264 396 62) (hv h264 396 63) = _
        rw [v62, v63]
      · rw [e264, ne_k (show (61 : Int) ≠ 63 by decide), e263, ne_k (show (61 : Int) ≠ 62 by decide)]; exact c60.2.2
    refine w_flowOn hG q a2 up1 (by omega) (by omega) (by omega) c64' (by omega) (fun j hj => fgd_le a2.2.2.2.1 (q.sl hj)) (fgd_fk (c32_i_and _ _) (su8_and ((t.2.2.1 6 k 0).1.2)) (c32_i_and _ _)) (fun U oU p cz => ?_) (fun h' a _ => ⟨k0, by omega, ?_⟩)
    · exact ((CL35 e).mp (CL_dn t q.r (tle_trans a2.2.2.2.1 p) cz)).2.1 zb
    · refine last a (fun U V p y => ⟨up1 U V p y.1, GT_up p y.2⟩) (fun h'' b => hQ h'' (AdvC_w b (fun _ p => (CL35 e).mpr ⟨p.1.1, fun _ => p.1.2, p.2⟩)))
theorem and1 {x : Int} : l_and x 1 = 0 ↔ bl x 0 = false := by
  constructor
  · intro z
    have := (bl_eq0 (c64_l_and x 1)).mp z 0 (by omega) (by omega)
    rw [bl_and, bl_one (by omega)] at this
    simpa using this
  · intro z
    rw [bl_eq0 (c64_l_and x 1)]
    intro s s0 s1
    rw [bl_and, bl_one s0]
    by_cases e : s = 0
    · rw [e, z]; rfl
    · simp [e]
theorem andn2 {x g : Int} : l_and (l_and x (l_xor g (-1))) (-2) = 0 ↔ ∀ s, 1 ≤ s → s < 64 → bl x s = true → bl g s = true := by
  rw [bl_eq0 (c64_l_and _ _)]
  constructor
  · intro z s s0 s1 y
    have := z s (by omega) s1
    rw [bl_and, bl_andn, bl_m2 (by omega) s1, y] at this
    have ne : decide (s ≠ 0) = true := by simp; omega
    rw [ne] at this
    simpa using this
  · intro z s s0 s1
    rw [bl_and, bl_andn, bl_m2 s0 s1]
    by_cases e : s = 0
    · simp [e]
    · cases r : bl x s
      · simp
      · rw [z s (by omega) s1 r]; simp
theorem CL32 {L : PG} {T U : TB} {k : Int} (e : pOp L k = 32) : CLz L T U k ↔ ∀ s, sb (T 0 k (7 + pDp L k)) s → (s = 0 → TS L U k (T 0 k) 1 (T 6 k 0)) ∧ (s ≠ 0 → TS L U k (T 0 k) (if isOf L s 1 = true then s else 5) (T 6 k 0)) := by simp [CLz, Csz, Co, Ccz, e]
theorem t6_row {h : MH} {L : PG} {k : Int} (hk : inP L k) (hr : hv h 460 k = 1) : tT h L 6 k 0 = fk (hv h 465 k) (hv h 466 k) := by
  show t6 h L k 0 = _
  unfold t6
  rw [iff_p ⟨hk, rfl, hr⟩]
theorem g_throw {l : Launch} {G : JG} (hG : gO G = true) {h h2 : MH} {L : PG} {k : Int} (q : wrk h L k h2) (e : pOp L k = 32) {Q : Int → MH → Prop} {E : Nat → Int → MH → Prop} (hQ : ∀ h', AdvC L k h h' (fun U => CLz L (tT h L) U k) → Q 0 h') :
      S_X9_pull_2 l G [(2009, 396)] h2 (fun _ h218 =>
      (∀ x22 : Int, x22 = (hv h218 396 67) →
      S_X9_of l G [(2009, 396), (1, x22), (0, 1)] h218 (fun z220 h221 =>
      (∀ x24 : Int, x24 = z220 →
      (((lc (l_and x22 1) 0) = 0 →
        (((lc (l_and (l_and x22 (l_xor x24 (-1))) (-2)) 0) = 0 →
          (((lc x24 0) = 0 → Q 0 h221) ∧
          (¬ (lc x24 0) = 0 → (0 ≤ k) ∧ (k < 1500) ∧ (0 ≤ k) ∧ (k < 1500) ∧
            S_X9_toss_2 l G [(2009, 396), (0, k), (1, x24), (0, (hv h221 465 k)), (0, (hv h221 466 k))] h221 (fun _ h224 => Q 0 h224) E))) ∧
        (¬ (lc (l_and (l_and x22 (l_xor x24 (-1))) (-2)) 0) = 0 →
          S_X9_toss l G [(2009, 396), (0, k), (0, 5)] h221 (fun _ h226 =>
          (((lc x24 0) = 0 → Q 0 h226) ∧
          (¬ (lc x24 0) = 0 → (0 ≤ k) ∧ (k < 1500) ∧ (0 ≤ k) ∧ (k < 1500) ∧
            S_X9_toss_2 l G [(2009, 396), (0, k), (1, x24), (0, (hv h226 465 k)), (0, (hv h226 466 k))] h226 (fun _ h228 => Q 0 h228) E))) E))) ∧
      (¬ (lc (l_and x22 1) 0) = 0 →
        S_X9_toss l G [(2009, 396), (0, k), (0, 1)] h221 (fun _ h230 =>
        (((lc (l_and (l_and x22 (l_xor x24 (-1))) (-2)) 0) = 0 →
          (((lc x24 0) = 0 → Q 0 h230) ∧
          (¬ (lc x24 0) = 0 → (0 ≤ k) ∧ (k < 1500) ∧ (0 ≤ k) ∧ (k < 1500) ∧
            S_X9_toss_2 l G [(2009, 396), (0, k), (1, x24), (0, (hv h230 465 k)), (0, (hv h230 466 k))] h230 (fun _ h232 => Q 0 h232) E))) ∧
        (¬ (lc (l_and (l_and x22 (l_xor x24 (-1))) (-2)) 0) = 0 →
          S_X9_toss l G [(2009, 396), (0, k), (0, 5)] h230 (fun _ h234 =>
          (((lc x24 0) = 0 → Q 0 h234) ∧
          (¬ (lc x24 0) = 0 → (0 ≤ k) ∧ (k < 1500) ∧ (0 ≤ k) ∧ (k < 1500) ∧
            S_X9_toss_2 l G [(2009, 396), (0, k), (1, x24), (0, (hv h234 465 k)), (0, (hv h234 466 k))] h234 (fun _ h236 => Q 0 h236) E))) E))) E)))) E)) E := by
  have q' := q
  obtain ⟨tf, w, mk, t, k0, k1, hr, s2, c2⟩ := q'
  have nn := w.n
  unfold WFn at nn
  obtain ⟨mo, -, xr, yr, -, -, -, -, -, -, -, -, -, -, -, -, -, -, -, dp, -⟩ := w.k k0 k1
  have p0 : ppo L k = 1 := by unfold ppo; simp [e]
  refine t_pull hG c2 (by omega) (by omega) fun g s c p _ => ?_
  intro x22 e22
  have ex : x22 = ast (tT h L 0 k (7 + pDp L k)) := by rw [e22, ← p]; rfl
  have sk := tiv_sok t w 0 k (7 + pDp L k)
  have sg := same_tr s2 s
  refine t_of hG (frA_TF sg.1 tf) w (by rw [ex]; exact sk) ?_
  intro good fl x24 e24
  subst e24
  have bg : ∀ i, 0 ≤ i → bl x24 i = (decide (1 ≤ i ∧ i < 63) && bl x22 i && isOf L i 1) := fl.2
  have sbx : ∀ i, 0 ≤ i → bl x22 i = true → sb (tT h L 0 k (7 + pDp L k)) i := fun i i0 y => by
    rw [ex] at y
    have := sk.2 i i0 y
    exact ⟨i0, by omega, y⟩
  -- the last one, from any point
  have last : ∀ {g : MH} {P : TB → Prop}, AdvC L k h g P → (∀ U V, tle U V → P U → P V) → (∀ h', AdvC L k h h' (fun U => P U ∧ ∀ i, 0 ≤ i → bl x24 i = true → TS L U k (tT h L 0 k) i (tT h L 6 k 0)) → Q 0 h') →
      (((lc x24 0) = 0 → Q 0 g) ∧ (¬ (lc x24 0) = 0 → (0 ≤ k) ∧ (k < 1500) ∧ (0 ≤ k) ∧ (k < 1500) ∧ S_X9_toss_2 l G [(2009, 396), (0, k), (1, x24), (0, (hv g 465 k)), (0, (hv g 466 k))] g (fun _ h224 => Q 0 h224) E)) := by
    intro g P a up hq
    have le := a.2.2.2.1
    have rg := (rch_iff ⟨k0, k1⟩).mp (ath_le (le 6 k 0) q.r)
    have r6 := t6_row (L := L) ⟨k0, k1⟩ rg
    refine ⟨fun z => hq g (AdvC_w a (fun _ p => ⟨p, fun i i0 y => ?_⟩)), fun z => ⟨k0, by omega, k0, by omega, ?_⟩⟩
    · rw [lc_eq] at z
      rw [z, bl_zero] at y; cases y
    · have o6 := a.2.2.1.1 6 k 0
      have t6 := fok_there o6 (ath_le (le 6 k 0) q.r)
      rw [r6] at t6
      refine t_toss2 (su := hv g 465 k) (pe := hv g 466 k) hG (frA_TF a.1 tf) w a.2.2.1 k0 k1 rg fl.1 (fun i i0 y => ?_) t6.2.2.2.2.2.2 (by have := (a.2.2.1.2.2.1 6 k 0).1.2; rw [r6] at this; exact this) t6.2.2.2.2.1 fun h' b _ => ?_
      · rw [bg i i0] at y
        simp at y
        have sx := sbx i i0 y.1.2
        refine ⟨y.1.1.1, sk.2 i i0 sx.2.2, mkd_le le (t.2.1 0 k (7 + pDp L k) i i0 sx.2.2)⟩
      · rw [← r6] at b
        have b' : AdvC L k g h' (fun U => ∀ i, 0 ≤ i → bl x24 i = true → TS L U k (tT g L 0 k) i (tT g L 6 k 0)) := Adv_w b (fun _ p => p) (fun U oU p cz i i0 y => by
          rw [bg i i0] at y
          simp at y
          have sx := sbx i i0 y.1.2
          have := ((CL32 e).mp cz i (sb_le (t.1 _ _ _) (tle_trans le p 0 k (7 + pDp L k)) sx)).2 (by omega)
          rw [if_pos y.2] at this
          exact TS_le (fun _ => fle_rfl _) (p _ _ _) (tle_rfl _) this)
        exact hq h' (AdvC_w (AdvC_tr a b' up) (fun _ p => ⟨p.1, fun i i0 y => TS_le (fun j => le _ _ _) (le _ _ _) (tle_rfl _) (p.2 i i0 y)⟩))
  refine opt_toss hG q (AdvC_same (k := k) sg t) up_t (lc (l_and x22 1) 0) 1 (by omega) (by omega) (fun z U oU pU cz => ?_) (cont := fun g => (((lc (l_and (l_and x22 (l_xor x24 (-1))) (-2)) 0) = 0 → (((lc x24 0) = 0 → Q 0 g) ∧ (¬ (lc x24 0) = 0 → (0 ≤ k) ∧ (k < 1500) ∧ (0 ≤ k) ∧ (k < 1500) ∧ S_X9_toss_2 l G [(2009, 396), (0, k), (1, x24), (0, (hv g 465 k)), (0, (hv g 466 k))] g (fun _ h224 => Q 0 h224) E))) ∧
        (¬ (lc (l_and (l_and x22 (l_xor x24 (-1))) (-2)) 0) = 0 → S_X9_toss l G [(2009, 396), (0, k), (0, 5)] g (fun _ h226 => (((lc x24 0) = 0 → Q 0 h226) ∧ (¬ (lc x24 0) = 0 → (0 ≤ k) ∧ (k < 1500) ∧ (0 ≤ k) ∧ (k < 1500) ∧ S_X9_toss_2 l G [(2009, 396), (0, k), (1, x24), (0, (hv h226 465 k)), (0, (hv h226 466 k))] h226 (fun _ h228 => Q 0 h228) E))) E))) (fun g1 a1 => ?_)
  · rw [lc_eq, and1] at z
    have zb : bl x22 0 = true := by simpa using z
    exact ((CL32 e).mp cz 0 (sb_le (t.1 _ _ _) (pU 0 k (7 + pDp L k)) (sbx 0 (by omega) zb))).1 rfl
  · refine opt_toss hG q a1 (fun U V p y => ⟨trivial, fun z => TS_up p (y.2 z)⟩) (lc (l_and (l_and x22 (l_xor x24 (-1))) (-2)) 0) 5 (by omega) (by omega) (fun z U oU pU cz => ?_) (cont := fun h226 => (((lc x24 0) = 0 → Q 0 h226) ∧ (¬ (lc x24 0) = 0 → (0 ≤ k) ∧ (k < 1500) ∧ (0 ≤ k) ∧ (k < 1500) ∧ S_X9_toss_2 l G [(2009, 396), (0, k), (1, x24), (0, (hv h226 465 k)), (0, (hv h226 466 k))] h226 (fun _ h228 => Q 0 h228) E))) (fun g2 a2 => ?_)
    · rw [lc_eq, andn2] at z
      apply Classical.byContradiction
      intro no
      apply z
      intro i i0 i1 y
      have sx := sbx i (by omega) y
      have := ((CL32 e).mp cz i (sb_le (t.1 _ _ _) (pU 0 k (7 + pDp L k)) sx)).2 (by omega)
      cases r : isOf L i 1
      · rw [r] at this
        exact absurd this no
      · rw [bg i (by omega), y, r]
        have := sx.2.1
        simp
        omega
    · refine last a2 (fun U V p y => ⟨⟨trivial, fun z => TS_up p (y.1.2 z)⟩, fun z => TS_up p (y.2 z)⟩) (fun h' b => hQ h' (AdvC_w b (fun _ p => (CL32 e).mpr (fun i si => ⟨fun z => ?_, fun z => ?_⟩))))
      · refine p.1.1.2 (fun z2 => ?_)
        rw [lc_eq, and1] at z2
        have y3 := si.2.2
        rw [z, ← ex, z2] at y3; cases y3
      · have yi : bl x22 i = true := by rw [ex]; exact si.2.2
        cases r : isOf L i 1
        · simp
          refine p.1.2 (fun z2 => ?_)
          rw [lc_eq, andn2] at z2
          have := z2 i (by have := si.1; omega) (by have := si.2.1; omega) yi
          rw [bg i si.1, r] at this
          simp at this
        · simp
          refine p.2 i si.1 ?_
          rw [bg i si.1, yi, r]
          have := si.1
          have := si.2.1
          simp
          omega
