/-! Part 38q: goOn: new objects, arrays -/
set_option maxRecDepth 100000
theorem CL20 {L : PG} {T U : TB} {k : Int} (e : pOp L k = 20) : CLz L T U k ↔ ((∀ f, 0 ≤ f → f < pFc L (pX L k) → fle (f1st (pFk L (pX L k) f)) (U 1 (pSi L k) f)) ∧ GT L U k (nx L k) (ux (T 0 k) (8 + pDp L k) (b1 (pSi L k))) (T 6 k 0)) := by simp [CLz, Csz, Co, Ccz, e]
theorem CL21 {L : PG} {T U : TB} {k : Int} (e : pOp L k = 21) : CLz L T U k ↔ (ath (T 0 k (7 + pDp L k)) ≠ 0 → (0 ≤ ahi (T 0 k (7 + pDp L k)) ∧ alo (T 0 k (7 + pDp L k)) ≤ 100 → fle (f1st (pX L k)) (U 1 (pSi L k) 0) ∧ fle (fv (max 0 (alo (T 0 k (7 + pDp L k)))) (min 100 (ahi (T 0 k (7 + pDp L k)))) 0 0) (U 2 (pSi L k) 0) ∧ GT L U k (nx L k) (ux (T 0 k) (7 + pDp L k) (b1 (pSi L k))) (T 6 k 0)) ∧
    (alo (T 0 k (7 + pDp L k)) < 0 ∨ 100 < ahi (T 0 k (7 + pDp L k)) → TS L U k (T 0 k) 3 (T 6 k 0))) := by simp [CLz, Csz, Co, Ccz, e]
theorem g_new {l : Launch} {G : JG} (hG : gO G = true) {h h2 : MH} {L : PG} {k : Int} (q : wrk h L k h2) (cg : cgt h L) (e : pOp L k = 20) {Q : Int → MH → Prop} {E : Nat → Int → MH → Prop} (hQ : ∀ h', AdvC L k h h' (fun U => CLz L (tT h L) U k) → Q 0 h') :
      S_X9_makeSite l G [(2009, 396), (0, pSi L k)] h2 (fun _ h178 =>
      ((hv h178 396 3) ≠ 0) ∧ (0 ≤ k) ∧ (k < 1500) ∧
      S_X9_lay_2 l G [(2009, 396), (0, 0), (0, 0), (0, 0), (1, (l_shl 1 (hv h178 ((hv h178 396 3) + 25) k)))] h178 (fun _ h180 =>
      S_X9_flowOn l G [(2009, 396), (0, k)] h180 (fun _ h182 => Q 0 h182) E) E) E := by
  have q' := q
  obtain ⟨tf, w, mk, t, k0, k1, hr, s2, c2⟩ := q'
  have nn := w.n
  unfold WFn at nn
  obtain ⟨mo, -, xr, yr, -, -, -, -, -, -, -, -, -, -, -, -, -, -, si, dp, -⟩ := w.k k0 k1
  have si' := si (by omega)
  have hs : inS L (pSi L k) := ⟨si'.1, si'.2.1⟩
  have sc : pSc L (pSi L k) = pX L k := by rw [si'.2.2, if_pos e]
  have p0 : ppo L k = 0 := by unfold ppo; simp [e]
  have p1 : ppu L k = 1 := by unfold ppu; simp [e]
  have nf : nfs L (pSi L k) = pFc L (pX L k) := by unfold nfs; rw [sc, if_neg (by omega)]
  have kn : ∀ f, knd L (pSi L k) f = pFk L (pX L k) f := fun f => by unfold knd; rw [sc, if_neg (by omega)]
  have z2 : zi h2 := zi_of (fun a j ha => s2.2.1 a j (by unfold za at ha; omega) (by unfold za at ha; omega)) cg.2
  refine t_makeSite hG (frA_TF s2.1 tf) w (by rw [q.t2]; exact t) z2 hs fun g a ws md => ?_
  have tg := frA_TF a.1 (frA_TF s2.1 tf)
  refine ⟨tg.ne, k0, by omega, ?_⟩
  rw [tg.si]
  have a1 : AdvC L k h g (fun U => ∀ f, 0 ≤ f → f < pFc L (pX L k) → fle (f1st (pFk L (pX L k) f)) (U 1 (pSi L k) f)) := by
    have b : AdvC L k h2 g (fun U => ∀ f, 0 ≤ f → f < pFc L (pX L k) → fle (f1st (pFk L (pX L k) f)) (U 1 (pSi L k) f)) := Adv_w a (fun _ p f f0 f1 => by rw [← kn]; exact p f f0 (by rw [nf]; exact f1)) (fun U oU p cz f f0 f1 => by
      rw [q.t2] at p
      rw [kn]; exact ((CL20 e).mp cz).1 f f0 (by rw [← nf]; exact f1))
    exact AdvC_w (AdvC_tr (AdvC_same s2 t) b up_t) (fun _ p => p.2)
  have up1 : ∀ U V : TB, tle U V → (∀ f, 0 ≤ f → f < pFc L (pX L k) → fle (f1st (pFk L (pX L k) f)) (U 1 (pSi L k) f)) → (∀ f, 0 ≤ f → f < pFc L (pX L k) → fle (f1st (pFk L (pX L k) f)) (V 1 (pSi L k) f)) := fun U V p y f f0 f1 => fle_trans (y f f0 f1) (p _ _ _)
  have cg' := wsm'_cur ws c2
  refine t_lay2 hG cg' dp.1 (by omega) fun g1 s1 c1 => ?_
  have a2 : AdvC L k h g1 (fun U => ∀ f, 0 ≤ f → f < pFc L (pX L k) → fle (f1st (pFk L (pX L k) f)) (U 1 (pSi L k) f)) := AdvC_w (AdvC_tr a1 (AdvC_same s1 a1.2.2.1) up1) (fun _ p => p.1)
  have md' : mkd L (tT g1 L) (pSi L k) := by
    refine Or.inr ⟨hs, fun f f0 f1 => ?_, fun z => by omega⟩
    have := a2.2.2.2.2.1 f f0 (by rw [← nf]; exact f1)
    exact ath_le this (by rw [(fgd_f1 L (tT h L) _).2.2.2]; decide)
  refine w_flowOn hG q a2 up1 (by omega) (by omega) (by omega) c1 (by omega) (gX_ux (fun j hj ne => fgd_le a2.2.2.2.1 (q.sl (by unfold vld at hj; unfold rel; omega))) (fgd_b1 (by omega) (by omega) md')) (fgd_le a2.2.2.2.1 q.lk) (fun U oU p cz => ?_) (fun h' b _ => hQ h' (AdvC_w b (fun _ p => (CL20 e).mpr ⟨p.1, p.2⟩)))
  exact ((CL20 e).mp (CL_dn t q.r (tle_trans a2.2.2.2.1 p) cz)).2
theorem len_T {h h' : MH} {L : PG} {x : Int} {u : FA} (hx : inS L x) (e479 : ∀ j, hv h' 479 j = if j = x then 1 else hv h 479 j) (hu : fv (hv h' 477 x) (hv h' 478 x) 0 0 = fjoin (tT h L 2 x 0) u) (e47 : ∀ a j, 477 ≤ a → a ≤ 478 → j ≠ x → hv h' a j = hv h a j)
    (hh : ∀ a j, 460 ≤ a → a ≤ 498 → ¬ (477 ≤ a ∧ a ≤ 479) → hv h' a j = hv h a j) : tT h' L = tj (tT h L) 2 x 0 u := by
  funext y i c
  unfold tj
  by_cases a2 : y = 2
  · subst a2
    show t2 h' L i c = if _ then fjoin (t2 h L i c) _ else t2 h L i c
    by_cases z : i = x ∧ c = 0
    · obtain ⟨rfl, rfl⟩ := z
      rw [if_pos ⟨rfl, rfl, rfl⟩]
      have e1 : fjoin (t2 h L i 0) u = fv (hv h' 477 i) (hv h' 478 i) 0 0 := hu.symm
      rw [e1]
      unfold t2
      rw [iff_p ⟨hx, rfl, by rw [e479, if_pos rfl]⟩]
    · rw [if_neg (fun w => z w.2)]
      unfold t2
      refine iff_c ?_ (fun w => ?_)
      · constructor
        · intro w; rw [e479, if_neg (fun w2 => z ⟨w2, w.2.1⟩)] at w; exact w
        · intro w; rw [e479, if_neg (fun w2 => z ⟨w2, w.2.1⟩)]; exact w
      · have ne : i ≠ x := fun w2 => z ⟨w2, w.2.1⟩
        rw [e47 477 i (by omega) (by omega) ne, e47 478 i (by omega) (by omega) ne]
  · rw [if_neg (fun w => a2 w.1)]
    simp only [tT, if_neg a2, t0, t1, t3, t4, t5, t6, t7, t8, t9, t10, t11, t14, t15, row]
    simp only [hh 460 _ (by decide) (by decide) (by decide), hh 461 _ (by decide) (by decide) (by decide), hh 462 _ (by decide) (by decide) (by decide), hh 463 _ (by decide) (by decide) (by decide), hh 464 _ (by decide) (by decide) (by decide), hh 465 _ (by decide) (by decide) (by decide), hh 466 _ (by decide) (by decide) (by decide), hh 467 _ (by decide) (by decide) (by decide), hh 468 _ (by decide) (by decide) (by decide), hh 469 _ (by decide) (by decide) (by decide), hh 472 _ (by decide) (by decide) (by decide), hh 473 _ (by decide) (by decide) (by decide), hh 474 _ (by decide) (by decide) (by decide), hh 475 _ (by decide) (by decide) (by decide), hh 476 _ (by decide) (by decide) (by decide), hh 480 _ (by decide) (by decide) (by decide), hh 481 _ (by decide) (by decide) (by decide), hh 482 _ (by decide) (by decide) (by decide), hh 483 _ (by decide) (by decide) (by decide), hh 484 _ (by decide) (by decide) (by decide), hh 485 _ (by decide) (by decide) (by decide), hh 486 _ (by decide) (by decide) (by decide), hh 487 _ (by decide) (by decide) (by decide), hh 488 _ (by decide) (by decide) (by decide), hh 489 _ (by decide) (by decide) (by decide), hh 490 _ (by decide) (by decide) (by decide), hh 491 _ (by decide) (by decide) (by decide), hh 492 _ (by decide) (by decide) (by decide), hh 493 _ (by decide) (by decide) (by decide), hh 494 _ (by decide) (by decide) (by decide), hh 495 _ (by decide) (by decide) (by decide), hh 496 _ (by decide) (by decide) (by decide), hh 497 _ (by decide) (by decide) (by decide), hh 498 _ (by decide) (by decide) (by decide)]
theorem t_array {l : Launch} {G : JG} (hG : gO G = true) {h h2 : MH} {L : PG} {k : Int} (q : wrk h L k h2) (cg : cgt h L) (e : pOp L k = 21) {Q : Int → MH → Prop} {E : Nat → Int → MH → Prop} (hQ : ∀ h', AdvC L k h h' (fun U => CLz L (tT h L) U k) → Q 0 h') :
    S_X9_array l G [(2009, 396), (0, k)] h2 (fun _ h184 => Q 0 h184) E := by
  have q' := q
  obtain ⟨tf, w, mk, t, k0, k1, hr, s2, c2⟩ := q'
  have nn := w.n
  unfold WFn at nn
  obtain ⟨mo, -, xr, yr, -, -, -, -, -, x1, -, -, -, -, -, -, -, -, si, dp, -⟩ := w.k k0 k1
  have si' := si (by omega)
  have x1' := x1 (by omega)
  have hs : inS L (pSi L k) := ⟨si'.1, si'.2.1⟩
  have sc : pSc L (pSi L k) = -1 - pX L k := by rw [si'.2.2, if_neg (by omega)]
  have p0 : ppo L k = 1 := by unfold ppo; simp [e]
  have p1 : ppu L k = 1 := by unfold ppu; simp [e]
  have nf : nfs L (pSi L k) = 1 := by unfold nfs; rw [sc, if_pos (by omega)]
  have kn : ∀ f, knd L (pSi L k) f = pX L k := fun f => by unfold knd; rw [sc, if_pos (by omega)]; omega
  have gt := q.st (j := 7 + pDp L k) (by omega) (by omega)
  have tt : ath (tT h L 0 k (7 + pDp L k)) ≠ 0 := by rw [gt.2.2.2]; decide
  obtain ⟨-, fa, fb', fc, fd, -⟩ := fok_there gt.1 tt
  have FA1 := fa; have FB1 := fb'
  unfold c32 at FA1 FB1
  have tf2 := frA_TF s2.1 tf
  refine s_X9_array rfl fun K ki => r_X9_array_0 ki hG ⟨tf2.ne, k0, by omega, ?_⟩
  intro sI eI
  rw [tf2.si] at eI
  subst eI
  refine t_pull hG c2 (by omega) (by omega) fun g s c p _ => ?_
  have l1 : hv g 396 64 = alo (tT h L 0 k (7 + pDp L k)) := congrArg alo p
  have l2 : hv g 396 65 = ahi (tT h L 0 k (7 + pDp L k)) := congrArg ahi p
  have sg := same_tr s2 s
  have Tg : tT g L = tT h L := same_T sg
  rw [l1, l2]
  intro x3 e3 x4 e4 x5 e5
  have n5 : ¬ x5 = 0 ↔ (alo (tT h L 0 k (7 + pDp L k)) < 0 ∨ 100 < ahi (tT h L 0 k (7 + pDp L k))) := by
    rw [e5]
    by_cases z1 : alo (tT h L 0 k (7 + pDp L k)) < 0
    · rw [if_pos z1]; exact ⟨fun _ => Or.inl z1, fun _ => by decide⟩
    · rw [if_neg z1]
      by_cases z2 : 100 < ahi (tT h L 0 k (7 + pDp L k))
      · rw [if_pos z2]; exact ⟨fun _ => Or.inr z2, fun _ => by decide⟩
      · rw [if_neg z2]; exact ⟨fun y => absurd rfl y, fun y => by omega⟩
  have cnd : ¬ x5 = 0 → ∀ U, tbok U → tle (tT h L) U → CLz L U U k → TS L U k (U 0 k) 3 (U 6 k 0) := by
    intro z U oU pU cz
    obtain ⟨u0, u1, u2, -⟩ := pU 0 k (7 + pDp L k) tt
    exact ((CL21 e).mp cz u0).2 (by have := n5.mp z; omega)
  refine ⟨fun z => ?_, fun z => ?_⟩
  · refine opt_toss hG q (AdvC_same (k := k) sg t) up_t x5 3 (by omega) (by omega) cnd (cont := fun h' => Q 0 h') (fun h' b => hQ h' (AdvC_w b (fun _ p => (CL21 e).mpr (fun _ => ⟨fun y => by omega, fun y => p.2 (n5.mpr y)⟩))))
  · have z2 : zi g := zi_of (fun a j ha => sg.2.1 a j (by unfold za at ha; omega) (by unfold za at ha; omega)) cg.2
    refine t_makeSite hG (frA_TF sg.1 tf) w (by rw [Tg]; exact t) z2 hs fun g1 a1 ws1 md1 => ?_
    have mk1 : MK g1 L := frA_MK a1.1 (frA_MK sg.1 mk)
    have m3 : isMk L x3 := by
      by_cases y : 0 ≤ alo (tT h L 0 k (7 + pDp L k))
      · rw [e3, show max 0 (alo (tT h L 0 k (7 + pDp L k))) = alo (tT h L 0 k (7 + pDp L k)) by omega]; exact gt.2.2.1.1.1
      · rw [e3, show max 0 (alo (tT h L 0 k (7 + pDp L k))) = 0 by omega]; exact mk_0 L
    have m4 : isMk L x4 := by
      by_cases y : ahi (tT h L 0 k (7 + pDp L k)) ≤ 100
      · rw [e4, show min 100 (ahi (tT h L 0 k (7 + pDp L k))) = ahi (tT h L 0 k (7 + pDp L k)) by omega]; exact gt.2.2.1.2
      · rw [e4, show min 100 (ahi (tT h L 0 k (7 + pDp L k))) = 100 by omega]; exact Or.inr (Or.inr (Or.inr (Or.inr (Or.inr (Or.inl rfl)))))
    refine Sem_hyp fun H1 ok1 => ?_
    have z479 : hv g1 479 (pSi L k) = 0 ∨ hv g1 479 (pSi L k) = 1 := okf_z (tw_ok H1 hG (ok1 _ List.mem_cons_self) 37 (off := 83) (n := 63) (t := 102) (e := 2) (by decide) (by decide) (by decide) (by decide) (by decide) (show 0 ≤ pSi L k by omega) (by omega))
    refine t_downTo hG w mk1 (by unfold c32; omega) ?_
    rw [dn_mk m3]
    intro x3' e3'; subst e3'
    refine t_upTo hG w mk1 (by unfold c32; omega) ?_
    rw [up_mk m4]
    intro x4' e4'; subst e4'
    have i0 : 0 ≤ pSi L k := by omega
    have i1 : pSi L k < 63 := by omega
    refine ⟨i0, i1, fun _ => ⟨i0, i1⟩, ?_⟩
    intro x6 e6
    refine ⟨i0, i1, fun _ => ⟨i0, i1⟩, ?_⟩
    intro x7 e7
    refine ⟨i0, i1, fun _ => ⟨i0, i1, fun _ => ⟨i0, i1⟩⟩, ?_⟩
    intro x8 e8
    intro h20 e20
    refine ⟨i0, i1, ?_⟩
    intro h21 e21
    refine ⟨i0, i1, ?_⟩
    intro h22 e22
    refine ⟨i0, i1, by simp, ?_⟩
    intro h23 e23
    have hh : ∀ a j, hv h23 a j = if a = 479 ∧ j = pSi L k then 1 else if a = 478 ∧ j = pSi L k then x7 else if a = 477 ∧ j = pSi L k then x6 else if a = 396 ∧ j = 12 then l_or (hv g1 396 12) (if x8 = 0 then 0 else l_shl 1 (pSi L k)) else hv g1 a j := by
      intro a j
      rw [e23, hv_set, e22, hv_set, e21, hv_set, e20, hv_set]
    have T2v : tT g1 L 2 (pSi L k) 0 = iff_ (inS L (pSi L k) ∧ (0 : Int) = 0 ∧ hv g1 479 (pSi L k) = 1) (fv (hv g1 477 (pSi L k)) (hv g1 478 (pSi L k)) 0 0) := rfl
    have joined : fv x6 x7 0 0 = fjoin (tT g1 L 2 (pSi L k) 0) (fv x3' x4' 0 0) := by
      rw [T2v, e6, e7]
      rcases z479 with y | y
      · rw [if_pos y, if_pos y, iff_n (fun y2 => by omega), fjoin_zv rfl]
      · rw [if_neg (by omega), if_neg (by omega), iff_p ⟨hs, rfl, y⟩, fjoin_fv, show l_or 0 0 = 0 by decide, show i_or 0 0 = 0 by decide]
    have ET := len_T (h := g1) (h' := h23) (L := L) (x := pSi L k) (u := fv x3' x4' 0 0) hs (fun j => by rw [hh]; by_cases y : j = pSi L k <;> simp [y]) (by rw [← joined, hh, hh]; simp) (fun a j a0 a1 ne => by rw [hh, if_neg (by omega), if_neg (by omega), if_neg (by omega), if_neg (by omega)]) (fun a j a0 a1 na => by rw [hh, if_neg (by omega), if_neg (by omega), if_neg (by omega), if_neg (by omega)])
    have oth : ∀ a j, ¬ (477 ≤ a ∧ a ≤ 479) → ¬ (a = 396 ∧ j = 12) → hv h23 a j = hv g1 a j := fun a j na nb => by rw [hh, if_neg (by omega), if_neg (by omega), if_neg (by omega), if_neg nb]
    have e12 : hv h23 396 12 = l_or (hv g1 396 12) (if x8 = 0 then 0 else l_shl 1 (pSi L k)) := by rw [hh]; simp
    have ee : ∀ a i c, a ≠ 2 → tT h23 L a i c = tT g1 L a i c := fun a i c ha => by rw [ET]; unfold tj; rw [if_neg (fun y => ha y.1)]
    have ei : ∀ a i c, i ≠ pSi L k → tT h23 L a i c = tT g1 L a i c := fun a i c ha => by rw [ET]; unfold tj; rw [if_neg (fun y => ha y.2.1)]
    have nog : x8 = 0 → tT h23 L 2 (pSi L k) 0 = tT g1 L 2 (pSi L k) 0 := by
      intro y
      rw [e8] at y
      have y1 : ¬ hv g1 479 (pSi L k) = 0 := by
        intro y2; rw [if_pos y2] at y; omega
      rw [if_neg y1] at y
      have y2 : x6 = hv g1 477 (pSi L k) := by
        by_cases r : x6 = hv g1 477 (pSi L k)
        · exact r
        · rw [if_neg r] at y; omega
      rw [if_pos y2] at y
      have y3 : x7 = hv g1 478 (pSi L k) := by
        by_cases r : x7 = hv g1 478 (pSi L k)
        · exact r
        · rw [if_neg r] at y; omega
      rw [ET]
      unfold tj
      rw [if_pos ⟨rfl, rfl, rfl⟩, ← joined, y2, y3, T2v, iff_p ⟨hs, rfl, by omega⟩]
    have sto : tT h23 L = tT g1 L → x8 = 0 := by
      intro eT
      have ev := congrFun (congrFun (congrFun eT 2) (pSi L k)) 0
      have T2w : tT h23 L 2 (pSi L k) 0 = fv x6 x7 0 0 := by rw [ET]; unfold tj; rw [if_pos ⟨rfl, rfl, rfl⟩, ← joined]
      rw [T2w, T2v] at ev
      rcases z479 with y | y
      · rw [iff_n (fun y2 => by omega)] at ev
        exact absurd (congrArg ath ev) (by decide : ¬ (1 : Int) = 0)
      · rw [iff_p ⟨hs, rfl, y⟩] at ev
        have c1 : x6 = hv g1 477 (pSi L k) := congrArg alo ev
        have c2 : x7 = hv g1 478 (pSi L k) := congrArg ahi ev
        rw [e8, if_neg (by omega), if_pos c1, if_pos c2]
    have gv : fgd L (tT g1 L) (fv x3' x4' 0 0) := fgd_n m3 m4 z (by unfold c32; omega) (by unfold c32; omega) c32_0
    have a2 := Adv0.c (Adv0_tj (h := g1) (h' := h23) a1.2.2.1 ⟨by rw [e23, e22, e21, e20]; rfl, fun a j p1 p2 => oth a j (by omega) (by omega)⟩ ET (by omega) gv
      ⟨fun q _ => ⟨fun y => by rw [oth _ _ (by omega) (by omega)]; exact y, Or.inr ⟨fun _ => ee _ _ _ (by omega), ee _ _ _ (by omega)⟩⟩, fun i hi => ⟨fun y => by rw [e12, bl_or, y]; rfl, by
        by_cases ii : i = pSi L k
        · by_cases z0 : x8 = 0
          · right; rw [ii]; exact ⟨fun f => ee _ _ _ (by omega), nog z0⟩
          · left; rw [e12, if_neg z0, bl_or, ii, bl_shl (by omega) (by omega) (by omega)]; simp
        · right; exact ⟨fun f => ei 1 i f ii, ei 2 i 0 ii⟩⟩, fun q _ _ => ⟨fun y => by rw [oth _ _ (by omega) (by omega)]; exact y, Or.inr (ee _ _ _ (by omega))⟩, fun q _ => ⟨fun y => by rw [oth _ _ (by omega) (by omega)]; exact y, Or.inr fun a ha => ee _ _ _ (by omega)⟩, qui_12 (fun j => oth _ _ (by omega) (by omega)) (fun j => oth _ _ (by omega) (by omega)) (oth _ _ (by omega) (by omega)) (oth _ _ (by omega) (by omega)) (fun eT s _ => by rw [e12]; exact bl_or0 (sto eT))⟩ (fun j => oth _ _ (by omega) (by omega)))
      (fun c => ⟨fun k' i hk' i0 i1 => by rw [oth 470 _ (by omega) (by omega), oth 467 _ (by omega) (by omega)]; exact c.1 k' i hk' i0 i1, fun s' f' a0 a1 g0 g1 y => by
        rw [oth 475 _ (by omega) (by omega), oth 476 _ (by omega) (by omega)]
        exact c.2.1 s' f' a0 a1 g0 g1 (by rw [oth 472 _ (by omega) (by omega)] at y; exact y), fun m a0 a1 y => by
        rw [oth 491 _ (by omega) (by omega), oth 492 _ (by omega) (by omega)]
        exact c.2.2.1 m a0 a1 (by rw [oth 488 _ (by omega) (by omega)] at y; exact y), fun s' a0 a1 y => by
        have ns : s' ≠ pSi L k := fun z' => y (by rw [hh, z']; simp)
        rw [hh, if_neg (by omega), if_neg (by omega), if_neg (by omega), if_neg (by omega), hh, if_neg (by omega), if_neg (by omega), if_neg (by omega), if_neg (by omega)]
        exact c.2.2.2.1 s' a0 a1 (by rw [hh, if_neg (by omega), if_neg (by omega), if_neg (by omega), if_neg (by omega)] at y; exact y), fun m a0 a1 y => by
        rw [oth 489 _ (by omega) (by omega), oth 490 _ (by omega) (by omega)]
        exact c.2.2.2.2 m a0 a1 (by rw [oth 488 _ (by omega) (by omega)] at y; exact y)⟩)
    have rng : 0 ≤ ahi (tT h L 0 k (7 + pDp L k)) ∧ alo (tT h L 0 k (7 + pDp L k)) ≤ 100 := by omega
    have v34 : fv x3' x4' 0 0 = fv (max 0 (alo (tT h L 0 k (7 + pDp L k)))) (min 100 (ahi (tT h L 0 k (7 + pDp L k)))) 0 0 := by rw [e3, e4]
    have b1' : AdvC L k g g1 (fun U => fle (f1st (pX L k)) (U 1 (pSi L k) 0)) := Adv_w a1 (fun _ p => by have := p 0 (by omega) (by omega); rw [kn] at this; exact this) (fun U oU p cz f f0 f1 => by
      rw [Tg] at p
      rw [kn, show f = 0 by omega]
      exact (((CL21 e).mp (CL_dn t q.r p cz) tt).1 rng).1)
    have A1 : AdvC L k h g1 (fun U => fle (f1st (pX L k)) (U 1 (pSi L k) 0)) := AdvC_w (AdvC_tr (AdvC_same sg t) b1' up_t) (fun _ p => p.2)
    have b2' : AdvC L k g1 h23 (fun U => fle (fv x3' x4' 0 0) (U 2 (pSi L k) 0)) := Adv_w a2 (fun _ p => p) (fun U oU p cz => by
      rw [v34]
      exact (((CL21 e).mp (CL_dn t q.r (tle_trans A1.2.2.2.1 p) cz) tt).1 rng).2.1)
    have A2 := AdvC_tr A1 b2' (fun U V p y => fle_trans y (p _ _ _))
    have up2 : ∀ U V : TB, tle U V → (fle (f1st (pX L k)) (U 1 (pSi L k) 0) ∧ fle (fv x3' x4' 0 0) (U 2 (pSi L k) 0)) → (fle (f1st (pX L k)) (V 1 (pSi L k) 0) ∧ fle (fv x3' x4' 0 0) (V 2 (pSi L k) 0)) := fun U V p y => ⟨fle_trans y.1 (p _ _ _), fle_trans y.2 (p _ _ _)⟩
    have c23 : cur L (pMo L k) h23 (tT h L 0 k) (tT h L 6 k 0) (pDp L k - 1) := wsm'_cur ⟨fun a j y1 y2 => oth a j (by omega) (by omega), fun j y => oth 396 j (by omega) (by omega)⟩ (wsm'_cur ws1 c)
    refine t_lay2 hG c23 (by omega) (by omega) fun g2 s3 c3 => ?_
    rw [show 8 + (pDp L k - 1) = 7 + pDp L k by omega, show pDp L k - 1 + 1 = pDp L k by omega] at c3
    have A3 : AdvC L k h g2 (fun U => fle (f1st (pX L k)) (U 1 (pSi L k) 0) ∧ fle (fv x3' x4' 0 0) (U 2 (pSi L k) 0)) := AdvC_w (AdvC_tr A2 (AdvC_same s3 A2.2.2.1) up2) (fun _ p => p.1)
    have md' : mkd L (tT g2 L) (pSi L k) := by
      have hp := A3.2.2.2.2.1
      refine Or.inr ⟨hs, fun f f0 f1 => ?_, fun _ => ath_le hp.2 (by decide : (1 : Int) ≠ 0)⟩
      rw [show f = 0 by omega]
      exact ath_le hp.1 (by rw [(fgd_f1 L (tT h L) _).2.2.2]; decide)
    refine w_flowOn hG q A3 up2 (by omega) (by omega) (by omega) c3 (by omega) (gX_ux (fun j hj ne => fgd_le A3.2.2.2.1 (q.sl (vld_up hj (by omega)))) (fgd_b1 (by omega) (by omega) md')) (fgd_le A3.2.2.2.1 q.lk) (fun U oU p cz => ?_) (fun h' b _ => ?_)
    · exact (((CL21 e).mp (CL_dn t q.r (tle_trans A3.2.2.2.1 p) cz) tt).1 rng).2.2
    · refine opt_toss hG q b (fun U V p y => ⟨up2 U V p y.1, GT_up p y.2⟩) x5 3 (by omega) (by omega) cnd (cont := fun h' => Q 0 h') (fun h'' b2 => hQ h'' (AdvC_w b2 (fun _ p => (CL21 e).mpr (fun _ => ⟨fun _ => ⟨p.1.1.1, by rw [← v34]; exact p.1.1.2, p.1.2⟩, fun y => p.2 (n5.mpr y)⟩))))
