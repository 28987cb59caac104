/-! Part 38o: goOn: casts, statics and sinks that are set; sites are made -/
set_option maxRecDepth 100000
theorem CL33 {L : PG} {T U : TB} {k : Int} (e : pOp L k = 33) : CLz L T U k ↔ ∀ s, sb (T 0 k (7 + pDp L k)) s → (s = 0 ∨ isOf L s (pX L k) = true → GT L U k (nx L k) (ux (T 0 k) (7 + pDp L k) (b1 s)) (T 6 k 0)) ∧ (s ≠ 0 → isOf L s (pX L k) = false → TS L U k (T 0 k) 5 (T 6 k 0)) := by simp [CLz, Csz, Co, Ccz, e]
theorem g_cast {l : Launch} {G : JG} (hG : gO G = true) {h h2 : MH} {L : PG} {k : Int} (q : wrk h L k h2) (e : pOp L k = 33) {Q : Int → MH → Prop} {E : Nat → Int → MH → Prop} (hQ : ∀ h', AdvC L k h h' (fun U => CLz L (tT h L) U k) → Q 0 h') :
      S_X9_pull_2 l G [(2009, 396)] h2 (fun _ h238 =>
      (∀ x26 : Int, x26 = (hv h238 396 67) →
      S_X9_of l G [(2009, 396), (1, x26), (0, pX L k)] h238 (fun z240 h241 =>
      (∀ x28 : Int, x28 = (l_or (l_and x26 1) z240) →
      (((lc x28 0) = 0 →
        (((lc (l_and x26 (l_xor x28 (-1))) 0) = 0 → Q 0 h241) ∧
        (¬ (lc (l_and x26 (l_xor x28 (-1))) 0) = 0 → S_X9_toss l G [(2009, 396), (0, k), (0, 5)] h241 (fun _ h244 => Q 0 h244) E))) ∧
      (¬ (lc x28 0) = 0 →
        S_X9_lay_2 l G [(2009, 396), (0, 0), (0, 0), (0, 0), (1, x28)] h241 (fun _ h246 =>
        S_X9_flowOn l G [(2009, 396), (0, k)] h246 (fun _ h248 =>
        (((lc (l_and x26 (l_xor x28 (-1))) 0) = 0 → Q 0 h248) ∧
        (¬ (lc (l_and x26 (l_xor x28 (-1))) 0) = 0 → S_X9_toss l G [(2009, 396), (0, k), (0, 5)] h248 (fun _ h250 => Q 0 h250) E))) E) E)))) E)) E := by
  have q' := q
  obtain ⟨tf, w, mk, t, k0, k1, hr, s2, c2⟩ := q'
  have nn := w.n
  unfold WFn at nn
  obtain ⟨mo, -, xr, yr, -, -, -, -, -, -, -, -, -, -, -, -, -, -, -, dp, -⟩ := w.k k0 k1
  have p0 : ppo L k = 1 := by unfold ppo; simp [e]
  have p1 : ppu L k = 1 := by unfold ppu; simp [e]
  refine t_pull hG c2 (by omega) (by omega) fun g s c p _ => ?_
  intro x26 e26
  have ex : x26 = ast (tT h L 0 k (7 + pDp L k)) := by rw [e26, ← p]; rfl
  have sk := tiv_sok t w 0 k (7 + pDp L k)
  have sg := same_tr s2 s
  have Tg : tT g L = tT h L := same_T sg
  refine t_of hG (frA_TF sg.1 tf) w (by rw [ex]; exact sk) ?_
  intro z240 fl x28 e28
  have sbx : ∀ i, 0 ≤ i → bl x26 i = true → sb (tT h L 0 k (7 + pDp L k)) i := fun i i0 y => by
    rw [ex] at y
    have := sk.2 i i0 y
    exact ⟨i0, by omega, y⟩
  have c28 : c64 x28 := by rw [e28]; exact c64_l_or _ _
  have bk : ∀ i, 0 ≤ i → i < 64 → (bl x28 i = true ↔ bl x26 i = true ∧ (i = 0 ∨ isOf L i (pX L k) = true)) := by
    intro i i0 i1
    rw [e28, bl_or, bl_and, bl_one i0, fl.2 i i0]
    constructor
    · intro y
      simp at y
      rcases y with y | y
      · exact ⟨y.1, Or.inl y.2⟩
      · exact ⟨y.1.2, Or.inr y.2⟩
    · rintro ⟨y1, y2⟩
      simp
      by_cases z : i = 0
      · exact Or.inl ⟨y1, z⟩
      · right
        have := (sbx i i0 y1).2.1
        exact ⟨⟨⟨by omega, this⟩, y1⟩, by rcases y2 with y2 | y2; exact absurd y2 z; exact y2⟩
  have rest : (l_and x26 (l_xor x28 (-1))) = 0 ↔ ∀ i, 0 ≤ i → i < 64 → bl x26 i = true → bl x28 i = true := by
    rw [bl_eq0 (c64_l_and _ _)]
    constructor
    · intro z i i0 i1 y
      have := z i i0 i1
      rw [bl_andn, y] at this
      simpa using this
    · intro z i i0 i1
      rw [bl_andn]
      cases r : bl x26 i
      · rfl
      · rw [z i i0 i1 r]; rfl
  have cnd : ¬ (lc (l_and x26 (l_xor x28 (-1))) 0) = 0 → ∀ U, tbok U → tle (tT h L) U → CLz L U U k → TS L U k (U 0 k) 5 (U 6 k 0) := by
    intro z U oU pU cz
    rw [lc_eq, rest] at z
    apply Classical.byContradiction
    intro no
    apply z
    intro i i0 i1 y
    have sx := sbx i i0 y
    apply Classical.byContradiction
    intro nk
    have nk' := fun y2 => nk ((bk i i0 i1).mpr ⟨y, y2⟩)
    exact no (((CL33 e).mp cz i (sb_le (t.1 _ _ _) (pU 0 k (7 + pDp L k)) sx)).2 (fun z => nk' (Or.inl z)) (by
      cases r : isOf L i (pX L k)
      · rfl
      · exact absurd (Or.inr r) nk'))
  have fin5 : ∀ i, sb (tT h L 0 k (7 + pDp L k)) i → i ≠ 0 → isOf L i (pX L k) = false → ¬ (lc (l_and x26 (l_xor x28 (-1))) 0) = 0 := by
    intro i si i0 io z
    rw [lc_eq, rest] at z
    have := (bk i si.1 (by have := si.2.1; omega)).mp (z i si.1 (by have := si.2.1; omega) (by rw [ex]; exact si.2.2))
    rcases this.2 with y | y
    · exact i0 y
    · rw [io] at y; cases y
  refine ⟨fun z => ?_, fun z => ?_⟩
  · rw [lc_eq] at z
    refine opt_toss hG q (AdvC_same (k := k) sg t) up_t _ 5 (by omega) (by omega) cnd (cont := fun h' => Q 0 h') (fun h' b => hQ h' (AdvC_w b (fun _ p => (CL33 e).mpr (fun i si => ⟨fun y => ?_, fun y y2 => p.2 (fin5 i si y y2)⟩))))
    exfalso
    have := (bk i si.1 (by have := si.2.1; omega)).mpr ⟨by rw [ex]; exact si.2.2, y⟩
    rw [z, bl_zero] at this; cases this
  · rw [lc_eq] at z
    refine t_lay2 hG c (by omega) (by omega) fun g1 s1 c1 => ?_
    rw [show 8 + (pDp L k - 1) = 7 + pDp L k by omega, show pDp L k - 1 + 1 = pDp L k by omega] at c1
    have sg1 := same_tr sg s1
    have Tg1 : tT g1 L = tT h L := same_T sg1
    have gk : fgd L (tT h L) (fv 0 0 0 x28) := by
      refine ⟨fok_fs c28, fun i i0 y => ?_, ⟨⟨mk_0 L, su8_0⟩, mk_0 L⟩, rfl⟩
      change bl x28 i = true at y
      by_cases i1 : i < 64
      · exact t.2.1 0 k (7 + pDp L k) i i0 (by rw [← ex]; exact ((bk i i0 i1).mp y).1)
      · rw [bl_hi (by omega)] at y; cases y
    refine w_flowOn hG q (AdvC_same (k := k) sg1 t) up_t (by omega) (by omega) (by omega) c1 (by omega) (by rw [Tg1]; exact gX_ux (fun j hj _ => q.sl (vld_up hj (by omega))) gk) (by rw [Tg1]; exact q.lk) (fun U oU p cz => ?_) (fun h' a _ => ?_)
    · rw [Tg1] at p
      refine (GT_fs c28 z).mpr (fun i i0 i1 y => ?_)
      have y' := (bk i i0 i1).mp y
      exact ((CL33 e).mp (CL_dn t q.r p cz) i (sbx i i0 y'.1)).1 y'.2
    · refine opt_toss hG q a (fun U V p y => ⟨trivial, GT_up p y.2⟩) _ 5 (by omega) (by omega) cnd (cont := fun h' => Q 0 h') (fun h' b => hQ h' (AdvC_w b (fun _ p => (CL33 e).mpr (fun i si => ⟨fun y => ?_, fun y y2 => p.2 (fin5 i si y y2)⟩))))
      exact (GT_fs c28 z).mp p.1.2 i si.1 (by have := si.2.1; omega) ((bk i si.1 (by have := si.2.1; omega)).mpr ⟨by rw [ex]; exact si.2.2, y⟩)
/-! sinks -/
theorem snk_T {h h' : MH} {L : PG} {x : Int} {v : FA} (x0 : 0 ≤ x) (x1 : x < 8) (hv' : v = fv (hv h' 485 x) (hv h' 486 x) (hv h' 487 x) 0) (e484 : ∀ j, hv h' 484 j = if j = x then 1 else hv h 484 j) (e485 : ∀ a j, 485 ≤ a → a ≤ 487 → j ≠ x → hv h' a j = hv h a j) (u : FA) (hu : v = fjoin (tT h L 4 x 0) u)
    (hh : ∀ a j, 460 ≤ a → a ≤ 498 → ¬ (484 ≤ a ∧ a ≤ 487) → hv h' a j = hv h a j) : tT h' L = tj (tT h L) 4 x 0 u := by
  funext y i c
  unfold tj
  by_cases a4 : y = 4
  · subst a4
    show t4 h' i c = if _ then fjoin (t4 h i c) _ else t4 h i c
    by_cases z : i = x ∧ c = 0
    · obtain ⟨rfl, rfl⟩ := z
      rw [if_pos ⟨rfl, rfl, rfl⟩]
      have : fjoin (t4 h i 0) u = v := hu.symm
      rw [this]
      unfold t4
      rw [iff_p ⟨x0, x1, rfl, by rw [e484, if_pos rfl]⟩, hv']
    · rw [if_neg (fun w => z w.2)]
      unfold t4
      refine iff_c ?_ (fun w => ?_)
      · constructor
        · intro w; rw [e484, if_neg (fun w2 => z ⟨w2, w.2.2.1⟩)] at w; exact w
        · intro w; rw [e484, if_neg (fun w2 => z ⟨w2, w.2.2.1⟩)]; exact w
      · have ne : i ≠ x := fun w2 => z ⟨w2, w.2.2.1⟩
        rw [e485 485 i (by omega) (by omega) ne, e485 486 i (by omega) (by omega) ne, e485 487 i (by omega) (by omega) ne]
  · rw [if_neg (fun w => a4 w.1)]
    simp only [tT, if_neg a4, t0, t1, t2, t3, t5, t6, t7, t8, t9, t10, t11, t14, t15, row]
    simp only [hh 460 _ (by decide) (by decide) (by decide), hh 461 _ (by decide) (by decide) (by decide), hh 462 _ (by decide) (by decide) (by decide), hh 463 _ (by decide) (by decide) (by decide), hh 464 _ (by decide) (by decide) (by decide), hh 465 _ (by decide) (by decide) (by decide), hh 466 _ (by decide) (by decide) (by decide), hh 467 _ (by decide) (by decide) (by decide), hh 468 _ (by decide) (by decide) (by decide), hh 469 _ (by decide) (by decide) (by decide), hh 472 _ (by decide) (by decide) (by decide), hh 473 _ (by decide) (by decide) (by decide), hh 474 _ (by decide) (by decide) (by decide), hh 475 _ (by decide) (by decide) (by decide), hh 476 _ (by decide) (by decide) (by decide), hh 477 _ (by decide) (by decide) (by decide), hh 478 _ (by decide) (by decide) (by decide), hh 479 _ (by decide) (by decide) (by decide), hh 480 _ (by decide) (by decide) (by decide), hh 481 _ (by decide) (by decide) (by decide), hh 482 _ (by decide) (by decide) (by decide), hh 483 _ (by decide) (by decide) (by decide), hh 488 _ (by decide) (by decide) (by decide), hh 489 _ (by decide) (by decide) (by decide), hh 490 _ (by decide) (by decide) (by decide), hh 491 _ (by decide) (by decide) (by decide), hh 492 _ (by decide) (by decide) (by decide), hh 493 _ (by decide) (by decide) (by decide), hh 494 _ (by decide) (by decide) (by decide), hh 495 _ (by decide) (by decide) (by decide), hh 496 _ (by decide) (by decide) (by decide), hh 497 _ (by decide) (by decide) (by decide), hh 498 _ (by decide) (by decide) (by decide)]
theorem g_output {l : Launch} {G : JG} (hG : gO G = true) {h h2 : MH} {L : PG} {k : Int} (q : wrk h L k h2) (e : pOp L k = 14) (z484 : hv h2 484 (pX L k) = 0 ∨ hv h2 484 (pX L k) = 1) {Q : Int → MH → Prop} {E : Nat → Int → MH → Prop} (hQ : ∀ h', AdvC L k h h' (fun U => CLz L (tT h L) U k) → Q 0 h') :
      S_X9_pull_2 l G [(2009, 396)] h2 (fun _ h89 =>
      (0 ≤ pX L k) ∧ (pX L k < 8) ∧ ((¬ (hv h89 484 (pX L k)) = 0 → (0 ≤ pX L k) ∧ pX L k < 8)) ∧
      (∀ x8 : Int, x8 = (if (hv h89 484 (pX L k)) = 0 then (hv h89 396 64) else (min (hv h89 485 (pX L k)) (hv h89 396 64)) : Int) →
      (0 ≤ pX L k) ∧ (pX L k < 8) ∧ ((¬ (hv h89 484 (pX L k)) = 0 → (0 ≤ pX L k) ∧ pX L k < 8)) ∧
      (∀ x9 : Int, x9 = (if (hv h89 484 (pX L k)) = 0 then (hv h89 396 65) else (max (hv h89 486 (pX L k)) (hv h89 396 65)) : Int) →
      (0 ≤ pX L k) ∧ (pX L k < 8) ∧ ((¬ (hv h89 484 (pX L k)) = 0 → (0 ≤ pX L k) ∧ pX L k < 8)) ∧
      (∀ x10 : Int, x10 = (if (hv h89 484 (pX L k)) = 0 then (hv h89 396 66) else (i_or (hv h89 487 (pX L k)) (hv h89 396 66)) : Int) →
      (0 ≤ pX L k) ∧ (pX L k < 8) ∧
      (∀ h93, h93 = hset h89 485 (pX L k) x8 →
      (0 ≤ pX L k) ∧ (pX L k < 8) ∧
      (∀ h94, h94 = hset h93 486 (pX L k) x9 →
      (0 ≤ pX L k) ∧ (pX L k < 8) ∧
      (∀ h95, h95 = hset h94 487 (pX L k) x10 →
      (0 ≤ pX L k) ∧ (pX L k < 8) ∧ ((1 : Int) = 0 ∨ (1 : Int) = 1) ∧
      (∀ h96, h96 = hset h95 484 (pX L k) 1 →
      S_X9_flowOn l G [(2009, 396), (0, k)] h96 (fun _ h98 => Q 0 h98) E)))))))) E := by
  have q' := q
  obtain ⟨tf, w, mk, t, k0, k1, hr, s2, c2⟩ := q'
  obtain ⟨mo, -, xr, yr, -, x7, -, -, -, -, -, -, -, -, -, -, -, -, -, dp, -⟩ := w.k k0 k1
  have x7' := x7 (by omega)
  have x8' : pX L k < 8 := by omega
  have p0 : ppo L k = 1 := by unfold ppo; simp [e]
  have p1 : ppu L k = 0 := by unfold ppu; simp [e]
  have gt := q.st (j := 7 + pDp L k) (by omega) (by omega)
  have tt : ath (tT h L 0 k (7 + pDp L k)) ≠ 0 := by rw [gt.2.2.2]; decide
  obtain ⟨-, fa, fb', fc, fd, -⟩ := fok_there gt.1 tt
  refine t_pull hG c2 (by omega) (by omega) fun g s c p _ => ?_
  have l1 : hv g 396 64 = alo (tT h L 0 k (7 + pDp L k)) := congrArg alo p
  have l2 : hv g 396 65 = ahi (tT h L 0 k (7 + pDp L k)) := congrArg ahi p
  have l3 : hv g 396 66 = alb (tT h L 0 k (7 + pDp L k)) := congrArg alb p
  have sg := same_tr s2 s
  have Tg : tT g L = tT h L := same_T sg
  refine ⟨xr.1, x8', fun _ => ⟨xr.1, x8'⟩, ?_⟩
  intro y8 e8
  refine ⟨xr.1, x8', fun _ => ⟨xr.1, x8'⟩, ?_⟩
  intro y9 e9
  refine ⟨xr.1, x8', fun _ => ⟨xr.1, x8'⟩, ?_⟩
  intro y10 e10
  refine ⟨xr.1, x8', ?_⟩
  intro h93 e93
  refine ⟨xr.1, x8', ?_⟩
  intro h94 e94
  refine ⟨xr.1, x8', ?_⟩
  intro h95 e95
  refine ⟨xr.1, x8', by simp, ?_⟩
  intro h96 e96
  have z484' : hv g 484 (pX L k) = 0 ∨ hv g 484 (pX L k) = 1 := by rw [s.2.1 484 _ (by omega) (by omega)]; exact z484
  have hh : ∀ a j, hv h96 a j = if a = 484 ∧ j = pX L k then 1 else if a = 487 ∧ j = pX L k then y10 else if a = 486 ∧ j = pX L k then y9 else if a = 485 ∧ j = pX L k then y8 else hv g a j := by
    intro a j
    rw [e96, hv_set, e95, hv_set, e94, hv_set, e93, hv_set]
  have joined : fv y8 y9 y10 0 = fjoin (tT g L 4 (pX L k) 0) (fv (alo (tT h L 0 k (7 + pDp L k))) (ahi (tT h L 0 k (7 + pDp L k))) (alb (tT h L 0 k (7 + pDp L k))) 0) := by
    have et : tT g L 4 (pX L k) 0 = t4 g (pX L k) 0 := rfl
    rw [et, e8, e9, e10, l1, l2, l3]
    unfold t4
    rcases z484' with z | z
    · rw [if_pos z, if_pos z, if_pos z, iff_n (fun y => by omega), fjoin_zv rfl]
    · rw [if_neg (by omega), if_neg (by omega), if_neg (by omega), iff_p ⟨xr.1, x8', rfl, z⟩, fjoin_fv, show l_or 0 0 = 0 by decide]
  have ET := snk_T (h := g) (h' := h96) (L := L) (x := pX L k) (v := fv y8 y9 y10 0) xr.1 x8' (by rw [hh, hh, hh]; simp) (fun j => by rw [hh]; by_cases z : j = pX L k <;> simp [z]) (fun a j a0 a1 ne => by rw [hh, if_neg (by omega), if_neg (by omega), if_neg (by omega), if_neg (by omega)]) _ joined (fun a j a0 a1 na => by rw [hh, if_neg (by omega), if_neg (by omega), if_neg (by omega), if_neg (by omega)])
  have gv : fgd L (tT g L) (fv (alo (tT h L 0 k (7 + pDp L k))) (ahi (tT h L 0 k (7 + pDp L k))) (alb (tT h L 0 k (7 + pDp L k))) 0) := fgd_n gt.2.2.1.1.1 gt.2.2.1.2 fc fa fb' fd
  have oth : ∀ a j, ¬ (484 ≤ a ∧ a ≤ 487) → hv h96 a j = hv g a j := fun a j na => by rw [hh, if_neg (by omega), if_neg (by omega), if_neg (by omega), if_neg (by omega)]
  have ee : ∀ a i c, a ≠ 4 → tT h96 L a i c = tT g L a i c := fun a i c ha => by rw [ET]; unfold tj; rw [if_neg (fun y => ha y.1)]
  have a1 := Adv0.c (Adv0_tj (h := g) (h' := h96) (by rw [Tg]; exact t) ⟨by rw [e96, e95, e94, e93]; rfl, fun a j p1 _ => oth a j (by omega)⟩ ET (by omega) gv
    ⟨fun q _ => ⟨fun y => by rw [oth _ _ (by omega)]; exact y, Or.inr ⟨fun _ => ee _ _ _ (by omega), ee _ _ _ (by omega)⟩⟩, fun q _ => ⟨fun y => by rw [oth _ _ (by omega)]; exact y, Or.inr ⟨fun _ => ee _ _ _ (by omega), ee _ _ _ (by omega)⟩⟩, fun q _ _ => ⟨fun y => by rw [oth _ _ (by omega)]; exact y, Or.inr (ee _ _ _ (by omega))⟩, fun q _ => ⟨fun y => by rw [oth _ _ (by omega)]; exact y, Or.inr fun a ha => ee _ _ _ (by omega)⟩, qui_of (fun j => oth _ _ (by omega)) (fun j => oth _ _ (by omega)) (fun j _ _ => oth _ _ (by omega))⟩ (fun j => oth _ _ (by omega)))
    (cgt_of (fun j => oth _ _ (by omega)) (fun j => oth _ _ (by omega)) (fun a j ha => oth _ _ (by unfold za at ha; omega)))
  have rg : rch (tT g L) k := by rw [Tg]; exact q.r
  have b1' : AdvC L k g h96 (fun U => fle (fv (alo (tT h L 0 k (7 + pDp L k))) (ahi (tT h L 0 k (7 + pDp L k))) (alb (tT h L 0 k (7 + pDp L k))) 0) (U 4 (pX L k) 0)) := Adv_w a1 (fun _ p => p) (fun U oU p cz => by
    rw [Tg] at p
    exact ((CL14 e).mp (CL_dn t q.r p cz)).1 tt)
  have a2 : AdvC L k h h96 (fun U => fle (fv (alo (tT h L 0 k (7 + pDp L k))) (ahi (tT h L 0 k (7 + pDp L k))) (alb (tT h L 0 k (7 + pDp L k))) 0) (U 4 (pX L k) 0)) := AdvC_w (AdvC_tr (AdvC_same sg t) b1' up_t) (fun _ p => p.2)
  have c96 : cur L (pMo L k) h96 (tT h L 0 k) (tT h L 6 k 0) (pDp L k - 1) := wsm_cur (fun a j ha => oth a j (by omega)) c
  refine w_flowOn hG q a2 (fun U V p y => fle_trans y (p _ _ _)) (by omega) (by omega) (by omega) c96 (by omega) (fun j hj => fgd_le a2.2.2.2.1 (q.sl (vld_up hj (by omega)))) (fgd_le a2.2.2.2.1 q.lk) (fun U oU p cz => ?_) (fun h' b _ => hQ h' (AdvC_w b (fun _ p => (CL14 e).mpr ⟨fun _ => p.1, p.2⟩)))
  exact ((CL14 e).mp (CL_dn t q.r (tle_trans a2.2.2.2.1 p) cz)).2
