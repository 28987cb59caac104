/-! Part 38p: goOn: statics that are set, sites that are made -/
set_option maxRecDepth 100000
theorem sts_T {h h' : MH} {L : PG} {x : Int} {u : FA} (x0 : 0 ≤ x) (x1 : x < pNs L) (hu : fv (hv h' 480 x) (hv h' 481 x) (hv h' 482 x) (hv h' 483 x) = fjoin (fv (hv h 480 x) (hv h 481 x) (hv h 482 x) (hv h 483 x)) u) (e48 : ∀ a j, 480 ≤ a → a ≤ 483 → j ≠ x → hv h' a j = hv h a j)
    (hh : ∀ a j, 460 ≤ a → a ≤ 498 → ¬ (480 ≤ a ∧ a ≤ 483) → hv h' a j = hv h a j) : tT h' L = tj (tT h L) 3 x 0 u := by
  funext y i c
  unfold tj
  by_cases a3 : y = 3
  · subst a3
    show t3 h' L i c = if _ then fjoin (t3 h L i c) _ else t3 h L i c
    unfold t3
    by_cases z : i = x ∧ c = 0
    · obtain ⟨rfl, rfl⟩ := z
      rw [if_pos ⟨rfl, rfl, rfl⟩, iff_p ⟨x0, x1, rfl⟩, iff_p ⟨x0, x1, rfl⟩, hu]
    · rw [if_neg (fun w => z w.2)]
      refine iff_c Iff.rfl (fun w => ?_)
      have ne : i ≠ x := fun w2 => z ⟨w2, w.2.2⟩
      rw [e48 480 i (by omega) (by omega) ne, e48 481 i (by omega) (by omega) ne, e48 482 i (by omega) (by omega) ne, e48 483 i (by omega) (by omega) ne]
  · rw [if_neg (fun w => a3 w.1)]
    simp only [tT, if_neg a3, t0, t1, t2, t4, t5, t6, t7, t8, t9, t10, t11, t14, t15, row]
    simp only [hh 460 _ (by decide) (by decide) (by decide), hh 461 _ (by decide) (by decide) (by decide), hh 462 _ (by decide) (by decide) (by decide), hh 463 _ (by decide) (by decide) (by decide), hh 464 _ (by decide) (by decide) (by decide), hh 465 _ (by decide) (by decide) (by decide), hh 466 _ (by decide) (by decide) (by decide), hh 467 _ (by decide) (by decide) (by decide), hh 468 _ (by decide) (by decide) (by decide), hh 469 _ (by decide) (by decide) (by decide), hh 472 _ (by decide) (by decide) (by decide), hh 473 _ (by decide) (by decide) (by decide), hh 474 _ (by decide) (by decide) (by decide), hh 475 _ (by decide) (by decide) (by decide), hh 476 _ (by decide) (by decide) (by decide), hh 477 _ (by decide) (by decide) (by decide), hh 478 _ (by decide) (by decide) (by decide), hh 479 _ (by decide) (by decide) (by decide), hh 484 _ (by decide) (by decide) (by decide), hh 485 _ (by decide) (by decide) (by decide), hh 486 _ (by decide) (by decide) (by decide), hh 487 _ (by decide) (by decide) (by decide), hh 488 _ (by decide) (by decide) (by decide), hh 489 _ (by decide) (by decide) (by decide), hh 490 _ (by decide) (by decide) (by decide), hh 491 _ (by decide) (by decide) (by decide), hh 492 _ (by decide) (by decide) (by decide), hh 493 _ (by decide) (by decide) (by decide), hh 494 _ (by decide) (by decide) (by decide), hh 495 _ (by decide) (by decide) (by decide), hh 496 _ (by decide) (by decide) (by decide), hh 497 _ (by decide) (by decide) (by decide), hh 498 _ (by decide) (by decide) (by decide)]
theorem g_setst {l : Launch} {G : JG} (hG : gO G = true) {h h2 : MH} {L : PG} {k : Int} (q : wrk h L k h2) (e : pOp L k = 28) (c482 : c32 (hv h2 482 (pX L k))) (c483 : c64 (hv h2 483 (pX L k))) {Q : Int → MH → Prop} {E : Nat → Int → MH → Prop} (hQ : ∀ h', AdvC L k h h' (fun U => CLz L (tT h L) U k) → Q 0 h') :
      S_X9_pull_2 l G [(2009, 396)] h2 (fun _ h200 =>
      (0 ≤ pX L k) ∧ (pX L k < 8) ∧
      (∀ x19 : Int, x19 = (min (hv h200 480 (pX L k)) (hv h200 396 64)) →
      (0 ≤ pX L k) ∧ (pX L k < 8) ∧
      (∀ x20 : Int, x20 = (max (hv h200 481 (pX L k)) (hv h200 396 65)) →
      (0 ≤ pX L k) ∧ (pX L k < 8) ∧
      ((x19 = (hv h200 480 (pX L k)) → (0 ≤ pX L k) ∧ (pX L k < 8) ∧ (x20 = (hv h200 481 (pX L k)) → (0 ≤ pX L k) ∧ (pX L k < 8) ∧ ((i_and (hv h200 396 66) (i_xor (hv h200 482 (pX L k)) (-1))) = 0 → (0 ≤ pX L k) ∧ pX L k < 8)))) ∧
      (∀ x21 : Int, x21 = (if x19 = (hv h200 480 (pX L k)) then (if x20 = (hv h200 481 (pX L k)) then (if (i_and (hv h200 396 66) (i_xor (hv h200 482 (pX L k)) (-1))) = 0 then (if (lc (l_and (hv h200 396 67) (l_xor (hv h200 483 (pX L k)) (-1))) 0) = 0 then 0 else 1 : Int) else 1 : Int) else 1 : Int) else 1 : Int) →
      (∀ h204, h204 = hset h200 396 13 (i_or (hv h200 396 13) (if x21 = 0 then 0 else (i_shl 1 (pX L k)) : Int)) →
      (0 ≤ pX L k) ∧ (pX L k < 8) ∧
      (∀ h205, h205 = hset h204 480 (pX L k) x19 →
      (0 ≤ pX L k) ∧ (pX L k < 8) ∧
      (∀ h206, h206 = hset h205 481 (pX L k) x20 →
      (0 ≤ pX L k) ∧ (pX L k < 8) ∧ (0 ≤ pX L k) ∧ (pX L k < 8) ∧
      (∀ h207, h207 = hset h206 482 (pX L k) (i_or (hv h206 482 (pX L k)) (hv h206 396 66)) →
      (0 ≤ pX L k) ∧ (pX L k < 8) ∧ (0 ≤ pX L k) ∧ (pX L k < 8) ∧
      (∀ h208, h208 = hset h207 483 (pX L k) (l_or (hv h207 483 (pX L k)) (hv h207 396 67)) →
      S_X9_flowOn l G [(2009, 396), (0, k)] h208 (fun _ h210 => Q 0 h210) E))))))))) E := by
  have q' := q
  obtain ⟨tf, w, mk, t, k0, k1, hr, s2, c2⟩ := q'
  have nn := w.n
  unfold WFn at nn
  obtain ⟨mo, -, xr, yr, -, -, -, -, -, -, xs, -, -, -, -, -, -, -, -, dp, -⟩ := w.k k0 k1
  have xs' := xs (by omega)
  have x8' : pX L k < 8 := by omega
  have p0 : ppo L k = 1 := by unfold ppo; simp [e]
  have p1 : ppu L k = 0 := by unfold ppu; simp [e]
  have gt := q.st (j := 7 + pDp L k) (by omega) (by omega)
  have tt : ath (tT h L 0 k (7 + pDp L k)) ≠ 0 := by rw [gt.2.2.2]; decide
  refine t_pull hG c2 (by omega) (by omega) fun g s c p _ => ?_
  have sg := same_tr s2 s
  have Tg : tT g L = tT h L := same_T sg
  rw [← s.2.1 482 _ (by omega) (by omega)] at c482
  rw [← s.2.1 483 _ (by omega) (by omega)] at c483
  have pv : fv (hv g 396 64) (hv g 396 65) (hv g 396 66) (hv g 396 67) = tT h L 0 k (7 + pDp L k) := p
  refine ⟨xr.1, x8', ?_⟩
  intro x19 e19
  refine ⟨xr.1, x8', ?_⟩
  intro x20 e20
  refine ⟨xr.1, x8', fun _ => ⟨xr.1, x8', fun _ => ⟨xr.1, x8', fun _ => ⟨xr.1, x8'⟩⟩⟩, ?_⟩
  intro x21 e21
  simp only [lc_eq] at e21
  intro h204 e204
  refine ⟨xr.1, x8', ?_⟩
  intro h205 e205
  refine ⟨xr.1, x8', ?_⟩
  intro h206 e206
  refine ⟨xr.1, x8', xr.1, x8', ?_⟩
  intro h207 e207
  refine ⟨xr.1, x8', xr.1, x8', ?_⟩
  intro h208 e208
  have hh : ∀ a j, hv h208 a j = if a = 483 ∧ j = pX L k then l_or (hv g 483 (pX L k)) (hv g 396 67) else if a = 482 ∧ j = pX L k then i_or (hv g 482 (pX L k)) (hv g 396 66) else if a = 481 ∧ j = pX L k then x20 else if a = 480 ∧ j = pX L k then x19 else if a = 396 ∧ j = 13 then i_or (hv g 396 13) (if x21 = 0 then 0 else i_shl 1 (pX L k)) else hv g a j := by
    intro a j
    clear e19 e20 e21
    subst e204; subst e205; subst e206; subst e207; subst e208
    simp [hv_set]
  have joined : fv x19 x20 (i_or (hv g 482 (pX L k)) (hv g 396 66)) (l_or (hv g 483 (pX L k)) (hv g 396 67)) = fjoin (fv (hv g 480 (pX L k)) (hv g 481 (pX L k)) (hv g 482 (pX L k)) (hv g 483 (pX L k))) (tT h L 0 k (7 + pDp L k)) := by
    rw [← pv, fjoin_fv, e19, e20]
  have ET := sts_T (h := g) (h' := h208) (L := L) (x := pX L k) (u := tT h L 0 k (7 + pDp L k)) xr.1 xs' (by rw [← joined, hh, hh, hh, hh]; simp) (fun a j a0 a1 ne => by rw [hh, if_neg (by omega), if_neg (by omega), if_neg (by omega), if_neg (by omega), if_neg (by omega)]) (fun a j a0 a1 na => by rw [hh, if_neg (by omega), if_neg (by omega), if_neg (by omega), if_neg (by omega), if_neg (by omega)])
  have oth : ∀ a j, ¬ (480 ≤ a ∧ a ≤ 483) → ¬ (a = 396 ∧ j = 13) → hv h208 a j = hv g a j := fun a j na nb => by rw [hh, if_neg (by omega), if_neg (by omega), if_neg (by omega), if_neg (by omega), if_neg nb]
  have e13 : hv h208 396 13 = i_or (hv g 396 13) (if x21 = 0 then 0 else i_shl 1 (pX L k)) := by rw [hh]; simp
  have ee : ∀ a i c, a ≠ 3 → tT h208 L a i c = tT g L a i c := fun a i c ha => by rw [ET]; unfold tj; rw [if_neg (fun y => ha y.1)]
  have ei : ∀ a i c, i ≠ pX L k → tT h208 L a i c = tT g L a i c := fun a i c ha => by rw [ET]; unfold tj; rw [if_neg (fun y => ha y.2.1)]
  have nog : x21 = 0 → tT h208 L 3 (pX L k) 0 = tT g L 3 (pX L k) 0 := by
    intro z
    rw [e21] at z
    have n1 : x19 = hv g 480 (pX L k) := by
      by_cases r : x19 = hv g 480 (pX L k)
      · exact r
      · rw [if_neg r] at z; omega
    rw [if_pos n1] at z
    have n2 : x20 = hv g 481 (pX L k) := by
      by_cases r : x20 = hv g 481 (pX L k)
      · exact r
      · rw [if_neg r] at z; omega
    rw [if_pos n2] at z
    have n3 : i_and (hv g 396 66) (i_xor (hv g 482 (pX L k)) (-1)) = 0 := by
      by_cases r : i_and (hv g 396 66) (i_xor (hv g 482 (pX L k)) (-1)) = 0
      · exact r
      · rw [if_neg r] at z; omega
    rw [if_pos n3] at z
    have n4 : l_and (hv g 396 67) (l_xor (hv g 483 (pX L k)) (-1)) = 0 := by
      by_cases r : l_and (hv g 396 67) (l_xor (hv g 483 (pX L k)) (-1)) = 0
      · exact r
      · rw [if_neg r] at z; omega
    rw [t3_row xr.1 xs', t3_row xr.1 xs', hh, hh, hh, hh]
    simp
    rw [n1, n2, i_or_sub c482 (andn0 n3), l_or_sub c483 (andn0l n4)]
  have sto : tT h208 L = tT g L → x21 = 0 := by
    intro eT
    have ev := congrFun (congrFun (congrFun eT 3) (pX L k)) 0
    rw [t3_row xr.1 xs', t3_row xr.1 xs'] at ev
    have v0 : hv h208 480 (pX L k) = x19 := by rw [hh]; simp
    have v1 : hv h208 481 (pX L k) = x20 := by rw [hh]; simp
    have v2 : hv h208 482 (pX L k) = i_or (hv g 482 (pX L k)) (hv g 396 66) := by rw [hh]; simp
    have v3 : hv h208 483 (pX L k) = l_or (hv g 483 (pX L k)) (hv g 396 67) := by rw [hh]; simp
    rw [v0, v1, v2, v3] at ev
    have c1 : x19 = hv g 480 (pX L k) := congrArg alo ev
    have c2 : x20 = hv g 481 (pX L k) := congrArg ahi ev
    have c3 : i_or (hv g 482 (pX L k)) (hv g 396 66) = hv g 482 (pX L k) := congrArg alb ev
    have c4 : l_or (hv g 483 (pX L k)) (hv g 396 67) = hv g 483 (pX L k) := congrArg ast ev
    rw [e21, if_pos c1, if_pos c2, if_pos (or_andn c3), if_pos (or_andnl c4)]
  have gv : fgd L (tT g L) (tT h L 0 k (7 + pDp L k)) := by rw [Tg]; exact gt
  have a1 := Adv0.c (Adv0_tj (h := g) (h' := h208) (by rw [Tg]; exact t) ⟨by rw [e208, e207, e206, e205, e204]; rfl, fun a j p1 p2 => oth a j (by omega) (by omega)⟩ ET (by omega) gv
    ⟨fun q _ => ⟨fun y => by rw [oth _ _ (by omega) (by omega)]; exact y, Or.inr ⟨fun _ => ee _ _ _ (by omega), ee _ _ _ (by omega)⟩⟩, fun q _ => ⟨fun y => by rw [oth _ _ (by omega) (by omega)]; exact y, Or.inr ⟨fun _ => ee _ _ _ (by omega), ee _ _ _ (by omega)⟩⟩, fun i i0 i1 => ⟨fun y => by rw [e13, bi_or, y]; rfl, by
      by_cases ii : i = pX L k
      · by_cases z0 : x21 = 0
        · right; rw [ii]; exact nog z0
        · left; rw [e13, if_neg z0, bi_or, ii, bi_shl (by omega) (by omega) (by omega)]; simp
      · right; exact ei 3 i 0 ii⟩, fun q _ => ⟨fun y => by rw [oth _ _ (by omega) (by omega)]; exact y, Or.inr fun a ha => ee _ _ _ (by omega)⟩, qui_13 (fun j => oth _ _ (by omega) (by omega)) (fun j => oth _ _ (by omega) (by omega)) (oth _ _ (by omega) (by omega)) (oth _ _ (by omega) (by omega)) (fun eT s _ => by rw [e13]; exact bi_or0 (sto eT))⟩ (fun j => oth _ _ (by omega) (by omega)))
    (cgt_of (fun j => oth _ _ (by omega) (by omega)) (fun j => oth _ _ (by omega) (by omega)) (fun a j ha => oth _ _ (by unfold za at ha; omega) (by unfold za at ha; omega)))
  have b1' : AdvC L k g h208 (fun U => fle (tT h L 0 k (7 + pDp L k)) (U 3 (pX L k) 0)) := Adv_w a1 (fun _ p => p) (fun U oU p cz => by
    rw [Tg] at p
    exact ((CL28 e).mp (CL_dn t q.r p cz)).1)
  have a2 : AdvC L k h h208 (fun U => fle (tT h L 0 k (7 + pDp L k)) (U 3 (pX L k) 0)) := AdvC_w (AdvC_tr (AdvC_same sg t) b1' up_t) (fun _ p => p.2)
  have c208 : cur L (pMo L k) h208 (tT h L 0 k) (tT h L 6 k 0) (pDp L k - 1) := by
    refine ⟨fun j hj => ?_, ?_, ?_⟩
    · rw [← c.1 j hj]; unfold cX
      rw [oth 499 _ (by omega) (by omega), oth 500 _ (by omega) (by omega), oth 501 _ (by omega) (by omega), oth 502 _ (by omega) (by omega)]
    · rw [← c.2.1]; unfold lkc_; rw [oth 396 62 (by omega) (by omega), oth 396 63 (by omega) (by omega)]
    · rw [oth 396 61 (by omega) (by omega)]; exact c.2.2
  refine w_flowOn hG q a2 (fun U V p y => fle_trans y (p _ _ _)) (by omega) (by omega) (by omega) c208 (by omega) (fun j hj => fgd_le a2.2.2.2.1 (q.sl (vld_up hj (by omega)))) (fgd_le a2.2.2.2.1 q.lk) (fun U oU p cz => ?_) (fun h' b _ => hQ h' (AdvC_w b (fun _ p => (CL28 e).mpr ⟨p.1, p.2⟩)))
  exact ((CL28 e).mp (CL_dn t q.r (tle_trans a2.2.2.2.1 p) cz)).2
/-! sites are made -/
/-- the kind of what a site holds -/
def knd (L : PG) (s f : Int) : Int := if pSc L s < 0 then -1 - pSc L s else pFk L (pSc L s) f
/-- the work's slots are as they were, but for a flag -/
def wsm' (h h' : MH) : Prop := (∀ a j, 499 ≤ a → a ≤ 502 → hv h' a j = hv h a j) ∧ ∀ j, j ≠ 12 → hv h' 396 j = hv h 396 j
theorem wsm'_cur {L : PG} {m : Int} {h h' : MH} (w : wsm' h h') {X : Int → FA} {lk : FA} {d : Int} (c : cur L m h X lk d) : cur L m h' X lk d := by
  refine ⟨fun j hj => ?_, ?_, ?_⟩
  · rw [← c.1 j hj]; unfold cX
    rw [w.1 499 _ (by omega) (by omega), w.1 500 _ (by omega) (by omega), w.1 501 _ (by omega) (by omega), w.1 502 _ (by omega) (by omega)]
  · rw [← c.2.1]; unfold lkc_; rw [w.2 _ (by omega), w.2 _ (by omega)]
  · rw [w.2 _ (by omega)]; exact c.2.2
theorem wsm'_tr {h1 h2 h3 : MH} (a : wsm' h1 h2) (b : wsm' h2 h3) : wsm' h1 h3 := ⟨fun x j p q => (b.1 x j p q).trans (a.1 x j p q), fun j p => (b.2 j p).trans (a.2 j p)⟩
theorem f1_fv (kd : Int) : f1st kd = fv 0 0 0 (if kd = 1 then 1 else 0) := by
  unfold f1st; split <;> rfl
theorem fgd_f1 (L : PG) (T : TB) (kd : Int) : fgd L T (f1st kd) := by
  unfold f1st; split
  · exact fgd_1 L T
  · exact fgd_n (mk_0 L) (mk_0 L) (Int.le_refl _) c32_0 c32_0 c32_0
theorem t_makeSite {l : Launch} {G : JG} (hG : gO G = true) {h : MH} {L : PG} (tf : TF h L) (w : WF L) (t : tiv L (tT h L)) (zz : zi h) {s : Int} (hs : inS L s) {Q : Int → MH → Prop} {E : Nat → Int → MH → Prop}
    (hQ : ∀ h', Adv L h h' (fun U => ∀ f, 0 ≤ f → f < nfs L s → fle (f1st (knd L s f)) (U 1 s f)) (fun U => ∀ f, 0 ≤ f → f < nfs L s → fle (f1st (knd L s f)) (U 1 s f)) → wsm' h h' → hv h' 472 s = 1 → Q 0 h') : S_X9_makeSite l G [(2009, 396), (0, s)] h Q E := by
  have nn := w.n
  unfold WFn at nn
  have hs1 := hs.1
  have hs2 := hs.2
  have sc := w.sc (s := s) (by omega) hs2
  have nf := nfs_le w hs
  refine Sem_hyp fun H ok => ?_
  have z472 := okf_z (tw_ok H hG (ok _ List.mem_cons_self) 30 (off := 76) (n := 63) (t := 102) (e := 2) (by decide) (by decide) (by decide) (by decide) (by decide) (show 0 ≤ s by omega) (by omega))
  rw [show (396 : Int) + 76 = 472 by decide] at z472
  refine s_X9_makeSite rfl fun K ki => r_X9_makeSite_0 ki hG ⟨by omega, by omega, ?_⟩
  intro nw enw
  refine ⟨tf.ne, by omega, by omega, ?_⟩
  intro c ec
  rw [tf.ss] at ec
  refine ⟨fun _ => ⟨tf.ne, by omega, by omega⟩, ?_⟩
  intro n en
  have en' : n = nfs L s := by
    rw [en, tf.fc]; unfold nfs; rw [ec]
  intro f0 ef0
  have knv : ∀ g : MH, TF g L → ∀ f, 0 ≤ f → f < n → ∀ x6 : Int, x6 = (if c < 0 then (w32 ((-1) - c)) else (hv g ((hv g 396 3) + 4) (w32 ((w32 (8 * c)) + f))) : Int) → x6 = knd L s f := by
    intro g tg f f0 f1 x6 e6
    rw [e6]; unfold knd
    rw [← ec]
    by_cases z : c < 0
    · rw [if_pos z, if_pos z, w32_i (by omega) (by omega)]
    · rw [if_neg z, if_neg z, w32_i (z := 8 * c) (by omega) (by omega), w32_i (by omega) (by omega), tg.at 4 _ (by omega) (by omega)]
  by_cases md : hv h 472 s = 1
  · -- it was made before
    have nw0 : nw = 0 := by rw [enw, if_neg (by omega)]
    have key : ∀ N : Nat, ∀ f : Int, ∀ g : MH, (n - f).toNat ≤ N → 0 ≤ f → f ≤ n →
        Adv L h g (fun U => ∀ f', 0 ≤ f' → f' < f → fle (f1st (knd L s f')) (U 1 s f')) (fun U => ∀ f', 0 ≤ f' → f' < nfs L s → fle (f1st (knd L s f')) (U 1 s f')) → wsm' h g → hv g 472 s = 1 →
        JW K 47 [(2009, 396), (0, s), (0, nw), (0, c), (0, n), (0, f), (5000, 0)] [] g := by
      have fin : ∀ g : MH, Adv L h g (fun U => ∀ f', 0 ≤ f' → f' < n → fle (f1st (knd L s f')) (U 1 s f')) (fun U => ∀ f', 0 ≤ f' → f' < nfs L s → fle (f1st (knd L s f')) (U 1 s f')) → wsm' h g → hv g 472 s = 1 → ∀ f : Int, f = n →
          JW K 47 [(2009, 396), (0, s), (0, nw), (0, c), (0, n), (0, f), (5000, 0)] [] g := by
        intro g a ws m1 f ef
        refine JW_hyp fun Hg okg _ => ?_
        have c12 : c64 (hv g 396 12) := okf_l (tw_fl Hg (okg _ List.mem_cons_self) 12 (e := 1) (by decide) (by decide))
        refine r_X9_makeSite_47 ki hG ⟨fun _ => ?_, fun z => by omega⟩
        intro h1 e1
        refine ⟨by omega, by omega, by simp, ?_⟩
        intro h2 e2
        have hh : h2 = g := by
          refine mh_ext (by rw [e2, e1]; rfl) (fun a' j => ?_)
          rw [e2, hv_set]
          by_cases y : a' = 472 ∧ j = s
          · rw [if_pos y, y.1, y.2, m1]
          · rw [if_neg y, e1, hv_set]
            by_cases y2 : a' = 396 ∧ j = 12
            · rw [if_pos y2, y2.1, y2.2, if_pos nw0]
              exact bl_ext (c64_l_or _ _) c12 (fun i _ _ => by rw [bl_or, bl_zero]; simp)
            · rw [if_neg y2]
        rw [hh]
        exact hQ g (Adv_w a (fun _ p f f0 f1 => p f f0 (by omega)) (fun U _ _ q => q)) ws m1
      intro N
      induction N with
      | zero => intro f g b0 b1' b2 a ws m1; exact fin g (by rw [show f = n by omega] at a; exact a) ws m1 f (by omega)
      | succ N ih =>
        intro f g b0 b1' b2 a ws m1
        by_cases fe : f = n
        · exact fin g (by rw [fe] at a; exact a) ws m1 f fe
        · have tg := frA_TF a.1 tf
          refine r_X9_makeSite_47 ki hG ⟨fun z => by omega, fun _ => ⟨fun zc => ⟨tg.ne, ?_⟩, ?_⟩⟩
          · rw [w32_i (z := 8 * c) (by omega) (by omega), w32_i (by omega) (by omega)]; omega
          · intro x6 e6
            have k6 := knv g tg f (by omega) (by omega) x6 e6
            refine t_joinHeld hG (by omega) (by omega) (by omega) (by omega) (Or.inl nw0) c32_0 (by split <;> (unfold c64; omega)) ?_
            intro g5 p5
            intro f' ef'
            rw [w32_i (by omega) (by omega)] at ef'
            subst ef'
            rw [if_pos nw0, k6, ← f1_fv] at p5
            have b := Adv_held w a.2.2.1 hs (by omega) (by omega) m1 (fgd_f1 _ _ _) p5
            refine ih _ _ (by omega) (by omega) (by omega) (Adv_w (Adv_tr a b (fun U V p q f' f0 f1 => fle_trans (q f' f0 f1) (p _ _ _))) (fun _ p f' f0 f1 => ?_) (fun U _ _ q => ⟨q, q f (by omega) (by omega)⟩)) (wsm'_tr ws ⟨fun x j q1 q2 => p5.2.1 x j (by omega) (by omega), fun j q1 => p5.2.2.1 j q1⟩) (by rw [p5.2.1 472 s (by omega) (by omega)]; exact m1)
            by_cases ff : f' = f
            · rw [ff]; exact p.2
            · exact p.1 f' f0 (by omega)
    subst ef0
    exact key _ 0 h (Nat.le_refl _) (by omega) (by omega) (Adv_w (same_Adv (same_rfl h) t) (fun _ _ f' q1 q2 => by omega) (fun _ _ _ _ => trivial)) ⟨fun _ _ _ _ => rfl, fun _ _ => rfl⟩ md
  · -- it is made now
    have nw1 : nw = 1 := by rw [enw, if_pos (by omega)]
    have key : ∀ N : Nat, ∀ f : Int, ∀ g : MH, (n - f).toNat ≤ N → 0 ≤ f → f ≤ n →
        (g.2 = h.2 ∧ (∀ a j, a ≠ 396 → ¬ (473 ≤ a ∧ a ≤ 476) → hv g a j = hv h a j) ∧ (∀ j, j ≠ 12 → hv g 396 j = hv h 396 j) ∧ (∀ x : Int, bl (hv h 396 12) x = true → bl (hv g 396 12) x = true) ∧
          (∀ j, ¬ (8 * s ≤ j ∧ j < 8 * s + f) → hrw g j = hrw h j) ∧ (∀ f', 0 ≤ f' → f' < f → hrw g (8 * s + f') = f1st (knd L s f'))) →
        JW K 47 [(2009, 396), (0, s), (0, nw), (0, c), (0, n), (0, f), (5000, 0)] [] g := by
      have fin : ∀ g : MH, (g.2 = h.2 ∧ (∀ a j, a ≠ 396 → ¬ (473 ≤ a ∧ a ≤ 476) → hv g a j = hv h a j) ∧ (∀ j, j ≠ 12 → hv g 396 j = hv h 396 j) ∧ (∀ x : Int, bl (hv h 396 12) x = true → bl (hv g 396 12) x = true) ∧
          (∀ j, ¬ (8 * s ≤ j ∧ j < 8 * s + n) → hrw g j = hrw h j) ∧ (∀ f', 0 ≤ f' → f' < n → hrw g (8 * s + f') = f1st (knd L s f'))) → ∀ f : Int, f = n →
          JW K 47 [(2009, 396), (0, s), (0, nw), (0, c), (0, n), (0, f), (5000, 0)] [] g := by
        intro g ⟨g1, g2, g3, g4, g5, g6⟩ f ef
        refine r_X9_makeSite_47 ki hG ⟨fun _ => ?_, fun z => by omega⟩
        intro h1 e1
        refine ⟨by omega, by omega, by simp, ?_⟩
        intro h2 e2
        have hh : ∀ a j, hv h2 a j = if a = 472 ∧ j = s then 1 else if a = 396 ∧ j = 12 then l_or (hv g 396 12) (l_shl 1 s) else hv g a j := by
          intro a j
          rw [e2, hv_set, e1, hv_set, if_neg (show ¬ nw = 0 by omega)]
        have hrow : ∀ j, hrw h2 j = hrw g j := by
          intro j; unfold hrw
          rw [hh, hh, hh, hh]; simp
        have oth : ∀ a j, a ≠ 396 → a ≠ 472 → ¬ (473 ≤ a ∧ a ≤ 476) → hv h2 a j = hv h a j := by
          intro a j p1 p2 p3
          rw [hh, if_neg (by omega), if_neg (by omega)]; exact g2 a j p1 p3
        have o472 : ∀ j, j ≠ s → hv h2 472 j = hv h 472 j := by
          intro j p1
          rw [hh, if_neg (by omega), if_neg (by omega)]; exact g2 472 j (by omega) (by omega)
        have T1 : ∀ b cc, tT h2 L 1 b cc = if b = s ∧ 0 ≤ cc ∧ cc < n then f1st (knd L s cc) else tT h L 1 b cc := by
          intro b cc
          show t1 h2 L b cc = if _ then _ else t1 h L b cc
          by_cases z : b = s ∧ 0 ≤ cc ∧ cc < n
          · rw [if_pos z]
            obtain ⟨rfl, z2, z3⟩ := z
            unfold t1
            rw [iff_p ⟨hs, by rw [hh]; simp, z2, by omega⟩]
            show hrw h2 (8 * b + cc) = _
            rw [hrow, g6 cc z2 z3]
          · rw [if_neg z]
            unfold t1
            by_cases bs : b = s
            · subst bs
              rw [iff_n (fun y => z ⟨rfl, y.2.2.1, by have := y.2.2.2; omega⟩), iff_n (fun y => z ⟨rfl, y.2.2.1, by have := y.2.2.2; omega⟩)]
            · refine iff_c (by rw [o472 b bs]) (fun y => ?_)
              have := nfs_le w y.1
              have e9 : hrw h2 (8 * b + cc) = hrw h (8 * b + cc) := by rw [hrow]; exact g5 _ (by omega)
              exact e9
        have Te : ∀ a b cc, a ≠ 1 → tT h2 L a b cc = tT h L a b cc := by
          intro a b cc ha
          simp only [tT, if_neg ha, t0, t2, t3, t4, t5, t6, t7, t8, t9, t10, t11, t14, t15, row]
          simp only [oth 460 _ (by decide) (by decide) (by decide), oth 461 _ (by decide) (by decide) (by decide), oth 462 _ (by decide) (by decide) (by decide), oth 463 _ (by decide) (by decide) (by decide), oth 464 _ (by decide) (by decide) (by decide), oth 465 _ (by decide) (by decide) (by decide), oth 466 _ (by decide) (by decide) (by decide), oth 467 _ (by decide) (by decide) (by decide), oth 468 _ (by decide) (by decide) (by decide), oth 469 _ (by decide) (by decide) (by decide), oth 477 _ (by decide) (by decide) (by decide), oth 478 _ (by decide) (by decide) (by decide), oth 479 _ (by decide) (by decide) (by decide), oth 480 _ (by decide) (by decide) (by decide), oth 481 _ (by decide) (by decide) (by decide), oth 482 _ (by decide) (by decide) (by decide), oth 483 _ (by decide) (by decide) (by decide), oth 484 _ (by decide) (by decide) (by decide), oth 485 _ (by decide) (by decide) (by decide), oth 486 _ (by decide) (by decide) (by decide), oth 487 _ (by decide) (by decide) (by decide), oth 488 _ (by decide) (by decide) (by decide), oth 489 _ (by decide) (by decide) (by decide), oth 490 _ (by decide) (by decide) (by decide), oth 491 _ (by decide) (by decide) (by decide), oth 492 _ (by decide) (by decide) (by decide), oth 493 _ (by decide) (by decide) (by decide), oth 494 _ (by decide) (by decide) (by decide), oth 495 _ (by decide) (by decide) (by decide), oth 496 _ (by decide) (by decide) (by decide), oth 497 _ (by decide) (by decide) (by decide), oth 498 _ (by decide) (by decide) (by decide)]
        have T1z : ∀ cc, tT h L 1 s cc = fz := by
          intro cc
          show t1 h L s cc = fz
          unfold t1
          exact iff_n (fun y => md y.2.1)
        have le : tle (tT h L) (tT h2 L) := by
          intro a b cc
          by_cases a1 : a = 1
          · subst a1
            rw [T1]
            by_cases z : b = s ∧ 0 ≤ cc ∧ cc < n
            · rw [if_pos z, z.1, T1z]; exact fle_fz _
            · rw [if_neg z]; exact fle_rfl _
          · rw [Te a b cc a1]; exact fle_rfl _
        have e12 : hv h2 396 12 = l_or (hv g 396 12) (l_shl 1 s) := by rw [hh]; simp
        refine hQ h2 ⟨⟨by rw [e2, e1]; exact g1, fun a j p1 p2 => ?_⟩, ⟨fun q _ => ⟨fun y => by rw [oth _ _ (by omega) (by omega) (by omega)]; exact y, Or.inr ⟨fun _ => Te _ _ _ (by omega), Te _ _ _ (by omega)⟩⟩, fun s' hs' => ⟨fun y => by rw [e12, bl_or, g4 _ y]; rfl, ?_⟩, fun i _ _ => ⟨fun y => by rw [hh, if_neg (by omega), if_neg (by omega), g3 13 (by omega)]; exact y, Or.inr (Te _ _ _ (by omega))⟩, fun m _ => ⟨fun y => by rw [hh, if_neg (by omega), if_neg (by omega), g3 14 (by omega)]; exact y, Or.inr fun a ha => Te _ _ _ (by omega)⟩, ⟨fun s' y => if z : s' = s then by rw [hh, if_pos ⟨rfl, z⟩] else by rw [o472 s' z]; exact y, fun _ e7 => absurd (e7 s (by omega) (by omega) (by rw [hh, if_pos ⟨rfl, rfl⟩])) md⟩⟩, ?_, le, fun f f0 f1 => ?_, fun U _ p q a b cc => ?_, fun cg => ⟨fun k i hk i0 i1 => by rw [oth 470 _ (by omega) (by omega) (by omega), oth 467 _ (by omega) (by omega) (by omega)]; exact cg.1 k i hk i0 i1, ?_⟩, fun j => oth _ _ (by omega) (by omega) (by omega)⟩ ⟨fun a j p1 p2 => oth a j (by omega) (by omega) (by omega), fun j p1 => by rw [hh, if_neg (by omega), if_neg (by omega)]; exact g3 j p1⟩ (by rw [hh]; simp)
        · by_cases y : a = 396
          · subst y; rw [hh, if_neg (by omega), if_neg (by omega)]; exact g3 j (by omega)
          · exact oth a j y (by omega) (by omega)
        · by_cases ss : s' = s
          · left; rw [e12, bl_or, ss, bl_shl (by omega) (by omega) (by omega)]; simp
          · right; exact ⟨fun f => by rw [T1, if_neg (fun y => ss y.1)], Te _ _ _ (by omega)⟩
        · obtain ⟨t1', t2', t3', t4', t5', t6'⟩ := t
          refine ⟨fun a b cc => ?_, fun a b cc => fmk_le le ?_, fun a b cc => ?_, fun c' => ?_, fun c' => ?_, fun q' s' r1 r2 => ?_⟩
          · by_cases a1 : a = 1
            · subst a1; rw [T1]; split
              · exact (fgd_f1 L (tT h L) _).1
              · exact t1' _ _ _
            · rw [Te a b cc a1]; exact t1' _ _ _
          · by_cases a1 : a = 1
            · subst a1; rw [T1]; split
              · exact (fgd_f1 L (tT h L) _).2.1
              · exact t2' _ _ _
            · rw [Te a b cc a1]; exact t2' _ _ _
          · by_cases a1 : a = 1
            · subst a1; rw [T1]; split
              · exact (fgd_f1 L (tT h L) _).2.2.1
              · exact t3' _ _ _
            · rw [Te a b cc a1]; exact t3' _ _ _
          · rw [Te 5 c' 0 (by omega), Te 7 c' 0 (by omega)]; exact t4' c'
          · rw [Te 14 c' 0 (by omega), Te 8 c' 0 (by omega)]; exact t5' c'
          · rw [Te 6 _ _ (by omega)] at r1
            rw [Te 0 _ _ (by omega)]; exact t6' q' s' r1 r2
        · rw [T1, if_pos ⟨rfl, f0, by omega⟩]; exact fle_rfl _
        · by_cases a1 : a = 1
          · subst a1; rw [T1]
            by_cases z : b = s ∧ 0 ≤ cc ∧ cc < n
            · rw [if_pos z, z.1]; exact q cc z.2.1 (by omega)
            · rw [if_neg z]; exact p _ _ _
          · rw [Te a b cc a1]; exact p _ _ _
        · refine ⟨fun s' f' s0 s1 f0' f1' y => ?_, fun m m0 m1 y => ?_, fun s' s0 s1 y => ?_, fun m m0 m1 y => ?_⟩
          · have ns : s' ≠ s := fun e' => y (by rw [e', hh]; simp)
            rw [o472 s' ns] at y
            have rr : hrw h2 (8 * s' + f') = hrw h (8 * s' + f') := by rw [hrow]; exact g5 _ (by omega)
            have r3 : hv h2 475 (8 * s' + f') = hv h 475 (8 * s' + f') := congrArg alb rr
            have r4 : hv h2 476 (8 * s' + f') = hv h 476 (8 * s' + f') := congrArg ast rr
            rw [r3, r4]; exact zz.1 s' f' s0 s1 f0' f1' y
          · rw [oth 491 m (by omega) (by omega) (by omega), oth 492 m (by omega) (by omega) (by omega)]
            exact zz.2.1 m m0 m1 (by rw [oth 488 m (by omega) (by omega) (by omega)] at y; exact y)
          · rw [oth 477 s' (by omega) (by omega) (by omega), oth 478 s' (by omega) (by omega) (by omega)]
            exact zz.2.2.1 s' s0 s1 (by rw [oth 479 s' (by omega) (by omega) (by omega)] at y; exact y)
          · rw [oth 489 m (by omega) (by omega) (by omega), oth 490 m (by omega) (by omega) (by omega)]
            exact zz.2.2.2 m m0 m1 (by rw [oth 488 m (by omega) (by omega) (by omega)] at y; exact y)
      intro N
      induction N with
      | zero => intro f g b0 b1' b2 a; exact fin g (by rw [show f = n by omega] at a; exact a) f (by omega)
      | succ N ih =>
        intro f g b0 b1' b2 a
        by_cases fe : f = n
        · exact fin g (by rw [fe] at a; exact a) f fe
        · obtain ⟨g1, g2, g3, g4, g5, g6⟩ := a
          have tg : TF g L := tf.of (g3 3 (by omega)) (fun a j _ _ => g2 a j (by omega) (by omega))
          have rf : hrw g (8 * s + f) = hrw h (8 * s + f) := g5 _ (by omega)
          have q3 : hv g 475 (8 * s + f) = 0 := by
            have : hv g 475 (8 * s + f) = hv h 475 (8 * s + f) := congrArg alb rf
            rw [this]; exact (zz.1 s f (by omega) (by omega) (by omega) (by omega) md).1
          have q4 : hv g 476 (8 * s + f) = 0 := by
            have : hv g 476 (8 * s + f) = hv h 476 (8 * s + f) := congrArg ast rf
            rw [this]; exact (zz.1 s f (by omega) (by omega) (by omega) (by omega) md).2
          refine r_X9_makeSite_47 ki hG ⟨fun z => by omega, fun _ => ⟨fun zc => ⟨tg.ne, ?_⟩, ?_⟩⟩
          · rw [w32_i (z := 8 * c) (by omega) (by omega), w32_i (by omega) (by omega)]; omega
          · intro x6 e6
            have k6 := knv g tg f (by omega) (by omega) x6 e6
            refine t_joinHeld hG (by omega) (by omega) (by omega) (by omega) (Or.inr ⟨nw1, q3, q4⟩) c32_0 (by split <;> (unfold c64; omega)) ?_
            intro g5' p5
            intro f' ef'
            rw [w32_i (by omega) (by omega)] at ef'
            subst ef'
            rw [if_neg (by omega), k6, ← f1_fv] at p5
            obtain ⟨p1, p2, p3, p4, p5', p6⟩ := p5
            refine ih _ _ (by omega) (by omega) (by omega) ⟨by rw [p1]; exact g1, fun a j y1 y2 => by rw [p2 a j y1 y2]; exact g2 a j y1 y2, fun j y1 => by rw [p3 j y1]; exact g3 j y1, fun x y => p5' x (g4 x y), fun j y => ?_, fun f' y1 y2 => ?_⟩
            · rw [p4, if_neg (by omega)]; exact g5 j (by omega)
            · rw [p4]
              by_cases ff : f' = f
              · rw [ff, if_pos rfl]
              · rw [if_neg (by omega)]; exact g6 f' y1 (by omega)
    subst ef0
    exact key _ 0 h (Nat.le_refl _) (by omega) (by omega) ⟨rfl, fun _ _ _ _ => rfl, fun _ _ => rfl, fun _ y => y, fun _ _ => rfl, fun f' y1 y2 => by omega⟩
