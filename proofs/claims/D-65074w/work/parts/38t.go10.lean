/-! Part 38t: goOn: returns -/
set_option maxRecDepth 100000
theorem CL31 {L : PG} {T U : TB} {k : Int} (e : pOp L k = 31) : CLz L T U k ↔ ((fle (if 0 < pGi L (pMo L k) then T 0 k (7 + pDp L k) else fv 0 0 0 0) (U 5 (pMo L k) 0)) ∧ fle (T 6 k 0) (U 7 (pMo L k) 0)) := by simp [CLz, Csz, Co, Ccz, e]
/-- what a method gives back is noted -/
theorem giv_T {h h' : MH} {L : PG} {m : Int} {u lk : FA} (hm : inM L m) (z488 : hv h 488 m = 0 ∨ hv h 488 m = 1) (e488 : ∀ j, hv h' 488 j = if j = m then 1 else hv h 488 j)
    (hu : fv (hv h' 489 m) (hv h' 490 m) (hv h' 491 m) (hv h' 492 m) = if hv h 488 m = 1 then fjoin (fv (hv h 489 m) (hv h 490 m) (hv h 491 m) (hv h 492 m)) u else u) (au : ath u = 1)
    (hl : fk (hv h' 493 m) (hv h' 494 m) = if hv h 488 m = 1 then fjoin (fk (hv h 493 m) (hv h 494 m)) lk else lk) (al : ath lk = 1)
    (e48 : ∀ a j, 489 ≤ a → a ≤ 494 → j ≠ m → hv h' a j = hv h a j) (hh : ∀ a j, 460 ≤ a → a ≤ 498 → ¬ (488 ≤ a ∧ a ≤ 494) → hv h' a j = hv h a j) : tT h' L = tj (tj (tT h L) 5 m 0 u) 7 m 0 lk := by
  funext y i c
  unfold tj
  by_cases a7 : y = 7
  · subst a7
    show t7 h' L i c = if _ then fjoin (if _ then _ else t7 h L i c) _ else (if _ then _ else t7 h L i c)
    rw [if_neg (show ¬ ((7 : Int) = 5 ∧ i = m ∧ c = 0) from fun y => by have := y.1; omega)]
    unfold t7
    by_cases z : i = m ∧ c = 0
    · obtain ⟨rfl, rfl⟩ := z
      rw [if_pos ⟨rfl, rfl, rfl⟩, iff_p ⟨hm, rfl, by rw [e488, if_pos rfl]⟩, hl]
      by_cases z1 : hv h 488 i = 1
      · rw [if_pos z1, iff_p ⟨hm, rfl, z1⟩]
      · rw [if_neg z1, iff_n (fun y => z1 y.2.2), fjoin_zv al]
    · rw [if_neg (fun w => z w.2)]
      refine iff_c ?_ (fun w => ?_)
      · constructor
        · intro w; rw [e488, if_neg (fun w2 => z ⟨w2, w.2.1⟩)] at w; exact w
        · intro w; rw [e488, if_neg (fun w2 => z ⟨w2, w.2.1⟩)]; exact w
      · have ne : i ≠ m := fun w2 => z ⟨w2, w.2.1⟩
        rw [e48 493 i (by omega) (by omega) ne, e48 494 i (by omega) (by omega) ne]
  · rw [if_neg (show ¬ (y = 7 ∧ i = m ∧ c = 0) from fun w => a7 w.1)]
    by_cases a5 : y = 5
    · subst a5
      show t5 h' L i c = if _ then fjoin (t5 h L i c) _ else t5 h L i c
      unfold t5
      by_cases z : i = m ∧ c = 0
      · obtain ⟨rfl, rfl⟩ := z
        rw [if_pos ⟨rfl, rfl, rfl⟩, iff_p ⟨hm, rfl, by rw [e488, if_pos rfl]⟩, hu]
        by_cases z1 : hv h 488 i = 1
        · rw [if_pos z1, iff_p ⟨hm, rfl, z1⟩]
        · rw [if_neg z1, iff_n (fun y => z1 y.2.2), fjoin_zv au]
      · rw [if_neg (fun w => z w.2)]
        refine iff_c ?_ (fun w => ?_)
        · constructor
          · intro w; rw [e488, if_neg (fun w2 => z ⟨w2, w.2.1⟩)] at w; exact w
          · intro w; rw [e488, if_neg (fun w2 => z ⟨w2, w.2.1⟩)]; exact w
        · have ne : i ≠ m := fun w2 => z ⟨w2, w.2.1⟩
          rw [e48 489 i (by omega) (by omega) ne, e48 490 i (by omega) (by omega) ne, e48 491 i (by omega) (by omega) ne, e48 492 i (by omega) (by omega) ne]
    · rw [if_neg (fun w => a5 w.1)]
      simp only [tT, if_neg a5, if_neg a7, t0, t1, t2, t3, t4, t6, t8, t9, t10, t11, t14, t15, row]
      simp only [hh 460 _ (by decide) (by decide) (by decide), hh 461 _ (by decide) (by decide) (by decide), hh 462 _ (by decide) (by decide) (by decide), hh 463 _ (by decide) (by decide) (by decide), hh 464 _ (by decide) (by decide) (by decide), hh 465 _ (by decide) (by decide) (by decide), hh 466 _ (by decide) (by decide) (by decide), hh 467 _ (by decide) (by decide) (by decide), hh 468 _ (by decide) (by decide) (by decide), hh 469 _ (by decide) (by decide) (by decide), hh 472 _ (by decide) (by decide) (by decide), hh 473 _ (by decide) (by decide) (by decide), hh 474 _ (by decide) (by decide) (by decide), hh 475 _ (by decide) (by decide) (by decide), hh 476 _ (by decide) (by decide) (by decide), hh 477 _ (by decide) (by decide) (by decide), hh 478 _ (by decide) (by decide) (by decide), hh 479 _ (by decide) (by decide) (by decide), hh 480 _ (by decide) (by decide) (by decide), hh 481 _ (by decide) (by decide) (by decide), hh 482 _ (by decide) (by decide) (by decide), hh 483 _ (by decide) (by decide) (by decide), hh 484 _ (by decide) (by decide) (by decide), hh 485 _ (by decide) (by decide) (by decide), hh 486 _ (by decide) (by decide) (by decide), hh 487 _ (by decide) (by decide) (by decide), hh 495 _ (by decide) (by decide) (by decide), hh 496 _ (by decide) (by decide) (by decide), hh 497 _ (by decide) (by decide) (by decide), hh 498 _ (by decide) (by decide) (by decide)]
theorem tiv_giv {L : PG} {T : TB} (t : tiv L T) {m : Int} {u lk : FA} (g1 : fgd L T u) (g2 : fgd L T lk) : tiv L (tj (tj T 5 m 0 u) 7 m 0 lk) := by
  obtain ⟨t1', t2', t3', t4', t5', t6'⟩ := t
  have up : tle T (tj (tj T 5 m 0 u) 7 m 0 lk) := tle_trans (tj_ge T 5 m 0 _) (tj_ge _ 7 m 0 _)
  have e : ∀ b k j, b ≠ 7 → b ≠ 5 → tj (tj T 5 m 0 u) 7 m 0 lk b k j = T b k j := by
    intro b k j h8 h14
    unfold tj
    rw [if_neg (fun y => h8 y.1), if_neg (fun y => h14 y.1)]
  refine ⟨tj_ok (tj_ok t1' g1.1) g2.1, fun b k j => fmk_le up ?_, fun b k j => ?_, fun c => ?_, fun c => ?_, fun q' s r1 r2 => ?_⟩
  · unfold tj
    split
    · refine fmk_join ?_ g2.2.1
      split
      · exact fmk_join (t2' _ _ _) g1.2.1
      · exact t2' _ _ _
    · split
      · exact fmk_join (t2' _ _ _) g1.2.1
      · exact t2' _ _ _
  · unfold tj
    split
    · refine fmr_join ?_ g2.2.2.1
      split
      · exact fmr_join (t3' _ _ _) g1.2.2.1
      · exact t3' _ _ _
    · split
      · exact fmr_join (t3' _ _ _) g1.2.2.1
      · exact t3' _ _ _
  · by_cases cm : c = m
    · subst cm
      have a5 : tj (tj T 5 c 0 u) 7 c 0 lk 5 c 0 = fjoin (T 5 c 0) u := by
        unfold tj
        rw [if_neg (fun y => by have := y.1; omega), if_pos ⟨rfl, rfl, rfl⟩]
      have a7 : tj (tj T 5 c 0 u) 7 c 0 lk 7 c 0 = fjoin (T 7 c 0) lk := by
        unfold tj
        rw [if_pos ⟨rfl, rfl, rfl⟩, if_neg (fun y => by have := y.1; omega)]
      rw [a5, a7, ath_join, ath_join, g1.2.2.2, g2.2.2.2]
      constructor
      · intro _; exact Or.inr (by decide)
      · intro _; exact Or.inr (by decide)
    · have a5 : tj (tj T 5 m 0 u) 7 m 0 lk 5 c 0 = T 5 c 0 := by
        unfold tj
        rw [if_neg (fun y => cm y.2.1), if_neg (fun y => cm y.2.1)]
      have a7 : tj (tj T 5 m 0 u) 7 m 0 lk 7 c 0 = T 7 c 0 := by
        unfold tj
        rw [if_neg (fun y => cm y.2.1), if_neg (fun y => cm y.2.1)]
      rw [a5, a7]; exact t4' c
  · rw [e 14 c 0 (by omega) (by omega), e 8 c 0 (by omega) (by omega)]; exact t5' c
  · rw [e 6 _ _ (by omega) (by omega)] at r1
    rw [e 0 _ _ (by omega) (by omega)]; exact t6' q' s r1 r2
/-- the last steps of giveBack, from the heap g in which the value stands as pulled -/
theorem give1 {h g : MH} {L : PG} {k : Int} {u : FA} (tf : TF h L) (w : WF L) (t : tiv L (tT h L)) (k0 : 0 ≤ k) (k1 : k < pNp L) (hr : rch (tT h L) k) (e : pOp L k = 31) (sg : same h g) (eu : u = (if 0 < pGi L (pMo L k) then tT h L 0 k (7 + pDp L k) else fv 0 0 0 0)) (gu : fgd L (tT h L) u)
    (pu : pld g = u) (lg : lkc_ g = tT h L 6 k 0) (zz : zi g) (z488 : hv g 488 (pMo L k) = 0 ∨ hv g 488 (pMo L k) = 1) (c491 : c32 (hv g 491 (pMo L k))) (c492 : c64 (hv g 492 (pMo L k)))
    {x3 x4 x5 x6 x7 x8 : Int} (e3 : x3 = (if (hv g 488 (pMo L k)) = 0 then 1 else 0 : Int)) (e4 : x4 = (if x3 = 0 then (min (hv g 489 (pMo L k)) (hv g 396 64)) else (hv g 396 64) : Int)) (e5 : x5 = (if x3 = 0 then (max (hv g 490 (pMo L k)) (hv g 396 65)) else (hv g 396 65) : Int))
    (e6 : x6 = (if x3 = 0 then (i_and (hv g 493 (pMo L k)) (hv g 396 62)) else (hv g 396 62) : Int)) (e7 : x7 = (if x3 = 0 then (i_or (hv g 494 (pMo L k)) (hv g 396 63)) else (hv g 396 63) : Int))
    (e8 : x8 = (if x3 = 0 then (if x4 = (hv g 489 (pMo L k)) then (if x5 = (hv g 490 (pMo L k)) then (if (i_and (hv g 396 66) (i_xor (hv g 491 (pMo L k)) (-1))) = 0 then (if (lc (l_and (hv g 396 67) (l_xor (hv g 492 (pMo L k)) (-1))) 0) = 0 then (if x6 = (hv g 493 (pMo L k)) then (if x7 = (hv g 494 (pMo L k)) then 0 else 1 : Int) else 1 : Int) else 1 : Int) else 1 : Int) else 1 : Int) else 1 : Int) else 1 : Int))
    {h12 h13 h14 h15 h16 h17 h18 h19 : MH} (e12 : h12 = hset g 396 14 (l_or (hv g 396 14) (if x8 = 0 then 0 else (l_shl 1 (pMo L k)) : Int))) (e13 : h13 = hset h12 489 (pMo L k) x4) (e14 : h14 = hset h13 490 (pMo L k) x5)
    (e15 : h15 = hset h14 491 (pMo L k) (i_or (hv h14 491 (pMo L k)) (hv h14 396 66))) (e16 : h16 = hset h15 492 (pMo L k) (l_or (hv h15 492 (pMo L k)) (hv h15 396 67))) (e17 : h17 = hset h16 493 (pMo L k) x6) (e18 : h18 = hset h17 494 (pMo L k) x7) (e19 : h19 = hset h18 488 (pMo L k) 1) :
    AdvC L k h h19 (fun U => CLz L (tT h L) U k) := by
  have nn := w.n
  unfold WFn at nn
  obtain ⟨mo, -⟩ := w.k k0 k1
  have hm : inM L (pMo L k) := ⟨mo.1, mo.2.1⟩
  have Tg : tT g L = tT h L := same_T sg
  have pv : fv (hv g 396 64) (hv g 396 65) (hv g 396 66) (hv g 396 67) = u := pu
  have lv : fk (hv g 396 62) (hv g 396 63) = tT h L 6 k 0 := lg
  have hh : ∀ a j, hv h19 a j = if a = 488 ∧ j = pMo L k then 1 else if a = 494 ∧ j = pMo L k then x7 else if a = 493 ∧ j = pMo L k then x6 else if a = 492 ∧ j = pMo L k then l_or (hv g 492 (pMo L k)) (hv g 396 67) else if a = 491 ∧ j = pMo L k then i_or (hv g 491 (pMo L k)) (hv g 396 66) else if a = 490 ∧ j = pMo L k then x5 else if a = 489 ∧ j = pMo L k then x4 else if a = 396 ∧ j = 14 then l_or (hv g 396 14) (if x8 = 0 then 0 else l_shl 1 (pMo L k)) else hv g a j := by
    intro a j
    have v15 : hv h15 492 (pMo L k) = hv g 492 (pMo L k) ∧ hv h15 396 67 = hv g 396 67 := by
      constructor
      · rw [e15, ne_a (by decide), e14, ne_a (by decide), e13, ne_a (by decide), e12, ne_a (by decide)]
      · rw [e15, ne_a (by decide), e14, ne_a (by decide), e13, ne_a (by decide), e12, ne_k (by decide)]
    have v14 : hv h14 491 (pMo L k) = hv g 491 (pMo L k) ∧ hv h14 396 66 = hv g 396 66 := by
      constructor
      · rw [e14, ne_a (by decide), e13, ne_a (by decide), e12, ne_a (by decide)]
      · rw [e14, ne_a (by decide), e13, ne_a (by decide), e12, ne_k (by decide)]
    rw [e19, hv_set, e18, hv_set, e17, hv_set, e16, hv_set, v15.1, v15.2, e15, hv_set, v14.1, v14.2, e14, hv_set, e13, hv_set, e12, hv_set]
  have x3v : x3 = 0 ↔ hv g 488 (pMo L k) = 1 := by rw [e3]; rcases z488 with z | z <;> rw [z] <;> simp
  have hu : fv x4 x5 (i_or (hv g 491 (pMo L k)) (hv g 396 66)) (l_or (hv g 492 (pMo L k)) (hv g 396 67)) = if hv g 488 (pMo L k) = 1 then fjoin (fv (hv g 489 (pMo L k)) (hv g 490 (pMo L k)) (hv g 491 (pMo L k)) (hv g 492 (pMo L k))) u else u := by
    rw [← pv, e4, e5]
    by_cases z : x3 = 0
    · rw [if_pos z, if_pos z, if_pos (x3v.mp z), fjoin_fv]
    · have z0 : ¬ hv g 488 (pMo L k) = 1 := fun y => z (x3v.mpr y)
      have zr := zz.2.1 (pMo L k) mo.1 (by omega) z0
      have g6 := fok_there (show fok (fv (hv g 396 64) (hv g 396 65) (hv g 396 66) (hv g 396 67)) by rw [pv]; exact gu.1) (by decide : (1 : Int) ≠ 0)
      rw [if_neg z, if_neg z, if_neg z0, zr.1, zr.2, l_or_0 (show c64 (hv g 396 67) from g6.2.2.2.2.2.1)]
      congr 1
      exact bi_ext (c32_i_or _ _) (show c32 (hv g 396 66) from g6.2.2.2.2.1) (fun x _ _ => by rw [bi_or, bi_zero]; simp)
  have hl : fk x6 x7 = if hv g 488 (pMo L k) = 1 then fjoin (fk (hv g 493 (pMo L k)) (hv g 494 (pMo L k))) (tT h L 6 k 0) else tT h L 6 k 0 := by
    rw [← lv, e6, e7]
    by_cases z : x3 = 0
    · rw [if_pos z, if_pos z, if_pos (x3v.mp z), fjoin_fk]
    · rw [if_neg z, if_neg z, if_neg (fun y => z (x3v.mpr y))]
  have g6 := tiv_lock t hr
  have oth : ∀ a j, ¬ (488 ≤ a ∧ a ≤ 494) → ¬ (a = 396 ∧ j = 14) → hv h19 a j = hv g a j := fun a j na nb => by rw [hh, if_neg (by omega), if_neg (by omega), if_neg (by omega), if_neg (by omega), if_neg (by omega), if_neg (by omega), if_neg (by omega), if_neg nb]
  have othm : ∀ a j, 488 ≤ a → a ≤ 494 → j ≠ pMo L k → hv h19 a j = hv g a j := fun a j na nb nc => by rw [hh, if_neg (by omega), if_neg (by omega), if_neg (by omega), if_neg (by omega), if_neg (by omega), if_neg (by omega), if_neg (by omega), if_neg (by omega)]
  have e488 : ∀ j, hv h19 488 j = if j = pMo L k then 1 else hv g 488 j := by
    intro j
    by_cases z : j = pMo L k
    · rw [hh, if_pos ⟨rfl, z⟩, if_pos z]
    · rw [othm 488 j (by omega) (by omega) z, if_neg z]
  have v489 : hv h19 489 (pMo L k) = x4 := by rw [hh]; simp
  have v490 : hv h19 490 (pMo L k) = x5 := by rw [hh]; simp
  have v491 : hv h19 491 (pMo L k) = i_or (hv g 491 (pMo L k)) (hv g 396 66) := by
    rw [hh, if_neg (by omega), if_neg (by omega), if_neg (by omega), if_neg (by omega), if_pos ⟨rfl, rfl⟩]
  have v492 : hv h19 492 (pMo L k) = l_or (hv g 492 (pMo L k)) (hv g 396 67) := by
    rw [hh, if_neg (by omega), if_neg (by omega), if_neg (by omega), if_pos ⟨rfl, rfl⟩]
  have v493 : hv h19 493 (pMo L k) = x6 := by rw [hh, if_neg (by omega), if_neg (by omega), if_pos ⟨rfl, rfl⟩]
  have v494 : hv h19 494 (pMo L k) = x7 := by rw [hh, if_neg (by omega), if_pos ⟨rfl, rfl⟩]
  have e14' : hv h19 396 14 = l_or (hv g 396 14) (if x8 = 0 then 0 else l_shl 1 (pMo L k)) := by
    rw [hh, if_neg (by omega), if_neg (by omega), if_neg (by omega), if_neg (by omega), if_neg (by omega), if_neg (by omega), if_neg (by omega), if_pos ⟨rfl, rfl⟩]
  have ET := giv_T (h := g) (h' := h19) (L := L) (m := pMo L k) (u := u) (lk := tT h L 6 k 0) hm z488 e488 (by rw [v489, v490, v491, v492]; exact hu) gu.2.2.2 (by rw [v493, v494]; exact hl) g6.2.2.2 (fun a j a0 a1 ne => othm a j (by omega) (by omega) ne) (fun a j a0 a1 na => oth a j na (by omega))
  have le1 := tj_le.mp (tle_rfl (tj (tj (tT g L) 5 (pMo L k) 0 u) 7 (pMo L k) 0 (tT h L 6 k 0)))
  have le0 := tj_le.mp le1.1
  have ee : ∀ a b c, a ≠ 5 → a ≠ 7 → tT h19 L a b c = tT g L a b c := by
    intro a b c h5 h7
    rw [ET]; unfold tj
    rw [if_neg (fun y => h7 y.1), if_neg (fun y => h5 y.1)]
  have em : ∀ a b c, b ≠ pMo L k → tT h19 L a b c = tT g L a b c := by
    intro a b c hb
    rw [ET]; unfold tj
    rw [if_neg (fun y => hb y.2.1), if_neg (fun y => hb y.2.1)]
  have nog : x8 = 0 → tT h19 L = tT g L := by
    intro z
    rw [e8] at z
    have n0 : x3 = 0 := by
      by_cases r : x3 = 0
      · exact r
      · rw [if_neg r] at z; omega
    rw [if_pos n0] at z
    have n1 : x4 = hv g 489 (pMo L k) := by
      by_cases r : x4 = hv g 489 (pMo L k)
      · exact r
      · rw [if_neg r] at z; omega
    rw [if_pos n1] at z
    have n2 : x5 = hv g 490 (pMo L k) := by
      by_cases r : x5 = hv g 490 (pMo L k)
      · exact r
      · rw [if_neg r] at z; omega
    rw [if_pos n2] at z
    have n3 : i_and (hv g 396 66) (i_xor (hv g 491 (pMo L k)) (-1)) = 0 := by
      by_cases r : i_and (hv g 396 66) (i_xor (hv g 491 (pMo L k)) (-1)) = 0
      · exact r
      · rw [if_neg r] at z; omega
    rw [if_pos n3] at z
    have n4 : l_and (hv g 396 67) (l_xor (hv g 492 (pMo L k)) (-1)) = 0 := by
      by_cases r : lc (l_and (hv g 396 67) (l_xor (hv g 492 (pMo L k)) (-1))) 0 = 0
      · rw [lc_eq] at r; exact r
      · rw [if_neg r] at z; omega
    rw [if_pos (by rw [lc_eq]; exact n4)] at z
    have n5 : x6 = hv g 493 (pMo L k) := by
      by_cases r : x6 = hv g 493 (pMo L k)
      · exact r
      · rw [if_neg r] at z; omega
    rw [if_pos n5] at z
    have n6 : x7 = hv g 494 (pMo L k) := by
      by_cases r : x7 = hv g 494 (pMo L k)
      · exact r
      · rw [if_neg r] at z; omega
    refine tT_eq (fun a j p1 p2 => ?_)
    by_cases y : j = pMo L k
    · by_cases y1 : 488 ≤ a ∧ a ≤ 494
      · have : a = 488 ∨ a = 489 ∨ a = 490 ∨ a = 491 ∨ a = 492 ∨ a = 493 ∨ a = 494 := by omega
        subst y
        rcases this with r | r | r | r | r | r | r <;> subst r
        · rw [e488, if_pos rfl]; exact (x3v.mp n0).symm
        · rw [v489, n1]
        · rw [v490, n2]
        · rw [v491, i_or_sub c491 (andn0 n3)]
        · rw [v492, l_or_sub c492 (andn0l n4)]
        · rw [v493, n5]
        · rw [v494, n6]
      · exact oth a j y1 (by omega)
    · by_cases y1 : 488 ≤ a ∧ a ≤ 494
      · exact othm a j y1.1 y1.2 y
      · exact oth a j y1 (by omega)
  have sto : tT h19 L = tT g L → x8 = 0 := by
    intro eT
    have g1' : hv h19 488 (pMo L k) = 1 := by rw [e488, if_pos rfl]
    have ev := congrFun (congrFun (congrFun eT 5) (pMo L k)) 0
    have r1 : hv g 488 (pMo L k) = 1 := by
      apply Classical.byContradiction
      intro y
      have y1 := (rw_5 hm).mpr g1'
      rw [ev] at y1
      exact y ((rw_5 hm).mp y1)
    rw [rw_5v hm g1', rw_5v hm r1, v489, v490, v491, v492] at ev
    have ew := congrFun (congrFun (congrFun eT 7) (pMo L k)) 0
    rw [rw_7 hm g1', rw_7 hm r1, v493, v494] at ew
    have c1 : x4 = hv g 489 (pMo L k) := congrArg alo ev
    have c2 : x5 = hv g 490 (pMo L k) := congrArg ahi ev
    have c3 : i_or (hv g 491 (pMo L k)) (hv g 396 66) = hv g 491 (pMo L k) := congrArg alb ev
    have c4 : l_or (hv g 492 (pMo L k)) (hv g 396 67) = hv g 492 (pMo L k) := congrArg ast ev
    have c5 : x6 = hv g 493 (pMo L k) := congrArg asu ew
    have c6 : x7 = hv g 494 (pMo L k) := congrArg alb ew
    rw [e8, if_pos (x3v.mpr r1), if_pos c1, if_pos c2, if_pos (or_andn c3), if_pos (by rw [lc_eq]; exact or_andnl c4), if_pos c5, if_pos c6]
  have gug : fgd L (tT g L) u := by rw [Tg]; exact gu
  have a0 : Adv L g h19 (fun U => fle u (U 5 (pMo L k) 0) ∧ fle (tT h L 6 k 0) (U 7 (pMo L k) 0)) (fun U => fle u (U 5 (pMo L k) 0) ∧ fle (tT h L 6 k 0) (U 7 (pMo L k) 0)) := by
    refine ⟨⟨by rw [e19, e18, e17, e16, e15, e14, e13, e12]; rfl, fun a j p1 p2 => oth a j (by omega) (by omega)⟩, ⟨fun q _ => ⟨fun y => by rw [oth _ _ (by omega) (by omega)]; exact y, Or.inr ⟨fun _ => ee _ _ _ (by omega) (by omega), ee _ _ _ (by omega) (by omega)⟩⟩, fun q _ => ⟨fun y => by rw [oth _ _ (by omega) (by omega)]; exact y, Or.inr ⟨fun _ => ee _ _ _ (by omega) (by omega), ee _ _ _ (by omega) (by omega)⟩⟩, fun q _ _ => ⟨fun y => by rw [oth _ _ (by omega) (by omega)]; exact y, Or.inr (ee _ _ _ (by omega) (by omega))⟩, fun m' hm' => ⟨fun y => by rw [e14', bl_or, y]; rfl, ?_⟩, qui_14 (fun j => oth _ _ (by omega) (by omega)) (fun j => oth _ _ (by omega) (by omega)) (oth _ _ (by omega) (by omega)) (oth _ _ (by omega) (by omega)) (fun eT s _ => by rw [e14']; exact bl_or0 (sto eT))⟩, by rw [ET]; exact tiv_giv (by rw [Tg]; exact t) gug (by rw [Tg]; exact g6), by rw [ET]; exact le0.1, by rw [ET]; exact ⟨le0.2, le1.2⟩, fun U _ p q => by rw [ET]; exact tj_le.mpr ⟨tj_le.mpr ⟨p, q.1⟩, q.2⟩, fun c => ⟨fun k' i hk' i0 i1 => by rw [oth 470 _ (by omega) (by omega), oth 467 _ (by omega) (by omega)]; exact c.1 k' i hk' i0 i1, ?_⟩, fun j => oth _ _ (by omega) (by omega)⟩
    · by_cases mm : m' = pMo L k
      · by_cases z0 : x8 = 0
        · right; rw [nog z0]; exact fun _ _ => rfl
        · left; rw [e14', if_neg z0, bl_or, bl_shl mo.1 (by omega) hm'.1, mm]; simp
      · right; exact fun a _ => em a m' 0 mm
    · refine ⟨fun s f s0 s1 f0 f1 y => ?_, fun m m0 m1 y => ?_, fun s s0 s1 y => ?_, fun m m0 m1 y => ?_⟩
      · rw [oth 475 _ (by omega) (by omega), oth 476 _ (by omega) (by omega)]
        exact c.2.1 s f s0 s1 f0 f1 (by rw [oth 472 _ (by omega) (by omega)] at y; exact y)
      · have ne : m ≠ pMo L k := fun z => y (by rw [e488, if_pos z])
        rw [othm 491 m (by omega) (by omega) ne, othm 492 m (by omega) (by omega) ne]
        exact c.2.2.1 m m0 m1 (by rw [othm 488 m (by omega) (by omega) ne] at y; exact y)
      · rw [oth 477 _ (by omega) (by omega), oth 478 _ (by omega) (by omega)]
        exact c.2.2.2.1 s s0 s1 (by rw [oth 479 _ (by omega) (by omega)] at y; exact y)
      · have ne : m ≠ pMo L k := fun z => y (by rw [e488, if_pos z])
        rw [othm 489 m (by omega) (by omega) ne, othm 490 m (by omega) (by omega) ne]
        exact c.2.2.2.2 m m0 m1 (by rw [othm 488 m (by omega) (by omega) ne] at y; exact y)
  have b : AdvC L k g h19 (fun U => CLz L (tT h L) U k) := Adv_w a0 (fun _ p => (CL31 e).mpr (by rw [← eu]; exact p)) (fun U oU p cz => by
    rw [Tg] at p
    have := (CL31 e).mp (CL_dn t hr p cz)
    rw [← eu] at this; exact this)
  exact AdvC_w (AdvC_tr (AdvC_same sg t) b up_t) (fun _ p => p.2)
theorem t_giveBack {l : Launch} {G : JG} (hG : gO G = true) {h h2 : MH} {L : PG} {k : Int} (q : wrk h L k h2) (cg : cgt h L) (e : pOp L k = 31) {Q : Int → MH → Prop} {E : Nat → Int → MH → Prop} (hQ : ∀ h', AdvC L k h h' (fun U => CLz L (tT h L) U k) → Q 0 h') :
    S_X9_giveBack l G [(2009, 396), (0, k)] h2 (fun _ h' => Q 0 h') E := by
  have q' := q
  obtain ⟨tf, w, mk, t, k0, k1, hr, s2, c2⟩ := q'
  have nn := w.n
  unfold WFn at nn
  obtain ⟨mo, -, xr, yr, -, -, -, -, -, -, -, -, -, -, -, -, -, -, -, dp, -⟩ := w.k k0 k1
  have tf2 := frA_TF s2.1 tf
  have p0 : ppo L k = if 0 < pGi L (pMo L k) then 1 else 0 := by unfold ppo; simp [e]
  refine Sem_hyp fun H ok => ?_
  have o := ok _ List.mem_cons_self
  have z488 := okf_z (tw_ok H hG o 46 (off := 92) (n := 40) (t := 102) (e := 2) (by decide) (by decide) (by decide) (by decide) (by decide) mo.1 (by omega))
  have c491 : c32 (hv h2 491 (pMo L k)) := okf_i (tw_ok H hG o 49 (off := 95) (n := 40) (t := 100) (e := 0) (by decide) (by decide) (by decide) (by decide) (by decide) mo.1 (by omega))
  have c492 : c64 (hv h2 492 (pMo L k)) := okf_l (tw_ok H hG o 50 (off := 96) (n := 40) (t := 101) (e := 1) (by decide) (by decide) (by decide) (by decide) (by decide) mo.1 (by omega))
  rw [show (396 : Int) + 92 = 488 by decide] at z488
  have m40 : pMo L k < 40 := by omega
  refine s_X9_giveBack rfl fun K ki => r_X9_giveBack_0 ki hG ⟨tf2.ne, k0, by omega, ?_⟩
  intro m em
  rw [tf2.mo] at em
  subst em
  intro g2 e2 g3 e3 g4 e4 g5 e5
  have s5 : same h2 g5 := by rw [e5, e4, e3, e2]; exact same_tr (same_tr (same_tr (same_set (by omega)) (same_set (by omega))) (same_set (by omega))) (same_set (by omega))
  have sg5 := same_tr s2 s5
  have tg5 := frA_TF sg5.1 tf
  have p5 : pld g5 = fv 0 0 0 0 := by
    unfold pld
    rw [e5, eq_a, ne_k (show (66 : Int) ≠ 67 by decide), ne_k (show (65 : Int) ≠ 67 by decide), ne_k (show (64 : Int) ≠ 67 by decide), e4, eq_a, ne_k (show (65 : Int) ≠ 66 by decide), ne_k (show (64 : Int) ≠ 66 by decide), e3, eq_a, ne_k (show (64 : Int) ≠ 65 by decide), e2, eq_a]
  have c5 : cur L (pMo L k) g5 (tT h L 0 k) (tT h L 6 k 0) (pDp L k) := by
    refine ⟨fun j hj => ?_, ?_, ?_⟩
    · rw [← c2.1 j hj]; unfold cX
      rw [e5, ne_a (by decide), ne_a (by decide), ne_a (by decide), ne_a (by decide), e4, ne_a (by decide), ne_a (by decide), ne_a (by decide), ne_a (by decide), e3, ne_a (by decide), ne_a (by decide), ne_a (by decide), ne_a (by decide), e2, ne_a (by decide), ne_a (by decide), ne_a (by decide), ne_a (by decide)]
    · rw [← c2.2.1]; unfold lkc_
      rw [e5, ne_k (by decide), ne_k (by decide), e4, ne_k (by decide), ne_k (by decide), e3, ne_k (by decide), ne_k (by decide), e2, ne_k (by decide), ne_k (by decide)]
    · rw [e5, ne_k (by decide), e4, ne_k (by decide), e3, ne_k (by decide), e2, ne_k (by decide)]; exact c2.2.2
  have zg : ∀ {g : MH}, same h g → zi g := fun sg => zi_of (fun a j ha => sg.2.1 a j (by unfold za at ha; omega) (by unfold za at ha; omega)) cg.2
  have tr : ∀ {g : MH}, same h2 g → (hv g 488 (pMo L k) = 0 ∨ hv g 488 (pMo L k) = 1) ∧ c32 (hv g 491 (pMo L k)) ∧ c64 (hv g 492 (pMo L k)) := fun s => by
    rw [s.2.1 488 _ (by omega) (by omega), s.2.1 491 _ (by omega) (by omega), s.2.1 492 _ (by omega) (by omega)]
    exact ⟨z488, c491, c492⟩
  refine ⟨tg5.ne, mo.1, m40, ?_⟩
  rw [tg5.gi]
  refine ⟨fun z => ⟨mo.1, m40, ?_⟩, fun z => ?_⟩
  · intro x3 f3
    refine ⟨fun _ => ⟨mo.1, m40⟩, ?_⟩
    intro x4 f4
    refine ⟨fun _ => ⟨mo.1, m40⟩, ?_⟩
    intro x5 f5
    refine ⟨fun _ => ⟨mo.1, m40⟩, ?_⟩
    intro x6 f6
    refine ⟨fun _ => ⟨mo.1, m40⟩, ?_⟩
    intro x7 f7
    refine ⟨fun _ => ⟨mo.1, m40, fun _ => ⟨mo.1, m40, fun _ => ⟨mo.1, m40, fun _ => ⟨mo.1, m40, fun _ => ⟨mo.1, m40, fun _ => ⟨mo.1, m40⟩⟩⟩⟩⟩⟩, ?_⟩
    intro x8 f8 h12 e12
    refine ⟨mo.1, m40, ?_⟩
    intro h13 e13
    refine ⟨mo.1, m40, ?_⟩
    intro h14 e14
    refine ⟨mo.1, m40, mo.1, m40, ?_⟩
    intro h15 e15
    refine ⟨mo.1, m40, mo.1, m40, ?_⟩
    intro h16 e16
    refine ⟨mo.1, m40, ?_⟩
    intro h17 e17
    refine ⟨mo.1, m40, ?_⟩
    intro h18 e18
    refine ⟨mo.1, m40, by simp, ?_⟩
    intro h19 e19
    obtain ⟨y1, y2, y3⟩ := tr s5
    exact hQ h19 (give1 tf w t k0 k1 q.r e sg5 (by rw [if_neg (by omega)]) (fgd_n (mk_0 L) (mk_0 L) (Int.le_refl _) c32_0 c32_0 c32_0) p5 c5.2.1 (zg sg5) y1 y2 y3 f3 f4 f5 f6 f7 f8 e12 e13 e14 e15 e16 e17 e18 e19)
  · rw [if_pos z] at p0
    refine t_pull hG c5 (by omega) (by omega) fun g s c p _ => ?_
    have sg := same_tr sg5 s
    refine ⟨mo.1, m40, ?_⟩
    intro x3 f3
    refine ⟨fun _ => ⟨mo.1, m40⟩, ?_⟩
    intro x4 f4
    refine ⟨fun _ => ⟨mo.1, m40⟩, ?_⟩
    intro x5 f5
    refine ⟨fun _ => ⟨mo.1, m40⟩, ?_⟩
    intro x6 f6
    refine ⟨fun _ => ⟨mo.1, m40⟩, ?_⟩
    intro x7 f7
    refine ⟨fun _ => ⟨mo.1, m40, fun _ => ⟨mo.1, m40, fun _ => ⟨mo.1, m40, fun _ => ⟨mo.1, m40, fun _ => ⟨mo.1, m40, fun _ => ⟨mo.1, m40⟩⟩⟩⟩⟩⟩, ?_⟩
    intro x8 f8 h12 e12
    refine ⟨mo.1, m40, ?_⟩
    intro h13 e13
    refine ⟨mo.1, m40, ?_⟩
    intro h14 e14
    refine ⟨mo.1, m40, mo.1, m40, ?_⟩
    intro h15 e15
    refine ⟨mo.1, m40, mo.1, m40, ?_⟩
    intro h16 e16
    refine ⟨mo.1, m40, ?_⟩
    intro h17 e17
    refine ⟨mo.1, m40, ?_⟩
    intro h18 e18
    refine ⟨mo.1, m40, by simp, ?_⟩
    intro h19 e19
    obtain ⟨y1, y2, y3⟩ := tr (same_tr s5 s)
    exact hQ h19 (give1 tf w t k0 k1 q.r e sg (by rw [if_pos z]) (q.st (by omega) (by omega)) p c.2.1 (zg sg) y1 y2 y3 f3 f4 f5 f6 f7 f8 e12 e13 e14 e15 e16 e17 e18 e19)
