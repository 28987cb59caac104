/-! Part 38j: toss of one site; what sites hold; values that are put together -/
theorem t_toss {l : Launch} {G : JG} (hG : gO G = true) {h : MH} {L : PG} (tf : TF h L) (w : WF L) (t : tiv L (tT h L)) {k s : Int} (k0 : 0 ≤ k) (k1 : k < pNp L) (hr : hv h 460 k = 1) (s0 : 1 ≤ s) (s1 : s < 7)
    {Q : Int → MH → Prop} {E : Nat → Int → MH → Prop} (hQ : ∀ h', Adv L h h' (fun U => TS L U k (tT h L 0 k) s (tT h L 6 k 0)) (fun U => TS L U k (U 0 k) s (U 6 k 0)) → Q 0 h') : S_X9_toss l G [(2009, 396), (0, k), (0, s)] h Q E := by
  have nn := w.n
  unfold WFn at nn
  refine Sem_hyp fun H ok => ?_
  have o := ok _ List.mem_cons_self
  have c465 : c32 (hv h 465 k) := okf_i (tw_ok H hG o 23 (off := 69) (n := 1500) (t := 100) (e := 0) (by decide) (by decide) (by decide) (by decide) (by decide) k0 (by omega))
  have c466 : c32 (hv h 466 k) := okf_i (tw_ok H hG o 24 (off := 70) (n := 1500) (t := 100) (e := 0) (by decide) (by decide) (by decide) (by decide) (by decide) k0 (by omega))
  have e6 : tT h L 6 k 0 = fk (hv h 465 k) (hv h 466 k) := by
    show t6 h L k 0 = _
    unfold t6
    rw [iff_p ⟨⟨k0, k1⟩, rfl, hr⟩]
  have bs : ∀ x, 0 ≤ x → (bl (l_shl 1 s) x = true ↔ x = s) := fun x x0 => by rw [bl_shl (by omega) (by omega) x0]; simp
  refine s_X9_toss rfl fun K ki => r_X9_toss_0 ki hG ⟨k0, by omega, k0, by omega, ?_⟩
  refine t_toss2 hG tf w t k0 k1 hr (c64_l_shl _ _) (fun x x0 q => ?_) c465 (by have := (t.2.2.1 6 k 0).1.2; rw [e6] at this; exact this) c466 fun h' a _ => hQ h' (Adv_w a (fun _ p => ?_) (fun U _ tU q x x0 y => ?_))
  · have := (bs x x0).mp q
    rw [this]
    exact ⟨s0, by omega, Or.inl s1⟩
  · rw [e6]; exact p s (by omega) ((bs s (by omega)).mpr rfl)
  · have := (bs x x0).mp y
    rw [this, ← e6]
    exact TS_le (fun _ => fle_rfl _) (tU _ _ _) (tle_rfl _) q
/-! what sites hold -/
def hrw (h : MH) (i : Int) : FA := fv (hv h 473 i) (hv h 474 i) (hv h 475 i) (hv h 476 i)
/-- what joinHeld leaves: a row of what is held, a flag -/
def hpost (h : MH) (s i : Int) (v : FA) (h' : MH) : Prop := h'.2 = h.2 ∧ (∀ a j, a ≠ 396 → ¬ (473 ≤ a ∧ a ≤ 476) → hv h' a j = hv h a j) ∧ (∀ j, j ≠ 12 → hv h' 396 j = hv h 396 j) ∧
  (∀ j, hrw h' j = if j = i then v else hrw h j) ∧ (∀ x : Int, bl (hv h 396 12) x = true → bl (hv h' 396 12) x = true) ∧ ((bl (hv h' 396 12) s = true ∨ hrw h i = v) ∧ (hrw h i = v → ∀ x : Int, bl (hv h' 396 12) x = bl (hv h 396 12) x))
theorem andn0 {a b : Int} (h : i_and a (i_xor b (-1)) = 0) (x : Int) (q : bi a x = true) : bi b x = true := by
  by_cases c : 0 ≤ x ∧ x < 32
  · have := (bi_eq0 (c32_i_and _ _)).mp h x c.1 c.2
    rw [bi_andn, q] at this
    simpa using this
  · by_cases c2 : x < 0
    · rw [bi_neg c2] at q ⊢
      have := (bi_eq0 (c32_i_and _ _)).mp h 0 (by omega) (by omega)
      rw [bi_andn, q] at this
      simpa using this
    · rw [bi_hi (by omega)] at q; cases q
theorem andn0l {a b : Int} (h : l_and a (l_xor b (-1)) = 0) (x : Int) (q : bl a x = true) : bl b x = true := by
  by_cases c : 0 ≤ x ∧ x < 64
  · have := (bl_eq0 (c64_l_and _ _)).mp h x c.1 c.2
    rw [bl_andn, q] at this
    simpa using this
  · by_cases c2 : x < 0
    · rw [bl_neg c2] at q ⊢
      have := (bl_eq0 (c64_l_and _ _)).mp h 0 (by omega) (by omega)
      rw [bl_andn, q] at this
      simpa using this
    · rw [bl_hi (by omega)] at q; cases q
theorem i_or_sub {a b : Int} (ha : c32 a) (h : ∀ x : Int, bi b x = true → bi a x = true) : i_or a b = a :=
  bi_ext (c32_i_or _ _) ha (fun s _ _ => by rw [bi_or]; cases e : bi b s; simp; rw [h s e]; simp)
theorem l_or_sub {a b : Int} (ha : c64 a) (h : ∀ x : Int, bl b x = true → bl a x = true) : l_or a b = a :=
  bl_ext (c64_l_or _ _) ha (fun s _ _ => by rw [bl_or]; cases e : bl b s; simp; rw [h s e]; simp)
theorem t_joinHeld {l : Launch} {G : JG} (hG : gO G = true) {h : MH} {s f fi a b c d : Int} (s0 : 0 ≤ s) (s1 : s < 63) (f0 : 0 ≤ f) (f1 : f < 8) (hfi : fi = 0 ∨ (fi = 1 ∧ hv h 475 (8 * s + f) = 0 ∧ hv h 476 (8 * s + f) = 0)) (hc : c32 c) (hd : c64 d) {Q : Int → MH → Prop} {E : Nat → Int → MH → Prop}
    (hQ : ∀ h', hpost h s (8 * s + f) (if fi = 0 then fjoin (hrw h (8 * s + f)) (fv a b c d) else fv a b c d) h' → Q 0 h') : S_X9_joinHeld l G [(2009, 396), (0, s), (0, f), (0, fi), (0, a), (0, b), (0, c), (1, d)] h Q E := by
  refine Sem_hyp fun H ok => ?_
  have o := ok _ List.mem_cons_self
  have c475 : c32 (hv h 475 (8 * s + f)) := okf_i (tw_ok H hG o 33 (off := 79) (n := 504) (t := 100) (e := 0) (by decide) (by decide) (by decide) (by decide) (by decide) (by omega) (by omega))
  have c476 : c64 (hv h 476 (8 * s + f)) := okf_l (tw_ok H hG o 34 (off := 80) (n := 504) (t := 101) (e := 1) (by decide) (by decide) (by decide) (by decide) (by decide) (by omega) (by omega))
  refine s_X9_joinHeld rfl fun K ki => r_X9_joinHeld_0 ki hG ?_
  intro i ei
  rw [w32_i (z := 8 * s) (by omega) (by omega), w32_i (by omega) (by omega)] at ei
  have i0 : 0 ≤ i := by omega
  have i1 : i < 504 := by omega
  refine ⟨fun _ => ⟨i0, i1⟩, ?_⟩
  intro x10 e10
  refine ⟨fun _ => ⟨i0, i1⟩, ?_⟩
  intro x11 e11
  refine ⟨i0, i1, fun _ => ⟨i0, i1, fun _ => ⟨i0, i1, fun _ => ⟨i0, i1⟩⟩⟩, ?_⟩
  intro x12 e12
  simp only [lc_eq] at e12
  intro h5 e5
  refine ⟨i0, i1, ?_⟩
  intro h6 e6
  refine ⟨i0, i1, ?_⟩
  intro h7 e7
  refine ⟨i0, i1, i0, i1, ?_⟩
  intro h8 e8
  refine ⟨i0, i1, i0, i1, ?_⟩
  intro h9 e9
  apply hQ
  rw [← ei] at c475 c476 ⊢
  have hh : ∀ a' j, hv h9 a' j = if a' = 476 ∧ j = i then l_or (hv h 476 i) d else if a' = 475 ∧ j = i then i_or (hv h 475 i) c else if a' = 474 ∧ j = i then x11 else if a' = 473 ∧ j = i then x10 else if a' = 396 ∧ j = 12 then l_or (hv h 396 12) (if x12 = 0 then 0 else l_shl 1 s) else hv h a' j := by
    intro a' j
    rw [e9, hv_set, e8, hv_set, hv_set, e7, hv_set, hv_set, hv_set, e6, hv_set, hv_set, hv_set, e5, hv_set, hv_set, hv_set]
    simp
  have vv : (if fi = 0 then fjoin (hrw h i) (fv a b c d) else fv a b c d) = fv x10 x11 (i_or (hv h 475 i) c) (l_or (hv h 476 i) d) := by
    rw [e10, e11]
    rcases hfi with z | ⟨z, z2, z3⟩
    · rw [if_pos z, if_pos z, if_pos z]; unfold hrw; rw [fjoin_fv]
    · rw [← ei] at z2 z3
      rw [if_neg (by omega), if_neg (by omega), if_neg (by omega), z2, z3, l_or_0 hd]
      congr 1
      exact (bi_ext (c32_i_or _ _) hc (fun x _ _ => by rw [bi_or, bi_zero]; simp)).symm
  refine ⟨by rw [e9, e8, e7, e6, e5]; rfl, fun a' j p1 p2 => ?_, fun j p => ?_, fun j => ?_, fun x q => ?_, ?_, fun ev x => ?_⟩
  · rw [hh, if_neg (by omega), if_neg (by omega), if_neg (by omega), if_neg (by omega), if_neg (by omega)]
  · rw [hh, if_neg (by omega), if_neg (by omega), if_neg (by omega), if_neg (by omega), if_neg (by omega)]
  · rw [vv]
    unfold hrw
    rw [hh, hh, hh, hh]
    by_cases e : j = i
    · subst e; simp
    · simp [e]
  · rw [hh]; simp; rw [bl_or, q]; rfl
  · rw [hh]; simp
    by_cases z : x12 = 0
    · right
      rw [vv]
      rw [z] at e12
      have n1 : x10 = hv h 473 i := by
        by_cases q : x10 = hv h 473 i
        · exact q
        · rw [if_neg q] at e12; omega
      rw [if_pos n1] at e12
      have n2 : x11 = hv h 474 i := by
        by_cases q : x11 = hv h 474 i
        · exact q
        · rw [if_neg q] at e12; omega
      rw [if_pos n2] at e12
      have n3 : i_and c (i_xor (hv h 475 i) (-1)) = 0 := by
        by_cases q : i_and c (i_xor (hv h 475 i) (-1)) = 0
        · exact q
        · rw [if_neg q] at e12; omega
      rw [if_pos n3] at e12
      have n4 : l_and d (l_xor (hv h 476 i) (-1)) = 0 := by
        by_cases q : l_and d (l_xor (hv h 476 i) (-1)) = 0
        · exact q
        · rw [if_neg q] at e12; omega
      rw [n1, n2, i_or_sub c475 (andn0 n3), l_or_sub c476 (andn0l n4)]; rfl
    · left
      rw [if_neg z, bl_or, bl_shl s0 (by omega) s0]; simp
  · rw [vv] at ev
    have c1 : hv h 473 i = x10 := congrArg alo ev
    have c2 : hv h 474 i = x11 := congrArg ahi ev
    have c3 : hv h 475 i = i_or (hv h 475 i) c := congrArg alb ev
    have c4 : hv h 476 i = l_or (hv h 476 i) d := congrArg ast ev
    have z : x12 = 0 := by
      rw [e12, if_pos c1.symm, if_pos c2.symm, if_pos (or_andn c3.symm), if_pos (or_andnl c4.symm)]
    rw [hh]
    simp
    exact bl_or0 z
theorem hp_T {h h' : MH} {L : PG} {s f : Int} {v : FA} (hs : inS L s) (f0 : 0 ≤ f) (f1 : f < nfs L s) (f8 : ∀ s', inS L s' → nfs L s' ≤ 8) (md : hv h 472 s = 1) (p : hpost h s (8 * s + f) (fjoin (hrw h (8 * s + f)) v) h') : tT h' L = tj (tT h L) 1 s f v := by
  obtain ⟨p1, p2, p3, p4, p5, p6⟩ := p
  funext a b c
  unfold tj
  by_cases a1 : a = 1
  · subst a1
    show t1 h' L b c = if _ then fjoin (t1 h L b c) _ else t1 h L b c
    have ht : ∀ g, t1 g L b c = iff_ (inS L b ∧ hv g 472 b = 1 ∧ 0 ≤ c ∧ c < nfs L b) (hrw g (8 * b + c)) := fun g => rfl
    rw [ht, ht]
    by_cases e : b = s ∧ c = f
    · obtain ⟨rfl, rfl⟩ := e
      rw [if_pos ⟨rfl, rfl, rfl⟩, iff_p ⟨hs, by rw [p2 472 b (by omega) (by omega)]; exact md, f0, f1⟩, iff_p ⟨hs, md, f0, f1⟩, p4, if_pos rfl]
    · rw [if_neg (fun y => e y.2)]
      refine iff_c (by rw [p2 472 b (by omega) (by omega)]) (fun y => ?_)
      rw [p4, if_neg]
      intro z
      apply e
      have := f8 b y.1
      have := f8 s hs
      omega
  · rw [if_neg (fun y => a1 y.1)]
    have hh : ∀ a' j, 460 ≤ a' → a' ≤ 498 → ¬ (473 ≤ a' ∧ a' ≤ 476) → hv h' a' j = hv h a' j := fun a' j _ _ q => p2 a' j (by omega) q
    simp only [tT, if_neg a1, t0, t2, t3, t4, t5, t6, t7, t8, t9, t10, t11, t14, t15, row]
    simp only [hh 460 _ (by decide) (by decide) (by decide), hh 461 _ (by decide) (by decide) (by decide), hh 462 _ (by decide) (by decide) (by decide), hh 463 _ (by decide) (by decide) (by decide), hh 464 _ (by decide) (by decide) (by decide), hh 465 _ (by decide) (by decide) (by decide), hh 466 _ (by decide) (by decide) (by decide), hh 467 _ (by decide) (by decide) (by decide), hh 468 _ (by decide) (by decide) (by decide), hh 469 _ (by decide) (by decide) (by decide), hh 477 _ (by decide) (by decide) (by decide), hh 478 _ (by decide) (by decide) (by decide), hh 479 _ (by decide) (by decide) (by decide), hh 480 _ (by decide) (by decide) (by decide), hh 481 _ (by decide) (by decide) (by decide), hh 482 _ (by decide) (by decide) (by decide), hh 483 _ (by decide) (by decide) (by decide), hh 484 _ (by decide) (by decide) (by decide), hh 485 _ (by decide) (by decide) (by decide), hh 486 _ (by decide) (by decide) (by decide), hh 487 _ (by decide) (by decide) (by decide), hh 488 _ (by decide) (by decide) (by decide), hh 489 _ (by decide) (by decide) (by decide), hh 490 _ (by decide) (by decide) (by decide), hh 491 _ (by decide) (by decide) (by decide), hh 492 _ (by decide) (by decide) (by decide), hh 493 _ (by decide) (by decide) (by decide), hh 494 _ (by decide) (by decide) (by decide), hh 495 _ (by decide) (by decide) (by decide), hh 496 _ (by decide) (by decide) (by decide), hh 497 _ (by decide) (by decide) (by decide), hh 498 _ (by decide) (by decide) (by decide)]
theorem nfs_le {L : PG} (w : WF L) {s : Int} (hs : inS L s) : 0 ≤ nfs L s ∧ nfs L s ≤ 8 := by
  have sc := w.sc (s := s) (by have := hs.1; omega) hs.2
  unfold nfs
  split
  · omega
  · exact w.c.2.2.1 _ (by omega) (by omega)
theorem Adv_held {L : PG} (w : WF L) {h h' : MH} {s f : Int} {v : FA} (t : tiv L (tT h L)) (hs : inS L s) (f0 : 0 ≤ f) (f1 : f < nfs L s) (md : hv h 472 s = 1) (g : fgd L (tT h L) v) (p : hpost h s (8 * s + f) (fjoin (hrw h (8 * s + f)) v) h') :
    Adv L h h' (fun U => fle v (U 1 s f)) (fun U => fle v (U 1 s f)) := by
  have e := hp_T hs f0 f1 (fun s' hs' => (nfs_le w hs').2) md p
  obtain ⟨p1, p2, p3, p4, p5, p6⟩ := p
  have ee : ∀ a b c, a ≠ 1 → tT h' L a b c = tT h L a b c := fun a b c ha => by rw [e]; unfold tj; rw [if_neg (fun y => ha y.1)]
  have es : ∀ b c, b ≠ s → tT h' L 1 b c = tT h L 1 b c := fun b c hb => by rw [e]; unfold tj; rw [if_neg (fun y => hb y.2.1)]
  have n471 := fun j => p2 471 j (by omega) (by omega)
  have zh : zi h → zi h' := by
    intro z
    refine ⟨fun s' f' s0 s1 g0 g1 q => ?_, fun m m0 m1 q => ?_, fun s' s0 s1 q => ?_, fun m m0 m1 q => ?_⟩
    · rw [p2 472 s' (by omega) (by omega)] at q
      have ns : s' ≠ s := fun e' => q (by rw [e']; exact md)
      have rr := p4 (8 * s' + f')
      have := (nfs_le w hs).2
      rw [if_neg (by omega)] at rr
      have r3 : hv h' 475 (8 * s' + f') = hv h 475 (8 * s' + f') := congrArg alb rr
      have r4 : hv h' 476 (8 * s' + f') = hv h 476 (8 * s' + f') := congrArg ast rr
      rw [r3, r4]; exact z.1 s' f' s0 s1 g0 g1 q
    · rw [p2 491 m (by omega) (by omega), p2 492 m (by omega) (by omega)]
      exact z.2.1 m m0 m1 (by rw [p2 488 m (by omega) (by omega)] at q; exact q)
    · rw [p2 477 s' (by omega) (by omega), p2 478 s' (by omega) (by omega)]
      exact z.2.2.1 s' s0 s1 (by rw [p2 479 s' (by omega) (by omega)] at q; exact q)
    · rw [p2 489 m (by omega) (by omega), p2 490 m (by omega) (by omega)]
      exact z.2.2.2 m m0 m1 (by rw [p2 488 m (by omega) (by omega)] at q; exact q)
  refine Adv0.c (Adv0_tj t ⟨p1, fun a j q1 q2 => ?_⟩ e (by omega) g ?_ n471) (fun c => ⟨fun k i hk i0 i1 => by rw [p2 470 _ (by omega) (by omega), p2 467 _ (by omega) (by omega)]; exact c.1 k i hk i0 i1, zh c.2⟩)
  · by_cases z : a = 396
    · subst z; exact p3 j (by omega)
    · exact p2 a j z (by omega)
  · refine ⟨fun q _ => ⟨fun x => by rw [p2 458 q (by omega) (by omega)]; exact x, Or.inr ⟨fun s => ee _ _ _ (by omega), ee _ _ _ (by omega)⟩⟩, fun s' hs' => ⟨p5 s', ?_⟩, fun i _ _ => ⟨fun x => by rw [p3 13 (by omega)]; exact x, Or.inr (ee _ _ _ (by omega))⟩, fun m _ => ⟨fun x => by rw [p3 14 (by omega)]; exact x, Or.inr fun a _ => ee _ _ _ (by omega)⟩, qui_12 (fun j => p2 458 j (by omega) (by omega)) (fun j => p2 472 j (by omega) (by omega)) (p3 13 (by omega)) (p3 14 (by omega)) (fun eT x _ => p6.2 ?_ x)⟩
    · by_cases z : s' = s
      · subst z
        rcases p6.1 with q | q
        · exact Or.inl q
        · right
          refine ⟨fun f' => ?_, ee _ _ _ (by omega)⟩
          rw [e]
          unfold tj
          by_cases y : f' = f
          · subst y
            rw [if_pos ⟨rfl, rfl, rfl⟩]
            have : tT h L 1 s' f' = hrw h (8 * s' + f') := by
              show t1 h L s' f' = _
              unfold t1
              rw [iff_p ⟨hs, md, f0, f1⟩]; rfl
            rw [this]; exact q.symm
          · rw [if_neg (fun x => y x.2.2)]
      · right; exact ⟨fun f' => es s' f' z, ee _ _ _ (by omega)⟩
    · have := congrFun (congrFun (congrFun eT 1) s) f
      rw [e] at this
      unfold tj at this
      rw [if_pos ⟨rfl, rfl, rfl⟩, show tT h L 1 s f = hrw h (8 * s + f) by
        show t1 h L s f = _
        unfold t1
        rw [iff_p ⟨hs, md, f0, f1⟩]; rfl] at this
      exact this.symm
/-! values that are put together -/
def nvl (h : MH) : FA := if hv h 396 72 = 0 then fz else pld h
theorem t_addValue {l : Launch} {G : JG} (hG : gO G = true) {h : MH} {a b c d : Int} {Q : Int → MH → Prop} {E : Nat → Int → MH → Prop} (hQ : ∀ h', same h h' → (∀ j, (j < 64 ∨ 67 < j) → j ≠ 72 → hv h' 396 j = hv h 396 j) → (∀ x j, 499 ≤ x → x ≤ 502 → hv h' x j = hv h x j) → nvl h' = fjoin (nvl h) (fv a b c d) → hv h' 396 72 = 1 → Q 0 h') : S_X9_addValue l G [(2009, 396), (0, a), (0, b), (0, c), (1, d)] h Q E := by
  refine s_X9_addValue rfl fun K ki => r_X9_addValue_0 ki hG ?_
  intro h1 e1 h2 e2 h3 e3 h4 e4
  refine ⟨by simp, ?_⟩
  intro h5 e5
  have hh : ∀ j, hv h5 396 j = if j = 72 then 1 else if j = 67 then (if hv h 396 72 = 0 then d else l_or (hv h 396 67) d) else if j = 66 then (if hv h 396 72 = 0 then c else i_or (hv h 396 66) c) else if j = 65 then (if hv h 396 72 = 0 then b else max (hv h 396 65) b) else if j = 64 then (if hv h 396 72 = 0 then a else min (hv h 396 64) a) else hv h 396 j := by
    intro j
    subst e1; subst e2; subst e3; subst e4; subst e5
    simp [hv_set]
  refine hQ h5 ?_ (fun j q1 q2 => ?_) (fun x j q1 q2 => ?_) ?_ ?_
  · rw [e5, e4, e3, e2, e1]
    exact same_tr (same_tr (same_tr (same_tr (same_set (by omega)) (same_set (by omega))) (same_set (by omega))) (same_set (by omega))) (same_set (by omega))
  · rw [hh, if_neg q2, if_neg (by omega), if_neg (by omega), if_neg (by omega), if_neg (by omega)]
  · rw [e5, ne_a (by omega), e4, ne_a (by omega), e3, ne_a (by omega), e2, ne_a (by omega), e1, ne_a (by omega)]
  · unfold nvl pld
    rw [hh, hh, hh, hh, hh]
    by_cases z : hv h 396 72 = 0
    · simp [z]; rw [fjoin_zv rfl]
    · simp [z]; rw [fjoin_fv]
  · rw [hh]; simp
