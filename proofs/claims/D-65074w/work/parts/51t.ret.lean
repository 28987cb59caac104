/-! Part 51t: a method gives back, in the component -/
/-- the ends of the text of `return` -/
def REnd (l : Launch) (G : JG) (Q : Int → MH → Prop) (E : Nat → Int → MH → Prop) (o x6 x7 : Int) (h14 : MH) : Prop :=
  ((hv h14 3 16) ≠ 0) ∧ (((hv h14 (hv h14 3 16) 4) ≤ 0 → ((x7 = 0 → Q 0 h14) ∧ (¬ x7 = 0 → (o ≠ 0) ∧ S_X2_wakeAll l G [(2002, 3), (105, (hv h14 o 8))] h14 (fun _ h16 => Q 0 h16) E))) ∧
    (0 < (hv h14 (hv h14 3 16) 4) → (o ≠ 0) ∧ ((hv h14 o 1) ≠ 0) ∧ S_X4_join l G [(2004, (hv h14 o 1)), (8, x6)] h14 (fun z17 h18 => (∀ x7_19 : Int, x7_19 = (i_or x7 z17) → ((x7_19 = 0 → Q 0 h18) ∧ (¬ x7_19 = 0 → (o ≠ 0) ∧ S_X2_wakeAll l G [(2002, 3), (105, (hv h18 o 8))] h18 (fun _ h21 => Q 0 h21) E)))) E))
def RBody (l : Launch) (G : JG) (Q : Int → MH → Prop) (E : Nat → Int → MH → Prop) (o x6 x7 : Int) (h : MH) : Prop :=
  (o ≠ 0) ∧ ((¬ (hv h o 0) = 0 → (o ≠ 0) ∧ (((i_and (hv h o 2) (i_xor (hv h 80 2) (-1))) = 0 → o ≠ 0)) ∧
      (∀ x7_12 : Int, x7_12 = (i_or x7 (if (i_and (hv h o 2) (i_xor (hv h 80 2) (-1))) = 0 then (if (i_and (hv h 80 3) (i_xor (hv h o 3) (-1))) = 0 then 0 else 1 : Int) else 1 : Int)) → (o ≠ 0) ∧ (o ≠ 0) ∧
      (∀ h13, h13 = hset h o 2 (i_and (hv h o 2) (hv h 80 2)) → (o ≠ 0) ∧ (o ≠ 0) ∧ (∀ h14, h14 = hset h13 o 3 (i_or (hv h13 o 3) (hv h13 80 3)) → REnd l G Q E o x6 x7_12 h14)))) ∧
    ((hv h o 0) = 0 → (o ≠ 0) ∧ ((1 : Int) = 0 ∨ (1 : Int) = 1) ∧ (∀ h22, h22 = hset h o 0 1 → (o ≠ 0) ∧ (∀ h23, h23 = hset h22 o 2 (hv h22 80 2) → (o ≠ 0) ∧ (∀ h24, h24 = hset h23 o 3 (hv h23 80 3) → (o ≠ 0) ∧ (((i_and (hv h24 o 2) (i_xor (hv h24 80 2) (-1))) = 0 → o ≠ 0)) ∧
      (∀ x7_25 : Int, x7_25 = (i_or x7 (if (i_and (hv h24 o 2) (i_xor (hv h24 80 2) (-1))) = 0 then (if (i_and (hv h24 80 3) (i_xor (hv h24 o 3) (-1))) = 0 then 0 else 1 : Int) else 1 : Int)) → (o ≠ 0) ∧ (o ≠ 0) ∧
      (∀ h26, h26 = hset h24 o 2 (i_and (hv h24 o 2) (hv h24 80 2)) → (o ≠ 0) ∧ (o ≠ 0) ∧ (∀ h27, h27 = hset h26 o 3 (i_or (hv h26 o 3) (hv h26 80 3)) → REnd l G Q E o x6 x7_25 h27))))))))
section RE
variable {l : Launch} {G : JG} {g g2 : MH} {L : PG} {m M : Int} {v : FA} {Q : Int → MH → Prop} {E : Nat → Int → MH → Prop}
/-- what is given back by a method -/
noncomputable def gvb (L : PG) (m : Int) (v : FA) : FA := if 0 < pGi L m then v else fv 0 0 0 0
/-- the heap after the outcome has what is given back -/
def rtd (L : PG) (m : Int) (v : FA) (g g2 : MH) : Prop := g2.2 = g.2 ∧ (∀ b j, b ≠ 145 + 3 * m → ¬ (b = 144 + 3 * m ∧ (j = 0 ∨ j = 2 ∨ j = 3)) → hv g2 b j = hv g b j) ∧ hv g2 (144 + 3 * m) 0 = 1 ∧
  hv g2 (144 + 3 * m) 2 = (if hv g (144 + 3 * m) 0 = 0 then hv g 80 2 else i_and (hv g (144 + 3 * m) 2) (hv g 80 2)) ∧ hv g2 (144 + 3 * m) 3 = (if hv g (144 + 3 * m) 0 = 0 then hv g 80 3 else i_or (hv g (144 + 3 * m) 3) (hv g 80 3)) ∧
  fo g2 (145 + 3 * m) = (if 0 < pGi L m then fjoin (fo g (145 + 3 * m)) v else fo g (145 + 3 * m))
theorem ret_T (w : WF L) (t : STc g L) (hm : inM L m) (av : 0 < pGi L m → ath v = 1) (r : rtd L m v g g2) : cT g2 L = tj (tj (cT g L) 5 m 0 (gvb L m v)) 7 m 0 (fk (hv g 80 2) (hv g 80 3)) ∧ frC g g2 ∧ zC g2 L ∧ (∀ a i j, udom L a i j → ∀ k, hv g2 (uad g a i j) k = hv g (uad g a i j) k) := by
  obtain ⟨r1, r2, r3, r4, r5, r6⟩ := r
  obtain ⟨f, o, eu, e0, e4, eo⟩ := ouT (g := g2) w t hm r1 (fun b j h1 h2 => r2 b j h1 (fun z => h2 ⟨z.1, by omega, by omega⟩))
  obtain ⟨z1, z2, z3⟩ := t.2.2.2.2
  have q : ∀ j, j ≠ 0 → j ≠ 2 → j ≠ 3 → hv g2 (144 + 3 * m) j = hv g (144 + 3 * m) j := fun j j0 j2 j3 => r2 _ j (by omega) (by omega)
  refine ⟨?_, f, ⟨fun q hq => ?_, fun m' hm' => ?_, fun i i0 i1 => by rw [e4 i i0 i1]; exact z3 i i0 i1⟩, eu⟩
  · funext a i j
    by_cases c : oca a ∧ i = m
    · obtain ⟨o', rfl⟩ := c
      rcases o' with o' | o' | o' | o' | o' <;> subst o'
      · by_cases j0 : j = 0
        · subst j0
          unfold tj
          rw [if_neg (fun y => by have := y.1; omega), if_pos ⟨rfl, rfl, rfl⟩, cT_5, cT_5]
          unfold tc5
          rw [iff_p ⟨hm, rfl, r3⟩, r6]
          unfold gvb
          rcases z2 i hm with y | ⟨y, y2⟩
          · rw [iff_p ⟨hm, rfl, y⟩]
            by_cases gi : 0 < pGi L i
            · rw [if_pos gi, if_pos gi, if_pos gi, if_pos gi]
            · rw [if_neg gi, if_neg gi, if_neg gi, fjoin_fv]
              rw [show i_or 0 0 = 0 by decide, show l_or 0 0 = 0 by decide]
              rfl
          · rw [iff_n (fun z => by have := z.2.2; omega), y2]
            by_cases gi : 0 < pGi L i
            · rw [if_pos gi, if_pos gi, if_pos gi]
            · rw [if_neg gi, if_neg gi, fjoin_zv rfl]
        · unfold tj
          rw [if_neg (fun y => by have := y.1; omega), if_neg (fun y => j0 y.2.2), cT_5, cT_5]
          unfold tc5
          rw [iff_n (fun y => j0 y.2.1), iff_n (fun y => j0 y.2.1)]
      · by_cases j0 : j = 0
        · subst j0
          unfold tj
          rw [if_pos ⟨rfl, rfl, rfl⟩, if_neg (fun y => by have := y.1; omega), cT_7, cT_7]
          unfold tc7
          rw [iff_p ⟨hm, rfl, r3⟩, r4, r5]
          rcases z2 i hm with y | ⟨y, y2⟩
          · rw [iff_p ⟨hm, rfl, y⟩, if_neg (by omega), if_neg (by omega), fjoin_fk]
          · rw [iff_n (fun z => by have := z.2.2; omega), if_pos y, if_pos y, fjoin_zv rfl]
        · unfold tj
          rw [if_neg (fun y => j0 y.2.2), if_neg (fun y => by have := y.1; omega), cT_7, cT_7]
          unfold tc7
          rw [iff_n (fun y => j0 y.2.1), iff_n (fun y => j0 y.2.1)]
      · unfold tj
        rw [if_neg (fun y => by have := y.1; omega), if_neg (fun y => by have := y.1; omega), cT_8, cT_8]
        unfold tc8
        rw [q 4 (by decide) (by decide) (by decide), q 5 (by decide) (by decide) (by decide), q 6 (by decide) (by decide) (by decide)]
      · unfold tj
        rw [if_neg (fun y => by have := y.1; omega), if_neg (fun y => by have := y.1; omega), cT_14, cT_14]
        unfold tc14
        rw [q 4 (by decide) (by decide) (by decide)]
      · unfold tj
        rw [if_neg (fun y => by have := y.1; omega), if_neg (fun y => by have := y.1; omega), cT_15, cT_15]
        unfold tc15
        rw [q 7 (by decide) (by decide) (by decide)]
    · rw [o a i j c]
      unfold tj
      rw [if_neg (fun y => c ⟨Or.inr (Or.inl y.1), y.2.1⟩), if_neg (fun y => c ⟨Or.inl y.1, y.2.1⟩)]
  · obtain ⟨x0, -, -, xs⟩ := e0 q hq
    rw [x0]
    rcases z1 q hq with y | ⟨y, y2⟩
    · exact Or.inl y
    · exact Or.inr ⟨y, fun s s0 s1 => by rw [xs s s0 s1]; exact y2 s s0 s1⟩
  · by_cases y : m' = m
    · rw [y]; exact Or.inl r3
    · rw [(eo m' hm' y).1 0 (by decide) (by decide), (eo m' hm' y).2]; exact z2 m' hm'
/-- the outcome has what is given back; callers wake if it is more -/
theorem K_rend (hG : gO G = true) (w : WF L) (t : STc g L) (hm : inM L m) (gu : fgd L (cT g L) (gvb L m v)) (gk : fgd L (cT g L) (fk (hv g 80 2) (hv g 80 3))) (av : 0 < pGi L m → ath v = 1) (r : rtd L m v g g2) {x : Int} (hx : x = 0 ↔ hv g (144 + 3 * m) 0 ≠ 0 ∧ (∀ b : Int, bi (hv g (144 + 3 * m) 2) b = true → bi (hv g 80 2) b = true) ∧ (∀ b : Int, bi (hv g 80 3) b = true → bi (hv g (144 + 3 * m) 3) b = true) ∧ (0 < pGi L m → fle v (fo g (145 + 3 * m))))
    (hQ : ∀ h', AdK L g h' (fun U => fle (gvb L m v) (U 5 m 0) ∧ fle (fk (hv g 80 2) (hv g 80 3)) (U 7 m 0)) (fun U => fle (gvb L m v) (U 5 m 0) ∧ fle (fk (hv g 80 2) (hv g 80 3)) (U 7 m 0)) → wsk g h' → Q 0 h') :
    ((x = 0 → Q 0 g2) ∧ (¬ x = 0 → (144 + 3 * m ≠ 0) ∧ S_X2_wakeAll l G [(2002, 3), (105, (hv g2 (144 + 3 * m) 8))] g2 (fun _ h16 => Q 0 h16) E)) := by
  have nn := w.n
  unfold WFn at nn
  have hm' := hm
  unfold inM at hm'
  obtain ⟨eT, f, z, eu⟩ := ret_T w t hm av r
  obtain ⟨r1, r2, r3, r4, r5, r6⟩ := r
  have l1 := tj_le.mp (tle_rfl (tj (tj (cT g L) 5 m 0 (gvb L m v)) 7 m 0 (fk (hv g 80 2) (hv g 80 3))))
  have l2 := tj_le.mp l1.1
  have e : ∀ b j, b < 144 → hv g2 b j = hv g b j := fun b j hb => r2 b j (by omega) (by omega)
  have qi : QI g2 (pNp L) := QI_of t.2.1 (e 3 14 (by omega)) (e 3 15 (by omega)) (fun j => e 78 j (by omega)) (fun j => e 79 j (by omega))
  have ne : ∀ a i j, ¬ ((a = 5 ∨ a = 7) ∧ i = m ∧ j = 0) → cT g2 L a i j = cT g L a i j := by
    intro a i j hn
    rw [eT]
    unfold tj
    rw [if_neg (fun y => hn ⟨Or.inr y.1, y.2⟩), if_neg (fun y => hn ⟨Or.inl y.1, y.2⟩)]
  have ad : ∀ h', onq g2 h' → QI h' (pNp L) → (∀ j, hv g 79 j ≠ 0 → hv h' 79 j ≠ 0) → (∀ a i j, udom L a i j → cT g2 L a i j = cT g L a i j ∨ ∀ p, inP L p → ubt g (uad g a i j) p = true → hv h' 79 p ≠ 0) → (RWx g L → ∀ p, inP L p → hv h' 79 p ≠ 0 → hv g 79 p ≠ 0 ∨ rch (cT g2 L) p) → (cT g2 L = cT g L → ∀ j, hv h' 79 j ≠ 0 → hv g 79 j ≠ 0) → Q 0 h' := by
    intro h' oq q' k1 k3 k4 k5
    refine hQ h' (AdK_op w t f eu (fun j => e 77 j (by omega)) z (by rw [eT]; exact tiv_giv t.2.2.2.1 gu gk) (by rw [eT]; exact l2.1) (by rw [eT]; exact ⟨l2.2, l1.2⟩) (fun U _ p q => by rw [eT]; exact tj_le.mpr ⟨tj_le.mpr ⟨p, q.1⟩, q.2⟩) oq q' k1 (fun q hq => Or.inr ⟨fun s => ne _ _ _ (by omega), ne _ _ _ (by omega)⟩) k3 k4 k5) (fun b j hb => ?_)
    rw [oq.2 b j (by omega) (by omega) (by omega)]
    exact e b j (by omega)
  have oo := t.1.2.2.2.2.2.2.1 m hm.1 (by omega)
  refine ⟨fun y => ?_, fun y => ⟨by omega, ?_⟩⟩
  · obtain ⟨x1, x2, x3, x4⟩ := hx.mp y
    refine ad g2 (onq_rfl _) qi (fun j y => by rw [e 79 j (by omega)]; exact y) (fun a i j _ => Or.inl ?_) (fun _ p _ y => Or.inl (by rw [e 79 p (by omega)] at y; exact y)) (fun _ j y => by rw [e 79 j (by omega)] at y; exact y)
    have y1 : hv g (144 + 3 * m) 0 = 1 := by
      rcases t.2.2.2.2.2.1 m hm with y | ⟨y, -⟩
      · exact y
      · exact absurd y x1
    have r7 : cT g L 7 m 0 = fk (hv g (144 + 3 * m) 2) (hv g (144 + 3 * m) 3) := by
      rw [cT_7]
      unfold tc7
      rw [iff_p ⟨hm, rfl, y1⟩]
    have rr5 : fle (gvb L m v) (cT g L 5 m 0) := by
      rw [cT_5]
      unfold tc5 gvb
      rw [iff_p ⟨hm, rfl, y1⟩]
      by_cases gi : 0 < pGi L m
      · rw [if_pos gi, if_pos gi]; exact x4 gi
      · rw [if_neg gi, if_neg gi]; exact fle_rfl _
    have s5 : tj (cT g L) 5 m 0 (gvb L m v) = cT g L := tj_same t.2.2.2.1.1 gu.1 rr5
    rw [eT, s5, tj_same t.2.2.2.1.1 gk.1 (by rw [r7]; exact fun _ => ⟨(by decide : (1 : Int) ≠ 0), Int.le_refl _, Int.le_refl _, x3, fun _ y => y, x2⟩)]
  · have e8 : hv g2 (144 + 3 * m) 8 = 146 + 3 * m := by rw [r2 _ 8 (by omega) (by omega)]; exact oo.2.2.2.2.1
    rw [e8]
    have eub : ∀ p, ubt g2 (146 + 3 * m) p = ubt g (146 + 3 * m) p := fun p => ubt_ne (fun j => r2 _ j (by omega) (by omega))
    refine c_wakeAll hG qi (by omega) ⟨by omega, by omega, by omega⟩ (by rw [h2_hn r1]; exact oo.2.2.2.2.2.2) (fun p p0 p1 pb => t.2.2.1 5 m 0 (Or.inr ⟨by unfold oca; omega, hm, rfl⟩) p p0 p1 (by rw [uad_o (by unfold oca; omega), ← eub]; exact pb)) fun h' oq q' mo aw => ad h' oq q' (fun j y => mo.1 j (by rw [e 79 j (by omega)]; exact y)) (fun a i j d => ?_) (fun r p hp y => ((mor_of (fun j => e 79 j (by omega)) eub mo).2 p y).imp id (fun q => ath_le (by rw [eT]; exact l2.1 _ _ _) (r.2 5 m 0 (Or.inr ⟨by unfold oca; omega, hm, rfl⟩) p hp (by rw [uad_o (by unfold oca; omega)]; exact q.2.2)))) (fun eq => absurd (hx.mpr ?_) y)
    rotate_left
    · have f5 := l2.2
      have f7 := l1.2
      rw [← eT, eq] at f5 f7
      have y1 : hv g (144 + 3 * m) 0 = 1 := by
        rcases t.2.2.2.2.2.1 m hm with q | ⟨q, -⟩
        · exact q
        · exfalso
          rw [cT_7] at f7
          unfold tc7 at f7
          rw [iff_n (fun z => by have := z.2.2; omega)] at f7
          exact (f7 (by decide : (1 : Int) ≠ 0)).1 rfl
      rw [cT_7] at f7
      unfold tc7 at f7
      rw [iff_p ⟨hm, rfl, y1⟩] at f7
      obtain ⟨-, -, -, b3, -, b5⟩ := f7 (by decide : (1 : Int) ≠ 0)
      refine ⟨by rw [y1]; decide, b5, b3, fun gi => ?_⟩
      rw [cT_5] at f5
      unfold tc5 gvb at f5
      rw [iff_p ⟨hm, rfl, y1⟩, if_pos gi, if_pos gi] at f5
      exact f5
    by_cases c : (a = 5 ∨ a = 7) ∧ i = m ∧ j = 0
    · right
      intro p hp b
      rw [uad_o (by unfold oca; omega), c.2.1] at b
      exact aw p hp.1 (by have := hp.2; omega) (by rw [eub]; exact b)
    · exact Or.inl (ne a i j c)
theorem K_ret (hG : gO G = true) (w : WF L) (t : STc g L) (hm : inM L m) (hM : hv g 3 16 = M) (cm : CPm g L m M) (hgv : fo g 134 = v) (gu : fgd L (cT g L) (gvb L m v)) (gk : fgd L (cT g L) (fk (hv g 80 2) (hv g 80 3))) (av : 0 < pGi L m → ath v = 1)
    (hQ : ∀ h', AdK L g h' (fun U => fle (gvb L m v) (U 5 m 0) ∧ fle (fk (hv g 80 2) (hv g 80 3)) (U 7 m 0)) (fun U => fle (gvb L m v) (U 5 m 0) ∧ fle (fk (hv g 80 2) (hv g 80 3)) (U 7 m 0)) → wsk g h' → Q 0 h') {x7 : Int} (e7 : x7 = (if (hv g (144 + 3 * m) 0) = 0 then 1 else 0 : Int)) : RBody l G Q E (144 + 3 * m) 134 x7 g := by
  have nn := w.n
  unfold WFn at nn
  have hm' := hm
  unfold inM at hm'
  have cm1 := cm.1.1
  have oo := t.1.2.2.2.2.2.2.1 m hm.1 (by omega)
  have csu : c32 (hv g 80 2) := by
    rcases gk.1 with y | y
    · exact absurd (congrArg ath y) (by decide : ¬ (1 : Int) = 0)
    · exact y.2.2.2.2.2
  have cpe : c32 (hv g 80 3) := by
    rcases gk.1 with y | y
    · exact absurd (congrArg ath y) (by decide : ¬ (1 : Int) = 0)
    · exact y.2.2.2.1
  -- the end, for a heap that has the locks
  have fin : ∀ (h14 : MH) (x : Int), h14.2 = g.2 → (∀ b j, ¬ (b = 144 + 3 * m ∧ (j = 0 ∨ j = 2 ∨ j = 3)) → hv h14 b j = hv g b j) → hv h14 (144 + 3 * m) 0 = 1 → hv h14 (144 + 3 * m) 2 = (if hv g (144 + 3 * m) 0 = 0 then hv g 80 2 else i_and (hv g (144 + 3 * m) 2) (hv g 80 2)) → hv h14 (144 + 3 * m) 3 = (if hv g (144 + 3 * m) 0 = 0 then hv g 80 3 else i_or (hv g (144 + 3 * m) 3) (hv g 80 3)) →
      (x = 0 ∨ x = 1) → (x = 0 ↔ hv g (144 + 3 * m) 0 ≠ 0 ∧ (∀ b : Int, bi (hv g (144 + 3 * m) 2) b = true → bi (hv g 80 2) b = true) ∧ (∀ b : Int, bi (hv g 80 3) b = true → bi (hv g (144 + 3 * m) 3) b = true)) → REnd l G Q E (144 + 3 * m) 134 x h14 := by
    intro h14 x a1 a2 a3 a4 a5 a6 a7
    have eM : hv h14 3 16 = M := by rw [a2 3 16 (by omega)]; exact hM
    have eg : hv h14 M 4 = pGi L m := by rw [a2 M 4 (by omega)]; exact cm.2.1.2.2.2.2.1
    have f14 : fo h14 (145 + 3 * m) = fo g (145 + 3 * m) := fo_eq (fun j => a2 _ j (by omega))
    have e1 : hv h14 (144 + 3 * m) 1 = 145 + 3 * m := by rw [a2 _ 1 (by omega)]; exact oo.2.2.1
    unfold REnd
    rw [eM, eg, e1]
    refine ⟨by omega, fun gi => ?_, fun gi => ⟨by omega, by omega, ?_⟩⟩
    · exact K_rend hG w t hm gu gk av ⟨a1, fun b j _ h2 => a2 b j h2, a3, a4, a5, by rw [if_neg (by omega)]; exact f14⟩ ⟨fun y => ⟨(a7.mp y).1, (a7.mp y).2.1, (a7.mp y).2.2, fun z => by omega⟩, fun y => a7.mpr ⟨y.1, y.2.1, y.2.2.1⟩⟩ hQ
    · refine c_join hG (by decide) fun z zz ze x' ex' => ?_
      have f134 : fo h14 134 = v := by rw [← hgv]; exact fo_eq (fun j => a2 _ j (by omega))
      rw [f14, f134] at ze ⊢
      have as0 : asu (fjoin (fo g (145 + 3 * m)) v) = 0 := asu_join rfl (by rw [← hgv]; rfl)
      obtain ⟨o1, o2⟩ := i_or01 a6 zz
      rw [← ex'] at o1 o2
      refine K_rend (g2 := fw h14 (145 + 3 * m) (fjoin (fo g (145 + 3 * m)) v)) hG w t hm gu gk av ⟨a1, fun b j h1 h2 => by rw [fw_ne h1]; exact a2 b j h2, by rw [fw_ne (by omega)]; exact a3, by rw [fw_ne (by omega)]; exact a4, by rw [fw_ne (by omega)]; exact a5, by rw [if_pos gi, fo_fw0 as0]⟩ ⟨fun y => ?_, fun y => o2.mpr ⟨a7.mpr ⟨y.1, y.2.1, y.2.2.1⟩, ze.mpr (y.2.2.2 gi)⟩⟩ hQ
      obtain ⟨y1, y2⟩ := o2.mp y
      exact ⟨(a7.mp y1).1, (a7.mp y1).2.1, (a7.mp y1).2.2, fun _ => ze.mp y2⟩
  have fl : ∀ (a b c d : Int), ((if i_and a (i_xor b (-1)) = 0 then (if i_and c (i_xor d (-1)) = 0 then 0 else 1 : Int) else 1 : Int) = 0 ∨ (if i_and a (i_xor b (-1)) = 0 then (if i_and c (i_xor d (-1)) = 0 then 0 else 1 : Int) else 1 : Int) = 1) ∧ ((if i_and a (i_xor b (-1)) = 0 then (if i_and c (i_xor d (-1)) = 0 then 0 else 1 : Int) else 1 : Int) = 0 ↔ (∀ s : Int, bi a s = true → bi b s = true) ∧ ∀ s : Int, bi c s = true → bi d s = true) := by
    intro a b c d
    split
    · rename_i r1
      split
      · rename_i r2
        exact ⟨Or.inl rfl, fun _ => ⟨and_not.mp r1, and_not.mp r2⟩, fun _ => rfl⟩
      · rename_i r2
        exact ⟨Or.inr rfl, fun y => by omega, fun y => absurd (and_not.mpr y.2) r2⟩
    · rename_i r1
      exact ⟨Or.inr rfl, fun y => by omega, fun y => absurd (and_not.mpr y.1) r1⟩
  have on : (144 + 3 * m : Int) ≠ 0 := by omega
  unfold RBody
  refine ⟨on, fun y => ⟨on, fun _ => on, fun x12 e12 => ⟨on, on, fun h13 e13 => ⟨on, on, fun h14 e14 => ?_⟩⟩⟩, fun y => ⟨on, Or.inr rfl, fun h22 e22 => ⟨on, fun h23 e23 => ⟨on, fun h24 e24 => ⟨on, fun _ => on, fun x25 e25 => ⟨on, on, fun h26 e26 => ⟨on, on, fun h27 e27 => ?_⟩⟩⟩⟩⟩⟩⟩
  · rw [if_neg y] at e7
    obtain ⟨f1, f2⟩ := fl (hv g (144 + 3 * m) 2) (hv g 80 2) (hv g 80 3) (hv g (144 + 3 * m) 3)
    obtain ⟨o1, o2⟩ := i_or01 (Or.inl e7) f1
    rw [← e12] at o1 o2
    have e133 : hv h13 (144 + 3 * m) 3 = hv g (144 + 3 * m) 3 := by rw [e13, ne_k (by decide)]
    have e1380 : hv h13 80 3 = hv g 80 3 := by rw [e13, ne_a (by omega)]
    rw [e133, e1380] at e14
    have y1 : hv g (144 + 3 * m) 0 = 1 := by
      rcases t.2.2.2.2.2.1 m hm with z | ⟨z, -⟩
      · exact z
      · exact absurd z y
    refine fin h14 x12 (by rw [e14, e13]; rfl) (fun b j h2 => ?_) ?_ ?_ ?_ o1 ⟨fun z => ⟨y, f2.mp (o2.mp z).2⟩, fun z => o2.mpr ⟨e7, f2.mpr z.2⟩⟩
    · rw [e14, hv_set, if_neg (by omega), e13, hv_set, if_neg (by omega)]
    · rw [e14, ne_k (by decide), e13, ne_k (by decide)]; exact y1
    · rw [if_neg y, e14, ne_k (by decide), e13, eq_a]
    · rw [if_neg y, e14, eq_a]
  · rw [if_pos y] at e7
    have a80 : ∀ b j, b ≠ 144 + 3 * m → hv h24 b j = hv g b j := fun b j hb => by rw [e24, ne_a hb, e23, ne_a hb, e22, ne_a hb]
    have b2 : hv h24 (144 + 3 * m) 2 = hv g 80 2 := by rw [e24, ne_k (by decide), e23, eq_a, e22, ne_a (by omega)]
    have b3 : hv h24 (144 + 3 * m) 3 = hv g 80 3 := by rw [e24, eq_a, e23, ne_a (by omega), e22, ne_a (by omega)]
    rw [b2, a80 80 2 (by omega), i_and_self csu] at e26
    have e263 : hv h26 (144 + 3 * m) 3 = hv g 80 3 := by rw [e26, ne_k (by decide)]; exact b3
    have e2680 : hv h26 80 3 = hv g 80 3 := by rw [e26, ne_a (by omega)]; exact a80 80 3 (by omega)
    rw [e263, e2680, i_or_self cpe] at e27
    rw [b2, b3, a80 80 2 (by omega), a80 80 3 (by omega)] at e25
    obtain ⟨f1, f2⟩ := fl (hv g 80 2) (hv g 80 2) (hv g 80 3) (hv g 80 3)
    obtain ⟨o1, o2⟩ := i_or01 (Or.inr e7) f1
    rw [← e25] at o1 o2
    refine fin h27 x25 (by rw [e27, e26, e24, e23, e22]; rfl) (fun b j h2 => ?_) ?_ ?_ ?_ o1 ⟨fun z => by have := (o2.mp z).1; omega, fun z => absurd y z.1⟩
    · rw [e27, hv_set, if_neg (by omega), e26, hv_set, if_neg (by omega), e24, hv_set, if_neg (by omega), e23, hv_set, if_neg (by omega), e22, hv_set, if_neg (by omega)]
    · rw [e27, ne_k (by decide), e26, ne_k (by decide), e24, ne_k (by decide), e23, ne_k (by decide), e22, eq_a]
    · rw [if_pos y, e27, ne_k (by decide), e26, eq_a]
    · rw [if_pos y, e27, eq_a]
end RE
