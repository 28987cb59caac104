/-! Part 38a: closedz tables: monotone in what is given, in what is asked; the least one is one (plain) -/
theorem may_mono1 {w y : Int} {a a' : FA} (oa : fok a) (pa : fle a a') (h : mayp w a (fv y y 0 0)) : mayp w a' (fv y y 0 0) := by
  obtain ⟨h1, h2, h3⟩ := h
  obtain ⟨a0, a1, a2, -⟩ := pa h1
  obtain ⟨-, -, -, la, -⟩ := fok_there oa h1
  refine ⟨a0, h2, ?_⟩
  simp only [show alo (fv y y 0 0) = y from rfl, show ahi (fv y y 0 0) = y from rfl] at h3 ⊢
  unfold mayf at h3 ⊢
  by_cases o0 : w = 0
  · rw [if_pos o0] at h3 ⊢; split at h3; rw [if_pos (by omega)]; cases h3
  rw [if_neg o0] at h3 ⊢
  by_cases o1 : w = 1
  · rw [if_pos o1] at h3 ⊢; split at h3; cases h3; rw [if_neg (by omega)]
  rw [if_neg o1] at h3 ⊢
  by_cases o2 : w = 2
  · rw [if_pos o2] at h3 ⊢; split at h3; rw [if_pos (by omega)]; cases h3
  rw [if_neg o2] at h3 ⊢
  by_cases o3 : w = 3
  · rw [if_pos o3] at h3 ⊢; split at h3; rw [if_pos (by omega)]; cases h3
  rw [if_neg o3] at h3 ⊢
  by_cases o4 : w = 4
  · rw [if_pos o4] at h3 ⊢; split at h3; rw [if_pos (by omega)]; cases h3
  rw [if_neg o4] at h3 ⊢; split at h3; rw [if_pos (by omega)]; cases h3
theorem CL_le {L : PG} {T U V W : TB} {k : Int} (oT : tbok T) (p : tle T U) (hr : rch T k) (h75 : ∀ c, ath (T 5 c 0) ≠ 0 → ath (T 7 c 0) ≠ 0) (h148 : ∀ c s, sb (T 14 c 0) s → ath (T 8 c 0) ≠ 0) (t : tle V W) (h : CLz L U V k) : CLz L T W k := by
  have hX : xle (T 0 k) (U 0 k) := fun j => p _ _ _
  have oX : ∀ j, fok (T 0 k j) := fun j => oT _ _ _
  have pk : fle (T 6 k 0) (U 6 k 0) := p _ _ _
  have g : ∀ {i : Int} {X Y : Int → FA}, GT L V k i Y (U 6 k 0) → xle X Y → GT L W k i X (T 6 k 0) := fun q e => GT_le e pk t q
  have th : ∀ {s : Int}, TS L V k (U 0 k) s (U 6 k 0) → TS L W k (T 0 k) s (T 6 k 0) := fun q => TS_le hX pk t q
  have u0 : ∀ (s : Int) {v w : FA}, fle v w → xle (ux (T 0 k) s v) (ux (U 0 k) s w) := fun s _ _ e => ux_le hX e
  have sl : ∀ {j s : Int}, sb (T 0 k j) s → sb (U 0 k j) s := fun q => sb_le (oX _) (hX _) q
  have rkm : ∀ op a b, fle (rk L op (T 0 k a) (T 0 k b)) (rk L op (U 0 k a) (U 0 k b)) := fun op a b => rk_mono (oX _) (oX _) (hX _) (hX _)
  have cl : ∀ {s c : Int}, cld L (T 0 k) k s c → cld L (U 0 k) k s c := fun q => cld_le oX hX q
  obtain ⟨⟨c0, c1, c2, c3, c4, c5, c6, c7, c10, c12, c13, c14, c15, c16, c17, c18, c19⟩, ⟨c20, c21, c22, c23, c24, c25, c26, c27, c28⟩, ⟨c29, c36, c30, c31, c32', c33, c34, c35⟩⟩ := h
  refine ⟨⟨?_, ?_, ?_, ?_, ?_, ?_, ?_, ?_, ?_, ?_, ?_, ?_, ?_, ?_, ?_, ?_, ?_⟩, ⟨?_, ?_, ?_, ?_, ?_, ?_, ?_, ?_, ?_⟩, ⟨?_, ?_, ?_, ?_, ?_, ?_, ?_, ?_⟩⟩
  · exact fun e => g (c0 e) (u0 _ (fle_rfl _))
  · exact fun e => g (c1 e) (u0 _ (fle_rfl _))
  · exact fun e => g (c2 e) (u0 _ (hX _))
  · exact fun e => g (c3 e) (u0 _ (hX _))
  · exact fun e => g (c4 e) hX
  · exact fun e => g (c5 e) (u0 _ (hX _))
  · exact fun e => g (c6 e) (ux_le (u0 _ (hX _)) (hX _))
  · exact fun e => g (c7 e) (u0 _ (rkm _ _ _))
  · exact fun e => ⟨fun q => g ((c10 e).1 (ath_le (rkm _ _ _) q)) (u0 _ (rkm _ _ _)), fun q => by
      obtain ⟨a0, a1, a2, -⟩ := hX (7 + pDp L k) q.1
      exact th ((c10 e).2 ⟨a0, by omega, by omega⟩)⟩
  · exact fun e => g (c12 e) (u0 _ (rkm _ _ _))
  · exact fun e => g (c13 e) (u0 _ (fle_rfl _))
  · exact fun e => ⟨fun q => by
      obtain ⟨a0, a1, a2, a3, -⟩ := hX (7 + pDp L k) q
      exact fle_trans (fle_fv a1 a2 a3 (fun _ z => z)) (fle_trans ((c14 e).1 a0) (t _ _ _)), g (c14 e).2 hX⟩
  · exact fun e => g (c15 e) hX
  · exact fun e => ⟨fun q => g ((c16 e).1 (may_mono (oX _) (oX _) (hX _) (hX _) q)) hX, fun q => g ((c16 e).2 (may_mono (oX _) (oX _) (hX _) (hX _) q)) hX⟩
  · intro e
    have mm : ∀ w, mayp w (T 0 k (pX L k % 8)) (fv (pY L k) (pY L k) 0 0) → mayp w (U 0 k (pX L k % 8)) (fv (pY L k) (pY L k) 0 0) := fun w q => may_mono1 (oX _) (hX _) q
    exact ⟨fun q => g ((c17 e).1 (mm _ q)) (u0 _ (ctf_mono (hX _) q.1)), fun q => g ((c17 e).2 (mm _ q)) (u0 _ (ctf_mono (hX _) q.1))⟩
  · exact fun e s q => ⟨fun z => g ((c18 e s (sl q)).1 z) (u0 _ (rs_le (hX _))), fun z => g ((c18 e s (sl q)).2 z) (u0 _ (rs_le (hX _)))⟩
  · exact fun e s q => ⟨fun z => g ((c19 e s (sl q)).1 z) (u0 _ (rs_le (hX _))), fun z => g ((c19 e s (sl q)).2 z) (u0 _ (rs_le (hX _)))⟩
  · exact fun e => ⟨fun f f0 f1 => fle_trans ((c20 e).1 f f0 f1) (t _ _ _), g (c20 e).2 (u0 _ (fle_rfl _))⟩
  · intro e q
    obtain ⟨a0, a1, a2, -⟩ := hX (7 + pDp L k) q
    refine ⟨fun z => ?_, fun z => th ((c21 e a0).2 (by omega))⟩
    obtain ⟨x1, x2, x3⟩ := (c21 e a0).1 ⟨by omega, by omega⟩
    exact ⟨fle_trans x1 (t _ _ _), fle_trans (fle_fv (by omega) (by omega) (fun _ z => z) (fun _ z => z)) (fle_trans x2 (t _ _ _)), g x3 (u0 _ (fle_rfl _))⟩
  · intro e s q
    obtain ⟨x1, x2, x3⟩ := c22 e s (sl q)
    exact ⟨fun z => th (x1 z), fun z z2 => th (x2 z z2), fun z z2 z3 => g (x3 z z2 (ath_le (p _ _ _) z3)) (u0 _ (p _ _ _))⟩
  · intro e s q
    obtain ⟨x1, x2, x3⟩ := c23 e s (sl q)
    refine ⟨fun z => th (x1 z), fun z z2 => th (x2 z z2), fun z z2 z3 z4 => ?_⟩
    obtain ⟨a0, a1, a2, -⟩ := hX (7 + pDp L k) z4
    obtain ⟨b0, b1', b2, -⟩ := p 2 s 0 z3
    obtain ⟨y1, y2⟩ := x3 z z2 b0 a0
    exact ⟨fun r => th (y1 (by omega)), fun r => g (y2 (by omega)) (u0 _ (p _ _ _))⟩
  · intro e s q
    obtain ⟨x1, x2, x3⟩ := c24 e s (sl q)
    refine ⟨fun z => th (x1 z), fun z z2 => th (x2 z z2), fun z z2 z3 z4 => ?_⟩
    obtain ⟨a0, a1, a2, -⟩ := hX (6 + pDp L k) z4
    obtain ⟨b0, b1', b2, -⟩ := p 2 s 0 z3
    obtain ⟨y1, y2⟩ := x3 z z2 b0 a0
    exact ⟨fun r => th (y1 (by omega)), fun r => ⟨fle_trans (hX _) (fle_trans (y2 (by omega)).1 (t _ _ _)), g (y2 (by omega)).2 hX⟩⟩
  · intro e s q
    obtain ⟨x1, x2, x3⟩ := c25 e s (sl q)
    exact ⟨fun z => th (x1 z), fun z z2 => th (x2 z z2), fun z z2 => g (x3 z z2) (u0 _ (p _ _ _))⟩
  · intro e s q
    obtain ⟨x1, x2, x3⟩ := c26 e s (sl q)
    exact ⟨fun z => th (x1 z), fun z z2 => th (x2 z z2), fun z z2 => ⟨fle_trans (hX _) (fle_trans (x3 z z2).1 (t _ _ _)), g (x3 z z2).2 hX⟩⟩
  · exact fun e => g (c27 e) (u0 _ (p _ _ _))
  · exact fun e => ⟨fle_trans (hX _) (fle_trans (c28 e).1 (t _ _ _)), g (c28 e).2 hX⟩
  · intro e s c q
    obtain ⟨x1, x2, x3, x4, x5⟩ := c29 e s c (cl q)
    refine ⟨fle_trans x1 (t _ _ _), Flow_le (entz_le hX) pk t x2, fle_trans (p _ _ _) (fle_trans x3 (t _ _ _)), fun s' q' => ?_, fun q' => ?_⟩
    · exact TS_le hX (lke_le oT p hr (h148 c s' q')) t (x4 s' (sb_le (oT _ _ _) (p _ _ _) q'))
    · refine GT_le ?_ (lkr_le oT p hr (h75 c q')) t (x5 (ath_le (p _ _ _) q'))
      split
      · exact ux_le hX (p _ _ _)
      · exact hX
  · intro e s c q
    obtain ⟨x1, x2, x3, x4⟩ := c36 e s c (cl q)
    exact ⟨fle_trans x1 (t _ _ _), Flow_le (entz_le hX) (fle_rfl _) t x2, th x3, g x4 hX⟩
  · intro e s q
    obtain ⟨x1, x2⟩ := c30 e s (sl q)
    exact ⟨fun z => th (x1 z), fun z z2 => th (x2 z z2)⟩
  · intro e
    obtain ⟨x1, x2⟩ := c31 e
    refine ⟨fle_trans ?_ (fle_trans x1 (t _ _ _)), fle_trans pk (fle_trans x2 (t _ _ _))⟩
    split
    · exact hX _
    · exact fle_rfl _
  · intro e s q
    obtain ⟨x1, x2⟩ := c32' e s (sl q)
    exact ⟨fun z => th (x1 z), fun z => th (x2 z)⟩
  · intro e s q
    obtain ⟨x1, x2⟩ := c33 e s (sl q)
    exact ⟨fun z => g (x1 z) (u0 _ (fle_rfl _)), fun z z2 => th (x2 z z2)⟩
  · intro e
    obtain ⟨x1, x2⟩ := c34 e
    refine ⟨fun z => ?_, fun z => th (x2 (alb_le (oT _ _ _) pk _ z))⟩
    have z' : bi (asu (U 6 k 0)) (pX L k) = false := by
      cases r : bi (asu (U 6 k 0)) (pX L k)
      · rfl
      · rw [fle_asu pk hr _ r] at z; cases z
    refine GT_le hX (fle_fk (fun x r => ?_) (fun x r => ?_)) t (x1 z')
    · rw [bi_or] at r ⊢; simp at r ⊢
      rcases r with r | r
      · exact Or.inl (fle_asu pk hr _ r)
      · exact Or.inr r
    · rw [bi_or] at r ⊢; simp at r ⊢
      rcases r with r | r
      · exact Or.inl (alb_le (oT _ _ _) pk _ r)
      · exact Or.inr r
  · intro e
    obtain ⟨x0, x1, x2⟩ := c35 e
    refine ⟨fle_trans x0 (t _ _ _), fun z => ?_, fun z => ?_⟩
    · refine GT_le hX (fle_fk (fun x r => ?_) (fun x r => ?_)) t (x1 (alb_le (oT _ _ _) pk _ z))
      · rw [bi_andn] at r ⊢; simp at r ⊢
        exact ⟨fle_asu pk hr _ r.1, r.2⟩
      · rw [bi_andn] at r ⊢; simp at r ⊢
        exact ⟨alb_le (oT _ _ _) pk _ r.1, r.2⟩
    · refine th (x2 ?_)
      cases r : bi (asu (U 6 k 0)) (pX L k)
      · rfl
      · rw [fle_asu pk hr _ r] at z; cases z
/-- what a place reads apart from its own facts -/
def ins (L : PG) (X : Int → FA) (k a i j : Int) : Prop :=
  (a = 2 ∧ j = 0 ∧ ((pOp L k = 22 ∧ sb (X (7 + pDp L k)) i) ∨ (pOp L k = 23 ∧ sb (X (6 + pDp L k)) i) ∨ (pOp L k = 24 ∧ sb (X (5 + pDp L k)) i))) ∨
  (a = 1 ∧ ((pOp L k = 23 ∧ sb (X (6 + pDp L k)) i ∧ j = 0) ∨ (pOp L k = 25 ∧ sb (X (7 + pDp L k)) i ∧ j = pY L k))) ∨
  (a = 3 ∧ pOp L k = 27 ∧ i = pX L k ∧ j = 0) ∨
  ((a = 5 ∨ a = 7 ∨ a = 8 ∨ a = 14 ∨ a = 15) ∧ (pOp L k = 29 ∨ pOp L k = 30) ∧ j = 0 ∧ ∃ s, cld L X k s i)
theorem und_eq {L : PG} {T T' : TB} {k : Int} (e0 : T' 0 k = T 0 k) (n : Nat) (h : ∀ c : Nat, (∃ s, cld L (T 0 k) k s c) → T' 15 c 0 = T 15 c 0) : undI L T' k n = undI L T k n := by
  induction n with
  | zero => rfl
  | succ n ih =>
    unfold undI
    rw [e0, ih]
    by_cases c : ∃ s, cld L (T 0 k) k s n
    · rw [if_pos c, if_pos c, h n c]
    · rw [if_neg c, if_neg c]
theorem CL_eq {L : PG} {T T' V : TB} {k : Int} (e0 : T' 0 k = T 0 k) (e6 : T' 6 k 0 = T 6 k 0) (ei : ∀ a i j, ins L (T 0 k) k a i j → T' a i j = T a i j) (h : CLz L T V k) : CLz L T' V k := by
  unfold CLz
  rw [e0, e6]
  obtain ⟨h1, ⟨c20, c21, c22, c23, c24, c25, c26, c27, c28⟩, ⟨c29, c36, c30, c31, c32', c33, c34, c35⟩⟩ := h
  refine ⟨h1, ⟨c20, c21, ?_, ?_, ?_, ?_, c26, ?_, c28⟩, ⟨?_, c36, c30, c31, c32', c33, c34, c35⟩⟩
  · intro e s q
    rw [ei 2 s 0 (Or.inl ⟨rfl, rfl, Or.inl ⟨e, q⟩⟩)]
    exact c22 e s q
  · intro e s q
    rw [ei 2 s 0 (Or.inl ⟨rfl, rfl, Or.inr (Or.inl ⟨e, q⟩)⟩), ei 1 s 0 (Or.inr (Or.inl ⟨rfl, Or.inl ⟨e, q, rfl⟩⟩))]
    exact c23 e s q
  · intro e s q
    rw [ei 2 s 0 (Or.inl ⟨rfl, rfl, Or.inr (Or.inr ⟨e, q⟩)⟩)]
    exact c24 e s q
  · intro e s q
    rw [ei 1 s _ (Or.inr (Or.inl ⟨rfl, Or.inr ⟨e, q, rfl⟩⟩))]
    exact c25 e s q
  · intro e
    rw [ei 3 _ 0 (Or.inr (Or.inr (Or.inl ⟨rfl, e, rfl, rfl⟩)))]
    exact c27 e
  · intro e s c q
    have m : ∀ a, (a = 5 ∨ a = 7 ∨ a = 8 ∨ a = 14 ∨ a = 15) → T' a c 0 = T a c 0 := fun a ha => ei a c 0 (Or.inr (Or.inr (Or.inr ⟨ha, e, rfl, s, q⟩)))
    have mu : und L T' k = und L T k := und_eq e0 _ (fun c ⟨s, hs⟩ => ei 15 c 0 (Or.inr (Or.inr (Or.inr ⟨by omega, e, rfl, s, hs⟩))))
    have el : lke T' k c = lke T k c := by unfold lke; rw [e6, m 8 (by omega), m 15 (by omega)]
    have er : lkr L T' k c = lkr L T k c := by unfold lkr; rw [e6, m 7 (by omega), mu]
    rw [m 15 (by omega), m 14 (by omega), m 5 (by omega), el, er]
    exact c29 e s c q
/-- two least closedz tables are one -/
theorem least_one {L : PG} {R : Int → Prop} {T U : TB} (hT : closedz L R T) (hU : closedz L R U) (oT : tbok T) (oU : tbok U) (lT : ∀ V, closedz L R V → tle T V) (lU : ∀ V, closedz L R V → tle U V) : T = U :=
  tle_anti oT oU (lT U hU) (lU T hT)
