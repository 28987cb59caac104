/-! Part 51e: what escapes, what is unlocked, what goes on -/
theorem tj_same {T : TB} {a i j : Int} {v : FA} (o : tbok T) (ov : fok v) (p : fle v (T a i j)) : tj T a i j v = T := by
  funext b k l
  unfold tj
  by_cases c : b = a ∧ k = i ∧ l = j
  · rw [if_pos c]
    obtain ⟨rfl, rfl, rfl⟩ := c
    exact fjoin_of_le (o _ _ _) ov p
  · rw [if_neg c]
theorem uad_o {h : MH} {a i j : Int} (o : oca a) : uad h a i j = 146 + 3 * i := by
  unfold uad
  unfold oca at o
  rw [if_neg (by omega)]
theorem rdx_14 {g : MH} {L : PG} {c : Int} (hc : inM L c) : cT g L 14 c 0 = fb (hv g (144 + 3 * c) 4) := by
  rw [cT_14]
  unfold tc14
  rw [iff_p ⟨hc, rfl⟩]
theorem rdx_8 {g : MH} {L : PG} {c : Int} (hc : inM L c) (nz : hv g (144 + 3 * c) 4 ≠ 0) : cT g L 8 c 0 = fk (hv g (144 + 3 * c) 5) (hv g (144 + 3 * c) 6) := by
  rw [cT_8]
  unfold tc8
  rw [iff_p ⟨hc, rfl, nz⟩]
section KE
variable {l : Launch} {G : JG} {h : MH} {L : PG} {m M k x su pe : Int} {Q : Int → MH → Prop} {E : Nat → Int → MH → Prop}
theorem cesc_T (w : WF L) (t : STc h L) (hm : inM L m) (hx : c64 x) (nz : x ≠ 0) : cT (esc h (144 + 3 * m) x su pe) L = tj (tj (cT h L) 14 m 0 (fs x)) 8 m 0 (fk su pe) := by
  have e : ∀ b j, b ≠ 145 + 3 * m → ¬ (b = 144 + 3 * m ∧ j ≠ 1 ∧ j ≠ 8) → hv (esc h (144 + 3 * m) x su pe) b j = hv h b j := by
    intro b j _ hb
    unfold esc
    rw [hv_set, if_neg (by omega), hv_set, if_neg (by omega), hv_set, if_neg (by omega)]
  obtain ⟨f, o, -⟩ := ouT (g := esc h (144 + 3 * m) x su pe) w t hm rfl e
  have q0 : ∀ j, j ≠ 4 → j ≠ 5 → j ≠ 6 → hv (esc h (144 + 3 * m) x su pe) (144 + 3 * m) j = hv h (144 + 3 * m) j := by
    intro j j4 j5 j6
    unfold esc
    rw [ne_k j6, ne_k j5, ne_k j4]
  have q4 : hv (esc h (144 + 3 * m) x su pe) (144 + 3 * m) 4 = l_or (hv h (144 + 3 * m) 4) x := by
    unfold esc
    rw [ne_k (by decide), ne_k (by decide), eq_a]
  have q5 : hv (esc h (144 + 3 * m) x su pe) (144 + 3 * m) 5 = if hv h (144 + 3 * m) 4 = 0 then su else i_and (hv h (144 + 3 * m) 5) su := by
    unfold esc
    rw [ne_k (by decide), eq_a]
  have q6 : hv (esc h (144 + 3 * m) x su pe) (144 + 3 * m) 6 = if hv h (144 + 3 * m) 4 = 0 then pe else i_or (hv h (144 + 3 * m) 6) pe := by
    unfold esc
    rw [eq_a]
  have qf : fo (esc h (144 + 3 * m) x su pe) (145 + 3 * m) = fo h (145 + 3 * m) := fo_eq (fun j => by unfold esc; rw [ne_a (by omega), ne_a (by omega), ne_a (by omega)])
  funext a i j
  by_cases c : oca a ∧ i = m
  · obtain ⟨o', rfl⟩ := c
    rcases o' with o' | o' | o' | o' | o' <;> subst o'
    · unfold tj
      rw [if_neg (fun y => by have := y.1; omega), if_neg (fun y => by have := y.1; omega), cT_5, cT_5]
      unfold tc5
      rw [q0 0 (by decide) (by decide) (by decide), qf]
    · unfold tj
      rw [if_neg (fun y => by have := y.1; omega), if_neg (fun y => by have := y.1; omega), cT_7, cT_7]
      unfold tc7
      rw [q0 0 (by decide) (by decide) (by decide), q0 2 (by decide) (by decide) (by decide), q0 3 (by decide) (by decide) (by decide)]
    · by_cases j0 : j = 0
      · subst j0
        have nz' : l_or (hv h (144 + 3 * i) 4) x ≠ 0 := by
          intro y
          apply nz
          rw [bl_eq0 hx]
          intro s s0 s1
          have := (bl_eq0 (c64_l_or _ _)).mp y s s0 s1
          rw [bl_or] at this
          simp at this
          exact this.2
        unfold tj
        rw [if_pos ⟨rfl, rfl, rfl⟩, if_neg (fun y => by have := y.1; omega), cT_8, cT_8]
        unfold tc8
        rw [q4, q5, q6, iff_p ⟨hm, rfl, nz'⟩]
        by_cases z : hv h (144 + 3 * i) 4 = 0
        · rw [if_pos z, if_pos z, iff_n (fun y => y.2.2 z), fjoin_zv rfl]
        · rw [if_neg z, if_neg z, iff_p ⟨hm, rfl, z⟩, fjoin_fk]
      · unfold tj
        rw [if_neg (fun y => j0 y.2.2), if_neg (fun y => by have := y.1; omega), cT_8, cT_8]
        unfold tc8
        rw [iff_n (fun y => j0 y.2.1), iff_n (fun y => j0 y.2.1)]
    · by_cases j0 : j = 0
      · subst j0
        unfold tj
        rw [if_neg (fun y => by have := y.1; omega), if_pos ⟨rfl, rfl, rfl⟩, cT_14, cT_14]
        unfold tc14
        rw [q4, iff_p ⟨hm, rfl⟩, iff_p ⟨hm, rfl⟩, fb_join hx nz]
      · unfold tj
        rw [if_neg (fun y => by have := y.1; omega), if_neg (fun y => j0 y.2.2), cT_14, cT_14]
        unfold tc14
        rw [iff_n (fun y => j0 y.2), iff_n (fun y => j0 y.2)]
    · unfold tj
      rw [if_neg (fun y => by have := y.1; omega), if_neg (fun y => by have := y.1; omega), cT_15, cT_15]
      unfold tc15
      rw [q0 7 (by decide) (by decide) (by decide)]
  · rw [o a i j c]
    unfold tj
    rw [if_neg (fun y => c ⟨Or.inr (Or.inr (Or.inl y.1)), y.2.1⟩), if_neg (fun y => c ⟨Or.inr (Or.inr (Or.inr (Or.inl y.1))), y.2.1⟩)]
theorem K_escape (hG : gO G = true) (w : WF L) (t : STc h L) (hm : inM L m) (hM : hv h 3 16 = M) (cm : CPm h L m M) (hx0 : bl x 0 = false) (nz : x ≠ 0) (g1 : fgd L (cT h L) (fs x)) (g2 : fgd L (cT h L) (fk su pe))
    (hQ : ∀ h', AdK L h h' (fun U => fle (fs x) (U 14 m 0) ∧ fle (fk su pe) (U 8 m 0)) (fun U => fle (fs x) (U 14 m 0) ∧ fle (fk su pe) (U 8 m 0)) → wsk h h' → Q 0 h') : S_X2_escape l G [(2002, 3), (1, x), (0, su), (0, pe)] h Q E := by
  have nn := w.n
  unfold WFn at nn
  have hm' := hm
  unfold inM at hm'
  have cx : c64 x := by
    rcases g1.1 with y | y
    · exact absurd (congrArg ath y) (by decide : ¬ (1 : Int) = 0)
    · exact y.2.2.2.2.1
  have csu : c32 su := by
    rcases g2.1 with y | y
    · exact absurd (congrArg ath y) (by decide : ¬ (1 : Int) = 0)
    · exact y.2.2.2.2.2
  have cpe : c32 pe := by
    rcases g2.1 with y | y
    · exact absurd (congrArg ath y) (by decide : ¬ (1 : Int) = 0)
    · exact y.2.2.2.1
  have eT := cesc_T (su := su) (pe := pe) w t hm cx nz
  have e : ∀ b j, b ≠ 145 + 3 * m → ¬ (b = 144 + 3 * m ∧ j ≠ 1 ∧ j ≠ 8) → hv (esc h (144 + 3 * m) x su pe) b j = hv h b j := by
    intro b j _ hb
    unfold esc
    rw [hv_set, if_neg (by omega), hv_set, if_neg (by omega), hv_set, if_neg (by omega)]
  obtain ⟨f, o, eu, e0, e4, eo⟩ := ouT (g := esc h (144 + 3 * m) x su pe) w t hm rfl e
  have e145 : fo (esc h (144 + 3 * m) x su pe) (145 + 3 * m) = fo h (145 + 3 * m) := fo_eq (fun j => by unfold esc; rw [ne_a (by omega), ne_a (by omega), ne_a (by omega)])
  have e00 : hv (esc h (144 + 3 * m) x su pe) (144 + 3 * m) 0 = hv h (144 + 3 * m) 0 := by
    unfold esc
    rw [ne_k (by decide), ne_k (by decide), ne_k (by decide)]
  have z : zC (esc h (144 + 3 * m) x su pe) L := by
    obtain ⟨z1, z2, z3⟩ := t.2.2.2.2
    refine ⟨fun q hq => ?_, fun m' hm'' => ?_, fun i i0 i1 => by rw [e4 i i0 i1]; exact z3 i i0 i1⟩
    · obtain ⟨x0, -, -, xs⟩ := e0 q hq
      rw [x0]
      rcases z1 q hq with y | ⟨y, y2⟩
      · exact Or.inl y
      · exact Or.inr ⟨y, fun s s0 s1 => by rw [xs s s0 s1]; exact y2 s s0 s1⟩
    · by_cases y : m' = m
      · rw [y, e00, e145]; exact z2 m hm
      · rw [(eo m' hm'' y).1 0 (by decide) (by decide), (eo m' hm'' y).2]; exact z2 m' hm''
  have l1 := tj_le.mp (tle_rfl (tj (tj (cT h L) 14 m 0 (fs x)) 8 m 0 (fk su pe)))
  have l2 := tj_le.mp l1.1
  refine c_escape hG t.2.1 hm.1 (by omega) hM cm.1.1 cm.2.1.1 (t.1.2.2.2.2.2.2.1 m hm.1 (by omega)) csu cpe (fun p p0 p1 y => t.2.2.1 14 m 0 (Or.inr ⟨by unfold oca; omega, hm, rfl⟩) p p0 p1 (by rw [uad_o (by unfold oca; omega)]; exact y)) fun h' al q' => ?_
  have ne : ∀ a i j, ¬ ((a = 8 ∨ a = 14) ∧ i = m ∧ j = 0) → cT (esc h (144 + 3 * m) x su pe) L a i j = cT h L a i j := by
    intro a i j hn
    rw [eT]
    unfold tj
    rw [if_neg (fun y => hn ⟨Or.inl y.1, y.2⟩), if_neg (fun y => hn ⟨Or.inr y.1, y.2⟩)]
  have ad : onq (esc h (144 + 3 * m) x su pe) h' → (∀ j, hv h 79 j ≠ 0 → hv h' 79 j ≠ 0) → (∀ a i j, udom L a i j → cT (esc h (144 + 3 * m) x su pe) L a i j = cT h L a i j ∨ ∀ p, inP L p → ubt h (uad h a i j) p = true → hv h' 79 p ≠ 0) → (RWx h L → ∀ p, inP L p → hv h' 79 p ≠ 0 → hv h 79 p ≠ 0 ∨ rch (cT (esc h (144 + 3 * m) x su pe) L) p) → (cT (esc h (144 + 3 * m) x su pe) L = cT h L → ∀ j, hv h' 79 j ≠ 0 → hv h 79 j ≠ 0) → Q 0 h' := by
    intro oq k1 k3 k4 k5
    refine hQ h' (AdK_op w t f eu (fun j => e 77 j (by omega) (by omega)) z (by rw [eT]; exact tiv_escX t.2.2.2.1 hx0 g1 g2) (by rw [eT]; exact l2.1) (by rw [eT]; exact ⟨l2.2, l1.2⟩) (fun U _ p q => by rw [eT]; exact tj_le.mpr ⟨tj_le.mpr ⟨p, q.1⟩, q.2⟩) oq q' k1 (fun q hq => Or.inr ⟨fun s => ne _ _ _ (by omega), ne _ _ _ (by omega)⟩) k3 k4 k5) (fun b j hb => ?_)
    rw [oq.2 b j (by omega) (by omega) (by omega)]
    exact e b j (by omega) (by omega)
  rcases al with ⟨rfl, a1, a2⟩ | ⟨gr, oq, a1, a2⟩
  · refine ad (onq_rfl _) (fun j y => by rw [e 79 j (by omega) (by omega)]; exact y) (fun a i j _ => Or.inl ?_) (fun _ p _ y => Or.inl (by rw [e 79 p (by omega) (by omega)] at y; exact y)) (fun _ j y => by rw [e 79 j (by omega) (by omega)] at y; exact y)
    have on : hv h (144 + 3 * m) 4 ≠ 0 := by
      intro y
      apply nz
      rw [bl_eq0 cx]
      intro s s0 s1
      cases r : bl x s
      · rfl
      · have := a1 s r
        rw [y, bl_zero] at this
        cases this
    obtain ⟨a3, a4⟩ := a2 on
    have r14 : cT h L 14 m 0 = fs (hv h (144 + 3 * m) 4) := by
      rw [cT_14]
      unfold tc14 fb
      rw [iff_p ⟨hm, rfl⟩, if_neg on]
    have r8 : cT h L 8 m 0 = fk (hv h (144 + 3 * m) 5) (hv h (144 + 3 * m) 6) := by
      rw [cT_8]
      unfold tc8
      rw [iff_p ⟨hm, rfl, on⟩]
    have s14 : tj (cT h L) 14 m 0 (fs x) = cT h L := tj_same t.2.2.2.1.1 g1.1 (by rw [r14]; exact fun _ => ⟨(by decide : (1 : Int) ≠ 0), Int.le_refl _, Int.le_refl _, fun _ y => y, a1, fun _ y => y⟩)
    rw [eT, s14, tj_same t.2.2.2.1.1 g2.1 (by rw [r8]; exact fun _ => ⟨(by decide : (1 : Int) ≠ 0), Int.le_refl _, Int.le_refl _, a4, fun _ y => y, a3⟩)]
  · refine ad oq a1.1 (fun a i j d => ?_) (fun r p hp y => (a1.2 p y).imp id (fun q => ath_le (by rw [eT]; exact l2.1 _ _ _) (r.2 14 m 0 (Or.inr ⟨by unfold oca; omega, hm, rfl⟩) p hp (by rw [uad_o (by unfold oca; omega)]; exact q.2.2)))) (fun eq => ?_)
    rotate_left
    · exfalso
      have f14 := l2.2
      have f8 := l1.2
      rw [← eT, eq] at f14 f8
      rw [rdx_14 hm] at f14
      have on : hv h (144 + 3 * m) 4 ≠ 0 := fun z => by
        rw [z] at f14
        exact (f14 (by decide : (1 : Int) ≠ 0)).1 rfl
      rw [rdx_8 hm on] at f8
      obtain ⟨-, -, -, b3, -, b5⟩ := f8 (by decide : (1 : Int) ≠ 0)
      unfold fb at f14
      rw [if_neg on] at f14
      rcases gr with z | z
      · exact on z
      · exact z ⟨(f14 (by decide : (1 : Int) ≠ 0)).2.2.2.2.1, b5, b3⟩
    by_cases c : (a = 8 ∨ a = 14) ∧ i = m ∧ j = 0
    · right
      intro p hp y
      rw [uad_o (by unfold oca; omega), c.2.1] at y
      exact a2 p hp.1 (by have := hp.2; omega) y
    · exact Or.inl (ne a i j c)
end KE
/-- locks that a method may unlock -/
theorem K_unlock {l : Launch} {G : JG} {h : MH} {L : PG} {m u : Int} {Q : Int → MH → Prop} {E : Nat → Int → MH → Prop} (hG : gO G = true) (w : WF L) (t : STc h L) (hm : inM L m) (cu : c32 u)
    (hQ : ∀ h', AdK L h h' (fun U => fle (fbi u) (U 15 m 0)) (fun U => fle (fbi u) (U 15 m 0)) → wsk h h' → Q 0 h') : S_X2_unlock l G [(2002, 3), (9, 144 + 3 * m), (0, u)] h Q E := by
  have nn := w.n
  unfold WFn at nn
  have hm' := hm
  unfold inM at hm'
  refine c_unlock hG t.2.1 hm.1 (by omega) (t.1.2.2.2.2.2.2.1 m hm.1 (by omega)) (fun p p0 p1 y => t.2.2.1 14 m 0 (Or.inr ⟨by unfold oca; omega, hm, rfl⟩) p p0 p1 (by rw [uad_o (by unfold oca; omega)]; exact y)) fun h' al q' => ?_
  have r15 : cT h L 15 m 0 = fbi (hv h (144 + 3 * m) 7) := by
    rw [cT_15]
    unfold tc15
    rw [iff_p ⟨hm, rfl⟩]
  rcases al with ⟨a1, rfl⟩ | ⟨a0, oq, a1, a2⟩
  · have le : fle (fbi u) (cT h' L 15 m 0) := by
      rw [r15]
      unfold fbi
      by_cases u0 : u = 0
      · rw [if_pos u0]; exact fle_fz _
      · have o0 : hv h' (144 + 3 * m) 7 ≠ 0 := by
          intro y
          obtain ⟨s, hs⟩ := bi_some cu u0
          have := a1 s hs
          rw [y, bi_zero] at this
          cases this
        rw [if_neg u0, if_neg o0]
        exact fun _ => ⟨(by decide : (1 : Int) ≠ 0), Int.le_refl _, Int.le_refl _, a1, fun _ y => y, fun _ y => y⟩
    exact hQ h' (AdK_w (smC_A w t (smC_rfl h')) (fun _ _ => le) (fun _ _ _ _ => trivial)) (wsk_rfl h')
  · have u0 : u ≠ 0 := fun y => a0 (fun s hs => by rw [y, bi_zero] at hs; cases hs)
    have e : ∀ b j, b ≠ 145 + 3 * m → ¬ (b = 144 + 3 * m ∧ j ≠ 1 ∧ j ≠ 8) → hv (hset h (144 + 3 * m) 7 (i_or (hv h (144 + 3 * m) 7) u)) b j = hv h b j := fun b j _ hb => by rw [hv_set, if_neg (by omega)]
    obtain ⟨f, o, eu, e0, e4, eo⟩ := ouT (g := hset h (144 + 3 * m) 7 (i_or (hv h (144 + 3 * m) 7) u)) w t hm rfl e
    have e145 : fo (hset h (144 + 3 * m) 7 (i_or (hv h (144 + 3 * m) 7) u)) (145 + 3 * m) = fo h (145 + 3 * m) := fo_eq (fun j => ne_a (by omega))
    have z : zC (hset h (144 + 3 * m) 7 (i_or (hv h (144 + 3 * m) 7) u)) L := by
      obtain ⟨z1, z2, z3⟩ := t.2.2.2.2
      refine ⟨fun q hq => ?_, fun m' hm'' => ?_, fun i i0 i1 => by rw [e4 i i0 i1]; exact z3 i i0 i1⟩
      · obtain ⟨x0, -, -, xs⟩ := e0 q hq
        rw [x0]
        rcases z1 q hq with y | ⟨y, y2⟩
        · exact Or.inl y
        · exact Or.inr ⟨y, fun s s0 s1 => by rw [xs s s0 s1]; exact y2 s s0 s1⟩
      · by_cases y : m' = m
        · rw [y, ne_k (by decide), e145]; exact z2 m hm
        · rw [(eo m' hm'' y).1 0 (by decide) (by decide), (eo m' hm'' y).2]; exact z2 m' hm''
    have ef : fbi u = fv 0 0 u 0 := by unfold fbi; rw [if_neg u0]
    have gd : fgd L (cT h L) (fbi u) := by
      rw [ef]
      exact fgd_n (mk_0 L) (mk_0 L) (Int.le_refl _) (by unfold c32; omega) (by unfold c32; omega) cu
    have eT : cT (hset h (144 + 3 * m) 7 (i_or (hv h (144 + 3 * m) 7) u)) L = tj (cT h L) 15 m 0 (fbi u) := by
      funext a i j
      unfold tj
      by_cases c : a = 15 ∧ i = m ∧ j = 0
      · rw [if_pos c]
        obtain ⟨rfl, rfl, rfl⟩ := c
        rw [r15, cT_15, ef, fbi_join cu u0]
        unfold tc15
        rw [iff_p ⟨hm, rfl⟩, eq_a]
      · rw [if_neg c]
        by_cases d : oca a ∧ i = m
        · obtain ⟨o', rfl⟩ := d
          rcases o' with o' | o' | o' | o' | o' <;> subst o'
          · rw [cT_5, cT_5]
            unfold tc5
            rw [ne_k (by decide), e145]
          · rw [cT_7, cT_7]
            unfold tc7
            rw [ne_k (by decide), ne_k (by decide), ne_k (by decide)]
          · rw [cT_8, cT_8]
            unfold tc8
            rw [ne_k (by decide), ne_k (by decide), ne_k (by decide)]
          · rw [cT_14, cT_14]
            unfold tc14
            rw [ne_k (by decide)]
          · have j0 : j ≠ 0 := fun y => c ⟨rfl, rfl, y⟩
            rw [cT_15, cT_15]
            unfold tc15
            rw [iff_n (fun y => j0 y.2), iff_n (fun y => j0 y.2)]
        · exact o a i j d
    have ne : ∀ a i j, ¬ (a = 15 ∧ i = m ∧ j = 0) → cT (hset h (144 + 3 * m) 7 (i_or (hv h (144 + 3 * m) 7) u)) L a i j = cT h L a i j := by
      intro a i j hn
      rw [eT]
      unfold tj
      rw [if_neg hn]
    have l1 := tj_le.mp (tle_rfl (tj (cT h L) 15 m 0 (fbi u)))
    refine hQ h' (AdK_op w t f eu (fun j => e 77 j (by omega) (by omega)) z (by rw [eT]; exact tiv_tj t.2.2.2.1 (by omega) gd) (by rw [eT]; exact l1.1) (by rw [eT]; exact l1.2) (fun U _ p q => by rw [eT]; exact tj_le.mpr ⟨p, q⟩) oq q' a1.1 (fun q hq => Or.inr ⟨fun s => ne _ _ _ (by omega), ne _ _ _ (by omega)⟩) (fun a i j d => ?_) (fun r p hp y => (a1.2 p y).imp id (fun q => ath_le (by rw [eT]; exact l1.1 _ _ _) (r.2 14 m 0 (Or.inr ⟨by unfold oca; omega, hm, rfl⟩) p hp (by rw [uad_o (by unfold oca; omega)]; exact q.2.2)))) (fun eq => ?_)) (fun b j hb => ?_)
    · by_cases c : a = 15 ∧ i = m ∧ j = 0
      · right
        intro p hp y
        rw [uad_o (by unfold oca; omega), c.2.1] at y
        exact a2 p hp.1 (by have := hp.2; omega) y
      · exact Or.inl (ne a i j c)
    · exfalso
      have f15 := l1.2
      rw [← eT, eq, r15, ef] at f15
      obtain ⟨b0, -, -, b3, -⟩ := f15 (by decide : (1 : Int) ≠ 0)
      refine a0 (fun s hs => ?_)
      have := b3 s hs
      rw [show alb (fbi (hv h (144 + 3 * m) 7)) = hv h (144 + 3 * m) 7 by unfold fbi; split; (rename_i q; rw [q]; rfl); rfl] at this
      exact this
    · rw [oq.2 b j (by omega) (by omega) (by omega)]
      exact e b j (by omega) (by omega)
/-- the place at work -/
def wkC (h : MH) (L : PG) (k M : Int) : Prop := inP L k ∧ hv h 3 18 = k ∧ hv h 3 16 = M ∧ CPm h L (pMo L k) M ∧ hv h 3 17 = k - pFi L (pMo L k)
theorem wkC_of {h h' : MH} {L : PG} {k M : Int} (f : frC h h') (e : ∀ j, 16 ≤ j → j ≤ 18 → hv h' 3 j = hv h 3 j) (wk : wkC h L k M) : wkC h' L k M :=
  ⟨wk.1, by rw [e 18 (by decide) (by decide)]; exact wk.2.1, by rw [e 16 (by decide) (by decide)]; exact wk.2.2.1, frX_m (frC_X f) wk.2.2.2.1, by rw [e 17 (by decide) (by decide)]; exact wk.2.2.2.2⟩
theorem wkC_ws {h h' : MH} {L : PG} {k M : Int} (f : frC h h') (s : wsk h h') (wk : wkC h L k M) : wkC h' L k M := wkC_of f (fun j j0 j1 => s 3 j (by omega)) wk
/-- facts go on within the method -/
theorem K_goOn {l : Launch} {G : JG} {h : MH} {L : PG} {k M i : Int} {Q : Int → MH → Prop} {E : Nat → Int → MH → Prop} (hG : gO G = true) (w : WF L) (t : STc h L) (wk : wkC h L k M) (hi : i = nx L k ∨ i = pZ L k) (i0 : 0 ≤ i) (i1 : i < pCo L (pMo L k))
    (gX : ∀ s, rel L (pFi L (pMo L k) + i) s → fgd L (cT h L) (fo h (80 + 2 + s))) (gk : fgd L (cT h L) (fk (hv h 80 2) (hv h 80 3)))
    (hQ : ∀ h', AdK L h h' (fun U => GT L U k i (fun s => fo h (80 + 2 + s)) (fk (hv h 80 2) (hv h 80 3))) (fun U => GT L U k i (fun s => fo h (80 + 2 + s)) (fk (hv h 80 2) (hv h 80 3))) → wsk h h' → Q 0 h') : S_X2_goOn l G [(2002, 3), (0, i)] h Q E := by
  obtain ⟨hk, hp, hM, cm, h17⟩ := wk
  have nn := w.n
  unfold WFn at nn
  obtain ⟨mk, -⟩ := w.k hk.1 hk.2
  have hk1 := hk.1
  have hk2 := hk.2
  obtain ⟨-, -, -, -, -, -, -, -, -, -, -, -, -, -, -, -, co2, fi0, fi1, -⟩ := w.m mk.1 mk.2.1
  have key : ∀ A : Int, ((A = 75 ∧ i = nx L k) ∨ (A = 76 ∧ i = pZ L k)) → S_X2_come l G [(2002, 3), (18, hv (hset h A k 1) 3 16), (0, i), (7, 80)] (hset h A k 1) (fun _ h3 => Q 0 h3) E := by
    intro A hA
    have f : ∀ b j : Int, b ≠ A → hv (hset h A k 1) b j = hv h b j := fun b j hb => ne_a hb
    have a1 := K_goes w t hk i0 (by omega) hA
    have ef : ∀ s, 0 ≤ s → fo (hset h A k 1) (80 + 2 + s) = fo h (80 + 2 + s) := fun s s0 => fo_eq (fun j => f _ j (by omega))
    have r0 : ∀ s, rel L (pFi L (pMo L k) + i) s → 0 ≤ s := fun s r => by unfold rel at r; omega
    rw [f 3 16 (by omega), hM]
    refine K_come hG w a1.2.1 ⟨mk.1, mk.2.1⟩ (frX_m (frC_X a1.1) cm) i0 i1 (Or.inl rfl) (fun s r => by rw [ef s (r0 s r)]; exact fgd_le a1.2.2.2.2.1 (gX s r)) (by rw [f 80 2 (by omega), f 80 3 (by omega)]; exact fgd_le a1.2.2.2.2.1 gk) fun h' a2 ws => ?_
    rw [f 80 2 (by omega), f 80 3 (by omega)] at a2
    refine hQ h' (AdK_w (AdK_tr a1 a2 (fun U V p q => fle_trans q (p _ _ _))) (fun _ p => ⟨p.1, Flow_eq (fun s r => ef s (r0 s r)) p.2⟩) (fun U _ _ p => ⟨p.1, Flow_eq (fun s r => (ef s (r0 s r)).symm) p.2⟩)) (fun b j hb => ?_)
    rw [ws b j hb]
    exact f b j (by omega)
  refine s_X2_goOn rfl fun K ki => r_X2_goOn_0 ki hG ?_
  rw [hp, w32_i (by omega) (by omega)]
  have en : nx L k = hv h 3 17 + 1 := by unfold nx; omega
  refine ⟨fun e => ⟨hk.1, by omega, Or.inr rfl, fun h1 e1 => ?_⟩, fun e => ⟨hk.1, by omega, Or.inr rfl, fun h1 e1 => ?_⟩⟩
  · subst e1
    exact key 76 (Or.inr ⟨rfl, by rcases hi with y | y; exact absurd (y.trans en) e; exact y⟩)
  · subst e1
    exact key 75 (Or.inl ⟨rfl, by omega⟩)
