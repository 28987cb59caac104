/-! Part 51d: single steps of the component's analysis -/
section LOW
variable {h g h' : MH} {L : PG}
/-- the four arrays of places alone have another content -/
theorem lowT (w : WF L) (t : STc h L) (e2 : g.2 = h.2) (e : ∀ b j, (b < 73 ∨ 76 < b) → hv g b j = hv h b j) : frC h g ∧ zC g L ∧ (∀ a i j, a ≠ 9 → a ≠ 10 → a ≠ 11 → cT g L a i j = cT h L a i j) ∧ (∀ a i j, udom L a i j → ∀ k, hv g (uad h a i j) k = hv h (uad h a i j) k) := by
  obtain ⟨c, qi, u, tv, z⟩ := t
  have f : frC h g := ⟨e2, fun b j p _ => e b j (by unfold wlo at p; omega)⟩
  have e0 : ∀ q, inP L q → vq h g q := fun q hq => vq_of (frC_4 f q) (fun b j hb => e b j (by have := (c.2.1 q hq).2; omega))
  have eo : ∀ m, inM L m → vo h g m := fun m hm => ⟨fun j _ _ => e _ j (by unfold inM at hm; omega), fo_eq (fun j => e _ j (by unfold inM at hm; omega))⟩
  refine ⟨f, zC_eq e0 (fun i i0 i1 => e _ 0 (by omega)) eo z, fun a i j h9 h10 h11 => ?_, fun a i j d k => e _ k (by have := (uad_ty w c d).2.2; omega)⟩
  unfold cT
  rw [if_neg h9, if_neg h9, if_neg h10, if_neg h10, if_neg h11, if_neg h11]
  rw [e_c0 w (e0 i) j, e_c1 (fun d => vc_of (frC_cad f w d) (fun k => e _ k (by have := (c.2.2.2.2.1 a i j d).2; omega))), e_c4 (fun i0 i1 => fo_eq (fun j => e _ j (by omega))) j, (e_co w (eo i) j).1, e_c6 (e0 i) j, (e_co w (eo i) j).2.1, (e_co w (eo i) j).2.2.1, (e_co w (eo i) j).2.2.2.1, (e_co w (eo i) j).2.2.2.2]
/-- one entry is joined on which no place rests -/
theorem AdK_tj (w : WF L) (t : STc h L) (f : frC h g) (z : zC g L) (eu : ∀ a i j, udom L a i j → ∀ k, hv g (uad h a i j) k = hv h (uad h a i j) k) (e7 : ∀ b j, (b = 3 ∨ (77 ≤ b ∧ b ≤ 79)) → hv g b j = hv h b j) {a i j : Int} {v : FA} (na : a = 4 ∨ a = 9 ∨ a = 10 ∨ a = 11) (eT : cT g L = tj (cT h L) a i j v) (gd : fgd L (cT h L) v) :
    AdK L h g (fun U => fle v (U a i j)) (fun U => fle v (U a i j)) := by
  have le := tj_le.mp (tle_rfl (tj (cT h L) a i j v))
  have ne : ∀ b k l, b ≠ a → cT g L b k l = cT h L b k l := fun b k l hb => by
    rw [eT]
    unfold tj
    rw [if_neg (fun y => hb y.1)]
  refine AdK_op w t f eu (fun j => e7 77 j (by omega)) z (by rw [eT]; exact tiv_tj t.2.2.2.1 (by omega) gd) (by rw [eT]; exact le.1) (by rw [eT]; exact le.2) (fun U _ p q => by rw [eT]; exact tj_le.mpr ⟨p, q⟩) (onq_rfl g) (QI_of t.2.1 (e7 3 14 (by omega)) (e7 3 15 (by omega)) (fun j => e7 78 j (by omega)) (fun j => e7 79 j (by omega))) (fun j x => by rw [e7 79 j (by omega)]; exact x) (fun q _ => Or.inr ⟨fun s => ne _ _ _ (by omega), ne _ _ _ (by omega)⟩) (fun b k l d => Or.inl (ne _ _ _ ?_)) (fun _ p _ x => Or.inl (by rw [e7 79 p (by omega)] at x; exact x)) (fun _ j x => by rw [e7 79 j (by omega)] at x; exact x)
  unfold udom cdom oca at d
  omega
theorem fjoin_s0 {P P' : Prop} (h : P → P') : fjoin (iff_ P (fs 0)) (fs 0) = fs 0 := by
  by_cases c : P
  · rw [iff_p c]
    exact (fjoin_fv 0 0 0 0 0 0 0 0).trans (by rw [show i_or 0 0 = 0 by decide, show l_or 0 0 = 0 by decide]; rfl)
  · rw [iff_n c, fjoin_zv rfl]
/-- sites are thrown at a place -/
theorem K_thr (w : WF L) (t : STc h L) {k x : Int} (hk : inP L k) (hx : c64 x) (nz : x ≠ 0) (gd : fgd L (cT h L) (fs x)) : AdK L h (hset h 73 k (l_or (hv h 73 k) x)) (fun U => fle (fs x) (U 9 k 0)) (fun U => fle (fs x) (U 9 k 0)) := by
  have e : ∀ b j, (b < 73 ∨ 76 < b) → hv (hset h 73 k (l_or (hv h 73 k) x)) b j = hv h b j := fun b j hb => ne_a (by omega)
  obtain ⟨f, z, o, eu⟩ := lowT (g := hset h 73 k (l_or (hv h 73 k) x)) w t rfl e
  refine AdK_tj w t f z eu (fun b j hb => e b j (by omega)) (by omega) ?_ gd
  funext a b c
  unfold tj
  by_cases a9 : a = 9
  · subst a9
    by_cases bk : b = k
    · subst bk
      by_cases c0 : c = 0
      · subst c0
        rw [if_pos ⟨rfl, rfl, rfl⟩, cT_9, cT_9]
        unfold tc9
        rw [iff_p ⟨hk, rfl⟩, iff_p ⟨hk, rfl⟩, eq_a, fb_join hx nz]
      · rw [if_neg (fun y => c0 y.2.2), cT_9, cT_9]
        unfold tc9
        rw [iff_n (fun y => c0 y.2), iff_n (fun y => c0 y.2)]
    · rw [if_neg (fun y => bk y.2.1), cT_9, cT_9]
      unfold tc9
      rw [ne_k bk]
  · rw [if_neg (fun y => a9 y.1)]
    by_cases a10 : a = 10
    · subst a10
      rw [cT_10, cT_10]
      unfold tc10
      rw [ne_a (by decide)]
    by_cases a11 : a = 11
    · subst a11
      rw [cT_11, cT_11]
      unfold tc11
      rw [ne_a (by decide), ne_a (by decide)]
    exact o a b c a9 a10 a11
/-- a method is called at a place -/
theorem K_called (w : WF L) (t : STc h L) {k x : Int} (hk : inP L k) (x0 : 0 ≤ x) (x1 : x < 64) : AdK L h (hset h 74 k (l_or (hv h 74 k) (l_shl 1 x))) (fun U => fle (fs 0) (U 10 k x)) (fun U => fle (fs 0) (U 10 k x)) := by
  have e : ∀ b j, (b < 73 ∨ 76 < b) → hv (hset h 74 k (l_or (hv h 74 k) (l_shl 1 x))) b j = hv h b j := fun b j hb => ne_a (by omega)
  obtain ⟨f, z, o, eu⟩ := lowT (g := hset h 74 k (l_or (hv h 74 k) (l_shl 1 x))) w t rfl e
  refine AdK_tj w t f z eu (fun b j hb => e b j (by omega)) (by omega) ?_ (fgd_s0 L _)
  funext a b c
  unfold tj
  by_cases a9 : a = 10
  · subst a9
    by_cases bk : b = k
    · subst bk
      by_cases c0 : c = x
      · subst c0
        rw [if_pos ⟨rfl, rfl, rfl⟩, cT_10, cT_10]
        unfold tc10
        have pr : bl (hv (hset h 74 b (l_or (hv h 74 b) (l_shl 1 c))) 74 b) c = true := by
          rw [eq_a, bl_or, bl_shl x0 x1 x0]; simp
        rw [fjoin_s0 (fun y => y), iff_p ⟨hk, x0, x1, pr⟩]
      · rw [if_neg (fun y => c0 y.2.2), cT_10, cT_10]
        unfold tc10
        refine iff_c ⟨fun y => ⟨y.1, y.2.1, y.2.2.1, ?_⟩, fun y => ⟨y.1, y.2.1, y.2.2.1, ?_⟩⟩ (fun _ => rfl)
        · have := y.2.2.2
          rw [eq_a, bl_or, bl_shl x0 x1 y.2.1] at this
          simpa [c0] using this
        · rw [eq_a, bl_or, y.2.2.2]; rfl
    · rw [if_neg (fun y => bk y.2.1), cT_10, cT_10]
      unfold tc10
      rw [ne_k bk]
  · rw [if_neg (fun y => a9 y.1)]
    by_cases a10 : a = 9
    · subst a10
      rw [cT_9, cT_9]
      unfold tc9
      rw [ne_a (by decide)]
    by_cases a11 : a = 11
    · subst a11
      rw [cT_11, cT_11]
      unfold tc11
      rw [ne_a (by decide), ne_a (by decide)]
    exact o a b c a10 a9 a11
/-- facts go on from a place to another -/
theorem K_goes (w : WF L) (t : STc h L) {k x A : Int} (hk : inP L k) (x0 : 0 ≤ x) (x1 : x < 128) (hA : (A = 75 ∧ x = nx L k) ∨ (A = 76 ∧ x = pZ L k)) : AdK L h (hset h A k 1) (fun U => fle (fs 0) (U 11 k x)) (fun U => fle (fs 0) (U 11 k x)) := by
  have e : ∀ b j, (b < 73 ∨ 76 < b) → hv (hset h A k 1) b j = hv h b j := fun b j hb => ne_a (by omega)
  obtain ⟨f, z, o, eu⟩ := lowT (g := hset h A k 1) w t rfl e
  refine AdK_tj w t f z eu (fun b j hb => e b j (by omega)) (by omega) ?_ (fgd_s0 L _)
  funext a b c
  unfold tj
  by_cases a9 : a = 11
  · subst a9
    rw [cT_11, cT_11]
    unfold tc11
    by_cases bk : b = k
    · subst bk
      by_cases c0 : c = x
      · subst c0
        have pr : (hv (hset h A b 1) 75 b = 1 ∧ c = nx L b) ∨ (hv (hset h A b 1) 76 b = 1 ∧ c = pZ L b) := by
          rcases hA with ⟨rfl, hx⟩ | ⟨rfl, hx⟩
          · exact Or.inl ⟨eq_a, hx⟩
          · exact Or.inr ⟨eq_a, hx⟩
        rw [if_pos ⟨rfl, rfl, rfl⟩, fjoin_s0 (fun y => y), iff_p ⟨hk, ⟨x0, x1⟩, pr⟩]
      · rw [if_neg (fun y => c0 y.2.2)]
        refine iff_c ⟨fun y => ⟨y.1, y.2.1, ?_⟩, fun y => ⟨y.1, y.2.1, ?_⟩⟩ (fun _ => rfl)
        · rcases hA with ⟨rfl, hx⟩ | ⟨rfl, hx⟩
          · rcases y.2.2 with v | v
            · exact absurd (v.2.trans hx.symm) c0
            · rw [ne_a (by decide)] at v; exact Or.inr v
          · rcases y.2.2 with v | v
            · rw [ne_a (by decide)] at v; exact Or.inl v
            · exact absurd (v.2.trans hx.symm) c0
        · rcases hA with ⟨rfl, hx⟩ | ⟨rfl, hx⟩
          · rcases y.2.2 with v | v
            · exact absurd (v.2.trans hx.symm) c0
            · exact Or.inr ⟨by rw [ne_a (by decide)]; exact v.1, v.2⟩
          · rcases y.2.2 with v | v
            · exact Or.inl ⟨by rw [ne_a (by decide)]; exact v.1, v.2⟩
            · exact absurd (v.2.trans hx.symm) c0
    · rw [if_neg (fun y => bk y.2.1), ne_k bk, ne_k bk]
  · rw [if_neg (fun y => a9 y.1)]
    by_cases a10 : a = 9
    · subst a10
      rw [cT_9, cT_9]
      unfold tc9
      rw [ne_a (by omega)]
    by_cases a11 : a = 10
    · subst a11
      rw [cT_10, cT_10]
      unfold tc10
      rw [ne_a (by omega)]
    exact o a b c a10 a11 a9
end LOW
/-- an outcome alone has another content: its plain fields, its value -/
theorem ouT {h g : MH} {L : PG} (w : WF L) (t : STc h L) {m : Int} (hm : inM L m) (e2 : g.2 = h.2) (e : ∀ b j, b ≠ 145 + 3 * m → ¬ (b = 144 + 3 * m ∧ j ≠ 1 ∧ j ≠ 8) → hv g b j = hv h b j) :
    frC h g ∧ (∀ a i j, ¬ (oca a ∧ i = m) → cT g L a i j = cT h L a i j) ∧ (∀ a i j, udom L a i j → ∀ k, hv g (uad h a i j) k = hv h (uad h a i j) k) ∧ (∀ q, inP L q → vq h g q) ∧ (∀ i, 0 ≤ i → i < 8 → hv g (288 + i) 0 = hv h (288 + i) 0) ∧ (∀ m', inM L m' → m' ≠ m → vo h g m') := by
  have nn := w.n
  unfold WFn at nn
  obtain ⟨c, qi, u, tv, z⟩ := t
  have hm' := hm
  unfold inM at hm'
  have f : frC h g := ⟨e2, fun b j p _ => e b j (fun y => p (by unfold wlo; omega)) (fun y => p (by unfold wlo; omega))⟩
  have e0 : ∀ q, inP L q → vq h g q := fun q hq => vq_of (frC_4 f q) (fun b j hb => by
    have := (c.2.1 q hq).2
    exact e b j (by omega) (by omega))
  have eo : ∀ m', inM L m' → m' ≠ m → vo h g m' := fun m' hm'' ne => by
    unfold inM at hm''
    exact ⟨fun j _ _ => e _ j (by omega) (by omega), fo_eq (fun j => e _ j (by omega) (by omega))⟩
  refine ⟨f, fun a i j hn => ?_, fun a i j d k => ?_, e0, fun i i0 i1 => e _ 0 (by omega) (by omega), eo⟩
  · have ec : cdom L a i j → vc h g a i j := fun d => vc_of (frC_cad f w d) (fun k => by
      have := (c.2.2.2.2.1 a i j d).2
      exact e _ k (by omega) (by omega))
    have ea : inP L i → va h g i := fun _ => ⟨e _ _ (by omega) (by omega), e _ _ (by omega) (by omega), e _ _ (by omega) (by omega), e _ _ (by omega) (by omega)⟩
    by_cases o : oca a
    · have im : i ≠ m := fun y => hn ⟨o, y⟩
      obtain ⟨x5, x7, x8, x14, x15⟩ := e_co w (fun q => eo i q im) j
      rcases o with o | o | o | o | o <;> subst o
      · exact x5
      · exact x7
      · exact x8
      · exact x14
      · exact x15
    · unfold oca at o
      unfold cT
      rw [if_neg (show ¬ a = 5 by omega), if_neg (show ¬ a = 5 by omega), if_neg (show ¬ a = 7 by omega), if_neg (show ¬ a = 7 by omega), if_neg (show ¬ a = 8 by omega), if_neg (show ¬ a = 8 by omega), if_neg (show ¬ a = 14 by omega), if_neg (show ¬ a = 14 by omega), if_neg (show ¬ a = 15 by omega), if_neg (show ¬ a = 15 by omega)]
      rw [e_c0 w (e0 i) j, e_c1 ec, e_c4 (fun i0 i1 => fo_eq (fun j => e _ j (by omega) (by omega))) j, e_c6 (e0 i) j, (e_ca ea j).1, (e_ca ea j).2.1, (e_ca ea j).2.2]
  · have := (uad_ty w c d).2.2
    exact e _ k (by omega) (by omega)
theorem tiv_escX {L : PG} {T : TB} (t : tiv L T) {m x su pe : Int} (hx0 : bl x 0 = false) (g1 : fgd L T (fs x)) (g2 : fgd L T (fk su pe)) : tiv L (tj (tj T 14 m 0 (fs x)) 8 m 0 (fk su pe)) := by
  obtain ⟨t1', t2', t3', t4', t5', t6'⟩ := t
  have up : tle T (tj (tj T 14 m 0 (fs x)) 8 m 0 (fk su pe)) := tle_trans (tj_ge T 14 m 0 _) (tj_ge _ 8 m 0 _)
  have e : ∀ b k j, b ≠ 8 → b ≠ 14 → tj (tj T 14 m 0 (fs x)) 8 m 0 (fk su pe) b k j = T b k j := by
    intro b k j h8 h14
    unfold tj
    rw [if_neg (fun y => h8 y.1), if_neg (fun y => h14 y.1)]
  refine ⟨tj_ok (tj_ok t1' g1.1) g2.1, fun b k j => fmk_le up ?_, fun b k j => ?_, fun c => ?_, fun c => ?_, fun q' s r1 r2 => ?_⟩
  · unfold tj
    split
    · refine fmk_join ?_ g2.2.1
      split
      · exact fmk_join (t2' _ _ _) g1.2.1
      · exact t2' _ _ _
    · split
      · exact fmk_join (t2' _ _ _) g1.2.1
      · exact t2' _ _ _
  · unfold tj
    split
    · refine fmr_join ?_ g2.2.2.1
      split
      · exact fmr_join (t3' _ _ _) g1.2.2.1
      · exact t3' _ _ _
    · split
      · exact fmr_join (t3' _ _ _) g1.2.2.1
      · exact t3' _ _ _
  · rw [e 5 c 0 (by omega) (by omega), e 7 c 0 (by omega) (by omega)]; exact t4' c
  · by_cases cm : c = m
    · subst cm
      have a14 : tj (tj T 14 c 0 (fs x)) 8 c 0 (fk su pe) 14 c 0 = fjoin (T 14 c 0) (fs x) := by
        unfold tj
        rw [if_neg (fun y => by have := y.1; omega), if_pos ⟨rfl, rfl, rfl⟩]
      have a8 : tj (tj T 14 c 0 (fs x)) 8 c 0 (fk su pe) 8 c 0 = fjoin (T 8 c 0) (fk su pe) := by
        unfold tj
        rw [if_pos ⟨rfl, rfl, rfl⟩, if_neg (fun y => by have := y.1; omega)]
      rw [a14, a8, ath_join, ath_join]
      refine ⟨⟨fun _ => Or.inr (by decide : (1 : Int) ≠ 0), fun _ => Or.inr (by decide : (1 : Int) ≠ 0)⟩, ?_⟩
      unfold fjoin
      rw [if_neg (show ¬ ath (fs x) = 0 from (by decide : ¬ (1 : Int) = 0))]
      by_cases z : ath (T 14 c 0) = 0
      · rw [if_pos z]; exact hx0
      · rw [if_neg z]
        show bl (l_or (ast (T 14 c 0)) x) 0 = false
        rw [bl_or, hx0, (t5' c).2]; rfl
    · have a14 : tj (tj T 14 m 0 (fs x)) 8 m 0 (fk su pe) 14 c 0 = T 14 c 0 := by
        unfold tj
        rw [if_neg (fun y => cm y.2.1), if_neg (fun y => cm y.2.1)]
      have a8 : tj (tj T 14 m 0 (fs x)) 8 m 0 (fk su pe) 8 c 0 = T 8 c 0 := by
        unfold tj
        rw [if_neg (fun y => cm y.2.1), if_neg (fun y => cm y.2.1)]
      rw [a14, a8]; exact t5' c
  · rw [e 6 _ _ (by omega) (by omega)] at r1
    rw [e 0 _ _ (by omega) (by omega)]; exact t6' q' s r1 r2
