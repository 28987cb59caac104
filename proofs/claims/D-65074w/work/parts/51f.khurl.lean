/-! Part 51f: sites are thrown at the place at work -/
theorem frm_fst (p : Int → Bool) : ∀ (n : Nat) (k j : Int), k ≤ j → j < k + n → p j = true → k ≤ frm p n k ∧ frm p n k ≤ j
  | 0, k, j, h0, h1, _ => by omega
  | n + 1, k, j, h0, h1, hp => by
    unfold frm
    by_cases c : p k = true
    · rw [if_pos c]; omega
    · rw [if_neg c]
      have jk : j ≠ k := fun e => c (by rw [← e]; exact hp)
      have := frm_fst p n (k + 1) j (by omega) (by omega) hp
      omega
/-- a handler takes a site -/
def hit (L : PG) (k s n : Int) : Prop := pHa L (pMo L k) n 0 ≤ k - pFi L (pMo L k) ∧ k - pFi L (pMo L k) < pHa L (pMo L k) n 1 ∧ isOf L s (pHa L (pMo L k) n 3) = true
theorem hnd_hit {L : PG} {k s n : Int} (n0 : 0 ≤ n) (n1 : n < pHn L (pMo L k)) (no : ¬ (0 ≤ hnd L k s ∧ hnd L k s < n)) : hnd L k s = n ↔ hit L k s n := by
  constructor
  · intro e
    have := (frm_lt _ _ _ (show 0 ≤ hnd L k s by omega)).2.2
    change (decide (pHa L (pMo L k) (hnd L k s) 0 ≤ k - pFi L (pMo L k)) && decide (k - pFi L (pMo L k) < pHa L (pMo L k) (hnd L k s) 1) && isOf L s (pHa L (pMo L k) (hnd L k s) 3)) = true at this
    rw [e] at this
    simp at this
    exact ⟨this.1.1, this.1.2, this.2⟩
  · rintro ⟨a, b, c⟩
    have := frm_fst (fun h => decide (pHa L (pMo L k) h 0 ≤ k - pFi L (pMo L k)) && decide (k - pFi L (pMo L k) < pHa L (pMo L k) h 1) && isOf L s (pHa L (pMo L k) h 3)) (pHn L (pMo L k)).toNat 0 n n0 (by omega) (by simp [a, b, c])
    change 0 ≤ hnd L k s ∧ hnd L k s ≤ n at this
    omega
/-- sites are thrown at a place, with locks -/
def tsX (L : PG) (k : Int) (X : Int → FA) (x : Int) (lk : FA) (U : TB) : Prop := ∀ s, 1 ≤ s → s < 64 → bl x s = true → TS L U k X s lk
/-- so far as the first handlers go -/
def tsP (L : PG) (k : Int) (X : Int → FA) (x : Int) (lk : FA) (n : Int) (U : TB) : Prop := ∀ s, 1 ≤ s → s < 64 → bl x s = true → fle (b1 s) (U 9 k 0) ∧ (0 ≤ hnd L k s → hnd L k s < n → Flow L U (pFi L (pMo L k) + pHa L (pMo L k) (hnd L k s) 2) (ux X 8 (b1 s)) lk)
theorem tsP_up {L : PG} {k : Int} {X : Int → FA} {x : Int} {lk : FA} {n : Int} {U V : TB} (p : tle U V) (h : tsP L k X x lk n U) : tsP L k X x lk n V :=
  fun s s1 s2 b => ⟨fle_trans (h s s1 s2 b).1 (p _ _ _), fun q r => Flow_le (fun _ => fle_rfl _) (fle_rfl _) p ((h s s1 s2 b).2 q r)⟩
theorem tsX_up {L : PG} {k : Int} {X : Int → FA} {x : Int} {lk : FA} {U V : TB} (p : tle U V) (h : tsX L k X x lk U) : tsX L k X x lk V := fun s s1 s2 b => TS_up p (h s s1 s2 b)
theorem fgd_sub {L : PG} {T : TB} {x y : Int} (g : fgd L T (fs x)) (cy : c64 y) (h : ∀ s, 0 ≤ s → bl y s = true → bl x s = true) : fgd L T (fs y) :=
  ⟨fok_fs cy, fun s s0 q => g.2.1 s s0 (h s s0 q), ⟨⟨mk_0 L, su8_0⟩, mk_0 L⟩, rfl⟩
theorem fgd_c64 {L : PG} {T : TB} {x : Int} (g : fgd L T (fs x)) : c64 x := by
  rcases g.1 with y | y
  · exact absurd (congrArg ath y) (by decide : ¬ (1 : Int) = 0)
  · exact y.2.2.2.2.1
theorem l_some {x : Int} (cx : c64 x) (nz : x ≠ 0) : ∃ s : Int, 0 ≤ s ∧ s < 64 ∧ bl x s = true := by
  apply Classical.byContradiction
  intro c
  apply nz
  rw [bl_eq0 cx]
  intro s s0 s1
  cases e : bl x s
  · rfl
  · exact absurd ⟨s, s0, s1, e⟩ c
section KH
variable {l : Launch} {G : JG} {h : MH} {L : PG} {k M x su pe : Int} {X : Int → FA} {Q : Int → MH → Prop} {E : Nat → Int → MH → Prop}
theorem K_hurl2 (hG : gO G = true) (w : WF L) (t : STc h L) (wk : wkC h L k M) (hX : ∀ j, 0 ≤ j → j < pLc L (pMo L k) → fo h (116 + 2 + j) = X j) (gX : ∀ j, 0 ≤ j → j < pLc L (pMo L k) → fgd L (cT h L) (X j)) (hx0 : bl x 0 = false) (nz : x ≠ 0) (g1 : fgd L (cT h L) (fs x)) (gk2 : fgd L (cT h L) (fk su pe))
    (hQ : ∀ h', AdK L h h' (tsX L k X x (fk su pe)) (tsX L k X x (fk su pe)) → wsk h h' → Q 0 h') : S_X2_hurl_2 l G [(2002, 3), (1, x), (0, su), (0, pe)] h Q E := by
  have nn := w.n
  unfold WFn at nn
  have cx := fgd_c64 g1
  obtain ⟨hk, hp, hM, cm, h17⟩ := wk
  have hk1 := hk.1
  have hk2 := hk.2
  obtain ⟨mk, -⟩ := w.k hk.1 hk.2
  obtain ⟨-, -, -, ar0, -, -, -, -, alc, lc8, -, -, -, hn0, hn1, -, co2, fi0, fi1, fim, -, hh⟩ := w.m mk.1 mk.2.1
  have cm' := cm
  obtain ⟨mo, -, -, -, -, -, -, -, -, -, -, ho, hnl, hhd⟩ := cm
  have mo1 := mo.1
  have ho1 := ho.1
  refine s_X2_hurl_2 rfl fun K ki => r_X2_hurl_2_0 ki hG ?_
  rw [hp]
  refine ⟨hk.1, by omega, hk.1, by omega, fun h1 e1 x5 e5 => ?_⟩
  have f1 : ∀ b j : Int, b ≠ 73 → hv h1 b j = hv h b j := fun b j hb => by rw [e1]; exact ne_a hb
  have a1 := K_thr w t hk cx nz g1
  rw [← e1] at a1
  rw [f1 3 16 (by decide), hM, f1 M 13 (by omega)]
  refine ⟨by omega, fun x7 e7 => ⟨by omega, fun x8 e8 x9 e9 => ?_⟩⟩
  have e8' : x8 = pHn L (pMo L k) := by rw [e8, e7, h2_hn a1.1.1]; exact hnl
  have ba : ∀ s, 0 ≤ s → bl x s = true → 1 ≤ s ∧ s < 64 ∧ s < pNt L := by
    intro s s0 b
    have s64 : s < 64 := by
      apply Classical.byContradiction
      intro c
      rw [bl_hi (by omega)] at b
      cases b
    have s1 : s ≠ 0 := fun e => by rw [e, hx0] at b; cases b
    refine ⟨by omega, s64, ?_⟩
    rcases g1.2.1 s s0 b with y | y
    · omega
    · exact y.1.2
  -- the loop over handlers
  have loop : ∀ N : Nat, ∀ n v5 : Int, ∀ g : MH, (pHn L (pMo L k) - n).toNat ≤ N → 0 ≤ n → n ≤ pHn L (pMo L k) → c64 v5 → (∀ s, 0 ≤ s → (bl v5 s = true ↔ bl x s = true ∧ ¬ (0 ≤ hnd L k s ∧ hnd L k s < n))) → AdK L h g (tsP L k X x (fk su pe) n) (tsP L k X x (fk su pe) n) → wsk h g →
      JW K 33 [(2002, 3), (1, x), (5000, 0), (0, su), (0, pe), (1, v5), (5000, 0), (129, x7), (0, x8), (0, n), (5000, 0), (5000, 0), (5000, 0), (5000, 0)] [] g := by
    -- the end: what is left escapes
    have fin : ∀ v5 : Int, ∀ g : MH, c64 v5 → (∀ s, 0 ≤ s → (bl v5 s = true ↔ bl x s = true ∧ ¬ (0 ≤ hnd L k s ∧ hnd L k s < pHn L (pMo L k)))) → AdK L h g (tsP L k X x (fk su pe) (pHn L (pMo L k))) (tsP L k X x (fk su pe) (pHn L (pMo L k))) → wsk h g →
        JW K 33 [(2002, 3), (1, x), (5000, 0), (0, su), (0, pe), (1, v5), (5000, 0), (129, x7), (0, x8), (0, pHn L (pMo L k)), (5000, 0), (5000, 0), (5000, 0), (5000, 0)] [] g := by
      intro v5 g c5 hv5 a ws
      have lf : ∀ s, 0 ≤ s → (bl v5 s = true ↔ bl x s = true ∧ hnd L k s < 0) := by
        intro s s0
        rw [hv5 s s0]
        constructor
        · rintro ⟨y1, y2⟩
          refine ⟨y1, ?_⟩
          apply Classical.byContradiction
          intro c
          exact y2 ⟨by omega, hnd_lt w hk.1 hk.2 (by omega)⟩
        · rintro ⟨y1, y2⟩
          exact ⟨y1, by omega⟩
      refine r_X2_hurl_2_33 ki hG ⟨fun _ => ⟨fun z => ?_, fun z => ?_⟩, fun z => by omega⟩
      · rw [lc_z] at z
        refine hQ g (AdK_w a (fun _ p s s1 s2 b => ⟨(p s s1 s2 b).1, fun q => ?_, fun q => (p s s1 s2 b).2 q (hnd_lt w hk.1 hk.2 q)⟩) (fun U _ _ p s s1 s2 b => ⟨(p s s1 s2 b).1, fun q _ => (p s s1 s2 b).2.2 q⟩)) ws
        have := (lf s (by omega)).mpr ⟨b, q⟩
        rw [z, bl_zero] at this
        cases this
      · rw [lc_z] at z
        have st := a.2.1
        have v50 : bl v5 0 = false := by
          cases r : bl v5 0
          · rfl
          · have := ((lf 0 (by omega)).mp r).1
            rw [hx0] at this; cases this
        refine K_escape hG w st ⟨mk.1, mk.2.1⟩ (by rw [ws 3 16 (by omega)]; exact hM) (frX_m (frC_X a.1) cm') v50 z (fgd_le a.2.2.2.2.1 (fgd_sub g1 c5 (fun s s0 q => ((lf s s0).mp q).1))) (fgd_le a.2.2.2.2.1 gk2) fun h' a2 ws2 => ?_
        refine hQ h' (AdK_w (AdK_tr a a2 (fun U V p q => tsP_up p q)) (fun _ p s s1 s2 b => ⟨(p.1 s s1 s2 b).1, fun q => ⟨?_, p.2.2⟩, fun q => (p.1 s s1 s2 b).2 q (hnd_lt w hk.1 hk.2 q)⟩) (fun U _ _ p => ⟨fun s s1 s2 b => ⟨(p s s1 s2 b).1, fun q _ => (p s s1 s2 b).2.2 q⟩, ?_, ?_⟩)) (wsk_tr ws ws2)
        · exact (fs_le c5 z).mp p.2.1 s (by omega) s2 ((lf s (by omega)).mpr ⟨b, q⟩)
        · refine (fs_le c5 z).mpr (fun s s0 s1 b => ?_)
          have y := (lf s s0).mp b
          exact ((p s (ba s s0 y.1).1 s1 y.1).2.1 y.2).1
        · obtain ⟨s, s0, s1, b⟩ := l_some c5 z
          have y := (lf s s0).mp b
          exact ((p s (ba s s0 y.1).1 s1 y.1).2.1 y.2).2
    intro N
    induction N with
    | zero =>
      intro n v5 g b1' b2 b3 c5 hv5 a ws
      have en : n = pHn L (pMo L k) := by omega
      subst en
      exact fin v5 g c5 hv5 a ws
    | succ N ih =>
      intro n v5 g b1' b2 b3 c5 hv5 a ws
      by_cases en : n = pHn L (pMo L k)
      · subst en
        exact fin v5 g c5 hv5 a ws
      have aN : (pHn L (pMo L k) - (n + 1)).toNat ≤ N ∧ 0 ≤ n + 1 ∧ n + 1 ≤ pHn L (pMo L k) ∧ n < pHn L (pMo L k) ∧ ¬ x8 ≤ n := by omega
      have st := a.2.1
      have cmg := frX_m (frC_X a.1) cm'
      obtain ⟨-, -, -, -, -, -, -, -, -, -, -, hog, hng, hhg⟩ := cmg
      have e13 : hv g M 13 = x7 := by rw [frX_hv (frC_X a.1) mo (by decide), e7]
      rw [e13] at hog hng hhg
      obtain ⟨hob, hwv⟩ := hhg n b2 (by omega)
      have hob1 := hob.1
      have n17 : hv g 3 17 = k - pFi L (pMo L k) := by rw [ws 3 17 (by omega)]; exact h17
      obtain ⟨r0, r01, r1, r2, r21, r3, r31, r4⟩ := hh n b2 (by omega)
      have skip : ¬ (∃ s, bl v5 s = true ∧ 0 ≤ s ∧ hit L k s n) → ∀ x9 : Int, x9 = w32 (n + 1) → JW K 33 [(2002, 3), (1, x), (5000, 0), (0, su), (0, pe), (1, v5), (5000, 0), (129, x7), (0, x8), (0, x9), (5000, 0), (5000, 0), (5000, 0), (5000, 0)] [] g := by
        intro no x9 e9
        rw [w32_i (by omega) (by omega)] at e9
        subst e9
        have nn' : ∀ s, 0 ≤ s → bl x s = true → hnd L k s ≠ n := by
          intro s s0 b e
          have y : ¬ (0 ≤ hnd L k s ∧ hnd L k s < n) := by omega
          exact no ⟨s, (hv5 s s0).mpr ⟨b, y⟩, s0, (hnd_hit b2 (by omega) y).mp e⟩
        refine ih (n + 1) v5 g aN.1 aN.2.1 aN.2.2.1 c5 (fun s s0 => ?_) (AdK_w a (fun _ p s s1 s2 b => ⟨(p s s1 s2 b).1, fun q r => (p s s1 s2 b).2 q (by have := nn' s (by omega) b; omega)⟩) (fun U _ _ p s s1 s2 b => ⟨(p s s1 s2 b).1, fun q r => (p s s1 s2 b).2 q (by omega)⟩)) ws
        rw [hv5 s s0]
        constructor
        · rintro ⟨y1, y2⟩
          exact ⟨y1, by have := nn' s s0 y1; omega⟩
        · rintro ⟨y1, y2⟩
          exact ⟨y1, by omega⟩
      refine r_X2_hurl_2_33 ki hG ⟨fun z => absurd z aN.2.2.2.2, fun _ => ⟨by omega, b2, by rw [hng]; exact aN.2.2.2.1, fun x10 e10 => ?_⟩⟩
      subst e10
      rw [hwv 0 (by decide) (by decide), hwv 1 (by decide) (by decide), hwv 3 (by decide) (by decide), n17]
      refine ⟨by omega, fun z => skip (fun ⟨s, _, _, y⟩ => by have := y.1; omega), fun z1 => ⟨by omega, fun z2 => ⟨by omega, (by have := (st.1.1).1.1; omega), ?_⟩, fun z => skip (fun ⟨s, _, _, y⟩ => by have := y.2.1; omega)⟩⟩
      refine c_ofClass hG w st.1.1 fun z5 fl => ?_
      intro x11 e11
      subst e11
      obtain ⟨c11, b11⟩ := fl
      have bb : ∀ s, 0 ≤ s → (bl x11 s = true ↔ bl x s = true ∧ hnd L k s = n) := by
        intro s s0
        rw [b11 s s0]
        simp only [Bool.and_eq_true, decide_eq_true_eq]
        constructor
        · rintro ⟨⟨y1, y2⟩, y3⟩
          obtain ⟨u1, u2⟩ := (hv5 s s0).mp y2
          exact ⟨u1, (hnd_hit b2 (by omega) u2).mpr ⟨z1, z2, y3⟩⟩
        · rintro ⟨y1, y2⟩
          have u2 : ¬ (0 ≤ hnd L k s ∧ hnd L k s < n) := by omega
          obtain ⟨v1, v2, v3⟩ := ba s s0 y1
          exact ⟨⟨⟨v1, v3⟩, (hv5 s s0).mpr ⟨y1, u2⟩⟩, ((hnd_hit b2 (by omega) u2).mp y2).2.2⟩
      refine ⟨fun nz11 => ?_, fun z11 => skip (fun ⟨s, y1, s0, y2⟩ => ?_)⟩
      · rw [lc_z] at nz11
        intro x5' e5'
        refine c_Sbecome hG st.1.2.2.2.1.2.1 st.1.2.2.2.1.2.2 (by decide) fun g10 o10 _ _ _ fo10 => ?_
        intro x13 e13'
        -- the stack of the handler
        have slots : ∀ N : Nat, ∀ j : Int, ∀ g2 : MH, (16 - j).toNat ≤ N → 8 ≤ j → j ≤ 16 → ons 98 g g2 → (∀ s, 0 ≤ s → s < 8 → fo g2 (98 + 2 + s) = fo g (116 + 2 + s)) →
            JW K 126 [(2002, 3), (1, x), (5000, 0), (0, su), (0, pe), (1, x5'), (5000, 0), (129, x7), (0, x8), (0, n), (19, hv g x7 n), (1, x11), (5000, 0), (0, j)] [] g2 := by
          have last : ∀ g2 : MH, ons 98 g g2 → (∀ s, 0 ≤ s → s < 8 → fo g2 (98 + 2 + s) = fo g (116 + 2 + s)) →
              JW K 126 [(2002, 3), (1, x), (5000, 0), (0, su), (0, pe), (1, x5'), (5000, 0), (129, x7), (0, x8), (0, n), (19, hv g x7 n), (1, x11), (5000, 0), (0, 16)] [] g2 := by
            intro g2 o2 l2
            obtain ⟨t1, t2, t3, t4, t5, t6, t7⟩ := ons_st o2 st.1.2.2.2.1.2.1 st.1.2.2.2.1.2.1
            obtain ⟨t8, t9⟩ := t7 8 (by decide) (by decide)
            refine r_X2_hurl_2_126 ki hG ⟨fun _ => ?_, fun z => by omega⟩
            rw [t4, t6, t8]
            refine ⟨by decide, by decide, by decide, by decide, c_sites hG ?_⟩
            intro h3 e3 h4 e4
            have o4 : ons 98 g h4 := by
              rw [e4, e3]
              exact ons_tr (ons_tr (ons_tr o2 (ons_fw (k := 8) (by decide) (by decide))) (ons_set (by omega))) (ons_set (by omega))
            have sm4 : smC g h4 := smC_ons (by omega) o4
            have st4 := smC_ST w st sm4
            have fo4 : ∀ s, 0 ≤ s → s < 8 → fo h4 (98 + 2 + s) = X s ∨ pLc L (pMo L k) ≤ s := by
              intro s s0 s1
              by_cases c : s < pLc L (pMo L k)
              · left
                have r1' : fo h4 (98 + 2 + s) = fo g2 (98 + 2 + s) := fo_eq (fun j => by rw [e4, e3, ne_a (by omega), ne_a (by omega), fw_ne (by omega)])
                have r2' : fo g (116 + 2 + s) = fo h (116 + 2 + s) := fo_eq (fun j => ws _ j (by omega))
                rw [r1', l2 s s0 s1, r2', hX s s0 c]
              · right; omega
            have fo8 : fo h4 (98 + 2 + 8) = fs x11 := by
              have r1' : fo h4 (98 + 2 + 8) = fo (fw g2 (98 + 2 + 8) (fs x11)) (98 + 2 + 8) := fo_eq (fun j => by rw [e4, e3, ne_a (by decide), ne_a (by decide)])
              rw [r1', fo_fw0 rfl]
            have k2' : hv h4 98 2 = su := by rw [e4, ne_k (by decide), e3, eq_a]
            have k3' : hv h4 98 3 = pe := by rw [e4, eq_a]
            have eM : hv h4 3 16 = M := by rw [o4.2 3 16 (by omega) (by omega), ws 3 16 (by omega)]; exact hM
            have e2' : hv h4 (hv g x7 n) 2 = pHa L (pMo L k) n 2 := by rw [o4.2 _ 2 (by omega) (by omega)]; exact hwv 2 (by decide) (by decide)
            have am : pMo L (pFi L (pMo L k) + pHa L (pMo L k) n 2) = pMo L k := fim _ r2 r21
            have rls : ∀ s, rel L (pFi L (pMo L k) + pHa L (pMo L k) n 2) s → (0 ≤ s ∧ s < pLc L (pMo L k)) ∨ s = 8 := by
              intro s r
              unfold rel at r
              rw [am, r4] at r
              omega
            have tl : tle (cT h L) (cT h4 L) := by rw [smC_ext w st.1 sm4]; exact a.2.2.2.2.1
            refine ⟨by omega, ?_⟩
            rw [eM, e2']
            refine K_come hG w st4 ⟨mk.1, mk.2.1⟩ (frX_m (frC_tr a.1 (smC_fr sm4) |> frC_X) cm') r2 r21 (Or.inr rfl) (fun s r => ?_) (by rw [k2', k3']; exact fgd_le tl gk2) fun h6 a6 ws6 => ?_
            · rcases rls s r with y | y
              · rcases fo4 s y.1 (by omega) with v | v
                · rw [v]; exact fgd_le tl (gX s y.1 y.2)
                · omega
              · rw [y, fo8]
                exact fgd_le tl (fgd_sub g1 c11 (fun s s0 q => ((bb s s0).mp q).1))
            · rw [k2', k3'] at a6
              intro x9 e9
              rw [w32_i (by omega) (by omega)] at e9
              subst e9
              have a7 := AdK_tr a (AdK_sm w st sm4 a6) (fun U V p q => tsP_up p q)
              obtain ⟨s', s0', s1', bs'⟩ := l_some c11 nz11
              refine ih (n + 1) x5' h6 aN.1 aN.2.1 aN.2.2.1 (by rw [e5']; exact c64_l_and _ _) (fun s s0 => ?_) (AdK_w a7 (fun _ p s s1 s2 b => ⟨(p.1 s s1 s2 b).1, fun q r => ?_⟩) (fun U _ _ p => ⟨fun s s1 s2 b => ⟨(p s s1 s2 b).1, fun q r => (p s s1 s2 b).2 q (by omega)⟩, fun s r => ?_, ?_⟩)) (wsk_tr ws (fun b j hb => ?_))
              · by_cases s64 : s < 64
                · rw [e5', bl_and, bl_not s64]
                  simp only [Bool.and_eq_true, Bool.not_eq_true']
                  rw [hv5 s s0]
                  have bs := bb s s0
                  constructor
                  · rintro ⟨⟨y1, y2⟩, y3⟩
                    refine ⟨y1, fun y => ?_⟩
                    have : hnd L k s = n := by omega
                    rw [bs.mpr ⟨y1, this⟩] at y3
                    cases y3
                  · rintro ⟨y1, y2⟩
                    refine ⟨⟨y1, by omega⟩, ?_⟩
                    cases r : bl x11 s
                    · rfl
                    · have := (bs.mp r).2
                      omega
                · rw [bl_hi (by omega), bl_hi (by omega)]
                  simp
              · by_cases hn' : hnd L k s < n
                · exact (p.1 s s1 s2 b).2 q hn'
                · have hs : hnd L k s = n := by omega
                  rw [hs]
                  refine ⟨fun r' hr' => ?_, p.2.2⟩
                  have fl' : fle (fo h4 (98 + 2 + r')) (cT h6 L 0 (pFi L (pMo L k) + pHa L (pMo L k) n 2) r') := p.2.1 r' hr'
                  unfold ux
                  rcases rls r' hr' with y | y
                  · rw [if_neg (by omega)]
                    rcases fo4 r' y.1 (by omega) with v | v
                    · rw [v] at fl'; exact fl'
                    · omega
                  · rw [if_pos y]
                    rw [y, fo8] at fl'
                    rw [y]
                    exact (fs_le c11 nz11).mp fl' s (by omega) s2 ((bb s (by omega)).mpr ⟨b, hs⟩)
              · show fle (fo h4 (98 + 2 + s)) _
                rcases rls s r with y | y
                · rcases fo4 s y.1 (by omega) with v | v
                  · rw [v]
                    obtain ⟨u1, u2⟩ := (bb s' s0').mp bs'
                    have := ((p s' (ba s' s0' u1).1 s1' u1).2 (by omega) (by omega)).1 s (by rw [u2]; exact r)
                    unfold ux at this
                    rw [if_neg (by omega), u2] at this
                    exact this
                  · omega
                · rw [y, fo8]
                  refine (fs_le c11 nz11).mpr (fun s3 s30 s31 b3 => ?_)
                  obtain ⟨u1, u2⟩ := (bb s3 s30).mp b3
                  have := ((p s3 (ba s3 s30 u1).1 s31 u1).2 (by omega) (by omega)).1 s (by rw [u2]; exact r)
                  unfold ux at this
                  rw [if_pos y, u2, y] at this
                  exact this
              · obtain ⟨u1, u2⟩ := (bb s' s0').mp bs'
                have := ((p s' (ba s' s0' u1).1 s1' u1).2 (by omega) (by omega)).2
                rw [u2] at this
                exact this
              · rw [ws6 b j hb]
                exact o4.2 b j (by omega) (by omega)
          intro N
          induction N with
          | zero =>
            intro j g2 m1 m2 m3 o2 l2
            have ej : j = 16 := by omega
            subst ej
            exact last g2 o2 l2
          | succ N ihN =>
            intro j g2 m1 m2 m3 o2 l2
            by_cases ej : j = 16
            · subst ej
              exact last g2 o2 l2
            obtain ⟨t1, t2, t3, t4, t5, t6, t7⟩ := ons_st o2 st.1.2.2.2.1.2.1 st.1.2.2.2.1.2.1
            obtain ⟨t8, t9⟩ := t7 j (by omega) (by omega)
            refine r_X2_hurl_2_126 ki hG ⟨fun z => by omega, fun _ => ?_⟩
            rw [t4, t6, t8]
            refine ⟨by decide, by omega, by omega, by omega, c_none hG ?_⟩
            intro x13' e13''
            rw [w32_i (by omega) (by omega)] at e13''
            subst e13''
            refine ihN (j + 1) _ (by omega) (by omega) (by omega) (ons_tr o2 (ons_fw (by omega) (by omega))) (fun s s0 s1 => ?_)
            rw [fo_ne (by omega)]
            exact l2 s s0 s1
        subst e13'
        exact slots _ 8 g10 (Nat.le_refl _) (by decide) (by decide) o10 (fun s s0 s1 => fo10 s s0 (by omega))
      · rw [lc_z] at z11
        have := (bb s s0).mpr
        obtain ⟨u1, u2⟩ := (hv5 s s0).mp y1
        have := this ⟨u1, (hnd_hit b2 (by omega) u2).mpr y2⟩
        rw [z11, bl_zero] at this
        cases this
  subst e9
  refine loop _ 0 x5 h1 (Nat.le_refl _) (by omega) hn0 (by rw [e5]; exact cx) (fun s s0 => ?_) (AdK_w a1 (fun _ p s s1 s2 b => ⟨(fs_le cx nz).mp p s (by omega) s2 b, fun q r => by omega⟩) (fun U _ _ p => (fs_le cx nz).mpr (fun s s0 s1 b => (p s (ba s s0 b).1 s1 b).1))) (fun b j hb => f1 b j (by omega))
  rw [e5]
  constructor
  · intro y; exact ⟨y, by omega⟩
  · intro y; exact y.1
theorem K_hurl (hG : gO G = true) (w : WF L) (t : STc h L) (wk : wkC h L k M) (hX : ∀ j, 0 ≤ j → j < pLc L (pMo L k) → fo h (116 + 2 + j) = X j) (gX : ∀ j, 0 ≤ j → j < pLc L (pMo L k) → fgd L (cT h L) (X j)) (hx0 : bl x 0 = false) (nz : x ≠ 0) (g1 : fgd L (cT h L) (fs x)) (g2 : fgd L (cT h L) (fk (hv h 116 2) (hv h 116 3)))
    (hQ : ∀ h', AdK L h h' (tsX L k X x (fk (hv h 116 2) (hv h 116 3))) (tsX L k X x (fk (hv h 116 2) (hv h 116 3))) → wsk h h' → Q 0 h') : S_X2_hurl l G [(2002, 3), (1, x)] h Q E :=
  s_X2_hurl rfl fun K ki => r_X2_hurl_0 ki hG (K_hurl2 hG w t wk hX gX hx0 nz g1 g2 hQ)
end KH
