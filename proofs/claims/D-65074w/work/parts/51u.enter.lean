/-! Part 51u: a method is entered, in the component -/
/-- the first facts of a method that is called -/
noncomputable def enX (L : PG) (c own xo : Int) (Y : Int → FA) : Int → FA := fun j => if j < pAr L c then (if j = 0 ∧ own ≠ 0 then fs xo else Y j) else f1st (pLk L c j)
section EN
variable {l : Launch} {G : JG} {g : MH} {L : PG} {k M c Mc own xo su pe : Int} {Y : Int → FA} {Q : Int → MH → Prop} {E : Nat → Int → MH → Prop}
theorem K_enter (hG : gO G = true) (w : WF L) (t : STc g L) (wk : wkC g L k M) (hc : inM L c) (cm : CPm g L c Mc) (hY : ∀ j, 0 ≤ j → j < pAr L c → fo g (139 + j) = Y j) (gY : ∀ j, 0 ≤ j → j < pAr L c → fgd L (cT g L) (Y j)) (hxo : own ≠ 0 → 1 ≤ pAr L c ∧ l_and (ast (Y 0)) (hv g 143 c) = xo ∧ fgd L (cT g L) (fs xo)) (gk : fgd L (cT g L) (fk su pe))
    (hQ : ∀ h', AdK L g h' (fun U => fle (fs 0) (U 10 k c) ∧ Flow L U (pFi L c) (enX L c own xo Y) (fk su pe)) (fun U => fle (fs 0) (U 10 k c) ∧ Flow L U (pFi L c) (enX L c own xo Y) (fk su pe)) → wsk g h' → Q 0 h') : S_X2_enter l G [(2002, 3), (18, Mc), (0, own), (0, su), (0, pe)] g Q E := by
  have nn := w.n
  unfold WFn at nn
  obtain ⟨hk, hp, -, -, -⟩ := wk
  have hk1 := hk.1
  have hk2 := hk.2
  have hc1 := hc.1
  have hc2 := hc.2
  obtain ⟨-, -, -, ar0, ar1, -, -, -, alc, lc8, lks, -, -, -, -, co1, co2, fi0, fi1, fim, fid, -⟩ := w.m hc.1 hc.2
  have cm' := cm
  obtain ⟨mo, ⟨m0, -, -, m3, -⟩, ⟨k1, k2, k3⟩, -⟩ := cm
  have mo1 := mo.1
  have k11 := k1.1
  refine s_X2_enter rfl fun K ki => r_X2_enter_0 ki hG ?_
  rw [hp, m0]
  refine ⟨hk1, by omega, by omega, hk1, by omega, fun h1 e1 => ?_⟩
  have a1 := K_called w t hk hc1 (show c < 64 by omega)
  rw [← e1] at a1
  have f1 : ∀ b j, b ≠ 74 → hv h1 b j = hv g b j := fun b j hb => by rw [e1]; exact ne_a hb
  have st1 := a1.2.1
  refine c_Snone hG st1.1.2.2.2.1.2.1 fun h3 o3 _ _ _ _ => ?_
  have mem : ∀ g2, ons 98 h1 g2 → hv g2 Mc 5 = hv g Mc 5 ∧ hv g2 Mc 3 = pAr L c ∧ hv g2 Mc 0 = c ∧ hn g2 (hv g Mc 5) = pLc L c ∧ (∀ j, 0 ≤ j → j < pLc L c → hv g2 (hv g Mc 5) j = pLk L c j) ∧ (∀ j, 0 ≤ j → j < 4 → hv g2 138 j = 139 + j) ∧ (∀ j, 0 ≤ j → j < 4 → fo g2 (139 + j) = fo g (139 + j)) ∧ hv g2 143 c = hv g 143 c := by
    intro g2 o2
    have e : ∀ b j, ¬ (98 ≤ b ∧ b < 116) → b ≠ 74 → hv g2 b j = hv g b j := fun b j hb hb2 => by rw [o2.2 b j (by omega) (by omega)]; exact f1 b j hb2
    refine ⟨e _ _ (by omega) (by omega), by rw [e _ _ (by omega) (by omega)]; exact m3, by rw [e _ _ (by omega) (by omega)]; exact m0, ?_, fun j j0 j1 => by rw [e _ _ (by omega) (by omega)]; exact k3 j j0 j1, fun j j0 j1 => by rw [e _ _ (by omega) (by omega)]; exact t.1.2.2.2.2.2.2.2.2.2 j j0 j1, fun j j0 j1 => fo_eq (fun i => e _ _ (by omega) (by omega)), e _ _ (by omega) (by omega)⟩
    rw [h2_hn o2.1, h2_hn a1.1.1]; exact k2
  -- the slots of the locals
  have fin : ∀ g2 : MH, ons 98 h1 g2 → (∀ i, 0 ≤ i → i < pLc L c → fo g2 (98 + 2 + i) = if i < pAr L c then Y i else f1st (pLk L c i)) → JW K 28 [(2002, 3), (18, Mc), (0, own), (0, su), (0, pe), (0, pLc L c)] [] g2 := by
    intro g2 o2 sl
    obtain ⟨q1, q2, q3, q4, q5, q6, q7, q8⟩ := mem g2 o2
    obtain ⟨t1, t2, t3, t4, t5, t6, t7⟩ := ons_st o2 st1.1.2.2.2.1.2.1 st1.1.2.2.2.1.2.1
    obtain ⟨t8, t9⟩ := t7 0 (by decide) (by decide)
    -- facts come to the method's first place
    have go : ∀ h8 : MH, ons 98 h1 h8 → hv h8 98 2 = su → hv h8 98 3 = pe → (∀ s, 0 ≤ s → s < pLc L c → fo h8 (98 + 2 + s) = enX L c own xo Y s) → S_X2_come l G [(2002, 3), (18, Mc), (0, 0), (7, 98)] h8 (fun _ h10 => Q 0 h10) E := by
      intro h8 o8 s2 s3 sl8
      have sm8 : smC h1 h8 := smC_ons (by omega) o8
      have st8 := smC_ST w st1 sm8
      have eT8 := smC_ext w st1.1 sm8
      have tl : tle (cT g L) (cT h8 L) := by rw [eT8]; exact a1.2.2.2.2.1
      have rls : ∀ s, rel L (pFi L c + 0) s → 0 ≤ s ∧ s < pLc L c := by
        intro s r
        rw [Int.add_zero] at r
        have mf : pMo L (pFi L c) = c := by have := fim 0 (by omega) (by omega); rw [Int.add_zero] at this; exact this
        unfold rel at r
        rw [mf, fid] at r
        omega
      have gE : ∀ s, 0 ≤ s → s < pLc L c → fgd L (cT g L) (enX L c own xo Y s) := by
        intro s s0 s1
        unfold enX
        by_cases a : s < pAr L c
        · rw [if_pos a]
          by_cases b : s = 0 ∧ own ≠ 0
          · rw [if_pos b]; exact (hxo b.2).2.2
          · rw [if_neg b]; exact gY s s0 a
        · rw [if_neg a]; exact fgd_f1 L _ _
      refine K_come hG w st8 hc (frX_m (frC_X (frC_tr a1.1 (smC_fr sm8))) cm') (Int.le_refl 0) (by omega) (Or.inr rfl) (fun s r => ?_) (by rw [s2, s3]; exact fgd_le tl gk) fun h10 a10 ws10 => ?_
      · obtain ⟨s0, s1⟩ := rls s r
        rw [sl8 s s0 s1]
        exact fgd_le tl (gE s s0 s1)
      · rw [s2, s3] at a10
        refine hQ h10 (AdK_w (AdK_tr a1 (AdK_sm w st1 sm8 a10) (fun U V p q => fle_trans q (p _ _ _))) (fun _ p => ⟨p.1, ?_⟩) (fun U _ _ p => ⟨p.1, ?_⟩)) (fun b j hb => ?_)
        · have := Flow_eq (Y := enX L c own xo Y) (fun s r => sl8 s (rls s r).1 (rls s r).2) p.2
          rw [Int.add_zero] at this
          exact this
        · have := p.2
          rw [← Int.add_zero (pFi L c)] at this
          exact Flow_eq (fun s r => (sl8 s (rls s r).1 (rls s r).2).symm) this
        · rw [ws10 b j hb, o8.2 b j (by omega) (by omega)]
          exact f1 b j (by omega)
    refine r_X2_enter_28 ki hG ?_
    rw [q1, q4]
    refine ⟨by omega, by omega, fun _ => ⟨fun y h5 e5 h6 e6 => ?_, fun y => ?_⟩, fun y => by omega⟩
    · refine go h6 ?_ ?_ ?_ (fun s s0 s1 => ?_)
      · rw [e6, e5]; exact ons_tr (ons_tr o2 (ons_set (by omega))) (ons_set (by omega))
      · rw [e6, ne_k (by decide), e5, eq_a]
      · rw [e6, eq_a]
      · have : fo h6 (98 + 2 + s) = fo g2 (98 + 2 + s) := fo_eq (fun j => by rw [e6, ne_a (by omega), e5, ne_a (by omega)])
        rw [this, sl s s0 s1]
        unfold enX
        by_cases a : s < pAr L c
        · rw [if_pos a, if_pos a, if_neg (fun z => z.2 y)]
        · rw [if_neg a, if_neg a]
    · obtain ⟨x1, x2, x3⟩ := hxo y
      rw [t4, t6, t8, q6 0 (by decide) (by decide), q3, q8]
      have e4 : hv g2 (139 + 0) 4 = ast (Y 0) := by
        have := congrArg ast (q7 0 (by decide) (by decide))
        rw [hY 0 (by decide) (by omega)] at this
        exact this
      rw [e4, x2]
      refine ⟨by decide, by decide, by decide, by decide, by decide, by decide, by omega, hc1, by omega, by decide, c_sites hG ?_⟩
      intro h5 e5 h6 e6
      refine go h6 ?_ ?_ ?_ (fun s s0 s1 => ?_)
      · rw [e6, e5]; exact ons_tr (ons_tr (ons_tr o2 (ons_fw (k := 0) (by decide) (by decide))) (ons_set (by omega))) (ons_set (by omega))
      · rw [e6, ne_k (by decide), e5, eq_a]
      · rw [e6, eq_a]
      · have : fo h6 (98 + 2 + s) = fo (fw g2 (98 + 2 + 0) (fs xo)) (98 + 2 + s) := fo_eq (fun j => by rw [e6, ne_a (by omega), e5, ne_a (by omega)])
        rw [this]
        unfold enX
        by_cases z : s = 0
        · rw [z, fo_fw0 rfl, if_pos (by omega), if_pos ⟨rfl, y⟩]
        · rw [fo_ne (by omega), sl s s0 s1]
          by_cases a : s < pAr L c
          · rw [if_pos a, if_pos a, if_neg (fun q => z q.1)]
          · rw [if_neg a, if_neg a]
  have loop : ∀ N : Nat, ∀ n : Int, ∀ g2 : MH, (pLc L c - n).toNat ≤ N → 0 ≤ n → n ≤ pLc L c → ons 98 h1 g2 → (∀ i, 0 ≤ i → i < n → fo g2 (98 + 2 + i) = if i < pAr L c then Y i else f1st (pLk L c i)) → JW K 28 [(2002, 3), (18, Mc), (0, own), (0, su), (0, pe), (0, n)] [] g2 := by
    intro N
    induction N with
    | zero =>
      intro n g2 n1 n2 n3 o2 sl
      have en : n = pLc L c := by omega
      subst en
      exact fin g2 o2 sl
    | succ N ih =>
      intro n g2 n1 n2 n3 o2 sl
      by_cases en : n = pLc L c
      · subst en
        exact fin g2 o2 sl
      obtain ⟨q1, q2, q3, q4, q5, q6, q7, q8⟩ := mem g2 o2
      obtain ⟨t1, t2, t3, t4, t5, t6, t7⟩ := ons_st o2 st1.1.2.2.2.1.2.1 st1.1.2.2.2.1.2.1
      obtain ⟨t8, t9⟩ := t7 n n2 (by omega)
      refine r_X2_enter_28 ki hG ?_
      rw [q1, q4, q2, t4, t6, t8]
      refine ⟨by omega, by omega, fun y => by omega, fun _ => ⟨by omega, fun y => ?_, fun y => ?_⟩⟩
      · rw [q5 n n2 (by omega)]
        refine ⟨by decide, n2, by omega, by omega, by omega, n2, by omega, by omega, c_first hG ?_⟩
        rw [kfst_f (lks n n2 (by omega))]
        intro x ex
        rw [w32_i (by omega) (by omega)] at ex
        subst ex
        refine ih (n + 1) _ (by omega) (by omega) (by omega) (ons_tr o2 (ons_fw n2 (by omega))) (fun i i0 i1 => ?_)
        by_cases z : i = n
        · rw [z, fo_fw0 (asu_f1 _), if_neg (by omega)]
        · rw [fo_ne (by omega)]; exact sl i i0 (by omega)
      · rw [q6 n n2 (by omega)]
        refine ⟨by decide, n2, by omega, n2, by omega, by omega, c_become hG (by omega) ?_⟩
        rw [q7 n n2 (by omega)]
        intro x ex
        rw [w32_i (by omega) (by omega)] at ex
        subst ex
        refine ih (n + 1) _ (by omega) (by omega) (by omega) (ons_tr o2 (ons_fw n2 (by omega))) (fun i i0 i1 => ?_)
        by_cases z : i = n
        · rw [z, fo_fw0 rfl, if_pos (by omega)]; exact hY n n2 y
        · rw [fo_ne (by omega)]; exact sl i i0 (by omega)
  intro x ex
  subst ex
  exact loop _ 0 h3 (Nat.le_refl _) (by decide) (by omega) o3 (fun i i0 i1 => by omega)
end EN
