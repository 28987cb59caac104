/-! Part 52e: the component finds the least closed table -/
/-- outside the finite part the table is empty -/
theorem cT_out {g : MH} {L : PG} (w : WF L) {a i j : Int} (nd : ¬ tdom a i j) : cT g L a i j = fz := by
  have nn := w.n
  unfold WFn at nn
  unfold tdom at nd
  have n8 : ∀ s, inS L s → nfs L s ≤ 8 := fun s hs => by
    unfold inS at hs
    unfold nfs
    by_cases z : pSc L s < 0
    · rw [if_pos z]; decide
    · rw [if_neg z]
      have sc := w.sc (s := s) (by omega) hs.2
      exact (w.c.2.2.1 (pSc L s) (by omega) (by omega)).2
  by_cases a0 : a = 0
  · subst a0
    rw [cT_0]
    unfold tc0
    refine iff_n (fun z => nd ?_)
    have r := rel_rng w z.1.1 z.1.2 z.2.2
    have := z.1.1
    have := z.1.2
    omega
  by_cases a1 : a = 1 ∨ a = 2 ∨ a = 3
  · rw [cT_c g L i j a1]
    unfold tc1
    refine iff_n (fun z => nd ?_)
    rcases z with ⟨z1, z2, z3, z4⟩ | ⟨z1, z2, z3⟩ | ⟨z1, z2, z3, z4⟩
    · have := n8 i z2
      unfold inS at z2
      omega
    · unfold inS at z2
      omega
    · omega
  by_cases a4 : a = 4
  · subst a4
    rw [cT_4]
    unfold tc4
    refine iff_n (fun z => nd ?_)
    omega
  have om : ∀ {m : Int}, inM L m → m < 40 ∧ 0 ≤ m := fun hm => by unfold inM at hm; omega
  have op : ∀ {q : Int}, inP L q → q < 1500 ∧ 0 ≤ q := fun hq => by unfold inP at hq; omega
  by_cases a5 : a = 5
  · subst a5
    rw [cT_5]
    unfold tc5
    refine iff_n (fun z => nd ?_)
    have := om z.1; have := z.2.1; omega
  by_cases a6 : a = 6
  · subst a6
    rw [cT_6]
    unfold tc6
    refine iff_n (fun z => nd ?_)
    have := op z.1; have := z.2.1; omega
  by_cases a7 : a = 7
  · subst a7
    rw [cT_7]
    unfold tc7
    refine iff_n (fun z => nd ?_)
    have := om z.1; have := z.2.1; omega
  by_cases a8 : a = 8
  · subst a8
    rw [cT_8]
    unfold tc8
    refine iff_n (fun z => nd ?_)
    have := om z.1; have := z.2.1; omega
  by_cases a9 : a = 9
  · subst a9
    rw [cT_9]
    unfold tc9
    refine iff_n (fun z => nd ?_)
    have := op z.1; have := z.2; omega
  by_cases a10 : a = 10
  · subst a10
    rw [cT_10]
    unfold tc10
    refine iff_n (fun z => nd ?_)
    have := op z.1; have := z.2.1; have := z.2.2.1; omega
  by_cases a11 : a = 11
  · subst a11
    rw [cT_11]
    unfold tc11
    refine iff_n (fun z => nd ?_)
    have := op z.1; have := z.2.1; omega
  by_cases a14 : a = 14
  · subst a14
    rw [cT_14]
    unfold tc14
    refine iff_n (fun z => nd ?_)
    have := om z.1; have := z.2; omega
  by_cases a15 : a = 15
  · subst a15
    rw [cT_15]
    unfold tc15
    refine iff_n (fun z => nd ?_)
    have := om z.1; have := z.2; omega
  unfold cT
  rw [if_neg a0, if_neg a1, if_neg a4, if_neg a5, if_neg a6, if_neg a7, if_neg a8, if_neg a9, if_neg a10, if_neg a11, if_neg a14, if_neg a15]
theorem cT_mt {g g' : MH} {L : PG} (w : WF L) (o : tbok (cT g L)) (o' : tbok (cT g' L)) (p : tle (cT g L) (cT g' L)) (e : mt (cT g' L) = mt (cT g L)) : cT g' L = cT g L := by
  funext a i j
  by_cases d : tdom a i j
  · exact (mt_eq o o' p e d).symm
  · rw [cT_out w d, cT_out w d]
theorem sm_zero : ∀ n : Nat, sm n (fun _ => 0) = 0
  | 0 => rfl
  | n + 1 => by unfold sm; rw [sm_zero n]
theorem wcn_0 {g : MH} {n k : Int} (e : wcn g n = 0) (k0 : 0 ≤ k) (k1 : k < n) : hv g 79 k = 0 := by
  unfold wcn at e
  have q := sm_eq (n := n.toNat) (f := fun _ => 0) (g := fun p => if hv g 79 (p : Int) = 0 then 0 else 1) (fun i _ => Nat.zero_le _) (by rw [sm_zero, e]) k.toNat (by omega)
  have kk : ((k.toNat : Nat) : Int) = k := by omega
  simp only [kk] at q
  apply Classical.byContradiction
  intro z
  rw [if_neg z] at q
  cases q
theorem wcn_le {g g' : MH} {n : Int} (h : ∀ j, hv g' 79 j ≠ 0 → hv g 79 j ≠ 0) : wcn g' n ≤ wcn g n := by
  unfold wcn
  refine sm_le (fun i _ => ?_)
  by_cases z : hv g' 79 (i : Int) = 0
  · rw [if_pos z]; exact Nat.zero_le _
  · rw [if_neg z, if_neg (h _ z)]; exact Nat.le_refl _
section RO
variable {l : Launch} {G : JG} {g : MH} {L : PG} {m Mr : Int} {Q : Int → MH → Prop} {E : Nat → Int → MH → Prop}
/-- a root is entered -/
theorem K_root (hG : gO G = true) (w : WF L) (t : STc g L) (hm : inM L m) (cm : CPm g L m Mr) (hQ : ∀ h', AdK L g h' (fun U => Flow L U (pFi L m) (rtx L m) (fk 0 0)) (fun U => Flow L U (pFi L m) (rtx L m) (fk 0 0)) → Q 0 h') : S_X2_enterRoot l G [(2002, 3), (18, Mr)] g Q E := by
  have nn := w.n
  unfold WFn at nn
  have hm1 := hm.1
  have hm2 := hm.2
  obtain ⟨-, -, -, ar0, ar1, -, -, -, alc, lc8, lks, -, -, -, -, co1, co2, fi0, fi1, fim, fid, -⟩ := w.m hm.1 hm.2
  have cm' := cm
  obtain ⟨mo, ⟨-, -, -, m3, -⟩, ⟨k1, k2, k3⟩, -⟩ := cm
  have mo1 := mo.1
  have k11 := k1.1
  refine s_X2_enterRoot rfl fun K ki => r_X2_enterRoot_0 ki hG ?_
  refine c_Snone hG t.1.2.2.2.1.2.1 fun h3 o3 _ z2 z3 _ => ?_
  have mem : ∀ g2, ons 98 g g2 → hv g2 Mr 5 = hv g Mr 5 ∧ hv g2 Mr 3 = pAr L m ∧ hn g2 (hv g Mr 5) = pLc L m ∧ (∀ j, 0 ≤ j → j < pLc L m → hv g2 (hv g Mr 5) j = pLk L m j) := by
    intro g2 o2
    have e : ∀ b j, ¬ (98 ≤ b ∧ b < 116) → hv g2 b j = hv g b j := fun b j hb => o2.2 b j (by omega) (by omega)
    exact ⟨e _ _ (by omega), by rw [e _ _ (by omega)]; exact m3, by rw [h2_hn o2.1]; exact k2, fun j j0 j1 => by rw [e _ _ (by omega)]; exact k3 j j0 j1⟩
  have fin : ∀ g2 : MH, ons 98 g g2 → hv g2 98 2 = 0 → hv g2 98 3 = 0 → (∀ i, 0 ≤ i → i < pLc L m → fo g2 (98 + 2 + i) = rtx L m i) → JW K 9 [(2002, 3), (18, Mr), (0, pLc L m)] [] g2 := by
    intro g2 o2 s2 s3 sl
    obtain ⟨q1, q2, q4, q5⟩ := mem g2 o2
    refine r_X2_enterRoot_9 ki hG ?_
    rw [q1, q4]
    refine ⟨by omega, by omega, fun _ => ?_, fun y => by omega⟩
    have sm : smC g g2 := smC_ons (by omega) o2
    have st2 := smC_ST w t sm
    have eT := smC_ext w t.1 sm
    have rls : ∀ s, rel L (pFi L m + 0) s → 0 ≤ s ∧ s < pLc L m := by
      intro s r
      rw [Int.add_zero] at r
      have mf : pMo L (pFi L m) = m := by have := fim 0 (by omega) (by omega); rw [Int.add_zero] at this; exact this
      unfold rel at r
      rw [mf, fid] at r
      omega
    refine K_come hG w st2 hm (frX_m (frC_X (smC_fr sm)) cm') (Int.le_refl 0) (by omega) (Or.inr rfl) (fun s r => by rw [sl s (rls s r).1 (rls s r).2]; exact rtx_gd _ m s) (by rw [s2, s3]; exact fk0_gd L _) fun h10 a10 ws10 => ?_
    rw [s2, s3] at a10
    refine hQ h10 (AdK_w (AdK_sm w t sm a10) (fun _ p => ?_) (fun U _ _ p => ?_))
    · have := Flow_eq (Y := rtx L m) (fun s r => sl s (rls s r).1 (rls s r).2) p
      rw [Int.add_zero] at this
      exact this
    · have := p
      rw [← Int.add_zero (pFi L m)] at this
      exact Flow_eq (fun s r => (sl s (rls s r).1 (rls s r).2).symm) this
  have loop : ∀ N : Nat, ∀ n : Int, ∀ g2 : MH, (pLc L m - n).toNat ≤ N → 0 ≤ n → n ≤ pLc L m → ons 98 g g2 → hv g2 98 2 = 0 → hv g2 98 3 = 0 → (∀ i, 0 ≤ i → i < n → fo g2 (98 + 2 + i) = rtx L m i) → JW K 9 [(2002, 3), (18, Mr), (0, n)] [] g2 := by
    intro N
    induction N with
    | zero =>
      intro n g2 n1 n2 n3 o2 s2 s3 sl
      have en : n = pLc L m := by omega
      subst en
      exact fin g2 o2 s2 s3 sl
    | succ N ih =>
      intro n g2 n1 n2 n3 o2 s2 s3 sl
      by_cases en : n = pLc L m
      · subst en
        exact fin g2 o2 s2 s3 sl
      obtain ⟨q1, q2, q4, q5⟩ := mem g2 o2
      obtain ⟨t1, t2, t3, t4, t5, t6, t7⟩ := ons_st o2 t.1.2.2.2.1.2.1 t.1.2.2.2.1.2.1
      obtain ⟨t8, t9⟩ := t7 n n2 (by omega)
      have kd := lks n n2 (by omega)
      refine r_X2_enterRoot_9 ki hG ?_
      rw [q1, q4, q2, t4, t6, t8, q5 n n2 (by omega)]
      refine ⟨by omega, by omega, fun y => by omega, fun _ => ⟨by omega, fun _ => ⟨by omega, by omega, n2, by omega⟩, fun y => ⟨by decide, n2, by omega, by omega, c_number hG ?_⟩, fun y => ⟨by decide, n2, by omega, by omega, by omega, n2, by omega, by omega, c_first hG ?_⟩⟩⟩
      · intro x ex
        rw [w32_i (by omega) (by omega)] at ex
        subst ex
        refine ih (n + 1) _ (by omega) (by omega) (by omega) (ons_tr o2 (ons_fw n2 (by omega))) (by rw [fw_ne (by omega)]; exact s2) (by rw [fw_ne (by omega)]; exact s3) (fun i i0 i1 => ?_)
        by_cases z : i = n
        · rw [z, fo_fw0 rfl]
          unfold rtx
          rw [if_pos y]
        · rw [fo_ne (by omega)]; exact sl i i0 (by omega)
      · rw [kfst_f kd]
        intro x ex
        rw [w32_i (by omega) (by omega)] at ex
        subst ex
        refine ih (n + 1) _ (by omega) (by omega) (by omega) (ons_tr o2 (ons_fw n2 (by omega))) (by rw [fw_ne (by omega)]; exact s2) (by rw [fw_ne (by omega)]; exact s3) (fun i i0 i1 => ?_)
        by_cases z : i = n
        · rw [z, fo_fw0 (asu_f1 _)]
          unfold rtx
          rw [if_neg y]
        · rw [fo_ne (by omega)]; exact sl i i0 (by omega)
  intro x ex
  subst ex
  exact loop _ 0 h3 (Nat.le_refl _) (by decide) (by omega) o3 z2 z3 (fun i i0 i1 => by omega)
end RO
/-- HOW THE SEARCH STANDS -/
def FDx (L : PG) (R : Int → Prop) (g : MH) : Prop := STc g L ∧ RWx g L ∧ (∀ k, inP L k → usI g L k) ∧ (∀ i, 0 ≤ i → i < pNs L → fle (f1st (pSk L i)) (cT g L 3 i 0)) ∧ (∀ k, inP L k → rch (cT g L) k → hv g 79 k ≠ 0 ∨ dnC g L k) ∧ (∀ U, tbok U → closedz L R U → tle (cT g L) U)
/-- THE COMPONENT's FACTS ARE FOUND -/
def FCx (L : PG) (R : Int → Prop) (g : MH) : Prop := STc g L ∧ closedz L R (cT g L) ∧ (∀ U, tbok U → closedz L R U → tle (cT g L) U) ∧ ∀ k, inP L k → rch (cT g L) k → used L (cT g L) (hv g 77 k) k
section FN
variable {l : Launch} {G : JG} {g g' : MH} {L : PG} {R : Int → Prop} {k : Int} {Q : Int → MH → Prop} {E : Nat → Int → MH → Prop}
theorem row0_un {k : Int} (n : ¬ rch (cT g L) k) (hk : inP L k) (j : Int) : cT g L 0 k j = fz := by
  rw [cT_0]
  unfold tc0
  refine iff_n (fun z => n ?_)
  unfold rch
  rw [cT_6]
  unfold tc6
  rw [iff_p ⟨hk, rfl, z.2.1⟩]
  exact (by decide : (1 : Int) ≠ 0)
theorem usd_un {k s : Int} (n : ¬ rch (cT g L) k) (hk : inP L k) : ¬ usd L (cT g L) k s := by
  have no : ∀ j, ¬ sb (cT g L 0 k j) s := fun j q => by
    have := q.2.2
    rw [row0_un n hk j, show ast fz = 0 from rfl, bl_zero] at this
    cases this
  rintro ⟨-, q | q | q | q⟩
  · exact no _ q.2.1
  · exact no _ q.2.1
  · exact no _ q.2.1
  · exact no _ q.2.1
/-- a step forward keeps how the search stands, for all but the place at work -/
theorem FD_other (w : WF L) (st : STc g L) (us : ∀ k, inP L k → usI g L k) {k0 : Int} (dn : ∀ k, inP L k → k ≠ k0 → rch (cT g L) k → hv g 79 k ≠ 0 ∨ dnC g L k) (wd : wkdC g g' L) (le : tle (cT g L) (cT g' L)) (e7 : ∀ j, j ≠ k0 → hv g' 77 j = hv g 77 j) : (∀ k, inP L k → k ≠ k0 → usI g' L k) ∧ ∀ k, inP L k → k ≠ k0 → rch (cT g' L) k → hv g' 79 k ≠ 0 ∨ dnC g' L k := by
  refine ⟨fun k hk ne => ?_, fun k hk ne r => ?_⟩
  · by_cases rk : rch (cT g L) k
    · exact usI_up w hk st.2.2.2.1 rk le (e7 k ne) (us k hk)
    · intro s s0 b
      rw [e7 k ne] at b
      exact absurd (us k hk s s0 b) (usd_un rk hk)
  · by_cases rk : rch (cT g L) k
    · rcases dn k hk ne rk with y | y
      · exact Or.inl (wd.1 k y)
      · exact stayC hk st.2.2.2.1 rk le wd (e7 k ne) y
    · rcases wd.2.1 k hk with y | y
      · exact Or.inl y
      · exfalso
        apply rk
        unfold rch
        rw [← y.2]
        exact r
theorem FD_ad {P A : TB → Prop} (w : WF L) (f : FDx L R g) (a : AdK L g g' P A) (hA : ∀ U, tbok U → closedz L R U → A U) : FDx L R g' := by
  obtain ⟨st, rw', us, s3, dn, lst⟩ := f
  obtain ⟨q1, q2⟩ := FD_other (k0 := -1) w st us (fun k hk _ r => dn k hk r) a.2.2.1 a.2.2.2.2.1 (fun j _ => a.2.2.2.1 j)
  have ne : ∀ k, inP L k → k ≠ -1 := fun k hk z => by have := hk.1; omega
  exact ⟨a.2.1, a.2.2.1.2.2.2.2 rw', fun k hk => q1 k hk (ne k hk), fun i i0 i1 => fle_trans (s3 i i0 i1) (a.2.2.2.2.1 _ _ _), fun k hk r => q2 k hk (ne k hk) r, fun U oU cU => a.2.2.2.2.2.2.1 U oU (lst U oU cU) (hA U oU cU)⟩
/-- the loop of the search -/
theorem w_find_loop (hG : gO G = true) (w : WF L) (hz : L 99 0 = 1) {h0 hb : MH} {K : JC} (ki : KI K l G yX2_find cX2_find 3 none [] 14 402 700 Q E h0) {v1 : Int} (hQ : ∀ g', FDx L R g' → rts L R (pNm L) (cT g' L) → frC hb g' → (∀ k, inP L k → hv g' 79 k = 0) → Q 0 g') :
    ∀ N : Nat, ∀ (v2 : Int) (g : MH), (2000 * mt (cT g L) + (hv g 3 15).toNat) ≤ N → FDx L R g → rts L R (pNm L) (cT g L) → frC hb g → JW K 53 [(2002, 3), (16, v1), (0, v2)] [] g := by
  have nn := w.n
  unfold WFn at nn
  intro N
  induction N using Nat.strongRecOn with
  | ind N ih =>
    intro v2 g ms fd rt fr
    obtain ⟨st, rwx, us, s3, dn, lst⟩ := fd
    have qi := st.2.1
    obtain ⟨q0, q1, q2, q3, q4, q5, q6⟩ := qi
    refine r_X2_find_53 ki hG ⟨fun y => ?_, fun y => ⟨q2, q3, fun x2 e2 => ⟨by decide, fun h2 e2' h3 e3 => ?_⟩⟩⟩
    · refine hQ g ⟨st, rwx, us, s3, dn, lst⟩ rt fr (fun k hk => ?_)
      have wz : wcn g (pNp L) = 0 := by omega
      exact wcn_0 wz hk.1 hk.2
    · have i1 : w32 (hv g 3 14 + 1) = hv g 3 14 + 1 := w32_i (by omega) (by omega)
      rw [i1] at e2'
      have e15 : hv h2 3 15 = hv g 3 15 := by rw [e2', ne_k (by decide)]
      have w15 : hv g 3 15 ≤ 1500 := by have := QI_le st.2.1; omega
      rw [e15, w32_i (by omega) (by omega)] at e3
      have rem : i_rem (hv g 3 14 + 1) 1500 = (hv g 3 14 + 1) % 1500 := by
        rw [i_rem_v (by unfold c32; omega) (by unfold c32; omega)]
        rw [Int.tmod_eq_emod_of_nonneg (by omega), w32_i (by omega) (by omega)]
      rw [rem] at e2'
      have p5 := q5 0 (by decide) y
      unfold cq at p5
      rw [Int.add_zero, Int.emod_eq_of_lt q2 q3, ← e2] at p5
      obtain ⟨p1, p2, p3⟩ := p5
      have hk : inP L x2 := ⟨p1, p2⟩
      refine ⟨p1, by omega, Or.inl rfl, fun h4 e4 => ?_⟩
      have o4 : ∀ b j, b ≠ 3 → b ≠ 79 → hv h4 b j = hv g b j := fun b j hb hb2 => by rw [e4, ne_a hb2, e3, ne_a hb, e2', ne_a hb]
      have o3 : ∀ j, j ≠ 14 → j ≠ 15 → hv h4 3 j = hv g 3 j := fun j hj hj2 => by rw [e4, ne_a (by decide), e3, ne_k hj2, e2', ne_k hj]
      have w4 : ∀ j, j ≠ x2 → hv h4 79 j = hv g 79 j := fun j hj => by rw [e4, ne_k hj, e3, ne_a (by decide), e2', ne_a (by decide)]
      have w4k : hv h4 79 x2 = 0 := by rw [e4, eq_a]
      have eh : h4.2 = g.2 := by rw [e4, e3, e2']; rfl
      have f4 : frC g h4 := ⟨eh, fun b j a1 a2 => by
        by_cases b3 : b = 3
        · rw [b3] at a1 ⊢
          exact o3 j (fun z => a1 (by unfold wlo; omega)) (fun z => a1 (by unfold wlo; omega))
        · exact o4 b j b3 (fun z => a1 (by unfold wlo; omega))⟩
      have e0 : ∀ q, inP L q → vq g h4 q := fun q hq => vq_of (frC_4 f4 q) (fun b j hb => by have := (st.1.2.1 q hq).2; exact o4 b j (by omega) (by omega))
      have eo : ∀ m, inM L m → vo g h4 m := fun m hm => by
        unfold inM at hm
        exact ⟨fun j _ _ => o4 _ j (by omega) (by omega), fo_eq (fun j => o4 _ j (by omega) (by omega))⟩
      have eT : cT h4 L = cT g L := cT_eq w e0 (fun a i j d => vc_of (frC_cad f4 w d) (fun q => by have := (st.1.2.2.2.2.1 a i j d).2; exact o4 _ q (by omega) (by omega))) (fun i i0 i1 => fo_eq (fun j => o4 _ j (by omega) (by omega))) eo (fun q hq => ⟨o4 _ _ (by omega) (by omega), o4 _ _ (by omega) (by omega), o4 _ _ (by omega) (by omega), o4 _ _ (by omega) (by omega)⟩)
      have us4 : ∀ a i j, udom L a i j → ∀ p, ubt h4 (uad h4 a i j) p = ubt g (uad g a i j) p := fun a i j d p => by
        rw [frC_uad f4 w d]
        exact ubt_ne (fun q => by have := (uad_ty w st.1 d).2.2; exact o4 _ q (by omega) (by omega))
      have pop := QI_pop (h' := h4) st.2.1 y e2 (by rw [e4, ne_a (by decide), e3, ne_k (by decide), e2', eq_a]) (by rw [e4, ne_a (by decide), e3, eq_a]) (fun j => o4 78 j (by decide) (by decide)) w4k w4
      have st4 : STc h4 L := ⟨frC_CW f4 w st.1, pop.1, fun a i j d p p0' p1' x => st.2.2.1 a i j d p p0' p1' (by rw [us4 a i j d p] at x; exact x), by rw [eT]; exact st.2.2.2.1, zC_eq e0 (fun i i0 i1 => o4 _ _ (by omega) (by omega)) eo st.2.2.2.2⟩
      have rk : rch (cT g L) x2 := rwx.1 x2 hk p3
      have usI4 : ∀ k, inP L k → usI h4 L k := fun k hk' s s0 b => by rw [eT]; rw [o4 77 k (by decide) (by decide)] at b; exact us k hk' s s0 b
      have rw4 : RWx h4 L := ⟨fun p hp x => by
        rw [eT]
        by_cases z : p = x2
        · rw [z]; exact rk
        · rw [w4 p z] at x; exact rwx.1 p hp x, fun a i j d p hp x => by rw [eT]; rw [us4 a i j d p] at x; exact rwx.2 a i j d p hp x⟩
      have dn4 : ∀ k, inP L k → k ≠ x2 → rch (cT h4 L) k → hv h4 79 k ≠ 0 ∨ dnC h4 L k := by
        intro k hk' ne r
        rw [eT] at r
        rw [w4 k ne]
        rcases dn k hk' r with z | ⟨z1, z2, z3⟩
        · exact Or.inl z
        · right
          unfold dnC
          rw [eT, o4 77 k (by decide) (by decide)]
          exact ⟨z1, fun a i j q => ⟨(z2 a i j q).1, by rw [us4 a i j (z2 a i j q).1]; exact (z2 a i j q).2⟩, z3⟩
      refine w_work (Q := fun _ h6 => JW K 53 [(2002, 3), (16, v1), (0, x2)] [] h6) hG w hz st4 hk (by rw [eT]; exact rk) (usI4 x2 hk) (fun i i0 i1 => by rw [eT]; exact ath_le (s3 i i0 i1) (ath_f1 _)) fun g6 we => ?_
      obtain ⟨v1', v2', v3, v4, v5, v6, v7, v8, v9⟩ := we
      obtain ⟨a1, a2⟩ := FD_other (k0 := x2) w st4 usI4 dn4 v3 v4 v6
      have le6 : tle (cT g L) (cT g6 L) := by rw [← eT]; exact v4
      have oT := st.2.2.2.1.1
      have o6 := v2'.2.2.2.1.1
      have fd6 : FDx L R g6 := by
        refine ⟨v2', v3.2.2.2.2 rw4, fun k hk' => ?_, fun i i0 i1 => fle_trans (s3 i i0 i1) (le6 _ _ _), fun k hk' r => ?_, fun U oU cU => ?_⟩
        · by_cases z : k = x2
          · rw [z]; exact v7
          · exact a1 k hk' z
        · by_cases z : k = x2
          · rw [z]; exact v8
          · exact a2 k hk' z r
        · have l1 := lst U oU cU
          exact v5 U oU (by rw [eT]; exact l1) (cU.2 x2 hk.1 hk.2 (ath_le (l1 _ _ _) rk))
      have rt6 : rts L R (pNm L) (cT g6 L) := fun m m0 m1 r => Flow_le (fun _ => fle_rfl _) (fle_rfl _) le6 (rt m m0 m1 r)
      have wl6 := QI_le v2'.2.1
      have wp6 : 0 ≤ hv g6 3 15 := by rw [v2'.2.1.2.2.2.2.1]; omega
      have mle := mt_le oT o6 le6
      refine ih (2000 * mt (cT g6 L) + (hv g6 3 15).toNat) ?_ x2 g6 (Nat.le_refl _) fd6 rt6 (frC_tr fr (frC_tr f4 v1'))
      by_cases me : mt (cT g6 L) = mt (cT g L)
      · have e6 : cT g6 L = cT g L := cT_mt w oT o6 le6 me
        have quiet := v9 (by rw [e6, eT])
        have c6 : wcn g6 (pNp L) ≤ wcn h4 (pNp L) := wcn_le quiet
        have c4 : hv h4 3 15 = hv g 3 15 - 1 := by rw [e4, ne_a (by decide), e3, eq_a]
        have d4 := pop.1.2.2.2.2.1
        have d6 := v2'.2.1.2.2.2.2.1
        rw [me]
        omega
      · omega
end FN
