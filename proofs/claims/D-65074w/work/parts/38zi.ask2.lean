/-! Part 38zi: the twin is asked for races, threads, idle stores, methods -/
set_option maxRecDepth 100000
theorem cnt_z {p : Int → Prop} {n : Nat} (h : ∀ k : Nat, k < n → ¬ p k) : cnt p n = 0 := by
  induction n with
  | zero => rfl
  | succ n ih => rw [cnt_n (h n (by omega))]; exact ih (fun k hk => h k (by omega))
/-- races of a place up to another; of places up to one -/
noncomputable def rcn (L : PG) (T : TB) (R : Int → Prop) (a : Int) (n : Nat) : Int := cnt (fun b => a ≤ b ∧ rac L T R a b) n
noncomputable def rws (L : PG) (T : TB) (R : Int → Prop) : Nat → Int
  | 0 => 0
  | n + 1 => rws L T R n + rcn L T R n (pNp L).toNat
noncomputable def rpos (L : PG) (T : TB) (R : Int → Prop) (a b : Int) : Int := rws L T R a.toNat + rcn L T R a b.toNat
noncomputable def rtot (L : PG) (T : TB) (R : Int → Prop) : Int := rws L T R (pNp L).toNat
theorem rws_s {L : PG} {T : TB} {R : Int → Prop} {a : Int} (a0 : 0 ≤ a) : rws L T R (a + 1).toNat = rws L T R a.toNat + rcn L T R a (pNp L).toNat := by
  rw [show (a + 1).toNat = a.toNat + 1 by omega]
  show rws L T R a.toNat + rcn L T R ((a.toNat : Nat) : Int) (pNp L).toNat = _
  rw [show ((a.toNat : Nat) : Int) = a by omega]
theorem rws_b {L : PG} (w : WF L) {T : TB} {R : Int → Prop} (n : Nat) : 0 ≤ rws L T R n ∧ rws L T R n ≤ 1500 * n := by
  have nn := w.n
  unfold WFn at nn
  induction n with
  | zero => exact ⟨Int.le_refl _, Int.le_refl _⟩
  | succ n ih =>
    have := cnt_b (fun b => ((n : Nat) : Int) ≤ b ∧ rac L T R n b) (pNp L).toNat
    have e : rws L T R (n + 1) = rws L T R n + cnt (fun b => ((n : Nat) : Int) ≤ b ∧ rac L T R n b) (pNp L).toNat := rfl
    rw [e]; omega
theorem rws_m {L : PG} {T : TB} {R : Int → Prop} {a b : Nat} (h : a ≤ b) : rws L T R a ≤ rws L T R b := by
  induction b with
  | zero => rw [show a = 0 by omega]; exact Int.le_refl _
  | succ b ih =>
    by_cases e : a = b + 1
    · rw [e]; exact Int.le_refl _
    · have := ih (by omega)
      have := cnt_b (fun x => ((b : Nat) : Int) ≤ x ∧ rac L T R b x) (pNp L).toNat
      have e : rws L T R (b + 1) = rws L T R b + cnt (fun x => ((b : Nat) : Int) ≤ x ∧ rac L T R b x) (pNp L).toNat := rfl
      rw [e]; omega
theorem rcn_y {L : PG} {T : TB} {R : Int → Prop} {a b : Int} (b0 : 0 ≤ b) (h : a ≤ b) (r : rac L T R a b) : rcn L T R a (b + 1).toNat = rcn L T R a b.toNat + 1 := by
  rw [show (b + 1).toNat = b.toNat + 1 by omega]
  unfold rcn
  rw [cnt_y]
  rw [show ((b.toNat : Nat) : Int) = b by omega]
  exact ⟨h, r⟩
theorem rcn_n {L : PG} {T : TB} {R : Int → Prop} {a b : Int} (b0 : 0 ≤ b) (r : ¬ rac L T R a b) : rcn L T R a (b + 1).toNat = rcn L T R a b.toNat := by
  rw [show (b + 1).toNat = b.toNat + 1 by omega]
  unfold rcn
  rw [cnt_n]
  rw [show ((b.toNat : Nat) : Int) = b by omega]
  exact fun y => r y.2
/-- the i-th race -/
def rAt (L : PG) (T : TB) (R : Int → Prop) (i a b : Int) : Prop := inP L a ∧ inP L b ∧ a ≤ b ∧ rac L T R a b ∧ rpos L T R a b = i
theorem rAt_one {L : PG} {T : TB} {R : Int → Prop} {i a b c d : Int} (x : rAt L T R i a b) (y : rAt L T R i c d) : a = c ∧ b = d := by
  have row : ∀ a b c d, rAt L T R i a b → rAt L T R i c d → ¬ a < c := by
    intro a b c d x y h
    have a0 := x.1.1
    have b0 := x.2.1.1
    have b1' := x.2.1.2
    have e1 := rws_s (L := L) (T := T) (R := R) a0
    have e2 := rws_m (L := L) (T := T) (R := R) (show (a + 1).toNat ≤ c.toNat by omega)
    have e3 := rcn_y (L := L) (T := T) (R := R) b0 x.2.2.1 x.2.2.2.1
    have e4 : rcn L T R a (b + 1).toNat ≤ rcn L T R a (pNp L).toNat := cnt_m _ (by omega)
    have e5 := (cnt_b (fun b => c ≤ b ∧ rac L T R c b) d.toNat).1
    have e6 := x.2.2.2.2
    have e7 := y.2.2.2.2
    unfold rpos rcn at *
    omega
  have ac : a = c := by
    have := row a b c d x y
    have := row c d a b y x
    omega
  subst ac
  refine ⟨rfl, ?_⟩
  have col : ∀ b d, rAt L T R i a b → rAt L T R i a d → ¬ b < d := by
    intro b d x y h
    have b0 := x.2.1.1
    have e3 := rcn_y (L := L) (T := T) (R := R) b0 x.2.2.1 x.2.2.2.1
    have e4 : rcn L T R a (b + 1).toNat ≤ rcn L T R a d.toNat := cnt_m _ (by omega)
    have e6 := x.2.2.2.2
    have e7 := y.2.2.2.2
    unfold rpos at e6 e7
    omega
  have := col b d x y
  have := col d b y x
  omega
theorem t_findRace {l : Launch} {G : JG} (hG : gO G = true) {h : MH} {L : PG} {R : Int → Prop} (tf : TF h L) (w : WF L) (kn : KN L R h) {i : Int} {Q : Int → MH → Prop} {E : Nat → Int → MH → Prop}
    (h1 : i < 0 ∨ rtot L (tT h L) R ≤ i → Q (rtot L (tT h L) R) h) (h2 : ∀ a b, rAt L (tT h L) R i a b → i < rtot L (tT h L) R → Q (i + 1) (hset (hset h 396 78 a) 396 79 b)) : S_X9_findRace l G [(2009, 396), (0, i)] h Q E := by
  have nn := w.n
  unfold WFn at nn
  refine s_X9_findRace rfl fun K ki => r_X9_findRace_0 ki hG ?_
  intro x2 e2 x3 e3
  have rows : ∀ N : Nat, ∀ a : Int, (pNp L - a).toNat ≤ N → 0 ≤ a → a ≤ pNp L → (i < 0 ∨ rws L (tT h L) R a.toNat ≤ i) → JW K 4 [(2009, 396), (0, i), (0, rws L (tT h L) R a.toNat), (0, a), (5000, 0)] [] h := by
    intro N
    induction N with
    | zero =>
      intro a b1' b2 b3 iv
      have ea : a = pNp L := by omega
      subst ea
      exact r_X9_findRace_4 ki hG ⟨tf.ne, fun _ => h1 iv, fun z => by rw [tf.nnp] at z; omega⟩
    | succ N ih =>
      intro a b1' b2 b3 iv
      by_cases ea : a = pNp L
      · exact ih a (by omega) b2 b3 iv
      have ha : inP L a := ⟨b2, by omega⟩
      have za : hv h 460 a = 0 ∨ hv h 460 a = 1 := kn.2.2.2.2.2.2.1 a b2 (by omega)
      have nor' : (∀ b, ¬ rac L (tT h L) R a b) → ∀ x : Int, x = w32 (a + 1) → JW K 4 [(2009, 396), (0, i), (0, rws L (tT h L) R a.toNat), (0, x), (5000, 0)] [] h := by
        intro no x ex
        rw [w32_i (by omega) (by omega)] at ex
        subst ex
        have e : rws L (tT h L) R (a + 1).toNat = rws L (tT h L) R a.toNat := by
          rw [rws_s b2]
          have : rcn L (tT h L) R a (pNp L).toNat = 0 := cnt_z (fun k _ y => no _ y.2)
          omega
        have := ih (a + 1) (by omega) (by omega) (by omega) (by rw [e]; exact iv)
        rw [e] at this
        exact this
      refine r_X9_findRace_4 ki hG ⟨tf.ne, fun z => by rw [tf.nnp] at z; omega, fun z => ⟨b2, by omega, fun y => nor' (fun b r => by have := (rch_iff ha).mp r.1.1; omega), fun y => ⟨tf.ne, b2, by omega, fun y2 => ?_, fun y2 => nor' (fun b r => by rw [tf.op] at y2; exact r.2.1.1 y2)⟩⟩⟩
      intro x4 e4
      have cols : ∀ M : Nat, ∀ b : Int, (pNp L - b).toNat ≤ M → a ≤ b → b ≤ pNp L → (i < 0 ∨ rpos L (tT h L) R a b ≤ i) → JW K 45 [(2009, 396), (0, i), (0, rpos L (tT h L) R a b), (0, a), (0, b)] [] h := by
        have fin : (i < 0 ∨ rpos L (tT h L) R a (pNp L) ≤ i) → JW K 45 [(2009, 396), (0, i), (0, rpos L (tT h L) R a (pNp L)), (0, a), (0, pNp L)] [] h := by
          intro iv'
          refine r_X9_findRace_45 ki hG ⟨tf.ne, fun _ => ?_, fun z => by rw [tf.nnp] at z; omega⟩
          intro x ex
          rw [w32_i (by omega) (by omega)] at ex
          subst ex
          have e : rpos L (tT h L) R a (pNp L) = rws L (tT h L) R (a + 1).toNat := (rws_s b2).symm
          rw [e] at iv' ⊢
          exact ih (a + 1) (by omega) (by omega) (by omega) iv'
        intro M
        induction M with
        | zero =>
          intro b m1 m2 m3 iv'
          have eb : b = pNp L := by omega
          subst eb
          exact fin iv'
        | succ M ihM =>
          intro b m1 m2 m3 iv'
          by_cases eb : b = pNp L
          · subst eb; exact fin iv'
          have hb : inP L b := ⟨by omega, by omega⟩
          have bd := rws_b w (T := tT h L) (R := R) a.toNat
          have bd2 := cnt_b (fun x => a ≤ x ∧ rac L (tT h L) R a x) b.toNat
          have bd3 : rpos L (tT h L) R a b = rws L (tT h L) R a.toNat + cnt (fun x => a ≤ x ∧ rac L (tT h L) R a x) b.toNat := rfl
          refine r_X9_findRace_45 ki hG ⟨tf.ne, fun z => by rw [tf.nnp] at z; omega, fun z => t_isRace hG tf w kn ha hb fun z2 z01 hz2 => ⟨fun y3 => ⟨fun y4 => ?_, fun y4 => ?_⟩, fun y3 => ?_⟩⟩
          · have r := hz2.mp y3
            intro n' en' x ex
            rw [w32_i (by omega) (by omega)] at ex en'
            subst ex
            have e : n' = rpos L (tT h L) R a (b + 1) := by
              rw [en']
              unfold rpos
              rw [rcn_y hb.1 m2 r]; omega
            subst e
            refine ihM (b + 1) (by omega) (by omega) (by omega) ?_
            rw [en']; omega
          · have r := hz2.mp y3
            intro g6 e6 g7 e7
            rw [w32_i (by omega) (by omega), y4, e7, e6]
            refine h2 a b ⟨ha, hb, m2, r, y4⟩ ?_
            have e1 := rws_s (L := L) (T := tT h L) (R := R) b2
            have e2' := rws_m (L := L) (T := tT h L) (R := R) (show (a + 1).toNat ≤ (pNp L).toNat by omega)
            have e3' := rcn_y hb.1 m2 r
            have e4' : rcn L (tT h L) R a (b + 1).toNat ≤ rcn L (tT h L) R a (pNp L).toNat := cnt_m _ (by omega)
            unfold rpos at y4
            unfold rtot
            omega
          · intro x ex
            rw [w32_i (by omega) (by omega)] at ex
            subst ex
            have nr : ¬ rac L (tT h L) R a b := fun r => hz2.mpr r y3
            have e : rpos L (tT h L) R a (b + 1) = rpos L (tT h L) R a b := by
              unfold rpos
              rw [rcn_n hb.1 nr]
            have := ihM (b + 1) (by omega) (by omega) (by omega) (by rw [e]; exact iv')
            rw [e] at this
            exact this
      rw [e4]
      have e0 : rpos L (tT h L) R a a = rws L (tT h L) R a.toNat := by
        unfold rpos
        have : rcn L (tT h L) R a a.toNat = 0 := cnt_z (fun k hk y => by have := y.1; omega)
        omega
      have := cols _ a (Nat.le_refl _) (by omega) (by omega) (by rw [e0]; exact iv)
      rw [e0] at this
      exact this
  subst e2; subst e3
  exact rows _ 0 (Nat.le_refl _) (by omega) (by omega) (by
    by_cases y : i < 0
    · exact Or.inl y
    · exact Or.inr (by show (0 : Int) ≤ i; omega))
noncomputable def q_threads (L : PG) (R : Int → Prop) (wt : Int) (T : TB) : Int × Int := cif ((0 ≤ wt ∧ wt ≤ 2) ∨ (8 ≤ wt ∧ wt ≤ 15)) (0, if wt = 0 then nor L T else if wt = 1 then rtot L T R else if wt = 2 then iof (rng_ L T) else iof (bfr L T (wt - 8))) (2, 0)
theorem t_threads {l : Launch} {G : JG} (hG : gO G = true) {h : MH} {L : PG} {R : Int → Prop} (t : TW L R h) {wt : Int} {Q : Int → MH → Prop} {E : Nat → Int → MH → Prop}
    (hQ : ∀ z h', ans L R h h' z (q_threads L R wt) → Q z h') : S_X9_threads l G [(2009, 396), (0, wt)] h Q E := by
  refine s_X9_threads rfl fun K ki => r_X9_threads_0 ki hG ?_
  rw [if_neg t.tf.ne]
  intro g eg
  have fg : frQ h g := by rw [eg]; exact frQ_set (Or.inl rfl)
  have tg : TW L R g := by rw [eg]; exact TW_set (Or.inl rfl) t
  by_cases c : (0 ≤ wt ∧ wt ≤ 2) ∨ (8 ≤ wt ∧ wt ≤ 15)
  · have v0 : hv g 396 0 = 0 := by
      rw [eg, eq_a]
      by_cases d : isin wt 0 2 = 0
      · rw [if_pos d, if_neg]
        rw [isin_z] at d ⊢
        omega
      · rw [if_neg d]
    refine ⟨fun _ => ?_, fun y => by omega⟩
    refine t_kff hG tg fun g5 f5 t5' k5 z5 => ?_
    have key : ∀ z, z = (q_threads L R wt (tT g5 L)).2 → Q z g5 := by
      intro z ez
      refine hQ z g5 (ans_k (frQ_tr fg f5) t5' k5 ?_ ez)
      unfold q_threads; rw [cif_p c, z5, v0]
    have b460 := k5.2.2.2.2.2.2.1
    refine ⟨fun y => ⟨fun y2 => ⟨fun y3 => ?_, fun y3 => ?_⟩, fun y2 => ?_⟩, fun y => key _ ?_⟩
    · rw [w32_i (by omega) (by omega)]
      refine t_before hG t5'.tf t.w b460 (by omega) (by omega) fun z4 cz hz => key _ ?_
      unfold q_threads; rw [cif_p c]
      show z4 = if wt = 0 then _ else _
      rw [if_neg y, if_neg y2, if_neg y3]
      exact (iof_eq cz hz).symm
    · refine t_ring hG t5'.tf t.w b460 fun z4 cz hz => key _ ?_
      unfold q_threads; rw [cif_p c]
      show z4 = if wt = 0 then _ else _
      rw [if_neg y, if_neg y2, if_pos y3]
      exact (iof_eq cz hz).symm
    · refine t_findRace hG t5'.tf t.w k5 (fun _ => key _ ?_) (fun a b r _ => ?_)
      · unfold q_threads; rw [cif_p c]
        show _ = if wt = 0 then _ else _
        rw [if_neg y, if_pos y2]
      · exfalso
        have e := r.2.2.2.2
        have bd := (rws_b t.w (T := tT g5 L) (R := R) a.toNat).1
        have bd2 := (cnt_b (fun x => a ≤ x ∧ rac L (tT g5 L) R a x) b.toNat).1
        have bd3 : rpos L (tT g5 L) R a b = rws L (tT g5 L) R a.toNat + cnt (fun x => a ≤ x ∧ rac L (tT g5 L) R a x) b.toNat := rfl
        omega
    · unfold q_threads; rw [cif_p c]
      show _ = if wt = 0 then _ else _
      rw [if_pos y]; exact k5.2.2.1.1.1
  · have v0 : hv g 396 0 = 2 := by
      rw [eg, eq_a]
      have d : isin wt 0 2 = 0 := by rw [isin_z]; omega
      rw [if_pos d, if_pos]
      rw [isin_z]; omega
    refine ⟨fun y => by omega, fun _ => hQ 0 g (ans_c fg tg v0 rfl (fun T => cif_n c))⟩
/-- a part of a race -/
def rpt (L : PG) (wt a b : Int) : Int := if wt = 0 then pMo L a else if wt = 1 then a - pFi L (pMo L a) else if wt = 2 then pMo L b else b - pFi L (pMo L b)
noncomputable def q_race (L : PG) (R : Int → Prop) (i wt : Int) (T : TB) : Int × Int := cif (0 ≤ i ∧ 0 ≤ wt ∧ wt ≤ 3 ∧ i < rtot L T R) (0, Classical.epsilon (fun z => ∃ a b, rAt L T R i a b ∧ z = rpt L wt a b)) (2, 0)
theorem t_race {l : Launch} {G : JG} (hG : gO G = true) {h : MH} {L : PG} {R : Int → Prop} (t : TW L R h) {i wt : Int} {Q : Int → MH → Prop} {E : Nat → Int → MH → Prop}
    (hQ : ∀ z h', ans L R h h' z (q_race L R i wt) → Q z h') : S_X9_race l G [(2009, 396), (0, i), (0, wt)] h Q E := by
  have nn := t.w.n
  unfold WFn at nn
  refine s_X9_race rfl fun K ki => r_X9_race_0 ki hG ?_
  rw [if_neg t.tf.ne]
  intro g eg
  have fg : frQ h g := by rw [eg]; exact frQ_set (Or.inl rfl)
  have tg : TW L R g := by rw [eg]; exact TW_set (Or.inl rfl) t
  have v0 : hv g 396 0 = 0 := by rw [eg, eq_a]
  refine ⟨fun _ => ?_, fun y => by omega⟩
  refine t_kff hG tg fun g3 f3 t3' k3 z3 => ⟨fun y => ?_, fun y => ?_⟩
  · have wr : 0 ≤ wt ∧ wt ≤ 3 := by
      have := y.2
      rw [isin_z] at this
      omega
    refine t_findRace hG t3'.tf t.w k3 (fun c => ?_) (fun a b r c => ?_)
    · have nc : ¬ (0 ≤ i ∧ 0 ≤ wt ∧ wt ≤ 3 ∧ i < rtot L (tT g3 L) R) := by have := y.1; omega
      intro g6 e6
      have v6 : hv g6 396 0 = 2 := by rw [e6, eq_a, if_neg]; have := y.1; omega
      refine ⟨fun z => by omega, fun _ => ?_⟩
      have t6' : TW L R g6 := by rw [e6]; exact TW_set (Or.inl rfl) t3'
      have k6 : KN L R g6 := by rw [e6]; exact KN_set (Or.inl rfl) k3
      have eT : tT g6 L = tT g3 L := by rw [e6]; exact tT_eq (fun a j h1 h2 => ne_a (by omega))
      refine hQ 0 g6 (ans_k (by rw [e6]; exact frQ_tr (frQ_tr fg f3) (frQ_set (Or.inl rfl))) t6' k6 ?_ ?_)
      · unfold q_race; rw [eT, cif_n nc]; exact v6
      · unfold q_race; rw [eT, cif_n nc]
    · have yc : 0 ≤ i ∧ 0 ≤ wt ∧ wt ≤ 3 ∧ i < rtot L (tT g3 L) R := ⟨y.1, wr.1, wr.2, c⟩
      intro g6 e6
      have v6 : hv g6 396 0 = 0 := by rw [e6, eq_a, if_pos (by omega)]
      have v78 : hv g6 396 78 = a := by rw [e6, ne_k (by omega), ne_k (by omega), eq_a]
      have v79 : hv g6 396 79 = b := by rw [e6, ne_k (by omega), eq_a]
      have t6' : TW L R g6 := by rw [e6]; exact TW_set (Or.inl rfl) (TW_set (by omega) (TW_set (by omega) t3'))
      have k6 : KN L R g6 := by rw [e6]; exact KN_set (Or.inl rfl) (KN_set (by omega) (KN_set (by omega) k3))
      have f6 : frQ h g6 := by rw [e6]; exact frQ_tr (frQ_tr (frQ_tr (frQ_tr fg f3) (frQ_set (by unfold fq; omega))) (frQ_set (by unfold fq; omega))) (frQ_set (Or.inl rfl))
      have eT : tT g6 L = tT g3 L := by
        refine tT_eq (fun a j h1 h2 => ?_)
        rw [e6, ne_a (by omega), ne_a (by omega), ne_a (by omega)]
      refine ⟨fun _ => ?_, fun z => by omega⟩
      rw [v78, v79]
      intro x3 e3
      have a0 := r.1.1
      have a1 := r.1.2
      have b0 := r.2.1.1
      have b1' := r.2.1.2
      have x0 : inP L x3 := by
        rw [e3]
        split
        · exact r.1
        · exact r.2.1
      have x00 := x0.1
      have x01 := x0.2
      have wx := (t.w.k x00 x01).1
      have fx := t.w.m wx.1 wx.2.1
      obtain ⟨-, -, -, -, -, -, -, -, -, -, -, -, -, -, -, -, -, fi0, fi1, -⟩ := fx
      refine ⟨t6'.tf.ne, x00, by omega, ?_⟩
      rw [t6'.tf.mo]
      intro x4 e4
      subst e4
      have w0 := wx.1
      have w1 := wx.2.1
      refine ⟨by decide, fun _ => ⟨t6'.tf.ne, w0, by omega⟩, ?_⟩
      rw [t6'.tf.fi, w32_i (z := x3 - pFi L (pMo L x3)) (by omega) (by omega)]
      refine hQ _ g6 (ans_k f6 t6' k6 ?_ ?_)
      · unfold q_race; rw [eT, cif_p yc]; exact v6
      · unfold q_race; rw [eT, cif_p yc]
        have sp := Classical.epsilon_spec (p := fun z => ∃ a b, rAt L (tT g3 L) R i a b ∧ z = rpt L wt a b) ⟨_, a, b, r, rfl⟩
        obtain ⟨a', b', r', e'⟩ := sp
        have ab := rAt_one r r'
        show _ = Classical.epsilon (fun z => ∃ a b, rAt L (tT g3 L) R i a b ∧ z = rpt L wt a b)
        rw [e', ← ab.1, ← ab.2, e3]
        have w4 : wt = 0 ∨ wt = 1 ∨ wt = 2 ∨ wt = 3 := by omega
        unfold rpt
        rcases w4 with rfl | rfl | rfl | rfl
        · rw [show i_rem 0 2 = 0 by decide]; simp
        · rw [show i_rem 1 2 = 1 by decide]; simp
        · rw [show i_rem 2 2 = 0 by decide]; simp
        · rw [show i_rem 3 2 = 1 by decide]; simp
  · intro g9 e9
    have v9 : hv g9 396 0 = 2 := by rw [e9, eq_a]
    refine ⟨fun z => by omega, fun _ => hQ 0 g9 (ans_c (u := 2) (v := 0) (by rw [e9]; exact frQ_tr (frQ_tr fg f3) (frQ_set (Or.inl rfl))) (by rw [e9]; exact TW_set (Or.inl rfl) t3') v9 rfl (fun T => ?_))⟩
    unfold q_race
    refine cif_n (fun z => y ⟨z.1, fun z2 => ?_⟩)
    rw [isin_z] at z2
    exact z2 ⟨z.2.1, z.2.2.1⟩
