/-! Part 38zc: the twin's facts are the least closed table -/
set_option maxRecDepth 100000
/-- how a round of the twin stands -/
def MI (L : PG) (R : Int → Prop) (g : MH) : Prop := tiv L (tT g L) ∧ cgt g L ∧ CI L R (tT g L) ∧ ∀ U, tbok U → closedz L R U → tle (tT g L) U
/-- THE TWIN's FACTS ARE FOUND -/
def FX (L : PG) (R : Int → Prop) (g : MH) : Prop := MI L R g ∧ ∀ k, inP L k → rch (tT g L) k → dne L (tT g L) (hv g 471 k) k
theorem FX.c {L : PG} {R : Int → Prop} {g : MH} (f : FX L R g) : closedz L R (tT g L) := ⟨f.1.2.2.1, fun k k0 k1 r => (f.2 k ⟨k0, k1⟩ r).1⟩
theorem CI_le {L : PG} {R : Int → Prop} {T U : TB} (p : tle T U) (c : CI L R T) : CI L R U :=
  ⟨fun m m0 m1 r => Flow_le (fun _ => fle_rfl _) (fle_rfl _) p (c.1 m m0 m1 r), fun i i0 i1 => fle_trans (c.2 i i0 i1) (p _ _ _)⟩
/-- nothing is flagged -/
def cln (L : PG) (g : MH) : Prop := (∀ k, inP L k → hv g 460 k = 1 → hv g 458 k = 0) ∧ ∀ s, 0 ≤ s → bl (hv g 396 12) s = false ∧ bi (hv g 396 13) s = false ∧ bl (hv g 396 14) s = false
/-- within a round that began at b with new sites, statics, methods -/
def RI (L : PG) (R : Int → Prop) (b : MH) (ns nst nm n v : Int) (g : MH) : Prop :=
  (frA b g ∧ MI L R g ∧ tle (tT b L) (tT g L) ∧ ∀ s, hv b 472 s = 1 → hv g 472 s = 1) ∧
  (∀ k, inP L k → rch (tT g L) k → hv g 458 k = 1 ∨ dne L (tT g L) (hv g 471 k) k ∨ askr L (tT g L) k (hv g 396 12) (hv g 396 13) (hv g 396 14) ∨ (n ≤ k ∧ askr L (tT g L) k ns nst nm)) ∧
  (v = 0 → g = b ∧ ∀ k, 0 ≤ k → k < n → hv g 460 k = 1 → hv g 458 k = 0 ∧ ¬ ask L (tT g L) k ns nst nm) ∧
  ((∀ k, inP L k → hv b 460 k = 1 → hv b 458 k = 0) → (∀ s, 0 ≤ s → bl ns s = false ∧ bi nst s = false ∧ bl nm s = false) → v = 0) ∧
  (tT g L = tT b L → (∀ s, 0 ≤ s → s < 63 → hv g 472 s = 1 → hv b 472 s = 1) → (∀ k, 0 ≤ k → k < n → hv g 460 k = 1 → hv g 458 k = 0) ∧ (∀ k, n ≤ k → hv g 458 k = hv b 458 k) ∧ ∀ s, 0 ≤ s → bl (hv g 396 12) s = false ∧ bi (hv g 396 13) s = false ∧ bl (hv g 396 14) s = false)
theorem RI_skip {L : PG} (w : WF L) {R : Int → Prop} {b : MH} {ns nst nm n v : Int} {g : MH} (r : RI L R b ns nst nm n v g) (n0 : 0 ≤ n) (n1 : n < pNp L) (q : hv g 460 n = 1 → hv g 458 n = 0 ∧ ¬ ask L (tT g L) n ns nst nm) : RI L R b ns nst nm (n + 1) v g := by
  obtain ⟨r1, r2, r3, r4, r5⟩ := r
  refine ⟨r1, fun k hk rk => ?_, fun e => ⟨(r3 e).1, fun k k0 k1 y => ?_⟩, r4, fun eT e7 => ⟨fun k k0 k1 y => ?_, fun k k0 => (r5 eT e7).2.1 k (by omega), (r5 eT e7).2.2⟩⟩
  · rcases r2 k hk rk with y | y | y | ⟨y1, y2⟩
    · exact Or.inl y
    · exact Or.inr (Or.inl y)
    · exact Or.inr (Or.inr (Or.inl y))
    · by_cases e : k = n
      · subst e
        exact absurd (askr_ask w y2) (q ((rch_iff hk).mp rk)).2
      · exact Or.inr (Or.inr (Or.inr ⟨by omega, y2⟩))
  · by_cases e : k = n
    · subst e; exact q y
    · exact (r3 ‹_›).2 k k0 (by omega) y
  · by_cases e : k = n
    · subst e; exact (q y).1
    · exact (r5 eT e7).1 k k0 (by omega) y
theorem st_T {h : MH} {L : PG} {k v : Int} : tT (hset h 458 k v) L = tT h L := tT_eq' (fun a j h1 _ _ _ => ne_a (by omega))
theorem st_cgt {h : MH} {L : PG} {k v : Int} (c : cgt h L) : cgt (hset h 458 k v) L := cgt_of (fun j => ne_a (by omega)) (fun j => ne_a (by omega)) (fun a j ha => ne_a (by unfold za at ha; omega)) c
theorem RI_go {L : PG} (w : WF L) {R : Int → Prop} {b : MH} {ns nst nm n v : Int} {g g' : MH} (r : RI L R b ns nst nm n v g) (n0 : 0 ≤ n) (n1 : n < pNp L) (hr : hv g 460 n = 1) (q : hv g 458 n = 1 ∨ ask L (tT g L) n ns nst nm)
    (a : AdvG L n (hset g 458 n 0) g' (fun U => CLz L (tT (hset g 458 n 0) L) U n)) (u : 23 ≤ pOp L n → pOp L n ≤ 26 → ∀ s, 0 ≤ s → (bl (hv g' 471 n) s = true ↔ usd L (tT (hset g 458 n 0) L) n s)) : RI L R b ns nst nm (n + 1) 1 g' := by
  obtain ⟨⟨r1, ⟨t, cg, ci, mn⟩, r1b, r1c⟩, r2, r3, r4, r5⟩ := r
  obtain ⟨a1, a2, a3, a4, a5, a6, a7, a8⟩ := a
  rw [st_T] at a4 a5
  simp only [st_T] at a6 u
  have f12 : ∀ j, hv (hset g 458 n 0) 396 j = hv g 396 j := fun j => ne_a (by omega)
  have s58 : ∀ k, k ≠ n → hv (hset g 458 n 0) 458 k = hv g 458 k := fun k e => ne_k e
  have s72 : ∀ k, hv (hset g 458 n 0) 472 k = hv g 472 k := fun k => ne_a (by omega)
  have s71 : ∀ k, hv (hset g 458 n 0) 471 k = hv g 471 k := fun k => ne_a (by omega)
  have rn : rch (tT g L) n := (rch_iff ⟨n0, n1⟩).mpr hr
  have t2 : tiv L (tT (hset g 458 n 0) L) := by rw [st_T]; exact t
  refine ⟨⟨frA_tr (frA_tr r1 (frA_set (by omega))) a1, ⟨a3, a7 (st_cgt cg), CI_le a4 ci, fun U oU cU => ?_⟩, tle_trans r1b a4, fun s y => a2.2.2.2.2.1 s (by rw [s72]; exact r1c s y)⟩, fun k hk rk => ?_, fun e => absurd e (by decide), fun q1 q2 => ?_, fun eT e7 => ?_⟩
  · have le := mn U oU cU
    exact a6 U oU le (cU.2 n n0 n1 (ath_le (le _ _ _) rn))
  · by_cases old : rch (tT g L) k
    · by_cases e : k = n
      · subst e
        rcases stay (v := hv g' 471 k) w n0 n1 t2 (by rw [st_T]; exact rn) a2 (by rw [st_T]; exact a5) (fun o1 o2 s s0 => by rw [st_T]; exact u o1 o2 s s0) with y | y | y
        · exact Or.inl y
        · exact Or.inr (Or.inl y)
        · exact Or.inr (Or.inr (Or.inl y))
      · have x0 : pOp L k = 27 → 0 ≤ pX L k ∧ pX L k < pNs L := by
          obtain ⟨-, -, xr, -, -, -, -, -, -, -, xs, -⟩ := w.k hk.1 hk.2
          exact fun o => ⟨xr.1, xs (by omega)⟩
        rcases r2 k hk old with y | y | y | ⟨y1, y2⟩
        · exact Or.inl ((a2.1 k hk).1 (by rw [s58 k e]; exact y))
        · rcases stay (v := hv g' 471 k) w hk.1 hk.2 t2 (by rw [st_T]; exact old) a2 (by rw [st_T]; exact CL_up t old a4 y.1) (fun o1 o2 s s0 => by rw [st_T, a8 k e, s71]; exact y.2 o1 o2 s s0) with z | z | z
          · exact Or.inl z
          · exact Or.inr (Or.inl z)
          · exact Or.inr (Or.inr (Or.inl z))
        · refine Or.inr (Or.inr (Or.inl (askr_le t.1 a4 x0 (fun s hs z => (a2.2.1 s hs).1 (by rw [f12]; exact z)) (fun i i0 i1 z => (a2.2.2.1 i i0 i1).1 (by rw [f12]; exact z)) (fun m hm z => (a2.2.2.2.1 m hm).1 (by rw [f12]; exact z)) y)))
        · exact Or.inr (Or.inr (Or.inr ⟨by omega, askr_le t.1 a4 x0 (fun _ _ z => z) (fun _ _ _ z => z) (fun _ _ z => z) y2⟩))
    · rcases (a2.1 k hk).2 with y | y
      · exact Or.inl y
      · exfalso
        apply old
        have := y.2
        rw [st_T] at this
        unfold rch
        rw [← this]; exact rk
  · exfalso
    have v0 := r4 q1 q2
    obtain ⟨rfl, -⟩ := r3 v0
    rcases q with y | y
    · have := q1 n ⟨n0, n1⟩ hr; omega
    · exact ask_0 (fun s s0 => (q2 s s0).1) (fun s s0 => (q2 s s0).2.1) (fun s s0 => (q2 s s0).2.2) (w.k n0 n1).2.2.1.1 y
  · have e1 : tT g L = tT b L := tle_anti t.1 (by rw [← eT]; exact a3.1) (by rw [← eT]; exact a4) r1b
    have e2 : tT g' L = tT g L := eT.trans e1.symm
    have qq := a2.2.2.2.2
    have A := r5 e1 (fun s s0 s1 y => e7 s s0 s1 (qq.1 s (by rw [s72]; exact y)))
    have B := qq.2 (by rw [st_T]; exact e2) (fun s s0 s1 y => by rw [s72]; exact r1c s (e7 s s0 s1 y))
    refine ⟨fun k k0 k1 y => ?_, fun k k0 => ?_, fun s s0 => ?_⟩
    · rw [B.1 k]
      by_cases e : k = n
      · rw [e, eq_a]
      · rw [s58 k e]
        refine A.1 k k0 (by omega) ?_
        have hk : inP L k := ⟨k0, by omega⟩
        rw [← rch_iff hk, ← e2, rch_iff hk]; exact y
    · rw [B.1 k, s58 k (by omega)]; exact A.2.1 k (by omega)
    · have := B.2 s s0
      rw [f12, f12, f12] at this
      rw [this.1, this.2.1, this.2.2]
      exact A.2.2 s s0
theorem RI_end {L : PG} (w : WF L) {R : Int → Prop} {b : MH} {ns nst nm : Int} {g : MH} (r : RI L R b ns nst nm (pNp L) 0 g) (zb : hv b 396 12 = 0 ∧ hv b 396 13 = 0 ∧ hv b 396 14 = 0) : FX L R g := by
  obtain ⟨r1, r2, r3, r4, r5⟩ := r
  obtain ⟨e, r3⟩ := r3 rfl
  refine ⟨r1.2.1, fun k hk rk => ?_⟩
  rcases r2 k hk rk with y | y | y | y
  · have := (r3 k hk.1 hk.2 ((rch_iff hk).mp rk)).1; omega
  · exact y
  · exfalso
    rw [e, zb.1, zb.2.1, zb.2.2] at y
    exact ask_0 (fun s _ => bl_zero s) (fun s _ => bi_zero s) (fun s _ => bl_zero s) (w.k hk.1 hk.2).2.2.1.1 (askr_ask w y)
  · have := hk.2; omega
/-- the frame of the search for facts -/
def frF (h h' : MH) : Prop := h'.2 = h.2 ∧ ∀ a j, ¬ (458 ≤ a ∧ a ≤ 502) → ¬ (a = 396 ∧ ((11 ≤ j ∧ j ≤ 14) ∨ j = 16 ∨ (61 ≤ j ∧ j ≤ 67) ∨ j = 72)) → hv h' a j = hv h a j
theorem frF_tr {h1 h2 h3 : MH} (a : frF h1 h2) (b : frF h2 h3) : frF h1 h3 := ⟨b.1.trans a.1, fun x j p q => (b.2 x j p q).trans (a.2 x j p q)⟩
theorem frF_A {h h' : MH} (a : frA h h') : frF h h' := ⟨a.1, fun x j p q => a.2 x j (by omega) (by omega)⟩
theorem frF_G {h h' : MH} (a : frG h h') : frF h h' := ⟨a.1, fun x j p q => a.2 x j (by omega) (by omega)⟩
theorem frF_TF {h h' : MH} {L : PG} (f : frF h h') (t : TF h L) : TF h' L := t.of (f.2 _ _ (by omega) (by omega)) (fun a j h1 h2 => f.2 a j (by omega) (by omega))
/-- what roots bring -/
def rts (L : PG) (R : Int → Prop) (n : Int) (U : TB) : Prop := ∀ m, 0 ≤ m → m < n → R m → Flow L U (pFi L m) (rtx L m) (fk 0 0)
theorem rts_s {L : PG} {R : Int → Prop} {n : Int} {U : TB} (n0 : 0 ≤ n) : rts L R (n + 1) U ↔ rts L R n U ∧ (R n → Flow L U (pFi L n) (rtx L n) (fk 0 0)) := by
  constructor
  · intro r
    exact ⟨fun m m0 m1 y => r m m0 (by omega) y, r n n0 (by omega)⟩
  · rintro ⟨r, q⟩ m m0 m1 y
    by_cases e : m = n
    · rw [e] at y ⊢; exact q y
    · exact r m m0 (by omega) y
theorem rtx_gd {L : PG} (T : TB) (m j : Int) : fgd L T (rtx L m j) := by
  unfold rtx
  split
  · exact fgd_n (Or.inl rfl) (Or.inr (Or.inl rfl)) (by omega) (by unfold c32; omega) (by unfold c32; omega) (by unfold c32; omega)
  · exact f1st_gd L T _
theorem fk0_gd (L : PG) (T : TB) : fgd L T (fk 0 0) := ⟨fok_fk (by unfold c32; omega) (by unfold c32; omega), (fun s _ q => by rw [show ast (fk 0 0) = 0 from rfl, bl_zero] at q; cases q), ⟨⟨mk_0 L, su8_0⟩, mk_0 L⟩, rfl⟩
theorem t_findFacts0 {l : Launch} {G : JG} (hG : gO G = true) {h : MH} {L : PG} {R : Int → Prop} (hz : ¬ L 99 0 = 1) (tf : TF h L) (w : WF L) (hR : ∀ m, inM L m → (¬ hv h 457 m = 0 ↔ R m)) {Q : Int → MH → Prop} {E : Nat → Int → MH → Prop} (hK : ¬ hv h 396 11 = 0 → Q 0 h)
    (hQ : hv h 396 11 = 0 → ∀ h', frF h h' → MK h' L → hv h' 396 11 = 1 → FX L R h' → S_X9_findLive l G [(2009, 396)] h' (fun _ h2 => S_X9_findOrigins l G [(2009, 396)] h2 (fun _ h4 => Q 0 h4) E) E) : S_X9_findFacts l G [(2009, 396)] h Q E := by
  have nn := w.n
  unfold WFn at nn
  refine s_X9_findFacts rfl fun K ki => r_X9_findFacts_0 ki hG ⟨fun kn => ⟨by decide, ?_⟩, hK⟩
  have hQ := hQ kn
  intro h1 e1
  have f1 : frF h h1 := ⟨by rw [e1]; rfl, fun a j _ p2 => by rw [e1, hv_set, if_neg (by omega)]⟩
  have k1 : hv h1 396 11 = 1 := by rw [e1, eq_a]
  refine t_forgetFacts hG (frF_TF f1 tf) w fun h3 f3 mk3 fg3 => ?_
  have f13 : frF h h3 := frF_tr f1 (frF_G f3)
  have k3 : hv h3 396 11 = 1 := by rw [f3.2 396 11 (by omega) (by omega)]; exact k1
  have t3 := fgt_tiv w fg3
  have c3 := fgt_cgt w fg3
  intro x0 ex0
  -- the rounds
  have inner : ∀ b : MH, frA h3 b → (hv b 396 12 = 0 ∧ hv b 396 13 = 0 ∧ hv b 396 14 = 0) → ∀ ns nst nm : Int, (∀ v g, RI L R b ns nst nm (pNp L) v g → (v = 0 ∨ v = 1) → JW K 191 [(2009, 396), (0, v), (5000, 0), (5000, 0), (5000, 0), (5000, 0), (5000, 0), (5000, 0)] [] g) →
      ∀ N : Nat, ∀ n v : Int, ∀ g : MH, (pNp L - n).toNat ≤ N → 0 ≤ n → n ≤ pNp L → (v = 0 ∨ v = 1) → RI L R b ns nst nm n v g → JW K 232 [(2009, 396), (0, v), (1, ns), (5000, 0), (0, nst), (1, nm), (5000, 0), (0, n)] [] g := by
    intro b fb zb ns nst nm done N
    induction N with
    | zero =>
      intro n v g b1' b2 b3 v01 r
      have tg := frF_TF (frF_tr f13 (frF_A (frA_tr fb r.1.1))) tf
      have en : n = pNp L := by omega
      subst en
      exact r_X9_findFacts_232 ki hG ⟨tg.ne, fun _ => done v g r v01, fun z => by rw [tg.nnp] at z; omega⟩
    | succ N ih =>
      intro n v g b1' b2 b3 v01 r
      by_cases en : n = pNp L
      · exact ih n v g (by omega) b2 b3 v01 r
      have fa := frA_tr fb r.1.1
      have tg := frF_TF (frF_tr f13 (frF_A fa)) tf
      have mkg := frA_MK fa mk3
      refine JW_hyp fun H ok _ => ?_
      have o := ok _ List.mem_cons_self
      have hG' : gO (kG K) = true := by rw [ki.2.2.1]; exact hG
      have z458 : hv g 458 n = 0 ∨ hv g 458 n = 1 := okf_z (tw_ok H hG' o 15 (off := 62) (n := 1500) (t := 102) (e := 2) (by decide) (by decide) (by decide) (by decide) (by decide) b2 (by omega))
      have z460 : hv g 460 n = 0 ∨ hv g 460 n = 1 := okf_z (tw_ok H hG' o 18 (off := 64) (n := 1500) (t := 102) (e := 2) (by decide) (by decide) (by decide) (by decide) (by decide) b2 (by omega))
      refine r_X9_findFacts_232 ki hG ⟨tg.ne, fun z => by rw [tg.nnp] at z; omega, fun z => ⟨b2, by omega, fun y => ?_, fun y => ⟨b2, by omega, fun y2 => ⟨b2, by omega, by decide, ?_⟩, fun y2 => ?_⟩⟩⟩
      · intro x ex
        rw [w32_i (by omega) (by omega)] at ex
        subst ex
        exact ih (n + 1) v g (by omega) (by omega) (by omega) v01 (RI_skip w r b2 (by omega) (fun y3 => by omega))
      · intro g2 e2 x1 ex1
        subst e2
        subst ex1
        refine t_goOn (l := l) (h := hset g 458 n 0) (E := E) (Q := fun _ h5 => ∀ x : Int, x = w32 (n + 1) → JW K 232 [(2009, 396), (0, 1), (1, ns), (5000, 0), (0, nst), (1, nm), (5000, 0), (0, x)] [] h5) hG hz (frA_TF (frA_set (by omega)) tg) w (frA_MK (frA_set (by omega)) mkg) (by rw [st_T]; exact r.1.2.1.1) (st_cgt r.1.2.1.2.1) b2 (by omega) (by rw [ne_a (by omega)]; omega) fun g5 a5 u5 => ?_
        intro x ex
        rw [w32_i (by omega) (by omega)] at ex
        subst ex
        exact ih (n + 1) 1 g5 (by omega) (by omega) (by omega) (Or.inr rfl) (RI_go w r b2 (by omega) (by omega) (Or.inl (by omega)) a5 u5)
      · refine t_asks hG tg w b2 (by omega) (by omega) fun zz hzz => ⟨fun y3 => ?_, fun y3 => ⟨b2, by omega, by decide, ?_⟩⟩
        · intro x ex
          rw [w32_i (by omega) (by omega)] at ex
          subst ex
          exact ih (n + 1) v g (by omega) (by omega) (by omega) v01 (RI_skip w r b2 (by omega) (fun _ => ⟨y2, fun y4 => hzz.mpr y4 y3⟩))
        · intro g2 e2 x1 ex1
          subst e2
          subst ex1
          refine t_goOn (l := l) (h := hset g 458 n 0) (E := E) (Q := fun _ h5 => ∀ x : Int, x = w32 (n + 1) → JW K 232 [(2009, 396), (0, 1), (1, ns), (5000, 0), (0, nst), (1, nm), (5000, 0), (0, x)] [] h5) hG hz (frA_TF (frA_set (by omega)) tg) w (frA_MK (frA_set (by omega)) mkg) (by rw [st_T]; exact r.1.2.1.1) (st_cgt r.1.2.1.2.1) b2 (by omega) (by rw [ne_a (by omega)]; omega) fun g5 a5 u5 => ?_
          intro x ex
          rw [w32_i (by omega) (by omega)] at ex
          subst ex
          exact ih (n + 1) 1 g5 (by omega) (by omega) (by omega) (Or.inr rfl) (RI_go w r b2 (by omega) (by omega) (Or.inr (hzz.mp y3)) a5 u5)
  have outer : ∀ N : Nat, ∀ g : MH, frA h3 g → MI L R g → (∀ k, inP L k → rch (tT g L) k → hv g 458 k = 1 ∨ dne L (tT g L) (hv g 471 k) k ∨ askr L (tT g L) k (hv g 396 12) (hv g 396 13) (hv g 396 14)) →
      (2 * msr g L + 1 ≤ N ∨ (2 * msr g L ≤ N ∧ cln L g)) → JW K 191 [(2009, 396), (0, 1), (5000, 0), (5000, 0), (5000, 0), (5000, 0), (5000, 0), (5000, 0)] [] g := by
    intro N
    induction N using Nat.strongRecOn with
    | ind N ih =>
      intro g fg mi inv ms
      refine r_X9_findFacts_191 ki hG ⟨fun z => by omega, fun _ => ?_⟩
      intro ns ens nst enst nm enm g8 e8 g9 e9 g10 e10 x1 ex1 x7 ex7
      have w12 : hv g10 396 12 = 0 := by rw [e10, ne_k (by omega), e9, ne_k (by omega), e8, eq_a]
      have w13 : hv g10 396 13 = 0 := by rw [e10, ne_k (by omega), e9, eq_a]
      have w14 : hv g10 396 14 = 0 := by rw [e10, eq_a]
      have oth : ∀ a j, a ≠ 396 → hv g10 a j = hv g a j := fun a j y => by rw [e10, ne_a y, e9, ne_a y, e8, ne_a y]
      have eT : tT g10 L = tT g L := tT_eq' (fun a j y1 _ _ _ => oth a j (by omega))
      have f10 : frA g g10 := by
        rw [e10, e9, e8]
        exact frA_tr (frA_tr (frA_set (by omega)) (frA_set (by omega))) (frA_set (by omega))
      subst ex1; subst ex7
      refine inner g10 (frA_tr fg f10) ⟨w12, w13, w14⟩ ns nst nm (fun v g' r v01 => ?_) _ 0 0 g10 (Nat.le_refl _) (by omega) (by omega) (Or.inl rfl) ?_
      · by_cases v0 : v = 0
        · subst v0
          have fx := RI_end w r ⟨w12, w13, w14⟩
          have ff := frA_tr (frA_tr fg f10) r.1.1
          refine r_X9_findFacts_191 ki hG ⟨fun _ => ?_, fun z => absurd rfl z⟩
          exact hQ g' (frF_tr f13 (frF_A ff)) (frA_MK ff mk3) (by rw [ff.2 396 11 (by omega) (by omega)]; exact k3) fx
        · have v1 : v = 1 := by omega
          subst v1
          obtain ⟨⟨r1, r1m, r1b, r1c⟩, r2, r3, r4, r5⟩ := r
          have nc : ¬ cln L g := fun c => by
            have := r4 (fun k hk y => by rw [oth 458 k (by omega)]; exact c.1 k hk (by rw [← oth 460 k (by omega)]; exact y)) (fun s s0 => by rw [ens, enst, enm]; exact c.2 s s0)
            omega
          have ms1 : 2 * msr g L + 1 ≤ N := by
            rcases ms with y | y
            · exact y
            · exact absurd y.2 nc
          have ml := msr_le w mi.1.1 r1m.1.1 (by rw [← eT]; exact r1b) (fun s y => r1c s (by rw [oth 472 s (by omega)]; exact y))
          have inv' : ∀ k, inP L k → rch (tT g' L) k → hv g' 458 k = 1 ∨ dne L (tT g' L) (hv g' 471 k) k ∨ askr L (tT g' L) k (hv g' 396 12) (hv g' 396 13) (hv g' 396 14) := by
            intro k hk rk
            rcases r2 k hk rk with y | y | y | y
            · exact Or.inl y
            · exact Or.inr (Or.inl y)
            · exact Or.inr (Or.inr y)
            · have := hk.2; omega
          by_cases me : msr g' L = msr g L
          · obtain ⟨m1, m2⟩ := ml.2 me
            have A := r5 (by rw [m1, eT]) (fun s s0 s1 y => by rw [oth 472 s (by omega)]; exact m2 s s0 s1 y)
            exact ih (N - 1) (by omega) g' (frA_tr (frA_tr fg f10) r1) r1m inv' (Or.inr ⟨by omega, fun k hk y => A.1 k hk.1 hk.2 y, A.2.2⟩)
          · exact ih (N - 1) (by omega) g' (frA_tr (frA_tr fg f10) r1) r1m inv' (Or.inl (by have := ml.1; omega))
      · refine ⟨⟨frA_rfl _, ⟨by rw [eT]; exact mi.1, cgt_of (fun j => oth 470 j (by omega)) (fun j => oth 467 j (by omega)) (fun a j ha => oth a j (by unfold za at ha; omega)) mi.2.1, by rw [eT]; exact mi.2.2.1, by rw [eT]; exact mi.2.2.2⟩, tle_rfl _, fun _ y => y⟩, fun k hk rk => ?_, fun _ => ⟨rfl, fun k k0 k1 => by omega⟩, fun _ _ => rfl, fun _ _ => ⟨fun k k0 k1 => by omega, fun _ _ => rfl, fun s s0 => by rw [w12, w13, w14]; exact ⟨bl_zero s, bi_zero s, bl_zero s⟩⟩⟩
        rw [eT] at rk ⊢
        rw [oth 458 k (by omega), oth 471 k (by omega), ens, enst, enm]
        rcases inv k hk rk with y | y | y
        · exact Or.inl y
        · exact Or.inr (Or.inl y)
        · exact Or.inr (Or.inr (Or.inr ⟨hk.1, y⟩))
  -- the roots
  have roots : ∀ N : Nat, ∀ n : Int, ∀ g : MH, (pNm L - n).toNat ≤ N → 0 ≤ n → n ≤ pNm L → Adv L h3 g (rts L R n) (rts L R n) → JW K 19 [(2009, 396), (0, n), (5000, 0), (5000, 0), (5000, 0), (5000, 0), (5000, 0), (5000, 0)] [] g := by
    have last : ∀ g : MH, Adv L h3 g (rts L R (pNm L)) (rts L R (pNm L)) → JW K 19 [(2009, 396), (0, pNm L), (5000, 0), (5000, 0), (5000, 0), (5000, 0), (5000, 0), (5000, 0)] [] g := by
      intro g a
      obtain ⟨a1, a2, a3, a4, a5, a6, a7, a8⟩ := a
      have tg := frF_TF (frF_tr f13 (frF_A a1)) tf
      refine r_X9_findFacts_19 ki hG ⟨tg.ne, fun _ => ?_, fun z => by rw [tg.nnm] at z; omega⟩
      intro x ex
      subst ex
      refine outer (2 * msr g L + 1) g a1 ⟨a3, a7 c3, ⟨a5, fun i i0 i1 => ?_⟩, fun U oU cU => ?_⟩ (fun k hk rk => ?_) (Or.inl (Nat.le_refl _))
      · refine fle_trans ?_ (a4 3 i 0)
        rw [fgt_T w fg3, if_pos ⟨rfl, i0, i1, rfl⟩]; exact fle_rfl _
      · refine a6 U oU (fun a i j => ?_) cU.1.1
        rw [fgt_T w fg3]
        by_cases y : a = 3 ∧ 0 ≤ i ∧ i < pNs L ∧ j = 0
        · rw [if_pos y]
          obtain ⟨rfl, i0, i1, rfl⟩ := y
          exact cU.1.2 i i0 i1
        · rw [if_neg y]; exact fle_fz _
      · rcases (a2.1 k hk).2 with y | y
        · exact Or.inl y
        · exfalso
          have := y.2
          rw [fgt_T w fg3 6 k 0, if_neg (by omega)] at this
          unfold rch at rk
          rw [this] at rk
          exact rk rfl
    intro N
    induction N with
    | zero =>
      intro n g b1' b2 b3 a
      have en : n = pNm L := by omega
      subst en
      exact last g a
    | succ N ih =>
      intro n g b1' b2 b3 a
      by_cases en : n = pNm L
      · subst en; exact last g a
      have tg := frF_TF (frF_tr f13 (frF_A a.1)) tf
      have e457 : hv g 457 n = hv h 457 n := (frF_tr f13 (frF_A a.1)).2 457 n (by omega) (by omega)
      refine r_X9_findFacts_19 ki hG ⟨tg.ne, fun z => by rw [tg.nnm] at z; omega, fun z => ⟨b2, by omega, fun y => ?_, fun y => ?_⟩⟩
      · rw [e457] at y
        have rn : R n := (hR n ⟨b2, by omega⟩).mp y
        obtain ⟨-, -, -, ar0, ar1, -, -, -, alc, lc8, lks, -, -, -, -, co1, -, fi0, fi1, fim, fid, -⟩ := w.m b2 (by omega)
        have mf : pMo L (pFi L n) = n := by have := fim 0 (by omega) (by omega); rw [show pFi L n + 0 = pFi L n by omega] at this; exact this
        intro x2 ex2
        -- the first facts are laid
        have slots : ∀ M : Nat, ∀ j : Int, ∀ g2 : MH, (8 - j).toNat ≤ M → 0 ≤ j → j ≤ 8 → same g g2 → (∀ i, 0 ≤ i → i < j → i < pLc L n → cX g2 i = rtx L n i) → JW K 44 [(2009, 396), (0, n), (0, j), (5000, 0), (5000, 0), (5000, 0), (5000, 0), (5000, 0)] [] g2 := by
          have lay : ∀ g2 : MH, same g g2 → (∀ i, 0 ≤ i → i < 8 → i < pLc L n → cX g2 i = rtx L n i) → JW K 44 [(2009, 396), (0, n), (0, 8), (5000, 0), (5000, 0), (5000, 0), (5000, 0), (5000, 0)] [] g2 := by
            intro g2 s2 cx
            refine r_X9_findFacts_44 ki hG ⟨fun _ => ?_, fun z2 => by omega⟩
            intro g3 e3 g4 e4
            have s4 : same g g4 := by
              rw [e4, e3]
              exact same_tr (same_tr s2 (same_set (by omega))) (same_set (by omega))
            have tg4 := frA_TF s4.1 tg
            have tT4 := same_T (L := L) s4
            have cx4 : ∀ s, rel L (pFi L n) s → cX g4 s = rtx L n s := by
              intro s hs
              have e : cX g4 s = cX g2 s := by rw [e4, e3]; unfold cX; simp [hv_set]
              rw [e]
              unfold rel at hs
              rw [mf, fid] at hs
              exact cx s (by omega) (by omega) (by omega)
            have lk4 : lkc_ g4 = fk 0 0 := by rw [e4, e3]; unfold lkc_; simp [hv_set]
            refine ⟨tg4.ne, b2, by omega, ?_⟩
            rw [tg4.fi]
            refine t_joinTo hG tg4 w fi0 (by omega) fun g6 j6 => ?_
            have a4 := Adv_join (q := pFi L n) ⟨fi0, by omega⟩ (by rw [tT4]; exact a.2.2.1) j6 (fun s hs => by rw [cx4 s hs]; exact rtx_gd _ n s) (by rw [lk4]; exact fk0_gd L _)
            rw [lk4] at a4
            have a5 := Adv_tr (Adv_tr a (same_Adv s4 a.2.2.1) (fun U V p r m m0 m1 rm => Flow_le (fun _ => fle_rfl _) (fle_rfl _) p (r m m0 m1 rm))) a4 (fun U V p r => ⟨fun m m0 m1 rm => Flow_le (fun _ => fle_rfl _) (fle_rfl _) p (r.1 m m0 m1 rm), trivial⟩)
            intro x ex
            rw [w32_i (by omega) (by omega)] at ex
            subst ex
            refine ih (n + 1) g6 (by omega) (by omega) (by omega) (Adv_w a5 (fun _ p => (rts_s b2).mpr ⟨p.1.1, fun _ => Flow_eq cx4 p.2⟩) (fun U _ _ p => ?_))
            have p' := (rts_s b2).mp p
            exact ⟨⟨p'.1, trivial⟩, Flow_eq (fun s hs => (cx4 s hs).symm) (p'.2 rn)⟩
          intro M
          induction M with
          | zero =>
            intro j g2 m1 m2 m3 s2 cx
            have ej : j = 8 := by omega
            subst ej
            exact lay g2 s2 cx
          | succ M ihM =>
            intro j g2 m1 m2 m3 s2 cx
            by_cases ej : j = 8
            · subst ej; exact lay g2 s2 cx
            have tg2 := frA_TF s2.1 tg
            refine r_X9_findFacts_44 ki hG ⟨fun z2 => by omega, fun z2 => ⟨tg2.ne, b2, by omega, ?_⟩⟩
            rw [tg2.ar]
            intro x3 e3
            rw [w32_i (z := 8 * n) (by omega) (by omega), w32_i (z := 8 * n + j) (by omega) (by omega)]
            refine ⟨tg2.ne, by omega, by omega, ?_⟩
            rw [tg2.at 10 (8 * n + j) (by omega) (by omega)]
            intro x4 e4
            refine ⟨tg2.ne, b2, by omega, ?_⟩
            rw [tg2.lc]
            refine t_setSlot hG m2 (by omega) ?_
            intro x ex
            rw [w32_i (by omega) (by omega)] at ex
            subst ex
            refine ihM (j + 1) _ (by omega) (by omega) (by omega) (same_tr s2 (slt_same _ _ _ _ _ _)) (fun i i0 i1 i2 => ?_)
            rw [slt_cX]
            unfold ux
            by_cases y3 : i = j
            · subst y3
              rw [if_pos rfl, if_pos i2]
              have lk := lks i i0 i2
              unfold rtx f1st
              have e4' : x4 = if pLk L n i = 0 then 1 else 0 := e4
              by_cases k0 : pLk L n i = 0
              · rw [if_pos k0] at e4'
                rw [e4', if_neg (by decide : ¬ (1 : Int) = 0), if_neg (by decide : ¬ (1 : Int) = 0), if_neg (by decide : ¬ (1 : Int) = 0)]
                by_cases k2 : i < pAr L n
                · rw [if_pos k2] at e3
                  rw [e3, if_neg (by decide : ¬ (1 : Int) = 0), if_neg (by decide : ¬ (1 : Int) = 0), if_pos ⟨k2, k0⟩]
                · rw [if_neg k2] at e3
                  rw [e3, if_pos rfl, if_pos rfl, if_neg (fun z3 => k2 z3.1), if_neg (by omega)]
              · rw [if_neg k0] at e4'
                rw [e4', if_pos (rfl : (0 : Int) = 0), if_pos (rfl : (0 : Int) = 0), if_pos (rfl : (0 : Int) = 0), if_neg (fun z3 : i < pAr L n ∧ pLk L n i = 0 => k0 z3.2), if_pos (show pLk L n i = 1 by omega), ite_self]
                rfl
            · rw [if_neg y3]
              exact cx i i0 (by omega) i2
        subst ex2
        exact slots _ 0 g (Nat.le_refl _) (by omega) (by omega) (same_rfl g) (fun i a b => by omega)
      · intro x ex
        rw [w32_i (by omega) (by omega)] at ex
        subst ex
        rw [e457] at y
        have rn : ¬ R n := fun r => (hR n ⟨b2, by omega⟩).mpr r y
        exact ih (n + 1) g (by omega) (by omega) (by omega) (Adv_w a (fun _ p => (rts_s b2).mpr ⟨p, fun r => absurd r rn⟩) (fun U _ _ p => ((rts_s b2).mp p).1))
  subst ex0
  refine roots _ 0 h3 (Nat.le_refl _) (by omega) (by omega) ?_
  exact Adv_w (same_Adv (same_rfl h3) t3) (fun _ _ m m0 m1 => by omega) (fun _ _ _ _ => trivial)
