/-! Part 38k: goOn: plain instructions -/
theorem CL_up {L : PG} {T U V : TB} {k : Int} (t : tiv L T) (hr : rch T k) (p : tle U V) (h : CLz L T U k) : CLz L T V k :=
  CL_le t.1 (tle_rfl T) hr (fun c q => (t.2.2.2.1 c).mp q) (fun c s q => (t.2.2.2.2.1 c).1.mp (fun e => by
    have := q.2.2
    rcases t.1 14 c 0 with z | z
    · rw [z, show ast fz = 0 from rfl, bl_zero] at this; cases this
    · omega)) p h
theorem CL_dn {L : PG} {T U : TB} {k : Int} (t : tiv L T) (hr : rch T k) (p : tle T U) (h : CLz L U U k) : CLz L T U k :=
  CL_le t.1 p hr (fun c q => (t.2.2.2.1 c).mp q) (fun c s q => (t.2.2.2.2.1 c).1.mp (fun e => by
    have := q.2.2
    rcases t.1 14 c 0 with z | z
    · rw [z, show ast fz = 0 from rfl, bl_zero] at this; cases this
    · omega)) (tle_rfl U) h
/-- what a place at work has reached: T are the facts it began with -/
def AdvC (L : PG) (k : Int) (h h' : MH) (P : TB → Prop) : Prop := Adv L h h' P (fun U => CLz L U U k)
theorem AdvC_of {L : PG} {k : Int} {h h' : MH} {P A : TB → Prop} (t : tiv L (tT h L)) (hr : rch (tT h L) k) (a : Adv L h h' P A) (f : ∀ U, tbok U → tle (tT h L) U → CLz L U U k → CLz L (tT h L) U k → A U) : AdvC L k h h' P :=
  Adv_w a (fun _ p => p) (fun U oU p q => f U oU p q (CL_dn t hr p q))
theorem AdvC_tr {L : PG} {k : Int} {h1 h2 h3 : MH} {P P' : TB → Prop} (a : AdvC L k h1 h2 P) (b : AdvC L k h2 h3 P') (up : ∀ U V, tle U V → P U → P V) : AdvC L k h1 h3 (fun U => P U ∧ P' U) :=
  Adv_w (Adv_tr a b up) (fun _ p => p) (fun _ _ _ q => ⟨q, q⟩)
theorem AdvC_w {L : PG} {k : Int} {h h' : MH} {P P' : TB → Prop} (a : AdvC L k h h' P) (f : tle (tT h L) (tT h' L) → P (tT h' L) → P' (tT h' L)) : AdvC L k h h' P' := Adv_w a f (fun _ _ _ q => q)
theorem AdvC_same {L : PG} {k : Int} {h h' : MH} (s : same h h') (t : tiv L (tT h L)) : AdvC L k h h' (fun _ => True) := Adv_w (same_Adv s t) (fun _ p => p) (fun _ _ _ _ => trivial)
theorem GT_up {L : PG} {U V : TB} {k i : Int} {X : Int → FA} {lk : FA} (p : tle U V) (h : GT L U k i X lk) : GT L V k i X lk := GT_le (fun _ => fle_rfl _) (fle_rfl _) p h
theorem TS_up {L : PG} {U V : TB} {k s : Int} {X : Int → FA} {lk : FA} (p : tle U V) (h : TS L U k X s lk) : TS L V k X s lk := TS_le (fun _ => fle_rfl _) (fle_rfl _) p h
/-- one flow, after steps that change no table -/
theorem fin1 {L : PG} {k i : Int} {h g h' : MH} {X : Int → FA} {lk : FA} (s : same h g) (t : tiv L (tT h L)) (hr : rch (tT h L) k) (a : Adv L g h' (fun U => GT L U k i X lk) (fun U => GT L U k i X lk)) (cl : ∀ U, CLz L (tT h L) U k ↔ GT L U k i X lk) : AdvC L k h h' (fun U => CLz L (tT h L) U k) := by
  have b := Adv_tr (same_Adv s t) a (fun _ _ _ x => x)
  exact AdvC_of t hr (Adv_w b (fun _ p => (cl _).mpr p.2) (fun U _ _ q => ⟨trivial, q⟩)) (fun U _ _ _ q => (cl U).mp q)
theorem gX_ux {L : PG} {T : TB} {m d j : Int} {X : Int → FA} {v : FA} (h : ∀ s, vld L m d s → s ≠ j → fgd L T (X s)) (g : fgd L T v) : ∀ s, vld L m d s → fgd L T (ux X j v s) := by
  intro s hs
  unfold ux
  split
  · exact g
  · rename_i e; exact h s hs e
theorem fgd_n {L : PG} {T : TB} {a b c : Int} (ha : isMk L a) (hb : isMk L b) (hab : a ≤ b) (ca : c32 a) (cb : c32 b) (cc : c32 c) : fgd L T (fv a b c 0) :=
  ⟨fok_fv ca cb hab cc (by unfold c64; omega), (fun s _ q => by rw [show ast (fv a b c 0) = 0 from rfl, bl_zero] at q; cases q), ⟨⟨ha, su8_0⟩, hb⟩, rfl⟩
theorem fgd_1 (L : PG) (T : TB) : fgd L T (fs 1) := by
  refine ⟨fok_fs (by unfold c64; omega), fun s s0 q => ?_, ⟨⟨mk_0 L, su8_0⟩, mk_0 L⟩, rfl⟩
  change bl 1 s = true at q
  rw [bl_one s0] at q
  simp at q
  exact Or.inl (by omega)
theorem mk_c32 {L : PG} (w : WF L) {v : Int} (h : isMk L v) : c32 v := by
  rcases h with h | h | h | h | h | h | ⟨k, k0, k1, q⟩
  all_goals try (unfold c32; omega)
  obtain ⟨-, -, -, y, -⟩ := w.k k0 k1
  unfold c32
  omega
theorem fgd_rnd {L : PG} {T : TB} (w : WF L) {a b c : Int} (hab : a ≤ b) (cc : c32 c) : fgd L T (rnd L a b c) := by
  unfold rnd
  split
  · exact fgd_n (Or.inl rfl) (Or.inr (Or.inl rfl)) (by omega) (by unfold c32; omega) (by unfold c32; omega) cc
  · rename_i z
    have d := dn_ex L (v := a) (by omega)
    have u := up_ex L (v := b) (by omega)
    exact fgd_n d.1 u.1 (by have := d.2.1; have := u.2.1; omega) (mk_c32 w d.1) (mk_c32 w u.1) cc
theorem fgd_rk {L : PG} {T : TB} (w : WF L) {op : Int} {a b : FA} (oa : fok a) (ob : fok b) (h : ath (rk L op a b) ≠ 0) : fgd L T (rk L op a b) := by
  unfold rk at h ⊢
  by_cases z : ath a = 0 ∨ ath b = 0
  · rw [if_pos z] at h; exact absurd rfl h
  rw [if_neg z] at h ⊢
  obtain ⟨-, a1, a2, la, a4, -⟩ := fok_there oa (fun q => z (Or.inl q))
  obtain ⟨-, b1', b2, lb, b4, -⟩ := fok_there ob (fun q => z (Or.inr q))
  by_cases o1 : op = 12
  · rw [if_pos o1]; exact fgd_rnd w (by omega) b4
  rw [if_neg o1] at h ⊢
  by_cases o2 : op = 7
  · rw [if_pos o2]; exact fgd_rnd w (by omega) (c32_i_or _ _)
  rw [if_neg o2] at h ⊢
  by_cases o3 : op = 8
  · rw [if_pos o3]; exact fgd_rnd w (by omega) (c32_i_or _ _)
  rw [if_neg o3] at h ⊢
  by_cases o4 : op = 9
  · rw [if_pos o4]
    have p := mul_snd (l := alo a) (h := ahi a) (l2 := alo b) (h2 := ahi b) (a := alo a) (b := alo b) (by omega) (by omega) (by omega) (by omega)
    exact fgd_rnd w (by omega) (c32_i_or _ _)
  rw [if_neg o4] at h ⊢
  by_cases zz : alo b = 0 ∧ ahi b = 0
  · rw [if_pos zz] at h; exact absurd rfl h
  rw [if_neg zz] at h ⊢
  by_cases o5 : op = 11
  · rw [if_pos o5, iabs_eq, iabs_eq]
    refine fgd_rnd w ?_ (c32_i_or _ _)
    split <;> split <;> omega
  rw [if_neg o5]
  refine fgd_rnd w ?_ (c32_i_or _ _)
  obtain ⟨⟨x, d, x1, x2, x3, x4, x5, x6⟩, -⟩ := q_at (l := alo a) (h := ahi a) (l2 := alo b) (h2 := ahi b) la lb zz
  have := (q_snd (l := alo a) (h := ahi a) (l2 := alo b) (h2 := ahi b) x1 x2 x3 x4 x5)
  omega
theorem CL0 {L : PG} {T U : TB} {k : Int} (e : pOp L k = 0) : CLz L T U k ↔ GT L U k (nx L k) (ux (T 0 k) (8 + pDp L k) (fv (pY L k) (pY L k) 0 0)) (T 6 k 0) := by simp [CLz, Csz, Co, Ccz, e]
theorem CL1 {L : PG} {T U : TB} {k : Int} (e : pOp L k = 1) : CLz L T U k ↔ GT L U k (nx L k) (ux (T 0 k) (8 + pDp L k) (fs 1)) (T 6 k 0) := by simp [CLz, Csz, Co, Ccz, e]
theorem CL2 {L : PG} {T U : TB} {k : Int} (e : pOp L k = 2) : CLz L T U k ↔ GT L U k (nx L k) (ux (T 0 k) (8 + pDp L k) (T 0 k (pX L k))) (T 6 k 0) := by simp [CLz, Csz, Co, Ccz, e]
theorem CL3 {L : PG} {T U : TB} {k : Int} (e : pOp L k = 3) : CLz L T U k ↔ GT L U k (nx L k) (ux (T 0 k) (pX L k) (T 0 k (7 + pDp L k))) (T 6 k 0) := by simp [CLz, Csz, Co, Ccz, e]
theorem CL4 {L : PG} {T U : TB} {k : Int} (e : pOp L k = 4) : CLz L T U k ↔ GT L U k (nx L k) (T 0 k) (T 6 k 0) := by simp [CLz, Csz, Co, Ccz, e]
theorem CL5 {L : PG} {T U : TB} {k : Int} (e : pOp L k = 5) : CLz L T U k ↔ GT L U k (nx L k) (ux (T 0 k) (8 + pDp L k) (T 0 k (7 + pDp L k))) (T 6 k 0) := by simp [CLz, Csz, Co, Ccz, e]
theorem CL6 {L : PG} {T U : TB} {k : Int} (e : pOp L k = 6) : CLz L T U k ↔ GT L U k (nx L k) (ux (ux (T 0 k) (7 + pDp L k) (T 0 k (6 + pDp L k))) (6 + pDp L k) (T 0 k (7 + pDp L k))) (T 6 k 0) := by simp [CLz, Csz, Co, Ccz, e]
theorem CL7 {L : PG} {T U : TB} {k : Int} (e : pOp L k = 7 ∨ pOp L k = 8 ∨ pOp L k = 9) : CLz L T U k ↔ GT L U k (nx L k) (ux (T 0 k) (6 + pDp L k) (rk L (pOp L k) (T 0 k (6 + pDp L k)) (T 0 k (7 + pDp L k)))) (T 6 k 0) := by
  rcases e with e | e | e <;> simp [CLz, Csz, Co, Ccz, e]
theorem CL10 {L : PG} {T U : TB} {k : Int} (e : pOp L k = 10 ∨ pOp L k = 11) : CLz L T U k ↔ ((ath (rk L (pOp L k) (T 0 k (6 + pDp L k)) (T 0 k (7 + pDp L k))) ≠ 0 → GT L U k (nx L k) (ux (T 0 k) (6 + pDp L k) (rk L (pOp L k) (T 0 k (6 + pDp L k)) (T 0 k (7 + pDp L k)))) (T 6 k 0)) ∧
    (ath (T 0 k (7 + pDp L k)) ≠ 0 ∧ alo (T 0 k (7 + pDp L k)) ≤ 0 ∧ 0 ≤ ahi (T 0 k (7 + pDp L k)) → TS L U k (T 0 k) 4 (T 6 k 0))) := by
  rcases e with e | e <;> simp [CLz, Csz, Co, Ccz, e]
theorem CL12 {L : PG} {T U : TB} {k : Int} (e : pOp L k = 12) : CLz L T U k ↔ GT L U k (nx L k) (ux (T 0 k) (7 + pDp L k) (rk L 12 (T 0 k (7 + pDp L k)) (T 0 k (7 + pDp L k)))) (T 6 k 0) := by simp [CLz, Csz, Co, Ccz, e]
theorem CL13 {L : PG} {T U : TB} {k : Int} (e : pOp L k = 13) : CLz L T U k ↔ GT L U k (nx L k) (ux (T 0 k) (8 + pDp L k) (fv (pY L k) (pZ L k) (i_shl 1 (pX L k)) 0)) (T 6 k 0) := by simp [CLz, Csz, Co, Ccz, e]
theorem CL14 {L : PG} {T U : TB} {k : Int} (e : pOp L k = 14) : CLz L T U k ↔ ((ath (T 0 k (7 + pDp L k)) ≠ 0 → fle (fv (alo (T 0 k (7 + pDp L k))) (ahi (T 0 k (7 + pDp L k))) (alb (T 0 k (7 + pDp L k))) 0) (U 4 (pX L k) 0)) ∧ GT L U k (nx L k) (T 0 k) (T 6 k 0)) := by simp [CLz, Csz, Co, Ccz, e]
theorem CL15 {L : PG} {T U : TB} {k : Int} (e : pOp L k = 15) : CLz L T U k ↔ GT L U k (pZ L k) (T 0 k) (T 6 k 0) := by simp [CLz, Csz, Co, Ccz, e]
theorem CL16 {L : PG} {T U : TB} {k : Int} (e : pOp L k = 16) : CLz L T U k ↔ ((mayp (pX L k) (T 0 k (6 + pDp L k)) (T 0 k (7 + pDp L k)) → GT L U k (pZ L k) (T 0 k) (T 6 k 0)) ∧ (mayp (i_xor (pX L k) 1) (T 0 k (6 + pDp L k)) (T 0 k (7 + pDp L k)) → GT L U k (nx L k) (T 0 k) (T 6 k 0))) := by simp [CLz, Csz, Co, Ccz, e]
/-! the work on one instruction: h2 is the heap when the facts were taken -/
/-- the hypotheses of a place at work -/
def wrk (h : MH) (L : PG) (k : Int) (h2 : MH) : Prop := TF h L ∧ WF L ∧ MK h L ∧ tiv L (tT h L) ∧ 0 ≤ k ∧ k < pNp L ∧ hv h 460 k = 1 ∧ same h h2 ∧ cur L (pMo L k) h2 (tT h L 0 k) (tT h L 6 k 0) (pDp L k)
theorem wrk.r {h h2 : MH} {L : PG} {k : Int} (q : wrk h L k h2) : rch (tT h L) k := (rch_iff ⟨q.2.2.2.2.1, q.2.2.2.2.2.1⟩).mpr q.2.2.2.2.2.2.1
theorem wrk.t2 {h h2 : MH} {L : PG} {k : Int} (q : wrk h L k h2) : tT h2 L = tT h L := same_T q.2.2.2.2.2.2.2.1
theorem wrk.sl {h h2 : MH} {L : PG} {k : Int} (q : wrk h L k h2) {j : Int} (r : rel L k j) : fgd L (tT h L) (tT h L 0 k j) := tiv_slot q.2.2.2.1 q.r r
theorem wrk.lk {h h2 : MH} {L : PG} {k : Int} (q : wrk h L k h2) : fgd L (tT h L) (tT h L 6 k 0) := tiv_lock q.2.2.2.1 q.r
theorem wrk.st {h h2 : MH} {L : PG} {k : Int} (q : wrk h L k h2) {j : Int} (j0 : 8 ≤ j) (j1 : j < 8 + pDp L k) : fgd L (tT h L) (tT h L 0 k j) := q.sl (Or.inr ⟨j0, j1⟩)
/-- the last step: facts flow on -/
theorem w_on {l : Launch} {G : JG} (hG : gO G = true) {h h2 : MH} {L : PG} {k : Int} (q : wrk h L k h2) (o1 : pOp L k ≠ 15) (o2 : pOp L k ≠ 31) (o3 : pOp L k ≠ 32) {g : MH} {X : Int → FA} {lk : FA} {d : Int} (s : same h g)
    (cu : cur L (pMo L k) g X lk d) (hd : pDp L k - ppo L k + ppu L k = d) (gX : ∀ s, vld L (pMo L k) d s → fgd L (tT h L) (X s)) (gk : fgd L (tT h L) lk) (cl : ∀ U, CLz L (tT h L) U k ↔ GT L U k (nx L k) X lk)
    {Q : Int → MH → Prop} {E : Nat → Int → MH → Prop} (hQ : ∀ h', AdvC L k h h' (fun U => CLz L (tT h L) U k) → Q 0 h') : S_X9_flowOn l G [(2009, 396), (0, k)] g (fun _ h9 => Q 0 h9) E := by
  obtain ⟨tf, w, mk, t, k0, k1, hr, -, -⟩ := q
  refine t_flowOn hG (frA_TF s.1 tf) w (by rw [same_T s]; exact t) k0 k1 o1 o2 o3 cu hd (by rw [same_T s]; exact gX) (by rw [same_T s]; exact gk) fun h' a _ => ?_
  exact hQ h' (fin1 s t ((rch_iff ⟨k0, k1⟩).mpr hr) a cl)
theorem vld_up {L : PG} {k s d : Int} (h : vld L (pMo L k) d s) (ne : d ≤ pDp L k) : rel L k s := by
  unfold vld rel at *; omega
theorem g_push {l : Launch} {G : JG} (hG : gO G = true) {h h2 : MH} {L : PG} {k : Int} (q : wrk h L k h2) (e : pOp L k = 0) {Q : Int → MH → Prop} {E : Nat → Int → MH → Prop} (hQ : ∀ h', AdvC L k h h' (fun U => CLz L (tT h L) U k) → Q 0 h') :
    S_X9_lay_2 l G [(2009, 396), (0, pY L k), (0, pY L k), (0, 0), (1, 0)] h2 (fun _ h7 => S_X9_flowOn l G [(2009, 396), (0, k)] h7 (fun _ h9 => Q 0 h9) E) E := by
  have q' := q
  obtain ⟨tf, w, mk, t, k0, k1, hr, s2, c2⟩ := q'
  obtain ⟨-, -, -, yr, -, -, -, -, -, -, -, -, -, -, -, -, -, -, -, dp, -⟩ := w.k k0 k1
  have p0 : ppo L k = 0 := by unfold ppo; simp [e]
  have p1 : ppu L k = 1 := by unfold ppu; simp [e]
  refine t_lay2 hG c2 dp.1 (by omega) fun g s c => ?_
  refine w_on hG q (by omega) (by omega) (by omega) (same_tr s2 s) c (by omega) (gX_ux (fun j hj ne => ?_) ?_) q.lk (fun U => CL0 e) hQ
  · exact q.sl (by unfold vld at hj; unfold rel; omega)
  · have mkk : isMk L (pY L k) := Or.inr (Or.inr (Or.inr (Or.inr (Or.inr (Or.inr ⟨k, k0, k1, Or.inl ⟨Or.inl e, Or.inr (Or.inl rfl)⟩⟩)))))
    exact fgd_n mkk mkk (by omega) (by unfold c32; omega) (by unfold c32; omega) c32_0
theorem g_null {l : Launch} {G : JG} (hG : gO G = true) {h h2 : MH} {L : PG} {k : Int} (q : wrk h L k h2) (e : pOp L k = 1) {Q : Int → MH → Prop} {E : Nat → Int → MH → Prop} (hQ : ∀ h', AdvC L k h h' (fun U => CLz L (tT h L) U k) → Q 0 h') :
    S_X9_lay_2 l G [(2009, 396), (0, 0), (0, 0), (0, 0), (1, 1)] h2 (fun _ h7 => S_X9_flowOn l G [(2009, 396), (0, k)] h7 (fun _ h9 => Q 0 h9) E) E := by
  have q' := q
  obtain ⟨tf, w, mk, t, k0, k1, hr, s2, c2⟩ := q'
  obtain ⟨-, -, -, yr, -, -, -, -, -, -, -, -, -, -, -, -, -, -, -, dp, -⟩ := w.k k0 k1
  have p0 : ppo L k = 0 := by unfold ppo; simp [e]
  have p1 : ppu L k = 1 := by unfold ppu; simp [e]
  refine t_lay2 hG c2 dp.1 (by omega) fun g s c => ?_
  refine w_on hG q (by omega) (by omega) (by omega) (same_tr s2 s) c (by omega) (gX_ux (fun j hj ne => ?_) (fgd_1 _ _)) q.lk (fun U => CL1 e) hQ
  exact q.sl (by unfold vld at hj; unfold rel; omega)
theorem g_load {l : Launch} {G : JG} (hG : gO G = true) {h h2 : MH} {L : PG} {k : Int} (q : wrk h L k h2) (e : pOp L k = 2) {Q : Int → MH → Prop} {E : Nat → Int → MH → Prop} (hQ : ∀ h', AdvC L k h h' (fun U => CLz L (tT h L) U k) → Q 0 h') :
    S_X9_lay_2 l G [(2009, 396), (0, hv h2 499 (pX L k)), (0, hv h2 500 (pX L k)), (0, hv h2 501 (pX L k)), (1, hv h2 502 (pX L k))] h2 (fun _ h7 => S_X9_flowOn l G [(2009, 396), (0, k)] h7 (fun _ h9 => Q 0 h9) E) E := by
  have q' := q
  obtain ⟨tf, w, mk, t, k0, k1, hr, s2, c2⟩ := q'
  obtain ⟨mo, -, xr, yr, xl, -, -, -, -, -, -, -, -, -, -, -, -, -, -, dp, -⟩ := w.k k0 k1
  have p0 : ppo L k = 0 := by unfold ppo; simp [e]
  have p1 : ppu L k = 1 := by unfold ppu; simp [e]
  have xv := c2.1 (pX L k) (Or.inl ⟨xr.1, xl (by omega)⟩)
  refine t_lay2 hG c2 dp.1 (by omega) fun g s c => ?_
  have c' : cur L (pMo L k) g (ux (tT h L 0 k) (8 + pDp L k) (tT h L 0 k (pX L k))) (tT h L 6 k 0) (pDp L k + 1) := by rw [← xv]; exact c
  refine w_on hG q (by omega) (by omega) (by omega) (same_tr s2 s) c' (by omega) (gX_ux (fun j hj ne => ?_) (q.sl (Or.inl ⟨xr.1, xl (by omega)⟩))) q.lk (fun U => CL2 e) hQ
  exact q.sl (by unfold vld at hj; unfold rel; omega)
theorem cur_eq {L : PG} {m : Int} {h : MH} {X Y : Int → FA} {lk : FA} {d : Int} (e : ∀ j, vld L m d j → X j = Y j) (c : cur L m h X lk d) : cur L m h Y lk d := ⟨fun j hj => by rw [c.1 j hj, e j hj], c.2.1, c.2.2⟩
theorem g_store {l : Launch} {G : JG} (hG : gO G = true) {h h2 : MH} {L : PG} {k : Int} (q : wrk h L k h2) (e : pOp L k = 3) {Q : Int → MH → Prop} {E : Nat → Int → MH → Prop} (hQ : ∀ h', AdvC L k h h' (fun U => CLz L (tT h L) U k) → Q 0 h') :
    S_X9_pull_2 l G [(2009, 396)] h2 (fun _ h19 => S_X9_setSlot l G [(2009, 396), (0, pX L k), (0, hv h19 396 64), (0, hv h19 396 65), (0, hv h19 396 66), (1, hv h19 396 67)] h19 (fun _ h21 => S_X9_flowOn l G [(2009, 396), (0, k)] h21 (fun _ h9 => Q 0 h9) E) E) E := by
  have q' := q
  obtain ⟨tf, w, mk, t, k0, k1, hr, s2, c2⟩ := q'
  obtain ⟨mo, -, xr, yr, xl, -, -, -, -, -, -, -, -, -, -, -, -, -, -, dp, -⟩ := w.k k0 k1
  obtain ⟨-, -, -, -, -, -, -, -, -, lc1, -⟩ := w.m mo.1 mo.2.1
  have p0 : ppo L k = 1 := by unfold ppo; simp [e]
  have p1 : ppu L k = 0 := by unfold ppu; simp [e]
  have xl' := xl (by omega)
  refine t_pull hG c2 (by omega) (by omega) fun g s c p _ => ?_
  refine t_setSlot hG (by omega) (by omega) ?_
  have c' := cur_set (k := pX L k) (l := hv g 396 64) (hh := hv g 396 65) (b := hv g 396 66) (s := hv g 396 67) c
  have c'' : cur L (pMo L k) (slt g (pX L k) (hv g 396 64) (hv g 396 65) (hv g 396 66) (hv g 396 67)) (ux (tT h L 0 k) (pX L k) (tT h L 0 k (7 + pDp L k))) (tT h L 6 k 0) (pDp L k - 1) := by rw [← p]; exact c'
  refine w_on hG q (by omega) (by omega) (by omega) (same_tr (same_tr s2 s) (slt_same _ _ _ _ _ _)) c'' (by omega) (gX_ux (fun j hj ne => ?_) (q.st (by omega) (by omega))) q.lk (fun U => CL3 e) hQ
  exact q.sl (vld_up hj (by omega))
theorem g_pop {l : Launch} {G : JG} (hG : gO G = true) {h h2 : MH} {L : PG} {k : Int} (q : wrk h L k h2) (e : pOp L k = 4) {Q : Int → MH → Prop} {E : Nat → Int → MH → Prop} (hQ : ∀ h', AdvC L k h h' (fun U => CLz L (tT h L) U k) → Q 0 h') :
    S_X9_pull_2 l G [(2009, 396)] h2 (fun _ h19 => S_X9_flowOn l G [(2009, 396), (0, k)] h19 (fun _ h9 => Q 0 h9) E) E := by
  have q' := q
  obtain ⟨tf, w, mk, t, k0, k1, hr, s2, c2⟩ := q'
  obtain ⟨mo, -, xr, yr, xl, -, -, -, -, -, -, -, -, -, -, -, -, -, -, dp, -⟩ := w.k k0 k1
  have p0 : ppo L k = 1 := by unfold ppo; simp [e]
  have p1 : ppu L k = 0 := by unfold ppu; simp [e]
  refine t_pull hG c2 (by omega) (by omega) fun g s c p _ => ?_
  exact w_on hG q (by omega) (by omega) (by omega) (same_tr s2 s) c (by omega) (fun j hj => q.sl (vld_up hj (by omega))) q.lk (fun U => CL4 e) hQ
theorem g_dup {l : Launch} {G : JG} (hG : gO G = true) {h h2 : MH} {L : PG} {k : Int} (q : wrk h L k h2) (e : pOp L k = 5) {Q : Int → MH → Prop} {E : Nat → Int → MH → Prop} (hQ : ∀ h', AdvC L k h h' (fun U => CLz L (tT h L) U k) → Q 0 h') :
    S_X9_pull_2 l G [(2009, 396)] h2 (fun _ h29 => S_X9_lay_2 l G [(2009, 396), (0, hv h29 396 64), (0, hv h29 396 65), (0, hv h29 396 66), (1, hv h29 396 67)] h29 (fun _ h31 => S_X9_lay_2 l G [(2009, 396), (0, hv h31 396 64), (0, hv h31 396 65), (0, hv h31 396 66), (1, hv h31 396 67)] h31 (fun _ h33 => S_X9_flowOn l G [(2009, 396), (0, k)] h33 (fun _ h9 => Q 0 h9) E) E) E) E := by
  have q' := q
  obtain ⟨tf, w, mk, t, k0, k1, hr, s2, c2⟩ := q'
  obtain ⟨mo, -, xr, yr, xl, -, -, -, -, -, -, -, -, -, -, -, -, -, -, dp, -⟩ := w.k k0 k1
  have p0 : ppo L k = 1 := by unfold ppo; simp [e]
  have p1 : ppu L k = 2 := by unfold ppu; simp [e]
  refine t_pull hG c2 (by omega) (by omega) fun g s c p _ => ?_
  refine t_lay3 hG c (by omega) (by omega) fun g1 s1 c1 k1' => ?_
  have pg : pld g1 = pld g := by unfold pld; rw [k1' 64 (by omega), k1' 65 (by omega), k1' 66 (by omega), k1' 67 (by omega)]
  refine t_lay2 hG c1 (by omega) (by omega) fun g2 s3 c3 => ?_
  have c4 : cur L (pMo L k) g2 (ux (ux (tT h L 0 k) (7 + pDp L k) (tT h L 0 k (7 + pDp L k))) (8 + pDp L k) (tT h L 0 k (7 + pDp L k))) (tT h L 6 k 0) (pDp L k + 1) := by
    have : pld g1 = tT h L 0 k (7 + pDp L k) := by rw [pg, p]
    rw [show 8 + (pDp L k - 1 + 1) = 8 + pDp L k by omega, show 8 + (pDp L k - 1) = 7 + pDp L k by omega, show pDp L k - 1 + 1 + 1 = pDp L k + 1 by omega] at c3
    rw [show fv (hv g1 396 64) (hv g1 396 65) (hv g1 396 66) (hv g1 396 67) = pld g1 from rfl, this, show fv (hv g 396 64) (hv g 396 65) (hv g 396 66) (hv g 396 67) = pld g from rfl, p] at c3
    exact c3
  have c5 := cur_eq (Y := ux (tT h L 0 k) (8 + pDp L k) (tT h L 0 k (7 + pDp L k))) (fun j hj => by
    unfold ux
    by_cases j8 : j = 8 + pDp L k
    · rw [if_pos j8, if_pos j8]
    · rw [if_neg j8, if_neg j8]
      by_cases j7 : j = 7 + pDp L k
      · rw [if_pos j7, j7]
      · rw [if_neg j7]) c4
  refine w_on hG q (by omega) (by omega) (by omega) (same_tr (same_tr (same_tr s2 s) s1) s3) c5 (by omega) (gX_ux (fun j hj ne => ?_) (q.st (by omega) (by omega))) q.lk (fun U => CL5 e) hQ
  exact q.sl (by unfold vld at hj; unfold rel; omega)
