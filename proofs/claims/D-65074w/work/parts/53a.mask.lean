/-! Part 53a: facts of references have no span (plain) -/
def nsp (f : FA) : Prop := ath f ≠ 0 → alo f = 0 ∧ ahi f = 0 ∧ alb f = 0
def msk (f : FA) : FA := if ath f ≠ 0 ∧ alo f ≤ 0 ∧ 0 ≤ ahi f then (1, 0, 0, 0, ast f, asu f) else fz
/-- entries of references -/
def rfe (L : PG) (a i j : Int) : Prop := (a = 0 ∧ inP L i ∧ rel L i j ∧ kd L i j = 1) ∨ (a = 1 ∧ inS L i ∧ 0 ≤ j ∧ j < nfs L i ∧ knd L i j = 1) ∨ (a = 3 ∧ 0 ≤ i ∧ i < pNs L ∧ j = 0 ∧ pSk L i = 1) ∨ (a = 5 ∧ inM L i ∧ j = 0 ∧ pGi L i = 2)
noncomputable def mkT (L : PG) (T : TB) : TB := fun a i j => @ite FA (rfe L a i j) (Classical.propDecidable _) (msk (T a i j)) (T a i j)
section MSK
variable {L : PG} {T : TB} {a i j k : Int} {f g v : FA}
theorem mkT_p (h : rfe L a i j) : mkT L T a i j = msk (T a i j) := if_pos h
theorem mkT_n (h : ¬ rfe L a i j) : mkT L T a i j = T a i j := if_neg h
theorem mkT_o (h : a ≠ 0 ∧ a ≠ 1 ∧ a ≠ 3 ∧ a ≠ 5) : mkT L T a i j = T a i j := mkT_n (fun z => by unfold rfe at z; omega)
theorem nsp_fz : nsp fz := fun h => absurd rfl h
theorem nsp_fs (s : Int) : nsp (fs s) := fun _ => ⟨rfl, rfl, rfl⟩
theorem nsp_b1 (s : Int) : nsp (b1 s) := fun _ => ⟨rfl, rfl, rfl⟩
theorem nsp_f1 (kk : Int) : nsp (f1st kk) := by
  unfold f1st
  split
  · exact nsp_fs 1
  · exact fun _ => ⟨rfl, rfl, rfl⟩
theorem nsp_msk (f : FA) : nsp (msk f) := by
  unfold msk
  split
  · exact fun _ => ⟨rfl, rfl, rfl⟩
  · exact nsp_fz
theorem nsp_rs {s : Int} (h : nsp f) : nsp (rs f s) := by
  unfold rs
  split
  · exact nsp_fz
  · rename_i z
    exact fun _ => h z
theorem msk_le (f : FA) : fle (msk f) f := by
  unfold msk
  split
  · rename_i z
    exact fun _ => ⟨z.1, z.2.1, z.2.2, (fun s q => by change bi 0 s = true at q; rw [bi_zero] at q; cases q), fun s q => q, fun s q => q⟩
  · exact fle_fz _
theorem msk_ok (o : fok f) : fok (msk f) := by
  unfold msk
  split
  · rename_i z
    rcases o with o | ⟨-, -, -, -, o5, o6⟩
    · rw [o] at z; exact absurd rfl z.1
    · exact Or.inr ⟨rfl, (by unfold c32; change -2147483648 ≤ (0 : Int) ∧ (0 : Int) ≤ 2147483647; omega), ⟨(by unfold c32; change -2147483648 ≤ (0 : Int) ∧ (0 : Int) ≤ 2147483647; omega), Int.le_refl _⟩, (by unfold c32; change -2147483648 ≤ (0 : Int) ∧ (0 : Int) ≤ 2147483647; omega), o5, o6⟩
  · exact Or.inl rfl
/-- what has no span and is below is below what is masked -/
theorem le_msk (p : fle v f) (n : nsp v) : fle v (msk f) := by
  intro h
  obtain ⟨p1, p2, p3, p4, p5, p6⟩ := p h
  obtain ⟨n1, n2, n3⟩ := n h
  unfold msk
  rw [if_pos ⟨p1, by omega, by omega⟩]
  refine ⟨(by decide : (1 : Int) ≠ 0), by rw [n1]; exact Int.le_refl _, by rw [n2]; exact Int.le_refl _, fun s q => ?_, p5, p6⟩
  rw [n3, bi_zero] at q; cases q
theorem le_mkT (p : fle v (T a i j)) (n : rfe L a i j → nsp v) : fle v (mkT L T a i j) := by
  by_cases h : rfe L a i j
  · rw [mkT_p h]; exact le_msk p (n h)
  · rw [mkT_n h]; exact p
theorem mkT_le (L : PG) (T : TB) : tle (mkT L T) T := fun a i j => by
  by_cases h : rfe L a i j
  · rw [mkT_p h]; exact msk_le _
  · rw [mkT_n h]; exact fle_rfl _
theorem mkT_ok (o : tbok T) : tbok (mkT L T) := fun a i j => by
  by_cases h : rfe L a i j
  · rw [mkT_p h]; exact msk_ok (o a i j)
  · rw [mkT_n h]; exact o a i j
theorem mkT_ns (h : rfe L a i j) : nsp (mkT L T a i j) := by rw [mkT_p h]; exact nsp_msk _
theorem mk_Flow {q : Int} {Y : Int → FA} {lk : FA} (hq : inP L q) (f : Flow L T q Y lk) (n : ∀ s, rel L q s → kd L q s = 1 → nsp (Y s)) : Flow L (mkT L T) q Y lk :=
  ⟨fun s r => le_mkT (f.1 s r) (fun z => n s r (by unfold rfe at z; rcases z with z | z | z | z; exact z.2.2.2; exact absurd z.1 (by decide); exact absurd z.1 (by decide); exact absurd z.1 (by decide))), by rw [mkT_o (by decide)]; exact f.2⟩
theorem mk_GT {q : Int} {Y : Int → FA} {lk : FA} (hq : inP L (pFi L (pMo L k) + q)) (f : GT L T k q Y lk) (n : ∀ s, rel L (pFi L (pMo L k) + q) s → kd L (pFi L (pMo L k) + q) s = 1 → nsp (Y s)) : GT L (mkT L T) k q Y lk :=
  ⟨by rw [mkT_o (by decide)]; exact f.1, mk_Flow hq f.2 n⟩
theorem lc_8 (w : WF L) (hk : inP L k) : pLc L (pMo L k) ≤ 8 := by
  obtain ⟨mo, -⟩ := w.k hk.1 hk.2
  exact (w.m mo.1 mo.2.1).2.2.2.2.2.2.2.2.2.1
/-- onward to a place of the method whose kinds are known -/
theorem mk_GT2 {q : Int} {Y : Int → FA} {lk : FA} (w : WF L) (hk : inP L k) (hq : inP L (pFi L (pMo L k) + q)) (mq : pMo L (pFi L (pMo L k) + q) = pMo L k) (f : GT L T k q Y lk) (nl : ∀ s, 0 ≤ s → s < pLc L (pMo L k) → pLk L (pMo L k) s = 1 → nsp (Y s)) (ns : ∀ i, 0 ≤ i → i < pDp L (pFi L (pMo L k) + q) → skd L (pFi L (pMo L k) + q) i = 1 → nsp (Y (8 + i))) : GT L (mkT L T) k q Y lk := by
  refine mk_GT hq f (fun s r kk => ?_)
  have lc := lc_8 w hk
  unfold rel at r
  rw [mq] at r
  rcases r with r | r
  · rw [kd_l (by omega), mq] at kk
    exact nl s r.1 r.2 kk
  · rw [kd_s r.1] at kk
    have := ns (s - 8) (by omega) (by omega) kk
    rw [show 8 + (s - 8) = s by omega] at this
    exact this
theorem mk_TS {Y : Int → FA} {s : Int} {lk : FA} (w : WF L) (hk : inP L k) (f : TS L T k Y s lk) (nl : ∀ s, 0 ≤ s → s < pLc L (pMo L k) → pLk L (pMo L k) s = 1 → nsp (Y s)) : TS L (mkT L T) k Y s lk := by
  obtain ⟨f1, f2, f3⟩ := f
  refine ⟨by rw [mkT_o (by decide)]; exact f1, fun z => by rw [mkT_o (by decide), mkT_o (by decide)]; exact f2 z, fun z => ?_⟩
  have lc := lc_8 w hk
  obtain ⟨mo, -⟩ := w.k hk.1 hk.2
  have hl := hnd_lt w hk.1 hk.2 z
  obtain ⟨-, -, -, -, -, -, -, -, -, -, -, -, -, -, -, -, -, fi0, fi1, fim, -, hd⟩ := w.m mo.1 mo.2.1
  obtain ⟨h0, h1, h2, h3, h4, h5, h6, h7⟩ := hd _ z hl
  have mq := fim _ h3 h4
  refine mk_Flow ⟨by omega, by omega⟩ (f3 z) (fun x r kk => ?_)
  unfold rel at r
  rw [mq, h7] at r
  unfold ux
  by_cases e : x = 8
  · rw [if_pos e]; exact nsp_b1 _
  · rw [if_neg e]
    have r' : 0 ≤ x ∧ x < pLc L (pMo L k) := by omega
    rw [kd_l (by omega), mq] at kk
    exact nl x r'.1 r'.2 kk
theorem knd_of (w : WF L) {s x y : Int} (s0 : 1 ≤ s) (s1 : s < pNt L) (x0 : 0 ≤ x) (x1 : x < 24) (y0 : 0 ≤ y) (y1 : y < pFc L x) (h : isOf L s x = true) : inS L s ∧ y < nfs L s ∧ knd L s y = pFk L x y := by
  obtain ⟨o1, o2, o3⟩ := of_fld w s0 s1 x0 x1 y0 y1 h
  refine ⟨⟨o1, s1⟩, o3, ?_⟩
  have x8 : 8 ≤ x := by
    by_cases c : x < 8
    · have := w.c.2.2.2.1 x x0 c; omega
    · omega
  have scr := w.sc s0 s1
  have nneg : ¬ pSc L s < 0 := by omega
  have bb : blw L 30 (pSc L s) x = true := by
    unfold isOf at h
    rw [if_neg nneg] at h
    exact h
  have b := blw_ge w 30 (pSc L s) x (by omega) (by omega) x8 bb
  unfold knd
  rw [if_neg nneg]
  exact b.2.2 y y0 y1
end MSK
