/-! Part 51g: a place at work in the component -/
/-- HOW THE WORK STANDS: it began at h with the facts of place k; now it is at g, its slots are X, its locks lk, its depth d, and P is brought about -/
def wcf (h g : MH) (L : PG) (k M : Int) (X : Int → FA) (lk : FA) (d : Int) (P : TB → Prop) : Prop :=
  AdK L h g P (fun U => CLz L U U k) ∧ wkC g L k M ∧ ((∀ j, rel L k j → fo g (116 + 2 + j) = cT h L 0 k j) ∧ fk (hv g 116 2) (hv g 116 3) = cT h L 6 k 0) ∧
  ((∀ j, vld L (pMo L k) d j → fo g (80 + 2 + j) = X j) ∧ fk (hv g 80 2) (hv g 80 3) = lk ∧ hv g 3 25 = d ∧ 0 ≤ d ∧ d ≤ 8) ∧ ((∀ j, vld L (pMo L k) d j → fgd L (cT g L) (X j)) ∧ fgd L (cT g L) lk)
section WC
variable {l : Launch} {G : JG} {h g : MH} {L : PG} {k M d : Int} {X : Int → FA} {lk : FA} {P : TB → Prop} {Q : Int → MH → Prop} {E : Nat → Int → MH → Prop}
theorem wstC {g' : MH} {P' A' : TB → Prop} (t : tiv L (cT h L)) (hr : rch (cT h L) k) (a : AdK L h g P (fun U => CLz L U U k)) (up : ∀ U V, tle U V → P U → P V) (b : AdK L g g' P' A') (f : ∀ U, tbok U → CLz L (cT h L) U k → A' U) : AdK L h g' (fun U => P U ∧ P' U) (fun U => CLz L U U k) :=
  AdK_w (AdK_tr a b up) (fun _ p => p) (fun U oU p q => ⟨q, f U oU (CL_dn t hr p q)⟩)
theorem wcf_P {P' : TB → Prop} (c : wcf h g L k M X lk d P) (f : tle (cT h L) (cT g L) → P (cT g L) → P' (cT g L)) : wcf h g L k M X lk d P' := ⟨AdK_w c.1 f (fun _ _ _ q => q), c.2⟩
theorem wcf_X {X' : Int → FA} (c : wcf h g L k M X lk d P) (f : ∀ j, vld L (pMo L k) d j → X j = X' j) : wcf h g L k M X' lk d P := by
  obtain ⟨c1, c2, c3, ⟨c4, c5, c6⟩, c7, c8⟩ := c
  exact ⟨c1, c2, c3, ⟨fun j v => by rw [c4 j v]; exact f j v, c5, c6⟩, fun j v => by rw [← f j v]; exact c7 j v, c8⟩
theorem vld_rng (w : WF L) (hk : inP L k) (hd : 0 ≤ d ∧ d ≤ 8) {j : Int} (v : vld L (pMo L k) d j) : 0 ≤ j ∧ j < 16 := by
  obtain ⟨mk, -⟩ := w.k hk.1 hk.2
  obtain ⟨-, -, -, -, -, -, -, -, -, lc8, -⟩ := w.m mk.1 mk.2.1
  unfold vld at v
  omega
/-- what goes forward leaves what stands, if the work's own room is as it was -/
theorem wcf_go {g' : MH} {P' A' : TB → Prop} (w : WF L) (t : tiv L (cT h L)) (hr : rch (cT h L) k) (up : ∀ U V, tle U V → P U → P V) (c : wcf h g L k M X lk d P) (b : AdK L g g' P' A') (ws : wsk g g') (f : ∀ U, tbok U → CLz L (cT h L) U k → A' U) : wcf h g' L k M X lk d (fun U => P U ∧ P' U) := by
  obtain ⟨c1, c2, c3, ⟨c4, c5, c6, c9⟩, c7, c8⟩ := c
  have hk := c2.1
  refine ⟨wstC t hr c1 up b f, wkC_ws b.1 ws c2, ⟨fun j r => ?_, by rw [ws 116 2 (by omega), ws 116 3 (by omega)]; exact c3.2⟩, ⟨fun j v => ?_, by rw [ws 80 2 (by omega), ws 80 3 (by omega)]; exact c5, by rw [ws 3 25 (by omega)]; exact c6, c9⟩, fun j v => fgd_le b.2.2.2.2.1 (c7 j v), fgd_le b.2.2.2.2.1 c8⟩
  · have rr := rel_rng w hk.1 hk.2 r
    rw [← c3.1 j r]
    exact fo_eq (fun i => ws _ i (by omega))
  · have vr := vld_rng w hk c9 v
    rw [← c4 j v]
    exact fo_eq (fun i => ws _ i (by omega))
/-- steps in the work's own room that leave what stands -/
theorem wcf_sm {g' : MH} (w : WF L) (c : wcf h g L k M X lk d P) (s : smC g g') (e : ∀ b j, b = 3 ∨ (80 ≤ b ∧ b < 98) ∨ (116 ≤ b ∧ b < 134) → hv g' b j = hv g b j) : wcf h g' L k M X lk d P := by
  obtain ⟨c1, c2, c3, ⟨c4, c5, c6, c9⟩, c7, c8⟩ := c
  have eT := smC_ext w c1.2.1.1 s
  have hk := c2.1
  refine ⟨AdK_ms w c1 s, wkC_of (smC_fr s) (fun j _ _ => e 3 j (by omega)) c2, ⟨fun j r => ?_, by rw [e 116 2 (by omega), e 116 3 (by omega)]; exact c3.2⟩, ⟨fun j v => ?_, by rw [e 80 2 (by omega), e 80 3 (by omega)]; exact c5, by rw [e 3 25 (by omega)]; exact c6, c9⟩, fun j v => by rw [eT]; exact c7 j v, by rw [eT]; exact c8⟩
  · have rr := rel_rng w hk.1 hk.2 r
    rw [← c3.1 j r]
    exact fo_eq (fun i => e _ i (by omega))
  · have vr := vld_rng w hk c9 v
    rw [← c4 j v]
    exact fo_eq (fun i => e _ i (by omega))
/-- a fact of the work's own has another content -/
theorem wcf_fw {f : Int} {v : FA} (w : WF L) (hf : (134 ≤ f ∧ f ≤ 137) ∨ (139 ≤ f ∧ f ≤ 142)) (c : wcf h g L k M X lk d P) : wcf h (fw g f v) L k M X lk d P := wcf_sm w c (smC_fw (by omega)) (fun b j hb => fw_ne (by omega))
theorem wcf_st (c : wcf h g L k M X lk d P) : STc g L := c.1.2.1
/-- a slot of the work has another content -/
theorem wcf_slot {s : Int} {v : FA} (w : WF L) (c : wcf h g L k M X lk d P) (s0 : 0 ≤ s) (s1 : s < 16) (va : asu v = 0) (gd : vld L (pMo L k) d s → fgd L (cT g L) v) : wcf h (fw g (80 + 2 + s) v) L k M (ux X s v) lk d P := by
  obtain ⟨c1, c2, c3, ⟨c4, c5, c6, c9⟩, c7, c8⟩ := c
  have sm : smC g (fw g (80 + 2 + s) v) := smC_fw (by omega)
  have eT := smC_ext w c1.2.1.1 sm
  have hk := c2.1
  refine ⟨AdK_ms w c1 sm, wkC_of (smC_fr sm) (fun j _ _ => fw_ne (by omega)) c2, ⟨fun j r => ?_, by rw [fw_ne (by omega), fw_ne (by omega)]; exact c3.2⟩, ⟨fun j v' => ?_, by rw [fw_ne (by omega), fw_ne (by omega)]; exact c5, by rw [fw_ne (by omega)]; exact c6, c9⟩, fun j v' => ?_, by rw [eT]; exact c8⟩
  · have rr := rel_rng w hk.1 hk.2 r
    rw [← c3.1 j r]
    exact fo_ne (by omega)
  · unfold ux
    by_cases e : j = s
    · rw [if_pos e, e, fo_fw0 va]
    · rw [if_neg e, ← c4 j v']
      exact fo_ne (by omega)
  · rw [eT]
    unfold ux
    by_cases e : j = s
    · rw [if_pos e]; exact gd (by rw [← e]; exact v')
    · rw [if_neg e]; exact c7 j v'
/-- the depth is another -/
theorem wcf_d {d' : Int} (w : WF L) (c : wcf h g L k M X lk d P) (d0 : 0 ≤ d') (d1 : d' ≤ d) : wcf h (hset g 3 25 d') L k M X lk d' P := by
  obtain ⟨c1, c2, c3, ⟨c4, c5, c6, c9⟩, c7, c8⟩ := c
  have sm : smC g (hset g 3 25 d') := smC_set (by unfold scw; omega)
  have eT := smC_ext w c1.2.1.1 sm
  have hv' : ∀ j, vld L (pMo L k) d' j → vld L (pMo L k) d j := fun j v => by unfold vld at v ⊢; omega
  refine ⟨AdK_ms w c1 sm, wkC_of (smC_fr sm) (fun j _ _ => ne_k (by omega)) c2, ⟨fun j r => ?_, by rw [ne_a (by omega), ne_a (by omega)]; exact c3.2⟩, ⟨fun j v' => ?_, by rw [ne_a (by omega), ne_a (by omega)]; exact c5, eq_a, d0, by omega⟩, fun j v' => by rw [eT]; exact c7 j (hv' j v'), by rw [eT]; exact c8⟩
  · rw [← c3.1 j r]
    have rr := rel_rng w c2.1.1 c2.1.2 r
    exact fo_eq (fun i => ne_a (by omega))
  · rw [← c4 j (hv' j v')]
    have vr := vld_rng w c2.1 c9 (hv' j v')
    exact fo_eq (fun i => ne_a (by omega))
/-- a value is laid on the stack -/
theorem W_put {f : Int} {v : FA} (hG : gO G = true) (w : WF L) (c : wcf h g L k M X lk d P) (d1 : d < 8) (hf : f ≠ 0) (h3 : f ≠ 3) (ev : fo g f = v) (gd : fgd L (cT g L) v) (hQ : ∀ g', wcf h g' L k M (ux X (8 + d) v) lk (d + 1) P → (∀ b j, b ≠ 80 + 2 + (8 + d) → ¬ (b = 3 ∧ j = 25) → hv g' b j = hv g b j) → Q 0 g') : S_X2_put l G [(2002, 3), (8, f)] g Q E := by
  subst ev
  have c9 := c.2.2.2.1.2.2.2
  refine c_put hG c.1.2.1.1.2.2.2.1.1 c.2.2.2.1.2.2.1 c9.1 d1 hf ?_ h3
  have e90 : (90 + d : Int) = 80 + 2 + (8 + d) := by omega
  rw [e90]
  refine hQ _ ?_ (fun b j hb hb2 => by rw [fw_ne hb, hv_set, if_neg hb2])
  obtain ⟨c1, c2, c3, ⟨c4, c5, c6, -⟩, c7, c8⟩ := c
  have s1 : smC g (hset g 3 25 (d + 1)) := smC_set (by unfold scw; omega)
  have s2 : smC (hset g 3 25 (d + 1)) (fw (hset g 3 25 (d + 1)) (80 + 2 + (8 + d)) (fo g f)) := smC_fw (by omega)
  have sm := smC_tr s1 s2
  have eT := smC_ext w c1.2.1.1 sm
  have hk := c2.1
  refine ⟨AdK_ms w c1 sm, wkC_of (smC_fr sm) (fun j _ _ => by rw [fw_ne (by omega), ne_k (by omega)]) c2, ⟨fun j r => ?_, by rw [fw_ne (by omega), fw_ne (by omega), ne_a (by omega), ne_a (by omega)]; exact c3.2⟩, ⟨fun j v' => ?_, by rw [fw_ne (by omega), fw_ne (by omega), ne_a (by omega), ne_a (by omega)]; exact c5, by rw [fw_ne (by omega), eq_a], by omega, by omega⟩, fun j v' => ?_, by rw [eT]; exact c8⟩
  · have rr := rel_rng w hk.1 hk.2 r
    rw [← c3.1 j r]
    exact fo_eq (fun i => by rw [fw_ne (by omega), ne_a (by omega)])
  · have vr := vld_rng (d := d + 1) w hk (by omega) v'
    unfold ux
    by_cases e : j = 8 + d
    · rw [if_pos e, e, fo_fw0 rfl]
    · rw [if_neg e, ← c4 j (by unfold vld at v' ⊢; omega)]
      exact fo_eq (fun i => by rw [fw_ne (by omega), ne_a (by omega)])
  · rw [eT]
    unfold ux
    by_cases e : j = 8 + d
    · rw [if_pos e]; exact gd
    · rw [if_neg e]; exact c7 j (by unfold vld at v' ⊢; omega)
/-- a value is taken from the stack -/
theorem W_take {f : Int} (hG : gO G = true) (w : WF L) (c : wcf h g L k M X lk d P) (d1 : 1 ≤ d) (hf : (134 ≤ f ∧ f ≤ 137) ∨ (139 ≤ f ∧ f ≤ 142)) (hQ : ∀ g', wcf h g' L k M X lk (d - 1) P → fo g' f = X (7 + d) → fgd L (cT g' L) (X (7 + d)) → (∀ b j, b ≠ 80 + 2 + (7 + d) → b ≠ f → ¬ (b = 3 ∧ j = 25) → hv g' b j = hv g b j) → Q f g') : S_X2_take l G [(2002, 3), (8, f)] g Q E := by
  have c9 := c.2.2.2.1.2.2.2
  have vv : vld L (pMo L k) d (7 + d) := by unfold vld; omega
  have e89 : (89 + d : Int) = 80 + 2 + (7 + d) := by omega
  refine c_take hG c.1.2.1.1.2.2.2.1.1 c.2.2.2.1.2.2.1 d1 c9.2 (by omega) ?_
  rw [e89]
  have gdx := c.2.2.2.2.1 _ vv
  have eX := c.2.2.2.1.1 _ vv
  have w1 := wcf_d w c (show 0 ≤ d - 1 by omega) (by omega)
  have w2 := wcf_fw (f := f) (v := fo g (80 + 2 + (7 + d))) w hf w1
  have nv : ¬ vld L (pMo L k) (d - 1) (7 + d) := by
    obtain ⟨mk, -⟩ := w.k c.2.1.1.1 c.2.1.1.2
    obtain ⟨-, -, -, -, -, -, -, -, -, lc8, -⟩ := w.m mk.1 mk.2.1
    unfold vld
    omega
  have w3 := wcf_slot (s := 7 + d) (v := fz) w w2 (by omega) (by omega) rfl (fun y => absurd y nv)
  have eT : cT (fw (fw (hset g 3 25 (d - 1)) f (fo g (80 + 2 + (7 + d)))) (80 + 2 + (7 + d)) fz) L = cT g L := by
    rw [smC_ext w (wcf_st w2).1 (smC_fw (by omega)), smC_ext w (wcf_st w1).1 (smC_fw (by omega)), smC_ext w (wcf_st c).1 (smC_set (by unfold scw; omega))]
  refine hQ _ (wcf_X w3 (fun j v => ?_)) ?_ (by rw [eT]; exact gdx) (fun b j b1' b2 b3 => by rw [fw_ne b1', fw_ne b2, hv_set, if_neg b3])
  · unfold ux
    rw [if_neg (fun e => nv (by rw [← e]; exact v))]
  · rw [fo_ne (by omega), fo_fw0 rfl]; exact eX
/-- facts go on -/
theorem W_goOn {i : Int} (hG : gO G = true) (w : WF L) (t : tiv L (cT h L)) (hr : rch (cT h L) k) (up : ∀ U V, tle U V → P U → P V) (c : wcf h g L k M X lk d P) (hi : i = nx L k ∨ i = pZ L k) (i0 : 0 ≤ i) (i1 : i < pCo L (pMo L k)) (hv' : ∀ s, rel L (pFi L (pMo L k) + i) s → vld L (pMo L k) d s)
    (f : ∀ U, tbok U → CLz L (cT h L) U k → GT L U k i X lk) (hQ : ∀ g', wcf h g' L k M X lk d (fun U => P U ∧ GT L U k i X lk) → wsk g g' → Q 0 g') : S_X2_goOn l G [(2002, 3), (0, i)] g Q E := by
  obtain ⟨c4, c5, c6, c9⟩ := c.2.2.2.1
  refine K_goOn hG w c.1.2.1 c.2.1 hi i0 i1 (fun s r => by rw [c4 s (hv' s r)]; exact c.2.2.2.2.1 s (hv' s r)) (by rw [c5]; exact c.2.2.2.2.2) fun g' a ws => ?_
  rw [c5] at a
  refine hQ g' (wcf_P (wcf_go w t hr up c a ws (fun U oU q => ⟨(f U oU q).1, Flow_eq (fun s r => (c4 s (hv' s r)).symm) (f U oU q).2⟩)) (fun _ p => ⟨p.1, p.2.1, Flow_eq (fun s r => c4 s (hv' s r)) p.2.2⟩)) ws
/-- facts fall through to the next instruction -/
theorem W_next (hG : gO G = true) (w : WF L) (t : tiv L (cT h L)) (hr : rch (cT h L) k) (up : ∀ U V, tle U V → P U → P V) (c : wcf h g L k M X lk d P) (no : pOp L k ≠ 15 ∧ pOp L k ≠ 31 ∧ pOp L k ≠ 32) (hd : d = pDp L k - ppo L k + ppu L k)
    (f : ∀ U, tbok U → CLz L (cT h L) U k → GT L U k (nx L k) X lk) (hQ : ∀ g', wcf h g' L k M X lk d (fun U => P U ∧ GT L U k (nx L k) X lk) → wsk g g' → Q 0 g') : S_X2_goOn l G [(2002, 3), (0, w32 (hv g 3 17 + 1))] g Q E := by
  obtain ⟨hk, -, -, -, h17⟩ := c.2.1
  have nn := w.n
  unfold WFn at nn
  have hk1 := hk.1
  have hk2 := hk.2
  have wk := w.k hk.1 hk.2
  obtain ⟨mk, -⟩ := wk
  obtain ⟨-, -, -, -, -, -, -, -, -, -, -, -, -, -, -, -, -, -, -, -, nxt⟩ := w.k hk.1 hk.2
  obtain ⟨n1, n2⟩ := nxt no.1 no.2.1 no.2.2
  obtain ⟨-, -, -, -, -, -, -, -, -, -, -, -, -, -, -, -, -, fi0, fi1, fim, -⟩ := w.m mk.1 mk.2.1
  rw [h17, w32_i (by omega) (by omega)]
  have en : k - pFi L (pMo L k) + 1 = nx L k := rfl
  rw [en]
  have eq : pFi L (pMo L k) + nx L k = k + 1 := by unfold nx; omega
  refine W_goOn hG w t hr up c (Or.inl rfl) (by unfold nx; omega) (by unfold nx; omega) (fun s r => ?_) f hQ
  rw [eq] at r
  have mo := fim (nx L k) (by unfold nx; omega) (by unfold nx; omega)
  rw [eq] at mo
  unfold rel at r
  unfold vld
  rw [mo, n2] at r
  omega
/-- sites are thrown -/
theorem W_hurl {x : Int} (hG : gO G = true) (w : WF L) (t : tiv L (cT h L)) (hr : rch (cT h L) k) (up : ∀ U V, tle U V → P U → P V) (c : wcf h g L k M X lk d P) (hx0 : bl x 0 = false) (nz : x ≠ 0) (g1 : fgd L (cT g L) (fs x))
    (f : ∀ U, tbok U → CLz L (cT h L) U k → tsX L k (cT h L 0 k) x (cT h L 6 k 0) U) (hQ : ∀ g', wcf h g' L k M X lk d (fun U => P U ∧ tsX L k (cT h L 0 k) x (cT h L 6 k 0) U) → wsk g g' → Q 0 g') : S_X2_hurl l G [(2002, 3), (1, x)] g Q E := by
  obtain ⟨c3, c3'⟩ := c.2.2.1
  have rl : ∀ j, 0 ≤ j → j < pLc L (pMo L k) → rel L k j := fun j j0 j1 => Or.inl ⟨j0, j1⟩
  refine K_hurl (X := cT h L 0 k) hG w c.1.2.1 c.2.1 (fun j j0 j1 => c3 j (rl j j0 j1)) (fun j j0 j1 => fgd_le c.1.2.2.2.2.1 (tiv_slot t hr (rl j j0 j1))) hx0 nz g1 (by rw [c3']; exact fgd_le c.1.2.2.2.2.1 (tiv_lock t hr)) fun g' a ws => ?_
  rw [c3'] at a
  exact hQ g' (wcf_go w t hr up c a ws f) ws
end WC
