/-! Part 38y: a place is gone on from -/
set_option maxRecDepth 100000
theorem t_goOn {l : Launch} {G : JG} (hG : gO G = true) {h : MH} {L : PG} {k : Int} (hz : ¬ L 99 0 = 1) (tf : TF h L) (w : WF L) (mk : MK h L) (t : tiv L (tT h L)) (cg : cgt h L) (k0 : 0 ≤ k) (k1 : k < pNp L) (hr : hv h 460 k = 1) {Q : Int → MH → Prop} {E : Nat → Int → MH → Prop}
    (hQ : ∀ h', AdvG L k h h' (fun U => CLz L (tT h L) U k) → (23 ≤ pOp L k → pOp L k ≤ 26 → ∀ s, 0 ≤ s → (bl (hv h' 471 k) s = true ↔ usd L (tT h L) k s)) → Q 0 h') : S_X9_goOn l G [(2009, 396), (0, k)] h (fun _ h' => Q 0 h') E := by
  have nn := w.n
  unfold WFn at nn
  obtain ⟨mo, ops, xr, yr, x2, x7, x5, x47, xc, xa, xs, y19, y25, cy, cw, c36, yz, jz, si, dp, nxt⟩ := w.k k0 k1
  obtain ⟨-, -, -, -, -, -, -, -, arl, lc1, -⟩ := w.m mo.1 mo.2.1
  have mo1 := mo.1
  have mo2 := mo.2.1
  refine Sem_hyp fun H ok => ?_
  have o := ok _ List.mem_cons_self
  have c498 : c32 (hv h 498 (pMo L k)) := okf_i (tw_ok H hG o 56 (off := 102) (n := 40) (t := 100) (e := 0) (by decide) (by decide) (by decide) (by decide) (by decide) mo1 (by omega))
  refine s_X9_goOn rfl fun K ki => r_X9_goOn_0 ki hG ?_
  refine t_takeFacts hG tf w k0 k1 hr fun h2 s2 c2 _ => ?_
  have q : wrk h L k h2 := ⟨tf, w, mk, t, k0, k1, hr, s2, c2⟩
  have tf2 := frA_TF s2.1 tf
  have hC : ¬ (23 ≤ pOp L k ∧ pOp L k ≤ 26) → ∀ h', AdvC L k h h' (fun U => CLz L (tT h L) U k) → Q 0 h' := fun n h' a => hQ h' a.g (fun a b => absurd ⟨a, b⟩ n)
  have tm : ∀ a j, 458 ≤ a → a ≤ 498 → hv h2 a j = hv h a j := s2.2.1
  have slx : ∀ j, rel L k j → hv h2 502 j = ast (tT h L 0 k j) := by
    intro j rj
    have := c2.1 j rj
    rw [← this]; rfl
  have sk := tiv_sok t w 0 k (pX L k)
  refine ⟨tf2.ne, k0, by omega, ?_⟩
  intro xx ex
  rw [tf2.x] at ex
  subst ex
  refine ⟨tf2.ne, k0, by omega, ?_⟩
  intro xy ey
  rw [tf2.y] at ey
  subst ey
  refine ⟨tf2.ne, k0, by omega, ?_⟩
  intro xm em
  rw [tf2.mo] at em
  subst em
  refine ⟨tf2.ne, k0, by omega, ?_⟩
  rw [tf2.op]
  refine ⟨⟨fun e => ?_, fun e => ?_, fun e => ?_, fun e => ?_, fun e => ?_, fun e => ?_, fun e => ?_, fun e => ?_, fun e => ?_, fun e => ?_, fun e => ?_, fun e => ?_, fun e => ?_, fun e => ?_, fun e => ?_, fun e => ?_, fun e => ?_, fun e => ?_, fun e => ?_, fun e => ?_, fun e => ?_, fun e => ?_, fun e => ?_, fun e => ?_, fun e => ?_, fun e => ?_, fun e => ?_, fun e => ?_, fun e => ?_, fun e => ?_, fun e => ?_, fun e => ?_, fun e => ?_, fun e => ?_, fun e => ?_, fun e => ?_, fun e => ?_, trivial⟩, fun z => by omega⟩
  · exact g_push hG q (by omega) (hC (by omega))
  · exact g_null hG q (by omega) (hC (by omega))
  · have := x2 (by omega)
    exact ⟨by omega, by omega, by omega, by omega, by omega, by omega, by omega, by omega, g_load hG q (by omega) (hC (by omega))⟩
  · exact g_store hG q (by omega) (hC (by omega))
  · exact g_pop hG q (by omega) (hC (by omega))
  · exact g_dup hG q (by omega) (hC (by omega))
  · exact g_swap hG q (by omega) (hC (by omega))
  · exact ⟨tf2.ne, k0, by omega, g_num hG q (by omega) (hC (by omega))⟩
  · exact ⟨tf2.ne, k0, by omega, g_num hG q (by omega) (hC (by omega))⟩
  · exact ⟨tf2.ne, k0, by omega, g_num hG q (by omega) (hC (by omega))⟩
  · have pp : ppo L k = 2 := by unfold ppo; rw [if_neg (by omega), if_pos (by omega)]
    have gd := g_div (l := l) (E := E) hG q (by omega) (hC (by omega))
    rw [c2.2.2, w32_i (z := 8 + pDp L k) (by omega) (by omega), w32_i (z := 8 + pDp L k - 1) (by omega) (by omega)] at gd ⊢
    exact ⟨by omega, by omega, fun _ => ⟨by omega, by omega⟩, fun x7 e7 => ⟨tf2.ne, k0, by omega, gd x7 e7⟩⟩
  · have pp : ppo L k = 2 := by unfold ppo; rw [if_neg (by omega), if_pos (by omega)]
    have gd := g_div (l := l) (E := E) hG q (by omega) (hC (by omega))
    rw [c2.2.2, w32_i (z := 8 + pDp L k) (by omega) (by omega), w32_i (z := 8 + pDp L k - 1) (by omega) (by omega)] at gd ⊢
    exact ⟨by omega, by omega, fun _ => ⟨by omega, by omega⟩, fun x7 e7 => ⟨tf2.ne, k0, by omega, gd x7 e7⟩⟩
  · exact ⟨tf2.ne, k0, by omega, g_neg hG q (by omega) (hC (by omega))⟩
  · rw [tf2.z]
    exact ⟨tf2.ne, k0, by omega, g_input hG q (by omega) (hC (by omega))⟩
  · have z484 : hv h 484 (pX L k) = 0 ∨ hv h 484 (pX L k) = 1 := okf_z (tw_ok H hG o 42 (off := 88) (n := 8) (t := 102) (e := 2) (by decide) (by decide) (by decide) (by decide) (by decide) xr.1 (by have := x7 (by omega); omega))
    rw [← tm 484 (pX L k) (by omega) (by omega)] at z484
    exact g_output hG q (by omega) z484 (hC (by omega))
  · rw [tf2.z]
    exact ⟨tf2.ne, k0, by omega, g_goto hG q (by omega) (hC (by omega))⟩
  · exact g_if hG q (by omega) (hC (by omega))
  · exact ⟨by decide, by decide, g_ifl hG q (by omega) (hC (by omega))⟩
  · have xl := x2 (by omega)
    refine ⟨by omega, by omega, ?_⟩
    intro x15 e15
    rw [slx (pX L k) (Or.inl ⟨by omega, by omega⟩)] at e15
    refine ⟨tf2.ne, k0, by omega, fun y => absurd (by omega) y, fun _ x17 e17 => ?_⟩
    refine g_part hG q (Or.inl (by omega)) (C := fun s => s = 0) (fun T U => CL18 (by omega)) e15 (by rw [e17]; exact c64_l_and _ _) (fun s s0 s1 => ?_) (hC (by omega))
    rw [e17, bl_and, bl_one s0]
    simp
  · have xl := x2 (by omega)
    refine ⟨by omega, by omega, ?_⟩
    intro x15 e15
    rw [slx (pX L k) (Or.inl ⟨by omega, by omega⟩)] at e15
    refine ⟨tf2.ne, k0, by omega, fun _ => ?_, fun y => absurd y (by omega)⟩
    refine t_of hG tf2 w (by rw [e15]; exact sk) ?_
    intro z132 fl x17 e17
    refine g_part hG q (Or.inr (by omega)) (C := fun s => s ≠ 0 ∧ isOf L s (pY L k) = true) (fun T U => CL19 (by omega)) e15 (by rw [e17]; exact fl.1) (fun s s0 s1 => ?_) (hC (by omega))
    rw [e17, fl.2 s s0]
    have s63 : bl x15 s = true → s < 63 := fun y => by
      rw [e15] at y
      have := sk.2 s s0 y
      omega
    simp
    constructor
    · rintro ⟨⟨y1, y2⟩, y3⟩; exact ⟨y2, by omega, y3⟩
    · rintro ⟨y1, y2, y3⟩; exact ⟨⟨⟨by omega, s63 y1⟩, y1⟩, y3⟩
  · rw [tf2.si]
    exact ⟨tf2.ne, k0, by omega, g_new hG q cg (by omega) (hC (by omega))⟩
  · exact t_array hG q cg (by omega) (hC (by omega))
  · exact t_inArray hG q (by omega) (fun h' a b => hQ h' a (fun y _ => by omega))
  · exact t_inArray hG q (by omega) (fun h' a b => hQ h' a (fun _ _ => b (by omega)))
  · exact t_inArray hG q (by omega) (fun h' a b => hQ h' a (fun _ _ => b (by omega)))
  · exact t_field hG q (by omega) (fun h' a b => hQ h' a (fun _ _ => b))
  · exact t_field hG q (by omega) (fun h' a b => hQ h' a (fun _ _ => b))
  · have := xs (by omega)
    exact ⟨by omega, by omega, by omega, by omega, by omega, by omega, by omega, by omega, g_static hG q (by omega) (hC (by omega))⟩
  · have x8 := xs (by omega)
    have c482 : c32 (hv h 482 (pX L k)) := okf_i (tw_ok H hG o 40 (off := 86) (n := 8) (t := 100) (e := 0) (by decide) (by decide) (by decide) (by decide) (by decide) xr.1 (by omega))
    have c483 : c64 (hv h 483 (pX L k)) := okf_l (tw_ok H hG o 41 (off := 87) (n := 8) (t := 101) (e := 1) (by decide) (by decide) (by decide) (by decide) (by decide) xr.1 (by omega))
    rw [← tm 482 (pX L k) (by omega) (by omega)] at c482
    rw [← tm 483 (pX L k) (by omega) (by omega)] at c483
    exact g_setst hG q (by omega) c482 c483 (hC (by omega))
  · exact t_call hG hz q (by omega) (hC (by omega))
  · exact t_call hG hz q (by omega) (hC (by omega))
  · exact t_giveBack hG q cg (by omega) (hC (by omega))
  · exact g_throw hG q (by omega) (hC (by omega))
  · exact g_cast hG q (by omega) (hC (by omega))
  · exact g_lock hG q (by omega) (hC (by omega))
  · refine ⟨mo1, by omega, g_unlock hG q (by omega) ?_ (hC (by omega))⟩
    rw [tm 498 (pMo L k) (by omega) (by omega)]; exact c498
  · exact t_call hG hz q (by omega) (hC (by omega))
