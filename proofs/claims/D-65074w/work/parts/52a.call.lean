/-! Part 52a: methods are called, in the component -/
section CA
variable {l : Launch} {G : JG} {h g : MH} {L : PG} {k M own : Int} {rc : Int → Int} {P0 : TB → Prop} {Q : Int → MH → Prop} {E : Nat → Int → MH → Prop}
theorem w_call (hG : gO G = true) (w : WF L) (t : tiv L (cT h L)) (hr : rch (cT h L) k) (u : usI h L k) (hz : L 99 0 = 1) (e : pOp L k = 29 ∨ pOp L k = 30) (upP : ∀ U V, tle U V → P0 U → P0 V)
    (p0 : ∀ U, P0 U → (pOp L k = 30 → ∀ s, sb (cT h L 0 k (frs L k)) s → (s = 0 → TS L U k (cT h L 0 k) 1 (cT h L 6 k 0)) ∧ (s ≠ 0 → sent L s (pX L k) < 0 → TS L U k (cT h L 0 k) 5 (cT h L 6 k 0))))
    (hQ : ∀ g', WE h g' L k → Q 0 g') {M1 v2 : Int} (c : wcf h g L k M (cT h L 0 k) (cT h L 6 k 0) (pDp L k) P0) (cm1 : CPm g L (lik L k) M1) (eo : own = (if lc v2 (-1) = 0 then 0 else 1 : Int)) (o29 : pOp L k = 29 → own = 0) (o30 : pOp L k = 30 → own = 1) (nocd : v2 = 0 → ∀ c, ¬ CD L (cT h L) k c)
    (hrc : ∀ c, 0 ≤ c → c < pNm L → (rc c ≠ 0 ↔ CD L (cT h L) k c)) (hxo : pOp L k = 30 → ∀ c, 0 ≤ c → c < pNm L → ∀ s, 0 ≤ s → (bl (l_and (ast (cT h L 0 k (frs L k))) (rc c)) s = true ↔ cld L (cT h L 0 k) k s c)) (rcv : ∀ c, hv g 143 c = rc c) : S_X2_call l G [(2002, 3), (18, M1), (1, v2)] g Q E := by
  have nn := w.n
  unfold WFn at nn
  have hk := c.2.1.1
  have hk1 := hk.1
  have hk2 := hk.2
  obtain ⟨mk, -, xr, yr, -, -, -, -, -, -, -, -, -, cy, cw, -, -, -, -, dp, -⟩ := w.k hk.1 hk.2
  have likm : inM L (lik L k) := by
    unfold lik
    rcases e with e | e
    · rw [if_pos e]; exact ⟨(cy e).1, (cy e).2.1⟩
    · rw [if_neg (by omega)]; exact ⟨(cw (by omega)).2, (wnm_ok w (cw (by omega)).2).1⟩
  clear cy cw
  obtain ⟨-, -, -, ar0, ar1, -⟩ := w.m likm.1 likm.2
  have p1 : ppo L k = pAr L (lik L k) := by
    rcases e with e | e
    · unfold ppo; simp [e]
    · unfold ppo; simp [e]
  have fr : frs L k = 8 + pDp L k - pAr L (lik L k) := frs_lik
  have M11 := cm1.1.1
  have dpo := dp.2.2.1
  refine s_X2_call rfl fun K ki => r_X2_call_0 ki hG ⟨by omega, ?_⟩
  rw [cm1.2.1.2.2.2.1, w32_i (by omega) (by omega)]
  -- once the arguments are taken
  have fin : ∀ g1 : MH, CPm g1 L (lik L k) M1 → wcf h g1 L k M (cT h L 0 k) (cT h L 6 k 0) (pDp L k - pAr L (lik L k)) P0 → (∀ j, 0 ≤ j → j < pAr L (lik L k) → fo g1 (139 + j) = cT h L 0 k (frs L k + j)) → (∀ c, hv g1 143 c = rc c) → JW K 8 [(2002, 3), (18, M1), (1, v2), (5000, 0), (0, -1), (5000, 0), (5000, 0), (5000, 0), (5000, 0), (5000, 0), (5000, 0), (5000, 0)] [] g1 := by
    intro g1 cm c1 arg rv
    obtain ⟨-, -, hM, cmm, -⟩ := c1.2.1
    have cm11 := cmm.1.1
    refine r_X2_call_8 ki hG ⟨fun _ => ⟨fun y => ?_, fun y => ?_⟩, fun y => by omega⟩
    · rw [hM, cmm.2.1.1, ((wcf_st c1).1.2.2.2.2.2.2.1 (pMo L k) mk.1 (by omega)).1]
      refine ⟨by omega, mk.1, by omega, fun x4 e4 x5 e5 x6 e6 x7 e7 x8 e8 => ?_⟩
      refine c_none hG ?_
      intro x9 e9
      subst e4 e5 e6 e7 e8 e9
      have sm : smC g1 (fw g1 136 fz) := smC_fw (by omega)
      have eT := smC_ext w (wcf_st c1).1 sm
      have c2 := wcf_fw (f := 136) (v := fz) w (by omega) c1
      have rx : RIx (cT h L) (cT (fw g1 136 fz) L) (fun a c => cT h L a c 0) := RIx_up c2.1.2.2.2.2.1 (RIx_0 t)
      refine w_call_loop (rc := rc) (D := pDp L k - pAr L (lik L k)) hG w t hr u hz e rfl upP p0 hQ eo o29 o30 hrc hxo ki _ 0 _ (fun a c => cT h L a c 0) 0 0 (-1) 0 (Nat.le_refl _) (by decide) (by omega) (frX_m (frC_X (smC_fr sm)) cm) ⟨wcf_P c2 (fun _ p => ⟨p, fun c c0 c1 => by omega⟩), rx, fun c c0 c1 => by omega, cGx_0, fun c => ⟨⟨c15_fbi c, c32_alb (t.1 _ _ _)⟩, (t.2.2.1 7 c 0).1.2⟩, fun _ => ⟨?_, Or.inl (fo_fw0 rfl)⟩, fun j j0 j1 => ?_, fun c => ?_⟩
      · rw [fo_fw0 rfl]
        exact lub_0 (fun c hc => by have := hc.1; have := hc.2.1; omega)
      · rw [fo_ne (by omega)]; exact arg j j0 j1
      · rw [fw_ne (by omega)]; exact rv c
    · rw [lc_z] at y
      have nc := nocd y
      refine hQ g1 (WE_cl w hk t hr u c1.1 (by omega) (fun aw z0 z6 => ⟨?_, fun a i j q => ?_⟩))
      · rw [CL29 e, z0, z6]
        exact ⟨fun s c hs => absurd ⟨s, hs⟩ (nc c), p0 _ c1.1.2.2.2.2.2.1⟩
      · exfalso
        unfold inC at q
        rcases q with ⟨-, -, -, q⟩ | ⟨-, -, q⟩ | q | ⟨-, -, -, s, q⟩
        · rcases q with q | q | q <;> omega
        · rcases q with q | q <;> omega
        · omega
        · rw [z0] at q
          exact nc i ⟨s, q⟩
  have loop : ∀ N : Nat, ∀ j : Int, ∀ g1 : MH, (j + 1).toNat ≤ N → -1 ≤ j → j < pAr L (lik L k) → CPm g1 L (lik L k) M1 → wcf h g1 L k M (cT h L 0 k) (cT h L 6 k 0) (pDp L k - pAr L (lik L k) + (j + 1)) P0 → (∀ i, j < i → i < pAr L (lik L k) → fo g1 (139 + i) = cT h L 0 k (frs L k + i)) → (∀ c, hv g1 143 c = rc c) →
      JW K 8 [(2002, 3), (18, M1), (1, v2), (5000, 0), (0, j), (5000, 0), (5000, 0), (5000, 0), (5000, 0), (5000, 0), (5000, 0), (5000, 0)] [] g1 := by
    intro N
    induction N with
    | zero =>
      intro j g1 n1 n2 n3 cm c1 arg rv
      have ej : j = -1 := by omega
      subst ej
      exact fin g1 cm (by rw [show pDp L k - pAr L (lik L k) + (-1 + 1) = pDp L k - pAr L (lik L k) by omega] at c1; exact c1) (fun i i0 i1 => arg i (by omega) i1) rv
    | succ N ih =>
      intro j g1 n1 n2 n3 cm c1 arg rv
      by_cases ej : j = -1
      · subst ej
        exact fin g1 cm (by rw [show pDp L k - pAr L (lik L k) + (-1 + 1) = pDp L k - pAr L (lik L k) by omega] at c1; exact c1) (fun i i0 i1 => arg i (by omega) i1) rv
      refine r_X2_call_8 ki hG ⟨fun y => by omega, fun _ => ⟨by omega, by omega, ?_⟩⟩
      rw [(wcf_st c1).1.2.2.2.2.2.2.2.2.2 j (by omega) (by omega)]
      refine W_take hG w c1 (by omega) (Or.inr ⟨by omega, by omega⟩) fun g2 c2 f2 gd2 fr2 x4 e4 => ?_
      rw [w32_i (by omega) (by omega)] at e4
      subst e4
      have f22 : frC g1 g2 := ⟨(c2.1.1.1).trans (c1.1.1.1).symm, fun b i p1 _ => fr2 b i (fun z => p1 (by unfold wlo; omega)) (fun z => p1 (by unfold wlo; omega)) (fun z => p1 (by unfold wlo; omega))⟩
      rw [show pDp L k - pAr L (lik L k) + (j + 1) - 1 = pDp L k - pAr L (lik L k) + (j + -1 + 1) by omega] at c2
      refine ih (j + -1) g2 (by omega) (by omega) (by omega) (frX_m (frC_X f22) cm) c2 (fun i i0 i1 => ?_) (fun c => by rw [fr2 143 c (by omega) (by omega) (by omega)]; exact rv c)
      by_cases z : i = j
      · rw [z, f2, fr]
        congr 1
        omega
      · rw [← arg i (by omega) i1]
        exact fo_eq (fun q => fr2 _ q (by omega) (by omega) (by omega))
  intro x4 e4
  subst e4
  exact loop _ _ g (Nat.le_refl _) (by omega) (by omega) cm1 (by rw [show pDp L k - pAr L (lik L k) + (pAr L (lik L k) - 1 + 1) = pDp L k by omega]; exact c) (fun i i0 i1 => by omega) rcv
end CA
