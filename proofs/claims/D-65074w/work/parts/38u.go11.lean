/-! Part 38u: a method is entered -/
set_option maxRecDepth 100000
/-- arguments as they stand, the first one with some sites -/
def enw (L : PG) (X : Int → FA) (fr own c : Int) : Int → FA := fun j => if j < pAr L c then (if j = 0 ∧ own ≠ 0 then fv (alo (X fr)) (ahi (X fr)) (alb (X fr)) own else X (fr + j)) else f1st (pLk L c j)
theorem t_enter {l : Launch} {G : JG} (hG : gO G = true) {h : MH} {L : PG} (tf : TF h L) (w : WF L) (t : tiv L (tT h L)) {k c fr own su pe : Int} (k0 : 0 ≤ k) (k1 : k < pNp L) (hr : hv h 460 k = 1) (hc : inM L c) (ef : fr = 8 + pDp L k - pAr L c) (ar : pAr L c ≤ pDp L k)
    (co : c64 own) (os : ∀ s, 0 ≤ s → bl own s = true → bl (ast (tT h L 0 k fr)) s = true) (hsu : c32 su) (hs8 : su8 su) (hpe : c32 pe) {Q : Int → MH → Prop} {E : Nat → Int → MH → Prop}
    (hQ : ∀ h', Adv L h h' (fun U => Flow L U (pFi L c) (enw L (tT h L 0 k) fr own c) (fk su pe)) (fun U => Flow L U (pFi L c) (enw L (tT h L 0 k) fr own c) (fk su pe)) → hv h' 396 72 = hv h 396 72 → Q 0 h') :
    S_X9_enter l G [(2009, 396), (0, k), (0, c), (0, fr), (1, own), (0, su), (0, pe)] h Q E := by
  have nn := w.n
  unfold WFn at nn
  have hc1 := hc.1
  have hc2 := hc.2
  obtain ⟨mo, -, -, -, -, -, -, -, -, -, -, -, -, -, -, -, -, -, -, dp, -⟩ := w.k k0 k1
  obtain ⟨-, -, -, ar0, ar1, -, -, -, arl, lc1, lk, -, -, -, -, co0, co1, fi0, fi1, pm, dp0, -⟩ := w.m hc1 hc2
  have mof : pMo L (pFi L c) = c := by have := pm 0 (by omega) (by omega); rw [Int.add_zero] at this; exact this
  have rr : rch (tT h L) k := (rch_iff ⟨k0, k1⟩).mpr hr
  have rel0 : ∀ j, rel L (pFi L c) j ↔ 0 ≤ j ∧ j < pLc L c := by
    intro j; unfold rel; rw [mof, dp0]; omega
  have relk : ∀ j, 0 ≤ j → j < pAr L c → rel L k (fr + j) := fun j j0 j1 => Or.inr ⟨by omega, by omega⟩
  have rowT : ∀ j, 0 ≤ j → j < pAr L c → row h (16 * k + (fr + j)) = tT h L 0 k (fr + j) := by
    intro j j0 j1
    show _ = t0 h L k (fr + j)
    unfold t0
    rw [iff_p ⟨⟨k0, k1⟩, hr, relk j j0 j1⟩]
  refine s_X9_enter rfl fun K ki => r_X9_enter_0 ki hG ?_
  intro n0 en0
  have key : ∀ N : Nat, ∀ n : Int, ∀ g : MH, (8 - n).toNat ≤ N → 0 ≤ n → n ≤ 8 → same h g → (∀ j, 0 ≤ j → j < n → j < pLc L c → cX g j = enw L (tT h L 0 k) fr own c j) → hv g 396 72 = hv h 396 72 →
      JW K 3 [(2009, 396), (0, k), (0, c), (0, fr), (1, own), (5000, 0), (0, su), (0, pe), (0, n), (5000, 0), (5000, 0), (5000, 0)] [] g := by
    have fin : ∀ g : MH, same h g → (∀ j, 0 ≤ j → j < 8 → j < pLc L c → cX g j = enw L (tT h L 0 k) fr own c j) → hv g 396 72 = hv h 396 72 → ∀ n : Int, n = 8 →
        JW K 3 [(2009, 396), (0, k), (0, c), (0, fr), (1, own), (5000, 0), (0, su), (0, pe), (0, n), (5000, 0), (5000, 0), (5000, 0)] [] g := by
      intro g sg cg h72 n en
      refine r_X9_enter_3 ki hG ⟨fun _ => ?_, fun z => by omega⟩
      intro g1 e1 g2 e2
      have s2 : same h g2 := by rw [e2, e1]; exact same_tr (same_tr sg (same_set (by omega))) (same_set (by omega))
      have tf2 := frA_TF s2.1 tf
      refine ⟨tf2.ne, hc1, by omega, ?_⟩
      rw [tf2.fi]
      have lk2 : lkc_ g2 = fk su pe := by
        have v62 : hv g2 396 62 = su := by rw [e2, ne_k (show (62 : Int) ≠ 63 by decide), e1, eq_a]
        have v63 : hv g2 396 63 = pe := by rw [e2, eq_a]
        show fk (hv g2 396 62) (hv g2 396 63) = _
        rw [v62, v63]
      have cx2 : ∀ j, rel L (pFi L c) j → cX g2 j = enw L (tT h L 0 k) fr own c j := by
        intro j rj
        have rj' := (rel0 j).mp rj
        rw [← cg j rj'.1 (by omega) rj'.2]
        unfold cX
        rw [e2, ne_a (by decide), ne_a (by decide), ne_a (by decide), ne_a (by decide), e1, ne_a (by decide), ne_a (by decide), ne_a (by decide), ne_a (by decide)]
      have T2 : tT g2 L = tT h L := same_T s2
      refine t_joinTo hG tf2 w fi0 (by omega) fun g4 j4 => ?_
      have gX : ∀ j, rel L (pFi L c) j → fgd L (tT g2 L) (cX g2 j) := by
        intro j rj
        have rj' := (rel0 j).mp rj
        rw [cx2 j rj, T2]
        unfold enw
        by_cases z : j < pAr L c
        · rw [if_pos z]
          have gs := tiv_slot t rr (relk j rj'.1 z)
          by_cases z2 : j = 0 ∧ own ≠ 0
          · rw [if_pos z2]
            rw [z2.1, Int.add_zero] at gs
            have ts : ath (tT h L 0 k fr) ≠ 0 := by rw [gs.2.2.2]; decide
            obtain ⟨-, fa, fb', fc, fd, -⟩ := fok_there gs.1 ts
            exact ⟨fok_fv fa fb' fc fd co, fun s s0 y => gs.2.1 s s0 (os s s0 y), ⟨⟨gs.2.2.1.1.1, su8_0⟩, gs.2.2.1.2⟩, rfl⟩
          · rw [if_neg z2]; exact gs
        · rw [if_neg z]; exact fgd_f1 L _ _
      have aj := Adv_join (q := pFi L c) ⟨fi0, by omega⟩ (by rw [T2]; exact t) j4 gX (by rw [lk2]; exact fgd_fk hsu hs8 hpe)
      have a2 := Adv_tr (same_Adv s2 t) aj (fun _ _ _ z => z)
      refine hQ g4 (Adv_w a2 (fun _ p => Flow_eq cx2 (by have := p.2; rw [lk2] at this; exact this)) (fun U _ _ p => ⟨trivial, Flow_eq (fun j rj => (cx2 j rj).symm) (by rw [lk2]; exact p)⟩)) ?_
      rw [j4.2.2.1 396 72 (by omega) (by omega), e2, ne_k (by decide), e1, ne_k (by decide)]; exact h72
    intro N
    induction N with
    | zero => intro n g n1 n2 n3 sg cg h72; exact fin g sg (fun j j0 j1 j2 => cg j j0 (by omega) j2) h72 n (by omega)
    | succ N ih =>
      intro n g n1 n2 n3 sg cg h72
      by_cases n8 : n = 8
      · exact fin g sg (fun j j0 j1 j2 => cg j j0 (by omega) j2) h72 n n8
      · have tg := frA_TF sg.1 tf
        refine r_X9_enter_3 ki hG ⟨fun z => by omega, fun _ => ⟨tg.ne, hc1, by omega, ?_⟩⟩
        rw [tg.ar, tg.lc]
        intro x9 e9
        refine ⟨tg.ne, hc1, by omega, fun _ => ⟨tg.ne, by rw [w32_i (z := 8 * c) (by omega) (by omega), w32_i (by omega) (by omega)]; omega⟩, ?_⟩
        rw [w32_i (z := 8 * c) (by omega) (by omega), w32_i (z := 8 * c + n) (by omega) (by omega), tg.at 10 _ (by omega) (by omega)]
        intro x10 e10 x11 e11
        rw [w32_i (z := 16 * k) (by omega) (by omega), w32_i (z := 16 * k + fr) (by omega) (by omega), w32_i (by omega) (by omega)] at e11
        have nxt : ∀ a b cc d : Int, (n < pLc L c → fv a b cc d = enw L (tT h L 0 k) fr own c n) → ∀ x8 : Int, x8 = w32 (n + 1) →
            JW K 3 [(2009, 396), (0, k), (0, c), (0, fr), (1, own), (5000, 0), (0, su), (0, pe), (0, x8), (5000, 0), (5000, 0), (5000, 0)] [] (slt g n a b cc d) := by
          intro a b cc d ev x8 e8
          rw [w32_i (by omega) (by omega)] at e8
          subst e8
          refine ih _ _ (by omega) (by omega) (by omega) (same_tr sg (slt_same _ _ _ _ _ _)) (fun j j0 j1 j2 => ?_) (by rw [slt_396]; exact h72)
          rw [slt_cX]
          unfold ux
          by_cases jn : j = n
          · rw [if_pos jn, jn]; exact ev (by omega)
          · rw [if_neg jn]; exact cg j j0 (by omega) j2
        refine ⟨fun z => ?_, fun z => ?_⟩
        · have na : n < pAr L c := by
            by_cases y : n < pAr L c
            · exact y
            · rw [if_neg y] at e9; omega
          refine ⟨by omega, by omega, by omega, by omega, by omega, by omega, fun _ => ⟨by omega, by omega⟩, fun _ _ => ⟨by omega, by omega⟩, ?_⟩
          refine t_setSlot hG (by omega) (by omega) (nxt _ _ _ _ (fun _ => ?_))
          have rT := rowT n (by omega) na
          rw [show 16 * k + (fr + n) = x11 by omega] at rT
          have r1 : hv g 461 x11 = alo (tT h L 0 k (fr + n)) := by rw [sg.2.1 461 _ (by omega) (by omega), ← rT]; rfl
          have r2 : hv g 462 x11 = ahi (tT h L 0 k (fr + n)) := by rw [sg.2.1 462 _ (by omega) (by omega), ← rT]; rfl
          have r3 : hv g 463 x11 = alb (tT h L 0 k (fr + n)) := by rw [sg.2.1 463 _ (by omega) (by omega), ← rT]; rfl
          have r4 : hv g 464 x11 = ast (tT h L 0 k (fr + n)) := by rw [sg.2.1 464 _ (by omega) (by omega), ← rT]; rfl
          have fx : tT h L 0 k (fr + n) = fv (alo (tT h L 0 k (fr + n))) (ahi (tT h L 0 k (fr + n))) (alb (tT h L 0 k (fr + n))) (ast (tT h L 0 k (fr + n))) := by rw [← rT]; rfl
          rw [r1, r2, r3, r4]
          unfold enw
          rw [if_pos na]
          simp only [lc_eq]
          by_cases n0 : n = 0
          · subst n0
            by_cases o0 : own = 0
            · rw [if_pos rfl, if_pos o0, if_neg (fun y => y.2 o0)]; exact fx.symm
            · rw [if_pos rfl, if_neg o0, if_pos ⟨rfl, o0⟩, Int.add_zero]
          · rw [if_neg n0, if_neg (fun y => n0 y.1)]; exact fx.symm
        · have na : ¬ n < pAr L c := by
            intro y
            rw [if_pos y] at e9; omega
          refine t_setSlot hG (by omega) (by omega) (nxt _ _ _ _ (fun nl => ?_))
          unfold enw
          rw [if_neg na, f1_fv, e10, if_pos nl]
          congr 1
          by_cases y : L 10 (8 * c + n) = 1
          · rw [if_pos y, if_neg (by decide)]
          · rw [if_neg y, if_pos rfl]
  subst en0
  exact key _ 0 h (Nat.le_refl _) (by omega) (by omega) (same_rfl h) (fun j j0 j1 => by omega) rfl
