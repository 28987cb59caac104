/-! Part 39g: the machine's steps: objects, arrays, fields, statics, throws (plain) -/
set_option maxRecDepth 100000
def mkA (A : MA) (s n : Int) : MA := fun a j => if a = 396 ∧ j = 91 then nob A + 1 else if a = 515 ∧ j = nob A then s else if a = 516 ∧ j = nob A then n else if a = 517 ∧ 100 * nob A ≤ j ∧ j < 100 * nob A + 100 then 0 else A a j
theorem mk_ne {A : MA} {s n a j : Int} (h1 : ¬ (a = 396 ∧ j = 91)) (h2 : ¬ ((a = 515 ∨ a = 516) ∧ j = nob A)) (h3 : ¬ (a = 517 ∧ 100 * nob A ≤ j ∧ j < 100 * nob A + 100)) : mkA A s n a j = A a j := by
  unfold mkA
  rw [if_neg h1, if_neg (by omega), if_neg (by omega), if_neg h3]
theorem mk_f (A : MA) (s n t : Int) : fA (mkA A s n) t = fA A t := by unfold fA; rw [mk_ne (by omega) (by omega) (by omega)]
theorem mk_drop (A : MA) (s n t m : Int) : mkA (dropA A t m) s n = dropA (mkA A s n) t m := by
  funext a j
  have hn : nob (dropA A t m) = nob A := by unfold nob; rw [drop_v, if_neg (by omega)]
  rw [drop_v, mk_f, mk_ne (A := A) (by omega) (by omega) (by omega)]
  unfold mkA
  rw [hn]
  by_cases c1 : a = 396 ∧ j = 91
  · rw [if_pos c1, if_neg (by omega), if_pos c1]
  rw [if_neg c1]
  by_cases c2 : a = 515 ∧ j = nob A
  · rw [if_pos c2, if_neg (by omega), if_neg c1, if_pos c2]
  rw [if_neg c2]
  by_cases c3 : a = 516 ∧ j = nob A
  · rw [if_pos c3, if_neg (by omega), if_neg c1, if_neg c2, if_pos c3]
  rw [if_neg c3]
  by_cases c4 : a = 517 ∧ 100 * nob A ≤ j ∧ j < 100 * nob A + 100
  · rw [if_pos c4, if_neg (by omega), if_neg c1, if_neg c2, if_neg c3, if_pos c4]
  rw [if_neg c4, if_neg c1, if_neg c2, if_neg c3, if_neg c4, drop_v]
/-- an object is made at a place -/
theorem mk_ok {L : PG} {T : TB} {A : MA} {t k n : Int} (g : wkg L T A t k) (lt : nob A < 400) {s : Int} (hs : inS L s) (hf : ∀ f, 0 ≤ f → f < nfs L s → fle (f1st (knd L s f)) (T 1 s f)) (hl : pSc L s < 0 → 0 ≤ n ∧ n ≤ 100 ∧ inN (T 2 s 0) n) : wkg L T (mkA A s n) t k ∧ inR (mkA A s n) (b1 s) (nob A + 7) ∧ grw A (mkA A s n) := by
  have b0 := g.2.1.2.1.1
  have h := s_make (A' := mkA A s n) g.1.1 g.2.1 lt (n := n) hs hf hl (fun a j p q r => mk_ne p q r) (by unfold mkA; rw [if_pos ⟨rfl, rfl⟩]) (by unfold mkA; rw [if_neg (by omega), if_pos ⟨rfl, rfl⟩]) (by unfold mkA; rw [if_neg (by omega), if_neg (by omega), if_pos ⟨rfl, rfl⟩]) (fun j j0 j1 => by unfold mkA; rw [if_neg (by omega), if_neg (by omega), if_neg (by omega), if_pos ⟨rfl, by omega, by omega⟩])
  obtain ⟨ct, I, t0, t1, lv, ek⟩ := g
  have e9 : mkA A s n 509 t = A 509 t := mk_ne (by omega) (by omega) (by omega)
  have s7 := hs.1
  have s63 : s < 63 := by
    have nn := ct.1.n
    unfold WFn at nn
    have := hs.2
    omega
  refine ⟨⟨ct, h.1, t0, by unfold bgn; rw [mk_ne (by omega) (by omega) (by omega)]; exact t1, by rw [mk_ne (by omega) (by omega) (by omega)]; exact lv, by rw [e9, mk_ne (by omega) (by omega) (by omega)]; exact ek⟩, ?_, ?_⟩
  · have := inR_b1 h.2.2 (by rw [h.2.1]; omega) (by rw [h.2.1]; exact s63)
    rw [h.2.1] at this
    exact this
  · refine ⟨?_, fun o o0 o1 => mk_ne (by omega) (by omega) (by omega)⟩
    have : nob (mkA A s n) = nob A + 1 := by unfold nob mkA; rw [if_pos ⟨rfl, rfl⟩]; rfl
    omega
theorem d_20 {L : PG} {T : TB} {A : MA} {t k : Int} (g : wkg L T A t k) (e : pOp L k = 20) (lt : nob A < 400) : INV L T (lieA (mkA A (pSi L k) 0) t (nob A + 7)) := by
  have d := g.d
  have nn := g.1.1.n
  unfold WFn at nn
  have dk := g.1.1.k g.tp.1.1.1 g.tp.1.1.2
  have si := dk.2.2.2.2.2.2.2.2.2.2.2.2.2.2.2.2.2.2.1 (Or.inl e)
  have xr := dk.2.2.1
  rw [if_pos e] at si
  have wt := g.1.2.1.1 k g.tp.1.1
  obtain ⟨w0, -, -, -, -, -, -, -, -, -, -, -, -, -, u1, -⟩ := wt
  obtain ⟨n1, n2, n3, n4⟩ := nxt_ok g.1.1 g.tp.1.1 (by omega) (by omega) (by omega)
  have po : ppo L k = 0 := by unfold ppo; rw [if_neg (by omega), if_neg (by omega), if_neg (by omega), if_neg (by omega), if_neg (by omega)]
  have pu : ppu L k = 1 := by unfold ppu; rw [if_pos (by omega)]
  rw [po] at w0 u1
  have c20 := (CL20 e).mp g.c
  have hf : ∀ f, 0 ≤ f → f < nfs L (pSi L k) → fle (f1st (knd L (pSi L k) f)) (T 1 (pSi L k) f) := by
    intro f f0 f1
    unfold nfs at f1
    rw [if_neg (by omega), si.2.2] at f1
    unfold knd
    rw [if_neg (by omega), si.2.2]
    exact c20.1 f f0 f1
  obtain ⟨g1, ir, -⟩ := mk_ok (n := 0) g lt (s := pSi L k) ⟨si.1, si.2.1⟩ hf (fun y => by omega)
  have := d_lay g1 (by omega) (by omega) (by omega) (n := 0) (v := nob A + 7) (by omega) (by omega) (by omega) (w0 (by omega) (by omega) (by omega)) (by rw [Int.sub_zero]; exact c20.2) (by rw [u1 (by omega), gm_r rfl]; exact ir)
  rw [drop_0] at this
  exact this
theorem d_21 {L : PG} {T : TB} {A : MA} {t k : Int} (g : wkg L T A t k) (e : pOp L k = 21) (lt : nob A < 400) (a0 : 0 ≤ topA A t 0) (a1 : topA A t 0 ≤ 100) : INV L T (lieA (mkA (dropA A t 1) (pSi L k) (topA A t 0)) t (nob A + 7)) := by
  have d := g.d
  have dk := g.1.1.k g.tp.1.1.1 g.tp.1.1.2
  have si := dk.2.2.2.2.2.2.2.2.2.2.2.2.2.2.2.2.2.2.1 (Or.inr e)
  have xr := dk.2.2.1
  rw [if_neg (by omega)] at si
  have wt := g.1.2.1.1 k g.tp.1.1
  obtain ⟨w0, -, -, p12, -, -, -, -, -, -, -, -, -, -, u1, -⟩ := wt
  obtain ⟨n1, n2, n3, n4⟩ := nxt_ok g.1.1 g.tp.1.1 (by omega) (by omega) (by omega)
  have po : ppo L k = 1 := by unfold ppo; rw [if_pos (by omega)]
  have pu : ppu L k = 1 := by unfold ppu; rw [if_pos (by omega)]
  rw [po] at w0 u1
  have hb := g.top (i := 0) (by omega) (by omega)
  rw [show pDp L k - 1 - 0 = pDp L k - 1 by omega, p12 (by omega), gm_n (by decide), show 7 + pDp L k - 0 = 7 + pDp L k by omega] at hb
  have c21 := ((CL21 e).mp g.c hb.1).1 ⟨by have := hb.2.2; omega, by have := hb.2.1; omega⟩
  have hl : inN (T 2 (pSi L k) 0) (topA A t 0) := inN_le c21.2.1 ⟨(by decide : (1 : Int) ≠ 0), (by show max 0 (alo (T 0 k (7 + pDp L k))) ≤ topA A t 0; have := hb.2.1; omega), (by show topA A t 0 ≤ min 100 (ahi (T 0 k (7 + pDp L k))); have := hb.2.2; omega)⟩
  have hf : ∀ f, 0 ≤ f → f < nfs L (pSi L k) → fle (f1st (knd L (pSi L k) f)) (T 1 (pSi L k) f) := by
    intro f f0 f1
    unfold nfs at f1
    rw [if_pos (by omega)] at f1
    unfold knd
    rw [if_pos (by omega), si.2.2, show f = 0 by omega, show -1 - (-1 - pX L k) = pX L k by omega]
    exact c21.1
  obtain ⟨g1, ir, -⟩ := mk_ok (n := topA A t 0) g lt (s := pSi L k) ⟨si.1, si.2.1⟩ hf (fun _ => ⟨a0, a1, hl⟩)
  rw [mk_drop]
  refine d_lay g1 (by omega) (by omega) (by omega) (n := 1) (v := nob A + 7) (by omega) (by omega) (by omega) (w0 (by omega) (by omega) (by omega)) ?_ (by rw [u1 (by omega), gm_r rfl]; exact ir)
  rw [show 8 + (pDp L k - 1) = 7 + pDp L k by omega]
  exact c21.2.2
/-- of an object that is an array -/
theorem ar_ok {L : PG} {T : TB} {A : MA} (w : WF L) (I : INV L T A) {v : Int} (h : oref A v) (z : v ≠ 0) (sc : pSc L (sit A v) < 0) : 7 ≤ v ∧ 0 ≤ v - 7 ∧ v - 7 < nob A ∧ sit A v = A 515 (v - 7) ∧ 0 ≤ A 516 (v - 7) ∧ A 516 (v - 7) ≤ 100 ∧ inN (T 2 (sit A v) 0) (A 516 (v - 7)) ∧ ∀ i, 0 ≤ i → i < A 516 (v - 7) → gm A (-1 - pSc L (sit A v)) (T 1 (sit A v) 0) (A 517 (100 * (v - 7) + i)) := by
  have h0 := h.1
  have h1 := h.2
  have v7 : 7 ≤ v := by
    apply Classical.byContradiction
    intro c
    have e : sit A v = v := by unfold sit; rw [if_pos (by omega)]
    rw [e] at sc
    have := w.s.1 v (by omega) (by omega)
    omega
  have e : sit A v = A 515 (v - 7) := by unfold sit; rw [if_neg (by omega)]
  have q := I.2.1.2.2 (v - 7) (by omega) (by omega)
  rw [← e] at q
  have q3 := q.2.2 sc
  refine ⟨v7, by omega, by omega, e, q3.1, q3.2.1, q3.2.2, fun i i0 i1 => ?_⟩
  have := q.2.1 i i0 (by rw [if_pos sc]; exact i1)
  rw [if_pos sc] at this
  unfold knd at this
  rw [if_pos sc] at this
  exact this
theorem d_22 {L : PG} {T : TB} {A : MA} {t k : Int} (g : wkg L T A t k) (e : pOp L k = 22) (nz : topA A t 0 ≠ 0) (sc : pSc L (sit A (topA A t 0)) < 0) : INV L T (lieA (dropA A t 1) t (A 516 (topA A t 0 - 7))) := by
  have d := g.d
  have wt := g.1.2.1.1 k g.tp.1.1
  obtain ⟨w0, -, -, -, -, -, p22, -, -, -, -, -, -, u0, -⟩ := wt
  obtain ⟨n1, n2, n3, n4⟩ := nxt_ok g.1.1 g.tp.1.1 (by omega) (by omega) (by omega)
  have po : ppo L k = 1 := by unfold ppo; rw [if_pos (by omega)]
  have pu : ppu L k = 1 := by unfold ppu; rw [if_pos (by omega)]
  rw [po] at w0 u0
  have hb := g.top (i := 0) (by omega) (by omega)
  rw [show pDp L k - 1 - 0 = pDp L k - 1 by omega, p22 (by omega), gm_r rfl, show 7 + pDp L k - 0 = 7 + pDp L k by omega] at hb
  have so := sit_ok g.1.1 g.2.1 hb.2.1
  have ar := ar_ok g.1.1 g.2.1 hb.2.1 nz sc
  have c22 := (((CL22 e).mp g.c) _ (inR_sb g.1.1 g.2.1 hb)).2.2 (fun y => nz (so.2.2.2.1.mp y)) sc ar.2.2.2.2.2.2.1.1
  rw [show 7 + pDp L k = 8 + (pDp L k - 1) by omega] at c22
  refine d_lay g (by omega) (by omega) (by omega) (n := 1) (by omega) (by omega) (by omega) (w0 (by omega) (by omega) (by omega)) c22 ?_
  rw [u0 (by omega), gm_n (by decide)]
  exact ar.2.2.2.2.2.2.1
theorem d_23 {L : PG} {T : TB} {A : MA} {t k : Int} (g : wkg L T A t k) (e : pOp L k = 23) (nz : topA A t 1 ≠ 0) (sc : pSc L (sit A (topA A t 1)) = -1 - pX L k) (i0 : 0 ≤ topA A t 0) (i1 : topA A t 0 < A 516 (topA A t 1 - 7)) : INV L T (lieA (dropA A t 2) t (A 517 (100 * (topA A t 1 - 7) + topA A t 0))) := by
  have d := g.d
  have xr := (g.1.1.k g.tp.1.1.1 g.tp.1.1.2).2.2.1
  have wt := g.1.2.1.1 k g.tp.1.1
  obtain ⟨w0, -, -, -, -, -, -, p23, -, -, -, -, -, -, -⟩ := wt
  obtain ⟨n1, n2, n3, n4⟩ := nxt_ok g.1.1 g.tp.1.1 (by omega) (by omega) (by omega)
  have po : ppo L k = 2 := by unfold ppo; rw [if_neg (by omega), if_pos (by omega)]
  have pu : ppu L k = 1 := by unfold ppu; rw [if_pos (by omega)]
  rw [po] at w0
  have p := p23 e
  have hi := g.top (i := 0) (by omega) (by omega)
  have hb := g.top (i := 1) (by omega) (by omega)
  rw [show pDp L k - 1 - 0 = pDp L k - 1 by omega, p.1, gm_n (by decide), show 7 + pDp L k - 0 = 7 + pDp L k by omega] at hi
  rw [show pDp L k - 1 - 1 = pDp L k - 2 by omega, p.2.1, gm_r rfl, show 7 + pDp L k - 1 = 6 + pDp L k by omega] at hb
  have so := sit_ok g.1.1 g.2.1 hb.2.1
  have ar := ar_ok g.1.1 g.2.1 hb.2.1 nz (by omega)
  have l2 := ar.2.2.2.2.2.2.1
  have c23 := ((((CL23 e).mp g.c) _ (inR_sb g.1.1 g.2.1 hb)).2.2 (fun y => nz (so.2.2.2.1.mp y)) sc l2.1 hi.1).2 ⟨by have := hi.2.2; omega, by have := hi.2.1; have := l2.2.2; omega⟩
  rw [show 6 + pDp L k = 8 + (pDp L k - 2) by omega] at c23
  refine d_lay g (by omega) (by omega) (by omega) (n := 2) (by omega) (by omega) (by omega) (w0 (by omega) (by omega) (by omega)) c23 ?_
  have q := ar.2.2.2.2.2.2.2 _ i0 i1
  rw [sc, show -1 - (-1 - pX L k) = pX L k by omega] at q
  rw [p.2.2]
  exact q
/-- a thread stays at work when what it works with stays -/
theorem wkg_eq {L : PG} {T : TB} {A A' : MA} {t k : Int} (g : wkg L T A t k) (I : INV L T A') (e : ∀ a j, (508 ≤ a ∧ a ≤ 514 ∧ a ≠ 510) ∨ (a = 396 ∧ j = 83) → A' a j = A a j) : wkg L T A' t k := by
  obtain ⟨ct, -, t0, t1, lv, ek⟩ := g
  exact ⟨ct, I, t0, by unfold bgn; rw [e _ _ (by omega)]; exact t1, by rw [e _ _ (by omega)]; exact lv, by rw [e 509 t (by omega), e _ _ (by omega)]; exact ek⟩
theorem d_24 {L : PG} {T : TB} {A : MA} {t k : Int} (g : wkg L T A t k) (e : pOp L k = 24) (nz : topA A t 2 ≠ 0) (sc : pSc L (sit A (topA A t 2)) = -1 - pX L k) (i0 : 0 ≤ topA A t 1) (i1 : topA A t 1 < A 516 (topA A t 2 - 7)) : INV L T (stepA (dropA (mset A 517 (100 * (topA A t 2 - 7) + topA A t 1) (topA A t 0)) t 3) t) := by
  have d := g.d
  have xr := (g.1.1.k g.tp.1.1.1 g.tp.1.1.2).2.2.1
  have wt := g.1.2.1.1 k g.tp.1.1
  obtain ⟨w0, -, -, -, -, -, -, -, p24, -⟩ := wt
  obtain ⟨n1, n2, n3, n4⟩ := nxt_ok g.1.1 g.tp.1.1 (by omega) (by omega) (by omega)
  have po : ppo L k = 3 := by unfold ppo; rw [if_neg (by omega), if_neg (by omega), if_pos e]
  have pu : ppu L k = 0 := by unfold ppu; rw [if_neg (by omega), if_neg (by omega), if_neg (by omega)]
  rw [po] at w0
  have p := p24 e
  have hv' := g.top (i := 0) (by omega) (by omega)
  have hi := g.top (i := 1) (by omega) (by omega)
  have hb := g.top (i := 2) (by omega) (by omega)
  rw [show pDp L k - 1 - 0 = pDp L k - 1 by omega, p.1, show 7 + pDp L k - 0 = 7 + pDp L k by omega] at hv'
  rw [show pDp L k - 1 - 1 = pDp L k - 2 by omega, p.2.1, gm_n (by decide), show 7 + pDp L k - 1 = 6 + pDp L k by omega] at hi
  rw [show pDp L k - 1 - 2 = pDp L k - 3 by omega, p.2.2, gm_r rfl, show 7 + pDp L k - 2 = 5 + pDp L k by omega] at hb
  have so := sit_ok g.1.1 g.2.1 hb.2.1
  have ar := ar_ok g.1.1 g.2.1 hb.2.1 nz (by omega)
  have l2 := ar.2.2.2.2.2.2.1
  have c24 := ((((CL24 e).mp g.c) _ (inR_sb g.1.1 g.2.1 hb)).2.2 (fun y => nz (so.2.2.2.1.mp y)) sc l2.1 hi.1).2 ⟨by have := hi.2.2; omega, by have := hi.2.1; have := l2.2.2; omega⟩
  have I1 : INV L T (mset A 517 (100 * (topA A t 2 - 7) + topA A t 1) (topA A t 0)) := by
    refine s_cell g.1.1 g.2.1 (o := topA A t 2 - 7) (i := topA A t 1) (v := topA A t 0) ar.2.1 ar.2.2.1 i0 ?_ ?_ (fun a j q => m_ne q) m_eq
    · rw [← ar.2.2.2.1, if_pos (by omega)]; exact i1
    · rw [← ar.2.2.2.1, if_pos (by omega)]
      unfold knd
      rw [if_pos (by omega), sc, show -1 - (-1 - pX L k) = pX L k by omega]
      exact gm_le c24.1 hv'
  have g1 := wkg_eq g I1 (fun a j q => m_ne (by omega))
  exact d_drop g1 (by omega) (by omega) (by omega) (by omega) (by omega) (w0 (by omega) (by omega) (by omega)) c24.2
/-- of an object of a class with such a field -/
theorem fl_ok {L : PG} {T : TB} {A : MA} (w : WF L) (I : INV L T A) {v x y : Int} (h : oref A v) (z : v ≠ 0) (x0 : 0 ≤ x) (x1 : x < 24) (y0 : 0 ≤ y) (y1 : y < pFc L x) (hof : isOf L (sit A v) x = true) : 7 ≤ v ∧ 0 ≤ v - 7 ∧ v - 7 < nob A ∧ sit A v = A 515 (v - 7) ∧ ¬ pSc L (sit A v) < 0 ∧ y < pFc L (pSc L (sit A v)) ∧ knd L (sit A v) y = pFk L x y ∧ gm A (pFk L x y) (T 1 (sit A v) y) (A 517 (100 * (v - 7) + y)) := by
  have h0 := h.1
  have h1 := h.2
  have so := sit_ok w I h
  have s1 : 1 ≤ sit A v := by
    have : sit A v ≠ 0 := fun q => z (so.2.2.2.1.mp q)
    omega
  have of' := of_fld w s1 so.2.1 x0 x1 y0 y1 hof
  have x8 : 8 ≤ x := by
    by_cases c : x < 8
    · have := w.c.2.2.2.1 x x0 c; omega
    · omega
  have scr := w.sc s1 so.2.1
  have nneg : ¬ pSc L (sit A v) < 0 := by have := of'.2.1; omega
  have bb : blw L 30 (pSc L (sit A v)) x = true := by
    unfold isOf at hof
    rw [if_neg nneg] at hof
    exact hof
  have b := blw_ge w 30 (pSc L (sit A v)) x (by omega) (by omega) x8 bb
  have v7 : 7 ≤ v := by
    apply Classical.byContradiction
    intro c
    have e : sit A v = v := by unfold sit; rw [if_pos (by omega)]
    have := of'.1
    omega
  have e : sit A v = A 515 (v - 7) := by unfold sit; rw [if_neg (by omega)]
  have q := I.2.1.2.2 (v - 7) (by omega) (by omega)
  rw [← e] at q
  have yc : y < pFc L (pSc L (sit A v)) := by have := b.2.1; omega
  have kk : knd L (sit A v) y = pFk L x y := by
    unfold knd
    rw [if_neg nneg]
    exact b.2.2 y y0 y1
  refine ⟨v7, by omega, by omega, e, nneg, yc, kk, ?_⟩
  have := q.2.1 y y0 (by rw [if_neg nneg]; exact yc)
  rw [if_neg nneg, kk] at this
  exact this
theorem d_25 {L : PG} {T : TB} {A : MA} {t k : Int} (g : wkg L T A t k) (e : pOp L k = 25) (nz : topA A t 0 ≠ 0) (hof : isOf L (sit A (topA A t 0)) (pX L k) = true) : INV L T (lieA (dropA A t 1) t (A 517 (100 * (topA A t 0 - 7) + pY L k))) := by
  have d := g.d
  have nn := g.1.1.n
  unfold WFn at nn
  have dk := g.1.1.k g.tp.1.1.1 g.tp.1.1.2
  have xr := dk.2.2.1
  have xc := dk.2.2.2.2.2.2.2.2.1 (by omega)
  have y25 := dk.2.2.2.2.2.2.2.2.2.2.2.2.1 (Or.inl e)
  have wt := g.1.2.1.1 k g.tp.1.1
  obtain ⟨w0, -, -, -, -, -, p22, -, -, -, -, -, -, -, -, -, -, -, u25, -⟩ := wt
  obtain ⟨n1, n2, n3, n4⟩ := nxt_ok g.1.1 g.tp.1.1 (by omega) (by omega) (by omega)
  have po : ppo L k = 1 := by unfold ppo; rw [if_pos (by omega)]
  have pu : ppu L k = 1 := by unfold ppu; rw [if_pos (by omega)]
  rw [po] at w0
  have hb := g.top (i := 0) (by omega) (by omega)
  rw [show pDp L k - 1 - 0 = pDp L k - 1 by omega, p22 (by omega), gm_r rfl, show 7 + pDp L k - 0 = 7 + pDp L k by omega] at hb
  have so := sit_ok g.1.1 g.2.1 hb.2.1
  have fo := fl_ok g.1.1 g.2.1 hb.2.1 nz xr.1 (by omega) y25.1 y25.2 hof
  have c25 := (((CL25 e).mp g.c) _ (inR_sb g.1.1 g.2.1 hb)).2.2 (fun y => nz (so.2.2.2.1.mp y)) hof
  rw [show 7 + pDp L k = 8 + (pDp L k - 1) by omega] at c25
  refine d_lay g (by omega) (by omega) (by omega) (n := 1) (by omega) (by omega) (by omega) (w0 (by omega) (by omega) (by omega)) c25 ?_
  rw [u25 e]
  exact fo.2.2.2.2.2.2.2
theorem d_26 {L : PG} {T : TB} {A : MA} {t k : Int} (g : wkg L T A t k) (e : pOp L k = 26) (nz : topA A t 1 ≠ 0) (hof : isOf L (sit A (topA A t 1)) (pX L k) = true) : INV L T (stepA (dropA (mset A 517 (100 * (topA A t 1 - 7) + pY L k) (topA A t 0)) t 2) t) := by
  have d := g.d
  have nn := g.1.1.n
  unfold WFn at nn
  have dk := g.1.1.k g.tp.1.1.1 g.tp.1.1.2
  have xr := dk.2.2.1
  have xc := dk.2.2.2.2.2.2.2.2.1 (by omega)
  have y25 := dk.2.2.2.2.2.2.2.2.2.2.2.2.1 (Or.inr e)
  have wt := g.1.2.1.1 k g.tp.1.1
  obtain ⟨w0, -, -, -, -, -, -, -, -, p26, -⟩ := wt
  obtain ⟨n1, n2, n3, n4⟩ := nxt_ok g.1.1 g.tp.1.1 (by omega) (by omega) (by omega)
  have po : ppo L k = 2 := by unfold ppo; rw [if_neg (by omega), if_pos (by omega)]
  have pu : ppu L k = 0 := by unfold ppu; rw [if_neg (by omega), if_neg (by omega), if_neg (by omega)]
  rw [po] at w0
  have p := p26 e
  have hv' := g.top (i := 0) (by omega) (by omega)
  have hb := g.top (i := 1) (by omega) (by omega)
  rw [show pDp L k - 1 - 0 = pDp L k - 1 by omega, p.1, show 7 + pDp L k - 0 = 7 + pDp L k by omega] at hv'
  rw [show pDp L k - 1 - 1 = pDp L k - 2 by omega, p.2, gm_r rfl, show 7 + pDp L k - 1 = 6 + pDp L k by omega] at hb
  have so := sit_ok g.1.1 g.2.1 hb.2.1
  have fo := fl_ok g.1.1 g.2.1 hb.2.1 nz xr.1 (by omega) y25.1 y25.2 hof
  have c26 := (((CL26 e).mp g.c) _ (inR_sb g.1.1 g.2.1 hb)).2.2 (fun y => nz (so.2.2.2.1.mp y)) hof
  have I1 : INV L T (mset A 517 (100 * (topA A t 1 - 7) + pY L k) (topA A t 0)) := by
    refine s_cell g.1.1 g.2.1 (o := topA A t 1 - 7) (i := pY L k) (v := topA A t 0) fo.2.1 fo.2.2.1 y25.1 ?_ ?_ (fun a j q => m_ne q) m_eq
    · rw [← fo.2.2.2.1, if_neg fo.2.2.2.2.1]; exact fo.2.2.2.2.2.1
    · rw [← fo.2.2.2.1, if_neg fo.2.2.2.2.1, fo.2.2.2.2.2.2.1]
      exact gm_le c26.1 hv'
  have g1 := wkg_eq g I1 (fun a j q => m_ne (by omega))
  exact d_drop g1 (by omega) (by omega) (by omega) (by omega) (by omega) (w0 (by omega) (by omega) (by omega)) c26.2
theorem d_27 {L : PG} {T : TB} {A : MA} {t k : Int} (g : wkg L T A t k) (e : pOp L k = 27) : INV L T (lieA A t (A 521 (pX L k))) := by
  have d := g.d
  have dk := g.1.1.k g.tp.1.1.1 g.tp.1.1.2
  have xr := dk.2.2.1
  have xs := dk.2.2.2.2.2.2.2.2.2.2.1 (Or.inl e)
  have wt := g.1.2.1.1 k g.tp.1.1
  obtain ⟨w0, -, -, -, -, -, -, -, -, -, -, -, -, -, -, -, -, -, -, u27, -⟩ := wt
  obtain ⟨n1, n2, n3, n4⟩ := nxt_ok g.1.1 g.tp.1.1 (by omega) (by omega) (by omega)
  have po : ppo L k = 0 := by unfold ppo; rw [if_neg (by omega), if_neg (by omega), if_neg (by omega), if_neg (by omega), if_neg (by omega)]
  have pu : ppu L k = 1 := by unfold ppu; rw [if_pos (by omega)]
  rw [po] at w0
  have := d_lay g (by omega) (by omega) (by omega) (n := 0) (v := A 521 (pX L k)) (by omega) (by omega) (by omega) (w0 (by omega) (by omega) (by omega)) (by rw [Int.sub_zero]; exact (CL27 e).mp g.c) (by
    rw [Int.sub_zero, u27 e]
    exact g.2.1.2.2.1 _ xr.1 xs)
  rw [drop_0] at this
  exact this
theorem d_28 {L : PG} {T : TB} {A : MA} {t k : Int} (g : wkg L T A t k) (e : pOp L k = 28) : INV L T (stepA (dropA (mset A 521 (pX L k) (topA A t 0)) t 1) t) := by
  have d := g.d
  have dk := g.1.1.k g.tp.1.1.1 g.tp.1.1.2
  have xr := dk.2.2.1
  have xs := dk.2.2.2.2.2.2.2.2.2.2.1 (Or.inr e)
  have wt := g.1.2.1.1 k g.tp.1.1
  obtain ⟨w0, -, -, -, -, -, -, -, -, -, p28, -⟩ := wt
  obtain ⟨n1, n2, n3, n4⟩ := nxt_ok g.1.1 g.tp.1.1 (by omega) (by omega) (by omega)
  have po : ppo L k = 1 := by unfold ppo; rw [if_pos (by omega)]
  have pu : ppu L k = 0 := by unfold ppu; rw [if_neg (by omega), if_neg (by omega), if_neg (by omega)]
  rw [po] at w0
  have hb := g.top (i := 0) (by omega) (by omega)
  rw [show pDp L k - 1 - 0 = pDp L k - 1 by omega, p28 e, show 7 + pDp L k - 0 = 7 + pDp L k by omega] at hb
  have c28 := (CL28 e).mp g.c
  have I1 : INV L T (mset A 521 (pX L k) (topA A t 0)) := s_stat g.1.1 g.2.1 xr.1 xs (gm_le c28.1 hb) (fun a j q => m_ne q) m_eq
  have g1 := wkg_eq g I1 (fun a j q => m_ne (by omega))
  exact d_drop g1 (by omega) (by omega) (by omega) (by omega) (by omega) (w0 (by omega) (by omega) (by omega)) c28.2
theorem d_33 {L : PG} {T : TB} {A : MA} {t k : Int} (g : wkg L T A t k) (e : pOp L k = 33) (h : topA A t 0 = 0 ∨ isOf L (sit A (topA A t 0)) (pX L k) = true) : INV L T (stepA A t) := by
  have d := g.d
  have wt := g.1.2.1.1 k g.tp.1.1
  obtain ⟨w0, -, -, -, -, -, p22, -, -, -, -, -, -, -, u1, -⟩ := wt
  obtain ⟨n1, n2, n3, n4⟩ := nxt_ok g.1.1 g.tp.1.1 (by omega) (by omega) (by omega)
  have po : ppo L k = 1 := by unfold ppo; rw [if_pos (by omega)]
  have pu : ppu L k = 1 := by unfold ppu; rw [if_pos (by omega)]
  rw [po] at w0 u1
  have hb := g.top (i := 0) (by omega) (by omega)
  rw [show pDp L k - 1 - 0 = pDp L k - 1 by omega, p22 (by omega), gm_r rfl, show 7 + pDp L k - 0 = 7 + pDp L k by omega] at hb
  have so := sit_ok g.1.1 g.2.1 hb.2.1
  have c33 := (((CL33 e).mp g.c) _ (inR_sb g.1.1 g.2.1 hb)).1 (by
    rcases h with h | h
    · exact Or.inl (so.2.2.2.1.mpr h)
    · exact Or.inr h)
  rw [show 7 + pDp L k = 8 + (pDp L k - 1) by omega] at c33
  have q := d_lay g (by omega) (by omega) (by omega) (n := 1) (v := topA A t 0) (by omega) (by omega) (by omega) (w0 (by omega) (by omega) (by omega)) c33 (by rw [u1 (by omega), gm_r rfl]; exact inR_b1 hb.2.1 so.1 so.2.2.1)
  have ee : lieA (dropA A t 1) t (topA A t 0) = stepA A t := by
    funext a j
    have ef : fA A t = 30 * t + A 509 t - 1 := rfl
    have e12 := g.tp.2.1
    rw [ld_v]
    show _ = (if a = 511 ∧ j = fA A t then A 511 (fA A t) + 1 else A a j)
    by_cases c1 : a = 511 ∧ j = fA A t
    · rw [if_pos c1, if_pos c1]
    rw [if_neg c1, if_neg c1]
    by_cases c2 : a = 512 ∧ j = fA A t
    · rw [if_pos c2, c2.1, c2.2]; omega
    rw [if_neg c2]
    by_cases c3 : a = 513 ∧ j = 16 * fA A t + 8 + (A 512 (fA A t) - 1)
    · rw [if_pos c3, c3.1, c3.2]
      unfold topA
      rw [show 16 * fA A t + 8 + A 512 (fA A t) - 1 - 0 = 16 * fA A t + 8 + (A 512 (fA A t) - 1) by omega]
    · rw [if_neg c3]
  rw [ee] at q
  exact q
/-! throws -/
/-- a site is thrown, through n calls -/
def hurlN (L : PG) (t v s : Int) : Nat → MA → MA
  | 0, A => mset (mset A 508 t 1) 396 100 (if t = 0 then pSc L s else A 396 100)
  | n + 1, A =>
    let A1 := mset A 520 (A 511 (fA A t)) (l_or (A 520 (A 511 (fA A t))) (l_shl 1 s))
    if 0 ≤ hnd L (A 511 (fA A t)) s then pushA (mset (mset A1 511 (fA A t) (pFi L (pMo L (A 511 (fA A t))) + pHa L (pMo L (A 511 (fA A t))) (hnd L (A 511 (fA A t)) s) 2)) 512 (fA A t) 0) t v else hurlN L t v s n (mset A1 509 t (A 509 t - 1))
def hurlA (L : PG) (A : MA) (t v : Int) : MA := hurlN L t v (sit A v) (A 509 t).toNat A
theorem rsg_eq {L : PG} {T : TB} {A A' : MA} {t s : Int} {lk : FA} (w : WF L) (r : rsg L T A t s lk) (e : ∀ a j, (508 ≤ a ∧ a ≤ 517 ∧ a ≠ 510) ∨ a = 521 ∨ (a = 396 ∧ (j = 83 ∨ j = 91)) → A' a j = A a j) : rsg L T A' t s lk := by
  obtain ⟨⟨I, t0, t1, lv⟩, ⟨n1, n30, fr⟩, hk, lc, ts, lo⟩ := r
  have bn : bgn A' = bgn A := e 396 83 (by omega)
  have hn : nob A' = nob A := e 396 91 (by omega)
  have gr : grw A A' := ⟨by omega, fun o _ _ => e 515 o (by omega)⟩
  have fme : ∀ t' f, fmid L T A t' f → fmid L T A' t' f := fun t' f q => fm_eq w gr (e _ _ (by omega)) (by rw [e _ _ (by omega)]) (e _ _ (by omega)) (fun x _ _ => e _ _ (by omega)) (fun x _ _ y => by rw [e _ _ (by omega)]; exact y) q
  unfold rsg
  rw [e 509 t (by omega), e 511 _ (by omega)]
  refine ⟨⟨⟨by rw [bn]; exact I.1, ob_eq hn (fun j => e _ _ (by omega)) (fun j => e _ _ (by omega)) (fun j => e _ _ (by omega)) I.2.1, fun p p0 p1 => ?_, fun x x0 x1 => ?_, fun t' t0' t1' => ?_⟩, t0, by rw [bn]; exact t1, by rw [e _ _ (by omega)]; exact lv⟩, ⟨n1, n30, fun j j0 j1 => fme _ _ (fr j j0 j1)⟩, hk, fun x x0 x1 => ?_, ts, lo.1, fun x x0 x1 => by rw [e _ _ (by omega)]; exact lo.2 x x0 x1⟩
  · rw [e 521 p (by omega)]; exact gm_up gr (I.2.2.1 p p0 p1)
  · rw [e 514 x (by omega), bn]; exact I.2.2.2.1 x x0 x1
  · rw [bn] at t1'
    rw [e 508 t' (by omega)]
    have r := I.2.2.2.2 t' t0' t1'
    refine ⟨r.1, fun ne lv' => ?_⟩
    have q := r.2 ne lv'
    unfold thr
    rw [e 509 t' (by omega)]
    exact ⟨q.1, q.2.1, fun j j0 j1 => fme _ _ (q.2.2.1 j j0 j1), ft_eq w gr (e _ _ (by omega)) (e _ _ (by omega)) (fun x _ _ => e _ _ (by omega)) (fun x _ _ => by rw [e _ _ (by omega)]) q.2.2.2⟩
  · rw [e 513 _ (by omega)]; exact gm_up gr (lc x x0 x1)
theorem d_hurl {L : PG} {T : TB} (ct : CT L T) {t v s : Int} (s1 : 1 ≤ s) (s2 : s < 63) : ∀ (n : Nat) (A : MA) (lk : FA), rsg L T A t s lk → (A 509 t).toNat = n → oref A v → sit A v = s → INV L T (hurlN L t v s n A)
  | 0, A, lk, r, e, _, _ => by have := r.2.1.1; omega
  | n + 1, A, lk, r, e, ov, sv => by
    unfold hurlN
    have ef : fA A t = 30 * t + A 509 t - 1 := rfl
    -- what is met is noted
    have r1 := rsg_eq (A' := mset A 520 (A 511 (fA A t)) (l_or (A 520 (A 511 (fA A t))) (l_shl 1 s))) ct.1 r (fun a j q => m_ne (by omega))
    have o1 : oref (mset A 520 (A 511 (fA A t)) (l_or (A 520 (A 511 (fA A t))) (l_shl 1 s))) v := by unfold oref nob; rw [m_ne (by omega)]; exact ov
    have v1 : sit (mset A 520 (A 511 (fA A t)) (l_or (A 520 (A 511 (fA A t))) (l_shl 1 s))) v = s := by
      unfold sit at *
      rw [m_ne (by omega)]; exact sv
    generalize hA : mset A 520 (A 511 (fA A t)) (l_or (A 520 (A 511 (fA A t))) (l_shl 1 s)) = A1 at *
    have a509 : A1 509 t = A 509 t := by rw [← hA]; exact m_ne (by omega)
    have a511 : A1 511 (fA A t) = A 511 (fA A t) := by rw [← hA]; exact m_ne (by omega)
    have f1 : fA A1 t = fA A t := by unfold fA; rw [a509]
    show INV L T (if 0 ≤ hnd L (A 511 (fA A t)) s then _ else _)
    rw [← a511, ← f1]
    have e1 : fA A1 t = 30 * t + A1 509 t - 1 := rfl
    by_cases c : 0 ≤ hnd L (A1 511 (fA A1 t)) s
    · rw [if_pos c]
      rw [e1] at c ⊢
      have ff : ∀ x y, fA (mset (mset A1 511 (30 * t + A1 509 t - 1) x) 512 (30 * t + A1 509 t - 1) y) t = 30 * t + A1 509 t - 1 := fun x y => by rw [fA_ne (by omega), fA_ne (by omega), e1]
      refine hu_1 (v := v) ct r1 s1 s2 o1 v1 c ?_ ?_ ?_ ?_
      · intro a j p q
        rw [push_v, ff, m_eq, if_neg (by omega), if_neg]
        · rw [m_ne (by omega), m_ne (by omega)]
        · rintro ⟨rfl, rfl⟩
          exact q ⟨rfl, by omega, by omega⟩
      · rw [push_v, ff, if_neg (by omega), if_neg (by omega), m_ne (by omega), m_eq]
      · rw [push_v, ff, if_pos ⟨rfl, rfl⟩, m_eq]; rfl
      · intro x x0 x1
        rw [push_v, ff, if_neg (by omega), m_eq]
        by_cases x8 : x = 8
        · rw [if_pos ⟨rfl, by omega⟩, if_pos x8]
        · rw [if_neg (by omega), if_neg x8, m_ne (by omega), m_ne (by omega)]
    · rw [if_neg c]
      rw [e1] at c
      by_cases n1 : A1 509 t = 1
      · -- the thread ends
        have n0 : n = 0 := by omega
        subst n0
        unfold hurlN
        refine t_end (A := A1) (t := t) r1.1.1 r1.1.2.1 r1.1.2.2.1 (fun a j p => ?_) ?_
        · by_cases c2 : a = 396 ∧ j = 100
          · exact Or.inr ⟨c2.1, by omega, by omega⟩
          · refine Or.inl ?_
            rw [m_ne c2, m_ne (by omega), m_ne (by omega)]
        · rw [m_ne (by omega), m_eq]
      · have n2 : 2 ≤ A1 509 t := by have := r1.2.1.1; omega
        have r2 := hu_2 (A' := mset A1 509 t (A1 509 t - 1)) ct r1 s1 s2 (by omega) n2 (fun a j p => m_ne p) m_eq
        rw [a509] at r2
        refine d_hurl ct s1 s2 n _ _ r2 (by rw [m_eq]; omega) ?_ ?_
        · unfold oref nob; rw [m_ne (by omega)]; exact o1
        · unfold sit at *
          rw [m_ne (by omega)]; exact v1
/-- what is thrown at a place by facts is thrown by the machine -/
theorem d_throw {L : PG} {T : TB} {A : MA} {t k v : Int} (g : wkg L T A t k) (ov : oref A v) (nz : v ≠ 0) (ts : TS L T k (T 0 k) (sit A v) (T 6 k 0)) : INV L T (hurlA L A t v) := by
  have so := sit_ok g.1.1 g.2.1 ov
  have s1 : sit A v ≠ 0 := fun y => nz (so.2.2.2.1.mp y)
  exact d_hurl g.1 (by omega) so.2.2.1 _ A _ (wkg_rsg g ts) rfl ov rfl
