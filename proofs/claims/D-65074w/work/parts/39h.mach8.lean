/-! Part 39h: the machine's steps: swap, calls, returns, threads; all of them (plain) -/
set_option maxRecDepth 100000
theorem d_6 {L : PG} {T : TB} {A : MA} {t k : Int} (g : wkg L T A t k) (e : pOp L k = 6) : INV L T (lieA (pushA (dropA A t 2) t (topA A t 0)) t (topA A t 1)) := by
  have d := g.d
  have po : ppo L k = 2 := by unfold ppo; rw [if_neg (by omega), if_pos (by omega)]
  have ef : fA A t = 30 * t + A 509 t - 1 := rfl
  have e12 := g.tp.2.1
  have e11 := g.2.2.2.2.2
  have pf : fA (pushA (dropA A t 2) t (topA A t 0)) t = fA A t := by rw [push_f, drop_f]
  have dv : ∀ a j, pushA (dropA A t 2) t (topA A t 0) a j = if a = 512 ∧ j = fA A t then A 512 (fA A t) - 2 + 1 else if a = 513 ∧ j = 16 * fA A t + 8 + (A 512 (fA A t) - 2) then topA A t 0 else A a j := by
    intro a j
    have e2 : dropA A t 2 512 (fA A t) = A 512 (fA A t) - 2 := by rw [drop_v, if_pos ⟨rfl, rfl⟩]
    rw [push_v, drop_f, e2]
    by_cases c1 : a = 512 ∧ j = fA A t
    · rw [if_pos c1, if_pos c1]
    rw [if_neg c1, if_neg c1, drop_v, if_neg c1]
  have lv : ∀ a j, lieA (pushA (dropA A t 2) t (topA A t 0)) t (topA A t 1) a j = if a = 511 ∧ j = fA A t then A 511 (fA A t) + 1 else if a = 512 ∧ j = fA A t then A 512 (fA A t) - 2 + 1 + 1 else if a = 513 ∧ j = 16 * fA A t + 8 + (A 512 (fA A t) - 2 + 1) then topA A t 1 else if a = 513 ∧ j = 16 * fA A t + 8 + (A 512 (fA A t) - 2) then topA A t 0 else A a j := by
    intro a j
    have d1 : pushA (dropA A t 2) t (topA A t 0) 511 (fA A t) = A 511 (fA A t) := by rw [dv, if_neg (by omega), if_neg (by omega)]
    have d2 : pushA (dropA A t 2) t (topA A t 0) 512 (fA A t) = A 512 (fA A t) - 2 + 1 := by rw [dv, if_pos ⟨rfl, rfl⟩]
    rw [lie_v, pf, d1, d2]
    by_cases c1 : a = 511 ∧ j = fA A t
    · rw [if_pos c1, if_pos c1]
    rw [if_neg c1, if_neg c1]
    by_cases c2 : a = 512 ∧ j = fA A t
    · rw [if_pos c2, if_pos c2]
    rw [if_neg c2, if_neg c2]
    by_cases c3 : a = 513 ∧ j = 16 * fA A t + 8 + (A 512 (fA A t) - 2 + 1)
    · rw [if_pos c3, if_pos c3]
    rw [if_neg c3, if_neg c3, dv, if_neg c2]
  refine s_swap g e ?_ ?_ ?_ ?_
  · intro a j p q
    rw [lv, ef, e12, if_neg (by omega), if_neg (by omega), if_neg, if_neg]
    · rintro ⟨rfl, rfl⟩
      exact q ⟨rfl, by omega, by omega⟩
    · rintro ⟨rfl, rfl⟩
      exact q ⟨rfl, by omega, by omega⟩
  · rw [lv, ef, if_pos ⟨rfl, rfl⟩, e11]
  · rw [lv, ef, if_neg (by omega), if_pos ⟨rfl, rfl⟩, e12]; omega
  · intro s s0 s1
    rw [lv, ef, e12, if_neg (by omega), if_neg (by omega)]
    have ta : ∀ i, topA A t i = A 513 (16 * (30 * t + A 509 t - 1) + (7 + pDp L k - i)) := by
      intro i
      unfold topA
      rw [ef, e12, show 16 * (30 * t + A 509 t - 1) + 8 + pDp L k - 1 - i = 16 * (30 * t + A 509 t - 1) + (7 + pDp L k - i) by omega]
    by_cases c6 : s = 6 + pDp L k
    · rw [if_neg (by omega), if_pos ⟨rfl, by omega⟩, if_pos c6, ta, Int.sub_zero]
    rw [if_neg c6]
    by_cases c7 : s = 7 + pDp L k
    · rw [if_pos ⟨rfl, by omega⟩, if_pos c7, ta, show 7 + pDp L k - 1 = 6 + pDp L k by omega]
    rw [if_neg c7, if_neg (by omega), if_neg (by omega)]
/-- a call is opened, with n arguments taken from who calls -/
def opnA (L : PG) (A : MA) (t m : Int) : MA := fun a j => if a = 509 ∧ j = t then A 509 t + 1 else if a = 510 ∧ j = 30 * t + A 509 t then m else if a = 511 ∧ j = 30 * t + A 509 t then pFi L m else if a = 512 ∧ j = 30 * t + A 509 t then 0 else if a = 513 ∧ 16 * (30 * t + A 509 t) ≤ j ∧ j < 16 * (30 * t + A 509 t) + 16 then 0 else A a j
def calA (L : PG) (A : MA) (t m n : Int) : MA := fun a j => if a = 513 ∧ 16 * (30 * t + A 509 t) ≤ j ∧ j < 16 * (30 * t + A 509 t) + n then A 513 (16 * fA A t + 8 + (A 512 (fA A t) - n) + (j - 16 * (30 * t + A 509 t))) else opnA L (dropA A t n) t m a j
theorem opn_ne {L : PG} {A : MA} {t m a j : Int} (h1 : ¬ (a = 509 ∧ j = t)) (h2 : ¬ ((a = 510 ∨ a = 511 ∨ a = 512) ∧ j = 30 * t + A 509 t)) (h3 : ¬ (a = 513 ∧ 16 * (30 * t + A 509 t) ≤ j ∧ j < 16 * (30 * t + A 509 t) + 16)) : opnA L A t m a j = A a j := by
  unfold opnA
  rw [if_neg h1, if_neg (by omega), if_neg (by omega), if_neg (by omega), if_neg h3]
theorem d_29 {L : PG} {T : TB} {A : MA} {t k s c : Int} (g : wkg L T A t k) (o : pOp L k = 29 ∨ pOp L k = 30) (cl : cld L (T 0 k) k s c) (hs : pOp L k ≠ 29 → sit A (topA A t (pAr L (lik L k) - 1)) = s) (n30 : A 509 t < 30) : INV L T (calA L A t c (pAr L (lik L k))) := by
  have d := g.d
  have nb := g.n
  have ef : fA A t = 30 * t + A 509 t - 1 := rfl
  have e12 := g.tp.2.1
  have li := lik_ok g.1.1 g.tp.1.1 (by omega)
  have lm := g.1.1.m li.1 li.2
  have a0 := lm.2.2.2.1
  have a4 := lm.2.2.2.2.1
  have po : ppo L k = pAr L (lik L k) := by unfold ppo; rw [if_neg (by omega), if_neg (by omega), if_neg (by omega), if_pos o]
  have co := cld_ok g.1.1 g.1.2.2.2.1 g.tp.1.1.1 g.tp.1.1.2 (by omega) cl
  have d9 : dropA A t (pAr L (lik L k)) 509 t = A 509 t := by rw [drop_v, if_neg (by omega)]
  refine s_call g o cl (fun y => ?_) n30 (fun a j h1 h2 h3 h4 h5 => ?_) ?_ ?_ ?_ ?_ (fun j j0 j1 => ?_)
  · have := hs y
    unfold topA at this
    rw [ef, e12] at this
    rw [frs_lik, ← this]
    congr 2
    omega
  · unfold calA
    rw [if_neg (by omega), opn_ne (by omega) (by rw [d9]; omega) (by rw [d9]; omega), drop_v, if_neg (by omega)]
  · unfold calA opnA
    rw [if_neg (by omega), d9, if_pos ⟨rfl, rfl⟩]
  · unfold calA
    rw [if_neg (by omega), opn_ne (by omega) (by rw [d9]; omega) (by omega), drop_v, if_pos ⟨rfl, rfl⟩, ef, e12]
  · unfold calA opnA
    rw [if_neg (by omega), d9, if_neg (by omega), if_neg (by omega), if_pos ⟨rfl, rfl⟩]
  · unfold calA opnA
    rw [if_neg (by omega), d9, if_neg (by omega), if_neg (by omega), if_neg (by omega), if_pos ⟨rfl, rfl⟩]
  · unfold calA opnA
    rw [d9, co.2.1]
    by_cases c1 : j < pAr L (lik L k)
    · rw [if_pos ⟨rfl, by omega, by omega⟩, if_pos c1, ef, e12, frs_lik]
      congr 1
      omega
    · rw [if_neg (by omega), if_neg c1, if_neg (by omega), if_neg (by omega), if_neg (by omega), if_neg (by omega), if_pos ⟨rfl, by omega, by omega⟩]
/-- who is called returns -/
def retA (L : PG) (A : MA) (t k : Int) : MA :=
  if A 509 t = 1 then mset (mset (mset A 509 t 0) 508 t 1) 396 99 (if t = 0 then (if pGi L (pMo L k) = 1 then topA A t 0 else sit A (if 0 < pGi L (pMo L k) then topA A t 0 else 0)) else A 396 99)
  else stepA (if 0 < pGi L (pMo L k) then pushA (mset A 509 t (A 509 t - 1)) t (topA A t 0) else mset A 509 t (A 509 t - 1)) t
theorem d_31 {L : PG} {T : TB} {A : MA} {t k : Int} (g : wkg L T A t k) (e : pOp L k = 31) : INV L T (retA L A t k) := by
  have d := g.d
  have nb := g.n
  have ef : fA A t = 30 * t + A 509 t - 1 := rfl
  have e12 := g.tp.2.1
  unfold retA
  by_cases c : A 509 t = 1
  · rw [if_pos c]
    refine t_end (g.2.1.x t) g.2.2.1 g.2.2.2.1 (fun a j p => ?_) ?_
    · by_cases c2 : a = 396 ∧ j = 99
      · exact Or.inr ⟨c2.1, by omega, by omega⟩
      · exact Or.inl (by rw [m_ne c2, m_ne (by omega), m_ne (by omega)])
    · rw [m_ne (by omega), m_eq]
  · rw [if_neg c]
    have f2 : fA (mset A 509 t (A 509 t - 1)) t = 30 * t + A 509 t - 2 := by unfold fA; rw [m_eq]; omega
    have ta : topA A t 0 = A 513 (16 * (30 * t + A 509 t - 1) + (7 + pDp L k)) := by
      unfold topA
      rw [ef, e12, show 16 * (30 * t + A 509 t - 1) + 8 + pDp L k - 1 - 0 = 16 * (30 * t + A 509 t - 1) + (7 + pDp L k) by omega]
    by_cases gi : 0 < pGi L (pMo L k)
    · rw [if_pos gi]
      have lv : ∀ a j, stepA (pushA (mset A 509 t (A 509 t - 1)) t (topA A t 0)) t a j = if a = 511 ∧ j = 30 * t + A 509 t - 2 then A 511 (30 * t + A 509 t - 2) + 1 else if a = 512 ∧ j = 30 * t + A 509 t - 2 then A 512 (30 * t + A 509 t - 2) + 1 else if a = 513 ∧ j = 16 * (30 * t + A 509 t - 2) + 8 + A 512 (30 * t + A 509 t - 2) then topA A t 0 else mset A 509 t (A 509 t - 1) a j := by
        intro a j
        have := lie_v (mset A 509 t (A 509 t - 1)) t (topA A t 0) a j
        unfold lieA at this
        rw [this, f2, m_ne (by omega), m_ne (by omega)]
      refine s_ret g e (by omega) (v := topA A t 0) rfl rfl (fun _ => ta) (fun a j h1 h2 h3 => ?_) ?_ ?_ ?_ ?_
      · rw [lv, if_neg (by omega), if_neg (by omega), if_neg (by omega), m_ne h1]
      · rw [lv, if_neg (by omega), if_neg (by omega), if_neg (by omega), m_eq]
      · rw [lv, if_pos ⟨rfl, rfl⟩]
      · rw [lv, if_neg (by omega), if_pos ⟨rfl, rfl⟩, if_pos gi]
      · rw [lv, if_neg (by omega), if_neg (by omega), if_pos ⟨rfl, by omega⟩, if_pos gi]
    · rw [if_neg gi]
      have lv : ∀ a j, stepA (mset A 509 t (A 509 t - 1)) t a j = if a = 511 ∧ j = 30 * t + A 509 t - 2 then A 511 (30 * t + A 509 t - 2) + 1 else mset A 509 t (A 509 t - 1) a j := by
        intro a j
        unfold stepA
        rw [f2, m_ne (A := A) (by omega)]
        rfl
      refine s_ret g e (by omega) (v := 0) rfl rfl (fun y => absurd y gi) (fun a j h1 h2 h3 => ?_) ?_ ?_ ?_ ?_
      · rw [lv, if_neg (by omega), m_ne h1]
      · rw [lv, if_neg (by omega), m_eq]
      · rw [lv, if_pos ⟨rfl, rfl⟩]
      · rw [lv, if_neg (by omega), m_ne (by omega), if_neg gi]
      · rw [lv, if_neg (by omega), m_ne (by omega), if_neg gi]
/-- a thread is begun -/
def bgnA (L : PG) (A : MA) (u m v : Int) : MA := mset (opnA L (mset (mset (mset A 396 83 (u + 1)) 508 u 0) 509 u 0) u m) 513 (16 * (30 * u)) v
theorem d_36 {L : PG} {T : TB} {A : MA} {t k c : Int} (g : wkg L T A t k) (e : pOp L k = 36) (nz : topA A t 0 ≠ 0) (ec : c = sent L (sit A (topA A t 0)) (pX L k)) (c0 : 0 ≤ c) (u8 : bgn A < 8) : INV L T (bgnA L (stepA (dropA A t 1) t) (bgn A) c (topA A t 0)) := by
  have d := g.d
  have nb := g.n
  have b0 := g.2.1.1.1
  have ef : fA A t = 30 * t + A 509 t - 1 := rfl
  have e12 := g.tp.2.1
  have dk := g.1.1.k g.tp.1.1.1 g.tp.1.1.2
  have c36 := dk.2.2.2.2.2.2.2.2.2.2.2.2.2.2.2.1 e
  have wt := g.1.2.1.1 k g.tp.1.1
  have w0 := wt.1
  have p22 := wt.2.2.2.2.2.2.1 (by omega)
  obtain ⟨n1, n2, n3, n4⟩ := nxt_ok g.1.1 g.tp.1.1 (by omega) (by omega) (by omega)
  have po : ppo L k = 1 := by unfold ppo; rw [if_pos (by omega)]
  have pu : ppu L k = 0 := by unfold ppu; rw [if_neg (by omega), if_neg (by omega), if_neg (by omega)]
  rw [po] at w0
  have lk1 : lik L k = wnm L (pX L k) := by unfold lik; rw [if_neg (by omega)]
  have ar1 : pAr L (lik L k) = 1 := by rw [lk1]; exact c36.1
  have hb := g.top (i := 0) (by omega) (by omega)
  rw [show pDp L k - 1 - 0 = pDp L k - 1 by omega, p22, gm_r rfl, show 7 + pDp L k - 0 = 7 + pDp L k by omega] at hb
  have so := sit_ok g.1.1 g.2.1 hb.2.1
  have fr : frs L k = 7 + pDp L k := by rw [frs_lik, ar1]; omega
  have cl : cld L (T 0 k) k (sit A (topA A t 0)) c := by
    refine Or.inr ⟨by omega, ?_, by rw [fr]; exact inR_sb g.1.1 g.2.1 hb, ec, c0⟩
    have : sit A (topA A t 0) ≠ 0 := fun y => nz (so.2.2.2.1.mp y)
    omega
  have co := cld_ok g.1.1 g.1.2.2.2.1 g.tp.1.1.1 g.tp.1.1.2 (by omega) cl
  have z := ((CL36 e).mp g.c).1 _ _ cl
  have ta : A 513 (16 * (30 * t + A 509 t - 1) + frs L k) = topA A t 0 := by
    unfold topA
    rw [ef, e12, fr]
    congr 1
    omega
  have ent := fun {j v : Int} => ent_ok (j := j) (v := v) g (by omega) cl (fun _ => by rw [ta]) (fun _ => ar1)
  -- who begins it goes on
  have I1 : INV L T (stepA (dropA A t 1) t) := d_drop g (by omega) (by omega) (by omega) (by omega) (by omega) (w0 (by omega) (by omega) (by omega)) z.2.2.2
  have A1v := ds_v A t 1
  have bn : bgn (stepA (dropA A t 1) t) = bgn A := by unfold bgn; rw [A1v, if_neg (by omega), if_neg (by omega)]
  have A1g : grw A (stepA (dropA A t 1) t) := ⟨by unfold nob; rw [A1v, if_neg (by omega), if_neg (by omega)]; omega, fun o _ _ => by rw [A1v, if_neg (by omega), if_neg (by omega)]⟩
  have lc8 := (g.1.1.m co.1.1 co.1.2).2.2.2.2.2.2.2.2.2.1
  generalize hA1 : stepA (dropA A t 1) t = A1 at *
  have o9 : mset (mset (mset A1 396 83 (bgn A + 1)) 508 (bgn A) 0) 509 (bgn A) 0 509 (bgn A) = 0 := m_eq
  have eq30 : 30 * bgn A + 0 = 30 * bgn A := by omega
  refine s_begin (c := c) (X := entz L (T 0 k) k (sit A (topA A t 0)) c) g.1 I1 (by rw [bn]; exact u8) co.1 z.2.1 (fun j j0 j1 => ?_) (fun a j h1 h2 h3 h4 h5 => ?_) ?_ ?_ ?_ ?_ ?_
  · rw [bn]
    refine gm_up A1g (ent j0 j1 ?_)
    unfold bgnA
    by_cases c1 : j = 0
    · rw [c1, show 16 * (30 * bgn A) + 0 = 16 * (30 * bgn A) by omega, m_eq, if_pos (by rw [co.2.1, ar1]; omega), Int.add_zero, ta]
    · rw [m_ne (by omega), if_neg (by rw [co.2.1, ar1]; omega)]
      unfold opnA
      rw [o9, eq30, if_neg (by omega), if_neg (by omega), if_neg (by omega), if_neg (by omega), if_pos ⟨rfl, by omega, by omega⟩]
  · rw [bn] at h3 h4 h5
    unfold bgnA
    rw [m_ne (by omega), opn_ne (by omega) (by rw [o9]; omega) (by rw [o9]; omega), m_ne (by omega), m_ne (by omega), m_ne (by omega)]
  · rw [bn]
    unfold bgnA
    rw [m_ne (by omega), opn_ne (by omega) (by omega) (by omega), m_ne (by omega), m_ne (by omega), m_eq]
  · rw [bn]
    unfold bgnA
    rw [m_ne (by omega), opn_ne (by omega) (by omega) (by omega), m_ne (by omega), m_eq]
  · rw [bn]
    unfold bgnA
    rw [m_ne (by omega)]
    unfold opnA
    rw [if_pos ⟨rfl, rfl⟩, o9]; rfl
  · rw [bn]
    unfold bgnA
    rw [m_ne (by omega)]
    unfold opnA
    rw [o9, eq30, if_neg (by omega), if_neg (by omega), if_pos ⟨rfl, rfl⟩]
  · rw [bn]
    unfold bgnA
    rw [m_ne (by omega)]
    unfold opnA
    rw [o9, eq30, if_neg (by omega), if_neg (by omega), if_neg (by omega), if_pos ⟨rfl, rfl⟩]
theorem d_34 {L : PG} {T : TB} {A : MA} {t k : Int} (g : wkg L T A t k) (e : pOp L k = 34) (fre : A 514 (pX L k) = -1) : INV L T (stepA (mset A 514 (pX L k) t) t) := by
  have ef : fA A t = 30 * t + A 509 t - 1 := rfl
  have e11 := g.2.2.2.2.2
  have lv : ∀ a j, stepA (mset A 514 (pX L k) t) t a j = if a = 511 ∧ j = fA A t then A 511 (fA A t) + 1 else mset A 514 (pX L k) t a j := by
    intro a j
    unfold stepA
    rw [fA_ne (by omega), m_ne (A := A) (by omega)]
    rfl
  refine s_lock g e fre (fun a j h1 h2 => ?_) ?_ ?_
  · rw [lv, ef, if_neg h2, m_ne h1]
  · rw [lv, ef, if_pos ⟨rfl, rfl⟩, e11]
  · rw [lv, if_neg (by omega), m_eq]
theorem d_35 {L : PG} {T : TB} {A : MA} {t k : Int} (g : wkg L T A t k) (e : pOp L k = 35) (hld : A 514 (pX L k) = t) : INV L T (stepA (mset A 514 (pX L k) (-1)) t) := by
  have ef : fA A t = 30 * t + A 509 t - 1 := rfl
  have e11 := g.2.2.2.2.2
  have lv : ∀ a j, stepA (mset A 514 (pX L k) (-1)) t a j = if a = 511 ∧ j = fA A t then A 511 (fA A t) + 1 else mset A 514 (pX L k) (-1) a j := by
    intro a j
    unfold stepA
    rw [fA_ne (by omega), m_ne (A := A) (by omega)]
    rfl
  refine s_unlock g e hld (fun a j h1 h2 => ?_) ?_ ?_
  · rw [lv, ef, if_neg h2, m_ne h1]
  · rw [lv, ef, if_pos ⟨rfl, rfl⟩, e11]
  · rw [lv, if_neg (by omega), m_eq]
