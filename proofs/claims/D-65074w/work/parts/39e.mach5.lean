/-! Part 39e: the machine's steps (plain) -/
set_option maxRecDepth 100000
def fA (A : MA) (t : Int) : Int := 30 * t + A 509 t - 1
def topA (A : MA) (t i : Int) : Int := A 513 (16 * fA A t + 8 + A 512 (fA A t) - 1 - i)
def dropA (A : MA) (t n : Int) : MA := mset A 512 (fA A t) (A 512 (fA A t) - n)
def pushA (A : MA) (t v : Int) : MA := mset (mset A 513 (16 * fA A t + 8 + A 512 (fA A t)) v) 512 (fA A t) (A 512 (fA A t) + 1)
def stepA (A : MA) (t : Int) : MA := mset A 511 (fA A t) (A 511 (fA A t) + 1)
def lieA (A : MA) (t v : Int) : MA := stepA (pushA A t v) t
theorem m_ne {A : MA} {a k x b j : Int} (h : ¬ (b = a ∧ j = k)) : mset A a k x b j = A b j := if_neg h
theorem m_eq {A : MA} {a k x : Int} : mset A a k x a k = x := if_pos ⟨rfl, rfl⟩
theorem m_id {A : MA} {a k : Int} : mset A a k (A a k) = A := by
  funext b j
  unfold mset
  by_cases c : b = a ∧ j = k
  · rw [if_pos c, c.1, c.2]
  · rw [if_neg c]
theorem fA_ne {A : MA} {a k x t : Int} (h : a ≠ 509) : fA (mset A a k x) t = fA A t := by unfold fA; rw [m_ne (by omega)]
theorem drop_v (A : MA) (t n a j : Int) : dropA A t n a j = if a = 512 ∧ j = fA A t then A 512 (fA A t) - n else A a j := rfl
theorem drop_f (A : MA) (t n : Int) : fA (dropA A t n) t = fA A t := fA_ne (by omega)
theorem drop_0 (A : MA) (t : Int) : dropA A t 0 = A := by unfold dropA; rw [Int.sub_zero]; exact m_id
theorem push_f (A : MA) (t v : Int) : fA (pushA A t v) t = fA A t := by unfold pushA; rw [fA_ne (by omega), fA_ne (by omega)]
theorem push_v (A : MA) (t v a j : Int) : pushA A t v a j = if a = 512 ∧ j = fA A t then A 512 (fA A t) + 1 else if a = 513 ∧ j = 16 * fA A t + 8 + A 512 (fA A t) then v else A a j := rfl
theorem lie_f (A : MA) (t v : Int) : fA (lieA A t v) t = fA A t := by unfold lieA stepA; rw [fA_ne (by omega)]; exact push_f A t v
theorem lie_v (A : MA) (t v a j : Int) : lieA A t v a j = if a = 511 ∧ j = fA A t then A 511 (fA A t) + 1 else if a = 512 ∧ j = fA A t then A 512 (fA A t) + 1 else if a = 513 ∧ j = 16 * fA A t + 8 + A 512 (fA A t) then v else A a j := by
  unfold lieA stepA
  rw [push_f]
  have e : pushA A t v 511 (fA A t) = A 511 (fA A t) := by rw [push_v, if_neg (by omega), if_neg (by omega)]
  rw [e]
  show (if a = 511 ∧ j = fA A t then _ else pushA A t v a j) = _
  rw [push_v]
/-- n values are dropped, one is laid -/
theorem ld_v (A : MA) (t n v a j : Int) : lieA (dropA A t n) t v a j = if a = 511 ∧ j = fA A t then A 511 (fA A t) + 1 else if a = 512 ∧ j = fA A t then A 512 (fA A t) - n + 1 else if a = 513 ∧ j = 16 * fA A t + 8 + (A 512 (fA A t) - n) then v else A a j := by
  have e1 : dropA A t n 511 (fA A t) = A 511 (fA A t) := by rw [drop_v, if_neg (by omega)]
  have e2 : dropA A t n 512 (fA A t) = A 512 (fA A t) - n := by rw [drop_v, if_pos ⟨rfl, rfl⟩]
  rw [lie_v, drop_f, e1, e2]
  by_cases c1 : a = 511 ∧ j = fA A t
  · rw [if_pos c1, if_pos c1]
  rw [if_neg c1, if_neg c1]
  by_cases c2 : a = 512 ∧ j = fA A t
  · rw [if_pos c2, if_pos c2]
  rw [if_neg c2, if_neg c2]
  by_cases c3 : a = 513 ∧ j = 16 * fA A t + 8 + (A 512 (fA A t) - n)
  · rw [if_pos c3, if_pos c3]
  rw [if_neg c3, if_neg c3, drop_v, if_neg c2]
/-- n values are dropped, the place is the next one -/
theorem ds_v (A : MA) (t n a j : Int) : stepA (dropA A t n) t a j = if a = 511 ∧ j = fA A t then A 511 (fA A t) + 1 else if a = 512 ∧ j = fA A t then A 512 (fA A t) - n else A a j := by
  unfold stepA
  rw [drop_f, drop_v, if_neg (by omega)]
  rfl
theorem d_lay {L : PG} {T : TB} {A : MA} {t k : Int} (g : wkg L T A t k) (o1 : pOp L k ≠ 15) (o2 : pOp L k ≠ 31) (o3 : pOp L k ≠ 32) {n v : Int} {w : FA} (n0 : 0 ≤ n) (n1 : n ≤ pDp L k) (dn : pDp L (k + 1) = pDp L k - n + 1) (lo : ∀ i, 0 ≤ i → i < pDp L k - n → skd L (k + 1) i = skd L k i)
    (gt : GT L T k (nx L k) (ux (T 0 k) (8 + (pDp L k - n)) w) (T 6 k 0)) (hv' : gm A (skd L (k + 1) (pDp L k - n)) w v) : INV L T (lieA (dropA A t n) t v) := by
  have tp := g.tp
  have dk := g.1.1.k tp.1.1.1 tp.1.1.2
  have dp := dk.2.2.2.2.2.2.2.2.2.2.2.2.2.2.2.2.2.2.2.1
  have nx1 := (nxt_ok g.1.1 tp.1.1 o1 o2 o3).1
  have dp1 := (g.1.1.k nx1.1 nx1.2).2.2.2.2.2.2.2.2.2.2.2.2.2.2.2.2.2.2.2.1
  have ef : fA A t = 30 * t + A 509 t - 1 := rfl
  have e12 := tp.2.1
  have e11 := g.2.2.2.2.2
  refine s_lay g o1 o2 o3 (d := pDp L k - n) (v := v) (by omega) (by omega) dn lo gt hv' ?_ ?_ ?_ ?_
  · intro a j p q
    rw [ld_v, ef, if_neg (by omega), if_neg (by omega), if_neg]
    rintro ⟨rfl, rfl⟩
    exact q ⟨rfl, by omega, by omega⟩
  · rw [ld_v, ef, if_pos ⟨rfl, rfl⟩, e11]
  · rw [ld_v, ef, if_neg (by omega), if_pos ⟨rfl, rfl⟩, e12]
  · intro s s0 s1
    rw [ld_v, ef, if_neg (by omega), if_neg (by omega), e12]
    by_cases c : s = 8 + (pDp L k - n)
    · rw [if_pos ⟨rfl, by omega⟩, if_pos c]
    · rw [if_neg (by omega), if_neg c]
theorem d_drop {L : PG} {T : TB} {A : MA} {t k : Int} (g : wkg L T A t k) (o1 : pOp L k ≠ 15) (o2 : pOp L k ≠ 31) (o3 : pOp L k ≠ 32) {n : Int} (n0 : 0 ≤ n) (dn : pDp L (k + 1) = pDp L k - n) (lo : ∀ i, 0 ≤ i → i < pDp L k - n → skd L (k + 1) i = skd L k i)
    (gt : GT L T k (nx L k) (T 0 k) (T 6 k 0)) : INV L T (stepA (dropA A t n) t) := by
  have tp := g.tp
  have ef : fA A t = 30 * t + A 509 t - 1 := rfl
  have e12 := tp.2.1
  have e11 := g.2.2.2.2.2
  refine s_drop g o1 o2 o3 (by omega) (by rw [dn]; exact lo) gt ?_ ?_ ?_ ?_
  · intro a j p q
    rw [ds_v, ef, if_neg (by omega), if_neg (by omega)]
  · rw [ds_v, ef, if_pos ⟨rfl, rfl⟩, e11]
  · rw [ds_v, ef, if_neg (by omega), if_pos ⟨rfl, rfl⟩, e12, dn]
  · intro s s0 s1
    rw [ds_v, if_neg (by omega), if_neg (by omega)]
theorem wkg.d {L : PG} {T : TB} {A : MA} {t k : Int} (g : wkg L T A t k) : (0 ≤ pDp L k ∧ pDp L k ≤ 8 ∧ ppo L k ≤ pDp L k ∧ pDp L k - ppo L k + ppu L k ≤ 8) ∧ (0 ≤ pOp L k ∧ pOp L k ≤ 36) := by
  have tp := g.tp
  have dk := g.1.1.k tp.1.1.1 tp.1.1.2
  exact ⟨dk.2.2.2.2.2.2.2.2.2.2.2.2.2.2.2.2.2.2.2.1, dk.2.1⟩
/-- values on top, by their kinds -/
theorem wkg.top {L : PG} {T : TB} {A : MA} {t k : Int} (g : wkg L T A t k) {i : Int} (i0 : 0 ≤ i) (i1 : i < pDp L k) : gm A (skd L k (pDp L k - 1 - i)) (T 0 k (7 + pDp L k - i)) (topA A t i) := by
  have tp := g.tp
  have q := g.sk (i := pDp L k - 1 - i) (by omega) (by omega)
  unfold topA
  have ef : fA A t = 30 * t + A 509 t - 1 := rfl
  rw [ef, tp.2.1, show 16 * (30 * t + A 509 t - 1) + 8 + pDp L k - 1 - i = 16 * (30 * t + A 509 t - 1) + (8 + (pDp L k - 1 - i)) by omega]
  rw [show 7 + pDp L k - i = 8 + (pDp L k - 1 - i) by omega]
  exact q
theorem d_0 {L : PG} {T : TB} {A : MA} {t k : Int} (g : wkg L T A t k) (e : pOp L k = 0) : INV L T (lieA A t (pY L k)) := by
  have d := g.d
  have wt := g.1.2.1.1 k g.tp.1.1
  obtain ⟨w0, -, -, -, -, -, -, -, -, -, -, -, -, u0, -⟩ := wt
  obtain ⟨n1, n2, n3, n4⟩ := nxt_ok g.1.1 g.tp.1.1 (by omega) (by omega) (by omega)
  have po : ppo L k = 0 := by unfold ppo; rw [if_neg (by omega), if_neg (by omega), if_neg (by omega), if_neg (by omega), if_neg (by omega)]
  have pu : ppu L k = 1 := by unfold ppu; rw [if_pos (by omega)]
  rw [po] at w0 u0
  have := d_lay g (by omega) (by omega) (by omega) (n := 0) (v := pY L k) (by omega) (by omega) (by omega) (w0 (by omega) (by omega) (by omega)) (by rw [Int.sub_zero]; exact (CL0 e).mp g.c) (by
    rw [u0 (by omega), gm_n (by decide)]
    exact ⟨(by decide : (1 : Int) ≠ 0), Int.le_refl _, Int.le_refl _⟩)
  rw [drop_0] at this
  exact this
theorem nul_in {L : PG} {T : TB} {A : MA} (I : INV L T A) {κ : Int} (e : κ = 1) : gm A κ (fs 1) 0 := by
  rw [gm_r e]
  refine ⟨(by decide : (1 : Int) ≠ 0), ⟨by omega, by have := I.2.1.1; omega⟩, ?_⟩
  show bl 1 (sit A 0) = true
  unfold sit
  rw [if_pos (by decide), bl_one (by decide)]; rfl
theorem d_1 {L : PG} {T : TB} {A : MA} {t k : Int} (g : wkg L T A t k) (e : pOp L k = 1) : INV L T (lieA A t 0) := by
  have d := g.d
  have wt := g.1.2.1.1 k g.tp.1.1
  obtain ⟨w0, -, -, -, -, -, -, -, -, -, -, -, -, -, u1, -⟩ := wt
  obtain ⟨n1, n2, n3, n4⟩ := nxt_ok g.1.1 g.tp.1.1 (by omega) (by omega) (by omega)
  have po : ppo L k = 0 := by unfold ppo; rw [if_neg (by omega), if_neg (by omega), if_neg (by omega), if_neg (by omega), if_neg (by omega)]
  have pu : ppu L k = 1 := by unfold ppu; rw [if_pos (by omega)]
  rw [po] at w0 u1
  have := d_lay g (by omega) (by omega) (by omega) (n := 0) (v := 0) (by omega) (by omega) (by omega) (w0 (by omega) (by omega) (by omega)) (by rw [Int.sub_zero]; exact (CL1 e).mp g.c) (nul_in g.2.1 (u1 (by omega)))
  rw [drop_0] at this
  exact this
theorem d_2 {L : PG} {T : TB} {A : MA} {t k : Int} (g : wkg L T A t k) (e : pOp L k = 2) : INV L T (lieA A t (A 513 (16 * fA A t + pX L k))) := by
  have d := g.d
  have dk := g.1.1.k g.tp.1.1.1 g.tp.1.1.2
  have x2 := dk.2.2.2.2.1 (by omega)
  have xr := dk.2.2.1
  have wt := g.1.2.1.1 k g.tp.1.1
  obtain ⟨w0, -, -, -, -, -, -, -, -, -, -, -, -, -, -, u2, -⟩ := wt
  obtain ⟨n1, n2, n3, n4⟩ := nxt_ok g.1.1 g.tp.1.1 (by omega) (by omega) (by omega)
  have po : ppo L k = 0 := by unfold ppo; rw [if_neg (by omega), if_neg (by omega), if_neg (by omega), if_neg (by omega), if_neg (by omega)]
  have pu : ppu L k = 1 := by unfold ppu; rw [if_pos (by omega)]
  rw [po] at w0
  have := d_lay g (by omega) (by omega) (by omega) (n := 0) (v := A 513 (16 * fA A t + pX L k)) (by omega) (by omega) (by omega) (w0 (by omega) (by omega) (by omega)) (by rw [Int.sub_zero]; exact (CL2 e).mp g.c) (by
    rw [Int.sub_zero, u2 e]
    exact g.lc xr.1 x2)
  rw [drop_0] at this
  exact this
theorem d_3 {L : PG} {T : TB} {A : MA} {t k : Int} (g : wkg L T A t k) (e : pOp L k = 3) : INV L T (stepA (dropA (mset A 513 (16 * fA A t + pX L k) (topA A t 0)) t 1) t) := by
  have d := g.d
  have dk := g.1.1.k g.tp.1.1.1 g.tp.1.1.2
  have x2 := dk.2.2.2.2.1 (by omega)
  have xr := dk.2.2.1
  have lc8 := (g.1.1.m dk.1.1 dk.1.2.1).2.2.2.2.2.2.2.2.2.1
  have ef : fA A t = 30 * t + A 509 t - 1 := rfl
  have e12 := g.tp.2.1
  have e11 := g.2.2.2.2.2
  have ff : fA (mset A 513 (16 * fA A t + pX L k) (topA A t 0)) t = fA A t := fA_ne (by omega)
  have po : ppo L k = 1 := by unfold ppo; rw [if_pos (by omega)]
  refine s_store g e ?_ ?_ ?_ ?_
  · intro a j p q
    rw [ds_v, ff, ef, if_neg (by omega), if_neg (by omega), m_ne]
    rintro ⟨rfl, rfl⟩
    exact q ⟨rfl, by omega, by omega⟩
  · rw [ds_v, ff, ef, if_pos ⟨rfl, rfl⟩, m_ne (by omega), e11]
  · rw [ds_v, ff, ef, if_neg (by omega), if_pos ⟨rfl, rfl⟩, m_ne (by omega), e12]
  · intro s s0 s1
    rw [ds_v, if_neg (by omega), if_neg (by omega), ef]
    by_cases c : s = pX L k
    · rw [if_pos c, c, m_eq]
      unfold topA
      rw [ef, e12, show 16 * (30 * t + A 509 t - 1) + 8 + pDp L k - 1 - 0 = 16 * (30 * t + A 509 t - 1) + (7 + pDp L k) by omega]
    · rw [if_neg c, m_ne (by omega)]
theorem d_4 {L : PG} {T : TB} {A : MA} {t k : Int} (g : wkg L T A t k) (e : pOp L k = 4) : INV L T (stepA (dropA A t 1) t) := by
  have d := g.d
  have w0 := (g.1.2.1.1 k g.tp.1.1).1
  obtain ⟨n1, n2, n3, n4⟩ := nxt_ok g.1.1 g.tp.1.1 (by omega) (by omega) (by omega)
  have po : ppo L k = 1 := by unfold ppo; rw [if_pos (by omega)]
  have pu : ppu L k = 0 := by unfold ppu; rw [if_neg (by omega), if_neg (by omega), if_neg (by omega)]
  rw [po] at w0
  exact d_drop g (by omega) (by omega) (by omega) (by omega) (by omega) (w0 (by omega) (by omega) (by omega)) ((CL4 e).mp g.c)
theorem d_5 {L : PG} {T : TB} {A : MA} {t k : Int} (g : wkg L T A t k) (e : pOp L k = 5) : INV L T (lieA A t (topA A t 0)) := by
  have d := g.d
  have wt := g.1.2.1.1 k g.tp.1.1
  obtain ⟨w0, -, -, -, -, -, -, -, -, -, -, -, -, -, -, -, u5, -⟩ := wt
  obtain ⟨n1, n2, n3, n4⟩ := nxt_ok g.1.1 g.tp.1.1 (by omega) (by omega) (by omega)
  have po : ppo L k = 1 := by unfold ppo; rw [if_pos (by omega)]
  have pu : ppu L k = 2 := by unfold ppu; rw [if_neg (by omega), if_pos (by omega)]
  rw [po] at w0
  have u := u5 e
  have := d_lay g (by omega) (by omega) (by omega) (n := 0) (v := topA A t 0) (by omega) (by omega) (by omega) (fun i i0 i1 => by
    by_cases c : i = pDp L k - 1
    · rw [c]; exact u.1
    · exact w0 (by omega) (by omega) (by omega) i i0 (by omega)) (by rw [Int.sub_zero]; exact (CL5 e).mp g.c) (by
    rw [Int.sub_zero, u.2]
    have := g.top (i := 0) (by omega) (by omega)
    rw [Int.sub_zero, Int.sub_zero] at this
    exact this)
  rw [drop_0] at this
  exact this
theorem d_7 {L : PG} {T : TB} {A : MA} {t k r : Int} (g : wkg L T A t k) (e : 7 ≤ pOp L k ∧ pOp L k ≤ 11) (nz : pOp L k = 10 ∨ pOp L k = 11 → topA A t 0 ≠ 0)
    (er : r = if pOp L k = 7 then w32 (topA A t 1 + topA A t 0) else if pOp L k = 8 then w32 (topA A t 1 - topA A t 0) else if pOp L k = 9 then w32 (topA A t 1 * topA A t 0) else if pOp L k = 10 then w32 ((topA A t 1).tdiv (topA A t 0)) else w32 ((topA A t 1).tmod (topA A t 0))) : INV L T (lieA (dropA A t 2) t r) := by
  have d := g.d
  have wt := g.1.2.1.1 k g.tp.1.1
  obtain ⟨w0, -, p7, -, -, -, -, -, -, -, -, -, -, u0, -⟩ := wt
  obtain ⟨n1, n2, n3, n4⟩ := nxt_ok g.1.1 g.tp.1.1 (by omega) (by omega) (by omega)
  have po : ppo L k = 2 := by unfold ppo; rw [if_neg (by omega), if_pos (by omega)]
  have pu : ppu L k = 1 := by unfold ppu; rw [if_pos (by omega)]
  rw [po] at w0 u0
  have p := p7 (Or.inl e)
  have hb := g.top (i := 0) (by omega) (by omega)
  have ha := g.top (i := 1) (by omega) (by omega)
  rw [show pDp L k - 1 - 0 = pDp L k - 1 by omega, p.1, gm_n (by decide), show 7 + pDp L k - 0 = 7 + pDp L k by omega] at hb
  rw [show pDp L k - 1 - 1 = pDp L k - 2 by omega, p.2, gm_n (by decide), show 7 + pDp L k - 1 = 6 + pDp L k by omega] at ha
  have oT := g.1.2.2.2.1.1
  have rin : inN (rk L (pOp L k) (T 0 k (6 + pDp L k)) (T 0 k (7 + pDp L k))) r := by
    refine rk_in (oT _ _ _) (oT _ _ _) ha hb ?_
    have o : pOp L k = 7 ∨ pOp L k = 8 ∨ pOp L k = 9 ∨ pOp L k = 10 ∨ pOp L k = 11 := by omega
    rcases o with o | o | o | o | o
    · rw [if_pos o] at er; rw [o, er]; exact rk_7
    · rw [if_neg (by omega), if_pos o] at er; rw [o, er]; exact rk_8
    · rw [if_neg (by omega), if_neg (by omega), if_pos o] at er; rw [o, er]; exact rk_9
    · rw [if_neg (by omega), if_neg (by omega), if_neg (by omega), if_pos o] at er; rw [o, er]; exact rk_10 (nz (Or.inl o))
    · rw [if_neg (by omega), if_neg (by omega), if_neg (by omega), if_neg (by omega)] at er; rw [o, er]; exact rk_11 (nz (Or.inr o))
  have gt : GT L T k (nx L k) (ux (T 0 k) (6 + pDp L k) (rk L (pOp L k) (T 0 k (6 + pDp L k)) (T 0 k (7 + pDp L k)))) (T 6 k 0) := by
    by_cases o : pOp L k = 10 ∨ pOp L k = 11
    · exact ((CL10 o).mp g.c).1 rin.1
    · exact (CL7 (by omega)).mp g.c
  rw [show 6 + pDp L k = 8 + (pDp L k - 2) by omega] at gt
  refine d_lay g (by omega) (by omega) (by omega) (n := 2) (by omega) (by omega) (by omega) (w0 (by omega) (by omega) (by omega)) gt ?_
  rw [u0 (by omega), gm_n (by decide), show 8 + (pDp L k - 2) = 6 + pDp L k by omega]
  exact rin
theorem d_12 {L : PG} {T : TB} {A : MA} {t k : Int} (g : wkg L T A t k) (e : pOp L k = 12) : INV L T (lieA (dropA A t 1) t (w32 (-topA A t 0))) := by
  have d := g.d
  have wt := g.1.2.1.1 k g.tp.1.1
  obtain ⟨w0, -, -, p12, -, -, -, -, -, -, -, -, -, u0, -⟩ := wt
  obtain ⟨n1, n2, n3, n4⟩ := nxt_ok g.1.1 g.tp.1.1 (by omega) (by omega) (by omega)
  have po : ppo L k = 1 := by unfold ppo; rw [if_pos (by omega)]
  have pu : ppu L k = 1 := by unfold ppu; rw [if_pos (by omega)]
  rw [po] at w0 u0
  have hb := g.top (i := 0) (by omega) (by omega)
  rw [show pDp L k - 1 - 0 = pDp L k - 1 by omega, p12 (by omega), gm_n (by decide), show 7 + pDp L k - 0 = 7 + pDp L k by omega] at hb
  have oT := g.1.2.2.2.1.1
  have rin : inN (rk L 12 (T 0 k (7 + pDp L k)) (T 0 k (7 + pDp L k))) (w32 (-topA A t 0)) := rk_in (oT _ _ _) (oT _ _ _) hb hb rk_12
  have gt := (CL12 e).mp g.c
  rw [show 7 + pDp L k = 8 + (pDp L k - 1) by omega] at gt rin
  refine d_lay g (by omega) (by omega) (by omega) (n := 1) (by omega) (by omega) (by omega) (w0 (by omega) (by omega) (by omega)) gt ?_
  rw [u0 (by omega), gm_n (by decide)]
  exact rin
theorem d_13 {L : PG} {T : TB} {A : MA} {t k v : Int} (g : wkg L T A t k) (e : pOp L k = 13) (v0 : pY L k ≤ v) (v1 : v ≤ pZ L k) : INV L T (lieA A t v) := by
  have d := g.d
  have wt := g.1.2.1.1 k g.tp.1.1
  obtain ⟨w0, -, -, -, -, -, -, -, -, -, -, -, -, u0, -⟩ := wt
  obtain ⟨n1, n2, n3, n4⟩ := nxt_ok g.1.1 g.tp.1.1 (by omega) (by omega) (by omega)
  have po : ppo L k = 0 := by unfold ppo; rw [if_neg (by omega), if_neg (by omega), if_neg (by omega), if_neg (by omega), if_neg (by omega)]
  have pu : ppu L k = 1 := by unfold ppu; rw [if_pos (by omega)]
  rw [po] at w0 u0
  have := d_lay g (by omega) (by omega) (by omega) (n := 0) (v := v) (by omega) (by omega) (by omega) (w0 (by omega) (by omega) (by omega)) (by rw [Int.sub_zero]; exact (CL13 e).mp g.c) (by
    rw [u0 (by omega), gm_n (by decide)]
    exact ⟨(by decide : (1 : Int) ≠ 0), v0, v1⟩)
  rw [drop_0] at this
  exact this
theorem d_14 {L : PG} {T : TB} {A : MA} {t k : Int} (g : wkg L T A t k) (e : pOp L k = 14) : INV L T (stepA (dropA A t 1) t) := by
  have d := g.d
  have w0 := (g.1.2.1.1 k g.tp.1.1).1
  obtain ⟨n1, n2, n3, n4⟩ := nxt_ok g.1.1 g.tp.1.1 (by omega) (by omega) (by omega)
  have po : ppo L k = 1 := by unfold ppo; rw [if_pos (by omega)]
  have pu : ppu L k = 0 := by unfold ppu; rw [if_neg (by omega), if_neg (by omega), if_neg (by omega)]
  rw [po] at w0
  exact d_drop g (by omega) (by omega) (by omega) (by omega) (by omega) (w0 (by omega) (by omega) (by omega)) ((CL14 e).mp g.c).2
