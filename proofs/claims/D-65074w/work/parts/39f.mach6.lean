/-! Part 39f: the machine's steps: jumps, objects, statics (plain) -/
set_option maxRecDepth 100000
theorem sit_ok {L : PG} {T : TB} {A : MA} (w : WF L) (I : INV L T A) {v : Int} (h : oref A v) : 0 ≤ sit A v ∧ sit A v < pNt L ∧ sit A v < 63 ∧ (sit A v = 0 ↔ v = 0) ∧ (7 ≤ v → inS L (sit A v)) := by
  have nn := w.n
  unfold WFn at nn
  have h0 := h.1
  have h1 := h.2
  unfold sit
  by_cases c : v < 7
  · rw [if_pos c]
    exact ⟨by omega, by omega, by omega, Iff.rfl, fun y => by omega⟩
  · rw [if_neg c]
    have q := (I.2.1.2.2 (v - 7) (by omega) (by omega)).1
    have q0 := q.1
    have q1 := q.2
    exact ⟨by omega, q1, by omega, ⟨fun y => by omega, fun y => by omega⟩, fun _ => q⟩
theorem inR_sb {L : PG} {T : TB} {A : MA} (w : WF L) (I : INV L T A) {f : FA} {v : Int} (h : inR A f v) : sb f (sit A v) := by
  have := sit_ok w I h.2.1
  exact ⟨this.1, this.2.2.1, h.2.2⟩
theorem inR_rs {A : MA} {f : FA} {v : Int} (h : inR A f v) (s0 : 0 ≤ sit A v) (s1 : sit A v < 63) : inR A (rs f (sit A v)) v := by
  unfold rs
  rw [if_neg h.1]
  refine ⟨(by decide : (1 : Int) ≠ 0), h.2.1, ?_⟩
  show bl (l_shl 1 (sit A v)) (sit A v) = true
  rw [bl_shl s0 (by omega) s0]; simp
theorem inR_b1 {A : MA} {v : Int} (h : oref A v) (s0 : 0 ≤ sit A v) (s1 : sit A v < 63) : inR A (b1 (sit A v)) v := by
  refine ⟨(by decide : (1 : Int) ≠ 0), h, ?_⟩
  show bl (l_shl 1 (sit A v)) (sit A v) = true
  rw [bl_shl s0 (by omega) s0]; simp
/-! jumps -/
theorem mayf_x {w u v : Int} (w0 : 0 ≤ w) (w5 : w ≤ 5) (h : ¬ mayf w u u v v = 1) : mayf (i_xor w 1) u u v v = 1 := by
  have o : w = 0 ∨ w = 1 ∨ w = 2 ∨ w = 3 ∨ w = 4 ∨ w = 5 := by omega
  unfold mayf at *
  rcases o with rfl | rfl | rfl | rfl | rfl | rfl
  · rw [show i_xor 0 1 = 1 by decide]
    simp at h ⊢
    omega
  · rw [show i_xor 1 1 = 0 by decide]
    simp at h ⊢
    omega
  · rw [show i_xor 2 1 = 3 by decide]
    simp at h ⊢
    omega
  · rw [show i_xor 3 1 = 2 by decide]
    simp at h ⊢
    omega
  · rw [show i_xor 4 1 = 5 by decide]
    simp at h ⊢
    omega
  · rw [show i_xor 5 1 = 4 by decide]
    simp at h ⊢
    omega
theorem mayf_01 (w l h l2 h2 : Int) : mayf w l h l2 h2 = 0 ∨ mayf w l h l2 h2 = 1 := by
  unfold mayf
  by_cases c0 : w = 0
  · rw [if_pos c0]; split <;> simp
  rw [if_neg c0]
  by_cases c1 : w = 1
  · rw [if_pos c1]; split <;> simp
  rw [if_neg c1]
  by_cases c2 : w = 2
  · rw [if_pos c2]; split <;> simp
  rw [if_neg c2]
  by_cases c3 : w = 3
  · rw [if_pos c3]; split <;> simp
  rw [if_neg c3]
  by_cases c4 : w = 4
  · rw [if_pos c4]; split <;> simp
  rw [if_neg c4]; split <;> simp
theorem ctf_in {w u y : Int} {f : FA} (w0 : 0 ≤ w) (w5 : w ≤ 5) (h : inN f u) (m : mayf w u u y y = 1) : inN (ctf w f y) u := by
  have h1 := h.2.1
  have h2 := h.2.2
  have o : w = 0 ∨ w = 1 ∨ w = 2 ∨ w = 3 ∨ w = 4 ∨ w = 5 := by omega
  unfold mayf at m
  unfold ctf
  rcases o with rfl | rfl | rfl | rfl | rfl | rfl
  · simp at m
    rw [if_pos rfl]
    exact ⟨(by decide : (1 : Int) ≠ 0), (by show y ≤ u; omega), (by show u ≤ y; omega)⟩
  · simp at m
    rw [if_neg (by decide), if_pos rfl]
    refine ⟨(by decide : (1 : Int) ≠ 0), ?_, ?_⟩
    · show (if alo f = y then alo f + 1 else alo f) ≤ u
      split <;> omega
    · show u ≤ (if ahi f = y then ahi f - 1 else ahi f)
      split <;> omega
  · simp at m
    rw [if_neg (by decide), if_neg (by decide), if_pos rfl]
    exact ⟨(by decide : (1 : Int) ≠ 0), h1, (by show u ≤ min (ahi f) (y - 1); omega)⟩
  · simp at m
    rw [if_neg (by decide), if_neg (by decide), if_neg (by decide), if_pos rfl]
    exact ⟨(by decide : (1 : Int) ≠ 0), (by show max (alo f) y ≤ u; omega), h2⟩
  · simp at m
    rw [if_neg (by decide), if_neg (by decide), if_neg (by decide), if_neg (by decide), if_pos rfl]
    exact ⟨(by decide : (1 : Int) ≠ 0), (by show max (alo f) (y + 1) ≤ u; omega), h2⟩
  · simp at m
    rw [if_neg (by decide), if_neg (by decide), if_neg (by decide), if_neg (by decide), if_neg (by decide)]
    exact ⟨(by decide : (1 : Int) ≠ 0), h1, (by show u ≤ min (ahi f) y; omega)⟩
/-- the place is set by a jump -/
def jmpA (L : PG) (A : MA) (t k b : Int) : MA := if b = 0 then stepA A t else mset A 511 (fA A t) (pFi L (pMo L k) + pZ L k)
theorem d_jmp {L : PG} {T : TB} {A : MA} {t k : Int} (g : wkg L T A t k) {n b : Int} (o : 15 ≤ pOp L k ∧ pOp L k ≤ 19) (n0 : n = pDp L k) {X Y : Int → FA} (h1 : b ≠ 0 → GT L T k (pZ L k) X (T 6 k 0)) (h2 : b = 0 → pOp L k ≠ 15 ∧ GT L T k (nx L k) Y (T 6 k 0))
    (hX : b ≠ 0 → ∀ s, 0 ≤ s → s < pLc L (pMo L k) → gm A (pLk L (pMo L k) s) (X s) (A 513 (16 * (30 * t + A 509 t - 1) + s))) (hY : b = 0 → ∀ s, 0 ≤ s → s < pLc L (pMo L k) → gm A (pLk L (pMo L k) s) (Y s) (A 513 (16 * (30 * t + A 509 t - 1) + s))) : INV L T (jmpA L (dropA A t n) t k b) := by
  have tp := g.tp
  have ef : fA A t = 30 * t + A 509 t - 1 := rfl
  have e12 := tp.2.1
  have e11 := g.2.2.2.2.2
  have jz := jmp_ok g.1.1 tp.1.1 o.1 o.2
  unfold jmpA
  by_cases c : b = 0
  · rw [if_pos c]
    obtain ⟨o15, gt⟩ := h2 c
    obtain ⟨q1, q2, q3, q4⟩ := nxt_ok g.1.1 tp.1.1 o15 (by omega) (by omega)
    have pu : ppu L k = 0 := by unfold ppu; rw [if_neg (by omega), if_neg (by omega), if_neg (by omega)]
    refine s_jump g (i := nx L k) (by rw [q3]; exact q1) (by rw [q3]; exact q2) (by rw [q3]; omega) gt (hY c) ?_ ?_ ?_ ?_
    · intro a j p q
      rw [ds_v, ef, if_neg (by omega), if_neg (by omega)]
    · rw [ds_v, ef, if_pos ⟨rfl, rfl⟩, e11, q3]
    · rw [ds_v, ef, if_neg (by omega), if_pos ⟨rfl, rfl⟩, e12]; omega
    · intro s s0 s1
      rw [ds_v, if_neg (by omega), if_neg (by omega)]
  · rw [if_neg c]
    have dv : ∀ a j, mset (dropA A t n) 511 (fA (dropA A t n) t) (pFi L (pMo L k) + pZ L k) a j = if a = 511 ∧ j = fA A t then pFi L (pMo L k) + pZ L k else if a = 512 ∧ j = fA A t then A 512 (fA A t) - n else A a j := by
      intro a j
      rw [drop_f]
      rfl
    refine s_jump g (i := pZ L k) jz.1 jz.2.1 jz.2.2.1 (h1 c) (hX c) ?_ ?_ ?_ ?_
    · intro a j p q
      rw [dv, ef, if_neg (by omega), if_neg (by omega)]
    · rw [dv, ef, if_pos ⟨rfl, rfl⟩]
    · rw [dv, ef, if_neg (by omega), if_pos ⟨rfl, rfl⟩, e12]; omega
    · intro s s0 s1
      rw [dv, if_neg (by omega), if_neg (by omega)]
theorem d_15 {L : PG} {T : TB} {A : MA} {t k : Int} (g : wkg L T A t k) (e : pOp L k = 15) : INV L T (jmpA L A t k 1) := by
  have jz := jmp_ok g.1.1 g.tp.1.1 (by omega) (by omega)
  have po : ppo L k = 0 := by unfold ppo; rw [if_neg (by omega), if_neg (by omega), if_neg (by omega), if_neg (by omega), if_neg (by omega)]
  have := d_jmp (b := 1) (n := 0) g (by omega) (by omega) (X := T 0 k) (Y := T 0 k) (fun _ => (CL15 e).mp g.c) (fun y => by omega) (fun _ s s0 s1 => g.lc s0 s1) (fun y => by omega)
  rw [drop_0] at this
  exact this
theorem d_16 {L : PG} {T : TB} {A : MA} {t k : Int} (g : wkg L T A t k) (e : pOp L k = 16) : INV L T (jmpA L (dropA A t 2) t k (mayf (pX L k) (topA A t 1) (topA A t 1) (topA A t 0) (topA A t 0))) := by
  have d := g.d
  have dk := g.1.1.k g.tp.1.1.1 g.tp.1.1.2
  have x5 := dk.2.2.2.2.2.2.1 e
  have xr := dk.2.2.1
  have jz := jmp_ok g.1.1 g.tp.1.1 (by omega) (by omega)
  have po : ppo L k = 2 := by unfold ppo; rw [if_neg (by omega), if_pos (by omega)]
  have p := (g.1.2.1.1 k g.tp.1.1).2.2.1 (Or.inr e)
  have hb := g.top (i := 0) (by omega) (by omega)
  have ha := g.top (i := 1) (by omega) (by omega)
  rw [show pDp L k - 1 - 0 = pDp L k - 1 by omega, p.1, gm_n (by decide), show 7 + pDp L k - 0 = 7 + pDp L k by omega] at hb
  rw [show pDp L k - 1 - 1 = pDp L k - 2 by omega, p.2, gm_n (by decide), show 7 + pDp L k - 1 = 6 + pDp L k by omega] at ha
  have oT := g.1.2.2.2.1.1
  have c16 := (CL16 e).mp g.c
  refine d_jmp g (by omega) (by omega) (X := T 0 k) (Y := T 0 k) (fun y => c16.1 (may_in (oT _ _ _) (oT _ _ _) ha hb ?_)) (fun y => ⟨by omega, c16.2 (may_in (oT _ _ _) (oT _ _ _) ha hb (mayf_x xr.1 x5 (by omega)))⟩) (fun _ s s0 s1 => g.lc s0 s1) (fun _ s s0 s1 => g.lc s0 s1)
  rcases mayf_01 (pX L k) (topA A t 1) (topA A t 1) (topA A t 0) (topA A t 0) with z | z
  · exact absurd z y
  · exact z
theorem d_17 {L : PG} {T : TB} {A : MA} {t k : Int} (g : wkg L T A t k) (e : pOp L k = 17) : INV L T (jmpA L A t k (mayf (pX L k / 8) (A 513 (16 * fA A t + pX L k % 8)) (A 513 (16 * fA A t + pX L k % 8)) (pY L k) (pY L k))) := by
  have d := g.d
  have dk := g.1.1.k g.tp.1.1.1 g.tp.1.1.2
  have x47 := dk.2.2.2.2.2.2.2.1 e
  have xr := dk.2.2.1
  have yr := dk.2.2.2.1
  have jz := jmp_ok g.1.1 g.tp.1.1 (by omega) (by omega)
  have po : ppo L k = 0 := by unfold ppo; rw [if_neg (by omega), if_neg (by omega), if_neg (by omega), if_neg (by omega), if_neg (by omega)]
  have ef : fA A t = 30 * t + A 509 t - 1 := rfl
  have p := (g.1.2.1.1 k g.tp.1.1).2.2.2.2.1 e
  have hx := g.lc (s := pX L k % 8) (by omega) x47.2
  rw [p, gm_n (by decide)] at hx
  have oT := g.1.2.2.2.1.1
  have c17 := (CL17 e).mp g.c
  have cy : c32 (pY L k) := by unfold c32; omega
  have hy : inN (fv (pY L k) (pY L k) 0 0) (pY L k) := ⟨(by decide : (1 : Int) ≠ 0), Int.le_refl _, Int.le_refl _⟩
  have oy : fok (fv (pY L k) (pY L k) 0 0) := fok_fv cy cy (Int.le_refl _) c32_0 (by unfold c64; omega)
  rw [ef]
  have m1 : ∀ w, mayf w (A 513 (16 * (30 * t + A 509 t - 1) + pX L k % 8)) (A 513 (16 * (30 * t + A 509 t - 1) + pX L k % 8)) (pY L k) (pY L k) = 1 → mayp w (T 0 k (pX L k % 8)) (fv (pY L k) (pY L k) 0 0) := fun w m => may_in (oT _ _ _) oy hx hy m
  have vX : ∀ w, 0 ≤ w → w ≤ 5 → mayf w (A 513 (16 * (30 * t + A 509 t - 1) + pX L k % 8)) (A 513 (16 * (30 * t + A 509 t - 1) + pX L k % 8)) (pY L k) (pY L k) = 1 → ∀ s, 0 ≤ s → s < pLc L (pMo L k) → gm A (pLk L (pMo L k) s) (ux (T 0 k) (pX L k % 8) (ctf w (T 0 k (pX L k % 8)) (pY L k)) s) (A 513 (16 * (30 * t + A 509 t - 1) + s)) := by
    intro w w0 w5 m s s0 s1
    unfold ux
    by_cases c : s = pX L k % 8
    · rw [if_pos c, c, p, gm_n (by decide)]
      exact ctf_in w0 w5 hx m
    · rw [if_neg c]; exact g.lc s0 s1
  have x01 := mayf_01 (pX L k / 8) (A 513 (16 * (30 * t + A 509 t - 1) + pX L k % 8)) (A 513 (16 * (30 * t + A 509 t - 1) + pX L k % 8)) (pY L k) (pY L k)
  have xx : 0 ≤ i_xor (pX L k / 8) 1 ∧ i_xor (pX L k / 8) 1 ≤ 5 := by
    have o : pX L k / 8 = 0 ∨ pX L k / 8 = 1 ∨ pX L k / 8 = 2 ∨ pX L k / 8 = 3 ∨ pX L k / 8 = 4 ∨ pX L k / 8 = 5 := by omega
    rcases o with o | o | o | o | o | o <;> rw [o] <;> decide
  have := d_jmp (n := 0) (b := mayf (pX L k / 8) (A 513 (16 * (30 * t + A 509 t - 1) + pX L k % 8)) (A 513 (16 * (30 * t + A 509 t - 1) + pX L k % 8)) (pY L k) (pY L k)) g (by omega) (by omega) (fun y => c17.1 (m1 _ (by omega))) (fun y => ⟨by omega, c17.2 (m1 _ (mayf_x (by omega) (by omega) (by omega)))⟩) (fun y => vX _ (by omega) (by omega) (by omega)) (fun y => vX _ xx.1 xx.2 (mayf_x (by omega) (by omega) (by omega)))
  rw [drop_0] at this
  exact this
theorem d_18 {L : PG} {T : TB} {A : MA} {t k b : Int} (g : wkg L T A t k) (e : pOp L k = 18 ∨ pOp L k = 19) (hb : ¬ b = 0 ↔ if pOp L k = 18 then A 513 (16 * fA A t + pX L k) = 0 else A 513 (16 * fA A t + pX L k) ≠ 0 ∧ isOf L (sit A (A 513 (16 * fA A t + pX L k))) (pY L k) = true) : INV L T (jmpA L A t k b) := by
  have d := g.d
  have dk := g.1.1.k g.tp.1.1.1 g.tp.1.1.2
  have x2 := dk.2.2.2.2.1 (by omega)
  have xr := dk.2.2.1
  have jz := jmp_ok g.1.1 g.tp.1.1 (by omega) (by omega)
  have po : ppo L k = 0 := by unfold ppo; rw [if_neg (by omega), if_neg (by omega), if_neg (by omega), if_neg (by omega), if_neg (by omega)]
  have ef : fA A t = 30 * t + A 509 t - 1 := rfl
  have p := (g.1.2.1.1 k g.tp.1.1).2.2.2.2.2.1 e
  have hx := g.lc (s := pX L k) xr.1 x2
  rw [p, gm_r rfl] at hx
  have so := sit_ok g.1.1 g.2.1 hx.2.1
  have sbx := inR_sb g.1.1 g.2.1 hx
  rw [ef] at hb
  have vX : ∀ s, 0 ≤ s → s < pLc L (pMo L k) → gm A (pLk L (pMo L k) s) (ux (T 0 k) (pX L k) (rs (T 0 k (pX L k)) (sit A (A 513 (16 * (30 * t + A 509 t - 1) + pX L k)))) s) (A 513 (16 * (30 * t + A 509 t - 1) + s)) := by
    intro s s0 s1
    unfold ux
    by_cases c : s = pX L k
    · rw [if_pos c, c, p, gm_r rfl]
      exact inR_rs hx so.1 so.2.2.1
    · rw [if_neg c]; exact g.lc s0 s1
  have gt1 : b ≠ 0 → GT L T k (pZ L k) (ux (T 0 k) (pX L k) (rs (T 0 k (pX L k)) (sit A (A 513 (16 * (30 * t + A 509 t - 1) + pX L k))))) (T 6 k 0) := by
    intro y
    have z := hb.mp y
    by_cases c : pOp L k = 18
    · rw [if_pos c] at z
      exact (((CL18 c).mp g.c) _ sbx).1 (so.2.2.2.1.mpr z)
    · rw [if_neg c] at z
      exact (((CL19 (by omega)).mp g.c) _ sbx).1 ⟨fun q => z.1 (so.2.2.2.1.mp q), z.2⟩
  have gt2 : b = 0 → pOp L k ≠ 15 ∧ GT L T k (nx L k) (ux (T 0 k) (pX L k) (rs (T 0 k (pX L k)) (sit A (A 513 (16 * (30 * t + A 509 t - 1) + pX L k))))) (T 6 k 0) := by
    intro y
    refine ⟨by omega, ?_⟩
    by_cases c : pOp L k = 18
    · rw [if_pos c] at hb
      exact (((CL18 c).mp g.c) _ sbx).2 (fun q => hb.mpr (so.2.2.2.1.mp q) y)
    · rw [if_neg c] at hb
      exact (((CL19 (by omega)).mp g.c) _ sbx).2 (fun q => hb.mpr ⟨fun r => q.1 (so.2.2.2.1.mpr r), q.2⟩ y)
  have := d_jmp (n := 0) (b := b) g (by omega) (by omega) gt1 gt2 (fun _ => vX) (fun _ => vX)
  rw [drop_0] at this
  exact this
