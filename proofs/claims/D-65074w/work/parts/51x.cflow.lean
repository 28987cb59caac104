/-! Part 51x: what a call reads, what it sends on, in the component -/
section CF2
variable {h g g' : MH} {L : PG} {k c : Int}
theorem rd_14 (hc : inM L c) : cT g L 14 c 0 = fb (hv g (144 + 3 * c) 4) := by
  rw [cT_14]
  unfold tc14
  rw [iff_p ⟨hc, rfl⟩]
theorem rd_8 (hc : inM L c) (nz : hv g (144 + 3 * c) 4 ≠ 0) : cT g L 8 c 0 = fk (hv g (144 + 3 * c) 5) (hv g (144 + 3 * c) 6) := by
  rw [cT_8]
  unfold tc8
  rw [iff_p ⟨hc, rfl, nz⟩]
theorem rd_15 (hc : inM L c) : cT g L 15 c 0 = fbi (hv g (144 + 3 * c) 7) := by
  rw [cT_15]
  unfold tc15
  rw [iff_p ⟨hc, rfl⟩]
theorem alb_fbi (x : Int) : alb (fbi x) = x := by
  unfold fbi
  split
  · rename_i e; rw [e]; rfl
  · rfl
theorem rd_15a (hc : inM L c) : alb (cT g L 15 c 0) = hv g (144 + 3 * c) 7 := by rw [rd_15 hc, alb_fbi]
theorem c15_fbi (c : Int) : cT g L 15 c 0 = fbi (alb (cT g L 15 c 0)) := by
  by_cases hc : inM L c
  · rw [rd_15a hc]; exact rd_15 hc
  · rw [cT_15]
    unfold tc15
    rw [iff_n (fun y => hc y.1)]
    rfl
theorem rd_7 (hc : inM L c) (y : hv g (144 + 3 * c) 0 = 1) : cT g L 7 c 0 = fk (hv g (144 + 3 * c) 2) (hv g (144 + 3 * c) 3) := by
  rw [cT_7]
  unfold tc7
  rw [iff_p ⟨hc, rfl, y⟩]
theorem rd_5 (hc : inM L c) (y : hv g (144 + 3 * c) 0 = 1) : cT g L 5 c 0 = if 0 < pGi L c then fo g (145 + 3 * c) else fv 0 0 0 0 := by
  rw [cT_5]
  unfold tc5
  rw [iff_p ⟨hc, rfl, y⟩]
theorem rd_5n (hc : inM L c) (y : hv g (144 + 3 * c) 0 = 0) : cT g L 5 c 0 = fz := by
  rw [cT_5]
  unfold tc5
  rw [iff_n (fun z => by have := z.2.2; omega)]
/-- facts that come to a method for several sites come for each -/
theorem Flow_en {U : TB} {X Y : Int → FA} {q xo : Int} {lk : FA} (hz : L 99 0 = 1) (co : c64 xo) (nz : xo ≠ 0) (ar : 1 ≤ pAr L c) (hY : ∀ j, 0 ≤ j → j < pAr L c → Y j = X (frs L k + j)) (s0 : ∀ s, 0 ≤ s → bl xo s = true → 1 ≤ s) (rl : ∀ j, rel L q j → 0 ≤ j) :
    Flow L U q (enX L c 1 xo Y) lk ↔ ∀ s, 0 ≤ s → s < 64 → bl xo s = true → Flow L U q (entz L X k s c) lk := by
  have e1 : ∀ s j, 1 ≤ s → rel L q j → j ≠ 0 → entz L X k s c j = enX L c 1 xo Y j := by
    intro s j s1 r j0
    unfold entz enX
    by_cases a : j < pAr L c
    · rw [if_pos a, if_pos a, if_neg (fun y => j0 y.1), if_neg (fun y => j0 y.1), hY j (rl j r) a]
    · rw [if_neg a, if_neg a]
  have e2 : ∀ s, 1 ≤ s → entz L X k s c 0 = b1 s := by
    intro s s1
    unfold entz
    rw [if_pos (by omega), if_pos ⟨rfl, by omega⟩, if_pos hz]
  have e3 : enX L c 1 xo Y 0 = fs xo := by
    unfold enX
    rw [if_pos (by omega), if_pos ⟨rfl, by decide⟩]
  constructor
  · intro p s sa sb' b
    have s1 := s0 s sa b
    refine ⟨fun j r => ?_, p.2⟩
    have q1 := p.1 j r
    by_cases j0 : j = 0
    · rw [j0] at q1 ⊢
      rw [e2 s s1]
      rw [e3] at q1
      exact (fs_le co nz).mp q1 s sa sb' b
    · rw [e1 s j s1 r j0]; exact q1
  · intro p
    obtain ⟨s, sa, sb', b⟩ := l_some co nz
    refine ⟨fun j r => ?_, (p s sa sb' b).2⟩
    by_cases j0 : j = 0
    · rw [j0, e3]
      refine (fs_le co nz).mpr (fun s' a1 a2 a3 => ?_)
      have := (p s' a1 a2 a3).1 j r
      rw [j0, e2 s' (s0 s' a1 a3)] at this
      exact this
    · have := (p s sa sb' b).1 j r
      rw [e1 s j (s0 s sa b) r j0] at this
      exact this
theorem enX_0 {X Y : Int → FA} {xo j : Int} (j0 : 0 ≤ j) (hY : ∀ j, 0 ≤ j → j < pAr L c → Y j = X (frs L k + j)) : enX L c 0 xo Y j = entz L X k (-1) c j := by
  unfold enX entz
  by_cases a : j < pAr L c
  · rw [if_pos a, if_pos a, if_neg (fun y => y.2 rfl), if_neg (fun y => y.2 rfl), hY j j0 a]
  · rw [if_neg a, if_neg a]
/-- a work that is closed unless it is woken -/
theorem WE_cl {P : TB → Prop} (w : WF L) (hk : inP L k) (t : tiv L (cT h L)) (hr : rch (cT h L) k) (u : usI h L k) (a : AdK L h g' P (fun U => CLz L U U k)) (no : pOp L k < 23 ∨ 26 < pOp L k)
    (cl : ¬ hv g' 79 k ≠ 0 → cT g' L 0 k = cT h L 0 k → cT g' L 6 k 0 = cT h L 6 k 0 → CLz L (cT g' L) (cT g' L) k ∧ ∀ a i j, inC L (cT g' L) k a i j → udom L a i j ∧ ubt g' (uad g' a i j) k = true) : WE h g' L k := by
  obtain ⟨a1, a2, a3, a4, a5, a6, a7, a8⟩ := a
  refine ⟨a1, a2, a3, a5, a7, fun j _ => a4 j, usI_up w hk t hr a5 (a4 k) u, ?_, a8⟩
  by_cases aw : hv g' 79 k ≠ 0
  · exact Or.inl aw
  · obtain ⟨e0, e6⟩ := (a3.2.1 k hk).resolve_left aw
    obtain ⟨c1, c2⟩ := cl aw (funext e0) e6
    exact Or.inr ⟨c1, c2, fun o1 o2 => by omega⟩
/-- methods read so far are noted, and what was read stands, or the place is awake -/
def RGx (L : PG) (T : TB) (k n : Int) (g : MH) (f : Int → Int → FA) : Prop := ∀ c, 0 ≤ c → c < n → CD L T k c → ubt g (146 + 3 * c) k = true ∧ (hv g 79 k ≠ 0 ∨ ∀ a, oca a → cT g L a c 0 = f a c)
theorem RGx_up {T : TB} {n : Int} {f : Int → Int → FA} (hk : inP L k) (nm : ∀ c, CD L T k c → inM L c) (wd : wkdC g g' L) (r : RGx L T k n g f) : RGx L T k n g' f := by
  intro c c0 c1 cd
  obtain ⟨r1, r2⟩ := r c c0 c1 cd
  have ud : ∀ a, oca a → udom L a c 0 := fun a o => Or.inr ⟨o, nm c cd, rfl⟩
  have o14 : oca 14 := by unfold oca; omega
  refine ⟨?_, ?_⟩
  · have := wd.2.2.2.1 14 c 0 (ud 14 o14) k hk (by rw [uad_o o14]; exact r1)
    rw [uad_o o14] at this
    exact this
  · by_cases aw : hv g' 79 k ≠ 0
    · exact Or.inl aw
    · right
      intro a o
      have n1 : ¬ hv g 79 k ≠ 0 := fun z => aw (wd.1 k z)
      have e := r2.resolve_left n1 a o
      rcases wd.2.2.1 a c 0 (ud a o) with z | z
      · exact z.trans e
      · exact absurd (z k hk (by rw [uad_o o]; exact r1)) aw
theorem RGx_eq {T : TB} {n : Int} {f f' : Int → Int → FA} (e : ∀ a c, c < n → f' a c = f a c) (r : RGx L T k n g f) : RGx L T k n g f' := by
  intro c c0 c1 cd
  obtain ⟨r1, r2⟩ := r c c0 c1 cd
  refine ⟨r1, ?_⟩
  rcases r2 with z | z
  · exact Or.inl z
  · exact Or.inr fun a o => by rw [e a c c1]; exact z a o
end CF2
