/-! Part 42: what a place sends on grows with the facts (plain) -/
theorem fle_fv {l h b s l' h' b' s' : Int} (p1 : l' ≤ l) (p2 : h ≤ h') (p3 : ∀ x : Int, bi b x = true → bi b' x = true) (p4 : ∀ x : Int, bl s x = true → bl s' x = true) : fle (fv l h b s) (fv l' h' b' s') :=
  fun _ => ⟨show (1 : Int) ≠ 0 by decide, p1, p2, p3, p4, fun _ q => q⟩
theorem fle_fk {a b a' b' : Int} (p1 : ∀ x : Int, bi a' x = true → bi a x = true) (p2 : ∀ x : Int, bi b x = true → bi b' x = true) : fle (fk a b) (fk a' b') :=
  fun _ => ⟨show (1 : Int) ≠ 0 by decide, Int.le_refl _, Int.le_refl _, p2, fun _ q => q, p1⟩
theorem mn4_le (a b c d : Int) : mn4 a b c d ≤ a ∧ mn4 a b c d ≤ b ∧ mn4 a b c d ≤ c ∧ mn4 a b c d ≤ d := by unfold mn4; omega
theorem mx4_le (a b c d : Int) : a ≤ mx4 a b c d ∧ b ≤ mx4 a b c d ∧ c ≤ mx4 a b c d ∧ d ≤ mx4 a b c d := by unfold mx4; omega
theorem mn4_at (a b c d : Int) : mn4 a b c d = a ∨ mn4 a b c d = b ∨ mn4 a b c d = c ∨ mn4 a b c d = d := by unfold mn4; omega
theorem mx4_at (a b c d : Int) : mx4 a b c d = a ∨ mx4 a b c d = b ∨ mx4 a b c d = c ∨ mx4 a b c d = d := by unfold mx4; omega
theorem mul_btw {l a h : Int} (b : Int) (h1 : l ≤ a) (h2 : a ≤ h) : min (l * b) (h * b) ≤ a * b ∧ a * b ≤ max (l * b) (h * b) := by
  by_cases c : 0 ≤ b
  · have := Int.mul_le_mul_of_nonneg_right h1 c
    have := Int.mul_le_mul_of_nonneg_right h2 c
    omega
  · have := Int.mul_le_mul_of_nonpos_right h1 (show b ≤ 0 by omega)
    have := Int.mul_le_mul_of_nonpos_right h2 (show b ≤ 0 by omega)
    omega
theorem mul_snd {l h l2 h2 a b : Int} (h1 : l ≤ a) (h2' : a ≤ h) (h3 : l2 ≤ b) (h4 : b ≤ h2) : mn4 (l * l2) (l * h2) (h * l2) (h * h2) ≤ a * b ∧ a * b ≤ mx4 (l * l2) (l * h2) (h * l2) (h * h2) := by
  have p := mul_btw b h1 h2'
  have q1 := mul_btw l h3 h4
  have q2 := mul_btw h h3 h4
  rw [Int.mul_comm l2 l, Int.mul_comm h2 l, Int.mul_comm b l] at q1
  rw [Int.mul_comm l2 h, Int.mul_comm h2 h, Int.mul_comm b h] at q2
  unfold mn4 mx4
  omega
theorem td_nn {a d : Int} (ha : 0 ≤ a) (hd : 0 ≤ d) : a.tdiv d = ((a.toNat / d.toNat : Nat) : Int) := by
  obtain ⟨n, rfl⟩ := Int.eq_ofNat_of_zero_le ha
  obtain ⟨m, rfl⟩ := Int.eq_ofNat_of_zero_le hd
  rfl
theorem td_btw {p d q : Int} (a : Int) (h0 : 0 < p) (h1 : p ≤ d) (h2 : d ≤ q) : min (a.tdiv p) (a.tdiv q) ≤ a.tdiv d ∧ a.tdiv d ≤ max (a.tdiv p) (a.tdiv q) := by
  by_cases c : 0 ≤ a
  · rw [td_nn c (by omega), td_nn c (by omega), td_nn c (by omega)]
    have k1 : a.toNat / d.toNat ≤ a.toNat / p.toNat := Nat.div_le_div_left (by omega) (by omega)
    have k2 : a.toNat / q.toNat ≤ a.toNat / d.toNat := Nat.div_le_div_left (by omega) (by omega)
    omega
  · have e : ∀ d : Int, 0 ≤ d → a.tdiv d = -(((-a).toNat / d.toNat : Nat) : Int) := fun d hd => by
      have := td_nn (a := -a) (d := d) (by omega) hd
      rw [Int.neg_tdiv] at this
      omega
    rw [e p (by omega), e d (by omega), e q (by omega)]
    have k1 : (-a).toNat / d.toNat ≤ (-a).toNat / p.toNat := Nat.div_le_div_left (by omega) (by omega)
    have k2 : (-a).toNat / q.toNat ≤ (-a).toNat / d.toNat := Nat.div_le_div_left (by omega) (by omega)
    omega
theorem td_btn {p d q : Int} (a : Int) (h0 : q < 0) (h1 : p ≤ d) (h2 : d ≤ q) : min (a.tdiv p) (a.tdiv q) ≤ a.tdiv d ∧ a.tdiv d ≤ max (a.tdiv p) (a.tdiv q) := by
  have k := td_btw a (p := -q) (d := -d) (q := -p) (by omega) (by omega) (by omega)
  rw [Int.tdiv_neg, Int.tdiv_neg, Int.tdiv_neg] at k
  omega
theorem td_mono {l a h d : Int} (hd : d ≠ 0) (h1 : l ≤ a) (h2 : a ≤ h) : min (l.tdiv d) (h.tdiv d) ≤ a.tdiv d ∧ a.tdiv d ≤ max (l.tdiv d) (h.tdiv d) := by
  by_cases c : 0 < d
  · have := Int.tdiv_le_tdiv c h1
    have := Int.tdiv_le_tdiv c h2
    omega
  · have k1 := Int.tdiv_le_tdiv (show 0 < -d by omega) h1
    have k2 := Int.tdiv_le_tdiv (show 0 < -d by omega) h2
    rw [Int.tdiv_neg, Int.tdiv_neg] at k1 k2
    omega
theorem q_snd {l h l2 h2 a d : Int} (p1 : l ≤ a) (p2 : a ≤ h) (p3 : l2 ≤ d) (p4 : d ≤ h2) (p5 : d ≠ 0) : qlo l h l2 h2 ≤ a.tdiv d ∧ a.tdiv d ≤ qhi l h l2 h2 := by
  have m := td_mono p5 p1 p2
  unfold qlo qhi mn4 mx4
  by_cases c : l2 < 0
  · rw [if_pos c, if_pos c]
    by_cases c2 : 0 < h2
    · rw [if_pos c2, if_pos c2]
      by_cases c3 : d < 0
      · have k1 := td_btn l (p := l2) (d := d) (q := -1) (by omega) p3 (by omega)
        have k2 := td_btn h (p := l2) (d := d) (q := -1) (by omega) p3 (by omega)
        omega
      · have k1 := td_btw l (p := 1) (d := d) (q := h2) (by omega) (by omega) p4
        have k2 := td_btw h (p := 1) (d := d) (q := h2) (by omega) (by omega) p4
        omega
    · rw [if_neg c2, if_neg c2]
      have k1 := td_btn l (p := l2) (d := d) (q := min (-1) h2) (by omega) p3 (by omega)
      have k2 := td_btn h (p := l2) (d := d) (q := min (-1) h2) (by omega) p3 (by omega)
      omega
  · rw [if_neg c, if_neg c]
    have k1 := td_btw l (p := max 1 l2) (d := d) (q := h2) (by omega) (by omega) p4
    have k2 := td_btw h (p := max 1 l2) (d := d) (q := h2) (by omega) (by omega) p4
    omega
theorem mn4_ex {P : Int → Prop} {a b c d : Int} (h1 : P a) (h2 : P b) (h3 : P c) (h4 : P d) : P (mn4 a b c d) := by
  rcases mn4_at a b c d with e | e | e | e <;> rw [e] <;> assumption
theorem mx4_ex {P : Int → Prop} {a b c d : Int} (h1 : P a) (h2 : P b) (h3 : P c) (h4 : P d) : P (mx4 a b c d) := by
  rcases mx4_at a b c d with e | e | e | e <;> rw [e] <;> assumption
def qat (l h l2 h2 x : Int) : Prop := ∃ a d, l ≤ a ∧ a ≤ h ∧ l2 ≤ d ∧ d ≤ h2 ∧ d ≠ 0 ∧ x = a.tdiv d
theorem q_at {l h l2 h2 : Int} (p1 : l ≤ h) (p2 : l2 ≤ h2) (p3 : ¬ (l2 = 0 ∧ h2 = 0)) : qat l h l2 h2 (qlo l h l2 h2) ∧ qat l h l2 h2 (qhi l h l2 h2) := by
  have key : ∀ a d, l ≤ a → a ≤ h → l2 ≤ d → d ≤ h2 → d ≠ 0 → qat l h l2 h2 (a.tdiv d) := fun a d x1 x2 x3 x4 x5 => ⟨a, d, x1, x2, x3, x4, x5, rfl⟩
  unfold qlo qhi
  by_cases c : l2 < 0
  · rw [if_pos c, if_pos c]
    by_cases c2 : 0 < h2
    · rw [if_pos c2, if_pos c2]
      have a1 : qat l h l2 h2 (mn4 (l.tdiv l2) (l.tdiv (-1)) (h.tdiv l2) (h.tdiv (-1))) := mn4_ex (key _ _ (by omega) (by omega) (by omega) (by omega) (by omega)) (key _ _ (by omega) (by omega) (by omega) (by omega) (by omega)) (key _ _ (by omega) (by omega) (by omega) (by omega) (by omega)) (key _ _ (by omega) (by omega) (by omega) (by omega) (by omega))
      have a2 : qat l h l2 h2 (mn4 (l.tdiv 1) (l.tdiv h2) (h.tdiv 1) (h.tdiv h2)) := mn4_ex (key _ _ (by omega) (by omega) (by omega) (by omega) (by omega)) (key _ _ (by omega) (by omega) (by omega) (by omega) (by omega)) (key _ _ (by omega) (by omega) (by omega) (by omega) (by omega)) (key _ _ (by omega) (by omega) (by omega) (by omega) (by omega))
      have a3 : qat l h l2 h2 (mx4 (l.tdiv l2) (l.tdiv (-1)) (h.tdiv l2) (h.tdiv (-1))) := mx4_ex (key _ _ (by omega) (by omega) (by omega) (by omega) (by omega)) (key _ _ (by omega) (by omega) (by omega) (by omega) (by omega)) (key _ _ (by omega) (by omega) (by omega) (by omega) (by omega)) (key _ _ (by omega) (by omega) (by omega) (by omega) (by omega))
      have a4 : qat l h l2 h2 (mx4 (l.tdiv 1) (l.tdiv h2) (h.tdiv 1) (h.tdiv h2)) := mx4_ex (key _ _ (by omega) (by omega) (by omega) (by omega) (by omega)) (key _ _ (by omega) (by omega) (by omega) (by omega) (by omega)) (key _ _ (by omega) (by omega) (by omega) (by omega) (by omega)) (key _ _ (by omega) (by omega) (by omega) (by omega) (by omega))
      constructor
      · generalize mn4 (l.tdiv l2) (l.tdiv (-1)) (h.tdiv l2) (h.tdiv (-1)) = u at a1 ⊢
        generalize mn4 (l.tdiv 1) (l.tdiv h2) (h.tdiv 1) (h.tdiv h2) = v at a2 ⊢
        by_cases c3 : u ≤ v
        · rw [show min u v = u by omega]; exact a1
        · rw [show min u v = v by omega]; exact a2
      · generalize mx4 (l.tdiv l2) (l.tdiv (-1)) (h.tdiv l2) (h.tdiv (-1)) = u at a3 ⊢
        generalize mx4 (l.tdiv 1) (l.tdiv h2) (h.tdiv 1) (h.tdiv h2) = v at a4 ⊢
        by_cases c3 : u ≤ v
        · rw [show max u v = v by omega]; exact a4
        · rw [show max u v = u by omega]; exact a3
    · rw [if_neg c2, if_neg c2]
      exact ⟨mn4_ex (key _ _ (by omega) (by omega) (by omega) (by omega) (by omega)) (key _ _ (by omega) (by omega) (by omega) (by omega) (by omega)) (key _ _ (by omega) (by omega) (by omega) (by omega) (by omega)) (key _ _ (by omega) (by omega) (by omega) (by omega) (by omega)),
        mx4_ex (key _ _ (by omega) (by omega) (by omega) (by omega) (by omega)) (key _ _ (by omega) (by omega) (by omega) (by omega) (by omega)) (key _ _ (by omega) (by omega) (by omega) (by omega) (by omega)) (key _ _ (by omega) (by omega) (by omega) (by omega) (by omega))⟩
  · rw [if_neg c, if_neg c]
    exact ⟨mn4_ex (key _ _ (by omega) (by omega) (by omega) (by omega) (by omega)) (key _ _ (by omega) (by omega) (by omega) (by omega) (by omega)) (key _ _ (by omega) (by omega) (by omega) (by omega) (by omega)) (key _ _ (by omega) (by omega) (by omega) (by omega) (by omega)),
      mx4_ex (key _ _ (by omega) (by omega) (by omega) (by omega) (by omega)) (key _ _ (by omega) (by omega) (by omega) (by omega) (by omega)) (key _ _ (by omega) (by omega) (by omega) (by omega) (by omega)) (key _ _ (by omega) (by omega) (by omega) (by omega) (by omega))⟩
theorem q_mono {l h l2 h2 l' h' l2' h2' : Int} (p1 : l ≤ h) (p2 : l2 ≤ h2) (p3 : ¬ (l2 = 0 ∧ h2 = 0)) (q1 : l' ≤ l) (q2 : h ≤ h') (q3 : l2' ≤ l2) (q4 : h2 ≤ h2') : qlo l' h' l2' h2' ≤ qlo l h l2 h2 ∧ qhi l h l2 h2 ≤ qhi l' h' l2' h2' := by
  obtain ⟨⟨a, d, a1, a2, a3, a4, a5, a6⟩, ⟨b, f, b1, b2, b3, b4, b5, b6⟩⟩ := q_at p1 p2 p3
  rw [a6, b6]
  exact ⟨(q_snd (by omega) (by omega) (by omega) (by omega) a5).1, (q_snd (by omega) (by omega) (by omega) (by omega) b5).2⟩
theorem mul_mono {l h l2 h2 l' h' l2' h2' : Int} (p1 : l ≤ h) (p2 : l2 ≤ h2) (q1 : l' ≤ l) (q2 : h ≤ h') (q3 : l2' ≤ l2) (q4 : h2 ≤ h2') :
    mn4 (l' * l2') (l' * h2') (h' * l2') (h' * h2') ≤ mn4 (l * l2) (l * h2) (h * l2) (h * h2) ∧ mx4 (l * l2) (l * h2) (h * l2) (h * h2) ≤ mx4 (l' * l2') (l' * h2') (h' * l2') (h' * h2') := by
  have k1 := mul_snd (l := l') (h := h') (l2 := l2') (h2 := h2') (a := l) (b := l2) (by omega) (by omega) (by omega) (by omega)
  have k2 := mul_snd (l := l') (h := h') (l2 := l2') (h2 := h2') (a := l) (b := h2) (by omega) (by omega) (by omega) (by omega)
  have k3 := mul_snd (l := l') (h := h') (l2 := l2') (h2 := h2') (a := h) (b := l2) (by omega) (by omega) (by omega) (by omega)
  have k4 := mul_snd (l := l') (h := h') (l2 := l2') (h2 := h2') (a := h) (b := h2) (by omega) (by omega) (by omega) (by omega)
  exact ⟨mn4_ex (P := fun x => mn4 (l' * l2') (l' * h2') (h' * l2') (h' * h2') ≤ x) k1.1 k2.1 k3.1 k4.1, mx4_ex (P := fun x => x ≤ mx4 (l' * l2') (l' * h2') (h' * l2') (h' * h2')) k1.2 k2.2 k3.2 k4.2⟩
theorem iabs_eq (x : Int) : iabs x = max x (-x) := by unfold iabs; split <;> omega
theorem rnd_mono {L : PG} {l h b l' h' b' : Int} (p1 : l' ≤ l) (p2 : h ≤ h') (p3 : ∀ x : Int, bi b x = true → bi b' x = true) : fle (rnd L l h b) (rnd L l' h' b') := by
  unfold rnd
  by_cases c : l' < -2147483648 ∨ 2147483647 < h'
  · rw [if_pos c]
    by_cases d : l < -2147483648 ∨ 2147483647 < h
    · rw [if_pos d]; exact fle_fv (Int.le_refl _) (Int.le_refl _) p3 (fun _ q => q)
    · rw [if_neg d]
      exact fle_fv (dn_lo L (by omega)) (up_hi L (by omega)) p3 (fun _ q => q)
  · rw [if_neg c, if_neg (by omega)]
    exact fle_fv (dn_mono L (by omega) p1) (up_mono L (by omega) p2) p3 (fun _ q => q)
theorem fok_there {a : FA} (h : fok a) (e : ath a ≠ 0) : ath a = 1 ∧ c32 (alo a) ∧ c32 (ahi a) ∧ alo a ≤ ahi a ∧ c32 (alb a) ∧ c64 (ast a) ∧ c32 (asu a) := by
  rcases h with h | ⟨h0, h1, ⟨h2, h3⟩, h4, h5, h6⟩
  · rw [h] at e; exact absurd rfl e
  · exact ⟨h0, h1, h2, h3, h4, h5, h6⟩
theorem rk_mono {L : PG} {op : Int} {a b a' b' : FA} (oa : fok a) (ob : fok b) (pa : fle a a') (pb : fle b b') : fle (rk L op a b) (rk L op a' b') := by
  by_cases ha : ath a = 0
  · unfold rk; rw [if_pos (Or.inl ha)]; exact fle_fz _
  by_cases hb : ath b = 0
  · unfold rk; rw [if_pos (Or.inr hb)]; exact fle_fz _
  obtain ⟨a0, a1, a2, a3, a4, a5⟩ := pa ha
  obtain ⟨b0, b1', b2, b3, b4, b5⟩ := pb hb
  obtain ⟨-, -, -, la, -⟩ := fok_there oa ha
  obtain ⟨-, -, -, lb, -⟩ := fok_there ob hb
  unfold rk
  rw [if_neg (show ¬ (ath a = 0 ∨ ath b = 0) by omega), if_neg (show ¬ (ath a' = 0 ∨ ath b' = 0) by omega)]
  have or3 : ∀ x : Int, bi (i_or (alb b) (alb a)) x = true → bi (i_or (alb b') (alb a')) x = true := by
    intro x q
    rw [bi_or] at q ⊢
    simp at q ⊢
    rcases q with q | q
    · exact Or.inl (b3 x q)
    · exact Or.inr (a3 x q)
  by_cases o1 : op = 12
  · rw [if_pos o1, if_pos o1]; exact rnd_mono (by omega) (by omega) b3
  rw [if_neg o1, if_neg o1]
  by_cases o2 : op = 7
  · rw [if_pos o2, if_pos o2]; exact rnd_mono (by omega) (by omega) or3
  rw [if_neg o2, if_neg o2]
  by_cases o3 : op = 8
  · rw [if_pos o3, if_pos o3]; exact rnd_mono (by omega) (by omega) or3
  rw [if_neg o3, if_neg o3]
  by_cases o4 : op = 9
  · rw [if_pos o4, if_pos o4]
    have := mul_mono la lb a1 a2 b1' b2
    exact rnd_mono this.1 this.2 or3
  rw [if_neg o4, if_neg o4]
  by_cases z : alo b = 0 ∧ ahi b = 0
  · rw [if_pos z]; exact fle_fz _
  rw [if_neg z, if_neg (show ¬ (alo b' = 0 ∧ ahi b' = 0) by omega)]
  by_cases o5 : op = 11
  · rw [if_pos o5, if_pos o5]
    rw [iabs_eq, iabs_eq, iabs_eq, iabs_eq]
    refine rnd_mono ?_ ?_ or3
    · split <;> split <;> omega
    · split <;> split <;> omega
  rw [if_neg o5, if_neg o5]
  have := q_mono la lb z a1 a2 b1' b2
  exact rnd_mono this.1 this.2 or3
theorem ctf_mono {w y : Int} {f g : FA} (p : fle f g) (h : ath f ≠ 0) : fle (ctf w f y) (ctf w g y) := by
  obtain ⟨p0, p1, p2, p3, p4, p5⟩ := p h
  unfold ctf
  by_cases o0 : w = 0
  · rw [if_pos o0, if_pos o0]; exact fle_fv (Int.le_refl _) (Int.le_refl _) p3 p4
  rw [if_neg o0, if_neg o0]
  by_cases o1 : w = 1
  · rw [if_pos o1, if_pos o1]; exact fle_fv (by split <;> split <;> omega) (by split <;> split <;> omega) p3 p4
  rw [if_neg o1, if_neg o1]
  by_cases o2 : w = 2
  · rw [if_pos o2, if_pos o2]; exact fle_fv (by omega) (by omega) p3 p4
  rw [if_neg o2, if_neg o2]
  by_cases o3 : w = 3
  · rw [if_pos o3, if_pos o3]; exact fle_fv (by omega) (by omega) p3 p4
  rw [if_neg o3, if_neg o3]
  by_cases o4 : w = 4
  · rw [if_pos o4, if_pos o4]; exact fle_fv (by omega) (by omega) p3 p4
  rw [if_neg o4, if_neg o4]; exact fle_fv (by omega) (by omega) p3 p4
theorem may_mono {w : Int} {a b a' b' : FA} (oa : fok a) (ob : fok b) (pa : fle a a') (pb : fle b b') (h : mayp w a b) : mayp w a' b' := by
  obtain ⟨h1, h2, h3⟩ := h
  obtain ⟨a0, a1, a2, -⟩ := pa h1
  obtain ⟨b0, b1', b2, -⟩ := pb h2
  obtain ⟨-, -, -, la, -⟩ := fok_there oa h1
  obtain ⟨-, -, -, lb, -⟩ := fok_there ob h2
  refine ⟨a0, b0, ?_⟩
  unfold mayf at h3 ⊢
  by_cases o0 : w = 0
  · rw [if_pos o0] at h3 ⊢; split at h3; rw [if_pos (by omega)]; cases h3
  rw [if_neg o0] at h3 ⊢
  by_cases o1 : w = 1
  · rw [if_pos o1] at h3 ⊢; split at h3; cases h3; rw [if_neg (by omega)]
  rw [if_neg o1] at h3 ⊢
  by_cases o2 : w = 2
  · rw [if_pos o2] at h3 ⊢; split at h3; rw [if_pos (by omega)]; cases h3
  rw [if_neg o2] at h3 ⊢
  by_cases o3 : w = 3
  · rw [if_pos o3] at h3 ⊢; split at h3; rw [if_pos (by omega)]; cases h3
  rw [if_neg o3] at h3 ⊢
  by_cases o4 : w = 4
  · rw [if_pos o4] at h3 ⊢; split at h3; rw [if_pos (by omega)]; cases h3
  rw [if_neg o4] at h3 ⊢; split at h3; rw [if_pos (by omega)]; cases h3
def xle (X Y : Int → FA) : Prop := ∀ j, fle (X j) (Y j)
theorem ux_le {X Y : Int → FA} {s : Int} {v w : FA} (p : xle X Y) (q : fle v w) : xle (ux X s v) (ux Y s w) := by
  intro j; unfold ux; split
  · exact q
  · exact p j
theorem Flow_le {L : PG} {U V : TB} {q : Int} {X Y : Int → FA} {lk lk' : FA} (p : xle X Y) (r : fle lk lk') (t : tle U V) (h : Flow L U q Y lk') : Flow L V q X lk :=
  ⟨fun s hs => fle_trans (p s) (fle_trans (h.1 s hs) (t _ _ _)), fle_trans r (fle_trans h.2 (t _ _ _))⟩
theorem GT_le {L : PG} {U V : TB} {k i : Int} {X Y : Int → FA} {lk lk' : FA} (p : xle X Y) (r : fle lk lk') (t : tle U V) (h : GT L U k i Y lk') : GT L V k i X lk :=
  ⟨fle_trans h.1 (t _ _ _), Flow_le p r t h.2⟩
theorem TS_le {L : PG} {U V : TB} {k s : Int} {X Y : Int → FA} {lk lk' : FA} (p : xle X Y) (r : fle lk lk') (t : tle U V) (h : TS L U k Y s lk') : TS L V k X s lk :=
  ⟨fle_trans h.1 (t _ _ _), fun q => ⟨fle_trans (h.2.1 q).1 (t _ _ _), fle_trans r (fle_trans (h.2.1 q).2 (t _ _ _))⟩, fun q => Flow_le (ux_le p (fle_rfl _)) r t (h.2.2 q)⟩
theorem sb_le {a b : FA} {s : Int} (oa : fok a) (p : fle a b) (h : sb a s) : sb b s := by
  refine ⟨h.1, h.2.1, (p ?_).2.2.2.2.1 s h.2.2⟩
  intro e
  rcases oa with q | q
  · have := h.2.2; rw [q] at this
    rw [show ast fz = 0 from rfl, bl_zero] at this; cases this
  · omega
theorem cld_le {L : PG} {X Y : Int → FA} {k s c : Int} (ox : ∀ j, fok (X j)) (p : xle X Y) (h : cld L X k s c) : cld L Y k s c := by
  rcases h with h | ⟨h1, h2, h3, h4⟩
  · exact Or.inl h
  · exact Or.inr ⟨h1, h2, sb_le (ox _) (p _) h3, h4⟩
theorem ent_le {L : PG} {X Y : Int → FA} {k s c : Int} (p : xle X Y) : xle (ent L X k s c) (ent L Y k s c) := by
  intro j; unfold ent; split
  · split
    · exact fle_rfl _
    · exact p _
  · exact fle_rfl _
theorem undI_le {L : PG} {T U : TB} {k : Int} (oT : tbok T) (p : tle T U) (n : Nat) (x : Int) (h : bi (undI L T k n) x = true) : bi (undI L U k n) x = true := by
  induction n with
  | zero => exact h
  | succ n ih =>
    unfold undI at h ⊢
    by_cases c : ∃ s, cld L (T 0 k) k s n
    · have c' : ∃ s, cld L (U 0 k) k s n := by
        obtain ⟨s, hs⟩ := c
        exact ⟨s, cld_le (fun j => oT _ _ _) (fun j => p _ _ _) hs⟩
      rw [if_pos c] at h
      rw [if_pos c']
      rw [bi_or] at h ⊢
      simp at h ⊢
      rcases h with h | h
      · exact Or.inl (ih h)
      · refine Or.inr ((p 15 n 0 ?_).2.2.2.1 x h)
        intro e
        rcases oT 15 n 0 with q | q
        · rw [q, show alb fz = 0 from rfl, bi_zero] at h; cases h
        · omega
    · rw [if_neg c] at h
      have := ih h
      split
      · rw [bi_or, this]; rfl
      · exact this
theorem bi_andn (a b x : Int) : bi (i_and a (i_xor b (-1))) x = (bi a x && !bi b x) := by
  by_cases c : x < 32
  · rw [bi_and, bi_not c]
  · rw [bi_hi (by omega), bi_hi (x := a) (by omega)]; rfl
theorem bl_andn (a b x : Int) : bl (l_and a (l_xor b (-1))) x = (bl a x && !bl b x) := by
  by_cases c : x < 64
  · rw [bl_and, bl_not c]
  · rw [bl_hi (by omega), bl_hi (x := a) (by omega)]; rfl
theorem fle_asu {a b : FA} (p : fle a b) (h : ath a ≠ 0) (x : Int) (q : bi (asu b) x = true) : bi (asu a) x = true := (p h).2.2.2.2.2 x q
theorem alb_le {a b : FA} (oa : fok a) (p : fle a b) (x : Int) (q : bi (alb a) x = true) : bi (alb b) x = true := by
  refine (p ?_).2.2.2.1 x q
  intro e
  rcases oa with r | r
  · rw [r, show alb fz = 0 from rfl, bi_zero] at q; cases q
  · omega
theorem lkr_le {L : PG} {T U : TB} {k c : Int} (oT : tbok T) (p : tle T U) (hr : rch T k) (h7 : ath (T 7 c 0) ≠ 0) : fle (lkr L T k c) (lkr L U k c) := by
  unfold lkr
  refine fle_fk (fun x q => ?_) (fun x q => alb_le (oT _ _ _) (p _ _ _) x q)
  rw [bi_or, bi_andn] at q ⊢
  simp at q ⊢
  rcases q with q | ⟨q1, q2⟩
  · exact Or.inl (fle_asu (p 7 c 0) h7 x q)
  · refine Or.inr ⟨fle_asu (p 6 k 0) hr x q1, ?_⟩
    cases e : bi (und L T k) x
    · rfl
    · have := undI_le oT p _ x e
      rw [show undI L U k (pNm L).toNat = und L U k from rfl, q2] at this; cases this
theorem lke_le {T U : TB} {k c : Int} (oT : tbok T) (p : tle T U) (hr : rch T k) (h8 : ath (T 8 c 0) ≠ 0) : fle (lke T k c) (lke U k c) := by
  unfold lke
  refine fle_fk (fun x q => ?_) (fun x q => alb_le (oT _ _ _) (p _ _ _) x q)
  rw [bi_or, bi_andn] at q ⊢
  simp at q ⊢
  rcases q with q | ⟨q1, q2⟩
  · exact Or.inl (fle_asu (p 8 c 0) h8 x q)
  · refine Or.inr ⟨fle_asu (p 6 k 0) hr x q1, ?_⟩
    cases e : bi (alb (T 15 c 0)) x
    · rfl
    · have := alb_le (oT _ _ _) (p 15 c 0) x e
      rw [q2] at this; cases this
theorem ath_le {a b : FA} (p : fle a b) (h : ath a ≠ 0) : ath b ≠ 0 := (p h).1
