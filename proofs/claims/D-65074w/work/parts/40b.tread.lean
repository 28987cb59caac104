/-! Part 40b: the twin reads: bytes, classes -/
set_option maxRecDepth 100000
theorem bnd_ok (p : Int) (L : PG) (k : Int → PG → RdR) : bnd (.ok (p, L)) k = k p L := rfl
theorem rep_0 (f : Int → Int → PG → RdR) (i p : Int) (L : PG) : rep f 0 i p L = .ok (p, L) := rfl
theorem rep_s (f : Int → Int → PG → RdR) (n : Nat) (i p : Int) (L : PG) : rep f (n + 1) i p L = bnd (f i p L) (fun p' L' => rep f n (i + 1) p' L') := rfl
/-- what is read: the twin's tape; there is room for an exception -/
def RDB (B : Int → Int) (n : Int) (h0 : MH) : Prop := (0 ≤ n ∧ n ≤ 20000) ∧ hv h0 396 10 = n ∧ (∀ i, 0 ≤ i → i < n → i_and (hv h0 397 i) 255 = B i ∧ 0 ≤ B i ∧ B i ≤ 255) ∧ hz h0 + 1 ≤ LIMC ∧ hs h0 + 7 ≤ LIMS
/-- the twin has read up to p, its new file is L so far -/
def RDS (A : Int) (n : Int) (h0 h : MH) (p : Int) (L : PG) : Prop := (A = 398 ∨ A = 427) ∧ h.2 = h0.2 ∧ (∀ a j, ¬ (A ≤ a ∧ a ≤ A + 28) → ¬ (a = 396 ∧ (j = 9 ∨ (68 ≤ j ∧ j ≤ 71))) → hv h a j = hv h0 a j) ∧ (hv h 396 9 = p ∧ 0 ≤ p ∧ p ≤ n) ∧ ∀ o i, 0 ≤ o → o ≤ 28 → hv h (A + o) i = L o i
/-- an exception of a place -/
def FLT (A : Int) (h0 h : MH) (a e : Int) : Prop := a = hz h0 + 1 ∧ hv h a 0 = e ∧ hz h = hz h0 + 1 ∧ hs h = hs h0 + 7 ∧ (∀ b, b ≤ hz h0 → ht h b = ht h0 b ∧ hn h b = hn h0 b) ∧ ∀ b j, b ≤ hz h0 → ¬ (A ≤ b ∧ b ≤ A + 28) → ¬ (b = 396 ∧ (j = 9 ∨ (68 ≤ j ∧ j ≤ 71))) → hv h b j = hv h0 b j
theorem RDS.ne {A n : Int} {h0 h : MH} {p : Int} {L : PG} (r : RDS A n h0 h p L) : A ≠ 0 := by have := r.1; omega
theorem RDS.at {A n : Int} {h0 h : MH} {p : Int} {L : PG} (r : RDS A n h0 h p L) (o i : Int) (h0 : 0 ≤ o) (h1 : o ≤ 28) : hv h (A + o) i = L o i := r.2.2.2.2 o i h0 h1
theorem RDS.sc {A n : Int} {h0 h : MH} {p : Int} {L : PG} (r : RDS A n h0 h p L) (i : Int) : hv h A i = L 0 i := by
  have := r.at 0 i (by decide) (by decide)
  rwa [Int.add_zero] at this
theorem RDS.p {A n : Int} {h0 h : MH} {p : Int} {L : PG} (r : RDS A n h0 h p L) : hv h 396 9 = p := r.2.2.2.1.1
theorem RDS.set {A n : Int} {h0 h : MH} {p : Int} {L : PG} (r : RDS A n h0 h p L) {o i v : Int} (o0 : 0 ≤ o) (o1 : o ≤ 28) : RDS A n h0 (hset h (A + o) i v) p (mset L o i v) := by
  obtain ⟨r1, r2, r3, r4, r5⟩ := r
  refine ⟨r1, r2, fun a j x y => ?_, ⟨?_, r4.2⟩, fun o' i' a b => ?_⟩
  · rw [hv_set, if_neg (by omega)]; exact r3 a j x y
  · rw [hv_set, if_neg (by omega)]; exact r4.1
  · rw [hv_set]
    by_cases c : o' = o ∧ i' = i
    · rw [if_pos (by omega), c.1, c.2, m_eq]
    · rw [if_neg (by omega), m_ne c]; exact r5 o' i' a b
theorem RDS.set0 {A n : Int} {h0 h : MH} {p : Int} {L : PG} (r : RDS A n h0 h p L) {i v : Int} : RDS A n h0 (hset h A i v) p (mset L 0 i v) := by
  have := r.set (o := 0) (i := i) (v := v) (by decide) (by decide)
  rwa [Int.add_zero] at this
theorem RDS.eq {A n : Int} {h0 h : MH} {p : Int} {L L' : PG} (r : RDS A n h0 h p L) (e : ∀ o i, 0 ≤ o → o ≤ 28 → L' o i = L o i) : RDS A n h0 h p L' :=
  ⟨r.1, r.2.1, r.2.2.1, r.2.2.2.1, fun o i a b => by rw [e o i a b]; exact r.2.2.2.2 o i a b⟩
theorem RDS.b {A n : Int} {B : Int → Int} {h0 h : MH} {p : Int} {L : PG} (r : RDS A n h0 h p L) (b : RDB B n h0) : hv h 396 10 = n ∧ (∀ i, 0 ≤ i → i < n → i_and (hv h 397 i) 255 = B i ∧ 0 ≤ B i ∧ B i ≤ 255) ∧ hz h + 1 ≤ LIMC ∧ hs h + 7 ≤ LIMS := by
  obtain ⟨r1, r2, r3, r4, r5⟩ := r
  refine ⟨by rw [r3 _ _ (by omega) (by omega)]; exact b.2.1, fun i i0 i1 => ?_, by rw [h2_hz r2]; exact b.2.2.2.1, by rw [h2_hs r2]; exact b.2.2.2.2⟩
  rw [r3 397 i (by omega) (by omega)]
  exact b.2.2.1 i i0 i1
/-- an exception is made and thrown -/
theorem t_flt {l : Launch} {G : JG} (hG : gO G = true) {A n : Int} {B : Int → Int} {h0 h : MH} {p e : Int} {L : PG} (r : RDS A n h0 h p L) (b : RDB B n h0) (z0 : 455 ≤ hz h0) {E : Nat → Int → MH → Prop} (hE : ∀ a h', FLT A h0 h' a e → E 17 a h') :
    (hz h + 1 ≤ LIMC) ∧ (hs h + 7 ≤ LIMS) ∧ ∀ h1, h1 = hnew h 17 0 7 → S_X17_init l G [(2017, (hz h + 1)), (0, e)] h1 (fun _ h4 => E 17 (hz h + 1) h4) E := by
  have rb := r.b b
  obtain ⟨r1, r2, r3, r4, r5⟩ := r
  have ez := h2_hz r2
  refine ⟨rb.2.2.1, rb.2.2.2, fun h1 e1 => t_Fault hG (hE _ _ ?_)⟩
  have v1 : ∀ b j, b ≤ hz h0 → hv h1 b j = hv h b j := by
    intro b j q
    rw [e1]
    show (if b = hz h + 1 then 0 else h.1 b j) = _
    rw [if_neg (by omega)]; rfl
  refine ⟨by rw [ez], eq_a, ?_, ?_, fun b q => ⟨?_, ?_⟩, fun b j q x y => ?_⟩
  · rw [hz_set, e1]; show hz h + 1 = _; rw [ez]
  · rw [hs_set, e1]; show hs h + 7 = _; rw [h2_hs r2]
  · rw [ht_set, e1]; show (if b = hz h + 1 then 17 else ht h b) = _; rw [if_neg (by omega), h2_ht r2]
  · rw [hn_set, e1]; show (if b = hz h + 1 then 0 else hn h b) = _; rw [if_neg (by omega), h2_hn r2]
  · rw [ne_a (by omega), v1 b j q]
    exact r3 b j x y
section
variable {l : Launch} {G : JG} {A n : Int} {B : Int → Int} {h0 h : MH} {p : Int} {L : PG} {E : Nat → Int → MH → Prop} {K : Int → PG → Prop} {X : Int → Prop}
/-- any byte -/
theorem t_take0 (hG : gO G = true) (r : RDS A n h0 h p L) (b : RDB B n h0) (z0 : 455 ≤ hz h0) (hX : ∀ e, X e → ∀ a h', FLT A h0 h' a e → E 17 a h') {k : Int → RdR} (hr : prs (tkC B n 0 255 p k) K X) {Q : Int → MH → Prop}
    (hQ : p < n → 0 ≤ B p → B p ≤ 255 → prs (k (B p)) K X → ∀ h', RDS A n h0 h' (p + 1) L → Q (B p) h') : S_X9_take l G [(2009, 396)] h Q E := by
  have rb := r.b b
  have hp := r.2.2.2.1
  have nb := b.1
  have q := prs_tk hr
  refine s_X9_take rfl fun K1 ki => r_X9_take_0 ki hG ?_
  rw [r.p, rb.1]
  refine ⟨fun c => ?_, fun c => ?_⟩
  · intro h1 e1
    rw [w32_i (by omega) (by omega)] at e1
    have e9 : hv h1 396 9 = p + 1 := by rw [e1, eq_a]
    rw [e9, w32_i (by omega) (by omega), show p + 1 - 1 = p by omega]
    have bp := rb.2.1 p hp.2.1 c
    have e7 : hv h1 397 p = hv h 397 p := by rw [e1, ne_a (by decide)]
    refine ⟨by omega, by omega, ?_⟩
    rw [e7, bp.1]
    refine hQ c bp.2.1 bp.2.2 ((q.2 c).1 bp.2) h1 ⟨r.1, by rw [e1]; exact r.2.1, fun a j x y => ?_, ⟨e9, by omega, by omega⟩, fun o i o0 o1 => ?_⟩
    · rw [e1, hv_set, if_neg (by omega)]; exact r.2.2.1 a j x y
    · have := r.1
      rw [e1, ne_a (by omega)]; exact r.at o i o0 o1
  · have := t_flt (l := l) hG r b z0 (e := n) (E := E) (hX n (q.1 c))
    refine ⟨this.1, this.2.1, fun h2 e2 => ?_⟩
    have e10 : hv h2 396 10 = n := by
      have ez := h2_hz r.2.1
      rw [e2]
      show (if (396 : Int) = hz h + 1 then 0 else h.1 396 10) = n
      rw [if_neg (by omega)]; exact rb.1
    rw [e10]
    exact this.2.2 h2 e2
theorem t_take2 (hG : gO G = true) (r : RDS A n h0 h p L) (b : RDB B n h0) (z0 : 455 ≤ hz h0) (hX : ∀ e, X e → ∀ a h', FLT A h0 h' a e → E 17 a h') {lo hi : Int} {k : Int → RdR} (hr : prs (tkC B n lo hi p k) K X) {Q : Int → MH → Prop}
    (hQ : p < n → 0 ≤ B p → B p ≤ 255 → lo ≤ B p → B p ≤ hi → prs (k (B p)) K X → ∀ h', RDS A n h0 h' (p + 1) L → Q (B p) h') : S_X9_take_2 l G [(2009, 396), (0, lo), (0, hi)] h Q E := by
  have q := prs_tk hr
  refine s_X9_take_2 rfl fun K1 ki => r_X9_take_2_0 ki hG ?_
  have hr0 : prs (tkC B n 0 255 p (fun v => if lo ≤ v ∧ v ≤ hi then k v else .error p)) K X := by
    unfold tkC at hr ⊢
    by_cases c : n ≤ p
    · rw [if_pos c] at hr ⊢; exact hr
    · rw [if_neg c] at hr ⊢
      have bp := b.2.2.1 p r.2.2.2.1.2.1 (by omega)
      rw [if_pos bp.2]; exact hr
  refine t_take0 hG r b z0 hX hr0 fun c b0 b1 hk h' r' => ?_
  intro x ex
  have hk' := prs_if hk
  rw [ex]
  refine ⟨fun y => ?_, fun y => ?_⟩
  · have y' : lo ≤ B p ∧ B p ≤ hi := by
      apply Classical.byContradiction
      intro z
      exact y (isin_z.mpr z)
    exact hQ c b0 b1 y'.1 y'.2 (hk'.1 y') h' r'
  · have := t_flt (l := l) hG r' b z0 (e := p) (E := E) (hX p (hk'.2 (isin_z.mp y)))
    refine ⟨this.1, this.2.1, fun h2 e2 => ?_⟩
    have e9 : hv h2 396 9 = p + 1 := by
      have ez := h2_hz r'.2.1
      rw [e2]
      show (if (396 : Int) = hz h' + 1 then 0 else h'.1 396 9) = p + 1
      rw [if_neg (by omega)]; exact r'.p
    have nb := b.1
    have hp := r.2.2.2.1
    rw [e9, w32_i (by omega) (by omega), show p + 1 - 1 = p by omega]
    exact this.2.2 h2 e2
theorem bi_nat {x : Nat} {s : Int} (s1 : s < 32) : bi (x : Int) s = x.testBit s.toNat := by
  unfold bi
  rw [BitVec.ofInt_natCast, BitVec.getLsbD_ofNat]
  have : s.toNat < 32 := by omega
  simp [this]
theorem i_or8 {a b : Int} (a0 : 0 ≤ a) (a1 : a ≤ 255) (b0 : 0 ≤ b) (b1 : b ≤ 255) : i_or (i_shl a 8) b = 256 * a + b := by
  obtain ⟨x, rfl⟩ := Int.eq_ofNat_of_zero_le a0
  obtain ⟨y, rfl⟩ := Int.eq_ofNat_of_zero_le b0
  apply bi_ext (c32_i_or _ _) (by unfold c32; omega)
  intro i i0 i1
  have e1 : bi (i_shl (x : Int) 8) i = (decide (8 ≤ i.toNat) && x.testBit (i.toNat - 8)) := by
    rw [i_shl_v (by decide) (by decide)]
    unfold bi
    rw [BitVec.ofInt_toInt, BitVec.getLsbD_shiftLeft, BitVec.ofInt_natCast, BitVec.getLsbD_ofNat]
    have h1 : i.toNat < 32 := by omega
    have h2 : i.toNat - 8 < 32 := by omega
    by_cases c : 8 ≤ i.toNat
    · simp [h1, h2, c]
      intro _
      omega
    · simp [h1, h2, c]
      omega
  have e2 : ((256 : Int) * (x : Int) + (y : Int)) = ((x <<< 8 + y : Nat) : Int) := by
    rw [Nat.shiftLeft_eq]; push_cast; omega
  rw [bi_or, e1, bi_nat i1, e2, bi_nat i1, Nat.shiftLeft_add_eq_or_of_lt (by omega) x, Nat.testBit_or, Nat.testBit_shiftLeft]
theorem t_takeTwo (hG : gO G = true) (r : RDS A n h0 h p L) (b : RDB B n h0) (z0 : 455 ≤ hz h0) (hX : ∀ e, X e → ∀ a h', FLT A h0 h' a e → E 17 a h') {k : Int → RdR} (hr : prs (tk2 B n p k) K X) {Q : Int → MH → Prop}
    (hQ : p + 1 < n → -32768 ≤ s16 (B p) (B (p + 1)) → s16 (B p) (B (p + 1)) ≤ 32767 → prs (k (s16 (B p) (B (p + 1)))) K X → ∀ h', RDS A n h0 h' (p + 2) L → Q (s16 (B p) (B (p + 1))) h') : S_X9_takeTwo l G [(2009, 396)] h Q E := by
  have q := prs_tk2 hr
  refine s_X9_takeTwo rfl fun K1 ki => r_X9_takeTwo_0 ki hG ?_
  have hp := r.2.2.2.1
  have nb := b.1
  have hr0 : prs (tkC B n 0 255 p (fun _ => tkC B n 0 255 (p + 1) (fun _ => k (s16 (B p) (B (p + 1)))))) K X := by
    unfold tkC
    by_cases c : n ≤ p
    · rw [if_pos c]; exact q.1 (by omega)
    · rw [if_neg c]
      have bp := b.2.2.1 p hp.2.1 (by omega)
      rw [if_pos bp.2]
      by_cases d : n ≤ p + 1
      · rw [if_pos d]; exact q.1 d
      · rw [if_neg d]
        have bp' := b.2.2.1 (p + 1) (by omega) (by omega)
        rw [if_pos bp'.2]; exact q.2 (by omega)
  refine t_take0 hG r b z0 hX hr0 fun c b0 b1 hk h' r' => ?_
  intro x ex
  refine t_take0 hG r' b z0 hX hk fun c' b0' b1' hk' h'' r'' => ?_
  intro y ey
  have e : y = 256 * B p + B (p + 1) := by rw [ey, ex]; exact i_or8 b0 b1 b0' b1'
  rw [e]
  have es : (if 32767 < 256 * B p + B (p + 1) then w32 (256 * B p + B (p + 1) - 65536) else 256 * B p + B (p + 1)) = s16 (B p) (B (p + 1)) := by
    unfold s16
    split
    · rw [w32_i (by omega) (by omega)]
    · rfl
  rw [es]
  have bd : -32768 ≤ s16 (B p) (B (p + 1)) ∧ s16 (B p) (B (p + 1)) ≤ 32767 := by unfold s16; split <;> omega
  refine hQ c' bd.1 bd.2 hk' h'' ?_
  rw [show p + 1 + 1 = p + 2 by omega] at r''
  exact r''
end
