/-! Part 50r: outcomes of methods (class Outcome) -/
/-- the outcome of method k, with its value and its callers behind it -/
def ouO (h : MH) (k : Int) : Prop := hv h 5 k = 144 + 3 * k ∧ ht h (144 + 3 * k) = 5 ∧ hv h (144 + 3 * k) 1 = 145 + 3 * k ∧ ht h (145 + 3 * k) = 4 ∧ hv h (144 + 3 * k) 8 = 146 + 3 * k ∧ ht h (146 + 3 * k) = 101 ∧ hn h (146 + 3 * k) = 24
section OU
variable {l : Launch} {G : JG} {h : MH} {k u n : Int} {Q : Int → MH → Prop} {E : Nat → Int → MH → Prop}
/-- locks that a method may unlock -/
theorem c_unlock (hG : gO G = true) (q : QI h n) (k0 : 0 ≤ k) (k1 : k < 40) (oo : ouO h k) (hb : ∀ p, 0 ≤ p → p < 1536 → ubt h (146 + 3 * k) p = true → p < n)
    (hQ : ∀ h', ((∀ s : Int, bi u s = true → bi (hv h (144 + 3 * k) 7) s = true) ∧ h' = h ∨ (¬ (∀ s : Int, bi u s = true → bi (hv h (144 + 3 * k) 7) s = true) ∧ onq (hset h (144 + 3 * k) 7 (i_or (hv h (144 + 3 * k) 7) u)) h' ∧ mor h (146 + 3 * k) h' ∧ ∀ p, 0 ≤ p → p < 1536 → ubt h (146 + 3 * k) p = true → hv h' 79 p ≠ 0)) → QI h' n → Q 0 h') :
    S_X2_unlock l G [(2002, 3), (9, 144 + 3 * k), (0, u)] h Q E := by
  obtain ⟨o1, o2, o3, o4, o5, o6, o7⟩ := oo
  refine s_X2_unlock rfl fun K ki => r_X2_unlock_0 ki hG ⟨by omega, fun e => ⟨by omega, by omega, fun h1 e1 => ⟨by omega, ?_⟩⟩, fun e => hQ h (Or.inl ⟨and_not.mp e, rfl⟩) q⟩
  have f : ∀ b j : Int, b ≠ 144 + 3 * k → hv h1 b j = hv h b j := fun b j hb' => by rw [e1]; exact ne_a hb'
  have q1 : QI h1 n := QI_of q (f 3 14 (by omega)) (f 3 15 (by omega)) (fun j => f 78 j (by omega)) (fun j => f 79 j (by omega))
  rw [show hv h1 (144 + 3 * k) 8 = 146 + 3 * k by rw [e1, ne_k (by decide)]; exact o5]
  have eu : ∀ p, ubt h1 (146 + 3 * k) p = ubt h (146 + 3 * k) p := fun p => ubt_ne (fun j => f _ j (by omega))
  refine c_wakeAll hG q1 (by omega) ⟨by omega, by omega, by omega⟩ (by rw [e1]; exact o7) (fun p p0 p1 pb => hb p p0 p1 (by rw [← eu]; exact pb)) fun h' o q' mo aw => ?_
  rw [e1] at o
  exact hQ h' (Or.inr ⟨fun r => e (and_not.mpr r), o, mor_of (fun j => f 79 j (by omega)) eu mo, fun p p0 p1 pb => aw p p0 p1 (by rw [eu]; exact pb)⟩) q'
end OU
