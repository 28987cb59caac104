/-! Part 38zf: THE TWIN's FACTS ARE KNOWN -/
set_option maxRecDepth 100000
def LIV (L : PG) (h : MH) : Prop := ∀ k x, inP L k → 0 ≤ x → x < 32 → (bi (hv h 503 k) x = true ↔ LVE L (tT h L) k x)
def KN (L : PG) (R : Int → Prop) (h : MH) : Prop := FX L R h ∧ LIV L h ∧ ORG L R h ∧ MK h L ∧ CKN h
def frK (h h' : MH) : Prop := h'.2 = h.2 ∧ ∀ a j, ¬ (458 ≤ a ∧ a ≤ 506) → ¬ (a = 396 ∧ ((11 ≤ j ∧ j ≤ 14) ∨ j = 16 ∨ (61 ≤ j ∧ j ≤ 67) ∨ j = 72 ∨ j = 74)) → hv h' a j = hv h a j
theorem frK_rfl (h : MH) : frK h h := ⟨rfl, fun _ _ _ _ => rfl⟩
theorem frK_tr {h1 h2 h3 : MH} (a : frK h1 h2) (b : frK h2 h3) : frK h1 h3 := ⟨b.1.trans a.1, fun x j p q => (b.2 x j p q).trans (a.2 x j p q)⟩
theorem frK_F {h h' : MH} (a : frF h h') : frK h h' := ⟨a.1, fun x j p q => a.2 x j (by omega) (by omega)⟩
theorem frK_L {h h' : MH} (a : frL h h') : frK h h' := ⟨a.1, fun x j p q => a.2 x j (by omega)⟩
theorem frK_O {h h' : MH} (a : frO h h') : frK h h' := ⟨a.1, fun x j p q => a.2 x j (by omega) (by omega)⟩
theorem frK_TF {h h' : MH} {L : PG} (f : frK h h') (t : TF h L) : TF h' L := t.of (f.2 _ _ (by omega) (by omega)) (fun a j h1 h2 => f.2 a j (by omega) (by omega))
theorem FX_of {h h' : MH} {L : PG} {R : Int → Prop} (e : ∀ a j, 460 ≤ a → a ≤ 498 → hv h' a j = hv h a j) (f : FX L R h) : FX L R h' := by
  have eT : tT h' L = tT h L := tT_eq e
  refine ⟨⟨by rw [eT]; exact f.1.1, cgt_of (fun j => e _ j (by omega) (by omega)) (fun j => e _ j (by omega) (by omega)) (fun a j ha => e a j (by unfold za at ha; omega) (by unfold za at ha; omega)) f.1.2.1, by rw [eT]; exact f.1.2.2.1, by rw [eT]; exact f.1.2.2.2⟩, ?_⟩
  rw [eT]
  intro k hk r
  rw [e 471 k (by omega) (by omega)]
  exact f.2 k hk r
theorem KN_of {h h' : MH} {L : PG} {R : Int → Prop} (e : ∀ a j, 459 ≤ a → a ≤ 506 → hv h' a j = hv h a j) (e16 : hv h' 396 16 = hv h 396 16) (e74 : hv h' 396 74 = hv h 396 74) (k : KN L R h) : KN L R h' := by
  have eT : tT h' L = tT h L := tT_eq (fun a j h1 h2 => e a j (by omega) (by omega))
  obtain ⟨k1, k2, ⟨⟨k3, k4, k5⟩, k6⟩, k7, k8⟩ := k
  refine ⟨FX_of (fun a j h1 h2 => e a j (by omega) (by omega)) k1, ?_, ⟨⟨?_, ?_, ?_⟩, ?_⟩, k7.of e16 (fun j => e _ j (by omega) (by omega)), fun k k0 k1 => by rw [e 503 k (by omega) (by omega), e 468 k (by omega) (by omega)]; exact k8.1 k k0 k1, fun o o0 o1 => by rw [e 505 o (by omega) (by omega)]; exact k8.2.1 o o0 o1, fun k k0 k1 => by rw [e 460 k (by omega) (by omega)]; exact k8.2.2.1 k k0 k1, fun k k0 k1 => by rw [e 472 k (by omega) (by omega)]; exact k8.2.2.2.1 k k0 k1, fun k k0 k1 => by rw [e 484 k (by omega) (by omega)]; exact k8.2.2.2.2.1 k k0 k1, fun k k0 k1 => by rw [e 488 k (by omega) (by omega)]; exact k8.2.2.2.2.2 k k0 k1⟩
  · unfold LIV at *
    rw [eT]
    intro x y a b c
    rw [e 503 x (by omega) (by omega)]; exact k2 x y a b c
  · rw [eT, e74]; exact k3
  · rw [eT]
    intro o m
    rw [e 505 o (by omega) (by omega)]; exact k4 o m
  · rw [eT]
    intro o
    rw [e 504 o (by omega) (by omega)]; exact k5 o
  · rw [eT]
    intro a b
    rw [e 506 _ (by omega) (by omega)]; exact k6 a b
theorem t_findFacts {l : Launch} {G : JG} (hG : gO G = true) {h : MH} {L : PG} {R : Int → Prop} (hz : ¬ L 99 0 = 1) (tf : TF h L) (w : WF L) (hR : ∀ m, inM L m → (¬ hv h 457 m = 0 ↔ R m)) (kn : ¬ hv h 396 11 = 0 → KN L R h) {Q : Int → MH → Prop} {E : Nat → Int → MH → Prop}
    (hQ : ∀ h', frK h h' → ¬ hv h' 396 11 = 0 → KN L R h' → Q 0 h') : S_X9_findFacts l G [(2009, 396)] h Q E := by
  refine t_findFacts0 (R := R) hG hz tf w hR (fun y => hQ h (frK_rfl h) y (kn y)) (fun _ h' f mk k11 fx => ?_)
  have tf' := frF_TF f tf
  refine t_findLive hG tf' w fx.1.2.1 fun h2 f2 lv => ?_
  have tf2 := frL_TF f2 tf'
  have fr2 : frK h h2 := frK_tr (frK_F f) (frK_L f2)
  refine t_findOrigins (R := R) hG tf2 w (fun m hm => ?_) fun h4 f4 og ck => ?_
  · rw [fr2.2 457 m (by omega) (by omega)]; exact hR m hm
  · refine hQ h4 (frK_tr fr2 (frK_O f4)) ?_ ⟨FX_of (fun a j h1 h2 => by rw [f4.2 a j (by omega) (by omega), f2.2 a j (by omega)]) fx, fun k x hk x0 x1 => ?_, og, mk.of (by rw [f4.2 396 16 (by omega) (by omega), f2.2 396 16 (by omega)]) (fun j => by rw [f4.2 459 j (by omega) (by omega), f2.2 459 j (by omega)]), ck⟩
    · rw [f4.2 396 11 (by omega) (by omega), f2.2 396 11 (by omega), k11]; decide
    · rw [f4.2 503 k (by omega) (by omega), lv k x hk x0 x1, frO_T f4, frL_T f2]
