/-! Part 38w: calls -/
set_option maxRecDepth 100000
/-- what is called for the first n sites; whether one of them leads nowhere -/
def CLD (L : PG) (X : Int → FA) (k n c : Int) : Prop := ∃ s, s < n ∧ cld L X k s c
def SRT (L : PG) (some x n : Int) : Prop := ∃ s, 1 ≤ s ∧ s < n ∧ bl some s = true ∧ sent L s x < 0
theorem sto_neg (L : PG) (nm : Int) : ∀ (n : Nat) (c : Int), sto L nm n c < 0 → sto L nm n c = -1
  | 0, _, _ => rfl
  | n + 1, c, h => by
    unfold sto at h ⊢
    by_cases z : 0 ≤ frm (owns L c nm) (pNm L).toNat 0
    · rw [if_pos z] at h; omega
    · rw [if_neg z] at h ⊢
      by_cases z2 : c ≤ 0
      · rw [if_pos z2]
      · rw [if_neg z2] at h ⊢; exact sto_neg L nm n _ h
theorem t_call {l : Launch} {G : JG} (hG : gO G = true) {h h2 : MH} {L : PG} {k : Int} (hz : ¬ L 99 0 = 1) (q : wrk h L k h2) (e : pOp L k = 29 ∨ pOp L k = 30 ∨ pOp L k = 36) {Q : Int → MH → Prop} {E : Nat → Int → MH → Prop} (hQ : ∀ h', AdvC L k h h' (fun U => CLz L (tT h L) U k) → Q 0 h') :
    S_X9_call l G [(2009, 396), (0, k)] h2 (fun _ h' => Q 0 h') E := by
  have q' := q
  obtain ⟨tf, w, mk, t, k0, k1, hr, s2, c2⟩ := q'
  have nn := w.n
  unfold WFn at nn
  obtain ⟨mo, -, xr, yr, -, -, -, -, -, -, -, -, -, cy, cw, c36, -, -, -, dp, -⟩ := w.k k0 k1
  have tf2 := frA_TF s2.1 tf
  have T2 : tT h2 L = tT h L := q.t2
  have hk : inP L k := ⟨k0, k1⟩
  have likm : inM L (lik L k) := by
    unfold lik
    rcases e with e | e
    · rw [if_pos e]; exact ⟨(cy e).1, (cy e).2.1⟩
    · rw [if_neg (by omega)]; exact ⟨(cw (by omega)).2, (wnm_ok w (cw (by omega)).2).1⟩
  have lm1 := likm.1
  have lm2 := likm.2
  obtain ⟨-, -, -, ar0, ar1, -⟩ := w.m lm1 lm2
  have fre : frs L k = 8 + pDp L k - pAr L (lik L k) := rfl
  have p0 : ppo L k = pAr L (lik L k) := by
    rcases e with e | e | e
    · unfold ppo; simp [e]
    · unfold ppo; simp [e]
    · unfold ppo lik; simp [e]; exact ((c36 e).1).symm
  have p1 : ppu L k = if pOp L k = 36 then 0 else if 0 < pGi L (lik L k) then 1 else 0 := by
    rcases e with e | e | e <;> (unfold ppu; simp [e])
  have ard : pAr L (lik L k) ≤ pDp L k := by omega
  have o29a : pOp L k ≠ 29 → 1 ≤ pAr L (lik L k) := by
    intro z
    have : lik L k = wnm L (pX L k) := by unfold lik; rw [if_neg z]
    rw [this] at lm1 lm2 ⊢
    have wn := wnm_ok w lm1
    exact ((w.m lm1 lm2).2.2.2.2.2.1 wn.2.2).1
  have row464 : pOp L k ≠ 29 → ∀ g : MH, same h g → hv g 464 (16 * k + frs L k) = ast (tT h L 0 k (frs L k)) := by
    intro z g sg
    rw [sg.2.1 464 _ (by omega) (by omega)]
    show _ = ast (t0 h L k (frs L k))
    unfold t0
    rw [iff_p ⟨hk, hr, Or.inr ⟨by omega, by have := o29a z; omega⟩⟩]; rfl
  have sk := tiv_sok t w 0 k (frs L k)
  have ts0 : pOp L k ≠ 29 → fgd L (tT h L) (tT h L 0 k (frs L k)) := fun z => q.st (by omega) (by have := o29a z; omega)
  -- what is asked of a closed table
  have clE : ∀ U, CLz L U U k → ∀ s c, cld L (U 0 k) k s c → fle (fs 0) (U 10 k c) ∧ Flow L U (pFi L c) (entz L (U 0 k) k s c) (if pOp L k = 36 then fk 0 0 else U 6 k 0) := by
    intro U cz s c hc
    rcases e with e | e | e
    · have := ((CL29 (Or.inl e)).mp cz).1 s c hc
      rw [if_neg (by omega)]; exact ⟨this.1, this.2.1⟩
    · have := ((CL29 (Or.inr e)).mp cz).1 s c hc
      rw [if_neg (by omega)]; exact ⟨this.1, this.2.1⟩
    · have := ((CL36 e).mp cz).1 s c hc
      rw [if_pos e]; exact ⟨this.1, this.2.1⟩
  have clR : ∀ U, CLz L U U k → pOp L k ≠ 29 → ∀ s, sb (U 0 k (frs L k)) s → (s = 0 → TS L U k (U 0 k) 1 (U 6 k 0)) ∧ (s ≠ 0 → sent L s (pX L k) < 0 → TS L U k (U 0 k) 5 (U 6 k 0)) := by
    intro U cz z s hs
    rcases e with e | e | e
    · exact absurd e z
    · exact ((CL29 (Or.inr e)).mp cz).2 e s hs
    · exact ((CL36 e).mp cz).2 s hs
  refine s_X9_call rfl fun K ki => r_X9_call_0 ki hG ⟨tf2.ne, k0, by omega, ?_⟩
  intro op eop
  rw [tf2.op] at eop
  subst eop
  refine ⟨tf2.ne, k0, by omega, ?_⟩
  intro m em
  rw [tf2.mo] at em
  subst em
  -- from the first loop on: some are the sites of the first argument
  have first : ∀ (some : Int), (pOp L k = 29 → some = 0) → (pOp L k ≠ 29 → some = ast (tT h L 0 k (frs L k))) → ∀ (g : MH), AdvC L k h g (fun U => bl some 0 = true → TS L U k (tT h L 0 k) 1 (tT h L 6 k 0)) → ∀ (v9 : Int), v9 = (if pOp L k = 29 then (l_shl 1 (lik L k)) else 0 : Int) →
      JW K 155 [(2009, 396), (0, k), (0, pOp L k), (0, pMo L k), (0, lik L k), (0, frs L k), (1, some), (5000, 0), (0, (if pOp L k = 36 then 1 else 0 : Int)), (1, v9), (5000, 0), (0, 0), (0, 1), (5000, 0), (5000, 0), (5000, 0), (5000, 0)] [] g := by
    intro some so29 son g a0 v9 ev9
    have up0 : ∀ U V : TB, tle U V → (bl some 0 = true → TS L U k (tT h L 0 k) 1 (tT h L 6 k 0)) → (bl some 0 = true → TS L V k (tT h L 0 k) 1 (tT h L 6 k 0)) := fun U V p y z => TS_up p (y z)
    have sso : ∀ s, 0 ≤ s → bl some s = true → pOp L k ≠ 29 ∧ sb (tT h L 0 k (frs L k)) s ∧ s < pNt L := by
      intro s s0 y
      have o29 : pOp L k ≠ 29 := by
        intro z
        rw [so29 z, bl_zero] at y; cases y
      rw [son o29] at y
      have := sk.2 s s0 y
      exact ⟨o29, ⟨s0, by omega, y⟩, this⟩
    have cldi : ∀ s c, cld L (tT h L 0 k) k s c ↔ ((pOp L k = 29 ∧ s = -1 ∧ c = lik L k) ∨ (1 ≤ s ∧ bl some s = true ∧ c = sent L s (pX L k) ∧ 0 ≤ c)) := by
      intro s c
      unfold cld
      constructor
      · rintro (⟨z1, z2, z3⟩ | ⟨z1, z2, z3, z4, z5⟩)
        · exact Or.inl ⟨z1, z2, by unfold lik; rw [if_pos z1]; exact z3⟩
        · exact Or.inr ⟨z2, by rw [son z1]; exact z3.2.2, z4, z5⟩
      · rintro (⟨z1, z2, z3⟩ | ⟨z1, z2, z3, z4⟩)
        · refine Or.inl ⟨z1, z2, ?_⟩
          unfold lik at z3; rw [if_pos z1] at z3; exact z3
        · have := sso s (by omega) z2
          exact Or.inr ⟨this.1, z1, this.2.1, z3, z4⟩
    have cl29 : ∀ c, pOp L k = 29 → ((∃ s, cld L (tT h L 0 k) k s c) ↔ c = lik L k) := by
      intro c z
      constructor
      · rintro ⟨s, hs⟩
        rcases (cldi s c).mp hs with y | y
        · exact y.2.2
        · exact absurd z (sso s (by omega) y.2.1).1
      · intro y
        exact ⟨-1, (cldi (-1) c).mpr (Or.inl ⟨z, rfl, y⟩)⟩
    -- the second part: from the loop over what is called
    have second : ∀ (v9 v11 : Int) (g : MH) (P : TB → Prop), AdvC L k h g P → (∀ U V, tle U V → P U → P V) → c64 v9 → (∀ c, 0 ≤ c → (bl v9 c = true ↔ ∃ s, cld L (tT h L 0 k) k s c)) → ¬ v9 = 0 →
        (∀ U, P U → (∀ s c, cld L (tT h L 0 k) k s c → fle (fs 0) (U 10 k c)) ∧ (pOp L k ≠ 29 → ∀ s, sb (tT h L 0 k (frs L k)) s → (s = 0 → TS L U k (tT h L 0 k) 1 (tT h L 6 k 0)) ∧ (s ≠ 0 → sent L s (pX L k) < 0 → TS L U k (tT h L 0 k) 5 (tT h L 6 k 0)))) →
        JW K 273 [(2009, 396), (0, k), (0, pOp L k), (0, pMo L k), (0, lik L k), (0, frs L k), (1, some), (5000, 0), (0, (if pOp L k = 36 then 1 else 0 : Int)), (1, v9), (5000, 0), (0, v11), (0, 0), (0, 0), (5000, 0), (5000, 0), (5000, 0)] [] g := by
      intro v9 v11 g P a up c9 h9 nz facts
      have upF : ∀ n : Int, ∀ U V : TB, tle U V → (P U ∧ ∀ s c, cld L (tT h L 0 k) k s c → c < n → Flow L U (pFi L c) (entz L (tT h L 0 k) k s c) (if pOp L k = 36 then fk 0 0 else tT h L 6 k 0)) → (P V ∧ ∀ s c, cld L (tT h L 0 k) k s c → c < n → Flow L V (pFi L c) (entz L (tT h L 0 k) k s c) (if pOp L k = 36 then fk 0 0 else tT h L 6 k 0)) :=
        fun n U V p y => ⟨up U V p y.1, fun s c hs cn => Flow_le (fun _ => fle_rfl _) (fle_rfl _) p (y.2 s c hs cn)⟩
      have fbia : ∀ x : Int, alb (fbi x) = x := fun x => by unfold fbi; split; (rename_i z; rw [z]; rfl); rfl
      have u15 : ∀ (g' : MH) (c : Int), inM L c → alb (tT g' L 15 c 0) = hv g' 498 c := by
        intro g' c hc
        show alb (t15 g' L c 0) = _
        unfold t15
        rw [iff_p ⟨hc, rfl⟩, fbia]
      -- after all have been entered
      have third : ∀ (v12 : Int) (g' : MH), AdvC L k h g' (fun U => P U ∧ ∀ s c, cld L (tT h L 0 k) k s c → c < pNm L → Flow L U (pFi L c) (entz L (tT h L 0 k) k s c) (if pOp L k = 36 then fk 0 0 else tT h L 6 k 0)) → c32 v12 →
          (∀ x : Int, bi v12 x = true → ∃ c, 0 ≤ c ∧ c < pNm L ∧ (∃ s, cld L (tT h L 0 k) k s c) ∧ bi (alb (tT g' L 15 c 0)) x = true) →
          (∀ s c, cld L (tT h L 0 k) k s c → ∀ x : Int, bi (alb (tT h L 15 c 0)) x = true → bi v12 x = true) → pOp L k ≠ 36 →
          JW K 273 [(2009, 396), (0, k), (0, pOp L k), (0, pMo L k), (0, lik L k), (0, frs L k), (1, some), (5000, 0), (0, (if pOp L k = 36 then 1 else 0 : Int)), (1, v9), (5000, 0), (0, v11), (0, v12), (0, pNm L), (5000, 0), (5000, 0), (5000, 0)] [] g' := by
        intro v12 g' a' c12 u1 u2 n36
        have e' : pOp L k = 29 ∨ pOp L k = 30 := by omega
        rw [if_neg n36]
        refine call3 hG q e' ki hQ a' (upF _) h9 c12 u1 (fun c ⟨s, hs⟩ => u2 s c hs) (fun U pU => ⟨fun s c hs => ⟨(facts U pU.1).1 s c hs, ?_⟩, fun z => (facts U pU.1).2 (by omega)⟩)
        have := pU.2 s c hs (cld_ok w t k0 k1 e hs).1.2
        rw [if_neg n36] at this
        exact this
      have key : ∀ N : Nat, ∀ n v12 : Int, ∀ g' : MH, (pNm L - n).toNat ≤ N → 0 ≤ n → n ≤ pNm L → AdvC L k h g' (fun U => P U ∧ ∀ s c, cld L (tT h L 0 k) k s c → c < n → Flow L U (pFi L c) (entz L (tT h L 0 k) k s c) (if pOp L k = 36 then fk 0 0 else tT h L 6 k 0)) → c32 v12 →
          (∀ x : Int, bi v12 x = true → ∃ c, 0 ≤ c ∧ c < n ∧ (∃ s, cld L (tT h L 0 k) k s c) ∧ bi (alb (tT g' L 15 c 0)) x = true) →
          (∀ s c, cld L (tT h L 0 k) k s c → c < n → ∀ x : Int, bi (alb (tT h L 15 c 0)) x = true → bi v12 x = true) →
          JW K 273 [(2009, 396), (0, k), (0, pOp L k), (0, pMo L k), (0, lik L k), (0, frs L k), (1, some), (5000, 0), (0, (if pOp L k = 36 then 1 else 0 : Int)), (1, v9), (5000, 0), (0, v11), (0, v12), (0, n), (5000, 0), (5000, 0), (5000, 0)] [] g' := by
        have fin : ∀ (v12 : Int) (g' : MH), AdvC L k h g' (fun U => P U ∧ ∀ s c, cld L (tT h L 0 k) k s c → c < pNm L → Flow L U (pFi L c) (entz L (tT h L 0 k) k s c) (if pOp L k = 36 then fk 0 0 else tT h L 6 k 0)) → c32 v12 →
          (∀ x : Int, bi v12 x = true → ∃ c, 0 ≤ c ∧ c < pNm L ∧ (∃ s, cld L (tT h L 0 k) k s c) ∧ bi (alb (tT g' L 15 c 0)) x = true) →
          (∀ s c, cld L (tT h L 0 k) k s c → c < pNm L → ∀ x : Int, bi (alb (tT h L 15 c 0)) x = true → bi v12 x = true) →
          JW K 273 [(2009, 396), (0, k), (0, pOp L k), (0, pMo L k), (0, lik L k), (0, frs L k), (1, some), (5000, 0), (0, (if pOp L k = 36 then 1 else 0 : Int)), (1, v9), (5000, 0), (0, v11), (0, v12), (0, pNm L), (5000, 0), (5000, 0), (5000, 0)] [] g' := by
          intro v12 g' a' c12 u1 u2
          by_cases e36 : pOp L k = 36
          · have tg := frA_TF a'.1 tf
            obtain ⟨cs, cc, hcs⟩ : ∃ s c, cld L (tT h L 0 k) k s c := by
              have : ∃ c, 0 ≤ c ∧ bl v9 c = true := by
                apply Classical.byContradiction
                intro no
                apply nz
                rw [bl_eq0 c9]
                intro s s0 _
                cases r : bl v9 s
                · rfl
                · exact absurd ⟨s, s0, r⟩ no
              obtain ⟨c, c0, y⟩ := this
              obtain ⟨s, hs⟩ := (h9 c c0).mp y
              exact ⟨s, c, hs⟩
            refine r_X9_call_273 ki hG ⟨tg.ne, fun _ => ⟨fun z => ?_, fun _ => ?_⟩, fun z => by rw [tg.nnm] at z; omega⟩
            · rw [if_pos e36] at z; omega
            · refine w_toss hG q a' (upF _) (by omega) (by omega) (fun U oU pU cz => ?_) (Q := fun _ g9 => S_X9_takeFacts l G [(2009, 396), (0, k)] g9 (fun _ h11 => (∀ h12, h12 = hset h11 396 61 (w32 (frs L k - 8)) → S_X9_flowOn l G [(2009, 396), (0, k)] h12 (fun _ h14 => Q 0 h14) E)) E) (fun g9 a9 => ?_)
              · exact (((CL36 e36).mp cz).1 cs cc (cld_le (fun j => t.1 _ _ _) (fun j => pU _ _ _) hcs)).2.2.1
              · have up9 : ∀ U V : TB, tle U V → ((P U ∧ ∀ s c, cld L (tT h L 0 k) k s c → c < pNm L → Flow L U (pFi L c) (entz L (tT h L 0 k) k s c) (if pOp L k = 36 then fk 0 0 else tT h L 6 k 0)) ∧ TS L U k (tT h L 0 k) 6 (tT h L 6 k 0)) → ((P V ∧ ∀ s c, cld L (tT h L 0 k) k s c → c < pNm L → Flow L V (pFi L c) (entz L (tT h L 0 k) k s c) (if pOp L k = 36 then fk 0 0 else tT h L 6 k 0)) ∧ TS L V k (tT h L 0 k) 6 (tT h L 6 k 0)) := fun U V p y => ⟨upF _ U V p y.1, TS_up p y.2⟩
                refine w_take hG q a9 (fun g11 s11 c11 _ a11 => ?_) up9
                intro h12 e12
                rw [w32_i (by omega) (by omega)] at e12
                have le9 := a9.2.2.2.1
                have r9 : rch (tT g9 L) k := ath_le (le9 _ _ _) q.r
                have s12 : same g11 h12 := by rw [e12]; exact same_set (by omega)
                have T12 : tT h12 L = tT g9 L := by rw [same_T s12, same_T s11]
                have a12 := AdvC_sm a11 s12 up9
                have c12' : cur L (pMo L k) h12 (tT g9 L 0 k) (tT g9 L 6 k 0) (frs L k - 8) := by
                  refine ⟨fun j hj => ?_, ?_, ?_⟩
                  · rw [← c11.1 j (by unfold vld at hj ⊢; omega), e12]; unfold cX
                    rw [ne_a (by decide), ne_a (by decide), ne_a (by decide), ne_a (by decide)]
                  · rw [← c11.2.1, e12]; unfold lkc_; rw [ne_k (by decide), ne_k (by decide)]
                  · rw [e12, eq_a]
                rw [if_pos e36] at p1
                refine w_flowOn hG q a12 up9 (by omega) (by omega) (by omega) c12' (by omega) (by rw [T12]; exact fun j hj => tiv_slot a9.2.2.1 r9 (by unfold vld at hj; unfold rel; omega)) (by rw [T12]; exact tiv_lock a9.2.2.1 r9) (fun U oU p cz => ?_) (fun h' b _ => hQ h' (AdvC_w b (fun _ p => (CL36 e36).mpr ⟨fun s c hs => ?_, (facts _ p.1.1.1).2 (by omega)⟩)))
                · rw [T12] at p
                  exact (((CL36 e36).mp (CL_dn a9.2.2.1 r9 p cz)).1 cs cc (cld_le (fun j => t.1 _ _ _) (fun j => le9 _ _ _) hcs)).2.2.2
                · have cm := (cld_ok w t k0 k1 (Or.inr (Or.inr e36)) hs).1
                  have fl := p.1.1.2 s c hs cm.2
                  rw [if_pos e36] at fl
                  exact ⟨(facts _ p.1.1.1).1 s c hs, fl, p.1.2, GT_le (fun j => le9 _ _ _) (le9 _ _ _) (tle_rfl _) p.2⟩
          · exact third v12 g' a' c12 u1 (fun s c hs => u2 s c hs (cld_ok w t k0 k1 e hs).1.2) e36
        intro N
        induction N with
        | zero =>
          intro n v12 g' b1' b2 b3 a' c12 u1 u2
          have : n = pNm L := by omega
          subst this
          exact fin v12 g' a' c12 u1 u2
        | succ N ih =>
          intro n v12 g' b1' b2 b3 a' c12 u1 u2
          by_cases nm : n = pNm L
          · subst nm; exact fin v12 g' a' c12 u1 u2
          · have tg := frA_TF a'.1 tf
            have nM : inM L n := ⟨b2, by omega⟩
            have le' := a'.2.2.2.1
            have r' : rch (tT g' L) k := ath_le (le' _ _ _) q.r
            have r460 : hv g' 460 k = 1 := (rch_iff hk).mp r'
            refine r_X9_call_273 ki hG ⟨tg.ne, fun z => by rw [tg.nnm] at z; omega, fun _ => ⟨fun z => ?_, fun z => ?_⟩⟩
            · rw [lc_eq, l_bit (by omega) (by omega)] at z
              have cb : bl v9 n = true := bt2 z
              obtain ⟨s0, hs0⟩ := (h9 n b2).mp cb
              have cm := cld_ok w t k0 k1 e hs0
              intro x14 e14 x16 e16
              subst e14; subst e16
              -- the sites that lead to n
              have own : ∀ M : Nat, ∀ j v14 : Int, (63 - j).toNat ≤ M → 1 ≤ j → j ≤ 63 → c64 v14 → (pOp L k ≠ 29 → ∀ s, 0 ≤ s → (bl v14 s = true ↔ 1 ≤ s ∧ s < j ∧ bl some s = true ∧ sent L s (pX L k) = n)) → (pOp L k = 29 → v14 = 0) →
                  JW K 306 [(2009, 396), (0, k), (0, pOp L k), (0, pMo L k), (0, lik L k), (0, frs L k), (1, some), (5000, 0), (0, (if pOp L k = 36 then 1 else 0 : Int)), (1, v9), (5000, 0), (0, v11), (0, v12), (0, n), (1, v14), (5000, 0), (0, j)] [] g' := by
                have go : ∀ j v14 : Int, c64 v14 → (pOp L k ≠ 29 → ∀ s, 0 ≤ s → (bl v14 s = true ↔ 1 ≤ s ∧ bl some s = true ∧ sent L s (pX L k) = n)) → (pOp L k = 29 → v14 = 0) → ¬ (j < 63 ∧ ¬ pOp L k = 29) →
                    JW K 306 [(2009, 396), (0, k), (0, pOp L k), (0, pMo L k), (0, lik L k), (0, frs L k), (1, some), (5000, 0), (0, (if pOp L k = 36 then 1 else 0 : Int)), (1, v9), (5000, 0), (0, v11), (0, v12), (0, n), (1, v14), (5000, 0), (0, j)] [] g' := by
                  intro j v14 c14 h14 h14' nj
                  refine JW_hyp fun Hg okg _ => ?_
                  have og := okg _ List.mem_cons_self
                  have hGk : gO (kG K) = true := by rw [ki.2.2.1]; exact hG
                  have c465 : c32 (hv g' 465 k) := okf_i (tw_ok Hg hGk og 23 (off := 69) (n := 1500) (t := 100) (e := 0) (by decide) (by decide) (by decide) (by decide) (by decide) k0 (by omega))
                  have c466 : c32 (hv g' 466 k) := okf_i (tw_ok Hg hGk og 24 (off := 70) (n := 1500) (t := 100) (e := 0) (by decide) (by decide) (by decide) (by decide) (by decide) k0 (by omega))
                  have r6 := t6_row (L := L) hk r460
                  have lkv : fk (if (if pOp L k = 36 then 1 else 0 : Int) = 0 then (hv g' 465 k) else 0 : Int) (if (if pOp L k = 36 then 1 else 0 : Int) = 0 then (hv g' 466 k) else 0 : Int) = if pOp L k = 36 then fk 0 0 else tT g' L 6 k 0 := by
                    by_cases y : pOp L k = 36
                    · rw [if_pos y, if_pos y, if_neg (by decide), if_neg (by decide)]
                    · rw [if_neg y, if_neg y, if_pos rfl, if_pos rfl, r6]
                  have lkle : fle (if pOp L k = 36 then fk 0 0 else tT h L 6 k 0) (if pOp L k = 36 then fk 0 0 else tT g' L 6 k 0) := by
                    split
                    · exact fle_rfl _
                    · exact le' _ _ _
                  have gr' : pOp L k ≠ 29 → ath (tT g' L 0 k (frs L k)) ≠ 0 := fun y => ath_le (le' _ _ _) (by rw [(ts0 y).2.2.2]; decide)
                  have s8 : su8 (hv g' 465 k) := by have := (a'.2.2.1.2.2.1 6 k 0).1.2; rw [r6] at this; exact this
                  refine r_X9_call_306 ki hG ⟨fun y => absurd y nj, fun _ => ⟨fun _ => ⟨k0, by omega⟩, fun _ => ⟨k0, by omega⟩, ?_⟩⟩
                  refine t_enter hG tg w a'.2.2.1 k0 k1 r460 nM (by rw [cm.2.1]; exact fre) (by rw [cm.2.1]; exact ard) c14 (fun s s0' y => ?_) (c32_ite c465 c32_0) (su8_ite s8 su8_0) (c32_ite c466 c32_0) fun g8 a8 _ => ?_
                  · by_cases y29 : pOp L k = 29
                    · rw [h14' y29, bl_zero] at y; cases y
                    · have yy := (h14 y29 s s0').mp y
                      rw [son y29] at yy
                      exact ast_le (t.1 _ _ _) (le' 0 k (frs L k)) s yy.2.1
                  · refine ⟨b2, by omega, ?_⟩
                    intro x12 e12 n' en'
                    rw [w32_i (by omega) (by omega)] at en'
                    subst en'
                    rw [lkv] at a8
                    have nz14 : pOp L k ≠ 29 → v14 ≠ 0 := by
                      intro y29 y
                      rcases (cldi s0 n).mp hs0 with r | r
                      · exact absurd r.1 y29
                      · have := (h14 y29 s0 (by omega)).mpr ⟨r.1, r.2.1, r.2.2.1.symm⟩
                        rw [y, bl_zero] at this; cases this
                    have b8 : AdvC L k g' g8 (fun U => ∀ s, cld L (tT h L 0 k) k s n → Flow L U (pFi L n) (entz L (tT h L 0 k) k s n) (if pOp L k = 36 then fk 0 0 else tT h L 6 k 0)) := by
                      refine Adv_w a8 (fun _ p s hs => ?_) (fun U oU p cz => ?_)
                      · rcases (cldi s n).mp hs with r | r
                        · rw [h14' r.1, enw_0] at p
                          rw [r.2.1]
                          exact Flow_le (entz_le (fun j => le' _ _ _)) lkle (tle_rfl _) p
                        · have so := sso s (by omega) r.2.1
                          have := (Flow_enw hz c14 (nz14 so.1) so.1 (cm.2.2.2 so.1) (gr' so.1) (fun s s0' y => ((h14 so.1 s s0').mp y).1)).mp p s (by omega) (by have := so.2.1.2.1; omega) ((h14 so.1 s (by omega)).mpr ⟨r.1, r.2.1, r.2.2.1.symm⟩)
                          exact Flow_le (entz_le (fun j => le' _ _ _)) lkle (tle_rfl _) this
                      · have lkU : fle (if pOp L k = 36 then fk 0 0 else tT g' L 6 k 0) (if pOp L k = 36 then fk 0 0 else U 6 k 0) := by
                          split
                          · exact fle_rfl _
                          · exact p _ _ _
                        by_cases y29 : pOp L k = 29
                        · rw [h14' y29, enw_0]
                          have hs1 : cld L (tT h L 0 k) k (-1) n := (cldi (-1) n).mpr (Or.inl ⟨y29, rfl, (cl29 n y29).mp ⟨s0, hs0⟩⟩)
                          exact Flow_le (entz_le (fun j => p _ _ _)) lkU (tle_rfl _) (clE U cz (-1) n (cld_le (fun j => t.1 _ _ _) (fun j => tle_trans le' p _ _ _) hs1)).2
                        · refine (Flow_enw hz c14 (nz14 y29) y29 (cm.2.2.2 y29) (gr' y29) (fun s s0' y => ((h14 y29 s s0').mp y).1)).mpr (fun s s1 s2' y => ?_)
                          have yy := (h14 y29 s s1).mp y
                          have hs1 : cld L (tT h L 0 k) k s n := (cldi s n).mpr (Or.inr ⟨yy.1, yy.2.1, yy.2.2.symm, b2⟩)
                          exact Flow_le (entz_le (fun j => p _ _ _)) lkU (tle_rfl _) (clE U cz s n (cld_le (fun j => t.1 _ _ _) (fun j => tle_trans le' p _ _ _) hs1)).2
                    have a9 := AdvC_tr a' b8 (upF n)
                    refine ih _ _ _ (by omega) (by omega) (by omega) (AdvC_w a9 (fun _ p => ⟨p.1.1, fun s c hs cn => ?_⟩)) (by rw [e12]; exact c32_i_or _ _) (fun x y => ?_) (fun s c hs cn x y => ?_)
                    · by_cases r : c = n
                      · rw [r] at hs ⊢; exact p.2 s hs
                      · exact p.1.2 s c hs (by omega)
                    · rw [e12, bi_or] at y
                      simp at y
                      rcases y with y | y
                      · obtain ⟨c, q1, q2, q3, q4⟩ := u1 x y
                        exact ⟨c, q1, by omega, q3, alb_le (a'.2.2.1.1 _ _ _) (b8.2.2.2.1 15 c 0) x q4⟩
                      · exact ⟨n, b2, by omega, ⟨s0, hs0⟩, by rw [u15 g8 n nM]; exact y⟩
                    · rw [e12, bi_or]
                      simp
                      by_cases r : c = n
                      · right
                        rw [r] at y
                        rw [← u15 g8 n nM]
                        exact alb_le (t.1 _ _ _) (a9.2.2.2.1 15 n 0) x y
                      · exact Or.inl (u2 s c hs (by omega) x y)
                intro M
                induction M with
                | zero =>
                  intro j v14 d1 d2 d3 c14 h14 h14'
                  exact go j v14 c14 (fun y s s0' => by rw [h14 y s s0']; exact ⟨fun r => ⟨r.1, r.2.2.1, r.2.2.2⟩, fun r => ⟨r.1, by have := (sso s s0' r.2.1).2.1.2.1; omega, r.2.1, r.2.2⟩⟩) h14' (by omega)
                | succ M ihM =>
                  intro j v14 d1 d2 d3 c14 h14 h14'
                  by_cases jj : j < 63 ∧ ¬ pOp L k = 29
                  · refine r_X9_call_306 ki hG ⟨fun _ => ⟨fun y => ?_, fun y => ?_⟩, fun y => absurd jj y⟩
                    · rw [lc_eq, l_bit (by omega) (by omega)] at y
                      have sbf : bl some j = false := bf2 y
                      intro x14 e14 x16 e16
                      rw [w32_i (by omega) (by omega)] at e16
                      subst e16
                      have : x14 = v14 := by rw [e14]; exact bl_ext (c64_l_or _ _) c14 (fun i _ _ => by rw [bl_or, bl_zero]; simp)
                      subst this
                      refine ihM _ _ (by omega) (by omega) (by omega) c14 (fun y2 s s0' => ?_) h14'
                      rw [h14 y2 s s0']
                      constructor
                      · rintro ⟨r1, r2, r3, r4⟩; exact ⟨r1, by omega, r3, r4⟩
                      · rintro ⟨r1, r2, r3, r4⟩
                        by_cases sj : s = j
                        · rw [sj, sbf] at r3; cases r3
                        · exact ⟨r1, by omega, r3, r4⟩
                    · rw [lc_eq, l_bit (by omega) (by omega)] at y
                      have sbt : bl some j = true := bt1 y
                      have so := sso j (by omega) sbt
                      refine ⟨tg.ne, k0, by omega, ?_⟩
                      rw [tg.x]
                      refine t_sentTo hG tg w d2 so.2.2 ?_
                      intro x14 e14 x16 e16
                      rw [w32_i (by omega) (by omega)] at e16
                      subst e16
                      refine ihM _ _ (by omega) (by omega) (by omega) (by rw [e14]; exact c64_l_or _ _) (fun y2 s s0' => ?_) (fun y2 => absurd y2 jj.2)
                      rw [e14, bl_or]
                      have old := h14 y2 s s0'
                      by_cases sj : s = j
                      · subst sj
                        by_cases r : sent L s (pX L k) = n
                        · rw [if_pos r, bl_shl s0' (by omega) s0']
                          simp
                          exact ⟨d2, by omega, sbt, r⟩
                        · rw [if_neg r, bl_zero]
                          simp
                          rw [old]
                          constructor
                          · rintro ⟨q1, q2, q3, q4⟩; omega
                          · rintro ⟨q1, q2, q3, q4⟩; exact absurd q4 r
                      · have nb : bl (if sent L j (pX L k) = n then l_shl 1 j else 0) s = false := by
                          split
                          · rw [bl_shl (by omega) (by omega) s0']; simp; exact sj
                          · exact bl_zero s
                        rw [nb]
                        simp
                        rw [old]
                        constructor
                        · rintro ⟨q1, q2, q3, q4⟩; exact ⟨q1, by omega, q3, q4⟩
                        · rintro ⟨q1, q2, q3, q4⟩; exact ⟨q1, by omega, q3, q4⟩
                  · refine go j v14 c14 (fun y s s0' => ?_) h14' jj
                    rw [h14 y s s0']
                    exact ⟨fun r => ⟨r.1, r.2.2.1, r.2.2.2⟩, fun r => ⟨r.1, by have := (sso s s0' r.2.1).2.1.2.1; omega, r.2.1, r.2.2⟩⟩
              refine own _ 1 0 (Nat.le_refl _) (by omega) (by omega) (by unfold c64; omega) (fun _ s s0' => ?_) (fun _ => rfl)
              rw [bl_zero]
              exact ⟨(fun r => by cases r), fun r => by omega⟩
            · rw [lc_eq, l_bit (by omega) (by omega)] at z
              have cb : bl v9 n = false := bf1 z
              have ncl : ∀ s, ¬ cld L (tT h L 0 k) k s n := by
                intro s hs
                have := (h9 n b2).mpr ⟨s, hs⟩
                rw [cb] at this; cases this
              intro n' en'
              rw [w32_i (by omega) (by omega)] at en'
              subst en'
              refine ih _ _ _ (by omega) (by omega) (by omega) (AdvC_w a' (fun _ p => ⟨p.1, fun s c hs cn => ?_⟩)) c12 (fun x y => ?_) (fun s c hs cn => ?_)
              · by_cases r : c = n
                · rw [r] at hs; exact absurd hs (ncl s)
                · exact p.2 s c hs (by omega)
              · obtain ⟨c, q1, q2, q3, q4⟩ := u1 x y
                exact ⟨c, q1, by omega, q3, q4⟩
              · by_cases r : c = n
                · rw [r] at hs; exact absurd hs (ncl s)
                · exact u2 s c hs (by omega)
      refine key _ 0 0 g (Nat.le_refl _) (by omega) (by omega) (AdvC_w a (fun _ p => ⟨p, fun s c hs cn => ?_⟩)) c32_0 (fun x y => by rw [bi_zero] at y; cases y) (fun s c hs cn => ?_)
      · have := (cld_ok w t k0 k1 e hs).1.1; omega
      · have := (cld_ok w t k0 k1 e hs).1.1; omega
    -- the first loop
    have key : ∀ N : Nat, ∀ n v9 v11 : Int, (63 - n).toNat ≤ N → 1 ≤ n → n ≤ 63 → c64 v9 → (∀ c, 0 ≤ c → (bl v9 c = true ↔ CLD L (tT h L 0 k) k n c)) → (¬ v11 = 0 ↔ SRT L some (pX L k) n) →
        JW K 155 [(2009, 396), (0, k), (0, pOp L k), (0, pMo L k), (0, lik L k), (0, frs L k), (1, some), (5000, 0), (0, (if pOp L k = 36 then 1 else 0 : Int)), (1, v9), (5000, 0), (0, v11), (0, n), (5000, 0), (5000, 0), (5000, 0), (5000, 0)] [] g := by
      have fin : ∀ v9 v11 : Int, c64 v9 → (∀ c, 0 ≤ c → (bl v9 c = true ↔ CLD L (tT h L 0 k) k 63 c)) → (¬ v11 = 0 ↔ SRT L some (pX L k) 63) →
          JW K 155 [(2009, 396), (0, k), (0, pOp L k), (0, pMo L k), (0, lik L k), (0, frs L k), (1, some), (5000, 0), (0, (if pOp L k = 36 then 1 else 0 : Int)), (1, v9), (5000, 0), (0, v11), (0, 63), (5000, 0), (5000, 0), (5000, 0), (5000, 0)] [] g := by
        intro v9 v11 c9 h9 h11
        have h9' : ∀ c, 0 ≤ c → (bl v9 c = true ↔ ∃ s, cld L (tT h L 0 k) k s c) := by
          intro c c0
          rw [h9 c c0]
          constructor
          · rintro ⟨s, -, hs⟩; exact ⟨s, hs⟩
          · rintro ⟨s, hs⟩
            refine ⟨s, ?_, hs⟩
            rcases hs with y | y
            · omega
            · exact y.2.2.1.2.1
        refine r_X9_call_155 ki hG ⟨fun _ => ?_, fun z => by omega⟩
        refine opt_toss hG q a0 up0 v11 5 (by omega) (by omega) (fun z U oU pU cz => ?_) (cont := fun g1 => (0 ≤ k) ∧ (k < 1500) ∧ (0 ≤ k) ∧ (k < 1500) ∧ (∀ h1, h1 = hset g1 468 k (l_or (hv g1 468 k) v9) →
          ((¬ (lc v9 0) = 0 → (∀ x12 : Int, x12 = 0 → (∀ x13 : Int, x13 = 0 → JW K 273 [(2009, 396), (0, k), (0, pOp L k), (0, pMo L k), (0, lik L k), (0, frs L k), (1, some), (5000, 0), (0, (if pOp L k = 36 then 1 else 0 : Int)), (1, v9), (5000, 0), (0, v11), (0, x12), (0, x13), (5000, 0), (5000, 0), (5000, 0)] [] h1))) ∧ ((lc v9 0) = 0 → Q 0 h1)))) (fun g1 a1 => ?_)
        · obtain ⟨s, s1, s2', s3, s4⟩ := h11.mp z
          have so := sso s (by omega) s3
          exact (clR U cz so.1 s (sb_le (t.1 _ _ _) (pU 0 k (frs L k)) so.2.1)).2 (by omega) s4
        · refine ⟨k0, by omega, k0, by omega, fun h1 eh1 => ?_⟩
          have ac := Adv_cal (k := k) (x := v9) a1.2.2.1 hk
          rw [← eh1] at ac
          have b1' : AdvC L k g1 h1 (fun U => ∀ c, 0 ≤ c → c < 64 → bl v9 c = true → fle (fs 0) (U 10 k c)) := Adv_w ac (fun _ p => p) (fun U oU p cz c c0 _ y => by
            obtain ⟨s, hs⟩ := (h9' c c0).mp y
            exact (clE U cz s c (cld_le (fun j => t.1 _ _ _) (fun j => tle_trans a1.2.2.2.1 p _ _ _) hs)).1)
          have up1 : ∀ U V : TB, tle U V → ((bl some 0 = true → TS L U k (tT h L 0 k) 1 (tT h L 6 k 0)) ∧ (¬ v11 = 0 → TS L U k (tT h L 0 k) 5 (tT h L 6 k 0))) → ((bl some 0 = true → TS L V k (tT h L 0 k) 1 (tT h L 6 k 0)) ∧ (¬ v11 = 0 → TS L V k (tT h L 0 k) 5 (tT h L 6 k 0))) := fun U V p y => ⟨up0 U V p y.1, fun z => TS_up p (y.2 z)⟩
          have a2 := AdvC_tr a1 b1' up1
          have facts : ∀ U : TB, (((bl some 0 = true → TS L U k (tT h L 0 k) 1 (tT h L 6 k 0)) ∧ (¬ v11 = 0 → TS L U k (tT h L 0 k) 5 (tT h L 6 k 0))) ∧ ∀ c, 0 ≤ c → c < 64 → bl v9 c = true → fle (fs 0) (U 10 k c)) →
              ((∀ s c, cld L (tT h L 0 k) k s c → fle (fs 0) (U 10 k c)) ∧ (pOp L k ≠ 29 → ∀ s, sb (tT h L 0 k (frs L k)) s → (s = 0 → TS L U k (tT h L 0 k) 1 (tT h L 6 k 0)) ∧ (s ≠ 0 → sent L s (pX L k) < 0 → TS L U k (tT h L 0 k) 5 (tT h L 6 k 0)))) := by
            intro U pU
            refine ⟨fun s c hs => ?_, fun z s hs => ⟨fun z2 => pU.1.1 ?_, fun z2 z3 => pU.1.2 (h11.mpr ⟨s, by have := hs.1; omega, hs.2.1, by rw [son z]; exact hs.2.2, z3⟩)⟩⟩
            · have cm := (cld_ok w t k0 k1 e hs).1
              have cm1 := cm.1
              have cm2 := cm.2
              exact pU.2 c cm1 (by omega) ((h9' c cm1).mpr ⟨s, hs⟩)
            · rw [son z]
              have := hs.2.2
              rw [z2] at this; exact this
          refine ⟨fun z x12 e12 x13 e13 => ?_, fun z => ?_⟩
          · subst e12; subst e13
            rw [lc_eq] at z
            exact second v9 v11 h1 _ a2 (fun U V p y => ⟨up1 U V p y.1, fun c c0 c1 y2 => fle_trans (y.2 c c0 c1 y2) (p _ _ _)⟩) c9 h9' z facts
          · rw [lc_eq] at z
            have none : ∀ s c, ¬ cld L (tT h L 0 k) k s c := by
              intro s c hs
              have cm := (cld_ok w t k0 k1 e hs).1
              have := (h9' c cm.1).mpr ⟨s, hs⟩
              rw [z, bl_zero] at this; cases this
            refine hQ h1 (AdvC_w a2 (fun _ p => ?_))
            have f := facts _ p
            rcases e with e | e | e
            · exact (CL29 (Or.inl e)).mpr ⟨fun s c hs => absurd hs (none s c), fun z2 => by omega⟩
            · exact (CL29 (Or.inr e)).mpr ⟨fun s c hs => absurd hs (none s c), fun _ => f.2 (by omega)⟩
            · exact (CL36 e).mpr ⟨fun s c hs => absurd hs (none s c), f.2 (by omega)⟩
      intro N
      induction N with
      | zero =>
        intro n v9 v11 b1' b2 b3 c9 h9 h11
        have : n = 63 := by omega
        subst this
        exact fin v9 v11 c9 h9 h11
      | succ N ih =>
        intro n v9 v11 b1' b2 b3 c9 h9 h11
        by_cases n63 : n = 63
        · subst n63; exact fin v9 v11 c9 h9 h11
        · have tg := frA_TF a0.1 tf
          have ex9 : ∀ c, CLD L (tT h L 0 k) k (n + 1) c ↔ (CLD L (tT h L 0 k) k n c ∨ cld L (tT h L 0 k) k n c) := by
            intro c
            constructor
            · rintro ⟨s, s1, hs⟩
              by_cases sn : s = n
              · rw [sn] at hs; exact Or.inr hs
              · exact Or.inl ⟨s, by omega, hs⟩
            · rintro (⟨s, s1, hs⟩ | hs)
              · exact ⟨s, by omega, hs⟩
              · exact ⟨n, by omega, hs⟩
          have ex11 : SRT L some (pX L k) (n + 1) ↔ (SRT L some (pX L k) n ∨ (bl some n = true ∧ sent L n (pX L k) < 0)) := by
            constructor
            · rintro ⟨s, s1, s2', hs⟩
              by_cases sn : s = n
              · rw [sn] at hs; exact Or.inr hs
              · exact Or.inl ⟨s, s1, by omega, hs⟩
            · rintro (⟨s, s1, s2', hs⟩ | hs)
              · exact ⟨s, s1, by omega, hs⟩
              · exact ⟨n, b2, by omega, hs⟩
          refine r_X9_call_155 ki hG ⟨fun z => by omega, fun _ => ⟨fun z => ?_, fun z => ?_⟩⟩
          · rw [lc_eq, l_bit (by omega) (by omega)] at z
            have sb' : bl some n = true := bt2 z
            have so := sso n (by omega) sb'
            refine ⟨tg.ne, k0, by omega, ?_⟩
            rw [tg.x]
            refine t_sentTo hG tg w b2 so.2.2 ?_
            intro x13 e13 x11 e11 x9 e9 n' en'
            rw [w32_i (by omega) (by omega)] at en'
            subst en'
            have neg1 : x13 < 0 ↔ x13 = -1 := by
              constructor
              · intro y
                by_cases c : 0 ≤ x13
                · omega
                · rw [e13] at y ⊢
                  unfold sent at y ⊢
                  exact sto_neg L (pX L k) 30 _ y
              · intro y; omega
            refine ih _ _ _ (by omega) (by omega) (by omega) (by rw [e9]; exact c64_l_or _ _) (fun c c0 => ?_) ?_
            · rw [e9, bl_or, ex9 c, ← h9 c c0]
              have cn : cld L (tT h L 0 k) k n c ↔ (c = x13 ∧ 0 ≤ c) := by
                rw [cldi n c]
                constructor
                · rintro (y | y)
                  · omega
                  · exact ⟨by rw [e13]; exact y.2.2.1, y.2.2.2⟩
                · rintro ⟨y1, y2⟩
                  exact Or.inr ⟨b2, sb', by rw [← e13]; exact y1, y2⟩
              rw [cn]
              by_cases y : x13 = -1
              · rw [if_pos y, bl_zero]
                simp
                intro y1 y2; omega
              · rw [if_neg y]
                have x0 : 0 ≤ x13 := by
                  by_cases c : x13 < 0
                  · exact absurd (neg1.mp c) y
                  · omega
                have x64 : x13 < 64 := by
                  have := (sent_ok w b2 so.2.2 (by rw [← e13]; exact x0)).1
                  rw [← e13] at this; omega
                rw [bl_shl x0 x64 c0]
                simp
                constructor
                · rintro (y1 | y1)
                  · exact Or.inl y1
                  · exact Or.inr ⟨y1, c0⟩
                · rintro (y1 | y1)
                  · exact Or.inl y1
                  · exact Or.inr y1.1
            · rw [e11, ex11, ← h11, ← e13, neg1]
              by_cases y1 : v11 = 0
              · rw [if_pos y1]
                by_cases y : x13 = -1
                · rw [if_pos y]; exact ⟨fun _ => Or.inr ⟨sb', y⟩, fun _ => by decide⟩
                · rw [if_neg y]; exact ⟨fun r => absurd rfl r, fun r => by rcases r with r | r; exact absurd y1 r; exact absurd r.2 y⟩
              · rw [if_neg y1]; exact ⟨fun _ => Or.inl y1, fun _ => by decide⟩
          · rw [lc_eq, l_bit (by omega) (by omega)] at z
            have sb' : bl some n = false := bf1 z
            intro n' en'
            rw [w32_i (by omega) (by omega)] at en'
            subst en'
            refine ih _ _ _ (by omega) (by omega) (by omega) c9 (fun c c0 => ?_) ?_
            · rw [ex9 c, h9 c c0]
              constructor
              · intro y; exact Or.inl y
              · rintro (y | y)
                · exact y
                · rcases (cldi n c).mp y with r | r
                  · omega
                  · rw [sb'] at r; exact absurd r.2.1 (by simp)
            · rw [ex11, h11]
              constructor
              · intro y; exact Or.inl y
              · rintro (y | y)
                · exact y
                · rw [sb'] at y; exact absurd y.1 (by simp)
    refine key _ 1 v9 0 (Nat.le_refl _) (by omega) (by omega) (by rw [ev9]; exact c64_ite (c64_l_shl _ _) (by unfold c64; omega)) (fun c c0 => ?_) ⟨fun y => absurd rfl y, fun ⟨s, s1, s2', _⟩ => by omega⟩
    rw [ev9]
    by_cases z : pOp L k = 29
    · rw [if_pos z, bl_shl lm1 (by omega) c0]
      simp
      constructor
      · intro y; exact ⟨-1, by omega, (cldi (-1) c).mpr (Or.inl ⟨z, rfl, y⟩)⟩
      · rintro ⟨s, s1, hs⟩
        exact (cl29 c z).mp ⟨s, hs⟩
    · rw [if_neg z, bl_zero]
      constructor
      · intro y; cases y
      · rintro ⟨s, s1, hs⟩
        rcases (cldi s c).mp hs with y | y
        · exact absurd y.1 z
        · omega
  have upn : ∀ some : Int, ∀ U V : TB, tle U V → (bl some 0 = true → TS L U k (tT h L 0 k) 1 (tT h L 6 k 0)) → (bl some 0 = true → TS L V k (tT h L 0 k) 1 (tT h L 6 k 0)) := fun some U V p y z => TS_up p (y z)
  refine ⟨fun n29 => ?_, fun y29 => ?_⟩
  · refine ⟨tf2.ne, k0, by omega, ?_⟩
    rw [tf2.x]
    have lkw : lik L k = wnm L (pX L k) := by unfold lik; rw [if_neg n29]
    refine t_withName hG (A := hv h2 396 3) tf2.ne tf2.2 (by omega) (by omega) ?_
    intro x4 e4
    rw [← lkw] at e4
    subst e4
    refine ⟨tf2.ne, k0, by omega, tf2.ne, lm1, by omega, ?_⟩
    intro x5 e5
    rw [tf2.dp, tf2.ar, w32_i (z := 8 + pDp L k) (by omega) (by omega), w32_i (by omega) (by omega)] at e5
    have e5' : x5 = frs L k := e5
    subst e5'
    rw [w32_i (z := 16 * k) (by omega) (by omega), w32_i (z := 16 * k + frs L k) (by omega) (by omega)]
    refine ⟨fun _ => ⟨by omega, by omega⟩, ?_⟩
    intro x6 e6
    rw [if_neg n29, row464 n29 h2 s2] at e6
    intro x8 e8
    subst e8
    refine opt_toss hG q (AdvC_same (k := k) s2 t) up_t (lc (l_and x6 1) 0) 1 (by omega) (by omega) (fun z U oU pU cz => ?_) (cont := fun g => ∀ x9 : Int, x9 = (if pOp L k = 29 then (l_shl 1 (lik L k)) else 0 : Int) → (∀ x11 : Int, x11 = 0 → (∀ x12 : Int, x12 = 1 → JW K 155 [(2009, 396), (0, k), (0, pOp L k), (0, pMo L k), (0, lik L k), (0, frs L k), (1, x6), (5000, 0), (0, (if pOp L k = 36 then 1 else 0 : Int)), (1, x9), (5000, 0), (0, x11), (0, x12), (5000, 0), (5000, 0), (5000, 0), (5000, 0)] [] g))) (fun g1 a1 => ?_)
    · rw [lc_eq, and1] at z
      have zb : bl x6 0 = true := by simpa using z
      rw [e6] at zb
      exact (clR U cz n29 0 (sb_le (t.1 _ _ _) (pU 0 k (frs L k)) ⟨by omega, by omega, zb⟩)).1 rfl
    · intro x9 e9 x11 e11 x12 e12
      subst e11; subst e12
      refine first x6 (fun z => absurd z n29) (fun _ => e6) g1 (AdvC_w a1 (fun _ p y => p.2 (fun z => ?_))) x9 e9
      rw [lc_eq, and1] at z
      rw [z] at y; cases y
  · refine ⟨tf2.ne, k0, by omega, ?_⟩
    intro x4 e4
    rw [tf2.y] at e4
    have lky : lik L k = pY L k := by unfold lik; rw [if_pos y29]
    rw [← lky] at e4
    subst e4
    refine ⟨tf2.ne, k0, by omega, tf2.ne, lm1, by omega, ?_⟩
    intro x5 e5
    rw [tf2.dp, tf2.ar, w32_i (z := 8 + pDp L k) (by omega) (by omega), w32_i (by omega) (by omega)] at e5
    have e5' : x5 = frs L k := e5
    subst e5'
    refine ⟨fun z => absurd y29 z, ?_⟩
    intro x6 e6
    rw [if_pos y29] at e6
    intro x8 e8
    subst e8
    refine opt_toss hG q (AdvC_same (k := k) s2 t) up_t (lc (l_and x6 1) 0) 1 (by omega) (by omega) (fun z U oU pU cz => ?_) (cont := fun g => ∀ x9 : Int, x9 = (if pOp L k = 29 then (l_shl 1 (lik L k)) else 0 : Int) → (∀ x11 : Int, x11 = 0 → (∀ x12 : Int, x12 = 1 → JW K 155 [(2009, 396), (0, k), (0, pOp L k), (0, pMo L k), (0, lik L k), (0, frs L k), (1, x6), (5000, 0), (0, (if pOp L k = 36 then 1 else 0 : Int)), (1, x9), (5000, 0), (0, x11), (0, x12), (5000, 0), (5000, 0), (5000, 0), (5000, 0)] [] g))) (fun g1 a1 => ?_)
    · exfalso
      rw [lc_eq, and1, e6, bl_zero] at z
      exact z rfl
    · intro x9 e9 x11 e11 x12 e12
      subst e11; subst e12
      refine first x6 (fun _ => e6) (fun z => absurd y29 z) g1 (AdvC_w a1 (fun _ p y => ?_)) x9 e9
      rw [e6, bl_zero] at y; cases y
