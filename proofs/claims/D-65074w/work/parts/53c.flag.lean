/-! Part 53c: the two ways to enter a method give one table (plain) -/
/-- a program with another flag -/
def flL (L : PG) (v : Int) : PG := fun o i => if o = 99 then v else L o i
section FLG
variable {L : PG} {v : Int}
theorem fl_WF : WF (flL L v) ↔ WF L := Iff.rfl
theorem fl_WFt : WFt (flL L v) ↔ WFt L := Iff.rfl
theorem fl_99 : flL L v 99 0 = v := rfl
theorem fl_tiv {T : TB} : tiv (flL L v) T ↔ tiv L T := Iff.rfl
theorem fl_cT {h : MH} : cT h (flL L v) = cT h L := rfl
theorem fl_CP {h : MH} {P : Int} : CP h (flL L v) P ↔ CP h L P := Iff.rfl
theorem fl_CI {R : Int → Prop} {U : TB} : CI (flL L v) R U ↔ CI L R U := Iff.rfl
theorem fl_blw : ∀ (n : Nat) (c d : Int), blw (flL L v) n c d = blw L n c d
  | 0, _, _ => rfl
  | n + 1, c, d => by
    show (if c = d then true else if c ≤ 0 then false else blw (flL L v) n (pPa L c) d) = (if c = d then true else if c ≤ 0 then false else blw L n (pPa L c) d)
    rw [fl_blw n]
theorem fl_isOf (s c : Int) : isOf (flL L v) s c = isOf L s c := by
  show (if pSc L s < 0 then decide (c = 0) else blw (flL L v) 30 (pSc L s) c) = (if pSc L s < 0 then decide (c = 0) else blw L 30 (pSc L s) c)
  rw [fl_blw]
theorem fl_sto (nm : Int) : ∀ (n : Nat) (c : Int), sto (flL L v) nm n c = sto L nm n c
  | 0, _ => rfl
  | n + 1, c => by
    show (if 0 ≤ frm (owns L c nm) (pNm L).toNat 0 then frm (owns L c nm) (pNm L).toNat 0 else if c ≤ 0 then -1 else sto (flL L v) nm n (pPa L c)) = (if 0 ≤ frm (owns L c nm) (pNm L).toNat 0 then frm (owns L c nm) (pNm L).toNat 0 else if c ≤ 0 then -1 else sto L nm n (pPa L c))
    rw [fl_sto nm n]
theorem fl_sent (s nm : Int) : sent (flL L v) s nm = sent L s nm := by
  show sto (flL L v) nm 30 (if pSc L s < 0 then 0 else pSc L s) = _
  rw [fl_sto]
  rfl
theorem fl_hnd (k s : Int) : hnd (flL L v) k s = hnd L k s := by
  unfold hnd
  simp only [fl_isOf]
  rfl
theorem fl_cld {X : Int → FA} {k s c : Int} : cld (flL L v) X k s c ↔ cld L X k s c := by
  unfold cld
  rw [fl_sent]
  exact Iff.rfl
theorem fl_undI {T : TB} {k : Int} : ∀ n : Nat, undI (flL L v) T k n = undI L T k n
  | 0 => rfl
  | n + 1 => by
    have e : (∃ s, cld (flL L v) (T 0 k) k s n) ↔ ∃ s, cld L (T 0 k) k s n := ⟨fun ⟨s, q⟩ => ⟨s, fl_cld.mp q⟩, fun ⟨s, q⟩ => ⟨s, fl_cld.mpr q⟩⟩
    unfold undI
    rw [fl_undI n]
    by_cases z : ∃ s, cld L (T 0 k) k s n
    · rw [if_pos z, if_pos (e.mpr z)]
    · rw [if_neg z, if_neg (fun y => z (e.mp y))]
theorem fl_lkr {T : TB} {k c : Int} : lkr (flL L v) T k c = lkr L T k c := by
  have e : und (flL L v) T k = und L T k := fl_undI _
  unfold lkr
  rw [e]
theorem fl_TS {U : TB} {k s : Int} {X : Int → FA} {lk : FA} : TS (flL L v) U k X s lk = TS L U k X s lk := by
  unfold TS
  rw [fl_hnd]
  rfl
theorem fl_Csz {T U : TB} {k d : Int} {X : Int → FA} {lk : FA} : Csz (flL L v) T U k X lk d = Csz L T U k X lk d := by
  unfold Csz
  simp only [fl_TS, fl_isOf]
  rfl
theorem fl_Co {T U : TB} {k d : Int} {X : Int → FA} {lk : FA} : Co (flL L v) T U k X lk d = Co L T U k X lk d := by
  unfold Co
  simp only [fl_TS, fl_isOf]
  rfl
theorem fl_entz {X : Int → FA} {k s c j : Int} : entz (flL L v) X k s c j = if j < pAr L c then (if j = 0 ∧ s ≠ -1 then (if v = 1 then b1 s else rs (X (frs L k)) s) else X (frs L k + j)) else f1st (pLk L c j) := rfl
theorem fl_CL {T U : TB} {k : Int} (he : pOp L k = 30 ∨ pOp L k = 36 → ∀ s c, cld L (T 0 k) k s c → entz (flL L v) (T 0 k) k s c = entz L (T 0 k) k s c) : CLz (flL L v) T U k ↔ CLz L T U k := by
  have e29 : ∀ s c, pOp L k = 29 → cld L (T 0 k) k s c → entz (flL L v) (T 0 k) k s c = entz L (T 0 k) k s c := by
    intro s c e q
    rcases q with q | q
    · funext j
      rw [q.2.1, fl_entz]
      unfold entz
      by_cases z : j < pAr L c
      · rw [if_pos z, if_pos z, if_neg (fun y => y.2 rfl), if_neg (fun y => y.2 rfl)]
      · rw [if_neg z, if_neg z]
    · exact absurd e q.1
  have ee : ∀ s c, pOp L k = 29 ∨ pOp L k = 30 ∨ pOp L k = 36 → cld L (T 0 k) k s c → entz (flL L v) (T 0 k) k s c = entz L (T 0 k) k s c := by
    intro s c o q
    rcases o with o | o
    · exact e29 s c o q
    · exact he o s c q
  unfold CLz
  rw [fl_Csz, fl_Co]
  refine and_congr Iff.rfl (and_congr Iff.rfl ?_)
  unfold Ccz
  simp only [fl_TS, fl_isOf, fl_sent, fl_cld, fl_lkr]
  refine and_congr ⟨fun h e s c q => ?_, fun h e s c q => ?_⟩ (and_congr ⟨fun h e s c q => ?_, fun h e s c q => ?_⟩ Iff.rfl)
  · have := h e s c q
    rw [ee s c (by omega) q] at this
    exact this
  · have e' : pOp L k = 29 ∨ pOp L k = 30 ∨ pOp L k = 36 := by { first | exact e.elim Or.inl (fun z => Or.inr (Or.inl z)) | exact Or.inr (Or.inr e) }
    have := h e s c q
    rw [← ee s c e' q] at this
    exact this
  · have := h e s c q
    rw [ee s c (by omega) q] at this
    exact this
  · have e' : pOp L k = 29 ∨ pOp L k = 30 ∨ pOp L k = 36 := by { first | exact e.elim Or.inl (fun z => Or.inr (Or.inl z)) | exact Or.inr (Or.inr e) }
    have := h e s c q
    rw [← ee s c e' q] at this
    exact this
theorem mk_closed {T : TB} {R : Int → Prop} (w : WF L) (wt : WFt L) (tv : tiv L T) (c : closedz L R T) : closedz L R (mkT L T) := by
  obtain ⟨⟨c1, c2⟩, c3⟩ := c
  refine ⟨⟨fun m m0 m1 r => ?_, fun i i0 i1 => le_mkT (c2 i i0 i1) (fun _ => nsp_f1 _)⟩, fun k k0 k1 r => mk_CL w wt tv ⟨k0, k1⟩ (by unfold rch at r ⊢; rw [mkT_o (by decide)] at r; exact r) (c3 k k0 k1 (by unfold rch at r ⊢; rw [mkT_o (by decide)] at r; exact r))⟩
  obtain ⟨-, -, -, ar0, ar1, -, -, -, alc, lc8, lks, -, -, -, -, co1, -, fi0, fi1, fim, fid, -⟩ := w.m m0 m1
  have mf : pMo L (pFi L m) = m := by have := fim 0 (by omega) (by omega); rw [Int.add_zero] at this; exact this
  refine mk_Flow ⟨by omega, by omega⟩ (c1 m m0 m1 r) (fun j rl kk => ?_)
  unfold rel at rl
  rw [mf, fid] at rl
  have j01 : 0 ≤ j ∧ j < pLc L m := by omega
  rw [kd_l (by omega), mf] at kk
  unfold rtx
  rw [if_neg (fun z => by omega)]
  exact nsp_f1 _
/-- in the least closed table facts of references have no span -/
theorem least_ns {T : TB} {R : Int → Prop} (w : WF L) (wt : WFt L) (tv : tiv L T) (c : closedz L R T) (lT : ∀ V, tbok V → closedz L R V → tle T V) {a i j : Int} (h : rfe L a i j) : nsp (T a i j) := by
  have e : T = mkT L T := tle_anti tv.1 (mkT_ok tv.1) (lT _ (mkT_ok tv.1) (mk_closed w wt tv c)) (mkT_le L T)
  rw [e]
  exact mkT_ns h
/-- the slot of a receiver is a reference -/
theorem recv_rf (w : WF L) (wt : WFt L) {k : Int} (hk : inP L k) (e : pOp L k = 30 ∨ pOp L k = 36) : rfe L 0 k (frs L k) := by
  have wk := w.k hk.1 hk.2
  have wtk := wt.1 k hk
  obtain ⟨-, -, -, -, -, -, -, -, -, -, -, -, -, -, y30, x36, -, -, -, ⟨d0, d1, d2, d3⟩, -⟩ := wk
  obtain ⟨-, -, -, -, -, -, t22, -, -, -, -, t29, -⟩ := wtk
  have w30 := y30 e
  have ok := wnm_ok w w30.2
  have ow := (w.m w30.2 ok.1).2.2.2.2.2.1 ok.2.2
  have el : lik L k = wnm L (pX L k) := by unfold lik; rw [if_neg (by omega)]
  have fe : frs L k = 8 + (pDp L k - pAr L (lik L k)) := by unfold frs lik; omega
  have ar : 1 ≤ pAr L (lik L k) ∧ pAr L (lik L k) ≤ pDp L k ∧ skd L k (pDp L k - pAr L (lik L k)) = 1 := by
    rcases e with e | e
    · have p0 : ppo L k = pAr L (lik L k) := by unfold ppo; rw [if_neg (by omega), if_neg (by omega), if_neg (by omega), if_pos (by omega)]
      have a1 : 1 ≤ pAr L (lik L k) := by rw [el]; exact ow.1
      refine ⟨a1, by omega, ?_⟩
      have := t29 (by omega) 0 (by omega) (by omega)
      rw [Int.add_zero] at this
      rw [this, el]
      exact ow.2
    · have p0 := po_1 (L := L) (k := k) (by omega)
      have r1 : pAr L (lik L k) = 1 := by rw [el]; exact (x36 e).1
      exact ⟨by omega, by omega, by rw [r1]; exact t22 (by omega)⟩
  exact Or.inl ⟨rfl, hk, Or.inr ⟨by omega, by omega⟩, by rw [kd_s (by omega), fe, show 8 + (pDp L k - pAr L (lik L k)) - 8 = pDp L k - pAr L (lik L k) by omega]; exact ar.2.2⟩
theorem ns_entz {X : Int → FA} {k s c a b : Int} (n : nsp (X (frs L k))) (q : sb (X (frs L k)) s) (o : fok (X (frs L k))) : entz (flL L a) X k s c = entz (flL L b) X k s c := by
  have th : ath (X (frs L k)) ≠ 0 := by
    intro z
    rcases o with o | o
    · have := q.2.2
      rw [o, show ast fz = 0 from rfl, bl_zero] at this; cases this
    · rw [o.1] at z; cases z
  have e : rs (X (frs L k)) s = b1 s := by
    obtain ⟨n1, n2, n3⟩ := n th
    unfold rs
    rw [if_neg th, n1, n2, n3]
    rfl
  funext j
  rw [fl_entz, fl_entz, e]
  simp
/-- THE TWO TABLES ARE ONE -/
theorem flag_one {T U : TB} {R : Int → Prop} (w : WF L) (wt : WFt L) (tT : tiv L T) (tU : tiv L U) (cT : closedz (flL L 1) R T) (lT : ∀ V, tbok V → closedz (flL L 1) R V → tle T V) (cU : closedz L R U) (lU : ∀ V, tbok V → closedz L R V → tle U V) : T = U := by
  have same : flL L (L 99 0) 99 0 = L 99 0 := rfl
  have eL : ∀ X k s c, entz L X k s c = entz (flL L (L 99 0)) X k s c := fun X k s c => rfl
  have go : ∀ V : TB, tiv L V → (∀ {a i j : Int}, rfe L a i j → nsp (V a i j)) → ∀ k, inP L k → (CLz (flL L 1) V V k ↔ CLz L V V k) := by
    intro V tv ns k hk
    refine fl_CL (fun e s c q => ?_)
    rcases q with q | ⟨q1, q2, q3, q4, q5⟩
    · have := q.1; omega
    · rw [eL]
      exact ns_entz (ns (recv_rf w wt hk e)) q3 (tv.1 _ _ _)
  have nT : ∀ {a i j : Int}, rfe L a i j → nsp (T a i j) := fun h => least_ns (L := flL L 1) (fl_WF.mpr w) (fl_WFt.mpr wt) (fl_tiv.mpr tT) cT lT h
  have nU : ∀ {a i j : Int}, rfe L a i j → nsp (U a i j) := fun h => least_ns w wt tU cU lU h
  refine tle_anti tT.1 tU.1 (lT U tU.1 ⟨cU.1, fun k k0 k1 r => (go U tU nU k ⟨k0, k1⟩).mpr (cU.2 k k0 k1 r)⟩) (lU T tT.1 ⟨cT.1, fun k k0 k1 r => (go T tT nT k ⟨k0, k1⟩).mp (cT.2 k k0 k1 r)⟩)
end FLG
