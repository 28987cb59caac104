/-! J-layer, part 20: the executor is right -/
section RO
variable {K : JC} {own : String} {cc : ByteArray} {P : JP} {code : List (Nat × List (Nat × Instr))} {cuts : List (Nat × List Nat × List Nat)} {dia : List (Nat × Nat)} {cnr : List (Nat × Nat × Nat)}
theorem j_athrow {Ex : Nat → Int → MH → Prop} {pc g : Nat} {a : Int} {lv st : List LV} {h : MH} (ko : KO K own cc) (hd : decode cc pc = .ok (.athrow, 1)) (har : AR K Ex pc) (h1 : 2000 ≤ g) (h2 : g < 2100) (hE : Ex (g - 2000) a h) : JW K pc lv ((g, a) :: st) h := by
  obtain ⟨t0, e0⟩ : ∃ t0, g = 2000 + t0 := ⟨g - 2000, by omega⟩
  have e1 : g - 2000 = t0 := by omega
  rw [e1] at hE
  have h3 : t0 < 100 := by omega
  intro ls H locs hl hlv hst hR hq T hT X
  have hob := obj_of_nn h1 (by omega) (hst _ List.mem_cons_self)
  have hv : vl (kG K) (g, a) = .ref (ad (kG K) a) := vl_r (by omega) hob.1
  have o : okv h (2000 + t0, a) := by
    rw [← e0]
    exact hst _ List.mem_cons_self
  obtain ⟨t, t1, t2⟩ := har t0 a h ls (st.map (vl (kG K))) T locs _ _ h3 o hE hl.1 hl.2.1 (by rw [hT]; exact hR) hq.2 hq.1 X
  refine ⟨t, ?_, t2⟩
  have hexec := ko.1
  have hdg : decode (kC K).code pc = .ok (.athrow, 1) := by rw [ko.2.1]; exact hd
  have hstack : (F0 (kM K) pc ls (((g, a) :: st).map (vl (kG K)))).stack = .ref (ad (kG K) a) :: st.map (vl (kG K)) := by show vl (kG K) (g, a) :: _ = _; rw [hv]
  jvm_step X.here [hexec, hdg, athrow.wp_sem, hstack]
  rw [hv]
  exact t1
theorem j_obj {pc g idx : Nat} {a : Int} {lv st : List LV} {h : MH} (ko : KO K own cc) (hd : decode cc pc = .ok (.invokespecial idx, 3)) (hl0 : Cond.methodLink own idx Lib.objectInit ∈ lw_all) (h1 : 1 ≤ (kR K).frames) (h2 : 20 ≤ (kR K).locals) (hg : 4 ≤ g) (ho : okv h (g, a) → 1 ≤ a) (hwt : wst st ≤ 8) (kk : JW K (pc + 3) lv st h) : JW K pc lv ((g, a) :: st) h := by
  intro ls H locs hl hlv hst hR hq
  have ha := ho (hst _ List.mem_cons_self)
  show WK K H locs pc ls (vl (kG K) (g, a) :: st.map (vl (kG K)))
  rw [vl_r hg ha]
  have hw : 2 * (F0 (kM K) pc ls (.ref (ad (kG K) a) :: st.map (vl (kG K)))).monitorRoom + ((st.map (vl (kG K))).map fun v => v.category).sum ≤ 8 := lv_room (by rw [wst_eq]; exact hwt)
  exact W.objInit ko.1 ko.2.1 ko.2.2.1 (ko.2.2.2.1 _ hl0) (ko.2.2.2.1 _ q225) (ko.2.2.2.1 _ q226) rfl hl.1 rfl hd h1 (by omega) (kk ls H locs hl hlv (all_tail hst) hR hq)
theorem atT_ok {a : ArrayType} (h : 100 ≤ atT a) : jat (atT a) = some (newarray.typeOf a) ∧ Cond.arrayClass (newarray.typeOf a) ∈ lw_all ∧ atT a < 796 ∧ componentBytes (newarray.typeOf a) ≤ 8 := by
  cases a with
  | int => exact ⟨rfl, q283, by decide, by decide⟩
  | long => exact ⟨rfl, q281, by decide, by decide⟩
  | boolean => exact ⟨rfl, q282, by decide, by decide⟩
  | byte => exact ⟨rfl, q280, by decide, by decide⟩
  | _ => simp [atT] at h
def isSp (i : Instr) : Bool := match i with
  | .goto _ | .if_icmp _ _ | .ifCond _ _ | .ifnull _ | .ifnonnull _ | .tableswitch _ _ _ _ | .ireturn | .lreturn | .areturn | .return_ | .athrow | .putfield _ | .iastore | .lastore | .bastore | .aastore | .new _ | .newarray _ | .anewarray _ | .invokestatic _ | .invokevirtual _ | .invokespecial _ | .istore _ | .istore_n _ | .astore _ | .astore_n _ | .lstore _ | .lstore_n _ | .iinc _ _ => true
  | _ => false
theorem runb_gen {J : Nat → List LV → List LV → MH → Prop} {Q : Int → MH → Prop} {E : Nat → Int → MH → Prop} {rc : Nat → List LV → List LV → MH → Prop} {first : Bool} {pc : Nat} {lv st : List LV} {h : MH} {i : Instr} (h1 : cond first none (lk cuts pc) = none) (hi : lkc code pc = some i) (h2 : lk dia pc = none) (h3 : lk cnr pc = none) (hs : isSp i = false) :
    runb P code cuts dia cnr J Q E rc first pc lv st h = (match pst P 0 i lv st h with
              | some (ps, lv', st') => sides ps (rc (pc + iln i) lv' st' h)
              | none => J pc lv st h) := by
  unfold runb
  rw [h1, hi]
  simp only
  rw [h2]
  simp only
  rw [h3]
  simp only
  cases i <;> first | rfl | cases hs
theorem cond_P {b : Bool} {x y z : Prop} (h : cond b x y) (h1 : b = true → x → z) (h2 : y → z) : z := by
  cases b with
  | true => exact h1 rfl h
  | false => exact h2 h
theorem isSp_sw {i : Instr} (h : isSw i = true) : isSp i = true := by
  cases i <;> first | rfl | cases h
theorem rtg_5 : ∀ {gs : List Nat} {xs ys : List LV}, rtg gs xs = some ys → (∀ g ∈ gs, g ≠ 5000) → ∀ y ∈ ys, y.1 ≠ 5000
  | [], [], ys, e, _, y, hy => by cases e; cases hy
  | [], x :: xs, ys, e, _, y, hy => by cases e
  | g' :: gs, [], ys, e, _, y, hy => by cases e
  | g' :: gs, x :: xs, ys, e, hg, y, hy => by
    simp only [rtg, on1] at e
    obtain ⟨e1, e2⟩ := cond_s e
    split at e2
    · rename_i r hr
      cases e2
      rcases List.mem_cons.mp hy with q | q
      · subst q
        unfold rt1
        have h5 : Nat.beq g' 5000 = false := by
          cases hb : Nat.beq g' 5000 with
          | false => rfl
          | true => exact absurd (Nat.eq_of_beq_eq_true hb) (hg g' List.mem_cons_self)
        rw [h5]
        exact hg g' List.mem_cons_self
      · exact rtg_5 hr (fun g q => hg g (List.mem_cons_of_mem _ q)) y q
    · cases e2
theorem nn_ok {h : MH} {g g' : Nat} {a : Int} (hr : isRf g = true) (hn : g < 800 → a ≠ 0) (h1 : 2000 ≤ g') (h2 : g' < 2100) (he : arT g = g' % 1000) (ho : okv h (g, a)) : okv h (g', a) ∧ obj h (g' - 2000) a := by
  have hob := tag_obj hr hn ho
  rw [he] at hob
  obtain ⟨t0, e0⟩ : ∃ t0, g' = 2000 + t0 := ⟨g' - 2000, by omega⟩
  have h1000 : t0 < 1000 := by omega
  have hob2 : obj h t0 a := by
    refine ⟨hob.1, hob.2.1, ?_⟩
    have := hob.2.2
    omega
  rw [e0]
  refine ⟨okv_nn h1000 hob2, ?_⟩
  rw [show 2000 + t0 - 2000 = t0 by omega]
  exact hob2
theorem vsd_ok {h : MH} {G : JG} {vt gx : Nat} {x : Int} {vs : List Prop} (h8 : vt < 700) (e : vsd vt gx x = some vs) (hs : cj vs) : (okv h (gx, x) → okf h vt x) ∧ vl G (gx, x) = vl G (vt, x) := by
  unfold vsd at e
  cases b0 : Nat.beq vt 0 with
  | true =>
    rw [b0] at e
    obtain ⟨e1, -⟩ := cond_s e
    cases beq_0 e1
    have := Nat.eq_of_beq_eq_true b0
    subst this
    exact ⟨fun q => by unfold okv at q; exact q, rfl⟩
  | false =>
    rw [b0] at e
    simp only [cond_false] at e
    cases b1 : Nat.beq vt 1 with
    | true =>
      rw [b1] at e
      obtain ⟨e1, -⟩ := cond_s e
      cases beq_1 e1
      have := Nat.eq_of_beq_eq_true b1
      subst this
      exact ⟨fun q => by unfold okv at q; exact q, rfl⟩
    | false =>
      rw [b1] at e
      simp only [cond_false] at e
      cases b2 : Nat.beq vt 2 with
      | true =>
        rw [b2] at e
        obtain ⟨e1, e2⟩ := cond_s e
        cases e2
        cases beq_0 e1
        have := Nat.eq_of_beq_eq_true b2
        subst this
        exact ⟨fun _ => by simp [okf]; exact hs, rfl⟩
      | false =>
        rw [b2] at e
        simp only [cond_false] at e
        cases b3 : Nat.beq vt 3 with
        | true =>
          rw [b3] at e
          obtain ⟨e1, e2⟩ := cond_s e
          cases e2
          cases beq_0 e1
          have := Nat.eq_of_beq_eq_true b3
          subst this
          exact ⟨fun _ => by simp [okf]; exact hs, rfl⟩
        | false =>
          rw [b3] at e
          obtain ⟨e1, -⟩ := cond_s e
          simp only [Bool.and_eq_true] at e1
          have n0 : vt ≠ 0 := fun q => by rw [q] at b0; cases b0
          have n1 : vt ≠ 1 := fun q => by rw [q] at b1; cases b1
          have n2 : vt ≠ 2 := fun q => by rw [q] at b2; cases b2
          have n3 : vt ≠ 3 := fun q => by rw [q] at b3; cases b3
          have h4 := Nat.le_of_ble_eq_true e1.2
          refine ⟨fun q => ?_, vl_same h4 (by omega)⟩
          have := (cvt_ok (G := G) e1.1 (by omega) q).1
          unfold okv at this
          rw [if_pos (show (vt, x).1 < 800 by show vt < 800; omega)] at this
          exact this
theorem aal_st {g t : Nat} {a z : Int} {h : MH} {vs : List Prop} {q : Prop} (hr : isRf g = true) (ht : arT g = t) (hs : sides (nlc g a ++ ([0 ≤ z, z < aLn g h a] ++ vs)) q) : (okv h (g, a) → obj h t a) ∧ 0 ≤ z ∧ (okv h (g, a) → z < hn h a) ∧ cj vs ∧ q := by
  rw [sides_app] at hs
  obtain ⟨q1, q2, q3, q4⟩ := sides_nlc hs
  obtain ⟨q5, q6⟩ := sides_cj.mp q4
  exact ⟨fun o => by rw [← ht]; exact tag_obj hr q1 o, q2, fun o => by rw [← tag_len o]; exact q3, q5, q6⟩
theorem ety_lt {t : Nat} : ety t < 700 := by
  unfold ety
  split <;> decide
set_option maxHeartbeats 4000000 in
theorem run_okX {Ex : Nat → Int → MH → Prop} {hp0 : Prop} (ko : KO K own cc) (po : POKx K own P hp0) (hc : CodeOK cc code) (har : ∀ (pc : Nat) (i : Instr), lkc code pc = some i → AR K Ex pc) (hcut : ∀ q ∈ cuts, ∀ g ∈ q.2.2, g ≠ 5000) : ∀ (n : Nat) (first : Bool) (pc : Nat) (lv st : List LV) (h : MH), run P code cuts dia cnr (JW K) (kQ K) Ex n first pc lv st h → JW K pc lv st h
  | 0, first, pc, lv, st, h, e => e
  | n + 1, first, pc, lv, st, h, e => by
    have IH : ∀ (pc : Nat) (lv st : List LV) (h : MH), run P code cuts dia cnr (JW K) (kQ K) Ex n false pc lv st h → JW K pc lv st h := fun pc lv st h q => run_okX ko po hc har hcut n false pc lv st h q
    replace e : runb P code cuts dia cnr (JW K) (kQ K) Ex (run P code cuts dia cnr (JW K) (kQ K) Ex n false) first pc lv st h := by
      have e' : frc lv (fun lv => frc st (fun st => runb P code cuts dia cnr (JW K) (kQ K) Ex (run P code cuts dia cnr (JW K) (kQ K) Ex n false) first pc lv st h)) := e
      rw [frc_eq, frc_eq] at e'
      exact e'
    generalize run P code cuts dia cnr (JW K) (kQ K) Ex n false = rc at IH e
    have po' := po
    obtain ⟨pon, prf, prc, prl, prp, prn, pra, pca, pin, prt, pex, pof, pret, ppf⟩ := po
    have e0 := e
    unfold runb at e
    cases h1 : cond first none (lk cuts pc) with
    | some q =>
      obtain ⟨lt, stt⟩ := q
      rw [h1] at e
      simp only at e
      split at e
      · rename_i lv' st' r1 r2
        have hm : (pc, lt, stt) ∈ cuts := by
          cases first with
          | true => cases h1
          | false => exact lk_mem h1
        exact j_rtg r1 r2 (rtg_5 r2 (hcut _ hm)) e
      · exact e
    | none =>
      rw [h1] at e
      simp only at e
      cases hi : lkc code pc with
      | none => rw [hi] at e; exact e
      | some i =>
        rw [hi] at e
        simp only at e
        have ops_ok : ∀ (r st0 : List LV), ops i st = some (r, st0) → st = r ++ st0 := by
          intro r st0 q
          unfold ops at q
          split at q
          · split at q
            · cases q; rfl
            · cases q
          all_goals first
            | (split at q
               · cases q; rfl
               · cases q)
            | cases q
        cases h2 : lk dia pc with
        | some j =>
          rw [h2] at e
          simp only at e
          split at e
          · rename_i r st0 ho
            split at e
            · rename_i s g z hev
              obtain ⟨s1, s2⟩ := sides_cj.mp e
              rw [ops_ok _ _ ho]
              exact evP_ok ko po' hc _ _ _ _ h st0 _ _ _ (Nat.le_refl _) hev s1 (IH _ _ _ _ s2)
            · exact e
          · exact e
        | none =>
          rw [h2] at e
          simp only at e
          cases h3 : lk cnr pc with
          | some q =>
            obtain ⟨X, Y⟩ := q
            rw [h3] at e
            simp only at e
            split at e
            · rename_i r st0 ho
              split at e
              · rename_i kd C s hev
                obtain ⟨s1, s2, s3⟩ := sides_cj.mp e
                rw [ops_ok _ _ ho]
                exact (evC_ok ko po' hc _ _ _ _ h st0 _ _ _ (Nat.le_refl _) hev).2 s1 (fun q => IH _ _ _ _ (s2 q)) (fun q => IH _ _ _ _ (s3 q))
              · exact e
            · exact e
          | none =>
            cases hs : isSp i with
            | false =>
              rw [runb_gen h1 hi h2 h3 hs] at e0
              split at e0
              · rename_i ps lv' st' hp
                have hsw : isSw i = false := by
                  cases hw : isSw i with
                  | false => rfl
                  | true => rw [isSp_sw hw] at hs; cases hs
                have := pst_ok (st := []) ko po' (Nat.le_refl _) (code_at hc hi hsw) hp (sides_cj.mpr ⟨(sides_cj.mp e0).1, by rw [List.append_nil]; exact IH _ _ _ _ (sides_cj.mp e0).2⟩)
                rw [List.append_nil] at this
                exact this
              · exact e0
            | true =>
              rw [h3] at e
              simp only at e
              cases i with
              | goto off =>
                refine cond_P e (fun b q => ?_) (fun q => q)
                exact j_goto ko (code_at hc hi rfl) (tgt_ok b) (IH _ _ _ _ q)
              | if_icmp c off =>
                dsimp only at e
                split at e
                · rename_i gb b ga a st0
                  refine cond_P e (fun q1 q2 => ?_) (fun q => q)
                  simp only [Bool.and_eq_true] at q1
                  cases beq_0 q1.1
                  cases beq_0 q1.2.1
                  exact j_icmp ko (code_at hc hi rfl) (tgt_ok q1.2.2) (fun z => IH _ _ _ _ (q2.1 z)) (fun z => IH _ _ _ _ (q2.2 z))
                · exact e
              | ifCond c off =>
                dsimp only at e
                split at e
                · rename_i ga a st0
                  refine cond_P e (fun q1 q2 => ?_) (fun q => q)
                  simp only [Bool.and_eq_true] at q1
                  cases beq_0 q1.1
                  exact j_if ko (code_at hc hi rfl) (tgt_ok q1.2) (fun z => IH _ _ _ _ (q2.1 z)) (fun z => IH _ _ _ _ (q2.2 z))
                · exact e
              | ifnull off =>
                dsimp only at e
                split at e
                · rename_i ga a st0
                  refine cond_P e (fun q1 q2 => ?_) (fun q => q)
                  simp only [Bool.and_eq_true] at q1
                  exact j_ifnull ko (code_at hc hi rfl) (pR_4 q1.1).1 (tgt_ok q1.2) (fun z => IH _ _ _ _ (q2.1 z)) (fun z => IH _ _ _ _ (q2.2 z))
                · exact e
              | ifnonnull off =>
                dsimp only at e
                split at e
                · rename_i ga a st0
                  refine cond_P e (fun q1 q2 => ?_) (fun q => q)
                  simp only [Bool.and_eq_true] at q1
                  exact j_ifnonnull ko (code_at hc hi rfl) (pR_4 q1.1).1 (tgt_ok q1.2) (fun z => IH _ _ _ _ (q2.1 z)) (fun z => IH _ _ _ _ (q2.2 z))
                · exact e
              | tableswitch dflt lo hi2 offs =>
                dsimp only at e
                split at e
                · rename_i ga a st0
                  refine cond_P e (fun q1 q2 => ?_) (fun q => q)
                  simp only [Bool.and_eq_true] at q1
                  obtain ⟨b1, b2, b3, b4⟩ := q1
                  cases beq_0 b1
                  obtain ⟨p9, hp8, hp9⟩ := lkc_mem hi
                  obtain ⟨len, d1, -⟩ := hc _ hp8 _ hp9
                  have b4' := of_decide_eq_true b4
                  refine j_switch (ts := offs.toList.map (fun o => tgt pc o)) ko d1 (tgt_ok b2) ?_ (by rw [List.length_map]; exact b4') ?_ (fun z => IH _ _ _ _ (q2.2 z))
                  · rw [List.map_map]
                    apply List.map_congr_left
                    intro o ho
                    exact tgt_ok (List.all_eq_true.mp b3 o ho)
                  · have hmon : ∀ (ts : List Nat) (l0 : Int), swt (fun t => rc t lv st0 h) a l0 ts → swt (fun t => JW K t lv st0 h) a l0 ts := by
                      intro ts
                      induction ts with
                      | nil => intro l0 _; trivial
                      | cons t ts ih => intro l0 q; exact ⟨fun z => IH _ _ _ _ (q.1 z), ih _ q.2⟩
                    exact hmon _ _ q2.1
                · exact e
              | ireturn =>
                dsimp only at e
                split at e
                · rename_i g z
                  refine cond_P e (fun q1 q2 => ?_) (fun q => q)
                  cases beq_0 q1
                  refine cond_P q2 (fun r1 r2 => ?_) (fun r => ?_)
                  · have r1 := Nat.eq_of_beq_eq_true r1
                    rcases pret with ⟨_, t2⟩ | ⟨t1, _⟩ | ⟨t1, _⟩ | ⟨t1, _⟩ | ⟨t1, _⟩
                    · exact j_iret ko (code_at hc hi rfl) t2 (by rw [prt]; exact r1) r2
                    all_goals omega
                  · refine cond_P r (fun r1 r2 => ?_) (fun r => r)
                    have r1 := Nat.eq_of_beq_eq_true r1
                    rcases pret with ⟨t1, _⟩ | ⟨t1, _⟩ | ⟨_, t2⟩ | ⟨t1, _⟩ | ⟨t1, _⟩
                    · omega
                    · omega
                    · exact j_zret ko (code_at hc hi rfl) t2 (by rw [prt]; exact r1) r2.1 r2.2
                    · omega
                    · omega
                · exact e
              | lreturn =>
                dsimp only at e
                split at e
                · rename_i g z
                  refine cond_P e (fun q1 q2 => ?_) (fun q => q)
                  simp only [Bool.and_eq_true] at q1
                  cases beq_1 q1.1
                  have r1 := Nat.eq_of_beq_eq_true q1.2
                  rcases pret with ⟨t1, _⟩ | ⟨_, t2⟩ | ⟨t1, _⟩ | ⟨t1, _⟩ | ⟨t1, _⟩
                  · omega
                  · exact j_lret ko (code_at hc hi rfl) t2 (by rw [prt]; exact r1) q2
                  all_goals omega
                · exact e
              | areturn =>
                dsimp only at e
                split at e
                · rename_i g z
                  refine cond_P e (fun q1 q2 => ?_) (fun q => q)
                  simp only [Bool.and_eq_true] at q1
                  obtain ⟨b1, b2, b3, b4⟩ := q1
                  have b1 := Nat.le_of_ble_eq_true b1
                  have b2 := Nat.le_of_ble_eq_true b2
                  have b3 := (blt_iff _ _).mp b3
                  rcases pret with ⟨t1, _⟩ | ⟨t1, _⟩ | ⟨t1, _⟩ | ⟨t1, _⟩ | ⟨_, _, ty, t2, t3⟩
                  · omega
                  · omega
                  · omega
                  · omega
                  · refine j_aret ko (code_at hc hi rfl) t2 t3 (by rw [prt]; exact b2) (by rw [prt]; exact b3) b1 (fun o => ?_) q2
                    rw [prt]
                    have := (cvt_ok (G := kG K) b4 (by omega) o).1
                    unfold okv at this
                    rw [if_pos (show (pRt P, z).1 < 800 by show pRt P < 800; omega)] at this
                    exact this
                · exact e
              | return_ =>
                dsimp only at e
                split at e
                · refine cond_P e (fun q1 q2 => ?_) (fun q => q)
                  have r1 := Nat.eq_of_beq_eq_true q1
                  rcases pret with ⟨t1, _⟩ | ⟨t1, _⟩ | ⟨t1, _⟩ | ⟨_, t2⟩ | ⟨_, t1, _⟩
                  · omega
                  · omega
                  · omega
                  · exact j_vret ko (code_at hc hi rfl) t2 (by rw [prt]; exact r1) q2
                  · omega
                · exact e
              | athrow =>
                dsimp only at e
                split at e
                · rename_i g a st0
                  refine cond_P e (fun q1 q2 => ?_) (fun q => q)
                  simp only [Bool.and_eq_true] at q1
                  exact j_athrow ko (code_at hc hi rfl) (har pc _ hi) (Nat.le_of_ble_eq_true q1.1) ((blt_iff _ _).mp q1.2) q2
                · exact e
              | putfield k =>
                dsimp only at e
                split at e
                · rename_i t f vt gx x g a st0 hk
                  split at e
                  · rename_i vs hv
                    refine cond_P e (fun q1 q2 => ?_) (fun q => q)
                    simp only [Bool.and_eq_true] at q1
                    obtain ⟨b1, b2⟩ := q1
                    have b2 := Nat.eq_of_beq_eq_true b2
                    obtain ⟨fin, hf, hp1, hp2, hp3⟩ := prp _ (lk_mem hk)
                    simp only at hf hp1 hp2 hp3
                    subst hp3
                    rw [sides_app] at q2
                    obtain ⟨n1, n2⟩ := sides_nlc q2
                    obtain ⟨n3, n4⟩ := sides_cj.mp n2
                    have h8 : fty t f < 700 := hf.1.2.1
                    obtain ⟨v1, v2⟩ := vsd_ok (h := h) (G := kG K) h8 hv n3
                    refine j_put ko (code_at hc hi rfl) hf (isRf_4 b1) (fun o => by rw [← b2]; exact tag_obj b1 n1 o) (fun z => pin (hp1 z)) (fun z => ?_) v2 v1 (IH _ _ _ _ (n4 _ rfl))
                    rcases hp2 with b4 | b4
                    · exact b4
                    · rw [pof b4] at z; cases z
                  · exact e
                · exact e
              | iastore =>
                dsimp only at e
                split at e
                · rename_i gx x gi z g a st0
                  refine cond_P e (fun q1 q2 => ?_) (fun q => q)
                  simp only [Bool.and_eq_true] at q1
                  obtain ⟨b1, b2, b3, b4⟩ := q1
                  cases beq_0 b1
                  cases beq_0 b2
                  obtain ⟨c1, c2, c3, -, c5⟩ := aal_st (vs := []) b3 (Nat.eq_of_beq_eq_true b4) q2
                  refine j_use (fun hst => ?_)
                  exact j_iast ko (code_at hc hi rfl) (isRf_4 b3) c1 c2 (c3 (hst _ (List.mem_cons_of_mem _ (List.mem_cons_of_mem _ List.mem_cons_self)))) (IH _ _ _ _ (c5 _ rfl))
                · exact e
              | lastore =>
                dsimp only at e
                split at e
                · rename_i gx x gi z g a st0
                  refine cond_P e (fun q1 q2 => ?_) (fun q => q)
                  simp only [Bool.and_eq_true] at q1
                  obtain ⟨b1, b2, b3, b4⟩ := q1
                  cases beq_1 b1
                  cases beq_0 b2
                  obtain ⟨c1, c2, c3, -, c5⟩ := aal_st (vs := []) b3 (Nat.eq_of_beq_eq_true b4) q2
                  refine j_use (fun hst => ?_)
                  exact j_last ko (code_at hc hi rfl) (isRf_4 b3) c1 c2 (c3 (hst _ (List.mem_cons_of_mem _ (List.mem_cons_of_mem _ List.mem_cons_self)))) (IH _ _ _ _ (c5 _ rfl))
                · exact e
              | bastore =>
                dsimp only at e
                split at e
                · rename_i gx x gi z g a st0
                  refine cond_P e (fun q1 q2 => ?_) (fun q => ?_)
                  · simp only [Bool.and_eq_true] at q1
                    obtain ⟨b1, b2, b3, b4⟩ := q1
                    cases beq_0 b1
                    cases beq_0 b2
                    obtain ⟨c1, c2, c3, c4, c5⟩ := aal_st (vs := [x = 0 ∨ x = 1]) b3 (Nat.eq_of_beq_eq_true b4) q2
                    refine j_use (fun hst => ?_)
                    exact j_zast ko (code_at hc hi rfl) (isRf_4 b3) c1 c2 (c3 (hst _ (List.mem_cons_of_mem _ (List.mem_cons_of_mem _ List.mem_cons_self)))) c4 (IH _ _ _ _ (c5 _ rfl))
                  · refine cond_P q (fun q1 q2 => ?_) (fun q => q)
                    simp only [Bool.and_eq_true] at q1
                    obtain ⟨b1, b2, b3, b4⟩ := q1
                    cases beq_0 b1
                    cases beq_0 b2
                    obtain ⟨c1, c2, c3, c4, c5⟩ := aal_st (vs := [-128 ≤ x ∧ x ≤ 127]) b3 (Nat.eq_of_beq_eq_true b4) q2
                    refine j_use (fun hst => ?_)
                    exact j_bast ko (code_at hc hi rfl) (isRf_4 b3) c1 c2 (c3 (hst _ (List.mem_cons_of_mem _ (List.mem_cons_of_mem _ List.mem_cons_self)))) c4 (IH _ _ _ _ (c5 _ rfl))
                · exact e
              | aastore =>
                dsimp only at e
                split at e
                · rename_i gx x gi z g a st0
                  refine cond_P e (fun q1 q2 => ?_) (fun q => q)
                  simp only [Bool.and_eq_true] at q1
                  obtain ⟨b1, b2, b3, b4, b5, b6, b7⟩ := q1
                  cases beq_0 b3
                  obtain ⟨c1, c2, c3, c4, c5⟩ := aal_st (vs := nlc gx x) b4 rfl q2
                  obtain ⟨d1, -⟩ := sides_nlc (sides_cj.mpr ⟨c4, trivial⟩)
                  obtain ⟨ty, hty⟩ := Option.isSome_iff_exists.mp b7
                  have h113 := Nat.le_of_ble_eq_true b5
                  refine j_use (fun hst => ?_)
                  exact j_aast ko (code_at hc hi rfl) (by omega) hty (jat_ref h113 hty) (Nat.le_of_ble_eq_true b6) (isRf_4 b4) c1 (isRf_4 b1) (fun o => by rw [← Nat.eq_of_beq_eq_true b2]; exact tag_obj b1 d1 o) c2 (c3 (hst _ (List.mem_cons_of_mem _ (List.mem_cons_of_mem _ List.mem_cons_self)))) (IH _ _ _ _ (c5 _ rfl))
                · exact e
              | new k =>
                dsimp only at e
                split at e
                · rename_i t c hk
                  refine cond_P e (fun q1 q2 => ?_) (fun q => q)
                  simp only [Bool.or_eq_true, Bool.not_eq_true'] at q1
                  exact j_new ko (code_at hc hi rfl) (prn _ (lk_mem hk)) (fun z => by
                    rcases q1 with q1 | q1
                    · exact List.isEmpty_iff.mp q1
                    · rw [pof q1] at z; cases z) q2.1 q2.2.1 (IH _ _ _ _ (q2.2.2 _ rfl))
                · exact e
              | newarray at9 =>
                dsimp only at e
                split at e
                · rename_i g z st0
                  refine cond_P e (fun q1 q2 => ?_) (fun q => q)
                  simp only [Bool.and_eq_true] at q1
                  cases beq_0 q1.1
                  have h100 := Nat.le_of_ble_eq_true q1.2
                  obtain ⟨a1, a2, a3, a4⟩ := atT_ok h100
                  exact j_newa ko (code_at hc hi rfl) a1 a2 h100 a3 a4 q2.1 q2.2.1 q2.2.2.1 (IH _ _ _ _ (q2.2.2.2 _ rfl))
                · exact e
              | anewarray k =>
                dsimp only at e
                split at e
                · rename_i t g z st0 hk
                  refine cond_P e (fun q1 q2 => ?_) (fun q => q)
                  cases beq_0 q1
                  exact j_anew ko (code_at hc hi rfl) (pra _ (lk_mem hk)) q2.1 q2.2.1 q2.2.2.1 (IH _ _ _ _ (q2.2.2.2 _ rfl))
                · exact e
              | invokestatic k =>
                dsimp only at e
                split at e
                · rename_i tgs rt sem hk
                  split at e
                  · rename_i as st0 ht
                    refine cond_P e (fun q1 q2 => ?_) (fun q => q)
                    have hw := Nat.le_of_ble_eq_true q1
                    rcases pca _ (lk_mem hk) with ⟨-, y, ws, F, Lo, nLy, s1, s2, s3, s4, s5, s6⟩ | ⟨z, _⟩ | ⟨z, _⟩ | ⟨z, _⟩
                    · simp only at s1 s2 s4
                      rw [s1] at q2
                      obtain ⟨ar, a1, a2, a3, a4⟩ := tk_ok (h := h) (G := kG K) ht
                      rw [List.append_nil] at a1
                      subst a1
                      refine j_use (fun hst => ?_)
                      exact j_invS (Sem_mono q2 (fun z h1 _ q => IH _ _ _ _ q) (fun _ _ _ _ q => q)) ko (code_at hc hi rfl) (by rw [a2]; exact s2) s3 (har pc _ hi) s4 s5 s6 hw (a4 hst).1 (fun o => (a4 o).2)
                    all_goals cases z
                  · exact e
                · split at e
                  · rename_i ps lv' st' hp
                    have := pst_ok (st := []) ko po' (Nat.le_refl _) (code_at hc hi rfl) hp (sides_cj.mpr ⟨(sides_cj.mp e).1, by rw [List.append_nil]; exact IH _ _ _ _ (sides_cj.mp e).2⟩)
                    rw [List.append_nil] at this
                    exact this
                  · exact e
              | istore k =>
                dsimp only at e
                split at e
                · rename_i g z st0
                  refine cond_P e (fun q1 q2 => ?_) (fun q => q)
                  have q1' := q1
                  simp only [Bool.and_eq_true] at q1
                  cases beq_0 q1.1
                  have := pst_ok (st := []) (r := (0, z) :: st0) (ps := []) (lv' := stl lv k (0, z)) (r' := st0) ko po' (Nat.le_refl _) (code_at hc hi rfl) (by simp only [pst, stv]; rw [show (on1 (0, z) p0 && Nat.blt k lv.length) = true by simp only [Bool.and_eq_true]; exact ⟨rfl, q1.2⟩]; rfl) (by rw [List.append_nil]; exact IH _ _ _ _ (q2 _ rfl))
                  rw [List.append_nil] at this
                  exact this
                · exact e
              | istore_n k =>
                dsimp only at e
                split at e
                · rename_i g z st0
                  refine cond_P e (fun q1 q2 => ?_) (fun q => q)
                  have q1' := q1
                  simp only [Bool.and_eq_true] at q1
                  cases beq_0 q1.1
                  have := pst_ok (st := []) (r := (0, z) :: st0) (ps := []) (lv' := stl lv k.val (0, z)) (r' := st0) ko po' (Nat.le_refl _) (code_at hc hi rfl) (by simp only [pst, stv]; rw [show (on1 (0, z) p0 && Nat.blt k.val lv.length) = true by simp only [Bool.and_eq_true]; exact ⟨rfl, q1.2⟩]; rfl) (by rw [List.append_nil]; exact IH _ _ _ _ (q2 _ rfl))
                  rw [List.append_nil] at this
                  exact this
                · exact e
              | astore k =>
                dsimp only at e
                split at e
                · rename_i g z st0
                  refine cond_P e (fun q1 q2 => ?_) (fun q => q)
                  have q1' := q1
                  simp only [Bool.and_eq_true] at q1
                  skip
                  have := pst_ok (st := []) (r := (g, z) :: st0) (ps := []) (lv' := stl lv k (g, z)) (r' := st0) ko po' (Nat.le_refl _) (code_at hc hi rfl) (by simp only [pst, stv]; rw [show (on1 (g, z) pR && Nat.blt k lv.length) = true by simp only [Bool.and_eq_true]; exact q1]; rfl) (by rw [List.append_nil]; exact IH _ _ _ _ (q2 _ rfl))
                  rw [List.append_nil] at this
                  exact this
                · exact e
              | astore_n k =>
                dsimp only at e
                split at e
                · rename_i g z st0
                  refine cond_P e (fun q1 q2 => ?_) (fun q => q)
                  have q1' := q1
                  simp only [Bool.and_eq_true] at q1
                  skip
                  have := pst_ok (st := []) (r := (g, z) :: st0) (ps := []) (lv' := stl lv k.val (g, z)) (r' := st0) ko po' (Nat.le_refl _) (code_at hc hi rfl) (by simp only [pst, stv]; rw [show (on1 (g, z) pR && Nat.blt k.val lv.length) = true by simp only [Bool.and_eq_true]; exact q1]; rfl) (by rw [List.append_nil]; exact IH _ _ _ _ (q2 _ rfl))
                  rw [List.append_nil] at this
                  exact this
                · exact e
              | lstore k =>
                dsimp only at e
                split at e
                · rename_i g z st0
                  refine cond_P e (fun q1 q2 => ?_) (fun q => q)
                  have q1' := q1
                  simp only [Bool.and_eq_true] at q1
                  cases beq_1 q1.1
                  have := pst_ok (st := []) (r := (1, z) :: st0) (ps := []) (lv' := stl2 lv k (1, z)) (r' := st0) ko po' (Nat.le_refl _) (code_at hc hi rfl) (by simp only [pst, stw]; rw [show (on1 (1, z) (fun g => Nat.beq g 1) && Nat.blt (k + 1) lv.length) = true by simp only [Bool.and_eq_true]; exact ⟨rfl, q1.2⟩]; rfl) (by rw [List.append_nil]; exact IH _ _ _ _ (q2 _ rfl))
                  rw [List.append_nil] at this
                  exact this
                · exact e
              | lstore_n k =>
                dsimp only at e
                split at e
                · rename_i g z st0
                  refine cond_P e (fun q1 q2 => ?_) (fun q => q)
                  have q1' := q1
                  simp only [Bool.and_eq_true] at q1
                  cases beq_1 q1.1
                  have := pst_ok (st := []) (r := (1, z) :: st0) (ps := []) (lv' := stl2 lv k.val (1, z)) (r' := st0) ko po' (Nat.le_refl _) (code_at hc hi rfl) (by simp only [pst, stw]; rw [show (on1 (1, z) (fun g => Nat.beq g 1) && Nat.blt (k.val + 1) lv.length) = true by simp only [Bool.and_eq_true]; exact ⟨rfl, q1.2⟩]; rfl) (by rw [List.append_nil]; exact IH _ _ _ _ (q2 _ rfl))
                  rw [List.append_nil] at this
                  exact this
                · exact e
              | iinc k d =>
                dsimp only at e
                split at e
                · rename_i x hx0
                  obtain ⟨g, z⟩ := x
                  rw [nth_eq] at hx0
                  refine cond_P e (fun q1 q2 => ?_) (fun q => q)
                  cases beq_0 q1
                  exact j_iinc ko (code_at hc hi rfl) hx0 (IH _ _ _ _ (q2 _ rfl))
                · exact e
              | invokevirtual k =>
                dsimp only at e
                split at e
                · rename_i tgs rt sem hk
                  split at e
                  · rename_i as g a st0 g' ht hg9
                    refine cond_P e (fun q1 q2 => ?_) (fun q => q)
                    simp only [Bool.and_eq_true] at q1
                    obtain ⟨hw, f1, f2, f3, f4⟩ := q1
                    have hw := Nat.le_of_ble_eq_true hw
                    have f2 := Nat.le_of_ble_eq_true f2
                    have f3 := (blt_iff _ _).mp f3
                    have f4 := Nat.eq_of_beq_eq_true f4
                    obtain ⟨n1, n2⟩ := sides_nlc q2
                    rcases pca _ (lk_mem hk) with ⟨z, _⟩ | ⟨-, y, ws, F, Lo, nLy, t, s1, s2, s3, s7, s4, s5, s6⟩ | ⟨z, _⟩ | ⟨z, _⟩
                    · cases z
                    · simp only at s1 s2 s4 s7
                      rw [s1] at n2
                      obtain ⟨ar, a1, a2, a3, a4⟩ := tk_ok (h := h) (G := kG K) ht
                      rw [List.append_nil] at a1
                      subst a1
                      have e7 := Option.some.inj (hg9.symm.trans s7)
                      refine j_use (fun hst => ?_)
                      obtain ⟨b1, b2, b3⟩ := a4 hst
                      obtain ⟨c1, c2⟩ := nn_ok f1 n1 f2 f3 f4 (b3 _ List.mem_cons_self)
                      refine j_invV (t := t) (g := g) (Sem_mono n2 (fun z h1 _ q => IH _ _ _ _ q) (fun _ _ _ _ q => q)) ko (code_at hc hi rfl) (by rw [a2]; exact s2) s3 (har pc _ hi) s4 s5 s6 hw (by omega) (sta := st) ?_ (fun o => ⟨⟨c1, by rw [show t = g' - 2000 by omega]; exact c2⟩, b2, all_tail b3⟩)
                      rw [b1, List.map_cons, vl_same (g := g) (g' := g') (isRf_4 f1) (by omega)]
                    · cases z
                    · cases z
                  · exact e
                · exact e
              | invokespecial k =>
                dsimp only at e
                split at e
                · rename_i tgs rt sem hk
                  split at e
                  · rename_i as g a st0 g' ht hg9
                    refine cond_P e (fun q1 q2 => ?_) (fun q => q)
                    simp only [Bool.and_eq_true] at q1
                    obtain ⟨hw, f1, f2, f3, f4⟩ := q1
                    have hw := Nat.le_of_ble_eq_true hw
                    have f2 := Nat.le_of_ble_eq_true f2
                    have f3 := (blt_iff _ _).mp f3
                    have f4 := Nat.eq_of_beq_eq_true f4
                    obtain ⟨n1, n2⟩ := sides_nlc q2
                    rcases pca _ (lk_mem hk) with ⟨z, _⟩ | ⟨z, _⟩ | ⟨-, y, ws, F, Lo, nLy, s1, s2, s3, s4, s5, s6⟩ | ⟨z, _⟩
                    · cases z
                    · cases z
                    · simp only at s1 s2 s4
                      rw [s1] at n2
                      obtain ⟨ar, a1, a2, a3, a4⟩ := tk_ok (h := h) (G := kG K) ht
                      rw [List.append_nil] at a1
                      subst a1
                      refine j_use (fun hst => ?_)
                      obtain ⟨b1, b2, b3⟩ := a4 hst
                      obtain ⟨c1, c2⟩ := nn_ok f1 n1 f2 f3 f4 (b3 _ List.mem_cons_self)
                      refine j_invI (Sem_mono n2 (fun z h1 _ q => IH _ _ _ _ q) (fun _ _ _ _ q => q)) ko (code_at hc hi rfl) (by rw [a2]; exact s2) s3 (har pc _ hi) s4 s5 s6 hw (by omega) (sta := st) ?_ (fun o => ⟨⟨c1, c2.1⟩, b2, all_tail b3⟩)
                      rw [b1, List.map_cons, vl_same (g := g) (g' := g') (isRf_4 f1) (by omega)]
                    · cases z
                  · exact e
                · rename_i t0 r0 m0 hk
                  split at e
                  · rename_i g a st0
                    refine cond_P e (fun q1 q2 => ?_) (fun q => q)
                    simp only [Bool.and_eq_true] at q1
                    obtain ⟨n1, n2⟩ := sides_nlc q2
                    rcases pca _ (lk_mem hk) with ⟨z, _⟩ | ⟨z, _⟩ | ⟨z, _⟩ | ⟨-, s1, s2, s3⟩
                    · cases z
                    · cases z
                    · cases z
                    · exact j_obj ko (code_at hc hi rfl) s1 s2 s3 (isRf_4 q1.1) (fun o => (tag_obj q1.1 n1 o).1) (Nat.le_of_ble_eq_true q1.2) (IH _ _ _ _ n2)
                  · exact e
                · exact e
              | _ => cases hs
theorem run_ok (ko : KO K own cc) (po : POK K own P) (hc : CodeOK cc code) (hcut : ∀ q ∈ cuts, ∀ g ∈ q.2.2, g ≠ 5000) (n : Nat) (first : Bool) (pc : Nat) (lv st : List LV) (h : MH) (e : run P code cuts dia cnr (JW K) (kQ K) (kX K) n first pc lv st h) : JW K pc lv st h :=
  run_okX ko po hc (fun pc _ _ => po.2.2.2.2.2.2.2.2.2.2.1 pc) hcut n first pc lv st h e
end RO
