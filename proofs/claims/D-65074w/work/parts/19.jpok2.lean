theorem psh_app {rt : Nat} {z : Int} {a b : List LV} : psh rt z a ++ b = psh rt z (a ++ b) := by
  unfold psh
  cases Nat.beq rt 700 <;> rfl
theorem wst_app : ∀ (a b : List LV), wst (a ++ b) = wst a + wst b
  | [], b => by simp [wst]
  | x :: a, b => by simp only [List.cons_append, wst]; rw [wst_app a b]; omega
theorem jat_ref {t : Nat} {ty : FieldType} (ht : 113 ≤ t) (h : jat t = some ty) : ty.isReference = true := by
  unfold jat at h
  split at h <;> first | omega | (cases h; rfl) | cases h
/-! J-layer, part 12: the pure steps are right, as one theorem -/
set_option maxHeartbeats 4000000 in
theorem pst_ok {K : JC} {own : String} {cc : ByteArray} {pc : Nat} {lv lv' st r r' : List LV} {h : MH} {ps : List Prop} {P : JP} {bw : Nat} {hp0 : Prop} (ko : KO K own cc) (po : POKx K own P hp0) (hbw : wst st ≤ bw) {i : Instr} (hd : decode cc pc = .ok (i, iln i))
    (hp : pst P bw i lv r h = some (ps, lv', r')) (kk : sides ps (JW K (pc + iln i) lv' (r' ++ st) h)) : JW K pc lv (r ++ st) h := by
  have hx := ko.1
  have hb := ko.2.1
  obtain ⟨hon, hrf, hrc, hrl, -, -, -, -, -, -, -, -, -, hpf⟩ := po
  cases i with
  | iadd =>
    obtain ⟨a, b, r0, rfl, rfl, rfl, rfl⟩ := ii_ok hp
    exact j_i2 (w32_c _) (fun _ _ H locs ls rest q => lv_iadd hx hb hd (by rw [o32, Int32.ofInt_add] at q; exact q)) kk
  | isub =>
    obtain ⟨a, b, r0, rfl, rfl, rfl, rfl⟩ := ii_ok hp
    exact j_i2 (w32_c _) (fun _ _ H locs ls rest q => lv_isub hx hb hd (by rw [o32, Int32.ofInt_sub] at q; exact q)) kk
  | imul =>
    obtain ⟨a, b, r0, rfl, rfl, rfl, rfl⟩ := ii_ok hp
    exact j_i2 (w32_c _) (fun _ _ H locs ls rest q => lv_imul hx hb hd (by rw [o32, Int32.ofInt_mul] at q; exact q)) kk
  | iand =>
    obtain ⟨a, b, r0, rfl, rfl, rfl, rfl⟩ := ii_ok hp
    exact j_i2 (c32_of _) (fun _ _ H locs ls rest q => lv_iand hx hb hd (by rw [Int32.ofInt_toInt] at q; exact q)) kk
  | ior =>
    obtain ⟨a, b, r0, rfl, rfl, rfl, rfl⟩ := ii_ok hp
    exact j_i2 (c32_of _) (fun _ _ H locs ls rest q => lv_ior hx hb hd (by rw [Int32.ofInt_toInt] at q; exact q)) kk
  | ixor =>
    obtain ⟨a, b, r0, rfl, rfl, rfl, rfl⟩ := ii_ok hp
    exact j_i2 (c32_of _) (fun _ _ H locs ls rest q => lv_ixor hx hb hd (by rw [Int32.ofInt_toInt] at q; exact q)) kk
  | ishl =>
    obtain ⟨a, b, r0, rfl, rfl, rfl, rfl⟩ := ii_ok hp
    exact j_i2 (c32_of _) (fun _ _ H locs ls rest q => lv_ishl hx hb hd (by rw [Int32.ofInt_toInt] at q; exact q)) kk
  | ishr =>
    obtain ⟨a, b, r0, rfl, rfl, rfl, rfl⟩ := ii_ok hp
    exact j_i2 (c32_of _) (fun _ _ H locs ls rest q => lv_ishr hx hb hd (by rw [Int32.ofInt_toInt] at q; exact q)) kk
  | iushr =>
    obtain ⟨a, b, r0, rfl, rfl, rfl, rfl⟩ := ii_ok hp
    exact j_i2 (c32_of _) (fun _ _ H locs ls rest q => lv_iushr hx hb hd rfl (by rw [Int32.ofInt_toInt] at q; exact q)) kk
  | ladd =>
    obtain ⟨a, b, r0, rfl, rfl, rfl, rfl⟩ := ll_ok hp
    exact j_l2 (w64_c _) (fun _ _ H locs ls rest q => lv_ladd hx hb hd (by rw [o64, Int64.ofInt_add] at q; exact q)) kk
  | lsub =>
    obtain ⟨a, b, r0, rfl, rfl, rfl, rfl⟩ := ll_ok hp
    exact j_l2 (w64_c _) (fun _ _ H locs ls rest q => lv_lsub hx hb hd (by rw [o64, Int64.ofInt_sub] at q; exact q)) kk
  | lmul =>
    obtain ⟨a, b, r0, rfl, rfl, rfl, rfl⟩ := ll_ok hp
    exact j_l2 (w64_c _) (fun _ _ H locs ls rest q => lv_lmul hx hb hd (by rw [o64, Int64.ofInt_mul] at q; exact q)) kk
  | land =>
    obtain ⟨a, b, r0, rfl, rfl, rfl, rfl⟩ := ll_ok hp
    exact j_l2 (c64_of _) (fun _ _ H locs ls rest q => lv_land hx hb hd (by rw [Int64.ofInt_toInt] at q; exact q)) kk
  | lor =>
    obtain ⟨a, b, r0, rfl, rfl, rfl, rfl⟩ := ll_ok hp
    exact j_l2 (c64_of _) (fun _ _ H locs ls rest q => lv_lor hx hb hd (by rw [Int64.ofInt_toInt] at q; exact q)) kk
  | lxor =>
    obtain ⟨a, b, r0, rfl, rfl, rfl, rfl⟩ := ll_ok hp
    exact j_l2 (c64_of _) (fun _ _ H locs ls rest q => lv_lxor hx hb hd (by rw [Int64.ofInt_toInt] at q; exact q)) kk
  | lshl =>
    obtain ⟨a, b, r0, rfl, rfl, rfl, rfl⟩ := li_ok hp
    exact j_ls (c64_of _) (fun _ _ H locs ls rest q => lv_lshl hx hb hd rfl (by rw [Int64.ofInt_toInt] at q; exact q)) kk
  | lshr =>
    obtain ⟨a, b, r0, rfl, rfl, rfl, rfl⟩ := li_ok hp
    exact j_ls (c64_of _) (fun _ _ H locs ls rest q => lv_lshr hx hb hd rfl (by rw [Int64.ofInt_toInt] at q; exact q)) kk
  | lushr =>
    obtain ⟨a, b, r0, rfl, rfl, rfl, rfl⟩ := li_ok hp
    exact j_ls (c64_of _) (fun _ _ H locs ls rest q => lv_lushr hx hb hd rfl (by rw [Int64.ofInt_toInt] at q; exact q)) kk
  | idiv =>
    simp only [pst] at hp
    split at hp
    · rename_i g b g' a r0
      obtain ⟨h1, h2⟩ := cond_some hp
      simp only [Bool.and_eq_true] at h1
      cases beq_0 h1.1
      cases beq_0 h1.2
      cases h2
      obtain ⟨k1, k2⟩ := kk
      exact j_i2 (c32_of _) (fun ca cb H locs ls rest q => lv_idiv hx hb hd (ov_div (a := a) cb k1) (by rw [Int32.ofInt_toInt] at q; exact q)) k2
    · cases hp
  | irem =>
    simp only [pst] at hp
    split at hp
    · rename_i g b g' a r0
      obtain ⟨h1, h2⟩ := cond_some hp
      simp only [Bool.and_eq_true] at h1
      cases beq_0 h1.1
      cases beq_0 h1.2
      cases h2
      obtain ⟨k1, k2⟩ := kk
      exact j_i2 (c32_of _) (fun ca cb H locs ls rest q => lv_irem hx hb hd (ov_div (a := a) cb k1) (by rw [Int32.ofInt_toInt] at q; exact q)) k2
    · cases hp
  | ldiv =>
    simp only [pst] at hp
    split at hp
    · rename_i g b g' a r0
      obtain ⟨h1, h2⟩ := cond_some hp
      simp only [Bool.and_eq_true] at h1
      cases beq_1 h1.1
      cases beq_1 h1.2
      cases h2
      obtain ⟨k1, k2⟩ := kk
      exact j_l2 (c64_of _) (fun ca cb H locs ls rest q => lv_ldiv hx hb hd (ov_ldiv (a := a) cb k1) (by rw [Int64.ofInt_toInt] at q; exact q)) k2
    · cases hp
  | lrem =>
    simp only [pst] at hp
    split at hp
    · rename_i g b g' a r0
      obtain ⟨h1, h2⟩ := cond_some hp
      simp only [Bool.and_eq_true] at h1
      cases beq_1 h1.1
      cases beq_1 h1.2
      cases h2
      obtain ⟨k1, k2⟩ := kk
      exact j_l2 (c64_of _) (fun ca cb H locs ls rest q => lv_lrem hx hb hd (ov_ldiv (a := a) cb k1) (by rw [Int64.ofInt_toInt] at q; exact q)) k2
    · cases hp
  | ineg =>
    obtain ⟨g, a, r0, hg, rfl, rfl, rfl, rfl⟩ := u1_ok hp
    cases beq_0 hg
    exact j_i1 (w32_c _) (fun _ H locs ls rest q => lv_ineg hx hb hd (by rw [o32, Int32.ofInt_neg] at q; exact q)) kk
  | lneg =>
    obtain ⟨g, a, r0, hg, rfl, rfl, rfl, rfl⟩ := u1_ok hp
    cases beq_1 hg
    exact j_l1 (w64_c _) (fun _ H locs ls rest q => lv_lneg hx hb hd (by rw [o64, Int64.ofInt_neg] at q; exact q)) kk
  | i2l =>
    obtain ⟨g, a, r0, hg, rfl, rfl, rfl, rfl⟩ := u1_ok hp
    cases beq_0 hg
    refine j_use (fun hst => ?_)
    have ca : c32 a := okv_i' (hst (0, a) List.mem_cons_self)
    exact j_il (c32_c64 ca) (fun _ H locs ls rest q => lv_i2l hx hb hd (i2l_v ca) q) kk
  | l2i =>
    obtain ⟨g, a, r0, hg, rfl, rfl, rfl, rfl⟩ := u1_ok hp
    cases beq_1 hg
    exact j_li (w32_c _) (fun _ H locs ls rest q => lv_l2i hx hb hd (l2i_v a) q) kk
  | i2b =>
    obtain ⟨g, a, r0, hg, rfl, rfl, rfl, rfl⟩ := u1_ok hp
    cases beq_0 hg
    exact j_i1 (by have := w8_c a; unfold c32; omega) (fun _ H locs ls rest q => lv_i2b hx hb hd (i2b_v a) q) kk
  | lcmp =>
    simp only [pst] at hp
    split at hp
    · rename_i g b g' a r0
      obtain ⟨h1, h2⟩ := cond_some hp
      simp only [Bool.and_eq_true] at h1
      cases beq_1 h1.1
      cases beq_1 h1.2
      cases h2
      exact j_ll (lc_c a b) (fun ca cb H locs ls rest q => W.lcmp hx hb hd (by rw [lcmp_v ca cb]; exact q)) kk
    · cases hp
  | iconst n =>
    obtain ⟨h1, h2⟩ := cond_some hp
    have h1 := of_decide_eq_true h1
    cases h2
    exact j_i0 h1 (fun H locs ls rest q => lv_iconst hx hb hd rfl q) kk
  | bipush n =>
    obtain ⟨h1, h2⟩ := cond_some hp
    have h1 := of_decide_eq_true h1
    cases h2
    exact j_i0 (by unfold c32; omega) (fun H locs ls rest q => lv_bipush hx hb hd (by
      apply Int32.toInt_inj.mp
      rw [Int8.toInt_toInt32, Int8.toInt_ofInt_of_le (by omega) (by omega), Int32.toInt_ofInt_of_le (by omega) (by omega)]) q) kk
  | sipush n =>
    obtain ⟨h1, h2⟩ := cond_some hp
    have h1 := of_decide_eq_true h1
    cases h2
    exact j_i0 (by unfold c32; omega) (fun H locs ls rest q => lv_sipush hx hb hd (by
      apply Int32.toInt_inj.mp
      rw [Int16.toInt_toInt32, Int16.toInt_ofInt_of_le (by omega) (by omega), Int32.toInt_ofInt_of_le (by omega) (by omega)]) q) kk
  | lconst n =>
    cases hp
    exact j_l0 (by unfold c64; have := n.isLt; simp only [Int.ofNat_eq_natCast]; omega) (fun H locs ls rest q => lv_lconst hx hb hd (by rcases (show n = 0 ∨ n = 1 by omega) with e | e <;> subst e <;> rfl) q) kk
  | ldc k =>
    simp only [pst] at hp
    split at hp
    · rename_i z hz
      cases hp
      obtain ⟨e1, e2⟩ := hrc _ (lk_mem hz)
      exact j_i0 e1 (fun H locs ls rest q => lv_ldc hx hb ko.2.2.1 (ko.2.2.2.1 _ e2) hd q) kk
    · cases hp
  | ldc_w k =>
    simp only [pst] at hp
    split at hp
    · rename_i z hz
      cases hp
      obtain ⟨e1, e2⟩ := hrc _ (lk_mem hz)
      exact j_i0 e1 (fun H locs ls rest q => lv_ldcw hx hb ko.2.2.1 (ko.2.2.2.1 _ e2) hd q) kk
    · cases hp
  | ldc2_w k =>
    simp only [pst] at hp
    split at hp
    · rename_i z hz
      cases hp
      obtain ⟨e1, e2⟩ := hrl _ (lk_mem hz)
      exact j_l0 e1 (fun H locs ls rest q => lv_ldc2 hx hb ko.2.2.1 (ko.2.2.2.1 _ e2) hd q) kk
    · cases hp
  | aconst_null =>
    cases hp
    intro ls H locs hl hlv hst hR hq
    exact lv_null hx hb hd (kk ls H locs hl hlv (all_cons (by unfold okv; simp) hst) hR hq)
  | iload k =>
    obtain ⟨⟨g, z⟩, e1, e2, rfl, rfl, rfl⟩ := ldv_ok hp
    cases beq_0 e2
    exact j_ld e1 (by show (0 : Nat) ≠ 5000; decide) (fun H locs ls rest e q => lv_iload hx hb hd e q) kk
  | iload_n k =>
    obtain ⟨⟨g, z⟩, e1, e2, rfl, rfl, rfl⟩ := ldv_ok hp
    cases beq_0 e2
    exact j_ld e1 (by show (0 : Nat) ≠ 5000; decide) (fun H locs ls rest e q => lv_iload_n hx hb hd rfl e q) kk
  | lload k =>
    obtain ⟨⟨g, z⟩, e1, e2, rfl, rfl, rfl⟩ := ldv_ok hp
    cases beq_1 e2
    exact j_ld e1 (by show (1 : Nat) ≠ 5000; decide) (fun H locs ls rest e q => lv_lload hx hb hd e q) kk
  | lload_n k =>
    obtain ⟨⟨g, z⟩, e1, e2, rfl, rfl, rfl⟩ := ldv_ok hp
    cases beq_1 e2
    exact j_ld e1 (by show (1 : Nat) ≠ 5000; decide) (fun H locs ls rest e q => lv_lload_n hx hb hd rfl e q) kk
  | aload k =>
    obtain ⟨x, e1, e2, rfl, rfl, rfl⟩ := ldv_ok hp
    exact j_ldA e1 e2 (fun v H locs ls rest e q => lv_aload hx hb hd e q) (fun H locs ls rest e q => lv_aloadN hx hb hd e q) kk
  | aload_n k =>
    obtain ⟨x, e1, e2, rfl, rfl, rfl⟩ := ldv_ok hp
    exact j_ldA e1 e2 (fun v H locs ls rest e q => lv_aload_n hx hb hd rfl e q) (fun H locs ls rest e q => lv_aload_nN hx hb hd rfl e q) kk
  | istore k =>
    obtain ⟨⟨g, z⟩, rfl, e1, e2, rfl, rfl⟩ := stv_ok hp
    cases beq_0 e1
    exact j_st e2 (by show (0 : Nat) ≠ 1; decide) (fun H locs ls rest L n a1 a2 q => lv_istore hx hb hd a1 a2 rfl q) kk
  | istore_n k =>
    obtain ⟨⟨g, z⟩, rfl, e1, e2, rfl, rfl⟩ := stv_ok hp
    cases beq_0 e1
    exact j_st e2 (by show (0 : Nat) ≠ 1; decide) (fun H locs ls rest L n a1 a2 q => lv_istore_n hx hb hd rfl a1 a2 rfl q) kk
  | lstore k =>
    obtain ⟨z, rfl, e2, rfl, rfl⟩ := stw_ok hp
    exact j_st2 e2 (fun H locs ls rest L n a1 a2 q => lv_lstore hx hb hd a1 a2 rfl q) kk
  | lstore_n k =>
    obtain ⟨z, rfl, e2, rfl, rfl⟩ := stw_ok hp
    exact j_st2 e2 (fun H locs ls rest L n a1 a2 q => lv_lstore_n hx hb hd rfl a1 a2 rfl q) kk
  | astore k =>
    obtain ⟨x, rfl, e1, e2, rfl, rfl⟩ := stv_ok hp
    exact j_stA e2 e1 (fun v H locs ls rest L n a1 a2 q => lv_astore hx hb hd a1 a2 rfl q) (fun H locs ls rest L n a1 a2 q => lv_astoreN hx hb hd a1 a2 rfl q) kk
  | astore_n k =>
    obtain ⟨x, rfl, e1, e2, rfl, rfl⟩ := stv_ok hp
    exact j_stA e2 e1 (fun v H locs ls rest L n a1 a2 q => lv_astore_n hx hb hd rfl a1 a2 rfl q) (fun H locs ls rest L n a1 a2 q => lv_astore_nN hx hb hd rfl a1 a2 rfl q) kk
  | iinc k d =>
    simp only [pst] at hp
    split at hp
    · rename_i x hx0
      obtain ⟨g, z⟩ := x
      rw [nth_eq] at hx0
      obtain ⟨h1, h2⟩ := cond_some hp
      cases beq_0 h1
      cases h2
      exact j_iinc ko hd hx0 kk
    · cases hp
  | dup =>
    simp only [pst] at hp
    split at hp
    · rename_i x r0
      obtain ⟨h1, h2⟩ := cond_some hp
      try simp only [Bool.and_eq_true] at h1
      cases h2
      intro ls H locs hl hlv hst hR hq
      refine lv_dup hx hb hd (c1_cat h1) ?_
      exact kk ls H locs hl hlv (all_cons (hst _ List.mem_cons_self) hst) hR hq
    · cases hp
  | pop =>
    simp only [pst] at hp
    split at hp
    · rename_i x r0
      obtain ⟨h1, h2⟩ := cond_some hp
      try simp only [Bool.and_eq_true] at h1
      cases h2
      intro ls H locs hl hlv hst hR hq
      refine lv_pop hx hb hd (c1_cat h1) ?_
      exact kk ls H locs hl hlv (all_tail hst) hR hq
    · cases hp
  | dup_x1 =>
    simp only [pst] at hp
    split at hp
    · rename_i x y r0
      obtain ⟨h1, h2⟩ := cond_some hp
      try simp only [Bool.and_eq_true] at h1
      cases h2
      intro ls H locs hl hlv hst hR hq
      refine lv_dup_x1 hx hb hd (c1_cat h1.1) (c1_cat h1.2) ?_
      exact kk ls H locs hl hlv (all_cons (hst _ List.mem_cons_self) (all_cons (hst _ (List.mem_cons_of_mem _ List.mem_cons_self)) (all_cons (hst _ List.mem_cons_self) (all_tail (all_tail hst))))) hR hq
    · cases hp
  | dup_x2 =>
    simp only [pst] at hp
    split at hp
    · rename_i x y z r0
      obtain ⟨h1, h2⟩ := cond_some hp
      try simp only [Bool.and_eq_true] at h1
      cases h2
      intro ls H locs hl hlv hst hR hq
      refine lv_dup_x2 hx hb hd (c1_cat h1.1) (c1_cat h1.2.1) (c1_cat h1.2.2) ?_
      exact kk ls H locs hl hlv (all_cons (hst _ List.mem_cons_self) (all_cons (hst _ (List.mem_cons_of_mem _ List.mem_cons_self)) (all_cons (hst _ (List.mem_cons_of_mem _ (List.mem_cons_of_mem _ List.mem_cons_self))) (all_cons (hst _ List.mem_cons_self) (all_tail (all_tail (all_tail hst))))))) hR hq
    · cases hp
  | dup2 =>
    simp only [pst] at hp
    split at hp
    · rename_i x y r0
      obtain ⟨h1, h2⟩ := cond_some hp
      try simp only [Bool.and_eq_true] at h1
      cases h2
      intro ls H locs hl hlv hst hR hq
      refine lv_dup2_11 hx hb hd (c1_cat h1.1) (c1_cat h1.2) ?_
      exact kk ls H locs hl hlv (all_cons (hst _ List.mem_cons_self) (all_cons (hst _ (List.mem_cons_of_mem _ List.mem_cons_self)) hst)) hR hq
    · cases hp
  | getfield k =>
    simp only [pst] at hp
    split at hp
    · rename_i t f tg off g a r0 hk
      cases hc : (isRf g && Nat.beq (arT g) t) with
      | false => rw [hc] at hp; cases hp
      | true =>
        rw [hc] at hp
        simp only [Bool.and_eq_true] at hc
        obtain ⟨hf, hz0, hz1⟩ := hrf _ (lk_mem hk)
        have e2 := Nat.eq_of_beq_eq_true hc.2
        cases hc2 : Nat.beq off 0 with
        | false =>
          rw [hc2] at hp
          obtain ⟨w1, w2, w3, w4⟩ := hz1 (fun z => by rw [show off = 0 from z] at hc2; cases hc2)
          simp only at w1 w2 w3 w4
          cases hp
          obtain ⟨n1, n2⟩ := sides_nlc kk
          refine j_getk ko hd hf (isRf_4 hc.1) (fun o => by rw [← e2]; exact tag_obj hc.1 n1 o) (hon w1) (by rw [w2]; exact Int.natCast_nonneg _) w3 ?_
          rw [w2, ← w4]
          exact n2
        | true =>
          rw [hc2] at hp
          have w := hz0 (Nat.eq_of_beq_eq_true hc2)
          simp only at w
          cases hp
          obtain ⟨n1, n2⟩ := sides_nlc kk
          refine j_get ko hd hf (isRf_4 hc.1) (fun o => by rw [← e2]; exact tag_obj hc.1 n1 o) ?_
          rw [← w]
          exact n2
    · cases hp
  | iaload =>
    obtain ⟨z, g, a, r0, rfl, e1, e2, rfl, rfl, rfl⟩ := aal_ok hp
    obtain ⟨q1, q2, q3, q4⟩ := st_al (i := 0) e1 e2 kk
    refine j_use (fun hst => ?_)
    have hog : okv h (g, a) := hst _ (List.mem_cons_of_mem _ List.mem_cons_self)
    exact j_iald ko hd (isRf_4 e1) q1 q2 (q3 hog) q4
  | laload =>
    obtain ⟨z, g, a, r0, rfl, e1, e2, rfl, rfl, rfl⟩ := aal_ok hp
    obtain ⟨q1, q2, q3, q4⟩ := st_al (i := 0) e1 e2 kk
    refine j_use (fun hst => ?_)
    have hog : okv h (g, a) := hst _ (List.mem_cons_of_mem _ List.mem_cons_self)
    exact j_lald ko hd (isRf_4 e1) q1 q2 (q3 hog) q4
  | baload =>
    simp only [pst] at hp
    split at hp
    · rename_i gi z g a r0
      obtain ⟨h1, h2⟩ := cond_some hp
      simp only [Bool.and_eq_true, Bool.or_eq_true] at h1
      obtain ⟨b1, b2, b3⟩ := h1
      cases beq_0 b1
      cases h2
      obtain ⟨q1, q2, q3, q4⟩ := st_al (i := 0) b2 rfl kk
      refine j_use (fun hst => ?_)
      have hog : okv h (g, a) := hst _ (List.mem_cons_of_mem _ List.mem_cons_self)
      rcases b3 with b3 | b3
      · rw [Nat.eq_of_beq_eq_true b3] at q1
        exact j_zald ko hd (isRf_4 b2) q1 q2 (q3 hog) q4
      · rw [Nat.eq_of_beq_eq_true b3] at q1
        exact j_bald ko hd (isRf_4 b2) q1 q2 (q3 hog) q4
    · cases hp
  | aaload =>
    simp only [pst] at hp
    split at hp
    · rename_i gi z g a r0
      obtain ⟨h1, h2⟩ := cond_some hp
      simp only [Bool.and_eq_true] at h1
      obtain ⟨b1, b2, b3, b4, b5, b6⟩ := h1
      cases beq_0 b1
      cases h2
      obtain ⟨q1, q2, q3, q4⟩ := st_al (i := 0) b2 rfl kk
      refine j_use (fun hst => ?_)
      have hog : okv h (g, a) := hst _ (List.mem_cons_of_mem _ List.mem_cons_self)
      obtain ⟨ty, hty⟩ := Option.isSome_iff_exists.mp b6
      have h113 := Nat.le_of_ble_eq_true b3
      exact j_aald ko hd (by omega) hty (jat_ref h113 hty) (Nat.le_of_ble_eq_true b4) ((blt_iff _ _).mp b5) (isRf_4 b2) q1 q2 (q3 hog) q4
    · cases hp
  | arraylength =>
    simp only [pst] at hp
    split at hp
    · rename_i g a r0
      obtain ⟨h1, h2⟩ := cond_some hp
      simp only [Bool.and_eq_true] at h1
      obtain ⟨b1, b2, b3⟩ := h1
      cases h2
      obtain ⟨n1, n2⟩ := sides_nlc kk
      obtain ⟨ty, hty⟩ := Option.isSome_iff_exists.mp b3
      refine j_use (fun hst => ?_)
      have hog : okv h (g, a) := hst _ List.mem_cons_self
      exact j_alen ko hd (Nat.le_of_ble_eq_true b2) hty (isRf_4 b1) (fun o => tag_obj b1 n1 o) (fun _ _ => by rw [← tag_len hog]; exact n2)
    · cases hp
  | invokestatic k =>
    simp only [pst] at hp
    split at hp
    · rename_i tgs rt f hk
      split at hp
      · rename_i as st0 ht
        obtain ⟨h1, h2⟩ := cond_some hp
        cases h2
        have h1 := Nat.le_of_ble_eq_true h1
        obtain ⟨y, ws, F, Lo, nLy, f1, f2, f3, f4, f5, f6⟩ := hpf _ (lk_mem hk)
        simp only at f1 f2 f4
        obtain ⟨ar, a1, a2, a3, a4⟩ := tk_ok (h := h) (G := kG K) ht
        rw [List.append_nil] at a1
        subst a1
        refine j_use (fun hst => ?_)
        obtain ⟨b1, b2, b3⟩ := a4 (fun x hx => hst x (List.mem_append_left _ hx))
        have kk' : JW K (pc + 3) lv (psh rt (f (as.map (fun x => x.2))) (st0 ++ st)) h := by rw [← psh_app]; exact kk
        refine j_invS (f1 as h _ _ b2 a3 kk') ko hd (by rw [a2]; exact f2) f3 ar_no f4 f5 f6 (by rw [wst_app]; omega) (by rw [List.map_append, b1, List.map_append, List.append_assoc]) (fun o => ⟨b2, fun x hx => ?_⟩)
        rcases List.mem_append.mp hx with q | q
        · exact b3 x q
        · exact o x (List.mem_append_right _ q)
      · cases hp
    · cases hp
  | _ => cases hp
