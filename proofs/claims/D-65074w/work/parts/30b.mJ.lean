/-! by gen/mkall.py -/
set_option maxRecDepth 100000
abbrev rc_J10 : List (Nat × Int) := [(264, 65536)]
theorem rc_J10_ok : ∀ q ∈ rc_J10, c32 q.2 ∧ Cond.constant RJ10 q.1 (Int32.ofInt q.2) ∈ lw_all := fmC (own := RJ10) (i := 264) (z := 65536) rfl q1464 fmz
/-! J8_floorMod -/
abbrev S_J8_floorMod (l : Launch) (G : JG) : MS := Sem l G yJ8_floorMod (ws_ yJ8_floorMod cJ8_floorMod 6 (some .long)) 4 150 1
theorem yl_J8_floorMod : YLk yJ8_floorMod (ws_ yJ8_floorMod cJ8_floorMod 6 (some .long)) 6 2 := ⟨lw_meth q1900, q216, Or.inl ⟨_, _, q1900⟩, by decide, by decide +kernel⟩
theorem s_J8_floorMod {l : Launch} {G : JG} {Q : Int → MH → Prop} {E : Nat → Int → MH → Prop} {h : MH} {as : List LV} (hn : Nat.ble (enl as).length 6 = true) (body : ∀ K : JC, KI K l G yJ8_floorMod cJ8_floorMod 6 (some .long) [] 4 150 1 Q E h → JW K 0 (lv0 as 6) [] h) : S_J8_floorMod l G as h Q E :=
  Sem_of (by decide +kernel) (Nat.le_of_ble_eq_true hn) body
/-! J3_init -/
abbrev S_J3_init (l : Launch) (G : JG) : MS := Sem l G yJ3_init (ws_ yJ3_init cJ3_init 1 none) 10 299 700
theorem yl_J3_init : YLk yJ3_init (ws_ yJ3_init cJ3_init 1 none) 1 0 := ⟨lw_meth q1200, q203, Or.inl ⟨_, _, q1200⟩, by decide, by decide +kernel⟩
theorem s_J3_init {l : Launch} {G : JG} {Q : Int → MH → Prop} {E : Nat → Int → MH → Prop} {h : MH} {as : List LV} (hn : Nat.ble (enl as).length 1 = true) (body : ∀ K : JC, KI K l G yJ3_init cJ3_init 1 none [] 10 299 700 Q E h → JW K 0 (lv0 as 1) [] h) : S_J3_init l G as h Q E :=
  Sem_of (by decide +kernel) (Nat.le_of_ble_eq_true hn) body
/-! J4_init -/
abbrev S_J4_init (l : Launch) (G : JG) : MS := Sem l G yJ4_init (ws_ yJ4_init cJ4_init 1 none) 10 299 700
theorem yl_J4_init : YLk yJ4_init (ws_ yJ4_init cJ4_init 1 none) 1 0 := ⟨lw_meth q1224, q204, Or.inl ⟨_, _, q1224⟩, by decide, by decide +kernel⟩
theorem s_J4_init {l : Launch} {G : JG} {Q : Int → MH → Prop} {E : Nat → Int → MH → Prop} {h : MH} {as : List LV} (hn : Nat.ble (enl as).length 1 = true) (body : ∀ K : JC, KI K l G yJ4_init cJ4_init 1 none [] 10 299 700 Q E h → JW K 0 (lv0 as 1) [] h) : S_J4_init l G as h Q E :=
  Sem_of (by decide +kernel) (Nat.le_of_ble_eq_true hn) body
/-! J5_init_2 -/
abbrev S_J5_init_2 (l : Launch) (G : JG) : MS := Sem l G yJ5_init_2 (ws_ yJ5_init_2 cJ5_init_2 1 none) 10 299 700
theorem yl_J5_init_2 : YLk yJ5_init_2 (ws_ yJ5_init_2 cJ5_init_2 1 none) 1 0 := ⟨lw_meth q1285, q213, Or.inl ⟨_, _, q1285⟩, by decide, by decide +kernel⟩
theorem s_J5_init_2 {l : Launch} {G : JG} {Q : Int → MH → Prop} {E : Nat → Int → MH → Prop} {h : MH} {as : List LV} (hn : Nat.ble (enl as).length 1 = true) (body : ∀ K : JC, KI K l G yJ5_init_2 cJ5_init_2 1 none [] 10 299 700 Q E h → JW K 0 (lv0 as 1) [] h) : S_J5_init_2 l G as h Q E :=
  Sem_of (by decide +kernel) (Nat.le_of_ble_eq_true hn) body
abbrev k_J8_floorMod : List (Nat × List (Nat × Instr)) := [(36, [(0, .lload_n 0), (1, .lload_n 2), (2, .lrem), (3, .lstore 4), (5, .lload_n 0), (6, .lload_n 2), (7, .lxor), (8, .lconst 0), (9, .lcmp), (10, .ifCond .ge 15), (13, .lload 4), (15, .lconst 0), (16, .lcmp), (17, .ifCond .eq 8), (20, .lload 4), (22, .lload_n 2), (23, .ladd), (24, .lreturn), (25, .lload 4), (27, .lreturn)])]
theorem ok_J8_floorMod : CodeOK cJ8_floorMod k_J8_floorMod := okw 0 (by decide +kernel) (okn)
abbrev p_J8_floorMod (l : Launch) (G : JG) : JP := (true, [], [], [], [], [], [], [], false, 1, [])
theorem pk_J8_floorMod {K : JC} {l : Launch} {G : JG} {Q : Int → MH → Prop} {E : Nat → Int → MH → Prop} {h0 : MH} (ki : KI K l G yJ8_floorMod cJ8_floorMod 6 (some .long) [] 4 150 1 Q E h0) (hG : gO G = true) : POK K RJ8 (p_J8_floorMod l G) :=
  POKi (y := yJ8_floorMod) ki hG fmz fmz fmz fmz fmz fmz
  (pkE ki (by
    intro K e1 e2 e3 e4; subst e1; subst e2
    exact fmz)) (fun z => Bool.noConfusion z) rfl (pkP ki (by
    intro K e1 e2 e3 e4; subst e1; subst e2
    exact fmz))
theorem r_J8_floorMod_0 {K : JC} {l : Launch} {G : JG} {Q : Int → MH → Prop} {E : Nat → Int → MH → Prop} {h0 : MH} (ki : KI K l G yJ8_floorMod cJ8_floorMod 6 (some .long) [] 4 150 1 Q E h0) (hG : gO G = true) {v0 v2 : Int} {h : MH} (H :
    (¬ v2 = 0) ∧
    (∀ x4_1 : Int, x4_1 = (l_rem v0 v2) →
    ((((lc (l_xor v0 v2) 0) < 0 ∧ ¬ (lc x4_1 0) = 0) →
      Q (w64 (x4_1 + v2)) h) ∧
    (¬ ((lc (l_xor v0 v2) 0) < 0 ∧ ¬ (lc x4_1 0) = 0) →
      Q x4_1 h)))) : JW K 0 [(1, v0), (5000, 0), (1, v2), (5000, 0), (5000, 0), (5000, 0)] [] h := by
  have e1 := ki.2.2.2.2.1
  have e2 := ki.2.2.2.2.2.1
  subst e1; subst e2
  exact run_ok (dia := []) (cnr := [(10, 20, 25)]) (cuts := []) ki.1 (pk_J8_floorMod ki hG) ok_J8_floorMod (by decide) 15 true _ _ _ _ H
abbrev k_J9_numberOfTrailingZeros : List (Nat × List (Nat × Instr)) := [(34, [(0, .lload_n 0), (1, .l2i), (2, .istore_n 2), (3, .iload_n 2), (4, .ifCond .ne 17), (7, .bipush 32), (9, .lload_n 0), (10, .bipush 32), (12, .lushr), (13, .l2i), (14, .invokestatic 311), (17, .iadd), (18, .goto 7), (21, .iload_n 2), (22, .invokestatic 311), (25, .ireturn)])]
theorem ok_J9_numberOfTrailingZeros : CodeOK cJ9_numberOfTrailingZeros k_J9_numberOfTrailingZeros := okw 0 (by decide +kernel) (okn)
abbrev p_J9_numberOfTrailingZeros (l : Launch) (G : JG) : JP := (true, [], [], [], [], [], [], [(311, 0, [0], 0, S_J10_numberOfTrailingZeros l G)], false, 0, [])
theorem pk_J9_numberOfTrailingZeros {K : JC} {l : Launch} {G : JG} {Q : Int → MH → Prop} {E : Nat → Int → MH → Prop} {h0 : MH} (ki : KI K l G yJ9_numberOfTrailingZeros cJ9_numberOfTrailingZeros 3 (some .int) [] 5 171 0 Q E h0) (hG : gO G = true) : POK K RJ9 (p_J9_numberOfTrailingZeros l G) :=
  POKi (y := yJ9_numberOfTrailingZeros) ki hG fmz fmz fmz fmz fmz fmz
  (pkE ki (by
    intro K e1 e2 e3 e4; subst e1; subst e2
    exact fmE (ceS e3 e4 yl_J10_numberOfTrailingZeros ⟨q1462, Or.inl q1461⟩ rfl) (fmz))) (fun z => Bool.noConfusion z) rfl (pkP ki (by
    intro K e1 e2 e3 e4; subst e1; subst e2
    exact fmz))
theorem r_J9_numberOfTrailingZeros_0 {K : JC} {l : Launch} {G : JG} {Q : Int → MH → Prop} {E : Nat → Int → MH → Prop} {h0 : MH} (ki : KI K l G yJ9_numberOfTrailingZeros cJ9_numberOfTrailingZeros 3 (some .int) [] 5 171 0 Q E h0) (hG : gO G = true) {v0 : Int} {h : MH} (H :
    (∀ x2_1 : Int, x2_1 = (w32 v0) →
    ((¬ x2_1 = 0 →
      S_J10_numberOfTrailingZeros l G [(0, x2_1)] h (fun z2 h3 =>
      Q z2 h3) E) ∧
    (x2_1 = 0 →
      S_J10_numberOfTrailingZeros l G [(0, (w32 (l_ushr v0 32)))] h (fun z4 h5 =>
      Q (w32 (32 + z4)) h5) E)))) : JW K 0 [(1, v0), (5000, 0), (5000, 0)] [] h := by
  have e1 := ki.2.2.2.2.1
  have e2 := ki.2.2.2.2.2.1
  subst e1; subst e2
  exact run_ok (dia := []) (cnr := []) (cuts := []) ki.1 (pk_J9_numberOfTrailingZeros ki hG) ok_J9_numberOfTrailingZeros (by decide) 15 true _ _ _ _ H
abbrev k_J10_numberOfTrailingZeros : List (Nat × List (Nat × Instr)) := [(34, [(0, .iload_n 0), (1, .iconst (-1)), (2, .ixor), (3, .iload_n 0), (4, .iconst 1), (5, .isub), (6, .iand), (7, .istore_n 0), (8, .iload_n 0), (9, .ifCond .gt 8), (12, .iload_n 0), (13, .bipush 32), (15, .iand), (16, .ireturn), (17, .iconst 1), (18, .istore_n 1), (19, .iload_n 0), (20, .ldc_w 264), (23, .if_icmp .le 11), (26, .iinc 1 16), (29, .iload_n 0), (30, .bipush 16), (32, .iushr), (33, .istore_n 0)]),
  (74, [(34, .iload_n 0), (35, .sipush 256), (38, .if_icmp .le 11), (41, .iinc 1 8), (44, .iload_n 0), (45, .bipush 8), (47, .iushr), (48, .istore_n 0), (49, .iload_n 0), (50, .bipush 16), (52, .if_icmp .le 10), (55, .iinc 1 4), (58, .iload_n 0), (59, .iconst 4), (60, .iushr), (61, .istore_n 0), (62, .iload_n 0), (63, .iconst 4), (64, .if_icmp .le 10), (67, .iinc 1 2), (70, .iload_n 0), (71, .iconst 2), (72, .iushr), (73, .istore_n 0)]),
  (88, [(74, .iload_n 1), (75, .iload_n 0), (76, .iconst 1), (77, .iushr), (78, .iadd), (79, .ireturn)])]
theorem ok_J10_numberOfTrailingZeros : CodeOK cJ10_numberOfTrailingZeros k_J10_numberOfTrailingZeros := okw 0 (by decide +kernel) (okw 34 (by decide +kernel) (okw 74 (by decide +kernel) (okn)))
abbrev p_J10_numberOfTrailingZeros (l : Launch) (G : JG) : JP := (true, [], [(264, 65536)], [], [], [], [], [], false, 0, [])
theorem pk_J10_numberOfTrailingZeros {K : JC} {l : Launch} {G : JG} {Q : Int → MH → Prop} {E : Nat → Int → MH → Prop} {h0 : MH} (ki : KI K l G yJ10_numberOfTrailingZeros cJ10_numberOfTrailingZeros 2 (some .int) [] 4 150 0 Q E h0) (hG : gO G = true) : POK K RJ10 (p_J10_numberOfTrailingZeros l G) :=
  POKi (y := yJ10_numberOfTrailingZeros) ki hG fmz (subs (by decide +kernel) rc_J10_ok) fmz fmz fmz fmz
  (pkE ki (by
    intro K e1 e2 e3 e4; subst e1; subst e2
    exact fmz)) (fun z => Bool.noConfusion z) rfl (pkP ki (by
    intro K e1 e2 e3 e4; subst e1; subst e2
    exact fmz))
theorem r_J10_numberOfTrailingZeros_0 {K : JC} {l : Launch} {G : JG} {Q : Int → MH → Prop} {E : Nat → Int → MH → Prop} {h0 : MH} (ki : KI K l G yJ10_numberOfTrailingZeros cJ10_numberOfTrailingZeros 2 (some .int) [] 4 150 0 Q E h0) (hG : gO G = true) {v0 : Int} {h : MH} (H :
    (∀ x0_1 : Int, x0_1 = (i_and (i_xor v0 (-1)) (w32 (v0 - 1))) →
    ((0 < x0_1 →
      (∀ x1_2 : Int, x1_2 = 1 →
      ((x0_1 ≤ 65536 →
        ((x0_1 ≤ 256 →
          ((x0_1 ≤ 16 →
            ((x0_1 ≤ 4 →
              Q (w32 (x1_2 + (i_ushr x0_1 1))) h) ∧
            (4 < x0_1 →
              (∀ x1_3 : Int, x1_3 = w32 (x1_2 + 2) →
              (∀ x0_4 : Int, x0_4 = (i_ushr x0_1 2) →
              Q (w32 (x1_3 + (i_ushr x0_4 1))) h))))) ∧
          (16 < x0_1 →
            (∀ x1_5 : Int, x1_5 = w32 (x1_2 + 4) →
            (∀ x0_6 : Int, x0_6 = (i_ushr x0_1 4) →
            ((x0_6 ≤ 4 →
              Q (w32 (x1_5 + (i_ushr x0_6 1))) h) ∧
            (4 < x0_6 →
              (∀ x1_7 : Int, x1_7 = w32 (x1_5 + 2) →
              (∀ x0_8 : Int, x0_8 = (i_ushr x0_6 2) →
              Q (w32 (x1_7 + (i_ushr x0_8 1))) h))))))))) ∧
        (256 < x0_1 →
          (∀ x1_9 : Int, x1_9 = w32 (x1_2 + 8) →
          (∀ x0_10 : Int, x0_10 = (i_ushr x0_1 8) →
          ((x0_10 ≤ 16 →
            ((x0_10 ≤ 4 →
              Q (w32 (x1_9 + (i_ushr x0_10 1))) h) ∧
            (4 < x0_10 →
              (∀ x1_11 : Int, x1_11 = w32 (x1_9 + 2) →
              (∀ x0_12 : Int, x0_12 = (i_ushr x0_10 2) →
              Q (w32 (x1_11 + (i_ushr x0_12 1))) h))))) ∧
          (16 < x0_10 →
            (∀ x1_13 : Int, x1_13 = w32 (x1_9 + 4) →
            (∀ x0_14 : Int, x0_14 = (i_ushr x0_10 4) →
            ((x0_14 ≤ 4 →
              Q (w32 (x1_13 + (i_ushr x0_14 1))) h) ∧
            (4 < x0_14 →
              (∀ x1_15 : Int, x1_15 = w32 (x1_13 + 2) →
              (∀ x0_16 : Int, x0_16 = (i_ushr x0_14 2) →
              Q (w32 (x1_15 + (i_ushr x0_16 1))) h))))))))))))) ∧
      (65536 < x0_1 →
        (∀ x1_17 : Int, x1_17 = w32 (x1_2 + 16) →
        (∀ x0_18 : Int, x0_18 = (i_ushr x0_1 16) →
        ((x0_18 ≤ 256 →
          ((x0_18 ≤ 16 →
            ((x0_18 ≤ 4 →
              Q (w32 (x1_17 + (i_ushr x0_18 1))) h) ∧
            (4 < x0_18 →
              (∀ x1_19 : Int, x1_19 = w32 (x1_17 + 2) →
              (∀ x0_20 : Int, x0_20 = (i_ushr x0_18 2) →
              Q (w32 (x1_19 + (i_ushr x0_20 1))) h))))) ∧
          (16 < x0_18 →
            (∀ x1_21 : Int, x1_21 = w32 (x1_17 + 4) →
            (∀ x0_22 : Int, x0_22 = (i_ushr x0_18 4) →
            ((x0_22 ≤ 4 →
              Q (w32 (x1_21 + (i_ushr x0_22 1))) h) ∧
            (4 < x0_22 →
              (∀ x1_23 : Int, x1_23 = w32 (x1_21 + 2) →
              (∀ x0_24 : Int, x0_24 = (i_ushr x0_22 2) →
              Q (w32 (x1_23 + (i_ushr x0_24 1))) h))))))))) ∧
        (256 < x0_18 →
          (∀ x1_25 : Int, x1_25 = w32 (x1_17 + 8) →
          (∀ x0_26 : Int, x0_26 = (i_ushr x0_18 8) →
          ((x0_26 ≤ 16 →
            ((x0_26 ≤ 4 →
              Q (w32 (x1_25 + (i_ushr x0_26 1))) h) ∧
            (4 < x0_26 →
              (∀ x1_27 : Int, x1_27 = w32 (x1_25 + 2) →
              (∀ x0_28 : Int, x0_28 = (i_ushr x0_26 2) →
              Q (w32 (x1_27 + (i_ushr x0_28 1))) h))))) ∧
          (16 < x0_26 →
            (∀ x1_29 : Int, x1_29 = w32 (x1_25 + 4) →
            (∀ x0_30 : Int, x0_30 = (i_ushr x0_26 4) →
            ((x0_30 ≤ 4 →
              Q (w32 (x1_29 + (i_ushr x0_30 1))) h) ∧
            (4 < x0_30 →
              (∀ x1_31 : Int, x1_31 = w32 (x1_29 + 2) →
              (∀ x0_32 : Int, x0_32 = (i_ushr x0_30 2) →
              Q (w32 (x1_31 + (i_ushr x0_32 1))) h)))))))))))))))))) ∧
    (x0_1 ≤ 0 →
      Q (i_and x0_1 32) h)))) : JW K 0 [(0, v0), (5000, 0)] [] h := by
  have e1 := ki.2.2.2.2.1
  have e2 := ki.2.2.2.2.2.1
  subst e1; subst e2
  exact run_ok (dia := []) (cnr := []) (cuts := []) ki.1 (pk_J10_numberOfTrailingZeros ki hG) ok_J10_numberOfTrailingZeros (by decide) 51 true _ _ _ _ H
