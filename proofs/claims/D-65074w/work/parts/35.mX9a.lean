/-! by gen/mkall.py -/
set_option maxRecDepth 100000
abbrev k_X9_init : List (Nat × List (Nat × Instr)) := [(8, [(0, .aload_n 0), (1, .invokespecial 1), (4, .aload_n 0), (5, .sipush 20000)]),
  (10, [(8, .newarray .byte)]),
  (38, [(10, .putfield 9), (13, .aload_n 0), (14, .new 13), (17, .dup), (18, .invokespecial 15), (21, .putfield 16), (24, .aload_n 0), (25, .new 13), (28, .dup), (29, .invokespecial 15), (32, .putfield 20), (35, .aload_n 0), (36, .bipush 40)]),
  (40, [(38, .newarray .boolean)]),
  (46, [(40, .putfield 23), (43, .aload_n 0), (44, .bipush 40)]),
  (48, [(46, .newarray .boolean)]),
  (55, [(48, .putfield 27), (51, .aload_n 0), (52, .sipush 1500)]),
  (57, [(55, .newarray .boolean)]),
  (64, [(57, .putfield 30), (60, .aload_n 0), (61, .sipush 9000)]),
  (66, [(64, .newarray .int)]),
  (73, [(66, .putfield 33), (69, .aload_n 0), (70, .sipush 1500)]),
  (75, [(73, .newarray .boolean)]),
  (82, [(75, .putfield 37), (78, .aload_n 0), (79, .sipush 24000)]),
  (84, [(82, .newarray .int)]),
  (91, [(84, .putfield 40), (87, .aload_n 0), (88, .sipush 24000)]),
  (93, [(91, .newarray .int)]),
  (100, [(93, .putfield 43), (96, .aload_n 0), (97, .sipush 24000)]),
  (102, [(100, .newarray .int)]),
  (109, [(102, .putfield 46), (105, .aload_n 0), (106, .sipush 24000)]),
  (111, [(109, .newarray .long)]),
  (118, [(111, .putfield 49), (114, .aload_n 0), (115, .sipush 1500)]),
  (120, [(118, .newarray .int)]),
  (127, [(120, .putfield 53), (123, .aload_n 0), (124, .sipush 1500)]),
  (129, [(127, .newarray .int)]),
  (136, [(129, .putfield 56), (132, .aload_n 0), (133, .sipush 1500)]),
  (138, [(136, .newarray .long)]),
  (145, [(138, .putfield 59), (141, .aload_n 0), (142, .sipush 1500)]),
  (147, [(145, .newarray .long)]),
  (154, [(147, .putfield 62), (150, .aload_n 0), (151, .sipush 3000)]),
  (156, [(154, .newarray .long)]),
  (163, [(156, .putfield 65), (159, .aload_n 0), (160, .sipush 3000)]),
  (165, [(163, .newarray .long)]),
  (172, [(165, .putfield 68), (168, .aload_n 0), (169, .sipush 1500)]),
  (174, [(172, .newarray .long)]),
  (180, [(174, .putfield 71), (177, .aload_n 0), (178, .bipush 63)]),
  (182, [(180, .newarray .boolean)]),
  (189, [(182, .putfield 74), (185, .aload_n 0), (186, .sipush 504)]),
  (191, [(189, .newarray .int)]),
  (198, [(191, .putfield 77), (194, .aload_n 0), (195, .sipush 504)]),
  (200, [(198, .newarray .int)]),
  (207, [(200, .putfield 80), (203, .aload_n 0), (204, .sipush 504)]),
  (209, [(207, .newarray .int)]),
  (216, [(209, .putfield 83), (212, .aload_n 0), (213, .sipush 504)]),
  (218, [(216, .newarray .long)]),
  (224, [(218, .putfield 86), (221, .aload_n 0), (222, .bipush 63)]),
  (226, [(224, .newarray .int)]),
  (232, [(226, .putfield 89), (229, .aload_n 0), (230, .bipush 63)]),
  (234, [(232, .newarray .int)]),
  (240, [(234, .putfield 92), (237, .aload_n 0), (238, .bipush 63)]),
  (242, [(240, .newarray .boolean)]),
  (248, [(242, .putfield 95), (245, .aload_n 0), (246, .bipush 8)]),
  (250, [(248, .newarray .int)]),
  (256, [(250, .putfield 98), (253, .aload_n 0), (254, .bipush 8)]),
  (258, [(256, .newarray .int)]),
  (264, [(258, .putfield 101), (261, .aload_n 0), (262, .bipush 8)]),
  (266, [(264, .newarray .int)]),
  (272, [(266, .putfield 104), (269, .aload_n 0), (270, .bipush 8)]),
  (274, [(272, .newarray .long)]),
  (280, [(274, .putfield 107), (277, .aload_n 0), (278, .bipush 8)]),
  (282, [(280, .newarray .boolean)]),
  (288, [(282, .putfield 110), (285, .aload_n 0), (286, .bipush 8)]),
  (290, [(288, .newarray .int)]),
  (296, [(290, .putfield 113), (293, .aload_n 0), (294, .bipush 8)]),
  (298, [(296, .newarray .int)]),
  (304, [(298, .putfield 116), (301, .aload_n 0), (302, .bipush 8)]),
  (306, [(304, .newarray .int)]),
  (312, [(306, .putfield 119), (309, .aload_n 0), (310, .bipush 40)]),
  (314, [(312, .newarray .boolean)]),
  (320, [(314, .putfield 122), (317, .aload_n 0), (318, .bipush 40)]),
  (322, [(320, .newarray .int)]),
  (328, [(322, .putfield 125), (325, .aload_n 0), (326, .bipush 40)]),
  (330, [(328, .newarray .int)]),
  (336, [(330, .putfield 128), (333, .aload_n 0), (334, .bipush 40)]),
  (338, [(336, .newarray .int)]),
  (344, [(338, .putfield 131), (341, .aload_n 0), (342, .bipush 40)]),
  (346, [(344, .newarray .long)]),
  (352, [(346, .putfield 134), (349, .aload_n 0), (350, .bipush 40)]),
  (354, [(352, .newarray .int)]),
  (360, [(354, .putfield 137), (357, .aload_n 0), (358, .bipush 40)]),
  (362, [(360, .newarray .int)]),
  (368, [(362, .putfield 140), (365, .aload_n 0), (366, .bipush 40)]),
  (370, [(368, .newarray .long)]),
  (376, [(370, .putfield 143), (373, .aload_n 0), (374, .bipush 40)]),
  (378, [(376, .newarray .int)]),
  (384, [(378, .putfield 146), (381, .aload_n 0), (382, .bipush 40)]),
  (386, [(384, .newarray .int)]),
  (392, [(386, .putfield 149), (389, .aload_n 0), (390, .bipush 40)]),
  (394, [(392, .newarray .int)]),
  (400, [(394, .putfield 152), (397, .aload_n 0), (398, .bipush 16)]),
  (402, [(400, .newarray .int)]),
  (408, [(402, .putfield 155), (405, .aload_n 0), (406, .bipush 16)]),
  (410, [(408, .newarray .int)]),
  (416, [(410, .putfield 158), (413, .aload_n 0), (414, .bipush 16)]),
  (418, [(416, .newarray .int)]),
  (424, [(418, .putfield 161), (421, .aload_n 0), (422, .bipush 16)]),
  (426, [(424, .newarray .long)]),
  (433, [(426, .putfield 164), (429, .aload_n 0), (430, .sipush 1500)]),
  (435, [(433, .newarray .int)]),
  (442, [(435, .putfield 167), (438, .aload_n 0), (439, .sipush 1501)]),
  (444, [(442, .newarray .int)]),
  (451, [(444, .putfield 170), (447, .aload_n 0), (448, .sipush 1501)]),
  (453, [(451, .newarray .long)]),
  (460, [(453, .putfield 173), (456, .aload_n 0), (457, .sipush 1600)]),
  (462, [(460, .newarray .boolean)]),
  (469, [(462, .putfield 176), (465, .aload_n 0), (466, .sipush 200)]),
  (471, [(469, .newarray .int)]),
  (477, [(471, .putfield 179), (474, .aload_n 0), (475, .bipush 8)]),
  (479, [(477, .newarray .boolean)]),
  (485, [(479, .putfield 182), (482, .aload_n 0), (483, .bipush 8)]),
  (487, [(485, .newarray .int)]),
  (494, [(487, .putfield 185), (490, .aload_n 0), (491, .sipush 240)]),
  (496, [(494, .newarray .int)]),
  (503, [(496, .putfield 188), (499, .aload_n 0), (500, .sipush 240)]),
  (505, [(503, .newarray .int)]),
  (512, [(505, .putfield 191), (508, .aload_n 0), (509, .sipush 240)]),
  (514, [(512, .newarray .int)]),
  (521, [(514, .putfield 194), (517, .aload_n 0), (518, .sipush 3840)]),
  (523, [(521, .newarray .int)]),
  (529, [(523, .putfield 197), (526, .aload_n 0), (527, .bipush 8)]),
  (531, [(529, .newarray .int)]),
  (538, [(531, .putfield 200), (534, .aload_n 0), (535, .sipush 400)]),
  (540, [(538, .newarray .int)]),
  (547, [(540, .putfield 203), (543, .aload_n 0), (544, .sipush 400)]),
  (549, [(547, .newarray .int)]),
  (555, [(549, .putfield 206), (552, .aload_n 0), (553, .ldc 209)]),
  (557, [(555, .newarray .int)]),
  (564, [(557, .putfield 210), (560, .aload_n 0), (561, .sipush 200)]),
  (566, [(564, .newarray .int)]),
  (573, [(566, .putfield 213), (569, .aload_n 0), (570, .sipush 200)]),
  (575, [(573, .newarray .int)]),
  (582, [(575, .putfield 216), (578, .aload_n 0), (579, .sipush 1500)]),
  (584, [(582, .newarray .long)]),
  (590, [(584, .putfield 219), (587, .aload_n 0), (588, .bipush 8)]),
  (592, [(590, .newarray .int)]),
  (604, [(592, .putfield 222), (595, .return_)])]
theorem ok_X9_init : CodeOK cX9_init k_X9_init := okw 0 (by decide +kernel) (okc (by decide +kernel) (okw 10 (by decide +kernel) (okc (by decide +kernel) (okw 40 (by decide +kernel) (okc (by decide +kernel) (okw 48 (by decide +kernel) (okc (by decide +kernel) (okw 57 (by decide +kernel) (okc (by decide +kernel) (okw 66 (by decide +kernel) (okc (by decide +kernel) (okw 75 (by decide +kernel) (okc (by decide +kernel) (okw 84 (by decide +kernel) (okc (by decide +kernel) (okw 93 (by decide +kernel) (okc (by decide +kernel) (okw 102 (by decide +kernel) (okc (by decide +kernel) (okw 111 (by decide +kernel) (okc (by decide +kernel) (okw 120 (by decide +kernel) (okc (by decide +kernel) (okw 129 (by decide +kernel) (okc (by decide +kernel) (okw 138 (by decide +kernel) (okc (by decide +kernel) (okw 147 (by decide +kernel) (okc (by decide +kernel) (okw 156 (by decide +kernel) (okc (by decide +kernel) (okw 165 (by decide +kernel) (okc (by decide +kernel) (okw 174 (by decide +kernel) (okc (by decide +kernel) (okw 182 (by decide +kernel) (okc (by decide +kernel) (okw 191 (by decide +kernel) (okc (by decide +kernel) (okw 200 (by decide +kernel) (okc (by decide +kernel) (okw 209 (by decide +kernel) (okc (by decide +kernel) (okw 218 (by decide +kernel) (okc (by decide +kernel) (okw 226 (by decide +kernel) (okc (by decide +kernel) (okw 234 (by decide +kernel) (okc (by decide +kernel) (okw 242 (by decide +kernel) (okc (by decide +kernel) (okw 250 (by decide +kernel) (okc (by decide +kernel) (okw 258 (by decide +kernel) (okc (by decide +kernel) (okw 266 (by decide +kernel) (okc (by decide +kernel) (okw 274 (by decide +kernel) (okc (by decide +kernel) (okw 282 (by decide +kernel) (okc (by decide +kernel) (okw 290 (by decide +kernel) (okc (by decide +kernel) (okw 298 (by decide +kernel) (okc (by decide +kernel) (okw 306 (by decide +kernel) (okc (by decide +kernel) (okw 314 (by decide +kernel) (okc (by decide +kernel) (okw 322 (by decide +kernel) (okc (by decide +kernel) (okw 330 (by decide +kernel) (okc (by decide +kernel) (okw 338 (by decide +kernel) (okc (by decide +kernel) (okw 346 (by decide +kernel) (okc (by decide +kernel) (okw 354 (by decide +kernel) (okc (by decide +kernel) (okw 362 (by decide +kernel) (okc (by decide +kernel) (okw 370 (by decide +kernel) (okc (by decide +kernel) (okw 378 (by decide +kernel) (okc (by decide +kernel) (okw 386 (by decide +kernel) (okc (by decide +kernel) (okw 394 (by decide +kernel) (okc (by decide +kernel) (okw 402 (by decide +kernel) (okc (by decide +kernel) (okw 410 (by decide +kernel) (okc (by decide +kernel) (okw 418 (by decide +kernel) (okc (by decide +kernel) (okw 426 (by decide +kernel) (okc (by decide +kernel) (okw 435 (by decide +kernel) (okc (by decide +kernel) (okw 444 (by decide +kernel) (okc (by decide +kernel) (okw 453 (by decide +kernel) (okc (by decide +kernel) (okw 462 (by decide +kernel) (okc (by decide +kernel) (okw 471 (by decide +kernel) (okc (by decide +kernel) (okw 479 (by decide +kernel) (okc (by decide +kernel) (okw 487 (by decide +kernel) (okc (by decide +kernel) (okw 496 (by decide +kernel) (okc (by decide +kernel) (okw 505 (by decide +kernel) (okc (by decide +kernel) (okw 514 (by decide +kernel) (okc (by decide +kernel) (okw 523 (by decide +kernel) (okc (by decide +kernel) (okw 531 (by decide +kernel) (okc (by decide +kernel) (okw 540 (by decide +kernel) (okc (by decide +kernel) (okw 549 (by decide +kernel) (okc (by decide +kernel) (okw 557 (by decide +kernel) (okc (by decide +kernel) (okw 566 (by decide +kernel) (okc (by decide +kernel) (okw 575 (by decide +kernel) (okc (by decide +kernel) (okw 584 (by decide +kernel) (okc (by decide +kernel) (okw 592 (by decide +kernel) (okn)))))))))))))))))))))))))))))))))))))))))))))))))))))))))))))))))))))))))))))))))))))))))))))))))))))))))))))))))))))))))))))))))))))))
abbrev p_X9_init (l : Launch) (G : JG) : JP := (false, [], [(209, 40000)], [], [(9, 9, 1, 107), (16, 9, 4, 14), (20, 9, 5, 14), (23, 9, 6, 106), (27, 9, 7, 106), (30, 9, 15, 106), (33, 9, 17, 104), (37, 9, 18, 106), (40, 9, 19, 104), (43, 9, 20, 104), (46, 9, 21, 104), (49, 9, 22, 105), (53, 9, 23, 104), (56, 9, 24, 104), (59, 9, 25, 105), (62, 9, 26, 105), (65, 9, 27, 105), (68, 9, 28, 105), (71, 9, 29, 105), (74, 9, 30, 106), (77, 9, 31, 104), (80, 9, 32, 104), (83, 9, 33, 104), (86, 9, 34, 105), (89, 9, 35, 104), (92, 9, 36, 104), (95, 9, 37, 106), (98, 9, 38, 104), (101, 9, 39, 104), (104, 9, 40, 104), (107, 9, 41, 105), (110, 9, 42, 106), (113, 9, 43, 104), (116, 9, 44, 104), (119, 9, 45, 104), (122, 9, 46, 106), (125, 9, 47, 104), (128, 9, 48, 104), (131, 9, 49, 104), (134, 9, 50, 105), (137, 9, 51, 104), (140, 9, 52, 104), (143, 9, 53, 105), (146, 9, 54, 104), (149, 9, 55, 104), (152, 9, 56, 104), (155, 9, 57, 104), (158, 9, 58, 104), (161, 9, 59, 104), (164, 9, 60, 105), (167, 9, 73, 104), (170, 9, 75, 104), (173, 9, 76, 105), (176, 9, 77, 106), (179, 9, 81, 104), (182, 9, 84, 106), (185, 9, 85, 104), (188, 9, 86, 104), (191, 9, 87, 104), (194, 9, 88, 104), (197, 9, 89, 104), (200, 9, 90, 104), (203, 9, 92, 104), (206, 9, 93, 104), (210, 9, 94, 104), (213, 9, 97, 104), (216, 9, 98, 104), (219, 9, 104, 105), (222, 9, 105, 104)], [(13, 10, 33)], [], [(1, 3, [], 700, fun _ _ _ _ => True), (15, 2, [2010], 700, S_X10_init l G)], true, 700, [])
theorem pk_X9_init {K : JC} {l : Launch} {G : JG} {Q : Int → MH → Prop} {E : Nat → Int → MH → Prop} {h0 : MH} (ki : KI K l G yX9_init cX9_init 1 none [] 6 190 700 Q E h0) (hG : gO G = false) : POK K RX9 (p_X9_init l G) :=
  POKi (y := yX9_init) ki hG fmz (subs (by decide +kernel) rc_X9_ok) fmz (rps rp_X9_ok (by decide +kernel)) (subs (by decide +kernel) rn_X9_ok) fmz
  (pkE ki (by
    intro K e1 e2 e3 e4; subst e1; subst e2
    exact fmE (ceO e3 e4 q1989 rfl) (fmE (ceI e3 e4 yl_X10_init ⟨rfl, q1993, Or.inr ⟨_, List.mem_of_getElem? (i := 10) rfl⟩, _, _, q1994⟩ rfl) (fmz)))) (fun _ => rfl) rfl (pkP ki (by
    intro K e1 e2 e3 e4; subst e1; subst e2
    exact fmz))
theorem r_X9_init_0 {K : JC} {l : Launch} {G : JG} {Q : Int → MH → Prop} {E : Nat → Int → MH → Prop} {h0 : MH} (ki : KI K l G yX9_init cX9_init 1 none [] 6 190 700 Q E h0) (hG : gO G = false) {v0 : Int} {h : MH} (H :
    (0 ≤ (20000 : Int)) ∧
    (hz h + 1 ≤ LIMC) ∧
    (hs h + 20000 ≤ LIMS) ∧
    (∀ h1, h1 = hnew h 103 20000 20000 →
    (∀ h2, h2 = hset h1 v0 1 (hz h + 1) →
    (hz h2 + 1 ≤ LIMC) ∧
    (hs h2 + 33 ≤ LIMS) ∧
    (∀ h3, h3 = hnew h2 10 0 33 →
    S_X10_init l G [(2010, (hz h2 + 1))] h3 (fun _ h5 =>
    (∀ h6, h6 = hset h5 v0 4 (hz h2 + 1) →
    (hz h6 + 1 ≤ LIMC) ∧
    (hs h6 + 33 ≤ LIMS) ∧
    (∀ h7, h7 = hnew h6 10 0 33 →
    S_X10_init l G [(2010, (hz h6 + 1))] h7 (fun _ h9 =>
    (∀ h10, h10 = hset h9 v0 5 (hz h6 + 1) →
    (0 ≤ (40 : Int)) ∧
    (hz h10 + 1 ≤ LIMC) ∧
    (hs h10 + 40 ≤ LIMS) ∧
    (∀ h11, h11 = hnew h10 102 40 40 →
    (∀ h12, h12 = hset h11 v0 6 (hz h10 + 1) →
    (0 ≤ (40 : Int)) ∧
    (hz h12 + 1 ≤ LIMC) ∧
    (hs h12 + 40 ≤ LIMS) ∧
    (∀ h13, h13 = hnew h12 102 40 40 →
    (∀ h14, h14 = hset h13 v0 7 (hz h12 + 1) →
    (0 ≤ (1500 : Int)) ∧
    (hz h14 + 1 ≤ LIMC) ∧
    (hs h14 + 1500 ≤ LIMS) ∧
    (∀ h15, h15 = hnew h14 102 1500 1500 →
    (∀ h16, h16 = hset h15 v0 15 (hz h14 + 1) →
    (0 ≤ (9000 : Int)) ∧
    (hz h16 + 1 ≤ LIMC) ∧
    (hs h16 + 9000 ≤ LIMS) ∧
    (∀ h17, h17 = hnew h16 100 9000 9000 →
    (∀ h18, h18 = hset h17 v0 17 (hz h16 + 1) →
    (0 ≤ (1500 : Int)) ∧
    (hz h18 + 1 ≤ LIMC) ∧
    (hs h18 + 1500 ≤ LIMS) ∧
    (∀ h19, h19 = hnew h18 102 1500 1500 →
    (∀ h20, h20 = hset h19 v0 18 (hz h18 + 1) →
    (0 ≤ (24000 : Int)) ∧
    (hz h20 + 1 ≤ LIMC) ∧
    (hs h20 + 24000 ≤ LIMS) ∧
    (∀ h21, h21 = hnew h20 100 24000 24000 →
    (∀ h22, h22 = hset h21 v0 19 (hz h20 + 1) →
    (0 ≤ (24000 : Int)) ∧
    (hz h22 + 1 ≤ LIMC) ∧
    (hs h22 + 24000 ≤ LIMS) ∧
    (∀ h23, h23 = hnew h22 100 24000 24000 →
    (∀ h24, h24 = hset h23 v0 20 (hz h22 + 1) →
    (0 ≤ (24000 : Int)) ∧
    (hz h24 + 1 ≤ LIMC) ∧
    (hs h24 + 24000 ≤ LIMS) ∧
    (∀ h25, h25 = hnew h24 100 24000 24000 →
    (∀ h26, h26 = hset h25 v0 21 (hz h24 + 1) →
    (0 ≤ (24000 : Int)) ∧
    (hz h26 + 1 ≤ LIMC) ∧
    (hs h26 + 24000 ≤ LIMS) ∧
    (∀ h27, h27 = hnew h26 101 24000 24000 →
    (∀ h28, h28 = hset h27 v0 22 (hz h26 + 1) →
    (0 ≤ (1500 : Int)) ∧
    (hz h28 + 1 ≤ LIMC) ∧
    (hs h28 + 1500 ≤ LIMS) ∧
    (∀ h29, h29 = hnew h28 100 1500 1500 →
    (∀ h30, h30 = hset h29 v0 23 (hz h28 + 1) →
    (0 ≤ (1500 : Int)) ∧
    (hz h30 + 1 ≤ LIMC) ∧
    (hs h30 + 1500 ≤ LIMS) ∧
    (∀ h31, h31 = hnew h30 100 1500 1500 →
    (∀ h32, h32 = hset h31 v0 24 (hz h30 + 1) →
    (0 ≤ (1500 : Int)) ∧
    (hz h32 + 1 ≤ LIMC) ∧
    (hs h32 + 1500 ≤ LIMS) ∧
    (∀ h33, h33 = hnew h32 101 1500 1500 →
    (∀ h34, h34 = hset h33 v0 25 (hz h32 + 1) →
    (0 ≤ (1500 : Int)) ∧
    (hz h34 + 1 ≤ LIMC) ∧
    (hs h34 + 1500 ≤ LIMS) ∧
    (∀ h35, h35 = hnew h34 101 1500 1500 →
    (∀ h36, h36 = hset h35 v0 26 (hz h34 + 1) →
    (0 ≤ (3000 : Int)) ∧
    (hz h36 + 1 ≤ LIMC) ∧
    (hs h36 + 3000 ≤ LIMS) ∧
    (∀ h37, h37 = hnew h36 101 3000 3000 →
    (∀ h38, h38 = hset h37 v0 27 (hz h36 + 1) →
    (0 ≤ (3000 : Int)) ∧
    (hz h38 + 1 ≤ LIMC) ∧
    (hs h38 + 3000 ≤ LIMS) ∧
    (∀ h39, h39 = hnew h38 101 3000 3000 →
    (∀ h40, h40 = hset h39 v0 28 (hz h38 + 1) →
    (0 ≤ (1500 : Int)) ∧
    (hz h40 + 1 ≤ LIMC) ∧
    (hs h40 + 1500 ≤ LIMS) ∧
    (∀ h41, h41 = hnew h40 101 1500 1500 →
    (∀ h42, h42 = hset h41 v0 29 (hz h40 + 1) →
    (0 ≤ (63 : Int)) ∧
    (hz h42 + 1 ≤ LIMC) ∧
    (hs h42 + 63 ≤ LIMS) ∧
    (∀ h43, h43 = hnew h42 102 63 63 →
    (∀ h44, h44 = hset h43 v0 30 (hz h42 + 1) →
    (0 ≤ (504 : Int)) ∧
    (hz h44 + 1 ≤ LIMC) ∧
    (hs h44 + 504 ≤ LIMS) ∧
    (∀ h45, h45 = hnew h44 100 504 504 →
    (∀ h46, h46 = hset h45 v0 31 (hz h44 + 1) →
    (0 ≤ (504 : Int)) ∧
    (hz h46 + 1 ≤ LIMC) ∧
    (hs h46 + 504 ≤ LIMS) ∧
    (∀ h47, h47 = hnew h46 100 504 504 →
    (∀ h48, h48 = hset h47 v0 32 (hz h46 + 1) →
    (0 ≤ (504 : Int)) ∧
    (hz h48 + 1 ≤ LIMC) ∧
    (hs h48 + 504 ≤ LIMS) ∧
    (∀ h49, h49 = hnew h48 100 504 504 →
    (∀ h50, h50 = hset h49 v0 33 (hz h48 + 1) →
    (0 ≤ (504 : Int)) ∧
    (hz h50 + 1 ≤ LIMC) ∧
    (hs h50 + 504 ≤ LIMS) ∧
    (∀ h51, h51 = hnew h50 101 504 504 →
    (∀ h52, h52 = hset h51 v0 34 (hz h50 + 1) →
    (0 ≤ (63 : Int)) ∧
    (hz h52 + 1 ≤ LIMC) ∧
    (hs h52 + 63 ≤ LIMS) ∧
    (∀ h53, h53 = hnew h52 100 63 63 →
    (∀ h54, h54 = hset h53 v0 35 (hz h52 + 1) →
    (0 ≤ (63 : Int)) ∧
    (hz h54 + 1 ≤ LIMC) ∧
    (hs h54 + 63 ≤ LIMS) ∧
    (∀ h55, h55 = hnew h54 100 63 63 →
    (∀ h56, h56 = hset h55 v0 36 (hz h54 + 1) →
    (0 ≤ (63 : Int)) ∧
    (hz h56 + 1 ≤ LIMC) ∧
    (hs h56 + 63 ≤ LIMS) ∧
    (∀ h57, h57 = hnew h56 102 63 63 →
    (∀ h58, h58 = hset h57 v0 37 (hz h56 + 1) →
    (0 ≤ (8 : Int)) ∧
    (hz h58 + 1 ≤ LIMC) ∧
    (hs h58 + 8 ≤ LIMS) ∧
    (∀ h59, h59 = hnew h58 100 8 8 →
    (∀ h60, h60 = hset h59 v0 38 (hz h58 + 1) →
    (0 ≤ (8 : Int)) ∧
    (hz h60 + 1 ≤ LIMC) ∧
    (hs h60 + 8 ≤ LIMS) ∧
    (∀ h61, h61 = hnew h60 100 8 8 →
    (∀ h62, h62 = hset h61 v0 39 (hz h60 + 1) →
    (0 ≤ (8 : Int)) ∧
    (hz h62 + 1 ≤ LIMC) ∧
    (hs h62 + 8 ≤ LIMS) ∧
    (∀ h63, h63 = hnew h62 100 8 8 →
    (∀ h64, h64 = hset h63 v0 40 (hz h62 + 1) →
    (0 ≤ (8 : Int)) ∧
    (hz h64 + 1 ≤ LIMC) ∧
    (hs h64 + 8 ≤ LIMS) ∧
    (∀ h65, h65 = hnew h64 101 8 8 →
    (∀ h66, h66 = hset h65 v0 41 (hz h64 + 1) →
    (0 ≤ (8 : Int)) ∧
    (hz h66 + 1 ≤ LIMC) ∧
    (hs h66 + 8 ≤ LIMS) ∧
    (∀ h67, h67 = hnew h66 102 8 8 →
    (∀ h68, h68 = hset h67 v0 42 (hz h66 + 1) →
    (0 ≤ (8 : Int)) ∧
    (hz h68 + 1 ≤ LIMC) ∧
    (hs h68 + 8 ≤ LIMS) ∧
    (∀ h69, h69 = hnew h68 100 8 8 →
    (∀ h70, h70 = hset h69 v0 43 (hz h68 + 1) →
    (0 ≤ (8 : Int)) ∧
    (hz h70 + 1 ≤ LIMC) ∧
    (hs h70 + 8 ≤ LIMS) ∧
    (∀ h71, h71 = hnew h70 100 8 8 →
    (∀ h72, h72 = hset h71 v0 44 (hz h70 + 1) →
    (0 ≤ (8 : Int)) ∧
    (hz h72 + 1 ≤ LIMC) ∧
    (hs h72 + 8 ≤ LIMS) ∧
    (∀ h73, h73 = hnew h72 100 8 8 →
    (∀ h74, h74 = hset h73 v0 45 (hz h72 + 1) →
    (0 ≤ (40 : Int)) ∧
    (hz h74 + 1 ≤ LIMC) ∧
    (hs h74 + 40 ≤ LIMS) ∧
    (∀ h75, h75 = hnew h74 102 40 40 →
    (∀ h76, h76 = hset h75 v0 46 (hz h74 + 1) →
    (0 ≤ (40 : Int)) ∧
    (hz h76 + 1 ≤ LIMC) ∧
    (hs h76 + 40 ≤ LIMS) ∧
    (∀ h77, h77 = hnew h76 100 40 40 →
    (∀ h78, h78 = hset h77 v0 47 (hz h76 + 1) →
    (0 ≤ (40 : Int)) ∧
    (hz h78 + 1 ≤ LIMC) ∧
    (hs h78 + 40 ≤ LIMS) ∧
    (∀ h79, h79 = hnew h78 100 40 40 →
    (∀ h80, h80 = hset h79 v0 48 (hz h78 + 1) →
    (0 ≤ (40 : Int)) ∧
    (hz h80 + 1 ≤ LIMC) ∧
    (hs h80 + 40 ≤ LIMS) ∧
    (∀ h81, h81 = hnew h80 100 40 40 →
    (∀ h82, h82 = hset h81 v0 49 (hz h80 + 1) →
    (0 ≤ (40 : Int)) ∧
    (hz h82 + 1 ≤ LIMC) ∧
    (hs h82 + 40 ≤ LIMS) ∧
    (∀ h83, h83 = hnew h82 101 40 40 →
    (∀ h84, h84 = hset h83 v0 50 (hz h82 + 1) →
    (0 ≤ (40 : Int)) ∧
    (hz h84 + 1 ≤ LIMC) ∧
    (hs h84 + 40 ≤ LIMS) ∧
    (∀ h85, h85 = hnew h84 100 40 40 →
    (∀ h86, h86 = hset h85 v0 51 (hz h84 + 1) →
    (0 ≤ (40 : Int)) ∧
    (hz h86 + 1 ≤ LIMC) ∧
    (hs h86 + 40 ≤ LIMS) ∧
    (∀ h87, h87 = hnew h86 100 40 40 →
    (∀ h88, h88 = hset h87 v0 52 (hz h86 + 1) →
    (0 ≤ (40 : Int)) ∧
    (hz h88 + 1 ≤ LIMC) ∧
    (hs h88 + 40 ≤ LIMS) ∧
    (∀ h89, h89 = hnew h88 101 40 40 →
    (∀ h90, h90 = hset h89 v0 53 (hz h88 + 1) →
    (0 ≤ (40 : Int)) ∧
    (hz h90 + 1 ≤ LIMC) ∧
    (hs h90 + 40 ≤ LIMS) ∧
    (∀ h91, h91 = hnew h90 100 40 40 →
    (∀ h92, h92 = hset h91 v0 54 (hz h90 + 1) →
    (0 ≤ (40 : Int)) ∧
    (hz h92 + 1 ≤ LIMC) ∧
    (hs h92 + 40 ≤ LIMS) ∧
    (∀ h93, h93 = hnew h92 100 40 40 →
    (∀ h94, h94 = hset h93 v0 55 (hz h92 + 1) →
    (0 ≤ (40 : Int)) ∧
    (hz h94 + 1 ≤ LIMC) ∧
    (hs h94 + 40 ≤ LIMS) ∧
    (∀ h95, h95 = hnew h94 100 40 40 →
    (∀ h96, h96 = hset h95 v0 56 (hz h94 + 1) →
    (0 ≤ (16 : Int)) ∧
    (hz h96 + 1 ≤ LIMC) ∧
    (hs h96 + 16 ≤ LIMS) ∧
    (∀ h97, h97 = hnew h96 100 16 16 →
    (∀ h98, h98 = hset h97 v0 57 (hz h96 + 1) →
    (0 ≤ (16 : Int)) ∧
    (hz h98 + 1 ≤ LIMC) ∧
    (hs h98 + 16 ≤ LIMS) ∧
    (∀ h99, h99 = hnew h98 100 16 16 →
    (∀ h100, h100 = hset h99 v0 58 (hz h98 + 1) →
    (0 ≤ (16 : Int)) ∧
    (hz h100 + 1 ≤ LIMC) ∧
    (hs h100 + 16 ≤ LIMS) ∧
    (∀ h101, h101 = hnew h100 100 16 16 →
    (∀ h102, h102 = hset h101 v0 59 (hz h100 + 1) →
    (0 ≤ (16 : Int)) ∧
    (hz h102 + 1 ≤ LIMC) ∧
    (hs h102 + 16 ≤ LIMS) ∧
    (∀ h103, h103 = hnew h102 101 16 16 →
    (∀ h104, h104 = hset h103 v0 60 (hz h102 + 1) →
    (0 ≤ (1500 : Int)) ∧
    (hz h104 + 1 ≤ LIMC) ∧
    (hs h104 + 1500 ≤ LIMS) ∧
    (∀ h105, h105 = hnew h104 100 1500 1500 →
    (∀ h106, h106 = hset h105 v0 73 (hz h104 + 1) →
    (0 ≤ (1501 : Int)) ∧
    (hz h106 + 1 ≤ LIMC) ∧
    (hs h106 + 1501 ≤ LIMS) ∧
    (∀ h107, h107 = hnew h106 100 1501 1501 →
    (∀ h108, h108 = hset h107 v0 75 (hz h106 + 1) →
    (0 ≤ (1501 : Int)) ∧
    (hz h108 + 1 ≤ LIMC) ∧
    (hs h108 + 1501 ≤ LIMS) ∧
    (∀ h109, h109 = hnew h108 101 1501 1501 →
    (∀ h110, h110 = hset h109 v0 76 (hz h108 + 1) →
    (0 ≤ (1600 : Int)) ∧
    (hz h110 + 1 ≤ LIMC) ∧
    (hs h110 + 1600 ≤ LIMS) ∧
    (∀ h111, h111 = hnew h110 102 1600 1600 →
    (∀ h112, h112 = hset h111 v0 77 (hz h110 + 1) →
    (0 ≤ (200 : Int)) ∧
    (hz h112 + 1 ≤ LIMC) ∧
    (hs h112 + 200 ≤ LIMS) ∧
    (∀ h113, h113 = hnew h112 100 200 200 →
    (∀ h114, h114 = hset h113 v0 81 (hz h112 + 1) →
    (0 ≤ (8 : Int)) ∧
    (hz h114 + 1 ≤ LIMC) ∧
    (hs h114 + 8 ≤ LIMS) ∧
    (∀ h115, h115 = hnew h114 102 8 8 →
    (∀ h116, h116 = hset h115 v0 84 (hz h114 + 1) →
    (0 ≤ (8 : Int)) ∧
    (hz h116 + 1 ≤ LIMC) ∧
    (hs h116 + 8 ≤ LIMS) ∧
    (∀ h117, h117 = hnew h116 100 8 8 →
    (∀ h118, h118 = hset h117 v0 85 (hz h116 + 1) →
    (0 ≤ (240 : Int)) ∧
    (hz h118 + 1 ≤ LIMC) ∧
    (hs h118 + 240 ≤ LIMS) ∧
    (∀ h119, h119 = hnew h118 100 240 240 →
    (∀ h120, h120 = hset h119 v0 86 (hz h118 + 1) →
    (0 ≤ (240 : Int)) ∧
    (hz h120 + 1 ≤ LIMC) ∧
    (hs h120 + 240 ≤ LIMS) ∧
    (∀ h121, h121 = hnew h120 100 240 240 →
    (∀ h122, h122 = hset h121 v0 87 (hz h120 + 1) →
    (0 ≤ (240 : Int)) ∧
    (hz h122 + 1 ≤ LIMC) ∧
    (hs h122 + 240 ≤ LIMS) ∧
    (∀ h123, h123 = hnew h122 100 240 240 →
    (∀ h124, h124 = hset h123 v0 88 (hz h122 + 1) →
    (0 ≤ (3840 : Int)) ∧
    (hz h124 + 1 ≤ LIMC) ∧
    (hs h124 + 3840 ≤ LIMS) ∧
    (∀ h125, h125 = hnew h124 100 3840 3840 →
    (∀ h126, h126 = hset h125 v0 89 (hz h124 + 1) →
    (0 ≤ (8 : Int)) ∧
    (hz h126 + 1 ≤ LIMC) ∧
    (hs h126 + 8 ≤ LIMS) ∧
    (∀ h127, h127 = hnew h126 100 8 8 →
    (∀ h128, h128 = hset h127 v0 90 (hz h126 + 1) →
    (0 ≤ (400 : Int)) ∧
    (hz h128 + 1 ≤ LIMC) ∧
    (hs h128 + 400 ≤ LIMS) ∧
    (∀ h129, h129 = hnew h128 100 400 400 →
    (∀ h130, h130 = hset h129 v0 92 (hz h128 + 1) →
    (0 ≤ (400 : Int)) ∧
    (hz h130 + 1 ≤ LIMC) ∧
    (hs h130 + 400 ≤ LIMS) ∧
    (∀ h131, h131 = hnew h130 100 400 400 →
    (∀ h132, h132 = hset h131 v0 93 (hz h130 + 1) →
    (0 ≤ (40000 : Int)) ∧
    (hz h132 + 1 ≤ LIMC) ∧
    (hs h132 + 40000 ≤ LIMS) ∧
    (∀ h133, h133 = hnew h132 100 40000 40000 →
    (∀ h134, h134 = hset h133 v0 94 (hz h132 + 1) →
    (0 ≤ (200 : Int)) ∧
    (hz h134 + 1 ≤ LIMC) ∧
    (hs h134 + 200 ≤ LIMS) ∧
    (∀ h135, h135 = hnew h134 100 200 200 →
    (∀ h136, h136 = hset h135 v0 97 (hz h134 + 1) →
    (0 ≤ (200 : Int)) ∧
    (hz h136 + 1 ≤ LIMC) ∧
    (hs h136 + 200 ≤ LIMS) ∧
    (∀ h137, h137 = hnew h136 100 200 200 →
    (∀ h138, h138 = hset h137 v0 98 (hz h136 + 1) →
    (0 ≤ (1500 : Int)) ∧
    (hz h138 + 1 ≤ LIMC) ∧
    (hs h138 + 1500 ≤ LIMS) ∧
    (∀ h139, h139 = hnew h138 101 1500 1500 →
    (∀ h140, h140 = hset h139 v0 104 (hz h138 + 1) →
    (0 ≤ (8 : Int)) ∧
    (hz h140 + 1 ≤ LIMC) ∧
    (hs h140 + 8 ≤ LIMS) ∧
    (∀ h141, h141 = hnew h140 100 8 8 →
    (∀ h142, h142 = hset h141 v0 105 (hz h140 + 1) →
    Q 0 h142)))))))))))))))))))))))))))))))))))))))))))))))))))))))))))))))))))))))))))))))))))))))))))))))))))))))))))))))))))))))))))))))))))))) E))) E)))) : JW K 0 [(2009, v0)] [] h := by
  have e1 := ki.2.2.2.2.1
  have e2 := ki.2.2.2.2.2.1
  subst e1; subst e2
  exact run_ok (dia := []) (cnr := []) (cuts := []) ki.1 (pk_X9_init ki hG) ok_X9_init (by decide) 282 true _ _ _ _ H
abbrev k_X9_thrown : List (Nat × List (Nat × Instr)) := [(13, [(0, .aload_n 0), (1, .getfield 225), (4, .ireturn)])]
theorem ok_X9_thrown : CodeOK cX9_thrown k_X9_thrown := okw 0 (by decide +kernel) (okn)
abbrev p_X9_thrown (l : Launch) (G : JG) : JP := (true, [(225, 9, 0, 0, 0)], [], [], [], [], [], [], false, 0, [])
theorem pk_X9_thrown {K : JC} {l : Launch} {G : JG} {Q : Int → MH → Prop} {E : Nat → Int → MH → Prop} {h0 : MH} (ki : KI K l G yX9_thrown cX9_thrown 1 (some .int) [] 4 150 0 Q E h0) (hG : gO G = true) : POK K RX9 (p_X9_thrown l G) :=
  POKi (y := yX9_thrown) ki hG (rfs rf_X9_ok (by decide +kernel)) fmz fmz fmz fmz fmz
  (pkE ki (by
    intro K e1 e2 e3 e4; subst e1; subst e2
    exact fmz)) (fun z => Bool.noConfusion z) rfl (pkP ki (by
    intro K e1 e2 e3 e4; subst e1; subst e2
    exact fmz))
theorem r_X9_thrown_0 {K : JC} {l : Launch} {G : JG} {Q : Int → MH → Prop} {E : Nat → Int → MH → Prop} {h0 : MH} (ki : KI K l G yX9_thrown cX9_thrown 1 (some .int) [] 4 150 0 Q E h0) (hG : gO G = true) {h : MH} (H :
    Q (hv h 396 0) h) : JW K 0 [(2009, 396)] [] h := by
  have e1 := ki.2.2.2.2.1
  have e2 := ki.2.2.2.2.2.1
  subst e1; subst e2
  exact run_ok (dia := []) (cnr := []) (cuts := []) ki.1 (pk_X9_thrown ki hG) ok_X9_thrown (by decide) 4 true _ _ _ _ H
abbrev k_X9_type : List (Nat × List (Nat × Instr)) := [(46, [(0, .aload_n 0), (1, .iload_n 3), (2, .i2l), (3, .lconst 1), (4, .ldc2_w 229), (7, .invokestatic 231), (10, .ifCond .ne 7), (13, .iconst 1), (14, .goto 20), (17, .aload_n 0), (18, .getfield 235), (21, .iload_n 3), (22, .iadd), (23, .sipush 20000), (26, .if_icmp .le 7), (29, .iconst 2), (30, .goto 4), (33, .iconst 0), (34, .putfield 225), (37, .aload_n 0), (38, .getfield 225), (41, .ifCond .le 5), (44, .iconst 0), (45, .ireturn)]),
  (84, [(46, .iload_n 3), (47, .iconst 1), (48, .isub), (49, .istore 4), (51, .iload 4), (53, .ifCond .lt 37), (56, .aload_n 0), (57, .getfield 9), (60, .aload_n 0), (61, .getfield 235), (64, .lload_n 1), (65, .bipush 8), (67, .iload 4), (69, .imul), (70, .lshr), (71, .l2i), (72, .i2b), (73, .bastore), (74, .aload_n 0), (75, .dup), (76, .getfield 235), (79, .iconst 1), (80, .iadd), (81, .putfield 235)]),
  (103, [(84, .iinc 4 (-1)), (87, .goto (-36)), (90, .aload_n 0), (91, .getfield 235), (94, .ireturn)])]
theorem ok_X9_type : CodeOK cX9_type k_X9_type := okw 0 (by decide +kernel) (okw 46 (by decide +kernel) (okw 84 (by decide +kernel) (okn)))
abbrev p_X9_type (l : Launch) (G : JG) : JP := (true, [(9, 9, 1, 21000103, 1), (225, 9, 0, 0, 0), (235, 9, 2, 0, 0)], [], [(229, 8)], [(225, 9, 0, 0), (235, 9, 2, 0)], [], [], [], false, 0, [(231, e_X9_in)])
theorem pk_X9_type {K : JC} {l : Launch} {G : JG} {Q : Int → MH → Prop} {E : Nat → Int → MH → Prop} {h0 : MH} (ki : KI K l G yX9_type cX9_type 5 (some .int) [] 5 175 0 Q E h0) (hG : gO G = true) : POK K RX9 (p_X9_type l G) :=
  POKi (y := yX9_type) ki hG (rfs rf_X9_ok (by decide +kernel)) fmz (subs (by decide +kernel) rl_X9_ok) (rps rp_X9_ok (by decide +kernel)) fmz fmz
  (pkE ki (by
    intro K e1 e2 e3 e4; subst e1; subst e2
    exact fmz)) (fun z => Bool.noConfusion z) rfl (pkP ki (by
    intro K e1 e2 e3 e4; subst e1; subst e2
    exact fmP (pe_X9_in hG e3 e4 ⟨q2454, Or.inl q2453⟩ rfl rfl) (fmz)))
theorem r_X9_type_0 {K : JC} {l : Launch} {G : JG} {Q : Int → MH → Prop} {E : Nat → Int → MH → Prop} {h0 : MH} (ki : KI K l G yX9_type cX9_type 5 (some .int) [] 5 175 0 Q E h0) (hG : gO G = true) {v1 v3 : Int} {h : MH} (H :
    (∀ h1, h1 = hset h 396 0 (if (isin v3 1 8) = 0 then 1 else (if 20000 < (w32 ((hv h 396 2) + v3)) then 2 else 0 : Int) : Int) →
    (((hv h1 396 0) ≤ 0 →
      (∀ x4_2 : Int, x4_2 = (w32 (v3 - 1)) →
      JW K 51 [(2009, 396), (1, v1), (5000, 0), (0, v3), (0, x4_2)] [] h1)) ∧
    (0 < (hv h1 396 0) →
      Q 0 h1)))) : JW K 0 [(2009, 396), (1, v1), (5000, 0), (0, v3), (5000, 0)] [] h := by
  have e1 := ki.2.2.2.2.1
  have e2 := ki.2.2.2.2.2.1
  subst e1; subst e2
  exact run_ok (dia := [(10, 34)]) (cnr := []) (cuts := [(51, [2009, 1, 5000, 0, 0], [])]) ki.1 (pk_X9_type ki hG) ok_X9_type (by decide) 17 true _ _ _ _ H
theorem r_X9_type_51 {K : JC} {l : Launch} {G : JG} {Q : Int → MH → Prop} {E : Nat → Int → MH → Prop} {h0 : MH} (ki : KI K l G yX9_type cX9_type 5 (some .int) [] 5 175 0 Q E h0) (hG : gO G = true) {v1 v3 v4 : Int} {h : MH} (H :
    ((v4 < 0 →
      Q (hv h 396 2) h) ∧
    (0 ≤ v4 →
      (0 ≤ (hv h 396 2)) ∧
      ((hv h 396 2) < 20000) ∧
      (-128 ≤ (w8 (w32 (l_shr v1 (w32 (8 * v4))))) ∧ (w8 (w32 (l_shr v1 (w32 (8 * v4))))) ≤ 127) ∧
      (∀ h1, h1 = hset h 397 (hv h 396 2) (w8 (w32 (l_shr v1 (w32 (8 * v4))))) →
      (∀ h2, h2 = hset h1 396 2 (w32 ((hv h1 396 2) + 1)) →
      (∀ x4_3 : Int, x4_3 = w32 (v4 + (-1)) →
      JW K 51 [(2009, 396), (1, v1), (5000, 0), (0, v3), (0, x4_3)] [] h2)))))) : JW K 51 [(2009, 396), (1, v1), (5000, 0), (0, v3), (0, v4)] [] h := by
  have e1 := ki.2.2.2.2.1
  have e2 := ki.2.2.2.2.2.1
  subst e1; subst e2
  exact run_ok (dia := [(10, 34)]) (cnr := []) (cuts := [(51, [2009, 1, 5000, 0, 0], [])]) ki.1 (pk_X9_type ki hG) ok_X9_type (by decide) 24 true _ _ _ _ H
abbrev k_X9_take : List (Nat × List (Nat × Instr)) := [(44, [(0, .aload_n 0), (1, .getfield 238), (4, .aload_n 0), (5, .getfield 241), (8, .if_icmp .lt 15), (11, .new 244), (14, .dup), (15, .aload_n 0), (16, .getfield 241), (19, .invokespecial 246), (22, .athrow), (23, .aload_n 0), (24, .dup), (25, .getfield 238), (28, .iconst 1), (29, .iadd), (30, .putfield 238), (33, .aload_n 0), (34, .getfield 9), (37, .aload_n 0), (38, .getfield 238), (41, .iconst 1), (42, .isub), (43, .baload)]),
  (57, [(44, .sipush 255), (47, .iand), (48, .ireturn)])]
theorem ok_X9_take : CodeOK cX9_take k_X9_take := okw 0 (by decide +kernel) (okw 44 (by decide +kernel) (okn))
abbrev p_X9_take (l : Launch) (G : JG) : JP := (true, [(9, 9, 1, 21000103, 1), (238, 9, 9, 0, 0), (241, 9, 10, 0, 0)], [], [], [(238, 9, 9, 0)], [(244, 17, 7)], [], [(246, 2, [0, 2017], 700, S_X17_init l G)], false, 0, [])
theorem pk_X9_take {K : JC} {l : Launch} {G : JG} {Q : Int → MH → Prop} {E : Nat → Int → MH → Prop} {h0 : MH} (ki : KI K l G yX9_take cX9_take 1 (some .int) [] 11 332 0 Q E h0) (hG : gO G = true) : POK K RX9 (p_X9_take l G) :=
  POKi (y := yX9_take) ki hG (rfs rf_X9_ok (by decide +kernel)) fmz fmz (rps rp_X9_ok (by decide +kernel)) (subs (by decide +kernel) rn_X9_ok) fmz
  (pkE ki (by
    intro K e1 e2 e3 e4; subst e1; subst e2
    exact fmE (ceI e3 e4 yl_X17_init ⟨rfl, q2474, Or.inl q2473, _, _, q2475⟩ rfl) (fmz))) (fun z => Bool.noConfusion z) rfl (pkP ki (by
    intro K e1 e2 e3 e4; subst e1; subst e2
    exact fmz))
theorem r_X9_take_0 {K : JC} {l : Launch} {G : JG} {Q : Int → MH → Prop} {E : Nat → Int → MH → Prop} {h0 : MH} (ki : KI K l G yX9_take cX9_take 1 (some .int) [] 11 332 0 Q E h0) (hG : gO G = true) {h : MH} (H :
    (((hv h 396 9) < (hv h 396 10) →
      (∀ h1, h1 = hset h 396 9 (w32 ((hv h 396 9) + 1)) →
      (0 ≤ (w32 ((hv h1 396 9) - 1))) ∧
      ((w32 ((hv h1 396 9) - 1)) < 20000) ∧
      Q (i_and (hv h1 397 (w32 ((hv h1 396 9) - 1))) 255) h1)) ∧
    ((hv h 396 10) ≤ (hv h 396 9) →
      (hz h + 1 ≤ LIMC) ∧
      (hs h + 7 ≤ LIMS) ∧
      (∀ h2, h2 = hnew h 17 0 7 →
      S_X17_init l G [(2017, (hz h + 1)), (0, (hv h2 396 10))] h2 (fun _ h4 =>
      E 17 (hz h + 1) h4) E)))) : JW K 0 [(2009, 396)] [] h := by
  have e1 := ki.2.2.2.2.1
  have e2 := ki.2.2.2.2.2.1
  subst e1; subst e2
  exact run_ok (dia := []) (cnr := []) (cuts := []) ki.1 (pk_X9_take ki hG) ok_X9_take (by decide) 22 true _ _ _ _ H
abbrev k_X9_readClasses : List (Nat × List (Nat × Instr)) := [(40, [(0, .aload_n 1), (1, .aload_n 0), (2, .iconst 0), (3, .bipush 16), (5, .invokevirtual 254), (8, .putfield 257), (11, .aload_n 1), (12, .aload_n 0), (13, .iconst 0), (14, .bipush 8), (16, .invokevirtual 254), (19, .putfield 260), (22, .iconst 0), (23, .istore_n 2), (24, .iload_n 2), (25, .aload_n 1), (26, .getfield 260), (29, .if_icmp .ge 21), (32, .aload_n 1), (33, .getfield 263), (36, .iload_n 2), (37, .aload_n 0), (38, .iconst 0), (39, .iconst 1)]),
  (81, [(40, .invokevirtual 254), (43, .iastore), (44, .iinc 2 1), (47, .goto (-23)), (50, .iconst 0), (51, .istore_n 2), (52, .iload_n 2), (53, .bipush 24), (55, .if_icmp .ge 34), (58, .aload_n 1), (59, .getfield 266), (62, .iload_n 2), (63, .iload_n 2), (64, .iconst 2), (65, .if_icmp .ge 9), (68, .iload_n 2), (69, .iconst 1), (70, .isub), (71, .goto 4), (74, .iconst 1), (75, .iastore), (76, .aload_n 1), (77, .getfield 269), (80, .iload_n 2)]),
  (121, [(81, .iconst 0), (82, .iastore), (83, .iinc 2 1), (86, .goto (-34)), (89, .bipush 8), (91, .istore_n 2), (92, .iload_n 2), (93, .bipush 8), (95, .aload_n 1), (96, .getfield 257), (99, .iadd), (100, .if_icmp .ge 156), (103, .aload_n 1), (104, .getfield 266), (107, .iload_n 2), (108, .aload_n 0), (109, .iconst 0), (110, .iload_n 2), (111, .iconst 1), (112, .isub), (113, .invokevirtual 254), (116, .iastore), (117, .aload_n 1), (118, .getfield 269)]),
  (160, [(121, .aload_n 1), (122, .getfield 266), (125, .iload_n 2), (126, .iaload), (127, .iaload), (128, .istore_n 3), (129, .aload_n 0), (130, .iconst 0), (131, .iconst 4), (132, .invokevirtual 254), (135, .istore 4), (137, .iload_n 3), (138, .iload 4), (140, .iadd), (141, .bipush 8), (143, .if_icmp .le 17), (146, .new 244), (149, .dup), (150, .aload_n 0), (151, .getfield 238), (154, .iconst 1), (155, .isub), (156, .invokespecial 246), (159, .athrow)]),
  (198, [(160, .iconst 0), (161, .istore 5), (163, .iload 5), (165, .iload_n 3), (166, .if_icmp .ge 38), (169, .aload_n 1), (170, .getfield 272), (173, .bipush 8), (175, .iload_n 2), (176, .imul), (177, .iload 5), (179, .iadd), (180, .aload_n 1), (181, .getfield 272), (184, .bipush 8), (186, .aload_n 1), (187, .getfield 266), (190, .iload_n 2), (191, .iaload), (192, .imul), (193, .iload 5), (195, .iadd), (196, .iaload), (197, .iastore)]),
  (241, [(198, .iinc 5 1), (201, .goto (-38)), (204, .iload_n 3), (205, .istore 5), (207, .iload 5), (209, .iload_n 3), (210, .iload 4), (212, .iadd), (213, .if_icmp .ge 27), (216, .aload_n 1), (217, .getfield 272), (220, .bipush 8), (222, .iload_n 2), (223, .imul), (224, .iload 5), (226, .iadd), (227, .aload_n 0), (228, .iconst 0), (229, .iconst 1), (230, .invokevirtual 254), (233, .iastore), (234, .iinc 5 1), (237, .goto (-30)), (240, .aload_n 1)]),
  (265, [(241, .getfield 269), (244, .iload_n 2), (245, .iload_n 3), (246, .iload 4), (248, .iadd), (249, .iastore), (250, .iinc 2 1), (253, .goto (-161)), (256, .return_)])]
theorem ok_X9_readClasses : CodeOK cX9_readClasses k_X9_readClasses := okw 0 (by decide +kernel) (okw 40 (by decide +kernel) (okw 81 (by decide +kernel) (okw 121 (by decide +kernel) (okw 160 (by decide +kernel) (okw 198 (by decide +kernel) (okw 241 (by decide +kernel) (okn)))))))
abbrev p_X9_readClasses (l : Launch) (G : JG) : JP := (true, [(238, 9, 9, 0, 0), (257, 10, 0, 0, 0), (260, 10, 1, 0, 0), (263, 10, 2, 1008100, 1), (266, 10, 3, 1024100, 2), (269, 10, 4, 1024100, 3), (272, 10, 5, 1192100, 4)], [], [], [(257, 10, 0, 0), (260, 10, 1, 0)], [(244, 17, 7)], [], [(246, 2, [0, 2017], 700, S_X17_init l G), (254, 1, [0, 0, 2009], 0, S_X9_take_2 l G)], false, 700, [])
theorem pk_X9_readClasses {K : JC} {l : Launch} {G : JG} {Q : Int → MH → Prop} {E : Nat → Int → MH → Prop} {h0 : MH} (ki : KI K l G yX9_readClasses cX9_readClasses 6 none [] 13 375 700 Q E h0) (hG : gO G = true) : POK K RX9 (p_X9_readClasses l G) :=
  POKi (y := yX9_readClasses) ki hG (rfs rf_X9_ok (by decide +kernel)) fmz fmz (rps rp_X9_ok (by decide +kernel)) (subs (by decide +kernel) rn_X9_ok) fmz
  (pkE ki (by
    intro K e1 e2 e3 e4; subst e1; subst e2
    exact fmE (ceI e3 e4 yl_X17_init ⟨rfl, q2474, Or.inl q2473, _, _, q2475⟩ rfl) (fmE (ceV 9 e3 e4 yl_X9_take_2 ⟨by decide, ⟨_, _, rfl⟩, q2489, qs105, q2487⟩ rfl) (fmz)))) (fun z => Bool.noConfusion z) rfl (pkP ki (by
    intro K e1 e2 e3 e4; subst e1; subst e2
    exact fmz))
theorem r_X9_readClasses_0 {K : JC} {l : Launch} {G : JG} {Q : Int → MH → Prop} {E : Nat → Int → MH → Prop} {h0 : MH} (ki : KI K l G yX9_readClasses cX9_readClasses 6 none [] 13 375 700 Q E h0) (hG : gO G = true) {v1 : Int} {h : MH} (H :
    S_X9_take_2 l G [(2009, 396), (0, 0), (0, 16)] h (fun z1 h2 =>
    (v1 ≠ 0) ∧
    (∀ h3, h3 = hset h2 v1 0 z1 →
    S_X9_take_2 l G [(2009, 396), (0, 0), (0, 8)] h3 (fun z4 h5 =>
    (v1 ≠ 0) ∧
    (∀ h6, h6 = hset h5 v1 1 z4 →
    (∀ x2_7 : Int, x2_7 = 0 →
    JW K 24 [(2009, 396), (14, v1), (0, x2_7), (5000, 0), (5000, 0), (5000, 0)] [] h6))) E)) E) : JW K 0 [(2009, 396), (14, v1), (5000, 0), (5000, 0), (5000, 0), (5000, 0)] [] h := by
  have e1 := ki.2.2.2.2.1
  have e2 := ki.2.2.2.2.2.1
  subst e1; subst e2
  exact run_ok (dia := [(65, 75)]) (cnr := []) (cuts := [(24, [2009, 14, 0, 5000, 5000, 5000], []), (52, [2009, 14, 0, 5000, 5000, 5000], []), (92, [2009, 14, 0, 5000, 5000, 5000], []), (163, [2009, 14, 0, 0, 0, 0], []), (207, [2009, 14, 0, 0, 0, 0], [])]) ki.1 (pk_X9_readClasses ki hG) ok_X9_readClasses (by decide) 16 true _ _ _ _ H
theorem r_X9_readClasses_24 {K : JC} {l : Launch} {G : JG} {Q : Int → MH → Prop} {E : Nat → Int → MH → Prop} {h0 : MH} (ki : KI K l G yX9_readClasses cX9_readClasses 6 none [] 13 375 700 Q E h0) (hG : gO G = true) {v1 v2 : Int} {h : MH} (H :
    (v1 ≠ 0) ∧
    (((hv h v1 1) ≤ v2 →
      (∀ x2_1 : Int, x2_1 = 0 →
      JW K 52 [(2009, 396), (14, v1), (0, x2_1), (5000, 0), (5000, 0), (5000, 0)] [] h)) ∧
    (v2 < (hv h v1 1) →
      (v1 ≠ 0) ∧
      S_X9_take_2 l G [(2009, 396), (0, 0), (0, 1)] h (fun z2 h3 =>
      (0 ≤ v2) ∧
      (v2 < 8) ∧
      (∀ h4, h4 = hset h3 (v1 + 1) v2 z2 →
      (∀ x2_5 : Int, x2_5 = w32 (v2 + 1) →
      JW K 24 [(2009, 396), (14, v1), (0, x2_5), (5000, 0), (5000, 0), (5000, 0)] [] h4))) E))) : JW K 24 [(2009, 396), (14, v1), (0, v2), (5000, 0), (5000, 0), (5000, 0)] [] h := by
  have e1 := ki.2.2.2.2.1
  have e2 := ki.2.2.2.2.2.1
  subst e1; subst e2
  exact run_ok (dia := [(65, 75)]) (cnr := []) (cuts := [(24, [2009, 14, 0, 5000, 5000, 5000], []), (52, [2009, 14, 0, 5000, 5000, 5000], []), (92, [2009, 14, 0, 5000, 5000, 5000], []), (163, [2009, 14, 0, 0, 0, 0], []), (207, [2009, 14, 0, 0, 0, 0], [])]) ki.1 (pk_X9_readClasses ki hG) ok_X9_readClasses (by decide) 16 true _ _ _ _ H
theorem r_X9_readClasses_52 {K : JC} {l : Launch} {G : JG} {Q : Int → MH → Prop} {E : Nat → Int → MH → Prop} {h0 : MH} (ki : KI K l G yX9_readClasses cX9_readClasses 6 none [] 13 375 700 Q E h0) (hG : gO G = true) {v1 v2 : Int} {h : MH} (H :
    ((24 ≤ v2 →
      (∀ x2_1 : Int, x2_1 = 8 →
      JW K 92 [(2009, 396), (14, v1), (0, x2_1), (5000, 0), (5000, 0), (5000, 0)] [] h)) ∧
    (v2 < 24 →
      (v1 ≠ 0) ∧
      (0 ≤ v2) ∧
      (v2 < 24) ∧
      (∀ h2, h2 = hset h (v1 + 2) v2 (if v2 < 2 then (w32 (v2 - 1)) else 1 : Int) →
      (v1 ≠ 0) ∧
      (0 ≤ v2) ∧
      (v2 < 24) ∧
      (∀ h3, h3 = hset h2 (v1 + 3) v2 0 →
      (∀ x2_4 : Int, x2_4 = w32 (v2 + 1) →
      JW K 52 [(2009, 396), (14, v1), (0, x2_4), (5000, 0), (5000, 0), (5000, 0)] [] h3)))))) : JW K 52 [(2009, 396), (14, v1), (0, v2), (5000, 0), (5000, 0), (5000, 0)] [] h := by
  have e1 := ki.2.2.2.2.1
  have e2 := ki.2.2.2.2.2.1
  subst e1; subst e2
  exact run_ok (dia := [(65, 75)]) (cnr := []) (cuts := [(24, [2009, 14, 0, 5000, 5000, 5000], []), (52, [2009, 14, 0, 5000, 5000, 5000], []), (92, [2009, 14, 0, 5000, 5000, 5000], []), (163, [2009, 14, 0, 0, 0, 0], []), (207, [2009, 14, 0, 0, 0, 0], [])]) ki.1 (pk_X9_readClasses ki hG) ok_X9_readClasses (by decide) 19 true _ _ _ _ H
theorem r_X9_readClasses_92 {K : JC} {l : Launch} {G : JG} {Q : Int → MH → Prop} {E : Nat → Int → MH → Prop} {h0 : MH} (ki : KI K l G yX9_readClasses cX9_readClasses 6 none [] 13 375 700 Q E h0) (hG : gO G = true) {v1 v2 : Int} {h : MH} (H :
    (v1 ≠ 0) ∧
    (((w32 (8 + (hv h v1 0))) ≤ v2 →
      Q 0 h) ∧
    (v2 < (w32 (8 + (hv h v1 0))) →
      (v1 ≠ 0) ∧
      S_X9_take_2 l G [(2009, 396), (0, 0), (0, (w32 (v2 - 1)))] h (fun z1 h2 =>
      (0 ≤ v2) ∧
      (v2 < 24) ∧
      (∀ h3, h3 = hset h2 (v1 + 2) v2 z1 →
      (v1 ≠ 0) ∧
      (v1 ≠ 0) ∧
      (0 ≤ v2) ∧
      (v2 < 24) ∧
      (0 ≤ (hv h3 (v1 + 2) v2)) ∧
      ((hv h3 (v1 + 2) v2) < 24) ∧
      (∀ x3_4 : Int, x3_4 = (hv h3 (v1 + 3) (hv h3 (v1 + 2) v2)) →
      S_X9_take_2 l G [(2009, 396), (0, 0), (0, 4)] h3 (fun z5 h6 =>
      (∀ x4_7 : Int, x4_7 = z5 →
      (((w32 (x3_4 + x4_7)) ≤ 8 →
        (∀ x5_8 : Int, x5_8 = 0 →
        JW K 163 [(2009, 396), (14, v1), (0, v2), (0, x3_4), (0, x4_7), (0, x5_8)] [] h6)) ∧
      (8 < (w32 (x3_4 + x4_7)) →
        (hz h6 + 1 ≤ LIMC) ∧
        (hs h6 + 7 ≤ LIMS) ∧
        (∀ h9, h9 = hnew h6 17 0 7 →
        S_X17_init l G [(2017, (hz h6 + 1)), (0, (w32 ((hv h9 396 9) - 1)))] h9 (fun _ h11 =>
        E 17 (hz h6 + 1) h11) E))))) E))) E))) : JW K 92 [(2009, 396), (14, v1), (0, v2), (5000, 0), (5000, 0), (5000, 0)] [] h := by
  have e1 := ki.2.2.2.2.1
  have e2 := ki.2.2.2.2.2.1
  subst e1; subst e2
  exact run_ok (dia := [(65, 75)]) (cnr := []) (cuts := [(24, [2009, 14, 0, 5000, 5000, 5000], []), (52, [2009, 14, 0, 5000, 5000, 5000], []), (92, [2009, 14, 0, 5000, 5000, 5000], []), (163, [2009, 14, 0, 0, 0, 0], []), (207, [2009, 14, 0, 0, 0, 0], [])]) ki.1 (pk_X9_readClasses ki hG) ok_X9_readClasses (by decide) 43 true _ _ _ _ H
theorem r_X9_readClasses_163 {K : JC} {l : Launch} {G : JG} {Q : Int → MH → Prop} {E : Nat → Int → MH → Prop} {h0 : MH} (ki : KI K l G yX9_readClasses cX9_readClasses 6 none [] 13 375 700 Q E h0) (hG : gO G = true) {v1 v2 v3 v4 v5 : Int} {h : MH} (H :
    ((v3 ≤ v5 →
      (∀ x5_1 : Int, x5_1 = v3 →
      JW K 207 [(2009, 396), (14, v1), (0, v2), (0, v3), (0, v4), (0, x5_1)] [] h)) ∧
    (v5 < v3 →
      (v1 ≠ 0) ∧
      (v1 ≠ 0) ∧
      (v1 ≠ 0) ∧
      (0 ≤ v2) ∧
      (v2 < 24) ∧
      (0 ≤ (w32 ((w32 (8 * (hv h (v1 + 2) v2))) + v5))) ∧
      ((w32 ((w32 (8 * (hv h (v1 + 2) v2))) + v5)) < 192) ∧
      (0 ≤ (w32 ((w32 (8 * v2)) + v5))) ∧
      ((w32 ((w32 (8 * v2)) + v5)) < 192) ∧
      (∀ h2, h2 = hset h (v1 + 4) (w32 ((w32 (8 * v2)) + v5)) (hv h (v1 + 4) (w32 ((w32 (8 * (hv h (v1 + 2) v2))) + v5))) →
      (∀ x5_3 : Int, x5_3 = w32 (v5 + 1) →
      JW K 163 [(2009, 396), (14, v1), (0, v2), (0, v3), (0, v4), (0, x5_3)] [] h2))))) : JW K 163 [(2009, 396), (14, v1), (0, v2), (0, v3), (0, v4), (0, v5)] [] h := by
  have e1 := ki.2.2.2.2.1
  have e2 := ki.2.2.2.2.2.1
  subst e1; subst e2
  exact run_ok (dia := [(65, 75)]) (cnr := []) (cuts := [(24, [2009, 14, 0, 5000, 5000, 5000], []), (52, [2009, 14, 0, 5000, 5000, 5000], []), (92, [2009, 14, 0, 5000, 5000, 5000], []), (163, [2009, 14, 0, 0, 0, 0], []), (207, [2009, 14, 0, 0, 0, 0], [])]) ki.1 (pk_X9_readClasses ki hG) ok_X9_readClasses (by decide) 26 true _ _ _ _ H
theorem r_X9_readClasses_207 {K : JC} {l : Launch} {G : JG} {Q : Int → MH → Prop} {E : Nat → Int → MH → Prop} {h0 : MH} (ki : KI K l G yX9_readClasses cX9_readClasses 6 none [] 13 375 700 Q E h0) (hG : gO G = true) {v1 v2 v3 v4 v5 : Int} {h : MH} (H :
    (((w32 (v3 + v4)) ≤ v5 →
      (v1 ≠ 0) ∧
      (0 ≤ v2) ∧
      (v2 < 24) ∧
      (∀ h1, h1 = hset h (v1 + 3) v2 (w32 (v3 + v4)) →
      (∀ x2_2 : Int, x2_2 = w32 (v2 + 1) →
      JW K 92 [(2009, 396), (14, v1), (0, x2_2), (5000, 0), (5000, 0), (5000, 0)] [] h1))) ∧
    (v5 < (w32 (v3 + v4)) →
      (v1 ≠ 0) ∧
      S_X9_take_2 l G [(2009, 396), (0, 0), (0, 1)] h (fun z3 h4 =>
      (0 ≤ (w32 ((w32 (8 * v2)) + v5))) ∧
      ((w32 ((w32 (8 * v2)) + v5)) < 192) ∧
      (∀ h5, h5 = hset h4 (v1 + 4) (w32 ((w32 (8 * v2)) + v5)) z3 →
      (∀ x5_6 : Int, x5_6 = w32 (v5 + 1) →
      JW K 207 [(2009, 396), (14, v1), (0, v2), (0, v3), (0, v4), (0, x5_6)] [] h5))) E))) : JW K 207 [(2009, 396), (14, v1), (0, v2), (0, v3), (0, v4), (0, v5)] [] h := by
  have e1 := ki.2.2.2.2.1
  have e2 := ki.2.2.2.2.2.1
  subst e1; subst e2
  exact run_ok (dia := [(65, 75)]) (cnr := []) (cuts := [(24, [2009, 14, 0, 5000, 5000, 5000], []), (52, [2009, 14, 0, 5000, 5000, 5000], []), (92, [2009, 14, 0, 5000, 5000, 5000], []), (163, [2009, 14, 0, 0, 0, 0], []), (207, [2009, 14, 0, 0, 0, 0], [])]) ki.1 (pk_X9_readClasses ki hG) ok_X9_readClasses (by decide) 21 true _ _ _ _ H
abbrev k_X9_take_2 : List (Nat × List (Nat × Instr)) := [(41, [(0, .aload_n 0), (1, .invokevirtual 249), (4, .istore_n 3), (5, .iload_n 3), (6, .i2l), (7, .iload_n 1), (8, .i2l), (9, .iload_n 2), (10, .i2l), (11, .invokestatic 231), (14, .ifCond .ne 17), (17, .new 244), (20, .dup), (21, .aload_n 0), (22, .getfield 238), (25, .iconst 1), (26, .isub), (27, .invokespecial 246), (30, .athrow), (31, .iload_n 3), (32, .ireturn)])]
theorem ok_X9_take_2 : CodeOK cX9_take_2 k_X9_take_2 := okw 0 (by decide +kernel) (okn)
abbrev p_X9_take_2 (l : Launch) (G : JG) : JP := (true, [(238, 9, 9, 0, 0)], [], [], [], [(244, 17, 7)], [], [(246, 2, [0, 2017], 700, S_X17_init l G), (249, 1, [2009], 0, S_X9_take l G)], false, 0, [(231, e_X9_in)])
theorem pk_X9_take_2 {K : JC} {l : Launch} {G : JG} {Q : Int → MH → Prop} {E : Nat → Int → MH → Prop} {h0 : MH} (ki : KI K l G yX9_take_2 cX9_take_2 4 (some .int) [] 12 352 0 Q E h0) (hG : gO G = true) : POK K RX9 (p_X9_take_2 l G) :=
  POKi (y := yX9_take_2) ki hG (rfs rf_X9_ok (by decide +kernel)) fmz fmz fmz (subs (by decide +kernel) rn_X9_ok) fmz
  (pkE ki (by
    intro K e1 e2 e3 e4; subst e1; subst e2
    exact fmE (ceI e3 e4 yl_X17_init ⟨rfl, q2474, Or.inl q2473, _, _, q2475⟩ rfl) (fmE (ceV 9 e3 e4 yl_X9_take ⟨by decide, ⟨_, _, rfl⟩, q2463, qs103, q2461⟩ rfl) (fmz)))) (fun z => Bool.noConfusion z) rfl (pkP ki (by
    intro K e1 e2 e3 e4; subst e1; subst e2
    exact fmP (pe_X9_in hG e3 e4 ⟨q2454, Or.inl q2453⟩ rfl rfl) (fmz)))
theorem r_X9_take_2_0 {K : JC} {l : Launch} {G : JG} {Q : Int → MH → Prop} {E : Nat → Int → MH → Prop} {h0 : MH} (ki : KI K l G yX9_take_2 cX9_take_2 4 (some .int) [] 12 352 0 Q E h0) (hG : gO G = true) {v1 v2 : Int} {h : MH} (H :
    S_X9_take l G [(2009, 396)] h (fun z1 h2 =>
    (∀ x3_3 : Int, x3_3 = z1 →
    ((¬ (isin x3_3 v1 v2) = 0 →
      Q x3_3 h2) ∧
    ((isin x3_3 v1 v2) = 0 →
      (hz h2 + 1 ≤ LIMC) ∧
      (hs h2 + 7 ≤ LIMS) ∧
      (∀ h4, h4 = hnew h2 17 0 7 →
      S_X17_init l G [(2017, (hz h2 + 1)), (0, (w32 ((hv h4 396 9) - 1)))] h4 (fun _ h6 =>
      E 17 (hz h2 + 1) h6) E))))) E) : JW K 0 [(2009, 396), (0, v1), (0, v2), (5000, 0)] [] h := by
  have e1 := ki.2.2.2.2.1
  have e2 := ki.2.2.2.2.2.1
  subst e1; subst e2
  exact run_ok (dia := []) (cnr := []) (cuts := []) ki.1 (pk_X9_take_2 ki hG) ok_X9_take_2 (by decide) 20 true _ _ _ _ H
abbrev k_X9_readMethod : List (Nat × List (Nat × Instr)) := [(43, [(0, .aload_n 1), (1, .getfield 284), (4, .iload_n 2), (5, .aload_n 0), (6, .getfield 238), (9, .iastore), (10, .aload_n 0), (11, .invokevirtual 249), (14, .istore_n 3), (15, .iload_n 3), (16, .sipush 255), (19, .if_icmp .eq 28), (22, .iload_n 3), (23, .bipush 8), (25, .aload_n 1), (26, .getfield 257), (29, .iadd), (30, .if_icmp .lt 17), (33, .new 244), (36, .dup), (37, .aload_n 0), (38, .getfield 238), (41, .iconst 1), (42, .isub)]),
  (83, [(43, .invokespecial 246), (46, .athrow), (47, .aload_n 1), (48, .getfield 287), (51, .iload_n 2), (52, .iload_n 3), (53, .iastore), (54, .aload_n 0), (55, .getfield 238), (58, .istore 4), (60, .aload_n 1), (61, .getfield 290), (64, .iload_n 2), (65, .aload_n 0), (66, .iconst 0), (67, .bipush 15), (69, .invokevirtual 254), (72, .iastore), (73, .iconst 0), (74, .istore 5), (76, .iload 5), (78, .iload_n 2), (79, .if_icmp .ge 53), (82, .iload_n 3)]),
  (132, [(83, .sipush 255), (86, .if_icmp .eq 40), (89, .aload_n 1), (90, .getfield 287), (93, .iload 5), (95, .iaload), (96, .iload_n 3), (97, .if_icmp .ne 29), (100, .aload_n 1), (101, .getfield 290), (104, .iload 5), (106, .iaload), (107, .aload_n 1), (108, .getfield 290), (111, .iload_n 2), (112, .iaload), (113, .if_icmp .ne 13), (116, .new 244), (119, .dup), (120, .iload 4), (122, .invokespecial 246), (125, .athrow), (126, .iinc 5 1), (129, .goto (-53))]),
  (175, [(132, .aload_n 1), (133, .getfield 275), (136, .iload_n 2), (137, .aload_n 0), (138, .iload_n 3), (139, .sipush 255), (142, .if_icmp .ne 7), (145, .iconst 0), (146, .goto 4), (149, .iconst 1), (150, .iconst 4), (151, .invokevirtual 254), (154, .iastore), (155, .iconst 0), (156, .istore 5), (158, .iload 5), (160, .aload_n 1), (161, .getfield 275), (164, .iload_n 2), (165, .iaload), (166, .if_icmp .ge 43), (169, .aload_n 1), (170, .getfield 281), (173, .bipush 8)]),
  (217, [(175, .iload_n 2), (176, .imul), (177, .iload 5), (179, .iadd), (180, .aload_n 0), (181, .iload 5), (183, .ifCond .ne 14), (186, .iload_n 3), (187, .sipush 255), (190, .if_icmp .eq 7), (193, .iconst 1), (194, .goto 4), (197, .iconst 0), (198, .iconst 1), (199, .invokevirtual 254), (202, .iastore), (203, .iinc 5 1), (206, .goto (-48)), (209, .aload_n 1), (210, .getfield 278), (213, .iload_n 2), (214, .aload_n 0), (215, .iconst 0), (216, .iconst 2)]),
  (263, [(217, .invokevirtual 254), (220, .iastore), (221, .iconst 0), (222, .istore 5), (224, .iload 5), (226, .iload_n 2), (227, .if_icmp .ge 69), (230, .iload_n 3), (231, .sipush 255), (234, .if_icmp .eq 56), (237, .aload_n 1), (238, .getfield 287), (241, .iload 5), (243, .iaload), (244, .sipush 255), (247, .if_icmp .eq 43), (250, .aload_n 1), (251, .getfield 290), (254, .iload 5), (256, .iaload), (257, .aload_n 1), (258, .getfield 290), (261, .iload_n 2), (262, .iaload)]),
  (308, [(263, .if_icmp .ne 27), (266, .aload_n 1), (267, .iload 5), (269, .iload_n 2), (270, .invokestatic 293), (273, .ifCond .ne 17), (276, .new 244), (279, .dup), (280, .aload_n 0), (281, .getfield 238), (284, .iconst 1), (285, .isub), (286, .invokespecial 246), (289, .athrow), (290, .iinc 5 1), (293, .goto (-69)), (296, .aload_n 1), (297, .getfield 297), (300, .iload_n 2), (301, .aload_n 0), (302, .aload_n 1), (303, .getfield 275), (306, .iload_n 2), (307, .iaload)]),
  (350, [(308, .bipush 8), (310, .invokevirtual 254), (313, .iastore), (314, .iconst 0), (315, .istore 5), (317, .iload 5), (319, .aload_n 1), (320, .getfield 297), (323, .iload_n 2), (324, .iaload), (325, .if_icmp .ge 73), (328, .aload_n 0), (329, .iconst 0), (330, .iconst 1), (331, .invokevirtual 254), (334, .istore 6), (336, .iload 5), (338, .aload_n 1), (339, .getfield 275), (342, .iload_n 2), (343, .iaload), (344, .if_icmp .ge 34), (347, .iload 6), (349, .aload_n 1)]),
  (391, [(350, .getfield 281), (353, .bipush 8), (355, .iload_n 2), (356, .imul), (357, .iload 5), (359, .iadd), (360, .iaload), (361, .if_icmp .eq 17), (364, .new 244), (367, .dup), (368, .aload_n 0), (369, .getfield 238), (372, .iconst 1), (373, .isub), (374, .invokespecial 246), (377, .athrow), (378, .aload_n 1), (379, .getfield 281), (382, .bipush 8), (384, .iload_n 2), (385, .imul), (386, .iload 5), (388, .iadd), (389, .iload 6)]),
  (430, [(391, .iastore), (392, .iinc 5 1), (395, .goto (-78)), (398, .aload_n 1), (399, .getfield 300), (402, .iload_n 2), (403, .aload_n 0), (404, .iconst 0), (405, .bipush 8), (407, .invokevirtual 254), (410, .iastore), (411, .aload_n 1), (412, .getfield 303), (415, .iload_n 2), (416, .aload_n 0), (417, .iconst 0), (418, .iconst 4), (419, .invokevirtual 254), (422, .iastore), (423, .aload_n 1), (424, .getfield 306), (427, .iload_n 2), (428, .aload_n 0), (429, .iconst 1)]),
  (473, [(430, .bipush 120), (432, .invokevirtual 254), (435, .iastore), (436, .aload_n 1), (437, .getfield 309), (440, .aload_n 1), (441, .getfield 306), (444, .iload_n 2), (445, .iaload), (446, .iadd), (447, .sipush 1500), (450, .if_icmp .le 17), (453, .new 244), (456, .dup), (457, .aload_n 0), (458, .getfield 238), (461, .iconst 1), (462, .isub), (463, .invokespecial 246), (466, .athrow), (467, .aload_n 1), (468, .getfield 312), (471, .iload_n 2), (472, .aload_n 1)]),
  (517, [(473, .getfield 309), (476, .iastore), (477, .iconst 0), (478, .istore 5), (480, .iload 5), (482, .aload_n 1), (483, .getfield 306), (486, .iload_n 2), (487, .iaload), (488, .if_icmp .ge 15), (491, .aload_n 0), (492, .aload_n 1), (493, .iload_n 2), (494, .invokevirtual 315), (497, .iinc 5 1), (500, .goto (-20)), (503, .iconst 0), (504, .istore 5), (506, .iload 5), (508, .aload_n 1), (509, .getfield 303), (512, .iload_n 2), (513, .iaload), (514, .if_icmp .ge 138)]),
  (556, [(517, .bipush 16), (519, .iload_n 2), (520, .imul), (521, .iconst 4), (522, .iload 5), (524, .imul), (525, .iadd), (526, .istore 6), (528, .aload_n 1), (529, .getfield 319), (532, .iload 6), (534, .aload_n 0), (535, .invokevirtual 249), (538, .iastore), (539, .aload_n 1), (540, .getfield 319), (543, .iload 6), (545, .iconst 1), (546, .iadd), (547, .aload_n 0), (548, .invokevirtual 249), (551, .iastore), (552, .aload_n 1), (553, .getfield 319)]),
  (597, [(556, .iload 6), (558, .iaload), (559, .aload_n 1), (560, .getfield 319), (563, .iload 6), (565, .iconst 1), (566, .iadd), (567, .iaload), (568, .if_icmp .ge 21), (571, .aload_n 1), (572, .getfield 319), (575, .iload 6), (577, .iconst 1), (578, .iadd), (579, .iaload), (580, .aload_n 1), (581, .getfield 306), (584, .iload_n 2), (585, .iaload), (586, .if_icmp .le 17), (589, .new 244), (592, .dup), (593, .aload_n 0), (594, .getfield 238)]),
  (633, [(597, .iconst 1), (598, .isub), (599, .invokespecial 246), (602, .athrow), (603, .aload_n 1), (604, .getfield 319), (607, .iload 6), (609, .iconst 2), (610, .iadd), (611, .aload_n 0), (612, .iconst 0), (613, .aload_n 1), (614, .getfield 306), (617, .iload_n 2), (618, .iaload), (619, .iconst 1), (620, .isub), (621, .invokevirtual 254), (624, .iastore), (625, .aload_n 1), (626, .getfield 319), (629, .iload 6), (631, .iconst 3), (632, .iadd)]),
  (671, [(633, .aload_n 0), (634, .iconst 0), (635, .bipush 7), (637, .aload_n 1), (638, .getfield 257), (641, .iadd), (642, .invokevirtual 254), (645, .iastore), (646, .iinc 5 1), (649, .goto (-143)), (652, .aload_n 1), (653, .getfield 322), (656, .iload_n 2), (657, .aload_n 0), (658, .getfield 238), (661, .iastore), (662, .return_)])]
theorem ok_X9_readMethod : CodeOK cX9_readMethod k_X9_readMethod := okw 0 (by decide +kernel) (okw 43 (by decide +kernel) (okw 83 (by decide +kernel) (okw 132 (by decide +kernel) (okw 175 (by decide +kernel) (okw 217 (by decide +kernel) (okw 263 (by decide +kernel) (okw 308 (by decide +kernel) (okw 350 (by decide +kernel) (okw 391 (by decide +kernel) (okw 430 (by decide +kernel) (okw 473 (by decide +kernel) (okw 517 (by decide +kernel) (okw 556 (by decide +kernel) (okw 597 (by decide +kernel) (okw 633 (by decide +kernel) (okn))))))))))))))))
abbrev p_X9_readMethod (l : Launch) (G : JG) : JP := (true, [(238, 9, 9, 0, 0), (257, 10, 0, 0, 0), (275, 10, 9, 1040100, 7), (278, 10, 10, 1040100, 8), (281, 10, 12, 1320100, 10), (284, 10, 18, 1040100, 16), (287, 10, 7, 1040100, 5), (290, 10, 8, 1040100, 6), (297, 10, 11, 1040100, 9), (300, 10, 13, 1040100, 11), (303, 10, 14, 1040100, 12), (306, 10, 16, 1040100, 14), (309, 10, 21, 0, 0), (312, 10, 17, 1040100, 15), (319, 10, 15, 1640100, 13), (322, 10, 19, 1040100, 17)], [], [], [], [(244, 17, 7)], [], [(246, 2, [0, 2017], 700, S_X17_init l G), (249, 1, [2009], 0, S_X9_take l G), (254, 1, [0, 0, 2009], 0, S_X9_take_2 l G), (293, 0, [0, 0, 14], 2, S_X9_areAlike l G), (315, 1, [0, 14, 2009], 700, S_X9_readInstruction l G)], false, 700, [])
theorem pk_X9_readMethod {K : JC} {l : Launch} {G : JG} {Q : Int → MH → Prop} {E : Nat → Int → MH → Prop} {h0 : MH} (ki : KI K l G yX9_readMethod cX9_readMethod 7 none [] 14 407 700 Q E h0) (hG : gO G = true) : POK K RX9 (p_X9_readMethod l G) :=
  POKi (y := yX9_readMethod) ki hG (rfs rf_X9_ok (by decide +kernel)) fmz fmz fmz (subs (by decide +kernel) rn_X9_ok) fmz
  (pkE ki (by
    intro K e1 e2 e3 e4; subst e1; subst e2
    exact fmE (ceI e3 e4 yl_X17_init ⟨rfl, q2474, Or.inl q2473, _, _, q2475⟩ rfl) (fmE (ceV 9 e3 e4 yl_X9_take ⟨by decide, ⟨_, _, rfl⟩, q2463, qs103, q2461⟩ rfl) (fmE (ceV 9 e3 e4 yl_X9_take_2 ⟨by decide, ⟨_, _, rfl⟩, q2489, qs105, q2487⟩ rfl) (fmE (ceS e3 e4 yl_X9_areAlike ⟨q2496, Or.inl q2495⟩ rfl) (fmE (ceV 9 e3 e4 yl_X9_readInstruction ⟨by decide, ⟨_, _, rfl⟩, q2500, qs107, q2498⟩ rfl) (fmz))))))) (fun z => Bool.noConfusion z) rfl (pkP ki (by
    intro K e1 e2 e3 e4; subst e1; subst e2
    exact fmz))
theorem r_X9_readMethod_0 {K : JC} {l : Launch} {G : JG} {Q : Int → MH → Prop} {E : Nat → Int → MH → Prop} {h0 : MH} (ki : KI K l G yX9_readMethod cX9_readMethod 7 none [] 14 407 700 Q E h0) (hG : gO G = true) {v1 v2 : Int} {h : MH} (H :
    (v1 ≠ 0) ∧
    (0 ≤ v2) ∧
    (v2 < 40) ∧
    (∀ h1, h1 = hset h (v1 + 16) v2 (hv h 396 9) →
    S_X9_take l G [(2009, 396)] h1 (fun z2 h3 =>
    (∀ x3_4 : Int, x3_4 = z2 →
    ((¬ x3_4 = 255 → v1 ≠ 0)) ∧
    (((¬ x3_4 = 255 ∧ (w32 (8 + (hv h3 v1 0))) ≤ x3_4) →
      (hz h3 + 1 ≤ LIMC) ∧
      (hs h3 + 7 ≤ LIMS) ∧
      (∀ h5, h5 = hnew h3 17 0 7 →
      S_X17_init l G [(2017, (hz h3 + 1)), (0, (w32 ((hv h5 396 9) - 1)))] h5 (fun _ h7 =>
      E 17 (hz h3 + 1) h7) E)) ∧
    (¬ (¬ x3_4 = 255 ∧ (w32 (8 + (hv h3 v1 0))) ≤ x3_4) →
      (v1 ≠ 0) ∧
      (0 ≤ v2) ∧
      (v2 < 40) ∧
      (∀ h8, h8 = hset h3 (v1 + 5) v2 x3_4 →
      (∀ x4_9 : Int, x4_9 = (hv h8 396 9) →
      (v1 ≠ 0) ∧
      S_X9_take_2 l G [(2009, 396), (0, 0), (0, 15)] h8 (fun z10 h11 =>
      (0 ≤ v2) ∧
      (v2 < 40) ∧
      (∀ h12, h12 = hset h11 (v1 + 6) v2 z10 →
      (∀ x5_13 : Int, x5_13 = 0 →
      JW K 76 [(2009, 396), (14, v1), (0, v2), (0, x3_4), (0, x4_9), (0, x5_13), (5000, 0)] [] h12))) E)))))) E)) : JW K 0 [(2009, 396), (14, v1), (0, v2), (5000, 0), (5000, 0), (5000, 0), (5000, 0)] [] h := by
  have e1 := ki.2.2.2.2.1
  have e2 := ki.2.2.2.2.2.1
  subst e1; subst e2
  exact run_ok (dia := [(142, 150), (183, 198)]) (cnr := [(19, 33, 47), (86, 116, 126), (234, 266, 290), (344, 364, 378), (568, 589, 603)]) (cuts := [(76, [2009, 14, 0, 0, 0, 0, 5000], []), (158, [2009, 14, 0, 0, 0, 0, 5000], []), (224, [2009, 14, 0, 0, 0, 0, 5000], []), (317, [2009, 14, 0, 0, 0, 0, 5000], []), (480, [2009, 14, 0, 0, 0, 0, 5000], []), (506, [2009, 14, 0, 0, 0, 0, 5000], [])]) ki.1 (pk_X9_readMethod ki hG) ok_X9_readMethod (by decide) 32 true _ _ _ _ H
theorem r_X9_readMethod_76 {K : JC} {l : Launch} {G : JG} {Q : Int → MH → Prop} {E : Nat → Int → MH → Prop} {h0 : MH} (ki : KI K l G yX9_readMethod cX9_readMethod 7 none [] 14 407 700 Q E h0) (hG : gO G = true) {v1 v2 v3 v4 v5 : Int} {h : MH} (H :
    ((v2 ≤ v5 →
      (v1 ≠ 0) ∧
      S_X9_take_2 l G [(2009, 396), (0, (if v3 = 255 then 0 else 1 : Int)), (0, 4)] h (fun z1 h2 =>
      (0 ≤ v2) ∧
      (v2 < 40) ∧
      (∀ h3, h3 = hset h2 (v1 + 7) v2 z1 →
      (∀ x5_4 : Int, x5_4 = 0 →
      JW K 158 [(2009, 396), (14, v1), (0, v2), (0, v3), (0, v4), (0, x5_4), (5000, 0)] [] h3))) E) ∧
    (v5 < v2 →
      ((¬ v3 = 255 → (v1 ≠ 0) ∧ (0 ≤ v5) ∧ (v5 < 40) ∧ ((hv h (v1 + 5) v5) = v3 → (v1 ≠ 0) ∧ (0 ≤ v5) ∧ (v5 < 40) ∧ (v1 ≠ 0) ∧ (0 ≤ v2) ∧ v2 < 40))) ∧
      (((¬ v3 = 255 ∧ ((hv h (v1 + 5) v5) = v3 ∧ (hv h (v1 + 6) v5) = (hv h (v1 + 6) v2))) →
        (hz h + 1 ≤ LIMC) ∧
        (hs h + 7 ≤ LIMS) ∧
        (∀ h5, h5 = hnew h 17 0 7 →
        S_X17_init l G [(2017, (hz h + 1)), (0, v4)] h5 (fun _ h7 =>
        E 17 (hz h + 1) h7) E)) ∧
      (¬ (¬ v3 = 255 ∧ ((hv h (v1 + 5) v5) = v3 ∧ (hv h (v1 + 6) v5) = (hv h (v1 + 6) v2))) →
        (∀ x5_8 : Int, x5_8 = w32 (v5 + 1) →
        JW K 76 [(2009, 396), (14, v1), (0, v2), (0, v3), (0, v4), (0, x5_8), (5000, 0)] [] h)))))) : JW K 76 [(2009, 396), (14, v1), (0, v2), (0, v3), (0, v4), (0, v5), (5000, 0)] [] h := by
  have e1 := ki.2.2.2.2.1
  have e2 := ki.2.2.2.2.2.1
  subst e1; subst e2
  exact run_ok (dia := [(142, 150), (183, 198)]) (cnr := [(19, 33, 47), (86, 116, 126), (234, 266, 290), (344, 364, 378), (568, 589, 603)]) (cuts := [(76, [2009, 14, 0, 0, 0, 0, 5000], []), (158, [2009, 14, 0, 0, 0, 0, 5000], []), (224, [2009, 14, 0, 0, 0, 0, 5000], []), (317, [2009, 14, 0, 0, 0, 0, 5000], []), (480, [2009, 14, 0, 0, 0, 0, 5000], []), (506, [2009, 14, 0, 0, 0, 0, 5000], [])]) ki.1 (pk_X9_readMethod ki hG) ok_X9_readMethod (by decide) 17 true _ _ _ _ H
theorem r_X9_readMethod_158 {K : JC} {l : Launch} {G : JG} {Q : Int → MH → Prop} {E : Nat → Int → MH → Prop} {h0 : MH} (ki : KI K l G yX9_readMethod cX9_readMethod 7 none [] 14 407 700 Q E h0) (hG : gO G = true) {v1 v2 v3 v4 v5 : Int} {h : MH} (H :
    (v1 ≠ 0) ∧
    (0 ≤ v2) ∧
    (v2 < 40) ∧
    (((hv h (v1 + 7) v2) ≤ v5 →
      (v1 ≠ 0) ∧
      S_X9_take_2 l G [(2009, 396), (0, 0), (0, 2)] h (fun z1 h2 =>
      (0 ≤ v2) ∧
      (v2 < 40) ∧
      (∀ h3, h3 = hset h2 (v1 + 8) v2 z1 →
      (∀ x5_4 : Int, x5_4 = 0 →
      JW K 224 [(2009, 396), (14, v1), (0, v2), (0, v3), (0, v4), (0, x5_4), (5000, 0)] [] h3))) E) ∧
    (v5 < (hv h (v1 + 7) v2) →
      (v1 ≠ 0) ∧
      S_X9_take_2 l G [(2009, 396), (0, (if v5 = 0 then (if v3 = 255 then 0 else 1 : Int) else 0 : Int)), (0, 1)] h (fun z5 h6 =>
      (0 ≤ (w32 ((w32 (8 * v2)) + v5))) ∧
      ((w32 ((w32 (8 * v2)) + v5)) < 320) ∧
      (∀ h7, h7 = hset h6 (v1 + 10) (w32 ((w32 (8 * v2)) + v5)) z5 →
      (∀ x5_8 : Int, x5_8 = w32 (v5 + 1) →
      JW K 158 [(2009, 396), (14, v1), (0, v2), (0, v3), (0, v4), (0, x5_8), (5000, 0)] [] h7))) E))) : JW K 158 [(2009, 396), (14, v1), (0, v2), (0, v3), (0, v4), (0, v5), (5000, 0)] [] h := by
  have e1 := ki.2.2.2.2.1
  have e2 := ki.2.2.2.2.2.1
  subst e1; subst e2
  exact run_ok (dia := [(142, 150), (183, 198)]) (cnr := [(19, 33, 47), (86, 116, 126), (234, 266, 290), (344, 364, 378), (568, 589, 603)]) (cuts := [(76, [2009, 14, 0, 0, 0, 0, 5000], []), (158, [2009, 14, 0, 0, 0, 0, 5000], []), (224, [2009, 14, 0, 0, 0, 0, 5000], []), (317, [2009, 14, 0, 0, 0, 0, 5000], []), (480, [2009, 14, 0, 0, 0, 0, 5000], []), (506, [2009, 14, 0, 0, 0, 0, 5000], [])]) ki.1 (pk_X9_readMethod ki hG) ok_X9_readMethod (by decide) 23 true _ _ _ _ H
theorem r_X9_readMethod_224 {K : JC} {l : Launch} {G : JG} {Q : Int → MH → Prop} {E : Nat → Int → MH → Prop} {h0 : MH} (ki : KI K l G yX9_readMethod cX9_readMethod 7 none [] 14 407 700 Q E h0) (hG : gO G = true) {v1 v2 v3 v4 v5 : Int} {h : MH} (H :
    ((v2 ≤ v5 →
      (v1 ≠ 0) ∧
      (v1 ≠ 0) ∧
      (0 ≤ v2) ∧
      (v2 < 40) ∧
      S_X9_take_2 l G [(2009, 396), (0, (hv h (v1 + 7) v2)), (0, 8)] h (fun z1 h2 =>
      (0 ≤ v2) ∧
      (v2 < 40) ∧
      (∀ h3, h3 = hset h2 (v1 + 9) v2 z1 →
      (∀ x5_4 : Int, x5_4 = 0 →
      JW K 317 [(2009, 396), (14, v1), (0, v2), (0, v3), (0, v4), (0, x5_4), (5000, 0)] [] h3))) E) ∧
    (v5 < v2 →
      ((¬ v3 = 255 → (v1 ≠ 0) ∧ (0 ≤ v5) ∧ (v5 < 40) ∧ (¬ (hv h (v1 + 5) v5) = 255 → (v1 ≠ 0) ∧ (0 ≤ v5) ∧ (v5 < 40) ∧ (v1 ≠ 0) ∧ (0 ≤ v2) ∧ v2 < 40))) ∧
      (((¬ v3 = 255 ∧ (¬ (hv h (v1 + 5) v5) = 255 ∧ (hv h (v1 + 6) v5) = (hv h (v1 + 6) v2))) →
        S_X9_areAlike l G [(14, v1), (0, v5), (0, v2)] h (fun z5 h6 =>
        ((¬ z5 = 0 →
          (∀ x5_7 : Int, x5_7 = w32 (v5 + 1) →
          JW K 224 [(2009, 396), (14, v1), (0, v2), (0, v3), (0, v4), (0, x5_7), (5000, 0)] [] h6)) ∧
        (z5 = 0 →
          (hz h6 + 1 ≤ LIMC) ∧
          (hs h6 + 7 ≤ LIMS) ∧
          (∀ h8, h8 = hnew h6 17 0 7 →
          S_X17_init l G [(2017, (hz h6 + 1)), (0, (w32 ((hv h8 396 9) - 1)))] h8 (fun _ h10 =>
          E 17 (hz h6 + 1) h10) E)))) E) ∧
      (¬ (¬ v3 = 255 ∧ (¬ (hv h (v1 + 5) v5) = 255 ∧ (hv h (v1 + 6) v5) = (hv h (v1 + 6) v2))) →
        (∀ x5_11 : Int, x5_11 = w32 (v5 + 1) →
        JW K 224 [(2009, 396), (14, v1), (0, v2), (0, v3), (0, v4), (0, x5_11), (5000, 0)] [] h)))))) : JW K 224 [(2009, 396), (14, v1), (0, v2), (0, v3), (0, v4), (0, v5), (5000, 0)] [] h := by
  have e1 := ki.2.2.2.2.1
  have e2 := ki.2.2.2.2.2.1
  subst e1; subst e2
  exact run_ok (dia := [(142, 150), (183, 198)]) (cnr := [(19, 33, 47), (86, 116, 126), (234, 266, 290), (344, 364, 378), (568, 589, 603)]) (cuts := [(76, [2009, 14, 0, 0, 0, 0, 5000], []), (158, [2009, 14, 0, 0, 0, 0, 5000], []), (224, [2009, 14, 0, 0, 0, 0, 5000], []), (317, [2009, 14, 0, 0, 0, 0, 5000], []), (480, [2009, 14, 0, 0, 0, 0, 5000], []), (506, [2009, 14, 0, 0, 0, 0, 5000], [])]) ki.1 (pk_X9_readMethod ki hG) ok_X9_readMethod (by decide) 20 true _ _ _ _ H
theorem r_X9_readMethod_317 {K : JC} {l : Launch} {G : JG} {Q : Int → MH → Prop} {E : Nat → Int → MH → Prop} {h0 : MH} (ki : KI K l G yX9_readMethod cX9_readMethod 7 none [] 14 407 700 Q E h0) (hG : gO G = true) {v1 v2 v3 v4 v5 : Int} {h : MH} (H :
    (v1 ≠ 0) ∧
    (0 ≤ v2) ∧
    (v2 < 40) ∧
    (((hv h (v1 + 9) v2) ≤ v5 →
      (v1 ≠ 0) ∧
      S_X9_take_2 l G [(2009, 396), (0, 0), (0, 8)] h (fun z1 h2 =>
      (0 ≤ v2) ∧
      (v2 < 40) ∧
      (∀ h3, h3 = hset h2 (v1 + 11) v2 z1 →
      (v1 ≠ 0) ∧
      S_X9_take_2 l G [(2009, 396), (0, 0), (0, 4)] h3 (fun z4 h5 =>
      (0 ≤ v2) ∧
      (v2 < 40) ∧
      (∀ h6, h6 = hset h5 (v1 + 12) v2 z4 →
      (v1 ≠ 0) ∧
      S_X9_take_2 l G [(2009, 396), (0, 1), (0, 120)] h6 (fun z7 h8 =>
      (0 ≤ v2) ∧
      (v2 < 40) ∧
      (∀ h9, h9 = hset h8 (v1 + 14) v2 z7 →
      (v1 ≠ 0) ∧
      (v1 ≠ 0) ∧
      (0 ≤ v2) ∧
      (v2 < 40) ∧
      (((w32 ((hv h9 v1 21) + (hv h9 (v1 + 14) v2))) ≤ 1500 →
        (v1 ≠ 0) ∧
        (v1 ≠ 0) ∧
        (0 ≤ v2) ∧
        (v2 < 40) ∧
        (∀ h10, h10 = hset h9 (v1 + 15) v2 (hv h9 v1 21) →
        (∀ x5_11 : Int, x5_11 = 0 →
        JW K 480 [(2009, 396), (14, v1), (0, v2), (0, v3), (0, v4), (0, x5_11), (5000, 0)] [] h10))) ∧
      (1500 < (w32 ((hv h9 v1 21) + (hv h9 (v1 + 14) v2))) →
        (hz h9 + 1 ≤ LIMC) ∧
        (hs h9 + 7 ≤ LIMS) ∧
        (∀ h12, h12 = hnew h9 17 0 7 →
        S_X17_init l G [(2017, (hz h9 + 1)), (0, (w32 ((hv h12 396 9) - 1)))] h12 (fun _ h14 =>
        E 17 (hz h9 + 1) h14) E))))) E)) E)) E) ∧
    (v5 < (hv h (v1 + 9) v2) →
      S_X9_take_2 l G [(2009, 396), (0, 0), (0, 1)] h (fun z15 h16 =>
      (∀ x6_17 : Int, x6_17 = z15 →
      (v1 ≠ 0) ∧
      (0 ≤ v2) ∧
      (v2 < 40) ∧
      ((v5 < (hv h16 (v1 + 7) v2) → (v1 ≠ 0) ∧ (0 ≤ (w32 ((w32 (8 * v2)) + v5))) ∧ (w32 ((w32 (8 * v2)) + v5)) < 320)) ∧
      (((v5 < (hv h16 (v1 + 7) v2) ∧ ¬ x6_17 = (hv h16 (v1 + 10) (w32 ((w32 (8 * v2)) + v5)))) →
        (hz h16 + 1 ≤ LIMC) ∧
        (hs h16 + 7 ≤ LIMS) ∧
        (∀ h18, h18 = hnew h16 17 0 7 →
        S_X17_init l G [(2017, (hz h16 + 1)), (0, (w32 ((hv h18 396 9) - 1)))] h18 (fun _ h20 =>
        E 17 (hz h16 + 1) h20) E)) ∧
      (¬ (v5 < (hv h16 (v1 + 7) v2) ∧ ¬ x6_17 = (hv h16 (v1 + 10) (w32 ((w32 (8 * v2)) + v5)))) →
        (v1 ≠ 0) ∧
        (0 ≤ (w32 ((w32 (8 * v2)) + v5))) ∧
        ((w32 ((w32 (8 * v2)) + v5)) < 320) ∧
        (∀ h21, h21 = hset h16 (v1 + 10) (w32 ((w32 (8 * v2)) + v5)) x6_17 →
        (∀ x5_22 : Int, x5_22 = w32 (v5 + 1) →
        JW K 317 [(2009, 396), (14, v1), (0, v2), (0, v3), (0, v4), (0, x5_22), (5000, 0)] [] h21)))))) E))) : JW K 317 [(2009, 396), (14, v1), (0, v2), (0, v3), (0, v4), (0, v5), (5000, 0)] [] h := by
  have e1 := ki.2.2.2.2.1
  have e2 := ki.2.2.2.2.2.1
  subst e1; subst e2
  exact run_ok (dia := [(142, 150), (183, 198)]) (cnr := [(19, 33, 47), (86, 116, 126), (234, 266, 290), (344, 364, 378), (568, 589, 603)]) (cuts := [(76, [2009, 14, 0, 0, 0, 0, 5000], []), (158, [2009, 14, 0, 0, 0, 0, 5000], []), (224, [2009, 14, 0, 0, 0, 0, 5000], []), (317, [2009, 14, 0, 0, 0, 0, 5000], []), (480, [2009, 14, 0, 0, 0, 0, 5000], []), (506, [2009, 14, 0, 0, 0, 0, 5000], [])]) ki.1 (pk_X9_readMethod ki hG) ok_X9_readMethod (by decide) 49 true _ _ _ _ H
theorem r_X9_readMethod_480 {K : JC} {l : Launch} {G : JG} {Q : Int → MH → Prop} {E : Nat → Int → MH → Prop} {h0 : MH} (ki : KI K l G yX9_readMethod cX9_readMethod 7 none [] 14 407 700 Q E h0) (hG : gO G = true) {v1 v2 v3 v4 v5 : Int} {h : MH} (H :
    (v1 ≠ 0) ∧
    (0 ≤ v2) ∧
    (v2 < 40) ∧
    (((hv h (v1 + 14) v2) ≤ v5 →
      (∀ x5_1 : Int, x5_1 = 0 →
      JW K 506 [(2009, 396), (14, v1), (0, v2), (0, v3), (0, v4), (0, x5_1), (5000, 0)] [] h)) ∧
    (v5 < (hv h (v1 + 14) v2) →
      S_X9_readInstruction l G [(2009, 396), (14, v1), (0, v2)] h (fun _ h3 =>
      (∀ x5_4 : Int, x5_4 = w32 (v5 + 1) →
      JW K 480 [(2009, 396), (14, v1), (0, v2), (0, v3), (0, v4), (0, x5_4), (5000, 0)] [] h3)) E))) : JW K 480 [(2009, 396), (14, v1), (0, v2), (0, v3), (0, v4), (0, v5), (5000, 0)] [] h := by
  have e1 := ki.2.2.2.2.1
  have e2 := ki.2.2.2.2.2.1
  subst e1; subst e2
  exact run_ok (dia := [(142, 150), (183, 198)]) (cnr := [(19, 33, 47), (86, 116, 126), (234, 266, 290), (344, 364, 378), (568, 589, 603)]) (cuts := [(76, [2009, 14, 0, 0, 0, 0, 5000], []), (158, [2009, 14, 0, 0, 0, 0, 5000], []), (224, [2009, 14, 0, 0, 0, 0, 5000], []), (317, [2009, 14, 0, 0, 0, 0, 5000], []), (480, [2009, 14, 0, 0, 0, 0, 5000], []), (506, [2009, 14, 0, 0, 0, 0, 5000], [])]) ki.1 (pk_X9_readMethod ki hG) ok_X9_readMethod (by decide) 14 true _ _ _ _ H
theorem r_X9_readMethod_506 {K : JC} {l : Launch} {G : JG} {Q : Int → MH → Prop} {E : Nat → Int → MH → Prop} {h0 : MH} (ki : KI K l G yX9_readMethod cX9_readMethod 7 none [] 14 407 700 Q E h0) (hG : gO G = true) {v1 v2 v3 v4 v5 : Int} {h : MH} (H :
    (v1 ≠ 0) ∧
    (0 ≤ v2) ∧
    (v2 < 40) ∧
    (((hv h (v1 + 12) v2) ≤ v5 →
      (v1 ≠ 0) ∧
      (0 ≤ v2) ∧
      (v2 < 40) ∧
      (∀ h1, h1 = hset h (v1 + 17) v2 (hv h 396 9) →
      Q 0 h1)) ∧
    (v5 < (hv h (v1 + 12) v2) →
      (∀ x6_2 : Int, x6_2 = (w32 ((w32 (16 * v2)) + (w32 (4 * v5)))) →
      (v1 ≠ 0) ∧
      S_X9_take l G [(2009, 396)] h (fun z3 h4 =>
      (0 ≤ x6_2) ∧
      (x6_2 < 640) ∧
      (∀ h5, h5 = hset h4 (v1 + 13) x6_2 z3 →
      (v1 ≠ 0) ∧
      S_X9_take l G [(2009, 396)] h5 (fun z6 h7 =>
      (0 ≤ (w32 (x6_2 + 1))) ∧
      ((w32 (x6_2 + 1)) < 640) ∧
      (∀ h8, h8 = hset h7 (v1 + 13) (w32 (x6_2 + 1)) z6 →
      (v1 ≠ 0) ∧
      (0 ≤ x6_2) ∧
      (x6_2 < 640) ∧
      (v1 ≠ 0) ∧
      (0 ≤ (w32 (x6_2 + 1))) ∧
      ((w32 (x6_2 + 1)) < 640) ∧
      (((hv h8 (v1 + 13) x6_2) < (hv h8 (v1 + 13) (w32 (x6_2 + 1))) → (v1 ≠ 0) ∧ (0 ≤ (w32 (x6_2 + 1))) ∧ ((w32 (x6_2 + 1)) < 640) ∧ (v1 ≠ 0) ∧ (0 ≤ v2) ∧ v2 < 40)) ∧
      ((((hv h8 (v1 + 13) (w32 (x6_2 + 1))) ≤ (hv h8 (v1 + 13) x6_2) ∨ (hv h8 (v1 + 14) v2) < (hv h8 (v1 + 13) (w32 (x6_2 + 1)))) →
        (hz h8 + 1 ≤ LIMC) ∧
        (hs h8 + 7 ≤ LIMS) ∧
        (∀ h9, h9 = hnew h8 17 0 7 →
        S_X17_init l G [(2017, (hz h8 + 1)), (0, (w32 ((hv h9 396 9) - 1)))] h9 (fun _ h11 =>
        E 17 (hz h8 + 1) h11) E)) ∧
      (¬ ((hv h8 (v1 + 13) (w32 (x6_2 + 1))) ≤ (hv h8 (v1 + 13) x6_2) ∨ (hv h8 (v1 + 14) v2) < (hv h8 (v1 + 13) (w32 (x6_2 + 1)))) →
        (v1 ≠ 0) ∧
        (v1 ≠ 0) ∧
        (0 ≤ v2) ∧
        (v2 < 40) ∧
        S_X9_take_2 l G [(2009, 396), (0, 0), (0, (w32 ((hv h8 (v1 + 14) v2) - 1)))] h8 (fun z12 h13 =>
        (0 ≤ (w32 (x6_2 + 2))) ∧
        ((w32 (x6_2 + 2)) < 640) ∧
        (∀ h14, h14 = hset h13 (v1 + 13) (w32 (x6_2 + 2)) z12 →
        (v1 ≠ 0) ∧
        (v1 ≠ 0) ∧
        S_X9_take_2 l G [(2009, 396), (0, 0), (0, (w32 (7 + (hv h14 v1 0))))] h14 (fun z15 h16 =>
        (0 ≤ (w32 (x6_2 + 3))) ∧
        ((w32 (x6_2 + 3)) < 640) ∧
        (∀ h17, h17 = hset h16 (v1 + 13) (w32 (x6_2 + 3)) z15 →
        (∀ x5_18 : Int, x5_18 = w32 (v5 + 1) →
        JW K 506 [(2009, 396), (14, v1), (0, v2), (0, v3), (0, v4), (0, x5_18), (5000, 0)] [] h17))) E)) E)))) E)) E)))) : JW K 506 [(2009, 396), (14, v1), (0, v2), (0, v3), (0, v4), (0, v5), (5000, 0)] [] h := by
  have e1 := ki.2.2.2.2.1
  have e2 := ki.2.2.2.2.2.1
  subst e1; subst e2
  exact run_ok (dia := [(142, 150), (183, 198)]) (cnr := [(19, 33, 47), (86, 116, 126), (234, 266, 290), (344, 364, 378), (568, 589, 603)]) (cuts := [(76, [2009, 14, 0, 0, 0, 0, 5000], []), (158, [2009, 14, 0, 0, 0, 0, 5000], []), (224, [2009, 14, 0, 0, 0, 0, 5000], []), (317, [2009, 14, 0, 0, 0, 0, 5000], []), (480, [2009, 14, 0, 0, 0, 0, 5000], []), (506, [2009, 14, 0, 0, 0, 0, 5000], [])]) ki.1 (pk_X9_readMethod ki hG) ok_X9_readMethod (by decide) 71 true _ _ _ _ H
abbrev k_X9_areAlike : List (Nat × List (Nat × Instr)) := [(39, [(0, .aload_n 0), (1, .getfield 275), (4, .iload_n 1), (5, .iaload), (6, .aload_n 0), (7, .getfield 275), (10, .iload_n 2), (11, .iaload), (12, .if_icmp .ne 22), (15, .aload_n 0), (16, .getfield 278), (19, .iload_n 1), (20, .iaload), (21, .aload_n 0), (22, .getfield 278), (25, .iload_n 2), (26, .iaload), (27, .if_icmp .ne 7), (30, .iconst 1), (31, .goto 4), (34, .iconst 0), (35, .istore_n 3), (36, .iconst 0), (37, .istore 4)]),
  (78, [(39, .iload 4), (41, .aload_n 0), (42, .getfield 275), (45, .iload_n 1), (46, .iaload), (47, .if_icmp .ge 46), (50, .iload_n 3), (51, .ifCond .eq 42), (54, .aload_n 0), (55, .getfield 281), (58, .bipush 8), (60, .iload_n 1), (61, .imul), (62, .iload 4), (64, .iadd), (65, .iaload), (66, .aload_n 0), (67, .getfield 281), (70, .bipush 8), (72, .iload_n 2), (73, .imul), (74, .iload 4), (76, .iadd), (77, .iaload)]),
  (103, [(78, .if_icmp .ne 7), (81, .iconst 1), (82, .goto 4), (85, .iconst 0), (86, .istore_n 3), (87, .iinc 4 1), (90, .goto (-51)), (93, .iload_n 3), (94, .ireturn)])]
theorem ok_X9_areAlike : CodeOK cX9_areAlike k_X9_areAlike := okw 0 (by decide +kernel) (okw 39 (by decide +kernel) (okw 78 (by decide +kernel) (okn)))
abbrev p_X9_areAlike (l : Launch) (G : JG) : JP := (true, [(275, 10, 9, 1040100, 7), (278, 10, 10, 1040100, 8), (281, 10, 12, 1320100, 10)], [], [], [], [], [], [], false, 2, [])
theorem pk_X9_areAlike {K : JC} {l : Launch} {G : JG} {Q : Int → MH → Prop} {E : Nat → Int → MH → Prop} {h0 : MH} (ki : KI K l G yX9_areAlike cX9_areAlike 5 (some .boolean) [] 4 150 2 Q E h0) (hG : gO G = true) : POK K RX9 (p_X9_areAlike l G) :=
  POKi (y := yX9_areAlike) ki hG (rfs rf_X9_ok (by decide +kernel)) fmz fmz fmz fmz fmz
  (pkE ki (by
    intro K e1 e2 e3 e4; subst e1; subst e2
    exact fmz)) (fun z => Bool.noConfusion z) rfl (pkP ki (by
    intro K e1 e2 e3 e4; subst e1; subst e2
    exact fmz))
theorem r_X9_areAlike_0 {K : JC} {l : Launch} {G : JG} {Q : Int → MH → Prop} {E : Nat → Int → MH → Prop} {h0 : MH} (ki : KI K l G yX9_areAlike cX9_areAlike 5 (some .boolean) [] 4 150 2 Q E h0) (hG : gO G = true) {v0 v1 v2 : Int} {h : MH} (H :
    (v0 ≠ 0) ∧
    (0 ≤ v1) ∧
    (v1 < 40) ∧
    (v0 ≠ 0) ∧
    (0 ≤ v2) ∧
    (v2 < 40) ∧
    (((hv h (v0 + 7) v1) = (hv h (v0 + 7) v2) → (v0 ≠ 0) ∧ (0 ≤ v1) ∧ (v1 < 40) ∧ (v0 ≠ 0) ∧ (0 ≤ v2) ∧ v2 < 40)) ∧
    (∀ x3_1 : Int, x3_1 = (if (hv h (v0 + 7) v1) = (hv h (v0 + 7) v2) then (if (hv h (v0 + 8) v1) = (hv h (v0 + 8) v2) then 1 else 0 : Int) else 0 : Int) →
    (∀ x4_2 : Int, x4_2 = 0 →
    JW K 39 [(14, v0), (0, v1), (0, v2), (0, x3_1), (0, x4_2)] [] h))) : JW K 0 [(14, v0), (0, v1), (0, v2), (5000, 0), (5000, 0)] [] h := by
  have e1 := ki.2.2.2.2.1
  have e2 := ki.2.2.2.2.2.1
  subst e1; subst e2
  exact run_ok (dia := [(12, 35), (78, 86)]) (cnr := [(47, 54, 93)]) (cuts := [(39, [14, 0, 0, 0, 0], [])]) ki.1 (pk_X9_areAlike ki hG) ok_X9_areAlike (by decide) 14 true _ _ _ _ H
theorem r_X9_areAlike_39 {K : JC} {l : Launch} {G : JG} {Q : Int → MH → Prop} {E : Nat → Int → MH → Prop} {h0 : MH} (ki : KI K l G yX9_areAlike cX9_areAlike 5 (some .boolean) [] 4 150 2 Q E h0) (hG : gO G = true) {v0 v1 v2 v3 v4 : Int} {h : MH} (H :
    (v0 ≠ 0) ∧
    (0 ≤ v1) ∧
    (v1 < 40) ∧
    (((v4 < (hv h (v0 + 7) v1) ∧ ¬ v3 = 0) →
      (v0 ≠ 0) ∧
      (0 ≤ (w32 ((w32 (8 * v1)) + v4))) ∧
      ((w32 ((w32 (8 * v1)) + v4)) < 320) ∧
      (v0 ≠ 0) ∧
      (0 ≤ (w32 ((w32 (8 * v2)) + v4))) ∧
      ((w32 ((w32 (8 * v2)) + v4)) < 320) ∧
      (∀ x3_1 : Int, x3_1 = (if (hv h (v0 + 10) (w32 ((w32 (8 * v1)) + v4))) = (hv h (v0 + 10) (w32 ((w32 (8 * v2)) + v4))) then 1 else 0 : Int) →
      (∀ x4_2 : Int, x4_2 = w32 (v4 + 1) →
      JW K 39 [(14, v0), (0, v1), (0, v2), (0, x3_1), (0, x4_2)] [] h))) ∧
    (¬ (v4 < (hv h (v0 + 7) v1) ∧ ¬ v3 = 0) →
      ((v3 = 0 ∨ v3 = 1) ∧ Q v3 h)))) : JW K 39 [(14, v0), (0, v1), (0, v2), (0, v3), (0, v4)] [] h := by
  have e1 := ki.2.2.2.2.1
  have e2 := ki.2.2.2.2.2.1
  subst e1; subst e2
  exact run_ok (dia := [(12, 35), (78, 86)]) (cnr := [(47, 54, 93)]) (cuts := [(39, [14, 0, 0, 0, 0], [])]) ki.1 (pk_X9_areAlike ki hG) ok_X9_areAlike (by decide) 28 true _ _ _ _ H
abbrev k_X9_readInstruction : List (Nat × List (Nat × Instr)) := [(49, [(0, .aload_n 1), (1, .getfield 309), (4, .istore_n 3), (5, .aload_n 0), (6, .getfield 238), (9, .istore 4), (11, .aload_n 0), (12, .iconst 0), (13, .bipush 36), (15, .invokevirtual 254), (18, .istore 5), (20, .iload 5), (22, .bipush 20), (24, .if_icmp .eq 10), (27, .iload 5), (29, .bipush 21), (31, .if_icmp .ne 45), (34, .aload_n 1), (35, .getfield 325), (38, .bipush 63), (40, .if_icmp .ne 13), (43, .new 244), (46, .dup), (47, .iload 4)]),
  (92, [(49, .invokespecial 246), (52, .athrow), (53, .aload_n 1), (54, .getfield 327), (57, .iload_n 3), (58, .aload_n 1), (59, .getfield 325), (62, .iastore), (63, .aload_n 1), (64, .dup), (65, .getfield 325), (68, .iconst 1), (69, .iadd), (70, .putfield 325), (73, .goto 10), (76, .aload_n 1), (77, .getfield 327), (80, .iload_n 3), (81, .iconst 0), (82, .iastore), (83, .sipush 255), (86, .istore 6), (88, .aload_n 1), (89, .getfield 297)]),
  (139, [(92, .iload_n 2), (93, .iaload), (94, .istore 7), (96, .iload 5), (98, .iconst 2), (99, .if_icmp .eq 23), (102, .iload 5), (104, .iconst 3), (105, .if_icmp .eq 17), (108, .iload 5), (110, .bipush 18), (112, .if_icmp .eq 10), (115, .iload 5), (117, .bipush 19), (119, .if_icmp .ne 9), (122, .iload 7), (124, .iconst 1), (125, .isub), (126, .istore 6), (128, .iload 5), (130, .bipush 13), (132, .if_icmp .eq 24), (135, .iload 5), (137, .bipush 14)]),
  (192, [(139, .if_icmp .eq 17), (142, .iload 5), (144, .bipush 34), (146, .if_icmp .eq 10), (149, .iload 5), (151, .bipush 35), (153, .if_icmp .ne 7), (156, .bipush 7), (158, .istore 6), (160, .iload 5), (162, .bipush 16), (164, .if_icmp .ne 6), (167, .iconst 5), (168, .istore 6), (170, .iload 5), (172, .bipush 17), (174, .if_icmp .ne 7), (177, .bipush 47), (179, .istore 6), (181, .iload 5), (183, .bipush 20), (185, .if_icmp .eq 24), (188, .iload 5), (190, .bipush 25)]),
  (244, [(192, .if_icmp .eq 17), (195, .iload 5), (197, .bipush 26), (199, .if_icmp .eq 10), (202, .iload 5), (204, .bipush 33), (206, .if_icmp .ne 12), (209, .bipush 7), (211, .aload_n 1), (212, .getfield 257), (215, .iadd), (216, .istore 6), (218, .iload 5), (220, .bipush 21), (222, .if_icmp .eq 17), (225, .iload 5), (227, .bipush 23), (229, .if_icmp .eq 10), (232, .iload 5), (234, .bipush 24), (236, .if_icmp .ne 6), (239, .iconst 1), (240, .istore 6), (242, .iload 5)]),
  (293, [(244, .bipush 27), (246, .if_icmp .eq 10), (249, .iload 5), (251, .bipush 28), (253, .if_icmp .ne 11), (256, .aload_n 1), (257, .getfield 260), (260, .iconst 1), (261, .isub), (262, .istore 6), (264, .iload 5), (266, .bipush 30), (268, .if_icmp .eq 10), (271, .iload 5), (273, .bipush 36), (275, .if_icmp .ne 7), (278, .bipush 15), (280, .istore 6), (282, .aload_n 0), (283, .iconst 0), (284, .iload 6), (286, .invokevirtual 254), (289, .istore 8), (291, .iload 5)]),
  (339, [(293, .bipush 17), (295, .if_icmp .ne 27), (298, .iload 8), (300, .bipush 8), (302, .irem), (303, .iload 7), (305, .if_icmp .lt 17), (308, .new 244), (311, .dup), (312, .aload_n 0), (313, .getfield 238), (316, .iconst 1), (317, .isub), (318, .invokespecial 246), (321, .athrow), (322, .aload_n 0), (323, .invokevirtual 330), (326, .istore 9), (328, .iload 5), (330, .bipush 19), (332, .if_icmp .ne 21), (335, .iload 9), (337, .i2l), (338, .lconst 0)]),
  (386, [(339, .bipush 7), (341, .aload_n 1), (342, .getfield 257), (345, .iadd), (346, .i2l), (347, .invokestatic 231), (350, .goto 66), (353, .iload 5), (355, .bipush 29), (357, .if_icmp .ne 20), (360, .iload 9), (362, .i2l), (363, .lconst 0), (364, .aload_n 1), (365, .getfield 333), (368, .iconst 1), (369, .isub), (370, .i2l), (371, .invokestatic 231), (374, .goto 42), (377, .iload 5), (379, .bipush 25), (381, .if_icmp .eq 10), (384, .iload 5)]),
  (431, [(386, .bipush 26), (388, .if_icmp .ne 23), (391, .iload 9), (393, .i2l), (394, .lconst 0), (395, .aload_n 1), (396, .getfield 269), (399, .iload 8), (401, .iaload), (402, .iconst 1), (403, .isub), (404, .i2l), (405, .invokestatic 231), (408, .ifCond .eq 7), (411, .iconst 1), (412, .goto 4), (415, .iconst 0), (416, .istore 10), (418, .iload 10), (420, .ifCond .ne 17), (423, .new 244), (426, .dup), (427, .aload_n 0), (428, .getfield 238)]),
  (477, [(431, .iconst 2), (432, .isub), (433, .invokespecial 246), (436, .athrow), (437, .aload_n 0), (438, .invokevirtual 330), (441, .istore 11), (443, .iload 5), (445, .bipush 15), (447, .if_icmp .lt 14), (450, .iload 5), (452, .bipush 19), (454, .if_icmp .gt 7), (457, .iconst 1), (458, .goto 4), (461, .iconst 0), (462, .istore 12), (464, .iload 12), (466, .ifCond .eq 22), (469, .iload 11), (471, .i2l), (472, .lconst 0), (473, .aload_n 1), (474, .getfield 306)]),
  (521, [(477, .iload_n 2), (478, .iaload), (479, .iconst 1), (480, .isub), (481, .i2l), (482, .invokestatic 231), (485, .ifCond .eq 17), (488, .iload 5), (490, .bipush 13), (492, .if_icmp .ne 24), (495, .iload 11), (497, .iload 9), (499, .if_icmp .ge 17), (502, .new 244), (505, .dup), (506, .aload_n 0), (507, .getfield 238), (510, .iconst 2), (511, .isub), (512, .invokespecial 246), (515, .athrow), (516, .aload_n 1), (517, .getfield 327), (520, .iload_n 3)]),
  (564, [(521, .iaload), (522, .ifCond .le 30), (525, .aload_n 1), (526, .getfield 336), (529, .aload_n 1), (530, .getfield 327), (533, .iload_n 3), (534, .iaload), (535, .iload 5), (537, .bipush 20), (539, .if_icmp .ne 8), (542, .iload 8), (544, .goto 7), (547, .iconst (-1)), (548, .iload 8), (550, .isub), (551, .iastore), (552, .aload_n 1), (553, .getfield 339), (556, .iload_n 3), (557, .iload 5), (559, .iastore), (560, .aload_n 1), (561, .getfield 342)]),
  (600, [(564, .iload_n 3), (565, .iload 8), (567, .iastore), (568, .aload_n 1), (569, .getfield 345), (572, .iload_n 3), (573, .iload 9), (575, .iastore), (576, .aload_n 1), (577, .getfield 348), (580, .iload_n 3), (581, .iload 11), (583, .iastore), (584, .aload_n 1), (585, .getfield 351), (588, .iload_n 3), (589, .iload 4), (591, .iastore), (592, .aload_n 1), (593, .getfield 354), (596, .iload_n 3), (597, .iload_n 2), (598, .iastore), (599, .aload_n 1)]),
  (618, [(600, .dup), (601, .getfield 309), (604, .iconst 1), (605, .iadd), (606, .putfield 309), (609, .return_)])]
theorem ok_X9_readInstruction : CodeOK cX9_readInstruction k_X9_readInstruction := okw 0 (by decide +kernel) (okw 49 (by decide +kernel) (okw 92 (by decide +kernel) (okw 139 (by decide +kernel) (okw 192 (by decide +kernel) (okw 244 (by decide +kernel) (okw 293 (by decide +kernel) (okw 339 (by decide +kernel) (okw 386 (by decide +kernel) (okw 431 (by decide +kernel) (okw 477 (by decide +kernel) (okw 521 (by decide +kernel) (okw 564 (by decide +kernel) (okw 600 (by decide +kernel) (okn))))))))))))))
abbrev p_X9_readInstruction (l : Launch) (G : JG) : JP := (true, [(238, 9, 9, 0, 0), (257, 10, 0, 0, 0), (260, 10, 1, 0, 0), (269, 10, 4, 1024100, 3), (297, 10, 11, 1040100, 9), (306, 10, 16, 1040100, 14), (309, 10, 21, 0, 0), (325, 10, 30, 0, 0), (327, 10, 28, 2500100, 25), (333, 10, 6, 0, 0), (336, 10, 29, 1063100, 26), (339, 10, 22, 2500100, 19), (342, 10, 23, 2500100, 20), (345, 10, 24, 2500100, 21), (348, 10, 25, 2500100, 22), (351, 10, 26, 2500100, 23), (354, 10, 27, 2500100, 24)], [], [], [(309, 10, 21, 0), (325, 10, 30, 0)], [(244, 17, 7)], [], [(246, 2, [0, 2017], 700, S_X17_init l G), (254, 1, [0, 0, 2009], 0, S_X9_take_2 l G), (330, 1, [2009], 0, S_X9_takeTwo l G)], false, 700, [(231, e_X9_in)])
theorem pk_X9_readInstruction {K : JC} {l : Launch} {G : JG} {Q : Int → MH → Prop} {E : Nat → Int → MH → Prop} {h0 : MH} (ki : KI K l G yX9_readInstruction cX9_readInstruction 13 none [] 13 375 700 Q E h0) (hG : gO G = true) : POK K RX9 (p_X9_readInstruction l G) :=
  POKi (y := yX9_readInstruction) ki hG (rfs rf_X9_ok (by decide +kernel)) fmz fmz (rps rp_X9_ok (by decide +kernel)) (subs (by decide +kernel) rn_X9_ok) fmz
  (pkE ki (by
    intro K e1 e2 e3 e4; subst e1; subst e2
    exact fmE (ceI e3 e4 yl_X17_init ⟨rfl, q2474, Or.inl q2473, _, _, q2475⟩ rfl) (fmE (ceV 9 e3 e4 yl_X9_take_2 ⟨by decide, ⟨_, _, rfl⟩, q2489, qs105, q2487⟩ rfl) (fmE (ceV 9 e3 e4 yl_X9_takeTwo ⟨by decide, ⟨_, _, rfl⟩, q2504, qs108, q2502⟩ rfl) (fmz))))) (fun z => Bool.noConfusion z) rfl (pkP ki (by
    intro K e1 e2 e3 e4; subst e1; subst e2
    exact fmP (pe_X9_in hG e3 e4 ⟨q2454, Or.inl q2453⟩ rfl rfl) (fmz)))
theorem r_X9_readInstruction_0 {K : JC} {l : Launch} {G : JG} {Q : Int → MH → Prop} {E : Nat → Int → MH → Prop} {h0 : MH} (ki : KI K l G yX9_readInstruction cX9_readInstruction 13 none [] 13 375 700 Q E h0) (hG : gO G = true) {v1 v2 : Int} {h : MH} (H :
    (v1 ≠ 0) ∧
    (∀ x3_1 : Int, x3_1 = (hv h v1 21) →
    (∀ x4_2 : Int, x4_2 = (hv h 396 9) →
    S_X9_take_2 l G [(2009, 396), (0, 0), (0, 36)] h (fun z3 h4 =>
    (∀ x5_5 : Int, x5_5 = z3 →
    (((x5_5 = 20 ∨ x5_5 = 21) →
      (v1 ≠ 0) ∧
      ((¬ (hv h4 v1 30) = 63 →
        (v1 ≠ 0) ∧
        (v1 ≠ 0) ∧
        (0 ≤ x3_1) ∧
        (x3_1 < 1500) ∧
        (∀ h6, h6 = hset h4 (v1 + 25) x3_1 (hv h4 v1 30) →
        (v1 ≠ 0) ∧
        (v1 ≠ 0) ∧
        (∀ h7, h7 = hset h6 v1 30 (w32 ((hv h6 v1 30) + 1)) →
        JW K 83 [(2009, 396), (14, v1), (0, v2), (0, x3_1), (0, x4_2), (0, x5_5), (5000, 0), (5000, 0), (5000, 0), (5000, 0), (5000, 0), (5000, 0), (5000, 0)] [] h7))) ∧
      ((hv h4 v1 30) = 63 →
        (hz h4 + 1 ≤ LIMC) ∧
        (hs h4 + 7 ≤ LIMS) ∧
        (∀ h8, h8 = hnew h4 17 0 7 →
        S_X17_init l G [(2017, (hz h4 + 1)), (0, x4_2)] h8 (fun _ h10 =>
        E 17 (hz h4 + 1) h10) E)))) ∧
    (¬ (x5_5 = 20 ∨ x5_5 = 21) →
      (v1 ≠ 0) ∧
      (0 ≤ x3_1) ∧
      (x3_1 < 1500) ∧
      (∀ h11, h11 = hset h4 (v1 + 25) x3_1 0 →
      JW K 83 [(2009, 396), (14, v1), (0, v2), (0, x3_1), (0, x4_2), (0, x5_5), (5000, 0), (5000, 0), (5000, 0), (5000, 0), (5000, 0), (5000, 0), (5000, 0)] [] h11))))) E))) : JW K 0 [(2009, 396), (14, v1), (0, v2), (5000, 0), (5000, 0), (5000, 0), (5000, 0), (5000, 0), (5000, 0), (5000, 0), (5000, 0), (5000, 0), (5000, 0)] [] h := by
  have e1 := ki.2.2.2.2.1
  have e2 := ki.2.2.2.2.2.1
  subst e1; subst e2
  exact run_ok (dia := [(332, 416), (447, 462), (539, 551)]) (cnr := [(24, 34, 76), (99, 122, 128), (132, 156, 160), (185, 209, 218), (222, 239, 242), (246, 256, 264), (268, 278, 282), (295, 308, 322), (466, 488, 502), (492, 502, 516)]) (cuts := [(83, [2009, 14, 0, 0, 0, 0, 5000, 5000, 5000, 5000, 5000, 5000, 5000], []), (128, [2009, 14, 0, 0, 0, 0, 0, 0, 5000, 5000, 5000, 5000, 5000], []), (160, [2009, 14, 0, 0, 0, 0, 0, 0, 5000, 5000, 5000, 5000, 5000], []), (170, [2009, 14, 0, 0, 0, 0, 0, 0, 5000, 5000, 5000, 5000, 5000], []), (181, [2009, 14, 0, 0, 0, 0, 0, 0, 5000, 5000, 5000, 5000, 5000], []), (218, [2009, 14, 0, 0, 0, 0, 0, 0, 5000, 5000, 5000, 5000, 5000], []), (242, [2009, 14, 0, 0, 0, 0, 0, 0, 5000, 5000, 5000, 5000, 5000], []), (264, [2009, 14, 0, 0, 0, 0, 0, 0, 5000, 5000, 5000, 5000, 5000], []), (282, [2009, 14, 0, 0, 0, 0, 0, 0, 5000, 5000, 5000, 5000, 5000], []), (322, [2009, 14, 0, 0, 0, 0, 0, 0, 0, 5000, 5000, 5000, 5000], []), (516, [2009, 14, 0, 0, 0, 0, 0, 0, 0, 0, 0, 0, 0], []), (552, [2009, 14, 0, 0, 0, 0, 0, 0, 0, 0, 0, 0, 0], [])]) ki.1 (pk_X9_readInstruction ki hG) ok_X9_readInstruction (by decide) 33 true _ _ _ _ H
theorem r_X9_readInstruction_83 {K : JC} {l : Launch} {G : JG} {Q : Int → MH → Prop} {E : Nat → Int → MH → Prop} {h0 : MH} (ki : KI K l G yX9_readInstruction cX9_readInstruction 13 none [] 13 375 700 Q E h0) (hG : gO G = true) {v1 v2 v3 v4 v5 : Int} {h : MH} (H :
    (∀ x6_1 : Int, x6_1 = 255 →
    (v1 ≠ 0) ∧
    (0 ≤ v2) ∧
    (v2 < 40) ∧
    (∀ x7_2 : Int, x7_2 = (hv h (v1 + 9) v2) →
    (((v5 = 2 ∨ (v5 = 3 ∨ (v5 = 18 ∨ v5 = 19))) →
      (∀ x6_3 : Int, x6_3 = (w32 (x7_2 - 1)) →
      JW K 128 [(2009, 396), (14, v1), (0, v2), (0, v3), (0, v4), (0, v5), (0, x6_3), (0, x7_2), (5000, 0), (5000, 0), (5000, 0), (5000, 0), (5000, 0)] [] h)) ∧
    (¬ (v5 = 2 ∨ (v5 = 3 ∨ (v5 = 18 ∨ v5 = 19))) →
      JW K 128 [(2009, 396), (14, v1), (0, v2), (0, v3), (0, v4), (0, v5), (0, x6_1), (0, x7_2), (5000, 0), (5000, 0), (5000, 0), (5000, 0), (5000, 0)] [] h))))) : JW K 83 [(2009, 396), (14, v1), (0, v2), (0, v3), (0, v4), (0, v5), (5000, 0), (5000, 0), (5000, 0), (5000, 0), (5000, 0), (5000, 0), (5000, 0)] [] h := by
  have e1 := ki.2.2.2.2.1
  have e2 := ki.2.2.2.2.2.1
  subst e1; subst e2
  exact run_ok (dia := [(332, 416), (447, 462), (539, 551)]) (cnr := [(24, 34, 76), (99, 122, 128), (132, 156, 160), (185, 209, 218), (222, 239, 242), (246, 256, 264), (268, 278, 282), (295, 308, 322), (466, 488, 502), (492, 502, 516)]) (cuts := [(83, [2009, 14, 0, 0, 0, 0, 5000, 5000, 5000, 5000, 5000, 5000, 5000], []), (128, [2009, 14, 0, 0, 0, 0, 0, 0, 5000, 5000, 5000, 5000, 5000], []), (160, [2009, 14, 0, 0, 0, 0, 0, 0, 5000, 5000, 5000, 5000, 5000], []), (170, [2009, 14, 0, 0, 0, 0, 0, 0, 5000, 5000, 5000, 5000, 5000], []), (181, [2009, 14, 0, 0, 0, 0, 0, 0, 5000, 5000, 5000, 5000, 5000], []), (218, [2009, 14, 0, 0, 0, 0, 0, 0, 5000, 5000, 5000, 5000, 5000], []), (242, [2009, 14, 0, 0, 0, 0, 0, 0, 5000, 5000, 5000, 5000, 5000], []), (264, [2009, 14, 0, 0, 0, 0, 0, 0, 5000, 5000, 5000, 5000, 5000], []), (282, [2009, 14, 0, 0, 0, 0, 0, 0, 5000, 5000, 5000, 5000, 5000], []), (322, [2009, 14, 0, 0, 0, 0, 0, 0, 0, 5000, 5000, 5000, 5000], []), (516, [2009, 14, 0, 0, 0, 0, 0, 0, 0, 0, 0, 0, 0], []), (552, [2009, 14, 0, 0, 0, 0, 0, 0, 0, 0, 0, 0, 0], [])]) ki.1 (pk_X9_readInstruction ki hG) ok_X9_readInstruction (by decide) 16 true _ _ _ _ H
theorem r_X9_readInstruction_128 {K : JC} {l : Launch} {G : JG} {Q : Int → MH → Prop} {E : Nat → Int → MH → Prop} {h0 : MH} (ki : KI K l G yX9_readInstruction cX9_readInstruction 13 none [] 13 375 700 Q E h0) (hG : gO G = true) {v1 v2 v3 v4 v5 v6 v7 : Int} {h : MH} (H :
    (((v5 = 13 ∨ (v5 = 14 ∨ (v5 = 34 ∨ v5 = 35))) →
      (∀ x6_1 : Int, x6_1 = 7 →
      JW K 160 [(2009, 396), (14, v1), (0, v2), (0, v3), (0, v4), (0, v5), (0, x6_1), (0, v7), (5000, 0), (5000, 0), (5000, 0), (5000, 0), (5000, 0)] [] h)) ∧
    (¬ (v5 = 13 ∨ (v5 = 14 ∨ (v5 = 34 ∨ v5 = 35))) →
      JW K 160 [(2009, 396), (14, v1), (0, v2), (0, v3), (0, v4), (0, v5), (0, v6), (0, v7), (5000, 0), (5000, 0), (5000, 0), (5000, 0), (5000, 0)] [] h))) : JW K 128 [(2009, 396), (14, v1), (0, v2), (0, v3), (0, v4), (0, v5), (0, v6), (0, v7), (5000, 0), (5000, 0), (5000, 0), (5000, 0), (5000, 0)] [] h := by
  have e1 := ki.2.2.2.2.1
  have e2 := ki.2.2.2.2.2.1
  subst e1; subst e2
  exact run_ok (dia := [(332, 416), (447, 462), (539, 551)]) (cnr := [(24, 34, 76), (99, 122, 128), (132, 156, 160), (185, 209, 218), (222, 239, 242), (246, 256, 264), (268, 278, 282), (295, 308, 322), (466, 488, 502), (492, 502, 516)]) (cuts := [(83, [2009, 14, 0, 0, 0, 0, 5000, 5000, 5000, 5000, 5000, 5000, 5000], []), (128, [2009, 14, 0, 0, 0, 0, 0, 0, 5000, 5000, 5000, 5000, 5000], []), (160, [2009, 14, 0, 0, 0, 0, 0, 0, 5000, 5000, 5000, 5000, 5000], []), (170, [2009, 14, 0, 0, 0, 0, 0, 0, 5000, 5000, 5000, 5000, 5000], []), (181, [2009, 14, 0, 0, 0, 0, 0, 0, 5000, 5000, 5000, 5000, 5000], []), (218, [2009, 14, 0, 0, 0, 0, 0, 0, 5000, 5000, 5000, 5000, 5000], []), (242, [2009, 14, 0, 0, 0, 0, 0, 0, 5000, 5000, 5000, 5000, 5000], []), (264, [2009, 14, 0, 0, 0, 0, 0, 0, 5000, 5000, 5000, 5000, 5000], []), (282, [2009, 14, 0, 0, 0, 0, 0, 0, 5000, 5000, 5000, 5000, 5000], []), (322, [2009, 14, 0, 0, 0, 0, 0, 0, 0, 5000, 5000, 5000, 5000], []), (516, [2009, 14, 0, 0, 0, 0, 0, 0, 0, 0, 0, 0, 0], []), (552, [2009, 14, 0, 0, 0, 0, 0, 0, 0, 0, 0, 0, 0], [])]) ki.1 (pk_X9_readInstruction ki hG) ok_X9_readInstruction (by decide) 7 true _ _ _ _ H
theorem r_X9_readInstruction_160 {K : JC} {l : Launch} {G : JG} {Q : Int → MH → Prop} {E : Nat → Int → MH → Prop} {h0 : MH} (ki : KI K l G yX9_readInstruction cX9_readInstruction 13 none [] 13 375 700 Q E h0) (hG : gO G = true) {v1 v2 v3 v4 v5 v6 v7 : Int} {h : MH} (H :
    ((¬ v5 = 16 →
      JW K 170 [(2009, 396), (14, v1), (0, v2), (0, v3), (0, v4), (0, v5), (0, v6), (0, v7), (5000, 0), (5000, 0), (5000, 0), (5000, 0), (5000, 0)] [] h) ∧
    (v5 = 16 →
      (∀ x6_1 : Int, x6_1 = 5 →
      JW K 170 [(2009, 396), (14, v1), (0, v2), (0, v3), (0, v4), (0, v5), (0, x6_1), (0, v7), (5000, 0), (5000, 0), (5000, 0), (5000, 0), (5000, 0)] [] h)))) : JW K 160 [(2009, 396), (14, v1), (0, v2), (0, v3), (0, v4), (0, v5), (0, v6), (0, v7), (5000, 0), (5000, 0), (5000, 0), (5000, 0), (5000, 0)] [] h := by
  have e1 := ki.2.2.2.2.1
  have e2 := ki.2.2.2.2.2.1
  subst e1; subst e2
  exact run_ok (dia := [(332, 416), (447, 462), (539, 551)]) (cnr := [(24, 34, 76), (99, 122, 128), (132, 156, 160), (185, 209, 218), (222, 239, 242), (246, 256, 264), (268, 278, 282), (295, 308, 322), (466, 488, 502), (492, 502, 516)]) (cuts := [(83, [2009, 14, 0, 0, 0, 0, 5000, 5000, 5000, 5000, 5000, 5000, 5000], []), (128, [2009, 14, 0, 0, 0, 0, 0, 0, 5000, 5000, 5000, 5000, 5000], []), (160, [2009, 14, 0, 0, 0, 0, 0, 0, 5000, 5000, 5000, 5000, 5000], []), (170, [2009, 14, 0, 0, 0, 0, 0, 0, 5000, 5000, 5000, 5000, 5000], []), (181, [2009, 14, 0, 0, 0, 0, 0, 0, 5000, 5000, 5000, 5000, 5000], []), (218, [2009, 14, 0, 0, 0, 0, 0, 0, 5000, 5000, 5000, 5000, 5000], []), (242, [2009, 14, 0, 0, 0, 0, 0, 0, 5000, 5000, 5000, 5000, 5000], []), (264, [2009, 14, 0, 0, 0, 0, 0, 0, 5000, 5000, 5000, 5000, 5000], []), (282, [2009, 14, 0, 0, 0, 0, 0, 0, 5000, 5000, 5000, 5000, 5000], []), (322, [2009, 14, 0, 0, 0, 0, 0, 0, 0, 5000, 5000, 5000, 5000], []), (516, [2009, 14, 0, 0, 0, 0, 0, 0, 0, 0, 0, 0, 0], []), (552, [2009, 14, 0, 0, 0, 0, 0, 0, 0, 0, 0, 0, 0], [])]) ki.1 (pk_X9_readInstruction ki hG) ok_X9_readInstruction (by decide) 7 true _ _ _ _ H
theorem r_X9_readInstruction_170 {K : JC} {l : Launch} {G : JG} {Q : Int → MH → Prop} {E : Nat → Int → MH → Prop} {h0 : MH} (ki : KI K l G yX9_readInstruction cX9_readInstruction 13 none [] 13 375 700 Q E h0) (hG : gO G = true) {v1 v2 v3 v4 v5 v6 v7 : Int} {h : MH} (H :
    ((¬ v5 = 17 →
      JW K 181 [(2009, 396), (14, v1), (0, v2), (0, v3), (0, v4), (0, v5), (0, v6), (0, v7), (5000, 0), (5000, 0), (5000, 0), (5000, 0), (5000, 0)] [] h) ∧
    (v5 = 17 →
      (∀ x6_1 : Int, x6_1 = 47 →
      JW K 181 [(2009, 396), (14, v1), (0, v2), (0, v3), (0, v4), (0, v5), (0, x6_1), (0, v7), (5000, 0), (5000, 0), (5000, 0), (5000, 0), (5000, 0)] [] h)))) : JW K 170 [(2009, 396), (14, v1), (0, v2), (0, v3), (0, v4), (0, v5), (0, v6), (0, v7), (5000, 0), (5000, 0), (5000, 0), (5000, 0), (5000, 0)] [] h := by
  have e1 := ki.2.2.2.2.1
  have e2 := ki.2.2.2.2.2.1
  subst e1; subst e2
  exact run_ok (dia := [(332, 416), (447, 462), (539, 551)]) (cnr := [(24, 34, 76), (99, 122, 128), (132, 156, 160), (185, 209, 218), (222, 239, 242), (246, 256, 264), (268, 278, 282), (295, 308, 322), (466, 488, 502), (492, 502, 516)]) (cuts := [(83, [2009, 14, 0, 0, 0, 0, 5000, 5000, 5000, 5000, 5000, 5000, 5000], []), (128, [2009, 14, 0, 0, 0, 0, 0, 0, 5000, 5000, 5000, 5000, 5000], []), (160, [2009, 14, 0, 0, 0, 0, 0, 0, 5000, 5000, 5000, 5000, 5000], []), (170, [2009, 14, 0, 0, 0, 0, 0, 0, 5000, 5000, 5000, 5000, 5000], []), (181, [2009, 14, 0, 0, 0, 0, 0, 0, 5000, 5000, 5000, 5000, 5000], []), (218, [2009, 14, 0, 0, 0, 0, 0, 0, 5000, 5000, 5000, 5000, 5000], []), (242, [2009, 14, 0, 0, 0, 0, 0, 0, 5000, 5000, 5000, 5000, 5000], []), (264, [2009, 14, 0, 0, 0, 0, 0, 0, 5000, 5000, 5000, 5000, 5000], []), (282, [2009, 14, 0, 0, 0, 0, 0, 0, 5000, 5000, 5000, 5000, 5000], []), (322, [2009, 14, 0, 0, 0, 0, 0, 0, 0, 5000, 5000, 5000, 5000], []), (516, [2009, 14, 0, 0, 0, 0, 0, 0, 0, 0, 0, 0, 0], []), (552, [2009, 14, 0, 0, 0, 0, 0, 0, 0, 0, 0, 0, 0], [])]) ki.1 (pk_X9_readInstruction ki hG) ok_X9_readInstruction (by decide) 7 true _ _ _ _ H
theorem r_X9_readInstruction_181 {K : JC} {l : Launch} {G : JG} {Q : Int → MH → Prop} {E : Nat → Int → MH → Prop} {h0 : MH} (ki : KI K l G yX9_readInstruction cX9_readInstruction 13 none [] 13 375 700 Q E h0) (hG : gO G = true) {v1 v2 v3 v4 v5 v6 v7 : Int} {h : MH} (H :
    (((v5 = 20 ∨ (v5 = 25 ∨ (v5 = 26 ∨ v5 = 33))) →
      (v1 ≠ 0) ∧
      (∀ x6_1 : Int, x6_1 = (w32 (7 + (hv h v1 0))) →
      JW K 218 [(2009, 396), (14, v1), (0, v2), (0, v3), (0, v4), (0, v5), (0, x6_1), (0, v7), (5000, 0), (5000, 0), (5000, 0), (5000, 0), (5000, 0)] [] h)) ∧
    (¬ (v5 = 20 ∨ (v5 = 25 ∨ (v5 = 26 ∨ v5 = 33))) →
      JW K 218 [(2009, 396), (14, v1), (0, v2), (0, v3), (0, v4), (0, v5), (0, v6), (0, v7), (5000, 0), (5000, 0), (5000, 0), (5000, 0), (5000, 0)] [] h))) : JW K 181 [(2009, 396), (14, v1), (0, v2), (0, v3), (0, v4), (0, v5), (0, v6), (0, v7), (5000, 0), (5000, 0), (5000, 0), (5000, 0), (5000, 0)] [] h := by
  have e1 := ki.2.2.2.2.1
  have e2 := ki.2.2.2.2.2.1
  subst e1; subst e2
  exact run_ok (dia := [(332, 416), (447, 462), (539, 551)]) (cnr := [(24, 34, 76), (99, 122, 128), (132, 156, 160), (185, 209, 218), (222, 239, 242), (246, 256, 264), (268, 278, 282), (295, 308, 322), (466, 488, 502), (492, 502, 516)]) (cuts := [(83, [2009, 14, 0, 0, 0, 0, 5000, 5000, 5000, 5000, 5000, 5000, 5000], []), (128, [2009, 14, 0, 0, 0, 0, 0, 0, 5000, 5000, 5000, 5000, 5000], []), (160, [2009, 14, 0, 0, 0, 0, 0, 0, 5000, 5000, 5000, 5000, 5000], []), (170, [2009, 14, 0, 0, 0, 0, 0, 0, 5000, 5000, 5000, 5000, 5000], []), (181, [2009, 14, 0, 0, 0, 0, 0, 0, 5000, 5000, 5000, 5000, 5000], []), (218, [2009, 14, 0, 0, 0, 0, 0, 0, 5000, 5000, 5000, 5000, 5000], []), (242, [2009, 14, 0, 0, 0, 0, 0, 0, 5000, 5000, 5000, 5000, 5000], []), (264, [2009, 14, 0, 0, 0, 0, 0, 0, 5000, 5000, 5000, 5000, 5000], []), (282, [2009, 14, 0, 0, 0, 0, 0, 0, 5000, 5000, 5000, 5000, 5000], []), (322, [2009, 14, 0, 0, 0, 0, 0, 0, 0, 5000, 5000, 5000, 5000], []), (516, [2009, 14, 0, 0, 0, 0, 0, 0, 0, 0, 0, 0, 0], []), (552, [2009, 14, 0, 0, 0, 0, 0, 0, 0, 0, 0, 0, 0], [])]) ki.1 (pk_X9_readInstruction ki hG) ok_X9_readInstruction (by decide) 10 true _ _ _ _ H
theorem r_X9_readInstruction_218 {K : JC} {l : Launch} {G : JG} {Q : Int → MH → Prop} {E : Nat → Int → MH → Prop} {h0 : MH} (ki : KI K l G yX9_readInstruction cX9_readInstruction 13 none [] 13 375 700 Q E h0) (hG : gO G = true) {v1 v2 v3 v4 v5 v6 v7 : Int} {h : MH} (H :
    (((v5 = 21 ∨ (v5 = 23 ∨ v5 = 24)) →
      (∀ x6_1 : Int, x6_1 = 1 →
      JW K 242 [(2009, 396), (14, v1), (0, v2), (0, v3), (0, v4), (0, v5), (0, x6_1), (0, v7), (5000, 0), (5000, 0), (5000, 0), (5000, 0), (5000, 0)] [] h)) ∧
    (¬ (v5 = 21 ∨ (v5 = 23 ∨ v5 = 24)) →
      JW K 242 [(2009, 396), (14, v1), (0, v2), (0, v3), (0, v4), (0, v5), (0, v6), (0, v7), (5000, 0), (5000, 0), (5000, 0), (5000, 0), (5000, 0)] [] h))) : JW K 218 [(2009, 396), (14, v1), (0, v2), (0, v3), (0, v4), (0, v5), (0, v6), (0, v7), (5000, 0), (5000, 0), (5000, 0), (5000, 0), (5000, 0)] [] h := by
  have e1 := ki.2.2.2.2.1
  have e2 := ki.2.2.2.2.2.1
  subst e1; subst e2
  exact run_ok (dia := [(332, 416), (447, 462), (539, 551)]) (cnr := [(24, 34, 76), (99, 122, 128), (132, 156, 160), (185, 209, 218), (222, 239, 242), (246, 256, 264), (268, 278, 282), (295, 308, 322), (466, 488, 502), (492, 502, 516)]) (cuts := [(83, [2009, 14, 0, 0, 0, 0, 5000, 5000, 5000, 5000, 5000, 5000, 5000], []), (128, [2009, 14, 0, 0, 0, 0, 0, 0, 5000, 5000, 5000, 5000, 5000], []), (160, [2009, 14, 0, 0, 0, 0, 0, 0, 5000, 5000, 5000, 5000, 5000], []), (170, [2009, 14, 0, 0, 0, 0, 0, 0, 5000, 5000, 5000, 5000, 5000], []), (181, [2009, 14, 0, 0, 0, 0, 0, 0, 5000, 5000, 5000, 5000, 5000], []), (218, [2009, 14, 0, 0, 0, 0, 0, 0, 5000, 5000, 5000, 5000, 5000], []), (242, [2009, 14, 0, 0, 0, 0, 0, 0, 5000, 5000, 5000, 5000, 5000], []), (264, [2009, 14, 0, 0, 0, 0, 0, 0, 5000, 5000, 5000, 5000, 5000], []), (282, [2009, 14, 0, 0, 0, 0, 0, 0, 5000, 5000, 5000, 5000, 5000], []), (322, [2009, 14, 0, 0, 0, 0, 0, 0, 0, 5000, 5000, 5000, 5000], []), (516, [2009, 14, 0, 0, 0, 0, 0, 0, 0, 0, 0, 0, 0], []), (552, [2009, 14, 0, 0, 0, 0, 0, 0, 0, 0, 0, 0, 0], [])]) ki.1 (pk_X9_readInstruction ki hG) ok_X9_readInstruction (by decide) 7 true _ _ _ _ H
theorem r_X9_readInstruction_242 {K : JC} {l : Launch} {G : JG} {Q : Int → MH → Prop} {E : Nat → Int → MH → Prop} {h0 : MH} (ki : KI K l G yX9_readInstruction cX9_readInstruction 13 none [] 13 375 700 Q E h0) (hG : gO G = true) {v1 v2 v3 v4 v5 v6 v7 : Int} {h : MH} (H :
    (((v5 = 27 ∨ v5 = 28) →
      (v1 ≠ 0) ∧
      (∀ x6_1 : Int, x6_1 = (w32 ((hv h v1 1) - 1)) →
      JW K 264 [(2009, 396), (14, v1), (0, v2), (0, v3), (0, v4), (0, v5), (0, x6_1), (0, v7), (5000, 0), (5000, 0), (5000, 0), (5000, 0), (5000, 0)] [] h)) ∧
    (¬ (v5 = 27 ∨ v5 = 28) →
      JW K 264 [(2009, 396), (14, v1), (0, v2), (0, v3), (0, v4), (0, v5), (0, v6), (0, v7), (5000, 0), (5000, 0), (5000, 0), (5000, 0), (5000, 0)] [] h))) : JW K 242 [(2009, 396), (14, v1), (0, v2), (0, v3), (0, v4), (0, v5), (0, v6), (0, v7), (5000, 0), (5000, 0), (5000, 0), (5000, 0), (5000, 0)] [] h := by
  have e1 := ki.2.2.2.2.1
  have e2 := ki.2.2.2.2.2.1
  subst e1; subst e2
  exact run_ok (dia := [(332, 416), (447, 462), (539, 551)]) (cnr := [(24, 34, 76), (99, 122, 128), (132, 156, 160), (185, 209, 218), (222, 239, 242), (246, 256, 264), (268, 278, 282), (295, 308, 322), (466, 488, 502), (492, 502, 516)]) (cuts := [(83, [2009, 14, 0, 0, 0, 0, 5000, 5000, 5000, 5000, 5000, 5000, 5000], []), (128, [2009, 14, 0, 0, 0, 0, 0, 0, 5000, 5000, 5000, 5000, 5000], []), (160, [2009, 14, 0, 0, 0, 0, 0, 0, 5000, 5000, 5000, 5000, 5000], []), (170, [2009, 14, 0, 0, 0, 0, 0, 0, 5000, 5000, 5000, 5000, 5000], []), (181, [2009, 14, 0, 0, 0, 0, 0, 0, 5000, 5000, 5000, 5000, 5000], []), (218, [2009, 14, 0, 0, 0, 0, 0, 0, 5000, 5000, 5000, 5000, 5000], []), (242, [2009, 14, 0, 0, 0, 0, 0, 0, 5000, 5000, 5000, 5000, 5000], []), (264, [2009, 14, 0, 0, 0, 0, 0, 0, 5000, 5000, 5000, 5000, 5000], []), (282, [2009, 14, 0, 0, 0, 0, 0, 0, 5000, 5000, 5000, 5000, 5000], []), (322, [2009, 14, 0, 0, 0, 0, 0, 0, 0, 5000, 5000, 5000, 5000], []), (516, [2009, 14, 0, 0, 0, 0, 0, 0, 0, 0, 0, 0, 0], []), (552, [2009, 14, 0, 0, 0, 0, 0, 0, 0, 0, 0, 0, 0], [])]) ki.1 (pk_X9_readInstruction ki hG) ok_X9_readInstruction (by decide) 10 true _ _ _ _ H
theorem r_X9_readInstruction_264 {K : JC} {l : Launch} {G : JG} {Q : Int → MH → Prop} {E : Nat → Int → MH → Prop} {h0 : MH} (ki : KI K l G yX9_readInstruction cX9_readInstruction 13 none [] 13 375 700 Q E h0) (hG : gO G = true) {v1 v2 v3 v4 v5 v6 v7 : Int} {h : MH} (H :
    (((v5 = 30 ∨ v5 = 36) →
      (∀ x6_1 : Int, x6_1 = 15 →
      JW K 282 [(2009, 396), (14, v1), (0, v2), (0, v3), (0, v4), (0, v5), (0, x6_1), (0, v7), (5000, 0), (5000, 0), (5000, 0), (5000, 0), (5000, 0)] [] h)) ∧
    (¬ (v5 = 30 ∨ v5 = 36) →
      JW K 282 [(2009, 396), (14, v1), (0, v2), (0, v3), (0, v4), (0, v5), (0, v6), (0, v7), (5000, 0), (5000, 0), (5000, 0), (5000, 0), (5000, 0)] [] h))) : JW K 264 [(2009, 396), (14, v1), (0, v2), (0, v3), (0, v4), (0, v5), (0, v6), (0, v7), (5000, 0), (5000, 0), (5000, 0), (5000, 0), (5000, 0)] [] h := by
  have e1 := ki.2.2.2.2.1
  have e2 := ki.2.2.2.2.2.1
  subst e1; subst e2
  exact run_ok (dia := [(332, 416), (447, 462), (539, 551)]) (cnr := [(24, 34, 76), (99, 122, 128), (132, 156, 160), (185, 209, 218), (222, 239, 242), (246, 256, 264), (268, 278, 282), (295, 308, 322), (466, 488, 502), (492, 502, 516)]) (cuts := [(83, [2009, 14, 0, 0, 0, 0, 5000, 5000, 5000, 5000, 5000, 5000, 5000], []), (128, [2009, 14, 0, 0, 0, 0, 0, 0, 5000, 5000, 5000, 5000, 5000], []), (160, [2009, 14, 0, 0, 0, 0, 0, 0, 5000, 5000, 5000, 5000, 5000], []), (170, [2009, 14, 0, 0, 0, 0, 0, 0, 5000, 5000, 5000, 5000, 5000], []), (181, [2009, 14, 0, 0, 0, 0, 0, 0, 5000, 5000, 5000, 5000, 5000], []), (218, [2009, 14, 0, 0, 0, 0, 0, 0, 5000, 5000, 5000, 5000, 5000], []), (242, [2009, 14, 0, 0, 0, 0, 0, 0, 5000, 5000, 5000, 5000, 5000], []), (264, [2009, 14, 0, 0, 0, 0, 0, 0, 5000, 5000, 5000, 5000, 5000], []), (282, [2009, 14, 0, 0, 0, 0, 0, 0, 5000, 5000, 5000, 5000, 5000], []), (322, [2009, 14, 0, 0, 0, 0, 0, 0, 0, 5000, 5000, 5000, 5000], []), (516, [2009, 14, 0, 0, 0, 0, 0, 0, 0, 0, 0, 0, 0], []), (552, [2009, 14, 0, 0, 0, 0, 0, 0, 0, 0, 0, 0, 0], [])]) ki.1 (pk_X9_readInstruction ki hG) ok_X9_readInstruction (by decide) 7 true _ _ _ _ H
theorem r_X9_readInstruction_282 {K : JC} {l : Launch} {G : JG} {Q : Int → MH → Prop} {E : Nat → Int → MH → Prop} {h0 : MH} (ki : KI K l G yX9_readInstruction cX9_readInstruction 13 none [] 13 375 700 Q E h0) (hG : gO G = true) {v1 v2 v3 v4 v5 v6 v7 : Int} {h : MH} (H :
    S_X9_take_2 l G [(2009, 396), (0, 0), (0, v6)] h (fun z1 h2 =>
    (∀ x8_3 : Int, x8_3 = z1 →
    ((v5 = 17 → ¬ (8 : Int) = 0)) ∧
    (((v5 = 17 ∧ v7 ≤ (i_rem x8_3 8)) →
      (hz h2 + 1 ≤ LIMC) ∧
      (hs h2 + 7 ≤ LIMS) ∧
      (∀ h4, h4 = hnew h2 17 0 7 →
      S_X17_init l G [(2017, (hz h2 + 1)), (0, (w32 ((hv h4 396 9) - 1)))] h4 (fun _ h6 =>
      E 17 (hz h2 + 1) h6) E)) ∧
    (¬ (v5 = 17 ∧ v7 ≤ (i_rem x8_3 8)) →
      JW K 322 [(2009, 396), (14, v1), (0, v2), (0, v3), (0, v4), (0, v5), (0, v6), (0, v7), (0, x8_3), (5000, 0), (5000, 0), (5000, 0), (5000, 0)] [] h2)))) E) : JW K 282 [(2009, 396), (14, v1), (0, v2), (0, v3), (0, v4), (0, v5), (0, v6), (0, v7), (5000, 0), (5000, 0), (5000, 0), (5000, 0), (5000, 0)] [] h := by
  have e1 := ki.2.2.2.2.1
  have e2 := ki.2.2.2.2.2.1
  subst e1; subst e2
  exact run_ok (dia := [(332, 416), (447, 462), (539, 551)]) (cnr := [(24, 34, 76), (99, 122, 128), (132, 156, 160), (185, 209, 218), (222, 239, 242), (246, 256, 264), (268, 278, 282), (295, 308, 322), (466, 488, 502), (492, 502, 516)]) (cuts := [(83, [2009, 14, 0, 0, 0, 0, 5000, 5000, 5000, 5000, 5000, 5000, 5000], []), (128, [2009, 14, 0, 0, 0, 0, 0, 0, 5000, 5000, 5000, 5000, 5000], []), (160, [2009, 14, 0, 0, 0, 0, 0, 0, 5000, 5000, 5000, 5000, 5000], []), (170, [2009, 14, 0, 0, 0, 0, 0, 0, 5000, 5000, 5000, 5000, 5000], []), (181, [2009, 14, 0, 0, 0, 0, 0, 0, 5000, 5000, 5000, 5000, 5000], []), (218, [2009, 14, 0, 0, 0, 0, 0, 0, 5000, 5000, 5000, 5000, 5000], []), (242, [2009, 14, 0, 0, 0, 0, 0, 0, 5000, 5000, 5000, 5000, 5000], []), (264, [2009, 14, 0, 0, 0, 0, 0, 0, 5000, 5000, 5000, 5000, 5000], []), (282, [2009, 14, 0, 0, 0, 0, 0, 0, 5000, 5000, 5000, 5000, 5000], []), (322, [2009, 14, 0, 0, 0, 0, 0, 0, 0, 5000, 5000, 5000, 5000], []), (516, [2009, 14, 0, 0, 0, 0, 0, 0, 0, 0, 0, 0, 0], []), (552, [2009, 14, 0, 0, 0, 0, 0, 0, 0, 0, 0, 0, 0], [])]) ki.1 (pk_X9_readInstruction ki hG) ok_X9_readInstruction (by decide) 17 true _ _ _ _ H
theorem r_X9_readInstruction_322 {K : JC} {l : Launch} {G : JG} {Q : Int → MH → Prop} {E : Nat → Int → MH → Prop} {h0 : MH} (ki : KI K l G yX9_readInstruction cX9_readInstruction 13 none [] 13 375 700 Q E h0) (hG : gO G = true) {v1 v2 v3 v4 v5 v6 v7 v8 : Int} {h : MH} (H :
    S_X9_takeTwo l G [(2009, 396)] h (fun z1 h2 =>
    (∀ x9_3 : Int, x9_3 = z1 →
    ((¬ v5 = 19 → ((¬ v5 = 29 → ((v5 = 25 → (v1 ≠ 0) ∧ (0 ≤ v8) ∧ v8 < 24)) ∧ (¬ v5 = 25 → (v5 = 26 → (v1 ≠ 0) ∧ (0 ≤ v8) ∧ v8 < 24)))) ∧ (v5 = 29 → v1 ≠ 0))) ∧
    ((v5 = 19 → v1 ≠ 0)) ∧
    (∀ x10_4 : Int, x10_4 = (if v5 = 19 then (isin x9_3 0 (w32 (7 + (hv h2 v1 0)))) else (if v5 = 29 then (isin x9_3 0 (w32 ((hv h2 v1 6) - 1))) else (if v5 = 25 then (if (isin x9_3 0 (w32 ((hv h2 (v1 + 3) v8) - 1))) = 0 then 0 else 1 : Int) else (if v5 = 26 then (if (isin x9_3 0 (w32 ((hv h2 (v1 + 3) v8) - 1))) = 0 then 0 else 1 : Int) else 1 : Int) : Int) : Int) : Int) →
    ((¬ x10_4 = 0 →
      S_X9_takeTwo l G [(2009, 396)] h2 (fun z5 h6 =>
      (∀ x11_7 : Int, x11_7 = z5 →
      (∀ x12_8 : Int, x12_8 = (if v5 < 15 then 0 else (if 19 < v5 then 0 else 1 : Int) : Int) →
      ((¬ x12_8 = 0 → (v1 ≠ 0) ∧ (0 ≤ v2) ∧ v2 < 40)) ∧
      (((x12_8 = 0 ∨ ¬ (isin x11_7 0 (w32 ((hv h6 (v1 + 14) v2) - 1))) = 0) →
        (((v5 = 13 ∧ x11_7 < x9_3) →
          (hz h6 + 1 ≤ LIMC) ∧
          (hs h6 + 7 ≤ LIMS) ∧
          (∀ h9, h9 = hnew h6 17 0 7 →
          S_X17_init l G [(2017, (hz h6 + 1)), (0, (w32 ((hv h9 396 9) - 2)))] h9 (fun _ h11 =>
          E 17 (hz h6 + 1) h11) E)) ∧
        (¬ (v5 = 13 ∧ x11_7 < x9_3) →
          JW K 516 [(2009, 396), (14, v1), (0, v2), (0, v3), (0, v4), (0, v5), (0, v6), (0, v7), (0, v8), (0, x9_3), (0, x10_4), (0, x11_7), (0, x12_8)] [] h6))) ∧
      (¬ (x12_8 = 0 ∨ ¬ (isin x11_7 0 (w32 ((hv h6 (v1 + 14) v2) - 1))) = 0) →
        (hz h6 + 1 ≤ LIMC) ∧
        (hs h6 + 7 ≤ LIMS) ∧
        (∀ h12, h12 = hnew h6 17 0 7 →
        S_X17_init l G [(2017, (hz h6 + 1)), (0, (w32 ((hv h12 396 9) - 2)))] h12 (fun _ h14 =>
        E 17 (hz h6 + 1) h14) E)))))) E) ∧
    (x10_4 = 0 →
      (hz h2 + 1 ≤ LIMC) ∧
      (hs h2 + 7 ≤ LIMS) ∧
      (∀ h15, h15 = hnew h2 17 0 7 →
      S_X17_init l G [(2017, (hz h2 + 1)), (0, (w32 ((hv h15 396 9) - 2)))] h15 (fun _ h17 =>
      E 17 (hz h2 + 1) h17) E)))))) E) : JW K 322 [(2009, 396), (14, v1), (0, v2), (0, v3), (0, v4), (0, v5), (0, v6), (0, v7), (0, v8), (5000, 0), (5000, 0), (5000, 0), (5000, 0)] [] h := by
  have e1 := ki.2.2.2.2.1
  have e2 := ki.2.2.2.2.2.1
  subst e1; subst e2
  exact run_ok (dia := [(332, 416), (447, 462), (539, 551)]) (cnr := [(24, 34, 76), (99, 122, 128), (132, 156, 160), (185, 209, 218), (222, 239, 242), (246, 256, 264), (268, 278, 282), (295, 308, 322), (466, 488, 502), (492, 502, 516)]) (cuts := [(83, [2009, 14, 0, 0, 0, 0, 5000, 5000, 5000, 5000, 5000, 5000, 5000], []), (128, [2009, 14, 0, 0, 0, 0, 0, 0, 5000, 5000, 5000, 5000, 5000], []), (160, [2009, 14, 0, 0, 0, 0, 0, 0, 5000, 5000, 5000, 5000, 5000], []), (170, [2009, 14, 0, 0, 0, 0, 0, 0, 5000, 5000, 5000, 5000, 5000], []), (181, [2009, 14, 0, 0, 0, 0, 0, 0, 5000, 5000, 5000, 5000, 5000], []), (218, [2009, 14, 0, 0, 0, 0, 0, 0, 5000, 5000, 5000, 5000, 5000], []), (242, [2009, 14, 0, 0, 0, 0, 0, 0, 5000, 5000, 5000, 5000, 5000], []), (264, [2009, 14, 0, 0, 0, 0, 0, 0, 5000, 5000, 5000, 5000, 5000], []), (282, [2009, 14, 0, 0, 0, 0, 0, 0, 5000, 5000, 5000, 5000, 5000], []), (322, [2009, 14, 0, 0, 0, 0, 0, 0, 0, 5000, 5000, 5000, 5000], []), (516, [2009, 14, 0, 0, 0, 0, 0, 0, 0, 0, 0, 0, 0], []), (552, [2009, 14, 0, 0, 0, 0, 0, 0, 0, 0, 0, 0, 0], [])]) ki.1 (pk_X9_readInstruction ki hG) ok_X9_readInstruction (by decide) 30 true _ _ _ _ H
theorem r_X9_readInstruction_516 {K : JC} {l : Launch} {G : JG} {Q : Int → MH → Prop} {E : Nat → Int → MH → Prop} {h0 : MH} (ki : KI K l G yX9_readInstruction cX9_readInstruction 13 none [] 13 375 700 Q E h0) (hG : gO G = true) {v1 v2 v3 v4 v5 v6 v7 v8 v9 v10 v11 v12 : Int} {h : MH} (H :
    (v1 ≠ 0) ∧
    (0 ≤ v3) ∧
    (v3 < 1500) ∧
    (((hv h (v1 + 25) v3) ≤ 0 →
      JW K 552 [(2009, 396), (14, v1), (0, v2), (0, v3), (0, v4), (0, v5), (0, v6), (0, v7), (0, v8), (0, v9), (0, v10), (0, v11), (0, v12)] [] h) ∧
    (0 < (hv h (v1 + 25) v3) →
      (v1 ≠ 0) ∧
      (v1 ≠ 0) ∧
      (0 ≤ v3) ∧
      (v3 < 1500) ∧
      (0 ≤ (hv h (v1 + 25) v3)) ∧
      ((hv h (v1 + 25) v3) < 63) ∧
      (∀ h1, h1 = hset h (v1 + 26) (hv h (v1 + 25) v3) (if v5 = 20 then v8 else (w32 ((-1) - v8)) : Int) →
      JW K 552 [(2009, 396), (14, v1), (0, v2), (0, v3), (0, v4), (0, v5), (0, v6), (0, v7), (0, v8), (0, v9), (0, v10), (0, v11), (0, v12)] [] h1)))) : JW K 516 [(2009, 396), (14, v1), (0, v2), (0, v3), (0, v4), (0, v5), (0, v6), (0, v7), (0, v8), (0, v9), (0, v10), (0, v11), (0, v12)] [] h := by
  have e1 := ki.2.2.2.2.1
  have e2 := ki.2.2.2.2.2.1
  subst e1; subst e2
  exact run_ok (dia := [(332, 416), (447, 462), (539, 551)]) (cnr := [(24, 34, 76), (99, 122, 128), (132, 156, 160), (185, 209, 218), (222, 239, 242), (246, 256, 264), (268, 278, 282), (295, 308, 322), (466, 488, 502), (492, 502, 516)]) (cuts := [(83, [2009, 14, 0, 0, 0, 0, 5000, 5000, 5000, 5000, 5000, 5000, 5000], []), (128, [2009, 14, 0, 0, 0, 0, 0, 0, 5000, 5000, 5000, 5000, 5000], []), (160, [2009, 14, 0, 0, 0, 0, 0, 0, 5000, 5000, 5000, 5000, 5000], []), (170, [2009, 14, 0, 0, 0, 0, 0, 0, 5000, 5000, 5000, 5000, 5000], []), (181, [2009, 14, 0, 0, 0, 0, 0, 0, 5000, 5000, 5000, 5000, 5000], []), (218, [2009, 14, 0, 0, 0, 0, 0, 0, 5000, 5000, 5000, 5000, 5000], []), (242, [2009, 14, 0, 0, 0, 0, 0, 0, 5000, 5000, 5000, 5000, 5000], []), (264, [2009, 14, 0, 0, 0, 0, 0, 0, 5000, 5000, 5000, 5000, 5000], []), (282, [2009, 14, 0, 0, 0, 0, 0, 0, 5000, 5000, 5000, 5000, 5000], []), (322, [2009, 14, 0, 0, 0, 0, 0, 0, 0, 5000, 5000, 5000, 5000], []), (516, [2009, 14, 0, 0, 0, 0, 0, 0, 0, 0, 0, 0, 0], []), (552, [2009, 14, 0, 0, 0, 0, 0, 0, 0, 0, 0, 0, 0], [])]) ki.1 (pk_X9_readInstruction ki hG) ok_X9_readInstruction (by decide) 17 true _ _ _ _ H
theorem r_X9_readInstruction_552 {K : JC} {l : Launch} {G : JG} {Q : Int → MH → Prop} {E : Nat → Int → MH → Prop} {h0 : MH} (ki : KI K l G yX9_readInstruction cX9_readInstruction 13 none [] 13 375 700 Q E h0) (hG : gO G = true) {v1 v2 v3 v4 v5 v6 v7 v8 v9 v10 v11 v12 : Int} {h : MH} (H :
    (v1 ≠ 0) ∧
    (0 ≤ v3) ∧
    (v3 < 1500) ∧
    (∀ h1, h1 = hset h (v1 + 19) v3 v5 →
    (v1 ≠ 0) ∧
    (0 ≤ v3) ∧
    (v3 < 1500) ∧
    (∀ h2, h2 = hset h1 (v1 + 20) v3 v8 →
    (v1 ≠ 0) ∧
    (0 ≤ v3) ∧
    (v3 < 1500) ∧
    (∀ h3, h3 = hset h2 (v1 + 21) v3 v9 →
    (v1 ≠ 0) ∧
    (0 ≤ v3) ∧
    (v3 < 1500) ∧
    (∀ h4, h4 = hset h3 (v1 + 22) v3 v11 →
    (v1 ≠ 0) ∧
    (0 ≤ v3) ∧
    (v3 < 1500) ∧
    (∀ h5, h5 = hset h4 (v1 + 23) v3 v4 →
    (v1 ≠ 0) ∧
    (0 ≤ v3) ∧
    (v3 < 1500) ∧
    (∀ h6, h6 = hset h5 (v1 + 24) v3 v2 →
    (v1 ≠ 0) ∧
    (v1 ≠ 0) ∧
    (∀ h7, h7 = hset h6 v1 21 (w32 ((hv h6 v1 21) + 1)) →
    Q 0 h7)))))))) : JW K 552 [(2009, 396), (14, v1), (0, v2), (0, v3), (0, v4), (0, v5), (0, v6), (0, v7), (0, v8), (0, v9), (0, v10), (0, v11), (0, v12)] [] h := by
  have e1 := ki.2.2.2.2.1
  have e2 := ki.2.2.2.2.2.1
  subst e1; subst e2
  exact run_ok (dia := [(332, 416), (447, 462), (539, 551)]) (cnr := [(24, 34, 76), (99, 122, 128), (132, 156, 160), (185, 209, 218), (222, 239, 242), (246, 256, 264), (268, 278, 282), (295, 308, 322), (466, 488, 502), (492, 502, 516)]) (cuts := [(83, [2009, 14, 0, 0, 0, 0, 5000, 5000, 5000, 5000, 5000, 5000, 5000], []), (128, [2009, 14, 0, 0, 0, 0, 0, 0, 5000, 5000, 5000, 5000, 5000], []), (160, [2009, 14, 0, 0, 0, 0, 0, 0, 5000, 5000, 5000, 5000, 5000], []), (170, [2009, 14, 0, 0, 0, 0, 0, 0, 5000, 5000, 5000, 5000, 5000], []), (181, [2009, 14, 0, 0, 0, 0, 0, 0, 5000, 5000, 5000, 5000, 5000], []), (218, [2009, 14, 0, 0, 0, 0, 0, 0, 5000, 5000, 5000, 5000, 5000], []), (242, [2009, 14, 0, 0, 0, 0, 0, 0, 5000, 5000, 5000, 5000, 5000], []), (264, [2009, 14, 0, 0, 0, 0, 0, 0, 5000, 5000, 5000, 5000, 5000], []), (282, [2009, 14, 0, 0, 0, 0, 0, 0, 5000, 5000, 5000, 5000, 5000], []), (322, [2009, 14, 0, 0, 0, 0, 0, 0, 0, 5000, 5000, 5000, 5000], []), (516, [2009, 14, 0, 0, 0, 0, 0, 0, 0, 0, 0, 0, 0], []), (552, [2009, 14, 0, 0, 0, 0, 0, 0, 0, 0, 0, 0, 0], [])]) ki.1 (pk_X9_readInstruction ki hG) ok_X9_readInstruction (by decide) 38 true _ _ _ _ H
abbrev k_X9_takeTwo : List (Nat × List (Nat × Instr)) := [(39, [(0, .aload_n 0), (1, .invokevirtual 249), (4, .bipush 8), (6, .ishl), (7, .istore_n 1), (8, .iload_n 1), (9, .aload_n 0), (10, .invokevirtual 249), (13, .ior), (14, .istore_n 1), (15, .iload_n 1), (16, .sipush 32767), (19, .if_icmp .le 10), (22, .iload_n 1), (23, .ldc 253), (25, .isub), (26, .goto 4), (29, .iload_n 1), (30, .ireturn)])]
theorem ok_X9_takeTwo : CodeOK cX9_takeTwo k_X9_takeTwo := okw 0 (by decide +kernel) (okn)
abbrev p_X9_takeTwo (l : Launch) (G : JG) : JP := (true, [], [(253, 65536)], [], [], [], [], [(249, 1, [2009], 0, S_X9_take l G)], false, 0, [])
theorem pk_X9_takeTwo {K : JC} {l : Launch} {G : JG} {Q : Int → MH → Prop} {E : Nat → Int → MH → Prop} {h0 : MH} (ki : KI K l G yX9_takeTwo cX9_takeTwo 2 (some .int) [] 12 352 0 Q E h0) (hG : gO G = true) : POK K RX9 (p_X9_takeTwo l G) :=
  POKi (y := yX9_takeTwo) ki hG fmz (subs (by decide +kernel) rc_X9_ok) fmz fmz fmz fmz
  (pkE ki (by
    intro K e1 e2 e3 e4; subst e1; subst e2
    exact fmE (ceV 9 e3 e4 yl_X9_take ⟨by decide, ⟨_, _, rfl⟩, q2463, qs103, q2461⟩ rfl) (fmz))) (fun z => Bool.noConfusion z) rfl (pkP ki (by
    intro K e1 e2 e3 e4; subst e1; subst e2
    exact fmz))
theorem r_X9_takeTwo_0 {K : JC} {l : Launch} {G : JG} {Q : Int → MH → Prop} {E : Nat → Int → MH → Prop} {h0 : MH} (ki : KI K l G yX9_takeTwo cX9_takeTwo 2 (some .int) [] 12 352 0 Q E h0) (hG : gO G = true) {h : MH} (H :
    S_X9_take l G [(2009, 396)] h (fun z1 h2 =>
    (∀ x1_3 : Int, x1_3 = (i_shl z1 8) →
    S_X9_take l G [(2009, 396)] h2 (fun z4 h5 =>
    (∀ x1_6 : Int, x1_6 = (i_or x1_3 z4) →
    Q (if 32767 < x1_6 then (w32 (x1_6 - 65536)) else x1_6 : Int) h5)) E)) E) : JW K 0 [(2009, 396), (5000, 0)] [] h := by
  have e1 := ki.2.2.2.2.1
  have e2 := ki.2.2.2.2.2.1
  subst e1; subst e2
  exact run_ok (dia := [(19, 30)]) (cnr := []) (cuts := []) ki.1 (pk_X9_takeTwo ki hG) ok_X9_takeTwo (by decide) 15 true _ _ _ _ H
abbrev k_X9_judge : List (Nat × List (Nat × Instr)) := [(40, [(0, .aload_n 0), (1, .iconst 0), (2, .putfield 399), (5, .aload_n 0), (6, .iconst 0), (7, .putfield 402), (10, .aload_n 0), (11, .aload_n 1), (12, .getfield 300), (15, .iload_n 2), (16, .iaload), (17, .putfield 412), (20, .iconst 1), (21, .istore_n 3), (22, .iconst 0), (23, .istore 4), (25, .iload 4), (27, .aload_n 1), (28, .getfield 306), (31, .iload_n 2), (32, .iaload), (33, .if_icmp .ge 183), (36, .aload_n 1), (37, .getfield 312)]),
  (81, [(40, .iload_n 2), (41, .iaload), (42, .iload 4), (44, .iadd), (45, .istore 5), (47, .aload_n 0), (48, .aload_n 1), (49, .getfield 351), (52, .iload 5), (54, .iaload), (55, .putfield 396), (58, .aload_n 1), (59, .iload_n 2), (60, .iload 4), (62, .invokestatic 415), (65, .istore 6), (67, .aload_n 1), (68, .iload_n 2), (69, .iload 4), (71, .invokestatic 418), (74, .istore 7), (76, .iload_n 3), (77, .ifCond .ne 13), (80, .aload_n 0)]),
  (131, [(81, .iconst 0), (82, .putfield 399), (85, .aload_n 0), (86, .iconst 0), (87, .putfield 402), (90, .aload_n 0), (91, .iload 6), (93, .ifCond .eq 12), (96, .iload_n 3), (97, .ifCond .ne 20), (100, .iload 7), (102, .ifCond .ne 15), (105, .iload 7), (107, .ifCond .eq 14), (110, .aload_n 0), (111, .getfield 399), (114, .ifCond .le 7), (117, .iconst 1), (118, .goto 4), (121, .iconst 0), (122, .invokevirtual 405), (125, .iload 6), (127, .ifCond .eq 8), (130, .aload_n 0)]),
  (175, [(131, .iconst 1), (132, .invokevirtual 421), (135, .aload_n 1), (136, .getfield 424), (139, .iload 5), (141, .aload_n 0), (142, .getfield 399), (145, .iastore), (146, .aload_n 1), (147, .getfield 427), (150, .iload 5), (152, .aload_n 0), (153, .getfield 402), (156, .iastore), (157, .aload_n 0), (158, .aload_n 1), (159, .iload_n 2), (160, .iload 5), (162, .invokevirtual 430), (165, .aload_n 1), (166, .getfield 339), (169, .iload 5), (171, .iaload), (172, .invokestatic 433)]),
  (225, [(175, .ifCond .ne 7), (178, .iconst 1), (179, .goto 4), (182, .iconst 0), (183, .istore_n 3), (184, .aload_n 0), (185, .iload_n 3), (186, .ifCond .eq 20), (189, .iload 4), (191, .aload_n 1), (192, .getfield 306), (195, .iload_n 2), (196, .iaload), (197, .iconst 1), (198, .isub), (199, .if_icmp .ne 7), (202, .iconst 1), (203, .goto 4), (206, .iconst 0), (207, .invokevirtual 405), (210, .iinc 4 1), (213, .goto (-188)), (216, .return_)])]
theorem ok_X9_judge : CodeOK cX9_judge k_X9_judge := okw 0 (by decide +kernel) (okw 40 (by decide +kernel) (okw 81 (by decide +kernel) (okw 131 (by decide +kernel) (okw 175 (by decide +kernel) (okn)))))
abbrev p_X9_judge (l : Launch) (G : JG) : JP := (true, [(300, 10, 13, 1040100, 11), (306, 10, 16, 1040100, 14), (312, 10, 17, 1040100, 15), (339, 10, 22, 2500100, 19), (351, 10, 26, 2500100, 23), (399, 9, 68, 0, 0), (402, 9, 69, 0, 0), (424, 10, 31, 2500100, 27), (427, 10, 32, 2500100, 28)], [], [], [(396, 9, 71, 0), (399, 9, 68, 0), (402, 9, 69, 0), (412, 9, 70, 0)], [], [], [(405, 1, [0, 2009], 700, S_X9_wrongIf l G), (415, 0, [0, 0, 14], 2, S_X9_isHandler l G), (418, 0, [0, 0, 14], 2, S_X9_isJumpedTo l G), (421, 1, [0, 2009], 700, S_X9_lay l G), (430, 1, [0, 0, 14, 2009], 700, S_X9_judge_2 l G)], false, 700, [(433, e_X9_ends)])
theorem pk_X9_judge {K : JC} {l : Launch} {G : JG} {Q : Int → MH → Prop} {E : Nat → Int → MH → Prop} {h0 : MH} (ki : KI K l G yX9_judge cX9_judge 8 none [] 15 428 700 Q E h0) (hG : gO G = true) : POK K RX9 (p_X9_judge l G) :=
  POKi (y := yX9_judge) ki hG (rfs rf_X9_ok (by decide +kernel)) fmz fmz (rps rp_X9_ok (by decide +kernel)) fmz fmz
  (pkE ki (by
    intro K e1 e2 e3 e4; subst e1; subst e2
    exact fmE (ceV 9 e3 e4 yl_X9_wrongIf ⟨by decide, ⟨_, _, rfl⟩, q2519, qs110, q2517⟩ rfl) (fmE (ceS e3 e4 yl_X9_isHandler ⟨q2512, Or.inl q2511⟩ rfl) (fmE (ceS e3 e4 yl_X9_isJumpedTo ⟨q2515, Or.inl q2514⟩ rfl) (fmE (ceV 9 e3 e4 yl_X9_lay ⟨by decide, ⟨_, _, rfl⟩, q2523, qs111, q2521⟩ rfl) (fmE (ceV 9 e3 e4 yl_X9_judge_2 ⟨by decide, ⟨_, _, rfl⟩, q2527, qs112, q2525⟩ rfl) (fmz))))))) (fun z => Bool.noConfusion z) rfl (pkP ki (by
    intro K e1 e2 e3 e4; subst e1; subst e2
    exact fmP (pe_X9_ends hG e3 e4 ⟨q2545, Or.inl q2544⟩ rfl rfl) (fmz)))
theorem r_X9_judge_0 {K : JC} {l : Launch} {G : JG} {Q : Int → MH → Prop} {E : Nat → Int → MH → Prop} {h0 : MH} (ki : KI K l G yX9_judge cX9_judge 8 none [] 15 428 700 Q E h0) (hG : gO G = true) {v1 v2 : Int} {h : MH} (H :
    (∀ h1, h1 = hset h 396 68 0 →
    (∀ h2, h2 = hset h1 396 69 0 →
    (v1 ≠ 0) ∧
    (0 ≤ v2) ∧
    (v2 < 40) ∧
    (∀ h3, h3 = hset h2 396 70 (hv h2 (v1 + 11) v2) →
    (∀ x3_4 : Int, x3_4 = 1 →
    (∀ x4_5 : Int, x4_5 = 0 →
    JW K 25 [(2009, 396), (14, v1), (0, v2), (0, x3_4), (0, x4_5), (5000, 0), (5000, 0), (5000, 0)] [] h3)))))) : JW K 0 [(2009, 396), (14, v1), (0, v2), (5000, 0), (5000, 0), (5000, 0), (5000, 0), (5000, 0)] [] h := by
  have e1 := ki.2.2.2.2.1
  have e2 := ki.2.2.2.2.2.1
  subst e1; subst e2
  exact run_ok (dia := [(93, 122), (175, 183), (186, 207)]) (cnr := []) (cuts := [(25, [2009, 14, 0, 0, 0, 5000, 5000, 5000], [])]) ki.1 (pk_X9_judge ki hG) ok_X9_judge (by decide) 18 true _ _ _ _ H
theorem r_X9_judge_25 {K : JC} {l : Launch} {G : JG} {Q : Int → MH → Prop} {E : Nat → Int → MH → Prop} {h0 : MH} (ki : KI K l G yX9_judge cX9_judge 8 none [] 15 428 700 Q E h0) (hG : gO G = true) {v1 v2 v3 v4 : Int} {h : MH} (H :
    (v1 ≠ 0) ∧
    (0 ≤ v2) ∧
    (v2 < 40) ∧
    (((hv h (v1 + 14) v2) ≤ v4 →
      Q 0 h) ∧
    (v4 < (hv h (v1 + 14) v2) →
      (v1 ≠ 0) ∧
      (0 ≤ v2) ∧
      (v2 < 40) ∧
      (∀ x5_1 : Int, x5_1 = (w32 ((hv h (v1 + 15) v2) + v4)) →
      (v1 ≠ 0) ∧
      (0 ≤ x5_1) ∧
      (x5_1 < 1500) ∧
      (∀ h2, h2 = hset h 396 71 (hv h (v1 + 23) x5_1) →
      S_X9_isHandler l G [(14, v1), (0, v2), (0, v4)] h2 (fun z3 h4 =>
      (∀ x6_5 : Int, x6_5 = z3 →
      S_X9_isJumpedTo l G [(14, v1), (0, v2), (0, v4)] h4 (fun z6 h7 =>
      (∀ x7_8 : Int, x7_8 = z6 →
      ((¬ v3 = 0 →
        S_X9_wrongIf l G [(2009, 396), (0, (if x6_5 = 0 then (if x7_8 = 0 then 0 else (if 0 < (hv h7 396 68) then 1 else 0 : Int) : Int) else (if v3 = 0 then (if x7_8 = 0 then (if x7_8 = 0 then 0 else (if 0 < (hv h7 396 68) then 1 else 0 : Int) : Int) else 1 : Int) else 1 : Int) : Int))] h7 (fun _ h10 =>
        ((x6_5 = 0 →
          (v1 ≠ 0) ∧
          (0 ≤ x5_1) ∧
          (x5_1 < 1500) ∧
          (∀ h11, h11 = hset h10 (v1 + 27) x5_1 (hv h10 396 68) →
          (v1 ≠ 0) ∧
          (0 ≤ x5_1) ∧
          (x5_1 < 1500) ∧
          (∀ h12, h12 = hset h11 (v1 + 28) x5_1 (hv h11 396 69) →
          S_X9_judge_2 l G [(2009, 396), (14, v1), (0, v2), (0, x5_1)] h12 (fun _ h14 =>
          (v1 ≠ 0) ∧
          (0 ≤ x5_1) ∧
          (x5_1 < 1500) ∧
          (∀ x3_15 : Int, x3_15 = (if (endsf (hv h14 (v1 + 19) x5_1)) = 0 then 1 else 0 : Int) →
          ((¬ x3_15 = 0 → (v1 ≠ 0) ∧ (0 ≤ v2) ∧ v2 < 40)) ∧
          S_X9_wrongIf l G [(2009, 396), (0, (if x3_15 = 0 then 0 else (if v4 = (w32 ((hv h14 (v1 + 14) v2) - 1)) then 1 else 0 : Int) : Int))] h14 (fun _ h17 =>
          (∀ x4_18 : Int, x4_18 = w32 (v4 + 1) →
          JW K 25 [(2009, 396), (14, v1), (0, v2), (0, x3_15), (0, x4_18), (5000, 0), (5000, 0), (5000, 0)] [] h17)) E)) E))) ∧
        (¬ x6_5 = 0 →
          S_X9_lay l G [(2009, 396), (0, 1)] h10 (fun _ h20 =>
          (v1 ≠ 0) ∧
          (0 ≤ x5_1) ∧
          (x5_1 < 1500) ∧
          (∀ h21, h21 = hset h20 (v1 + 27) x5_1 (hv h20 396 68) →
          (v1 ≠ 0) ∧
          (0 ≤ x5_1) ∧
          (x5_1 < 1500) ∧
          (∀ h22, h22 = hset h21 (v1 + 28) x5_1 (hv h21 396 69) →
          S_X9_judge_2 l G [(2009, 396), (14, v1), (0, v2), (0, x5_1)] h22 (fun _ h24 =>
          (v1 ≠ 0) ∧
          (0 ≤ x5_1) ∧
          (x5_1 < 1500) ∧
          (∀ x3_25 : Int, x3_25 = (if (endsf (hv h24 (v1 + 19) x5_1)) = 0 then 1 else 0 : Int) →
          ((¬ x3_25 = 0 → (v1 ≠ 0) ∧ (0 ≤ v2) ∧ v2 < 40)) ∧
          S_X9_wrongIf l G [(2009, 396), (0, (if x3_25 = 0 then 0 else (if v4 = (w32 ((hv h24 (v1 + 14) v2) - 1)) then 1 else 0 : Int) : Int))] h24 (fun _ h27 =>
          (∀ x4_28 : Int, x4_28 = w32 (v4 + 1) →
          JW K 25 [(2009, 396), (14, v1), (0, v2), (0, x3_25), (0, x4_28), (5000, 0), (5000, 0), (5000, 0)] [] h27)) E)) E))) E))) E) ∧
      (v3 = 0 →
        (∀ h29, h29 = hset h7 396 68 0 →
        (∀ h30, h30 = hset h29 396 69 0 →
        S_X9_wrongIf l G [(2009, 396), (0, (if x6_5 = 0 then (if x7_8 = 0 then 0 else (if 0 < (hv h30 396 68) then 1 else 0 : Int) : Int) else (if v3 = 0 then (if x7_8 = 0 then (if x7_8 = 0 then 0 else (if 0 < (hv h30 396 68) then 1 else 0 : Int) : Int) else 1 : Int) else 1 : Int) : Int))] h30 (fun _ h32 =>
        ((x6_5 = 0 →
          (v1 ≠ 0) ∧
          (0 ≤ x5_1) ∧
          (x5_1 < 1500) ∧
          (∀ h33, h33 = hset h32 (v1 + 27) x5_1 (hv h32 396 68) →
          (v1 ≠ 0) ∧
          (0 ≤ x5_1) ∧
          (x5_1 < 1500) ∧
          (∀ h34, h34 = hset h33 (v1 + 28) x5_1 (hv h33 396 69) →
          S_X9_judge_2 l G [(2009, 396), (14, v1), (0, v2), (0, x5_1)] h34 (fun _ h36 =>
          (v1 ≠ 0) ∧
          (0 ≤ x5_1) ∧
          (x5_1 < 1500) ∧
          (∀ x3_37 : Int, x3_37 = (if (endsf (hv h36 (v1 + 19) x5_1)) = 0 then 1 else 0 : Int) →
          ((¬ x3_37 = 0 → (v1 ≠ 0) ∧ (0 ≤ v2) ∧ v2 < 40)) ∧
          S_X9_wrongIf l G [(2009, 396), (0, (if x3_37 = 0 then 0 else (if v4 = (w32 ((hv h36 (v1 + 14) v2) - 1)) then 1 else 0 : Int) : Int))] h36 (fun _ h39 =>
          (∀ x4_40 : Int, x4_40 = w32 (v4 + 1) →
          JW K 25 [(2009, 396), (14, v1), (0, v2), (0, x3_37), (0, x4_40), (5000, 0), (5000, 0), (5000, 0)] [] h39)) E)) E))) ∧
        (¬ x6_5 = 0 →
          S_X9_lay l G [(2009, 396), (0, 1)] h32 (fun _ h42 =>
          (v1 ≠ 0) ∧
          (0 ≤ x5_1) ∧
          (x5_1 < 1500) ∧
          (∀ h43, h43 = hset h42 (v1 + 27) x5_1 (hv h42 396 68) →
          (v1 ≠ 0) ∧
          (0 ≤ x5_1) ∧
          (x5_1 < 1500) ∧
          (∀ h44, h44 = hset h43 (v1 + 28) x5_1 (hv h43 396 69) →
          S_X9_judge_2 l G [(2009, 396), (14, v1), (0, v2), (0, x5_1)] h44 (fun _ h46 =>
          (v1 ≠ 0) ∧
          (0 ≤ x5_1) ∧
          (x5_1 < 1500) ∧
          (∀ x3_47 : Int, x3_47 = (if (endsf (hv h46 (v1 + 19) x5_1)) = 0 then 1 else 0 : Int) →
          ((¬ x3_47 = 0 → (v1 ≠ 0) ∧ (0 ≤ v2) ∧ v2 < 40)) ∧
          S_X9_wrongIf l G [(2009, 396), (0, (if x3_47 = 0 then 0 else (if v4 = (w32 ((hv h46 (v1 + 14) v2) - 1)) then 1 else 0 : Int) : Int))] h46 (fun _ h49 =>
          (∀ x4_50 : Int, x4_50 = w32 (v4 + 1) →
          JW K 25 [(2009, 396), (14, v1), (0, v2), (0, x3_47), (0, x4_50), (5000, 0), (5000, 0), (5000, 0)] [] h49)) E)) E))) E))) E)))))) E)) E))))) : JW K 25 [(2009, 396), (14, v1), (0, v2), (0, v3), (0, v4), (5000, 0), (5000, 0), (5000, 0)] [] h := by
  have e1 := ki.2.2.2.2.1
  have e2 := ki.2.2.2.2.2.1
  subst e1; subst e2
  exact run_ok (dia := [(93, 122), (175, 183), (186, 207)]) (cnr := []) (cuts := [(25, [2009, 14, 0, 0, 0, 5000, 5000, 5000], [])]) ki.1 (pk_X9_judge ki hG) ok_X9_judge (by decide) 78 true _ _ _ _ H
abbrev k_X9_isHandler : List (Nat × List (Nat × Instr)) := [(36, [(0, .iconst 0), (1, .istore_n 3), (2, .iconst 0), (3, .istore 4), (5, .iload 4), (7, .aload_n 0), (8, .getfield 303), (11, .iload_n 1), (12, .iaload), (13, .if_icmp .ge 39), (16, .iload_n 3), (17, .ifCond .ne 23), (20, .aload_n 0), (21, .getfield 319), (24, .bipush 16), (26, .iload_n 1), (27, .imul), (28, .iconst 4), (29, .iload 4), (31, .imul), (32, .iadd), (33, .iconst 2), (34, .iadd), (35, .iaload)]),
  (62, [(36, .iload_n 2), (37, .if_icmp .ne 7), (40, .iconst 1), (41, .goto 4), (44, .iconst 0), (45, .istore_n 3), (46, .iinc 4 1), (49, .goto (-44)), (52, .iload_n 3), (53, .ireturn)])]
theorem ok_X9_isHandler : CodeOK cX9_isHandler k_X9_isHandler := okw 0 (by decide +kernel) (okw 36 (by decide +kernel) (okn))
abbrev p_X9_isHandler (l : Launch) (G : JG) : JP := (true, [(303, 10, 14, 1040100, 12), (319, 10, 15, 1640100, 13)], [], [], [], [], [], [], false, 2, [])
theorem pk_X9_isHandler {K : JC} {l : Launch} {G : JG} {Q : Int → MH → Prop} {E : Nat → Int → MH → Prop} {h0 : MH} (ki : KI K l G yX9_isHandler cX9_isHandler 5 (some .boolean) [] 4 150 2 Q E h0) (hG : gO G = true) : POK K RX9 (p_X9_isHandler l G) :=
  POKi (y := yX9_isHandler) ki hG (rfs rf_X9_ok (by decide +kernel)) fmz fmz fmz fmz fmz
  (pkE ki (by
    intro K e1 e2 e3 e4; subst e1; subst e2
    exact fmz)) (fun z => Bool.noConfusion z) rfl (pkP ki (by
    intro K e1 e2 e3 e4; subst e1; subst e2
    exact fmz))
theorem r_X9_isHandler_0 {K : JC} {l : Launch} {G : JG} {Q : Int → MH → Prop} {E : Nat → Int → MH → Prop} {h0 : MH} (ki : KI K l G yX9_isHandler cX9_isHandler 5 (some .boolean) [] 4 150 2 Q E h0) (hG : gO G = true) {v0 v1 v2 : Int} {h : MH} (H :
    (∀ x3_1 : Int, x3_1 = 0 →
    (∀ x4_2 : Int, x4_2 = 0 →
    JW K 5 [(14, v0), (0, v1), (0, v2), (0, x3_1), (0, x4_2)] [] h))) : JW K 0 [(14, v0), (0, v1), (0, v2), (5000, 0), (5000, 0)] [] h := by
  have e1 := ki.2.2.2.2.1
  have e2 := ki.2.2.2.2.2.1
  subst e1; subst e2
  exact run_ok (dia := [(17, 45)]) (cnr := []) (cuts := [(5, [14, 0, 0, 0, 0], [])]) ki.1 (pk_X9_isHandler ki hG) ok_X9_isHandler (by decide) 6 true _ _ _ _ H
theorem r_X9_isHandler_5 {K : JC} {l : Launch} {G : JG} {Q : Int → MH → Prop} {E : Nat → Int → MH → Prop} {h0 : MH} (ki : KI K l G yX9_isHandler cX9_isHandler 5 (some .boolean) [] 4 150 2 Q E h0) (hG : gO G = true) {v0 v1 v2 v3 v4 : Int} {h : MH} (H :
    (v0 ≠ 0) ∧
    (0 ≤ v1) ∧
    (v1 < 40) ∧
    (((hv h (v0 + 12) v1) ≤ v4 →
      ((v3 = 0 ∨ v3 = 1) ∧ Q v3 h)) ∧
    (v4 < (hv h (v0 + 12) v1) →
      ((v3 = 0 → (v0 ≠ 0) ∧ (0 ≤ (w32 ((w32 ((w32 (16 * v1)) + (w32 (4 * v4)))) + 2))) ∧ (w32 ((w32 ((w32 (16 * v1)) + (w32 (4 * v4)))) + 2)) < 640)) ∧
      (∀ x3_1 : Int, x3_1 = (if v3 = 0 then (if (hv h (v0 + 13) (w32 ((w32 ((w32 (16 * v1)) + (w32 (4 * v4)))) + 2))) = v2 then 1 else 0 : Int) else 1 : Int) →
      (∀ x4_2 : Int, x4_2 = w32 (v4 + 1) →
      JW K 5 [(14, v0), (0, v1), (0, v2), (0, x3_1), (0, x4_2)] [] h))))) : JW K 5 [(14, v0), (0, v1), (0, v2), (0, v3), (0, v4)] [] h := by
  have e1 := ki.2.2.2.2.1
  have e2 := ki.2.2.2.2.2.1
  subst e1; subst e2
  exact run_ok (dia := [(17, 45)]) (cnr := []) (cuts := [(5, [14, 0, 0, 0, 0], [])]) ki.1 (pk_X9_isHandler ki hG) ok_X9_isHandler (by decide) 13 true _ _ _ _ H
abbrev k_X9_isJumpedTo : List (Nat × List (Nat × Instr)) := [(39, [(0, .iconst 0), (1, .istore_n 3), (2, .aload_n 0), (3, .getfield 312), (6, .iload_n 1), (7, .iaload), (8, .istore 4), (10, .iload 4), (12, .aload_n 0), (13, .getfield 312), (16, .iload_n 1), (17, .iaload), (18, .aload_n 0), (19, .getfield 306), (22, .iload_n 1), (23, .iaload), (24, .iadd), (25, .if_icmp .ge 54), (28, .iload_n 3), (29, .ifCond .ne 38), (32, .aload_n 0), (33, .getfield 339), (36, .iload 4), (38, .iaload)]),
  (89, [(39, .bipush 15), (41, .if_icmp .lt 30), (44, .aload_n 0), (45, .getfield 339), (48, .iload 4), (50, .iaload), (51, .bipush 19), (53, .if_icmp .gt 18), (56, .aload_n 0), (57, .getfield 348), (60, .iload 4), (62, .iaload), (63, .iload_n 2), (64, .if_icmp .ne 7), (67, .iconst 1), (68, .goto 4), (71, .iconst 0), (72, .istore_n 3), (73, .iinc 4 1), (76, .goto (-66)), (79, .iload_n 3), (80, .ireturn)])]
theorem ok_X9_isJumpedTo : CodeOK cX9_isJumpedTo k_X9_isJumpedTo := okw 0 (by decide +kernel) (okw 39 (by decide +kernel) (okn))
abbrev p_X9_isJumpedTo (l : Launch) (G : JG) : JP := (true, [(306, 10, 16, 1040100, 14), (312, 10, 17, 1040100, 15), (339, 10, 22, 2500100, 19), (348, 10, 25, 2500100, 22)], [], [], [], [], [], [], false, 2, [])
theorem pk_X9_isJumpedTo {K : JC} {l : Launch} {G : JG} {Q : Int → MH → Prop} {E : Nat → Int → MH → Prop} {h0 : MH} (ki : KI K l G yX9_isJumpedTo cX9_isJumpedTo 5 (some .boolean) [] 4 150 2 Q E h0) (hG : gO G = true) : POK K RX9 (p_X9_isJumpedTo l G) :=
  POKi (y := yX9_isJumpedTo) ki hG (rfs rf_X9_ok (by decide +kernel)) fmz fmz fmz fmz fmz
  (pkE ki (by
    intro K e1 e2 e3 e4; subst e1; subst e2
    exact fmz)) (fun z => Bool.noConfusion z) rfl (pkP ki (by
    intro K e1 e2 e3 e4; subst e1; subst e2
    exact fmz))
theorem r_X9_isJumpedTo_0 {K : JC} {l : Launch} {G : JG} {Q : Int → MH → Prop} {E : Nat → Int → MH → Prop} {h0 : MH} (ki : KI K l G yX9_isJumpedTo cX9_isJumpedTo 5 (some .boolean) [] 4 150 2 Q E h0) (hG : gO G = true) {v0 v1 v2 : Int} {h : MH} (H :
    (∀ x3_1 : Int, x3_1 = 0 →
    (v0 ≠ 0) ∧
    (0 ≤ v1) ∧
    (v1 < 40) ∧
    (∀ x4_2 : Int, x4_2 = (hv h (v0 + 15) v1) →
    JW K 10 [(14, v0), (0, v1), (0, v2), (0, x3_1), (0, x4_2)] [] h))) : JW K 0 [(14, v0), (0, v1), (0, v2), (5000, 0), (5000, 0)] [] h := by
  have e1 := ki.2.2.2.2.1
  have e2 := ki.2.2.2.2.2.1
  subst e1; subst e2
  exact run_ok (dia := [(29, 72)]) (cnr := []) (cuts := [(10, [14, 0, 0, 0, 0], [])]) ki.1 (pk_X9_isJumpedTo ki hG) ok_X9_isJumpedTo (by decide) 9 true _ _ _ _ H
theorem r_X9_isJumpedTo_10 {K : JC} {l : Launch} {G : JG} {Q : Int → MH → Prop} {E : Nat → Int → MH → Prop} {h0 : MH} (ki : KI K l G yX9_isJumpedTo cX9_isJumpedTo 5 (some .boolean) [] 4 150 2 Q E h0) (hG : gO G = true) {v0 v1 v2 v3 v4 : Int} {h : MH} (H :
    (v0 ≠ 0) ∧
    (0 ≤ v1) ∧
    (v1 < 40) ∧
    (v0 ≠ 0) ∧
    (0 ≤ v1) ∧
    (v1 < 40) ∧
    (((w32 ((hv h (v0 + 15) v1) + (hv h (v0 + 14) v1))) ≤ v4 →
      ((v3 = 0 ∨ v3 = 1) ∧ Q v3 h)) ∧
    (v4 < (w32 ((hv h (v0 + 15) v1) + (hv h (v0 + 14) v1))) →
      ((v3 = 0 → (v0 ≠ 0) ∧ (0 ≤ v4) ∧ (v4 < 1500) ∧ (15 ≤ (hv h (v0 + 19) v4) → (v0 ≠ 0) ∧ (0 ≤ v4) ∧ (v4 < 1500) ∧ ((hv h (v0 + 19) v4) ≤ 19 → (v0 ≠ 0) ∧ (0 ≤ v4) ∧ v4 < 1500)))) ∧
      (∀ x3_1 : Int, x3_1 = (if v3 = 0 then (if (hv h (v0 + 19) v4) < 15 then 0 else (if 19 < (hv h (v0 + 19) v4) then 0 else (if (hv h (v0 + 22) v4) = v2 then 1 else 0 : Int) : Int) : Int) else 1 : Int) →
      (∀ x4_2 : Int, x4_2 = w32 (v4 + 1) →
      JW K 10 [(14, v0), (0, v1), (0, v2), (0, x3_1), (0, x4_2)] [] h))))) : JW K 10 [(14, v0), (0, v1), (0, v2), (0, v3), (0, v4)] [] h := by
  have e1 := ki.2.2.2.2.1
  have e2 := ki.2.2.2.2.2.1
  subst e1; subst e2
  exact run_ok (dia := [(29, 72)]) (cnr := []) (cuts := [(10, [14, 0, 0, 0, 0], [])]) ki.1 (pk_X9_isJumpedTo ki hG) ok_X9_isJumpedTo (by decide) 18 true _ _ _ _ H
abbrev k_X9_wrongIf : List (Nat × List (Nat × Instr)) := [(25, [(0, .iload_n 1), (1, .ifCond .eq 15), (4, .new 244), (7, .dup), (8, .aload_n 0), (9, .getfield 396), (12, .invokespecial 246), (15, .athrow), (16, .return_)])]
theorem ok_X9_wrongIf : CodeOK cX9_wrongIf k_X9_wrongIf := okw 0 (by decide +kernel) (okn)
abbrev p_X9_wrongIf (l : Launch) (G : JG) : JP := (true, [(396, 9, 71, 0, 0)], [], [], [], [(244, 17, 7)], [], [(246, 2, [0, 2017], 700, S_X17_init l G)], false, 700, [])
theorem pk_X9_wrongIf {K : JC} {l : Launch} {G : JG} {Q : Int → MH → Prop} {E : Nat → Int → MH → Prop} {h0 : MH} (ki : KI K l G yX9_wrongIf cX9_wrongIf 2 none [] 11 332 700 Q E h0) (hG : gO G = true) : POK K RX9 (p_X9_wrongIf l G) :=
  POKi (y := yX9_wrongIf) ki hG (rfs rf_X9_ok (by decide +kernel)) fmz fmz fmz (subs (by decide +kernel) rn_X9_ok) fmz
  (pkE ki (by
    intro K e1 e2 e3 e4; subst e1; subst e2
    exact fmE (ceI e3 e4 yl_X17_init ⟨rfl, q2474, Or.inl q2473, _, _, q2475⟩ rfl) (fmz))) (fun z => Bool.noConfusion z) rfl (pkP ki (by
    intro K e1 e2 e3 e4; subst e1; subst e2
    exact fmz))
theorem r_X9_wrongIf_0 {K : JC} {l : Launch} {G : JG} {Q : Int → MH → Prop} {E : Nat → Int → MH → Prop} {h0 : MH} (ki : KI K l G yX9_wrongIf cX9_wrongIf 2 none [] 11 332 700 Q E h0) (hG : gO G = true) {v1 : Int} {h : MH} (H :
    ((v1 = 0 →
      Q 0 h) ∧
    (¬ v1 = 0 →
      (hz h + 1 ≤ LIMC) ∧
      (hs h + 7 ≤ LIMS) ∧
      (∀ h1, h1 = hnew h 17 0 7 →
      S_X17_init l G [(2017, (hz h + 1)), (0, (hv h1 396 71))] h1 (fun _ h3 =>
      E 17 (hz h + 1) h3) E)))) : JW K 0 [(2009, 396), (0, v1)] [] h := by
  have e1 := ki.2.2.2.2.1
  have e2 := ki.2.2.2.2.2.1
  subst e1; subst e2
  exact run_ok (dia := []) (cnr := []) (cuts := []) ki.1 (pk_X9_wrongIf ki hG) ok_X9_wrongIf (by decide) 9 true _ _ _ _ H
abbrev k_X9_lay : List (Nat × List (Nat × Instr)) := [(42, [(0, .aload_n 0), (1, .aload_n 0), (2, .getfield 399), (5, .aload_n 0), (6, .getfield 412), (9, .if_icmp .ne 7), (12, .iconst 1), (13, .goto 4), (16, .iconst 0), (17, .invokevirtual 405), (20, .aload_n 0), (21, .dup), (22, .getfield 402), (25, .iload_n 1), (26, .aload_n 0), (27, .getfield 399), (30, .ishl), (31, .ior), (32, .putfield 402), (35, .aload_n 0), (36, .dup), (37, .getfield 399), (40, .iconst 1), (41, .iadd)]),
  (54, [(42, .putfield 399), (45, .return_)])]
theorem ok_X9_lay : CodeOK cX9_lay k_X9_lay := okw 0 (by decide +kernel) (okw 42 (by decide +kernel) (okn))
abbrev p_X9_lay (l : Launch) (G : JG) : JP := (true, [(399, 9, 68, 0, 0), (402, 9, 69, 0, 0), (412, 9, 70, 0, 0)], [], [], [(399, 9, 68, 0), (402, 9, 69, 0)], [], [], [(405, 1, [0, 2009], 700, S_X9_wrongIf l G)], false, 700, [])
theorem pk_X9_lay {K : JC} {l : Launch} {G : JG} {Q : Int → MH → Prop} {E : Nat → Int → MH → Prop} {h0 : MH} (ki : KI K l G yX9_lay cX9_lay 2 none [] 12 353 700 Q E h0) (hG : gO G = true) : POK K RX9 (p_X9_lay l G) :=
  POKi (y := yX9_lay) ki hG (rfs rf_X9_ok (by decide +kernel)) fmz fmz (rps rp_X9_ok (by decide +kernel)) fmz fmz
  (pkE ki (by
    intro K e1 e2 e3 e4; subst e1; subst e2
    exact fmE (ceV 9 e3 e4 yl_X9_wrongIf ⟨by decide, ⟨_, _, rfl⟩, q2519, qs110, q2517⟩ rfl) (fmz))) (fun z => Bool.noConfusion z) rfl (pkP ki (by
    intro K e1 e2 e3 e4; subst e1; subst e2
    exact fmz))
theorem r_X9_lay_0 {K : JC} {l : Launch} {G : JG} {Q : Int → MH → Prop} {E : Nat → Int → MH → Prop} {h0 : MH} (ki : KI K l G yX9_lay cX9_lay 2 none [] 12 353 700 Q E h0) (hG : gO G = true) {v1 : Int} {h : MH} (H :
    S_X9_wrongIf l G [(2009, 396), (0, (if (hv h 396 68) = (hv h 396 70) then 1 else 0 : Int))] h (fun _ h2 =>
    (∀ h3, h3 = hset h2 396 69 (i_or (hv h2 396 69) (i_shl v1 (hv h2 396 68))) →
    (∀ h4, h4 = hset h3 396 68 (w32 ((hv h3 396 68) + 1)) →
    Q 0 h4))) E) : JW K 0 [(2009, 396), (0, v1)] [] h := by
  have e1 := ki.2.2.2.2.1
  have e2 := ki.2.2.2.2.2.1
  subst e1; subst e2
  exact run_ok (dia := [(9, 17)]) (cnr := []) (cuts := []) ki.1 (pk_X9_lay ki hG) ok_X9_lay (by decide) 24 true _ _ _ _ H
abbrev k_X9_judge_2 : List (Nat × List (Nat × Instr)) := [(22, [(0, .aload_n 1), (1, .getfield 342), (4, .iload_n 3), (5, .iaload), (6, .istore 4), (8, .aload_n 1), (9, .getfield 345), (12, .iload_n 3), (13, .iaload), (14, .istore 5), (16, .aload_n 1), (17, .getfield 339), (20, .iload_n 3), (21, .iaload)]),
  (184, [(22, .tableswitch 783 0 36 #[162, 170, 178, 197, 216, 225, 246, 273, 273, 273, 273, 273, 291, 162, 304, 312, 403, 331, 368, 368, 170, 432, 445, 458, 477, 496, 521, 546, 560, 574, 574, 670, 710, 770, 783, 783, 718])]),
  (227, [(184, .aload_n 0), (185, .iconst 0), (186, .invokevirtual 421), (189, .goto 616), (192, .aload_n 0), (193, .iconst 1), (194, .invokevirtual 421), (197, .goto 608), (200, .aload_n 0), (201, .aload_n 1), (202, .getfield 281), (205, .bipush 8), (207, .iload_n 2), (208, .imul), (209, .iload 4), (211, .iadd), (212, .iaload), (213, .invokevirtual 421), (216, .goto 589), (219, .aload_n 0), (220, .aload_n 1), (221, .getfield 281), (224, .bipush 8), (226, .iload_n 2)]),
  (275, [(227, .imul), (228, .iload 4), (230, .iadd), (231, .iaload), (232, .invokevirtual 409), (235, .goto 570), (238, .aload_n 0), (239, .invokevirtual 436), (242, .istore 6), (244, .goto 561), (247, .aload_n 0), (248, .invokevirtual 436), (251, .istore 7), (253, .aload_n 0), (254, .iload 7), (256, .invokevirtual 421), (259, .aload_n 0), (260, .iload 7), (262, .invokevirtual 421), (265, .goto 540), (268, .aload_n 0), (269, .invokevirtual 436), (272, .istore 8), (274, .aload_n 0)]),
  (320, [(275, .invokevirtual 436), (278, .istore 9), (280, .aload_n 0), (281, .iload 8), (283, .invokevirtual 421), (286, .aload_n 0), (287, .iload 9), (289, .invokevirtual 421), (292, .goto 513), (295, .aload_n 0), (296, .iconst 0), (297, .invokevirtual 409), (300, .aload_n 0), (301, .iconst 0), (302, .invokevirtual 409), (305, .aload_n 0), (306, .iconst 0), (307, .invokevirtual 421), (310, .goto 495), (313, .aload_n 0), (314, .iconst 0), (315, .invokevirtual 409), (318, .aload_n 0), (319, .iconst 0)]),
  (369, [(320, .invokevirtual 421), (323, .goto 482), (326, .aload_n 0), (327, .iconst 0), (328, .invokevirtual 409), (331, .goto 474), (334, .aload_n 0), (335, .aload_n 0), (336, .getfield 399), (339, .ifCond .le 7), (342, .iconst 1), (343, .goto 4), (346, .iconst 0), (347, .invokevirtual 405), (350, .goto 455), (353, .aload_n 0), (354, .aload_n 0), (355, .getfield 399), (358, .ifCond .gt 21), (361, .aload_n 1), (362, .getfield 281), (365, .bipush 8), (367, .iload_n 2), (368, .imul)]),
  (411, [(369, .iload 4), (371, .bipush 8), (373, .irem), (374, .iadd), (375, .iaload), (376, .ifCond .eq 7), (379, .iconst 1), (380, .goto 4), (383, .iconst 0), (384, .invokevirtual 405), (387, .goto 418), (390, .aload_n 0), (391, .aload_n 0), (392, .getfield 399), (395, .ifCond .gt 19), (398, .aload_n 1), (399, .getfield 281), (402, .bipush 8), (404, .iload_n 2), (405, .imul), (406, .iload 4), (408, .iadd), (409, .iaload), (410, .iconst 1)]),
  (459, [(411, .if_icmp .eq 7), (414, .iconst 1), (415, .goto 4), (418, .iconst 0), (419, .invokevirtual 405), (422, .goto 383), (425, .aload_n 0), (426, .iconst 0), (427, .invokevirtual 409), (430, .aload_n 0), (431, .iconst 0), (432, .invokevirtual 409), (435, .aload_n 0), (436, .aload_n 0), (437, .getfield 399), (440, .ifCond .le 7), (443, .iconst 1), (444, .goto 4), (447, .iconst 0), (448, .invokevirtual 405), (451, .goto 354), (454, .aload_n 0), (455, .iconst 0), (456, .invokevirtual 409)]),
  (505, [(459, .aload_n 0), (460, .iconst 1), (461, .invokevirtual 421), (464, .goto 341), (467, .aload_n 0), (468, .iconst 1), (469, .invokevirtual 409), (472, .aload_n 0), (473, .iconst 0), (474, .invokevirtual 421), (477, .goto 328), (480, .aload_n 0), (481, .iconst 0), (482, .invokevirtual 409), (485, .aload_n 0), (486, .iconst 1), (487, .invokevirtual 409), (490, .aload_n 0), (491, .iload 4), (493, .invokevirtual 421), (496, .goto 309), (499, .aload_n 0), (500, .iload 4), (502, .invokevirtual 409)]),
  (548, [(505, .aload_n 0), (506, .iconst 0), (507, .invokevirtual 409), (510, .aload_n 0), (511, .iconst 1), (512, .invokevirtual 409), (515, .goto 290), (518, .aload_n 0), (519, .iconst 1), (520, .invokevirtual 409), (523, .aload_n 0), (524, .aload_n 1), (525, .getfield 272), (528, .bipush 8), (530, .iload 4), (532, .imul), (533, .iload 5), (535, .iadd), (536, .iaload), (537, .invokevirtual 421), (540, .goto 265), (543, .aload_n 0), (544, .aload_n 1), (545, .getfield 272)]),
  (593, [(548, .bipush 8), (550, .iload 4), (552, .imul), (553, .iload 5), (555, .iadd), (556, .iaload), (557, .invokevirtual 409), (560, .aload_n 0), (561, .iconst 1), (562, .invokevirtual 409), (565, .goto 240), (568, .aload_n 0), (569, .aload_n 1), (570, .getfield 263), (573, .iload 4), (575, .iaload), (576, .invokevirtual 421), (579, .goto 226), (582, .aload_n 0), (583, .aload_n 1), (584, .getfield 263), (587, .iload 4), (589, .iaload), (590, .invokevirtual 409)]),
  (639, [(593, .goto 212), (596, .aload_n 1), (597, .getfield 339), (600, .iload_n 3), (601, .iaload), (602, .bipush 29), (604, .if_icmp .ne 8), (607, .iload 5), (609, .goto 9), (612, .aload_n 1), (613, .iload 4), (615, .invokestatic 439), (618, .istore 10), (620, .aload_n 0), (621, .iload 10), (623, .iconst (-1)), (624, .if_icmp .eq 27), (627, .aload_n 1), (628, .getfield 339), (631, .iload_n 3), (632, .iaload), (633, .bipush 29), (635, .if_icmp .ne 20), (638, .aload_n 1)]),
  (685, [(639, .getfield 287), (642, .iload 5), (644, .iaload), (645, .sipush 255), (648, .if_icmp .eq 7), (651, .iconst 1), (652, .goto 4), (655, .iconst 0), (656, .invokevirtual 405), (659, .aload_n 0), (660, .aload_n 1), (661, .iload 10), (663, .invokevirtual 443), (666, .aload_n 1), (667, .getfield 278), (670, .iload 10), (672, .iaload), (673, .ifCond .le 132), (676, .aload_n 0), (677, .aload_n 1), (678, .getfield 278), (681, .iload 10), (683, .iaload), (684, .iconst 1)]),
  (729, [(685, .isub), (686, .invokevirtual 421), (689, .goto 116), (692, .aload_n 1), (693, .getfield 278), (696, .iload_n 2), (697, .iaload), (698, .ifCond .le 15), (701, .aload_n 0), (702, .aload_n 1), (703, .getfield 278), (706, .iload_n 2), (707, .iaload), (708, .iconst 1), (709, .isub), (710, .invokevirtual 409), (713, .aload_n 0), (714, .aload_n 0), (715, .getfield 399), (718, .ifCond .le 7), (721, .iconst 1), (722, .goto 4), (725, .iconst 0), (726, .invokevirtual 405)]),
  (776, [(729, .goto 76), (732, .aload_n 0), (733, .iconst 1), (734, .invokevirtual 409), (737, .goto 68), (740, .aload_n 1), (741, .iload 4), (743, .invokestatic 439), (746, .istore 11), (748, .aload_n 0), (749, .iload 11), (751, .iconst (-1)), (752, .if_icmp .eq 24), (755, .aload_n 1), (756, .getfield 275), (759, .iload 11), (761, .iaload), (762, .iconst 1), (763, .if_icmp .ne 13), (766, .aload_n 1), (767, .getfield 278), (770, .iload 11), (772, .iaload), (773, .ifCond .eq 7)]),
  (814, [(776, .iconst 1), (777, .goto 4), (780, .iconst 0), (781, .invokevirtual 405), (784, .aload_n 0), (785, .iconst 1), (786, .invokevirtual 409), (789, .goto 16), (792, .aload_n 0), (793, .iconst 1), (794, .invokevirtual 409), (797, .aload_n 0), (798, .iconst 1), (799, .invokevirtual 421), (802, .goto 3), (805, .return_)])]
theorem ok_X9_judge_2 : CodeOK cX9_judge_2 k_X9_judge_2 := okw 0 (by decide +kernel) (okc (by decide +kernel) (okw 184 (by decide +kernel) (okw 227 (by decide +kernel) (okw 275 (by decide +kernel) (okw 320 (by decide +kernel) (okw 369 (by decide +kernel) (okw 411 (by decide +kernel) (okw 459 (by decide +kernel) (okw 505 (by decide +kernel) (okw 548 (by decide +kernel) (okw 593 (by decide +kernel) (okw 639 (by decide +kernel) (okw 685 (by decide +kernel) (okw 729 (by decide +kernel) (okw 776 (by decide +kernel) (okn))))))))))))))))
abbrev p_X9_judge_2 (l : Launch) (G : JG) : JP := (true, [(263, 10, 2, 1008100, 1), (272, 10, 5, 1192100, 4), (275, 10, 9, 1040100, 7), (278, 10, 10, 1040100, 8), (281, 10, 12, 1320100, 10), (287, 10, 7, 1040100, 5), (339, 10, 22, 2500100, 19), (342, 10, 23, 2500100, 20), (345, 10, 24, 2500100, 21), (399, 9, 68, 0, 0)], [], [], [], [], [], [(405, 1, [0, 2009], 700, S_X9_wrongIf l G), (409, 1, [0, 2009], 700, S_X9_pull l G), (421, 1, [0, 2009], 700, S_X9_lay l G), (436, 1, [2009], 0, S_X9_pullAny l G), (439, 0, [0, 14], 0, S_X9_withName l G), (443, 1, [0, 14, 2009], 700, S_X9_pullArguments l G)], false, 700, [])
theorem pk_X9_judge_2 {K : JC} {l : Launch} {G : JG} {Q : Int → MH → Prop} {E : Nat → Int → MH → Prop} {h0 : MH} (ki : KI K l G yX9_judge_2 cX9_judge_2 12 none [] 14 397 700 Q E h0) (hG : gO G = true) : POK K RX9 (p_X9_judge_2 l G) :=
  POKi (y := yX9_judge_2) ki hG (rfs rf_X9_ok (by decide +kernel)) fmz fmz fmz fmz fmz
  (pkE ki (by
    intro K e1 e2 e3 e4; subst e1; subst e2
    exact fmE (ceV 9 e3 e4 yl_X9_wrongIf ⟨by decide, ⟨_, _, rfl⟩, q2519, qs110, q2517⟩ rfl) (fmE (ceV 9 e3 e4 yl_X9_pull ⟨by decide, ⟨_, _, rfl⟩, q2531, qs113, q2529⟩ rfl) (fmE (ceV 9 e3 e4 yl_X9_lay ⟨by decide, ⟨_, _, rfl⟩, q2523, qs111, q2521⟩ rfl) (fmE (ceV 9 e3 e4 yl_X9_pullAny ⟨by decide, ⟨_, _, rfl⟩, q2535, qs114, q2533⟩ rfl) (fmE (ceS e3 e4 yl_X9_withName ⟨q2538, Or.inl q2537⟩ rfl) (fmE (ceV 9 e3 e4 yl_X9_pullArguments ⟨by decide, ⟨_, _, rfl⟩, q2542, qs115, q2540⟩ rfl) (fmz)))))))) (fun z => Bool.noConfusion z) rfl (pkP ki (by
    intro K e1 e2 e3 e4; subst e1; subst e2
    exact fmz))
theorem r_X9_judge_2_0 {K : JC} {l : Launch} {G : JG} {Q : Int → MH → Prop} {E : Nat → Int → MH → Prop} {h0 : MH} (ki : KI K l G yX9_judge_2 cX9_judge_2 12 none [] 14 397 700 Q E h0) (hG : gO G = true) {v1 v2 v3 : Int} {h : MH} (H :
    (v1 ≠ 0) ∧
    (0 ≤ v3) ∧
    (v3 < 1500) ∧
    (∀ x4_1 : Int, x4_1 = (hv h (v1 + 20) v3) →
    (v1 ≠ 0) ∧
    (0 ≤ v3) ∧
    (v3 < 1500) ∧
    (∀ x5_2 : Int, x5_2 = (hv h (v1 + 21) v3) →
    (v1 ≠ 0) ∧
    (0 ≤ v3) ∧
    (v3 < 1500) ∧
    ((((hv h (v1 + 19) v3) = 0 →
      S_X9_lay l G [(2009, 396), (0, 0)] h (fun _ h4 =>
      Q 0 h4) E) ∧
    (((hv h (v1 + 19) v3) = 0 + 1 →
      S_X9_lay l G [(2009, 396), (0, 1)] h (fun _ h6 =>
      Q 0 h6) E) ∧
    (((hv h (v1 + 19) v3) = 0 + 1 + 1 →
      (v1 ≠ 0) ∧
      (0 ≤ (w32 ((w32 (8 * v2)) + x4_1))) ∧
      ((w32 ((w32 (8 * v2)) + x4_1)) < 320) ∧
      S_X9_lay l G [(2009, 396), (0, (hv h (v1 + 10) (w32 ((w32 (8 * v2)) + x4_1))))] h (fun _ h8 =>
      Q 0 h8) E) ∧
    (((hv h (v1 + 19) v3) = 0 + 1 + 1 + 1 →
      (v1 ≠ 0) ∧
      (0 ≤ (w32 ((w32 (8 * v2)) + x4_1))) ∧
      ((w32 ((w32 (8 * v2)) + x4_1)) < 320) ∧
      S_X9_pull l G [(2009, 396), (0, (hv h (v1 + 10) (w32 ((w32 (8 * v2)) + x4_1))))] h (fun _ h10 =>
      Q 0 h10) E) ∧
    (((hv h (v1 + 19) v3) = 0 + 1 + 1 + 1 + 1 →
      S_X9_pullAny l G [(2009, 396)] h (fun z11 h12 =>
      (∀ x6_13 : Int, x6_13 = z11 →
      Q 0 h12)) E) ∧
    (((hv h (v1 + 19) v3) = 0 + 1 + 1 + 1 + 1 + 1 →
      S_X9_pullAny l G [(2009, 396)] h (fun z14 h15 =>
      (∀ x7_16 : Int, x7_16 = z14 →
      S_X9_lay l G [(2009, 396), (0, x7_16)] h15 (fun _ h18 =>
      S_X9_lay l G [(2009, 396), (0, x7_16)] h18 (fun _ h20 =>
      Q 0 h20) E) E)) E) ∧
    (((hv h (v1 + 19) v3) = 0 + 1 + 1 + 1 + 1 + 1 + 1 →
      S_X9_pullAny l G [(2009, 396)] h (fun z21 h22 =>
      (∀ x8_23 : Int, x8_23 = z21 →
      S_X9_pullAny l G [(2009, 396)] h22 (fun z24 h25 =>
      (∀ x9_26 : Int, x9_26 = z24 →
      S_X9_lay l G [(2009, 396), (0, x8_23)] h25 (fun _ h28 =>
      S_X9_lay l G [(2009, 396), (0, x9_26)] h28 (fun _ h30 =>
      Q 0 h30) E) E)) E)) E) ∧
    (((hv h (v1 + 19) v3) = 0 + 1 + 1 + 1 + 1 + 1 + 1 + 1 →
      S_X9_pull l G [(2009, 396), (0, 0)] h (fun _ h32 =>
      S_X9_pull l G [(2009, 396), (0, 0)] h32 (fun _ h34 =>
      S_X9_lay l G [(2009, 396), (0, 0)] h34 (fun _ h36 =>
      Q 0 h36) E) E) E) ∧
    (((hv h (v1 + 19) v3) = 0 + 1 + 1 + 1 + 1 + 1 + 1 + 1 + 1 →
      S_X9_pull l G [(2009, 396), (0, 0)] h (fun _ h38 =>
      S_X9_pull l G [(2009, 396), (0, 0)] h38 (fun _ h40 =>
      S_X9_lay l G [(2009, 396), (0, 0)] h40 (fun _ h42 =>
      Q 0 h42) E) E) E) ∧
    (((hv h (v1 + 19) v3) = 0 + 1 + 1 + 1 + 1 + 1 + 1 + 1 + 1 + 1 →
      S_X9_pull l G [(2009, 396), (0, 0)] h (fun _ h44 =>
      S_X9_pull l G [(2009, 396), (0, 0)] h44 (fun _ h46 =>
      S_X9_lay l G [(2009, 396), (0, 0)] h46 (fun _ h48 =>
      Q 0 h48) E) E) E) ∧
    (((hv h (v1 + 19) v3) = 0 + 1 + 1 + 1 + 1 + 1 + 1 + 1 + 1 + 1 + 1 →
      S_X9_pull l G [(2009, 396), (0, 0)] h (fun _ h50 =>
      S_X9_pull l G [(2009, 396), (0, 0)] h50 (fun _ h52 =>
      S_X9_lay l G [(2009, 396), (0, 0)] h52 (fun _ h54 =>
      Q 0 h54) E) E) E) ∧
    (((hv h (v1 + 19) v3) = 0 + 1 + 1 + 1 + 1 + 1 + 1 + 1 + 1 + 1 + 1 + 1 →
      S_X9_pull l G [(2009, 396), (0, 0)] h (fun _ h56 =>
      S_X9_pull l G [(2009, 396), (0, 0)] h56 (fun _ h58 =>
      S_X9_lay l G [(2009, 396), (0, 0)] h58 (fun _ h60 =>
      Q 0 h60) E) E) E) ∧
    (((hv h (v1 + 19) v3) = 0 + 1 + 1 + 1 + 1 + 1 + 1 + 1 + 1 + 1 + 1 + 1 + 1 →
      S_X9_pull l G [(2009, 396), (0, 0)] h (fun _ h62 =>
      S_X9_lay l G [(2009, 396), (0, 0)] h62 (fun _ h64 =>
      Q 0 h64) E) E) ∧
    (((hv h (v1 + 19) v3) = 0 + 1 + 1 + 1 + 1 + 1 + 1 + 1 + 1 + 1 + 1 + 1 + 1 + 1 →
      S_X9_lay l G [(2009, 396), (0, 0)] h (fun _ h66 =>
      Q 0 h66) E) ∧
    (((hv h (v1 + 19) v3) = 0 + 1 + 1 + 1 + 1 + 1 + 1 + 1 + 1 + 1 + 1 + 1 + 1 + 1 + 1 →
      S_X9_pull l G [(2009, 396), (0, 0)] h (fun _ h68 =>
      Q 0 h68) E) ∧
    (((hv h (v1 + 19) v3) = 0 + 1 + 1 + 1 + 1 + 1 + 1 + 1 + 1 + 1 + 1 + 1 + 1 + 1 + 1 + 1 →
      S_X9_wrongIf l G [(2009, 396), (0, (if 0 < (hv h 396 68) then 1 else 0 : Int))] h (fun _ h70 =>
      Q 0 h70) E) ∧
    (((hv h (v1 + 19) v3) = 0 + 1 + 1 + 1 + 1 + 1 + 1 + 1 + 1 + 1 + 1 + 1 + 1 + 1 + 1 + 1 + 1 →
      S_X9_pull l G [(2009, 396), (0, 0)] h (fun _ h72 =>
      S_X9_pull l G [(2009, 396), (0, 0)] h72 (fun _ h74 =>
      S_X9_wrongIf l G [(2009, 396), (0, (if 0 < (hv h74 396 68) then 1 else 0 : Int))] h74 (fun _ h76 =>
      Q 0 h76) E) E) E) ∧
    (((hv h (v1 + 19) v3) = 0 + 1 + 1 + 1 + 1 + 1 + 1 + 1 + 1 + 1 + 1 + 1 + 1 + 1 + 1 + 1 + 1 + 1 →
      (((hv h 396 68) ≤ 0 → (v1 ≠ 0) ∧ (¬ (8 : Int) = 0) ∧ (0 ≤ (w32 ((w32 (8 * v2)) + (i_rem x4_1 8)))) ∧ (w32 ((w32 (8 * v2)) + (i_rem x4_1 8))) < 320)) ∧
      S_X9_wrongIf l G [(2009, 396), (0, (if 0 < (hv h 396 68) then 1 else (if (hv h (v1 + 10) (w32 ((w32 (8 * v2)) + (i_rem x4_1 8)))) = 0 then 0 else 1 : Int) : Int))] h (fun _ h78 =>
      Q 0 h78) E) ∧
    (((hv h (v1 + 19) v3) = 0 + 1 + 1 + 1 + 1 + 1 + 1 + 1 + 1 + 1 + 1 + 1 + 1 + 1 + 1 + 1 + 1 + 1 + 1 →
      (((hv h 396 68) ≤ 0 → (v1 ≠ 0) ∧ (0 ≤ (w32 ((w32 (8 * v2)) + x4_1))) ∧ (w32 ((w32 (8 * v2)) + x4_1)) < 320)) ∧
      S_X9_wrongIf l G [(2009, 396), (0, (if 0 < (hv h 396 68) then 1 else (if (hv h (v1 + 10) (w32 ((w32 (8 * v2)) + x4_1))) = 1 then 0 else 1 : Int) : Int))] h (fun _ h80 =>
      Q 0 h80) E) ∧
    (((hv h (v1 + 19) v3) = 0 + 1 + 1 + 1 + 1 + 1 + 1 + 1 + 1 + 1 + 1 + 1 + 1 + 1 + 1 + 1 + 1 + 1 + 1 + 1 →
      (((hv h 396 68) ≤ 0 → (v1 ≠ 0) ∧ (0 ≤ (w32 ((w32 (8 * v2)) + x4_1))) ∧ (w32 ((w32 (8 * v2)) + x4_1)) < 320)) ∧
      S_X9_wrongIf l G [(2009, 396), (0, (if 0 < (hv h 396 68) then 1 else (if (hv h (v1 + 10) (w32 ((w32 (8 * v2)) + x4_1))) = 1 then 0 else 1 : Int) : Int))] h (fun _ h82 =>
      Q 0 h82) E) ∧
    (((hv h (v1 + 19) v3) = 0 + 1 + 1 + 1 + 1 + 1 + 1 + 1 + 1 + 1 + 1 + 1 + 1 + 1 + 1 + 1 + 1 + 1 + 1 + 1 + 1 →
      S_X9_lay l G [(2009, 396), (0, 1)] h (fun _ h84 =>
      Q 0 h84) E) ∧
    (((hv h (v1 + 19) v3) = 0 + 1 + 1 + 1 + 1 + 1 + 1 + 1 + 1 + 1 + 1 + 1 + 1 + 1 + 1 + 1 + 1 + 1 + 1 + 1 + 1 + 1 →
      S_X9_pull l G [(2009, 396), (0, 0)] h (fun _ h86 =>
      S_X9_lay l G [(2009, 396), (0, 1)] h86 (fun _ h88 =>
      Q 0 h88) E) E) ∧
    (((hv h (v1 + 19) v3) = 0 + 1 + 1 + 1 + 1 + 1 + 1 + 1 + 1 + 1 + 1 + 1 + 1 + 1 + 1 + 1 + 1 + 1 + 1 + 1 + 1 + 1 + 1 →
      S_X9_pull l G [(2009, 396), (0, 1)] h (fun _ h90 =>
      S_X9_lay l G [(2009, 396), (0, 0)] h90 (fun _ h92 =>
      Q 0 h92) E) E) ∧
    (((hv h (v1 + 19) v3) = 0 + 1 + 1 + 1 + 1 + 1 + 1 + 1 + 1 + 1 + 1 + 1 + 1 + 1 + 1 + 1 + 1 + 1 + 1 + 1 + 1 + 1 + 1 + 1 →
      S_X9_pull l G [(2009, 396), (0, 0)] h (fun _ h94 =>
      S_X9_pull l G [(2009, 396), (0, 1)] h94 (fun _ h96 =>
      S_X9_lay l G [(2009, 396), (0, x4_1)] h96 (fun _ h98 =>
      Q 0 h98) E) E) E) ∧
    (((hv h (v1 + 19) v3) = 0 + 1 + 1 + 1 + 1 + 1 + 1 + 1 + 1 + 1 + 1 + 1 + 1 + 1 + 1 + 1 + 1 + 1 + 1 + 1 + 1 + 1 + 1 + 1 + 1 →
      S_X9_pull l G [(2009, 396), (0, x4_1)] h (fun _ h100 =>
      S_X9_pull l G [(2009, 396), (0, 0)] h100 (fun _ h102 =>
      S_X9_pull l G [(2009, 396), (0, 1)] h102 (fun _ h104 =>
      Q 0 h104) E) E) E) ∧
    (((hv h (v1 + 19) v3) = 0 + 1 + 1 + 1 + 1 + 1 + 1 + 1 + 1 + 1 + 1 + 1 + 1 + 1 + 1 + 1 + 1 + 1 + 1 + 1 + 1 + 1 + 1 + 1 + 1 + 1 →
      S_X9_pull l G [(2009, 396), (0, 1)] h (fun _ h106 =>
      (v1 ≠ 0) ∧
      (0 ≤ (w32 ((w32 (8 * x4_1)) + x5_2))) ∧
      ((w32 ((w32 (8 * x4_1)) + x5_2)) < 192) ∧
      S_X9_lay l G [(2009, 396), (0, (hv h106 (v1 + 4) (w32 ((w32 (8 * x4_1)) + x5_2))))] h106 (fun _ h108 =>
      Q 0 h108) E) E) ∧
    (((hv h (v1 + 19) v3) = 0 + 1 + 1 + 1 + 1 + 1 + 1 + 1 + 1 + 1 + 1 + 1 + 1 + 1 + 1 + 1 + 1 + 1 + 1 + 1 + 1 + 1 + 1 + 1 + 1 + 1 + 1 →
      (v1 ≠ 0) ∧
      (0 ≤ (w32 ((w32 (8 * x4_1)) + x5_2))) ∧
      ((w32 ((w32 (8 * x4_1)) + x5_2)) < 192) ∧
      S_X9_pull l G [(2009, 396), (0, (hv h (v1 + 4) (w32 ((w32 (8 * x4_1)) + x5_2))))] h (fun _ h110 =>
      S_X9_pull l G [(2009, 396), (0, 1)] h110 (fun _ h112 =>
      Q 0 h112) E) E) ∧
    (((hv h (v1 + 19) v3) = 0 + 1 + 1 + 1 + 1 + 1 + 1 + 1 + 1 + 1 + 1 + 1 + 1 + 1 + 1 + 1 + 1 + 1 + 1 + 1 + 1 + 1 + 1 + 1 + 1 + 1 + 1 + 1 →
      (v1 ≠ 0) ∧
      (0 ≤ x4_1) ∧
      (x4_1 < 8) ∧
      S_X9_lay l G [(2009, 396), (0, (hv h (v1 + 1) x4_1))] h (fun _ h114 =>
      Q 0 h114) E) ∧
    (((hv h (v1 + 19) v3) = 0 + 1 + 1 + 1 + 1 + 1 + 1 + 1 + 1 + 1 + 1 + 1 + 1 + 1 + 1 + 1 + 1 + 1 + 1 + 1 + 1 + 1 + 1 + 1 + 1 + 1 + 1 + 1 + 1 →
      (v1 ≠ 0) ∧
      (0 ≤ x4_1) ∧
      (x4_1 < 8) ∧
      S_X9_pull l G [(2009, 396), (0, (hv h (v1 + 1) x4_1))] h (fun _ h116 =>
      Q 0 h116) E) ∧
    (((hv h (v1 + 19) v3) = 0 + 1 + 1 + 1 + 1 + 1 + 1 + 1 + 1 + 1 + 1 + 1 + 1 + 1 + 1 + 1 + 1 + 1 + 1 + 1 + 1 + 1 + 1 + 1 + 1 + 1 + 1 + 1 + 1 + 1 →
      (v1 ≠ 0) ∧
      (0 ≤ v3) ∧
      (v3 < 1500) ∧
      ((¬ (hv h (v1 + 19) v3) = 29 →
        S_X9_withName l G [(14, v1), (0, x4_1)] h (fun z117 h118 =>
        (∀ x10_119 : Int, x10_119 = z117 →
        ((¬ x10_119 = (-1) → (v1 ≠ 0) ∧ (0 ≤ v3) ∧ (v3 < 1500) ∧ ((hv h118 (v1 + 19) v3) = 29 → (v1 ≠ 0) ∧ (0 ≤ x5_2) ∧ x5_2 < 40))) ∧
        S_X9_wrongIf l G [(2009, 396), (0, (if x10_119 = (-1) then 1 else (if (hv h118 (v1 + 19) v3) = 29 then (if (hv h118 (v1 + 5) x5_2) = 255 then 0 else 1 : Int) else 0 : Int) : Int))] h118 (fun _ h121 =>
        S_X9_pullArguments l G [(2009, 396), (14, v1), (0, x10_119)] h121 (fun _ h123 =>
        (v1 ≠ 0) ∧
        (0 ≤ x10_119) ∧
        (x10_119 < 40) ∧
        (((hv h123 (v1 + 8) x10_119) ≤ 0 →
          Q 0 h123) ∧
        (0 < (hv h123 (v1 + 8) x10_119) →
          (v1 ≠ 0) ∧
          (0 ≤ x10_119) ∧
          (x10_119 < 40) ∧
          S_X9_lay l G [(2009, 396), (0, (w32 ((hv h123 (v1 + 8) x10_119) - 1)))] h123 (fun _ h125 =>
          Q 0 h125) E))) E) E)) E) ∧
      ((hv h (v1 + 19) v3) = 29 →
        (∀ x10_126 : Int, x10_126 = x5_2 →
        ((¬ x10_126 = (-1) → (v1 ≠ 0) ∧ (0 ≤ v3) ∧ (v3 < 1500) ∧ ((hv h (v1 + 19) v3) = 29 → (v1 ≠ 0) ∧ (0 ≤ x5_2) ∧ x5_2 < 40))) ∧
        S_X9_wrongIf l G [(2009, 396), (0, (if x10_126 = (-1) then 1 else (if (hv h (v1 + 19) v3) = 29 then (if (hv h (v1 + 5) x5_2) = 255 then 0 else 1 : Int) else 0 : Int) : Int))] h (fun _ h128 =>
        S_X9_pullArguments l G [(2009, 396), (14, v1), (0, x10_126)] h128 (fun _ h130 =>
        (v1 ≠ 0) ∧
        (0 ≤ x10_126) ∧
        (x10_126 < 40) ∧
        (((hv h130 (v1 + 8) x10_126) ≤ 0 →
          Q 0 h130) ∧
        (0 < (hv h130 (v1 + 8) x10_126) →
          (v1 ≠ 0) ∧
          (0 ≤ x10_126) ∧
          (x10_126 < 40) ∧
          S_X9_lay l G [(2009, 396), (0, (w32 ((hv h130 (v1 + 8) x10_126) - 1)))] h130 (fun _ h132 =>
          Q 0 h132) E))) E) E)))) ∧
    (((hv h (v1 + 19) v3) = 0 + 1 + 1 + 1 + 1 + 1 + 1 + 1 + 1 + 1 + 1 + 1 + 1 + 1 + 1 + 1 + 1 + 1 + 1 + 1 + 1 + 1 + 1 + 1 + 1 + 1 + 1 + 1 + 1 + 1 + 1 →
      (v1 ≠ 0) ∧
      (0 ≤ v3) ∧
      (v3 < 1500) ∧
      ((¬ (hv h (v1 + 19) v3) = 29 →
        S_X9_withName l G [(14, v1), (0, x4_1)] h (fun z133 h134 =>
        (∀ x10_135 : Int, x10_135 = z133 →
        ((¬ x10_135 = (-1) → (v1 ≠ 0) ∧ (0 ≤ v3) ∧ (v3 < 1500) ∧ ((hv h134 (v1 + 19) v3) = 29 → (v1 ≠ 0) ∧ (0 ≤ x5_2) ∧ x5_2 < 40))) ∧
        S_X9_wrongIf l G [(2009, 396), (0, (if x10_135 = (-1) then 1 else (if (hv h134 (v1 + 19) v3) = 29 then (if (hv h134 (v1 + 5) x5_2) = 255 then 0 else 1 : Int) else 0 : Int) : Int))] h134 (fun _ h137 =>
        S_X9_pullArguments l G [(2009, 396), (14, v1), (0, x10_135)] h137 (fun _ h139 =>
        (v1 ≠ 0) ∧
        (0 ≤ x10_135) ∧
        (x10_135 < 40) ∧
        (((hv h139 (v1 + 8) x10_135) ≤ 0 →
          Q 0 h139) ∧
        (0 < (hv h139 (v1 + 8) x10_135) →
          (v1 ≠ 0) ∧
          (0 ≤ x10_135) ∧
          (x10_135 < 40) ∧
          S_X9_lay l G [(2009, 396), (0, (w32 ((hv h139 (v1 + 8) x10_135) - 1)))] h139 (fun _ h141 =>
          Q 0 h141) E))) E) E)) E) ∧
      ((hv h (v1 + 19) v3) = 29 →
        (∀ x10_142 : Int, x10_142 = x5_2 →
        ((¬ x10_142 = (-1) → (v1 ≠ 0) ∧ (0 ≤ v3) ∧ (v3 < 1500) ∧ ((hv h (v1 + 19) v3) = 29 → (v1 ≠ 0) ∧ (0 ≤ x5_2) ∧ x5_2 < 40))) ∧
        S_X9_wrongIf l G [(2009, 396), (0, (if x10_142 = (-1) then 1 else (if (hv h (v1 + 19) v3) = 29 then (if (hv h (v1 + 5) x5_2) = 255 then 0 else 1 : Int) else 0 : Int) : Int))] h (fun _ h144 =>
        S_X9_pullArguments l G [(2009, 396), (14, v1), (0, x10_142)] h144 (fun _ h146 =>
        (v1 ≠ 0) ∧
        (0 ≤ x10_142) ∧
        (x10_142 < 40) ∧
        (((hv h146 (v1 + 8) x10_142) ≤ 0 →
          Q 0 h146) ∧
        (0 < (hv h146 (v1 + 8) x10_142) →
          (v1 ≠ 0) ∧
          (0 ≤ x10_142) ∧
          (x10_142 < 40) ∧
          S_X9_lay l G [(2009, 396), (0, (w32 ((hv h146 (v1 + 8) x10_142) - 1)))] h146 (fun _ h148 =>
          Q 0 h148) E))) E) E)))) ∧
    (((hv h (v1 + 19) v3) = 0 + 1 + 1 + 1 + 1 + 1 + 1 + 1 + 1 + 1 + 1 + 1 + 1 + 1 + 1 + 1 + 1 + 1 + 1 + 1 + 1 + 1 + 1 + 1 + 1 + 1 + 1 + 1 + 1 + 1 + 1 + 1 →
      (v1 ≠ 0) ∧
      (0 ≤ v2) ∧
      (v2 < 40) ∧
      (((hv h (v1 + 8) v2) ≤ 0 →
        S_X9_wrongIf l G [(2009, 396), (0, (if 0 < (hv h 396 68) then 1 else 0 : Int))] h (fun _ h150 =>
        Q 0 h150) E) ∧
      (0 < (hv h (v1 + 8) v2) →
        (v1 ≠ 0) ∧
        (0 ≤ v2) ∧
        (v2 < 40) ∧
        S_X9_pull l G [(2009, 396), (0, (w32 ((hv h (v1 + 8) v2) - 1)))] h (fun _ h152 =>
        S_X9_wrongIf l G [(2009, 396), (0, (if 0 < (hv h152 396 68) then 1 else 0 : Int))] h152 (fun _ h154 =>
        Q 0 h154) E) E))) ∧
    (((hv h (v1 + 19) v3) = 0 + 1 + 1 + 1 + 1 + 1 + 1 + 1 + 1 + 1 + 1 + 1 + 1 + 1 + 1 + 1 + 1 + 1 + 1 + 1 + 1 + 1 + 1 + 1 + 1 + 1 + 1 + 1 + 1 + 1 + 1 + 1 + 1 →
      S_X9_pull l G [(2009, 396), (0, 1)] h (fun _ h156 =>
      Q 0 h156) E) ∧
    (((hv h (v1 + 19) v3) = 0 + 1 + 1 + 1 + 1 + 1 + 1 + 1 + 1 + 1 + 1 + 1 + 1 + 1 + 1 + 1 + 1 + 1 + 1 + 1 + 1 + 1 + 1 + 1 + 1 + 1 + 1 + 1 + 1 + 1 + 1 + 1 + 1 + 1 →
      S_X9_pull l G [(2009, 396), (0, 1)] h (fun _ h158 =>
      S_X9_lay l G [(2009, 396), (0, 1)] h158 (fun _ h160 =>
      Q 0 h160) E) E) ∧
    (((hv h (v1 + 19) v3) = 0 + 1 + 1 + 1 + 1 + 1 + 1 + 1 + 1 + 1 + 1 + 1 + 1 + 1 + 1 + 1 + 1 + 1 + 1 + 1 + 1 + 1 + 1 + 1 + 1 + 1 + 1 + 1 + 1 + 1 + 1 + 1 + 1 + 1 + 1 →
      Q 0 h) ∧
    (((hv h (v1 + 19) v3) = 0 + 1 + 1 + 1 + 1 + 1 + 1 + 1 + 1 + 1 + 1 + 1 + 1 + 1 + 1 + 1 + 1 + 1 + 1 + 1 + 1 + 1 + 1 + 1 + 1 + 1 + 1 + 1 + 1 + 1 + 1 + 1 + 1 + 1 + 1 + 1 →
      Q 0 h) ∧
    (((hv h (v1 + 19) v3) = 0 + 1 + 1 + 1 + 1 + 1 + 1 + 1 + 1 + 1 + 1 + 1 + 1 + 1 + 1 + 1 + 1 + 1 + 1 + 1 + 1 + 1 + 1 + 1 + 1 + 1 + 1 + 1 + 1 + 1 + 1 + 1 + 1 + 1 + 1 + 1 + 1 →
      S_X9_withName l G [(14, v1), (0, x4_1)] h (fun z161 h162 =>
      (∀ x11_163 : Int, x11_163 = z161 →
      ((¬ x11_163 = (-1) → (v1 ≠ 0) ∧ (0 ≤ x11_163) ∧ (x11_163 < 40) ∧ ((hv h162 (v1 + 7) x11_163) = 1 → (v1 ≠ 0) ∧ (0 ≤ x11_163) ∧ x11_163 < 40))) ∧
      S_X9_wrongIf l G [(2009, 396), (0, (if x11_163 = (-1) then 1 else (if (hv h162 (v1 + 7) x11_163) = 1 then (if (hv h162 (v1 + 8) x11_163) = 0 then 0 else 1 : Int) else 1 : Int) : Int))] h162 (fun _ h165 =>
      S_X9_pull l G [(2009, 396), (0, 1)] h165 (fun _ h167 =>
      Q 0 h167) E) E)) E) ∧
    True))))))))))))))))))))))))))))))))))))) ∧ (((hv h (v1 + 19) v3) < 0 ∨ 36 < (hv h (v1 + 19) v3)) →
      Q 0 h))))) : JW K 0 [(2009, 396), (14, v1), (0, v2), (0, v3), (5000, 0), (5000, 0), (5000, 0), (5000, 0), (5000, 0), (5000, 0), (5000, 0), (5000, 0)] [] h := by
  have e1 := ki.2.2.2.2.1
  have e2 := ki.2.2.2.2.2.1
  subst e1; subst e2
  exact run_ok (dia := [(339, 347), (358, 384), (395, 419), (440, 448), (624, 656), (718, 726), (752, 781)]) (cnr := []) (cuts := []) ki.1 (pk_X9_judge_2 ki hG) ok_X9_judge_2 (by decide) 50 true _ _ _ _ H
abbrev k_X9_pull : List (Nat × List (Nat × Instr)) := [(40, [(0, .aload_n 0), (1, .aload_n 0), (2, .getfield 399), (5, .ifCond .eq 20), (8, .aload_n 0), (9, .getfield 402), (12, .aload_n 0), (13, .getfield 399), (16, .iconst 1), (17, .isub), (18, .ishr), (19, .iconst 1), (20, .iand), (21, .iload_n 1), (22, .if_icmp .eq 7), (25, .iconst 1), (26, .goto 4), (29, .iconst 0), (30, .invokevirtual 405), (33, .aload_n 0), (34, .dup), (35, .getfield 399), (38, .iconst 1), (39, .isub)]),
  (69, [(40, .putfield 399), (43, .aload_n 0), (44, .dup), (45, .getfield 402), (48, .iconst 1), (49, .aload_n 0), (50, .getfield 399), (53, .ishl), (54, .iconst 1), (55, .isub), (56, .iand), (57, .putfield 402), (60, .return_)])]
theorem ok_X9_pull : CodeOK cX9_pull k_X9_pull := okw 0 (by decide +kernel) (okw 40 (by decide +kernel) (okn))
abbrev p_X9_pull (l : Launch) (G : JG) : JP := (true, [(399, 9, 68, 0, 0), (402, 9, 69, 0, 0)], [], [], [(399, 9, 68, 0), (402, 9, 69, 0)], [], [], [(405, 1, [0, 2009], 700, S_X9_wrongIf l G)], false, 700, [])
theorem pk_X9_pull {K : JC} {l : Launch} {G : JG} {Q : Int → MH → Prop} {E : Nat → Int → MH → Prop} {h0 : MH} (ki : KI K l G yX9_pull cX9_pull 2 none [] 12 353 700 Q E h0) (hG : gO G = true) : POK K RX9 (p_X9_pull l G) :=
  POKi (y := yX9_pull) ki hG (rfs rf_X9_ok (by decide +kernel)) fmz fmz (rps rp_X9_ok (by decide +kernel)) fmz fmz
  (pkE ki (by
    intro K e1 e2 e3 e4; subst e1; subst e2
    exact fmE (ceV 9 e3 e4 yl_X9_wrongIf ⟨by decide, ⟨_, _, rfl⟩, q2519, qs110, q2517⟩ rfl) (fmz))) (fun z => Bool.noConfusion z) rfl (pkP ki (by
    intro K e1 e2 e3 e4; subst e1; subst e2
    exact fmz))
theorem r_X9_pull_0 {K : JC} {l : Launch} {G : JG} {Q : Int → MH → Prop} {E : Nat → Int → MH → Prop} {h0 : MH} (ki : KI K l G yX9_pull cX9_pull 2 none [] 12 353 700 Q E h0) (hG : gO G = true) {v1 : Int} {h : MH} (H :
    S_X9_wrongIf l G [(2009, 396), (0, (if (hv h 396 68) = 0 then 1 else (if (i_and (i_shr (hv h 396 69) (w32 ((hv h 396 68) - 1))) 1) = v1 then 0 else 1 : Int) : Int))] h (fun _ h2 =>
    (∀ h3, h3 = hset h2 396 68 (w32 ((hv h2 396 68) - 1)) →
    (∀ h4, h4 = hset h3 396 69 (i_and (hv h3 396 69) (w32 ((i_shl 1 (hv h3 396 68)) - 1))) →
    Q 0 h4))) E) : JW K 0 [(2009, 396), (0, v1)] [] h := by
  have e1 := ki.2.2.2.2.1
  have e2 := ki.2.2.2.2.2.1
  subst e1; subst e2
  exact run_ok (dia := [(5, 30)]) (cnr := []) (cuts := []) ki.1 (pk_X9_pull ki hG) ok_X9_pull (by decide) 24 true _ _ _ _ H
abbrev k_X9_pullAny : List (Nat × List (Nat × Instr)) := [(45, [(0, .aload_n 0), (1, .aload_n 0), (2, .getfield 399), (5, .ifCond .ne 7), (8, .iconst 1), (9, .goto 4), (12, .iconst 0), (13, .invokevirtual 405), (16, .aload_n 0), (17, .getfield 402), (20, .aload_n 0), (21, .getfield 399), (24, .iconst 1), (25, .isub), (26, .ishr), (27, .iconst 1), (28, .iand), (29, .istore_n 1), (30, .aload_n 0), (31, .iload_n 1), (32, .invokevirtual 409), (35, .iload_n 1), (36, .ireturn)])]
theorem ok_X9_pullAny : CodeOK cX9_pullAny k_X9_pullAny := okw 0 (by decide +kernel) (okn)
abbrev p_X9_pullAny (l : Launch) (G : JG) : JP := (true, [(399, 9, 68, 0, 0), (402, 9, 69, 0, 0)], [], [], [], [], [], [(405, 1, [0, 2009], 700, S_X9_wrongIf l G), (409, 1, [0, 2009], 700, S_X9_pull l G)], false, 0, [])
theorem pk_X9_pullAny {K : JC} {l : Launch} {G : JG} {Q : Int → MH → Prop} {E : Nat → Int → MH → Prop} {h0 : MH} (ki : KI K l G yX9_pullAny cX9_pullAny 2 (some .int) [] 13 374 0 Q E h0) (hG : gO G = true) : POK K RX9 (p_X9_pullAny l G) :=
  POKi (y := yX9_pullAny) ki hG (rfs rf_X9_ok (by decide +kernel)) fmz fmz fmz fmz fmz
  (pkE ki (by
    intro K e1 e2 e3 e4; subst e1; subst e2
    exact fmE (ceV 9 e3 e4 yl_X9_wrongIf ⟨by decide, ⟨_, _, rfl⟩, q2519, qs110, q2517⟩ rfl) (fmE (ceV 9 e3 e4 yl_X9_pull ⟨by decide, ⟨_, _, rfl⟩, q2531, qs113, q2529⟩ rfl) (fmz)))) (fun z => Bool.noConfusion z) rfl (pkP ki (by
    intro K e1 e2 e3 e4; subst e1; subst e2
    exact fmz))
theorem r_X9_pullAny_0 {K : JC} {l : Launch} {G : JG} {Q : Int → MH → Prop} {E : Nat → Int → MH → Prop} {h0 : MH} (ki : KI K l G yX9_pullAny cX9_pullAny 2 (some .int) [] 13 374 0 Q E h0) (hG : gO G = true) {h : MH} (H :
    S_X9_wrongIf l G [(2009, 396), (0, (if (hv h 396 68) = 0 then 1 else 0 : Int))] h (fun _ h2 =>
    (∀ x1_3 : Int, x1_3 = (i_and (i_shr (hv h2 396 69) (w32 ((hv h2 396 68) - 1))) 1) →
    S_X9_pull l G [(2009, 396), (0, x1_3)] h2 (fun _ h5 =>
    Q x1_3 h5) E)) E) : JW K 0 [(2009, 396), (5000, 0)] [] h := by
  have e1 := ki.2.2.2.2.1
  have e2 := ki.2.2.2.2.2.1
  subst e1; subst e2
  exact run_ok (dia := [(5, 13)]) (cnr := []) (cuts := []) ki.1 (pk_X9_pullAny ki hG) ok_X9_pullAny (by decide) 21 true _ _ _ _ H
abbrev k_X9_withName : List (Nat × List (Nat × Instr)) := [(40, [(0, .iconst (-1)), (1, .istore_n 2), (2, .aload_n 0), (3, .getfield 333), (6, .iconst 1), (7, .isub), (8, .istore_n 3), (9, .iload_n 3), (10, .ifCond .lt 37), (13, .aload_n 0), (14, .getfield 287), (17, .iload_n 3), (18, .iaload), (19, .sipush 255), (22, .if_icmp .eq 17), (25, .aload_n 0), (26, .getfield 290), (29, .iload_n 3), (30, .iaload), (31, .iload_n 1), (32, .if_icmp .ne 7), (35, .iload_n 3), (36, .goto 4), (39, .iload_n 2)]),
  (57, [(40, .istore_n 2), (41, .iinc 3 (-1)), (44, .goto (-35)), (47, .iload_n 2), (48, .ireturn)])]
theorem ok_X9_withName : CodeOK cX9_withName k_X9_withName := okw 0 (by decide +kernel) (okw 40 (by decide +kernel) (okn))
abbrev p_X9_withName (l : Launch) (G : JG) : JP := (true, [(287, 10, 7, 1040100, 5), (290, 10, 8, 1040100, 6), (333, 10, 6, 0, 0)], [], [], [], [], [], [], false, 0, [])
theorem pk_X9_withName {K : JC} {l : Launch} {G : JG} {Q : Int → MH → Prop} {E : Nat → Int → MH → Prop} {h0 : MH} (ki : KI K l G yX9_withName cX9_withName 4 (some .int) [] 4 150 0 Q E h0) (hG : gO G = true) : POK K RX9 (p_X9_withName l G) :=
  POKi (y := yX9_withName) ki hG (rfs rf_X9_ok (by decide +kernel)) fmz fmz fmz fmz fmz
  (pkE ki (by
    intro K e1 e2 e3 e4; subst e1; subst e2
    exact fmz)) (fun z => Bool.noConfusion z) rfl (pkP ki (by
    intro K e1 e2 e3 e4; subst e1; subst e2
    exact fmz))
theorem r_X9_withName_0 {K : JC} {l : Launch} {G : JG} {Q : Int → MH → Prop} {E : Nat → Int → MH → Prop} {h0 : MH} (ki : KI K l G yX9_withName cX9_withName 4 (some .int) [] 4 150 0 Q E h0) (hG : gO G = true) {v0 v1 : Int} {h : MH} (H :
    (∀ x2_1 : Int, x2_1 = (-1) →
    (v0 ≠ 0) ∧
    (∀ x3_2 : Int, x3_2 = (w32 ((hv h v0 6) - 1)) →
    JW K 9 [(14, v0), (0, v1), (0, x2_1), (0, x3_2)] [] h))) : JW K 0 [(14, v0), (0, v1), (5000, 0), (5000, 0)] [] h := by
  have e1 := ki.2.2.2.2.1
  have e2 := ki.2.2.2.2.2.1
  subst e1; subst e2
  exact run_ok (dia := [(22, 40)]) (cnr := []) (cuts := [(9, [14, 0, 0, 0], [])]) ki.1 (pk_X9_withName ki hG) ok_X9_withName (by decide) 9 true _ _ _ _ H
theorem r_X9_withName_9 {K : JC} {l : Launch} {G : JG} {Q : Int → MH → Prop} {E : Nat → Int → MH → Prop} {h0 : MH} (ki : KI K l G yX9_withName cX9_withName 4 (some .int) [] 4 150 0 Q E h0) (hG : gO G = true) {v0 v1 v2 v3 : Int} {h : MH} (H :
    ((v3 < 0 →
      Q v2 h) ∧
    (0 ≤ v3 →
      (v0 ≠ 0) ∧
      (0 ≤ v3) ∧
      (v3 < 40) ∧
      ((¬ (hv h (v0 + 5) v3) = 255 → (v0 ≠ 0) ∧ (0 ≤ v3) ∧ v3 < 40)) ∧
      (∀ x2_1 : Int, x2_1 = (if (hv h (v0 + 5) v3) = 255 then v2 else (if (hv h (v0 + 6) v3) = v1 then v3 else v2 : Int) : Int) →
      (∀ x3_2 : Int, x3_2 = w32 (v3 + (-1)) →
      JW K 9 [(14, v0), (0, v1), (0, x2_1), (0, x3_2)] [] h))))) : JW K 9 [(14, v0), (0, v1), (0, v2), (0, v3)] [] h := by
  have e1 := ki.2.2.2.2.1
  have e2 := ki.2.2.2.2.2.1
  subst e1; subst e2
  exact run_ok (dia := [(22, 40)]) (cnr := []) (cuts := [(9, [14, 0, 0, 0], [])]) ki.1 (pk_X9_withName ki hG) ok_X9_withName (by decide) 13 true _ _ _ _ H
abbrev k_X9_pullArguments : List (Nat × List (Nat × Instr)) := [(43, [(0, .aload_n 1), (1, .getfield 275), (4, .iload_n 2), (5, .iaload), (6, .iconst 1), (7, .isub), (8, .istore_n 3), (9, .iload_n 3), (10, .ifCond .lt 24), (13, .aload_n 0), (14, .aload_n 1), (15, .getfield 281), (18, .bipush 8), (20, .iload_n 2), (21, .imul), (22, .iload_n 3), (23, .iadd), (24, .iaload), (25, .invokevirtual 409), (28, .iinc 3 (-1)), (31, .goto (-22)), (34, .return_)])]
theorem ok_X9_pullArguments : CodeOK cX9_pullArguments k_X9_pullArguments := okw 0 (by decide +kernel) (okn)
abbrev p_X9_pullArguments (l : Launch) (G : JG) : JP := (true, [(275, 10, 9, 1040100, 7), (281, 10, 12, 1320100, 10)], [], [], [], [], [], [(409, 1, [0, 2009], 700, S_X9_pull l G)], false, 700, [])
theorem pk_X9_pullArguments {K : JC} {l : Launch} {G : JG} {Q : Int → MH → Prop} {E : Nat → Int → MH → Prop} {h0 : MH} (ki : KI K l G yX9_pullArguments cX9_pullArguments 4 none [] 13 374 700 Q E h0) (hG : gO G = true) : POK K RX9 (p_X9_pullArguments l G) :=
  POKi (y := yX9_pullArguments) ki hG (rfs rf_X9_ok (by decide +kernel)) fmz fmz fmz fmz fmz
  (pkE ki (by
    intro K e1 e2 e3 e4; subst e1; subst e2
    exact fmE (ceV 9 e3 e4 yl_X9_pull ⟨by decide, ⟨_, _, rfl⟩, q2531, qs113, q2529⟩ rfl) (fmz))) (fun z => Bool.noConfusion z) rfl (pkP ki (by
    intro K e1 e2 e3 e4; subst e1; subst e2
    exact fmz))
theorem r_X9_pullArguments_0 {K : JC} {l : Launch} {G : JG} {Q : Int → MH → Prop} {E : Nat → Int → MH → Prop} {h0 : MH} (ki : KI K l G yX9_pullArguments cX9_pullArguments 4 none [] 13 374 700 Q E h0) (hG : gO G = true) {v1 v2 : Int} {h : MH} (H :
    (v1 ≠ 0) ∧
    (0 ≤ v2) ∧
    (v2 < 40) ∧
    (∀ x3_1 : Int, x3_1 = (w32 ((hv h (v1 + 7) v2) - 1)) →
    JW K 9 [(2009, 396), (14, v1), (0, v2), (0, x3_1)] [] h)) : JW K 0 [(2009, 396), (14, v1), (0, v2), (5000, 0)] [] h := by
  have e1 := ki.2.2.2.2.1
  have e2 := ki.2.2.2.2.2.1
  subst e1; subst e2
  exact run_ok (dia := []) (cnr := []) (cuts := [(9, [2009, 14, 0, 0], [])]) ki.1 (pk_X9_pullArguments ki hG) ok_X9_pullArguments (by decide) 9 true _ _ _ _ H
theorem r_X9_pullArguments_9 {K : JC} {l : Launch} {G : JG} {Q : Int → MH → Prop} {E : Nat → Int → MH → Prop} {h0 : MH} (ki : KI K l G yX9_pullArguments cX9_pullArguments 4 none [] 13 374 700 Q E h0) (hG : gO G = true) {v1 v2 v3 : Int} {h : MH} (H :
    ((v3 < 0 →
      Q 0 h) ∧
    (0 ≤ v3 →
      (v1 ≠ 0) ∧
      (0 ≤ (w32 ((w32 (8 * v2)) + v3))) ∧
      ((w32 ((w32 (8 * v2)) + v3)) < 320) ∧
      S_X9_pull l G [(2009, 396), (0, (hv h (v1 + 10) (w32 ((w32 (8 * v2)) + v3))))] h (fun _ h2 =>
      (∀ x3_3 : Int, x3_3 = w32 (v3 + (-1)) →
      JW K 9 [(2009, 396), (14, v1), (0, v2), (0, x3_3)] [] h2)) E))) : JW K 9 [(2009, 396), (14, v1), (0, v2), (0, v3)] [] h := by
  have e1 := ki.2.2.2.2.1
  have e2 := ki.2.2.2.2.2.1
  subst e1; subst e2
  exact run_ok (dia := []) (cnr := []) (cuts := [(9, [2009, 14, 0, 0], [])]) ki.1 (pk_X9_pullArguments ki hG) ok_X9_pullArguments (by decide) 16 true _ _ _ _ H
abbrev k_X9_isSame : List (Nat × List (Nat × Instr)) := [(36, [(0, .aload_n 0), (1, .getfield 322), (4, .iload_n 2), (5, .iaload), (6, .aload_n 0), (7, .getfield 284), (10, .iload_n 2), (11, .iaload), (12, .isub), (13, .istore_n 3), (14, .iload_n 3), (15, .aload_n 1), (16, .getfield 322), (19, .iload_n 2), (20, .iaload), (21, .aload_n 1), (22, .getfield 284), (25, .iload_n 2), (26, .iaload), (27, .isub), (28, .if_icmp .ne 7), (31, .iconst 1), (32, .goto 4), (35, .iconst 0)]),
  (78, [(36, .istore 4), (38, .iconst 0), (39, .istore 5), (41, .iload 5), (43, .iload_n 3), (44, .if_icmp .ge 52), (47, .iload 4), (49, .ifCond .eq 47), (52, .aload_n 0), (53, .getfield 370), (56, .aload_n 0), (57, .getfield 284), (60, .iload_n 2), (61, .iaload), (62, .iload 5), (64, .iadd), (65, .baload), (66, .aload_n 1), (67, .getfield 370), (70, .aload_n 1), (71, .getfield 284), (74, .iload_n 2), (75, .iaload), (76, .iload 5)]),
  (107, [(78, .iadd), (79, .baload), (80, .if_icmp .ne 7), (83, .iconst 1), (84, .goto 4), (87, .iconst 0), (88, .istore 4), (90, .iinc 5 1), (93, .goto (-52)), (96, .iload 4), (98, .ireturn)])]
theorem ok_X9_isSame : CodeOK cX9_isSame k_X9_isSame := okw 0 (by decide +kernel) (okw 36 (by decide +kernel) (okw 78 (by decide +kernel) (okn)))
abbrev p_X9_isSame (l : Launch) (G : JG) : JP := (true, [(284, 10, 18, 1040100, 16), (322, 10, 19, 1040100, 17), (370, 10, 20, 21000103, 18)], [], [], [], [], [], [], false, 2, [])
theorem pk_X9_isSame {K : JC} {l : Launch} {G : JG} {Q : Int → MH → Prop} {E : Nat → Int → MH → Prop} {h0 : MH} (ki : KI K l G yX9_isSame cX9_isSame 6 (some .boolean) [] 4 150 2 Q E h0) (hG : gO G = true) : POK K RX9 (p_X9_isSame l G) :=
  POKi (y := yX9_isSame) ki hG (rfs rf_X9_ok (by decide +kernel)) fmz fmz fmz fmz fmz
  (pkE ki (by
    intro K e1 e2 e3 e4; subst e1; subst e2
    exact fmz)) (fun z => Bool.noConfusion z) rfl (pkP ki (by
    intro K e1 e2 e3 e4; subst e1; subst e2
    exact fmz))
theorem r_X9_isSame_0 {K : JC} {l : Launch} {G : JG} {Q : Int → MH → Prop} {E : Nat → Int → MH → Prop} {h0 : MH} (ki : KI K l G yX9_isSame cX9_isSame 6 (some .boolean) [] 4 150 2 Q E h0) (hG : gO G = true) {v0 v1 v2 : Int} {h : MH} (H :
    (v0 ≠ 0) ∧
    (0 ≤ v2) ∧
    (v2 < 40) ∧
    (v0 ≠ 0) ∧
    (0 ≤ v2) ∧
    (v2 < 40) ∧
    (∀ x3_1 : Int, x3_1 = (w32 ((hv h (v0 + 17) v2) - (hv h (v0 + 16) v2))) →
    (v1 ≠ 0) ∧
    (0 ≤ v2) ∧
    (v2 < 40) ∧
    (v1 ≠ 0) ∧
    (0 ≤ v2) ∧
    (v2 < 40) ∧
    (∀ x4_2 : Int, x4_2 = (if x3_1 = (w32 ((hv h (v1 + 17) v2) - (hv h (v1 + 16) v2))) then 1 else 0 : Int) →
    (∀ x5_3 : Int, x5_3 = 0 →
    JW K 41 [(14, v0), (14, v1), (0, v2), (0, x3_1), (0, x4_2), (0, x5_3)] [] h)))) : JW K 0 [(14, v0), (14, v1), (0, v2), (5000, 0), (5000, 0), (5000, 0)] [] h := by
  have e1 := ki.2.2.2.2.1
  have e2 := ki.2.2.2.2.2.1
  subst e1; subst e2
  exact run_ok (dia := [(28, 36), (80, 88)]) (cnr := [(44, 52, 96)]) (cuts := [(41, [14, 14, 0, 0, 0, 0], [])]) ki.1 (pk_X9_isSame ki hG) ok_X9_isSame (by decide) 26 true _ _ _ _ H
theorem r_X9_isSame_41 {K : JC} {l : Launch} {G : JG} {Q : Int → MH → Prop} {E : Nat → Int → MH → Prop} {h0 : MH} (ki : KI K l G yX9_isSame cX9_isSame 6 (some .boolean) [] 4 150 2 Q E h0) (hG : gO G = true) {v0 v1 v2 v3 v4 v5 : Int} {h : MH} (H :
    (((v5 < v3 ∧ ¬ v4 = 0) →
      (v0 ≠ 0) ∧
      (v0 ≠ 0) ∧
      (0 ≤ v2) ∧
      (v2 < 40) ∧
      (0 ≤ (w32 ((hv h (v0 + 16) v2) + v5))) ∧
      ((w32 ((hv h (v0 + 16) v2) + v5)) < 20000) ∧
      (v1 ≠ 0) ∧
      (v1 ≠ 0) ∧
      (0 ≤ v2) ∧
      (v2 < 40) ∧
      (0 ≤ (w32 ((hv h (v1 + 16) v2) + v5))) ∧
      ((w32 ((hv h (v1 + 16) v2) + v5)) < 20000) ∧
      (∀ x4_1 : Int, x4_1 = (if (hv h (v0 + 18) (w32 ((hv h (v0 + 16) v2) + v5))) = (hv h (v1 + 18) (w32 ((hv h (v1 + 16) v2) + v5))) then 1 else 0 : Int) →
      (∀ x5_2 : Int, x5_2 = w32 (v5 + 1) →
      JW K 41 [(14, v0), (14, v1), (0, v2), (0, v3), (0, x4_1), (0, x5_2)] [] h))) ∧
    (¬ (v5 < v3 ∧ ¬ v4 = 0) →
      ((v4 = 0 ∨ v4 = 1) ∧ Q v4 h)))) : JW K 41 [(14, v0), (14, v1), (0, v2), (0, v3), (0, v4), (0, v5)] [] h := by
  have e1 := ki.2.2.2.2.1
  have e2 := ki.2.2.2.2.2.1
  subst e1; subst e2
  exact run_ok (dia := [(28, 36), (80, 88)]) (cnr := [(44, 52, 96)]) (cuts := [(41, [14, 14, 0, 0, 0, 0], [])]) ki.1 (pk_X9_isSame ki hG) ok_X9_isSame (by decide) 27 true _ _ _ _ H
abbrev k_X9_forgetWalks : List (Nat × List (Nat × Instr)) := [(44, [(0, .aload_n 0), (1, .iconst 0), (2, .putfield 712), (5, .aload_n 0), (6, .iconst 0), (7, .putfield 715), (10, .aload_n 0), (11, .iconst 0), (12, .putfield 718), (15, .aload_n 0), (16, .iconst 0), (17, .putfield 721), (20, .aload_n 0), (21, .iconst 0), (22, .putfield 724), (25, .aload_n 0), (26, .iconst 0), (27, .putfield 727), (30, .aload_n 0), (31, .iconst 0), (32, .putfield 390), (35, .return_)])]
theorem ok_X9_forgetWalks : CodeOK cX9_forgetWalks k_X9_forgetWalks := okw 0 (by decide +kernel) (okn)
abbrev p_X9_forgetWalks (l : Launch) (G : JG) : JP := (true, [], [], [], [(390, 9, 82, 0), (712, 9, 83, 0), (715, 9, 91, 0), (718, 9, 95, 0), (721, 9, 96, 0), (724, 9, 99, 0), (727, 9, 100, 0)], [], [], [], false, 700, [])
theorem pk_X9_forgetWalks {K : JC} {l : Launch} {G : JG} {Q : Int → MH → Prop} {E : Nat → Int → MH → Prop} {h0 : MH} (ki : KI K l G yX9_forgetWalks cX9_forgetWalks 1 none [] 4 150 700 Q E h0) (hG : gO G = true) : POK K RX9 (p_X9_forgetWalks l G) :=
  POKi (y := yX9_forgetWalks) ki hG fmz fmz fmz (rps rp_X9_ok (by decide +kernel)) fmz fmz
  (pkE ki (by
    intro K e1 e2 e3 e4; subst e1; subst e2
    exact fmz)) (fun z => Bool.noConfusion z) rfl (pkP ki (by
    intro K e1 e2 e3 e4; subst e1; subst e2
    exact fmz))
theorem r_X9_forgetWalks_0 {K : JC} {l : Launch} {G : JG} {Q : Int → MH → Prop} {E : Nat → Int → MH → Prop} {h0 : MH} (ki : KI K l G yX9_forgetWalks cX9_forgetWalks 1 none [] 4 150 700 Q E h0) (hG : gO G = true) {h : MH} (H :
    (∀ h1, h1 = hset h 396 83 0 →
    (∀ h2, h2 = hset h1 396 91 0 →
    (∀ h3, h3 = hset h2 396 95 0 →
    (∀ h4, h4 = hset h3 396 96 0 →
    (∀ h5, h5 = hset h4 396 99 0 →
    (∀ h6, h6 = hset h5 396 100 0 →
    (∀ h7, h7 = hset h6 396 82 0 →
    Q 0 h7)))))))) : JW K 0 [(2009, 396)] [] h := by
  have e1 := ki.2.2.2.2.1
  have e2 := ki.2.2.2.2.2.1
  subst e1; subst e2
  exact run_ok (dia := []) (cnr := []) (cuts := []) ki.1 (pk_X9_forgetWalks ki hG) ok_X9_forgetWalks (by decide) 23 true _ _ _ _ H
abbrev k_X9_root : List (Nat × List (Nat × Instr)) := [(42, [(0, .aload_n 0), (1, .getfield 373), (4, .ifnull 26), (7, .iload_n 1), (8, .i2l), (9, .lconst 0), (10, .aload_n 0), (11, .getfield 373), (14, .getfield 333), (17, .iconst 1), (18, .isub), (19, .i2l), (20, .invokestatic 231), (23, .ifCond .eq 7), (26, .iconst 1), (27, .goto 4), (30, .iconst 0), (31, .istore_n 2), (32, .aload_n 0), (33, .iload_n 2), (34, .ifCond .ne 7), (37, .iconst 1), (38, .goto 23), (41, .aload_n 0)]),
  (88, [(42, .getfield 373), (45, .getfield 287), (48, .iload_n 1), (49, .iaload), (50, .sipush 255), (53, .if_icmp .eq 7), (56, .iconst 2), (57, .goto 4), (60, .iconst 0), (61, .putfield 225), (64, .aload_n 0), (65, .getfield 225), (68, .ifCond .le 5), (71, .iconst 0), (72, .ireturn), (73, .aload_n 0), (74, .getfield 27), (77, .iload_n 1), (78, .baload), (79, .ifCond .ne 25), (82, .aload_n 0), (83, .getfield 27), (86, .iload_n 1), (87, .iconst 1)]),
  (117, [(88, .bastore), (89, .aload_n 0), (90, .dup), (91, .getfield 380), (94, .iconst 1), (95, .iadd), (96, .putfield 380), (99, .aload_n 0), (100, .iconst 0), (101, .putfield 383), (104, .aload_n 0), (105, .getfield 380), (108, .ireturn)])]
theorem ok_X9_root : CodeOK cX9_root k_X9_root := okw 0 (by decide +kernel) (okw 42 (by decide +kernel) (okw 88 (by decide +kernel) (okn)))
abbrev p_X9_root (l : Launch) (G : JG) : JP := (true, [(27, 9, 7, 1040102, 61), (225, 9, 0, 0, 0), (287, 10, 7, 1040100, 5), (333, 10, 6, 0, 0), (373, 9, 3, 14, 0), (380, 9, 8, 0, 0)], [], [], [(225, 9, 0, 0), (380, 9, 8, 0), (383, 9, 11, 2)], [], [], [], false, 0, [(231, e_X9_in)])
theorem pk_X9_root {K : JC} {l : Launch} {G : JG} {Q : Int → MH → Prop} {E : Nat → Int → MH → Prop} {h0 : MH} (ki : KI K l G yX9_root cX9_root 3 (some .int) [] 5 175 0 Q E h0) (hG : gO G = true) : POK K RX9 (p_X9_root l G) :=
  POKi (y := yX9_root) ki hG (rfs rf_X9_ok (by decide +kernel)) fmz fmz (rps rp_X9_ok (by decide +kernel)) fmz fmz
  (pkE ki (by
    intro K e1 e2 e3 e4; subst e1; subst e2
    exact fmz)) (fun z => Bool.noConfusion z) rfl (pkP ki (by
    intro K e1 e2 e3 e4; subst e1; subst e2
    exact fmP (pe_X9_in hG e3 e4 ⟨q2454, Or.inl q2453⟩ rfl rfl) (fmz)))
theorem r_X9_root_0 {K : JC} {l : Launch} {G : JG} {Q : Int → MH → Prop} {E : Nat → Int → MH → Prop} {h0 : MH} (ki : KI K l G yX9_root cX9_root 3 (some .int) [] 5 175 0 Q E h0) (hG : gO G = true) {v1 : Int} {h : MH} (H :
    ((¬ (hv h 396 3) = 0 → (hv h 396 3) ≠ 0)) ∧
    (∀ x2_1 : Int, x2_1 = (if (hv h 396 3) = 0 then 0 else (if (isin v1 0 (w32 ((hv h (hv h 396 3) 6) - 1))) = 0 then 0 else 1 : Int) : Int) →
    ((¬ x2_1 = 0 → ((hv h 396 3) ≠ 0) ∧ (0 ≤ v1) ∧ v1 < 40)) ∧
    (∀ h2, h2 = hset h 396 0 (if x2_1 = 0 then 1 else (if (hv h ((hv h 396 3) + 5) v1) = 255 then 0 else 2 : Int) : Int) →
    (((hv h2 396 0) ≤ 0 →
      (0 ≤ v1) ∧
      (v1 < 40) ∧
      ((¬ (hv h2 457 v1) = 0 →
        Q (hv h2 396 8) h2) ∧
      ((hv h2 457 v1) = 0 →
        (0 ≤ v1) ∧
        (v1 < 40) ∧
        ((1 : Int) = 0 ∨ (1 : Int) = 1) ∧
        (∀ h3, h3 = hset h2 457 v1 1 →
        (∀ h4, h4 = hset h3 396 8 (w32 ((hv h3 396 8) + 1)) →
        ((0 : Int) = 0 ∨ (0 : Int) = 1) ∧
        (∀ h5, h5 = hset h4 396 11 0 →
        Q (hv h5 396 8) h5)))))) ∧
    (0 < (hv h2 396 0) →
      Q 0 h2))))) : JW K 0 [(2009, 396), (0, v1), (5000, 0)] [] h := by
  have e1 := ki.2.2.2.2.1
  have e2 := ki.2.2.2.2.2.1
  subst e1; subst e2
  exact run_ok (dia := [(4, 31), (34, 61)]) (cnr := []) (cuts := []) ki.1 (pk_X9_root ki hG) ok_X9_root (by decide) 34 true _ _ _ _ H
abbrev k_X9_told : List (Nat × List (Nat × Instr)) := [(41, [(0, .aload_n 0), (1, .iconst 0), (2, .putfield 225), (5, .iload_n 1), (6, .iconst 5), (7, .if_icmp .ne 8), (10, .aload_n 0), (11, .getfield 387), (14, .ireturn), (15, .iload_n 1), (16, .bipush 6), (18, .if_icmp .ne 8), (21, .aload_n 0), (22, .getfield 235), (25, .ireturn), (26, .iload_n 1), (27, .i2l), (28, .lconst 0), (29, .ldc2_w 680), (32, .invokestatic 231), (35, .ifCond .ne 5), (38, .iconst (-1)), (39, .ireturn), (40, .aload_n 0)]),
  (88, [(41, .getfield 373), (44, .ifnonnull 5), (47, .iconst 0), (48, .ireturn), (49, .iload_n 1), (50, .iconst 3), (51, .if_icmp .ne 12), (54, .aload_n 0), (55, .invokevirtual 494), (58, .aload_n 0), (59, .getfield 469), (62, .ireturn), (63, .iload_n 1), (64, .ifCond .ne 13), (67, .aload_n 0), (68, .getfield 373), (71, .getfield 333), (74, .goto 58), (77, .iload_n 1), (78, .iconst 1), (79, .if_icmp .ne 16), (82, .bipush 8), (84, .aload_n 0), (85, .getfield 373)]),
  (141, [(88, .getfield 257), (91, .iadd), (92, .goto 40), (95, .iload_n 1), (96, .iconst 2), (97, .if_icmp .ne 16), (100, .aload_n 0), (101, .getfield 373), (104, .getfield 325), (107, .bipush 7), (109, .isub), (110, .goto 22), (113, .iload_n 1), (114, .iconst 4), (115, .if_icmp .ne 10), (118, .aload_n 0), (119, .getfield 380), (122, .goto 10), (125, .aload_n 0), (126, .getfield 373), (129, .getfield 309), (132, .ireturn)])]
theorem ok_X9_told : CodeOK cX9_told k_X9_told := okw 0 (by decide +kernel) (okw 41 (by decide +kernel) (okw 88 (by decide +kernel) (okn)))
abbrev p_X9_told (l : Launch) (G : JG) : JP := (true, [(235, 9, 2, 0, 0), (257, 10, 0, 0, 0), (309, 10, 21, 0, 0), (325, 10, 30, 0, 0), (333, 10, 6, 0, 0), (373, 9, 3, 14, 0), (380, 9, 8, 0, 0), (387, 9, 80, 0, 0), (469, 9, 16, 0, 0)], [], [(680, 7)], [(225, 9, 0, 0)], [], [], [(494, 1, [2009], 700, S_X9_findMarks l G)], false, 0, [(231, e_X9_in)])
theorem pk_X9_told {K : JC} {l : Launch} {G : JG} {Q : Int → MH → Prop} {E : Nat → Int → MH → Prop} {h0 : MH} (ki : KI K l G yX9_told cX9_told 2 (some .int) [] 7 220 0 Q E h0) (hG : gO G = true) : POK K RX9 (p_X9_told l G) :=
  POKi (y := yX9_told) ki hG (rfs rf_X9_ok (by decide +kernel)) fmz (subs (by decide +kernel) rl_X9_ok) (rps rp_X9_ok (by decide +kernel)) fmz fmz
  (pkE ki (by
    intro K e1 e2 e3 e4; subst e1; subst e2
    exact fmE (ceV 9 e3 e4 yl_X9_findMarks ⟨by decide, ⟨_, _, rfl⟩, q2565, qs117, q2563⟩ rfl) (fmz))) (fun z => Bool.noConfusion z) rfl (pkP ki (by
    intro K e1 e2 e3 e4; subst e1; subst e2
    exact fmP (pe_X9_in hG e3 e4 ⟨q2454, Or.inl q2453⟩ rfl rfl) (fmz)))
theorem r_X9_told_0 {K : JC} {l : Launch} {G : JG} {Q : Int → MH → Prop} {E : Nat → Int → MH → Prop} {h0 : MH} (ki : KI K l G yX9_told cX9_told 2 (some .int) [] 7 220 0 Q E h0) (hG : gO G = true) {v1 : Int} {h : MH} (H :
    (∀ h1, h1 = hset h 396 0 0 →
    ((¬ v1 = 5 →
      ((¬ v1 = 6 →
        ((¬ (isin v1 0 7) = 0 →
          ((¬ (hv h1 396 3) = 0 →
            ((¬ v1 = 3 →
              ((¬ v1 = 0 → ((¬ v1 = 1 → ((¬ v1 = 2 → (¬ v1 = 4 → (hv h1 396 3) ≠ 0))) ∧ (v1 = 2 → (hv h1 396 3) ≠ 0))) ∧ (v1 = 1 → (hv h1 396 3) ≠ 0))) ∧
              ((v1 = 0 → (hv h1 396 3) ≠ 0)) ∧
              Q (if v1 = 0 then (hv h1 (hv h1 396 3) 6) else (if v1 = 1 then (w32 (8 + (hv h1 (hv h1 396 3) 0))) else (if v1 = 2 then (w32 ((hv h1 (hv h1 396 3) 30) - 7)) else (if v1 = 4 then (hv h1 396 8) else (hv h1 (hv h1 396 3) 21) : Int) : Int) : Int) : Int) h1) ∧
            (v1 = 3 →
              S_X9_findMarks l G [(2009, 396)] h1 (fun _ h3 =>
              Q (hv h3 396 16) h3) E))) ∧
          ((hv h1 396 3) = 0 →
            Q 0 h1))) ∧
        ((isin v1 0 7) = 0 →
          Q (-1) h1))) ∧
      (v1 = 6 →
        Q (hv h1 396 2) h1))) ∧
    (v1 = 5 →
      Q (hv h1 396 80) h1)))) : JW K 0 [(2009, 396), (0, v1)] [] h := by
  have e1 := ki.2.2.2.2.1
  have e2 := ki.2.2.2.2.2.1
  subst e1; subst e2
  exact run_ok (dia := [(64, 132)]) (cnr := []) (cuts := []) ki.1 (pk_X9_told ki hG) ok_X9_told (by decide) 27 true _ _ _ _ H
abbrev k_X9_findMarks : List (Nat × List (Nat × Instr)) := [(46, [(0, .aload_n 0), (1, .iconst 0), (2, .putfield 469), (5, .aload_n 0), (6, .ldc2_w 456), (9, .invokevirtual 472), (12, .aload_n 0), (13, .ldc2_w 476), (16, .invokevirtual 472), (19, .aload_n 0), (20, .lconst 0), (21, .invokevirtual 472), (24, .aload_n 0), (25, .lconst 1), (26, .invokevirtual 472), (29, .aload_n 0), (30, .ldc2_w 478), (33, .invokevirtual 472), (36, .aload_n 0), (37, .ldc2_w 458), (40, .invokevirtual 472), (43, .iconst 0), (44, .istore_n 1), (45, .iload_n 1)]),
  (89, [(46, .aload_n 0), (47, .getfield 373), (50, .getfield 309), (53, .if_icmp .ge 111), (56, .aload_n 0), (57, .getfield 373), (60, .getfield 339), (63, .iload_n 1), (64, .iaload), (65, .istore_n 2), (66, .iload_n 2), (67, .ifCond .eq 9), (70, .iload_n 2), (71, .bipush 17), (73, .if_icmp .ne 35), (76, .aload_n 0), (77, .aload_n 0), (78, .getfield 373), (81, .getfield 345), (84, .iload_n 1), (85, .iaload), (86, .i2l), (87, .lconst 1), (88, .lsub)]),
  (133, [(89, .invokevirtual 472), (92, .aload_n 0), (93, .aload_n 0), (94, .getfield 373), (97, .getfield 345), (100, .iload_n 1), (101, .iaload), (102, .i2l), (103, .lconst 1), (104, .ladd), (105, .invokevirtual 472), (108, .iload_n 2), (109, .ifCond .eq 15), (112, .iload_n 2), (113, .bipush 17), (115, .if_icmp .eq 9), (118, .iload_n 2), (119, .bipush 13), (121, .if_icmp .ne 17), (124, .aload_n 0), (125, .aload_n 0), (126, .getfield 373), (129, .getfield 345), (132, .iload_n 1)]),
  (173, [(133, .iaload), (134, .i2l), (135, .invokevirtual 472), (138, .iload_n 2), (139, .bipush 13), (141, .if_icmp .ne 17), (144, .aload_n 0), (145, .aload_n 0), (146, .getfield 373), (149, .getfield 348), (152, .iload_n 1), (153, .iaload), (154, .i2l), (155, .invokevirtual 472), (158, .iinc 1 1), (161, .goto (-116)), (164, .return_)])]
theorem ok_X9_findMarks : CodeOK cX9_findMarks k_X9_findMarks := okw 0 (by decide +kernel) (okw 46 (by decide +kernel) (okw 89 (by decide +kernel) (okw 133 (by decide +kernel) (okn))))
abbrev p_X9_findMarks (l : Launch) (G : JG) : JP := (true, [(309, 10, 21, 0, 0), (339, 10, 22, 2500100, 19), (345, 10, 24, 2500100, 21), (348, 10, 25, 2500100, 22), (373, 9, 3, 14, 0)], [], [(456, (-2147483648)), (458, 2147483647), (476, (-1)), (478, 100)], [(469, 9, 16, 0)], [], [], [(472, 1, [1, 2009], 700, S_X9_addMark l G)], false, 700, [])
theorem pk_X9_findMarks {K : JC} {l : Launch} {G : JG} {Q : Int → MH → Prop} {E : Nat → Int → MH → Prop} {h0 : MH} (ki : KI K l G yX9_findMarks cX9_findMarks 3 none [] 6 198 700 Q E h0) (hG : gO G = true) : POK K RX9 (p_X9_findMarks l G) :=
  POKi (y := yX9_findMarks) ki hG (rfs rf_X9_ok (by decide +kernel)) fmz (subs (by decide +kernel) rl_X9_ok) (rps rp_X9_ok (by decide +kernel)) fmz fmz
  (pkE ki (by
    intro K e1 e2 e3 e4; subst e1; subst e2
    exact fmE (ceV 9 e3 e4 yl_X9_addMark ⟨by decide, ⟨_, _, rfl⟩, q2570, qs118, q2568⟩ rfl) (fmz))) (fun z => Bool.noConfusion z) rfl (pkP ki (by
    intro K e1 e2 e3 e4; subst e1; subst e2
    exact fmz))
theorem r_X9_findMarks_0 {K : JC} {l : Launch} {G : JG} {Q : Int → MH → Prop} {E : Nat → Int → MH → Prop} {h0 : MH} (ki : KI K l G yX9_findMarks cX9_findMarks 3 none [] 6 198 700 Q E h0) (hG : gO G = true) {h : MH} (H :
    (∀ h1, h1 = hset h 396 16 0 →
    S_X9_addMark l G [(2009, 396), (1, (-2147483648))] h1 (fun _ h3 =>
    S_X9_addMark l G [(2009, 396), (1, (-1))] h3 (fun _ h5 =>
    S_X9_addMark l G [(2009, 396), (1, 0)] h5 (fun _ h7 =>
    S_X9_addMark l G [(2009, 396), (1, 1)] h7 (fun _ h9 =>
    S_X9_addMark l G [(2009, 396), (1, 100)] h9 (fun _ h11 =>
    S_X9_addMark l G [(2009, 396), (1, 2147483647)] h11 (fun _ h13 =>
    (∀ x1_14 : Int, x1_14 = 0 →
    JW K 45 [(2009, 396), (0, x1_14), (5000, 0)] [] h13)) E) E) E) E) E) E)) : JW K 0 [(2009, 396), (5000, 0), (5000, 0)] [] h := by
  have e1 := ki.2.2.2.2.1
  have e2 := ki.2.2.2.2.2.1
  subst e1; subst e2
  exact run_ok (dia := []) (cnr := [(67, 76, 108), (109, 124, 138)]) (cuts := [(45, [2009, 0, 5000], [])]) ki.1 (pk_X9_findMarks ki hG) ok_X9_findMarks (by decide) 25 true _ _ _ _ H
theorem r_X9_findMarks_45 {K : JC} {l : Launch} {G : JG} {Q : Int → MH → Prop} {E : Nat → Int → MH → Prop} {h0 : MH} (ki : KI K l G yX9_findMarks cX9_findMarks 3 none [] 6 198 700 Q E h0) (hG : gO G = true) {v1 : Int} {h : MH} (H :
    ((hv h 396 3) ≠ 0) ∧
    (((hv h (hv h 396 3) 21) ≤ v1 →
      Q 0 h) ∧
    (v1 < (hv h (hv h 396 3) 21) →
      ((hv h 396 3) ≠ 0) ∧
      (0 ≤ v1) ∧
      (v1 < 1500) ∧
      (∀ x2_1 : Int, x2_1 = (hv h ((hv h 396 3) + 19) v1) →
      (((x2_1 = 0 ∨ x2_1 = 17) →
        ((hv h 396 3) ≠ 0) ∧
        (0 ≤ v1) ∧
        (v1 < 1500) ∧
        S_X9_addMark l G [(2009, 396), (1, (w64 ((hv h ((hv h 396 3) + 21) v1) - 1)))] h (fun _ h3 =>
        ((hv h3 396 3) ≠ 0) ∧
        (0 ≤ v1) ∧
        (v1 < 1500) ∧
        S_X9_addMark l G [(2009, 396), (1, (w64 ((hv h3 ((hv h3 396 3) + 21) v1) + 1)))] h3 (fun _ h5 =>
        (((x2_1 = 0 ∨ (x2_1 = 17 ∨ x2_1 = 13)) →
          ((hv h5 396 3) ≠ 0) ∧
          (0 ≤ v1) ∧
          (v1 < 1500) ∧
          S_X9_addMark l G [(2009, 396), (1, (hv h5 ((hv h5 396 3) + 21) v1))] h5 (fun _ h7 =>
          ((¬ x2_1 = 13 →
            (∀ x1_8 : Int, x1_8 = w32 (v1 + 1) →
            JW K 45 [(2009, 396), (0, x1_8), (5000, 0)] [] h7)) ∧
          (x2_1 = 13 →
            ((hv h7 396 3) ≠ 0) ∧
            (0 ≤ v1) ∧
            (v1 < 1500) ∧
            S_X9_addMark l G [(2009, 396), (1, (hv h7 ((hv h7 396 3) + 22) v1))] h7 (fun _ h10 =>
            (∀ x1_11 : Int, x1_11 = w32 (v1 + 1) →
            JW K 45 [(2009, 396), (0, x1_11), (5000, 0)] [] h10)) E))) E) ∧
        (¬ (x2_1 = 0 ∨ (x2_1 = 17 ∨ x2_1 = 13)) →
          ((¬ x2_1 = 13 →
            (∀ x1_12 : Int, x1_12 = w32 (v1 + 1) →
            JW K 45 [(2009, 396), (0, x1_12), (5000, 0)] [] h5)) ∧
          (x2_1 = 13 →
            ((hv h5 396 3) ≠ 0) ∧
            (0 ≤ v1) ∧
            (v1 < 1500) ∧
            S_X9_addMark l G [(2009, 396), (1, (hv h5 ((hv h5 396 3) + 22) v1))] h5 (fun _ h14 =>
            (∀ x1_15 : Int, x1_15 = w32 (v1 + 1) →
            JW K 45 [(2009, 396), (0, x1_15), (5000, 0)] [] h14)) E))))) E) E) ∧
      (¬ (x2_1 = 0 ∨ x2_1 = 17) →
        (((x2_1 = 0 ∨ (x2_1 = 17 ∨ x2_1 = 13)) →
          ((hv h 396 3) ≠ 0) ∧
          (0 ≤ v1) ∧
          (v1 < 1500) ∧
          S_X9_addMark l G [(2009, 396), (1, (hv h ((hv h 396 3) + 21) v1))] h (fun _ h17 =>
          ((¬ x2_1 = 13 →
            (∀ x1_18 : Int, x1_18 = w32 (v1 + 1) →
            JW K 45 [(2009, 396), (0, x1_18), (5000, 0)] [] h17)) ∧
          (x2_1 = 13 →
            ((hv h17 396 3) ≠ 0) ∧
            (0 ≤ v1) ∧
            (v1 < 1500) ∧
            S_X9_addMark l G [(2009, 396), (1, (hv h17 ((hv h17 396 3) + 22) v1))] h17 (fun _ h20 =>
            (∀ x1_21 : Int, x1_21 = w32 (v1 + 1) →
            JW K 45 [(2009, 396), (0, x1_21), (5000, 0)] [] h20)) E))) E) ∧
        (¬ (x2_1 = 0 ∨ (x2_1 = 17 ∨ x2_1 = 13)) →
          ((¬ x2_1 = 13 →
            (∀ x1_22 : Int, x1_22 = w32 (v1 + 1) →
            JW K 45 [(2009, 396), (0, x1_22), (5000, 0)] [] h)) ∧
          (x2_1 = 13 →
            ((hv h 396 3) ≠ 0) ∧
            (0 ≤ v1) ∧
            (v1 < 1500) ∧
            S_X9_addMark l G [(2009, 396), (1, (hv h ((hv h 396 3) + 22) v1))] h (fun _ h24 =>
            (∀ x1_25 : Int, x1_25 = w32 (v1 + 1) →
            JW K 45 [(2009, 396), (0, x1_25), (5000, 0)] [] h24)) E)))))))))) : JW K 45 [(2009, 396), (0, v1), (5000, 0)] [] h := by
  have e1 := ki.2.2.2.2.1
  have e2 := ki.2.2.2.2.2.1
  subst e1; subst e2
  exact run_ok (dia := []) (cnr := [(67, 76, 108), (109, 124, 138)]) (cuts := [(45, [2009, 0, 5000], [])]) ki.1 (pk_X9_findMarks ki hG) ok_X9_findMarks (by decide) 58 true _ _ _ _ H
abbrev k_X9_addMark : List (Nat × List (Nat × Instr)) := [(48, [(0, .ldc2_w 456), (3, .ldc2_w 458), (6, .lload_n 1), (7, .invokestatic 460), (10, .invokestatic 466), (13, .l2i), (14, .istore_n 3), (15, .aload_n 0), (16, .getfield 469), (19, .istore 4), (21, .iload 4), (23, .ifCond .le 22), (26, .aload_n 0), (27, .getfield 33), (30, .iload 4), (32, .iconst 1), (33, .isub), (34, .iaload), (35, .iload_n 3), (36, .if_icmp .lt 9), (39, .iinc 4 (-1)), (42, .goto (-21)), (45, .iload 4), (47, .aload_n 0)]),
  (94, [(48, .getfield 469), (51, .if_icmp .ge 15), (54, .aload_n 0), (55, .getfield 33), (58, .iload 4), (60, .iaload), (61, .iload_n 3), (62, .if_icmp .ne 4), (65, .return_), (66, .aload_n 0), (67, .getfield 469), (70, .istore 5), (72, .iload 5), (74, .iload 4), (76, .if_icmp .le 25), (79, .aload_n 0), (80, .getfield 33), (83, .iload 5), (85, .aload_n 0), (86, .getfield 33), (89, .iload 5), (91, .iconst 1), (92, .isub), (93, .iaload)]),
  (128, [(94, .iastore), (95, .iinc 5 (-1)), (98, .goto (-26)), (101, .aload_n 0), (102, .getfield 33), (105, .iload 4), (107, .iload_n 3), (108, .iastore), (109, .aload_n 0), (110, .dup), (111, .getfield 469), (114, .iconst 1), (115, .iadd), (116, .putfield 469), (119, .return_)])]
theorem ok_X9_addMark : CodeOK cX9_addMark k_X9_addMark := okw 0 (by decide +kernel) (okw 48 (by decide +kernel) (okw 94 (by decide +kernel) (okn)))
abbrev p_X9_addMark (l : Launch) (G : JG) : JP := (true, [(33, 9, 17, 10000100, 63), (469, 9, 16, 0, 0)], [], [(456, (-2147483648)), (458, 2147483647)], [(469, 9, 16, 0)], [], [], [], false, 700, [(460, e_J8_min_2), (466, e_J8_max_2)])
theorem pk_X9_addMark {K : JC} {l : Launch} {G : JG} {Q : Int → MH → Prop} {E : Nat → Int → MH → Prop} {h0 : MH} (ki : KI K l G yX9_addMark cX9_addMark 6 none [] 5 173 700 Q E h0) (hG : gO G = true) : POK K RX9 (p_X9_addMark l G) :=
  POKi (y := yX9_addMark) ki hG (rfs rf_X9_ok (by decide +kernel)) fmz (subs (by decide +kernel) rl_X9_ok) (rps rp_X9_ok (by decide +kernel)) fmz fmz
  (pkE ki (by
    intro K e1 e2 e3 e4; subst e1; subst e2
    exact fmz)) (fun z => Bool.noConfusion z) rfl (pkP ki (by
    intro K e1 e2 e3 e4; subst e1; subst e2
    exact fmP (pe_J8_min_2 hG e3 e4 ⟨q1473, Or.inl q2573⟩ rfl rfl) (fmP (pe_J8_max_2 hG e3 e4 ⟨q1479, Or.inl q2574⟩ rfl rfl) (fmz))))
theorem r_X9_addMark_0 {K : JC} {l : Launch} {G : JG} {Q : Int → MH → Prop} {E : Nat → Int → MH → Prop} {h0 : MH} (ki : KI K l G yX9_addMark cX9_addMark 6 none [] 5 173 700 Q E h0) (hG : gO G = true) {v1 : Int} {h : MH} (H :
    (∀ x3_1 : Int, x3_1 = (w32 (max (-2147483648) (min 2147483647 v1))) →
    (∀ x4_2 : Int, x4_2 = (hv h 396 16) →
    JW K 21 [(2009, 396), (1, v1), (5000, 0), (0, x3_1), (0, x4_2), (5000, 0)] [] h))) : JW K 0 [(2009, 396), (1, v1), (5000, 0), (5000, 0), (5000, 0), (5000, 0)] [] h := by
  have e1 := ki.2.2.2.2.1
  have e2 := ki.2.2.2.2.2.1
  subst e1; subst e2
  exact run_ok (dia := []) (cnr := [(23, 39, 45), (51, 65, 66)]) (cuts := [(21, [2009, 1, 5000, 0, 0, 5000], []), (72, [2009, 1, 5000, 0, 0, 0], [])]) ki.1 (pk_X9_addMark ki hG) ok_X9_addMark (by decide) 12 true _ _ _ _ H
theorem r_X9_addMark_21 {K : JC} {l : Launch} {G : JG} {Q : Int → MH → Prop} {E : Nat → Int → MH → Prop} {h0 : MH} (ki : KI K l G yX9_addMark cX9_addMark 6 none [] 5 173 700 Q E h0) (hG : gO G = true) {v1 v3 v4 : Int} {h : MH} (H :
    ((0 < v4 → (0 ≤ (w32 (v4 - 1))) ∧ (w32 (v4 - 1)) < 9000)) ∧
    (((0 < v4 ∧ v3 ≤ (hv h 459 (w32 (v4 - 1)))) →
      (∀ x4_1 : Int, x4_1 = w32 (v4 + (-1)) →
      JW K 21 [(2009, 396), (1, v1), (5000, 0), (0, v3), (0, x4_1), (5000, 0)] [] h)) ∧
    (¬ (0 < v4 ∧ v3 ≤ (hv h 459 (w32 (v4 - 1)))) →
      ((v4 < (hv h 396 16) → (0 ≤ v4) ∧ v4 < 9000)) ∧
      (((v4 < (hv h 396 16) ∧ (hv h 459 v4) = v3) →
        Q 0 h) ∧
      (¬ (v4 < (hv h 396 16) ∧ (hv h 459 v4) = v3) →
        (∀ x5_2 : Int, x5_2 = (hv h 396 16) →
        JW K 72 [(2009, 396), (1, v1), (5000, 0), (0, v3), (0, v4), (0, x5_2)] [] h)))))) : JW K 21 [(2009, 396), (1, v1), (5000, 0), (0, v3), (0, v4), (5000, 0)] [] h := by
  have e1 := ki.2.2.2.2.1
  have e2 := ki.2.2.2.2.2.1
  subst e1; subst e2
  exact run_ok (dia := []) (cnr := [(23, 39, 45), (51, 65, 66)]) (cuts := [(21, [2009, 1, 5000, 0, 0, 5000], []), (72, [2009, 1, 5000, 0, 0, 0], [])]) ki.1 (pk_X9_addMark ki hG) ok_X9_addMark (by decide) 11 true _ _ _ _ H
theorem r_X9_addMark_72 {K : JC} {l : Launch} {G : JG} {Q : Int → MH → Prop} {E : Nat → Int → MH → Prop} {h0 : MH} (ki : KI K l G yX9_addMark cX9_addMark 6 none [] 5 173 700 Q E h0) (hG : gO G = true) {v1 v3 v4 v5 : Int} {h : MH} (H :
    ((v5 ≤ v4 →
      (0 ≤ v4) ∧
      (v4 < 9000) ∧
      (∀ h1, h1 = hset h 459 v4 v3 →
      (∀ h2, h2 = hset h1 396 16 (w32 ((hv h1 396 16) + 1)) →
      Q 0 h2))) ∧
    (v4 < v5 →
      (0 ≤ (w32 (v5 - 1))) ∧
      ((w32 (v5 - 1)) < 9000) ∧
      (0 ≤ v5) ∧
      (v5 < 9000) ∧
      (∀ h3, h3 = hset h 459 v5 (hv h 459 (w32 (v5 - 1))) →
      (∀ x5_4 : Int, x5_4 = w32 (v5 + (-1)) →
      JW K 72 [(2009, 396), (1, v1), (5000, 0), (0, v3), (0, v4), (0, x5_4)] [] h3))))) : JW K 72 [(2009, 396), (1, v1), (5000, 0), (0, v3), (0, v4), (0, v5)] [] h := by
  have e1 := ki.2.2.2.2.1
  have e2 := ki.2.2.2.2.2.1
  subst e1; subst e2
  exact run_ok (dia := []) (cnr := [(23, 39, 45), (51, 65, 66)]) (cuts := [(21, [2009, 1, 5000, 0, 0, 5000], []), (72, [2009, 1, 5000, 0, 0, 0], [])]) ki.1 (pk_X9_addMark ki hG) ok_X9_addMark (by decide) 17 true _ _ _ _ H
abbrev k_X9_method : List (Nat × List (Nat × Instr)) := [(41, [(0, .aload_n 0), (1, .iload_n 1), (2, .invokevirtual 677), (5, .ifCond .ne 5), (8, .iconst 0), (9, .ireturn), (10, .aload_n 0), (11, .iload_n 2), (12, .i2l), (13, .lconst 0), (14, .ldc2_w 685), (17, .invokestatic 231), (20, .ifCond .eq 7), (23, .iconst 0), (24, .goto 4), (27, .iconst 2), (28, .putfield 225), (31, .aload_n 0), (32, .getfield 225), (35, .ifCond .le 5), (38, .iconst 0), (39, .ireturn), (40, .iload_n 2)]),
  (92, [(41, .tableswitch 151 0 8 #[51, 61, 71, 81, 91, 101, 111, 121, 136])]),
  (132, [(92, .aload_n 0), (93, .getfield 373), (96, .getfield 287), (99, .iload_n 1), (100, .iaload), (101, .ireturn), (102, .aload_n 0), (103, .getfield 373), (106, .getfield 290), (109, .iload_n 1), (110, .iaload), (111, .ireturn), (112, .aload_n 0), (113, .getfield 373), (116, .getfield 275), (119, .iload_n 1), (120, .iaload), (121, .ireturn), (122, .aload_n 0), (123, .getfield 373), (126, .getfield 278), (129, .iload_n 1), (130, .iaload), (131, .ireturn)]),
  (172, [(132, .aload_n 0), (133, .getfield 373), (136, .getfield 297), (139, .iload_n 1), (140, .iaload), (141, .ireturn), (142, .aload_n 0), (143, .getfield 373), (146, .getfield 306), (149, .iload_n 1), (150, .iaload), (151, .ireturn), (152, .aload_n 0), (153, .getfield 373), (156, .getfield 303), (159, .iload_n 1), (160, .iaload), (161, .ireturn), (162, .aload_n 0), (163, .getfield 27), (166, .iload_n 1), (167, .baload), (168, .ifCond .eq 7), (171, .iconst 1)]),
  (214, [(172, .goto 4), (175, .iconst 0), (176, .ireturn), (177, .aload_n 0), (178, .getfield 23), (181, .iload_n 1), (182, .baload), (183, .ifCond .eq 7), (186, .iconst 1), (187, .goto 4), (190, .iconst 0), (191, .ireturn), (192, .aload_n 0), (193, .iload_n 1), (194, .invokevirtual 687), (197, .ifCond .eq 7), (200, .iconst 1), (201, .goto 4), (204, .iconst 0), (205, .ireturn)])]
theorem ok_X9_method : CodeOK cX9_method k_X9_method := okw 0 (by decide +kernel) (okc (by decide +kernel) (okw 92 (by decide +kernel) (okw 132 (by decide +kernel) (okw 172 (by decide +kernel) (okn)))))
abbrev p_X9_method (l : Launch) (G : JG) : JP := (true, [(23, 9, 6, 1040102, 60), (27, 9, 7, 1040102, 61), (225, 9, 0, 0, 0), (275, 10, 9, 1040100, 7), (278, 10, 10, 1040100, 8), (287, 10, 7, 1040100, 5), (290, 10, 8, 1040100, 6), (297, 10, 11, 1040100, 9), (303, 10, 14, 1040100, 12), (306, 10, 16, 1040100, 14), (373, 9, 3, 14, 0)], [], [(685, 9)], [(225, 9, 0, 0)], [], [], [(677, 1, [0, 2009], 2, S_X9_hasMethod l G), (687, 1, [0, 2009], 2, S_X9_isTouched l G)], false, 0, [(231, e_X9_in)])
theorem pk_X9_method {K : JC} {l : Launch} {G : JG} {Q : Int → MH → Prop} {E : Nat → Int → MH → Prop} {h0 : MH} (ki : KI K l G yX9_method cX9_method 3 (some .int) [] 13 416 0 Q E h0) (hG : gO G = true) : POK K RX9 (p_X9_method l G) :=
  POKi (y := yX9_method) ki hG (rfs rf_X9_ok (by decide +kernel)) fmz (subs (by decide +kernel) rl_X9_ok) (rps rp_X9_ok (by decide +kernel)) fmz fmz
  (pkE ki (by
    intro K e1 e2 e3 e4; subst e1; subst e2
    exact fmE (ceV 9 e3 e4 yl_X9_hasMethod ⟨by decide, ⟨_, _, rfl⟩, q2583, qs119, q2581⟩ rfl) (fmE (ceV 9 e3 e4 yl_X9_isTouched ⟨by decide, ⟨_, _, rfl⟩, q2588, qs120, q2586⟩ rfl) (fmz)))) (fun z => Bool.noConfusion z) rfl (pkP ki (by
    intro K e1 e2 e3 e4; subst e1; subst e2
    exact fmP (pe_X9_in hG e3 e4 ⟨q2454, Or.inl q2453⟩ rfl rfl) (fmz)))
theorem r_X9_method_0 {K : JC} {l : Launch} {G : JG} {Q : Int → MH → Prop} {E : Nat → Int → MH → Prop} {h0 : MH} (ki : KI K l G yX9_method cX9_method 3 (some .int) [] 13 416 0 Q E h0) (hG : gO G = true) {v1 v2 : Int} {h : MH} (H :
    S_X9_hasMethod l G [(2009, 396), (0, v1)] h (fun z1 h2 =>
    ((¬ z1 = 0 →
      (∀ h3, h3 = hset h2 396 0 (if (isin v2 0 9) = 0 then 2 else 0 : Int) →
      (((hv h3 396 0) ≤ 0 →
        (((v2 = 0 →
          ((hv h3 396 3) ≠ 0) ∧
          (0 ≤ v1) ∧
          (v1 < 40) ∧
          Q (hv h3 ((hv h3 396 3) + 5) v1) h3) ∧
        ((v2 = 0 + 1 →
          ((hv h3 396 3) ≠ 0) ∧
          (0 ≤ v1) ∧
          (v1 < 40) ∧
          Q (hv h3 ((hv h3 396 3) + 6) v1) h3) ∧
        ((v2 = 0 + 1 + 1 →
          ((hv h3 396 3) ≠ 0) ∧
          (0 ≤ v1) ∧
          (v1 < 40) ∧
          Q (hv h3 ((hv h3 396 3) + 7) v1) h3) ∧
        ((v2 = 0 + 1 + 1 + 1 →
          ((hv h3 396 3) ≠ 0) ∧
          (0 ≤ v1) ∧
          (v1 < 40) ∧
          Q (hv h3 ((hv h3 396 3) + 8) v1) h3) ∧
        ((v2 = 0 + 1 + 1 + 1 + 1 →
          ((hv h3 396 3) ≠ 0) ∧
          (0 ≤ v1) ∧
          (v1 < 40) ∧
          Q (hv h3 ((hv h3 396 3) + 9) v1) h3) ∧
        ((v2 = 0 + 1 + 1 + 1 + 1 + 1 →
          ((hv h3 396 3) ≠ 0) ∧
          (0 ≤ v1) ∧
          (v1 < 40) ∧
          Q (hv h3 ((hv h3 396 3) + 14) v1) h3) ∧
        ((v2 = 0 + 1 + 1 + 1 + 1 + 1 + 1 →
          ((hv h3 396 3) ≠ 0) ∧
          (0 ≤ v1) ∧
          (v1 < 40) ∧
          Q (hv h3 ((hv h3 396 3) + 12) v1) h3) ∧
        ((v2 = 0 + 1 + 1 + 1 + 1 + 1 + 1 + 1 →
          (0 ≤ v1) ∧
          (v1 < 40) ∧
          Q (if (hv h3 457 v1) = 0 then 0 else 1 : Int) h3) ∧
        ((v2 = 0 + 1 + 1 + 1 + 1 + 1 + 1 + 1 + 1 →
          (0 ≤ v1) ∧
          (v1 < 40) ∧
          Q (if (hv h3 456 v1) = 0 then 0 else 1 : Int) h3) ∧
        True))))))))) ∧ ((v2 < 0 ∨ 8 < v2) →
          S_X9_isTouched l G [(2009, 396), (0, v1)] h3 (fun z4 h5 =>
          Q (if z4 = 0 then 0 else 1 : Int) h5) E))) ∧
      (0 < (hv h3 396 0) →
        Q 0 h3)))) ∧
    (z1 = 0 →
      Q 0 h2))) E) : JW K 0 [(2009, 396), (0, v1), (0, v2)] [] h := by
  have e1 := ki.2.2.2.2.1
  have e2 := ki.2.2.2.2.2.1
  subst e1; subst e2
  exact run_ok (dia := [(20, 28), (168, 176), (183, 191), (197, 205)]) (cnr := []) (cuts := []) ki.1 (pk_X9_method ki hG) ok_X9_method (by decide) 24 true _ _ _ _ H
abbrev k_X9_hasMethod : List (Nat × List (Nat × Instr)) := [(46, [(0, .aload_n 0), (1, .aload_n 0), (2, .getfield 373), (5, .ifnonnull 7), (8, .iconst 1), (9, .goto 27), (12, .iload_n 1), (13, .i2l), (14, .lconst 0), (15, .aload_n 0), (16, .getfield 373), (19, .getfield 333), (22, .iconst 1), (23, .isub), (24, .i2l), (25, .invokestatic 231), (28, .ifCond .ne 7), (31, .iconst 2), (32, .goto 4), (35, .iconst 0), (36, .putfield 225), (39, .aload_n 0), (40, .getfield 225), (43, .ifCond .ne 7)]),
  (60, [(46, .iconst 1), (47, .goto 4), (50, .iconst 0), (51, .ireturn)])]
theorem ok_X9_hasMethod : CodeOK cX9_hasMethod k_X9_hasMethod := okw 0 (by decide +kernel) (okw 46 (by decide +kernel) (okn))
abbrev p_X9_hasMethod (l : Launch) (G : JG) : JP := (true, [(225, 9, 0, 0, 0), (333, 10, 6, 0, 0), (373, 9, 3, 14, 0)], [], [], [(225, 9, 0, 0)], [], [], [], false, 2, [(231, e_X9_in)])
theorem pk_X9_hasMethod {K : JC} {l : Launch} {G : JG} {Q : Int → MH → Prop} {E : Nat → Int → MH → Prop} {h0 : MH} (ki : KI K l G yX9_hasMethod cX9_hasMethod 2 (some .boolean) [] 5 175 2 Q E h0) (hG : gO G = true) : POK K RX9 (p_X9_hasMethod l G) :=
  POKi (y := yX9_hasMethod) ki hG (rfs rf_X9_ok (by decide +kernel)) fmz fmz (rps rp_X9_ok (by decide +kernel)) fmz fmz
  (pkE ki (by
    intro K e1 e2 e3 e4; subst e1; subst e2
    exact fmz)) (fun z => Bool.noConfusion z) rfl (pkP ki (by
    intro K e1 e2 e3 e4; subst e1; subst e2
    exact fmP (pe_X9_in hG e3 e4 ⟨q2454, Or.inl q2453⟩ rfl rfl) (fmz)))
theorem r_X9_hasMethod_0 {K : JC} {l : Launch} {G : JG} {Q : Int → MH → Prop} {E : Nat → Int → MH → Prop} {h0 : MH} (ki : KI K l G yX9_hasMethod cX9_hasMethod 2 (some .boolean) [] 5 175 2 Q E h0) (hG : gO G = true) {v1 : Int} {h : MH} (H :
    ((¬ (hv h 396 3) = 0 → (hv h 396 3) ≠ 0)) ∧
    (∀ h1, h1 = hset h 396 0 (if (hv h 396 3) = 0 then 1 else (if (isin v1 0 (w32 ((hv h (hv h 396 3) 6) - 1))) = 0 then 2 else 0 : Int) : Int) →
    (((if (hv h1 396 0) = 0 then 1 else 0 : Int) = 0 ∨ (if (hv h1 396 0) = 0 then 1 else 0 : Int) = 1) ∧ Q (if (hv h1 396 0) = 0 then 1 else 0 : Int) h1))) : JW K 0 [(2009, 396), (0, v1)] [] h := by
  have e1 := ki.2.2.2.2.1
  have e2 := ki.2.2.2.2.2.1
  subst e1; subst e2
  exact run_ok (dia := [(5, 36), (43, 51)]) (cnr := []) (cuts := []) ki.1 (pk_X9_hasMethod ki hG) ok_X9_hasMethod (by decide) 10 true _ _ _ _ H
abbrev k_X9_isTouched : List (Nat × List (Nat × Instr)) := [(42, [(0, .aload_n 0), (1, .invokevirtual 682), (4, .lconst 0), (5, .lstore_n 2), (6, .iconst 0), (7, .istore 4), (9, .iload 4), (11, .aload_n 0), (12, .getfield 373), (15, .getfield 333), (18, .if_icmp .ge 30), (21, .lload_n 2), (22, .aload_n 0), (23, .getfield 23), (26, .iload 4), (28, .baload), (29, .ifCond .eq 10), (32, .lconst 1), (33, .iload 4), (35, .lshl), (36, .goto 4), (39, .lconst 0), (40, .lor), (41, .lstore_n 2)]),
  (91, [(42, .iinc 4 1), (45, .goto (-36)), (48, .iconst 1), (49, .istore 4), (51, .iload 4), (53, .ifCond .eq 121), (56, .iconst 0), (57, .istore 4), (59, .iconst 0), (60, .istore 5), (62, .iload 5), (64, .aload_n 0), (65, .getfield 373), (68, .getfield 309), (71, .if_icmp .ge 100), (74, .aload_n 0), (75, .getfield 37), (78, .iload 5), (80, .baload), (81, .ifCond .eq 40), (84, .aload_n 0), (85, .getfield 62), (88, .iload 5), (90, .laload)]),
  (130, [(91, .lload_n 2), (92, .land), (93, .lconst 0), (94, .lcmp), (95, .ifCond .eq 26), (98, .lload_n 2), (99, .aload_n 0), (100, .getfield 373), (103, .getfield 354), (106, .iload 5), (108, .iaload), (109, .lshr), (110, .lconst 1), (111, .land), (112, .lconst 0), (113, .lcmp), (114, .ifCond .ne 7), (117, .iconst 1), (118, .goto 4), (121, .iconst 0), (122, .istore 6), (124, .lload_n 2), (125, .iload 6), (127, .ifCond .eq 18)]),
  (176, [(130, .lconst 1), (131, .aload_n 0), (132, .getfield 373), (135, .getfield 354), (138, .iload 5), (140, .iaload), (141, .lshl), (142, .goto 4), (145, .lconst 0), (146, .lor), (147, .lstore_n 2), (148, .iload 4), (150, .ifCond .ne 8), (153, .iload 6), (155, .ifCond .eq 7), (158, .iconst 1), (159, .goto 4), (162, .iconst 0), (163, .istore 4), (165, .iinc 5 1), (168, .goto (-106)), (171, .goto (-120)), (174, .lload_n 2), (175, .iload_n 1)]),
  (198, [(176, .lshr), (177, .lconst 1), (178, .land), (179, .lconst 1), (180, .lcmp), (181, .ifCond .ne 7), (184, .iconst 1), (185, .goto 4), (188, .iconst 0), (189, .ireturn)])]
theorem ok_X9_isTouched : CodeOK cX9_isTouched k_X9_isTouched := okw 0 (by decide +kernel) (okw 42 (by decide +kernel) (okw 91 (by decide +kernel) (okw 130 (by decide +kernel) (okw 176 (by decide +kernel) (okn)))))
abbrev p_X9_isTouched (l : Launch) (G : JG) : JP := (true, [(23, 9, 6, 1040102, 60), (37, 9, 18, 2500102, 64), (62, 9, 26, 2500101, 72), (309, 10, 21, 0, 0), (333, 10, 6, 0, 0), (354, 10, 27, 2500100, 24), (373, 9, 3, 14, 0)], [], [], [], [], [], [(682, 1, [2009], 700, S_X9_findFacts l G)], false, 2, [])
theorem pk_X9_isTouched {K : JC} {l : Launch} {G : JG} {Q : Int → MH → Prop} {E : Nat → Int → MH → Prop} {h0 : MH} (ki : KI K l G yX9_isTouched cX9_isTouched 7 (some .boolean) [] 12 390 2 Q E h0) (hG : gO G = true) : POK K RX9 (p_X9_isTouched l G) :=
  POKi (y := yX9_isTouched) ki hG (rfs rf_X9_ok (by decide +kernel)) fmz fmz fmz fmz fmz
  (pkE ki (by
    intro K e1 e2 e3 e4; subst e1; subst e2
    exact fmE (ceV 9 e3 e4 yl_X9_findFacts ⟨by decide, ⟨_, _, rfl⟩, q2592, qs121, q2590⟩ rfl) (fmz))) (fun z => Bool.noConfusion z) rfl (pkP ki (by
    intro K e1 e2 e3 e4; subst e1; subst e2
    exact fmz))
theorem r_X9_isTouched_0 {K : JC} {l : Launch} {G : JG} {Q : Int → MH → Prop} {E : Nat → Int → MH → Prop} {h0 : MH} (ki : KI K l G yX9_isTouched cX9_isTouched 7 (some .boolean) [] 12 390 2 Q E h0) (hG : gO G = true) {v1 : Int} {h : MH} (H :
    S_X9_findFacts l G [(2009, 396)] h (fun _ h2 =>
    (∀ x2_3 : Int, x2_3 = 0 →
    (∀ x4_4 : Int, x4_4 = 0 →
    JW K 9 [(2009, 396), (0, v1), (1, x2_3), (5000, 0), (0, x4_4), (5000, 0), (5000, 0)] [] h2))) E) : JW K 0 [(2009, 396), (0, v1), (5000, 0), (5000, 0), (5000, 0), (5000, 0), (5000, 0)] [] h := by
  have e1 := ki.2.2.2.2.1
  have e2 := ki.2.2.2.2.2.1
  subst e1; subst e2
  exact run_ok (dia := [(29, 40), (81, 122), (127, 146), (150, 163), (181, 189)]) (cnr := []) (cuts := [(9, [2009, 0, 1, 5000, 0, 5000, 5000], []), (51, [2009, 0, 1, 5000, 0, 5000, 5000], []), (62, [2009, 0, 1, 5000, 0, 0, 5000], [])]) ki.1 (pk_X9_isTouched ki hG) ok_X9_isTouched (by decide) 8 true _ _ _ _ H
theorem r_X9_isTouched_9 {K : JC} {l : Launch} {G : JG} {Q : Int → MH → Prop} {E : Nat → Int → MH → Prop} {h0 : MH} (ki : KI K l G yX9_isTouched cX9_isTouched 7 (some .boolean) [] 12 390 2 Q E h0) (hG : gO G = true) {v1 v2 v4 : Int} {h : MH} (H :
    ((hv h 396 3) ≠ 0) ∧
    (((hv h (hv h 396 3) 6) ≤ v4 →
      (∀ x4_1 : Int, x4_1 = 1 →
      JW K 51 [(2009, 396), (0, v1), (1, v2), (5000, 0), (0, x4_1), (5000, 0), (5000, 0)] [] h)) ∧
    (v4 < (hv h (hv h 396 3) 6) →
      (0 ≤ v4) ∧
      (v4 < 40) ∧
      (∀ x2_2 : Int, x2_2 = (l_or v2 (if (hv h 456 v4) = 0 then 0 else (l_shl 1 v4) : Int)) →
      (∀ x4_3 : Int, x4_3 = w32 (v4 + 1) →
      JW K 9 [(2009, 396), (0, v1), (1, x2_2), (5000, 0), (0, x4_3), (5000, 0), (5000, 0)] [] h))))) : JW K 9 [(2009, 396), (0, v1), (1, v2), (5000, 0), (0, v4), (5000, 0), (5000, 0)] [] h := by
  have e1 := ki.2.2.2.2.1
  have e2 := ki.2.2.2.2.2.1
  subst e1; subst e2
  exact run_ok (dia := [(29, 40), (81, 122), (127, 146), (150, 163), (181, 189)]) (cnr := []) (cuts := [(9, [2009, 0, 1, 5000, 0, 5000, 5000], []), (51, [2009, 0, 1, 5000, 0, 5000, 5000], []), (62, [2009, 0, 1, 5000, 0, 0, 5000], [])]) ki.1 (pk_X9_isTouched ki hG) ok_X9_isTouched (by decide) 17 true _ _ _ _ H
theorem r_X9_isTouched_51 {K : JC} {l : Launch} {G : JG} {Q : Int → MH → Prop} {E : Nat → Int → MH → Prop} {h0 : MH} (ki : KI K l G yX9_isTouched cX9_isTouched 7 (some .boolean) [] 12 390 2 Q E h0) (hG : gO G = true) {v1 v2 v4 : Int} {h : MH} (H :
    ((v4 = 0 →
      (((if (lc (l_and (l_shr v2 v1) 1) 1) = 0 then 1 else 0 : Int) = 0 ∨ (if (lc (l_and (l_shr v2 v1) 1) 1) = 0 then 1 else 0 : Int) = 1) ∧ Q (if (lc (l_and (l_shr v2 v1) 1) 1) = 0 then 1 else 0 : Int) h)) ∧
    (¬ v4 = 0 →
      (∀ x4_1 : Int, x4_1 = 0 →
      (∀ x5_2 : Int, x5_2 = 0 →
      JW K 62 [(2009, 396), (0, v1), (1, v2), (5000, 0), (0, x4_1), (0, x5_2), (5000, 0)] [] h))))) : JW K 51 [(2009, 396), (0, v1), (1, v2), (5000, 0), (0, v4), (5000, 0), (5000, 0)] [] h := by
  have e1 := ki.2.2.2.2.1
  have e2 := ki.2.2.2.2.2.1
  subst e1; subst e2
  exact run_ok (dia := [(29, 40), (81, 122), (127, 146), (150, 163), (181, 189)]) (cnr := []) (cuts := [(9, [2009, 0, 1, 5000, 0, 5000, 5000], []), (51, [2009, 0, 1, 5000, 0, 5000, 5000], []), (62, [2009, 0, 1, 5000, 0, 0, 5000], [])]) ki.1 (pk_X9_isTouched ki hG) ok_X9_isTouched (by decide) 12 true _ _ _ _ H
theorem r_X9_isTouched_62 {K : JC} {l : Launch} {G : JG} {Q : Int → MH → Prop} {E : Nat → Int → MH → Prop} {h0 : MH} (ki : KI K l G yX9_isTouched cX9_isTouched 7 (some .boolean) [] 12 390 2 Q E h0) (hG : gO G = true) {v1 v2 v4 v5 : Int} {h : MH} (H :
    ((hv h 396 3) ≠ 0) ∧
    (((hv h (hv h 396 3) 21) ≤ v5 →
      JW K 51 [(2009, 396), (0, v1), (1, v2), (5000, 0), (0, v4), (5000, 0), (5000, 0)] [] h) ∧
    (v5 < (hv h (hv h 396 3) 21) →
      (0 ≤ v5) ∧
      (v5 < 1500) ∧
      ((¬ (hv h 460 v5) = 0 → (0 ≤ v5) ∧ (v5 < 1500) ∧ (¬ (lc (l_and (hv h 468 v5) v2) 0) = 0 → ((hv h 396 3) ≠ 0) ∧ (0 ≤ v5) ∧ v5 < 1500))) ∧
      (∀ x6_1 : Int, x6_1 = (if (hv h 460 v5) = 0 then 0 else (if (lc (l_and (hv h 468 v5) v2) 0) = 0 then 0 else (if (lc (l_and (l_shr v2 (hv h ((hv h 396 3) + 24) v5)) 1) 0) = 0 then 1 else 0 : Int) : Int) : Int) →
      ((¬ x6_1 = 0 → ((hv h 396 3) ≠ 0) ∧ (0 ≤ v5) ∧ v5 < 1500)) ∧
      (∀ x2_2 : Int, x2_2 = (l_or v2 (if x6_1 = 0 then 0 else (l_shl 1 (hv h ((hv h 396 3) + 24) v5)) : Int)) →
      (∀ x4_3 : Int, x4_3 = (if v4 = 0 then (if x6_1 = 0 then 0 else 1 : Int) else 1 : Int) →
      (∀ x5_4 : Int, x5_4 = w32 (v5 + 1) →
      JW K 62 [(2009, 396), (0, v1), (1, x2_2), (5000, 0), (0, x4_3), (0, x5_4), (5000, 0)] [] h))))))) : JW K 62 [(2009, 396), (0, v1), (1, v2), (5000, 0), (0, v4), (0, v5), (5000, 0)] [] h := by
  have e1 := ki.2.2.2.2.1
  have e2 := ki.2.2.2.2.2.1
  subst e1; subst e2
  exact run_ok (dia := [(29, 40), (81, 122), (127, 146), (150, 163), (181, 189)]) (cnr := []) (cuts := [(9, [2009, 0, 1, 5000, 0, 5000, 5000], []), (51, [2009, 0, 1, 5000, 0, 5000, 5000], []), (62, [2009, 0, 1, 5000, 0, 0, 5000], [])]) ki.1 (pk_X9_isTouched ki hG) ok_X9_isTouched (by decide) 23 true _ _ _ _ H
abbrev k_X9_findFacts : List (Nat × List (Nat × Instr)) := [(44, [(0, .aload_n 0), (1, .getfield 383), (4, .ifCond .eq 4), (7, .return_), (8, .aload_n 0), (9, .iconst 1), (10, .putfield 383), (13, .aload_n 0), (14, .invokevirtual 497), (17, .iconst 0), (18, .istore_n 1), (19, .iload_n 1), (20, .aload_n 0), (21, .getfield 373), (24, .getfield 333), (27, .if_icmp .ge 162), (30, .aload_n 0), (31, .getfield 27), (34, .iload_n 1), (35, .baload), (36, .ifCond .ne 6), (39, .goto 144), (42, .iconst 0), (43, .istore_n 2)]),
  (86, [(44, .iload_n 2), (45, .bipush 8), (47, .if_icmp .ge 113), (50, .iload_n 2), (51, .aload_n 0), (52, .getfield 373), (55, .getfield 275), (58, .iload_n 1), (59, .iaload), (60, .if_icmp .ge 7), (63, .iconst 1), (64, .goto 4), (67, .iconst 0), (68, .istore_n 3), (69, .aload_n 0), (70, .getfield 373), (73, .getfield 281), (76, .bipush 8), (78, .iload_n 1), (79, .imul), (80, .iload_n 2), (81, .iadd), (82, .iaload), (83, .ifCond .ne 7)]),
  (133, [(86, .iconst 1), (87, .goto 4), (90, .iconst 0), (91, .istore 4), (93, .aload_n 0), (94, .iload_n 2), (95, .iload_n 3), (96, .ifCond .eq 14), (99, .iload 4), (101, .ifCond .eq 9), (104, .ldc_w 500), (107, .goto 4), (110, .iconst 0), (111, .iload_n 3), (112, .ifCond .eq 14), (115, .iload 4), (117, .ifCond .eq 9), (120, .ldc_w 501), (123, .goto 4), (126, .iconst 0), (127, .iconst 0), (128, .iload_n 2), (129, .aload_n 0), (130, .getfield 373)]),
  (180, [(133, .getfield 297), (136, .iload_n 1), (137, .iaload), (138, .if_icmp .ge 12), (141, .iload 4), (143, .ifCond .ne 7), (146, .lconst 1), (147, .goto 4), (150, .lconst 0), (151, .invokevirtual 502), (154, .iinc 2 1), (157, .goto (-113)), (160, .aload_n 0), (161, .iconst 0), (162, .putfield 506), (165, .aload_n 0), (166, .iconst 0), (167, .putfield 509), (170, .aload_n 0), (171, .aload_n 0), (172, .getfield 373), (175, .getfield 312), (178, .iload_n 1), (179, .iaload)]),
  (224, [(180, .invokevirtual 512), (183, .iinc 1 1), (186, .goto (-167)), (189, .iconst 1), (190, .istore_n 1), (191, .iload_n 1), (192, .ifCond .eq 111), (195, .aload_n 0), (196, .getfield 484), (199, .lstore_n 2), (200, .aload_n 0), (201, .getfield 488), (204, .istore 4), (206, .aload_n 0), (207, .getfield 491), (210, .lstore 5), (212, .aload_n 0), (213, .lconst 0), (214, .putfield 484), (217, .aload_n 0), (218, .iconst 0), (219, .putfield 488), (222, .aload_n 0), (223, .lconst 0)]),
  (270, [(224, .putfield 491), (227, .iconst 0), (228, .istore_n 1), (229, .iconst 0), (230, .istore 7), (232, .iload 7), (234, .aload_n 0), (235, .getfield 373), (238, .getfield 309), (241, .if_icmp .ge 59), (244, .aload_n 0), (245, .getfield 37), (248, .iload 7), (250, .baload), (251, .ifCond .eq 43), (254, .aload_n 0), (255, .getfield 30), (258, .iload 7), (260, .baload), (261, .ifCond .ne 17), (264, .aload_n 0), (265, .iload 7), (267, .lload_n 2), (268, .iload 4)]),
  (320, [(270, .lload 5), (272, .invokevirtual 515), (275, .ifCond .eq 19), (278, .aload_n 0), (279, .getfield 30), (282, .iload 7), (284, .iconst 0), (285, .bastore), (286, .iconst 1), (287, .istore_n 1), (288, .aload_n 0), (289, .iload 7), (291, .invokevirtual 519), (294, .iinc 7 1), (297, .goto (-65)), (300, .goto (-109)), (303, .aload_n 0), (304, .invokevirtual 522), (307, .aload_n 0), (308, .invokevirtual 525), (311, .return_)])]
theorem ok_X9_findFacts : CodeOK cX9_findFacts k_X9_findFacts := okw 0 (by decide +kernel) (okw 44 (by decide +kernel) (okw 86 (by decide +kernel) (okw 133 (by decide +kernel) (okw 180 (by decide +kernel) (okw 224 (by decide +kernel) (okw 270 (by decide +kernel) (okn)))))))
abbrev p_X9_findFacts (l : Launch) (G : JG) : JP := (true, [(27, 9, 7, 1040102, 61), (30, 9, 15, 2500102, 62), (37, 9, 18, 2500102, 64), (275, 10, 9, 1040100, 7), (281, 10, 12, 1320100, 10), (297, 10, 11, 1040100, 9), (309, 10, 21, 0, 0), (312, 10, 17, 1040100, 15), (333, 10, 6, 0, 0), (373, 9, 3, 14, 0), (383, 9, 11, 0, 0), (484, 9, 12, 1, 0), (488, 9, 13, 0, 0), (491, 9, 14, 1, 0)], [(500, (-2147483648)), (501, 2147483647)], [], [(383, 9, 11, 2), (484, 9, 12, 1), (488, 9, 13, 0), (491, 9, 14, 1), (506, 9, 62, 0), (509, 9, 63, 0)], [], [], [(497, 1, [2009], 700, S_X9_forgetFacts l G), (502, 1, [1, 0, 0, 0, 0, 2009], 700, S_X9_setSlot l G), (512, 1, [0, 2009], 700, S_X9_joinTo l G), (515, 1, [1, 0, 1, 0, 2009], 2, S_X9_asks l G), (519, 1, [0, 2009], 700, S_X9_goOn l G), (522, 1, [2009], 700, S_X9_findLive l G), (525, 1, [2009], 700, S_X9_findOrigins l G)], false, 700, [])
theorem pk_X9_findFacts {K : JC} {l : Launch} {G : JG} {Q : Int → MH → Prop} {E : Nat → Int → MH → Prop} {h0 : MH} (ki : KI K l G yX9_findFacts cX9_findFacts 8 none [] 11 363 700 Q E h0) (hG : gO G = true) : POK K RX9 (p_X9_findFacts l G) :=
  POKi (y := yX9_findFacts) ki hG (rfs rf_X9_ok (by decide +kernel)) (subs (by decide +kernel) rc_X9_ok) fmz (rps rp_X9_ok (by decide +kernel)) fmz fmz
  (pkE ki (by
    intro K e1 e2 e3 e4; subst e1; subst e2
    exact fmE (ceV 9 e3 e4 yl_X9_forgetFacts ⟨by decide, ⟨_, _, rfl⟩, q2596, qs122, q2594⟩ rfl) (fmE (ceV 9 e3 e4 yl_X9_setSlot ⟨by decide, ⟨_, _, rfl⟩, q2602, qs123, q2600⟩ rfl) (fmE (ceV 9 e3 e4 yl_X9_joinTo ⟨by decide, ⟨_, _, rfl⟩, q2606, qs124, q2604⟩ rfl) (fmE (ceV 9 e3 e4 yl_X9_asks ⟨by decide, ⟨_, _, rfl⟩, q2612, qs125, q2610⟩ rfl) (fmE (ceV 9 e3 e4 yl_X9_goOn ⟨by decide, ⟨_, _, rfl⟩, q2616, qs126, q2614⟩ rfl) (fmE (ceV 9 e3 e4 yl_X9_findLive ⟨by decide, ⟨_, _, rfl⟩, q2743, qs156, q2741⟩ rfl) (fmE (ceV 9 e3 e4 yl_X9_findOrigins ⟨by decide, ⟨_, _, rfl⟩, q2755, qs159, q2753⟩ rfl) (fmz))))))))) (fun z => Bool.noConfusion z) rfl (pkP ki (by
    intro K e1 e2 e3 e4; subst e1; subst e2
    exact fmz))
theorem r_X9_findFacts_0 {K : JC} {l : Launch} {G : JG} {Q : Int → MH → Prop} {E : Nat → Int → MH → Prop} {h0 : MH} (ki : KI K l G yX9_findFacts cX9_findFacts 8 none [] 11 363 700 Q E h0) (hG : gO G = true) {h : MH} (H :
    (((hv h 396 11) = 0 →
      ((1 : Int) = 0 ∨ (1 : Int) = 1) ∧
      (∀ h1, h1 = hset h 396 11 1 →
      S_X9_forgetFacts l G [(2009, 396)] h1 (fun _ h3 =>
      (∀ x1_4 : Int, x1_4 = 0 →
      JW K 19 [(2009, 396), (0, x1_4), (5000, 0), (5000, 0), (5000, 0), (5000, 0), (5000, 0), (5000, 0)] [] h3)) E)) ∧
    (¬ (hv h 396 11) = 0 →
      Q 0 h))) : JW K 0 [(2009, 396), (5000, 0), (5000, 0), (5000, 0), (5000, 0), (5000, 0), (5000, 0), (5000, 0)] [] h := by
  have e1 := ki.2.2.2.2.1
  have e2 := ki.2.2.2.2.2.1
  subst e1; subst e2
  exact run_ok (dia := [(60, 68), (83, 91), (96, 111), (112, 127), (138, 151)]) (cnr := []) (cuts := [(19, [2009, 0, 5000, 5000, 5000, 5000, 5000, 5000], []), (44, [2009, 0, 0, 5000, 5000, 5000, 5000, 5000], []), (191, [2009, 0, 5000, 5000, 5000, 5000, 5000, 5000], []), (232, [2009, 0, 1, 5000, 0, 1, 5000, 0], [])]) ki.1 (pk_X9_findFacts ki hG) ok_X9_findFacts (by decide) 12 true _ _ _ _ H
theorem r_X9_findFacts_19 {K : JC} {l : Launch} {G : JG} {Q : Int → MH → Prop} {E : Nat → Int → MH → Prop} {h0 : MH} (ki : KI K l G yX9_findFacts cX9_findFacts 8 none [] 11 363 700 Q E h0) (hG : gO G = true) {v1 : Int} {h : MH} (H :
    ((hv h 396 3) ≠ 0) ∧
    (((hv h (hv h 396 3) 6) ≤ v1 →
      (∀ x1_1 : Int, x1_1 = 1 →
      JW K 191 [(2009, 396), (0, x1_1), (5000, 0), (5000, 0), (5000, 0), (5000, 0), (5000, 0), (5000, 0)] [] h)) ∧
    (v1 < (hv h (hv h 396 3) 6) →
      (0 ≤ v1) ∧
      (v1 < 40) ∧
      ((¬ (hv h 457 v1) = 0 →
        (∀ x2_2 : Int, x2_2 = 0 →
        JW K 44 [(2009, 396), (0, v1), (0, x2_2), (5000, 0), (5000, 0), (5000, 0), (5000, 0), (5000, 0)] [] h)) ∧
      ((hv h 457 v1) = 0 →
        (∀ x1_3 : Int, x1_3 = w32 (v1 + 1) →
        JW K 19 [(2009, 396), (0, x1_3), (5000, 0), (5000, 0), (5000, 0), (5000, 0), (5000, 0), (5000, 0)] [] h)))))) : JW K 19 [(2009, 396), (0, v1), (5000, 0), (5000, 0), (5000, 0), (5000, 0), (5000, 0), (5000, 0)] [] h := by
  have e1 := ki.2.2.2.2.1
  have e2 := ki.2.2.2.2.2.1
  subst e1; subst e2
  exact run_ok (dia := [(60, 68), (83, 91), (96, 111), (112, 127), (138, 151)]) (cnr := []) (cuts := [(19, [2009, 0, 5000, 5000, 5000, 5000, 5000, 5000], []), (44, [2009, 0, 0, 5000, 5000, 5000, 5000, 5000], []), (191, [2009, 0, 5000, 5000, 5000, 5000, 5000, 5000], []), (232, [2009, 0, 1, 5000, 0, 1, 5000, 0], [])]) ki.1 (pk_X9_findFacts ki hG) ok_X9_findFacts (by decide) 15 true _ _ _ _ H
theorem r_X9_findFacts_44 {K : JC} {l : Launch} {G : JG} {Q : Int → MH → Prop} {E : Nat → Int → MH → Prop} {h0 : MH} (ki : KI K l G yX9_findFacts cX9_findFacts 8 none [] 11 363 700 Q E h0) (hG : gO G = true) {v1 v2 : Int} {h : MH} (H :
    ((8 ≤ v2 →
      (∀ h1, h1 = hset h 396 62 0 →
      (∀ h2, h2 = hset h1 396 63 0 →
      ((hv h2 396 3) ≠ 0) ∧
      (0 ≤ v1) ∧
      (v1 < 40) ∧
      S_X9_joinTo l G [(2009, 396), (0, (hv h2 ((hv h2 396 3) + 15) v1))] h2 (fun _ h4 =>
      (∀ x1_5 : Int, x1_5 = w32 (v1 + 1) →
      JW K 19 [(2009, 396), (0, x1_5), (5000, 0), (5000, 0), (5000, 0), (5000, 0), (5000, 0), (5000, 0)] [] h4)) E))) ∧
    (v2 < 8 →
      ((hv h 396 3) ≠ 0) ∧
      (0 ≤ v1) ∧
      (v1 < 40) ∧
      (∀ x3_6 : Int, x3_6 = (if v2 < (hv h ((hv h 396 3) + 7) v1) then 1 else 0 : Int) →
      ((hv h 396 3) ≠ 0) ∧
      (0 ≤ (w32 ((w32 (8 * v1)) + v2))) ∧
      ((w32 ((w32 (8 * v1)) + v2)) < 320) ∧
      (∀ x4_7 : Int, x4_7 = (if (hv h ((hv h 396 3) + 10) (w32 ((w32 (8 * v1)) + v2))) = 0 then 1 else 0 : Int) →
      ((hv h 396 3) ≠ 0) ∧
      (0 ≤ v1) ∧
      (v1 < 40) ∧
      S_X9_setSlot l G [(2009, 396), (0, v2), (0, (if x3_6 = 0 then 0 else (if x4_7 = 0 then 0 else (-2147483648) : Int) : Int)), (0, (if x3_6 = 0 then 0 else (if x4_7 = 0 then 0 else 2147483647 : Int) : Int)), (0, 0), (1, (if v2 < (hv h ((hv h 396 3) + 9) v1) then (if x4_7 = 0 then 1 else 0 : Int) else 0 : Int))] h (fun _ h9 =>
      (∀ x2_10 : Int, x2_10 = w32 (v2 + 1) →
      JW K 44 [(2009, 396), (0, v1), (0, x2_10), (5000, 0), (5000, 0), (5000, 0), (5000, 0), (5000, 0)] [] h9)) E))))) : JW K 44 [(2009, 396), (0, v1), (0, v2), (5000, 0), (5000, 0), (5000, 0), (5000, 0), (5000, 0)] [] h := by
  have e1 := ki.2.2.2.2.1
  have e2 := ki.2.2.2.2.2.1
  subst e1; subst e2
  exact run_ok (dia := [(60, 68), (83, 91), (96, 111), (112, 127), (138, 151)]) (cnr := []) (cuts := [(19, [2009, 0, 5000, 5000, 5000, 5000, 5000, 5000], []), (44, [2009, 0, 0, 5000, 5000, 5000, 5000, 5000], []), (191, [2009, 0, 5000, 5000, 5000, 5000, 5000, 5000], []), (232, [2009, 0, 1, 5000, 0, 1, 5000, 0], [])]) ki.1 (pk_X9_findFacts ki hG) ok_X9_findFacts (by decide) 41 true _ _ _ _ H
theorem r_X9_findFacts_191 {K : JC} {l : Launch} {G : JG} {Q : Int → MH → Prop} {E : Nat → Int → MH → Prop} {h0 : MH} (ki : KI K l G yX9_findFacts cX9_findFacts 8 none [] 11 363 700 Q E h0) (hG : gO G = true) {v1 : Int} {h : MH} (H :
    ((v1 = 0 →
      S_X9_findLive l G [(2009, 396)] h (fun _ h2 =>
      S_X9_findOrigins l G [(2009, 396)] h2 (fun _ h4 =>
      Q 0 h4) E) E) ∧
    (¬ v1 = 0 →
      (∀ x2_5 : Int, x2_5 = (hv h 396 12) →
      (∀ x4_6 : Int, x4_6 = (hv h 396 13) →
      (∀ x5_7 : Int, x5_7 = (hv h 396 14) →
      (∀ h8, h8 = hset h 396 12 0 →
      (∀ h9, h9 = hset h8 396 13 0 →
      (∀ h10, h10 = hset h9 396 14 0 →
      (∀ x1_11 : Int, x1_11 = 0 →
      (∀ x7_12 : Int, x7_12 = 0 →
      JW K 232 [(2009, 396), (0, x1_11), (1, x2_5), (5000, 0), (0, x4_6), (1, x5_7), (5000, 0), (0, x7_12)] [] h10))))))))))) : JW K 191 [(2009, 396), (0, v1), (5000, 0), (5000, 0), (5000, 0), (5000, 0), (5000, 0), (5000, 0)] [] h := by
  have e1 := ki.2.2.2.2.1
  have e2 := ki.2.2.2.2.2.1
  subst e1; subst e2
  exact run_ok (dia := [(60, 68), (83, 91), (96, 111), (112, 127), (138, 151)]) (cnr := []) (cuts := [(19, [2009, 0, 5000, 5000, 5000, 5000, 5000, 5000], []), (44, [2009, 0, 0, 5000, 5000, 5000, 5000, 5000], []), (191, [2009, 0, 5000, 5000, 5000, 5000, 5000, 5000], []), (232, [2009, 0, 1, 5000, 0, 1, 5000, 0], [])]) ki.1 (pk_X9_findFacts ki hG) ok_X9_findFacts (by decide) 26 true _ _ _ _ H
theorem r_X9_findFacts_232 {K : JC} {l : Launch} {G : JG} {Q : Int → MH → Prop} {E : Nat → Int → MH → Prop} {h0 : MH} (ki : KI K l G yX9_findFacts cX9_findFacts 8 none [] 11 363 700 Q E h0) (hG : gO G = true) {v1 v2 v4 v5 v7 : Int} {h : MH} (H :
    ((hv h 396 3) ≠ 0) ∧
    (((hv h (hv h 396 3) 21) ≤ v7 →
      JW K 191 [(2009, 396), (0, v1), (5000, 0), (5000, 0), (5000, 0), (5000, 0), (5000, 0), (5000, 0)] [] h) ∧
    (v7 < (hv h (hv h 396 3) 21) →
      (0 ≤ v7) ∧
      (v7 < 1500) ∧
      (((hv h 460 v7) = 0 →
        (∀ x7_1 : Int, x7_1 = w32 (v7 + 1) →
        JW K 232 [(2009, 396), (0, v1), (1, v2), (5000, 0), (0, v4), (1, v5), (5000, 0), (0, x7_1)] [] h)) ∧
      (¬ (hv h 460 v7) = 0 →
        (0 ≤ v7) ∧
        (v7 < 1500) ∧
        ((¬ (hv h 458 v7) = 0 →
          (0 ≤ v7) ∧
          (v7 < 1500) ∧
          ((0 : Int) = 0 ∨ (0 : Int) = 1) ∧
          (∀ h2, h2 = hset h 458 v7 0 →
          (∀ x1_3 : Int, x1_3 = 1 →
          S_X9_goOn l G [(2009, 396), (0, v7)] h2 (fun _ h5 =>
          (∀ x7_6 : Int, x7_6 = w32 (v7 + 1) →
          JW K 232 [(2009, 396), (0, x1_3), (1, v2), (5000, 0), (0, v4), (1, v5), (5000, 0), (0, x7_6)] [] h5)) E))) ∧
        ((hv h 458 v7) = 0 →
          S_X9_asks l G [(2009, 396), (0, v7), (1, v2), (0, v4), (1, v5)] h (fun z7 h8 =>
          ((z7 = 0 →
            (∀ x7_9 : Int, x7_9 = w32 (v7 + 1) →
            JW K 232 [(2009, 396), (0, v1), (1, v2), (5000, 0), (0, v4), (1, v5), (5000, 0), (0, x7_9)] [] h8)) ∧
          (¬ z7 = 0 →
            (0 ≤ v7) ∧
            (v7 < 1500) ∧
            ((0 : Int) = 0 ∨ (0 : Int) = 1) ∧
            (∀ h10, h10 = hset h8 458 v7 0 →
            (∀ x1_11 : Int, x1_11 = 1 →
            S_X9_goOn l G [(2009, 396), (0, v7)] h10 (fun _ h13 =>
            (∀ x7_14 : Int, x7_14 = w32 (v7 + 1) →
            JW K 232 [(2009, 396), (0, x1_11), (1, v2), (5000, 0), (0, v4), (1, v5), (5000, 0), (0, x7_14)] [] h13)) E))))) E))))))) : JW K 232 [(2009, 396), (0, v1), (1, v2), (5000, 0), (0, v4), (1, v5), (5000, 0), (0, v7)] [] h := by
  have e1 := ki.2.2.2.2.1
  have e2 := ki.2.2.2.2.2.1
  subst e1; subst e2
  exact run_ok (dia := [(60, 68), (83, 91), (96, 111), (112, 127), (138, 151)]) (cnr := []) (cuts := [(19, [2009, 0, 5000, 5000, 5000, 5000, 5000, 5000], []), (44, [2009, 0, 0, 5000, 5000, 5000, 5000, 5000], []), (191, [2009, 0, 5000, 5000, 5000, 5000, 5000, 5000], []), (232, [2009, 0, 1, 5000, 0, 1, 5000, 0], [])]) ki.1 (pk_X9_findFacts ki hG) ok_X9_findFacts (by decide) 36 true _ _ _ _ H
abbrev k_X9_forgetFacts : List (Nat × List (Nat × Instr)) := [(40, [(0, .aload_n 0), (1, .lconst 0), (2, .putfield 484), (5, .aload_n 0), (6, .iconst 0), (7, .putfield 488), (10, .aload_n 0), (11, .lconst 0), (12, .putfield 491), (15, .aload_n 0), (16, .invokevirtual 494), (19, .iconst 0), (20, .istore_n 1), (21, .iload_n 1), (22, .sipush 1500), (25, .if_icmp .ge 84), (28, .aload_n 0), (29, .getfield 37), (32, .iload_n 1), (33, .iconst 0), (34, .bastore), (35, .aload_n 0), (36, .getfield 30), (39, .iload_n 1)]),
  (72, [(40, .iconst 0), (41, .bastore), (42, .aload_n 0), (43, .getfield 59), (46, .iload_n 1), (47, .lconst 0), (48, .lastore), (49, .aload_n 0), (50, .getfield 62), (53, .iload_n 1), (54, .lconst 0), (55, .lastore), (56, .aload_n 0), (57, .getfield 71), (60, .iload_n 1), (61, .lconst 0), (62, .lastore), (63, .aload_n 0), (64, .getfield 65), (67, .iconst 2), (68, .iload_n 1), (69, .imul), (70, .lconst 0), (71, .lastore)]),
  (102, [(72, .aload_n 0), (73, .getfield 65), (76, .iconst 2), (77, .iload_n 1), (78, .imul), (79, .iconst 1), (80, .iadd), (81, .lconst 0), (82, .lastore), (83, .aload_n 0), (84, .getfield 68), (87, .iconst 2), (88, .iload_n 1), (89, .imul), (90, .lconst 0), (91, .lastore), (92, .aload_n 0), (93, .getfield 68), (96, .iconst 2), (97, .iload_n 1), (98, .imul), (99, .iconst 1), (100, .iadd), (101, .lconst 0)]),
  (139, [(102, .lastore), (103, .iinc 1 1), (106, .goto (-85)), (109, .iconst 0), (110, .istore_n 1), (111, .iload_n 1), (112, .bipush 63), (114, .if_icmp .ge 37), (117, .aload_n 0), (118, .getfield 74), (121, .iload_n 1), (122, .iconst 0), (123, .bastore), (124, .aload_n 0), (125, .getfield 95), (128, .iload_n 1), (129, .iconst 0), (130, .bastore), (131, .aload_n 0), (132, .getfield 89), (135, .iload_n 1), (136, .iconst 0), (137, .iastore), (138, .aload_n 0)]),
  (179, [(139, .getfield 92), (142, .iload_n 1), (143, .iconst 0), (144, .iastore), (145, .iinc 1 1), (148, .goto (-37)), (151, .iconst 0), (152, .istore_n 1), (153, .iload_n 1), (154, .sipush 504), (157, .if_icmp .ge 37), (160, .aload_n 0), (161, .getfield 77), (164, .iload_n 1), (165, .iconst 0), (166, .iastore), (167, .aload_n 0), (168, .getfield 80), (171, .iload_n 1), (172, .iconst 0), (173, .iastore), (174, .aload_n 0), (175, .getfield 83), (178, .iload_n 1)]),
  (216, [(179, .iconst 0), (180, .iastore), (181, .aload_n 0), (182, .getfield 86), (185, .iload_n 1), (186, .lconst 0), (187, .lastore), (188, .iinc 1 1), (191, .goto (-38)), (194, .iconst 0), (195, .istore_n 1), (196, .iload_n 1), (197, .bipush 8), (199, .if_icmp .ge 72), (202, .aload_n 0), (203, .getfield 98), (206, .iload_n 1), (207, .iconst 0), (208, .iastore), (209, .aload_n 0), (210, .getfield 101), (213, .iload_n 1), (214, .iconst 0), (215, .iastore)]),
  (258, [(216, .aload_n 0), (217, .getfield 104), (220, .iload_n 1), (221, .iconst 0), (222, .iastore), (223, .aload_n 0), (224, .getfield 107), (227, .iload_n 1), (228, .iload_n 1), (229, .aload_n 0), (230, .getfield 373), (233, .getfield 260), (236, .if_icmp .ge 20), (239, .aload_n 0), (240, .getfield 373), (243, .getfield 263), (246, .iload_n 1), (247, .iaload), (248, .iconst 1), (249, .if_icmp .ne 7), (252, .lconst 1), (253, .goto 4), (256, .lconst 0), (257, .lastore)]),
  (297, [(258, .aload_n 0), (259, .getfield 110), (262, .iload_n 1), (263, .iconst 0), (264, .bastore), (265, .iinc 1 1), (268, .goto (-72)), (271, .iconst 0), (272, .istore_n 1), (273, .iload_n 1), (274, .bipush 40), (276, .if_icmp .ge 58), (279, .aload_n 0), (280, .getfield 122), (283, .iload_n 1), (284, .iconst 0), (285, .bastore), (286, .aload_n 0), (287, .getfield 125), (290, .iload_n 1), (291, .iconst 0), (292, .iastore), (293, .aload_n 0), (294, .getfield 128)]),
  (331, [(297, .iload_n 1), (298, .iconst 0), (299, .iastore), (300, .aload_n 0), (301, .getfield 131), (304, .iload_n 1), (305, .iconst 0), (306, .iastore), (307, .aload_n 0), (308, .getfield 134), (311, .iload_n 1), (312, .lconst 0), (313, .lastore), (314, .aload_n 0), (315, .getfield 143), (318, .iload_n 1), (319, .lconst 0), (320, .lastore), (321, .aload_n 0), (322, .getfield 152), (325, .iload_n 1), (326, .iconst 0), (327, .iastore), (328, .iinc 1 1)]),
  (343, [(331, .goto (-58)), (334, .return_)])]
theorem ok_X9_forgetFacts : CodeOK cX9_forgetFacts k_X9_forgetFacts := okw 0 (by decide +kernel) (okw 40 (by decide +kernel) (okw 72 (by decide +kernel) (okw 102 (by decide +kernel) (okw 139 (by decide +kernel) (okw 179 (by decide +kernel) (okw 216 (by decide +kernel) (okw 258 (by decide +kernel) (okw 297 (by decide +kernel) (okw 331 (by decide +kernel) (okn))))))))))
abbrev p_X9_forgetFacts (l : Launch) (G : JG) : JP := (true, [(30, 9, 15, 2500102, 62), (37, 9, 18, 2500102, 64), (59, 9, 25, 2500101, 71), (62, 9, 26, 2500101, 72), (65, 9, 27, 4000101, 73), (68, 9, 28, 4000101, 74), (71, 9, 29, 2500101, 75), (74, 9, 30, 1063102, 76), (77, 9, 31, 1504100, 77), (80, 9, 32, 1504100, 78), (83, 9, 33, 1504100, 79), (86, 9, 34, 1504101, 80), (89, 9, 35, 1063100, 81), (92, 9, 36, 1063100, 82), (95, 9, 37, 1063102, 83), (98, 9, 38, 1008100, 84), (101, 9, 39, 1008100, 85), (104, 9, 40, 1008100, 86), (107, 9, 41, 1008101, 87), (110, 9, 42, 1008102, 88), (122, 9, 46, 1040102, 92), (125, 9, 47, 1040100, 93), (128, 9, 48, 1040100, 94), (131, 9, 49, 1040100, 95), (134, 9, 50, 1040101, 96), (143, 9, 53, 1040101, 99), (152, 9, 56, 1040100, 102), (260, 10, 1, 0, 0), (263, 10, 2, 1008100, 1), (373, 9, 3, 14, 0)], [], [], [(484, 9, 12, 1), (488, 9, 13, 0), (491, 9, 14, 1)], [], [], [(494, 1, [2009], 700, S_X9_findMarks l G)], false, 700, [])
theorem pk_X9_forgetFacts {K : JC} {l : Launch} {G : JG} {Q : Int → MH → Prop} {E : Nat → Int → MH → Prop} {h0 : MH} (ki : KI K l G yX9_forgetFacts cX9_forgetFacts 2 none [] 7 220 700 Q E h0) (hG : gO G = true) : POK K RX9 (p_X9_forgetFacts l G) :=
  POKi (y := yX9_forgetFacts) ki hG (rfs rf_X9_ok (by decide +kernel)) fmz fmz (rps rp_X9_ok (by decide +kernel)) fmz fmz
  (pkE ki (by
    intro K e1 e2 e3 e4; subst e1; subst e2
    exact fmE (ceV 9 e3 e4 yl_X9_findMarks ⟨by decide, ⟨_, _, rfl⟩, q2565, qs117, q2563⟩ rfl) (fmz))) (fun z => Bool.noConfusion z) rfl (pkP ki (by
    intro K e1 e2 e3 e4; subst e1; subst e2
    exact fmz))
theorem r_X9_forgetFacts_0 {K : JC} {l : Launch} {G : JG} {Q : Int → MH → Prop} {E : Nat → Int → MH → Prop} {h0 : MH} (ki : KI K l G yX9_forgetFacts cX9_forgetFacts 2 none [] 7 220 700 Q E h0) (hG : gO G = true) {h : MH} (H :
    (∀ h1, h1 = hset h 396 12 0 →
    (∀ h2, h2 = hset h1 396 13 0 →
    (∀ h3, h3 = hset h2 396 14 0 →
    S_X9_findMarks l G [(2009, 396)] h3 (fun _ h5 =>
    (∀ x1_6 : Int, x1_6 = 0 →
    JW K 21 [(2009, 396), (0, x1_6)] [] h5)) E)))) : JW K 0 [(2009, 396), (5000, 0)] [] h := by
  have e1 := ki.2.2.2.2.1
  have e2 := ki.2.2.2.2.2.1
  subst e1; subst e2
  exact run_ok (dia := [(236, 257)]) (cnr := []) (cuts := [(21, [2009, 0], []), (111, [2009, 0], []), (153, [2009, 0], []), (196, [2009, 0], []), (273, [2009, 0], [])]) ki.1 (pk_X9_forgetFacts ki hG) ok_X9_forgetFacts (by decide) 15 true _ _ _ _ H
theorem r_X9_forgetFacts_21 {K : JC} {l : Launch} {G : JG} {Q : Int → MH → Prop} {E : Nat → Int → MH → Prop} {h0 : MH} (ki : KI K l G yX9_forgetFacts cX9_forgetFacts 2 none [] 7 220 700 Q E h0) (hG : gO G = true) {v1 : Int} {h : MH} (H :
    ((1500 ≤ v1 →
      (∀ x1_1 : Int, x1_1 = 0 →
      JW K 111 [(2009, 396), (0, x1_1)] [] h)) ∧
    (v1 < 1500 →
      (0 ≤ v1) ∧
      (v1 < 1500) ∧
      ((0 : Int) = 0 ∨ (0 : Int) = 1) ∧
      (∀ h2, h2 = hset h 460 v1 0 →
      (0 ≤ v1) ∧
      (v1 < 1500) ∧
      ((0 : Int) = 0 ∨ (0 : Int) = 1) ∧
      (∀ h3, h3 = hset h2 458 v1 0 →
      (0 ≤ v1) ∧
      (v1 < 1500) ∧
      (∀ h4, h4 = hset h3 467 v1 0 →
      (0 ≤ v1) ∧
      (v1 < 1500) ∧
      (∀ h5, h5 = hset h4 468 v1 0 →
      (0 ≤ v1) ∧
      (v1 < 1500) ∧
      (∀ h6, h6 = hset h5 471 v1 0 →
      (0 ≤ (w32 (2 * v1))) ∧
      ((w32 (2 * v1)) < 3000) ∧
      (∀ h7, h7 = hset h6 469 (w32 (2 * v1)) 0 →
      (0 ≤ (w32 ((w32 (2 * v1)) + 1))) ∧
      ((w32 ((w32 (2 * v1)) + 1)) < 3000) ∧
      (∀ h8, h8 = hset h7 469 (w32 ((w32 (2 * v1)) + 1)) 0 →
      (0 ≤ (w32 (2 * v1))) ∧
      ((w32 (2 * v1)) < 3000) ∧
      (∀ h9, h9 = hset h8 470 (w32 (2 * v1)) 0 →
      (0 ≤ (w32 ((w32 (2 * v1)) + 1))) ∧
      ((w32 ((w32 (2 * v1)) + 1)) < 3000) ∧
      (∀ h10, h10 = hset h9 470 (w32 ((w32 (2 * v1)) + 1)) 0 →
      (∀ x1_11 : Int, x1_11 = w32 (v1 + 1) →
      JW K 21 [(2009, 396), (0, x1_11)] [] h10))))))))))))) : JW K 21 [(2009, 396), (0, v1)] [] h := by
  have e1 := ki.2.2.2.2.1
  have e2 := ki.2.2.2.2.2.1
  subst e1; subst e2
  exact run_ok (dia := [(236, 257)]) (cnr := []) (cuts := [(21, [2009, 0], []), (111, [2009, 0], []), (153, [2009, 0], []), (196, [2009, 0], []), (273, [2009, 0], [])]) ki.1 (pk_X9_forgetFacts ki hG) ok_X9_forgetFacts (by decide) 64 true _ _ _ _ H
theorem r_X9_forgetFacts_111 {K : JC} {l : Launch} {G : JG} {Q : Int → MH → Prop} {E : Nat → Int → MH → Prop} {h0 : MH} (ki : KI K l G yX9_forgetFacts cX9_forgetFacts 2 none [] 7 220 700 Q E h0) (hG : gO G = true) {v1 : Int} {h : MH} (H :
    ((63 ≤ v1 →
      (∀ x1_1 : Int, x1_1 = 0 →
      JW K 153 [(2009, 396), (0, x1_1)] [] h)) ∧
    (v1 < 63 →
      (0 ≤ v1) ∧
      (v1 < 63) ∧
      ((0 : Int) = 0 ∨ (0 : Int) = 1) ∧
      (∀ h2, h2 = hset h 472 v1 0 →
      (0 ≤ v1) ∧
      (v1 < 63) ∧
      ((0 : Int) = 0 ∨ (0 : Int) = 1) ∧
      (∀ h3, h3 = hset h2 479 v1 0 →
      (0 ≤ v1) ∧
      (v1 < 63) ∧
      (∀ h4, h4 = hset h3 477 v1 0 →
      (0 ≤ v1) ∧
      (v1 < 63) ∧
      (∀ h5, h5 = hset h4 478 v1 0 →
      (∀ x1_6 : Int, x1_6 = w32 (v1 + 1) →
      JW K 111 [(2009, 396), (0, x1_6)] [] h5)))))))) : JW K 111 [(2009, 396), (0, v1)] [] h := by
  have e1 := ki.2.2.2.2.1
  have e2 := ki.2.2.2.2.2.1
  subst e1; subst e2
  exact run_ok (dia := [(236, 257)]) (cnr := []) (cuts := [(21, [2009, 0], []), (111, [2009, 0], []), (153, [2009, 0], []), (196, [2009, 0], []), (273, [2009, 0], [])]) ki.1 (pk_X9_forgetFacts ki hG) ok_X9_forgetFacts (by decide) 27 true _ _ _ _ H
theorem r_X9_forgetFacts_153 {K : JC} {l : Launch} {G : JG} {Q : Int → MH → Prop} {E : Nat → Int → MH → Prop} {h0 : MH} (ki : KI K l G yX9_forgetFacts cX9_forgetFacts 2 none [] 7 220 700 Q E h0) (hG : gO G = true) {v1 : Int} {h : MH} (H :
    ((504 ≤ v1 →
      (∀ x1_1 : Int, x1_1 = 0 →
      JW K 196 [(2009, 396), (0, x1_1)] [] h)) ∧
    (v1 < 504 →
      (0 ≤ v1) ∧
      (v1 < 504) ∧
      (∀ h2, h2 = hset h 473 v1 0 →
      (0 ≤ v1) ∧
      (v1 < 504) ∧
      (∀ h3, h3 = hset h2 474 v1 0 →
      (0 ≤ v1) ∧
      (v1 < 504) ∧
      (∀ h4, h4 = hset h3 475 v1 0 →
      (0 ≤ v1) ∧
      (v1 < 504) ∧
      (∀ h5, h5 = hset h4 476 v1 0 →
      (∀ x1_6 : Int, x1_6 = w32 (v1 + 1) →
      JW K 153 [(2009, 396), (0, x1_6)] [] h5)))))))) : JW K 153 [(2009, 396), (0, v1)] [] h := by
  have e1 := ki.2.2.2.2.1
  have e2 := ki.2.2.2.2.2.1
  subst e1; subst e2
  exact run_ok (dia := [(236, 257)]) (cnr := []) (cuts := [(21, [2009, 0], []), (111, [2009, 0], []), (153, [2009, 0], []), (196, [2009, 0], []), (273, [2009, 0], [])]) ki.1 (pk_X9_forgetFacts ki hG) ok_X9_forgetFacts (by decide) 27 true _ _ _ _ H
theorem r_X9_forgetFacts_196 {K : JC} {l : Launch} {G : JG} {Q : Int → MH → Prop} {E : Nat → Int → MH → Prop} {h0 : MH} (ki : KI K l G yX9_forgetFacts cX9_forgetFacts 2 none [] 7 220 700 Q E h0) (hG : gO G = true) {v1 : Int} {h : MH} (H :
    ((8 ≤ v1 →
      (∀ x1_1 : Int, x1_1 = 0 →
      JW K 273 [(2009, 396), (0, x1_1)] [] h)) ∧
    (v1 < 8 →
      (0 ≤ v1) ∧
      (v1 < 8) ∧
      (∀ h2, h2 = hset h 480 v1 0 →
      (0 ≤ v1) ∧
      (v1 < 8) ∧
      (∀ h3, h3 = hset h2 481 v1 0 →
      (0 ≤ v1) ∧
      (v1 < 8) ∧
      (∀ h4, h4 = hset h3 482 v1 0 →
      ((hv h4 396 3) ≠ 0) ∧
      ((v1 < (hv h4 (hv h4 396 3) 1) → ((hv h4 396 3) ≠ 0) ∧ (0 ≤ v1) ∧ v1 < 8)) ∧
      (0 ≤ v1) ∧
      (v1 < 8) ∧
      (∀ h5, h5 = hset h4 483 v1 (if v1 < (hv h4 (hv h4 396 3) 1) then (if (hv h4 ((hv h4 396 3) + 1) v1) = 1 then 1 else 0 : Int) else 0 : Int) →
      (0 ≤ v1) ∧
      (v1 < 8) ∧
      ((0 : Int) = 0 ∨ (0 : Int) = 1) ∧
      (∀ h6, h6 = hset h5 484 v1 0 →
      (∀ x1_7 : Int, x1_7 = w32 (v1 + 1) →
      JW K 196 [(2009, 396), (0, x1_7)] [] h6))))))))) : JW K 196 [(2009, 396), (0, v1)] [] h := by
  have e1 := ki.2.2.2.2.1
  have e2 := ki.2.2.2.2.2.1
  subst e1; subst e2
  exact run_ok (dia := [(236, 257)]) (cnr := []) (cuts := [(21, [2009, 0], []), (111, [2009, 0], []), (153, [2009, 0], []), (196, [2009, 0], []), (273, [2009, 0], [])]) ki.1 (pk_X9_forgetFacts ki hG) ok_X9_forgetFacts (by decide) 36 true _ _ _ _ H
theorem r_X9_forgetFacts_273 {K : JC} {l : Launch} {G : JG} {Q : Int → MH → Prop} {E : Nat → Int → MH → Prop} {h0 : MH} (ki : KI K l G yX9_forgetFacts cX9_forgetFacts 2 none [] 7 220 700 Q E h0) (hG : gO G = true) {v1 : Int} {h : MH} (H :
    ((40 ≤ v1 →
      Q 0 h) ∧
    (v1 < 40 →
      (0 ≤ v1) ∧
      (v1 < 40) ∧
      ((0 : Int) = 0 ∨ (0 : Int) = 1) ∧
      (∀ h1, h1 = hset h 488 v1 0 →
      (0 ≤ v1) ∧
      (v1 < 40) ∧
      (∀ h2, h2 = hset h1 489 v1 0 →
      (0 ≤ v1) ∧
      (v1 < 40) ∧
      (∀ h3, h3 = hset h2 490 v1 0 →
      (0 ≤ v1) ∧
      (v1 < 40) ∧
      (∀ h4, h4 = hset h3 491 v1 0 →
      (0 ≤ v1) ∧
      (v1 < 40) ∧
      (∀ h5, h5 = hset h4 492 v1 0 →
      (0 ≤ v1) ∧
      (v1 < 40) ∧
      (∀ h6, h6 = hset h5 495 v1 0 →
      (0 ≤ v1) ∧
      (v1 < 40) ∧
      (∀ h7, h7 = hset h6 498 v1 0 →
      (∀ x1_8 : Int, x1_8 = w32 (v1 + 1) →
      JW K 273 [(2009, 396), (0, x1_8)] [] h7))))))))))) : JW K 273 [(2009, 396), (0, v1)] [] h := by
  have e1 := ki.2.2.2.2.1
  have e2 := ki.2.2.2.2.2.1
  subst e1; subst e2
  exact run_ok (dia := [(236, 257)]) (cnr := []) (cuts := [(21, [2009, 0], []), (111, [2009, 0], []), (153, [2009, 0], []), (196, [2009, 0], []), (273, [2009, 0], [])]) ki.1 (pk_X9_forgetFacts ki hG) ok_X9_forgetFacts (by decide) 42 true _ _ _ _ H
abbrev k_X9_setSlot : List (Nat × List (Nat × Instr)) := [(39, [(0, .aload_n 0), (1, .getfield 155), (4, .iload_n 1), (5, .iload_n 2), (6, .iastore), (7, .aload_n 0), (8, .getfield 158), (11, .iload_n 1), (12, .iload_n 3), (13, .iastore), (14, .aload_n 0), (15, .getfield 161), (18, .iload_n 1), (19, .iload 4), (21, .iastore), (22, .aload_n 0), (23, .getfield 164), (26, .iload_n 1), (27, .lload 5), (29, .lastore), (30, .return_)])]
theorem ok_X9_setSlot : CodeOK cX9_setSlot k_X9_setSlot := okw 0 (by decide +kernel) (okn)
abbrev p_X9_setSlot (l : Launch) (G : JG) : JP := (true, [(155, 9, 57, 1016100, 103), (158, 9, 58, 1016100, 104), (161, 9, 59, 1016100, 105), (164, 9, 60, 1016101, 106)], [], [], [], [], [], [], false, 700, [])
theorem pk_X9_setSlot {K : JC} {l : Launch} {G : JG} {Q : Int → MH → Prop} {E : Nat → Int → MH → Prop} {h0 : MH} (ki : KI K l G yX9_setSlot cX9_setSlot 7 none [] 4 150 700 Q E h0) (hG : gO G = true) : POK K RX9 (p_X9_setSlot l G) :=
  POKi (y := yX9_setSlot) ki hG (rfs rf_X9_ok (by decide +kernel)) fmz fmz fmz fmz fmz
  (pkE ki (by
    intro K e1 e2 e3 e4; subst e1; subst e2
    exact fmz)) (fun z => Bool.noConfusion z) rfl (pkP ki (by
    intro K e1 e2 e3 e4; subst e1; subst e2
    exact fmz))
theorem r_X9_setSlot_0 {K : JC} {l : Launch} {G : JG} {Q : Int → MH → Prop} {E : Nat → Int → MH → Prop} {h0 : MH} (ki : KI K l G yX9_setSlot cX9_setSlot 7 none [] 4 150 700 Q E h0) (hG : gO G = true) {v1 v2 v3 v4 v5 : Int} {h : MH} (H :
    (0 ≤ v1) ∧
    (v1 < 16) ∧
    (∀ h1, h1 = hset h 499 v1 v2 →
    (0 ≤ v1) ∧
    (v1 < 16) ∧
    (∀ h2, h2 = hset h1 500 v1 v3 →
    (0 ≤ v1) ∧
    (v1 < 16) ∧
    (∀ h3, h3 = hset h2 501 v1 v4 →
    (0 ≤ v1) ∧
    (v1 < 16) ∧
    (∀ h4, h4 = hset h3 502 v1 v5 →
    Q 0 h4))))) : JW K 0 [(2009, 396), (0, v1), (0, v2), (0, v3), (0, v4), (1, v5), (5000, 0)] [] h := by
  have e1 := ki.2.2.2.2.1
  have e2 := ki.2.2.2.2.2.1
  subst e1; subst e2
  exact run_ok (dia := []) (cnr := []) (cuts := []) ki.1 (pk_X9_setSlot ki hG) ok_X9_setSlot (by decide) 22 true _ _ _ _ H
abbrev k_X9_joinTo : List (Nat × List (Nat × Instr)) := [(43, [(0, .bipush 8), (2, .aload_n 0), (3, .getfield 373), (6, .getfield 424), (9, .iload_n 1), (10, .iaload), (11, .iadd), (12, .istore_n 2), (13, .aload_n 0), (14, .getfield 37), (17, .iload_n 1), (18, .baload), (19, .ifCond .ne 7), (22, .iconst 1), (23, .goto 4), (26, .iconst 0), (27, .istore_n 3), (28, .aload_n 0), (29, .getfield 373), (32, .getfield 297), (35, .aload_n 0), (36, .getfield 373), (39, .getfield 354), (42, .iload_n 1)]),
  (87, [(43, .iaload), (44, .iaload), (45, .istore 4), (47, .iconst 0), (48, .istore 5), (50, .iload 5), (52, .iload_n 2), (53, .if_icmp .ge 272), (56, .iload 5), (58, .iload 4), (60, .if_icmp .lt 13), (63, .iload 5), (65, .bipush 8), (67, .if_icmp .ge 6), (70, .goto 249), (73, .bipush 16), (75, .iload_n 1), (76, .imul), (77, .iload 5), (79, .iadd), (80, .istore 6), (82, .iload_n 3), (83, .ifCond .eq 13), (86, .aload_n 0)]),
  (135, [(87, .getfield 155), (90, .iload 5), (92, .iaload), (93, .goto 20), (96, .aload_n 0), (97, .getfield 40), (100, .iload 6), (102, .iaload), (103, .aload_n 0), (104, .getfield 155), (107, .iload 5), (109, .iaload), (110, .invokestatic 528), (113, .istore 7), (115, .iload_n 3), (116, .ifCond .eq 13), (119, .aload_n 0), (120, .getfield 158), (123, .iload 5), (125, .iaload), (126, .goto 20), (129, .aload_n 0), (130, .getfield 43), (133, .iload 6)]),
  (179, [(135, .iaload), (136, .aload_n 0), (137, .getfield 158), (140, .iload 5), (142, .iaload), (143, .invokestatic 530), (146, .istore 8), (148, .iload_n 3), (149, .ifCond .eq 13), (152, .aload_n 0), (153, .getfield 161), (156, .iload 5), (158, .iaload), (159, .goto 18), (162, .aload_n 0), (163, .getfield 46), (166, .iload 6), (168, .iaload), (169, .aload_n 0), (170, .getfield 161), (173, .iload 5), (175, .iaload), (176, .ior), (177, .istore 9)]),
  (221, [(179, .iload_n 3), (180, .ifCond .eq 13), (183, .aload_n 0), (184, .getfield 164), (187, .iload 5), (189, .laload), (190, .goto 18), (193, .aload_n 0), (194, .getfield 49), (197, .iload 6), (199, .laload), (200, .aload_n 0), (201, .getfield 164), (204, .iload 5), (206, .laload), (207, .lor), (208, .lstore 10), (210, .aload_n 0), (211, .getfield 30), (214, .iload_n 1), (215, .aload_n 0), (216, .getfield 30), (219, .iload_n 1), (220, .baload)]),
  (270, [(221, .ifCond .ne 56), (224, .iload_n 3), (225, .ifCond .ne 52), (228, .iload 7), (230, .aload_n 0), (231, .getfield 40), (234, .iload 6), (236, .iaload), (237, .if_icmp .ne 40), (240, .iload 8), (242, .aload_n 0), (243, .getfield 43), (246, .iload 6), (248, .iaload), (249, .if_icmp .ne 28), (252, .iload 9), (254, .aload_n 0), (255, .getfield 46), (258, .iload 6), (260, .iaload), (261, .if_icmp .ne 16), (264, .lload 10), (266, .aload_n 0), (267, .getfield 49)]),
  (311, [(270, .iload 6), (272, .laload), (273, .lcmp), (274, .ifCond .eq 7), (277, .iconst 1), (278, .goto 4), (281, .iconst 0), (282, .bastore), (283, .aload_n 0), (284, .getfield 40), (287, .iload 6), (289, .iload 7), (291, .iastore), (292, .aload_n 0), (293, .getfield 43), (296, .iload 6), (298, .iload 8), (300, .iastore), (301, .aload_n 0), (302, .getfield 46), (305, .iload 6), (307, .iload 9), (309, .iastore), (310, .aload_n 0)]),
  (360, [(311, .getfield 49), (314, .iload 6), (316, .lload 10), (318, .lastore), (319, .iinc 5 1), (322, .goto (-272)), (325, .iload_n 3), (326, .ifCond .eq 10), (329, .aload_n 0), (330, .getfield 506), (333, .goto 14), (336, .aload_n 0), (337, .getfield 53), (340, .iload_n 1), (341, .iaload), (342, .aload_n 0), (343, .getfield 506), (346, .iand), (347, .istore 5), (349, .iload_n 3), (350, .ifCond .eq 10), (353, .aload_n 0), (354, .getfield 509), (357, .goto 14)]),
  (402, [(360, .aload_n 0), (361, .getfield 56), (364, .iload_n 1), (365, .iaload), (366, .aload_n 0), (367, .getfield 509), (370, .ior), (371, .istore 6), (373, .aload_n 0), (374, .getfield 30), (377, .iload_n 1), (378, .aload_n 0), (379, .getfield 30), (382, .iload_n 1), (383, .baload), (384, .ifCond .ne 29), (387, .iload_n 3), (388, .ifCond .ne 25), (391, .iload 5), (393, .aload_n 0), (394, .getfield 53), (397, .iload_n 1), (398, .iaload), (399, .if_icmp .ne 14)]),
  (441, [(402, .iload 6), (404, .aload_n 0), (405, .getfield 56), (408, .iload_n 1), (409, .iaload), (410, .if_icmp .eq 7), (413, .iconst 1), (414, .goto 4), (417, .iconst 0), (418, .bastore), (419, .aload_n 0), (420, .getfield 53), (423, .iload_n 1), (424, .iload 5), (426, .iastore), (427, .aload_n 0), (428, .getfield 56), (431, .iload_n 1), (432, .iload 6), (434, .iastore), (435, .aload_n 0), (436, .getfield 37), (439, .iload_n 1), (440, .iconst 1)]),
  (451, [(441, .bastore), (442, .return_)])]
theorem ok_X9_joinTo : CodeOK cX9_joinTo k_X9_joinTo := okw 0 (by decide +kernel) (okw 43 (by decide +kernel) (okw 87 (by decide +kernel) (okw 135 (by decide +kernel) (okw 179 (by decide +kernel) (okw 221 (by decide +kernel) (okw 270 (by decide +kernel) (okw 311 (by decide +kernel) (okw 360 (by decide +kernel) (okw 402 (by decide +kernel) (okw 441 (by decide +kernel) (okn)))))))))))
abbrev p_X9_joinTo (l : Launch) (G : JG) : JP := (true, [(30, 9, 15, 2500102, 62), (37, 9, 18, 2500102, 64), (40, 9, 19, 25000100, 65), (43, 9, 20, 25000100, 66), (46, 9, 21, 25000100, 67), (49, 9, 22, 25000101, 68), (53, 9, 23, 2500100, 69), (56, 9, 24, 2500100, 70), (155, 9, 57, 1016100, 103), (158, 9, 58, 1016100, 104), (161, 9, 59, 1016100, 105), (164, 9, 60, 1016101, 106), (297, 10, 11, 1040100, 9), (354, 10, 27, 2500100, 24), (373, 9, 3, 14, 0), (424, 10, 31, 2500100, 27), (506, 9, 62, 0, 0), (509, 9, 63, 0, 0)], [], [], [], [], [], [], false, 700, [(528, e_J8_min), (530, e_J8_max)])
theorem pk_X9_joinTo {K : JC} {l : Launch} {G : JG} {Q : Int → MH → Prop} {E : Nat → Int → MH → Prop} {h0 : MH} (ki : KI K l G yX9_joinTo cX9_joinTo 12 none [] 5 171 700 Q E h0) (hG : gO G = true) : POK K RX9 (p_X9_joinTo l G) :=
  POKi (y := yX9_joinTo) ki hG (rfs rf_X9_ok (by decide +kernel)) fmz fmz fmz fmz fmz
  (pkE ki (by
    intro K e1 e2 e3 e4; subst e1; subst e2
    exact fmz)) (fun z => Bool.noConfusion z) rfl (pkP ki (by
    intro K e1 e2 e3 e4; subst e1; subst e2
    exact fmP (pe_J8_min hG e3 e4 ⟨q1370, Or.inl q2608⟩ rfl rfl) (fmP (pe_J8_max hG e3 e4 ⟨q1373, Or.inl q2609⟩ rfl rfl) (fmz))))
theorem r_X9_joinTo_0 {K : JC} {l : Launch} {G : JG} {Q : Int → MH → Prop} {E : Nat → Int → MH → Prop} {h0 : MH} (ki : KI K l G yX9_joinTo cX9_joinTo 12 none [] 5 171 700 Q E h0) (hG : gO G = true) {v1 : Int} {h : MH} (H :
    ((hv h 396 3) ≠ 0) ∧
    (0 ≤ v1) ∧
    (v1 < 1500) ∧
    (∀ x2_1 : Int, x2_1 = (w32 (8 + (hv h ((hv h 396 3) + 27) v1))) →
    (0 ≤ v1) ∧
    (v1 < 1500) ∧
    (∀ x3_2 : Int, x3_2 = (if (hv h 460 v1) = 0 then 1 else 0 : Int) →
    ((hv h 396 3) ≠ 0) ∧
    ((hv h 396 3) ≠ 0) ∧
    (0 ≤ v1) ∧
    (v1 < 1500) ∧
    (0 ≤ (hv h ((hv h 396 3) + 24) v1)) ∧
    ((hv h ((hv h 396 3) + 24) v1) < 40) ∧
    (∀ x4_3 : Int, x4_3 = (hv h ((hv h 396 3) + 9) (hv h ((hv h 396 3) + 24) v1)) →
    (∀ x5_4 : Int, x5_4 = 0 →
    JW K 50 [(2009, 396), (0, v1), (0, x2_1), (0, x3_2), (0, x4_3), (0, x5_4), (5000, 0), (5000, 0), (5000, 0), (5000, 0), (5000, 0), (5000, 0)] [] h))))) : JW K 0 [(2009, 396), (0, v1), (5000, 0), (5000, 0), (5000, 0), (5000, 0), (5000, 0), (5000, 0), (5000, 0), (5000, 0), (5000, 0), (5000, 0)] [] h := by
  have e1 := ki.2.2.2.2.1
  have e2 := ki.2.2.2.2.2.1
  subst e1; subst e2
  exact run_ok (dia := [(19, 27), (83, 113), (116, 146), (149, 177), (180, 208), (221, 282), (326, 347), (350, 371), (384, 418)]) (cnr := [(60, 70, 73)]) (cuts := [(50, [2009, 0, 0, 0, 0, 0, 5000, 5000, 5000, 5000, 5000, 5000], [])]) ki.1 (pk_X9_joinTo ki hG) ok_X9_joinTo (by decide) 28 true _ _ _ _ H
theorem r_X9_joinTo_50 {K : JC} {l : Launch} {G : JG} {Q : Int → MH → Prop} {E : Nat → Int → MH → Prop} {h0 : MH} (ki : KI K l G yX9_joinTo cX9_joinTo 12 none [] 5 171 700 Q E h0) (hG : gO G = true) {v1 v2 v3 v4 v5 : Int} {h : MH} (H :
    ((v2 ≤ v5 →
      ((v3 = 0 → (0 ≤ v1) ∧ v1 < 1500)) ∧
      (∀ x5_1 : Int, x5_1 = (if v3 = 0 then (i_and (hv h 465 v1) (hv h 396 62)) else (hv h 396 62) : Int) →
      ((v3 = 0 → (0 ≤ v1) ∧ v1 < 1500)) ∧
      (∀ x6_2 : Int, x6_2 = (if v3 = 0 then (i_or (hv h 466 v1) (hv h 396 63)) else (hv h 396 63) : Int) →
      (0 ≤ v1) ∧
      (v1 < 1500) ∧
      (((hv h 458 v1) = 0 → (v3 = 0 → (0 ≤ v1) ∧ (v1 < 1500) ∧ (x5_1 = (hv h 465 v1) → (0 ≤ v1) ∧ v1 < 1500)))) ∧
      (0 ≤ v1) ∧
      (v1 < 1500) ∧
      ((if (hv h 458 v1) = 0 then (if v3 = 0 then (if x5_1 = (hv h 465 v1) then (if x6_2 = (hv h 466 v1) then 0 else 1 : Int) else 1 : Int) else 1 : Int) else 1 : Int) = 0 ∨ (if (hv h 458 v1) = 0 then (if v3 = 0 then (if x5_1 = (hv h 465 v1) then (if x6_2 = (hv h 466 v1) then 0 else 1 : Int) else 1 : Int) else 1 : Int) else 1 : Int) = 1) ∧
      (∀ h3, h3 = hset h 458 v1 (if (hv h 458 v1) = 0 then (if v3 = 0 then (if x5_1 = (hv h 465 v1) then (if x6_2 = (hv h 466 v1) then 0 else 1 : Int) else 1 : Int) else 1 : Int) else 1 : Int) →
      (0 ≤ v1) ∧
      (v1 < 1500) ∧
      (∀ h4, h4 = hset h3 465 v1 x5_1 →
      (0 ≤ v1) ∧
      (v1 < 1500) ∧
      (∀ h5, h5 = hset h4 466 v1 x6_2 →
      (0 ≤ v1) ∧
      (v1 < 1500) ∧
      ((1 : Int) = 0 ∨ (1 : Int) = 1) ∧
      (∀ h6, h6 = hset h5 460 v1 1 →
      Q 0 h6))))))) ∧
    (v5 < v2 →
      (((v4 ≤ v5 ∧ v5 < 8) →
        (∀ x5_7 : Int, x5_7 = w32 (v5 + 1) →
        JW K 50 [(2009, 396), (0, v1), (0, v2), (0, v3), (0, v4), (0, x5_7), (5000, 0), (5000, 0), (5000, 0), (5000, 0), (5000, 0), (5000, 0)] [] h)) ∧
      (¬ (v4 ≤ v5 ∧ v5 < 8) →
        (∀ x6_8 : Int, x6_8 = (w32 ((w32 (16 * v1)) + v5)) →
        ((v3 = 0 → (0 ≤ x6_8) ∧ (x6_8 < 24000) ∧ (0 ≤ v5) ∧ v5 < 16)) ∧
        ((¬ v3 = 0 → (0 ≤ v5) ∧ v5 < 16)) ∧
        (∀ x7_9 : Int, x7_9 = (if v3 = 0 then (min (hv h 461 x6_8) (hv h 499 v5)) else (hv h 499 v5) : Int) →
        ((v3 = 0 → (0 ≤ x6_8) ∧ (x6_8 < 24000) ∧ (0 ≤ v5) ∧ v5 < 16)) ∧
        ((¬ v3 = 0 → (0 ≤ v5) ∧ v5 < 16)) ∧
        (∀ x8_10 : Int, x8_10 = (if v3 = 0 then (max (hv h 462 x6_8) (hv h 500 v5)) else (hv h 500 v5) : Int) →
        ((v3 = 0 → (0 ≤ x6_8) ∧ (x6_8 < 24000) ∧ (0 ≤ v5) ∧ v5 < 16)) ∧
        ((¬ v3 = 0 → (0 ≤ v5) ∧ v5 < 16)) ∧
        (∀ x9_11 : Int, x9_11 = (if v3 = 0 then (i_or (hv h 463 x6_8) (hv h 501 v5)) else (hv h 501 v5) : Int) →
        ((v3 = 0 → (0 ≤ x6_8) ∧ (x6_8 < 24000) ∧ (0 ≤ v5) ∧ v5 < 16)) ∧
        ((¬ v3 = 0 → (0 ≤ v5) ∧ v5 < 16)) ∧
        (∀ x10_12 : Int, x10_12 = (if v3 = 0 then (l_or (hv h 464 x6_8) (hv h 502 v5)) else (hv h 502 v5) : Int) →
        (0 ≤ v1) ∧
        (v1 < 1500) ∧
        (((hv h 458 v1) = 0 → (v3 = 0 → (0 ≤ x6_8) ∧ (x6_8 < 24000) ∧ (x7_9 = (hv h 461 x6_8) → (0 ≤ x6_8) ∧ (x6_8 < 24000) ∧ (x8_10 = (hv h 462 x6_8) → (0 ≤ x6_8) ∧ (x6_8 < 24000) ∧ (x9_11 = (hv h 463 x6_8) → (0 ≤ x6_8) ∧ x6_8 < 24000)))))) ∧
        (0 ≤ v1) ∧
        (v1 < 1500) ∧
        ((if (hv h 458 v1) = 0 then (if v3 = 0 then (if x7_9 = (hv h 461 x6_8) then (if x8_10 = (hv h 462 x6_8) then (if x9_11 = (hv h 463 x6_8) then (if (lc x10_12 (hv h 464 x6_8)) = 0 then 0 else 1 : Int) else 1 : Int) else 1 : Int) else 1 : Int) else 1 : Int) else 1 : Int) = 0 ∨ (if (hv h 458 v1) = 0 then (if v3 = 0 then (if x7_9 = (hv h 461 x6_8) then (if x8_10 = (hv h 462 x6_8) then (if x9_11 = (hv h 463 x6_8) then (if (lc x10_12 (hv h 464 x6_8)) = 0 then 0 else 1 : Int) else 1 : Int) else 1 : Int) else 1 : Int) else 1 : Int) else 1 : Int) = 1) ∧
        (∀ h13, h13 = hset h 458 v1 (if (hv h 458 v1) = 0 then (if v3 = 0 then (if x7_9 = (hv h 461 x6_8) then (if x8_10 = (hv h 462 x6_8) then (if x9_11 = (hv h 463 x6_8) then (if (lc x10_12 (hv h 464 x6_8)) = 0 then 0 else 1 : Int) else 1 : Int) else 1 : Int) else 1 : Int) else 1 : Int) else 1 : Int) →
        (0 ≤ x6_8) ∧
        (x6_8 < 24000) ∧
        (∀ h14, h14 = hset h13 461 x6_8 x7_9 →
        (0 ≤ x6_8) ∧
        (x6_8 < 24000) ∧
        (∀ h15, h15 = hset h14 462 x6_8 x8_10 →
        (0 ≤ x6_8) ∧
        (x6_8 < 24000) ∧
        (∀ h16, h16 = hset h15 463 x6_8 x9_11 →
        (0 ≤ x6_8) ∧
        (x6_8 < 24000) ∧
        (∀ h17, h17 = hset h16 464 x6_8 x10_12 →
        (∀ x5_18 : Int, x5_18 = w32 (v5 + 1) →
        JW K 50 [(2009, 396), (0, v1), (0, v2), (0, v3), (0, v4), (0, x5_18), (5000, 0), (5000, 0), (5000, 0), (5000, 0), (5000, 0), (5000, 0)] [] h17)))))))))))))))) : JW K 50 [(2009, 396), (0, v1), (0, v2), (0, v3), (0, v4), (0, v5), (5000, 0), (5000, 0), (5000, 0), (5000, 0), (5000, 0), (5000, 0)] [] h := by
  have e1 := ki.2.2.2.2.1
  have e2 := ki.2.2.2.2.2.1
  subst e1; subst e2
  exact run_ok (dia := [(19, 27), (83, 113), (116, 146), (149, 177), (180, 208), (221, 282), (326, 347), (350, 371), (384, 418)]) (cnr := [(60, 70, 73)]) (cuts := [(50, [2009, 0, 0, 0, 0, 0, 5000, 5000, 5000, 5000, 5000, 5000], [])]) ki.1 (pk_X9_joinTo ki hG) ok_X9_joinTo (by decide) 57 true _ _ _ _ H
abbrev k_X9_asks : List (Nat × List (Nat × Instr)) := [(46, [(0, .aload_n 0), (1, .getfield 373), (4, .getfield 339), (7, .iload_n 1), (8, .iaload), (9, .istore 7), (11, .iload 7), (13, .bipush 29), (15, .if_icmp .eq 17), (18, .iload 7), (20, .bipush 30), (22, .if_icmp .eq 10), (25, .iload 7), (27, .bipush 36), (29, .if_icmp .ne 23), (32, .aload_n 0), (33, .getfield 62), (36, .iload_n 1), (37, .laload), (38, .lload 5), (40, .land), (41, .lconst 0), (42, .lcmp), (43, .ifCond .eq 7)]),
  (87, [(46, .iconst 1), (47, .goto 4), (50, .iconst 0), (51, .ireturn), (52, .iload 7), (54, .bipush 27), (56, .if_icmp .ne 27), (59, .iload 4), (61, .aload_n 0), (62, .getfield 373), (65, .getfield 342), (68, .iload_n 1), (69, .iaload), (70, .ishr), (71, .iconst 1), (72, .iand), (73, .iconst 1), (74, .if_icmp .ne 7), (77, .iconst 1), (78, .goto 4), (81, .iconst 0), (82, .ireturn), (83, .iload 7), (85, .bipush 22)]),
  (138, [(87, .if_icmp .eq 10), (90, .iload 7), (92, .bipush 25), (94, .if_icmp .ne 7), (97, .iconst 1), (98, .goto 26), (101, .iload 7), (103, .bipush 23), (105, .if_icmp .ne 7), (108, .iconst 2), (109, .goto 15), (112, .iload 7), (114, .bipush 24), (116, .if_icmp .ne 7), (119, .iconst 3), (120, .goto 4), (123, .iconst 0), (124, .istore 8), (126, .iload 8), (128, .ifCond .le 39), (131, .aload_n 0), (132, .getfield 49), (135, .bipush 16), (137, .iload_n 1)]),
  (177, [(138, .imul), (139, .bipush 8), (141, .iadd), (142, .aload_n 0), (143, .getfield 373), (146, .getfield 424), (149, .iload_n 1), (150, .iaload), (151, .iadd), (152, .iload 8), (154, .isub), (155, .laload), (156, .lload_n 2), (157, .land), (158, .lconst 0), (159, .lcmp), (160, .ifCond .eq 7), (163, .iconst 1), (164, .goto 4), (167, .iconst 0), (168, .ireturn)])]
theorem ok_X9_asks : CodeOK cX9_asks k_X9_asks := okw 0 (by decide +kernel) (okw 46 (by decide +kernel) (okw 87 (by decide +kernel) (okw 138 (by decide +kernel) (okn))))
abbrev p_X9_asks (l : Launch) (G : JG) : JP := (true, [(49, 9, 22, 25000101, 68), (62, 9, 26, 2500101, 72), (339, 10, 22, 2500100, 19), (342, 10, 23, 2500100, 20), (373, 9, 3, 14, 0), (424, 10, 31, 2500100, 27)], [], [], [], [], [], [], false, 2, [])
theorem pk_X9_asks {K : JC} {l : Launch} {G : JG} {Q : Int → MH → Prop} {E : Nat → Int → MH → Prop} {h0 : MH} (ki : KI K l G yX9_asks cX9_asks 9 (some .boolean) [] 4 150 2 Q E h0) (hG : gO G = true) : POK K RX9 (p_X9_asks l G) :=
  POKi (y := yX9_asks) ki hG (rfs rf_X9_ok (by decide +kernel)) fmz fmz fmz fmz fmz
  (pkE ki (by
    intro K e1 e2 e3 e4; subst e1; subst e2
    exact fmz)) (fun z => Bool.noConfusion z) rfl (pkP ki (by
    intro K e1 e2 e3 e4; subst e1; subst e2
    exact fmz))
theorem r_X9_asks_0 {K : JC} {l : Launch} {G : JG} {Q : Int → MH → Prop} {E : Nat → Int → MH → Prop} {h0 : MH} (ki : KI K l G yX9_asks cX9_asks 9 (some .boolean) [] 4 150 2 Q E h0) (hG : gO G = true) {v1 v2 v4 v5 : Int} {h : MH} (H :
    ((hv h 396 3) ≠ 0) ∧
    (0 ≤ v1) ∧
    (v1 < 1500) ∧
    (∀ x7_1 : Int, x7_1 = (hv h ((hv h 396 3) + 19) v1) →
    (((x7_1 = 29 ∨ (x7_1 = 30 ∨ x7_1 = 36)) →
      (0 ≤ v1) ∧
      (v1 < 1500) ∧
      (((if (lc (l_and (hv h 468 v1) v5) 0) = 0 then 0 else 1 : Int) = 0 ∨ (if (lc (l_and (hv h 468 v1) v5) 0) = 0 then 0 else 1 : Int) = 1) ∧ Q (if (lc (l_and (hv h 468 v1) v5) 0) = 0 then 0 else 1 : Int) h)) ∧
    (¬ (x7_1 = 29 ∨ (x7_1 = 30 ∨ x7_1 = 36)) →
      ((¬ x7_1 = 27 →
        (∀ x8_2 : Int, x8_2 = (if x7_1 = 22 then 1 else (if x7_1 = 25 then 1 else (if x7_1 = 23 then 2 else (if x7_1 = 24 then 3 else 0 : Int) : Int) : Int) : Int) →
        ((0 < x8_2 → ((hv h 396 3) ≠ 0) ∧ (0 ≤ v1) ∧ (v1 < 1500) ∧ (0 ≤ (w32 ((w32 ((w32 ((w32 (16 * v1)) + 8)) + (hv h ((hv h 396 3) + 27) v1))) - x8_2))) ∧ (w32 ((w32 ((w32 ((w32 (16 * v1)) + 8)) + (hv h ((hv h 396 3) + 27) v1))) - x8_2)) < 24000)) ∧
        (((if 0 < x8_2 then (if (lc (l_and (hv h 464 (w32 ((w32 ((w32 ((w32 (16 * v1)) + 8)) + (hv h ((hv h 396 3) + 27) v1))) - x8_2))) v2) 0) = 0 then 0 else 1 : Int) else 0 : Int) = 0 ∨ (if 0 < x8_2 then (if (lc (l_and (hv h 464 (w32 ((w32 ((w32 ((w32 (16 * v1)) + 8)) + (hv h ((hv h 396 3) + 27) v1))) - x8_2))) v2) 0) = 0 then 0 else 1 : Int) else 0 : Int) = 1) ∧ Q (if 0 < x8_2 then (if (lc (l_and (hv h 464 (w32 ((w32 ((w32 ((w32 (16 * v1)) + 8)) + (hv h ((hv h 396 3) + 27) v1))) - x8_2))) v2) 0) = 0 then 0 else 1 : Int) else 0 : Int) h))) ∧
      (x7_1 = 27 →
        ((hv h 396 3) ≠ 0) ∧
        (0 ≤ v1) ∧
        (v1 < 1500) ∧
        (((if (i_and (i_shr v4 (hv h ((hv h 396 3) + 20) v1)) 1) = 1 then 1 else 0 : Int) = 0 ∨ (if (i_and (i_shr v4 (hv h ((hv h 396 3) + 20) v1)) 1) = 1 then 1 else 0 : Int) = 1) ∧ Q (if (i_and (i_shr v4 (hv h ((hv h 396 3) + 20) v1)) 1) = 1 then 1 else 0 : Int) h))))))) : JW K 0 [(2009, 396), (0, v1), (1, v2), (5000, 0), (0, v4), (1, v5), (5000, 0), (5000, 0), (5000, 0)] [] h := by
  have e1 := ki.2.2.2.2.1
  have e2 := ki.2.2.2.2.2.1
  subst e1; subst e2
  exact run_ok (dia := [(43, 51), (74, 82), (87, 124), (128, 168)]) (cnr := [(15, 32, 52)]) (cuts := []) ki.1 (pk_X9_asks ki hG) ok_X9_asks (by decide) 25 true _ _ _ _ H
abbrev k_X9_goOn : List (Nat × List (Nat × Instr)) := [(43, [(0, .aload_n 0), (1, .iload_n 1), (2, .invokevirtual 563), (5, .aload_n 0), (6, .getfield 373), (9, .getfield 342), (12, .iload_n 1), (13, .iaload), (14, .istore_n 2), (15, .aload_n 0), (16, .getfield 373), (19, .getfield 345), (22, .iload_n 1), (23, .iaload), (24, .istore_n 3), (25, .aload_n 0), (26, .getfield 373), (29, .getfield 354), (32, .iload_n 1), (33, .iaload), (34, .istore 4), (36, .aload_n 0), (37, .getfield 373), (40, .getfield 339)]),
  (45, [(43, .iload_n 1), (44, .iaload)]),
  (208, [(45, .tableswitch 1462 0 36 #[163, 179, 195, 231, 264, 276, 328, 427, 427, 427, 450, 450, 427, 526, 552, 686, 703, 793, 854, 854, 958, 997, 1005, 1005, 1005, 1013, 1013, 1021, 1057, 1227, 1227, 1235, 1243, 1330, 1398, 1462, 1227])]),
  (246, [(208, .aload_n 0), (209, .iload_n 3), (210, .iload_n 3), (211, .iconst 0), (212, .lconst 0), (213, .invokevirtual 557), (216, .aload_n 0), (217, .iload_n 1), (218, .invokevirtual 606), (221, .goto 1395), (224, .aload_n 0), (225, .iconst 0), (226, .iconst 0), (227, .iconst 0), (228, .lconst 1), (229, .invokevirtual 557), (232, .aload_n 0), (233, .iload_n 1), (234, .invokevirtual 606), (237, .goto 1379), (240, .aload_n 0), (241, .aload_n 0), (242, .getfield 155), (245, .iload_n 2)]),
  (286, [(246, .iaload), (247, .aload_n 0), (248, .getfield 158), (251, .iload_n 2), (252, .iaload), (253, .aload_n 0), (254, .getfield 161), (257, .iload_n 2), (258, .iaload), (259, .aload_n 0), (260, .getfield 164), (263, .iload_n 2), (264, .laload), (265, .invokevirtual 557), (268, .aload_n 0), (269, .iload_n 1), (270, .invokevirtual 606), (273, .goto 1343), (276, .aload_n 0), (277, .invokevirtual 574), (280, .aload_n 0), (281, .iload_n 2), (282, .aload_n 0), (283, .getfield 539)]),
  (334, [(286, .aload_n 0), (287, .getfield 542), (290, .aload_n 0), (291, .getfield 545), (294, .aload_n 0), (295, .getfield 548), (298, .invokevirtual 502), (301, .aload_n 0), (302, .iload_n 1), (303, .invokevirtual 606), (306, .goto 1310), (309, .aload_n 0), (310, .invokevirtual 574), (313, .aload_n 0), (314, .iload_n 1), (315, .invokevirtual 606), (318, .goto 1298), (321, .aload_n 0), (322, .invokevirtual 574), (325, .aload_n 0), (326, .aload_n 0), (327, .getfield 539), (330, .aload_n 0), (331, .getfield 542)]),
  (382, [(334, .aload_n 0), (335, .getfield 545), (338, .aload_n 0), (339, .getfield 548), (342, .invokevirtual 557), (345, .aload_n 0), (346, .aload_n 0), (347, .getfield 539), (350, .aload_n 0), (351, .getfield 542), (354, .aload_n 0), (355, .getfield 545), (358, .aload_n 0), (359, .getfield 548), (362, .invokevirtual 557), (365, .aload_n 0), (366, .iload_n 1), (367, .invokevirtual 606), (370, .goto 1246), (373, .bipush 8), (375, .aload_n 0), (376, .getfield 532), (379, .iadd), (380, .istore 5)]),
  (418, [(382, .aload_n 0), (383, .invokevirtual 574), (386, .aload_n 0), (387, .iload 5), (389, .iconst 1), (390, .isub), (391, .aload_n 0), (392, .getfield 155), (395, .iload 5), (397, .iconst 2), (398, .isub), (399, .iaload), (400, .aload_n 0), (401, .getfield 158), (404, .iload 5), (406, .iconst 2), (407, .isub), (408, .iaload), (409, .aload_n 0), (410, .getfield 161), (413, .iload 5), (415, .iconst 2), (416, .isub), (417, .iaload)]),
  (460, [(418, .aload_n 0), (419, .getfield 164), (422, .iload 5), (424, .iconst 2), (425, .isub), (426, .laload), (427, .invokevirtual 502), (430, .aload_n 0), (431, .iload 5), (433, .iconst 2), (434, .isub), (435, .aload_n 0), (436, .getfield 539), (439, .aload_n 0), (440, .getfield 542), (443, .aload_n 0), (444, .getfield 545), (447, .aload_n 0), (448, .getfield 548), (451, .invokevirtual 502), (454, .aload_n 0), (455, .dup), (456, .getfield 532), (459, .iconst 1)]),
  (506, [(460, .iadd), (461, .putfield 532), (464, .aload_n 0), (465, .iload_n 1), (466, .invokevirtual 606), (469, .goto 1147), (472, .aload_n 0), (473, .aload_n 0), (474, .getfield 373), (477, .getfield 339), (480, .iload_n 1), (481, .iaload), (482, .invokevirtual 612), (485, .istore 6), (487, .aload_n 0), (488, .iload_n 1), (489, .invokevirtual 606), (492, .goto 1124), (495, .aload_n 0), (496, .getfield 155), (499, .bipush 8), (501, .aload_n 0), (502, .getfield 532), (505, .iadd)]),
  (546, [(506, .iconst 1), (507, .isub), (508, .iaload), (509, .ifCond .gt 24), (512, .aload_n 0), (513, .getfield 158), (516, .bipush 8), (518, .aload_n 0), (519, .getfield 532), (522, .iadd), (523, .iconst 1), (524, .isub), (525, .iaload), (526, .ifCond .lt 7), (529, .iconst 1), (530, .goto 4), (533, .iconst 0), (534, .istore 7), (536, .aload_n 0), (537, .aload_n 0), (538, .getfield 373), (541, .getfield 339), (544, .iload_n 1), (545, .iaload)]),
  (589, [(546, .invokevirtual 612), (549, .ifCond .eq 8), (552, .aload_n 0), (553, .iload_n 1), (554, .invokevirtual 606), (557, .iload 7), (559, .ifCond .eq 1057), (562, .aload_n 0), (563, .iload_n 1), (564, .iconst 4), (565, .invokevirtual 597), (568, .goto 1048), (571, .aload_n 0), (572, .iload_n 3), (573, .aload_n 0), (574, .getfield 373), (577, .getfield 348), (580, .iload_n 1), (581, .iaload), (582, .iconst 1), (583, .iload_n 2), (584, .ishl), (585, .lconst 0), (586, .invokevirtual 557)]),
  (636, [(589, .aload_n 0), (590, .iload_n 1), (591, .invokevirtual 606), (594, .goto 1022), (597, .aload_n 0), (598, .invokevirtual 574), (601, .aload_n 0), (602, .getfield 110), (605, .iload_n 2), (606, .baload), (607, .ifCond .eq 19), (610, .aload_n 0), (611, .getfield 113), (614, .iload_n 2), (615, .iaload), (616, .aload_n 0), (617, .getfield 539), (620, .invokestatic 528), (623, .goto 7), (626, .aload_n 0), (627, .getfield 539), (630, .istore 8), (632, .aload_n 0), (633, .getfield 110)]),
  (679, [(636, .iload_n 2), (637, .baload), (638, .ifCond .eq 19), (641, .aload_n 0), (642, .getfield 116), (645, .iload_n 2), (646, .iaload), (647, .aload_n 0), (648, .getfield 542), (651, .invokestatic 530), (654, .goto 7), (657, .aload_n 0), (658, .getfield 542), (661, .istore 9), (663, .aload_n 0), (664, .getfield 110), (667, .iload_n 2), (668, .baload), (669, .ifCond .eq 17), (672, .aload_n 0), (673, .getfield 119), (676, .iload_n 2), (677, .iaload), (678, .aload_n 0)]),
  (721, [(679, .getfield 545), (682, .ior), (683, .goto 7), (686, .aload_n 0), (687, .getfield 545), (690, .istore 10), (692, .aload_n 0), (693, .getfield 113), (696, .iload_n 2), (697, .iload 8), (699, .iastore), (700, .aload_n 0), (701, .getfield 116), (704, .iload_n 2), (705, .iload 9), (707, .iastore), (708, .aload_n 0), (709, .getfield 119), (712, .iload_n 2), (713, .iload 10), (715, .iastore), (716, .aload_n 0), (717, .getfield 110), (720, .iload_n 2)]),
  (765, [(721, .iconst 1), (722, .bastore), (723, .aload_n 0), (724, .iload_n 1), (725, .invokevirtual 606), (728, .goto 888), (731, .aload_n 0), (732, .iload_n 1), (733, .aload_n 0), (734, .getfield 373), (737, .getfield 348), (740, .iload_n 1), (741, .iaload), (742, .invokevirtual 535), (745, .goto 871), (748, .aload_n 0), (749, .invokevirtual 574), (752, .aload_n 0), (753, .getfield 539), (756, .istore 11), (758, .aload_n 0), (759, .getfield 542), (762, .istore 12), (764, .aload_n 0)]),
  (812, [(765, .invokevirtual 574), (768, .iload_n 2), (769, .aload_n 0), (770, .getfield 539), (773, .aload_n 0), (774, .getfield 542), (777, .iload 11), (779, .iload 12), (781, .invokestatic 570), (784, .istore 13), (786, .iload_n 2), (787, .iconst 1), (788, .ixor), (789, .aload_n 0), (790, .getfield 539), (793, .aload_n 0), (794, .getfield 542), (797, .iload 11), (799, .iload 12), (801, .invokestatic 570), (804, .istore 14), (806, .iload 13), (808, .ifCond .eq 17), (811, .aload_n 0)]),
  (855, [(812, .iload_n 1), (813, .aload_n 0), (814, .getfield 373), (817, .getfield 348), (820, .iload_n 1), (821, .iaload), (822, .invokevirtual 535), (825, .iload 14), (827, .ifCond .eq 789), (830, .aload_n 0), (831, .iload_n 1), (832, .invokevirtual 606), (835, .goto 781), (838, .aload_n 0), (839, .iload_n 2), (840, .bipush 8), (842, .irem), (843, .iload_n 2), (844, .bipush 8), (846, .idiv), (847, .iload_n 3), (848, .invokevirtual 615), (851, .ifCond .eq 17), (854, .aload_n 0)]),
  (893, [(855, .iload_n 1), (856, .aload_n 0), (857, .getfield 373), (860, .getfield 348), (863, .iload_n 1), (864, .iaload), (865, .invokevirtual 535), (868, .aload_n 0), (869, .iload_n 1), (870, .invokevirtual 563), (873, .aload_n 0), (874, .iload_n 2), (875, .bipush 8), (877, .irem), (878, .iload_n 2), (879, .bipush 8), (881, .idiv), (882, .iconst 1), (883, .ixor), (884, .iload_n 3), (885, .invokevirtual 615), (888, .ifCond .eq 728), (891, .aload_n 0), (892, .iload_n 1)]),
  (939, [(893, .invokevirtual 606), (896, .goto 720), (899, .aload_n 0), (900, .getfield 164), (903, .iload_n 2), (904, .laload), (905, .lstore 15), (907, .aload_n 0), (908, .getfield 373), (911, .getfield 339), (914, .iload_n 1), (915, .iaload), (916, .bipush 18), (918, .if_icmp .ne 10), (921, .lload 15), (923, .lconst 1), (924, .land), (925, .goto 10), (928, .aload_n 0), (929, .lload 15), (931, .iload_n 3), (932, .invokevirtual 619), (935, .lstore 17), (937, .lload 17)]),
  (980, [(939, .lconst 0), (940, .lcmp), (941, .ifCond .eq 25), (944, .aload_n 0), (945, .getfield 164), (948, .iload_n 2), (949, .lload 17), (951, .lastore), (952, .aload_n 0), (953, .iload_n 1), (954, .aload_n 0), (955, .getfield 373), (958, .getfield 348), (961, .iload_n 1), (962, .iaload), (963, .invokevirtual 535), (966, .lload 15), (968, .lload 17), (970, .ldc2_w 476), (973, .lxor), (974, .land), (975, .lconst 0), (976, .lcmp), (977, .ifCond .eq 639)]),
  (1020, [(980, .aload_n 0), (981, .getfield 164), (984, .iload_n 2), (985, .lload 15), (987, .lload 17), (989, .ldc2_w 476), (992, .lxor), (993, .land), (994, .lastore), (995, .aload_n 0), (996, .iload_n 1), (997, .invokevirtual 606), (1000, .goto 616), (1003, .aload_n 0), (1004, .aload_n 0), (1005, .getfield 373), (1008, .getfield 327), (1011, .iload_n 1), (1012, .iaload), (1013, .invokevirtual 623), (1016, .aload_n 0), (1017, .iconst 0), (1018, .iconst 0), (1019, .iconst 0)]),
  (1066, [(1020, .lconst 1), (1021, .aload_n 0), (1022, .getfield 373), (1025, .getfield 327), (1028, .iload_n 1), (1029, .iaload), (1030, .lshl), (1031, .invokevirtual 557), (1034, .aload_n 0), (1035, .iload_n 1), (1036, .invokevirtual 606), (1039, .goto 577), (1042, .aload_n 0), (1043, .iload_n 1), (1044, .invokevirtual 626), (1047, .goto 569), (1050, .aload_n 0), (1051, .iload_n 1), (1052, .invokevirtual 629), (1055, .goto 561), (1058, .aload_n 0), (1059, .iload_n 1), (1060, .invokevirtual 632), (1063, .goto 553)]),
  (1106, [(1066, .aload_n 0), (1067, .aload_n 0), (1068, .getfield 98), (1071, .iload_n 2), (1072, .iaload), (1073, .aload_n 0), (1074, .getfield 101), (1077, .iload_n 2), (1078, .iaload), (1079, .aload_n 0), (1080, .getfield 104), (1083, .iload_n 2), (1084, .iaload), (1085, .aload_n 0), (1086, .getfield 107), (1089, .iload_n 2), (1090, .laload), (1091, .invokevirtual 557), (1094, .aload_n 0), (1095, .iload_n 1), (1096, .invokevirtual 606), (1099, .goto 517), (1102, .aload_n 0), (1103, .invokevirtual 574)]),
  (1150, [(1106, .aload_n 0), (1107, .getfield 98), (1110, .iload_n 2), (1111, .iaload), (1112, .aload_n 0), (1113, .getfield 539), (1116, .invokestatic 528), (1119, .istore 19), (1121, .aload_n 0), (1122, .getfield 101), (1125, .iload_n 2), (1126, .iaload), (1127, .aload_n 0), (1128, .getfield 542), (1131, .invokestatic 530), (1134, .istore 20), (1136, .iload 19), (1138, .aload_n 0), (1139, .getfield 98), (1142, .iload_n 2), (1143, .iaload), (1144, .if_icmp .ne 50), (1147, .iload 20), (1149, .aload_n 0)]),
  (1190, [(1150, .getfield 101), (1153, .iload_n 2), (1154, .iaload), (1155, .if_icmp .ne 39), (1158, .aload_n 0), (1159, .getfield 545), (1162, .aload_n 0), (1163, .getfield 104), (1166, .iload_n 2), (1167, .iaload), (1168, .iconst (-1)), (1169, .ixor), (1170, .iand), (1171, .ifCond .ne 23), (1174, .aload_n 0), (1175, .getfield 548), (1178, .aload_n 0), (1179, .getfield 107), (1182, .iload_n 2), (1183, .laload), (1184, .ldc2_w 476), (1187, .lxor), (1188, .land), (1189, .lconst 0)]),
  (1231, [(1190, .lcmp), (1191, .ifCond .eq 7), (1194, .iconst 1), (1195, .goto 4), (1198, .iconst 0), (1199, .istore 21), (1201, .aload_n 0), (1202, .dup), (1203, .getfield 488), (1206, .iload 21), (1208, .ifCond .eq 9), (1211, .iconst 1), (1212, .iload_n 2), (1213, .ishl), (1214, .goto 4), (1217, .iconst 0), (1218, .ior), (1219, .putfield 488), (1222, .aload_n 0), (1223, .getfield 98), (1226, .iload_n 2), (1227, .iload 19), (1229, .iastore), (1230, .aload_n 0)]),
  (1266, [(1231, .getfield 101), (1234, .iload_n 2), (1235, .iload 20), (1237, .iastore), (1238, .aload_n 0), (1239, .getfield 104), (1242, .iload_n 2), (1243, .dup2), (1244, .iaload), (1245, .aload_n 0), (1246, .getfield 545), (1249, .ior), (1250, .iastore), (1251, .aload_n 0), (1252, .getfield 107), (1255, .iload_n 2), (1256, .dup2), (1257, .laload), (1258, .aload_n 0), (1259, .getfield 548), (1262, .lor), (1263, .lastore), (1264, .aload_n 0), (1265, .iload_n 1)]),
  (1312, [(1266, .invokevirtual 606), (1269, .goto 347), (1272, .aload_n 0), (1273, .iload_n 1), (1274, .invokevirtual 635), (1277, .goto 339), (1280, .aload_n 0), (1281, .iload_n 1), (1282, .invokevirtual 638), (1285, .goto 331), (1288, .aload_n 0), (1289, .invokevirtual 574), (1292, .aload_n 0), (1293, .getfield 548), (1296, .lstore 22), (1298, .aload_n 0), (1299, .lload 22), (1301, .iconst 1), (1302, .invokevirtual 619), (1305, .lstore 24), (1307, .lload 22), (1309, .lconst 1), (1310, .land), (1311, .lconst 0)]),
  (1353, [(1312, .lcmp), (1313, .ifCond .eq 9), (1316, .aload_n 0), (1317, .iload_n 1), (1318, .iconst 1), (1319, .invokevirtual 597), (1322, .lload 22), (1324, .lload 24), (1326, .ldc2_w 476), (1329, .lxor), (1330, .land), (1331, .ldc2_w 641), (1334, .land), (1335, .lconst 0), (1336, .lcmp), (1337, .ifCond .eq 9), (1340, .aload_n 0), (1341, .iload_n 1), (1342, .iconst 5), (1343, .invokevirtual 597), (1346, .lload 24), (1348, .lconst 0), (1349, .lcmp), (1350, .ifCond .eq 266)]),
  (1393, [(1353, .aload_n 0), (1354, .iload_n 1), (1355, .lload 24), (1357, .aload_n 0), (1358, .getfield 53), (1361, .iload_n 1), (1362, .iaload), (1363, .aload_n 0), (1364, .getfield 56), (1367, .iload_n 1), (1368, .iaload), (1369, .invokevirtual 566), (1372, .goto 244), (1375, .aload_n 0), (1376, .invokevirtual 574), (1379, .aload_n 0), (1380, .getfield 548), (1383, .lstore 26), (1385, .lload 26), (1387, .lconst 1), (1388, .land), (1389, .aload_n 0), (1390, .lload 26), (1392, .iload_n 2)]),
  (1434, [(1393, .invokevirtual 619), (1396, .lor), (1397, .lstore 28), (1399, .lload 28), (1401, .lconst 0), (1402, .lcmp), (1403, .ifCond .eq 17), (1406, .aload_n 0), (1407, .iconst 0), (1408, .iconst 0), (1409, .iconst 0), (1410, .lload 28), (1412, .invokevirtual 557), (1415, .aload_n 0), (1416, .iload_n 1), (1417, .invokevirtual 606), (1420, .lload 26), (1422, .lload 28), (1424, .ldc2_w 476), (1427, .lxor), (1428, .land), (1429, .lconst 0), (1430, .lcmp), (1431, .ifCond .eq 185)]),
  (1472, [(1434, .aload_n 0), (1435, .iload_n 1), (1436, .iconst 5), (1437, .invokevirtual 597), (1440, .goto 176), (1443, .aload_n 0), (1444, .getfield 506), (1447, .iload_n 2), (1448, .ishr), (1449, .iconst 1), (1450, .iand), (1451, .ifCond .ne 32), (1454, .aload_n 0), (1455, .dup), (1456, .getfield 506), (1459, .iconst 1), (1460, .iload_n 2), (1461, .ishl), (1462, .ior), (1463, .putfield 506), (1466, .aload_n 0), (1467, .dup), (1468, .getfield 509), (1471, .iconst 1)]),
  (1509, [(1472, .iload_n 2), (1473, .ishl), (1474, .ior), (1475, .putfield 509), (1478, .aload_n 0), (1479, .iload_n 1), (1480, .invokevirtual 606), (1483, .aload_n 0), (1484, .getfield 56), (1487, .iload_n 1), (1488, .iaload), (1489, .iload_n 2), (1490, .ishr), (1491, .iconst 1), (1492, .iand), (1493, .iconst 1), (1494, .if_icmp .ne 122), (1497, .aload_n 0), (1498, .iload_n 1), (1499, .bipush 6), (1501, .invokevirtual 597), (1504, .goto 112), (1507, .aload_n 0), (1508, .dup)]),
  (1548, [(1509, .getfield 491), (1512, .aload_n 0), (1513, .getfield 152), (1516, .iload 4), (1518, .iaload), (1519, .iload_n 2), (1520, .ishr), (1521, .iconst 1), (1522, .iand), (1523, .ifCond .ne 10), (1526, .lconst 1), (1527, .iload 4), (1529, .lshl), (1530, .goto 4), (1533, .lconst 0), (1534, .lor), (1535, .putfield 491), (1538, .aload_n 0), (1539, .getfield 152), (1542, .iload 4), (1544, .dup2), (1545, .iaload), (1546, .iconst 1), (1547, .iload_n 2)]),
  (1582, [(1548, .ishl), (1549, .ior), (1550, .iastore), (1551, .aload_n 0), (1552, .getfield 509), (1555, .iload_n 2), (1556, .ishr), (1557, .iconst 1), (1558, .iand), (1559, .iconst 1), (1560, .if_icmp .ne 36), (1563, .aload_n 0), (1564, .dup), (1565, .getfield 506), (1568, .iconst 1), (1569, .iload_n 2), (1570, .ishl), (1571, .iconst (-1)), (1572, .ixor), (1573, .iand), (1574, .putfield 506), (1577, .aload_n 0), (1578, .dup), (1579, .getfield 509)]),
  (1625, [(1582, .iconst 1), (1583, .iload_n 2), (1584, .ishl), (1585, .iconst (-1)), (1586, .ixor), (1587, .iand), (1588, .putfield 509), (1591, .aload_n 0), (1592, .iload_n 1), (1593, .invokevirtual 606), (1596, .aload_n 0), (1597, .getfield 53), (1600, .iload_n 1), (1601, .iaload), (1602, .iload_n 2), (1603, .ishr), (1604, .iconst 1), (1605, .iand), (1606, .ifCond .ne 10), (1609, .aload_n 0), (1610, .iload_n 1), (1611, .bipush 6), (1613, .invokevirtual 597), (1616, .return_)])]
theorem ok_X9_goOn : CodeOK cX9_goOn k_X9_goOn := okw 0 (by decide +kernel) (okw 43 (by decide +kernel) (okc (by decide +kernel) (okw 208 (by decide +kernel) (okw 246 (by decide +kernel) (okw 286 (by decide +kernel) (okw 334 (by decide +kernel) (okw 382 (by decide +kernel) (okw 418 (by decide +kernel) (okw 460 (by decide +kernel) (okw 506 (by decide +kernel) (okw 546 (by decide +kernel) (okw 589 (by decide +kernel) (okw 636 (by decide +kernel) (okw 679 (by decide +kernel) (okw 721 (by decide +kernel) (okw 765 (by decide +kernel) (okw 812 (by decide +kernel) (okw 855 (by decide +kernel) (okw 893 (by decide +kernel) (okw 939 (by decide +kernel) (okw 980 (by decide +kernel) (okw 1020 (by decide +kernel) (okw 1066 (by decide +kernel) (okw 1106 (by decide +kernel) (okw 1150 (by decide +kernel) (okw 1190 (by decide +kernel) (okw 1231 (by decide +kernel) (okw 1266 (by decide +kernel) (okw 1312 (by decide +kernel) (okw 1353 (by decide +kernel) (okw 1393 (by decide +kernel) (okw 1434 (by decide +kernel) (okw 1472 (by decide +kernel) (okw 1509 (by decide +kernel) (okw 1548 (by decide +kernel) (okw 1582 (by decide +kernel) (okn)))))))))))))))))))))))))))))))))))))
abbrev p_X9_goOn (l : Launch) (G : JG) : JP := (true, [(53, 9, 23, 2500100, 69), (56, 9, 24, 2500100, 70), (98, 9, 38, 1008100, 84), (101, 9, 39, 1008100, 85), (104, 9, 40, 1008100, 86), (107, 9, 41, 1008101, 87), (110, 9, 42, 1008102, 88), (113, 9, 43, 1008100, 89), (116, 9, 44, 1008100, 90), (119, 9, 45, 1008100, 91), (152, 9, 56, 1040100, 102), (155, 9, 57, 1016100, 103), (158, 9, 58, 1016100, 104), (161, 9, 59, 1016100, 105), (164, 9, 60, 1016101, 106), (327, 10, 28, 2500100, 25), (339, 10, 22, 2500100, 19), (342, 10, 23, 2500100, 20), (345, 10, 24, 2500100, 21), (348, 10, 25, 2500100, 22), (354, 10, 27, 2500100, 24), (373, 9, 3, 14, 0), (488, 9, 13, 0, 0), (491, 9, 14, 1, 0), (506, 9, 62, 0, 0), (509, 9, 63, 0, 0), (532, 9, 61, 0, 0), (539, 9, 64, 0, 0), (542, 9, 65, 0, 0), (545, 9, 66, 0, 0), (548, 9, 67, 1, 0)], [], [(476, (-1)), (641, (-2))], [(488, 9, 13, 0), (491, 9, 14, 1), (506, 9, 62, 0), (509, 9, 63, 0), (532, 9, 61, 0)], [], [], [(502, 1, [1, 0, 0, 0, 0, 2009], 700, S_X9_setSlot l G), (535, 1, [0, 0, 2009], 700, S_X9_flow l G), (557, 1, [1, 0, 0, 0, 2009], 700, S_X9_lay_2 l G), (563, 1, [0, 2009], 700, S_X9_takeFacts l G), (566, 1, [0, 0, 1, 0, 2009], 700, S_X9_toss_2 l G), (574, 1, [2009], 700, S_X9_pull_2 l G), (597, 1, [0, 0, 2009], 700, S_X9_toss l G), (606, 1, [0, 2009], 700, S_X9_flowOn l G), (612, 1, [0, 2009], 2, S_X9_reckon l G), (615, 1, [0, 0, 0, 2009], 2, S_X9_cut l G), (619, 1, [0, 1, 2009], 1, S_X9_of l G), (623, 1, [0, 2009], 700, S_X9_makeSite l G), (626, 1, [0, 2009], 700, S_X9_array l G), (629, 1, [0, 2009], 700, S_X9_inArray l G), (632, 1, [0, 2009], 700, S_X9_field l G), (635, 1, [0, 2009], 700, S_X9_call l G), (638, 1, [0, 2009], 700, S_X9_giveBack l G)], false, 700, [(528, e_J8_min), (530, e_J8_max), (570, e_X9_may)])
theorem pk_X9_goOn {K : JC} {l : Launch} {G : JG} {Q : Int → MH → Prop} {E : Nat → Int → MH → Prop} {h0 : MH} (ki : KI K l G yX9_goOn cX9_goOn 30 none [] 10 314 700 Q E h0) (hG : gO G = true) : POK K RX9 (p_X9_goOn l G) :=
  POKi (y := yX9_goOn) ki hG (rfs rf_X9_ok (by decide +kernel)) fmz (subs (by decide +kernel) rl_X9_ok) (rps rp_X9_ok (by decide +kernel)) fmz fmz
  (pkE ki (by
    intro K e1 e2 e3 e4; subst e1; subst e2
    exact fmE (ceV 9 e3 e4 yl_X9_setSlot ⟨by decide, ⟨_, _, rfl⟩, q2602, qs123, q2600⟩ rfl) (fmE (ceV 9 e3 e4 yl_X9_flow ⟨by decide, ⟨_, _, rfl⟩, q2632, qs130, q2630⟩ rfl) (fmE (ceV 9 e3 e4 yl_X9_lay_2 ⟨by decide, ⟨_, _, rfl⟩, q2624, qs128, q2622⟩ rfl) (fmE (ceV 9 e3 e4 yl_X9_takeFacts ⟨by decide, ⟨_, _, rfl⟩, q2620, qs127, q2618⟩ rfl) (fmE (ceV 9 e3 e4 yl_X9_toss_2 ⟨by decide, ⟨_, _, rfl⟩, q2667, qs138, q2665⟩ rfl) (fmE (ceV 9 e3 e4 yl_X9_pull_2 ⟨by decide, ⟨_, _, rfl⟩, q2636, qs131, q2634⟩ rfl) (fmE (ceV 9 e3 e4 yl_X9_toss ⟨by decide, ⟨_, _, rfl⟩, q2663, qs137, q2661⟩ rfl) (fmE (ceV 9 e3 e4 yl_X9_flowOn ⟨by decide, ⟨_, _, rfl⟩, q2628, qs129, q2626⟩ rfl) (fmE (ceV 9 e3 e4 yl_X9_reckon ⟨by decide, ⟨_, _, rfl⟩, q2640, qs132, q2638⟩ rfl) (fmE (ceV 9 e3 e4 yl_X9_cut ⟨by decide, ⟨_, _, rfl⟩, q2690, qs143, q2688⟩ rfl) (fmE (ceV 9 e3 e4 yl_X9_of ⟨by decide, ⟨_, _, rfl⟩, q2694, qs144, q2692⟩ rfl) (fmE (ceV 9 e3 e4 yl_X9_makeSite ⟨by decide, ⟨_, _, rfl⟩, q2698, qs145, q2696⟩ rfl) (fmE (ceV 9 e3 e4 yl_X9_array ⟨by decide, ⟨_, _, rfl⟩, q2706, qs147, q2704⟩ rfl) (fmE (ceV 9 e3 e4 yl_X9_inArray ⟨by decide, ⟨_, _, rfl⟩, q2710, qs148, q2708⟩ rfl) (fmE (ceV 9 e3 e4 yl_X9_field ⟨by decide, ⟨_, _, rfl⟩, q2723, qs151, q2721⟩ rfl) (fmE (ceV 9 e3 e4 yl_X9_call ⟨by decide, ⟨_, _, rfl⟩, q2727, qs152, q2725⟩ rfl) (fmE (ceV 9 e3 e4 yl_X9_giveBack ⟨by decide, ⟨_, _, rfl⟩, q2739, qs155, q2737⟩ rfl) (fmz))))))))))))))))))) (fun z => Bool.noConfusion z) rfl (pkP ki (by
    intro K e1 e2 e3 e4; subst e1; subst e2
    exact fmP (pe_J8_min hG e3 e4 ⟨q1370, Or.inl q2608⟩ rfl rfl) (fmP (pe_J8_max hG e3 e4 ⟨q1373, Or.inl q2609⟩ rfl rfl) (fmP (pe_X9_may hG e3 e4 ⟨q2686, Or.inl q2685⟩ rfl rfl) (fmz)))))
theorem r_X9_goOn_0 {K : JC} {l : Launch} {G : JG} {Q : Int → MH → Prop} {E : Nat → Int → MH → Prop} {h0 : MH} (ki : KI K l G yX9_goOn cX9_goOn 30 none [] 10 314 700 Q E h0) (hG : gO G = true) {v1 : Int} {h : MH} (H :
    S_X9_takeFacts l G [(2009, 396), (0, v1)] h (fun _ h2 =>
    ((hv h2 396 3) ≠ 0) ∧
    (0 ≤ v1) ∧
    (v1 < 1500) ∧
    (∀ x2_3 : Int, x2_3 = (hv h2 ((hv h2 396 3) + 20) v1) →
    ((hv h2 396 3) ≠ 0) ∧
    (0 ≤ v1) ∧
    (v1 < 1500) ∧
    (∀ x3_4 : Int, x3_4 = (hv h2 ((hv h2 396 3) + 21) v1) →
    ((hv h2 396 3) ≠ 0) ∧
    (0 ≤ v1) ∧
    (v1 < 1500) ∧
    (∀ x4_5 : Int, x4_5 = (hv h2 ((hv h2 396 3) + 24) v1) →
    ((hv h2 396 3) ≠ 0) ∧
    (0 ≤ v1) ∧
    (v1 < 1500) ∧
    ((((hv h2 ((hv h2 396 3) + 19) v1) = 0 →
      S_X9_lay_2 l G [(2009, 396), (0, x3_4), (0, x3_4), (0, 0), (1, 0)] h2 (fun _ h7 =>
      S_X9_flowOn l G [(2009, 396), (0, v1)] h7 (fun _ h9 =>
      Q 0 h9) E) E) ∧
    (((hv h2 ((hv h2 396 3) + 19) v1) = 0 + 1 →
      S_X9_lay_2 l G [(2009, 396), (0, 0), (0, 0), (0, 0), (1, 1)] h2 (fun _ h11 =>
      S_X9_flowOn l G [(2009, 396), (0, v1)] h11 (fun _ h13 =>
      Q 0 h13) E) E) ∧
    (((hv h2 ((hv h2 396 3) + 19) v1) = 0 + 1 + 1 →
      (0 ≤ x2_3) ∧
      (x2_3 < 16) ∧
      (0 ≤ x2_3) ∧
      (x2_3 < 16) ∧
      (0 ≤ x2_3) ∧
      (x2_3 < 16) ∧
      (0 ≤ x2_3) ∧
      (x2_3 < 16) ∧
      S_X9_lay_2 l G [(2009, 396), (0, (hv h2 499 x2_3)), (0, (hv h2 500 x2_3)), (0, (hv h2 501 x2_3)), (1, (hv h2 502 x2_3))] h2 (fun _ h15 =>
      S_X9_flowOn l G [(2009, 396), (0, v1)] h15 (fun _ h17 =>
      Q 0 h17) E) E) ∧
    (((hv h2 ((hv h2 396 3) + 19) v1) = 0 + 1 + 1 + 1 →
      S_X9_pull_2 l G [(2009, 396)] h2 (fun _ h19 =>
      S_X9_setSlot l G [(2009, 396), (0, x2_3), (0, (hv h19 396 64)), (0, (hv h19 396 65)), (0, (hv h19 396 66)), (1, (hv h19 396 67))] h19 (fun _ h21 =>
      S_X9_flowOn l G [(2009, 396), (0, v1)] h21 (fun _ h23 =>
      Q 0 h23) E) E) E) ∧
    (((hv h2 ((hv h2 396 3) + 19) v1) = 0 + 1 + 1 + 1 + 1 →
      S_X9_pull_2 l G [(2009, 396)] h2 (fun _ h25 =>
      S_X9_flowOn l G [(2009, 396), (0, v1)] h25 (fun _ h27 =>
      Q 0 h27) E) E) ∧
    (((hv h2 ((hv h2 396 3) + 19) v1) = 0 + 1 + 1 + 1 + 1 + 1 →
      S_X9_pull_2 l G [(2009, 396)] h2 (fun _ h29 =>
      S_X9_lay_2 l G [(2009, 396), (0, (hv h29 396 64)), (0, (hv h29 396 65)), (0, (hv h29 396 66)), (1, (hv h29 396 67))] h29 (fun _ h31 =>
      S_X9_lay_2 l G [(2009, 396), (0, (hv h31 396 64)), (0, (hv h31 396 65)), (0, (hv h31 396 66)), (1, (hv h31 396 67))] h31 (fun _ h33 =>
      S_X9_flowOn l G [(2009, 396), (0, v1)] h33 (fun _ h35 =>
      Q 0 h35) E) E) E) E) ∧
    (((hv h2 ((hv h2 396 3) + 19) v1) = 0 + 1 + 1 + 1 + 1 + 1 + 1 →
      (∀ x5_36 : Int, x5_36 = (w32 (8 + (hv h2 396 61))) →
      S_X9_pull_2 l G [(2009, 396)] h2 (fun _ h38 =>
      (0 ≤ (w32 (x5_36 - 2))) ∧
      ((w32 (x5_36 - 2)) < 16) ∧
      (0 ≤ (w32 (x5_36 - 2))) ∧
      ((w32 (x5_36 - 2)) < 16) ∧
      (0 ≤ (w32 (x5_36 - 2))) ∧
      ((w32 (x5_36 - 2)) < 16) ∧
      (0 ≤ (w32 (x5_36 - 2))) ∧
      ((w32 (x5_36 - 2)) < 16) ∧
      S_X9_setSlot l G [(2009, 396), (0, (w32 (x5_36 - 1))), (0, (hv h38 499 (w32 (x5_36 - 2)))), (0, (hv h38 500 (w32 (x5_36 - 2)))), (0, (hv h38 501 (w32 (x5_36 - 2)))), (1, (hv h38 502 (w32 (x5_36 - 2))))] h38 (fun _ h40 =>
      S_X9_setSlot l G [(2009, 396), (0, (w32 (x5_36 - 2))), (0, (hv h40 396 64)), (0, (hv h40 396 65)), (0, (hv h40 396 66)), (1, (hv h40 396 67))] h40 (fun _ h42 =>
      (∀ h43, h43 = hset h42 396 61 (w32 ((hv h42 396 61) + 1)) →
      S_X9_flowOn l G [(2009, 396), (0, v1)] h43 (fun _ h45 =>
      Q 0 h45) E)) E) E) E)) ∧
    (((hv h2 ((hv h2 396 3) + 19) v1) = 0 + 1 + 1 + 1 + 1 + 1 + 1 + 1 →
      ((hv h2 396 3) ≠ 0) ∧
      (0 ≤ v1) ∧
      (v1 < 1500) ∧
      S_X9_reckon l G [(2009, 396), (0, (hv h2 ((hv h2 396 3) + 19) v1))] h2 (fun z46 h47 =>
      (∀ x6_48 : Int, x6_48 = z46 →
      S_X9_flowOn l G [(2009, 396), (0, v1)] h47 (fun _ h50 =>
      Q 0 h50) E)) E) ∧
    (((hv h2 ((hv h2 396 3) + 19) v1) = 0 + 1 + 1 + 1 + 1 + 1 + 1 + 1 + 1 →
      ((hv h2 396 3) ≠ 0) ∧
      (0 ≤ v1) ∧
      (v1 < 1500) ∧
      S_X9_reckon l G [(2009, 396), (0, (hv h2 ((hv h2 396 3) + 19) v1))] h2 (fun z51 h52 =>
      (∀ x6_53 : Int, x6_53 = z51 →
      S_X9_flowOn l G [(2009, 396), (0, v1)] h52 (fun _ h55 =>
      Q 0 h55) E)) E) ∧
    (((hv h2 ((hv h2 396 3) + 19) v1) = 0 + 1 + 1 + 1 + 1 + 1 + 1 + 1 + 1 + 1 →
      ((hv h2 396 3) ≠ 0) ∧
      (0 ≤ v1) ∧
      (v1 < 1500) ∧
      S_X9_reckon l G [(2009, 396), (0, (hv h2 ((hv h2 396 3) + 19) v1))] h2 (fun z56 h57 =>
      (∀ x6_58 : Int, x6_58 = z56 →
      S_X9_flowOn l G [(2009, 396), (0, v1)] h57 (fun _ h60 =>
      Q 0 h60) E)) E) ∧
    (((hv h2 ((hv h2 396 3) + 19) v1) = 0 + 1 + 1 + 1 + 1 + 1 + 1 + 1 + 1 + 1 + 1 →
      (0 ≤ (w32 ((w32 (8 + (hv h2 396 61))) - 1))) ∧
      ((w32 ((w32 (8 + (hv h2 396 61))) - 1)) < 16) ∧
      (((hv h2 499 (w32 ((w32 (8 + (hv h2 396 61))) - 1))) ≤ 0 → (0 ≤ (w32 ((w32 (8 + (hv h2 396 61))) - 1))) ∧ (w32 ((w32 (8 + (hv h2 396 61))) - 1)) < 16)) ∧
      (∀ x7_61 : Int, x7_61 = (if 0 < (hv h2 499 (w32 ((w32 (8 + (hv h2 396 61))) - 1))) then 0 else (if (hv h2 500 (w32 ((w32 (8 + (hv h2 396 61))) - 1))) < 0 then 0 else 1 : Int) : Int) →
      ((hv h2 396 3) ≠ 0) ∧
      (0 ≤ v1) ∧
      (v1 < 1500) ∧
      S_X9_reckon l G [(2009, 396), (0, (hv h2 ((hv h2 396 3) + 19) v1))] h2 (fun z62 h63 =>
      ((z62 = 0 →
        ((x7_61 = 0 →
          Q 0 h63) ∧
        (¬ x7_61 = 0 →
          S_X9_toss l G [(2009, 396), (0, v1), (0, 4)] h63 (fun _ h65 =>
          Q 0 h65) E))) ∧
      (¬ z62 = 0 →
        S_X9_flowOn l G [(2009, 396), (0, v1)] h63 (fun _ h67 =>
        ((x7_61 = 0 →
          Q 0 h67) ∧
        (¬ x7_61 = 0 →
          S_X9_toss l G [(2009, 396), (0, v1), (0, 4)] h67 (fun _ h69 =>
          Q 0 h69) E))) E))) E)) ∧
    (((hv h2 ((hv h2 396 3) + 19) v1) = 0 + 1 + 1 + 1 + 1 + 1 + 1 + 1 + 1 + 1 + 1 + 1 →
      (0 ≤ (w32 ((w32 (8 + (hv h2 396 61))) - 1))) ∧
      ((w32 ((w32 (8 + (hv h2 396 61))) - 1)) < 16) ∧
      (((hv h2 499 (w32 ((w32 (8 + (hv h2 396 61))) - 1))) ≤ 0 → (0 ≤ (w32 ((w32 (8 + (hv h2 396 61))) - 1))) ∧ (w32 ((w32 (8 + (hv h2 396 61))) - 1)) < 16)) ∧
      (∀ x7_70 : Int, x7_70 = (if 0 < (hv h2 499 (w32 ((w32 (8 + (hv h2 396 61))) - 1))) then 0 else (if (hv h2 500 (w32 ((w32 (8 + (hv h2 396 61))) - 1))) < 0 then 0 else 1 : Int) : Int) →
      ((hv h2 396 3) ≠ 0) ∧
      (0 ≤ v1) ∧
      (v1 < 1500) ∧
      S_X9_reckon l G [(2009, 396), (0, (hv h2 ((hv h2 396 3) + 19) v1))] h2 (fun z71 h72 =>
      ((z71 = 0 →
        ((x7_70 = 0 →
          Q 0 h72) ∧
        (¬ x7_70 = 0 →
          S_X9_toss l G [(2009, 396), (0, v1), (0, 4)] h72 (fun _ h74 =>
          Q 0 h74) E))) ∧
      (¬ z71 = 0 →
        S_X9_flowOn l G [(2009, 396), (0, v1)] h72 (fun _ h76 =>
        ((x7_70 = 0 →
          Q 0 h76) ∧
        (¬ x7_70 = 0 →
          S_X9_toss l G [(2009, 396), (0, v1), (0, 4)] h76 (fun _ h78 =>
          Q 0 h78) E))) E))) E)) ∧
    (((hv h2 ((hv h2 396 3) + 19) v1) = 0 + 1 + 1 + 1 + 1 + 1 + 1 + 1 + 1 + 1 + 1 + 1 + 1 →
      ((hv h2 396 3) ≠ 0) ∧
      (0 ≤ v1) ∧
      (v1 < 1500) ∧
      S_X9_reckon l G [(2009, 396), (0, (hv h2 ((hv h2 396 3) + 19) v1))] h2 (fun z79 h80 =>
      (∀ x6_81 : Int, x6_81 = z79 →
      S_X9_flowOn l G [(2009, 396), (0, v1)] h80 (fun _ h83 =>
      Q 0 h83) E)) E) ∧
    (((hv h2 ((hv h2 396 3) + 19) v1) = 0 + 1 + 1 + 1 + 1 + 1 + 1 + 1 + 1 + 1 + 1 + 1 + 1 + 1 →
      ((hv h2 396 3) ≠ 0) ∧
      (0 ≤ v1) ∧
      (v1 < 1500) ∧
      S_X9_lay_2 l G [(2009, 396), (0, x3_4), (0, (hv h2 ((hv h2 396 3) + 22) v1)), (0, (i_shl 1 x2_3)), (1, 0)] h2 (fun _ h85 =>
      S_X9_flowOn l G [(2009, 396), (0, v1)] h85 (fun _ h87 =>
      Q 0 h87) E) E) ∧
    (((hv h2 ((hv h2 396 3) + 19) v1) = 0 + 1 + 1 + 1 + 1 + 1 + 1 + 1 + 1 + 1 + 1 + 1 + 1 + 1 + 1 →
      S_X9_pull_2 l G [(2009, 396)] h2 (fun _ h89 =>
      (0 ≤ x2_3) ∧
      (x2_3 < 8) ∧
      ((¬ (hv h89 484 x2_3) = 0 → (0 ≤ x2_3) ∧ x2_3 < 8)) ∧
      (∀ x8_90 : Int, x8_90 = (if (hv h89 484 x2_3) = 0 then (hv h89 396 64) else (min (hv h89 485 x2_3) (hv h89 396 64)) : Int) →
      (0 ≤ x2_3) ∧
      (x2_3 < 8) ∧
      ((¬ (hv h89 484 x2_3) = 0 → (0 ≤ x2_3) ∧ x2_3 < 8)) ∧
      (∀ x9_91 : Int, x9_91 = (if (hv h89 484 x2_3) = 0 then (hv h89 396 65) else (max (hv h89 486 x2_3) (hv h89 396 65)) : Int) →
      (0 ≤ x2_3) ∧
      (x2_3 < 8) ∧
      ((¬ (hv h89 484 x2_3) = 0 → (0 ≤ x2_3) ∧ x2_3 < 8)) ∧
      (∀ x10_92 : Int, x10_92 = (if (hv h89 484 x2_3) = 0 then (hv h89 396 66) else (i_or (hv h89 487 x2_3) (hv h89 396 66)) : Int) →
      (0 ≤ x2_3) ∧
      (x2_3 < 8) ∧
      (∀ h93, h93 = hset h89 485 x2_3 x8_90 →
      (0 ≤ x2_3) ∧
      (x2_3 < 8) ∧
      (∀ h94, h94 = hset h93 486 x2_3 x9_91 →
      (0 ≤ x2_3) ∧
      (x2_3 < 8) ∧
      (∀ h95, h95 = hset h94 487 x2_3 x10_92 →
      (0 ≤ x2_3) ∧
      (x2_3 < 8) ∧
      ((1 : Int) = 0 ∨ (1 : Int) = 1) ∧
      (∀ h96, h96 = hset h95 484 x2_3 1 →
      S_X9_flowOn l G [(2009, 396), (0, v1)] h96 (fun _ h98 =>
      Q 0 h98) E)))))))) E) ∧
    (((hv h2 ((hv h2 396 3) + 19) v1) = 0 + 1 + 1 + 1 + 1 + 1 + 1 + 1 + 1 + 1 + 1 + 1 + 1 + 1 + 1 + 1 →
      ((hv h2 396 3) ≠ 0) ∧
      (0 ≤ v1) ∧
      (v1 < 1500) ∧
      S_X9_flow l G [(2009, 396), (0, v1), (0, (hv h2 ((hv h2 396 3) + 22) v1))] h2 (fun _ h100 =>
      Q 0 h100) E) ∧
    (((hv h2 ((hv h2 396 3) + 19) v1) = 0 + 1 + 1 + 1 + 1 + 1 + 1 + 1 + 1 + 1 + 1 + 1 + 1 + 1 + 1 + 1 + 1 →
      S_X9_pull_2 l G [(2009, 396)] h2 (fun _ h102 =>
      (∀ x11_103 : Int, x11_103 = (hv h102 396 64) →
      (∀ x12_104 : Int, x12_104 = (hv h102 396 65) →
      S_X9_pull_2 l G [(2009, 396)] h102 (fun _ h106 =>
      (∀ x13_107 : Int, x13_107 = (mayf x2_3 (hv h106 396 64) (hv h106 396 65) x11_103 x12_104) →
      (∀ x14_108 : Int, x14_108 = (mayf (i_xor x2_3 1) (hv h106 396 64) (hv h106 396 65) x11_103 x12_104) →
      ((x13_107 = 0 →
        ((x14_108 = 0 →
          Q 0 h106) ∧
        (¬ x14_108 = 0 →
          S_X9_flowOn l G [(2009, 396), (0, v1)] h106 (fun _ h110 =>
          Q 0 h110) E))) ∧
      (¬ x13_107 = 0 →
        ((hv h106 396 3) ≠ 0) ∧
        (0 ≤ v1) ∧
        (v1 < 1500) ∧
        S_X9_flow l G [(2009, 396), (0, v1), (0, (hv h106 ((hv h106 396 3) + 22) v1))] h106 (fun _ h112 =>
        ((x14_108 = 0 →
          Q 0 h112) ∧
        (¬ x14_108 = 0 →
          S_X9_flowOn l G [(2009, 396), (0, v1)] h112 (fun _ h114 =>
          Q 0 h114) E))) E))))) E))) E) ∧
    (((hv h2 ((hv h2 396 3) + 19) v1) = 0 + 1 + 1 + 1 + 1 + 1 + 1 + 1 + 1 + 1 + 1 + 1 + 1 + 1 + 1 + 1 + 1 + 1 →
      (¬ (8 : Int) = 0) ∧
      (¬ (8 : Int) = 0) ∧
      S_X9_cut l G [(2009, 396), (0, (i_rem x2_3 8)), (0, (i_div x2_3 8)), (0, x3_4)] h2 (fun z115 h116 =>
      ((z115 = 0 →
        S_X9_takeFacts l G [(2009, 396), (0, v1)] h116 (fun _ h118 =>
        (¬ (8 : Int) = 0) ∧
        (¬ (8 : Int) = 0) ∧
        S_X9_cut l G [(2009, 396), (0, (i_rem x2_3 8)), (0, (i_xor (i_div x2_3 8) 1)), (0, x3_4)] h118 (fun z119 h120 =>
        ((z119 = 0 →
          Q 0 h120) ∧
        (¬ z119 = 0 →
          S_X9_flowOn l G [(2009, 396), (0, v1)] h120 (fun _ h122 =>
          Q 0 h122) E))) E) E) ∧
      (¬ z115 = 0 →
        ((hv h116 396 3) ≠ 0) ∧
        (0 ≤ v1) ∧
        (v1 < 1500) ∧
        S_X9_flow l G [(2009, 396), (0, v1), (0, (hv h116 ((hv h116 396 3) + 22) v1))] h116 (fun _ h124 =>
        S_X9_takeFacts l G [(2009, 396), (0, v1)] h124 (fun _ h126 =>
        (¬ (8 : Int) = 0) ∧
        (¬ (8 : Int) = 0) ∧
        S_X9_cut l G [(2009, 396), (0, (i_rem x2_3 8)), (0, (i_xor (i_div x2_3 8) 1)), (0, x3_4)] h126 (fun z127 h128 =>
        ((z127 = 0 →
          Q 0 h128) ∧
        (¬ z127 = 0 →
          S_X9_flowOn l G [(2009, 396), (0, v1)] h128 (fun _ h130 =>
          Q 0 h130) E))) E) E) E))) E) ∧
    (((hv h2 ((hv h2 396 3) + 19) v1) = 0 + 1 + 1 + 1 + 1 + 1 + 1 + 1 + 1 + 1 + 1 + 1 + 1 + 1 + 1 + 1 + 1 + 1 + 1 →
      (0 ≤ x2_3) ∧
      (x2_3 < 16) ∧
      (∀ x15_131 : Int, x15_131 = (hv h2 502 x2_3) →
      ((hv h2 396 3) ≠ 0) ∧
      (0 ≤ v1) ∧
      (v1 < 1500) ∧
      ((¬ (hv h2 ((hv h2 396 3) + 19) v1) = 18 →
        S_X9_of l G [(2009, 396), (1, x15_131), (0, x3_4)] h2 (fun z132 h133 =>
        (∀ x17_134 : Int, x17_134 = z132 →
        (((lc x17_134 0) = 0 →
          (((lc (l_and x15_131 (l_xor x17_134 (-1))) 0) = 0 →
            Q 0 h133) ∧
          (¬ (lc (l_and x15_131 (l_xor x17_134 (-1))) 0) = 0 →
            (0 ≤ x2_3) ∧
            (x2_3 < 16) ∧
            (∀ h135, h135 = hset h133 502 x2_3 (l_and x15_131 (l_xor x17_134 (-1))) →
            S_X9_flowOn l G [(2009, 396), (0, v1)] h135 (fun _ h137 =>
            Q 0 h137) E)))) ∧
        (¬ (lc x17_134 0) = 0 →
          (0 ≤ x2_3) ∧
          (x2_3 < 16) ∧
          (∀ h138, h138 = hset h133 502 x2_3 x17_134 →
          ((hv h138 396 3) ≠ 0) ∧
          (0 ≤ v1) ∧
          (v1 < 1500) ∧
          S_X9_flow l G [(2009, 396), (0, v1), (0, (hv h138 ((hv h138 396 3) + 22) v1))] h138 (fun _ h140 =>
          (((lc (l_and x15_131 (l_xor x17_134 (-1))) 0) = 0 →
            Q 0 h140) ∧
          (¬ (lc (l_and x15_131 (l_xor x17_134 (-1))) 0) = 0 →
            (0 ≤ x2_3) ∧
            (x2_3 < 16) ∧
            (∀ h141, h141 = hset h140 502 x2_3 (l_and x15_131 (l_xor x17_134 (-1))) →
            S_X9_flowOn l G [(2009, 396), (0, v1)] h141 (fun _ h143 =>
            Q 0 h143) E)))) E))))) E) ∧
      ((hv h2 ((hv h2 396 3) + 19) v1) = 18 →
        (∀ x17_144 : Int, x17_144 = (l_and x15_131 1) →
        (((lc x17_144 0) = 0 →
          (((lc (l_and x15_131 (l_xor x17_144 (-1))) 0) = 0 →
            Q 0 h2) ∧
          (¬ (lc (l_and x15_131 (l_xor x17_144 (-1))) 0) = 0 →
            (0 ≤ x2_3) ∧
            (x2_3 < 16) ∧
            (∀ h145, h145 = hset h2 502 x2_3 (l_and x15_131 (l_xor x17_144 (-1))) →
            S_X9_flowOn l G [(2009, 396), (0, v1)] h145 (fun _ h147 =>
            Q 0 h147) E)))) ∧
        (¬ (lc x17_144 0) = 0 →
          (0 ≤ x2_3) ∧
          (x2_3 < 16) ∧
          (∀ h148, h148 = hset h2 502 x2_3 x17_144 →
          ((hv h148 396 3) ≠ 0) ∧
          (0 ≤ v1) ∧
          (v1 < 1500) ∧
          S_X9_flow l G [(2009, 396), (0, v1), (0, (hv h148 ((hv h148 396 3) + 22) v1))] h148 (fun _ h150 =>
          (((lc (l_and x15_131 (l_xor x17_144 (-1))) 0) = 0 →
            Q 0 h150) ∧
          (¬ (lc (l_and x15_131 (l_xor x17_144 (-1))) 0) = 0 →
            (0 ≤ x2_3) ∧
            (x2_3 < 16) ∧
            (∀ h151, h151 = hset h150 502 x2_3 (l_and x15_131 (l_xor x17_144 (-1))) →
            S_X9_flowOn l G [(2009, 396), (0, v1)] h151 (fun _ h153 =>
            Q 0 h153) E)))) E)))))))) ∧
    (((hv h2 ((hv h2 396 3) + 19) v1) = 0 + 1 + 1 + 1 + 1 + 1 + 1 + 1 + 1 + 1 + 1 + 1 + 1 + 1 + 1 + 1 + 1 + 1 + 1 + 1 →
      (0 ≤ x2_3) ∧
      (x2_3 < 16) ∧
      (∀ x15_154 : Int, x15_154 = (hv h2 502 x2_3) →
      ((hv h2 396 3) ≠ 0) ∧
      (0 ≤ v1) ∧
      (v1 < 1500) ∧
      ((¬ (hv h2 ((hv h2 396 3) + 19) v1) = 18 →
        S_X9_of l G [(2009, 396), (1, x15_154), (0, x3_4)] h2 (fun z155 h156 =>
        (∀ x17_157 : Int, x17_157 = z155 →
        (((lc x17_157 0) = 0 →
          (((lc (l_and x15_154 (l_xor x17_157 (-1))) 0) = 0 →
            Q 0 h156) ∧
          (¬ (lc (l_and x15_154 (l_xor x17_157 (-1))) 0) = 0 →
            (0 ≤ x2_3) ∧
            (x2_3 < 16) ∧
            (∀ h158, h158 = hset h156 502 x2_3 (l_and x15_154 (l_xor x17_157 (-1))) →
            S_X9_flowOn l G [(2009, 396), (0, v1)] h158 (fun _ h160 =>
            Q 0 h160) E)))) ∧
        (¬ (lc x17_157 0) = 0 →
          (0 ≤ x2_3) ∧
          (x2_3 < 16) ∧
          (∀ h161, h161 = hset h156 502 x2_3 x17_157 →
          ((hv h161 396 3) ≠ 0) ∧
          (0 ≤ v1) ∧
          (v1 < 1500) ∧
          S_X9_flow l G [(2009, 396), (0, v1), (0, (hv h161 ((hv h161 396 3) + 22) v1))] h161 (fun _ h163 =>
          (((lc (l_and x15_154 (l_xor x17_157 (-1))) 0) = 0 →
            Q 0 h163) ∧
          (¬ (lc (l_and x15_154 (l_xor x17_157 (-1))) 0) = 0 →
            (0 ≤ x2_3) ∧
            (x2_3 < 16) ∧
            (∀ h164, h164 = hset h163 502 x2_3 (l_and x15_154 (l_xor x17_157 (-1))) →
            S_X9_flowOn l G [(2009, 396), (0, v1)] h164 (fun _ h166 =>
            Q 0 h166) E)))) E))))) E) ∧
      ((hv h2 ((hv h2 396 3) + 19) v1) = 18 →
        (∀ x17_167 : Int, x17_167 = (l_and x15_154 1) →
        (((lc x17_167 0) = 0 →
          (((lc (l_and x15_154 (l_xor x17_167 (-1))) 0) = 0 →
            Q 0 h2) ∧
          (¬ (lc (l_and x15_154 (l_xor x17_167 (-1))) 0) = 0 →
            (0 ≤ x2_3) ∧
            (x2_3 < 16) ∧
            (∀ h168, h168 = hset h2 502 x2_3 (l_and x15_154 (l_xor x17_167 (-1))) →
            S_X9_flowOn l G [(2009, 396), (0, v1)] h168 (fun _ h170 =>
            Q 0 h170) E)))) ∧
        (¬ (lc x17_167 0) = 0 →
          (0 ≤ x2_3) ∧
          (x2_3 < 16) ∧
          (∀ h171, h171 = hset h2 502 x2_3 x17_167 →
          ((hv h171 396 3) ≠ 0) ∧
          (0 ≤ v1) ∧
          (v1 < 1500) ∧
          S_X9_flow l G [(2009, 396), (0, v1), (0, (hv h171 ((hv h171 396 3) + 22) v1))] h171 (fun _ h173 =>
          (((lc (l_and x15_154 (l_xor x17_167 (-1))) 0) = 0 →
            Q 0 h173) ∧
          (¬ (lc (l_and x15_154 (l_xor x17_167 (-1))) 0) = 0 →
            (0 ≤ x2_3) ∧
            (x2_3 < 16) ∧
            (∀ h174, h174 = hset h173 502 x2_3 (l_and x15_154 (l_xor x17_167 (-1))) →
            S_X9_flowOn l G [(2009, 396), (0, v1)] h174 (fun _ h176 =>
            Q 0 h176) E)))) E)))))))) ∧
    (((hv h2 ((hv h2 396 3) + 19) v1) = 0 + 1 + 1 + 1 + 1 + 1 + 1 + 1 + 1 + 1 + 1 + 1 + 1 + 1 + 1 + 1 + 1 + 1 + 1 + 1 + 1 →
      ((hv h2 396 3) ≠ 0) ∧
      (0 ≤ v1) ∧
      (v1 < 1500) ∧
      S_X9_makeSite l G [(2009, 396), (0, (hv h2 ((hv h2 396 3) + 25) v1))] h2 (fun _ h178 =>
      ((hv h178 396 3) ≠ 0) ∧
      (0 ≤ v1) ∧
      (v1 < 1500) ∧
      S_X9_lay_2 l G [(2009, 396), (0, 0), (0, 0), (0, 0), (1, (l_shl 1 (hv h178 ((hv h178 396 3) + 25) v1)))] h178 (fun _ h180 =>
      S_X9_flowOn l G [(2009, 396), (0, v1)] h180 (fun _ h182 =>
      Q 0 h182) E) E) E) ∧
    (((hv h2 ((hv h2 396 3) + 19) v1) = 0 + 1 + 1 + 1 + 1 + 1 + 1 + 1 + 1 + 1 + 1 + 1 + 1 + 1 + 1 + 1 + 1 + 1 + 1 + 1 + 1 + 1 →
      S_X9_array l G [(2009, 396), (0, v1)] h2 (fun _ h184 =>
      Q 0 h184) E) ∧
    (((hv h2 ((hv h2 396 3) + 19) v1) = 0 + 1 + 1 + 1 + 1 + 1 + 1 + 1 + 1 + 1 + 1 + 1 + 1 + 1 + 1 + 1 + 1 + 1 + 1 + 1 + 1 + 1 + 1 →
      S_X9_inArray l G [(2009, 396), (0, v1)] h2 (fun _ h186 =>
      Q 0 h186) E) ∧
    (((hv h2 ((hv h2 396 3) + 19) v1) = 0 + 1 + 1 + 1 + 1 + 1 + 1 + 1 + 1 + 1 + 1 + 1 + 1 + 1 + 1 + 1 + 1 + 1 + 1 + 1 + 1 + 1 + 1 + 1 →
      S_X9_inArray l G [(2009, 396), (0, v1)] h2 (fun _ h188 =>
      Q 0 h188) E) ∧
    (((hv h2 ((hv h2 396 3) + 19) v1) = 0 + 1 + 1 + 1 + 1 + 1 + 1 + 1 + 1 + 1 + 1 + 1 + 1 + 1 + 1 + 1 + 1 + 1 + 1 + 1 + 1 + 1 + 1 + 1 + 1 →
      S_X9_inArray l G [(2009, 396), (0, v1)] h2 (fun _ h190 =>
      Q 0 h190) E) ∧
    (((hv h2 ((hv h2 396 3) + 19) v1) = 0 + 1 + 1 + 1 + 1 + 1 + 1 + 1 + 1 + 1 + 1 + 1 + 1 + 1 + 1 + 1 + 1 + 1 + 1 + 1 + 1 + 1 + 1 + 1 + 1 + 1 →
      S_X9_field l G [(2009, 396), (0, v1)] h2 (fun _ h192 =>
      Q 0 h192) E) ∧
    (((hv h2 ((hv h2 396 3) + 19) v1) = 0 + 1 + 1 + 1 + 1 + 1 + 1 + 1 + 1 + 1 + 1 + 1 + 1 + 1 + 1 + 1 + 1 + 1 + 1 + 1 + 1 + 1 + 1 + 1 + 1 + 1 + 1 →
      S_X9_field l G [(2009, 396), (0, v1)] h2 (fun _ h194 =>
      Q 0 h194) E) ∧
    (((hv h2 ((hv h2 396 3) + 19) v1) = 0 + 1 + 1 + 1 + 1 + 1 + 1 + 1 + 1 + 1 + 1 + 1 + 1 + 1 + 1 + 1 + 1 + 1 + 1 + 1 + 1 + 1 + 1 + 1 + 1 + 1 + 1 + 1 →
      (0 ≤ x2_3) ∧
      (x2_3 < 8) ∧
      (0 ≤ x2_3) ∧
      (x2_3 < 8) ∧
      (0 ≤ x2_3) ∧
      (x2_3 < 8) ∧
      (0 ≤ x2_3) ∧
      (x2_3 < 8) ∧
      S_X9_lay_2 l G [(2009, 396), (0, (hv h2 480 x2_3)), (0, (hv h2 481 x2_3)), (0, (hv h2 482 x2_3)), (1, (hv h2 483 x2_3))] h2 (fun _ h196 =>
      S_X9_flowOn l G [(2009, 396), (0, v1)] h196 (fun _ h198 =>
      Q 0 h198) E) E) ∧
    (((hv h2 ((hv h2 396 3) + 19) v1) = 0 + 1 + 1 + 1 + 1 + 1 + 1 + 1 + 1 + 1 + 1 + 1 + 1 + 1 + 1 + 1 + 1 + 1 + 1 + 1 + 1 + 1 + 1 + 1 + 1 + 1 + 1 + 1 + 1 →
      S_X9_pull_2 l G [(2009, 396)] h2 (fun _ h200 =>
      (0 ≤ x2_3) ∧
      (x2_3 < 8) ∧
      (∀ x19_201 : Int, x19_201 = (min (hv h200 480 x2_3) (hv h200 396 64)) →
      (0 ≤ x2_3) ∧
      (x2_3 < 8) ∧
      (∀ x20_202 : Int, x20_202 = (max (hv h200 481 x2_3) (hv h200 396 65)) →
      (0 ≤ x2_3) ∧
      (x2_3 < 8) ∧
      ((x19_201 = (hv h200 480 x2_3) → (0 ≤ x2_3) ∧ (x2_3 < 8) ∧ (x20_202 = (hv h200 481 x2_3) → (0 ≤ x2_3) ∧ (x2_3 < 8) ∧ ((i_and (hv h200 396 66) (i_xor (hv h200 482 x2_3) (-1))) = 0 → (0 ≤ x2_3) ∧ x2_3 < 8)))) ∧
      (∀ x21_203 : Int, x21_203 = (if x19_201 = (hv h200 480 x2_3) then (if x20_202 = (hv h200 481 x2_3) then (if (i_and (hv h200 396 66) (i_xor (hv h200 482 x2_3) (-1))) = 0 then (if (lc (l_and (hv h200 396 67) (l_xor (hv h200 483 x2_3) (-1))) 0) = 0 then 0 else 1 : Int) else 1 : Int) else 1 : Int) else 1 : Int) →
      (∀ h204, h204 = hset h200 396 13 (i_or (hv h200 396 13) (if x21_203 = 0 then 0 else (i_shl 1 x2_3) : Int)) →
      (0 ≤ x2_3) ∧
      (x2_3 < 8) ∧
      (∀ h205, h205 = hset h204 480 x2_3 x19_201 →
      (0 ≤ x2_3) ∧
      (x2_3 < 8) ∧
      (∀ h206, h206 = hset h205 481 x2_3 x20_202 →
      (0 ≤ x2_3) ∧
      (x2_3 < 8) ∧
      (0 ≤ x2_3) ∧
      (x2_3 < 8) ∧
      (∀ h207, h207 = hset h206 482 x2_3 (i_or (hv h206 482 x2_3) (hv h206 396 66)) →
      (0 ≤ x2_3) ∧
      (x2_3 < 8) ∧
      (0 ≤ x2_3) ∧
      (x2_3 < 8) ∧
      (∀ h208, h208 = hset h207 483 x2_3 (l_or (hv h207 483 x2_3) (hv h207 396 67)) →
      S_X9_flowOn l G [(2009, 396), (0, v1)] h208 (fun _ h210 =>
      Q 0 h210) E))))))))) E) ∧
    (((hv h2 ((hv h2 396 3) + 19) v1) = 0 + 1 + 1 + 1 + 1 + 1 + 1 + 1 + 1 + 1 + 1 + 1 + 1 + 1 + 1 + 1 + 1 + 1 + 1 + 1 + 1 + 1 + 1 + 1 + 1 + 1 + 1 + 1 + 1 + 1 →
      S_X9_call l G [(2009, 396), (0, v1)] h2 (fun _ h212 =>
      Q 0 h212) E) ∧
    (((hv h2 ((hv h2 396 3) + 19) v1) = 0 + 1 + 1 + 1 + 1 + 1 + 1 + 1 + 1 + 1 + 1 + 1 + 1 + 1 + 1 + 1 + 1 + 1 + 1 + 1 + 1 + 1 + 1 + 1 + 1 + 1 + 1 + 1 + 1 + 1 + 1 →
      S_X9_call l G [(2009, 396), (0, v1)] h2 (fun _ h214 =>
      Q 0 h214) E) ∧
    (((hv h2 ((hv h2 396 3) + 19) v1) = 0 + 1 + 1 + 1 + 1 + 1 + 1 + 1 + 1 + 1 + 1 + 1 + 1 + 1 + 1 + 1 + 1 + 1 + 1 + 1 + 1 + 1 + 1 + 1 + 1 + 1 + 1 + 1 + 1 + 1 + 1 + 1 →
      S_X9_giveBack l G [(2009, 396), (0, v1)] h2 (fun _ h216 =>
      Q 0 h216) E) ∧
    (((hv h2 ((hv h2 396 3) + 19) v1) = 0 + 1 + 1 + 1 + 1 + 1 + 1 + 1 + 1 + 1 + 1 + 1 + 1 + 1 + 1 + 1 + 1 + 1 + 1 + 1 + 1 + 1 + 1 + 1 + 1 + 1 + 1 + 1 + 1 + 1 + 1 + 1 + 1 →
      S_X9_pull_2 l G [(2009, 396)] h2 (fun _ h218 =>
      (∀ x22_219 : Int, x22_219 = (hv h218 396 67) →
      S_X9_of l G [(2009, 396), (1, x22_219), (0, 1)] h218 (fun z220 h221 =>
      (∀ x24_222 : Int, x24_222 = z220 →
      (((lc (l_and x22_219 1) 0) = 0 →
        (((lc (l_and (l_and x22_219 (l_xor x24_222 (-1))) (-2)) 0) = 0 →
          (((lc x24_222 0) = 0 →
            Q 0 h221) ∧
          (¬ (lc x24_222 0) = 0 →
            (0 ≤ v1) ∧
            (v1 < 1500) ∧
            (0 ≤ v1) ∧
            (v1 < 1500) ∧
            S_X9_toss_2 l G [(2009, 396), (0, v1), (1, x24_222), (0, (hv h221 465 v1)), (0, (hv h221 466 v1))] h221 (fun _ h224 =>
            Q 0 h224) E))) ∧
        (¬ (lc (l_and (l_and x22_219 (l_xor x24_222 (-1))) (-2)) 0) = 0 →
          S_X9_toss l G [(2009, 396), (0, v1), (0, 5)] h221 (fun _ h226 =>
          (((lc x24_222 0) = 0 →
            Q 0 h226) ∧
          (¬ (lc x24_222 0) = 0 →
            (0 ≤ v1) ∧
            (v1 < 1500) ∧
            (0 ≤ v1) ∧
            (v1 < 1500) ∧
            S_X9_toss_2 l G [(2009, 396), (0, v1), (1, x24_222), (0, (hv h226 465 v1)), (0, (hv h226 466 v1))] h226 (fun _ h228 =>
            Q 0 h228) E))) E))) ∧
      (¬ (lc (l_and x22_219 1) 0) = 0 →
        S_X9_toss l G [(2009, 396), (0, v1), (0, 1)] h221 (fun _ h230 =>
        (((lc (l_and (l_and x22_219 (l_xor x24_222 (-1))) (-2)) 0) = 0 →
          (((lc x24_222 0) = 0 →
            Q 0 h230) ∧
          (¬ (lc x24_222 0) = 0 →
            (0 ≤ v1) ∧
            (v1 < 1500) ∧
            (0 ≤ v1) ∧
            (v1 < 1500) ∧
            S_X9_toss_2 l G [(2009, 396), (0, v1), (1, x24_222), (0, (hv h230 465 v1)), (0, (hv h230 466 v1))] h230 (fun _ h232 =>
            Q 0 h232) E))) ∧
        (¬ (lc (l_and (l_and x22_219 (l_xor x24_222 (-1))) (-2)) 0) = 0 →
          S_X9_toss l G [(2009, 396), (0, v1), (0, 5)] h230 (fun _ h234 =>
          (((lc x24_222 0) = 0 →
            Q 0 h234) ∧
          (¬ (lc x24_222 0) = 0 →
            (0 ≤ v1) ∧
            (v1 < 1500) ∧
            (0 ≤ v1) ∧
            (v1 < 1500) ∧
            S_X9_toss_2 l G [(2009, 396), (0, v1), (1, x24_222), (0, (hv h234 465 v1)), (0, (hv h234 466 v1))] h234 (fun _ h236 =>
            Q 0 h236) E))) E))) E)))) E)) E) ∧
    (((hv h2 ((hv h2 396 3) + 19) v1) = 0 + 1 + 1 + 1 + 1 + 1 + 1 + 1 + 1 + 1 + 1 + 1 + 1 + 1 + 1 + 1 + 1 + 1 + 1 + 1 + 1 + 1 + 1 + 1 + 1 + 1 + 1 + 1 + 1 + 1 + 1 + 1 + 1 + 1 →
      S_X9_pull_2 l G [(2009, 396)] h2 (fun _ h238 =>
      (∀ x26_239 : Int, x26_239 = (hv h238 396 67) →
      S_X9_of l G [(2009, 396), (1, x26_239), (0, x2_3)] h238 (fun z240 h241 =>
      (∀ x28_242 : Int, x28_242 = (l_or (l_and x26_239 1) z240) →
      (((lc x28_242 0) = 0 →
        (((lc (l_and x26_239 (l_xor x28_242 (-1))) 0) = 0 →
          Q 0 h241) ∧
        (¬ (lc (l_and x26_239 (l_xor x28_242 (-1))) 0) = 0 →
          S_X9_toss l G [(2009, 396), (0, v1), (0, 5)] h241 (fun _ h244 =>
          Q 0 h244) E))) ∧
      (¬ (lc x28_242 0) = 0 →
        S_X9_lay_2 l G [(2009, 396), (0, 0), (0, 0), (0, 0), (1, x28_242)] h241 (fun _ h246 =>
        S_X9_flowOn l G [(2009, 396), (0, v1)] h246 (fun _ h248 =>
        (((lc (l_and x26_239 (l_xor x28_242 (-1))) 0) = 0 →
          Q 0 h248) ∧
        (¬ (lc (l_and x26_239 (l_xor x28_242 (-1))) 0) = 0 →
          S_X9_toss l G [(2009, 396), (0, v1), (0, 5)] h248 (fun _ h250 =>
          Q 0 h250) E))) E) E)))) E)) E) ∧
    (((hv h2 ((hv h2 396 3) + 19) v1) = 0 + 1 + 1 + 1 + 1 + 1 + 1 + 1 + 1 + 1 + 1 + 1 + 1 + 1 + 1 + 1 + 1 + 1 + 1 + 1 + 1 + 1 + 1 + 1 + 1 + 1 + 1 + 1 + 1 + 1 + 1 + 1 + 1 + 1 + 1 →
      ((¬ (i_and (i_shr (hv h2 396 62) x2_3) 1) = 0 →
        (0 ≤ v1) ∧
        (v1 < 1500) ∧
        ((¬ (i_and (i_shr (hv h2 466 v1) x2_3) 1) = 1 →
          Q 0 h2) ∧
        ((i_and (i_shr (hv h2 466 v1) x2_3) 1) = 1 →
          S_X9_toss l G [(2009, 396), (0, v1), (0, 6)] h2 (fun _ h252 =>
          Q 0 h252) E))) ∧
      ((i_and (i_shr (hv h2 396 62) x2_3) 1) = 0 →
        (∀ h253, h253 = hset h2 396 62 (i_or (hv h2 396 62) (i_shl 1 x2_3)) →
        (∀ h254, h254 = hset h253 396 63 (i_or (hv h253 396 63) (i_shl 1 x2_3)) →
        S_X9_flowOn l G [(2009, 396), (0, v1)] h254 (fun _ h256 =>
        (0 ≤ v1) ∧
        (v1 < 1500) ∧
        ((¬ (i_and (i_shr (hv h256 466 v1) x2_3) 1) = 1 →
          Q 0 h256) ∧
        ((i_and (i_shr (hv h256 466 v1) x2_3) 1) = 1 →
          S_X9_toss l G [(2009, 396), (0, v1), (0, 6)] h256 (fun _ h258 =>
          Q 0 h258) E))) E))))) ∧
    (((hv h2 ((hv h2 396 3) + 19) v1) = 0 + 1 + 1 + 1 + 1 + 1 + 1 + 1 + 1 + 1 + 1 + 1 + 1 + 1 + 1 + 1 + 1 + 1 + 1 + 1 + 1 + 1 + 1 + 1 + 1 + 1 + 1 + 1 + 1 + 1 + 1 + 1 + 1 + 1 + 1 + 1 →
      (0 ≤ x4_5) ∧
      (x4_5 < 40) ∧
      (∀ h259, h259 = hset h2 396 14 (l_or (hv h2 396 14) (if (i_and (i_shr (hv h2 498 x4_5) x2_3) 1) = 0 then (l_shl 1 x4_5) else 0 : Int)) →
      (0 ≤ x4_5) ∧
      (x4_5 < 40) ∧
      (0 ≤ x4_5) ∧
      (x4_5 < 40) ∧
      (∀ h260, h260 = hset h259 498 x4_5 (i_or (hv h259 498 x4_5) (i_shl 1 x2_3)) →
      ((¬ (i_and (i_shr (hv h260 396 63) x2_3) 1) = 1 →
        (0 ≤ v1) ∧
        (v1 < 1500) ∧
        ((¬ (i_and (i_shr (hv h260 465 v1) x2_3) 1) = 0 →
          Q 0 h260) ∧
        ((i_and (i_shr (hv h260 465 v1) x2_3) 1) = 0 →
          S_X9_toss l G [(2009, 396), (0, v1), (0, 6)] h260 (fun _ h262 =>
          Q 0 h262) E))) ∧
      ((i_and (i_shr (hv h260 396 63) x2_3) 1) = 1 →
        (∀ h263, h263 = hset h260 396 62 (i_and (hv h260 396 62) (i_xor (i_shl 1 x2_3) (-1))) →
        (∀ h264, h264 = hset h263 396 63 (i_and (hv h263 396 63) (i_xor (i_shl 1 x2_3) (-1))) →
        S_X9_flowOn l G [(2009, 396), (0, v1)] h264 (fun _ h266 =>
        (0 ≤ v1) ∧
        (v1 < 1500) ∧
        ((¬ (i_and (i_shr (hv h266 465 v1) x2_3) 1) = 0 →
          Q 0 h266) ∧
        ((i_and (i_shr (hv h266 465 v1) x2_3) 1) = 0 →
          S_X9_toss l G [(2009, 396), (0, v1), (0, 6)] h266 (fun _ h268 =>
          Q 0 h268) E))) E))))))) ∧
    (((hv h2 ((hv h2 396 3) + 19) v1) = 0 + 1 + 1 + 1 + 1 + 1 + 1 + 1 + 1 + 1 + 1 + 1 + 1 + 1 + 1 + 1 + 1 + 1 + 1 + 1 + 1 + 1 + 1 + 1 + 1 + 1 + 1 + 1 + 1 + 1 + 1 + 1 + 1 + 1 + 1 + 1 + 1 →
      S_X9_call l G [(2009, 396), (0, v1)] h2 (fun _ h270 =>
      Q 0 h270) E) ∧
    True))))))))))))))))))))))))))))))))))))) ∧ (((hv h2 ((hv h2 396 3) + 19) v1) < 0 ∨ 36 < (hv h2 ((hv h2 396 3) + 19) v1)) →
      (0 ≤ x4_5) ∧
      (x4_5 < 40) ∧
      (∀ h271, h271 = hset h2 396 14 (l_or (hv h2 396 14) (if (i_and (i_shr (hv h2 498 x4_5) x2_3) 1) = 0 then (l_shl 1 x4_5) else 0 : Int)) →
      (0 ≤ x4_5) ∧
      (x4_5 < 40) ∧
      (0 ≤ x4_5) ∧
      (x4_5 < 40) ∧
      (∀ h272, h272 = hset h271 498 x4_5 (i_or (hv h271 498 x4_5) (i_shl 1 x2_3)) →
      ((¬ (i_and (i_shr (hv h272 396 63) x2_3) 1) = 1 →
        (0 ≤ v1) ∧
        (v1 < 1500) ∧
        ((¬ (i_and (i_shr (hv h272 465 v1) x2_3) 1) = 0 →
          Q 0 h272) ∧
        ((i_and (i_shr (hv h272 465 v1) x2_3) 1) = 0 →
          S_X9_toss l G [(2009, 396), (0, v1), (0, 6)] h272 (fun _ h274 =>
          Q 0 h274) E))) ∧
      ((i_and (i_shr (hv h272 396 63) x2_3) 1) = 1 →
        (∀ h275, h275 = hset h272 396 62 (i_and (hv h272 396 62) (i_xor (i_shl 1 x2_3) (-1))) →
        (∀ h276, h276 = hset h275 396 63 (i_and (hv h275 396 63) (i_xor (i_shl 1 x2_3) (-1))) →
        S_X9_flowOn l G [(2009, 396), (0, v1)] h276 (fun _ h278 =>
        (0 ≤ v1) ∧
        (v1 < 1500) ∧
        ((¬ (i_and (i_shr (hv h278 465 v1) x2_3) 1) = 0 →
          Q 0 h278) ∧
        ((i_and (i_shr (hv h278 465 v1) x2_3) 1) = 0 →
          S_X9_toss l G [(2009, 396), (0, v1), (0, 6)] h278 (fun _ h280 =>
          Q 0 h280) E))) E)))))))))))) E) : JW K 0 [(2009, 396), (0, v1), (5000, 0), (5000, 0), (5000, 0), (5000, 0), (5000, 0), (5000, 0), (5000, 0), (5000, 0), (5000, 0), (5000, 0), (5000, 0), (5000, 0), (5000, 0), (5000, 0), (5000, 0), (5000, 0), (5000, 0), (5000, 0), (5000, 0), (5000, 0), (5000, 0), (5000, 0), (5000, 0), (5000, 0), (5000, 0), (5000, 0), (5000, 0), (5000, 0)] [] h := by
  have e1 := ki.2.2.2.2.1
  have e2 := ki.2.2.2.2.2.1
  subst e1; subst e2
  exact run_ok (dia := [(509, 534), (607, 630), (638, 661), (669, 690), (1144, 1199), (1208, 1218), (1523, 1534)]) (cnr := []) (cuts := []) ki.1 (pk_X9_goOn ki hG) ok_X9_goOn (by decide) 97 true _ _ _ _ H
abbrev k_X9_takeFacts : List (Nat × List (Nat × Instr)) := [(34, [(0, .iconst 0), (1, .istore_n 2), (2, .iload_n 2), (3, .bipush 16), (5, .if_icmp .ge 45), (8, .bipush 16), (10, .iload_n 1), (11, .imul), (12, .iload_n 2), (13, .iadd), (14, .istore_n 3), (15, .aload_n 0), (16, .iload_n 2), (17, .aload_n 0), (18, .getfield 40), (21, .iload_n 3), (22, .iaload), (23, .aload_n 0), (24, .getfield 43), (27, .iload_n 3), (28, .iaload), (29, .aload_n 0), (30, .getfield 46), (33, .iload_n 3)]),
  (78, [(34, .iaload), (35, .aload_n 0), (36, .getfield 49), (39, .iload_n 3), (40, .laload), (41, .invokevirtual 502), (44, .iinc 2 1), (47, .goto (-45)), (50, .aload_n 0), (51, .aload_n 0), (52, .getfield 373), (55, .getfield 424), (58, .iload_n 1), (59, .iaload), (60, .putfield 532), (63, .aload_n 0), (64, .aload_n 0), (65, .getfield 53), (68, .iload_n 1), (69, .iaload), (70, .putfield 506), (73, .aload_n 0), (74, .aload_n 0), (75, .getfield 56)]),
  (92, [(78, .iload_n 1), (79, .iaload), (80, .putfield 509), (83, .return_)])]
theorem ok_X9_takeFacts : CodeOK cX9_takeFacts k_X9_takeFacts := okw 0 (by decide +kernel) (okw 34 (by decide +kernel) (okw 78 (by decide +kernel) (okn)))
abbrev p_X9_takeFacts (l : Launch) (G : JG) : JP := (true, [(40, 9, 19, 25000100, 65), (43, 9, 20, 25000100, 66), (46, 9, 21, 25000100, 67), (49, 9, 22, 25000101, 68), (53, 9, 23, 2500100, 69), (56, 9, 24, 2500100, 70), (373, 9, 3, 14, 0), (424, 10, 31, 2500100, 27)], [], [], [(506, 9, 62, 0), (509, 9, 63, 0), (532, 9, 61, 0)], [], [], [(502, 1, [1, 0, 0, 0, 0, 2009], 700, S_X9_setSlot l G)], false, 700, [])
theorem pk_X9_takeFacts {K : JC} {l : Launch} {G : JG} {Q : Int → MH → Prop} {E : Nat → Int → MH → Prop} {h0 : MH} (ki : KI K l G yX9_takeFacts cX9_takeFacts 4 none [] 5 176 700 Q E h0) (hG : gO G = true) : POK K RX9 (p_X9_takeFacts l G) :=
  POKi (y := yX9_takeFacts) ki hG (rfs rf_X9_ok (by decide +kernel)) fmz fmz (rps rp_X9_ok (by decide +kernel)) fmz fmz
  (pkE ki (by
    intro K e1 e2 e3 e4; subst e1; subst e2
    exact fmE (ceV 9 e3 e4 yl_X9_setSlot ⟨by decide, ⟨_, _, rfl⟩, q2602, qs123, q2600⟩ rfl) (fmz))) (fun z => Bool.noConfusion z) rfl (pkP ki (by
    intro K e1 e2 e3 e4; subst e1; subst e2
    exact fmz))
theorem r_X9_takeFacts_0 {K : JC} {l : Launch} {G : JG} {Q : Int → MH → Prop} {E : Nat → Int → MH → Prop} {h0 : MH} (ki : KI K l G yX9_takeFacts cX9_takeFacts 4 none [] 5 176 700 Q E h0) (hG : gO G = true) {v1 : Int} {h : MH} (H :
    (∀ x2_1 : Int, x2_1 = 0 →
    JW K 2 [(2009, 396), (0, v1), (0, x2_1), (5000, 0)] [] h)) : JW K 0 [(2009, 396), (0, v1), (5000, 0), (5000, 0)] [] h := by
  have e1 := ki.2.2.2.2.1
  have e2 := ki.2.2.2.2.2.1
  subst e1; subst e2
  exact run_ok (dia := []) (cnr := []) (cuts := [(2, [2009, 0, 0, 5000], [])]) ki.1 (pk_X9_takeFacts ki hG) ok_X9_takeFacts (by decide) 4 true _ _ _ _ H
theorem r_X9_takeFacts_2 {K : JC} {l : Launch} {G : JG} {Q : Int → MH → Prop} {E : Nat → Int → MH → Prop} {h0 : MH} (ki : KI K l G yX9_takeFacts cX9_takeFacts 4 none [] 5 176 700 Q E h0) (hG : gO G = true) {v1 v2 : Int} {h : MH} (H :
    ((16 ≤ v2 →
      ((hv h 396 3) ≠ 0) ∧
      (0 ≤ v1) ∧
      (v1 < 1500) ∧
      (∀ h1, h1 = hset h 396 61 (hv h ((hv h 396 3) + 27) v1) →
      (0 ≤ v1) ∧
      (v1 < 1500) ∧
      (∀ h2, h2 = hset h1 396 62 (hv h1 465 v1) →
      (0 ≤ v1) ∧
      (v1 < 1500) ∧
      (∀ h3, h3 = hset h2 396 63 (hv h2 466 v1) →
      Q 0 h3)))) ∧
    (v2 < 16 →
      (∀ x3_4 : Int, x3_4 = (w32 ((w32 (16 * v1)) + v2)) →
      (0 ≤ x3_4) ∧
      (x3_4 < 24000) ∧
      (0 ≤ x3_4) ∧
      (x3_4 < 24000) ∧
      (0 ≤ x3_4) ∧
      (x3_4 < 24000) ∧
      (0 ≤ x3_4) ∧
      (x3_4 < 24000) ∧
      S_X9_setSlot l G [(2009, 396), (0, v2), (0, (hv h 461 x3_4)), (0, (hv h 462 x3_4)), (0, (hv h 463 x3_4)), (1, (hv h 464 x3_4))] h (fun _ h6 =>
      (∀ x2_7 : Int, x2_7 = w32 (v2 + 1) →
      JW K 2 [(2009, 396), (0, v1), (0, x2_7), (5000, 0)] [] h6)) E)))) : JW K 2 [(2009, 396), (0, v1), (0, v2), (5000, 0)] [] h := by
  have e1 := ki.2.2.2.2.1
  have e2 := ki.2.2.2.2.2.1
  subst e1; subst e2
  exact run_ok (dia := []) (cnr := []) (cuts := [(2, [2009, 0, 0, 5000], [])]) ki.1 (pk_X9_takeFacts ki hG) ok_X9_takeFacts (by decide) 32 true _ _ _ _ H
abbrev k_X9_lay_2 : List (Nat × List (Nat × Instr)) := [(35, [(0, .aload_n 0), (1, .bipush 8), (3, .aload_n 0), (4, .getfield 532), (7, .iadd), (8, .iload_n 1), (9, .iload_n 2), (10, .iload_n 3), (11, .lload 4), (13, .invokevirtual 502), (16, .aload_n 0), (17, .dup), (18, .getfield 532), (21, .iconst 1), (22, .iadd), (23, .putfield 532), (26, .return_)])]
theorem ok_X9_lay_2 : CodeOK cX9_lay_2 k_X9_lay_2 := okw 0 (by decide +kernel) (okn)
abbrev p_X9_lay_2 (l : Launch) (G : JG) : JP := (true, [(532, 9, 61, 0, 0)], [], [], [(532, 9, 61, 0)], [], [], [(502, 1, [1, 0, 0, 0, 0, 2009], 700, S_X9_setSlot l G)], false, 700, [])
theorem pk_X9_lay_2 {K : JC} {l : Launch} {G : JG} {Q : Int → MH → Prop} {E : Nat → Int → MH → Prop} {h0 : MH} (ki : KI K l G yX9_lay_2 cX9_lay_2 6 none [] 5 176 700 Q E h0) (hG : gO G = true) : POK K RX9 (p_X9_lay_2 l G) :=
  POKi (y := yX9_lay_2) ki hG (rfs rf_X9_ok (by decide +kernel)) fmz fmz (rps rp_X9_ok (by decide +kernel)) fmz fmz
  (pkE ki (by
    intro K e1 e2 e3 e4; subst e1; subst e2
    exact fmE (ceV 9 e3 e4 yl_X9_setSlot ⟨by decide, ⟨_, _, rfl⟩, q2602, qs123, q2600⟩ rfl) (fmz))) (fun z => Bool.noConfusion z) rfl (pkP ki (by
    intro K e1 e2 e3 e4; subst e1; subst e2
    exact fmz))
theorem r_X9_lay_2_0 {K : JC} {l : Launch} {G : JG} {Q : Int → MH → Prop} {E : Nat → Int → MH → Prop} {h0 : MH} (ki : KI K l G yX9_lay_2 cX9_lay_2 6 none [] 5 176 700 Q E h0) (hG : gO G = true) {v1 v2 v3 v4 : Int} {h : MH} (H :
    S_X9_setSlot l G [(2009, 396), (0, (w32 (8 + (hv h 396 61)))), (0, v1), (0, v2), (0, v3), (1, v4)] h (fun _ h2 =>
    (∀ h3, h3 = hset h2 396 61 (w32 ((hv h2 396 61) + 1)) →
    Q 0 h3)) E) : JW K 0 [(2009, 396), (0, v1), (0, v2), (0, v3), (1, v4), (5000, 0)] [] h := by
  have e1 := ki.2.2.2.2.1
  have e2 := ki.2.2.2.2.2.1
  subst e1; subst e2
  exact run_ok (dia := []) (cnr := []) (cuts := []) ki.1 (pk_X9_lay_2 ki hG) ok_X9_lay_2 (by decide) 18 true _ _ _ _ H
abbrev k_X9_flowOn : List (Nat × List (Nat × Instr)) := [(35, [(0, .aload_n 0), (1, .iload_n 1), (2, .iload_n 1), (3, .aload_n 0), (4, .getfield 373), (7, .getfield 312), (10, .aload_n 0), (11, .getfield 373), (14, .getfield 354), (17, .iload_n 1), (18, .iaload), (19, .iaload), (20, .isub), (21, .iconst 1), (22, .iadd), (23, .invokevirtual 535), (26, .return_)])]
theorem ok_X9_flowOn : CodeOK cX9_flowOn k_X9_flowOn := okw 0 (by decide +kernel) (okn)
abbrev p_X9_flowOn (l : Launch) (G : JG) : JP := (true, [(312, 10, 17, 1040100, 15), (354, 10, 27, 2500100, 24), (373, 9, 3, 14, 0)], [], [], [], [], [], [(535, 1, [0, 0, 2009], 700, S_X9_flow l G)], false, 700, [])
theorem pk_X9_flowOn {K : JC} {l : Launch} {G : JG} {Q : Int → MH → Prop} {E : Nat → Int → MH → Prop} {h0 : MH} (ki : KI K l G yX9_flowOn cX9_flowOn 2 none [] 7 224 700 Q E h0) (hG : gO G = true) : POK K RX9 (p_X9_flowOn l G) :=
  POKi (y := yX9_flowOn) ki hG (rfs rf_X9_ok (by decide +kernel)) fmz fmz fmz fmz fmz
  (pkE ki (by
    intro K e1 e2 e3 e4; subst e1; subst e2
    exact fmE (ceV 9 e3 e4 yl_X9_flow ⟨by decide, ⟨_, _, rfl⟩, q2632, qs130, q2630⟩ rfl) (fmz))) (fun z => Bool.noConfusion z) rfl (pkP ki (by
    intro K e1 e2 e3 e4; subst e1; subst e2
    exact fmz))
theorem r_X9_flowOn_0 {K : JC} {l : Launch} {G : JG} {Q : Int → MH → Prop} {E : Nat → Int → MH → Prop} {h0 : MH} (ki : KI K l G yX9_flowOn cX9_flowOn 2 none [] 7 224 700 Q E h0) (hG : gO G = true) {v1 : Int} {h : MH} (H :
    ((hv h 396 3) ≠ 0) ∧
    ((hv h 396 3) ≠ 0) ∧
    (0 ≤ v1) ∧
    (v1 < 1500) ∧
    (0 ≤ (hv h ((hv h 396 3) + 24) v1)) ∧
    ((hv h ((hv h 396 3) + 24) v1) < 40) ∧
    S_X9_flow l G [(2009, 396), (0, v1), (0, (w32 ((w32 (v1 - (hv h ((hv h 396 3) + 15) (hv h ((hv h 396 3) + 24) v1)))) + 1)))] h (fun _ h2 =>
    Q 0 h2) E) : JW K 0 [(2009, 396), (0, v1)] [] h := by
  have e1 := ki.2.2.2.2.1
  have e2 := ki.2.2.2.2.2.1
  subst e1; subst e2
  exact run_ok (dia := []) (cnr := []) (cuts := []) ki.1 (pk_X9_flowOn ki hG) ok_X9_flowOn (by decide) 18 true _ _ _ _ H
abbrev k_X9_flow : List (Nat × List (Nat × Instr)) := [(34, [(0, .aload_n 0), (1, .getfield 65), (4, .iconst 2), (5, .iload_n 1), (6, .imul), (7, .iload_n 2), (8, .bipush 6), (10, .ishr), (11, .iadd), (12, .dup2), (13, .laload), (14, .lconst 1), (15, .iload_n 2), (16, .bipush 63), (18, .iand), (19, .lshl), (20, .lor), (21, .lastore), (22, .aload_n 0), (23, .aload_n 0), (24, .getfield 373), (27, .getfield 312), (30, .aload_n 0), (31, .getfield 373)]),
  (54, [(34, .getfield 354), (37, .iload_n 1), (38, .iaload), (39, .iaload), (40, .iload_n 2), (41, .iadd), (42, .invokevirtual 512), (45, .return_)])]
theorem ok_X9_flow : CodeOK cX9_flow k_X9_flow := okw 0 (by decide +kernel) (okw 34 (by decide +kernel) (okn))
abbrev p_X9_flow (l : Launch) (G : JG) : JP := (true, [(65, 9, 27, 4000101, 73), (312, 10, 17, 1040100, 15), (354, 10, 27, 2500100, 24), (373, 9, 3, 14, 0)], [], [], [], [], [], [(512, 1, [0, 2009], 700, S_X9_joinTo l G)], false, 700, [])
theorem pk_X9_flow {K : JC} {l : Launch} {G : JG} {Q : Int → MH → Prop} {E : Nat → Int → MH → Prop} {h0 : MH} (ki : KI K l G yX9_flow cX9_flow 3 none [] 6 202 700 Q E h0) (hG : gO G = true) : POK K RX9 (p_X9_flow l G) :=
  POKi (y := yX9_flow) ki hG (rfs rf_X9_ok (by decide +kernel)) fmz fmz fmz fmz fmz
  (pkE ki (by
    intro K e1 e2 e3 e4; subst e1; subst e2
    exact fmE (ceV 9 e3 e4 yl_X9_joinTo ⟨by decide, ⟨_, _, rfl⟩, q2606, qs124, q2604⟩ rfl) (fmz))) (fun z => Bool.noConfusion z) rfl (pkP ki (by
    intro K e1 e2 e3 e4; subst e1; subst e2
    exact fmz))
theorem r_X9_flow_0 {K : JC} {l : Launch} {G : JG} {Q : Int → MH → Prop} {E : Nat → Int → MH → Prop} {h0 : MH} (ki : KI K l G yX9_flow cX9_flow 3 none [] 6 202 700 Q E h0) (hG : gO G = true) {v1 v2 : Int} {h : MH} (H :
    (0 ≤ (w32 ((w32 (2 * v1)) + (i_shr v2 6)))) ∧
    ((w32 ((w32 (2 * v1)) + (i_shr v2 6))) < 3000) ∧
    (0 ≤ (w32 ((w32 (2 * v1)) + (i_shr v2 6)))) ∧
    ((w32 ((w32 (2 * v1)) + (i_shr v2 6))) < 3000) ∧
    (∀ h1, h1 = hset h 469 (w32 ((w32 (2 * v1)) + (i_shr v2 6))) (l_or (hv h 469 (w32 ((w32 (2 * v1)) + (i_shr v2 6)))) (l_shl 1 (i_and v2 63))) →
    ((hv h1 396 3) ≠ 0) ∧
    ((hv h1 396 3) ≠ 0) ∧
    (0 ≤ v1) ∧
    (v1 < 1500) ∧
    (0 ≤ (hv h1 ((hv h1 396 3) + 24) v1)) ∧
    ((hv h1 ((hv h1 396 3) + 24) v1) < 40) ∧
    S_X9_joinTo l G [(2009, 396), (0, (w32 ((hv h1 ((hv h1 396 3) + 15) (hv h1 ((hv h1 396 3) + 24) v1)) + v2)))] h1 (fun _ h3 =>
    Q 0 h3) E)) : JW K 0 [(2009, 396), (0, v1), (0, v2)] [] h := by
  have e1 := ki.2.2.2.2.1
  have e2 := ki.2.2.2.2.2.1
  subst e1; subst e2
  exact run_ok (dia := []) (cnr := []) (cuts := []) ki.1 (pk_X9_flow ki hG) ok_X9_flow (by decide) 33 true _ _ _ _ H
abbrev k_X9_pull_2 : List (Nat × List (Nat × Instr)) := [(42, [(0, .aload_n 0), (1, .dup), (2, .getfield 532), (5, .iconst 1), (6, .isub), (7, .putfield 532), (10, .aload_n 0), (11, .aload_n 0), (12, .getfield 155), (15, .bipush 8), (17, .aload_n 0), (18, .getfield 532), (21, .iadd), (22, .iaload), (23, .putfield 539), (26, .aload_n 0), (27, .aload_n 0), (28, .getfield 158), (31, .bipush 8), (33, .aload_n 0), (34, .getfield 532), (37, .iadd), (38, .iaload), (39, .putfield 542)]),
  (83, [(42, .aload_n 0), (43, .aload_n 0), (44, .getfield 161), (47, .bipush 8), (49, .aload_n 0), (50, .getfield 532), (53, .iadd), (54, .iaload), (55, .putfield 545), (58, .aload_n 0), (59, .aload_n 0), (60, .getfield 164), (63, .bipush 8), (65, .aload_n 0), (66, .getfield 532), (69, .iadd), (70, .laload), (71, .putfield 548), (74, .return_)])]
theorem ok_X9_pull_2 : CodeOK cX9_pull_2 k_X9_pull_2 := okw 0 (by decide +kernel) (okw 42 (by decide +kernel) (okn))
abbrev p_X9_pull_2 (l : Launch) (G : JG) : JP := (true, [(155, 9, 57, 1016100, 103), (158, 9, 58, 1016100, 104), (161, 9, 59, 1016100, 105), (164, 9, 60, 1016101, 106), (532, 9, 61, 0, 0)], [], [], [(532, 9, 61, 0), (539, 9, 64, 0), (542, 9, 65, 0), (545, 9, 66, 0), (548, 9, 67, 1)], [], [], [], false, 700, [])
theorem pk_X9_pull_2 {K : JC} {l : Launch} {G : JG} {Q : Int → MH → Prop} {E : Nat → Int → MH → Prop} {h0 : MH} (ki : KI K l G yX9_pull_2 cX9_pull_2 1 none [] 4 150 700 Q E h0) (hG : gO G = true) : POK K RX9 (p_X9_pull_2 l G) :=
  POKi (y := yX9_pull_2) ki hG (rfs rf_X9_ok (by decide +kernel)) fmz fmz (rps rp_X9_ok (by decide +kernel)) fmz fmz
  (pkE ki (by
    intro K e1 e2 e3 e4; subst e1; subst e2
    exact fmz)) (fun z => Bool.noConfusion z) rfl (pkP ki (by
    intro K e1 e2 e3 e4; subst e1; subst e2
    exact fmz))
theorem r_X9_pull_2_0 {K : JC} {l : Launch} {G : JG} {Q : Int → MH → Prop} {E : Nat → Int → MH → Prop} {h0 : MH} (ki : KI K l G yX9_pull_2 cX9_pull_2 1 none [] 4 150 700 Q E h0) (hG : gO G = true) {h : MH} (H :
    (∀ h1, h1 = hset h 396 61 (w32 ((hv h 396 61) - 1)) →
    (0 ≤ (w32 (8 + (hv h1 396 61)))) ∧
    ((w32 (8 + (hv h1 396 61))) < 16) ∧
    (∀ h2, h2 = hset h1 396 64 (hv h1 499 (w32 (8 + (hv h1 396 61)))) →
    (0 ≤ (w32 (8 + (hv h2 396 61)))) ∧
    ((w32 (8 + (hv h2 396 61))) < 16) ∧
    (∀ h3, h3 = hset h2 396 65 (hv h2 500 (w32 (8 + (hv h2 396 61)))) →
    (0 ≤ (w32 (8 + (hv h3 396 61)))) ∧
    ((w32 (8 + (hv h3 396 61))) < 16) ∧
    (∀ h4, h4 = hset h3 396 66 (hv h3 501 (w32 (8 + (hv h3 396 61)))) →
    (0 ≤ (w32 (8 + (hv h4 396 61)))) ∧
    ((w32 (8 + (hv h4 396 61))) < 16) ∧
    (∀ h5, h5 = hset h4 396 67 (hv h4 502 (w32 (8 + (hv h4 396 61)))) →
    Q 0 h5)))))) : JW K 0 [(2009, 396)] [] h := by
  have e1 := ki.2.2.2.2.1
  have e2 := ki.2.2.2.2.2.1
  subst e1; subst e2
  exact run_ok (dia := []) (cnr := []) (cuts := []) ki.1 (pk_X9_pull_2 ki hG) ok_X9_pull_2 (by decide) 44 true _ _ _ _ H
abbrev k_X9_reckon : List (Nat × List (Nat × Instr)) := [(41, [(0, .aload_n 0), (1, .invokevirtual 574), (4, .aload_n 0), (5, .getfield 539), (8, .i2l), (9, .lstore_n 2), (10, .aload_n 0), (11, .getfield 542), (14, .i2l), (15, .lstore 4), (17, .aload_n 0), (18, .getfield 545), (21, .istore 6), (23, .iload_n 1), (24, .bipush 12), (26, .if_icmp .ne 16), (29, .aload_n 0), (30, .lload 4), (32, .lneg), (33, .lload_n 2), (34, .lneg), (35, .iload 6), (37, .invokevirtual 576), (40, .iconst 1)]),
  (83, [(41, .ireturn), (42, .aload_n 0), (43, .invokevirtual 574), (46, .aload_n 0), (47, .getfield 539), (50, .i2l), (51, .lstore 7), (53, .aload_n 0), (54, .getfield 542), (57, .i2l), (58, .lstore 9), (60, .iload 6), (62, .aload_n 0), (63, .getfield 545), (66, .ior), (67, .istore 6), (69, .iload_n 1), (70, .bipush 7), (72, .if_icmp .eq 9), (75, .iload_n 1), (76, .bipush 8), (78, .if_icmp .ne 47), (81, .aload_n 0), (82, .iload_n 1)]),
  (126, [(83, .bipush 7), (85, .if_icmp .ne 10), (88, .lload 7), (90, .lload_n 2), (91, .ladd), (92, .goto 8), (95, .lload 7), (97, .lload 4), (99, .lsub), (100, .iload_n 1), (101, .bipush 7), (103, .if_icmp .ne 11), (106, .lload 9), (108, .lload 4), (110, .ladd), (111, .goto 7), (114, .lload 9), (116, .lload_n 2), (117, .lsub), (118, .iload 6), (120, .invokevirtual 576), (123, .iconst 1), (124, .ireturn), (125, .iload_n 1)]),
  (169, [(126, .bipush 9), (128, .if_icmp .ne 73), (131, .lload 7), (133, .lload_n 2), (134, .lmul), (135, .lload 7), (137, .lload 4), (139, .lmul), (140, .invokestatic 460), (143, .lload 9), (145, .lload_n 2), (146, .lmul), (147, .lload 9), (149, .lload 4), (151, .lmul), (152, .invokestatic 460), (155, .invokestatic 460), (158, .lstore 11), (160, .lload 7), (162, .lload_n 2), (163, .lmul), (164, .lload 7), (166, .lload 4), (168, .lmul)]),
  (211, [(169, .invokestatic 466), (172, .lload 9), (174, .lload_n 2), (175, .lmul), (176, .lload 9), (178, .lload 4), (180, .lmul), (181, .invokestatic 466), (184, .invokestatic 466), (187, .lstore 13), (189, .aload_n 0), (190, .lload 11), (192, .lload 13), (194, .iload 6), (196, .invokevirtual 576), (199, .iconst 1), (200, .ireturn), (201, .lload_n 2), (202, .lconst 0), (203, .lcmp), (204, .ifCond .ne 12), (207, .lload 4), (209, .lconst 0), (210, .lcmp)]),
  (257, [(211, .ifCond .ne 5), (214, .iconst 0), (215, .ireturn), (216, .iload_n 1), (217, .bipush 11), (219, .if_icmp .ne 64), (222, .lload_n 2), (223, .invokestatic 580), (226, .lload 4), (228, .invokestatic 580), (231, .invokestatic 466), (234, .lconst 1), (235, .lsub), (236, .lstore 11), (238, .aload_n 0), (239, .lload 7), (241, .lconst 0), (242, .lcmp), (243, .ifCond .ge 14), (246, .lload 11), (248, .lneg), (249, .lload 7), (251, .invokestatic 466), (254, .goto 4)]),
  (304, [(257, .lconst 0), (258, .lload 9), (260, .lconst 0), (261, .lcmp), (262, .ifCond .le 13), (265, .lload 11), (267, .lload 9), (269, .invokestatic 460), (272, .goto 4), (275, .lconst 0), (276, .iload 6), (278, .invokevirtual 576), (281, .iconst 1), (282, .ireturn), (283, .ldc2_w 586), (286, .lstore 11), (288, .ldc2_w 588), (291, .lstore 13), (293, .iconst 0), (294, .istore 15), (296, .iload 15), (298, .iconst 4), (299, .if_icmp .ge 109), (302, .iload 15)]),
  (353, [(304, .ifCond .ne 7), (307, .lload_n 2), (308, .goto 27), (311, .iload 15), (313, .iconst 1), (314, .if_icmp .ne 8), (317, .lload 4), (319, .goto 16), (322, .iload 15), (324, .iconst 2), (325, .if_icmp .ne 9), (328, .ldc2_w 476), (331, .goto 4), (334, .lconst 1), (335, .lstore 16), (337, .lload 16), (339, .lconst 0), (340, .lcmp), (341, .ifCond .eq 61), (344, .lload 16), (346, .lload_n 2), (347, .lcmp), (348, .ifCond .lt 54), (351, .lload 16)]),
  (402, [(353, .lload 4), (355, .lcmp), (356, .ifCond .le 6), (359, .goto 43), (362, .lload 11), (364, .lload 7), (366, .lload 16), (368, .ldiv), (369, .lload 9), (371, .lload 16), (373, .ldiv), (374, .invokestatic 460), (377, .invokestatic 460), (380, .lstore 11), (382, .lload 13), (384, .lload 7), (386, .lload 16), (388, .ldiv), (389, .lload 9), (391, .lload 16), (393, .ldiv), (394, .invokestatic 466), (397, .invokestatic 466), (400, .lstore 13)]),
  (428, [(402, .iinc 15 1), (405, .goto (-109)), (408, .aload_n 0), (409, .lload 11), (411, .lload 13), (413, .iload 6), (415, .invokevirtual 576), (418, .iconst 1), (419, .ireturn)])]
theorem ok_X9_reckon : CodeOK cX9_reckon k_X9_reckon := okw 0 (by decide +kernel) (okw 41 (by decide +kernel) (okw 83 (by decide +kernel) (okw 126 (by decide +kernel) (okw 169 (by decide +kernel) (okw 211 (by decide +kernel) (okw 257 (by decide +kernel) (okw 304 (by decide +kernel) (okw 353 (by decide +kernel) (okw 402 (by decide +kernel) (okn))))))))))
abbrev p_X9_reckon (l : Launch) (G : JG) : JP := (true, [(539, 9, 64, 0, 0), (542, 9, 65, 0, 0), (545, 9, 66, 0, 0)], [], [(476, (-1)), (586, 9223372036854775807), (588, (-9223372036854775808))], [], [], [], [(574, 1, [2009], 700, S_X9_pull_2 l G), (576, 1, [0, 1, 1, 2009], 700, S_X9_layRounded l G)], false, 2, [(460, e_J8_min_2), (466, e_J8_max_2), (580, e_J8_abs)])
theorem pk_X9_reckon {K : JC} {l : Launch} {G : JG} {Q : Int → MH → Prop} {E : Nat → Int → MH → Prop} {h0 : MH} (ki : KI K l G yX9_reckon cX9_reckon 18 (some .boolean) [] 7 227 2 Q E h0) (hG : gO G = true) : POK K RX9 (p_X9_reckon l G) :=
  POKi (y := yX9_reckon) ki hG (rfs rf_X9_ok (by decide +kernel)) fmz (subs (by decide +kernel) rl_X9_ok) fmz fmz fmz
  (pkE ki (by
    intro K e1 e2 e3 e4; subst e1; subst e2
    exact fmE (ceV 9 e3 e4 yl_X9_pull_2 ⟨by decide, ⟨_, _, rfl⟩, q2636, qs131, q2634⟩ rfl) (fmE (ceV 9 e3 e4 yl_X9_layRounded ⟨by decide, ⟨_, _, rfl⟩, q2644, qs133, q2642⟩ rfl) (fmz)))) (fun z => Bool.noConfusion z) rfl (pkP ki (by
    intro K e1 e2 e3 e4; subst e1; subst e2
    exact fmP (pe_J8_min_2 hG e3 e4 ⟨q1473, Or.inl q2573⟩ rfl rfl) (fmP (pe_J8_max_2 hG e3 e4 ⟨q1479, Or.inl q2574⟩ rfl rfl) (fmP (pe_J8_abs hG e3 e4 ⟨q1494, Or.inl q2658⟩ rfl rfl) (fmz)))))
theorem r_X9_reckon_0 {K : JC} {l : Launch} {G : JG} {Q : Int → MH → Prop} {E : Nat → Int → MH → Prop} {h0 : MH} (ki : KI K l G yX9_reckon cX9_reckon 18 (some .boolean) [] 7 227 2 Q E h0) (hG : gO G = true) {v1 : Int} {h : MH} (H :
    S_X9_pull_2 l G [(2009, 396)] h (fun _ h2 =>
    (∀ x2_3 : Int, x2_3 = (hv h2 396 64) →
    (∀ x4_4 : Int, x4_4 = (hv h2 396 65) →
    (∀ x6_5 : Int, x6_5 = (hv h2 396 66) →
    ((¬ v1 = 12 →
      S_X9_pull_2 l G [(2009, 396)] h2 (fun _ h7 =>
      (∀ x7_8 : Int, x7_8 = (hv h7 396 64) →
      (∀ x9_9 : Int, x9_9 = (hv h7 396 65) →
      (∀ x6_10 : Int, x6_10 = (i_or x6_5 (hv h7 396 66)) →
      (((v1 = 7 ∨ v1 = 8) →
        S_X9_layRounded l G [(2009, 396), (1, (if v1 = 7 then (w64 (x7_8 + x2_3)) else (w64 (x7_8 - x4_4)) : Int)), (1, (if v1 = 7 then (w64 (x9_9 + x4_4)) else (w64 (x9_9 - x2_3)) : Int)), (0, x6_10)] h7 (fun _ h12 =>
        (((1 : Int) = 0 ∨ (1 : Int) = 1) ∧ Q 1 h12)) E) ∧
      (¬ (v1 = 7 ∨ v1 = 8) →
        ((¬ v1 = 9 →
          ((((lc x2_3 0) = 0 ∧ (lc x4_4 0) = 0) →
            (((0 : Int) = 0 ∨ (0 : Int) = 1) ∧ Q 0 h7)) ∧
          (¬ ((lc x2_3 0) = 0 ∧ (lc x4_4 0) = 0) →
            ((¬ v1 = 11 →
              (∀ x11_13 : Int, x11_13 = 9223372036854775807 →
              (∀ x13_14 : Int, x13_14 = (-9223372036854775808) →
              (∀ x15_15 : Int, x15_15 = 0 →
              JW K 296 [(2009, 396), (0, v1), (1, x2_3), (5000, 0), (1, x4_4), (5000, 0), (0, x6_10), (1, x7_8), (5000, 0), (1, x9_9), (5000, 0), (1, x11_13), (5000, 0), (1, x13_14), (5000, 0), (0, x15_15), (5000, 0), (5000, 0)] [] h7)))) ∧
            (v1 = 11 →
              (∀ x11_16 : Int, x11_16 = (w64 ((max (labs x2_3) (labs x4_4)) - 1)) →
              S_X9_layRounded l G [(2009, 396), (1, (if (lc x7_8 0) < 0 then (max (w64 (-x11_16)) x7_8) else 0 : Int)), (1, (if 0 < (lc x9_9 0) then (min x11_16 x9_9) else 0 : Int)), (0, x6_10)] h7 (fun _ h18 =>
              (((1 : Int) = 0 ∨ (1 : Int) = 1) ∧ Q 1 h18)) E)))))) ∧
        (v1 = 9 →
          (∀ x11_19 : Int, x11_19 = (min (min (w64 (x7_8 * x2_3)) (w64 (x7_8 * x4_4))) (min (w64 (x9_9 * x2_3)) (w64 (x9_9 * x4_4)))) →
          (∀ x13_20 : Int, x13_20 = (max (max (w64 (x7_8 * x2_3)) (w64 (x7_8 * x4_4))) (max (w64 (x9_9 * x2_3)) (w64 (x9_9 * x4_4)))) →
          S_X9_layRounded l G [(2009, 396), (1, x11_19), (1, x13_20), (0, x6_10)] h7 (fun _ h22 =>
          (((1 : Int) = 0 ∨ (1 : Int) = 1) ∧ Q 1 h22)) E)))))))))) E) ∧
    (v1 = 12 →
      S_X9_layRounded l G [(2009, 396), (1, (w64 (-x4_4))), (1, (w64 (-x2_3))), (0, x6_5)] h2 (fun _ h24 =>
      (((1 : Int) = 0 ∨ (1 : Int) = 1) ∧ Q 1 h24)) E)))))) E) : JW K 0 [(2009, 396), (0, v1), (5000, 0), (5000, 0), (5000, 0), (5000, 0), (5000, 0), (5000, 0), (5000, 0), (5000, 0), (5000, 0), (5000, 0), (5000, 0), (5000, 0), (5000, 0), (5000, 0), (5000, 0), (5000, 0)] [] h := by
  have e1 := ki.2.2.2.2.1
  have e2 := ki.2.2.2.2.2.1
  subst e1; subst e2
  exact run_ok (dia := [(85, 100), (103, 118), (243, 258), (262, 276), (304, 335)]) (cnr := [(72, 81, 125), (204, 214, 216), (341, 351, 402)]) (cuts := [(296, [2009, 0, 1, 5000, 1, 5000, 0, 1, 5000, 1, 5000, 1, 5000, 1, 5000, 0, 5000, 5000], [])]) ki.1 (pk_X9_reckon ki hG) ok_X9_reckon (by decide) 77 true _ _ _ _ H
theorem r_X9_reckon_296 {K : JC} {l : Launch} {G : JG} {Q : Int → MH → Prop} {E : Nat → Int → MH → Prop} {h0 : MH} (ki : KI K l G yX9_reckon cX9_reckon 18 (some .boolean) [] 7 227 2 Q E h0) (hG : gO G = true) {v1 v2 v4 v6 v7 v9 v11 v13 v15 : Int} {h : MH} (H :
    ((4 ≤ v15 →
      S_X9_layRounded l G [(2009, 396), (1, v11), (1, v13), (0, v6)] h (fun _ h2 =>
      (((1 : Int) = 0 ∨ (1 : Int) = 1) ∧ Q 1 h2)) E) ∧
    (v15 < 4 →
      (∀ x16_3 : Int, x16_3 = (if v15 = 0 then v2 else (if v15 = 1 then v4 else (if v15 = 2 then (-1) else 1 : Int) : Int) : Int) →
      (((¬ (lc x16_3 0) = 0 ∧ 0 ≤ (lc x16_3 v2)) →
        (((lc x16_3 v4) ≤ 0 →
          (¬ x16_3 = 0) ∧
          (¬ x16_3 = 0) ∧
          (∀ x11_4 : Int, x11_4 = (min v11 (min (l_div v7 x16_3) (l_div v9 x16_3))) →
          (¬ x16_3 = 0) ∧
          (¬ x16_3 = 0) ∧
          (∀ x13_5 : Int, x13_5 = (max v13 (max (l_div v7 x16_3) (l_div v9 x16_3))) →
          (∀ x15_6 : Int, x15_6 = w32 (v15 + 1) →
          JW K 296 [(2009, 396), (0, v1), (1, v2), (5000, 0), (1, v4), (5000, 0), (0, v6), (1, v7), (5000, 0), (1, v9), (5000, 0), (1, x11_4), (5000, 0), (1, x13_5), (5000, 0), (0, x15_6), (5000, 0), (5000, 0)] [] h)))) ∧
        (0 < (lc x16_3 v4) →
          (∀ x15_7 : Int, x15_7 = w32 (v15 + 1) →
          JW K 296 [(2009, 396), (0, v1), (1, v2), (5000, 0), (1, v4), (5000, 0), (0, v6), (1, v7), (5000, 0), (1, v9), (5000, 0), (1, v11), (5000, 0), (1, v13), (5000, 0), (0, x15_7), (5000, 0), (5000, 0)] [] h)))) ∧
      (¬ (¬ (lc x16_3 0) = 0 ∧ 0 ≤ (lc x16_3 v2)) →
        (∀ x15_8 : Int, x15_8 = w32 (v15 + 1) →
        JW K 296 [(2009, 396), (0, v1), (1, v2), (5000, 0), (1, v4), (5000, 0), (0, v6), (1, v7), (5000, 0), (1, v9), (5000, 0), (1, v11), (5000, 0), (1, v13), (5000, 0), (0, x15_8), (5000, 0), (5000, 0)] [] h))))))) : JW K 296 [(2009, 396), (0, v1), (1, v2), (5000, 0), (1, v4), (5000, 0), (0, v6), (1, v7), (5000, 0), (1, v9), (5000, 0), (1, v11), (5000, 0), (1, v13), (5000, 0), (0, v15), (5000, 0), (5000, 0)] [] h := by
  have e1 := ki.2.2.2.2.1
  have e2 := ki.2.2.2.2.2.1
  subst e1; subst e2
  exact run_ok (dia := [(85, 100), (103, 118), (243, 258), (262, 276), (304, 335)]) (cnr := [(72, 81, 125), (204, 214, 216), (341, 351, 402)]) (cuts := [(296, [2009, 0, 1, 5000, 1, 5000, 0, 1, 5000, 1, 5000, 1, 5000, 1, 5000, 0, 5000, 5000], [])]) ki.1 (pk_X9_reckon ki hG) ok_X9_reckon (by decide) 38 true _ _ _ _ H
abbrev k_X9_layRounded : List (Nat × List (Nat × Instr)) := [(49, [(0, .lload_n 1), (1, .ldc2_w 456), (4, .lcmp), (5, .ifCond .lt 11), (8, .lload_n 3), (9, .ldc2_w 458), (12, .lcmp), (13, .ifCond .le 7), (16, .iconst 1), (17, .goto 4), (20, .iconst 0), (21, .istore 6), (23, .aload_n 0), (24, .iload 6), (26, .ifCond .eq 9), (29, .ldc_w 500), (32, .goto 9), (35, .aload_n 0), (36, .lload_n 1), (37, .l2i), (38, .invokevirtual 551), (41, .iload 6), (43, .ifCond .eq 9), (46, .ldc_w 501)]),
  (73, [(49, .goto 9), (52, .aload_n 0), (53, .lload_n 3), (54, .l2i), (55, .invokevirtual 554), (58, .iload 5), (60, .lconst 0), (61, .invokevirtual 557), (64, .return_)])]
theorem ok_X9_layRounded : CodeOK cX9_layRounded k_X9_layRounded := okw 0 (by decide +kernel) (okw 49 (by decide +kernel) (okn))
abbrev p_X9_layRounded (l : Launch) (G : JG) : JP := (true, [], [(500, (-2147483648)), (501, 2147483647)], [(456, (-2147483648)), (458, 2147483647)], [], [], [], [(551, 1, [0, 2009], 0, S_X9_downTo l G), (554, 1, [0, 2009], 0, S_X9_upTo l G), (557, 1, [1, 0, 0, 0, 2009], 700, S_X9_lay_2 l G)], false, 700, [])
theorem pk_X9_layRounded {K : JC} {l : Launch} {G : JG} {Q : Int → MH → Prop} {E : Nat → Int → MH → Prop} {h0 : MH} (ki : KI K l G yX9_layRounded cX9_layRounded 7 none [] 6 201 700 Q E h0) (hG : gO G = true) : POK K RX9 (p_X9_layRounded l G) :=
  POKi (y := yX9_layRounded) ki hG fmz (subs (by decide +kernel) rc_X9_ok) (subs (by decide +kernel) rl_X9_ok) fmz fmz fmz
  (pkE ki (by
    intro K e1 e2 e3 e4; subst e1; subst e2
    exact fmE (ceV 9 e3 e4 yl_X9_downTo ⟨by decide, ⟨_, _, rfl⟩, q2648, qs134, q2646⟩ rfl) (fmE (ceV 9 e3 e4 yl_X9_upTo ⟨by decide, ⟨_, _, rfl⟩, q2656, qs136, q2654⟩ rfl) (fmE (ceV 9 e3 e4 yl_X9_lay_2 ⟨by decide, ⟨_, _, rfl⟩, q2624, qs128, q2622⟩ rfl) (fmz))))) (fun z => Bool.noConfusion z) rfl (pkP ki (by
    intro K e1 e2 e3 e4; subst e1; subst e2
    exact fmz))
theorem r_X9_layRounded_0 {K : JC} {l : Launch} {G : JG} {Q : Int → MH → Prop} {E : Nat → Int → MH → Prop} {h0 : MH} (ki : KI K l G yX9_layRounded cX9_layRounded 7 none [] 6 201 700 Q E h0) (hG : gO G = true) {v1 v3 v5 : Int} {h : MH} (H :
    (∀ x6_1 : Int, x6_1 = (if (lc v1 (-2147483648)) < 0 then 1 else (if 0 < (lc v3 2147483647) then 1 else 0 : Int) : Int) →
    ((x6_1 = 0 →
      S_X9_downTo l G [(2009, 396), (0, (w32 v1))] h (fun z2 h3 =>
      ((x6_1 = 0 →
        S_X9_upTo l G [(2009, 396), (0, (w32 v3))] h3 (fun z4 h5 =>
        S_X9_lay_2 l G [(2009, 396), (0, z2), (0, z4), (0, v5), (1, 0)] h5 (fun _ h7 =>
        Q 0 h7) E) E) ∧
      (¬ x6_1 = 0 →
        S_X9_lay_2 l G [(2009, 396), (0, z2), (0, 2147483647), (0, v5), (1, 0)] h3 (fun _ h9 =>
        Q 0 h9) E))) E) ∧
    (¬ x6_1 = 0 →
      ((x6_1 = 0 →
        S_X9_upTo l G [(2009, 396), (0, (w32 v3))] h (fun z10 h11 =>
        S_X9_lay_2 l G [(2009, 396), (0, (-2147483648)), (0, z10), (0, v5), (1, 0)] h11 (fun _ h13 =>
        Q 0 h13) E) E) ∧
      (¬ x6_1 = 0 →
        S_X9_lay_2 l G [(2009, 396), (0, (-2147483648)), (0, 2147483647), (0, v5), (1, 0)] h (fun _ h15 =>
        Q 0 h15) E)))))) : JW K 0 [(2009, 396), (1, v1), (5000, 0), (1, v3), (5000, 0), (0, v5), (5000, 0)] [] h := by
  have e1 := ki.2.2.2.2.1
  have e2 := ki.2.2.2.2.2.1
  subst e1; subst e2
  exact run_ok (dia := [(5, 21)]) (cnr := []) (cuts := []) ki.1 (pk_X9_layRounded ki hG) ok_X9_layRounded (by decide) 23 true _ _ _ _ H
abbrev k_X9_downTo : List (Nat × List (Nat × Instr)) := [(19, [(0, .aload_n 0), (1, .getfield 33), (4, .aload_n 0), (5, .iload_n 1), (6, .invokevirtual 480), (9, .iaload), (10, .ireturn)])]
theorem ok_X9_downTo : CodeOK cX9_downTo k_X9_downTo := okw 0 (by decide +kernel) (okn)
abbrev p_X9_downTo (l : Launch) (G : JG) : JP := (true, [(33, 9, 17, 10000100, 63)], [], [], [], [], [], [(480, 1, [0, 2009], 0, S_X9_markFor l G)], false, 0, [])
theorem pk_X9_downTo {K : JC} {l : Launch} {G : JG} {Q : Int → MH → Prop} {E : Nat → Int → MH → Prop} {h0 : MH} (ki : KI K l G yX9_downTo cX9_downTo 2 (some .int) [] 5 174 0 Q E h0) (hG : gO G = true) : POK K RX9 (p_X9_downTo l G) :=
  POKi (y := yX9_downTo) ki hG (rfs rf_X9_ok (by decide +kernel)) fmz fmz fmz fmz fmz
  (pkE ki (by
    intro K e1 e2 e3 e4; subst e1; subst e2
    exact fmE (ceV 9 e3 e4 yl_X9_markFor ⟨by decide, ⟨_, _, rfl⟩, q2652, qs135, q2650⟩ rfl) (fmz))) (fun z => Bool.noConfusion z) rfl (pkP ki (by
    intro K e1 e2 e3 e4; subst e1; subst e2
    exact fmz))
theorem r_X9_downTo_0 {K : JC} {l : Launch} {G : JG} {Q : Int → MH → Prop} {E : Nat → Int → MH → Prop} {h0 : MH} (ki : KI K l G yX9_downTo cX9_downTo 2 (some .int) [] 5 174 0 Q E h0) (hG : gO G = true) {v1 : Int} {h : MH} (H :
    S_X9_markFor l G [(2009, 396), (0, v1)] h (fun z1 h2 =>
    (0 ≤ z1) ∧
    (z1 < 9000) ∧
    Q (hv h2 459 z1) h2) E) : JW K 0 [(2009, 396), (0, v1)] [] h := by
  have e1 := ki.2.2.2.2.1
  have e2 := ki.2.2.2.2.2.1
  subst e1; subst e2
  exact run_ok (dia := []) (cnr := []) (cuts := []) ki.1 (pk_X9_downTo ki hG) ok_X9_downTo (by decide) 8 true _ _ _ _ H
abbrev k_X9_markFor : List (Nat × List (Nat × Instr)) := [(35, [(0, .iconst 0), (1, .istore_n 2), (2, .aload_n 0), (3, .getfield 469), (6, .istore_n 3), (7, .iload_n 3), (8, .iload_n 2), (9, .isub), (10, .iconst 1), (11, .if_icmp .le 33), (14, .iload_n 2), (15, .iload_n 3), (16, .iadd), (17, .iconst 1), (18, .ishr), (19, .istore 4), (21, .aload_n 0), (22, .getfield 33), (25, .iload 4), (27, .iaload), (28, .iload_n 1), (29, .if_icmp .le 9), (32, .iload 4), (34, .istore_n 3)]),
  (54, [(35, .goto 6), (38, .iload 4), (40, .istore_n 2), (41, .goto (-34)), (44, .iload_n 2), (45, .ireturn)])]
theorem ok_X9_markFor : CodeOK cX9_markFor k_X9_markFor := okw 0 (by decide +kernel) (okw 35 (by decide +kernel) (okn))
abbrev p_X9_markFor (l : Launch) (G : JG) : JP := (true, [(33, 9, 17, 10000100, 63), (469, 9, 16, 0, 0)], [], [], [], [], [], [], false, 0, [])
theorem pk_X9_markFor {K : JC} {l : Launch} {G : JG} {Q : Int → MH → Prop} {E : Nat → Int → MH → Prop} {h0 : MH} (ki : KI K l G yX9_markFor cX9_markFor 5 (some .int) [] 4 150 0 Q E h0) (hG : gO G = true) : POK K RX9 (p_X9_markFor l G) :=
  POKi (y := yX9_markFor) ki hG (rfs rf_X9_ok (by decide +kernel)) fmz fmz fmz fmz fmz
  (pkE ki (by
    intro K e1 e2 e3 e4; subst e1; subst e2
    exact fmz)) (fun z => Bool.noConfusion z) rfl (pkP ki (by
    intro K e1 e2 e3 e4; subst e1; subst e2
    exact fmz))
theorem r_X9_markFor_0 {K : JC} {l : Launch} {G : JG} {Q : Int → MH → Prop} {E : Nat → Int → MH → Prop} {h0 : MH} (ki : KI K l G yX9_markFor cX9_markFor 5 (some .int) [] 4 150 0 Q E h0) (hG : gO G = true) {v1 : Int} {h : MH} (H :
    (∀ x2_1 : Int, x2_1 = 0 →
    (∀ x3_2 : Int, x3_2 = (hv h 396 16) →
    JW K 7 [(2009, 396), (0, v1), (0, x2_1), (0, x3_2), (5000, 0)] [] h))) : JW K 0 [(2009, 396), (0, v1), (5000, 0), (5000, 0), (5000, 0)] [] h := by
  have e1 := ki.2.2.2.2.1
  have e2 := ki.2.2.2.2.2.1
  subst e1; subst e2
  exact run_ok (dia := []) (cnr := []) (cuts := [(7, [2009, 0, 0, 0, 5000], [])]) ki.1 (pk_X9_markFor ki hG) ok_X9_markFor (by decide) 7 true _ _ _ _ H
theorem r_X9_markFor_7 {K : JC} {l : Launch} {G : JG} {Q : Int → MH → Prop} {E : Nat → Int → MH → Prop} {h0 : MH} (ki : KI K l G yX9_markFor cX9_markFor 5 (some .int) [] 4 150 0 Q E h0) (hG : gO G = true) {v1 v2 v3 : Int} {h : MH} (H :
    (((w32 (v3 - v2)) ≤ 1 →
      Q v2 h) ∧
    (1 < (w32 (v3 - v2)) →
      (∀ x4_1 : Int, x4_1 = (i_shr (w32 (v2 + v3)) 1) →
      (0 ≤ x4_1) ∧
      (x4_1 < 9000) ∧
      (((hv h 459 x4_1) ≤ v1 →
        (∀ x2_2 : Int, x2_2 = x4_1 →
        JW K 7 [(2009, 396), (0, v1), (0, x2_2), (0, v3), (5000, 0)] [] h)) ∧
      (v1 < (hv h 459 x4_1) →
        (∀ x3_3 : Int, x3_3 = x4_1 →
        JW K 7 [(2009, 396), (0, v1), (0, v2), (0, x3_3), (5000, 0)] [] h))))))) : JW K 7 [(2009, 396), (0, v1), (0, v2), (0, v3), (5000, 0)] [] h := by
  have e1 := ki.2.2.2.2.1
  have e2 := ki.2.2.2.2.2.1
  subst e1; subst e2
  exact run_ok (dia := []) (cnr := []) (cuts := [(7, [2009, 0, 0, 0, 5000], [])]) ki.1 (pk_X9_markFor ki hG) ok_X9_markFor (by decide) 23 true _ _ _ _ H
abbrev k_X9_upTo : List (Nat × List (Nat × Instr)) := [(42, [(0, .aload_n 0), (1, .iload_n 1), (2, .invokevirtual 480), (5, .istore_n 2), (6, .aload_n 0), (7, .getfield 33), (10, .iload_n 2), (11, .iaload), (12, .iload_n 1), (13, .if_icmp .ge 14), (16, .aload_n 0), (17, .getfield 33), (20, .iload_n 2), (21, .iconst 1), (22, .iadd), (23, .iaload), (24, .goto 9), (27, .aload_n 0), (28, .getfield 33), (31, .iload_n 2), (32, .iaload), (33, .ireturn)])]
theorem ok_X9_upTo : CodeOK cX9_upTo k_X9_upTo := okw 0 (by decide +kernel) (okn)
abbrev p_X9_upTo (l : Launch) (G : JG) : JP := (true, [(33, 9, 17, 10000100, 63)], [], [], [], [], [], [(480, 1, [0, 2009], 0, S_X9_markFor l G)], false, 0, [])
theorem pk_X9_upTo {K : JC} {l : Launch} {G : JG} {Q : Int → MH → Prop} {E : Nat → Int → MH → Prop} {h0 : MH} (ki : KI K l G yX9_upTo cX9_upTo 3 (some .int) [] 5 174 0 Q E h0) (hG : gO G = true) : POK K RX9 (p_X9_upTo l G) :=
  POKi (y := yX9_upTo) ki hG (rfs rf_X9_ok (by decide +kernel)) fmz fmz fmz fmz fmz
  (pkE ki (by
    intro K e1 e2 e3 e4; subst e1; subst e2
    exact fmE (ceV 9 e3 e4 yl_X9_markFor ⟨by decide, ⟨_, _, rfl⟩, q2652, qs135, q2650⟩ rfl) (fmz))) (fun z => Bool.noConfusion z) rfl (pkP ki (by
    intro K e1 e2 e3 e4; subst e1; subst e2
    exact fmz))
theorem r_X9_upTo_0 {K : JC} {l : Launch} {G : JG} {Q : Int → MH → Prop} {E : Nat → Int → MH → Prop} {h0 : MH} (ki : KI K l G yX9_upTo cX9_upTo 3 (some .int) [] 5 174 0 Q E h0) (hG : gO G = true) {v1 : Int} {h : MH} (H :
    S_X9_markFor l G [(2009, 396), (0, v1)] h (fun z1 h2 =>
    (∀ x2_3 : Int, x2_3 = z1 →
    (0 ≤ x2_3) ∧
    (x2_3 < 9000) ∧
    ((v1 ≤ (hv h2 459 x2_3) → (0 ≤ x2_3) ∧ x2_3 < 9000)) ∧
    (((hv h2 459 x2_3) < v1 → (0 ≤ (w32 (x2_3 + 1))) ∧ (w32 (x2_3 + 1)) < 9000)) ∧
    Q (if (hv h2 459 x2_3) < v1 then (hv h2 459 (w32 (x2_3 + 1))) else (hv h2 459 x2_3) : Int) h2)) E) : JW K 0 [(2009, 396), (0, v1), (5000, 0)] [] h := by
  have e1 := ki.2.2.2.2.1
  have e2 := ki.2.2.2.2.2.1
  subst e1; subst e2
  exact run_ok (dia := [(13, 33)]) (cnr := []) (cuts := []) ki.1 (pk_X9_upTo ki hG) ok_X9_upTo (by decide) 12 true _ _ _ _ H
