/-! by gen/mkall.py -/
set_option maxRecDepth 100000
/-! X0_type -/
abbrev S_X0_type (l : Launch) (G : JG) : MS := Sem l G yX0_type (wsW_ yX0_type cX0_type 6 (some .int) [(0, 11, 14, 13), (0, 11, 18, 15)]) 13 363 0
theorem yl_X0_type : YLk yX0_type (wsW_ yX0_type cX0_type 6 (some .int) [(0, 11, 14, 13), (0, 11, 18, 15)]) 6 4 := ⟨lw_methW q1178, q189, Or.inr ⟨_, _, _, q1178⟩, by decide, by decide +kernel⟩
/-! X0_root -/
abbrev S_X0_root (l : Launch) (G : JG) : MS := Sem l G yX0_root (wsW_ yX0_root cX0_root 4 (some .int) [(0, 9, 12, 21), (0, 9, 15, 15)]) 13 360 0
theorem yl_X0_root : YLk yX0_root (wsW_ yX0_root cX0_root 4 (some .int) [(0, 9, 12, 21), (0, 9, 15, 15)]) 4 3 := ⟨lw_methW q1230, q189, Or.inr ⟨_, _, _, q1230⟩, by decide, by decide +kernel⟩
/-! X0_method -/
abbrev S_X0_method (l : Launch) (G : JG) : MS := Sem l G yX0_method (wsW_ yX0_method cX0_method 5 (some .int) [(0, 10, 13, 15), (0, 10, 17, 21)]) 17 467 0
theorem yl_X0_method : YLk yX0_method (wsW_ yX0_method cX0_method 5 (some .int) [(0, 10, 13, 15), (0, 10, 17, 21)]) 5 4 := ⟨lw_methW q1291, q189, Or.inr ⟨_, _, _, q1291⟩, by decide, by decide +kernel⟩
/-! X0_classOf -/
abbrev S_X0_classOf (l : Launch) (G : JG) : MS := Sem l G yX0_classOf (wsW_ yX0_classOf cX0_classOf 4 (some .int) [(0, 9, 12, 15), (0, 9, 15, 21)]) 13 360 0
theorem yl_X0_classOf : YLk yX0_classOf (wsW_ yX0_classOf cX0_classOf 4 (some .int) [(0, 9, 12, 15), (0, 9, 15, 21)]) 4 3 := ⟨lw_methW q1659, q189, Or.inr ⟨_, _, _, q1659⟩, by decide, by decide +kernel⟩
/-! X0_depth -/
abbrev S_X0_depth (l : Launch) (G : JG) : MS := Sem l G yX0_depth (wsW_ yX0_depth cX0_depth 5 (some .int) [(0, 10, 13, 15), (0, 10, 17, 21)]) 18 489 0
theorem yl_X0_depth : YLk yX0_depth (wsW_ yX0_depth cX0_depth 5 (some .int) [(0, 10, 13, 15), (0, 10, 17, 21)]) 5 4 := ⟨lw_methW q1670, q189, Or.inr ⟨_, _, _, q1670⟩, by decide, by decide +kernel⟩
/-! X0_reach -/
abbrev S_X0_reach (l : Launch) (G : JG) : MS := Sem l G yX0_reach (wsW_ yX0_reach cX0_reach 5 (some .int) [(0, 17, 20, 15), (0, 17, 24, 21)]) 18 488 0
theorem yl_X0_reach : YLk yX0_reach (wsW_ yX0_reach cX0_reach 5 (some .int) [(0, 17, 20, 15), (0, 17, 24, 21)]) 5 4 := ⟨lw_methW q1681, q189, Or.inr ⟨_, _, _, q1681⟩, by decide, by decide +kernel⟩
/-! X0_value -/
abbrev S_X0_value (l : Launch) (G : JG) : MS := Sem l G yX0_value (wsW_ yX0_value cX0_value 7 (some .int) [(0, 13, 16, 15), (0, 13, 20, 21)]) 18 492 0
theorem yl_X0_value : YLk yX0_value (wsW_ yX0_value cX0_value 7 (some .int) [(0, 13, 16, 15), (0, 13, 20, 21)]) 7 6 := ⟨lw_methW q1688, q189, Or.inr ⟨_, _, _, q1688⟩, by decide, by decide +kernel⟩
/-! X0_locks -/
abbrev S_X0_locks (l : Launch) (G : JG) : MS := Sem l G yX0_locks (wsW_ yX0_locks cX0_locks 6 (some .int) [(0, 12, 15, 15), (0, 12, 19, 21)]) 18 490 0
theorem yl_X0_locks : YLk yX0_locks (wsW_ yX0_locks cX0_locks 6 (some .int) [(0, 12, 15, 15), (0, 12, 19, 21)]) 6 5 := ⟨lw_methW q1699, q189, Or.inr ⟨_, _, _, q1699⟩, by decide, by decide +kernel⟩
/-! X0_throwsAt -/
abbrev S_X0_throwsAt (l : Launch) (G : JG) : MS := Sem l G yX0_throwsAt (wsW_ yX0_throwsAt cX0_throwsAt 5 (some .int) [(0, 9, 12, 15), (0, 9, 16, 21)]) 18 488 0
theorem yl_X0_throwsAt : YLk yX0_throwsAt (wsW_ yX0_throwsAt cX0_throwsAt 5 (some .int) [(0, 9, 12, 15), (0, 9, 16, 21)]) 5 4 := ⟨lw_methW q1706, q189, Or.inr ⟨_, _, _, q1706⟩, by decide, by decide +kernel⟩
/-! X0_calls -/
abbrev S_X0_calls (l : Launch) (G : JG) : MS := Sem l G yX0_calls (wsW_ yX0_calls cX0_calls 5 (some .int) [(0, 9, 12, 15), (0, 9, 16, 21)]) 18 488 0
theorem yl_X0_calls : YLk yX0_calls (wsW_ yX0_calls cX0_calls 5 (some .int) [(0, 9, 12, 15), (0, 9, 16, 21)]) 5 4 := ⟨lw_methW q1713, q189, Or.inr ⟨_, _, _, q1713⟩, by decide, by decide +kernel⟩
/-! X0_outcome -/
abbrev S_X0_outcome (l : Launch) (G : JG) : MS := Sem l G yX0_outcome (wsW_ yX0_outcome cX0_outcome 5 (some .int) [(0, 9, 12, 15), (0, 9, 16, 21)]) 17 467 0
theorem yl_X0_outcome : YLk yX0_outcome (wsW_ yX0_outcome cX0_outcome 5 (some .int) [(0, 9, 12, 15), (0, 9, 16, 21)]) 5 4 := ⟨lw_methW q1720, q189, Or.inr ⟨_, _, _, q1720⟩, by decide, by decide +kernel⟩
/-! X0_held -/
abbrev S_X0_held (l : Launch) (G : JG) : MS := Sem l G yX0_held (wsW_ yX0_held cX0_held 6 (some .int) [(0, 11, 14, 15), (0, 11, 18, 21)]) 17 468 0
theorem yl_X0_held : YLk yX0_held (wsW_ yX0_held cX0_held 6 (some .int) [(0, 11, 14, 15), (0, 11, 18, 21)]) 6 5 := ⟨lw_methW q1728, q189, Or.inr ⟨_, _, _, q1728⟩, by decide, by decide +kernel⟩
/-! X0_statics -/
abbrev S_X0_statics (l : Launch) (G : JG) : MS := Sem l G yX0_statics (wsW_ yX0_statics cX0_statics 5 (some .int) [(0, 9, 12, 15), (0, 9, 16, 21)]) 17 466 0
theorem yl_X0_statics : YLk yX0_statics (wsW_ yX0_statics cX0_statics 5 (some .int) [(0, 9, 12, 15), (0, 9, 16, 21)]) 5 4 := ⟨lw_methW q1744, q189, Or.inr ⟨_, _, _, q1744⟩, by decide, by decide +kernel⟩
/-! X0_sink -/
abbrev S_X0_sink (l : Launch) (G : JG) : MS := Sem l G yX0_sink (wsW_ yX0_sink cX0_sink 5 (some .int) [(0, 9, 12, 15), (0, 9, 16, 21)]) 17 467 0
theorem yl_X0_sink : YLk yX0_sink (wsW_ yX0_sink cX0_sink 5 (some .int) [(0, 9, 12, 15), (0, 9, 16, 21)]) 5 4 := ⟨lw_methW q1755, q189, Or.inr ⟨_, _, _, q1755⟩, by decide, by decide +kernel⟩
/-! X0_live -/
abbrev S_X0_live (l : Launch) (G : JG) : MS := Sem l G yX0_live (wsW_ yX0_live cX0_live 5 (some .int) [(0, 10, 13, 15), (0, 10, 17, 21)]) 18 488 0
theorem yl_X0_live : YLk yX0_live (wsW_ yX0_live cX0_live 5 (some .int) [(0, 10, 13, 15), (0, 10, 17, 21)]) 5 4 := ⟨lw_methW q1762, q189, Or.inr ⟨_, _, _, q1762⟩, by decide, by decide +kernel⟩
/-! X0_idle -/
abbrev S_X0_idle (l : Launch) (G : JG) : MS := Sem l G yX0_idle (wsW_ yX0_idle cX0_idle 4 (some .int) [(0, 9, 12, 15), (0, 9, 15, 21)]) 17 465 0
theorem yl_X0_idle : YLk yX0_idle (wsW_ yX0_idle cX0_idle 4 (some .int) [(0, 9, 12, 15), (0, 9, 15, 21)]) 4 3 := ⟨lw_methW q1769, q189, Or.inr ⟨_, _, _, q1769⟩, by decide, by decide +kernel⟩
/-! X0_threads -/
abbrev S_X0_threads (l : Launch) (G : JG) : MS := Sem l G yX0_threads (wsW_ yX0_threads cX0_threads 4 (some .int) [(0, 9, 12, 15), (0, 9, 15, 21)]) 17 465 0
theorem yl_X0_threads : YLk yX0_threads (wsW_ yX0_threads cX0_threads 4 (some .int) [(0, 9, 12, 15), (0, 9, 15, 21)]) 4 3 := ⟨lw_methW q1776, q189, Or.inr ⟨_, _, _, q1776⟩, by decide, by decide +kernel⟩
/-! X0_race -/
abbrev S_X0_race (l : Launch) (G : JG) : MS := Sem l G yX0_race (wsW_ yX0_race cX0_race 5 (some .int) [(0, 10, 13, 15), (0, 10, 17, 21)]) 17 469 0
theorem yl_X0_race : YLk yX0_race (wsW_ yX0_race cX0_race 5 (some .int) [(0, 10, 13, 15), (0, 10, 17, 21)]) 5 4 := ⟨lw_methW q1806, q189, Or.inr ⟨_, _, _, q1806⟩, by decide, by decide +kernel⟩
/-! X0_runs -/
abbrev S_X0_runs (l : Launch) (G : JG) : MS := Sem l G yX0_runs (wsW_ yX0_runs cX0_runs 4 (some .int) [(0, 8, 11, 15), (0, 8, 14, 21)]) 17 465 0
theorem yl_X0_runs : YLk yX0_runs (wsW_ yX0_runs cX0_runs 4 (some .int) [(0, 8, 11, 15), (0, 8, 14, 21)]) 4 3 := ⟨lw_methW q1813, q189, Or.inr ⟨_, _, _, q1813⟩, by decide, by decide +kernel⟩
/-! X0_input -/
abbrev S_X0_input (l : Launch) (G : JG) : MS := Sem l G yX0_input (wsW_ yX0_input cX0_input 4 (some .int) [(0, 9, 12, 15)]) 13 360 0
theorem yl_X0_input : YLk yX0_input (wsW_ yX0_input cX0_input 4 (some .int) [(0, 9, 12, 15)]) 4 3 := ⟨lw_methW q1820, q189, Or.inr ⟨_, _, _, q1820⟩, by decide, by decide +kernel⟩
/-! X0_walk -/
abbrev S_X0_walk (l : Launch) (G : JG) : MS := Sem l G yX0_walk (wsW_ yX0_walk cX0_walk 6 (some .int) [(0, 12, 15, 15), (0, 12, 19, 21), (0, 12, 23, 13)]) 13 386 0
theorem yl_X0_walk : YLk yX0_walk (wsW_ yX0_walk cX0_walk 6 (some .int) [(0, 12, 15, 15), (0, 12, 19, 21), (0, 12, 23, 13)]) 6 5 := ⟨lw_methW q1831, q189, Or.inr ⟨_, _, _, q1831⟩, by decide, by decide +kernel⟩
/-! X0_walked -/
abbrev S_X0_walked (l : Launch) (G : JG) : MS := Sem l G yX0_walked (wsW_ yX0_walked cX0_walked 4 (some .int) [(0, 9, 12, 21)]) 13 360 0
theorem yl_X0_walked : YLk yX0_walked (wsW_ yX0_walked cX0_walked 4 (some .int) [(0, 9, 12, 21)]) 4 3 := ⟨lw_methW q1960, q189, Or.inr ⟨_, _, _, q1960⟩, by decide, by decide +kernel⟩
/-! X0_output -/
abbrev S_X0_output (l : Launch) (G : JG) : MS := Sem l G yX0_output (wsW_ yX0_output cX0_output 5 (some .int) [(0, 10, 13, 21)]) 13 361 0
theorem yl_X0_output : YLk yX0_output (wsW_ yX0_output cX0_output 5 (some .int) [(0, 10, 13, 21)]) 5 4 := ⟨lw_methW q1971, q189, Or.inr ⟨_, _, _, q1971⟩, by decide, by decide +kernel⟩
/-! X0_met -/
abbrev S_X0_met (l : Launch) (G : JG) : MS := Sem l G yX0_met (wsW_ yX0_met cX0_met 5 (some .int) [(0, 9, 12, 15), (0, 9, 16, 21)]) 18 488 0
theorem yl_X0_met : YLk yX0_met (wsW_ yX0_met cX0_met 5 (some .int) [(0, 9, 12, 15), (0, 9, 16, 21)]) 5 4 := ⟨lw_methW q1979, q189, Or.inr ⟨_, _, _, q1979⟩, by decide, by decide +kernel⟩
/-! X1_init -/
abbrev S_X1_init (l : Launch) (G : JG) : MS := Sem l G yX1_init (ws_ yX1_init cX1_init 1 none) 8 232 700
theorem yl_X1_init : YLk yX1_init (ws_ yX1_init cX1_init 1 none) 1 0 := ⟨lw_meth q223, q190, Or.inl ⟨_, _, q223⟩, by decide, by decide +kernel⟩
theorem s_X1_init {l : Launch} {G : JG} {Q : Int → MH → Prop} {E : Nat → Int → MH → Prop} {h : MH} {as : List LV} (hn : Nat.ble (enl as).length 1 = true) (body : ∀ K : JC, KI K l G yX1_init cX1_init 1 none [] 8 232 700 Q E h → JW K 0 (lv0 as 1) [] h) : S_X1_init l G as h Q E :=
  Sem_of (by decide +kernel) (Nat.le_of_ble_eq_true hn) body
/-! X1_file -/
abbrev S_X1_file (l : Launch) (G : JG) : MS := Sem l G yX1_file (wsW_ yX1_file cX1_file 4 (some .int) [(10, 30, 33, 78)]) 19 511 0
theorem yl_X1_file : YLk yX1_file (wsW_ yX1_file cX1_file 4 (some .int) [(10, 30, 33, 78)]) 4 0 := ⟨lw_methW q680, q190, Or.inr ⟨_, _, _, q680⟩, by decide, by decide +kernel⟩
/-! X1_told -/
abbrev S_X1_told (l : Launch) (G : JG) : MS := Sem l G yX1_told (ws_ yX1_told cX1_told 2 (some .int)) 5 175 0
theorem yl_X1_told : YLk yX1_told (ws_ yX1_told cX1_told 2 (some .int)) 2 1 := ⟨lw_meth q1173, q190, Or.inl ⟨_, _, q1173⟩, by decide, by decide +kernel⟩
theorem s_X1_told {l : Launch} {G : JG} {Q : Int → MH → Prop} {E : Nat → Int → MH → Prop} {h : MH} {as : List LV} (hn : Nat.ble (enl as).length 2 = true) (body : ∀ K : JC, KI K l G yX1_told cX1_told 2 (some .int) [] 5 175 0 Q E h → JW K 0 (lv0 as 2) [] h) : S_X1_told l G as h Q E :=
  Sem_of (by decide +kernel) (Nat.le_of_ble_eq_true hn) body
/-! X1_type -/
abbrev S_X1_type (l : Launch) (G : JG) : MS := Sem l G yX1_type (ws_ yX1_type cX1_type 5 (some .int)) 12 339 0
theorem yl_X1_type : YLk yX1_type (ws_ yX1_type cX1_type 5 (some .int)) 5 2 := ⟨lw_meth q1184, q190, Or.inl ⟨_, _, q1184⟩, by decide, by decide +kernel⟩
theorem s_X1_type {l : Launch} {G : JG} {Q : Int → MH → Prop} {E : Nat → Int → MH → Prop} {h : MH} {as : List LV} (hn : Nat.ble (enl as).length 5 = true) (body : ∀ K : JC, KI K l G yX1_type cX1_type 5 (some .int) [] 12 339 0 Q E h → JW K 0 (lv0 as 5) [] h) : S_X1_type l G as h Q E :=
  Sem_of (by decide +kernel) (Nat.le_of_ble_eq_true hn) body
/-! X1_want -/
abbrev S_X1_want (l : Launch) (G : JG) : MS := Sem l G yX1_want (ws_ yX1_want cX1_want 1 none) 11 319 700
theorem yl_X1_want : YLk yX1_want (ws_ yX1_want cX1_want 1 none) 1 1 := ⟨lw_meth q1188, q190, Or.inl ⟨_, _, q1188⟩, by decide, by decide +kernel⟩
theorem s_X1_want {l : Launch} {G : JG} {Q : Int → MH → Prop} {E : Nat → Int → MH → Prop} {h : MH} {as : List LV} (hn : Nat.ble (enl as).length 1 = true) (body : ∀ K : JC, KI K l G yX1_want cX1_want 1 none [] 11 319 700 Q E h → JW K 0 (lv0 as 1) [] h) : S_X1_want l G as h Q E :=
  Sem_of (by decide +kernel) (Nat.le_of_ble_eq_true hn) body
/-! X1_must -/
abbrev S_X1_must (l : Launch) (G : JG) : MS := Sem l G yX1_must (ws_ yX1_must cX1_must 1 none) 11 319 700
theorem yl_X1_must : YLk yX1_must (ws_ yX1_must cX1_must 1 none) 1 1 := ⟨lw_meth q1212, q190, Or.inl ⟨_, _, q1212⟩, by decide, by decide +kernel⟩
theorem s_X1_must {l : Launch} {G : JG} {Q : Int → MH → Prop} {E : Nat → Int → MH → Prop} {h : MH} {as : List LV} (hn : Nat.ble (enl as).length 1 = true) (body : ∀ K : JC, KI K l G yX1_must cX1_must 1 none [] 11 319 700 Q E h → JW K 0 (lv0 as 1) [] h) : S_X1_must l G as h Q E :=
  Sem_of (by decide +kernel) (Nat.le_of_ble_eq_true hn) body
/-! X1_root -/
abbrev S_X1_root (l : Launch) (G : JG) : MS := Sem l G yX1_root (ws_ yX1_root cX1_root 2 (some .int)) 12 339 0
theorem yl_X1_root : YLk yX1_root (ws_ yX1_root cX1_root 2 (some .int)) 2 1 := ⟨lw_meth q1266, q190, Or.inl ⟨_, _, q1266⟩, by decide, by decide +kernel⟩
theorem s_X1_root {l : Launch} {G : JG} {Q : Int → MH → Prop} {E : Nat → Int → MH → Prop} {h : MH} {as : List LV} (hn : Nat.ble (enl as).length 2 = true) (body : ∀ K : JC, KI K l G yX1_root cX1_root 2 (some .int) [] 12 339 0 Q E h → JW K 0 (lv0 as 2) [] h) : S_X1_root l G as h Q E :=
  Sem_of (by decide +kernel) (Nat.le_of_ble_eq_true hn) body
/-! X1_hasMethod -/
abbrev S_X1_hasMethod (l : Launch) (G : JG) : MS := Sem l G yX1_hasMethod (ws_ yX1_hasMethod cX1_hasMethod 2 (some .boolean)) 5 175 2
theorem yl_X1_hasMethod : YLk yX1_hasMethod (ws_ yX1_hasMethod cX1_hasMethod 2 (some .boolean)) 2 1 := ⟨lw_meth q1270, q190, Or.inl ⟨_, _, q1270⟩, by decide, by decide +kernel⟩
theorem s_X1_hasMethod {l : Launch} {G : JG} {Q : Int → MH → Prop} {E : Nat → Int → MH → Prop} {h : MH} {as : List LV} (hn : Nat.ble (enl as).length 2 = true) (body : ∀ K : JC, KI K l G yX1_hasMethod cX1_hasMethod 2 (some .boolean) [] 5 175 2 Q E h → JW K 0 (lv0 as 2) [] h) : S_X1_hasMethod l G as h Q E :=
  Sem_of (by decide +kernel) (Nat.le_of_ble_eq_true hn) body
/-! X1_index -/
abbrev S_X1_index (l : Launch) (G : JG) : MS := Sem l G yX1_index (ws_ yX1_index cX1_index 1 none) 11 319 700
theorem yl_X1_index : YLk yX1_index (ws_ yX1_index cX1_index 1 none) 1 1 := ⟨lw_meth q1273, q190, Or.inl ⟨_, _, q1273⟩, by decide, by decide +kernel⟩
theorem s_X1_index {l : Launch} {G : JG} {Q : Int → MH → Prop} {E : Nat → Int → MH → Prop} {h : MH} {as : List LV} (hn : Nat.ble (enl as).length 1 = true) (body : ∀ K : JC, KI K l G yX1_index cX1_index 1 none [] 11 319 700 Q E h → JW K 0 (lv0 as 1) [] h) : S_X1_index l G as h Q E :=
  Sem_of (by decide +kernel) (Nat.le_of_ble_eq_true hn) body
/-! X1_method -/
abbrev S_X1_method (l : Launch) (G : JG) : MS := Sem l G yX1_method (ws_ yX1_method cX1_method 4 (some .int)) 16 444 0
theorem yl_X1_method : YLk yX1_method (ws_ yX1_method cX1_method 4 (some .int)) 4 2 := ⟨lw_meth q1295, q190, Or.inl ⟨_, _, q1295⟩, by decide, by decide +kernel⟩
theorem s_X1_method {l : Launch} {G : JG} {Q : Int → MH → Prop} {E : Nat → Int → MH → Prop} {h : MH} {as : List LV} (hn : Nat.ble (enl as).length 4 = true) (body : ∀ K : JC, KI K l G yX1_method cX1_method 4 (some .int) [] 16 444 0 Q E h → JW K 0 (lv0 as 4) [] h) : S_X1_method l G as h Q E :=
  Sem_of (by decide +kernel) (Nat.le_of_ble_eq_true hn) body
/-! X1_know -/
abbrev S_X1_know (l : Launch) (G : JG) : MS := Sem l G yX1_know (ws_ yX1_know cX1_know 1 none) 15 424 700
theorem yl_X1_know : YLk yX1_know (ws_ yX1_know cX1_know 1 none) 1 0 := ⟨lw_meth q1301, q190, Or.inl ⟨_, _, q1301⟩, by decide, by decide +kernel⟩
theorem s_X1_know {l : Launch} {G : JG} {Q : Int → MH → Prop} {E : Nat → Int → MH → Prop} {h : MH} {as : List LV} (hn : Nat.ble (enl as).length 1 = true) (body : ∀ K : JC, KI K l G yX1_know cX1_know 1 none [] 15 424 700 Q E h → JW K 0 (lv0 as 1) [] h) : S_X1_know l G as h Q E :=
  Sem_of (by decide +kernel) (Nat.le_of_ble_eq_true hn) body
/-! X1_classOf -/
abbrev S_X1_classOf (l : Launch) (G : JG) : MS := Sem l G yX1_classOf (ws_ yX1_classOf cX1_classOf 2 (some .int)) 12 339 0
theorem yl_X1_classOf : YLk yX1_classOf (ws_ yX1_classOf cX1_classOf 2 (some .int)) 2 1 := ⟨lw_meth q1663, q190, Or.inl ⟨_, _, q1663⟩, by decide, by decide +kernel⟩
theorem s_X1_classOf {l : Launch} {G : JG} {Q : Int → MH → Prop} {E : Nat → Int → MH → Prop} {h : MH} {as : List LV} (hn : Nat.ble (enl as).length 2 = true) (body : ∀ K : JC, KI K l G yX1_classOf cX1_classOf 2 (some .int) [] 12 339 0 Q E h → JW K 0 (lv0 as 2) [] h) : S_X1_classOf l G as h Q E :=
  Sem_of (by decide +kernel) (Nat.le_of_ble_eq_true hn) body
/-! X1_isSite -/
abbrev S_X1_isSite (l : Launch) (G : JG) : MS := Sem l G yX1_isSite (ws_ yX1_isSite cX1_isSite 2 (some .boolean)) 5 175 2
theorem yl_X1_isSite : YLk yX1_isSite (ws_ yX1_isSite cX1_isSite 2 (some .boolean)) 2 1 := ⟨lw_meth q1667, q190, Or.inl ⟨_, _, q1667⟩, by decide, by decide +kernel⟩
theorem s_X1_isSite {l : Launch} {G : JG} {Q : Int → MH → Prop} {E : Nat → Int → MH → Prop} {h : MH} {as : List LV} (hn : Nat.ble (enl as).length 2 = true) (body : ∀ K : JC, KI K l G yX1_isSite cX1_isSite 2 (some .boolean) [] 5 175 2 Q E h → JW K 0 (lv0 as 2) [] h) : S_X1_isSite l G as h Q E :=
  Sem_of (by decide +kernel) (Nat.le_of_ble_eq_true hn) body
/-! X1_depth -/
abbrev S_X1_depth (l : Launch) (G : JG) : MS := Sem l G yX1_depth (ws_ yX1_depth cX1_depth 4 (some .int)) 17 466 0
theorem yl_X1_depth : YLk yX1_depth (ws_ yX1_depth cX1_depth 4 (some .int)) 4 2 := ⟨lw_meth q1674, q190, Or.inl ⟨_, _, q1674⟩, by decide, by decide +kernel⟩
theorem s_X1_depth {l : Launch} {G : JG} {Q : Int → MH → Prop} {E : Nat → Int → MH → Prop} {h : MH} {as : List LV} (hn : Nat.ble (enl as).length 4 = true) (body : ∀ K : JC, KI K l G yX1_depth cX1_depth 4 (some .int) [] 17 466 0 Q E h → JW K 0 (lv0 as 4) [] h) : S_X1_depth l G as h Q E :=
  Sem_of (by decide +kernel) (Nat.le_of_ble_eq_true hn) body
/-! X1_placeOf -/
abbrev S_X1_placeOf (l : Launch) (G : JG) : MS := Sem l G yX1_placeOf (ws_ yX1_placeOf cX1_placeOf 3 (some .int)) 16 444 0
theorem yl_X1_placeOf : YLk yX1_placeOf (ws_ yX1_placeOf cX1_placeOf 3 (some .int)) 3 2 := ⟨lw_meth q1678, q190, Or.inl ⟨_, _, q1678⟩, by decide, by decide +kernel⟩
theorem s_X1_placeOf {l : Launch} {G : JG} {Q : Int → MH → Prop} {E : Nat → Int → MH → Prop} {h : MH} {as : List LV} (hn : Nat.ble (enl as).length 3 = true) (body : ∀ K : JC, KI K l G yX1_placeOf cX1_placeOf 3 (some .int) [] 16 444 0 Q E h → JW K 0 (lv0 as 3) [] h) : S_X1_placeOf l G as h Q E :=
  Sem_of (by decide +kernel) (Nat.le_of_ble_eq_true hn) body
/-! X1_reach -/
abbrev S_X1_reach (l : Launch) (G : JG) : MS := Sem l G yX1_reach (ws_ yX1_reach cX1_reach 3 (some .boolean)) 17 466 2
theorem yl_X1_reach : YLk yX1_reach (ws_ yX1_reach cX1_reach 3 (some .boolean)) 3 2 := ⟨lw_meth q1685, q190, Or.inl ⟨_, _, q1685⟩, by decide, by decide +kernel⟩
theorem s_X1_reach {l : Launch} {G : JG} {Q : Int → MH → Prop} {E : Nat → Int → MH → Prop} {h : MH} {as : List LV} (hn : Nat.ble (enl as).length 3 = true) (body : ∀ K : JC, KI K l G yX1_reach cX1_reach 3 (some .boolean) [] 17 466 2 Q E h → JW K 0 (lv0 as 3) [] h) : S_X1_reach l G as h Q E :=
  Sem_of (by decide +kernel) (Nat.le_of_ble_eq_true hn) body
/-! X1_value -/
abbrev S_X1_value (l : Launch) (G : JG) : MS := Sem l G yX1_value (ws_ yX1_value cX1_value 7 (some .long)) 17 466 1
theorem yl_X1_value : YLk yX1_value (ws_ yX1_value cX1_value 7 (some .long)) 7 4 := ⟨lw_meth q1692, q190, Or.inl ⟨_, _, q1692⟩, by decide, by decide +kernel⟩
theorem s_X1_value {l : Launch} {G : JG} {Q : Int → MH → Prop} {E : Nat → Int → MH → Prop} {h : MH} {as : List LV} (hn : Nat.ble (enl as).length 7 = true) (body : ∀ K : JC, KI K l G yX1_value cX1_value 7 (some .long) [] 17 466 1 Q E h → JW K 0 (lv0 as 7) [] h) : S_X1_value l G as h Q E :=
  Sem_of (by decide +kernel) (Nat.le_of_ble_eq_true hn) body
/-! X1_about -/
abbrev S_X1_about (l : Launch) (G : JG) : MS := Sem l G yX1_about (ws_ yX1_about cX1_about 2 (some .long)) 4 150 1
theorem yl_X1_about : YLk yX1_about (ws_ yX1_about cX1_about 2 (some .long)) 2 2 := ⟨lw_meth q1696, q190, Or.inl ⟨_, _, q1696⟩, by decide, by decide +kernel⟩
theorem s_X1_about {l : Launch} {G : JG} {Q : Int → MH → Prop} {E : Nat → Int → MH → Prop} {h : MH} {as : List LV} (hn : Nat.ble (enl as).length 2 = true) (body : ∀ K : JC, KI K l G yX1_about cX1_about 2 (some .long) [] 4 150 1 Q E h → JW K 0 (lv0 as 2) [] h) : S_X1_about l G as h Q E :=
  Sem_of (by decide +kernel) (Nat.le_of_ble_eq_true hn) body
/-! X1_locks -/
abbrev S_X1_locks (l : Launch) (G : JG) : MS := Sem l G yX1_locks (ws_ yX1_locks cX1_locks 5 (some .int)) 17 466 0
theorem yl_X1_locks : YLk yX1_locks (ws_ yX1_locks cX1_locks 5 (some .int)) 5 3 := ⟨lw_meth q1703, q190, Or.inl ⟨_, _, q1703⟩, by decide, by decide +kernel⟩
theorem s_X1_locks {l : Launch} {G : JG} {Q : Int → MH → Prop} {E : Nat → Int → MH → Prop} {h : MH} {as : List LV} (hn : Nat.ble (enl as).length 5 = true) (body : ∀ K : JC, KI K l G yX1_locks cX1_locks 5 (some .int) [] 17 466 0 Q E h → JW K 0 (lv0 as 5) [] h) : S_X1_locks l G as h Q E :=
  Sem_of (by decide +kernel) (Nat.le_of_ble_eq_true hn) body
/-! X1_throwsAt -/
abbrev S_X1_throwsAt (l : Launch) (G : JG) : MS := Sem l G yX1_throwsAt (ws_ yX1_throwsAt cX1_throwsAt 3 (some .long)) 17 466 1
theorem yl_X1_throwsAt : YLk yX1_throwsAt (ws_ yX1_throwsAt cX1_throwsAt 3 (some .long)) 3 2 := ⟨lw_meth q1710, q190, Or.inl ⟨_, _, q1710⟩, by decide, by decide +kernel⟩
theorem s_X1_throwsAt {l : Launch} {G : JG} {Q : Int → MH → Prop} {E : Nat → Int → MH → Prop} {h : MH} {as : List LV} (hn : Nat.ble (enl as).length 3 = true) (body : ∀ K : JC, KI K l G yX1_throwsAt cX1_throwsAt 3 (some .long) [] 17 466 1 Q E h → JW K 0 (lv0 as 3) [] h) : S_X1_throwsAt l G as h Q E :=
  Sem_of (by decide +kernel) (Nat.le_of_ble_eq_true hn) body
/-! X1_calls -/
abbrev S_X1_calls (l : Launch) (G : JG) : MS := Sem l G yX1_calls (ws_ yX1_calls cX1_calls 3 (some .long)) 17 466 1
theorem yl_X1_calls : YLk yX1_calls (ws_ yX1_calls cX1_calls 3 (some .long)) 3 2 := ⟨lw_meth q1717, q190, Or.inl ⟨_, _, q1717⟩, by decide, by decide +kernel⟩
theorem s_X1_calls {l : Launch} {G : JG} {Q : Int → MH → Prop} {E : Nat → Int → MH → Prop} {h : MH} {as : List LV} (hn : Nat.ble (enl as).length 3 = true) (body : ∀ K : JC, KI K l G yX1_calls cX1_calls 3 (some .long) [] 17 466 1 Q E h → JW K 0 (lv0 as 3) [] h) : S_X1_calls l G as h Q E :=
  Sem_of (by decide +kernel) (Nat.le_of_ble_eq_true hn) body
/-! X1_outcome -/
abbrev S_X1_outcome (l : Launch) (G : JG) : MS := Sem l G yX1_outcome (ws_ yX1_outcome cX1_outcome 4 (some .long)) 16 444 1
theorem yl_X1_outcome : YLk yX1_outcome (ws_ yX1_outcome cX1_outcome 4 (some .long)) 4 2 := ⟨lw_meth q1724, q190, Or.inl ⟨_, _, q1724⟩, by decide, by decide +kernel⟩
theorem s_X1_outcome {l : Launch} {G : JG} {Q : Int → MH → Prop} {E : Nat → Int → MH → Prop} {h : MH} {as : List LV} (hn : Nat.ble (enl as).length 4 = true) (body : ∀ K : JC, KI K l G yX1_outcome cX1_outcome 4 (some .long) [] 16 444 1 Q E h → JW K 0 (lv0 as 4) [] h) : S_X1_outcome l G as h Q E :=
  Sem_of (by decide +kernel) (Nat.le_of_ble_eq_true hn) body
/-! X1_held -/
abbrev S_X1_held (l : Launch) (G : JG) : MS := Sem l G yX1_held (ws_ yX1_held cX1_held 5 (some .long)) 16 444 1
theorem yl_X1_held : YLk yX1_held (ws_ yX1_held cX1_held 5 (some .long)) 5 3 := ⟨lw_meth q1732, q190, Or.inl ⟨_, _, q1732⟩, by decide, by decide +kernel⟩
theorem s_X1_held {l : Launch} {G : JG} {Q : Int → MH → Prop} {E : Nat → Int → MH → Prop} {h : MH} {as : List LV} (hn : Nat.ble (enl as).length 5 = true) (body : ∀ K : JC, KI K l G yX1_held cX1_held 5 (some .long) [] 16 444 1 Q E h → JW K 0 (lv0 as 5) [] h) : S_X1_held l G as h Q E :=
  Sem_of (by decide +kernel) (Nat.le_of_ble_eq_true hn) body
/-! X1_statics -/
abbrev S_X1_statics (l : Launch) (G : JG) : MS := Sem l G yX1_statics (ws_ yX1_statics cX1_statics 3 (some .long)) 16 444 1
theorem yl_X1_statics : YLk yX1_statics (ws_ yX1_statics cX1_statics 3 (some .long)) 3 2 := ⟨lw_meth q1748, q190, Or.inl ⟨_, _, q1748⟩, by decide, by decide +kernel⟩
theorem s_X1_statics {l : Launch} {G : JG} {Q : Int → MH → Prop} {E : Nat → Int → MH → Prop} {h : MH} {as : List LV} (hn : Nat.ble (enl as).length 3 = true) (body : ∀ K : JC, KI K l G yX1_statics cX1_statics 3 (some .long) [] 16 444 1 Q E h → JW K 0 (lv0 as 3) [] h) : S_X1_statics l G as h Q E :=
  Sem_of (by decide +kernel) (Nat.le_of_ble_eq_true hn) body
/-! X1_sink -/
abbrev S_X1_sink (l : Launch) (G : JG) : MS := Sem l G yX1_sink (ws_ yX1_sink cX1_sink 4 (some .long)) 16 444 1
theorem yl_X1_sink : YLk yX1_sink (ws_ yX1_sink cX1_sink 4 (some .long)) 4 2 := ⟨lw_meth q1759, q190, Or.inl ⟨_, _, q1759⟩, by decide, by decide +kernel⟩
theorem s_X1_sink {l : Launch} {G : JG} {Q : Int → MH → Prop} {E : Nat → Int → MH → Prop} {h : MH} {as : List LV} (hn : Nat.ble (enl as).length 4 = true) (body : ∀ K : JC, KI K l G yX1_sink cX1_sink 4 (some .long) [] 16 444 1 Q E h → JW K 0 (lv0 as 4) [] h) : S_X1_sink l G as h Q E :=
  Sem_of (by decide +kernel) (Nat.le_of_ble_eq_true hn) body
/-! X1_live -/
abbrev S_X1_live (l : Launch) (G : JG) : MS := Sem l G yX1_live (ws_ yX1_live cX1_live 3 (some .int)) 17 466 0
theorem yl_X1_live : YLk yX1_live (ws_ yX1_live cX1_live 3 (some .int)) 3 2 := ⟨lw_meth q1766, q190, Or.inl ⟨_, _, q1766⟩, by decide, by decide +kernel⟩
theorem s_X1_live {l : Launch} {G : JG} {Q : Int → MH → Prop} {E : Nat → Int → MH → Prop} {h : MH} {as : List LV} (hn : Nat.ble (enl as).length 3 = true) (body : ∀ K : JC, KI K l G yX1_live cX1_live 3 (some .int) [] 17 466 0 Q E h → JW K 0 (lv0 as 3) [] h) : S_X1_live l G as h Q E :=
  Sem_of (by decide +kernel) (Nat.le_of_ble_eq_true hn) body
/-! X1_idle -/
abbrev S_X1_idle (l : Launch) (G : JG) : MS := Sem l G yX1_idle (ws_ yX1_idle cX1_idle 2 (some .int)) 16 444 0
theorem yl_X1_idle : YLk yX1_idle (ws_ yX1_idle cX1_idle 2 (some .int)) 2 1 := ⟨lw_meth q1773, q190, Or.inl ⟨_, _, q1773⟩, by decide, by decide +kernel⟩
theorem s_X1_idle {l : Launch} {G : JG} {Q : Int → MH → Prop} {E : Nat → Int → MH → Prop} {h : MH} {as : List LV} (hn : Nat.ble (enl as).length 2 = true) (body : ∀ K : JC, KI K l G yX1_idle cX1_idle 2 (some .int) [] 16 444 0 Q E h → JW K 0 (lv0 as 2) [] h) : S_X1_idle l G as h Q E :=
  Sem_of (by decide +kernel) (Nat.le_of_ble_eq_true hn) body
/-! X1_threads -/
abbrev S_X1_threads (l : Launch) (G : JG) : MS := Sem l G yX1_threads (ws_ yX1_threads cX1_threads 2 (some .int)) 16 444 0
theorem yl_X1_threads : YLk yX1_threads (ws_ yX1_threads cX1_threads 2 (some .int)) 2 1 := ⟨lw_meth q1780, q190, Or.inl ⟨_, _, q1780⟩, by decide, by decide +kernel⟩
theorem s_X1_threads {l : Launch} {G : JG} {Q : Int → MH → Prop} {E : Nat → Int → MH → Prop} {h : MH} {as : List LV} (hn : Nat.ble (enl as).length 2 = true) (body : ∀ K : JC, KI K l G yX1_threads cX1_threads 2 (some .int) [] 16 444 0 Q E h → JW K 0 (lv0 as 2) [] h) : S_X1_threads l G as h Q E :=
  Sem_of (by decide +kernel) (Nat.le_of_ble_eq_true hn) body
/-! X1_race -/
abbrev S_X1_race (l : Launch) (G : JG) : MS := Sem l G yX1_race (ws_ yX1_race cX1_race 6 (some .int)) 16 444 0
theorem yl_X1_race : YLk yX1_race (ws_ yX1_race cX1_race 6 (some .int)) 6 2 := ⟨lw_meth q1810, q190, Or.inl ⟨_, _, q1810⟩, by decide, by decide +kernel⟩
theorem s_X1_race {l : Launch} {G : JG} {Q : Int → MH → Prop} {E : Nat → Int → MH → Prop} {h : MH} {as : List LV} (hn : Nat.ble (enl as).length 6 = true) (body : ∀ K : JC, KI K l G yX1_race cX1_race 6 (some .int) [] 16 444 0 Q E h → JW K 0 (lv0 as 6) [] h) : S_X1_race l G as h Q E :=
  Sem_of (by decide +kernel) (Nat.le_of_ble_eq_true hn) body
/-! X1_runs -/
abbrev S_X1_runs (l : Launch) (G : JG) : MS := Sem l G yX1_runs (ws_ yX1_runs cX1_runs 2 (some .long)) 16 444 1
theorem yl_X1_runs : YLk yX1_runs (ws_ yX1_runs cX1_runs 2 (some .long)) 2 1 := ⟨lw_meth q1817, q190, Or.inl ⟨_, _, q1817⟩, by decide, by decide +kernel⟩
theorem s_X1_runs {l : Launch} {G : JG} {Q : Int → MH → Prop} {E : Nat → Int → MH → Prop} {h : MH} {as : List LV} (hn : Nat.ble (enl as).length 2 = true) (body : ∀ K : JC, KI K l G yX1_runs cX1_runs 2 (some .long) [] 16 444 1 Q E h → JW K 0 (lv0 as 2) [] h) : S_X1_runs l G as h Q E :=
  Sem_of (by decide +kernel) (Nat.le_of_ble_eq_true hn) body
/-! X1_input -/
abbrev S_X1_input (l : Launch) (G : JG) : MS := Sem l G yX1_input (ws_ yX1_input cX1_input 2 (some .int)) 12 339 0
theorem yl_X1_input : YLk yX1_input (ws_ yX1_input cX1_input 2 (some .int)) 2 1 := ⟨lw_meth q1824, q190, Or.inl ⟨_, _, q1824⟩, by decide, by decide +kernel⟩
theorem s_X1_input {l : Launch} {G : JG} {Q : Int → MH → Prop} {E : Nat → Int → MH → Prop} {h : MH} {as : List LV} (hn : Nat.ble (enl as).length 2 = true) (body : ∀ K : JC, KI K l G yX1_input cX1_input 2 (some .int) [] 12 339 0 Q E h → JW K 0 (lv0 as 2) [] h) : S_X1_input l G as h Q E :=
  Sem_of (by decide +kernel) (Nat.le_of_ble_eq_true hn) body
/-! X1_walk -/
abbrev S_X1_walk (l : Launch) (G : JG) : MS := Sem l G yX1_walk (ws_ yX1_walk cX1_walk 4 (some .int)) 12 363 0
theorem yl_X1_walk : YLk yX1_walk (ws_ yX1_walk cX1_walk 4 (some .int)) 4 3 := ⟨lw_meth q1835, q190, Or.inl ⟨_, _, q1835⟩, by decide, by decide +kernel⟩
theorem s_X1_walk {l : Launch} {G : JG} {Q : Int → MH → Prop} {E : Nat → Int → MH → Prop} {h : MH} {as : List LV} (hn : Nat.ble (enl as).length 4 = true) (body : ∀ K : JC, KI K l G yX1_walk cX1_walk 4 (some .int) [] 12 363 0 Q E h → JW K 0 (lv0 as 4) [] h) : S_X1_walk l G as h Q E :=
  Sem_of (by decide +kernel) (Nat.le_of_ble_eq_true hn) body
/-! X1_walked -/
abbrev S_X1_walked (l : Launch) (G : JG) : MS := Sem l G yX1_walked (ws_ yX1_walked cX1_walked 2 (some .int)) 12 339 0
theorem yl_X1_walked : YLk yX1_walked (ws_ yX1_walked cX1_walked 2 (some .int)) 2 1 := ⟨lw_meth q1964, q190, Or.inl ⟨_, _, q1964⟩, by decide, by decide +kernel⟩
theorem s_X1_walked {l : Launch} {G : JG} {Q : Int → MH → Prop} {E : Nat → Int → MH → Prop} {h : MH} {as : List LV} (hn : Nat.ble (enl as).length 2 = true) (body : ∀ K : JC, KI K l G yX1_walked cX1_walked 2 (some .int) [] 12 339 0 Q E h → JW K 0 (lv0 as 2) [] h) : S_X1_walked l G as h Q E :=
  Sem_of (by decide +kernel) (Nat.le_of_ble_eq_true hn) body
/-! X1_output -/
abbrev S_X1_output (l : Launch) (G : JG) : MS := Sem l G yX1_output (ws_ yX1_output cX1_output 3 (some .int)) 12 339 0
theorem yl_X1_output : YLk yX1_output (ws_ yX1_output cX1_output 3 (some .int)) 3 2 := ⟨lw_meth q1975, q190, Or.inl ⟨_, _, q1975⟩, by decide, by decide +kernel⟩
theorem s_X1_output {l : Launch} {G : JG} {Q : Int → MH → Prop} {E : Nat → Int → MH → Prop} {h : MH} {as : List LV} (hn : Nat.ble (enl as).length 3 = true) (body : ∀ K : JC, KI K l G yX1_output cX1_output 3 (some .int) [] 12 339 0 Q E h → JW K 0 (lv0 as 3) [] h) : S_X1_output l G as h Q E :=
  Sem_of (by decide +kernel) (Nat.le_of_ble_eq_true hn) body
/-! X1_met -/
abbrev S_X1_met (l : Launch) (G : JG) : MS := Sem l G yX1_met (ws_ yX1_met cX1_met 3 (some .long)) 17 466 1
theorem yl_X1_met : YLk yX1_met (ws_ yX1_met cX1_met 3 (some .long)) 3 2 := ⟨lw_meth q1983, q190, Or.inl ⟨_, _, q1983⟩, by decide, by decide +kernel⟩
theorem s_X1_met {l : Launch} {G : JG} {Q : Int → MH → Prop} {E : Nat → Int → MH → Prop} {h : MH} {as : List LV} (hn : Nat.ble (enl as).length 3 = true) (body : ∀ K : JC, KI K l G yX1_met cX1_met 3 (some .long) [] 17 466 1 Q E h → JW K 0 (lv0 as 3) [] h) : S_X1_met l G as h Q E :=
  Sem_of (by decide +kernel) (Nat.le_of_ble_eq_true hn) body
/-! X2_init -/
abbrev S_X2_init (l : Launch) (G : JG) : MS := Sem l G yX2_init (ws_ yX2_init cX2_init 2 none) 7 211 700
theorem yl_X2_init : YLk yX2_init (ws_ yX2_init cX2_init 2 none) 2 0 := ⟨lw_meth q231, q191, Or.inl ⟨_, _, q231⟩, by decide, by decide +kernel⟩
theorem s_X2_init {l : Launch} {G : JG} {Q : Int → MH → Prop} {E : Nat → Int → MH → Prop} {h : MH} {as : List LV} (hn : Nat.ble (enl as).length 2 = true) (body : ∀ K : JC, KI K l G yX2_init cX2_init 2 none [] 7 211 700 Q E h → JW K 0 (lv0 as 2) [] h) : S_X2_init l G as h Q E :=
  Sem_of (by decide +kernel) (Nat.le_of_ble_eq_true hn) body
/-! X2_find -/
abbrev S_X2_find (l : Launch) (G : JG) : MS := Sem l G yX2_find (ws_ yX2_find cX2_find 3 none) 14 402 700
theorem yl_X2_find : YLk yX2_find (ws_ yX2_find cX2_find 3 none) 3 1 := ⟨lw_meth q1305, q191, Or.inl ⟨_, _, q1305⟩, by decide, by decide +kernel⟩
theorem s_X2_find {l : Launch} {G : JG} {Q : Int → MH → Prop} {E : Nat → Int → MH → Prop} {h : MH} {as : List LV} (hn : Nat.ble (enl as).length 3 = true) (body : ∀ K : JC, KI K l G yX2_find cX2_find 3 none [] 14 402 700 Q E h → JW K 0 (lv0 as 3) [] h) : S_X2_find l G as h Q E :=
  Sem_of (by decide +kernel) (Nat.le_of_ble_eq_true hn) body
/-! X2_make -/
abbrev S_X2_make (l : Launch) (G : JG) : MS := Sem l G yX2_make (ws_ yX2_make cX2_make 4 none) 7 211 700
theorem yl_X2_make : YLk yX2_make (ws_ yX2_make cX2_make 4 none) 4 1 := ⟨lw_meth q1309, q191, Or.inl ⟨_, _, q1309⟩, by decide, by decide +kernel⟩
theorem s_X2_make {l : Launch} {G : JG} {Q : Int → MH → Prop} {E : Nat → Int → MH → Prop} {h : MH} {as : List LV} (hn : Nat.ble (enl as).length 4 = true) (body : ∀ K : JC, KI K l G yX2_make cX2_make 4 none [] 7 211 700 Q E h → JW K 0 (lv0 as 4) [] h) : S_X2_make l G as h Q E :=
  Sem_of (by decide +kernel) (Nat.le_of_ble_eq_true hn) body
/-! X2_fieldsOf -/
abbrev S_X2_fieldsOf (l : Launch) (G : JG) : MS := Sem l G yX2_fieldsOf (ws_ yX2_fieldsOf cX2_fieldsOf 3 (some .int)) 4 150 0
theorem yl_X2_fieldsOf : YLk yX2_fieldsOf (ws_ yX2_fieldsOf cX2_fieldsOf 3 (some .int)) 3 1 := ⟨lw_meth q1326, q191, Or.inl ⟨_, _, q1326⟩, by decide, by decide +kernel⟩
theorem s_X2_fieldsOf {l : Launch} {G : JG} {Q : Int → MH → Prop} {E : Nat → Int → MH → Prop} {h : MH} {as : List LV} (hn : Nat.ble (enl as).length 3 = true) (body : ∀ K : JC, KI K l G yX2_fieldsOf cX2_fieldsOf 3 (some .int) [] 4 150 0 Q E h → JW K 0 (lv0 as 3) [] h) : S_X2_fieldsOf l G as h Q E :=
  Sem_of (by decide +kernel) (Nat.le_of_ble_eq_true hn) body
/-! X2_enterRoot -/
abbrev S_X2_enterRoot (l : Launch) (G : JG) : MS := Sem l G yX2_enterRoot (ws_ yX2_enterRoot cX2_enterRoot 3 none) 8 241 700
theorem yl_X2_enterRoot : YLk yX2_enterRoot (ws_ yX2_enterRoot cX2_enterRoot 3 none) 3 1 := ⟨lw_meth q1348, q191, Or.inl ⟨_, _, q1348⟩, by decide, by decide +kernel⟩
theorem s_X2_enterRoot {l : Launch} {G : JG} {Q : Int → MH → Prop} {E : Nat → Int → MH → Prop} {h : MH} {as : List LV} (hn : Nat.ble (enl as).length 3 = true) (body : ∀ K : JC, KI K l G yX2_enterRoot cX2_enterRoot 3 none [] 8 241 700 Q E h → JW K 0 (lv0 as 3) [] h) : S_X2_enterRoot l G as h Q E :=
  Sem_of (by decide +kernel) (Nat.le_of_ble_eq_true hn) body
/-! X2_come -/
abbrev S_X2_come (l : Launch) (G : JG) : MS := Sem l G yX2_come (ws_ yX2_come cX2_come 4 none) 7 218 700
theorem yl_X2_come : YLk yX2_come (ws_ yX2_come cX2_come 4 none) 4 3 := ⟨lw_meth q1355, q191, Or.inl ⟨_, _, q1355⟩, by decide, by decide +kernel⟩
theorem s_X2_come {l : Launch} {G : JG} {Q : Int → MH → Prop} {E : Nat → Int → MH → Prop} {h : MH} {as : List LV} (hn : Nat.ble (enl as).length 4 = true) (body : ∀ K : JC, KI K l G yX2_come cX2_come 4 none [] 7 218 700 Q E h → JW K 0 (lv0 as 4) [] h) : S_X2_come l G as h Q E :=
  Sem_of (by decide +kernel) (Nat.le_of_ble_eq_true hn) body
/-! X2_wake -/
abbrev S_X2_wake (l : Launch) (G : JG) : MS := Sem l G yX2_wake (ws_ yX2_wake cX2_wake 2 none) 4 150 700
theorem yl_X2_wake : YLk yX2_wake (ws_ yX2_wake cX2_wake 2 none) 2 1 := ⟨lw_meth q1378, q191, Or.inl ⟨_, _, q1378⟩, by decide, by decide +kernel⟩
theorem s_X2_wake {l : Launch} {G : JG} {Q : Int → MH → Prop} {E : Nat → Int → MH → Prop} {h : MH} {as : List LV} (hn : Nat.ble (enl as).length 2 = true) (body : ∀ K : JC, KI K l G yX2_wake cX2_wake 2 none [] 4 150 700 Q E h → JW K 0 (lv0 as 2) [] h) : S_X2_wake l G as h Q E :=
  Sem_of (by decide +kernel) (Nat.le_of_ble_eq_true hn) body
/-! X2_work -/
abbrev S_X2_work (l : Launch) (G : JG) : MS := Sem l G yX2_work (ws_ yX2_work cX2_work 5 none) 13 378 700
theorem yl_X2_work : YLk yX2_work (ws_ yX2_work cX2_work 5 none) 5 1 := ⟨lw_meth q1382, q191, Or.inl ⟨_, _, q1382⟩, by decide, by decide +kernel⟩
theorem s_X2_work {l : Launch} {G : JG} {Q : Int → MH → Prop} {E : Nat → Int → MH → Prop} {h : MH} {as : List LV} (hn : Nat.ble (enl as).length 5 = true) (body : ∀ K : JC, KI K l G yX2_work cX2_work 5 none [] 13 378 700 Q E h → JW K 0 (lv0 as 5) [] h) : S_X2_work l G as h Q E :=
  Sem_of (by decide +kernel) (Nat.le_of_ble_eq_true hn) body
/-! X2_simple -/
abbrev S_X2_simple (l : Launch) (G : JG) : MS := Sem l G yX2_simple (ws_ yX2_simple cX2_simple 6 none) 9 262 700
theorem yl_X2_simple : YLk yX2_simple (ws_ yX2_simple cX2_simple 6 none) 6 3 := ⟨lw_meth q1391, q191, Or.inl ⟨_, _, q1391⟩, by decide, by decide +kernel⟩
theorem s_X2_simple {l : Launch} {G : JG} {Q : Int → MH → Prop} {E : Nat → Int → MH → Prop} {h : MH} {as : List LV} (hn : Nat.ble (enl as).length 6 = true) (body : ∀ K : JC, KI K l G yX2_simple cX2_simple 6 none [] 9 262 700 Q E h → JW K 0 (lv0 as 6) [] h) : S_X2_simple l G as h Q E :=
  Sem_of (by decide +kernel) (Nat.le_of_ble_eq_true hn) body
/-! X2_put -/
abbrev S_X2_put (l : Launch) (G : JG) : MS := Sem l G yX2_put (ws_ yX2_put cX2_put 2 none) 5 171 700
theorem yl_X2_put : YLk yX2_put (ws_ yX2_put cX2_put 2 none) 2 1 := ⟨lw_meth q1395, q191, Or.inl ⟨_, _, q1395⟩, by decide, by decide +kernel⟩
theorem s_X2_put {l : Launch} {G : JG} {Q : Int → MH → Prop} {E : Nat → Int → MH → Prop} {h : MH} {as : List LV} (hn : Nat.ble (enl as).length 2 = true) (body : ∀ K : JC, KI K l G yX2_put cX2_put 2 none [] 5 171 700 Q E h → JW K 0 (lv0 as 2) [] h) : S_X2_put l G as h Q E :=
  Sem_of (by decide +kernel) (Nat.le_of_ble_eq_true hn) body
/-! X2_take -/
abbrev S_X2_take (l : Launch) (G : JG) : MS := Sem l G yX2_take (ws_ yX2_take cX2_take 3 (some (.object "FactHouse$Fact"))) 5 171 8
theorem yl_X2_take : YLk yX2_take (ws_ yX2_take cX2_take 3 (some (.object "FactHouse$Fact"))) 3 1 := ⟨lw_meth q1401, q191, Or.inl ⟨_, _, q1401⟩, by decide, by decide +kernel⟩
theorem s_X2_take {l : Launch} {G : JG} {Q : Int → MH → Prop} {E : Nat → Int → MH → Prop} {h : MH} {as : List LV} (hn : Nat.ble (enl as).length 3 = true) (body : ∀ K : JC, KI K l G yX2_take cX2_take 3 (some (.object "FactHouse$Fact")) [] 5 171 8 Q E h → JW K 0 (lv0 as 3) [] h) : S_X2_take l G as h Q E :=
  Sem_of (by decide +kernel) (Nat.le_of_ble_eq_true hn) body
/-! X2_goOn -/
abbrev S_X2_goOn (l : Launch) (G : JG) : MS := Sem l G yX2_goOn (ws_ yX2_goOn cX2_goOn 2 none) 8 241 700
theorem yl_X2_goOn : YLk yX2_goOn (ws_ yX2_goOn cX2_goOn 2 none) 2 1 := ⟨lw_meth q1405, q191, Or.inl ⟨_, _, q1405⟩, by decide, by decide +kernel⟩
theorem s_X2_goOn {l : Launch} {G : JG} {Q : Int → MH → Prop} {E : Nat → Int → MH → Prop} {h : MH} {as : List LV} (hn : Nat.ble (enl as).length 2 = true) (body : ∀ K : JC, KI K l G yX2_goOn cX2_goOn 2 none [] 8 241 700 Q E h → JW K 0 (lv0 as 2) [] h) : S_X2_goOn l G as h Q E :=
  Sem_of (by decide +kernel) (Nat.le_of_ble_eq_true hn) body
/-! X2_numbers -/
abbrev S_X2_numbers (l : Launch) (G : JG) : MS := Sem l G yX2_numbers (ws_ yX2_numbers cX2_numbers 6 none) 10 298 700
theorem yl_X2_numbers : YLk yX2_numbers (ws_ yX2_numbers cX2_numbers 6 none) 6 3 := ⟨lw_meth q1409, q191, Or.inl ⟨_, _, q1409⟩, by decide, by decide +kernel⟩
theorem s_X2_numbers {l : Launch} {G : JG} {Q : Int → MH → Prop} {E : Nat → Int → MH → Prop} {h : MH} {as : List LV} (hn : Nat.ble (enl as).length 6 = true) (body : ∀ K : JC, KI K l G yX2_numbers cX2_numbers 6 none [] 10 298 700 Q E h → JW K 0 (lv0 as 6) [] h) : S_X2_numbers l G as h Q E :=
  Sem_of (by decide +kernel) (Nat.le_of_ble_eq_true hn) body
/-! X2_span -/
abbrev S_X2_span (l : Launch) (G : JG) : MS := Sem l G yX2_span (ws_ yX2_span cX2_span 6 none) 5 175 700
theorem yl_X2_span : YLk yX2_span (ws_ yX2_span cX2_span 6 none) 6 3 := ⟨lw_meth q1414, q191, Or.inl ⟨_, _, q1414⟩, by decide, by decide +kernel⟩
theorem s_X2_span {l : Launch} {G : JG} {Q : Int → MH → Prop} {E : Nat → Int → MH → Prop} {h : MH} {as : List LV} (hn : Nat.ble (enl as).length 6 = true) (body : ∀ K : JC, KI K l G yX2_span cX2_span 6 none [] 5 175 700 Q E h → JW K 0 (lv0 as 6) [] h) : S_X2_span l G as h Q E :=
  Sem_of (by decide +kernel) (Nat.le_of_ble_eq_true hn) body
/-! X2_hurl -/
abbrev S_X2_hurl (l : Launch) (G : JG) : MS := Sem l G yX2_hurl (ws_ yX2_hurl cX2_hurl 3 none) 9 276 700
theorem yl_X2_hurl : YLk yX2_hurl (ws_ yX2_hurl cX2_hurl 3 none) 3 1 := ⟨lw_meth q1432, q191, Or.inl ⟨_, _, q1432⟩, by decide, by decide +kernel⟩
theorem s_X2_hurl {l : Launch} {G : JG} {Q : Int → MH → Prop} {E : Nat → Int → MH → Prop} {h : MH} {as : List LV} (hn : Nat.ble (enl as).length 3 = true) (body : ∀ K : JC, KI K l G yX2_hurl cX2_hurl 3 none [] 9 276 700 Q E h → JW K 0 (lv0 as 3) [] h) : S_X2_hurl l G as h Q E :=
  Sem_of (by decide +kernel) (Nat.le_of_ble_eq_true hn) body
/-! X2_hurl_2 -/
abbrev S_X2_hurl_2 (l : Launch) (G : JG) : MS := Sem l G yX2_hurl_2 (ws_ yX2_hurl_2 cX2_hurl_2 14 none) 8 243 700
theorem yl_X2_hurl_2 : YLk yX2_hurl_2 (ws_ yX2_hurl_2 cX2_hurl_2 14 none) 14 3 := ⟨lw_meth q1436, q191, Or.inl ⟨_, _, q1436⟩, by decide, by decide +kernel⟩
theorem s_X2_hurl_2 {l : Launch} {G : JG} {Q : Int → MH → Prop} {E : Nat → Int → MH → Prop} {h : MH} {as : List LV} (hn : Nat.ble (enl as).length 14 = true) (body : ∀ K : JC, KI K l G yX2_hurl_2 cX2_hurl_2 14 none [] 8 243 700 Q E h → JW K 0 (lv0 as 14) [] h) : S_X2_hurl_2 l G as h Q E :=
  Sem_of (by decide +kernel) (Nat.le_of_ble_eq_true hn) body
/-! X2_escape -/
abbrev S_X2_escape (l : Launch) (G : JG) : MS := Sem l G yX2_escape (ws_ yX2_escape cX2_escape 7 none) 7 217 700
theorem yl_X2_escape : YLk yX2_escape (ws_ yX2_escape cX2_escape 7 none) 7 3 := ⟨lw_meth q1453, q191, Or.inl ⟨_, _, q1453⟩, by decide, by decide +kernel⟩
theorem s_X2_escape {l : Launch} {G : JG} {Q : Int → MH → Prop} {E : Nat → Int → MH → Prop} {h : MH} {as : List LV} (hn : Nat.ble (enl as).length 7 = true) (body : ∀ K : JC, KI K l G yX2_escape cX2_escape 7 none [] 7 217 700 Q E h → JW K 0 (lv0 as 7) [] h) : S_X2_escape l G as h Q E :=
  Sem_of (by decide +kernel) (Nat.le_of_ble_eq_true hn) body
/-! X2_wakeAll -/
abbrev S_X2_wakeAll (l : Launch) (G : JG) : MS := Sem l G yX2_wakeAll (ws_ yX2_wakeAll cX2_wakeAll 5 none) 6 193 700
theorem yl_X2_wakeAll : YLk yX2_wakeAll (ws_ yX2_wakeAll cX2_wakeAll 5 none) 5 1 := ⟨lw_meth q1457, q191, Or.inl ⟨_, _, q1457⟩, by decide, by decide +kernel⟩
theorem s_X2_wakeAll {l : Launch} {G : JG} {Q : Int → MH → Prop} {E : Nat → Int → MH → Prop} {h : MH} {as : List LV} (hn : Nat.ble (enl as).length 5 = true) (body : ∀ K : JC, KI K l G yX2_wakeAll cX2_wakeAll 5 none [] 6 193 700 Q E h → JW K 0 (lv0 as 5) [] h) : S_X2_wakeAll l G as h Q E :=
  Sem_of (by decide +kernel) (Nat.le_of_ble_eq_true hn) body
/-! X2_reckon -/
abbrev S_X2_reckon (l : Launch) (G : JG) : MS := Sem l G yX2_reckon (ws_ yX2_reckon cX2_reckon 13 (some .boolean)) 7 231 2
theorem yl_X2_reckon : YLk yX2_reckon (ws_ yX2_reckon cX2_reckon 13 (some .boolean)) 13 3 := ⟨lw_meth q1468, q191, Or.inl ⟨_, _, q1468⟩, by decide, by decide +kernel⟩
theorem s_X2_reckon {l : Launch} {G : JG} {Q : Int → MH → Prop} {E : Nat → Int → MH → Prop} {h : MH} {as : List LV} (hn : Nat.ble (enl as).length 13 = true) (body : ∀ K : JC, KI K l G yX2_reckon cX2_reckon 13 (some .boolean) [] 7 231 2 Q E h → JW K 0 (lv0 as 13) [] h) : S_X2_reckon l G as h Q E :=
  Sem_of (by decide +kernel) (Nat.le_of_ble_eq_true hn) body
/-! X2_quotient -/
abbrev S_X2_quotient (l : Launch) (G : JG) : MS := Sem l G yX2_quotient (ws_ yX2_quotient cX2_quotient 12 (some .boolean)) 6 200 2
theorem yl_X2_quotient : YLk yX2_quotient (ws_ yX2_quotient cX2_quotient 12 (some .boolean)) 12 2 := ⟨lw_meth q1484, q191, Or.inl ⟨_, _, q1484⟩, by decide, by decide +kernel⟩
theorem s_X2_quotient {l : Launch} {G : JG} {Q : Int → MH → Prop} {E : Nat → Int → MH → Prop} {h : MH} {as : List LV} (hn : Nat.ble (enl as).length 12 = true) (body : ∀ K : JC, KI K l G yX2_quotient cX2_quotient 12 (some .boolean) [] 6 200 2 Q E h → JW K 0 (lv0 as 12) [] h) : S_X2_quotient l G as h Q E :=
  Sem_of (by decide +kernel) (Nat.le_of_ble_eq_true hn) body
/-! X2_rest -/
abbrev S_X2_rest (l : Launch) (G : JG) : MS := Sem l G yX2_rest (ws_ yX2_rest cX2_rest 9 (some .boolean)) 6 200 2
theorem yl_X2_rest : YLk yX2_rest (ws_ yX2_rest cX2_rest 9 (some .boolean)) 9 2 := ⟨lw_meth q1492, q191, Or.inl ⟨_, _, q1492⟩, by decide, by decide +kernel⟩
theorem s_X2_rest {l : Launch} {G : JG} {Q : Int → MH → Prop} {E : Nat → Int → MH → Prop} {h : MH} {as : List LV} (hn : Nat.ble (enl as).length 9 = true) (body : ∀ K : JC, KI K l G yX2_rest cX2_rest 9 (some .boolean) [] 6 200 2 Q E h → JW K 0 (lv0 as 9) [] h) : S_X2_rest l G as h Q E :=
  Sem_of (by decide +kernel) (Nat.le_of_ble_eq_true hn) body
/-! X2_jumps -/
abbrev S_X2_jumps (l : Launch) (G : JG) : MS := Sem l G yX2_jumps (ws_ yX2_jumps cX2_jumps 10 none) 9 262 700
theorem yl_X2_jumps : YLk yX2_jumps (ws_ yX2_jumps cX2_jumps 10 none) 10 3 := ⟨lw_meth q1499, q191, Or.inl ⟨_, _, q1499⟩, by decide, by decide +kernel⟩
theorem s_X2_jumps {l : Launch} {G : JG} {Q : Int → MH → Prop} {E : Nat → Int → MH → Prop} {h : MH} {as : List LV} (hn : Nat.ble (enl as).length 10 = true) (body : ∀ K : JC, KI K l G yX2_jumps cX2_jumps 10 none [] 9 262 700 Q E h → JW K 0 (lv0 as 10) [] h) : S_X2_jumps l G as h Q E :=
  Sem_of (by decide +kernel) (Nat.le_of_ble_eq_true hn) body
/-! X2_cut -/
abbrev S_X2_cut (l : Launch) (G : JG) : MS := Sem l G yX2_cut (ws_ yX2_cut cX2_cut 3 (some .boolean)) 5 174 2
theorem yl_X2_cut : YLk yX2_cut (ws_ yX2_cut cX2_cut 3 (some .boolean)) 3 3 := ⟨lw_meth q1508, q191, Or.inl ⟨_, _, q1508⟩, by decide, by decide +kernel⟩
theorem s_X2_cut {l : Launch} {G : JG} {Q : Int → MH → Prop} {E : Nat → Int → MH → Prop} {h : MH} {as : List LV} (hn : Nat.ble (enl as).length 3 = true) (body : ∀ K : JC, KI K l G yX2_cut cX2_cut 3 (some .boolean) [] 5 174 2 Q E h → JW K 0 (lv0 as 3) [] h) : S_X2_cut l G as h Q E :=
  Sem_of (by decide +kernel) (Nat.le_of_ble_eq_true hn) body
/-! X2_objects -/
abbrev S_X2_objects (l : Launch) (G : JG) : MS := Sem l G yX2_objects (ws_ yX2_objects cX2_objects 4 none) 12 349 700
theorem yl_X2_objects : YLk yX2_objects (ws_ yX2_objects cX2_objects 4 none) 4 3 := ⟨lw_meth q1512, q191, Or.inl ⟨_, _, q1512⟩, by decide, by decide +kernel⟩
theorem s_X2_objects {l : Launch} {G : JG} {Q : Int → MH → Prop} {E : Nat → Int → MH → Prop} {h : MH} {as : List LV} (hn : Nat.ble (enl as).length 4 = true) (body : ∀ K : JC, KI K l G yX2_objects cX2_objects 4 none [] 12 349 700 Q E h → JW K 0 (lv0 as 4) [] h) : S_X2_objects l G as h Q E :=
  Sem_of (by decide +kernel) (Nat.le_of_ble_eq_true hn) body
/-! X2_makeNew -/
abbrev S_X2_makeNew (l : Launch) (G : JG) : MS := Sem l G yX2_makeNew (ws_ yX2_makeNew cX2_makeNew 3 none) 9 262 700
theorem yl_X2_makeNew : YLk yX2_makeNew (ws_ yX2_makeNew cX2_makeNew 3 none) 3 1 := ⟨lw_meth q1516, q191, Or.inl ⟨_, _, q1516⟩, by decide, by decide +kernel⟩
theorem s_X2_makeNew {l : Launch} {G : JG} {Q : Int → MH → Prop} {E : Nat → Int → MH → Prop} {h : MH} {as : List LV} (hn : Nat.ble (enl as).length 3 = true) (body : ∀ K : JC, KI K l G yX2_makeNew cX2_makeNew 3 none [] 9 262 700 Q E h → JW K 0 (lv0 as 3) [] h) : S_X2_makeNew l G as h Q E :=
  Sem_of (by decide +kernel) (Nat.le_of_ble_eq_true hn) body
/-! X2_kindOf -/
abbrev S_X2_kindOf (l : Launch) (G : JG) : MS := Sem l G yX2_kindOf (ws_ yX2_kindOf cX2_kindOf 4 (some .int)) 4 150 0
theorem yl_X2_kindOf : YLk yX2_kindOf (ws_ yX2_kindOf cX2_kindOf 4 (some .int)) 4 2 := ⟨lw_meth q1520, q191, Or.inl ⟨_, _, q1520⟩, by decide, by decide +kernel⟩
theorem s_X2_kindOf {l : Launch} {G : JG} {Q : Int → MH → Prop} {E : Nat → Int → MH → Prop} {h : MH} {as : List LV} (hn : Nat.ble (enl as).length 4 = true) (body : ∀ K : JC, KI K l G yX2_kindOf cX2_kindOf 4 (some .int) [] 4 150 0 Q E h → JW K 0 (lv0 as 4) [] h) : S_X2_kindOf l G as h Q E :=
  Sem_of (by decide +kernel) (Nat.le_of_ble_eq_true hn) body
/-! X2_join -/
abbrev S_X2_join (l : Launch) (G : JG) : MS := Sem l G yX2_join (ws_ yX2_join cX2_join 3 none) 7 217 700
theorem yl_X2_join : YLk yX2_join (ws_ yX2_join cX2_join 3 none) 3 2 := ⟨lw_meth q1524, q191, Or.inl ⟨_, _, q1524⟩, by decide, by decide +kernel⟩
theorem s_X2_join {l : Launch} {G : JG} {Q : Int → MH → Prop} {E : Nat → Int → MH → Prop} {h : MH} {as : List LV} (hn : Nat.ble (enl as).length 3 = true) (body : ∀ K : JC, KI K l G yX2_join cX2_join 3 none [] 7 217 700 Q E h → JW K 0 (lv0 as 3) [] h) : S_X2_join l G as h Q E :=
  Sem_of (by decide +kernel) (Nat.le_of_ble_eq_true hn) body
/-! X2_makeArray -/
abbrev S_X2_makeArray (l : Launch) (G : JG) : MS := Sem l G yX2_makeArray (ws_ yX2_makeArray cX2_makeArray 3 none) 10 298 700
theorem yl_X2_makeArray : YLk yX2_makeArray (ws_ yX2_makeArray cX2_makeArray 3 none) 3 2 := ⟨lw_meth q1528, q191, Or.inl ⟨_, _, q1528⟩, by decide, by decide +kernel⟩
theorem s_X2_makeArray {l : Launch} {G : JG} {Q : Int → MH → Prop} {E : Nat → Int → MH → Prop} {h : MH} {as : List LV} (hn : Nat.ble (enl as).length 3 = true) (body : ∀ K : JC, KI K l G yX2_makeArray cX2_makeArray 3 none [] 10 298 700 Q E h → JW K 0 (lv0 as 3) [] h) : S_X2_makeArray l G as h Q E :=
  Sem_of (by decide +kernel) (Nat.le_of_ble_eq_true hn) body
/-! X2_lengthOf -/
abbrev S_X2_lengthOf (l : Launch) (G : JG) : MS := Sem l G yX2_lengthOf (ws_ yX2_lengthOf cX2_lengthOf 4 none) 11 321 700
theorem yl_X2_lengthOf : YLk yX2_lengthOf (ws_ yX2_lengthOf cX2_lengthOf 4 none) 4 0 := ⟨lw_meth q1533, q191, Or.inl ⟨_, _, q1533⟩, by decide, by decide +kernel⟩
theorem s_X2_lengthOf {l : Launch} {G : JG} {Q : Int → MH → Prop} {E : Nat → Int → MH → Prop} {h : MH} {as : List LV} (hn : Nat.ble (enl as).length 4 = true) (body : ∀ K : JC, KI K l G yX2_lengthOf cX2_lengthOf 4 none [] 11 321 700 Q E h → JW K 0 (lv0 as 4) [] h) : S_X2_lengthOf l G as h Q E :=
  Sem_of (by decide +kernel) (Nat.le_of_ble_eq_true hn) body
/-! X2_refuse -/
abbrev S_X2_refuse (l : Launch) (G : JG) : MS := Sem l G yX2_refuse (ws_ yX2_refuse cX2_refuse 4 none) 10 298 700
theorem yl_X2_refuse : YLk yX2_refuse (ws_ yX2_refuse cX2_refuse 4 none) 4 2 := ⟨lw_meth q1541, q191, Or.inl ⟨_, _, q1541⟩, by decide, by decide +kernel⟩
theorem s_X2_refuse {l : Launch} {G : JG} {Q : Int → MH → Prop} {E : Nat → Int → MH → Prop} {h : MH} {as : List LV} (hn : Nat.ble (enl as).length 4 = true) (body : ∀ K : JC, KI K l G yX2_refuse cX2_refuse 4 none [] 10 298 700 Q E h → JW K 0 (lv0 as 4) [] h) : S_X2_refuse l G as h Q E :=
  Sem_of (by decide +kernel) (Nat.le_of_ble_eq_true hn) body
/-! X2_gather -/
abbrev S_X2_gather (l : Launch) (G : JG) : MS := Sem l G yX2_gather (ws_ yX2_gather cX2_gather 2 none) 6 193 700
theorem yl_X2_gather : YLk yX2_gather (ws_ yX2_gather cX2_gather 2 none) 2 1 := ⟨lw_meth q1548, q191, Or.inl ⟨_, _, q1548⟩, by decide, by decide +kernel⟩
theorem s_X2_gather {l : Launch} {G : JG} {Q : Int → MH → Prop} {E : Nat → Int → MH → Prop} {h : MH} {as : List LV} (hn : Nat.ble (enl as).length 2 = true) (body : ∀ K : JC, KI K l G yX2_gather cX2_gather 2 none [] 6 193 700 Q E h → JW K 0 (lv0 as 2) [] h) : S_X2_gather l G as h Q E :=
  Sem_of (by decide +kernel) (Nat.le_of_ble_eq_true hn) body
/-! X2_use -/
abbrev S_X2_use (l : Launch) (G : JG) : MS := Sem l G yX2_use (ws_ yX2_use cX2_use 2 none) 4 150 700
theorem yl_X2_use : YLk yX2_use (ws_ yX2_use cX2_use 2 none) 2 1 := ⟨lw_meth q1552, q191, Or.inl ⟨_, _, q1552⟩, by decide, by decide +kernel⟩
theorem s_X2_use {l : Launch} {G : JG} {Q : Int → MH → Prop} {E : Nat → Int → MH → Prop} {h : MH} {as : List LV} (hn : Nat.ble (enl as).length 2 = true) (body : ∀ K : JC, KI K l G yX2_use cX2_use 2 none [] 4 150 700 Q E h → JW K 0 (lv0 as 2) [] h) : S_X2_use l G as h Q E :=
  Sem_of (by decide +kernel) (Nat.le_of_ble_eq_true hn) body
/-! X2_element -/
abbrev S_X2_element (l : Launch) (G : JG) : MS := Sem l G yX2_element (ws_ yX2_element cX2_element 9 none) 11 321 700
theorem yl_X2_element : YLk yX2_element (ws_ yX2_element cX2_element 9 none) 9 2 := ⟨lw_meth q1556, q191, Or.inl ⟨_, _, q1556⟩, by decide, by decide +kernel⟩
theorem s_X2_element {l : Launch} {G : JG} {Q : Int → MH → Prop} {E : Nat → Int → MH → Prop} {h : MH} {as : List LV} (hn : Nat.ble (enl as).length 9 = true) (body : ∀ K : JC, KI K l G yX2_element cX2_element 9 none [] 11 321 700 Q E h → JW K 0 (lv0 as 9) [] h) : S_X2_element l G as h Q E :=
  Sem_of (by decide +kernel) (Nat.le_of_ble_eq_true hn) body
/-! X2_fieldAct -/
abbrev S_X2_fieldAct (l : Launch) (G : JG) : MS := Sem l G yX2_fieldAct (ws_ yX2_fieldAct cX2_fieldAct 7 none) 11 321 700
theorem yl_X2_fieldAct : YLk yX2_fieldAct (ws_ yX2_fieldAct cX2_fieldAct 7 none) 7 3 := ⟨lw_meth q1561, q191, Or.inl ⟨_, _, q1561⟩, by decide, by decide +kernel⟩
theorem s_X2_fieldAct {l : Launch} {G : JG} {Q : Int → MH → Prop} {E : Nat → Int → MH → Prop} {h : MH} {as : List LV} (hn : Nat.ble (enl as).length 7 = true) (body : ∀ K : JC, KI K l G yX2_fieldAct cX2_fieldAct 7 none [] 11 321 700 Q E h → JW K 0 (lv0 as 7) [] h) : S_X2_fieldAct l G as h Q E :=
  Sem_of (by decide +kernel) (Nat.le_of_ble_eq_true hn) body
/-! X2_calls -/
abbrev S_X2_calls (l : Launch) (G : JG) : MS := Sem l G yX2_calls (ws_ yX2_calls cX2_calls 12 none) 12 347 700
theorem yl_X2_calls : YLk yX2_calls (ws_ yX2_calls cX2_calls 12 none) 12 3 := ⟨lw_meth q1565, q191, Or.inl ⟨_, _, q1565⟩, by decide, by decide +kernel⟩
theorem s_X2_calls {l : Launch} {G : JG} {Q : Int → MH → Prop} {E : Nat → Int → MH → Prop} {h : MH} {as : List LV} (hn : Nat.ble (enl as).length 12 = true) (body : ∀ K : JC, KI K l G yX2_calls cX2_calls 12 none [] 12 347 700 Q E h → JW K 0 (lv0 as 12) [] h) : S_X2_calls l G as h Q E :=
  Sem_of (by decide +kernel) (Nat.le_of_ble_eq_true hn) body
/-! X2_call -/
abbrev S_X2_call (l : Launch) (G : JG) : MS := Sem l G yX2_call (ws_ yX2_call cX2_call 12 none) 9 276 700
theorem yl_X2_call : YLk yX2_call (ws_ yX2_call cX2_call 12 none) 12 2 := ⟨lw_meth q1569, q191, Or.inl ⟨_, _, q1569⟩, by decide, by decide +kernel⟩
theorem s_X2_call {l : Launch} {G : JG} {Q : Int → MH → Prop} {E : Nat → Int → MH → Prop} {h : MH} {as : List LV} (hn : Nat.ble (enl as).length 12 = true) (body : ∀ K : JC, KI K l G yX2_call cX2_call 12 none [] 9 276 700 Q E h → JW K 0 (lv0 as 12) [] h) : S_X2_call l G as h Q E :=
  Sem_of (by decide +kernel) (Nat.le_of_ble_eq_true hn) body
/-! X2_enter -/
abbrev S_X2_enter (l : Launch) (G : JG) : MS := Sem l G yX2_enter (ws_ yX2_enter cX2_enter 6 none) 8 241 700
theorem yl_X2_enter : YLk yX2_enter (ws_ yX2_enter cX2_enter 6 none) 6 4 := ⟨lw_meth q1573, q191, Or.inl ⟨_, _, q1573⟩, by decide, by decide +kernel⟩
theorem s_X2_enter {l : Launch} {G : JG} {Q : Int → MH → Prop} {E : Nat → Int → MH → Prop} {h : MH} {as : List LV} (hn : Nat.ble (enl as).length 6 = true) (body : ∀ K : JC, KI K l G yX2_enter cX2_enter 6 none [] 8 241 700 Q E h → JW K 0 (lv0 as 6) [] h) : S_X2_enter l G as h Q E :=
  Sem_of (by decide +kernel) (Nat.le_of_ble_eq_true hn) body
/-! X2_unlock -/
abbrev S_X2_unlock (l : Launch) (G : JG) : MS := Sem l G yX2_unlock (ws_ yX2_unlock cX2_unlock 3 none) 7 217 700
theorem yl_X2_unlock : YLk yX2_unlock (ws_ yX2_unlock cX2_unlock 3 none) 3 2 := ⟨lw_meth q1577, q191, Or.inl ⟨_, _, q1577⟩, by decide, by decide +kernel⟩
theorem s_X2_unlock {l : Launch} {G : JG} {Q : Int → MH → Prop} {E : Nat → Int → MH → Prop} {h : MH} {as : List LV} (hn : Nat.ble (enl as).length 3 = true) (body : ∀ K : JC, KI K l G yX2_unlock cX2_unlock 3 none [] 7 217 700 Q E h → JW K 0 (lv0 as 3) [] h) : S_X2_unlock l G as h Q E :=
  Sem_of (by decide +kernel) (Nat.le_of_ble_eq_true hn) body
/-! X2_findReceivers -/
abbrev S_X2_findReceivers (l : Launch) (G : JG) : MS := Sem l G yX2_findReceivers (ws_ yX2_findReceivers cX2_findReceivers 7 (some .long)) 11 321 1
theorem yl_X2_findReceivers : YLk yX2_findReceivers (ws_ yX2_findReceivers cX2_findReceivers 7 (some .long)) 7 2 := ⟨lw_meth q1582, q191, Or.inl ⟨_, _, q1582⟩, by decide, by decide +kernel⟩
theorem s_X2_findReceivers {l : Launch} {G : JG} {Q : Int → MH → Prop} {E : Nat → Int → MH → Prop} {h : MH} {as : List LV} (hn : Nat.ble (enl as).length 7 = true) (body : ∀ K : JC, KI K l G yX2_findReceivers cX2_findReceivers 7 (some .long) [] 11 321 1 Q E h → JW K 0 (lv0 as 7) [] h) : S_X2_findReceivers l G as h Q E :=
  Sem_of (by decide +kernel) (Nat.le_of_ble_eq_true hn) body
/-! X2_threads -/
abbrev S_X2_threads (l : Launch) (G : JG) : MS := Sem l G yX2_threads (ws_ yX2_threads cX2_threads 7 none) 12 347 700
theorem yl_X2_threads : YLk yX2_threads (ws_ yX2_threads cX2_threads 7 none) 7 2 := ⟨lw_meth q1590, q191, Or.inl ⟨_, _, q1590⟩, by decide, by decide +kernel⟩
theorem s_X2_threads {l : Launch} {G : JG} {Q : Int → MH → Prop} {E : Nat → Int → MH → Prop} {h : MH} {as : List LV} (hn : Nat.ble (enl as).length 7 = true) (body : ∀ K : JC, KI K l G yX2_threads cX2_threads 7 none [] 12 347 700 Q E h → JW K 0 (lv0 as 7) [] h) : S_X2_threads l G as h Q E :=
  Sem_of (by decide +kernel) (Nat.le_of_ble_eq_true hn) body
/-! X2_goes -/
abbrev S_X2_goes (l : Launch) (G : JG) : MS := Sem l G yX2_goes (ws_ yX2_goes cX2_goes 4 (some .boolean)) 4 150 2
theorem yl_X2_goes : YLk yX2_goes (ws_ yX2_goes cX2_goes 4 (some .boolean)) 4 3 := ⟨lw_meth q1645, q191, Or.inl ⟨_, _, q1645⟩, by decide, by decide +kernel⟩
theorem s_X2_goes {l : Launch} {G : JG} {Q : Int → MH → Prop} {E : Nat → Int → MH → Prop} {h : MH} {as : List LV} (hn : Nat.ble (enl as).length 4 = true) (body : ∀ K : JC, KI K l G yX2_goes cX2_goes 4 (some .boolean) [] 4 150 2 Q E h → JW K 0 (lv0 as 4) [] h) : S_X2_goes l G as h Q E :=
  Sem_of (by decide +kernel) (Nat.le_of_ble_eq_true hn) body
/-! X2_field -/
abbrev S_X2_field (l : Launch) (G : JG) : MS := Sem l G yX2_field (ws_ yX2_field cX2_field 3 (some (.object "FactHouse$Fact"))) 4 150 8
theorem yl_X2_field : YLk yX2_field (ws_ yX2_field cX2_field 3 (some (.object "FactHouse$Fact"))) 3 2 := ⟨lw_meth q1737, q191, Or.inl ⟨_, _, q1737⟩, by decide, by decide +kernel⟩
theorem s_X2_field {l : Launch} {G : JG} {Q : Int → MH → Prop} {E : Nat → Int → MH → Prop} {h : MH} {as : List LV} (hn : Nat.ble (enl as).length 3 = true) (body : ∀ K : JC, KI K l G yX2_field cX2_field 3 (some (.object "FactHouse$Fact")) [] 4 150 8 Q E h → JW K 0 (lv0 as 3) [] h) : S_X2_field l G as h Q E :=
  Sem_of (by decide +kernel) (Nat.le_of_ble_eq_true hn) body
/-! X2_length -/
abbrev S_X2_length (l : Launch) (G : JG) : MS := Sem l G yX2_length (ws_ yX2_length cX2_length 2 (some (.object "FactHouse$Fact"))) 4 150 8
theorem yl_X2_length : YLk yX2_length (ws_ yX2_length cX2_length 2 (some (.object "FactHouse$Fact"))) 2 1 := ⟨lw_meth q1741, q191, Or.inl ⟨_, _, q1741⟩, by decide, by decide +kernel⟩
theorem s_X2_length {l : Launch} {G : JG} {Q : Int → MH → Prop} {E : Nat → Int → MH → Prop} {h : MH} {as : List LV} (hn : Nat.ble (enl as).length 2 = true) (body : ∀ K : JC, KI K l G yX2_length cX2_length 2 (some (.object "FactHouse$Fact")) [] 4 150 8 Q E h → JW K 0 (lv0 as 2) [] h) : S_X2_length l G as h Q E :=
  Sem_of (by decide +kernel) (Nat.le_of_ble_eq_true hn) body
/-! X2_statics -/
abbrev S_X2_statics (l : Launch) (G : JG) : MS := Sem l G yX2_statics (ws_ yX2_statics cX2_statics 2 (some (.object "FactHouse$Fact"))) 4 150 8
theorem yl_X2_statics : YLk yX2_statics (ws_ yX2_statics cX2_statics 2 (some (.object "FactHouse$Fact"))) 2 1 := ⟨lw_meth q1752, q191, Or.inl ⟨_, _, q1752⟩, by decide, by decide +kernel⟩
theorem s_X2_statics {l : Launch} {G : JG} {Q : Int → MH → Prop} {E : Nat → Int → MH → Prop} {h : MH} {as : List LV} (hn : Nat.ble (enl as).length 2 = true) (body : ∀ K : JC, KI K l G yX2_statics cX2_statics 2 (some (.object "FactHouse$Fact")) [] 4 150 8 Q E h → JW K 0 (lv0 as 2) [] h) : S_X2_statics l G as h Q E :=
  Sem_of (by decide +kernel) (Nat.le_of_ble_eq_true hn) body
/-! X3_init -/
abbrev S_X3_init (l : Launch) (G : JG) : MS := Sem l G yX3_init (ws_ yX3_init cX3_init 2 none) 6 190 700
theorem yl_X3_init : YLk yX3_init (ws_ yX3_init cX3_init 2 none) 2 0 := ⟨lw_meth q246, q192, Or.inl ⟨_, _, q246⟩, by decide, by decide +kernel⟩
theorem s_X3_init {l : Launch} {G : JG} {Q : Int → MH → Prop} {E : Nat → Int → MH → Prop} {h : MH} {as : List LV} (hn : Nat.ble (enl as).length 2 = true) (body : ∀ K : JC, KI K l G yX3_init cX3_init 2 none [] 6 190 700 Q E h → JW K 0 (lv0 as 2) [] h) : S_X3_init l G as h Q E :=
  Sem_of (by decide +kernel) (Nat.le_of_ble_eq_true hn) body
/-! X3_none -/
abbrev S_X3_none (l : Launch) (G : JG) : MS := Sem l G yX3_none (ws_ yX3_none cX3_none 2 none) 5 170 700
theorem yl_X3_none : YLk yX3_none (ws_ yX3_none cX3_none 2 none) 2 0 := ⟨lw_meth q1313, q192, Or.inl ⟨_, _, q1313⟩, by decide, by decide +kernel⟩
theorem s_X3_none {l : Launch} {G : JG} {Q : Int → MH → Prop} {E : Nat → Int → MH → Prop} {h : MH} {as : List LV} (hn : Nat.ble (enl as).length 2 = true) (body : ∀ K : JC, KI K l G yX3_none cX3_none 2 none [] 5 170 700 Q E h → JW K 0 (lv0 as 2) [] h) : S_X3_none l G as h Q E :=
  Sem_of (by decide +kernel) (Nat.le_of_ble_eq_true hn) body
/-! X3_join -/
abbrev S_X3_join (l : Launch) (G : JG) : MS := Sem l G yX3_join (ws_ yX3_join cX3_join 6 (some .boolean)) 6 193 2
theorem yl_X3_join : YLk yX3_join (ws_ yX3_join cX3_join 6 (some .boolean)) 6 3 := ⟨lw_meth q1359, q192, Or.inl ⟨_, _, q1359⟩, by decide, by decide +kernel⟩
theorem s_X3_join {l : Launch} {G : JG} {Q : Int → MH → Prop} {E : Nat → Int → MH → Prop} {h : MH} {as : List LV} (hn : Nat.ble (enl as).length 6 = true) (body : ∀ K : JC, KI K l G yX3_join cX3_join 6 (some .boolean) [] 6 193 2 Q E h → JW K 0 (lv0 as 6) [] h) : S_X3_join l G as h Q E :=
  Sem_of (by decide +kernel) (Nat.le_of_ble_eq_true hn) body
/-! X3_become -/
abbrev S_X3_become (l : Launch) (G : JG) : MS := Sem l G yX3_become (ws_ yX3_become cX3_become 3 none) 5 171 700
theorem yl_X3_become : YLk yX3_become (ws_ yX3_become cX3_become 3 none) 3 1 := ⟨lw_meth q1386, q192, Or.inl ⟨_, _, q1386⟩, by decide, by decide +kernel⟩
theorem s_X3_become {l : Launch} {G : JG} {Q : Int → MH → Prop} {E : Nat → Int → MH → Prop} {h : MH} {as : List LV} (hn : Nat.ble (enl as).length 3 = true) (body : ∀ K : JC, KI K l G yX3_become cX3_become 3 none [] 5 171 700 Q E h → JW K 0 (lv0 as 3) [] h) : S_X3_become l G as h Q E :=
  Sem_of (by decide +kernel) (Nat.le_of_ble_eq_true hn) body
/-! X4_init -/
abbrev S_X4_init (l : Launch) (G : JG) : MS := Sem l G yX4_init (ws_ yX4_init cX4_init 1 none) 5 170 700
theorem yl_X4_init : YLk yX4_init (ws_ yX4_init cX4_init 1 none) 1 0 := ⟨lw_meth q252, q193, Or.inl ⟨_, _, q252⟩, by decide, by decide +kernel⟩
theorem s_X4_init {l : Launch} {G : JG} {Q : Int → MH → Prop} {E : Nat → Int → MH → Prop} {h : MH} {as : List LV} (hn : Nat.ble (enl as).length 1 = true) (body : ∀ K : JC, KI K l G yX4_init cX4_init 1 none [] 5 170 700 Q E h → JW K 0 (lv0 as 1) [] h) : S_X4_init l G as h Q E :=
  Sem_of (by decide +kernel) (Nat.le_of_ble_eq_true hn) body
/-! X4_none -/
abbrev S_X4_none (l : Launch) (G : JG) : MS := Sem l G yX4_none (ws_ yX4_none cX4_none 1 none) 4 150 700
theorem yl_X4_none : YLk yX4_none (ws_ yX4_none cX4_none 1 none) 1 0 := ⟨lw_meth q1317, q193, Or.inl ⟨_, _, q1317⟩, by decide, by decide +kernel⟩
theorem s_X4_none {l : Launch} {G : JG} {Q : Int → MH → Prop} {E : Nat → Int → MH → Prop} {h : MH} {as : List LV} (hn : Nat.ble (enl as).length 1 = true) (body : ∀ K : JC, KI K l G yX4_none cX4_none 1 none [] 4 150 700 Q E h → JW K 0 (lv0 as 1) [] h) : S_X4_none l G as h Q E :=
  Sem_of (by decide +kernel) (Nat.le_of_ble_eq_true hn) body
/-! X4_first -/
abbrev S_X4_first (l : Launch) (G : JG) : MS := Sem l G yX4_first (ws_ yX4_first cX4_first 2 (some (.object "FactHouse$Fact"))) 5 173 8
theorem yl_X4_first : YLk yX4_first (ws_ yX4_first cX4_first 2 (some (.object "FactHouse$Fact"))) 2 1 := ⟨lw_meth q1336, q193, Or.inl ⟨_, _, q1336⟩, by decide, by decide +kernel⟩
theorem s_X4_first {l : Launch} {G : JG} {Q : Int → MH → Prop} {E : Nat → Int → MH → Prop} {h : MH} {as : List LV} (hn : Nat.ble (enl as).length 2 = true) (body : ∀ K : JC, KI K l G yX4_first cX4_first 2 (some (.object "FactHouse$Fact")) [] 5 173 8 Q E h → JW K 0 (lv0 as 2) [] h) : S_X4_first l G as h Q E :=
  Sem_of (by decide +kernel) (Nat.le_of_ble_eq_true hn) body
/-! X4_number -/
abbrev S_X4_number (l : Launch) (G : JG) : MS := Sem l G yX4_number (ws_ yX4_number cX4_number 4 (some (.object "FactHouse$Fact"))) 4 150 8
theorem yl_X4_number : YLk yX4_number (ws_ yX4_number cX4_number 4 (some (.object "FactHouse$Fact"))) 4 3 := ⟨lw_meth q1340, q193, Or.inl ⟨_, _, q1340⟩, by decide, by decide +kernel⟩
theorem s_X4_number {l : Launch} {G : JG} {Q : Int → MH → Prop} {E : Nat → Int → MH → Prop} {h : MH} {as : List LV} (hn : Nat.ble (enl as).length 4 = true) (body : ∀ K : JC, KI K l G yX4_number cX4_number 4 (some (.object "FactHouse$Fact")) [] 4 150 8 Q E h → JW K 0 (lv0 as 4) [] h) : S_X4_number l G as h Q E :=
  Sem_of (by decide +kernel) (Nat.le_of_ble_eq_true hn) body
/-! X4_sites -/
abbrev S_X4_sites (l : Launch) (G : JG) : MS := Sem l G yX4_sites (ws_ yX4_sites cX4_sites 3 (some (.object "FactHouse$Fact"))) 4 150 8
theorem yl_X4_sites : YLk yX4_sites (ws_ yX4_sites cX4_sites 3 (some (.object "FactHouse$Fact"))) 3 1 := ⟨lw_meth q1344, q193, Or.inl ⟨_, _, q1344⟩, by decide, by decide +kernel⟩
theorem s_X4_sites {l : Launch} {G : JG} {Q : Int → MH → Prop} {E : Nat → Int → MH → Prop} {h : MH} {as : List LV} (hn : Nat.ble (enl as).length 3 = true) (body : ∀ K : JC, KI K l G yX4_sites cX4_sites 3 (some (.object "FactHouse$Fact")) [] 4 150 8 Q E h → JW K 0 (lv0 as 3) [] h) : S_X4_sites l G as h Q E :=
  Sem_of (by decide +kernel) (Nat.le_of_ble_eq_true hn) body
/-! X4_join -/
abbrev S_X4_join (l : Launch) (G : JG) : MS := Sem l G yX4_join (ws_ yX4_join cX4_join 3 (some .boolean)) 5 171 2
theorem yl_X4_join : YLk yX4_join (ws_ yX4_join cX4_join 3 (some .boolean)) 3 1 := ⟨lw_meth q1363, q193, Or.inl ⟨_, _, q1363⟩, by decide, by decide +kernel⟩
theorem s_X4_join {l : Launch} {G : JG} {Q : Int → MH → Prop} {E : Nat → Int → MH → Prop} {h : MH} {as : List LV} (hn : Nat.ble (enl as).length 3 = true) (body : ∀ K : JC, KI K l G yX4_join cX4_join 3 (some .boolean) [] 5 171 2 Q E h → JW K 0 (lv0 as 3) [] h) : S_X4_join l G as h Q E :=
  Sem_of (by decide +kernel) (Nat.le_of_ble_eq_true hn) body
/-! X4_become -/
abbrev S_X4_become (l : Launch) (G : JG) : MS := Sem l G yX4_become (ws_ yX4_become cX4_become 2 (some (.object "FactHouse$Fact"))) 4 150 8
theorem yl_X4_become : YLk yX4_become (ws_ yX4_become cX4_become 2 (some (.object "FactHouse$Fact"))) 2 1 := ⟨lw_meth q1367, q193, Or.inl ⟨_, _, q1367⟩, by decide, by decide +kernel⟩
theorem s_X4_become {l : Launch} {G : JG} {Q : Int → MH → Prop} {E : Nat → Int → MH → Prop} {h : MH} {as : List LV} (hn : Nat.ble (enl as).length 2 = true) (body : ∀ K : JC, KI K l G yX4_become cX4_become 2 (some (.object "FactHouse$Fact")) [] 4 150 8 Q E h → JW K 0 (lv0 as 2) [] h) : S_X4_become l G as h Q E :=
  Sem_of (by decide +kernel) (Nat.le_of_ble_eq_true hn) body
/-! X5_init -/
abbrev S_X5_init (l : Launch) (G : JG) : MS := Sem l G yX5_init (ws_ yX5_init cX5_init 1 none) 6 190 700
theorem yl_X5_init : YLk yX5_init (ws_ yX5_init cX5_init 1 none) 1 0 := ⟨lw_meth q312, q194, Or.inl ⟨_, _, q312⟩, by decide, by decide +kernel⟩
theorem s_X5_init {l : Launch} {G : JG} {Q : Int → MH → Prop} {E : Nat → Int → MH → Prop} {h : MH} {as : List LV} (hn : Nat.ble (enl as).length 1 = true) (body : ∀ K : JC, KI K l G yX5_init cX5_init 1 none [] 6 190 700 Q E h → JW K 0 (lv0 as 1) [] h) : S_X5_init l G as h Q E :=
  Sem_of (by decide +kernel) (Nat.le_of_ble_eq_true hn) body
/-! X5_none -/
abbrev S_X5_none (l : Launch) (G : JG) : MS := Sem l G yX5_none (ws_ yX5_none cX5_none 2 none) 5 170 700
theorem yl_X5_none : YLk yX5_none (ws_ yX5_none cX5_none 2 none) 2 0 := ⟨lw_meth q1330, q194, Or.inl ⟨_, _, q1330⟩, by decide, by decide +kernel⟩
theorem s_X5_none {l : Launch} {G : JG} {Q : Int → MH → Prop} {E : Nat → Int → MH → Prop} {h : MH} {as : List LV} (hn : Nat.ble (enl as).length 2 = true) (body : ∀ K : JC, KI K l G yX5_none cX5_none 2 none [] 5 170 700 Q E h → JW K 0 (lv0 as 2) [] h) : S_X5_none l G as h Q E :=
  Sem_of (by decide +kernel) (Nat.le_of_ble_eq_true hn) body
/-! X6_init -/
abbrev S_X6_init (l : Launch) (G : JG) : MS := Sem l G yX6_init (ws_ yX6_init cX6_init 1 none) 6 190 700
theorem yl_X6_init : YLk yX6_init (ws_ yX6_init cX6_init 1 none) 1 0 := ⟨lw_meth q356, q195, Or.inl ⟨_, _, q356⟩, by decide, by decide +kernel⟩
theorem s_X6_init {l : Launch} {G : JG} {Q : Int → MH → Prop} {E : Nat → Int → MH → Prop} {h : MH} {as : List LV} (hn : Nat.ble (enl as).length 1 = true) (body : ∀ K : JC, KI K l G yX6_init cX6_init 1 none [] 6 190 700 Q E h → JW K 0 (lv0 as 1) [] h) : S_X6_init l G as h Q E :=
  Sem_of (by decide +kernel) (Nat.le_of_ble_eq_true hn) body
/-! X6_none -/
abbrev S_X6_none (l : Launch) (G : JG) : MS := Sem l G yX6_none (ws_ yX6_none cX6_none 2 none) 5 170 700
theorem yl_X6_none : YLk yX6_none (ws_ yX6_none cX6_none 2 none) 2 0 := ⟨lw_meth q1321, q195, Or.inl ⟨_, _, q1321⟩, by decide, by decide +kernel⟩
theorem s_X6_none {l : Launch} {G : JG} {Q : Int → MH → Prop} {E : Nat → Int → MH → Prop} {h : MH} {as : List LV} (hn : Nat.ble (enl as).length 2 = true) (body : ∀ K : JC, KI K l G yX6_none cX6_none 2 none [] 5 170 700 Q E h → JW K 0 (lv0 as 2) [] h) : S_X6_none l G as h Q E :=
  Sem_of (by decide +kernel) (Nat.le_of_ble_eq_true hn) body
/-! X7_init -/
abbrev S_X7_init (l : Launch) (G : JG) : MS := Sem l G yX7_init (ws_ yX7_init cX7_init 1 none) 5 170 700
theorem yl_X7_init : YLk yX7_init (ws_ yX7_init cX7_init 1 none) 1 0 := ⟨lw_meth q470, q196, Or.inl ⟨_, _, q470⟩, by decide, by decide +kernel⟩
theorem s_X7_init {l : Launch} {G : JG} {Q : Int → MH → Prop} {E : Nat → Int → MH → Prop} {h : MH} {as : List LV} (hn : Nat.ble (enl as).length 1 = true) (body : ∀ K : JC, KI K l G yX7_init cX7_init 1 none [] 5 170 700 Q E h → JW K 0 (lv0 as 1) [] h) : S_X7_init l G as h Q E :=
  Sem_of (by decide +kernel) (Nat.le_of_ble_eq_true hn) body
/-! X7_find -/
abbrev S_X7_find (l : Launch) (G : JG) : MS := Sem l G yX7_find (ws_ yX7_find cX7_find 6 none) 10 302 700
theorem yl_X7_find : YLk yX7_find (ws_ yX7_find cX7_find 6 none) 6 3 := ⟨lw_meth q1595, q196, Or.inl ⟨_, _, q1595⟩, by decide, by decide +kernel⟩
theorem s_X7_find {l : Launch} {G : JG} {Q : Int → MH → Prop} {E : Nat → Int → MH → Prop} {h : MH} {as : List LV} (hn : Nat.ble (enl as).length 6 = true) (body : ∀ K : JC, KI K l G yX7_find cX7_find 6 none [] 10 302 700 Q E h → JW K 0 (lv0 as 6) [] h) : S_X7_find l G as h Q E :=
  Sem_of (by decide +kernel) (Nat.le_of_ble_eq_true hn) body
/-! X7_findCalls -/
abbrev S_X7_findCalls (l : Launch) (G : JG) : MS := Sem l G yX7_findCalls (ws_ yX7_findCalls cX7_findCalls 2 none) 5 172 700
theorem yl_X7_findCalls : YLk yX7_findCalls (ws_ yX7_findCalls cX7_findCalls 2 none) 2 0 := ⟨lw_meth q1599, q196, Or.inl ⟨_, _, q1599⟩, by decide, by decide +kernel⟩
theorem s_X7_findCalls {l : Launch} {G : JG} {Q : Int → MH → Prop} {E : Nat → Int → MH → Prop} {h : MH} {as : List LV} (hn : Nat.ble (enl as).length 2 = true) (body : ∀ K : JC, KI K l G yX7_findCalls cX7_findCalls 2 none [] 5 172 700 Q E h → JW K 0 (lv0 as 2) [] h) : S_X7_findCalls l G as h Q E :=
  Sem_of (by decide +kernel) (Nat.le_of_ble_eq_true hn) body
/-! X7_isReached -/
abbrev S_X7_isReached (l : Launch) (G : JG) : MS := Sem l G yX7_isReached (ws_ yX7_isReached cX7_isReached 2 (some .boolean)) 4 150 2
theorem yl_X7_isReached : YLk yX7_isReached (ws_ yX7_isReached cX7_isReached 2 (some .boolean)) 2 1 := ⟨lw_meth q1603, q196, Or.inl ⟨_, _, q1603⟩, by decide, by decide +kernel⟩
theorem s_X7_isReached {l : Launch} {G : JG} {Q : Int → MH → Prop} {E : Nat → Int → MH → Prop} {h : MH} {as : List LV} (hn : Nat.ble (enl as).length 2 = true) (body : ∀ K : JC, KI K l G yX7_isReached cX7_isReached 2 (some .boolean) [] 4 150 2 Q E h → JW K 0 (lv0 as 2) [] h) : S_X7_isReached l G as h Q E :=
  Sem_of (by decide +kernel) (Nat.le_of_ble_eq_true hn) body
/-! X7_op -/
abbrev S_X7_op (l : Launch) (G : JG) : MS := Sem l G yX7_op (ws_ yX7_op cX7_op 3 (some .int)) 4 150 0
theorem yl_X7_op : YLk yX7_op (ws_ yX7_op cX7_op 3 (some .int)) 3 1 := ⟨lw_meth q1607, q196, Or.inl ⟨_, _, q1607⟩, by decide, by decide +kernel⟩
theorem s_X7_op {l : Launch} {G : JG} {Q : Int → MH → Prop} {E : Nat → Int → MH → Prop} {h : MH} {as : List LV} (hn : Nat.ble (enl as).length 3 = true) (body : ∀ K : JC, KI K l G yX7_op cX7_op 3 (some .int) [] 4 150 0 Q E h → JW K 0 (lv0 as 3) [] h) : S_X7_op l G as h Q E :=
  Sem_of (by decide +kernel) (Nat.le_of_ble_eq_true hn) body
/-! X7_findOrigins -/
abbrev S_X7_findOrigins (l : Launch) (G : JG) : MS := Sem l G yX7_findOrigins (ws_ yX7_findOrigins cX7_findOrigins 4 none) 5 177 700
theorem yl_X7_findOrigins : YLk yX7_findOrigins (ws_ yX7_findOrigins cX7_findOrigins 4 none) 4 0 := ⟨lw_meth q1611, q196, Or.inl ⟨_, _, q1611⟩, by decide, by decide +kernel⟩
theorem s_X7_findOrigins {l : Launch} {G : JG} {Q : Int → MH → Prop} {E : Nat → Int → MH → Prop} {h : MH} {as : List LV} (hn : Nat.ble (enl as).length 4 = true) (body : ∀ K : JC, KI K l G yX7_findOrigins cX7_findOrigins 4 none [] 5 177 700 Q E h → JW K 0 (lv0 as 4) [] h) : S_X7_findOrigins l G as h Q E :=
  Sem_of (by decide +kernel) (Nat.le_of_ble_eq_true hn) body
/-! X7_closure -/
abbrev S_X7_closure (l : Launch) (G : JG) : MS := Sem l G yX7_closure (ws_ yX7_closure cX7_closure 8 (some .long)) 4 150 1
theorem yl_X7_closure : YLk yX7_closure (ws_ yX7_closure cX7_closure 8 (some .long)) 8 1 := ⟨lw_meth q1615, q196, Or.inl ⟨_, _, q1615⟩, by decide, by decide +kernel⟩
theorem s_X7_closure {l : Launch} {G : JG} {Q : Int → MH → Prop} {E : Nat → Int → MH → Prop} {h : MH} {as : List LV} (hn : Nat.ble (enl as).length 8 = true) (body : ∀ K : JC, KI K l G yX7_closure cX7_closure 8 (some .long) [] 4 150 1 Q E h → JW K 0 (lv0 as 8) [] h) : S_X7_closure l G as h Q E :=
  Sem_of (by decide +kernel) (Nat.le_of_ble_eq_true hn) body
/-! X7_findRings -/
abbrev S_X7_findRings (l : Launch) (G : JG) : MS := Sem l G yX7_findRings (ws_ yX7_findRings cX7_findRings 2 none) 5 172 700
theorem yl_X7_findRings : YLk yX7_findRings (ws_ yX7_findRings cX7_findRings 2 none) 2 0 := ⟨lw_meth q1619, q196, Or.inl ⟨_, _, q1619⟩, by decide, by decide +kernel⟩
theorem s_X7_findRings {l : Launch} {G : JG} {Q : Int → MH → Prop} {E : Nat → Int → MH → Prop} {h : MH} {as : List LV} (hn : Nat.ble (enl as).length 2 = true) (body : ∀ K : JC, KI K l G yX7_findRings cX7_findRings 2 none [] 5 172 700 Q E h → JW K 0 (lv0 as 2) [] h) : S_X7_findRings l G as h Q E :=
  Sem_of (by decide +kernel) (Nat.le_of_ble_eq_true hn) body
/-! X7_x -/
abbrev S_X7_x (l : Launch) (G : JG) : MS := Sem l G yX7_x (ws_ yX7_x cX7_x 3 (some .int)) 4 150 0
theorem yl_X7_x : YLk yX7_x (ws_ yX7_x cX7_x 3 (some .int)) 3 1 := ⟨lw_meth q1623, q196, Or.inl ⟨_, _, q1623⟩, by decide, by decide +kernel⟩
theorem s_X7_x {l : Launch} {G : JG} {Q : Int → MH → Prop} {E : Nat → Int → MH → Prop} {h : MH} {as : List LV} (hn : Nat.ble (enl as).length 3 = true) (body : ∀ K : JC, KI K l G yX7_x cX7_x 3 (some .int) [] 4 150 0 Q E h → JW K 0 (lv0 as 3) [] h) : S_X7_x l G as h Q E :=
  Sem_of (by decide +kernel) (Nat.le_of_ble_eq_true hn) body
/-! X7_findLive -/
abbrev S_X7_findLive (l : Launch) (G : JG) : MS := Sem l G yX7_findLive (ws_ yX7_findLive cX7_findLive 2 none) 9 281 700
theorem yl_X7_findLive : YLk yX7_findLive (ws_ yX7_findLive cX7_findLive 2 none) 2 0 := ⟨lw_meth q1627, q196, Or.inl ⟨_, _, q1627⟩, by decide, by decide +kernel⟩
theorem s_X7_findLive {l : Launch} {G : JG} {Q : Int → MH → Prop} {E : Nat → Int → MH → Prop} {h : MH} {as : List LV} (hn : Nat.ble (enl as).length 2 = true) (body : ∀ K : JC, KI K l G yX7_findLive cX7_findLive 2 none [] 9 281 700 Q E h → JW K 0 (lv0 as 2) [] h) : S_X7_findLive l G as h Q E :=
  Sem_of (by decide +kernel) (Nat.le_of_ble_eq_true hn) body
/-! X7_findLive_2 -/
abbrev S_X7_findLive_2 (l : Launch) (G : JG) : MS := Sem l G yX7_findLive_2 (ws_ yX7_findLive_2 cX7_findLive_2 7 none) 8 255 700
theorem yl_X7_findLive_2 : YLk yX7_findLive_2 (ws_ yX7_findLive_2 cX7_findLive_2 7 none) 7 1 := ⟨lw_meth q1631, q196, Or.inl ⟨_, _, q1631⟩, by decide, by decide +kernel⟩
theorem s_X7_findLive_2 {l : Launch} {G : JG} {Q : Int → MH → Prop} {E : Nat → Int → MH → Prop} {h : MH} {as : List LV} (hn : Nat.ble (enl as).length 7 = true) (body : ∀ K : JC, KI K l G yX7_findLive_2 cX7_findLive_2 7 none [] 8 255 700 Q E h → JW K 0 (lv0 as 7) [] h) : S_X7_findLive_2 l G as h Q E :=
  Sem_of (by decide +kernel) (Nat.le_of_ble_eq_true hn) body
/-! X7_liveBehind -/
abbrev S_X7_liveBehind (l : Launch) (G : JG) : MS := Sem l G yX7_liveBehind (ws_ yX7_liveBehind cX7_liveBehind 14 (some .int)) 7 222 0
theorem yl_X7_liveBehind : YLk yX7_liveBehind (ws_ yX7_liveBehind cX7_liveBehind 14 (some .int)) 14 3 := ⟨lw_meth q1639, q196, Or.inl ⟨_, _, q1639⟩, by decide, by decide +kernel⟩
theorem s_X7_liveBehind {l : Launch} {G : JG} {Q : Int → MH → Prop} {E : Nat → Int → MH → Prop} {h : MH} {as : List LV} (hn : Nat.ble (enl as).length 14 = true) (body : ∀ K : JC, KI K l G yX7_liveBehind cX7_liveBehind 14 (some .int) [] 7 222 0 Q E h → JW K 0 (lv0 as 14) [] h) : S_X7_liveBehind l G as h Q E :=
  Sem_of (by decide +kernel) (Nat.le_of_ble_eq_true hn) body
/-! X7_findTouched -/
abbrev S_X7_findTouched (l : Launch) (G : JG) : MS := Sem l G yX7_findTouched (ws_ yX7_findTouched cX7_findTouched 5 none) 5 176 700
theorem yl_X7_findTouched : YLk yX7_findTouched (ws_ yX7_findTouched cX7_findTouched 5 none) 5 1 := ⟨lw_meth q1649, q196, Or.inl ⟨_, _, q1649⟩, by decide, by decide +kernel⟩
theorem s_X7_findTouched {l : Launch} {G : JG} {Q : Int → MH → Prop} {E : Nat → Int → MH → Prop} {h : MH} {as : List LV} (hn : Nat.ble (enl as).length 5 = true) (body : ∀ K : JC, KI K l G yX7_findTouched cX7_findTouched 5 none [] 5 176 700 Q E h → JW K 0 (lv0 as 5) [] h) : S_X7_findTouched l G as h Q E :=
  Sem_of (by decide +kernel) (Nat.le_of_ble_eq_true hn) body
/-! X7_areSame -/
abbrev S_X7_areSame (l : Launch) (G : JG) : MS := Sem l G yX7_areSame (ws_ yX7_areSame cX7_areSame 7 (some .boolean)) 4 150 2
theorem yl_X7_areSame : YLk yX7_areSame (ws_ yX7_areSame cX7_areSame 7 (some .boolean)) 7 3 := ⟨lw_meth q1652, q196, Or.inl ⟨_, _, q1652⟩, by decide, by decide +kernel⟩
theorem s_X7_areSame {l : Launch} {G : JG} {Q : Int → MH → Prop} {E : Nat → Int → MH → Prop} {h : MH} {as : List LV} (hn : Nat.ble (enl as).length 7 = true) (body : ∀ K : JC, KI K l G yX7_areSame cX7_areSame 7 (some .boolean) [] 4 150 2 Q E h → JW K 0 (lv0 as 7) [] h) : S_X7_areSame l G as h Q E :=
  Sem_of (by decide +kernel) (Nat.le_of_ble_eq_true hn) body
/-! X7_together -/
abbrev S_X7_together (l : Launch) (G : JG) : MS := Sem l G yX7_together (ws_ yX7_together cX7_together 5 (some .boolean)) 4 150 2
theorem yl_X7_together : YLk yX7_together (ws_ yX7_together cX7_together 5 (some .boolean)) 5 2 := ⟨lw_meth q1656, q196, Or.inl ⟨_, _, q1656⟩, by decide, by decide +kernel⟩
theorem s_X7_together {l : Launch} {G : JG} {Q : Int → MH → Prop} {E : Nat → Int → MH → Prop} {h : MH} {as : List LV} (hn : Nat.ble (enl as).length 5 = true) (body : ∀ K : JC, KI K l G yX7_together cX7_together 5 (some .boolean) [] 4 150 2 Q E h → JW K 0 (lv0 as 5) [] h) : S_X7_together l G as h Q E :=
  Sem_of (by decide +kernel) (Nat.le_of_ble_eq_true hn) body
/-! X7_countRaces -/
abbrev S_X7_countRaces (l : Launch) (G : JG) : MS := Sem l G yX7_countRaces (ws_ yX7_countRaces cX7_countRaces 5 (some .int)) 6 198 0
theorem yl_X7_countRaces : YLk yX7_countRaces (ws_ yX7_countRaces cX7_countRaces 5 (some .int)) 5 1 := ⟨lw_meth q1786, q196, Or.inl ⟨_, _, q1786⟩, by decide, by decide +kernel⟩
theorem s_X7_countRaces {l : Launch} {G : JG} {Q : Int → MH → Prop} {E : Nat → Int → MH → Prop} {h : MH} {as : List LV} (hn : Nat.ble (enl as).length 5 = true) (body : ∀ K : JC, KI K l G yX7_countRaces cX7_countRaces 5 (some .int) [] 6 198 0 Q E h → JW K 0 (lv0 as 5) [] h) : S_X7_countRaces l G as h Q E :=
  Sem_of (by decide +kernel) (Nat.le_of_ble_eq_true hn) body
/-! X7_isUse -/
abbrev S_X7_isUse (l : Launch) (G : JG) : MS := Sem l G yX7_isUse (ws_ yX7_isUse cX7_isUse 2 (some .boolean)) 5 172 2
theorem yl_X7_isUse : YLk yX7_isUse (ws_ yX7_isUse cX7_isUse 2 (some .boolean)) 2 1 := ⟨lw_meth q1790, q196, Or.inl ⟨_, _, q1790⟩, by decide, by decide +kernel⟩
theorem s_X7_isUse {l : Launch} {G : JG} {Q : Int → MH → Prop} {E : Nat → Int → MH → Prop} {h : MH} {as : List LV} (hn : Nat.ble (enl as).length 2 = true) (body : ∀ K : JC, KI K l G yX7_isUse cX7_isUse 2 (some .boolean) [] 5 172 2 Q E h → JW K 0 (lv0 as 2) [] h) : S_X7_isUse l G as h Q E :=
  Sem_of (by decide +kernel) (Nat.le_of_ble_eq_true hn) body
/-! X7_meet -/
abbrev S_X7_meet (l : Launch) (G : JG) : MS := Sem l G yX7_meet (ws_ yX7_meet cX7_meet 7 (some .boolean)) 5 172 2
theorem yl_X7_meet : YLk yX7_meet (ws_ yX7_meet cX7_meet 7 (some .boolean)) 7 2 := ⟨lw_meth q1794, q196, Or.inl ⟨_, _, q1794⟩, by decide, by decide +kernel⟩
theorem s_X7_meet {l : Launch} {G : JG} {Q : Int → MH → Prop} {E : Nat → Int → MH → Prop} {h : MH} {as : List LV} (hn : Nat.ble (enl as).length 7 = true) (body : ∀ K : JC, KI K l G yX7_meet cX7_meet 7 (some .boolean) [] 5 172 2 Q E h → JW K 0 (lv0 as 7) [] h) : S_X7_meet l G as h Q E :=
  Sem_of (by decide +kernel) (Nat.le_of_ble_eq_true hn) body
/-! X7_uses -/
abbrev S_X7_uses (l : Launch) (G : JG) : MS := Sem l G yX7_uses (ws_ yX7_uses cX7_uses 2 (some .long)) 4 150 1
theorem yl_X7_uses : YLk yX7_uses (ws_ yX7_uses cX7_uses 2 (some .long)) 2 1 := ⟨lw_meth q1798, q196, Or.inl ⟨_, _, q1798⟩, by decide, by decide +kernel⟩
theorem s_X7_uses {l : Launch} {G : JG} {Q : Int → MH → Prop} {E : Nat → Int → MH → Prop} {h : MH} {as : List LV} (hn : Nat.ble (enl as).length 2 = true) (body : ∀ K : JC, KI K l G yX7_uses cX7_uses 2 (some .long) [] 4 150 1 Q E h → JW K 0 (lv0 as 2) [] h) : S_X7_uses l G as h Q E :=
  Sem_of (by decide +kernel) (Nat.le_of_ble_eq_true hn) body
/-! X7_rings -/
abbrev S_X7_rings (l : Launch) (G : JG) : MS := Sem l G yX7_rings (ws_ yX7_rings cX7_rings 3 (some .int)) 7 239 0
theorem yl_X7_rings : YLk yX7_rings (ws_ yX7_rings cX7_rings 3 (some .int)) 3 0 := ⟨lw_meth q1802, q196, Or.inl ⟨_, _, q1802⟩, by decide, by decide +kernel⟩
theorem s_X7_rings {l : Launch} {G : JG} {Q : Int → MH → Prop} {E : Nat → Int → MH → Prop} {h : MH} {as : List LV} (hn : Nat.ble (enl as).length 3 = true) (body : ∀ K : JC, KI K l G yX7_rings cX7_rings 3 (some .int) [] 7 239 0 Q E h → JW K 0 (lv0 as 3) [] h) : S_X7_rings l G as h Q E :=
  Sem_of (by decide +kernel) (Nat.le_of_ble_eq_true hn) body
/-! X8_init -/
abbrev S_X8_init (l : Launch) (G : JG) : MS := Sem l G yX8_init (ws_ yX8_init cX8_init 1 none) 5 170 700
theorem yl_X8_init : YLk yX8_init (ws_ yX8_init cX8_init 1 none) 1 0 := ⟨lw_meth q539, q197, Or.inl ⟨_, _, q539⟩, by decide, by decide +kernel⟩
theorem s_X8_init {l : Launch} {G : JG} {Q : Int → MH → Prop} {E : Nat → Int → MH → Prop} {h : MH} {as : List LV} (hn : Nat.ble (enl as).length 1 = true) (body : ∀ K : JC, KI K l G yX8_init cX8_init 1 none [] 5 170 700 Q E h → JW K 0 (lv0 as 1) [] h) : S_X8_init l G as h Q E :=
  Sem_of (by decide +kernel) (Nat.le_of_ble_eq_true hn) body
/-! X8_forget -/
abbrev S_X8_forget (l : Launch) (G : JG) : MS := Sem l G yX8_forget (ws_ yX8_forget cX8_forget 2 none) 4 150 700
theorem yl_X8_forget : YLk yX8_forget (ws_ yX8_forget cX8_forget 2 none) 2 0 := ⟨lw_meth q1169, q197, Or.inl ⟨_, _, q1169⟩, by decide, by decide +kernel⟩
theorem s_X8_forget {l : Launch} {G : JG} {Q : Int → MH → Prop} {E : Nat → Int → MH → Prop} {h : MH} {as : List LV} (hn : Nat.ble (enl as).length 2 = true) (body : ∀ K : JC, KI K l G yX8_forget cX8_forget 2 none [] 4 150 700 Q E h → JW K 0 (lv0 as 2) [] h) : S_X8_forget l G as h Q E :=
  Sem_of (by decide +kernel) (Nat.le_of_ble_eq_true hn) body
/-! X8_input -/
abbrev S_X8_input (l : Launch) (G : JG) : MS := Sem l G yX8_input (ws_ yX8_input cX8_input 2 (some .int)) 4 150 0
theorem yl_X8_input : YLk yX8_input (ws_ yX8_input cX8_input 2 (some .int)) 2 1 := ⟨lw_meth q1828, q197, Or.inl ⟨_, _, q1828⟩, by decide, by decide +kernel⟩
theorem s_X8_input {l : Launch} {G : JG} {Q : Int → MH → Prop} {E : Nat → Int → MH → Prop} {h : MH} {as : List LV} (hn : Nat.ble (enl as).length 2 = true) (body : ∀ K : JC, KI K l G yX8_input cX8_input 2 (some .int) [] 4 150 0 Q E h → JW K 0 (lv0 as 2) [] h) : S_X8_input l G as h Q E :=
  Sem_of (by decide +kernel) (Nat.le_of_ble_eq_true hn) body
/-! X8_walk -/
abbrev S_X8_walk (l : Launch) (G : JG) : MS := Sem l G yX8_walk (ws_ yX8_walk cX8_walk 7 (some .int)) 11 337 0
theorem yl_X8_walk : YLk yX8_walk (ws_ yX8_walk cX8_walk 7 (some .int)) 7 4 := ⟨lw_meth q1841, q197, Or.inl ⟨_, _, q1841⟩, by decide, by decide +kernel⟩
theorem s_X8_walk {l : Launch} {G : JG} {Q : Int → MH → Prop} {E : Nat → Int → MH → Prop} {h : MH} {as : List LV} (hn : Nat.ble (enl as).length 7 = true) (body : ∀ K : JC, KI K l G yX8_walk cX8_walk 7 (some .int) [] 11 337 0 Q E h → JW K 0 (lv0 as 7) [] h) : S_X8_walk l G as h Q E :=
  Sem_of (by decide +kernel) (Nat.le_of_ble_eq_true hn) body
/-! X8_begin -/
abbrev S_X8_begin (l : Launch) (G : JG) : MS := Sem l G yX8_begin (ws_ yX8_begin cX8_begin 3 none) 4 150 700
theorem yl_X8_begin : YLk yX8_begin (ws_ yX8_begin cX8_begin 3 none) 3 1 := ⟨lw_meth q1845, q197, Or.inl ⟨_, _, q1845⟩, by decide, by decide +kernel⟩
theorem s_X8_begin {l : Launch} {G : JG} {Q : Int → MH → Prop} {E : Nat → Int → MH → Prop} {h : MH} {as : List LV} (hn : Nat.ble (enl as).length 3 = true) (body : ∀ K : JC, KI K l G yX8_begin cX8_begin 3 none [] 4 150 700 Q E h → JW K 0 (lv0 as 3) [] h) : S_X8_begin l G as h Q E :=
  Sem_of (by decide +kernel) (Nat.le_of_ble_eq_true hn) body
/-! X8_addThread -/
abbrev S_X8_addThread (l : Launch) (G : JG) : MS := Sem l G yX8_addThread (ws_ yX8_addThread cX8_addThread 2 none) 5 173 700
theorem yl_X8_addThread : YLk yX8_addThread (ws_ yX8_addThread cX8_addThread 2 none) 2 1 := ⟨lw_meth q1849, q197, Or.inl ⟨_, _, q1849⟩, by decide, by decide +kernel⟩
theorem s_X8_addThread {l : Launch} {G : JG} {Q : Int → MH → Prop} {E : Nat → Int → MH → Prop} {h : MH} {as : List LV} (hn : Nat.ble (enl as).length 2 = true) (body : ∀ K : JC, KI K l G yX8_addThread cX8_addThread 2 none [] 5 173 700 Q E h → JW K 0 (lv0 as 2) [] h) : S_X8_addThread l G as h Q E :=
  Sem_of (by decide +kernel) (Nat.le_of_ble_eq_true hn) body
/-! X8_pushFrame -/
abbrev S_X8_pushFrame (l : Launch) (G : JG) : MS := Sem l G yX8_pushFrame (ws_ yX8_pushFrame cX8_pushFrame 4 none) 4 150 700
theorem yl_X8_pushFrame : YLk yX8_pushFrame (ws_ yX8_pushFrame cX8_pushFrame 4 none) 4 1 := ⟨lw_meth q1853, q197, Or.inl ⟨_, _, q1853⟩, by decide, by decide +kernel⟩
theorem s_X8_pushFrame {l : Launch} {G : JG} {Q : Int → MH → Prop} {E : Nat → Int → MH → Prop} {h : MH} {as : List LV} (hn : Nat.ble (enl as).length 4 = true) (body : ∀ K : JC, KI K l G yX8_pushFrame cX8_pushFrame 4 none [] 4 150 700 Q E h → JW K 0 (lv0 as 4) [] h) : S_X8_pushFrame l G as h Q E :=
  Sem_of (by decide +kernel) (Nat.le_of_ble_eq_true hn) body
/-! X8_nextInput -/
abbrev S_X8_nextInput (l : Launch) (G : JG) : MS := Sem l G yX8_nextInput (ws_ yX8_nextInput cX8_nextInput 1 (some .int)) 4 150 0
theorem yl_X8_nextInput : YLk yX8_nextInput (ws_ yX8_nextInput cX8_nextInput 1 (some .int)) 1 0 := ⟨lw_meth q1857, q197, Or.inl ⟨_, _, q1857⟩, by decide, by decide +kernel⟩
theorem s_X8_nextInput {l : Launch} {G : JG} {Q : Int → MH → Prop} {E : Nat → Int → MH → Prop} {h : MH} {as : List LV} (hn : Nat.ble (enl as).length 1 = true) (body : ∀ K : JC, KI K l G yX8_nextInput cX8_nextInput 1 (some .int) [] 4 150 0 Q E h → JW K 0 (lv0 as 1) [] h) : S_X8_nextInput l G as h Q E :=
  Sem_of (by decide +kernel) (Nat.le_of_ble_eq_true hn) body
/-! X8_turns -/
abbrev S_X8_turns (l : Launch) (G : JG) : MS := Sem l G yX8_turns (ws_ yX8_turns cX8_turns 6 (some .int)) 10 312 0
theorem yl_X8_turns : YLk yX8_turns (ws_ yX8_turns cX8_turns 6 (some .int)) 6 2 := ⟨lw_meth q1861, q197, Or.inl ⟨_, _, q1861⟩, by decide, by decide +kernel⟩
theorem s_X8_turns {l : Launch} {G : JG} {Q : Int → MH → Prop} {E : Nat → Int → MH → Prop} {h : MH} {as : List LV} (hn : Nat.ble (enl as).length 6 = true) (body : ∀ K : JC, KI K l G yX8_turns cX8_turns 6 (some .int) [] 10 312 0 Q E h → JW K 0 (lv0 as 6) [] h) : S_X8_turns l G as h Q E :=
  Sem_of (by decide +kernel) (Nat.le_of_ble_eq_true hn) body
/-! X8_canGo -/
abbrev S_X8_canGo (l : Launch) (G : JG) : MS := Sem l G yX8_canGo (ws_ yX8_canGo cX8_canGo 3 (some .boolean)) 5 171 2
theorem yl_X8_canGo : YLk yX8_canGo (ws_ yX8_canGo cX8_canGo 3 (some .boolean)) 3 0 := ⟨lw_meth q1865, q197, Or.inl ⟨_, _, q1865⟩, by decide, by decide +kernel⟩
theorem s_X8_canGo {l : Launch} {G : JG} {Q : Int → MH → Prop} {E : Nat → Int → MH → Prop} {h : MH} {as : List LV} (hn : Nat.ble (enl as).length 3 = true) (body : ∀ K : JC, KI K l G yX8_canGo cX8_canGo 3 (some .boolean) [] 5 171 2 Q E h → JW K 0 (lv0 as 3) [] h) : S_X8_canGo l G as h Q E :=
  Sem_of (by decide +kernel) (Nat.le_of_ble_eq_true hn) body
/-! X8_load -/
abbrev S_X8_load (l : Launch) (G : JG) : MS := Sem l G yX8_load (ws_ yX8_load cX8_load 2 none) 4 150 700
theorem yl_X8_load : YLk yX8_load (ws_ yX8_load cX8_load 2 none) 2 0 := ⟨lw_meth q1869, q197, Or.inl ⟨_, _, q1869⟩, by decide, by decide +kernel⟩
theorem s_X8_load {l : Launch} {G : JG} {Q : Int → MH → Prop} {E : Nat → Int → MH → Prop} {h : MH} {as : List LV} (hn : Nat.ble (enl as).length 2 = true) (body : ∀ K : JC, KI K l G yX8_load cX8_load 2 none [] 4 150 700 Q E h → JW K 0 (lv0 as 2) [] h) : S_X8_load l G as h Q E :=
  Sem_of (by decide +kernel) (Nat.le_of_ble_eq_true hn) body
/-! X8_at -/
abbrev S_X8_at (l : Launch) (G : JG) : MS := Sem l G yX8_at (ws_ yX8_at cX8_at 1 (some .int)) 4 150 0
theorem yl_X8_at : YLk yX8_at (ws_ yX8_at cX8_at 1 (some .int)) 1 0 := ⟨lw_meth q1873, q197, Or.inl ⟨_, _, q1873⟩, by decide, by decide +kernel⟩
theorem s_X8_at {l : Launch} {G : JG} {Q : Int → MH → Prop} {E : Nat → Int → MH → Prop} {h : MH} {as : List LV} (hn : Nat.ble (enl as).length 1 = true) (body : ∀ K : JC, KI K l G yX8_at cX8_at 1 (some .int) [] 4 150 0 Q E h → JW K 0 (lv0 as 1) [] h) : S_X8_at l G as h Q E :=
  Sem_of (by decide +kernel) (Nat.le_of_ble_eq_true hn) body
/-! X8_step -/
abbrev S_X8_step (l : Launch) (G : JG) : MS := Sem l G yX8_step (ws_ yX8_step cX8_step 3 none) 9 290 700
theorem yl_X8_step : YLk yX8_step (ws_ yX8_step cX8_step 3 none) 3 0 := ⟨lw_meth q1877, q197, Or.inl ⟨_, _, q1877⟩, by decide, by decide +kernel⟩
theorem s_X8_step {l : Launch} {G : JG} {Q : Int → MH → Prop} {E : Nat → Int → MH → Prop} {h : MH} {as : List LV} (hn : Nat.ble (enl as).length 3 = true) (body : ∀ K : JC, KI K l G yX8_step cX8_step 3 none [] 9 290 700 Q E h → JW K 0 (lv0 as 3) [] h) : S_X8_step l G as h Q E :=
  Sem_of (by decide +kernel) (Nat.le_of_ble_eq_true hn) body
/-! X8_simple -/
abbrev S_X8_simple (l : Launch) (G : JG) : MS := Sem l G yX8_simple (ws_ yX8_simple cX8_simple 7 none) 5 172 700
theorem yl_X8_simple : YLk yX8_simple (ws_ yX8_simple cX8_simple 7 none) 7 4 := ⟨lw_meth q1881, q197, Or.inl ⟨_, _, q1881⟩, by decide, by decide +kernel⟩
theorem s_X8_simple {l : Launch} {G : JG} {Q : Int → MH → Prop} {E : Nat → Int → MH → Prop} {h : MH} {as : List LV} (hn : Nat.ble (enl as).length 7 = true) (body : ∀ K : JC, KI K l G yX8_simple cX8_simple 7 none [] 5 172 700 Q E h → JW K 0 (lv0 as 7) [] h) : S_X8_simple l G as h Q E :=
  Sem_of (by decide +kernel) (Nat.le_of_ble_eq_true hn) body
/-! X8_put -/
abbrev S_X8_put (l : Launch) (G : JG) : MS := Sem l G yX8_put (ws_ yX8_put cX8_put 2 none) 4 150 700
theorem yl_X8_put : YLk yX8_put (ws_ yX8_put cX8_put 2 none) 2 1 := ⟨lw_meth q1885, q197, Or.inl ⟨_, _, q1885⟩, by decide, by decide +kernel⟩
theorem s_X8_put {l : Launch} {G : JG} {Q : Int → MH → Prop} {E : Nat → Int → MH → Prop} {h : MH} {as : List LV} (hn : Nat.ble (enl as).length 2 = true) (body : ∀ K : JC, KI K l G yX8_put cX8_put 2 none [] 4 150 700 Q E h → JW K 0 (lv0 as 2) [] h) : S_X8_put l G as h Q E :=
  Sem_of (by decide +kernel) (Nat.le_of_ble_eq_true hn) body
/-! X8_take -/
abbrev S_X8_take (l : Launch) (G : JG) : MS := Sem l G yX8_take (ws_ yX8_take cX8_take 1 (some .int)) 4 150 0
theorem yl_X8_take : YLk yX8_take (ws_ yX8_take cX8_take 1 (some .int)) 1 0 := ⟨lw_meth q1889, q197, Or.inl ⟨_, _, q1889⟩, by decide, by decide +kernel⟩
theorem s_X8_take {l : Launch} {G : JG} {Q : Int → MH → Prop} {E : Nat → Int → MH → Prop} {h : MH} {as : List LV} (hn : Nat.ble (enl as).length 1 = true) (body : ∀ K : JC, KI K l G yX8_take cX8_take 1 (some .int) [] 4 150 0 Q E h → JW K 0 (lv0 as 1) [] h) : S_X8_take l G as h Q E :=
  Sem_of (by decide +kernel) (Nat.le_of_ble_eq_true hn) body
/-! X8_goOn -/
abbrev S_X8_goOn (l : Launch) (G : JG) : MS := Sem l G yX8_goOn (ws_ yX8_goOn cX8_goOn 3 none) 4 150 700
theorem yl_X8_goOn : YLk yX8_goOn (ws_ yX8_goOn cX8_goOn 3 none) 3 1 := ⟨lw_meth q1893, q197, Or.inl ⟨_, _, q1893⟩, by decide, by decide +kernel⟩
theorem s_X8_goOn {l : Launch} {G : JG} {Q : Int → MH → Prop} {E : Nat → Int → MH → Prop} {h : MH} {as : List LV} (hn : Nat.ble (enl as).length 3 = true) (body : ∀ K : JC, KI K l G yX8_goOn cX8_goOn 3 none [] 4 150 700 Q E h → JW K 0 (lv0 as 3) [] h) : S_X8_goOn l G as h Q E :=
  Sem_of (by decide +kernel) (Nat.le_of_ble_eq_true hn) body
/-! X8_numbers -/
abbrev S_X8_numbers (l : Launch) (G : JG) : MS := Sem l G yX8_numbers (ws_ yX8_numbers cX8_numbers 7 none) 7 222 700
theorem yl_X8_numbers : YLk yX8_numbers (ws_ yX8_numbers cX8_numbers 7 none) 7 4 := ⟨lw_meth q1897, q197, Or.inl ⟨_, _, q1897⟩, by decide, by decide +kernel⟩
theorem s_X8_numbers {l : Launch} {G : JG} {Q : Int → MH → Prop} {E : Nat → Int → MH → Prop} {h : MH} {as : List LV} (hn : Nat.ble (enl as).length 7 = true) (body : ∀ K : JC, KI K l G yX8_numbers cX8_numbers 7 none [] 7 222 700 Q E h → JW K 0 (lv0 as 7) [] h) : S_X8_numbers l G as h Q E :=
  Sem_of (by decide +kernel) (Nat.le_of_ble_eq_true hn) body
/-! X8_hurl -/
abbrev S_X8_hurl (l : Launch) (G : JG) : MS := Sem l G yX8_hurl (ws_ yX8_hurl cX8_hurl 7 none) 6 196 700
theorem yl_X8_hurl : YLk yX8_hurl (ws_ yX8_hurl cX8_hurl 7 none) 7 1 := ⟨lw_meth q1904, q197, Or.inl ⟨_, _, q1904⟩, by decide, by decide +kernel⟩
theorem s_X8_hurl {l : Launch} {G : JG} {Q : Int → MH → Prop} {E : Nat → Int → MH → Prop} {h : MH} {as : List LV} (hn : Nat.ble (enl as).length 7 = true) (body : ∀ K : JC, KI K l G yX8_hurl cX8_hurl 7 none [] 6 196 700 Q E h → JW K 0 (lv0 as 7) [] h) : S_X8_hurl l G as h Q E :=
  Sem_of (by decide +kernel) (Nat.le_of_ble_eq_true hn) body
/-! X8_jumps -/
abbrev S_X8_jumps (l : Launch) (G : JG) : MS := Sem l G yX8_jumps (ws_ yX8_jumps cX8_jumps 7 none) 6 196 700
theorem yl_X8_jumps : YLk yX8_jumps (ws_ yX8_jumps cX8_jumps 7 none) 7 4 := ⟨lw_meth q1909, q197, Or.inl ⟨_, _, q1909⟩, by decide, by decide +kernel⟩
theorem s_X8_jumps {l : Launch} {G : JG} {Q : Int → MH → Prop} {E : Nat → Int → MH → Prop} {h : MH} {as : List LV} (hn : Nat.ble (enl as).length 7 = true) (body : ∀ K : JC, KI K l G yX8_jumps cX8_jumps 7 none [] 6 196 700 Q E h → JW K 0 (lv0 as 7) [] h) : S_X8_jumps l G as h Q E :=
  Sem_of (by decide +kernel) (Nat.le_of_ble_eq_true hn) body
/-! X8_isSo -/
abbrev S_X8_isSo (l : Launch) (G : JG) : MS := Sem l G yX8_isSo (ws_ yX8_isSo cX8_isSo 3 (some .boolean)) 5 174 2
theorem yl_X8_isSo : YLk yX8_isSo (ws_ yX8_isSo cX8_isSo 3 (some .boolean)) 3 3 := ⟨lw_meth q1912, q197, Or.inl ⟨_, _, q1912⟩, by decide, by decide +kernel⟩
theorem s_X8_isSo {l : Launch} {G : JG} {Q : Int → MH → Prop} {E : Nat → Int → MH → Prop} {h : MH} {as : List LV} (hn : Nat.ble (enl as).length 3 = true) (body : ∀ K : JC, KI K l G yX8_isSo cX8_isSo 3 (some .boolean) [] 5 174 2 Q E h → JW K 0 (lv0 as 3) [] h) : S_X8_isSo l G as h Q E :=
  Sem_of (by decide +kernel) (Nat.le_of_ble_eq_true hn) body
/-! X8_objectActs -/
abbrev S_X8_objectActs (l : Launch) (G : JG) : MS := Sem l G yX8_objectActs (ws_ yX8_objectActs cX8_objectActs 9 none) 8 262 700
theorem yl_X8_objectActs : YLk yX8_objectActs (ws_ yX8_objectActs cX8_objectActs 9 none) 9 4 := ⟨lw_meth q1917, q197, Or.inl ⟨_, _, q1917⟩, by decide, by decide +kernel⟩
theorem s_X8_objectActs {l : Launch} {G : JG} {Q : Int → MH → Prop} {E : Nat → Int → MH → Prop} {h : MH} {as : List LV} (hn : Nat.ble (enl as).length 9 = true) (body : ∀ K : JC, KI K l G yX8_objectActs cX8_objectActs 9 none [] 8 262 700 Q E h → JW K 0 (lv0 as 9) [] h) : S_X8_objectActs l G as h Q E :=
  Sem_of (by decide +kernel) (Nat.le_of_ble_eq_true hn) body
/-! X8_make -/
abbrev S_X8_make (l : Launch) (G : JG) : MS := Sem l G yX8_make (ws_ yX8_make cX8_make 4 (some .int)) 7 239 0
theorem yl_X8_make : YLk yX8_make (ws_ yX8_make cX8_make 4 (some .int)) 4 2 := ⟨lw_meth q1921, q197, Or.inl ⟨_, _, q1921⟩, by decide, by decide +kernel⟩
theorem s_X8_make {l : Launch} {G : JG} {Q : Int → MH → Prop} {E : Nat → Int → MH → Prop} {h : MH} {as : List LV} (hn : Nat.ble (enl as).length 4 = true) (body : ∀ K : JC, KI K l G yX8_make cX8_make 4 (some .int) [] 7 239 0 Q E h → JW K 0 (lv0 as 4) [] h) : S_X8_make l G as h Q E :=
  Sem_of (by decide +kernel) (Nat.le_of_ble_eq_true hn) body
/-! X8_isArray -/
abbrev S_X8_isArray (l : Launch) (G : JG) : MS := Sem l G yX8_isArray (ws_ yX8_isArray cX8_isArray 3 (some .boolean)) 4 150 2
theorem yl_X8_isArray : YLk yX8_isArray (ws_ yX8_isArray cX8_isArray 3 (some .boolean)) 3 2 := ⟨lw_meth q1926, q197, Or.inl ⟨_, _, q1926⟩, by decide, by decide +kernel⟩
theorem s_X8_isArray {l : Launch} {G : JG} {Q : Int → MH → Prop} {E : Nat → Int → MH → Prop} {h : MH} {as : List LV} (hn : Nat.ble (enl as).length 3 = true) (body : ∀ K : JC, KI K l G yX8_isArray cX8_isArray 3 (some .boolean) [] 4 150 2 Q E h → JW K 0 (lv0 as 3) [] h) : S_X8_isArray l G as h Q E :=
  Sem_of (by decide +kernel) (Nat.le_of_ble_eq_true hn) body
/-! X8_element -/
abbrev S_X8_element (l : Launch) (G : JG) : MS := Sem l G yX8_element (ws_ yX8_element cX8_element 6 (some .boolean)) 7 222 2
theorem yl_X8_element : YLk yX8_element (ws_ yX8_element cX8_element 6 (some .boolean)) 6 2 := ⟨lw_meth q1930, q197, Or.inl ⟨_, _, q1930⟩, by decide, by decide +kernel⟩
theorem s_X8_element {l : Launch} {G : JG} {Q : Int → MH → Prop} {E : Nat → Int → MH → Prop} {h : MH} {as : List LV} (hn : Nat.ble (enl as).length 6 = true) (body : ∀ K : JC, KI K l G yX8_element cX8_element 6 (some .boolean) [] 7 222 2 Q E h → JW K 0 (lv0 as 6) [] h) : S_X8_element l G as h Q E :=
  Sem_of (by decide +kernel) (Nat.le_of_ble_eq_true hn) body
/-! X8_field -/
abbrev S_X8_field (l : Launch) (G : JG) : MS := Sem l G yX8_field (ws_ yX8_field cX8_field 6 (some .boolean)) 7 222 2
theorem yl_X8_field : YLk yX8_field (ws_ yX8_field cX8_field 6 (some .boolean)) 6 3 := ⟨lw_meth q1935, q197, Or.inl ⟨_, _, q1935⟩, by decide, by decide +kernel⟩
theorem s_X8_field {l : Launch} {G : JG} {Q : Int → MH → Prop} {E : Nat → Int → MH → Prop} {h : MH} {as : List LV} (hn : Nat.ble (enl as).length 6 = true) (body : ∀ K : JC, KI K l G yX8_field cX8_field 6 (some .boolean) [] 7 222 2 Q E h → JW K 0 (lv0 as 6) [] h) : S_X8_field l G as h Q E :=
  Sem_of (by decide +kernel) (Nat.le_of_ble_eq_true hn) body
/-! X8_calls -/
abbrev S_X8_calls (l : Launch) (G : JG) : MS := Sem l G yX8_calls (ws_ yX8_calls cX8_calls 10 none) 7 222 700
theorem yl_X8_calls : YLk yX8_calls (ws_ yX8_calls cX8_calls 10 none) 10 4 := ⟨lw_meth q1939, q197, Or.inl ⟨_, _, q1939⟩, by decide, by decide +kernel⟩
theorem s_X8_calls {l : Launch} {G : JG} {Q : Int → MH → Prop} {E : Nat → Int → MH → Prop} {h : MH} {as : List LV} (hn : Nat.ble (enl as).length 10 = true) (body : ∀ K : JC, KI K l G yX8_calls cX8_calls 10 none [] 7 222 700 Q E h → JW K 0 (lv0 as 10) [] h) : S_X8_calls l G as h Q E :=
  Sem_of (by decide +kernel) (Nat.le_of_ble_eq_true hn) body
/-! X8_call -/
abbrev S_X8_call (l : Launch) (G : JG) : MS := Sem l G yX8_call (ws_ yX8_call cX8_call 5 none) 5 173 700
theorem yl_X8_call : YLk yX8_call (ws_ yX8_call cX8_call 5 none) 5 2 := ⟨lw_meth q1943, q197, Or.inl ⟨_, _, q1943⟩, by decide, by decide +kernel⟩
theorem s_X8_call {l : Launch} {G : JG} {Q : Int → MH → Prop} {E : Nat → Int → MH → Prop} {h : MH} {as : List LV} (hn : Nat.ble (enl as).length 5 = true) (body : ∀ K : JC, KI K l G yX8_call cX8_call 5 none [] 5 173 700 Q E h → JW K 0 (lv0 as 5) [] h) : S_X8_call l G as h Q E :=
  Sem_of (by decide +kernel) (Nat.le_of_ble_eq_true hn) body
/-! X8_leave -/
abbrev S_X8_leave (l : Launch) (G : JG) : MS := Sem l G yX8_leave (ws_ yX8_leave cX8_leave 3 none) 5 172 700
theorem yl_X8_leave : YLk yX8_leave (ws_ yX8_leave cX8_leave 3 none) 3 2 := ⟨lw_meth q1949, q197, Or.inl ⟨_, _, q1949⟩, by decide, by decide +kernel⟩
theorem s_X8_leave {l : Launch} {G : JG} {Q : Int → MH → Prop} {E : Nat → Int → MH → Prop} {h : MH} {as : List LV} (hn : Nat.ble (enl as).length 3 = true) (body : ∀ K : JC, KI K l G yX8_leave cX8_leave 3 none [] 5 172 700 Q E h → JW K 0 (lv0 as 3) [] h) : S_X8_leave l G as h Q E :=
  Sem_of (by decide +kernel) (Nat.le_of_ble_eq_true hn) body
/-! X8_locks -/
abbrev S_X8_locks (l : Launch) (G : JG) : MS := Sem l G yX8_locks (ws_ yX8_locks cX8_locks 4 none) 8 247 700
theorem yl_X8_locks : YLk yX8_locks (ws_ yX8_locks cX8_locks 4 none) 4 3 := ⟨lw_meth q1953, q197, Or.inl ⟨_, _, q1953⟩, by decide, by decide +kernel⟩
theorem s_X8_locks {l : Launch} {G : JG} {Q : Int → MH → Prop} {E : Nat → Int → MH → Prop} {h : MH} {as : List LV} (hn : Nat.ble (enl as).length 4 = true) (body : ∀ K : JC, KI K l G yX8_locks cX8_locks 4 none [] 8 247 700 Q E h → JW K 0 (lv0 as 4) [] h) : S_X8_locks l G as h Q E :=
  Sem_of (by decide +kernel) (Nat.le_of_ble_eq_true hn) body
/-! X8_start -/
abbrev S_X8_start (l : Launch) (G : JG) : MS := Sem l G yX8_start (ws_ yX8_start cX8_start 6 none) 7 222 700
theorem yl_X8_start : YLk yX8_start (ws_ yX8_start cX8_start 6 none) 6 2 := ⟨lw_meth q1957, q197, Or.inl ⟨_, _, q1957⟩, by decide, by decide +kernel⟩
theorem s_X8_start {l : Launch} {G : JG} {Q : Int → MH → Prop} {E : Nat → Int → MH → Prop} {h : MH} {as : List LV} (hn : Nat.ble (enl as).length 6 = true) (body : ∀ K : JC, KI K l G yX8_start cX8_start 6 none [] 7 222 700 Q E h → JW K 0 (lv0 as 6) [] h) : S_X8_start l G as h Q E :=
  Sem_of (by decide +kernel) (Nat.le_of_ble_eq_true hn) body
/-! X8_about -/
abbrev S_X8_about (l : Launch) (G : JG) : MS := Sem l G yX8_about (ws_ yX8_about cX8_about 2 (some .int)) 4 150 0
theorem yl_X8_about : YLk yX8_about (ws_ yX8_about cX8_about 2 (some .int)) 2 1 := ⟨lw_meth q1968, q197, Or.inl ⟨_, _, q1968⟩, by decide, by decide +kernel⟩
theorem s_X8_about {l : Launch} {G : JG} {Q : Int → MH → Prop} {E : Nat → Int → MH → Prop} {h : MH} {as : List LV} (hn : Nat.ble (enl as).length 2 = true) (body : ∀ K : JC, KI K l G yX8_about cX8_about 2 (some .int) [] 4 150 0 Q E h → JW K 0 (lv0 as 2) [] h) : S_X8_about l G as h Q E :=
  Sem_of (by decide +kernel) (Nat.le_of_ble_eq_true hn) body
/-! X9_init -/
abbrev S_X9_init (l : Launch) (G : JG) : MS := Sem l G yX9_init (ws_ yX9_init cX9_init 1 none) 6 190 700
theorem yl_X9_init : YLk yX9_init (ws_ yX9_init cX9_init 1 none) 1 0 := ⟨lw_meth q1988, q198, Or.inl ⟨_, _, q1988⟩, by decide, by decide +kernel⟩
theorem s_X9_init {l : Launch} {G : JG} {Q : Int → MH → Prop} {E : Nat → Int → MH → Prop} {h : MH} {as : List LV} (hn : Nat.ble (enl as).length 1 = true) (body : ∀ K : JC, KI K l G yX9_init cX9_init 1 none [] 6 190 700 Q E h → JW K 0 (lv0 as 1) [] h) : S_X9_init l G as h Q E :=
  Sem_of (by decide +kernel) (Nat.le_of_ble_eq_true hn) body
/-! X9_thrown -/
abbrev S_X9_thrown (l : Launch) (G : JG) : MS := Sem l G yX9_thrown (ws_ yX9_thrown cX9_thrown 1 (some .int)) 4 150 0
theorem yl_X9_thrown : YLk yX9_thrown (ws_ yX9_thrown cX9_thrown 1 (some .int)) 1 0 := ⟨lw_meth q2447, q198, Or.inl ⟨_, _, q2447⟩, by decide, by decide +kernel⟩
theorem s_X9_thrown {l : Launch} {G : JG} {Q : Int → MH → Prop} {E : Nat → Int → MH → Prop} {h : MH} {as : List LV} (hn : Nat.ble (enl as).length 1 = true) (body : ∀ K : JC, KI K l G yX9_thrown cX9_thrown 1 (some .int) [] 4 150 0 Q E h → JW K 0 (lv0 as 1) [] h) : S_X9_thrown l G as h Q E :=
  Sem_of (by decide +kernel) (Nat.le_of_ble_eq_true hn) body
/-! X9_type -/
abbrev S_X9_type (l : Launch) (G : JG) : MS := Sem l G yX9_type (ws_ yX9_type cX9_type 5 (some .int)) 5 175 0
theorem yl_X9_type : YLk yX9_type (ws_ yX9_type cX9_type 5 (some .int)) 5 2 := ⟨lw_meth q2451, q198, Or.inl ⟨_, _, q2451⟩, by decide, by decide +kernel⟩
theorem s_X9_type {l : Launch} {G : JG} {Q : Int → MH → Prop} {E : Nat → Int → MH → Prop} {h : MH} {as : List LV} (hn : Nat.ble (enl as).length 5 = true) (body : ∀ K : JC, KI K l G yX9_type cX9_type 5 (some .int) [] 5 175 0 Q E h → JW K 0 (lv0 as 5) [] h) : S_X9_type l G as h Q E :=
  Sem_of (by decide +kernel) (Nat.le_of_ble_eq_true hn) body
/-! X9_file -/
abbrev S_X9_file (l : Launch) (G : JG) : MS := Sem l G yX9_file (wsW_ yX9_file cX9_file 3 (some .int) [(28, 140, 143, 244)]) 16 455 0
theorem yl_X9_file : YLk yX9_file (wsW_ yX9_file cX9_file 3 (some .int) [(28, 140, 143, 244)]) 3 0 := ⟨lw_methW q2459, q198, Or.inr ⟨_, _, _, q2459⟩, by decide, by decide +kernel⟩
/-! X9_take -/
abbrev S_X9_take (l : Launch) (G : JG) : MS := Sem l G yX9_take (ws_ yX9_take cX9_take 1 (some .int)) 11 332 0
theorem yl_X9_take : YLk yX9_take (ws_ yX9_take cX9_take 1 (some .int)) 1 0 := ⟨lw_meth q2464, q198, Or.inl ⟨_, _, q2464⟩, by decide, by decide +kernel⟩
theorem s_X9_take {l : Launch} {G : JG} {Q : Int → MH → Prop} {E : Nat → Int → MH → Prop} {h : MH} {as : List LV} (hn : Nat.ble (enl as).length 1 = true) (body : ∀ K : JC, KI K l G yX9_take cX9_take 1 (some .int) [] 11 332 0 Q E h → JW K 0 (lv0 as 1) [] h) : S_X9_take l G as h Q E :=
  Sem_of (by decide +kernel) (Nat.le_of_ble_eq_true hn) body
/-! X9_readClasses -/
abbrev S_X9_readClasses (l : Launch) (G : JG) : MS := Sem l G yX9_readClasses (ws_ yX9_readClasses cX9_readClasses 6 none) 13 375 700
theorem yl_X9_readClasses : YLk yX9_readClasses (ws_ yX9_readClasses cX9_readClasses 6 none) 6 1 := ⟨lw_meth q2486, q198, Or.inl ⟨_, _, q2486⟩, by decide, by decide +kernel⟩
theorem s_X9_readClasses {l : Launch} {G : JG} {Q : Int → MH → Prop} {E : Nat → Int → MH → Prop} {h : MH} {as : List LV} (hn : Nat.ble (enl as).length 6 = true) (body : ∀ K : JC, KI K l G yX9_readClasses cX9_readClasses 6 none [] 13 375 700 Q E h → JW K 0 (lv0 as 6) [] h) : S_X9_readClasses l G as h Q E :=
  Sem_of (by decide +kernel) (Nat.le_of_ble_eq_true hn) body
/-! X9_take_2 -/
abbrev S_X9_take_2 (l : Launch) (G : JG) : MS := Sem l G yX9_take_2 (ws_ yX9_take_2 cX9_take_2 4 (some .int)) 12 352 0
theorem yl_X9_take_2 : YLk yX9_take_2 (ws_ yX9_take_2 cX9_take_2 4 (some .int)) 4 2 := ⟨lw_meth q2490, q198, Or.inl ⟨_, _, q2490⟩, by decide, by decide +kernel⟩
theorem s_X9_take_2 {l : Launch} {G : JG} {Q : Int → MH → Prop} {E : Nat → Int → MH → Prop} {h : MH} {as : List LV} (hn : Nat.ble (enl as).length 4 = true) (body : ∀ K : JC, KI K l G yX9_take_2 cX9_take_2 4 (some .int) [] 12 352 0 Q E h → JW K 0 (lv0 as 4) [] h) : S_X9_take_2 l G as h Q E :=
  Sem_of (by decide +kernel) (Nat.le_of_ble_eq_true hn) body
/-! X9_readMethod -/
abbrev S_X9_readMethod (l : Launch) (G : JG) : MS := Sem l G yX9_readMethod (ws_ yX9_readMethod cX9_readMethod 7 none) 14 407 700
theorem yl_X9_readMethod : YLk yX9_readMethod (ws_ yX9_readMethod cX9_readMethod 7 none) 7 2 := ⟨lw_meth q2494, q198, Or.inl ⟨_, _, q2494⟩, by decide, by decide +kernel⟩
theorem s_X9_readMethod {l : Launch} {G : JG} {Q : Int → MH → Prop} {E : Nat → Int → MH → Prop} {h : MH} {as : List LV} (hn : Nat.ble (enl as).length 7 = true) (body : ∀ K : JC, KI K l G yX9_readMethod cX9_readMethod 7 none [] 14 407 700 Q E h → JW K 0 (lv0 as 7) [] h) : S_X9_readMethod l G as h Q E :=
  Sem_of (by decide +kernel) (Nat.le_of_ble_eq_true hn) body
/-! X9_areAlike -/
abbrev S_X9_areAlike (l : Launch) (G : JG) : MS := Sem l G yX9_areAlike (ws_ yX9_areAlike cX9_areAlike 5 (some .boolean)) 4 150 2
theorem yl_X9_areAlike : YLk yX9_areAlike (ws_ yX9_areAlike cX9_areAlike 5 (some .boolean)) 5 3 := ⟨lw_meth q2497, q198, Or.inl ⟨_, _, q2497⟩, by decide, by decide +kernel⟩
theorem s_X9_areAlike {l : Launch} {G : JG} {Q : Int → MH → Prop} {E : Nat → Int → MH → Prop} {h : MH} {as : List LV} (hn : Nat.ble (enl as).length 5 = true) (body : ∀ K : JC, KI K l G yX9_areAlike cX9_areAlike 5 (some .boolean) [] 4 150 2 Q E h → JW K 0 (lv0 as 5) [] h) : S_X9_areAlike l G as h Q E :=
  Sem_of (by decide +kernel) (Nat.le_of_ble_eq_true hn) body
/-! X9_readInstruction -/
abbrev S_X9_readInstruction (l : Launch) (G : JG) : MS := Sem l G yX9_readInstruction (ws_ yX9_readInstruction cX9_readInstruction 13 none) 13 375 700
theorem yl_X9_readInstruction : YLk yX9_readInstruction (ws_ yX9_readInstruction cX9_readInstruction 13 none) 13 2 := ⟨lw_meth q2501, q198, Or.inl ⟨_, _, q2501⟩, by decide, by decide +kernel⟩
theorem s_X9_readInstruction {l : Launch} {G : JG} {Q : Int → MH → Prop} {E : Nat → Int → MH → Prop} {h : MH} {as : List LV} (hn : Nat.ble (enl as).length 13 = true) (body : ∀ K : JC, KI K l G yX9_readInstruction cX9_readInstruction 13 none [] 13 375 700 Q E h → JW K 0 (lv0 as 13) [] h) : S_X9_readInstruction l G as h Q E :=
  Sem_of (by decide +kernel) (Nat.le_of_ble_eq_true hn) body
/-! X9_takeTwo -/
abbrev S_X9_takeTwo (l : Launch) (G : JG) : MS := Sem l G yX9_takeTwo (ws_ yX9_takeTwo cX9_takeTwo 2 (some .int)) 12 352 0
theorem yl_X9_takeTwo : YLk yX9_takeTwo (ws_ yX9_takeTwo cX9_takeTwo 2 (some .int)) 2 0 := ⟨lw_meth q2505, q198, Or.inl ⟨_, _, q2505⟩, by decide, by decide +kernel⟩
theorem s_X9_takeTwo {l : Launch} {G : JG} {Q : Int → MH → Prop} {E : Nat → Int → MH → Prop} {h : MH} {as : List LV} (hn : Nat.ble (enl as).length 2 = true) (body : ∀ K : JC, KI K l G yX9_takeTwo cX9_takeTwo 2 (some .int) [] 12 352 0 Q E h → JW K 0 (lv0 as 2) [] h) : S_X9_takeTwo l G as h Q E :=
  Sem_of (by decide +kernel) (Nat.le_of_ble_eq_true hn) body
/-! X9_judge -/
abbrev S_X9_judge (l : Launch) (G : JG) : MS := Sem l G yX9_judge (ws_ yX9_judge cX9_judge 8 none) 15 428 700
theorem yl_X9_judge : YLk yX9_judge (ws_ yX9_judge cX9_judge 8 none) 8 2 := ⟨lw_meth q2510, q198, Or.inl ⟨_, _, q2510⟩, by decide, by decide +kernel⟩
theorem s_X9_judge {l : Launch} {G : JG} {Q : Int → MH → Prop} {E : Nat → Int → MH → Prop} {h : MH} {as : List LV} (hn : Nat.ble (enl as).length 8 = true) (body : ∀ K : JC, KI K l G yX9_judge cX9_judge 8 none [] 15 428 700 Q E h → JW K 0 (lv0 as 8) [] h) : S_X9_judge l G as h Q E :=
  Sem_of (by decide +kernel) (Nat.le_of_ble_eq_true hn) body
/-! X9_isHandler -/
abbrev S_X9_isHandler (l : Launch) (G : JG) : MS := Sem l G yX9_isHandler (ws_ yX9_isHandler cX9_isHandler 5 (some .boolean)) 4 150 2
theorem yl_X9_isHandler : YLk yX9_isHandler (ws_ yX9_isHandler cX9_isHandler 5 (some .boolean)) 5 3 := ⟨lw_meth q2513, q198, Or.inl ⟨_, _, q2513⟩, by decide, by decide +kernel⟩
theorem s_X9_isHandler {l : Launch} {G : JG} {Q : Int → MH → Prop} {E : Nat → Int → MH → Prop} {h : MH} {as : List LV} (hn : Nat.ble (enl as).length 5 = true) (body : ∀ K : JC, KI K l G yX9_isHandler cX9_isHandler 5 (some .boolean) [] 4 150 2 Q E h → JW K 0 (lv0 as 5) [] h) : S_X9_isHandler l G as h Q E :=
  Sem_of (by decide +kernel) (Nat.le_of_ble_eq_true hn) body
/-! X9_isJumpedTo -/
abbrev S_X9_isJumpedTo (l : Launch) (G : JG) : MS := Sem l G yX9_isJumpedTo (ws_ yX9_isJumpedTo cX9_isJumpedTo 5 (some .boolean)) 4 150 2
theorem yl_X9_isJumpedTo : YLk yX9_isJumpedTo (ws_ yX9_isJumpedTo cX9_isJumpedTo 5 (some .boolean)) 5 3 := ⟨lw_meth q2516, q198, Or.inl ⟨_, _, q2516⟩, by decide, by decide +kernel⟩
theorem s_X9_isJumpedTo {l : Launch} {G : JG} {Q : Int → MH → Prop} {E : Nat → Int → MH → Prop} {h : MH} {as : List LV} (hn : Nat.ble (enl as).length 5 = true) (body : ∀ K : JC, KI K l G yX9_isJumpedTo cX9_isJumpedTo 5 (some .boolean) [] 4 150 2 Q E h → JW K 0 (lv0 as 5) [] h) : S_X9_isJumpedTo l G as h Q E :=
  Sem_of (by decide +kernel) (Nat.le_of_ble_eq_true hn) body
/-! X9_wrongIf -/
abbrev S_X9_wrongIf (l : Launch) (G : JG) : MS := Sem l G yX9_wrongIf (ws_ yX9_wrongIf cX9_wrongIf 2 none) 11 332 700
theorem yl_X9_wrongIf : YLk yX9_wrongIf (ws_ yX9_wrongIf cX9_wrongIf 2 none) 2 1 := ⟨lw_meth q2520, q198, Or.inl ⟨_, _, q2520⟩, by decide, by decide +kernel⟩
theorem s_X9_wrongIf {l : Launch} {G : JG} {Q : Int → MH → Prop} {E : Nat → Int → MH → Prop} {h : MH} {as : List LV} (hn : Nat.ble (enl as).length 2 = true) (body : ∀ K : JC, KI K l G yX9_wrongIf cX9_wrongIf 2 none [] 11 332 700 Q E h → JW K 0 (lv0 as 2) [] h) : S_X9_wrongIf l G as h Q E :=
  Sem_of (by decide +kernel) (Nat.le_of_ble_eq_true hn) body
/-! X9_lay -/
abbrev S_X9_lay (l : Launch) (G : JG) : MS := Sem l G yX9_lay (ws_ yX9_lay cX9_lay 2 none) 12 353 700
theorem yl_X9_lay : YLk yX9_lay (ws_ yX9_lay cX9_lay 2 none) 2 1 := ⟨lw_meth q2524, q198, Or.inl ⟨_, _, q2524⟩, by decide, by decide +kernel⟩
theorem s_X9_lay {l : Launch} {G : JG} {Q : Int → MH → Prop} {E : Nat → Int → MH → Prop} {h : MH} {as : List LV} (hn : Nat.ble (enl as).length 2 = true) (body : ∀ K : JC, KI K l G yX9_lay cX9_lay 2 none [] 12 353 700 Q E h → JW K 0 (lv0 as 2) [] h) : S_X9_lay l G as h Q E :=
  Sem_of (by decide +kernel) (Nat.le_of_ble_eq_true hn) body
/-! X9_judge_2 -/
abbrev S_X9_judge_2 (l : Launch) (G : JG) : MS := Sem l G yX9_judge_2 (ws_ yX9_judge_2 cX9_judge_2 12 none) 14 397 700
theorem yl_X9_judge_2 : YLk yX9_judge_2 (ws_ yX9_judge_2 cX9_judge_2 12 none) 12 3 := ⟨lw_meth q2528, q198, Or.inl ⟨_, _, q2528⟩, by decide, by decide +kernel⟩
theorem s_X9_judge_2 {l : Launch} {G : JG} {Q : Int → MH → Prop} {E : Nat → Int → MH → Prop} {h : MH} {as : List LV} (hn : Nat.ble (enl as).length 12 = true) (body : ∀ K : JC, KI K l G yX9_judge_2 cX9_judge_2 12 none [] 14 397 700 Q E h → JW K 0 (lv0 as 12) [] h) : S_X9_judge_2 l G as h Q E :=
  Sem_of (by decide +kernel) (Nat.le_of_ble_eq_true hn) body
/-! X9_pull -/
abbrev S_X9_pull (l : Launch) (G : JG) : MS := Sem l G yX9_pull (ws_ yX9_pull cX9_pull 2 none) 12 353 700
theorem yl_X9_pull : YLk yX9_pull (ws_ yX9_pull cX9_pull 2 none) 2 1 := ⟨lw_meth q2532, q198, Or.inl ⟨_, _, q2532⟩, by decide, by decide +kernel⟩
theorem s_X9_pull {l : Launch} {G : JG} {Q : Int → MH → Prop} {E : Nat → Int → MH → Prop} {h : MH} {as : List LV} (hn : Nat.ble (enl as).length 2 = true) (body : ∀ K : JC, KI K l G yX9_pull cX9_pull 2 none [] 12 353 700 Q E h → JW K 0 (lv0 as 2) [] h) : S_X9_pull l G as h Q E :=
  Sem_of (by decide +kernel) (Nat.le_of_ble_eq_true hn) body
/-! X9_pullAny -/
abbrev S_X9_pullAny (l : Launch) (G : JG) : MS := Sem l G yX9_pullAny (ws_ yX9_pullAny cX9_pullAny 2 (some .int)) 13 374 0
theorem yl_X9_pullAny : YLk yX9_pullAny (ws_ yX9_pullAny cX9_pullAny 2 (some .int)) 2 0 := ⟨lw_meth q2536, q198, Or.inl ⟨_, _, q2536⟩, by decide, by decide +kernel⟩
theorem s_X9_pullAny {l : Launch} {G : JG} {Q : Int → MH → Prop} {E : Nat → Int → MH → Prop} {h : MH} {as : List LV} (hn : Nat.ble (enl as).length 2 = true) (body : ∀ K : JC, KI K l G yX9_pullAny cX9_pullAny 2 (some .int) [] 13 374 0 Q E h → JW K 0 (lv0 as 2) [] h) : S_X9_pullAny l G as h Q E :=
  Sem_of (by decide +kernel) (Nat.le_of_ble_eq_true hn) body
/-! X9_withName -/
abbrev S_X9_withName (l : Launch) (G : JG) : MS := Sem l G yX9_withName (ws_ yX9_withName cX9_withName 4 (some .int)) 4 150 0
theorem yl_X9_withName : YLk yX9_withName (ws_ yX9_withName cX9_withName 4 (some .int)) 4 2 := ⟨lw_meth q2539, q198, Or.inl ⟨_, _, q2539⟩, by decide, by decide +kernel⟩
theorem s_X9_withName {l : Launch} {G : JG} {Q : Int → MH → Prop} {E : Nat → Int → MH → Prop} {h : MH} {as : List LV} (hn : Nat.ble (enl as).length 4 = true) (body : ∀ K : JC, KI K l G yX9_withName cX9_withName 4 (some .int) [] 4 150 0 Q E h → JW K 0 (lv0 as 4) [] h) : S_X9_withName l G as h Q E :=
  Sem_of (by decide +kernel) (Nat.le_of_ble_eq_true hn) body
/-! X9_pullArguments -/
abbrev S_X9_pullArguments (l : Launch) (G : JG) : MS := Sem l G yX9_pullArguments (ws_ yX9_pullArguments cX9_pullArguments 4 none) 13 374 700
theorem yl_X9_pullArguments : YLk yX9_pullArguments (ws_ yX9_pullArguments cX9_pullArguments 4 none) 4 2 := ⟨lw_meth q2543, q198, Or.inl ⟨_, _, q2543⟩, by decide, by decide +kernel⟩
theorem s_X9_pullArguments {l : Launch} {G : JG} {Q : Int → MH → Prop} {E : Nat → Int → MH → Prop} {h : MH} {as : List LV} (hn : Nat.ble (enl as).length 4 = true) (body : ∀ K : JC, KI K l G yX9_pullArguments cX9_pullArguments 4 none [] 13 374 700 Q E h → JW K 0 (lv0 as 4) [] h) : S_X9_pullArguments l G as h Q E :=
  Sem_of (by decide +kernel) (Nat.le_of_ble_eq_true hn) body
/-! X9_isSame -/
abbrev S_X9_isSame (l : Launch) (G : JG) : MS := Sem l G yX9_isSame (ws_ yX9_isSame cX9_isSame 6 (some .boolean)) 4 150 2
theorem yl_X9_isSame : YLk yX9_isSame (ws_ yX9_isSame cX9_isSame 6 (some .boolean)) 6 3 := ⟨lw_meth q2549, q198, Or.inl ⟨_, _, q2549⟩, by decide, by decide +kernel⟩
theorem s_X9_isSame {l : Launch} {G : JG} {Q : Int → MH → Prop} {E : Nat → Int → MH → Prop} {h : MH} {as : List LV} (hn : Nat.ble (enl as).length 6 = true) (body : ∀ K : JC, KI K l G yX9_isSame cX9_isSame 6 (some .boolean) [] 4 150 2 Q E h → JW K 0 (lv0 as 6) [] h) : S_X9_isSame l G as h Q E :=
  Sem_of (by decide +kernel) (Nat.le_of_ble_eq_true hn) body
/-! X9_forgetWalks -/
abbrev S_X9_forgetWalks (l : Launch) (G : JG) : MS := Sem l G yX9_forgetWalks (ws_ yX9_forgetWalks cX9_forgetWalks 1 none) 4 150 700
theorem yl_X9_forgetWalks : YLk yX9_forgetWalks (ws_ yX9_forgetWalks cX9_forgetWalks 1 none) 1 0 := ⟨lw_meth q2553, q198, Or.inl ⟨_, _, q2553⟩, by decide, by decide +kernel⟩
theorem s_X9_forgetWalks {l : Launch} {G : JG} {Q : Int → MH → Prop} {E : Nat → Int → MH → Prop} {h : MH} {as : List LV} (hn : Nat.ble (enl as).length 1 = true) (body : ∀ K : JC, KI K l G yX9_forgetWalks cX9_forgetWalks 1 none [] 4 150 700 Q E h → JW K 0 (lv0 as 1) [] h) : S_X9_forgetWalks l G as h Q E :=
  Sem_of (by decide +kernel) (Nat.le_of_ble_eq_true hn) body
/-! X9_root -/
abbrev S_X9_root (l : Launch) (G : JG) : MS := Sem l G yX9_root (ws_ yX9_root cX9_root 3 (some .int)) 5 175 0
theorem yl_X9_root : YLk yX9_root (ws_ yX9_root cX9_root 3 (some .int)) 3 1 := ⟨lw_meth q2557, q198, Or.inl ⟨_, _, q2557⟩, by decide, by decide +kernel⟩
theorem s_X9_root {l : Launch} {G : JG} {Q : Int → MH → Prop} {E : Nat → Int → MH → Prop} {h : MH} {as : List LV} (hn : Nat.ble (enl as).length 3 = true) (body : ∀ K : JC, KI K l G yX9_root cX9_root 3 (some .int) [] 5 175 0 Q E h → JW K 0 (lv0 as 3) [] h) : S_X9_root l G as h Q E :=
  Sem_of (by decide +kernel) (Nat.le_of_ble_eq_true hn) body
/-! X9_told -/
abbrev S_X9_told (l : Launch) (G : JG) : MS := Sem l G yX9_told (ws_ yX9_told cX9_told 2 (some .int)) 7 220 0
theorem yl_X9_told : YLk yX9_told (ws_ yX9_told cX9_told 2 (some .int)) 2 1 := ⟨lw_meth q2561, q198, Or.inl ⟨_, _, q2561⟩, by decide, by decide +kernel⟩
theorem s_X9_told {l : Launch} {G : JG} {Q : Int → MH → Prop} {E : Nat → Int → MH → Prop} {h : MH} {as : List LV} (hn : Nat.ble (enl as).length 2 = true) (body : ∀ K : JC, KI K l G yX9_told cX9_told 2 (some .int) [] 7 220 0 Q E h → JW K 0 (lv0 as 2) [] h) : S_X9_told l G as h Q E :=
  Sem_of (by decide +kernel) (Nat.le_of_ble_eq_true hn) body
/-! X9_findMarks -/
abbrev S_X9_findMarks (l : Launch) (G : JG) : MS := Sem l G yX9_findMarks (ws_ yX9_findMarks cX9_findMarks 3 none) 6 198 700
theorem yl_X9_findMarks : YLk yX9_findMarks (ws_ yX9_findMarks cX9_findMarks 3 none) 3 0 := ⟨lw_meth q2566, q198, Or.inl ⟨_, _, q2566⟩, by decide, by decide +kernel⟩
theorem s_X9_findMarks {l : Launch} {G : JG} {Q : Int → MH → Prop} {E : Nat → Int → MH → Prop} {h : MH} {as : List LV} (hn : Nat.ble (enl as).length 3 = true) (body : ∀ K : JC, KI K l G yX9_findMarks cX9_findMarks 3 none [] 6 198 700 Q E h → JW K 0 (lv0 as 3) [] h) : S_X9_findMarks l G as h Q E :=
  Sem_of (by decide +kernel) (Nat.le_of_ble_eq_true hn) body
/-! X9_addMark -/
abbrev S_X9_addMark (l : Launch) (G : JG) : MS := Sem l G yX9_addMark (ws_ yX9_addMark cX9_addMark 6 none) 5 173 700
theorem yl_X9_addMark : YLk yX9_addMark (ws_ yX9_addMark cX9_addMark 6 none) 6 1 := ⟨lw_meth q2571, q198, Or.inl ⟨_, _, q2571⟩, by decide, by decide +kernel⟩
theorem s_X9_addMark {l : Launch} {G : JG} {Q : Int → MH → Prop} {E : Nat → Int → MH → Prop} {h : MH} {as : List LV} (hn : Nat.ble (enl as).length 6 = true) (body : ∀ K : JC, KI K l G yX9_addMark cX9_addMark 6 none [] 5 173 700 Q E h → JW K 0 (lv0 as 6) [] h) : S_X9_addMark l G as h Q E :=
  Sem_of (by decide +kernel) (Nat.le_of_ble_eq_true hn) body
/-! X9_method -/
abbrev S_X9_method (l : Launch) (G : JG) : MS := Sem l G yX9_method (ws_ yX9_method cX9_method 3 (some .int)) 13 416 0
theorem yl_X9_method : YLk yX9_method (ws_ yX9_method cX9_method 3 (some .int)) 3 2 := ⟨lw_meth q2580, q198, Or.inl ⟨_, _, q2580⟩, by decide, by decide +kernel⟩
theorem s_X9_method {l : Launch} {G : JG} {Q : Int → MH → Prop} {E : Nat → Int → MH → Prop} {h : MH} {as : List LV} (hn : Nat.ble (enl as).length 3 = true) (body : ∀ K : JC, KI K l G yX9_method cX9_method 3 (some .int) [] 13 416 0 Q E h → JW K 0 (lv0 as 3) [] h) : S_X9_method l G as h Q E :=
  Sem_of (by decide +kernel) (Nat.le_of_ble_eq_true hn) body
/-! X9_hasMethod -/
abbrev S_X9_hasMethod (l : Launch) (G : JG) : MS := Sem l G yX9_hasMethod (ws_ yX9_hasMethod cX9_hasMethod 2 (some .boolean)) 5 175 2
theorem yl_X9_hasMethod : YLk yX9_hasMethod (ws_ yX9_hasMethod cX9_hasMethod 2 (some .boolean)) 2 1 := ⟨lw_meth q2584, q198, Or.inl ⟨_, _, q2584⟩, by decide, by decide +kernel⟩
theorem s_X9_hasMethod {l : Launch} {G : JG} {Q : Int → MH → Prop} {E : Nat → Int → MH → Prop} {h : MH} {as : List LV} (hn : Nat.ble (enl as).length 2 = true) (body : ∀ K : JC, KI K l G yX9_hasMethod cX9_hasMethod 2 (some .boolean) [] 5 175 2 Q E h → JW K 0 (lv0 as 2) [] h) : S_X9_hasMethod l G as h Q E :=
  Sem_of (by decide +kernel) (Nat.le_of_ble_eq_true hn) body
/-! X9_isTouched -/
abbrev S_X9_isTouched (l : Launch) (G : JG) : MS := Sem l G yX9_isTouched (ws_ yX9_isTouched cX9_isTouched 7 (some .boolean)) 12 390 2
theorem yl_X9_isTouched : YLk yX9_isTouched (ws_ yX9_isTouched cX9_isTouched 7 (some .boolean)) 7 1 := ⟨lw_meth q2589, q198, Or.inl ⟨_, _, q2589⟩, by decide, by decide +kernel⟩
theorem s_X9_isTouched {l : Launch} {G : JG} {Q : Int → MH → Prop} {E : Nat → Int → MH → Prop} {h : MH} {as : List LV} (hn : Nat.ble (enl as).length 7 = true) (body : ∀ K : JC, KI K l G yX9_isTouched cX9_isTouched 7 (some .boolean) [] 12 390 2 Q E h → JW K 0 (lv0 as 7) [] h) : S_X9_isTouched l G as h Q E :=
  Sem_of (by decide +kernel) (Nat.le_of_ble_eq_true hn) body
/-! X9_findFacts -/
abbrev S_X9_findFacts (l : Launch) (G : JG) : MS := Sem l G yX9_findFacts (ws_ yX9_findFacts cX9_findFacts 8 none) 11 363 700
theorem yl_X9_findFacts : YLk yX9_findFacts (ws_ yX9_findFacts cX9_findFacts 8 none) 8 0 := ⟨lw_meth q2593, q198, Or.inl ⟨_, _, q2593⟩, by decide, by decide +kernel⟩
theorem s_X9_findFacts {l : Launch} {G : JG} {Q : Int → MH → Prop} {E : Nat → Int → MH → Prop} {h : MH} {as : List LV} (hn : Nat.ble (enl as).length 8 = true) (body : ∀ K : JC, KI K l G yX9_findFacts cX9_findFacts 8 none [] 11 363 700 Q E h → JW K 0 (lv0 as 8) [] h) : S_X9_findFacts l G as h Q E :=
  Sem_of (by decide +kernel) (Nat.le_of_ble_eq_true hn) body
/-! X9_forgetFacts -/
abbrev S_X9_forgetFacts (l : Launch) (G : JG) : MS := Sem l G yX9_forgetFacts (ws_ yX9_forgetFacts cX9_forgetFacts 2 none) 7 220 700
theorem yl_X9_forgetFacts : YLk yX9_forgetFacts (ws_ yX9_forgetFacts cX9_forgetFacts 2 none) 2 0 := ⟨lw_meth q2597, q198, Or.inl ⟨_, _, q2597⟩, by decide, by decide +kernel⟩
theorem s_X9_forgetFacts {l : Launch} {G : JG} {Q : Int → MH → Prop} {E : Nat → Int → MH → Prop} {h : MH} {as : List LV} (hn : Nat.ble (enl as).length 2 = true) (body : ∀ K : JC, KI K l G yX9_forgetFacts cX9_forgetFacts 2 none [] 7 220 700 Q E h → JW K 0 (lv0 as 2) [] h) : S_X9_forgetFacts l G as h Q E :=
  Sem_of (by decide +kernel) (Nat.le_of_ble_eq_true hn) body
/-! X9_setSlot -/
abbrev S_X9_setSlot (l : Launch) (G : JG) : MS := Sem l G yX9_setSlot (ws_ yX9_setSlot cX9_setSlot 7 none) 4 150 700
theorem yl_X9_setSlot : YLk yX9_setSlot (ws_ yX9_setSlot cX9_setSlot 7 none) 7 5 := ⟨lw_meth q2603, q198, Or.inl ⟨_, _, q2603⟩, by decide, by decide +kernel⟩
theorem s_X9_setSlot {l : Launch} {G : JG} {Q : Int → MH → Prop} {E : Nat → Int → MH → Prop} {h : MH} {as : List LV} (hn : Nat.ble (enl as).length 7 = true) (body : ∀ K : JC, KI K l G yX9_setSlot cX9_setSlot 7 none [] 4 150 700 Q E h → JW K 0 (lv0 as 7) [] h) : S_X9_setSlot l G as h Q E :=
  Sem_of (by decide +kernel) (Nat.le_of_ble_eq_true hn) body
/-! X9_joinTo -/
abbrev S_X9_joinTo (l : Launch) (G : JG) : MS := Sem l G yX9_joinTo (ws_ yX9_joinTo cX9_joinTo 12 none) 5 171 700
theorem yl_X9_joinTo : YLk yX9_joinTo (ws_ yX9_joinTo cX9_joinTo 12 none) 12 1 := ⟨lw_meth q2607, q198, Or.inl ⟨_, _, q2607⟩, by decide, by decide +kernel⟩
theorem s_X9_joinTo {l : Launch} {G : JG} {Q : Int → MH → Prop} {E : Nat → Int → MH → Prop} {h : MH} {as : List LV} (hn : Nat.ble (enl as).length 12 = true) (body : ∀ K : JC, KI K l G yX9_joinTo cX9_joinTo 12 none [] 5 171 700 Q E h → JW K 0 (lv0 as 12) [] h) : S_X9_joinTo l G as h Q E :=
  Sem_of (by decide +kernel) (Nat.le_of_ble_eq_true hn) body
/-! X9_asks -/
abbrev S_X9_asks (l : Launch) (G : JG) : MS := Sem l G yX9_asks (ws_ yX9_asks cX9_asks 9 (some .boolean)) 4 150 2
theorem yl_X9_asks : YLk yX9_asks (ws_ yX9_asks cX9_asks 9 (some .boolean)) 9 4 := ⟨lw_meth q2613, q198, Or.inl ⟨_, _, q2613⟩, by decide, by decide +kernel⟩
theorem s_X9_asks {l : Launch} {G : JG} {Q : Int → MH → Prop} {E : Nat → Int → MH → Prop} {h : MH} {as : List LV} (hn : Nat.ble (enl as).length 9 = true) (body : ∀ K : JC, KI K l G yX9_asks cX9_asks 9 (some .boolean) [] 4 150 2 Q E h → JW K 0 (lv0 as 9) [] h) : S_X9_asks l G as h Q E :=
  Sem_of (by decide +kernel) (Nat.le_of_ble_eq_true hn) body
/-! X9_goOn -/
abbrev S_X9_goOn (l : Launch) (G : JG) : MS := Sem l G yX9_goOn (ws_ yX9_goOn cX9_goOn 30 none) 10 314 700
theorem yl_X9_goOn : YLk yX9_goOn (ws_ yX9_goOn cX9_goOn 30 none) 30 1 := ⟨lw_meth q2617, q198, Or.inl ⟨_, _, q2617⟩, by decide, by decide +kernel⟩
theorem s_X9_goOn {l : Launch} {G : JG} {Q : Int → MH → Prop} {E : Nat → Int → MH → Prop} {h : MH} {as : List LV} (hn : Nat.ble (enl as).length 30 = true) (body : ∀ K : JC, KI K l G yX9_goOn cX9_goOn 30 none [] 10 314 700 Q E h → JW K 0 (lv0 as 30) [] h) : S_X9_goOn l G as h Q E :=
  Sem_of (by decide +kernel) (Nat.le_of_ble_eq_true hn) body
/-! X9_takeFacts -/
abbrev S_X9_takeFacts (l : Launch) (G : JG) : MS := Sem l G yX9_takeFacts (ws_ yX9_takeFacts cX9_takeFacts 4 none) 5 176 700
theorem yl_X9_takeFacts : YLk yX9_takeFacts (ws_ yX9_takeFacts cX9_takeFacts 4 none) 4 1 := ⟨lw_meth q2621, q198, Or.inl ⟨_, _, q2621⟩, by decide, by decide +kernel⟩
theorem s_X9_takeFacts {l : Launch} {G : JG} {Q : Int → MH → Prop} {E : Nat → Int → MH → Prop} {h : MH} {as : List LV} (hn : Nat.ble (enl as).length 4 = true) (body : ∀ K : JC, KI K l G yX9_takeFacts cX9_takeFacts 4 none [] 5 176 700 Q E h → JW K 0 (lv0 as 4) [] h) : S_X9_takeFacts l G as h Q E :=
  Sem_of (by decide +kernel) (Nat.le_of_ble_eq_true hn) body
/-! X9_lay_2 -/
abbrev S_X9_lay_2 (l : Launch) (G : JG) : MS := Sem l G yX9_lay_2 (ws_ yX9_lay_2 cX9_lay_2 6 none) 5 176 700
theorem yl_X9_lay_2 : YLk yX9_lay_2 (ws_ yX9_lay_2 cX9_lay_2 6 none) 6 4 := ⟨lw_meth q2625, q198, Or.inl ⟨_, _, q2625⟩, by decide, by decide +kernel⟩
theorem s_X9_lay_2 {l : Launch} {G : JG} {Q : Int → MH → Prop} {E : Nat → Int → MH → Prop} {h : MH} {as : List LV} (hn : Nat.ble (enl as).length 6 = true) (body : ∀ K : JC, KI K l G yX9_lay_2 cX9_lay_2 6 none [] 5 176 700 Q E h → JW K 0 (lv0 as 6) [] h) : S_X9_lay_2 l G as h Q E :=
  Sem_of (by decide +kernel) (Nat.le_of_ble_eq_true hn) body
/-! X9_flowOn -/
abbrev S_X9_flowOn (l : Launch) (G : JG) : MS := Sem l G yX9_flowOn (ws_ yX9_flowOn cX9_flowOn 2 none) 7 224 700
theorem yl_X9_flowOn : YLk yX9_flowOn (ws_ yX9_flowOn cX9_flowOn 2 none) 2 1 := ⟨lw_meth q2629, q198, Or.inl ⟨_, _, q2629⟩, by decide, by decide +kernel⟩
theorem s_X9_flowOn {l : Launch} {G : JG} {Q : Int → MH → Prop} {E : Nat → Int → MH → Prop} {h : MH} {as : List LV} (hn : Nat.ble (enl as).length 2 = true) (body : ∀ K : JC, KI K l G yX9_flowOn cX9_flowOn 2 none [] 7 224 700 Q E h → JW K 0 (lv0 as 2) [] h) : S_X9_flowOn l G as h Q E :=
  Sem_of (by decide +kernel) (Nat.le_of_ble_eq_true hn) body
/-! X9_flow -/
abbrev S_X9_flow (l : Launch) (G : JG) : MS := Sem l G yX9_flow (ws_ yX9_flow cX9_flow 3 none) 6 202 700
theorem yl_X9_flow : YLk yX9_flow (ws_ yX9_flow cX9_flow 3 none) 3 2 := ⟨lw_meth q2633, q198, Or.inl ⟨_, _, q2633⟩, by decide, by decide +kernel⟩
theorem s_X9_flow {l : Launch} {G : JG} {Q : Int → MH → Prop} {E : Nat → Int → MH → Prop} {h : MH} {as : List LV} (hn : Nat.ble (enl as).length 3 = true) (body : ∀ K : JC, KI K l G yX9_flow cX9_flow 3 none [] 6 202 700 Q E h → JW K 0 (lv0 as 3) [] h) : S_X9_flow l G as h Q E :=
  Sem_of (by decide +kernel) (Nat.le_of_ble_eq_true hn) body
/-! X9_pull_2 -/
abbrev S_X9_pull_2 (l : Launch) (G : JG) : MS := Sem l G yX9_pull_2 (ws_ yX9_pull_2 cX9_pull_2 1 none) 4 150 700
theorem yl_X9_pull_2 : YLk yX9_pull_2 (ws_ yX9_pull_2 cX9_pull_2 1 none) 1 0 := ⟨lw_meth q2637, q198, Or.inl ⟨_, _, q2637⟩, by decide, by decide +kernel⟩
theorem s_X9_pull_2 {l : Launch} {G : JG} {Q : Int → MH → Prop} {E : Nat → Int → MH → Prop} {h : MH} {as : List LV} (hn : Nat.ble (enl as).length 1 = true) (body : ∀ K : JC, KI K l G yX9_pull_2 cX9_pull_2 1 none [] 4 150 700 Q E h → JW K 0 (lv0 as 1) [] h) : S_X9_pull_2 l G as h Q E :=
  Sem_of (by decide +kernel) (Nat.le_of_ble_eq_true hn) body
/-! X9_reckon -/
abbrev S_X9_reckon (l : Launch) (G : JG) : MS := Sem l G yX9_reckon (ws_ yX9_reckon cX9_reckon 18 (some .boolean)) 7 227 2
theorem yl_X9_reckon : YLk yX9_reckon (ws_ yX9_reckon cX9_reckon 18 (some .boolean)) 18 1 := ⟨lw_meth q2641, q198, Or.inl ⟨_, _, q2641⟩, by decide, by decide +kernel⟩
theorem s_X9_reckon {l : Launch} {G : JG} {Q : Int → MH → Prop} {E : Nat → Int → MH → Prop} {h : MH} {as : List LV} (hn : Nat.ble (enl as).length 18 = true) (body : ∀ K : JC, KI K l G yX9_reckon cX9_reckon 18 (some .boolean) [] 7 227 2 Q E h → JW K 0 (lv0 as 18) [] h) : S_X9_reckon l G as h Q E :=
  Sem_of (by decide +kernel) (Nat.le_of_ble_eq_true hn) body
/-! X9_layRounded -/
abbrev S_X9_layRounded (l : Launch) (G : JG) : MS := Sem l G yX9_layRounded (ws_ yX9_layRounded cX9_layRounded 7 none) 6 201 700
theorem yl_X9_layRounded : YLk yX9_layRounded (ws_ yX9_layRounded cX9_layRounded 7 none) 7 3 := ⟨lw_meth q2645, q198, Or.inl ⟨_, _, q2645⟩, by decide, by decide +kernel⟩
theorem s_X9_layRounded {l : Launch} {G : JG} {Q : Int → MH → Prop} {E : Nat → Int → MH → Prop} {h : MH} {as : List LV} (hn : Nat.ble (enl as).length 7 = true) (body : ∀ K : JC, KI K l G yX9_layRounded cX9_layRounded 7 none [] 6 201 700 Q E h → JW K 0 (lv0 as 7) [] h) : S_X9_layRounded l G as h Q E :=
  Sem_of (by decide +kernel) (Nat.le_of_ble_eq_true hn) body
/-! X9_downTo -/
abbrev S_X9_downTo (l : Launch) (G : JG) : MS := Sem l G yX9_downTo (ws_ yX9_downTo cX9_downTo 2 (some .int)) 5 174 0
theorem yl_X9_downTo : YLk yX9_downTo (ws_ yX9_downTo cX9_downTo 2 (some .int)) 2 1 := ⟨lw_meth q2649, q198, Or.inl ⟨_, _, q2649⟩, by decide, by decide +kernel⟩
theorem s_X9_downTo {l : Launch} {G : JG} {Q : Int → MH → Prop} {E : Nat → Int → MH → Prop} {h : MH} {as : List LV} (hn : Nat.ble (enl as).length 2 = true) (body : ∀ K : JC, KI K l G yX9_downTo cX9_downTo 2 (some .int) [] 5 174 0 Q E h → JW K 0 (lv0 as 2) [] h) : S_X9_downTo l G as h Q E :=
  Sem_of (by decide +kernel) (Nat.le_of_ble_eq_true hn) body
/-! X9_markFor -/
abbrev S_X9_markFor (l : Launch) (G : JG) : MS := Sem l G yX9_markFor (ws_ yX9_markFor cX9_markFor 5 (some .int)) 4 150 0
theorem yl_X9_markFor : YLk yX9_markFor (ws_ yX9_markFor cX9_markFor 5 (some .int)) 5 1 := ⟨lw_meth q2653, q198, Or.inl ⟨_, _, q2653⟩, by decide, by decide +kernel⟩
theorem s_X9_markFor {l : Launch} {G : JG} {Q : Int → MH → Prop} {E : Nat → Int → MH → Prop} {h : MH} {as : List LV} (hn : Nat.ble (enl as).length 5 = true) (body : ∀ K : JC, KI K l G yX9_markFor cX9_markFor 5 (some .int) [] 4 150 0 Q E h → JW K 0 (lv0 as 5) [] h) : S_X9_markFor l G as h Q E :=
  Sem_of (by decide +kernel) (Nat.le_of_ble_eq_true hn) body
/-! X9_upTo -/
abbrev S_X9_upTo (l : Launch) (G : JG) : MS := Sem l G yX9_upTo (ws_ yX9_upTo cX9_upTo 3 (some .int)) 5 174 0
theorem yl_X9_upTo : YLk yX9_upTo (ws_ yX9_upTo cX9_upTo 3 (some .int)) 3 1 := ⟨lw_meth q2657, q198, Or.inl ⟨_, _, q2657⟩, by decide, by decide +kernel⟩
theorem s_X9_upTo {l : Launch} {G : JG} {Q : Int → MH → Prop} {E : Nat → Int → MH → Prop} {h : MH} {as : List LV} (hn : Nat.ble (enl as).length 3 = true) (body : ∀ K : JC, KI K l G yX9_upTo cX9_upTo 3 (some .int) [] 5 174 0 Q E h → JW K 0 (lv0 as 3) [] h) : S_X9_upTo l G as h Q E :=
  Sem_of (by decide +kernel) (Nat.le_of_ble_eq_true hn) body
/-! X9_toss -/
abbrev S_X9_toss (l : Launch) (G : JG) : MS := Sem l G yX9_toss (ws_ yX9_toss cX9_toss 3 none) 8 253 700
theorem yl_X9_toss : YLk yX9_toss (ws_ yX9_toss cX9_toss 3 none) 3 2 := ⟨lw_meth q2664, q198, Or.inl ⟨_, _, q2664⟩, by decide, by decide +kernel⟩
theorem s_X9_toss {l : Launch} {G : JG} {Q : Int → MH → Prop} {E : Nat → Int → MH → Prop} {h : MH} {as : List LV} (hn : Nat.ble (enl as).length 3 = true) (body : ∀ K : JC, KI K l G yX9_toss cX9_toss 3 none [] 8 253 700 Q E h → JW K 0 (lv0 as 3) [] h) : S_X9_toss l G as h Q E :=
  Sem_of (by decide +kernel) (Nat.le_of_ble_eq_true hn) body
/-! X9_toss_2 -/
abbrev S_X9_toss_2 (l : Launch) (G : JG) : MS := Sem l G yX9_toss_2 (ws_ yX9_toss_2 cX9_toss_2 13 none) 7 221 700
theorem yl_X9_toss_2 : YLk yX9_toss_2 (ws_ yX9_toss_2 cX9_toss_2 13 none) 13 4 := ⟨lw_meth q2668, q198, Or.inl ⟨_, _, q2668⟩, by decide, by decide +kernel⟩
theorem s_X9_toss_2 {l : Launch} {G : JG} {Q : Int → MH → Prop} {E : Nat → Int → MH → Prop} {h : MH} {as : List LV} (hn : Nat.ble (enl as).length 13 = true) (body : ∀ K : JC, KI K l G yX9_toss_2 cX9_toss_2 13 none [] 7 221 700 Q E h → JW K 0 (lv0 as 13) [] h) : S_X9_toss_2 l G as h Q E :=
  Sem_of (by decide +kernel) (Nat.le_of_ble_eq_true hn) body
/-! X9_handlerOf -/
abbrev S_X9_handlerOf (l : Launch) (G : JG) : MS := Sem l G yX9_handlerOf (ws_ yX9_handlerOf cX9_handlerOf 7 (some .int)) 6 195 0
theorem yl_X9_handlerOf : YLk yX9_handlerOf (ws_ yX9_handlerOf cX9_handlerOf 7 (some .int)) 7 2 := ⟨lw_meth q2672, q198, Or.inl ⟨_, _, q2672⟩, by decide, by decide +kernel⟩
theorem s_X9_handlerOf {l : Launch} {G : JG} {Q : Int → MH → Prop} {E : Nat → Int → MH → Prop} {h : MH} {as : List LV} (hn : Nat.ble (enl as).length 7 = true) (body : ∀ K : JC, KI K l G yX9_handlerOf cX9_handlerOf 7 (some .int) [] 6 195 0 Q E h → JW K 0 (lv0 as 7) [] h) : S_X9_handlerOf l G as h Q E :=
  Sem_of (by decide +kernel) (Nat.le_of_ble_eq_true hn) body
/-! X9_isOf -/
abbrev S_X9_isOf (l : Launch) (G : JG) : MS := Sem l G yX9_isOf (ws_ yX9_isOf cX9_isOf 3 (some .boolean)) 5 173 2
theorem yl_X9_isOf : YLk yX9_isOf (ws_ yX9_isOf cX9_isOf 3 (some .boolean)) 3 2 := ⟨lw_meth q2676, q198, Or.inl ⟨_, _, q2676⟩, by decide, by decide +kernel⟩
theorem s_X9_isOf {l : Launch} {G : JG} {Q : Int → MH → Prop} {E : Nat → Int → MH → Prop} {h : MH} {as : List LV} (hn : Nat.ble (enl as).length 3 = true) (body : ∀ K : JC, KI K l G yX9_isOf cX9_isOf 3 (some .boolean) [] 5 173 2 Q E h → JW K 0 (lv0 as 3) [] h) : S_X9_isOf l G as h Q E :=
  Sem_of (by decide +kernel) (Nat.le_of_ble_eq_true hn) body
/-! X9_isArray -/
abbrev S_X9_isArray (l : Launch) (G : JG) : MS := Sem l G yX9_isArray (ws_ yX9_isArray cX9_isArray 2 (some .boolean)) 4 150 2
theorem yl_X9_isArray : YLk yX9_isArray (ws_ yX9_isArray cX9_isArray 2 (some .boolean)) 2 1 := ⟨lw_meth q2680, q198, Or.inl ⟨_, _, q2680⟩, by decide, by decide +kernel⟩
theorem s_X9_isArray {l : Launch} {G : JG} {Q : Int → MH → Prop} {E : Nat → Int → MH → Prop} {h : MH} {as : List LV} (hn : Nat.ble (enl as).length 2 = true) (body : ∀ K : JC, KI K l G yX9_isArray cX9_isArray 2 (some .boolean) [] 4 150 2 Q E h → JW K 0 (lv0 as 2) [] h) : S_X9_isArray l G as h Q E :=
  Sem_of (by decide +kernel) (Nat.le_of_ble_eq_true hn) body
/-! X9_isBelow -/
abbrev S_X9_isBelow (l : Launch) (G : JG) : MS := Sem l G yX9_isBelow (ws_ yX9_isBelow cX9_isBelow 4 (some .boolean)) 4 150 2
theorem yl_X9_isBelow : YLk yX9_isBelow (ws_ yX9_isBelow cX9_isBelow 4 (some .boolean)) 4 2 := ⟨lw_meth q2684, q198, Or.inl ⟨_, _, q2684⟩, by decide, by decide +kernel⟩
theorem s_X9_isBelow {l : Launch} {G : JG} {Q : Int → MH → Prop} {E : Nat → Int → MH → Prop} {h : MH} {as : List LV} (hn : Nat.ble (enl as).length 4 = true) (body : ∀ K : JC, KI K l G yX9_isBelow cX9_isBelow 4 (some .boolean) [] 4 150 2 Q E h → JW K 0 (lv0 as 4) [] h) : S_X9_isBelow l G as h Q E :=
  Sem_of (by decide +kernel) (Nat.le_of_ble_eq_true hn) body
/-! X9_cut -/
abbrev S_X9_cut (l : Launch) (G : JG) : MS := Sem l G yX9_cut (ws_ yX9_cut cX9_cut 6 (some .boolean)) 5 174 2
theorem yl_X9_cut : YLk yX9_cut (ws_ yX9_cut cX9_cut 6 (some .boolean)) 6 3 := ⟨lw_meth q2691, q198, Or.inl ⟨_, _, q2691⟩, by decide, by decide +kernel⟩
theorem s_X9_cut {l : Launch} {G : JG} {Q : Int → MH → Prop} {E : Nat → Int → MH → Prop} {h : MH} {as : List LV} (hn : Nat.ble (enl as).length 6 = true) (body : ∀ K : JC, KI K l G yX9_cut cX9_cut 6 (some .boolean) [] 5 174 2 Q E h → JW K 0 (lv0 as 6) [] h) : S_X9_cut l G as h Q E :=
  Sem_of (by decide +kernel) (Nat.le_of_ble_eq_true hn) body
/-! X9_of -/
abbrev S_X9_of (l : Launch) (G : JG) : MS := Sem l G yX9_of (ws_ yX9_of cX9_of 7 (some .long)) 6 195 1
theorem yl_X9_of : YLk yX9_of (ws_ yX9_of cX9_of 7 (some .long)) 7 2 := ⟨lw_meth q2695, q198, Or.inl ⟨_, _, q2695⟩, by decide, by decide +kernel⟩
theorem s_X9_of {l : Launch} {G : JG} {Q : Int → MH → Prop} {E : Nat → Int → MH → Prop} {h : MH} {as : List LV} (hn : Nat.ble (enl as).length 7 = true) (body : ∀ K : JC, KI K l G yX9_of cX9_of 7 (some .long) [] 6 195 1 Q E h → JW K 0 (lv0 as 7) [] h) : S_X9_of l G as h Q E :=
  Sem_of (by decide +kernel) (Nat.le_of_ble_eq_true hn) body
/-! X9_makeSite -/
abbrev S_X9_makeSite (l : Launch) (G : JG) : MS := Sem l G yX9_makeSite (ws_ yX9_makeSite cX9_makeSite 7 none) 6 203 700
theorem yl_X9_makeSite : YLk yX9_makeSite (ws_ yX9_makeSite cX9_makeSite 7 none) 7 1 := ⟨lw_meth q2699, q198, Or.inl ⟨_, _, q2699⟩, by decide, by decide +kernel⟩
theorem s_X9_makeSite {l : Launch} {G : JG} {Q : Int → MH → Prop} {E : Nat → Int → MH → Prop} {h : MH} {as : List LV} (hn : Nat.ble (enl as).length 7 = true) (body : ∀ K : JC, KI K l G yX9_makeSite cX9_makeSite 7 none [] 6 203 700 Q E h → JW K 0 (lv0 as 7) [] h) : S_X9_makeSite l G as h Q E :=
  Sem_of (by decide +kernel) (Nat.le_of_ble_eq_true hn) body
/-! X9_joinHeld -/
abbrev S_X9_joinHeld (l : Launch) (G : JG) : MS := Sem l G yX9_joinHeld (ws_ yX9_joinHeld cX9_joinHeld 13 none) 5 171 700
theorem yl_X9_joinHeld : YLk yX9_joinHeld (ws_ yX9_joinHeld cX9_joinHeld 13 none) 13 7 := ⟨lw_meth q2703, q198, Or.inl ⟨_, _, q2703⟩, by decide, by decide +kernel⟩
theorem s_X9_joinHeld {l : Launch} {G : JG} {Q : Int → MH → Prop} {E : Nat → Int → MH → Prop} {h : MH} {as : List LV} (hn : Nat.ble (enl as).length 13 = true) (body : ∀ K : JC, KI K l G yX9_joinHeld cX9_joinHeld 13 none [] 5 171 700 Q E h → JW K 0 (lv0 as 13) [] h) : S_X9_joinHeld l G as h Q E :=
  Sem_of (by decide +kernel) (Nat.le_of_ble_eq_true hn) body
/-! X9_array -/
abbrev S_X9_array (l : Launch) (G : JG) : MS := Sem l G yX9_array (ws_ yX9_array cX9_array 9 none) 9 275 700
theorem yl_X9_array : YLk yX9_array (ws_ yX9_array cX9_array 9 none) 9 1 := ⟨lw_meth q2707, q198, Or.inl ⟨_, _, q2707⟩, by decide, by decide +kernel⟩
theorem s_X9_array {l : Launch} {G : JG} {Q : Int → MH → Prop} {E : Nat → Int → MH → Prop} {h : MH} {as : List LV} (hn : Nat.ble (enl as).length 9 = true) (body : ∀ K : JC, KI K l G yX9_array cX9_array 9 none [] 9 275 700 Q E h → JW K 0 (lv0 as 9) [] h) : S_X9_array l G as h Q E :=
  Sem_of (by decide +kernel) (Nat.le_of_ble_eq_true hn) body
/-! X9_inArray -/
abbrev S_X9_inArray (l : Launch) (G : JG) : MS := Sem l G yX9_inArray (ws_ yX9_inArray cX9_inArray 20 none) 9 275 700
theorem yl_X9_inArray : YLk yX9_inArray (ws_ yX9_inArray cX9_inArray 20 none) 20 1 := ⟨lw_meth q2711, q198, Or.inl ⟨_, _, q2711⟩, by decide, by decide +kernel⟩
theorem s_X9_inArray {l : Launch} {G : JG} {Q : Int → MH → Prop} {E : Nat → Int → MH → Prop} {h : MH} {as : List LV} (hn : Nat.ble (enl as).length 20 = true) (body : ∀ K : JC, KI K l G yX9_inArray cX9_inArray 20 none [] 9 275 700 Q E h → JW K 0 (lv0 as 20) [] h) : S_X9_inArray l G as h Q E :=
  Sem_of (by decide +kernel) (Nat.le_of_ble_eq_true hn) body
/-! X9_arrays -/
abbrev S_X9_arrays (l : Launch) (G : JG) : MS := Sem l G yX9_arrays (ws_ yX9_arrays cX9_arrays 7 (some .long)) 5 171 1
theorem yl_X9_arrays : YLk yX9_arrays (ws_ yX9_arrays cX9_arrays 7 (some .long)) 7 2 := ⟨lw_meth q2715, q198, Or.inl ⟨_, _, q2715⟩, by decide, by decide +kernel⟩
theorem s_X9_arrays {l : Launch} {G : JG} {Q : Int → MH → Prop} {E : Nat → Int → MH → Prop} {h : MH} {as : List LV} (hn : Nat.ble (enl as).length 7 = true) (body : ∀ K : JC, KI K l G yX9_arrays cX9_arrays 7 (some .long) [] 5 171 1 Q E h → JW K 0 (lv0 as 7) [] h) : S_X9_arrays l G as h Q E :=
  Sem_of (by decide +kernel) (Nat.le_of_ble_eq_true hn) body
/-! X9_addValue -/
abbrev S_X9_addValue (l : Launch) (G : JG) : MS := Sem l G yX9_addValue (ws_ yX9_addValue cX9_addValue 6 none) 5 171 700
theorem yl_X9_addValue : YLk yX9_addValue (ws_ yX9_addValue cX9_addValue 6 none) 6 4 := ⟨lw_meth q2719, q198, Or.inl ⟨_, _, q2719⟩, by decide, by decide +kernel⟩
theorem s_X9_addValue {l : Launch} {G : JG} {Q : Int → MH → Prop} {E : Nat → Int → MH → Prop} {h : MH} {as : List LV} (hn : Nat.ble (enl as).length 6 = true) (body : ∀ K : JC, KI K l G yX9_addValue cX9_addValue 6 none [] 5 171 700 Q E h → JW K 0 (lv0 as 6) [] h) : S_X9_addValue l G as h Q E :=
  Sem_of (by decide +kernel) (Nat.le_of_ble_eq_true hn) body
/-! X9_field -/
abbrev S_X9_field (l : Launch) (G : JG) : MS := Sem l G yX9_field (ws_ yX9_field cX9_field 15 none) 9 275 700
theorem yl_X9_field : YLk yX9_field (ws_ yX9_field cX9_field 15 none) 15 1 := ⟨lw_meth q2724, q198, Or.inl ⟨_, _, q2724⟩, by decide, by decide +kernel⟩
theorem s_X9_field {l : Launch} {G : JG} {Q : Int → MH → Prop} {E : Nat → Int → MH → Prop} {h : MH} {as : List LV} (hn : Nat.ble (enl as).length 15 = true) (body : ∀ K : JC, KI K l G yX9_field cX9_field 15 none [] 9 275 700 Q E h → JW K 0 (lv0 as 15) [] h) : S_X9_field l G as h Q E :=
  Sem_of (by decide +kernel) (Nat.le_of_ble_eq_true hn) body
/-! X9_call -/
abbrev S_X9_call (l : Launch) (G : JG) : MS := Sem l G yX9_call (ws_ yX9_call cX9_call 17 none) 9 275 700
theorem yl_X9_call : YLk yX9_call (ws_ yX9_call cX9_call 17 none) 17 1 := ⟨lw_meth q2728, q198, Or.inl ⟨_, _, q2728⟩, by decide, by decide +kernel⟩
theorem s_X9_call {l : Launch} {G : JG} {Q : Int → MH → Prop} {E : Nat → Int → MH → Prop} {h : MH} {as : List LV} (hn : Nat.ble (enl as).length 17 = true) (body : ∀ K : JC, KI K l G yX9_call cX9_call 17 none [] 9 275 700 Q E h → JW K 0 (lv0 as 17) [] h) : S_X9_call l G as h Q E :=
  Sem_of (by decide +kernel) (Nat.le_of_ble_eq_true hn) body
/-! X9_sentTo -/
abbrev S_X9_sentTo (l : Launch) (G : JG) : MS := Sem l G yX9_sentTo (ws_ yX9_sentTo cX9_sentTo 5 (some .int)) 5 171 0
theorem yl_X9_sentTo : YLk yX9_sentTo (ws_ yX9_sentTo cX9_sentTo 5 (some .int)) 5 2 := ⟨lw_meth q2732, q198, Or.inl ⟨_, _, q2732⟩, by decide, by decide +kernel⟩
theorem s_X9_sentTo {l : Launch} {G : JG} {Q : Int → MH → Prop} {E : Nat → Int → MH → Prop} {h : MH} {as : List LV} (hn : Nat.ble (enl as).length 5 = true) (body : ∀ K : JC, KI K l G yX9_sentTo cX9_sentTo 5 (some .int) [] 5 171 0 Q E h → JW K 0 (lv0 as 5) [] h) : S_X9_sentTo l G as h Q E :=
  Sem_of (by decide +kernel) (Nat.le_of_ble_eq_true hn) body
/-! X9_enter -/
abbrev S_X9_enter (l : Launch) (G : JG) : MS := Sem l G yX9_enter (ws_ yX9_enter cX9_enter 12 none) 6 202 700
theorem yl_X9_enter : YLk yX9_enter (ws_ yX9_enter cX9_enter 12 none) 12 6 := ⟨lw_meth q2736, q198, Or.inl ⟨_, _, q2736⟩, by decide, by decide +kernel⟩
theorem s_X9_enter {l : Launch} {G : JG} {Q : Int → MH → Prop} {E : Nat → Int → MH → Prop} {h : MH} {as : List LV} (hn : Nat.ble (enl as).length 12 = true) (body : ∀ K : JC, KI K l G yX9_enter cX9_enter 12 none [] 6 202 700 Q E h → JW K 0 (lv0 as 12) [] h) : S_X9_enter l G as h Q E :=
  Sem_of (by decide +kernel) (Nat.le_of_ble_eq_true hn) body
/-! X9_giveBack -/
abbrev S_X9_giveBack (l : Launch) (G : JG) : MS := Sem l G yX9_giveBack (ws_ yX9_giveBack cX9_giveBack 9 none) 5 171 700
theorem yl_X9_giveBack : YLk yX9_giveBack (ws_ yX9_giveBack cX9_giveBack 9 none) 9 1 := ⟨lw_meth q2740, q198, Or.inl ⟨_, _, q2740⟩, by decide, by decide +kernel⟩
theorem s_X9_giveBack {l : Launch} {G : JG} {Q : Int → MH → Prop} {E : Nat → Int → MH → Prop} {h : MH} {as : List LV} (hn : Nat.ble (enl as).length 9 = true) (body : ∀ K : JC, KI K l G yX9_giveBack cX9_giveBack 9 none [] 5 171 700 Q E h → JW K 0 (lv0 as 9) [] h) : S_X9_giveBack l G as h Q E :=
  Sem_of (by decide +kernel) (Nat.le_of_ble_eq_true hn) body
/-! X9_findLive -/
abbrev S_X9_findLive (l : Launch) (G : JG) : MS := Sem l G yX9_findLive (ws_ yX9_findLive cX9_findLive 6 none) 5 178 700
theorem yl_X9_findLive : YLk yX9_findLive (ws_ yX9_findLive cX9_findLive 6 none) 6 0 := ⟨lw_meth q2744, q198, Or.inl ⟨_, _, q2744⟩, by decide, by decide +kernel⟩
theorem s_X9_findLive {l : Launch} {G : JG} {Q : Int → MH → Prop} {E : Nat → Int → MH → Prop} {h : MH} {as : List LV} (hn : Nat.ble (enl as).length 6 = true) (body : ∀ K : JC, KI K l G yX9_findLive cX9_findLive 6 none [] 5 178 700 Q E h → JW K 0 (lv0 as 6) [] h) : S_X9_findLive l G as h Q E :=
  Sem_of (by decide +kernel) (Nat.le_of_ble_eq_true hn) body
/-! X9_readBy -/
abbrev S_X9_readBy (l : Launch) (G : JG) : MS := Sem l G yX9_readBy (ws_ yX9_readBy cX9_readBy 3 (some .int)) 4 150 0
theorem yl_X9_readBy : YLk yX9_readBy (ws_ yX9_readBy cX9_readBy 3 (some .int)) 3 1 := ⟨lw_meth q2748, q198, Or.inl ⟨_, _, q2748⟩, by decide, by decide +kernel⟩
theorem s_X9_readBy {l : Launch} {G : JG} {Q : Int → MH → Prop} {E : Nat → Int → MH → Prop} {h : MH} {as : List LV} (hn : Nat.ble (enl as).length 3 = true) (body : ∀ K : JC, KI K l G yX9_readBy cX9_readBy 3 (some .int) [] 4 150 0 Q E h → JW K 0 (lv0 as 3) [] h) : S_X9_readBy l G as h Q E :=
  Sem_of (by decide +kernel) (Nat.le_of_ble_eq_true hn) body
/-! X9_liveOf -/
abbrev S_X9_liveOf (l : Launch) (G : JG) : MS := Sem l G yX9_liveOf (ws_ yX9_liveOf cX9_liveOf 9 (some .int)) 4 150 0
theorem yl_X9_liveOf : YLk yX9_liveOf (ws_ yX9_liveOf cX9_liveOf 9 (some .int)) 9 3 := ⟨lw_meth q2752, q198, Or.inl ⟨_, _, q2752⟩, by decide, by decide +kernel⟩
theorem s_X9_liveOf {l : Launch} {G : JG} {Q : Int → MH → Prop} {E : Nat → Int → MH → Prop} {h : MH} {as : List LV} (hn : Nat.ble (enl as).length 9 = true) (body : ∀ K : JC, KI K l G yX9_liveOf cX9_liveOf 9 (some .int) [] 4 150 0 Q E h → JW K 0 (lv0 as 9) [] h) : S_X9_liveOf l G as h Q E :=
  Sem_of (by decide +kernel) (Nat.le_of_ble_eq_true hn) body
/-! X9_findOrigins -/
abbrev S_X9_findOrigins (l : Launch) (G : JG) : MS := Sem l G yX9_findOrigins (ws_ yX9_findOrigins cX9_findOrigins 12 none) 5 177 700
theorem yl_X9_findOrigins : YLk yX9_findOrigins (ws_ yX9_findOrigins cX9_findOrigins 12 none) 12 0 := ⟨lw_meth q2756, q198, Or.inl ⟨_, _, q2756⟩, by decide, by decide +kernel⟩
theorem s_X9_findOrigins {l : Launch} {G : JG} {Q : Int → MH → Prop} {E : Nat → Int → MH → Prop} {h : MH} {as : List LV} (hn : Nat.ble (enl as).length 12 = true) (body : ∀ K : JC, KI K l G yX9_findOrigins cX9_findOrigins 12 none [] 5 177 700 Q E h → JW K 0 (lv0 as 12) [] h) : S_X9_findOrigins l G as h Q E :=
  Sem_of (by decide +kernel) (Nat.le_of_ble_eq_true hn) body
/-! X9_closed -/
abbrev S_X9_closed (l : Launch) (G : JG) : MS := Sem l G yX9_closed (ws_ yX9_closed cX9_closed 8 (some .long)) 4 150 1
theorem yl_X9_closed : YLk yX9_closed (ws_ yX9_closed cX9_closed 8 (some .long)) 8 1 := ⟨lw_meth q2760, q198, Or.inl ⟨_, _, q2760⟩, by decide, by decide +kernel⟩
theorem s_X9_closed {l : Launch} {G : JG} {Q : Int → MH → Prop} {E : Nat → Int → MH → Prop} {h : MH} {as : List LV} (hn : Nat.ble (enl as).length 8 = true) (body : ∀ K : JC, KI K l G yX9_closed cX9_closed 8 (some .long) [] 4 150 1 Q E h → JW K 0 (lv0 as 8) [] h) : S_X9_closed l G as h Q E :=
  Sem_of (by decide +kernel) (Nat.le_of_ble_eq_true hn) body
/-! X9_classOf -/
abbrev S_X9_classOf (l : Launch) (G : JG) : MS := Sem l G yX9_classOf (ws_ yX9_classOf cX9_classOf 2 (some .int)) 6 196 0
theorem yl_X9_classOf : YLk yX9_classOf (ws_ yX9_classOf cX9_classOf 2 (some .int)) 2 1 := ⟨lw_meth q2764, q198, Or.inl ⟨_, _, q2764⟩, by decide, by decide +kernel⟩
theorem s_X9_classOf {l : Launch} {G : JG} {Q : Int → MH → Prop} {E : Nat → Int → MH → Prop} {h : MH} {as : List LV} (hn : Nat.ble (enl as).length 2 = true) (body : ∀ K : JC, KI K l G yX9_classOf cX9_classOf 2 (some .int) [] 6 196 0 Q E h → JW K 0 (lv0 as 2) [] h) : S_X9_classOf l G as h Q E :=
  Sem_of (by decide +kernel) (Nat.le_of_ble_eq_true hn) body
/-! X9_hasSite -/
abbrev S_X9_hasSite (l : Launch) (G : JG) : MS := Sem l G yX9_hasSite (ws_ yX9_hasSite cX9_hasSite 2 (some .boolean)) 5 175 2
theorem yl_X9_hasSite : YLk yX9_hasSite (ws_ yX9_hasSite cX9_hasSite 2 (some .boolean)) 2 1 := ⟨lw_meth q2768, q198, Or.inl ⟨_, _, q2768⟩, by decide, by decide +kernel⟩
theorem s_X9_hasSite {l : Launch} {G : JG} {Q : Int → MH → Prop} {E : Nat → Int → MH → Prop} {h : MH} {as : List LV} (hn : Nat.ble (enl as).length 2 = true) (body : ∀ K : JC, KI K l G yX9_hasSite cX9_hasSite 2 (some .boolean) [] 5 175 2 Q E h → JW K 0 (lv0 as 2) [] h) : S_X9_hasSite l G as h Q E :=
  Sem_of (by decide +kernel) (Nat.le_of_ble_eq_true hn) body
/-! X9_depth -/
abbrev S_X9_depth (l : Launch) (G : JG) : MS := Sem l G yX9_depth (ws_ yX9_depth cX9_depth 4 (some .int)) 7 218 0
theorem yl_X9_depth : YLk yX9_depth (ws_ yX9_depth cX9_depth 4 (some .int)) 4 2 := ⟨lw_meth q2772, q198, Or.inl ⟨_, _, q2772⟩, by decide, by decide +kernel⟩
theorem s_X9_depth {l : Launch} {G : JG} {Q : Int → MH → Prop} {E : Nat → Int → MH → Prop} {h : MH} {as : List LV} (hn : Nat.ble (enl as).length 4 = true) (body : ∀ K : JC, KI K l G yX9_depth cX9_depth 4 (some .int) [] 7 218 0 Q E h → JW K 0 (lv0 as 4) [] h) : S_X9_depth l G as h Q E :=
  Sem_of (by decide +kernel) (Nat.le_of_ble_eq_true hn) body
/-! X9_placeOf -/
abbrev S_X9_placeOf (l : Launch) (G : JG) : MS := Sem l G yX9_placeOf (ws_ yX9_placeOf cX9_placeOf 3 (some .int)) 6 196 0
theorem yl_X9_placeOf : YLk yX9_placeOf (ws_ yX9_placeOf cX9_placeOf 3 (some .int)) 3 2 := ⟨lw_meth q2776, q198, Or.inl ⟨_, _, q2776⟩, by decide, by decide +kernel⟩
theorem s_X9_placeOf {l : Launch} {G : JG} {Q : Int → MH → Prop} {E : Nat → Int → MH → Prop} {h : MH} {as : List LV} (hn : Nat.ble (enl as).length 3 = true) (body : ∀ K : JC, KI K l G yX9_placeOf cX9_placeOf 3 (some .int) [] 6 196 0 Q E h → JW K 0 (lv0 as 3) [] h) : S_X9_placeOf l G as h Q E :=
  Sem_of (by decide +kernel) (Nat.le_of_ble_eq_true hn) body
/-! X9_reach -/
abbrev S_X9_reach (l : Launch) (G : JG) : MS := Sem l G yX9_reach (ws_ yX9_reach cX9_reach 4 (some .boolean)) 12 390 2
theorem yl_X9_reach : YLk yX9_reach (ws_ yX9_reach cX9_reach 4 (some .boolean)) 4 2 := ⟨lw_meth q2780, q198, Or.inl ⟨_, _, q2780⟩, by decide, by decide +kernel⟩
theorem s_X9_reach {l : Launch} {G : JG} {Q : Int → MH → Prop} {E : Nat → Int → MH → Prop} {h : MH} {as : List LV} (hn : Nat.ble (enl as).length 4 = true) (body : ∀ K : JC, KI K l G yX9_reach cX9_reach 4 (some .boolean) [] 12 390 2 Q E h → JW K 0 (lv0 as 4) [] h) : S_X9_reach l G as h Q E :=
  Sem_of (by decide +kernel) (Nat.le_of_ble_eq_true hn) body
/-! X9_value -/
abbrev S_X9_value (l : Launch) (G : JG) : MS := Sem l G yX9_value (ws_ yX9_value cX9_value 8 (some .long)) 12 390 1
theorem yl_X9_value : YLk yX9_value (ws_ yX9_value cX9_value 8 (some .long)) 8 4 := ⟨lw_meth q2784, q198, Or.inl ⟨_, _, q2784⟩, by decide, by decide +kernel⟩
theorem s_X9_value {l : Launch} {G : JG} {Q : Int → MH → Prop} {E : Nat → Int → MH → Prop} {h : MH} {as : List LV} (hn : Nat.ble (enl as).length 8 = true) (body : ∀ K : JC, KI K l G yX9_value cX9_value 8 (some .long) [] 12 390 1 Q E h → JW K 0 (lv0 as 8) [] h) : S_X9_value l G as h Q E :=
  Sem_of (by decide +kernel) (Nat.le_of_ble_eq_true hn) body
/-! X9_locks -/
abbrev S_X9_locks (l : Launch) (G : JG) : MS := Sem l G yX9_locks (ws_ yX9_locks cX9_locks 5 (some .int)) 12 390 0
theorem yl_X9_locks : YLk yX9_locks (ws_ yX9_locks cX9_locks 5 (some .int)) 5 3 := ⟨lw_meth q2789, q198, Or.inl ⟨_, _, q2789⟩, by decide, by decide +kernel⟩
theorem s_X9_locks {l : Launch} {G : JG} {Q : Int → MH → Prop} {E : Nat → Int → MH → Prop} {h : MH} {as : List LV} (hn : Nat.ble (enl as).length 5 = true) (body : ∀ K : JC, KI K l G yX9_locks cX9_locks 5 (some .int) [] 12 390 0 Q E h → JW K 0 (lv0 as 5) [] h) : S_X9_locks l G as h Q E :=
  Sem_of (by decide +kernel) (Nat.le_of_ble_eq_true hn) body
/-! X9_throwsAt -/
abbrev S_X9_throwsAt (l : Launch) (G : JG) : MS := Sem l G yX9_throwsAt (ws_ yX9_throwsAt cX9_throwsAt 4 (some .long)) 12 390 1
theorem yl_X9_throwsAt : YLk yX9_throwsAt (ws_ yX9_throwsAt cX9_throwsAt 4 (some .long)) 4 2 := ⟨lw_meth q2793, q198, Or.inl ⟨_, _, q2793⟩, by decide, by decide +kernel⟩
theorem s_X9_throwsAt {l : Launch} {G : JG} {Q : Int → MH → Prop} {E : Nat → Int → MH → Prop} {h : MH} {as : List LV} (hn : Nat.ble (enl as).length 4 = true) (body : ∀ K : JC, KI K l G yX9_throwsAt cX9_throwsAt 4 (some .long) [] 12 390 1 Q E h → JW K 0 (lv0 as 4) [] h) : S_X9_throwsAt l G as h Q E :=
  Sem_of (by decide +kernel) (Nat.le_of_ble_eq_true hn) body
/-! X9_calls -/
abbrev S_X9_calls (l : Launch) (G : JG) : MS := Sem l G yX9_calls (ws_ yX9_calls cX9_calls 4 (some .long)) 12 390 1
theorem yl_X9_calls : YLk yX9_calls (ws_ yX9_calls cX9_calls 4 (some .long)) 4 2 := ⟨lw_meth q2797, q198, Or.inl ⟨_, _, q2797⟩, by decide, by decide +kernel⟩
theorem s_X9_calls {l : Launch} {G : JG} {Q : Int → MH → Prop} {E : Nat → Int → MH → Prop} {h : MH} {as : List LV} (hn : Nat.ble (enl as).length 4 = true) (body : ∀ K : JC, KI K l G yX9_calls cX9_calls 4 (some .long) [] 12 390 1 Q E h → JW K 0 (lv0 as 4) [] h) : S_X9_calls l G as h Q E :=
  Sem_of (by decide +kernel) (Nat.le_of_ble_eq_true hn) body
/-! X9_outcome -/
abbrev S_X9_outcome (l : Launch) (G : JG) : MS := Sem l G yX9_outcome (ws_ yX9_outcome cX9_outcome 3 (some .long)) 12 390 1
theorem yl_X9_outcome : YLk yX9_outcome (ws_ yX9_outcome cX9_outcome 3 (some .long)) 3 2 := ⟨lw_meth q2801, q198, Or.inl ⟨_, _, q2801⟩, by decide, by decide +kernel⟩
theorem s_X9_outcome {l : Launch} {G : JG} {Q : Int → MH → Prop} {E : Nat → Int → MH → Prop} {h : MH} {as : List LV} (hn : Nat.ble (enl as).length 3 = true) (body : ∀ K : JC, KI K l G yX9_outcome cX9_outcome 3 (some .long) [] 12 390 1 Q E h → JW K 0 (lv0 as 3) [] h) : S_X9_outcome l G as h Q E :=
  Sem_of (by decide +kernel) (Nat.le_of_ble_eq_true hn) body
/-! X9_held -/
abbrev S_X9_held (l : Launch) (G : JG) : MS := Sem l G yX9_held (ws_ yX9_held cX9_held 7 (some .long)) 12 390 1
theorem yl_X9_held : YLk yX9_held (ws_ yX9_held cX9_held 7 (some .long)) 7 3 := ⟨lw_meth q2806, q198, Or.inl ⟨_, _, q2806⟩, by decide, by decide +kernel⟩
theorem s_X9_held {l : Launch} {G : JG} {Q : Int → MH → Prop} {E : Nat → Int → MH → Prop} {h : MH} {as : List LV} (hn : Nat.ble (enl as).length 7 = true) (body : ∀ K : JC, KI K l G yX9_held cX9_held 7 (some .long) [] 12 390 1 Q E h → JW K 0 (lv0 as 7) [] h) : S_X9_held l G as h Q E :=
  Sem_of (by decide +kernel) (Nat.le_of_ble_eq_true hn) body
/-! X9_statics -/
abbrev S_X9_statics (l : Launch) (G : JG) : MS := Sem l G yX9_statics (ws_ yX9_statics cX9_statics 3 (some .long)) 12 390 1
theorem yl_X9_statics : YLk yX9_statics (ws_ yX9_statics cX9_statics 3 (some .long)) 3 2 := ⟨lw_meth q2811, q198, Or.inl ⟨_, _, q2811⟩, by decide, by decide +kernel⟩
theorem s_X9_statics {l : Launch} {G : JG} {Q : Int → MH → Prop} {E : Nat → Int → MH → Prop} {h : MH} {as : List LV} (hn : Nat.ble (enl as).length 3 = true) (body : ∀ K : JC, KI K l G yX9_statics cX9_statics 3 (some .long) [] 12 390 1 Q E h → JW K 0 (lv0 as 3) [] h) : S_X9_statics l G as h Q E :=
  Sem_of (by decide +kernel) (Nat.le_of_ble_eq_true hn) body
/-! X9_sink -/
abbrev S_X9_sink (l : Launch) (G : JG) : MS := Sem l G yX9_sink (ws_ yX9_sink cX9_sink 3 (some .long)) 12 390 1
theorem yl_X9_sink : YLk yX9_sink (ws_ yX9_sink cX9_sink 3 (some .long)) 3 2 := ⟨lw_meth q2815, q198, Or.inl ⟨_, _, q2815⟩, by decide, by decide +kernel⟩
theorem s_X9_sink {l : Launch} {G : JG} {Q : Int → MH → Prop} {E : Nat → Int → MH → Prop} {h : MH} {as : List LV} (hn : Nat.ble (enl as).length 3 = true) (body : ∀ K : JC, KI K l G yX9_sink cX9_sink 3 (some .long) [] 12 390 1 Q E h → JW K 0 (lv0 as 3) [] h) : S_X9_sink l G as h Q E :=
  Sem_of (by decide +kernel) (Nat.le_of_ble_eq_true hn) body
/-! X9_live -/
abbrev S_X9_live (l : Launch) (G : JG) : MS := Sem l G yX9_live (ws_ yX9_live cX9_live 4 (some .int)) 12 390 0
theorem yl_X9_live : YLk yX9_live (ws_ yX9_live cX9_live 4 (some .int)) 4 2 := ⟨lw_meth q2819, q198, Or.inl ⟨_, _, q2819⟩, by decide, by decide +kernel⟩
theorem s_X9_live {l : Launch} {G : JG} {Q : Int → MH → Prop} {E : Nat → Int → MH → Prop} {h : MH} {as : List LV} (hn : Nat.ble (enl as).length 4 = true) (body : ∀ K : JC, KI K l G yX9_live cX9_live 4 (some .int) [] 12 390 0 Q E h → JW K 0 (lv0 as 4) [] h) : S_X9_live l G as h Q E :=
  Sem_of (by decide +kernel) (Nat.le_of_ble_eq_true hn) body
/-! X9_idle -/
abbrev S_X9_idle (l : Launch) (G : JG) : MS := Sem l G yX9_idle (ws_ yX9_idle cX9_idle 5 (some .int)) 12 390 0
theorem yl_X9_idle : YLk yX9_idle (ws_ yX9_idle cX9_idle 5 (some .int)) 5 1 := ⟨lw_meth q2823, q198, Or.inl ⟨_, _, q2823⟩, by decide, by decide +kernel⟩
theorem s_X9_idle {l : Launch} {G : JG} {Q : Int → MH → Prop} {E : Nat → Int → MH → Prop} {h : MH} {as : List LV} (hn : Nat.ble (enl as).length 5 = true) (body : ∀ K : JC, KI K l G yX9_idle cX9_idle 5 (some .int) [] 12 390 0 Q E h → JW K 0 (lv0 as 5) [] h) : S_X9_idle l G as h Q E :=
  Sem_of (by decide +kernel) (Nat.le_of_ble_eq_true hn) body
/-! X9_threads -/
abbrev S_X9_threads (l : Launch) (G : JG) : MS := Sem l G yX9_threads (ws_ yX9_threads cX9_threads 2 (some .int)) 12 390 0
theorem yl_X9_threads : YLk yX9_threads (ws_ yX9_threads cX9_threads 2 (some .int)) 2 1 := ⟨lw_meth q2827, q198, Or.inl ⟨_, _, q2827⟩, by decide, by decide +kernel⟩
theorem s_X9_threads {l : Launch} {G : JG} {Q : Int → MH → Prop} {E : Nat → Int → MH → Prop} {h : MH} {as : List LV} (hn : Nat.ble (enl as).length 2 = true) (body : ∀ K : JC, KI K l G yX9_threads cX9_threads 2 (some .int) [] 12 390 0 Q E h → JW K 0 (lv0 as 2) [] h) : S_X9_threads l G as h Q E :=
  Sem_of (by decide +kernel) (Nat.le_of_ble_eq_true hn) body
/-! X9_findRace -/
abbrev S_X9_findRace (l : Launch) (G : JG) : MS := Sem l G yX9_findRace (ws_ yX9_findRace cX9_findRace 5 (some .int)) 6 194 0
theorem yl_X9_findRace : YLk yX9_findRace (ws_ yX9_findRace cX9_findRace 5 (some .int)) 5 1 := ⟨lw_meth q2833, q198, Or.inl ⟨_, _, q2833⟩, by decide, by decide +kernel⟩
theorem s_X9_findRace {l : Launch} {G : JG} {Q : Int → MH → Prop} {E : Nat → Int → MH → Prop} {h : MH} {as : List LV} (hn : Nat.ble (enl as).length 5 = true) (body : ∀ K : JC, KI K l G yX9_findRace cX9_findRace 5 (some .int) [] 6 194 0 Q E h → JW K 0 (lv0 as 5) [] h) : S_X9_findRace l G as h Q E :=
  Sem_of (by decide +kernel) (Nat.le_of_ble_eq_true hn) body
/-! X9_isRace -/
abbrev S_X9_isRace (l : Launch) (G : JG) : MS := Sem l G yX9_isRace (ws_ yX9_isRace cX9_isRace 5 (some .boolean)) 5 170 2
theorem yl_X9_isRace : YLk yX9_isRace (ws_ yX9_isRace cX9_isRace 5 (some .boolean)) 5 2 := ⟨lw_meth q2840, q198, Or.inl ⟨_, _, q2840⟩, by decide, by decide +kernel⟩
theorem s_X9_isRace {l : Launch} {G : JG} {Q : Int → MH → Prop} {E : Nat → Int → MH → Prop} {h : MH} {as : List LV} (hn : Nat.ble (enl as).length 5 = true) (body : ∀ K : JC, KI K l G yX9_isRace cX9_isRace 5 (some .boolean) [] 5 170 2 Q E h → JW K 0 (lv0 as 5) [] h) : S_X9_isRace l G as h Q E :=
  Sem_of (by decide +kernel) (Nat.le_of_ble_eq_true hn) body
/-! X9_ring -/
abbrev S_X9_ring (l : Launch) (G : JG) : MS := Sem l G yX9_ring (ws_ yX9_ring cX9_ring 6 (some .int)) 5 173 0
theorem yl_X9_ring : YLk yX9_ring (ws_ yX9_ring cX9_ring 6 (some .int)) 6 0 := ⟨lw_meth q2847, q198, Or.inl ⟨_, _, q2847⟩, by decide, by decide +kernel⟩
theorem s_X9_ring {l : Launch} {G : JG} {Q : Int → MH → Prop} {E : Nat → Int → MH → Prop} {h : MH} {as : List LV} (hn : Nat.ble (enl as).length 6 = true) (body : ∀ K : JC, KI K l G yX9_ring cX9_ring 6 (some .int) [] 5 173 0 Q E h → JW K 0 (lv0 as 6) [] h) : S_X9_ring l G as h Q E :=
  Sem_of (by decide +kernel) (Nat.le_of_ble_eq_true hn) body
/-! X9_before -/
abbrev S_X9_before (l : Launch) (G : JG) : MS := Sem l G yX9_before (ws_ yX9_before cX9_before 4 (some .int)) 4 150 0
theorem yl_X9_before : YLk yX9_before (ws_ yX9_before cX9_before 4 (some .int)) 4 1 := ⟨lw_meth q2851, q198, Or.inl ⟨_, _, q2851⟩, by decide, by decide +kernel⟩
theorem s_X9_before {l : Launch} {G : JG} {Q : Int → MH → Prop} {E : Nat → Int → MH → Prop} {h : MH} {as : List LV} (hn : Nat.ble (enl as).length 4 = true) (body : ∀ K : JC, KI K l G yX9_before cX9_before 4 (some .int) [] 4 150 0 Q E h → JW K 0 (lv0 as 4) [] h) : S_X9_before l G as h Q E :=
  Sem_of (by decide +kernel) (Nat.le_of_ble_eq_true hn) body
/-! X9_race -/
abbrev S_X9_race (l : Launch) (G : JG) : MS := Sem l G yX9_race (ws_ yX9_race cX9_race 5 (some .int)) 12 390 0
theorem yl_X9_race : YLk yX9_race (ws_ yX9_race cX9_race 5 (some .int)) 5 2 := ⟨lw_meth q2855, q198, Or.inl ⟨_, _, q2855⟩, by decide, by decide +kernel⟩
theorem s_X9_race {l : Launch} {G : JG} {Q : Int → MH → Prop} {E : Nat → Int → MH → Prop} {h : MH} {as : List LV} (hn : Nat.ble (enl as).length 5 = true) (body : ∀ K : JC, KI K l G yX9_race cX9_race 5 (some .int) [] 12 390 0 Q E h → JW K 0 (lv0 as 5) [] h) : S_X9_race l G as h Q E :=
  Sem_of (by decide +kernel) (Nat.le_of_ble_eq_true hn) body
/-! X9_runs -/
abbrev S_X9_runs (l : Launch) (G : JG) : MS := Sem l G yX9_runs (ws_ yX9_runs cX9_runs 2 (some .long)) 12 390 1
theorem yl_X9_runs : YLk yX9_runs (ws_ yX9_runs cX9_runs 2 (some .long)) 2 1 := ⟨lw_meth q2859, q198, Or.inl ⟨_, _, q2859⟩, by decide, by decide +kernel⟩
theorem s_X9_runs {l : Launch} {G : JG} {Q : Int → MH → Prop} {E : Nat → Int → MH → Prop} {h : MH} {as : List LV} (hn : Nat.ble (enl as).length 2 = true) (body : ∀ K : JC, KI K l G yX9_runs cX9_runs 2 (some .long) [] 12 390 1 Q E h → JW K 0 (lv0 as 2) [] h) : S_X9_runs l G as h Q E :=
  Sem_of (by decide +kernel) (Nat.le_of_ble_eq_true hn) body
/-! X9_input -/
abbrev S_X9_input (l : Launch) (G : JG) : MS := Sem l G yX9_input (ws_ yX9_input cX9_input 2 (some .int)) 4 150 0
theorem yl_X9_input : YLk yX9_input (ws_ yX9_input cX9_input 2 (some .int)) 2 1 := ⟨lw_meth q2863, q198, Or.inl ⟨_, _, q2863⟩, by decide, by decide +kernel⟩
theorem s_X9_input {l : Launch} {G : JG} {Q : Int → MH → Prop} {E : Nat → Int → MH → Prop} {h : MH} {as : List LV} (hn : Nat.ble (enl as).length 2 = true) (body : ∀ K : JC, KI K l G yX9_input cX9_input 2 (some .int) [] 4 150 0 Q E h → JW K 0 (lv0 as 2) [] h) : S_X9_input l G as h Q E :=
  Sem_of (by decide +kernel) (Nat.le_of_ble_eq_true hn) body
/-! X9_walk -/
abbrev S_X9_walk (l : Launch) (G : JG) : MS := Sem l G yX9_walk (ws_ yX9_walk cX9_walk 8 (some .int)) 13 411 0
theorem yl_X9_walk : YLk yX9_walk (ws_ yX9_walk cX9_walk 8 (some .int)) 8 3 := ⟨lw_meth q2867, q198, Or.inl ⟨_, _, q2867⟩, by decide, by decide +kernel⟩
theorem s_X9_walk {l : Launch} {G : JG} {Q : Int → MH → Prop} {E : Nat → Int → MH → Prop} {h : MH} {as : List LV} (hn : Nat.ble (enl as).length 8 = true) (body : ∀ K : JC, KI K l G yX9_walk cX9_walk 8 (some .int) [] 13 411 0 Q E h → JW K 0 (lv0 as 8) [] h) : S_X9_walk l G as h Q E :=
  Sem_of (by decide +kernel) (Nat.le_of_ble_eq_true hn) body
/-! X9_open -/
abbrev S_X9_open (l : Launch) (G : JG) : MS := Sem l G yX9_open (ws_ yX9_open cX9_open 5 (some .int)) 5 171 0
theorem yl_X9_open : YLk yX9_open (ws_ yX9_open cX9_open 5 (some .int)) 5 2 := ⟨lw_meth q2873, q198, Or.inl ⟨_, _, q2873⟩, by decide, by decide +kernel⟩
theorem s_X9_open {l : Launch} {G : JG} {Q : Int → MH → Prop} {E : Nat → Int → MH → Prop} {h : MH} {as : List LV} (hn : Nat.ble (enl as).length 5 = true) (body : ∀ K : JC, KI K l G yX9_open cX9_open 5 (some .int) [] 5 171 0 Q E h → JW K 0 (lv0 as 5) [] h) : S_X9_open l G as h Q E :=
  Sem_of (by decide +kernel) (Nat.le_of_ble_eq_true hn) body
/-! X9_frame -/
abbrev S_X9_frame (l : Launch) (G : JG) : MS := Sem l G yX9_frame (ws_ yX9_frame cX9_frame 2 (some .int)) 4 150 0
theorem yl_X9_frame : YLk yX9_frame (ws_ yX9_frame cX9_frame 2 (some .int)) 2 1 := ⟨lw_meth q2877, q198, Or.inl ⟨_, _, q2877⟩, by decide, by decide +kernel⟩
theorem s_X9_frame {l : Launch} {G : JG} {Q : Int → MH → Prop} {E : Nat → Int → MH → Prop} {h : MH} {as : List LV} (hn : Nat.ble (enl as).length 2 = true) (body : ∀ K : JC, KI K l G yX9_frame cX9_frame 2 (some .int) [] 4 150 0 Q E h → JW K 0 (lv0 as 2) [] h) : S_X9_frame l G as h Q E :=
  Sem_of (by decide +kernel) (Nat.le_of_ble_eq_true hn) body
/-! X9_nextInput -/
abbrev S_X9_nextInput (l : Launch) (G : JG) : MS := Sem l G yX9_nextInput (ws_ yX9_nextInput cX9_nextInput 1 (some .int)) 4 150 0
theorem yl_X9_nextInput : YLk yX9_nextInput (ws_ yX9_nextInput cX9_nextInput 1 (some .int)) 1 0 := ⟨lw_meth q2881, q198, Or.inl ⟨_, _, q2881⟩, by decide, by decide +kernel⟩
theorem s_X9_nextInput {l : Launch} {G : JG} {Q : Int → MH → Prop} {E : Nat → Int → MH → Prop} {h : MH} {as : List LV} (hn : Nat.ble (enl as).length 1 = true) (body : ∀ K : JC, KI K l G yX9_nextInput cX9_nextInput 1 (some .int) [] 4 150 0 Q E h → JW K 0 (lv0 as 1) [] h) : S_X9_nextInput l G as h Q E :=
  Sem_of (by decide +kernel) (Nat.le_of_ble_eq_true hn) body
/-! X9_isWaiting -/
abbrev S_X9_isWaiting (l : Launch) (G : JG) : MS := Sem l G yX9_isWaiting (ws_ yX9_isWaiting cX9_isWaiting 3 (some .boolean)) 5 171 2
theorem yl_X9_isWaiting : YLk yX9_isWaiting (ws_ yX9_isWaiting cX9_isWaiting 3 (some .boolean)) 3 1 := ⟨lw_meth q2885, q198, Or.inl ⟨_, _, q2885⟩, by decide, by decide +kernel⟩
theorem s_X9_isWaiting {l : Launch} {G : JG} {Q : Int → MH → Prop} {E : Nat → Int → MH → Prop} {h : MH} {as : List LV} (hn : Nat.ble (enl as).length 3 = true) (body : ∀ K : JC, KI K l G yX9_isWaiting cX9_isWaiting 3 (some .boolean) [] 5 171 2 Q E h → JW K 0 (lv0 as 3) [] h) : S_X9_isWaiting l G as h Q E :=
  Sem_of (by decide +kernel) (Nat.le_of_ble_eq_true hn) body
/-! X9_act -/
abbrev S_X9_act (l : Launch) (G : JG) : MS := Sem l G yX9_act (ws_ yX9_act cX9_act 2 (some .boolean)) 12 390 2
theorem yl_X9_act : YLk yX9_act (ws_ yX9_act cX9_act 2 (some .boolean)) 2 1 := ⟨lw_meth q2889, q198, Or.inl ⟨_, _, q2889⟩, by decide, by decide +kernel⟩
theorem s_X9_act {l : Launch} {G : JG} {Q : Int → MH → Prop} {E : Nat → Int → MH → Prop} {h : MH} {as : List LV} (hn : Nat.ble (enl as).length 2 = true) (body : ∀ K : JC, KI K l G yX9_act cX9_act 2 (some .boolean) [] 12 390 2 Q E h → JW K 0 (lv0 as 2) [] h) : S_X9_act l G as h Q E :=
  Sem_of (by decide +kernel) (Nat.le_of_ble_eq_true hn) body
/-! X9_isAsTold -/
abbrev S_X9_isAsTold (l : Launch) (G : JG) : MS := Sem l G yX9_isAsTold (ws_ yX9_isAsTold cX9_isAsTold 10 (some .boolean)) 5 171 2
theorem yl_X9_isAsTold : YLk yX9_isAsTold (ws_ yX9_isAsTold cX9_isAsTold 10 (some .boolean)) 10 1 := ⟨lw_meth q2893, q198, Or.inl ⟨_, _, q2893⟩, by decide, by decide +kernel⟩
theorem s_X9_isAsTold {l : Launch} {G : JG} {Q : Int → MH → Prop} {E : Nat → Int → MH → Prop} {h : MH} {as : List LV} (hn : Nat.ble (enl as).length 10 = true) (body : ∀ K : JC, KI K l G yX9_isAsTold cX9_isAsTold 10 (some .boolean) [] 5 171 2 Q E h → JW K 0 (lv0 as 10) [] h) : S_X9_isAsTold l G as h Q E :=
  Sem_of (by decide +kernel) (Nat.le_of_ble_eq_true hn) body
/-! X9_siteOf -/
abbrev S_X9_siteOf (l : Launch) (G : JG) : MS := Sem l G yX9_siteOf (ws_ yX9_siteOf cX9_siteOf 2 (some .int)) 4 150 0
theorem yl_X9_siteOf : YLk yX9_siteOf (ws_ yX9_siteOf cX9_siteOf 2 (some .int)) 2 1 := ⟨lw_meth q2897, q198, Or.inl ⟨_, _, q2897⟩, by decide, by decide +kernel⟩
theorem s_X9_siteOf {l : Launch} {G : JG} {Q : Int → MH → Prop} {E : Nat → Int → MH → Prop} {h : MH} {as : List LV} (hn : Nat.ble (enl as).length 2 = true) (body : ∀ K : JC, KI K l G yX9_siteOf cX9_siteOf 2 (some .int) [] 4 150 0 Q E h → JW K 0 (lv0 as 2) [] h) : S_X9_siteOf l G as h Q E :=
  Sem_of (by decide +kernel) (Nat.le_of_ble_eq_true hn) body
/-! X9_doIt -/
abbrev S_X9_doIt (l : Launch) (G : JG) : MS := Sem l G yX9_doIt (ws_ yX9_doIt cX9_doIt 15 none) 9 277 700
theorem yl_X9_doIt : YLk yX9_doIt (ws_ yX9_doIt cX9_doIt 15 none) 15 1 := ⟨lw_meth q2901, q198, Or.inl ⟨_, _, q2901⟩, by decide, by decide +kernel⟩
theorem s_X9_doIt {l : Launch} {G : JG} {Q : Int → MH → Prop} {E : Nat → Int → MH → Prop} {h : MH} {as : List LV} (hn : Nat.ble (enl as).length 15 = true) (body : ∀ K : JC, KI K l G yX9_doIt cX9_doIt 15 none [] 9 277 700 Q E h → JW K 0 (lv0 as 15) [] h) : S_X9_doIt l G as h Q E :=
  Sem_of (by decide +kernel) (Nat.le_of_ble_eq_true hn) body
/-! X9_lie -/
abbrev S_X9_lie (l : Launch) (G : JG) : MS := Sem l G yX9_lie (ws_ yX9_lie cX9_lie 3 none) 6 194 700
theorem yl_X9_lie : YLk yX9_lie (ws_ yX9_lie cX9_lie 3 none) 3 2 := ⟨lw_meth q2905, q198, Or.inl ⟨_, _, q2905⟩, by decide, by decide +kernel⟩
theorem s_X9_lie {l : Launch} {G : JG} {Q : Int → MH → Prop} {E : Nat → Int → MH → Prop} {h : MH} {as : List LV} (hn : Nat.ble (enl as).length 3 = true) (body : ∀ K : JC, KI K l G yX9_lie cX9_lie 3 none [] 6 194 700 Q E h → JW K 0 (lv0 as 3) [] h) : S_X9_lie l G as h Q E :=
  Sem_of (by decide +kernel) (Nat.le_of_ble_eq_true hn) body
/-! X9_push -/
abbrev S_X9_push (l : Launch) (G : JG) : MS := Sem l G yX9_push (ws_ yX9_push cX9_push 4 none) 5 171 700
theorem yl_X9_push : YLk yX9_push (ws_ yX9_push cX9_push 4 none) 4 2 := ⟨lw_meth q2909, q198, Or.inl ⟨_, _, q2909⟩, by decide, by decide +kernel⟩
theorem s_X9_push {l : Launch} {G : JG} {Q : Int → MH → Prop} {E : Nat → Int → MH → Prop} {h : MH} {as : List LV} (hn : Nat.ble (enl as).length 4 = true) (body : ∀ K : JC, KI K l G yX9_push cX9_push 4 none [] 5 171 700 Q E h → JW K 0 (lv0 as 4) [] h) : S_X9_push l G as h Q E :=
  Sem_of (by decide +kernel) (Nat.le_of_ble_eq_true hn) body
/-! X9_step -/
abbrev S_X9_step (l : Launch) (G : JG) : MS := Sem l G yX9_step (ws_ yX9_step cX9_step 2 none) 5 171 700
theorem yl_X9_step : YLk yX9_step (ws_ yX9_step cX9_step 2 none) 2 1 := ⟨lw_meth q2913, q198, Or.inl ⟨_, _, q2913⟩, by decide, by decide +kernel⟩
theorem s_X9_step {l : Launch} {G : JG} {Q : Int → MH → Prop} {E : Nat → Int → MH → Prop} {h : MH} {as : List LV} (hn : Nat.ble (enl as).length 2 = true) (body : ∀ K : JC, KI K l G yX9_step cX9_step 2 none [] 5 171 700 Q E h → JW K 0 (lv0 as 2) [] h) : S_X9_step l G as h Q E :=
  Sem_of (by decide +kernel) (Nat.le_of_ble_eq_true hn) body
/-! X9_top -/
abbrev S_X9_top (l : Launch) (G : JG) : MS := Sem l G yX9_top (ws_ yX9_top cX9_top 4 (some .int)) 5 171 0
theorem yl_X9_top : YLk yX9_top (ws_ yX9_top cX9_top 4 (some .int)) 4 2 := ⟨lw_meth q2917, q198, Or.inl ⟨_, _, q2917⟩, by decide, by decide +kernel⟩
theorem s_X9_top {l : Launch} {G : JG} {Q : Int → MH → Prop} {E : Nat → Int → MH → Prop} {h : MH} {as : List LV} (hn : Nat.ble (enl as).length 4 = true) (body : ∀ K : JC, KI K l G yX9_top cX9_top 4 (some .int) [] 5 171 0 Q E h → JW K 0 (lv0 as 4) [] h) : S_X9_top l G as h Q E :=
  Sem_of (by decide +kernel) (Nat.le_of_ble_eq_true hn) body
/-! X9_drop -/
abbrev S_X9_drop (l : Launch) (G : JG) : MS := Sem l G yX9_drop (ws_ yX9_drop cX9_drop 3 none) 5 171 700
theorem yl_X9_drop : YLk yX9_drop (ws_ yX9_drop cX9_drop 3 none) 3 2 := ⟨lw_meth q2921, q198, Or.inl ⟨_, _, q2921⟩, by decide, by decide +kernel⟩
theorem s_X9_drop {l : Launch} {G : JG} {Q : Int → MH → Prop} {E : Nat → Int → MH → Prop} {h : MH} {as : List LV} (hn : Nat.ble (enl as).length 3 = true) (body : ∀ K : JC, KI K l G yX9_drop cX9_drop 3 none [] 5 171 700 Q E h → JW K 0 (lv0 as 3) [] h) : S_X9_drop l G as h Q E :=
  Sem_of (by decide +kernel) (Nat.le_of_ble_eq_true hn) body
/-! X9_hurl -/
abbrev S_X9_hurl (l : Launch) (G : JG) : MS := Sem l G yX9_hurl (ws_ yX9_hurl cX9_hurl 8 none) 7 221 700
theorem yl_X9_hurl : YLk yX9_hurl (ws_ yX9_hurl cX9_hurl 8 none) 8 2 := ⟨lw_meth q2925, q198, Or.inl ⟨_, _, q2925⟩, by decide, by decide +kernel⟩
theorem s_X9_hurl {l : Launch} {G : JG} {Q : Int → MH → Prop} {E : Nat → Int → MH → Prop} {h : MH} {as : List LV} (hn : Nat.ble (enl as).length 8 = true) (body : ∀ K : JC, KI K l G yX9_hurl cX9_hurl 8 none [] 7 221 700 Q E h → JW K 0 (lv0 as 8) [] h) : S_X9_hurl l G as h Q E :=
  Sem_of (by decide +kernel) (Nat.le_of_ble_eq_true hn) body
/-! X9_jump -/
abbrev S_X9_jump (l : Launch) (G : JG) : MS := Sem l G yX9_jump (ws_ yX9_jump cX9_jump 4 none) 6 192 700
theorem yl_X9_jump : YLk yX9_jump (ws_ yX9_jump cX9_jump 4 none) 4 3 := ⟨lw_meth q2930, q198, Or.inl ⟨_, _, q2930⟩, by decide, by decide +kernel⟩
theorem s_X9_jump {l : Launch} {G : JG} {Q : Int → MH → Prop} {E : Nat → Int → MH → Prop} {h : MH} {as : List LV} (hn : Nat.ble (enl as).length 4 = true) (body : ∀ K : JC, KI K l G yX9_jump cX9_jump 4 none [] 6 192 700 Q E h → JW K 0 (lv0 as 4) [] h) : S_X9_jump l G as h Q E :=
  Sem_of (by decide +kernel) (Nat.le_of_ble_eq_true hn) body
/-! X9_isFullBy -/
abbrev S_X9_isFullBy (l : Launch) (G : JG) : MS := Sem l G yX9_isFullBy (ws_ yX9_isFullBy cX9_isFullBy 2 (some .boolean)) 4 150 2
theorem yl_X9_isFullBy : YLk yX9_isFullBy (ws_ yX9_isFullBy cX9_isFullBy 2 (some .boolean)) 2 1 := ⟨lw_meth q2934, q198, Or.inl ⟨_, _, q2934⟩, by decide, by decide +kernel⟩
theorem s_X9_isFullBy {l : Launch} {G : JG} {Q : Int → MH → Prop} {E : Nat → Int → MH → Prop} {h : MH} {as : List LV} (hn : Nat.ble (enl as).length 2 = true) (body : ∀ K : JC, KI K l G yX9_isFullBy cX9_isFullBy 2 (some .boolean) [] 4 150 2 Q E h → JW K 0 (lv0 as 2) [] h) : S_X9_isFullBy l G as h Q E :=
  Sem_of (by decide +kernel) (Nat.le_of_ble_eq_true hn) body
/-! X9_make -/
abbrev S_X9_make (l : Launch) (G : JG) : MS := Sem l G yX9_make (ws_ yX9_make cX9_make 4 (some .int)) 4 150 0
theorem yl_X9_make : YLk yX9_make (ws_ yX9_make cX9_make 4 (some .int)) 4 2 := ⟨lw_meth q2938, q198, Or.inl ⟨_, _, q2938⟩, by decide, by decide +kernel⟩
theorem s_X9_make {l : Launch} {G : JG} {Q : Int → MH → Prop} {E : Nat → Int → MH → Prop} {h : MH} {as : List LV} (hn : Nat.ble (enl as).length 4 = true) (body : ∀ K : JC, KI K l G yX9_make cX9_make 4 (some .int) [] 4 150 0 Q E h → JW K 0 (lv0 as 4) [] h) : S_X9_make l G as h Q E :=
  Sem_of (by decide +kernel) (Nat.le_of_ble_eq_true hn) body
/-! X9_element -/
abbrev S_X9_element (l : Launch) (G : JG) : MS := Sem l G yX9_element (ws_ yX9_element cX9_element 10 none) 8 248 700
theorem yl_X9_element : YLk yX9_element (ws_ yX9_element cX9_element 10 none) 10 2 := ⟨lw_meth q2942, q198, Or.inl ⟨_, _, q2942⟩, by decide, by decide +kernel⟩
theorem s_X9_element {l : Launch} {G : JG} {Q : Int → MH → Prop} {E : Nat → Int → MH → Prop} {h : MH} {as : List LV} (hn : Nat.ble (enl as).length 10 = true) (body : ∀ K : JC, KI K l G yX9_element cX9_element 10 none [] 8 248 700 Q E h → JW K 0 (lv0 as 10) [] h) : S_X9_element l G as h Q E :=
  Sem_of (by decide +kernel) (Nat.le_of_ble_eq_true hn) body
/-! X9_enterCall -/
abbrev S_X9_enterCall (l : Launch) (G : JG) : MS := Sem l G yX9_enterCall (ws_ yX9_enterCall cX9_enterCall 10 none) 8 248 700
theorem yl_X9_enterCall : YLk yX9_enterCall (ws_ yX9_enterCall cX9_enterCall 10 none) 10 2 := ⟨lw_meth q2946, q198, Or.inl ⟨_, _, q2946⟩, by decide, by decide +kernel⟩
theorem s_X9_enterCall {l : Launch} {G : JG} {Q : Int → MH → Prop} {E : Nat → Int → MH → Prop} {h : MH} {as : List LV} (hn : Nat.ble (enl as).length 10 = true) (body : ∀ K : JC, KI K l G yX9_enterCall cX9_enterCall 10 none [] 8 248 700 Q E h → JW K 0 (lv0 as 10) [] h) : S_X9_enterCall l G as h Q E :=
  Sem_of (by decide +kernel) (Nat.le_of_ble_eq_true hn) body
/-! X9_begin -/
abbrev S_X9_begin (l : Launch) (G : JG) : MS := Sem l G yX9_begin (ws_ yX9_begin cX9_begin 7 none) 8 248 700
theorem yl_X9_begin : YLk yX9_begin (ws_ yX9_begin cX9_begin 7 none) 7 2 := ⟨lw_meth q2950, q198, Or.inl ⟨_, _, q2950⟩, by decide, by decide +kernel⟩
theorem s_X9_begin {l : Launch} {G : JG} {Q : Int → MH → Prop} {E : Nat → Int → MH → Prop} {h : MH} {as : List LV} (hn : Nat.ble (enl as).length 7 = true) (body : ∀ K : JC, KI K l G yX9_begin cX9_begin 7 none [] 8 248 700 Q E h → JW K 0 (lv0 as 7) [] h) : S_X9_begin l G as h Q E :=
  Sem_of (by decide +kernel) (Nat.le_of_ble_eq_true hn) body
/-! X9_endedThreads -/
abbrev S_X9_endedThreads (l : Launch) (G : JG) : MS := Sem l G yX9_endedThreads (ws_ yX9_endedThreads cX9_endedThreads 3 (some .int)) 4 150 0
theorem yl_X9_endedThreads : YLk yX9_endedThreads (ws_ yX9_endedThreads cX9_endedThreads 3 (some .int)) 3 0 := ⟨lw_meth q2954, q198, Or.inl ⟨_, _, q2954⟩, by decide, by decide +kernel⟩
theorem s_X9_endedThreads {l : Launch} {G : JG} {Q : Int → MH → Prop} {E : Nat → Int → MH → Prop} {h : MH} {as : List LV} (hn : Nat.ble (enl as).length 3 = true) (body : ∀ K : JC, KI K l G yX9_endedThreads cX9_endedThreads 3 (some .int) [] 4 150 0 Q E h → JW K 0 (lv0 as 3) [] h) : S_X9_endedThreads l G as h Q E :=
  Sem_of (by decide +kernel) (Nat.le_of_ble_eq_true hn) body
/-! X9_isStuck -/
abbrev S_X9_isStuck (l : Launch) (G : JG) : MS := Sem l G yX9_isStuck (ws_ yX9_isStuck cX9_isStuck 3 (some .boolean)) 6 193 2
theorem yl_X9_isStuck : YLk yX9_isStuck (ws_ yX9_isStuck cX9_isStuck 3 (some .boolean)) 3 0 := ⟨lw_meth q2958, q198, Or.inl ⟨_, _, q2958⟩, by decide, by decide +kernel⟩
theorem s_X9_isStuck {l : Launch} {G : JG} {Q : Int → MH → Prop} {E : Nat → Int → MH → Prop} {h : MH} {as : List LV} (hn : Nat.ble (enl as).length 3 = true) (body : ∀ K : JC, KI K l G yX9_isStuck cX9_isStuck 3 (some .boolean) [] 6 193 2 Q E h → JW K 0 (lv0 as 3) [] h) : S_X9_isStuck l G as h Q E :=
  Sem_of (by decide +kernel) (Nat.le_of_ble_eq_true hn) body
/-! X9_walked -/
abbrev S_X9_walked (l : Launch) (G : JG) : MS := Sem l G yX9_walked (ws_ yX9_walked cX9_walked 2 (some .int)) 5 175 0
theorem yl_X9_walked : YLk yX9_walked (ws_ yX9_walked cX9_walked 2 (some .int)) 2 1 := ⟨lw_meth q2962, q198, Or.inl ⟨_, _, q2962⟩, by decide, by decide +kernel⟩
theorem s_X9_walked {l : Launch} {G : JG} {Q : Int → MH → Prop} {E : Nat → Int → MH → Prop} {h : MH} {as : List LV} (hn : Nat.ble (enl as).length 2 = true) (body : ∀ K : JC, KI K l G yX9_walked cX9_walked 2 (some .int) [] 5 175 0 Q E h → JW K 0 (lv0 as 2) [] h) : S_X9_walked l G as h Q E :=
  Sem_of (by decide +kernel) (Nat.le_of_ble_eq_true hn) body
/-! X9_output -/
abbrev S_X9_output (l : Launch) (G : JG) : MS := Sem l G yX9_output (ws_ yX9_output cX9_output 3 (some .int)) 5 175 0
theorem yl_X9_output : YLk yX9_output (ws_ yX9_output cX9_output 3 (some .int)) 3 2 := ⟨lw_meth q2966, q198, Or.inl ⟨_, _, q2966⟩, by decide, by decide +kernel⟩
theorem s_X9_output {l : Launch} {G : JG} {Q : Int → MH → Prop} {E : Nat → Int → MH → Prop} {h : MH} {as : List LV} (hn : Nat.ble (enl as).length 3 = true) (body : ∀ K : JC, KI K l G yX9_output cX9_output 3 (some .int) [] 5 175 0 Q E h → JW K 0 (lv0 as 3) [] h) : S_X9_output l G as h Q E :=
  Sem_of (by decide +kernel) (Nat.le_of_ble_eq_true hn) body
/-! X9_met -/
abbrev S_X9_met (l : Launch) (G : JG) : MS := Sem l G yX9_met (ws_ yX9_met cX9_met 4 (some .long)) 7 218 1
theorem yl_X9_met : YLk yX9_met (ws_ yX9_met cX9_met 4 (some .long)) 4 2 := ⟨lw_meth q2970, q198, Or.inl ⟨_, _, q2970⟩, by decide, by decide +kernel⟩
theorem s_X9_met {l : Launch} {G : JG} {Q : Int → MH → Prop} {E : Nat → Int → MH → Prop} {h : MH} {as : List LV} (hn : Nat.ble (enl as).length 4 = true) (body : ∀ K : JC, KI K l G yX9_met cX9_met 4 (some .long) [] 7 218 1 Q E h → JW K 0 (lv0 as 4) [] h) : S_X9_met l G as h Q E :=
  Sem_of (by decide +kernel) (Nat.le_of_ble_eq_true hn) body
/-! X10_init -/
abbrev S_X10_init (l : Launch) (G : JG) : MS := Sem l G yX10_init (ws_ yX10_init cX10_init 1 none) 5 170 700
theorem yl_X10_init : YLk yX10_init (ws_ yX10_init cX10_init 1 none) 1 0 := ⟨lw_meth q1994, q199, Or.inl ⟨_, _, q1994⟩, by decide, by decide +kernel⟩
theorem s_X10_init {l : Launch} {G : JG} {Q : Int → MH → Prop} {E : Nat → Int → MH → Prop} {h : MH} {as : List LV} (hn : Nat.ble (enl as).length 1 = true) (body : ∀ K : JC, KI K l G yX10_init cX10_init 1 none [] 5 170 700 Q E h → JW K 0 (lv0 as 1) [] h) : S_X10_init l G as h Q E :=
  Sem_of (by decide +kernel) (Nat.le_of_ble_eq_true hn) body
/-! X11_init -/
abbrev S_X11_init (l : Launch) (G : JG) : MS := Sem l G yX11_init (ws_ yX11_init cX11_init 4 none) 7 239 700
theorem yl_X11_init : YLk yX11_init (ws_ yX11_init cX11_init 4 none) 4 3 := ⟨lw_meth q686, q205, Or.inl ⟨_, _, q686⟩, by decide, by decide +kernel⟩
theorem s_X11_init {l : Launch} {G : JG} {Q : Int → MH → Prop} {E : Nat → Int → MH → Prop} {h : MH} {as : List LV} (hn : Nat.ble (enl as).length 4 = true) (body : ∀ K : JC, KI K l G yX11_init cX11_init 4 none [] 7 239 700 Q E h → JW K 0 (lv0 as 4) [] h) : S_X11_init l G as h Q E :=
  Sem_of (by decide +kernel) (Nat.le_of_ble_eq_true hn) body
/-! X11_read -/
abbrev S_X11_read (l : Launch) (G : JG) : MS := Sem l G yX11_read (ws_ yX11_read cX11_read 3 (some (.object "FactHouse$Program"))) 18 489 16
theorem yl_X11_read : YLk yX11_read (ws_ yX11_read cX11_read 3 (some (.object "FactHouse$Program"))) 3 0 := ⟨lw_meth q803, q205, Or.inl ⟨_, _, q803⟩, by decide, by decide +kernel⟩
theorem s_X11_read {l : Launch} {G : JG} {Q : Int → MH → Prop} {E : Nat → Int → MH → Prop} {h : MH} {as : List LV} (hn : Nat.ble (enl as).length 3 = true) (body : ∀ K : JC, KI K l G yX11_read cX11_read 3 (some (.object "FactHouse$Program")) [] 18 489 16 Q E h → JW K 0 (lv0 as 3) [] h) : S_X11_read l G as h Q E :=
  Sem_of (by decide +kernel) (Nat.le_of_ble_eq_true hn) body
/-! X11_one -/
abbrev S_X11_one (l : Launch) (G : JG) : MS := Sem l G yX11_one (ws_ yX11_one cX11_one 3 (some .int)) 12 353 0
theorem yl_X11_one : YLk yX11_one (ws_ yX11_one cX11_one 3 (some .int)) 3 2 := ⟨lw_meth q807, q205, Or.inl ⟨_, _, q807⟩, by decide, by decide +kernel⟩
theorem s_X11_one {l : Launch} {G : JG} {Q : Int → MH → Prop} {E : Nat → Int → MH → Prop} {h : MH} {as : List LV} (hn : Nat.ble (enl as).length 3 = true) (body : ∀ K : JC, KI K l G yX11_one cX11_one 3 (some .int) [] 12 353 0 Q E h → JW K 0 (lv0 as 3) [] h) : S_X11_one l G as h Q E :=
  Sem_of (by decide +kernel) (Nat.le_of_ble_eq_true hn) body
/-! X11_is -/
abbrev S_X11_is (l : Launch) (G : JG) : MS := Sem l G yX11_is (ws_ yX11_is cX11_is 2 none) 11 332 700
theorem yl_X11_is : YLk yX11_is (ws_ yX11_is cX11_is 2 none) 2 2 := ⟨lw_meth q813, q205, Or.inl ⟨_, _, q813⟩, by decide, by decide +kernel⟩
theorem s_X11_is {l : Launch} {G : JG} {Q : Int → MH → Prop} {E : Nat → Int → MH → Prop} {h : MH} {as : List LV} (hn : Nat.ble (enl as).length 2 = true) (body : ∀ K : JC, KI K l G yX11_is cX11_is 2 none [] 11 332 700 Q E h → JW K 0 (lv0 as 2) [] h) : S_X11_is l G as h Q E :=
  Sem_of (by decide +kernel) (Nat.le_of_ble_eq_true hn) body
/-! X11_kinds -/
abbrev S_X11_kinds (l : Launch) (G : JG) : MS := Sem l G yX11_kinds (ws_ yX11_kinds cX11_kinds 4 (some (.array .int))) 13 375 104
theorem yl_X11_kinds : YLk yX11_kinds (ws_ yX11_kinds cX11_kinds 4 (some (.array .int))) 4 1 := ⟨lw_meth q890, q205, Or.inl ⟨_, _, q890⟩, by decide, by decide +kernel⟩
theorem s_X11_kinds {l : Launch} {G : JG} {Q : Int → MH → Prop} {E : Nat → Int → MH → Prop} {h : MH} {as : List LV} (hn : Nat.ble (enl as).length 4 = true) (body : ∀ K : JC, KI K l G yX11_kinds cX11_kinds 4 (some (.array .int)) [] 13 375 104 Q E h → JW K 0 (lv0 as 4) [] h) : S_X11_kinds l G as h Q E :=
  Sem_of (by decide +kernel) (Nat.le_of_ble_eq_true hn) body
/-! X11_readClass -/
abbrev S_X11_readClass (l : Launch) (G : JG) : MS := Sem l G yX11_readClass (ws_ yX11_readClass cX11_readClass 7 none) 13 375 700
theorem yl_X11_readClass : YLk yX11_readClass (ws_ yX11_readClass cX11_readClass 7 none) 7 1 := ⟨lw_meth q894, q205, Or.inl ⟨_, _, q894⟩, by decide, by decide +kernel⟩
theorem s_X11_readClass {l : Launch} {G : JG} {Q : Int → MH → Prop} {E : Nat → Int → MH → Prop} {h : MH} {as : List LV} (hn : Nat.ble (enl as).length 7 = true) (body : ∀ K : JC, KI K l G yX11_readClass cX11_readClass 7 none [] 13 375 700 Q E h → JW K 0 (lv0 as 7) [] h) : S_X11_readClass l G as h Q E :=
  Sem_of (by decide +kernel) (Nat.le_of_ble_eq_true hn) body
/-! X11_readMethod -/
abbrev S_X11_readMethod (l : Launch) (G : JG) : MS := Sem l G yX11_readMethod (ws_ yX11_readMethod cX11_readMethod 11 none) 14 405 700
theorem yl_X11_readMethod : YLk yX11_readMethod (ws_ yX11_readMethod cX11_readMethod 11 none) 11 1 := ⟨lw_meth q1016, q205, Or.inl ⟨_, _, q1016⟩, by decide, by decide +kernel⟩
theorem s_X11_readMethod {l : Launch} {G : JG} {Q : Int → MH → Prop} {E : Nat → Int → MH → Prop} {h : MH} {as : List LV} (hn : Nat.ble (enl as).length 11 = true) (body : ∀ K : JC, KI K l G yX11_readMethod cX11_readMethod 11 none [] 14 405 700 Q E h → JW K 0 (lv0 as 11) [] h) : S_X11_readMethod l G as h Q E :=
  Sem_of (by decide +kernel) (Nat.le_of_ble_eq_true hn) body
/-! X11_lastClass -/
abbrev S_X11_lastClass (l : Launch) (G : JG) : MS := Sem l G yX11_lastClass (ws_ yX11_lastClass cX11_lastClass 1 (some .int)) 4 150 0
theorem yl_X11_lastClass : YLk yX11_lastClass (ws_ yX11_lastClass cX11_lastClass 1 (some .int)) 1 0 := ⟨lw_meth q1020, q205, Or.inl ⟨_, _, q1020⟩, by decide, by decide +kernel⟩
theorem s_X11_lastClass {l : Launch} {G : JG} {Q : Int → MH → Prop} {E : Nat → Int → MH → Prop} {h : MH} {as : List LV} (hn : Nat.ble (enl as).length 1 = true) (body : ∀ K : JC, KI K l G yX11_lastClass cX11_lastClass 1 (some .int) [] 4 150 0 Q E h → JW K 0 (lv0 as 1) [] h) : S_X11_lastClass l G as h Q E :=
  Sem_of (by decide +kernel) (Nat.le_of_ble_eq_true hn) body
/-! X11_readInstruction -/
abbrev S_X11_readInstruction (l : Launch) (G : JG) : MS := Sem l G yX11_readInstruction (ws_ yX11_readInstruction cX11_readInstruction 11 none) 13 375 700
theorem yl_X11_readInstruction : YLk yX11_readInstruction (ws_ yX11_readInstruction cX11_readInstruction 11 none) 11 2 := ⟨lw_meth q1030, q205, Or.inl ⟨_, _, q1030⟩, by decide, by decide +kernel⟩
theorem s_X11_readInstruction {l : Launch} {G : JG} {Q : Int → MH → Prop} {E : Nat → Int → MH → Prop} {h : MH} {as : List LV} (hn : Nat.ble (enl as).length 11 = true) (body : ∀ K : JC, KI K l G yX11_readInstruction cX11_readInstruction 11 none [] 13 375 700 Q E h → JW K 0 (lv0 as 11) [] h) : S_X11_readInstruction l G as h Q E :=
  Sem_of (by decide +kernel) (Nat.le_of_ble_eq_true hn) body
/-! X11_mostX -/
abbrev S_X11_mostX (l : Launch) (G : JG) : MS := Sem l G yX11_mostX (ws_ yX11_mostX cX11_mostX 3 (some .int)) 5 170 0
theorem yl_X11_mostX : YLk yX11_mostX (ws_ yX11_mostX cX11_mostX 3 (some .int)) 3 2 := ⟨lw_meth q1034, q205, Or.inl ⟨_, _, q1034⟩, by decide, by decide +kernel⟩
theorem s_X11_mostX {l : Launch} {G : JG} {Q : Int → MH → Prop} {E : Nat → Int → MH → Prop} {h : MH} {as : List LV} (hn : Nat.ble (enl as).length 3 = true) (body : ∀ K : JC, KI K l G yX11_mostX cX11_mostX 3 (some .int) [] 5 170 0 Q E h → JW K 0 (lv0 as 3) [] h) : S_X11_mostX l G as h Q E :=
  Sem_of (by decide +kernel) (Nat.le_of_ble_eq_true hn) body
/-! X11_two -/
abbrev S_X11_two (l : Launch) (G : JG) : MS := Sem l G yX11_two (ws_ yX11_two cX11_two 1 (some .int)) 12 353 0
theorem yl_X11_two : YLk yX11_two (ws_ yX11_two cX11_two 1 (some .int)) 1 0 := ⟨lw_meth q1038, q205, Or.inl ⟨_, _, q1038⟩, by decide, by decide +kernel⟩
theorem s_X11_two {l : Launch} {G : JG} {Q : Int → MH → Prop} {E : Nat → Int → MH → Prop} {h : MH} {as : List LV} (hn : Nat.ble (enl as).length 1 = true) (body : ∀ K : JC, KI K l G yX11_two cX11_two 1 (some .int) [] 12 353 0 Q E h → JW K 0 (lv0 as 1) [] h) : S_X11_two l G as h Q E :=
  Sem_of (by decide +kernel) (Nat.le_of_ble_eq_true hn) body
/-! X11_readHandler -/
abbrev S_X11_readHandler (l : Launch) (G : JG) : MS := Sem l G yX11_readHandler (ws_ yX11_readHandler cX11_readHandler 4 none) 13 375 700
theorem yl_X11_readHandler : YLk yX11_readHandler (ws_ yX11_readHandler cX11_readHandler 4 none) 4 2 := ⟨lw_meth q1046, q205, Or.inl ⟨_, _, q1046⟩, by decide, by decide +kernel⟩
theorem s_X11_readHandler {l : Launch} {G : JG} {Q : Int → MH → Prop} {E : Nat → Int → MH → Prop} {h : MH} {as : List LV} (hn : Nat.ble (enl as).length 4 = true) (body : ∀ K : JC, KI K l G yX11_readHandler cX11_readHandler 4 none [] 13 375 700 Q E h → JW K 0 (lv0 as 4) [] h) : S_X11_readHandler l G as h Q E :=
  Sem_of (by decide +kernel) (Nat.le_of_ble_eq_true hn) body
/-! X11_layPlaces -/
abbrev S_X11_layPlaces (l : Launch) (G : JG) : MS := Sem l G yX11_layPlaces (ws_ yX11_layPlaces cX11_layPlaces 6 none) 5 170 700
theorem yl_X11_layPlaces : YLk yX11_layPlaces (ws_ yX11_layPlaces cX11_layPlaces 6 none) 6 0 := ⟨lw_meth q1154, q205, Or.inl ⟨_, _, q1154⟩, by decide, by decide +kernel⟩
theorem s_X11_layPlaces {l : Launch} {G : JG} {Q : Int → MH → Prop} {E : Nat → Int → MH → Prop} {h : MH} {as : List LV} (hn : Nat.ble (enl as).length 6 = true) (body : ∀ K : JC, KI K l G yX11_layPlaces cX11_layPlaces 6 none [] 5 170 700 Q E h → JW K 0 (lv0 as 6) [] h) : S_X11_layPlaces l G as h Q E :=
  Sem_of (by decide +kernel) (Nat.le_of_ble_eq_true hn) body
/-! X11_findMarks -/
abbrev S_X11_findMarks (l : Launch) (G : JG) : MS := Sem l G yX11_findMarks (ws_ yX11_findMarks cX11_findMarks 8 none) 5 171 700
theorem yl_X11_findMarks : YLk yX11_findMarks (ws_ yX11_findMarks cX11_findMarks 8 none) 8 0 := ⟨lw_meth q1158, q205, Or.inl ⟨_, _, q1158⟩, by decide, by decide +kernel⟩
theorem s_X11_findMarks {l : Launch} {G : JG} {Q : Int → MH → Prop} {E : Nat → Int → MH → Prop} {h : MH} {as : List LV} (hn : Nat.ble (enl as).length 8 = true) (body : ∀ K : JC, KI K l G yX11_findMarks cX11_findMarks 8 none [] 5 171 700 Q E h → JW K 0 (lv0 as 8) [] h) : S_X11_findMarks l G as h Q E :=
  Sem_of (by decide +kernel) (Nat.le_of_ble_eq_true hn) body
/-! X11_mark -/
abbrev S_X11_mark (l : Launch) (G : JG) : MS := Sem l G yX11_mark (ws_ yX11_mark cX11_mark 2 none) 4 150 700
theorem yl_X11_mark : YLk yX11_mark (ws_ yX11_mark cX11_mark 2 none) 2 1 := ⟨lw_meth q1162, q205, Or.inl ⟨_, _, q1162⟩, by decide, by decide +kernel⟩
theorem s_X11_mark {l : Launch} {G : JG} {Q : Int → MH → Prop} {E : Nat → Int → MH → Prop} {h : MH} {as : List LV} (hn : Nat.ble (enl as).length 2 = true) (body : ∀ K : JC, KI K l G yX11_mark cX11_mark 2 none [] 4 150 700 Q E h → JW K 0 (lv0 as 2) [] h) : S_X11_mark l G as h Q E :=
  Sem_of (by decide +kernel) (Nat.le_of_ble_eq_true hn) body
/-! X12_init -/
abbrev S_X12_init (l : Launch) (G : JG) : MS := Sem l G yX12_init (ws_ yX12_init cX12_init 1 none) 5 170 700
theorem yl_X12_init : YLk yX12_init (ws_ yX12_init cX12_init 1 none) 1 0 := ⟨lw_meth q692, q206, Or.inl ⟨_, _, q692⟩, by decide, by decide +kernel⟩
theorem s_X12_init {l : Launch} {G : JG} {Q : Int → MH → Prop} {E : Nat → Int → MH → Prop} {h : MH} {as : List LV} (hn : Nat.ble (enl as).length 1 = true) (body : ∀ K : JC, KI K l G yX12_init cX12_init 1 none [] 5 170 700 Q E h → JW K 0 (lv0 as 1) [] h) : S_X12_init l G as h Q E :=
  Sem_of (by decide +kernel) (Nat.le_of_ble_eq_true hn) body
/-! X12_named -/
abbrev S_X12_named (l : Launch) (G : JG) : MS := Sem l G yX12_named (ws_ yX12_named cX12_named 3 (some (.object "FactHouse$Method"))) 4 150 18
theorem yl_X12_named : YLk yX12_named (ws_ yX12_named cX12_named 3 (some (.object "FactHouse$Method"))) 3 1 := ⟨lw_meth q1150, q206, Or.inl ⟨_, _, q1150⟩, by decide, by decide +kernel⟩
theorem s_X12_named {l : Launch} {G : JG} {Q : Int → MH → Prop} {E : Nat → Int → MH → Prop} {h : MH} {as : List LV} (hn : Nat.ble (enl as).length 3 = true) (body : ∀ K : JC, KI K l G yX12_named cX12_named 3 (some (.object "FactHouse$Method")) [] 4 150 18 Q E h → JW K 0 (lv0 as 3) [] h) : S_X12_named l G as h Q E :=
  Sem_of (by decide +kernel) (Nat.le_of_ble_eq_true hn) body
/-! X12_down -/
abbrev S_X12_down (l : Launch) (G : JG) : MS := Sem l G yX12_down (ws_ yX12_down cX12_down 6 (some .int)) 4 150 0
theorem yl_X12_down : YLk yX12_down (ws_ yX12_down cX12_down 6 (some .int)) 6 1 := ⟨lw_meth q1423, q206, Or.inl ⟨_, _, q1423⟩, by decide, by decide +kernel⟩
theorem s_X12_down {l : Launch} {G : JG} {Q : Int → MH → Prop} {E : Nat → Int → MH → Prop} {h : MH} {as : List LV} (hn : Nat.ble (enl as).length 6 = true) (body : ∀ K : JC, KI K l G yX12_down cX12_down 6 (some .int) [] 4 150 0 Q E h → JW K 0 (lv0 as 6) [] h) : S_X12_down l G as h Q E :=
  Sem_of (by decide +kernel) (Nat.le_of_ble_eq_true hn) body
/-! X12_up -/
abbrev S_X12_up (l : Launch) (G : JG) : MS := Sem l G yX12_up (ws_ yX12_up cX12_up 6 (some .int)) 4 150 0
theorem yl_X12_up : YLk yX12_up (ws_ yX12_up cX12_up 6 (some .int)) 6 1 := ⟨lw_meth q1427, q206, Or.inl ⟨_, _, q1427⟩, by decide, by decide +kernel⟩
theorem s_X12_up {l : Launch} {G : JG} {Q : Int → MH → Prop} {E : Nat → Int → MH → Prop} {h : MH} {as : List LV} (hn : Nat.ble (enl as).length 6 = true) (body : ∀ K : JC, KI K l G yX12_up cX12_up 6 (some .int) [] 4 150 0 Q E h → JW K 0 (lv0 as 6) [] h) : S_X12_up l G as h Q E :=
  Sem_of (by decide +kernel) (Nat.le_of_ble_eq_true hn) body
/-! X12_ofClass -/
abbrev S_X12_ofClass (l : Launch) (G : JG) : MS := Sem l G yX12_ofClass (ws_ yX12_ofClass cX12_ofClass 7 (some .long)) 6 196 1
theorem yl_X12_ofClass : YLk yX12_ofClass (ws_ yX12_ofClass cX12_ofClass 7 (some .long)) 7 2 := ⟨lw_meth q1440, q206, Or.inl ⟨_, _, q1440⟩, by decide, by decide +kernel⟩
theorem s_X12_ofClass {l : Launch} {G : JG} {Q : Int → MH → Prop} {E : Nat → Int → MH → Prop} {h : MH} {as : List LV} (hn : Nat.ble (enl as).length 7 = true) (body : ∀ K : JC, KI K l G yX12_ofClass cX12_ofClass 7 (some .long) [] 6 196 1 Q E h → JW K 0 (lv0 as 7) [] h) : S_X12_ofClass l G as h Q E :=
  Sem_of (by decide +kernel) (Nat.le_of_ble_eq_true hn) body
/-! X12_siteIsOf -/
abbrev S_X12_siteIsOf (l : Launch) (G : JG) : MS := Sem l G yX12_siteIsOf (ws_ yX12_siteIsOf cX12_siteIsOf 4 (some .boolean)) 5 173 2
theorem yl_X12_siteIsOf : YLk yX12_siteIsOf (ws_ yX12_siteIsOf cX12_siteIsOf 4 (some .boolean)) 4 2 := ⟨lw_meth q1444, q206, Or.inl ⟨_, _, q1444⟩, by decide, by decide +kernel⟩
theorem s_X12_siteIsOf {l : Launch} {G : JG} {Q : Int → MH → Prop} {E : Nat → Int → MH → Prop} {h : MH} {as : List LV} (hn : Nat.ble (enl as).length 4 = true) (body : ∀ K : JC, KI K l G yX12_siteIsOf cX12_siteIsOf 4 (some .boolean) [] 5 173 2 Q E h → JW K 0 (lv0 as 4) [] h) : S_X12_siteIsOf l G as h Q E :=
  Sem_of (by decide +kernel) (Nat.le_of_ble_eq_true hn) body
/-! X12_isOf -/
abbrev S_X12_isOf (l : Launch) (G : JG) : MS := Sem l G yX12_isOf (ws_ yX12_isOf cX12_isOf 4 (some .boolean)) 4 150 2
theorem yl_X12_isOf : YLk yX12_isOf (ws_ yX12_isOf cX12_isOf 4 (some .boolean)) 4 2 := ⟨lw_meth q1448, q206, Or.inl ⟨_, _, q1448⟩, by decide, by decide +kernel⟩
theorem s_X12_isOf {l : Launch} {G : JG} {Q : Int → MH → Prop} {E : Nat → Int → MH → Prop} {h : MH} {as : List LV} (hn : Nat.ble (enl as).length 4 = true) (body : ∀ K : JC, KI K l G yX12_isOf cX12_isOf 4 (some .boolean) [] 4 150 2 Q E h → JW K 0 (lv0 as 4) [] h) : S_X12_isOf l G as h Q E :=
  Sem_of (by decide +kernel) (Nat.le_of_ble_eq_true hn) body
/-! X12_arrays -/
abbrev S_X12_arrays (l : Launch) (G : JG) : MS := Sem l G yX12_arrays (ws_ yX12_arrays cX12_arrays 7 (some .long)) 4 150 1
theorem yl_X12_arrays : YLk yX12_arrays (ws_ yX12_arrays cX12_arrays 7 (some .long)) 7 2 := ⟨lw_meth q1537, q206, Or.inl ⟨_, _, q1537⟩, by decide, by decide +kernel⟩
theorem s_X12_arrays {l : Launch} {G : JG} {Q : Int → MH → Prop} {E : Nat → Int → MH → Prop} {h : MH} {as : List LV} (hn : Nat.ble (enl as).length 7 = true) (body : ∀ K : JC, KI K l G yX12_arrays cX12_arrays 7 (some .long) [] 4 150 1 Q E h → JW K 0 (lv0 as 7) [] h) : S_X12_arrays l G as h Q E :=
  Sem_of (by decide +kernel) (Nat.le_of_ble_eq_true hn) body
/-! X12_find -/
abbrev S_X12_find (l : Launch) (G : JG) : MS := Sem l G yX12_find (ws_ yX12_find cX12_find 5 (some (.object "FactHouse$Method"))) 4 150 18
theorem yl_X12_find : YLk yX12_find (ws_ yX12_find cX12_find 5 (some (.object "FactHouse$Method"))) 5 2 := ⟨lw_meth q1586, q206, Or.inl ⟨_, _, q1586⟩, by decide, by decide +kernel⟩
theorem s_X12_find {l : Launch} {G : JG} {Q : Int → MH → Prop} {E : Nat → Int → MH → Prop} {h : MH} {as : List LV} (hn : Nat.ble (enl as).length 5 = true) (body : ∀ K : JC, KI K l G yX12_find cX12_find 5 (some (.object "FactHouse$Method")) [] 4 150 18 Q E h → JW K 0 (lv0 as 5) [] h) : S_X12_find l G as h Q E :=
  Sem_of (by decide +kernel) (Nat.le_of_ble_eq_true hn) body
/-! X13_init -/
abbrev S_X13_init (l : Launch) (G : JG) : MS := Sem l G yX13_init (ws_ yX13_init cX13_init 2 none) 10 311 700
theorem yl_X13_init : YLk yX13_init (ws_ yX13_init cX13_init 2 none) 2 1 := ⟨lw_meth q860, q208, Or.inl ⟨_, _, q860⟩, by decide, by decide +kernel⟩
theorem s_X13_init {l : Launch} {G : JG} {Q : Int → MH → Prop} {E : Nat → Int → MH → Prop} {h : MH} {as : List LV} (hn : Nat.ble (enl as).length 2 = true) (body : ∀ K : JC, KI K l G yX13_init cX13_init 2 none [] 10 311 700 Q E h → JW K 0 (lv0 as 2) [] h) : S_X13_init l G as h Q E :=
  Sem_of (by decide +kernel) (Nat.le_of_ble_eq_true hn) body
/-! X14_init -/
abbrev S_X14_init (l : Launch) (G : JG) : MS := Sem l G yX14_init (ws_ yX14_init cX14_init 2 none) 5 170 700
theorem yl_X14_init : YLk yX14_init (ws_ yX14_init cX14_init 2 none) 2 1 := ⟨lw_meth q899, q209, Or.inl ⟨_, _, q899⟩, by decide, by decide +kernel⟩
theorem s_X14_init {l : Launch} {G : JG} {Q : Int → MH → Prop} {E : Nat → Int → MH → Prop} {h : MH} {as : List LV} (hn : Nat.ble (enl as).length 2 = true) (body : ∀ K : JC, KI K l G yX14_init cX14_init 2 none [] 5 170 700 Q E h → JW K 0 (lv0 as 2) [] h) : S_X14_init l G as h Q E :=
  Sem_of (by decide +kernel) (Nat.le_of_ble_eq_true hn) body
/-! X14_isLike -/
abbrev S_X14_isLike (l : Launch) (G : JG) : MS := Sem l G yX14_isLike (ws_ yX14_isLike cX14_isLike 4 (some .boolean)) 4 150 2
theorem yl_X14_isLike : YLk yX14_isLike (ws_ yX14_isLike cX14_isLike 4 (some .boolean)) 4 1 := ⟨lw_meth q1024, q209, Or.inl ⟨_, _, q1024⟩, by decide, by decide +kernel⟩
theorem s_X14_isLike {l : Launch} {G : JG} {Q : Int → MH → Prop} {E : Nat → Int → MH → Prop} {h : MH} {as : List LV} (hn : Nat.ble (enl as).length 4 = true) (body : ∀ K : JC, KI K l G yX14_isLike cX14_isLike 4 (some .boolean) [] 4 150 2 Q E h → JW K 0 (lv0 as 4) [] h) : S_X14_isLike l G as h Q E :=
  Sem_of (by decide +kernel) (Nat.le_of_ble_eq_true hn) body
/-! X14_size -/
abbrev S_X14_size (l : Launch) (G : JG) : MS := Sem l G yX14_size (ws_ yX14_size cX14_size 1 (some .int)) 4 150 0
theorem yl_X14_size : YLk yX14_size (ws_ yX14_size cX14_size 1 (some .int)) 1 0 := ⟨lw_meth q1042, q209, Or.inl ⟨_, _, q1042⟩, by decide, by decide +kernel⟩
theorem s_X14_size {l : Launch} {G : JG} {Q : Int → MH → Prop} {E : Nat → Int → MH → Prop} {h : MH} {as : List LV} (hn : Nat.ble (enl as).length 1 = true) (body : ∀ K : JC, KI K l G yX14_size cX14_size 1 (some .int) [] 4 150 0 Q E h → JW K 0 (lv0 as 1) [] h) : S_X14_size l G as h Q E :=
  Sem_of (by decide +kernel) (Nat.le_of_ble_eq_true hn) body
/-! X15_init -/
abbrev S_X15_init (l : Launch) (G : JG) : MS := Sem l G yX15_init (ws_ yX15_init cX15_init 1 none) 5 170 700
theorem yl_X15_init : YLk yX15_init (ws_ yX15_init cX15_init 1 none) 1 0 := ⟨lw_meth q1050, q210, Or.inl ⟨_, _, q1050⟩, by decide, by decide +kernel⟩
theorem s_X15_init {l : Launch} {G : JG} {Q : Int → MH → Prop} {E : Nat → Int → MH → Prop} {h : MH} {as : List LV} (hn : Nat.ble (enl as).length 1 = true) (body : ∀ K : JC, KI K l G yX15_init cX15_init 1 none [] 5 170 700 Q E h → JW K 0 (lv0 as 1) [] h) : S_X15_init l G as h Q E :=
  Sem_of (by decide +kernel) (Nat.le_of_ble_eq_true hn) body
/-! X16_init -/
abbrev S_X16_init (l : Launch) (G : JG) : MS := Sem l G yX16_init (ws_ yX16_init cX16_init 3 none) 5 170 700
theorem yl_X16_init : YLk yX16_init (ws_ yX16_init cX16_init 3 none) 3 2 := ⟨lw_meth q1082, q211, Or.inl ⟨_, _, q1082⟩, by decide, by decide +kernel⟩
theorem s_X16_init {l : Launch} {G : JG} {Q : Int → MH → Prop} {E : Nat → Int → MH → Prop} {h : MH} {as : List LV} (hn : Nat.ble (enl as).length 3 = true) (body : ∀ K : JC, KI K l G yX16_init cX16_init 3 none [] 5 170 700 Q E h → JW K 0 (lv0 as 3) [] h) : S_X16_init l G as h Q E :=
  Sem_of (by decide +kernel) (Nat.le_of_ble_eq_true hn) body
/-! X16_judge -/
abbrev S_X16_judge (l : Launch) (G : JG) : MS := Sem l G yX16_judge (ws_ yX16_judge cX16_judge 8 none) 17 462 700
theorem yl_X16_judge : YLk yX16_judge (ws_ yX16_judge cX16_judge 8 none) 8 0 := ⟨lw_meth q1103, q211, Or.inl ⟨_, _, q1103⟩, by decide, by decide +kernel⟩
theorem s_X16_judge {l : Launch} {G : JG} {Q : Int → MH → Prop} {E : Nat → Int → MH → Prop} {h : MH} {as : List LV} (hn : Nat.ble (enl as).length 8 = true) (body : ∀ K : JC, KI K l G yX16_judge cX16_judge 8 none [] 17 462 700 Q E h → JW K 0 (lv0 as 8) [] h) : S_X16_judge l G as h Q E :=
  Sem_of (by decide +kernel) (Nat.le_of_ble_eq_true hn) body
/-! X16_need -/
abbrev S_X16_need (l : Launch) (G : JG) : MS := Sem l G yX16_need (ws_ yX16_need cX16_need 2 none) 11 332 700
theorem yl_X16_need : YLk yX16_need (ws_ yX16_need cX16_need 2 none) 2 1 := ⟨lw_meth q1108, q211, Or.inl ⟨_, _, q1108⟩, by decide, by decide +kernel⟩
theorem s_X16_need {l : Launch} {G : JG} {Q : Int → MH → Prop} {E : Nat → Int → MH → Prop} {h : MH} {as : List LV} (hn : Nat.ble (enl as).length 2 = true) (body : ∀ K : JC, KI K l G yX16_need cX16_need 2 none [] 11 332 700 Q E h → JW K 0 (lv0 as 2) [] h) : S_X16_need l G as h Q E :=
  Sem_of (by decide +kernel) (Nat.le_of_ble_eq_true hn) body
/-! X16_act -/
abbrev S_X16_act (l : Launch) (G : JG) : MS := Sem l G yX16_act (ws_ yX16_act cX16_act 4 none) 16 439 700
theorem yl_X16_act : YLk yX16_act (ws_ yX16_act cX16_act 4 none) 4 3 := ⟨lw_meth q1114, q211, Or.inl ⟨_, _, q1114⟩, by decide, by decide +kernel⟩
theorem s_X16_act {l : Launch} {G : JG} {Q : Int → MH → Prop} {E : Nat → Int → MH → Prop} {h : MH} {as : List LV} (hn : Nat.ble (enl as).length 4 = true) (body : ∀ K : JC, KI K l G yX16_act cX16_act 4 none [] 16 439 700 Q E h → JW K 0 (lv0 as 4) [] h) : S_X16_act l G as h Q E :=
  Sem_of (by decide +kernel) (Nat.le_of_ble_eq_true hn) body
/-! X16_simple -/
abbrev S_X16_simple (l : Launch) (G : JG) : MS := Sem l G yX16_simple (ws_ yX16_simple cX16_simple 5 none) 14 394 700
theorem yl_X16_simple : YLk yX16_simple (ws_ yX16_simple cX16_simple 5 none) 5 2 := ⟨lw_meth q1118, q211, Or.inl ⟨_, _, q1118⟩, by decide, by decide +kernel⟩
theorem s_X16_simple {l : Launch} {G : JG} {Q : Int → MH → Prop} {E : Nat → Int → MH → Prop} {h : MH} {as : List LV} (hn : Nat.ble (enl as).length 5 = true) (body : ∀ K : JC, KI K l G yX16_simple cX16_simple 5 none [] 14 394 700 Q E h → JW K 0 (lv0 as 5) [] h) : S_X16_simple l G as h Q E :=
  Sem_of (by decide +kernel) (Nat.le_of_ble_eq_true hn) body
/-! X16_put -/
abbrev S_X16_put (l : Launch) (G : JG) : MS := Sem l G yX16_put (ws_ yX16_put cX16_put 2 none) 12 353 700
theorem yl_X16_put : YLk yX16_put (ws_ yX16_put cX16_put 2 none) 2 1 := ⟨lw_meth q1122, q211, Or.inl ⟨_, _, q1122⟩, by decide, by decide +kernel⟩
theorem s_X16_put {l : Launch} {G : JG} {Q : Int → MH → Prop} {E : Nat → Int → MH → Prop} {h : MH} {as : List LV} (hn : Nat.ble (enl as).length 2 = true) (body : ∀ K : JC, KI K l G yX16_put cX16_put 2 none [] 12 353 700 Q E h → JW K 0 (lv0 as 2) [] h) : S_X16_put l G as h Q E :=
  Sem_of (by decide +kernel) (Nat.le_of_ble_eq_true hn) body
/-! X16_take -/
abbrev S_X16_take (l : Launch) (G : JG) : MS := Sem l G yX16_take (ws_ yX16_take cX16_take 2 none) 13 373 700
theorem yl_X16_take : YLk yX16_take (ws_ yX16_take cX16_take 2 none) 2 1 := ⟨lw_meth q1126, q211, Or.inl ⟨_, _, q1126⟩, by decide, by decide +kernel⟩
theorem s_X16_take {l : Launch} {G : JG} {Q : Int → MH → Prop} {E : Nat → Int → MH → Prop} {h : MH} {as : List LV} (hn : Nat.ble (enl as).length 2 = true) (body : ∀ K : JC, KI K l G yX16_take cX16_take 2 none [] 13 373 700 Q E h → JW K 0 (lv0 as 2) [] h) : S_X16_take l G as h Q E :=
  Sem_of (by decide +kernel) (Nat.le_of_ble_eq_true hn) body
/-! X16_take_2 -/
abbrev S_X16_take_2 (l : Launch) (G : JG) : MS := Sem l G yX16_take_2 (ws_ yX16_take_2 cX16_take_2 1 (some .int)) 12 353 0
theorem yl_X16_take_2 : YLk yX16_take_2 (ws_ yX16_take_2 cX16_take_2 1 (some .int)) 1 0 := ⟨lw_meth q1130, q211, Or.inl ⟨_, _, q1130⟩, by decide, by decide +kernel⟩
theorem s_X16_take_2 {l : Launch} {G : JG} {Q : Int → MH → Prop} {E : Nat → Int → MH → Prop} {h : MH} {as : List LV} (hn : Nat.ble (enl as).length 1 = true) (body : ∀ K : JC, KI K l G yX16_take_2 cX16_take_2 1 (some .int) [] 12 353 0 Q E h → JW K 0 (lv0 as 1) [] h) : S_X16_take_2 l G as h Q E :=
  Sem_of (by decide +kernel) (Nat.le_of_ble_eq_true hn) body
/-! X16_numbers -/
abbrev S_X16_numbers (l : Launch) (G : JG) : MS := Sem l G yX16_numbers (ws_ yX16_numbers cX16_numbers 3 none) 14 394 700
theorem yl_X16_numbers : YLk yX16_numbers (ws_ yX16_numbers cX16_numbers 3 none) 3 2 := ⟨lw_meth q1134, q211, Or.inl ⟨_, _, q1134⟩, by decide, by decide +kernel⟩
theorem s_X16_numbers {l : Launch} {G : JG} {Q : Int → MH → Prop} {E : Nat → Int → MH → Prop} {h : MH} {as : List LV} (hn : Nat.ble (enl as).length 3 = true) (body : ∀ K : JC, KI K l G yX16_numbers cX16_numbers 3 none [] 14 394 700 Q E h → JW K 0 (lv0 as 3) [] h) : S_X16_numbers l G as h Q E :=
  Sem_of (by decide +kernel) (Nat.le_of_ble_eq_true hn) body
/-! X16_objects -/
abbrev S_X16_objects (l : Launch) (G : JG) : MS := Sem l G yX16_objects (ws_ yX16_objects cX16_objects 4 none) 14 394 700
theorem yl_X16_objects : YLk yX16_objects (ws_ yX16_objects cX16_objects 4 none) 4 3 := ⟨lw_meth q1138, q211, Or.inl ⟨_, _, q1138⟩, by decide, by decide +kernel⟩
theorem s_X16_objects {l : Launch} {G : JG} {Q : Int → MH → Prop} {E : Nat → Int → MH → Prop} {h : MH} {as : List LV} (hn : Nat.ble (enl as).length 4 = true) (body : ∀ K : JC, KI K l G yX16_objects cX16_objects 4 none [] 14 394 700 Q E h → JW K 0 (lv0 as 4) [] h) : S_X16_objects l G as h Q E :=
  Sem_of (by decide +kernel) (Nat.le_of_ble_eq_true hn) body
/-! X16_calls -/
abbrev S_X16_calls (l : Launch) (G : JG) : MS := Sem l G yX16_calls (ws_ yX16_calls cX16_calls 4 none) 15 416 700
theorem yl_X16_calls : YLk yX16_calls (ws_ yX16_calls cX16_calls 4 none) 4 3 := ⟨lw_meth q1142, q211, Or.inl ⟨_, _, q1142⟩, by decide, by decide +kernel⟩
theorem s_X16_calls {l : Launch} {G : JG} {Q : Int → MH → Prop} {E : Nat → Int → MH → Prop} {h : MH} {as : List LV} (hn : Nat.ble (enl as).length 4 = true) (body : ∀ K : JC, KI K l G yX16_calls cX16_calls 4 none [] 15 416 700 Q E h → JW K 0 (lv0 as 4) [] h) : S_X16_calls l G as h Q E :=
  Sem_of (by decide +kernel) (Nat.le_of_ble_eq_true hn) body
/-! X16_takeAll -/
abbrev S_X16_takeAll (l : Launch) (G : JG) : MS := Sem l G yX16_takeAll (ws_ yX16_takeAll cX16_takeAll 3 none) 14 394 700
theorem yl_X16_takeAll : YLk yX16_takeAll (ws_ yX16_takeAll cX16_takeAll 3 none) 3 1 := ⟨lw_meth q1146, q211, Or.inl ⟨_, _, q1146⟩, by decide, by decide +kernel⟩
theorem s_X16_takeAll {l : Launch} {G : JG} {Q : Int → MH → Prop} {E : Nat → Int → MH → Prop} {h : MH} {as : List LV} (hn : Nat.ble (enl as).length 3 = true) (body : ∀ K : JC, KI K l G yX16_takeAll cX16_takeAll 3 none [] 14 394 700 Q E h → JW K 0 (lv0 as 3) [] h) : S_X16_takeAll l G as h Q E :=
  Sem_of (by decide +kernel) (Nat.le_of_ble_eq_true hn) body
/-! X17_init -/
abbrev S_X17_init (l : Launch) (G : JG) : MS := Sem l G yX17_init (ws_ yX17_init cX17_init 2 none) 10 311 700
theorem yl_X17_init : YLk yX17_init (ws_ yX17_init cX17_init 2 none) 2 1 := ⟨lw_meth q2475, q212, Or.inl ⟨_, _, q2475⟩, by decide, by decide +kernel⟩
theorem s_X17_init {l : Launch} {G : JG} {Q : Int → MH → Prop} {E : Nat → Int → MH → Prop} {h : MH} {as : List LV} (hn : Nat.ble (enl as).length 2 = true) (body : ∀ K : JC, KI K l G yX17_init cX17_init 2 none [] 10 311 700 Q E h → JW K 0 (lv0 as 2) [] h) : S_X17_init l G as h Q E :=
  Sem_of (by decide +kernel) (Nat.le_of_ble_eq_true hn) body
/-! J9_numberOfTrailingZeros -/
abbrev S_J9_numberOfTrailingZeros (l : Launch) (G : JG) : MS := Sem l G yJ9_numberOfTrailingZeros (ws_ yJ9_numberOfTrailingZeros cJ9_numberOfTrailingZeros 3 (some .int)) 5 171 0
theorem yl_J9_numberOfTrailingZeros : YLk yJ9_numberOfTrailingZeros (ws_ yJ9_numberOfTrailingZeros cJ9_numberOfTrailingZeros 3 (some .int)) 3 1 := ⟨lw_meth q1460, q217, Or.inl ⟨_, _, q1460⟩, by decide, by decide +kernel⟩
theorem s_J9_numberOfTrailingZeros {l : Launch} {G : JG} {Q : Int → MH → Prop} {E : Nat → Int → MH → Prop} {h : MH} {as : List LV} (hn : Nat.ble (enl as).length 3 = true) (body : ∀ K : JC, KI K l G yJ9_numberOfTrailingZeros cJ9_numberOfTrailingZeros 3 (some .int) [] 5 171 0 Q E h → JW K 0 (lv0 as 3) [] h) : S_J9_numberOfTrailingZeros l G as h Q E :=
  Sem_of (by decide +kernel) (Nat.le_of_ble_eq_true hn) body
/-! J10_numberOfTrailingZeros -/
abbrev S_J10_numberOfTrailingZeros (l : Launch) (G : JG) : MS := Sem l G yJ10_numberOfTrailingZeros (ws_ yJ10_numberOfTrailingZeros cJ10_numberOfTrailingZeros 2 (some .int)) 4 150 0
theorem yl_J10_numberOfTrailingZeros : YLk yJ10_numberOfTrailingZeros (ws_ yJ10_numberOfTrailingZeros cJ10_numberOfTrailingZeros 2 (some .int)) 2 1 := ⟨lw_meth q1463, q218, Or.inl ⟨_, _, q1463⟩, by decide, by decide +kernel⟩
theorem s_J10_numberOfTrailingZeros {l : Launch} {G : JG} {Q : Int → MH → Prop} {E : Nat → Int → MH → Prop} {h : MH} {as : List LV} (hn : Nat.ble (enl as).length 2 = true) (body : ∀ K : JC, KI K l G yJ10_numberOfTrailingZeros cJ10_numberOfTrailingZeros 2 (some .int) [] 4 150 0 Q E h → JW K 0 (lv0 as 2) [] h) : S_J10_numberOfTrailingZeros l G as h Q E :=
  Sem_of (by decide +kernel) (Nat.le_of_ble_eq_true hn) body
