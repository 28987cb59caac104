/-! J-layer, part 5: fields and arrays -/
def ft (vt : Nat) : Nat := if vt = 2 then 0 else if vt = 3 then 0 else vt
theorem vl_ft (G : JG) (vt : Nat) (z : Int) : vl G (ft vt, z) = vl G (vt, z) := by
  unfold ft
  split
  · rename_i e; subst e; rfl
  · split
    · rename_i e; subst e; rfl
    · rfl
theorem okv_ft {h : MH} {vt : Nat} {z : Int} (ho : okf h vt z) (hv : vt < 800) : okv h (ft vt, z) := by
  unfold ft
  split
  · rename_i e; subst e
    simp [okf] at ho
    exact okv_i h (by unfold c32; rcases ho with e | e <;> omega)
  · split
    · rename_i e; subst e
      simp [okf] at ho
      exact okv_i h (by unfold c32; omega)
    · unfold okv
      rw [if_pos (show (vt, z).1 < 800 from hv)]
      exact ho
/-- what a link says: the entry idx of the class own is field k of type t -/
def FLink (own : String) (idx t k : Nat) : Prop := t < 100 ∧ fty t k < 700 ∧ ∃ (C : String) (T : u_T) (N : Nat), jcl[t]? = some (C, T, N) ∧ N = (nft t).length ∧ k < N ∧ (∀ w ∈ u_ws C T N, w ∈ lw_all) ∧ (Cond.fieldLink own idx (T k).1 (T k).2.1 (T k).2.2.1 ∈ lw_all ∨ ∃ host, (own, idx, (T k).1, (T k).2.1, (T k).2.2.1, host) ∈ nestF)
section ME
variable {K : JC} {own : String} {cc : ByteArray} {pc : Nat} {lv st : List LV} {h : MH} {idx t k g : Nat} {a : Int}
theorem j_get0 {r : LV} (ko : KO K own cc) (hd : decode cc pc = .ok (.getfield idx, 3)) (hf : FLink own idx t k) (hg : 4 ≤ g) (ho : okv h (g, a) → obj h t a)
    (hr : obj h t a → okf h (fty t k) (hv h a k) → (gO (kG K) = true → kF h) → vl (kG K) r = vl (kG K) (fty t k, hv h a k) ∧ okv h r)
    (kk : JW K (pc + 3) lv (r :: st) h) : JW K pc lv ((g, a) :: st) h := by
  intro ls H locs hl hlv hst hR hq
  obtain ⟨ko1, ko2, ko3, ko4, ko5, -⟩ := ko
  obtain ⟨f0, f1, C, T, N, f2, f3, f4, f5, f6⟩ := hf
  have hob := ho (hst _ List.mem_cons_self)
  obtain ⟨cell, c1, c2, c3, c4⟩ := cell_o hR hob f0
  obtain ⟨hS, hfc, kC, hkC, hkind⟩ := ko5.1 t _ f2
  obtain ⟨cf, kf, fi, f, hi, hsl⟩ := hS k f4
  obtain ⟨s1, s2⟩ := c4 k (by rw [← f3]; exact f4)
  obtain ⟨r1, r2⟩ := hr hob s2 hR.2.2.2.2.2.2.2
  have h0 := kk ls H locs hl hlv (all_cons r2 (all_tail hst)) hR hq
  show W _ _ _ _ _ _ _ _ _ _ _ _ _ _ _ (F0 (kM K) pc ls (vl (kG K) (g, a) :: st.map (vl (kG K))))
  rw [vl_r hg hob.1]
  have hvv : cell.slots[f.slot]? = some (vl (kG K) r) := by
    rw [hsl, r1]
    exact s1
  rcases f6 with f6 | ⟨host, f6⟩
  · exact W.getf ko1 ko2 ko3 (ko4 _ f6) hi (u_facts hfc hkC (u_lays ko4 f5 f4) hi).1 c1 (by rw [c2]; exact fun q => by cases q) hvv rfl rfl hd h0
  · exact va_Wgetf ko1 ko2 ko3 (va_Nw.use rfl (ko5.2.2.2.1 _ f6)) hi (u_facts hfc hkC (u_lays ko4 f5 f4) hi).1 c1 (by rw [c2]; exact fun q => by cases q) hvv rfl rfl hd h0
/-- a field is read -/
theorem j_get (ko : KO K own cc) (hd : decode cc pc = .ok (.getfield idx, 3)) (hf : FLink own idx t k) (hg : 4 ≤ g) (ho : okv h (g, a) → obj h t a)
    (kk : JW K (pc + 3) lv ((ft (fty t k), hv h a k) :: st) h) : JW K pc lv ((g, a) :: st) h :=
  j_get0 ko hd hf hg ho (fun _ h1 _ => ⟨vl_ft _ _ _, okv_ft h1 (Nat.lt_trans hf.2.1 (by decide))⟩) kk
/-- the tag of what was laid for good -/
def ktag (vt len : Nat) : Nat := if Nat.ble 104 vt = true then 1000000 + len * 1000 + (vt - 4) else 2000 + (vt - 4)
/-- a field is read that was laid for good -/
theorem j_getk (ko : KO K own cc) (hd : decode cc pc = .ok (.getfield idx, 3)) (hf : FLink own idx t k) (hg : 4 ≤ g) (ho : okv h (g, a) → obj h t a) (hon : gO (kG K) = true) (h0 : 0 ≤ (kof t k).1) (h4 : 4 ≤ fty t k)
    (kk : JW K (pc + 3) lv ((ktag (fty t k) (kof t k).2, a + (kof t k).1) :: st) h) : JW K pc lv ((g, a) :: st) h := by
  refine j_get0 ko hd hf hg ho (fun hob h1 h2 => ?_) kk
  obtain ⟨e1, e2, e3, e4, e5⟩ := h2 hon a hob.1 hob.2.1 k (by rw [hob.2.2]; exact h0)
  rw [hob.2.2] at e1 e4 e5
  have hlt := hf.2.1
  have hk4 : 4 ≤ ktag (fty t k) (kof t k).2 := by unfold ktag; split <;> omega
  refine ⟨?_, ?_⟩
  · rw [← e1, vl_r hk4 e2, vl_r h4 e2]
  · rw [← e1]
    unfold ktag
    by_cases hb : Nat.ble 104 (fty t k) = true
    · have hb' := Nat.le_of_ble_eq_true hb
      rw [if_pos hb]
      unfold okv
      simp only [show ¬ 1000000 + (kof t k).2 * 1000 + (fty t k - 4) < 800 by omega, show ¬ 1000000 + (kof t k).2 * 1000 + (fty t k - 4) = 800 by omega, show ¬ 1000000 + (kof t k).2 * 1000 + (fty t k - 4) = 900 by omega, show ¬ 1000000 + (kof t k).2 * 1000 + (fty t k - 4) = 5000 by omega, if_false]
      refine ⟨e2, e3, by rw [e4]; omega, fun _ => ?_⟩
      rw [e5 (by omega)]
      congr 1
      omega
    · rw [if_neg hb]
      unfold okv
      simp only [show ¬ 2000 + (fty t k - 4) < 800 by omega, show ¬ 2000 + (fty t k - 4) = 800 by omega, show ¬ 2000 + (fty t k - 4) = 900 by omega, show ¬ 2000 + (fty t k - 4) = 5000 by omega, if_false]
      exact ⟨e2, e3, by rw [e4]; omega, fun q => by omega⟩
theorem clamp32 {i : Int} (hc : c32 i) (h0 : 0 ≤ i) : (Int32.ofInt i).toNatClampNeg = i.toNat := by
  show (w32 i).toNat = i.toNat
  rw [w32_id hc]
theorem isArr {G : JG} {s : State} {ty : FieldType} {cell : Cell} (hj : jArr G s t ty) (h1 : cell.vm = .none) (h2 : cell.cls = gA G t) : s.isArrayOf cell ty := by
  obtain ⟨kA, comp, e1, e2, -⟩ := hj
  exact ⟨fun q e => (by rw [h1] at e; cases e), kA, (by rw [h2]; exact e1), comp, e2⟩
/-- an array's cell at a place in range -/
theorem arr_at {G : JG} {H : Heap} {i : Int} (hR : JR G h H) (ho : obj h t a) (ht : 100 ≤ t) (hc : c32 i) (h0 : 0 ≤ i) (h1 : i < hn h a) :
    ∃ cell : Cell, H[ad G a]? = some cell ∧ cell.vm = .none ∧ cell.cls = gA G t ∧ ¬ (Int32.ofInt i < 0 ∨ cell.slots.size ≤ (Int32.ofInt i).toNatClampNeg) ∧ cell.slots[(Int32.ofInt i).toNatClampNeg]? = some (vl G (ety t, hv h a i)) ∧ okf h (ety t) (hv h a i) ∧ (Int32.ofInt i).toNatClampNeg = i.toNat := by
  obtain ⟨cell, c1, c2, c3, c4, c5, c6, c7⟩ := cell_a hR ho ht
  have hi := clamp32 hc h0
  have hcast : ((i.toNat : Nat) : Int) = i := Int.toNat_of_nonneg h0
  obtain ⟨s1, s2⟩ := c7 i.toNat (by omega)
  rw [hcast] at s1 s2
  refine ⟨cell, c1, c2, c3, ?_, by rw [hi]; exact s1, s2, hi⟩
  rintro (q | q)
  · have := (lt32 hc c32_0).mp q
    omega
  · rw [hi] at q
    omega
theorem j_ald {i : Int} {ty : FieldType} (ko : KO K own cc) (ht : 100 ≤ t) (hty : jat t = some ty) (he : ety t < 800) (hg : 4 ≤ g) (ho : okv h (g, a) → obj h t a)
    (row : ∀ (H : Heap) (locs : List Loc) (ls : Array Slot) (rest : List Value) (cell : Cell) (v : Value), H[ad (kG K) a]? = some cell → (kS K).isArrayOf cell ty → cell.vm ≠ .unknown → ¬ (Int32.ofInt i < 0 ∨ cell.slots.size ≤ (Int32.ofInt i).toNatClampNeg) → cell.slots[(Int32.ofInt i).toNatClampNeg]? = some v →
      WK K H locs (pc + 1) ls (v :: rest) → WK K H locs pc ls (.int (Int32.ofInt i) :: .ref (ad (kG K) a) :: rest))
    (h0 : 0 ≤ i) (h1 : i < hn h a) (kk : JW K (pc + 1) lv ((ft (ety t), hv h a i) :: st) h) : JW K pc lv ((0, i) :: (g, a) :: st) h := by
  intro ls H locs hl hlv hst hR hq
  obtain ⟨ko1, ko2, ko3, ko4, ko5, -⟩ := ko
  have hob := ho (hst _ (List.mem_cons_of_mem _ List.mem_cons_self))
  have hc := okv_i' (hst _ List.mem_cons_self)
  obtain ⟨cell, c1, c2, c3, c4, c5, c6, -⟩ := arr_at hR hob ht hc h0 h1
  have k0 := kk ls H locs hl hlv (all_cons (okv_ft c6 he) (all_tail (all_tail hst))) hR hq
  show W _ _ _ _ _ _ _ _ _ _ _ _ _ _ _ (F0 (kM K) pc ls (.int (Int32.ofInt i) :: vl (kG K) (g, a) :: st.map (vl (kG K))))
  rw [vl_r hg hob.1]
  refine row H locs ls _ cell (vl (kG K) (ft (ety t), hv h a i)) c1 (isArr (ko5.2.1 t ty hty).1 c2 c3) (by rw [c2]; exact fun q => by cases q) c4 (by rw [vl_ft]; exact c5) ?_
  exact k0
theorem j_iald {i : Int} (ko : KO K own cc) (hd : decode cc pc = .ok (.iaload, 1)) (hg : 4 ≤ g) (ho : okv h (g, a) → obj h 100 a) (h0 : 0 ≤ i) (h1 : i < hn h a) (kk : JW K (pc + 1) lv ((0, hv h a i) :: st) h) : JW K pc lv ((0, i) :: (g, a) :: st) h :=
  j_ald (t := 100) (ty := .int) ko (by omega) rfl (by decide) hg ho (fun H locs ls rest cell v e1 e2 e3 e4 e5 k => W.iald ko.1 ko.2.1 e1 e2 e3 e4 e5 rfl rfl hd k) h0 h1 kk
theorem j_lald {i : Int} (ko : KO K own cc) (hd : decode cc pc = .ok (.laload, 1)) (hg : 4 ≤ g) (ho : okv h (g, a) → obj h 101 a) (h0 : 0 ≤ i) (h1 : i < hn h a) (kk : JW K (pc + 1) lv ((1, hv h a i) :: st) h) : JW K pc lv ((0, i) :: (g, a) :: st) h :=
  j_ald (t := 101) (ty := .long) ko (by omega) rfl (by decide) hg ho (fun H locs ls rest cell v e1 e2 e3 e4 e5 k => W.lald ko.1 ko.2.1 e1 e2 e3 e4 e5 rfl rfl hd k) h0 h1 kk
theorem j_zald {i : Int} (ko : KO K own cc) (hd : decode cc pc = .ok (.baload, 1)) (hg : 4 ≤ g) (ho : okv h (g, a) → obj h 102 a) (h0 : 0 ≤ i) (h1 : i < hn h a) (kk : JW K (pc + 1) lv ((0, hv h a i) :: st) h) : JW K pc lv ((0, i) :: (g, a) :: st) h :=
  j_ald (t := 102) (ty := .boolean) ko (by omega) rfl (by decide) hg ho (fun H locs ls rest cell v e1 e2 e3 e4 e5 k => W.zald ko.1 ko.2.1 e1 e2 e3 e4 e5 rfl rfl hd k) h0 h1 kk
theorem j_bald {i : Int} (ko : KO K own cc) (hd : decode cc pc = .ok (.baload, 1)) (hg : 4 ≤ g) (ho : okv h (g, a) → obj h 103 a) (h0 : 0 ≤ i) (h1 : i < hn h a) (kk : JW K (pc + 1) lv ((0, hv h a i) :: st) h) : JW K pc lv ((0, i) :: (g, a) :: st) h :=
  j_ald (t := 103) (ty := .byte) ko (by omega) rfl (by decide) hg ho (fun H locs ls rest cell v e1 e2 e3 e4 e5 k => W.bald ko.1 ko.2.1 e1 e2 e3 e4 e5 rfl rfl hd k) h0 h1 kk
theorem j_aald {i : Int} {ty : FieldType} (ko : KO K own cc) (hd : decode cc pc = .ok (.aaload, 1)) (ht : 100 ≤ t) (hty : jat t = some ty) (hr : ty.isReference = true) (h4 : 4 ≤ ety t) (he : ety t < 800) (hg : 4 ≤ g) (ho : okv h (g, a) → obj h t a) (h0 : 0 ≤ i) (h1 : i < hn h a) (kk : JW K (pc + 1) lv ((ety t, hv h a i) :: st) h) : JW K pc lv ((0, i) :: (g, a) :: st) h :=
  j_ald (t := t) (ty := ty) ko ht hty he hg ho (fun H locs ls rest cell v e1 e2 e3 e4 e5 k => W.aald ko.1 ko.2.1 e1 e2 hr e3 e4 e5 rfl rfl hd k) h0 h1 (by rw [show ft (ety t) = ety t by unfold ft; rw [if_neg (by omega), if_neg (by omega)]]; exact kk)
theorem j_alen {ty : FieldType} (ko : KO K own cc) (hd : decode cc pc = .ok (.arraylength, 1)) (ht : 100 ≤ t) (hty : jat t = some ty) (hg : 4 ≤ g) (ho : okv h (g, a) → obj h t a) (kk : c32 (hn h a) → 0 ≤ hn h a → JW K (pc + 1) lv ((0, hn h a) :: st) h) : JW K pc lv ((g, a) :: st) h := by
  intro ls H locs hl hlv hst hR hq
  have hob := ho (hst _ List.mem_cons_self)
  obtain ⟨cell, c1, c2, c3, c4, c5, c6, -⟩ := cell_a hR hob ht
  have hc : c32 (hn h a) := by unfold c32; omega
  have k0 := kk hc c4 ls H locs hl hlv (all_cons (okv_i h hc) (all_tail hst)) hR hq
  show W _ _ _ _ _ _ _ _ _ _ _ _ _ _ _ (F0 (kM K) pc ls (vl (kG K) (g, a) :: st.map (vl (kG K))))
  rw [vl_r hg hob.1]
  refine W.alen (n := Int32.ofInt (hn h a)) ko.1 ko.2.1 c1 (isArr (ko.2.2.2.2.1.2.1 t ty hty).1 c2 c3) ?_ rfl rfl hd k0
  rw [← c6]
  rfl
end ME
