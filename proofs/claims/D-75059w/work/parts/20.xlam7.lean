/-! LAMBDAS (7): each of them called -/
set_option maxRecDepth 100000
set_option maxHeartbeats 1000000 in
theorem xrL20 {p : Program} {l : Launch} {e : Env} {R : Room} {s : State} {m : MethodId} {args : Array Value} {below : List Frame} {meth : Method} {c : Code} {H : Heap} {locs : List Loc} {cells slots : Nat} {cc : ByteArray} {pc : Nat} {ls : Array Slot} {rest st0 : List Value} {w : XP} {S : HS}
    {nL d index count b : Nat} {own : String} {x1 : Int32} {x2 : Int32} {x3 : Int32} {post : Int32 → HS → Prop} (hE : CallFix p m c cc nL s args lw_all own) (hT : x_E w s) (hW : x_W w s.heap S H locs) (hd9 : hD S 20 b) (hM : x_M l w yX1_lambda_closure_0 cX1_lambda_closure_0 6 (Option.some Jvm.ClassFile.FieldType.boolean) d 0 0 [.int (hI S 2000 b), .int (hI S 2001 b), .int (hI S 2002 b), .int x1, .int x2, .int x3] S (xKi post)) (h01 : ∀ r S1, post r S1 → r = 0 ∨ r = 1) (hlink : Cond.methodLink own index ({ cls := "HallPlan$Closure", name := "meets", desc := "(III)Z" } : Jvm.MethodName) ∈ lw_all)
    (hR : d + 1 + 13 ≤ R.frames ∧ 8 + (4 + 11) + (128 * (d + 1) + 4096) ≤ R.locals) (hf : cells + 0 ≤ R.cells ∧ slots + 0 ≤ R.slots) (hn : ([.int x1, .int x2, .int x3] : List Value).length = 3) (hs : ls.size = nL) (hst : st0 = .int x3 :: .int x2 :: .int x1 :: .ref b :: rest) (hrm : (rest.map fun v => v.category).sum ≤ 8) (hdg : decode cc pc = .ok (.invokeinterface index count, 5)) :
    va_Run5 p l e R s m args below meth c H locs cells slots 0 0 (F0 m pc ls st0) rest (x_Q w (xKi post) (Value.ref b :: [.int x1, .int x2, .int x3]).toArray) (x_A w) := by
  subst hst
  refine x_lcall (t := 20) (av := [.int x1, .int x2, .int x3]) (x := ({ cls := "HallPlan$Closure", name := "meets", desc := "(III)Z" } : Jvm.MethodName)) (F := fw0) (ML := 4) (ok := fun r => r = 0 ∨ r = 1) (d := d + 1) (n := 3) hE hs hT hW hT.1.2.2.2.1.1 (by decide) hd9 xF20 xFc20 xFl20 xFr20 (fun _ h => xb_b h) rfl hlink q416 q415 rfl (by decide) (by decide +kernel) rfl (by decide) hdg hrm hR hf (Nat.le_of_ble_eq_true rfl) ?_
  intro s' mk below' methk ck Q' ls' hmk hb hml hts' hT' hW' hL' hl hK
  have hx := hE.1
  have hl : lv_has ls' 4 [(0, .ref b), (1, .int x1), (2, .int x2), (3, .int x3)] := hl
  obtain ⟨cell, c1, c2, c3, c4⟩ := hW'.1.1 20 b hd9 (by decide)
  have hidx : ∀ k, x_i w 20 k = k := fun k => hT'.1.2.2.2.1.2.2.2.2.2.2.2.2.2.1 20 (by decide) k
  have v0 : cell.slots[lf20_0.slot]? = some (.int (hI S 2000 b)) := by
    have h9 := c4 0 (by decide)
    rw [hidx] at h9
    have h8 : lf20_0.slot = 0 := xd20_0.choose_spec.choose_spec.choose_spec.choose_spec.2.2.2.2.1
    rw [h8, h9]
    simp [vp_V, hfs_i (c := 20) (k := 0) (key := 2000) rfl rfl]
  have v1 : cell.slots[lf20_1.slot]? = some (.int (hI S 2001 b)) := by
    have h9 := c4 1 (by decide)
    rw [hidx] at h9
    have h8 : lf20_1.slot = 1 := xd20_1.choose_spec.choose_spec.choose_spec.choose_spec.2.2.2.2.1
    rw [h8, h9]
    simp [vp_V, hfs_i (c := 20) (k := 1) (key := 2001) rfl rfl]
  have v2 : cell.slots[lf20_2.slot]? = some (.int (hI S 2002 b)) := by
    have h9 := c4 2 (by decide)
    rw [hidx] at h9
    have h8 : lf20_2.slot = 2 := xd20_2.choose_spec.choose_spec.choose_spec.choose_spec.2.2.2.2.1
    rw [h8, h9]
    simp [vp_V, hfs_i (c := 20) (k := 2) (key := 2002) rfl rfl]
  refine lv_aload_n hx hb dfw0_0 rfl (lv_at hl 0 rfl) ?_
  refine x_getRdy hx hb (cK := x_c w 20) (fld := lf20_0) (by rw [hmk]; exact x_rdyF hL' hts' xF20 xd20_0) xd20_0.choose_spec.choose_spec.choose_spec.choose_spec.2.2.2.2.2 c1 (by rw [c3]; exact fun h => by cases h) v0 dfw0_1 ?_
  refine lv_aload_n hx hb dfw0_4 rfl (lv_at hl 0 rfl) ?_
  refine x_getRdy hx hb (cK := x_c w 20) (fld := lf20_1) (by rw [hmk]; exact x_rdyF hL' hts' xF20 xd20_1) xd20_1.choose_spec.choose_spec.choose_spec.choose_spec.2.2.2.2.2 c1 (by rw [c3]; exact fun h => by cases h) v1 dfw0_5 ?_
  refine lv_aload_n hx hb dfw0_8 rfl (lv_at hl 0 rfl) ?_
  refine x_getRdy hx hb (cK := x_c w 20) (fld := lf20_2) (by rw [hmk]; exact x_rdyF hL' hts' xF20 xd20_2) xd20_2.choose_spec.choose_spec.choose_spec.choose_spec.2.2.2.2.2 c1 (by rw [c3]; exact fun h => by cases h) v2 dfw0_9 ?_
  refine lv_iload_n hx hb dfw0_12 rfl (lv_at hl 1 rfl) ?_
  refine lv_iload_n hx hb dfw0_13 rfl (lv_at hl 2 rfl) ?_
  refine lv_iload_n hx hb dfw0_14 rfl (lv_at hl 3 rfl) ?_
  refine xqi0 (x_rdyS (av := [.int (hI S 2000 b), .int (hI S 2001 b), .int (hI S 2002 b), .int x1, .int x2, .int x3]) (rest := []) (n := 6) hx hb (hl.1.trans hml.symm) hts' hT' hW' hM q1222 q142 q1221 dXc_X1_lambda_closure_0 ⟨by show d + 13 ≤ d + 1 + 12; omega, by show 8 + (6 + 11) + (128 * d + 4096) ≤ 128 * (d + 1) + 4096; omega⟩ ⟨Nat.zero_le _, Nat.zero_le _⟩ rfl (Nat.zero_le _) (by rw [hmk]; exact x_rdyM hL' hts' xF20 rfl xm20) dfw0_15) hW' (fun r S1 H1 locs1 hp hW1 => ?_)
  exact hK _ r S1 H1 locs1 _ (h01 r S1 hp) hp hW1 dfw0_18
set_option maxHeartbeats 1000000 in
theorem xrL21 {p : Program} {l : Launch} {e : Env} {R : Room} {s : State} {m : MethodId} {args : Array Value} {below : List Frame} {meth : Method} {c : Code} {H : Heap} {locs : List Loc} {cells slots : Nat} {cc : ByteArray} {pc : Nat} {ls : Array Slot} {rest st0 : List Value} {w : XP} {S : HS}
    {nL d index count b : Nat} {own : String} {x1 : Int32} {x2 : Int32} {x3 : Int32} {post : Int32 → HS → Prop} (hE : CallFix p m c cc nL s args lw_all own) (hT : x_E w s) (hW : x_W w s.heap S H locs) (hd9 : hD S 21 b) (hM : x_M l w yX2_lambda_addWeekly_0 cX2_lambda_addWeekly_0 6 (Option.some Jvm.ClassFile.FieldType.boolean) d 0 0 [.int (hI S 2100 b), .int (hI S 2101 b), .int (hI S 2102 b), .int x1, .int x2, .int x3] S (xKi post)) (h01 : ∀ r S1, post r S1 → r = 0 ∨ r = 1) (hlink : Cond.methodLink own index ({ cls := "HallPlan$Closure", name := "meets", desc := "(III)Z" } : Jvm.MethodName) ∈ lw_all)
    (hR : d + 1 + 13 ≤ R.frames ∧ 8 + (4 + 11) + (128 * (d + 1) + 4096) ≤ R.locals) (hf : cells + 0 ≤ R.cells ∧ slots + 0 ≤ R.slots) (hn : ([.int x1, .int x2, .int x3] : List Value).length = 3) (hs : ls.size = nL) (hst : st0 = .int x3 :: .int x2 :: .int x1 :: .ref b :: rest) (hrm : (rest.map fun v => v.category).sum ≤ 8) (hdg : decode cc pc = .ok (.invokeinterface index count, 5)) :
    va_Run5 p l e R s m args below meth c H locs cells slots 0 0 (F0 m pc ls st0) rest (x_Q w (xKi post) (Value.ref b :: [.int x1, .int x2, .int x3]).toArray) (x_A w) := by
  subst hst
  refine x_lcall (t := 21) (av := [.int x1, .int x2, .int x3]) (x := ({ cls := "HallPlan$Closure", name := "meets", desc := "(III)Z" } : Jvm.MethodName)) (F := fw0) (ML := 4) (ok := fun r => r = 0 ∨ r = 1) (d := d + 1) (n := 3) hE hs hT hW hT.1.2.2.2.1.2.1 (by decide) hd9 xF21 xFc21 xFl21 xFr21 (fun _ h => xb_b h) rfl hlink q416 q415 rfl (by decide) (by decide +kernel) rfl (by decide) hdg hrm hR hf (Nat.le_of_ble_eq_true rfl) ?_
  intro s' mk below' methk ck Q' ls' hmk hb hml hts' hT' hW' hL' hl hK
  have hx := hE.1
  have hl : lv_has ls' 4 [(0, .ref b), (1, .int x1), (2, .int x2), (3, .int x3)] := hl
  obtain ⟨cell, c1, c2, c3, c4⟩ := hW'.1.1 21 b hd9 (by decide)
  have hidx : ∀ k, x_i w 21 k = k := fun k => hT'.1.2.2.2.1.2.2.2.2.2.2.2.2.2.1 21 (by decide) k
  have v0 : cell.slots[lf21_0.slot]? = some (.int (hI S 2100 b)) := by
    have h9 := c4 0 (by decide)
    rw [hidx] at h9
    have h8 : lf21_0.slot = 0 := xd21_0.choose_spec.choose_spec.choose_spec.choose_spec.2.2.2.2.1
    rw [h8, h9]
    simp [vp_V, hfs_i (c := 21) (k := 0) (key := 2100) rfl rfl]
  have v1 : cell.slots[lf21_1.slot]? = some (.int (hI S 2101 b)) := by
    have h9 := c4 1 (by decide)
    rw [hidx] at h9
    have h8 : lf21_1.slot = 1 := xd21_1.choose_spec.choose_spec.choose_spec.choose_spec.2.2.2.2.1
    rw [h8, h9]
    simp [vp_V, hfs_i (c := 21) (k := 1) (key := 2101) rfl rfl]
  have v2 : cell.slots[lf21_2.slot]? = some (.int (hI S 2102 b)) := by
    have h9 := c4 2 (by decide)
    rw [hidx] at h9
    have h8 : lf21_2.slot = 2 := xd21_2.choose_spec.choose_spec.choose_spec.choose_spec.2.2.2.2.1
    rw [h8, h9]
    simp [vp_V, hfs_i (c := 21) (k := 2) (key := 2102) rfl rfl]
  refine lv_aload_n hx hb dfw0_0 rfl (lv_at hl 0 rfl) ?_
  refine x_getRdy hx hb (cK := x_c w 21) (fld := lf21_0) (by rw [hmk]; exact x_rdyF hL' hts' xF21 xd21_0) xd21_0.choose_spec.choose_spec.choose_spec.choose_spec.2.2.2.2.2 c1 (by rw [c3]; exact fun h => by cases h) v0 dfw0_1 ?_
  refine lv_aload_n hx hb dfw0_4 rfl (lv_at hl 0 rfl) ?_
  refine x_getRdy hx hb (cK := x_c w 21) (fld := lf21_1) (by rw [hmk]; exact x_rdyF hL' hts' xF21 xd21_1) xd21_1.choose_spec.choose_spec.choose_spec.choose_spec.2.2.2.2.2 c1 (by rw [c3]; exact fun h => by cases h) v1 dfw0_5 ?_
  refine lv_aload_n hx hb dfw0_8 rfl (lv_at hl 0 rfl) ?_
  refine x_getRdy hx hb (cK := x_c w 21) (fld := lf21_2) (by rw [hmk]; exact x_rdyF hL' hts' xF21 xd21_2) xd21_2.choose_spec.choose_spec.choose_spec.choose_spec.2.2.2.2.2 c1 (by rw [c3]; exact fun h => by cases h) v2 dfw0_9 ?_
  refine lv_iload_n hx hb dfw0_12 rfl (lv_at hl 1 rfl) ?_
  refine lv_iload_n hx hb dfw0_13 rfl (lv_at hl 2 rfl) ?_
  refine lv_iload_n hx hb dfw0_14 rfl (lv_at hl 3 rfl) ?_
  refine xqi0 (x_rdyS (av := [.int (hI S 2100 b), .int (hI S 2101 b), .int (hI S 2102 b), .int x1, .int x2, .int x3]) (rest := []) (n := 6) hx hb (hl.1.trans hml.symm) hts' hT' hW' hM q1232 q143 q1231 dXc_X2_lambda_addWeekly_0 ⟨by show d + 13 ≤ d + 1 + 12; omega, by show 8 + (6 + 11) + (128 * d + 4096) ≤ 128 * (d + 1) + 4096; omega⟩ ⟨Nat.zero_le _, Nat.zero_le _⟩ rfl (Nat.zero_le _) (by rw [hmk]; exact x_rdyM hL' hts' xF21 rfl xm21) dfw0_15) hW' (fun r S1 H1 locs1 hp hW1 => ?_)
  exact hK _ r S1 H1 locs1 _ (h01 r S1 hp) hp hW1 dfw0_18
set_option maxHeartbeats 1000000 in
theorem xrL22 {p : Program} {l : Launch} {e : Env} {R : Room} {s : State} {m : MethodId} {args : Array Value} {below : List Frame} {meth : Method} {c : Code} {H : Heap} {locs : List Loc} {cells slots : Nat} {cc : ByteArray} {pc : Nat} {ls : Array Slot} {rest st0 : List Value} {w : XP} {S : HS}
    {nL d index count b : Nat} {own : String} {x1 : Int32} {post : Int32 → HS → Prop} (hE : CallFix p m c cc nL s args lw_all own) (hT : x_E w s) (hW : x_W w s.heap S H locs) (hd9 : hD S 22 b) (hM : x_M l w yX2_lambda_addFee_1 cX2_lambda_addFee_1 3 (Option.some Jvm.ClassFile.FieldType.int) d 0 0 [.int (hI S 2200 b), .int (hI S 2201 b), .int x1] S (xKi post)) (hlink : Cond.methodLink own index ({ cls := "HallPlan$Fee", name := "percent", desc := "(I)I" } : Jvm.MethodName) ∈ lw_all)
    (hR : d + 1 + 13 ≤ R.frames ∧ 8 + (2 + 11) + (128 * (d + 1) + 4096) ≤ R.locals) (hf : cells + 0 ≤ R.cells ∧ slots + 0 ≤ R.slots) (hn : ([.int x1] : List Value).length = 1) (hs : ls.size = nL) (hst : st0 = .int x1 :: .ref b :: rest) (hrm : (rest.map fun v => v.category).sum ≤ 8) (hdg : decode cc pc = .ok (.invokeinterface index count, 5)) :
    va_Run5 p l e R s m args below meth c H locs cells slots 0 0 (F0 m pc ls st0) rest (x_Q w (xKi post) (Value.ref b :: [.int x1]).toArray) (x_A w) := by
  subst hst
  refine x_lcall (t := 22) (av := [.int x1]) (x := ({ cls := "HallPlan$Fee", name := "percent", desc := "(I)I" } : Jvm.MethodName)) (F := fw1) (ML := 2) (ok := fun _ => True) (d := d + 1) (n := 1) hE hs hT hW hT.1.2.2.2.1.2.2.1 (by decide) hd9 xF22 xFc22 xFl22 xFr22 (fun _ _ => rfl) rfl hlink q1604 q1603 rfl (by decide) (by decide +kernel) rfl (by decide) hdg hrm hR hf (Nat.le_of_ble_eq_true rfl) ?_
  intro s' mk below' methk ck Q' ls' hmk hb hml hts' hT' hW' hL' hl hK
  have hx := hE.1
  have hl : lv_has ls' 2 [(0, .ref b), (1, .int x1)] := hl
  obtain ⟨cell, c1, c2, c3, c4⟩ := hW'.1.1 22 b hd9 (by decide)
  have hidx : ∀ k, x_i w 22 k = k := fun k => hT'.1.2.2.2.1.2.2.2.2.2.2.2.2.2.1 22 (by decide) k
  have v0 : cell.slots[lf22_0.slot]? = some (.int (hI S 2200 b)) := by
    have h9 := c4 0 (by decide)
    rw [hidx] at h9
    have h8 : lf22_0.slot = 0 := xd22_0.choose_spec.choose_spec.choose_spec.choose_spec.2.2.2.2.1
    rw [h8, h9]
    simp [vp_V, hfs_i (c := 22) (k := 0) (key := 2200) rfl rfl]
  have v1 : cell.slots[lf22_1.slot]? = some (.int (hI S 2201 b)) := by
    have h9 := c4 1 (by decide)
    rw [hidx] at h9
    have h8 : lf22_1.slot = 1 := xd22_1.choose_spec.choose_spec.choose_spec.choose_spec.2.2.2.2.1
    rw [h8, h9]
    simp [vp_V, hfs_i (c := 22) (k := 1) (key := 2201) rfl rfl]
  refine lv_aload_n hx hb dfw1_0 rfl (lv_at hl 0 rfl) ?_
  refine x_getRdy hx hb (cK := x_c w 22) (fld := lf22_0) (by rw [hmk]; exact x_rdyF hL' hts' xF22 xd22_0) xd22_0.choose_spec.choose_spec.choose_spec.choose_spec.2.2.2.2.2 c1 (by rw [c3]; exact fun h => by cases h) v0 dfw1_1 ?_
  refine lv_aload_n hx hb dfw1_4 rfl (lv_at hl 0 rfl) ?_
  refine x_getRdy hx hb (cK := x_c w 22) (fld := lf22_1) (by rw [hmk]; exact x_rdyF hL' hts' xF22 xd22_1) xd22_1.choose_spec.choose_spec.choose_spec.choose_spec.2.2.2.2.2 c1 (by rw [c3]; exact fun h => by cases h) v1 dfw1_5 ?_
  refine lv_iload_n hx hb dfw1_8 rfl (lv_at hl 1 rfl) ?_
  refine xqi0 (x_rdyS (av := [.int (hI S 2200 b), .int (hI S 2201 b), .int x1]) (rest := []) (n := 3) hx hb (hl.1.trans hml.symm) hts' hT' hW' hM q1246 q143 q1245 dXc_X2_lambda_addFee_1 ⟨by show d + 13 ≤ d + 1 + 12; omega, by show 8 + (3 + 11) + (128 * d + 4096) ≤ 128 * (d + 1) + 4096; omega⟩ ⟨Nat.zero_le _, Nat.zero_le _⟩ rfl (Nat.zero_le _) (by rw [hmk]; exact x_rdyM hL' hts' xF22 rfl xm22) dfw1_9) hW' (fun r S1 H1 locs1 hp hW1 => ?_)
  exact hK _ r S1 H1 locs1 _ trivial hp hW1 dfw1_12
set_option maxHeartbeats 1000000 in
theorem xrL23 {p : Program} {l : Launch} {e : Env} {R : Room} {s : State} {m : MethodId} {args : Array Value} {below : List Frame} {meth : Method} {c : Code} {H : Heap} {locs : List Loc} {cells slots : Nat} {cc : ByteArray} {pc : Nat} {ls : Array Slot} {rest st0 : List Value} {w : XP} {S : HS}
    {nL d index count b bt : Nat} {own : String} {x1 : Nat} {x2 : Int32} {x3 : Int32} {post : Int32 → HS → Prop} (hE : CallFix p m c cc nL s args lw_all own) (hT : x_E w s) (hW : x_W w s.heap S H locs) (hd9 : hD S 23 b) (hbt : hR S 2300 b = some bt) (hdt : hD S 0 bt) (hM : x_M l w yX1_lambda_new_1 cX1_lambda_new_1 4 (Option.some Jvm.ClassFile.FieldType.boolean) d 0 0 (.ref bt :: [.ref x1, .int x2, .int x3]) S (xKi post)) (h01 : ∀ r S1, post r S1 → r = 0 ∨ r = 1) (hlink : Cond.methodLink own index ({ cls := "HallPlan$Check", name := "fails", desc := "(LHallPlan$Event;II)Z" } : Jvm.MethodName) ∈ lw_all)
    (hR : d + 1 + 13 ≤ R.frames ∧ 8 + (4 + 11) + (128 * (d + 1) + 4096) ≤ R.locals) (hf : cells + 0 ≤ R.cells ∧ slots + 0 ≤ R.slots) (hn : ([.ref x1, .int x2, .int x3] : List Value).length = 3) (hs : ls.size = nL) (hst : st0 = .int x3 :: .int x2 :: .ref x1 :: .ref b :: rest) (hrm : (rest.map fun v => v.category).sum ≤ 8) (hdg : decode cc pc = .ok (.invokeinterface index count, 5)) :
    va_Run5 p l e R s m args below meth c H locs cells slots 0 0 (F0 m pc ls st0) rest (x_Q w (xKi post) (Value.ref b :: [.ref x1, .int x2, .int x3]).toArray) (x_A w) := by
  subst hst
  refine x_lcall (t := 23) (av := [.ref x1, .int x2, .int x3]) (x := ({ cls := "HallPlan$Check", name := "fails", desc := "(LHallPlan$Event;II)Z" } : Jvm.MethodName)) (F := fw2) (ML := 4) (ok := fun r => r = 0 ∨ r = 1) (d := d + 1) (n := 3) hE hs hT hW hT.1.2.2.2.1.2.2.2.1 (by decide) hd9 xF23 xFc23 xFl23 xFr23 (fun _ h => xb_b h) rfl hlink q1501 q1500 rfl (by decide) (by decide +kernel) rfl (by decide) hdg hrm hR hf (Nat.le_of_ble_eq_true rfl) ?_
  intro s' mk below' methk ck Q' ls' hmk hb hml hts' hT' hW' hL' hl hK
  have hx := hE.1
  have hl : lv_has ls' 4 [(0, .ref b), (1, .ref x1), (2, .int x2), (3, .int x3)] := hl
  obtain ⟨cell, c1, c2, c3, c4⟩ := hW'.1.1 23 b hd9 (by decide)
  have hidx : ∀ k, x_i w 23 k = k := fun k => hT'.1.2.2.2.1.2.2.2.2.2.2.2.2.2.1 23 (by decide) k
  have v0 : cell.slots[lf23_0.slot]? = some (.ref bt) := by
    have h9 := c4 0 (by decide)
    rw [hidx] at h9
    have h8 : lf23_0.slot = 0 := xd23_0.choose_spec.choose_spec.choose_spec.choose_spec.2.2.2.2.1
    rw [h8, h9]
    simp [vp_V, hfs_r (c := 23) (k := 0) (key := 2300) rfl rfl hbt]
  refine lv_aload_n hx hb dfw2_0 rfl (lv_at hl 0 rfl) ?_
  refine x_getRdy hx hb (cK := x_c w 23) (fld := lf23_0) (by rw [hmk]; exact x_rdyF hL' hts' xF23 xd23_0) xd23_0.choose_spec.choose_spec.choose_spec.choose_spec.2.2.2.2.2 c1 (by rw [c3]; exact fun h => by cases h) v0 dfw2_1 ?_
  refine lv_aload_n hx hb dfw2_4 rfl (lv_at hl 1 rfl) ?_
  refine lv_iload_n hx hb dfw2_5 rfl (lv_at hl 2 rfl) ?_
  refine lv_iload_n hx hb dfw2_6 rfl (lv_at hl 3 rfl) ?_
  refine xqi0 (x_rdyV (ci0 := 0) (b0 := bt) (av := [.ref x1, .int x2, .int x3]) (rest := []) (n := 3) hx hb (hl.1.trans hml.symm) hts' hT' hW' rfl (by decide) hdt hM q374 q142 q373 qs0 dXc_X1_lambda_new_1 ⟨by show d + 13 ≤ d + 1 + 12; omega, by show 8 + (4 + 11) + (128 * d + 4096) ≤ 128 * (d + 1) + 4096; omega⟩ ⟨Nat.zero_le _, Nat.zero_le _⟩ rfl (Nat.zero_le _) (by rw [hmk]; exact x_rdyM hL' hts' xF23 rfl xm23) dfw2_7) hW' (fun r S1 H1 locs1 hp hW1 => ?_)
  exact hK _ r S1 H1 locs1 _ (h01 r S1 hp) hp hW1 dfw2_10
set_option maxHeartbeats 1000000 in
theorem xrL24 {p : Program} {l : Launch} {e : Env} {R : Room} {s : State} {m : MethodId} {args : Array Value} {below : List Frame} {meth : Method} {c : Code} {H : Heap} {locs : List Loc} {cells slots : Nat} {cc : ByteArray} {pc : Nat} {ls : Array Slot} {rest st0 : List Value} {w : XP} {S : HS}
    {nL d index count b bt : Nat} {own : String} {x1 : Nat} {x2 : Int32} {x3 : Int32} {post : Int32 → HS → Prop} (hE : CallFix p m c cc nL s args lw_all own) (hT : x_E w s) (hW : x_W w s.heap S H locs) (hd9 : hD S 24 b) (hbt : hR S 2400 b = some bt) (hdt : hD S 0 bt) (hM : x_M l w yX1_lambda_new_2 cX1_lambda_new_2 4 (Option.some Jvm.ClassFile.FieldType.boolean) d 0 0 (.ref bt :: [.ref x1, .int x2, .int x3]) S (xKi post)) (h01 : ∀ r S1, post r S1 → r = 0 ∨ r = 1) (hlink : Cond.methodLink own index ({ cls := "HallPlan$Check", name := "fails", desc := "(LHallPlan$Event;II)Z" } : Jvm.MethodName) ∈ lw_all)
    (hR : d + 1 + 13 ≤ R.frames ∧ 8 + (4 + 11) + (128 * (d + 1) + 4096) ≤ R.locals) (hf : cells + 0 ≤ R.cells ∧ slots + 0 ≤ R.slots) (hn : ([.ref x1, .int x2, .int x3] : List Value).length = 3) (hs : ls.size = nL) (hst : st0 = .int x3 :: .int x2 :: .ref x1 :: .ref b :: rest) (hrm : (rest.map fun v => v.category).sum ≤ 8) (hdg : decode cc pc = .ok (.invokeinterface index count, 5)) :
    va_Run5 p l e R s m args below meth c H locs cells slots 0 0 (F0 m pc ls st0) rest (x_Q w (xKi post) (Value.ref b :: [.ref x1, .int x2, .int x3]).toArray) (x_A w) := by
  subst hst
  refine x_lcall (t := 24) (av := [.ref x1, .int x2, .int x3]) (x := ({ cls := "HallPlan$Check", name := "fails", desc := "(LHallPlan$Event;II)Z" } : Jvm.MethodName)) (F := fw2) (ML := 4) (ok := fun r => r = 0 ∨ r = 1) (d := d + 1) (n := 3) hE hs hT hW hT.1.2.2.2.1.2.2.2.2.1 (by decide) hd9 xF24 xFc24 xFl24 xFr24 (fun _ h => xb_b h) rfl hlink q1501 q1500 rfl (by decide) (by decide +kernel) rfl (by decide) hdg hrm hR hf (Nat.le_of_ble_eq_true rfl) ?_
  intro s' mk below' methk ck Q' ls' hmk hb hml hts' hT' hW' hL' hl hK
  have hx := hE.1
  have hl : lv_has ls' 4 [(0, .ref b), (1, .ref x1), (2, .int x2), (3, .int x3)] := hl
  obtain ⟨cell, c1, c2, c3, c4⟩ := hW'.1.1 24 b hd9 (by decide)
  have hidx : ∀ k, x_i w 24 k = k := fun k => hT'.1.2.2.2.1.2.2.2.2.2.2.2.2.2.1 24 (by decide) k
  have v0 : cell.slots[lf24_0.slot]? = some (.ref bt) := by
    have h9 := c4 0 (by decide)
    rw [hidx] at h9
    have h8 : lf24_0.slot = 0 := xd24_0.choose_spec.choose_spec.choose_spec.choose_spec.2.2.2.2.1
    rw [h8, h9]
    simp [vp_V, hfs_r (c := 24) (k := 0) (key := 2400) rfl rfl hbt]
  refine lv_aload_n hx hb dfw2_0 rfl (lv_at hl 0 rfl) ?_
  refine x_getRdy hx hb (cK := x_c w 24) (fld := lf24_0) (by rw [hmk]; exact x_rdyF hL' hts' xF24 xd24_0) xd24_0.choose_spec.choose_spec.choose_spec.choose_spec.2.2.2.2.2 c1 (by rw [c3]; exact fun h => by cases h) v0 dfw2_1 ?_
  refine lv_aload_n hx hb dfw2_4 rfl (lv_at hl 1 rfl) ?_
  refine lv_iload_n hx hb dfw2_5 rfl (lv_at hl 2 rfl) ?_
  refine lv_iload_n hx hb dfw2_6 rfl (lv_at hl 3 rfl) ?_
  refine xqi0 (x_rdyV (ci0 := 0) (b0 := bt) (av := [.ref x1, .int x2, .int x3]) (rest := []) (n := 3) hx hb (hl.1.trans hml.symm) hts' hT' hW' rfl (by decide) hdt hM q377 q142 q376 qs1 dXc_X1_lambda_new_2 ⟨by show d + 13 ≤ d + 1 + 12; omega, by show 8 + (4 + 11) + (128 * d + 4096) ≤ 128 * (d + 1) + 4096; omega⟩ ⟨Nat.zero_le _, Nat.zero_le _⟩ rfl (Nat.zero_le _) (by rw [hmk]; exact x_rdyM hL' hts' xF24 rfl xm24) dfw2_7) hW' (fun r S1 H1 locs1 hp hW1 => ?_)
  exact hK _ r S1 H1 locs1 _ (h01 r S1 hp) hp hW1 dfw2_10
set_option maxHeartbeats 1000000 in
theorem xrL25 {p : Program} {l : Launch} {e : Env} {R : Room} {s : State} {m : MethodId} {args : Array Value} {below : List Frame} {meth : Method} {c : Code} {H : Heap} {locs : List Loc} {cells slots : Nat} {cc : ByteArray} {pc : Nat} {ls : Array Slot} {rest st0 : List Value} {w : XP} {S : HS}
    {nL d index count b bt : Nat} {own : String} {x1 : Nat} {x2 : Int32} {x3 : Int32} {post : Int32 → HS → Prop} (hE : CallFix p m c cc nL s args lw_all own) (hT : x_E w s) (hW : x_W w s.heap S H locs) (hd9 : hD S 25 b) (hbt : hR S 2500 b = some bt) (hdt : hD S 0 bt) (hM : x_M l w yX1_lambda_new_3 cX1_lambda_new_3 4 (Option.some Jvm.ClassFile.FieldType.boolean) d 0 0 (.ref bt :: [.ref x1, .int x2, .int x3]) S (xKi post)) (h01 : ∀ r S1, post r S1 → r = 0 ∨ r = 1) (hlink : Cond.methodLink own index ({ cls := "HallPlan$Check", name := "fails", desc := "(LHallPlan$Event;II)Z" } : Jvm.MethodName) ∈ lw_all)
    (hR : d + 1 + 13 ≤ R.frames ∧ 8 + (4 + 11) + (128 * (d + 1) + 4096) ≤ R.locals) (hf : cells + 0 ≤ R.cells ∧ slots + 0 ≤ R.slots) (hn : ([.ref x1, .int x2, .int x3] : List Value).length = 3) (hs : ls.size = nL) (hst : st0 = .int x3 :: .int x2 :: .ref x1 :: .ref b :: rest) (hrm : (rest.map fun v => v.category).sum ≤ 8) (hdg : decode cc pc = .ok (.invokeinterface index count, 5)) :
    va_Run5 p l e R s m args below meth c H locs cells slots 0 0 (F0 m pc ls st0) rest (x_Q w (xKi post) (Value.ref b :: [.ref x1, .int x2, .int x3]).toArray) (x_A w) := by
  subst hst
  refine x_lcall (t := 25) (av := [.ref x1, .int x2, .int x3]) (x := ({ cls := "HallPlan$Check", name := "fails", desc := "(LHallPlan$Event;II)Z" } : Jvm.MethodName)) (F := fw2) (ML := 4) (ok := fun r => r = 0 ∨ r = 1) (d := d + 1) (n := 3) hE hs hT hW hT.1.2.2.2.1.2.2.2.2.2.1 (by decide) hd9 xF25 xFc25 xFl25 xFr25 (fun _ h => xb_b h) rfl hlink q1501 q1500 rfl (by decide) (by decide +kernel) rfl (by decide) hdg hrm hR hf (Nat.le_of_ble_eq_true rfl) ?_
  intro s' mk below' methk ck Q' ls' hmk hb hml hts' hT' hW' hL' hl hK
  have hx := hE.1
  have hl : lv_has ls' 4 [(0, .ref b), (1, .ref x1), (2, .int x2), (3, .int x3)] := hl
  obtain ⟨cell, c1, c2, c3, c4⟩ := hW'.1.1 25 b hd9 (by decide)
  have hidx : ∀ k, x_i w 25 k = k := fun k => hT'.1.2.2.2.1.2.2.2.2.2.2.2.2.2.1 25 (by decide) k
  have v0 : cell.slots[lf25_0.slot]? = some (.ref bt) := by
    have h9 := c4 0 (by decide)
    rw [hidx] at h9
    have h8 : lf25_0.slot = 0 := xd25_0.choose_spec.choose_spec.choose_spec.choose_spec.2.2.2.2.1
    rw [h8, h9]
    simp [vp_V, hfs_r (c := 25) (k := 0) (key := 2500) rfl rfl hbt]
  refine lv_aload_n hx hb dfw2_0 rfl (lv_at hl 0 rfl) ?_
  refine x_getRdy hx hb (cK := x_c w 25) (fld := lf25_0) (by rw [hmk]; exact x_rdyF hL' hts' xF25 xd25_0) xd25_0.choose_spec.choose_spec.choose_spec.choose_spec.2.2.2.2.2 c1 (by rw [c3]; exact fun h => by cases h) v0 dfw2_1 ?_
  refine lv_aload_n hx hb dfw2_4 rfl (lv_at hl 1 rfl) ?_
  refine lv_iload_n hx hb dfw2_5 rfl (lv_at hl 2 rfl) ?_
  refine lv_iload_n hx hb dfw2_6 rfl (lv_at hl 3 rfl) ?_
  refine xqi0 (x_rdyV (ci0 := 0) (b0 := bt) (av := [.ref x1, .int x2, .int x3]) (rest := []) (n := 3) hx hb (hl.1.trans hml.symm) hts' hT' hW' rfl (by decide) hdt hM q405 q142 q404 qs2 dXc_X1_lambda_new_3 ⟨by show d + 13 ≤ d + 1 + 12; omega, by show 8 + (4 + 11) + (128 * d + 4096) ≤ 128 * (d + 1) + 4096; omega⟩ ⟨Nat.zero_le _, Nat.zero_le _⟩ rfl (Nat.zero_le _) (by rw [hmk]; exact x_rdyM hL' hts' xF25 rfl xm25) dfw2_7) hW' (fun r S1 H1 locs1 hp hW1 => ?_)
  exact hK _ r S1 H1 locs1 _ (h01 r S1 hp) hp hW1 dfw2_10
set_option maxHeartbeats 1000000 in
theorem xrL26 {p : Program} {l : Launch} {e : Env} {R : Room} {s : State} {m : MethodId} {args : Array Value} {below : List Frame} {meth : Method} {c : Code} {H : Heap} {locs : List Loc} {cells slots : Nat} {cc : ByteArray} {pc : Nat} {ls : Array Slot} {rest st0 : List Value} {w : XP} {S : HS}
    {nL d index count b bt : Nat} {own : String} {x1 : Nat} {x2 : Int32} {x3 : Int32} {post : Int32 → HS → Prop} (hE : CallFix p m c cc nL s args lw_all own) (hT : x_E w s) (hW : x_W w s.heap S H locs) (hd9 : hD S 26 b) (hbt : hR S 2600 b = some bt) (hdt : hD S 0 bt) (hM : x_M l w yX1_lambda_new_4 cX1_lambda_new_4 4 (Option.some Jvm.ClassFile.FieldType.boolean) d 0 0 (.ref bt :: [.ref x1, .int x2, .int x3]) S (xKi post)) (h01 : ∀ r S1, post r S1 → r = 0 ∨ r = 1) (hlink : Cond.methodLink own index ({ cls := "HallPlan$Check", name := "fails", desc := "(LHallPlan$Event;II)Z" } : Jvm.MethodName) ∈ lw_all)
    (hR : d + 1 + 13 ≤ R.frames ∧ 8 + (4 + 11) + (128 * (d + 1) + 4096) ≤ R.locals) (hf : cells + 0 ≤ R.cells ∧ slots + 0 ≤ R.slots) (hn : ([.ref x1, .int x2, .int x3] : List Value).length = 3) (hs : ls.size = nL) (hst : st0 = .int x3 :: .int x2 :: .ref x1 :: .ref b :: rest) (hrm : (rest.map fun v => v.category).sum ≤ 8) (hdg : decode cc pc = .ok (.invokeinterface index count, 5)) :
    va_Run5 p l e R s m args below meth c H locs cells slots 0 0 (F0 m pc ls st0) rest (x_Q w (xKi post) (Value.ref b :: [.ref x1, .int x2, .int x3]).toArray) (x_A w) := by
  subst hst
  refine x_lcall (t := 26) (av := [.ref x1, .int x2, .int x3]) (x := ({ cls := "HallPlan$Check", name := "fails", desc := "(LHallPlan$Event;II)Z" } : Jvm.MethodName)) (F := fw2) (ML := 4) (ok := fun r => r = 0 ∨ r = 1) (d := d + 1) (n := 3) hE hs hT hW hT.1.2.2.2.1.2.2.2.2.2.2.1 (by decide) hd9 xF26 xFc26 xFl26 xFr26 (fun _ h => xb_b h) rfl hlink q1501 q1500 rfl (by decide) (by decide +kernel) rfl (by decide) hdg hrm hR hf (Nat.le_of_ble_eq_true rfl) ?_
  intro s' mk below' methk ck Q' ls' hmk hb hml hts' hT' hW' hL' hl hK
  have hx := hE.1
  have hl : lv_has ls' 4 [(0, .ref b), (1, .ref x1), (2, .int x2), (3, .int x3)] := hl
  obtain ⟨cell, c1, c2, c3, c4⟩ := hW'.1.1 26 b hd9 (by decide)
  have hidx : ∀ k, x_i w 26 k = k := fun k => hT'.1.2.2.2.1.2.2.2.2.2.2.2.2.2.1 26 (by decide) k
  have v0 : cell.slots[lf26_0.slot]? = some (.ref bt) := by
    have h9 := c4 0 (by decide)
    rw [hidx] at h9
    have h8 : lf26_0.slot = 0 := xd26_0.choose_spec.choose_spec.choose_spec.choose_spec.2.2.2.2.1
    rw [h8, h9]
    simp [vp_V, hfs_r (c := 26) (k := 0) (key := 2600) rfl rfl hbt]
  refine lv_aload_n hx hb dfw2_0 rfl (lv_at hl 0 rfl) ?_
  refine x_getRdy hx hb (cK := x_c w 26) (fld := lf26_0) (by rw [hmk]; exact x_rdyF hL' hts' xF26 xd26_0) xd26_0.choose_spec.choose_spec.choose_spec.choose_spec.2.2.2.2.2 c1 (by rw [c3]; exact fun h => by cases h) v0 dfw2_1 ?_
  refine lv_aload_n hx hb dfw2_4 rfl (lv_at hl 1 rfl) ?_
  refine lv_iload_n hx hb dfw2_5 rfl (lv_at hl 2 rfl) ?_
  refine lv_iload_n hx hb dfw2_6 rfl (lv_at hl 3 rfl) ?_
  refine xqi0 (x_rdyV (ci0 := 0) (b0 := bt) (av := [.ref x1, .int x2, .int x3]) (rest := []) (n := 3) hx hb (hl.1.trans hml.symm) hts' hT' hW' rfl (by decide) hdt hM q408 q142 q407 qs3 dXc_X1_lambda_new_4 ⟨by show d + 13 ≤ d + 1 + 12; omega, by show 8 + (4 + 11) + (128 * d + 4096) ≤ 128 * (d + 1) + 4096; omega⟩ ⟨Nat.zero_le _, Nat.zero_le _⟩ rfl (Nat.zero_le _) (by rw [hmk]; exact x_rdyM hL' hts' xF26 rfl xm26) dfw2_7) hW' (fun r S1 H1 locs1 hp hW1 => ?_)
  exact hK _ r S1 H1 locs1 _ (h01 r S1 hp) hp hW1 dfw2_10
set_option maxHeartbeats 1000000 in
theorem xrL27 {p : Program} {l : Launch} {e : Env} {R : Room} {s : State} {m : MethodId} {args : Array Value} {below : List Frame} {meth : Method} {c : Code} {H : Heap} {locs : List Loc} {cells slots : Nat} {cc : ByteArray} {pc : Nat} {ls : Array Slot} {rest st0 : List Value} {w : XP} {S : HS}
    {nL d index count b bt : Nat} {own : String} {x1 : Nat} {x2 : Int32} {x3 : Int32} {post : Int32 → HS → Prop} (hE : CallFix p m c cc nL s args lw_all own) (hT : x_E w s) (hW : x_W w s.heap S H locs) (hd9 : hD S 27 b) (hbt : hR S 2700 b = some bt) (hdt : hD S 0 bt) (hM : x_M l w yX1_lambda_new_5 cX1_lambda_new_5 4 (Option.some Jvm.ClassFile.FieldType.boolean) d 0 0 (.ref bt :: [.ref x1, .int x2, .int x3]) S (xKi post)) (h01 : ∀ r S1, post r S1 → r = 0 ∨ r = 1) (hlink : Cond.methodLink own index ({ cls := "HallPlan$Check", name := "fails", desc := "(LHallPlan$Event;II)Z" } : Jvm.MethodName) ∈ lw_all)
    (hR : d + 1 + 13 ≤ R.frames ∧ 8 + (4 + 11) + (128 * (d + 1) + 4096) ≤ R.locals) (hf : cells + 0 ≤ R.cells ∧ slots + 0 ≤ R.slots) (hn : ([.ref x1, .int x2, .int x3] : List Value).length = 3) (hs : ls.size = nL) (hst : st0 = .int x3 :: .int x2 :: .ref x1 :: .ref b :: rest) (hrm : (rest.map fun v => v.category).sum ≤ 8) (hdg : decode cc pc = .ok (.invokeinterface index count, 5)) :
    va_Run5 p l e R s m args below meth c H locs cells slots 0 0 (F0 m pc ls st0) rest (x_Q w (xKi post) (Value.ref b :: [.ref x1, .int x2, .int x3]).toArray) (x_A w) := by
  subst hst
  refine x_lcall (t := 27) (av := [.ref x1, .int x2, .int x3]) (x := ({ cls := "HallPlan$Check", name := "fails", desc := "(LHallPlan$Event;II)Z" } : Jvm.MethodName)) (F := fw2) (ML := 4) (ok := fun r => r = 0 ∨ r = 1) (d := d + 1) (n := 3) hE hs hT hW hT.1.2.2.2.1.2.2.2.2.2.2.2.1 (by decide) hd9 xF27 xFc27 xFl27 xFr27 (fun _ h => xb_b h) rfl hlink q1501 q1500 rfl (by decide) (by decide +kernel) rfl (by decide) hdg hrm hR hf (Nat.le_of_ble_eq_true rfl) ?_
  intro s' mk below' methk ck Q' ls' hmk hb hml hts' hT' hW' hL' hl hK
  have hx := hE.1
  have hl : lv_has ls' 4 [(0, .ref b), (1, .ref x1), (2, .int x2), (3, .int x3)] := hl
  obtain ⟨cell, c1, c2, c3, c4⟩ := hW'.1.1 27 b hd9 (by decide)
  have hidx : ∀ k, x_i w 27 k = k := fun k => hT'.1.2.2.2.1.2.2.2.2.2.2.2.2.2.1 27 (by decide) k
  have v0 : cell.slots[lf27_0.slot]? = some (.ref bt) := by
    have h9 := c4 0 (by decide)
    rw [hidx] at h9
    have h8 : lf27_0.slot = 0 := xd27_0.choose_spec.choose_spec.choose_spec.choose_spec.2.2.2.2.1
    rw [h8, h9]
    simp [vp_V, hfs_r (c := 27) (k := 0) (key := 2700) rfl rfl hbt]
  refine lv_aload_n hx hb dfw2_0 rfl (lv_at hl 0 rfl) ?_
  refine x_getRdy hx hb (cK := x_c w 27) (fld := lf27_0) (by rw [hmk]; exact x_rdyF hL' hts' xF27 xd27_0) xd27_0.choose_spec.choose_spec.choose_spec.choose_spec.2.2.2.2.2 c1 (by rw [c3]; exact fun h => by cases h) v0 dfw2_1 ?_
  refine lv_aload_n hx hb dfw2_4 rfl (lv_at hl 1 rfl) ?_
  refine lv_iload_n hx hb dfw2_5 rfl (lv_at hl 2 rfl) ?_
  refine lv_iload_n hx hb dfw2_6 rfl (lv_at hl 3 rfl) ?_
  refine xqi0 (x_rdyV (ci0 := 0) (b0 := bt) (av := [.ref x1, .int x2, .int x3]) (rest := []) (n := 3) hx hb (hl.1.trans hml.symm) hts' hT' hW' rfl (by decide) hdt hM q419 q142 q418 qs5 dXc_X1_lambda_new_5 ⟨by show d + 13 ≤ d + 1 + 12; omega, by show 8 + (4 + 11) + (128 * d + 4096) ≤ 128 * (d + 1) + 4096; omega⟩ ⟨Nat.zero_le _, Nat.zero_le _⟩ rfl (Nat.zero_le _) (by rw [hmk]; exact x_rdyM hL' hts' xF27 rfl xm27) dfw2_7) hW' (fun r S1 H1 locs1 hp hW1 => ?_)
  exact hK _ r S1 H1 locs1 _ (h01 r S1 hp) hp hW1 dfw2_10
set_option maxHeartbeats 1000000 in
theorem xrL28 {p : Program} {l : Launch} {e : Env} {R : Room} {s : State} {m : MethodId} {args : Array Value} {below : List Frame} {meth : Method} {c : Code} {H : Heap} {locs : List Loc} {cells slots : Nat} {cc : ByteArray} {pc : Nat} {ls : Array Slot} {rest st0 : List Value} {w : XP} {S : HS}
    {nL d index count b bt : Nat} {own : String} {x1 : Nat} {x2 : Int32} {x3 : Int32} {post : Int32 → HS → Prop} (hE : CallFix p m c cc nL s args lw_all own) (hT : x_E w s) (hW : x_W w s.heap S H locs) (hd9 : hD S 28 b) (hbt : hR S 2800 b = some bt) (hdt : hD S 0 bt) (hM : x_M l w yX1_lambda_new_6 cX1_lambda_new_6 4 (Option.some Jvm.ClassFile.FieldType.boolean) d 0 0 (.ref bt :: [.ref x1, .int x2, .int x3]) S (xKi post)) (h01 : ∀ r S1, post r S1 → r = 0 ∨ r = 1) (hlink : Cond.methodLink own index ({ cls := "HallPlan$Check", name := "fails", desc := "(LHallPlan$Event;II)Z" } : Jvm.MethodName) ∈ lw_all)
    (hR : d + 1 + 13 ≤ R.frames ∧ 8 + (4 + 11) + (128 * (d + 1) + 4096) ≤ R.locals) (hf : cells + 0 ≤ R.cells ∧ slots + 0 ≤ R.slots) (hn : ([.ref x1, .int x2, .int x3] : List Value).length = 3) (hs : ls.size = nL) (hst : st0 = .int x3 :: .int x2 :: .ref x1 :: .ref b :: rest) (hrm : (rest.map fun v => v.category).sum ≤ 8) (hdg : decode cc pc = .ok (.invokeinterface index count, 5)) :
    va_Run5 p l e R s m args below meth c H locs cells slots 0 0 (F0 m pc ls st0) rest (x_Q w (xKi post) (Value.ref b :: [.ref x1, .int x2, .int x3]).toArray) (x_A w) := by
  subst hst
  refine x_lcall (t := 28) (av := [.ref x1, .int x2, .int x3]) (x := ({ cls := "HallPlan$Check", name := "fails", desc := "(LHallPlan$Event;II)Z" } : Jvm.MethodName)) (F := fw2) (ML := 4) (ok := fun r => r = 0 ∨ r = 1) (d := d + 1) (n := 3) hE hs hT hW hT.1.2.2.2.1.2.2.2.2.2.2.2.2.1 (by decide) hd9 xF28 xFc28 xFl28 xFr28 (fun _ h => xb_b h) rfl hlink q1501 q1500 rfl (by decide) (by decide +kernel) rfl (by decide) hdg hrm hR hf (Nat.le_of_ble_eq_true rfl) ?_
  intro s' mk below' methk ck Q' ls' hmk hb hml hts' hT' hW' hL' hl hK
  have hx := hE.1
  have hl : lv_has ls' 4 [(0, .ref b), (1, .ref x1), (2, .int x2), (3, .int x3)] := hl
  obtain ⟨cell, c1, c2, c3, c4⟩ := hW'.1.1 28 b hd9 (by decide)
  have hidx : ∀ k, x_i w 28 k = k := fun k => hT'.1.2.2.2.1.2.2.2.2.2.2.2.2.2.1 28 (by decide) k
  have v0 : cell.slots[lf28_0.slot]? = some (.ref bt) := by
    have h9 := c4 0 (by decide)
    rw [hidx] at h9
    have h8 : lf28_0.slot = 0 := xd28_0.choose_spec.choose_spec.choose_spec.choose_spec.2.2.2.2.1
    rw [h8, h9]
    simp [vp_V, hfs_r (c := 28) (k := 0) (key := 2800) rfl rfl hbt]
  refine lv_aload_n hx hb dfw2_0 rfl (lv_at hl 0 rfl) ?_
  refine x_getRdy hx hb (cK := x_c w 28) (fld := lf28_0) (by rw [hmk]; exact x_rdyF hL' hts' xF28 xd28_0) xd28_0.choose_spec.choose_spec.choose_spec.choose_spec.2.2.2.2.2 c1 (by rw [c3]; exact fun h => by cases h) v0 dfw2_1 ?_
  refine lv_aload_n hx hb dfw2_4 rfl (lv_at hl 1 rfl) ?_
  refine lv_iload_n hx hb dfw2_5 rfl (lv_at hl 2 rfl) ?_
  refine lv_iload_n hx hb dfw2_6 rfl (lv_at hl 3 rfl) ?_
  refine xqi0 (x_rdyV (ci0 := 0) (b0 := bt) (av := [.ref x1, .int x2, .int x3]) (rest := []) (n := 3) hx hb (hl.1.trans hml.symm) hts' hT' hW' rfl (by decide) hdt hM q452 q142 q451 qs9 dXc_X1_lambda_new_6 ⟨by show d + 13 ≤ d + 1 + 12; omega, by show 8 + (4 + 11) + (128 * d + 4096) ≤ 128 * (d + 1) + 4096; omega⟩ ⟨Nat.zero_le _, Nat.zero_le _⟩ rfl (Nat.zero_le _) (by rw [hmk]; exact x_rdyM hL' hts' xF28 rfl xm28) dfw2_7) hW' (fun r S1 H1 locs1 hp hW1 => ?_)
  exact hK _ r S1 H1 locs1 _ (h01 r S1 hp) hp hW1 dfw2_10

