/-! THE MODEL'S WORLD (HallPlanModel): one object, its arrays; scalars F, arrays G by the fields' numbers; rows for it -/
set_option maxRecDepth 100000
abbrev MF : Type := Nat → Int32
abbrev MG : Type := Nat → Nat → Int32
abbrev MP : Type := ClassId × (Nat → Nat) × (Nat → ClassId) × Nat × (Nat → Nat) × (Nat → Nat) × (Nat → Nat)
abbrev mp_c (w : MP) : ClassId := w.1
abbrev mp_i (w : MP) : Nat → Nat := w.2.1
abbrev mp_d (w : MP) : Nat → ClassId := w.2.2.1
abbrev mp_h (w : MP) : Nat := w.2.2.2.1
abbrev mp_a (w : MP) : Nat → Nat := w.2.2.2.2.1
abbrev mp_s (w : MP) : Nat → Nat := w.2.2.2.2.2.1
abbrev mp_v (w : MP) : Nat → Nat := w.2.2.2.2.2.2
/-- what a field holds: 0 a scalar, 1 ints, 2 bytes, 3 booleans -/
def m_ty : Nat → Nat := fun k => match k with
  | 1 => 1 | 2 => 1 | 3 => 2 | 4 => 1 | 5 => 1 | 6 => 1 | 7 => 1 | 8 => 1 | 9 => 1 | 10 => 1 | 13 => 2 | 19 => 3 | 20 => 1 | 21 => 1 | 23 => 1 | 24 => 1 | 25 => 1 | 26 => 1 | _ => 0
def m_ln : Nat → Nat := fun k => match k with
  | 1 => 166 | 2 => 166 | 3 => 108 | 4 => 18 | 5 => 18 | 6 => 9 | 7 => 9 | 8 => 1052 | 9 => 1052 | 10 => 8416 | 13 => 800 | 19 => 60 | 20 => 129 | 21 => 3 | 23 => 3 | 24 => 3 | 25 => 8 | 26 => 2048 | _ => 0
def m_ft : Nat → FieldType := fun t => match t with
  | 1 => .int | 2 => .byte | _ => .boolean
def m_fs (w : MP) (F : MF) : List Value := [.int (F 0), .ref (mp_a w 1), .ref (mp_a w 2), .ref (mp_a w 3), .ref (mp_a w 4), .ref (mp_a w 5), .ref (mp_a w 6), .ref (mp_a w 7), .ref (mp_a w 8), .ref (mp_a w 9), .ref (mp_a w 10), .int (F 11), .int (F 12), .ref (mp_a w 13), .int (F 14), .int (F 15), .int (F 16), .int (F 17), .int (F 18), .ref (mp_a w 19), .ref (mp_a w 20), .ref (mp_a w 21), .int (F 22), .ref (mp_a w 23), .ref (mp_a w 24), .ref (mp_a w 25), .ref (mp_a w 26)]
/-- one array anew -/
def mg (G : MG) (k : Nat) (f : Nat → Int32) : MG := fun j => if j = k then f else G j
/-- one place of one array anew -/
def mu (G : MG) (k : Nat) (j : Nat) (v : Int32) : MG := mg G k (upd (G k) j v)
def m_P (w : MP) (F : MF) (G : MG) (H : Heap) : Prop := t_OB (mp_h w) (mp_c w) 27 (mp_i w) H (vp_V (m_fs w F)) ∧ ∀ k, m_ty k ≠ 0 → H[mp_a w k]? = some (vp_cell (mp_d w (m_ty k)) (m_ln k, .inl (G k)))
def m_ap (w : MP) : Prop := (∀ k, m_ty k ≠ 0 → mp_a w k ≠ mp_h w) ∧ ∀ j k, m_ty j ≠ 0 → m_ty k ≠ 0 → mp_a w j = mp_a w k → j = k
/-- the cells that the model's methods may write -/
def m_A (w : MP) : Nat → Prop := fun q => q = mp_h w ∨ ∃ k, m_ty k ≠ 0 ∧ q = mp_a w k
def m_len : List Nat := [4, 4, 4, 5, 6, 6, 3, 7]
def m_byt : List (List Int32) := [[104, 97, 108, 108], [116, 121, 112, 101], [107, 105, 110, 100], [115, 101, 116, 117, 112], [99, 108, 111, 115, 101, 100], [119, 101, 101, 107, 108, 121], [102, 101, 101], [119, 101, 101, 107, 101, 110, 100]]
def m_txt : Nat → String := fun i => match i with
  | 0 => "hall" | 1 => "type" | 2 => "kind" | 3 => "setup" | 4 => "closed" | 5 => "weekly" | 6 => "fee" | _ => "weekend"
/-- their entries in the model's pool -/
def m_ent : Nat → Nat := fun i => 133 + 2 * i
def m_K (w : MP) (U : State) : Prop := u_Kn U RX5 TX5 27 (mp_c w) (mp_i w) ∧ (∀ t, ArrOfT U (mp_d w t) (m_ft t)) ∧ m_ap w
def m_R (w : MP) (U : State) : Prop := ∀ i, i < 8 → vk_R RX5 (m_ent i) (m_txt i) (mp_s w i) U
def m_S (w : MP) (U : State) (H : Heap) : Prop := vk_S 8 m_len m_byt (mp_s w) (mp_v w) (m_A w) U H
/-- a state whose heap holds the model's world -/
def m_I (w : MP) (F : MF) (G : MG) (U : State) : Prop := m_P w F G U.heap ∧ m_K w U ∧ m_R w U ∧ m_S w U U.heap
/-- what a walk has of its start -/
def m_T (w : MP) (s : State) : Prop := m_K w s ∧ m_R w s ∧ m_S w s s.heap
/-- where a walk is -/
def m_W (w : MP) (H0 : Heap) (F : MF) (G : MG) (H : Heap) (locs : List Loc) : Prop := m_P w F G H ∧ va_S (m_A w) H0 H locs
theorem m_K.moved {w : MP} {u U : State} (hvm : u.vm.Alike U.vm) (h : m_K w u) : m_K w U := ⟨u_Kn_moved hvm h.1, fun t => arrOfT_moved hvm (h.2.1 t), h.2.2⟩
theorem m_I.blind {w : MP} {F : MF} {G : MG} {av : List Value} : FrameBlind (va_Pc av (m_I w F G)) := fun a U g mk q => by
  obtain ⟨q0, qP, qK, qR, qS⟩ := q
  exact ⟨q0, qP, m_K.moved (u := U) (U := U.calling g mk a) (Vm.Alike.refl U.vm) qK, fun i hi => vk_R.same rfl (qR i hi), vk_S.moved (u := U) (U := U.calling g mk a) (Vm.Alike.refl U.vm) qS⟩
theorem m_W.I {w : MP} {s U : State} {F : MF} {G : MG} {H : Heap} {locs : List Loc} (hT : m_T w s) (hW : m_W w s.heap F G H locs) (hU : U.heap = H) (hw : s.WarmedH U.vm) : m_I w F G U := by
  refine ⟨by rw [hU]; exact hW.1, m_K.moved hw.alike hT.1, fun i hi => vk_R.warm hw (hT.2.1 i hi), ?_⟩
  rw [hU]
  exact vk_S.moved hw.alike (vk_S.kept hT.2.2 hW.2.2.1)
theorem m_P.put {w : MP} {F F' : MF} {G : MG} {H H1 : Heap} (h : m_P w F G H) (ha : m_ap w) (ho : t_OB (mp_h w) (mp_c w) 27 (mp_i w) H1 (vp_V (m_fs w F'))) (oq : ∀ q : Nat, q ≠ mp_h w → H1[q]? = H[q]?) : m_P w F' G H1 :=
  ⟨ho, fun k hk => by rw [oq _ (ha.1 k hk)]; exact h.2 k hk⟩
theorem m_P.ast {w : MP} {F : MF} {G : MG} {H H1 : Heap} {k : Nat} {f : Nat → Int32} (h : m_P w F G H) (ha : m_ap w) (hk : m_ty k ≠ 0) (ho : H1[mp_a w k]? = some (vp_cell (mp_d w (m_ty k)) (m_ln k, .inl f))) (oq : ∀ q : Nat, q ≠ mp_a w k → H1[q]? = H[q]?) : m_P w F (mg G k f) H1 := by
  refine ⟨h.1.kept (oq _ (fun e => ha.1 k hk e.symm)), fun j hj => ?_⟩
  by_cases e : j = k
  · subst e
    rw [ho]
    simp [mg]
  · rw [oq _ (fun z => e (ha.2 j k hj hk z)), h.2 j hj]
    simp [mg, e]
theorem m_nar1 (x : Int32) : narrow .boolean (.int x) = .int (x &&& 1) := rfl
theorem m_nb {r : Int32} (h : r = 0 ∨ r = 1) : narrow .boolean (.int r) = .int r := by
  rcases h with rfl | rfl <;> rfl
abbrev mrm (d : Nat) : Room := { frames := d, cells := 0, slots := 0, locals := 64 * d }
section MROWS
variable {p : Program} {l : Launch} {e : Env} {R : Room} {s : State} {m : MethodId} {args : Array Value} {below : List Frame} {meth : Method} {c : Code} {H : Heap} {locs : List Loc} {cells slots : Nat} {Q : State → Prop}
variable {cc : ByteArray} {pc : Nat} {ls : Array Slot} {rest st0 : List Value} {w : MP} {F : MF} {G : MG} {H0 : Heap}
theorem m_get (hx : p.tables.exec = Jvm.exec) (hb : c.code = cc) (hown : s.vm.findClass RX5 = some m.cls) (hts : ∀ w ∈ lw_all, w.before args s = true) (hT : m_T w s) (hW : m_W w H0 F G H locs) {index : Nat} (k : Nat) (hk : k < 27)
    (hlink : (Cond.fieldLink RX5 index RX5 (TX5 k).2.1 (TX5 k).2.2.1).before args s = true) (hC : (TX5 k).1 = RX5) {v : Value} (hv : (m_fs w F)[k]? = some v) (hdg : decode cc pc = .ok (.getfield index, 3))
    (kk : W p l e R s m args below meth c H locs cells slots Q (F0 m (pc + 3) ls (v :: rest))) : W p l e R s m args below meth c H locs cells slots Q (F0 m pc ls (.ref (mp_h w) :: rest)) := by
  obtain ⟨cell, q1, q2, q3, q4⟩ := hW.1.1
  obtain ⟨hS, hfc, kC, hkC, hkind⟩ := hT.1.1
  obtain ⟨cf, kf, fi, f, hi, hsl⟩ := hS k hk
  refine W.getf hx hb hown hlink (by rw [hC] at hi; exact hi) (u_facts hfc hkC (u_lays hts in_X5 hk) hi).1 q1 (by rw [q3]; exact fun h => by cases h) (v := v) ?_ rfl rfl hdg kk
  rw [hsl, q4 k hk]
  simp [vp_V, hv]
theorem m_put (hx : p.tables.exec = Jvm.exec) (hb : c.code = cc) (hown : s.vm.findClass RX5 = some m.cls) (hts : ∀ w ∈ lw_all, w.before args s = true) (hT : m_T w s) (hW : m_W w H0 F G H locs) {index : Nat} (k : Nat) (hk : k < 27)
    (hlink : (Cond.fieldLink RX5 index RX5 (TX5 k).2.1 (TX5 k).2.2.1).before args s = true) (hC : (TX5 k).1 = RX5) (hfin : (TX5 k).2.2.2 = false) {ty : FieldType} {x : Int32} (hd : parseFieldDescriptor (TX5 k).2.2.1 = some ty) (hn : narrow ty (.int x) = .int x) (hfit : fits ty (.int x) = true) (hfs : (m_fs w F).set k (.int x) = m_fs w (upd F k x)) (hdg : decode cc pc = .ok (.putfield index, 3))
    (kk : ∀ (F1 : MF) (H1 : Heap) (locs1 : List Loc), F1 = upd F k x → m_W w H0 F1 G H1 locs1 → W p l e R s m args below meth c H1 locs1 cells slots Q (F0 m (pc + 3) ls rest)) : W p l e R s m args below meth c H locs cells slots Q (F0 m pc ls (.int x :: .ref (mp_h w) :: rest)) := by
  have hKn := hT.1.1
  have hap : ∀ x y, x < 27 → y < 27 → x ≠ y → (mp_i w) x ≠ (mp_i w) y := by
    intro x y hx hy hne
    obtain ⟨hS, -⟩ := hKn
    obtain ⟨_, _, _, fa, hia, ea⟩ := hS x hx
    obtain ⟨_, _, _, fb, hib, eb⟩ := hS y hy
    rw [← ea, ← eb]
    refine u_apart (u_lays hts in_X5 hx) (u_lays hts in_X5 hy) hia hib ?_
    rw [(State.fieldFound?_type hia (tyX5_ok x hx)).1, (State.fieldFound?_type hib (tyX5_ok y hy)).1]
    exact nmX5 x hx y hy hne
  obtain ⟨cell, q1, q2, q3, q4⟩ := hW.1.1
  obtain ⟨hS, hfc, kC, hkC, hkind⟩ := hKn
  obtain ⟨cf, kf, fi, f, hi, hsl⟩ := hS k hk
  have hlay := hts _ (in_X5 _ (u_in_lay hk))
  unfold u_lay at hlay
  rw [if_neg (by rw [hfin]; decide)] at hlay
  have hst := (u_facts hfc hkC (u_lays hts in_X5 hk) hi).1
  have h6 := u_store hfc hkC hkind hlay hi hd hn hfit
  refine W.putK hx hb (f := f) ⟨hown, hlink, ⟨_, _, _, by rw [hC] at hi; exact hi⟩, hst⟩ (by rw [q2]; exact h6) q1 q3 (by rw [hsl]; exact k2_hasslot (q4 k hk)) rfl rfl hdg fun H' e1 e2 e3 => ?_
  rw [hsl] at e1 ⊢
  refine kk _ H' _ rfl ⟨hW.1.put hT.1.2.2 ?_ e3, hW.2.put e2 e3 (Or.inl rfl)⟩
  rw [← hfs]
  exact t_OB.to (V := updV (vp_V (m_fs w F)) k (.int x)) ⟨_, e1, q2, q3, t_set q4 hap hk _⟩ (fun j _ => vp_updV_set hk _ j)
theorem m_iald (hx : p.tables.exec = Jvm.exec) (hb : c.code = cc) (hT : m_T w s) (hW : m_W w H0 F G H locs) {k j : Nat} {i : Int32} (hj : i.toNatClampNeg = j) (hk : m_ty k = 1) (hin : vp_in i (m_ln k)) (hdg : decode cc pc = .ok (.iaload, 1))
    (kk : W p l e R s m args below meth c H locs cells slots Q (F0 m (pc + 1) ls (.int (G k j) :: rest))) : W p l e R s m args below meth c H locs cells slots Q (F0 m pc ls (.int i :: .ref (mp_a w k) :: rest)) := by
  subst hj
  have hlt : i.toNatClampNeg < m_ln k := Nat.not_le.mp fun q => hin (Or.inr q)
  have hc := hW.1.2 k (by rw [hk]; decide)
  rw [hk] at hc
  exact W.iald (v := .int (G k i.toNatClampNeg)) hx hb hc (hT.1.2.1 1 _ (fun j => .int (G k j))) (fun q => by cases q) (by show ¬ (i < 0 ∨ (arrV _ _ _).slots.size ≤ _); rw [arrV_size]; exact hin) (by show (arrV _ _ _).slots[_]? = _; rw [arrV_read _ _ hlt]) rfl rfl hdg kk
theorem m_bald (hx : p.tables.exec = Jvm.exec) (hb : c.code = cc) (hT : m_T w s) (hW : m_W w H0 F G H locs) {k j : Nat} {i : Int32} (hj : i.toNatClampNeg = j) (hk : m_ty k = 2) (hin : vp_in i (m_ln k)) (hdg : decode cc pc = .ok (.baload, 1))
    (kk : W p l e R s m args below meth c H locs cells slots Q (F0 m (pc + 1) ls (.int (G k j) :: rest))) : W p l e R s m args below meth c H locs cells slots Q (F0 m pc ls (.int i :: .ref (mp_a w k) :: rest)) := by
  subst hj
  have hlt : i.toNatClampNeg < m_ln k := Nat.not_le.mp fun q => hin (Or.inr q)
  have hc := hW.1.2 k (by rw [hk]; decide)
  rw [hk] at hc
  exact W.bald (v := .int (G k i.toNatClampNeg)) hx hb hc (hT.1.2.1 2 _ (fun j => .int (G k j))) (fun q => by cases q) (by show ¬ (i < 0 ∨ (arrV _ _ _).slots.size ≤ _); rw [arrV_size]; exact hin) (by show (arrV _ _ _).slots[_]? = _; rw [arrV_read _ _ hlt]) rfl rfl hdg kk
theorem m_zald (hx : p.tables.exec = Jvm.exec) (hb : c.code = cc) (hT : m_T w s) (hW : m_W w H0 F G H locs) {k j : Nat} {i : Int32} (hj : i.toNatClampNeg = j) (hk : m_ty k = 3) (hin : vp_in i (m_ln k)) (hdg : decode cc pc = .ok (.baload, 1))
    (kk : W p l e R s m args below meth c H locs cells slots Q (F0 m (pc + 1) ls (.int (G k j) :: rest))) : W p l e R s m args below meth c H locs cells slots Q (F0 m pc ls (.int i :: .ref (mp_a w k) :: rest)) := by
  subst hj
  have hlt : i.toNatClampNeg < m_ln k := Nat.not_le.mp fun q => hin (Or.inr q)
  have hc := hW.1.2 k (by rw [hk]; decide)
  rw [hk] at hc
  exact W.zald (v := .int (G k i.toNatClampNeg)) hx hb hc (hT.1.2.1 3 _ (fun j => .int (G k j))) (fun q => by cases q) (by show ¬ (i < 0 ∨ (arrV _ _ _).slots.size ≤ _); rw [arrV_size]; exact hin) (by show (arrV _ _ _).slots[_]? = _; rw [arrV_read _ _ hlt]) rfl rfl hdg kk
theorem m_cell {cA : ClassId} {n : Nat} {f : Nat → Int32} {i x : Int32} : (vp_cell cA (n, .inl f)).setSlot i.toNatClampNeg (.int x) = vp_cell cA (n, .inl (upd f i.toNatClampNeg x)) := by
  rw [vp_cell_i, vp_cell_i, arrV_store]
  congr 1
  funext q
  by_cases hq : q = i.toNatClampNeg
  · subst hq
    simp [updV, upd]
  · simp [updV, upd, hq]
theorem m_iast (hx : p.tables.exec = Jvm.exec) (hb : c.code = cc) (hT : m_T w s) (hW : m_W w H0 F G H locs) {k j : Nat} {i x : Int32} (hj : i.toNatClampNeg = j) (hk : m_ty k = 1) (hin : vp_in i (m_ln k)) (hdg : decode cc pc = .ok (.iastore, 1))
    (kk : ∀ (G1 : MG) (H1 : Heap) (locs1 : List Loc), G1 = mu G k j x → m_W w H0 F G1 H1 locs1 → W p l e R s m args below meth c H1 locs1 cells slots Q (F0 m (pc + 1) ls rest)) : W p l e R s m args below meth c H locs cells slots Q (F0 m pc ls (.int x :: .int i :: .ref (mp_a w k) :: rest)) := by
  subst hj
  have hk0 : m_ty k ≠ 0 := by rw [hk]; decide
  have hc := hW.1.2 k hk0
  rw [hk] at hc
  refine W.iast hx hb hc (hT.1.2.1 1 _ (fun j => .int (G k j))) (fun q => by cases q) (by show ¬ (i < 0 ∨ (arrV _ _ _).slots.size ≤ _); rw [arrV_size]; exact hin) rfl rfl hdg fun H1 e1 z oq => ?_
  refine kk _ H1 _ rfl ⟨hW.1.ast hT.1.2.2 hk0 ?_ oq, hW.2.put z oq (Or.inr ⟨k, hk0, rfl⟩)⟩
  rw [e1, m_cell, hk]
theorem m_bast (hx : p.tables.exec = Jvm.exec) (hb : c.code = cc) (hT : m_T w s) (hW : m_W w H0 F G H locs) {k j : Nat} {i x : Int32} (hj : i.toNatClampNeg = j) (hk : m_ty k = 2) (hin : vp_in i (m_ln k)) (hdg : decode cc pc = .ok (.bastore, 1))
    (kk : ∀ (G1 : MG) (H1 : Heap) (locs1 : List Loc), G1 = mu G k j x.toInt8.toInt32 → m_W w H0 F G1 H1 locs1 → W p l e R s m args below meth c H1 locs1 cells slots Q (F0 m (pc + 1) ls rest)) : W p l e R s m args below meth c H locs cells slots Q (F0 m pc ls (.int x :: .int i :: .ref (mp_a w k) :: rest)) := by
  subst hj
  have hk0 : m_ty k ≠ 0 := by rw [hk]; decide
  have hc := hW.1.2 k hk0
  rw [hk] at hc
  refine W.bast hx hb hc (hT.1.2.1 2 _ (fun j => .int (G k j))) (fun q => by cases q) (by show ¬ (i < 0 ∨ (arrV _ _ _).slots.size ≤ _); rw [arrV_size]; exact hin) rfl rfl hdg fun H1 e1 z oq => ?_
  refine kk _ H1 _ rfl ⟨hW.1.ast hT.1.2.2 hk0 ?_ oq, hW.2.put z oq (Or.inr ⟨k, hk0, rfl⟩)⟩
  rw [e1, hk]
  exact congrArg some m_cell
theorem m_zast (hx : p.tables.exec = Jvm.exec) (hb : c.code = cc) (hT : m_T w s) (hW : m_W w H0 F G H locs) {k j : Nat} {i x : Int32} (hj : i.toNatClampNeg = j) (hk : m_ty k = 3) (hin : vp_in i (m_ln k)) (hdg : decode cc pc = .ok (.bastore, 1))
    (kk : ∀ (G1 : MG) (H1 : Heap) (locs1 : List Loc), G1 = mu G k j (x &&& 1) → m_W w H0 F G1 H1 locs1 → W p l e R s m args below meth c H1 locs1 cells slots Q (F0 m (pc + 1) ls rest)) : W p l e R s m args below meth c H locs cells slots Q (F0 m pc ls (.int x :: .int i :: .ref (mp_a w k) :: rest)) := by
  subst hj
  have hk0 : m_ty k ≠ 0 := by rw [hk]; decide
  have hc := hW.1.2 k hk0
  rw [hk] at hc
  refine W.zast hx hb hc (hT.1.2.1 3 _ (fun j => .int (G k j))) (fun q => by cases q) (by show ¬ (i < 0 ∨ (arrV _ _ _).slots.size ≤ _); rw [arrV_size]; exact hin) rfl rfl hdg fun H1 e1 z oq => ?_
  refine kk _ H1 _ rfl ⟨hW.1.ast hT.1.2.2 hk0 ?_ oq, hW.2.put z oq (Or.inr ⟨k, hk0, rfl⟩)⟩
  rw [e1, hk]
  exact congrArg some m_cell
/-- a literal text of the model's -/
theorem m_ldcs (hx : p.tables.exec = Jvm.exec) (hb : c.code = cc) (hown : s.vm.findClass RX5 = some m.cls) (hT : m_T w s) {index : Nat} (i : Nat) (hi : i < 8) (he : m_ent i = index) (hdg : decode cc pc = .ok (.ldc index, 2))
    (kk : W p l e R s m args below meth c H locs cells slots Q (F0 m (pc + 2) ls (.ref (mp_s w i) :: rest))) : W p l e R s m args below meth c H locs cells slots Q (F0 m pc ls rest) := by
  subst he
  exact va_ldcS hx hb hown (hT.2.1 i hi) hdg kk
def imax (x y : Int32) : Int32 := if x < y then y else x
def imin (x y : Int32) : Int32 := if y < x then y else x
theorem m_max {nL : Nat} (hE : CallFix p m c cc nL s args lw_all RX5) (hs : ls.size = nL) {index : Nat} (hlink : (Cond.methodLink RX5 index Lib.Math.max.name).before args s = true) (hstat : (Cond.static Lib.Math.max.name).before args s = true) (hini : (Cond.initialized "java/lang/Math").before args s = true) (hcode : (Cond.code Lib.Math.max.name Lib.Math.max.code 2 (some .int)).before args s = true)
    (hframes : 1 ≤ R.frames) (hlocals : (rest.map fun v => v.category).sum + 13 ≤ R.locals) (hc : cells ≤ R.cells) (hs2 : slots ≤ R.slots) {x y : Int32} (hdg : decode cc pc = .ok (.invokestatic index, 3))
    (kk : W p l e R s m args below meth c H locs cells slots Q (F0 m (pc + 3) ls (.int (imax x y) :: rest))) : W p l e R s m args below meth c H locs cells slots Q (F0 m pc ls (.int y :: .int x :: rest)) :=
  va_mmax hE.1 hE.2.1 (hE.2.2.1.trans hs.symm) hE.2.2.2.1 hlink hstat hini hcode hframes hlocals hc hs2 hdg kk
theorem m_min {nL : Nat} (hE : CallFix p m c cc nL s args lw_all RX5) (hs : ls.size = nL) {index : Nat} (hlink : (Cond.methodLink RX5 index Lib.Math.min.name).before args s = true) (hstat : (Cond.static Lib.Math.min.name).before args s = true) (hini : (Cond.initialized "java/lang/Math").before args s = true) (hcode : (Cond.code Lib.Math.min.name Lib.Math.min.code 2 (some .int)).before args s = true)
    (hframes : 1 ≤ R.frames) (hlocals : (rest.map fun v => v.category).sum + 13 ≤ R.locals) (hc : cells ≤ R.cells) (hs2 : slots ≤ R.slots) {x y : Int32} (hdg : decode cc pc = .ok (.invokestatic index, 3))
    (kk : W p l e R s m args below meth c H locs cells slots Q (F0 m (pc + 3) ls (.int (imin x y) :: rest))) : W p l e R s m args below meth c H locs cells slots Q (F0 m pc ls (.int y :: .int x :: rest)) :=
  va_mmin hE.1 hE.2.1 (hE.2.2.1.trans hs.symm) hE.2.2.2.1 hlink hstat hini hcode hframes hlocals hc hs2 hdg kk
theorem m_ne {x k : Int32} {j : Int} (h : ¬ x = k) (hk : k.toInt = j) : x.toInt ≠ j := fun e => h (Int32.toInt_inj.mp (by rw [e, hk]))
theorem m_out {x : Int32} {lo hi : Int} (h : ∀ j : Int, lo ≤ j → j ≤ hi → x.toInt ≠ j) : x.toInt < lo ∨ hi < x.toInt := by
  rcases Int.lt_or_le x.toInt lo with q | q
  · exact Or.inl q
  · rcases Int.lt_or_le hi x.toInt with q2 | q2
    · exact Or.inr q2
    · exact absurd rfl (h _ q q2)
/-- the model itself, as a receiver -/
theorem m_recv (hT : m_T w s) (hW : m_W w H0 F G H locs) : ∃ cell : Cell, H[mp_h w]? = some cell ∧ cell.vm.isStatics = false ∧ s.vm.findClass RX5 = some cell.cls := by
  obtain ⟨cell, g1, g2, g3, -⟩ := hW.1.1
  exact ⟨cell, g1, by rw [g3]; rfl, by rw [g2]; exact hT.1.1.2.1⟩
abbrev m_Qi (w : MP) (post : Int32 → MF → MG → Prop) : Array Value → State → Outcome → State → Prop := va_Qi (S := MF × MG) (fun r u => post r u.1 u.2) (fun u U => m_I w u.1 u.2 U) (m_A w)
abbrev m_Ql (w : MP) (post : Int64 → MF → MG → Prop) : Array Value → State → Outcome → State → Prop := va_Ql (S := MF × MG) (fun r u => post r u.1 u.2) (fun u U => m_I w u.1 u.2 U) (m_A w)
abbrev m_Qv (w : MP) (post : MF → MG → Prop) : Array Value → State → Outcome → State → Prop := va_Qv (S := MF × MG) (fun u => post u.1 u.2) (fun u U => m_I w u.1 u.2 U) (m_A w)
abbrev m_Mi (l : Launch) (w : MP) (y : MethodName) (cc : ByteArray) (n : Nat) (ty : FieldType) (d : Nat) (av : List Value) (F : MF) (G : MG) (post : Int32 → MF → MG → Prop) : Prop := Met l y (ws_ y cc n (some ty)) (mrm d) (va_Pc av (m_I w F G)) (m_Qi w post) 0 0 (m_A w)
abbrev m_Ml (l : Launch) (w : MP) (y : MethodName) (cc : ByteArray) (n : Nat) (d : Nat) (av : List Value) (F : MF) (G : MG) (post : Int64 → MF → MG → Prop) : Prop := Met l y (ws_ y cc n (some .long)) (mrm d) (va_Pc av (m_I w F G)) (m_Ql w post) 0 0 (m_A w)
abbrev m_Mv (l : Launch) (w : MP) (y : MethodName) (cc : ByteArray) (n : Nat) (d : Nat) (av : List Value) (F : MF) (G : MG) (post : MF → MG → Prop) : Prop := Met l y (ws_ y cc n none) (mrm d) (va_Pc av (m_I w F G)) (m_Qv w post) 0 0 (m_A w)
/-- what a call's row has of this walk -/
abbrev m_E (p : Program) (m : MethodId) (c : Code) (cc : ByteArray) (nL : Nat) (s : State) (args : Array Value) : Prop := CallFix p m c cc nL s args lw_all RX5
theorem m_Vi {y : MethodName} {by' : ByteArray} {mL nL n d index : Nat} {ty : FieldType} {av : List Value} {post : Int32 → MF → MG → Prop} (hE : m_E p m c cc nL s args) (hT : m_T w s) (hW : m_W w s.heap F G H locs) (hM : m_Mi l w y by' mL ty d (.ref (mp_h w) :: av) F G post)
    (hG : GoodIn lw_all (wsV RX5 index RX5 y (ws_ y by' mL (some ty)))) (hd : y.cls = RX5 ∧ y.cls ≠ "java/lang/invoke/MethodHandle" ∧ y.cls ≠ "java/lang/invoke/VarHandle" ∧ (parseMethodDescriptor y.desc).map (fun d => d.parameters.length) = some n) (hR : d + 1 ≤ R.frames ∧ 8 + (mL + 11) + 64 * d ≤ R.locals ∧ cells ≤ R.cells ∧ slots ≤ R.slots)
    (hn : av.length = n) (hs : ls.size = nL) (hst : st0 = av.reverse ++ .ref (mp_h w) :: rest) (hrm : (rest.map fun v => v.category).sum ≤ 8) (hdg : decode cc pc = .ok (.invokevirtual index, 3))
    (kk : ∀ (r : Int32) (F1 : MF) (G1 : MG) (H1 : Heap) (locs1 : List Loc), post r F1 G1 → m_W w s.heap F1 G1 H1 locs1 → W p l e R s m args below meth c H1 locs1 cells slots Q (F0 m (pc + 3) ls (.int r :: rest))) : W p l e R s m args below meth c H locs cells slots Q (F0 m pc ls st0) := by
  refine va_calli (mc := 0) (ms := 0) (va_runV (As := av) (rest := rest) hE hM (cwV n hE.2.2.2.2 hG rfl rfl rfl hd ⟨hR.1, hR.2.1⟩) ⟨m_I.blind, m_recv hT hW, fun U hU hw => ⟨rfl, m_W.I hT hW hU hw⟩⟩ rfl hn hs hst (lv_room hrm) hdg ⟨hR.2.2.1, hR.2.2.2⟩) hW.2 (fun q _ h => h) (fun q h => h) (fun r u t H1 locs1 ht hvm hw1 hB hz1 hk1 hS => ?_)
  exact kk r u.1 u.2 H1 locs1 hw1 ⟨by rw [← ht]; exact hB.1, hS⟩
theorem m_Vl {y : MethodName} {by' : ByteArray} {mL nL n d index : Nat} {av : List Value} {post : Int64 → MF → MG → Prop} (hE : m_E p m c cc nL s args) (hT : m_T w s) (hW : m_W w s.heap F G H locs) (hM : m_Ml l w y by' mL d (.ref (mp_h w) :: av) F G post)
    (hG : GoodIn lw_all (wsV RX5 index RX5 y (ws_ y by' mL (some .long)))) (hd : y.cls = RX5 ∧ y.cls ≠ "java/lang/invoke/MethodHandle" ∧ y.cls ≠ "java/lang/invoke/VarHandle" ∧ (parseMethodDescriptor y.desc).map (fun d => d.parameters.length) = some n) (hR : d + 1 ≤ R.frames ∧ 8 + (mL + 11) + 64 * d ≤ R.locals ∧ cells ≤ R.cells ∧ slots ≤ R.slots)
    (hn : av.length = n) (hs : ls.size = nL) (hst : st0 = av.reverse ++ .ref (mp_h w) :: rest) (hrm : (rest.map fun v => v.category).sum ≤ 8) (hdg : decode cc pc = .ok (.invokevirtual index, 3))
    (kk : ∀ (r : Int64) (F1 : MF) (G1 : MG) (H1 : Heap) (locs1 : List Loc), post r F1 G1 → m_W w s.heap F1 G1 H1 locs1 → W p l e R s m args below meth c H1 locs1 cells slots Q (F0 m (pc + 3) ls (.long r :: rest))) : W p l e R s m args below meth c H locs cells slots Q (F0 m pc ls st0) := by
  refine va_calll (mc := 0) (ms := 0) (va_runV (As := av) (rest := rest) hE hM (cwV n hE.2.2.2.2 hG rfl rfl rfl hd ⟨hR.1, hR.2.1⟩) ⟨m_I.blind, m_recv hT hW, fun U hU hw => ⟨rfl, m_W.I hT hW hU hw⟩⟩ rfl hn hs hst (lv_room hrm) hdg ⟨hR.2.2.1, hR.2.2.2⟩) hW.2 (fun q _ h => h) (fun q h => h) (fun r u t H1 locs1 ht hvm hw1 hB hz1 hk1 hS => ?_)
  exact kk r u.1 u.2 H1 locs1 hw1 ⟨by rw [← ht]; exact hB.1, hS⟩
theorem m_Vv {y : MethodName} {by' : ByteArray} {mL nL n d index : Nat} {av : List Value} {post : MF → MG → Prop} (hE : m_E p m c cc nL s args) (hT : m_T w s) (hW : m_W w s.heap F G H locs) (hM : m_Mv l w y by' mL d (.ref (mp_h w) :: av) F G post)
    (hG : GoodIn lw_all (wsV RX5 index RX5 y (ws_ y by' mL none))) (hd : y.cls = RX5 ∧ y.cls ≠ "java/lang/invoke/MethodHandle" ∧ y.cls ≠ "java/lang/invoke/VarHandle" ∧ (parseMethodDescriptor y.desc).map (fun d => d.parameters.length) = some n) (hR : d + 1 ≤ R.frames ∧ 8 + (mL + 11) + 64 * d ≤ R.locals ∧ cells ≤ R.cells ∧ slots ≤ R.slots)
    (hn : av.length = n) (hs : ls.size = nL) (hst : st0 = av.reverse ++ .ref (mp_h w) :: rest) (hrm : (rest.map fun v => v.category).sum ≤ 8) (hdg : decode cc pc = .ok (.invokevirtual index, 3))
    (kk : ∀ (F1 : MF) (G1 : MG) (H1 : Heap) (locs1 : List Loc), post F1 G1 → m_W w s.heap F1 G1 H1 locs1 → W p l e R s m args below meth c H1 locs1 cells slots Q (F0 m (pc + 3) ls rest)) : W p l e R s m args below meth c H locs cells slots Q (F0 m pc ls st0) := by
  refine va_callv (mc := 0) (ms := 0) (va_runV (As := av) (rest := rest) hE hM (cwV n hE.2.2.2.2 hG rfl rfl rfl hd ⟨hR.1, hR.2.1⟩) ⟨m_I.blind, m_recv hT hW, fun U hU hw => ⟨rfl, m_W.I hT hW hU hw⟩⟩ rfl hn hs hst (lv_room hrm) hdg ⟨hR.2.2.1, hR.2.2.2⟩) hW.2 (fun q _ h => h) (fun q h => h) (fun u t H1 locs1 ht hvm hw1 hB hz1 hk1 hS => ?_)
  exact kk u.1 u.2 H1 locs1 hw1 ⟨by rw [← ht]; exact hB.1, hS⟩
theorem m_Si {y : MethodName} {by' : ByteArray} {mL nL n d index : Nat} {ty : FieldType} {av : List Value} {post : Int32 → MF → MG → Prop} (hE : m_E p m c cc nL s args) (hT : m_T w s) (hW : m_W w s.heap F G H locs) (hM : m_Mi l w y by' mL ty d av F G post)
    (hG : GoodIn lw_all (va_wsS RX5 index y (ws_ y by' mL (some ty)))) (hd : y.cls ≠ "java/lang/invoke/MethodHandle" ∧ y.cls ≠ "java/lang/invoke/VarHandle" ∧ (parseMethodDescriptor y.desc).map (fun d => d.parameters.length) = some n) (hR : d + 1 ≤ R.frames ∧ 8 + (mL + 11) + 64 * d ≤ R.locals ∧ cells ≤ R.cells ∧ slots ≤ R.slots)
    (hn : av.length = n) (hs : ls.size = nL) (hst : st0 = av.reverse ++ rest) (hrm : (rest.map fun v => v.category).sum ≤ 8) (hdg : decode cc pc = .ok (.invokestatic index, 3))
    (kk : ∀ (r : Int32) (F1 : MF) (G1 : MG) (H1 : Heap) (locs1 : List Loc), post r F1 G1 → m_W w s.heap F1 G1 H1 locs1 → W p l e R s m args below meth c H1 locs1 cells slots Q (F0 m (pc + 3) ls (.int r :: rest))) : W p l e R s m args below meth c H locs cells slots Q (F0 m pc ls st0) := by
  refine va_calli (mc := 0) (ms := 0) (va_runS (As := av) (rest := rest) hE hM (va_cwS n hE.2.2.2.2 hG rfl rfl rfl hd ⟨hR.1, hR.2.1⟩) ⟨m_I.blind, fun U hU hw => ⟨rfl, m_W.I hT hW hU hw⟩⟩ rfl hn hs hst (lv_room hrm) hdg ⟨hR.2.2.1, hR.2.2.2⟩) hW.2 (fun q _ h => h) (fun q h => h) (fun r u t H1 locs1 ht hvm hw1 hB hz1 hk1 hS => ?_)
  exact kk r u.1 u.2 H1 locs1 hw1 ⟨by rw [← ht]; exact hB.1, hS⟩
end MROWS
/-- what a body has at its start -/
abbrev m_Start (p : Program) (s : State) (m : MethodId) (args : Array Value) (c : Code) (cc : ByteArray) (n : Nat) (w : MP) (ls : Array Slot) (av : List Value) : Prop := m_E p m c cc n s args ∧ m_T w s ∧ lv_has ls n (lv_args 0 av)
theorem m_ofWi {l : Launch} {w : MP} {y : MethodName} {cc : ByteArray} {n d : Nat} {ty : FieldType} {av : List Value} {F : MF} {G : MG} {post : Int32 → MF → MG → Prop} (hy : plainName y.cls = true) (hc : y.cls = RX5) (hn : (lg_sl av).length ≤ n) (ok : Int32 → Prop) (hok : ∀ r, ok r → narrow ty (.int r) = .int r)
    (body : ∀ (p : Program) (e : Env) (s : State) (m : MethodId) (args : Array Value) (below : List Frame) (meth : Method) (c : Code) (Q : State → Prop) (ls : Array Slot), m_Start p s m args c cc n w ls av → m_W w s.heap F G s.heap [] →
      (∀ (r : Int32) (F1 : MF) (G1 : MG) (H : Heap) (locs : List Loc), ok r → post r F1 G1 → m_W w s.heap F1 G1 H locs → ∀ (pc : Nat) (ls : Array Slot), decode cc pc = .ok (.ireturn, 1) → W p l e (mrm d) s m args below meth c H locs 0 0 Q (F0 m pc ls [.int r])) →
      W p l e (mrm d) s m args below meth c s.heap [] 0 0 Q (F0 m 0 ls [])) : m_Mi l w y cc n ty d av F G post := by
  refine Met.ofW (cc := cc) (maxL := n) (ret := some ty) hy rfl ?_
  intro p e s m args below meth c s₁ B hml hv
  obtain ⟨rfl, hP, hK, hR, hS⟩ := hv
  have hx := B.exec
  have hb := B.bytes
  have hr := B.returns
  have hts := atoms_spec (ws := ws_ y cc n (some ty)) B.pre
  have hts : ∀ w ∈ lw_all, w.before _ s = true := fun w h => hts w (List.mem_cons_of_mem _ h)
  have hown : s.vm.findClass y.cls = some m.cls := findClass_of_methodNamed B.named
  rw [hc] at hown
  have hlocks : meth.locks = false := B.notSynchronized
  have hl := lv_entry av (n := n) hn
  rw [lg_entry_eq]
  generalize (lg_sl av ++ List.replicate (n - (lg_sl av).length) Slot.unset).toArray = ls at hl ⊢
  have hT : m_T w s := ⟨hK, hR, hS⟩
  refine body p e s m av.toArray below meth c _ ls ⟨⟨hx, hb, hml, hown, hts⟩, hT, hl⟩ ⟨hP, va_S.rf⟩ ?_
  intro r F1 G1 H locs hokr hp hW pc ls hd
  exact W.zret (v := r) hx hb hr (hok r hokr) (fun t ht hw => ⟨⟨r, (F1, G1), rfl, hp, m_W.I hT hW ht hw⟩, hW.2.F ht⟩) hW.2.2.2 hd hlocks
theorem m_ofWl {l : Launch} {w : MP} {y : MethodName} {cc : ByteArray} {n d : Nat} {av : List Value} {F : MF} {G : MG} {post : Int64 → MF → MG → Prop} (hy : plainName y.cls = true) (hc : y.cls = RX5) (hn : (lg_sl av).length ≤ n)
    (body : ∀ (p : Program) (e : Env) (s : State) (m : MethodId) (args : Array Value) (below : List Frame) (meth : Method) (c : Code) (Q : State → Prop) (ls : Array Slot), m_Start p s m args c cc n w ls av → m_W w s.heap F G s.heap [] →
      (∀ (r : Int64) (F1 : MF) (G1 : MG) (H : Heap) (locs : List Loc), post r F1 G1 → m_W w s.heap F1 G1 H locs → ∀ (pc : Nat) (ls : Array Slot), decode cc pc = .ok (.lreturn, 1) → W p l e (mrm d) s m args below meth c H locs 0 0 Q (F0 m pc ls [.long r])) →
      W p l e (mrm d) s m args below meth c s.heap [] 0 0 Q (F0 m 0 ls [])) : m_Ml l w y cc n d av F G post := by
  refine Met.ofW (cc := cc) (maxL := n) (ret := some .long) hy rfl ?_
  intro p e s m args below meth c s₁ B hml hv
  obtain ⟨rfl, hP, hK, hR, hS⟩ := hv
  have hx := B.exec
  have hb := B.bytes
  have hr := B.returns
  have hts := atoms_spec (ws := ws_ y cc n (some .long)) B.pre
  have hts : ∀ w ∈ lw_all, w.before _ s = true := fun w h => hts w (List.mem_cons_of_mem _ h)
  have hown : s.vm.findClass y.cls = some m.cls := findClass_of_methodNamed B.named
  rw [hc] at hown
  have hlocks : meth.locks = false := B.notSynchronized
  have hl := lv_entry av (n := n) hn
  rw [lg_entry_eq]
  generalize (lg_sl av ++ List.replicate (n - (lg_sl av).length) Slot.unset).toArray = ls at hl ⊢
  have hT : m_T w s := ⟨hK, hR, hS⟩
  refine body p e s m av.toArray below meth c _ ls ⟨⟨hx, hb, hml, hown, hts⟩, hT, hl⟩ ⟨hP, va_S.rf⟩ ?_
  intro r F1 G1 H locs hp hW pc ls hd
  exact W.lret (v := r) hx hb hr (fun t ht hw => ⟨⟨r, (F1, G1), rfl, hp, m_W.I hT hW ht hw⟩, hW.2.F ht⟩) hW.2.2.2 hd hlocks
theorem m_ofWv {l : Launch} {w : MP} {y : MethodName} {cc : ByteArray} {n d : Nat} {av : List Value} {F : MF} {G : MG} {post : MF → MG → Prop} (hy : plainName y.cls = true) (hc : y.cls = RX5) (hn : (lg_sl av).length ≤ n)
    (body : ∀ (p : Program) (e : Env) (s : State) (m : MethodId) (args : Array Value) (below : List Frame) (meth : Method) (c : Code) (Q : State → Prop) (ls : Array Slot), m_Start p s m args c cc n w ls av → m_W w s.heap F G s.heap [] →
      (∀ (F1 : MF) (G1 : MG) (H : Heap) (locs : List Loc), post F1 G1 → m_W w s.heap F1 G1 H locs → ∀ (pc : Nat) (ls : Array Slot), decode cc pc = .ok (.return_, 1) → W p l e (mrm d) s m args below meth c H locs 0 0 Q (F0 m pc ls [])) →
      W p l e (mrm d) s m args below meth c s.heap [] 0 0 Q (F0 m 0 ls [])) : m_Mv l w y cc n d av F G post := by
  refine Met.ofW (cc := cc) (maxL := n) (ret := none) hy rfl ?_
  intro p e s m args below meth c s₁ B hml hv
  obtain ⟨rfl, hP, hK, hR, hS⟩ := hv
  have hx := B.exec
  have hb := B.bytes
  have hr := B.returns
  have hts := atoms_spec (ws := ws_ y cc n none) B.pre
  have hts : ∀ w ∈ lw_all, w.before _ s = true := fun w h => hts w (List.mem_cons_of_mem _ h)
  have hown : s.vm.findClass y.cls = some m.cls := findClass_of_methodNamed B.named
  rw [hc] at hown
  have hlocks : meth.locks = false := B.notSynchronized
  have hl := lv_entry av (n := n) hn
  rw [lg_entry_eq]
  generalize (lg_sl av ++ List.replicate (n - (lg_sl av).length) Slot.unset).toArray = ls at hl ⊢
  have hT : m_T w s := ⟨hK, hR, hS⟩
  refine body p e s m av.toArray below meth c _ ls ⟨⟨hx, hb, hml, hown, hts⟩, hT, hl⟩ ⟨hP, va_S.rf⟩ ?_
  intro F1 G1 H locs hp hW pc ls hd
  exact W.vret hx hb hr (fun t ht hw => ⟨⟨(F1, G1), rfl, hp, m_W.I hT hW ht hw⟩, hW.2.F ht⟩) hW.2.2.2 hd hlocks
