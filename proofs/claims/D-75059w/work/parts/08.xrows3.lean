/-! THE FREE HEAP (3): arrays, new objects, calls, ends, throws -/
set_option maxRecDepth 100000
abbrev x_Q (w : XP) (K : Option Value → HS → Prop) : Array Value → State → Outcome → State → Prop := fun _ st oc t => (∃ (v : Option Value) (S1 : HS), oc = .returned v ∧ K v S1 ∧ x_I w S1 t) ∧ va_F (x_A w) st t
abbrev xKi (post : Int32 → HS → Prop) : Option Value → HS → Prop := fun v S => ∃ r : Int32, v = some (.int r) ∧ post r S
abbrev xKl (post : Int64 → HS → Prop) : Option Value → HS → Prop := fun v S => ∃ r : Int64, v = some (.long r) ∧ post r S
abbrev xKr (post : Nat → HS → Prop) : Option Value → HS → Prop := fun v S => ∃ r : Nat, v = some (.ref r) ∧ post r S
abbrev xKo (post : Option Nat → HS → Prop) : Option Value → HS → Prop := fun v S => ∃ r : Option Nat, v = some (va_rf r) ∧ post r S
abbrev xKv (post : HS → Prop) : Option Value → HS → Prop := fun v S => v = none ∧ post S
abbrev x_X (w : XP) (px : String → Addr → HS → Prop) : String → Addr → State → State → Prop := fun E q st t => (∃ S1 : HS, px E q S1 ∧ x_I w S1 t) ∧ va_F (x_A w) st t
abbrev x_M (l : Launch) (w : XP) (y : MethodName) (cc : ByteArray) (n : Nat) (ret : Option FieldType) (d mc ms : Nat) (av : List Value) (S : HS) (K : Option Value → HS → Prop) : Prop := Met l y (ws_ y cc n ret) (xrm d mc ms) (va_Pc av (x_I w S)) (x_Q w K) mc ms (x_A w)
abbrev xx_M (l : Launch) (w : XP) (y : MethodName) (cc : ByteArray) (n : Nat) (ret : Option FieldType) (d mc ms : Nat) (av : List Value) (S : HS) (K : Option Value → HS → Prop) (px : String → Addr → HS → Prop) : Prop := vx_Met l y (ws_ y cc n ret) (xrm d mc ms) (va_Pc av (x_I w S)) (x_Q w K) (x_X w px) mc ms (x_A w)
abbrev x_MW (l : Launch) (w : XP) (y : MethodName) (cc : ByteArray) (n : Nat) (ret : Option FieldType) (hh : List (Nat × Nat × Nat × Nat)) (d mc ms : Nat) (av : List Value) (S : HS) (K : Option Value → HS → Prop) : Prop := Met l y (wsW_ y cc n ret hh) (xrm d mc ms) (va_Pc av (x_I w S)) (x_Q w K) mc ms (x_A w)
abbrev xx_MW (l : Launch) (w : XP) (y : MethodName) (cc : ByteArray) (n : Nat) (ret : Option FieldType) (hh : List (Nat × Nat × Nat × Nat)) (d mc ms : Nat) (av : List Value) (S : HS) (K : Option Value → HS → Prop) (px : String → Addr → HS → Prop) : Prop := vx_Met l y (wsW_ y cc n ret hh) (xrm d mc ms) (va_Pc av (x_I w S)) (x_Q w K) (x_X w px) mc ms (x_A w)
section XR3
variable {p : Program} {l : Launch} {e : Env} {R : Room} {s : State} {m : MethodId} {args : Array Value} {below : List Frame} {meth : Method} {c : Code} {H : Heap} {locs : List Loc} {cells slots : Nat} {Q : State → Prop}
variable {cc : ByteArray} {pc : Nat} {ls : Array Slot} {rest st0 : List Value} {w : XP} {S : HS} {H0 : Heap}
theorem x_alen (hx : p.tables.exec = Jvm.exec) (hb : c.code = cc) (hT : x_E w s) (hW : x_W w H0 S H locs) (t : Nat) (ht : 50 ≤ t) (ht2 : t < 90) {a : Nat} (hd : hD S t a) (hdg : decode cc pc = .ok (.arraylength, 1))
    (kk : W p l e R s m args below meth c H locs cells slots Q (F0 m (pc + 1) ls (.int (nI (hL S a)) :: rest))) : W p l e R s m args below meth c H locs cells slots Q (F0 m pc ls (.ref a :: rest)) := by
  rcases hW.1.2.2.2.2.1 t a hd ht2 with q | ⟨q1, q2⟩ | ⟨q1, q2⟩
  · omega
  · exact W.alen (n := Int32.ofNat (hL S a)) hx hb (hW.1.2.1 t a hd q1 q2) ((hT.1.1.2 t q1 (by omega)).1 (hL S a) (fun j => .int (hA S a j))) (by rw [vp_cell_i, arrV_size] <;> rfl) rfl rfl hdg kk
  · exact W.alen (n := Int32.ofNat (hL S a)) hx hb (hW.1.2.2.1 t a hd q1 q2) ((hT.1.1.2 t (by omega) q2).1 (hL S a) (fun j => va_rf (hB S a j))) (by rw [vp_cell_q, arrV_size] <;> rfl) rfl rfl hdg kk
theorem x_iald (hx : p.tables.exec = Jvm.exec) (hb : c.code = cc) (hT : x_E w s) (hW : x_W w H0 S H locs) {a j : Nat} {i : Int32} (hd : hD S 50 a) (hj : i.toNatClampNeg = j) (hin : vp_in i (hL S a)) (hdg : decode cc pc = .ok (.iaload, 1))
    (kk : W p l e R s m args below meth c H locs cells slots Q (F0 m (pc + 1) ls (.int (hA S a j) :: rest))) : W p l e R s m args below meth c H locs cells slots Q (F0 m pc ls (.int i :: .ref a :: rest)) := by
  subst hj
  have hlt : i.toNatClampNeg < hL S a := Nat.not_le.mp fun q => hin (Or.inr q)
  exact W.iald (v := .int (hA S a i.toNatClampNeg)) hx hb (hW.1.2.1 50 a hd (by omega) (by omega)) ((hT.1.1.2 50 (by omega) (by omega)).1 _ (fun j => .int (hA S a j))) (fun q => by cases q) (by show ¬ (i < 0 ∨ (arrV _ _ _).slots.size ≤ _); rw [arrV_size]; exact hin) (by show (arrV _ _ _).slots[_]? = _; rw [arrV_read _ _ hlt]) rfl rfl hdg kk
theorem x_bald (hx : p.tables.exec = Jvm.exec) (hb : c.code = cc) (hT : x_E w s) (hW : x_W w H0 S H locs) {a j : Nat} {i : Int32} (hd : hD S 51 a) (hj : i.toNatClampNeg = j) (hin : vp_in i (hL S a)) (hdg : decode cc pc = .ok (.baload, 1))
    (kk : W p l e R s m args below meth c H locs cells slots Q (F0 m (pc + 1) ls (.int (hA S a j) :: rest))) : W p l e R s m args below meth c H locs cells slots Q (F0 m pc ls (.int i :: .ref a :: rest)) := by
  subst hj
  have hlt : i.toNatClampNeg < hL S a := Nat.not_le.mp fun q => hin (Or.inr q)
  exact W.bald (v := .int (hA S a i.toNatClampNeg)) hx hb (hW.1.2.1 51 a hd (by omega) (by omega)) ((hT.1.1.2 51 (by omega) (by omega)).1 _ (fun j => .int (hA S a j))) (fun q => by cases q) (by show ¬ (i < 0 ∨ (arrV _ _ _).slots.size ≤ _); rw [arrV_size]; exact hin) (by show (arrV _ _ _).slots[_]? = _; rw [arrV_read _ _ hlt]) rfl rfl hdg kk
theorem x_aald (hx : p.tables.exec = Jvm.exec) (hb : c.code = cc) (hT : x_E w s) (hW : x_W w H0 S H locs) (t : Nat) (ht : 60 ≤ t) (ht2 : t < 90) (hty : (x_ft t).isReference = true) {a j : Nat} {i : Int32} (hd : hD S t a) (hj : i.toNatClampNeg = j) (hin : vp_in i (hL S a)) {v : Value} (hv : va_rf (hB S a j) = v) (hdg : decode cc pc = .ok (.aaload, 1))
    (kk : W p l e R s m args below meth c H locs cells slots Q (F0 m (pc + 1) ls (v :: rest))) : W p l e R s m args below meth c H locs cells slots Q (F0 m pc ls (.int i :: .ref a :: rest)) := by
  subst hj
  subst hv
  have hlt : i.toNatClampNeg < hL S a := Nat.not_le.mp fun q => hin (Or.inr q)
  exact W.aald (v := va_rf (hB S a i.toNatClampNeg)) (ty := x_ft t) hx hb (hW.1.2.2.1 t a hd ht ht2) ((hT.1.1.2 t (by omega) ht2).1 _ (fun j => va_rf (hB S a j))) hty (fun q => by cases q) (by show ¬ (i < 0 ∨ (arrV _ _ _).slots.size ≤ _); rw [arrV_size]; exact hin) (by show (arrV _ _ _).slots[_]? = _; rw [arrV_read _ _ hlt]) rfl rfl hdg kk
theorem x_W.setA {H1 : Heap} {t a j k : Nat} {v : Int32} (hW : x_W w H0 S H locs) (hd : hD S t a) (h1 : 50 ≤ t) (h2 : t < 60) (hwr : t ≠ 51 ∨ hD S 99 a) (ho : H1[a]? = some (vp_cell (x_d w t) (hL S a, .inl (hA (sA S a j v) a)))) (z : H1.size = H.size) (oq : ∀ q : Nat, q ≠ a → H1[q]? = H[q]?) : x_W w H0 (sA S a j v) H1 (locs ++ [⟨a, k⟩]) := by
  have hAa : x_A w a := by
    rcases hwr with h | h
    · exact hW.1.2.2.2.2.2.2 t a hd (by omega) (by omega) h (by omega)
    · exact hW.1.2.2.2.2.2.1 a h
  exact ⟨hW.1.setA hd h1 h2 ho oq, ⟨hW.2.1.1, fun a h => by rw [z]; exact hW.2.1.2 a h⟩, hW.2.2.put z oq hAa⟩
theorem x_W.setB {H1 : Heap} {t a j k : Nat} {v : Option Nat} (hW : x_W w H0 S H locs) (hd : hD S t a) (h1 : 60 ≤ t) (h2 : t < 90) (hwr : t ≠ 60 ∨ hD S 99 a) (ho : H1[a]? = some (vp_cell (x_d w t) (hL S a, .inr (.inr (.inr (.inr (hB (sB S a j v) a))))))) (z : H1.size = H.size) (oq : ∀ q : Nat, q ≠ a → H1[q]? = H[q]?) : x_W w H0 (sB S a j v) H1 (locs ++ [⟨a, k⟩]) := by
  have hAa : x_A w a := by
    rcases hwr with h | h
    · exact hW.1.2.2.2.2.2.2 t a hd (by omega) (by omega) (by omega) h
    · exact hW.1.2.2.2.2.2.1 a h
  exact ⟨hW.1.setB hd h1 h2 ho oq, ⟨hW.2.1.1, fun a h => by rw [z]; exact hW.2.1.2 a h⟩, hW.2.2.put z oq hAa⟩
theorem x_cellA {cA : ClassId} {n a j : Nat} {x : Int32} : (vp_cell cA (n, .inl (hA S a))).setSlot j (.int x) = vp_cell cA (n, .inl (hA (sA S a j x) a)) := by
  rw [vp_cell_i, vp_cell_i, arrV_store]
  congr 1
  funext q
  rw [sA_A, if_pos rfl]
  by_cases hq : q = j
  · simp [updV, hq]
  · simp [updV, hq]
theorem x_cellB {cA : ClassId} {n a j : Nat} {x : Option Nat} : (vp_cell cA (n, .inr (.inr (.inr (.inr (hB S a)))))).setSlot j (va_rf x) = vp_cell cA (n, .inr (.inr (.inr (.inr (hB (sB S a j x) a))))) := by
  rw [vp_cell_q, vp_cell_q, arrV_store]
  congr 1
  funext q
  rw [sB_B, if_pos rfl]
  by_cases hq : q = j
  · simp [updV, hq]
  · simp [updV, hq]
theorem x_iast (hx : p.tables.exec = Jvm.exec) (hb : c.code = cc) (hT : x_E w s) (hW : x_W w H0 S H locs) {a j : Nat} {i x : Int32} (hd : hD S 50 a) (hwr : 50 ≠ 51 ∨ hD S 99 a) (hj : i.toNatClampNeg = j) (hin : vp_in i (hL S a)) (hdg : decode cc pc = .ok (.iastore, 1))
    (kk : ∀ (S1 : HS) (H1 : Heap) (locs1 : List Loc), S1 = sA S a j x → x_W w H0 S1 H1 locs1 → W p l e R s m args below meth c H1 locs1 cells slots Q (F0 m (pc + 1) ls rest)) : W p l e R s m args below meth c H locs cells slots Q (F0 m pc ls (.int x :: .int i :: .ref a :: rest)) := by
  subst hj
  refine W.iast hx hb (hW.1.2.1 50 a hd (by omega) (by omega)) ((hT.1.1.2 50 (by omega) (by omega)).1 _ (fun j => .int (hA S a j))) (fun q => by cases q) (by show ¬ (i < 0 ∨ (arrV _ _ _).slots.size ≤ _); rw [arrV_size]; exact hin) rfl rfl hdg fun H1 e1 z oq => ?_
  refine kk _ H1 _ rfl (hW.setA hd (by omega) (by omega) hwr ?_ z oq)
  rw [e1]
  exact congrArg some x_cellA
theorem x_bast (hx : p.tables.exec = Jvm.exec) (hb : c.code = cc) (hT : x_E w s) (hW : x_W w H0 S H locs) {a j : Nat} {i x : Int32} (hd : hD S 51 a) (hwr : 51 ≠ 51 ∨ hD S 99 a) (hj : i.toNatClampNeg = j) (hin : vp_in i (hL S a)) (hdg : decode cc pc = .ok (.bastore, 1))
    (kk : ∀ (S1 : HS) (H1 : Heap) (locs1 : List Loc), S1 = sA S a j x.toInt8.toInt32 → x_W w H0 S1 H1 locs1 → W p l e R s m args below meth c H1 locs1 cells slots Q (F0 m (pc + 1) ls rest)) : W p l e R s m args below meth c H locs cells slots Q (F0 m pc ls (.int x :: .int i :: .ref a :: rest)) := by
  subst hj
  refine W.bast hx hb (hW.1.2.1 51 a hd (by omega) (by omega)) ((hT.1.1.2 51 (by omega) (by omega)).1 _ (fun j => .int (hA S a j))) (fun q => by cases q) (by show ¬ (i < 0 ∨ (arrV _ _ _).slots.size ≤ _); rw [arrV_size]; exact hin) rfl rfl hdg fun H1 e1 z oq => ?_
  refine kk _ H1 _ rfl (hW.setA hd (by omega) (by omega) hwr ?_ z oq)
  rw [e1]
  exact congrArg some x_cellA
/-- v may lie in an array of E -/
def xAny (E : String) (s : State) (H : Heap) (v : Nat) : Prop := ∃ cv : Cell, H[v]? = some cv ∧ cv.vm.isStatics = false ∧ (∃ kC : Class, s.vm.classes[cv.cls]? = some kC) ∧ ∀ comp : ClassId, s.vm.findClass E = some comp → s.vm.assignable cv.cls comp = true
theorem x_aast (hx : p.tables.exec = Jvm.exec) (hb : c.code = cc) (hT : x_E w s) (hW : x_W w H0 S H locs) (t : Nat) (ht : 60 ≤ t) (ht2 : t < 90) {E : String} (hty : x_ft t = .object E) {a j v : Nat} {i : Int32} (hd : hD S t a) (hwr : t ≠ 60 ∨ hD S 99 a) (hr : xAny E s H v) (hj : i.toNatClampNeg = j) (hin : vp_in i (hL S a)) (hdg : decode cc pc = .ok (.aastore, 1))
    (kk : ∀ (S1 : HS) (H1 : Heap) (locs1 : List Loc), S1 = sB S a j (some v) → x_W w H0 S1 H1 locs1 → W p l e R s m args below meth c H1 locs1 cells slots Q (F0 m (pc + 1) ls rest)) : W p l e R s m args below meth c H locs cells slots Q (F0 m pc ls (.ref v :: .int i :: .ref a :: rest)) := by
  subst hj
  have hlt : i.toNatClampNeg < hL S a := Nat.not_le.mp fun q => hin (Or.inr q)
  have h0 : ¬ i < 0 := fun q => hin (Or.inl q)
  obtain ⟨cellV, g1, g3, ⟨kC, hkC⟩, hasg⟩ := hr
  have hra := (hT.1.1.2 t (by omega) ht2).2
  rw [hty] at hra
  obtain ⟨kA, comp, k1, k2, k3, -⟩ := hra
  obtain ⟨kE, hkE, -⟩ := Vm.findClass_spec k3
  refine W.aast hx hb (hW.1.2.2.1 t a hd ht ht2) (fun q h => by cases h) (fun h => by cases h) k1 k2 rfl hkE ⟨h0, by show _ < (arrV _ _ _).slots.size; rw [arrV_size]; exact hlt⟩ g1 (fun q h => by rw [h] at g3; cases g3) hkC (hasg _ k3) rfl rfl hdg fun H1 e1 z oq => ?_
  refine kk _ H1 _ rfl (hW.setB hd ht ht2 hwr ?_ z oq)
  rw [e1]
  exact congrArg some (x_cellB (x := some v))
theorem x_aastN (hx : p.tables.exec = Jvm.exec) (hb : c.code = cc) (hT : x_E w s) (hW : x_W w H0 S H locs) (t : Nat) (ht : 60 ≤ t) (ht2 : t < 90) {E : String} (hty : x_ft t = .object E) {a j : Nat} {i : Int32} (hd : hD S t a) (hwr : t ≠ 60 ∨ hD S 99 a) (hj : i.toNatClampNeg = j) (hin : vp_in i (hL S a)) (hdg : decode cc pc = .ok (.aastore, 1))
    (kk : ∀ (S1 : HS) (H1 : Heap) (locs1 : List Loc), S1 = sB S a j none → x_W w H0 S1 H1 locs1 → W p l e R s m args below meth c H1 locs1 cells slots Q (F0 m (pc + 1) ls rest)) : W p l e R s m args below meth c H locs cells slots Q (F0 m pc ls (.null :: .int i :: .ref a :: rest)) := by
  subst hj
  have har := (hT.1.1.2 t (by omega) ht2).1 (hL S a) (fun j => va_rf (hB S a j))
  rw [hty] at har
  refine va_WaastN hx hb (hW.1.2.2.1 t a hd ht ht2) har (fun q => by cases q) (by show ¬ (i < 0 ∨ (arrV _ _ _).slots.size ≤ _); rw [arrV_size]; exact hin) rfl rfl hdg fun H1 e1 z oq => ?_
  refine kk _ H1 _ rfl (hW.setB hd ht ht2 hwr ?_ z oq)
  rw [e1]
  exact congrArg some (x_cellB (x := none))
theorem x_W.newO {H1 : Heap} {ci : Nat} (hT : x_E w s) (hW : x_W w s.heap S H locs) (hci : ci < 40) (ho : xO w ci (nO S ci H.size) H.size H1) (z : H1.size = H.size + 1) (oq : ∀ q : Nat, q < H.size → H1[q]? = H[q]?) : xNew S H.size ∧ x_W w s.heap (nO S ci H.size) H1 locs := by
  obtain ⟨g1, g2⟩ := hW.2.1
  have hn : xNew S H.size := hW.1.fresh g2 g1
  refine ⟨hn, hW.1.newO hn hci (hT.2 _ hW.2.2.1) ho oq, ⟨fun t a h => ?_, fun a h => ?_⟩, ⟨Nat.le_trans hW.2.2.1 (by omega), fun q h1 h2 => (oq q (Nat.lt_of_lt_of_le h1 hW.2.2.1)).trans (hW.2.2.2.1 q h1 h2), hW.2.2.2.2⟩⟩
  · rcases h with h | ⟨-, h⟩
    · exact g1 t a h
    · omega
  · rcases h with h | ⟨h, -⟩
    · have := g2 a h; omega
    · omega
theorem x_W.newA {H1 : Heap} {t n : Nat} (hT : x_E w s) (hW : x_W w s.heap S H locs) (ht : (50 ≤ t ∧ t < 60) ∨ (60 ≤ t ∧ t < 90)) (ho : H1[H.size]? = some (vp_cell (x_d w t) (n, if t < 60 then .inl (fun _ => 0) else .inr (.inr (.inr (.inr (fun _ => none))))))) (z : H1.size = H.size + 1) (oq : ∀ q : Nat, q < H.size → H1[q]? = H[q]?) : xNew S H.size ∧ x_W w s.heap (nA S t H.size n) H1 locs := by
  obtain ⟨g1, g2⟩ := hW.2.1
  have hn : xNew S H.size := hW.1.fresh g2 g1
  refine ⟨hn, hW.1.newA hn ht (hT.2 _ hW.2.2.1) ho oq, ⟨fun t a h => ?_, fun a h => ?_⟩, ⟨Nat.le_trans hW.2.2.1 (by omega), fun q h1 h2 => (oq q (Nat.lt_of_lt_of_le h1 hW.2.2.1)).trans (hW.2.2.2.1 q h1 h2), hW.2.2.2.2⟩⟩
  · rcases h with h | ⟨-, h⟩
    · exact g1 t a h
    · omega
  · rcases h with h | ⟨h, -⟩
    · have := g2 a h; omega
    · omega
theorem x_new {own C : String} {T : u_T} {N ci index mc ms : Nat} (hx : p.tables.exec = Jvm.exec) (hb : c.code = cc) (hown : s.vm.findClass own = some m.cls) (hts : ∀ w ∈ lw_all, w.before args s = true) (hT : x_E w s) (hW : x_W w s.heap S H locs) (hin : ∀ w ∈ u_ws C T N, w ∈ lw_all) (hc : xcl[ci]? = some (C, T, N)) (hci : ci < 40) (hN : (xlay ci).length = N) (ty : Nat → FieldType) (hty : ∀ k, k < N → parseFieldDescriptor (T k).2.2.1 = some (ty k)) (hdef : ∀ k b, (xlay ci)[k]? = some b → defaultValue (ty k) = if b = true then .null else .int 0)
    (hcl : Cond.classLink own index C ∈ lw_all) (hinst : Cond.instantiable C N ∈ lw_all) (hini : Cond.initialized C ∈ lw_all) (h1 : 1 ≤ mc) (h2 : N ≤ ms) (hc1 : cells + mc ≤ R.cells) (hs1 : slots + ms ≤ R.slots) (hdg : decode cc pc = .ok (.new index, 3))
    (kk : ∀ (q : Nat) (S1 : HS) (H1 : Heap) (cells1 slots1 : Nat), xNew S q → S1 = nO S ci q → x_W w s.heap S1 H1 locs → cells1 + (mc - 1) ≤ R.cells → slots1 + (ms - N) ≤ R.slots → W p l e R s m args below meth c H1 locs cells1 slots1 Q (F0 m (pc + 3) ls (.ref q :: rest))) : W p l e R s m args below meth c H locs cells slots Q (F0 m pc ls rest) := by
  have hKn := hT.1.1.1 ci _ hc
  refine W.newcK hx hb hown (hts _ hcl) (hts _ hinst) (hts _ hini) rfl hdg (by omega) (by omega) hKn.2.1 rfl fun H1 kC hkC e1 z1 o1 => ?_
  have hbo := u_born ty hts hin hKn hkC e1 hty
  obtain ⟨hn, hW1⟩ := x_W.newO (ci := ci) hT hW hci (H1 := H1) (by
    show t_OB _ _ _ _ _ _
    rw [hN]
    refine hbo.to fun k hk => ?_
    have hk2 : k < (xlay ci).length := by rw [hN]; exact hk
    obtain ⟨b, hbk⟩ : ∃ b, (xlay ci)[k]? = some b := ⟨_, List.getElem?_eq_getElem hk2⟩
    have hg := hfs_get (S := nO S ci H.size) (a := H.size) hbk
    rw [hdef k b hbk]
    simp only [vp_V, List.getD_eq_getElem?_getD, hg, Option.getD_some]
    cases b
    · simp [nO, hI]
    · simp [nO, hR, va_rf]) z1 o1
  exact kk _ _ H1 _ _ hn rfl hW1 (by omega) (by omega)
theorem x_newa {mc ms : Nat} (hx : p.tables.exec = Jvm.exec) (hb : c.code = cc) {atype : ArrayType} (t : Nat) (hta : (atype = .int ∧ t = 50) ∨ (atype = .byte ∧ t = 51)) (harr : (Cond.arrayClass (newarray.typeOf atype)).before args s = true) (hT : x_E w s) (hW : x_W w s.heap S H locs)
    {n : Int32} (hn : ¬ n < 0) (hbig : n.toNatClampNeg ≤ 1000000) (h1 : 1 ≤ mc) (h2 : n.toNatClampNeg ≤ ms) (hc1 : cells + mc ≤ R.cells) (hs1 : slots + ms ≤ R.slots) (hdg : decode cc pc = .ok (.newarray atype, 2))
    (kk : ∀ (q : Nat) (S1 : HS) (H1 : Heap) (cells1 slots1 : Nat), xNew S q → S1 = nA S t q n.toNatClampNeg → x_W w s.heap S1 H1 locs → cells1 + (mc - 1) ≤ R.cells → slots1 + (ms - n.toNatClampNeg) ≤ R.slots → W p l e R s m args below meth c H1 locs cells1 slots1 Q (F0 m (pc + 2) ls (.ref q :: rest))) : W p l e R s m args below meth c H locs cells slots Q (F0 m pc ls (.int n :: rest)) := by
  refine va_newaK hx hb harr rfl hdg rfl hn rfl (by rcases hta with ⟨rfl, -⟩ | ⟨rfl, -⟩ <;> simp [newarray.typeOf, componentBytes] <;> omega) (by omega) (by omega) rfl fun H1 cA e1 z1 o1 hAr hNm => ?_
  have hcA : cA = x_d w t := by
    rcases hta with ⟨rfl, rfl⟩ | ⟨rfl, rfl⟩
    · have h9 := (hT.1.1.2 50 (by omega) (by omega)).2
      exact Option.some.inj (hNm.symm.trans h9)
    · have h9 := (hT.1.1.2 51 (by omega) (by omega)).2
      exact Option.some.inj (hNm.symm.trans h9)
  subst hcA
  have hz : defaultValue (newarray.typeOf atype) = .int 0 := by rcases hta with ⟨rfl, -⟩ | ⟨rfl, -⟩ <;> rfl
  obtain ⟨hnw, hW1⟩ := x_W.newA (t := t) (n := n.toNatClampNeg) hT hW (by omega) (H1 := H1) (by
    rw [e1, hz, if_pos (by omega)]
    rfl) z1 o1
  exact kk _ _ H1 _ _ hnw rfl hW1 (by omega) (by omega)
theorem x_newq {mc ms : Nat} (hx : p.tables.exec = Jvm.exec) (hb : c.code = cc) {own E : String} {index : Nat} (hown : s.vm.findClass own = some m.cls) (hts : ∀ w ∈ lw_all, w.before args s = true) (hcl : Cond.classLink own index E ∈ lw_all) (hov : Cond.arrayOver (.object E) ∈ lw_tbl) (hT : x_E w s) (hW : x_W w s.heap S H locs) (t : Nat) (ht : 60 ≤ t) (ht2 : t < 90) (hty : x_ft t = .object E)
    {n : Int32} (hn : ¬ n < 0) (hbig : n.toNatClampNeg ≤ 1000000) (h1 : 1 ≤ mc) (h2 : n.toNatClampNeg ≤ ms) (hc1 : cells + mc ≤ R.cells) (hs1 : slots + ms ≤ R.slots) (hdg : decode cc pc = .ok (.anewarray index, 3))
    (kk : ∀ (q : Nat) (S1 : HS) (H1 : Heap) (cells1 slots1 : Nat), xNew S q → S1 = nA S t q n.toNatClampNeg → x_W w s.heap S1 H1 locs → cells1 + (mc - 1) ≤ R.cells → slots1 + (ms - n.toNatClampNeg) ≤ R.slots → W p l e R s m args below meth c H1 locs cells1 slots1 Q (F0 m (pc + 3) ls (.ref q :: rest))) : W p l e R s m args below meth c H locs cells slots Q (F0 m pc ls (.int n :: rest)) := by
  refine W.anew hx hb hown (hts _ hcl) (va_AO.use (hT.1.2.1.2.1 _ hov)) rfl hdg rfl hn (by omega) (by omega) (by omega) fun cA kA comp f1 f2 f3 f4 => ?_
  generalize hH1 : H.push ({ cls := cA, slots := Array.replicate n.toNatClampNeg .null, vm := .none } : Cell) = H1
  have z1 : H1.size = H.size + 1 := by rw [← hH1, Array.size_push]
  have e1 : H1[H.size]? = some (arrV cA n.toNatClampNeg (fun _ => .null)) := by rw [← hH1, Array.getElem?_push_size, ← arrV_new]
  have o1 : ∀ q : Nat, q < H.size → H1[q]? = H[q]? := fun q hq => by rw [← hH1, Array.getElem?_push, if_neg (Nat.ne_of_lt hq)]
  have hra := (hT.1.1.2 t (by omega) ht2).2
  rw [hty] at hra
  obtain ⟨kA', comp', -, -, -, g4⟩ := hra
  have hcA : cA = x_d w t := Option.some.inj (f1.symm.trans g4)
  subst hcA
  obtain ⟨hnw, hW1⟩ := x_W.newA (t := t) (n := n.toNatClampNeg) hT hW (Or.inr ⟨ht, ht2⟩) (H1 := H1) (by
    rw [e1, if_neg (by omega)]
    rfl) z1 o1
  exact kk _ _ H1 _ _ hnw rfl hW1 (by omega) (by omega)
/-- an object, as a receiver -/
theorem x_recv {C : String} {T : u_T} {N ci : Nat} (hT : x_E w s) (hW : x_W w H0 S H locs) (hc : xcl[ci]? = some (C, T, N)) (hci : ci < 40) {a : Nat} (hd : hD S ci a) : ∃ cell : Cell, H[a]? = some cell ∧ cell.vm.isStatics = false ∧ s.vm.findClass C = some cell.cls := by
  obtain ⟨cell, g1, g2, g3, -⟩ := hW.1.1 ci a hd hci
  exact ⟨cell, g1, by rw [g3]; rfl, by rw [g2]; exact (hT.1.1.1 ci _ hc).2.1⟩
theorem xAny.of {C E : String} {T : u_T} {N ci : Nat} (hT : x_E w s) (hW : x_W w H0 S H locs) (hc : xcl[ci]? = some (C, T, N)) (hci : ci < 40) {a : Nat} (hd : hD S ci a) (hca : C = E ∨ Cond.castable C E ∈ lw_tbl) : xAny E s H a := by
  obtain ⟨cell, h1, h2, h3⟩ := x_recv hT hW hc hci hd
  obtain ⟨kC, hkC, -⟩ := Vm.findClass_spec h3
  refine ⟨cell, h1, h2, ⟨kC, hkC⟩, fun comp hcomp => ?_⟩
  rcases hca with rfl | hca
  · rw [h3] at hcomp
    cases hcomp
    have := va_assign (hT.1.1.1 ci _ hc).2
    have e1 := (hT.1.1.1 ci _ hc).2.1
    rw [h3] at e1
    have e2 : cell.cls = x_c w ci := Option.some.inj e1
    rw [e2]
    exact this
  · obtain ⟨c3, t3, w1, w2, w3⟩ := Cond.castable_spec (args := #[]) (va_Nw.use rfl (hT.1.2.1.1 _ hca rfl))
    cases Option.some.inj (w1.symm.trans h3)
    cases Option.some.inj (w2.symm.trans hcomp)
    exact w3
theorem x_castS {own C : String} {T : u_T} {N ci index : Nat} (hx : p.tables.exec = Jvm.exec) (hb : c.code = cc) (hown : s.vm.findClass own = some m.cls) (hts : ∀ w ∈ lw_all, w.before args s = true) (hT : x_E w s) (hW : x_W w H0 S H locs) (hc : xcl[ci]? = some (C, T, N)) (hci : ci < 40) (hl : Cond.classLink own index C ∈ lw_all) {a : Nat} (hd : hD S ci a) (hdg : decode cc pc = .ok (.checkcast index, 3))
    (kk : W p l e R s m args below meth c H locs cells slots Q (F0 m (pc + 3) ls (.ref a :: rest))) : W p l e R s m args below meth c H locs cells slots Q (F0 m pc ls (.ref a :: rest)) :=
  va_castS hx hb hown (hts _ hl) (hT.1.1.1 ci _ hc).2 (x_recv hT hW hc hci hd) hdg kk
theorem x_instS {own C : String} {T : u_T} {N ci index : Nat} (hx : p.tables.exec = Jvm.exec) (hb : c.code = cc) (hown : s.vm.findClass own = some m.cls) (hts : ∀ w ∈ lw_all, w.before args s = true) (hT : x_E w s) (hW : x_W w H0 S H locs) (hc : xcl[ci]? = some (C, T, N)) (hci : ci < 40) (hl : Cond.classLink own index C ∈ lw_all) {a : Nat} (hd : hD S ci a) (hdg : decode cc pc = .ok (.instanceof index, 3))
    (kk : W p l e R s m args below meth c H locs cells slots Q (F0 m (pc + 3) ls (.int 1 :: rest))) : W p l e R s m args below meth c H locs cells slots Q (F0 m pc ls (.ref a :: rest)) :=
  va_instS hx hb hown (hts _ hl) (hT.1.1.1 ci _ hc).2 (x_recv hT hW hc hci hd) hdg kk
theorem xrV {own C : String} {T : u_T} {N ci : Nat} {y : MethodName} {by' : ByteArray} {mL nL n d index mc1 ms1 : Nat} {ret : Option FieldType} {av : List Value} {b : Nat} {K : Option Value → HS → Prop} (hE : CallFix p m c cc nL s args lw_all own) (hT : x_E w s) (hW : x_W w s.heap S H locs) (hc : xcl[ci]? = some (C, T, N)) (hci : ci < 40) (hd9 : hD S ci b) (hM : x_M l w y by' mL ret d mc1 ms1 (.ref b :: av) S K)
    (hG : GoodIn lw_all (wsV own index C y (ws_ y by' mL ret))) (hd : y.cls = C ∧ y.cls ≠ "java/lang/invoke/MethodHandle" ∧ y.cls ≠ "java/lang/invoke/VarHandle" ∧ (parseMethodDescriptor y.desc).map (fun d => d.parameters.length) = some n) (hR : d + 13 ≤ R.frames ∧ 8 + (mL + 11) + (128 * d + 4096) ≤ R.locals) (hf : cells + mc1 ≤ R.cells ∧ slots + ms1 ≤ R.slots)
    (hn : av.length = n) (hs : ls.size = nL) (hst : st0 = av.reverse ++ .ref b :: rest) (hrm : (rest.map fun v => v.category).sum ≤ 8) (hdg : decode cc pc = .ok (.invokevirtual index, 3)) : va_Run p l e R s m args below meth c H locs cells slots mc1 ms1 (F0 m pc ls st0) rest (x_Q w K (Value.ref b :: av).toArray) (x_A w) :=
  va_runV (As := av) (rest := rest) hE hM (cwV n hE.2.2.2.2 hG rfl rfl rfl hd ⟨hR.1, hR.2⟩) ⟨x_I.blind, x_recv hT hW hc hci hd9, fun U hU hw => ⟨rfl, x_W.I hT hW hU hw⟩⟩ rfl hn hs hst (lv_room hrm) hdg hf
theorem xrS {own : String} {y : MethodName} {by' : ByteArray} {mL nL n d index mc1 ms1 : Nat} {ret : Option FieldType} {av : List Value} {K : Option Value → HS → Prop} (hE : CallFix p m c cc nL s args lw_all own) (hT : x_E w s) (hW : x_W w s.heap S H locs) (hM : x_M l w y by' mL ret d mc1 ms1 av S K)
    (hG : GoodIn lw_all (va_wsS own index y (ws_ y by' mL ret))) (hd : y.cls ≠ "java/lang/invoke/MethodHandle" ∧ y.cls ≠ "java/lang/invoke/VarHandle" ∧ (parseMethodDescriptor y.desc).map (fun d => d.parameters.length) = some n) (hR : d + 13 ≤ R.frames ∧ 8 + (mL + 11) + (128 * d + 4096) ≤ R.locals) (hf : cells + mc1 ≤ R.cells ∧ slots + ms1 ≤ R.slots)
    (hn : av.length = n) (hs : ls.size = nL) (hst : st0 = av.reverse ++ rest) (hrm : (rest.map fun v => v.category).sum ≤ 8) (hdg : decode cc pc = .ok (.invokestatic index, 3)) : va_Run p l e R s m args below meth c H locs cells slots mc1 ms1 (F0 m pc ls st0) rest (x_Q w K av.toArray) (x_A w) :=
  va_runS (As := av) (rest := rest) hE hM (va_cwS n hE.2.2.2.2 hG rfl rfl rfl hd ⟨hR.1, hR.2⟩) ⟨x_I.blind, fun U hU hw => ⟨rfl, x_W.I hT hW hU hw⟩⟩ rfl hn hs hst (lv_room hrm) hdg hf
theorem xrI {own : String} {y : MethodName} {by' : ByteArray} {mL nL n d index mc1 ms1 : Nat} {av : List Value} {b : Nat} {K : Option Value → HS → Prop} (hE : CallFix p m c cc nL s args lw_all own) (hT : x_E w s) (hW : x_W w s.heap S H locs) (hM : x_M l w y by' mL none d mc1 ms1 (.ref b :: av) S K)
    (hcode : Cond.code y by' mL none ∈ lw_all) (hini : Cond.initialized y.cls ∈ lw_all) (hlink : Cond.methodLink own index y ∈ lw_all) (hinst : Cond.instanceMethod y ∈ lw_all) (hy : y.name = "<init>") (hd : y.cls ≠ "java/lang/invoke/MethodHandle" ∧ y.cls ≠ "java/lang/invoke/VarHandle" ∧ (parseMethodDescriptor y.desc).map (fun d => d.parameters.length) = some n) (hR : d + 13 ≤ R.frames ∧ 8 + (mL + 11) + (128 * d + 4096) ≤ R.locals) (hf : cells + mc1 ≤ R.cells ∧ slots + ms1 ≤ R.slots)
    (hn : av.length = n) (hs : ls.size = nL) (hst : st0 = av.reverse ++ .ref b :: rest) (hrm : (rest.map fun v => v.category).sum ≤ 8) (hdg : decode cc pc = .ok (.invokespecial index, 3)) : va_Run p l e R s m args below meth c H locs cells slots mc1 ms1 (F0 m pc ls st0) rest (x_Q w K (Value.ref b :: av).toArray) (x_A w) :=
  va_runI (As := av) (rest := rest) hE hM (cwI n hE.2.2.2.2 (lw_meth hcode) rfl rfl rfl (hE.2.2.2.2 _ hini) (hE.2.2.2.2 _ hlink) (hE.2.2.2.2 _ hinst) hy hd ⟨hR.1, hR.2⟩) ⟨x_I.blind, fun U hU hw => ⟨rfl, x_W.I hT hW hU hw⟩⟩ rfl hn hs hst (lv_room hrm) hdg hf
theorem xrF {own C : String} {T : u_T} {N ci count : Nat} {x y : MethodName} {by' : ByteArray} {mL nL n d index mc1 ms1 : Nat} {ret : Option FieldType} {av : List Value} {b : Nat} {K : Option Value → HS → Prop} (hE : CallFix p m c cc nL s args lw_all own) (hT : x_E w s) (hW : x_W w s.heap S H locs) (hc : xcl[ci]? = some (C, T, N)) (hci : ci < 40) (hd9 : hD S ci b) (hM : x_M l w y by' mL ret d mc1 ms1 (.ref b :: av) S K)
    (hG : GoodIn lw_all (va_wsF own index C x y (ws_ y by' mL ret))) (hF : va_Fw C x y s) (hd : x.cls ≠ "java/lang/invoke/MethodHandle" ∧ x.cls ≠ "java/lang/invoke/VarHandle" ∧ (parseMethodDescriptor x.desc).map (fun d => d.parameters.length) = some n) (hR : d + 13 ≤ R.frames ∧ 8 + (mL + 11) + (128 * d + 4096) ≤ R.locals) (hf : cells + mc1 ≤ R.cells ∧ slots + ms1 ≤ R.slots)
    (hn : av.length = n) (hs : ls.size = nL) (hst : st0 = av.reverse ++ .ref b :: rest) (hrm : (rest.map fun v => v.category).sum ≤ 8) (hdg : decode cc pc = .ok (.invokeinterface index count, 5)) : va_Run5 p l e R s m args below meth c H locs cells slots mc1 ms1 (F0 m pc ls st0) rest (x_Q w K (Value.ref b :: av).toArray) (x_A w) :=
  va_runF (As := av) (rest := rest) (hT.1.1.1 ci _ hc).2 hE hM (va_cwF n hE.2.2.2.2 hG rfl rfl rfl hF hd ⟨hR.1, hR.2⟩) ⟨x_I.blind, x_recv hT hW hc hci hd9, fun U hU hw => ⟨rfl, x_W.I hT hW hU hw⟩⟩ rfl hn hs hst (lv_room hrm) hdg hf
theorem xFw {C : String} {x y : MethodName} (hT : x_E w s) (h1 : Cond.declares x ∈ lw_tbl) (h2 : Cond.interfaceMethod x.cls x.cls x.name x.desc ∈ lw_tbl) (h3 : Cond.publicMethod y ∈ lw_tbl) (h4 : Cond.unhidden C x.name x.desc ∈ lw_tbl) (h5 : Cond.castable C x.cls ∈ lw_tbl) (hm : (x.cls == x.cls && x.cls != "java/lang/invoke/MethodHandle" && x.cls != "java/lang/invoke/VarHandle") = true) : va_Fw C x y s := by
  refine ⟨hT.1.2.1.1 _ h1 rfl, hT.1.2.1.1 _ h2 ?_, hT.1.2.1.1 _ h3 rfl, hT.1.2.1.1 _ h4 rfl, hT.1.2.1.1 _ h5 rfl⟩
  show (true && ((false || (x.cls == x.cls && x.cls != "java/lang/invoke/MethodHandle" && x.cls != "java/lang/invoke/VarHandle")) || false || _)) = true
  rw [hm]
  rfl
theorem xrNV {own C host : String} {T : u_T} {N ci : Nat} {y : MethodName} {by' : ByteArray} {mL nL n d index mc1 ms1 : Nat} {ret : Option FieldType} {av : List Value} {b : Nat} {K : Option Value → HS → Prop} (hE : CallFix p m c cc nL s args lw_all own) (hT : x_E w s) (hW : x_W w s.heap S H locs) (hc : xcl[ci]? = some (C, T, N)) (hci : ci < 40) (hd9 : hD S ci b) (hM : x_M l w y by' mL ret d mc1 ms1 (.ref b :: av) S K)
    (hcode : Cond.code y by' mL ret ∈ lw_all) (hini : Cond.initialized y.cls ∈ lw_all) (hlink : Cond.methodLinkNest own index y host ∈ lw_tbl) (hinst : Cond.instanceMethod y ∈ lw_all) (hsel : Cond.selects C y y ∈ lw_all) (hd : y.cls ≠ "java/lang/invoke/MethodHandle" ∧ y.cls ≠ "java/lang/invoke/VarHandle" ∧ (parseMethodDescriptor y.desc).map (fun d => d.parameters.length) = some n) (hR : d + 13 ≤ R.frames ∧ 8 + (mL + 11) + (128 * d + 4096) ≤ R.locals) (hf : cells + mc1 ≤ R.cells ∧ slots + ms1 ≤ R.slots)
    (hn : av.length = n) (hs : ls.size = nL) (hst : st0 = av.reverse ++ .ref b :: rest) (hrm : (rest.map fun v => v.category).sum ≤ 8) (hdg : decode cc pc = .ok (.invokevirtual index, 3)) : va_Run p l e R s m args below meth c H locs cells slots mc1 ms1 (F0 m pc ls st0) rest (x_Q w K (Value.ref b :: av).toArray) (x_A w) :=
  va_runVN (As := av) (rest := rest) hE hM ⟨va_cnB n hE.2.2.2.2 (lw_meth hcode) rfl rfl rfl (hT.1.2.1.1 _ hlink rfl) (hE.2.2.2.2 _ hini) hd ⟨hR.1, hR.2⟩, hE.2.2.2.2 _ hinst, hE.2.2.2.2 _ hsel⟩ ⟨x_I.blind, x_recv hT hW hc hci hd9, fun U hU hw => ⟨rfl, x_W.I hT hW hU hw⟩⟩ rfl hn hs hst (lv_room hrm) hdg hf
theorem xrNS {own host : String} {y : MethodName} {by' : ByteArray} {mL nL n d index mc1 ms1 : Nat} {ret : Option FieldType} {av : List Value} {K : Option Value → HS → Prop} (hE : CallFix p m c cc nL s args lw_all own) (hT : x_E w s) (hW : x_W w s.heap S H locs) (hM : x_M l w y by' mL ret d mc1 ms1 av S K)
    (hcode : Cond.code y by' mL ret ∈ lw_all) (hini : Cond.initialized y.cls ∈ lw_all) (hlink : Cond.methodLinkNest own index y host ∈ lw_tbl) (hstt : Cond.static y ∈ lw_all) (hd : y.cls ≠ "java/lang/invoke/MethodHandle" ∧ y.cls ≠ "java/lang/invoke/VarHandle" ∧ (parseMethodDescriptor y.desc).map (fun d => d.parameters.length) = some n) (hR : d + 13 ≤ R.frames ∧ 8 + (mL + 11) + (128 * d + 4096) ≤ R.locals) (hf : cells + mc1 ≤ R.cells ∧ slots + ms1 ≤ R.slots)
    (hn : av.length = n) (hs : ls.size = nL) (hst : st0 = av.reverse ++ rest) (hrm : (rest.map fun v => v.category).sum ≤ 8) (hdg : decode cc pc = .ok (.invokestatic index, 3)) : va_Run p l e R s m args below meth c H locs cells slots mc1 ms1 (F0 m pc ls st0) rest (x_Q w K av.toArray) (x_A w) :=
  va_runSN (As := av) (rest := rest) hE hM ⟨va_cnB n hE.2.2.2.2 (lw_meth hcode) rfl rfl rfl (hT.1.2.1.1 _ hlink rfl) (hE.2.2.2.2 _ hini) hd ⟨hR.1, hR.2⟩, hE.2.2.2.2 _ hstt, trivial⟩ ⟨x_I.blind, fun U hU hw => ⟨rfl, x_W.I hT hW hU hw⟩⟩ rfl hn hs hst (lv_room hrm) hdg hf
theorem xrNI {own host : String} {y : MethodName} {by' : ByteArray} {mL nL n d index mc1 ms1 : Nat} {av : List Value} {b : Nat} {K : Option Value → HS → Prop} (hE : CallFix p m c cc nL s args lw_all own) (hT : x_E w s) (hW : x_W w s.heap S H locs) (hM : x_M l w y by' mL none d mc1 ms1 (.ref b :: av) S K)
    (hcode : Cond.code y by' mL none ∈ lw_all) (hini : Cond.initialized y.cls ∈ lw_all) (hlink : Cond.methodLinkNest own index y host ∈ lw_tbl) (hinst : Cond.instanceMethod y ∈ lw_all) (hy : y.name = "<init>") (hd : y.cls ≠ "java/lang/invoke/MethodHandle" ∧ y.cls ≠ "java/lang/invoke/VarHandle" ∧ (parseMethodDescriptor y.desc).map (fun d => d.parameters.length) = some n) (hR : d + 13 ≤ R.frames ∧ 8 + (mL + 11) + (128 * d + 4096) ≤ R.locals) (hf : cells + mc1 ≤ R.cells ∧ slots + ms1 ≤ R.slots)
    (hn : av.length = n) (hs : ls.size = nL) (hst : st0 = av.reverse ++ .ref b :: rest) (hrm : (rest.map fun v => v.category).sum ≤ 8) (hdg : decode cc pc = .ok (.invokespecial index, 3)) : va_Run p l e R s m args below meth c H locs cells slots mc1 ms1 (F0 m pc ls st0) rest (x_Q w K (Value.ref b :: av).toArray) (x_A w) :=
  va_runIN (As := av) (rest := rest) hE hM ⟨va_cnB n hE.2.2.2.2 (lw_meth hcode) rfl rfl rfl (hT.1.2.1.1 _ hlink rfl) (hE.2.2.2.2 _ hini) hd ⟨hR.1, hR.2⟩, hy, hE.2.2.2.2 _ hinst⟩ ⟨x_I.blind, fun U hU hw => ⟨rfl, x_W.I hT hW hU hw⟩⟩ rfl hn hs hst (lv_room hrm) hdg hf
/-- behind a call -/
theorem xgo {mc1 ms1 : Nat} {a : Array Value} {K : Option Value → HS → Prop} (hr : va_Run p l e R s m args below meth c H locs cells slots mc1 ms1 (F0 m pc ls st0) rest (x_Q w K a) (x_A w)) (hW : x_W w s.heap S H locs)
    (kk : ∀ (v : Option Value) (S1 : HS) (H1 : Heap) (locs1 : List Loc), K v S1 → x_W w s.heap S1 H1 locs1 → W p l e R s m args below meth c H1 locs1 (cells + mc1) (slots + ms1) Q (F0 m (pc + 3) ls (v.toList ++ rest))) : W p l e R s m args below meth c H locs cells slots Q (F0 m pc ls st0) := by
  intro T hT X
  obtain ⟨v, st₀, t, T', L, h0, X', hL, e1, e2, ⟨⟨r, S1, hv, hp, hI⟩, hF⟩, st⟩ := hr T hT X
  cases hv
  obtain ⟨k1, k2, k3⟩ := vx_keep (A0 := x_A w) (A1 := x_A w) h0 e1 hW.2.2 (fun _ _ h => h) (fun _ h => h) hL hF
  obtain ⟨t2, a1, b1⟩ := kk v S1 T'.heap (locs ++ L) hp ⟨by rw [e1]; exact hI.1, by rw [e1]; exact hI.2.1, k3⟩ T' rfl X'
  exact ⟨t2, st t2 a1, b1⟩
theorem xgo5 {mc1 ms1 : Nat} {a : Array Value} {K : Option Value → HS → Prop} (hr : va_Run5 p l e R s m args below meth c H locs cells slots mc1 ms1 (F0 m pc ls st0) rest (x_Q w K a) (x_A w)) (hW : x_W w s.heap S H locs)
    (kk : ∀ (v : Option Value) (S1 : HS) (H1 : Heap) (locs1 : List Loc), K v S1 → x_W w s.heap S1 H1 locs1 → W p l e R s m args below meth c H1 locs1 (cells + mc1) (slots + ms1) Q (F0 m (pc + 5) ls (v.toList ++ rest))) : W p l e R s m args below meth c H locs cells slots Q (F0 m pc ls st0) := by
  intro T hT X
  obtain ⟨v, st₀, t, T', L, h0, X', hL, e1, e2, ⟨⟨r, S1, hv, hp, hI⟩, hF⟩, st⟩ := hr T hT X
  cases hv
  obtain ⟨k1, k2, k3⟩ := vx_keep (A0 := x_A w) (A1 := x_A w) h0 e1 hW.2.2 (fun _ _ h => h) (fun _ h => h) hL hF
  obtain ⟨t2, a1, b1⟩ := kk v S1 T'.heap (locs ++ L) hp ⟨by rw [e1]; exact hI.1, by rw [e1]; exact hI.2.1, k3⟩ T' rfl X'
  exact ⟨t2, st t2 a1, b1⟩
/-- what is thrown lies in the heap -/
abbrev xThr (s : State) (H : Heap) (E : String) (q : Addr) : Prop := ∃ ce : Cell, H[q]? = some ce ∧ ce.vm = .none ∧ s.vm.findClass E = some ce.cls
theorem xxgo {mc1 ms1 : Nat} {a : Array Value} {K : Option Value → HS → Prop} {px : String → Addr → HS → Prop} (hr : vx_Run p l e R s m args below meth c H locs cells slots mc1 ms1 (F0 m pc ls st0) rest (x_Q w K a) (x_X w px) (x_A w)) (hW : x_W w s.heap S H locs)
    (kx : ∀ (E : String) (q : Addr) (S1 : HS) (H1 : Heap) (locs1 : List Loc), px E q S1 → x_W w s.heap S1 H1 locs1 → xThr s H1 E q → vx_W p l e R s m args below meth c H1 locs1 (cells + mc1) (slots + ms1) Q (F0 m pc ls rest) q)
    (kk : ∀ (v : Option Value) (S1 : HS) (H1 : Heap) (locs1 : List Loc), K v S1 → x_W w s.heap S1 H1 locs1 → W p l e R s m args below meth c H1 locs1 (cells + mc1) (slots + ms1) Q (F0 m (pc + 3) ls (v.toList ++ rest))) : W p l e R s m args below meth c H locs cells slots Q (F0 m pc ls st0) := by
  intro T hT X
  rcases hr T hT X with ⟨v, st₀, t, T', L, h0, X', hL, e1, e2, ⟨⟨r, S1, hv, hp, hI⟩, hF⟩, st⟩ | ⟨q, st₀, t, T', L, E, ce, h0, X', hL, e1, e2, ⟨⟨S1, hp, hI⟩, hF⟩, hce, hcv, hcl, st⟩
  · cases hv
    obtain ⟨k1, k2, k3⟩ := vx_keep (A0 := x_A w) (A1 := x_A w) h0 e1 hW.2.2 (fun _ _ h => h) (fun _ h => h) hL hF
    obtain ⟨t2, a1, b1⟩ := kk v S1 T'.heap (locs ++ L) hp ⟨by rw [e1]; exact hI.1, by rw [e1]; exact hI.2.1, k3⟩ T' rfl X'
    exact ⟨t2, st t2 a1, b1⟩
  · obtain ⟨k1, k2, k3⟩ := vx_keep (A0 := x_A w) (A1 := x_A w) h0 e1 hW.2.2 (fun _ _ h => h) (fun _ h => h) hL hF
    obtain ⟨t2, a1, b1⟩ := kx E q S1 T'.heap (locs ++ L) hp ⟨by rw [e1]; exact hI.1, by rw [e1]; exact hI.2.1, k3⟩ ⟨ce, by rw [e1]; exact hce, hcv, hcl⟩ T' rfl X'
    exact ⟨t2, st.trans a1, b1⟩
theorem xqi0 {a : Array Value} {post : Int32 → HS → Prop} (hr : va_Run p l e R s m args below meth c H locs cells slots 0 0 (F0 m pc ls st0) rest (x_Q w (xKi post) a) (x_A w)) (hW : x_W w s.heap S H locs)
    (kk : ∀ (r : Int32) (S1 : HS) (H1 : Heap) (locs1 : List Loc), post r S1 → x_W w s.heap S1 H1 locs1 → W p l e R s m args below meth c H1 locs1 cells slots Q (F0 m (pc + 3) ls (.int r :: rest))) : W p l e R s m args below meth c H locs cells slots Q (F0 m pc ls st0) := by
  refine xgo hr hW fun v S1 H1 locs1 hK hW1 => ?_
  obtain ⟨r, rfl, hp⟩ := hK
  exact kk r S1 H1 locs1 hp hW1
theorem xqi {a : Array Value} {mc ms mc1 ms1 : Nat} {post : Int32 → HS → Prop} (hr : va_Run p l e R s m args below meth c H locs cells slots mc1 ms1 (F0 m pc ls st0) rest (x_Q w (xKi post) a) (x_A w)) (hW : x_W w s.heap S H locs) (h1 : mc1 ≤ mc) (h2 : ms1 ≤ ms) (hc1 : cells + mc ≤ R.cells) (hs1 : slots + ms ≤ R.slots)
    (kk : ∀ (r : Int32) (S1 : HS) (H1 : Heap) (locs1 : List Loc) (cells1 slots1 : Nat), post r S1 → x_W w s.heap S1 H1 locs1 → cells1 + (mc - mc1) ≤ R.cells → slots1 + (ms - ms1) ≤ R.slots → W p l e R s m args below meth c H1 locs1 cells1 slots1 Q (F0 m (pc + 3) ls (.int r :: rest))) : W p l e R s m args below meth c H locs cells slots Q (F0 m pc ls st0) := by
  refine xgo hr hW fun v S1 H1 locs1 hK hW1 => ?_
  obtain ⟨r, rfl, hp⟩ := hK
  exact kk r S1 H1 locs1 _ _ hp hW1 (by omega) (by omega)
theorem xqi50 {a : Array Value} {post : Int32 → HS → Prop} (hr : va_Run5 p l e R s m args below meth c H locs cells slots 0 0 (F0 m pc ls st0) rest (x_Q w (xKi post) a) (x_A w)) (hW : x_W w s.heap S H locs)
    (kk : ∀ (r : Int32) (S1 : HS) (H1 : Heap) (locs1 : List Loc), post r S1 → x_W w s.heap S1 H1 locs1 → W p l e R s m args below meth c H1 locs1 cells slots Q (F0 m (pc + 5) ls (.int r :: rest))) : W p l e R s m args below meth c H locs cells slots Q (F0 m pc ls st0) := by
  refine xgo5 hr hW fun v S1 H1 locs1 hK hW1 => ?_
  obtain ⟨r, rfl, hp⟩ := hK
  exact kk r S1 H1 locs1 hp hW1
theorem xqi5 {a : Array Value} {mc ms mc1 ms1 : Nat} {post : Int32 → HS → Prop} (hr : va_Run5 p l e R s m args below meth c H locs cells slots mc1 ms1 (F0 m pc ls st0) rest (x_Q w (xKi post) a) (x_A w)) (hW : x_W w s.heap S H locs) (h1 : mc1 ≤ mc) (h2 : ms1 ≤ ms) (hc1 : cells + mc ≤ R.cells) (hs1 : slots + ms ≤ R.slots)
    (kk : ∀ (r : Int32) (S1 : HS) (H1 : Heap) (locs1 : List Loc) (cells1 slots1 : Nat), post r S1 → x_W w s.heap S1 H1 locs1 → cells1 + (mc - mc1) ≤ R.cells → slots1 + (ms - ms1) ≤ R.slots → W p l e R s m args below meth c H1 locs1 cells1 slots1 Q (F0 m (pc + 5) ls (.int r :: rest))) : W p l e R s m args below meth c H locs cells slots Q (F0 m pc ls st0) := by
  refine xgo5 hr hW fun v S1 H1 locs1 hK hW1 => ?_
  obtain ⟨r, rfl, hp⟩ := hK
  exact kk r S1 H1 locs1 _ _ hp hW1 (by omega) (by omega)
theorem xxqi {a : Array Value} {mc ms mc1 ms1 : Nat} {post : Int32 → HS → Prop} {px : String → Addr → HS → Prop} (hr : vx_Run p l e R s m args below meth c H locs cells slots mc1 ms1 (F0 m pc ls st0) rest (x_Q w (xKi post) a) (x_X w px) (x_A w)) (hW : x_W w s.heap S H locs) (h1 : mc1 ≤ mc) (h2 : ms1 ≤ ms) (hc1 : cells + mc ≤ R.cells) (hs1 : slots + ms ≤ R.slots)
    (kx : ∀ (E : String) (q : Addr) (S1 : HS) (H1 : Heap) (locs1 : List Loc) (cells1 slots1 : Nat), px E q S1 → x_W w s.heap S1 H1 locs1 → xThr s H1 E q → cells1 + (mc - mc1) ≤ R.cells → slots1 + (ms - ms1) ≤ R.slots → vx_W p l e R s m args below meth c H1 locs1 cells1 slots1 Q (F0 m pc ls rest) q)
    (kk : ∀ (r : Int32) (S1 : HS) (H1 : Heap) (locs1 : List Loc) (cells1 slots1 : Nat), post r S1 → x_W w s.heap S1 H1 locs1 → cells1 + (mc - mc1) ≤ R.cells → slots1 + (ms - ms1) ≤ R.slots → W p l e R s m args below meth c H1 locs1 cells1 slots1 Q (F0 m (pc + 3) ls (.int r :: rest))) : W p l e R s m args below meth c H locs cells slots Q (F0 m pc ls st0) := by
  refine xxgo hr hW (fun E q S1 H1 locs1 hp hW1 ht => kx E q S1 H1 locs1 _ _ hp hW1 ht (by omega) (by omega)) fun v S1 H1 locs1 hK hW1 => ?_
  obtain ⟨r, rfl, hp⟩ := hK
  exact kk r S1 H1 locs1 _ _ hp hW1 (by omega) (by omega)
theorem xql0 {a : Array Value} {post : Int64 → HS → Prop} (hr : va_Run p l e R s m args below meth c H locs cells slots 0 0 (F0 m pc ls st0) rest (x_Q w (xKl post) a) (x_A w)) (hW : x_W w s.heap S H locs)
    (kk : ∀ (r : Int64) (S1 : HS) (H1 : Heap) (locs1 : List Loc), post r S1 → x_W w s.heap S1 H1 locs1 → W p l e R s m args below meth c H1 locs1 cells slots Q (F0 m (pc + 3) ls (.long r :: rest))) : W p l e R s m args below meth c H locs cells slots Q (F0 m pc ls st0) := by
  refine xgo hr hW fun v S1 H1 locs1 hK hW1 => ?_
  obtain ⟨r, rfl, hp⟩ := hK
  exact kk r S1 H1 locs1 hp hW1
theorem xql {a : Array Value} {mc ms mc1 ms1 : Nat} {post : Int64 → HS → Prop} (hr : va_Run p l e R s m args below meth c H locs cells slots mc1 ms1 (F0 m pc ls st0) rest (x_Q w (xKl post) a) (x_A w)) (hW : x_W w s.heap S H locs) (h1 : mc1 ≤ mc) (h2 : ms1 ≤ ms) (hc1 : cells + mc ≤ R.cells) (hs1 : slots + ms ≤ R.slots)
    (kk : ∀ (r : Int64) (S1 : HS) (H1 : Heap) (locs1 : List Loc) (cells1 slots1 : Nat), post r S1 → x_W w s.heap S1 H1 locs1 → cells1 + (mc - mc1) ≤ R.cells → slots1 + (ms - ms1) ≤ R.slots → W p l e R s m args below meth c H1 locs1 cells1 slots1 Q (F0 m (pc + 3) ls (.long r :: rest))) : W p l e R s m args below meth c H locs cells slots Q (F0 m pc ls st0) := by
  refine xgo hr hW fun v S1 H1 locs1 hK hW1 => ?_
  obtain ⟨r, rfl, hp⟩ := hK
  exact kk r S1 H1 locs1 _ _ hp hW1 (by omega) (by omega)
theorem xql50 {a : Array Value} {post : Int64 → HS → Prop} (hr : va_Run5 p l e R s m args below meth c H locs cells slots 0 0 (F0 m pc ls st0) rest (x_Q w (xKl post) a) (x_A w)) (hW : x_W w s.heap S H locs)
    (kk : ∀ (r : Int64) (S1 : HS) (H1 : Heap) (locs1 : List Loc), post r S1 → x_W w s.heap S1 H1 locs1 → W p l e R s m args below meth c H1 locs1 cells slots Q (F0 m (pc + 5) ls (.long r :: rest))) : W p l e R s m args below meth c H locs cells slots Q (F0 m pc ls st0) := by
  refine xgo5 hr hW fun v S1 H1 locs1 hK hW1 => ?_
  obtain ⟨r, rfl, hp⟩ := hK
  exact kk r S1 H1 locs1 hp hW1
theorem xql5 {a : Array Value} {mc ms mc1 ms1 : Nat} {post : Int64 → HS → Prop} (hr : va_Run5 p l e R s m args below meth c H locs cells slots mc1 ms1 (F0 m pc ls st0) rest (x_Q w (xKl post) a) (x_A w)) (hW : x_W w s.heap S H locs) (h1 : mc1 ≤ mc) (h2 : ms1 ≤ ms) (hc1 : cells + mc ≤ R.cells) (hs1 : slots + ms ≤ R.slots)
    (kk : ∀ (r : Int64) (S1 : HS) (H1 : Heap) (locs1 : List Loc) (cells1 slots1 : Nat), post r S1 → x_W w s.heap S1 H1 locs1 → cells1 + (mc - mc1) ≤ R.cells → slots1 + (ms - ms1) ≤ R.slots → W p l e R s m args below meth c H1 locs1 cells1 slots1 Q (F0 m (pc + 5) ls (.long r :: rest))) : W p l e R s m args below meth c H locs cells slots Q (F0 m pc ls st0) := by
  refine xgo5 hr hW fun v S1 H1 locs1 hK hW1 => ?_
  obtain ⟨r, rfl, hp⟩ := hK
  exact kk r S1 H1 locs1 _ _ hp hW1 (by omega) (by omega)
theorem xxql {a : Array Value} {mc ms mc1 ms1 : Nat} {post : Int64 → HS → Prop} {px : String → Addr → HS → Prop} (hr : vx_Run p l e R s m args below meth c H locs cells slots mc1 ms1 (F0 m pc ls st0) rest (x_Q w (xKl post) a) (x_X w px) (x_A w)) (hW : x_W w s.heap S H locs) (h1 : mc1 ≤ mc) (h2 : ms1 ≤ ms) (hc1 : cells + mc ≤ R.cells) (hs1 : slots + ms ≤ R.slots)
    (kx : ∀ (E : String) (q : Addr) (S1 : HS) (H1 : Heap) (locs1 : List Loc) (cells1 slots1 : Nat), px E q S1 → x_W w s.heap S1 H1 locs1 → xThr s H1 E q → cells1 + (mc - mc1) ≤ R.cells → slots1 + (ms - ms1) ≤ R.slots → vx_W p l e R s m args below meth c H1 locs1 cells1 slots1 Q (F0 m pc ls rest) q)
    (kk : ∀ (r : Int64) (S1 : HS) (H1 : Heap) (locs1 : List Loc) (cells1 slots1 : Nat), post r S1 → x_W w s.heap S1 H1 locs1 → cells1 + (mc - mc1) ≤ R.cells → slots1 + (ms - ms1) ≤ R.slots → W p l e R s m args below meth c H1 locs1 cells1 slots1 Q (F0 m (pc + 3) ls (.long r :: rest))) : W p l e R s m args below meth c H locs cells slots Q (F0 m pc ls st0) := by
  refine xxgo hr hW (fun E q S1 H1 locs1 hp hW1 ht => kx E q S1 H1 locs1 _ _ hp hW1 ht (by omega) (by omega)) fun v S1 H1 locs1 hK hW1 => ?_
  obtain ⟨r, rfl, hp⟩ := hK
  exact kk r S1 H1 locs1 _ _ hp hW1 (by omega) (by omega)
theorem xqr0 {a : Array Value} {post : Nat → HS → Prop} (hr : va_Run p l e R s m args below meth c H locs cells slots 0 0 (F0 m pc ls st0) rest (x_Q w (xKr post) a) (x_A w)) (hW : x_W w s.heap S H locs)
    (kk : ∀ (r : Nat) (S1 : HS) (H1 : Heap) (locs1 : List Loc), post r S1 → x_W w s.heap S1 H1 locs1 → W p l e R s m args below meth c H1 locs1 cells slots Q (F0 m (pc + 3) ls (.ref r :: rest))) : W p l e R s m args below meth c H locs cells slots Q (F0 m pc ls st0) := by
  refine xgo hr hW fun v S1 H1 locs1 hK hW1 => ?_
  obtain ⟨r, rfl, hp⟩ := hK
  exact kk r S1 H1 locs1 hp hW1
theorem xqr {a : Array Value} {mc ms mc1 ms1 : Nat} {post : Nat → HS → Prop} (hr : va_Run p l e R s m args below meth c H locs cells slots mc1 ms1 (F0 m pc ls st0) rest (x_Q w (xKr post) a) (x_A w)) (hW : x_W w s.heap S H locs) (h1 : mc1 ≤ mc) (h2 : ms1 ≤ ms) (hc1 : cells + mc ≤ R.cells) (hs1 : slots + ms ≤ R.slots)
    (kk : ∀ (r : Nat) (S1 : HS) (H1 : Heap) (locs1 : List Loc) (cells1 slots1 : Nat), post r S1 → x_W w s.heap S1 H1 locs1 → cells1 + (mc - mc1) ≤ R.cells → slots1 + (ms - ms1) ≤ R.slots → W p l e R s m args below meth c H1 locs1 cells1 slots1 Q (F0 m (pc + 3) ls (.ref r :: rest))) : W p l e R s m args below meth c H locs cells slots Q (F0 m pc ls st0) := by
  refine xgo hr hW fun v S1 H1 locs1 hK hW1 => ?_
  obtain ⟨r, rfl, hp⟩ := hK
  exact kk r S1 H1 locs1 _ _ hp hW1 (by omega) (by omega)
theorem xqr50 {a : Array Value} {post : Nat → HS → Prop} (hr : va_Run5 p l e R s m args below meth c H locs cells slots 0 0 (F0 m pc ls st0) rest (x_Q w (xKr post) a) (x_A w)) (hW : x_W w s.heap S H locs)
    (kk : ∀ (r : Nat) (S1 : HS) (H1 : Heap) (locs1 : List Loc), post r S1 → x_W w s.heap S1 H1 locs1 → W p l e R s m args below meth c H1 locs1 cells slots Q (F0 m (pc + 5) ls (.ref r :: rest))) : W p l e R s m args below meth c H locs cells slots Q (F0 m pc ls st0) := by
  refine xgo5 hr hW fun v S1 H1 locs1 hK hW1 => ?_
  obtain ⟨r, rfl, hp⟩ := hK
  exact kk r S1 H1 locs1 hp hW1
theorem xqr5 {a : Array Value} {mc ms mc1 ms1 : Nat} {post : Nat → HS → Prop} (hr : va_Run5 p l e R s m args below meth c H locs cells slots mc1 ms1 (F0 m pc ls st0) rest (x_Q w (xKr post) a) (x_A w)) (hW : x_W w s.heap S H locs) (h1 : mc1 ≤ mc) (h2 : ms1 ≤ ms) (hc1 : cells + mc ≤ R.cells) (hs1 : slots + ms ≤ R.slots)
    (kk : ∀ (r : Nat) (S1 : HS) (H1 : Heap) (locs1 : List Loc) (cells1 slots1 : Nat), post r S1 → x_W w s.heap S1 H1 locs1 → cells1 + (mc - mc1) ≤ R.cells → slots1 + (ms - ms1) ≤ R.slots → W p l e R s m args below meth c H1 locs1 cells1 slots1 Q (F0 m (pc + 5) ls (.ref r :: rest))) : W p l e R s m args below meth c H locs cells slots Q (F0 m pc ls st0) := by
  refine xgo5 hr hW fun v S1 H1 locs1 hK hW1 => ?_
  obtain ⟨r, rfl, hp⟩ := hK
  exact kk r S1 H1 locs1 _ _ hp hW1 (by omega) (by omega)
theorem xxqr {a : Array Value} {mc ms mc1 ms1 : Nat} {post : Nat → HS → Prop} {px : String → Addr → HS → Prop} (hr : vx_Run p l e R s m args below meth c H locs cells slots mc1 ms1 (F0 m pc ls st0) rest (x_Q w (xKr post) a) (x_X w px) (x_A w)) (hW : x_W w s.heap S H locs) (h1 : mc1 ≤ mc) (h2 : ms1 ≤ ms) (hc1 : cells + mc ≤ R.cells) (hs1 : slots + ms ≤ R.slots)
    (kx : ∀ (E : String) (q : Addr) (S1 : HS) (H1 : Heap) (locs1 : List Loc) (cells1 slots1 : Nat), px E q S1 → x_W w s.heap S1 H1 locs1 → xThr s H1 E q → cells1 + (mc - mc1) ≤ R.cells → slots1 + (ms - ms1) ≤ R.slots → vx_W p l e R s m args below meth c H1 locs1 cells1 slots1 Q (F0 m pc ls rest) q)
    (kk : ∀ (r : Nat) (S1 : HS) (H1 : Heap) (locs1 : List Loc) (cells1 slots1 : Nat), post r S1 → x_W w s.heap S1 H1 locs1 → cells1 + (mc - mc1) ≤ R.cells → slots1 + (ms - ms1) ≤ R.slots → W p l e R s m args below meth c H1 locs1 cells1 slots1 Q (F0 m (pc + 3) ls (.ref r :: rest))) : W p l e R s m args below meth c H locs cells slots Q (F0 m pc ls st0) := by
  refine xxgo hr hW (fun E q S1 H1 locs1 hp hW1 ht => kx E q S1 H1 locs1 _ _ hp hW1 ht (by omega) (by omega)) fun v S1 H1 locs1 hK hW1 => ?_
  obtain ⟨r, rfl, hp⟩ := hK
  exact kk r S1 H1 locs1 _ _ hp hW1 (by omega) (by omega)
theorem xqo0 {a : Array Value} {post : Option Nat → HS → Prop} (hr : va_Run p l e R s m args below meth c H locs cells slots 0 0 (F0 m pc ls st0) rest (x_Q w (xKo post) a) (x_A w)) (hW : x_W w s.heap S H locs)
    (kk : ∀ (r : Option Nat) (S1 : HS) (H1 : Heap) (locs1 : List Loc), post r S1 → x_W w s.heap S1 H1 locs1 → W p l e R s m args below meth c H1 locs1 cells slots Q (F0 m (pc + 3) ls (va_rf r :: rest))) : W p l e R s m args below meth c H locs cells slots Q (F0 m pc ls st0) := by
  refine xgo hr hW fun v S1 H1 locs1 hK hW1 => ?_
  obtain ⟨r, rfl, hp⟩ := hK
  exact kk r S1 H1 locs1 hp hW1
theorem xqo {a : Array Value} {mc ms mc1 ms1 : Nat} {post : Option Nat → HS → Prop} (hr : va_Run p l e R s m args below meth c H locs cells slots mc1 ms1 (F0 m pc ls st0) rest (x_Q w (xKo post) a) (x_A w)) (hW : x_W w s.heap S H locs) (h1 : mc1 ≤ mc) (h2 : ms1 ≤ ms) (hc1 : cells + mc ≤ R.cells) (hs1 : slots + ms ≤ R.slots)
    (kk : ∀ (r : Option Nat) (S1 : HS) (H1 : Heap) (locs1 : List Loc) (cells1 slots1 : Nat), post r S1 → x_W w s.heap S1 H1 locs1 → cells1 + (mc - mc1) ≤ R.cells → slots1 + (ms - ms1) ≤ R.slots → W p l e R s m args below meth c H1 locs1 cells1 slots1 Q (F0 m (pc + 3) ls (va_rf r :: rest))) : W p l e R s m args below meth c H locs cells slots Q (F0 m pc ls st0) := by
  refine xgo hr hW fun v S1 H1 locs1 hK hW1 => ?_
  obtain ⟨r, rfl, hp⟩ := hK
  exact kk r S1 H1 locs1 _ _ hp hW1 (by omega) (by omega)
theorem xqo50 {a : Array Value} {post : Option Nat → HS → Prop} (hr : va_Run5 p l e R s m args below meth c H locs cells slots 0 0 (F0 m pc ls st0) rest (x_Q w (xKo post) a) (x_A w)) (hW : x_W w s.heap S H locs)
    (kk : ∀ (r : Option Nat) (S1 : HS) (H1 : Heap) (locs1 : List Loc), post r S1 → x_W w s.heap S1 H1 locs1 → W p l e R s m args below meth c H1 locs1 cells slots Q (F0 m (pc + 5) ls (va_rf r :: rest))) : W p l e R s m args below meth c H locs cells slots Q (F0 m pc ls st0) := by
  refine xgo5 hr hW fun v S1 H1 locs1 hK hW1 => ?_
  obtain ⟨r, rfl, hp⟩ := hK
  exact kk r S1 H1 locs1 hp hW1
theorem xqo5 {a : Array Value} {mc ms mc1 ms1 : Nat} {post : Option Nat → HS → Prop} (hr : va_Run5 p l e R s m args below meth c H locs cells slots mc1 ms1 (F0 m pc ls st0) rest (x_Q w (xKo post) a) (x_A w)) (hW : x_W w s.heap S H locs) (h1 : mc1 ≤ mc) (h2 : ms1 ≤ ms) (hc1 : cells + mc ≤ R.cells) (hs1 : slots + ms ≤ R.slots)
    (kk : ∀ (r : Option Nat) (S1 : HS) (H1 : Heap) (locs1 : List Loc) (cells1 slots1 : Nat), post r S1 → x_W w s.heap S1 H1 locs1 → cells1 + (mc - mc1) ≤ R.cells → slots1 + (ms - ms1) ≤ R.slots → W p l e R s m args below meth c H1 locs1 cells1 slots1 Q (F0 m (pc + 5) ls (va_rf r :: rest))) : W p l e R s m args below meth c H locs cells slots Q (F0 m pc ls st0) := by
  refine xgo5 hr hW fun v S1 H1 locs1 hK hW1 => ?_
  obtain ⟨r, rfl, hp⟩ := hK
  exact kk r S1 H1 locs1 _ _ hp hW1 (by omega) (by omega)
theorem xxqo {a : Array Value} {mc ms mc1 ms1 : Nat} {post : Option Nat → HS → Prop} {px : String → Addr → HS → Prop} (hr : vx_Run p l e R s m args below meth c H locs cells slots mc1 ms1 (F0 m pc ls st0) rest (x_Q w (xKo post) a) (x_X w px) (x_A w)) (hW : x_W w s.heap S H locs) (h1 : mc1 ≤ mc) (h2 : ms1 ≤ ms) (hc1 : cells + mc ≤ R.cells) (hs1 : slots + ms ≤ R.slots)
    (kx : ∀ (E : String) (q : Addr) (S1 : HS) (H1 : Heap) (locs1 : List Loc) (cells1 slots1 : Nat), px E q S1 → x_W w s.heap S1 H1 locs1 → xThr s H1 E q → cells1 + (mc - mc1) ≤ R.cells → slots1 + (ms - ms1) ≤ R.slots → vx_W p l e R s m args below meth c H1 locs1 cells1 slots1 Q (F0 m pc ls rest) q)
    (kk : ∀ (r : Option Nat) (S1 : HS) (H1 : Heap) (locs1 : List Loc) (cells1 slots1 : Nat), post r S1 → x_W w s.heap S1 H1 locs1 → cells1 + (mc - mc1) ≤ R.cells → slots1 + (ms - ms1) ≤ R.slots → W p l e R s m args below meth c H1 locs1 cells1 slots1 Q (F0 m (pc + 3) ls (va_rf r :: rest))) : W p l e R s m args below meth c H locs cells slots Q (F0 m pc ls st0) := by
  refine xxgo hr hW (fun E q S1 H1 locs1 hp hW1 ht => kx E q S1 H1 locs1 _ _ hp hW1 ht (by omega) (by omega)) fun v S1 H1 locs1 hK hW1 => ?_
  obtain ⟨r, rfl, hp⟩ := hK
  exact kk r S1 H1 locs1 _ _ hp hW1 (by omega) (by omega)
theorem xqv0 {a : Array Value} {post : HS → Prop} (hr : va_Run p l e R s m args below meth c H locs cells slots 0 0 (F0 m pc ls st0) rest (x_Q w (xKv post) a) (x_A w)) (hW : x_W w s.heap S H locs)
    (kk : ∀ (S1 : HS) (H1 : Heap) (locs1 : List Loc), post S1 → x_W w s.heap S1 H1 locs1 → W p l e R s m args below meth c H1 locs1 cells slots Q (F0 m (pc + 3) ls rest)) : W p l e R s m args below meth c H locs cells slots Q (F0 m pc ls st0) := by
  refine xgo hr hW fun v S1 H1 locs1 hK hW1 => ?_
  obtain ⟨rfl, hp⟩ := hK
  exact kk S1 H1 locs1 hp hW1
theorem xqv {a : Array Value} {mc ms mc1 ms1 : Nat} {post : HS → Prop} (hr : va_Run p l e R s m args below meth c H locs cells slots mc1 ms1 (F0 m pc ls st0) rest (x_Q w (xKv post) a) (x_A w)) (hW : x_W w s.heap S H locs) (h1 : mc1 ≤ mc) (h2 : ms1 ≤ ms) (hc1 : cells + mc ≤ R.cells) (hs1 : slots + ms ≤ R.slots)
    (kk : ∀ (S1 : HS) (H1 : Heap) (locs1 : List Loc) (cells1 slots1 : Nat), post S1 → x_W w s.heap S1 H1 locs1 → cells1 + (mc - mc1) ≤ R.cells → slots1 + (ms - ms1) ≤ R.slots → W p l e R s m args below meth c H1 locs1 cells1 slots1 Q (F0 m (pc + 3) ls rest)) : W p l e R s m args below meth c H locs cells slots Q (F0 m pc ls st0) := by
  refine xgo hr hW fun v S1 H1 locs1 hK hW1 => ?_
  obtain ⟨rfl, hp⟩ := hK
  exact kk S1 H1 locs1 _ _ hp hW1 (by omega) (by omega)
theorem xqv50 {a : Array Value} {post : HS → Prop} (hr : va_Run5 p l e R s m args below meth c H locs cells slots 0 0 (F0 m pc ls st0) rest (x_Q w (xKv post) a) (x_A w)) (hW : x_W w s.heap S H locs)
    (kk : ∀ (S1 : HS) (H1 : Heap) (locs1 : List Loc), post S1 → x_W w s.heap S1 H1 locs1 → W p l e R s m args below meth c H1 locs1 cells slots Q (F0 m (pc + 5) ls rest)) : W p l e R s m args below meth c H locs cells slots Q (F0 m pc ls st0) := by
  refine xgo5 hr hW fun v S1 H1 locs1 hK hW1 => ?_
  obtain ⟨rfl, hp⟩ := hK
  exact kk S1 H1 locs1 hp hW1
theorem xqv5 {a : Array Value} {mc ms mc1 ms1 : Nat} {post : HS → Prop} (hr : va_Run5 p l e R s m args below meth c H locs cells slots mc1 ms1 (F0 m pc ls st0) rest (x_Q w (xKv post) a) (x_A w)) (hW : x_W w s.heap S H locs) (h1 : mc1 ≤ mc) (h2 : ms1 ≤ ms) (hc1 : cells + mc ≤ R.cells) (hs1 : slots + ms ≤ R.slots)
    (kk : ∀ (S1 : HS) (H1 : Heap) (locs1 : List Loc) (cells1 slots1 : Nat), post S1 → x_W w s.heap S1 H1 locs1 → cells1 + (mc - mc1) ≤ R.cells → slots1 + (ms - ms1) ≤ R.slots → W p l e R s m args below meth c H1 locs1 cells1 slots1 Q (F0 m (pc + 5) ls rest)) : W p l e R s m args below meth c H locs cells slots Q (F0 m pc ls st0) := by
  refine xgo5 hr hW fun v S1 H1 locs1 hK hW1 => ?_
  obtain ⟨rfl, hp⟩ := hK
  exact kk S1 H1 locs1 _ _ hp hW1 (by omega) (by omega)
theorem xxqv {a : Array Value} {mc ms mc1 ms1 : Nat} {post : HS → Prop} {px : String → Addr → HS → Prop} (hr : vx_Run p l e R s m args below meth c H locs cells slots mc1 ms1 (F0 m pc ls st0) rest (x_Q w (xKv post) a) (x_X w px) (x_A w)) (hW : x_W w s.heap S H locs) (h1 : mc1 ≤ mc) (h2 : ms1 ≤ ms) (hc1 : cells + mc ≤ R.cells) (hs1 : slots + ms ≤ R.slots)
    (kx : ∀ (E : String) (q : Addr) (S1 : HS) (H1 : Heap) (locs1 : List Loc) (cells1 slots1 : Nat), px E q S1 → x_W w s.heap S1 H1 locs1 → xThr s H1 E q → cells1 + (mc - mc1) ≤ R.cells → slots1 + (ms - ms1) ≤ R.slots → vx_W p l e R s m args below meth c H1 locs1 cells1 slots1 Q (F0 m pc ls rest) q)
    (kk : ∀ (S1 : HS) (H1 : Heap) (locs1 : List Loc) (cells1 slots1 : Nat), post S1 → x_W w s.heap S1 H1 locs1 → cells1 + (mc - mc1) ≤ R.cells → slots1 + (ms - ms1) ≤ R.slots → W p l e R s m args below meth c H1 locs1 cells1 slots1 Q (F0 m (pc + 3) ls rest)) : W p l e R s m args below meth c H locs cells slots Q (F0 m pc ls st0) := by
  refine xxgo hr hW (fun E q S1 H1 locs1 hp hW1 ht => kx E q S1 H1 locs1 _ _ hp hW1 ht (by omega) (by omega)) fun v S1 H1 locs1 hK hW1 => ?_
  obtain ⟨rfl, hp⟩ := hK
  exact kk S1 H1 locs1 _ _ hp hW1 (by omega) (by omega)
end XR3
