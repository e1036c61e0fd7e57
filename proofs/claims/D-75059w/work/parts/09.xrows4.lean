/-! THE FREE HEAP (4): throwing calls, throws, catches, statics, a body's start and end -/
set_option maxRecDepth 100000
section XR4
variable {p : Program} {l : Launch} {e : Env} {R : Room} {s : State} {m : MethodId} {args : Array Value} {below : List Frame} {meth : Method} {c : Code} {H : Heap} {locs : List Loc} {cells slots : Nat} {Q : State → Prop}
variable {cc : ByteArray} {pc : Nat} {ls : Array Slot} {rest st0 : List Value} {w : XP} {S : HS} {H0 : Heap}
theorem xxrV {own C : String} {T : u_T} {N ci : Nat} {y : MethodName} {by' : ByteArray} {mL nL n d index mc1 ms1 : Nat} {ret : Option FieldType} {av : List Value} {b : Nat} {K : Option Value → HS → Prop} {px : String → Addr → HS → Prop} (hE : CallFix p m c cc nL s args lw_all own) (hT : x_E w s) (hW : x_W w s.heap S H locs) (hc : xcl[ci]? = some (C, T, N)) (hci : ci < 40) (hd9 : hD S ci b) (hM : xx_M l w y by' mL ret d mc1 ms1 (.ref b :: av) S K px)
    (hG : GoodIn lw_all (wsV own index C y (ws_ y by' mL ret))) (hd : y.cls = C ∧ y.cls ≠ "java/lang/invoke/MethodHandle" ∧ y.cls ≠ "java/lang/invoke/VarHandle" ∧ (parseMethodDescriptor y.desc).map (fun d => d.parameters.length) = some n) (hR : d + 13 ≤ R.frames ∧ 8 + (mL + 11) + (128 * d + 4096) ≤ R.locals) (hf : cells + mc1 ≤ R.cells ∧ slots + ms1 ≤ R.slots)
    (hn : av.length = n) (hs : ls.size = nL) (hst : st0 = av.reverse ++ .ref b :: rest) (hrm : (rest.map fun v => v.category).sum ≤ 8) (hdg : decode cc pc = .ok (.invokevirtual index, 3)) : vx_Run p l e R s m args below meth c H locs cells slots mc1 ms1 (F0 m pc ls st0) rest (x_Q w K (Value.ref b :: av).toArray) (x_X w px) (x_A w) :=
  vx_runV (As := av) (rest := rest) hE hM (cwV n hE.2.2.2.2 hG rfl rfl rfl hd ⟨hR.1, hR.2⟩) ⟨x_I.blind, x_recv hT hW hc hci hd9, fun U hU hw => ⟨rfl, x_W.I hT hW hU hw⟩⟩ rfl hn hs hst (lv_room hrm) hdg hf
theorem xxrS {own : String} {y : MethodName} {by' : ByteArray} {mL nL n d index mc1 ms1 : Nat} {ret : Option FieldType} {av : List Value} {K : Option Value → HS → Prop} {px : String → Addr → HS → Prop} (hE : CallFix p m c cc nL s args lw_all own) (hT : x_E w s) (hW : x_W w s.heap S H locs) (hM : xx_M l w y by' mL ret d mc1 ms1 av S K px)
    (hG : GoodIn lw_all (va_wsS own index y (ws_ y by' mL ret))) (hd : y.cls ≠ "java/lang/invoke/MethodHandle" ∧ y.cls ≠ "java/lang/invoke/VarHandle" ∧ (parseMethodDescriptor y.desc).map (fun d => d.parameters.length) = some n) (hR : d + 13 ≤ R.frames ∧ 8 + (mL + 11) + (128 * d + 4096) ≤ R.locals) (hf : cells + mc1 ≤ R.cells ∧ slots + ms1 ≤ R.slots)
    (hn : av.length = n) (hs : ls.size = nL) (hst : st0 = av.reverse ++ rest) (hrm : (rest.map fun v => v.category).sum ≤ 8) (hdg : decode cc pc = .ok (.invokestatic index, 3)) : vx_Run p l e R s m args below meth c H locs cells slots mc1 ms1 (F0 m pc ls st0) rest (x_Q w K av.toArray) (x_X w px) (x_A w) :=
  vx_runS (As := av) (rest := rest) hE hM (va_cwS n hE.2.2.2.2 hG rfl rfl rfl hd ⟨hR.1, hR.2⟩) ⟨x_I.blind, fun U hU hw => ⟨rfl, x_W.I hT hW hU hw⟩⟩ rfl hn hs hst (lv_room hrm) hdg hf
theorem xxrVH {own C : String} {T : u_T} {N ci : Nat} {y : MethodName} {by' : ByteArray} {hh : List (Nat × Nat × Nat × Nat)} {mL nL n d index mc1 ms1 : Nat} {ret : Option FieldType} {av : List Value} {b : Nat} {K : Option Value → HS → Prop} {px : String → Addr → HS → Prop} (hE : CallFix p m c cc nL s args lw_all own) (hT : x_E w s) (hW : x_W w s.heap S H locs) (hc : xcl[ci]? = some (C, T, N)) (hci : ci < 40) (hd9 : hD S ci b) (hM : xx_MW l w y by' mL ret hh d mc1 ms1 (.ref b :: av) S K px)
    (hG : GoodIn lw_all (wsV own index C y (wsW_ y by' mL ret hh))) (hd : y.cls = C ∧ y.cls ≠ "java/lang/invoke/MethodHandle" ∧ y.cls ≠ "java/lang/invoke/VarHandle" ∧ (parseMethodDescriptor y.desc).map (fun d => d.parameters.length) = some n) (hR : d + 13 ≤ R.frames ∧ 8 + (mL + 11) + (128 * d + 4096) ≤ R.locals) (hf : cells + mc1 ≤ R.cells ∧ slots + ms1 ≤ R.slots)
    (hn : av.length = n) (hs : ls.size = nL) (hst : st0 = av.reverse ++ .ref b :: rest) (hrm : (rest.map fun v => v.category).sum ≤ 8) (hdg : decode cc pc = .ok (.invokevirtual index, 3)) : vx_Run p l e R s m args below meth c H locs cells slots mc1 ms1 (F0 m pc ls st0) rest (x_Q w K (Value.ref b :: av).toArray) (x_X w px) (x_A w) :=
  vx_runVX (hh := hh) (As := av) (rest := rest) hE hM (vx_cwVW n hE.2.2.2.2 hG rfl rfl rfl hd ⟨hR.1, hR.2⟩) ⟨x_I.blind, x_recv hT hW hc hci hd9, fun U hU hw => ⟨rfl, x_W.I hT hW hU hw⟩⟩ rfl hn hs hst (lv_room hrm) hdg hf
theorem xxrSH {own : String} {y : MethodName} {by' : ByteArray} {hh : List (Nat × Nat × Nat × Nat)} {mL nL n d index mc1 ms1 : Nat} {ret : Option FieldType} {av : List Value} {K : Option Value → HS → Prop} {px : String → Addr → HS → Prop} (hE : CallFix p m c cc nL s args lw_all own) (hT : x_E w s) (hW : x_W w s.heap S H locs) (hM : xx_MW l w y by' mL ret hh d mc1 ms1 av S K px)
    (hG : GoodIn lw_all (va_wsS own index y (wsW_ y by' mL ret hh))) (hd : y.cls ≠ "java/lang/invoke/MethodHandle" ∧ y.cls ≠ "java/lang/invoke/VarHandle" ∧ (parseMethodDescriptor y.desc).map (fun d => d.parameters.length) = some n) (hR : d + 13 ≤ R.frames ∧ 8 + (mL + 11) + (128 * d + 4096) ≤ R.locals) (hf : cells + mc1 ≤ R.cells ∧ slots + ms1 ≤ R.slots)
    (hn : av.length = n) (hs : ls.size = nL) (hst : st0 = av.reverse ++ rest) (hrm : (rest.map fun v => v.category).sum ≤ 8) (hdg : decode cc pc = .ok (.invokestatic index, 3)) : vx_Run p l e R s m args below meth c H locs cells slots mc1 ms1 (F0 m pc ls st0) rest (x_Q w K av.toArray) (x_X w px) (x_A w) :=
  vx_runSX (hh := hh) (As := av) (rest := rest) hE hM (vx_cwSW n hE.2.2.2.2 hG rfl rfl rfl hd ⟨hR.1, hR.2⟩) ⟨x_I.blind, fun U hU hw => ⟨rfl, x_W.I hT hW hU hw⟩⟩ rfl hn hs hst (lv_room hrm) hdg hf
theorem x_gets1 {C n d own ref : String} {v : Value} {index : Nat} (hx : p.tables.exec = Jvm.exec) (hb : c.code = cc) (hown : s.vm.findClass own = some m.cls) (hts : ∀ w ∈ lw_all, w.before args s = true) (hW : x_W w s.heap S H locs) (hZ : va_Z C n d v (x_A w) s s.heap) (hlink : Cond.fieldLink own index ref n d ∈ lw_all) (hsame : C = ref) (hdg : decode cc pc = .ok (.getstatic index, 3))
    (kk : W p l e R s m args below meth c H locs cells slots Q (F0 m (pc + 3) ls (v :: rest))) : W p l e R s m args below meth c H locs cells slots Q (F0 m pc ls rest) :=
  va_gets hx hb hZ hW.2.2 hown (hts _ hlink) (fun x hx => by rw [← hsame]; exact hx) hdg kk
/-- a static that holds null or some reference -/
theorem x_getsq {C n d own ref : String} {index : Nat} (hx : p.tables.exec = Jvm.exec) (hb : c.code = cc) (hown : s.vm.findClass own = some m.cls) (hts : ∀ w ∈ lw_all, w.before args s = true) (hW : x_W w s.heap S H locs) (hZ : va_Zq C n d (x_A w) s s.heap) (hlink : Cond.fieldLink own index ref n d ∈ lw_all) (hsame : C = ref) (hdg : decode cc pc = .ok (.getstatic index, 3))
    (kk : ∀ r : Option Nat, W p l e R s m args below meth c H locs cells slots Q (F0 m (pc + 3) ls (va_rf r :: rest))) : W p l e R s m args below meth c H locs cells slots Q (F0 m pc ls rest) := by
  rcases hZ with h | ⟨t, h⟩
  · exact x_gets1 hx hb hown hts hW h hlink hsame hdg (kk none)
  · exact x_gets1 hx hb hown hts hW h hlink hsame hdg (kk (some t))
theorem x_ldcs {own tx : String} {index i : Nat} (hx : p.tables.exec = Jvm.exec) (hb : c.code = cc) (hown : s.vm.findClass own = some m.cls) (hT : x_E w s) (hi : (own, index, tx, i) ∈ xsr) (hdg : decode cc pc = .ok (.ldc index, 2))
    (kk : W p l e R s m args below meth c H locs cells slots Q (F0 m (pc + 2) ls (.ref (x_k w i) :: rest))) : W p l e R s m args below meth c H locs cells slots Q (F0 m pc ls rest) := va_ldcS hx hb hown (hT.1.2.2.2.2 _ hi) hdg kk
theorem x_max {nL : Nat} {own : String} (hE : CallFix p m c cc nL s args lw_all own) (hs : ls.size = nL) {index : Nat} (hlink : (Cond.methodLink own index Lib.Math.max.name).before args s = true) (hstat : (Cond.static Lib.Math.max.name).before args s = true) (hini : (Cond.initialized "java/lang/Math").before args s = true) (hcode : (Cond.code Lib.Math.max.name Lib.Math.max.code 2 (some .int)).before args s = true)
    (hframes : 1 ≤ R.frames) (hlocals : (rest.map fun v => v.category).sum + 13 ≤ R.locals) {mc ms : Nat} (hc : cells + mc ≤ R.cells) (hs2 : slots + ms ≤ R.slots) {x y : Int32} (hdg : decode cc pc = .ok (.invokestatic index, 3))
    (kk : W p l e R s m args below meth c H locs cells slots Q (F0 m (pc + 3) ls (.int (imax x y) :: rest))) : W p l e R s m args below meth c H locs cells slots Q (F0 m pc ls (.int y :: .int x :: rest)) :=
  va_mmax hE.1 hE.2.1 (hE.2.2.1.trans hs.symm) hE.2.2.2.1 hlink hstat hini hcode hframes hlocals (Nat.le_trans (Nat.le_add_right _ _) hc) (Nat.le_trans (Nat.le_add_right _ _) hs2) hdg kk
theorem x_min {nL : Nat} {own : String} (hE : CallFix p m c cc nL s args lw_all own) (hs : ls.size = nL) {index : Nat} (hlink : (Cond.methodLink own index Lib.Math.min.name).before args s = true) (hstat : (Cond.static Lib.Math.min.name).before args s = true) (hini : (Cond.initialized "java/lang/Math").before args s = true) (hcode : (Cond.code Lib.Math.min.name Lib.Math.min.code 2 (some .int)).before args s = true)
    (hframes : 1 ≤ R.frames) (hlocals : (rest.map fun v => v.category).sum + 13 ≤ R.locals) {mc ms : Nat} (hc : cells + mc ≤ R.cells) (hs2 : slots + ms ≤ R.slots) {x y : Int32} (hdg : decode cc pc = .ok (.invokestatic index, 3))
    (kk : W p l e R s m args below meth c H locs cells slots Q (F0 m (pc + 3) ls (.int (imin x y) :: rest))) : W p l e R s m args below meth c H locs cells slots Q (F0 m pc ls (.int y :: .int x :: rest)) :=
  va_mmin hE.1 hE.2.1 (hE.2.2.1.trans hs.symm) hE.2.2.2.1 hlink hstat hini hcode hframes hlocals (Nat.le_trans (Nat.le_add_right _ _) hc) (Nat.le_trans (Nat.le_add_right _ _) hs2) hdg kk
/-- a word of a throw: it holds all through -/
def xok (w : Cond) : Prop := w ∈ lw_all ∨ (w ∈ lw_tbl ∧ xmv w = true)
theorem xok.use {w9 : Cond} (hts : ∀ w ∈ lw_all, w.before args s = true) (hT : x_E w s) (h : xok w9) : w9.before args s = true := by
  rcases h with h | ⟨h1, h2⟩
  · exact hts _ h
  · have ht : w9.onTables = true := by
      simp only [xmv, Bool.and_eq_true] at h2
      exact h2.1
    exact va_Nw.use ht (hT.1.2.1.1 _ h1 h2)
/-- 'throw new E()' -/
theorem x_throw0 {own cls : String} {names : List String} {ik ic mc ms mc0 ms0 : Nat} {K : Option Value → HS → Prop} {px : String → Addr → HS → Prop} (hQ : Q = vx_MQ below (x_Q w K) (x_X w px) args s mc0 ms0 (x_A w)) (hx : p.tables.exec = Jvm.exec) (hb : c.code = cc) (hl : l.stackTraces = false) (hown : s.vm.findClass own = some m.cls) (hts : ∀ w ∈ lw_all, w.before args s = true) (hT : x_E w s) (hW : x_W w s.heap S H locs)
    (hcls : Bundle.fit cls = true) (hnames : ∀ n ∈ names, Bundle.fit n = true) (hk : Cond.classLink own ik cls ∈ lw_all) (hini : Cond.initialized cls ∈ lw_all) (hat : ∀ w ∈ vx_at0 own ic cls names, xok w) (hgood : ∀ w ∈ Cond.classLink own ik cls :: Cond.initialized cls :: vx_at0 own ic cls names, vx_ot w = true) (hsize : ls.size = c.maxLocals)
    (d0 : decode cc pc = .ok (.new ik, 3)) (d3 : decode cc (pc + 3) = .ok (.dup, 1)) (d4 : decode cc (pc + 4) = .ok (.invokespecial ic, 3)) (d7 : decode cc (pc + 7) = .ok (.athrow, 1)) (hout : ∀ x ∈ c.exceptionTable.toList, False)
    (hRf : names.length + 3 < R.frames) (hRl : (rest.map fun v => v.category).sum + (13 * (names.length + 1) + 42) ≤ R.locals) (h1 : 1 ≤ mc) (h2 : 6 ≤ ms) (hc1 : cells + mc ≤ R.cells) (hs1 : slots + ms ≤ R.slots) (hm0 : R.cells ≤ mc0) (hm1 : R.slots ≤ ms0) (hlocks : meth.locks = false) (kx : ∀ q : Addr, xNew S q → px cls q S) : W p l e R s m args below meth c H locs cells slots Q (F0 m pc ls rest) := by
  subst hQ
  refine vx_throw0 (A := x_A w) hx hb hl hown hcls hnames (hts _ hk) (hts _ hini) (fun w9 h9 => (hat w9 h9).use hts hT) hgood hT.1.2.2.1.2.2.1 hT.1.2.2.1.2.2.2.1 hW.2.2 hsize d0 d3 d4 d7 (fun x hx => (hout x hx).elim) hRf hRl (by omega) (by omega) hlocks (fun t hvm hz hq => ?_) hW.2.2.2.2 (by omega) (by omega)
  have hO : ∀ q : Nat, q < s.heap.size → ¬ x_A w q → t.heap[q]? = s.heap[q]? := fun q h3 h4 => (hq q (Nat.lt_of_lt_of_le h3 hW.2.2.1)).trans (hW.2.2.2.1 q h3 h4)
  have hz0 : s.heap.size ≤ t.heap.size := Nat.le_trans hW.2.2.1 hz
  exact ⟨⟨S, kx _ (hW.1.fresh hW.2.1.2 hW.2.1.1), hW.1.kept hq, ⟨hW.2.1.1, fun a h => Nat.lt_of_lt_of_le (hW.2.1.2 a h) hz⟩, x_T.warm hvm hO hT.1, fun q h => hT.2 q (Nat.le_trans hz0 h)⟩, hz0, hO⟩
/-- caught: the row x of the table takes it -/
theorem x_catch {own name E : String} {q : Addr} (hown : s.vm.findClass own = some m.cls) (hts : ∀ w ∈ lw_all, w.before args s = true) (hT : x_E w s) (tab : List ExceptionTableEntry) (htab : c.exceptionTable.toList = tab) (pre : List ExceptionTableEntry) (x : ExceptionTableEntry) (suf : List ExceptionTableEntry) (hsplit : tab = pre ++ x :: suf)
    (hpass : ∀ z ∈ pre, covers z pc = false ∨ (z.catchType ≠ 0 ∧ ∃ nm : String, Cond.classLink own z.catchType nm ∈ lw_all ∧ Cond.not (Cond.castable E nm) ∈ flatC narrow_1)) (hx : covers x pc = true) (h0 : x.catchType ≠ 0) (hlink : Cond.classLink own x.catchType name ∈ lw_all) (hcast : Cond.castable E name ∈ lw_tbl) (hthr : xThr s H E q)
    (kk : W p l e R s m args below meth c H locs cells slots Q (F0 m x.handlerPc ls [.ref q])) : vx_W p l e R s m args below meth c H locs cells slots Q (F0 m pc ls rest) q := by
  obtain ⟨ce, h1, h2, h3⟩ := hthr
  refine vx_catch hown pre x suf (htab.trans hsplit) (fun z hz => ?_) hx h0 (hts _ hlink) (va_Nw.use rfl (hT.1.2.1.1 _ hcast rfl)) h1 h2 h3 kk
  rcases hpass z hz with h | ⟨h, nm, g1, g2⟩
  · exact Or.inl h
  · exact Or.inr ⟨h, nm, hts _ g1, hT.1.2.1.2.2 E nm g2⟩
/-- a thing of the world that was thrown is of its class -/
theorem x_thr {C : String} {T : u_T} {N ci : Nat} (hT : x_E w s) (hW : x_W w H0 S H locs) (hc : xcl[ci]? = some (C, T, N)) (hci : ci < 40) {a : Nat} (hd : hD S ci a) : xThr s H C a := by
  obtain ⟨cell, g1, g2, g3, -⟩ := hW.1.1 ci a hd hci
  exact ⟨cell, g1, g3, by rw [g2]; exact (hT.1.1.1 ci _ hc).2.1⟩
/-- athrow of a thing of the world: it is thrown over this frame -/
theorem x_athrow {a : Nat} (hx : p.tables.exec = Jvm.exec) (hb : c.code = cc) (hdg : decode cc pc = .ok (.athrow, 1)) (k : vx_W p l e R s m args below meth c H locs cells slots Q (F0 m pc ls rest) a) : W p l e R s m args below meth c H locs cells slots Q (F0 m pc ls (.ref a :: rest)) := by
  intro T hT X
  obtain ⟨t, a1, b1⟩ := k T hT X
  refine ⟨t, ?_, b1⟩
  have hdg' : decode c.code pc = .ok (.athrow, 1) := by rw [hb]; exact hdg
  jvm_step X.here [X.here.top, hx, hdg', athrow.wp_sem]
  exact a1
end XR4
theorem xofi {l : Launch} {w : XP} {y : MethodName} {cc : ByteArray} {n d mc ms : Nat} {ty : FieldType} {av : List Value} {S : HS} {post : Int32 → HS → Prop} (own : String) (hy : plainName y.cls = true) (hc : y.cls = own) (hn : (lg_sl av).length ≤ n) (ok : Int32 → Prop) (hok : ∀ r, ok r → narrow ty (.int r) = .int r)
    (body : ∀ (p : Program) (e : Env) (s : State) (m : MethodId) (args : Array Value) (below : List Frame) (meth : Method) (c : Code) (Q : State → Prop) (ls : Array Slot), CallFix p m c cc n s args lw_all own → x_E w s → lv_has ls n (lv_args 0 av) → x_W w s.heap S s.heap [] → ((y.name = "<init>" → meth.name = "<init>") ∧ s.methodNamed? y = some m) →
      (∀ (r : Int32) (S1 : HS) (H : Heap) (locs : List Loc) (cells slots : Nat), ok r → post r S1 → x_W w s.heap S1 H locs → cells ≤ mc → slots ≤ ms → ∀ (pc : Nat) (ls : Array Slot), decode cc pc = .ok (.ireturn, 1) → W p l e (xrm d mc ms) s m args below meth c H locs cells slots Q (F0 m pc ls [.int r])) →
      W p l e (xrm d mc ms) s m args below meth c s.heap [] 0 0 Q (F0 m 0 ls [])) : x_M l w y cc n (some ty) d mc ms av S (xKi post) := by
  refine Met.ofW (cc := cc) (maxL := n) (ret := (some ty)) hy rfl ?_
  intro p e s m args below meth c s₁ B hml hv
  obtain ⟨rfl, hP, hG, hTT, hAA⟩ := hv
  have hx := B.exec
  have hb := B.bytes
  have hr := B.returns
  have hts0 := atoms_spec (ws := ws_ y cc n (some ty)) B.pre
  have hts : ∀ w ∈ lw_all, w.before _ s = true := fun w h => hts0 w (List.mem_cons_of_mem _ h)
  have hown : s.vm.findClass y.cls = some m.cls := findClass_of_methodNamed B.named
  rw [hc] at hown
  have hlocks : meth.locks = false := B.notSynchronized
  have hnm : y.name = "<init>" → meth.name = "<init>" := fun h => by rw [← h]; exact (name_of_methodNamed B.named B.method).1
  have hl := lv_entry av (n := n) hn
  rw [lg_entry_eq]
  generalize (lg_sl av ++ List.replicate (n - (lg_sl av).length) Slot.unset).toArray = ls at hl ⊢
  have hT : x_E w s := ⟨hTT, hAA⟩
  refine body p e s m av.toArray below meth c _ ls ⟨hx, hb, hml, hown, hts⟩ hT hl ⟨hP, hG, va_S.rf⟩ ⟨hnm, B.named⟩ ?_
  · intro r S1 H locs cells slots hokr hp hW h1 h2 pc ls hd
    refine W.widen (k := mc) (n := ms) h1 h2 ?_
    exact W.zret (v := r) hx hb hr (hok r hokr) (fun t ht hw => ⟨⟨some (.int r), S1, rfl, ⟨r, rfl, hp⟩, x_W.I hT hW ht hw⟩, hW.2.2.F ht⟩) hW.2.2.2.2 hd hlocks
theorem xofl {l : Launch} {w : XP} {y : MethodName} {cc : ByteArray} {n d mc ms : Nat} {av : List Value} {S : HS} {post : Int64 → HS → Prop} (own : String) (hy : plainName y.cls = true) (hc : y.cls = own) (hn : (lg_sl av).length ≤ n)
    (body : ∀ (p : Program) (e : Env) (s : State) (m : MethodId) (args : Array Value) (below : List Frame) (meth : Method) (c : Code) (Q : State → Prop) (ls : Array Slot), CallFix p m c cc n s args lw_all own → x_E w s → lv_has ls n (lv_args 0 av) → x_W w s.heap S s.heap [] → ((y.name = "<init>" → meth.name = "<init>") ∧ s.methodNamed? y = some m) →
      (∀ (r : Int64) (S1 : HS) (H : Heap) (locs : List Loc) (cells slots : Nat), post r S1 → x_W w s.heap S1 H locs → cells ≤ mc → slots ≤ ms → ∀ (pc : Nat) (ls : Array Slot), decode cc pc = .ok (.lreturn, 1) → W p l e (xrm d mc ms) s m args below meth c H locs cells slots Q (F0 m pc ls [.long r])) →
      W p l e (xrm d mc ms) s m args below meth c s.heap [] 0 0 Q (F0 m 0 ls [])) : x_M l w y cc n (some .long) d mc ms av S (xKl post) := by
  refine Met.ofW (cc := cc) (maxL := n) (ret := (some .long)) hy rfl ?_
  intro p e s m args below meth c s₁ B hml hv
  obtain ⟨rfl, hP, hG, hTT, hAA⟩ := hv
  have hx := B.exec
  have hb := B.bytes
  have hr := B.returns
  have hts0 := atoms_spec (ws := ws_ y cc n (some .long)) B.pre
  have hts : ∀ w ∈ lw_all, w.before _ s = true := fun w h => hts0 w (List.mem_cons_of_mem _ h)
  have hown : s.vm.findClass y.cls = some m.cls := findClass_of_methodNamed B.named
  rw [hc] at hown
  have hlocks : meth.locks = false := B.notSynchronized
  have hnm : y.name = "<init>" → meth.name = "<init>" := fun h => by rw [← h]; exact (name_of_methodNamed B.named B.method).1
  have hl := lv_entry av (n := n) hn
  rw [lg_entry_eq]
  generalize (lg_sl av ++ List.replicate (n - (lg_sl av).length) Slot.unset).toArray = ls at hl ⊢
  have hT : x_E w s := ⟨hTT, hAA⟩
  refine body p e s m av.toArray below meth c _ ls ⟨hx, hb, hml, hown, hts⟩ hT hl ⟨hP, hG, va_S.rf⟩ ⟨hnm, B.named⟩ ?_
  · intro r S1 H locs cells slots hp hW h1 h2 pc ls hd
    refine W.widen (k := mc) (n := ms) h1 h2 ?_
    exact W.lret (v := r) hx hb hr (fun t ht hw => ⟨⟨some (.long r), S1, rfl, ⟨r, rfl, hp⟩, x_W.I hT hW ht hw⟩, hW.2.2.F ht⟩) hW.2.2.2.2 hd hlocks
theorem xofa {l : Launch} {w : XP} {y : MethodName} {cc : ByteArray} {n d mc ms : Nat} {ty : FieldType} {av : List Value} {S : HS} {post : Option Nat → HS → Prop} (own : String) (hy : plainName y.cls = true) (hc : y.cls = own) (hn : (lg_sl av).length ≤ n) (hrt : (∃ n, ty = .object n) ∨ ∃ t, ty = .array t)
    (body : ∀ (p : Program) (e : Env) (s : State) (m : MethodId) (args : Array Value) (below : List Frame) (meth : Method) (c : Code) (Q : State → Prop) (ls : Array Slot), CallFix p m c cc n s args lw_all own → x_E w s → lv_has ls n (lv_args 0 av) → x_W w s.heap S s.heap [] → ((y.name = "<init>" → meth.name = "<init>") ∧ s.methodNamed? y = some m) →
      (∀ (r : Option Nat) (S1 : HS) (H : Heap) (locs : List Loc) (cells slots : Nat), post r S1 → x_W w s.heap S1 H locs → cells ≤ mc → slots ≤ ms → ∀ (pc : Nat) (ls : Array Slot), decode cc pc = .ok (.areturn, 1) → W p l e (xrm d mc ms) s m args below meth c H locs cells slots Q (F0 m pc ls [va_rf r])) →
      W p l e (xrm d mc ms) s m args below meth c s.heap [] 0 0 Q (F0 m 0 ls [])) : x_M l w y cc n (some ty) d mc ms av S (xKo post) := by
  refine Met.ofW (cc := cc) (maxL := n) (ret := (some ty)) hy rfl ?_
  intro p e s m args below meth c s₁ B hml hv
  obtain ⟨rfl, hP, hG, hTT, hAA⟩ := hv
  have hx := B.exec
  have hb := B.bytes
  have hr := B.returns
  have hts0 := atoms_spec (ws := ws_ y cc n (some ty)) B.pre
  have hts : ∀ w ∈ lw_all, w.before _ s = true := fun w h => hts0 w (List.mem_cons_of_mem _ h)
  have hown : s.vm.findClass y.cls = some m.cls := findClass_of_methodNamed B.named
  rw [hc] at hown
  have hlocks : meth.locks = false := B.notSynchronized
  have hnm : y.name = "<init>" → meth.name = "<init>" := fun h => by rw [← h]; exact (name_of_methodNamed B.named B.method).1
  have hl := lv_entry av (n := n) hn
  rw [lg_entry_eq]
  generalize (lg_sl av ++ List.replicate (n - (lg_sl av).length) Slot.unset).toArray = ls at hl ⊢
  have hT : x_E w s := ⟨hTT, hAA⟩
  refine body p e s m av.toArray below meth c _ ls ⟨hx, hb, hml, hown, hts⟩ hT hl ⟨hP, hG, va_S.rf⟩ ⟨hnm, B.named⟩ ?_
  · intro r S1 H locs cells slots hp hW h1 h2 pc ls hd
    refine W.widen (k := mc) (n := ms) h1 h2 ?_
    exact W.aret (v := va_rf r) hx hb hr hrt (by cases r <;> simp [va_rf]) (fun t ht hw => ⟨⟨some (va_rf r), S1, rfl, ⟨r, rfl, hp⟩, x_W.I hT hW ht hw⟩, hW.2.2.F ht⟩) hW.2.2.2.2 hd hlocks
theorem xofr {l : Launch} {w : XP} {y : MethodName} {cc : ByteArray} {n d mc ms : Nat} {ty : FieldType} {av : List Value} {S : HS} {post : Nat → HS → Prop} (own : String) (hy : plainName y.cls = true) (hc : y.cls = own) (hn : (lg_sl av).length ≤ n) (hrt : (∃ n, ty = .object n) ∨ ∃ t, ty = .array t)
    (body : ∀ (p : Program) (e : Env) (s : State) (m : MethodId) (args : Array Value) (below : List Frame) (meth : Method) (c : Code) (Q : State → Prop) (ls : Array Slot), CallFix p m c cc n s args lw_all own → x_E w s → lv_has ls n (lv_args 0 av) → x_W w s.heap S s.heap [] → ((y.name = "<init>" → meth.name = "<init>") ∧ s.methodNamed? y = some m) →
      (∀ (r : Nat) (S1 : HS) (H : Heap) (locs : List Loc) (cells slots : Nat), post r S1 → x_W w s.heap S1 H locs → cells ≤ mc → slots ≤ ms → ∀ (pc : Nat) (ls : Array Slot), decode cc pc = .ok (.areturn, 1) → W p l e (xrm d mc ms) s m args below meth c H locs cells slots Q (F0 m pc ls [.ref r])) →
      W p l e (xrm d mc ms) s m args below meth c s.heap [] 0 0 Q (F0 m 0 ls [])) : x_M l w y cc n (some ty) d mc ms av S (xKr post) := by
  refine Met.ofW (cc := cc) (maxL := n) (ret := (some ty)) hy rfl ?_
  intro p e s m args below meth c s₁ B hml hv
  obtain ⟨rfl, hP, hG, hTT, hAA⟩ := hv
  have hx := B.exec
  have hb := B.bytes
  have hr := B.returns
  have hts0 := atoms_spec (ws := ws_ y cc n (some ty)) B.pre
  have hts : ∀ w ∈ lw_all, w.before _ s = true := fun w h => hts0 w (List.mem_cons_of_mem _ h)
  have hown : s.vm.findClass y.cls = some m.cls := findClass_of_methodNamed B.named
  rw [hc] at hown
  have hlocks : meth.locks = false := B.notSynchronized
  have hnm : y.name = "<init>" → meth.name = "<init>" := fun h => by rw [← h]; exact (name_of_methodNamed B.named B.method).1
  have hl := lv_entry av (n := n) hn
  rw [lg_entry_eq]
  generalize (lg_sl av ++ List.replicate (n - (lg_sl av).length) Slot.unset).toArray = ls at hl ⊢
  have hT : x_E w s := ⟨hTT, hAA⟩
  refine body p e s m av.toArray below meth c _ ls ⟨hx, hb, hml, hown, hts⟩ hT hl ⟨hP, hG, va_S.rf⟩ ⟨hnm, B.named⟩ ?_
  · intro r S1 H locs cells slots hp hW h1 h2 pc ls hd
    refine W.widen (k := mc) (n := ms) h1 h2 ?_
    exact W.aret (v := .ref r) hx hb hr hrt (Or.inr ⟨r, rfl⟩) (fun t ht hw => ⟨⟨some (.ref r), S1, rfl, ⟨r, rfl, hp⟩, x_W.I hT hW ht hw⟩, hW.2.2.F ht⟩) hW.2.2.2.2 hd hlocks
theorem xofv {l : Launch} {w : XP} {y : MethodName} {cc : ByteArray} {n d mc ms : Nat} {av : List Value} {S : HS} {post : HS → Prop} (own : String) (hy : plainName y.cls = true) (hc : y.cls = own) (hn : (lg_sl av).length ≤ n)
    (body : ∀ (p : Program) (e : Env) (s : State) (m : MethodId) (args : Array Value) (below : List Frame) (meth : Method) (c : Code) (Q : State → Prop) (ls : Array Slot), CallFix p m c cc n s args lw_all own → x_E w s → lv_has ls n (lv_args 0 av) → x_W w s.heap S s.heap [] → ((y.name = "<init>" → meth.name = "<init>") ∧ s.methodNamed? y = some m) →
      (∀ (S1 : HS) (H : Heap) (locs : List Loc) (cells slots : Nat), post S1 → x_W w s.heap S1 H locs → cells ≤ mc → slots ≤ ms → ∀ (pc : Nat) (ls : Array Slot), decode cc pc = .ok (.return_, 1) → W p l e (xrm d mc ms) s m args below meth c H locs cells slots Q (F0 m pc ls [])) →
      W p l e (xrm d mc ms) s m args below meth c s.heap [] 0 0 Q (F0 m 0 ls [])) : x_M l w y cc n none d mc ms av S (xKv post) := by
  refine Met.ofW (cc := cc) (maxL := n) (ret := none) hy rfl ?_
  intro p e s m args below meth c s₁ B hml hv
  obtain ⟨rfl, hP, hG, hTT, hAA⟩ := hv
  have hx := B.exec
  have hb := B.bytes
  have hr := B.returns
  have hts0 := atoms_spec (ws := ws_ y cc n none) B.pre
  have hts : ∀ w ∈ lw_all, w.before _ s = true := fun w h => hts0 w (List.mem_cons_of_mem _ h)
  have hown : s.vm.findClass y.cls = some m.cls := findClass_of_methodNamed B.named
  rw [hc] at hown
  have hlocks : meth.locks = false := B.notSynchronized
  have hnm : y.name = "<init>" → meth.name = "<init>" := fun h => by rw [← h]; exact (name_of_methodNamed B.named B.method).1
  have hl := lv_entry av (n := n) hn
  rw [lg_entry_eq]
  generalize (lg_sl av ++ List.replicate (n - (lg_sl av).length) Slot.unset).toArray = ls at hl ⊢
  have hT : x_E w s := ⟨hTT, hAA⟩
  refine body p e s m av.toArray below meth c _ ls ⟨hx, hb, hml, hown, hts⟩ hT hl ⟨hP, hG, va_S.rf⟩ ⟨hnm, B.named⟩ ?_
  · intro S1 H locs cells slots hp hW h1 h2 pc ls hd
    refine W.widen (k := mc) (n := ms) h1 h2 ?_
    exact W.vret hx hb hr (fun t ht hw => ⟨⟨none, S1, rfl, ⟨rfl, hp⟩, x_W.I hT hW ht hw⟩, hW.2.2.F ht⟩) hW.2.2.2.2 hd hlocks
theorem xxofi {l : Launch} {w : XP} {y : MethodName} {cc : ByteArray} {n d mc ms : Nat} {ty : FieldType} {av : List Value} {S : HS} {post : Int32 → HS → Prop} {px : String → Addr → HS → Prop} (own : String) (hy : plainName y.cls = true) (hc : y.cls = own) (hn : (lg_sl av).length ≤ n) (ok : Int32 → Prop) (hok : ∀ r, ok r → narrow ty (.int r) = .int r)
    (body : ∀ (p : Program) (e : Env) (s : State) (m : MethodId) (args : Array Value) (below : List Frame) (meth : Method) (c : Code) (Q : State → Prop) (ls : Array Slot), CallFix p m c cc n s args lw_all own → x_E w s → lv_has ls n (lv_args 0 av) → x_W w s.heap S s.heap [] → ((y.name = "<init>" → meth.name = "<init>") ∧ s.methodNamed? y = some m) →
      (∀ (r : Int32) (S1 : HS) (H : Heap) (locs : List Loc) (cells slots : Nat), ok r → post r S1 → x_W w s.heap S1 H locs → cells ≤ mc → slots ≤ ms → ∀ (pc : Nat) (ls : Array Slot), decode cc pc = .ok (.ireturn, 1) → W p l e (xrm d mc ms) s m args below meth c H locs cells slots Q (F0 m pc ls [.int r])) →
      (∀ (E : String) (q : Addr) (S1 : HS) (H : Heap) (locs : List Loc) (cells slots : Nat) (pc : Nat) (ls : Array Slot) (rest : List Value), px E q S1 → x_W w s.heap S1 H locs → xThr s H E q → cells ≤ mc → slots ≤ ms → (∀ x ∈ c.exceptionTable.toList, covers x pc = false) → vx_W p l e (xrm d mc ms) s m args below meth c H locs cells slots Q (F0 m pc ls rest) q) →
      Q = vx_MQ below (x_Q w (xKi post)) (x_X w px) args s mc ms (x_A w) → meth.locks = false → (∀ x ∈ c.exceptionTable.toList, False) →
      W p l e (xrm d mc ms) s m args below meth c s.heap [] 0 0 Q (F0 m 0 ls [])) : xx_M l w y cc n (some ty) d mc ms av S (xKi post) px := by
  refine vx_ofW (cc := cc) (maxL := n) (ret := (some ty)) hy rfl ?_
  intro p e s m args below meth c s₁ B hml hnt hv
  obtain ⟨rfl, hP, hG, hTT, hAA⟩ := hv
  have hx := B.exec
  have hb := B.bytes
  have hr := B.returns
  have hts0 := atoms_spec (ws := ws_ y cc n (some ty)) B.pre
  have hts : ∀ w ∈ lw_all, w.before _ s = true := fun w h => hts0 w (List.mem_cons_of_mem _ h)
  have hown : s.vm.findClass y.cls = some m.cls := findClass_of_methodNamed B.named
  rw [hc] at hown
  have hlocks : meth.locks = false := B.notSynchronized
  have hnm : y.name = "<init>" → meth.name = "<init>" := fun h => by rw [← h]; exact (name_of_methodNamed B.named B.method).1
  have hl := lv_entry av (n := n) hn
  rw [lg_entry_eq]
  generalize (lg_sl av ++ List.replicate (n - (lg_sl av).length) Slot.unset).toArray = ls at hl ⊢
  have hT : x_E w s := ⟨hTT, hAA⟩
  refine body p e s m av.toArray below meth c _ ls ⟨hx, hb, hml, hown, hts⟩ hT hl ⟨hP, hG, va_S.rf⟩ ⟨hnm, B.named⟩ ?_ ?_ rfl hlocks hnt
  · intro r S1 H locs cells slots hokr hp hW h1 h2 pc ls hd
    refine vx_ret ?_
    refine W.widen (k := mc) (n := ms) h1 h2 ?_
    exact W.zret (v := r) hx hb hr (hok r hokr) (fun t ht hw => ⟨⟨some (.int r), S1, rfl, ⟨r, rfl, hp⟩, x_W.I hT hW ht hw⟩, hW.2.2.F ht⟩) hW.2.2.2.2 hd hlocks
  · intro E q S1 H locs cells slots pc ls rest hp hW ⟨ce, g1, g2, g3⟩ h1 h2 hout
    exact vx_out hout hlocks g1 g2 g3 (fun t ht hw => ⟨⟨S1, hp, x_W.I hT hW ht hw⟩, hW.2.2.F ht⟩) hW.2.2.2.2 h1 h2
theorem xxofl {l : Launch} {w : XP} {y : MethodName} {cc : ByteArray} {n d mc ms : Nat} {av : List Value} {S : HS} {post : Int64 → HS → Prop} {px : String → Addr → HS → Prop} (own : String) (hy : plainName y.cls = true) (hc : y.cls = own) (hn : (lg_sl av).length ≤ n)
    (body : ∀ (p : Program) (e : Env) (s : State) (m : MethodId) (args : Array Value) (below : List Frame) (meth : Method) (c : Code) (Q : State → Prop) (ls : Array Slot), CallFix p m c cc n s args lw_all own → x_E w s → lv_has ls n (lv_args 0 av) → x_W w s.heap S s.heap [] → ((y.name = "<init>" → meth.name = "<init>") ∧ s.methodNamed? y = some m) →
      (∀ (r : Int64) (S1 : HS) (H : Heap) (locs : List Loc) (cells slots : Nat), post r S1 → x_W w s.heap S1 H locs → cells ≤ mc → slots ≤ ms → ∀ (pc : Nat) (ls : Array Slot), decode cc pc = .ok (.lreturn, 1) → W p l e (xrm d mc ms) s m args below meth c H locs cells slots Q (F0 m pc ls [.long r])) →
      (∀ (E : String) (q : Addr) (S1 : HS) (H : Heap) (locs : List Loc) (cells slots : Nat) (pc : Nat) (ls : Array Slot) (rest : List Value), px E q S1 → x_W w s.heap S1 H locs → xThr s H E q → cells ≤ mc → slots ≤ ms → (∀ x ∈ c.exceptionTable.toList, covers x pc = false) → vx_W p l e (xrm d mc ms) s m args below meth c H locs cells slots Q (F0 m pc ls rest) q) →
      Q = vx_MQ below (x_Q w (xKl post)) (x_X w px) args s mc ms (x_A w) → meth.locks = false → (∀ x ∈ c.exceptionTable.toList, False) →
      W p l e (xrm d mc ms) s m args below meth c s.heap [] 0 0 Q (F0 m 0 ls [])) : xx_M l w y cc n (some .long) d mc ms av S (xKl post) px := by
  refine vx_ofW (cc := cc) (maxL := n) (ret := (some .long)) hy rfl ?_
  intro p e s m args below meth c s₁ B hml hnt hv
  obtain ⟨rfl, hP, hG, hTT, hAA⟩ := hv
  have hx := B.exec
  have hb := B.bytes
  have hr := B.returns
  have hts0 := atoms_spec (ws := ws_ y cc n (some .long)) B.pre
  have hts : ∀ w ∈ lw_all, w.before _ s = true := fun w h => hts0 w (List.mem_cons_of_mem _ h)
  have hown : s.vm.findClass y.cls = some m.cls := findClass_of_methodNamed B.named
  rw [hc] at hown
  have hlocks : meth.locks = false := B.notSynchronized
  have hnm : y.name = "<init>" → meth.name = "<init>" := fun h => by rw [← h]; exact (name_of_methodNamed B.named B.method).1
  have hl := lv_entry av (n := n) hn
  rw [lg_entry_eq]
  generalize (lg_sl av ++ List.replicate (n - (lg_sl av).length) Slot.unset).toArray = ls at hl ⊢
  have hT : x_E w s := ⟨hTT, hAA⟩
  refine body p e s m av.toArray below meth c _ ls ⟨hx, hb, hml, hown, hts⟩ hT hl ⟨hP, hG, va_S.rf⟩ ⟨hnm, B.named⟩ ?_ ?_ rfl hlocks hnt
  · intro r S1 H locs cells slots hp hW h1 h2 pc ls hd
    refine vx_ret ?_
    refine W.widen (k := mc) (n := ms) h1 h2 ?_
    exact W.lret (v := r) hx hb hr (fun t ht hw => ⟨⟨some (.long r), S1, rfl, ⟨r, rfl, hp⟩, x_W.I hT hW ht hw⟩, hW.2.2.F ht⟩) hW.2.2.2.2 hd hlocks
  · intro E q S1 H locs cells slots pc ls rest hp hW ⟨ce, g1, g2, g3⟩ h1 h2 hout
    exact vx_out hout hlocks g1 g2 g3 (fun t ht hw => ⟨⟨S1, hp, x_W.I hT hW ht hw⟩, hW.2.2.F ht⟩) hW.2.2.2.2 h1 h2
theorem xxofa {l : Launch} {w : XP} {y : MethodName} {cc : ByteArray} {n d mc ms : Nat} {ty : FieldType} {av : List Value} {S : HS} {post : Option Nat → HS → Prop} {px : String → Addr → HS → Prop} (own : String) (hy : plainName y.cls = true) (hc : y.cls = own) (hn : (lg_sl av).length ≤ n) (hrt : (∃ n, ty = .object n) ∨ ∃ t, ty = .array t)
    (body : ∀ (p : Program) (e : Env) (s : State) (m : MethodId) (args : Array Value) (below : List Frame) (meth : Method) (c : Code) (Q : State → Prop) (ls : Array Slot), CallFix p m c cc n s args lw_all own → x_E w s → lv_has ls n (lv_args 0 av) → x_W w s.heap S s.heap [] → ((y.name = "<init>" → meth.name = "<init>") ∧ s.methodNamed? y = some m) →
      (∀ (r : Option Nat) (S1 : HS) (H : Heap) (locs : List Loc) (cells slots : Nat), post r S1 → x_W w s.heap S1 H locs → cells ≤ mc → slots ≤ ms → ∀ (pc : Nat) (ls : Array Slot), decode cc pc = .ok (.areturn, 1) → W p l e (xrm d mc ms) s m args below meth c H locs cells slots Q (F0 m pc ls [va_rf r])) →
      (∀ (E : String) (q : Addr) (S1 : HS) (H : Heap) (locs : List Loc) (cells slots : Nat) (pc : Nat) (ls : Array Slot) (rest : List Value), px E q S1 → x_W w s.heap S1 H locs → xThr s H E q → cells ≤ mc → slots ≤ ms → (∀ x ∈ c.exceptionTable.toList, covers x pc = false) → vx_W p l e (xrm d mc ms) s m args below meth c H locs cells slots Q (F0 m pc ls rest) q) →
      Q = vx_MQ below (x_Q w (xKo post)) (x_X w px) args s mc ms (x_A w) → meth.locks = false → (∀ x ∈ c.exceptionTable.toList, False) →
      W p l e (xrm d mc ms) s m args below meth c s.heap [] 0 0 Q (F0 m 0 ls [])) : xx_M l w y cc n (some ty) d mc ms av S (xKo post) px := by
  refine vx_ofW (cc := cc) (maxL := n) (ret := (some ty)) hy rfl ?_
  intro p e s m args below meth c s₁ B hml hnt hv
  obtain ⟨rfl, hP, hG, hTT, hAA⟩ := hv
  have hx := B.exec
  have hb := B.bytes
  have hr := B.returns
  have hts0 := atoms_spec (ws := ws_ y cc n (some ty)) B.pre
  have hts : ∀ w ∈ lw_all, w.before _ s = true := fun w h => hts0 w (List.mem_cons_of_mem _ h)
  have hown : s.vm.findClass y.cls = some m.cls := findClass_of_methodNamed B.named
  rw [hc] at hown
  have hlocks : meth.locks = false := B.notSynchronized
  have hnm : y.name = "<init>" → meth.name = "<init>" := fun h => by rw [← h]; exact (name_of_methodNamed B.named B.method).1
  have hl := lv_entry av (n := n) hn
  rw [lg_entry_eq]
  generalize (lg_sl av ++ List.replicate (n - (lg_sl av).length) Slot.unset).toArray = ls at hl ⊢
  have hT : x_E w s := ⟨hTT, hAA⟩
  refine body p e s m av.toArray below meth c _ ls ⟨hx, hb, hml, hown, hts⟩ hT hl ⟨hP, hG, va_S.rf⟩ ⟨hnm, B.named⟩ ?_ ?_ rfl hlocks hnt
  · intro r S1 H locs cells slots hp hW h1 h2 pc ls hd
    refine vx_ret ?_
    refine W.widen (k := mc) (n := ms) h1 h2 ?_
    exact W.aret (v := va_rf r) hx hb hr hrt (by cases r <;> simp [va_rf]) (fun t ht hw => ⟨⟨some (va_rf r), S1, rfl, ⟨r, rfl, hp⟩, x_W.I hT hW ht hw⟩, hW.2.2.F ht⟩) hW.2.2.2.2 hd hlocks
  · intro E q S1 H locs cells slots pc ls rest hp hW ⟨ce, g1, g2, g3⟩ h1 h2 hout
    exact vx_out hout hlocks g1 g2 g3 (fun t ht hw => ⟨⟨S1, hp, x_W.I hT hW ht hw⟩, hW.2.2.F ht⟩) hW.2.2.2.2 h1 h2
theorem xxofr {l : Launch} {w : XP} {y : MethodName} {cc : ByteArray} {n d mc ms : Nat} {ty : FieldType} {av : List Value} {S : HS} {post : Nat → HS → Prop} {px : String → Addr → HS → Prop} (own : String) (hy : plainName y.cls = true) (hc : y.cls = own) (hn : (lg_sl av).length ≤ n) (hrt : (∃ n, ty = .object n) ∨ ∃ t, ty = .array t)
    (body : ∀ (p : Program) (e : Env) (s : State) (m : MethodId) (args : Array Value) (below : List Frame) (meth : Method) (c : Code) (Q : State → Prop) (ls : Array Slot), CallFix p m c cc n s args lw_all own → x_E w s → lv_has ls n (lv_args 0 av) → x_W w s.heap S s.heap [] → ((y.name = "<init>" → meth.name = "<init>") ∧ s.methodNamed? y = some m) →
      (∀ (r : Nat) (S1 : HS) (H : Heap) (locs : List Loc) (cells slots : Nat), post r S1 → x_W w s.heap S1 H locs → cells ≤ mc → slots ≤ ms → ∀ (pc : Nat) (ls : Array Slot), decode cc pc = .ok (.areturn, 1) → W p l e (xrm d mc ms) s m args below meth c H locs cells slots Q (F0 m pc ls [.ref r])) →
      (∀ (E : String) (q : Addr) (S1 : HS) (H : Heap) (locs : List Loc) (cells slots : Nat) (pc : Nat) (ls : Array Slot) (rest : List Value), px E q S1 → x_W w s.heap S1 H locs → xThr s H E q → cells ≤ mc → slots ≤ ms → (∀ x ∈ c.exceptionTable.toList, covers x pc = false) → vx_W p l e (xrm d mc ms) s m args below meth c H locs cells slots Q (F0 m pc ls rest) q) →
      Q = vx_MQ below (x_Q w (xKr post)) (x_X w px) args s mc ms (x_A w) → meth.locks = false → (∀ x ∈ c.exceptionTable.toList, False) →
      W p l e (xrm d mc ms) s m args below meth c s.heap [] 0 0 Q (F0 m 0 ls [])) : xx_M l w y cc n (some ty) d mc ms av S (xKr post) px := by
  refine vx_ofW (cc := cc) (maxL := n) (ret := (some ty)) hy rfl ?_
  intro p e s m args below meth c s₁ B hml hnt hv
  obtain ⟨rfl, hP, hG, hTT, hAA⟩ := hv
  have hx := B.exec
  have hb := B.bytes
  have hr := B.returns
  have hts0 := atoms_spec (ws := ws_ y cc n (some ty)) B.pre
  have hts : ∀ w ∈ lw_all, w.before _ s = true := fun w h => hts0 w (List.mem_cons_of_mem _ h)
  have hown : s.vm.findClass y.cls = some m.cls := findClass_of_methodNamed B.named
  rw [hc] at hown
  have hlocks : meth.locks = false := B.notSynchronized
  have hnm : y.name = "<init>" → meth.name = "<init>" := fun h => by rw [← h]; exact (name_of_methodNamed B.named B.method).1
  have hl := lv_entry av (n := n) hn
  rw [lg_entry_eq]
  generalize (lg_sl av ++ List.replicate (n - (lg_sl av).length) Slot.unset).toArray = ls at hl ⊢
  have hT : x_E w s := ⟨hTT, hAA⟩
  refine body p e s m av.toArray below meth c _ ls ⟨hx, hb, hml, hown, hts⟩ hT hl ⟨hP, hG, va_S.rf⟩ ⟨hnm, B.named⟩ ?_ ?_ rfl hlocks hnt
  · intro r S1 H locs cells slots hp hW h1 h2 pc ls hd
    refine vx_ret ?_
    refine W.widen (k := mc) (n := ms) h1 h2 ?_
    exact W.aret (v := .ref r) hx hb hr hrt (Or.inr ⟨r, rfl⟩) (fun t ht hw => ⟨⟨some (.ref r), S1, rfl, ⟨r, rfl, hp⟩, x_W.I hT hW ht hw⟩, hW.2.2.F ht⟩) hW.2.2.2.2 hd hlocks
  · intro E q S1 H locs cells slots pc ls rest hp hW ⟨ce, g1, g2, g3⟩ h1 h2 hout
    exact vx_out hout hlocks g1 g2 g3 (fun t ht hw => ⟨⟨S1, hp, x_W.I hT hW ht hw⟩, hW.2.2.F ht⟩) hW.2.2.2.2 h1 h2
theorem xxofv {l : Launch} {w : XP} {y : MethodName} {cc : ByteArray} {n d mc ms : Nat} {av : List Value} {S : HS} {post : HS → Prop} {px : String → Addr → HS → Prop} (own : String) (hy : plainName y.cls = true) (hc : y.cls = own) (hn : (lg_sl av).length ≤ n)
    (body : ∀ (p : Program) (e : Env) (s : State) (m : MethodId) (args : Array Value) (below : List Frame) (meth : Method) (c : Code) (Q : State → Prop) (ls : Array Slot), CallFix p m c cc n s args lw_all own → x_E w s → lv_has ls n (lv_args 0 av) → x_W w s.heap S s.heap [] → ((y.name = "<init>" → meth.name = "<init>") ∧ s.methodNamed? y = some m) →
      (∀ (S1 : HS) (H : Heap) (locs : List Loc) (cells slots : Nat), post S1 → x_W w s.heap S1 H locs → cells ≤ mc → slots ≤ ms → ∀ (pc : Nat) (ls : Array Slot), decode cc pc = .ok (.return_, 1) → W p l e (xrm d mc ms) s m args below meth c H locs cells slots Q (F0 m pc ls [])) →
      (∀ (E : String) (q : Addr) (S1 : HS) (H : Heap) (locs : List Loc) (cells slots : Nat) (pc : Nat) (ls : Array Slot) (rest : List Value), px E q S1 → x_W w s.heap S1 H locs → xThr s H E q → cells ≤ mc → slots ≤ ms → (∀ x ∈ c.exceptionTable.toList, covers x pc = false) → vx_W p l e (xrm d mc ms) s m args below meth c H locs cells slots Q (F0 m pc ls rest) q) →
      Q = vx_MQ below (x_Q w (xKv post)) (x_X w px) args s mc ms (x_A w) → meth.locks = false → (∀ x ∈ c.exceptionTable.toList, False) →
      W p l e (xrm d mc ms) s m args below meth c s.heap [] 0 0 Q (F0 m 0 ls [])) : xx_M l w y cc n none d mc ms av S (xKv post) px := by
  refine vx_ofW (cc := cc) (maxL := n) (ret := none) hy rfl ?_
  intro p e s m args below meth c s₁ B hml hnt hv
  obtain ⟨rfl, hP, hG, hTT, hAA⟩ := hv
  have hx := B.exec
  have hb := B.bytes
  have hr := B.returns
  have hts0 := atoms_spec (ws := ws_ y cc n none) B.pre
  have hts : ∀ w ∈ lw_all, w.before _ s = true := fun w h => hts0 w (List.mem_cons_of_mem _ h)
  have hown : s.vm.findClass y.cls = some m.cls := findClass_of_methodNamed B.named
  rw [hc] at hown
  have hlocks : meth.locks = false := B.notSynchronized
  have hnm : y.name = "<init>" → meth.name = "<init>" := fun h => by rw [← h]; exact (name_of_methodNamed B.named B.method).1
  have hl := lv_entry av (n := n) hn
  rw [lg_entry_eq]
  generalize (lg_sl av ++ List.replicate (n - (lg_sl av).length) Slot.unset).toArray = ls at hl ⊢
  have hT : x_E w s := ⟨hTT, hAA⟩
  refine body p e s m av.toArray below meth c _ ls ⟨hx, hb, hml, hown, hts⟩ hT hl ⟨hP, hG, va_S.rf⟩ ⟨hnm, B.named⟩ ?_ ?_ rfl hlocks hnt
  · intro S1 H locs cells slots hp hW h1 h2 pc ls hd
    refine vx_ret ?_
    refine W.widen (k := mc) (n := ms) h1 h2 ?_
    exact W.vret hx hb hr (fun t ht hw => ⟨⟨none, S1, rfl, ⟨rfl, hp⟩, x_W.I hT hW ht hw⟩, hW.2.2.F ht⟩) hW.2.2.2.2 hd hlocks
  · intro E q S1 H locs cells slots pc ls rest hp hW ⟨ce, g1, g2, g3⟩ h1 h2 hout
    exact vx_out hout hlocks g1 g2 g3 (fun t ht hw => ⟨⟨S1, hp, x_W.I hT hW ht hw⟩, hW.2.2.F ht⟩) hW.2.2.2.2 h1 h2
theorem xxofHi {l : Launch} {w : XP} {y : MethodName} {cc : ByteArray} {hh : List (Nat × Nat × Nat × Nat)} {n d mc ms : Nat} {ty : FieldType} {av : List Value} {S : HS} {post : Int32 → HS → Prop} {px : String → Addr → HS → Prop} (own : String) (hy : plainName y.cls = true) (hc : y.cls = own) (hn : (lg_sl av).length ≤ n) (ok : Int32 → Prop) (hok : ∀ r, ok r → narrow ty (.int r) = .int r)
    (body : ∀ (p : Program) (e : Env) (s : State) (m : MethodId) (args : Array Value) (below : List Frame) (meth : Method) (c : Code) (Q : State → Prop) (ls : Array Slot), CallFix p m c cc n s args lw_all own → x_E w s → lv_has ls n (lv_args 0 av) → x_W w s.heap S s.heap [] → ((y.name = "<init>" → meth.name = "<init>") ∧ s.methodNamed? y = some m) →
      (∀ (r : Int32) (S1 : HS) (H : Heap) (locs : List Loc) (cells slots : Nat), ok r → post r S1 → x_W w s.heap S1 H locs → cells ≤ mc → slots ≤ ms → ∀ (pc : Nat) (ls : Array Slot), decode cc pc = .ok (.ireturn, 1) → W p l e (xrm d mc ms) s m args below meth c H locs cells slots Q (F0 m pc ls [.int r])) →
      (∀ (E : String) (q : Addr) (S1 : HS) (H : Heap) (locs : List Loc) (cells slots : Nat) (pc : Nat) (ls : Array Slot) (rest : List Value), px E q S1 → x_W w s.heap S1 H locs → xThr s H E q → cells ≤ mc → slots ≤ ms → (∀ x ∈ c.exceptionTable.toList, covers x pc = false) → vx_W p l e (xrm d mc ms) s m args below meth c H locs cells slots Q (F0 m pc ls rest) q) →
      Q = vx_MQ below (x_Q w (xKi post)) (x_X w px) args s mc ms (x_A w) → meth.locks = false → c.exceptionTable.toList = tableOf hh →
      W p l e (xrm d mc ms) s m args below meth c s.heap [] 0 0 Q (F0 m 0 ls [])) : xx_MW l w y cc n (some ty) hh d mc ms av S (xKi post) px := by
  refine vx_ofWH (cc := cc) (maxL := n) (ret := (some ty)) (hh := hh) hy rfl ?_
  intro p e s m args below meth c s₁ B hml hv
  obtain ⟨rfl, hP, hG, hTT, hAA⟩ := hv
  have hx := B.exec
  have hb := B.bytes
  have hr := B.returns
  have hts0 := atoms_spec (ws := wsW_ y cc n (some ty) hh) B.pre
  have hts : ∀ w ∈ lw_all, w.before _ s = true := fun w h => hts0 w (List.mem_cons_of_mem _ h)
  have hown : s.vm.findClass y.cls = some m.cls := findClass_of_methodNamed B.named
  rw [hc] at hown
  have hlocks : meth.locks = false := B.notSynchronized
  have hnm : y.name = "<init>" → meth.name = "<init>" := fun h => by rw [← h]; exact (name_of_methodNamed B.named B.method).1
  have hl := lv_entry av (n := n) hn
  rw [lg_entry_eq]
  generalize (lg_sl av ++ List.replicate (n - (lg_sl av).length) Slot.unset).toArray = ls at hl ⊢
  have hT : x_E w s := ⟨hTT, hAA⟩
  have htab := vx_table (x := y) B (hts0 _ List.mem_cons_self)
  refine body p e s m av.toArray below meth c _ ls ⟨hx, hb, hml, hown, hts⟩ hT hl ⟨hP, hG, va_S.rf⟩ ⟨hnm, B.named⟩ ?_ ?_ rfl hlocks htab
  · intro r S1 H locs cells slots hokr hp hW h1 h2 pc ls hd
    refine vx_ret ?_
    refine W.widen (k := mc) (n := ms) h1 h2 ?_
    exact W.zret (v := r) hx hb hr (hok r hokr) (fun t ht hw => ⟨⟨some (.int r), S1, rfl, ⟨r, rfl, hp⟩, x_W.I hT hW ht hw⟩, hW.2.2.F ht⟩) hW.2.2.2.2 hd hlocks
  · intro E q S1 H locs cells slots pc ls rest hp hW ⟨ce, g1, g2, g3⟩ h1 h2 hout
    exact vx_out hout hlocks g1 g2 g3 (fun t ht hw => ⟨⟨S1, hp, x_W.I hT hW ht hw⟩, hW.2.2.F ht⟩) hW.2.2.2.2 h1 h2
theorem xxofHv {l : Launch} {w : XP} {y : MethodName} {cc : ByteArray} {hh : List (Nat × Nat × Nat × Nat)} {n d mc ms : Nat} {av : List Value} {S : HS} {post : HS → Prop} {px : String → Addr → HS → Prop} (own : String) (hy : plainName y.cls = true) (hc : y.cls = own) (hn : (lg_sl av).length ≤ n)
    (body : ∀ (p : Program) (e : Env) (s : State) (m : MethodId) (args : Array Value) (below : List Frame) (meth : Method) (c : Code) (Q : State → Prop) (ls : Array Slot), CallFix p m c cc n s args lw_all own → x_E w s → lv_has ls n (lv_args 0 av) → x_W w s.heap S s.heap [] → ((y.name = "<init>" → meth.name = "<init>") ∧ s.methodNamed? y = some m) →
      (∀ (S1 : HS) (H : Heap) (locs : List Loc) (cells slots : Nat), post S1 → x_W w s.heap S1 H locs → cells ≤ mc → slots ≤ ms → ∀ (pc : Nat) (ls : Array Slot), decode cc pc = .ok (.return_, 1) → W p l e (xrm d mc ms) s m args below meth c H locs cells slots Q (F0 m pc ls [])) →
      (∀ (E : String) (q : Addr) (S1 : HS) (H : Heap) (locs : List Loc) (cells slots : Nat) (pc : Nat) (ls : Array Slot) (rest : List Value), px E q S1 → x_W w s.heap S1 H locs → xThr s H E q → cells ≤ mc → slots ≤ ms → (∀ x ∈ c.exceptionTable.toList, covers x pc = false) → vx_W p l e (xrm d mc ms) s m args below meth c H locs cells slots Q (F0 m pc ls rest) q) →
      Q = vx_MQ below (x_Q w (xKv post)) (x_X w px) args s mc ms (x_A w) → meth.locks = false → c.exceptionTable.toList = tableOf hh →
      W p l e (xrm d mc ms) s m args below meth c s.heap [] 0 0 Q (F0 m 0 ls [])) : xx_MW l w y cc n none hh d mc ms av S (xKv post) px := by
  refine vx_ofWH (cc := cc) (maxL := n) (ret := none) (hh := hh) hy rfl ?_
  intro p e s m args below meth c s₁ B hml hv
  obtain ⟨rfl, hP, hG, hTT, hAA⟩ := hv
  have hx := B.exec
  have hb := B.bytes
  have hr := B.returns
  have hts0 := atoms_spec (ws := wsW_ y cc n none hh) B.pre
  have hts : ∀ w ∈ lw_all, w.before _ s = true := fun w h => hts0 w (List.mem_cons_of_mem _ h)
  have hown : s.vm.findClass y.cls = some m.cls := findClass_of_methodNamed B.named
  rw [hc] at hown
  have hlocks : meth.locks = false := B.notSynchronized
  have hnm : y.name = "<init>" → meth.name = "<init>" := fun h => by rw [← h]; exact (name_of_methodNamed B.named B.method).1
  have hl := lv_entry av (n := n) hn
  rw [lg_entry_eq]
  generalize (lg_sl av ++ List.replicate (n - (lg_sl av).length) Slot.unset).toArray = ls at hl ⊢
  have hT : x_E w s := ⟨hTT, hAA⟩
  have htab := vx_table (x := y) B (hts0 _ List.mem_cons_self)
  refine body p e s m av.toArray below meth c _ ls ⟨hx, hb, hml, hown, hts⟩ hT hl ⟨hP, hG, va_S.rf⟩ ⟨hnm, B.named⟩ ?_ ?_ rfl hlocks htab
  · intro S1 H locs cells slots hp hW h1 h2 pc ls hd
    refine vx_ret ?_
    refine W.widen (k := mc) (n := ms) h1 h2 ?_
    exact W.vret hx hb hr (fun t ht hw => ⟨⟨none, S1, rfl, ⟨rfl, hp⟩, x_W.I hT hW ht hw⟩, hW.2.2.F ht⟩) hW.2.2.2.2 hd hlocks
  · intro E q S1 H locs cells slots pc ls rest hp hW ⟨ce, g1, g2, g3⟩ h1 h2 hout
    exact vx_out hout hlocks g1 g2 g3 (fun t ht hw => ⟨⟨S1, hp, x_W.I hT hW ht hw⟩, hW.2.2.F ht⟩) hW.2.2.2.2 h1 h2

