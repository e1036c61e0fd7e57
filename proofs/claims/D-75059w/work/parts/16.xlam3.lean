/-! LAMBDAS (3): called -/
set_option maxRecDepth 100000
/-- what a made class's forwarder asks of the tables: its reference is resolved -/
def xRdy (vm : Vm) (cK : ClassId) (index ci : Nat) (y : MethodName) : Prop := ∃ (k : Class) (file : ClassFile) (nt : Nat) (t : ClassId) (tk : Class) (target : MethodId), vm.classes[cK]? = some k ∧ k.cf = some file ∧ file.constantPool[index]? = some (.methodref ci nt) ∧ file.constantPool.nameAndType? nt = some (y.name, y.desc) ∧ vm.classReady cK ci t ∧ vm.methodReady cK index target ∧ vm.findClass y.cls = some t ∧ vm.classes[t]? = some tk ∧ ((methodIn t y.name y.desc tk.isInterface none).ask { classPath := fun _ => none } vm).1 = .ok target
section XL3
variable {p : Program} {l : Launch} {e : Env} {R : Room} {s : State} {m : MethodId} {args : Array Value} {below : List Frame} {meth : Method} {c : Code} {H : Heap} {locs : List Loc} {cells slots : Nat} {Q : State → Prop}
variable {cc : ByteArray} {pc : Nat} {ls : Array Slot} {rest st0 : List Value} {w : XP} {S : HS} {H0 : Heap}
theorem x_getRdy (hx : p.tables.exec = Jvm.exec) (hb : c.code = cc) {index a : Nat} {cK : ClassId} {fld : Field} {cell : Cell} {v : Value} (hr : ∀ vm, s.WarmedH vm → vm.fieldReady m.cls index cK fld) (hst : fld.isStatic = false) (hcell : H[a]? = some cell) (hknown : cell.vm ≠ .unknown) (hv : cell.slots[fld.slot]? = some v) (hdg : decode cc pc = .ok (.getfield index, 3))
    (kk : W p l e R s m args below meth c H locs cells slots Q (F0 m (pc + 3) ls (v :: rest))) : W p l e R s m args below meth c H locs cells slots Q (F0 m pc ls (.ref a :: rest)) := by
  intro T hT0 X
  obtain ⟨t, a1, b1⟩ := kk T hT0 X
  refine ⟨t, ?_, b1⟩
  have hr' := hr T.vm X.warmed
  jvm_step X.here [X.here.top, hx, hb, hdg, getfield.wp_ready (e := e) (s := T) (f := F0 m pc ls (.ref a :: rest)) X.here.top hr' hst rfl (by rw [hT0]; exact hcell) hknown hv]
  exact a1
theorem x_rdyS {y : MethodName} {by' : ByteArray} {mL n d index ci mc1 ms1 : Nat} {ret : Option FieldType} {av : List Value} {K : Option Value → HS → Prop} (hx : p.tables.exec = Jvm.exec) (hb : c.code = cc) (hsz : ls.size = c.maxLocals) (hts : ∀ w ∈ lw_all, w.before args s = true) (hT : x_E w s) (hW : x_W w s.heap S H locs) (hM : x_M l w y by' mL ret d mc1 ms1 av S K)
    (hcode : Cond.code y by' mL ret ∈ lw_all) (hini : Cond.initialized y.cls ∈ lw_all) (hstt : Cond.static y ∈ lw_all) (hy : y.cls ≠ "java/lang/invoke/MethodHandle" ∧ y.cls ≠ "java/lang/invoke/VarHandle" ∧ (parseMethodDescriptor y.desc).map (fun d => d.parameters.length) = some n) (hR : d + 13 ≤ R.frames ∧ 8 + (mL + 11) + (128 * d + 4096) ≤ R.locals) (hf : cells + mc1 ≤ R.cells ∧ slots + ms1 ≤ R.slots)
    (hn : av.length = n) (hrm : (rest.map fun v => v.category).sum ≤ 8) (hrdy : ∀ vm, s.WarmedH vm → xRdy vm m.cls index ci y) (hdg : decode cc pc = .ok (.invokestatic index, 3)) : va_Run p l e R s m args below meth c H locs cells slots mc1 ms1 (F0 m pc ls (av.reverse ++ rest)) rest (x_Q w K av.toArray) (x_A w) := by
  have hG : GoodIn lw_all (ws_ y by' mL ret) := lw_meth hcode
  have hini' := hts _ hini
  have hK : Back l R p e below s args y 3 8 (PreOf R mc1 ms1 (va_Pc av (x_I w S))) (PostOf (x_Q w K) mc1 ms1 (x_A w)) := back_of (bytes := by') (maxL := mL) (ret := ret) hM x_I.blind rfl rfl hR.1 hR.2 (pay_in hts hG) List.mem_cons_self (fun a' U hW => word_at hW (Or.inl (by first | rfl | simp [Cond.onTables, Cond.keeps, Cond.steady])) hini')
  intro T hT0 X
  have hcode' := hts _ hcode
  obtain ⟨mT, hnamed⟩ := Cond.code_named hcode'
  obtain ⟨methT, cT, hmethT, -, -, -, -, -, -, hsigT⟩ := Cond.code_spec hnamed hcode'
  have hstatic : methT.isStatic = true := Cond.static_spec hnamed hmethT (hts _ hstt)
  obtain ⟨kT, hkT, hnameT⟩ := className_of_methodNamed hnamed
  have hinitK : kT.init = .initialized := Cond.initialized_spec (findClass_of_methodNamed hnamed) hkT hini'
  obtain ⟨k, file, nt, t, tk, target, r1, r2, r3, r4, r5, r6, r7, r8, r9⟩ := hrdy T.vm X.warmed
  have hW₁ := X.warmed
  have hfT : T.vm.findClass y.cls = some mT.cls := by rw [hW₁.alike.findClass]; exact findClass_of_methodNamed hnamed
  have et : t = mT.cls := Option.some.inj (r7.symm.trans hfT)
  have etg : target = mT := by
    have h1 : (s.setVm T.vm).methodFound? y.cls y.name y.desc = some mT := by rw [State.methodFound?_setVm hW₁.alike]; exact State.methodFound?_of_named hnamed ⟨hy.1, hy.2.1⟩
    simp only [State.methodFound?, State.vm_setVm, r7, r8, Option.bind_eq_bind, Option.bind_some] at h1
    rw [r9] at h1
    exact Option.some.inj h1
  subst et
  subst etg
  have hmT₁ : T.vm.method? target = some methT := by rw [hW₁.alike.method?]; exact hmethT
  obtain ⟨kT₁, hkT₁, heT₁⟩ := hW₁.alike.2.2 _ _ hkT
  have hnm : kT₁.name = y.cls := by rw [heT₁]; exact hnameT
  have hsp : ∀ z : Method, signaturePolymorphic kT₁ z = false := fun z => by simp [signaturePolymorphic, hnm, hy.1, hy.2.1]
  obtain ⟨b, hmem⟩ := memberRef_ask' (e := e) (vm := T.vm) (d := m.cls) (index := index) r1 r2 (Or.inl r3) r4
  have hlen : av.length = methT.sig.parameters.length := by
    have h2 := hy.2.2
    rw [hsigT] at h2
    rw [hn]
    exact (Option.some.inj h2).symm
  obtain ⟨v, ⟨U', l2, c2, s2⟩, X', ⟨g', mk, t2, L, e1, e2, hq, h1, hL, h2, h3⟩, hsteps⟩ := hK m meth c ⟨T, locs, cells, slots⟩ (F0 m pc ls rest) (.invokestatic index) target av.toArray X rfl hsz (by rw [hb]; exact hdg) (lv_room hrm) (X.named hnamed) ⟨hf.1, hf.2, rfl, x_W.I hT hW hT0 X.warmed⟩
  dsimp only [Pt.U, Pt.locs, Pt.cells, Pt.slots] at X' e1 e2 h1 h2 h3 hsteps
  subst h1; subst h2; subst h3
  refine ⟨v, T.calling g' mk av.toArray, t2, U', L, hT0, X', hL, e1, e2, hq, fun target2 hrest => ?_⟩
  jvm_step X.here [X.here.top, hx, hb, hdg, invokestatic.wp_ready (e := e) (s := T) (m := target) (k := kT₁) (meth := methT) (args := av) (rest := rest) (f := F0 m pc ls (av.reverse ++ rest)) X.here.top ⟨ci, _, _, b, target.cls, kT₁, hmem, r5, hkT₁, by simp [hsp]⟩ r6 hkT₁ hmT₁ (hsp _) hstatic (by rw [heT₁]; exact hinitK) hlen rfl]
  intro acts
  rw [doInvoke_state]
  exact hsteps.trans hrest
theorem x_rdyV {y : MethodName} {by' : ByteArray} {mL n d index ci mc1 ms1 : Nat} {ret : Option FieldType} {av : List Value} {b0 ci0 : Nat} {C : String} {T0 : u_T} {N : Nat} {K : Option Value → HS → Prop} (hx : p.tables.exec = Jvm.exec) (hb : c.code = cc) (hsz : ls.size = c.maxLocals) (hts : ∀ w ∈ lw_all, w.before args s = true) (hT : x_E w s) (hW : x_W w s.heap S H locs) (hc0 : xcl[ci0]? = some (C, T0, N)) (hci0 : ci0 < 40) (hd9 : hD S ci0 b0) (hM : x_M l w y by' mL ret d mc1 ms1 (.ref b0 :: av) S K)
    (hcode : Cond.code y by' mL ret ∈ lw_all) (hini : Cond.initialized y.cls ∈ lw_all) (hinst : Cond.instanceMethod y ∈ lw_all) (hsel : Cond.selects C y y ∈ lw_all) (hy : y.cls ≠ "java/lang/invoke/MethodHandle" ∧ y.cls ≠ "java/lang/invoke/VarHandle" ∧ (parseMethodDescriptor y.desc).map (fun d => d.parameters.length) = some n) (hR : d + 13 ≤ R.frames ∧ 8 + (mL + 11) + (128 * d + 4096) ≤ R.locals) (hf : cells + mc1 ≤ R.cells ∧ slots + ms1 ≤ R.slots)
    (hn : av.length = n) (hrm : (rest.map fun v => v.category).sum ≤ 8) (hrdy : ∀ vm, s.WarmedH vm → xRdy vm m.cls index ci y) (hdg : decode cc pc = .ok (.invokevirtual index, 3)) : va_Run p l e R s m args below meth c H locs cells slots mc1 ms1 (F0 m pc ls (av.reverse ++ .ref b0 :: rest)) rest (x_Q w K (Value.ref b0 :: av).toArray) (x_A w) := by
  have hG : GoodIn lw_all (ws_ y by' mL ret) := lw_meth hcode
  have hini' := hts _ hini
  have hK : Back l R p e below s args y 3 8 (PreOf R mc1 ms1 (va_Pc (.ref b0 :: av) (x_I w S))) (PostOf (x_Q w K) mc1 ms1 (x_A w)) := back_of (bytes := by') (maxL := mL) (ret := ret) hM x_I.blind rfl rfl hR.1 hR.2 (pay_in hts hG) List.mem_cons_self (fun a' U hW => word_at hW (Or.inl (by first | rfl | simp [Cond.onTables, Cond.keeps, Cond.steady])) hini')
  intro T hT0 X
  have hcode' := hts _ hcode
  obtain ⟨mT, hnamed⟩ := Cond.code_named hcode'
  obtain ⟨methT, cT, hmethT, -, -, -, -, -, -, hsigT⟩ := Cond.code_spec hnamed hcode'
  obtain ⟨mI, methI, hnI, hmI, hstI, habI⟩ := Cond.instanceMethod_spec (hts _ hinst)
  have eI1 : mI = mT := Option.some.inj (hnI.symm.trans hnamed)
  rw [eI1] at hmI
  have eI2 : methI = methT := Option.some.inj (hmI.symm.trans hmethT)
  rw [eI2] at hstI habI
  obtain ⟨c2, r2m, m2, q1, q2, q3, q4, kP, hkP, hkPi⟩ := Cond.selects_spec (hts _ hsel)
  have eM : m2 = mT := Option.some.inj (q3.symm.trans hnamed)
  have eR : r2m = mT := Option.some.inj (q2.symm.trans (State.methodFound?_of_named hnamed ⟨hy.1, hy.2.1⟩))
  rw [eM] at q4 hkP
  rw [eR] at q4
  obtain ⟨cellB, hcB, hoB, hclB⟩ := x_recv hT hW hc0 hci0 hd9
  have eC : c2 = cellB.cls := Option.some.inj (q1.symm.trans hclB)
  rw [eC] at q4
  obtain ⟨kT, hkT, hnameT⟩ := className_of_methodNamed hnamed
  have hinitK : kT.init = .initialized := Cond.initialized_spec (findClass_of_methodNamed hnamed) hkT hini'
  obtain ⟨k, file, nt, t, tk, target, r1, r2, r3, r4, r5, r6, r7, r8, r9⟩ := hrdy T.vm X.warmed
  have hW₁ := X.warmed
  have hfT : T.vm.findClass y.cls = some mT.cls := by rw [hW₁.alike.findClass]; exact findClass_of_methodNamed hnamed
  have et : t = mT.cls := Option.some.inj (r7.symm.trans hfT)
  have etg : target = mT := by
    have h1 : (s.setVm T.vm).methodFound? y.cls y.name y.desc = some mT := by rw [State.methodFound?_setVm hW₁.alike]; exact State.methodFound?_of_named hnamed ⟨hy.1, hy.2.1⟩
    simp only [State.methodFound?, State.vm_setVm, r7, r8, Option.bind_eq_bind, Option.bind_some] at h1
    rw [r9] at h1
    exact Option.some.inj h1
  subst et
  subst etg
  have hmT₁ : T.vm.method? target = some methT := by rw [hW₁.alike.method?]; exact hmethT
  obtain ⟨kT₁, hkT₁, heT₁⟩ := hW₁.alike.2.2 _ _ hkT
  have hnm : kT₁.name = y.cls := by rw [heT₁]; exact hnameT
  have hsp : ∀ z : Method, signaturePolymorphic kT₁ z = false := fun z => by simp [signaturePolymorphic, hnm, hy.1, hy.2.1]
  obtain ⟨b, hmem⟩ := memberRef_ask' (e := e) (vm := T.vm) (d := m.cls) (index := index) r1 r2 (Or.inl r3) r4
  have hlen : av.length = methT.sig.parameters.length := by
    have h2 := hy.2.2
    rw [hsigT] at h2
    rw [hn]
    exact (Option.some.inj h2).symm
  obtain ⟨v, ⟨U', l2, c2, s2⟩, X', ⟨g', mk, t2, L, e1, e2, hq, h1, hL, h2, h3⟩, hsteps⟩ := hK m meth c ⟨T, locs, cells, slots⟩ (F0 m pc ls rest) (.invokevirtual index) target (Value.ref b0 :: av).toArray X rfl hsz (by rw [hb]; exact hdg) (lv_room hrm) (X.named hnamed) ⟨hf.1, hf.2, rfl, x_W.I hT hW hT0 X.warmed⟩
  dsimp only [Pt.U, Pt.locs, Pt.cells, Pt.slots] at X' e1 e2 h1 h2 h3 hsteps
  subst h1; subst h2; subst h3
  refine ⟨v, T.calling g' mk (Value.ref b0 :: av).toArray, t2, U', L, hT0, X', hL, e1, e2, hq, fun target2 hrest => ?_⟩
  obtain ⟨kP', hkP', heP'⟩ := hW₁.alike.2.2 _ _ hkP
  jvm_step X.here [X.here.top, hx, hb, hdg, invokevirtual.wp_ready (e := e) (s := T) (r := target) (m := target) (k := kT₁) (mk := kP') (rmeth := methT) (meth := methT) (a := b0) (cell := cellB) (args := av) (rest := rest) (f := F0 m pc ls (av.reverse ++ .ref b0 :: rest)) X.here.top ⟨k, file, ci, nt, _, kP', r1, r2, r3, r5, hkP', by rw [heP']; exact hkPi⟩ r6 hkT₁ hmT₁ (hsp _) hstI hlen rfl (by rw [hT0]; exact hcB) (fun z h => by rw [h] at hoB; cases hoB) (by rw [hW₁.alike.selectMethod, Launch.admits_selectMethod X.admits]; exact q4) hmT₁ habI hkP' (by rw [heP']; exact hkPi)]
  intro acts
  rw [doInvoke_state]
  exact hsteps.trans hrest
end XL3
