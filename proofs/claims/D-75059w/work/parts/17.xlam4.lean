/-! LAMBDAS (4): what is resolved in a made class, in every later state of the tables -/
set_option maxRecDepth 100000
abbrev xLay : Type := Array Field × Array FieldType × Array FieldType
/-- the class file of a shape, its forwarder, its fields -/
def xFile (σ : Lambda.Shape) (own : String) (D : ClassFile) (fm : Method) (lay : xLay) : Prop := σ.file own = some D ∧ ((layoutMethods D).bind (·[1]?)) = some fm ∧ layoutFields D 0 = some lay
def xFd (D : ClassFile) (lay : xLay) (i ix : Nat) (fld : Field) : Prop := ∃ (ci nt : Nat) (name desc : String), D.constantPool[ix]? = some (.fieldref ci nt) ∧ D.constantPool.nameAndType? nt = some (name, desc) ∧ lay.1.findIdx? (·.name == name) = some i ∧ lay.1[i]? = some fld ∧ fld.slot = i ∧ fld.isStatic = false
def xMd (D : ClassFile) (mr ci : Nat) (cn mn ds : String) : Prop := ∃ nt n : Nat, D.constantPool[mr]? = some (.methodref ci nt) ∧ D.constantPool.className? ci = some cn ∧ D.constantPool.nameAndType? nt = some (mn, ds) ∧ D.constantPool[ci]? = some (.class_ n) ∧ ci ≠ D.thisClass ∧ D.constantPool.string? n = some cn
theorem x_made {s : State} {args : Array Value} {d c : ClassId} {σ : Lambda.Shape} {dk : Class} {own : String} {D : ClassFile} {fm : Method} {lay : xLay} (h : Lambda.isMade { classPath := fun _ => none } s.vm d σ c = true) (hd : s.vm.classes[d]? = some dk) (hn : dk.name = own) (hO : (Cond.instantiable "java/lang/Object" 0).before args s = true) (hF : xFile σ own D fm lay) :
    ∃ (k : Class) (file : ClassFile) (methk : Method) (t iface : ClassId) (tk : Class) (target found : MethodId), s.vm.classes[c]? = some k ∧ k.name = own ++ "$$Lambda" ∧ k.cf = some file ∧ file.constantPool = D.constantPool ∧ s.vm.method? ⟨c, 1⟩ = some methk ∧ Lambda.sameMethod fm methk = true ∧ s.vm.findClass σ.implClass = some t ∧ s.vm.classes[t]? = some tk ∧
      ((methodIn t σ.implName σ.implDesc.toString tk.isInterface none).ask { classPath := fun _ => none } s.vm).1 = .ok target ∧ s.vm.findClass σ.iface = some iface ∧ ((methodIn iface σ.name σ.sam.toString true none).ask { classPath := fun _ => none } s.vm).1 = .ok found ∧ selectMethod {} s.vm c found = .method ⟨c, 1⟩ ∧
      (∀ (i : Nat) (a : Field), lay.1[i]? = some a → k.fields[i]? = some a) ∧ (∀ (i : Nat) (x : _), (Lambda.resolvedOf { classPath := fun _ => none } s.vm D lay.1 c)[i]? = some (some x) → k.resolved[i]? = some (some x)) := by
  obtain ⟨dk', k, ok, tk, file, cf, object, iface, t, lay', methods, target, found, h1, h2, h3, h4, h5, h6, h7, h8, h9, h10, h11, h12, h13, ⟨hnm, -⟩, -, -, -, -, ⟨-, hpool, -⟩, hm, hf, -, hres, hsel⟩ := Lambda.isMade_spec h
  have e1 : dk' = dk := Option.some.inj (h1.symm.trans hd)
  obtain ⟨cO, kO, hfO, hkO, -, -, -, hsz⟩ := Cond.instantiable_spec hO
  have e2 : cO = object := Option.some.inj (hfO.symm.trans h5)
  rw [e2, h7] at hkO
  have e3 : ok = kO := Option.some.inj hkO
  rw [← e3] at hsz
  obtain ⟨g1, g2, g3⟩ := hF
  rw [e1, hn, g1] at h4
  have e4 : D = cf := Option.some.inj h4
  rw [hsz, ← e4, g3] at h8
  have e5 : lay = lay' := Option.some.inj h8
  rw [← e4] at h9 hpool hres
  rw [← e5] at hf hres
  rw [h9, Option.bind_some] at g2
  obtain ⟨b, hb1, hb2⟩ := hm 1 fm g2
  exact ⟨k, file, b, t, iface, tk, target, found, h2, by rw [hnm, e1, hn], h3, hpool, by simp [Vm.method?, h2, hb1], hb2, h10, h11, h12, h6, h13, hsel, hf, hres⟩
section XL4
variable {s : State} {args : Array Value} {σ : Lambda.Shape} {x : MethodName} {pcx ix : Nat} {cK : ClassId} {D : ClassFile} {fm : Method} {lay : xLay}
/-- the same, in every later state of the tables -/
theorem x_later (hL : lamF x pcx ix σ cK s) (hO : Cond.instantiable "java/lang/Object" 0 ∈ lw_all) (hts : ∀ w ∈ lw_all, w.before args s = true) {vm : Vm} (hW : s.WarmedH vm) : ∃ (d : ClassId) (dk : Class), Lambda.isMade { classPath := fun _ => none } (s.setVm vm).vm d σ cK = true ∧ (s.setVm vm).vm.classes[d]? = some dk ∧ dk.name = x.cls ∧ (Cond.instantiable "java/lang/Object" 0).before args (s.setVm vm) = true := by
  obtain ⟨m0, k, cf, i0, p0, hm0, hk, -, -, -, hmade, -⟩ := hL
  obtain ⟨k', hk', hkn⟩ := className_of_methodNamed hm0
  have e1 : k' = k := Option.some.inj (hk'.symm.trans hk)
  obtain ⟨k2, hk2, he2⟩ := hW.alike.2.2 _ _ hk
  refine ⟨m0.cls, k2, Lambda.isMade_warmer hW hmade, hk2, by rw [he2, ← e1]; exact hkn, ?_⟩
  exact word_at (U := s.setVm vm) hW (good_of_word (List.mem_filter.mp hO).2) (hts _ hO)
theorem x_rdyF (hL : lamF x pcx ix σ cK s) (hts : ∀ w ∈ lw_all, w.before args s = true) (hF : xFile σ x.cls D fm lay) {i fx : Nat} {fld : Field} (h : xFd D lay i fx fld) : ∀ vm, s.WarmedH vm → vm.fieldReady cK fx cK fld := by
  intro vm hW
  obtain ⟨d, dk, h1, h2, h3, h4⟩ := x_later hL q2803 hts hW
  obtain ⟨k, file, methk, t, iface, tk, target, found, k1, -, -, -, -, -, -, -, -, -, -, -, hf, hres⟩ := x_made h1 h2 h3 h4 hF
  obtain ⟨ci, nt, name, desc, g1, g2, g3, g4, -, -⟩ := h
  exact ⟨k, i, k, k1, hres fx _ (Lambda.resolvedOf_field g1 g2 g3), k1, hf i fld g4⟩
theorem x_rdyM (hL : lamF x pcx ix σ cK s) (hts : ∀ w ∈ lw_all, w.before args s = true) (hF : xFile σ x.cls D fm lay) {mr ci : Nat} {y : MethodName} (hy : y = ⟨σ.implClass, σ.implName, σ.implDesc.toString⟩) (h : xMd D mr ci y.cls y.name y.desc) : ∀ vm, s.WarmedH vm → xRdy vm cK mr ci y := by
  intro vm hW
  obtain ⟨d, dk, h1, h2, h3, h4⟩ := x_later hL q2803 hts hW
  obtain ⟨k, file, methk, t, iface, tk, target, found, k1, -, k3, k4, -, -, k7, k8, k9, -, -, -, hf, hres⟩ := x_made h1 h2 h3 h4 hF
  obtain ⟨nt, n, g1, g2, g3, g4, g5, g6⟩ := h
  subst hy
  exact ⟨k, file, nt, t, tk, target, k1, k3, by rw [k4]; exact g1, by rw [k4]; exact g3, ⟨k, k1, hres ci _ (Lambda.resolvedOf_class g4 g5 g6 k7)⟩, ⟨k, k1, hres mr _ (Lambda.resolvedOf_method g1 g2 k7 k8 g3 k9)⟩, k7, k8, k9⟩
/-- the forwarder itself -/
theorem x_fwd (hL : lamF x pcx ix σ cK s) (hts : ∀ w ∈ lw_all, w.before args s = true) (hF : xFile σ x.cls D fm lay) {F : ByteArray} {ML : Nat} {rt : Option FieldType} (hcode : (fm.code.map fun c => (c.code.data, c.maxLocals)) = some (F.data, ML)) (hfl : fm.accessFlags = 1) (hrt : fm.sig.returnType = rt) : ∀ vm, s.WarmedH vm → ∃ (k : Class) (methk : Method) (ck : Code), vm.classes[cK]? = some k ∧ k.name = x.cls ++ "$$Lambda" ∧ vm.method? ⟨cK, 1⟩ = some methk ∧ methk.code = some ck ∧ ck.code = F ∧ ck.maxLocals = ML ∧ methk.locks = false ∧ methk.accessFlags = 1 ∧ methk.sig.returnType = rt := by
  intro vm hW
  obtain ⟨d, dk, h1, h2, h3, h4⟩ := x_later hL q2803 hts hW
  obtain ⟨k, file, methk, t, iface, tk, target, found, k1, k2, -, -, k5, k6, -⟩ := x_made h1 h2 h3 h4 hF
  obtain ⟨g1, g2, g3, g4, a, b, ga, gb, -, g5, g6, -⟩ := Lambda.sameMethod_spec k6
  rw [ga, Option.map_some] at hcode
  have e1 := Option.some.inj hcode
  have e2 : a.code.data = F.data := congrArg Prod.fst e1
  have e3 : a.maxLocals = ML := congrArg Prod.snd e1
  refine ⟨k, methk, b, k1, k2, k5, gb, ?_, by rw [g5]; exact e3, ?_, by rw [g4]; exact hfl, by rw [g3]; exact hrt⟩
  · rw [g6]
    exact ByteArray.ext e2
  · simp [Method.locks, Method.isSynchronized, g4, hfl, hasFlag, Acc.synchronized]
end XL4
