/-! THE FREE HEAP (6): what the printer's walks ask besides -/
set_option maxRecDepth 100000
theorem xb_f {x : Int32} (h : x = 0 ∨ x = 1) : fits .boolean (.int x) = true := by rcases h with rfl | rfl <;> rfl
theorem xc_f {x : Int32} (h : narrow .char (.int x) = .int x) : fits .char (.int x) = true := by
  have h2 : (x.toUInt32 % 65536).toInt32 = x := by
    have h3 : narrow .char (.int x) = .int (x.toUInt32.toUInt16.toUInt32.toInt32) := rfl
    rw [h3] at h
    have h4 := Value.int.inj h
    simpa using h4
  rw [← h2]
  exact pk_fc x
theorem xy_f {x : Int32} (h : narrow .byte (.int x) = .int x) : fits .byte (.int x) = true := by
  have h2 : x.toInt8.toInt32 = x := Value.int.inj h
  rw [← h2]
  exact pk_fb x
theorem va_rf_cat (o : Option Nat) : (va_rf o).category = 1 := by cases o <;> rfl
theorem x_ZqOf {C n d : String} {A : Nat → Prop} {U : State} {H : Heap} (h : vx_Zq C n d A U H) : va_Zq C n d A U H := h.1
theorem x_lkOut {x : Int32} {dflt : Int} (ps : List (Int × Int)) {a : Array (Int × Int)} (ha : a.toList = ps) (h : ∀ q ∈ ps, ¬ x.toInt = q.1) : Op.lookupswitch.offset a.toList dflt x.toInt = dflt := by
  rw [ha]
  clear ha
  induction ps with
  | nil => rfl
  | cons q r ih =>
    have h1 := h q List.mem_cons_self
    have h2 := ih (fun z hz => h z (List.mem_cons_of_mem _ hz))
    show (if q.fst = x.toInt then q.snd else Op.lookupswitch.offset r dflt x.toInt) = dflt
    rw [if_neg (fun e => h1 e.symm)]
    exact h2
theorem xdf_0 : ∀ k b, (xlay 0)[k]? = some b → defaultValue (tyX1 k) = if b = true then .null else .int 0
  | 0, b, h => by simp [xlay] at h; subst h; rfl
  | 1, b, h => by simp [xlay] at h; subst h; rfl
  | 2, b, h => by simp [xlay] at h; subst h; rfl
  | 3, b, h => by simp [xlay] at h; subst h; rfl
  | 4, b, h => by simp [xlay] at h; subst h; rfl
  | 5, b, h => by simp [xlay] at h; subst h; rfl
  | 6, b, h => by simp [xlay] at h; subst h; rfl
  | 7, b, h => by simp [xlay] at h; subst h; rfl
  | 8, b, h => by simp [xlay] at h; subst h; rfl
  | 9, b, h => by simp [xlay] at h; subst h; rfl
  | 10, b, h => by simp [xlay] at h; subst h; rfl
  | 11, b, h => by simp [xlay] at h; subst h; rfl
  | n + 12, b, h => by simp [xlay] at h
theorem xdf_1 : ∀ k b, (xlay 1)[k]? = some b → defaultValue (tyX2 k) = if b = true then .null else .int 0
  | 0, b, h => by simp [xlay] at h; subst h; rfl
  | 1, b, h => by simp [xlay] at h; subst h; rfl
  | 2, b, h => by simp [xlay] at h; subst h; rfl
  | 3, b, h => by simp [xlay] at h; subst h; rfl
  | 4, b, h => by simp [xlay] at h; subst h; rfl
  | 5, b, h => by simp [xlay] at h; subst h; rfl
  | 6, b, h => by simp [xlay] at h; subst h; rfl
  | 7, b, h => by simp [xlay] at h; subst h; rfl
  | 8, b, h => by simp [xlay] at h; subst h; rfl
  | 9, b, h => by simp [xlay] at h; subst h; rfl
  | 10, b, h => by simp [xlay] at h; subst h; rfl
  | 11, b, h => by simp [xlay] at h; subst h; rfl
  | n + 12, b, h => by simp [xlay] at h
theorem xdf_2 : ∀ k b, (xlay 2)[k]? = some b → defaultValue (tyX3 k) = if b = true then .null else .int 0
  | 0, b, h => by simp [xlay] at h; subst h; rfl
  | 1, b, h => by simp [xlay] at h; subst h; rfl
  | 2, b, h => by simp [xlay] at h; subst h; rfl
  | 3, b, h => by simp [xlay] at h; subst h; rfl
  | 4, b, h => by simp [xlay] at h; subst h; rfl
  | n + 5, b, h => by simp [xlay] at h
theorem xdf_3 : ∀ k b, (xlay 3)[k]? = some b → defaultValue (tyX4 k) = if b = true then .null else .int 0
  | 0, b, h => by simp [xlay] at h; subst h; rfl
  | 1, b, h => by simp [xlay] at h; subst h; rfl
  | 2, b, h => by simp [xlay] at h; subst h; rfl
  | 3, b, h => by simp [xlay] at h; subst h; rfl
  | n + 4, b, h => by simp [xlay] at h
theorem xdf_4 : ∀ k b, (xlay 4)[k]? = some b → defaultValue (tyX6 k) = if b = true then .null else .int 0
  | 0, b, h => by simp [xlay] at h; subst h; rfl
  | 1, b, h => by simp [xlay] at h; subst h; rfl
  | 2, b, h => by simp [xlay] at h; subst h; rfl
  | 3, b, h => by simp [xlay] at h; subst h; rfl
  | 4, b, h => by simp [xlay] at h; subst h; rfl
  | 5, b, h => by simp [xlay] at h; subst h; rfl
  | 6, b, h => by simp [xlay] at h; subst h; rfl
  | 7, b, h => by simp [xlay] at h; subst h; rfl
  | 8, b, h => by simp [xlay] at h; subst h; rfl
  | 9, b, h => by simp [xlay] at h; subst h; rfl
  | 10, b, h => by simp [xlay] at h; subst h; rfl
  | n + 11, b, h => by simp [xlay] at h
theorem xdf_5 : ∀ k b, (xlay 5)[k]? = some b → defaultValue (tyX7 k) = if b = true then .null else .int 0
  | 0, b, h => by simp [xlay] at h; subst h; rfl
  | 1, b, h => by simp [xlay] at h; subst h; rfl
  | 2, b, h => by simp [xlay] at h; subst h; rfl
  | 3, b, h => by simp [xlay] at h; subst h; rfl
  | 4, b, h => by simp [xlay] at h; subst h; rfl
  | 5, b, h => by simp [xlay] at h; subst h; rfl
  | 6, b, h => by simp [xlay] at h; subst h; rfl
  | n + 7, b, h => by simp [xlay] at h
theorem xdf_6 : ∀ k b, (xlay 6)[k]? = some b → defaultValue (tyX8 k) = if b = true then .null else .int 0
  | 0, b, h => by simp [xlay] at h; subst h; rfl
  | 1, b, h => by simp [xlay] at h; subst h; rfl
  | 2, b, h => by simp [xlay] at h; subst h; rfl
  | 3, b, h => by simp [xlay] at h; subst h; rfl
  | n + 4, b, h => by simp [xlay] at h
theorem xdf_7 : ∀ k b, (xlay 7)[k]? = some b → defaultValue (tyX9 k) = if b = true then .null else .int 0
  | 0, b, h => by simp [xlay] at h; subst h; rfl
  | 1, b, h => by simp [xlay] at h; subst h; rfl
  | 2, b, h => by simp [xlay] at h; subst h; rfl
  | n + 3, b, h => by simp [xlay] at h
theorem xdf_8 : ∀ k b, (xlay 8)[k]? = some b → defaultValue (tyX10 k) = if b = true then .null else .int 0
  | 0, b, h => by simp [xlay] at h; subst h; rfl
  | 1, b, h => by simp [xlay] at h; subst h; rfl
  | 2, b, h => by simp [xlay] at h; subst h; rfl
  | 3, b, h => by simp [xlay] at h; subst h; rfl
  | 4, b, h => by simp [xlay] at h; subst h; rfl
  | 5, b, h => by simp [xlay] at h; subst h; rfl
  | 6, b, h => by simp [xlay] at h; subst h; rfl
  | n + 7, b, h => by simp [xlay] at h
theorem xdf_9 : ∀ k b, (xlay 9)[k]? = some b → defaultValue (tyX11 k) = if b = true then .null else .int 0
  | 0, b, h => by simp [xlay] at h; subst h; rfl
  | 1, b, h => by simp [xlay] at h; subst h; rfl
  | 2, b, h => by simp [xlay] at h; subst h; rfl
  | 3, b, h => by simp [xlay] at h; subst h; rfl
  | 4, b, h => by simp [xlay] at h; subst h; rfl
  | 5, b, h => by simp [xlay] at h; subst h; rfl
  | n + 6, b, h => by simp [xlay] at h
theorem xdf_10 : ∀ k b, (xlay 10)[k]? = some b → defaultValue (tyX12 k) = if b = true then .null else .int 0
  | 0, b, h => by simp [xlay] at h; subst h; rfl
  | 1, b, h => by simp [xlay] at h; subst h; rfl
  | 2, b, h => by simp [xlay] at h; subst h; rfl
  | 3, b, h => by simp [xlay] at h; subst h; rfl
  | 4, b, h => by simp [xlay] at h; subst h; rfl
  | 5, b, h => by simp [xlay] at h; subst h; rfl
  | 6, b, h => by simp [xlay] at h; subst h; rfl
  | n + 7, b, h => by simp [xlay] at h
theorem xdf_11 : ∀ k b, (xlay 11)[k]? = some b → defaultValue (tyX13 k) = if b = true then .null else .int 0
  | 0, b, h => by simp [xlay] at h; subst h; rfl
  | 1, b, h => by simp [xlay] at h; subst h; rfl
  | 2, b, h => by simp [xlay] at h; subst h; rfl
  | n + 3, b, h => by simp [xlay] at h
theorem xdf_12 : ∀ k b, (xlay 12)[k]? = some b → defaultValue (tyJ2 k) = if b = true then .null else .int 0
  | 0, b, h => by simp [xlay] at h; subst h; rfl
  | 1, b, h => by simp [xlay] at h; subst h; rfl
  | 2, b, h => by simp [xlay] at h; subst h; rfl
  | n + 3, b, h => by simp [xlay] at h
theorem xdf_13 : ∀ k b, (xlay 13)[k]? = some b → defaultValue (tyJ3 k) = if b = true then .null else .int 0
  | 0, b, h => by simp [xlay] at h; subst h; rfl
  | 1, b, h => by simp [xlay] at h; subst h; rfl
  | 2, b, h => by simp [xlay] at h; subst h; rfl
  | n + 3, b, h => by simp [xlay] at h
theorem xdf_14 : ∀ k b, (xlay 14)[k]? = some b → defaultValue (tyJ13 k) = if b = true then .null else .int 0
  | 0, b, h => by simp [xlay] at h; subst h; rfl
  | 1, b, h => by simp [xlay] at h; subst h; rfl
  | 2, b, h => by simp [xlay] at h; subst h; rfl
  | 3, b, h => by simp [xlay] at h; subst h; rfl
  | n + 4, b, h => by simp [xlay] at h
theorem xdf_15 : ∀ k b, (xlay 15)[k]? = some b → defaultValue (tyJ14 k) = if b = true then .null else .int 0
  | 0, b, h => by simp [xlay] at h; subst h; rfl
  | 1, b, h => by simp [xlay] at h; subst h; rfl
  | 2, b, h => by simp [xlay] at h; subst h; rfl
  | 3, b, h => by simp [xlay] at h; subst h; rfl
  | n + 4, b, h => by simp [xlay] at h
theorem xdf_16 : ∀ k b, (xlay 16)[k]? = some b → defaultValue (tyJ23 k) = if b = true then .null else .int 0
  | 0, b, h => by simp [xlay] at h; subst h; rfl
  | 1, b, h => by simp [xlay] at h; subst h; rfl
  | 2, b, h => by simp [xlay] at h; subst h; rfl
  | 3, b, h => by simp [xlay] at h; subst h; rfl
  | n + 4, b, h => by simp [xlay] at h
theorem xdf_17 : ∀ k b, (xlay 17)[k]? = some b → defaultValue (tyJ10 k) = if b = true then .null else .int 0
  | 0, b, h => by simp [xlay] at h; subst h; rfl
  | 1, b, h => by simp [xlay] at h; subst h; rfl
  | 2, b, h => by simp [xlay] at h; subst h; rfl
  | 3, b, h => by simp [xlay] at h; subst h; rfl
  | 4, b, h => by simp [xlay] at h; subst h; rfl
  | 5, b, h => by simp [xlay] at h; subst h; rfl
  | n + 6, b, h => by simp [xlay] at h
theorem xdf_18 : ∀ k b, (xlay 18)[k]? = some b → defaultValue (tyJ11 k) = if b = true then .null else .int 0
  | 0, b, h => by simp [xlay] at h; subst h; rfl
  | 1, b, h => by simp [xlay] at h; subst h; rfl
  | 2, b, h => by simp [xlay] at h; subst h; rfl
  | 3, b, h => by simp [xlay] at h; subst h; rfl
  | 4, b, h => by simp [xlay] at h; subst h; rfl
  | 5, b, h => by simp [xlay] at h; subst h; rfl
  | n + 6, b, h => by simp [xlay] at h
theorem lw_F {own : String} {idx : Nat} {C : String} {x y : MethodName} {b : ByteArray} {L : Nat} {r : Option FieldType} (h1 : Cond.methodLink own idx x ∈ lw_all) (h2 : Cond.selects C x y ∈ lw_all) (h3 : Cond.instanceMethod y ∈ lw_all) (h4 : Cond.initialized y.cls ∈ lw_all) (h5 : Cond.code y b L r ∈ lw_all) : GoodIn lw_all (va_wsF own idx C x y (ws_ y b L r)) := by
  refine lw_app ?_ (lw_meth h5)
  intro w hw
  simp only [List.mem_cons, List.not_mem_nil, or_false] at hw
  rcases hw with e | e | e | e <;> rw [e] <;> assumption
theorem lw_FW {own : String} {idx : Nat} {C : String} {x y : MethodName} {b : ByteArray} {L : Nat} {r : Option FieldType} {hh : List (Nat × Nat × Nat × Nat)} (h1 : Cond.methodLink own idx x ∈ lw_all) (h2 : Cond.selects C x y ∈ lw_all) (h3 : Cond.instanceMethod y ∈ lw_all) (h4 : Cond.initialized y.cls ∈ lw_all) (h5 : Cond.codeWith y b L r hh ∈ lw_all) : GoodIn lw_all (va_wsF own idx C x y (wsW_ y b L r hh)) := by
  refine lw_app ?_ (lw_methW h5)
  intro w hw
  simp only [List.mem_cons, List.not_mem_nil, or_false] at hw
  rcases hw with e | e | e | e <;> rw [e] <;> assumption
theorem lw_U {own : String} {idx : Nat} {C owner : String} {x y : MethodName} {b : ByteArray} {L : Nat} {r : Option FieldType} (h1 : Cond.methodLink own idx x ∈ lw_all) (h0 : Cond.sameMethod x.cls owner x.name x.desc ∈ lw_all) (h2 : Cond.selects C x y ∈ lw_all) (h3 : Cond.instanceMethod y ∈ lw_all) (h4 : Cond.initialized y.cls ∈ lw_all) (h5 : Cond.code y b L r ∈ lw_all) : GoodIn lw_all (va_wsU own idx C owner x y (ws_ y b L r)) := by
  refine lw_app ?_ (lw_meth h5)
  intro w hw
  simp only [List.mem_cons, List.not_mem_nil, or_false] at hw
  rcases hw with e | e | e | e | e <;> rw [e] <;> assumption
theorem lw_O {own : String} {idx : Nat} {C owner : String} {x y : MethodName} {b : ByteArray} {L : Nat} {r : Option FieldType} (h1 : Cond.methodLink own idx x ∈ lw_all) (h0 : Cond.sameMethod x.cls owner x.name x.desc ∈ lw_all) (h9 : Cond.instanceMethod ⟨owner, x.name, x.desc⟩ ∈ lw_all) (h2 : Cond.selects C x y ∈ lw_all) (h3 : Cond.instanceMethod y ∈ lw_all) (h4 : Cond.initialized y.cls ∈ lw_all) (h5 : Cond.code y b L r ∈ lw_all) : GoodIn lw_all (va_wsO own idx C owner x y (ws_ y b L r)) := by
  refine lw_app ?_ (lw_meth h5)
  intro w hw
  simp only [List.mem_cons, List.not_mem_nil, or_false] at hw
  rcases hw with e | e | e | e | e | e <;> rw [e] <;> assumption
theorem lw_SU {own : String} {idx : Nat} {y : MethodName} {b : ByteArray} {L : Nat} {r : Option FieldType} (h1 : Cond.methodLink own idx y ∈ lw_all) (h0 : Cond.sameMethod y.cls y.cls y.name y.desc ∈ lw_all) (h2 : Cond.superclass own y.cls ∈ lw_all) (h3 : Cond.instanceMethod y ∈ lw_all) (h4 : Cond.initialized y.cls ∈ lw_all) (h5 : Cond.code y b L r ∈ lw_all) : GoodIn lw_all (va_wsSU own idx y (ws_ y b L r)) := by
  refine lw_app ?_ (lw_meth h5)
  intro w hw
  simp only [List.mem_cons, List.not_mem_nil, or_false] at hw
  rcases hw with e | e | e | e | e <;> rw [e] <;> assumption
theorem xofPi {l : Launch} {w : XP} {y : MethodName} {cc : ByteArray} {n d mc ms : Nat} {ty : FieldType} {av : List Value} {S : HS} {post : Int32 → HS → Prop} (own : String) (hy : plainFor y = true) (hc : y.cls = own) (hn : (lg_sl av).length ≤ n) (ok : Int32 → Prop) (hok : ∀ r, ok r → narrow ty (.int r) = .int r)
    (body : ∀ (p : Program) (e : Env) (s : State) (m : MethodId) (args : Array Value) (below : List Frame) (meth : Method) (c : Code) (Q : State → Prop) (ls : Array Slot), CallFix p m c cc n s args lw_all own → x_E w s → lv_has ls n (lv_args 0 av) → x_W w s.heap S s.heap [] → ((y.name = "<init>" → meth.name = "<init>") ∧ s.methodNamed? y = some m) →
      (∀ (r : Int32) (S1 : HS) (H : Heap) (locs : List Loc) (cells slots : Nat), ok r → post r S1 → x_W w s.heap S1 H locs → cells ≤ mc → slots ≤ ms → ∀ (pc : Nat) (ls : Array Slot), decode cc pc = .ok (.ireturn, 1) → W p l e (xrm d mc ms) s m args below meth c H locs cells slots Q (F0 m pc ls [.int r])) →
      W p l e (xrm d mc ms) s m args below meth c s.heap [] 0 0 Q (F0 m 0 ls [])) : x_M l w y cc n (some ty) d mc ms av S (xKi post) := by
  refine va_MetF (cc := cc) (maxL := n) (ret := (some ty)) hy rfl ?_
  intro p e s m args below meth c s₁ B hml hv
  obtain ⟨rfl, hP, hG, hTT, hAA⟩ := hv
  have hx := B.exec
  have hb := B.bytes
  have hr := B.returns
  have hts0 := atoms_spec (ws := ws_ y cc n (some ty)) B.pre
  have hts : ∀ w ∈ lw_all, w.before _ s = true := fun w h => hts0 w (List.mem_cons_of_mem _ h)
  have hown : s.vm.findClass y.cls = some m.cls := findClass_of_methodNamed B.named
  rw [hc] at hown
  have hlocks : meth.locks = false := B.notSynchronized
  have hnm : y.name = "<init>" → meth.name = "<init>" := fun h => by rw [← h]; exact (name_of_methodNamed B.named B.method).1
  have hl := lv_entry av (n := n) hn
  rw [lg_entry_eq]
  generalize (lg_sl av ++ List.replicate (n - (lg_sl av).length) Slot.unset).toArray = ls at hl ⊢
  have hT : x_E w s := ⟨hTT, hAA⟩
  refine body p e s m av.toArray below meth c _ ls ⟨hx, hb, hml, hown, hts⟩ hT hl ⟨hP, hG, va_S.rf⟩ ⟨hnm, B.named⟩ ?_
  · intro r S1 H locs cells slots hokr hp hW h1 h2 pc ls hd
    refine W.widen (k := mc) (n := ms) h1 h2 ?_
    exact W.zret (v := r) hx hb hr (hok r hokr) (fun t ht hw => ⟨⟨some (.int r), S1, rfl, ⟨r, rfl, hp⟩, x_W.I hT hW ht hw⟩, hW.2.2.F ht⟩) hW.2.2.2.2 hd hlocks
section XR6
variable {p : Program} {l : Launch} {e : Env} {R : Room} {s : State} {m : MethodId} {args : Array Value} {below : List Frame} {meth : Method} {c : Code} {H : Heap} {locs : List Loc} {cells slots : Nat} {Q : State → Prop}
variable {cc : ByteArray} {pc : Nat} {ls : Array Slot} {rest st0 : List Value} {w : XP} {S : HS} {H0 : Heap}
theorem xrU {own C owner : String} {T : u_T} {N ci : Nat} {x y : MethodName} {by' : ByteArray} {mL nL n d index mc1 ms1 : Nat} {ret : Option FieldType} {av : List Value} {b : Nat} {K : Option Value → HS → Prop} (hE : CallFix p m c cc nL s args lw_all own) (hT : x_E w s) (hW : x_W w s.heap S H locs) (hc : xcl[ci]? = some (C, T, N)) (hci : ci < 40) (hd9 : hD S ci b) (hM : x_M l w y by' mL ret d mc1 ms1 (.ref b :: av) S K)
    (hG : GoodIn lw_all (va_wsU own index C owner x y (ws_ y by' mL ret))) (hyx : y = ⟨owner, x.name, x.desc⟩) (hd : y.cls ≠ "java/lang/invoke/MethodHandle" ∧ y.cls ≠ "java/lang/invoke/VarHandle" ∧ (parseMethodDescriptor y.desc).map (fun d => d.parameters.length) = some n) (hR : d + 13 ≤ R.frames ∧ 8 + (mL + 11) + (128 * d + 4096) ≤ R.locals) (hf : cells + mc1 ≤ R.cells ∧ slots + ms1 ≤ R.slots)
    (hn : av.length = n) (hs : ls.size = nL) (hst : st0 = av.reverse ++ .ref b :: rest) (hrm : (rest.map fun v => v.category).sum ≤ 8) (hdg : decode cc pc = .ok (.invokevirtual index, 3)) : va_Run p l e R s m args below meth c H locs cells slots mc1 ms1 (F0 m pc ls st0) rest (x_Q w K (Value.ref b :: av).toArray) (x_A w) :=
  va_runU (As := av) (rest := rest) hE hM (va_cwU n hE.2.2.2.2 hG rfl rfl rfl hyx (by rw [hyx] at hd; exact hd) ⟨hR.1, hR.2⟩) ⟨x_I.blind, x_recv hT hW hc hci hd9, fun U hU hw => ⟨rfl, x_W.I hT hW hU hw⟩⟩ rfl hn hs hst (lv_room hrm) hdg hf
theorem xrO {own C owner : String} {T : u_T} {N ci : Nat} {x y : MethodName} {by' : ByteArray} {mL nL n d index mc1 ms1 : Nat} {ret : Option FieldType} {av : List Value} {b : Nat} {K : Option Value → HS → Prop} (hE : CallFix p m c cc nL s args lw_all own) (hT : x_E w s) (hW : x_W w s.heap S H locs) (hc : xcl[ci]? = some (C, T, N)) (hci : ci < 40) (hd9 : hD S ci b) (hM : x_M l w y by' mL ret d mc1 ms1 (.ref b :: av) S K)
    (hG : GoodIn lw_all (va_wsO own index C owner x y (ws_ y by' mL ret))) {b0 : ByteArray} {m0 : Nat} {r0 : Option FieldType} (h0 : Cond.code ⟨owner, x.name, x.desc⟩ b0 m0 r0 ∈ lw_all) (hd : owner ≠ "java/lang/invoke/MethodHandle" ∧ owner ≠ "java/lang/invoke/VarHandle" ∧ (parseMethodDescriptor x.desc).map (fun d => d.parameters.length) = some n) (hR : d + 13 ≤ R.frames ∧ 8 + (mL + 11) + (128 * d + 4096) ≤ R.locals) (hf : cells + mc1 ≤ R.cells ∧ slots + ms1 ≤ R.slots)
    (hn : av.length = n) (hs : ls.size = nL) (hst : st0 = av.reverse ++ .ref b :: rest) (hrm : (rest.map fun v => v.category).sum ≤ 8) (hdg : decode cc pc = .ok (.invokevirtual index, 3)) : va_Run p l e R s m args below meth c H locs cells slots mc1 ms1 (F0 m pc ls st0) rest (x_Q w K (Value.ref b :: av).toArray) (x_A w) :=
  va_runU (As := av) (rest := rest) hE hM (va_cwO n hE.2.2.2.2 hG rfl rfl rfl h0 hd ⟨hR.1, hR.2⟩) ⟨x_I.blind, x_recv hT hW hc hci hd9, fun U hU hw => ⟨rfl, x_W.I hT hW hU hw⟩⟩ rfl hn hs hst (lv_room hrm) hdg hf
theorem xrSU {own C : String} {T : u_T} {N ci : Nat} {y : MethodName} {by' : ByteArray} {mL nL n d index mc1 ms1 : Nat} {ret : Option FieldType} {av : List Value} {b : Nat} {K : Option Value → HS → Prop} (hE : CallFix p m c cc nL s args lw_all own) (hT : x_E w s) (hW : x_W w s.heap S H locs) (hc : xcl[ci]? = some (C, T, N)) (hci : ci < 40) (hd9 : hD S ci b) (hM : x_M l w y by' mL ret d mc1 ms1 (.ref b :: av) S K)
    (hG : GoodIn lw_all (va_wsSU own index y (ws_ y by' mL ret))) (hd : y.name ≠ "<init>" ∧ (parseMethodDescriptor y.desc).map (fun d => d.parameters.length) = some n) (hR : d + 13 ≤ R.frames ∧ 8 + (mL + 11) + (128 * d + 4096) ≤ R.locals) (hf : cells + mc1 ≤ R.cells ∧ slots + ms1 ≤ R.slots)
    (hn : av.length = n) (hs : ls.size = nL) (hst : st0 = av.reverse ++ .ref b :: rest) (hrm : (rest.map fun v => v.category).sum ≤ 8) (hdg : decode cc pc = .ok (.invokespecial index, 3)) : va_Run p l e R s m args below meth c H locs cells slots mc1 ms1 (F0 m pc ls st0) rest (x_Q w K (Value.ref b :: av).toArray) (x_A w) :=
  va_runSU (As := av) (rest := rest) (hT.1.1.1 ci _ hc).2 hE hM (va_cwSU n hE.2.2.2.2 hG rfl rfl rfl hd ⟨hR.1, hR.2⟩) ⟨x_I.blind, x_recv hT hW hc hci hd9, fun U hU hw => ⟨rfl, x_W.I hT hW hU hw⟩⟩ rfl hn hs hst (lv_room hrm) hdg hf
theorem xAny.obj (hT : x_E w s) (hW : x_W w H0 S H locs) {v : Nat} (h : xObj S v) : xAny "java/lang/Object" s H v := by
  rcases h with h | h | h | h | h | h
  · exact xAny.of hT hW (ci := 6) rfl (by decide) h (Or.inr q2776)
  · exact xAny.of hT hW (ci := 7) rfl (by decide) h (Or.inr q2777)
  · exact xAny.of hT hW (ci := 15) rfl (by decide) h (Or.inr q2762)
  · exact xAny.of hT hW (ci := 8) rfl (by decide) h (Or.inr q2761)
  · exact xAny.of hT hW (ci := 11) rfl (by decide) h (Or.inr q2785)
  · exact xAny.of hT hW (ci := 2) rfl (by decide) h (Or.inr q2766)
end XR6
theorem dXo_J14 : "java/lang/Object" ≠ "java/lang/invoke/MethodHandle" ∧ "java/lang/Object" ≠ "java/lang/invoke/VarHandle" ∧ (parseMethodDescriptor ({ cls := "java/lang/Object", name := "equals", desc := "(Ljava/lang/Object;)Z" } : Jvm.MethodName).desc).map (fun d => d.parameters.length) = some 1 := by decide +kernel
theorem dXo_J25 : "java/lang/Object" ≠ "java/lang/invoke/MethodHandle" ∧ "java/lang/Object" ≠ "java/lang/invoke/VarHandle" ∧ (parseMethodDescriptor ({ cls := "java/lang/Object", name := "equals", desc := "(Ljava/lang/Object;)Z" } : Jvm.MethodName).desc).map (fun d => d.parameters.length) = some 1 := by decide +kernel
section XR6b
variable {p : Program} {l : Launch} {e : Env} {R : Room} {s : State} {m : MethodId} {args : Array Value} {below : List Frame} {meth : Method} {c : Code} {H : Heap} {locs : List Loc} {cells slots : Nat} {Q : State → Prop}
variable {cc : ByteArray} {pc : Nat} {ls : Array Slot} {rest st0 : List Value} {w : XP} {S : HS} {H0 : Heap}
theorem x_alo_n (hexec : p.tables.exec = Jvm.exec) (hb : c.code = cc) {k : Fin 4} {i : Nat} {o : Option Nat} (hdg : decode cc pc = .ok (.aload_n k, 1)) (hi : (k : Nat) = i) (hl : ls[i]? = some (.val (va_rf o)))
    (kk : W p l e R s m args below meth c H locs cells slots Q (F0 m (pc + 1) ls (va_rf o :: rest))) : W p l e R s m args below meth c H locs cells slots Q (F0 m pc ls rest) := by
  cases o with
  | none => exact lv_aload_nN hexec hb hdg hi hl kk
  | some a => exact lv_aload_n hexec hb hdg hi hl kk
theorem x_oinit (hexec : p.tables.exec = Jvm.exec) (hb : c.code = cc) {own : String} (hown : s.vm.findClass own = some m.cls) {idx : Nat}
    (hlink : (Cond.methodLink own idx Lib.objectInit).before args s = true) (hinst : (Cond.instanceMethod Lib.objectInit).before args s = true) (hcode : (Cond.code Lib.objectInit ⟨#[0xb1]⟩ 1 none).before args s = true)
    (hsize : ls.size = c.maxLocals) {a : Nat} (hd : decode cc pc = .ok (.invokespecial idx, 3))
    (hframes : 1 ≤ R.frames) (hlocals : (rest.map fun v => v.category).sum + 12 ≤ R.locals)
    (kk : W p l e R s m args below meth c H locs cells slots Q (F0 m (pc + 3) ls rest)) : W p l e R s m args below meth c H locs cells slots Q (F0 m pc ls (.ref a :: rest)) :=
  W.objInit (g := F0 m pc ls (.ref a :: rest)) (rest := rest) hexec hb hown hlink hinst hcode rfl hsize rfl hd hframes (by show 2 * 0 + _ + 12 ≤ _; omega) kk
/-- a field that a class above declares, named by way of the class -/
theorem x_giS (hx : p.tables.exec = Jvm.exec) (hb : c.code = cc) {own ref C : String} {T : u_T} {N ci index : Nat} (hown : s.vm.findClass own = some m.cls) (hts : ∀ w ∈ lw_all, w.before args s = true) (hT : x_E w s) (hW : x_W w H0 S H locs) (hin : ∀ w ∈ u_ws C T N, w ∈ lw_all) (hc : xcl[ci]? = some (C, T, N)) (hci : ci < 40) (hN : (xlay ci).length = N) (k : Nat) (hk : k < N) (hly : (xlay ci)[k]? = some false) {key : Nat} (hkey : 100 * ci + k = key)
    (hlink : (Cond.fieldLink own index ref (T k).2.1 (T k).2.2.1).before args s = true) (hsf : (Cond.sameField ref (T k).1 (T k).2.1 (T k).2.2.1).before args s = true) {a : Nat} (hd : hD S ci a) (hdg : decode cc pc = .ok (.getfield index, 3))
    (kk : W p l e R s m args below meth c H locs cells slots Q (F0 m (pc + 3) ls (.int (hI S key a) :: rest))) : W p l e R s m args below meth c H locs cells slots Q (F0 m pc ls (.ref a :: rest)) := by
  obtain ⟨cell, q1, q2, q3, q4⟩ := hW.1.1 ci a hd hci
  obtain ⟨hS, hfc, kC, hkC, hkind⟩ := hT.1.1.1 ci _ hc
  obtain ⟨cf, kf, fi, f, hi, hsl⟩ := hS k hk
  refine W.getf hx hb hown hlink (u_same hsf _ hi) (u_facts hfc (by rw [← q2] at hkC; rw [← q2]; exact hkC) (u_lays hts hin hk) hi).1 q1 (by rw [q3]; exact fun h => by cases h) (v := .int (hI S key a)) ?_ rfl rfl hdg kk
  rw [hsl, q4 k (by rw [hN]; exact hk)]
  simp [vp_V, hfs_i hly hkey]
end XR6b
