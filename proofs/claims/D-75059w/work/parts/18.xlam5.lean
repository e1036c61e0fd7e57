/-! LAMBDAS (5): a call of one -/
set_option maxRecDepth 100000
theorem x_weaken {tb : Tables} {e : Env} {mid below : List Frame} {a b : State} (h : Steps tb e (mid ++ below) a b) : Steps tb e below a b := by
  obtain ⟨n, hn, hw⟩ := h
  exact ⟨n, hn, fun k hk => (hw k hk).weaken⟩
section XL5
variable {p : Program} {l : Launch} {e : Env} {R : Room} {s : State} {m : MethodId} {args : Array Value} {below : List Frame} {meth : Method} {c : Code} {H : Heap} {locs : List Loc} {cells slots : Nat} {Q : State → Prop}
variable {cc : ByteArray} {pc : Nat} {ls : Array Slot} {rest st0 : List Value} {w : XP} {S : HS} {H0 : Heap}
theorem x_lcall {nL n d index count b pcx ixx t ML : Nat} {own : String} {x xm : MethodName} {σ : Lambda.Shape} {D : ClassFile} {fm : Method} {lay : xLay} {F : ByteArray} {ty : FieldType} {av : List Value} {post : Int32 → HS → Prop} {ok : Int32 → Prop} (hE : CallFix p m c cc nL s args lw_all own) (hsz : ls.size = nL) (hT : x_E w s) (hW : x_W w s.heap S H locs) (hLm : lamF xm pcx ixx σ (x_c w t) s) (ht : t < 40) (hd9 : hD S t b)
    (hF : xFile σ xm.cls D fm lay) (hcode : (fm.code.map fun c => (c.code.data, c.maxLocals)) = some (F.data, ML)) (hfl : fm.accessFlags = 1) (hrt : fm.sig.returnType = some ty) (hok : ∀ r, ok r → narrow ty (.int r) = .int r) (hxn : x = ⟨σ.iface, σ.name, σ.sam.toString⟩) (hlink : Cond.methodLink own index x ∈ lw_all) (hdecl : Cond.declares x ∈ lw_tbl) (hface : Cond.interfaceMethod x.cls x.cls x.name x.desc ∈ lw_tbl) (hfx : xmv (Cond.interfaceMethod x.cls x.cls x.name x.desc) = true)
    (hxm : x.cls ≠ "java/lang/invoke/MethodHandle" ∧ x.cls ≠ "java/lang/invoke/VarHandle") (hnp : (parseMethodDescriptor x.desc).map (fun d => d.parameters.length) = some n) (hn : av.length = n) (hpl : plainName (xm.cls ++ "$$Lambda") = true) (hdg : decode cc pc = .ok (.invokeinterface index count, 5)) (hrm : (rest.map fun v => v.category).sum ≤ 8) (hR : d + 13 ≤ R.frames ∧ 8 + (ML + 11) + (128 * d + 4096) ≤ R.locals) (hf : cells + 0 ≤ R.cells ∧ slots + 0 ≤ R.slots) (hav : (lg_sl (.ref b :: av)).length ≤ ML)
    (walk : ∀ (s' : State) (mk : MethodId) (below' : List Frame) (methk : Method) (ck : Code) (Q' : State → Prop) (ls' : Array Slot), mk.cls = x_c w t → ck.code = F → ck.maxLocals = ML → (∀ w ∈ lw_all, w.before (Value.ref b :: av).toArray s' = true) → x_E w s' → x_W w s'.heap S s'.heap [] → lamF xm pcx ixx σ (x_c w t) s' → lv_has ls' ML (lv_args 0 (.ref b :: av)) →
      (∀ (pc' : Nat) (r : Int32) (S1 : HS) (H1 : Heap) (locs1 : List Loc) (ls'' : Array Slot), ok r → post r S1 → x_W w s'.heap S1 H1 locs1 → decode F pc' = .ok (.ireturn, 1) → W p l e (xrm d 0 0) s' mk (Value.ref b :: av).toArray below' methk ck H1 locs1 0 0 Q' (F0 mk pc' ls'' [.int r])) →
      W p l e (xrm d 0 0) s' mk (Value.ref b :: av).toArray below' methk ck s'.heap [] 0 0 Q' (F0 mk 0 ls' [])) :
    va_Run5 p l e R s m args below meth c H locs cells slots 0 0 (F0 m pc ls (av.reverse ++ .ref b :: rest)) rest (x_Q w (xKi post) (Value.ref b :: av).toArray) (x_A w) := by
  obtain ⟨hx, hb, hml, hown, hts⟩ := hE
  have hdecl' := va_Nw.use (A := args) rfl (hT.1.2.1.1 _ hdecl rfl)
  have hface' := va_Nw.use (A := args) rfl (hT.1.2.1.1 _ hface hfx)
  obtain ⟨r0, r, hn0, hrm0, hstR, hsigR⟩ := Cond.declares_spec hdecl'
  obtain ⟨cL, kL, r1, hcL, hkL, hiL, hfoundL, hn1⟩ := Cond.interfaceMethod_spec hface'
  have er : r1 = r0 := Option.some.inj (hn1.symm.trans hn0)
  rw [er] at hfoundL
  have hr0cls : r0.cls = cL := Option.some.inj ((findClass_of_methodNamed hn0).symm.trans hcL)
  obtain ⟨hnameR, hdescR⟩ := name_of_methodNamed hn0 hrm0
  obtain ⟨m0, k, cf, i0, p0, hm0, hk, -, -, -, hmade, hcall⟩ := id hLm
  obtain ⟨k', hk', hkn⟩ := className_of_methodNamed hm0
  have e1 : k' = k := Option.some.inj (hk'.symm.trans hk)
  rw [e1] at hkn
  obtain ⟨kK, file, methk0, t9, iface, tk, target, found, k1, k2, -, -, k5, k6, -, -, -, k10, k11, k12, -⟩ := x_made hmade hk hkn (hts _ q2803) hF
  subst hxn
  have ei : iface = cL := Option.some.inj (k10.symm.trans hcL)
  have hfr : found = r0 := by
    have h1 : s.methodFound? σ.iface σ.name σ.sam.toString = some r0 := hfoundL
    have hcL' : s.vm.findClass σ.iface = some cL := hcL
    simp only [State.methodFound?, hcL', hkL, hiL, Option.bind_eq_bind, Option.bind_some] at h1
    rw [ei] at k11
    rw [k11] at h1
    exact Option.some.inj h1
  rw [hfr] at k12
  obtain ⟨i2, hi2, hasg, hway⟩ := State.lambdaCallable_spec hcall
  have ei2 : i2 = cL := Option.some.inj (hi2.symm.trans hcL)
  rw [ei2] at hasg
  obtain ⟨kk0, mk0, ck0, -, -, f3, f4, f5, f6, f7, f8, f9⟩ := x_fwd hLm hts hF hcode hfl hrt s.vm (State.WarmedH.refl s)
  obtain ⟨cell, c1, c2, c3, c4⟩ := hW.1.1 t b hd9 ht
  intro T hT0 X
  obtain ⟨vm₁, X₁, hstep₁⟩ := X.invokeinterface hx hown (hts _ hlink) hn0 hrm0 hstR (by rw [hr0cls]; exact hkL) hiL hxm (a := b) (cell := cell) (kcell := kK) (by rw [hT0]; exact c1) (fun z h => by rw [c3] at h; cases h) (by rw [c2]; exact k1) (by rw [c2, hr0cls]; exact hasg)
    (m' := ⟨x_c w t, 1⟩) (meth' := mk0) (by rw [c2, Launch.admits_selectMethod X.admits]; exact k12) f3 (by rw [hnameR, hdescR, c2]; exact hway) (by rw [f8]; decide) (by simp [Method.isAbstract, f8, hasFlag, Acc.abstract])
    (g := F0 m pc ls (av.reverse ++ .ref b :: rest)) rfl (argsL := av) (rest := rest) (by rw [hn]; have h2 := hnp; rw [hsigR] at h2; exact (Option.some.inj h2).symm) rfl (by rw [hb]; exact hdg)
  have hW₁ : s.WarmedH vm₁ := X₁.warmed
  obtain ⟨kA, methk, ck, a1, a2, a3, a4, a5, a6, a7, a8, a9⟩ := x_fwd hLm hts hF hcode hfl hrt vm₁ hW₁
  have hpk : (T.setVm vm₁).plainMethod ⟨x_c w t, 1⟩ := State.plainMethod.of_name (fun k' hk' => by
    have ek : k' = kA := Option.some.inj (hk'.symm.trans a1)
    rw [ek, a2]
    exact hpl)
  have hdg' : decode c.code pc = .ok (.invokeinterface index count, 5) := by rw [hb]; exact hdg
  have hR1 := hR.1
  have hR2 := hR.2
  obtain ⟨Y₀, hin⟩ := X₁.into (g := F0 m pc ls rest) rfl (by show ls.size = _; rw [hml]; exact hsz) hdg' (Value.ref b :: av).toArray (R' := xrm d 0 0) a3 a4 a7 hpk (by show d + 12 + 1 ≤ _; omega) (by rw [a6]; show 2 * 0 + (rest.map fun v => v.category).sum + (ML + 11) + (128 * d + 4096) ≤ _; omega) hf.1 hf.2
  generalize hs' : (T.setVm vm₁).calling (F0 m pc ls rest) ⟨x_c w t, 1⟩ (Value.ref b :: av).toArray = s' at Y₀
  have hvm' : s'.vm = vm₁ := by rw [← hs']; rfl
  have hhp' : s'.heap = H := by rw [← hs', ← hT0]; rfl
  have hWs : s.WarmedH s'.vm := by rw [hvm']; exact hW₁
  have hIs : x_I w S s' := x_W.I hT hW hhp' hWs
  have hts' : ∀ w ∈ lw_all, w.before (Value.ref b :: av).toArray s' = true := fun w9 h9 => word_at hWs (good_of_word (List.mem_filter.mp h9).2) (hts _ h9)
  have hT' : x_E w s' := ⟨hIs.2.2.1, hIs.2.2.2⟩
  have hW' : x_W w s'.heap S s'.heap [] := ⟨hIs.1, hIs.2.1, va_S.rf⟩
  have hL' : lamF xm pcx ixx σ (x_c w t) s' := hLm.warm hWs
  have hl := lv_entry (.ref b :: av) (n := ML) hav
  have hEn : entryFrame ⟨x_c w t, 1⟩ (Value.ref b :: av).toArray ck.maxLocals = F0 ⟨x_c w t, 1⟩ 0 (lg_sl (.ref b :: av) ++ List.replicate (ML - (lg_sl (.ref b :: av)).length) Slot.unset).toArray [] := by rw [a6]; exact lg_entry_eq _ _ _
  rw [hEn] at Y₀ hin
  generalize (lg_sl (.ref b :: av) ++ List.replicate (ML - (lg_sl (.ref b :: av)).length) Slot.unset).toArray = ls' at hl Y₀ hin
  generalize hU : (((T.setVm vm₁).setTop (F0 m pc ls rest)).pushFrame (.java (F0 ⟨x_c w t, 1⟩ 0 ls' []))) = U at Y₀ hin
  have hUh : U.heap = s'.heap := by rw [← hU, hhp', ← hT0]; rfl
  have K := walk s' ⟨x_c w t, 1⟩ (.java (F0 m pc ls rest) :: below) methk ck (MQ (.java (F0 m pc ls rest) :: below) (x_Q w (xKi post)) (Value.ref b :: av).toArray s' 0 0 (x_A w)) ls' rfl a5 a6 hts' hT' hW' hL' hl (fun pc' r S1 H1 locs1 ls'' hok1 hp hW1 hdr => W.zret (v := r) hx a5 a9 (hok r hok1) (fun t ht hw => ⟨⟨some (.int r), S1, rfl, ⟨r, rfl, hp⟩, x_W.I hT' hW1 ht hw⟩, hW1.2.2.F ht⟩) hW1.2.2.2.2 hdr a7)
  obtain ⟨t2, st, o, hrun, hended, ⟨⟨v, S1, hov, hK, hI⟩, hFF⟩, L, hfe, hLL⟩ := K U hUh Y₀
  subst hov
  subst hs'
  obtain ⟨T', X', hWt, -, htt⟩ := X₁.outOf (g := F0 m pc ls rest) rfl hdg' hended hfe.2.1 hfe.2.2
  refine ⟨v, _, t2, T', L, hhp', X', hLL, by rw [htt]; rfl, by rw [htt]; rfl, ⟨⟨v, S1, rfl, hK, hI⟩, hFF⟩, fun target2 hrest => ?_⟩
  refine hstep₁ _ fun acts => ?_
  rw [hin acts]
  refine (x_weaken (mid := [.java (F0 m pc ls rest)]) st).trans ?_
  rw [htt]
  exact hrest
end XL5
