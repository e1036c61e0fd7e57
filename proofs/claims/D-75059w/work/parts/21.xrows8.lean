/-! THE FREE HEAP (8): lambdas in rows -/
set_option maxRecDepth 100000
def xChk (S : HS) (v : Nat) : Prop := hD S 23 v ∨ hD S 24 v ∨ hD S 25 v ∨ hD S 26 v ∨ hD S 27 v ∨ hD S 28 v
section XR8
variable {p : Program} {l : Launch} {e : Env} {R : Room} {s : State} {m : MethodId} {args : Array Value} {below : List Frame} {meth : Method} {c : Code} {H : Heap} {locs : List Loc} {cells slots : Nat} {Q : State → Prop}
variable {cc : ByteArray} {pc : Nat} {ls : Array Slot} {rest st0 : List Value} {w : XP} {S : HS} {H0 : Heap}
theorem xAny.lam {t v pcx ix : Nat} {xm : MethodName} {σ : Lambda.Shape} (hW : x_W w H0 S H locs) (ht : t < 40) (hL : lamF xm pcx ix σ (x_c w t) s) (hd : hD S t v) : xAny σ.iface s H v := by
  obtain ⟨cell, c1, c2, c3, c4⟩ := hW.1.1 t v hd ht
  obtain ⟨m0, k, cf, i0, p0, hm0, hk, -, -, -, hmade, hcall⟩ := hL
  obtain ⟨dk, kK, ok, tk, file, cf', object, iface, t9, lay, methods, target, found, h1, h2, -⟩ := Lambda.isMade_spec hmade
  obtain ⟨i2, hi2, hasg, hway⟩ := State.lambdaCallable_spec hcall
  refine ⟨cell, c1, by rw [c3]; rfl, ⟨kK, by rw [c2]; exact h2⟩, fun comp hcomp => ?_⟩
  have e1 : i2 = comp := Option.some.inj (hi2.symm.trans hcomp)
  rw [c2, ← e1]
  exact hasg
theorem xAny.lam61 (hT : x_E w s) (hW : x_W w H0 S H locs) {v : Nat} (h : hD S 20 v ∨ hD S 21 v) : xAny "HallPlan$Closure" s H v := by
  rcases h with h | h
  · exact xAny.lam hW (by decide) hT.1.2.2.2.1.1 h
  · exact xAny.lam hW (by decide) hT.1.2.2.2.1.2.1 h
theorem xAny.lam62 (hT : x_E w s) (hW : x_W w H0 S H locs) {v : Nat} (h : hD S 22 v) : xAny "HallPlan$Fee" s H v := xAny.lam hW (by decide) hT.1.2.2.2.1.2.2.1 h
theorem xAny.lam63 (hT : x_E w s) (hW : x_W w H0 S H locs) {v : Nat} (h : xChk S v) : xAny "HallPlan$Check" s H v := by
  rcases h with h | h | h | h | h | h
  · exact xAny.lam hW (by decide) hT.1.2.2.2.1.2.2.2.1 h
  · exact xAny.lam hW (by decide) hT.1.2.2.2.1.2.2.2.2.1 h
  · exact xAny.lam hW (by decide) hT.1.2.2.2.1.2.2.2.2.2.1 h
  · exact xAny.lam hW (by decide) hT.1.2.2.2.1.2.2.2.2.2.2.1 h
  · exact xAny.lam hW (by decide) hT.1.2.2.2.1.2.2.2.2.2.2.2.1 h
  · exact xAny.lam hW (by decide) hT.1.2.2.2.1.2.2.2.2.2.2.2.2.1 h
theorem x_copyB61 {nL : Nat} {own : String} (hE : CallFix p m c cc nL s args lw_all own) (hsz : ls.size = nL) (hT : x_E w s) (hW : x_W w s.heap S H locs) {src dst : Nat} (hd0 : hD S 61 src) (hd1 : hD S 61 dst) {sp dp n : Int32} (hcp : xCpy S src sp dst dp n ∧ ∀ i : Nat, i < n.toNatClampNeg → ∀ y : Nat, hB S src (sp.toNatClampNeg + i) = some y → hD S 20 y ∨ hD S 21 y) {index : Nat} (hlink : (Cond.methodLink own index arraycopyName).before args s = true) {mc ms : Nat} (hc9 : cells + mc ≤ R.cells) (hs9 : slots + ms ≤ R.slots) (hdg : decode cc pc = .ok (.invokestatic index, 3)) (hframes : 1 ≤ R.frames) (hlocals : (rest.map fun v => v.category).sum + 40 ≤ R.locals)
    (kk : ∀ (S1 : HS) (H1 : Heap) (locs1 : List Loc), S1 = sCB S src sp dst dp n → x_W w s.heap S1 H1 locs1 → W p l e R s m args below meth c H1 locs1 cells slots Q (F0 m (pc + 3) ls rest)) : W p l e R s m args below meth c H locs cells slots Q (F0 m pc ls (.int n :: .int dp :: .ref dst :: .int sp :: .ref src :: rest)) :=
  x_copyB0 hE hsz hT hW 61 (by omega) (by omega) rfl hd0 hd1 (Or.inl (by omega)) hcp.1 (fun i hi y hy => xAny.lam61 hT hW (hcp.2 i hi y hy)) hlink hc9 hs9 hdg hframes hlocals kk
end XR8
theorem x_noX {l : Launch} {w : XP} {y : MethodName} {ws : List Cond} {rm : Room} {Pc : Array Value → State → Prop} {Qc : Array Value → State → Outcome → State → Prop} {mc ms : Nat} {free : Addr → Prop} (h : vx_Met l y ws rm Pc Qc (x_X w (fun _ _ _ => False)) mc ms free) : Met l y ws rm Pc Qc mc ms free :=
  MetFree.mono h (fun _ _ q => q) (fun _ _ _ _ _ q => q) (fun a st o t _ q => by
    rcases q with q | ⟨q, -, E, ce, L, ⟨⟨S1, hf, -⟩, -⟩, -⟩
    · exact q
    · exact hf.elim)
theorem xrFW {p : Program} {l : Launch} {e : Env} {R : Room} {s : State} {m : MethodId} {args : Array Value} {below : List Frame} {meth : Method} {c : Code} {H : Heap} {locs : List Loc} {cells slots : Nat} {cc : ByteArray} {pc : Nat} {ls : Array Slot} {rest st0 : List Value} {w : XP} {S : HS} {nL : Nat}
    {own C : String} {T : u_T} {N ci count : Nat} {x y : MethodName} {by' : ByteArray} {hh : List (Nat × Nat × Nat × Nat)} {mL n d index mc1 ms1 : Nat} {ret : Option FieldType} {av : List Value} {b : Nat} {K : Option Value → HS → Prop} (hE : CallFix p m c cc nL s args lw_all own) (hT : x_E w s) (hW : x_W w s.heap S H locs) (hc : xcl[ci]? = some (C, T, N)) (hci : ci < 40) (hd9 : hD S ci b) (hM : xx_MW l w y by' mL ret hh d mc1 ms1 (.ref b :: av) S K (fun _ _ _ => False))
    (hG : GoodIn lw_all (va_wsF own index C x y (wsW_ y by' mL ret hh))) (hF : va_Fw C x y s) (hd : x.cls ≠ "java/lang/invoke/MethodHandle" ∧ x.cls ≠ "java/lang/invoke/VarHandle" ∧ (parseMethodDescriptor x.desc).map (fun d => d.parameters.length) = some n) (hR : d + 13 ≤ R.frames ∧ 8 + (mL + 11) + (128 * d + 4096) ≤ R.locals) (hf : cells + mc1 ≤ R.cells ∧ slots + ms1 ≤ R.slots)
    (hn : av.length = n) (hs : ls.size = nL) (hst : st0 = av.reverse ++ .ref b :: rest) (hrm : (rest.map fun v => v.category).sum ≤ 8) (hdg : decode cc pc = .ok (.invokeinterface index count, 5)) : va_Run5 p l e R s m args below meth c H locs cells slots mc1 ms1 (F0 m pc ls st0) rest (x_Q w K (Value.ref b :: av).toArray) (x_A w) :=
  va_runFW (hh := hh) (As := av) (rest := rest) (hT.1.1.1 ci _ hc).2 hE (x_noX hM) (va_cwFW n hE.2.2.2.2 hG rfl rfl rfl hF hd ⟨hR.1, hR.2⟩) ⟨x_I.blind, x_recv hT hW hc hci hd9, fun U hU hw => ⟨rfl, x_W.I hT hW hU hw⟩⟩ rfl hn hs hst (lv_room hrm) hdg hf
