/-! LAMBDAS (2): each of them made -/
set_option maxRecDepth 100000
def mkL20 (v0 : Int32) (v1 : Int32) (v2 : Int32) (S : HS) (q : Nat) : HS := (sI ((sI ((sI (nO S 20 q) 2000 q v0)) 2001 q v1)) 2002 q v2)
theorem dL20 {S S1 : HS} {q : Nat} {v0 : Int32} {v1 : Int32} {v2 : Int32} (e : S1 = (sI ((sI ((sI (nO S 20 q) 2000 q v0)) 2001 q v1)) 2002 q v2)) {t x : Nat} (h : hD S t x) : hD S1 t x := by subst e; exact Or.inl h
theorem dLn20 {S S1 : HS} {q : Nat} {v0 : Int32} {v1 : Int32} {v2 : Int32} (e : S1 = (sI ((sI ((sI (nO S 20 q) 2000 q v0)) 2001 q v1)) 2002 q v2)) : hD S1 20 q := by subst e; exact Or.inr ⟨rfl, Or.inl rfl⟩
theorem dL920 {S S1 : HS} {q : Nat} {v0 : Int32} {v1 : Int32} {v2 : Int32} (e : S1 = (sI ((sI ((sI (nO S 20 q) 2000 q v0)) 2001 q v1)) 2002 q v2)) : hD S1 99 q := by subst e; exact Or.inr ⟨rfl, Or.inr rfl⟩
theorem xlay20 : ((xsh20.file xsm20.cls).bind (layoutFields · 0)).map (·.2.1) = some xsh20.captured.toArray := by decide +kernel
theorem x_lam20 {p : Program} {l : Launch} {e : Env} {R : Room} {s : State} {m : MethodId} {args : Array Value} {below : List Frame} {meth : Method} {c : Code} {H : Heap} {locs : List Loc} {cells slots : Nat} {Q : State → Prop} {cc : ByteArray} {ls : Array Slot} {rest : List Value} {w : XP} {S : HS}
    {nL : Nat} {own : String} {v0 : Int32} {v1 : Int32} {v2 : Int32} {mc ms : Nat} (hE : CallFix p m c cc nL s args lw_all own) (hT : x_E w s) (hW : x_W w s.heap S H locs) (hsz : ls.size = nL) (hnd : s.methodNamed? xsm20 = some m)
    (h1 : 1 ≤ mc) (h2 : 3 ≤ ms) (hc9 : cells + mc ≤ R.cells) (hs9 : slots + ms ≤ R.slots) (hloc : (rest.map fun v => v.category).sum + 3080 ≤ R.locals) (hdg : decode cc 3 = .ok (.invokedynamic 105, 5))
    (kk : ∀ (q : Nat) (S1 : HS) (H1 : Heap) (cells1 slots1 : Nat), xNew S q → S1 = (sI ((sI ((sI (nO S 20 q) 2000 q v0)) 2001 q v1)) 2002 q v2) → x_W w s.heap S1 H1 locs → cells1 + (mc - 1) ≤ R.cells → slots1 + (ms - 3) ≤ R.slots → W p l e R s m args below meth c H1 locs cells1 slots1 Q (F0 m (3 + 5) ls (.ref q :: rest))) : W p l e R s m args below meth c H locs cells slots Q (F0 m 3 ls (.int v2 :: .int v1 :: .int v0 :: rest)) := by
  refine x_lam0 (t := 20) (vals := [.int v0, .int v1, .int v2]) (n := 3) (rest := rest) (mk := mkL20 v0 v1 v2) hE hT hW hsz hnd hT.1.2.2.2.1.1 (by omega) (by omega) xlay20 rfl rfl rfl rfl (fun i v ty h1 h2 => by
    match i, h1, h2 with
    | 0, h1, h2 => (have e1 := Option.some.inj h1; have e2 := Option.some.inj h2; subst e1; subst e2; rfl)
    | 1, h1, h2 => (have e1 := Option.some.inj h1; have e2 := Option.some.inj h2; subst e1; subst e2; rfl)
    | 2, h1, h2 => (have e1 := Option.some.inj h1; have e2 := Option.some.inj h2; subst e1; subst e2; rfl)
    | k + 3, h1, h2 => cases h1) h1 h2 hc9 hs9 ?_ hdg (fun q => rfl) (fun q k y hy => ?_) (fun q k y hy => ?_) (fun q => rfl) (fun q => rfl) (fun q => rfl) (fun q => ?_) kk
  · show (1 + (1 + (1 + (rest.map fun v => v.category).sum))) + 3072 ≤ R.locals
    omega
  · simp [mkL20, sI_I, sR_I, nO, hI, hy]
  · simp [mkL20, sI_R, sR_R, nO, hR, hy]
  · simp [mkL20, hfs, xlay, sI_I, sI_R, sR_R, sR_I, va_rf]
def mkL21 (v0 : Int32) (v1 : Int32) (v2 : Int32) (S : HS) (q : Nat) : HS := (sI ((sI ((sI (nO S 21 q) 2100 q v0)) 2101 q v1)) 2102 q v2)
theorem dL21 {S S1 : HS} {q : Nat} {v0 : Int32} {v1 : Int32} {v2 : Int32} (e : S1 = (sI ((sI ((sI (nO S 21 q) 2100 q v0)) 2101 q v1)) 2102 q v2)) {t x : Nat} (h : hD S t x) : hD S1 t x := by subst e; exact Or.inl h
theorem dLn21 {S S1 : HS} {q : Nat} {v0 : Int32} {v1 : Int32} {v2 : Int32} (e : S1 = (sI ((sI ((sI (nO S 21 q) 2100 q v0)) 2101 q v1)) 2102 q v2)) : hD S1 21 q := by subst e; exact Or.inr ⟨rfl, Or.inl rfl⟩
theorem dL921 {S S1 : HS} {q : Nat} {v0 : Int32} {v1 : Int32} {v2 : Int32} (e : S1 = (sI ((sI ((sI (nO S 21 q) 2100 q v0)) 2101 q v1)) 2102 q v2)) : hD S1 99 q := by subst e; exact Or.inr ⟨rfl, Or.inr rfl⟩
theorem xlay21 : ((xsh21.file xsm21.cls).bind (layoutFields · 0)).map (·.2.1) = some xsh21.captured.toArray := by decide +kernel
theorem x_lam21 {p : Program} {l : Launch} {e : Env} {R : Room} {s : State} {m : MethodId} {args : Array Value} {below : List Frame} {meth : Method} {c : Code} {H : Heap} {locs : List Loc} {cells slots : Nat} {Q : State → Prop} {cc : ByteArray} {ls : Array Slot} {rest : List Value} {w : XP} {S : HS}
    {nL : Nat} {own : String} {v0 : Int32} {v1 : Int32} {v2 : Int32} {mc ms : Nat} (hE : CallFix p m c cc nL s args lw_all own) (hT : x_E w s) (hW : x_W w s.heap S H locs) (hsz : ls.size = nL) (hnd : s.methodNamed? xsm21 = some m)
    (h1 : 1 ≤ mc) (h2 : 3 ≤ ms) (hc9 : cells + mc ≤ R.cells) (hs9 : slots + ms ≤ R.slots) (hloc : (rest.map fun v => v.category).sum + 3080 ≤ R.locals) (hdg : decode cc 11 = .ok (.invokedynamic 56, 5))
    (kk : ∀ (q : Nat) (S1 : HS) (H1 : Heap) (cells1 slots1 : Nat), xNew S q → S1 = (sI ((sI ((sI (nO S 21 q) 2100 q v0)) 2101 q v1)) 2102 q v2) → x_W w s.heap S1 H1 locs → cells1 + (mc - 1) ≤ R.cells → slots1 + (ms - 3) ≤ R.slots → W p l e R s m args below meth c H1 locs cells1 slots1 Q (F0 m (11 + 5) ls (.ref q :: rest))) : W p l e R s m args below meth c H locs cells slots Q (F0 m 11 ls (.int v2 :: .int v1 :: .int v0 :: rest)) := by
  refine x_lam0 (t := 21) (vals := [.int v0, .int v1, .int v2]) (n := 3) (rest := rest) (mk := mkL21 v0 v1 v2) hE hT hW hsz hnd hT.1.2.2.2.1.2.1 (by omega) (by omega) xlay21 rfl rfl rfl rfl (fun i v ty h1 h2 => by
    match i, h1, h2 with
    | 0, h1, h2 => (have e1 := Option.some.inj h1; have e2 := Option.some.inj h2; subst e1; subst e2; rfl)
    | 1, h1, h2 => (have e1 := Option.some.inj h1; have e2 := Option.some.inj h2; subst e1; subst e2; rfl)
    | 2, h1, h2 => (have e1 := Option.some.inj h1; have e2 := Option.some.inj h2; subst e1; subst e2; rfl)
    | k + 3, h1, h2 => cases h1) h1 h2 hc9 hs9 ?_ hdg (fun q => rfl) (fun q k y hy => ?_) (fun q k y hy => ?_) (fun q => rfl) (fun q => rfl) (fun q => rfl) (fun q => ?_) kk
  · show (1 + (1 + (1 + (rest.map fun v => v.category).sum))) + 3072 ≤ R.locals
    omega
  · simp [mkL21, sI_I, sR_I, nO, hI, hy]
  · simp [mkL21, sI_R, sR_R, nO, hR, hy]
  · simp [mkL21, hfs, xlay, sI_I, sI_R, sR_R, sR_I, va_rf]
def mkL22 (v0 : Int32) (v1 : Int32) (S : HS) (q : Nat) : HS := (sI ((sI (nO S 22 q) 2200 q v0)) 2201 q v1)
theorem dL22 {S S1 : HS} {q : Nat} {v0 : Int32} {v1 : Int32} (e : S1 = (sI ((sI (nO S 22 q) 2200 q v0)) 2201 q v1)) {t x : Nat} (h : hD S t x) : hD S1 t x := by subst e; exact Or.inl h
theorem dLn22 {S S1 : HS} {q : Nat} {v0 : Int32} {v1 : Int32} (e : S1 = (sI ((sI (nO S 22 q) 2200 q v0)) 2201 q v1)) : hD S1 22 q := by subst e; exact Or.inr ⟨rfl, Or.inl rfl⟩
theorem dL922 {S S1 : HS} {q : Nat} {v0 : Int32} {v1 : Int32} (e : S1 = (sI ((sI (nO S 22 q) 2200 q v0)) 2201 q v1)) : hD S1 99 q := by subst e; exact Or.inr ⟨rfl, Or.inr rfl⟩
theorem xlay22 : ((xsh22.file xsm22.cls).bind (layoutFields · 0)).map (·.2.1) = some xsh22.captured.toArray := by decide +kernel
theorem x_lam22 {p : Program} {l : Launch} {e : Env} {R : Room} {s : State} {m : MethodId} {args : Array Value} {below : List Frame} {meth : Method} {c : Code} {H : Heap} {locs : List Loc} {cells slots : Nat} {Q : State → Prop} {cc : ByteArray} {ls : Array Slot} {rest : List Value} {w : XP} {S : HS}
    {nL : Nat} {own : String} {v0 : Int32} {v1 : Int32} {mc ms : Nat} (hE : CallFix p m c cc nL s args lw_all own) (hT : x_E w s) (hW : x_W w s.heap S H locs) (hsz : ls.size = nL) (hnd : s.methodNamed? xsm22 = some m)
    (h1 : 1 ≤ mc) (h2 : 2 ≤ ms) (hc9 : cells + mc ≤ R.cells) (hs9 : slots + ms ≤ R.slots) (hloc : (rest.map fun v => v.category).sum + 3080 ≤ R.locals) (hdg : decode cc 69 = .ok (.invokedynamic 62, 5))
    (kk : ∀ (q : Nat) (S1 : HS) (H1 : Heap) (cells1 slots1 : Nat), xNew S q → S1 = (sI ((sI (nO S 22 q) 2200 q v0)) 2201 q v1) → x_W w s.heap S1 H1 locs → cells1 + (mc - 1) ≤ R.cells → slots1 + (ms - 2) ≤ R.slots → W p l e R s m args below meth c H1 locs cells1 slots1 Q (F0 m (69 + 5) ls (.ref q :: rest))) : W p l e R s m args below meth c H locs cells slots Q (F0 m 69 ls (.int v1 :: .int v0 :: rest)) := by
  refine x_lam0 (t := 22) (vals := [.int v0, .int v1]) (n := 2) (rest := rest) (mk := mkL22 v0 v1) hE hT hW hsz hnd hT.1.2.2.2.1.2.2.1 (by omega) (by omega) xlay22 rfl rfl rfl rfl (fun i v ty h1 h2 => by
    match i, h1, h2 with
    | 0, h1, h2 => (have e1 := Option.some.inj h1; have e2 := Option.some.inj h2; subst e1; subst e2; rfl)
    | 1, h1, h2 => (have e1 := Option.some.inj h1; have e2 := Option.some.inj h2; subst e1; subst e2; rfl)
    | k + 2, h1, h2 => cases h1) h1 h2 hc9 hs9 ?_ hdg (fun q => rfl) (fun q k y hy => ?_) (fun q k y hy => ?_) (fun q => rfl) (fun q => rfl) (fun q => rfl) (fun q => ?_) kk
  · show (1 + (1 + (rest.map fun v => v.category).sum)) + 3072 ≤ R.locals
    omega
  · simp [mkL22, sI_I, sR_I, nO, hI, hy]
  · simp [mkL22, sI_R, sR_R, nO, hR, hy]
  · simp [mkL22, hfs, xlay, sI_I, sI_R, sR_R, sR_I, va_rf]
def mkL23 (v0 : Nat) (S : HS) (q : Nat) : HS := (sR (nO S 23 q) 2300 q (some v0))
theorem dL23 {S S1 : HS} {q : Nat} {v0 : Nat} (e : S1 = (sR (nO S 23 q) 2300 q (some v0))) {t x : Nat} (h : hD S t x) : hD S1 t x := by subst e; exact Or.inl h
theorem dLn23 {S S1 : HS} {q : Nat} {v0 : Nat} (e : S1 = (sR (nO S 23 q) 2300 q (some v0))) : hD S1 23 q := by subst e; exact Or.inr ⟨rfl, Or.inl rfl⟩
theorem dL923 {S S1 : HS} {q : Nat} {v0 : Nat} (e : S1 = (sR (nO S 23 q) 2300 q (some v0))) : hD S1 99 q := by subst e; exact Or.inr ⟨rfl, Or.inr rfl⟩
theorem xlay23 : ((xsh23.file xsm23.cls).bind (layoutFields · 0)).map (·.2.1) = some xsh23.captured.toArray := by decide +kernel
theorem x_lam23 {p : Program} {l : Launch} {e : Env} {R : Room} {s : State} {m : MethodId} {args : Array Value} {below : List Frame} {meth : Method} {c : Code} {H : Heap} {locs : List Loc} {cells slots : Nat} {Q : State → Prop} {cc : ByteArray} {ls : Array Slot} {rest : List Value} {w : XP} {S : HS}
    {nL : Nat} {own : String} {v0 : Nat} {mc ms : Nat} (hE : CallFix p m c cc nL s args lw_all own) (hT : x_E w s) (hW : x_W w s.heap S H locs) (hsz : ls.size = nL) (hnd : s.methodNamed? xsm23 = some m)
    (h1 : 1 ≤ mc) (h2 : 1 ≤ ms) (hc9 : cells + mc ≤ R.cells) (hs9 : slots + ms ≤ R.slots) (hloc : (rest.map fun v => v.category).sum + 3080 ≤ R.locals) (hdg : decode cc 76 = .ok (.invokedynamic 49, 5))
    (kk : ∀ (q : Nat) (S1 : HS) (H1 : Heap) (cells1 slots1 : Nat), xNew S q → S1 = (sR (nO S 23 q) 2300 q (some v0)) → x_W w s.heap S1 H1 locs → cells1 + (mc - 1) ≤ R.cells → slots1 + (ms - 1) ≤ R.slots → W p l e R s m args below meth c H1 locs cells1 slots1 Q (F0 m (76 + 5) ls (.ref q :: rest))) : W p l e R s m args below meth c H locs cells slots Q (F0 m 76 ls (.ref v0 :: rest)) := by
  refine x_lam0 (t := 23) (vals := [.ref v0]) (n := 1) (rest := rest) (mk := mkL23 v0) hE hT hW hsz hnd hT.1.2.2.2.1.2.2.2.1 (by omega) (by omega) xlay23 rfl rfl rfl rfl (fun i v ty h1 h2 => by
    match i, h1, h2 with
    | 0, h1, h2 => (have e1 := Option.some.inj h1; have e2 := Option.some.inj h2; subst e1; subst e2; rfl)
    | k + 1, h1, h2 => cases h1) h1 h2 hc9 hs9 ?_ hdg (fun q => rfl) (fun q k y hy => ?_) (fun q k y hy => ?_) (fun q => rfl) (fun q => rfl) (fun q => rfl) (fun q => ?_) kk
  · show (1 + (rest.map fun v => v.category).sum) + 3072 ≤ R.locals
    omega
  · simp [mkL23, sI_I, sR_I, nO, hI, hy]
  · simp [mkL23, sI_R, sR_R, nO, hR, hy]
  · simp [mkL23, hfs, xlay, sI_I, sI_R, sR_R, sR_I, va_rf]
def mkL24 (v0 : Nat) (S : HS) (q : Nat) : HS := (sR (nO S 24 q) 2400 q (some v0))
theorem dL24 {S S1 : HS} {q : Nat} {v0 : Nat} (e : S1 = (sR (nO S 24 q) 2400 q (some v0))) {t x : Nat} (h : hD S t x) : hD S1 t x := by subst e; exact Or.inl h
theorem dLn24 {S S1 : HS} {q : Nat} {v0 : Nat} (e : S1 = (sR (nO S 24 q) 2400 q (some v0))) : hD S1 24 q := by subst e; exact Or.inr ⟨rfl, Or.inl rfl⟩
theorem dL924 {S S1 : HS} {q : Nat} {v0 : Nat} (e : S1 = (sR (nO S 24 q) 2400 q (some v0))) : hD S1 99 q := by subst e; exact Or.inr ⟨rfl, Or.inr rfl⟩
theorem xlay24 : ((xsh24.file xsm24.cls).bind (layoutFields · 0)).map (·.2.1) = some xsh24.captured.toArray := by decide +kernel
theorem x_lam24 {p : Program} {l : Launch} {e : Env} {R : Room} {s : State} {m : MethodId} {args : Array Value} {below : List Frame} {meth : Method} {c : Code} {H : Heap} {locs : List Loc} {cells slots : Nat} {Q : State → Prop} {cc : ByteArray} {ls : Array Slot} {rest : List Value} {w : XP} {S : HS}
    {nL : Nat} {own : String} {v0 : Nat} {mc ms : Nat} (hE : CallFix p m c cc nL s args lw_all own) (hT : x_E w s) (hW : x_W w s.heap S H locs) (hsz : ls.size = nL) (hnd : s.methodNamed? xsm24 = some m)
    (h1 : 1 ≤ mc) (h2 : 1 ≤ ms) (hc9 : cells + mc ≤ R.cells) (hs9 : slots + ms ≤ R.slots) (hloc : (rest.map fun v => v.category).sum + 3080 ≤ R.locals) (hdg : decode cc 88 = .ok (.invokedynamic 53, 5))
    (kk : ∀ (q : Nat) (S1 : HS) (H1 : Heap) (cells1 slots1 : Nat), xNew S q → S1 = (sR (nO S 24 q) 2400 q (some v0)) → x_W w s.heap S1 H1 locs → cells1 + (mc - 1) ≤ R.cells → slots1 + (ms - 1) ≤ R.slots → W p l e R s m args below meth c H1 locs cells1 slots1 Q (F0 m (88 + 5) ls (.ref q :: rest))) : W p l e R s m args below meth c H locs cells slots Q (F0 m 88 ls (.ref v0 :: rest)) := by
  refine x_lam0 (t := 24) (vals := [.ref v0]) (n := 1) (rest := rest) (mk := mkL24 v0) hE hT hW hsz hnd hT.1.2.2.2.1.2.2.2.2.1 (by omega) (by omega) xlay24 rfl rfl rfl rfl (fun i v ty h1 h2 => by
    match i, h1, h2 with
    | 0, h1, h2 => (have e1 := Option.some.inj h1; have e2 := Option.some.inj h2; subst e1; subst e2; rfl)
    | k + 1, h1, h2 => cases h1) h1 h2 hc9 hs9 ?_ hdg (fun q => rfl) (fun q k y hy => ?_) (fun q k y hy => ?_) (fun q => rfl) (fun q => rfl) (fun q => rfl) (fun q => ?_) kk
  · show (1 + (rest.map fun v => v.category).sum) + 3072 ≤ R.locals
    omega
  · simp [mkL24, sI_I, sR_I, nO, hI, hy]
  · simp [mkL24, sI_R, sR_R, nO, hR, hy]
  · simp [mkL24, hfs, xlay, sI_I, sI_R, sR_R, sR_I, va_rf]
def mkL25 (v0 : Nat) (S : HS) (q : Nat) : HS := (sR (nO S 25 q) 2500 q (some v0))
theorem dL25 {S S1 : HS} {q : Nat} {v0 : Nat} (e : S1 = (sR (nO S 25 q) 2500 q (some v0))) {t x : Nat} (h : hD S t x) : hD S1 t x := by subst e; exact Or.inl h
theorem dLn25 {S S1 : HS} {q : Nat} {v0 : Nat} (e : S1 = (sR (nO S 25 q) 2500 q (some v0))) : hD S1 25 q := by subst e; exact Or.inr ⟨rfl, Or.inl rfl⟩
theorem dL925 {S S1 : HS} {q : Nat} {v0 : Nat} (e : S1 = (sR (nO S 25 q) 2500 q (some v0))) : hD S1 99 q := by subst e; exact Or.inr ⟨rfl, Or.inr rfl⟩
theorem xlay25 : ((xsh25.file xsm25.cls).bind (layoutFields · 0)).map (·.2.1) = some xsh25.captured.toArray := by decide +kernel
theorem x_lam25 {p : Program} {l : Launch} {e : Env} {R : Room} {s : State} {m : MethodId} {args : Array Value} {below : List Frame} {meth : Method} {c : Code} {H : Heap} {locs : List Loc} {cells slots : Nat} {Q : State → Prop} {cc : ByteArray} {ls : Array Slot} {rest : List Value} {w : XP} {S : HS}
    {nL : Nat} {own : String} {v0 : Nat} {mc ms : Nat} (hE : CallFix p m c cc nL s args lw_all own) (hT : x_E w s) (hW : x_W w s.heap S H locs) (hsz : ls.size = nL) (hnd : s.methodNamed? xsm25 = some m)
    (h1 : 1 ≤ mc) (h2 : 1 ≤ ms) (hc9 : cells + mc ≤ R.cells) (hs9 : slots + ms ≤ R.slots) (hloc : (rest.map fun v => v.category).sum + 3080 ≤ R.locals) (hdg : decode cc 100 = .ok (.invokedynamic 54, 5))
    (kk : ∀ (q : Nat) (S1 : HS) (H1 : Heap) (cells1 slots1 : Nat), xNew S q → S1 = (sR (nO S 25 q) 2500 q (some v0)) → x_W w s.heap S1 H1 locs → cells1 + (mc - 1) ≤ R.cells → slots1 + (ms - 1) ≤ R.slots → W p l e R s m args below meth c H1 locs cells1 slots1 Q (F0 m (100 + 5) ls (.ref q :: rest))) : W p l e R s m args below meth c H locs cells slots Q (F0 m 100 ls (.ref v0 :: rest)) := by
  refine x_lam0 (t := 25) (vals := [.ref v0]) (n := 1) (rest := rest) (mk := mkL25 v0) hE hT hW hsz hnd hT.1.2.2.2.1.2.2.2.2.2.1 (by omega) (by omega) xlay25 rfl rfl rfl rfl (fun i v ty h1 h2 => by
    match i, h1, h2 with
    | 0, h1, h2 => (have e1 := Option.some.inj h1; have e2 := Option.some.inj h2; subst e1; subst e2; rfl)
    | k + 1, h1, h2 => cases h1) h1 h2 hc9 hs9 ?_ hdg (fun q => rfl) (fun q k y hy => ?_) (fun q k y hy => ?_) (fun q => rfl) (fun q => rfl) (fun q => rfl) (fun q => ?_) kk
  · show (1 + (rest.map fun v => v.category).sum) + 3072 ≤ R.locals
    omega
  · simp [mkL25, sI_I, sR_I, nO, hI, hy]
  · simp [mkL25, sI_R, sR_R, nO, hR, hy]
  · simp [mkL25, hfs, xlay, sI_I, sI_R, sR_R, sR_I, va_rf]
def mkL26 (v0 : Nat) (S : HS) (q : Nat) : HS := (sR (nO S 26 q) 2600 q (some v0))
theorem dL26 {S S1 : HS} {q : Nat} {v0 : Nat} (e : S1 = (sR (nO S 26 q) 2600 q (some v0))) {t x : Nat} (h : hD S t x) : hD S1 t x := by subst e; exact Or.inl h
theorem dLn26 {S S1 : HS} {q : Nat} {v0 : Nat} (e : S1 = (sR (nO S 26 q) 2600 q (some v0))) : hD S1 26 q := by subst e; exact Or.inr ⟨rfl, Or.inl rfl⟩
theorem dL926 {S S1 : HS} {q : Nat} {v0 : Nat} (e : S1 = (sR (nO S 26 q) 2600 q (some v0))) : hD S1 99 q := by subst e; exact Or.inr ⟨rfl, Or.inr rfl⟩
theorem xlay26 : ((xsh26.file xsm26.cls).bind (layoutFields · 0)).map (·.2.1) = some xsh26.captured.toArray := by decide +kernel
theorem x_lam26 {p : Program} {l : Launch} {e : Env} {R : Room} {s : State} {m : MethodId} {args : Array Value} {below : List Frame} {meth : Method} {c : Code} {H : Heap} {locs : List Loc} {cells slots : Nat} {Q : State → Prop} {cc : ByteArray} {ls : Array Slot} {rest : List Value} {w : XP} {S : HS}
    {nL : Nat} {own : String} {v0 : Nat} {mc ms : Nat} (hE : CallFix p m c cc nL s args lw_all own) (hT : x_E w s) (hW : x_W w s.heap S H locs) (hsz : ls.size = nL) (hnd : s.methodNamed? xsm26 = some m)
    (h1 : 1 ≤ mc) (h2 : 1 ≤ ms) (hc9 : cells + mc ≤ R.cells) (hs9 : slots + ms ≤ R.slots) (hloc : (rest.map fun v => v.category).sum + 3080 ≤ R.locals) (hdg : decode cc 112 = .ok (.invokedynamic 55, 5))
    (kk : ∀ (q : Nat) (S1 : HS) (H1 : Heap) (cells1 slots1 : Nat), xNew S q → S1 = (sR (nO S 26 q) 2600 q (some v0)) → x_W w s.heap S1 H1 locs → cells1 + (mc - 1) ≤ R.cells → slots1 + (ms - 1) ≤ R.slots → W p l e R s m args below meth c H1 locs cells1 slots1 Q (F0 m (112 + 5) ls (.ref q :: rest))) : W p l e R s m args below meth c H locs cells slots Q (F0 m 112 ls (.ref v0 :: rest)) := by
  refine x_lam0 (t := 26) (vals := [.ref v0]) (n := 1) (rest := rest) (mk := mkL26 v0) hE hT hW hsz hnd hT.1.2.2.2.1.2.2.2.2.2.2.1 (by omega) (by omega) xlay26 rfl rfl rfl rfl (fun i v ty h1 h2 => by
    match i, h1, h2 with
    | 0, h1, h2 => (have e1 := Option.some.inj h1; have e2 := Option.some.inj h2; subst e1; subst e2; rfl)
    | k + 1, h1, h2 => cases h1) h1 h2 hc9 hs9 ?_ hdg (fun q => rfl) (fun q k y hy => ?_) (fun q k y hy => ?_) (fun q => rfl) (fun q => rfl) (fun q => rfl) (fun q => ?_) kk
  · show (1 + (rest.map fun v => v.category).sum) + 3072 ≤ R.locals
    omega
  · simp [mkL26, sI_I, sR_I, nO, hI, hy]
  · simp [mkL26, sI_R, sR_R, nO, hR, hy]
  · simp [mkL26, hfs, xlay, sI_I, sI_R, sR_R, sR_I, va_rf]
def mkL27 (v0 : Nat) (S : HS) (q : Nat) : HS := (sR (nO S 27 q) 2700 q (some v0))
theorem dL27 {S S1 : HS} {q : Nat} {v0 : Nat} (e : S1 = (sR (nO S 27 q) 2700 q (some v0))) {t x : Nat} (h : hD S t x) : hD S1 t x := by subst e; exact Or.inl h
theorem dLn27 {S S1 : HS} {q : Nat} {v0 : Nat} (e : S1 = (sR (nO S 27 q) 2700 q (some v0))) : hD S1 27 q := by subst e; exact Or.inr ⟨rfl, Or.inl rfl⟩
theorem dL927 {S S1 : HS} {q : Nat} {v0 : Nat} (e : S1 = (sR (nO S 27 q) 2700 q (some v0))) : hD S1 99 q := by subst e; exact Or.inr ⟨rfl, Or.inr rfl⟩
theorem xlay27 : ((xsh27.file xsm27.cls).bind (layoutFields · 0)).map (·.2.1) = some xsh27.captured.toArray := by decide +kernel
theorem x_lam27 {p : Program} {l : Launch} {e : Env} {R : Room} {s : State} {m : MethodId} {args : Array Value} {below : List Frame} {meth : Method} {c : Code} {H : Heap} {locs : List Loc} {cells slots : Nat} {Q : State → Prop} {cc : ByteArray} {ls : Array Slot} {rest : List Value} {w : XP} {S : HS}
    {nL : Nat} {own : String} {v0 : Nat} {mc ms : Nat} (hE : CallFix p m c cc nL s args lw_all own) (hT : x_E w s) (hW : x_W w s.heap S H locs) (hsz : ls.size = nL) (hnd : s.methodNamed? xsm27 = some m)
    (h1 : 1 ≤ mc) (h2 : 1 ≤ ms) (hc9 : cells + mc ≤ R.cells) (hs9 : slots + ms ≤ R.slots) (hloc : (rest.map fun v => v.category).sum + 3080 ≤ R.locals) (hdg : decode cc 124 = .ok (.invokedynamic 56, 5))
    (kk : ∀ (q : Nat) (S1 : HS) (H1 : Heap) (cells1 slots1 : Nat), xNew S q → S1 = (sR (nO S 27 q) 2700 q (some v0)) → x_W w s.heap S1 H1 locs → cells1 + (mc - 1) ≤ R.cells → slots1 + (ms - 1) ≤ R.slots → W p l e R s m args below meth c H1 locs cells1 slots1 Q (F0 m (124 + 5) ls (.ref q :: rest))) : W p l e R s m args below meth c H locs cells slots Q (F0 m 124 ls (.ref v0 :: rest)) := by
  refine x_lam0 (t := 27) (vals := [.ref v0]) (n := 1) (rest := rest) (mk := mkL27 v0) hE hT hW hsz hnd hT.1.2.2.2.1.2.2.2.2.2.2.2.1 (by omega) (by omega) xlay27 rfl rfl rfl rfl (fun i v ty h1 h2 => by
    match i, h1, h2 with
    | 0, h1, h2 => (have e1 := Option.some.inj h1; have e2 := Option.some.inj h2; subst e1; subst e2; rfl)
    | k + 1, h1, h2 => cases h1) h1 h2 hc9 hs9 ?_ hdg (fun q => rfl) (fun q k y hy => ?_) (fun q k y hy => ?_) (fun q => rfl) (fun q => rfl) (fun q => rfl) (fun q => ?_) kk
  · show (1 + (rest.map fun v => v.category).sum) + 3072 ≤ R.locals
    omega
  · simp [mkL27, sI_I, sR_I, nO, hI, hy]
  · simp [mkL27, sI_R, sR_R, nO, hR, hy]
  · simp [mkL27, hfs, xlay, sI_I, sI_R, sR_R, sR_I, va_rf]
def mkL28 (v0 : Nat) (S : HS) (q : Nat) : HS := (sR (nO S 28 q) 2800 q (some v0))
theorem dL28 {S S1 : HS} {q : Nat} {v0 : Nat} (e : S1 = (sR (nO S 28 q) 2800 q (some v0))) {t x : Nat} (h : hD S t x) : hD S1 t x := by subst e; exact Or.inl h
theorem dLn28 {S S1 : HS} {q : Nat} {v0 : Nat} (e : S1 = (sR (nO S 28 q) 2800 q (some v0))) : hD S1 28 q := by subst e; exact Or.inr ⟨rfl, Or.inl rfl⟩
theorem dL928 {S S1 : HS} {q : Nat} {v0 : Nat} (e : S1 = (sR (nO S 28 q) 2800 q (some v0))) : hD S1 99 q := by subst e; exact Or.inr ⟨rfl, Or.inr rfl⟩
theorem xlay28 : ((xsh28.file xsm28.cls).bind (layoutFields · 0)).map (·.2.1) = some xsh28.captured.toArray := by decide +kernel
theorem x_lam28 {p : Program} {l : Launch} {e : Env} {R : Room} {s : State} {m : MethodId} {args : Array Value} {below : List Frame} {meth : Method} {c : Code} {H : Heap} {locs : List Loc} {cells slots : Nat} {Q : State → Prop} {cc : ByteArray} {ls : Array Slot} {rest : List Value} {w : XP} {S : HS}
    {nL : Nat} {own : String} {v0 : Nat} {mc ms : Nat} (hE : CallFix p m c cc nL s args lw_all own) (hT : x_E w s) (hW : x_W w s.heap S H locs) (hsz : ls.size = nL) (hnd : s.methodNamed? xsm28 = some m)
    (h1 : 1 ≤ mc) (h2 : 1 ≤ ms) (hc9 : cells + mc ≤ R.cells) (hs9 : slots + ms ≤ R.slots) (hloc : (rest.map fun v => v.category).sum + 3080 ≤ R.locals) (hdg : decode cc 137 = .ok (.invokedynamic 57, 5))
    (kk : ∀ (q : Nat) (S1 : HS) (H1 : Heap) (cells1 slots1 : Nat), xNew S q → S1 = (sR (nO S 28 q) 2800 q (some v0)) → x_W w s.heap S1 H1 locs → cells1 + (mc - 1) ≤ R.cells → slots1 + (ms - 1) ≤ R.slots → W p l e R s m args below meth c H1 locs cells1 slots1 Q (F0 m (137 + 5) ls (.ref q :: rest))) : W p l e R s m args below meth c H locs cells slots Q (F0 m 137 ls (.ref v0 :: rest)) := by
  refine x_lam0 (t := 28) (vals := [.ref v0]) (n := 1) (rest := rest) (mk := mkL28 v0) hE hT hW hsz hnd hT.1.2.2.2.1.2.2.2.2.2.2.2.2.1 (by omega) (by omega) xlay28 rfl rfl rfl rfl (fun i v ty h1 h2 => by
    match i, h1, h2 with
    | 0, h1, h2 => (have e1 := Option.some.inj h1; have e2 := Option.some.inj h2; subst e1; subst e2; rfl)
    | k + 1, h1, h2 => cases h1) h1 h2 hc9 hs9 ?_ hdg (fun q => rfl) (fun q k y hy => ?_) (fun q k y hy => ?_) (fun q => rfl) (fun q => rfl) (fun q => rfl) (fun q => ?_) kk
  · show (1 + (rest.map fun v => v.category).sum) + 3072 ≤ R.locals
    omega
  · simp [mkL28, sI_I, sR_I, nO, hI, hy]
  · simp [mkL28, sI_R, sR_R, nO, hR, hy]
  · simp [mkL28, hfs, xlay, sI_I, sI_R, sR_R, sR_I, va_rf]
