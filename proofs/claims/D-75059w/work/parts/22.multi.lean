/-! ROWS OF ROWS -/
set_option maxRecDepth 100000
theorem mu_inner {e : Env} {d : Bool} {acts : List Action} {s : State} {Q : Addr → Pre} {E : CtlPost} {c compI : ClassId} {k : Class} (hs : s.topJava?.isSome) (hk : s.vm.classes[c]? = some k) (hkind : k.kind = .array compI .int) (hl : ¬ 6 > e.platform.arrayLengthLimit) (hh : ¬ 6 * componentBytes .int > e.platform.maxHeapBytes) (hcells : s.heap.size < e.platform.maxCells) (hslots : s.slotsUsed + 6 ≤ e.platform.maxSlots)
    (kk : Q s.heap.size d acts (s.pushCell { cls := c, slots := Array.replicate 6 (.int 0), vm := .none })) : wp (Op.multianewarray.make c [6]) Q E e d acts s := by
  have h6 : ¬ (6 : Int32) < 0 := by decide
  have h6' : (6 : Int32).toNatClampNeg = 6 := by decide
  have hfit : ∀ i v, (Array.replicate 6 (Value.int 0))[i]? = some v → s.fitsSlot c .none i v = true := by
    intro i v hv
    simp only [Array.getElem?_replicate] at hv
    split at hv
    · cases hv; simp [State.fitsSlot, State.slotType?, hk, hkind, fits]
    · cases hv
  have hdef : allocActs (Array.replicate 6 (Value.int 0)) s.heap.size acts = acts := by
    have hall : ((Array.replicate 6 (Value.int 0)).all (·.isDefault)) = true := by rw [Array.all_replicate]; rfl
    unfold allocActs; rw [if_pos hall]
  unfold Op.multianewarray.make
  simp only [h6, if_false, wp_bind', wp_pure', W.theClass, hk, Option.some.injEq, exists_eq_left', hkind, h6', Jvm.newArray, Jvm.arrayFits, W.ite, W.ask, hl, hh, W.alloc, W.stop, defaultValue]
  rw [if_neg (by omega), hdef]
  exact ⟨hcells, by simpa using hslots, hfit, kk⟩
def muI (comp : ClassId) : Cell := { cls := comp, slots := Array.replicate 6 (.int 0), vm := .none }
/-- one turn: a new row, and its place -/
def muT (a : Nat) (comp : ClassId) (cell : Cell) (i : Nat) (s : State) : State := (s.pushCell (muI comp)).setCell a (cell.setSlot i (.ref s.heap.size))
theorem mu_step {e : Env} {d : Bool} {acts : List Action} {s : State} {Q : ForInStep PUnit → Pre} {E : CtlPost} {c comp compI : ClassId} {k kI : Class} {a i : Nat} {cell : Cell} (hs : s.topJava?.isSome) (hk : s.vm.classes[c]? = some k) (hkind : k.kind = .array comp (.array .int)) (hkI : s.vm.classes[comp]? = some kI) (hkindI : kI.kind = .array compI .int) (hl : ¬ 6 > e.platform.arrayLengthLimit) (hh : ¬ 6 * componentBytes .int > e.platform.maxHeapBytes) (hcells : s.heap.size < e.platform.maxCells) (hslots : s.slotsUsed + 6 ≤ e.platform.maxSlots)
    (hc : s.heap[a]? = some cell) (hcc : cell.cls = c) (hvm : cell.vm = .none) (hi : i < cell.slots.size)
    (kk : ∀ d' acts', Q (.yield PUnit.unit) d' acts' (muT a comp cell i s)) : wp (do
      let r ← Op.multianewarray.make comp [6]
      writeLoc a i (.ref r)
      Pure.pure (ForInStep.yield PUnit.unit)) Q E e d acts s := by
  simp only [wp_bind']
  refine mu_inner hs hkI hkindI hl hh hcells hslots ?_
  rw [wp_bind']
  show wp (Jvm.writeLoc a i (.ref s.heap.size)) _ E e d acts _
  rw [W.writeLoc]
  have ha : a < s.heap.size := (Array.getElem?_eq_some_iff.mp hc).1
  refine ⟨cell, ?_, (by rw [hvm]; exact (fun h => nomatch h)), hi, ?_, ?_⟩
  · show (s.heap.push _)[a]? = _
    rw [Array.getElem?_push, if_neg (by omega)]
    exact hc
  · rw [hcc, hvm]
    show s.fitsSlot c .none i (.ref s.heap.size) = true
    simp [State.fitsSlot, State.slotType?, hk, hkind, fits]
  · show wp (Pure.pure (ForInStep.yield PUnit.unit)) Q E e _ _ _
    rw [wp_pure']
    exact kk _ _
def muCell (b : Nat) (c : ClassId) : Nat → Cell
  | 0 => { cls := c, slots := Array.replicate 6 .null, vm := .none }
  | n + 1 => (muCell b c n).setSlot n (.ref (b + 1 + n))
def muS (s : State) (c comp : ClassId) : Nat → State
  | 0 => s.pushCell (muCell s.heap.size c 0)
  | n + 1 => muT s.heap.size comp (muCell s.heap.size c n) n (muS s c comp n)
theorem muCell_cls (b : Nat) (c : ClassId) : ∀ n, (muCell b c n).cls = c ∧ (muCell b c n).vm = .none ∧ (muCell b c n).slots.size = 6
  | 0 => ⟨rfl, rfl, by simp [muCell]⟩
  | n + 1 => by
    obtain ⟨h1, h2, h3⟩ := muCell_cls b c n
    exact ⟨h1, h2, by show (Array.setIfInBounds _ _ _).size = 6; rw [Array.size_setIfInBounds]; exact h3⟩
theorem muS_facts (s : State) (c comp : ClassId) : ∀ n, (muS s c comp n).vm = s.vm ∧ (muS s c comp n).heap.size = s.heap.size + 1 + n ∧ (muS s c comp n).heap[s.heap.size]? = some (muCell s.heap.size c n) ∧ (muS s c comp n).slotsUsed = s.slotsUsed + 6 + 6 * n
  | 0 => ⟨rfl, by show (Array.push _ _).size = _; simp, by show (Array.push _ _)[_]? = _; simp, by show _ + (Array.replicate 6 Value.null).size = _; simp⟩
  | n + 1 => by
    obtain ⟨h1, h2, h3, h4⟩ := muS_facts s c comp n
    refine ⟨h1, ?_, ?_, ?_⟩
    · show (Array.setIfInBounds (Array.push _ _) _ _).size = _
      simp [h2]; omega
    · show (Array.setIfInBounds (Array.push (muS s c comp n).heap _) s.heap.size ((muCell s.heap.size c n).setSlot n (.ref (muS s c comp n).heap.size)))[s.heap.size]? = some ((muCell s.heap.size c n).setSlot n (.ref (s.heap.size + 1 + n)))
      rw [h2]
      simp [Array.getElem?_setIfInBounds, h2]; omega
    · show (muS s c comp n).slotsUsed + (Array.replicate 6 (Value.int 0)).size = _
      simp [h4]; omega
theorem muS_top (s : State) (c comp : ClassId) (hs : s.topJava?.isSome) : ∀ n, (muS s c comp n).topJava?.isSome
  | 0 => hs
  | n + 1 => muS_top s c comp hs n
theorem mu_loop {e : Env} {s : State} {Q : PUnit → Pre} {E : CtlPost} {c comp compI : ClassId} {k kI : Class} (hs : s.topJava?.isSome) (hk : s.vm.classes[c]? = some k) (hkind : k.kind = .array comp (.array .int)) (hkI : s.vm.classes[comp]? = some kI) (hkindI : kI.kind = .array compI .int) (hl : ¬ 6 > e.platform.arrayLengthLimit) (hh : ¬ 6 * componentBytes .int > e.platform.maxHeapBytes) (hcells : s.heap.size + 7 ≤ e.platform.maxCells) (hslots : s.slotsUsed + 42 ≤ e.platform.maxSlots)
    (kk : ∀ d' acts', Q PUnit.unit d' acts' (muS s c comp 6)) : ∀ (m n : Nat), n + m = 6 → ∀ (d : Bool) (acts : List Action), wp (forIn (List.range' n m) PUnit.unit fun i (_ : PUnit) => do
      let r ← Op.multianewarray.make comp [6]
      writeLoc s.heap.size i (.ref r)
      Pure.pure (ForInStep.yield PUnit.unit)) Q E e d acts (muS s c comp n)
  | 0, n, hn, d, acts => by
    have e6 : n = 6 := by omega
    subst e6
    show wp (forIn [] PUnit.unit _) Q E e d acts _
    rw [List.forIn_nil, wp_pure']
    exact kk _ _
  | m + 1, n, hn, d, acts => by
    obtain ⟨f1, f2, f3, f4⟩ := muS_facts s c comp n
    obtain ⟨g1, g2, g3⟩ := muCell_cls s.heap.size c n
    rw [List.range'_succ, List.forIn_cons, wp_bind']
    refine mu_step (muS_top s c comp hs n) (by rw [f1]; exact hk) hkind (by rw [f1]; exact hkI) hkindI hl hh (by omega) (by omega) f3 g1 g2 (by omega) (fun d' acts' => ?_)
    exact mu_loop hs hk hkind hkI hkindI hl hh hcells hslots kk m (n + 1) (by omega) d' acts'
theorem mu_outer {e : Env} {d : Bool} {acts : List Action} {s : State} {Q : Addr → Pre} {E : CtlPost} {c comp compI : ClassId} {k kI : Class} (hs : s.topJava?.isSome) (hk : s.vm.classes[c]? = some k) (hkind : k.kind = .array comp (.array .int)) (hkI : s.vm.classes[comp]? = some kI) (hkindI : kI.kind = .array compI .int) (hl : ¬ 6 > e.platform.arrayLengthLimit) (hh : ¬ 6 * componentBytes .int > e.platform.maxHeapBytes) (hh2 : ¬ 6 * componentBytes (.array .int) > e.platform.maxHeapBytes) (hcells : s.heap.size + 7 ≤ e.platform.maxCells) (hslots : s.slotsUsed + 42 ≤ e.platform.maxSlots) 
    (kk : ∀ d' acts', Q s.heap.size d' acts' (muS s c comp 6)) : wp (Op.multianewarray.make c [6, 6]) Q E e d acts s := by
  have h6 : ¬ (6 : Int32) < 0 := by decide
  have h6' : (6 : Int32).toNatClampNeg = 6 := by decide
  have h60 : ((6 : Int32) == 0) = false := by decide
  have hfit : ∀ i v, (Array.replicate 6 (Value.null))[i]? = some v → s.fitsSlot c .none i v = true := by
    intro i v hv
    simp only [Array.getElem?_replicate] at hv
    split at hv
    · cases hv; simp [State.fitsSlot, State.slotType?, hk, hkind, fits]
    · cases hv
  have hdef : allocActs (Array.replicate 6 (Value.null)) s.heap.size acts = acts := by
    have hall : ((Array.replicate 6 (Value.null)).all (·.isDefault)) = true := by rw [Array.all_replicate]; rfl
    unfold allocActs; rw [if_pos hall]
  unfold Op.multianewarray.make
  simp only [h6, if_false, wp_bind', wp_pure', W.theClass, hk, Option.some.injEq, exists_eq_left', hkind, h6', h60, Jvm.newArray, Jvm.arrayFits, W.ite, W.ask, hl, hh2, W.alloc, W.stop, Bool.false_eq_true]
  rw [if_neg (by omega), hdef]
  simp only [Std.Legacy.Range.forIn_eq_forIn_range', Std.Legacy.Range.size]
  refine ⟨by omega, by simpa using (by omega : s.slotsUsed + 6 ≤ e.platform.maxSlots), hfit, ?_⟩
  refine mu_loop hs hk hkind hkI hkindI hl hh hcells hslots (fun d' acts' => ?_) 6 0 rfl _ _
  exact kk d' acts'
