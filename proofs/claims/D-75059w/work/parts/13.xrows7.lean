/-! THE FREE HEAP (7): copies of rows, casts of rows, class objects, clones -/
set_option maxRecDepth 100000
def xCpy (S : HS) (src : Nat) (sp : Int32) (dst : Nat) (dp ln : Int32) : Prop := ¬ sp < 0 ∧ ¬ dp < 0 ∧ ¬ ln < 0 ∧ sp.toNatClampNeg + ln.toNatClampNeg ≤ hL S src ∧ dp.toNatClampNeg + ln.toNatClampNeg ≤ hL S dst
/-- places of bytes fit -/
def xByt (S : HS) (a : Nat) : Prop := ∀ i, i < hL S a → fits .byte (.int (hA S a i)) = true
def xEl (t : Nat) (S : HS) (y : Nat) : Prop := if t = 61 then hD S 20 y ∨ hD S 21 y else xObj S y
def sCA (S : HS) (src : Nat) (sp : Int32) (dst : Nat) (dp ln : Int32) : HS := (hD S, hI S, hR S, hL S, fun a' => if a' = dst then va_cpy (hA S src) (hA S dst) sp.toNatClampNeg dp.toNatClampNeg ln.toNatClampNeg else hA S a', hB S)
def sCB (S : HS) (src : Nat) (sp : Int32) (dst : Nat) (dp ln : Int32) : HS := (hD S, hI S, hR S, hL S, hA S, fun a' => if a' = dst then va_cpy (hB S src) (hB S dst) sp.toNatClampNeg dp.toNatClampNeg ln.toNatClampNeg else hB S a')
theorem dCA {S S1 : HS} {src dst : Nat} {sp dp ln : Int32} (e : S1 = sCA S src sp dst dp ln) {t x : Nat} (h : hD S t x) : hD S1 t x := by subst e; exact h
theorem dCB {S S1 : HS} {src dst : Nat} {sp dp ln : Int32} (e : S1 = sCB S src sp dst dp ln) {t x : Nat} (h : hD S t x) : hD S1 t x := by subst e; exact h
/-- a new row, as another one is -/
def nC (S : HS) (q src : Nat) : HS := (fun t' x => hD S t' x ∨ (x = q ∧ (t' = 51 ∨ t' = 99)), hI S, hR S, fun x => if x = q then hL S src else hL S x, fun x => if x = q then hA S src else hA S x, hB S)
theorem dNc {S S1 : HS} {q src : Nat} (e : S1 = nC S q src) {t x : Nat} (h : hD S t x) : hD S1 t x := by subst e; exact Or.inl h
theorem dNcn {S S1 : HS} {q src : Nat} (e : S1 = nC S q src) : hD S1 51 q := by subst e; exact Or.inr ⟨rfl, Or.inl rfl⟩
theorem dNc9 {S S1 : HS} {q src : Nat} (e : S1 = nC S q src) : hD S1 99 q := by subst e; exact Or.inr ⟨rfl, Or.inr rfl⟩
theorem x_nn {z : Int32} (hz : ¬ z < 0) : z.toInt = (z.toNatClampNeg : Int) := by
  have hz0 : (0 : Int) ≤ z.toInt := by
    have := Int32.not_lt.mp hz
    simpa using Int32.le_iff_toInt_le.mp this
  show z.toInt = ((z.toInt.toNat : Nat) : Int)
  omega
section XR7
variable {p : Program} {l : Launch} {e : Env} {R : Room} {s : State} {m : MethodId} {args : Array Value} {below : List Frame} {meth : Method} {c : Code} {H : Heap} {locs : List Loc} {cells slots : Nat} {Q : State → Prop}
variable {cc : ByteArray} {pc : Nat} {ls : Array Slot} {rest st0 : List Value} {w : XP} {S : HS} {H0 : Heap}
theorem x_P.setC {S1 : HS} {H1 : Heap} {t a : Nat} (h : x_P w S H) (hd : hD S t a) (h1 : 50 ≤ t) (h2 : t < 90) (eD : hD S1 = hD S) (eI : hI S1 = hI S) (eR : hR S1 = hR S) (eL : hL S1 = hL S) (eA : ∀ x, x ≠ a → hA S1 x = hA S x) (eB : ∀ x, x ≠ a → hB S1 x = hB S x)
    (ho : H1[a]? = some (vp_cell (x_d w t) (hL S a, if t < 60 then .inl (hA S1 a) else .inr (.inr (.inr (.inr (hB S1 a))))))) (oq : ∀ q : Nat, q ≠ a → H1[q]? = H[q]?) : x_P w S1 H1 := by
  obtain ⟨p1, p2, p3, p4, p5, p6, p7⟩ := h
  refine ⟨fun c' a' hd' hc' => ?_, fun t' a' hd' g1 g2 => ?_, fun t' a' hd' g1 g2 => ?_, by rw [eD]; exact p4, by rw [eD]; exact p5, by rw [eD]; exact p6, by rw [eD]; exact p7⟩
  · rw [eD] at hd'
    have e : a' ≠ a := fun e => by subst e; have := p4 t c' a' hd hd' (by omega) (by omega); omega
    have hf : hfs c' S1 a' = hfs c' S a' := hfs_congr (fun k => by rw [eI]) (fun k => by rw [eR])
    show t_OB _ _ _ _ _ _
    rw [hf]
    exact (p1 c' a' hd' hc').kept (oq a' e)
  · rw [eD] at hd'
    by_cases e : a' = a
    · subst e
      have := p4 t t' a' hd hd' (by omega) (by omega)
      subst this
      rw [ho, eL, if_pos g2]
    · rw [oq a' e, eL, eA a' e]
      exact p2 t' a' hd' g1 g2
  · rw [eD] at hd'
    by_cases e : a' = a
    · subst e
      have := p4 t t' a' hd hd' (by omega) (by omega)
      subst this
      rw [ho, eL, if_neg (by omega)]
    · rw [oq a' e, eL, eB a' e]
      exact p3 t' a' hd' g1 g2
theorem x_copyA {nL : Nat} {own : String} (hE : CallFix p m c cc nL s args lw_all own) (hsz : ls.size = nL) (hT : x_E w s) (hW : x_W w s.heap S H locs) (t : Nat) (ht : 50 ≤ t) (ht2 : t < 60) {src dst : Nat} (hd0 : hD S t src) (hd1 : hD S t dst) (hwr : t ≠ 51 ∨ hD S 99 dst) {sp dp n : Int32} (hcp : xCpy S src sp dst dp n ∧ (t = 50 ∨ (t = 51 ∧ xByt S src))) {index : Nat} (hlink : (Cond.methodLink own index arraycopyName).before args s = true) {mc ms : Nat} (hc9 : cells + mc ≤ R.cells) (hs9 : slots + ms ≤ R.slots) (hdg : decode cc pc = .ok (.invokestatic index, 3)) (hframes : 1 ≤ R.frames) (hlocals : (rest.map fun v => v.category).sum + 40 ≤ R.locals)
    (kk : ∀ (S1 : HS) (H1 : Heap) (locs1 : List Loc), S1 = sCA S src sp dst dp n → x_W w s.heap S1 H1 locs1 → W p l e R s m args below meth c H1 locs1 cells slots Q (F0 m (pc + 3) ls rest)) : W p l e R s m args below meth c H locs cells slots Q (F0 m pc ls (.int n :: .int dp :: .ref dst :: .int sp :: .ref src :: rest)) := by
  obtain ⟨hexec, hb, hml, hown, hts⟩ := hE
  obtain ⟨⟨h1, h2, h3, h4, h5⟩, hft⟩ := hcp
  have hc0 := hW.1.2.1 t src hd0 ht ht2
  have hc1 := hW.1.2.1 t dst hd1 ht ht2
  have harr := (hT.1.1.2 t ht (by omega)).1
  have hx : x_ft t = .int ∨ x_ft t = .byte := by rcases hft with h | ⟨h, -⟩ <;> subst h; exact Or.inl rfl; exact Or.inr rfl
  have hprim : refKind (x_ft t) = false := by rcases hx with h | h <;> rw [h] <;> rfl
  have hfit : ∀ i, i < n.toNatClampNeg → fits (x_ft t) (.int (hA S src (sp.toNatClampNeg + i))) = true := by
    intro i hi
    rcases hft with h | ⟨h, hy⟩
    · subst h; rfl
    · subst h; exact hy _ (by omega)
  intro T hT0 X
  obtain ⟨-, k0, hk0, cm0, hkk0⟩ := harr (hL S src) (fun j => .int (hA S src j))
  obtain ⟨vm', X', step⟩ := X.arraycopy hexec hown hlink (hts _ q298) (hts _ q297) (hts _ q148) (src := src) (dst := dst) (cs := vp_cell (x_d w t) (hL S src, .inl (hA S src))) (cd := vp_cell (x_d w t) (hL S dst, .inl (hA S dst))) (srcPos := sp) (destPos := dp) (n := n) (by rw [hT0]; exact hc0) (by rw [hT0]; exact hc1)
    (fun _ h => by cases h) (fun _ h => by cases h) (fun h => by cases h) (fun h => by cases h) hk0 hk0 hkk0 hkk0 (by simp [hprim]) h1 h2 h3
    (by rw [x_nn h1, x_nn h3]; show ¬ _ > ((arrV _ (hL S src) (fun j => .int (hA S src j))).slots.size : Int); rw [arrV_size]; omega)
    (by rw [x_nn h2, x_nn h3]; show ¬ _ > ((arrV _ (hL S dst) (fun j => .int (hA S dst j))).slots.size : Int); rw [arrV_size]; omega)
    (fun vm₁ _ i hi => by
      have e : (vp_cell (x_d w t) (hL S src, .inl (hA S src))).slots.getD (sp.toNatClampNeg + i) .null = .int (hA S src (sp.toNatClampNeg + i)) := by
        show (arrV _ (hL S src) (fun j => .int (hA S src j))).slots.getD _ _ = _
        rw [Array.getD_eq_getD_getElem?, arrV_read _ _ (by omega)]
        rfl
      refine ⟨?_, ?_⟩
      · rw [e]; exact hfit i hi
      · rw [e]; exact trivial)
    (g := F0 m pc ls (.int n :: .int dp :: .ref dst :: .int sp :: .ref src :: rest)) rfl (by show ls.size = _; rw [hml]; exact hsz) (rest := rest) rfl (by rw [hb]; exact hdg) hframes (by show 2 * 0 + _ + _ ≤ _; have hw : nativeFrameWords "java/lang/System" "arraycopy" 5 = 7 := (by decide); omega)
  have e1 : copied (vp_cell (x_d w t) (hL S src, .inl (hA S src))) (vp_cell (x_d w t) (hL S dst, .inl (hA S dst))) sp dp n = vp_cell (x_d w t) (hL S dst, .inl (va_cpy (hA S src) (hA S dst) sp.toNatClampNeg dp.toNatClampNeg n.toNatClampNeg)) := va_copied (fun z => .int z) _ _ _ _ h4
  rw [e1] at X' step
  have hl : dst < H.size := (Array.getElem?_eq_some_iff.mp hc1).1
  generalize hce : vp_cell (x_d w t) (hL S dst, .inl (va_cpy (hA S src) (hA S dst) sp.toNatClampNeg dp.toNatClampNeg n.toNatClampNeg)) = ce at X' step
  have hheap : ((T.setVm vm').setCell dst ce).heap = H.setIfInBounds dst ce := by rw [← hT0]; rfl
  have oq : ∀ q : Nat, q ≠ dst → (H.setIfInBounds dst ce)[q]? = H[q]? := fun q hq => by simp [Array.getElem?_setIfInBounds, Ne.symm hq]
  have hAa : x_A w dst := by
    rcases hwr with h | h
    · exact hW.1.2.2.2.2.2.2 t dst hd1 (by omega) (by omega) h (by omega)
    · exact hW.1.2.2.2.2.2.1 dst h
  obtain ⟨t2, a1, b1⟩ := kk (sCA S src sp dst dp n) _ _ rfl ⟨hW.1.setC hd1 ht (by omega) rfl rfl rfl rfl (fun x hx => if_neg hx) (fun _ _ => rfl) (by
      show (H.setIfInBounds dst ce)[dst]? = _
      rw [if_pos ht2]
      simp only [sCA, hA]
      simp [Array.getElem?_setIfInBounds, hl, ← hce]) oq, ⟨hW.2.1.1, fun a h => by simp; exact hW.2.1.2 a h⟩, ⟨by simp; exact hW.2.2.1, fun q g1 g2 => by
      rw [oq q (fun e => g2 (by rw [e]; exact hAa))]
      exact hW.2.2.2.1 q g1 g2, fun q hq => by
      rcases List.mem_append.mp hq with h | h
      · exact hW.2.2.2.2 q h
      · obtain ⟨z, -, hz⟩ := List.mem_map.mp h
        rw [← hz]
        exact hAa⟩⟩ _ hheap X'
  exact ⟨t2, step t2 a1, b1⟩
theorem x_copyB0 {nL : Nat} {own : String} (hE : CallFix p m c cc nL s args lw_all own) (hsz : ls.size = nL) (hT : x_E w s) (hW : x_W w s.heap S H locs) (t : Nat) (ht : 60 ≤ t) (ht2 : t < 90) {E1 : String} (hft : x_ft t = .object E1) {src dst : Nat} (hd0 : hD S t src) (hd1 : hD S t dst) (hwr : t ≠ 60 ∨ hD S 99 dst) {sp dp n : Int32} (hcp : xCpy S src sp dst dp n) (hel : ∀ i : Nat, i < n.toNatClampNeg → ∀ y : Nat, hB S src (sp.toNatClampNeg + i) = some y → xAny E1 s H y) {index : Nat} (hlink : (Cond.methodLink own index arraycopyName).before args s = true) {mc ms : Nat} (hc9 : cells + mc ≤ R.cells) (hs9 : slots + ms ≤ R.slots) (hdg : decode cc pc = .ok (.invokestatic index, 3)) (hframes : 1 ≤ R.frames) (hlocals : (rest.map fun v => v.category).sum + 40 ≤ R.locals)
    (kk : ∀ (S1 : HS) (H1 : Heap) (locs1 : List Loc), S1 = sCB S src sp dst dp n → x_W w s.heap S1 H1 locs1 → W p l e R s m args below meth c H1 locs1 cells slots Q (F0 m (pc + 3) ls rest)) : W p l e R s m args below meth c H locs cells slots Q (F0 m pc ls (.int n :: .int dp :: .ref dst :: .int sp :: .ref src :: rest)) := by
  obtain ⟨hexec, hb, hml, hown, hts⟩ := hE
  obtain ⟨h1, h2, h3, h4, h5⟩ := hcp
  have hc0 := hW.1.2.2.1 t src hd0 ht ht2
  have hc1 := hW.1.2.2.1 t dst hd1 ht ht2
  have harr := (hT.1.1.2 t (by omega) ht2).1
  have hra := (hT.1.1.2 t (by omega) ht2).2
  rw [hft] at harr hra
  intro T hT0 X
  obtain ⟨-, k0, hk0, cm0, hkk0⟩ := harr (hL S src) (fun j => va_rf (hB S src j))
  obtain ⟨vm', X', step⟩ := X.arraycopy hexec hown hlink (hts _ q298) (hts _ q297) (hts _ q148) (src := src) (dst := dst) (cs := vp_cell (x_d w t) (hL S src, .inr (.inr (.inr (.inr (hB S src)))))) (cd := vp_cell (x_d w t) (hL S dst, .inr (.inr (.inr (.inr (hB S dst)))))) (srcPos := sp) (destPos := dp) (n := n) (by rw [hT0]; exact hc0) (by rw [hT0]; exact hc1)
    (fun _ h => by cases h) (fun _ h => by cases h) (fun h => by cases h) (fun h => by cases h) hk0 hk0 hkk0 hkk0 rfl h1 h2 h3
    (by rw [x_nn h1, x_nn h3]; show ¬ _ > ((arrV _ (hL S src) (fun j => va_rf (hB S src j))).slots.size : Int); rw [arrV_size]; omega)
    (by rw [x_nn h2, x_nn h3]; show ¬ _ > ((arrV _ (hL S dst) (fun j => va_rf (hB S dst j))).slots.size : Int); rw [arrV_size]; omega)
    (fun vm₁ hal i hi => by
      have e : (vp_cell (x_d w t) (hL S src, .inr (.inr (.inr (.inr (hB S src)))))).slots.getD (sp.toNatClampNeg + i) .null = va_rf (hB S src (sp.toNatClampNeg + i)) := by
        show (arrV _ (hL S src) (fun j => va_rf (hB S src j))).slots.getD _ _ = _
        rw [Array.getD_eq_getD_getElem?, arrV_read _ _ (by omega)]
        rfl
      rw [e]
      cases hy : hB S src (sp.toNatClampNeg + i) with
      | none => exact ⟨rfl, trivial⟩
      | some y =>
        obtain ⟨cellV, g1, g2, ⟨kC, hkC⟩, hasg⟩ := hel i hi y hy
        obtain ⟨kA, comp, r1, r2, r3, -⟩ := hra
        cases hk0.symm.trans r1
        cases hkk0.symm.trans r2
        obtain ⟨kE, hkE, -⟩ := Vm.findClass_spec r3
        obtain ⟨kC', hkC', -⟩ := hal.2.2 _ _ hkC
        obtain ⟨kE', hkE', -⟩ := hal.2.2 _ _ hkE
        refine ⟨rfl, cellV, (show T.heap[y]? = some cellV by rw [hT0]; exact g1), (fun q h => by rw [h] at g2; cases g2), ⟨kC', hkC'⟩, ?_, ?_⟩
        · exact ⟨kE', hkE'⟩
        · show vm₁.assignable _ _ = true
          rw [hal.assignable]
          exact hasg _ r3)
    (g := F0 m pc ls (.int n :: .int dp :: .ref dst :: .int sp :: .ref src :: rest)) rfl (by show ls.size = _; rw [hml]; exact hsz) (rest := rest) rfl (by rw [hb]; exact hdg) hframes (by show 2 * 0 + _ + _ ≤ _; have hw : nativeFrameWords "java/lang/System" "arraycopy" 5 = 7 := (by decide); omega)
  have e1 : copied (vp_cell (x_d w t) (hL S src, .inr (.inr (.inr (.inr (hB S src)))))) (vp_cell (x_d w t) (hL S dst, .inr (.inr (.inr (.inr (hB S dst)))))) sp dp n = vp_cell (x_d w t) (hL S dst, .inr (.inr (.inr (.inr (va_cpy (hB S src) (hB S dst) sp.toNatClampNeg dp.toNatClampNeg n.toNatClampNeg))))) := by
    rw [vp_cell_q, vp_cell_q, vp_cell_q]
    exact va_copied (fun z => va_rf z) _ _ _ _ h4
  rw [e1] at X' step
  have hl : dst < H.size := (Array.getElem?_eq_some_iff.mp hc1).1
  generalize hce : vp_cell (x_d w t) (hL S dst, .inr (.inr (.inr (.inr (va_cpy (hB S src) (hB S dst) sp.toNatClampNeg dp.toNatClampNeg n.toNatClampNeg))))) = ce at X' step
  have hheap : ((T.setVm vm').setCell dst ce).heap = H.setIfInBounds dst ce := by rw [← hT0]; rfl
  have oq : ∀ q : Nat, q ≠ dst → (H.setIfInBounds dst ce)[q]? = H[q]? := fun q hq => by simp [Array.getElem?_setIfInBounds, Ne.symm hq]
  have hAa : x_A w dst := by
    rcases hwr with h | h
    · exact hW.1.2.2.2.2.2.2 t dst hd1 (by omega) (by omega) (by omega) h
    · exact hW.1.2.2.2.2.2.1 dst h
  obtain ⟨t2, a1, b1⟩ := kk (sCB S src sp dst dp n) _ _ rfl ⟨hW.1.setC hd1 (by omega) ht2 rfl rfl rfl rfl (fun _ _ => rfl) (fun x hx => if_neg hx) (by
      show (H.setIfInBounds dst ce)[dst]? = _
      rw [if_neg (by omega)]
      simp only [sCB, hB]
      simp [Array.getElem?_setIfInBounds, hl, ← hce]) oq, ⟨hW.2.1.1, fun a h => by simp; exact hW.2.1.2 a h⟩, ⟨by simp; exact hW.2.2.1, fun q g1 g2 => by
      rw [oq q (fun e => g2 (by rw [e]; exact hAa))]
      exact hW.2.2.2.1 q g1 g2, fun q hq => by
      rcases List.mem_append.mp hq with h | h
      · exact hW.2.2.2.2 q h
      · obtain ⟨z, -, hz⟩ := List.mem_map.mp h
        rw [← hz]
        exact hAa⟩⟩ _ hheap X'
  exact ⟨t2, step t2 a1, b1⟩
/-- a cast to a row's own class, or to one above -/
theorem x_castA (hx : p.tables.exec = Jvm.exec) (hb : c.code = cc) {own C : String} {index : Nat} (hown : s.vm.findClass own = some m.cls) (hts : ∀ w ∈ lw_all, w.before args s = true) (hT : x_E w s) (hW : x_W w H0 S H locs) (t : Nat) (ht : (t = 51 ∧ C = "[B") ∨ (t = 60 ∧ C = "[Ljava/lang/Object;")) (hl : Cond.classLink own index C ∈ lw_all) {a : Nat} (hd : hD S t a) (hdg : decode cc pc = .ok (.checkcast index, 3))
    (kk : W p l e R s m args below meth c H locs cells slots Q (F0 m (pc + 3) ls (.ref a :: rest))) : W p l e R s m args below meth c H locs cells slots Q (F0 m pc ls (.ref a :: rest)) := by
  obtain ⟨cell, g1, g2, g3⟩ : ∃ cell : Cell, H[a]? = some cell ∧ cell.vm.isStatics = false ∧ s.vm.findClass C = some cell.cls := by
    rcases ht with ⟨rfl, rfl⟩ | ⟨rfl, rfl⟩
    · exact ⟨_, hW.1.2.1 51 a hd (by omega) (by omega), rfl, va_nm_byte (hT.1.1.2 51 (by omega) (by omega)).2⟩
    · refine ⟨_, hW.1.2.2.1 60 a hd (by omega) (by omega), rfl, ?_⟩
      have h2 := (hT.1.1.2 60 (by omega) (by omega)).2
      exact va_nmO (C := "java/lang/Object") h2 (by decide +kernel)
  intro T hT0 X
  obtain ⟨vm', X', st⟩ := X.checkcastYes hx hown (hts _ hl) (a := a) (cell := cell) (by rw [hT0]; exact g1) g2 g3 (va_asg _ _) (g := F0 m pc ls (.ref a :: rest)) rfl rfl (by rw [hb]; exact hdg)
  obtain ⟨t2, a1, b1⟩ := kk (T.setVm vm') hT0 X'
  exact ⟨t2, st t2 a1, b1⟩
theorem x_ldcM (hx : p.tables.exec = Jvm.exec) (hb : c.code = cc) {own : String} {index : Nat} (hown : s.vm.findClass own = some m.cls) (hts : ∀ w ∈ lw_all, w.before args s = true) (hT : x_E w s) (hl : Cond.classLink own index "[Ljava/lang/Object;" ∈ lw_all) (hdg : decode cc pc = .ok (.ldc index, 2))
    (kk : W p l e R s m args below meth c H locs cells slots Q (F0 m (pc + 2) ls (.ref (x_k w 10) :: rest))) : W p l e R s m args below meth c H locs cells slots Q (F0 m pc ls rest) :=
  va_ldcM hx hb hown (hts _ hl) hT.1.2.2.2.1.2.2.2.2.2.2.2.2.2.2.1 hdg kk
theorem x_getC {nL : Nat} {own : String} (hE : CallFix p m c cc nL s args lw_all own) (hsz : ls.size = nL) {index : Nat} (hT : x_E w s) (hW : x_W w s.heap S H locs) {a : Nat} (hd : hD S 60 a) (hl : Cond.methodLink own index ⟨"java/lang/Object", "getClass", "()Ljava/lang/Class;"⟩ ∈ lw_all) (hframes : 1 ≤ R.frames) (hlocals : (rest.map fun v => v.category).sum + 14 ≤ R.locals) (hdg : decode cc pc = .ok (.invokevirtual index, 3))
    (kk : W p l e R s m args below meth c H locs cells slots Q (F0 m (pc + 3) ls (.ref (x_k w 10) :: rest))) : W p l e R s m args below meth c H locs cells slots Q (F0 m pc ls (.ref a :: rest)) := by
  obtain ⟨hx, hb, hml, hown, hts⟩ := hE
  have h2 := (hT.1.1.2 60 (by omega) (by omega)).2
  exact va_getC (C := "[Ljava/lang/Object;") hx hb (hml.trans hsz.symm) hown (hts _ hl) (va_Nw.use rfl (hT.1.2.1.1 _ q2789 rfl)) (hts _ q2788) (hts _ q1100) (hts _ q1127) hT.1.2.2.2.1.2.2.2.2.2.2.2.2.2.2.1 ⟨_, hW.1.2.2.1 60 a hd (by omega) (by omega), rfl, va_nmO (C := "java/lang/Object") h2 (by decide +kernel)⟩ hframes hlocals hdg kk
theorem x_P.newC {H1 : Heap} {src : Nat} (h : x_P w S H) (hn : xNew S H.size) (hAw : x_A w H.size)
    (ho : H1[H.size]? = some (vp_cell (x_d w 51) (hL S src, .inl (hA S src)))) (oq : ∀ q : Nat, q < H.size → H1[q]? = H[q]?) : x_P w (nC S H.size src) H1 := by
  have hl : ∀ {t a}, hD S t a → t < 90 → a < H.size := fun hd ht => h.lt hd ht
  obtain ⟨p1, p2, p3, p4, p5, p6, p7⟩ := h
  refine ⟨fun c' a' hd' hc' => ?_, fun t' a' hd' g1 g2 => ?_, fun t' a' hd' g1 g2 => ?_, fun t u a' g1 g2 g3 g4 => ?_, fun t a' g1 g2 => ?_, fun a' g1 => ?_, fun t a' g1 g2 => ?_⟩
  · rcases hd' with hd' | ⟨rfl, e | e⟩
    · exact (p1 c' a' hd' hc').kept (oq a' (hl hd' (by omega)))
    · omega
    · omega
  · rcases hd' with hd' | ⟨rfl, e | e⟩
    · have lt := hl hd' (by omega)
      have e1 : hL (nC S H.size src) a' = hL S a' := if_neg (by omega)
      have e2 : hA (nC S H.size src) a' = hA S a' := if_neg (by omega)
      rw [oq a' lt, e1, e2]; exact p2 t' a' hd' g1 g2
    · subst e
      rw [ho]
      have e1 : hL (nC S H.size src) H.size = hL S src := if_pos rfl
      have e2 : hA (nC S H.size src) H.size = hA S src := if_pos rfl
      rw [e1, e2]
    · omega
  · rcases hd' with hd' | ⟨rfl, e | e⟩
    · have lt := hl hd' (by omega)
      have e1 : hL (nC S H.size src) a' = hL S a' := if_neg (by omega)
      rw [oq a' lt, e1]; exact p3 t' a' hd' g1 g2
    · omega
    · omega
  · rcases g1 with g1 | ⟨e1, f1⟩ <;> rcases g2 with g2 | ⟨e2, f2⟩
    · exact p4 t u a' g1 g2 g3 g4
    · subst e2; exact absurd g1 (hn t)
    · subst e1; exact absurd g2 (hn u)
    · omega
  · rcases g1 with g1 | ⟨e1, f1⟩
    · exact p5 t a' g1 g2
    · omega
  · rcases g1 with g1 | ⟨e1, f1⟩
    · exact p6 a' g1
    · subst e1; exact hAw
  · intro n1 n2 n3
    rcases g1 with g1 | ⟨e1, f1⟩
    · exact p7 t a' g1 g2 n1 n2 n3
    · subst e1; exact hAw
theorem x_clone {nL : Nat} {own : String} (hE : CallFix p m c cc nL s args lw_all own) (hsz : ls.size = nL) {index : Nat} (hT : x_E w s) (hW : x_W w s.heap S H locs) {a : Nat} (hd : hD S 51 a) (hy : xByt S a) (hl : Cond.methodLink own index ⟨"[B", "clone", "()Ljava/lang/Object;"⟩ ∈ lw_all) {mc ms : Nat} (h1 : 1 ≤ mc) (h2 : hL S a ≤ ms) (hc : cells + mc ≤ R.cells) (hs : slots + ms ≤ R.slots) (hframes : 1 ≤ R.frames) (hlocals : (rest.map fun v => v.category).sum + 14 ≤ R.locals) (hdg : decode cc pc = .ok (.invokevirtual index, 3))
    (kk : ∀ (q : Nat) (S1 : HS) (H1 : Heap) (cells1 slots1 : Nat), xNew S q → S1 = nC S q a → x_W w s.heap S1 H1 locs → cells1 + (mc - 1) ≤ R.cells → slots1 + (ms - hL S a) ≤ R.slots → W p l e R s m args below meth c H1 locs cells1 slots1 Q (F0 m (pc + 3) ls (.ref q :: rest))) : W p l e R s m args below meth c H locs cells slots Q (F0 m pc ls (.ref a :: rest)) := by
  obtain ⟨hx, hb, hml, hown, hts⟩ := hE
  have harr := (hT.1.1.2 51 (by omega) (by omega)).1
  have hnm := va_nm_byte (hT.1.1.2 51 (by omega) (by omega)).2
  obtain ⟨c0, t0', f1, f2, f3⟩ := Cond.castable_spec (va_Nw.use (A := args) rfl (hT.1.2.1.1 _ q636 rfl))
  cases hnm.symm.trans f1
  intro T hT0 X
  have hcellT : T.heap[a]? = some (vp_cell (x_d w 51) (hL S a, .inl (hA S a))) := by rw [hT0]; exact hW.1.2.1 51 a hd (by omega) (by omega)
  obtain ⟨-, kA, hkA, comp, hkind⟩ := State.isArrayOf_alike X.warmed.alike (harr 0 (fun _ => .null))
  obtain ⟨-, kS, hkS, compS, hkindS⟩ := harr 0 (fun _ => .null)
  have hsz2 : (vp_cell (x_d w 51) (hL S a, .inl (hA S a))).slots.size = hL S a := arrV_size _ _ _
  obtain ⟨vm', X', st⟩ := X.cloneArray hx hown (hts _ hl) (hts _ q632) (hts _ q633) (hts _ q634) (hts _ q635) (a := a) (cell := vp_cell (x_d w 51) (hL S a, .inl (hA S a))) hcellT (fun k h => by cases h) (fun h => by cases h) hnm f2 f3
    (fun i v hv => by
      have hk' : T.vm.classes[x_d w 51]? = some kA := hkA
      have hf : fits (x_ft 51) v = true := va_fit (cA := x_d w 51) (n := hL S a) (F := fun j => .int (hA S a j)) (ty := x_ft 51) (fun i hi => hy i hi) i v hv
      show T.fitsSlot (x_d w 51) .none i v = true
      simpa [State.fitsSlot, State.slotType?, hk', hkind] using hf)
    (g := F0 m pc ls (.ref a :: rest)) rfl (by show ls.size = _; rw [hml]; exact hsz) rfl (by rw [hb]; exact hdg) hframes (by show 2 * 0 + _ + 14 ≤ _; omega) (by omega) (by rw [hsz2]; omega) (hloader := Vm.clonesLoader_of_array hkS hkindS)
  rw [hsz2] at X'
  generalize hce : ({ cls := (vp_cell (x_d w 51) (hL S a, .inl (hA S a))).cls, slots := (vp_cell (x_d w 51) (hL S a, .inl (hA S a))).slots } : Cell) = ce at X' st
  have hce2 : ce = vp_cell (x_d w 51) (hL S a, .inl (hA S a)) := by rw [← hce]; rfl
  generalize hH1 : H.push ce = H1
  have z1 : H1.size = H.size + 1 := by rw [← hH1, Array.size_push]
  have e1 : H1[H.size]? = some (vp_cell (x_d w 51) (hL S a, .inl (hA S a))) := by rw [← hH1, Array.getElem?_push_size, hce2]
  have o1 : ∀ q : Nat, q < H.size → H1[q]? = H[q]? := fun q hq => by rw [← hH1, Array.getElem?_push, if_neg (Nat.ne_of_lt hq)]
  obtain ⟨g1, g2⟩ := hW.2.1
  have hn : xNew S H.size := hW.1.fresh g2 g1
  obtain ⟨t, b1, b2⟩ := kk H.size (nC S H.size a) H1 (cells + 1) (slots + hL S a) hn rfl ⟨hW.1.newC hn (hT.2 _ hW.2.2.1) e1 o1, ⟨fun t a h => by
      rcases h with h | ⟨-, h⟩
      · exact g1 t a h
      · omega, fun a h => by
      rcases h with h | ⟨h, -⟩
      · have := g2 a h; omega
      · omega⟩, ⟨Nat.le_trans hW.2.2.1 (by omega), fun q h1 h2 => (o1 q (Nat.lt_of_lt_of_le h1 hW.2.2.1)).trans (hW.2.2.2.1 q h1 h2), hW.2.2.2.2⟩⟩ (by omega) (by omega) ((T.setVm vm').pushCell ce) (by rw [← hH1, ← hT0]; rfl) X'
  refine ⟨t, st t ?_, b2⟩
  rw [hT0]
  exact b1
end XR7
section XR7b
variable {p : Program} {l : Launch} {e : Env} {R : Room} {s : State} {m : MethodId} {args : Array Value} {below : List Frame} {meth : Method} {c : Code} {H : Heap} {locs : List Loc} {cells slots : Nat} {Q : State → Prop}
variable {cc : ByteArray} {pc : Nat} {ls : Array Slot} {rest st0 : List Value} {w : XP} {S : HS} {H0 : Heap}
theorem x_copyB60 {nL : Nat} {own : String} (hE : CallFix p m c cc nL s args lw_all own) (hsz : ls.size = nL) (hT : x_E w s) (hW : x_W w s.heap S H locs) {src dst : Nat} (hd0 : hD S 60 src) (hd1 : hD S 60 dst) (hwr : hD S 99 dst) {sp dp n : Int32} (hcp : xCpy S src sp dst dp n ∧ ∀ i : Nat, i < n.toNatClampNeg → ∀ y : Nat, hB S src (sp.toNatClampNeg + i) = some y → xObj S y) {index : Nat} (hlink : (Cond.methodLink own index arraycopyName).before args s = true) {mc ms : Nat} (hc9 : cells + mc ≤ R.cells) (hs9 : slots + ms ≤ R.slots) (hdg : decode cc pc = .ok (.invokestatic index, 3)) (hframes : 1 ≤ R.frames) (hlocals : (rest.map fun v => v.category).sum + 40 ≤ R.locals)
    (kk : ∀ (S1 : HS) (H1 : Heap) (locs1 : List Loc), S1 = sCB S src sp dst dp n → x_W w s.heap S1 H1 locs1 → W p l e R s m args below meth c H1 locs1 cells slots Q (F0 m (pc + 3) ls rest)) : W p l e R s m args below meth c H locs cells slots Q (F0 m pc ls (.int n :: .int dp :: .ref dst :: .int sp :: .ref src :: rest)) :=
  x_copyB0 hE hsz hT hW 60 (by omega) (by omega) rfl hd0 hd1 (Or.inr hwr) hcp.1 (fun i hi y hy => xAny.obj hT hW (hcp.2 i hi y hy)) hlink hc9 hs9 hdg hframes hlocals kk
theorem x_put0S {own C ref : String} {T : u_T} {N ci index : Nat} (hx : p.tables.exec = Jvm.exec) (hb : c.code = cc) (hown : s.vm.findClass own = some m.cls) (hts : ∀ w ∈ lw_all, w.before args s = true) (hT : x_E w s) (hW : x_W w H0 S H locs) (hin : ∀ w ∈ u_ws C T N, w ∈ lw_all) (hc : xcl[ci]? = some (C, T, N)) (hci : ci < 40) (hN : (xlay ci).length = N) (ty0 : Nat → FieldType) (hty : ∀ k, k < N → parseFieldDescriptor (T k).2.2.1 = some (ty0 k)) (hnm : ∀ a, a < N → ∀ b, b < N → a ≠ b → (T a).2.1 ≠ (T b).2.1) (k : Nat) (hk : k < N)
    (hlink : (Cond.fieldLink own index ref (T k).2.1 (T k).2.2.1).before args s = true ∨ ∃ host, (Cond.fieldLinkNest own index ref (T k).2.1 (T k).2.2.1 host).before args s = true) (hsf : (Cond.sameField ref (T k).1 (T k).2.1 (T k).2.2.1).before args s = true) (hfin : (T k).2.2.2 = false) {a : Nat} (hd : hD S ci a) {v : Value} (hn : narrow (ty0 k) v = v) (hfit : fits (ty0 k) v = true) (hdg : decode cc pc = .ok (.putfield index, 3))
    (kk : ∀ H1 : Heap, t_OB a (x_c w ci) (xlay ci).length (x_i w ci) H1 (vp_V ((hfs ci S a).set k v)) → H1.size = H.size → (∀ q : Nat, q ≠ a → H1[q]? = H[q]?) → W p l e R s m args below meth c H1 (locs ++ [⟨a, x_i w ci k⟩]) cells slots Q (F0 m (pc + 3) ls rest)) : W p l e R s m args below meth c H locs cells slots Q (F0 m pc ls (v :: .ref a :: rest)) := by
  have hap := x_apart hts hT hin hc ty0 hty hnm
  obtain ⟨cell, q1, q2, q3, q4⟩ := hW.1.1 ci a hd hci
  obtain ⟨hS, hfc, kC, hkC, hkind⟩ := hT.1.1.1 ci _ hc
  obtain ⟨cf, kf, fi, f, hi, hsl⟩ := hS k hk
  have hlay := hts _ (hin _ (u_in_lay hk))
  have hst := (u_facts hfc hkC (u_lays hts hin hk) hi).1
  have hlt : k < (hfs ci S a).length := by rw [hfs_len, hN]; exact hk
  have fin : ∀ H' : Heap, H'[a]? = some (cell.setSlot f.slot v) → t_OB a (x_c w ci) (xlay ci).length (x_i w ci) H' (vp_V ((hfs ci S a).set k v)) := by
    intro H' e1
    rw [hsl] at e1
    rw [hN] at q4 ⊢
    exact t_OB.to (V := updV (vp_V (hfs ci S a)) k v) ⟨_, e1, q2, q3, t_set q4 hap hk v⟩ (fun j _ => vp_updV_set hlt v j)
  have hslot : f.slot < cell.slots.size := by rw [hsl]; exact k2_hasslot (q4 k (by rw [hN]; exact hk))
  unfold u_lay at hlay
  rw [if_neg (by rw [hfin]; decide)] at hlay
  have h6 := u_store hfc hkC hkind hlay hi (hty k hk) hn hfit
  rcases hlink with hl | ⟨host, hl⟩
  · refine W.putK hx hb (f := f) ⟨hown, hl, ⟨_, _, _, u_same hsf _ hi⟩, hst⟩ (by rw [q2]; exact h6) q1 q3 hslot rfl rfl hdg fun H' e1 e2 e3 => ?_
    have := kk H' (fin H' e1) e2 e3
    rw [hsl]
    exact this
  · refine va_WputK hx hb (f := f) hown hl (u_same hsf _ hi) hst (by rw [q2]; exact h6) q1 q3 hslot rfl rfl hdg fun H' e1 e2 e3 => ?_
    have := kk H' (fin H' e1) e2 e3
    rw [hsl]
    exact this
theorem x_putiS {own C ref : String} {T : u_T} {N ci index : Nat} (hx : p.tables.exec = Jvm.exec) (hb : c.code = cc) (hown : s.vm.findClass own = some m.cls) (hts : ∀ w ∈ lw_all, w.before args s = true) (hT : x_E w s) (hW : x_W w H0 S H locs) (hin : ∀ w ∈ u_ws C T N, w ∈ lw_all) (hc : xcl[ci]? = some (C, T, N)) (hci : ci < 40) (hN : (xlay ci).length = N) (ty0 : Nat → FieldType) (hty : ∀ k, k < N → parseFieldDescriptor (T k).2.2.1 = some (ty0 k)) (hnm : ∀ a, a < N → ∀ b, b < N → a ≠ b → (T a).2.1 ≠ (T b).2.1) (k : Nat) (hk : k < N) (hly : (xlay ci)[k]? = some false)
    (hlink : (Cond.fieldLink own index ref (T k).2.1 (T k).2.2.1).before args s = true ∨ ∃ host, (Cond.fieldLinkNest own index ref (T k).2.1 (T k).2.2.1 host).before args s = true) (hsf : (Cond.sameField ref (T k).1 (T k).2.1 (T k).2.2.1).before args s = true) (hfin : (T k).2.2.2 = false) {a : Nat} (hd : hD S ci a) (hwr : ci ≠ 15 ∨ hD S 99 a) {x : Int32} (hn : narrow (ty0 k) (.int x) = .int x) (hfit : fits (ty0 k) (.int x) = true) {key : Nat} (hkey : 100 * ci + k = key) (hdg : decode cc pc = .ok (.putfield index, 3))
    (kk : ∀ (S1 : HS) (H1 : Heap) (locs1 : List Loc), S1 = sI S key a x → x_W w H0 S1 H1 locs1 → W p l e R s m args below meth c H1 locs1 cells slots Q (F0 m (pc + 3) ls rest)) : W p l e R s m args below meth c H locs cells slots Q (F0 m pc ls (.int x :: .ref a :: rest)) := by
  subst hkey
  refine x_put0S hx hb hown hts hT hW hin hc hci hN ty0 hty hnm k hk hlink hsf hfin hd hn hfit hdg fun H1 ho z oq => ?_
  refine kk _ H1 _ rfl (hW.setO hd hci hwr rfl rfl rfl rfl (fun k' y hy => ?_) (fun _ _ _ => rfl) ?_ z oq)
  · rw [sI_I]
    simp [hy]
  · show t_OB _ _ _ _ _ _
    rw [← hfs_setI hly]
    exact ho
theorem x_selp {C C0 : String} {n : Nat} {y x0 y0 : MethodName} (hy : y.cls ≠ "java/lang/invoke/MethodHandle" ∧ y.cls ≠ "java/lang/invoke/VarHandle") (hi : (Cond.instantiable C n).before args s = true) (hpriv : (Cond.privateMethod y).before args s = true) (hinst : (Cond.instanceMethod y).before args s = true) (h0 : (Cond.selects C0 x0 y0).before args s = true) (h9 : y0.cls = y.cls) : (Cond.selects C y y).before args s = true := by
  obtain ⟨c, k, hc, hk, -⟩ := Cond.instantiable_spec hi
  obtain ⟨mk, methM, hnamed, hmethM, -, -⟩ := Cond.instanceMethod_spec hinst
  have hfound : s.methodFound? y.cls y.name y.desc = some mk := State.methodFound?_of_named hnamed hy
  have hsel : selectMethod {} s.vm c mk = .method mk := selectMethod_private hmethM (Cond.privateMethod_at hpriv mk methM hnamed hmethM)
  obtain ⟨c2, r2, m2, q1, q2, q3, q4, kP, hkP, hkPi⟩ := Cond.selects_spec h0
  have e1 := findClass_of_methodNamed q3
  rw [h9] at e1
  have e2 : m2.cls = mk.cls := Option.some.inj (e1.symm.trans (findClass_of_methodNamed hnamed))
  rw [e2] at hkP
  simp only [Cond.before, Cond.holds, Cond.value, hc, hfound, hnamed, hsel, hkP]
  simp; exact hkPi
theorem xrP {own C : String} {T : u_T} {N ci : Nat} {y : MethodName} {by' : ByteArray} {mL nL n nn d index mc1 ms1 : Nat} {ret : Option FieldType} {av : List Value} {b : Nat} {K : Option Value → HS → Prop} (hE : CallFix p m c cc nL s args lw_all own) (hT : x_E w s) (hW : x_W w s.heap S H locs) (hc : xcl[ci]? = some (C, T, N)) (hci : ci < 40) (hd9 : hD S ci b) (hM : x_M l w y by' mL ret d mc1 ms1 (.ref b :: av) S K)
    (hlink : Cond.methodLink own index y ∈ lw_all) (hsame : Cond.sameMethod y.cls y.cls y.name y.desc ∈ lw_all) (hpriv : Cond.privateMethod y ∈ lw_tbl) (hxm : xmv (Cond.privateMethod y) = true) (hinst : Cond.instanceMethod y ∈ lw_all) (hini : Cond.initialized y.cls ∈ lw_all) (hins : Cond.instantiable C nn ∈ lw_all) {C0 : String} {x0 y0 : MethodName} (h0 : Cond.selects C0 x0 y0 ∈ lw_all) (h9 : y0.cls = y.cls) (hcode : Cond.code y by' mL ret ∈ lw_all) (hd : y.cls ≠ "java/lang/invoke/MethodHandle" ∧ y.cls ≠ "java/lang/invoke/VarHandle" ∧ (parseMethodDescriptor y.desc).map (fun d => d.parameters.length) = some n) (hR : d + 13 ≤ R.frames ∧ 8 + (mL + 11) + (128 * d + 4096) ≤ R.locals) (hf : cells + mc1 ≤ R.cells ∧ slots + ms1 ≤ R.slots)
    (hn : av.length = n) (hs : ls.size = nL) (hst : st0 = av.reverse ++ .ref b :: rest) (hrm : (rest.map fun v => v.category).sum ≤ 8) (hdg : decode cc pc = .ok (.invokevirtual index, 3)) : va_Run p l e R s m args below meth c H locs cells slots mc1 ms1 (F0 m pc ls st0) rest (x_Q w K (Value.ref b :: av).toArray) (x_A w) := by
  have hts := hE.2.2.2.2
  have hG : GoodIn lw_all (ws_ y by' mL ret) := lw_meth hcode
  refine va_runU (x := y) (owner := y.cls) (C := C) (As := av) (rest := rest) (n := n) hE hM ⟨⟨rfl, rfl, hR.1, hR.2, pay_in hts hG, List.mem_cons_self⟩, hts _ hcode, hts _ hini, ⟨hd.1, hd.2.1⟩, fun sig h => ?_, hts _ hlink, hts _ hsame, va_Decl.of (hts _ hinst) (hts _ hcode), x_selp ⟨hd.1, hd.2.1⟩ (hts _ hins) (va_Nw.use rfl (hT.1.2.1.1 _ hpriv hxm)) (hts _ hinst) (hts _ h0) h9, hts _ hinst⟩ ⟨x_I.blind, x_recv hT hW hc hci hd9, fun U hU hw => ⟨rfl, x_W.I hT hW hU hw⟩⟩ rfl hn hs hst (lv_room hrm) hdg hf
  have h2 := hd.2.2
  rw [h] at h2
  exact (Option.some.inj h2).symm
end XR7b
