/-! PLAIN LAWS, m1: the model: rows, questions that change nothing -/
/-- a count as a natural -/
abbrev cn (i : Int32) : Nat := i.toNatClampNeg
/-- a booking's place -/
abbrev gB (G : MG) (b w : Nat) : Int32 := G 8 (4 + 13 * b + w)
abbrev zEv (r : Nat → Int32) : Prop := (0 ≤ (r 0).toInt ∧ (r 0).toInt < 6) ∧ (1 ≤ (r 1).toInt ∧ (r 1).toInt ≤ 3000) ∧ (15 ≤ (r 2).toInt ∧ (r 2).toInt ≤ 1440 ∧ (r 2).toInt % 15 = 0) ∧ (∀ k, k < 6 → 0 ≤ (r (3 + k)).toInt ∧ (r (3 + k)).toInt ≤ 50)
theorem zEv.ty {r : Nat → Int32} (h : zEv r) : 0 ≤ (r 0).toInt ∧ (r 0).toInt < 6 := h.1
theorem zEv.gu {r : Nat → Int32} (h : zEv r) : 1 ≤ (r 1).toInt ∧ (r 1).toInt ≤ 3000 := h.2.1
theorem zEv.du {r : Nat → Int32} (h : zEv r) : 15 ≤ (r 2).toInt ∧ (r 2).toInt ≤ 1440 ∧ (r 2).toInt % 15 = 0 := h.2.2.1
theorem zEv.ne {r : Nat → Int32} (h : zEv r) : ∀ k, k < 6 → 0 ≤ (r (3 + k)).toInt ∧ (r (3 + k)).toInt ≤ 50 := h.2.2.2
abbrev zFx (g : Nat → Int32) : Prop := (0 ≤ (g 0).toInt ∧ (g 0).toInt ≤ 6) ∧ (0 ≤ (g 1).toInt ∧ (g 1).toInt ≤ 6) ∧ (0 ≤ (g 2).toInt ∧ (g 2).toInt ≤ 6) ∧ (0 ≤ (g 3).toInt ∧ (g 3).toInt ≤ 8) ∧ (0 ≤ (g 4).toInt ∧ (g 4).toInt ≤ 4) ∧ (0 ≤ (g 5).toInt ∧ (g 5).toInt ≤ 300) ∧ (0 ≤ (g 6).toInt ∧ (g 6).toInt ≤ 16) ∧ (∀ j, j < cn (g 0) → 0 ≤ (g (14 + j)).toInt ∧ (g (14 + j)).toInt + 1 ≤ (g (20 + j)).toInt ∧ (g (20 + j)).toInt ≤ 1440) ∧ (∀ j, j < cn (g 0) → 0 ≤ (g (26 + j)).toInt ∧ (g (26 + j)).toInt ≤ 1000) ∧ (∀ j, j < cn (g 2) → 1 ≤ (g (32 + j)).toInt ∧ (g (32 + j)).toInt ≤ 50) ∧ (∀ j, j < cn (g 2) → 0 ≤ (g (38 + j)).toInt ∧ (g (38 + j)).toInt ≤ 500) ∧ (∀ j, j < cn (g 2) → 0 ≤ (g (44 + j)).toInt ∧ (g (44 + j)).toInt ≤ 240 ∧ (g (44 + j)).toInt % 15 = 0) ∧ (∀ j, j < 36 → 0 ≤ (g (50 + j)).toInt ∧ (g (50 + j)).toInt ≤ 600) ∧ (∀ j, j < cn (g 3) → 0 ≤ (g (86 + j)).toInt ∧ (g (86 + j)).toInt ≤ 6) ∧ (∀ j, j < cn (g 3) → 0 ≤ (g (94 + j)).toInt ∧ (g (94 + j)).toInt ≤ (g (102 + j)).toInt ∧ (g (102 + j)).toInt ≤ 1440) ∧ (∀ j, j < cn (g 4) → 0 ≤ (g (110 + j)).toInt ∧ (g (110 + j)).toInt ≤ 60) ∧ (∀ j, j < cn (g 4) → 0 ≤ (g (114 + j)).toInt ∧ (g (114 + j)).toInt ≤ 100) ∧ (∀ i j, i < cn (g 4) → j < cn (g 4) → g (110 + i) = g (110 + j) → i = j)
theorem zFx.h {g : Nat → Int32} (h : zFx g) : 0 ≤ (g 0).toInt ∧ (g 0).toInt ≤ 6 := h.1
theorem zFx.t {g : Nat → Int32} (h : zFx g) : 0 ≤ (g 1).toInt ∧ (g 1).toInt ≤ 6 := h.2.1
theorem zFx.k {g : Nat → Int32} (h : zFx g) : 0 ≤ (g 2).toInt ∧ (g 2).toInt ≤ 6 := h.2.2.1
theorem zFx.w {g : Nat → Int32} (h : zFx g) : 0 ≤ (g 3).toInt ∧ (g 3).toInt ≤ 8 := h.2.2.2.1
theorem zFx.f {g : Nat → Int32} (h : zFx g) : 0 ≤ (g 4).toInt ∧ (g 4).toInt ≤ 4 := h.2.2.2.2.1
theorem zFx.we {g : Nat → Int32} (h : zFx g) : 0 ≤ (g 5).toInt ∧ (g 5).toInt ≤ 300 := h.2.2.2.2.2.1
theorem zFx.s {g : Nat → Int32} (h : zFx g) : 0 ≤ (g 6).toInt ∧ (g 6).toInt ≤ 16 := h.2.2.2.2.2.2.1
theorem zFx.op {g : Nat → Int32} (h : zFx g) : ∀ j, j < cn (g 0) → 0 ≤ (g (14 + j)).toInt ∧ (g (14 + j)).toInt + 1 ≤ (g (20 + j)).toInt ∧ (g (20 + j)).toInt ≤ 1440 := h.2.2.2.2.2.2.2.1
theorem zFx.ra {g : Nat → Int32} (h : zFx g) : ∀ j, j < cn (g 0) → 0 ≤ (g (26 + j)).toInt ∧ (g (26 + j)).toInt ≤ 1000 := h.2.2.2.2.2.2.2.2.1
theorem zFx.co {g : Nat → Int32} (h : zFx g) : ∀ j, j < cn (g 2) → 1 ≤ (g (32 + j)).toInt ∧ (g (32 + j)).toInt ≤ 50 := h.2.2.2.2.2.2.2.2.2.1
theorem zFx.pr {g : Nat → Int32} (h : zFx g) : ∀ j, j < cn (g 2) → 0 ≤ (g (38 + j)).toInt ∧ (g (38 + j)).toInt ≤ 500 := h.2.2.2.2.2.2.2.2.2.2.1
theorem zFx.le {g : Nat → Int32} (h : zFx g) : ∀ j, j < cn (g 2) → 0 ≤ (g (44 + j)).toInt ∧ (g (44 + j)).toInt ≤ 240 ∧ (g (44 + j)).toInt % 15 = 0 := h.2.2.2.2.2.2.2.2.2.2.2.1
theorem zFx.be {g : Nat → Int32} (h : zFx g) : ∀ j, j < 36 → 0 ≤ (g (50 + j)).toInt ∧ (g (50 + j)).toInt ≤ 600 := h.2.2.2.2.2.2.2.2.2.2.2.2.1
theorem zFx.wd {g : Nat → Int32} (h : zFx g) : ∀ j, j < cn (g 3) → 0 ≤ (g (86 + j)).toInt ∧ (g (86 + j)).toInt ≤ 6 := h.2.2.2.2.2.2.2.2.2.2.2.2.2.1
theorem zFx.wt {g : Nat → Int32} (h : zFx g) : ∀ j, j < cn (g 3) → 0 ≤ (g (94 + j)).toInt ∧ (g (94 + j)).toInt ≤ (g (102 + j)).toInt ∧ (g (102 + j)).toInt ≤ 1440 := h.2.2.2.2.2.2.2.2.2.2.2.2.2.2.1
theorem zFx.fd {g : Nat → Int32} (h : zFx g) : ∀ j, j < cn (g 4) → 0 ≤ (g (110 + j)).toInt ∧ (g (110 + j)).toInt ≤ 60 := h.2.2.2.2.2.2.2.2.2.2.2.2.2.2.2.1
theorem zFx.fp {g : Nat → Int32} (h : zFx g) : ∀ j, j < cn (g 4) → 0 ≤ (g (114 + j)).toInt ∧ (g (114 + j)).toInt ≤ 100 := h.2.2.2.2.2.2.2.2.2.2.2.2.2.2.2.2.1
theorem zFx.fn {g : Nat → Int32} (h : zFx g) : ∀ i j, i < cn (g 4) → j < cn (g 4) → g (110 + i) = g (110 + j) → i = j := h.2.2.2.2.2.2.2.2.2.2.2.2.2.2.2.2.2
/-- a start -/
def zSt (i : Int32) : Prop := 0 ≤ i.toInt ∧ i.toInt ≤ 86385 ∧ i.toInt % 15 = 0
abbrev zNw (g n : Nat → Int32) : Prop := (0 ≤ (n 0).toInt ∧ (n 0).toInt ≤ 86400) ∧ (0 ≤ (n 1).toInt ∧ (n 1).toInt ≤ 60) ∧ (0 ≤ (n 2).toInt ∧ (n 2).toInt ≤ 20) ∧ (0 ≤ (n 3).toInt ∧ (n 3).toInt ≤ 16) ∧ (∀ j, j < cn (n 1) → zEv (fun w => n (4 + 13 * j + w))) ∧ (∀ j, j < cn (n 1) → 0 ≤ (n (4 + 13 * j + 9)).toInt ∧ (n (4 + 13 * j + 9)).toInt < (g 0).toInt) ∧ (∀ j, j < cn (n 1) → zSt (n (4 + 13 * j + 10))) ∧ (∀ j, j < cn (n 1) → n (4 + 13 * j + 11) = 0 ∨ n (4 + 13 * j + 11) = 1) ∧ (∀ j, j < cn (n 2) → zEv (fun w => n (784 + 11 * j + w))) ∧ (∀ j, j < cn (n 2) → 0 ≤ (n (784 + 11 * j + 9)).toInt ∧ (n (784 + 11 * j + 9)).toInt < (g 0).toInt) ∧ (∀ j, j < cn (n 2) → zSt (n (784 + 11 * j + 10)))
theorem zNw.no {g n : Nat → Int32} (h : zNw g n) : 0 ≤ (n 0).toInt ∧ (n 0).toInt ≤ 86400 := h.1
theorem zNw.b {g n : Nat → Int32} (h : zNw g n) : 0 ≤ (n 1).toInt ∧ (n 1).toInt ≤ 60 := h.2.1
theorem zNw.r {g n : Nat → Int32} (h : zNw g n) : 0 ≤ (n 2).toInt ∧ (n 2).toInt ≤ 20 := h.2.2.1
theorem zNw.s {g n : Nat → Int32} (h : zNw g n) : 0 ≤ (n 3).toInt ∧ (n 3).toInt ≤ 16 := h.2.2.2.1
theorem zNw.be {g n : Nat → Int32} (h : zNw g n) : ∀ j, j < cn (n 1) → zEv (fun w => n (4 + 13 * j + w)) := h.2.2.2.2.1
theorem zNw.bp {g n : Nat → Int32} (h : zNw g n) : ∀ j, j < cn (n 1) → 0 ≤ (n (4 + 13 * j + 9)).toInt ∧ (n (4 + 13 * j + 9)).toInt < (g 0).toInt := h.2.2.2.2.2.1
theorem zNw.bs {g n : Nat → Int32} (h : zNw g n) : ∀ j, j < cn (n 1) → zSt (n (4 + 13 * j + 10)) := h.2.2.2.2.2.2.1
theorem zNw.ba {g n : Nat → Int32} (h : zNw g n) : ∀ j, j < cn (n 1) → n (4 + 13 * j + 11) = 0 ∨ n (4 + 13 * j + 11) = 1 := h.2.2.2.2.2.2.2.1
theorem zNw.re {g n : Nat → Int32} (h : zNw g n) : ∀ j, j < cn (n 2) → zEv (fun w => n (784 + 11 * j + w)) := h.2.2.2.2.2.2.2.2.1
theorem zNw.rp {g n : Nat → Int32} (h : zNw g n) : ∀ j, j < cn (n 2) → 0 ≤ (n (784 + 11 * j + 9)).toInt ∧ (n (784 + 11 * j + 9)).toInt < (g 0).toInt := h.2.2.2.2.2.2.2.2.2.1
theorem zNw.rs {g n : Nat → Int32} (h : zNw g n) : ∀ j, j < cn (n 2) → zSt (n (784 + 11 * j + 10)) := h.2.2.2.2.2.2.2.2.2.2
theorem cn_nI {i : Int32} (h : 0 ≤ i.toInt) : i = nI (cn i) := zI_of h
theorem cn_lt (i : Int32) : cn i < 2147483648 := by
  have e : cn i = i.toInt.toNat := rfl
  have := i.toInt_lt
  omega
theorem cn_int {i : Int32} (h : 0 ≤ i.toInt) : (cn i : Int) = i.toInt := by
  have e : cn i = i.toInt.toNat := rfl
  omega
theorem cn_le {i : Int32} {n : Nat} (h : i.toInt ≤ n) : cn i ≤ n := by
  have e : cn i = i.toInt.toNat := rfl
  omega
theorem cn_lt' {i : Int32} {n : Nat} (h0 : 0 ≤ i.toInt) (h : i.toInt < n) : cn i < n := by
  have e : cn i = i.toInt.toNat := rfl
  omega
/-! the rows -/
theorem m_of {post : Int32 → Prop} {F : MF} {G : MG} {b w : Nat} (hb : b < 60) (hw : w < 13) (h : post (gB G b w)) : wM_of post (nI b) (nI w) F G := by
  simp only [wM_of, wM_rowOf, zI_lit, zI_mul, zI_add, zI_nat (show 4 + 13 * b + w < 2147483648 by omega)]
  exact ⟨zI_in' (by omega) (by omega), h⟩
theorem m_isActive {post : Int32 → Prop} {F : MF} {G : MG} {b : Nat} (hb : b < 60) (h : post (bI (gB G b 11 == 1))) : wM_isActive post (nI b) F G := by
  unfold wM_isActive
  refine m_of (w := 11) hb (by decide) ?_
  refine ⟨fun e => ?_, fun e => ?_⟩ <;> simpa [e, bI] using h
def sCounts (G : MG) (b : Nat) : Bool := gB G b 11 == 1 && G 19 b == 0
theorem m_counts {post : Int32 → Prop} {F : MF} {G : MG} {b : Nat} (hb : b < 60) (h : post (bI (sCounts G b))) : wM_counts post (nI b) F G := by
  unfold wM_counts
  refine m_isActive hb ?_
  refine ⟨fun e => ?_, fun e => ⟨zI_in' (by omega) hb, fun e2 => ?_, fun e2 => ?_⟩⟩ <;> simp only [bI_0, Bool.not_eq_false] at e
  · simpa [sCounts, e, bI] using h
  · rw [zI_nat (by omega)] at e2
    simp only [sCounts, e, e2] at h
    exact h
  · rw [zI_nat (by omega)] at e2
    have e3 : (G 19 b == 0) = false := by simpa using e2
    simp only [sCounts, e, e3] at h
    exact h
abbrev sEnd (G : MG) (b : Nat) : Int32 := gB G b 10 + gB G b 2
theorem m_endOf {post : Int32 → Prop} {F : MF} {G : MG} {b : Nat} (hb : b < 60) (h : post (sEnd G b)) : wM_endOf post (nI b) F G := by
  unfold wM_endOf
  exact m_of (w := 10) hb (by decide) (m_of (w := 2) hb (by decide) h)
abbrev sBetw (G : MG) (a b : Int32) : Int32 := G 1 (50 + 6 * cn a + cn b)
theorem m_between {post : Int32 → Prop} {F : MF} {G : MG} {a b : Int32} (ha : 0 ≤ a.toInt ∧ a.toInt < 6) (hb : 0 ≤ b.toInt ∧ b.toInt < 6) (h : post (sBetw G a b)) : wM_between post a b F G := by
  unfold wM_between
  have e1 := cn_nI ha.1
  have e2 := cn_nI hb.1
  have l1 := cn_lt' (n := 6) ha.1 ha.2
  have l2 := cn_lt' (n := 6) hb.1 hb.2
  have e : ((50 : Int32) + ((6 : Int32) * a)) + b = nI (50 + 6 * cn a + cn b) := by
    rw [← zI_add, ← zI_add, ← zI_mul, ← e1, ← e2]; rfl
  rw [e, zI_nat (by omega)]
  exact ⟨zI_in' (by omega) (by omega), h⟩
def sNear (G : MG) (b : Nat) (hall start : Int32) : Bool :=
  sCounts G b && gB G b 9 == hall && decide (start < sEnd G b + sBetw G (gB G b 0) (G 7 0)) && decide (gB G b 10 < start + G 7 2 + sBetw G (G 7 0) (gB G b 0))
theorem m_isNear {post : Int32 → Prop} {F : MF} {G : MG} {b : Nat} {hall start : Int32} (hb : b < 60) (ht : 0 ≤ (gB G b 0).toInt ∧ (gB G b 0).toInt < 6) (he : 0 ≤ (G 7 0).toInt ∧ (G 7 0).toInt < 6) (h : post (bI (sNear G b hall start))) : wM_isNear post (nI b) hall start F G := by
  unfold wM_isNear
  refine m_counts hb ⟨fun e => ?_, fun e => ?_⟩ <;> simp only [bI_0, Bool.not_eq_false] at e
  · simpa [sNear, e, bI] using h
  refine m_of (w := 9) hb (by decide) ⟨fun e2 => ?_, fun e2 => ?_⟩
  · refine m_of (w := 0) hb (by decide) (m_endOf hb (m_between ht he ⟨fun e3 => ?_, fun e3 => ?_⟩))
    · unfold wM_isNear_j56
      refine m_between he ht (m_of (w := 10) hb (by decide) ⟨fun e4 => ⟨fun _ => ?_, fun q => (q rfl).elim⟩, fun e4 => ⟨fun _ => ?_, fun q => (q rfl).elim⟩⟩)
      · simpa [sNear, e, e2, e3, e4, bI] using h
      · have e4' := e4
        simp only [sNear, e, e2, e3, e4, beq_self_eq_true, decide_true, decide_false, Bool.and_true, Bool.and_false, Bool.true_and] at h
        exact h
    · unfold wM_isNear_j56
      have h0 : post 0 := by
        simp only [sNear, e, e2, e3, beq_self_eq_true, decide_false, Bool.and_false, Bool.false_and, Bool.true_and] at h
        exact h
      refine m_between he ht (m_of (w := 10) hb (by decide) ⟨fun e4 => ⟨fun q => absurd q (by decide), fun _ => h0⟩, fun e4 => ⟨fun _ => h0, fun _ => h0⟩⟩)
  · have e3 : (gB G b 9 == hall) = false := by simpa using e2
    simp only [sNear, e, e3] at h
    exact h
theorem m_isAnyNear {post : Int32 → Prop} {F : MF} {G : MG} {hall start : Int32} (hN : zNw (G 1) (G 8)) (he : 0 ≤ (G 7 0).toInt ∧ (G 7 0).toInt < 6) (h : post (bI (zany (fun b => sNear G b hall start) 0 (cn (G 8 1))))) : wM_isAnyNear post hall start F G := by
  unfold wM_isAnyNear
  have l1 := cn_le (n := 60) hN.b.2
  refine zup (L := fun m k => wM_isAnyNear_l2 post F G m hall start k) (cn (G 8 1)) (by omega) (fun k => post (bI (zany (fun b => sNear G b hall start) k (cn (G 8 1) - k)))) ?_ 0 (Nat.zero_le _) h
  intro m k hk hI next
  simp only [wM_isAnyNear_l2, wM_isAnyNear_b2]
  rw [cn_nI hN.b.1, zI_le (by omega) (by omega)]
  refine ⟨fun e => ?_, fun e => ?_⟩
  · rw [show cn (G 8 1) - k = 0 by omega] at hI; exact hI
  · rw [show cn (G 8 1) - k = (cn (G 8 1) - (k + 1)) + 1 by omega] at hI
    simp only [zany] at hI
    refine m_isNear (by omega) (hN.be k (by omega)).ty he ⟨fun e => ?_, fun e => ?_⟩ <;> simp only [bI_0, Bool.not_eq_false] at e
    · rw [e, Bool.false_or] at hI
      exact next (by omega) hI
    · rw [e, Bool.true_or] at hI
      exact hI
