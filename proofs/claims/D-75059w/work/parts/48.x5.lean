/-! PLAIN LAWS, x5: the whole of a plan; what an operation does -/
/-- active bookings of one hall lie apart -/
def zSep (n : Nat → Int32) : Prop := ∀ i j, i < cn (n 1) → j < cn (n 1) → i ≠ j → n (4 + 13 * i + 11) = 1 → n (4 + 13 * j + 11) = 1 → n (4 + 13 * i + 9) = n (4 + 13 * j + 9) → n (4 + 13 * i + 10) ≠ n (4 + 13 * j + 10)
/-- a row of states, up to eight, from the oldest on -/
abbrev xDq (S : HS) (c : HC) (d n : Nat) (el : Nat → Nat) : Prop := (hD S 13 d) ∧ (c d = 8) ∧ (∃ a p, hR S 1300 d = some a ∧ hD S 60 a ∧ c a = 9 ∧ hL S a = 17 ∧ hD S 99 a ∧ p < 17 ∧ hI S 1301 d = nI p ∧ hI S 1302 d = nI ((p + n) % 17) ∧ ∀ k, k < n → hB S a ((p + k) % 17) = some (el k)) ∧ (n ≤ 8)
theorem xDq.d {S : HS} {c : HC} {d n : Nat} {el : Nat → Nat} (h : xDq S c d n el) : hD S 13 d := h.1
theorem xDq.cd {S : HS} {c : HC} {d n : Nat} {el : Nat → Nat} (h : xDq S c d n el) : c d = 8 := h.2.1
theorem xDq.a {S : HS} {c : HC} {d n : Nat} {el : Nat → Nat} (h : xDq S c d n el) : ∃ a p, hR S 1300 d = some a ∧ hD S 60 a ∧ c a = 9 ∧ hL S a = 17 ∧ hD S 99 a ∧ p < 17 ∧ hI S 1301 d = nI p ∧ hI S 1302 d = nI ((p + n) % 17) ∧ ∀ k, k < n → hB S a ((p + k) % 17) = some (el k) := h.2.2.1
theorem xDq.le {S : HS} {c : HC} {d n : Nat} {el : Nat → Nat} (h : xDq S c d n el) : n ≤ 8 := h.2.2.2
/-- a plan's object and all that hangs on it. ad: addresses (0 setup, 1 state, 2 units, 3 input, 4 draft, 5 history, 6 links, 7 8 their slots, 9 saved, 10.. history's states); qs: colors (0 state, 1 saved, 2.. history) -/
abbrev xRX (ke : Nat) (S : HS) (c : HC) (x : Nat) (ad qs : Nat → Nat) (bks : Nat → Nat → Nat) (F : MF) (G : MG) : Prop := (xPl ke S c x (ad 0) (ad 1) (ad 2) (qs 0) G (bks 0)) ∧ (zFx (G 1)) ∧ (zNw (G 1) (G 8)) ∧ (zEv (G 6)) ∧ (zSep (G 8)) ∧ (∀ i, i < 60 → G 19 i = 0) ∧ (hD S 60 ke ∧ c ke = 0 ∧ hL S ke = 0) ∧ (hR S 0 x = some (ad 3) ∧ hD S 51 (ad 3) ∧ hD S 99 (ad 3) ∧ c (ad 3) = 4 ∧ hL S (ad 3) = 800 ∧ hI S 1 x = F 14 ∧ 0 ≤ (F 14).toInt ∧ (F 14).toInt ≤ 800 ∧ ∀ i, i < cn (F 14) → hA S (ad 3) i = G 13 i) ∧ (hR S 5 x = some (ad 4) ∧ xEv S c (ad 4) (G 6)) ∧ ((F 12 = 0 ∧ hR S 4 x = none) ∨ (F 12 = 1 ∧ hR S 4 x = some (ad 9) ∧ xSt ke S c (qs 1) (ad 9) (G 1) (G 9) (fun _ => 0) (bks 1) ∧ zNw (G 1) (G 9) ∧ zSep (G 9))) ∧ (∃ h, F 11 = nI h ∧ hR S 6 x = some (ad 5) ∧ xDq S c (ad 5) h (fun k => ad (10 + k)) ∧ ∀ k, k < h → xSt ke S c (qs (2 + k)) (ad (10 + k)) (G 1) (fun i => G 10 (1052 * k + i)) (fun _ => 0) (bks (2 + k)) ∧ zNw (G 1) (fun i => G 10 (1052 * k + i)) ∧ zSep (fun i => G 10 (1052 * k + i))) ∧ (hR S 9 x = some (ad 6) ∧ hD S 64 (ad 6) ∧ c (ad 6) = 5 ∧ hL S (ad 6) = 3) ∧ (hR S 10 x = some (ad 7) ∧ hD S 50 (ad 7) ∧ c (ad 7) = 6 ∧ hL S (ad 7) = 3) ∧ (hR S 11 x = some (ad 8) ∧ hD S 50 (ad 8) ∧ c (ad 8) = 7 ∧ hL S (ad 8) = 3) ∧ ((∀ i, i < 10 → 10 ≤ qs i ∧ qs i % 10 = 0) ∧ ∀ i j, i < 10 → j < 10 → qs i = qs j → i = j) ∧ (∃ B, B % 10 = 0 ∧ 10 ≤ B ∧ (∀ i, i < 10 → qs i < B) ∧ ∀ a t, hD S t a → c a < B)
theorem xRX.P {ke : Nat} {S : HS} {c : HC} {x : Nat} {ad qs : Nat → Nat} {bks : Nat → Nat → Nat} {F : MF} {G : MG} (h : xRX ke S c x ad qs bks F G) : xPl ke S c x (ad 0) (ad 1) (ad 2) (qs 0) G (bks 0) := h.1
theorem xRX.F {ke : Nat} {S : HS} {c : HC} {x : Nat} {ad qs : Nat → Nat} {bks : Nat → Nat → Nat} {F : MF} {G : MG} (h : xRX ke S c x ad qs bks F G) : zFx (G 1) := h.2.1
theorem xRX.N {ke : Nat} {S : HS} {c : HC} {x : Nat} {ad qs : Nat → Nat} {bks : Nat → Nat → Nat} {F : MF} {G : MG} (h : xRX ke S c x ad qs bks F G) : zNw (G 1) (G 8) := h.2.2.1
theorem xRX.D {ke : Nat} {S : HS} {c : HC} {x : Nat} {ad qs : Nat → Nat} {bks : Nat → Nat → Nat} {F : MF} {G : MG} (h : xRX ke S c x ad qs bks F G) : zEv (G 6) := h.2.2.2.1
theorem xRX.sep {ke : Nat} {S : HS} {c : HC} {x : Nat} {ad qs : Nat → Nat} {bks : Nat → Nat → Nat} {F : MF} {G : MG} (h : xRX ke S c x ad qs bks F G) : zSep (G 8) := h.2.2.2.2.1
theorem xRX.out {ke : Nat} {S : HS} {c : HC} {x : Nat} {ad qs : Nat → Nat} {bks : Nat → Nat → Nat} {F : MF} {G : MG} (h : xRX ke S c x ad qs bks F G) : ∀ i, i < 60 → G 19 i = 0 := h.2.2.2.2.2.1
theorem xRX.kc {ke : Nat} {S : HS} {c : HC} {x : Nat} {ad qs : Nat → Nat} {bks : Nat → Nat → Nat} {F : MF} {G : MG} (h : xRX ke S c x ad qs bks F G) : hD S 60 ke ∧ c ke = 0 ∧ hL S ke = 0 := h.2.2.2.2.2.2.1
theorem xRX.bu {ke : Nat} {S : HS} {c : HC} {x : Nat} {ad qs : Nat → Nat} {bks : Nat → Nat → Nat} {F : MF} {G : MG} (h : xRX ke S c x ad qs bks F G) : hR S 0 x = some (ad 3) ∧ hD S 51 (ad 3) ∧ hD S 99 (ad 3) ∧ c (ad 3) = 4 ∧ hL S (ad 3) = 800 ∧ hI S 1 x = F 14 ∧ 0 ≤ (F 14).toInt ∧ (F 14).toInt ≤ 800 ∧ ∀ i, i < cn (F 14) → hA S (ad 3) i = G 13 i := h.2.2.2.2.2.2.2.1
theorem xRX.dr {ke : Nat} {S : HS} {c : HC} {x : Nat} {ad qs : Nat → Nat} {bks : Nat → Nat → Nat} {F : MF} {G : MG} (h : xRX ke S c x ad qs bks F G) : hR S 5 x = some (ad 4) ∧ xEv S c (ad 4) (G 6) := h.2.2.2.2.2.2.2.2.1
theorem xRX.sv {ke : Nat} {S : HS} {c : HC} {x : Nat} {ad qs : Nat → Nat} {bks : Nat → Nat → Nat} {F : MF} {G : MG} (h : xRX ke S c x ad qs bks F G) : (F 12 = 0 ∧ hR S 4 x = none) ∨ (F 12 = 1 ∧ hR S 4 x = some (ad 9) ∧ xSt ke S c (qs 1) (ad 9) (G 1) (G 9) (fun _ => 0) (bks 1) ∧ zNw (G 1) (G 9) ∧ zSep (G 9)) := h.2.2.2.2.2.2.2.2.2.1
theorem xRX.hi {ke : Nat} {S : HS} {c : HC} {x : Nat} {ad qs : Nat → Nat} {bks : Nat → Nat → Nat} {F : MF} {G : MG} (h : xRX ke S c x ad qs bks F G) : ∃ h, F 11 = nI h ∧ hR S 6 x = some (ad 5) ∧ xDq S c (ad 5) h (fun k => ad (10 + k)) ∧ ∀ k, k < h → xSt ke S c (qs (2 + k)) (ad (10 + k)) (G 1) (fun i => G 10 (1052 * k + i)) (fun _ => 0) (bks (2 + k)) ∧ zNw (G 1) (fun i => G 10 (1052 * k + i)) ∧ zSep (fun i => G 10 (1052 * k + i)) := h.2.2.2.2.2.2.2.2.2.2.1
theorem xRX.lk {ke : Nat} {S : HS} {c : HC} {x : Nat} {ad qs : Nat → Nat} {bks : Nat → Nat → Nat} {F : MF} {G : MG} (h : xRX ke S c x ad qs bks F G) : hR S 9 x = some (ad 6) ∧ hD S 64 (ad 6) ∧ c (ad 6) = 5 ∧ hL S (ad 6) = 3 := h.2.2.2.2.2.2.2.2.2.2.2.1
theorem xRX.ho {ke : Nat} {S : HS} {c : HC} {x : Nat} {ad qs : Nat → Nat} {bks : Nat → Nat → Nat} {F : MF} {G : MG} (h : xRX ke S c x ad qs bks F G) : hR S 10 x = some (ad 7) ∧ hD S 50 (ad 7) ∧ c (ad 7) = 6 ∧ hL S (ad 7) = 3 := h.2.2.2.2.2.2.2.2.2.2.2.2.1
theorem xRX.so {ke : Nat} {S : HS} {c : HC} {x : Nat} {ad qs : Nat → Nat} {bks : Nat → Nat → Nat} {F : MF} {G : MG} (h : xRX ke S c x ad qs bks F G) : hR S 11 x = some (ad 8) ∧ hD S 50 (ad 8) ∧ c (ad 8) = 7 ∧ hL S (ad 8) = 3 := h.2.2.2.2.2.2.2.2.2.2.2.2.2.1
theorem xRX.q {ke : Nat} {S : HS} {c : HC} {x : Nat} {ad qs : Nat → Nat} {bks : Nat → Nat → Nat} {F : MF} {G : MG} (h : xRX ke S c x ad qs bks F G) : (∀ i, i < 10 → 10 ≤ qs i ∧ qs i % 10 = 0) ∧ ∀ i j, i < 10 → j < 10 → qs i = qs j → i = j := h.2.2.2.2.2.2.2.2.2.2.2.2.2.2.1
theorem xRX.bd {ke : Nat} {S : HS} {c : HC} {x : Nat} {ad qs : Nat → Nat} {bks : Nat → Nat → Nat} {F : MF} {G : MG} (h : xRX ke S c x ad qs bks F G) : ∃ B, B % 10 = 0 ∧ 10 ≤ B ∧ (∀ i, i < 10 → qs i < B) ∧ ∀ a t, hD S t a → c a < B := h.2.2.2.2.2.2.2.2.2.2.2.2.2.2.2
theorem xRX.q2 {ke : Nat} {S : HS} {c : HC} {x : Nat} {ad qs : Nat → Nat} {bks : Nat → Nat → Nat} {F : MF} {G : MG} (R : xRX ke S c x ad qs bks F G) {i : Nat} (h : i < 10) : (qs i + 2) % 10 = 2 := by
  have := (R.q.1 i h).2
  omega
/-- a plan's state as the model's rows tell it -/
def xRel (ke x : Nat) (S : HS) (F : MF) (G : MG) : Prop := ∃ c ad qs bks, xRX ke S c x ad qs bks F G
/-- two states of the model that tell the same -/
def zSame (F : MF) (G : MG) (F1 : MF) (G1 : MG) : Prop := F1 11 = F 11 ∧ F1 12 = F 12 ∧ F1 14 = F 14 ∧ G1 1 = G 1 ∧ G1 6 = G 6 ∧ G1 8 = G 8 ∧ G1 9 = G 9 ∧ G1 10 = G 10 ∧ G1 13 = G 13 ∧ ∀ i, i < 60 → G1 19 i = 0
theorem zSame.rf {F : MF} {G : MG} (h : ∀ i, i < 60 → G 19 i = 0) : zSame F G F G := ⟨rfl, rfl, rfl, rfl, rfl, rfl, rfl, rfl, rfl, h⟩
theorem xPl.congr {ke : Nat} {S : HS} {c : HC} {x su st gr q : Nat} {G G1 : MG} {bk : Nat → Nat} (P : xPl ke S c x su st gr q G bk) (hN : zNw (G 1) (G 8)) (h1 : G1 1 = G 1) (h8 : G1 8 = G 8) (h19 : ∀ i, i < 60 → G1 19 i = G 19 i) : xPl ke S c x su st gr q G1 bk := by
  refine ⟨P.T, by rw [h1]; exact P.U, ?_, P.q⟩
  rw [h1, h8]
  have V := P.V
  refine ⟨V.d, V.cs, V.cl, V.no, V.b, fun k hk => ?_, V.bi, V.r, V.s⟩
  rw [h19 k (by have := cn_le (n := 60) hN.b.2; omega)]
  exact V.bb k hk
theorem xRel.same {ke x : Nat} {S : HS} {F F1 : MF} {G G1 : MG} (H : xRel ke x S F G) (h : zSame F G F1 G1) : xRel ke x S F1 G1 := by
  obtain ⟨c, ad, qs, bks, R⟩ := H
  obtain ⟨e1, e2, e3, g1, g6, g8, g9, g10, g13, g19⟩ := h
  refine ⟨c, ad, qs, bks, R.P.congr R.N g1 g8 (fun i hi => (g19 i hi).trans (R.out i hi).symm), ?_, ?_, ?_, ?_, g19, R.kc, ?_, ?_, ?_, ?_, R.lk, R.ho, R.so, R.q, R.bd⟩
  · rw [g1]; exact R.F
  · rw [g1, g8]; exact R.N
  · rw [g6]; exact R.D
  · rw [g8]; exact R.sep
  · rw [e3, g13]; exact R.bu
  · rw [g6]; exact R.dr
  · rw [e2, g1, g9]; exact R.sv
  · rw [e1, g1, g10]; exact R.hi
/-- what an operation does: a code (0: it went), a value, the state afterwards -/
abbrev ZR := Nat × Int32 × MF × MG
/-- the plan does so: the classes of the codes -/
def xDone (ke x : Nat) (F : MF) (G : MG) (Z : ZR) (cls : Nat → String) (post : Int32 → HS → Prop) (px : String → Nat → HS → Prop) : Prop :=
  (Z.1 = 0 → ∀ S', xRel ke x S' Z.2.2.1 Z.2.2.2 → post Z.2.1 S') ∧ (Z.1 ≠ 0 → ∀ q S', xRel ke x S' F G → px (cls Z.1) q S')
/-- the model does so -/
def mDone (Z : ZR) (post : Int32 → MF → MG → Prop) : Prop := ∀ F' G', F' 0 = nI Z.1 → zSame Z.2.2.1 Z.2.2.2 F' G' → post Z.2.1 F' G'
/-- a question: nothing changes -/
abbrev ZQ := Nat × Int32
def xAns (ke x : Nat) (S : HS) (Z : ZQ) (cls : Nat → String) (post : Int32 → Prop) (px : String → Nat → HS → Prop) : Prop := (Z.1 = 0 → post Z.2) ∧ (Z.1 ≠ 0 → ∀ q, px (cls Z.1) q S)
def mAns (F : MF) (G : MG) (Z : ZQ) (post : Int32 → MF → MG → Prop) : Prop := mDone (Z.1, Z.2, F, G) post
/-! ranges -/
def sIn (v a b : Int) : Bool := decide (a ≤ v) && decide (v ≤ b)
theorem x_in {v a b : Int32} {post : Int32 → Prop} {S : HS} (h : post (bI (sIn v.toInt a.toInt b.toInt))) : wX_X1_in post v a b S := by
  unfold wX_X1_in
  refine ⟨fun e => ?_, fun e => ⟨fun e2 => ?_, fun e2 => ?_⟩⟩ <;> rw [z_lt] at *
  · rw [show sIn v.toInt a.toInt b.toInt = false by simp [sIn]; omega] at h; exact h
  · rw [show sIn v.toInt a.toInt b.toInt = false by simp [sIn]; omega] at h; exact h
  · rw [show sIn v.toInt a.toInt b.toInt = true by simp [sIn]; omega] at h; exact h
theorem m_isIn {v a b : Int64} {post : Int32 → Prop} {F : MF} {G : MG} (h : post (bI (sIn v.toInt a.toInt b.toInt))) : wM_isIn post v a b F G := by
  unfold wM_isIn lg_cmp
  have l1 : ∀ x y : Int64, x < y ↔ x.toInt < y.toInt := fun x y => Int64.lt_iff_toInt_lt
  have l2 : ∀ x y : Int64, x = y ↔ x.toInt = y.toInt := fun x y => Int64.toInt_inj.symm
  refine ⟨fun e => ?_, fun e => ⟨fun e2 => ?_, fun e2 => ?_⟩⟩
  · have : v.toInt < a.toInt := by
      split at e
      · exact absurd e (by decide)
      · rename_i q; split at e
        · exact absurd e (by decide)
        · rename_i q2; rw [GT.gt, l1] at q; rw [l2] at q2; omega
    rw [show sIn v.toInt a.toInt b.toInt = false by simp [sIn]; omega] at h; exact h
  · have : b.toInt < v.toInt := by
      split at e2
      · rename_i q; rw [GT.gt, l1] at q; exact q
      · split at e2
        · exact absurd e2 (by decide)
        · exact absurd e2 (by decide)
    rw [show sIn v.toInt a.toInt b.toInt = false by simp [sIn]; omega] at h; exact h
  · have h1 : a.toInt ≤ v.toInt := by
      split at e
      · rename_i q; rw [GT.gt, l1] at q; omega
      · split at e
        · rename_i q2; rw [l2] at q2; omega
        · exact absurd (by decide) e
    have h2 : v.toInt ≤ b.toInt := by
      split at e2
      · exact absurd (by decide) e2
      · rename_i q; rw [GT.gt, l1] at q; omega
    rw [show sIn v.toInt a.toInt b.toInt = true by simp [sIn]; omega] at h; exact h
theorem z64 (i : Int32) : i.toInt64.toInt = i.toInt := Int32.toInt_toInt64 i
/-- what a plan's count less one is -/
theorem z_pre {i : Int32} (h : 0 ≤ i.toInt) : (i - 1).toInt = i.toInt - 1 := z_sub (by simp; omega) (by simp; have := i.toInt_lt; omega)
def sHall (G : MG) (h : Int32) : Bool := sIn h.toInt 0 ((G 1 0).toInt - 1)
def sType (G : MG) (h : Int32) : Bool := sIn h.toInt 0 ((G 1 1).toInt - 1)
def sKind (G : MG) (h : Int32) : Bool := sIn h.toInt 0 ((G 1 2).toInt - 1)
def sBook (G : MG) (h : Int32) : Bool := sIn h.toInt 0 ((G 8 1).toInt - 1)
def sStart (s : Int32) : Bool := sIn s.toInt 0 86385 && sMod s 15 == 0
theorem sIn_iff {v a b : Int} : sIn v a b = true ↔ a ≤ v ∧ v ≤ b := by simp [sIn]
theorem z_mod {s : Int32} {b : Int32} (h : 0 ≤ s.toInt) (hb : 0 < b.toInt) : (sMod s b).toInt = s.toInt % b.toInt := by
  have d := z_div h hb
  have e0 : b.toInt * (s.toInt / b.toInt) ≤ s.toInt := Int.mul_ediv_self_le (by omega)
  have e1 : 0 ≤ b.toInt * (s.toInt / b.toInt) := Int.mul_nonneg (by omega) (Int.ediv_nonneg h (by omega))
  have l := s.toInt_lt
  have em := Int.emod_def s.toInt b.toInt
  have e2 : (s / b * b).toInt = b.toInt * (s.toInt / b.toInt) := by
    rw [z_mul] <;> rw [d, Int.mul_comm] <;> omega
  unfold sMod
  rw [z_sub] <;> rw [e2] <;> omega
theorem sStart_iff {s : Int32} : sStart s = true ↔ zSt s := by
  simp only [sStart, Bool.and_eq_true, sIn_iff, zSt, beq_iff_eq]
  constructor
  · rintro ⟨⟨a, b⟩, e⟩
    have := z_mod (s := s) (b := 15) a (by decide)
    rw [e] at this
    exact ⟨a, b, this.symm⟩
  · rintro ⟨a, b, e⟩
    refine ⟨⟨a, b⟩, ?_⟩
    have := z_mod (s := s) (b := 15) a (by decide)
    rw [← Int32.toInt_inj, this]
    exact e
section
variable {F : MF} {G : MG} {post : Int32 → Prop} {h : Int32}
theorem m_isHall (hF : zFx (G 1)) (p : post (bI (sHall G h))) : wM_isHall post h F G := by
  unfold wM_isHall
  refine m_isIn ?_
  rw [z64, z64, z_pre hF.h.1]
  exact ⟨bI_01 _, p⟩
theorem m_isType (hF : zFx (G 1)) (p : post (bI (sType G h))) : wM_isType post h F G := by
  unfold wM_isType
  refine m_isIn ?_
  rw [z64, z64, z_pre hF.t.1]
  exact ⟨bI_01 _, p⟩
theorem m_isKind (hF : zFx (G 1)) (p : post (bI (sKind G h))) : wM_isKind post h F G := by
  unfold wM_isKind
  refine m_isIn ?_
  rw [z64, z64, z_pre hF.k.1]
  exact ⟨bI_01 _, p⟩
theorem m_isBooking (hN : zNw (G 1) (G 8)) (p : post (bI (sBook G h))) : wM_isBooking post h F G := by
  unfold wM_isBooking
  refine m_isIn ?_
  rw [z64, z64, z_pre hN.b.1]
  exact ⟨bI_01 _, p⟩
theorem m_isStart (p : post (bI (sStart h))) : wM_isStart post h F G := by
  unfold wM_isStart
  refine m_isIn ?_
  rw [z64, show ((0 : Int64)).toInt = 0 from rfl, show ((86385 : Int64)).toInt = 86385 from rfl]
  refine ⟨fun e => ?_, fun e => ⟨fun e2 => ?_, fun e2 => ?_⟩⟩ <;> simp only [bI_0, Bool.not_eq_false] at e
  · simp only [sStart, e, Bool.false_and] at p; exact p
  · have e3 : (sMod h 15 == 0) = true := by simpa using e2
    simp only [sStart, e, e3] at p; exact p
  · have e3 : (sMod h 15 == 0) = false := by simpa using e2
    simp only [sStart, e, e3] at p; exact p
end
section
variable {ke : Nat} {S : HS} {c : HC} {x su st gr q : Nat} {G : MG} {bk : Nat → Nat} {post : Int32 → Prop} {h : Int32}
theorem nI_pre {n : Nat} (hn : n < 2147483648) : (nI n - 1).toInt = (n : Int) - 1 := by
  rw [z_pre (by rw [zI_toInt hn]; omega), zI_toInt hn]
theorem x_isHall (P : xPl ke S c x su st gr q G bk) (hF : zFx (G 1)) (p : post (bI (sHall G h))) : wX_X1_isHall post x h S := by
  obtain ⟨l, f, h1, h2, h3⟩ := P.U.h
  refine ⟨P.T.d, su, P.T.su, P.U.d, l, h1, h2.d, x_size h2 (x_in ⟨bI_01 _, ?_⟩)⟩
  rw [nI_pre (cn_lt _), cn_int hF.h.1]
  exact p
theorem x_isKind (P : xPl ke S c x su st gr q G bk) (hF : zFx (G 1)) (p : post (bI (sKind G h))) : wX_X1_isKind post x h S := by
  obtain ⟨l, f, h1, h2, h3⟩ := P.U.k
  refine ⟨P.T.d, su, P.T.su, P.U.d, l, h1, h2.d, x_size h2 (x_in ⟨bI_01 _, ?_⟩)⟩
  rw [nI_pre (cn_lt _), cn_int hF.k.1]
  exact p
theorem x_isType (P : xPl ke S c x su st gr q G bk) (hF : zFx (G 1)) (p : post (bI (sType G h))) : wX_X1_isType post x h S := by
  refine ⟨P.T.d, su, P.T.su, P.U.d, x_in ⟨bI_01 _, ?_⟩⟩
  rw [P.U.ty, z_pre hF.t.1]
  exact p
theorem x_isBooking (P : xPl ke S c x su st gr q G bk) (hN : zNw (G 1) (G 8)) (p : post (bI (sBook G h))) : wX_X1_isBooking post x h S := by
  obtain ⟨l, h1, h2⟩ := P.V.b
  refine ⟨P.T.d, st, P.T.st, P.V.d, l, h1, h2.d, x_size h2 (x_in ⟨bI_01 _, ?_⟩)⟩
  rw [nI_pre (cn_lt _), cn_int hN.b.1]
  exact p
theorem x_isStart (p : post (bI (sStart h))) : wX_X1_isStart post h S := by
  unfold wX_X1_isStart
  refine x_in ⟨fun e => ?_, fun e => ⟨fun e2 => ?_, fun e2 => ?_⟩⟩ <;> simp only [bI_0, Bool.not_eq_false, show ((0 : Int32)).toInt = 0 from rfl, show ((86385 : Int32)).toInt = 86385 from rfl] at e
  · simp only [sStart, e, Bool.false_and] at p; exact p
  · have e3 : (sMod h 15 == 0) = true := by simpa using e2
    simp only [sStart, e, e3] at p; exact p
  · have e3 : (sMod h 15 == 0) = false := by simpa using e2
    simp only [sStart, e, e3] at p; exact p
end
section
variable {S : HS} {p : Bool} {post : Prop} {px : String → Nat → HS → Prop} {mc ms : Nat}
theorem x_needIndex (h1 : p = true → post) (h2 : p = false → ∀ q, xNew S q → px "java/lang/IndexOutOfBoundsException" q S) (hc : 1 ≤ mc) (hs : 6 ≤ ms) : wX_X1_needIndex post px mc ms (bI p) S :=
  ⟨fun e => ⟨hc, hs, h2 ((bI_0 p).mp e)⟩, fun e => h1 (by simpa only [bI_0, Bool.not_eq_false] using e)⟩
theorem x_needValue (h1 : p = true → post) (h2 : p = false → ∀ q, xNew S q → px "java/lang/IllegalArgumentException" q S) (hc : 1 ≤ mc) (hs : 6 ≤ ms) : wX_X1_needValue post px mc ms (bI p) S :=
  ⟨fun e => ⟨hc, hs, h2 ((bI_0 p).mp e)⟩, fun e => h1 (by simpa only [bI_0, Bool.not_eq_false] using e)⟩
theorem x_needState (h1 : p = true → post) (h2 : p = false → ∀ q, xNew S q → px "java/lang/IllegalStateException" q S) (hc : 1 ≤ mc) (hs : 6 ≤ ms) : wX_X1_needState post px mc ms (bI p) S :=
  ⟨fun e => ⟨hc, hs, h2 ((bI_0 p).mp e)⟩, fun e => h1 (by simpa only [bI_0, Bool.not_eq_false] using e)⟩
theorem x_needElement (h1 : p = true → post) (h2 : p = false → ∀ q, xNew S q → px "java/util/NoSuchElementException" q S) (hc : 1 ≤ mc) (hs : 6 ≤ ms) : wX_X1_needElement post px mc ms (bI p) S :=
  ⟨fun e => ⟨hc, hs, h2 ((bI_0 p).mp e)⟩, fun e => h1 (by simpa only [bI_0, Bool.not_eq_false] using e)⟩
end
