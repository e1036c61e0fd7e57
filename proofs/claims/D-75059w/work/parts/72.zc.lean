/-! PLAIN LAWS, zc: cancel -/
section
variable {ke : Nat} {kc : Nat → Nat} {S S' : HS} {c c' : HC} {x κ : Nat} {ad qs : Nat → Nat} {bks : Nat → Nat → Nat} {F F' : MF} {G G' : MG} {W : Nat → Prop} {px : String → Nat → HS → Prop} {mc ms : Nat}
/-- a booking that is cancelled -/
def sCan (n : Nat → Int32) (b : Nat) (fee : Int32) : Nat → Int32 := upd (upd n (4 + 13 * b + 11) 0) (4 + 13 * b + 12) fee
theorem sCan_ne {n : Nat → Int32} {b : Nat} {fee : Int32} {i : Nat} (h : i ≠ 4 + 13 * b + 11) (h2 : i ≠ 4 + 13 * b + 12) : sCan n b fee i = n i := by
  simp only [sCan, upd]
  rw [if_neg h2, if_neg h]
theorem sCan_11 {n : Nat → Int32} {b : Nat} {fee : Int32} : sCan n b fee (4 + 13 * b + 11) = 0 := by
  simp only [sCan, upd]
  rw [if_neg (by omega), if_true]
theorem sCan_12 {n : Nat → Int32} {b : Nat} {fee : Int32} : sCan n b fee (4 + 13 * b + 12) = fee := by
  simp only [sCan, upd, if_true]
theorem zNw.can {g n : Nat → Int32} {b : Nat} {fee : Int32} (N : zNw g n) (hb : b < 60) : zNw g (sCan n b fee) := by
  have lb := cn_le (n := 60) N.b.2
  have u : ∀ i, i < 4 → sCan n b fee i = n i := fun i hi => sCan_ne (by omega) (by omega)
  have u7 : ∀ i, 784 ≤ i → sCan n b fee i = n i := fun i hi => sCan_ne (by omega) (by omega)
  have lr := cn_le (n := 20) N.r.2
  refine ⟨by rw [u 0 (by decide)]; exact N.no, by rw [u 1 (by decide)]; exact N.b, by rw [u 2 (by decide)]; exact N.r, by rw [u 3 (by decide)]; exact N.s, ?_, ?_, ?_, ?_, ?_, ?_, ?_⟩
  · rw [u 1 (by decide)]; intro j hj
    exact (N.be j hj).congr (fun w hw => sCan_ne (by omega) (by omega))
  · rw [u 1 (by decide)]; intro j hj
    rw [sCan_ne (by omega) (by omega)]; exact N.bp j hj
  · rw [u 1 (by decide)]; intro j hj
    rw [sCan_ne (by omega) (by omega)]; exact N.bs j hj
  · rw [u 1 (by decide)]; intro j hj
    by_cases z : j = b
    · subst z; rw [sCan_11]; exact .inl rfl
    · rw [sCan_ne (by omega) (by omega)]; exact N.ba j hj
  · rw [u 2 (by decide)]; intro j hj
    exact (N.re j hj).congr (fun w hw => u7 _ (by omega))
  · rw [u 2 (by decide)]; intro j hj
    rw [u7 _ (by omega)]; exact N.rp j hj
  · rw [u 2 (by decide)]; intro j hj
    rw [u7 _ (by omega)]; exact N.rs j hj
theorem zSep.can {n : Nat → Int32} {b : Nat} {fee : Int32} (Z : zSep n) : zSep (sCan n b fee) := by
  unfold zSep
  rw [sCan_ne (by omega) (by omega)]
  intro i j hi hj ne h1 h2
  have o : ∀ k w, w < 11 → sCan n b fee (4 + 13 * k + w) = n (4 + 13 * k + w) := fun k w hw => sCan_ne (by omega) (by omega)
  rw [o i 9 (by decide), o i 10 (by decide), o j 9 (by decide), o j 10 (by decide)]
  have a : ∀ k, sCan n b fee (4 + 13 * k + 11) = 1 → n (4 + 13 * k + 11) = 1 := fun k h => by
    by_cases z : k = b
    · subst z; rw [sCan_11] at h; exact absurd h (by decide)
    · rw [sCan_ne (by omega) (by omega)] at h; exact h
  exact Z i j hi hj ne (a i h1) (a j h2)
/-- the rows afterwards -/
def sCancel (G : MG) (b : Nat) : Nat → Int32 := sServe G (cn (G 8 2)) 0 (sCan (G 8) b (sFee G b))
def oCancel (F : MF) (G : MG) (b : Int32) : ZR := if sBook G b = false then (1, 0, F, G) else if sToCome G (cn b) = false then (2, 0, F, G) else (0, sFee G (cn b), sRemF F, mg (sRemG F G) 8 (sCancel G (cn b)))
/-- serving hangs on what a problem hangs on -/
theorem sServe_congr {G G1 : MG} (hF : zFx (G 1)) (h1 : G1 1 = G 1) (h19 : G1 19 = G 19) (d k : Nat) (n : Nat → Int32) : sServe G1 d k n = sServe G d k n := by
  induction d generalizing k n with
  | zero => rfl
  | succ d ih =>
    simp only [sServe]
    have e : sServeOk G1 n k = sServeOk G n k := by
      simp only [sServeOk]
      rw [sProb_congr (G := sAsk (mg G 8 n) 8 (784 + 11 * k)) (G1 := sAsk (mg G1 8 n) 8 (784 + 11 * k)) hF h1 rfl h19 (fun w hw => by simp only [sAsk, mg_eq, if_pos hw])]
    rw [e, ih, ih]
theorem M_cancel {b : Int32} {post : Int32 → MF → MG → Prop} (h : zOK G) (hc : ∃ h, F 11 = nI h ∧ h ≤ 8) (p : mDone (oCancel F G b) post) : wM_cancel post b F G := by
  have lb := cn_le (n := 60) h.N.b.2
  have lr := cn_le (n := 20) h.N.r.2
  refine m_isBooking h.N ⟨fun e => ?_, fun e => ?_⟩ <;> simp only [bI_0, Bool.not_eq_false] at e
  · rw [oCancel, if_pos e] at p
    rintro _ rfl
    exact ⟨fun z => absurd z (by rw [upd0]; decide), fun _ => p _ _ rfl (z_up0 h)⟩
  rw [oCancel, if_neg (by rw [e]; decide)] at p
  obtain ⟨eb, lt⟩ := sBook_nI e
  rw [eb]
  refine m_isToCome (by omega) ⟨fun e2 => ?_, fun e2 => ?_⟩ <;> simp only [bI_0, Bool.not_eq_false] at e2
  · rw [if_pos e2] at p
    rintro _ rfl
    exact ⟨fun z => absurd z (by rw [upd0]; decide), fun _ => p _ _ rfl (z_up0 h)⟩
  rw [if_neg (by rw [e2]; decide)] at p
  generalize cn b = b' at *
  rintro _ rfl
  refine ⟨fun _ => m_remembers hc ?_, fun z => absurd (by rw [upd0]; decide) z⟩
  obtain ⟨s1, s2⟩ := sRem_same (F := F) (F1 := upd F 0 0) (zE.rf G) (upd_ne0 F _)
  have r8 : sRemG (upd F 0 0) G 8 = G 8 := sRem_ne (by decide)
  have r1 : sRemG (upd F 0 0) G 1 = G 1 := sRem_ne (by decide)
  have r19 : sRemG (upd F 0 0) G 19 = G 19 := sRem_ne (by decide)
  have e0 : sRemF (upd F 0 0) 0 = 0 := by rw [(sRemF_0 (G := G) _).1]; rfl
  generalize sRemG (upd F 0 0) G = G2 at *
  generalize sRemF (upd F 0 0) = F2 at *
  have fe : sFee G2 b' = sFee G b' := by
    have gr : gR G2 b' = gR G b' := by
      unfold gR
      rw [r8]
    have : sPctS G2 = sPctS G := by funext a f d; simp only [sPctS, r1]
    simp only [sFee, gr, gB, sPct, r8, r1, this]
  refine m_feeOf (by rw [r1]; exact h.F) (by rw [r1, r8]; exact h.N) (by rw [r8]; exact lt) ?_
  refine m_row ?_
  rw [show nI (4 + 13 * b') + (11 : Int32) = nI (4 + 13 * b' + 11) from zI_add _ 11, zI_nat (show 4 + 13 * b' + 11 < 2147483648 by omega)]
  refine ⟨zI_in' (by omega) (by omega), ?_⟩
  rintro _ rfl
  refine m_row ?_
  rw [show nI (4 + 13 * b') + (12 : Int32) = nI (4 + 13 * b' + 12) from zI_add _ 12, zI_nat (show 4 + 13 * b' + 12 < 2147483648 by omega)]
  refine ⟨zI_in' (by omega) (by omega), ?_⟩
  rintro _ rfl
  rw [mu_eq G2 8, mu_mg, r8, fe]
  have N1 : zNw (G 1) (sCan (G 8) b' (sFee G b')) := h.N.can (by omega)
  have u2 : sCan (G 8) b' (sFee G b') 2 = G 8 2 := sCan_ne (by omega) (by omega)
  have ho : ∀ i, i < 60 → G2 19 i = 0 := by rw [r19]; exact h.out
  refine ⟨cn (G 8 2) + 1, m_serves (G := G2) (F := F2) (post := fun F_9 G_10 => post (sFee G b') F_9 G_10) (by rw [r1]; exact h.F) (cn (G 8 2)) 0 (sCan (G 8) b' (sFee G b')) _ ⟨mg_eq _ _ _, fun k h7 h20 h8 => mg_ne h8⟩ (by rw [r1]; exact N1) (by rw [u2]; omega) ho (fun G3 e3 => ?_)⟩
  have es : sServe G2 (cn (G 8 2)) 0 (sCan (G 8) b' (sFee G b')) = sCancel G b' := sServe_congr h.F r1 r19 _ _ _
  rw [es] at e3
  have hz : ∀ k, k ≠ 7 → k ≠ 20 → G3 k = mg (sRemG F G) 8 (sCancel G b') k := fun k h7 h20 => by
    by_cases z : k = 8
    · subst z; rw [mg_eq]; exact e3.1
    · rw [mg_ne z, e3.2 k h7 h20 z]; exact s1 k h7 h20
  refine p _ _ e0 ⟨s2 11 (by decide), s2 12 (by decide), s2 14 (by decide), hz 1 (by decide) (by decide), hz 6 (by decide) (by decide), hz 8 (by decide) (by decide), hz 9 (by decide) (by decide), hz 10 (by decide) (by decide), hz 13 (by decide) (by decide), ?_⟩
  rw [e3.2 19 (by decide) (by decide) (by decide)]; exact ho
end
