/-! PLAIN LAWS, x3: a plan's problems -/
section
variable {ke : Nat} {S : HS} {c : HC} {x su st gr q : Nat} {G : MG} {bk : Nat → Nat}
theorem x_lacks {e : Nat} {s : Int32} {post : Int32 → HS → Prop} (P : xPl ke S c x su st gr q G bk) (hF : zFx (G 1)) (hN : zNw (G 1) (G 8)) (hE : xEv S c e (G 7)) (hz : zEv (G 7)) (hs : zSt s) (h : ∀ g, post (bI (sShort G s)) (sG S gr g)) : wX_X1_lacks post x e s S := by
  have lk := cn_le (n := 6) hF.k.2
  have main := zloop (σ := Nat × (Nat → Int32)) (fun m p => wX_X1_lacks_l2 post x e s m (nI p.1) (sG S gr p.2)) (fun p => p.1 ≤ cn (G 1 2) ∧ ∀ g, post (bI (zany (sLack G s) p.1 (cn (G 1 2) - p.1))) (sG S gr g)) (fun p => cn (G 1 2) - p.1) ?_ (0, hA S gr) ⟨Nat.zero_le _, h⟩
  · obtain ⟨m, hm⟩ := main
    exact ⟨m, by rw [sG_self] at hm; exact hm⟩
  rintro m ⟨k, g⟩ ⟨hk, hJ⟩ next
  dsimp only at hk hJ next ⊢
  have P1 : xPl ke (sG S gr g) c x su st gr q G bk := P.sG
  have E1 : xEv (sG S gr g) c e (G 7) := hE.sG P.T.gc
  obtain ⟨l, f, b1, b2, b3⟩ := P1.U.k
  refine ⟨P1.T.d, su, P1.T.su, P1.U.d, l, b1, b2.d, x_size b2 ?_⟩
  rw [zI_le (by omega) (by omega)]
  refine ⟨fun q1 => ?_, fun q1 => ?_⟩
  · have := hJ g
    rw [show cn (G 1 2) - k = 0 by omega] at this; exact this
  · rw [show cn (G 1 2) - k = (cn (G 1 2) - (k + 1)) + 1 by omega] at hJ
    simp only [zany] at hJ
    have nx : ∀ g', sLack G s k = false → wX_X1_lacks_l2 post x e s m (nI k + 1) (sG S gr g') := by
      intro g' e1
      rw [zI_1, zI_add]
      refine next (k + 1, g') ⟨by dsimp only; omega, fun g => ?_⟩ (by dsimp only; omega)
      have := hJ g
      rw [e1, Bool.false_or] at this
      exact this
    have hk' : k < cn (G 1 2) := by omega
    have hle := hF.le k hk'
    obtain ⟨nn, n1, n2, n3, n4, n5⟩ := E1.ne
    have ev : hA (sG S gr g) nn (nI k).toNatClampNeg = G 7 (3 + k) := by
      rw [zI_nat (by omega)]; exact n5 k (by omega)
    refine x_kind P1 b1 hk' (fun a a1 a2 a3 a4 a5 => ⟨a1, E1.d, nn, n1, n2, zI_in' (by omega) (by rw [n4]; omega), ?_⟩)
    rw [ev]
    refine ⟨fun e1 => nx g ?_, fun e1 => ⟨zI_in' (by omega) (by rw [n4]; omega), ?_⟩⟩
    · have e1' : ¬ (0 : Int32) < G 7 (3 + k) := Int32.not_lt.mpr e1
      simp only [sLack, e1', decide_false, Bool.false_and]
    · have e1' : (0 : Int32) < G 7 (3 + k) := Int32.not_le.mp e1
      rw [a5, E1.du]
      refine x_mostHeld P1 hF hN hk' (z_spanOf hs ⟨hz.du.1, hz.du.2.1⟩ ⟨hle.1, hle.2.1⟩) (fun g2 => ⟨a1, ?_⟩)
      rw [sG_sG]
      have a3' : hI (sG S gr g2) 700 a = G 1 (32 + k) := a3
      rw [a3']
      refine ⟨fun e2 => nx g2 ?_, fun e2 => ?_⟩
      · have e2' : ¬ G 1 (32 + k) < G 7 (3 + k) + sPeak G k (s - G 1 (44 + k)) (s + G 7 2 + G 1 (44 + k)) := Int32.not_lt.mpr e2
        simp only [sLack, e2', decide_false, Bool.and_false]
      · have e2' : G 1 (32 + k) < G 7 (3 + k) + sPeak G k (s - G 1 (44 + k)) (s + G 7 2 + G 1 (44 + k)) := Int32.not_le.mp e2
        have := hJ g2
        rw [show sLack G s k = true by simp only [sLack, e1', e2', decide_true, Bool.and_true], Bool.true_or] at this
        exact this
theorem x_hall {h : Int32} {post : Nat → Prop} {l : Nat} (P : xPl ke S c x su st gr q G bk) (hl : hR S 100 su = some l) (hh : 0 ≤ h.toInt ∧ h.toInt < (G 1 0).toInt) (H : ∀ a, hD S 6 a → hI S 600 a = G 1 (8 + cn h) → hI S 601 a = G 1 (14 + cn h) → hI S 602 a = G 1 (20 + cn h) → hI S 603 a = G 1 (26 + cn h) → post a) : wX_J2_get post l h S := by
  obtain ⟨l', f, h1, h2, h3⟩ := P.U.h
  rw [hl] at h1; cases h1
  have lt : cn h < cn (G 1 0) := by
    have e1 : cn h = h.toInt.toNat := rfl
    have e2 : cn (G 1 0) = (G 1 0).toInt.toNat := rfl
    omega
  obtain ⟨a1, a2, a3, a4, a5, a6⟩ := h3 (cn h) lt
  rw [cn_nI hh.1]
  exact w_get h2 lt (H _ a1 a3 a4 a5 a6)
theorem bI_not (p : Bool) : (p = false → (bI (!p) = 1)) ∧ (p = true → bI (!p) = 0) := by cases p <;> decide
/-- the checks one by one -/
def sChk (G : MG) (hall s : Int32) : Nat → Bool
  | 1 => decide (s < G 8 0)
  | 2 => decide (sMod s 1440 < G 1 (14 + cn hall) ∨ G 1 (20 + cn hall) < sMod s 1440 + G 7 2)
  | 3 => decide (G 1 (8 + cn hall) < G 7 1)
  | 4 => zany (sShut G hall s (s + G 7 2)) 0 (cn (G 8 3)) || zany (sWeek G s (s + G 7 2)) 0 (cn (G 1 3))
  | 5 => zany (fun b => sNear G b hall s) 0 (cn (G 8 1))
  | _ => sShort G s
def sFirst (f : Nat → Bool) : Nat → Nat → Int32
  | _, 0 => 0
  | k, d + 1 => if f k = true then nI k else sFirst f (k + 1) d
theorem sProb_first (G : MG) (hall s : Int32) : sProb G hall s = sFirst (sChk G hall s) 1 6 := by
  simp only [sFirst, sChk, sProb, decide_eq_true_eq]
  rfl
theorem x_problemOf {e : Nat} {hall s : Int32} {post : Int32 → HS → Prop} (P : xPl ke S c x su st gr q G bk) (hF : zFx (G 1)) (hN : zNw (G 1) (G 8)) (hE : xEv S c e (G 7)) (hz : zEv (G 7)) (hh : 0 ≤ hall.toInt ∧ hall.toInt < (G 1 0).toInt) (hs : zSt s)
    (h : ∀ g, post (sProb G hall s) (sG S gr g)) : wX_X1_problemOf post x e hall s S := by
  have main := zloop (σ := Nat × (Nat → Int32)) (fun m p => wX_X1_problemOf_l3 post x e hall s m (nI p.1) (sG S gr p.2)) (fun p => 1 ≤ p.1 ∧ p.1 ≤ 7 ∧ ∀ g, post (sFirst (sChk G hall s) p.1 (7 - p.1)) (sG S gr g)) (fun p => 7 - p.1) ?_ (1, hA S gr) ⟨Nat.le_refl 1, (show 1 ≤ 7 by decide), by rw [sProb_first] at h; exact h⟩
  · obtain ⟨m, hm⟩ := main
    exact ⟨m, by rw [sG_self] at hm; exact hm⟩
  rintro m ⟨k, g⟩ ⟨hk1, hk2, hJ⟩ next
  dsimp only at hk1 hk2 hJ next ⊢
  have P1 : xPl ke (sG S gr g) c x su st gr q G bk := P.sG
  have E1 : xEv (sG S gr g) c e (G 7) := hE.sG P.T.gc
  simp only [wX_X1_problemOf_l3, wX_X1_problemOf_b3]
  rw [show (6 : Int32) = nI 6 from rfl, zI_lt (by omega) (by omega)]
  refine ⟨fun q1 => ?_, fun q1 => ?_⟩
  · have := hJ g
    rw [show 7 - k = 0 by omega] at this
    exact this
  rw [show 7 - k = (7 - (k + 1)) + 1 by omega] at hJ
  simp only [sFirst] at hJ
  obtain ⟨ck, f, c1, c2, c3, c4, c5⟩ := P1.T.ck
  obtain ⟨f1, f2, f3, f4⟩ := c5 k hk1 (by omega)
  -- what each check's answer means
  have fin : ∀ r : Int32, r = bI (sChk G hall s k) → ∀ g', (r = 0 ∨ r = 1) ∧ ((r = 0 → wX_X1_problemOf_l3 post x e hall s m (nI k + 1) (sG S gr g')) ∧ (¬ r = 0 → post (nI k) (sG S gr g'))) := by
    rintro r rfl g'
    refine ⟨bI_01 _, fun e1 => ?_, fun e1 => ?_⟩
    · rw [bI_0] at e1
      rw [zI_1, zI_add]
      refine next (k + 1, g') ⟨by dsimp only; omega, by dsimp only; omega, fun g => ?_⟩ (by dsimp only; omega)
      have := hJ g
      rw [e1, if_neg (by decide)] at this
      exact this
    · rw [bI_0, Bool.not_eq_false] at e1
      have := hJ g'
      rw [e1, if_pos rfl] at this
      exact this
  refine ⟨P1.T.d, ck, c1, c2, zI_in' (by omega) (by rw [c4]; omega), f k, by rw [zI_nat (by omega)]; exact f1, ?_⟩
  have hs1 := hs.1
  have hs2 := hs.2.1
  have hd := hz.du
  have end1 : (s + G 7 2).toInt = s.toInt + (G 7 2).toInt := z_add (by omega) (by omega)
  have kk : k = 1 ∨ k = 2 ∨ k = 3 ∨ k = 4 ∨ k = 5 ∨ k = 6 := by omega
  rcases kk with rfl | rfl | rfl | rfl | rfl | rfl
  · refine .inl ⟨f2, x, f4, P1.T.d, P1.T.d, st, P1.T.st, P1.V.d, ?_⟩
    rw [P1.V.no]
    refine ⟨fun e1 => fin _ ?_ g, fun e1 => fin _ ?_ g⟩
    · simp only [sChk, Int32.not_lt.mpr e1, decide_false]; rfl
    · simp only [sChk, Int32.not_le.mp e1, decide_true]; rfl
  · refine .inr (.inl ⟨f2, x, f4, P1.T.d, P1.T.d, su, P1.T.su, P1.U.d, ?_⟩)
    obtain ⟨l, f', h1, h2, h3⟩ := P1.U.h
    refine ⟨l, h1, h2.d, x_hall P1 h1 hh (fun a a1 a2 a3 a4 a5 => ⟨a1, E1.d, ?_⟩)⟩
    rintro _ rfl
    rw [a3, a4, E1.du]
    refine ⟨a1, fun e1 => ⟨fun _ => fin _ ?_ g, fun q => (q rfl).elim⟩, fun e1 => ⟨fun e2 => ⟨fun _ => fin _ ?_ g, fun q => (q rfl).elim⟩, fun e2 => ⟨fun q => absurd q (by decide), fun _ => fin _ ?_ g⟩⟩⟩
    · have e1' : sMod s 1440 < G 1 (14 + cn hall) := e1
      simp only [sChk, e1', true_or, decide_true]; rfl
    · have e2' : G 1 (20 + cn hall) < sMod s 1440 + G 7 2 := e2
      simp only [sChk, e2', or_true, decide_true]; rfl
    · have e1' : ¬ sMod s 1440 < G 1 (14 + cn hall) := e1
      have e2' : ¬ G 1 (20 + cn hall) < sMod s 1440 + G 7 2 := e2
      simp only [sChk, e1', e2', or_self, decide_false]; rfl
  · refine .inr (.inr (.inl ⟨f2, x, f4, P1.T.d, E1.d, P1.T.d, su, P1.T.su, P1.U.d, ?_⟩))
    obtain ⟨l, f', h1, h2, h3⟩ := P1.U.h
    refine ⟨l, h1, h2.d, x_hall P1 h1 hh (fun a a1 a2 a3 a4 a5 => ⟨a1, ?_⟩)⟩
    rw [a2, E1.gu]
    refine ⟨fun e1 => fin _ ?_ g, fun e1 => fin _ ?_ g⟩
    · simp only [sChk, Int32.not_lt.mpr e1, decide_false]; rfl
    · simp only [sChk, Int32.not_le.mp e1, decide_true]; rfl
  · refine .inr (.inr (.inr (.inl ⟨f2, x, f4, P1.T.d, E1.d, P1.T.d, ?_⟩)))
    rw [E1.du]
    refine x_isClosedIn P1 hF hN ⟨hs1, by omega⟩ ⟨by omega, by omega⟩ ⟨bI_01 _, fin _ rfl g⟩
  · refine .inr (.inr (.inr (.inr (.inl ⟨f2, x, f4, P1.T.d, P1.T.d, ?_⟩))))
    exact x_isAnyNear P1 hN E1 hz.ty ⟨bI_01 _, fin _ rfl g⟩
  · refine .inr (.inr (.inr (.inr (.inr ⟨f2, x, f4, P1.T.d, P1.T.d, ?_⟩))))
    refine x_lacks P1 hF hN E1 hz hs (fun g2 => ?_)
    rw [sG_sG]
    exact ⟨bI_01 _, fin _ rfl g2⟩
end
