/-! PLAIN LAWS, m3: the model: problems -/
/-- what a problem's question may change: the row of units -/
def zP1 (G G1 : MG) : Prop := ∃ g, G1 = mg G 20 g
theorem sNear_mg (G : MG) (g : Nat → Int32) : sNear (mg G 20 g) = sNear G := rfl
theorem sShut_mg (G : MG) (g : Nat → Int32) : sShut (mg G 20 g) = sShut G := rfl
theorem sWeek_mg (G : MG) (g : Nat → Int32) : sWeek (mg G 20 g) = sWeek G := rfl
theorem sPeak_mg (G : MG) (g : Nat → Int32) : sPeak (mg G 20 g) = sPeak G := rfl
theorem mg_mg (G : MG) (k : Nat) (f g : Nat → Int32) : mg (mg G k f) k g = mg G k g := by
  funext j
  simp only [mg]
  split <;> simp_all
def sLack (G : MG) (start : Int32) (k : Nat) : Bool := decide (0 < G 7 (3 + k)) && decide (G 1 (32 + k) < G 7 (3 + k) + sPeak G k (start - G 1 (44 + k)) (start + G 7 2 + G 1 (44 + k)))
def sShort (G : MG) (start : Int32) : Bool := zany (sLack G start) 0 (cn (G 1 2))
/-- a slot's span of units -/
theorem z_spanOf {s d l : Int32} (hs : zSt s) (hd : 15 ≤ d.toInt ∧ d.toInt ≤ 1440) (hl : 0 ≤ l.toInt ∧ l.toInt ≤ 240) : zSpan (s - l) (s + d + l) := by
  obtain ⟨h1, h2, -⟩ := hs
  have e1 : (s - l).toInt = s.toInt - l.toInt := z_sub (by omega) (by omega)
  have e2 : (s + d).toInt = s.toInt + d.toInt := z_add (by omega) (by omega)
  have e3 : (s + d + l).toInt = s.toInt + d.toInt + l.toInt := by rw [z_add (by omega) (by omega), e2]
  refine ⟨?_, ?_, ?_, ?_⟩ <;> omega
theorem m_isShort {post : Int32 → MF → MG → Prop} {F : MF} {G : MG} {s : Int32} (hF : zFx (G 1)) (hN : zNw (G 1) (G 8)) (hE : zEv (G 7)) (hs : zSt s) (h : ∀ g, post (bI (sShort G s)) F (mg G 20 g)) : wM_isShort post s F G := by
  unfold wM_isShort
  have lk := cn_le (n := 6) hF.k.2
  have main := zloop (σ := Nat × (Nat → Int32)) (fun m p => wM_isShort_l2 post m s (nI p.1) F (mg G 20 p.2)) (fun p => p.1 ≤ cn (G 1 2) ∧ ∀ g, post (bI (zany (sLack G s) p.1 (cn (G 1 2) - p.1))) F (mg G 20 g)) (fun p => cn (G 1 2) - p.1) ?_ (0, G 20) ⟨Nat.zero_le _, h⟩
  · obtain ⟨m, hm⟩ := main
    exact ⟨m, by rw [mg_self] at hm; exact hm⟩
  rintro m ⟨k, g⟩ ⟨hk, hI⟩ next
  dsimp only at hk hI next ⊢
  simp only [wM_isShort_l2, wM_isShort_b2]
  have ek : mg G 20 g 1 2 = nI (cn (G 1 2)) := cn_nI hF.k.1
  rw [ek, zI_le (by omega) (by omega)]
  refine ⟨fun e => ?_, fun e => ?_⟩
  · have := hI g
    rw [show cn (G 1 2) - k = 0 by omega] at this; exact this
  · have a1 : (3 : Int32) + nI k = nI (3 + k) := zI_add 3 k
    have a2 : (44 : Int32) + nI k = nI (44 + k) := zI_add 44 k
    have a3 : (32 : Int32) + nI k = nI (32 + k) := zI_add 32 k
    rw [a1, a2, a3, zI_nat (show 3 + k < 2147483648 by omega), zI_nat (show 44 + k < 2147483648 by omega), zI_nat (show 32 + k < 2147483648 by omega)]
    rw [show cn (G 1 2) - k = (cn (G 1 2) - (k + 1)) + 1 by omega] at hI
    simp only [zany] at hI
    have nx : ∀ g', sLack G s k = false → wM_isShort_l2 post m s (nI k + 1) F (mg G 20 g') := by
      intro g' e1
      rw [zI_1, zI_add]
      refine next (k + 1, g') ⟨by dsimp only; omega, fun g => ?_⟩ (by dsimp only; omega)
      have := hI g
      rw [e1, Bool.false_or] at this
      exact this
    refine ⟨zI_in' (by omega) (by omega), ?_⟩
    rintro _ rfl
    refine ⟨zI_in' (by omega) (by omega), ?_⟩
    rintro _ rfl
    refine ⟨fun e1 => nx g ?_, fun e1 => ?_⟩
    · have e1' : ¬ (0 : Int32) < G 7 (3 + k) := Int32.not_lt.mpr e1
      simp only [sLack, e1', decide_false, Bool.false_and]
    · have e1' : (0 : Int32) < G 7 (3 + k) := Int32.not_le.mp e1
      have hle := hF.le k (by omega)
      refine m_peakBy (G := mg G 20 g) hF hN (by show k < cn (G 1 2); omega) (z_spanOf hs ⟨hE.du.1, hE.du.2.1⟩ ⟨hle.1, hle.2.1⟩) (fun g2 => ⟨zI_in' (by omega) (by omega), fun e2 => ?_, fun e2 => ?_⟩)
      · rw [mg_mg]
        refine nx g2 ?_
        have e2' : ¬ G 1 (32 + k) < G 7 (3 + k) + sPeak G k (s - G 1 (44 + k)) (s + G 7 2 + G 1 (44 + k)) := Int32.not_lt.mpr e2
        simp only [sLack, e2', decide_false, Bool.and_false]
      · have e2' : G 1 (32 + k) < G 7 (3 + k) + sPeak G k (s - G 1 (44 + k)) (s + G 7 2 + G 1 (44 + k)) := Int32.not_le.mp e2
        have := hI g2
        rw [show sLack G s k = true by simp only [sLack, e1', e2', decide_true, Bool.and_true], Bool.true_or] at this
        rw [mg_mg]
        exact this
/-- what is wrong with the event that is asked about -/
def sProb (G : MG) (hall s : Int32) : Int32 :=
  if s < G 8 0 then 1
  else if sMod s 1440 < G 1 (14 + cn hall) ∨ G 1 (20 + cn hall) < sMod s 1440 + G 7 2 then 2
  else if G 1 (8 + cn hall) < G 7 1 then 3
  else if zany (sShut G hall s (s + G 7 2)) 0 (cn (G 8 3)) || zany (sWeek G s (s + G 7 2)) 0 (cn (G 1 3)) then 4
  else if zany (fun b => sNear G b hall s) 0 (cn (G 8 1)) then 5
  else if sShort G s then 6 else 0
theorem m_problemOf {post : Int32 → MF → MG → Prop} {F : MF} {G : MG} {hall s : Int32} (hF : zFx (G 1)) (hN : zNw (G 1) (G 8)) (hE : zEv (G 7)) (hh : 0 ≤ hall.toInt ∧ hall.toInt < (G 1 0).toInt) (hs : zSt s) (h : ∀ g, post (sProb G hall s) F (mg G 20 g)) : wM_problemOf post hall s F G := by
  unfold wM_problemOf
  rintro _ rfl
  have lh : cn hall < 6 := cn_lt' hh.1 (by have := hF.h.2; omega)
  have eh := cn_nI hh.1
  have a1 : (14 : Int32) + hall = nI (14 + cn hall) := by rw [eh, zI_lit, zI_add, ← eh]
  have a2 : (20 : Int32) + hall = nI (20 + cn hall) := by rw [eh, zI_lit, zI_add, ← eh]
  have a3 : (8 : Int32) + hall = nI (8 + cn hall) := by rw [eh, zI_lit, zI_add, ← eh]
  rw [a1, a2, a3, zI_nat (show 14 + cn hall < 2147483648 by omega), zI_nat (show 20 + cn hall < 2147483648 by omega), zI_nat (show 8 + cn hall < 2147483648 by omega)]
  have h0 := h (G 20)
  rw [mg_self] at h0
  refine ⟨fun e1 => ⟨zI_in' (by omega) (by omega), fun e2 => ?_, fun e2 => ⟨zI_in' (by omega) (by omega), fun e3 => ⟨zI_in' (by omega) (by omega), fun e4 => ?_, fun e4 => ?_⟩, fun e3 => ?_⟩⟩, fun e1 => ?_⟩
  · simpa only [sProb, Int32.not_lt.mpr e1, e2, if_false, if_true, true_or] using h0
  · have b1 : sProb G hall s = (if zany (sShut G hall s (s + G 7 2)) 0 (cn (G 8 3)) || zany (sWeek G s (s + G 7 2)) 0 (cn (G 1 3)) then 4
  else if zany (fun b => sNear G b hall s) 0 (cn (G 8 1)) then 5
  else if sShort G s then 6 else 0) := by
      unfold sProb
      rw [if_neg (Int32.not_lt.mpr e1), if_neg (fun q => q.elim e2 (Int32.not_lt.mpr e3)), if_neg (Int32.not_lt.mpr e4)]
    rw [b1] at h0
    refine m_isShutIn hN ⟨fun e5 => m_isWeeklyIn hF ⟨fun e6 => m_isAnyNear hN hE.ty ⟨fun e7 => m_isShort hF hN hE hs (fun g => ⟨fun e8 => ?_, fun e8 => ?_⟩), fun e7 => ?_⟩, fun e6 => ?_⟩, fun e5 => ?_⟩ <;> simp only [bI_0, Bool.not_eq_false] at *
    · have := h g
      rw [b1, e5, e6, e7, e8] at this
      exact this
    · have := h g
      rw [b1, e5, e6, e7, e8] at this
      exact this
    · rw [e5, e6, e7] at h0
      exact h0
    · rw [e5, e6] at h0
      exact h0
    · rw [e5] at h0
      exact h0
  · have b1 : sProb G hall s = 3 := by
      unfold sProb
      rw [if_neg (Int32.not_lt.mpr e1), if_neg (fun q => q.elim e2 (Int32.not_lt.mpr e3)), if_pos (Int32.not_le.mp e4)]
    rw [b1] at h0; exact h0
  · have b1 : sProb G hall s = 2 := by
      unfold sProb
      rw [if_neg (Int32.not_lt.mpr e1), if_pos (Or.inr (Int32.not_le.mp e3))]
    rw [b1] at h0; exact h0
  · have b1 : sProb G hall s = 1 := by
      unfold sProb
      rw [if_pos (Int32.not_le.mp e1)]
    rw [b1] at h0; exact h0
/-! the event that is asked about -/
def sAsk (G : MG) (r : Nat) (x : Nat) : MG := mg G 7 (fun k => if k < 9 then G r (x + k) else G 7 k)
theorem m_asks {post : MF → MG → Prop} {F : MF} {G : MG} {r x : Nat} (hr : m_ty r = 1) (h7 : r ≠ 7) (hx : x + 9 ≤ m_ln r) (hl : m_ln r < 100000) (h : post F (sAsk G r x)) : wM_asks post r (nI x) F G := by
  unfold wM_asks
  have main := zup (L := fun m k => ∀ g, (∀ j, j < cn k → g j = G r (x + j)) → (∀ j, cn k ≤ j → g j = G 7 j) → wM_asks_l2 post r m (nI x) k F (mg G 7 g)) 9 (by omega) (fun _ => True) ?_ 0 (Nat.zero_le _) trivial
  · obtain ⟨m, hm⟩ := main
    have := hm (G 7) (fun j hj => absurd hj (Nat.not_lt_zero _)) (fun j _ => rfl)
    rw [mg_self] at this
    exact ⟨m, this⟩
  intro m k hk _ next g hg1 hg2
  have ck : cn (nI k) = k := zI_nat (by omega)
  rw [ck] at hg1 hg2
  simp only [wM_asks_l2, wM_asks_b2]
  rw [show (9 : Int32) = nI 9 from rfl, zI_le (by omega) (by omega), zI_nat (show k < 2147483648 by omega), zI_add, zI_nat (show x + k < 2147483648 by omega)]
  refine ⟨fun e => ?_, fun e => ⟨hr, zI_in' (by omega) (by omega), zI_in' (by omega) (by omega), ?_⟩⟩
  · have : k = 9 := by omega
    subst this
    rw [show sAsk G r x = mg G 7 g from by
      unfold sAsk
      congr 1
      funext j
      split
      · rename_i q; exact (hg1 j q).symm
      · rename_i q; exact (hg2 j (by omega)).symm] at h
    exact h
  · rintro _ rfl
    rw [mu_mg, mg_ne h7]
    have ck1 : cn (nI k + 1) = k + 1 := by rw [zI_1, zI_add]; exact zI_nat (by omega)
    refine next (by omega) trivial _ (fun j hj => ?_) (fun j hj => ?_)
    · rw [ck1] at hj
      simp only [upd]
      split
      · rename_i q; rw [q]
      · exact hg1 j (by omega)
    · rw [ck1] at hj
      simp only [upd]
      rw [if_neg (by omega)]
      exact hg2 j (by omega)
def sDraftProb (G : MG) (hall s : Int32) : Int32 := sProb (sAsk G 6 0) hall s
/-- scratch rows that a question may change -/
def zQ (G G1 : MG) : Prop := ∀ k, k ≠ 7 → k ≠ 20 → k ≠ 23 → k ≠ 24 → k ≠ 21 → G1 k = G k
theorem m_draftProblem {post : Int32 → MF → MG → Prop} {F : MF} {G : MG} {hall s : Int32} (hF : zFx (G 1)) (hN : zNw (G 1) (G 8)) (hE : zEv (G 6)) (hh : 0 ≤ hall.toInt ∧ hall.toInt < (G 1 0).toInt) (hs : zSt s) (h : ∀ G1, (∀ k, k ≠ 7 → k ≠ 20 → G1 k = G k) → post (sDraftProb G hall s) F G1) : wM_draftProblem post hall s F G := by
  unfold wM_draftProblem
  refine m_asks (r := 6) (x := 0) rfl (by decide) (by decide) (by decide) ?_
  have hE' : zEv (sAsk G 6 0 7) := by
    refine ⟨?_, ?_, ?_, fun k hk => ?_⟩
    · exact hE.ty
    · exact hE.gu
    · exact hE.du
    · have := hE.ne k hk
      simp only [sAsk, mg_eq, Nat.zero_add]
      rw [if_pos (by omega)]
      exact this
  refine m_problemOf hF hN hE' hh hs (fun g => h _ (fun k h7 h20 => ?_))
  rw [mg_ne h20]
  exact mg_ne h7
