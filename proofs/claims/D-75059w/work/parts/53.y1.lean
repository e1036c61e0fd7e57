/-! PLAIN LAWS, y1: fees, the first start that goes, a booking's problem -/
theorem sPeak_congr {G G1 : MG} {k : Nat} {x y : Int32} (h1 : G1 1 = G 1) (h8 : G1 8 = G 8) (h19 : G1 19 = G 19) : sPeak G1 k x y = sPeak G k x y := by
  have e : sGrid G1 k x y = sGrid G k x y := by
    funext b g
    simp only [sGrid, sCounts, gB, sEnd, h1, h8, h19]
    rfl
  simp only [sPeak, e, h8]
theorem sProb_congr {G G1 : MG} {hall s : Int32} (hF : zFx (G 1)) (h1 : G1 1 = G 1) (h8 : G1 8 = G 8) (h19 : G1 19 = G 19) (h7 : ∀ k, k < 9 → G1 7 k = G 7 k) : sProb G1 hall s = sProb G hall s := by
  have lk := cn_le (n := 6) hF.k.2
  have e0 := h7 0 (by decide)
  have e1 := h7 1 (by decide)
  have e2 := h7 2 (by decide)
  have a1 : sShut G1 = sShut G := by funext a b d e; simp only [sShut, h8]
  have a2 : sWeek G1 = sWeek G := by funext a b d; simp only [sWeek, h1]
  have a3 : sNear G1 = sNear G := by funext a b d; simp only [sNear, sCounts, gB, sEnd, sBetw, h1, h8, h19, e0, e2]
  have a4 : sShort G1 s = sShort G s := by
    unfold sShort
    rw [h1]
    refine zany_congr _ _ (fun j _ hj => ?_)
    simp only [sLack, h1, e2, h7 (3 + j) (by omega), sPeak_congr h1 h8 h19]
  simp only [sProb, h8, h1, e1, e2, a1, a2, a3, a4]
theorem sDraftProb_congr {G G1 : MG} {hall s : Int32} (hF : zFx (G 1)) (h1 : G1 1 = G 1) (h8 : G1 8 = G 8) (h19 : G1 19 = G 19) (h6 : G1 6 = G 6) : sDraftProb G1 hall s = sDraftProb G hall s := by
  unfold sDraftProb
  refine sProb_congr hF (G := sAsk G 6 0) (G1 := sAsk G1 6 0) h1 h8 h19 (fun k hk => ?_)
  simp only [sAsk, mg_eq, if_pos hk, h6]
/-! what a fee is -/
def zPct (G : MG) (d v : Int32) : Prop := (v = 100 ∧ ∀ f, f < cn (G 1 4) → ¬ G 1 (110 + f) ≤ d) ∨ ∃ f, f < cn (G 1 4) ∧ v = G 1 (114 + f) ∧ G 1 (110 + f) ≤ d ∧ ∀ j, j < cn (G 1 4) → G 1 (110 + j) ≤ d → G 1 (110 + j) ≤ G 1 (110 + f)
theorem zPct_one {G : MG} {d v w : Int32} (hF : zFx (G 1)) (h1 : zPct G d v) (h2 : zPct G d w) : v = w := by
  rcases h1 with ⟨a1, a2⟩ | ⟨f, f1, f2, f3, f4⟩ <;> rcases h2 with ⟨b1, b2⟩ | ⟨e, e1, e2, e3, e4⟩
  · rw [a1, b1]
  · exact absurd e3 (a2 e e1)
  · exact absurd f3 (b2 f f1)
  · have : f = e := hF.fn f e f1 e1 (Int32.le_antisymm (e4 f f1 f3) (f4 e e1 e3))
    rw [f2, e2, this]
def sPctS (G : MG) (d : Int32) (f : Nat) (a : Int32) : Int32 := if decide (G 1 (110 + f) ≤ d) && (a == -1 || decide (G 1 (110 + cn a) < G 1 (110 + f))) then nI f else a
def sPct (G : MG) (d : Int32) : Int32 := let a := zf (sPctS G d) 0 (cn (G 1 4)) (-1); if a = -1 then 100 else G 1 (114 + cn a)
theorem zf_inv {α : Type} {f : Nat → α → α} (P : Nat → α → Prop) {n : Nat} {a : α} (h0 : P 0 a) (hs : ∀ j a, j < n → P j a → P (j + 1) (f j a)) : P n (zf f 0 n a) := by
  have key : ∀ d k a, k + d = n → P k a → P n (zf f k d a) := by
    intro d
    induction d with
    | zero => intro k a e h; rw [show n = k by omega]; exact h
    | succ d ih => intro k a e h; exact ih (k + 1) _ (by omega) (hs k a (by omega) h)
  exact key n 0 a (by omega) h0
theorem sPct_is {G : MG} (hF : zFx (G 1)) (d : Int32) : zPct G d (sPct G d) := by
  have lf := cn_le (n := 4) hF.f.2
  have key := zf_inv (f := sPctS G d) (fun k a => (a = -1 ∧ ∀ f, f < k → ¬ G 1 (110 + f) ≤ d) ∨ ∃ f, a = nI f ∧ f < k ∧ G 1 (110 + f) ≤ d ∧ ∀ j, j < k → G 1 (110 + j) ≤ d → G 1 (110 + j) ≤ G 1 (110 + f)) (n := cn (G 1 4)) (a := -1) (.inl ⟨rfl, fun f h => absurd h (Nat.not_lt_zero _)⟩) ?_
  · unfold sPct
    rcases key with ⟨e, h⟩ | ⟨f, e, h1, h2, h3⟩
    · exact .inl ⟨by simp only [e, if_true], h⟩
    · refine .inr ⟨f, h1, ?_, h2, h3⟩
      have : nI f ≠ -1 := nI_ne (by omega)
      simp only [e, if_neg this]
      rw [show cn (nI f) = f from zI_nat (by omega)]
  · intro j a hj h
    unfold sPctS
    by_cases q1 : G 1 (110 + j) ≤ d
    · rcases h with ⟨e, h⟩ | ⟨f, e, h1, h2, h3⟩
      · refine .inr ⟨j, ?_, by omega, q1, fun i hi hd => ?_⟩
        · rw [if_pos (by simp [q1, e])]
        · by_cases z : i = j
          · rw [z]; exact Int32.le_refl _
          · exact absurd hd (h i (by omega))
      · have ne : nI f ≠ -1 := nI_ne (by omega)
        have cf : cn a = f := by rw [e]; exact zI_nat (by omega)
        by_cases q2 : G 1 (110 + f) < G 1 (110 + j)
        · refine .inr ⟨j, ?_, by omega, q1, fun i hi hd => ?_⟩
          · rw [if_pos (by simp [q1, cf, q2])]
          · by_cases z : i = j
            · rw [z]; exact Int32.le_refl _
            · have := h3 i (by omega) hd
              rw [z_le] at *; rw [z_lt] at q2; omega
        · refine .inr ⟨f, ?_, by omega, h2, fun i hi hd => ?_⟩
          · have a1 : (a == -1) = false := by rw [e]; simpa using ne
            rw [if_neg (by simp [q1, cf, q2, a1])]
            exact e
          · by_cases z : i = j
            · rw [z]; rw [z_lt] at q2; rw [z_le]; omega
            · exact h3 i (by omega) hd
    · rw [if_neg (by simp [q1])]
      rcases h with ⟨e, h⟩ | ⟨f, e, h1, h2, h3⟩
      · refine .inl ⟨e, fun f hf => ?_⟩
        by_cases z : f = j
        · rw [z]; exact q1
        · exact h f (by omega)
      · refine .inr ⟨f, e, by omega, h2, fun i hi hd => ?_⟩
        by_cases z : i = j
        · rw [z] at hd; exact absurd hd q1
        · exact h3 i (by omega) hd
theorem m_percentOf {post : Int32 → Prop} {F : MF} {G : MG} {d : Int32} (hF : zFx (G 1)) (h : post (sPct G d)) : wM_percentOf post d F G := by
  have lf := cn_le (n := 4) hF.f.2
  refine zfold (L := fun n a b => wM_percentOf_l4 post F G n d a b) (zNo (cn (G 1 4))) (n := cn (G 1 4)) (f := sPctS G d) (post := fun a => post (if a = -1 then 100 else G 1 (114 + cn a))) (by omega) (fun k a hk ha => ?_) ?_ _ (.inl rfl) h
  · unfold sPctS
    split
    · exact .inr ⟨k, rfl, hk⟩
    · exact ha
  intro n f a hf ha p1 p2
  simp only [wM_percentOf_l4, wM_percentOf_b4]
  rw [cn_nI hF.f.1, zI_le (by omega) (by omega)]
  refine ⟨fun e => ⟨fun e1 => ?_, fun e1 => ?_⟩, fun e => ?_⟩
  · have := p1 (by omega)
    rw [if_pos e1] at this; exact this
  · have := p1 (by omega)
    rw [if_neg e1] at this
    obtain ⟨j, ej, lj⟩ := ha.resolve_left e1
    rw [show cn a = j by rw [ej]; exact zI_nat (by omega)] at this
    rw [ej, show (114 : Int32) + nI j = nI (114 + j) from zI_add 114 j, zI_nat (by omega)]
    exact ⟨zI_in' (by omega) (by omega), this⟩
  have hf' : f < cn (G 1 4) := by omega
  have p2 := p2 hf'
  have a1 : (110 : Int32) + nI f = nI (110 + f) := zI_add 110 f
  rw [a1, zI_nat (by omega)]
  refine ⟨zI_in' (by omega) (by omega), fun e1 => ⟨fun _ => ?_, fun z => absurd rfl z⟩, fun e1 => ⟨fun e2 => ⟨fun z => absurd z (by decide), fun _ => ?_⟩, fun e2 => ?_⟩⟩
  · rw [sPctS, if_neg (by simp [Int32.not_le.mpr e1])] at p2; exact p2
  · rw [sPctS, if_pos (by simp [Int32.not_lt.mp e1, e2])] at p2; exact p2
  · obtain ⟨j, ej, lj⟩ := ha.resolve_left e2
    have cj : cn a = j := by rw [ej]; exact zI_nat (by omega)
    have q4 : (a == -1) = false := by simpa using e2
    rw [sPctS, cj, q4] at p2
    refine ⟨zI_in' (by omega) (by omega), ?_⟩
    rw [ej, show (110 : Int32) + nI j = nI (110 + j) from zI_add 110 j, zI_nat (by omega)]
    rw [ej] at p2
    refine ⟨zI_in' (by omega) (by omega), fun e3 => ⟨fun _ => ?_, fun z => absurd rfl z⟩, fun e3 => ⟨fun z => absurd z (by decide), fun _ => ?_⟩⟩
    · rw [if_neg (by simp [Int32.not_lt.mpr e3])] at p2; exact p2
    · rw [if_pos (by simp [Int32.not_lt.mp e1, Int32.not_le.mp e3])] at p2; exact p2
theorem x_feePercent {ke : Nat} {S : HS} {c : HC} {x su st gr q : Nat} {G : MG} {bk : Nat → Nat} {d : Int32} {post : Int32 → Prop} (P : xPl ke S c x su st gr q G bk) (hF : zFx (G 1)) (h : post (sPct G d)) : wX_X2_feePercent post su d S := by
  have lf := cn_le (n := 4) hF.f.2
  obtain ⟨a, fd, p, a1, a2, a3, a4, a5, a6, a7, a8, a9, a10, a11⟩ := P.U.f
  refine zup (L := fun m k => wX_X2_feePercent_l2 post su d S m k) (cn (G 1 4)) (by omega) (fun k => ∀ i, i < k → ¬ G 1 (110 + p i) ≤ d) ?_ 0 (Nat.zero_le _) (fun i hi => absurd hi (Nat.not_lt_zero _))
  intro m k hk hJ next
  simp only [wX_X2_feePercent_l2, wX_X2_feePercent_b2]
  rw [P.U.fn, cn_nI hF.f.1, zI_le (by omega) (by omega)]
  refine ⟨P.U.d, fun e => ?_, fun e => ?_⟩
  · have : zPct G d 100 := .inl ⟨rfl, fun f hf => by
      obtain ⟨i, i1, i2⟩ := a10 f hf
      rw [← i2]; exact hJ i (by omega)⟩
    rw [zPct_one hF this (sPct_is hF d)]; exact h
  · have hk' : k < cn (G 1 4) := by omega
    obtain ⟨o, o1, o2, o3, o4, o5, o6, o7⟩ := a9 k hk'
    refine ⟨a, a1, a2, zI_in' (by omega) (by omega), o, by rw [zI_nat (by omega)]; exact o1, o2, ?_⟩
    unfold wX_X2_lambda_addFee_1
    rw [o5, o6]
    have np : G 1 (114 + p k) ≠ -1 := fun z => by
      have := (hF.fp (p k) o4).1
      rw [z] at this
      exact absurd this (by decide)
    refine ⟨fun e1 => ⟨fun _ => next hk' (fun i hi => ?_), fun z => absurd rfl z⟩, fun e1 => ⟨fun z => absurd z np, fun _ => ?_⟩⟩
    · by_cases z : i = k
      · rw [z]; exact Int32.not_le.mpr e1
      · exact hJ i (by omega)
    · have : zPct G d (G 1 (114 + p k)) := .inr ⟨p k, o4, rfl, Int32.not_lt.mp e1, fun j hj hd => by
        obtain ⟨i, i1, i2⟩ := a10 j hj
        rw [← i2] at hd ⊢
        rcases Nat.lt_trichotomy i k with z | z | z
        · exact absurd hd (hJ i z)
        · rw [z]; exact Int32.le_refl _
        · exact Int32.le_of_lt (a11 k i z i1)⟩
      rw [zPct_one hF this (sPct_is hF d)]; exact h
def oPct (G : MG) (d : Int32) : ZQ := if sIn d.toInt 0 60 = false then (1, 0) else (0, sPct G d)
theorem M_feePercent {F : MF} {G : MG} {d : Int32} {post : Int32 → MF → MG → Prop} (h : zOK G) (p : mAns F G (oPct G d) post) : wM_feePercent post d F G := by
  rintro _ rfl
  refine m_isIn ?_
  rw [z64, show ((0 : Int64)).toInt = 0 from rfl, show ((60 : Int64)).toInt = 60 from rfl]
  refine ⟨fun e => ?_, fun e => ?_⟩ <;> simp only [bI_0, Bool.not_eq_false] at e
  · rw [oPct, if_pos e] at p; exact m_fails (k := 1) h p
  · rw [oPct, if_neg (by rw [e]; decide)] at p
    exact m_percentOf h.F (p _ _ rfl (z_up0 h))
def sFee (G : MG) (b : Nat) : Int32 := sPrice (G 1) (gR G b) (gB G b 9) (gB G b 10) * sPct G ((gB G b 10 - G 8 0) / 1440) / 100
theorem m_feeOf {post : Int32 → Prop} {F : MF} {G : MG} {b : Nat} (hF : zFx (G 1)) (hN : zNw (G 1) (G 8)) (hb : b < cn (G 8 1)) (h : post (sFee G b)) : wM_feeOf post (nI b) F G := by
  have lb := cn_le (n := 60) hN.b.2
  exact m_priceNow hF hN hb (m_of (w := 10) (by omega) (by decide) (m_percentOf hF h))
def sToCome (G : MG) (b : Nat) : Bool := gB G b 11 == 1 && !decide (gB G b 10 < G 8 0)
theorem m_isToCome {post : Int32 → Prop} {F : MF} {G : MG} {b : Nat} (hb : b < 60) (h : post (bI (sToCome G b))) : wM_isToCome post (nI b) F G := by
  refine m_isActive hb ⟨fun e1 => ?_, fun e1 => m_of (w := 10) hb (by decide) ⟨fun e2 => ?_, fun e2 => ?_⟩⟩ <;> simp only [bI_0, Bool.not_eq_false] at e1
  · simp only [sToCome, e1, Bool.false_and] at h; exact h
  · simp only [sToCome, e1, e2, decide_true, Bool.not_true, Bool.and_false] at h; exact h
  · simp only [sToCome, e1, e2, decide_false, Bool.not_false, Bool.and_true] at h; exact h
theorem x_isLink {ke : Nat} {S : HS} {c : HC} {x su st gr q : Nat} {G : MG} {bk : Nat → Nat} {b : Nat} {post : Int32 → Prop} (P : xPl ke S c x su st gr q G bk) (hN : zNw (G 1) (G 8)) (hb : b < cn (G 8 1)) (h : post (bI (sToCome G b))) : wX_X1_isLink post x (bk b) S := by
  have B := P.V.bb b hb
  have a1 : hI S 805 (bk b) = gB G b 11 := B.ac
  have a3 : hI S 802 (bk b) = gB G b 10 := B.st
  refine ⟨B.d, ?_⟩
  rw [a1, a3]
  refine ⟨fun e => ?_, fun e => ⟨P.T.d, st, P.T.st, P.V.d, ?_⟩⟩
  · rw [sToCome, e] at h; exact h
  · have e1 : gB G b 11 = 1 := (hN.ba b hb).resolve_left e
    rw [P.V.no]
    refine ⟨fun e2 => ?_, fun e2 => ?_⟩
    · simp only [sToCome, e1, e2, decide_true, Bool.not_true, Bool.and_false] at h; exact h
    · simp only [sToCome, e1, e2, decide_false, Bool.not_false, Bool.and_true, beq_self_eq_true] at h; exact h
def oFeeNow (G : MG) (b : Int32) : ZQ := if sBook G b = false then (1, 0) else if sToCome G (cn b) = false then (2, 0) else (0, sFee G (cn b))
theorem M_feeNow {F : MF} {G : MG} {b : Int32} {post : Int32 → MF → MG → Prop} (h : zOK G) (p : mAns F G (oFeeNow G b) post) : wM_feeNow post b F G := by
  have lb := cn_le (n := 60) h.N.b.2
  refine m_isBooking h.N ⟨fun e => ?_, fun e => ?_⟩ <;> simp only [bI_0, Bool.not_eq_false] at e
  · rw [oFeeNow, if_pos e] at p
    rintro _ rfl
    exact ⟨fun z => absurd z (by rw [upd0]; decide), fun _ => p _ _ rfl (z_up0 h)⟩
  · rw [oFeeNow, if_neg (by rw [e]; decide)] at p
    obtain ⟨eb, lt⟩ := sBook_nI e
    rw [eb]
    refine m_isToCome (by omega) ⟨fun e2 => ?_, fun e2 => ?_⟩ <;> simp only [bI_0, Bool.not_eq_false] at e2
    · rw [if_pos e2] at p
      rintro _ rfl
      exact ⟨fun z => absurd z (by rw [upd0]; decide), fun _ => p _ _ rfl (z_up0 h)⟩
    · rw [if_neg (by rw [e2]; decide)] at p
      rintro _ rfl
      exact ⟨fun _ => m_feeOf h.F h.N lt (p _ _ rfl (z_up0 h)), fun z => absurd (by rw [upd0]; decide) z⟩
/-- classes where a state follows an index -/
def cls2 : Nat → String := fun k => match k with | 1 => "java/lang/IndexOutOfBoundsException" | _ => "java/lang/IllegalStateException"
section
variable {ke : Nat} {S : HS} {c : HC} {x : Nat} {ad qs : Nat → Nat} {bks : Nat → Nat → Nat} {F : MF} {G : MG} {px : String → Nat → HS → Prop} {mc ms : Nat}
theorem X_feePercent {d : Int32} {post : Int32 → Prop} (R : xRX ke S c x ad qs bks F G) (p : xAns ke x S (oPct G d) (fun _ => "java/lang/IllegalArgumentException") post px) (hc : 1 ≤ mc) (hs : 6 ≤ ms) : wX_X1_feePercent post px mc ms x d S := by
  refine x_in ⟨hc, hs, x_needValue (fun e => ?_) (fun e q _ => ?_) (by decide) (by decide)⟩
  · rw [oPct, if_neg (by rw [show sIn d.toInt 0 60 = true from e]; decide)] at p
    exact ⟨R.P.T.d, _, R.P.T.su, R.P.U.d, x_feePercent R.P R.F (p.1 rfl)⟩
  · rw [oPct, if_pos (show sIn d.toInt 0 60 = false from e)] at p; exact p.2 (by decide) q
theorem x_feeOf {b : Nat} {post : Int32 → Prop} (R : xRX ke S c x ad qs bks F G) (hb : b < cn (G 8 1)) (h : post (sFee G b)) : wX_X1_feeOf post x (bks 0 b) S := by
  have B := R.P.V.bb b hb
  have a1 : hI S 803 (bks 0 b) = sPrice (G 1) (gR G b) (gB G b 9) (gB G b 10) := B.pr (R.q2 (by decide))
  have a3 : hI S 802 (bks 0 b) = gB G b 10 := B.st
  refine ⟨B.d, R.P.T.d, _, R.P.T.su, _, R.P.T.st, R.P.V.d, R.P.U.d, ?_⟩
  rw [a1, a3, R.P.V.no]
  exact x_feePercent R.P R.F h
theorem x_needOpen {b : Int32} {post : Prop} (R : xRX ke S c x ad qs bks F G) (p1 : sBook G b = true → sToCome G (cn b) = true → post) (p2 : sBook G b = false → ∀ q, px "java/lang/IndexOutOfBoundsException" q S) (p3 : sBook G b = true → sToCome G (cn b) = false → ∀ q, px "java/lang/IllegalStateException" q S) (hc : 2 ≤ mc) (hs : 12 ≤ ms) : wX_X1_needOpenBooking post px mc ms x b S := by
  refine ⟨R.P.T.d, x_isBooking R.P R.N ⟨by omega, by omega, x_needIndex (fun e => ?_) (fun e q _ => p2 e q) (by decide) (by decide)⟩⟩
  obtain ⟨eb, lt⟩ := sBook_nI e
  have eb' := eb
  rw [eb]
  exact x_booking R.P lt (x_isLink R.P R.N lt ⟨by omega, by omega, x_needState (fun e2 => p1 e e2) (fun e2 q _ => p3 e e2 q) (by decide) (by decide)⟩)
theorem X_feeNow {b : Int32} {post : Int32 → Prop} (R : xRX ke S c x ad qs bks F G) (p : xAns ke x S (oFeeNow G b) cls2 post px) (hc : 2 ≤ mc) (hs : 12 ≤ ms) : wX_X1_feeNow post px mc ms x b S := by
  refine ⟨R.P.T.d, hc, hs, x_needOpen R (fun e e2 => ?_) (fun e q => ?_) (fun e e2 q => ?_) (by decide) (by decide)⟩
  · rw [oFeeNow, if_neg (by rw [e]; decide), if_neg (by rw [e2]; decide)] at p
    obtain ⟨eb, lt⟩ := sBook_nI e
    rw [eb]
    exact x_booking R.P lt (x_feeOf R lt (p.1 rfl))
  · rw [oFeeNow, if_pos e] at p; exact p.2 (by decide) q
  · rw [oFeeNow, if_neg (by rw [e]; decide), if_pos e2] at p; exact p.2 (by decide) q
end
