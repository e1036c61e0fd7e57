/-! PLAIN LAWS, x2: a plan's questions of a problem -/
/-- a plan as the model's rows tell it -/
abbrev xPl (ke : Nat) (S : HS) (c : HC) (x su st gr q : Nat) (G : MG) (bk : Nat → Nat) : Prop := (xTop S c x su st gr) ∧ (xSu ke S c (fun _ => 0) su (G 1)) ∧ (xSt ke S c q st (G 1) (G 8) (G 19) bk) ∧ (10 ≤ q)
theorem xPl.T {ke : Nat} {S : HS} {c : HC} {x su st gr q : Nat} {G : MG} {bk : Nat → Nat} (h : xPl ke S c x su st gr q G bk) : xTop S c x su st gr := h.1
theorem xPl.U {ke : Nat} {S : HS} {c : HC} {x su st gr q : Nat} {G : MG} {bk : Nat → Nat} (h : xPl ke S c x su st gr q G bk) : xSu ke S c (fun _ => 0) su (G 1) := h.2.1
theorem xPl.V {ke : Nat} {S : HS} {c : HC} {x su st gr q : Nat} {G : MG} {bk : Nat → Nat} (h : xPl ke S c x su st gr q G bk) : xSt ke S c q st (G 1) (G 8) (G 19) bk := h.2.2.1
theorem xPl.q {ke : Nat} {S : HS} {c : HC} {x su st gr q : Nat} {G : MG} {bk : Nat → Nat} (h : xPl ke S c x su st gr q G bk) : 10 ≤ q := h.2.2.2
theorem xPl.sG {ke : Nat} {S : HS} {c : HC} {x su st gr q : Nat} {G : MG} {bk : Nat → Nat} {h : Nat → Int32} (P : xPl ke S c x su st gr q G bk) : xPl ke (sG S gr h) c x su st gr q G bk :=
  ⟨P.T.sG, P.U.sG P.T.gc (by decide), P.V.sG P.T.gc, P.q⟩
section
variable {ke : Nat} {S : HS} {c : HC} {x su st gr q : Nat} {G : MG} {bk : Nat → Nat}
theorem x_booking {k : Nat} {post : Nat → Prop} (P : xPl ke S c x su st gr q G bk) (hk : k < cn (G 8 1)) (h : post (bk k)) : wX_X1_booking post x (nI k) S := by
  obtain ⟨l, h1, h2⟩ := P.V.b
  exact ⟨P.T.d, st, P.T.st, P.V.d, l, h1, h2.d, w_get h2 hk ⟨(P.V.bb k hk).d, h⟩⟩
theorem x_counts {k : Nat} {post : Int32 → Prop} (P : xPl ke S c x su st gr q G bk) (hN : zNw (G 1) (G 8)) (hk : k < cn (G 8 1)) (h : post (bI (sCounts G k))) : wX_X10_counts post (bk k) S := by
  have B := P.V.bb k hk
  refine ⟨B.d, ?_⟩
  have e1 : hI S 805 (bk k) = gB G k 11 := B.ac
  have e2 : hI S 806 (bk k) = G 19 k := B.ou
  rw [e1, e2]
  rcases hN.ba k hk with q | q <;> replace q : gB G k 11 = _ := q
  · refine ⟨fun _ => ?_, fun e => absurd q e⟩
    simp only [sCounts, q] at h
    exact h
  · refine ⟨fun e => absurd (q ▸ e) (by decide), fun _ => ⟨fun e => ?_, fun e => ?_⟩⟩
    · simp only [sCounts, q, e] at h
      exact h
    · have : (G 19 k == 0) = false := by simpa using e
      simp only [sCounts, q, this] at h
      exact h
theorem x_end {k : Nat} {post : Int32 → Prop} (P : xPl ke S c x su st gr q G bk) (hk : k < cn (G 8 1)) (h : post (sEnd G k)) : wX_X10_end post (bk k) S := by
  have B := P.V.bb k hk
  obtain ⟨e, h1, h2⟩ := B.ev
  refine ⟨B.d, e, h1, h2.d, ?_⟩
  rw [B.st, h2.du]
  exact h
/-- the rows between two types -/
theorem x_between {a b : Int32} (P : xPl ke S c x su st gr q G bk) (ha : 0 ≤ a.toInt ∧ a.toInt < 6) (hb : 0 ≤ b.toInt ∧ b.toInt < 6) : ∃ t r, hR S 102 su = some t ∧ hD S 65 t ∧ vp_in a (hL S t) ∧ hB S t a.toNatClampNeg = some r ∧ hD S 50 r ∧ vp_in b (hL S r) ∧ hA S r b.toNatClampNeg = sBetw G a b := by
  obtain ⟨t, f, h1, h2, h3, h4, h5, h6⟩ := P.U.be
  have la := cn_lt' (n := 6) ha.1 ha.2
  have lb := cn_lt' (n := 6) hb.1 hb.2
  obtain ⟨b1, b2, b3, b4, b5⟩ := h5 (cn a) la
  exact ⟨t, f (cn a), h1, h2, z_in' ha.1 (by rw [h4]; exact ha.2), b1, b2, z_in' hb.1 (by rw [b4]; exact hb.2), b5 (cn b) lb⟩
theorem x_isNear {k e : Nat} {s : Int32} {post : Int32 → Prop} (P : xPl ke S c x su st gr q G bk) (hN : zNw (G 1) (G 8)) (hk : k < cn (G 8 1)) (hE : xEv S c e (G 7)) (he : 0 ≤ (G 7 0).toInt ∧ (G 7 0).toInt < 6)
    (h : post (bI (decide (s < sEnd G k + sBetw G (gB G k 0) (G 7 0)) && decide (gB G k 10 < s + G 7 2 + sBetw G (G 7 0) (gB G k 0))))) : wX_X1_isNear post x (bk k) e s S := by
  have B := P.V.bb k hk
  obtain ⟨e1, v1, v2⟩ := B.ev
  have ht : 0 ≤ (gB G k 0).toInt ∧ (gB G k 0).toInt < 6 := (hN.be k hk).ty
  have t0 : hI S 300 e1 = gB G k 0 := v2.ty
  obtain ⟨t, r, h1, h2, h3, h4, h5, h6, h7⟩ := x_between P ht he
  obtain ⟨t', r', h1', h2', h3', h4', h5', h6', h7'⟩ := x_between P he ht
  have tt : t' = t := by rw [h1] at h1'; cases h1'; rfl
  subst tt
  refine ⟨P.T.d, su, P.T.su, P.U.d, t', h1, B.d, e1, v1, v2.d, h2, ?_⟩
  rw [t0, hE.ty]
  refine ⟨h3, r, h4, hE.d, h5, h6, ?_⟩
  rintro _ rfl
  refine ⟨h3', r', h4', h5', h6', ?_⟩
  rintro _ rfl
  rw [h7, h7']
  refine x_end P hk ?_
  have s0 : hI S 802 (bk k) = gB G k 10 := B.st
  rw [hE.du, s0]
  refine ⟨fun q1 => ?_, fun q1 => ⟨fun q2 => ?_, fun q2 => ?_⟩⟩
  · simp only [Int32.not_lt.mpr q1, decide_false, Bool.false_and] at h; exact h
  · simp only [Int32.not_lt.mpr q2, decide_false, Bool.and_false] at h; exact h
  · simp only [Int32.not_le.mp q1, Int32.not_le.mp q2, decide_true, Bool.and_true] at h; exact h
theorem x_bsize {post : Int32 → Prop} {l : Nat} (P : xPl ke S c x su st gr q G bk) (hl : hR S 200 st = some l) (h : post (nI (cn (G 8 1)))) : wX_J2_size post l S := by
  obtain ⟨l', h1, h2⟩ := P.V.b
  rw [hl] at h1; cases h1
  exact x_size h2 h
theorem x_isAnyNear {e : Nat} {hall s : Int32} {post : Int32 → Prop} (P : xPl ke S c x su st gr q G bk) (hN : zNw (G 1) (G 8)) (hE : xEv S c e (G 7)) (he : 0 ≤ (G 7 0).toInt ∧ (G 7 0).toInt < 6)
    (h : post (bI (zany (fun b => sNear G b hall s) 0 (cn (G 8 1))))) : wX_X1_isAnyNear post x e hall s S := by
  have l1 := cn_le (n := 60) hN.b.2
  refine zup (L := fun m k => wX_X1_isAnyNear_l3 post x e hall s S m k) (cn (G 8 1)) (by omega) (fun k => post (bI (zany (fun b => sNear G b hall s) k (cn (G 8 1) - k)))) ?_ 0 (Nat.zero_le _) h
  intro m k hk hJ next
  obtain ⟨l, b1, b2⟩ := P.V.b
  refine ⟨P.T.d, st, P.T.st, P.V.d, l, b1, b2.d, x_size b2 ?_⟩
  rw [zI_le (by omega) (by omega)]
  refine ⟨fun q1 => ?_, fun q1 => ?_⟩
  · rw [show cn (G 8 1) - k = 0 by omega] at hJ; exact hJ
  · rw [show cn (G 8 1) - k = (cn (G 8 1) - (k + 1)) + 1 by omega] at hJ
    simp only [zany] at hJ
    have hk' : k < cn (G 8 1) := by omega
    have B := P.V.bb k hk'
    have nx : sNear G k hall s = false → wX_X1_isAnyNear_l3 post x e hall s S m (nI k + 1) := fun q2 => by
      rw [q2, Bool.false_or] at hJ
      exact next hk' hJ
    have h0 : hI S 801 (bk k) = gB G k 9 := B.ha
    refine x_booking P hk' ⟨B.d, x_counts P hN hk' ⟨fun q2 => nx ?_, fun q2 => ⟨fun q3 => x_isNear P hN hk' hE he ⟨fun q4 => nx ?_, fun q4 => ?_⟩, fun q3 => nx ?_⟩⟩⟩ <;> simp only [bI_0, Bool.not_eq_false] at q2
    · simp only [sNear, q2, Bool.false_and]
    · simp only [bI_0] at q4
      simp only [sNear, Bool.and_assoc, q4, Bool.and_false]
    · rw [h0] at q3
      simp only [bI_0, Bool.not_eq_false] at q4
      have : sNear G k hall s = true := by
        simp only [sNear, Bool.and_assoc, q4, q2, q3, beq_self_eq_true, Bool.and_true]
      rw [this, Bool.true_or] at hJ
      exact hJ
    · rw [h0] at q3
      have : (gB G k 9 == hall) = false := by simpa using q3
      simp only [sNear, this, Bool.and_false, Bool.false_and]
/-- or of two truths -/
theorem bI_or (a b : Bool) : bI a ||| bI b = bI (a || b) := by cases a <;> cases b <;> decide
theorem x_shut {o : Nat} {r : Nat → Int32} {a b d : Int32} {post : Int32 → Prop} (H : xCl S c o r) (h : post (bI (r 0 == a && decide (r 1 < d) && decide (b < r 2)))) : wX_X1_lambda_closure_0 post (hI S 2000 o) (hI S 2001 o) (hI S 2002 o) a b d S := by
  unfold wX_X1_lambda_closure_0
  rw [H.ha, H.fr, H.to]
  refine ⟨fun q1 => ⟨fun q2 => ?_, fun q2 => ⟨fun q3 => ?_, fun q3 => ?_⟩⟩, fun q1 => ?_⟩
  · simp only [Int32.not_lt.mpr q2, decide_false, Bool.and_false] at h; exact h
  · simp only [Int32.not_lt.mpr q3, decide_false, Bool.and_false, Bool.false_and] at h; exact h
  · simp only [Int32.not_le.mp q2, Int32.not_le.mp q3, q1, decide_true, Bool.and_true, beq_self_eq_true] at h; exact h
  · have : (r 0 == a) = false := by simpa using fun q => q1 q.symm
    simp only [this, Bool.false_and] at h; exact h
/-- a day's minutes -/
theorem z_day {s e : Int32} (h1 : 0 ≤ s.toInt ∧ s.toInt < 86400) (h2 : s.toInt ≤ e.toInt ∧ e.toInt ≤ s.toInt + 1440) : (s / 1440).toInt = s.toInt / 1440 ∧ (1440 * (s / 1440)).toInt = 1440 * (s.toInt / 1440) ∧ (sMod s 1440).toInt = s.toInt % 1440 ∧ (sMod s 1440 + e - s).toInt = s.toInt % 1440 + e.toInt - s.toInt := by
  have d1 : (s / 1440).toInt = s.toInt / 1440 := by rw [z_div h1.1 (by decide)]; rfl
  have d2 : (1440 * (s / 1440)).toInt = 1440 * (s.toInt / 1440) := by
    rw [z_mul] <;> rw [d1] <;> simp only [show (1440 : Int32).toInt = 1440 from rfl] <;> omega
  have d3 : (s / 1440 * 1440).toInt = s.toInt / 1440 * 1440 := by
    rw [z_mul] <;> rw [d1] <;> simp only [show (1440 : Int32).toInt = 1440 from rfl] <;> omega
  have d4 : (sMod s 1440).toInt = s.toInt % 1440 := by
    unfold sMod
    rw [z_sub] <;> rw [d3] <;> omega
  refine ⟨d1, d2, d4, ?_⟩
  have d5 : (sMod s 1440 + e).toInt = s.toInt % 1440 + e.toInt := by rw [z_add] <;> rw [d4] <;> omega
  rw [z_sub] <;> rw [d5] <;> omega
theorem x_week {o k : Nat} {a s e : Int32} {post : Int32 → Prop} (hF : zFx (G 1)) (hk : k < cn (G 1 3)) (h1 : 0 ≤ s.toInt ∧ s.toInt < 86400) (h2 : s.toInt ≤ e.toInt ∧ e.toInt ≤ s.toInt + 1440)
    (H : hI S 2100 o = G 1 (86 + k) ∧ hI S 2102 o = G 1 (94 + k) ∧ hI S 2101 o = G 1 (102 + k)) (h : post (bI (sWeek G s e k))) : wX_X2_lambda_addWeekly_0 post (hI S 2100 o) (hI S 2101 o) (hI S 2102 o) a s e S := by
  unfold wX_X2_lambda_addWeekly_0
  rw [H.1, H.2.1, H.2.2]
  obtain ⟨d1, d2, d3, d4⟩ := z_day h1 h2
  obtain ⟨w1, w2, w3⟩ := hF.wt k hk
  have e1 : G 1 (102 + k) ≤ sMod s 1440 ↔ ¬ s < 1440 * (s / 1440) + G 1 (102 + k) := by
    rw [z_le, d3, z_lt, z_add (by rw [d2]; omega) (by rw [d2]; omega), d2]
    omega
  have e2 : sMod s 1440 + e - s ≤ G 1 (94 + k) ↔ ¬ 1440 * (s / 1440) + G 1 (94 + k) < e := by
    rw [z_le, d4, z_lt, z_add (by rw [d2]; omega) (by rw [d2]; omega), d2]
    omega
  have e3 : (G 1 (86 + k) == sMod (s / 1440) 7) = decide (sMod (s / 1440) 7 = G 1 (86 + k)) := by
    by_cases q : sMod (s / 1440) 7 = G 1 (86 + k)
    · rw [q]; simp
    · simp [q]; exact fun z => q z.symm
  refine ⟨fun q1 => ⟨fun q2 => ?_, fun q2 => ⟨fun q3 => ?_, fun q3 => ?_⟩⟩, fun q1 => ?_⟩
  · replace q2 := e1.mp q2
    simp only [sWeek, q2, decide_false, Bool.and_false] at h; exact h
  · replace q3 := e2.mp q3
    simp only [sWeek, q3, decide_false, Bool.and_false, Bool.false_and] at h; exact h
  · replace q2 := Classical.not_not.mp (fun z => q2 (e1.mpr z))
    replace q3 := Classical.not_not.mp (fun z => q3 (e2.mpr z))
    replace q1 : sMod (s / 1440) 7 = G 1 (86 + k) := q1
    simp only [sWeek, q2, q3, e3, q1, decide_true, Bool.and_true, beq_self_eq_true] at h; exact h
  · replace q1 : ¬ sMod (s / 1440) 7 = G 1 (86 + k) := q1
    simp only [sWeek, e3, q1, decide_false, Bool.false_and] at h; exact h
theorem x_isClosedIn {hall s e : Int32} {post : Int32 → Prop} (P : xPl ke S c x su st gr q G bk) (hF : zFx (G 1)) (hN : zNw (G 1) (G 8)) (h1 : 0 ≤ s.toInt ∧ s.toInt < 86400) (h2 : s.toInt ≤ e.toInt ∧ e.toInt ≤ s.toInt + 1440)
    (h : post (bI (zany (sShut G hall s e) 0 (cn (G 8 3)) || zany (sWeek G s e) 0 (cn (G 1 3))))) : wX_X1_isClosedIn post x hall s e S := by
  have l1 := cn_le (n := 16) hN.s.2
  have l2 := cn_le (n := 8) hF.w.2
  have second : ∀ b : Bool, post (bI (b || zany (sWeek G s e) 0 (cn (G 1 3)))) → ∃ n, wX_X1_isClosedIn_l50 post x hall s e S n (bI b) 0 := by
    intro b hb
    have := zup (L := fun m k => ∀ b, post (bI (b || zany (sWeek G s e) (cn k) (cn (G 1 3) - cn k))) → wX_X1_isClosedIn_l50 post x hall s e S m (bI b) k) (cn (G 1 3)) (by omega) (fun _ => True) ?_ 0 (Nat.zero_le _) trivial
    · obtain ⟨m, hm⟩ := this
      exact ⟨m, hm b hb⟩
    intro m k hk _ next b hb
    rw [show cn (nI k) = k from zI_nat (by omega)] at hb
    refine ⟨P.T.d, su, P.T.su, P.U.d, ?_⟩
    rw [P.U.wn, cn_nI hF.w.1, zI_le (by omega) (by omega)]
    refine ⟨fun q1 => ?_, fun q1 => ?_⟩
    · rw [show cn (G 1 3) - k = 0 by omega] at hb
      simp only [zany, Bool.or_false] at hb
      exact ⟨bI_01 _, hb⟩
    · obtain ⟨a, a1, a2, a3, a4, a5⟩ := P.U.w
      obtain ⟨o, o1, o2, o3, o4⟩ := a5 k (by omega)
      refine ⟨a, a1, a2, zI_in' (by omega) (by omega), o, by rw [zI_nat (by omega)]; exact o1, .inr ⟨o2, ?_⟩⟩
      refine x_week hF (by omega) h1 h2 o4 ⟨bI_01 _, ?_⟩
      rintro _ rfl
      rw [bI_or]
      refine next (by omega) trivial _ ?_
      rw [show cn (nI k + 1) = k + 1 by rw [zI_1, zI_add]; exact zI_nat (by omega)]
      rw [show cn (G 1 3) - k = (cn (G 1 3) - (k + 1)) + 1 by omega] at hb
      simp only [zany] at hb
      rw [Bool.or_assoc]
      exact hb
  have := zup (L := fun m k => ∀ b, post (bI ((b || zany (sShut G hall s e) (cn k) (cn (G 8 3) - cn k)) || zany (sWeek G s e) 0 (cn (G 1 3)))) → wX_X1_isClosedIn_l6 post x hall s e S m (bI b) k) (cn (G 8 3)) (by omega) (fun _ => True) ?_ 0 (Nat.zero_le _) trivial
  · obtain ⟨m, hm⟩ := this
    exact ⟨m, hm false (by simpa [show cn (nI 0) = 0 from rfl] using h)⟩
  intro m k hk _ next b hb
  rw [show cn (nI k) = k from zI_nat (by omega)] at hb
  refine ⟨P.T.d, st, P.T.st, P.V.d, ?_⟩
  rw [P.V.cl, cn_nI hN.s.1, zI_le (by omega) (by omega)]
  refine ⟨fun q1 => ?_, fun q1 => ?_⟩
  · rw [show cn (G 8 3) - k = 0 by omega] at hb
    simp only [zany, Bool.or_false] at hb
    exact second b hb
  · obtain ⟨a, a1, a2, a3, a4, a5, a6⟩ := P.V.s
    obtain ⟨o, o1, o2⟩ := a5 k (by omega)
    refine ⟨a, a1, a2, zI_in' (by omega) (by omega), o, by rw [zI_nat (by omega)]; exact o1, .inl ⟨o2.d, ?_⟩⟩
    refine x_shut o2 ⟨bI_01 _, ?_⟩
    rintro _ rfl
    rw [bI_or]
    refine next (by omega) trivial _ ?_
    rw [show cn (nI k + 1) = k + 1 by rw [zI_1, zI_add]; exact zI_nat (by omega)]
    rw [show cn (G 8 3) - k = (cn (G 8 3) - (k + 1)) + 1 by omega] at hb
    simp only [zany] at hb
    rw [Bool.or_assoc b]
    exact hb
theorem x_kind {k : Nat} {post : Nat → Prop} {l : Nat} (P : xPl ke S c x su st gr q G bk) (hl : hR S 101 su = some l) (hk : k < cn (G 1 2)) (h : ∀ a, hD S 7 a → c a = 0 → hI S 700 a = G 1 (32 + k) → hI S 701 a = G 1 (38 + k) → hI S 702 a = G 1 (44 + k) → post a) : wX_J2_get post l (nI k) S := by
  obtain ⟨l', f, h1, h2, h3⟩ := P.U.k
  rw [hl] at h1; cases h1
  obtain ⟨a1, a2, a3, a4, a5⟩ := h3 k hk
  exact w_get h2 hk (h _ a1 a2 a3 a4 a5)
theorem x_mostHeld {k : Nat} {y z : Int32} {post : Int32 → HS → Prop} (P : xPl ke S c x su st gr q G bk) (hF : zFx (G 1)) (hN : zNw (G 1) (G 8)) (hk : k < cn (G 1 2)) (hS : zSpan y z) (h : ∀ g, post (sPeak G k y z) (sG S gr g)) : wX_X1_mostHeld post x (nI k) y z S := by
  have lk := cn_le (n := 6) hF.k.2
  have lb := cn_le (n := 60) hN.b.2
  obtain ⟨lk', fk, hk1, hk2, hk3⟩ := P.U.k
  refine ⟨P.T.d, su, P.T.su, P.U.d, lk', hk1, hk2.d, x_kind P hk1 hk (fun a a1 a2 a3 a4 a5 => ⟨a1, ?_⟩)⟩
  rintro _ rfl _ rfl
  rw [a5]
  obtain ⟨s1, s2, s3, s4⟩ := z_span hS hS.2.1 (Int.le_refl _)
  have sN : ((z - y) / 15) = nI (cn ((z - y) / 15)) := cn_nI (z_in.mp s4).1
  have hle := hF.le k hk
  have ck1 : ∀ k, k < 2147483647 → cn (nI k) = k := fun k hk => zI_nat (by omega)
  -- the scan
  have scan : ∀ g, (∀ i, i ≤ cn ((z - y) / 15) → g i = zf (sGrid G k y z) 0 (cn (G 8 1)) (fun _ => 0) i) → ∃ n, wX_X1_mostHeld_l189 post x (nI k) y z n ((z - y) / 15) 0 0 0 (sG S gr g) := by
    intro g hg
    refine sScan_go (g := g) (n := cn ((z - y) / 15)) (L := fun m a b d => wX_X1_mostHeld_l189 post x (nI k) y z m ((z - y) / 15) a b d (sG S gr g)) (post := fun r => post r (sG S gr g)) (by omega) ?_ ?_
    · intro m j a b hj p1 p2
      simp only [wX_X1_mostHeld_l189, wX_X1_mostHeld_b189]
      rw [sN, zI_le (by omega) (by omega), zI_nat (show j < 2147483648 by omega), ← sN]
      refine ⟨fun e => p1 (by omega), fun e => ⟨P.T.d, gr, P.T.g, P.T.gd, zI_in' (by omega) (by show j < hL S gr; rw [P.T.gl]; omega), ?_⟩⟩
      rintro _ rfl _ rfl
      rw [sG_A]
      exact p2 (by omega)
    · rw [sScan_congr (g' := zf (sGrid G k y z) 0 (cn (G 8 1)) (fun _ => 0)) (fun i hi => hg i (by omega))]
      exact h g
  -- the bookings
  have book : ∀ g, (∀ i, i ≤ cn ((z - y) / 15) → g i = 0) → ∃ n, wX_X1_mostHeld_l56 post x (nI k) y z n (G 1 (44 + k)) ((z - y) / 15) 0 (sG S gr g) := by
    intro g0 hg0
    refine zloop (σ := Nat × (Nat → Int32)) (fun m s => wX_X1_mostHeld_l56 post x (nI k) y z m (G 1 (44 + k)) ((z - y) / 15) (nI s.1) (sG S gr s.2)) (fun s => s.1 ≤ cn (G 8 1) ∧ ∀ i, i ≤ cn ((z - y) / 15) → s.2 i = zf (sGrid G k y z) 0 s.1 (fun _ => 0) i) (fun s => cn (G 8 1) - s.1) ?_ (0, g0) ⟨Nat.zero_le _, hg0⟩
    rintro m ⟨j, g⟩ ⟨hj, hg⟩ next
    dsimp only at hj hg next ⊢
    have nx : ∀ g', (∀ i, i ≤ cn ((z - y) / 15) → g' i = zf (sGrid G k y z) 0 (j + 1) (fun _ => 0) i) → j < cn (G 8 1) → wX_X1_mostHeld_l56 post x (nI k) y z m (G 1 (44 + k)) ((z - y) / 15) (nI j + 1) (sG S gr g') := fun g' hg' hlt => by rw [zI_1, zI_add]; exact next (j + 1, g') ⟨by dsimp only; omega, hg'⟩ (by dsimp only; omega)
    have P1 : xPl ke (sG S gr g) c x su st gr q G bk := P.sG
    obtain ⟨l, b1, b2⟩ := P1.V.b
    refine ⟨P1.T.d, st, P1.T.st, P1.V.d, l, b1, b2.d, x_size b2 ?_⟩
    rw [zI_le (by omega) (by omega)]
    refine ⟨fun e => ?_, fun e => ?_⟩
    · have : j = cn (G 8 1) := by omega
      subst this
      exact scan g hg
    · have hj' : j < cn (G 8 1) := by omega
      have B := P1.V.bb j hj'
      refine x_booking P1 hj' ⟨B.d, ?_⟩
      rintro _ rfl
      have w2 : hI (sG S gr g) 802 (bk j) = gB G j 10 := B.st
      rw [w2]
      refine x_end P1 hj' ?_
      rintro _ rfl
      obtain ⟨hs1, hs2, -⟩ : zSt (gB G j 10) := hN.bs j (by omega)
      obtain ⟨hd1, hd2, -⟩ : 15 ≤ (gB G j 2).toInt ∧ (gB G j 2).toInt ≤ 1440 ∧ (gB G j 2).toInt % 15 = 0 := (hN.be j (by omega)).du
      obtain ⟨hl1, hl2, -⟩ := hle
      have q1 : (gB G j 10 - G 1 (44 + k)).toInt = (gB G j 10).toInt - (G 1 (44 + k)).toInt := z_sub (by omega) (by omega)
      have q2 : (sEnd G j).toInt = (gB G j 10).toInt + (gB G j 2).toInt := z_add (by omega) (by omega)
      have q3 : (sEnd G j + G 1 (44 + k)).toInt = (gB G j 10).toInt + (gB G j 2).toInt + (G 1 (44 + k)).toInt := by
        rw [z_add (by omega) (by omega), q2]
      have key : ∀ i, zf (sGrid G k y z) 0 (j + 1) (fun _ => 0) i = sGrid G k y z j (zf (sGrid G k y z) 0 j (fun _ => 0)) i := by
        intro i; rw [zf_succ]; simp
      refine x_counts P1 hN hj' ⟨fun e2 => nx g (fun i hi => ?_) (by omega), fun e2 => ⟨fun e1 => nx g (fun i hi => ?_) (by omega), fun e1 => ?_⟩⟩
      · rw [key, hg i hi]
        have e2' : sCounts G j = false := (bI_0 _).mp e2
        simp only [sGrid, e2', Bool.and_false]
        rfl
      · rw [key, hg i hi]
        have e1' : ¬ imax y (gB G j 10 - G 1 (44 + k)) < imin z (sEnd G j + G 1 (44 + k)) := Int32.not_lt.mpr e1
        simp only [sGrid, e1', decide_false, Bool.false_and]
        rfl
      · have e1' : imax y (gB G j 10 - G 1 (44 + k)) < imin z (sEnd G j + G 1 (44 + k)) := Int32.not_le.mp e1
        have e2' : sCounts G j = true := by
          simp only [bI_0, Bool.not_eq_false] at e2
          exact e2
        obtain ⟨c1', c2', c3', c4'⟩ := z_xy hS (by rw [q1]; omega) (by rw [q3]; omega) e1'
        obtain ⟨-, d1, -, d2⟩ := z_span hS c1' c2'
        obtain ⟨-, d3, -, d4⟩ := z_span hS c3' c4'
        obtain ⟨e, v1, v2⟩ := B.ev
        obtain ⟨nn, n1, n2, n3, n4, n5⟩ := v2.ne
        have gn : nn ≠ gr := fun z => by rw [z, P.T.gc] at n3; cases n3
        have hne : hA (sG S gr g) nn k = gB G j (3 + k) := n5 k (by omega)
        have hne' : ∀ g', hA (sG S gr g') nn k = gB G j (3 + k) := fun g' => by rw [sG_ne gn] at hne ⊢; exact hne
        have ckk := ck1 k (by omega)
        have gl : ∀ g', hL (sG S gr g') gr = 129 := fun _ => P.T.gl
        refine ⟨gr, P.T.g, P.T.gd, by rw [gl]; exact d2, e, v1, v2.d, nn, n1, n2, zI_in' (by omega) (by rw [n4]; omega), by rw [gl]; exact d2, ?_⟩
        rintro _ rfl
        rw [sA_sG]
        refine ⟨gr, P.T.g, P.T.gd, by rw [gl]; exact d4, e, v1, v2.d, nn, n1, n2, zI_in' (by omega) (by show k < hL S nn; rw [show hL S nn = 6 from n4]; omega), by rw [gl]; exact d4, ?_⟩
        rintro _ rfl
        rw [sA_sG]
        refine nx _ (fun i hi => ?_) (by omega)
        rw [key]
        have f1 : g (cn ((imax y (gB G j 10 - G 1 (44 + k)) - y) / 15)) = _ := hg _ d1
        have f3 : g (cn ((imin z (sEnd G j + G 1 (44 + k)) - y) / 15)) = _ := hg _ d3
        have hn2 : ∀ g', hA (sG S gr g') nn (nI k).toNatClampNeg = gB G j (3 + k) := fun g' => (congrArg (hA (sG S gr g') nn) ckk).trans (hne' _)
        simp only [sG_A, hn2]
        simp only [sGrid, e1', e2', decide_true, Bool.and_true, if_true]
        simp only [upd, f1, f3, hg i hi]
  refine zloop (σ := Nat × (Nat → Int32)) (fun m s => wX_X1_mostHeld_l32 post x (nI k) y z m (G 1 (44 + k)) ((z - y) / 15) (nI s.1) (sG S gr s.2)) (fun s => s.1 ≤ cn ((z - y) / 15) + 1 ∧ ∀ i, i < s.1 → s.2 i = 0) (fun s => cn ((z - y) / 15) + 1 - s.1) ?_ (0, hA S gr) ⟨Nat.zero_le _, fun i hi => absurd hi (Nat.not_lt_zero _)⟩ |> fun ⟨m, hm⟩ => ⟨m, by rw [sG_self] at hm; exact hm⟩
  rintro m ⟨j, g⟩ ⟨hj, hg⟩ next
  dsimp only at hj hg next ⊢
  simp only [wX_X1_mostHeld_l32, wX_X1_mostHeld_b32]
  rw [sN, zI_lt (by omega) (by omega), zI_nat (show j < 2147483648 by omega), ← sN]
  refine ⟨fun e => book g (fun i hi => hg i (by omega)), fun e => ⟨P.T.d, gr, P.T.g, P.T.gd, zI_in' (by omega) (by show j < hL S gr; rw [P.T.gl]; omega), ?_⟩⟩
  rintro _ rfl
  rw [sA_sG, zI_1, zI_add]
  refine next (j + 1, upd g j 0) ⟨by dsimp only; omega, fun i hi => ?_⟩ (by dsimp only; omega)
  simp only [upd]
  split
  · rfl
  · exact hg i (by omega)
end
