/-! PLAIN LAWS, x6: questions, one: counts, setup, draft -/
abbrev zOK (G : MG) : Prop := (zFx (G 1)) ∧ (zNw (G 1) (G 8)) ∧ (zEv (G 6)) ∧ (∀ i, i < 60 → G 19 i = 0)
theorem zOK.F {G : MG} (h : zOK G) : zFx (G 1) := h.1
theorem zOK.N {G : MG} (h : zOK G) : zNw (G 1) (G 8) := h.2.1
theorem zOK.D {G : MG} (h : zOK G) : zEv (G 6) := h.2.2.1
theorem zOK.out {G : MG} (h : zOK G) : ∀ i, i < 60 → G 19 i = 0 := h.2.2.2
theorem xRX.ok {ke : Nat} {S : HS} {c : HC} {x : Nat} {ad qs : Nat → Nat} {bks : Nat → Nat → Nat} {F : MF} {G : MG} (R : xRX ke S c x ad qs bks F G) : zOK G := ⟨R.F, R.N, R.D, R.out⟩
theorem z_up {F : MF} {G G1 : MG} {v : Int32} (h : zOK G) (e : ∀ k, k ≠ 7 → k ≠ 20 → G1 k = G k) : zSame F G (upd F 0 v) G1 :=
  ⟨rfl, rfl, rfl, e 1 (by decide) (by decide), e 6 (by decide) (by decide), e 8 (by decide) (by decide), e 9 (by decide) (by decide), e 10 (by decide) (by decide), e 13 (by decide) (by decide), by rw [e 19 (by decide) (by decide)]; exact h.out⟩
theorem z_up0 {F : MF} {G : MG} {v : Int32} (h : zOK G) : zSame F G (upd F 0 v) G := z_up h (fun _ _ _ => rfl)
theorem upd0 (F : MF) (v : Int32) : upd F 0 v 0 = v := rfl
theorem m_fails {F : MF} {G : MG} {k : Nat} {post : Int32 → MF → MG → Prop} (h : zOK G) (p : mAns F G (k, 0) post) {v : Int32} : wM_fails post (nI k) (upd F 0 v) G := by
  rintro _ rfl
  refine p _ _ rfl ?_
  exact ⟨rfl, rfl, rfl, rfl, rfl, rfl, rfl, rfl, rfl, h.out⟩
theorem upd_upd (F : MF) (k : Nat) (v w : Int32) : upd (upd F k v) k w = upd F k w := by
  funext j
  simp only [upd]
  split <;> rfl
section
variable {F : MF} {G : MG} {post : Int32 → MF → MG → Prop}
theorem M_now (h : zOK G) (p : mAns F G (0, G 8 0) post) : wM_now post F G := by
  rintro _ rfl
  exact p _ _ rfl (z_up0 h)
theorem M_bookingCount (h : zOK G) (p : mAns F G (0, G 8 1) post) : wM_bookingCount post F G := by
  rintro _ rfl
  exact p _ _ rfl (z_up0 h)
theorem M_requestCount (h : zOK G) (p : mAns F G (0, G 8 2) post) : wM_requestCount post F G := by
  rintro _ rfl
  exact p _ _ rfl (z_up0 h)
theorem M_undoCount (h : zOK G) (p : mAns F G (0, F 11) post) : wM_undoCount post F G := by
  rintro _ rfl
  exact p _ _ rfl (z_up0 h)
def oSetup (G : MG) (w : Int32) : ZQ := if w = 0 then (0, G 1 0) else if w = 1 then (0, G 1 1) else if w = 2 then (0, G 1 2) else if w = 3 then (0, G 8 3) else if w = 4 then (0, G 1 3) else if w = 5 then (0, G 1 4) else if w = 6 then (0, G 1 5) else (1, 0)
theorem M_setup {w : Int32} (h : zOK G) (p : mAns F G (oSetup G w) post) : wM_setup post w F G := by
  rintro _ rfl
  have z := z_up0 (F := F) (v := 0) h
  refine ⟨fun e0 => ?_, fun e0 => ⟨fun e1 => ?_, fun e1 => ⟨fun e2 => ?_, fun e2 => ⟨fun e3 => ?_, fun e3 => ⟨fun e4 => ?_, fun e4 => ⟨fun e5 => ?_, fun e5 => ⟨fun e6 => ?_, fun e6 => ?_⟩⟩⟩⟩⟩⟩⟩
  · rw [oSetup, if_pos e0] at p; exact p _ _ rfl z
  · rw [oSetup, if_neg e0, if_pos e1] at p; exact p _ _ rfl z
  · rw [oSetup, if_neg e0, if_neg e1, if_pos e2] at p; exact p _ _ rfl z
  · rw [oSetup, if_neg e0, if_neg e1, if_neg e2, if_pos e3] at p; exact p _ _ rfl z
  · rw [oSetup, if_neg e0, if_neg e1, if_neg e2, if_neg e3, if_pos e4] at p; exact p _ _ rfl z
  · rw [oSetup, if_neg e0, if_neg e1, if_neg e2, if_neg e3, if_neg e4, if_pos e5] at p; exact p _ _ rfl z
  · rw [oSetup, if_neg e0, if_neg e1, if_neg e2, if_neg e3, if_neg e4, if_neg e5, if_pos e6] at p; exact p _ _ rfl z
  · rw [oSetup, if_neg e0, if_neg e1, if_neg e2, if_neg e3, if_neg e4, if_neg e5, if_neg e6] at p; exact m_fails (k := 1) h p
def oSetupTime (G : MG) (a b : Int32) : ZQ := if sType G a = false then (1, 0) else if sType G b = false then (1, 0) else (0, sBetw G a b)
theorem sType_lt {a : Int32} (hF : zFx (G 1)) (h : sType G a = true) : 0 ≤ a.toInt ∧ a.toInt < 6 := by
  have := sIn_iff.mp h
  have := hF.t
  omega
theorem M_setupTime {a b : Int32} (h : zOK G) (p : mAns F G (oSetupTime G a b) post) : wM_setupTime post a b F G := by
  rintro _ rfl
  refine m_isType h.F ⟨fun e => ?_, fun e => m_isType h.F ⟨fun e2 => ?_, fun e2 => ?_⟩⟩ <;> simp only [bI_0, Bool.not_eq_false] at e
  · rw [oSetupTime, if_pos e] at p; exact m_fails (k := 1) h p
  · simp only [bI_0] at e2
    rw [oSetupTime, if_neg (by rw [e]; decide), if_pos e2] at p; exact m_fails (k := 1) h p
  · simp only [bI_0, Bool.not_eq_false] at e2
    rw [oSetupTime, if_neg (by rw [e]; decide), if_neg (by rw [e2]; decide)] at p
    exact m_between (sType_lt h.F e) (sType_lt h.F e2) (p _ _ rfl (z_up0 h))
/-- why nothing can be asked of a hall and a start -/
def sSlot (G : MG) (h s : Int32) : Nat := if sHall G h = false then 1 else if sStart s = false then 2 else 0
theorem m_whyNotSlot {hall s : Int32} {post : Int32 → Prop} (hF : zFx (G 1)) (p : post (nI (sSlot G hall s))) : wM_whyNotSlot post hall s F G := by
  unfold wM_whyNotSlot
  refine m_isHall hF ⟨fun e => ?_, fun e => m_isStart ⟨fun e2 => ?_, fun e2 => ?_⟩⟩ <;> simp only [bI_0, Bool.not_eq_false] at e
  · rw [sSlot, if_pos e] at p; exact p
  · simp only [bI_0] at e2
    rw [sSlot, if_neg (by rw [e]; decide), if_pos e2] at p; exact p
  · simp only [bI_0, Bool.not_eq_false] at e2
    rw [sSlot, if_neg (by rw [e]; decide), if_neg (by rw [e2]; decide)] at p; exact p
def sDraft (G : MG) (h s : Int32) : Nat := if sSlot G h s = 0 then (if G 1 1 = 0 then 3 else 0) else sSlot G h s
theorem sSlot_le (G : MG) (h s : Int32) : sSlot G h s ≤ 2 := by unfold sSlot; split <;> (try split) <;> omega
theorem m_whyNotDraft {hall s : Int32} {post : Int32 → Prop} (hF : zFx (G 1)) (p : post (nI (sDraft G hall s))) : wM_whyNotDraft post hall s F G := by
  have l := sSlot_le G hall s
  refine m_whyNotSlot hF ⟨fun e => ⟨fun e2 => ?_, fun e2 => ?_⟩, fun e => ?_⟩
  · rw [zI_0, zI_inj (by omega) (by omega)] at e
    rw [sDraft, if_pos e, if_pos e2] at p; exact p
  · rw [zI_0, zI_inj (by omega) (by omega)] at e
    rw [sDraft, if_pos e, if_neg e2] at p; rw [e]; exact p
  · rw [zI_0, zI_inj (by omega) (by omega)] at e
    rw [sDraft, if_neg e] at p; exact p
theorem sSlot_0 {h s : Int32} : sSlot G h s = 0 ↔ sHall G h = true ∧ sStart s = true := by
  unfold sSlot
  by_cases a : sHall G h = true <;> by_cases b : sStart s = true <;> simp [a, b]
theorem sHall_iff {h : Int32} : sHall G h = true ↔ 0 ≤ h.toInt ∧ h.toInt < (G 1 0).toInt := by
  rw [sHall, sIn_iff]; omega
/-- a code above nought -/
theorem zI_pos {k : Nat} (hk : k < 100) : nI k ≤ 0 ↔ k = 0 := by
  rw [zI_0, zI_le (by omega) (by omega)]; omega
def oProblem (G : MG) (h s : Int32) : ZQ := if sDraft G h s = 0 then (0, sDraftProb G h s) else (sDraft G h s, 0)
theorem sDraft_le (G : MG) (h s : Int32) : sDraft G h s ≤ 3 := by
  have := sSlot_le G h s
  unfold sDraft; split <;> (try split) <;> omega
theorem sDraft_0 {h s : Int32} : sDraft G h s = 0 ↔ (sHall G h = true ∧ sStart s = true) ∧ G 1 1 ≠ 0 := by
  rw [← sSlot_0, sDraft]
  by_cases a : sSlot G h s = 0 <;> by_cases b : G 1 1 = 0 <;> simp [a, b]
theorem M_problem {hall s : Int32} (h : zOK G) (p : mAns F G (oProblem G hall s) post) : wM_problem post hall s F G := by
  have l := sDraft_le G hall s
  refine m_whyNotDraft h.F ?_
  rintro _ rfl
  rw [upd0, zI_pos (by omega)]
  refine ⟨fun e => ?_, fun e => ?_⟩
  · rw [oProblem, if_pos e] at p
    obtain ⟨⟨a, b⟩, -⟩ := sDraft_0.mp e
    refine m_draftProblem h.F h.N h.D (sHall_iff.mp a) (sStart_iff.mp b) (fun G1 hG => p _ _ ?_ (z_up h hG))
    show nI (sDraft G hall s) = nI 0
    rw [e]
  · rw [oProblem, if_neg e] at p
    exact p _ _ rfl (z_up0 h)
end
/-! the plan -/
section
variable {ke : Nat} {S : HS} {c : HC} {x : Nat} {ad qs : Nat → Nat} {bks : Nat → Nat → Nat} {F : MF} {G : MG} {px : String → Nat → HS → Prop} {mc ms : Nat}
theorem X_now {post : Int32 → Prop} (R : xRX ke S c x ad qs bks F G) (p : post (G 8 0)) : wX_X1_now post x S :=
  ⟨R.P.T.d, _, R.P.T.st, R.P.V.d, by rw [R.P.V.no]; exact p⟩
theorem X_bookingCount {post : Int32 → Prop} (R : xRX ke S c x ad qs bks F G) (p : post (G 8 1)) : wX_X1_bookingCount post x S := by
  obtain ⟨l, h1, h2⟩ := R.P.V.b
  rw [cn_nI R.N.b.1] at p
  exact ⟨R.P.T.d, _, R.P.T.st, R.P.V.d, l, h1, h2.d, x_size h2 p⟩
theorem X_requestCount {post : Int32 → Prop} (R : xRX ke S c x ad qs bks F G) (p : post (G 8 2)) : wX_X1_requestCount post x S := by
  obtain ⟨l, f, h1, h2, -⟩ := R.P.V.r
  rw [cn_nI R.N.r.1] at p
  exact ⟨R.P.T.d, _, R.P.T.st, R.P.V.d, l, h1, h2.d, x_size h2 p⟩
theorem x_dsize {post : Int32 → Prop} {d n : Nat} {el : Nat → Nat} (H : xDq S c d n el) (p : post (nI n)) : wX_J3_size post d S := by
  obtain ⟨a, q, h1, h2, h3, h4, h5, h6, h7, h8, h9⟩ := H.a
  have le := H.le
  refine ⟨H.d, a, h1, h2, ?_⟩
  rw [h7, h8, h4]
  rintro _ rfl
  by_cases w : q + n < 17
  · have e : (q + n) % 17 = q + n := Nat.mod_eq_of_lt w
    rw [e, zI_sub (by omega), show q + n - q = n by omega]
    refine ⟨fun _ => p, fun z => absurd ?_ z⟩
    rw [zI_0, zI_le (by omega) (by omega)]; omega
  · have e : (q + n) % 17 = q + n - 17 := by omega
    have v : (nI (q + n - 17) - nI q).toInt = (n : Int) - 17 := by
      rw [z_sub] <;> rw [zI_toInt (by omega), zI_toInt (by omega)] <;> omega
    rw [e]
    refine ⟨fun z => ?_, fun z => ?_⟩
    · rw [z_le, v] at z
      have : (0 : Int32).toInt = 0 := rfl
      omega
    · rintro _ rfl
      have : nI (q + n - 17) - nI q + nI 17 = nI n := by
        rw [← Int32.toInt_inj, z_add] <;> rw [v, zI_toInt (by omega)] <;> (try rw [zI_toInt (by omega)]) <;> omega
      rw [this]
      exact p
theorem X_undoCount {post : Int32 → Prop} (R : xRX ke S c x ad qs bks F G) (p : post (F 11)) : wX_X1_undoCount post x S := by
  obtain ⟨h, e, h1, h2, -⟩ := R.hi
  rw [e] at p
  exact ⟨R.P.T.d, _, h1, h2.d, x_dsize h2 p⟩
theorem X_setup {w : Int32} {post : Int32 → Prop} (R : xRX ke S c x ad qs bks F G) (p : xAns ke x S (oSetup G w) (fun _ => "java/lang/IllegalArgumentException") post px) (hc : 1 ≤ mc) (hs : 6 ≤ ms) : wX_X1_setup post px mc ms x w S := by
  unfold wX_X1_setup
  refine x_in ⟨hc, hs, x_needValue (fun e => ?_) (fun e q _ => ?_) (by decide) (by decide)⟩
  · have P := R.P
    have v := sIn_iff.mp e
    obtain ⟨lh, fh, h1, h2, -⟩ := P.U.h
    obtain ⟨lk, fk, k1, k2, -⟩ := P.U.k
    have ne : ∀ a : Int32, w ≠ a → w.toInt ≠ a.toInt := fun a h q => h (Int32.toInt_inj.mp q)
    have g0 := cn_nI R.F.h.1
    have g2 := cn_nI R.F.k.1
    refine ⟨fun e0 => ?_, fun e0 => ⟨fun e1 => ?_, fun e1 => ⟨fun e2 => ?_, fun e2 => ⟨fun e3 => ?_, fun e3 => ⟨fun e4 => ?_, fun e4 => ⟨fun e5 => ?_, fun e5 => ?_⟩⟩⟩⟩⟩⟩
    · rw [oSetup, if_pos e0] at p; exact ⟨P.T.d, _, P.T.su, P.U.d, lh, h1, h2.d, x_size h2 (by rw [← g0]; exact p.1 rfl)⟩
    · rw [oSetup, if_neg e0, if_pos e1] at p; exact ⟨P.T.d, _, P.T.su, P.U.d, by rw [P.U.ty]; exact p.1 rfl⟩
    · rw [oSetup, if_neg e0, if_neg e1, if_pos e2] at p; exact ⟨P.T.d, _, P.T.su, P.U.d, lk, k1, k2.d, x_size k2 (by rw [← g2]; exact p.1 rfl)⟩
    · rw [oSetup, if_neg e0, if_neg e1, if_neg e2, if_pos e3] at p; exact ⟨P.T.d, _, P.T.st, P.V.d, by rw [P.V.cl]; exact p.1 rfl⟩
    · rw [oSetup, if_neg e0, if_neg e1, if_neg e2, if_neg e3, if_pos e4] at p; exact ⟨P.T.d, _, P.T.su, P.U.d, by rw [P.U.wn]; exact p.1 rfl⟩
    · rw [oSetup, if_neg e0, if_neg e1, if_neg e2, if_neg e3, if_neg e4, if_pos e5] at p; exact ⟨P.T.d, _, P.T.su, P.U.d, by rw [P.U.fn]; exact p.1 rfl⟩
    · have e6 : w = 6 := by
        have n0 := ne 0 e0
        have n1 := ne 1 e1
        have n2 := ne 2 e2
        have n3 := ne 3 e3
        have n4 := ne 4 e4
        have n5 := ne 5 e5
        rw [← Int32.toInt_inj]
        simp only [show (0 : Int32).toInt = 0 from rfl, show (1 : Int32).toInt = 1 from rfl, show (2 : Int32).toInt = 2 from rfl, show (3 : Int32).toInt = 3 from rfl, show (4 : Int32).toInt = 4 from rfl, show (5 : Int32).toInt = 5 from rfl, show (6 : Int32).toInt = 6 from rfl] at *
        omega
      rw [oSetup, if_neg e0, if_neg e1, if_neg e2, if_neg e3, if_neg e4, if_neg e5, if_pos e6] at p
      exact ⟨P.T.d, _, P.T.su, P.U.d, by rw [P.U.we]; exact p.1 rfl⟩
  · have o : oSetup G w = (1, 0) := by
      have v : ¬ (0 ≤ w.toInt ∧ w.toInt ≤ 6) := fun z => by
        have e' : sIn w.toInt 0 6 = false := e
        rw [sIn_iff.mpr z] at e'
        cases e'
      have ne : ∀ a : Int32, 0 ≤ a.toInt → a.toInt ≤ 6 → w ≠ a := fun a h1 h2 q => v (by rw [q]; exact ⟨h1, h2⟩)
      rw [oSetup, if_neg (ne 0 (by decide) (by decide)), if_neg (ne 1 (by decide) (by decide)), if_neg (ne 2 (by decide) (by decide)), if_neg (ne 3 (by decide) (by decide)), if_neg (ne 4 (by decide) (by decide)), if_neg (ne 5 (by decide) (by decide)), if_neg (ne 6 (by decide) (by decide))]
    rw [o] at p
    exact p.2 (by decide) q
theorem X_setupTime {a b : Int32} {post : Int32 → Prop} (R : xRX ke S c x ad qs bks F G) (p : xAns ke x S (oSetupTime G a b) (fun _ => "java/lang/IndexOutOfBoundsException") post px) (hc : 1 ≤ mc) (hs : 6 ≤ ms) : wX_X1_setupTime post px mc ms x a b S := by
  have P := R.P
  refine ⟨P.T.d, x_isType P R.F ⟨fun e => ⟨hc, hs, x_needIndex (p := false) (fun z => by cases z) (fun _ q _ => ?_) (by decide) (by decide)⟩, fun e => x_isType P R.F ⟨fun e2 => ⟨hc, hs, x_needIndex (p := false) (fun z => by cases z) (fun _ q _ => ?_) (by decide) (by decide)⟩, fun e2 => ⟨hc, hs, x_needIndex (p := true) (fun _ => ?_) (fun z => by cases z) (by decide) (by decide)⟩⟩⟩⟩ <;> simp only [bI_0, Bool.not_eq_false] at e
  · rw [oSetupTime, if_pos e] at p; exact p.2 (by decide) q
  · simp only [bI_0] at e2
    rw [oSetupTime, if_neg (by rw [e]; decide), if_pos e2] at p; exact p.2 (by decide) q
  · simp only [bI_0, Bool.not_eq_false] at e2
    rw [oSetupTime, if_neg (by rw [e]; decide), if_neg (by rw [e2]; decide)] at p
    obtain ⟨t, r, h1, h2, h3, h4, h5, h6, h7⟩ := x_between P (sType_lt R.F e) (sType_lt R.F e2)
    exact ⟨_, P.T.su, P.U.d, t, h1, h2, h3, r, h4, h5, h6, by rw [h7]; exact p.1 rfl⟩
end
