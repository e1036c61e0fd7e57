/-! PLAIN LAWS, x8: questions, three -/
section
variable {ke : Nat} {S : HS} {c : HC} {x : Nat} {ad qs : Nat → Nat} {bks : Nat → Nat → Nat} {F : MF} {G : MG} {px : String → Nat → HS → Prop} {mc ms : Nat}
theorem X_booking {b w : Int32} {post : Int32 → Prop} (R : xRX ke S c x ad qs bks F G) (p : xAns ke x S (oBooking G b w) cls3 post px) (hc : 2 ≤ mc) (hs : 12 ≤ ms) : wX_X1_booking_2 post px mc ms x b w S := by
  refine ⟨R.P.T.d, x_isBooking R.P R.N ⟨by omega, by omega, x_needIndex (fun e => x_in ⟨by omega, by omega, x_needValue (fun e2 => ?_) (fun e2 q _ => ?_) (by decide) (by decide)⟩) (fun e q _ => ?_) (by decide) (by decide)⟩⟩
  · rw [oBooking, if_neg (by rw [e]; decide)] at p
    obtain ⟨eb, lt⟩ := sBook_nI e
    rw [eb]
    generalize cn b = b at *
    have B := R.P.V.bb b lt
    have v := sIn_iff.mp e2
    have ne : ∀ a : Int32, w ≠ a → w.toInt ≠ a.toInt := fun a h q => h (Int32.toInt_inj.mp q)
    obtain ⟨e', v1, v2⟩ := B.ev
    refine x_booking R.P lt ⟨B.d, fun e0 => ?_, fun e0 => ⟨fun e1 => ?_, fun e1 => ⟨fun e2 => ?_, fun e2 => ⟨fun e3 => ?_, fun e3 => ⟨fun e4 => ?_, fun e4 => ⟨fun e5 => ?_, fun e5 => ⟨fun e6 => ?_, fun e6 => ?_⟩⟩⟩⟩⟩⟩⟩
    · rw [oPart, if_pos e0] at p; exact ⟨B.d, by rw [B.ha]; exact p.1 rfl⟩
    · rw [oPart, if_neg e0, if_pos e1] at p; exact ⟨B.d, by rw [B.st]; exact p.1 rfl⟩
    · rw [oPart, if_neg e0, if_neg e1, if_pos e2] at p; exact ⟨B.d, x_end R.P lt (p.1 rfl)⟩
    · rw [oPart, if_neg e0, if_neg e1, if_neg e2, if_pos e3] at p; exact ⟨B.d, e', v1, v2.d, by rw [v2.ty]; exact p.1 rfl⟩
    · rw [oPart, if_neg e0, if_neg e1, if_neg e2, if_neg e3, if_pos e4] at p; exact ⟨B.d, e', v1, v2.d, by rw [v2.gu]; exact p.1 rfl⟩
    · rw [oPart, if_neg e0, if_neg e1, if_neg e2, if_neg e3, if_neg e4, if_pos e5] at p; exact ⟨B.d, by rw [B.pr (R.q2 (by decide))]; exact p.1 rfl⟩
    · rw [oPart, if_neg e0, if_neg e1, if_neg e2, if_neg e3, if_neg e4, if_neg e5, if_pos e6] at p
      have a1 : hI S 805 (bks 0 b) = gB G b 11 := B.ac
      rw [a1]
      refine ⟨B.d, fun z => ?_, fun z => ?_⟩
      · rw [z] at p; exact p.1 rfl
      · have z1 : gB G b 11 = 1 := (R.N.ba b lt).resolve_left z
        rw [z1] at p; exact p.1 rfl
    · have e7 : w = 7 := by
        have n0 := ne 0 e0
        have n1 := ne 1 e1
        have n2 := ne 2 e2
        have n3 := ne 3 e3
        have n4 := ne 4 e4
        have n5 := ne 5 e5
        have n6 := ne 6 e6
        rw [← Int32.toInt_inj]
        simp only [show (0 : Int32).toInt = 0 from rfl, show (1 : Int32).toInt = 1 from rfl, show (2 : Int32).toInt = 2 from rfl, show (3 : Int32).toInt = 3 from rfl, show (4 : Int32).toInt = 4 from rfl, show (5 : Int32).toInt = 5 from rfl, show (6 : Int32).toInt = 6 from rfl, show (7 : Int32).toInt = 7 from rfl] at *
        omega
      rw [oPart, if_neg e0, if_neg e1, if_neg e2, if_neg e3, if_neg e4, if_neg e5, if_neg e6, if_pos e7] at p
      exact ⟨B.d, by rw [B.fe]; exact p.1 rfl⟩
  · rw [oBooking, if_neg (by rw [e]; decide)] at p
    have o : oPart G (cn b) w = (2, 0) := by
      have v : ¬ (0 ≤ w.toInt ∧ w.toInt ≤ 7) := fun z => by
        have e' : sIn w.toInt 0 7 = false := e2
        rw [sIn_iff.mpr z] at e'
        cases e'
      have ne : ∀ a : Int32, 0 ≤ a.toInt → a.toInt ≤ 7 → w ≠ a := fun a h1 h2 q => v (by rw [q]; exact ⟨h1, h2⟩)
      rw [oPart, if_neg (ne 0 (by decide) (by decide)), if_neg (ne 1 (by decide) (by decide)), if_neg (ne 2 (by decide) (by decide)), if_neg (ne 3 (by decide) (by decide)), if_neg (ne 4 (by decide) (by decide)), if_neg (ne 5 (by decide) (by decide)), if_neg (ne 6 (by decide) (by decide)), if_neg (ne 7 (by decide) (by decide))]
    rw [o] at p
    exact p.2 (by decide) q
  · rw [oBooking, if_pos e] at p; exact p.2 (by decide) q
theorem X_bookedNeed {b k : Int32} {post : Int32 → Prop} (R : xRX ke S c x ad qs bks F G) (p : xAns ke x S (oBookedNeed G b k) cls3 post px) (hc : 1 ≤ mc) (hs : 6 ≤ ms) : wX_X1_bookedNeed post px mc ms x b k S := by
  refine ⟨R.P.T.d, x_isBooking R.P R.N ⟨fun e => ⟨hc, hs, x_needIndex (p := false) (fun z => by cases z) (fun _ q _ => ?_) (by decide) (by decide)⟩, fun e => x_isKind R.P R.F ⟨fun e2 => ⟨hc, hs, x_needIndex (p := false) (fun z => by cases z) (fun _ q _ => ?_) (by decide) (by decide)⟩, fun e2 => ⟨hc, hs, x_needIndex (p := true) (fun _ => ?_) (fun z => by cases z) (by decide) (by decide)⟩⟩⟩⟩ <;> simp only [bI_0, Bool.not_eq_false] at e
  · rw [oBookedNeed, if_pos e] at p; exact p.2 (by decide) q
  · simp only [bI_0] at e2
    rw [oBookedNeed, if_neg (by rw [e]; decide), if_pos e2] at p; exact p.2 (by decide) q
  · simp only [bI_0, Bool.not_eq_false] at e2
    rw [oBookedNeed, if_neg (by rw [e]; decide), if_neg (by rw [e2]; decide)] at p
    obtain ⟨eb, lt⟩ := sBook_nI e
    obtain ⟨ek, lk, lk6⟩ := sKind_nI R.F e2
    rw [eb, ek]
    have B := R.P.V.bb (cn b) lt
    obtain ⟨e', v1, v2⟩ := B.ev
    obtain ⟨n, n1, n2, n3, n4, n5⟩ := v2.ne
    refine x_booking R.P lt ⟨B.d, e', v1, v2.d, n, n1, n2, zI_in' (by omega) (by rw [n4]; exact lk6), ?_⟩
    rw [zI_nat (by omega), n5 _ lk6]
    exact p.1 rfl
theorem X_request {k w : Int32} {post : Int32 → Prop} (R : xRX ke S c x ad qs bks F G) (p : xAns ke x S (oRequest G k w) cls3 post px) (hc : 2 ≤ mc) (hs : 12 ≤ ms) : wX_X1_request post px mc ms x k w S := by
  obtain ⟨l, rq, l1, l2, l3⟩ := R.P.V.r
  refine ⟨R.P.T.d, _, R.P.T.st, R.P.V.d, l, l1, l2.d, x_size l2 (x_in ?_)⟩
  rw [nI_pre (cn_lt _), cn_int R.N.r.1]
  refine ⟨by omega, by omega, x_needIndex (fun e => x_in ⟨by omega, by omega, x_needValue (fun e2 => ?_) (fun e2 q _ => ?_) (by decide) (by decide)⟩) (fun e q _ => ?_) (by decide) (by decide)⟩
  · replace e : sReq G k = true := e
    rw [oRequest, if_neg (by rw [e]; decide)] at p
    obtain ⟨ek, lt⟩ := sReq_nI e
    rw [ek]
    generalize cn k = k at *
    have B := l3 k lt
    have v := sIn_iff.mp e2
    have ne : ∀ a : Int32, w ≠ a → w.toInt ≠ a.toInt := fun a h q => h (Int32.toInt_inj.mp q)
    obtain ⟨e', v1, v2⟩ := B.ev
    refine w_get l2 lt ⟨B.d, fun e0 => ?_, fun e0 => ⟨fun e1 => ?_, fun e1 => ⟨fun e2 => ?_, fun e2 => ⟨fun e3 => ?_, fun e3 => ?_⟩⟩⟩⟩
    · rw [if_pos e0] at p; rw [B.ha]; exact p.1 rfl
    · rw [if_neg e0, if_pos e1] at p; rw [B.st]; exact p.1 rfl
    · rw [if_neg e0, if_neg e1, if_pos e2] at p; exact ⟨e', v1, v2.d, by rw [B.st, v2.du]; exact p.1 rfl⟩
    · rw [if_neg e0, if_neg e1, if_neg e2, if_pos e3] at p; exact ⟨e', v1, v2.d, by rw [v2.ty]; exact p.1 rfl⟩
    · have e4 : w = 4 := by
        have n0 := ne 0 e0
        have n1 := ne 1 e1
        have n2 := ne 2 e2
        have n3 := ne 3 e3
        rw [← Int32.toInt_inj]
        simp only [show (0 : Int32).toInt = 0 from rfl, show (1 : Int32).toInt = 1 from rfl, show (2 : Int32).toInt = 2 from rfl, show (3 : Int32).toInt = 3 from rfl, show (4 : Int32).toInt = 4 from rfl] at *
        omega
      rw [if_neg e0, if_neg e1, if_neg e2, if_neg e3, if_pos e4] at p
      exact ⟨e', v1, v2.d, by rw [v2.gu]; exact p.1 rfl⟩
  · replace e : sReq G k = true := e
    rw [oRequest, if_neg (by rw [e]; decide)] at p
    have v : ¬ (0 ≤ w.toInt ∧ w.toInt ≤ 4) := fun z => by
      have e' : sIn w.toInt 0 4 = false := e2
      rw [sIn_iff.mpr z] at e'
      cases e'
    have ne : ∀ a : Int32, 0 ≤ a.toInt → a.toInt ≤ 4 → w ≠ a := fun a h1 h2 q => v (by rw [q]; exact ⟨h1, h2⟩)
    rw [if_neg (ne 0 (by decide) (by decide)), if_neg (ne 1 (by decide) (by decide)), if_neg (ne 2 (by decide) (by decide)), if_neg (ne 3 (by decide) (by decide)), if_neg (ne 4 (by decide) (by decide))] at p
    exact p.2 (by decide) q
  · replace e : sReq G k = false := e
    rw [oRequest, if_pos e] at p; exact p.2 (by decide) q
end
/-! closed -/
def sMinute (m : Int32) : Bool := sIn m.toInt 0 86399
def sClosed (G : MG) (h m : Int32) : Bool := zany (sShut G h m (m + 1)) 0 (cn (G 8 3)) || zany (sWeek G m (m + 1)) 0 (cn (G 1 3))
def oClosed (G : MG) (h m : Int32) : ZQ := if sHall G h = false then (1, 0) else if sMinute m = false then (2, 0) else (0, bI (sClosed G h m))
theorem M_isClosed {F : MF} {G : MG} {hall m : Int32} {post : Int32 → MF → MG → Prop} (h : zOK G) (p : mAns F G (oClosed G hall m) post) : wM_isClosed post hall m F G := by
  refine m_isHall h.F ⟨fun e => ?_, fun e => m_isIn ?_⟩ <;> simp only [bI_0, Bool.not_eq_false] at e
  · rw [oClosed, if_pos e] at p
    rintro _ rfl
    exact ⟨fun z => absurd z (by rw [upd0]; decide), fun _ => p _ _ rfl (z_up0 h)⟩
  · rw [z64, show ((0 : Int64)).toInt = 0 from rfl, show ((86399 : Int64)).toInt = 86399 from rfl]
    refine ⟨fun e2 => ?_, fun e2 => ?_⟩ <;> simp only [bI_0, Bool.not_eq_false] at e2
    · rw [oClosed, if_neg (by rw [e]; decide), if_pos (show sMinute m = false from e2)] at p
      rintro _ rfl
      exact ⟨fun z => absurd z (by rw [upd0]; decide), fun _ => p _ _ rfl (z_up0 h)⟩
    · rw [oClosed, if_neg (by rw [e]; decide), if_neg (by rw [show sMinute m = true from e2]; decide)] at p
      rintro _ rfl
      have q := p (upd F 0 0) G rfl (z_up0 h)
      refine ⟨fun _ => m_isShutIn h.N ⟨fun e3 => m_isWeeklyIn h.F ⟨fun e4 => ?_, fun e4 => ?_⟩, fun e3 => ?_⟩, fun z => absurd rfl z⟩ <;> simp only [bI_0, Bool.not_eq_false] at e3
      · simp only [bI_0] at e4
        simp only [sClosed, e3, e4, Bool.or_self] at q; exact q
      · simp only [bI_0, Bool.not_eq_false] at e4
        simp only [sClosed, e3, e4, Bool.or_true] at q; exact q
      · simp only [sClosed, e3, Bool.true_or] at q; exact q
theorem X_isClosed {ke : Nat} {S : HS} {c : HC} {x : Nat} {ad qs : Nat → Nat} {bks : Nat → Nat → Nat} {F : MF} {G : MG} {px : String → Nat → HS → Prop} {mc ms : Nat} {hall m : Int32} {post : Int32 → Prop} (R : xRX ke S c x ad qs bks F G) (p : xAns ke x S (oClosed G hall m) cls3 post px) (hc : 2 ≤ mc) (hs : 12 ≤ ms) : wX_X1_isClosed post px mc ms x hall m S := by
  refine ⟨R.P.T.d, x_isHall R.P R.F ⟨by omega, by omega, x_needIndex (fun e => x_in ⟨bI_01 _, by omega, by omega, x_needValue (fun e2 => ?_) (fun e2 q _ => ?_) (by decide) (by decide)⟩) (fun e q _ => ?_) (by decide) (by decide)⟩⟩
  · rw [oClosed, if_neg (by rw [e]; decide), if_neg (by rw [show sMinute m = true from e2]; decide)] at p
    have v := sIn_iff.mp e2
    have v1 : m.toInt ≤ 86399 := v.2
    have v0 : 0 ≤ m.toInt := v.1
    have a1 : (m + 1).toInt = m.toInt + 1 := z_add (by simp; omega) (by simp; omega)
    exact x_isClosedIn R.P R.F R.N ⟨v.1, by omega⟩ ⟨by omega, by omega⟩ ⟨bI_01 _, p.1 rfl⟩
  · rw [oClosed, if_neg (by rw [e]; decide), if_pos (show sMinute m = false from e2)] at p; exact p.2 (by decide) q
  · rw [oClosed, if_pos e] at p; exact p.2 (by decide) q
/-! what is in use -/
def sUse (G : MG) (k : Nat) (m : Int32) (b : Nat) (a : Int32) : Int32 := a + (if sCounts G b && !decide (m < gB G b 10 - G 1 (44 + k)) && decide (m < sEnd G b + G 1 (44 + k)) then gB G b (3 + k) else 0)
def sUseAt (G : MG) (k : Nat) (m : Int32) : Int32 := zf (sUse G k m) 0 (cn (G 8 1)) 0
theorem m_useAt {post : Int32 → Prop} {F : MF} {G : MG} {k : Nat} {m : Int32} (hF : zFx (G 1)) (hN : zNw (G 1) (G 8)) (hk : k < cn (G 1 2)) (h : post (sUseAt G k m)) : wM_useAt post (nI k) m F G := by
  have lk := cn_le (n := 6) hF.k.2
  have lb := cn_le (n := 60) hN.b.2
  unfold wM_useAt
  rw [show (44 : Int32) + nI k = nI (44 + k) from zI_add 44 k, zI_nat (by omega)]
  refine ⟨zI_in' (by omega) (by omega), ?_⟩
  rintro _ rfl
  refine zfold (L := fun n a b => wM_useAt_l16 post F G n (nI k) m (G 1 (44 + k)) a b) (fun _ => True) (n := cn (G 8 1)) (f := sUse G k m) (post := post) (by omega) (fun _ _ _ _ => trivial) ?_ _ trivial h
  intro n b a hb _ p1 p2
  simp only [wM_useAt_l16, wM_useAt_b16]
  rw [cn_nI hN.b.1, zI_le (by omega) (by omega)]
  refine ⟨fun e => p1 (by omega), fun e => ?_⟩
  have p2 := p2 (by omega)
  have n3 : (3 : Int32) + nI k = nI (3 + k) := zI_add 3 k
  refine m_counts (by omega) ⟨fun e1 => ⟨fun _ => ?_, fun z => absurd rfl z⟩, fun e1 => m_of (w := 10) (by omega) (by decide) ⟨fun e2 => ⟨fun _ => ?_, fun z => absurd rfl z⟩, fun e2 => m_endOf (by omega) ⟨fun e3 => ⟨fun _ => ?_, fun z => absurd rfl z⟩, fun e3 => ⟨fun z => absurd z (by decide), fun _ => ?_⟩⟩⟩⟩ <;> simp only [bI_0, Bool.not_eq_false] at e1
  · rintro _ rfl
    simp only [sUse, e1, Bool.false_and] at p2; exact p2
  · rintro _ rfl
    simp only [sUse, e1, e2, decide_true, Bool.not_true, Bool.and_false, Bool.false_and] at p2; exact p2
  · rintro _ rfl
    simp only [sUse, Int32.not_lt.mpr e3, decide_false, Bool.and_false] at p2; exact p2
  · rw [n3]
    refine m_of (by omega) (by omega) ?_
    rintro _ rfl
    simp only [sUse, e1, e2, Int32.not_le.mp e3, decide_true, decide_false, Bool.not_false, Bool.and_true, if_true] at p2; exact p2
theorem x_heldIn {ke : Nat} {S : HS} {c : HC} {x su st gr q : Nat} {G : MG} {bk : Nat → Nat} {k : Nat} {m : Int32} {post : Int32 → Prop} (P : xPl ke S c x su st gr q G bk) (hF : zFx (G 1)) (hN : zNw (G 1) (G 8)) (hk : k < cn (G 1 2)) (hm : 0 ≤ m.toInt ∧ m.toInt ≤ 86399) (h : post (sUseAt G k m)) : wX_X1_heldIn post x (nI k) m S := by
  have lk := cn_le (n := 6) hF.k.2
  have lb := cn_le (n := 60) hN.b.2
  obtain ⟨l, f, h1, h2, h3⟩ := P.U.k
  refine ⟨P.T.d, su, P.T.su, P.U.d, l, h1, h2.d, x_kind P h1 hk (fun a a1 a2 a3 a4 a5 => ⟨a1, ?_⟩)⟩
  rintro _ rfl
  rw [a5]
  refine zfold (L := fun n a b => wX_X1_heldIn_l26 post x (nI k) m S n (G 1 (44 + k)) a b) (fun _ => True) (n := cn (G 8 1)) (f := sUse G k m) (post := post) (by omega) (fun _ _ _ _ => trivial) ?_ _ trivial h
  intro n b a hb _ p1 p2
  obtain ⟨lb', b1, b2⟩ := P.V.b
  refine ⟨P.T.d, st, P.T.st, P.V.d, lb', b1, b2.d, x_size b2 ?_⟩
  rw [zI_le (by omega) (by omega)]
  refine ⟨fun e => p1 (by omega), fun e => ?_⟩
  have hb' : b < cn (G 8 1) := by omega
  have p2 := p2 hb'
  have B := P.V.bb b hb'
  obtain ⟨ev, v1, v2⟩ := B.ev
  obtain ⟨nn, n1, n2, n3, n4, n5⟩ := v2.ne
  obtain ⟨hs1, hs2, -⟩ : zSt (gB G b 10) := hN.bs b hb'
  obtain ⟨hd1, hd2, -⟩ : 15 ≤ (gB G b 2).toInt ∧ (gB G b 2).toInt ≤ 1440 ∧ (gB G b 2).toInt % 15 = 0 := (hN.be b hb').du
  obtain ⟨hl1, hl2, -⟩ := hF.le k hk
  have q1 : (gB G b 10 - G 1 (44 + k)).toInt = (gB G b 10).toInt - (G 1 (44 + k)).toInt := z_sub (by omega) (by omega)
  have q2 : (sEnd G b).toInt = (gB G b 10).toInt + (gB G b 2).toInt := z_add (by omega) (by omega)
  have q3 : (sEnd G b + G 1 (44 + k)).toInt = (gB G b 10).toInt + (gB G b 2).toInt + (G 1 (44 + k)).toInt := by
    rw [z_add (by omega) (by omega), q2]
  have q4 : (sEnd G b + G 1 (44 + k) - 1).toInt = (gB G b 10).toInt + (gB G b 2).toInt + (G 1 (44 + k)).toInt - 1 := by
    rw [z_pre (by omega), q3]
  have s0 : hI S 802 (bk b) = gB G b 10 := B.st
  refine x_booking P hb' ⟨B.d, x_counts P hN hb' ⟨fun e1 => ?_, fun e1 => ⟨B.d, x_end P hb' (x_in ⟨bI_01 _, fun e2 => ?_, fun e2 => ?_⟩)⟩⟩⟩ <;> simp only [bI_0, Bool.not_eq_false] at e1
  · rintro _ rfl
    simp only [sUse, e1, Bool.false_and] at p2; exact p2
  · rintro _ rfl
    simp only [bI_0] at e2
    rw [s0, q1, q4] at e2
    have : (sCounts G b && !decide (m < gB G b 10 - G 1 (44 + k)) && decide (m < sEnd G b + G 1 (44 + k))) = false := by
      simp only [sIn] at e2
      simp only [e1, Bool.true_and, z_lt, q1, q3]
      simp only [Bool.and_eq_false_iff, decide_eq_false_iff_not, Bool.not_eq_false', decide_eq_true_eq] at e2 ⊢
      omega
    rw [sUse, this, if_neg (by decide)] at p2; exact p2
  · simp only [bI_0, Bool.not_eq_false] at e2
    rw [s0, q1, q4, sIn_iff] at e2
    refine ⟨ev, v1, v2.d, nn, n1, n2, zI_in' (by omega) (by rw [n4]; omega), ?_⟩
    rintro _ rfl
    have : (sCounts G b && !decide (m < gB G b 10 - G 1 (44 + k)) && decide (m < sEnd G b + G 1 (44 + k))) = true := by
      simp only [z_lt, q1, q3, e1, Bool.true_and, Bool.and_eq_true, Bool.not_eq_true', decide_eq_false_iff_not, decide_eq_true_eq]
      omega
    rw [sUse, this, if_pos rfl] at p2
    rw [zI_nat (by omega), n5 k (by omega)]
    exact p2
def oInUse (G : MG) (k m : Int32) : ZQ := if sKind G k = false then (1, 0) else if sMinute m = false then (2, 0) else (0, sUseAt G (cn k) m)
theorem M_inUse {F : MF} {G : MG} {k m : Int32} {post : Int32 → MF → MG → Prop} (h : zOK G) (p : mAns F G (oInUse G k m) post) : wM_inUse post k m F G := by
  refine m_isKind h.F ⟨fun e => ?_, fun e => m_isIn ?_⟩ <;> simp only [bI_0, Bool.not_eq_false] at e
  · rw [oInUse, if_pos e] at p
    rintro _ rfl
    exact ⟨fun z => absurd z (by rw [upd0]; decide), fun _ => p _ _ rfl (z_up0 h)⟩
  · rw [z64, show ((0 : Int64)).toInt = 0 from rfl, show ((86399 : Int64)).toInt = 86399 from rfl]
    refine ⟨fun e2 => ?_, fun e2 => ?_⟩ <;> simp only [bI_0, Bool.not_eq_false] at e2
    · rw [oInUse, if_neg (by rw [e]; decide), if_pos (show sMinute m = false from e2)] at p
      rintro _ rfl
      exact ⟨fun z => absurd z (by rw [upd0]; decide), fun _ => p _ _ rfl (z_up0 h)⟩
    · rw [oInUse, if_neg (by rw [e]; decide), if_neg (by rw [show sMinute m = true from e2]; decide)] at p
      obtain ⟨ek, lk, -⟩ := sKind_nI h.F e
      rintro _ rfl
      refine ⟨fun _ => ?_, fun z => absurd (by rw [upd0]; decide) z⟩
      rw [ek]
      exact m_useAt h.F h.N lk (p _ _ rfl (z_up0 h))
theorem X_inUse {ke : Nat} {S : HS} {c : HC} {x : Nat} {ad qs : Nat → Nat} {bks : Nat → Nat → Nat} {F : MF} {G : MG} {px : String → Nat → HS → Prop} {mc ms : Nat} {k m : Int32} {post : Int32 → Prop} (R : xRX ke S c x ad qs bks F G) (p : xAns ke x S (oInUse G k m) cls3 post px) (hc : 2 ≤ mc) (hs : 12 ≤ ms) : wX_X1_inUse post px mc ms x k m S := by
  refine ⟨R.P.T.d, x_isKind R.P R.F ⟨by omega, by omega, x_needIndex (fun e => x_in ⟨bI_01 _, by omega, by omega, x_needValue (fun e2 => ?_) (fun e2 q _ => ?_) (by decide) (by decide)⟩) (fun e q _ => ?_) (by decide) (by decide)⟩⟩
  · rw [oInUse, if_neg (by rw [e]; decide), if_neg (by rw [show sMinute m = true from e2]; decide)] at p
    obtain ⟨ek, lk, -⟩ := sKind_nI R.F e
    rw [ek]
    exact x_heldIn R.P R.F R.N lk (sIn_iff.mp e2) (p.1 rfl)
  · rw [oInUse, if_neg (by rw [e]; decide), if_pos (show sMinute m = false from e2)] at p; exact p.2 (by decide) q
  · rw [oInUse, if_pos e] at p; exact p.2 (by decide) q
