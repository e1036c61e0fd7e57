/-! PLAIN LAWS, x9: questions, four: revenue, the next booking, conflicts, fees -/
def sRev (G : MG) (b : Nat) (a : Int32) : Int32 := a + (if gB G b 11 == 1 then sPrice (G 1) (gR G b) (gB G b 9) (gB G b 10) else gB G b 12)
def sRevenue (G : MG) : Int32 := zf (sRev G) 0 (cn (G 8 1)) 0
theorem M_revenue {F : MF} {G : MG} {post : Int32 → MF → MG → Prop} (h : zOK G) (p : mAns F G (0, sRevenue G) post) : wM_revenue post F G := by
  have lb := cn_le (n := 60) h.N.b.2
  rintro _ rfl
  refine zfold (L := fun n a b => wM_revenue_l9 post n a b (upd F 0 0) G) (fun _ => True) (n := cn (G 8 1)) (f := sRev G) (post := fun r => post r (upd F 0 0) G) (by omega) (fun _ _ _ _ => trivial) ?_ _ trivial (p _ _ rfl (z_up0 h))
  intro n b a hb _ p1 p2
  simp only [wM_revenue_l9, wM_revenue_b9]
  rw [cn_nI h.N.b.1, zI_le (by omega) (by omega)]
  refine ⟨fun e => p1 (by omega), fun e => ?_⟩
  have hb' : b < cn (G 8 1) := by omega
  have p2 := p2 hb'
  refine m_isActive (by omega) ⟨fun e1 => ?_, fun e1 => ?_⟩ <;> simp only [bI_0, Bool.not_eq_false] at e1
  · refine m_of (w := 12) (by omega) (by decide) ?_
    rintro _ rfl
    rw [sRev, e1, if_neg (by decide)] at p2; exact p2
  · refine m_priceNow h.F h.N hb' ?_
    rintro _ rfl
    rw [sRev, e1, if_pos rfl] at p2; exact p2
/-- the booking next in a hall -/
def sNextC (G : MG) (h m : Int32) (b : Nat) : Bool := gB G b 11 == 1 && gB G b 9 == h && !decide (gB G b 10 < m)
def sNextS (G : MG) (h m : Int32) (b : Nat) (a : Int32) : Int32 := if sNextC G h m b && (a == -1 || decide (gB G b 10 < gB G (cn a) 10)) then nI b else a
def sNext (G : MG) (h m : Int32) : Int32 := zf (sNextS G h m) 0 (cn (G 8 1)) (-1)
/-- none, or a booking -/
def zNo (n : Nat) (a : Int32) : Prop := a = -1 ∨ ∃ j, a = nI j ∧ j < n
theorem sNextS_no {G : MG} {h m : Int32} {n b : Nat} {a : Int32} (hb : b < n) (ha : zNo n a) : zNo n (sNextS G h m b a) := by
  unfold sNextS
  split
  · exact .inr ⟨b, rfl, hb⟩
  · exact ha
theorem sNext_no {G : MG} {h m : Int32} : zNo (cn (G 8 1)) (sNext G h m) := by
  unfold sNext
  refine zf_keep (P := zNo (cn (G 8 1))) (.inl rfl) (fun j a h1 h2 ha => sNextS_no (by omega) ha)
theorem nI_ne {j : Nat} (hj : j < 1000) : nI j ≠ -1 := by
  intro e
  have := congrArg Int32.toInt e
  rw [zI_toInt (by omega), show (-1 : Int32).toInt = -1 from rfl] at this
  omega
theorem m_nextIn {post : Int32 → Prop} {F : MF} {G : MG} {hall m : Int32} (hN : zNw (G 1) (G 8)) (h : post (sNext G hall m)) : wM_nextIn post hall m F G := by
  have lb := cn_le (n := 60) hN.b.2
  refine zfold (L := fun n a b => wM_nextIn_l5 post F G n hall m a b) (zNo (cn (G 8 1))) (n := cn (G 8 1)) (f := sNextS G hall m) (post := post) (by omega) (fun k a hk ha => sNextS_no hk ha) ?_ _ (.inl rfl) h
  intro n b a hb ha p1 p2
  simp only [wM_nextIn_l5, wM_nextIn_b5]
  rw [cn_nI hN.b.1, zI_le (by omega) (by omega)]
  refine ⟨fun e => p1 (by omega), fun e => ?_⟩
  have hb' : b < cn (G 8 1) := by omega
  have p2 := p2 hb'
  have no : sNextC G hall m b = false → wM_nextIn_j54 post (wM_nextIn_l5 post F G n) F G hall m a (nI b) 0 := fun q => by
    rw [sNextS, q, Bool.false_and, if_neg (by decide)] at p2
    exact ⟨fun _ => p2, fun z => absurd rfl z⟩
  refine m_isActive (by omega) ⟨fun e1 => no ?_, fun e1 => m_of (w := 9) (by omega) (by decide) ⟨fun e2 => m_of (w := 10) (by omega) (by decide) ⟨fun e3 => no ?_, fun e3 => ⟨fun z => absurd z (by decide), fun _ => ⟨fun e4 => ?_, fun e4 => ?_⟩⟩⟩, fun e2 => no ?_⟩⟩ <;> simp only [bI_0, Bool.not_eq_false] at e1
  · simp only [sNextC, e1, Bool.false_and]
  · simp only [sNextC, e3, decide_true, Bool.not_true, Bool.and_false]
  · have q : sNextC G hall m b = true := by simp only [sNextC, e1, e2, e3, decide_false, Bool.not_false, beq_self_eq_true, Bool.and_true]
    rw [sNextS, q, e4, if_pos (by simp)] at p2; exact p2
  · obtain ⟨j, ej, lj⟩ := ha.resolve_left e4
    have q : sNextC G hall m b = true := by simp only [sNextC, e1, e2, e3, decide_false, Bool.not_false, beq_self_eq_true, Bool.and_true]
    have q4 : (a == -1) = false := by simpa using e4
    have cj : cn a = j := by rw [ej]; exact zI_nat (by omega)
    rw [sNextS, q, q4, cj, Bool.true_and, Bool.false_or] at p2
    rw [ej] at p2 ⊢
    refine m_of (w := 10) (by omega) (by decide) (m_of (w := 10) (by omega) (by decide) ⟨fun e5 => ?_, fun e5 => ?_⟩)
    · rw [if_neg (by simpa using Int32.not_lt.mpr e5)] at p2; exact p2
    · rw [if_pos (by simpa using Int32.not_le.mp e5)] at p2; exact p2
  · have : (gB G b 9 == hall) = false := by simpa using e2
    simp only [sNextC, this, Bool.and_false, Bool.false_and]
def oNext (G : MG) (h m : Int32) : ZQ := if sHall G h = false then (1, 0) else if sMinute m = false then (2, 0) else if sNext G h m = -1 then (3, 0) else (0, sNext G h m)
theorem M_nextBooking {F : MF} {G : MG} {hall m : Int32} {post : Int32 → MF → MG → Prop} (h : zOK G) (p : mAns F G (oNext G hall m) post) : wM_nextBooking post hall m F G := by
  refine m_isHall h.F ⟨fun e => ?_, fun e => m_isIn ?_⟩ <;> simp only [bI_0, Bool.not_eq_false] at e
  · rw [oNext, if_pos e] at p
    rintro _ rfl
    exact ⟨fun z => absurd z (by rw [upd0]; decide), fun _ => p _ _ rfl (z_up0 h)⟩
  · rw [z64, show ((0 : Int64)).toInt = 0 from rfl, show ((86399 : Int64)).toInt = 86399 from rfl]
    refine ⟨fun e2 => ?_, fun e2 => ?_⟩ <;> simp only [bI_0, Bool.not_eq_false] at e2
    · rw [oNext, if_neg (by rw [e]; decide), if_pos (show sMinute m = false from e2)] at p
      rintro _ rfl
      exact ⟨fun z => absurd z (by rw [upd0]; decide), fun _ => p _ _ rfl (z_up0 h)⟩
    · rw [oNext, if_neg (by rw [e]; decide), if_neg (by rw [show sMinute m = true from e2]; decide)] at p
      rintro _ rfl
      refine ⟨fun _ => m_nextIn h.N ⟨fun e3 => ?_, fun e3 => ?_⟩, fun z => absurd (by rw [upd0]; decide) z⟩
      · rw [if_pos e3] at p; exact m_fails (k := 3) h p
      · rw [if_neg e3] at p; exact p _ _ rfl (z_up0 h)
/-- bookings that are near, as bits -/
def sBits (G : MG) (h s : Int32) (b : Nat) (a : Int64) : Int64 := a ||| (if sNear G b h s then (1 : Int64) <<< ((nI b).toInt64 &&& 63) else 0)
def sConf (G : MG) (h s : Int32) : Int64 := zf (sBits (sAsk G 6 0) h s) 0 (cn (G 8 1)) 0
def oConf (G : MG) (h s : Int32) : Nat × Int64 := if sDraft G h s = 0 then (0, sConf G h s) else (sDraft G h s, 0)
theorem M_conflicts {F : MF} {G : MG} {hall s : Int32} {post : Int64 → MF → MG → Prop} (h : zOK G) (p : ∀ F' G', F' 0 = nI (oConf G hall s).1 → zSame F G F' G' → post (oConf G hall s).2 F' G') : wM_conflicts post hall s F G := by
  have l := sDraft_le G hall s
  have lb := cn_le (n := 60) h.N.b.2
  refine m_whyNotDraft h.F ?_
  rintro _ rfl
  rw [upd0, zI_pos (by omega)]
  refine ⟨fun e => ?_, fun e => ?_⟩
  · rw [oConf, if_pos e] at p
    refine m_asks (r := 6) (x := 0) rfl (by decide) (by decide) (by decide) ?_
    have p0 := p (upd F 0 (nI (sDraft G hall s))) (sAsk G 6 0) (by show nI (sDraft G hall s) = nI 0; rw [e]) (z_up h (fun k h7 _ => mg_ne h7))
    refine zfold (L := fun n a b => wM_conflicts_l33 post n hall s a b _ (sAsk G 6 0)) (fun _ => True) (n := cn (G 8 1)) (f := sBits (sAsk G 6 0) hall s) (post := fun r => post r _ _) (by omega) (fun _ _ _ _ => trivial) ?_ _ trivial p0
    intro n b a hb _ p1 p2
    simp only [wM_conflicts_l33, wM_conflicts_b33]
    rw [show sAsk G 6 0 8 1 = nI (cn (G 8 1)) from cn_nI h.N.b.1, zI_le (by omega) (by omega)]
    refine ⟨fun e => p1 (by omega), fun e => ?_⟩
    have hb' : b < cn (G 8 1) := by omega
    have p2 := p2 hb'
    refine m_isNear (by omega) (h.N.be b hb').ty h.D.ty ⟨fun e1 => ?_, fun e1 => ?_⟩ <;> simp only [bI_0, Bool.not_eq_false] at e1
    · rintro _ rfl
      rw [sBits, e1, if_neg (by decide)] at p2; exact p2
    · rintro _ rfl
      rw [sBits, e1, if_pos rfl] at p2; exact p2
  · rw [oConf, if_neg e] at p
    exact p _ _ rfl (z_up0 h)
section
variable {ke : Nat} {S : HS} {c : HC} {x : Nat} {ad qs : Nat → Nat} {bks : Nat → Nat → Nat} {F : MF} {G : MG} {px : String → Nat → HS → Prop} {mc ms : Nat}
theorem X_revenue {post : Int32 → Prop} (R : xRX ke S c x ad qs bks F G) (p : post (sRevenue G)) : wX_X1_revenue post x S := by
  have lb := cn_le (n := 60) R.N.b.2
  refine zfold (L := fun n a b => wX_X1_revenue_l4 post x S n a b) (fun _ => True) (n := cn (G 8 1)) (f := sRev G) (post := post) (by omega) (fun _ _ _ _ => trivial) ?_ _ trivial p
  intro n b a hb _ p1 p2
  obtain ⟨lb', b1, b2⟩ := R.P.V.b
  refine ⟨R.P.T.d, _, R.P.T.st, R.P.V.d, lb', b1, b2.d, x_size b2 ?_⟩
  rw [zI_le (by omega) (by omega)]
  refine ⟨fun e => p1 (by omega), fun e => ?_⟩
  have hb' : b < cn (G 8 1) := by omega
  have p2 := p2 hb'
  have B := R.P.V.bb b hb'
  have a1 : hI S 805 (bks 0 b) = gB G b 11 := B.ac
  refine x_booking R.P hb' ⟨B.d, fun e1 => x_booking R.P hb' ⟨B.d, ?_⟩, fun e1 => x_booking R.P hb' ⟨B.d, ?_⟩⟩ <;> rw [a1] at e1
  · rintro _ rfl
    rw [sRev, e1, if_neg (by decide)] at p2; rw [B.fe]; exact p2
  · rintro _ rfl
    have e2 : gB G b 11 = 1 := (R.N.ba b hb').resolve_left e1
    rw [sRev, e2, if_pos (by decide)] at p2; rw [B.pr (R.q2 (by decide))]; exact p2
theorem X_nextBooking {hall m : Int32} {post : Int32 → Prop} (R : xRX ke S c x ad qs bks F G) (p : xAns ke x S (oNext G hall m) (fun k => match k with | 1 => "java/lang/IndexOutOfBoundsException" | 2 => "java/lang/IllegalArgumentException" | _ => "java/util/NoSuchElementException") post px) (hc : 3 ≤ mc) (hs : 18 ≤ ms) : wX_X1_nextBooking post px mc ms x hall m S := by
  have lb := cn_le (n := 60) R.N.b.2
  refine ⟨R.P.T.d, x_isHall R.P R.F ⟨by omega, by omega, x_needIndex (fun e => x_in ⟨bI_01 _, by omega, by omega, x_needValue (fun e2 => ?_) (fun e2 q _ => ?_) (by decide) (by decide)⟩) (fun e q _ => ?_) (by decide) (by decide)⟩⟩
  · rw [oNext, if_neg (by rw [e]; decide), if_neg (by rw [show sMinute m = true from e2]; decide)] at p
    refine zfold (L := fun n a b => wX_X1_nextBooking_l20 post px x hall m S n a b ((mc - 1) - 1) ((ms - 6) - 6)) (zNo (cn (G 8 1))) (n := cn (G 8 1)) (f := sNextS G hall m) (post := fun r => xAns ke x S (if r = -1 then (3, 0) else (0, r)) _ post px) (by omega) (fun k a hk ha => sNextS_no hk ha) ?_ _ (.inl rfl) p
    intro n b a hb ha p1 p2
    obtain ⟨lb', b1, b2⟩ := R.P.V.b
    refine ⟨R.P.T.d, _, R.P.T.st, R.P.V.d, lb', b1, b2.d, x_size b2 ?_⟩
    rw [zI_le (by omega) (by omega)]
    refine ⟨fun e => ⟨fun e3 => ⟨by omega, by omega, x_needElement (p := false) (fun z => by cases z) (fun _ q _ => ?_) (by decide) (by decide)⟩, fun e3 => ⟨by omega, by omega, x_needElement (p := true) (fun _ => ?_) (fun z => by cases z) (by decide) (by decide)⟩⟩, fun e => ?_⟩
    · have := p1 (by omega)
      rw [if_pos e3] at this
      exact this.2 (by decide) q
    · have := p1 (by omega)
      rw [if_neg e3] at this
      exact this.1 rfl
    have hb' : b < cn (G 8 1) := by omega
    have p2 := p2 hb'
    have B := R.P.V.bb b hb'
    have a1 : hI S 805 (bks 0 b) = gB G b 11 := B.ac
    have a2 : hI S 801 (bks 0 b) = gB G b 9 := B.ha
    have a3 : hI S 802 (bks 0 b) = gB G b 10 := B.st
    have no : sNextC G hall m b = false → wX_X1_nextBooking_l20 post px x hall m S n a (nI b + 1) ((mc - 1) - 1) ((ms - 6) - 6) := fun q => by
      rw [sNextS, q, Bool.false_and, if_neg (by decide)] at p2
      exact p2
    refine x_booking R.P hb' ⟨B.d, ?_⟩
    rw [a1, a2, a3]
    refine ⟨fun e1 => no ?_, fun e1 => ⟨fun e2 => ⟨fun e3 => no ?_, fun e3 => ⟨fun e4 => ?_, fun e4 => ?_⟩⟩, fun e2 => no ?_⟩⟩
    · rw [sNextC, e1]; rfl
    · simp only [sNextC, e3, decide_true, Bool.not_true, Bool.and_false]
    · have e1' : gB G b 11 = 1 := (R.N.ba b hb').resolve_left e1
      have q : sNextC G hall m b = true := by simp only [sNextC, e1', e2, e3, decide_false, Bool.not_false, beq_self_eq_true, Bool.and_true]
      rw [sNextS, q, e4, if_pos (by simp)] at p2; exact p2
    · obtain ⟨j, ej, lj⟩ := ha.resolve_left e4
      have e1' : gB G b 11 = 1 := (R.N.ba b hb').resolve_left e1
      have q : sNextC G hall m b = true := by simp only [sNextC, e1', e2, e3, decide_false, Bool.not_false, beq_self_eq_true, Bool.and_true]
      have q4 : (a == -1) = false := by simpa using e4
      have cj : cn a = j := by rw [ej]; exact zI_nat (by omega)
      rw [sNextS, q, q4, cj, Bool.true_and, Bool.false_or] at p2
      rw [ej] at p2 ⊢
      have B' := R.P.V.bb j lj
      have a4 : hI S 802 (bks 0 j) = gB G j 10 := B'.st
      refine x_booking R.P lj ⟨B'.d, ?_⟩
      rw [a4]
      refine ⟨fun e5 => ?_, fun e5 => ?_⟩
      · rw [if_neg (by simpa using Int32.not_lt.mpr e5)] at p2; exact p2
      · rw [if_pos (by simpa using Int32.not_le.mp e5)] at p2; exact p2
    · have : (gB G b 9 == hall) = false := by simpa using e2
      simp only [sNextC, this, Bool.and_false, Bool.false_and]
  · rw [oNext, if_neg (by rw [e]; decide), if_pos (show sMinute m = false from e2)] at p; exact p.2 (by decide) q
  · rw [oNext, if_pos e] at p; exact p.2 (by decide) q
theorem xEv_ask {e : Nat} (H : xEv S c e (G 6)) : xEv S c e (sAsk G 6 0 7) := by
  obtain ⟨n, n1, n2, n3, n4, n5⟩ := H.ne
  refine ⟨H.d, H.c0, H.ty, H.gu, H.du, n, n1, n2, n3, n4, fun k hk => ?_⟩
  rw [n5 k hk]
  simp only [sAsk, mg_eq, Nat.zero_add]
  rw [if_pos (by omega)]
theorem zEv_ask (H : zEv (G 6)) : zEv (sAsk G 6 0 7) := by
  refine ⟨H.ty, H.gu, H.du, fun k hk => ?_⟩
  have := H.ne k hk
  simp only [sAsk, mg_eq, Nat.zero_add]
  rw [if_pos (by omega)]
  exact this
theorem xPl_ask (R : xRX ke S c x ad qs bks F G) : xPl ke S c x (ad 0) (ad 1) (ad 2) (qs 0) (sAsk G 6 0) (bks 0) := R.P.congr R.N rfl rfl (fun _ _ => rfl)
/-- the types are none -/
theorem z_none (R : xRX ke S c x ad qs bks F G) : G 1 1 = 0 ↔ hI S 107 (ad 0) ≤ 0 := by
  rw [R.P.U.ty, z_le, z_eq]
  have := R.F.t.1
  simp only [show (0 : Int32).toInt = 0 from rfl]
  omega
theorem X_conflicts {hall s : Int32} {post : Int64 → Prop} (R : xRX ke S c x ad qs bks F G) (p1 : (oConf G hall s).1 = 0 → post (oConf G hall s).2) (p2 : (oConf G hall s).1 ≠ 0 → ∀ q, px (cls3 (oConf G hall s).1) q S) (hc : 3 ≤ mc) (hs : 18 ≤ ms) : wX_X1_conflicts post px mc ms x hall s S := by
  have lb := cn_le (n := 60) R.N.b.2
  refine ⟨R.P.T.d, by omega, by omega, x_needHS R (fun e => ⟨_, R.P.T.su, R.P.U.d, fun e1 => ⟨by omega, by omega, x_needState (p := false) (fun z => by cases z) (fun _ q _ => ?_) (by decide) (by decide)⟩, fun e1 => ⟨by omega, by omega, x_needState (p := true) (fun _ => ?_) (fun z => by cases z) (by decide) (by decide)⟩⟩) (fun e q => ?_) (by decide) (by decide)⟩
  · have v : sDraft G hall s = 3 := by rw [sDraft, if_pos e, if_pos ((z_none R).mpr e1)]
    rw [oConf, v, if_neg (by decide)] at p2
    exact p2 (by decide) q
  · have v : sDraft G hall s = 0 := by rw [sDraft, if_pos e, if_neg (fun z => e1 ((z_none R).mp z))]
    rw [oConf, if_pos v] at p1
    refine zfold (L := fun n a b => wX_X1_conflicts_l29 post px x hall s S n a b _ _) (fun _ => True) (n := cn (G 8 1)) (f := sBits (sAsk G 6 0) hall s) (post := post) (by omega) (fun _ _ _ _ => trivial) ?_ _ trivial (p1 rfl)
    intro n b a hb _ p1 p2
    obtain ⟨lb', b1, b2⟩ := R.P.V.b
    refine ⟨R.P.T.d, _, R.P.T.st, R.P.V.d, lb', b1, b2.d, x_size b2 ?_⟩
    rw [zI_le (by omega) (by omega)]
    refine ⟨fun e => p1 (by omega), fun e => ?_⟩
    have hb' : b < cn (G 8 1) := by omega
    have p2 := p2 hb'
    have B := R.P.V.bb b hb'
    have a1 : hI S 805 (bks 0 b) = gB G b 11 := B.ac
    have a2 : hI S 801 (bks 0 b) = gB G b 9 := B.ha
    have ct : sCounts (sAsk G 6 0) b = (gB G b 11 == 1) := by
      have o : sAsk G 6 0 19 b = 0 := R.out b (by omega)
      simp only [sCounts, o]
      simp
      rfl
    have nx : sNear (sAsk G 6 0) b hall s = false → wX_X1_conflicts_l29 post px x hall s S n (a ||| 0) (nI b + 1) ((mc - 2) - 1) ((ms - 12) - 6) := fun q => by
      rw [sBits, q, if_neg (by decide)] at p2; exact p2
    refine x_booking R.P hb' ⟨B.d, ?_⟩
    rw [a1, a2]
    refine ⟨fun e1 => ?_, fun e1 => ⟨fun e2 => ⟨_, R.dr.1, x_isNear (xPl_ask R) R.N hb' (xEv_ask R.dr.2) R.D.ty ⟨fun e3 => ?_, fun e3 => ?_⟩⟩, fun e2 => ?_⟩⟩
    · rintro _ rfl
      refine nx ?_
      rw [sNear, ct, e1]; rfl
    · rintro _ rfl
      refine nx ?_
      simp only [bI_0] at e3
      simp only [sNear, Bool.and_assoc, e3, Bool.and_false]
    · rintro _ rfl
      simp only [bI_0, Bool.not_eq_false] at e3
      have e1' : gB G b 11 = 1 := (R.N.ba b hb').resolve_left e1
      have e2' : (gB (sAsk G 6 0) b 9 == hall) = true := (show (gB G b 9 == hall) = true by simpa using e2)
      have q : sNear (sAsk G 6 0) b hall s = true := by
        simp only [sNear, Bool.and_assoc, e3, ct, e1', e2', beq_self_eq_true, Bool.and_true]
      rw [sBits, q, if_pos rfl] at p2; exact p2
    · rintro _ rfl
      refine nx ?_
      have e2' : (gB (sAsk G 6 0) b 9 == hall) = false := (show (gB G b 9 == hall) = false by simpa using e2)
      simp only [sNear, e2', Bool.and_false, Bool.false_and]
  · have v : sDraft G hall s = sSlot G hall s := by rw [sDraft, if_neg e]
    rw [oConf, v, if_neg e] at p2
    exact p2 e q
end
