/-! PLAIN LAWS, x7: questions, two: prices, bookings, requests -/
/-- a loop that gathers -/
theorem zfold {α : Type} {f : Nat → α → α} {L : Nat → α → Int32 → Prop} {post : α → Prop} {n : Nat} (Inv : α → Prop) (hn : n < 2147483647) (keep : ∀ k a, k < n → Inv a → Inv (f k a))
    (step : ∀ m k a, k ≤ n → Inv a → (k = n → post a) → (k < n → L m (f k a) (nI k + 1)) → L (m + 1) a (nI k)) (a0 : α) (h0 : Inv a0) (h : post (zf f 0 n a0)) : ∃ m, L m a0 0 := by
  have key : ∀ d k a, k + d = n → Inv a → post (zf f k d a) → ∃ m, L m a (nI k) := by
    intro d
    induction d with
    | zero => exact fun k a e i hp => ⟨1, step 0 k a (by omega) i (fun _ => hp) (fun h => by omega)⟩
    | succ d ih =>
      intro k a e i hp
      obtain ⟨m, hm⟩ := ih (k + 1) _ (by omega) (keep k a (by omega) i) hp
      refine ⟨m + 1, step m k a (by omega) i (fun h => by omega) (fun _ => ?_)⟩
      rw [zI_1, zI_add]; exact hm
  exact key n 0 a0 (by omega) h0 h
theorem z_5 (m : Int32) : m < 5 ↔ ¬ 4 < m := by
  rw [z_lt, z_lt]
  simp only [show (5 : Int32).toInt = 5 from rfl, show (4 : Int32).toInt = 4 from rfl]
  omega
theorem m_priceOf {post : Int32 → Prop} {F : MF} {G : MG} {r o : Nat} {hall s : Int32} (hF : zFx (G 1)) (hr : m_ty r = 1) (ho : o + 9 ≤ m_ln r) (hl : m_ln r < 100000) (hh : 0 ≤ hall.toInt ∧ hall.toInt < (G 1 0).toInt)
    (h : post (sPrice (G 1) (fun w => G r (o + w)) hall s)) : wM_priceOf post r (nI o) hall s F G := by
  have lh : cn hall < 6 := cn_lt' hh.1 (by have := hF.h.2; omega)
  have eh := cn_nI hh.1
  have lk := cn_le (n := 6) hF.k.2
  have a1 : (26 : Int32) + hall = nI (26 + cn hall) := by rw [eh, zI_lit, zI_add, ← eh]
  unfold wM_priceOf
  rw [a1, zI_nat (by omega), show nI o + 2 = nI (o + 2) from zI_add o 2, zI_nat (show o + 2 < 2147483648 by omega)]
  refine ⟨zI_in' (by omega) (by omega), hr, zI_in' (by omega) (by omega), ?_⟩
  rintro _ rfl
  refine zfold (L := fun m a k => wM_priceOf_l23 post r F G m (nI o) s a k) (fun _ => True) (n := cn (G 1 2)) (f := fun k a => a + G r (o + (3 + k)) * G 1 (38 + k)) (post := fun b => post (if 4 < sMod (s / 1440) 7 then b + b * G 1 5 / 100 else b)) (by omega) (fun _ _ _ _ => trivial) ?_ _ trivial h
  intro m k a hk _ p1 p2
  simp only [wM_priceOf_l23, wM_priceOf_b23]
  rw [cn_nI hF.k.1, zI_le (by omega) (by omega)]
  refine ⟨fun e => ⟨fun e2 => ?_, fun e2 => ?_⟩, fun e => ?_⟩
  · have := p1 (by omega)
    rw [if_neg ((z_5 _).mp e2)] at this
    exact this
  · have := p1 (by omega)
    rw [if_pos (Classical.not_not.mp (fun z => e2 ((z_5 _).mpr z)))] at this
    exact this
  · rw [show nI o + 3 + nI k = nI (o + (3 + k)) by rw [zI_lit, zI_add, zI_add, Nat.add_assoc], show (38 : Int32) + nI k = nI (38 + k) from zI_add 38 k, zI_nat (show o + (3 + k) < 2147483648 by omega), zI_nat (show 38 + k < 2147483648 by omega)]
    refine ⟨hr, zI_in' (by omega) (by omega), zI_in' (by omega) (by omega), ?_⟩
    rintro _ rfl
    exact p2 (by omega)
/-- a booking's row -/
abbrev gR (G : MG) (b : Nat) : Nat → Int32 := fun w => G 8 (4 + 13 * b + w)
theorem m_of2 {post : Int32 → Int32 → Prop} {F : MF} {G : MG} {b : Nat} (hb : b < 60) (h : post (gB G b 9) (gB G b 10)) : wM_of (fun r_2 => wM_of (fun r_3 => post r_2 r_3) (nI b) (10 : Int32) F G) (nI b) (9 : Int32) F G :=
  m_of (w := 9) hb (by decide) (m_of (w := 10) hb (by decide) h)
theorem z_row (b : Nat) : (4 : Int32) + 13 * nI b = nI (4 + 13 * b) := by
  rw [show (4 : Int32) = nI 4 from rfl, show (13 : Int32) = nI 13 from rfl, zI_mul, zI_add]
theorem m_rowOf {post : Int32 → Prop} {F : MF} {G : MG} {x : Int32} (h : post ((4 : Int32) + 13 * x)) : wM_rowOf post x F G := h
theorem m_price8 {post : Int32 → Prop} {F : MF} {G : MG} {b : Nat} {hall s : Int32} (hF : zFx (G 1)) (hb : b < 60) (hh : 0 ≤ hall.toInt ∧ hall.toInt < (G 1 0).toInt) (h : post (sPrice (G 1) (gR G b) hall s)) : wM_priceOf post 8 (4 + 13 * nI b) hall s F G := by
  have e8 : m_ln 8 = 1052 := rfl
  rw [z_row]
  exact m_priceOf (o := 4 + 13 * b) hF rfl (by rw [e8]; omega) (by rw [e8]; omega) hh h
theorem m_priceNow {post : Int32 → Prop} {F : MF} {G : MG} {b : Nat} (hF : zFx (G 1)) (hN : zNw (G 1) (G 8)) (hb : b < cn (G 8 1)) (h : post (sPrice (G 1) (gR G b) (gB G b 9) (gB G b 10))) : wM_priceNow post (nI b) F G := by
  have lb := cn_le (n := 60) hN.b.2
  have lb' : b < 60 := by omega
  have h1 : wM_priceOf (fun r_4 => post r_4) 8 (4 + 13 * nI b) (gB G b 9) (gB G b 10) F G := m_price8 hF lb' (hN.bp b hb) h
  have h4 := m_of2 (F := F) (post := fun a b' => wM_priceOf (fun r_4 => post r_4) 8 (4 + 13 * nI b) a b' F G) lb' h1
  unfold wM_priceNow
  exact m_rowOf h4
section
variable {ke : Nat} {S : HS} {c : HC} {x su st gr q : Nat} {G : MG} {bk : Nat → Nat}
theorem x_price {e : Nat} {r : Nat → Int32} {hall s : Int32} {post : Int32 → Prop} (P : xPl ke S c x su st gr q G bk) (hF : zFx (G 1)) (hE : xEv S c e r) (hh : 0 ≤ hall.toInt ∧ hall.toInt < (G 1 0).toInt) (h : post (sPrice (G 1) r hall s)) : wX_X2_price post su e hall s S := by
  have lk := cn_le (n := 6) hF.k.2
  obtain ⟨l, f, h1, h2, h3⟩ := P.U.h
  refine ⟨P.U.d, l, h1, h2.d, x_hall P h1 hh (fun a a1 a2 a3 a4 a5 => ⟨a1, hE.d, ?_⟩)⟩
  rintro _ rfl
  rw [a5, hE.du]
  refine zfold (L := fun m b k => wX_X2_price_l29 post su e hall s S m b k) (fun _ => True) (n := cn (G 1 2)) (f := fun k a => a + r (3 + k) * G 1 (38 + k)) (post := fun b => post (if 4 < sMod (s / 1440) 7 then b + b * G 1 5 / 100 else b)) (by omega) (fun _ _ _ _ => trivial) ?_ _ trivial h
  intro m k b hk _ p1 p2
  obtain ⟨lk', fk, k1, k2, k3⟩ := P.U.k
  refine ⟨P.U.d, lk', k1, k2.d, x_size k2 ?_⟩
  rw [zI_le (by omega) (by omega)]
  refine ⟨fun e1 => ⟨fun e2 => ?_, fun e2 => ?_⟩, fun e1 => ?_⟩
  · have := p1 (by omega)
    rw [if_neg (Int32.not_lt.mpr e2)] at this
    exact this
  · have := p1 (by omega)
    rw [if_pos (Int32.not_le.mp e2)] at this
    rw [P.U.we]
    exact this
  · obtain ⟨n, n1, n2, n3, n4, n5⟩ := hE.ne
    refine ⟨hE.d, n, n1, n2, zI_in' (by omega) (by rw [n4]; omega), x_kind P k1 (by omega) (fun a a1 a2 a3 a4 a5 => ⟨a1, ?_⟩)⟩
    rintro _ rfl
    rw [a4, zI_nat (by omega), n5 k (by omega)]
    exact p2 (by omega)
end
def oPrice (G : MG) (h s : Int32) : ZQ := if sSlot G h s = 0 then (0, sPrice (G 1) (G 6) h s) else (sSlot G h s, 0)
/-- classes of codes -/
def cls3 : Nat → String := fun k => match k with | 1 => "java/lang/IndexOutOfBoundsException" | 2 => "java/lang/IllegalArgumentException" | 3 => "java/lang/IllegalStateException" | _ => "java/util/NoSuchElementException"
section
variable {F : MF} {G : MG} {post : Int32 → MF → MG → Prop}
theorem M_price {hall s : Int32} (h : zOK G) (p : mAns F G (oPrice G hall s) post) : wM_price post hall s F G := by
  have l := sSlot_le G hall s
  refine m_whyNotSlot h.F ?_
  rintro _ rfl
  rw [upd0, zI_pos (by omega)]
  refine ⟨fun e => ?_, fun e => ?_⟩
  · rw [oPrice, if_pos e] at p
    obtain ⟨a, b⟩ := sSlot_0.mp e
    refine m_priceOf (o := 0) h.F rfl (by decide) (by decide) (sHall_iff.mp a) ?_
    simp only [Nat.zero_add]
    refine p _ _ ?_ (z_up0 h)
    show nI (sSlot G hall s) = nI 0
    rw [e]
  · rw [oPrice, if_neg e] at p
    exact p _ _ rfl (z_up0 h)
/-- a booking's number -/
theorem sBook_iff {b : Int32} : sBook G b = true ↔ 0 ≤ b.toInt ∧ b.toInt < (G 8 1).toInt := by
  rw [sBook, sIn_iff]; omega
theorem sBook_nI {b : Int32} (h : sBook G b = true) : b = nI (cn b) ∧ cn b < cn (G 8 1) := by
  have v := sBook_iff.mp h
  refine ⟨cn_nI v.1, ?_⟩
  have e1 : cn b = b.toInt.toNat := rfl
  have e2 : cn (G 8 1) = (G 8 1).toInt.toNat := rfl
  omega
def oPart (G : MG) (b : Nat) (w : Int32) : ZQ := if w = 0 then (0, gB G b 9) else if w = 1 then (0, gB G b 10) else if w = 2 then (0, sEnd G b) else if w = 3 then (0, gB G b 0) else if w = 4 then (0, gB G b 1) else if w = 5 then (0, sPrice (G 1) (gR G b) (gB G b 9) (gB G b 10)) else if w = 6 then (0, gB G b 11) else if w = 7 then (0, gB G b 12) else (2, 0)
def oBooking (G : MG) (b w : Int32) : ZQ := if sBook G b = false then (1, 0) else oPart G (cn b) w
theorem M_booking {b w : Int32} (h : zOK G) (p : mAns F G (oBooking G b w) post) : wM_booking post b w F G := by
  rintro _ rfl
  have z := z_up0 (F := F) (v := 0) h
  refine m_isBooking h.N ⟨fun e => ?_, fun e => ?_⟩ <;> simp only [bI_0, Bool.not_eq_false] at e
  · rw [oBooking, if_pos e] at p; exact m_fails (k := 1) h p
  rw [oBooking, if_neg (by rw [e]; decide)] at p
  obtain ⟨eb, lt⟩ := sBook_nI e
  have lb := cn_le (n := 60) h.N.b.2
  rw [eb]
  generalize cn b = b at *
  refine ⟨fun e0 => ?_, fun e0 => ⟨fun e1 => ?_, fun e1 => ⟨fun e2 => ?_, fun e2 => ⟨fun e3 => ?_, fun e3 => ⟨fun e4 => ?_, fun e4 => ⟨fun e5 => ?_, fun e5 => ⟨fun e6 => ?_, fun e6 => ⟨fun e7 => ?_, fun e7 => ?_⟩⟩⟩⟩⟩⟩⟩⟩
  · rw [oPart, if_pos e0] at p; exact m_of (w := 9) (by omega) (by decide) (p _ _ rfl z)
  · rw [oPart, if_neg e0, if_pos e1] at p; exact m_of (w := 10) (by omega) (by decide) (p _ _ rfl z)
  · rw [oPart, if_neg e0, if_neg e1, if_pos e2] at p; exact m_endOf (by omega) (p _ _ rfl z)
  · rw [oPart, if_neg e0, if_neg e1, if_neg e2, if_pos e3] at p; exact m_of (w := 0) (by omega) (by decide) (p _ _ rfl z)
  · rw [oPart, if_neg e0, if_neg e1, if_neg e2, if_neg e3, if_pos e4] at p; exact m_of (w := 1) (by omega) (by decide) (p _ _ rfl z)
  · rw [oPart, if_neg e0, if_neg e1, if_neg e2, if_neg e3, if_neg e4, if_pos e5] at p; exact m_priceNow h.F h.N lt (p _ _ rfl z)
  · rw [oPart, if_neg e0, if_neg e1, if_neg e2, if_neg e3, if_neg e4, if_neg e5, if_pos e6] at p; exact m_of (w := 11) (by omega) (by decide) (p _ _ rfl z)
  · rw [oPart, if_neg e0, if_neg e1, if_neg e2, if_neg e3, if_neg e4, if_neg e5, if_neg e6, if_pos e7] at p; exact m_of (w := 12) (by omega) (by decide) (p _ _ rfl z)
  · rw [oPart, if_neg e0, if_neg e1, if_neg e2, if_neg e3, if_neg e4, if_neg e5, if_neg e6, if_neg e7] at p; exact m_fails (k := 2) h p
def oBookedNeed (G : MG) (b k : Int32) : ZQ := if sBook G b = false then (1, 0) else if sKind G k = false then (1, 0) else (0, gB G (cn b) (3 + cn k))
theorem sKind_nI {k : Int32} (hF : zFx (G 1)) (h : sKind G k = true) : k = nI (cn k) ∧ cn k < cn (G 1 2) ∧ cn k < 6 := by
  have v := sIn_iff.mp h
  have := hF.k
  have e1 : cn k = k.toInt.toNat := rfl
  have e2 : cn (G 1 2) = (G 1 2).toInt.toNat := rfl
  exact ⟨cn_nI v.1, by omega, by omega⟩
theorem M_bookedNeed {b k : Int32} (h : zOK G) (p : mAns F G (oBookedNeed G b k) post) : wM_bookedNeed post b k F G := by
  rintro _ rfl
  refine m_isBooking h.N ⟨fun e => ?_, fun e => m_isKind h.F ⟨fun e2 => ?_, fun e2 => ?_⟩⟩ <;> simp only [bI_0, Bool.not_eq_false] at e
  · rw [oBookedNeed, if_pos e] at p; exact m_fails (k := 1) h p
  · simp only [bI_0] at e2
    rw [oBookedNeed, if_neg (by rw [e]; decide), if_pos e2] at p; exact m_fails (k := 1) h p
  · simp only [bI_0, Bool.not_eq_false] at e2
    rw [oBookedNeed, if_neg (by rw [e]; decide), if_neg (by rw [e2]; decide)] at p
    obtain ⟨eb, lt⟩ := sBook_nI e
    obtain ⟨ek, lk, lk6⟩ := sKind_nI h.F e2
    have lb := cn_le (n := 60) h.N.b.2
    rw [eb, ek, show (3 : Int32) + nI (cn k) = nI (3 + cn k) from zI_add 3 _]
    exact m_of (by omega) (by omega) (p _ _ rfl (z_up0 h))
/-- a request's place -/
abbrev gQ (G : MG) (k w : Nat) : Int32 := G 8 (784 + 11 * k + w)
def sReq (G : MG) (h : Int32) : Bool := sIn h.toInt 0 ((G 8 2).toInt - 1)
theorem sReq_nI {b : Int32} (h : sReq G b = true) : b = nI (cn b) ∧ cn b < cn (G 8 2) := by
  have v := sIn_iff.mp h
  have e1 : cn b = b.toInt.toNat := rfl
  have e2 : cn (G 8 2) = (G 8 2).toInt.toNat := rfl
  exact ⟨cn_nI v.1, by omega⟩
def oRequest (G : MG) (k w : Int32) : ZQ := if sReq G k = false then (1, 0) else if w = 0 then (0, gQ G (cn k) 9) else if w = 1 then (0, gQ G (cn k) 10) else if w = 2 then (0, gQ G (cn k) 10 + gQ G (cn k) 2) else if w = 3 then (0, gQ G (cn k) 0) else if w = 4 then (0, gQ G (cn k) 1) else (2, 0)
theorem M_request {k w : Int32} (h : zOK G) (p : mAns F G (oRequest G k w) post) : wM_request post k w F G := by
  rintro _ rfl
  have z := z_up0 (F := F) (v := 0) h
  have lr := cn_le (n := 20) h.N.r.2
  refine m_isIn ?_
  rw [z64, z64, z_pre h.N.r.1]
  refine ⟨fun e => ?_, fun e => ?_⟩ <;> simp only [bI_0, Bool.not_eq_false] at e
  · rw [oRequest, if_pos (show sReq G k = false from e)] at p; exact m_fails (k := 1) h p
  rw [oRequest, if_neg (by rw [show sReq G k = true from e]; decide)] at p
  obtain ⟨ek, lt⟩ := sReq_nI e
  rw [ek]
  generalize cn k = k at *
  have a1 : ∀ w, w < 11 → (784 : Int32) + 11 * nI k + nI w = nI (784 + 11 * k + w) := fun w _ => by rw [zI_lit, zI_lit, zI_mul, zI_add, zI_add]
  have a2 : ∀ w, w < 11 → vp_in ((784 : Int32) + 11 * nI k + nI w) 1052 ∧ ((784 : Int32) + 11 * nI k + nI w).toNatClampNeg = 784 + 11 * k + w := fun w hw => by
    rw [a1 w hw]
    exact ⟨zI_in' (by omega) (by omega), zI_nat (by omega)⟩
  unfold wM_requestAt
  have b9 := a2 9 (by decide)
  have b10 := a2 10 (by decide)
  have b2 := a2 2 (by decide)
  have b0 := a2 0 (by decide)
  have b1 := a2 1 (by decide)
  refine ⟨fun e0 => ?_, fun e0 => ⟨fun e1 => ?_, fun e1 => ⟨fun e2 => ?_, fun e2 => ⟨fun e3 => ?_, fun e3 => ⟨fun e4 => ?_, fun e4 => ?_⟩⟩⟩⟩⟩
  · rw [if_pos e0] at p; exact ⟨b9.1, by rw [show ((784 : Int32) + 11 * nI k + 9).toNatClampNeg = _ from b9.2]; exact p _ _ rfl z⟩
  · rw [if_neg e0, if_pos e1] at p; exact ⟨b10.1, by rw [show ((784 : Int32) + 11 * nI k + 10).toNatClampNeg = _ from b10.2]; exact p _ _ rfl z⟩
  · rw [if_neg e0, if_neg e1, if_pos e2] at p; exact ⟨b10.1, b2.1, by rw [show ((784 : Int32) + 11 * nI k + 10).toNatClampNeg = _ from b10.2, show ((784 : Int32) + 11 * nI k + 2).toNatClampNeg = _ from b2.2]; exact p _ _ rfl z⟩
  · rw [if_neg e0, if_neg e1, if_neg e2, if_pos e3] at p; exact ⟨b0.1, by rw [show ((784 : Int32) + 11 * nI k + 0).toNatClampNeg = _ from b0.2]; exact p _ _ rfl z⟩
  · rw [if_neg e0, if_neg e1, if_neg e2, if_neg e3, if_pos e4] at p; exact ⟨b1.1, by rw [show ((784 : Int32) + 11 * nI k + 1).toNatClampNeg = _ from b1.2]; exact p _ _ rfl z⟩
  · rw [if_neg e0, if_neg e1, if_neg e2, if_neg e3, if_neg e4] at p; exact m_fails (k := 2) h p
end
/-! the plan -/
section
variable {ke : Nat} {S : HS} {c : HC} {x : Nat} {ad qs : Nat → Nat} {bks : Nat → Nat → Nat} {F : MF} {G : MG} {px : String → Nat → HS → Prop} {mc ms : Nat}
theorem x_needHS {hall s : Int32} {post : Prop} (R : xRX ke S c x ad qs bks F G) (p1 : sSlot G hall s = 0 → post) (p2 : sSlot G hall s ≠ 0 → ∀ q, px (cls3 (sSlot G hall s)) q S) (hc : 2 ≤ mc) (hs : 12 ≤ ms) : wX_X1_needHallAndStart post px mc ms x hall s S := by
  refine ⟨R.P.T.d, x_isHall R.P R.F ⟨by omega, by omega, x_needIndex (fun e => x_isStart ⟨by omega, by omega, x_needValue (fun e2 => p1 (sSlot_0.mpr ⟨e, e2⟩)) (fun e2 q _ => ?_) (by decide) (by decide)⟩) (fun e q _ => ?_) (by decide) (by decide)⟩⟩
  · have v : sSlot G hall s = 2 := by rw [sSlot, if_neg (by rw [e]; decide), if_pos e2]
    rw [v] at p2; exact p2 (by decide) q
  · have v : sSlot G hall s = 1 := by rw [sSlot, if_pos e]
    rw [v] at p2; exact p2 (by decide) q
theorem X_price {hall s : Int32} {post : Int32 → Prop} (R : xRX ke S c x ad qs bks F G) (p : xAns ke x S (oPrice G hall s) cls3 post px) (hc : 2 ≤ mc) (hs : 12 ≤ ms) : wX_X1_price post px mc ms x hall s S := by
  refine ⟨R.P.T.d, hc, hs, x_needHS R (fun e => ?_) (fun e q => ?_) (by decide) (by decide)⟩
  · rw [oPrice, if_pos e] at p
    exact ⟨_, R.P.T.su, _, R.dr.1, R.P.U.d, x_price R.P R.F R.dr.2 (sHall_iff.mp (sSlot_0.mp e).1) (p.1 rfl)⟩
  · rw [oPrice, if_neg e] at p
    exact p.2 e q
theorem X_problem {hall s : Int32} {post : Int32 → HS → Prop} (R : xRX ke S c x ad qs bks F G) (p : xAns ke x S (oProblem G hall s) cls3 (fun r => ∀ g, post r (sG S (ad 2) g)) px) (hc : 3 ≤ mc) (hs : 18 ≤ ms) : wX_X1_problem post px mc ms x hall s S := by
  have lt : G 1 1 = 0 ↔ hI S 107 (ad 0) ≤ 0 := by
    rw [R.P.U.ty, z_le, z_eq]
    have := R.F.t.1
    simp only [show (0 : Int32).toInt = 0 from rfl]
    omega
  refine ⟨R.P.T.d, by omega, by omega, x_needHS R (fun e => ⟨_, R.P.T.su, R.P.U.d, fun e1 => ⟨by omega, by omega, x_needState (p := false) (fun z => by cases z) (fun _ q _ => ?_) (by decide) (by decide)⟩, fun e1 => ⟨by omega, by omega, x_needState (p := true) (fun _ => ?_) (fun z => by cases z) (by decide) (by decide)⟩⟩) (fun e q => ?_) (by decide) (by decide)⟩
  · have v : sDraft G hall s = 3 := by rw [sDraft, if_pos e, if_pos (lt.mpr e1)]
    rw [oProblem, v, if_neg (by decide)] at p
    exact p.2 (by decide) q
  · have v : sDraft G hall s = 0 := by rw [sDraft, if_pos e, if_neg (fun z => e1 (lt.mp z))]
    rw [oProblem, if_pos v] at p
    obtain ⟨a, b⟩ := sSlot_0.mp e
    refine ⟨_, R.dr.1, ?_⟩
    refine x_problemOf (G := sAsk G 6 0) (R.P.congr R.N rfl rfl (fun _ _ => rfl)) R.F R.N ?_ ?_ (sHall_iff.mp a) (sStart_iff.mp b) (fun g => p.1 rfl g)
    · obtain ⟨n, n1, n2, n3, n4, n5⟩ := R.dr.2.ne
      refine ⟨R.dr.2.d, R.dr.2.c0, R.dr.2.ty, R.dr.2.gu, R.dr.2.du, n, n1, n2, n3, n4, fun k hk => ?_⟩
      rw [n5 k hk]
      simp only [sAsk, mg_eq, Nat.zero_add]
      rw [if_pos (by omega)]
    · refine ⟨R.D.ty, R.D.gu, R.D.du, fun k hk => ?_⟩
      have := R.D.ne k hk
      simp only [sAsk, mg_eq, Nat.zero_add]
      rw [if_pos (by omega)]
      exact this
  · have v : sDraft G hall s = sSlot G hall s := by rw [sDraft, if_neg e]
    rw [oProblem, v, if_neg e] at p
    exact p.2 e q
end
