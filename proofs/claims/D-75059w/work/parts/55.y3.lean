/-! PLAIN LAWS, y3: a booking that is out -/
theorem sI_self (S : HS) (k a : Nat) : sI S k a (hI S k a) = S := by
  obtain ⟨D, I, R, L, A, B⟩ := S
  simp only [sI, hI, hD, hR, hL, hA, hB]
  congr 2
  funext k' a'
  simp only [up2]
  split
  · split
    · rename_i p q; rw [p, q]
    · rfl
  · rfl
theorem sI_sI (S : HS) (k a : Nat) (v w : Int32) : sI (sI S k a v) k a w = sI S k a w := by
  simp only [sI, hI, hD, hR, hL, hA, hB]
  congr 2
  funext k' a'
  simp only [up2]
  split
  · split <;> rfl
  · rfl
theorem sI_sG (S : HS) (k a g : Nat) (v : Int32) (h : Nat → Int32) : sI (sG S g h) k a v = sG (sI S k a v) g h := rfl
theorem xTop.ext {S S' : HS} {c c' : HC} {W : Nat → Prop} {x su st gr : Nat} (H : xTop S c x su st gr) (E : xExt S c S' c' W) (w : ∀ a, c a = 1 ∨ c a = 2 ∨ c a = 3 → ¬ W a) : xTop S' c' x su st gr := by
  have wx := w x (.inl H.cx)
  have wg := w gr (.inr (.inl H.gc))
  refine ⟨E.D H.d, (E.C H.d).trans H.cx, (E.R H.d wx _).trans H.su, (E.R H.d wx _).trans H.st, (E.R H.d wx _).trans H.g, E.D H.gd, (E.C H.gd).trans H.gc, (E.L H.gd wg).trans H.gl, ?_⟩
  obtain ⟨a, f, h1, h2, h3, h4, h5⟩ := H.ck
  have wa := w a (.inr (.inr h3))
  refine ⟨a, f, (E.R H.d wx _).trans h1, E.D h2, (E.C h2).trans h3, (E.L h2 wa).trans h4, fun k k1 k2 => ?_⟩
  obtain ⟨f1, f2, f3, f4⟩ := h5 k k1 k2
  exact ⟨(E.B h2 wa _).trans f1, E.D f2, (E.C f2).trans f3, (E.R f2 (w _ (.inr (.inr f3))) _).trans f4⟩
/-! rows that tell the same -/
theorem xEv.congr {S : HS} {c : HC} {e : Nat} {r r' : Nat → Int32} (H : xEv S c e r) (h : ∀ w, w < 9 → r' w = r w) : xEv S c e r' := by
  obtain ⟨n, n1, n2, n3, n4, n5⟩ := H.ne
  exact ⟨H.d, H.c0, H.ty.trans (h 0 (by decide)).symm, H.gu.trans (h 1 (by decide)).symm, H.du.trans (h 2 (by decide)).symm, n, n1, n2, n3, n4, fun k hk => (n5 k hk).trans (h (3 + k) (by omega)).symm⟩
theorem sPrice_congr {g r r' : Nat → Int32} {x y : Int32} (hg : cn (g 2) ≤ 6) (h : ∀ w, w < 9 → r' w = r w) : sPrice g r' x y = sPrice g r x y := by
  unfold sPrice
  rw [h 2 (by decide), zf_congr (g := fun k a => a + r (3 + k) * g (38 + k)) 0 (cn (g 2)) _ (fun i a _ hi => by rw [h (3 + i) (by omega)])]
theorem xBk.congr {S : HS} {c : HC} {q b : Nat} {g r r' : Nat → Int32} {o : Int32} (H : xBk S c q b g r o) (hg : cn (g 2) ≤ 6) (h : ∀ w, w < 13 → r' w = r w) : xBk S c q b g r' o := by
  obtain ⟨e, v1, v2⟩ := H.ev
  refine ⟨H.d, H.cb, ⟨e, v1, v2.congr (fun w hw => h w (by omega))⟩, H.ha.trans (h 9 (by decide)).symm, H.st.trans (h 10 (by decide)).symm, ?_, H.fe.trans (h 12 (by decide)).symm, H.ac.trans (h 11 (by decide)).symm, H.ou⟩
  rw [h 9 (by decide), h 10 (by decide), sPrice_congr hg (fun w hw => h w (by omega))]
  exact H.pr
theorem xRq.congr {S : HS} {c : HC} {o : Nat} {r r' : Nat → Int32} (H : xRq S c o r) (h : ∀ w, w < 11 → r' w = r w) : xRq S c o r' := by
  obtain ⟨e, v1, v2⟩ := H.ev
  exact ⟨H.d, H.c0, ⟨e, v1, v2.congr (fun w hw => h w (by omega))⟩, H.ha.trans (h 9 (by decide)).symm, H.st.trans (h 10 (by decide)).symm⟩
theorem xCl.congr {S : HS} {c : HC} {o : Nat} {r r' : Nat → Int32} (H : xCl S c o r) (h : ∀ w, w < 3 → r' w = r w) : xCl S c o r' :=
  ⟨H.d, H.c0, H.ha.trans (h 0 (by decide)).symm, H.fr.trans (h 1 (by decide)).symm, H.to.trans (h 2 (by decide)).symm⟩
/-- one booking's field anew: the others keep -/
theorem xPl.bkI {ke : Nat} {S : HS} {c : HC} {x su st gr q : Nat} {G G1 : MG} {bk : Nat → Nat} {b k : Nat} {v : Int32} (P : xPl ke S c x su st gr q G bk) (hF : zFx (G 1)) (hN : zNw (G 1) (G 8)) (hb : b < cn (G 8 1))
    (h1 : G1 1 = G 1) (h8 : ∀ j, (∀ w, w < 13 → j ≠ 4 + 13 * b + w) → G1 8 j = G 8 j) (h19 : ∀ j, j ≠ b → j < cn (G 8 1) → G1 19 j = G 19 j)
    (hB : xBk (sI S k (bk b) v) c (q + 2) (bk b) (G 1) (fun w => G1 8 (4 + 13 * b + w)) (G1 19 b)) : xPl ke (sI S k (bk b) v) c x su st gr q G1 bk := by
  have cb := (P.V.bb b hb).cb
  have hq := P.q
  have lk := cn_le (n := 6) hF.k.2
  have lb := cn_le (n := 60) hN.b.2
  have E := oI S c k (bk b) v
  have w0 : ∀ a, c a = 0 → ¬ a = bk b := fun a ha z => by rw [z, cb] at ha; omega
  have n0 : ∀ j, j < 4 → G1 8 j = G 8 j := fun j hj => h8 j (fun w _ => by omega)
  have n7 : ∀ j, 784 ≤ j → G1 8 j = G 8 j := fun j hj => h8 j (fun w _ => by omega)
  refine ⟨P.T.ext E (fun a ha z => by rw [z, cb] at ha; omega), ?_, ?_, hq⟩
  · rw [h1]; exact P.U.ext E (fun a ha z => by rw [z, cb] at ha; rcases ha with ha | ⟨i, _, ha⟩ <;> omega)
  have V := P.V
  have ws : st ≠ bk b := fun z => by have := V.cs; rw [z, cb] at this; omega
  rw [h1]
  refine ⟨E.D V.d, (E.C V.d).trans V.cs, ?_, ?_, ?_, fun j hj => ?_, ?_, ?_, ?_⟩
  · rw [n0 3 (by decide)]; exact (E.I V.d ws _).trans V.cl
  · rw [n0 0 (by decide)]; exact (E.I V.d ws _).trans V.no
  · rw [n0 1 (by decide)]
    obtain ⟨l, l1, l2⟩ := V.b
    exact ⟨l, (E.R V.d ws _).trans l1, l2.ext E (fun a ha z => by rw [z, cb] at ha; omega)⟩
  · rw [n0 1 (by decide)] at hj
    by_cases z : j = b
    · subst z; exact hB
    · rw [h19 j z hj]
      exact ((V.bb j hj).ext E w0 (fun y => z (V.bi j b hj hb y))).congr lk (fun w hw => h8 _ (fun w' _ => by omega))
  · rw [n0 1 (by decide)]; exact V.bi
  · rw [n0 2 (by decide)]
    obtain ⟨l, rq, l1, l2, l3⟩ := V.r
    exact ⟨l, rq, (E.R V.d ws _).trans l1, l2.ext E (fun a ha z => by rw [z, cb] at ha; omega), fun j hj => ((l3 j hj).ext E w0).congr (fun w hw => n7 _ (by omega))⟩
  · rw [n0 3 (by decide)]
    obtain ⟨a, a1, a2, a3, a4⟩ := V.s
    obtain ⟨b2, b3, b4, b5, b6⟩ := zS.ext (r := fun k w => G 8 (1004 + 3 * k + w)) (i := fun _ _ => 0) ⟨a2, a3, a4⟩ E (fun a ha z => by rw [z, cb] at ha; omega)
    refine ⟨a, (E.R V.d ws _).trans a1, b2, b3, b4, fun j hj => ?_, b6⟩
    obtain ⟨o, o1, o2⟩ := b5 j hj
    exact ⟨o, o1, o2.congr (fun w hw => n7 _ (by omega))⟩
theorem sI_at (S : HS) (k a : Nat) (v : Int32) (k' : Nat) : hI (sI S k a v) k' a = if k' = k then v else hI S k' a := by
  show (if k' = k then (if a = a then v else hI S k' a) else hI S k' a) = _
  rw [if_pos rfl]
/-- a booking goes out, or comes back -/
theorem xPl.out {ke : Nat} {S : HS} {c : HC} {x su st gr q : Nat} {G : MG} {bk : Nat → Nat} {b : Nat} {v : Int32} (P : xPl ke S c x su st gr q G bk) (hF : zFx (G 1)) (hN : zNw (G 1) (G 8)) (hb : b < cn (G 8 1)) : xPl ke (sI S 806 (bk b) v) c x su st gr q (mg G 19 (upd (G 19) b v)) bk := by
  have B := P.V.bb b hb
  have hq := P.q
  refine P.bkI hF hN hb rfl (fun j _ => rfl) (fun j hj _ => if_neg hj) ?_
  have e : mg G 19 (upd (G 19) b v) 19 b = v := by rw [mg_eq]; exact if_pos rfl
  rw [e]
  obtain ⟨e1, v1, v2⟩ := B.ev
  have E := oI S c 806 (bk b) v
  refine ⟨B.d, B.cb, ⟨e1, v1, v2.ext E (fun a ha z => by rw [z, B.cb] at ha; omega)⟩, ?_, ?_, ?_, ?_, ?_, ?_⟩ <;> rw [sI_at]
  · exact B.ha
  · exact B.st
  · exact B.pr
  · exact B.fe
  · exact B.ac
  · rfl
/-- what is wrong with a booking in a slot -/
def sBookProb (G : MG) (b : Nat) (hall s : Int32) : Int32 := sProb (mg (sAsk G 8 (4 + 13 * b)) 19 (upd (G 19) b 1)) hall s
theorem zEv_row {G : MG} {r x : Nat} {G1 : MG} (H : zEv (fun w => G r (x + w))) (h : G1 7 = sAsk G r x 7) : zEv (G1 7) := by
  rw [h]
  refine ⟨H.ty, H.gu, H.du, fun k hk => ?_⟩
  have := H.ne k hk
  simp only [sAsk, mg_eq]
  rw [if_pos (by omega)]
  exact this
theorem xEv_row {S : HS} {c : HC} {e : Nat} {G : MG} {r x : Nat} {G1 : MG} (H : xEv S c e (fun w => G r (x + w))) (h : G1 7 = sAsk G r x 7) : xEv S c e (G1 7) := by
  rw [h]
  exact H.congr (fun w hw => by simp only [sAsk, mg_eq]; rw [if_pos hw])
theorem m_asks8 {post : MF → MG → Prop} {F : MF} {G : MG} {b : Nat} (hb : b < 60) (h : post F (sAsk G 8 (4 + 13 * b))) : wM_asks post 8 (4 + 13 * nI b) F G := by
  have e8 : m_ln 8 = 1052 := rfl
  rw [z_row]
  exact m_asks (x := 4 + 13 * b) rfl (by decide) (by rw [e8]; omega) (by rw [e8]; omega) h
theorem and1 {v : Int32} (h : v = 0 ∨ v = 1) : v &&& 1 = v := by rcases h with rfl | rfl <;> decide
theorem m_bookingProblem {post : Int32 → MF → MG → Prop} {F : MF} {G : MG} {b : Nat} {hall s : Int32} (hF : zFx (G 1)) (hN : zNw (G 1) (G 8)) (hb : b < cn (G 8 1)) (ho : G 19 b = 0 ∨ G 19 b = 1) (hh : 0 ≤ hall.toInt ∧ hall.toInt < (G 1 0).toInt) (hs : zSt s) (h : ∀ G1, zE G G1 → post (sBookProb G b hall s) F G1) : wM_bookingProblem post (nI b) hall s F G := by
  have lb := cn_le (n := 60) hN.b.2
  unfold wM_bookingProblem
  refine m_rowOf (m_asks8 (by omega) ⟨zI_in' (by omega) (by omega), ?_⟩)
  rintro _ rfl
  refine ⟨zI_in' (by omega) (by omega), ?_⟩
  rintro _ rfl
  rw [zI_nat (by omega), mu_eq]
  have e1 : sAsk G 8 (4 + 13 * b) 19 = G 19 := rfl
  rw [e1, show (1 : Int32) &&& 1 = 1 by decide]
  refine m_problemOf (G := mg (sAsk G 8 (4 + 13 * b)) 19 (upd (G 19) b 1)) hF hN (zEv_row (hN.be b hb) rfl) hh hs (fun g => ⟨zI_in' (by omega) (by omega), ?_⟩)
  rintro _ rfl
  refine h _ (fun k h7 h20 => ?_)
  rw [and1 ho, mu_eq]
  by_cases z : k = 19
  · subst z
    rw [mg_eq]
    funext j
    show upd (upd (G 19) b 1) b (G 19 b) j = G 19 j
    simp only [upd]
    split
    · rename_i q; rw [q]
    · rfl
  · rw [mg_ne z, mg_ne h20, mg_ne z]
    exact mg_ne h7
theorem x_moveProblemOf {ke : Nat} {S : HS} {c : HC} {x su st gr q : Nat} {G : MG} {bk : Nat → Nat} {b : Nat} {hall s : Int32} {post : Int32 → HS → Prop} (P : xPl ke S c x su st gr q G bk) (hF : zFx (G 1)) (hN : zNw (G 1) (G 8)) (hb : b < cn (G 8 1)) (ho : G 19 b = 0) (hh : 0 ≤ hall.toInt ∧ hall.toInt < (G 1 0).toInt) (hs : zSt s) (h : ∀ g, post (sBookProb G b hall s) (sG S gr g)) : wX_X1_moveProblemOf post x (bk b) hall s S := by
  have B := P.V.bb b hb
  refine ⟨B.d, ?_⟩
  rintro _ rfl
  have P1 := P.out (v := 1) hF hN hb
  have B1 := P1.V.bb b hb
  obtain ⟨e, v1, v2⟩ := B1.ev
  refine ⟨e, v1, P1.T.d, ?_⟩
  have P2 : xPl ke (sI S 806 (bk b) 1) c x su st gr q (mg (sAsk G 8 (4 + 13 * b)) 19 (upd (G 19) b 1)) bk := P1.congr hN rfl rfl (fun _ _ => rfl)
  refine x_problemOf P2 hF hN (xEv_row (G := G) (r := 8) (x := 4 + 13 * b) v2 rfl) (zEv_row (hN.be b hb) rfl) hh hs (fun g => ⟨B1.d, ?_⟩)
  rintro _ rfl
  rw [sI_sG, sI_sI]
  have o : hI S 806 (bk b) = 0 := by rw [B.ou]; exact ho
  rw [← o, sI_self]
  exact h g
def oMoveProb (G : MG) (b h s : Int32) : ZQ := if sBook G b = false then (1, 0) else if sHall G h = false then (1, 0) else if sStart s = false then (2, 0) else if gB G (cn b) 11 == 1 then (0, sBookProb G (cn b) h s) else (3, 0)
/-- why nothing can be asked of a booking, a hall and a start -/
def sBSlot (G : MG) (b h s : Int32) : Nat := if sBook G b = false then 1 else if sHall G h = false then 1 else if sStart s = false then 2 else 0
theorem m_whyNotBooking {post : Int32 → Prop} {F : MF} {G : MG} {b h s : Int32} (hF : zFx (G 1)) (hN : zNw (G 1) (G 8)) (p : post (nI (sBSlot G b h s))) : wM_whyNotBooking post b h s F G := by
  refine m_isBooking hN ⟨fun e => ?_, fun e => m_isHall hF ⟨fun e2 => ?_, fun e2 => m_isStart ⟨fun e3 => ?_, fun e3 => ?_⟩⟩⟩ <;> simp only [bI_0, Bool.not_eq_false] at e
  · rw [sBSlot, if_pos e] at p; exact p
  · simp only [bI_0] at e2
    rw [sBSlot, if_neg (by rw [e]; decide), if_pos e2] at p; exact p
  · simp only [bI_0, Bool.not_eq_false] at e2 e3
    rw [sBSlot, if_neg (by rw [e]; decide), if_neg (by rw [e2]; decide), if_pos e3] at p; exact p
  · simp only [bI_0, Bool.not_eq_false] at e2 e3
    rw [sBSlot, if_neg (by rw [e]; decide), if_neg (by rw [e2]; decide), if_neg (by rw [e3]; decide)] at p; exact p
theorem sBSlot_le (G : MG) (b h s : Int32) : sBSlot G b h s ≤ 2 := by
  unfold sBSlot; split <;> (try split) <;> (try split) <;> omega
theorem sBSlot_0 {G : MG} {b h s : Int32} : sBSlot G b h s = 0 ↔ sBook G b = true ∧ sHall G h = true ∧ sStart s = true := by
  unfold sBSlot
  by_cases a : sBook G b = true <;> by_cases b' : sHall G h = true <;> by_cases d : sStart s = true <;> simp [a, b', d]
theorem oMoveProb_eq (G : MG) (b h s : Int32) : oMoveProb G b h s = if sBSlot G b h s = 0 then (if gB G (cn b) 11 == 1 then (0, sBookProb G (cn b) h s) else (3, 0)) else (sBSlot G b h s, 0) := by
  unfold sBSlot oMoveProb
  by_cases a : sBook G b = true <;> by_cases b' : sHall G h = true <;> by_cases d : sStart s = true <;> simp [a, b', d]
theorem M_moveProblem {F : MF} {G : MG} {b hall s : Int32} {post : Int32 → MF → MG → Prop} (h : zOK G) (p : mAns F G (oMoveProb G b hall s) post) : wM_moveProblem post b hall s F G := by
  have l := sBSlot_le G b hall s
  have lb := cn_le (n := 60) h.N.b.2
  rw [oMoveProb_eq] at p
  refine m_whyNotBooking h.F h.N ?_
  rintro _ rfl
  rw [upd0, zI_pos (by omega)]
  refine ⟨fun e => ?_, fun e => ?_⟩
  · rw [if_pos e] at p
    obtain ⟨a, b', d⟩ := sBSlot_0.mp e
    obtain ⟨eb, lt⟩ := sBook_nI a
    rw [e, eb]
    refine m_isActive (by omega) ⟨fun e1 => ?_, fun e1 => ?_⟩ <;> simp only [bI_0, Bool.not_eq_false] at e1
    · rw [if_neg (by rw [e1]; decide)] at p; exact m_fails (k := 3) h p
    · rw [if_pos e1] at p
      exact m_bookingProblem h.F h.N lt (.inl (h.out _ (by omega))) (sHall_iff.mp b') (sStart_iff.mp d) (fun G1 e1 => p _ _ rfl (z_up h e1))
  · rw [if_neg e] at p
    exact p _ _ rfl (z_up0 h)
section
variable {ke : Nat} {S : HS} {c : HC} {x : Nat} {ad qs : Nat → Nat} {bks : Nat → Nat → Nat} {F : MF} {G : MG} {px : String → Nat → HS → Prop} {mc ms : Nat}
theorem x_needSlot {b hall s : Int32} {post : Prop} (R : xRX ke S c x ad qs bks F G) (p1 : sBSlot G b hall s = 0 → post) (p2 : sBSlot G b hall s ≠ 0 → ∀ q, px (cls3 (sBSlot G b hall s)) q S) (hc : 2 ≤ mc) (hs : 12 ≤ ms) : wX_X1_needSlot post px mc ms x b hall s S := by
  refine ⟨R.P.T.d, x_isBooking R.P R.N ⟨fun e => ⟨by omega, by omega, x_needIndex (p := false) (fun z => by cases z) (fun _ q _ => ?_) (by decide) (by decide)⟩, fun e => x_isHall R.P R.F ⟨fun e2 => ⟨by omega, by omega, x_needIndex (p := false) (fun z => by cases z) (fun _ q _ => ?_) (by decide) (by decide)⟩, fun e2 => ⟨by omega, by omega, x_needIndex (p := true) (fun _ => x_isStart ⟨by omega, by omega, x_needValue (fun e3 => ?_) (fun e3 q _ => ?_) (by decide) (by decide)⟩) (fun z => by cases z) (by decide) (by decide)⟩⟩⟩⟩ <;> simp only [bI_0, Bool.not_eq_false] at e
  · have v : sBSlot G b hall s = 1 := by rw [sBSlot, if_pos e]
    rw [v] at p2; exact p2 (by decide) q
  · simp only [bI_0] at e2
    have v : sBSlot G b hall s = 1 := by rw [sBSlot, if_neg (by rw [e]; decide), if_pos e2]
    rw [v] at p2; exact p2 (by decide) q
  · simp only [bI_0, Bool.not_eq_false] at e2
    exact p1 (sBSlot_0.mpr ⟨e, e2, e3⟩)
  · simp only [bI_0, Bool.not_eq_false] at e2
    have v : sBSlot G b hall s = 2 := by rw [sBSlot, if_neg (by rw [e]; decide), if_neg (by rw [e2]; decide), if_pos e3]
    rw [v] at p2; exact p2 (by decide) q
theorem X_moveProblem {b hall s : Int32} {post : Int32 → HS → Prop} (R : xRX ke S c x ad qs bks F G) (p : xAns ke x S (oMoveProb G b hall s) cls3 (fun r => ∀ g, post r (sG S (ad 2) g)) px) (hc : 3 ≤ mc) (hs : 18 ≤ ms) : wX_X1_moveProblem post px mc ms x b hall s S := by
  have lb := cn_le (n := 60) R.N.b.2
  rw [oMoveProb_eq] at p
  refine ⟨R.P.T.d, by omega, by omega, x_needSlot R (fun e => ?_) (fun e q => ?_) (by decide) (by decide)⟩
  · rw [if_pos e] at p
    obtain ⟨a, b', d⟩ := sBSlot_0.mp e
    obtain ⟨eb, lt⟩ := sBook_nI a
    rw [eb]
    have B := R.P.V.bb (cn b) lt
    have a1 : hI S 805 (bks 0 (cn b)) = bI (gB G (cn b) 11 == 1) := by
      have : hI S 805 (bks 0 (cn b)) = gB G (cn b) 11 := B.ac
      rw [this]
      rcases R.N.ba (cn b) lt with z | z <;> replace z : gB G (cn b) 11 = _ := z <;> rw [z] <;> decide
    refine x_booking R.P lt ⟨B.d, by omega, by omega, ?_⟩
    rw [a1]
    refine x_needState (fun e1 => x_booking R.P lt ?_) (fun e1 q _ => ?_) (by decide) (by decide)
    · rw [if_pos e1] at p
      exact x_moveProblemOf R.P R.F R.N lt (R.out _ (by omega)) (sHall_iff.mp b') (sStart_iff.mp d) (fun g => p.1 rfl g)
    · rw [if_neg (by rw [e1]; decide)] at p; exact p.2 (by decide) q
  · rw [if_neg e] at p
    exact p.2 e q
end
