/-! PLAIN LAWS, z7: a closure more -/
def sBkIn (G : MG) (h a b : Int32) (k : Nat) : Bool := gB G k 11 == 1 && gB G k 9 == h && decide (gB G k 10 < b) && decide (a < sEnd G k)
def sCls (n : Nat → Int32) (h a b : Int32) : Nat → Int32 := upd (upd (upd (upd n (1004 + 3 * cn (n 3)) h) (1004 + 3 * cn (n 3) + 1) a) (1004 + 3 * cn (n 3) + 2) b) 3 (n 3 + 1)
theorem sCls_old {n : Nat → Int32} {h a b : Int32} {i : Nat} (h3 : i ≠ 3) (h2 : i < 1004 + 3 * cn (n 3)) : sCls n h a b i = n i := by
  simp only [sCls, upd]
  rw [if_neg h3, if_neg (by omega), if_neg (by omega), if_neg (by omega)]
theorem sCls_3 {n : Nat → Int32} {h a b : Int32} : sCls n h a b 3 = n 3 + 1 := by
  unfold sCls
  exact if_pos rfl
theorem sCls_new {n : Nat → Int32} {h a b : Int32} : sCls n h a b (1004 + 3 * cn (n 3) + 0) = h ∧ sCls n h a b (1004 + 3 * cn (n 3) + 1) = a ∧ sCls n h a b (1004 + 3 * cn (n 3) + 2) = b := by
  refine ⟨?_, ?_, ?_⟩ <;> simp only [sCls, upd, Nat.add_zero]
  · rw [if_neg (by omega), if_neg (by omega), if_neg (by omega), if_true]
  · rw [if_neg (by omega), if_neg (by omega), if_true]
  · rw [if_neg (by omega), if_true]
theorem zNw.cls {g n : Nat → Int32} {h a b : Int32} (N : zNw g n) (hb : (n 3).toInt < 16) : zNw g (sCls n h a b) := by
  have lb := cn_le (n := 60) N.b.2
  have lr := cn_le (n := 20) N.r.2
  obtain ⟨c1, c2⟩ := z_succ (N := 16) ⟨N.s.1, hb⟩ (by decide)
  have b0 := N.s
  have o : ∀ i, i < 1004 → i ≠ 3 → sCls n h a b i = n i := fun i hi h3 => sCls_old h3 (by omega)
  have u1 := o 1 (by decide) (by decide)
  have u2 := o 2 (by decide) (by decide)
  refine ⟨by rw [o 0 (by decide) (by decide)]; exact N.no, by rw [u1]; exact N.b, by rw [u2]; exact N.r, by rw [sCls_3]; omega, ?_, ?_, ?_, ?_, ?_, ?_, ?_⟩
  · rw [u1]; intro j hj
    exact (N.be j hj).congr (fun w hw => o _ (by omega) (by omega))
  · rw [u1]; intro j hj
    rw [o _ (by omega) (by omega)]; exact N.bp j hj
  · rw [u1]; intro j hj
    rw [o _ (by omega) (by omega)]; exact N.bs j hj
  · rw [u1]; intro j hj
    rw [o _ (by omega) (by omega)]; exact N.ba j hj
  · rw [u2]; intro j hj
    exact (N.re j hj).congr (fun w hw => o _ (by omega) (by omega))
  · rw [u2]; intro j hj
    rw [o _ (by omega) (by omega)]; exact N.rp j hj
  · rw [u2]; intro j hj
    rw [o _ (by omega) (by omega)]; exact N.rs j hj
theorem m_isBookedIn {post : Int32 → Prop} {F : MF} {G : MG} {h a b : Int32} (hN : zNw (G 1) (G 8)) (p : post (bI (zany (sBkIn G h a b) 0 (cn (G 8 1))))) : wM_isBookedIn post h a b F G := by
  have l1 := cn_le (n := 60) hN.b.2
  refine zup (L := fun m k => wM_isBookedIn_l3 post F G m h a b k) (cn (G 8 1)) (by omega) (fun k => post (bI (zany (sBkIn G h a b) k (cn (G 8 1) - k)))) ?_ 0 (Nat.zero_le _) p
  intro m k hk hJ next
  simp only [wM_isBookedIn_l3, wM_isBookedIn_b3]
  rw [cn_nI hN.b.1, zI_le (by omega) (by omega)]
  refine ⟨fun e => ?_, fun e => ?_⟩
  · rw [show cn (G 8 1) - k = 0 by omega] at hJ; exact hJ
  rw [show cn (G 8 1) - k = (cn (G 8 1) - (k + 1)) + 1 by omega] at hJ
  simp only [zany] at hJ
  have no : sBkIn G h a b k = false → wM_isBookedIn_l3 post F G m h a b (nI k + 1) := fun z => by
    rw [z, Bool.false_or] at hJ; exact next (by omega) hJ
  refine m_isActive (by omega) ⟨fun e1 => no ?_, fun e1 => m_of (w := 9) (by omega) (by decide) ⟨fun e2 => m_of (w := 10) (by omega) (by decide) ⟨fun e3 => no ?_, fun e3 => m_endOf (by omega) ⟨fun e4 => no ?_, fun e4 => ?_⟩⟩, fun e2 => no ?_⟩⟩ <;> simp only [bI_0, Bool.not_eq_false] at e1
  · simp only [sBkIn, e1, Bool.false_and]
  · simp only [sBkIn, Int32.not_lt.mpr e3, decide_false, Bool.and_false, Bool.false_and]
  · simp only [sBkIn, Int32.not_lt.mpr e4, decide_false, Bool.and_false]
  · have : sBkIn G h a b k = true := by simp only [sBkIn, e1, e2, Int32.not_le.mp e3, Int32.not_le.mp e4, beq_self_eq_true, decide_true, Bool.and_true]
    rw [this, Bool.true_or] at hJ
    exact hJ
  · have : (gB G k 9 == h) = false := by simpa using e2
    simp only [sBkIn, this, Bool.and_false, Bool.false_and]
def sClsOk (a b : Int32) : Bool := sStart a && sIn b.toInt (a.toInt + 1) 86400 && sMod b 15 == 0
def oClose (F : MF) (G : MG) (h a b : Int32) : ZR := if sHall G h = false then (1, 0, F, G) else if sClsOk a b = false then (2, 0, F, G) else if G 8 3 = 16 ∨ zany (sBkIn G h a b) 0 (cn (G 8 1)) = true then (3, 0, F, G) else (0, G 8 3 + 1, sRemF F, mg (sRemG F G) 8 (sCls (G 8) h a b))
theorem z64s (i : Int32) : (i.toInt64 + 1).toInt = i.toInt + 1 := by
  rw [Int64.toInt_add, z64, show ((1 : Int64)).toInt = 1 from rfl]
  have h1 := i.toInt_lt
  have h2 := i.le_toInt
  simp only [Int.bmod_def]
  omega
theorem z_lt16 {i : Int32} (h : 0 ≤ i.toInt ∧ i.toInt ≤ 16) (n : ¬ i = 16) : i.toInt < 16 := by
  have : i.toInt ≠ 16 := fun e => n (Int32.toInt_inj.mp e)
  omega
theorem M_close {hall a b : Int32} {F : MF} {G : MG} {post : Int32 → MF → MG → Prop} (h : zOK G) (hc : ∃ h, F 11 = nI h ∧ h ≤ 8) (p : mDone (oClose F G hall a b) post) : wM_close post hall a b F G := by
  rintro _ rfl
  refine m_isHall h.F ⟨fun e => ?_, fun e => m_isStart ⟨fun e1 => ?_, fun e1 => m_isIn ?_⟩⟩ <;> simp only [bI_0, Bool.not_eq_false] at e
  · rw [oClose, if_pos e] at p; exact m_fails (k := 1) h p
  · simp only [bI_0] at e1
    rw [oClose, if_neg (by rw [e]; decide), if_pos (by simp only [sClsOk, e1, Bool.false_and])] at p; exact m_fails (k := 2) h p
  simp only [bI_0, Bool.not_eq_false] at e1
  rw [oClose, if_neg (by rw [e]; decide)] at p
  rw [z64, z64s, show ((86400 : Int64)).toInt = 86400 from rfl]
  refine ⟨fun e2 => ?_, fun e2 => ⟨fun e3 => ?_, fun e3 => ?_⟩⟩ <;> simp only [bI_0, Bool.not_eq_false] at e2
  · rw [if_pos (by simp only [sClsOk, e2, Bool.false_and, Bool.and_false])] at p; exact m_fails (k := 2) h p
  · have e3' : (sMod b 15 == 0) = true := by simpa using e3
    rw [if_neg (by simp only [sClsOk, e1, e2, e3']; decide)] at p
    refine ⟨fun e4 => ?_, fun e4 => m_isBookedIn h.N ⟨fun e5 => ?_, fun e5 => ?_⟩⟩
    · rw [if_pos (.inl e4)] at p; exact m_fails (k := 3) h p
    · simp only [bI_0] at e5
      rw [if_neg (fun z => z.elim e4 (fun z => by rw [e5] at z; cases z))] at p
      refine m_remembers hc ?_
      obtain ⟨s1, s2⟩ := sRem_same (F := F) (F1 := upd F 0 0) (zE.rf G) (upd_ne0 F _)
      have r8 : sRemG (upd F 0 0) G 8 = G 8 := sRem_ne (by decide)
      have hz := mg_same (Y := sCls (G 8) hall a b) s1
      have fin : ∀ {F2 : MF}, F2 = sRemF (upd F 0 0) → post (G 8 3 + 1) F2 (mg (sRemG (upd F 0 0) G) 8 (sCls (G 8) hall a b)) := by
        rintro _ rfl
        refine p _ _ ?_ ⟨s2 11 (by decide), s2 12 (by decide), s2 14 (by decide), hz 1 (by decide) (by decide), hz 6 (by decide) (by decide), hz 8 (by decide) (by decide), hz 9 (by decide) (by decide), hz 10 (by decide) (by decide), hz 13 (by decide) (by decide), ?_⟩
        · rw [(sRemF_0 (G := G) _).1]; rfl
        · show ∀ i, i < 60 → mg (sRemG (upd F 0 0) G) 8 (sCls (G 8) hall a b) 19 i = 0
          rw [mg_ne (show 19 ≠ 8 by decide), sRem_ne (by decide)]; exact h.out
      have cb : cn (G 8 3) < 16 := cn_lt' h.N.s.1 (z_lt16 h.N.s e4)
      have en := cn_nI h.N.s.1
      generalize sRemG (upd F 0 0) G = G2 at *
      generalize sRemF (upd F 0 0) = F2 at *
      have rq : (1004 : Int32) + 3 * G2 8 3 = nI (1004 + 3 * cn (G 8 3)) := by
        rw [r8, en, show (1004 : Int32) = nI 1004 from rfl, show (3 : Int32) = nI 3 from rfl, zI_mul, zI_add, ← en]
      rw [rq]
      rintro _ rfl
      rw [show nI (1004 + 3 * cn (G 8 3)) + (1 : Int32) = nI (1004 + 3 * cn (G 8 3) + 1) from zI_add _ 1, show nI (1004 + 3 * cn (G 8 3)) + (2 : Int32) = nI (1004 + 3 * cn (G 8 3) + 2) from zI_add _ 2, zI_nat (show 1004 + 3 * cn (G 8 3) < 2147483648 by omega), zI_nat (show 1004 + 3 * cn (G 8 3) + 1 < 2147483648 by omega), zI_nat (show 1004 + 3 * cn (G 8 3) + 2 < 2147483648 by omega)]
      refine ⟨zI_in' (by omega) (by omega), ?_⟩
      rintro _ rfl
      refine ⟨zI_in' (by omega) (by omega), ?_⟩
      rintro _ rfl
      refine ⟨zI_in' (by omega) (by omega), ?_⟩
      rintro _ rfl _ rfl
      rw [mu_eq G2 8, mu_mg, mu_mg, mu_mg, mg_eq, mg_eq, r8]
      have e1' : upd (upd (upd (G 8) (1004 + 3 * cn (G 8 3)) hall) (1004 + 3 * cn (G 8 3) + 1) a) (1004 + 3 * cn (G 8 3) + 2) b 3 = G 8 3 := by
        simp only [upd]
        rw [if_neg (by omega), if_neg (by omega), if_neg (by omega)]
      rw [e1']
      have e2' : upd (upd (upd (upd (G 8) (1004 + 3 * cn (G 8 3)) hall) (1004 + 3 * cn (G 8 3) + 1) a) (1004 + 3 * cn (G 8 3) + 2) b) 3 (G 8 3 + 1) 3 = G 8 3 + 1 := if_pos rfl
      rw [e2']
      exact fin rfl
    · simp only [bI_0, Bool.not_eq_false] at e5
      rw [if_pos (.inr e5)] at p; exact m_fails (k := 3) h p
  · have e3' : (sMod b 15 == 0) = false := by simpa using e3
    rw [if_pos (by simp only [sClsOk, e3', Bool.and_false])] at p; exact m_fails (k := 2) h p
section
variable {ke : Nat} {kc : Nat → Nat} {S S' : HS} {c c' : HC} {x κ : Nat} {ad qs : Nat → Nat} {bks : Nat → Nat → Nat} {F F' : MF} {G G' : MG} {W : Nat → Prop} {px : String → Nat → HS → Prop} {mc ms : Nat}
theorem x_isBookedIn {h a b : Int32} {post : Int32 → Prop} (R : xRX ke S c x ad qs bks F G) (p : post (bI (zany (sBkIn G h a b) 0 (cn (G 8 1))))) : wX_X1_isBookedIn post x h a b S := by
  have lb := cn_le (n := 60) R.N.b.2
  have main := zup (L := fun m k => ∀ v, post (bI (v || zany (sBkIn G h a b) (cn k) (cn (G 8 1) - cn k))) → wX_X1_isBookedIn_l6 post x h a b S m (bI v) k) (cn (G 8 1)) (by omega) (fun _ => True) ?_ 0 (Nat.zero_le _) trivial
  · obtain ⟨m, hm⟩ := main
    exact ⟨m, hm false (by simpa [show cn (nI 0) = 0 from rfl] using p)⟩
  intro m k hk _ next v hv
  rw [show cn (nI k) = k from zI_nat (by omega)] at hv
  obtain ⟨l, l1, l2⟩ := R.P.V.b
  refine ⟨R.P.T.d, ad 1, R.P.T.st, R.P.V.d, l, l1, l2.d, x_size l2 ?_⟩
  rw [zI_le (by omega) (by omega)]
  refine ⟨fun e => ⟨bI_01 _, ?_⟩, fun e => ?_⟩
  · rw [show cn (G 8 1) - k = 0 by omega] at hv
    simp only [zany, Bool.or_false] at hv
    exact hv
  have hk' : k < cn (G 8 1) := by omega
  have B := R.P.V.bb k hk'
  have a1 : hI S 805 (bks 0 k) = gB G k 11 := B.ac
  have a2 : hI S 801 (bks 0 k) = gB G k 9 := B.ha
  have a3 : hI S 802 (bks 0 k) = gB G k 10 := B.st
  rw [show cn (G 8 1) - k = (cn (G 8 1) - (k + 1)) + 1 by omega] at hv
  simp only [zany] at hv
  have nx : ∀ r, sBkIn G h a b k = r → ∀ w : Int32, w = bI v ||| bI r → wX_X1_isBookedIn_l6 post x h a b S m w (nI k + 1) := by
    rintro r e _ rfl
    rw [bI_or]
    refine next hk' trivial _ ?_
    rw [show cn (nI k + 1) = k + 1 by rw [zI_1, zI_add]; exact zI_nat (by omega), ← e, Bool.or_assoc]
    exact hv
  refine x_booking R.P hk' ⟨B.d, ?_⟩
  rw [a1, a2, a3]
  refine ⟨fun e1 => nx false ?_, fun e1 => ⟨fun e2 => ⟨fun e3 => nx false ?_, fun e3 => x_end R.P hk' ⟨fun e4 => nx false ?_, fun e4 => nx true ?_⟩⟩, fun e2 => nx false ?_⟩⟩
  · rw [sBkIn, e1]; rfl
  · simp only [sBkIn, Int32.not_lt.mpr e3, decide_false, Bool.and_false, Bool.false_and]
  · simp only [sBkIn, Int32.not_lt.mpr e4, decide_false, Bool.and_false]
  · have e1' : gB G k 11 = 1 := (R.N.ba k hk').resolve_left e1
    simp only [sBkIn, e1', e2, Int32.not_le.mp e3, Int32.not_le.mp e4, beq_self_eq_true, decide_true, Bool.and_true]
  · have : (gB G k 9 == h) = false := by simpa using e2
    simp only [sBkIn, this, Bool.and_false, Bool.false_and]
/-- a closure is made -/
def clNew (S : HS) (q : Nat) (h t f : Int32) : HS := sI (sI (sI (nO S 20 q) 2000 q h) 2001 q t) 2002 q f
theorem clNew_go {q : Nat} {h t f : Int32} (n : xNew S q) : xGo S c (clNew S q h t f) (cU c q 0) (fun _ => False) κ := by
  have ne : ∀ a, (∃ t, hD S t a) → ¬ a = q := fun a ⟨t, d⟩ => n.ne d
  unfold clNew
  exact gNone (gNone (gNone (gO c 20 0 n (by omega)) (gI _ _ _ _ _ _) ne) (gI _ _ _ _ _ _) ne) (gI _ _ _ _ _ _) ne
theorem clNew_is {q : Nat} {r : Nat → Int32} : xCl (clNew S q (r 0) (r 2) (r 1)) (cU c q 0) q r := by
  refine ⟨nO_D S 20 q, cU_eq c q 0, ?_, ?_, ?_⟩
  · simp only [clNew, sI_at]; simp
  · simp only [clNew, sI_at]; simp
  · simp only [clNew, sI_at]; simp
theorem X_close {hall a b : Int32} {post : Int32 → HS → Prop} (ek : kc 0 = ke) (R : xRX ke S c x ad qs bks F G) (p : xDone ke x F G (oClose F G hall a b) cls3 post px) (hc : 206 ≤ mc) (hs : 20230 ≤ ms) : wX_X1_close kc post px mc ms x hall a b S := by
  have R0 : xRel ke x S F G := ⟨c, ad, qs, bks, R⟩
  refine ⟨R.P.T.d, x_isHall R.P R.F ⟨by omega, by omega, x_needIndex (fun e => ?_) (fun e q _ => ?_) (by decide) (by decide)⟩⟩
  · rw [oClose, if_neg (by rw [e]; decide)] at p
    have bad : sClsOk a b = false → wX_X1_close_j39 kc post px x hall a b 0 (mc - 1) (ms - 6) S := fun z => by
      rw [if_pos z] at p
      exact ⟨by omega, by omega, x_needValue (p := false) (fun z => by cases z) (fun _ q _ => p.2 (by show (2 : Nat) ≠ 0; decide) q S R0) (by decide) (by decide)⟩
    refine x_isStart ⟨fun e1 => bad ?_, fun e1 => ⟨fun e2 => bad ?_, fun e2 => ⟨fun e3 => bad ?_, fun e3 => ⟨fun e4 => ?_, fun e4 => bad ?_⟩⟩⟩⟩
    · simp only [bI_0] at e1
      simp only [sClsOk, e1, Bool.false_and]
    · have : sIn b.toInt (a.toInt + 1) 86400 = false := by
        rw [z_le] at e2
        simp [sIn]; omega
      simp only [sClsOk, this, Bool.false_and, Bool.and_false]
    · have : sIn b.toInt (a.toInt + 1) 86400 = false := by
        rw [z_lt] at e3
        simp only [show (86400 : Int32).toInt = 86400 from rfl] at e3
        simp [sIn]; omega
      simp only [sClsOk, this, Bool.false_and, Bool.and_false]
    · simp only [bI_0, Bool.not_eq_false] at e1
      have i2 : sIn b.toInt (a.toInt + 1) 86400 = true := by
        rw [z_le] at e2
        rw [z_lt] at e3
        simp only [show (86400 : Int32).toInt = 86400 from rfl] at e3
        exact sIn_iff.mpr ⟨by omega, by omega⟩
      have e3' : (sMod b 15 == 0) = true := by simpa using e4
      rw [if_neg (by simp only [sClsOk, e1, i2, e3']; decide)] at p
      refine ⟨by omega, by omega, x_needValue (p := true) (fun _ => ⟨R.P.T.d, ad 1, R.P.T.st, R.P.V.d, ?_⟩) (fun z => by cases z) (by decide) (by decide)⟩
      have bad3 : (G 8 3 = 16 ∨ zany (sBkIn G hall a b) 0 (cn (G 8 1)) = true) → wX_X1_close_j69 kc post px x hall a b 0 ((mc - 1) - 1) ((ms - 6) - 6) S := fun z => by
        rw [if_pos z] at p
        exact ⟨by omega, by omega, x_needState (p := false) (fun z => by cases z) (fun _ q _ => p.2 (by show (3 : Nat) ≠ 0; decide) q S R0) (by decide) (by decide)⟩
      rw [R.P.V.cl]
      refine ⟨fun e5 => bad3 (.inl ?_), fun e5 => x_isBookedIn R ⟨fun e6 => ?_, fun e6 => bad3 (.inr ?_)⟩⟩
      · rw [z_le] at e5
        have := R.N.s.2
        rw [← Int32.toInt_inj]
        simp only [show (16 : Int32).toInt = 16 from rfl] at *
        omega
      · simp only [bI_0] at e6
        have n16 : ¬ G 8 3 = 16 := fun z => e5 (by rw [z]; decide)
        rw [if_neg (fun z => z.elim n16 (fun z => by rw [e6] at z; cases z))] at p
        refine ⟨by omega, by omega, x_needState (p := true) (fun _ => ⟨R.P.T.d, by omega, by omega, x_record ek R (fun S1 ⟨c1, ad1, qs1, bks1, R1⟩ => ?_) (by omega) (by omega)⟩) (fun z => by cases z) (by decide) (by decide)⟩
        obtain ⟨B, b1, b2, b3, b4⟩ := R1.bd
        have r8 : sRemG F G 8 = G 8 := sRem_ne (by decide)
        have V := R1.P.V
        rw [r8] at V
        have lb := cn_le (n := 60) R.N.b.2
        have lr := cn_le (n := 20) R.N.r.2
        have lk := cn_le (n := 6) R1.F.k.2
        have cb : cn (G 8 3) < 16 := cn_lt' R.N.s.1 (z_lt16 R.N.s n16)
        have en := cn_nI R.N.s.1
        obtain ⟨z1, z2⟩ := z_succ (N := 16) ⟨R.N.s.1, z_lt16 R.N.s n16⟩ (by decide)
        obtain ⟨w0, w1, w2⟩ := sCls_new (n := G 8) (h := hall) (a := a) (b := b)
        obtain ⟨ar, a1, a2, a3, a4, a5, a6⟩ := V.s
        have B0 := b3 0 (by decide)
        have q0 := R1.q.1 0 (by decide)
        refine ⟨R1.P.T.d, ad1 1, R1.P.T.st, V.d, ar, a1, by omega, by omega, by decide, by decide, fun q nq => ?_⟩
        rintro _ rfl
        let r' : Nat → Int32 := fun w => sCls (G 8) hall a b (1004 + 3 * cn (G 8 3) + w)
        have Cl : xCl (clNew S1 q (r' 0) (r' 2) (r' 1)) (cU c1 q 0) q r' := clNew_is
        have G1 := clNew_go (c := c1) (κ := B) (h := r' 0) (t := r' 2) (f := r' 1) nq
        have eS : sI (sI (sI (nO S1 20 q) 2000 q hall) 2001 q b) 2002 q a = clNew S1 q (r' 0) (r' 2) (r' 1) := by
          rw [show r' 0 = hall from w0, show r' 1 = a from w1, show r' 2 = b from w2]; rfl
        rw [eS]
        have V1 := V.ext G1.E (fun _ _ z => z)
        have GC : ∀ a t, hD S1 t a → cU c1 q 0 a = c1 a := fun a t d => G1.E.C d
        have ar3 := (GC ar 61 a2).trans a3
        obtain ⟨ar', t1, t2, t3, t4, t5, t6⟩ := V1.s
        have earr : ar' = ar := by
          have := (G1.E.R V.d (fun z => z) 202).trans a1
          rw [t1] at this; cases this; rfl
        subst earr
        have dx1 := G1.E.D R1.P.T.d
        have cx1 := (GC x 0 R1.P.T.d).trans R1.P.T.cx
        have r3' := (G1.E.R R1.P.T.d (fun z => z) 3).trans R1.P.T.st
        generalize clNew S1 q (r' 0) (r' 2) (r' 1) = S2 at *
        generalize cU c1 q 0 = c2 at *
        rw [V.cl, en, zI_nat (show cn (G 8 3) < 2147483648 by omega)]
        refine ⟨t2, zI_in' (by omega) (by rw [t4]; exact cb), .inl Cl.d, ?_⟩
        rintro _ rfl
        refine ⟨dx1, ad1 1, r3', V1.d, ?_⟩
        have g2 := gBB S2 c2 ar' (cn (G 8 3)) (some q) B
        rintro _ rfl
        have v203 : hI (sB S2 ar' (cn (G 8 3)) (some q)) 203 (ad1 1) = G 8 3 := V1.cl
        rw [v203]
        have g3 := gI (sB S2 ar' (cn (G 8 3)) (some q)) c2 203 (ad1 1) (G 8 3 + 1) B
        have stc : c2 (ad1 1) = qs1 0 := V1.cs
        have GG : xGo S1 c1 (sI (sB S2 ar' (cn (G 8 3)) (some q)) 203 (ad1 1) (G 8 3 + 1)) c2 (fun z => c1 z = qs1 0 + 4 ∨ c1 z = qs1 0) B := ((G1.mono (W2 := fun z => c1 z = qs1 0 + 4 ∨ c1 z = qs1 0) (fun _ _ z => z.elim)).go g2 (fun z ⟨t, d⟩ y => .inl (by rw [y]; exact a3))).go g3 (fun z ⟨t, d⟩ y => .inr (by rw [y]; exact V.cs))
        have E2 := g2.E.trans g3.E
        have w : ∀ z, c2 z ≠ qs1 0 + 4 → c2 z ≠ qs1 0 → ¬ (z = ar' ∨ z = ad1 1) := fun z y1 y2 y => y.elim (fun y => y1 (by rw [y]; exact t3)) (fun y => y2 (by rw [y]; exact stc))
        have o : ∀ i, i < 1004 → i ≠ 3 → sCls (G 8) hall a b i = G 8 i := fun i hi h3 => sCls_old h3 (by omega)
        have arst : ar' ≠ ad1 1 := fun y => by rw [y, stc] at t3; omega
        have V2 : xSt ke (sI (sB S2 ar' (cn (G 8 3)) (some q)) 203 (ad1 1) (G 8 3 + 1)) c2 (qs1 0) (ad1 1) (sRemG F G 1) (sCls (G 8) hall a b) (sRemG F G 19) (bks1 0) := by
          refine ⟨V1.d, stc, ?_, ?_, ?_, ?_, ?_, ?_, ?_⟩
          · rw [sI_eq, sCls_3]
          · rw [o 0 (by decide) (by decide), sI_ne (.inl (by decide))]; exact V1.no
          · rw [o 1 (by decide) (by decide)]
            obtain ⟨l', m1, m2⟩ := V1.b
            exact ⟨l', m1, m2.ext E2 (fun z h => w z (by omega) (by omega))⟩
          · rw [o 1 (by decide) (by decide)]; intro k hk
            have B1 := V1.bb k hk
            exact (B1.ext E2 (fun z h => w z (by omega) (by omega)) (w _ (by rw [B1.cb]; omega) (by rw [B1.cb]; omega))).congr lk (fun w hw => o _ (by omega) (by omega))
          · rw [o 1 (by decide) (by decide)]; exact V1.bi
          · rw [o 2 (by decide) (by decide)]
            obtain ⟨lr', rq, r1, r2, r3⟩ := V1.r
            exact ⟨lr', rq, r1, r2.ext E2 (fun z h => w z (by omega) (by omega)), fun k hk => ((r3 k hk).ext E2 (fun z h => w z (by omega) (by omega))).congr (fun w hw => o _ (by omega) (by omega))⟩
          · rw [sCls_3, z1]
            refine ⟨ar', t1, t2, t3, t4, fun k hk => ?_, fun k o' ho => ?_⟩
            · show ∃ o, hB (sB S2 ar' (cn (G 8 3)) (some q)) ar' k = some o ∧ _
              by_cases z : k = cn (G 8 3)
              · subst z
                exact ⟨q, sB_eq _ _ _ _, Cl.ext E2 (fun z h => w z (by omega) (by omega))⟩
              · obtain ⟨o', o1, o2⟩ := t5 k (by omega)
                refine ⟨o', (sB_ne (.inr z)).trans o1, (o2.ext E2 (fun z h => w z (by omega) (by omega))).congr (fun v hv => sCls_old (by omega) (by omega))⟩
            · have ho' : hB (sB S2 ar' (cn (G 8 3)) (some q)) ar' k = some o' := ho
              by_cases z : k = cn (G 8 3)
              · rw [z, sB_eq] at ho'; cases ho'; exact .inl Cl.d
              · rw [sB_ne (.inr z)] at ho'; exact t6 k o' ho'
        have R2 := R1.updS (G' := mg (sRemG F G) 8 (sCls (G 8) hall a b)) ⟨b1, b2, b3⟩ b4 GG (fun z y => by omega) V2 ((by have := R1.N; rw [r8] at this; exact this : zNw (sRemG F G 1) (G 8)).cls (z_lt16 R.N.s n16)) (R.sep.same lb (fun i hi h2 h3 => o i (by omega) h3)) R1.out (fun k h1 h2 => mg_ne h1) (mg_eq _ 8 _) (mg_ne (show 19 ≠ 8 by decide))
        refine ⟨ad1 1, R2.P.T.st, V2.d, ?_⟩
        rw [sI_eq]
        exact p.1 rfl _ ⟨_, _, _, _, R2⟩
      · simp only [bI_0, Bool.not_eq_false] at e6
        exact e6
    · simp only [bI_0, Bool.not_eq_false] at e1
      have e3' : (sMod b 15 == 0) = false := by simpa using e4
      simp only [sClsOk, e3', Bool.and_false]
  · rw [oClose, if_pos e] at p
    exact p.2 (by show (1 : Nat) ≠ 0; decide) q S R0
end
