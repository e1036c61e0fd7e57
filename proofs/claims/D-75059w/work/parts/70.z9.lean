/-! PLAIN LAWS, z9: a booking moves -/
section
variable {ke : Nat} {kc : Nat → Nat} {S S' : HS} {c c' : HC} {x κ : Nat} {ad qs : Nat → Nat} {bks : Nat → Nat → Nat} {F F' : MF} {G G' : MG} {W : Nat → Prop} {px : String → Nat → HS → Prop} {mc ms : Nat}
theorem x_priceU {su e : Nat} {g r : Nat → Int32} {hall s : Int32} {post : Int32 → Prop} (U : xSu ke S c (fun _ => 0) su g) (hF : zFx g) (hE : xEv S c e r) (hh : 0 ≤ hall.toInt ∧ hall.toInt < (g 0).toInt) (h : post (sPrice g r hall s)) : wX_X2_price post su e hall s S := by
  have lk := cn_le (n := 6) hF.k.2
  obtain ⟨l, f, h1, h2, h3⟩ := U.h
  have lt : cn hall < cn (g 0) := by
    have e1 : cn hall = hall.toInt.toNat := rfl
    have e2 : cn (g 0) = (g 0).toInt.toNat := rfl
    omega
  obtain ⟨a1, a2, a3, a4, a5, a6⟩ := h3 (cn hall) lt
  refine ⟨U.d, l, h1, h2.d, ?_⟩
  have eh := cn_nI hh.1
  have hg : wX_J2_get (fun a_20 => hD S 6 a_20 ∧ hD S 3 e ∧ ∀ x4_23 : Int32, x4_23 = (((hI S 603 a_20) * (hI S 302 e)) / (60 : Int32)) → ∃ n, wX_X2_price_l29 post su e hall s S n x4_23 (0 : Int32)) l (nI (cn hall)) S := by
    refine w_get h2 lt ⟨a1, hE.d, ?_⟩
    rintro _ rfl
    rw [a6, hE.du]
    refine zfold (L := fun m b k => wX_X2_price_l29 post su e hall s S m b k) (fun _ => True) (n := cn (g 2)) (f := fun k a => a + r (3 + k) * g (38 + k)) (post := fun b => post (if 4 < sMod (s / 1440) 7 then b + b * g 5 / 100 else b)) (by omega) (fun _ _ _ _ => trivial) ?_ _ trivial h
    intro m k b hk _ p1 p2
    obtain ⟨lk', fk, k1, k2, k3⟩ := U.k
    refine ⟨U.d, lk', k1, k2.d, x_size k2 ?_⟩
    rw [zI_le (by omega) (by omega)]
    refine ⟨fun e1 => ⟨fun e2 => ?_, fun e2 => ?_⟩, fun e1 => ?_⟩
    · have := p1 (by omega)
      rw [if_neg (Int32.not_lt.mpr e2)] at this
      exact this
    · have := p1 (by omega)
      rw [if_pos (Int32.not_le.mp e2)] at this
      rw [U.we]
      exact this
    · obtain ⟨n, n1, n2, n3, n4, n5⟩ := hE.ne
      obtain ⟨b1, b2, b3, b4, b5⟩ := k3 k (by omega)
      refine ⟨hE.d, n, n1, n2, zI_in' (by omega) (by rw [n4]; omega), w_get k2 (by omega) ⟨b1, ?_⟩⟩
      rintro _ rfl
      rw [b4, zI_nat (by omega), n5 k (by omega)]
      exact p2 (by omega)
  rw [← eh] at hg
  exact hg
/-- one booking anew: the others keep -/
theorem xSt.bkE {q st b : Nat} {g n n' out out' : Nat → Int32} {bk : Nat → Nat} (V : xSt ke S c q st g n out bk) (N : zNw g n) (hF : zFx g) (hq : 10 ≤ q) (hb : b < cn (n 1)) (E : xExt S c S' c (fun z => z = bk b))
    (h8 : ∀ j, (∀ w, w < 13 → j ≠ 4 + 13 * b + w) → n' j = n j) (h19 : ∀ j, j ≠ b → out' j = out j) (hB : xBk S' c (q + 2) (bk b) g (fun w => n' (4 + 13 * b + w)) (out' b)) : xSt ke S' c q st g n' out' bk := by
  have cb := (V.bb b hb).cb
  have lk := cn_le (n := 6) hF.k.2
  have lb := cn_le (n := 60) N.b.2
  have w0 : ∀ a, c a = 0 → ¬ a = bk b := fun a ha z => by rw [z, cb] at ha; omega
  have wc : ∀ a, c a ≠ q + 2 → ¬ a = bk b := fun a ha z => ha (by rw [z, cb])
  have n0 : ∀ j, j < 4 → n' j = n j := fun j hj => h8 j (fun w _ => by omega)
  have n7 : ∀ j, 784 ≤ j → n' j = n j := fun j hj => h8 j (fun w _ => by omega)
  have ws := wc st (by rw [V.cs]; omega)
  refine ⟨E.D V.d, (E.C V.d).trans V.cs, ?_, ?_, ?_, ?_, ?_, ?_, ?_⟩
  · rw [n0 3 (by decide)]; exact (E.I V.d ws _).trans V.cl
  · rw [n0 0 (by decide)]; exact (E.I V.d ws _).trans V.no
  · rw [n0 1 (by decide)]
    obtain ⟨l, l1, l2⟩ := V.b
    exact ⟨l, (E.R V.d ws _).trans l1, l2.ext E (fun a ha => wc a (by omega))⟩
  · rw [n0 1 (by decide)]; intro j hj
    by_cases z : j = b
    · subst z; exact hB
    · rw [h19 j z]
      exact ((V.bb j hj).ext E w0 (fun y => z (V.bi j b hj hb y))).congr lk (fun w hw => h8 _ (fun w' _ => by omega))
  · rw [n0 1 (by decide)]; exact V.bi
  · rw [n0 2 (by decide)]
    obtain ⟨l, rq, l1, l2, l3⟩ := V.r
    exact ⟨l, rq, (E.R V.d ws _).trans l1, l2.ext E (fun a ha => wc a (by omega)), fun j hj => ((l3 j hj).ext E w0).congr (fun w hw => n7 _ (by omega))⟩
  · rw [n0 3 (by decide)]
    obtain ⟨a, a1, a2, a3, a4⟩ := V.s
    obtain ⟨b2, b3, b4, b5, b6⟩ := zS.ext (r := fun k w => n (1004 + 3 * k + w)) (i := fun _ _ => 0) ⟨a2, a3, a4⟩ E (fun a ha => wc a (by omega))
    refine ⟨a, (E.R V.d ws _).trans a1, b2, b3, b4, fun j hj => ?_, b6⟩
    obtain ⟨o, o1, o2⟩ := b5 j hj
    exact ⟨o, o1, o2.congr (fun w hw => n7 _ (by omega))⟩
/-- a booking's slot anew -/
def sPut (n : Nat → Int32) (b : Nat) (hall s : Int32) : Nat → Int32 := upd (upd n (4 + 13 * b + 9) hall) (4 + 13 * b + 10) s
theorem sPut_ne {n : Nat → Int32} {b : Nat} {hall s : Int32} {i : Nat} (h : i ≠ 4 + 13 * b + 9) (h2 : i ≠ 4 + 13 * b + 10) : sPut n b hall s i = n i := by
  simp only [sPut, upd]
  rw [if_neg h2, if_neg h]
theorem sPut_9 {n : Nat → Int32} {b : Nat} {hall s : Int32} : sPut n b hall s (4 + 13 * b + 9) = hall := by
  simp only [sPut, upd]
  rw [if_neg (by omega), if_true]
theorem sPut_10 {n : Nat → Int32} {b : Nat} {hall s : Int32} : sPut n b hall s (4 + 13 * b + 10) = s := by
  simp only [sPut, upd, if_true]
theorem zNw.put {g n : Nat → Int32} {b : Nat} {hall s : Int32} (N : zNw g n) (hb : b < 60) (hh : 0 ≤ hall.toInt ∧ hall.toInt < (g 0).toInt) (hs : zSt s) : zNw g (sPut n b hall s) := by
  have lb := cn_le (n := 60) N.b.2
  have u : ∀ i, i < 4 → sPut n b hall s i = n i := fun i hi => sPut_ne (by omega) (by omega)
  have u7 : ∀ i, 784 ≤ i → sPut n b hall s i = n i := fun i hi => sPut_ne (by omega) (by omega)
  refine ⟨by rw [u 0 (by decide)]; exact N.no, by rw [u 1 (by decide)]; exact N.b, by rw [u 2 (by decide)]; exact N.r, by rw [u 3 (by decide)]; exact N.s, ?_, ?_, ?_, ?_, ?_, ?_, ?_⟩
  · rw [u 1 (by decide)]; intro j hj
    exact (N.be j hj).congr (fun w hw => sPut_ne (by omega) (by omega))
  · rw [u 1 (by decide)]; intro j hj
    by_cases z : j = b
    · subst z; rw [sPut_9]; exact hh
    · rw [sPut_ne (by omega) (by omega)]; exact N.bp j hj
  · rw [u 1 (by decide)]; intro j hj
    by_cases z : j = b
    · subst z; rw [sPut_10]; exact hs
    · rw [sPut_ne (by omega) (by omega)]; exact N.bs j hj
  · rw [u 1 (by decide)]; intro j hj
    rw [sPut_ne (by omega) (by omega)]; exact N.ba j hj
  · rw [u 2 (by decide)]; intro j hj
    have lr := cn_le (n := 20) N.r.2
    exact (N.re j hj).congr (fun w hw => u7 _ (by omega))
  · rw [u 2 (by decide)]; intro j hj
    rw [u7 _ (by omega)]; exact N.rp j hj
  · rw [u 2 (by decide)]; intro j hj
    rw [u7 _ (by omega)]; exact N.rs j hj
theorem zSep.put {n : Nat → Int32} {b : Nat} {hall s : Int32} (Z : zSep n) (h : ∀ k, k < cn (n 1) → k ≠ b → n (4 + 13 * k + 11) = 1 → n (4 + 13 * k + 9) = hall → n (4 + 13 * k + 10) ≠ s) : zSep (sPut n b hall s) := by
  unfold zSep
  rw [sPut_ne (by omega) (by omega)]
  intro i j hi hj ne
  have o : ∀ k, k ≠ b → ∀ w, w < 13 → sPut n b hall s (4 + 13 * k + w) = n (4 + 13 * k + w) := fun k hk w hw => sPut_ne (by omega) (by omega)
  have o11 : ∀ k, sPut n b hall s (4 + 13 * k + 11) = n (4 + 13 * k + 11) := fun k => sPut_ne (by omega) (by omega)
  rw [o11, o11]
  by_cases z1 : i = b <;> by_cases z2 : j = b
  · omega
  · subst z1
    rw [sPut_9, sPut_10, o j z2 9 (by decide), o j z2 10 (by decide)]
    intro _ a e
    exact (h j hj z2 a e.symm).symm
  · subst z2
    rw [sPut_9, sPut_10, o i z1 9 (by decide), o i z1 10 (by decide)]
    intro a _ e
    exact h i hi z1 a e
  · rw [o i z1 9 (by decide), o i z1 10 (by decide), o j z2 9 (by decide), o j z2 10 (by decide)]
    exact Z i j hi hj ne
/-- settled and priced anew -/
theorem x_settle {st q b su : Nat} {g n out out' : Nat → Int32} {bk : Nat → Nat} {hall s : Int32} {post : HS → Prop} (V : xSt ke S c q st g n out bk) (N : zNw g n) (hF : zFx g) (hq : 10 ≤ q) (hb : b < cn (n 1)) (U : xSu ke S c (fun _ => 0) su g) (hd : hD S 0 x) (hcx : c x = 1) (hR2 : hR S 2 x = some su)
    (hh : 0 ≤ hall.toInt ∧ hall.toInt < (g 0).toInt) (h19 : ∀ j, j ≠ b → out' j = out j) (h19b : out' b = 0) (B : Nat)
    (h : ∀ S', xGo S c S' c (fun z => z = bk b) B → xSt ke S' c q st g (sPut n b hall s) out' bk → hI S' 803 (bk b) = sPrice g (fun w => sPut n b hall s (4 + 13 * b + w)) hall s → post S') :
    wX_X1_settle (fun S_5 => hD S_5 0 x ∧ wX_X1_reprice (fun S_7 => hD S_7 8 (bk b) ∧ post S_7) x (bk b) S_5) x (bk b) hall s S := by
  have Bk := V.bb b hb
  obtain ⟨e, v1, v2⟩ := Bk.ev
  have cb := Bk.cb
  have lk := cn_le (n := 6) hF.k.2
  refine ⟨Bk.d, ?_⟩
  rintro _ rfl _ rfl _ rfl
  have g1 := gI S c 801 (bk b) hall B
  have g2 := gI (sI S 801 (bk b) hall) c 802 (bk b) s B
  have g3 := gI (sI (sI S 801 (bk b) hall) 802 (bk b) s) c 806 (bk b) 0 B
  have GG := (g1.go g2 (fun _ _ z => z)).go g3 (fun _ _ z => z)
  have E := GG.E
  have w0 : ∀ a, c a = 0 → ¬ a = bk b := fun a ha z => by rw [z, cb] at ha; omega
  have xb : ¬ x = bk b := fun z => by rw [z, cb] at hcx; omega
  have e8 : hR (sI (sI (sI S 801 (bk b) hall) 802 (bk b) s) 806 (bk b) 0) 800 (bk b) = some e := v1
  have i9 : hI (sI (sI (sI S 801 (bk b) hall) 802 (bk b) s) 806 (bk b) 0) 801 (bk b) = hall := by simp only [sI_at]; simp
  have i10 : hI (sI (sI (sI S 801 (bk b) hall) 802 (bk b) s) 806 (bk b) 0) 802 (bk b) = s := by simp only [sI_at]; simp
  refine ⟨E.D hd, E.D hd, su, (E.R hd xb 2).trans hR2, E.D Bk.d, e, e8, E.D U.d, ?_⟩
  rw [i9, i10]
  refine x_priceU (U.ext E (fun a ha => w0 a (ha.elim id (fun ⟨_, _, z⟩ => z)))) hF (v2.ext E w0) hh ?_
  rintro _ rfl
  have g4 := gI (sI (sI (sI S 801 (bk b) hall) 802 (bk b) s) 806 (bk b) 0) c 803 (bk b) (sPrice g (fun w => n (4 + 13 * b + w)) hall s) B
  have G4 := GG.go g4 (fun _ _ z => z)
  have pr : sPrice g (fun w => n (4 + 13 * b + w)) hall s = sPrice g (fun w => sPut n b hall s (4 + 13 * b + w)) hall s := (sPrice_congr lk (fun w hw => sPut_ne (by omega) (by omega))).symm
  refine ⟨G4.E.D Bk.d, h _ G4 (V.bkE N hF hq hb G4.E (fun j hj => sPut_ne (hj 9 (by decide)) (hj 10 (by decide))) h19 ?_) ?_⟩
  · rw [h19b]
    refine ⟨G4.E.D Bk.d, cb, ⟨e, v1, (v2.ext G4.E w0).congr (fun w hw => sPut_ne (by omega) (by omega))⟩, ?_, ?_, ?_, ?_, ?_, ?_⟩
    · dsimp only
      rw [sPut_9]; simp only [sI_at]; simp
    · dsimp only
      rw [sPut_10]; simp only [sI_at]; simp
    · intro _
      dsimp only
      rw [sPut_9, sPut_10, ← pr]; simp only [sI_at]; simp
    · dsimp only
      rw [sPut_ne (by omega) (by omega)]; simp only [sI_at]; simp; exact Bk.fe
    · dsimp only
      rw [sPut_ne (by omega) (by omega)]; simp only [sI_at]; simp; exact Bk.ac
    · simp only [sI_at]; simp
  · rw [← pr]; simp only [sI_at]; simp
def oMove (F : MF) (G : MG) (b h s : Int32) : ZR := if sBSlot G b h s = 0 then (if sToCome G (cn b) = true ∧ sBookProb G (cn b) h s = 0 then (0, sPrice (G 1) (fun w => sPut (G 8) (cn b) h s (4 + 13 * cn b + w)) h s, sRemF F, mg (sRemG F G) 8 (sPut (G 8) (cn b) h s)) else (3, 0, F, G)) else (sBSlot G b h s, 0, F, G)
theorem M_move {b hall s : Int32} {post : Int32 → MF → MG → Prop} (h : zOK G) (hc : ∃ h, F 11 = nI h ∧ h ≤ 8) (p : mDone (oMove F G b hall s) post) : wM_move post b hall s F G := by
  have l := sBSlot_le G b hall s
  have lb := cn_le (n := 60) h.N.b.2
  refine m_whyNotBooking h.F h.N ?_
  rintro _ rfl
  rw [upd0, zI_pos (by omega)]
  refine ⟨fun e => ?_, fun e => ?_⟩
  · rw [oMove, if_pos e] at p
    obtain ⟨a, b', d⟩ := sBSlot_0.mp e
    obtain ⟨eb, lt⟩ := sBook_nI a
    have bad : ¬ (sToCome G (cn b) = true ∧ sBookProb G (cn b) hall s = 0) → ∀ {v : Int32} {G1 : MG}, zE G G1 → wM_fails (fun r F' G' => post r F' G') (3 : Int32) (upd F 0 v) G1 := fun z v G1 eG => by
      rw [if_neg z] at p
      rintro _ rfl
      rw [upd_upd]
      exact p _ _ rfl (z_up h eG)
    rw [e, eb]
    refine m_isToCome (by omega) ⟨fun e1 => bad (fun z => ?_) (zE.rf G), fun e1 => m_bookingProblem h.F h.N lt (.inl (h.out _ (by omega))) (sHall_iff.mp b') (sStart_iff.mp d) (fun G1 eG => ⟨fun e2 => ?_, fun e2 => bad (fun z => e2 z.2) eG⟩)⟩ <;> simp only [bI_0, Bool.not_eq_false] at e1
    · rw [e1] at z; cases z.1
    rw [if_pos ⟨e1, e2⟩] at p
    refine m_remembers hc ?_
    obtain ⟨s1, s2⟩ := sRem_same (F := F) (F1 := upd F 0 (nI 0)) eG (upd_ne0 F _)
    have r8 : sRemG (upd F 0 (nI 0)) G1 8 = G 8 := (s1 8 (by decide) (by decide)).trans (sRem_ne (by decide))
    have r1 : sRemG (upd F 0 (nI 0)) G1 1 = G 1 := (s1 1 (by decide) (by decide)).trans (sRem_ne (by decide))
    have hz := mg_same (Y := sPut (G 8) (cn b) hall s) s1
    refine m_puts (by omega) ?_
    rw [r8]
    have hN2 : zNw (G 1) (sPut (G 8) (cn b) hall s) := h.N.put (by omega) (sHall_iff.mp b') (sStart_iff.mp d)
    show wM_priceNow _ _ _ (mg (sRemG (upd F 0 (nI 0)) G1) 8 (sPut (G 8) (cn b) hall s))
    have g8 : mg (sRemG (upd F 0 (nI 0)) G1) 8 (sPut (G 8) (cn b) hall s) 8 = sPut (G 8) (cn b) hall s := mg_eq _ _ _
    have g1 : mg (sRemG (upd F 0 (nI 0)) G1) 8 (sPut (G 8) (cn b) hall s) 1 = G 1 := (mg_ne (by decide)).trans r1
    refine m_priceNow (by rw [g1]; exact h.F) (by rw [g1, g8]; exact hN2) (by rw [g8, sPut_ne (by omega) (by omega)]; exact lt) ?_
    have gb : ∀ w, gB (mg (sRemG (upd F 0 (nI 0)) G1) 8 (sPut (G 8) (cn b) hall s)) (cn b) w = sPut (G 8) (cn b) hall s (4 + 13 * cn b + w) := fun w => by show mg _ 8 _ 8 _ = _; rw [g8]
    have gr : gR (mg (sRemG (upd F 0 (nI 0)) G1) 8 (sPut (G 8) (cn b) hall s)) (cn b) = fun w => sPut (G 8) (cn b) hall s (4 + 13 * cn b + w) := by funext w; exact gb w
    rw [g1, gr, gb 9, gb 10, sPut_9, sPut_10]
    refine p _ _ ?_ ⟨s2 11 (by decide), s2 12 (by decide), s2 14 (by decide), hz 1 (by decide) (by decide), hz 6 (by decide) (by decide), hz 8 (by decide) (by decide), hz 9 (by decide) (by decide), hz 10 (by decide) (by decide), hz 13 (by decide) (by decide), ?_⟩
    · rw [(sRemF_0 (G := G) _).1]; rfl
    · show ∀ i, i < 60 → mg (sRemG (upd F 0 (nI 0)) G1) 8 (sPut (G 8) (cn b) hall s) 19 i = 0
      rw [mg_ne (show 19 ≠ 8 by decide), s1 19 (by decide) (by decide), sRem_ne (by decide)]; exact h.out
  · rw [oMove, if_neg e] at p
    exact p _ _ rfl (z_up0 h)
theorem X_move {b hall s : Int32} {post : Int32 → HS → Prop} (ek : kc 0 = ke) (R : xRX ke S c x ad qs bks F G) (p : xDone ke x F G (oMove F G b hall s) cls3 post px) (hc : 206 ≤ mc) (hs : 20230 ≤ ms) : wX_X1_move kc post px mc ms x b hall s S := by
  have lb := cn_le (n := 60) R.N.b.2
  have R0 : xRel ke x S F G := ⟨c, ad, qs, bks, R⟩
  refine ⟨R.P.T.d, by omega, by omega, x_needSlot R (fun e => ?_) (fun e q => ?_) (by decide) (by decide)⟩
  · rw [oMove, if_pos e] at p
    obtain ⟨a, b', d⟩ := sBSlot_0.mp e
    obtain ⟨eb, lt⟩ := sBook_nI a
    have bad : ¬ (sToCome G (cn b) = true ∧ sBookProb G (cn b) hall s = 0) → ∀ S', xRel ke x S' F G → wX_X1_move_j38 kc post px x b hall s 0 (mc - 2) (ms - 12) S' := fun z S' rel => by
      rw [if_neg z] at p
      exact ⟨by omega, by omega, x_needState (p := false) (fun z => by cases z) (fun _ q _ => p.2 (by show (3 : Nat) ≠ 0; decide) q S' rel) (by decide) (by decide)⟩
    have one : ∀ {post' : Nat → Prop}, post' (bks 0 (cn b)) → wX_X1_booking post' x b S := fun h => by
      have := x_booking R.P lt h
      rw [← eb] at this; exact this
    refine one (x_isLink R.P R.N lt ⟨fun e1 => bad (fun z => ?_) S R0, fun e1 => one (x_moveProblemOf R.P R.F R.N lt (R.out _ (by omega)) (sHall_iff.mp b') (sStart_iff.mp d) (fun g => ⟨fun e2 => ?_, fun e2 => bad (fun z => e2 z.2) _ ⟨_, _, _, _, R.sG⟩⟩))⟩) <;> simp only [bI_0, Bool.not_eq_false] at e1
    · rw [e1] at z; cases z.1
    rw [if_pos ⟨e1, e2⟩] at p
    refine ⟨by omega, by omega, x_needState (p := true) (fun _ => ⟨R.P.T.d, by omega, by omega, x_record ek (R.sG (g := g)) (fun S1 ⟨c1, ad1, qs1, bks1, R1⟩ => ⟨R1.P.T.d, ?_⟩) (by omega) (by omega)⟩) (fun z => by cases z) (by decide) (by decide)⟩
    obtain ⟨B, b1, b2, b3, b4⟩ := R1.bd
    have r8 : sRemG F G 8 = G 8 := sRem_ne (by decide)
    have r1 : sRemG F G 1 = G 1 := sRem_ne (by decide)
    have r19 : sRemG F G 19 = G 19 := sRem_ne (by decide)
    have V := R1.P.V
    have N1 := R1.N
    have P1 := R1.P
    have q0 := R1.q.1 0 (by decide)
    rw [r8, r1] at V N1
    have lt1 : cn b < cn (sRemG F G 8 1) := by rw [r8]; exact lt
    have goal := x_booking P1 lt1 (post := fun a_4 => wX_X1_settle (fun S_5 => hD S_5 0 x ∧ wX_X1_reprice (fun S_7 => hD S_7 8 a_4 ∧ post (hI S_7 803 a_4) S_7) x a_4 S_5) x a_4 hall s S1) (by
      have U1 := P1.U
      rw [r1] at U1
      refine x_settle (x := x) (su := ad1 0) (post := fun S_7 => post (hI S_7 803 (bks1 0 (cn b))) S_7) (out' := sRemG F G 19) V N1 R.F R1.P.q lt U1 P1.T.d P1.T.cx P1.T.su (sHall_iff.mp b') (fun _ _ => rfl) (R1.out _ (by omega)) B (fun S2 G2 V2 i3 => ?_)
      have cbb := (V.bb (cn b) lt).cb
      have R2 := R1.updS (G' := mg (sRemG F G) 8 (sPut (G 8) (cn b) hall s)) ⟨b1, b2, b3⟩ b4 G2 (fun z y => by rw [y, cbb]; omega) (by rw [r1]; exact V2) (by rw [r1]; exact R.N.put (by omega) (sHall_iff.mp b') (sStart_iff.mp d)) (R.sep.put (fun k hk ne h11 h9 => z_apart (G := mg (sAsk G 8 (4 + 13 * cn b)) 19 (upd (G 19) (cn b) 1)) R.F R.N (zEv_row (R.N.be _ lt) rfl) (sStart_iff.mp d) e2 hk h11 (by
          rw [mg_eq]
          exact (if_neg ne).trans (R.out k (by omega))) h9)) R1.out (fun k h1 h2 => mg_ne h1) (mg_eq _ 8 _) (mg_ne (show 19 ≠ 8 by decide))
      rw [i3]
      exact p.1 rfl _ ⟨_, _, _, _, R2⟩)
    rw [← eb] at goal
    exact goal
  · rw [oMove, if_neg e] at p
    exact p.2 e q S R0
end
