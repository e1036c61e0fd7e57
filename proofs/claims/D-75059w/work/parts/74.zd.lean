/-! PLAIN LAWS, zd: cancel in the plan; peak -/
section
variable {ke : Nat} {kc : Nat → Nat} {S S' : HS} {c c' : HC} {x κ : Nat} {ad qs : Nat → Nat} {bks : Nat → Nat → Nat} {F F' : MF} {G G' : MG} {W : Nat → Prop} {px : String → Nat → HS → Prop} {mc ms : Nat}
/-- a booking is marked as cancelled -/
theorem x_canState {st q b : Nat} {g n out : Nat → Int32} {bk : Nat → Nat} {fee : Int32} (V : xSt ke S c q st g n out bk) (N : zNw g n) (hF : zFx g) (hq : 10 ≤ q) (hb : b < cn (n 1)) (B : Nat) :
    xGo S c (sI (sI S 804 (bk b) fee) 805 (bk b) 0) c (fun z => z = bk b) B ∧ xSt ke (sI (sI S 804 (bk b) fee) 805 (bk b) 0) c q st g (sCan n b fee) out bk := by
  have Bk := V.bb b hb
  obtain ⟨e, v1, v2⟩ := Bk.ev
  have cb := Bk.cb
  have lk := cn_le (n := 6) hF.k.2
  have g1 := gI S c 804 (bk b) fee B
  have g2 := gI (sI S 804 (bk b) fee) c 805 (bk b) 0 B
  have GG := g1.go g2 (fun _ _ z => z)
  have w0 : ∀ a, c a = 0 → ¬ a = bk b := fun a ha z => by rw [z, cb] at ha; omega
  refine ⟨GG, V.bkE N hF hq hb GG.E (fun j hj => sCan_ne (hj 11 (by decide)) (hj 12 (by decide))) (fun _ _ => rfl) ?_⟩
  refine ⟨GG.E.D Bk.d, cb, ⟨e, v1, (v2.ext GG.E w0).congr (fun w hw => sCan_ne (by omega) (by omega))⟩, ?_, ?_, ?_, ?_, ?_, ?_⟩
  · dsimp only
    rw [sCan_ne (by omega) (by omega)]; simp only [sI_at]; simp; exact Bk.ha
  · dsimp only
    rw [sCan_ne (by omega) (by omega)]; simp only [sI_at]; simp; exact Bk.st
  · intro z
    dsimp only
    rw [sCan_ne (by omega) (by omega), sCan_ne (by omega) (by omega), sPrice_congr lk (fun w hw => sCan_ne (by omega) (by omega))]; simp only [sI_at]; simp; exact Bk.pr z
  · dsimp only
    rw [sCan_12]; simp only [sI_at]; simp
  · dsimp only
    rw [sCan_11]; simp only [sI_at]; simp
  · simp only [sI_at]; simp; exact Bk.ou
theorem X_cancel {b : Int32} {post : Int32 → HS → Prop} (ek : kc 0 = ke) (R : xRX ke S c x ad qs bks F G) (p : xDone ke x F G (oCancel F G b) cls2 post px) (hc : 253 ≤ mc) (hs : 26017 ≤ ms) : wX_X1_cancel kc post px mc ms x b S := by
  have R0 : xRel ke x S F G := ⟨c, ad, qs, bks, R⟩
  have lb := cn_le (n := 60) R.N.b.2
  have lr := cn_le (n := 20) R.N.r.2
  refine ⟨R.P.T.d, by omega, by omega, x_needOpen R (fun e e2 => ?_) (fun e q => ?_) (fun e e2 q => ?_) (by decide) (by decide)⟩
  · rw [oCancel, if_neg (by rw [e]; decide), if_neg (by rw [e2]; decide)] at p
    obtain ⟨eb, lt⟩ := sBook_nI e
    refine ⟨by omega, by omega, x_record ek R (fun S1 ⟨c1, ad1, qs1, bks1, R1⟩ => ⟨R1.P.T.d, ?_⟩) (by omega) (by omega)⟩
    rw [eb]
    generalize cn b = b' at *
    have r8 : sRemG F G 8 = G 8 := sRem_ne (by decide)
    have r1 : sRemG F G 1 = G 1 := sRem_ne (by decide)
    have r19 : sRemG F G 19 = G 19 := sRem_ne (by decide)
    have lt1 : b' < cn (sRemG F G 8 1) := by rw [r8]; exact lt
    refine x_booking R1.P lt1 (x_feeOf R1 lt1 ?_)
    have fe : sFee (sRemG F G) b' = sFee G b' := by
      have gr : gR (sRemG F G) b' = gR G b' := by
        unfold gR
        rw [r8]
      have : sPctS (sRemG F G) = sPctS G := by funext a f d; simp only [sPctS, r1]
      simp only [sFee, gr, gB, sPct, r8, r1, this]
    rw [fe]
    obtain ⟨B, b1, b2, b3, b4⟩ := R1.bd
    have V := R1.P.V
    have N1 := R1.N
    have sep := R1.sep
    rw [r8, r1] at V N1
    rw [r8] at sep
    have Bk := V.bb b' lt
    have q0 := R1.q.1 0 (by decide)
    refine ⟨Bk.d, ?_⟩
    rintro _ rfl _ rfl
    obtain ⟨G2, V2⟩ := x_canState (fee := sFee G b') V N1 R.F R1.P.q lt B
    have R2 := R1.updS (G' := mg (sRemG F G) 8 (sCan (G 8) b' (sFee G b'))) ⟨b1, b2, b3⟩ b4 G2 (fun z y => by rw [y, Bk.cb]; omega) (by rw [r1]; exact V2) (by rw [r1]; exact N1.can (by omega)) sep.can R1.out (fun k h1 h2 => mg_ne h1) (mg_eq _ 8 _) (mg_ne (show 19 ≠ 8 by decide))
    have bd2 := G2.bd b4
    have d2 : hD (sI (sI S1 804 (bks1 0 b') (sFee G b')) 805 (bks1 0 b') 0) 8 (bks1 0 b') := Bk.d
    have f2 : hI (sI (sI S1 804 (bks1 0 b') (sFee G b')) 805 (bks1 0 b') 0) 804 (bks1 0 b') = sFee G b' := by simp only [sI_at]; simp
    have cbk := Bk.cb
    generalize sI (sI S1 804 (bks1 0 b') (sFee G b')) 805 (bks1 0 b') 0 = S2 at *
    have W2 := R2.P.V
    obtain ⟨l, rq, l1, l2, l3⟩ := W2.r
    refine ⟨by omega, by omega, R2.P.T.d, ad1 1, R2.P.T.st, W2.d, l, l1, l2.d, by decide, by decide, by decide, by decide, fun it nit => ?_⟩
    rintro _ rfl
    -- the iterator is made
    have hB2 : (B + 10) % 10 = 0 ∧ 10 ≤ B + 10 ∧ ∀ i, i < 10 → qs1 i < B + 10 := ⟨by omega, by omega, fun i hi => by have := b3 i hi; omega⟩
    have g1 := gO c1 16 (B + 10) (κ := B + 10) nit (by omega)
    have ne : ∀ a, (∃ t, hD S2 t a) → ¬ a = it := fun a ⟨t, d⟩ => nit.ne d
    have dn : hD (nO S2 16 it) 16 it := nO_D S2 16 it
    refine ⟨dn, ?_⟩
    rintro _ rfl _ rfl
    have li : l ≠ it := nit.ne l2.d
    refine ⟨l, sR_eq _ _ _ _, nO_old l2.d, ?_⟩
    rintro _ rfl
    have g2 := gNone (gNone (gNone g1 (gR' (nO S2 16 it) _ 1603 it (some l) (B + 10)) ne) (gI _ _ 1601 it (-1) (B + 10)) ne) (gI _ _ 1602 it (hI (sI (sR (nO S2 16 it) 1603 it (some l)) 1601 it (-1)) 1200 l) (B + 10)) ne
    have R3 := R2.other hB2 bd2 g2 (fun a z => z.elim)
    have i0 : hI (sI (sI (sR (nO S2 16 it) 1603 it (some l)) 1601 it (-1)) 1602 it (hI (sI (sR (nO S2 16 it) 1603 it (some l)) 1601 it (-1)) 1200 l)) 1600 it = nI 0 := by
      simp only [sI_at, sR_I, nO_I]; simp; rfl
    have i2 : hI (sI (sI (sR (nO S2 16 it) 1603 it (some l)) 1601 it (-1)) 1602 it (hI (sI (sR (nO S2 16 it) 1603 it (some l)) 1601 it (-1)) 1200 l)) 1602 it = hI (sI (sI (sR (nO S2 16 it) 1603 it (some l)) 1601 it (-1)) 1602 it (hI (sI (sR (nO S2 16 it) 1603 it (some l)) 1601 it (-1)) 1200 l)) 1200 l := (sI_eq _ _ _ _).trans (sI_ne (k := 1602) (k' := 1200) (.inl (by decide))).symm
    have i3 : hR (sI (sI (sR (nO S2 16 it) 1603 it (some l)) 1601 it (-1)) 1602 it (hI (sI (sR (nO S2 16 it) 1603 it (some l)) 1601 it (-1)) 1200 l)) 1603 it = some l := sR_eq _ _ _ _
    have dit : hD (sI (sI (sR (nO S2 16 it) 1603 it (some l)) 1601 it (-1)) 1602 it (hI (sI (sR (nO S2 16 it) 1603 it (some l)) 1601 it (-1)) 1200 l)) 16 it := dn
    have bd3 := g2.bd bd2
    generalize sI (sI (sR (nO S2 16 it) 1603 it (some l)) 1601 it (-1)) 1602 it (hI (sI (sR (nO S2 16 it) 1603 it (some l)) 1601 it (-1)) 1200 l) = S3 at *
    have I : xIt S3 (cU c1 it (B + 10)) it l 0 (B + 10) := ⟨dit, cU_eq _ _ _, i0, i2, i3⟩
    have hl : hR S3 201 (ad1 1) = some l := (g2.E.R W2.d (fun z => z) 201).trans l1
    have u2 : sCan (G 8) b' (sFee G b') 2 = G 8 2 := sCan_ne (by omega) (by omega)
    refine ⟨cn (G 8 2) + 1, x_serves (l := l) (γ := B + 10) (qs := qs1) (F := sRemF F) (G := sRemG F G) ek (cn (G 8 2)) 0 (sCan (G 8) b' (sFee G b')) S3 _ bks1 _ _ (B + 10 + 10) ?_ I hl ⟨by omega, fun i hi => by have := b3 i hi; have := (R1.q.1 i hi).2; omega⟩ ⟨by omega, by omega, fun i hi => by have := b3 i hi; omega⟩ bd3 (by rw [u2]; omega) (by omega) (by omega) (fun S4 c4 bks4 E4 R4 => ?_)⟩
    · have eb : (fun i => if i = 0 then bks1 0 else bks1 i) = bks1 := by
        funext i
        split
        · rename_i z; rw [z]
        · rfl
      rw [eb] at R3
      exact R3
    · have dS3 : hD S3 8 (bks1 0 b') := g2.E.D d2
      have cS3 : cU c1 it (B + 10) (bks1 0 b') = qs1 0 + 2 := (g2.E.C d2).trans cbk
      have wS3 : ¬ (cU c1 it (B + 10) (bks1 0 b') ≠ qs1 0 + 2) := fun z => z cS3
      refine ⟨E4.D dS3, ?_⟩
      rw [E4.I dS3 wS3, g2.E.I d2 (fun z => z), f2]
      have es : sServe (sRemG F G) (cn (G 8 2)) 0 (sCan (G 8) b' (sFee G b')) = sCancel G b' := sServe_congr R.F r1 r19 _ _ _
      rw [es] at R4
      exact p.1 rfl _ ⟨_, _, _, _, R4⟩
  · rw [oCancel, if_pos e] at p; exact p.2 (by show (1 : Nat) ≠ 0; decide) q S R0
  · rw [oCancel, if_neg (by rw [e]; decide), if_pos e2] at p; exact p.2 (by show (2 : Nat) ≠ 0; decide) q S R0
end
