/-! PLAIN LAWS, z4: a booking is added -/
section
variable {ke : Nat} {kc : Nat → Nat} {S S' : HS} {c c' : HC} {x κ : Nat} {ad qs : Nat → Nat} {bks : Nat → Nat → Nat} {F F' : MF} {G G' : MG} {W : Nat → Prop} {px : String → Nat → HS → Prop} {mc ms : Nat}
theorem xPl.ext {su st gr q : Nat} {bk : Nat → Nat} (P : xPl ke S c x su st gr q G bk) (E : xExt S c S' c' (fun _ => False)) : xPl ke S' c' x su st gr q G bk :=
  ⟨P.T.ext E (fun _ _ z => z), P.U.ext E (fun _ _ z => z), P.V.ext E (fun _ _ z => z), P.q⟩
def bkInit (S : HS) (q e : Nat) (h s p : Int32) : HS := sI (sI (sI (sR (sI (nO S 8 q) 805 q 1) 800 q (some e)) 801 q h) 802 q s) 803 q p
theorem bkInit_go {q e v : Nat} {h s p : Int32} (n : xNew S q) (hv : v < κ + 10) : xGo S c (bkInit S q e h s p) (cU c q v) (fun _ => False) κ := by
  have ne : ∀ a, (∃ t, hD S t a) → ¬ a = q := fun a ⟨t, d⟩ => n.ne d
  unfold bkInit
  exact gNone (gNone (gNone (gNone (gNone (gO c 8 v n hv) (gI _ _ _ _ _ _) ne) (gR' _ _ _ _ _ _) ne) (gI _ _ _ _ _ _) ne) (gI _ _ _ _ _ _) ne) (gI _ _ _ _ _ _) ne
theorem bkInit_is {q e v : Nat} {g r : Nat → Int32} (n : xNew S q) (hv : v < κ + 10) (he : xEv S c e r) (h11 : r 11 = 1) (h12 : r 12 = 0) : xBk (bkInit S q e (r 9) (r 10) (sPrice g r (r 9) (r 10))) (cU c q v) v q g r 0 := by
  have G := bkInit_go (c := c) (e := e) (h := r 9) (s := r 10) (p := sPrice g r (r 9) (r 10)) n hv
  refine ⟨nO_D S 8 q, cU_eq c q v, ⟨e, ?_, he.ext G.E (fun _ _ z => z)⟩, ?_, ?_, ?_, ?_, ?_, ?_⟩
  · show hR (sR (sI (nO S 8 q) 805 q 1) 800 q (some e)) 800 q = some e
    exact sR_eq _ _ _ _
  · simp only [bkInit, sI_at, sR_I]; simp
  · simp only [bkInit, sI_at, sR_I]; simp
  · intro _; simp only [bkInit, sI_at, sR_I]; simp
  · rw [h12]; simp only [bkInit, sI_at, sR_I, nO_I]; simp
  · rw [h11]; simp only [bkInit, sI_at, sR_I]; simp
  · simp only [bkInit, sI_at, sR_I, nO_I]; simp
/-- bookings with no problem lie apart -/
theorem z_apart {hall s : Int32} {k : Nat} (hF : zFx (G 1)) (hN : zNw (G 1) (G 8)) (hz : zEv (G 7)) (hs : zSt s) (h : sProb G hall s = 0) (hk : k < cn (G 8 1)) (ha : gB G k 11 = 1) (ho : G 19 k = 0) (hp : gB G k 9 = hall) : gB G k 10 ≠ s := by
  intro e
  have nz : zany (fun b => sNear G b hall s) 0 (cn (G 8 1)) = true := by
    rw [zany_iff]
    refine ⟨k, Nat.zero_le _, by omega, ?_⟩
    have d1 : 15 ≤ (gB G k 2).toInt ∧ (gB G k 2).toInt ≤ 1440 ∧ _ := (hN.be k hk).du
    have t1 : 0 ≤ (gB G k 0).toInt ∧ (gB G k 0).toInt < 6 := (hN.be k hk).ty
    have t2 := hz.ty
    have d2 := hz.du
    obtain ⟨s1, s2, -⟩ := hs
    have bt : ∀ a b : Int32, 0 ≤ a.toInt ∧ a.toInt < 6 → 0 ≤ b.toInt ∧ b.toInt < 6 → 0 ≤ (sBetw G a b).toInt ∧ (sBetw G a b).toInt ≤ 600 := fun a b ha hb => by
      have la := cn_lt' (n := 6) ha.1 ha.2
      have lb := cn_lt' (n := 6) hb.1 hb.2
      have := hF.be (6 * cn a + cn b) (by omega)
      unfold sBetw
      rw [Nat.add_assoc]; exact this
    have b1 := bt _ _ t1 t2
    have b2 := bt _ _ t2 t1
    have e1 : (sEnd G k).toInt = s.toInt + (gB G k 2).toInt := by
      unfold sEnd; rw [e, z_add (by omega) (by omega)]
    have e2 : (sEnd G k + sBetw G (gB G k 0) (G 7 0)).toInt = s.toInt + (gB G k 2).toInt + (sBetw G (gB G k 0) (G 7 0)).toInt := by rw [z_add (by omega) (by omega), e1]
    have e3 : (s + G 7 2).toInt = s.toInt + (G 7 2).toInt := z_add (by omega) (by omega)
    have e4 : (s + G 7 2 + sBetw G (G 7 0) (gB G k 0)).toInt = s.toInt + (G 7 2).toInt + (sBetw G (G 7 0) (gB G k 0)).toInt := by rw [z_add (by omega) (by omega), e3]
    have l1 : s < sEnd G k + sBetw G (gB G k 0) (G 7 0) := by rw [z_lt, e2]; omega
    have l2 : gB G k 10 < s + G 7 2 + sBetw G (G 7 0) (gB G k 0) := by rw [e, z_lt, e4]; omega
    simp only [sNear, sCounts, ha, ho, hp, l1, l2, beq_self_eq_true, decide_true, Bool.and_true]
  unfold sProb at h
  rw [nz] at h
  split at h
  · exact absurd h (by decide)
  · split at h
    · exact absurd h (by decide)
    · split at h
      · exact absurd h (by decide)
      · split at h
        · exact absurd h (by decide)
        · rw [if_pos rfl] at h; exact absurd h (by decide)
/-- the model's row with one booking more -/
def sBooks (n r : Nat → Int32) (hall s : Int32) : Nat → Int32 :=
  upd (upd (upd (upd (upd (zrow n (4 + 13 * cn (n 1)) 9 r) (4 + 13 * cn (n 1) + 9) hall) (4 + 13 * cn (n 1) + 10) s) (4 + 13 * cn (n 1) + 11) 1) (4 + 13 * cn (n 1) + 12) 0) 1 (n 1 + 1)
theorem sBooks_old {n r : Nat → Int32} {hall s : Int32} {i : Nat} (h : i ≠ 1) (h2 : i < 4 + 13 * cn (n 1) ∨ 4 + 13 * cn (n 1) + 13 ≤ i) : sBooks n r hall s i = n i := by
  simp only [sBooks, upd, zrow]
  rw [if_neg h, if_neg (by omega), if_neg (by omega), if_neg (by omega), if_neg (by omega), if_neg (by omega)]
theorem sBooks_1 {n r : Nat → Int32} {hall s : Int32} : sBooks n r hall s 1 = n 1 + 1 := by
  unfold sBooks
  exact if_pos rfl
theorem sBooks_new {n r : Nat → Int32} {hall s : Int32} : (∀ w, w < 9 → sBooks n r hall s (4 + 13 * cn (n 1) + w) = r w) ∧ sBooks n r hall s (4 + 13 * cn (n 1) + 9) = hall ∧ sBooks n r hall s (4 + 13 * cn (n 1) + 10) = s ∧ sBooks n r hall s (4 + 13 * cn (n 1) + 11) = 1 ∧ sBooks n r hall s (4 + 13 * cn (n 1) + 12) = 0 := by
  refine ⟨fun w hw => ?_, ?_, ?_, ?_, ?_⟩ <;> simp only [sBooks, upd, zrow]
  · rw [if_neg (by omega), if_neg (by omega), if_neg (by omega), if_neg (by omega), if_neg (by omega), if_pos (by omega)]
    congr 1; omega
  · rw [if_neg (by omega), if_neg (by omega), if_neg (by omega), if_neg (by omega), if_true]
  · rw [if_neg (by omega), if_neg (by omega), if_neg (by omega), if_true]
  · rw [if_neg (by omega), if_neg (by omega), if_true]
  · rw [if_neg (by omega), if_true]
theorem sBooks_cn {n r : Nat → Int32} {hall s : Int32} (h : 0 ≤ (n 1).toInt ∧ (n 1).toInt < 60) : cn (sBooks n r hall s 1) = cn (n 1) + 1 ∧ (sBooks n r hall s 1).toInt = (n 1).toInt + 1 := by
  have e : (n 1 + 1).toInt = (n 1).toInt + 1 := z_add (by simp; omega) (by simp; omega)
  rw [sBooks_1]
  refine ⟨?_, e⟩
  have e1 : cn (n 1 + 1) = (n 1 + 1).toInt.toNat := rfl
  have e2 : cn (n 1) = (n 1).toInt.toNat := rfl
  omega
theorem zNw.books {g n r : Nat → Int32} {hall s : Int32} (N : zNw g n) (hb : (n 1).toInt < 60) (Z : zEv r) (hh : 0 ≤ hall.toInt ∧ hall.toInt < (g 0).toInt) (hs : zSt s) : zNw g (sBooks n r hall s) := by
  have lb := cn_le (n := 60) N.b.2
  obtain ⟨c1, c2⟩ := sBooks_cn (r := r) (hall := hall) (s := s) ⟨N.b.1, hb⟩
  obtain ⟨w0, w9, w10, w11, w12⟩ := sBooks_new (n := n) (r := r) (hall := hall) (s := s)
  have b0 := N.b
  have lr := cn_le (n := 20) N.r.2
  have cb : cn (n 1) < 60 := cn_lt' N.b.1 hb
  have o : ∀ j w, j < cn (n 1) → w < 13 → sBooks n r hall s (4 + 13 * j + w) = n (4 + 13 * j + w) := fun j w hj hw => sBooks_old (by omega) (.inl (by omega))
  have o2 : ∀ i, 784 ≤ i → sBooks n r hall s i = n i := fun i hi => sBooks_old (by omega) (.inr (by omega))
  have u2 : sBooks n r hall s 2 = n 2 := sBooks_old (by decide) (.inl (by omega))
  refine ⟨by rw [sBooks_old (by decide) (.inl (by omega))]; exact N.no, by omega, by rw [u2]; exact N.r, by rw [sBooks_old (by decide) (.inl (by omega))]; exact N.s, ?_, ?_, ?_, ?_, ?_, ?_, ?_⟩
  · rw [c1]; intro j hj
    by_cases z : j = cn (n 1)
    · subst z; exact Z.congr w0
    · exact (N.be j (by omega)).congr (fun w hw => o j w (by omega) (by omega))
  · rw [c1]; intro j hj
    by_cases z : j = cn (n 1)
    · subst z; rw [w9]; exact hh
    · rw [o j 9 (by omega) (by decide)]; exact N.bp j (by omega)
  · rw [c1]; intro j hj
    by_cases z : j = cn (n 1)
    · subst z; rw [w10]; exact hs
    · rw [o j 10 (by omega) (by decide)]; exact N.bs j (by omega)
  · rw [c1]; intro j hj
    by_cases z : j = cn (n 1)
    · subst z; rw [w11]; exact .inr rfl
    · rw [o j 11 (by omega) (by decide)]; exact N.ba j (by omega)
  · rw [u2]; intro j hj
    exact (N.re j hj).congr (fun w hw => o2 _ (by omega))
  · rw [u2]; intro j hj
    rw [o2 _ (by omega)]; exact N.rp j hj
  · rw [u2]; intro j hj
    rw [o2 _ (by omega)]; exact N.rs j hj
theorem zSep.books {g n r : Nat → Int32} {hall s : Int32} (N : zNw g n) (hb : (n 1).toInt < 60) (Z : zSep n) (h : ∀ k, k < cn (n 1) → n (4 + 13 * k + 11) = 1 → n (4 + 13 * k + 9) = hall → n (4 + 13 * k + 10) ≠ s) : zSep (sBooks n r hall s) := by
  have lb := cn_le (n := 60) N.b.2
  obtain ⟨c1, c2⟩ := sBooks_cn (r := r) (hall := hall) (s := s) ⟨N.b.1, hb⟩
  obtain ⟨w0, w9, w10, w11, w12⟩ := sBooks_new (n := n) (r := r) (hall := hall) (s := s)
  have o : ∀ j w, j < cn (n 1) → w < 13 → sBooks n r hall s (4 + 13 * j + w) = n (4 + 13 * j + w) := fun j w hj hw => sBooks_old (by omega) (.inl (by omega))
  intro i j hi hj ne
  rw [c1] at hi hj
  by_cases z1 : i = cn (n 1) <;> by_cases z2 : j = cn (n 1)
  · omega
  · subst z1
    rw [w9, w10, w11, o j 11 (by omega) (by decide), o j 9 (by omega) (by decide), o j 10 (by omega) (by decide)]
    intro _ a e
    exact (h j (by omega) a e.symm).symm
  · subst z2
    rw [w9, w10, w11, o i 11 (by omega) (by decide), o i 9 (by omega) (by decide), o i 10 (by omega) (by decide)]
    intro a _ e
    exact h i (by omega) a e
  · rw [o i 11 (by omega) (by decide), o i 9 (by omega) (by decide), o i 10 (by omega) (by decide), o j 11 (by omega) (by decide), o j 9 (by omega) (by decide), o j 10 (by omega) (by decide)]
    exact Z i j (by omega) (by omega) ne
theorem x_addBk {e B : Nat} {r : Nat → Int32} {hall s : Int32} {post : Int32 → HS → Prop} (ek : kc 0 = ke) (R : xRX ke S c x ad qs bks F G) (hB : B % 10 = 0 ∧ 10 ≤ B ∧ ∀ i, i < 10 → qs i < B) (hbd : ∀ a t, hD S t a → c a < B) (hb : (G 8 1).toInt < 60) (E : xEv S c e r) (Z : zEv r) (hh : 0 ≤ hall.toInt ∧ hall.toInt < (G 1 0).toInt) (hs : zSt s)
    (hsep : ∀ k, k < cn (G 8 1) → gB G k 11 = 1 → gB G k 9 = hall → gB G k 10 ≠ s)
    (h : ∀ S' c' bks', xGo S c S' c' (fun a => c a = qs 0 + 1) B → xRX ke S' c' x ad qs bks' F (mg G 8 (sBooks (G 8) r hall s)) → post (G 8 1) S') : wX_X1_add kc post 2 207 x e hall s S := by
  have lb := cn_le (n := 60) R.N.b.2
  have cb : cn (G 8 1) < 60 := cn_lt' R.N.b.1 hb
  obtain ⟨c1, c2⟩ := sBooks_cn (n := G 8) (r := r) (hall := hall) (s := s) ⟨R.N.b.1, hb⟩
  obtain ⟨w0, w9, w10, w11, w12⟩ := sBooks_new (n := G 8) (r := r) (hall := hall) (s := s)
  have b0 := hB.2.2 0 (by decide)
  have q0 := R.q.1 0 (by decide)
  have V := R.P.V
  obtain ⟨l, l1, l2⟩ := V.b
  refine ⟨R.P.T.d, ad 1, R.P.T.st, V.d, l, l1, by decide, by decide, fun b nb => ?_⟩
  rintro _ rfl
  have g1 := gO c 8 (qs 0 + 2) (κ := B) nb (by omega)
  have xb := nb.ne R.P.T.d
  refine ⟨ad 0, by rw [nO_Rne xb]; exact R.P.T.su, nO_old R.P.U.d, ?_⟩
  have P1 := R.P.ext g1.E
  refine x_price P1 R.F (E.ext g1.E (fun _ _ z => z)) hh ?_
  refine ⟨nO_D S 8 b, ?_⟩
  rintro _ rfl _ rfl _ rfl _ rfl _ rfl
  let r' : Nat → Int32 := fun w => sBooks (G 8) r hall s (4 + 13 * cn (G 8 1) + w)
  have er : sPrice (G 1) r hall s = sPrice (G 1) r' (r' 9) (r' 10) := by
    rw [show r' 9 = hall from w9, show r' 10 = s from w10]
    exact (sPrice_congr (cn_le (n := 6) R.F.k.2) w0).symm
  have Bk : xBk (bkInit S b e (r' 9) (r' 10) (sPrice (G 1) r' (r' 9) (r' 10))) (cU c b (qs 0 + 2)) (qs 0 + 2) b (G 1) r' 0 := bkInit_is (κ := B) nb (by omega) (E.congr w0) w11 w12
  have G1 := bkInit_go (c := c) (κ := B) (e := e) (v := qs 0 + 2) (h := r' 9) (s := r' 10) (p := sPrice (G 1) r' (r' 9) (r' 10)) nb (by omega)
  have eS : sI (sI (sI (sR (sI (nO S 8 b) 805 b 1) 800 b (some e)) 801 b hall) 802 b s) 803 b (sPrice (G 1) r hall s) = bkInit S b e (r' 9) (r' 10) (sPrice (G 1) r' (r' 9) (r' 10)) := by
    rw [← er, show r' 9 = hall from w9, show r' 10 = s from w10]; rfl
  rw [eS]
  have V1 := V.ext G1.E (fun _ _ z => z)
  have l2' := l2.ext G1.E (fun _ _ z => z)
  generalize bkInit S b e (r' 9) (r' 10) (sPrice (G 1) r' (r' 9) (r' 10)) = S1 at *
  have bne : ∀ j, j < cn (G 8 1) → bks 0 j ≠ b := fun j hj => nb.ne (V.bb j hj).d
  have GC : ∀ a t, hD S t a → cU c b (qs 0 + 2) a = c a := fun a t d => G1.E.C d
  have c1x := GC x 0 R.P.T.d
  refine ⟨l2'.d, by decide, by decide, ?_⟩
  generalize cU c b (qs 0 + 2) = c1' at *
  refine x_add (κ := B) ek (by omega) l2' (by omega) Bk.obj (fun k hk => (V1.bb k hk).obj) (by omega) (by decide) (by decide) (fun S2 c2 G2 L2 => ?_)
  have GG : xGo S c S2 c2 (fun a => c a = qs 0 + 1) B := (G1.mono (fun _ _ z => z.elim)).go G2 (fun a ⟨t, d⟩ z => by rw [GC a t d] at z; exact z)
  have E2 := G2.E
  have ws : ∀ a, c1' a ≠ qs 0 + 1 → ¬ c1' a = qs 0 + 1 := fun _ h => h
  have st1 : c1' (ad 1) = qs 0 := V1.cs
  have wst : ¬ c1' (ad 1) = qs 0 + 1 := by omega
  have u : ∀ i, i < 4 → i ≠ 1 → sBooks (G 8) r hall s i = G 8 i := fun i hi h1 => sBooks_old h1 (.inl (by omega))
  have o : ∀ j w, j < cn (G 8 1) → w < 13 → sBooks (G 8) r hall s (4 + 13 * j + w) = G 8 (4 + 13 * j + w) := fun j w hj hw => sBooks_old (by omega) (.inl (by omega))
  have o2 : ∀ i, 784 ≤ i → sBooks (G 8) r hall s i = G 8 i := fun i hi => sBooks_old (by omega) (.inr (by omega))
  have lk := cn_le (n := 6) R.F.k.2
  have lr := cn_le (n := 20) R.N.r.2
  have ls := cn_le (n := 16) R.N.s.2
  have V2 : xSt ke S2 c2 (qs 0) (ad 1) (G 1) (sBooks (G 8) r hall s) (G 19) (fun k => if k = cn (G 8 1) then b else bks 0 k) := by
    refine ⟨E2.D V1.d, (E2.C V1.d).trans V1.cs, ?_, ?_, ?_, ?_, ?_, ?_, ?_⟩
    · rw [u 3 (by decide) (by decide)]; exact (E2.I V1.d wst _).trans V1.cl
    · rw [u 0 (by decide) (by decide)]; exact (E2.I V1.d wst _).trans V1.no
    · rw [c1]
      obtain ⟨l', m1, m2⟩ := V1.b
      refine ⟨l, (E2.R V1.d wst _).trans ?_, L2⟩
      exact (G1.E.R V.d (fun z => z) 200).trans l1
    · rw [c1]; intro k hk
      by_cases z : k = cn (G 8 1)
      · subst z
        dsimp only
        rw [if_pos rfl, R.out _ cb]
        exact Bk.ext E2 (fun a h z => by omega) (by rw [Bk.cb]; omega)
      · dsimp only
        rw [if_neg z]
        have B1 := V1.bb k (by omega)
        exact (B1.ext E2 (fun a h z => by omega) (by rw [B1.cb]; omega)).congr lk (fun w hw => o k w (by omega) hw)
    · rw [c1]; intro i j hi hj e'
      dsimp only at e'
      by_cases z1 : i = cn (G 8 1) <;> by_cases z2 : j = cn (G 8 1)
      · omega
      · rw [if_pos z1, if_neg z2] at e'; exact absurd e'.symm (bne j (by omega))
      · rw [if_neg z1, if_pos z2] at e'; exact absurd e' (bne i (by omega))
      · rw [if_neg z1, if_neg z2] at e'; exact V.bi i j (by omega) (by omega) e'
    · rw [u 2 (by decide) (by decide)]
      obtain ⟨lr', rq, r1, r2, r3⟩ := V1.r
      exact ⟨lr', rq, (E2.R V1.d wst _).trans r1, r2.ext E2 (fun a h z => by omega), fun k hk => ((r3 k hk).ext E2 (fun a h z => by omega)).congr (fun w hw => o2 _ (by omega))⟩
    · rw [u 3 (by decide) (by decide)]
      obtain ⟨a, a1, a2, a3, a4⟩ := V1.s
      obtain ⟨b2, b3, b4, b5, b6⟩ := zS.ext (r := fun k w => G 8 (1004 + 3 * k + w)) (i := fun _ _ => 0) ⟨a2, a3, a4⟩ E2 (fun a h z => by omega)
      refine ⟨a, (E2.R V1.d wst _).trans a1, b2, b3, b4, fun k hk => ?_, b6⟩
      obtain ⟨o', o1, o2'⟩ := b5 k hk
      exact ⟨o', o1, o2'.congr (fun w hw => o2 _ (by omega))⟩
  have R2 := R.updS (G' := mg G 8 (sBooks (G 8) r hall s)) hB hbd GG (fun a z => by omega) V2 (R.N.books hb Z hh hs) (zSep.books R.N hb R.sep hsep) R.out (fun k h1 h2 => mg_ne h1) (mg_eq _ 8 _) (mg_ne (show 19 ≠ 8 by decide))
  refine ⟨R2.P.T.d, ad 1, R2.P.T.st, V2.d, ?_⟩
  obtain ⟨l', m1, m2⟩ := V2.b
  refine ⟨l', m1, m2.d, x_size m2 ?_⟩
  have e1 : nI (cn (sBooks (G 8) r hall s 1)) - 1 = G 8 1 := by
    rw [c1]
    have e2 : nI (cn (G 8 1) + 1) - nI 1 = nI (cn (G 8 1)) := zI_sub (a := cn (G 8 1) + 1) (b := 1) (by omega)
    rw [zI_1, e2, ← cn_nI R.N.b.1]
  rw [e1]
  exact h S2 c2 _ GG R2
end
