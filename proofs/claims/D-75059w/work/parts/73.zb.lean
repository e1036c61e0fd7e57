/-! PLAIN LAWS, zb: a plan serves its requests; cancel -/
section
variable {ke : Nat} {kc : Nat → Nat} {S S' : HS} {c c' : HC} {x κ : Nat} {ad qs : Nat → Nat} {bks : Nat → Nat → Nat} {F F' : MF} {G G' : MG} {W : Nat → Prop} {px : String → Nat → HS → Prop} {mc ms : Nat}
/-- the iterator's last request goes -/
theorem x_serve1 {it l γ k B : Nat} {n' : Nat → Int32} {post : HS → Prop} (R : xRX ke S c x ad qs bks F (mg G 8 n')) (N : zNw (G 1) n') (I : xIt S c it l (k + 1) γ) (hl : hR S 201 (ad 1) = some l) (lr : hI S 1601 it = nI k) (hγ : 10 ≤ γ ∧ ∀ i, i < 10 → qs i + 10 ≤ γ) (hB : B % 10 = 0 ∧ 10 ≤ B ∧ ∀ i, i < 10 → qs i < B) (hbd : ∀ a t, hD S t a → c a < B) (hk : k < cn (n' 2))
    (h : ∀ S', xExt S c S' c (fun a => c a ≠ qs 0 + 2) → xRX ke S' c x ad qs (fun i => if i = 0 then bks 0 else bks i) F (mg G 8 (sDeq n' k)) → xIt S' c it l k γ → hR S' 201 (ad 1) = some l → (∀ a t, hD S' t a → c a < B + 10 + 10) → post S') : wX_J23_remove post it S := by
  have hF : zFx (G 1) := R.F
  have W := R.P.V
  rw [mg_eq] at W
  have q0 := R.q.1 0 (by decide)
  have g0 := hγ.2 0 (by decide)
  obtain ⟨l', rq, t1, t2, t3⟩ := W.r
  rw [hl] at t1; cases t1
  refine x_itRemove (κ := B) I lr t2 hk (fun j hj => (t3 j hj).obj) ⟨by omega, by omega⟩ (fun S4 S5 G4 L4 G5 I5 => ?_)
  have V4 := x_deqState (k := k) W N hF hk R.P.q hl t3 G4 L4
  have sep := R.sep
  rw [mg_eq] at sep
  have lb := cn_le (n := 60) N.b.2
  have R4 := R.updS (G' := mg G 8 (sDeq n' k)) hB hbd G4 (fun a y => by omega) V4 (N.deq hk) (sep.same lb (fun i hi h2 h3 => sDeq_old hk h2 (.inl (by omega)))) R.out (fun j h1 h2 => by rw [mg_ne h1, mg_ne h1]) (mg_eq _ 8 _) (by rw [mg_ne (show 19 ≠ 8 by decide), mg_ne (show 19 ≠ 8 by decide)])
  have ci : c it = γ := I.ci
  have other : ∀ a, a = it → 10 ≤ c a ∧ ∀ i, i < 10 → ¬ (qs i ≤ c a ∧ c a < qs i + 10) := fun a y => by
    rw [y, ci]
    exact ⟨hγ.1, fun i hi h => by have := hγ.2 i hi; omega⟩
  have b4 : ∀ a t, hD S4 t a → c a < B + 10 := G4.bd hbd
  have hB4 : (B + 10) % 10 = 0 ∧ 10 ≤ B + 10 ∧ ∀ i, i < 10 → qs i < B + 10 := ⟨by omega, by omega, fun i hi => by have := hB.2.2 i hi; omega⟩
  have G5' : xGo S4 c S5 c (fun a => a = it) (B + 10) := ⟨G5.E, fun a t dd => (G5.N a t dd).imp id (fun y => by omega)⟩
  have R5 := R4.other hB4 b4 G5' other
  have wit : ∀ a, c a ≠ γ → ¬ a = it := fun a h y => h (by rw [y]; exact ci)
  have cst : c (ad 1) = qs 0 := W.cs
  have hl5 : hR S5 201 (ad 1) = some l := (G5.E.R V4.d (wit _ (by omega)) 201).trans ((G4.E.R W.d (by omega) 201).trans hl)
  have E5 : xExt S c S5 c (fun a => c a ≠ qs 0 + 2) := (G4.E.mono (W2 := fun a => c a ≠ qs 0 + 2) (fun a _ y => by omega)).then G5.E (fun a _ y => by rw [y, ci]; omega)
  exact h S5 E5 R5 I5 hl5 (G5'.bd b4)
/-- one request is served -/
theorem x_serveYes {it l γ k B e : Nat} {n : Nat → Int32} {post : HS → Prop} (ek : kc 0 = ke) (R : xRX ke S c x ad qs bks F (mg G 8 n)) (N : zNw (G 1) n) (I : xIt S c it l (k + 1) γ) (hl : hR S 201 (ad 1) = some l) (lr : hI S 1601 it = nI k) (L : hD S 12 l ∧ c l = qs 0 + 3) (hγ : 10 ≤ γ ∧ ∀ i, i < 10 → qs i + 10 ≤ γ) (hB : B % 10 = 0 ∧ 10 ≤ B ∧ ∀ i, i < 10 → qs i < B) (hbd : ∀ a t, hD S t a → c a < B) (hk : k < cn (n 2)) (lt60 : (n 1).toInt < 60)
    (ev : xEv S c e (fun w => n (784 + 11 * k + w))) (z1 : sProb (sAsk (mg G 8 n) 8 (784 + 11 * k)) (n (784 + 11 * k + 9)) (n (784 + 11 * k + 10)) = 0)
    (h : ∀ S' c' bks', xExt S c S' c' (fun a => c a ≠ qs 0 + 2) → xRX ke S' c' x ad qs bks' F (mg G 8 (sServe1 n k)) → xIt S' c' it l k γ → hR S' 201 (ad 1) = some l → (∀ a t, hD S' t a → c' a < B + 10 + 10 + 10) → post S') :
    wX_X1_add kc (fun _ S3 => hD S3 16 it ∧ wX_J23_remove (fun S5 => post S5) it S3) 2 207 x e (n (784 + 11 * k + 9)) (n (784 + 11 * k + 10)) S := by
  have hF : zFx (G 1) := R.F
  have q0 := R.q.1 0 (by decide)
  have g0 := hγ.2 0 (by decide)
  have lb := cn_le (n := 60) N.b.2
  have cb : cn (n 1) < 60 := cn_lt' N.b.1 lt60
  have cst : c (ad 1) = qs 0 := R.P.V.cs
  have dst := R.P.V.d
  have hN8 : zNw (mg G 8 n 1) (mg G 8 n 8) := by rw [mg_eq]; exact N
  have ci : c it = γ := I.ci
  have n2 := sServe1_2 (n := n) (k := k) cb
  have N2 : zNw (G 1) (sBooks n (fun w => n (784 + 11 * k + w)) (n (784 + 11 * k + 9)) (n (784 + 11 * k + 10))) := N.books lt60 (N.re k hk) (N.rp k hk) (N.rs k hk)
  refine x_addBk (B := B) (r := fun w => n (784 + 11 * k + w)) ek R hB hbd (by rw [mg_eq]; exact lt60) ev (N.re k hk) (N.rp k hk) (N.rs k hk) (fun j hj h11 h9 => ?_) (fun S3 c3 bks3 G3 R3 => ?_)
  · exact z_apart (G := sAsk (mg G 8 n) 8 (784 + 11 * k)) hF hN8 (zEv_row (G := mg G 8 n) (r := 8) (x := 784 + 11 * k) (by rw [mg_eq]; exact N.re k hk) rfl) (N.rs k hk) z1 hj h11 (R.out j (by rw [mg_eq] at hj; omega)) h9
  · rw [mg_mg, mg_eq] at R3
    have I3 : xIt S3 c3 it l (k + 1) γ := I.ext G3.E L.1 ⟨by omega, by omega⟩
    have hl3 : hR S3 201 (ad 1) = some l := (G3.E.R dst (by omega) 201).trans hl
    have lr3 : hI S3 1601 it = nI k := (G3.E.I I.d (by omega) _).trans lr
    refine ⟨I3.d, x_serve1 (B := B + 10) R3 N2 I3 hl3 lr3 hγ ⟨by omega, by omega, fun i hi => by have := hB.2.2 i hi; omega⟩ (G3.bd hbd) (by rw [n2]; exact hk) (fun S5 E5 R5 I5 hl5 b5 => ?_)⟩
    exact h S5 c3 _ ((G3.E.mono (W2 := fun a => c a ≠ qs 0 + 2) (fun a _ y => by omega)).then E5 (fun a ⟨t, dd⟩ y => by rw [G3.E.C dd] at y; exact y)) R5 I5 hl5 b5
theorem x_serves {post : HS → Prop} {it l γ : Nat} (ek : kc 0 = ke) (d : Nat) : ∀ (k : Nat) (n : Nat → Int32) (S : HS) (c : HC) (bks : Nat → Nat → Nat) (mc ms B : Nat), xRX ke S c x ad qs bks F (mg G 8 n) → xIt S c it l k γ → hR S 201 (ad 1) = some l → (10 ≤ γ ∧ ∀ i, i < 10 → qs i + 10 ≤ γ) → (B % 10 = 0 ∧ 10 ≤ B ∧ ∀ i, i < 10 → qs i < B) → (∀ a t, hD S t a → c a < B) → k + d = cn (n 2) → 2 * d ≤ mc → 207 * d ≤ ms →
    (∀ S' c' bks', xExt S c S' c' (fun a => c a ≠ qs 0 + 2) → xRX ke S' c' x ad qs bks' F (mg G 8 (sServe G d k n)) → post S') → wX_X1_serveRequests_l13 kc post x (d + 1) it mc ms S := by
  induction d with
  | zero =>
    intro k n S c bks mc ms B R I hl hγ hB hbd hk hmc hms p
    have V := R.P.V
    obtain ⟨l', rq, l1, l2, l3⟩ := V.r
    rw [hl] at l1; cases l1
    refine ⟨I.d, I.d, l, I.li, l2.d, fun _ => ⟨fun _ => p S c bks (xExt.rf S c _) R, fun z => absurd rfl z⟩, fun z => absurd ?_ z⟩
    rw [I.cu, l2.nn]
    congr 1
  | succ d ih =>
    intro k n S c bks mc ms B R I hl hγ hB hbd hk hmc hms p
    have V := R.P.V
    have N : zNw (G 1) n := by have := R.N; rw [mg_eq] at this; exact this
    have hF : zFx (G 1) := R.F
    have lr := cn_le (n := 20) N.r.2
    have lb := cn_le (n := 60) N.b.2
    obtain ⟨l', rq, l1, l2, l3⟩ := V.r
    rw [hl] at l1; cases l1
    rw [mg_eq] at l2 l3
    have hk' : k < cn (n 2) := by omega
    have q0 := R.q.1 0 (by decide)
    have g0 := hγ.2 0 (by decide)
    have st0 := V.cs
    -- the iterator goes on
    rw [show wX_X1_serveRequests_l13 kc post x (d + 1 + 1) = wX_X1_serveRequests_b13 kc post x (wX_X1_serveRequests_l13 kc post x (d + 1)) from rfl]
    refine ⟨I.d, I.d, l, I.li, l2.d, fun z => absurd z ?_, fun _ => ⟨fun z => absurd z (by decide), fun _ => ?_⟩⟩
    · rw [I.cu, l2.nn, zI_inj (by omega) (by omega)]; omega
    refine x_itNext (κ := B) I l2 hk' ⟨by omega, by omega⟩ (fun S1 G1 I1 lr1 => ?_)
    have other : ∀ a, a = it → 10 ≤ c a ∧ ∀ i, i < 10 → ¬ (qs i ≤ c a ∧ c a < qs i + 10) := fun a z => by
      rw [z, I.ci]
      exact ⟨hγ.1, fun i hi h => by have := hγ.2 i hi; omega⟩
    have R1 := R.other hB hbd G1 other
    have b1 : ∀ a t, hD S1 t a → c a < B + 10 := G1.bd hbd
    have hB1 : (B + 10) % 10 = 0 ∧ 10 ≤ B + 10 ∧ ∀ i, i < 10 → qs i < B + 10 := ⟨by omega, by omega, fun i hi => by have := hB.2.2 i hi; omega⟩
    have wit : ∀ a, c a ≠ γ → ¬ a = it := fun a h z => h (by rw [z]; exact I.ci)
    have hl1 : hR S1 201 (ad 1) = some l := (G1.E.R V.d (wit _ (by omega)) 201).trans hl
    have E1 : xExt S c S1 c (fun a => c a ≠ qs 0 + 2) := G1.E.mono (fun a _ z => by rw [z, I.ci]; omega)
    have Q := (l3 k hk').ext G1.E (fun a h => wit a (by omega))
    obtain ⟨e, v1, v2⟩ := Q.ev
    have V1 := R1.P.V
    obtain ⟨lb', m1, m2⟩ := V1.b
    have L1 : xLs ke S1 c (qs 0 + 3) l (cn (n 2)) rq := l2.ext G1.E (fun a h => wit a (by rcases h with h | h <;> omega))
    refine ⟨Q.d, R1.P.T.d, ad 1, R1.P.T.st, V1.d, lb', m1, m2.d, x_size m2 ?_⟩
    rw [mg_eq]
    have nb : nI (cn (n 1)) = n 1 := (cn_nI N.b.1).symm
    rw [nb]
    have no : ∀ S2 : HS, sServeOk G n k = false → xRX ke S2 c x ad qs bks F (mg G 8 n) → xIt S2 c it l (k + 1) γ → hR S2 201 (ad 1) = some l → (∀ a t, hD S2 t a → c a < B + 10) → xExt S c S2 c (fun a => c a ≠ qs 0 + 2) → wX_X1_serveRequests_l13 kc post x (d + 1) it mc ms S2 := fun S2 z R2 I2 h2 b2 E2 => by
      simp only [sServe] at p
      rw [z, if_neg (by decide)] at p
      exact ih (k + 1) n S2 c bks mc ms (B + 10) R2 I2 h2 hγ hB1 b2 (by omega) (by omega) (by omega) (fun S' c' bks' E' R' => p S' c' bks' (E2.then E' (fun a _ z => z)) R')
    refine ⟨fun z => no S1 ?_ R1 I1 hl1 b1 E1, fun z => ?_⟩
    · have : ¬ (n 1).toInt < 60 := by
        rw [z_le] at z
        simp only [show (60 : Int32).toInt = 60 from rfl] at z
        omega
      simp only [sServeOk, this, decide_false, Bool.false_and]
    have lt60 : (n 1).toInt < 60 := by
      rw [z_le] at z
      simp only [show (60 : Int32).toInt = 60 from rfl] at z
      omega
    have cb : cn (n 1) < 60 := cn_lt' N.b.1 lt60
    refine ⟨e, v1, ?_⟩
    rw [Q.ha, Q.st]
    have P2 : xPl ke S1 c x (ad 0) (ad 1) (ad 2) (qs 0) (sAsk (mg G 8 n) 8 (784 + 11 * k)) (bks 0) := R1.P.congr R1.N rfl rfl (fun _ _ => rfl)
    have hN8 : zNw (mg G 8 n 1) (mg G 8 n 8) := by rw [mg_eq]; exact N
    refine x_problemOf (G := sAsk (mg G 8 n) 8 (784 + 11 * k)) P2 hF hN8 (xEv_row (G := mg G 8 n) (r := 8) (x := 784 + 11 * k) (by rw [mg_eq]; exact v2) rfl) (zEv_row (G := mg G 8 n) (r := 8) (x := 784 + 11 * k) (by rw [mg_eq]; exact N.re k hk') rfl) (N.rp k hk') (N.rs k hk') (fun g => ?_)
    have R2 := R1.sG (g := g)
    have gc := R1.P.T.gc
    have wg : ∀ a, c a ≠ 2 → ¬ a = ad 2 := fun a h y => h (by rw [y]; exact gc)
    have EG := gG S1 c (ad 2) g (B + 10)
    have I2 : xIt (sG S1 (ad 2) g) c it l (k + 1) γ := I1.ext EG.E L1.d ⟨wg _ (by rw [I.ci]; omega), wg _ (by have := L1.cl; omega)⟩
    have E2 : xExt S c (sG S1 (ad 2) g) c (fun a => c a ≠ qs 0 + 2) := E1.then EG.E (fun a _ y => by rw [y, gc]; omega)
    have hl2 : hR (sG S1 (ad 2) g) 201 (ad 1) = some l := hl1
    have bG : ∀ a t, hD (sG S1 (ad 2) g) t a → c a < B + 10 := b1
    refine ⟨fun z1 => ?_, fun z1 => no _ ?_ R2 I2 hl2 bG E2⟩
    · have ok : sServeOk G n k = true := by
        simp only [sServeOk, lt60, z1, decide_true, Bool.true_and, beq_self_eq_true]
      simp only [sServe] at p
      rw [ok, if_pos rfl] at p
      have lr2 : hI (sG S1 (ad 2) g) 1601 it = nI k := lr1
      have Q2 : xRq (sG S1 (ad 2) g) c (rq k) (fun w => n (784 + 11 * k + w)) := Q.sG gc
      have v1' : hR (sG S1 (ad 2) g) 1100 (rq k) = some e := v1
      have ev2 : xEv (sG S1 (ad 2) g) c e (fun w => n (784 + 11 * k + w)) := v2.sG gc
      have L2 : hD (sG S1 (ad 2) g) 12 l ∧ c l = qs 0 + 3 := ⟨L1.d, L1.cl⟩
      generalize sG S1 (ad 2) g = S2 at *
      refine ⟨Q2.d, e, v1', R2.P.T.d, by omega, by omega, ?_⟩
      rw [Q2.ha, Q2.st]
      refine x_serveYes (B := B + 10) ek R2 N I2 hl2 lr2 L2 hγ hB1 bG hk' lt60 ev2 z1 (fun S5 c5 bks5 E5 R5 I5 hl5 b5 => ?_)
      have e3 : cn (n 2) = (n 2).toInt.toNat := rfl
      have e4 := (z_pred (i := n 2) (by omega)).1
      have n2 := sServe1_2 (n := n) (k := k) cb
      refine ih k (sServe1 n k) S5 c5 bks5 (mc - 2) (ms - 207) (B + 10 + 10 + 10 + 10) R5 I5 hl5 hγ ⟨by omega, by omega, fun i hi => by have := hB.2.2 i hi; omega⟩ b5 ?_ (by omega) (by omega) (fun S' c' bks' E' R' => p S' c' bks' ((E2.then E5 (fun a _ y => y)).then E' (fun a ⟨t, dd⟩ y => by rw [E5.C (E2.D dd), E2.C dd] at y; exact y)) R')
      show k + d = cn (sDeq _ k 2)
      rw [sDeq_2, n2]
      omega
    · have : (sProb (sAsk (mg G 8 n) 8 (784 + 11 * k)) (n (784 + 11 * k + 9)) (n (784 + 11 * k + 10)) == 0) = false := by simpa using z1
      simp only [sServeOk, this, Bool.and_false]
end
