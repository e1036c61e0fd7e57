/-! PLAIN LAWS, z3: the draft; what is added to a state -/
section
variable {ke : Nat} {kc : Nat → Nat} {S S' : HS} {c c' : HC} {x κ : Nat} {ad qs ad' qs' : Nat → Nat} {bks bks' : Nat → Nat → Nat} {F F' : MF} {G G' : MG} {W : Nat → Prop} {px : String → Nat → HS → Prop} {mc ms : Nat}
/-- an event is made of an old one's row: q the event, n its needs, made of the array m -/
theorem x_evInit {q m len : Nat} {ty gu du : Int32} {v : Nat → Int32} {post : HS → Prop} (hd : hD S 3 q) (hm : hD S 50 m) (hl : hL S m = len) (hl6 : len ≤ 6) (hv : ∀ k, k < len → hA S m k = v k)
    (h : ∀ S' n, xNew S n → xGo S c S' (cU c n 0) (fun a => a = q) κ → hI S' 300 q = ty → hI S' 301 q = gu → hI S' 302 q = du → hR S' 303 q = some n → hD S' 50 n → hL S' n = 6 → (∀ k, k < 6 → hA S' n k = if k < len then v k else 0) → post S') : wX_X4_init_2 post 1 6 q ty gu du m S := by
  have t6 : ((6 : Int32).toNatClampNeg) = 6 := rfl
  have t0 : ((0 : Int32).toNatClampNeg) = 0 := rfl
  refine ⟨by decide, by decide, fun n nn => ?_⟩
  rintro _ rfl
  rw [t6]
  have qn := nn.ne hd
  have mn := nn.ne hm
  refine ⟨nA_old (n := 6) hd, ?_⟩
  rintro _ rfl _ rfl _ rfl _ rfl
  have g1 := gN c 50 0 6 (κ := κ) nn (by omega)
  have g2 := gR' (nA S 50 n 6) (cU c n 0) 303 q (some n) κ
  have g3 := gI (sR (nA S 50 n 6) 303 q (some n)) (cU c n 0) 300 q ty κ
  have g4 := gI (sI (sR (nA S 50 n 6) 303 q (some n)) 300 q ty) (cU c n 0) 301 q gu κ
  have g5 := gI (sI (sI (sR (nA S 50 n 6) 303 q (some n)) 300 q ty) 301 q gu) (cU c n 0) 302 q du κ
  have GG := ((((g1.mono (fun _ _ z => z.elim)).go g2 (fun _ _ z => z)).go g3 (fun _ _ z => z)).go g4 (fun _ _ z => z)).go g5 (fun _ _ z => z)
  have l0 : hL (sI (sI (sI (sR (nA S 50 n 6) 303 q (some n)) 300 q ty) 301 q gu) 302 q du) m = len := (if_neg mn).trans hl
  have l1 : hL (sI (sI (sI (sR (nA S 50 n 6) 303 q (some n)) 300 q ty) 301 q gu) 302 q du) n = 6 := nA_L S 50 n 6
  have am : ∀ k, hA (sI (sI (sI (sR (nA S 50 n 6) 303 q (some n)) 300 q ty) 301 q gu) 302 q du) m k = hA S m k := fun k => by
    show (if m = n then 0 else hA S m k) = _
    rw [if_neg mn]
  have an : ∀ k, hA (sI (sI (sI (sR (nA S 50 n 6) 303 q (some n)) 300 q ty) 301 q gu) 302 q du) n k = 0 := fun k => nA_A S 50 n 6 k
  have r1 : hR (sI (sI (sI (sR (nA S 50 n 6) 303 q (some n)) 300 q ty) 301 q gu) 302 q du) 303 q = some n := sR_eq _ _ _ _
  have i0 : hI (sI (sI (sI (sR (nA S 50 n 6) 303 q (some n)) 300 q ty) 301 q gu) 302 q du) 300 q = ty := by simp only [sI_at]; simp
  have i1 : hI (sI (sI (sI (sR (nA S 50 n 6) 303 q (some n)) 300 q ty) 301 q gu) 302 q du) 301 q = gu := by simp only [sI_at]; simp
  have i2 : hI (sI (sI (sI (sR (nA S 50 n 6) 303 q (some n)) 300 q ty) 301 q gu) 302 q du) 302 q = du := by simp only [sI_at]; simp
  have dm : hD (sI (sI (sI (sR (nA S 50 n 6) 303 q (some n)) 300 q ty) 301 q gu) 302 q du) 50 m := nA_old (n := 6) hm
  have dn : hD (sI (sI (sI (sR (nA S 50 n 6) 303 q (some n)) 300 q ty) 301 q gu) 302 q du) 50 n := nA_D S 50 n 6
  generalize sI (sI (sI (sR (nA S 50 n 6) 303 q (some n)) 300 q ty) 301 q gu) 302 q du = S1 at *
  refine ⟨n, r1, dm, dn, ⟨by decide, by decide, ?_, ?_, ?_⟩, ?_⟩
  · rw [l0, zI_0, zI_lt (by omega) (by omega)]; omega
  · rw [l0, zI_nat (by omega), t0]; omega
  · rw [l0, l1, zI_nat (by omega), t0]; omega
  rintro _ rfl
  rw [l0]
  have g6 := gCA S1 (cU c n 0) m 0 n 0 (nI len) κ
  refine h _ n nn (GG.go g6 (fun a ⟨t, d⟩ z => absurd d (by rw [z]; exact nn t))) i0 i1 i2 r1 dn l1 (fun k hk => ?_)
  show (if n = n then va_cpy (hA S1 m) (hA S1 n) (0 : Int32).toNatClampNeg (0 : Int32).toNatClampNeg (nI len).toNatClampNeg else hA S1 n) k = _
  rw [if_pos rfl, t0, zI_nat (by omega)]
  show (if 0 ≤ k ∧ k < 0 + len then hA S1 m (0 + (k - 0)) else hA S1 n k) = _
  by_cases z : k < len
  · rw [if_pos (by omega), if_pos z, show 0 + (k - 0) = k by omega, am]; exact hv k z
  · rw [if_neg (by omega), if_neg z]; exact an k
/-- the draft is another event -/
theorem xRX.draft (R : xRX ke S c x ad qs bks F G) {S1 : HS} {c1 : HC} {q B : Nat} {r : Nat → Int32} (hB : B % 10 = 0 ∧ 10 ≤ B ∧ ∀ i, i < 10 → qs i < B) (hbd : ∀ a t, hD S t a → c a < B) (E1 : xGo S c S1 c1 (fun _ => False) B) (V : xEv S1 c1 q r) (Z : zEv r) : xRX ke (sR S1 5 x (some q)) c1 x (fun i => if i = 4 then q else ad i) qs bks F (mg G 6 r) := by
  have c1x : c1 x = 1 := (E1.E.C R.P.T.d).trans R.P.T.cx
  have GG : xGo S c (sR S1 5 x (some q)) c1 (fun a => a = x) B := (E1.mono (fun _ _ z => z.elim)).go (gR' S1 c1 5 x (some q) B) (fun _ _ z => z)
  have E := GG.E
  have wx := R.x1
  have q0 := R.q.1
  have hk : ∀ k, k ≠ 5 → hR (sR S1 5 x (some q)) k x = hR S k x := fun k hk => (sR_ne (.inl hk)).trans (E1.E.R R.P.T.d (fun z => z) k)
  refine R.upd GG (fun a z => .inl z) (fun k hk' => hk k (by omega)) (fun i hi => if_neg (by omega)) rfl ⟨(hk 3 (by decide)).trans R.P.T.st, R.P.V.ext E (fun a z => wx a (by have := q0 0 (by decide); omega))⟩ R.N R.sep R.out (R.len' E (fun a z => wx a (by omega)) (E1.E.I R.P.T.d (fun z => z) 1)) (by rw [mg_eq]; exact Z)
    ⟨sR_eq _ _ _ _, by rw [mg_eq]; exact V.ext (oR S1 c1 5 x (some q)) (fun a z y => by rw [y, c1x] at z; cases z)⟩
    (R.sv' E (fun a z => wx a (by have := q0 1 (by decide); omega)) (hk 4 (by decide))) ?_ R.q ⟨B + 10, by omega, by omega, fun i hi => by have := hB.2.2 i hi; omega, GG.bd hbd⟩
  obtain ⟨h, e, d, k1⟩ := R.hi' E (fun a z => wx a (by
    rcases z with z | z | z | ⟨k, hk, z⟩
    · omega
    · omega
    · omega
    · have := q0 (2 + k) (by omega); omega))
  refine ⟨h, e, ?_, fun k hk => ?_⟩
  · have : (fun k => if 10 + k = 4 then q else ad (10 + k)) = fun k => ad (10 + k) := by funext k; rw [if_neg (by omega)]
    rw [this]; exact d
  · rw [if_neg (by omega)]; exact k1 k hk
def sDr (gu du : Int32) : Bool := sIn gu.toInt 1 3000 && sIn du.toInt 15 1440 && sMod du 15 == 0
/-- the draft's row -/
def sDrRow (g : Nat → Int32) (ty gu du : Int32) : Nat → Int32 := upd (upd (upd (zrow g 3 6 (fun _ => 0)) 0 ty) 1 gu) 2 du
def oDraft (F : MF) (G : MG) (ty gu du : Int32) : ZR := if sType G ty = false then (1, 0, F, G) else if sDr gu du = false then (2, 0, F, G) else (0, G 6 2, F, mg G 6 (sDrRow (G 6) ty gu du))
theorem M_draft {ty gu du : Int32} {post : Int32 → MF → MG → Prop} (h : zOK G) (p : mDone (oDraft F G ty gu du) post) : wM_draft post ty gu du F G := by
  rintro _ rfl
  refine m_isType h.F ⟨fun e => ?_, fun e => m_isIn ?_⟩ <;> simp only [bI_0, Bool.not_eq_false] at e
  · rw [oDraft, if_pos e] at p; exact m_fails (k := 1) h p
  rw [oDraft, if_neg (by rw [e]; decide)] at p
  rw [z64, show ((1 : Int64)).toInt = 1 from rfl, show ((3000 : Int64)).toInt = 3000 from rfl]
  refine ⟨fun e1 => ?_, fun e1 => m_isIn ?_⟩ <;> simp only [bI_0, Bool.not_eq_false] at e1
  · rw [if_pos (by simp only [sDr, e1, Bool.false_and])] at p; exact m_fails (k := 2) h p
  rw [z64, show ((15 : Int64)).toInt = 15 from rfl, show ((1440 : Int64)).toInt = 1440 from rfl]
  refine ⟨fun e2 => ?_, fun e2 => ⟨fun e3 => ?_, fun e3 => ?_⟩⟩ <;> simp only [bI_0, Bool.not_eq_false] at e2
  · rw [if_pos (by simp only [sDr, e2, Bool.false_and, Bool.and_false])] at p; exact m_fails (k := 2) h p
  · have e3' : (sMod du 15 == 0) = true := by simpa using e3
    rw [if_neg (by simp only [sDr, e1, e2, e3']; decide)] at p
    rintro _ rfl
    refine zcopy (L := fun n k G' => wM_draft_l69 post n ty gu du (G 6 2) k (upd F 0 0) G') (K := 6) (x := 3) (N := 6) (v := fun _ => 0) (by decide) (fun m => ⟨fun _ => ?_, fun z => absurd (by decide) z⟩) (fun m j g hj h1 h2 nx => ⟨fun z => ?_, fun _ => ?_⟩)
    · rintro _ rfl _ rfl _ rfl
      rw [mu_mg, mu_mg, mu_mg]
      exact p _ _ rfl ⟨rfl, rfl, rfl, rfl, rfl, rfl, rfl, rfl, rfl, h.out⟩
    · rw [show (6 : Int32) = nI 6 from rfl, zI_le (by omega) (by omega)] at z; omega
    · rw [show (3 : Int32) + nI j = nI (3 + j) from zI_add 3 j, zI_nat (show 3 + j < 2147483648 by omega)]
      refine ⟨zI_in' (by omega) (by omega), ?_⟩
      rintro _ rfl
      rw [mu_mg]
      exact nx
  · have e3' : (sMod du 15 == 0) = false := by simpa using e3
    rw [if_pos (by simp only [sDr, e3', Bool.and_false])] at p; exact m_fails (k := 2) h p
theorem X_draft {ty gu du : Int32} {post : Int32 → HS → Prop} (R : xRX ke S c x ad qs bks F G) (p : xDone ke x F G (oDraft F G ty gu du) cls3 post px) (hc : 5 ≤ mc) (hs : 22 ≤ ms) : wX_X1_draft post px mc ms x ty gu du S := by
  obtain ⟨B, b1, b2, b3, b4⟩ := R.bd
  refine ⟨R.P.T.d, x_isType R.P R.F ⟨by omega, by omega, x_needIndex (fun e => ?_) (fun e q _ => ?_) (by decide) (by decide)⟩⟩
  · rw [oDraft, if_neg (by rw [e]; decide)] at p
    have bad : sDr gu du = false → wX_X1_draft_j43 post px x ty gu du 0 (mc - 1) (ms - 6) S := fun z => by
      rw [if_pos z] at p
      exact ⟨by omega, by omega, x_needValue (p := false) (fun z => by cases z) (fun _ q _ => p.2 (by show (2 : Nat) ≠ 0; decide) q S ⟨c, ad, qs, bks, R⟩) (by decide) (by decide)⟩
    refine x_in ⟨fun e1 => bad ?_, fun e1 => x_in ⟨fun e2 => bad ?_, fun e2 => ⟨fun e3 => ?_, fun e3 => bad ?_⟩⟩⟩ <;> simp only [bI_0, Bool.not_eq_false] at e1
    · have e1' : sIn gu.toInt 1 3000 = false := e1
      simp only [sDr, e1', Bool.false_and]
    · simp only [bI_0] at e2
      have e2' : sIn du.toInt 15 1440 = false := e2
      simp only [sDr, e2', Bool.false_and, Bool.and_false]
    · simp only [bI_0, Bool.not_eq_false] at e2
      have e1' : sIn gu.toInt 1 3000 = true := e1
      have e2' : sIn du.toInt 15 1440 = true := e2
      have e3' : (sMod du 15 == 0) = true := by simpa using e3
      rw [if_neg (by simp only [sDr, e1', e2', e3']; decide)] at p
      have v1 := sIn_iff.mp e1'
      have v2 := sIn_iff.mp e2'
      have v3 : du.toInt % 15 = 0 := by
        have := z_mod (s := du) (b := 15) (by omega) (by decide)
        rw [show sMod du 15 = 0 from e3] at this
        exact this.symm
      refine ⟨by omega, by omega, x_needValue (p := true) (fun _ => ⟨R.P.T.d, ad 4, R.dr.1, R.dr.2.d, ?_⟩) (fun z => by cases z) (by decide) (by decide)⟩
      rintro _ rfl
      rw [R.dr.2.du]
      refine ⟨by omega, by omega, fun q nq => ?_⟩
      rintro _ rfl
      have t0 : ((0 : Int32).toNatClampNeg) = 0 := rfl
      refine ⟨by omega, by rw [t0]; omega, fun m nm => ?_⟩
      rintro _ rfl
      rw [t0]
      have g1 := gO c 3 0 (κ := B) nq (by omega)
      have g2 := gN (cU c q 0) 50 0 0 (κ := B) nm (by omega)
      have G2 := g1.go g2 (fun _ _ z => z)
      have dq : hD (nA (nO S 3 q) 50 m 0) 3 q := nA_old (n := 0) (nO_D S 3 q)
      refine ⟨by omega, by omega, x_evInit (c := cU (cU c q 0) m 0) (κ := B) (len := 0) (v := fun _ => 0) dq (nA_D _ 50 m 0) (nA_L _ 50 m 0) (by decide) (fun k hk => absurd hk (Nat.not_lt_zero _)) (fun S3 n nn G3 i0 i1 i2 r1 dn l1 a1 => ?_)⟩
      have GG : xGo S c S3 (cU (cU (cU c q 0) m 0) n 0) (fun _ => False) B := G2.go G3 (fun a ⟨t, d⟩ z => nq t (z ▸ d))
      refine ⟨GG.E.D R.P.T.d, ?_⟩
      rintro _ rfl
      have qm : q ≠ m := nm.ne (nO_D S 3 q)
      have qn : q ≠ n := nn.ne dq
      have u : ∀ k, 3 ≤ k → k < 9 → sDrRow (G 6) ty gu du k = 0 := fun k k1 k2 => by
        simp only [sDrRow, upd, zrow]
        rw [if_neg (by omega), if_neg (by omega), if_neg (by omega), if_pos (by omega)]
      have V : xEv S3 (cU (cU (cU c q 0) m 0) n 0) q (sDrRow (G 6) ty gu du) := by
        refine ⟨G3.E.D dq, ?_, i0, i1, i2, n, r1, dn, cU_eq _ _ _, l1, fun k hk => ?_⟩
        · rw [cU_ne qn, cU_ne qm, cU_eq]
        · rw [a1 k hk, if_neg (Nat.not_lt_zero _), u _ (by omega) (by omega)]
      have Z : zEv (sDrRow (G 6) ty gu du) := by
        refine ⟨sType_lt R.F e, v1, ⟨v2.1, v2.2, v3⟩, fun k hk => ?_⟩
        rw [u _ (by omega) (by omega)]
        exact ⟨by decide, by decide⟩
      exact p.1 rfl _ ⟨_, _, _, _, R.draft ⟨b1, b2, b3⟩ b4 GG V Z⟩
    · simp only [bI_0, Bool.not_eq_false] at e2
      have e3' : (sMod du 15 == 0) = false := by simpa using e3
      simp only [sDr, e3', Bool.and_false]
  · rw [oDraft, if_pos e] at p
    exact p.2 (by show (1 : Nat) ≠ 0; decide) q S ⟨c, ad, qs, bks, R⟩
def oNeed (F : MF) (G : MG) (k n : Int32) : ZR := if sKind G k = false then (1, 0, F, G) else if sIn n.toInt 0 (G 1 (32 + cn k)).toInt = false then (2, 0, F, G) else (0, G 6 (3 + cn k), F, mu G 6 (3 + cn k) n)
theorem M_need {k n : Int32} {post : Int32 → MF → MG → Prop} (h : zOK G) (p : mDone (oNeed F G k n) post) : wM_need post k n F G := by
  rintro _ rfl
  refine m_isKind h.F ⟨fun e => ?_, fun e => ?_⟩ <;> simp only [bI_0, Bool.not_eq_false] at e
  · rw [oNeed, if_pos e] at p; exact m_fails (k := 1) h p
  rw [oNeed, if_neg (by rw [e]; decide)] at p
  obtain ⟨ek, lk, lk6⟩ := sKind_nI h.F e
  have i32 : (32 : Int32) + k = nI (32 + cn k) := by rw [ek, zI_lit, zI_add, ← ek]
  have i3 : (3 : Int32) + k = nI (3 + cn k) := by rw [ek, zI_lit, zI_add, ← ek]
  rw [i32, i3, zI_nat (show 32 + cn k < 2147483648 by omega), zI_nat (show 3 + cn k < 2147483648 by omega)]
  refine ⟨zI_in' (by omega) (by omega), m_isIn ?_⟩
  rw [z64, z64, show ((0 : Int64)).toInt = 0 from rfl]
  refine ⟨fun e1 => ?_, fun e1 => ?_⟩ <;> simp only [bI_0, Bool.not_eq_false] at e1
  · rw [if_pos e1] at p; exact m_fails (k := 2) h p
  · rw [if_neg (by rw [e1]; decide)] at p
    refine ⟨zI_in' (by omega) (by omega), ?_⟩
    rintro _ rfl
    refine ⟨zI_in' (by omega) (by omega), ?_⟩
    rintro _ rfl
    exact p _ _ rfl ⟨rfl, rfl, rfl, rfl, rfl, rfl, rfl, rfl, rfl, h.out⟩
theorem X_need {k n : Int32} {post : Int32 → HS → Prop} (R : xRX ke S c x ad qs bks F G) (p : xDone ke x F G (oNeed F G k n) cls3 post px) (hc : 4 ≤ mc) (hs : 22 ≤ ms) : wX_X1_need post px mc ms x k n S := by
  obtain ⟨B, b1, b2, b3, b4⟩ := R.bd
  refine ⟨R.P.T.d, x_isKind R.P R.F ⟨by omega, by omega, x_needIndex (fun e => ?_) (fun e q _ => ?_) (by decide) (by decide)⟩⟩
  · rw [oNeed, if_neg (by rw [e]; decide)] at p
    obtain ⟨ek, lk, lk6⟩ := sKind_nI R.F e
    obtain ⟨l, f, h1, h2, h3⟩ := R.P.U.k
    refine ⟨ad 0, R.P.T.su, R.P.U.d, l, h1, h2.d, ?_⟩
    have i0 : k = nI (cn k) := ek
    generalize cn k = k' at *
    subst i0
    have hco := R.F.co k' lk
    refine x_kind R.P h1 lk (fun a a1 a2 a3 a4 a5 => ⟨a1, x_in ?_⟩)
    rw [a3]
    refine ⟨by omega, by omega, x_needValue (fun e1 => ?_) (fun e1 q _ => ?_) (by decide) (by decide)⟩
    · rw [if_neg (by rw [show sIn n.toInt 0 (G 1 (32 + k')).toInt = true from e1]; decide)] at p
      have v := sIn_iff.mp (show sIn n.toInt 0 (G 1 (32 + k')).toInt = true from e1)
      obtain ⟨m, m1, m2, m3, m4, m5⟩ := R.dr.2.ne
      refine ⟨ad 4, R.dr.1, R.dr.2.d, m, m1, m2, zI_in' (by omega) (by rw [m4]; exact lk6), ?_⟩
      rintro _ rfl
      rw [zI_nat (show k' < 2147483648 by omega), m5 k' lk6]
      refine ⟨by omega, by omega, by decide, by decide, fun q nq => ?_⟩
      rintro _ rfl
      have dq : hD (nO S 3 q) 3 q := nO_D S 3 q
      have eq := nq.ne R.dr.2.d
      have g1 := gO c 3 0 (κ := B) nq (by omega)
      have dm : hD (nO S 3 q) 50 m := nO_old m2
      refine ⟨nO_old R.dr.2.d, m, by rw [nO_Rne eq]; exact m1, by decide, by decide, ?_⟩
      rw [nO_Ine eq, nO_Ine eq, nO_Ine eq, R.dr.2.ty, R.dr.2.gu, R.dr.2.du]
      refine x_evInit (c := cU c q 0) (κ := B) (len := 6) (v := fun j => G 6 (3 + j)) dq dm m4 (by decide) (fun j hj => m5 j hj) (fun S3 w nw G3 i0 i1 i2 r1 dn l1 a1 => ?_)
      have GG : xGo S c S3 (cU (cU c q 0) w 0) (fun _ => False) B := g1.go G3 (fun a ⟨t, d⟩ z => nq t (z ▸ d))
      have qw : q ≠ w := nw.ne dq
      refine ⟨G3.E.D dq, w, r1, dn, zI_in' (by omega) (by rw [l1]; exact lk6), ?_⟩
      rintro _ rfl
      rw [zI_nat (show k' < 2147483648 by omega)]
      have g4 := gA S3 (cU (cU c q 0) w 0) w k' n B
      have G4 := GG.go g4 (fun a ⟨t, d⟩ z => nw t (nO_old (z ▸ d)))
      refine ⟨G4.E.D R.P.T.d, ?_⟩
      rintro _ rfl
      have V : xEv (sA S3 w k' n) (cU (cU c q 0) w 0) q (upd (G 6) (3 + k') n) := by
        refine ⟨G3.E.D dq, ?_, ?_, ?_, ?_, w, r1, dn, cU_eq _ _ _, l1, fun j hj => ?_⟩
        · rw [cU_ne qw, cU_eq]
        · rw [show upd (G 6) (3 + k') n 0 = G 6 0 from if_neg (by omega)]; exact i0
        · rw [show upd (G 6) (3 + k') n 1 = G 6 1 from if_neg (by omega)]; exact i1
        · rw [show upd (G 6) (3 + k') n 2 = G 6 2 from if_neg (by omega)]; exact i2
        · by_cases z : j = k'
          · rw [z, sA_eq]; exact (if_pos rfl).symm
          · rw [sA_ne (.inr z), a1 j hj, if_pos hj]
            exact (if_neg (by omega)).symm
      have Z : zEv (upd (G 6) (3 + k') n) := by
        refine ⟨by rw [show upd (G 6) (3 + k') n 0 = G 6 0 from if_neg (by omega)]; exact R.D.ty, by rw [show upd (G 6) (3 + k') n 1 = G 6 1 from if_neg (by omega)]; exact R.D.gu, by rw [show upd (G 6) (3 + k') n 2 = G 6 2 from if_neg (by omega)]; exact R.D.du, fun j hj => ?_⟩
        by_cases z : j = k'
        · rw [show upd (G 6) (3 + k') n (3 + j) = n from if_pos (by omega)]; omega
        · rw [show upd (G 6) (3 + k') n (3 + j) = G 6 (3 + j) from if_neg (by omega)]; exact R.D.ne j hj
      exact p.1 rfl _ ⟨_, _, _, _, R.draft ⟨b1, b2, b3⟩ b4 G4 V Z⟩
    · rw [if_pos (show sIn n.toInt 0 (G 1 (32 + k')).toInt = false from e1)] at p
      exact p.2 (by show (2 : Nat) ≠ 0; decide) q S ⟨c, ad, qs, bks, R⟩
  · rw [oNeed, if_pos e] at p
    exact p.2 (by show (1 : Nat) ≠ 0; decide) q S ⟨c, ad, qs, bks, R⟩
end
