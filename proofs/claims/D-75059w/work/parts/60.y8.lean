/-! PLAIN LAWS, y8: the present state is recorded -/
theorem zEv.congr {r r' : Nat → Int32} (H : zEv r) (h : ∀ w, w < 9 → r' w = r w) : zEv r' := by
  refine ⟨by rw [h 0 (by decide)]; exact H.ty, by rw [h 1 (by decide)]; exact H.gu, by rw [h 2 (by decide)]; exact H.du, fun k hk => by rw [h (3 + k) (by omega)]; exact H.ne k hk⟩
theorem zNw.congr {g n n' : Nat → Int32} (H : zNw g n) (h : ∀ i, i < 1052 → n' i = n i) : zNw g n' := by
  have lb := cn_le (n := 60) H.b.2
  have lr := cn_le (n := 20) H.r.2
  refine ⟨by rw [h 0 (by decide)]; exact H.no, by rw [h 1 (by decide)]; exact H.b, by rw [h 2 (by decide)]; exact H.r, by rw [h 3 (by decide)]; exact H.s, ?_, ?_, ?_, ?_, ?_, ?_, ?_⟩
  all_goals first | rw [h 1 (by decide)] | rw [h 2 (by decide)]
  all_goals intro j hj
  · exact (H.be j hj).congr (fun w hw => h _ (by omega))
  · rw [h _ (by omega)]; exact H.bp j hj
  · rw [h _ (by omega)]; exact H.bs j hj
  · rw [h _ (by omega)]; exact H.ba j hj
  · exact (H.re j hj).congr (fun w hw => h _ (by omega))
  · rw [h _ (by omega)]; exact H.rp j hj
  · rw [h _ (by omega)]; exact H.rs j hj
theorem zSep.congr {g n n' : Nat → Int32} (N : zNw g n) (H : zSep n) (h : ∀ i, i < 1052 → n' i = n i) : zSep n' := by
  have lb := cn_le (n := 60) N.b.2
  unfold zSep
  rw [h 1 (by decide)]
  intro i j hi hj e
  rw [h _ (by omega), h _ (by omega), h _ (by omega), h _ (by omega), h _ (by omega), h _ (by omega)]
  exact H i j hi hj e
theorem xSt.congr {ke : Nat} {S : HS} {c : HC} {q st : Nat} {g n n' out out' : Nat → Int32} {bk : Nat → Nat} (V : xSt ke S c q st g n out bk) (N : zNw g n) (hF : zFx g) (h : ∀ i, i < 1052 → n' i = n i) (ho : ∀ i, i < 60 → out' i = out i) : xSt ke S c q st g n' out' bk := by
  have lb := cn_le (n := 60) N.b.2
  have lr := cn_le (n := 20) N.r.2
  have ls := cn_le (n := 16) N.s.2
  have lk := cn_le (n := 6) hF.k.2
  refine ⟨V.d, V.cs, by rw [h 3 (by decide)]; exact V.cl, by rw [h 0 (by decide)]; exact V.no, by rw [h 1 (by decide)]; exact V.b, ?_, by rw [h 1 (by decide)]; exact V.bi, ?_, ?_⟩
  · rw [h 1 (by decide)]
    intro k hk
    rw [ho k (by omega)]
    exact (V.bb k hk).congr lk (fun w hw => h _ (by omega))
  · rw [h 2 (by decide)]
    obtain ⟨l, rq, l1, l2, l3⟩ := V.r
    exact ⟨l, rq, l1, l2, fun k hk => (l3 k hk).congr (fun w hw => h _ (by omega))⟩
  · rw [h 3 (by decide)]
    obtain ⟨a, a1, a2, a3, a4, a5, a6⟩ := V.s
    refine ⟨a, a1, a2, a3, a4, fun k hk => ?_, a6⟩
    obtain ⟨o, o1, o2⟩ := a5 k hk
    exact ⟨o, o1, o2.congr (fun w hw => h _ (by omega))⟩
/-- a change of the history's row alone -/
theorem xRX.keep {ke : Nat} {S S' : HS} {c c' : HC} {x : Nat} {ad qs : Nat → Nat} {bks : Nat → Nat → Nat} {F F' : MF} {G G' : MG} {W : Nat → Prop} {κ : Nat} (R : xRX ke S c x ad qs bks F G) (E : xGo S c S' c' W κ) (w : ∀ a, W a → c a = 8 ∨ c a = 9)
    {ad' qs' : Nat → Nat} {bks' : Nat → Nat → Nat} (ha : ∀ i, i < 10 → ad' i = ad i) (hq : ∀ i, i < 2 → qs' i = qs i) (hb : ∀ i, i < 2 → bks' i = bks i) (hF : F' 12 = F 12 ∧ F' 14 = F 14) (hG : ∀ k, k ≠ 10 → G' k = G k)
    (hi : ∃ h, F' 11 = nI h ∧ hR S' 6 x = some (ad 5) ∧ xDq S' c' (ad 5) h (fun k => ad' (10 + k)) ∧ ∀ k, k < h → xSt ke S' c' (qs' (2 + k)) (ad' (10 + k)) (G 1) (fun i => G' 10 (1052 * k + i)) (fun _ => 0) (bks' (2 + k)) ∧ zNw (G 1) (fun i => G' 10 (1052 * k + i)) ∧ zSep (fun i => G' 10 (1052 * k + i)))
    (q : (∀ i, i < 10 → 10 ≤ qs' i ∧ qs' i % 10 = 0) ∧ ∀ i j, i < 10 → j < 10 → qs' i = qs' j → i = j) (bd : ∃ B, B % 10 = 0 ∧ 10 ≤ B ∧ (∀ i, i < 10 → qs' i < B) ∧ ∀ a t, hD S' t a → c' a < B) : xRX ke S' c' x ad' qs' bks' F' G' := by
  have nw : ∀ a, c a ≠ 8 → c a ≠ 9 → ¬ W a := fun a h1 h2 z => (w a z).elim h1 h2
  have wx : ¬ W x := nw x (by rw [R.P.T.cx]; decide) (by rw [R.P.T.cx]; decide)
  have q0 := R.q.1 0 (by decide)
  have q1 := R.q.1 1 (by decide)
  have w0 : ∀ a, c a = 0 → ¬ W a := fun a h => nw a (by omega) (by omega)
  refine ⟨?_, ?_, ?_, ?_, ?_, ?_, ?_, ?_, ?_, ?_, ?_, ?_, ?_, ?_, q, bd⟩
  · rw [ha 0 (by decide), ha 1 (by decide), ha 2 (by decide), hq 0 (by decide), hb 0 (by decide)]
    refine ⟨R.P.T.ext E.E (fun a h => nw a (by omega) (by omega)), ?_, ?_, R.P.q⟩
    · rw [hG 1 (by decide)]; exact R.P.U.ext E.E (fun a h => w0 a (h.elim id (fun ⟨_, _, z⟩ => z)))
    · rw [hG 1 (by decide), hG 8 (by decide), hG 19 (by decide)]; exact R.P.V.ext E.E (fun a h => nw a (by omega) (by omega))
  · rw [hG 1 (by decide)]; exact R.F
  · rw [hG 1 (by decide), hG 8 (by decide)]; exact R.N
  · rw [hG 6 (by decide)]; exact R.D
  · rw [hG 8 (by decide)]; exact R.sep
  · rw [hG 19 (by decide)]; exact R.out
  · exact ⟨E.E.D R.kc.1, (E.E.C R.kc.1).trans R.kc.2.1, (E.E.L R.kc.1 (w0 _ R.kc.2.1)).trans R.kc.2.2⟩
  · obtain ⟨a1, a2, a3, a4, a5, a6, a7, a8, a9⟩ := R.bu
    have wb := nw (ad 3) (by rw [a4]; decide) (by rw [a4]; decide)
    rw [ha 3 (by decide), hF.2, hG 13 (by decide)]
    exact ⟨(E.E.R R.P.T.d wx _).trans a1, E.E.D a2, E.E.D a3, (E.E.C a2).trans a4, (E.E.L a2 wb).trans a5, (E.E.I R.P.T.d wx _).trans a6, a7, a8, fun i hi => (E.E.A a2 wb i).trans (a9 i hi)⟩
  · rw [ha 4 (by decide), hG 6 (by decide)]
    exact ⟨(E.E.R R.P.T.d wx _).trans R.dr.1, R.dr.2.ext E.E w0⟩
  · rw [hF.1, ha 9 (by decide), hq 1 (by decide), hb 1 (by decide), hG 1 (by decide), hG 9 (by decide)]
    rcases R.sv with ⟨a1, a2⟩ | ⟨a1, a2, a3, a4⟩
    · exact .inl ⟨a1, (E.E.R R.P.T.d wx _).trans a2⟩
    · exact .inr ⟨a1, (E.E.R R.P.T.d wx _).trans a2, a3.ext E.E (fun a h => nw a (by omega) (by omega)), a4⟩
  · rw [ha 5 (by decide), hG 1 (by decide)]; exact hi
  · rw [ha 6 (by decide)]
    obtain ⟨a1, a2, a3, a4⟩ := R.lk
    have wl := nw (ad 6) (by rw [a3]; decide) (by rw [a3]; decide)
    exact ⟨(E.E.R R.P.T.d wx _).trans a1, E.E.D a2, (E.E.C a2).trans a3, (E.E.L a2 wl).trans a4⟩
  · rw [ha 7 (by decide)]
    obtain ⟨a1, a2, a3, a4⟩ := R.ho
    have wl := nw (ad 7) (by rw [a3]; decide) (by rw [a3]; decide)
    exact ⟨(E.E.R R.P.T.d wx _).trans a1, E.E.D a2, (E.E.C a2).trans a3, (E.E.L a2 wl).trans a4⟩
  · rw [ha 8 (by decide)]
    obtain ⟨a1, a2, a3, a4⟩ := R.so
    have wl := nw (ad 8) (by rw [a3]; decide) (by rw [a3]; decide)
    exact ⟨(E.E.R R.P.T.d wx _).trans a1, E.E.D a2, (E.E.C a2).trans a3, (E.E.L a2 wl).trans a4⟩
/-- the oldest state goes -/
def sPopG (G : MG) : MG := mg G 10 (fun k => if k < 7364 then G 10 (k + 1052) else G 10 k)
theorem x_pop {ke : Nat} {S S' : HS} {c : HC} {x κ : Nat} {ad qs : Nat → Nat} {bks : Nat → Nat → Nat} {F : MF} {G : MG} (R : xRX ke S c x ad qs bks F G) (h8 : F 11 = 8) (E : xGo S c S' c (wDq c (ad 5)) κ) (hd : xDq S' c (ad 5) 7 (fun k => ad (10 + (k + 1)))) (bd : ∃ B, B % 10 = 0 ∧ 10 ≤ B ∧ (∀ i, i < 10 → qs i < B) ∧ ∀ a t, hD S' t a → c a < B) :
    xRX ke S' c x (fun i => if i < 10 then ad i else ad (i + 1)) (fun i => if i < 2 then qs i else if i < 9 then qs (i + 1) else qs 2) (fun i => if i < 2 then bks i else bks (i + 1)) (upd F 11 7) (sPopG G) := by
  obtain ⟨h, e, h1, h2, h3⟩ := R.hi
  have eh : h = 8 := by
    rw [h8, show (8 : Int32) = nI 8 from rfl, zI_inj (by decide) (by have := h2.le; omega)] at e; exact e.symm
  subst eh
  have w8 : ∀ a, wDq c (ad 5) a → c a = 8 ∨ c a = 9 := fun a z => z.imp (fun z => by rw [z]; exact h2.cd) id
  have wx : ¬ wDq c (ad 5) x := fun z => by have := w8 x z; rw [R.P.T.cx] at this; omega
  refine R.keep E w8 (fun i hi => if_pos hi) (fun i hi => if_pos hi) (fun i hi => if_pos hi) ⟨rfl, rfl⟩ (fun k hk => mg_ne hk) ⟨7, rfl, (E.E.R R.P.T.d wx _).trans h1, ?_, fun k hk => ?_⟩ ?_ ?_
  · have : (fun k => if 10 + k < 10 then ad (10 + k) else ad (10 + k + 1)) = fun k => ad (10 + (k + 1)) := by
      funext k; rw [if_neg (by omega)]; rfl
    rw [this]; exact hd
  · obtain ⟨V, N, P⟩ := h3 (k + 1) (by omega)
    have e1 : (if 10 + k < 10 then ad (10 + k) else ad (10 + k + 1)) = ad (10 + (k + 1)) := by rw [if_neg (by omega)]; rfl
    have e2 : (if 2 + k < 2 then qs (2 + k) else if 2 + k < 9 then qs (2 + k + 1) else qs 2) = qs (2 + (k + 1)) := by rw [if_neg (by omega), if_pos (by omega)]; rfl
    have e3 : (if 2 + k < 2 then bks (2 + k) else bks (2 + k + 1)) = bks (2 + (k + 1)) := by rw [if_neg (by omega)]; rfl
    rw [e1, e2, e3]
    have rr : ∀ i, i < 1052 → sPopG G 10 (1052 * k + i) = G 10 (1052 * (k + 1) + i) := fun i hi => by
      simp only [sPopG, mg_eq]
      rw [if_pos (by omega)]; congr 1; omega
    have q2 := R.q.1 (2 + (k + 1)) (by omega)
    refine ⟨(V.ext E.E (fun a ha z => ?_)).congr N R.F rr (fun _ _ => rfl), N.congr rr, zSep.congr N P rr⟩
    have := w8 a z; omega
  · constructor
    · intro i hi
      split
      · exact R.q.1 i hi
      · split
        · exact R.q.1 (i + 1) (by omega)
        · exact R.q.1 2 (by decide)
    · intro i j hi hj z
      by_cases a1 : i < 2 <;> by_cases a2 : j < 2 <;> by_cases a3 : i < 9 <;> by_cases a4 : j < 9 <;> simp only [a1, a2, a3, a4, if_true, if_false] at z
      all_goals first
        | (have := R.q.2 _ _ (by omega) (by omega) z; omega)
        | omega
  · obtain ⟨B, b1, b2, b3, b4⟩ := bd
    refine ⟨B, b1, b2, fun i hi => ?_, b4⟩
    split
    · exact b3 i hi
    · split
      · exact b3 (i + 1) (by omega)
      · exact b3 2 (by decide)
/-- a state comes last -/
def sPushG (F : MF) (G : MG) (n : Nat → Int32) : MG := mg G 10 (fun k => if 1052 * cn (F 11) ≤ k ∧ k < 1052 * cn (F 11) + 1052 then n (k - 1052 * cn (F 11)) else G 10 k)
theorem x_push {ke : Nat} {S S' : HS} {c c' : HC} {x κ p h : Nat} {ad qs : Nat → Nat} {bks : Nat → Nat → Nat} {F : MF} {G : MG} {n : Nat → Int32} {bk : Nat → Nat} (R : xRX ke S c x ad qs bks F G) (hh : F 11 = nI h) (h7 : h < 8) (E : xGo S c S' c' (wDq c (ad 5)) κ) (hκ : κ % 10 = 0 ∧ 10 ≤ κ ∧ ∀ i, i < 10 → qs i < κ) (hb : ∀ a t, hD S' t a → c' a < κ + 10)
    (hd : xDq S' c' (ad 5) (h + 1) (fun k => if k = h then p else ad (10 + k))) (V : xSt ke S' c' κ p (G 1) n (fun _ => 0) bk) (N : zNw (G 1) n) (Z : zSep n) :
    xRX ke S' c' x (fun i => if i = 10 + h then p else ad i) (fun i => if i = 2 + h then κ else qs i) (fun i => if i = 2 + h then bk else bks i) (upd F 11 (F 11 + 1)) (sPushG F G n) := by
  obtain ⟨h', e, h1, h2, h3⟩ := R.hi
  have eh : h' = h := by
    rw [hh, zI_inj (by omega) (by have := h2.le; omega)] at e; exact e.symm
  subst eh
  have ch : cn (F 11) = h' := by rw [hh]; exact zI_nat (by omega)
  have w8 : ∀ a, wDq c (ad 5) a → c a = 8 ∨ c a = 9 := fun a z => z.imp (fun z => by rw [z]; exact h2.cd) id
  have wx : ¬ wDq c (ad 5) x := fun z => by have := w8 x z; rw [R.P.T.cx] at this; omega
  refine R.keep E w8 (fun i hi => if_neg (by omega)) (fun i hi => if_neg (by omega)) (fun i hi => if_neg (by omega)) ⟨rfl, rfl⟩ (fun k hk => mg_ne hk) ⟨h' + 1, ?_, (E.E.R R.P.T.d wx _).trans h1, ?_, fun k hk => ?_⟩ ?_ ?_
  · show F 11 + 1 = nI (h' + 1)
    rw [hh, zI_1, zI_add]
  · have : (fun k => if 10 + k = 10 + h' then p else ad (10 + k)) = fun k => if k = h' then p else ad (10 + k) := by
      funext k
      by_cases z : k = h'
      · rw [if_pos z, if_pos (by omega)]
      · rw [if_neg z, if_neg (by omega)]
    rw [this]; exact hd
  · by_cases z : k = h'
    · subst z
      rw [if_pos rfl, if_pos rfl, if_pos rfl]
      have rr : ∀ i, i < 1052 → sPushG F G n 10 (1052 * k + i) = n i := fun i hi => by
        simp only [sPushG, mg_eq, ch]
        rw [if_pos (by omega)]; congr 1; omega
      exact ⟨V.congr N R.F rr (fun _ _ => rfl), N.congr rr, zSep.congr N Z rr⟩
    · rw [if_neg (by omega), if_neg (by omega), if_neg (by omega)]
      obtain ⟨V1, N1, P1⟩ := h3 k (by omega)
      have rr : ∀ i, i < 1052 → sPushG F G n 10 (1052 * k + i) = G 10 (1052 * k + i) := fun i hi => by
        simp only [sPushG, mg_eq, ch]
        rw [if_neg (by omega)]
      have q2 := R.q.1 (2 + k) (by omega)
      refine ⟨(V1.ext E.E (fun a ha z => ?_)).congr N1 R.F rr (fun _ _ => rfl), N1.congr rr, zSep.congr N1 P1 rr⟩
      have := w8 a z; omega
  · constructor
    · intro i hi
      split
      · exact ⟨hκ.2.1, hκ.1⟩
      · exact R.q.1 i hi
    · intro i j hi hj z
      by_cases a1 : i = 2 + h' <;> by_cases a2 : j = 2 + h' <;> simp only [a1, a2, if_true, if_false] at z
      · omega
      · have := hκ.2.2 j hj; omega
      · have := hκ.2.2 i hi; omega
      · exact R.q.2 i j hi hj z
  · refine ⟨κ + 10, by omega, by omega, fun i hi => ?_, hb⟩
    split
    · omega
    · have := hκ.2.2 i hi; omega
