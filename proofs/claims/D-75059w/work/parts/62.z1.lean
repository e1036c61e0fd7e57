/-! PLAIN LAWS, z1: operations that change: input's length, draft, time, what is saved -/
section
variable {ke : Nat} {kc : Nat → Nat} {S S' : HS} {c c' : HC} {x κ : Nat} {ad qs ad' qs' : Nat → Nat} {bks bks' : Nat → Nat → Nat} {F F' : MF} {G G' : MG} {W : Nat → Prop} {px : String → Nat → HS → Prop} {mc ms : Nat}
/-- a plan with some of its parts anew -/
theorem xRX.upd (R : xRX ke S c x ad qs bks F G) (E : xGo S c S' c' W κ) (w : ∀ a, W a → a = x ∨ c a = 4 ∨ 8 ≤ c a) (hk : ∀ k, (k = 0 ∨ k = 2 ∨ 6 ≤ k) → hR S' k x = hR S k x) (ha : ∀ i, (i = 0 ∨ i = 2 ∨ i = 3 ∨ (5 ≤ i ∧ i ≤ 8)) → ad' i = ad i) (h1 : G' 1 = G 1)
    (st : hR S' 3 x = some (ad' 1) ∧ xSt ke S' c' (qs' 0) (ad' 1) (G 1) (G' 8) (G' 19) (bks' 0)) (N : zNw (G 1) (G' 8)) (sep : zSep (G' 8)) (out : ∀ i, i < 60 → G' 19 i = 0)
    (len : hL S' (ad 3) = 800 ∧ hI S' 1 x = F' 14 ∧ 0 ≤ (F' 14).toInt ∧ (F' 14).toInt ≤ 800 ∧ ∀ i, i < cn (F' 14) → hA S' (ad 3) i = G' 13 i) (D : zEv (G' 6)) (dr : hR S' 5 x = some (ad' 4) ∧ xEv S' c' (ad' 4) (G' 6))
    (sv : (F' 12 = 0 ∧ hR S' 4 x = none) ∨ (F' 12 = 1 ∧ hR S' 4 x = some (ad' 9) ∧ xSt ke S' c' (qs' 1) (ad' 9) (G 1) (G' 9) (fun _ => 0) (bks' 1) ∧ zNw (G 1) (G' 9) ∧ zSep (G' 9)))
    (hi : ∃ h, F' 11 = nI h ∧ xDq S' c' (ad 5) h (fun k => ad' (10 + k)) ∧ ∀ k, k < h → xSt ke S' c' (qs' (2 + k)) (ad' (10 + k)) (G 1) (fun i => G' 10 (1052 * k + i)) (fun _ => 0) (bks' (2 + k)) ∧ zNw (G 1) (fun i => G' 10 (1052 * k + i)) ∧ zSep (fun i => G' 10 (1052 * k + i)))
    (q : (∀ i, i < 10 → 10 ≤ qs' i ∧ qs' i % 10 = 0) ∧ ∀ i j, i < 10 → j < 10 → qs' i = qs' j → i = j) (bd : ∃ B, B % 10 = 0 ∧ 10 ≤ B ∧ (∀ i, i < 10 → qs' i < B) ∧ ∀ a t, hD S' t a → c' a < B) : xRX ke S' c' x ad' qs' bks' F' G' := by
  have nw : ∀ a, c a ≠ 1 → c a ≠ 4 → c a < 8 → ¬ W a := fun a h1 h2 h3 z => by
    rcases w a z with z | z | z
    · rw [z] at h1; exact h1 R.P.T.cx
    · exact h2 z
    · omega
  have w0 : ∀ a, c a = 0 → ¬ W a := fun a h => nw a (by omega) (by omega) (by omega)
  have T := R.P.T
  have dx := E.E.D T.d
  refine ⟨⟨?_, ?_, ?_, ?_⟩, ?_, ?_, D, sep, out, ?_, ?_, dr, ?_, ?_, ?_, ?_, ?_, q, bd⟩
  · rw [ha 0 (by omega), ha 2 (by omega)]
    have wg := nw (ad 2) (by rw [T.gc]; decide) (by rw [T.gc]; decide) (by rw [T.gc]; decide)
    refine ⟨dx, (E.E.C T.d).trans T.cx, (hk 2 (by omega)).trans T.su, st.1, (hk 8 (by omega)).trans T.g, E.E.D T.gd, (E.E.C T.gd).trans T.gc, (E.E.L T.gd wg).trans T.gl, ?_⟩
    obtain ⟨a, f, h1, h2, h3, h4, h5⟩ := T.ck
    have wa := nw a (by rw [h3]; decide) (by rw [h3]; decide) (by rw [h3]; decide)
    refine ⟨a, f, (hk 7 (by omega)).trans h1, E.E.D h2, (E.E.C h2).trans h3, (E.E.L h2 wa).trans h4, fun k k1 k2 => ?_⟩
    obtain ⟨f1, f2, f3, f4⟩ := h5 k k1 k2
    exact ⟨(E.E.B h2 wa _).trans f1, E.E.D f2, (E.E.C f2).trans f3, (E.E.R f2 (nw _ (by rw [f3]; decide) (by rw [f3]; decide) (by rw [f3]; decide)) _).trans f4⟩
  · rw [h1, ha 0 (by omega)]
    exact R.P.U.ext E.E (fun a h => w0 a (h.elim id (fun ⟨_, _, z⟩ => z)))
  · rw [h1]; exact st.2
  · exact (q.1 0 (by decide)).1
  · rw [h1]; exact R.F
  · rw [h1]; exact N
  · exact ⟨E.E.D R.kc.1, (E.E.C R.kc.1).trans R.kc.2.1, (E.E.L R.kc.1 (w0 _ R.kc.2.1)).trans R.kc.2.2⟩
  · rw [ha 3 (by omega)]
    obtain ⟨a1, a2, a3, a4, -⟩ := R.bu
    exact ⟨(hk 0 (by omega)).trans a1, E.E.D a2, E.E.D a3, (E.E.C a2).trans a4, len⟩
  · rw [h1]; exact sv
  · rw [ha 5 (by omega), h1]
    obtain ⟨h, e, d1, d2⟩ := hi
    obtain ⟨_, _, r1, _⟩ := R.hi
    exact ⟨h, e, (hk 6 (by omega)).trans r1, d1, d2⟩
  · rw [ha 6 (by omega)]
    obtain ⟨a1, a2, a3, a4⟩ := R.lk
    exact ⟨(hk 9 (by omega)).trans a1, E.E.D a2, (E.E.C a2).trans a3, (E.E.L a2 (nw _ (by omega) (by omega) (by omega))).trans a4⟩
  · rw [ha 7 (by omega)]
    obtain ⟨a1, a2, a3, a4⟩ := R.ho
    exact ⟨(hk 10 (by omega)).trans a1, E.E.D a2, (E.E.C a2).trans a3, (E.E.L a2 (nw _ (by omega) (by omega) (by omega))).trans a4⟩
  · rw [ha 8 (by omega)]
    obtain ⟨a1, a2, a3, a4⟩ := R.so
    exact ⟨(hk 11 (by omega)).trans a1, E.E.D a2, (E.E.C a2).trans a3, (E.E.L a2 (nw _ (by omega) (by omega) (by omega))).trans a4⟩
theorem xDq.ext {d n : Nat} {el : Nat → Nat} (H : xDq S c d n el) (E : xExt S c S' c' W) (w : ∀ a, c a = 8 ∨ c a = 9 → ¬ W a) : xDq S' c' d n el := by
  obtain ⟨a, p, a1, a2, a3, a4, a5, a6, a7, a8, a9⟩ := H.a
  have wd := w d (.inl H.cd)
  have wa := w a (.inr a3)
  exact ⟨E.D H.d, (E.C H.d).trans H.cd, ⟨a, p, (E.R H.d wd _).trans a1, E.D a2, (E.C a2).trans a3, (E.L a2 wa).trans a4, E.D a5, a6, (E.I H.d wd _).trans a7, (E.I H.d wd _).trans a8, fun k hk => (E.B a2 wa _).trans (a9 k hk)⟩, H.le⟩
/-- the parts of a plan that keep under a change of W -/
theorem xRX.sv' (R : xRX ke S c x ad qs bks F G) (E : xExt S c S' c' W) (w : ∀ a, c a = 0 ∨ (qs 1 ≤ c a ∧ c a < qs 1 + 5) → ¬ W a) (hr : hR S' 4 x = hR S 4 x) : (F 12 = 0 ∧ hR S' 4 x = none) ∨ (F 12 = 1 ∧ hR S' 4 x = some (ad 9) ∧ xSt ke S' c' (qs 1) (ad 9) (G 1) (G 9) (fun _ => 0) (bks 1) ∧ zNw (G 1) (G 9) ∧ zSep (G 9)) := by
  rw [hr]
  rcases R.sv with h | ⟨h1, h2, h3, h4⟩
  · exact .inl h
  · exact .inr ⟨h1, h2, h3.ext E w, h4⟩
theorem xRX.hi' (R : xRX ke S c x ad qs bks F G) (E : xExt S c S' c' W) (w : ∀ a, c a = 0 ∨ c a = 8 ∨ c a = 9 ∨ (∃ k, k < 8 ∧ qs (2 + k) ≤ c a ∧ c a < qs (2 + k) + 5) → ¬ W a) : ∃ h, F 11 = nI h ∧ xDq S' c' (ad 5) h (fun k => ad (10 + k)) ∧ ∀ k, k < h → xSt ke S' c' (qs (2 + k)) (ad (10 + k)) (G 1) (fun i => G 10 (1052 * k + i)) (fun _ => 0) (bks (2 + k)) ∧ zNw (G 1) (fun i => G 10 (1052 * k + i)) ∧ zSep (fun i => G 10 (1052 * k + i)) := by
  obtain ⟨h, e, h1, h2, h3⟩ := R.hi
  have le := h2.le
  refine ⟨h, e, h2.ext E (fun a z => w a (.inr (z.imp id .inl))), fun k hk => ?_⟩
  obtain ⟨V, P⟩ := h3 k hk
  exact ⟨V.ext E (fun a z => w a (z.imp id (fun z => .inr (.inr ⟨k, by omega, z⟩)))), P⟩
theorem xRX.len' (R : xRX ke S c x ad qs bks F G) (E : xExt S c S' c' W) (w : ∀ a, c a = 4 → ¬ W a) (hr : hI S' 1 x = hI S 1 x) : hL S' (ad 3) = 800 ∧ hI S' 1 x = F 14 ∧ 0 ≤ (F 14).toInt ∧ (F 14).toInt ≤ 800 ∧ ∀ i, i < cn (F 14) → hA S' (ad 3) i = G 13 i := by
  obtain ⟨a1, a2, a3, a4, a5, a6, a7, a8, a9⟩ := R.bu
  have wb := w _ a4
  exact ⟨(E.L a2 wb).trans a5, hr.trans a6, a7, a8, fun i hi => (E.A a2 wb i).trans (a9 i hi)⟩
/-- an object that is x's own has the color 1 alone -/
theorem xRX.x1 (R : xRX ke S c x ad qs bks F G) : ∀ a, c a ≠ 1 → ¬ a = x := fun a h z => h (by rw [z]; exact R.P.T.cx)
/-! truncate -/
def oTruncate (F : MF) (G : MG) (n : Int32) : ZR := if sIn n.toInt 0 (F 14).toInt = false then (1, 0, F, G) else (0, n, upd F 14 n, G)
theorem M_truncate {n : Int32} {post : Int32 → MF → MG → Prop} (h : zOK G) (p : mDone (oTruncate F G n) post) : wM_truncate post n F G := by
  rintro _ rfl
  refine m_isIn ?_
  rw [z64, z64, show ((0 : Int64)).toInt = 0 from rfl]
  refine ⟨fun e => ?_, fun e => ?_⟩ <;> simp only [bI_0, Bool.not_eq_false] at e
  · rw [oTruncate, if_pos (show sIn n.toInt 0 (F 14).toInt = false from e)] at p
    exact m_fails (k := 1) h p
  · rw [oTruncate, if_neg (by rw [show sIn n.toInt 0 (F 14).toInt = true from e]; decide)] at p
    rintro _ rfl
    exact p _ _ rfl ⟨rfl, rfl, rfl, rfl, rfl, rfl, rfl, rfl, rfl, h.out⟩
theorem X_truncate {n : Int32} {post : Int32 → HS → Prop} (R : xRX ke S c x ad qs bks F G) (p : xDone ke x F G (oTruncate F G n) (fun _ => "java/lang/IllegalArgumentException") post px) (hc : 1 ≤ mc) (hs : 6 ≤ ms) : wX_X1_truncate post px mc ms x n S := by
  obtain ⟨a1, a2, a3, a4, a5, a6, a7, a8, a9⟩ := R.bu
  refine ⟨R.P.T.d, x_in ?_⟩
  rw [a6]
  refine ⟨hc, hs, x_needValue (fun e => ?_) (fun e q _ => ?_) (by decide) (by decide)⟩
  · rw [oTruncate, if_neg (by rw [show sIn n.toInt 0 (F 14).toInt = true from e]; decide)] at p
    have v : 0 ≤ n.toInt ∧ n.toInt ≤ (F 14).toInt := sIn_iff.mp e
    rintro _ rfl
    obtain ⟨B, b1, b2, b3, b4⟩ := R.bd
    have E := gI S c 1 x n B
    have wx : ∀ a, c a ≠ 1 → ¬ a = x := R.x1
    have q0 := R.q.1
    refine p.1 rfl _ ⟨c, ad, qs, bks, R.upd E (fun a z => .inl z) (fun k _ => rfl) (fun i _ => rfl) rfl ⟨R.P.T.st, R.P.V.ext E.E (fun a z => wx a (by have := q0 0 (by decide); omega))⟩ R.N R.sep R.out ⟨a5, sI_eq _ _ _ _, v.1, by show n.toInt ≤ 800; omega, fun i hi => a9 i ?_⟩ R.D ⟨R.dr.1, R.dr.2.ext E.E (fun a z => wx a (by omega))⟩ (R.sv' E.E (fun a z => wx a (by have := q0 1 (by decide); omega)) rfl) (R.hi' E.E (fun a z => wx a (by
      rcases z with z | z | z | ⟨k, hk, z⟩
      · omega
      · omega
      · omega
      · have := q0 (2 + k) (by omega); omega))) R.q ⟨B, b1, b2, b3, b4⟩⟩
    have hi' : i < n.toInt.toNat := hi
    have c2 : cn (F 14) = (F 14).toInt.toNat := rfl
    omega
  · rw [oTruncate, if_pos (show sIn n.toInt 0 (F 14).toInt = false from e)] at p
    exact p.2 (by show (1 : Nat) ≠ 0; decide) q S ⟨c, ad, qs, bks, R⟩
/-! time goes on -/
def oAdvance (F : MF) (G : MG) (m : Int32) : ZR := if sIn m.toInt 1 20000 = false ∨ 86400 < G 8 0 + m then (1, 0, F, G) else (0, G 8 0 + m, sRemF F, mu (sRemG F G) 8 0 (G 8 0 + m))
theorem z_hist (R : xRX ke S c x ad qs bks F G) : ∃ h, F 11 = nI h ∧ h ≤ 8 := by
  obtain ⟨h, e, -, h2, -⟩ := R.hi
  exact ⟨h, e, h2.le⟩
theorem sRem_ne {k : Nat} (h : k ≠ 10) : sRemG F G k = G k := by
  unfold sRemG; split <;> exact mg_ne h
theorem sRemF_0 (v : Int32) : sRemF (upd F 0 v) = upd (sRemF F) 0 v ∧ sRemG (upd F 0 v) G = sRemG F G := by
  have e : upd F 0 v 11 = F 11 := rfl
  constructor
  · unfold sRemF
    rw [e]
    split
    · rfl
    · funext k
      simp only [upd]
      by_cases a : k = 11
      · rw [if_pos a, if_neg (by omega), if_pos a]
      · rw [if_neg a]
        by_cases b : k = 0
        · rw [if_pos b, if_pos b]
        · rw [if_neg b, if_neg b, if_neg a]
  · unfold sRemG
    rw [e]
theorem M_advance {m : Int32} {post : Int32 → MF → MG → Prop} (h : zOK G) (hh : ∃ h, F 11 = nI h ∧ h ≤ 8) (p : mDone (oAdvance F G m) post) : wM_advance post m F G := by
  rintro _ rfl
  refine m_isIn ?_
  rw [z64, show ((1 : Int64)).toInt = 1 from rfl, show ((20000 : Int64)).toInt = 20000 from rfl]
  refine ⟨fun e => ?_, fun e => ⟨fun e2 => ?_, fun e2 => ?_⟩⟩ <;> simp only [bI_0, Bool.not_eq_false] at e
  · rw [oAdvance, if_pos (.inl e)] at p; exact m_fails (k := 1) h p
  · rw [oAdvance, if_neg (fun z => z.elim (fun z => by rw [e] at z; cases z) (Int32.not_lt.mpr e2))] at p
    refine m_remembers hh ?_
    rintro _ rfl
    rw [(sRemF_0 (G := G) 0).1, (sRemF_0 0).2, sRem_ne (by decide)]
    refine p _ _ rfl ⟨rfl, rfl, rfl, rfl, rfl, rfl, rfl, rfl, rfl, ?_⟩
    show ∀ i, i < 60 → sRemG F G 19 i = 0
    rw [sRem_ne (by decide)]
    exact h.out
  · rw [oAdvance, if_pos (.inr (Int32.not_le.mp e2))] at p; exact m_fails (k := 1) h p
/-- the state's own number anew -/
theorem xSt.stI {q st k : Nat} {g n out : Nat → Int32} {bk : Nat → Nat} {v : Int32} (V : xSt ke S c q st g n out bk) (hq : 10 ≤ q) (hk : k = 204) : xSt ke (sI S k st v) c q st g (upd n 0 v) out bk := by
  subst hk
  have E := oI S c 204 st v
  have ws : ∀ a, c a ≠ q → ¬ a = st := fun a h z => h (by rw [z]; exact V.cs)
  have w0 : ∀ a, c a = 0 → ¬ a = st := fun a h => ws a (by omega)
  have u : ∀ i, i ≠ 0 → upd n 0 v i = n i := fun i hi => if_neg hi
  refine ⟨V.d, V.cs, ?_, sI_eq _ _ _ _, ?_, ?_, ?_, ?_, ?_⟩
  · rw [u 3 (by decide), sI_ne (.inl (by decide))]; exact V.cl
  · rw [u 1 (by decide)]
    obtain ⟨l, l1, l2⟩ := V.b
    exact ⟨l, l1, l2.ext E (fun a z => z.elim (w0 a) (fun z => ws a (by omega)))⟩
  · rw [u 1 (by decide)]
    intro k hk
    have B := V.bb k hk
    have e : (fun w => upd n 0 v (4 + 13 * k + w)) = fun w => n (4 + 13 * k + w) := by funext w; exact u _ (by omega)
    rw [e]
    exact B.ext E w0 (ws _ (by rw [B.cb]; omega))
  · rw [u 1 (by decide)]; exact V.bi
  · rw [u 2 (by decide)]
    obtain ⟨l, rq, l1, l2, l3⟩ := V.r
    refine ⟨l, rq, l1, l2.ext E (fun a z => z.elim (w0 a) (fun z => ws a (by omega))), fun k hk => ?_⟩
    have e : (fun w => upd n 0 v (784 + 11 * k + w)) = fun w => n (784 + 11 * k + w) := by funext w; exact u _ (by omega)
    rw [e]
    exact (l3 k hk).ext E w0
  · rw [u 3 (by decide)]
    obtain ⟨a, a1, a2, a3, a4⟩ := V.s
    obtain ⟨b2, b3, b4, b5, b6⟩ := zS.ext (r := fun k w => n (1004 + 3 * k + w)) (i := fun _ _ => 0) ⟨a2, a3, a4⟩ E (fun a z => z.elim (w0 a) (fun z => ws a (by omega)))
    refine ⟨a, a1, b2, b3, b4, fun k hk => ?_, b6⟩
    have e : (fun w => upd n 0 v (1004 + 3 * k + w)) = fun w => n (1004 + 3 * k + w) := by funext w; exact u _ (by omega)
    rw [e]
    exact b5 k hk
theorem zNw.now {g n : Nat → Int32} {v : Int32} (N : zNw g n) (h : 0 ≤ v.toInt ∧ v.toInt ≤ 86400) : zNw g (upd n 0 v) := by
  have u : ∀ i, i ≠ 0 → upd n 0 v i = n i := fun i hi => if_neg hi
  refine ⟨by rw [show upd n 0 v 0 = v from if_pos rfl]; exact h, by rw [u 1 (by decide)]; exact N.b, by rw [u 2 (by decide)]; exact N.r, by rw [u 3 (by decide)]; exact N.s, ?_, ?_, ?_, ?_, ?_, ?_, ?_⟩
  all_goals first | rw [u 1 (by decide)] | rw [u 2 (by decide)]
  all_goals intro j hj
  · exact (N.be j hj).congr (fun w hw => u _ (by omega))
  · rw [u _ (by omega)]; exact N.bp j hj
  · rw [u _ (by omega)]; exact N.bs j hj
  · rw [u _ (by omega)]; exact N.ba j hj
  · exact (N.re j hj).congr (fun w hw => u _ (by omega))
  · rw [u _ (by omega)]; exact N.rp j hj
  · rw [u _ (by omega)]; exact N.rs j hj
theorem zSep.now {n : Nat → Int32} {v : Int32} (Z : zSep n) : zSep (upd n 0 v) := by
  have u : ∀ i, i ≠ 0 → upd n 0 v i = n i := fun i hi => if_neg hi
  unfold zSep
  rw [u 1 (by decide)]
  intro i j hi hj e
  rw [u _ (by omega), u _ (by omega), u _ (by omega), u _ (by omega), u _ (by omega), u _ (by omega)]
  exact Z i j hi hj e
/-- colors of the present state are none of the others' -/
theorem xRX.far (R : xRX ke S c x ad qs bks F G) {a : Nat} (h : qs 0 ≤ c a ∧ c a < qs 0 + 10) : c a ≠ 0 ∧ c a ≠ 1 ∧ c a ≠ 4 ∧ c a ≠ 8 ∧ c a ≠ 9 ∧ ¬ (qs 1 ≤ c a ∧ c a < qs 1 + 5) ∧ ∀ k, k < 8 → ¬ (qs (2 + k) ≤ c a ∧ c a < qs (2 + k) + 5) := by
  have q0 := R.q.1
  have q2 := R.q.2
  have a0 := q0 0 (by decide)
  refine ⟨by omega, by omega, by omega, by omega, by omega, fun z => ?_, fun k hk z => ?_⟩
  · have := q0 1 (by decide)
    have e : qs 0 = qs 1 := by omega
    exact absurd (q2 0 1 (by decide) (by decide) e) (by decide)
  · have := q0 (2 + k) (by omega)
    have e : qs 0 = qs (2 + k) := by omega
    exact absurd (q2 0 (2 + k) (by decide) (by omega) e) (by omega)
/-- the present state alone changes -/
theorem xRX.updS (R : xRX ke S c x ad qs bks F G) {S' : HS} {c' : HC} {W : Nat → Prop} {n' out' : Nat → Int32} {bk' : Nat → Nat} {B : Nat} (hB : B % 10 = 0 ∧ 10 ≤ B ∧ ∀ i, i < 10 → qs i < B) (hbd : ∀ a t, hD S t a → c a < B) (E : xGo S c S' c' W B) (w : ∀ a, W a → qs 0 ≤ c a ∧ c a < qs 0 + 10) (V : xSt ke S' c' (qs 0) (ad 1) (G 1) n' out' bk') (N : zNw (G 1) n') (Z : zSep n') (out : ∀ i, i < 60 → out' i = 0) (hG : ∀ k, k ≠ 8 → k ≠ 19 → G' k = G k) (h8 : G' 8 = n') (h19 : G' 19 = out') : xRX ke S' c' x ad qs (fun i => if i = 0 then bk' else bks i) F G' := by
  have f : ∀ a, W a → _ := fun a z => R.far (w a z)
  have dx := R.P.T.d
  have wx : ¬ W x := fun z => (f x z).2.1 R.P.T.cx
  refine R.upd (G' := G') E (fun a z => .inr (.inr (by have := w a z; have := (R.q.1 0 (by decide)).1; omega))) (fun k _ => E.E.R dx wx k) (fun i _ => rfl) (hG 1 (by decide) (by decide)) ⟨(E.E.R dx wx 3).trans R.P.T.st, ?_⟩ (by rw [h8]; exact N) (by rw [h8]; exact Z) (by rw [h19]; exact out) ?_ (by rw [hG 6 (by decide) (by decide)]; exact R.D) ⟨(E.E.R dx wx 5).trans R.dr.1, ?_⟩ ?_ ?_ R.q ⟨B + 10, by omega, by omega, fun i hi => by have := hB.2.2 i hi; omega, E.bd hbd⟩
  · rw [h8, h19]; exact V
  · rw [hG 13 (by decide) (by decide)]; exact R.len' E.E (fun a h z => (f a z).2.2.1 h) (E.E.I dx wx 1)
  · rw [hG 6 (by decide) (by decide)]; exact R.dr.2.ext E.E (fun a h z => (f a z).1 h)
  · have := R.sv' E.E (fun a h z => h.elim (f a z).1 (f a z).2.2.2.2.2.1) (E.E.R dx wx 4)
    rw [hG 9 (by decide) (by decide)]
    exact this
  · have := R.hi' E.E (fun a h z => by
      rcases h with h | h | h | ⟨k, hk, h⟩
      · exact (f a z).1 h
      · exact (f a z).2.2.2.1 h
      · exact (f a z).2.2.2.2.1 h
      · exact (f a z).2.2.2.2.2.2 k hk h)
    rw [hG 10 (by decide) (by decide)]
    obtain ⟨h, e, d, k1⟩ := this
    refine ⟨h, e, d, fun k hk => ?_⟩
    rw [if_neg (by omega)]
    exact k1 k hk
theorem X_advance {m : Int32} {post : Int32 → HS → Prop} (ek : kc 0 = ke) (R : xRX ke S c x ad qs bks F G) (p : xDone ke x F G (oAdvance F G m) (fun _ => "java/lang/IllegalArgumentException") post px) (hc : 202 ≤ mc) (hs : 20011 ≤ ms) : wX_X1_advance kc post px mc ms x m S := by
  have bad : oAdvance F G m = (1, 0, F, G) → wX_X1_advance_j31 kc post px x m 0 mc ms S := fun e => by
    rw [e] at p
    exact ⟨by omega, by omega, x_needValue (p := false) (fun z => by cases z) (fun _ q _ => p.2 (by show (1 : Nat) ≠ 0; decide) q S ⟨c, ad, qs, bks, R⟩) (by decide) (by decide)⟩
  refine x_in ⟨fun e => bad ?_, fun e => ⟨R.P.T.d, _, R.P.T.st, R.P.V.d, ?_⟩⟩
  · simp only [bI_0] at e
    rw [oAdvance, if_pos (.inl e)]
  · simp only [bI_0, Bool.not_eq_false] at e
    rw [R.P.V.no]
    refine ⟨fun e2 => bad ?_, fun e2 => ?_⟩
    · rw [oAdvance, if_pos (.inr e2)]
    · rw [oAdvance, if_neg (fun z => z.elim (fun z => by rw [show sIn m.toInt 1 20000 = true from e] at z; cases z) e2)] at p
      have v := sIn_iff.mp (show sIn m.toInt 1 20000 = true from e)
      have no := R.N.no
      have s0 : (G 8 0 + m).toInt = (G 8 0).toInt + m.toInt := z_add (by omega) (by omega)
      rw [z_lt, s0] at e2
      refine ⟨by omega, by omega, x_needValue (p := true) (fun _ => ⟨R.P.T.d, by omega, by omega, x_record ek R (fun S1 ⟨c1, ad1, qs1, bks1, R1⟩ => ?_) (by omega) (by omega)⟩) (fun z => by cases z) (by decide) (by decide)⟩
      refine ⟨R1.P.T.d, _, R1.P.T.st, R1.P.V.d, ?_⟩
      rintro _ rfl
      rw [R1.P.V.no, sRem_ne (by decide)]
      obtain ⟨B, b1, b2, b3, b4⟩ := R1.bd
      refine ⟨ad1 1, R1.P.T.st, R1.P.V.d, ?_⟩
      rw [sI_eq]
      have R2 := R1.updS (G' := mu (sRemG F G) 8 0 (G 8 0 + m)) ⟨b1, b2, b3⟩ b4 (gI S1 c1 204 (ad1 1) (G 8 0 + m) B) (fun a z => by rw [z, R1.P.V.cs]; omega) ((R1.P.V.stI (v := G 8 0 + m) R1.P.q rfl)) (R1.N.now (by rw [s0]; simp only [show (86400 : Int32).toInt = 86400 from rfl] at e2; omega)) R1.sep.now R1.out (fun k h1 h2 => mg_ne h1) (mg_eq _ 8 _) (mg_ne (show 19 ≠ 8 by decide))
      exact p.1 rfl _ ⟨c1, ad1, qs1, _, R2⟩
end
