/-! PLAIN LAWS, z8: a request goes -/
section
variable {ke : Nat} {kc : Nat → Nat} {S S' : HS} {c c' : HC} {x κ : Nat} {ad qs : Nat → Nat} {bks : Nat → Nat → Nat} {F F' : MF} {G G' : MG} {W : Nat → Prop} {px : String → Nat → HS → Prop} {mc ms : Nat}
/-- a list loses one -/
theorem x_lsRemove {q l n k : Nat} {f : Nat → Nat} {post : Nat → HS → Prop} (H : xLs ke S c q l n f) (hk : k < n) (hw : ∀ j, j < n → xObj S (f j))
    (h : ∀ S', xGo S c S' c (fun a => c a = q) κ → xLs ke S' c q l (n - 1) (fun j => if j < k then f j else f (j + 1)) → hI S' 1200 l = hI S 1200 l + 1 → post (f k) S') : wX_J2_remove post l (nI k) S := by
  have hn := H.nl
  have hdl := H.d
  have hcq := H.cl
  obtain ⟨a, a1, a2, a3, a4, a5, a6⟩ := H.a
  have ca : c a = q ∧ hD S 99 a ∧ 0 < hL S a := a6.resolve_left (fun z => by omega)
  have al : a ≠ l → True := fun _ => trivial
  refine ⟨hdl, ?_⟩
  rw [H.nn]
  refine x_checkIndex hk (by omega) ⟨a, a1, a2, zI_in' (by omega) (by omega), f k, by rw [zI_nat (by omega)]; exact a5 k hk, hdl, ?_⟩
  rintro _ rfl _ rfl
  have n2 : hI (sI S 1200 l (hI S 1200 l + 1)) 1202 l = nI n := by rw [sI_ne (.inl (by decide))]; exact H.nn
  have g1 := (gI S c 1200 l (hI S 1200 l + 1) κ).mono (W2 := fun a => c a = q) (fun z _ e => by rw [e]; exact hcq)
  have i12 : hI (sI S 1200 l (hI S 1200 l + 1)) 1200 l = hI S 1200 l + 1 := sI_eq _ _ _ _
  rw [n2]
  have e1 : nI n - 1 = nI (n - 1) := zI_sub (a := n) (b := 1) (by omega)
  rw [e1]
  have a2' : hD (sI S 1200 l (hI S 1200 l + 1)) 60 a := a2
  have a9' : hD (sI S 1200 l (hI S 1200 l + 1)) 99 a := ca.2.1
  have aL : hL (sI S 1200 l (hI S 1200 l + 1)) a = hL S a := rfl
  have a5' : ∀ j, j < n → hB (sI S 1200 l (hI S 1200 l + 1)) a j = some (f j) := a5
  have a1' : hR (sI S 1200 l (hI S 1200 l + 1)) 1201 l = some a := a1
  have hdl' : hD (sI S 1200 l (hI S 1200 l + 1)) 12 l := hdl
  generalize sI S 1200 l (hI S 1200 l + 1) = S1 at *
  rw [zI_le (by omega) (by omega)]
  refine ⟨fun z => ?_, fun z => ⟨a2', a9', ?_, ?_⟩⟩
  · have ek : k = n - 1 := by omega
    rintro _ rfl
    refine ⟨a2', zI_in' (by omega) (by show n - 1 < hL S1 a; omega), a9', ?_⟩
    rintro _ rfl
    rw [zI_nat (by omega)]
    have g2 := gI S1 c 1202 l (nI (n - 1)) κ
    have g3 := gBB (sI S1 1202 l (nI (n - 1))) c a (n - 1) none κ
    refine h _ ((g1.go g2 (fun z _ e => by rw [e]; exact hcq)).go g3 (fun z _ e => by rw [e]; exact ca.1)) ⟨hdl', hcq, (show hI (sI S1 1202 l (nI (n - 1))) 1202 l = _ from sI_eq _ _ _ _), by omega, a, a1', a2', by show n - 1 ≤ hL S1 a; omega, by show hL S1 a ≤ 150; omega, fun j hj => ?_, .inr ⟨ca.1, a9', by show 0 < hL S1 a; omega⟩⟩ ?_
    · rw [sB_ne (.inr (by omega))]
      show hB S1 a j = some (if j < k then f j else f (j + 1))
      rw [if_pos (by omega)]
      exact a5' j (by omega)
    · show hI (sI S1 1202 l (nI (n - 1))) 1200 l = _
      rw [sI_ne (.inl (by decide))]; exact i12
  · have e2 : nI (n - 1) - nI k = nI (n - 1 - k) := zI_sub (a := n - 1) (b := k) (by omega)
    rw [e2, zI_1, zI_add]
    refine ⟨⟨?_, ?_, ?_, ?_, ?_⟩, fun i hi y hy => ?_⟩
    · rw [zI_0, zI_lt (by omega) (by omega)]; omega
    · rw [zI_0, zI_lt (by omega) (by omega)]; omega
    · rw [zI_0, zI_lt (by omega) (by omega)]; omega
    · rw [zI_nat (by omega), zI_nat (by omega)]; omega
    · rw [zI_nat (by omega), zI_nat (by omega)]; omega
    · rw [zI_nat (show n - 1 - k < 2147483648 by omega)] at hi
      rw [zI_nat (show k + 1 < 2147483648 by omega), a5' _ (by omega)] at hy
      cases hy
      exact (hw _ (by omega)).ext g1.E
  · have e2 : nI (n - 1) - nI k = nI (n - 1 - k) := zI_sub (a := n - 1) (b := k) (by omega)
    rw [e2, show nI k + (1 : Int32) = nI (k + 1) from zI_add k 1]
    rintro _ rfl _ rfl
    refine ⟨zI_in' (by omega) (by show n - 1 < hL S1 a; omega), ?_⟩
    rintro _ rfl
    rw [zI_nat (show n - 1 < 2147483648 by omega)]
    have g2 := gCB S1 c a (nI (k + 1)) a (nI k) (nI (n - 1 - k)) κ
    have g3 := gI (sCB S1 a (nI (k + 1)) a (nI k) (nI (n - 1 - k))) c 1202 l (nI (n - 1)) κ
    have g4 := gBB (sI (sCB S1 a (nI (k + 1)) a (nI k) (nI (n - 1 - k))) 1202 l (nI (n - 1))) c a (n - 1) none κ
    refine h _ (((g1.go g2 (fun z _ e => by rw [e]; exact ca.1)).go g3 (fun z _ e => by rw [e]; exact hcq)).go g4 (fun z _ e => by rw [e]; exact ca.1)) ⟨hdl', hcq, (show hI (sI (sCB S1 a (nI (k + 1)) a (nI k) (nI (n - 1 - k))) 1202 l (nI (n - 1))) 1202 l = _ from sI_eq _ _ _ _), by omega, a, a1', a2', by show n - 1 ≤ hL S1 a; omega, by show hL S1 a ≤ 150; omega, fun j hj => ?_, .inr ⟨ca.1, a9', by show 0 < hL S1 a; omega⟩⟩ ?_
    · rw [sB_ne (.inr (by omega))]
      show (if a = a then va_cpy (hB S1 a) (hB S1 a) (nI (k + 1)).toNatClampNeg (nI k).toNatClampNeg (nI (n - 1 - k)).toNatClampNeg else hB S1 a) j = _
      rw [if_pos rfl, zI_nat (show k + 1 < 2147483648 by omega), zI_nat (show k < 2147483648 by omega), zI_nat (show n - 1 - k < 2147483648 by omega)]
      show (if k ≤ j ∧ j < k + (n - 1 - k) then hB S1 a (k + 1 + (j - k)) else hB S1 a j) = some (if j < k then f j else f (j + 1))
      by_cases y : j < k
      · rw [if_neg (by omega), if_pos y]; exact a5' j (by omega)
      · rw [if_pos (by omega), if_neg y, show k + 1 + (j - k) = j + 1 by omega]; exact a5' (j + 1) (by omega)
    · show hI (sI (sCB S1 a (nI (k + 1)) a (nI k) (nI (n - 1 - k))) 1202 l (nI (n - 1))) 1200 l = _
      rw [sI_ne (.inl (by decide))]; exact i12
/-- the model's row with one request less -/
def sDeq (n : Nat → Int32) (k : Nat) : Nat → Int32 := zrow (upd (zrow n (784 + 11 * k) (11 * (cn (n 2) - 1 - k)) (fun i => n (784 + 11 * k + i + 11))) 2 (n 2 - 1)) (784 + 11 * (cn (n 2) - 1)) 11 (fun _ => 0)
theorem sDeq_old {n : Nat → Int32} {k i : Nat} (hk : k < cn (n 2)) (h2 : i ≠ 2) (h : i < 784 + 11 * k ∨ 784 + 11 * cn (n 2) ≤ i) : sDeq n k i = n i := by
  simp only [sDeq, upd, zrow]
  rw [if_neg (by omega), if_neg h2, if_neg (by omega)]
theorem sDeq_2 {n : Nat → Int32} {k : Nat} : sDeq n k 2 = n 2 - 1 := by
  simp only [sDeq, upd, zrow]
  rw [if_neg (by omega), if_true]
theorem sDeq_row {n : Nat → Int32} {k j w : Nat} (hk : k < cn (n 2)) (hj : j < cn (n 2) - 1) (hw : w < 11) : sDeq n k (784 + 11 * j + w) = if j < k then n (784 + 11 * j + w) else n (784 + 11 * (j + 1) + w) := by
  by_cases z : j < k
  · rw [if_pos z]; exact sDeq_old hk (by omega) (.inl (by omega))
  · rw [if_neg z]
    simp only [sDeq, upd, zrow]
    rw [if_neg (by omega), if_neg (by omega), if_pos (by omega)]
    congr 1; omega
theorem z_pred {i : Int32} (h : 0 < i.toInt) : cn (i - 1) = cn i - 1 ∧ (i - 1).toInt = i.toInt - 1 := by
  have e : (i - 1).toInt = i.toInt - 1 := z_pre (by omega)
  refine ⟨?_, e⟩
  have e1 : cn (i - 1) = (i - 1).toInt.toNat := rfl
  have e2 : cn i = i.toInt.toNat := rfl
  omega
theorem zNw.deq {g n : Nat → Int32} {k : Nat} (N : zNw g n) (hk : k < cn (n 2)) : zNw g (sDeq n k) := by
  have lb := cn_le (n := 60) N.b.2
  have lr := cn_le (n := 20) N.r.2
  have e2 : cn (n 2) = (n 2).toInt.toNat := rfl
  obtain ⟨c1, c2⟩ := z_pred (i := n 2) (by omega)
  have b0 := N.r
  have o : ∀ i, i < 784 → i ≠ 2 → sDeq n k i = n i := fun i hi h2 => sDeq_old hk h2 (.inl (by omega))
  have u1 := o 1 (by decide) (by decide)
  refine ⟨by rw [o 0 (by decide) (by decide)]; exact N.no, by rw [u1]; exact N.b, by rw [sDeq_2]; omega, by rw [o 3 (by decide) (by decide)]; exact N.s, ?_, ?_, ?_, ?_, ?_, ?_, ?_⟩
  · rw [u1]; intro j hj
    exact (N.be j hj).congr (fun w hw => o _ (by omega) (by omega))
  · rw [u1]; intro j hj
    rw [o _ (by omega) (by omega)]; exact N.bp j hj
  · rw [u1]; intro j hj
    rw [o _ (by omega) (by omega)]; exact N.bs j hj
  · rw [u1]; intro j hj
    rw [o _ (by omega) (by omega)]; exact N.ba j hj
  · rw [sDeq_2, c1]; intro j hj
    by_cases z : j < k
    · exact (N.re j (by omega)).congr (fun w hw => by rw [sDeq_row hk hj (by omega), if_pos z])
    · exact (N.re (j + 1) (by omega)).congr (fun w hw => by rw [sDeq_row hk hj (by omega), if_neg z])
  · rw [sDeq_2, c1]; intro j hj
    rw [sDeq_row hk hj (by decide)]
    split
    · exact N.rp j (by omega)
    · exact N.rp (j + 1) (by omega)
  · rw [sDeq_2, c1]; intro j hj
    rw [sDeq_row hk hj (by decide)]
    split
    · exact N.rs j (by omega)
    · exact N.rs (j + 1) (by omega)
theorem m_removesRequest {k : Nat} {post : MF → MG → Prop} (hr : 0 ≤ (G 8 2).toInt ∧ (G 8 2).toInt ≤ 20) (hk : k < cn (G 8 2)) (p : post F (mg G 8 (sDeq (G 8) k))) : wM_removesRequest post (nI k) F G := by
  have lr := cn_le (n := 20) hr.2
  have en := cn_nI hr.1
  have ra : ∀ j, (784 : Int32) + 11 * nI j = nI (784 + 11 * j) := fun j => by
    rw [show (784 : Int32) = nI 784 from rfl, show (11 : Int32) = nI 11 from rfl, zI_mul, zI_add]
  have e1 : G 8 2 - 1 = nI (cn (G 8 2) - 1) := by
    have : nI (cn (G 8 2)) - 1 = nI (cn (G 8 2) - 1) := zI_sub (a := cn (G 8 2)) (b := 1) (by omega)
    rw [← en] at this; exact this
  have c1 : cn (G 8 2 - 1) = cn (G 8 2) - 1 := by rw [e1]; exact zI_nat (by omega)
  unfold wM_removesRequest wM_requestAt
  rw [ra]
  -- the zeros
  have zeros : ∀ Z : Nat → Int32, Z 2 = G 8 2 - 1 → zrow Z (784 + 11 * (cn (G 8 2) - 1)) 11 (fun _ => 0) = sDeq (G 8) k → ∃ n, wM_removesRequest_l53 post n 0 F (mg G 8 Z) := by
    intro Z hZ hE
    refine zcopy (L := fun n j G' => wM_removesRequest_l53 post n j F G') (G := mg G 8 Z) (K := 8) (x := 784 + 11 * (cn (G 8 2) - 1)) (N := 11) (v := fun _ => 0) (by decide) (fun m => ⟨fun _ => ?_, fun z => absurd (by decide) z⟩) (fun m j g hj h1 h2 nx => ⟨fun z => ?_, fun _ => ?_⟩)
    · rw [mg_eq, mg_mg, hE]; exact p
    · rw [show (11 : Int32) = nI 11 from rfl, zI_le (by omega) (by omega)] at z; omega
    · have g2 : mg (mg G 8 Z) 8 g 8 2 = nI (cn (G 8 2) - 1) := by
        rw [mg_eq, h2 2 (by omega), mg_eq, hZ, e1]
      unfold wM_requestAt
      rw [g2, ra]
      dsimp only
      rw [zI_add, zI_nat (show 784 + 11 * (cn (G 8 2) - 1) + j < 2147483648 by omega)]
      refine ⟨zI_in' (by omega) (by omega), ?_⟩
      rintro _ rfl
      rw [mu_mg]
      exact nx
  have main := zcopy (L := fun n j G' => ∀ y, y = nI (784 + 11 * k) + j → wM_removesRequest_l5 post n y F G') (G := G) (K := 8) (x := 784 + 11 * k) (N := 11 * (cn (G 8 2) - 1 - k)) (v := fun i => G 8 (784 + 11 * k + i + 11)) (by omega) ?_ ?_
  · obtain ⟨m, hm⟩ := main
    exact ⟨m, hm _ (by rw [show (0 : Int32) = nI 0 from rfl, zI_add, Nat.add_zero])⟩
  · rintro m _ rfl
    rw [zI_add]
    have g2 : mg G 8 (zrow (G 8) (784 + 11 * k) (11 * (cn (G 8 2) - 1 - k)) (fun i => G 8 (784 + 11 * k + i + 11))) 8 2 = G 8 2 := by
      rw [mg_eq]; exact if_neg (by omega)
    simp only [wM_removesRequest_l5, wM_removesRequest_b5, wM_requestAt]
    rw [g2, e1, ra, zI_le (by omega) (by omega)]
    refine ⟨fun _ => ?_, fun z => absurd (by omega) z⟩
    rintro _ rfl
    rw [mu_mg, ← e1]
    exact zeros _ (if_pos rfl) rfl
  · rintro m j g hj h1 h2 nx _ rfl
    rw [zI_add]
    have g2 : mg G 8 g 8 2 = G 8 2 := by rw [mg_eq]; exact h2 2 (by omega)
    simp only [wM_removesRequest_l5, wM_removesRequest_b5, wM_requestAt]
    rw [g2, e1, ra, zI_le (by omega) (by omega)]
    refine ⟨fun z => by omega, fun _ => ?_⟩
    rw [show nI (784 + 11 * k + j) + (11 : Int32) = nI (784 + 11 * k + j + 11) from zI_add _ 11, zI_nat (show 784 + 11 * k + j < 2147483648 by omega), zI_nat (show 784 + 11 * k + j + 11 < 2147483648 by omega)]
    refine ⟨zI_in' (by omega) (by omega), zI_in' (by omega) (by omega), ?_⟩
    rintro _ rfl
    rw [mu_mg, mg_eq, h1 _ (by omega)]
    exact nx _ (by rw [zI_1, zI_add, zI_add, zI_add]; rfl)
/-- a state loses a request -/
theorem x_deqState {k B : Nat} {S2 : HS} {l : Nat} {rq : Nat → Nat} {out : Nat → Int32} {bk : Nat → Nat} {q st : Nat} {g n : Nat → Int32} (V : xSt ke S c q st g n out bk) (N : zNw g n) (hF : zFx g) (hk : k < cn (n 2)) (hq : 10 ≤ q) (l1 : hR S 201 st = some l) (l3 : ∀ k, k < cn (n 2) → xRq S c (rq k) (fun w => n (784 + 11 * k + w)))
    (E : xGo S c S2 c (fun a => c a = q + 3) B) (L : xLs ke S2 c (q + 3) l (cn (n 2) - 1) (fun j => if j < k then rq j else rq (j + 1))) : xSt ke S2 c q st g (sDeq n k) out bk := by
  have lb := cn_le (n := 60) N.b.2
  have lr := cn_le (n := 20) N.r.2
  have ls := cn_le (n := 16) N.s.2
  have lk := cn_le (n := 6) hF.k.2
  have e2 : cn (n 2) = (n 2).toInt.toNat := rfl
  obtain ⟨c1, c2⟩ := z_pred (i := n 2) (by omega)
  have o : ∀ i, i < 784 → i ≠ 2 → sDeq n k i = n i := fun i hi h2 => sDeq_old hk h2 (.inl (by omega))
  have wst : ¬ c st = q + 3 := by rw [V.cs]; omega
  have E2 := E.E
  refine ⟨E2.D V.d, V.cs, ?_, ?_, ?_, ?_, ?_, ?_, ?_⟩
  · rw [o 3 (by decide) (by decide)]; exact (E2.I V.d wst _).trans V.cl
  · rw [o 0 (by decide) (by decide)]; exact (E2.I V.d wst _).trans V.no
  · rw [o 1 (by decide) (by decide)]
    obtain ⟨l', m1, m2⟩ := V.b
    exact ⟨l', (E2.R V.d wst _).trans m1, m2.ext E2 (fun a h z => by omega)⟩
  · rw [o 1 (by decide) (by decide)]; intro j hj
    have B1 := V.bb j hj
    exact (B1.ext E2 (fun a h z => by omega) (by rw [B1.cb]; omega)).congr lk (fun w hw => o _ (by omega) (by omega))
  · rw [o 1 (by decide) (by decide)]; exact V.bi
  · rw [sDeq_2, c1]
    refine ⟨l, _, (E2.R V.d wst _).trans l1, L, fun j hj => ?_⟩
    by_cases z : j < k
    · rw [if_pos z]
      exact ((l3 j (by omega)).ext E2 (fun a h z => by omega)).congr (fun w hw => by rw [sDeq_row hk hj hw, if_pos z])
    · rw [if_neg z]
      exact ((l3 (j + 1) (by omega)).ext E2 (fun a h z => by omega)).congr (fun w hw => by rw [sDeq_row hk hj hw, if_neg z])
  · rw [o 3 (by decide) (by decide)]
    obtain ⟨a, a1, a2, a3, a4⟩ := V.s
    obtain ⟨b2, b3, b4, b5, b6⟩ := zS.ext (r := fun k w => n (1004 + 3 * k + w)) (i := fun _ _ => 0) ⟨a2, a3, a4⟩ E2 (fun a h z => by omega)
    refine ⟨a, (E2.R V.d wst _).trans a1, b2, b3, b4, fun j hj => ?_, b6⟩
    obtain ⟨o', o1, o2'⟩ := b5 j hj
    exact ⟨o', o1, o2'.congr (fun w hw => sDeq_old hk (by omega) (.inr (by omega)))⟩
def oDequeue (F : MF) (G : MG) (k : Int32) : ZR := if sReq G k = false then (1, 0, F, G) else (0, G 8 2 - 1, sRemF F, mg (sRemG F G) 8 (sDeq (G 8) (cn k)))
theorem M_dequeue {k : Int32} {post : Int32 → MF → MG → Prop} (h : zOK G) (hc : ∃ h, F 11 = nI h ∧ h ≤ 8) (p : mDone (oDequeue F G k) post) : wM_dequeue post k F G := by
  rintro _ rfl
  refine m_isIn ?_
  rw [z64, z64, z_pre h.N.r.1]
  refine ⟨fun e => ?_, fun e => ?_⟩ <;> simp only [bI_0, Bool.not_eq_false] at e
  · rw [oDequeue, if_pos (show sReq G k = false from e)] at p; exact m_fails (k := 1) h p
  have e' : sReq G k = true := e
  rw [oDequeue, if_neg (by rw [e']; decide)] at p
  obtain ⟨ek, lt⟩ := sReq_nI e'
  refine m_remembers hc ?_
  obtain ⟨s1, s2⟩ := sRem_same (F := F) (F1 := upd F 0 0) (zE.rf G) (upd_ne0 F _)
  have r8 : sRemG (upd F 0 0) G 8 = G 8 := sRem_ne (by decide)
  have hz := mg_same (Y := sDeq (G 8) (cn k)) s1
  rw [ek]
  generalize cn k = k' at *
  refine m_removesRequest (by rw [r8]; exact h.N.r) (by rw [r8]; exact lt) ?_
  rw [mg_eq, r8, sDeq_2]
  refine p _ _ ?_ ⟨s2 11 (by decide), s2 12 (by decide), s2 14 (by decide), hz 1 (by decide) (by decide), hz 6 (by decide) (by decide), hz 8 (by decide) (by decide), hz 9 (by decide) (by decide), hz 10 (by decide) (by decide), hz 13 (by decide) (by decide), ?_⟩
  · rw [(sRemF_0 (G := G) _).1]; rfl
  · show ∀ i, i < 60 → mg (sRemG (upd F 0 0) G) 8 (sDeq (G 8) k') 19 i = 0
    rw [mg_ne (show 19 ≠ 8 by decide), sRem_ne (by decide)]; exact h.out
theorem X_dequeue {k : Int32} {post : Int32 → HS → Prop} (ek : kc 0 = ke) (R : xRX ke S c x ad qs bks F G) (p : xDone ke x F G (oDequeue F G k) (fun _ => "java/lang/IndexOutOfBoundsException") post px) (hc : 202 ≤ mc) (hs : 20011 ≤ ms) : wX_X1_dequeue kc post px mc ms x k S := by
  obtain ⟨l0, rq0, z1, z2, z3⟩ := R.P.V.r
  refine ⟨R.P.T.d, ad 1, R.P.T.st, R.P.V.d, l0, z1, z2.d, x_size z2 (x_in ?_)⟩
  rw [nI_pre (cn_lt _), cn_int R.N.r.1]
  refine ⟨by omega, by omega, x_needIndex (fun e => ?_) (fun e q _ => ?_) (by decide) (by decide)⟩
  · have e' : sReq G k = true := e
    rw [oDequeue, if_neg (by rw [e']; decide)] at p
    obtain ⟨ek', lt⟩ := sReq_nI e'
    refine ⟨by omega, by omega, x_record ek R (fun S1 ⟨c1, ad1, qs1, bks1, R1⟩ => ?_) (by omega) (by omega)⟩
    obtain ⟨B, b1, b2, b3, b4⟩ := R1.bd
    have r8 : sRemG F G 8 = G 8 := sRem_ne (by decide)
    have V := R1.P.V
    have N1 := R1.N
    rw [r8] at V N1
    obtain ⟨l, rq, l1, l2, l3⟩ := V.r
    have lb := cn_le (n := 60) R.N.b.2
    refine ⟨R1.P.T.d, ad1 1, R1.P.T.st, V.d, l, l1, l2.d, ?_⟩
    rw [ek']
    refine x_lsRemove (κ := B) l2 lt (fun j hj => (l3 j hj).obj) (fun S2 G2 L2 _ => ?_)
    have V2 := x_deqState (k := cn k) V N1 R1.F lt R1.P.q l1 l3 G2 L2
    have R2 := R1.updS (G' := mg (sRemG F G) 8 (sDeq (G 8) (cn k))) ⟨b1, b2, b3⟩ b4 G2 (fun z y => by omega) V2 (N1.deq lt) (R.sep.same lb (fun i hi h2 h3 => sDeq_old lt h2 (.inl (by omega)))) R1.out (fun k h1 h2 => mg_ne h1) (mg_eq _ 8 _) (mg_ne (show 19 ≠ 8 by decide))
    refine ⟨R2.P.T.d, ad1 1, R2.P.T.st, V2.d, ?_⟩
    obtain ⟨l', f', m1, m2, -⟩ := V2.r
    refine ⟨l', m1, m2.d, x_size m2 ?_⟩
    have e1 : nI (cn (sDeq (G 8) (cn k) 2)) = G 8 2 - 1 := by
      rw [sDeq_2]
      have e2 : cn (G 8 2) = (G 8 2).toInt.toNat := rfl
      exact (cn_nI (by have := (z_pred (i := G 8 2) (by omega)).2; omega)).symm
    rw [e1]
    exact p.1 rfl _ ⟨_, _, _, _, R2⟩
  · rw [oDequeue, if_pos (show sReq G k = false from e)] at p
    exact p.2 (by show (1 : Nat) ≠ 0; decide) q S ⟨c, ad, qs, bks, R⟩
end
