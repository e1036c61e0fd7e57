/-! PLAIN LAWS, y6: a state's copy -/
theorem gNone {S0 S S' : HS} {c0 c c' : HC} {W : Nat → Prop} {κ : Nat} (H : xGo S0 c0 S c (fun _ => False) κ) (H2 : xGo S c S' c' W κ) (h : ∀ a, (∃ t, hD S0 t a) → ¬ W a) : xGo S0 c0 S' c' (fun _ => False) κ := H.go H2 (fun a d w => h a d w)
theorem nO_Ine {S : HS} {t q k a : Nat} (h : a ≠ q) : hI (nO S t q) k a = hI S k a := if_neg h
theorem nO_Rne {S : HS} {t q k a : Nat} (h : a ≠ q) : hR (nO S t q) k a = hR S k a := if_neg h
/-- a booking's fields all set -/
def bkNew (S : HS) (q e : Nat) (h s p f a : Int32) : HS := sI (sI (sI (sI (sI (sR (sI (nO S 8 q) 805 q 1) 800 q (some e)) 801 q h) 802 q s) 803 q p) 804 q f) 805 q a
theorem bkNew_go {S : HS} {c : HC} {q e v κ : Nat} {h s p f a : Int32} (n : xNew S q) (hv : v < κ + 10) : xGo S c (bkNew S q e h s p f a) (cU c q v) (fun _ => False) κ := by
  have ne : ∀ a, (∃ t, hD S t a) → ¬ a = q := fun a ⟨t, d⟩ => n.ne d
  unfold bkNew
  exact gNone (gNone (gNone (gNone (gNone (gNone (gNone (gO c 8 v n hv) (gI _ _ _ _ _ _) ne) (gR' _ _ _ _ _ _) ne) (gI _ _ _ _ _ _) ne) (gI _ _ _ _ _ _) ne) (gI _ _ _ _ _ _) ne) (gI _ _ _ _ _ _) ne) (gI _ _ _ _ _ _) ne
theorem bkNew_is {S : HS} {c : HC} {q e v κ : Nat} {g r : Nat → Int32} {p : Int32} (n : xNew S q) (hv : v < κ + 10) (he : xEv S c e r) (hp : p = sPrice g r (r 9) (r 10)) : xBk (bkNew S q e (r 9) (r 10) p (r 12) (r 11)) (cU c q v) v q g r 0 := by
  have G := bkNew_go (c := c) (e := e) (h := r 9) (s := r 10) (p := p) (f := r 12) (a := r 11) n hv
  refine ⟨nO_D S 8 q, cU_eq c q v, ⟨e, ?_, he.ext G.E (fun _ _ z => z)⟩, ?_, ?_, ?_, ?_, ?_, ?_⟩
  · show hR (sR (sI (nO S 8 q) 805 q 1) 800 q (some e)) 800 q = some e
    exact sR_eq _ _ _ _
  · simp only [bkNew, sI_at, sR_I]; simp
  · simp only [bkNew, sI_at, sR_I]; simp
  · intro _; rw [← hp]; simp only [bkNew, sI_at, sR_I]; simp
  · simp only [bkNew, sI_at, sR_I]; simp
  · simp only [bkNew, sI_at, sR_I]; simp
  · simp only [bkNew, sI_at, sR_I, nO_I]; simp
theorem x_copyBk {S : HS} {c : HC} {q b v κ mc ms : Nat} {g r : Nat → Int32} {post : Nat → HS → Prop} (B : xBk S c q b g r 0) (hq2 : q % 10 = 2) (hv : v < κ + 10) (ha : r 11 = 0 ∨ r 11 = 1) (hc : 1 ≤ mc) (hs : 7 ≤ ms)
    (h : ∀ S' q1, xNew S q1 → xGo S c S' (cU c q1 v) (fun _ => False) κ → xBk S' (cU c q1 v) v q1 g r 0 → post q1 S') : wX_X10_copy post mc ms b S := by
  refine ⟨hc, hs, fun q1 n => ?_⟩
  rintro _ rfl
  obtain ⟨e, v1, v2⟩ := B.ev
  have ne := n.ne B.d
  have d2 : hD (nO S 8 q1) 8 b := nO_old B.d
  refine ⟨d2, e, by rw [nO_Rne ne]; exact v1, ?_⟩
  rw [nO_Ine ne, nO_Ine ne, nO_Ine ne, B.ha, B.st, B.pr hq2]
  refine ⟨nO_D S 8 q1, ?_⟩
  rintro _ rfl _ rfl _ rfl _ rfl _ rfl
  refine ⟨d2, nO_D S 8 q1, ?_⟩
  rintro _ rfl
  have rd : ∀ k, hI (sI (sI (sI (sR (sI (nO S 8 q1) 805 q1 1) 800 q1 (some e)) 801 q1 (r 9)) 802 q1 (r 10)) 803 q1 (sPrice g r (r 9) (r 10))) k b = hI S k b := fun k => by
    rw [sI_ne (.inr ne), sI_ne (.inr ne), sI_ne (.inr ne), sR_I, sI_ne (.inr ne), nO_Ine ne]
  rw [rd, B.fe, sI_ne (.inr ne), rd, B.ac]
  refine ⟨ha, ?_⟩
  rintro _ rfl
  exact h _ q1 n (bkNew_go n hv) (bkNew_is n hv v2 rfl)
/-- a state under way -/
abbrev xPt (ke : Nat) (S0 : HS) (c0 : HC) (κ p l1 l2 a : Nat) (g n : Nat → Int32) (S : HS) (c : HC) (k m : Nat) (bk rq : Nat → Nat) : Prop := (xGo S0 c0 S c (fun _ => False) κ) ∧ (hD S 2 p) ∧ (c p = κ) ∧ (hR S 200 p = some l1) ∧ (hR S 201 p = some l2) ∧ (hR S 202 p = some a) ∧ (xLs ke S c (κ + 1) l1 k bk) ∧ (∀ j, j < k → xBk S c (κ + 2) (bk j) g (fun w => n (4 + 13 * j + w)) 0) ∧ (∀ i j, i < k → j < k → bk i = bk j → i = j) ∧ (xLs ke S c (κ + 3) l2 m rq) ∧ (∀ j, j < m → xRq S c (rq j) (fun w => n (784 + 11 * j + w))) ∧ (hD S 61 a) ∧ (c a = κ + 4) ∧ (hL S a = 16) ∧ (∀ j, hB S a j = none)
theorem xPt.G {ke : Nat} {S0 : HS} {c0 : HC} {κ p l1 l2 a : Nat} {g n : Nat → Int32} {S : HS} {c : HC} {k m : Nat} {bk rq : Nat → Nat} (h : xPt ke S0 c0 κ p l1 l2 a g n S c k m bk rq) : xGo S0 c0 S c (fun _ => False) κ := h.1
theorem xPt.d {ke : Nat} {S0 : HS} {c0 : HC} {κ p l1 l2 a : Nat} {g n : Nat → Int32} {S : HS} {c : HC} {k m : Nat} {bk rq : Nat → Nat} (h : xPt ke S0 c0 κ p l1 l2 a g n S c k m bk rq) : hD S 2 p := h.2.1
theorem xPt.cp {ke : Nat} {S0 : HS} {c0 : HC} {κ p l1 l2 a : Nat} {g n : Nat → Int32} {S : HS} {c : HC} {k m : Nat} {bk rq : Nat → Nat} (h : xPt ke S0 c0 κ p l1 l2 a g n S c k m bk rq) : c p = κ := h.2.2.1
theorem xPt.r0 {ke : Nat} {S0 : HS} {c0 : HC} {κ p l1 l2 a : Nat} {g n : Nat → Int32} {S : HS} {c : HC} {k m : Nat} {bk rq : Nat → Nat} (h : xPt ke S0 c0 κ p l1 l2 a g n S c k m bk rq) : hR S 200 p = some l1 := h.2.2.2.1
theorem xPt.r1 {ke : Nat} {S0 : HS} {c0 : HC} {κ p l1 l2 a : Nat} {g n : Nat → Int32} {S : HS} {c : HC} {k m : Nat} {bk rq : Nat → Nat} (h : xPt ke S0 c0 κ p l1 l2 a g n S c k m bk rq) : hR S 201 p = some l2 := h.2.2.2.2.1
theorem xPt.r2 {ke : Nat} {S0 : HS} {c0 : HC} {κ p l1 l2 a : Nat} {g n : Nat → Int32} {S : HS} {c : HC} {k m : Nat} {bk rq : Nat → Nat} (h : xPt ke S0 c0 κ p l1 l2 a g n S c k m bk rq) : hR S 202 p = some a := h.2.2.2.2.2.1
theorem xPt.L1 {ke : Nat} {S0 : HS} {c0 : HC} {κ p l1 l2 a : Nat} {g n : Nat → Int32} {S : HS} {c : HC} {k m : Nat} {bk rq : Nat → Nat} (h : xPt ke S0 c0 κ p l1 l2 a g n S c k m bk rq) : xLs ke S c (κ + 1) l1 k bk := h.2.2.2.2.2.2.1
theorem xPt.B {ke : Nat} {S0 : HS} {c0 : HC} {κ p l1 l2 a : Nat} {g n : Nat → Int32} {S : HS} {c : HC} {k m : Nat} {bk rq : Nat → Nat} (h : xPt ke S0 c0 κ p l1 l2 a g n S c k m bk rq) : ∀ j, j < k → xBk S c (κ + 2) (bk j) g (fun w => n (4 + 13 * j + w)) 0 := h.2.2.2.2.2.2.2.1
theorem xPt.I {ke : Nat} {S0 : HS} {c0 : HC} {κ p l1 l2 a : Nat} {g n : Nat → Int32} {S : HS} {c : HC} {k m : Nat} {bk rq : Nat → Nat} (h : xPt ke S0 c0 κ p l1 l2 a g n S c k m bk rq) : ∀ i j, i < k → j < k → bk i = bk j → i = j := h.2.2.2.2.2.2.2.2.1
theorem xPt.L2 {ke : Nat} {S0 : HS} {c0 : HC} {κ p l1 l2 a : Nat} {g n : Nat → Int32} {S : HS} {c : HC} {k m : Nat} {bk rq : Nat → Nat} (h : xPt ke S0 c0 κ p l1 l2 a g n S c k m bk rq) : xLs ke S c (κ + 3) l2 m rq := h.2.2.2.2.2.2.2.2.2.1
theorem xPt.Q {ke : Nat} {S0 : HS} {c0 : HC} {κ p l1 l2 a : Nat} {g n : Nat → Int32} {S : HS} {c : HC} {k m : Nat} {bk rq : Nat → Nat} (h : xPt ke S0 c0 κ p l1 l2 a g n S c k m bk rq) : ∀ j, j < m → xRq S c (rq j) (fun w => n (784 + 11 * j + w)) := h.2.2.2.2.2.2.2.2.2.2.1
theorem xPt.ad {ke : Nat} {S0 : HS} {c0 : HC} {κ p l1 l2 a : Nat} {g n : Nat → Int32} {S : HS} {c : HC} {k m : Nat} {bk rq : Nat → Nat} (h : xPt ke S0 c0 κ p l1 l2 a g n S c k m bk rq) : hD S 61 a := h.2.2.2.2.2.2.2.2.2.2.2.1
theorem xPt.ac {ke : Nat} {S0 : HS} {c0 : HC} {κ p l1 l2 a : Nat} {g n : Nat → Int32} {S : HS} {c : HC} {k m : Nat} {bk rq : Nat → Nat} (h : xPt ke S0 c0 κ p l1 l2 a g n S c k m bk rq) : c a = κ + 4 := h.2.2.2.2.2.2.2.2.2.2.2.2.1
theorem xPt.al {ke : Nat} {S0 : HS} {c0 : HC} {κ p l1 l2 a : Nat} {g n : Nat → Int32} {S : HS} {c : HC} {k m : Nat} {bk rq : Nat → Nat} (h : xPt ke S0 c0 κ p l1 l2 a g n S c k m bk rq) : hL S a = 16 := h.2.2.2.2.2.2.2.2.2.2.2.2.2.1
theorem xPt.an {ke : Nat} {S0 : HS} {c0 : HC} {κ p l1 l2 a : Nat} {g n : Nat → Int32} {S : HS} {c : HC} {k m : Nat} {bk rq : Nat → Nat} (h : xPt ke S0 c0 κ p l1 l2 a g n S c k m bk rq) : ∀ j, hB S a j = none := h.2.2.2.2.2.2.2.2.2.2.2.2.2.2
/-- onward under a change of one of the lists' color -/
theorem xPt.list {ke : Nat} {S0 : HS} {c0 : HC} {κ p l1 l2 a k m : Nat} {g n : Nat → Int32} {S S' : HS} {c c' : HC} {bk rq : Nat → Nat} {W : Nat → Prop} (H : xPt ke S0 c0 κ p l1 l2 a g n S c k m bk rq) (E : xExt S c S' c' W) (w : ∀ x, c x = 0 ∨ c x = κ ∨ c x = κ + 2 ∨ c x = κ + 4 → ¬ W x) :
    hD S' 2 p ∧ c' p = κ ∧ hR S' 200 p = some l1 ∧ hR S' 201 p = some l2 ∧ hR S' 202 p = some a ∧ (∀ j, j < k → xBk S' c' (κ + 2) (bk j) g (fun w => n (4 + 13 * j + w)) 0) ∧ (∀ j, j < m → xRq S' c' (rq j) (fun w => n (784 + 11 * j + w))) ∧ hD S' 61 a ∧ c' a = κ + 4 ∧ hL S' a = 16 ∧ ∀ j, hB S' a j = none := by
  have wp := w p (.inr (.inl H.cp))
  have wa := w a (.inr (.inr (.inr H.ac)))
  have w0 : ∀ x, c x = 0 → ¬ W x := fun x hx => w x (.inl hx)
  exact ⟨E.D H.d, (E.C H.d).trans H.cp, (E.R H.d wp _).trans H.r0, (E.R H.d wp _).trans H.r1, (E.R H.d wp _).trans H.r2, fun j hj => (H.B j hj).ext E w0 (w _ (.inr (.inr (.inl (H.B j hj).cb)))), fun j hj => (H.Q j hj).ext E w0, E.D H.ad, (E.C H.ad).trans H.ac, (E.L H.ad wa).trans H.al, fun j => (E.B H.ad wa j).trans (H.an j)⟩
theorem xBk.obj {S : HS} {c : HC} {q b : Nat} {g r : Nat → Int32} {o : Int32} (B : xBk S c q b g r o) : xObj S b := .inr (.inr (.inr (.inl B.d)))
theorem xRq.obj {S : HS} {c : HC} {o : Nat} {r : Nat → Int32} (B : xRq S c o r) : xObj S o := .inr (.inr (.inr (.inr (.inl B.d))))
theorem nO_Ix (S : HS) (t q k x : Nat) : hI (nO S t q) k x = if x = q then 0 else hI S k x := rfl
theorem nO_Rx (S : HS) (t q k x : Nat) : hR (nO S t q) k x = if x = q then none else hR S k x := rfl
theorem nO_Lx (S : HS) (t q : Nat) : hL (nO S t q) = hL S := rfl
theorem nO_Bx (S : HS) (t q : Nat) : hB (nO S t q) = hB S := rfl
theorem nO_Ax (S : HS) (t q : Nat) : hA (nO S t q) = hA S := rfl
theorem nA_Ix (S : HS) (t q n : Nat) : hI (nA S t q n) = hI S := rfl
theorem nA_Rx (S : HS) (t q n : Nat) : hR (nA S t q n) = hR S := rfl
theorem nA_Lx (S : HS) (t q n x : Nat) : hL (nA S t q n) x = if x = q then n else hL S x := rfl
theorem nA_Bx (S : HS) (t q n x j : Nat) : hB (nA S t q n) x j = if x = q then none else hB S x j := rfl
theorem nA_Ax (S : HS) (t q n x j : Nat) : hA (nA S t q n) x j = if x = q then 0 else hA S x j := rfl
theorem sI_Lx (S : HS) (k a : Nat) (v : Int32) : hL (sI S k a v) = hL S := rfl
theorem sR_Lx (S : HS) (k a : Nat) (v : Option Nat) : hL (sR S k a v) = hL S := rfl
theorem sI_Bx (S : HS) (k a : Nat) (v : Int32) : hB (sI S k a v) = hB S := rfl
theorem sR_Bx (S : HS) (k a : Nat) (v : Option Nat) : hB (sR S k a v) = hB S := rfl
/-- the parts of a new state, all empty -/
theorem x_parts {ke : Nat} {kc : Nat → Nat} {S : HS} {c : HC} {κ p : Nat} {mc ms : Nat} {K : Nat → Nat → HS → Prop} (ek : kc 0 = ke) (hk : hD S 60 ke ∧ c ke = 0 ∧ hL S ke = 0) (hbd : ∀ a t, hD S t a → c a < κ) (hκ : 0 < κ) (np : xNew S p) (hm : 3 ≤ mc) (hs : 22 ≤ ms) {g n : Nat → Int32}
    (h : ∀ S' c' l1 l2 a, xPt ke S c κ p l1 l2 a g n S' c' 0 0 (fun _ => 0) (fun _ => 0) → K (((mc - 1) - 1) - 1) (((ms - 3) - 3) - 16) S') :
    1 ≤ mc ∧ 3 ≤ ms ∧ ∀ q_44 : Nat, xNew (nO S 2 p) q_44 → ∀ S_45 : HS, S_45 = nO (nO S 2 p) 12 q_44 → wX_J2_init kc (fun S_47 => hD S_47 2 p ∧ ∀ S_49 : HS, S_49 = sR S_47 200 p (some q_44) → 1 ≤ (mc - 1) ∧ 3 ≤ (ms - 3) ∧ ∀ q_50 : Nat, xNew S_49 q_50 → ∀ S_51 : HS, S_51 = nO S_49 12 q_50 → wX_J2_init kc (fun S_53 => hD S_53 2 p ∧ ∀ S_55 : HS, S_55 = sR S_53 201 p (some q_50) → 1 ≤ ((mc - 1) - 1) ∧ ((16 : Int32).toNatClampNeg) ≤ ((ms - 3) - 3) ∧ ∀ q_56 : Nat, xNew S_55 q_56 → ∀ S_57 : HS, S_57 = nA S_55 61 q_56 ((16 : Int32).toNatClampNeg) → ∀ S_59 : HS, S_59 = sR S_57 202 p (some q_56) → K (((mc - 1) - 1) - 1) (((ms - 3) - 3) - 16) S_59) q_50 S_51) q_44 S_45 := by
  have t16 : ((16 : Int32).toNatClampNeg) = 16 := rfl
  rw [t16, ek.symm] at *
  have d0 : hD (nO S 2 p) 2 p := nO_D S 2 p
  have G0 : xGo S c (nO S 2 p) (cU c p κ) (fun _ => False) κ := gO c 2 κ np (by omega)
  have nS : ∀ {S' : HS} {q : Nat}, (∀ t, ¬ hD S' t q) → (∀ t a, hD S t a → hD S' t a) → ∀ x, (∃ t, hD S t x) → ¬ x = q := fun n1 n2 x ⟨t, d⟩ e => n1 t (e ▸ n2 t x d)
  refine ⟨by omega, by omega, fun l1 n1 => ?_⟩
  rintro _ rfl
  refine ⟨nO_D _ 12 l1, ?_⟩
  rintro _ rfl
  refine ⟨nO_D _ 12 l1, ?_⟩
  rintro _ rfl
  refine ⟨nO_old d0, ?_⟩
  rintro _ rfl
  refine ⟨by omega, by omega, fun l2 n2 => ?_⟩
  rintro _ rfl
  refine ⟨nO_D _ 12 l2, ?_⟩
  rintro _ rfl
  refine ⟨nO_D _ 12 l2, ?_⟩
  rintro _ rfl
  refine ⟨nO_old (nO_old d0), ?_⟩
  rintro _ rfl
  refine ⟨by omega, by omega, fun a na => ?_⟩
  rintro _ rfl _ rfl
  have p1 : p ≠ l1 := n1.ne d0
  have p2 : p ≠ l2 := n2.ne (nO_old d0)
  have p3 : p ≠ a := na.ne (nO_old (nO_old d0))
  have l12 : l1 ≠ l2 := n2.ne (nO_D _ 12 l1)
  have l1a : l1 ≠ a := na.ne (nO_old (nO_D _ 12 l1))
  have l2a : l2 ≠ a := na.ne (nO_D _ 12 l2)
  have k0 : kc 0 ≠ p := np.ne hk.1
  have k1 : kc 0 ≠ l1 := n1.ne (nO_old hk.1)
  have k2 : kc 0 ≠ l2 := n2.ne (nO_old (nO_old hk.1))
  have ka : kc 0 ≠ a := na.ne (nO_old (nO_old (nO_old hk.1)))
  have oldp : ∀ x, (∃ t, hD S t x) → ¬ x = p := fun x ⟨t, d⟩ => np.ne d
  have old1 : ∀ x, (∃ t, hD S t x) → ¬ x = l1 := fun x ⟨t, d⟩ => n1.ne (nO_old d)
  have old2 : ∀ x, (∃ t, hD S t x) → ¬ x = l2 := fun x ⟨t, d⟩ => n2.ne (nO_old (nO_old d))
  have G1 := gNone (gNone (gNone (gNone G0 (gO _ 12 (κ + 1) (κ := κ) n1 (by omega)) (fun _ _ z => z)) (gI _ _ 1200 l1 0 κ) old1) (gR' _ _ 1201 l1 (some (kc 0)) κ) old1) (gR' _ _ 200 p (some l1) κ) oldp
  have G2 := gNone (gNone (gNone (gNone G1 (gO _ 12 (κ + 3) (κ := κ) n2 (by omega)) (fun _ _ z => z)) (gI _ _ 1200 l2 0 κ) old2) (gR' _ _ 1201 l2 (some (kc 0)) κ) old2) (gR' _ _ 201 p (some l2) κ) oldp
  have G3 := gNone (gNone G2 (gN _ 61 (κ + 4) 16 (κ := κ) na (by omega)) (fun _ _ z => z)) (gR' _ _ 202 p (some a) κ) oldp
  refine h _ (cU (cU (cU (cU c p κ) l1 (κ + 1)) l2 (κ + 3)) a (κ + 4)) l1 l2 a ⟨G3, nA_old (n := 16) (nO_old (nO_old d0)), ?_, ?_, ?_, ?_, ?_, fun j hj => absurd hj (Nat.not_lt_zero _), fun j i hj => absurd hj (Nat.not_lt_zero _), ?_, fun j hj => absurd hj (Nat.not_lt_zero _), nA_D _ 61 a 16, cU_eq _ _ _, ?_, ?_⟩
  · rw [cU_ne p3, cU_ne p2, cU_ne p1, cU_eq]
  · simp [sR_R, sI_R, nO_Rx, nA_Rx, p1, p2, p3, p1.symm, p2.symm, p3.symm]
  · simp [sR_R, sI_R, nO_Rx, nA_Rx, p1, p2, p3, p1.symm, p2.symm, p3.symm]
  · simp [sR_R, sI_R, nO_Rx, nA_Rx, p1, p2, p3, p1.symm, p2.symm, p3.symm]
  · refine ⟨nA_old (n := 16) (nO_old (nO_D _ 12 l1)), ?_, ?_, by decide, kc 0, ?_, G3.E.D hk.1, Nat.zero_le _, ?_, fun k hk => absurd hk (Nat.not_lt_zero _), .inl ⟨rfl, (G3.E.C hk.1).trans hk.2.1, (G3.E.L hk.1 (fun z => z)).trans hk.2.2⟩⟩
    · rw [cU_ne l1a, cU_ne l12, cU_eq]
    · simp [sI_I, sR_I, nO_Ix, nA_Ix, l12]; rfl
    · simp [sR_R, sI_R, nO_Rx, nA_Rx, l12, l1a, p1, p2, p1.symm]
    · rw [G3.E.L hk.1 (fun z => z), hk.2.2]; decide
  · refine ⟨nA_old (n := 16) (nO_D _ 12 l2), ?_, ?_, by decide, kc 0, ?_, G3.E.D hk.1, Nat.zero_le _, ?_, fun k hk => absurd hk (Nat.not_lt_zero _), .inl ⟨rfl, (G3.E.C hk.1).trans hk.2.1, (G3.E.L hk.1 (fun z => z)).trans hk.2.2⟩⟩
    · rw [cU_ne l2a, cU_eq]
    · simp [sI_I, sR_I, nO_Ix, nA_Ix]; rfl
    · simp [sR_R, sI_R, nO_Rx, nA_Rx, l2a, p2, p2.symm]
    · rw [G3.E.L hk.1 (fun z => z), hk.2.2]; decide
  · simp [sR_Lx, nA_Lx]
  · intro j; simp [sR_Bx, nA_Bx]
theorem x_copyQ {ke : Nat} {kc : Nat → Nat} {S0 S : HS} {c0 c : HC} {q st κ p l1 l2 a m mc ms f : Nat} {g n : Nat → Int32} {bo bk rq : Nat → Nat} {post : HS → Prop} (ek : kc 0 = ke) (hq0 : q % 10 = 0) (V : xSt ke S0 c0 q st g n (fun _ => 0) bo) (hN : zNw g n) (hbd : ∀ a t, hD S0 t a → c0 a < κ)
    (H : xPt ke S0 c0 κ p l1 l2 a g n S c (cn (n 1)) m bk rq) (hm : m ≤ cn (n 2)) (hmc : cn (n 2) - m ≤ mc) (hms : 200 * (cn (n 2) - m) ≤ ms)
    (hf : cn (n 2) - m < f) (h : ∀ S' c' bk', xGo S0 c0 S' c' (fun _ => False) κ → xSt ke S' c' κ p g n (fun _ => 0) bk' → post S') : wX_X3_init_2_l84 kc post p st f (nI m) mc ms S := by
  have lb := cn_le (n := 60) hN.b.2
  have lr := cn_le (n := 20) hN.r.2
  have ls := cn_le (n := 16) hN.s.2
  generalize hd : cn (n 2) - m = d
  induction d generalizing m mc ms S c rq f with
  | zero =>
    obtain ⟨f, rfl⟩ : ∃ f', f = f' + 1 := ⟨f - 1, by omega⟩
    have em : m = cn (n 2) := by omega
    have V1 := V.ext H.G.E (fun _ _ z => z)
    obtain ⟨lo, ro, o1, o2, o3⟩ := V1.r
    obtain ⟨ao, s1, s2, s3, s4, s5, s6⟩ := V1.s
    have aao : ao ≠ a := fun z => by
      obtain ⟨ax, t1, t2, t3, -⟩ := V.s
      have := (H.G.E.R V.d (fun z => z) 202).trans t1
      rw [s1] at this; cases this
      have b1 := hbd _ _ t2
      rw [← H.G.E.C t2, z, H.ac] at b1; omega
    refine ⟨V1.d, lo, o1, o2.d, x_size o2 ⟨fun _ => ⟨ao, s1, H.d, a, H.r2, s2, H.ad, ?_⟩, fun z => absurd (by rw [zI_le (by omega) (by omega)]; omega) z⟩⟩
    have t16 : ((16 : Int32).toNatClampNeg) = 16 := rfl
    have t0 : ((0 : Int32).toNatClampNeg) = 0 := rfl
    rw [t16, t0]
    refine ⟨⟨⟨by decide, by decide, by decide, by rw [t16, t0, s4]; decide, by rw [t16, t0, H.al]; decide⟩, fun i hi y hy => s6 (0 + i) y hy⟩, ?_⟩
    rintro _ rfl _ rfl _ rfl
    have g1 := gCB S c ao 0 a 0 16 κ
    have g2 := gI (sCB S ao 0 a 0 16) c 203 p (hI (sCB S ao 0 a 0 16) 203 st) κ
    have g3 := gI (sI (sCB S ao 0 a 0 16) 203 p (hI (sCB S ao 0 a 0 16) 203 st)) c 204 p (hI (sI (sCB S ao 0 a 0 16) 203 p (hI (sCB S ao 0 a 0 16) 203 st)) 204 st) κ
    have oa : ∀ x, (∃ t, hD S0 t x) → ¬ x = a := fun x ⟨t, d⟩ z => by have := hbd x t d; rw [← H.G.E.C d, z, H.ac] at this; omega
    have op : ∀ x, (∃ t, hD S0 t x) → ¬ x = p := fun x ⟨t, d⟩ z => by have := hbd x t d; rw [← H.G.E.C d, z, H.cp] at this; omega
    have stp : st ≠ p := op st ⟨2, V.d⟩
    have GG := gNone (gNone (gNone H.G g1 oa) g2 op) g3 op
    have v3 : hI (sCB S ao 0 a 0 16) 203 st = n 3 := V1.cl
    have v0 : hI (sI (sCB S ao 0 a 0 16) 203 p (n 3)) 204 st = n 0 := (sI_ne (.inr stp)).trans V1.no
    rw [v3] at GG g2 g3 ⊢
    rw [v0] at GG g3 ⊢
    have EE := ((g1.E.trans g2.E).trans g3.E)
    have w : ∀ x, c x = 0 ∨ c x = κ + 1 ∨ c x = κ + 2 ∨ c x = κ + 3 → ¬ ((x = a ∨ x = p) ∨ x = p) := fun x hx z => by
      rcases z with (z | z) | z
      · rw [z, H.ac] at hx; omega
      · rw [z, H.cp] at hx
        have : 0 < κ := by have := hbd _ _ V.d; omega
        omega
      · rw [z, H.cp] at hx
        have : 0 < κ := by have := hbd _ _ V.d; omega
        omega
    have pa : p ≠ a := fun z => by have := H.ac; rw [← z, H.cp] at this; omega
    refine h _ c bk GG ⟨H.d, H.cp, ?_, sI_eq _ _ _ _, ⟨l1, H.r0, H.L1.ext EE (fun x hx => w x (hx.imp id .inl))⟩, fun j hj => ?_, H.I, ⟨l2, rq, H.r1, ?_, fun j hj => ?_⟩, a, H.r2, H.ad, H.ac, H.al, fun j hj => ?_, fun j o ho => ?_⟩
    · rw [sI_ne (.inl (by decide)), sI_eq]
    · have B := H.B j hj
      exact B.ext EE (fun x hx => w x (.inl hx)) (w _ (.inr (.inr (.inl B.cb))))
    · rw [← em]; exact H.L2.ext EE (fun x hx => w x (hx.imp id (fun z => .inr (.inr z))))
    · exact (H.Q j (by omega)).ext EE (fun x hx => w x (.inl hx))
    · obtain ⟨o, q1, q2⟩ := s5 j hj
      refine ⟨o, ?_, q2.ext EE (fun x hx => w x (.inl hx))⟩
      show (if a = a then va_cpy (hB S ao) (hB S a) (0 : Int32).toNatClampNeg (0 : Int32).toNatClampNeg (16 : Int32).toNatClampNeg else hB S a) j = some o
      rw [if_pos rfl, t16, t0]
      show (if 0 ≤ j ∧ j < 0 + 16 then hB S ao (0 + (j - 0)) else hB S a j) = some o
      rw [if_pos ⟨Nat.zero_le _, by omega⟩, show 0 + (j - 0) = j by omega]
      exact q1
    · have ho' : (if 0 ≤ j ∧ j < 0 + 16 then hB S ao (0 + (j - 0)) else hB S a j) = some o := by
        have : (if a = a then va_cpy (hB S ao) (hB S a) (0 : Int32).toNatClampNeg (0 : Int32).toNatClampNeg (16 : Int32).toNatClampNeg else hB S a) j = some o := ho
        rw [if_pos rfl, t16, t0] at this
        exact this
      split at ho'
      · exact (s6 _ o ho').imp EE.D EE.D
      · rw [H.an] at ho'; cases ho'
  | succ d ih =>
    have V1 := V.ext H.G.E (fun _ _ z => z)
    obtain ⟨lo, ro, o1, o2, o3⟩ := V1.r
    have Q := o3 m (by omega)
    have qc : ∀ x, c x = 0 ∨ c x = κ ∨ c x = κ + 2 ∨ c x = κ + 4 → ¬ c x = κ + 3 := fun x hx z => by omega
    obtain ⟨f, rfl⟩ : ∃ f', f = f' + 1 := ⟨f - 1, by omega⟩
    refine ⟨V1.d, lo, o1, o2.d, x_size o2 ⟨fun z => absurd z (by rw [zI_le (by omega) (by omega)]; omega), fun _ => ⟨H.d, l2, H.r1, w_get o2 (by omega) ⟨Q.d, H.L2.d, by omega, by omega, ?_⟩⟩⟩⟩
    refine x_add (κ := κ) ek (by omega) H.L2 (by omega) Q.obj (fun k hk => (H.Q k hk).obj) (by omega) (by decide) (by decide) (fun S' c' G' L' => ?_)
    have GG := gNone H.G G' (fun x ⟨t, d⟩ z => by have := hbd x t d; rw [← H.G.E.C d, z] at this; omega)
    obtain ⟨t1, t2, t3, t4, t5, t6, t7, t8, t9, t10, t11⟩ := H.list G'.E qc
    rw [zI_1, zI_add]
    refine ih (rq := fun k => if k = m then ro m else rq k) ⟨GG, t1, t2, t3, t4, t5, H.L1.ext G'.E (fun x hx z => by rcases hx with hx | hx <;> omega), t6, H.I, L', fun j hj => ?_, t8, t9, t10, t11⟩ (by omega) (by omega) (by omega) (by omega) (by omega)
    by_cases z : j = m
    · subst z
      dsimp only
      rw [if_pos rfl]
      exact Q.ext G'.E (fun x hx z => by omega)
    · dsimp only
      rw [if_neg z]
      exact t7 j (by omega)
theorem x_copyB {ke : Nat} {kc : Nat → Nat} {S0 S : HS} {c0 c : HC} {q st κ p l1 l2 a m mc ms f : Nat} {g n : Nat → Int32} {bo bk rq : Nat → Nat} {post : HS → Prop} (ek : kc 0 = ke) (hq0 : q % 10 = 0) (V : xSt ke S0 c0 q st g n (fun _ => 0) bo) (hN : zNw g n) (hbd : ∀ a t, hD S0 t a → c0 a < κ)
    (H : xPt ke S0 c0 κ p l1 l2 a g n S c m 0 bk rq) (hm : m ≤ cn (n 1)) (hmc : 2 * (cn (n 1) - m) + 20 ≤ mc) (hms : 207 * (cn (n 1) - m) + 4000 ≤ ms)
    (hf : cn (n 1) - m < f) (h : ∀ S' c' bk', xGo S0 c0 S' c' (fun _ => False) κ → xSt ke S' c' κ p g n (fun _ => 0) bk' → post S') : wX_X3_init_2_l37 kc post p st f (nI m) mc ms S := by
  have lb := cn_le (n := 60) hN.b.2
  have lr := cn_le (n := 20) hN.r.2
  generalize hd : cn (n 1) - m = d
  induction d generalizing m mc ms S c bk f with
  | zero =>
    obtain ⟨f, rfl⟩ : ∃ f', f = f' + 1 := ⟨f - 1, by omega⟩
    have em : m = cn (n 1) := by omega
    have V1 := V.ext H.G.E (fun _ _ z => z)
    obtain ⟨lo, o1, o2⟩ := V1.b
    refine ⟨V1.d, lo, o1, o2.d, x_size o2 ⟨fun _ => ⟨cn (n 2) + 1, ?_⟩, fun z => absurd (by rw [zI_le (by omega) (by omega)]; omega) z⟩⟩
    subst em
    exact x_copyQ (m := 0) ek hq0 V hN hbd H (Nat.zero_le _) (by omega) (by omega) (by omega) h
  | succ d ih =>
    obtain ⟨f, rfl⟩ : ∃ f', f = f' + 1 := ⟨f - 1, by omega⟩
    have V1 := V.ext H.G.E (fun _ _ z => z)
    obtain ⟨lo, o1, o2⟩ := V1.b
    have B := V1.bb m (by omega)
    refine ⟨V1.d, lo, o1, o2.d, x_size o2 ⟨fun z => absurd z (by rw [zI_le (by omega) (by omega)]; omega), fun _ => ⟨H.d, l1, H.r0, w_get o2 (by omega) ⟨B.d, by omega, by omega, ?_⟩⟩⟩⟩
    refine x_copyBk (κ := κ) (v := κ + 2) B (by omega) (by omega) (hN.ba m (by omega)) (by decide) (by decide) (fun S2 b nb G2 B2 => ?_)
    have L2 := H.L1.ext G2.E (fun _ _ z => z)
    obtain ⟨t1, t2, t3, t4, t5, t6, t7, t8, t9, t10, t11⟩ := H.list G2.E (fun _ _ z => z)
    refine ⟨L2.d, by omega, by omega, ?_⟩
    have LL2 := H.L2.ext G2.E (fun _ _ z => z)
    have bne : ∀ j, j < m → bk j ≠ b := fun j hj => nb.ne (H.B j hj).d
    have H2 := gNone H.G G2 (fun _ _ z => z)
    generalize cU c b (κ + 2) = c2 at *
    refine x_add (κ := κ) ek (by omega) L2 (by omega) B2.obj (fun k hk => (t6 k hk).obj) (by omega) (by decide) (by decide) (fun S' c' G' L' => ?_)
    have GG := gNone H2 G' (fun x ⟨t, d⟩ z => by have := hbd x t d; rw [← H2.E.C d, z] at this; omega)
    have w : ∀ x, c2 x = 0 ∨ c2 x = κ ∨ c2 x = κ + 2 ∨ c2 x = κ + 3 ∨ c2 x = κ + 4 → ¬ c2 x = κ + 1 := fun x hx z => by omega
    have E := G'.E
    have κ0 : 0 < κ := by have := hbd _ _ V.d; omega
    have wp := w p (.inr (.inl t2))
    have wa := w a (.inr (.inr (.inr (.inr t9))))
    rw [zI_1, zI_add]
    refine ih (bk := fun k => if k = m then b else bk k) ⟨GG, E.D t1, (E.C t1).trans t2, (E.R t1 wp _).trans t3, (E.R t1 wp _).trans t4, (E.R t1 wp _).trans t5, L', fun j hj => ?_, fun i j hi hj e => ?_, LL2.ext E (fun x hx => w x (hx.imp id (fun z => .inr (.inr (.inl z))))), fun j hj => absurd hj (Nat.not_lt_zero _), E.D t8, (E.C t8).trans t9, (E.L t8 wa).trans t10, fun j => (E.B t8 wa j).trans (t11 j)⟩ (by omega) (by omega) (by omega) (by omega) (by omega)
    · by_cases z : j = m
      · subst z
        dsimp only
        rw [if_pos rfl]
        exact B2.ext E (fun x hx => w x (.inl hx)) (w _ (.inr (.inr (.inl B2.cb))))
      · dsimp only
        rw [if_neg z]
        have B3 := t6 j (by omega)
        exact B3.ext E (fun x hx => w x (.inl hx)) (w _ (.inr (.inr (.inl B3.cb))))
    · dsimp only at e
      by_cases zi : i = m <;> by_cases zj : j = m
      · rw [zi, zj]
      · rw [if_pos zi, if_neg zj] at e; exact absurd e.symm (bne j (by omega))
      · rw [if_neg zi, if_pos zj] at e; exact absurd e (bne i (by omega))
      · rw [if_neg zi, if_neg zj] at e; exact H.I i j (by omega) (by omega) e
theorem x_stateCopy {ke : Nat} {kc : Nat → Nat} {S : HS} {c : HC} {q st κ p : Nat} {g n : Nat → Int32} {bo : Nat → Nat} {post : HS → Prop} (ek : kc 0 = ke) (hq0 : q % 10 = 0) (hk : hD S 60 ke ∧ c ke = 0 ∧ hL S ke = 0) (V : xSt ke S c q st g n (fun _ => 0) bo) (hN : zNw g n) (hbd : ∀ a t, hD S t a → c a < κ) (np : xNew S p)
    (h : ∀ S' c' bk', xGo S c S' c' (fun _ => False) κ → xSt ke S' c' κ p g n (fun _ => 0) bk' → post S') : wX_X3_init_2 kc post 200 20000 p st (nO S 2 p) := by
  have lb := cn_le (n := 60) hN.b.2
  have κ0 : 0 < κ := by have := hbd _ _ V.d; omega
  exact x_parts (K := fun mc ms S => ∃ f, wX_X3_init_2_l37 kc post p st f 0 mc ms S) ek hk hbd κ0 np (by decide) (by decide) (fun S' c' l1 l2 a H => ⟨cn (n 1) + 1, x_copyB (m := 0) ek hq0 V hN hbd H (Nat.zero_le _) (by omega) (by omega) (by omega) h⟩)
