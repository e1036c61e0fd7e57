/-! PLAIN LAWS, x4: what stays as it is -/
def xExt (S : HS) (c : HC) (S' : HS) (c' : HC) (W : Nat → Prop) : Prop := ∀ a t, hD S t a → c' a = c a ∧ hD S' t a ∧ (¬ W a → (∀ k, hI S' k a = hI S k a) ∧ (∀ k, hR S' k a = hR S k a) ∧ hL S' a = hL S a ∧ (∀ j, hA S' a j = hA S a j) ∧ ∀ j, hB S' a j = hB S a j)
section
variable {S S' : HS} {c c' : HC} {W : Nat → Prop} {a t : Nat}
theorem xExt.C (E : xExt S c S' c' W) (d : hD S t a) : c' a = c a := (E a t d).1
theorem xExt.D (E : xExt S c S' c' W) (d : hD S t a) : hD S' t a := (E a t d).2.1
theorem xExt.I (E : xExt S c S' c' W) (d : hD S t a) (w : ¬ W a) (k : Nat) : hI S' k a = hI S k a := ((E a t d).2.2 w).1 k
theorem xExt.R (E : xExt S c S' c' W) (d : hD S t a) (w : ¬ W a) (k : Nat) : hR S' k a = hR S k a := ((E a t d).2.2 w).2.1 k
theorem xExt.L (E : xExt S c S' c' W) (d : hD S t a) (w : ¬ W a) : hL S' a = hL S a := ((E a t d).2.2 w).2.2.1
theorem xExt.A (E : xExt S c S' c' W) (d : hD S t a) (w : ¬ W a) (j : Nat) : hA S' a j = hA S a j := ((E a t d).2.2 w).2.2.2.1 j
theorem xExt.B (E : xExt S c S' c' W) (d : hD S t a) (w : ¬ W a) (j : Nat) : hB S' a j = hB S a j := ((E a t d).2.2 w).2.2.2.2 j
theorem xExt.rf (S : HS) (c : HC) (W : Nat → Prop) : xExt S c S c W := fun _ _ d => ⟨rfl, d, fun _ => ⟨fun _ => rfl, fun _ => rfl, rfl, fun _ => rfl, fun _ => rfl⟩⟩
theorem xExt.trans {S2 : HS} {c2 : HC} {W2 : Nat → Prop} (E : xExt S c S' c' W) (E2 : xExt S' c' S2 c2 W2) : xExt S c S2 c2 (fun a => W a ∨ W2 a) := fun a t d => by
  obtain ⟨e1, e2, e3⟩ := E a t d
  obtain ⟨f1, f2, f3⟩ := E2 a t e2
  refine ⟨f1.trans e1, f2, fun w => ?_⟩
  obtain ⟨g1, g2, g3, g4, g5⟩ := e3 (fun q => w (.inl q))
  obtain ⟨h1, h2, h3, h4, h5⟩ := f3 (fun q => w (.inr q))
  exact ⟨fun k => (h1 k).trans (g1 k), fun k => (h2 k).trans (g2 k), h3.trans g3, fun k => (h4 k).trans (g4 k), fun k => (h5 k).trans (g5 k)⟩
theorem xExt.mono {W2 : Nat → Prop} (E : xExt S c S' c' W) (h : ∀ a, (∃ t, hD S t a) → W a → W2 a) : xExt S c S' c' W2 := fun a t d => ⟨(E a t d).1, (E a t d).2.1, fun w => (E a t d).2.2 (fun q => w (h a ⟨t, d⟩ q))⟩
/-- one after the other, the second on what is new or on what W has -/
theorem xExt.then {S2 : HS} {c2 : HC} {W2 : Nat → Prop} (E : xExt S c S' c' W) (E2 : xExt S' c' S2 c2 W2) (h : ∀ a, (∃ t, hD S t a) → W2 a → W a) : xExt S c S2 c2 W := (E.trans E2).mono (fun a d q => q.elim id (h a d))
/-! single changes -/
theorem oI (S : HS) (c : HC) (k a : Nat) (v : Int32) : xExt S c (sI S k a v) c (fun x => x = a) := fun x _ d => ⟨rfl, d, fun w => ⟨fun k' => by
  show (if k' = k then (if x = a then v else hI S k' x) else hI S k' x) = _
  rw [if_neg w]; split <;> rfl, fun _ => rfl, rfl, fun _ => rfl, fun _ => rfl⟩⟩
theorem oR (S : HS) (c : HC) (k a : Nat) (v : Option Nat) : xExt S c (sR S k a v) c (fun x => x = a) := fun x _ d => ⟨rfl, d, fun w => ⟨fun _ => rfl, fun k' => by
  show (if k' = k then (if x = a then v else hR S k' x) else hR S k' x) = _
  rw [if_neg w]; split <;> rfl, rfl, fun _ => rfl, fun _ => rfl⟩⟩
theorem oA (S : HS) (c : HC) (a j : Nat) (v : Int32) : xExt S c (sA S a j v) c (fun x => x = a) := fun x _ d => ⟨rfl, d, fun w => ⟨fun _ => rfl, fun _ => rfl, rfl, fun j' => by
  show (if x = a then (if j' = j then v else hA S x j') else hA S x j') = _
  rw [if_neg w], fun _ => rfl⟩⟩
theorem oB (S : HS) (c : HC) (a j : Nat) (v : Option Nat) : xExt S c (sB S a j v) c (fun x => x = a) := fun x _ d => ⟨rfl, d, fun w => ⟨fun _ => rfl, fun _ => rfl, rfl, fun _ => rfl, fun j' => by
  show (if x = a then (if j' = j then v else hB S x j') else hB S x j') = _
  rw [if_neg w]⟩⟩
theorem oG (S : HS) (c : HC) (a : Nat) (h : Nat → Int32) : xExt S c (sG S a h) c (fun x => x = a) := fun x _ d => ⟨rfl, d, fun w => ⟨fun _ => rfl, fun _ => rfl, rfl, fun j' => by
  show (if x = a then h else hA S x) j' = _
  rw [if_neg w], fun _ => rfl⟩⟩
theorem oCA (S : HS) (c : HC) (s : Nat) (p : Int32) (a : Nat) (o n : Int32) : xExt S c (sCA S s p a o n) c (fun x => x = a) := fun x _ d => ⟨rfl, d, fun w => ⟨fun _ => rfl, fun _ => rfl, rfl, fun j' => by
  show (if x = a then _ else hA S x) j' = _
  rw [if_neg w], fun _ => rfl⟩⟩
theorem oCB (S : HS) (c : HC) (s : Nat) (p : Int32) (a : Nat) (o n : Int32) : xExt S c (sCB S s p a o n) c (fun x => x = a) := fun x _ d => ⟨rfl, d, fun w => ⟨fun _ => rfl, fun _ => rfl, rfl, fun _ => rfl, fun j' => by
  show (if x = a then _ else hB S x) j' = _
  rw [if_neg w]⟩⟩
/-- colors with one more -/
def cU (c : HC) (q v : Nat) : HC := fun x => if x = q then v else c x
theorem cU_eq (c : HC) (q v : Nat) : cU c q v q = v := if_pos rfl
theorem cU_ne {c : HC} {q v x : Nat} (h : x ≠ q) : cU c q v x = c x := if_neg h
theorem xNew.ne {q : Nat} (n : xNew S q) (d : hD S t a) : a ≠ q := fun e => n t (e ▸ d)
theorem oO {q : Nat} (c : HC) (k v : Nat) (n : xNew S q) : xExt S c (nO S k q) (cU c q v) (fun _ => False) := fun x t d => by
  have e := n.ne d
  refine ⟨cU_ne e, .inl d, fun _ => ⟨fun k' => ?_, fun k' => ?_, rfl, fun _ => rfl, fun _ => rfl⟩⟩
  · show (if x = q then 0 else hI S k' x) = _
    rw [if_neg e]
  · show (if x = q then none else hR S k' x) = _
    rw [if_neg e]
theorem oN {q : Nat} (c : HC) (k v len : Nat) (n : xNew S q) : xExt S c (nA S k q len) (cU c q v) (fun _ => False) := fun x t d => by
  have e := n.ne d
  refine ⟨cU_ne e, .inl d, fun _ => ⟨fun _ => rfl, fun _ => rfl, ?_, fun j => ?_, fun j => ?_⟩⟩
  · show (if x = q then len else hL S x) = _
    rw [if_neg e]
  · show (if x = q then 0 else hA S x j) = _
    rw [if_neg e]
  · show (if x = q then none else hB S x j) = _
    rw [if_neg e]
/-! what keeps -/
theorem xEv.ext {e : Nat} {r : Nat → Int32} (H : xEv S c e r) (E : xExt S c S' c' W) (w : ∀ a, c a = 0 → ¬ W a) : xEv S' c' e r := by
  obtain ⟨n, a1, a2, a3, a4, a5⟩ := H.ne
  have we := w e H.c0
  have wn := w n a3
  refine ⟨E.D H.d, (E.C H.d).trans H.c0, (E.I H.d we _).trans H.ty, (E.I H.d we _).trans H.gu, (E.I H.d we _).trans H.du, n, (E.R H.d we _).trans a1, E.D a2, (E.C a2).trans a3, (E.L a2 wn).trans a4, fun k hk => (E.A a2 wn _).trans (a5 k hk)⟩
theorem xLs.ext {ke q l n : Nat} {f : Nat → Nat} (H : xLs ke S c q l n f) (E : xExt S c S' c' W) (w : ∀ a, c a = 0 ∨ c a = q → ¬ W a) : xLs ke S' c' q l n f := by
  obtain ⟨a, a1, a2, a3, a4, a5, a6⟩ := H.a
  have wl := w l (.inr H.cl)
  have wa : ¬ W a := a6.elim (fun z => w a (.inl z.2.1)) (fun z => w a (.inr z.1))
  refine ⟨E.D H.d, (E.C H.d).trans H.cl, (E.I H.d wl _).trans H.nn, H.nl, a, (E.R H.d wl _).trans a1, E.D a2, by rw [E.L a2 wa]; exact a3, by rw [E.L a2 wa]; exact a4, fun k hk => (E.B a2 wa _).trans (a5 k hk), ?_⟩
  rcases a6 with ⟨b1, b2, b3⟩ | ⟨b1, b2, b3⟩
  · exact .inl ⟨b1, (E.C a2).trans b2, (E.L a2 wa).trans b3⟩
  · exact .inr ⟨(E.C a2).trans b1, E.D b2, by rw [E.L a2 wa]; exact b3⟩
theorem xBk.ext {q b : Nat} {g r : Nat → Int32} {out : Int32} (H : xBk S c q b g r out) (E : xExt S c S' c' W) (w : ∀ a, c a = 0 → ¬ W a) (wb : ¬ W b) : xBk S' c' q b g r out := by
  obtain ⟨e, v1, v2⟩ := H.ev
  exact ⟨E.D H.d, (E.C H.d).trans H.cb, ⟨e, (E.R H.d wb _).trans v1, v2.ext E w⟩, (E.I H.d wb _).trans H.ha, (E.I H.d wb _).trans H.st, fun z => (E.I H.d wb _).trans (H.pr z), (E.I H.d wb _).trans H.fe, (E.I H.d wb _).trans H.ac, (E.I H.d wb _).trans H.ou⟩
theorem xRq.ext {o : Nat} {r : Nat → Int32} (H : xRq S c o r) (E : xExt S c S' c' W) (w : ∀ a, c a = 0 → ¬ W a) : xRq S' c' o r := by
  obtain ⟨e, v1, v2⟩ := H.ev
  have wo := w o H.c0
  exact ⟨E.D H.d, (E.C H.d).trans H.c0, ⟨e, (E.R H.d wo _).trans v1, v2.ext E w⟩, (E.I H.d wo _).trans H.ha, (E.I H.d wo _).trans H.st⟩
theorem xCl.ext {o : Nat} {r : Nat → Int32} (H : xCl S c o r) (E : xExt S c S' c' W) (w : ∀ a, c a = 0 → ¬ W a) : xCl S' c' o r := by
  have wo := w o H.c0
  exact ⟨E.D H.d, (E.C H.d).trans H.c0, (E.I H.d wo _).trans H.ha, (E.I H.d wo _).trans H.fr, (E.I H.d wo _).trans H.to⟩
/-- the parts of a state's closures -/
theorem zS.ext {a q n : Nat} {r : Nat → Nat → Int32} {i : Nat → Nat → Int32} {N : Nat} (H : hD S 61 a ∧ c a = q ∧ hL S a = N ∧ (∀ k, k < n → ∃ o, hB S a k = some o ∧ xCl S c o (r k)) ∧ ∀ k o, hB S a k = some o → hD S 20 o ∨ hD S 21 o) (E : xExt S c S' c' W) (w : ∀ a, c a = 0 ∨ c a = q → ¬ W a) :
    hD S' 61 a ∧ c' a = q ∧ hL S' a = N ∧ (∀ k, k < n → ∃ o, hB S' a k = some o ∧ xCl S' c' o (r k)) ∧ ∀ k o, hB S' a k = some o → hD S' 20 o ∨ hD S' 21 o := by
  obtain ⟨a2, a3, a4, a5, a6⟩ := H
  have wa := w a (.inr a3)
  refine ⟨E.D a2, (E.C a2).trans a3, (E.L a2 wa).trans a4, fun k hk => ?_, fun k o ho => ?_⟩
  · obtain ⟨o, o1, o2⟩ := a5 k hk
    exact ⟨o, (E.B a2 wa _).trans o1, o2.ext E (fun a ha => w a (.inl ha))⟩
  · rw [E.B a2 wa] at ho
    exact (a6 k o ho).imp E.D E.D
theorem xSt.ext {ke q st : Nat} {g n out : Nat → Int32} {bk : Nat → Nat} (H : xSt ke S c q st g n out bk) (E : xExt S c S' c' W) (w : ∀ a, c a = 0 ∨ (q ≤ c a ∧ c a < q + 5) → ¬ W a) : xSt ke S' c' q st g n out bk := by
  have ws := w st (.inr (by rw [H.cs]; omega))
  have w0 : ∀ a, c a = 0 → ¬ W a := fun a ha => w a (.inl ha)
  refine ⟨E.D H.d, (E.C H.d).trans H.cs, (E.I H.d ws _).trans H.cl, (E.I H.d ws _).trans H.no, ?_, fun k hk => ?_, H.bi, ?_, ?_⟩
  · obtain ⟨l, h1, h2⟩ := H.b
    exact ⟨l, (E.R H.d ws _).trans h1, h2.ext E (fun a ha => w a (ha.imp id (fun z => by omega)))⟩
  · have B := H.bb k hk
    exact B.ext E w0 (w _ (.inr (by rw [B.cb]; omega)))
  · obtain ⟨l, rq, h1, h2, h3⟩ := H.r
    exact ⟨l, rq, (E.R H.d ws _).trans h1, h2.ext E (fun a ha => w a (ha.imp id (fun z => by omega))), fun k hk => (h3 k hk).ext E w0⟩
  · obtain ⟨a, h1, h2, h3, h4⟩ := H.s
    obtain ⟨b2, b3, b4⟩ := zS.ext (r := fun k w => n (1004 + 3 * k + w)) (i := fun _ _ => 0) ⟨h2, h3, h4⟩ E (fun a ha => w a (ha.imp id (fun z => by omega)))
    exact ⟨a, (E.R H.d ws _).trans h1, b2, b3, b4⟩
theorem xSu.ext {ke su : Nat} {q : Nat → Nat} {g : Nat → Int32} (H : xSu ke S c q su g) (E : xExt S c S' c' W) (w : ∀ a, (c a = 0 ∨ ∃ i, i < 9 ∧ c a = q i) → ¬ W a) : xSu ke S' c' q su g := by
  have wq : ∀ i, i < 9 → ∀ a, c a = 0 ∨ c a = q i → ¬ W a := fun i hi a ha => w a (ha.imp id (fun z => ⟨i, hi, z⟩))
  have ws := w su (.inr ⟨0, by decide, H.cs⟩)
  have w0 : ∀ a, c a = 0 → ¬ W a := fun a ha => w a (.inl ha)
  refine ⟨E.D H.d, (E.C H.d).trans H.cs, (E.I H.d ws _).trans H.ty, (E.I H.d ws _).trans H.cl, (E.I H.d ws _).trans H.wn, (E.I H.d ws _).trans H.fn, (E.I H.d ws _).trans H.we, ?_, ?_, ?_, ?_, ?_, ?_⟩
  · obtain ⟨l, f, h1, h2, h3⟩ := H.h
    refine ⟨l, f, (E.R H.d ws _).trans h1, h2.ext E (wq 1 (by decide)), fun k hk => ?_⟩
    obtain ⟨a1, a2, a3, a4, a5, a6⟩ := h3 k hk
    have wk := w0 _ a2
    exact ⟨E.D a1, (E.C a1).trans a2, (E.I a1 wk _).trans a3, (E.I a1 wk _).trans a4, (E.I a1 wk _).trans a5, (E.I a1 wk _).trans a6⟩
  · obtain ⟨l, f, h1, h2, h3⟩ := H.k
    refine ⟨l, f, (E.R H.d ws _).trans h1, h2.ext E (wq 2 (by decide)), fun k hk => ?_⟩
    obtain ⟨a1, a2, a3, a4, a5⟩ := h3 k hk
    have wk := w0 _ a2
    exact ⟨E.D a1, (E.C a1).trans a2, (E.I a1 wk _).trans a3, (E.I a1 wk _).trans a4, (E.I a1 wk _).trans a5⟩
  · obtain ⟨a, f, h1, h2, h3, h4, h5, h6⟩ := H.be
    have wa := wq 3 (by decide) a (.inr h3)
    refine ⟨a, f, (E.R H.d ws _).trans h1, E.D h2, (E.C h2).trans h3, (E.L h2 wa).trans h4, fun i hi => ?_, h6⟩
    obtain ⟨b1, b2, b3, b4, b5⟩ := h5 i hi
    have wf := wq 4 (by decide) _ (.inr b3)
    exact ⟨(E.B h2 wa _).trans b1, E.D b2, (E.C b2).trans b3, (E.L b2 wf).trans b4, fun j hj => (E.A b2 wf _).trans (b5 j hj)⟩
  · obtain ⟨a, h1, h2, h3, h4⟩ := H.s
    obtain ⟨b2, b3, b4⟩ := zS.ext (r := fun k w => g (118 + 3 * k + w)) (i := fun _ _ => 0) ⟨h2, h3, h4⟩ E (wq 5 (by decide))
    exact ⟨a, (E.R H.d ws _).trans h1, b2, b3, b4⟩
  · obtain ⟨a, h1, h2, h3, h4, h5⟩ := H.w
    have wa := wq 6 (by decide) a (.inr h3)
    refine ⟨a, (E.R H.d ws _).trans h1, E.D h2, (E.C h2).trans h3, (E.L h2 wa).trans h4, fun k hk => ?_⟩
    obtain ⟨o, o1, o2, o3, o4, o5, o6⟩ := h5 k hk
    have wo := w0 _ o3
    exact ⟨o, (E.B h2 wa _).trans o1, E.D o2, (E.C o2).trans o3, (E.I o2 wo _).trans o4, (E.I o2 wo _).trans o5, (E.I o2 wo _).trans o6⟩
  · obtain ⟨a, fd, p, h1, h2, h3, h4, h5, h6, h7, h8, h9, h10, h11⟩ := H.f
    have wa := wq 7 (by decide) a (.inr h3)
    have wf := wq 8 (by decide) fd (.inr h7)
    refine ⟨a, fd, p, (E.R H.d ws _).trans h1, E.D h2, (E.C h2).trans h3, (E.L h2 wa).trans h4, (E.R H.d ws _).trans h5, E.D h6, (E.C h6).trans h7, (E.L h6 wf).trans h8, fun k hk => ?_, h10, h11⟩
    obtain ⟨o, o1, o2, o3, o4, o5, o6, o7⟩ := h9 k hk
    have wo := w0 _ o3
    exact ⟨o, (E.B h2 wa _).trans o1, E.D o2, (E.C o2).trans o3, o4, (E.I o2 wo _).trans o5, (E.I o2 wo _).trans o6, (E.A h6 wf _).trans o7⟩
end
