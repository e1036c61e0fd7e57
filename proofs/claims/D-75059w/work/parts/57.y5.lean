/-! PLAIN LAWS, y5: lists grow; new things have new colors -/
/-- what is new has color 0 or one of the new ones -/
def xNw (S : HS) (S' : HS) (c' : HC) (κ : Nat) : Prop := ∀ a t, hD S' t a → (∃ t', hD S t' a) ∨ c' a < κ + 10
theorem xNw.rf (S : HS) (c : HC) (κ : Nat) : xNw S S c κ := fun a t h => .inl ⟨t, h⟩
theorem xNw.trans {S S1 S2 : HS} {c1 c2 : HC} {W : Nat → Prop} {κ : Nat} (h1 : xNw S S1 c1 κ) (E : xExt S1 c1 S2 c2 W) (h2 : xNw S1 S2 c2 κ) : xNw S S2 c2 κ := fun a t h => by
  rcases h2 a t h with ⟨t', h'⟩ | h'
  · rcases h1 a t' h' with h'' | h''
    · exact .inl h''
    · rw [E.C h']; exact .inr h''
  · exact .inr h'
theorem xNw.same {S S1 : HS} {c1 : HC} {κ : Nat} (h : ∀ a t, hD S1 t a → hD S t a) : xNw S S1 c1 κ := fun a t d => .inl ⟨t, h a t d⟩
theorem nwO {S : HS} {c : HC} {q t v κ : Nat} (h : v < κ + 10) : xNw S (nO S t q) (cU c q v) κ := fun a t' d => by
  rcases d with d | ⟨e, -⟩
  · exact .inl ⟨t', d⟩
  · rw [e, cU_eq]; exact .inr h
theorem nwN {S : HS} {c : HC} {q t v n κ : Nat} (h : v < κ + 10) : xNw S (nA S t q n) (cU c q v) κ := fun a t' d => by
  rcases d with d | ⟨e, -⟩
  · exact .inl ⟨t', d⟩
  · rw [e, cU_eq]; exact .inr h
/-- a step from S0 on: what was there keeps but for W, what is new has new colors -/
abbrev xGo (S0 : HS) (c0 : HC) (S : HS) (c : HC) (W : Nat → Prop) (κ : Nat) : Prop := (xExt S0 c0 S c W) ∧ (xNw S0 S c κ)
theorem xGo.E {S0 : HS} {c0 : HC} {S : HS} {c : HC} {W : Nat → Prop} {κ : Nat} (h : xGo S0 c0 S c W κ) : xExt S0 c0 S c W := h.1
theorem xGo.N {S0 : HS} {c0 : HC} {S : HS} {c : HC} {W : Nat → Prop} {κ : Nat} (h : xGo S0 c0 S c W κ) : xNw S0 S c κ := h.2
theorem xGo.rf (S : HS) (c : HC) (W : Nat → Prop) (κ : Nat) : xGo S c S c W κ := ⟨xExt.rf S c W, xNw.rf S c κ⟩
/-- onward: a change of W2, of which what was there at first has only W -/
theorem xGo.go {S0 S S' : HS} {c0 c c' : HC} {W W2 : Nat → Prop} {κ : Nat} (H : xGo S0 c0 S c W κ) (H2 : xGo S c S' c' W2 κ) (h : ∀ a, (∃ t, hD S0 t a) → W2 a → W a) : xGo S0 c0 S' c' W κ :=
  ⟨H.E.then H2.E h, xNw.trans (c1 := c) H.N H2.E H2.N⟩
theorem xGo.mono {S0 S : HS} {c0 c : HC} {W W2 : Nat → Prop} {κ : Nat} (H : xGo S0 c0 S c W κ) (h : ∀ a, (∃ t, hD S0 t a) → W a → W2 a) : xGo S0 c0 S c W2 κ := ⟨H.E.mono h, H.N⟩
theorem gI (S : HS) (c : HC) (k a : Nat) (v : Int32) (κ : Nat) : xGo S c (sI S k a v) c (fun x => x = a) κ := ⟨oI S c k a v, xNw.same (fun _ _ d => d)⟩
theorem gR' (S : HS) (c : HC) (k a : Nat) (v : Option Nat) (κ : Nat) : xGo S c (sR S k a v) c (fun x => x = a) κ := ⟨oR S c k a v, xNw.same (fun _ _ d => d)⟩
theorem gA (S : HS) (c : HC) (a j : Nat) (v : Int32) (κ : Nat) : xGo S c (sA S a j v) c (fun x => x = a) κ := ⟨oA S c a j v, xNw.same (fun _ _ d => d)⟩
theorem gBB (S : HS) (c : HC) (a j : Nat) (v : Option Nat) (κ : Nat) : xGo S c (sB S a j v) c (fun x => x = a) κ := ⟨oB S c a j v, xNw.same (fun _ _ d => d)⟩
theorem gCB (S : HS) (c : HC) (s : Nat) (p : Int32) (a : Nat) (o n : Int32) (κ : Nat) : xGo S c (sCB S s p a o n) c (fun x => x = a) κ := ⟨oCB S c s p a o n, xNw.same (fun _ _ d => d)⟩
theorem gCA (S : HS) (c : HC) (s : Nat) (p : Int32) (a : Nat) (o n : Int32) (κ : Nat) : xGo S c (sCA S s p a o n) c (fun x => x = a) κ := ⟨oCA S c s p a o n, xNw.same (fun _ _ d => d)⟩
theorem gG (S : HS) (c : HC) (a : Nat) (h : Nat → Int32) (κ : Nat) : xGo S c (sG S a h) c (fun x => x = a) κ := ⟨oG S c a h, xNw.same (fun _ _ d => d)⟩
theorem gO {S : HS} {q : Nat} (c : HC) (k v : Nat) {κ : Nat} (n : xNew S q) (h : v < κ + 10) : xGo S c (nO S k q) (cU c q v) (fun _ => False) κ := ⟨oO c k v n, nwO h⟩
theorem gN {S : HS} {q : Nat} (c : HC) (k v len : Nat) {κ : Nat} (n : xNew S q) (h : v < κ + 10) : xGo S c (nA S k q len) (cU c q v) (fun _ => False) κ := ⟨oN c k v len n, nwN h⟩
/-- what a new object holds -/
theorem nO_D (S : HS) (t q : Nat) : hD (nO S t q) t q := .inr ⟨rfl, .inl rfl⟩
theorem nO_99 (S : HS) (t q : Nat) : hD (nO S t q) 99 q := .inr ⟨rfl, .inr rfl⟩
theorem nA_D (S : HS) (t q n : Nat) : hD (nA S t q n) t q := .inr ⟨rfl, .inl rfl⟩
theorem nA_99 (S : HS) (t q n : Nat) : hD (nA S t q n) 99 q := .inr ⟨rfl, .inr rfl⟩
theorem nA_L (S : HS) (t q n : Nat) : hL (nA S t q n) q = n := if_pos rfl
theorem nA_A (S : HS) (t q n j : Nat) : hA (nA S t q n) q j = 0 := if_pos rfl
theorem nA_B (S : HS) (t q n j : Nat) : hB (nA S t q n) q j = none := if_pos rfl
theorem nO_I (S : HS) (t q k : Nat) : hI (nO S t q) k q = 0 := if_pos rfl
theorem nO_R (S : HS) (t q k : Nat) : hR (nO S t q) k q = none := if_pos rfl
theorem nO_old {S : HS} {t q t' a : Nat} (h : hD S t' a) : hD (nO S t q) t' a := .inl h
theorem nA_old {S : HS} {t q n t' a : Nat} (h : hD S t' a) : hD (nA S t q n) t' a := .inl h
theorem sI_ne {S : HS} {k a : Nat} {v : Int32} {k' a' : Nat} (h : k' ≠ k ∨ a' ≠ a) : hI (sI S k a v) k' a' = hI S k' a' := by
  show (if k' = k then (if a' = a then v else hI S k' a') else hI S k' a') = _
  rcases h with h | h
  · rw [if_neg h]
  · rw [if_neg h]; split <;> rfl
theorem sI_eq (S : HS) (k a : Nat) (v : Int32) : hI (sI S k a v) k a = v := by
  show (if k = k then (if a = a then v else hI S k a) else hI S k a) = _
  rw [if_pos rfl, if_pos rfl]
theorem sR_ne {S : HS} {k a : Nat} {v : Option Nat} {k' a' : Nat} (h : k' ≠ k ∨ a' ≠ a) : hR (sR S k a v) k' a' = hR S k' a' := by
  show (if k' = k then (if a' = a then v else hR S k' a') else hR S k' a') = _
  rcases h with h | h
  · rw [if_neg h]
  · rw [if_neg h]; split <;> rfl
theorem sR_eq (S : HS) (k a : Nat) (v : Option Nat) : hR (sR S k a v) k a = v := by
  show (if k = k then (if a = a then v else hR S k a) else hR S k a) = _
  rw [if_pos rfl, if_pos rfl]
theorem sB_ne {S : HS} {a j : Nat} {v : Option Nat} {a' j' : Nat} (h : a' ≠ a ∨ j' ≠ j) : hB (sB S a j v) a' j' = hB S a' j' := by
  show (if a' = a then (if j' = j then v else hB S a' j') else hB S a' j') = _
  rcases h with h | h
  · rw [if_neg h]
  · rw [if_neg h]; split <;> rfl
theorem sB_eq (S : HS) (a j : Nat) (v : Option Nat) : hB (sB S a j v) a j = v := by
  show (if a = a then (if j = j then v else hB S a j) else hB S a j) = _
  rw [if_pos rfl, if_pos rfl]
theorem sA_ne {S : HS} {a j : Nat} {v : Int32} {a' j' : Nat} (h : a' ≠ a ∨ j' ≠ j) : hA (sA S a j v) a' j' = hA S a' j' := by
  show (if a' = a then (if j' = j then v else hA S a' j') else hA S a' j') = _
  rcases h with h | h
  · rw [if_neg h]
  · rw [if_neg h]; split <;> rfl
theorem sA_eq (S : HS) (a j : Nat) (v : Int32) : hA (sA S a j v) a j = v := by
  show (if a = a then (if j = j then v else hA S a j) else hA S a j) = _
  rw [if_pos rfl, if_pos rfl]
/-- an empty list is made -/
theorem x_listInit {ke : Nat} {kc : Nat → Nat} {S : HS} {c : HC} {l κ q : Nat} {post : HS → Prop} (ek : kc 0 = ke) (hd : hD S 12 l) (hc : c l = q) (hk : hD S 60 ke ∧ c ke = 0 ∧ hL S ke = 0) (hz : hI S 1202 l = 0)
    (h : ∀ S' f, xGo S c S' c (fun a => a = l) κ → xLs ke S' c q l 0 f → post S') : wX_J2_init kc post l S := by
  refine ⟨hd, ?_⟩
  rintro _ rfl
  refine ⟨hd, ?_⟩
  rintro _ rfl
  rw [ek]
  have g1 := gI S c 1200 l 0 κ
  have g2 := gR' (sI S 1200 l 0) c 1201 l (some ke) κ
  refine h _ (fun _ => 0) (g1.go g2 (fun _ _ e => e)) ⟨hd, hc, ?_, by decide, ke, sR_eq _ _ _ _, hk.1, Nat.zero_le _, ?_, fun k hk => absurd hk (Nat.not_lt_zero _), .inl ⟨rfl, hk.2.1, hk.2.2⟩⟩
  · show hI (sI S 1200 l 0) 1202 l = nI 0
    rw [sI_ne (.inl (by decide)), hz]; rfl
  · show hL S ke ≤ 150
    rw [hk.2.2]; decide
theorem z_half : ∀ n : Fin 101, (imax (nI (n.val + 1) - nI n.val) (nI n.val >>> ((1 : Int32) &&& 31))) = nI (max 1 (n.val / 2)) := by decide +kernel
theorem xObj.ext {S S' : HS} {c c' : HC} {W : Nat → Prop} {v : Nat} (E : xExt S c S' c' W) (h : xObj S v) : xObj S' v := by
  unfold xObj at *
  exact h.imp E.D (·.imp E.D (·.imp E.D (·.imp E.D (·.imp E.D E.D))))
/-- a list takes one more -/
theorem x_add {ke : Nat} {kc : Nat → Nat} {S : HS} {c : HC} {q l n κ v : Nat} {f : Nat → Nat} {post : Int32 → HS → Prop} {mc ms : Nat} (ek : kc 0 = ke) (eq : q < κ + 10) (H : xLs ke S c q l n f) (hn : n < 100) (hv : xObj S v) (hw : ∀ k, k < n → xObj S (f k)) (hq : q ≠ 0) (hcl : 1 ≤ mc) (hsl : 200 ≤ ms)
    (h : ∀ S' c', xGo S c S' c' (fun a => c a = q) κ → xLs ke S' c' q l (n + 1) (fun k => if k = n then v else f k) → post 1 S') : wX_J2_add kc post mc ms l v S := by
  have hdl := H.d
  have hcq := H.cl
  obtain ⟨a, a1, a2, a3, a4, a5, a6⟩ := H.a
  refine ⟨H.d, ?_⟩
  rintro _ rfl
  have g1 := (gI S c 1200 l (hI S 1200 l + 1) κ).mono (W2 := fun a => c a = q) (fun x _ e => by rw [e]; exact H.cl)
  have n1 : hI (sI S 1200 l (hI S 1200 l + 1)) 1202 l = nI n := by rw [sI_ne (.inl (by decide))]; exact H.nn
  refine ⟨a, a1, hcl, hsl, a2, ?_⟩
  rw [n1]
  have last : ∀ S1 c1 b, xGo S c S1 c1 (fun a => c a = q) κ → hR S1 1201 l = some b → hD S1 60 b → n < hL S1 b → hL S1 b ≤ 150 → (∀ k, k < n → hB S1 b k = some (f k)) → c1 b = q → hD S1 99 b →
      hD S1 60 b ∧ vp_in (nI n) (hL S1 b) ∧ hD S1 99 b ∧ xObj S1 v ∧ ∀ S_13 : HS, S_13 = sB S1 b ((nI n).toNatClampNeg) (some v) → hD S_13 12 l ∧ ∀ S_17 : HS, S_17 = sI S_13 1202 l (nI n + (1 : Int32)) → post 1 S_17 := by
    intro S1 c1 b G d3 d4 d5 d6 d7 d8 d9
    have d1 := G.E.D hdl
    have d2 : c1 l = q := (G.E.C hdl).trans hcq
    refine ⟨d4, zI_in' (by omega) d5, d9, hv.ext G.E, ?_⟩
    rintro _ rfl
    refine ⟨d1, ?_⟩
    rintro _ rfl
    rw [zI_nat (by omega), zI_1, zI_add]
    have g3 := gBB S1 c1 b n (some v) κ
    have g4 := gI (sB S1 b n (some v)) c1 1202 l (nI (n + 1)) κ
    refine h _ c1 (?_) ⟨d1, d2, sI_eq _ _ _ _, by omega, b, d3, d4, by show n + 1 ≤ hL S1 b; omega, d6, fun k hk => ?_, .inr ⟨d8, d9, by show 0 < hL S1 b; omega⟩⟩
    · refine (G.go g3 (fun x ⟨t, hx⟩ e => ?_)).go g4 (fun x _ e => by rw [e]; exact H.cl)
      rw [← G.E.C hx, e]; exact d8
    · show hB (sB S1 b n (some v)) b k = some (if k = n then v else f k)
      by_cases z : k = n
      · rw [z, sB_eq, if_pos rfl]
      · rw [sB_ne (.inr z), if_neg z]; exact d7 k (by omega)
  refine ⟨fun e => ?_, fun e => ?_⟩
  · -- full: a new array
    have eL : n = hL S a := by
      rw [show hL (sI S 1200 l (hI S 1200 l + 1)) a = hL S a from rfl, zI_inj (by omega) (by omega)] at e
      exact e
    refine ⟨hdl, by decide, by decide, hdl, by decide, by decide, hdl, a, a1, a2, ?_⟩
    rintro _ rfl
    rw [show hL (sI S 1200 l (hI S 1200 l + 1)) a = n from eL.symm, n1]
    have hdl1 : hD (sI S 1200 l (hI S 1200 l + 1)) 12 l := hdl
    have a1' : hR (sI S 1200 l (hI S 1200 l + 1)) 1201 l = some a := a1
    have a2' : hD (sI S 1200 l (hI S 1200 l + 1)) 60 a := a2
    have a5' : ∀ k, k < n → hB (sI S 1200 l (hI S 1200 l + 1)) a k = some (f k) := a5
    have eL' : hL (sI S 1200 l (hI S 1200 l + 1)) a = n := eL.symm
    generalize sI S 1200 l (hI S 1200 l + 1) = S1 at *
    refine ⟨fun e0 => ?_, fun e0 => ⟨fun e1 => ⟨?_, ?_, by decide, ?_, fun b nb => ?_⟩, fun e1 => ?_⟩⟩
    · rw [zI_0, zI_lt (by omega) (by omega)] at e0
      have hh := z_half ⟨n, by omega⟩
      dsimp only at hh
      rw [← zI_add, ← zI_1] at hh
      unfold wX_J2_grow_2_j20 wX_J16_newLength
      rintro _ rfl
      rw [hh, zI_add]
      have lm : max 1 (n / 2) ≤ 50 ∧ 1 ≤ max 1 (n / 2) := by omega
      generalize max 1 (n / 2) = d at *
      refine ⟨fun z => ?_, fun _ => ⟨fun z => ?_, fun _ => ⟨hdl1, a, a1', by decide, by decide, a2', by decide, by decide, fun _ => ⟨?_, ?_, by decide, ?_, fun b nb => ?_⟩, fun z => absurd rfl z⟩⟩⟩
      · rw [zI_0, zI_le (by omega) (by omega)] at z; omega
      · rw [show (2147483639 : Int32) = nI 2147483639 from rfl, zI_lt (by omega) (by omega)] at z; omega
      · rw [zI_0, zI_lt (by omega) (by omega)]; omega
      · rw [zI_nat (by omega)]; omega
      · rw [zI_nat (by omega)]; omega
      rintro _ rfl
      rw [zI_nat (show n + d < 2147483648 by omega)]
      have ba := nb.ne a2'
      have eL2 : hL (nA S1 60 b (n + d)) a = n := (if_neg ba).trans eL'
      have mn : imin (nI n) (nI (n + d)) = nI n := by
        unfold imin
        exact if_neg (by rw [zI_lt (by omega) (by omega)]; omega)
      rw [eL2, mn, zI_nat (show n < 2147483648 by omega)]
      have c0 : (0 : Int32).toNatClampNeg = 0 := rfl
      rw [c0]
      have n0 : ¬ nI n < 0 := by rw [zI_0, zI_lt (by omega) (by omega)]; omega
      have hb2 : ∀ i, hB (nA S1 60 b (n + d)) a i = hB S1 a i := fun i => by
        show (if a = b then none else hB S1 a i) = _
        rw [if_neg ba]
      refine ⟨nA_old (n := n + d) a2', ⟨⟨by decide, by decide, n0, ?_, ?_⟩, fun i hi y hy => ?_⟩, ?_⟩
      · rw [zI_nat (by omega), eL2, c0]; omega
      · rw [zI_nat (by omega), nA_L, c0]; omega
      · rw [Nat.zero_add, hb2, a5' i hi] at hy
        cases hy
        have ob : xObj S1 (f i) := (hw i hi).ext g1.E
        exact ob.ext (oN c 60 0 (n + d) nb)
      rintro _ rfl
      have g2 := gN c 60 q (n + d) (κ := κ) nb eq
      have g3 := gCB (nA S1 60 b (n + d)) (cU c b q) a 0 b 0 (nI n) κ
      have g4 := gR' (sCB (nA S1 60 b (n + d)) a 0 b 0 (nI n)) (cU c b q) 1201 l (some b) κ
      have nl : l ≠ b := nb.ne hdl1
      have dl3 : hD (sCB (nA S1 60 b (n + d)) a 0 b 0 (nI n)) 12 l := nA_old (n := n + d) hdl1
      refine ⟨dl3, ?_⟩
      rintro _ rfl
      have n3 := zI_nat (show n < 2147483648 by omega)
      have L := last (sR (sCB (nA S1 60 b (n + d)) a 0 b 0 (nI n)) 1201 l (some b)) (cU c b q) b ?_ (sR_eq _ _ _ _) (nA_D S1 60 b (n + d)) ?_ ?_ (fun k hk => ?_) (cU_eq c b q) (nA_99 S1 60 b (n + d))
      · rw [n3] at L; exact L
      · refine ((g1.go g2 (fun _ _ z => z.elim)).go g3 (fun x ⟨t, hx⟩ z => ?_)).go g4 (fun x _ z => by rw [z]; exact hcq)
        exact absurd (g1.E.D hx) (by rw [z]; exact nb t)
      · show n < hL (nA S1 60 b (n + d)) b
        rw [nA_L]; omega
      · show hL (nA S1 60 b (n + d)) b ≤ 150
        rw [nA_L]; omega
      · show (if b = b then va_cpy (hB (nA S1 60 b (n + d)) a) (hB (nA S1 60 b (n + d)) b) 0 0 (nI n).toNatClampNeg else hB (nA S1 60 b (n + d)) b) k = _
        rw [if_pos rfl, n3]
        show (if 0 ≤ k ∧ k < 0 + n then hB (nA S1 60 b (n + d)) a (0 + (k - 0)) else hB (nA S1 60 b (n + d)) b k) = _
        rw [if_pos ⟨Nat.zero_le _, by omega⟩, hb2, show 0 + (k - 0) = k by omega]
        exact a5' k hk
    · have : n = 0 := by rw [zI_0, zI_lt (by omega) (by omega)] at e0; omega
      subst this
      decide
    · have : n = 0 := by rw [zI_0, zI_lt (by omega) (by omega)] at e0; omega
      subst this
      decide
    · have : n = 0 := by rw [zI_0, zI_lt (by omega) (by omega)] at e0; omega
      subst this
      decide
    · have n0 : n = 0 := by rw [zI_0, zI_lt (by omega) (by omega)] at e0; omega
      rintro _ rfl _ rfl
      have t10 : (imax (10 : Int32) (nI n + 1)).toNatClampNeg = 10 := by rw [n0]; decide
      rw [t10]
      have g2 := gN c 60 q 10 (κ := κ) nb eq
      have g4 := gR' (nA S1 60 b 10) (cU c b q) 1201 l (some b) κ
      refine last (sR (nA S1 60 b 10) 1201 l (some b)) (cU c b q) b ?_ (sR_eq _ _ _ _) (nA_D S1 60 b 10) ?_ ?_ (fun k hk => absurd hk (by omega)) (cU_eq c b q) (nA_99 S1 60 b 10)
      · exact (g1.go g2 (fun _ _ z => z.elim)).go g4 (fun x _ z => by rw [z]; exact hcq)
      · show n < hL (nA S1 60 b 10) b
        rw [nA_L]; omega
      · show hL (nA S1 60 b 10) b ≤ 150
        rw [nA_L]; omega
    · have n0 : n = 0 := by rw [zI_0, zI_lt (by omega) (by omega)] at e0; omega
      rcases a6 with ⟨z, -⟩ | ⟨-, -, z⟩
      · exact absurd (z.trans ek.symm) e1
      · omega
  · have ne : n ≠ hL S a := fun z => e (by rw [show hL (sI S 1200 l (hI S 1200 l + 1)) a = hL S a from rfl, ← z])
    have ca : c a = q ∧ hD S 99 a ∧ 0 < hL S a := a6.resolve_left (fun z => by omega)
    exact (last _ c a g1 a1 a2 (by show n < hL S a; omega) a4 a5 ca.1 ca.2.1).2
