/-! PLAIN LAWS, za: requests are served; cancel -/
section
variable {ke : Nat} {kc : Nat → Nat} {S S' : HS} {c c' : HC} {x κ : Nat} {ad qs : Nat → Nat} {bks : Nat → Nat → Nat} {F F' : MF} {G G' : MG} {W : Nat → Prop} {px : String → Nat → HS → Prop} {mc ms : Nat}
/-- a change of what is not the plan's -/
theorem xRX.other {B : Nat} (R : xRX ke S c x ad qs bks F G) (hB : B % 10 = 0 ∧ 10 ≤ B ∧ ∀ i, i < 10 → qs i < B) (hbd : ∀ a t, hD S t a → c a < B) (E : xGo S c S' c' W B) (w : ∀ a, W a → 10 ≤ c a ∧ ∀ i, i < 10 → ¬ (qs i ≤ c a ∧ c a < qs i + 10)) : xRX ke S' c' x ad qs bks F G := by
  have dx := R.P.T.d
  have wx : ¬ W x := fun z => by have := (w x z).1; rw [R.P.T.cx] at this; omega
  have wl : ∀ a, c a < 10 → ¬ W a := fun a h z => by have := (w a z).1; omega
  have wq : ∀ i, i < 10 → ∀ a, qs i ≤ c a ∧ c a < qs i + 5 → ¬ W a := fun i hi a h z => (w a z).2 i hi (by omega)
  refine R.upd E (fun a z => .inr (.inr (by have := (w a z).1; omega))) (fun k _ => E.E.R dx wx k) (fun i _ => rfl) rfl ⟨(E.E.R dx wx 3).trans R.P.T.st, R.P.V.ext E.E (fun a h => h.elim (fun h => wl a (by omega)) (wq 0 (by decide) a))⟩ R.N R.sep R.out (R.len' E.E (fun a h => wl a (by omega)) (E.E.I dx wx 1)) R.D ⟨(E.E.R dx wx 5).trans R.dr.1, R.dr.2.ext E.E (fun a h => wl a (by omega))⟩ (R.sv' E.E (fun a h => h.elim (fun h => wl a (by omega)) (wq 1 (by decide) a)) (E.E.R dx wx 4)) (R.hi' E.E (fun a h => by
    rcases h with h | h | h | ⟨k, hk, h⟩
    · exact wl a (by omega)
    · exact wl a (by omega)
    · exact wl a (by omega)
    · exact wq (2 + k) (by omega) a h)) R.q ⟨B + 10, by omega, by omega, fun i hi => by have := hB.2.2 i hi; omega, E.bd hbd⟩
/-- an iterator of the list l, k gone by -/
abbrev xIt (S : HS) (c : HC) (it l k γ : Nat) : Prop := (hD S 16 it) ∧ (c it = γ) ∧ (hI S 1600 it = nI k) ∧ (hI S 1602 it = hI S 1200 l) ∧ (hR S 1603 it = some l)
theorem xIt.d {S : HS} {c : HC} {it l k γ : Nat} (h : xIt S c it l k γ) : hD S 16 it := h.1
theorem xIt.ci {S : HS} {c : HC} {it l k γ : Nat} (h : xIt S c it l k γ) : c it = γ := h.2.1
theorem xIt.cu {S : HS} {c : HC} {it l k γ : Nat} (h : xIt S c it l k γ) : hI S 1600 it = nI k := h.2.2.1
theorem xIt.mo {S : HS} {c : HC} {it l k γ : Nat} (h : xIt S c it l k γ) : hI S 1602 it = hI S 1200 l := h.2.2.2.1
theorem xIt.li {S : HS} {c : HC} {it l k γ : Nat} (h : xIt S c it l k γ) : hR S 1603 it = some l := h.2.2.2.2
theorem xIt.ext {it l k γ : Nat} (H : xIt S c it l k γ) (E : xExt S c S' c' W) (hl : hD S 12 l) (w : ¬ W it ∧ ¬ W l) : xIt S' c' it l k γ :=
  ⟨E.D H.d, (E.C H.d).trans H.ci, (E.I H.d w.1 _).trans H.cu, ((E.I H.d w.1 _).trans H.mo).trans (E.I hl w.2 _).symm, (E.R H.d w.1 _).trans H.li⟩
theorem x_itNext {it l k γ n q : Nat} {f : Nat → Nat} {post : Nat → HS → Prop} (H : xIt S c it l k γ) (L : xLs ke S c q l n f) (hk : k < n) (hne : γ ≠ q ∧ γ ≠ 0)
    (h : ∀ S', xGo S c S' c (fun a => a = it) κ → xIt S' c it l (k + 1) γ → hI S' 1601 it = nI k → post (f k) S') : wX_J23_next post it S := by
  have hn := L.nl
  obtain ⟨a, a1, a2, a3, a4, a5, a6⟩ := L.a
  have ai : a ≠ it := fun z => by
    rcases a6 with ⟨-, z1, -⟩ | ⟨z1, -, -⟩
    · rw [z, H.ci] at z1; exact hne.2 z1
    · rw [z, H.ci] at z1; exact hne.1 z1
  have li : l ≠ it := fun z => by have := L.cl; rw [z, H.ci] at this; exact hne.1 this
  refine ⟨H.d, H.d, l, H.li, L.d, fun _ => ?_, fun z => absurd H.mo.symm z⟩
  rintro _ rfl
  refine ⟨l, H.li, L.d, ?_⟩
  rw [H.cu, L.nn, zI_lt (by omega) (by omega)]
  refine ⟨fun _ => ⟨a, a1, a2, ?_⟩, fun z => absurd hk z⟩
  rw [zI_lt (by omega) (by omega)]
  refine ⟨fun _ => ?_, fun z => absurd (by omega) z⟩
  rintro _ rfl _ rfl
  have g1 := gI S c 1600 it (nI k + 1) κ
  have g2 := gI (sI S 1600 it (nI k + 1)) c 1601 it (nI k) κ
  have GG := g1.go g2 (fun _ _ z => z)
  refine ⟨zI_in' (by omega) (by show k < hL S a; omega), f k, by rw [zI_nat (by omega)]; exact a5 k hk, h _ GG ⟨H.d, H.ci, ?_, ?_, H.li⟩ (sI_eq _ _ _ _)⟩
  · rw [sI_ne (.inl (by decide)), sI_eq, zI_1, zI_add]
  · rw [sI_ne (.inl (by decide)), sI_ne (.inl (by decide)), H.mo]
    exact (GG.E.I L.d li 1200).symm
theorem x_itRemove {it l k γ n q : Nat} {f : Nat → Nat} {post : HS → Prop} (H : xIt S c it l (k + 1) γ) (hr : hI S 1601 it = nI k) (L : xLs ke S c q l n f) (hk : k < n) (hw : ∀ j, j < n → xObj S (f j)) (hne : γ ≠ q ∧ γ ≠ 0)
    (h : ∀ S1 S', xGo S c S1 c (fun a => c a = q) κ → xLs ke S1 c q l (n - 1) (fun j => if j < k then f j else f (j + 1)) → xGo S1 c S' c (fun a => a = it) κ → xIt S' c it l k γ → post S') : wX_J23_remove post it S := by
  have hn := L.nl
  have li : l ≠ it := fun z => by have := L.cl; rw [z, H.ci] at this; exact hne.1 this
  refine ⟨H.d, ?_⟩
  rw [hr]
  refine ⟨fun _ => ⟨H.d, l, H.li, L.d, fun _ => ⟨l, H.li, L.d, ?_⟩, fun z => absurd H.mo.symm z⟩, fun z => absurd (by rw [zI_0, zI_le (by omega) (by omega)]; omega) z⟩
  refine x_lsRemove (κ := κ) L hk hw (fun S1 G1 L1 m1 => ?_)
  have wi : ¬ c it = q := by rw [H.ci]; exact hne.1
  have i1 : hI S1 1601 it = nI k := (G1.E.I H.d wi _).trans hr
  have d1 := G1.E.D H.d
  refine ⟨d1, ?_⟩
  rintro _ rfl _ rfl
  rw [i1]
  have g1 := gI S1 c 1600 it (nI k) κ
  have g2 := gI (sI S1 1600 it (nI k)) c 1601 it (-1) κ
  have GG := g1.go g2 (fun _ _ z => z)
  refine ⟨l, (G1.E.R H.d wi _).trans H.li, L1.d, ?_⟩
  rintro _ rfl
  have g3 := gI (sI (sI S1 1600 it (nI k)) 1601 it (-1)) c 1602 it (hI (sI (sI S1 1600 it (nI k)) 1601 it (-1)) 1200 l) κ
  have G3 := GG.go g3 (fun _ _ z => z)
  refine h S1 _ G1 L1 G3 ⟨d1, H.ci, ?_, ?_, (G1.E.R H.d wi _).trans H.li⟩
  · rw [sI_ne (.inl (by decide)), sI_ne (.inl (by decide)), sI_eq]
  · rw [sI_eq]
    exact (sI_ne (.inr li)).symm
/-- whether the k-th request can be served -/
def sServeOk (G : MG) (n : Nat → Int32) (k : Nat) : Bool := decide ((n 1).toInt < 60) && sProb (sAsk (mg G 8 n) 8 (784 + 11 * k)) (n (784 + 11 * k + 9)) (n (784 + 11 * k + 10)) == 0
def sServe1 (n : Nat → Int32) (k : Nat) : Nat → Int32 := sDeq (sBooks n (fun w => n (784 + 11 * k + w)) (n (784 + 11 * k + 9)) (n (784 + 11 * k + 10))) k
def sServe (G : MG) : Nat → Nat → (Nat → Int32) → (Nat → Int32)
  | 0, _, n => n
  | d + 1, k, n => if sServeOk G n k = true then sServe G d k (sServe1 n k) else sServe G d (k + 1) n
/-- rows but for what a problem's question may change -/
def zE8 (G : MG) (n : Nat → Int32) (G1 : MG) : Prop := G1 8 = n ∧ ∀ k, k ≠ 7 → k ≠ 20 → k ≠ 8 → G1 k = G k
theorem sServe1_2 {n : Nat → Int32} {k : Nat} (hb : cn (n 1) < 60) : sBooks n (fun w => n (784 + 11 * k + w)) (n (784 + 11 * k + 9)) (n (784 + 11 * k + 10)) 2 = n 2 := sBooks_old (by decide) (.inl (by omega))
theorem m_serves {post : MF → MG → Prop} (hF : zFx (G 1)) (d : Nat) : ∀ (k : Nat) (n : Nat → Int32) (G1 : MG), zE8 G n G1 → zNw (G 1) n → k + d = cn (n 2) → (∀ i, i < 60 → G 19 i = 0) → (∀ G2, zE8 G (sServe G d k n) G2 → post F G2) → wM_serves_l2 post (d + 1) (nI k) F G1 := by
  induction d with
  | zero =>
    intro k n G1 e N hk ho p
    have lr := cn_le (n := 20) N.r.2
    simp only [wM_serves_l2, wM_serves_b2]
    rw [e.1, cn_nI N.r.1, zI_le (by omega) (by omega)]
    exact ⟨fun _ => p G1 e, fun z => absurd (by omega) z⟩
  | succ d ih =>
    intro k n G1 e N hk ho p
    have lr := cn_le (n := 20) N.r.2
    have lb := cn_le (n := 60) N.b.2
    have hk' : k < cn (n 2) := by omega
    have ra : (784 : Int32) + 11 * nI k = nI (784 + 11 * k) := by
      rw [show (784 : Int32) = nI 784 from rfl, show (11 : Int32) = nI 11 from rfl, zI_mul, zI_add]
    rw [show wM_serves_l2 post (d + 1 + 1) = wM_serves_b2 post (wM_serves_l2 post (d + 1)) from rfl]
    unfold wM_serves_b2
    rw [e.1]
    have e2 : n 2 = nI (cn (n 2)) := cn_nI N.r.1
    rw [e2, zI_le (by omega) (by omega)]
    refine ⟨fun z => absurd z (by omega), fun _ => ?_⟩
    unfold wM_requestAt
    rw [ra]
    dsimp only
    rw [show nI (784 + 11 * k) + (9 : Int32) = nI (784 + 11 * k + 9) from zI_add _ 9, show nI (784 + 11 * k) + (10 : Int32) = nI (784 + 11 * k + 10) from zI_add _ 10, zI_nat (show 784 + 11 * k + 9 < 2147483648 by omega), zI_nat (show 784 + 11 * k + 10 < 2147483648 by omega)]
    refine ⟨zI_in' (by omega) (by omega), ?_⟩
    rintro _ rfl
    refine ⟨zI_in' (by omega) (by omega), ?_⟩
    rintro _ rfl
    have e8 : m_ln 8 = 1052 := rfl
    have g8 : sAsk G1 8 (784 + 11 * k) 8 = n := e.1
    have g1 : sAsk G1 8 (784 + 11 * k) 1 = G 1 := e.2 1 (by decide) (by decide) (by decide)
    have g19 : sAsk G1 8 (784 + 11 * k) 19 = G 19 := e.2 19 (by decide) (by decide) (by decide)
    have no : sServeOk G n k = false → ∀ G2, zE8 G n G2 → wM_serves_l2 post (d + 1) (nI k + 1) F G2 := fun z G2 e' => by
      rw [zI_1, zI_add]
      simp only [sServe] at p
      rw [z, if_neg (by decide)] at p
      exact ih (k + 1) n G2 e' N (by omega) ho p
    have eA : zE8 G n (sAsk G1 8 (784 + 11 * k)) := ⟨g8, fun j h7 h20 h8 => (mg_ne h7).trans (e.2 j h7 h20 h8)⟩
    have pc : sProb (sAsk G1 8 (784 + 11 * k)) (n (784 + 11 * k + 9)) (n (784 + 11 * k + 10)) = sProb (sAsk (mg G 8 n) 8 (784 + 11 * k)) (n (784 + 11 * k + 9)) (n (784 + 11 * k + 10)) := by
      refine sProb_congr (G := sAsk (mg G 8 n) 8 (784 + 11 * k)) hF g1 ?_ g19 (fun w hw => ?_)
      · rw [g8]; rfl
      · simp only [sAsk, mg_eq, if_pos hw, e.1]
    have row7 : sAsk G1 8 (784 + 11 * k) 7 = sAsk (mg G 8 n) 8 (784 + 11 * k) 7 ∨ True := .inr trivial
    refine m_asks (r := 8) (x := 784 + 11 * k) rfl (by decide) (by rw [e8]; omega) (by rw [e8]; omega) ?_
    rw [g8]
    have zr : zEv (sAsk G1 8 (784 + 11 * k) 7) := zEv_row (G := G1) (r := 8) (x := 784 + 11 * k) (by rw [e.1]; exact N.re k hk') rfl
    refine ⟨fun z => no ?_ _ eA, fun z => ?_⟩
    · have : ¬ (n 1).toInt < 60 := by
        rw [z_le] at z
        simp only [show (60 : Int32).toInt = 60 from rfl] at z
        omega
      simp only [sServeOk, this, decide_false, Bool.false_and]
    have lt60 : (n 1).toInt < 60 := by
      rw [z_le] at z
      simp only [show (60 : Int32).toInt = 60 from rfl] at z
      omega
    have cb : cn (n 1) < 60 := cn_lt' N.b.1 lt60
    refine m_problemOf (by rw [g1]; exact hF) (by rw [g1, g8]; exact N) zr (by rw [g1]; exact N.rp k hk') (N.rs k hk') (fun g => ?_)
    rw [pc]
    have eB : zE8 G n (mg (sAsk G1 8 (784 + 11 * k)) 20 g) := ⟨g8, fun j h7 h20 h8 => (mg_ne h20).trans (eA.2 j h7 h20 h8)⟩
    refine ⟨fun z1 => ?_, fun z1 => no ?_ _ eB⟩
    · have ok : sServeOk G n k = true := by
        simp only [sServeOk, lt60, z1, decide_true, Bool.true_and, beq_self_eq_true]
      simp only [sServe] at p
      rw [ok, if_pos rfl] at p
      generalize mg (sAsk G1 8 (784 + 11 * k)) 20 g = G3 at *
      refine m_books (r := 8) (o := 784 + 11 * k) (by rw [eB.1]; exact ⟨N.b.1, lt60⟩) rfl (by rw [e8]; omega) (by rw [e8]; omega) (.inr (by omega)) ?_
      rw [eB.1]
      have n2 := sServe1_2 (n := n) (k := k) cb
      have N2 : zNw (G 1) (sBooks n (fun w => n (784 + 11 * k + w)) (n (784 + 11 * k + 9)) (n (784 + 11 * k + 10))) := N.books lt60 (N.re k hk') (N.rp k hk') (N.rs k hk')
      refine m_removesRequest (by rw [mg_eq, n2]; exact N.r) (by rw [mg_eq, n2]; exact hk') ?_
      rw [mg_eq, mg_mg]
      have N3 := N2.deq (k := k) (by rw [n2]; exact hk')
      refine ih k (sServe1 n k) _ ⟨mg_eq _ _ _, fun j h7 h20 h8 => (mg_ne h8).trans (eB.2 j h7 h20 h8)⟩ N3 ?_ ho p
      show k + d = cn (sDeq _ k 2)
      rw [sDeq_2, n2]
      have e3 : cn (n 2) = (n 2).toInt.toNat := rfl
      have := (z_pred (i := n 2) (by omega)).1
      omega
    · have : (sProb (sAsk (mg G 8 n) 8 (784 + 11 * k)) (n (784 + 11 * k + 9)) (n (784 + 11 * k + 10)) == 0) = false := by simpa using z1
      simp only [sServeOk, this, Bool.and_false]
end
