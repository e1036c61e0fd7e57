/-! PLAIN LAWS, m2: the model: closures, units, problems -/
theorem mg_ne {G : MG} {k j : Nat} {f : Nat → Int32} (h : j ≠ k) : mg G k f j = G j := if_neg h
theorem mg_eq (G : MG) (k : Nat) (f : Nat → Int32) : mg G k f k = f := if_pos rfl
theorem mu_mg (G : MG) (k : Nat) (f : Nat → Int32) (i : Nat) (v : Int32) : mu (mg G k f) k i v = mg G k (upd f i v) := by
  funext j
  simp only [mu, mg]
  split <;> simp_all
theorem mg_self (G : MG) (k : Nat) : mg G k (G k) = G := by
  funext j
  simp only [mg]
  split <;> simp_all
theorem mu_eq (G : MG) (k i : Nat) (v : Int32) : mu G k i v = mg G k (upd (G k) i v) := rfl
/-- the fields that a problem's question hangs on -/
def zPr (k : Nat) : Bool := k == 1 || k == 7 || k == 8 || k == 19
def sShut (G : MG) (hall from_ to : Int32) (c : Nat) : Bool := G 8 (1004 + 3 * c) == hall && decide (G 8 (1004 + 3 * c + 1) < to) && decide (from_ < G 8 (1004 + 3 * c + 2))
theorem m_isShutIn {post : Int32 → Prop} {F : MF} {G : MG} {hall x y : Int32} (hN : zNw (G 1) (G 8)) (h : post (bI (zany (sShut G hall x y) 0 (cn (G 8 3))))) : wM_isShutIn post hall x y F G := by
  unfold wM_isShutIn
  have l1 := cn_le (n := 16) hN.s.2
  refine zup (L := fun m k => wM_isShutIn_l3 post F G m hall x y k) (cn (G 8 3)) (by omega) (fun k => post (bI (zany (sShut G hall x y) k (cn (G 8 3) - k)))) ?_ 0 (Nat.zero_le _) h
  intro m k hk hI next
  simp only [wM_isShutIn_l3, wM_isShutIn_b3]
  rw [cn_nI hN.s.1, zI_le (by omega) (by omega)]
  refine ⟨fun e => ?_, fun e => ?_⟩
  · rw [show cn (G 8 3) - k = 0 by omega] at hI; exact hI
  · rw [show cn (G 8 3) - k = (cn (G 8 3) - (k + 1)) + 1 by omega] at hI
    simp only [zany] at hI
    rintro _ rfl
    simp only [zI_lit, zI_1, zI_mul, zI_add] at next ⊢
    rw [zI_nat (show 1004 + 3 * k < 2147483648 by omega), zI_nat (show 1004 + 3 * k + 1 < 2147483648 by omega), zI_nat (show 1004 + 3 * k + 2 < 2147483648 by omega)]
    refine ⟨zI_in' (by omega) (by omega), fun e1 => ⟨zI_in' (by omega) (by omega), fun e2 => ?_, fun e2 => ⟨zI_in' (by omega) (by omega), fun e3 => ?_, fun e3 => ?_⟩⟩, fun e1 => ?_⟩
    · rw [show sShut G hall x y k = false by simp only [sShut, e1, Int32.not_lt.mpr e2]; simp] at hI
      exact next (by omega) hI
    · rw [show sShut G hall x y k = false by simp only [sShut, e1, Int32.not_lt.mpr e3]; simp] at hI
      exact next (by omega) hI
    · rw [show sShut G hall x y k = true by simp only [sShut, e1, Int32.not_le.mp e2, Int32.not_le.mp e3]; simp] at hI
      exact hI
    · rw [show sShut G hall x y k = false by simp [sShut, e1]] at hI
      exact next (by omega) hI
/-- what is left of a part -/
abbrev sMod (a b : Int32) : Int32 := a - a / b * b
def sWeek (G : MG) (from_ to : Int32) (w : Nat) : Bool := G 1 (86 + w) == sMod (from_ / 1440) 7 && decide (1440 * (from_ / 1440) + G 1 (94 + w) < to) && decide (from_ < 1440 * (from_ / 1440) + G 1 (102 + w))
theorem m_isWeeklyIn {post : Int32 → Prop} {F : MF} {G : MG} {x y : Int32} (hF : zFx (G 1)) (h : post (bI (zany (sWeek G x y) 0 (cn (G 1 3))))) : wM_isWeeklyIn post x y F G := by
  unfold wM_isWeeklyIn
  have l1 := cn_le (n := 8) hF.w.2
  rintro _ rfl
  refine zup (L := fun m k => wM_isWeeklyIn_l9 post F G m x y (x / 1440) k) (cn (G 1 3)) (by omega) (fun k => post (bI (zany (sWeek G x y) k (cn (G 1 3) - k)))) ?_ 0 (Nat.zero_le _) h
  intro m k hk hI next
  simp only [wM_isWeeklyIn_l9, wM_isWeeklyIn_b9]
  rw [cn_nI hF.w.1, zI_le (by omega) (by omega)]
  refine ⟨fun e => ?_, fun e => ?_⟩
  · rw [show cn (G 1 3) - k = 0 by omega] at hI; exact hI
  · rw [show cn (G 1 3) - k = (cn (G 1 3) - (k + 1)) + 1 by omega] at hI
    simp only [zany] at hI
    have a1 : (86 : Int32) + nI k = nI (86 + k) := zI_add 86 k
    have a2 : (94 : Int32) + nI k = nI (94 + k) := zI_add 94 k
    have a3 : (102 : Int32) + nI k = nI (102 + k) := zI_add 102 k
    simp only [wM_isWeeklyIn_j42, a1, a2, a3]
    rw [zI_nat (show 86 + k < 2147483648 by omega), zI_nat (show 94 + k < 2147483648 by omega), zI_nat (show 102 + k < 2147483648 by omega)]
    refine ⟨zI_in' (by omega) (by omega), fun e1 => ⟨fun q => absurd q (by decide), fun _ => ⟨zI_in' (by omega) (by omega), fun e2 => ?_, fun e2 => ⟨zI_in' (by omega) (by omega), fun e3 => ?_, fun e3 => ?_⟩⟩⟩, fun e1 => ⟨fun _ => ?_, fun q => absurd trivial q⟩⟩
    · rw [show sWeek G x y k = false by simp only [sWeek, e1, Int32.not_lt.mpr e2]; simp] at hI
      exact next (by omega) hI
    · rw [show sWeek G x y k = false by simp only [sWeek, e1, Int32.not_lt.mpr e3]; simp] at hI
      exact next (by omega) hI
    · rw [show sWeek G x y k = true by simp only [sWeek, e1, Int32.not_le.mp e2, Int32.not_le.mp e3]; simp] at hI
      exact hI
    · rw [show sWeek G x y k = false by simp [sWeek, e1]] at hI
      exact next (by omega) hI
/-! units -/
def sGrid (G : MG) (k : Nat) (from_ to : Int32) (b : Nat) (g : Nat → Int32) : Nat → Int32 :=
  let x := imax from_ (gB G b 10 - G 1 (44 + k))
  let y := imin to (sEnd G b + G 1 (44 + k))
  if decide (x < y) && sCounts G b then
    let g1 := upd g (cn ((x - from_) / 15)) (g (cn ((x - from_) / 15)) + gB G b (3 + k))
    upd g1 (cn ((y - from_) / 15)) (g1 (cn ((y - from_) / 15)) - gB G b (3 + k))
  else g
def sScan (g : Nat → Int32) (many : Nat) : Int32 := (zf (fun j (p : Int32 × Int32) => (imax p.1 (p.2 + g j), p.2 + g j)) 0 many (0, 0)).1
def sPeak (G : MG) (k : Nat) (from_ to : Int32) : Int32 := sScan (zf (sGrid G k from_ to) 0 (cn (G 8 1)) (fun _ => 0)) (cn ((to - from_) / 15))

/-- bounds of a question for units -/
def zSpan (x y : Int32) : Prop := -1000 ≤ x.toInt ∧ x.toInt ≤ y.toInt ∧ y.toInt ≤ x.toInt + 1920 ∧ y.toInt ≤ 200000
theorem z_span {x y i : Int32} (h : zSpan x y) (h1 : x.toInt ≤ i.toInt) (h2 : i.toInt ≤ y.toInt) : ((i - x) / 15).toInt = (i.toInt - x.toInt) / 15 ∧ cn ((i - x) / 15) ≤ cn ((y - x) / 15) ∧ cn ((y - x) / 15) < 129 ∧ vp_in ((i - x) / 15) 129 := by
  obtain ⟨a1, a2, a3, a4⟩ := h
  have e1 : (i - x).toInt = i.toInt - x.toInt := z_sub (by omega) (by omega)
  have e2 : (y - x).toInt = y.toInt - x.toInt := z_sub (by omega) (by omega)
  have d1 : ((i - x) / 15).toInt = (i.toInt - x.toInt) / 15 := by
    rw [z_div (by omega) (by decide), e1]; rfl
  have d2 : ((y - x) / 15).toInt = (y.toInt - x.toInt) / 15 := by
    rw [z_div (by omega) (by decide), e2]; rfl
  have c1 : cn ((i - x) / 15) = ((i - x) / 15).toInt.toNat := rfl
  have c2 : cn ((y - x) / 15) = ((y - x) / 15).toInt.toNat := rfl
  refine ⟨d1, ?_, ?_, z_in' ?_ ?_⟩ <;> omega
/-- where a booking's units lie -/
theorem z_xy {x y p q : Int32} (h : zSpan x y) (hp : -1000 ≤ p.toInt) (hq : q.toInt ≤ 200000) (hlt : imax x p < imin y q) : x.toInt ≤ (imax x p).toInt ∧ (imax x p).toInt ≤ y.toInt ∧ x.toInt ≤ (imin y q).toInt ∧ (imin y q).toInt ≤ y.toInt := by
  rw [z_lt, z_max, z_min] at hlt
  rw [z_max, z_min]
  omega
theorem zf_keep {α : Type} {f : Nat → α → α} {P : α → Prop} {k d : Nat} {a : α} (h0 : P a) (hs : ∀ j a, k ≤ j → j < k + d → P a → P (f j a)) : P (zf f k d a) := by
  induction d generalizing k a with
  | zero => exact h0
  | succ d ih => exact ih (hs k a (by omega) (by omega) h0) (fun j a h1 h2 => hs j a (by omega) (by omega))
theorem sScan_congr {g g' : Nat → Int32} {n : Nat} (h : ∀ i, i < n → g i = g' i) : sScan g n = sScan g' n := by
  unfold sScan
  rw [zf_congr (g := fun j (p : Int32 × Int32) => (imax p.1 (p.2 + g' j), p.2 + g' j)) 0 n (0, 0) (fun j b _ h2 => by rw [h j (by omega)])]
theorem sScan_go {g : Nat → Int32} {L : Nat → Int32 → Int32 → Int32 → Prop} {post : Int32 → Prop} {n : Nat} (hn : n < 2147483647) (step : ∀ m k a b, k ≤ n → (k = n → post a) → (k < n → L m (imax a (b + g k)) (b + g k) (nI k + 1)) → L (m + 1) a b (nI k)) (h : post (sScan g n)) : ∃ m, L m 0 0 0 := by
  have key : ∀ d k a b, k + d = n → post (zf (fun j (p : Int32 × Int32) => (imax p.1 (p.2 + g j), p.2 + g j)) k d (a, b)).1 → ∃ m, L m a b (nI k) := by
    intro d
    induction d with
    | zero => exact fun k a b e hp => ⟨1, step 0 k a b (by omega) (fun _ => hp) (fun h => by omega)⟩
    | succ d ih =>
      intro k a b e hp
      obtain ⟨m, hm⟩ := ih (k + 1) _ _ (by omega) hp
      refine ⟨m + 1, step m k a b (by omega) (fun h => by omega) (fun _ => ?_)⟩
      rw [zI_1, zI_add]; exact hm
  exact key n 0 0 0 (by omega) h
theorem gB_mg {G : MG} {h : Nat → Int32} {b w : Nat} : gB (mg G 20 h) b w = gB G b w := rfl
theorem m_peakBy {post : Int32 → MF → MG → Prop} {F : MF} {G : MG} {k : Nat} {x y : Int32} (hF : zFx (G 1)) (hN : zNw (G 1) (G 8)) (hk : k < cn (G 1 2)) (hS : zSpan x y) (h : ∀ g, post (sPeak G k x y) F (mg G 20 g)) : wM_peakBy post (nI k) x y F G := by
  unfold wM_peakBy
  rintro _ rfl
  have lk := cn_le (n := 6) hF.k.2
  have lb := cn_le (n := 60) hN.b.2
  have a1 : (44 : Int32) + nI k = nI (44 + k) := zI_add 44 k
  rw [a1, zI_nat (by omega)]
  refine ⟨zI_in' (by omega) (by omega), ?_⟩
  rintro _ rfl
  obtain ⟨s1, s2, s3, s4⟩ := z_span hS hS.2.1 (Int.le_refl _)
  have sN : ((y - x) / 15) = nI (cn ((y - x) / 15)) := cn_nI (z_in.mp s4).1
  have hle := hF.le k hk
  -- the scan
  have scan : ∀ g, (∀ i, i ≤ cn ((y - x) / 15) → g i = zf (sGrid G k x y) 0 (cn (G 8 1)) (fun _ => 0) i) → ∃ n, wM_peakBy_l168 post n ((y - x) / 15) 0 0 0 F (mg G 20 g) := by
    intro g hg
    refine sScan_go (g := g) (n := cn ((y - x) / 15)) (L := fun m a b c => wM_peakBy_l168 post m ((y - x) / 15) a b c F (mg G 20 g)) (post := fun r => post r F (mg G 20 g)) (by omega) ?_ ?_
    · intro m j a b hj p1 p2
      simp only [wM_peakBy_l168, wM_peakBy_b168]
      rw [sN, zI_le (by omega) (by omega), zI_nat (show j < 2147483648 by omega), ← sN]
      refine ⟨fun e => p1 (by omega), fun e => ⟨zI_in' (by omega) (by omega), ?_⟩⟩
      rintro _ rfl _ rfl
      simp only [mg_eq]
      exact p2 (by omega)
    · rw [sScan_congr (g' := zf (sGrid G k x y) 0 (cn (G 8 1)) (fun _ => 0)) (fun i hi => hg i (by omega))]
      exact h g
  -- the bookings
  have book : ∀ g, (∀ i, i ≤ cn ((y - x) / 15) → g i = 0) → ∃ n, wM_peakBy_l46 post n (nI k) x y ((y - x) / 15) (G 1 (44 + k)) 0 F (mg G 20 g) := by
    intro g0 hg0
    refine zloop (σ := Nat × (Nat → Int32)) (fun m s => wM_peakBy_l46 post m (nI k) x y ((y - x) / 15) (G 1 (44 + k)) (nI s.1) F (mg G 20 s.2)) (fun s => s.1 ≤ cn (G 8 1) ∧ ∀ i, i ≤ cn ((y - x) / 15) → s.2 i = zf (sGrid G k x y) 0 s.1 (fun _ => 0) i) (fun s => cn (G 8 1) - s.1) ?_ (0, g0) ⟨Nat.zero_le _, hg0⟩
    rintro m ⟨j, g⟩ ⟨hj, hg⟩ next
    dsimp only at hj hg next ⊢
    have nx : ∀ g', (∀ i, i ≤ cn ((y - x) / 15) → g' i = zf (sGrid G k x y) 0 (j + 1) (fun _ => 0) i) → j < cn (G 8 1) → wM_peakBy_l46 post m (nI k) x y ((y - x) / 15) (G 1 (44 + k)) (nI j + 1) F (mg G 20 g') := fun g' hg' hlt => by rw [zI_1, zI_add]; exact next (j + 1, g') ⟨by dsimp only; omega, hg'⟩ (by dsimp only; omega)
    simp only [wM_peakBy_l46, wM_peakBy_b46]
    have eb : mg G 20 g 8 1 = nI (cn (G 8 1)) := cn_nI hN.b.1
    rw [eb, zI_le (by omega) (by omega)]
    refine ⟨fun e => ?_, fun e => ?_⟩
    · have : j = cn (G 8 1) := by omega
      subst this
      exact scan g hg
    · refine m_of (w := 10) (by omega) (by decide) ?_
      rintro _ rfl
      refine m_endOf (by omega) ?_
      rintro _ rfl
      obtain ⟨hs1, hs2, -⟩ : zSt (gB G j 10) := hN.bs j (by omega)
      obtain ⟨hd1, hd2, -⟩ : 15 ≤ (gB G j 2).toInt ∧ (gB G j 2).toInt ≤ 1440 ∧ (gB G j 2).toInt % 15 = 0 := (hN.be j (by omega)).du
      obtain ⟨hl1, hl2, -⟩ := hle
      have q1 : (gB G j 10 - G 1 (44 + k)).toInt = (gB G j 10).toInt - (G 1 (44 + k)).toInt := z_sub (by omega) (by omega)
      have q2 : (sEnd G j).toInt = (gB G j 10).toInt + (gB G j 2).toInt := z_add (by omega) (by omega)
      have q3 : (sEnd G j + G 1 (44 + k)).toInt = (gB G j 10).toInt + (gB G j 2).toInt + (G 1 (44 + k)).toInt := by
        rw [z_add (by omega) (by omega), q2]
      have key : ∀ i, zf (sGrid G k x y) 0 (j + 1) (fun _ => 0) i = sGrid G k x y j (zf (sGrid G k x y) 0 j (fun _ => 0)) i := by
        intro i; rw [zf_succ]; simp
      refine ⟨fun e1 => nx g (fun i hi => ?_) (by omega), fun e1 => m_counts (by omega) ⟨fun e2 => nx g (fun i hi => ?_) (by omega), fun e2 => ?_⟩⟩
      · rw [key, hg i hi]
        have e1' : ¬ imax x (gB G j 10 - G 1 (44 + k)) < imin y (sEnd G j + G 1 (44 + k)) := Int32.not_lt.mpr e1
        simp only [sGrid, e1', decide_false, Bool.false_and]
        rfl
      · rw [key, hg i hi]
        have e2' : sCounts G j = false := (bI_0 _).mp e2
        simp only [sGrid, e2', Bool.and_false]
        rfl
      · have e1' : imax x (gB G j 10 - G 1 (44 + k)) < imin y (sEnd G j + G 1 (44 + k)) := Int32.not_le.mp e1
        have e2' : sCounts G j = true := by
          simp only [bI_0, Bool.not_eq_false] at e2
          exact e2
        obtain ⟨b1, b2, b3, b4⟩ := z_xy hS (by rw [q1]; omega) (by rw [q3]; omega) e1'
        obtain ⟨-, c1, -, c2⟩ := z_span hS b1 b2
        obtain ⟨-, c3, -, c4⟩ := z_span hS b3 b4
        have n3 : (3 : Int32) + nI k = nI (3 + k) := zI_add 3 k
        rw [n3]
        refine ⟨c2, m_of (w := 3 + k) (by omega) (by omega) ⟨c2, ?_⟩⟩
        rintro _ rfl
        refine ⟨c4, m_of (w := 3 + k) (by omega) (by omega) ⟨c4, ?_⟩⟩
        rintro _ rfl
        rw [mu_mg, mu_mg]
        refine nx _ (fun i hi => ?_) (by omega)
        rw [key]
        simp only [sGrid, e1', e2', decide_true, Bool.and_true, if_true, mg_eq]
        have d1 : g (cn ((imax x (gB G j 10 - G 1 (44 + k)) - x) / 15)) = _ := hg _ c1
        have d3 : g (cn ((imin y (sEnd G j + G 1 (44 + k)) - x) / 15)) = _ := hg _ c3
        show upd (upd g (cn ((imax x (gB G j 10 - G 1 (44 + k)) - x) / 15)) (g (cn ((imax x (gB G j 10 - G 1 (44 + k)) - x) / 15)) + gB G j (3 + k))) (cn ((imin y (sEnd G j + G 1 (44 + k)) - x) / 15)) (upd g (cn ((imax x (gB G j 10 - G 1 (44 + k)) - x) / 15)) (g (cn ((imax x (gB G j 10 - G 1 (44 + k)) - x) / 15)) + gB G j (3 + k)) (cn ((imin y (sEnd G j + G 1 (44 + k)) - x) / 15)) - gB G j (3 + k)) i = _
        simp only [upd, d1, d3, hg i hi]
  refine zloop (σ := Nat × (Nat → Int32)) (fun m s => wM_peakBy_l22 post m (nI k) x y ((y - x) / 15) (G 1 (44 + k)) (nI s.1) F (mg G 20 s.2)) (fun s => s.1 ≤ cn ((y - x) / 15) + 1 ∧ ∀ i, i < s.1 → s.2 i = 0) (fun s => cn ((y - x) / 15) + 1 - s.1) ?_ (0, G 20) ⟨Nat.zero_le _, fun i hi => absurd hi (Nat.not_lt_zero _)⟩ |> fun ⟨m, hm⟩ => ⟨m, by rw [mg_self] at hm; exact hm⟩
  rintro m ⟨j, g⟩ ⟨hj, hg⟩ next
  dsimp only at hj hg next ⊢
  simp only [wM_peakBy_l22, wM_peakBy_b22]
  rw [sN, zI_lt (by omega) (by omega), zI_nat (show j < 2147483648 by omega), ← sN]
  refine ⟨fun e => book g (fun i hi => hg i (by omega)), fun e => ⟨zI_in' (by omega) (by omega), ?_⟩⟩
  rintro _ rfl
  rw [mu_mg, zI_1, zI_add]
  refine next (j + 1, upd g j 0) ⟨by omega, fun i hi => ?_⟩ (by dsimp only; omega)
  simp only [upd]
  split
  · rfl
  · exact hg i (by omega)
