/-! PLAIN LAWS, y4: the most that is in use: by steps, or where bookings begin -/
/-- sums of a row up to a place -/
def sPre (g : Nat → Int32) (n : Nat) : Int32 := zf (fun j a => a + g j) 0 n 0
theorem sPre_succ (g : Nat → Int32) (n : Nat) : sPre g (n + 1) = sPre g n + g n := by
  unfold sPre; rw [zf_succ]; simp
theorem sPre_upd (g : Nat → Int32) (i : Nat) (x : Int32) (n : Nat) : sPre (upd g i (g i + x)) n = sPre g n + (if i < n then x else 0) := by
  induction n with
  | zero => simp [sPre, zf]
  | succ n ih =>
    rw [sPre_succ, sPre_succ, ih]
    by_cases e : n = i
    · subst e
      simp only [upd, if_true, Nat.lt_irrefl, if_false, Nat.lt_succ_self]
      rw [Int32.add_zero, Int32.add_assoc]
    · simp only [upd, if_neg e]
      by_cases h : i < n
      · rw [if_pos h, if_pos (by omega), Int32.add_assoc, Int32.add_comm x, ← Int32.add_assoc]
      · rw [if_neg h, if_neg (by omega), Int32.add_zero, Int32.add_zero]
theorem sPre_updS (g : Nat → Int32) (i : Nat) (x : Int32) (n : Nat) : sPre (upd g i (g i - x)) n = sPre g n + (if i < n then -x else 0) := by
  rw [Int32.sub_eq_add_neg, sPre_upd]
theorem sScan_is (g : Nat → Int32) (n : Nat) : (∀ j, j < n → sPre g (j + 1) ≤ sScan g n) ∧ 0 ≤ sScan g n ∧ (sScan g n = 0 ∨ ∃ j, j < n ∧ sScan g n = sPre g (j + 1)) := by
  have key := zf_inv (f := fun j (p : Int32 × Int32) => (imax p.1 (p.2 + g j), p.2 + g j)) (fun k p => p.2 = sPre g k ∧ (∀ j, j < k → sPre g (j + 1) ≤ p.1) ∧ 0 ≤ p.1 ∧ (p.1 = 0 ∨ ∃ j, j < k ∧ p.1 = sPre g (j + 1))) (n := n) (a := (0, 0)) ⟨rfl, fun j h => absurd h (Nat.not_lt_zero _), by decide, .inl rfl⟩ ?_
  · exact key.2
  · rintro k ⟨a, b⟩ hk ⟨h1, h2, h3, h4⟩
    dsimp only at h1 h2 h3 h4 ⊢
    have e : b + g k = sPre g (k + 1) := by rw [sPre_succ, h1]
    rw [e]
    refine ⟨rfl, fun j hj => ?_, ?_, ?_⟩
    · by_cases q : j = k
      · rw [q, z_le, z_max]; omega
      · have := h2 j (by omega)
        rw [z_le] at *; rw [z_max]; omega
    · rw [z_le] at *; rw [z_max]; omega
    · unfold imax
      split
      · exact .inr ⟨k, by omega, rfl⟩
      · rcases h4 with h4 | ⟨j, j1, j2⟩
        · exact .inl h4
        · exact .inr ⟨j, by omega, j2⟩
/-- what is in use, of the first bookings -/
def sUseN (G : MG) (k : Nat) (m : Int32) (n : Nat) : Int32 := zf (sUse G k m) 0 n 0
theorem sUseN_0 (G : MG) (k : Nat) (m : Int32) : sUseN G k m 0 = 0 := rfl
theorem sUseN_succ (G : MG) (k : Nat) (m : Int32) (n : Nat) : sUseN G k m (n + 1) = sUse G k m n (sUseN G k m n) := by
  unfold sUseN; rw [zf_succ]; simp
/-- a booking's units at a minute -/
def sOne (G : MG) (k : Nat) (m : Int32) (b : Nat) : Bool := sCounts G b && !decide (m < gB G b 10 - G 1 (44 + k)) && decide (m < sEnd G b + G 1 (44 + k))
theorem sUse_eq (G : MG) (k : Nat) (m : Int32) (b : Nat) (a : Int32) : sUse G k m b a = a + (if sOne G k m b then gB G b (3 + k) else 0) := rfl
/-- numbers of a booking -/
theorem z_bk {G : MG} {k b : Nat} (hF : zFx (G 1)) (hN : zNw (G 1) (G 8)) (hk : k < cn (G 1 2)) (hb : b < cn (G 8 1)) :
    (gB G b 10 - G 1 (44 + k)).toInt = (gB G b 10).toInt - (G 1 (44 + k)).toInt ∧ (sEnd G b + G 1 (44 + k)).toInt = (gB G b 10).toInt + (gB G b 2).toInt + (G 1 (44 + k)).toInt ∧ 0 ≤ (gB G b 10).toInt ∧ (gB G b 10).toInt ≤ 86385 ∧ 15 ≤ (gB G b 2).toInt ∧ (gB G b 2).toInt ≤ 1440 ∧ 0 ≤ (G 1 (44 + k)).toInt ∧ (G 1 (44 + k)).toInt ≤ 240 ∧ (gB G b 10).toInt % 15 = 0 ∧ (gB G b 2).toInt % 15 = 0 ∧ (G 1 (44 + k)).toInt % 15 = 0 := by
  obtain ⟨hs1, hs2, hs3⟩ : zSt (gB G b 10) := hN.bs b hb
  obtain ⟨hd1, hd2, hd3⟩ : 15 ≤ (gB G b 2).toInt ∧ (gB G b 2).toInt ≤ 1440 ∧ (gB G b 2).toInt % 15 = 0 := (hN.be b hb).du
  obtain ⟨hl1, hl2, hl3⟩ := hF.le k hk
  have q1 : (gB G b 10 - G 1 (44 + k)).toInt = (gB G b 10).toInt - (G 1 (44 + k)).toInt := z_sub (by omega) (by omega)
  have q2 : (sEnd G b).toInt = (gB G b 10).toInt + (gB G b 2).toInt := z_add (by omega) (by omega)
  have q3 : (sEnd G b + G 1 (44 + k)).toInt = (gB G b 10).toInt + (gB G b 2).toInt + (G 1 (44 + k)).toInt := by
    rw [z_add (by omega) (by omega), q2]
  exact ⟨q1, q3, hs1, hs2, hd1, hd2, hl1, hl2, hs3, hd3, hl3⟩
theorem sOne_iff {G : MG} {k b : Nat} {m : Int32} (hF : zFx (G 1)) (hN : zNw (G 1) (G 8)) (hk : k < cn (G 1 2)) (hb : b < cn (G 8 1)) : sOne G k m b = true ↔ sCounts G b = true ∧ (gB G b 10).toInt - (G 1 (44 + k)).toInt ≤ m.toInt ∧ m.toInt < (gB G b 10).toInt + (gB G b 2).toInt + (G 1 (44 + k)).toInt := by
  obtain ⟨q1, q3, -⟩ := z_bk hF hN hk hb
  simp only [sOne, Bool.and_eq_true, Bool.not_eq_true', decide_eq_false_iff_not, decide_eq_true_eq, z_lt, q1, q3]
  exact ⟨fun ⟨⟨a, b⟩, c⟩ => ⟨a, by omega, c⟩, fun ⟨a, b, c⟩ => ⟨⟨a, by omega⟩, c⟩⟩
/-- the sums of the grid are what is in use -/
theorem sGrid_pre {G : MG} {k : Nat} {x y m : Int32} {j : Nat} (hF : zFx (G 1)) (hN : zNw (G 1) (G 8)) (hk : k < cn (G 1 2)) (hS : zSpan x y) (hx : x.toInt % 15 = 0) (hy : y.toInt % 15 = 0) (hm : m.toInt = x.toInt + 15 * j) (hj : m.toInt < y.toInt) (n : Nat) (hn : n ≤ cn (G 8 1)) :
    sPre (zf (sGrid G k x y) 0 n (fun _ => 0)) (j + 1) = sUseN G k m n := by
  induction n with
  | zero =>
    show sPre (fun _ => 0) (j + 1) = 0
    unfold sPre
    exact zf_keep (P := fun a => a = 0) rfl (fun i a _ _ h => by rw [h]; exact Int32.add_zero 0)
  | succ n ih =>
    have ih := ih (by omega)
    rw [zf_succ, sUseN_succ, sUse_eq, Nat.zero_add]
    generalize zf (sGrid G k x y) 0 n (fun _ => 0) = g at *
    obtain ⟨q1, q3, s1, s2, d1, d2, l1, l2, s3, d3, l3⟩ := z_bk hF hN hk (show n < cn (G 8 1) by omega)
    have on := sOne_iff (m := m) hF hN hk (show n < cn (G 8 1) by omega)
    unfold sGrid
    dsimp only
    by_cases hc : sCounts G n = true
    · by_cases hlt : imax x (gB G n 10 - G 1 (44 + k)) < imin y (sEnd G n + G 1 (44 + k))
      · rw [hc, if_pos (by simp [hlt])]
        obtain ⟨c1, c2, c3, c4⟩ := z_xy hS (by rw [q1]; omega) (by rw [q3]; omega) hlt
        obtain ⟨t1, -, -, v1⟩ := z_span hS c1 c2
        obtain ⟨t3, -, -, v3⟩ := z_span hS c3 c4
        have n1 : cn ((imax x (gB G n 10 - G 1 (44 + k)) - x) / 15) = ((imax x (gB G n 10 - G 1 (44 + k)) - x) / 15).toInt.toNat := rfl
        have n3 : cn ((imin y (sEnd G n + G 1 (44 + k)) - x) / 15) = ((imin y (sEnd G n + G 1 (44 + k)) - x) / 15).toInt.toNat := rfl
        rw [sPre_updS, sPre_upd, ih, Int32.add_assoc]
        congr 1
        rw [z_lt, z_max, z_min, q1, q3] at hlt
        rw [t1, z_max, q1] at n1
        rw [t3, z_min, q3] at n3
        by_cases i1 : (gB G n 10).toInt - (G 1 (44 + k)).toInt ≤ m.toInt
        · rw [if_pos (by omega)]
          by_cases i2 : m.toInt < (gB G n 10).toInt + (gB G n 2).toInt + (G 1 (44 + k)).toInt
          · rw [if_neg (by omega), on.mpr ⟨hc, i1, i2⟩, if_pos rfl, Int32.add_zero]
          · rw [if_pos (by omega), if_neg (fun z => i2 (on.mp z).2.2), ← Int32.sub_eq_add_neg, Int32.sub_self]
        · rw [if_neg (by omega), if_neg (by omega), if_neg (fun z => i1 (on.mp z).2.1)]
          decide
      · rw [if_neg (by simp [hlt]), ih]
        rw [z_lt, z_max, z_min, q1, q3] at hlt
        have : ¬ sOne G k m n = true := fun z => by
          have := (on.mp z).2
          omega
        rw [if_neg this, Int32.add_zero]
    · rw [if_neg (by simp [hc]), ih]
      have : ¬ sOne G k m n = true := fun z => hc (on.mp z).1
      rw [if_neg this, Int32.add_zero]
/-- in whole numbers -/
theorem sUseN_le {G : MG} {k : Nat} {m : Int32} (hN : zNw (G 1) (G 8)) (hk6 : k < 6) (n : Nat) (hn : n ≤ cn (G 8 1)) : 0 ≤ (sUseN G k m n).toInt ∧ (sUseN G k m n).toInt ≤ 50 * n ∧ ((sUseN G k m (n + 1)).toInt = (sUseN G k m n).toInt + (if sOne G k m n then (gB G n (3 + k)).toInt else 0) ∨ n = cn (G 8 1)) := by
  have lb := cn_le (n := 60) hN.b.2
  have step : ∀ n, n < cn (G 8 1) → 0 ≤ (sUseN G k m n).toInt → (sUseN G k m n).toInt ≤ 50 * n → (sUseN G k m (n + 1)).toInt = (sUseN G k m n).toInt + (if sOne G k m n then (gB G n (3 + k)).toInt else 0) := by
    intro n hn h1 h2
    have ne : 0 ≤ (gB G n (3 + k)).toInt ∧ (gB G n (3 + k)).toInt ≤ 50 := (hN.be n hn).ne k hk6
    rw [sUseN_succ, sUse_eq]
    split
    · rw [z_add (by omega) (by omega)]
    · rw [Int32.add_zero]; omega
  have base : ∀ n, n ≤ cn (G 8 1) → 0 ≤ (sUseN G k m n).toInt ∧ (sUseN G k m n).toInt ≤ 50 * n := by
    intro n
    induction n with
    | zero => intro _; rw [sUseN_0]; exact ⟨by decide, by decide⟩
    | succ n ih =>
      intro hn
      obtain ⟨h1, h2⟩ := ih (by omega)
      have ne : 0 ≤ (gB G n (3 + k)).toInt ∧ (gB G n (3 + k)).toInt ≤ 50 := (hN.be n (by omega)).ne k hk6
      rw [step n (by omega) h1 h2]
      split <;> omega
  obtain ⟨h1, h2⟩ := base n hn
  refine ⟨h1, h2, ?_⟩
  by_cases z : n = cn (G 8 1)
  · exact .inr z
  · exact .inl (step n (by omega) h1 h2)
theorem sUseN_mono {G : MG} {k : Nat} {m p : Int32} (hN : zNw (G 1) (G 8)) (hk6 : k < 6) (h : ∀ b, b < cn (G 8 1) → sOne G k m b = true → sOne G k p b = true) (n : Nat) (hn : n ≤ cn (G 8 1)) : (sUseN G k m n).toInt ≤ (sUseN G k p n).toInt := by
  induction n with
  | zero => rw [sUseN_0, sUseN_0]; exact Int.le_refl _
  | succ n ih =>
    have ih := ih (by omega)
    have ne : 0 ≤ (gB G n (3 + k)).toInt ∧ (gB G n (3 + k)).toInt ≤ 50 := (hN.be n (by omega)).ne k hk6
    have a := (sUseN_le (m := m) hN hk6 n (by omega)).2.2.resolve_right (by omega)
    have b := (sUseN_le (m := p) hN hk6 n (by omega)).2.2.resolve_right (by omega)
    rw [a, b]
    by_cases z : sOne G k m n = true
    · rw [if_pos z, if_pos (h n (by omega) z)]; omega
    · rw [if_neg z]
      split <;> omega
/-- the model's way: at the first minute and where bookings begin -/
def sPkS (G : MG) (k : Nat) (x y : Int32) (b : Nat) (a : Int32) : Int32 := if sCounts G b && decide (x < gB G b 10 - G 1 (44 + k)) && decide (gB G b 10 - G 1 (44 + k) < y) then imax a (sUseAt G k (gB G b 10 - G 1 (44 + k))) else a
def sPkIn (G : MG) (k : Nat) (x y : Int32) : Int32 := zf (sPkS G k x y) 0 (cn (G 8 1)) (sUseAt G k x)
theorem sPkIn_is (G : MG) (k : Nat) (x y : Int32) : sUseAt G k x ≤ sPkIn G k x y ∧ (∀ b, b < cn (G 8 1) → sCounts G b = true → x < gB G b 10 - G 1 (44 + k) → gB G b 10 - G 1 (44 + k) < y → sUseAt G k (gB G b 10 - G 1 (44 + k)) ≤ sPkIn G k x y) ∧ (sPkIn G k x y = sUseAt G k x ∨ ∃ b, b < cn (G 8 1) ∧ x < gB G b 10 - G 1 (44 + k) ∧ gB G b 10 - G 1 (44 + k) < y ∧ sPkIn G k x y = sUseAt G k (gB G b 10 - G 1 (44 + k))) := by
  refine zf_inv (f := sPkS G k x y) (fun n a => sUseAt G k x ≤ a ∧ (∀ b, b < n → sCounts G b = true → x < gB G b 10 - G 1 (44 + k) → gB G b 10 - G 1 (44 + k) < y → sUseAt G k (gB G b 10 - G 1 (44 + k)) ≤ a) ∧ (a = sUseAt G k x ∨ ∃ b, b < cn (G 8 1) ∧ x < gB G b 10 - G 1 (44 + k) ∧ gB G b 10 - G 1 (44 + k) < y ∧ a = sUseAt G k (gB G b 10 - G 1 (44 + k)))) ⟨Int32.le_refl _, fun b h => absurd h (Nat.not_lt_zero _), .inl rfl⟩ ?_
  rintro n a hn ⟨h1, h2, h3⟩
  unfold sPkS
  by_cases q : (sCounts G n && decide (x < gB G n 10 - G 1 (44 + k)) && decide (gB G n 10 - G 1 (44 + k) < y)) = true
  · rw [if_pos q]
    simp only [Bool.and_eq_true, decide_eq_true_eq] at q
    refine ⟨?_, fun b hb c1 c2 c3 => ?_, ?_⟩
    · rw [z_le] at *; rw [z_max]; omega
    · by_cases z : b = n
      · rw [z, z_le, z_max]; omega
      · have := h2 b (by omega) c1 c2 c3
        rw [z_le] at *; rw [z_max]; omega
    · unfold imax
      split
      · exact .inr ⟨n, hn, q.1.2, q.2, rfl⟩
      · exact h3
  · rw [if_neg q]
    refine ⟨h1, fun b hb c1 c2 c3 => ?_, h3⟩
    by_cases z : b = n
    · rw [z] at c1 c2 c3
      exact absurd (by simp [c1, c2, c3]) q
    · exact h2 b (by omega) c1 c2 c3
/-- the greatest begin up to a minute -/
theorem z_begin {n : Nat} (B : Nat → Int) (c : Nat → Prop) (x m : Int) (h : x ≤ m) : ∃ p, x ≤ p ∧ p ≤ m ∧ (p = x ∨ ∃ b, b < n ∧ c b ∧ p = B b ∧ x < p) ∧ ∀ b, b < n → c b → B b ≤ m → B b ≤ p := by
  classical
  induction n with
  | zero => exact ⟨x, Int.le_refl _, h, .inl rfl, fun b hb => absurd hb (Nat.not_lt_zero _)⟩
  | succ n ih =>
    obtain ⟨p, p1, p2, p3, p4⟩ := ih
    by_cases q : c n ∧ B n ≤ m ∧ p < B n
    · refine ⟨B n, by omega, q.2.1, .inr ⟨n, by omega, q.1, rfl, by omega⟩, fun b hb cb hm => ?_⟩
      by_cases z : b = n
      · rw [z]; exact Int.le_refl _
      · have := p4 b (by omega) cb hm; omega
    · refine ⟨p, p1, p2, p3.imp id (fun ⟨b, b1, b2⟩ => ⟨b, by omega, b2⟩), fun b hb cb hm => ?_⟩
      by_cases z : b = n
      · rw [z] at cb hm ⊢
        by_cases w : p < B n
        · exact absurd ⟨cb, hm, w⟩ q
        · omega
      · exact p4 b (by omega) cb hm
theorem sPeak_eq {G : MG} {k : Nat} {x y : Int32} (hF : zFx (G 1)) (hN : zNw (G 1) (G 8)) (hk : k < cn (G 1 2)) (hS : zSpan x y) (hx : x.toInt % 15 = 0) (hy : y.toInt % 15 = 0) (hlt : x.toInt < y.toInt) : sPeak G k x y = sPkIn G k x y := by
  have lk := cn_le (n := 6) hF.k.2
  have lb := cn_le (n := 60) hN.b.2
  obtain ⟨t1, t2, t3, t4⟩ := z_span hS hS.2.1 (Int.le_refl _)
  have cm : cn ((y - x) / 15) = ((y - x) / 15).toInt.toNat := rfl
  rw [t1] at cm
  obtain ⟨a1, a2, a3⟩ := sScan_is (zf (sGrid G k x y) 0 (cn (G 8 1)) (fun _ => 0)) (cn ((y - x) / 15))
  obtain ⟨b1, b2, b3⟩ := sPkIn_is G k x y
  have hS' := hS
  obtain ⟨z1, z2, z3, z4⟩ := hS'
  -- a grid's sum is the use at its minute
  have pre : ∀ (j : Nat) (m : Int32), m.toInt = x.toInt + 15 * j → m.toInt < y.toInt → sPre (zf (sGrid G k x y) 0 (cn (G 8 1)) (fun _ => 0)) (j + 1) = sUseAt G k m := fun j m h1 h2 => sGrid_pre hF hN hk hS hx hy h1 h2 (cn (G 8 1)) (Nat.le_refl _)
  refine Int32.le_antisymm ?_ ?_
  · -- by steps: no more than where bookings begin
    have use0 : ∀ m, 0 ≤ sUseAt G k m := fun m => by
      rw [z_le]; exact (sUseN_le hN (by omega) (cn (G 8 1)) (Nat.le_refl _)).1
    unfold sPeak
    rcases a3 with e | ⟨j, j1, e⟩
    · rw [e]; exact Int32.le_trans (use0 x) b1
    · rw [e]
      have mj : (nI (15 * j) + x).toInt = x.toInt + 15 * j := by
        rw [z_add] <;> rw [zI_toInt (by omega)] <;> omega
      rw [pre j (nI (15 * j) + x) mj (by omega)]
      obtain ⟨p, p1, p2, p3, p4⟩ := z_begin (n := cn (G 8 1)) (fun b => (gB G b 10).toInt - (G 1 (44 + k)).toInt) (fun b => sCounts G b = true) x.toInt (nI (15 * j) + x).toInt (by omega)
      have mono : ∀ p' : Int32, p'.toInt = p → sUseAt G k (nI (15 * j) + x) ≤ sUseAt G k p' := fun p' hp => by
        rw [z_le]
        refine sUseN_mono hN (by omega) (fun b hb on => ?_) (cn (G 8 1)) (Nat.le_refl _)
        rw [sOne_iff hF hN hk hb] at on ⊢
        have := p4 b hb on.1 on.2.1
        exact ⟨on.1, by omega, by omega⟩
      rcases p3 with q | ⟨b, q1, q2, q3, q4⟩
      · exact Int32.le_trans (mono x q.symm) b1
      · have u := (z_bk hF hN hk q1).1
        have mm := mono (gB G b 10 - G 1 (44 + k)) (by rw [u]; exact q3.symm)
        refine Int32.le_trans mm (b2 b q1 q2 ?_ ?_)
        · rw [z_lt, u]; omega
        · rw [z_lt, u]; omega
  · unfold sPeak
    rcases b3 with e | ⟨b, q1, q2, q3, e⟩
    · rw [e, ← pre 0 x (by omega) hlt]
      exact a1 0 (by omega)
    · obtain ⟨u, -, s1, s2, d1, d2, l1, l2, s3, d3, l3⟩ := z_bk hF hN hk q1
      rw [e]
      rw [z_lt, u] at q2 q3
      have := pre (((gB G b 10).toInt - (G 1 (44 + k)).toInt - x.toInt) / 15).toNat (gB G b 10 - G 1 (44 + k)) (by rw [u]; omega) (by rw [u]; omega)
      rw [← this]
      exact a1 _ (by omega)
