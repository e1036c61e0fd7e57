/-! PLAIN LAWS, l0: numbers, loops -/
theorem zI_toInt {n : Nat} (h : n < 2147483648) : (nI n).toInt = (n : Int) := Int32.toInt_ofNat_of_lt (by simpa using h)
theorem zI_nat {n : Nat} (h : n < 2147483648) : (nI n).toNatClampNeg = n := by
  have := zI_toInt h
  show (nI n).toInt.toNat = n
  omega
theorem zI_add (a b : Nat) : nI a + nI b = nI (a + b) := (Int32.ofNat_add a b).symm
theorem zI_mul (a b : Nat) : nI a * nI b = nI (a * b) := (Int32.ofNat_mul a b).symm
theorem zI_lit (a : Nat) : (OfNat.ofNat a : Int32) = nI a := rfl
theorem zI_0 : (0 : Int32) = nI 0 := rfl
theorem zI_1 : (1 : Int32) = nI 1 := rfl
theorem zI_addL (a k : Nat) : (OfNat.ofNat a : Int32) + nI k = nI (a + k) := zI_add a k
theorem zI_addR (a k : Nat) : nI k + (OfNat.ofNat a : Int32) = nI (k + a) := zI_add k a
theorem zI_mulL (a k : Nat) : (OfNat.ofNat a : Int32) * nI k = nI (a * k) := zI_mul a k
theorem zI_mulR (a k : Nat) : nI k * (OfNat.ofNat a : Int32) = nI (k * a) := zI_mul k a
theorem zI_lt {a b : Nat} (ha : a < 2147483648) (hb : b < 2147483648) : nI a < nI b ↔ a < b := by
  rw [Int32.lt_iff_toInt_lt, zI_toInt ha, zI_toInt hb]; omega
theorem zI_le {a b : Nat} (ha : a < 2147483648) (hb : b < 2147483648) : nI a ≤ nI b ↔ a ≤ b := by
  rw [Int32.le_iff_toInt_le, zI_toInt ha, zI_toInt hb]; omega
theorem zI_inj {a b : Nat} (ha : a < 2147483648) (hb : b < 2147483648) : nI a = nI b ↔ a = b := by
  rw [← Int32.toInt_inj, zI_toInt ha, zI_toInt hb]; omega
theorem zI_in {a n : Nat} (ha : a < 2147483648) : vp_in (nI a) n ↔ a < n := by
  unfold vp_in
  rw [zI_nat ha, zI_0, zI_lt ha (by decide)]; omega
theorem zI_in' {a n : Nat} (ha : a < 2147483648) (h : a < n) : vp_in (nI a) n := (zI_in ha).mpr h
theorem zI_sub {a b : Nat} (h : b ≤ a) : nI a - nI b = nI (a - b) := by
  have := zI_add (a - b) b
  rw [Nat.sub_add_cancel h] at this
  rw [← this]
  simp
theorem zI_subR {a b : Nat} (h : b ≤ a) : nI a - (OfNat.ofNat b : Int32) = nI (a - b) := zI_sub h
/-- a whole number that lies at nought or above -/
theorem zI_of {i : Int32} (h : 0 ≤ i.toInt) : i = nI i.toNatClampNeg := by
  have e : i.toNatClampNeg = i.toInt.toNat := rfl
  have hl := i.toInt_lt
  rw [← Int32.toInt_inj, zI_toInt (by rw [e]; omega), e]
  omega
theorem z_in {i : Int32} {n : Nat} : vp_in i n ↔ 0 ≤ i.toInt ∧ i.toInt < n := by
  unfold vp_in
  have e : i.toNatClampNeg = i.toInt.toNat := rfl
  rw [e, Int32.lt_iff_toInt_lt]
  simp
  omega
theorem z_in' {i : Int32} {n : Nat} (h1 : 0 ≤ i.toInt) (h2 : i.toInt < n) : vp_in i n := z_in.mpr ⟨h1, h2⟩
theorem z_add {a b : Int32} (h1 : -2147483648 ≤ a.toInt + b.toInt) (h2 : a.toInt + b.toInt < 2147483648) : (a + b).toInt = a.toInt + b.toInt := by
  rw [Int32.toInt_add]; simp only [Int.bmod_def]; omega
theorem z_sub {a b : Int32} (h1 : -2147483648 ≤ a.toInt - b.toInt) (h2 : a.toInt - b.toInt < 2147483648) : (a - b).toInt = a.toInt - b.toInt := by
  rw [Int32.toInt_sub]; simp only [Int.bmod_def]; omega
theorem z_mul {a b : Int32} (h1 : -2147483648 ≤ a.toInt * b.toInt) (h2 : a.toInt * b.toInt < 2147483648) : (a * b).toInt = a.toInt * b.toInt := by
  rw [Int32.toInt_mul]; generalize a.toInt * b.toInt = x at *; simp only [Int.bmod_def]; omega
theorem z_div {a b : Int32} (h1 : 0 ≤ a.toInt) (h2 : 0 < b.toInt) : (a / b).toInt = a.toInt / b.toInt := by
  rw [Int32.toInt_div, Int.tdiv_eq_ediv_of_nonneg h1]
  have h3 : a.toInt / b.toInt ≤ a.toInt := Int.ediv_le_self _ h1
  have h4 : 0 ≤ a.toInt / b.toInt := Int.ediv_nonneg h1 (by omega)
  have := a.toInt_lt
  generalize a.toInt / b.toInt = x at *
  simp only [Int.bmod_def]; omega
theorem z_lt (a b : Int32) : a < b ↔ a.toInt < b.toInt := Int32.lt_iff_toInt_lt
theorem z_le (a b : Int32) : a ≤ b ↔ a.toInt ≤ b.toInt := Int32.le_iff_toInt_le
theorem z_eq (a b : Int32) : a = b ↔ a.toInt = b.toInt := Int32.toInt_inj.symm
theorem z_max (a b : Int32) : (imax a b).toInt = max a.toInt b.toInt := by
  unfold imax; split <;> simp_all only [z_lt] <;> omega
theorem z_min (a b : Int32) : (imin a b).toInt = min a.toInt b.toInt := by
  unfold imin; split <;> simp_all only [z_lt] <;> omega
/-- a truth as a number -/
def bI (b : Bool) : Int32 := if b = true then 1 else 0
theorem bI_0 (b : Bool) : bI b = 0 ↔ b = false := by cases b <;> decide
theorem bI_1 (b : Bool) : bI b = 1 ↔ b = true := by cases b <;> decide
theorem bI_01 (b : Bool) : bI b = 0 ∨ bI b = 1 := by cases b <;> decide
/-- a loop ends: each turn keeps Inv and lessens μ -/
theorem zloop {σ : Type} (L : Nat → σ → Prop) (Inv : σ → Prop) (μ : σ → Nat) (step : ∀ n s, Inv s → (∀ s', Inv s' → μ s' < μ s → L n s') → L (n + 1) s) (s : σ) (h : Inv s) : ∃ n, L n s := by
  have key : ∀ m s, Inv s → μ s < m → L m s := by
    intro m
    induction m with
    | zero => intro s _ h; omega
    | succ m ih => intro s hs hm; exact step m s hs (fun s' h1 h2 => ih s' h1 (by omega))
  exact ⟨_, key _ s h (Nat.lt_succ_self _)⟩
/-- a loop that counts up from k to n -/
theorem zup {L : Nat → Int32 → Prop} (n : Nat) (hn : n < 2147483647) (Inv : Nat → Prop) (step : ∀ m k, k ≤ n → Inv k → (k < n → Inv (k + 1) → L m (nI k + 1)) → L (m + 1) (nI k)) (k : Nat) (hk : k ≤ n) (h : Inv k) : ∃ m, L m (nI k) := by
  have key : ∀ m k, k ≤ n → n - k < m → Inv k → L m (nI k) := by
    intro m
    induction m with
    | zero => intro k _ h; omega
    | succ m ih => intro k hk hm hI; exact step m k hk hI (fun h1 h2 => by rw [zI_1, zI_add]; exact ih (k + 1) (by omega) (by omega) h2)
  exact ⟨_, key _ k hk (Nat.lt_succ_self _) h⟩
/-- a loop's value: d turns from k on -/
def zf {α : Type} (f : Nat → α → α) : Nat → Nat → α → α
  | _, 0, a => a
  | k, d + 1, a => zf f (k + 1) d (f k a)
/-- whether one of d turns from k on is so -/
def zany (f : Nat → Bool) : Nat → Nat → Bool
  | _, 0 => false
  | k, d + 1 => f k || zany f (k + 1) d
theorem zany_iff (f : Nat → Bool) (k d : Nat) : zany f k d = true ↔ ∃ j, k ≤ j ∧ j < k + d ∧ f j = true := by
  induction d generalizing k with
  | zero => simp [zany]; intro j h1 h2; omega
  | succ d ih =>
    simp only [zany, Bool.or_eq_true, ih]
    constructor
    · rintro (h | ⟨j, h1, h2, h3⟩)
      · exact ⟨k, by omega, by omega, h⟩
      · exact ⟨j, by omega, by omega, h3⟩
    · rintro ⟨j, h1, h2, h3⟩
      by_cases e : j = k
      · subst e; exact .inl h3
      · exact .inr ⟨j, by omega, by omega, h3⟩
theorem zf_congr {α : Type} {f g : Nat → α → α} (k d : Nat) (a : α) (h : ∀ j b, k ≤ j → j < k + d → f j b = g j b) : zf f k d a = zf g k d a := by
  induction d generalizing k a with
  | zero => rfl
  | succ d ih => simp only [zf]; rw [h k a (by omega) (by omega)]; exact ih _ _ (fun j b h1 h2 => h j b (by omega) (by omega))
theorem zany_congr {f g : Nat → Bool} (k d : Nat) (h : ∀ j, k ≤ j → j < k + d → f j = g j) : zany f k d = zany g k d := by
  induction d generalizing k with
  | zero => rfl
  | succ d ih => simp only [zany]; rw [h k (by omega) (by omega), ih _ (fun j h1 h2 => h j (by omega) (by omega))]
theorem zf_succ {α : Type} (f : Nat → α → α) (k d : Nat) (a : α) : zf f k (d + 1) a = f (k + d) (zf f k d a) := by
  induction d generalizing k a with
  | zero => simp [zf]
  | succ d ih => rw [zf, ih, zf]; congr 1; omega
