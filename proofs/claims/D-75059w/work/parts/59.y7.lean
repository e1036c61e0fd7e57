/-! PLAIN LAWS, y7: the row of past states -/
theorem x_inc {p u : Nat} {post : Int32 → Prop} {S : HS} (hp : p < 17) (hu : u = (p + 1) % 17) (h : post (nI u)) : wX_J3_inc post (nI p) (nI 17) S := by
  unfold wX_J3_inc
  rw [zI_1, zI_add, zI_lt (by omega) (by omega)]
  refine ⟨fun e => ?_, fun e => ?_⟩
  · rw [show u = p + 1 by omega] at h; exact h
  · rw [show u = 0 by omega] at h; exact h
theorem x_dec {p : Nat} {post : Int32 → Prop} {S : HS} (hp : p < 17) (h : post (nI ((p + 16) % 17))) : wX_J3_dec post (nI p) (nI 17) S := by
  unfold wX_J3_dec
  have e1 : (nI p + (-1 : Int32)).toInt = (p : Int) - 1 := by
    rw [z_add] <;> rw [zI_toInt (by omega)] <;> simp only [show (-1 : Int32).toInt = -1 from rfl] <;> omega
  refine ⟨fun e => ?_, fun e => ?_⟩
  · rw [z_le, e1] at e
    simp only [show (0 : Int32).toInt = 0 from rfl] at e
    have : nI p + (-1 : Int32) = nI ((p + 16) % 17) := by
      rw [← Int32.toInt_inj, e1, zI_toInt (by omega)]; omega
    rw [this]; exact h
  · rintro _ rfl
    rw [z_le, e1] at e
    simp only [show (0 : Int32).toInt = 0 from rfl] at e
    rw [show p = 0 by omega] at h
    exact h
section
variable {S : HS} {c : HC} {d n κ v : Nat} {el : Nat → Nat}
/-- colors of a row of states -/
abbrev wDq (c : HC) (d : Nat) : Nat → Prop := fun a => a = d ∨ c a = 9
theorem x_dqAdd {post : HS → Prop} (H : xDq S c d n el) (hn : n < 8) (hv : xObj S v) (h : ∀ S', xGo S c S' c (wDq c d) κ → xDq S' c d (n + 1) (fun k => if k = n then v else el k) → post S') : wX_J3_addLast post d v S := by
  obtain ⟨a, p, a1, a2, a3, a4, a5, a6, a7, a8, a9⟩ := H.a
  have da : d ≠ a := fun z => by have := H.cd; rw [z, a3] at this; omega
  obtain ⟨t, ht⟩ : ∃ t, t = (p + n) % 17 := ⟨_, rfl⟩
  obtain ⟨u, hu⟩ : ∃ u, u = (t + 1) % 17 := ⟨_, rfl⟩
  have t17 : t < 17 := by omega
  have pu : p ≠ u := by omega
  have u2 : u = (p + (n + 1)) % 17 := by omega
  have tk : ∀ k, k < n → (p + k) % 17 ≠ t := fun k hk => by omega
  rw [← ht] at a8
  refine ⟨H.d, a, a1, a2, ?_⟩
  rw [a8]
  refine ⟨zI_in' (by omega) (by rw [a4]; exact t17), a5, hv, ?_⟩
  rintro _ rfl
  rw [zI_nat (show t < 2147483648 by omega)]
  have g1 := gBB S c a t (some v) κ
  have l1 : hL (sB S a t (some v)) a = 17 := a4
  have e7 : hI (sB S a t (some v)) 1301 d = nI p := a7
  have e8 : hI (sB S a t (some v)) 1302 d = nI t := a8
  have b1 : hB (sB S a t (some v)) a t = some v := sB_eq _ _ _ _
  have b2 : ∀ k, k < n → hB (sB S a t (some v)) a ((p + k) % 17) = some (el k) := fun k hk => (sB_ne (.inr (tk k hk))).trans (a9 k hk)
  have a1' : hR (sB S a t (some v)) 1300 d = some a := a1
  have a2' : hD (sB S a t (some v)) 60 a := a2
  have a5' : hD (sB S a t (some v)) 99 a := a5
  have d' : hD (sB S a t (some v)) 13 d := H.d
  generalize sB S a t (some v) = S1 at *
  rw [l1, e8]
  refine x_inc t17 hu ?_
  rintro _ rfl
  rw [e7, zI_inj (by omega) (by omega)]
  refine ⟨fun z => absurd z pu, fun _ => ?_⟩
  have g2 := gI S1 c 1302 d (nI u) κ
  refine h _ ((g1.mono (fun x _ z => .inr (by rw [z]; exact a3))).go g2 (fun x _ z => .inl z)) ⟨d', H.cd, ⟨a, p, a1', a2', a3, l1, a5', a6, ?_, ?_, fun k hk => ?_⟩, by omega⟩
  · rw [sI_ne (.inl (by decide))]; exact e7
  · rw [sI_eq, u2]
  · show hB S1 a ((p + k) % 17) = some (if k = n then v else el k)
    by_cases z : k = n
    · rw [if_pos z, z, ← ht]; exact b1
    · rw [if_neg z]; exact b2 k (by omega)
theorem x_dqPop {post : Nat → HS → Prop} (H : xDq S c d n el) (hn : 0 < n) (h : ∀ S', xGo S c S' c (wDq c d) κ → xDq S' c d (n - 1) (fun k => el (k + 1)) → post (el 0) S') : wX_J3_removeFirst post d S := by
  obtain ⟨a, p, a1, a2, a3, a4, a5, a6, a7, a8, a9⟩ := H.a
  have le := H.le
  refine ⟨H.d, H.d, a, a1, ?_⟩
  rintro _ rfl
  rw [a7]
  have e0 := a9 0 hn
  rw [Nat.add_zero, Nat.mod_eq_of_lt a6] at e0
  refine ⟨a2, zI_in' (by omega) (by rw [a4]; omega), el 0, by rw [zI_nat (by omega)]; exact e0, a2, zI_in' (by omega) (by rw [a4]; omega), a5, ?_⟩
  rintro _ rfl
  rw [zI_nat (by omega)]
  rw [show nI (hL (sB S a p none) a) = nI 17 from congrArg nI a4]
  refine x_inc (u := (p + 1) % 17) (by omega) rfl ?_
  rintro _ rfl
  have g1 := gBB S c a p none κ
  have g2 := gI (sB S a p none) c 1301 d (nI ((p + 1) % 17)) κ
  refine h _ ((g1.mono (fun x _ z => .inr (by rw [z]; exact a3))).go g2 (fun x _ z => .inl z)) ⟨H.d, H.cd, ⟨a, (p + 1) % 17, a1, a2, a3, a4, a5, by omega, sI_eq _ _ _ _, ?_, fun k hk => ?_⟩, by omega⟩
  · rw [sI_ne (.inl (by decide))]
    show hI S 1302 d = _
    rw [a8]; congr 1; omega
  · show hB (sB S a p none) a (((p + 1) % 17 + k) % 17) = some (el (k + 1))
    rw [sB_ne (.inr (by omega))]
    have := a9 (k + 1) (by omega)
    rw [show ((p + 1) % 17 + k) % 17 = (p + (k + 1)) % 17 by omega]
    exact this
theorem x_dqLast {post : Nat → HS → Prop} (H : xDq S c d n el) (hn : 0 < n) (h : ∀ S', xGo S c S' c (wDq c d) κ → xDq S' c d (n - 1) el → post (el (n - 1)) S') : wX_J3_removeLast post d S := by
  obtain ⟨a, p, a1, a2, a3, a4, a5, a6, a7, a8, a9⟩ := H.a
  have le := H.le
  refine ⟨H.d, H.d, a, a1, a2, ?_⟩
  rw [a8, a4]
  have e0 := a9 (n - 1) (by omega)
  have em : ((p + n) % 17 + 16) % 17 = (p + (n - 1)) % 17 := by omega
  refine x_dec (by omega) ?_
  rw [em]
  refine ⟨a2, zI_in' (by omega) (by rw [a4]; omega), el (n - 1), by rw [zI_nat (by omega)]; exact e0, ?_⟩
  rintro _ rfl
  refine ⟨zI_in' (by omega) (by show _ < hL S a; rw [a4]; omega), a5, ?_⟩
  rintro _ rfl
  rw [zI_nat (by omega)]
  have g1 := gI S c 1302 d (nI ((p + (n - 1)) % 17)) κ
  have g2 := gBB (sI S 1302 d (nI ((p + (n - 1)) % 17))) c a ((p + (n - 1)) % 17) none κ
  refine h _ ((g1.mono (W2 := wDq c d) (fun x _ z => .inl z)).go g2 (fun x _ z => .inr (by rw [z]; exact a3))) ⟨H.d, H.cd, ⟨a, p, a1, a2, a3, a4, a5, a6, ?_, ?_, fun k hk => ?_⟩, by omega⟩
  · show hI (sI S 1302 d (nI ((p + (n - 1)) % 17))) 1301 d = nI p
    rw [sI_ne (.inl (by decide))]; exact a7
  · show hI (sI S 1302 d (nI ((p + (n - 1)) % 17))) 1302 d = _
    rw [sI_eq]
  · rw [sB_ne (.inr (by omega))]
    exact a9 k (by omega)
theorem x_dqEmpty {post : Int32 → Prop} (H : xDq S c d n el) (h : post (bI (n == 0))) : wX_J3_isEmpty post d S := by
  obtain ⟨a, p, a1, a2, a3, a4, a5, a6, a7, a8, a9⟩ := H.a
  have le := H.le
  refine ⟨H.d, ?_⟩
  rw [a7, a8, zI_inj (by omega) (by omega)]
  refine ⟨fun e => ?_, fun e => ?_⟩
  · rw [show (n == 0) = true by simp; omega] at h; exact h
  · rw [show (n == 0) = false by simp; omega] at h; exact h
/-- one run of the clearing -/
theorem x_dqClear {post : HS → Prop} (H : xDq S c d n el) (h : ∀ S', xGo S c S' c (wDq c d) κ → xDq S' c d 0 el → post S') : wX_J3_clear post d S := by
  obtain ⟨a, p, a1, a2, a3, a4, a5, a6, a7, a8, a9⟩ := H.a
  have le := H.le
  have da : d ≠ a := fun z => by have := H.cd; rw [z, a3] at this; omega
  -- what the clearing keeps
  let Ok : HS → Prop := fun S1 => xGo S c S1 c (wDq c d) κ ∧ hR S1 1300 d = some a ∧ hL S1 a = 17
  have end_ : ∀ S1, Ok S1 → hD S1 13 d ∧ ∀ S_6 : HS, S_6 = sI S1 1302 d (0 : Int32) → ∀ S_7 : HS, S_7 = sI S_6 1301 d (0 : Int32) → post S_7 := by
    rintro S1 ⟨G, r, l⟩
    refine ⟨G.E.D H.d, ?_⟩
    rintro _ rfl _ rfl
    have g1 := gI S1 c 1302 d 0 κ
    have g2 := gI (sI S1 1302 d 0) c 1301 d 0 κ
    refine h _ ((G.go g1 (fun x _ z => .inl z)).go g2 (fun x _ z => .inl z)) ⟨G.E.D H.d, H.cd, ⟨a, 0, r, G.E.D a2, a3, l, G.E.D a5, by decide, sI_eq _ _ _ _, ?_, fun k hk => absurd hk (Nat.not_lt_zero _)⟩, by decide⟩
    rw [sI_ne (.inl (by decide)), sI_eq]; rfl
  -- the loop from i up to e, then maybe from nought
  have loop : ∀ (x2 : Nat) (hx : x2 < 17) (f i e : Nat) (S1 : HS), Ok S1 → i ≤ e → e ≤ 17 → (e = x2 ∨ e = 17) → (if e = x2 then e - i else (e - i) + x2 + 1) < f → wX_J3_circularClear_l12 (fun S_4 => hD S_4 13 d ∧ ∀ S_6 : HS, S_6 = sI S_4 1302 d (0 : Int32) → ∀ S_7 : HS, S_7 = sI S_6 1301 d (0 : Int32) → post S_7) a (nI x2) f (nI i) (nI e) S1 := by
    intro x2 hx f
    induction f with
    | zero => intro i e S1 _ _ _ _ hf; exact absurd hf (Nat.not_lt_zero _)
    | succ f ih =>
      rintro i e S1 ⟨G, r, l⟩ h1 h2 h3 hf
      simp only [wX_J3_circularClear_l12, wX_J3_circularClear_b12]
      rw [zI_le (by omega) (by omega), zI_inj (by omega) (by omega)]
      refine ⟨fun z => ⟨fun _ => end_ S1 ⟨G, r, l⟩, fun z2 => ?_⟩, fun z => ⟨G.E.D a2, zI_in' (by omega) (by rw [l]; omega), G.E.D a5, ?_⟩⟩
      · rw [if_neg z2] at hf
        exact ih 0 x2 S1 ⟨G, r, l⟩ (Nat.zero_le _) (by omega) (.inl rfl) (by rw [if_pos rfl]; omega)
      · rintro _ rfl
        rw [zI_nat (by omega), zI_1, zI_add]
        have g1 := gBB S1 c a i none κ
        refine ih (i + 1) e _ ⟨G.go g1 (fun x _ z => .inr (by rw [z]; exact a3)), r, l⟩ (by omega) h2 h3 ?_
        split
        · rename_i q; rw [if_pos q] at hf; omega
        · rename_i q; rw [if_neg q] at hf; omega
  refine ⟨H.d, a, a1, ?_⟩
  rw [a7, a8]
  refine ⟨fun z => ⟨a2, ?_⟩, fun z => ⟨40, ?_⟩⟩
  · rintro _ rfl
    rw [a4]
    rw [zI_lt (by omega) (by omega)] at z
    exact ⟨60, loop _ (by omega) 60 p 17 S ⟨xGo.rf _ _ _ _, a1, a4⟩ (by omega) (by decide) (.inr rfl) (by split <;> omega)⟩
  · rw [zI_lt (by omega) (by omega)] at z
    exact loop _ (by omega) 40 p _ S ⟨xGo.rf _ _ _ _, a1, a4⟩ (by omega) (by omega) (.inl rfl) (by rw [if_pos rfl]; omega)
end
/-- what a record of the present state makes of the model's rows -/
def sRemG (F : MF) (G : MG) : MG := if F 11 = 8 then mg G 10 (fun k => if k < 7364 then G 10 (k + 1052) else if k < 8416 then G 8 (k - 7364) else G 10 k) else mg G 10 (fun k => if 1052 * cn (F 11) ≤ k ∧ k < 1052 * cn (F 11) + 1052 then G 8 (k - 1052 * cn (F 11)) else G 10 k)
def sRemF (F : MF) : MF := if F 11 = 8 then F else upd F 11 (F 11 + 1)
