/-! THE FREE HEAP: a world of any number of objects and arrays, told by maps: S = (domain by tag, whole-number fields, reference fields, lengths, whole-number places, reference places).
A field's key: 100 * tag + place. Tags: 0.. classes (xcl), 20..28 lambdas, 50.. arrays of numbers, 60.. arrays of references, 99: may be written. -/
set_option maxRecDepth 100000
abbrev HS : Type := (Nat → Nat → Prop) × (Nat → Nat → Int32) × (Nat → Nat → Option Nat) × (Nat → Nat) × (Nat → Nat → Int32) × (Nat → Nat → Option Nat)
abbrev hD (S : HS) : Nat → Nat → Prop := S.1
abbrev hI (S : HS) : Nat → Nat → Int32 := S.2.1
abbrev hR (S : HS) : Nat → Nat → Option Nat := S.2.2.1
abbrev hL (S : HS) : Nat → Nat := S.2.2.2.1
abbrev hA (S : HS) : Nat → Nat → Int32 := S.2.2.2.2.1
abbrev hB (S : HS) : Nat → Nat → Option Nat := S.2.2.2.2.2
def up2 {α : Type} (f : Nat → Nat → α) (k a : Nat) (v : α) : Nat → Nat → α := fun k' a' => if k' = k then (if a' = a then v else f k' a') else f k' a'
def sI (S : HS) (k a : Nat) (v : Int32) : HS := (hD S, up2 (hI S) k a v, hR S, hL S, hA S, hB S)
def sR (S : HS) (k a : Nat) (v : Option Nat) : HS := (hD S, hI S, up2 (hR S) k a v, hL S, hA S, hB S)
def sA (S : HS) (a j : Nat) (v : Int32) : HS := (hD S, hI S, hR S, hL S, up2 (hA S) a j v, hB S)
def sB (S : HS) (a j : Nat) (v : Option Nat) : HS := (hD S, hI S, hR S, hL S, hA S, up2 (hB S) a j v)
theorem sI_I (S : HS) (k a : Nat) (v : Int32) (k' a' : Nat) : hI (sI S k a v) k' a' = if k' = k then (if a' = a then v else hI S k' a') else hI S k' a' := rfl
theorem sI_R (S : HS) (k a : Nat) (v : Int32) : hR (sI S k a v) = hR S := rfl
theorem sR_I (S : HS) (k a : Nat) (v : Option Nat) : hI (sR S k a v) = hI S := rfl
theorem sR_R (S : HS) (k a : Nat) (v : Option Nat) (k' a' : Nat) : hR (sR S k a v) k' a' = if k' = k then (if a' = a then v else hR S k' a') else hR S k' a' := rfl
theorem sA_A (S : HS) (a j : Nat) (v : Int32) (a' j' : Nat) : hA (sA S a j v) a' j' = if a' = a then (if j' = j then v else hA S a' j') else hA S a' j' := rfl
theorem sB_B (S : HS) (a j : Nat) (v : Option Nat) (a' j' : Nat) : hB (sB S a j v) a' j' = if a' = a then (if j' = j then v else hB S a' j') else hB S a' j' := rfl
/-- a new object of the class t at q -/
def nO (S : HS) (t q : Nat) : HS := (fun t' x => hD S t' x ∨ (x = q ∧ (t' = t ∨ t' = 99)), fun k x => if x = q then 0 else hI S k x, fun k x => if x = q then none else hR S k x, hL S, hA S, hB S)
/-- a new array of the kind t, n long, at q -/
def nA (S : HS) (t q n : Nat) : HS := (fun t' x => hD S t' x ∨ (x = q ∧ (t' = t ∨ t' = 99)), hI S, hR S, fun x => if x = q then n else hL S x, fun x j => if x = q then 0 else hA S x j, fun x j => if x = q then none else hB S x j)
def xcl : List vw_C := [(RX1, TX1, 12), (RX2, TX2, 12), (RX3, TX3, 5), (RX4, TX4, 4), (RX6, TX6, 11), (RX7, TX7, 7), (RX8, TX8, 4), (RX9, TX9, 3), (RX10, TX10, 7), (RX11, TX11, 6), (RX12, TX12, 7), (RX13, TX13, 3), (RJ2, TJ2, 3), (RJ3, TJ3, 3), (RJ13, TJ13, 4), (RJ14, TJ14, 4), (RJ23, TJ23, 4), (RJ10, TJ10, 6), (RJ11, TJ11, 6)]
/-- a class's fields: is it a reference? -/
def xlay : Nat → List Bool := fun c => match c with
  | 0 => [true, false, true, true, true, true, true, true, true, true, true, true]
  | 1 => [true, true, true, true, true, true, true, false, false, false, false, false]
  | 2 => [true, true, true, false, false]
  | 3 => [false, false, false, true]
  | 4 => [true, true, true, true, false, false, false, false, false, true, true]
  | 5 => [true, true, true, true, true, false, false]
  | 6 => [false, false, false, false]
  | 7 => [false, false, false]
  | 8 => [true, false, false, false, false, false, false]
  | 9 => [true, true, true, true, true, false]
  | 10 => [true, true, true, true, true, false, false]
  | 11 => [true, false, false]
  | 12 => [false, true, false]
  | 13 => [true, false, false]
  | 14 => [true, false, false, false]
  | 15 => [true, false, false, false]
  | 16 => [false, false, false, true]
  | 17 => [true, true, true, true, true, false]
  | 18 => [true, true, true, true, true, false]
  | 20 => [false, false, false]
  | 21 => [false, false, false]
  | 22 => [false, false]
  | 23 => [true] | 24 => [true] | 25 => [true] | 26 => [true] | 27 => [true] | 28 => [true]
  | _ => []
def hfs (c : Nat) (S : HS) (a : Nat) : List Value := (xlay c).zipIdx.map fun p => if p.1 = true then va_rf (hR S (100 * c + p.2) a) else .int (hI S (100 * c + p.2) a)
theorem hfs_len (c : Nat) (S : HS) (a : Nat) : (hfs c S a).length = (xlay c).length := by simp [hfs]
theorem hfs_get {c : Nat} {S : HS} {a k : Nat} {b : Bool} (h : (xlay c)[k]? = some b) : (hfs c S a)[k]? = some (if b = true then va_rf (hR S (100 * c + k) a) else .int (hI S (100 * c + k) a)) := by
  simp [hfs, List.getElem?_map, List.getElem?_zipIdx, h]
theorem hfs_setI {c : Nat} {S : HS} {a k : Nat} {x : Int32} (h : (xlay c)[k]? = some false) : (hfs c S a).set k (.int x) = hfs c (sI S (100 * c + k) a x) a := by
  apply List.ext_getElem?
  intro j
  rw [List.getElem?_set]
  cases hj : (xlay c)[j]? with
  | none =>
    have h1 : ∀ S : HS, (hfs c S a)[j]? = none := fun S => by simp [hfs, List.getElem?_map, List.getElem?_zipIdx, hj]
    rw [h1, h1]
    split
    · rename_i e
      subst e
      rw [h] at hj
      cases hj
    · rfl
  | some b =>
    rw [hfs_get hj, hfs_get hj]
    have hl : k < (hfs c S a).length := by rw [hfs_len]; exact (List.getElem?_eq_some_iff.mp h).1
    by_cases e : k = j
    · subst e
      rw [h] at hj
      cases hj
      simp [hl, sI_I]
    · have e2 : ¬ 100 * c + j = 100 * c + k := by omega
      have e3 : ¬ j = k := fun z => e z.symm
      simp [e, sI_I, sI_R, e2, e3]
theorem hfs_setR {c : Nat} {S : HS} {a k : Nat} {x : Option Nat} (h : (xlay c)[k]? = some true) : (hfs c S a).set k (va_rf x) = hfs c (sR S (100 * c + k) a x) a := by
  apply List.ext_getElem?
  intro j
  rw [List.getElem?_set]
  cases hj : (xlay c)[j]? with
  | none =>
    have h1 : ∀ S : HS, (hfs c S a)[j]? = none := fun S => by simp [hfs, List.getElem?_map, List.getElem?_zipIdx, hj]
    rw [h1, h1]
    split
    · rename_i e
      subst e
      rw [h] at hj
      cases hj
    · rfl
  | some b =>
    rw [hfs_get hj, hfs_get hj]
    have hl : k < (hfs c S a).length := by rw [hfs_len]; exact (List.getElem?_eq_some_iff.mp h).1
    by_cases e : k = j
    · subst e
      rw [h] at hj
      cases hj
      simp [hl, sR_R]
    · have e2 : ¬ 100 * c + j = 100 * c + k := by omega
      have e3 : ¬ j = k := fun z => e z.symm
      simp [e, sR_I, sR_R, e2, e3]
theorem hfs_congr {c : Nat} {S S' : HS} {a : Nat} (h1 : ∀ k, hI S' k a = hI S k a) (h2 : ∀ k, hR S' k a = hR S k a) : hfs c S' a = hfs c S a := by
  simp only [hfs, h1, h2]
/-- a world's constants: classes' numbers, slots, array classes' numbers, what may be written -/
abbrev XP : Type := (Nat → ClassId) × (Nat → Nat → Nat) × (Nat → ClassId) × (Nat → Prop) × (Nat → Nat)
abbrev x_c (w : XP) : Nat → ClassId := w.1
abbrev x_i (w : XP) : Nat → Nat → Nat := w.2.1
abbrev x_d (w : XP) : Nat → ClassId := w.2.2.1
abbrev x_A (w : XP) : Nat → Prop := w.2.2.2.1
/-- constants' addresses: 0 the empty list's array, 1.. the texts -/
abbrev x_k (w : XP) : Nat → Nat := w.2.2.2.2
/-- what an array's places are -/
def x_ft : Nat → FieldType := fun t => match t with
  | 50 => .int | 51 => .byte | 60 => .object "java/lang/Object" | 61 => .object "HallPlan$Closure" | 62 => .object "HallPlan$Fee" | 63 => .object "HallPlan$Check" | 64 => .object "HallPlan$Booking" | 65 => .array .int | _ => .object "java/lang/String"
/-- an object of the class c at a -/
def xO (w : XP) (c : Nat) (S : HS) (a : Nat) (H : Heap) : Prop := t_OB a (x_c w c) (xlay c).length (x_i w c) H (vp_V (hfs c S a))
def x_P (w : XP) (S : HS) (H : Heap) : Prop :=
  (∀ c a, hD S c a → c < 40 → xO w c S a H) ∧
  (∀ t a, hD S t a → 50 ≤ t → t < 60 → H[a]? = some (vp_cell (x_d w t) (hL S a, .inl (hA S a)))) ∧
  (∀ t a, hD S t a → 60 ≤ t → t < 90 → H[a]? = some (vp_cell (x_d w t) (hL S a, .inr (.inr (.inr (.inr (hB S a))))))) ∧
  (∀ t u a, hD S t a → hD S u a → t < 90 → u < 90 → t = u) ∧
  (∀ t a, hD S t a → t < 90 → t < 40 ∨ (50 ≤ t ∧ t < 60) ∨ (60 ≤ t ∧ t < 90)) ∧
  (∀ a, hD S 99 a → x_A w a) ∧
  (∀ t a, hD S t a → t < 90 → t ≠ 15 → t ≠ 51 → t ≠ 60 → x_A w a)
theorem x_P.lt {w : XP} {S : HS} {H : Heap} (h : x_P w S H) {t a : Nat} (hd : hD S t a) (ht : t < 90) : a < H.size := by
  rcases h.2.2.2.2.1 t a hd ht with q | ⟨q1, q2⟩ | ⟨q1, q2⟩
  · obtain ⟨cell, e, -⟩ := h.1 t a hd q
    exact (Array.getElem?_eq_some_iff.mp e).1
  · exact (Array.getElem?_eq_some_iff.mp (h.2.1 t a hd q1 q2)).1
  · exact (Array.getElem?_eq_some_iff.mp (h.2.2.1 t a hd q1 q2)).1
/-- an object's fields anew -/
theorem x_P.setO {w : XP} {S S1 : HS} {H H1 : Heap} {c a : Nat} (h : x_P w S H) (hd : hD S c a) (hc : c < 40) (eD : hD S1 = hD S) (eL : hL S1 = hL S) (eA : hA S1 = hA S) (eB : hB S1 = hB S) (eI : ∀ k x, x ≠ a → hI S1 k x = hI S k x) (eR : ∀ k x, x ≠ a → hR S1 k x = hR S k x)
    (ho : xO w c S1 a H1) (oq : ∀ q : Nat, q ≠ a → H1[q]? = H[q]?) : x_P w S1 H1 := by
  obtain ⟨p1, p2, p3, p4, p5, p6, p7⟩ := h
  refine ⟨fun c' a' hd' hc' => ?_, fun t a' hd' h1 h2 => ?_, fun t a' hd' h1 h2 => ?_, fun t u a' h1 h2 => ?_, fun t a' h1 => ?_, fun a' h1 => ?_, fun t a' h1 => ?_⟩
  · rw [eD] at hd'
    by_cases e : a' = a
    · subst e
      have := p4 c' c a' hd' hd (by omega) (by omega)
      subst this
      exact ho
    · have hf : hfs c' S1 a' = hfs c' S a' := hfs_congr (fun k => eI k a' e) (fun k => eR k a' e)
      show t_OB _ _ _ _ _ _
      rw [hf]
      exact (p1 c' a' hd' hc').kept (oq a' e)
  · rw [eD] at hd'
    have e : a' ≠ a := fun e => by subst e; have := p4 t c a' hd' hd (by omega) (by omega); omega
    rw [oq a' e, eL, eA]
    exact p2 t a' hd' h1 h2
  · rw [eD] at hd'
    have e : a' ≠ a := fun e => by subst e; have := p4 t c a' hd' hd (by omega) (by omega); omega
    rw [oq a' e, eL, eB]
    exact p3 t a' hd' h1 h2
  · rw [eD] at h1 h2; exact p4 t u a' h1 h2
  · rw [eD] at h1; exact p5 t a' h1
  · rw [eD] at h1; exact p6 a' h1
  · rw [eD] at h1; exact p7 t a' h1
/-- an array's places anew -/
theorem x_P.setA {w : XP} {S : HS} {H H1 : Heap} {t a : Nat} (h : x_P w S H) (hd : hD S t a) (h1 : 50 ≤ t) (h2 : t < 60) {j : Nat} {v : Int32}
    (ho : H1[a]? = some (vp_cell (x_d w t) (hL S a, .inl (hA (sA S a j v) a)))) (oq : ∀ q : Nat, q ≠ a → H1[q]? = H[q]?) : x_P w (sA S a j v) H1 := by
  obtain ⟨p1, p2, p3, p4, p5, p6, p7⟩ := h
  refine ⟨fun c' a' hd' hc' => ?_, fun t' a' hd' g1 g2 => ?_, fun t' a' hd' g1 g2 => ?_, p4, p5, p6, p7⟩
  · have e : a' ≠ a := fun e => by subst e; have := p4 t c' a' hd hd' (by omega) (by omega); omega
    exact (p1 c' a' hd' hc').kept (oq a' e)
  · by_cases e : a' = a
    · subst e
      have := p4 t t' a' hd hd' (by omega) (by omega)
      subst this
      exact ho
    · have e2 : hA (sA S a j v) a' = hA S a' := by funext i; rw [sA_A, if_neg e]
      rw [oq a' e, e2]
      exact p2 t' a' hd' g1 g2
  · have e : a' ≠ a := fun e => by subst e; have := p4 t t' a' hd hd' (by omega) (by omega); omega
    rw [oq a' e]
    exact p3 t' a' hd' g1 g2
theorem x_P.setB {w : XP} {S : HS} {H H1 : Heap} {t a : Nat} (h : x_P w S H) (hd : hD S t a) (h1 : 60 ≤ t) (h2 : t < 90) {j : Nat} {v : Option Nat}
    (ho : H1[a]? = some (vp_cell (x_d w t) (hL S a, .inr (.inr (.inr (.inr (hB (sB S a j v) a))))))) (oq : ∀ q : Nat, q ≠ a → H1[q]? = H[q]?) : x_P w (sB S a j v) H1 := by
  obtain ⟨p1, p2, p3, p4, p5, p6, p7⟩ := h
  refine ⟨fun c' a' hd' hc' => ?_, fun t' a' hd' g1 g2 => ?_, fun t' a' hd' g1 g2 => ?_, p4, p5, p6, p7⟩
  · have e : a' ≠ a := fun e => by subst e; have := p4 t c' a' hd hd' (by omega) (by omega); omega
    exact (p1 c' a' hd' hc').kept (oq a' e)
  · have e : a' ≠ a := fun e => by subst e; have := p4 t t' a' hd hd' (by omega) (by omega); omega
    rw [oq a' e]
    exact p2 t' a' hd' g1 g2
  · by_cases e : a' = a
    · subst e
      have := p4 t t' a' hd hd' (by omega) (by omega)
      subst this
      exact ho
    · have e2 : hB (sB S a j v) a' = hB S a' := by funext i; rw [sB_B, if_neg e]
      rw [oq a' e, e2]
      exact p3 t' a' hd' g1 g2
/-- an address that is none of the world's -/
def xNew (S : HS) (q : Nat) : Prop := ∀ t, ¬ hD S t q
theorem x_P.fresh {w : XP} {S : HS} {H : Heap} (h : x_P w S H) (h99 : ∀ a, hD S 99 a → a < H.size) (ht : ∀ t a, hD S t a → t < 90 ∨ t = 99) : xNew S H.size := by
  intro t hd
  rcases ht t _ hd with q | q
  · exact absurd (h.lt hd q) (by omega)
  · subst q
    exact absurd (h99 _ hd) (by omega)
/-- tags that are in use, and where writable things lie -/
def x_G (S : HS) (H : Heap) : Prop := (∀ t a, hD S t a → t < 90 ∨ t = 99) ∧ ∀ a, hD S 99 a → a < H.size
theorem x_P.newO {w : XP} {S : HS} {H H1 : Heap} {c : Nat} (h : x_P w S H) (hn : xNew S H.size) (hc : c < 40) (hAw : x_A w H.size) (ho : xO w c (nO S c H.size) H.size H1) (oq : ∀ q : Nat, q < H.size → H1[q]? = H[q]?) : x_P w (nO S c H.size) H1 := by
  have hl : ∀ {t a}, hD S t a → t < 90 → a < H.size := fun hd ht => h.lt hd ht
  obtain ⟨p1, p2, p3, p4, p5, p6, p7⟩ := h
  refine ⟨fun c' a' hd' hc' => ?_, fun t' a' hd' g1 g2 => ?_, fun t' a' hd' g1 g2 => ?_, fun t u a' g1 g2 g3 g4 => ?_, fun t a' g1 g2 => ?_, fun a' g1 => ?_, fun t a' g1 g2 => ?_⟩
  · rcases hd' with hd' | ⟨rfl, e | e⟩
    · have lt := hl hd' (by omega)
      have hf : hfs c' (nO S c H.size) a' = hfs c' S a' := hfs_congr (fun k => if_neg (by omega)) (fun k => if_neg (by omega))
      show t_OB _ _ _ _ _ _
      rw [hf]
      exact (p1 c' a' hd' hc').kept (oq a' lt)
    · subst e; exact ho
    · omega
  · rcases hd' with hd' | ⟨rfl, e | e⟩
    · rw [oq a' (hl hd' (by omega))]; exact p2 t' a' hd' g1 g2
    · omega
    · omega
  · rcases hd' with hd' | ⟨rfl, e | e⟩
    · rw [oq a' (hl hd' (by omega))]; exact p3 t' a' hd' g1 g2
    · omega
    · omega
  · rcases g1 with g1 | ⟨e1, f1⟩ <;> rcases g2 with g2 | ⟨e2, f2⟩
    · exact p4 t u a' g1 g2 g3 g4
    · subst e2; exact absurd g1 (hn t)
    · subst e1; exact absurd g2 (hn u)
    · omega
  · rcases g1 with g1 | ⟨e1, f1⟩
    · exact p5 t a' g1 g2
    · omega
  · rcases g1 with g1 | ⟨e1, f1⟩
    · exact p6 a' g1
    · subst e1; exact hAw
  · intro n1 n2 n3
    rcases g1 with g1 | ⟨e1, f1⟩
    · exact p7 t a' g1 g2 n1 n2 n3
    · subst e1; exact hAw
theorem x_P.newA {w : XP} {S : HS} {H H1 : Heap} {t n : Nat} (h : x_P w S H) (hn : xNew S H.size) (ht : (50 ≤ t ∧ t < 60) ∨ (60 ≤ t ∧ t < 90)) (hAw : x_A w H.size)
    (ho : H1[H.size]? = some (vp_cell (x_d w t) (n, if t < 60 then .inl (fun _ => 0) else .inr (.inr (.inr (.inr (fun _ => none))))))) (oq : ∀ q : Nat, q < H.size → H1[q]? = H[q]?) : x_P w (nA S t H.size n) H1 := by
  have hl : ∀ {t a}, hD S t a → t < 90 → a < H.size := fun hd ht => h.lt hd ht
  obtain ⟨p1, p2, p3, p4, p5, p6, p7⟩ := h
  refine ⟨fun c' a' hd' hc' => ?_, fun t' a' hd' g1 g2 => ?_, fun t' a' hd' g1 g2 => ?_, fun t u a' g1 g2 g3 g4 => ?_, fun t a' g1 g2 => ?_, fun a' g1 => ?_, fun t a' g1 g2 => ?_⟩
  · rcases hd' with hd' | ⟨rfl, e | e⟩
    · exact (p1 c' a' hd' hc').kept (oq a' (hl hd' (by omega)))
    · omega
    · omega
  · rcases hd' with hd' | ⟨rfl, e | e⟩
    · have lt := hl hd' (by omega)
      have e1 : hL (nA S t H.size n) a' = hL S a' := if_neg (by omega)
      have e2 : hA (nA S t H.size n) a' = hA S a' := by funext j; exact if_neg (by omega)
      rw [oq a' lt, e1, e2]; exact p2 t' a' hd' g1 g2
    · subst e
      rw [ho, if_pos g2]
      have e1 : hL (nA S t' H.size n) H.size = n := if_pos rfl
      have e2 : hA (nA S t' H.size n) H.size = fun _ => 0 := by funext j; exact if_pos rfl
      rw [e1, e2]
    · omega
  · rcases hd' with hd' | ⟨rfl, e | e⟩
    · have lt := hl hd' (by omega)
      have e1 : hL (nA S t H.size n) a' = hL S a' := if_neg (by omega)
      have e2 : hB (nA S t H.size n) a' = hB S a' := by funext j; exact if_neg (by omega)
      rw [oq a' lt, e1, e2]; exact p3 t' a' hd' g1 g2
    · subst e
      rw [ho, if_neg (by omega)]
      have e1 : hL (nA S t' H.size n) H.size = n := if_pos rfl
      have e2 : hB (nA S t' H.size n) H.size = fun _ => none := by funext j; exact if_pos rfl
      rw [e1, e2]
    · omega
  · rcases g1 with g1 | ⟨e1, f1⟩ <;> rcases g2 with g2 | ⟨e2, f2⟩
    · exact p4 t u a' g1 g2 g3 g4
    · subst e2; exact absurd g1 (hn t)
    · subst e1; exact absurd g2 (hn u)
    · omega
  · rcases g1 with g1 | ⟨e1, f1⟩
    · exact p5 t a' g1 g2
    · omega
  · rcases g1 with g1 | ⟨e1, f1⟩
    · exact p6 a' g1
    · subst e1; exact hAw
  · intro n1 n2 n3
    rcases g1 with g1 | ⟨e1, f1⟩
    · exact p7 t a' g1 g2 n1 n2 n3
    · subst e1; exact hAw
theorem x_P.kept {w : XP} {S : HS} {H H1 : Heap} (h : x_P w S H) (hq : ∀ q : Nat, q < H.size → H1[q]? = H[q]?) : x_P w S H1 := by
  have hl : ∀ {t a}, hD S t a → t < 90 → a < H.size := fun hd ht => h.lt hd ht
  obtain ⟨p1, p2, p3, p4, p5, p6, p7⟩ := h
  exact ⟨fun c a hd hc => (p1 c a hd hc).kept (hq a (hl hd (by omega))), fun t a hd h1 h2 => by rw [hq a (hl hd (by omega))]; exact p2 t a hd h1 h2, fun t a hd h1 h2 => by rw [hq a (hl hd (by omega))]; exact p3 t a hd h1 h2, p4, p5, p6, p7⟩
