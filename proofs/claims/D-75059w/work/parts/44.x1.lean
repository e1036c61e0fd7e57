/-! PLAIN LAWS, x1: what the heap holds; questions of a problem -/
abbrev HC := Nat → Nat
/-- an event (color 0: it never changes) -/
abbrev xEv (S : HS) (c : HC) (e : Nat) (r : Nat → Int32) : Prop := (hD S 3 e) ∧ (c e = 0) ∧ (hI S 300 e = r 0) ∧ (hI S 301 e = r 1) ∧ (hI S 302 e = r 2) ∧ (∃ n, hR S 303 e = some n ∧ hD S 50 n ∧ c n = 0 ∧ hL S n = 6 ∧ ∀ k, k < 6 → hA S n k = r (3 + k))
theorem xEv.d {S : HS} {c : HC} {e : Nat} {r : Nat → Int32} (h : xEv S c e r) : hD S 3 e := h.1
theorem xEv.c0 {S : HS} {c : HC} {e : Nat} {r : Nat → Int32} (h : xEv S c e r) : c e = 0 := h.2.1
theorem xEv.ty {S : HS} {c : HC} {e : Nat} {r : Nat → Int32} (h : xEv S c e r) : hI S 300 e = r 0 := h.2.2.1
theorem xEv.gu {S : HS} {c : HC} {e : Nat} {r : Nat → Int32} (h : xEv S c e r) : hI S 301 e = r 1 := h.2.2.2.1
theorem xEv.du {S : HS} {c : HC} {e : Nat} {r : Nat → Int32} (h : xEv S c e r) : hI S 302 e = r 2 := h.2.2.2.2.1
theorem xEv.ne {S : HS} {c : HC} {e : Nat} {r : Nat → Int32} (h : xEv S c e r) : ∃ n, hR S 303 e = some n ∧ hD S 50 n ∧ c n = 0 ∧ hL S n = 6 ∧ ∀ k, k < 6 → hA S n k = r (3 + k) := h.2.2.2.2.2
/-- a list of color q -/
abbrev xLs (ke : Nat) (S : HS) (c : HC) (q l n : Nat) (f : Nat → Nat) : Prop := (hD S 12 l) ∧ (c l = q) ∧ (hI S 1202 l = nI n) ∧ (n ≤ 100) ∧ (∃ a, hR S 1201 l = some a ∧ hD S 60 a ∧ n ≤ hL S a ∧ hL S a ≤ 150 ∧ (∀ k, k < n → hB S a k = some (f k)) ∧ ((a = ke ∧ c a = 0 ∧ hL S a = 0) ∨ (c a = q ∧ hD S 99 a ∧ 0 < hL S a)))
theorem xLs.d {ke : Nat} {S : HS} {c : HC} {q l n : Nat} {f : Nat → Nat} (h : xLs ke S c q l n f) : hD S 12 l := h.1
theorem xLs.cl {ke : Nat} {S : HS} {c : HC} {q l n : Nat} {f : Nat → Nat} (h : xLs ke S c q l n f) : c l = q := h.2.1
theorem xLs.nn {ke : Nat} {S : HS} {c : HC} {q l n : Nat} {f : Nat → Nat} (h : xLs ke S c q l n f) : hI S 1202 l = nI n := h.2.2.1
theorem xLs.nl {ke : Nat} {S : HS} {c : HC} {q l n : Nat} {f : Nat → Nat} (h : xLs ke S c q l n f) : n ≤ 100 := h.2.2.2.1
theorem xLs.a {ke : Nat} {S : HS} {c : HC} {q l n : Nat} {f : Nat → Nat} (h : xLs ke S c q l n f) : ∃ a, hR S 1201 l = some a ∧ hD S 60 a ∧ n ≤ hL S a ∧ hL S a ≤ 150 ∧ (∀ k, k < n → hB S a k = some (f k)) ∧ ((a = ke ∧ c a = 0 ∧ hL S a = 0) ∨ (c a = q ∧ hD S 99 a ∧ 0 < hL S a)) := h.2.2.2.2
/-- what an event costs in a slot -/
def sPrice (g r : Nat → Int32) (hall s : Int32) : Int32 :=
  let b := zf (fun k a => a + r (3 + k) * g (38 + k)) 0 (cn (g 2)) (g (26 + cn hall) * r 2 / 60)
  if 4 < sMod (s / 1440) 7 then b + b * g 5 / 100 else b
/-- a booking -/
abbrev xBk (S : HS) (c : HC) (q b : Nat) (g r : Nat → Int32) (out : Int32) : Prop := (hD S 8 b) ∧ (c b = q) ∧ (∃ e, hR S 800 b = some e ∧ xEv S c e r) ∧ (hI S 801 b = r 9) ∧ (hI S 802 b = r 10) ∧ (q % 10 = 2 → hI S 803 b = sPrice g r (r 9) (r 10)) ∧ (hI S 804 b = r 12) ∧ (hI S 805 b = r 11) ∧ (hI S 806 b = out)
theorem xBk.d {S : HS} {c : HC} {q b : Nat} {g r : Nat → Int32} {out : Int32} (h : xBk S c q b g r out) : hD S 8 b := h.1
theorem xBk.cb {S : HS} {c : HC} {q b : Nat} {g r : Nat → Int32} {out : Int32} (h : xBk S c q b g r out) : c b = q := h.2.1
theorem xBk.ev {S : HS} {c : HC} {q b : Nat} {g r : Nat → Int32} {out : Int32} (h : xBk S c q b g r out) : ∃ e, hR S 800 b = some e ∧ xEv S c e r := h.2.2.1
theorem xBk.ha {S : HS} {c : HC} {q b : Nat} {g r : Nat → Int32} {out : Int32} (h : xBk S c q b g r out) : hI S 801 b = r 9 := h.2.2.2.1
theorem xBk.st {S : HS} {c : HC} {q b : Nat} {g r : Nat → Int32} {out : Int32} (h : xBk S c q b g r out) : hI S 802 b = r 10 := h.2.2.2.2.1
theorem xBk.pr {S : HS} {c : HC} {q b : Nat} {g r : Nat → Int32} {out : Int32} (h : xBk S c q b g r out) : q % 10 = 2 → hI S 803 b = sPrice g r (r 9) (r 10) := h.2.2.2.2.2.1
theorem xBk.fe {S : HS} {c : HC} {q b : Nat} {g r : Nat → Int32} {out : Int32} (h : xBk S c q b g r out) : hI S 804 b = r 12 := h.2.2.2.2.2.2.1
theorem xBk.ac {S : HS} {c : HC} {q b : Nat} {g r : Nat → Int32} {out : Int32} (h : xBk S c q b g r out) : hI S 805 b = r 11 := h.2.2.2.2.2.2.2.1
theorem xBk.ou {S : HS} {c : HC} {q b : Nat} {g r : Nat → Int32} {out : Int32} (h : xBk S c q b g r out) : hI S 806 b = out := h.2.2.2.2.2.2.2.2
abbrev xRq (S : HS) (c : HC) (o : Nat) (r : Nat → Int32) : Prop := (hD S 11 o) ∧ (c o = 0) ∧ (∃ e, hR S 1100 o = some e ∧ xEv S c e r) ∧ (hI S 1101 o = r 9) ∧ (hI S 1102 o = r 10)
theorem xRq.d {S : HS} {c : HC} {o : Nat} {r : Nat → Int32} (h : xRq S c o r) : hD S 11 o := h.1
theorem xRq.c0 {S : HS} {c : HC} {o : Nat} {r : Nat → Int32} (h : xRq S c o r) : c o = 0 := h.2.1
theorem xRq.ev {S : HS} {c : HC} {o : Nat} {r : Nat → Int32} (h : xRq S c o r) : ∃ e, hR S 1100 o = some e ∧ xEv S c e r := h.2.2.1
theorem xRq.ha {S : HS} {c : HC} {o : Nat} {r : Nat → Int32} (h : xRq S c o r) : hI S 1101 o = r 9 := h.2.2.2.1
theorem xRq.st {S : HS} {c : HC} {o : Nat} {r : Nat → Int32} (h : xRq S c o r) : hI S 1102 o = r 10 := h.2.2.2.2
abbrev xCl (S : HS) (c : HC) (o : Nat) (r : Nat → Int32) : Prop := (hD S 20 o) ∧ (c o = 0) ∧ (hI S 2000 o = r 0) ∧ (hI S 2002 o = r 1) ∧ (hI S 2001 o = r 2)
theorem xCl.d {S : HS} {c : HC} {o : Nat} {r : Nat → Int32} (h : xCl S c o r) : hD S 20 o := h.1
theorem xCl.c0 {S : HS} {c : HC} {o : Nat} {r : Nat → Int32} (h : xCl S c o r) : c o = 0 := h.2.1
theorem xCl.ha {S : HS} {c : HC} {o : Nat} {r : Nat → Int32} (h : xCl S c o r) : hI S 2000 o = r 0 := h.2.2.1
theorem xCl.fr {S : HS} {c : HC} {o : Nat} {r : Nat → Int32} (h : xCl S c o r) : hI S 2002 o = r 1 := h.2.2.2.1
theorem xCl.to {S : HS} {c : HC} {o : Nat} {r : Nat → Int32} (h : xCl S c o r) : hI S 2001 o = r 2 := h.2.2.2.2
/-- all that changes; parts of the colors q .. q+4 -/
abbrev xSt (ke : Nat) (S : HS) (c : HC) (q st : Nat) (g n : Nat → Int32) (out : Nat → Int32) (bk : Nat → Nat) : Prop := (hD S 2 st) ∧ (c st = q) ∧ (hI S 203 st = n 3) ∧ (hI S 204 st = n 0) ∧ (∃ l, hR S 200 st = some l ∧ xLs ke S c (q + 1) l (cn (n 1)) bk) ∧ (∀ k, k < cn (n 1) → xBk S c (q + 2) (bk k) g (fun w => n (4 + 13 * k + w)) (out k)) ∧ (∀ i j, i < cn (n 1) → j < cn (n 1) → bk i = bk j → i = j) ∧ (∃ (l : Nat) (rq : Nat → Nat), hR S 201 st = some l ∧ xLs ke S c (q + 3) l (cn (n 2)) rq ∧ ∀ k, k < cn (n 2) → xRq S c (rq k) (fun w => n (784 + 11 * k + w))) ∧ (∃ a, hR S 202 st = some a ∧ hD S 61 a ∧ c a = q + 4 ∧ hL S a = 16 ∧ (∀ k, k < cn (n 3) → ∃ o, hB S a k = some o ∧ xCl S c o (fun w => n (1004 + 3 * k + w))) ∧ ∀ k o, hB S a k = some o → hD S 20 o ∨ hD S 21 o)
theorem xSt.d {ke : Nat} {S : HS} {c : HC} {q st : Nat} {g n : Nat → Int32} {out : Nat → Int32} {bk : Nat → Nat} (h : xSt ke S c q st g n out bk) : hD S 2 st := h.1
theorem xSt.cs {ke : Nat} {S : HS} {c : HC} {q st : Nat} {g n : Nat → Int32} {out : Nat → Int32} {bk : Nat → Nat} (h : xSt ke S c q st g n out bk) : c st = q := h.2.1
theorem xSt.cl {ke : Nat} {S : HS} {c : HC} {q st : Nat} {g n : Nat → Int32} {out : Nat → Int32} {bk : Nat → Nat} (h : xSt ke S c q st g n out bk) : hI S 203 st = n 3 := h.2.2.1
theorem xSt.no {ke : Nat} {S : HS} {c : HC} {q st : Nat} {g n : Nat → Int32} {out : Nat → Int32} {bk : Nat → Nat} (h : xSt ke S c q st g n out bk) : hI S 204 st = n 0 := h.2.2.2.1
theorem xSt.b {ke : Nat} {S : HS} {c : HC} {q st : Nat} {g n : Nat → Int32} {out : Nat → Int32} {bk : Nat → Nat} (h : xSt ke S c q st g n out bk) : ∃ l, hR S 200 st = some l ∧ xLs ke S c (q + 1) l (cn (n 1)) bk := h.2.2.2.2.1
theorem xSt.bb {ke : Nat} {S : HS} {c : HC} {q st : Nat} {g n : Nat → Int32} {out : Nat → Int32} {bk : Nat → Nat} (h : xSt ke S c q st g n out bk) : ∀ k, k < cn (n 1) → xBk S c (q + 2) (bk k) g (fun w => n (4 + 13 * k + w)) (out k) := h.2.2.2.2.2.1
theorem xSt.bi {ke : Nat} {S : HS} {c : HC} {q st : Nat} {g n : Nat → Int32} {out : Nat → Int32} {bk : Nat → Nat} (h : xSt ke S c q st g n out bk) : ∀ i j, i < cn (n 1) → j < cn (n 1) → bk i = bk j → i = j := h.2.2.2.2.2.2.1
theorem xSt.r {ke : Nat} {S : HS} {c : HC} {q st : Nat} {g n : Nat → Int32} {out : Nat → Int32} {bk : Nat → Nat} (h : xSt ke S c q st g n out bk) : ∃ (l : Nat) (rq : Nat → Nat), hR S 201 st = some l ∧ xLs ke S c (q + 3) l (cn (n 2)) rq ∧ ∀ k, k < cn (n 2) → xRq S c (rq k) (fun w => n (784 + 11 * k + w)) := h.2.2.2.2.2.2.2.1
theorem xSt.s {ke : Nat} {S : HS} {c : HC} {q st : Nat} {g n : Nat → Int32} {out : Nat → Int32} {bk : Nat → Nat} (h : xSt ke S c q st g n out bk) : ∃ a, hR S 202 st = some a ∧ hD S 61 a ∧ c a = q + 4 ∧ hL S a = 16 ∧ (∀ k, k < cn (n 3) → ∃ o, hB S a k = some o ∧ xCl S c o (fun w => n (1004 + 3 * k + w))) ∧ ∀ k o, hB S a k = some o → hD S 20 o ∨ hD S 21 o := h.2.2.2.2.2.2.2.2
/-- what a text fixes; parts of the colors q 0 .. -/
abbrev xSu (ke : Nat) (S : HS) (c : HC) (q : Nat → Nat) (su : Nat) (g : Nat → Int32) : Prop := (hD S 1 su) ∧ (c su = q 0) ∧ (hI S 107 su = g 1) ∧ (hI S 108 su = g 6) ∧ (hI S 109 su = g 3) ∧ (hI S 110 su = g 4) ∧ (hI S 111 su = g 5) ∧ (∃ (l : Nat) (f : Nat → Nat), hR S 100 su = some l ∧ xLs ke S c (q 1) l (cn (g 0)) f ∧ ∀ k, k < cn (g 0) → hD S 6 (f k) ∧ c (f k) = 0 ∧ hI S 600 (f k) = g (8 + k) ∧ hI S 601 (f k) = g (14 + k) ∧ hI S 602 (f k) = g (20 + k) ∧ hI S 603 (f k) = g (26 + k)) ∧ (∃ (l : Nat) (f : Nat → Nat), hR S 101 su = some l ∧ xLs ke S c (q 2) l (cn (g 2)) f ∧ ∀ k, k < cn (g 2) → hD S 7 (f k) ∧ c (f k) = 0 ∧ hI S 700 (f k) = g (32 + k) ∧ hI S 701 (f k) = g (38 + k) ∧ hI S 702 (f k) = g (44 + k)) ∧ (∃ (a : Nat) (f : Nat → Nat), hR S 102 su = some a ∧ hD S 65 a ∧ c a = q 3 ∧ hL S a = 6 ∧ (∀ i, i < 6 → hB S a i = some (f i) ∧ hD S 50 (f i) ∧ c (f i) = q 4 ∧ hL S (f i) = 6 ∧ ∀ j, j < 6 → hA S (f i) j = g (50 + 6 * i + j)) ∧ ∀ i j, i < 6 → j < 6 → f i = f j → i = j) ∧ (∃ a, hR S 103 su = some a ∧ hD S 61 a ∧ c a = q 5 ∧ hL S a = 16 ∧ (∀ k, k < cn (g 6) → ∃ o, hB S a k = some o ∧ xCl S c o (fun w => g (118 + 3 * k + w))) ∧ ∀ k o, hB S a k = some o → hD S 20 o ∨ hD S 21 o) ∧ (∃ a, hR S 104 su = some a ∧ hD S 61 a ∧ c a = q 6 ∧ hL S a = 8 ∧ ∀ k, k < cn (g 3) → ∃ o, hB S a k = some o ∧ hD S 21 o ∧ c o = 0 ∧ hI S 2100 o = g (86 + k) ∧ hI S 2102 o = g (94 + k) ∧ hI S 2101 o = g (102 + k)) ∧ (∃ (a fd : Nat) (p : Nat → Nat), hR S 105 su = some a ∧ hD S 62 a ∧ c a = q 7 ∧ hL S a = 4 ∧ hR S 106 su = some fd ∧ hD S 50 fd ∧ c fd = q 8 ∧ hL S fd = 4 ∧ (∀ k, k < cn (g 4) → ∃ o, hB S a k = some o ∧ hD S 22 o ∧ c o = 0 ∧ p k < cn (g 4) ∧ hI S 2200 o = g (110 + p k) ∧ hI S 2201 o = g (114 + p k) ∧ hA S fd k = g (110 + p k)) ∧ (∀ j, j < cn (g 4) → ∃ k, k < cn (g 4) ∧ p k = j) ∧ (∀ i j, i < j → j < cn (g 4) → g (110 + p j) < g (110 + p i)))
theorem xSu.d {ke : Nat} {S : HS} {c : HC} {q : Nat → Nat} {su : Nat} {g : Nat → Int32} (h : xSu ke S c q su g) : hD S 1 su := h.1
theorem xSu.cs {ke : Nat} {S : HS} {c : HC} {q : Nat → Nat} {su : Nat} {g : Nat → Int32} (h : xSu ke S c q su g) : c su = q 0 := h.2.1
theorem xSu.ty {ke : Nat} {S : HS} {c : HC} {q : Nat → Nat} {su : Nat} {g : Nat → Int32} (h : xSu ke S c q su g) : hI S 107 su = g 1 := h.2.2.1
theorem xSu.cl {ke : Nat} {S : HS} {c : HC} {q : Nat → Nat} {su : Nat} {g : Nat → Int32} (h : xSu ke S c q su g) : hI S 108 su = g 6 := h.2.2.2.1
theorem xSu.wn {ke : Nat} {S : HS} {c : HC} {q : Nat → Nat} {su : Nat} {g : Nat → Int32} (h : xSu ke S c q su g) : hI S 109 su = g 3 := h.2.2.2.2.1
theorem xSu.fn {ke : Nat} {S : HS} {c : HC} {q : Nat → Nat} {su : Nat} {g : Nat → Int32} (h : xSu ke S c q su g) : hI S 110 su = g 4 := h.2.2.2.2.2.1
theorem xSu.we {ke : Nat} {S : HS} {c : HC} {q : Nat → Nat} {su : Nat} {g : Nat → Int32} (h : xSu ke S c q su g) : hI S 111 su = g 5 := h.2.2.2.2.2.2.1
theorem xSu.h {ke : Nat} {S : HS} {c : HC} {q : Nat → Nat} {su : Nat} {g : Nat → Int32} (h : xSu ke S c q su g) : ∃ (l : Nat) (f : Nat → Nat), hR S 100 su = some l ∧ xLs ke S c (q 1) l (cn (g 0)) f ∧ ∀ k, k < cn (g 0) → hD S 6 (f k) ∧ c (f k) = 0 ∧ hI S 600 (f k) = g (8 + k) ∧ hI S 601 (f k) = g (14 + k) ∧ hI S 602 (f k) = g (20 + k) ∧ hI S 603 (f k) = g (26 + k) := h.2.2.2.2.2.2.2.1
theorem xSu.k {ke : Nat} {S : HS} {c : HC} {q : Nat → Nat} {su : Nat} {g : Nat → Int32} (h : xSu ke S c q su g) : ∃ (l : Nat) (f : Nat → Nat), hR S 101 su = some l ∧ xLs ke S c (q 2) l (cn (g 2)) f ∧ ∀ k, k < cn (g 2) → hD S 7 (f k) ∧ c (f k) = 0 ∧ hI S 700 (f k) = g (32 + k) ∧ hI S 701 (f k) = g (38 + k) ∧ hI S 702 (f k) = g (44 + k) := h.2.2.2.2.2.2.2.2.1
theorem xSu.be {ke : Nat} {S : HS} {c : HC} {q : Nat → Nat} {su : Nat} {g : Nat → Int32} (h : xSu ke S c q su g) : ∃ (a : Nat) (f : Nat → Nat), hR S 102 su = some a ∧ hD S 65 a ∧ c a = q 3 ∧ hL S a = 6 ∧ (∀ i, i < 6 → hB S a i = some (f i) ∧ hD S 50 (f i) ∧ c (f i) = q 4 ∧ hL S (f i) = 6 ∧ ∀ j, j < 6 → hA S (f i) j = g (50 + 6 * i + j)) ∧ ∀ i j, i < 6 → j < 6 → f i = f j → i = j := h.2.2.2.2.2.2.2.2.2.1
theorem xSu.s {ke : Nat} {S : HS} {c : HC} {q : Nat → Nat} {su : Nat} {g : Nat → Int32} (h : xSu ke S c q su g) : ∃ a, hR S 103 su = some a ∧ hD S 61 a ∧ c a = q 5 ∧ hL S a = 16 ∧ (∀ k, k < cn (g 6) → ∃ o, hB S a k = some o ∧ xCl S c o (fun w => g (118 + 3 * k + w))) ∧ ∀ k o, hB S a k = some o → hD S 20 o ∨ hD S 21 o := h.2.2.2.2.2.2.2.2.2.2.1
theorem xSu.w {ke : Nat} {S : HS} {c : HC} {q : Nat → Nat} {su : Nat} {g : Nat → Int32} (h : xSu ke S c q su g) : ∃ a, hR S 104 su = some a ∧ hD S 61 a ∧ c a = q 6 ∧ hL S a = 8 ∧ ∀ k, k < cn (g 3) → ∃ o, hB S a k = some o ∧ hD S 21 o ∧ c o = 0 ∧ hI S 2100 o = g (86 + k) ∧ hI S 2102 o = g (94 + k) ∧ hI S 2101 o = g (102 + k) := h.2.2.2.2.2.2.2.2.2.2.2.1
theorem xSu.f {ke : Nat} {S : HS} {c : HC} {q : Nat → Nat} {su : Nat} {g : Nat → Int32} (h : xSu ke S c q su g) : ∃ (a fd : Nat) (p : Nat → Nat), hR S 105 su = some a ∧ hD S 62 a ∧ c a = q 7 ∧ hL S a = 4 ∧ hR S 106 su = some fd ∧ hD S 50 fd ∧ c fd = q 8 ∧ hL S fd = 4 ∧ (∀ k, k < cn (g 4) → ∃ o, hB S a k = some o ∧ hD S 22 o ∧ c o = 0 ∧ p k < cn (g 4) ∧ hI S 2200 o = g (110 + p k) ∧ hI S 2201 o = g (114 + p k) ∧ hA S fd k = g (110 + p k)) ∧ (∀ j, j < cn (g 4) → ∃ k, k < cn (g 4) ∧ p k = j) ∧ (∀ i j, i < j → j < cn (g 4) → g (110 + p j) < g (110 + p i)) := h.2.2.2.2.2.2.2.2.2.2.2.2
/-- a plan's object: colors 1 itself, 2 the row of units, 3 checks -/
abbrev xTop (S : HS) (c : HC) (x su st gr : Nat) : Prop := (hD S 0 x) ∧ (c x = 1) ∧ (hR S 2 x = some su) ∧ (hR S 3 x = some st) ∧ (hR S 8 x = some gr) ∧ (hD S 50 gr) ∧ (c gr = 2) ∧ (hL S gr = 129) ∧ (∃ (a : Nat) (f : Nat → Nat), hR S 7 x = some a ∧ hD S 63 a ∧ c a = 3 ∧ hL S a = 7 ∧ ∀ k, 1 ≤ k → k < 7 → hB S a k = some (f k) ∧ hD S (22 + k) (f k) ∧ c (f k) = 3 ∧ hR S (100 * (22 + k)) (f k) = some x)
theorem xTop.d {S : HS} {c : HC} {x su st gr : Nat} (h : xTop S c x su st gr) : hD S 0 x := h.1
theorem xTop.cx {S : HS} {c : HC} {x su st gr : Nat} (h : xTop S c x su st gr) : c x = 1 := h.2.1
theorem xTop.su {S : HS} {c : HC} {x su st gr : Nat} (h : xTop S c x su st gr) : hR S 2 x = some su := h.2.2.1
theorem xTop.st {S : HS} {c : HC} {x su st gr : Nat} (h : xTop S c x su st gr) : hR S 3 x = some st := h.2.2.2.1
theorem xTop.g {S : HS} {c : HC} {x su st gr : Nat} (h : xTop S c x su st gr) : hR S 8 x = some gr := h.2.2.2.2.1
theorem xTop.gd {S : HS} {c : HC} {x su st gr : Nat} (h : xTop S c x su st gr) : hD S 50 gr := h.2.2.2.2.2.1
theorem xTop.gc {S : HS} {c : HC} {x su st gr : Nat} (h : xTop S c x su st gr) : c gr = 2 := h.2.2.2.2.2.2.1
theorem xTop.gl {S : HS} {c : HC} {x su st gr : Nat} (h : xTop S c x su st gr) : hL S gr = 129 := h.2.2.2.2.2.2.2.1
theorem xTop.ck {S : HS} {c : HC} {x su st gr : Nat} (h : xTop S c x su st gr) : ∃ (a : Nat) (f : Nat → Nat), hR S 7 x = some a ∧ hD S 63 a ∧ c a = 3 ∧ hL S a = 7 ∧ ∀ k, 1 ≤ k → k < 7 → hB S a k = some (f k) ∧ hD S (22 + k) (f k) ∧ c (f k) = 3 ∧ hR S (100 * (22 + k)) (f k) = some x := h.2.2.2.2.2.2.2.2
/-- the row of units anew -/
def sG (S : HS) (a : Nat) (h : Nat → Int32) : HS := (hD S, hI S, hR S, hL S, fun x => if x = a then h else hA S x, hB S)
theorem sG_A (S : HS) (a : Nat) (h : Nat → Int32) : hA (sG S a h) a = h := by simp [sG, hA]
theorem sG_ne {S : HS} {a b : Nat} {h : Nat → Int32} (e : b ≠ a) : hA (sG S a h) b = hA S b := by simp [sG, hA, e]
theorem sG_self (S : HS) (a : Nat) : sG S a (hA S a) = S := by
  obtain ⟨D, I, R, L, A, B⟩ := S
  simp only [sG, hA]
  congr 4
  simp only [Prod.mk.injEq, and_true]
  funext x
  split
  · rename_i q; rw [q]
  · rfl
theorem sG_sG (S : HS) (a : Nat) (h h' : Nat → Int32) : sG (sG S a h) a h' = sG S a h' := by
  simp only [sG, hA, hD, hI, hR, hL, hB]
  congr 4
  simp only [Prod.mk.injEq, and_true]
  funext x
  split <;> rfl
theorem sA_sG (S : HS) (a : Nat) (h : Nat → Int32) (i : Nat) (v : Int32) : sA (sG S a h) a i v = sG S a (upd h i v) := by
  simp only [sA, sG, up2, hA, hD, hI, hR, hL, hB, upd]
  congr 4
  simp only [Prod.mk.injEq, and_true]
  funext x j
  by_cases e : x = a
  · subst e; simp [up2, upd]
  · simp [e, up2, upd]
section
variable {S : HS} {c : HC} {ke : Nat} {gr : Nat} {h : Nat → Int32}
theorem xEv.sG {e : Nat} {r : Nat → Int32} (H : xEv S c e r) (hg : c gr = 2) : xEv (sG S gr h) c e r := by
  obtain ⟨n, a1, a2, a3, a4, a5⟩ := H.ne
  refine ⟨H.d, H.c0, H.ty, H.gu, H.du, n, a1, a2, a3, a4, fun k hk => ?_⟩
  rw [sG_ne (fun q => by rw [q, hg] at a3; cases a3)]
  exact a5 k hk
theorem xLs.sG {q l n : Nat} {f : Nat → Nat} (H : xLs ke S c q l n f) : xLs ke (sG S gr h) c q l n f := ⟨H.d, H.cl, H.nn, H.nl, H.a⟩
theorem xBk.sG {q b : Nat} {g r : Nat → Int32} {out : Int32} (H : xBk S c q b g r out) (hg : c gr = 2) : xBk (sG S gr h) c q b g r out :=
  ⟨H.d, H.cb, H.ev.imp fun e he => ⟨he.1, he.2.sG hg⟩, H.ha, H.st, H.pr, H.fe, H.ac, H.ou⟩
theorem xRq.sG {o : Nat} {r : Nat → Int32} (H : xRq S c o r) (hg : c gr = 2) : xRq (sG S gr h) c o r :=
  ⟨H.d, H.c0, H.ev.imp fun e he => ⟨he.1, he.2.sG hg⟩, H.ha, H.st⟩
theorem xCl.sG {o : Nat} {r : Nat → Int32} (H : xCl S c o r) : xCl (sG S gr h) c o r := ⟨H.d, H.c0, H.ha, H.fr, H.to⟩
theorem xSt.sG {q st : Nat} {g n out : Nat → Int32} {bk : Nat → Nat} (H : xSt ke S c q st g n out bk) (hg : c gr = 2) : xSt ke (sG S gr h) c q st g n out bk :=
  ⟨H.d, H.cs, H.cl, H.no, H.b.imp fun l hl => ⟨hl.1, hl.2.sG⟩, fun k hk => (H.bb k hk).sG hg, H.bi, H.r.imp fun l hl => hl.imp fun rq hr => ⟨hr.1, hr.2.1.sG, fun k hk => (hr.2.2 k hk).sG hg⟩,
    H.s.imp fun a ha => ⟨ha.1, ha.2.1, ha.2.2.1, ha.2.2.2.1, fun k hk => (ha.2.2.2.2.1 k hk).imp fun o ho => ⟨ho.1, ho.2.sG⟩, ha.2.2.2.2.2⟩⟩
theorem xSu.sG {q : Nat → Nat} {su : Nat} {g : Nat → Int32} (H : xSu ke S c q su g) (hg : c gr = 2) (hq : q 4 ≠ 2 ∧ q 8 ≠ 2) : xSu ke (sG S gr h) c q su g := by
  refine ⟨H.d, H.cs, H.ty, H.cl, H.wn, H.fn, H.we, H.h.imp fun l hl => hl.imp fun f hf => ⟨hf.1, hf.2.1.sG, hf.2.2⟩, H.k.imp fun l hl => hl.imp fun f hf => ⟨hf.1, hf.2.1.sG, hf.2.2⟩, ?_, H.s.imp fun a ha => ⟨ha.1, ha.2.1, ha.2.2.1, ha.2.2.2.1, fun k hk => (ha.2.2.2.2.1 k hk).imp fun o ho => ⟨ho.1, ho.2.sG⟩, ha.2.2.2.2.2⟩, H.w, ?_⟩
  · obtain ⟨a, f, h1, h2, h3, h4, h5, h6⟩ := H.be
    refine ⟨a, f, h1, h2, h3, h4, fun i hi => ?_, h6⟩
    obtain ⟨b1, b2, b3, b4, b5⟩ := h5 i hi
    refine ⟨b1, b2, b3, b4, fun j hj => ?_⟩
    rw [sG_ne (fun e => by rw [e, hg] at b3; exact hq.1 b3.symm)]
    exact b5 j hj
  · obtain ⟨a, fd, p, h1, h2, h3, h4, h5, h6, h7, h8, h9, h10, h11⟩ := H.f
    refine ⟨a, fd, p, h1, h2, h3, h4, h5, h6, h7, h8, fun k hk => ?_, h10, h11⟩
    obtain ⟨o, b1, b2, b3, b4, b5, b6, b7⟩ := h9 k hk
    refine ⟨o, b1, b2, b3, b4, b5, b6, ?_⟩
    rw [sG_ne (fun e => by rw [e, hg] at h7; exact hq.2 h7.symm)]
    exact b7
theorem xTop.sG {x su st : Nat} (H : xTop S c x su st gr) : xTop (sG S gr h) c x su st gr := ⟨H.d, H.cx, H.su, H.st, H.g, H.gd, H.gc, H.gl, H.ck⟩
end
/-! lists are read -/
theorem x_size {ke : Nat} {S : HS} {c : HC} {q l n : Nat} {f : Nat → Nat} {post : Int32 → Prop} (H : xLs ke S c q l n f) (h : post (nI n)) : wX_J2_size post l S := ⟨H.d, by rw [H.nn]; exact h⟩
theorem x_checkIndex {k n : Nat} {post : Int32 → Prop} {S : HS} (hk : k < n) (hn : n < 2147483648) (h : post (nI k)) : wX_J4_checkIndex post (nI k) (nI n) S := by
  unfold wX_J4_checkIndex wX_J5_checkIndex_o
  refine ⟨fun e => ?_, fun _ => ⟨fun _ => h, fun e => ?_⟩⟩
  · rw [zI_0, zI_lt (by omega) (by omega)] at e; omega
  · rw [zI_lt (by omega) (by omega)] at e; omega
theorem w_get {ke : Nat} {S : HS} {c : HC} {q l n k : Nat} {f : Nat → Nat} {post : Nat → Prop} (H : xLs ke S c q l n f) (hk : k < n) (h : post (f k)) : wX_J2_get post l (nI k) S := by
  have hn := H.nl
  obtain ⟨a, h1, h2, h3, h4, h5, h6⟩ := H.a
  refine ⟨H.d, ?_⟩
  rw [H.nn]
  refine x_checkIndex hk (by omega) ⟨H.d, a, h1, h2, zI_in' (by omega) (by omega), f k, ?_, h⟩
  rw [zI_nat (by omega)]
  exact h5 k hk
