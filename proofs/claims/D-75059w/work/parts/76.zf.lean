/-! PLAIN LAWS, zf: bytes are appended -/
theorem z_255 (i : Nat) (h : ¬ i < 8) : (255#32).getLsbD i = false := by
  rw [BitVec.getLsbD_ofNat, Nat.testBit_lt_two_pow (show 255 < 2 ^ i from Nat.lt_of_lt_of_le (by decide) (Nat.pow_le_pow_right (by decide) (show 8 ≤ i by omega)))]
  simp
theorem z_shift (v : Int32) (s : Nat) (h : s = 0 ∨ s = 8 ∨ s = 16 ∨ s = 24) : (v.toUInt32 >>> (nI s).toUInt32).toInt32 &&& (255 : Int32) = (v >>> nI s) &&& (255 : Int32) := by
  apply Int32.toBitVec_inj.mp
  apply BitVec.eq_of_getLsbD_eq
  intro i hi
  have e1 : (nI s).toBitVec.toNat % 32 = s := by rcases h with rfl | rfl | rfl | rfl <;> decide
  have e2 : ((nI s).toBitVec.smod 32#32).toNat = s := by rcases h with rfl | rfl | rfl | rfl <;> decide
  simp only [Int32.toBitVec_and, Int32.toBitVec_shiftRight, BitVec.getLsbD_and]
  by_cases hi8 : i < 8
  · congr 1
    simp [e1, e2, BitVec.getLsbD_sshiftRight]
    have : s + i < 32 := by omega
    simp [this]
    omega
  · have : (Int32.toBitVec 255) = 255#32 := rfl
    rw [this, z_255 i hi8]; simp
/-- a byte of a word -/
def zBt (v : Int32) (s : Nat) : Int32 := (v >>> nI s) &&& 255
/-- the k-th of twenty bytes -/
def zBk (w : Nat → Int32) (k : Nat) : Int32 := zBt (w (k / 4)) (24 - 8 * (k % 4))
def zBn (b : Int32) : Nat := if b = 0 then 0 else 1
theorem z_b20 : ∀ k : Fin 20, (nI k.val / 4).toNatClampNeg = k.val / 4 ∧ ((24 : Int32) - 8 * (nI k.val - nI k.val / 4 * 4)).toUInt32 &&& Int32.toUInt32 31 = (nI (24 - 8 * (k.val % 4))).toUInt32 ∧ ¬ (nI k.val / 4 : Int32) < 0 := by decide +kernel
theorem x_byteOf {S : HS} {q k : Nat} {w : Nat → Int32} {post : Int32 → Prop} (hd : hD S 50 q) (hl : hL S q = 5) (hw : ∀ j, j < 5 → hA S q j = w j) (hk : k < 20) (h : post (zBk w k)) : wX_X1_byteOf post q (nI k) S := by
  obtain ⟨a1, a2, a3⟩ := z_b20 ⟨k, hk⟩
  dsimp only at a1 a2 a3
  refine ⟨hd, ?_, ?_⟩
  · unfold vp_in
    rw [a1, hl]
    exact fun z => z.elim a3 (by omega)
  · rw [a1, a2, hw _ (by omega), z_shift _ _ (by omega)]
    exact h
/-- how many bytes of the first n count -/
def zCnt (w : Nat → Int32) (n : Nat) : Nat := zf (fun k a => a + zBn (zBk w k)) 0 n 0
theorem zCnt_succ (w : Nat → Int32) (n : Nat) : zCnt w (n + 1) = zCnt w n + zBn (zBk w n) := by
  unfold zCnt; rw [zf_succ, Nat.zero_add]
theorem zBn_le (b : Int32) : zBn b ≤ 1 := by unfold zBn; split <;> omega
theorem zCnt_le (w : Nat → Int32) (n : Nat) : zCnt w n ≤ n := by
  induction n with
  | zero => exact Nat.le_refl _
  | succ n ih => rw [zCnt_succ]; have := zBn_le (zBk w n); omega
theorem zCnt_mono (w : Nat → Int32) {m n : Nat} (h : m ≤ n) : zCnt w m ≤ zCnt w n := by
  induction n with
  | zero => rw [show m = 0 by omega]; exact Nat.le_refl _
  | succ n ih =>
    by_cases z : m = n + 1
    · rw [z]; exact Nat.le_refl _
    · rw [zCnt_succ]; have := ih (by omega); omega
/-- what is stored of a byte -/
def zSb (b : Int32) : Int32 := (b.toInt8.toInt32).toInt8.toInt32
/-- a byte comes -/
def zBr (b : Int32) (p : MF × MG) : MF × MG := if b = 0 then p else (upd p.1 14 (p.1 14 + 1), mg p.2 13 (upd (p.2 13) (cn (p.1 14)) (zSb b)))
def zApp (w : Nat → Int32) (n : Nat) (p : MF × MG) : MF × MG := zf (fun k p => zBr (zBk w k) p) 0 n p
theorem zApp_succ (w : Nat → Int32) (n : Nat) (p : MF × MG) : zApp w (n + 1) p = zBr (zBk w n) (zApp w n p) := by
  unfold zApp; rw [zf_succ, Nat.zero_add]
/-- what appending keeps -/
theorem zApp_is {F : MF} {G : MG} (w : Nat → Int32) (n : Nat) : (zApp w n (F, G)).1 14 = F 14 + nI (zCnt w n) ∧ (∀ k, k ≠ 14 → (zApp w n (F, G)).1 k = F k) ∧ ∀ k, k ≠ 13 → (zApp w n (F, G)).2 k = G k := by
  induction n with
  | zero => exact ⟨by show F 14 = F 14 + nI 0; exact (Int32.add_zero _).symm, fun _ _ => rfl, fun _ _ => rfl⟩
  | succ n ih =>
    obtain ⟨h1, h2, h3⟩ := ih
    rw [zApp_succ, zCnt_succ]
    unfold zBr zBn
    by_cases z : zBk w n = 0
    · rw [if_pos z, if_pos z, Nat.add_zero]; exact ⟨h1, h2, h3⟩
    · rw [if_neg z, if_neg z]
      refine ⟨?_, fun k hk => (if_neg hk).trans (h2 k hk), fun k hk => (mg_ne hk).trans (h3 k hk)⟩
      show (zApp w n (F, G)).1 14 + 1 = _
      rw [h1, ← zI_add, Int32.add_assoc]; rfl
def zWords (a b c d e : Int32) : Nat → Int32 := fun j => if j = 0 then a else if j = 1 then b else if j = 2 then c else if j = 3 then d else e
def oAppend (F : MF) (G : MG) (w : Nat → Int32) : ZR := if 800 < cn (F 14) + zCnt w 20 then (1, 0, F, G) else (0, F 14 + nI (zCnt w 20), (zApp w 20 (F, G)).1, (zApp w 20 (F, G)).2)
section
variable {ke : Nat} {kc : Nat → Nat} {S S' : HS} {c c' : HC} {x κ : Nat} {ad qs : Nat → Nat} {bks : Nat → Nat → Nat} {F F' : MF} {G G' : MG} {W : Nat → Prop} {px : String → Nat → HS → Prop} {mc ms : Nat}
/-- a byte is stored -/
theorem x_byte {B : Nat} {v : Int32} (R : xRX ke S c x ad qs bks F G) (hB : B % 10 = 0 ∧ 10 ≤ B ∧ ∀ i, i < 10 → qs i < B) (hbd : ∀ a t, hD S t a → c a < B) (hl : (F 14).toInt < 800) : xGo S c (sI (sA S (ad 3) (cn (F 14)) v) 1 x (F 14 + 1)) c (fun a => a = x ∨ a = ad 3) B ∧ xRX ke (sI (sA S (ad 3) (cn (F 14)) v) 1 x (F 14 + 1)) c x ad qs bks (upd F 14 (F 14 + 1)) (mg G 13 (upd (G 13) (cn (F 14)) v)) := by
  obtain ⟨a1, a2, a3, a4, a5, a6, a7, a8, a9⟩ := R.bu
  have g1 := gA S c (ad 3) (cn (F 14)) v B
  have g2 := gI (sA S (ad 3) (cn (F 14)) v) c 1 x (F 14 + 1) B
  have GG : xGo S c (sI (sA S (ad 3) (cn (F 14)) v) 1 x (F 14 + 1)) c (fun a => a = x ∨ a = ad 3) B := (g1.mono (fun _ _ z => .inr z)).go g2 (fun _ _ z => .inl z)
  have E := GG.E
  have wx : ∀ a, c a ≠ 1 → c a ≠ 4 → ¬ (a = x ∨ a = ad 3) := fun a h1 h4 z => z.elim (R.x1 a h1) (fun z => h4 (by rw [z]; exact a4))
  have q0 := R.q.1
  obtain ⟨z1, z2⟩ := z_succ (i := F 14) (N := 800) ⟨a7, hl⟩ (by decide)
  refine ⟨GG, R.upd GG (fun a z => z.elim .inl (fun z => .inr (.inl (by rw [z]; exact a4)))) (fun k _ => rfl) (fun i _ => rfl) rfl ⟨R.P.T.st, R.P.V.ext E (fun a z => wx a (by have := q0 0 (by decide); omega) (by have := q0 0 (by decide); omega))⟩ R.N R.sep R.out ⟨a5, sI_eq _ _ _ _, ?_, ?_, fun i hi => ?_⟩ R.D ⟨R.dr.1, R.dr.2.ext E (fun a z => wx a (by omega) (by omega))⟩ (R.sv' E (fun a z => wx a (by have := q0 1 (by decide); omega) (by have := q0 1 (by decide); omega)) rfl) (R.hi' E (fun a z => by
    rcases z with z | z | z | ⟨k, hk, z⟩
    · exact wx a (by omega) (by omega)
    · exact wx a (by omega) (by omega)
    · exact wx a (by omega) (by omega)
    · have := q0 (2 + k) (by omega)
      exact wx a (by omega) (by omega))) R.q ⟨B + 10, by omega, by omega, fun i hi => by have := hB.2.2 i hi; omega, GG.bd hbd⟩⟩
  · show 0 ≤ (F 14 + 1).toInt
    omega
  · show (F 14 + 1).toInt ≤ 800
    omega
  · have hi' : i < cn (F 14 + 1) := hi
    show hA (sA S (ad 3) (cn (F 14)) v) (ad 3) i = upd (G 13) (cn (F 14)) v i
    by_cases z : i = cn (F 14)
    · rw [z, sA_eq]; exact (if_pos rfl).symm
    · rw [sA_ne (.inr z), a9 i (by omega)]; exact (if_neg z).symm
theorem X_append {a b d e f : Int32} {post : Int32 → HS → Prop} (R : xRX ke S c x ad qs bks F G) (p : xDone ke x F G (oAppend F G (zWords a b d e f)) (fun _ => "java/lang/IllegalStateException") post px) (hc : 2 ≤ mc) (hs : 11 ≤ ms) : wX_X1_append post px mc ms x a b d e f S := by
  obtain ⟨B, b1, b2, b3, b4⟩ := R.bd
  have t5 : ((5 : Int32).toNatClampNeg) = 5 := rfl
  have t0 : ((0 : Int32).toNatClampNeg) = 0 := rfl
  have t1 : ((1 : Int32).toNatClampNeg) = 1 := rfl
  have t2 : ((2 : Int32).toNatClampNeg) = 2 := rfl
  have t3 : ((3 : Int32).toNatClampNeg) = 3 := rfl
  have t4 : ((4 : Int32).toNatClampNeg) = 4 := rfl
  refine ⟨by omega, by rw [t5]; omega, fun q nq => ?_⟩
  rintro _ rfl
  rw [t5, t0, t1, t2, t3, t4]
  have l5 : hL (nA S 50 q 5) q = 5 := nA_L S 50 q 5
  have vi : ∀ k : Nat, k < 5 → vp_in (nI k) 5 := fun k hk => zI_in' (by omega) hk
  refine ⟨by rw [l5]; exact vi 0 (by decide), ?_⟩
  rintro _ rfl
  refine ⟨by show vp_in 1 (hL (nA S 50 q 5) q); rw [l5]; exact vi 1 (by decide), ?_⟩
  rintro _ rfl
  refine ⟨by show vp_in 2 (hL (nA S 50 q 5) q); rw [l5]; exact vi 2 (by decide), ?_⟩
  rintro _ rfl
  refine ⟨by show vp_in 3 (hL (nA S 50 q 5) q); rw [l5]; exact vi 3 (by decide), ?_⟩
  rintro _ rfl
  refine ⟨by show vp_in 4 (hL (nA S 50 q 5) q); rw [l5]; exact vi 4 (by decide), ?_⟩
  rintro _ rfl
  have ne : ∀ z, (∃ t, hD S t z) → ¬ z = q := fun z ⟨t, dd⟩ => nq.ne dd
  have g1 := gNone (gNone (gNone (gNone (gNone (gN c 50 0 5 (κ := B) nq (by omega)) (gA _ _ q 0 a B) ne) (gA _ _ q 1 b B) ne) (gA _ _ q 2 d B) ne) (gA _ _ q 3 e B) ne) (gA _ _ q 4 f B) ne
  have dq : hD (sA (sA (sA (sA (sA (nA S 50 q 5) q 0 a) q 1 b) q 2 d) q 3 e) q 4 f) 50 q := nA_D S 50 q 5
  have lq : hL (sA (sA (sA (sA (sA (nA S 50 q 5) q 0 a) q 1 b) q 2 d) q 3 e) q 4 f) q = 5 := l5
  have aq : ∀ j, j < 5 → hA (sA (sA (sA (sA (sA (nA S 50 q 5) q 0 a) q 1 b) q 2 d) q 3 e) q 4 f) q j = zWords a b d e f j := fun j hj => by
    simp only [sA_A, if_true]
    have : j = 0 ∨ j = 1 ∨ j = 2 ∨ j = 3 ∨ j = 4 := by omega
    rcases this with rfl | rfl | rfl | rfl | rfl <;> simp [zWords]
  generalize sA (sA (sA (sA (sA (nA S 50 q 5) q 0 a) q 1 b) q 2 d) q 3 e) q 4 f = S1 at *
  generalize zWords a b d e f = w at *
  have R1 : xRX ke S1 (cU c q 0) x ad qs bks F G := R.other ⟨b1, b2, b3⟩ b4 g1 (fun a z => z.elim)
  have bd1 := g1.bd b4
  have cq : cU c q 0 q = 0 := cU_eq c q 0
  generalize cU c q 0 = c1 at *
  obtain ⟨u1, u2, u3, u4, u5, u6, u7, u8, u9⟩ := R1.bu
  have cF : (cn (F 14) : Int) = (F 14).toInt := cn_int u7
  have c20 := zCnt_le w 20
  -- the bytes are stored
  have store : cn (F 14) + zCnt w 20 ≤ 800 → ∀ (mc ms : Nat), ∃ n, wX_X1_append_l90 post px x a b d e f n q 0 mc ms S1 := by
    intro fit mc ms
    rw [oAppend, if_neg (by omega)] at p
    refine zloop (σ := Nat × HS) (fun m s => wX_X1_append_l90 post px x a b d e f m q (nI s.1) mc ms s.2) (fun s => s.1 ≤ 20 ∧ xRX ke s.2 c1 x ad qs bks (zApp w s.1 (F, G)).1 (zApp w s.1 (F, G)).2 ∧ hD s.2 50 q ∧ hL s.2 q = 5 ∧ ∀ j, j < 5 → hA s.2 q j = w j) (fun s => 20 - s.1) ?_ (0, S1) ⟨Nat.zero_le _, R1, dq, lq, aq⟩
    rintro m ⟨k, S2⟩ ⟨hk, R2, d2, l2, a2⟩ next
    dsimp only at hk R2 d2 l2 a2 next ⊢
    obtain ⟨v1, v2, v3, v4, v5, v6, v7, v8, v9⟩ := R2.bu
    obtain ⟨z1, z2, z3⟩ := zApp_is (F := F) (G := G) w k
    have ck := zCnt_le w k
    have len : ((zApp w k (F, G)).1 14).toInt = (F 14).toInt + zCnt w k := by
      rw [z1, z_add] <;> rw [zI_toInt (by omega)] <;> omega
    refine ⟨fun z => ⟨R2.P.T.d, ?_⟩, fun z => x_byteOf d2 l2 a2 (by rw [show (20 : Int32) = nI 20 from rfl, zI_le (by omega) (by omega)] at z; omega) ⟨fun z0 => ?_, fun z0 => ⟨R2.P.T.d, ad 3, v1, x_byteOf d2 l2 a2 (by rw [show (20 : Int32) = nI 20 from rfl, zI_le (by omega) (by omega)] at z; omega) ?_⟩⟩⟩
    · rw [show (20 : Int32) = nI 20 from rfl, zI_le (by omega) (by omega)] at z
      have e20 : k = 20 := by omega
      subst e20
      rw [v6, z1]
      exact p.1 rfl _ ⟨_, _, _, _, R2⟩
    · rw [zI_1, zI_add]
      rw [show (20 : Int32) = nI 20 from rfl, zI_le (by omega) (by omega)] at z
      have e0 : zApp w (k + 1) (F, G) = zApp w k (F, G) := by rw [zApp_succ]; unfold zBr; rw [if_pos z0]
      exact next (k + 1, S2) ⟨by dsimp only; omega, by dsimp only; rw [e0]; exact R2, d2, l2, a2⟩ (by dsimp only; omega)
    · rw [show (20 : Int32) = nI 20 from rfl, zI_le (by omega) (by omega)] at z
      have cm := zCnt_mono w (show k + 1 ≤ 20 by omega)
      rw [zCnt_succ] at cm
      have n1 : zBn (zBk w k) = 1 := if_neg z0
      have lt : ((zApp w k (F, G)).1 14).toInt < 800 := by omega
      refine ⟨v2, ?_, v3, ?_⟩
      · rw [v6, v5]; exact z_in' v7 (by omega)
      rintro _ rfl
      rw [v6]
      rintro _ rfl
      have i1 : hI (sA S2 (ad 3) ((zApp w k (F, G)).1 14).toNatClampNeg ((zBk w k).toInt8.toInt32).toInt8.toInt32) 1 x = (zApp w k (F, G)).1 14 := v6
      rw [i1]
      obtain ⟨B2, y1, y2, y3, y4⟩ := R2.bd
      obtain ⟨GG, R3⟩ := x_byte (v := zSb (zBk w k)) R2 ⟨y1, y2, y3⟩ y4 lt
      have wq : ¬ (q = x ∨ q = ad 3) := fun y => y.elim (fun y => by rw [y, R2.P.T.cx] at cq; cases cq) (fun y => by rw [y, v4] at cq; cases cq)
      rw [zI_1, zI_add]
      have e0 : zApp w (k + 1) (F, G) = (upd (zApp w k (F, G)).1 14 ((zApp w k (F, G)).1 14 + 1), mg (zApp w k (F, G)).2 13 (upd ((zApp w k (F, G)).2 13) (cn ((zApp w k (F, G)).1 14)) (zSb (zBk w k)))) := by rw [zApp_succ]; unfold zBr; rw [if_neg z0]
      exact next (k + 1, _) ⟨by dsimp only; omega, by dsimp only; rw [e0]; exact R3, GG.E.D d2, (GG.E.L d2 wq).trans l2, fun j hj => (GG.E.A d2 wq j).trans (a2 j hj)⟩ (by dsimp only; omega)
  -- the bytes are counted
  refine zup (L := fun m k => wX_X1_append_l33 post px x a b d e f m q (nI (zCnt w (cn k))) k (mc - 1) (ms - 5) S1) 20 (by decide) (fun _ => True) ?_ 0 (Nat.zero_le _) trivial
  intro m k hk _ next
  have ckk : cn (nI k) = k := zI_nat (by omega)
  rw [ckk]
  have ck1 : cn (nI k + 1) = k + 1 := by rw [zI_1, zI_add]; exact zI_nat (by omega)
  rw [ck1, zCnt_succ] at next
  have ck := zCnt_le w k
  refine ⟨fun z => ⟨R1.P.T.d, ?_⟩, fun z => x_byteOf dq lq aq (by rw [show (20 : Int32) = nI 20 from rfl, zI_le (by omega) (by omega)] at z; omega) ⟨fun z0 => ?_, fun z0 => ?_⟩⟩
  · rw [show (20 : Int32) = nI 20 from rfl, zI_le (by omega) (by omega)] at z
    have e20 : k = 20 := by omega
    subst e20
    rw [u6]
    have le : (F 14 + nI (zCnt w 20)).toInt = (F 14).toInt + zCnt w 20 := by
      rw [z_add] <;> rw [zI_toInt (by omega)] <;> omega
    rw [z_lt, le]
    simp only [show (800 : Int32).toInt = 800 from rfl]
    refine ⟨fun y => ⟨by omega, by omega, x_needState (p := false) (fun z => by cases z) (fun _ q' _ => ?_) (by decide) (by decide)⟩, fun y => ⟨by omega, by omega, x_needState (p := true) (fun _ => store (by omega) _ _) (fun z => by cases z) (by decide) (by decide)⟩⟩
    rw [oAppend, if_pos (by omega)] at p
    exact p.2 (by show (1 : Nat) ≠ 0; decide) q' S1 ⟨_, _, _, _, R1⟩
  · rw [show (20 : Int32) = nI 20 from rfl, zI_le (by omega) (by omega)] at z
    rintro _ rfl
    have := next (by omega) trivial
    rw [show zBn (zBk w k) = 0 from if_pos z0, Nat.add_zero] at this
    rw [Int32.add_zero]; exact this
  · rw [show (20 : Int32) = nI 20 from rfl, zI_le (by omega) (by omega)] at z
    rintro _ rfl
    have := next (by omega) trivial
    rw [show zBn (zBk w k) = 1 from if_neg z0, ← zI_add] at this
    exact this
end
