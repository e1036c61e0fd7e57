/-! PLAIN LAWS, zg: bytes are appended, the model -/
/-- a word's bytes that count -/
def zC4 (v : Int32) : Nat := zBn (zBt v 24) + zBn (zBt v 16) + zBn (zBt v 8) + zBn (zBt v 0)
theorem zC4_le (v : Int32) : zC4 v ≤ 4 := by
  unfold zC4
  have := zBn_le (zBt v 24)
  have := zBn_le (zBt v 16)
  have := zBn_le (zBt v 8)
  have := zBn_le (zBt v 0)
  omega
theorem z_b4 : ∀ k : Fin 4, ((8 : Int32) * nI k.val) &&& 31 = nI (8 * k.val) := by decide +kernel
theorem m_bytesOf {post : Int32 → Prop} {F : MF} {G : MG} {v : Int32} (h : post (nI (zC4 v))) : wM_bytesOf post v F G := by
  refine zfold (α := Nat) (L := fun m a k => wM_bytesOf_l4 post F G m v (nI a) k) (fun _ => True) (n := 4) (f := fun k a => a + zBn (zBt v (8 * k))) (post := fun a => post (nI a)) (by decide) (fun _ _ _ _ => trivial) ?_ 0 trivial ?_
  · intro m k a hk _ p1 p2
    simp only [wM_bytesOf_l4, wM_bytesOf_b4]
    rw [show (4 : Int32) = nI 4 from rfl, zI_le (by omega) (by omega)]
    refine ⟨fun e => p1 (by omega), fun e => ?_⟩
    have p2 := p2 (by omega)
    have b4 := z_b4 ⟨k, by omega⟩
    dsimp only at b4
    rw [b4]
    refine ⟨fun z => ?_, fun z => ?_⟩
    · rintro _ rfl
      rw [show zBn (zBt v (8 * k)) = 0 from if_pos z, Nat.add_zero] at p2
      rw [Int32.add_zero]; exact p2
    · rintro _ rfl
      rw [show zBn (zBt v (8 * k)) = 1 from if_neg z, ← zI_add] at p2
      exact p2
  · have e : zf (fun k a => a + zBn (zBt v (8 * k))) 0 4 0 = zC4 v := by
      show 0 + zBn (zBt v 0) + zBn (zBt v 8) + zBn (zBt v 16) + zBn (zBt v 24) = _
      unfold zC4
      omega
    rw [e]; exact h
/-- a byte's length -/
theorem zBr_len {b : Int32} {p : MF × MG} (h0 : 0 ≤ (p.1 14).toInt) (h : (p.1 14).toInt + zBn b ≤ 800) : ((zBr b p).1 14).toInt = (p.1 14).toInt + zBn b := by
  unfold zBr zBn at *
  by_cases z : b = 0
  · rw [if_pos z, if_pos z]; simp
  · rw [if_neg z] at h
    rw [if_neg z, if_neg z]
    show (p.1 14 + 1).toInt = _
    rw [z_add] <;> simp only [show (1 : Int32).toInt = 1 from rfl] <;> omega
theorem z_sh : ∀ s : Fin 32, (nI s.val) &&& (31 : Int32) = nI s.val ∧ ¬ nI s.val < 0 := by decide +kernel
theorem m_brStep {post : MF → MG → Prop} {p : MF × MG} {v : Int32} {s m : Nat} (hs : s < 32) (h0 : 0 ≤ (p.1 14).toInt) (hf : (p.1 14).toInt + zBn (zBt v s) ≤ 800) (h : wM_brings_l3 post m v (nI s + (-8 : Int32)) (zBr (zBt v s) p).1 (zBr (zBt v s) p).2) : wM_brings_l3 post (m + 1) v (nI s) p.1 p.2 := by
  obtain ⟨s1, s2⟩ := z_sh ⟨s, hs⟩
  dsimp only at s1 s2
  simp only [wM_brings_l3, wM_brings_b3]
  rw [s1]
  refine ⟨fun z => absurd z s2, fun _ => ?_⟩
  rintro _ rfl
  refine ⟨fun z => ?_, fun z => ?_⟩
  · have e : zBr (zBt v s) p = p := if_pos z
    rw [e] at h; exact h
  · have e : zBr (zBt v s) p = (upd p.1 14 (p.1 14 + 1), mg p.2 13 (upd (p.2 13) (cn (p.1 14)) (zSb (zBt v s)))) := if_neg z
    rw [e] at h
    have n1 : zBn (zBt v s) = 1 := if_neg z
    refine ⟨z_in' h0 (by omega), ?_⟩
    rintro _ rfl _ rfl
    exact h
def zBr4 (v : Int32) (p : MF × MG) : MF × MG := zBr (zBt v 0) (zBr (zBt v 8) (zBr (zBt v 16) (zBr (zBt v 24) p)))
theorem zBr4_len {v : Int32} {p : MF × MG} (h0 : 0 ≤ (p.1 14).toInt) (hf : (p.1 14).toInt + zC4 v ≤ 800) : ((zBr4 v p).1 14).toInt = (p.1 14).toInt + zC4 v := by
  unfold zC4 at *
  have l1 := zBr_len (b := zBt v 24) (p := p) h0 (by omega)
  have l2 := zBr_len (b := zBt v 16) (p := zBr (zBt v 24) p) (by omega) (by omega)
  have l3 := zBr_len (b := zBt v 8) (p := zBr (zBt v 16) (zBr (zBt v 24) p)) (by omega) (by omega)
  have l4 := zBr_len (b := zBt v 0) (p := zBr (zBt v 8) (zBr (zBt v 16) (zBr (zBt v 24) p))) (by omega) (by omega)
  unfold zBr4
  omega
theorem m_brings {post : MF → MG → Prop} {v : Int32} {p : MF × MG} (h0 : 0 ≤ (p.1 14).toInt) (hf : (p.1 14).toInt + zC4 v ≤ 800) (h : post (zBr4 v p).1 (zBr4 v p).2) : wM_brings post v p.1 p.2 := by
  unfold zC4 at hf
  have l1 := zBr_len (b := zBt v 24) (p := p) h0 (by omega)
  have l2 := zBr_len (b := zBt v 16) (p := zBr (zBt v 24) p) (by omega) (by omega)
  have l3 := zBr_len (b := zBt v 8) (p := zBr (zBt v 16) (zBr (zBt v 24) p)) (by omega) (by omega)
  refine ⟨5, m_brStep (s := 24) (by decide) h0 (by omega) ?_⟩
  rw [show nI 24 + (-8 : Int32) = nI 16 by decide]
  refine m_brStep (s := 16) (by decide) (by omega) (by omega) ?_
  rw [show nI 16 + (-8 : Int32) = nI 8 by decide]
  refine m_brStep (s := 8) (by decide) (by omega) (by omega) ?_
  rw [show nI 8 + (-8 : Int32) = nI 0 by decide]
  refine m_brStep (s := 0) (by decide) (by omega) (by omega) ?_
  refine ⟨fun _ => h, fun z => absurd (by decide) z⟩
theorem zApp_20 (a b c d e : Int32) (p : MF × MG) : zApp (zWords a b c d e) 20 p = zBr4 e (zBr4 d (zBr4 c (zBr4 b (zBr4 a p)))) := by
  simp [zApp, zf, zBk, zWords, zBr4]
theorem zCnt_20 (a b c d e : Int32) : zCnt (zWords a b c d e) 20 = zC4 a + zC4 b + zC4 c + zC4 d + zC4 e := by
  simp [zCnt, zf, zBk, zWords, zC4]
  omega
theorem zApp_14 {F F1 : MF} {G : MG} (w : Nat → Int32) (n : Nat) (h : F1 14 = F 14) : (zApp w n (F1, G)).1 14 = (zApp w n (F, G)).1 14 ∧ (zApp w n (F1, G)).2 = (zApp w n (F, G)).2 := by
  induction n with
  | zero => exact ⟨h, rfl⟩
  | succ n ih =>
    obtain ⟨h1, h2⟩ := ih
    rw [zApp_succ, zApp_succ]
    unfold zBr
    split
    · exact ⟨h1, h2⟩
    · dsimp only
      rw [h1, h2]
      exact ⟨rfl, rfl⟩
theorem M_append {a b c d e : Int32} {F : MF} {G : MG} {post : Int32 → MF → MG → Prop} (h : zOK G) (hl : 0 ≤ (F 14).toInt ∧ (F 14).toInt ≤ 800) (p : mDone (oAppend F G (zWords a b c d e)) post) : wM_append post a b c d e F G := by
  have cF := cn_int hl.1
  have ca := zC4_le a
  have cb := zC4_le b
  have cc := zC4_le c
  have cd := zC4_le d
  have ce := zC4_le e
  have c20 := zCnt_20 a b c d e
  rintro _ rfl
  refine m_bytesOf (m_bytesOf (m_bytesOf (m_bytesOf (m_bytesOf ?_))))
  have e14 : upd F 0 0 14 = F 14 := rfl
  have es : upd F 0 0 14 + nI (zC4 a) + nI (zC4 b) + nI (zC4 c) + nI (zC4 d) + nI (zC4 e) = F 14 + nI (zCnt (zWords a b c d e) 20) := by
    rw [e14, c20]
    simp only [← zI_add, Int32.add_assoc]
  have le : (F 14 + nI (zCnt (zWords a b c d e) 20)).toInt = (F 14).toInt + zCnt (zWords a b c d e) 20 := by
    rw [z_add] <;> rw [zI_toInt (by omega)] <;> omega
  rw [es, z_le, le]
  simp only [show (800 : Int32).toInt = 800 from rfl]
  refine ⟨fun fit => ?_, fun fit => ?_⟩
  · rw [oAppend, if_neg (by omega)] at p
    have f0 : ((upd F 0 0, G) : MF × MG).1 14 = F 14 := rfl
    have l1 := zBr4_len (v := a) (p := (upd F 0 0, G)) hl.1 (by rw [f0]; omega)
    rw [f0] at l1
    have l2 := zBr4_len (v := b) (p := zBr4 a (upd F 0 0, G)) (by omega) (by omega)
    have l3 := zBr4_len (v := c) (p := zBr4 b (zBr4 a (upd F 0 0, G))) (by omega) (by omega)
    have l4 := zBr4_len (v := d) (p := zBr4 c (zBr4 b (zBr4 a (upd F 0 0, G)))) (by omega) (by omega)
    refine m_brings (p := (upd F 0 0, G)) hl.1 (by rw [f0]; omega) (m_brings (by omega) (by omega) (m_brings (by omega) (by omega) (m_brings (by omega) (by omega) (m_brings (by omega) (by omega) ?_))))
    rw [← zApp_20]
    obtain ⟨z1, z2, z3⟩ := zApp_is (F := upd F 0 0) (G := G) (zWords a b c d e) 20
    obtain ⟨y1, y2⟩ := zApp_14 (F := F) (F1 := upd F 0 0) (G := G) (zWords a b c d e) 20 rfl
    obtain ⟨x1, x2, x3⟩ := zApp_is (F := F) (G := G) (zWords a b c d e) 20
    rw [z1]
    refine p _ _ (z2 0 (by decide)) ⟨(z2 11 (by decide)).trans (x2 11 (by decide)).symm, (z2 12 (by decide)).trans (x2 12 (by decide)).symm, y1, congrFun y2 1, congrFun y2 6, congrFun y2 8, congrFun y2 9, congrFun y2 10, congrFun y2 13, ?_⟩
    rw [z3 19 (by decide)]; exact h.out
  · rw [oAppend, if_pos (by omega)] at p
    exact m_fails (k := 1) h p
