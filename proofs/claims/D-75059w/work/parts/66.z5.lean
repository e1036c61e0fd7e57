/-! PLAIN LAWS, z5: book -/
theorem z_rw (b w : Nat) : (4 : Int32) + 13 * nI b + nI w = nI (4 + 13 * b + w) := by rw [z_row, zI_add]
theorem m_row {post : Int32 → Prop} {F : MF} {G : MG} {b : Nat} (h : post (nI (4 + 13 * b))) : wM_rowOf post (nI b) F G := m_rowOf (by rw [z_row]; exact h)
theorem m_puts {post : MF → MG → Prop} {F : MF} {G : MG} {b : Nat} {hall s : Int32} (hb : b < 60) (h : post F (mg G 8 (upd (upd (G 8) (4 + 13 * b + 9) hall) (4 + 13 * b + 10) s))) : wM_puts post (nI b) hall s F G := by
  unfold wM_puts
  refine m_row ?_
  rw [show nI (4 + 13 * b) + (9 : Int32) = nI (4 + 13 * b + 9) from zI_add _ 9, zI_nat (show 4 + 13 * b + 9 < 2147483648 by omega)]
  refine ⟨zI_in' (by omega) (by omega), ?_⟩
  rintro _ rfl
  refine m_row ?_
  rw [show nI (4 + 13 * b) + (10 : Int32) = nI (4 + 13 * b + 10) from zI_add _ 10, zI_nat (show 4 + 13 * b + 10 < 2147483648 by omega)]
  refine ⟨zI_in' (by omega) (by omega), ?_⟩
  rintro _ rfl
  rw [mu_eq G 8, mu_mg]
  exact h
theorem m_books {post : Int32 → MF → MG → Prop} {F : MF} {G : MG} {r o : Nat} {hall s : Int32} (hN : 0 ≤ (G 8 1).toInt ∧ (G 8 1).toInt < 60) (hr : m_ty r = 1) (ho : o + 9 ≤ m_ln r) (hl : m_ln r < 100000) (h8 : r ≠ 8 ∨ 784 ≤ o)
    (h : post (G 8 1) F (mg G 8 (sBooks (G 8) (fun w => G r (o + w)) hall s))) : wM_books post r (nI o) hall s F G := by
  have cb : cn (G 8 1) < 60 := cn_lt' hN.1 hN.2
  have en := cn_nI hN.1
  rintro _ rfl
  refine zcopy (L := fun n k G' => wM_books_l11 post r n (nI o) hall s (G 8 1) k F G') (K := 8) (x := 4 + 13 * cn (G 8 1)) (N := 9) (v := fun w => G r (o + w)) (by decide) (fun m => ⟨fun _ => ?_, fun z => absurd (by decide) z⟩) (fun m j g hj h1 h2 nx => ⟨fun z => ?_, fun _ => ?_⟩)
  · have eb : sBooks (G 8) (fun w => G r (o + w)) hall s = upd (upd (upd (upd (upd (zrow (G 8) (4 + 13 * cn (G 8 1)) 9 (fun w => G r (o + w))) (4 + 13 * cn (G 8 1) + 9) hall) (4 + 13 * cn (G 8 1) + 10) s) (4 + 13 * cn (G 8 1) + 11) 1) (4 + 13 * cn (G 8 1) + 12) 0) 1 (G 8 1 + 1) := rfl
    rw [eb] at h
    have z1 : zrow (G 8) (4 + 13 * cn (G 8 1)) 9 (fun w => G r (o + w)) 1 = G 8 1 := if_neg (by omega)
    generalize zrow (G 8) (4 + 13 * cn (G 8 1)) 9 (fun w => G r (o + w)) = Z at *
    rw [en] at h ⊢
    generalize G 8 1 = n1 at *
    generalize cn n1 = b at *
    have cc : cn (nI b) = b := zI_nat (by omega)
    rw [cc] at h
    refine m_puts cb ?_
    refine m_row ?_
    rw [show nI (4 + 13 * b) + (11 : Int32) = nI (4 + 13 * b + 11) from zI_add _ 11, zI_nat (show 4 + 13 * b + 11 < 2147483648 by omega)]
    refine ⟨zI_in' (by omega) (by omega), ?_⟩
    rintro _ rfl
    refine m_row ?_
    rw [show nI (4 + 13 * b) + (12 : Int32) = nI (4 + 13 * b + 12) from zI_add _ 12, zI_nat (show 4 + 13 * b + 12 < 2147483648 by omega)]
    refine ⟨zI_in' (by omega) (by omega), ?_⟩
    rintro _ rfl
    rintro _ rfl
    rw [mg_mg, mg_eq, mu_mg, mu_mg, mu_mg, mg_eq]
    have e1 : upd (upd (upd (upd Z (4 + 13 * b + 9) hall) (4 + 13 * b + 10) s) (4 + 13 * b + 11) 1) (4 + 13 * b + 12) 0 1 = nI b := by
      simp only [upd]
      rw [if_neg (by omega), if_neg (by omega), if_neg (by omega), if_neg (by omega), z1, ← en]
    rw [e1]
    exact h
  · rw [show (9 : Int32) = nI 9 from rfl, zI_le (by omega) (by omega)] at z; omega
  · rw [en]
    refine m_row ?_
    rw [zI_add, zI_add, zI_nat (show o + j < 2147483648 by omega), zI_nat (show 4 + 13 * cn (G 8 1) + j < 2147483648 by omega)]
    refine ⟨hr, zI_in' (by omega) (by omega), zI_in' (by omega) (by omega), ?_⟩
    rintro _ rfl
    rw [mu_mg]
    have ev : mg G 8 g r (o + j) = G r (o + j) := by
      by_cases z : r = 8
      · subst z
        rw [mg_eq]
        exact h1 _ (by have := h8.resolve_left (fun z => z rfl); omega)
      · rw [mg_ne z]
    rw [ev, ← en]
    exact nx
section
variable {ke : Nat} {kc : Nat → Nat} {S S' : HS} {c c' : HC} {x κ : Nat} {ad qs : Nat → Nat} {bks : Nat → Nat → Nat} {F F' : MF} {G G' : MG} {W : Nat → Prop} {px : String → Nat → HS → Prop} {mc ms : Nat}
theorem xRX.sG {g : Nat → Int32} (R : xRX ke S c x ad qs bks F G) : xRX ke (sG S (ad 2) g) c x ad qs bks F G := by
  have gc := R.P.T.gc
  obtain ⟨a1, a2, a3, a4, a5, a6, a7, a8, a9⟩ := R.bu
  refine ⟨R.P.sG, R.F, R.N, R.D, R.sep, R.out, R.kc, ⟨a1, a2, a3, a4, a5, a6, a7, a8, fun i hi => ?_⟩, ⟨R.dr.1, R.dr.2.sG gc⟩, ?_, ?_, R.lk, R.ho, R.so, R.q, R.bd⟩
  · rw [sG_ne (fun z => by rw [z, gc] at a4; cases a4)]; exact a9 i hi
  · rcases R.sv with h | ⟨h1, h2, h3, h4⟩
    · exact .inl h
    · exact .inr ⟨h1, h2, h3.sG gc, h4⟩
  · obtain ⟨h, e, h1, h2, h3⟩ := R.hi
    exact ⟨h, e, h1, ⟨h2.d, h2.cd, h2.a, h2.le⟩, fun k hk => ⟨(h3 k hk).1.sG gc, (h3 k hk).2⟩⟩
def oBook (F : MF) (G : MG) (h s : Int32) : ZR := if sSlot G h s = 0 then (if G 1 1 = 0 ∨ G 8 1 = 60 ∨ sDraftProb G h s ≠ 0 then (3, 0, F, G) else (0, G 8 1, sRemF F, mg (sRemG F G) 8 (sBooks (G 8) (G 6) h s))) else (sSlot G h s, 0, F, G)
theorem z_lt60 {i : Int32} (h : 0 ≤ i.toInt ∧ i.toInt ≤ 60) (n : ¬ i = 60) : i.toInt < 60 := by
  have : i.toInt ≠ 60 := fun e => n (Int32.toInt_inj.mp e)
  omega
/-- the rows that a record leaves -/
theorem sRem_same {F1 : MF} {G1 : MG} (e : zE G G1) (h : ∀ k, k ≠ 0 → F1 k = F k) : (∀ k, k ≠ 7 → k ≠ 20 → sRemG F1 G1 k = sRemG F G k) ∧ ∀ k, k ≠ 0 → sRemF F1 k = sRemF F k := by
  have e11 : F1 11 = F 11 := h 11 (by decide)
  have g8 := e 8 (by decide) (by decide)
  have g10 := e 10 (by decide) (by decide)
  constructor
  · intro k h7 h20
    unfold sRemG
    rw [e11, g8, g10]
    by_cases z : k = 10
    · subst z; split <;> rw [mg_eq, mg_eq]
    · split <;> rw [mg_ne z, mg_ne z] <;> exact e k h7 h20
  · intro k h0
    unfold sRemF
    rw [e11]
    split
    · exact h k h0
    · simp only [upd]
      split
      · rfl
      · exact h k h0
theorem mg_same {G1 G2 : MG} {Y : Nat → Int32} (h : ∀ k, k ≠ 7 → k ≠ 20 → G1 k = G2 k) : ∀ k, k ≠ 7 → k ≠ 20 → mg G1 8 Y k = mg G2 8 Y k := fun k h7 h20 => by
  by_cases z : k = 8
  · subst z; rw [mg_eq, mg_eq]
  · rw [mg_ne z, mg_ne z]; exact h k h7 h20
theorem upd_ne0 (F : MF) (v : Int32) : ∀ k, k ≠ 0 → upd F 0 v k = F k := fun k h => if_neg h
theorem M_book {hall s : Int32} {post : Int32 → MF → MG → Prop} (h : zOK G) (hc : ∃ h, F 11 = nI h ∧ h ≤ 8) (p : mDone (oBook F G hall s) post) : wM_book post hall s F G := by
  have l := sSlot_le G hall s
  refine m_whyNotSlot h.F ?_
  rintro _ rfl
  rw [upd0, zI_pos (by omega)]
  refine ⟨fun e => ?_, fun e => ?_⟩
  · rw [oBook, if_pos e] at p
    obtain ⟨a, b⟩ := sSlot_0.mp e
    have bad : (G 1 1 = 0 ∨ G 8 1 = 60 ∨ sDraftProb G hall s ≠ 0) → ∀ {v : Int32} {G1 : MG}, zE G G1 → wM_fails (fun r F' G' => post r F' G') (3 : Int32) (upd F 0 v) G1 := fun z v G1 eG => by
      rw [if_pos z] at p
      rintro _ rfl
      rw [upd_upd]
      exact p _ _ rfl (z_up h eG)
    refine ⟨fun e1 => bad (.inl e1) (zE.rf G), fun e1 => ⟨fun e2 => bad (.inr (.inl e2)) (zE.rf G), fun e2 => m_draftProblem2 h (zE.rf G) (sHall_iff.mp a) (sStart_iff.mp b) (fun G1 eG => ⟨fun e3 => ?_, fun e3 => bad (.inr (.inr e3)) eG⟩)⟩⟩
    rw [if_neg (fun z => z.elim e1 (fun z => z.elim e2 (fun z => z e3)))] at p
    refine m_remembers hc ?_
    obtain ⟨s1, s2⟩ := sRem_same (F := F) (F1 := upd F 0 (nI (sSlot G hall s))) eG (upd_ne0 F _)
    have r8 : sRemG (upd F 0 (nI (sSlot G hall s))) G1 8 = G 8 := (s1 8 (by decide) (by decide)).trans (sRem_ne (by decide))
    have r6 : sRemG (upd F 0 (nI (sSlot G hall s))) G1 6 = G 6 := (s1 6 (by decide) (by decide)).trans (sRem_ne (by decide))
    refine m_books (r := 6) (o := 0) (by rw [r8]; exact ⟨h.N.b.1, z_lt60 h.N.b e2⟩) rfl (by decide) (by decide) (.inl (by decide)) ?_
    rw [r8, r6]
    simp only [Nat.zero_add]
    have hz := mg_same (Y := sBooks (G 8) (G 6) hall s) s1
    refine p _ _ ?_ ⟨s2 11 (by decide), s2 12 (by decide), s2 14 (by decide), hz 1 (by decide) (by decide), hz 6 (by decide) (by decide), hz 8 (by decide) (by decide), hz 9 (by decide) (by decide), hz 10 (by decide) (by decide), hz 13 (by decide) (by decide), ?_⟩
    · rw [(sRemF_0 (G := G) _).1, e]; rfl
    · show ∀ i, i < 60 → mg (sRemG (upd F 0 (nI (sSlot G hall s))) G1) 8 (sBooks (G 8) (G 6) hall s) 19 i = 0
      rw [mg_ne (show 19 ≠ 8 by decide), s1 19 (by decide) (by decide), sRem_ne (by decide)]; exact h.out
  · rw [oBook, if_neg e] at p
    exact p _ _ rfl (z_up0 h)
theorem X_book {hall s : Int32} {post : Int32 → HS → Prop} (ek : kc 0 = ke) (R : xRX ke S c x ad qs bks F G) (p : xDone ke x F G (oBook F G hall s) cls3 post px) (hc : 206 ≤ mc) (hs : 20230 ≤ ms) : wX_X1_book kc post px mc ms x hall s S := by
  refine ⟨R.P.T.d, by omega, by omega, x_needHS R (fun e => ?_) (fun e q => ?_) (by decide) (by decide)⟩
  · rw [oBook, if_pos e] at p
    obtain ⟨a, b⟩ := sSlot_0.mp e
    have bad : (G 1 1 = 0 ∨ G 8 1 = 60 ∨ sDraftProb G hall s ≠ 0) → ∀ q S', xRel ke x S' F G → px "java/lang/IllegalStateException" q S' := fun z q S' rel => by
      rw [if_pos z] at p
      exact p.2 (by show (3 : Nat) ≠ 0; decide) q S' rel
    refine ⟨ad 0, R.P.T.su, R.P.U.d, fun e1 => ⟨by omega, by omega, x_needState (p := false) (fun z => by cases z) (fun _ q _ => bad (.inl ((z_none R).mpr e1)) q S ⟨c, ad, qs, bks, R⟩) (by decide) (by decide)⟩, fun e1 => ?_⟩
    obtain ⟨l, l1, l2⟩ := R.P.V.b
    refine ⟨ad 1, R.P.T.st, R.P.V.d, l, l1, l2.d, x_size l2 ⟨fun e2 => ⟨by omega, by omega, x_needState (p := false) (fun z => by cases z) (fun _ q _ => bad (.inr (.inl ?_)) q S ⟨c, ad, qs, bks, R⟩) (by decide) (by decide)⟩, fun e2 => ⟨ad 4, R.dr.1, ?_⟩⟩⟩
    · rw [← cn_nI R.N.b.1, z_le] at e2
      have := R.N.b.2
      rw [← Int32.toInt_inj]
      simp only [show (60 : Int32).toInt = 60 from rfl] at *
      omega
    have n60 : ¬ G 8 1 = 60 := fun z => e2 (by rw [← cn_nI R.N.b.1, z]; decide)
    refine x_problemOf (G := sAsk G 6 0) (xPl_ask R) R.F R.N (xEv_ask R.dr.2) (zEv_ask R.D) (sHall_iff.mp a) (sStart_iff.mp b) (fun g => ⟨fun e3 => ⟨by omega, by omega, x_needState (p := true) (fun _ => ?_) (fun z => by cases z) (by decide) (by decide)⟩, fun e3 => ⟨by omega, by omega, x_needState (p := false) (fun z => by cases z) (fun _ q _ => bad (.inr (.inr e3)) q _ ⟨c, ad, qs, bks, R.sG⟩) (by decide) (by decide)⟩⟩)
    rw [if_neg (fun z => z.elim (fun z => e1 ((z_none R).mp z)) (fun z => z.elim n60 (fun z => z e3)))] at p
    refine ⟨R.P.T.d, by omega, by omega, x_record ek (R.sG (g := g)) (fun S1 ⟨c1, ad1, qs1, bks1, R1⟩ => ⟨R1.P.T.d, ad1 4, R1.dr.1, by omega, by omega, ?_⟩) (by omega) (by omega)⟩
    obtain ⟨B, b1, b2, b3, b4⟩ := R1.bd
    have r8 : sRemG F G 8 = G 8 := sRem_ne (by decide)
    have r6 : sRemG F G 6 = G 6 := sRem_ne (by decide)
    have r1 : sRemG F G 1 = G 1 := sRem_ne (by decide)
    refine x_addBk (r := G 6) ek R1 ⟨b1, b2, b3⟩ b4 (by rw [r8]; exact z_lt60 R.N.b n60) (by rw [← r6]; exact R1.dr.2) R.D (by rw [r1]; exact sHall_iff.mp a) (sStart_iff.mp b) (fun k hk h11 h9 => ?_) (fun S2 c2 bks2 G2 R2 => ?_)
    · rw [r8] at hk
      have g1 : ∀ w, gB (sRemG F G) k w = gB G k w := fun w => by show sRemG F G 8 _ = _; rw [r8]
      rw [g1] at h11 h9 ⊢
      exact z_apart (G := sAsk G 6 0) R.F R.N (zEv_ask R.D) (sStart_iff.mp b) e3 hk h11 (R.out k (by have := cn_le (n := 60) R.N.b.2; omega)) h9
    · rw [r8] at R2 ⊢
      exact p.1 rfl _ ⟨_, _, _, _, R2⟩
  · rw [oBook, if_neg e] at p
    exact p.2 e q S ⟨c, ad, qs, bks, R⟩
end
