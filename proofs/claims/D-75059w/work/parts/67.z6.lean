/-! PLAIN LAWS, z6: a request, a closure more -/
/-- the model's row with one request more -/
def sEnq (n r : Nat → Int32) (hall s : Int32) : Nat → Int32 := upd (upd (upd (zrow n (784 + 11 * cn (n 2)) 9 r) (784 + 11 * cn (n 2) + 9) hall) (784 + 11 * cn (n 2) + 10) s) 2 (n 2 + 1)
theorem sEnq_old {n r : Nat → Int32} {hall s : Int32} {i : Nat} (h : i ≠ 2) (h2 : i < 784 + 11 * cn (n 2) ∨ 784 + 11 * cn (n 2) + 11 ≤ i) : sEnq n r hall s i = n i := by
  simp only [sEnq, upd, zrow]
  rw [if_neg h, if_neg (by omega), if_neg (by omega), if_neg (by omega)]
theorem sEnq_2 {n r : Nat → Int32} {hall s : Int32} : sEnq n r hall s 2 = n 2 + 1 := by
  unfold sEnq
  exact if_pos rfl
theorem sEnq_new {n r : Nat → Int32} {hall s : Int32} : (∀ w, w < 9 → sEnq n r hall s (784 + 11 * cn (n 2) + w) = r w) ∧ sEnq n r hall s (784 + 11 * cn (n 2) + 9) = hall ∧ sEnq n r hall s (784 + 11 * cn (n 2) + 10) = s := by
  refine ⟨fun w hw => ?_, ?_, ?_⟩ <;> simp only [sEnq, upd, zrow]
  · rw [if_neg (by omega), if_neg (by omega), if_neg (by omega), if_pos (by omega)]
    congr 1; omega
  · rw [if_neg (by omega), if_neg (by omega), if_true]
  · rw [if_neg (by omega), if_true]
theorem z_succ {i : Int32} {N : Nat} (h : 0 ≤ i.toInt ∧ i.toInt < N) (hN : N < 10000) : cn (i + 1) = cn i + 1 ∧ (i + 1).toInt = i.toInt + 1 := by
  have e : (i + 1).toInt = i.toInt + 1 := z_add (by simp; omega) (by simp; omega)
  refine ⟨?_, e⟩
  have e1 : cn (i + 1) = (i + 1).toInt.toNat := rfl
  have e2 : cn i = i.toInt.toNat := rfl
  omega
theorem zNw.enq {g n r : Nat → Int32} {hall s : Int32} (N : zNw g n) (hb : (n 2).toInt < 20) (Z : zEv r) (hh : 0 ≤ hall.toInt ∧ hall.toInt < (g 0).toInt) (hs : zSt s) : zNw g (sEnq n r hall s) := by
  have lb := cn_le (n := 60) N.b.2
  obtain ⟨c1, c2⟩ := z_succ (N := 20) ⟨N.r.1, hb⟩ (by decide)
  obtain ⟨w0, w9, w10⟩ := sEnq_new (n := n) (r := r) (hall := hall) (s := s)
  have b0 := N.r
  have cb : cn (n 2) < 20 := cn_lt' N.r.1 hb
  have o : ∀ i, i < 784 → i ≠ 2 → sEnq n r hall s i = n i := fun i hi h2 => sEnq_old h2 (.inl (by omega))
  have o2 : ∀ j w, j < cn (n 2) → w < 11 → sEnq n r hall s (784 + 11 * j + w) = n (784 + 11 * j + w) := fun j w hj hw => sEnq_old (by omega) (.inl (by omega))
  have u1 := o 1 (by decide) (by decide)
  refine ⟨by rw [o 0 (by decide) (by decide)]; exact N.no, by rw [u1]; exact N.b, by rw [sEnq_2]; omega, by rw [o 3 (by decide) (by decide)]; exact N.s, ?_, ?_, ?_, ?_, ?_, ?_, ?_⟩
  · rw [u1]; intro j hj
    exact (N.be j hj).congr (fun w hw => o _ (by omega) (by omega))
  · rw [u1]; intro j hj
    rw [o _ (by omega) (by omega)]; exact N.bp j hj
  · rw [u1]; intro j hj
    rw [o _ (by omega) (by omega)]; exact N.bs j hj
  · rw [u1]; intro j hj
    rw [o _ (by omega) (by omega)]; exact N.ba j hj
  · rw [sEnq_2, c1]; intro j hj
    by_cases z : j = cn (n 2)
    · subst z; exact Z.congr w0
    · exact (N.re j (by omega)).congr (fun w hw => o2 j w (by omega) (by omega))
  · rw [sEnq_2, c1]; intro j hj
    by_cases z : j = cn (n 2)
    · subst z; rw [w9]; exact hh
    · rw [o2 j 9 (by omega) (by decide)]; exact N.rp j (by omega)
  · rw [sEnq_2, c1]; intro j hj
    by_cases z : j = cn (n 2)
    · subst z; rw [w10]; exact hs
    · rw [o2 j 10 (by omega) (by decide)]; exact N.rs j (by omega)
theorem zSep.same {n n' : Nat → Int32} (Z : zSep n) (hb : cn (n 1) ≤ 60) (h : ∀ i, i < 784 → i ≠ 2 → i ≠ 3 → n' i = n i) : zSep n' := by
  unfold zSep
  rw [h 1 (by decide) (by decide) (by decide)]
  intro i j hi hj e
  rw [h _ (by omega) (by omega) (by omega), h _ (by omega) (by omega) (by omega), h _ (by omega) (by omega) (by omega), h _ (by omega) (by omega) (by omega), h _ (by omega) (by omega) (by omega), h _ (by omega) (by omega) (by omega)]
  exact Z i j hi hj e
section
variable {ke : Nat} {kc : Nat → Nat} {S S' : HS} {c c' : HC} {x κ : Nat} {ad qs : Nat → Nat} {bks : Nat → Nat → Nat} {F F' : MF} {G G' : MG} {W : Nat → Prop} {px : String → Nat → HS → Prop} {mc ms : Nat}
/-- a request is made -/
def rqNew (S : HS) (q e : Nat) (h s : Int32) : HS := sI (sI (sR (nO S 11 q) 1100 q (some e)) 1101 q h) 1102 q s
theorem rqNew_go {q e : Nat} {h s : Int32} (n : xNew S q) : xGo S c (rqNew S q e h s) (cU c q 0) (fun _ => False) κ := by
  have ne : ∀ a, (∃ t, hD S t a) → ¬ a = q := fun a ⟨t, d⟩ => n.ne d
  unfold rqNew
  exact gNone (gNone (gNone (gO c 11 0 n (by omega)) (gR' _ _ _ _ _ _) ne) (gI _ _ _ _ _ _) ne) (gI _ _ _ _ _ _) ne
theorem rqNew_is {q e : Nat} {r : Nat → Int32} (n : xNew S q) (he : xEv S c e r) : xRq (rqNew S q e (r 9) (r 10)) (cU c q 0) q r := by
  have G := rqNew_go (c := c) (κ := 0) (e := e) (h := r 9) (s := r 10) n
  refine ⟨nO_D S 11 q, cU_eq c q 0, ⟨e, ?_, he.ext G.E (fun _ _ z => z)⟩, ?_, ?_⟩
  · show hR (sR (nO S 11 q) 1100 q (some e)) 1100 q = some e
    exact sR_eq _ _ _ _
  · simp only [rqNew, sI_at, sR_I]; simp
  · simp only [rqNew, sI_at, sR_I]; simp
/-- what a change of lists and rows leaves of a state -/
theorem x_enqBody {B : Nat} {hall s : Int32} {post : Int32 → HS → Prop} (ek : kc 0 = ke) (R : xRX ke S c x ad qs bks F G) (hb : (G 8 2).toInt < 20) (hh : 0 ≤ hall.toInt ∧ hall.toInt < (G 1 0).toInt) (hs : zSt s) (hB : B % 10 = 0 ∧ 10 ≤ B ∧ ∀ i, i < 10 → qs i < B) (hbd : ∀ a t, hD S t a → c a < B) (hmc : 2 ≤ mc) (hms : 203 ≤ ms)
    (h : ∀ S', xRel ke x S' F (mg G 8 (sEnq (G 8) (G 6) hall s)) → post (G 8 2 + 1) S') : hD S 0 x ∧ ∃ b_4 : Nat, hR S 3 x = some b_4 ∧ hD S 2 b_4 ∧ ∃ b_7 : Nat, hR S 201 b_4 = some b_7 ∧ 1 ≤ mc ∧ 3 ≤ ms ∧ ∀ q_9 : Nat, xNew S q_9 → ∀ S_10 : HS, S_10 = nO S 11 q_9 → ∃ b_12 : Nat, hR S_10 5 x = some b_12 ∧ wX_X13_init (fun S_14 => hD S_14 12 b_7 ∧ 1 ≤ (mc - 1) ∧ 200 ≤ (ms - 3) ∧ wX_J2_add kc (fun r_16 S_17 => hD S_17 0 x ∧ ∃ b_19 : Nat, hR S_17 3 x = some b_19 ∧ hD S_17 2 b_19 ∧ ∃ b_22 : Nat, hR S_17 201 b_19 = some b_22 ∧ hD S_17 12 b_22 ∧ wX_J2_size (fun r_25 => post r_25 S_17) b_22 S_17) 1 200 b_7 q_9 S_14) q_9 b_12 hall s S_10 := by
  have cb : cn (G 8 2) < 20 := cn_lt' R.N.r.1 hb
  obtain ⟨c1, c2⟩ := z_succ (N := 20) ⟨R.N.r.1, hb⟩ (by decide)
  obtain ⟨w0, w9, w10⟩ := sEnq_new (n := G 8) (r := G 6) (hall := hall) (s := s)
  have b0 := hB.2.2 0 (by decide)
  have q0 := R.q.1 0 (by decide)
  have V := R.P.V
  have lb := cn_le (n := 60) R.N.b.2
  have ls := cn_le (n := 16) R.N.s.2
  have lk := cn_le (n := 6) R.F.k.2
  obtain ⟨l, rq, l1, l2, l3⟩ := V.r
  refine ⟨R.P.T.d, ad 1, R.P.T.st, V.d, l, l1, by omega, by omega, fun b nb => ?_⟩
  rintro _ rfl
  have xb := nb.ne R.P.T.d
  refine ⟨ad 4, by rw [nO_Rne xb]; exact R.dr.1, nO_D S 11 b, ?_⟩
  rintro _ rfl _ rfl _ rfl
  let r' : Nat → Int32 := fun w => sEnq (G 8) (G 6) hall s (784 + 11 * cn (G 8 2) + w)
  have Bk : xRq (rqNew S b (ad 4) (r' 9) (r' 10)) (cU c b 0) b r' := rqNew_is nb (R.dr.2.congr w0)
  have G1 := rqNew_go (c := c) (κ := B) (e := ad 4) (h := r' 9) (s := r' 10) nb
  have eS : sI (sI (sR (nO S 11 b) 1100 b (some (ad 4))) 1101 b hall) 1102 b s = rqNew S b (ad 4) (r' 9) (r' 10) := by
    rw [show r' 9 = hall from w9, show r' 10 = s from w10]; rfl
  rw [eS]
  have V1 := V.ext G1.E (fun _ _ z => z)
  have l2' := l2.ext G1.E (fun _ _ z => z)
  generalize rqNew S b (ad 4) (r' 9) (r' 10) = S1 at *
  have GC : ∀ a t, hD S t a → cU c b 0 a = c a := fun a t d => G1.E.C d
  refine ⟨l2'.d, by omega, by omega, ?_⟩
  have l3' : ∀ k, k < cn (G 8 2) → xRq S1 (cU c b 0) (rq k) (fun w => G 8 (784 + 11 * k + w)) := fun k hk => (l3 k hk).ext G1.E (fun _ _ z => z)
  generalize cU c b 0 = c1' at *
  refine x_add (κ := B) ek (by omega) l2' (by omega) Bk.obj (fun k hk => (l3' k hk).obj) (by omega) (by decide) (by decide) (fun S2 c2 G2 L2 => ?_)
  have GG : xGo S c S2 c2 (fun a => c a = qs 0 + 3) B := (G1.mono (fun _ _ z => z.elim)).go G2 (fun a ⟨t, d⟩ z => by rw [GC a t d] at z; exact z)
  have E2 := G2.E
  have st1 : c1' (ad 1) = qs 0 := V1.cs
  have wst : ¬ c1' (ad 1) = qs 0 + 3 := by omega
  have o : ∀ i, i < 784 → i ≠ 2 → sEnq (G 8) (G 6) hall s i = G 8 i := fun i hi h2 => sEnq_old h2 (.inl (by omega))
  have o3 : ∀ i, 1004 ≤ i → sEnq (G 8) (G 6) hall s i = G 8 i := fun i hi => sEnq_old (by omega) (.inr (by omega))
  have o2 : ∀ j w, j < cn (G 8 2) → w < 11 → sEnq (G 8) (G 6) hall s (784 + 11 * j + w) = G 8 (784 + 11 * j + w) := fun j w hj hw => sEnq_old (by omega) (.inl (by omega))
  have V2 : xSt ke S2 c2 (qs 0) (ad 1) (G 1) (sEnq (G 8) (G 6) hall s) (G 19) (bks 0) := by
    refine ⟨E2.D V1.d, (E2.C V1.d).trans V1.cs, ?_, ?_, ?_, ?_, ?_, ?_, ?_⟩
    · rw [o 3 (by decide) (by decide)]; exact (E2.I V1.d wst _).trans V1.cl
    · rw [o 0 (by decide) (by decide)]; exact (E2.I V1.d wst _).trans V1.no
    · rw [o 1 (by decide) (by decide)]
      obtain ⟨l', m1, m2⟩ := V1.b
      exact ⟨l', (E2.R V1.d wst _).trans m1, m2.ext E2 (fun a h z => by omega)⟩
    · rw [o 1 (by decide) (by decide)]; intro k hk
      have B1 := V1.bb k hk
      exact (B1.ext E2 (fun a h z => by omega) (by rw [B1.cb]; omega)).congr lk (fun w hw => o _ (by omega) (by omega))
    · rw [o 1 (by decide) (by decide)]; exact V.bi
    · rw [sEnq_2, c1]
      refine ⟨l, _, (E2.R V1.d wst _).trans ((G1.E.R V.d (fun z => z) 201).trans l1), L2, fun k hk => ?_⟩
      by_cases z : k = cn (G 8 2)
      · subst z
        rw [if_pos rfl]
        exact Bk.ext E2 (fun a h z => by omega)
      · rw [if_neg z]
        exact ((l3' k (by omega)).ext E2 (fun a h z => by omega)).congr (fun w hw => o2 k w (by omega) hw)
    · rw [o 3 (by decide) (by decide)]
      obtain ⟨a, a1, a2, a3, a4⟩ := V1.s
      obtain ⟨b2, b3, b4, b5, b6⟩ := zS.ext (r := fun k w => G 8 (1004 + 3 * k + w)) (i := fun _ _ => 0) ⟨a2, a3, a4⟩ E2 (fun a h z => by omega)
      refine ⟨a, (E2.R V1.d wst _).trans a1, b2, b3, b4, fun k hk => ?_, b6⟩
      obtain ⟨o', o1, o2'⟩ := b5 k hk
      exact ⟨o', o1, o2'.congr (fun w hw => o3 _ (by omega))⟩
  have R2 := R.updS (G' := mg G 8 (sEnq (G 8) (G 6) hall s)) hB hbd GG (fun a z => by omega) V2 (R.N.enq hb R.D hh hs) (R.sep.same lb (fun i hi h2 h3 => o i hi h2)) R.out (fun k h1 h2 => mg_ne h1) (mg_eq _ 8 _) (mg_ne (show 19 ≠ 8 by decide))
  refine ⟨R2.P.T.d, ad 1, R2.P.T.st, V2.d, ?_⟩
  obtain ⟨l', f', m1, m2, -⟩ := V2.r
  refine ⟨l', m1, m2.d, x_size m2 ?_⟩
  have e1 : nI (cn (sEnq (G 8) (G 6) hall s 2)) = G 8 2 + 1 := by
    rw [sEnq_2, ← cn_nI (by omega)]
  rw [e1]
  exact h S2 ⟨_, _, _, _, R2⟩
def oEnqueue (F : MF) (G : MG) (h s : Int32) : ZR := if sSlot G h s = 0 then (if G 1 1 = 0 ∨ G 8 2 = 20 ∨ sDraftProb G h s = 0 then (3, 0, F, G) else (0, G 8 2 + 1, sRemF F, mg (sRemG F G) 8 (sEnq (G 8) (G 6) h s))) else (sSlot G h s, 0, F, G)
theorem z_lt20 {i : Int32} (h : 0 ≤ i.toInt ∧ i.toInt ≤ 20) (n : ¬ i = 20) : i.toInt < 20 := by
  have : i.toInt ≠ 20 := fun e => n (Int32.toInt_inj.mp e)
  omega
theorem M_enqueue {hall s : Int32} {post : Int32 → MF → MG → Prop} (h : zOK G) (hc : ∃ h, F 11 = nI h ∧ h ≤ 8) (p : mDone (oEnqueue F G hall s) post) : wM_enqueue post hall s F G := by
  have l := sSlot_le G hall s
  refine m_whyNotSlot h.F ?_
  rintro _ rfl
  rw [upd0, zI_pos (by omega)]
  refine ⟨fun e => ?_, fun e => ?_⟩
  · rw [oEnqueue, if_pos e] at p
    obtain ⟨a, b⟩ := sSlot_0.mp e
    have bad : (G 1 1 = 0 ∨ G 8 2 = 20 ∨ sDraftProb G hall s = 0) → ∀ {v : Int32} {G1 : MG}, zE G G1 → wM_fails (fun r F' G' => post r F' G') (3 : Int32) (upd F 0 v) G1 := fun z v G1 eG => by
      rw [if_pos z] at p
      rintro _ rfl
      rw [upd_upd]
      exact p _ _ rfl (z_up h eG)
    refine ⟨fun e1 => bad (.inl e1) (zE.rf G), fun e1 => ⟨fun e2 => bad (.inr (.inl e2)) (zE.rf G), fun e2 => m_draftProblem2 h (zE.rf G) (sHall_iff.mp a) (sStart_iff.mp b) (fun G1 eG => ⟨fun e3 => bad (.inr (.inr e3)) eG, fun e3 => ?_⟩)⟩⟩
    rw [if_neg (fun z => z.elim e1 (fun z => z.elim e2 e3))] at p
    refine m_remembers hc ?_
    obtain ⟨s1, s2⟩ := sRem_same (F := F) (F1 := upd F 0 (nI (sSlot G hall s))) eG (upd_ne0 F _)
    have r8 : sRemG (upd F 0 (nI (sSlot G hall s))) G1 8 = G 8 := (s1 8 (by decide) (by decide)).trans (sRem_ne (by decide))
    have r6 : sRemG (upd F 0 (nI (sSlot G hall s))) G1 6 = G 6 := (s1 6 (by decide) (by decide)).trans (sRem_ne (by decide))
    have hz := mg_same (Y := sEnq (G 8) (G 6) hall s) s1
    have fin : ∀ {F2 : MF}, F2 = sRemF (upd F 0 (nI (sSlot G hall s))) → post (G 8 2 + 1) F2 (mg (sRemG (upd F 0 (nI (sSlot G hall s))) G1) 8 (sEnq (G 8) (G 6) hall s)) := by
      rintro _ rfl
      refine p _ _ ?_ ⟨s2 11 (by decide), s2 12 (by decide), s2 14 (by decide), hz 1 (by decide) (by decide), hz 6 (by decide) (by decide), hz 8 (by decide) (by decide), hz 9 (by decide) (by decide), hz 10 (by decide) (by decide), hz 13 (by decide) (by decide), ?_⟩
      · rw [(sRemF_0 (G := G) _).1, e]; rfl
      · show ∀ i, i < 60 → mg (sRemG (upd F 0 (nI (sSlot G hall s))) G1) 8 (sEnq (G 8) (G 6) hall s) 19 i = 0
        rw [mg_ne (show 19 ≠ 8 by decide), s1 19 (by decide) (by decide), sRem_ne (by decide)]; exact h.out
    have cb : cn (G 8 2) < 20 := cn_lt' h.N.r.1 (z_lt20 h.N.r e2)
    have en := cn_nI h.N.r.1
    generalize sRemG (upd F 0 (nI (sSlot G hall s))) G1 = G2 at *
    generalize sRemF (upd F 0 (nI (sSlot G hall s))) = F2 at *
    have rq : (784 : Int32) + 11 * G2 8 2 = nI (784 + 11 * cn (G 8 2)) := by
      rw [r8, en, show (784 : Int32) = nI 784 from rfl, show (11 : Int32) = nI 11 from rfl, zI_mul, zI_add, ← en]
    unfold wM_requestAt
    rw [rq]
    refine zcopy (L := fun n k G' => wM_enqueue_l71 post n hall s (nI (784 + 11 * cn (G 8 2))) k F2 G') (K := 8) (x := 784 + 11 * cn (G 8 2)) (N := 9) (v := G 6) (by decide) (fun m => ⟨fun _ => ?_, fun z => absurd (by decide) z⟩) (fun m j g hj h1 h2 nx => ⟨fun z => ?_, fun _ => ?_⟩)
    · rw [show nI (784 + 11 * cn (G 8 2)) + (9 : Int32) = nI (784 + 11 * cn (G 8 2) + 9) from zI_add _ 9, show nI (784 + 11 * cn (G 8 2)) + (10 : Int32) = nI (784 + 11 * cn (G 8 2) + 10) from zI_add _ 10, zI_nat (show 784 + 11 * cn (G 8 2) + 9 < 2147483648 by omega), zI_nat (show 784 + 11 * cn (G 8 2) + 10 < 2147483648 by omega)]
      refine ⟨zI_in' (by omega) (by omega), ?_⟩
      rintro _ rfl
      refine ⟨zI_in' (by omega) (by omega), ?_⟩
      rintro _ rfl _ rfl
      rw [mu_mg, mu_mg, mu_mg, mg_eq, mg_eq, r8]
      have e1 : upd (upd (zrow (G 8) (784 + 11 * cn (G 8 2)) 9 (G 6)) (784 + 11 * cn (G 8 2) + 9) hall) (784 + 11 * cn (G 8 2) + 10) s 2 = G 8 2 := by
        simp only [upd, zrow]
        rw [if_neg (by omega), if_neg (by omega), if_neg (by omega)]
      rw [e1]
      have e2' : upd (upd (upd (zrow (G 8) (784 + 11 * cn (G 8 2)) 9 (G 6)) (784 + 11 * cn (G 8 2) + 9) hall) (784 + 11 * cn (G 8 2) + 10) s) 2 (G 8 2 + 1) 2 = G 8 2 + 1 := if_pos rfl
      rw [e2']
      exact fin rfl
    · rw [show (9 : Int32) = nI 9 from rfl, zI_le (by omega) (by omega)] at z; omega
    · rw [zI_add, zI_nat (show j < 2147483648 by omega), zI_nat (show 784 + 11 * cn (G 8 2) + j < 2147483648 by omega)]
      refine ⟨zI_in' (by omega) (by omega), zI_in' (by omega) (by omega), ?_⟩
      rintro _ rfl
      rw [mu_mg, mg_ne (show 6 ≠ 8 by decide), r6]
      exact nx
  · rw [oEnqueue, if_neg e] at p
    exact p _ _ rfl (z_up0 h)
theorem X_enqueue {hall s : Int32} {post : Int32 → HS → Prop} (ek : kc 0 = ke) (R : xRX ke S c x ad qs bks F G) (p : xDone ke x F G (oEnqueue F G hall s) cls3 post px) (hc : 206 ≤ mc) (hs : 20230 ≤ ms) : wX_X1_enqueue kc post px mc ms x hall s S := by
  refine ⟨R.P.T.d, by omega, by omega, x_needHS R (fun e => ?_) (fun e q => ?_) (by decide) (by decide)⟩
  · rw [oEnqueue, if_pos e] at p
    obtain ⟨a, b⟩ := sSlot_0.mp e
    have bad : (G 1 1 = 0 ∨ G 8 2 = 20 ∨ sDraftProb G hall s = 0) → ∀ S', xRel ke x S' F G → wX_X1_enqueue_j51 kc post px x hall s 0 (mc - 2) (ms - 12) S' := fun z S' rel => by
      rw [if_pos z] at p
      exact ⟨by omega, by omega, x_needState (p := false) (fun z => by cases z) (fun _ q _ => p.2 (by show (3 : Nat) ≠ 0; decide) q S' rel) (by decide) (by decide)⟩
    have R0 : xRel ke x S F G := ⟨c, ad, qs, bks, R⟩
    refine ⟨ad 0, R.P.T.su, R.P.U.d, fun e1 => bad (.inl ((z_none R).mpr e1)) S R0, fun e1 => ?_⟩
    obtain ⟨l, rq, l1, l2, l3⟩ := R.P.V.r
    refine ⟨ad 1, R.P.T.st, R.P.V.d, l, l1, l2.d, x_size l2 ⟨fun e2 => bad (.inr (.inl ?_)) S R0, fun e2 => ⟨ad 4, R.dr.1, ?_⟩⟩⟩
    · rw [← cn_nI R.N.r.1, z_le] at e2
      have := R.N.r.2
      rw [← Int32.toInt_inj]
      simp only [show (20 : Int32).toInt = 20 from rfl] at *
      omega
    have n60 : ¬ G 8 2 = 20 := fun z => e2 (by rw [← cn_nI R.N.r.1, z]; decide)
    refine x_problemOf (G := sAsk G 6 0) (xPl_ask R) R.F R.N (xEv_ask R.dr.2) (zEv_ask R.D) (sHall_iff.mp a) (sStart_iff.mp b) (fun g => ⟨fun e3 => bad (.inr (.inr e3)) _ ⟨_, _, _, _, R.sG⟩, fun e3 => ⟨by omega, by omega, x_needState (p := true) (fun _ => ?_) (fun z => by cases z) (by decide) (by decide)⟩⟩)
    rw [if_neg (fun z => z.elim (fun z => e1 ((z_none R).mp z)) (fun z => z.elim n60 e3))] at p
    refine ⟨R.P.T.d, by omega, by omega, x_record ek (R.sG (g := g)) (fun S1 ⟨c1, ad1, qs1, bks1, R1⟩ => ?_) (by omega) (by omega)⟩
    obtain ⟨B, b1, b2, b3, b4⟩ := R1.bd
    have r8 : sRemG F G 8 = G 8 := sRem_ne (by decide)
    have r6 : sRemG F G 6 = G 6 := sRem_ne (by decide)
    have r1 : sRemG F G 1 = G 1 := sRem_ne (by decide)
    have fin := x_enqBody (mc := ((mc - 2) - 1) - 201) (ms := ((ms - 12) - 6) - 20005) (hall := hall) (s := s) (post := post) ek R1 (by rw [r8]; exact z_lt20 R.N.r n60) (by rw [r1]; exact sHall_iff.mp a) (sStart_iff.mp b) ⟨b1, b2, b3⟩ b4 (by omega) (by omega) (fun S' rel => by
      rw [r8, r6] at rel
      rw [r8]
      exact p.1 rfl S' rel)
    exact fin
  · rw [oEnqueue, if_neg e] at p
    exact p.2 e q S ⟨c, ad, qs, bks, R⟩
end
