/-! PLAIN LAWS, y2: the first start that goes; a booking's problem -/
def zE (G G1 : MG) : Prop := ∀ k, k ≠ 7 → k ≠ 20 → G1 k = G k
theorem zE.rf (G : MG) : zE G G := fun _ _ _ => rfl
theorem zE.ok {G G1 : MG} (e : zE G G1) (h : zOK G) : zOK G1 := by
  refine ⟨?_, ?_, ?_, ?_⟩
  · rw [e 1 (by decide) (by decide)]; exact h.F
  · rw [e 1 (by decide) (by decide), e 8 (by decide) (by decide)]; exact h.N
  · rw [e 6 (by decide) (by decide)]; exact h.D
  · rw [e 19 (by decide) (by decide)]; exact h.out
theorem zE.trans {G G1 G2 : MG} (e : zE G G1) (f : zE G1 G2) : zE G G2 := fun k h1 h2 => (f k h1 h2).trans (e k h1 h2)
theorem m_draftProblem2 {post : Int32 → MF → MG → Prop} {F : MF} {G G1 : MG} {hall s : Int32} (h : zOK G) (e : zE G G1) (hh : 0 ≤ hall.toInt ∧ hall.toInt < (G 1 0).toInt) (hs : zSt s) (p : ∀ G2, zE G G2 → post (sDraftProb G hall s) F G2) : wM_draftProblem post hall s F G1 := by
  have k := e.ok h
  refine m_draftProblem k.F k.N k.D (by rw [e 1 (by decide) (by decide)]; exact hh) hs (fun G2 hG => ?_)
  rw [sDraftProb_congr h.F (e 1 (by decide) (by decide)) (e 8 (by decide) (by decide)) (e 19 (by decide) (by decide)) (e 6 (by decide) (by decide))]
  exact p G2 (e.trans hG)
def sEarl (G : MG) (hall : Int32) : Nat → Nat → Int32
  | _, 0 => -1
  | i, d + 1 => if sDraftProb G hall (nI (15 * i)) = 0 then nI (15 * i) else sEarl G hall (i + 1) d
/-- the first step from a minute on -/
def sStep (m : Int32) : Nat := (m.toInt.toNat + 14) / 15
def sEarliest (G : MG) (hall m : Int32) : Int32 := sEarl G hall (sStep m) (5760 - sStep m)
theorem z_step {m : Int32} (h : 0 ≤ m.toInt ∧ m.toInt ≤ 86385) : (m + 15 - 1) / 15 * 15 = nI (15 * sStep m) ∧ sStep m ≤ 5759 := by
  have a1 : (m + 15).toInt = m.toInt + 15 := by rw [z_add] <;> simp only [show (15 : Int32).toInt = 15 from rfl] <;> omega
  have a2 : (m + 15 - 1).toInt = m.toInt + 14 := by rw [z_pre (by omega), a1]; omega
  have a3 : ((m + 15 - 1) / 15).toInt = (m.toInt + 14) / 15 := by rw [z_div (by omega) (by decide), a2]; rfl
  have l : sStep m ≤ 5759 := by unfold sStep; omega
  refine ⟨?_, l⟩
  have a4 : ((m + 15 - 1) / 15 * 15).toInt = (m.toInt + 14) / 15 * 15 := by
    rw [z_mul] <;> rw [a3] <;> simp only [show (15 : Int32).toInt = 15 from rfl] <;> omega
  rw [← Int32.toInt_inj, a4, zI_toInt (by omega)]
  unfold sStep
  omega
theorem z_st15 {i : Nat} (h : i ≤ 5759) : zSt (nI (15 * i)) := by
  unfold zSt
  rw [zI_toInt (by omega)]
  omega
theorem m_earliestIn {post : Int32 → MF → MG → Prop} {F : MF} {G G1 : MG} {hall m : Int32} (h : zOK G) (e : zE G G1) (hh : 0 ≤ hall.toInt ∧ hall.toInt < (G 1 0).toInt) (hm : 0 ≤ m.toInt ∧ m.toInt ≤ 86385) (p : ∀ G2, zE G G2 → post (sEarliest G hall m) F G2) : wM_earliestIn post hall m F G1 := by
  obtain ⟨e1, l1⟩ := z_step hm
  rintro _ rfl
  rw [e1]
  refine zloop (σ := Nat × MG) (fun n q => wM_earliestIn_l13 post n hall (nI (15 * q.1)) F q.2) (fun q => q.1 ≤ 5760 ∧ zE G q.2 ∧ ∀ G2, zE G G2 → post (sEarl G hall q.1 (5760 - q.1)) F G2) (fun q => 5760 - q.1) ?_ (sStep m, G1) ⟨(show sStep m ≤ 5760 by omega), e, p⟩
  rintro n ⟨i, G2⟩ ⟨hi, e2, hp⟩ next
  dsimp only at hi e2 hp next ⊢
  simp only [wM_earliestIn_l13, wM_earliestIn_b13]
  rw [show (86385 : Int32) = nI 86385 from rfl, zI_lt (by omega) (by omega)]
  refine ⟨fun q => ?_, fun q => ?_⟩
  · have := hp G2 e2
    rw [show 5760 - i = 0 by omega] at this
    exact this
  · rw [show 5760 - i = (5760 - (i + 1)) + 1 by omega] at hp
    simp only [sEarl] at hp
    refine m_draftProblem2 h e2 hh (z_st15 (by omega)) (fun G3 e3 => ⟨fun q1 => ?_, fun q1 => ?_⟩)
    · have := hp G3 e3
      rw [if_pos q1] at this; exact this
    · rw [show nI (15 * i) + (15 : Int32) = nI (15 * (i + 1)) from zI_add (15 * i) 15]
      refine next (i + 1, G3) ⟨by dsimp only; omega, e3, fun G4 e4 => ?_⟩ (by dsimp only; omega)
      have := hp G4 e4
      rw [if_neg q1] at this; exact this
theorem sEarl_no {G : MG} {hall : Int32} (d : Nat) : ∀ i, i + d ≤ 5760 → sEarl G hall i d = -1 ∨ ∃ j, sEarl G hall i d = nI j ∧ j < 86400 := by
  induction d with
  | zero => exact fun i _ => .inl rfl
  | succ d ih =>
    intro i hi
    simp only [sEarl]
    split
    · exact .inr ⟨15 * i, rfl, by omega⟩
    · exact ih (i + 1) (by omega)
theorem sEarliest_no {G : MG} {hall m : Int32} (hm : 0 ≤ m.toInt ∧ m.toInt ≤ 86385) : sEarliest G hall m = -1 ∨ ∃ j, sEarliest G hall m = nI j ∧ j < 86400 := sEarl_no _ _ (by have := (z_step hm).2; omega)
section
variable {ke : Nat} {S : HS} {c : HC} {x : Nat} {ad qs : Nat → Nat} {bks : Nat → Nat → Nat} {F : MF} {G : MG} {px : String → Nat → HS → Prop} {mc ms : Nat}
theorem x_earliestOf {post : Int32 → HS → Prop} {hall m : Int32} {g0 : Nat → Int32} (R : xRX ke S c x ad qs bks F G) (hh : 0 ≤ hall.toInt ∧ hall.toInt < (G 1 0).toInt) (hm : 0 ≤ m.toInt ∧ m.toInt ≤ 86385) (p : ∀ g, post (sEarliest G hall m) (sG S (ad 2) g)) : wX_X1_earliestOf post x hall m (sG S (ad 2) g0) := by
  obtain ⟨e1, l1⟩ := z_step hm
  rintro _ rfl
  rw [e1]
  refine zloop (σ := Nat × (Nat → Int32)) (fun n q => wX_X1_earliestOf_l13 post x hall m n (nI (15 * q.1)) (sG S (ad 2) q.2)) (fun q => q.1 ≤ 5760 ∧ ∀ g, post (sEarl G hall q.1 (5760 - q.1)) (sG S (ad 2) g)) (fun q => 5760 - q.1) ?_ (sStep m, g0) ⟨(show sStep m ≤ 5760 by omega), p⟩
  rintro n ⟨i, g⟩ ⟨hi, hp⟩ next
  dsimp only at hi hp next ⊢
  simp only [wX_X1_earliestOf_l13, wX_X1_earliestOf_b13]
  rw [show (86385 : Int32) = nI 86385 from rfl, zI_lt (by omega) (by omega)]
  refine ⟨fun q => ?_, fun q => ⟨R.P.T.d, _, R.dr.1, ?_⟩⟩
  · have := hp g
    rw [show 5760 - i = 0 by omega] at this
    exact this
  · rw [show 5760 - i = (5760 - (i + 1)) + 1 by omega] at hp
    simp only [sEarl] at hp
    refine x_problemOf (G := sAsk G 6 0) (xPl_ask R).sG R.F R.N ((xEv_ask R.dr.2).sG R.P.T.gc) (zEv_ask R.D) hh (z_st15 (by omega)) (fun g2 => ⟨fun q1 => ?_, fun q1 => ?_⟩) <;> rw [sG_sG]
    · have := hp g2
      rw [if_pos (show sDraftProb G hall (nI (15 * i)) = 0 from q1)] at this; exact this
    · rw [show nI (15 * i) + (15 : Int32) = nI (15 * (i + 1)) from zI_add (15 * i) 15]
      refine next (i + 1, g2) ⟨by dsimp only; omega, fun g3 => ?_⟩ (by dsimp only; omega)
      have := hp g3
      rw [if_neg (show ¬ sDraftProb G hall (nI (15 * i)) = 0 from q1)] at this; exact this
end
def oEarliest (G : MG) (h m : Int32) : ZQ := if sHall G h = false then (1, 0) else if sIn m.toInt 0 86385 = false then (2, 0) else if G 1 1 = 0 then (3, 0) else if sEarliest G h m = -1 then (4, 0) else (0, sEarliest G h m)
theorem M_earliest {F : MF} {G : MG} {hall m : Int32} {post : Int32 → MF → MG → Prop} (h : zOK G) (p : mAns F G (oEarliest G hall m) post) : wM_earliest post hall m F G := by
  refine m_isHall h.F ⟨fun e => ?_, fun e => m_isIn ?_⟩ <;> simp only [bI_0, Bool.not_eq_false] at e
  · rw [oEarliest, if_pos e] at p
    rintro _ rfl
    exact ⟨fun z => absurd z (by rw [upd0]; decide), fun _ => p _ _ rfl (z_up0 h)⟩
  rw [z64, show ((0 : Int64)).toInt = 0 from rfl, show ((86385 : Int64)).toInt = 86385 from rfl]
  refine ⟨fun e2 => ?_, fun e2 => ⟨fun e3 => ?_, fun e3 => ?_⟩⟩ <;> simp only [bI_0, Bool.not_eq_false] at e2
  · rw [oEarliest, if_neg (by rw [e]; decide), if_pos e2] at p
    rintro _ rfl
    exact ⟨fun z => absurd z (by rw [upd0]; decide), fun _ => p _ _ rfl (z_up0 h)⟩
  · rw [oEarliest, if_neg (by rw [e]; decide), if_neg (by rw [e2]; decide), if_pos e3] at p
    rintro _ rfl
    exact ⟨fun z => absurd z (by rw [upd0]; decide), fun _ => p _ _ rfl (z_up0 h)⟩
  · rw [oEarliest, if_neg (by rw [e]; decide), if_neg (by rw [e2]; decide), if_neg e3] at p
    rintro _ rfl
    refine ⟨fun _ => m_earliestIn h (zE.rf G) (sHall_iff.mp e) (sIn_iff.mp e2) (fun G2 eG => ⟨fun e4 => ?_, fun e4 => ?_⟩), fun z => absurd (by rw [upd0]; decide) z⟩
    · rw [if_pos e4] at p
      rintro _ rfl
      exact p _ _ rfl (by rw [upd_upd]; exact z_up h eG)
    · rw [if_neg e4] at p
      exact p _ _ rfl (z_up h eG)
/-- the hall that is free first -/
def sEarS (G : MG) (m : Int32) (j : Nat) (a : Int32 × Int32) : Int32 × Int32 := if sEarliest G (nI j) m = -1 then a else if a.1 = -1 ∨ sEarliest G (nI j) m < a.2 then (nI j, sEarliest G (nI j) m) else a
def sEarH (G : MG) (m : Int32) : Int32 := (zf (sEarS G m) 0 (cn (G 1 0)) (-1, 0)).1
def oEarHall (G : MG) (m : Int32) : ZQ := if sIn m.toInt 0 86385 = false then (1, 0) else if G 1 1 = 0 then (2, 0) else if sEarH G m = -1 then (3, 0) else (0, sEarH G m)
theorem M_earliestHall {F : MF} {G : MG} {m : Int32} {post : Int32 → MF → MG → Prop} (h : zOK G) (p : mAns F G (oEarHall G m) post) : wM_earliestHall post m F G := by
  have lh := cn_le (n := 6) h.F.h.2
  refine m_isIn ?_
  rw [z64, show ((0 : Int64)).toInt = 0 from rfl, show ((86385 : Int64)).toInt = 86385 from rfl]
  refine ⟨fun e2 => ?_, fun e2 => ⟨fun e3 => ?_, fun e3 => ?_⟩⟩ <;> simp only [bI_0, Bool.not_eq_false] at e2
  · rw [oEarHall, if_pos e2] at p
    rintro _ rfl
    exact ⟨fun z => absurd z (by rw [upd0]; decide), fun _ => p _ _ rfl (z_up0 h)⟩
  · rw [oEarHall, if_neg (by rw [e2]; decide), if_pos e3] at p
    rintro _ rfl
    exact ⟨fun z => absurd z (by rw [upd0]; decide), fun _ => p _ _ rfl (z_up0 h)⟩
  · rw [oEarHall, if_neg (by rw [e2]; decide), if_neg e3] at p
    rintro _ rfl
    refine ⟨fun _ => ?_, fun z => absurd (by rw [upd0]; decide) z⟩
    -- the model's pair: its least is beyond the end while there is none
    have main := zfold (α := (Int32 × Int32)) (f := sEarS G m) (n := cn (G 1 0)) (L := fun n a k => ∀ G1, zE G G1 → wM_earliestHall_l51 post n m a.1 (if a.1 = -1 then 86400 else a.2) k (upd F 0 0) G1) (post := fun a => mAns F G (if a.1 = -1 then (3, 0) else (0, a.1)) post) (fun a => a.1 = -1 ∨ ∃ j, a.1 = nI j ∧ j < 1000) (by omega) (fun k a hk ha => ?_) ?_ (-1, 0) (.inl rfl) p
    · obtain ⟨n, hn⟩ := main
      exact ⟨n, hn G (zE.rf G)⟩
    · unfold sEarS
      split
      · exact ha
      · split
        · exact .inr ⟨k, rfl, by omega⟩
        · exact ha
    intro n k a hk ha p1 p2 G1 e1
    simp only [wM_earliestHall_l51, wM_earliestHall_b51]
    rw [e1 1 (by decide) (by decide), cn_nI h.F.h.1, zI_le (by omega) (by omega)]
    refine ⟨fun e => ⟨fun e4 => ?_, fun e4 => ?_⟩, fun e => ?_⟩
    · have := p1 (by omega)
      rw [if_pos e4] at this
      rintro _ rfl
      exact this _ _ rfl (by rw [upd_upd]; exact z_up h e1)
    · have := p1 (by omega)
      rw [if_neg e4] at this
      exact this _ _ rfl (z_up h e1)
    have hk' : k < cn (G 1 0) := by omega
    have p2 := p2 hk'
    have c0 := cn_int h.F.h.1
    refine m_earliestIn h e1 (by rw [zI_toInt (by omega)]; omega) (sIn_iff.mp e2) (fun G2 e2' => ⟨fun q1 => ?_, fun q1 => ?_⟩)
    · have := p2 G2 e2'
      rw [sEarS, if_pos q1] at this; exact this
    · obtain ⟨j, ej, lj⟩ := (sEarliest_no (sIn_iff.mp e2)).resolve_left q1
      have nk : nI k ≠ -1 := nI_ne (by omega)
      have := p2 G2 e2'
      rw [sEarS, if_neg q1] at this
      refine ⟨fun q2 => ?_, fun q2 => ?_⟩
      · rw [if_neg] at this
        · exact this
        · rintro (z | z)
          · rw [if_pos z, ej, show (86400 : Int32) = nI 86400 from rfl, zI_le (by omega) (by omega)] at q2
            omega
          · by_cases y : a.1 = -1
            · rw [if_pos y, ej, show (86400 : Int32) = nI 86400 from rfl, zI_le (by omega) (by omega)] at q2
              omega
            · rw [if_neg y] at q2
              exact absurd z (Int32.not_lt.mpr q2)
      · rw [if_pos] at this
        · rw [if_neg nk] at this; exact this
        · by_cases y : a.1 = -1
          · exact .inl y
          · rw [if_neg y] at q2
            exact .inr (Int32.not_le.mp q2)
section
variable {ke : Nat} {S : HS} {c : HC} {x : Nat} {ad qs : Nat → Nat} {bks : Nat → Nat → Nat} {F : MF} {G : MG} {px : String → Nat → HS → Prop} {mc ms : Nat}
theorem X_earliest {hall m : Int32} {post : Int32 → HS → Prop} (R : xRX ke S c x ad qs bks F G) (p1 : (oEarliest G hall m).1 = 0 → ∀ g, post (oEarliest G hall m).2 (sG S (ad 2) g)) (p2 : (oEarliest G hall m).1 ≠ 0 → ∀ q g, px (cls3 (oEarliest G hall m).1) q (sG S (ad 2) g)) (hc : 4 ≤ mc) (hs : 24 ≤ ms) : wX_X1_earliest post px mc ms x hall m S := by
  have sf : ∀ q, (oEarliest G hall m).1 ≠ 0 → px (cls3 (oEarliest G hall m).1) q S := fun q h => by
    have := p2 h q (hA S (ad 2))
    rw [sG_self] at this; exact this
  refine ⟨R.P.T.d, x_isHall R.P R.F ⟨by omega, by omega, x_needIndex (fun e => x_in ⟨by omega, by omega, x_needValue (fun e2 => ⟨_, R.P.T.su, R.P.U.d, fun e3 => ?_, fun e3 => ?_⟩) (fun e2 q _ => ?_) (by decide) (by decide)⟩) (fun e q _ => ?_) (by decide) (by decide)⟩⟩
  · rw [oEarliest, if_neg (by rw [e]; decide), if_neg (by rw [show sIn m.toInt 0 86385 = true from e2]; decide), if_pos ((z_none R).mpr e3)] at sf
    exact ⟨by omega, by omega, x_needState (p := false) (fun z => by cases z) (fun _ q _ => sf q (by decide)) (by decide) (by decide)⟩
  · rw [oEarliest, if_neg (by rw [e]; decide), if_neg (by rw [show sIn m.toInt 0 86385 = true from e2]; decide), if_neg (fun z => e3 ((z_none R).mp z))] at p1 p2
    refine ⟨by omega, by omega, x_needState (p := true) (fun _ => ⟨R.P.T.d, ?_⟩) (fun z => by cases z) (by decide) (by decide)⟩
    have := x_earliestOf (g0 := hA S (ad 2)) R (sHall_iff.mp e) (sIn_iff.mp e2) (post := fun r_2 S_3 => (r_2 = (-1 : Int32) → 1 ≤ (((mc - 1) - 1) - 1) ∧ 6 ≤ (((ms - 6) - 6) - 6) ∧ wX_X1_needElement (post r_2 S_3) px 1 6 (0 : Int32) S_3) ∧ (¬ r_2 = (-1 : Int32) → 1 ≤ (((mc - 1) - 1) - 1) ∧ 6 ≤ (((ms - 6) - 6) - 6) ∧ wX_X1_needElement (post r_2 S_3) px 1 6 (1 : Int32) S_3)) (fun g => ⟨fun e4 => ⟨by omega, by omega, x_needElement (p := false) (fun z => by cases z) (fun _ q _ => ?_) (by decide) (by decide)⟩, fun e4 => ⟨by omega, by omega, x_needElement (p := true) (fun _ => ?_) (fun z => by cases z) (by decide) (by decide)⟩⟩)
    · rw [sG_self] at this; exact this
    · rw [if_pos e4] at p2
      exact p2 (by decide) q g
    · rw [if_neg e4] at p1
      exact p1 rfl g
  · rw [oEarliest, if_neg (by rw [e]; decide), if_pos (show sIn m.toInt 0 86385 = false from e2)] at sf; exact sf q (by decide)
  · rw [oEarliest, if_pos e] at sf; exact sf q (by decide)
/-- classes of the hall that is free first -/
def clsE : Nat → String := fun k => match k with | 1 => "java/lang/IllegalArgumentException" | 2 => "java/lang/IllegalStateException" | _ => "java/util/NoSuchElementException"
theorem X_earliestHall {m : Int32} {post : Int32 → HS → Prop} (R : xRX ke S c x ad qs bks F G) (p1 : (oEarHall G m).1 = 0 → ∀ g, post (oEarHall G m).2 (sG S (ad 2) g)) (p2 : (oEarHall G m).1 ≠ 0 → ∀ q g, px (clsE (oEarHall G m).1) q (sG S (ad 2) g)) (hc : 4 ≤ mc) (hs : 24 ≤ ms) : wX_X1_earliestHall post px mc ms x m S := by
  have lh := cn_le (n := 6) R.F.h.2
  have sf : ∀ q, (oEarHall G m).1 ≠ 0 → px (clsE (oEarHall G m).1) q S := fun q h => by
    have := p2 h q (hA S (ad 2))
    rw [sG_self] at this; exact this
  refine x_in ⟨by omega, by omega, x_needValue (fun e2 => ⟨R.P.T.d, _, R.P.T.su, R.P.U.d, fun e3 => ?_, fun e3 => ?_⟩) (fun e2 q _ => ?_) (by decide) (by decide)⟩
  · rw [oEarHall, if_neg (by rw [show sIn m.toInt 0 86385 = true from e2]; decide), if_pos ((z_none R).mpr e3)] at sf
    exact ⟨by omega, by omega, x_needState (p := false) (fun z => by cases z) (fun _ q _ => sf q (by decide)) (by decide) (by decide)⟩
  · rw [oEarHall, if_neg (by rw [show sIn m.toInt 0 86385 = true from e2]; decide), if_neg (fun z => e3 ((z_none R).mp z))] at p1 p2
    refine ⟨by omega, by omega, x_needState (p := true) (fun _ => ?_) (fun z => by cases z) (by decide) (by decide)⟩
    have main := zfold (α := (Int32 × Int32)) (f := sEarS G m) (n := cn (G 1 0)) (L := fun n a k => ∀ g, wX_X1_earliestHall_l35 post px x m n a.1 a.2 k ((mc - 1) - 1) ((ms - 6) - 6) (sG S (ad 2) g)) (post := fun a => ((if a.1 = -1 then ((3 : Nat), (0 : Int32)) else (0, a.1)).1 = 0 → ∀ g, post (if a.1 = -1 then ((3 : Nat), (0 : Int32)) else (0, a.1)).2 (sG S (ad 2) g)) ∧ ((if a.1 = -1 then ((3 : Nat), (0 : Int32)) else (0, a.1)).1 ≠ 0 → ∀ q g, px (clsE (if a.1 = -1 then ((3 : Nat), (0 : Int32)) else (0, a.1)).1) q (sG S (ad 2) g))) (fun _ => True) (by omega) (fun _ _ _ _ => trivial) ?_ (-1, 0) trivial ⟨p1, p2⟩
    · obtain ⟨n, hn⟩ := main
      have := hn (hA S (ad 2))
      rw [sG_self] at this
      exact ⟨n, this⟩
    intro n k a hk _ p1 p2 g
    obtain ⟨l, f, h1, h2, h3⟩ := R.P.U.h
    refine ⟨R.P.T.d, _, R.P.T.su, R.P.U.d, l, h1, h2.d, x_size (h2.sG (h := g) (gr := ad 2)) ?_⟩
    rw [zI_le (by omega) (by omega)]
    refine ⟨fun e => ⟨fun e4 => ⟨by omega, by omega, x_needElement (p := false) (fun z => by cases z) (fun _ q _ => ?_) (by decide) (by decide)⟩, fun e4 => ⟨by omega, by omega, x_needElement (p := true) (fun _ => ?_) (fun z => by cases z) (by decide) (by decide)⟩⟩, fun e => ?_⟩
    · have := (p1 (by omega)).2
      rw [if_pos e4] at this
      exact this (by decide) q g
    · have := (p1 (by omega)).1
      rw [if_neg e4] at this
      exact this rfl g
    have hk' : k < cn (G 1 0) := by omega
    have p2 := p2 hk'
    have c0 := cn_int R.F.h.1
    refine x_earliestOf R (by rw [zI_toInt (by omega)]; omega) (sIn_iff.mp e2) (fun g2 => ⟨fun q1 => ?_, fun q1 => ⟨fun q2 => ?_, fun q2 => ⟨fun q3 => ?_, fun q3 => ?_⟩⟩⟩)
    · have := p2 g2
      rw [sEarS, if_pos q1] at this; exact this
    · have := p2 g2
      rw [sEarS, if_neg q1, if_pos (.inl q2)] at this; exact this
    · have := p2 g2
      rw [sEarS, if_neg q1, if_neg (fun z => z.elim q2 (Int32.not_lt.mpr q3))] at this; exact this
    · have := p2 g2
      rw [sEarS, if_neg q1, if_pos (.inr (Int32.not_le.mp q3))] at this; exact this
  · rw [oEarHall, if_pos (show sIn m.toInt 0 86385 = false from e2)] at sf; exact sf q (by decide)
end
