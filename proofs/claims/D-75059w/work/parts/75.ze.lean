/-! PLAIN LAWS, ze: peak -/
theorem m_peakIn {post : Int32 → Prop} {F : MF} {G : MG} {k : Nat} {x y : Int32} (hF : zFx (G 1)) (hN : zNw (G 1) (G 8)) (hk : k < cn (G 1 2)) (h : post (sPkIn G k x y)) : wM_peakIn post (nI k) x y F G := by
  have lk := cn_le (n := 6) hF.k.2
  have lb := cn_le (n := 60) hN.b.2
  refine m_useAt hF hN hk ?_
  refine zfold (L := fun m a b => wM_peakIn_l11 post F G m (nI k) x y a b) (fun _ => True) (n := cn (G 8 1)) (f := sPkS G k x y) (post := post) (by omega) (fun _ _ _ _ => trivial) ?_ _ trivial h
  intro m b a hb _ p1 p2
  simp only [wM_peakIn_l11, wM_peakIn_b11]
  rw [cn_nI hN.b.1, zI_le (by omega) (by omega)]
  refine ⟨fun e => p1 (by omega), fun e => ?_⟩
  have hb' : b < cn (G 8 1) := by omega
  have p2 := p2 hb'
  refine m_of (w := 10) (by omega) (by decide) ?_
  rw [show (44 : Int32) + nI k = nI (44 + k) from zI_add 44 k, zI_nat (by omega)]
  refine ⟨zI_in' (by omega) (by omega), ?_⟩
  rintro _ rfl
  have no : (sCounts G b && decide (x < gB G b 10 - G 1 (44 + k)) && decide (gB G b 10 - G 1 (44 + k) < y)) = false → wM_peakIn_l11 post F G m (nI k) x y a (nI b + 1) := fun z => by
    rw [sPkS, z, if_neg (by decide)] at p2; exact p2
  refine m_counts (by omega) ⟨fun e1 => no ?_, fun e1 => ⟨fun e2 => no ?_, fun e2 => ⟨fun e3 => no ?_, fun e3 => m_useAt hF hN hk ?_⟩⟩⟩ <;> simp only [bI_0, Bool.not_eq_false] at e1
  · simp only [e1, Bool.false_and]
  · simp only [Int32.not_lt.mpr e2, decide_false, Bool.and_false, Bool.false_and]
  · simp only [Int32.not_lt.mpr e3, decide_false, Bool.and_false]
  · rintro _ rfl
    rw [sPkS, if_pos (by simp only [e1, Int32.not_le.mp e2, Int32.not_le.mp e3, decide_true, Bool.and_true])] at p2
    exact p2
def oPeak (G : MG) (k d : Int32) : ZQ := if sKind G k = false then (1, 0) else if sIn d.toInt 0 59 = false then (2, 0) else (0, sPeak G (cn k) (1440 * d) (1440 * d + 1440))
theorem z_dayspan {d : Int32} (h : 0 ≤ d.toInt ∧ d.toInt ≤ 59) : zSpan (1440 * d) (1440 * d + 1440) ∧ (1440 * d).toInt = 1440 * d.toInt ∧ (1440 * d + 1440).toInt = 1440 * d.toInt + 1440 := by
  have e1 : (1440 * d).toInt = 1440 * d.toInt := by rw [z_mul] <;> simp only [show (1440 : Int32).toInt = 1440 from rfl] <;> omega
  have e2 : (1440 * d + 1440).toInt = 1440 * d.toInt + 1440 := by rw [z_add] <;> rw [e1] <;> simp only [show (1440 : Int32).toInt = 1440 from rfl] <;> omega
  refine ⟨⟨?_, ?_, ?_, ?_⟩, e1, e2⟩ <;> omega
theorem M_peak {F : MF} {G : MG} {k d : Int32} {post : Int32 → MF → MG → Prop} (h : zOK G) (p : mAns F G (oPeak G k d) post) : wM_peak post k d F G := by
  refine m_isKind h.F ⟨fun e => ?_, fun e => m_isIn ?_⟩ <;> simp only [bI_0, Bool.not_eq_false] at e
  · rw [oPeak, if_pos e] at p
    rintro _ rfl
    exact ⟨fun z => absurd z (by rw [upd0]; decide), fun _ => p _ _ rfl (z_up0 h)⟩
  rw [z64, show ((0 : Int64)).toInt = 0 from rfl, show ((59 : Int64)).toInt = 59 from rfl]
  refine ⟨fun e2 => ?_, fun e2 => ?_⟩ <;> simp only [bI_0, Bool.not_eq_false] at e2
  · rw [oPeak, if_neg (by rw [e]; decide), if_pos e2] at p
    rintro _ rfl
    exact ⟨fun z => absurd z (by rw [upd0]; decide), fun _ => p _ _ rfl (z_up0 h)⟩
  · rw [oPeak, if_neg (by rw [e]; decide), if_neg (by rw [e2]; decide)] at p
    obtain ⟨ek, lk, -⟩ := sKind_nI h.F e
    have v := sIn_iff.mp e2
    obtain ⟨sp, s1, s2⟩ := z_dayspan v
    have eq : (1440 : Int32) * (d + 1) = 1440 * d + 1440 := by
      rw [← Int32.toInt_inj, s2]
      have a : (d + 1).toInt = d.toInt + 1 := by rw [z_add] <;> simp only [show (1 : Int32).toInt = 1 from rfl] <;> omega
      rw [z_mul] <;> rw [a] <;> simp only [show (1440 : Int32).toInt = 1440 from rfl] <;> omega
    rintro _ rfl
    refine ⟨fun _ => ?_, fun z => absurd (by rw [upd0]; decide) z⟩
    rw [ek, eq]
    refine m_peakIn h.F h.N lk ?_
    rw [← sPeak_eq h.F h.N lk sp (by rw [s1]; omega) (by rw [s2]; omega) (by omega)]
    exact p _ _ rfl (z_up0 h)
theorem X_peak {ke : Nat} {S : HS} {c : HC} {x : Nat} {ad qs : Nat → Nat} {bks : Nat → Nat → Nat} {F : MF} {G : MG} {px : String → Nat → HS → Prop} {mc ms : Nat} {k d : Int32} {post : Int32 → HS → Prop} (R : xRX ke S c x ad qs bks F G) (p : xAns ke x S (oPeak G k d) cls3 (fun r => ∀ g, post r (sG S (ad 2) g)) px) (hc : 2 ≤ mc) (hs : 12 ≤ ms) : wX_X1_peak post px mc ms x k d S := by
  refine ⟨R.P.T.d, x_isKind R.P R.F ⟨by omega, by omega, x_needIndex (fun e => x_in ⟨bI_01 _, by omega, by omega, x_needValue (fun e2 => ?_) (fun e2 q _ => ?_) (by decide) (by decide)⟩) (fun e q _ => ?_) (by decide) (by decide)⟩⟩
  · rw [oPeak, if_neg (by rw [e]; decide), if_neg (by rw [show sIn d.toInt 0 59 = true from e2]; decide)] at p
    obtain ⟨ek, lk, -⟩ := sKind_nI R.F e
    obtain ⟨sp, -, -⟩ := z_dayspan (sIn_iff.mp (show sIn d.toInt 0 59 = true from e2))
    rw [ek]
    exact x_mostHeld R.P R.F R.N lk sp (fun g => p.1 rfl g)
  · rw [oPeak, if_neg (by rw [e]; decide), if_pos (show sIn d.toInt 0 59 = false from e2)] at p; exact p.2 (by decide) q
  · rw [oPeak, if_pos e] at p; exact p.2 (by decide) q
