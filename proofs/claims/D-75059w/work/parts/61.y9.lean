/-! PLAIN LAWS, y9: what is recorded, saved, restored, undone -/
/-- a row with a run of places anew -/
def zrow (g : Nat → Int32) (x N : Nat) (v : Nat → Int32) : Nat → Int32 := fun i => if x ≤ i ∧ i < x + N then v (i - x) else g i
theorem zcopy {L : Nat → Int32 → MG → Prop} {G : MG} {K x N : Nat} {v : Nat → Int32} (hN : N < 2147483647) (stop : ∀ m, L (m + 1) (nI N) (mg G K (zrow (G K) x N v)))
    (step : ∀ m j g, j < N → (∀ i, x + j ≤ i → g i = G K i) → (∀ i, i < x → g i = G K i) → L m (nI j + 1) (mg G K (upd g (x + j) (v j))) → L (m + 1) (nI j) (mg G K g)) : ∃ m, L m 0 G := by
  have key : ∀ d j g, j + d = N → (∀ i, g i = zrow (G K) x j v i) → ∃ m, L m (nI j) (mg G K g) := by
    intro d
    induction d with
    | zero =>
      intro j g e hg
      have : g = zrow (G K) x N v := by funext i; rw [hg i, show j = N by omega]
      rw [this, show j = N by omega]
      exact ⟨1, stop 0⟩
    | succ d ih =>
      intro j g e hg
      obtain ⟨m, hm⟩ := ih (j + 1) (upd g (x + j) (v j)) (by omega) (fun i => by
        simp only [upd, zrow]
        split
        · rename_i q
          rw [if_pos (by omega)]; congr 1; omega
        · rw [hg i]
          simp only [zrow]
          by_cases z : x ≤ i ∧ i < x + j
          · rw [if_pos z, if_pos (by omega)]
          · rw [if_neg z, if_neg (by omega)])
      refine ⟨m + 1, step m j g (by omega) (fun i hi => ?_) (fun i hi => ?_) ?_⟩
      · rw [hg i]; exact if_neg (by omega)
      · rw [hg i]; exact if_neg (by omega)
      · rw [zI_1, zI_add]; exact hm
  obtain ⟨m, hm⟩ := key N 0 (G K) (by omega) (fun i => (if_neg (by omega)).symm)
  exact ⟨m, by rw [mg_self] at hm; exact hm⟩
theorem m_remembers52 {post : MF → MG → Prop} {F : MF} {G : MG} {h : Nat} (hh : F 11 = nI h) (h7 : h < 8) (p : post (upd F 11 (F 11 + 1)) (sPushG F G (G 8))) : ∃ n, wM_remembers_l52 post n 0 F G := by
  have ch : cn (F 11) = h := by rw [hh]; exact zI_nat (by omega)
  refine zcopy (L := fun n k G => wM_remembers_l52 post n k F G) (K := 10) (x := 1052 * h) (N := 1052) (v := G 8) (by decide) (fun m => ⟨fun _ => ?_, fun z => absurd (by decide) z⟩) (fun m j g hj h1 h2 nx => ⟨fun z => ?_, fun _ => ?_⟩)
  · rintro _ rfl
    have : sPushG F G (G 8) = mg G 10 (zrow (G 10) (1052 * h) 1052 (G 8)) := by
      unfold sPushG zrow
      rw [ch]
    rw [← this]; exact p
  · rw [show (1052 : Int32) = nI 1052 from rfl, zI_le (by omega) (by omega)] at z; omega
  · rw [hh, show (1052 : Int32) * nI h + nI j = nI (1052 * h + j) by rw [show (1052 : Int32) = nI 1052 from rfl, zI_mul, zI_add], zI_nat (show j < 2147483648 by omega), zI_nat (show 1052 * h + j < 2147483648 by omega)]
    refine ⟨zI_in' (by omega) (by omega), zI_in' (by omega) (by omega), ?_⟩
    rintro _ rfl
    rw [mu_mg]
    exact nx
theorem sRem_8 {F : MF} {G : MG} (h8 : F 11 = 8) : sPushG (upd F 11 7) (sPopG G) (G 8) = sRemG F G ∧ upd (upd F 11 7) 11 (upd F 11 7 11 + 1) = sRemF F := by
  constructor
  · funext k
    unfold sPushG sPopG sRemG
    rw [if_pos h8]
    have c7 : cn (upd F 11 7 11) = 7 := rfl
    rw [c7, mg_mg]
    by_cases z : k = 10
    · subst z
      rw [mg_eq, mg_eq, mg_eq]
      funext i
      by_cases a : i < 7364
      · rw [if_neg (by omega), if_pos a, if_pos a]
      · by_cases b : i < 8416
        · rw [if_pos (by omega), if_neg a, if_pos b]
        · rw [if_neg (by omega), if_neg a, if_neg a, if_neg b]
    · rw [mg_ne z, mg_ne z]
  · unfold sRemF
    rw [if_pos h8]
    funext k
    simp only [upd]
    by_cases z : k = 11
    · rw [if_pos z, z, h8]; rfl
    · rw [if_neg z, if_neg z]
theorem sRem_n {F : MF} {G : MG} (h8 : ¬ F 11 = 8) : sPushG F G (G 8) = sRemG F G ∧ upd F 11 (F 11 + 1) = sRemF F := by
  unfold sPushG sRemG sRemF
  rw [if_neg h8, if_neg h8]
  exact ⟨rfl, rfl⟩
theorem m_remembers {post : MF → MG → Prop} {F : MF} {G : MG} (hc : ∃ h, F 11 = nI h ∧ h ≤ 8) (p : post (sRemF F) (sRemG F G)) : wM_remembers post F G := by
  obtain ⟨h, hh, h8⟩ := hc
  refine ⟨fun e => ?_, fun e => ?_⟩
  · refine zcopy (L := fun n k G => wM_remembers_l11 post n k F G) (K := 10) (x := 0) (N := 7364) (v := fun i => G 10 (i + 1052)) (by decide) (fun m => ⟨fun _ => ?_, fun z => absurd (by decide) z⟩) (fun m j g hj h1 h2 nx => ⟨fun z => ?_, fun _ => ?_⟩)
    · rintro _ rfl
      have e7 : F 11 - 1 = 7 := by rw [e]; decide
      rw [e7]
      have : mg G 10 (zrow (G 10) 0 7364 (fun i => G 10 (i + 1052))) = sPopG G := by
        unfold sPopG zrow
        congr 1
        funext i
        by_cases z : i < 7364
        · rw [if_pos (by omega), if_pos z]; rfl
        · rw [if_neg (by omega), if_neg z]
      rw [this]
      have s := sRem_8 (G := G) e
      exact m_remembers52 (F := upd F 11 7) (G := sPopG G) (h := 7) rfl (by decide) (by show post _ (sPushG (upd F 11 7) (sPopG G) (G 8)); rw [s.1, s.2]; exact p)
    · rw [show (7364 : Int32) = nI 7364 from rfl, zI_le (by omega) (by omega)] at z; omega
    · rw [show nI j + (1052 : Int32) = nI (j + 1052) from zI_add j 1052, zI_nat (by omega), zI_nat (show j + 1052 < 2147483648 by omega)]
      refine ⟨zI_in' (by omega) (by omega), zI_in' (by omega) (by omega), ?_⟩
      rintro _ rfl
      rw [mu_mg, mg_eq, h1 (j + 1052) (by omega)]
      rw [Nat.zero_add] at nx
      exact nx
  · have s := sRem_n (G := G) e
    exact m_remembers52 hh (by
      by_cases z : h = 8
      · rw [z] at hh; exact absurd hh e
      · omega) (by rw [s.1, s.2]; exact p)
section
variable {ke : Nat} {kc : Nat → Nat} {S : HS} {c : HC} {x : Nat} {ad qs : Nat → Nat} {bks : Nat → Nat → Nat} {F : MF} {G : MG} {px : String → Nat → HS → Prop} {mc ms : Nat}
/-- the bound after a step -/
theorem xGo.bd {S' : HS} {c' : HC} {W : Nat → Prop} {B : Nat} (E : xGo S c S' c' W B) (h : ∀ a t, hD S t a → c a < B) : ∀ a t, hD S' t a → c' a < B + 10 := fun a t d => by
  rcases E.N a t d with ⟨t', d'⟩ | z
  · rw [E.E.C d']; have := h a t' d'; omega
  · exact z
/-- the copy of a state put last -/
theorem x_recTail {h : Nat} {post : HS → Prop} (ek : kc 0 = ke) (R : xRX ke S c x ad qs bks F G) (hh : F 11 = nI h) (h7 : h < 8) (H : ∀ S', xRel ke x S' (upd F 11 (F 11 + 1)) (sPushG F G (G 8)) → post S') (p : Nat) (np : xNew S p) : wX_X3_init_2 kc (fun S_13 => hD S_13 13 (ad 5) ∧ wX_J3_addLast (fun S_15 => post S_15) (ad 5) p S_13) 200 20000 p (ad 1) (nO S 2 p) := by
  obtain ⟨B, b1, b2, b3, b4⟩ := R.bd
  obtain ⟨h', e, h1, h2, h3⟩ := R.hi
  have eh : h' = h := by
    rw [hh, zI_inj (by omega) (by have := h2.le; omega)] at e; exact e.symm
  subst eh
  have V0 : xSt ke S c (qs 0) (ad 1) (G 1) (G 8) (fun _ => 0) (bks 0) := R.P.V.congr R.N R.F (fun _ _ => rfl) (fun i hi => (R.out i hi).symm)
  refine x_stateCopy ek (R.q.1 0 (by decide)).2 R.kc V0 R.N (κ := B) b4 np (fun S2 c2 bk' G2 V2 => ?_)
  have D2 : xDq S2 c2 (ad 5) h' (fun k => ad (10 + k)) := by
    obtain ⟨a, p, a1, a2, a3, a4, a5, a6, a7, a8, a9⟩ := h2.a
    have E := G2.E
    exact ⟨E.D h2.d, (E.C h2.d).trans h2.cd, ⟨a, p, (E.R h2.d (fun z => z) _).trans a1, E.D a2, (E.C a2).trans a3, (E.L a2 (fun z => z)).trans a4, E.D a5, a6, (E.I h2.d (fun z => z) _).trans a7, (E.I h2.d (fun z => z) _).trans a8, fun k hk => (E.B a2 (fun z => z) _).trans (a9 k hk)⟩, h2.le⟩
  refine ⟨D2.d, x_dqAdd (κ := B) (v := p) D2 h7 (.inr (.inr (.inr (.inr (.inr V2.d))))) (fun S3 G3 D3 => ?_)⟩
  have GG : xGo S c S3 c2 (wDq c (ad 5)) B := (G2.mono (fun _ _ z => z.elim)).go G3 (fun a ⟨t, d⟩ z => z.imp id (fun z => by rw [← G2.E.C d]; exact z))
  have w8 : ∀ a, wDq c2 (ad 5) a → c2 a = 8 ∨ c2 a = 9 := fun a z => z.imp (fun z => by rw [z]; exact D2.cd) id
  exact H S3 ⟨_, _, _, _, x_push R hh h7 GG ⟨b1, b2, b3⟩ (GG.bd b4) D3 (V2.ext G3.E (fun a ha z => by have := w8 a z; omega)) R.N R.sep⟩
theorem x_record {post : HS → Prop} (ek : kc 0 = ke) (R : xRX ke S c x ad qs bks F G) (H : ∀ S', xRel ke x S' (sRemF F) (sRemG F G) → post S') (hc : 201 ≤ mc) (hs : 20005 ≤ ms) : wX_X1_record kc post mc ms x S := by
  obtain ⟨h, e, h1, h2, h3⟩ := R.hi
  have le := h2.le
  refine ⟨R.P.T.d, ad 5, h1, h2.d, x_dsize h2 ?_⟩
  rw [show (8 : Int32) = nI 8 from rfl, zI_inj (by omega) (by omega)]
  refine ⟨fun z => ?_, fun z => ?_⟩
  · subst z
    obtain ⟨B, b1, b2, b3, b4⟩ := R.bd
    refine x_dqPop (κ := B) h2 (by decide) (fun S1 G1 D1 => ?_)
    have R1 := x_pop R e G1 D1 ⟨B + 10, by omega, by omega, fun i hi => by have := b3 i hi; omega, G1.bd b4⟩
    refine ⟨R1.P.T.d, ad 5, ?_, by omega, by omega, fun p np => ?_⟩
    · obtain ⟨_, _, r1, _⟩ := R1.hi
      exact r1
    rintro _ rfl
    have r3 : hR S1 3 x = some (ad 1) := R1.P.T.st
    have xp := np.ne R1.P.T.d
    refine ⟨ad 1, by rw [nO_Rne xp]; exact r3, by omega, by omega, ?_⟩
    have s := sRem_8 (G := G) e
    exact x_recTail (h := 7) ek R1 rfl (by decide) (fun S' rel => H S' (by rw [← s.1, ← s.2]; exact rel)) p np
  · have e8 : ¬ F 11 = 8 := fun y => by
      rw [e, show (8 : Int32) = nI 8 from rfl, zI_inj (by omega) (by omega)] at y; exact z y
    have s := sRem_n (G := G) e8
    refine ⟨by omega, by omega, fun p np => ?_⟩
    rintro _ rfl
    have xp := np.ne R.P.T.d
    refine ⟨ad 1, by rw [nO_Rne xp]; exact R.P.T.st, by omega, by omega, ?_⟩
    exact x_recTail (h := h) ek R e (by omega) (fun S' rel => H S' (by rw [← s.1, ← s.2]; exact rel)) p np
end
