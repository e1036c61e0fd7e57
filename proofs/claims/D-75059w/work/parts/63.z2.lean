/-! PLAIN LAWS, z2: save, restore, undo -/
section
variable {ke : Nat} {kc : Nat → Nat} {S S' : HS} {c c' : HC} {x κ : Nat} {ad qs ad' qs' : Nat → Nat} {bks bks' : Nat → Nat → Nat} {F F' : MF} {G G' : MG} {W : Nat → Prop} {px : String → Nat → HS → Prop} {mc ms : Nat}
def oSave (F : MF) (G : MG) : ZR := (0, G 8 0, upd F 12 1, mg G 9 (zrow (G 9) 0 1052 (G 8)))
theorem zrow_lt {g v : Nat → Int32} {N i : Nat} (h : i < N) : zrow g 0 N v i = v i := by
  unfold zrow; rw [if_pos (by omega)]; rfl
theorem M_save {post : Int32 → MF → MG → Prop} (h : zOK G) (p : mDone (oSave F G) post) : wM_save post F G := by
  rintro _ rfl
  refine zcopy (L := fun n k G => wM_save_l7 post n k (upd F 0 0) G) (K := 9) (x := 0) (N := 1052) (v := G 8) (by decide) (fun m => ⟨fun _ => ?_, fun z => absurd (by decide) z⟩) (fun m j g hj h1 h2 nx => ⟨fun z => ?_, fun _ => ?_⟩)
  · rintro _ rfl
    exact p _ _ rfl ⟨rfl, rfl, rfl, rfl, rfl, rfl, rfl, rfl, rfl, h.out⟩
  · rw [show (1052 : Int32) = nI 1052 from rfl, zI_le (by omega) (by omega)] at z; omega
  · rw [zI_nat (by omega)]
    refine ⟨zI_in' (by omega) (by omega), zI_in' (by omega) (by omega), ?_⟩
    rintro _ rfl
    rw [mu_mg]
    rw [Nat.zero_add] at nx
    exact nx
/-- one more color for one of the ten -/
theorem z_qs {qs : Nat → Nat} {B i0 : Nat} (q : (∀ i, i < 10 → 10 ≤ qs i ∧ qs i % 10 = 0) ∧ ∀ i j, i < 10 → j < 10 → qs i = qs j → i = j) (hB : B % 10 = 0 ∧ 10 ≤ B ∧ ∀ i, i < 10 → qs i < B) : (∀ i, i < 10 → 10 ≤ (if i = i0 then B else qs i) ∧ (if i = i0 then B else qs i) % 10 = 0) ∧ ∀ i j, i < 10 → j < 10 → (if i = i0 then B else qs i) = (if j = i0 then B else qs j) → i = j := by
  constructor
  · intro i hi
    split
    · exact ⟨hB.2.1, hB.1⟩
    · exact q.1 i hi
  · intro i j hi hj z
    by_cases a1 : i = i0 <;> by_cases a2 : j = i0 <;> simp only [a1, a2, if_true, if_false] at z
    · omega
    · have := hB.2.2 j hj; omega
    · have := hB.2.2 i hi; omega
    · exact q.2 i j hi hj z
theorem z_qB {qs : Nat → Nat} {B i0 : Nat} (hB : ∀ i, i < 10 → qs i < B) : ∀ i, i < 10 → (if i = i0 then B else qs i) < B + 10 := fun i hi => by
  split
  · omega
  · have := hB i hi; omega
/-- the present state with none out -/
theorem xRX.V0 (R : xRX ke S c x ad qs bks F G) : xSt ke S c (qs 0) (ad 1) (G 1) (G 8) (fun _ => 0) (bks 0) := R.P.V.congr R.N R.F (fun _ _ => rfl) (fun i hi => (R.out i hi).symm)
theorem X_save {post : Int32 → HS → Prop} (ek : kc 0 = ke) (R : xRX ke S c x ad qs bks F G) (p : ∀ S', xRel ke x S' (oSave F G).2.2.1 (oSave F G).2.2.2 → post (oSave F G).2.1 S') (hc : 201 ≤ mc) (hs : 20005 ≤ ms) : wX_X1_save kc post mc ms x S := by
  obtain ⟨B, b1, b2, b3, b4⟩ := R.bd
  refine ⟨by omega, by omega, fun q np => ?_⟩
  rintro _ rfl
  have xq := np.ne R.P.T.d
  refine ⟨nO_old R.P.T.d, ad 1, by rw [nO_Rne xq]; exact R.P.T.st, by omega, by omega, ?_⟩
  refine x_stateCopy ek (R.q.1 0 (by decide)).2 R.kc R.V0 R.N (κ := B) b4 np (fun S2 c2 bk' G2 V2 => ?_)
  have E2 := G2.E
  have no : ∀ a : Nat, c a ≠ c a → False := fun a h => h rfl
  refine ⟨E2.D R.P.T.d, ?_⟩
  rintro _ rfl
  have GG : xGo S c (sR S2 4 x (some q)) c2 (fun a => a = x) B := (G2.mono (fun _ _ z => z.elim)).go (gR' S2 c2 4 x (some q) B) (fun _ _ z => z)
  have wx := R.x1
  have q0 := R.q.1
  have E := GG.E
  have c2x : c2 x = 1 := (E2.C R.P.T.d).trans R.P.T.cx
  have hk : ∀ k, k ≠ 4 → hR (sR S2 4 x (some q)) k x = hR S k x := fun k hk => (sR_ne (.inl hk)).trans (E2.R R.P.T.d (fun z => z) k)
  have rr : ∀ i, i < 1052 → zrow (G 9) 0 1052 (G 8) i = G 8 i := fun i hi => zrow_lt hi
  have V3 : xSt ke (sR S2 4 x (some q)) c2 B q (G 1) (G 8) (fun _ => 0) bk' := V2.ext (oR S2 c2 4 x (some q)) (fun a z y => by rw [y, c2x] at z; omega)
  have R2 := R.upd (F' := upd F 12 1) (G' := mg G 9 (zrow (G 9) 0 1052 (G 8))) (ad' := fun i => if i = 9 then q else ad i) (qs' := fun i => if i = 1 then B else qs i) (bks' := fun i => if i = 1 then bk' else bks i) GG (fun a z => .inl z) (fun k hk' => hk k (by omega)) (fun i hi => if_neg (by omega)) rfl
    ⟨(hk 3 (by decide)).trans R.P.T.st, R.P.V.ext E (fun a z => wx a (by have := q0 0 (by decide); omega))⟩ R.N R.sep R.out (R.len' E (fun a z => wx a (by omega)) (E2.I R.P.T.d (fun z => z) 1)) R.D ⟨(hk 5 (by decide)).trans R.dr.1, R.dr.2.ext E (fun a z => wx a (by omega))⟩
    (.inr ⟨rfl, sR_eq _ _ _ _, V3.congr R.N R.F rr (fun _ _ => rfl), R.N.congr rr, zSep.congr R.N R.sep rr⟩)
    (by
      obtain ⟨h, e, d, k1⟩ := R.hi' E (fun a z => wx a (by
        rcases z with z | z | z | ⟨k, hk, z⟩
        · omega
        · omega
        · omega
        · have := q0 (2 + k) (by omega); omega))
      refine ⟨h, e, ?_, fun k hk => ?_⟩
      · have : (fun k => if 10 + k = 9 then q else ad (10 + k)) = fun k => ad (10 + k) := by funext k; rw [if_neg (by omega)]
        rw [this]; exact d
      · rw [if_neg (by omega), if_neg (by omega), if_neg (by omega)]
        exact k1 k hk)
    (z_qs R.q ⟨b1, b2, b3⟩) ⟨B + 10, by omega, by omega, z_qB b3, GG.bd b4⟩
  refine ⟨ad 1, (hk 3 (by decide)).trans R.P.T.st, E2.D R.P.V.d, ?_⟩
  have v0 : hI (sR S2 4 x (some q)) 204 (ad 1) = G 8 0 := (E2.I R.P.V.d (fun z => z) 204).trans R.P.V.no
  rw [v0]
  exact p _ ⟨_, _, _, _, R2⟩
/-! restore -/
def oRestore (F : MF) (G : MG) : ZR := if F 12 = 0 then (1, 0, F, G) else (0, G 9 0, upd F 11 0, mg G 8 (zrow (G 8) 0 1052 (G 9)))
theorem M_restore {post : Int32 → MF → MG → Prop} (h : zOK G) (p : mDone (oRestore F G) post) : wM_restore post F G := by
  rintro _ rfl
  refine ⟨fun e => ?_, fun e => ?_⟩
  · rw [oRestore, if_pos (show F 12 = 0 from e)] at p; exact m_fails (k := 1) h p
  rw [oRestore, if_neg (show ¬ F 12 = 0 from e)] at p
  refine zcopy (L := fun n k G => wM_restore_l20 post n k (upd F 0 0) G) (K := 8) (x := 0) (N := 1052) (v := G 9) (by decide) (fun m => ⟨fun _ => ?_, fun z => absurd (by decide) z⟩) (fun m j g hj h1 h2 nx => ⟨fun z => ?_, fun _ => ?_⟩)
  · rintro _ rfl
    rw [mg_eq, zrow_lt (by decide)]
    exact p _ _ rfl ⟨rfl, rfl, rfl, rfl, rfl, rfl, rfl, rfl, rfl, h.out⟩
  · rw [show (1052 : Int32) = nI 1052 from rfl, zI_le (by omega) (by omega)] at z; omega
  · rw [zI_nat (by omega)]
    refine ⟨zI_in' (by omega) (by omega), zI_in' (by omega) (by omega), ?_⟩
    rintro _ rfl
    rw [mu_mg]
    rw [Nat.zero_add] at nx
    exact nx
theorem X_restore {post : Int32 → HS → Prop} (ek : kc 0 = ke) (R : xRX ke S c x ad qs bks F G) (p : xDone ke x F G (oRestore F G) (fun _ => "java/lang/IllegalStateException") post px) (hc : 202 ≤ mc) (hs : 20011 ≤ ms) : wX_X1_restore kc post px mc ms x S := by
  obtain ⟨B, b1, b2, b3, b4⟩ := R.bd
  refine ⟨R.P.T.d, fun e => ⟨by omega, by omega, x_needState (p := false) (fun z => by cases z) (fun _ q _ => ?_) (by decide) (by decide)⟩, fun sv e => ⟨by omega, by omega, x_needState (p := true) (fun _ => ⟨by omega, by omega, fun q np => ?_⟩) (fun z => by cases z) (by decide) (by decide)⟩⟩
  · have f0 : F 12 = 0 := by
      rcases R.sv with h | ⟨-, h, -⟩
      · exact h.1
      · rw [e] at h; cases h
    rw [oRestore, if_pos f0] at p
    exact p.2 (by show (1 : Nat) ≠ 0; decide) q S ⟨c, ad, qs, bks, R⟩
  · rcases R.sv with ⟨-, h⟩ | ⟨f1, h, Vs, Ns, Zs⟩
    · rw [e] at h; cases h
    rw [oRestore, if_neg (by rw [f1]; decide)] at p
    rintro _ rfl
    have xq := np.ne R.P.T.d
    refine ⟨nO_old R.P.T.d, ad 9, by rw [nO_Rne xq]; exact h, by omega, by omega, ?_⟩
    refine x_stateCopy ek (R.q.1 1 (by decide)).2 R.kc Vs Ns (κ := B) b4 np (fun S2 c2 bk' G2 V2 => ?_)
    have E2 := G2.E
    refine ⟨E2.D R.P.T.d, ?_⟩
    rintro _ rfl
    have c2x : c2 x = 1 := (E2.C R.P.T.d).trans R.P.T.cx
    obtain ⟨hh, eh, h1, h2, h3⟩ := R.hi
    have GA : xGo S c (sR S2 3 x (some q)) c2 (fun a => a = x ∨ wDq c (ad 5) a) B := (G2.mono (fun _ _ z => z.elim)).go (gR' S2 c2 3 x (some q) B) (fun _ _ z => .inl z)
    have D2 : xDq (sR S2 3 x (some q)) c2 (ad 5) hh (fun k => ad (10 + k)) := (h2.ext E2 (fun _ _ z => z)).ext (oR S2 c2 3 x (some q)) (fun a z y => by rw [y, c2x] at z; omega)
    have dx2 : hD (sR S2 3 x (some q)) 0 x := E2.D R.P.T.d
    refine ⟨ad 5, ?_, D2.d, x_dqClear (κ := B) D2 (fun S3 G3 D3 => ?_)⟩
    · rw [sR_ne (.inl (by decide))]; exact (E2.R R.P.T.d (fun z => z) 6).trans h1
    have w8 : ∀ a, wDq c2 (ad 5) a → c2 a = 8 ∨ c2 a = 9 := fun a z => z.imp (fun z => by rw [z]; exact D2.cd) id
    have wx3 : ¬ wDq c2 (ad 5) x := fun z => by have := w8 x z; omega
    have GG := GA.go G3 (fun a ⟨t, d⟩ z => .inr (z.imp id (fun z => by rw [← E2.C d]; exact z)))
    have E := GG.E
    have w8' : ∀ a, wDq c (ad 5) a → c a = 8 ∨ c a = 9 := fun a z => z.imp (fun z => by rw [z]; exact h2.cd) id
    have wW : ∀ a, c a ≠ 1 → c a ≠ 8 → c a ≠ 9 → ¬ (a = x ∨ wDq c (ad 5) a) := fun a y1 y2 y3 z => z.elim (R.x1 a y1) (fun z => (w8' a z).elim y2 y3)
    have hk : ∀ k, k ≠ 3 → hR S3 k x = hR S k x := fun k hk => ((G3.E.R dx2 wx3 k).trans (sR_ne (.inl hk))).trans (E2.R R.P.T.d (fun z => z) k)
    have r3 : hR S3 3 x = some q := (G3.E.R dx2 wx3 3).trans (sR_eq _ _ _ _)
    have rr : ∀ i, i < 1052 → zrow (G 8) 0 1052 (G 9) i = G 9 i := fun i hi => zrow_lt hi
    have VA : xSt ke (sR S2 3 x (some q)) c2 B q (G 1) (G 9) (fun _ => 0) bk' := V2.ext (oR S2 c2 3 x (some q)) (fun a z y => by rw [y, c2x] at z; omega)
    have V3 := VA.ext G3.E (fun a z y => by have := w8 a y; omega)
    have q0 := R.q.1
    have R2 := R.upd (F' := upd F 11 0) (G' := mg G 8 (zrow (G 8) 0 1052 (G 9))) (ad' := fun i => if i = 1 then q else ad i) (qs' := fun i => if i = 0 then B else qs i) (bks' := fun i => if i = 0 then bk' else bks i) GG (fun a z => z.elim .inl (fun z => .inr (.inr (by have := w8' a z; omega)))) (fun k hk' => hk k (by omega)) (fun i hi => if_neg (by omega)) rfl
      ⟨r3, V3.congr Ns R.F rr (fun i hi => R.out i hi)⟩ (Ns.congr rr) (zSep.congr Ns Zs rr) R.out (R.len' E (fun a z => wW a (by omega) (by omega) (by omega)) ((G3.E.I dx2 wx3 1).trans (E2.I R.P.T.d (fun z => z) 1))) R.D ⟨(hk 5 (by decide)).trans R.dr.1, R.dr.2.ext E (fun a z => wW a (by omega) (by omega) (by omega))⟩
      (by
        have := R.sv' E (fun a z => wW a (by have := q0 1 (by decide); omega) (by have := q0 1 (by decide); omega) (by have := q0 1 (by decide); omega)) (hk 4 (by decide))
        exact this)
      ⟨0, rfl, by
        obtain ⟨a, p', a1, a2, a3, a4, a5, a6, a7, a8, a9⟩ := D3.a
        exact ⟨D3.d, D3.cd, ⟨a, p', a1, a2, a3, a4, a5, a6, a7, a8, fun k hk => absurd hk (Nat.not_lt_zero _)⟩, D3.le⟩, fun k hk => absurd hk (Nat.not_lt_zero _)⟩
      (z_qs R.q ⟨b1, b2, b3⟩) ⟨B + 10, by omega, by omega, z_qB b3, GG.bd b4⟩
    refine ⟨R2.P.T.d, q, r3, V3.d, ?_⟩
    rw [V3.no]
    exact p.1 rfl _ ⟨_, _, _, _, R2⟩
/-! undo -/
def oUndo (F : MF) (G : MG) : ZR := if F 11 = 0 then (1, 0, F, G) else (0, F 11 - 1, upd F 11 (F 11 - 1), mg G 8 (zrow (G 8) 0 1052 (fun i => G 10 (1052 * cn (F 11 - 1) + i))))
/-- two of the ten change places -/
abbrev zsw (k i : Nat) : Nat := if i = 0 then k else if i = k then 0 else i
theorem z_qsw {qs : Nat → Nat} {k : Nat} (hk : k < 10) (q : (∀ i, i < 10 → 10 ≤ qs i ∧ qs i % 10 = 0) ∧ ∀ i j, i < 10 → j < 10 → qs i = qs j → i = j) : (∀ i, i < 10 → 10 ≤ qs (zsw k i) ∧ qs (zsw k i) % 10 = 0) ∧ ∀ i j, i < 10 → j < 10 → qs (zsw k i) = qs (zsw k j) → i = j := by
  have lt : ∀ i, i < 10 → zsw k i < 10 := fun i hi => by unfold zsw; split <;> (try split) <;> omega
  refine ⟨fun i hi => q.1 _ (lt i hi), fun i j hi hj z => ?_⟩
  have := q.2 _ _ (lt i hi) (lt j hj) z
  simp only [zsw] at this
  split at this <;> split at this <;> (try split at this) <;> (try split at this) <;> omega
theorem M_undo {post : Int32 → MF → MG → Prop} (h : zOK G) (hc : ∃ h, F 11 = nI h ∧ h ≤ 8) (p : mDone (oUndo F G) post) : wM_undo post F G := by
  obtain ⟨hh, eh, h8⟩ := hc
  rintro _ rfl
  refine ⟨fun e => ?_, fun e => ?_⟩
  · rw [oUndo, if_pos (show F 11 = 0 from e)] at p; exact m_fails (k := 1) h p
  rw [oUndo, if_neg (show ¬ F 11 = 0 from e)] at p
  have e0 : ¬ F 11 = 0 := e
  have h0 : 0 < hh := by
    rw [eh, zI_0, zI_inj (by omega) (by omega)] at e0; omega
  have e1 : F 11 - 1 = nI (hh - 1) := by rw [eh]; exact zI_sub (a := hh) (b := 1) (by omega)
  have c1 : cn (F 11 - 1) = hh - 1 := by rw [e1]; exact zI_nat (by omega)
  rintro _ rfl
  refine zcopy (L := fun n k G => wM_undo_l30 post n k _ G) (K := 8) (x := 0) (N := 1052) (v := fun i => G 10 (1052 * cn (F 11 - 1) + i)) (by decide) (fun m => ⟨fun _ => ?_, fun z => absurd (by decide) z⟩) (fun m j g hj h1 h2 nx => ⟨fun z => ?_, fun _ => ?_⟩)
  · exact p _ _ rfl ⟨rfl, rfl, rfl, rfl, rfl, rfl, rfl, rfl, rfl, h.out⟩
  · rw [show (1052 : Int32) = nI 1052 from rfl, zI_le (by omega) (by omega)] at z; omega
  · have i1 : (1052 : Int32) * upd (upd F 0 0) 11 (upd F 0 0 11 - 1) 11 + nI j = nI (1052 * (hh - 1) + j) := by
      show (1052 : Int32) * (F 11 - 1) + nI j = _
      rw [e1, show (1052 : Int32) = nI 1052 from rfl, zI_mul, zI_add]
    rw [i1, zI_nat (show j < 2147483648 by omega), zI_nat (show 1052 * (hh - 1) + j < 2147483648 by omega)]
    refine ⟨zI_in' (by omega) (by omega), zI_in' (by omega) (by omega), ?_⟩
    rintro _ rfl
    rw [mu_mg]
    rw [Nat.zero_add, c1] at nx
    exact nx
theorem X_undo {post : Int32 → HS → Prop} (R : xRX ke S c x ad qs bks F G) (p : xDone ke x F G (oUndo F G) (fun _ => "java/lang/IllegalStateException") post px) (hc : 1 ≤ mc) (hs : 6 ≤ ms) : wX_X1_undo post px mc ms x S := by
  obtain ⟨B, b1, b2, b3, b4⟩ := R.bd
  obtain ⟨hh, eh, h1, h2, h3⟩ := R.hi
  have le := h2.le
  refine ⟨R.P.T.d, ad 5, h1, h2.d, x_dqEmpty h2 ⟨fun e => ⟨hc, hs, x_needState (p := true) (fun _ => ?_) (fun z => by cases z) (by decide) (by decide)⟩, fun e => ⟨hc, hs, x_needState (p := false) (fun z => by cases z) (fun _ q _ => ?_) (by decide) (by decide)⟩⟩⟩ <;> simp only [bI_0, Bool.not_eq_false] at e
  · have h0 : 0 < hh := by simp at e; omega
    have e0 : ¬ F 11 = 0 := by rw [eh, zI_0, zI_inj (by omega) (by omega)]; omega
    have e1 : F 11 - 1 = nI (hh - 1) := by rw [eh]; exact zI_sub (a := hh) (b := 1) (by omega)
    have c1 : cn (F 11 - 1) = hh - 1 := by rw [e1]; exact zI_nat (by omega)
    rw [oUndo, if_neg e0] at p
    refine x_dqLast (κ := B) h2 h0 (fun S1 G1 D1 => ?_)
    obtain ⟨Vh, Nh, Zh⟩ := h3 (hh - 1) (by omega)
    have w8' : ∀ a, wDq c (ad 5) a → c a = 8 ∨ c a = 9 := fun a z => z.imp (fun z => by rw [z]; exact h2.cd) id
    have wx1 : ¬ wDq c (ad 5) x := fun z => by have := w8' x z; rw [R.P.T.cx] at this; omega
    refine ⟨G1.E.D Vh.d, G1.E.D R.P.T.d, ?_⟩
    rintro _ rfl
    have GG : xGo S c (sR S1 3 x (some (ad (10 + (hh - 1))))) c (fun a => a = x ∨ wDq c (ad 5) a) B := (G1.mono (fun _ _ z => .inr z)).go (gR' S1 c 3 x (some (ad (10 + (hh - 1)))) B) (fun _ _ z => .inl z)
    have E := GG.E
    have wW : ∀ a, c a ≠ 1 → c a ≠ 8 → c a ≠ 9 → ¬ (a = x ∨ wDq c (ad 5) a) := fun a y1 y2 y3 z => z.elim (R.x1 a y1) (fun z => (w8' a z).elim y2 y3)
    have hk : ∀ k, k ≠ 3 → hR (sR S1 3 x (some (ad (10 + (hh - 1))))) k x = hR S k x := fun k hk => (sR_ne (.inl hk)).trans (G1.E.R R.P.T.d wx1 k)
    have q0 := R.q.1
    have qh := q0 (2 + (hh - 1)) (by omega)
    have rr : ∀ i, i < 1052 → zrow (G 8) 0 1052 (fun i => G 10 (1052 * cn (F 11 - 1) + i)) i = G 10 (1052 * (hh - 1) + i) := fun i hi => by rw [zrow_lt hi, c1]
    have Vh' := (Vh.ext E (fun a z => wW a (by omega) (by omega) (by omega))).congr Nh R.F rr (fun i hi => R.out i hi)
    have D2 := D1.ext (oR S1 c 3 x (some (ad (10 + (hh - 1))))) (fun a z y => by rw [y, R.P.T.cx] at z; omega)
    have R2 := R.upd (F' := upd F 11 (F 11 - 1)) (G' := mg G 8 (zrow (G 8) 0 1052 (fun i => G 10 (1052 * cn (F 11 - 1) + i)))) (ad' := fun i => if i = 1 then ad (10 + (hh - 1)) else ad i) (qs' := fun i => qs (zsw (2 + (hh - 1)) i)) (bks' := fun i => if i = 0 then bks (2 + (hh - 1)) else bks i) GG (fun a z => z.elim .inl (fun z => .inr (.inr (by have := w8' a z; omega)))) (fun k hk' => hk k (by omega)) (fun i hi => if_neg (by omega)) rfl
      ⟨sR_eq _ _ _ _, Vh'⟩ (Nh.congr rr) (zSep.congr Nh Zh rr) R.out (R.len' E (fun a z => wW a (by omega) (by omega) (by omega)) (G1.E.I R.P.T.d wx1 1)) R.D ⟨(hk 5 (by decide)).trans R.dr.1, R.dr.2.ext E (fun a z => wW a (by omega) (by omega) (by omega))⟩
      (by
        have q1 := q0 1 (by decide)
        have := R.sv' E (fun a z => wW a (by omega) (by omega) (by omega)) (hk 4 (by decide))
        have t1 : zsw (2 + (hh - 1)) 1 = 1 := by unfold zsw; rw [if_neg (by decide), if_neg (by omega)]
        rw [t1]
        exact this)
      ⟨hh - 1, e1, by
        have : (fun k => if 10 + k = 1 then ad (10 + (hh - 1)) else ad (10 + k)) = fun k => ad (10 + k) := by funext k; rw [if_neg (by omega)]
        rw [this]; exact D2, fun k hk => by
        obtain ⟨V, P⟩ := h3 k (by omega)
        have qk := q0 (2 + k) (by omega)
        have t1 : zsw (2 + (hh - 1)) (2 + k) = 2 + k := by unfold zsw; rw [if_neg (by omega), if_neg (by omega)]
        rw [if_neg (by omega), if_neg (by omega), t1]
        exact ⟨V.ext E (fun a z => wW a (by omega) (by omega) (by omega)), P⟩⟩
      (z_qsw (by omega) R.q) ⟨B + 10, by omega, by omega, fun i hi => by
        have lt : zsw (2 + (hh - 1)) i < 10 := by unfold zsw; split <;> (try split) <;> omega
        have := b3 _ lt; omega, GG.bd b4⟩
    refine ⟨ad 5, (hk 6 (by decide)).trans h1, D2.d, x_dsize D2 ?_⟩
    have := p.1 rfl _ ⟨_, _, _, _, R2⟩
    rw [← e1]
    exact this
  · have h0 : hh = 0 := by simpa using e
    have e0 : F 11 = 0 := by rw [eh, h0]; rfl
    rw [oUndo, if_pos e0] at p
    exact p.2 (by show (1 : Nat) ≠ 0; decide) q S ⟨c, ad, qs, bks, R⟩
end
