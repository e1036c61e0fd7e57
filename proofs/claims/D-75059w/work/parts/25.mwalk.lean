set_option maxRecDepth 100000
/-! thrown -/
def wM_thrown (post : Int32 → Prop) (F : MF) (G : MG) : Prop :=
  post (F 0)
set_option maxHeartbeats 4000000 in
theorem kM_thrown (l : Launch) (w : MP) (post : Int32 → Prop) (F : MF) (G : MG) (hw : wM_thrown post F G) : m_Mi l w yX5_thrown cX5_thrown 1 .int 0 [.ref (mp_h w)] F G (fun r F1 G1 => F1 = F ∧ G1 = G ∧ post r) := by
  refine m_ofWi (by decide) rfl (Nat.le_of_ble_eq_true rfl) (fun _ => True) (fun _ _ => rfl) ?_
  intro p e s m args below meth c Q ls hA hW hQ
  obtain ⟨hE, hT, hl⟩ := hA
  obtain ⟨hx, hb, hml, hown, hts⟩ := id hE
  have hl : lv_has ls 1 [(0, .ref (mp_h w))] := hl
  unfold wM_thrown at hw
  refine lv_aload_n hx hb dX5_thrown_0 rfl (lv_at hl 0 rfl) ?_
  refine m_get hx hb hown hts hT hW 0 (by decide) (hts _ q2129) rfl (v := .int (F 0)) rfl dX5_thrown_1 ?_
  exact hQ _ _ _ _ _ trivial ⟨rfl, rfl, hw⟩ hW _ _ dX5_thrown_4

/-! starts -/
def wM_starts_b70 (post : MF → MG → Prop) (K70 : Int32 → MF → MG → Prop) (y1 : Int32) (F : MF) (G : MG) : Prop :=
  ((9 : Int32) ≤ y1 → ∀ G_1 : MG, G_1 = mu G 6 1 (1 : Int32) → ∀ G_2 : MG, G_2 = mu G_1 6 2 (60 : Int32) → post F G_2) ∧ (¬ (9 : Int32) ≤ y1 → vp_in y1 9 ∧ ∀ G_3 : MG, G_3 = mu G 6 (y1.toNatClampNeg) (0 : Int32) → K70 (y1 + (1 : Int32)) F G_3)
def wM_starts_l70 (post : MF → MG → Prop) : Nat → Int32 → MF → MG → Prop
  | 0 => fun _ _ _ => False
  | n + 1 => wM_starts_b70 post (wM_starts_l70 post n)
def wM_starts_b37 (post : MF → MG → Prop) (K37 : Int32 → MF → MG → Prop) (y1 : Int32) (F : MF) (G : MG) : Prop :=
  ((48 : Int32) ≤ y1 → ∃ n, wM_starts_l70 post n (0 : Int32) F G) ∧ (¬ (48 : Int32) ≤ y1 → vp_in ((118 : Int32) + y1) 166 ∧ vp_in ((1004 : Int32) + y1) 1052 ∧ ∀ G_5 : MG, G_5 = mu G 8 (((1004 : Int32) + y1).toNatClampNeg) (G 1 (((118 : Int32) + y1).toNatClampNeg)) → K37 (y1 + (1 : Int32)) F G_5)
def wM_starts_l37 (post : MF → MG → Prop) : Nat → Int32 → MF → MG → Prop
  | 0 => fun _ _ _ => False
  | n + 1 => wM_starts_b37 post (wM_starts_l37 post n)
def wM_starts_b2 (post : MF → MG → Prop) (K2 : Int32 → MF → MG → Prop) (y1 : Int32) (F : MF) (G : MG) : Prop :=
  ((1052 : Int32) ≤ y1 → ∀ G_6 : MG, G_6 = mu G 8 3 (G 1 6) → ∃ n, wM_starts_l37 post n (0 : Int32) F G_6) ∧ (¬ (1052 : Int32) ≤ y1 → vp_in y1 1052 ∧ ∀ G_8 : MG, G_8 = mu G 8 (y1.toNatClampNeg) (0 : Int32) → K2 (y1 + (1 : Int32)) F G_8)
def wM_starts_l2 (post : MF → MG → Prop) : Nat → Int32 → MF → MG → Prop
  | 0 => fun _ _ _ => False
  | n + 1 => wM_starts_b2 post (wM_starts_l2 post n)
def wM_starts (post : MF → MG → Prop) (F : MF) (G : MG) : Prop :=
  ∃ n, wM_starts_l2 post n (0 : Int32) F G
set_option maxHeartbeats 4000000 in
theorem kM_starts (l : Launch) (w : MP) (post : MF → MG → Prop) (F : MF) (G : MG) (hw : wM_starts post F G) : m_Mv l w yX5_starts cX5_starts 2 0 [.ref (mp_h w)] F G post := by
  refine m_ofWv (by decide) rfl (Nat.le_of_ble_eq_true rfl) ?_
  intro p e s m args below meth c Q ls hA hW hQ
  obtain ⟨hE, hT, hl⟩ := hA
  obtain ⟨hx, hb, hml, hown, hts⟩ := id hE
  have hl : lv_has ls 2 [(0, .ref (mp_h w))] := hl
  have lp70 : ∀ (n70 : Nat) (y1 : Int32) (F : MF) (G : MG) (H : Heap) (locs : List Loc) (ls : Array Slot), lv_has ls 2 [(0, .ref (mp_h w)), (1, .int y1)] → m_W w s.heap F G H locs → wM_starts_l70 post n70 y1 F G → W p l e (mrm 0) s m args below meth c H locs 0 0 Q (F0 m 70 ls []) := by
    intro n70
    induction n70 with
    | zero => intro y1 F G H locs ls hl hW hw; exact hw.elim
    | succ n70 ih70 =>
      intro y1 F G H locs ls hl hW hw
      have hw : wM_starts_b70 post (wM_starts_l70 post n70) y1 F G := hw
      unfold wM_starts_b70 at hw
      refine lv_iload_n hx hb dX5_starts_70 rfl (lv_at hl 1 rfl) ?_
      refine lv_bipush (v := (9 : Int32)) hx hb dX5_starts_71 (by decide) ?_
      refine lv_icmp_ge (tgt := 89) hx hb dX5_starts_73 (by decide) (fun q => ?_) (fun q => ?_)
      · have hw := hw.1 q
        refine lv_aload_n hx hb dX5_starts_89 rfl (lv_at hl 0 rfl) ?_
        refine m_get hx hb hown hts hT hW 6 (by decide) (hts _ q2135) rfl (v := .ref (mp_a w 6)) rfl dX5_starts_90 ?_
        refine lv_iconst (v := (1 : Int32)) hx hb dX5_starts_93 (by decide) ?_
        refine lv_iconst (v := (1 : Int32)) hx hb dX5_starts_94 (by decide) ?_
        refine m_iast hx hb hT hW (k := 6) (j := 1) (by decide) rfl (by unfold vp_in; decide) dX5_starts_95 (fun G_1 H locs eG_1 hW => ?_)
        have hw := hw G_1 eG_1
        refine lv_aload_n hx hb dX5_starts_96 rfl (lv_at hl 0 rfl) ?_
        refine m_get hx hb hown hts hT hW 6 (by decide) (hts _ q2135) rfl (v := .ref (mp_a w 6)) rfl dX5_starts_97 ?_
        refine lv_iconst (v := (2 : Int32)) hx hb dX5_starts_100 (by decide) ?_
        refine lv_bipush (v := (60 : Int32)) hx hb dX5_starts_101 (by decide) ?_
        refine m_iast hx hb hT hW (k := 6) (j := 2) (by decide) rfl (by unfold vp_in; decide) dX5_starts_103 (fun G_2 H locs eG_2 hW => ?_)
        have hw := hw G_2 eG_2
        exact hQ _ _ _ _ hw hW _ _ dX5_starts_104
      · have hw := hw.2 q
        refine lv_aload_n hx hb dX5_starts_76 rfl (lv_at hl 0 rfl) ?_
        refine m_get hx hb hown hts hT hW 6 (by decide) (hts _ q2135) rfl (v := .ref (mp_a w 6)) rfl dX5_starts_77 ?_
        refine lv_iload_n hx hb dX5_starts_80 rfl (lv_at hl 1 rfl) ?_
        refine lv_iconst (v := (0 : Int32)) hx hb dX5_starts_81 (by decide) ?_
        obtain ⟨hi, hw⟩ := hw
        refine m_iast hx hb hT hW (k := 6) (j := (y1.toNatClampNeg)) rfl rfl hi dX5_starts_82 (fun G_3 H locs eG_3 hW => ?_)
        have hw := hw G_3 eG_3
        refine lv_iinc (v := (y1 + (1 : Int32))) (lv' := [(1, .int (y1 + (1 : Int32))), (0, .ref (mp_h w))]) hx hb dX5_starts_83 hl (k := 1) rfl rfl (by decide) rfl (fun ls hl => ?_)
        refine lv_goto (tgt := 70) hx hb dX5_starts_86 (by decide) ?_
        exact ih70 (y1 + (1 : Int32)) F G_3 _ _ _ (lv_sub hl [1, 0] rfl) hW hw
  have lp37 : ∀ (n37 : Nat) (y1 : Int32) (F : MF) (G : MG) (H : Heap) (locs : List Loc) (ls : Array Slot), lv_has ls 2 [(0, .ref (mp_h w)), (1, .int y1)] → m_W w s.heap F G H locs → wM_starts_l37 post n37 y1 F G → W p l e (mrm 0) s m args below meth c H locs 0 0 Q (F0 m 37 ls []) := by
    intro n37
    induction n37 with
    | zero => intro y1 F G H locs ls hl hW hw; exact hw.elim
    | succ n37 ih37 =>
      intro y1 F G H locs ls hl hW hw
      have hw : wM_starts_b37 post (wM_starts_l37 post n37) y1 F G := hw
      unfold wM_starts_b37 at hw
      refine lv_iload_n hx hb dX5_starts_37 rfl (lv_at hl 1 rfl) ?_
      refine lv_bipush (v := (48 : Int32)) hx hb dX5_starts_38 (by decide) ?_
      refine lv_icmp_ge (tgt := 68) hx hb dX5_starts_40 (by decide) (fun q => ?_) (fun q => ?_)
      · have hw := hw.1 q
        refine lv_iconst (v := (0 : Int32)) hx hb dX5_starts_68 (by decide) ?_
        refine lv_istore_n (lv' := [(1, .int (0 : Int32)), (0, .ref (mp_h w))]) hx hb dX5_starts_69 rfl hl (by decide) rfl (fun ls hl => ?_)
        obtain ⟨n_4, hw⟩ := hw
        exact lp70 n_4 (0 : Int32) F G _ _ _ (lv_sub hl [1, 0] rfl) hW hw
      · have hw := hw.2 q
        refine lv_aload_n hx hb dX5_starts_43 rfl (lv_at hl 0 rfl) ?_
        refine m_get hx hb hown hts hT hW 8 (by decide) (hts _ q2137) rfl (v := .ref (mp_a w 8)) rfl dX5_starts_44 ?_
        refine lv_sipush (v := (1004 : Int32)) hx hb dX5_starts_47 (by decide) ?_
        refine lv_iload_n hx hb dX5_starts_50 rfl (lv_at hl 1 rfl) ?_
        refine lv_iadd hx hb dX5_starts_51 ?_
        refine lv_aload_n hx hb dX5_starts_52 rfl (lv_at hl 0 rfl) ?_
        refine m_get hx hb hown hts hT hW 1 (by decide) (hts _ q2130) rfl (v := .ref (mp_a w 1)) rfl dX5_starts_53 ?_
        refine lv_bipush (v := (118 : Int32)) hx hb dX5_starts_56 (by decide) ?_
        refine lv_iload_n hx hb dX5_starts_58 rfl (lv_at hl 1 rfl) ?_
        refine lv_iadd hx hb dX5_starts_59 ?_
        obtain ⟨hi, hw⟩ := hw
        refine m_iald hx hb hT hW (k := 1) (j := (((118 : Int32) + y1).toNatClampNeg)) rfl rfl hi dX5_starts_60 ?_
        obtain ⟨hi, hw⟩ := hw
        refine m_iast hx hb hT hW (k := 8) (j := (((1004 : Int32) + y1).toNatClampNeg)) rfl rfl hi dX5_starts_61 (fun G_5 H locs eG_5 hW => ?_)
        have hw := hw G_5 eG_5
        refine lv_iinc (v := (y1 + (1 : Int32))) (lv' := [(1, .int (y1 + (1 : Int32))), (0, .ref (mp_h w))]) hx hb dX5_starts_62 hl (k := 1) rfl rfl (by decide) rfl (fun ls hl => ?_)
        refine lv_goto (tgt := 37) hx hb dX5_starts_65 (by decide) ?_
        exact ih37 (y1 + (1 : Int32)) F G_5 _ _ _ (lv_sub hl [1, 0] rfl) hW hw
  have lp2 : ∀ (n2 : Nat) (y1 : Int32) (F : MF) (G : MG) (H : Heap) (locs : List Loc) (ls : Array Slot), lv_has ls 2 [(0, .ref (mp_h w)), (1, .int y1)] → m_W w s.heap F G H locs → wM_starts_l2 post n2 y1 F G → W p l e (mrm 0) s m args below meth c H locs 0 0 Q (F0 m 2 ls []) := by
    intro n2
    induction n2 with
    | zero => intro y1 F G H locs ls hl hW hw; exact hw.elim
    | succ n2 ih2 =>
      intro y1 F G H locs ls hl hW hw
      have hw : wM_starts_b2 post (wM_starts_l2 post n2) y1 F G := hw
      unfold wM_starts_b2 at hw
      refine lv_iload_n hx hb dX5_starts_2 rfl (lv_at hl 1 rfl) ?_
      refine lv_sipush (v := (1052 : Int32)) hx hb dX5_starts_3 (by decide) ?_
      refine lv_icmp_ge (tgt := 22) hx hb dX5_starts_6 (by decide) (fun q => ?_) (fun q => ?_)
      · have hw := hw.1 q
        refine lv_aload_n hx hb dX5_starts_22 rfl (lv_at hl 0 rfl) ?_
        refine m_get hx hb hown hts hT hW 8 (by decide) (hts _ q2137) rfl (v := .ref (mp_a w 8)) rfl dX5_starts_23 ?_
        refine lv_iconst (v := (3 : Int32)) hx hb dX5_starts_26 (by decide) ?_
        refine lv_aload_n hx hb dX5_starts_27 rfl (lv_at hl 0 rfl) ?_
        refine m_get hx hb hown hts hT hW 1 (by decide) (hts _ q2130) rfl (v := .ref (mp_a w 1)) rfl dX5_starts_28 ?_
        refine lv_bipush (v := (6 : Int32)) hx hb dX5_starts_31 (by decide) ?_
        refine m_iald hx hb hT hW (k := 1) (j := 6) (by decide) rfl (by unfold vp_in; decide) dX5_starts_33 ?_
        refine m_iast hx hb hT hW (k := 8) (j := 3) (by decide) rfl (by unfold vp_in; decide) dX5_starts_34 (fun G_6 H locs eG_6 hW => ?_)
        have hw := hw G_6 eG_6
        refine lv_iconst (v := (0 : Int32)) hx hb dX5_starts_35 (by decide) ?_
        refine lv_istore_n (lv' := [(1, .int (0 : Int32)), (0, .ref (mp_h w))]) hx hb dX5_starts_36 rfl hl (by decide) rfl (fun ls hl => ?_)
        obtain ⟨n_7, hw⟩ := hw
        exact lp37 n_7 (0 : Int32) F G_6 _ _ _ (lv_sub hl [1, 0] rfl) hW hw
      · have hw := hw.2 q
        refine lv_aload_n hx hb dX5_starts_9 rfl (lv_at hl 0 rfl) ?_
        refine m_get hx hb hown hts hT hW 8 (by decide) (hts _ q2137) rfl (v := .ref (mp_a w 8)) rfl dX5_starts_10 ?_
        refine lv_iload_n hx hb dX5_starts_13 rfl (lv_at hl 1 rfl) ?_
        refine lv_iconst (v := (0 : Int32)) hx hb dX5_starts_14 (by decide) ?_
        obtain ⟨hi, hw⟩ := hw
        refine m_iast hx hb hT hW (k := 8) (j := (y1.toNatClampNeg)) rfl rfl hi dX5_starts_15 (fun G_8 H locs eG_8 hW => ?_)
        have hw := hw G_8 eG_8
        refine lv_iinc (v := (y1 + (1 : Int32))) (lv' := [(1, .int (y1 + (1 : Int32))), (0, .ref (mp_h w))]) hx hb dX5_starts_16 hl (k := 1) rfl rfl (by decide) rfl (fun ls hl => ?_)
        refine lv_goto (tgt := 2) hx hb dX5_starts_19 (by decide) ?_
        exact ih2 (y1 + (1 : Int32)) F G_8 _ _ _ (lv_sub hl [1, 0] rfl) hW hw
  unfold wM_starts at hw
  refine lv_iconst (v := (0 : Int32)) hx hb dX5_starts_0 (by decide) ?_
  refine lv_istore_n (lv' := [(1, .int (0 : Int32)), (0, .ref (mp_h w))]) hx hb dX5_starts_1 rfl hl (by decide) rfl (fun ls hl => ?_)
  obtain ⟨n_9, hw⟩ := hw
  exact lp2 n_9 (0 : Int32) F G _ _ _ (lv_sub hl [1, 0] rfl) hW hw
theorem gM_starts : GoodIn lw_all (wsV RX5 70 RX5 yX5_starts (ws_ yX5_starts cX5_starts 2 none)) := lw_V q2125 q2127 qs66 q154 q2128
theorem dM_starts : yX5_starts.cls = RX5 ∧ yX5_starts.cls ≠ "java/lang/invoke/MethodHandle" ∧ yX5_starts.cls ≠ "java/lang/invoke/VarHandle" ∧ (parseMethodDescriptor yX5_starts.desc).map (fun d => d.parameters.length) = some 0 := by decide +kernel

/-! bytesOf -/
def wM_bytesOf_b4 (post : Int32 → Prop) (F : MF) (G : MG) (K4 : Int32 → Int32 → Int32 → Prop) (y0 : Int32) (y1 : Int32) (y2 : Int32) : Prop :=
  ((4 : Int32) ≤ y2 → post y1) ∧ (¬ (4 : Int32) ≤ y2 → (((y0 >>> (((8 : Int32) * y2) &&& 31)) &&& (255 : Int32)) = 0 → ∀ x1_2 : Int32, x1_2 = (y1 + (0 : Int32)) → K4 y0 x1_2 (y2 + (1 : Int32))) ∧ (¬ ((y0 >>> (((8 : Int32) * y2) &&& 31)) &&& (255 : Int32)) = 0 → ∀ x1_1 : Int32, x1_1 = (y1 + (1 : Int32)) → K4 y0 x1_1 (y2 + (1 : Int32))))
def wM_bytesOf_l4 (post : Int32 → Prop) (F : MF) (G : MG) : Nat → Int32 → Int32 → Int32 → Prop
  | 0 => fun _ _ _ => False
  | n + 1 => wM_bytesOf_b4 post F G (wM_bytesOf_l4 post F G n)
def wM_bytesOf (post : Int32 → Prop) (x0 : Int32) (F : MF) (G : MG) : Prop :=
  ∃ n, wM_bytesOf_l4 post F G n x0 (0 : Int32) (0 : Int32)
set_option maxHeartbeats 4000000 in
theorem kM_bytesOf (l : Launch) (w : MP) (post : Int32 → Prop) (x0 : Int32) (F : MF) (G : MG) (hw : wM_bytesOf post x0 F G) : m_Mi l w yX5_bytesOf cX5_bytesOf 3 .int 0 [.int x0] F G (fun r F1 G1 => F1 = F ∧ G1 = G ∧ post r) := by
  refine m_ofWi (by decide) rfl (Nat.le_of_ble_eq_true rfl) (fun _ => True) (fun _ _ => rfl) ?_
  intro p e s m args below meth c Q ls hA hW hQ
  obtain ⟨hE, hT, hl⟩ := hA
  obtain ⟨hx, hb, hml, hown, hts⟩ := id hE
  have hl : lv_has ls 3 [(0, .int x0)] := hl
  have lp4 : ∀ (n4 : Nat) (y0 : Int32) (y1 : Int32) (y2 : Int32) (H : Heap) (locs : List Loc) (ls : Array Slot), lv_has ls 3 [(0, .int y0), (1, .int y1), (2, .int y2)] → m_W w s.heap F G H locs → wM_bytesOf_l4 post F G n4 y0 y1 y2 → W p l e (mrm 0) s m args below meth c H locs 0 0 Q (F0 m 4 ls []) := by
    intro n4
    induction n4 with
    | zero => intro y0 y1 y2 H locs ls hl hW hw; exact hw.elim
    | succ n4 ih4 =>
      intro y0 y1 y2 H locs ls hl hW hw
      have hw : wM_bytesOf_b4 post F G (wM_bytesOf_l4 post F G n4) y0 y1 y2 := hw
      unfold wM_bytesOf_b4 at hw
      refine lv_iload_n hx hb dX5_bytesOf_4 rfl (lv_at hl 2 rfl) ?_
      refine lv_iconst (v := (4 : Int32)) hx hb dX5_bytesOf_5 (by decide) ?_
      refine lv_icmp_ge (tgt := 36) hx hb dX5_bytesOf_6 (by decide) (fun q => ?_) (fun q => ?_)
      · have hw := hw.1 q
        refine lv_iload_n hx hb dX5_bytesOf_36 rfl (lv_at hl 1 rfl) ?_
        exact hQ _ _ _ _ _ trivial ⟨rfl, rfl, hw⟩ hW _ _ dX5_bytesOf_37
      · have hw := hw.2 q
        refine lv_iload_n hx hb dX5_bytesOf_9 rfl (lv_at hl 1 rfl) ?_
        refine lv_iload_n hx hb dX5_bytesOf_10 rfl (lv_at hl 0 rfl) ?_
        refine lv_bipush (v := (8 : Int32)) hx hb dX5_bytesOf_11 (by decide) ?_
        refine lv_iload_n hx hb dX5_bytesOf_13 rfl (lv_at hl 2 rfl) ?_
        refine lv_imul hx hb dX5_bytesOf_14 ?_
        refine lv_ishr hx hb dX5_bytesOf_15 ?_
        refine lv_sipush (v := (255 : Int32)) hx hb dX5_bytesOf_16 (by decide) ?_
        refine lv_iand hx hb dX5_bytesOf_19 ?_
        refine lv_if_ne (tgt := 27) hx hb dX5_bytesOf_20 (by decide) (fun q => ?_) (fun q => ?_)
        · have hw := hw.2 q
          refine lv_iconst (v := (1 : Int32)) hx hb dX5_bytesOf_27 (by decide) ?_
          refine lv_iadd hx hb dX5_bytesOf_28 ?_
          refine lv_topi (fun x1_1 ex1_1 => ?_)
          have hw := hw x1_1 ex1_1
          refine lv_istore_n (lv' := [(1, .int x1_1), (0, .int y0), (2, .int y2)]) hx hb dX5_bytesOf_29 rfl hl (by decide) rfl (fun ls hl => ?_)
          refine lv_iinc (v := (y2 + (1 : Int32))) (lv' := [(2, .int (y2 + (1 : Int32))), (1, .int x1_1), (0, .int y0)]) hx hb dX5_bytesOf_30 hl (k := 2) rfl rfl (by decide) rfl (fun ls hl => ?_)
          refine lv_goto (tgt := 4) hx hb dX5_bytesOf_33 (by decide) ?_
          exact ih4 y0 x1_1 (y2 + (1 : Int32)) _ _ _ (lv_sub hl [2, 1, 0] rfl) hW hw
        · have hw := hw.1 q
          refine lv_iconst (v := (0 : Int32)) hx hb dX5_bytesOf_23 (by decide) ?_
          refine lv_goto (tgt := 28) hx hb dX5_bytesOf_24 (by decide) ?_
          refine lv_iadd hx hb dX5_bytesOf_28 ?_
          refine lv_topi (fun x1_2 ex1_2 => ?_)
          have hw := hw x1_2 ex1_2
          refine lv_istore_n (lv' := [(1, .int x1_2), (0, .int y0), (2, .int y2)]) hx hb dX5_bytesOf_29 rfl hl (by decide) rfl (fun ls hl => ?_)
          refine lv_iinc (v := (y2 + (1 : Int32))) (lv' := [(2, .int (y2 + (1 : Int32))), (1, .int x1_2), (0, .int y0)]) hx hb dX5_bytesOf_30 hl (k := 2) rfl rfl (by decide) rfl (fun ls hl => ?_)
          refine lv_goto (tgt := 4) hx hb dX5_bytesOf_33 (by decide) ?_
          exact ih4 y0 x1_2 (y2 + (1 : Int32)) _ _ _ (lv_sub hl [2, 1, 0] rfl) hW hw
  unfold wM_bytesOf at hw
  refine lv_iconst (v := (0 : Int32)) hx hb dX5_bytesOf_0 (by decide) ?_
  refine lv_istore_n (lv' := [(1, .int (0 : Int32)), (0, .int x0)]) hx hb dX5_bytesOf_1 rfl hl (by decide) rfl (fun ls hl => ?_)
  refine lv_iconst (v := (0 : Int32)) hx hb dX5_bytesOf_2 (by decide) ?_
  refine lv_istore_n (lv' := [(2, .int (0 : Int32)), (1, .int (0 : Int32)), (0, .int x0)]) hx hb dX5_bytesOf_3 rfl hl (by decide) rfl (fun ls hl => ?_)
  obtain ⟨n_3, hw⟩ := hw
  exact lp4 n_3 x0 (0 : Int32) (0 : Int32) _ _ _ (lv_sub hl [2, 1, 0] rfl) hW hw
theorem gM_bytesOf : GoodIn lw_all (va_wsS RX5 79 yX5_bytesOf (ws_ yX5_bytesOf cX5_bytesOf 3 (some .int))) := lw_S q2216 q2217 q154 q2218
theorem dM_bytesOf : yX5_bytesOf.cls ≠ "java/lang/invoke/MethodHandle" ∧ yX5_bytesOf.cls ≠ "java/lang/invoke/VarHandle" ∧ (parseMethodDescriptor yX5_bytesOf.desc).map (fun d => d.parameters.length) = some 1 := by decide +kernel

/-! fails -/
def wM_fails (post : Int32 → MF → MG → Prop) (x1 : Int32) (F : MF) (G : MG) : Prop :=
  ∀ F_1 : MF, F_1 = upd F 0 x1 → post (0 : Int32) F_1 G
set_option maxHeartbeats 4000000 in
theorem kM_fails (l : Launch) (w : MP) (post : Int32 → MF → MG → Prop) (x1 : Int32) (F : MF) (G : MG) (hw : wM_fails post x1 F G) : m_Mi l w yX5_fails cX5_fails 2 .int 0 [.ref (mp_h w), .int x1] F G post := by
  refine m_ofWi (by decide) rfl (Nat.le_of_ble_eq_true rfl) (fun _ => True) (fun _ _ => rfl) ?_
  intro p e s m args below meth c Q ls hA hW hQ
  obtain ⟨hE, hT, hl⟩ := hA
  obtain ⟨hx, hb, hml, hown, hts⟩ := id hE
  have hl : lv_has ls 2 [(0, .ref (mp_h w)), (1, .int x1)] := hl
  unfold wM_fails at hw
  refine lv_aload_n hx hb dX5_fails_0 rfl (lv_at hl 0 rfl) ?_
  refine lv_iload_n hx hb dX5_fails_1 rfl (lv_at hl 1 rfl) ?_
  refine m_put hx hb hown hts hT hW 0 (by decide) (hts _ q2129) rfl rfl (ty := .int) (x := x1) rfl rfl rfl rfl dX5_fails_2 (fun F_1 H locs eF_1 hW => ?_)
  have hw := hw F_1 eF_1
  refine lv_iconst (v := (0 : Int32)) hx hb dX5_fails_5 (by decide) ?_
  exact hQ _ _ _ _ _ trivial hw hW _ _ dX5_fails_6
theorem gM_fails : GoodIn lw_all (wsV RX5 83 RX5 yX5_fails (ws_ yX5_fails cX5_fails 2 (some .int))) := lw_V q2219 q2221 qs67 q154 q2222
theorem dM_fails : yX5_fails.cls = RX5 ∧ yX5_fails.cls ≠ "java/lang/invoke/MethodHandle" ∧ yX5_fails.cls ≠ "java/lang/invoke/VarHandle" ∧ (parseMethodDescriptor yX5_fails.desc).map (fun d => d.parameters.length) = some 1 := by decide +kernel

/-! brings -/
def wM_brings_b3 (post : MF → MG → Prop) (K3 : Int32 → Int32 → MF → MG → Prop) (y1 : Int32) (y2 : Int32) (F : MF) (G : MG) : Prop :=
  (y2 < 0 → post F G) ∧ (¬ y2 < 0 → ∀ x3_1 : Int32, x3_1 = ((y1 >>> (y2 &&& 31)) &&& (255 : Int32)) → (x3_1 = 0 → K3 y1 (y2 + (-8 : Int32)) F G) ∧ (¬ x3_1 = 0 → vp_in (F 14) 800 ∧ ∀ G_2 : MG, G_2 = mu G 13 ((F 14).toNatClampNeg) ((x3_1.toInt8.toInt32).toInt8.toInt32) → ∀ F_3 : MF, F_3 = upd F 14 ((F 14) + (1 : Int32)) → K3 y1 (y2 + (-8 : Int32)) F_3 G_2))
def wM_brings_l3 (post : MF → MG → Prop) : Nat → Int32 → Int32 → MF → MG → Prop
  | 0 => fun _ _ _ _ => False
  | n + 1 => wM_brings_b3 post (wM_brings_l3 post n)
def wM_brings (post : MF → MG → Prop) (x1 : Int32) (F : MF) (G : MG) : Prop :=
  ∃ n, wM_brings_l3 post n x1 (24 : Int32) F G
set_option maxHeartbeats 4000000 in
theorem kM_brings (l : Launch) (w : MP) (post : MF → MG → Prop) (x1 : Int32) (F : MF) (G : MG) (hw : wM_brings post x1 F G) : m_Mv l w yX5_brings cX5_brings 4 0 [.ref (mp_h w), .int x1] F G post := by
  refine m_ofWv (by decide) rfl (Nat.le_of_ble_eq_true rfl) ?_
  intro p e s m args below meth c Q ls hA hW hQ
  obtain ⟨hE, hT, hl⟩ := hA
  obtain ⟨hx, hb, hml, hown, hts⟩ := id hE
  have hl : lv_has ls 4 [(0, .ref (mp_h w)), (1, .int x1)] := hl
  have lp3 : ∀ (n3 : Nat) (y1 : Int32) (y2 : Int32) (F : MF) (G : MG) (H : Heap) (locs : List Loc) (ls : Array Slot), lv_has ls 4 [(0, .ref (mp_h w)), (1, .int y1), (2, .int y2)] → m_W w s.heap F G H locs → wM_brings_l3 post n3 y1 y2 F G → W p l e (mrm 0) s m args below meth c H locs 0 0 Q (F0 m 3 ls []) := by
    intro n3
    induction n3 with
    | zero => intro y1 y2 F G H locs ls hl hW hw; exact hw.elim
    | succ n3 ih3 =>
      intro y1 y2 F G H locs ls hl hW hw
      have hw : wM_brings_b3 post (wM_brings_l3 post n3) y1 y2 F G := hw
      unfold wM_brings_b3 at hw
      refine lv_iload_n hx hb dX5_brings_3 rfl (lv_at hl 2 rfl) ?_
      refine lv_if_lt (tgt := 46) hx hb dX5_brings_4 (by decide) (fun q => ?_) (fun q => ?_)
      · have hw := hw.1 q
        exact hQ _ _ _ _ hw hW _ _ dX5_brings_46
      · have hw := hw.2 q
        refine lv_iload_n hx hb dX5_brings_7 rfl (lv_at hl 1 rfl) ?_
        refine lv_iload_n hx hb dX5_brings_8 rfl (lv_at hl 2 rfl) ?_
        refine lv_ishr hx hb dX5_brings_9 ?_
        refine lv_sipush (v := (255 : Int32)) hx hb dX5_brings_10 (by decide) ?_
        refine lv_iand hx hb dX5_brings_13 ?_
        refine lv_topi (fun x3_1 ex3_1 => ?_)
        have hw := hw x3_1 ex3_1
        refine lv_istore_n (lv' := [(3, .int x3_1), (0, .ref (mp_h w)), (1, .int y1), (2, .int y2)]) hx hb dX5_brings_14 rfl hl (by decide) rfl (fun ls hl => ?_)
        refine lv_iload_n hx hb dX5_brings_15 rfl (lv_at hl 0 rfl) ?_
        refine lv_if_eq (tgt := 40) hx hb dX5_brings_16 (by decide) (fun q => ?_) (fun q => ?_)
        · have hw := hw.1 q
          refine lv_iinc (v := (y2 + (-8 : Int32))) (lv' := [(2, .int (y2 + (-8 : Int32))), (3, .int x3_1), (0, .ref (mp_h w)), (1, .int y1)]) hx hb dX5_brings_40 hl (k := 3) rfl rfl (by decide) rfl (fun ls hl => ?_)
          refine lv_goto (tgt := 3) hx hb dX5_brings_43 (by decide) ?_
          exact ih3 y1 (y2 + (-8 : Int32)) F G _ _ _ (lv_sub hl [2, 3, 0] rfl) hW hw
        · have hw := hw.2 q
          refine lv_aload_n hx hb dX5_brings_19 rfl (lv_at hl 1 rfl) ?_
          refine m_get hx hb hown hts hT hW 13 (by decide) (hts _ q2142) rfl (v := .ref (mp_a w 13)) rfl dX5_brings_20 ?_
          refine lv_aload_n hx hb dX5_brings_23 rfl (lv_at hl 1 rfl) ?_
          refine m_get hx hb hown hts hT hW 14 (by decide) (hts _ q2143) rfl (v := .int (F 14)) rfl dX5_brings_24 ?_
          refine lv_iload_n hx hb dX5_brings_27 rfl (lv_at hl 0 rfl) ?_
          refine lv_i2b (v := x3_1.toInt8.toInt32) hx hb dX5_brings_28 rfl ?_
          obtain ⟨hi, hw⟩ := hw
          refine m_bast hx hb hT hW (k := 13) (j := ((F 14).toNatClampNeg)) rfl rfl hi dX5_brings_29 (fun G_2 H locs eG_2 hW => ?_)
          have hw := hw G_2 eG_2
          refine lv_aload_n hx hb dX5_brings_30 rfl (lv_at hl 1 rfl) ?_
          refine lv_dup hx hb dX5_brings_31 rfl ?_
          refine m_get hx hb hown hts hT hW 14 (by decide) (hts _ q2143) rfl (v := .int (F 14)) rfl dX5_brings_32 ?_
          refine lv_iconst (v := (1 : Int32)) hx hb dX5_brings_35 (by decide) ?_
          refine lv_iadd hx hb dX5_brings_36 ?_
          refine m_put hx hb hown hts hT hW 14 (by decide) (hts _ q2143) rfl rfl (ty := .int) (x := ((F 14) + (1 : Int32))) rfl rfl rfl rfl dX5_brings_37 (fun F_3 H locs eF_3 hW => ?_)
          have hw := hw F_3 eF_3
          refine lv_iinc (v := (y2 + (-8 : Int32))) (lv' := [(2, .int (y2 + (-8 : Int32))), (3, .int x3_1), (0, .ref (mp_h w)), (1, .int y1)]) hx hb dX5_brings_40 hl (k := 3) rfl rfl (by decide) rfl (fun ls hl => ?_)
          refine lv_goto (tgt := 3) hx hb dX5_brings_43 (by decide) ?_
          exact ih3 y1 (y2 + (-8 : Int32)) F_3 G_2 _ _ _ (lv_sub hl [2, 3, 0] rfl) hW hw
  unfold wM_brings at hw
  refine lv_bipush (v := (24 : Int32)) hx hb dX5_brings_0 (by decide) ?_
  refine lv_istore_n (lv' := [(2, .int (24 : Int32)), (0, .ref (mp_h w)), (1, .int x1)]) hx hb dX5_brings_2 rfl hl (by decide) rfl (fun ls hl => ?_)
  obtain ⟨n_4, hw⟩ := hw
  exact lp3 n_4 x1 (24 : Int32) F G _ _ _ (lv_sub hl [1, 2, 0] rfl) hW hw
theorem gM_brings : GoodIn lw_all (wsV RX5 86 RX5 yX5_brings (ws_ yX5_brings cX5_brings 4 none)) := lw_V q2223 q2225 qs68 q154 q2226
theorem dM_brings : yX5_brings.cls = RX5 ∧ yX5_brings.cls ≠ "java/lang/invoke/MethodHandle" ∧ yX5_brings.cls ≠ "java/lang/invoke/VarHandle" ∧ (parseMethodDescriptor yX5_brings.desc).map (fun d => d.parameters.length) = some 1 := by decide +kernel

/-! append -/
def wM_append (post : Int32 → MF → MG → Prop) (x1 : Int32) (x2 : Int32) (x3 : Int32) (x4 : Int32) (x5 : Int32) (F : MF) (G : MG) : Prop :=
  ∀ F_1 : MF, F_1 = upd F 0 (0 : Int32) → wM_bytesOf (fun r_2 => wM_bytesOf (fun r_3 => wM_bytesOf (fun r_4 => wM_bytesOf (fun r_5 => wM_bytesOf (fun r_6 => (((((((F_1 14) + r_2) + r_3) + r_4) + r_5) + r_6) ≤ (800 : Int32) → wM_brings (fun F_7 G_8 => wM_brings (fun F_9 G_10 => wM_brings (fun F_11 G_12 => wM_brings (fun F_13 G_14 => wM_brings (fun F_15 G_16 => post (F_15 14) F_15 G_16) x5 F_13 G_14) x4 F_11 G_12) x3 F_9 G_10) x2 F_7 G_8) x1 F_1 G) ∧ (¬ ((((((F_1 14) + r_2) + r_3) + r_4) + r_5) + r_6) ≤ (800 : Int32) → wM_fails (fun r_17 F_18 G_19 => post r_17 F_18 G_19) (1 : Int32) F_1 G)) x5 F_1 G) x4 F_1 G) x3 F_1 G) x2 F_1 G) x1 F_1 G
set_option maxHeartbeats 4000000 in
theorem kM_append (l : Launch) (w : MP) (post : Int32 → MF → MG → Prop) (x1 : Int32) (x2 : Int32) (x3 : Int32) (x4 : Int32) (x5 : Int32) (F : MF) (G : MG) (hw : wM_append post x1 x2 x3 x4 x5 F G) : m_Mi l w yX5_append cX5_append 6 .int 1 [.ref (mp_h w), .int x1, .int x2, .int x3, .int x4, .int x5] F G post := by
  refine m_ofWi (by decide) rfl (Nat.le_of_ble_eq_true rfl) (fun _ => True) (fun _ _ => rfl) ?_
  intro p e s m args below meth c Q ls hA hW hQ
  obtain ⟨hE, hT, hl⟩ := hA
  obtain ⟨hx, hb, hml, hown, hts⟩ := id hE
  have hl : lv_has ls 6 [(0, .ref (mp_h w)), (1, .int x1), (2, .int x2), (3, .int x3), (4, .int x4), (5, .int x5)] := hl
  unfold wM_append at hw
  refine lv_aload_n hx hb dX5_append_0 rfl (lv_at hl 0 rfl) ?_
  refine lv_iconst (v := (0 : Int32)) hx hb dX5_append_1 (by decide) ?_
  refine m_put hx hb hown hts hT hW 0 (by decide) (hts _ q2129) rfl rfl (ty := .int) (x := (0 : Int32)) rfl rfl rfl rfl dX5_append_2 (fun F_1 H locs eF_1 hW => ?_)
  have hw := hw F_1 eF_1
  refine lv_aload_n hx hb dX5_append_5 rfl (lv_at hl 0 rfl) ?_
  refine m_get hx hb hown hts hT hW 14 (by decide) (hts _ q2143) rfl (v := .int (F_1 14)) rfl dX5_append_6 ?_
  refine lv_iload_n hx hb dX5_append_9 rfl (lv_at hl 1 rfl) ?_
  refine m_Si (rest := [.int (F_1 14)]) hE hT hW (kM_bytesOf l w _ x1 F_1 G hw) gM_bytesOf dM_bytesOf ⟨Nat.le_of_ble_eq_true rfl, Nat.le_of_ble_eq_true rfl, Nat.zero_le _, Nat.zero_le _⟩ rfl hl.1 rfl (Nat.le_of_ble_eq_true rfl) dX5_append_10 (fun r_2 F9 G9 H locs hw hW => ?_)
  obtain ⟨eF9, eG9, hw⟩ := hw
  rw [eF9, eG9] at hW
  refine lv_iadd hx hb dX5_append_13 ?_
  refine lv_iload_n hx hb dX5_append_14 rfl (lv_at hl 2 rfl) ?_
  refine m_Si (rest := [.int ((F_1 14) + r_2)]) hE hT hW (kM_bytesOf l w _ x2 F_1 G hw) gM_bytesOf dM_bytesOf ⟨Nat.le_of_ble_eq_true rfl, Nat.le_of_ble_eq_true rfl, Nat.zero_le _, Nat.zero_le _⟩ rfl hl.1 rfl (Nat.le_of_ble_eq_true rfl) dX5_append_15 (fun r_3 F9 G9 H locs hw hW => ?_)
  obtain ⟨eF9, eG9, hw⟩ := hw
  rw [eF9, eG9] at hW
  refine lv_iadd hx hb dX5_append_18 ?_
  refine lv_iload_n hx hb dX5_append_19 rfl (lv_at hl 3 rfl) ?_
  refine m_Si (rest := [.int (((F_1 14) + r_2) + r_3)]) hE hT hW (kM_bytesOf l w _ x3 F_1 G hw) gM_bytesOf dM_bytesOf ⟨Nat.le_of_ble_eq_true rfl, Nat.le_of_ble_eq_true rfl, Nat.zero_le _, Nat.zero_le _⟩ rfl hl.1 rfl (Nat.le_of_ble_eq_true rfl) dX5_append_20 (fun r_4 F9 G9 H locs hw hW => ?_)
  obtain ⟨eF9, eG9, hw⟩ := hw
  rw [eF9, eG9] at hW
  refine lv_iadd hx hb dX5_append_23 ?_
  refine lv_iload hx hb dX5_append_24 (lv_at hl 4 rfl) ?_
  refine m_Si (rest := [.int ((((F_1 14) + r_2) + r_3) + r_4)]) hE hT hW (kM_bytesOf l w _ x4 F_1 G hw) gM_bytesOf dM_bytesOf ⟨Nat.le_of_ble_eq_true rfl, Nat.le_of_ble_eq_true rfl, Nat.zero_le _, Nat.zero_le _⟩ rfl hl.1 rfl (Nat.le_of_ble_eq_true rfl) dX5_append_26 (fun r_5 F9 G9 H locs hw hW => ?_)
  obtain ⟨eF9, eG9, hw⟩ := hw
  rw [eF9, eG9] at hW
  refine lv_iadd hx hb dX5_append_29 ?_
  refine lv_iload hx hb dX5_append_30 (lv_at hl 5 rfl) ?_
  refine m_Si (rest := [.int (((((F_1 14) + r_2) + r_3) + r_4) + r_5)]) hE hT hW (kM_bytesOf l w _ x5 F_1 G hw) gM_bytesOf dM_bytesOf ⟨Nat.le_of_ble_eq_true rfl, Nat.le_of_ble_eq_true rfl, Nat.zero_le _, Nat.zero_le _⟩ rfl hl.1 rfl (Nat.le_of_ble_eq_true rfl) dX5_append_32 (fun r_6 F9 G9 H locs hw hW => ?_)
  obtain ⟨eF9, eG9, hw⟩ := hw
  rw [eF9, eG9] at hW
  refine lv_iadd hx hb dX5_append_35 ?_
  refine lv_sipush (v := (800 : Int32)) hx hb dX5_append_36 (by decide) ?_
  refine lv_icmp_le (tgt := 48) hx hb dX5_append_39 (by decide) (fun q => ?_) (fun q => ?_)
  · have hw := hw.1 q
    refine lv_aload_n hx hb dX5_append_48 rfl (lv_at hl 0 rfl) ?_
    refine lv_iload_n hx hb dX5_append_49 rfl (lv_at hl 1 rfl) ?_
    refine m_Vv (rest := []) hE hT hW (kM_brings l w _ x1 F_1 G hw) gM_brings dM_brings ⟨Nat.le_of_ble_eq_true rfl, Nat.le_of_ble_eq_true rfl, Nat.zero_le _, Nat.zero_le _⟩ rfl hl.1 rfl (Nat.le_of_ble_eq_true rfl) dX5_append_50 (fun F_7 G_8 H locs hw hW => ?_)
    refine lv_aload_n hx hb dX5_append_53 rfl (lv_at hl 0 rfl) ?_
    refine lv_iload_n hx hb dX5_append_54 rfl (lv_at hl 2 rfl) ?_
    refine m_Vv (rest := []) hE hT hW (kM_brings l w _ x2 F_7 G_8 hw) gM_brings dM_brings ⟨Nat.le_of_ble_eq_true rfl, Nat.le_of_ble_eq_true rfl, Nat.zero_le _, Nat.zero_le _⟩ rfl hl.1 rfl (Nat.le_of_ble_eq_true rfl) dX5_append_55 (fun F_9 G_10 H locs hw hW => ?_)
    refine lv_aload_n hx hb dX5_append_58 rfl (lv_at hl 0 rfl) ?_
    refine lv_iload_n hx hb dX5_append_59 rfl (lv_at hl 3 rfl) ?_
    refine m_Vv (rest := []) hE hT hW (kM_brings l w _ x3 F_9 G_10 hw) gM_brings dM_brings ⟨Nat.le_of_ble_eq_true rfl, Nat.le_of_ble_eq_true rfl, Nat.zero_le _, Nat.zero_le _⟩ rfl hl.1 rfl (Nat.le_of_ble_eq_true rfl) dX5_append_60 (fun F_11 G_12 H locs hw hW => ?_)
    refine lv_aload_n hx hb dX5_append_63 rfl (lv_at hl 0 rfl) ?_
    refine lv_iload hx hb dX5_append_64 (lv_at hl 4 rfl) ?_
    refine m_Vv (rest := []) hE hT hW (kM_brings l w _ x4 F_11 G_12 hw) gM_brings dM_brings ⟨Nat.le_of_ble_eq_true rfl, Nat.le_of_ble_eq_true rfl, Nat.zero_le _, Nat.zero_le _⟩ rfl hl.1 rfl (Nat.le_of_ble_eq_true rfl) dX5_append_66 (fun F_13 G_14 H locs hw hW => ?_)
    refine lv_aload_n hx hb dX5_append_69 rfl (lv_at hl 0 rfl) ?_
    refine lv_iload hx hb dX5_append_70 (lv_at hl 5 rfl) ?_
    refine m_Vv (rest := []) hE hT hW (kM_brings l w _ x5 F_13 G_14 hw) gM_brings dM_brings ⟨Nat.le_of_ble_eq_true rfl, Nat.le_of_ble_eq_true rfl, Nat.zero_le _, Nat.zero_le _⟩ rfl hl.1 rfl (Nat.le_of_ble_eq_true rfl) dX5_append_72 (fun F_15 G_16 H locs hw hW => ?_)
    refine lv_aload_n hx hb dX5_append_75 rfl (lv_at hl 0 rfl) ?_
    refine m_get hx hb hown hts hT hW 14 (by decide) (hts _ q2143) rfl (v := .int (F_15 14)) rfl dX5_append_76 ?_
    exact hQ _ _ _ _ _ trivial hw hW _ _ dX5_append_79
  · have hw := hw.2 q
    refine lv_aload_n hx hb dX5_append_42 rfl (lv_at hl 0 rfl) ?_
    refine lv_iconst (v := (1 : Int32)) hx hb dX5_append_43 (by decide) ?_
    refine m_Vi (rest := []) hE hT hW (kM_fails l w _ (1 : Int32) F_1 G hw) gM_fails dM_fails ⟨Nat.le_of_ble_eq_true rfl, Nat.le_of_ble_eq_true rfl, Nat.zero_le _, Nat.zero_le _⟩ rfl hl.1 rfl (Nat.le_of_ble_eq_true rfl) dX5_append_44 (fun r_17 F_18 G_19 H locs hw hW => ?_)
    exact hQ _ _ _ _ _ trivial hw hW _ _ dX5_append_47

/-! isIn -/
def wM_isIn (post : Int32 → Prop) (x0 : Int64) (x2 : Int64) (x4 : Int64) (F : MF) (G : MG) : Prop :=
  ((lg_cmp x0 x2) < 0 → post (0 : Int32)) ∧ (¬ (lg_cmp x0 x2) < 0 → (0 < (lg_cmp x0 x4) → post (0 : Int32)) ∧ (¬ 0 < (lg_cmp x0 x4) → post (1 : Int32)))
set_option maxHeartbeats 4000000 in
theorem kM_isIn (l : Launch) (w : MP) (post : Int32 → Prop) (x0 : Int64) (x2 : Int64) (x4 : Int64) (F : MF) (G : MG) (hw : wM_isIn post x0 x2 x4 F G) : m_Mi l w yX5_isIn cX5_isIn 6 .boolean 0 [.long x0, .long x2, .long x4] F G (fun r F1 G1 => F1 = F ∧ G1 = G ∧ post r) := by
  refine m_ofWi (by decide) rfl (Nat.le_of_ble_eq_true rfl) (fun r => r = 0 ∨ r = 1) (fun _ h => m_nb h) ?_
  intro p e s m args below meth c Q ls hA hW hQ
  obtain ⟨hE, hT, hl⟩ := hA
  obtain ⟨hx, hb, hml, hown, hts⟩ := id hE
  have hl : lv_has ls 6 [(0, .long x0), (2, .long x2), (4, .long x4)] := hl
  unfold wM_isIn at hw
  refine lv_lload_n hx hb dX5_isIn_0 rfl (lv_at hl 0 rfl) ?_
  refine lv_lload_n hx hb dX5_isIn_1 rfl (lv_at hl 1 rfl) ?_
  refine W.lcmp hx hb dX5_isIn_2 ?_
  refine lv_if_lt (tgt := 17) hx hb dX5_isIn_3 (by decide) (fun q => ?_) (fun q => ?_)
  · have hw := hw.1 q
    refine lv_iconst (v := (0 : Int32)) hx hb dX5_isIn_17 (by decide) ?_
    exact hQ _ _ _ _ _ (by decide) ⟨rfl, rfl, hw⟩ hW _ _ dX5_isIn_18
  · have hw := hw.2 q
    refine lv_lload_n hx hb dX5_isIn_6 rfl (lv_at hl 0 rfl) ?_
    refine lv_lload hx hb dX5_isIn_7 (lv_at hl 2 rfl) ?_
    refine W.lcmp hx hb dX5_isIn_9 ?_
    refine lv_if_gt (tgt := 17) hx hb dX5_isIn_10 (by decide) (fun q => ?_) (fun q => ?_)
    · have hw := hw.1 q
      refine lv_iconst (v := (0 : Int32)) hx hb dX5_isIn_17 (by decide) ?_
      exact hQ _ _ _ _ _ (by decide) ⟨rfl, rfl, hw⟩ hW _ _ dX5_isIn_18
    · have hw := hw.2 q
      refine lv_iconst (v := (1 : Int32)) hx hb dX5_isIn_13 (by decide) ?_
      refine lv_goto (tgt := 18) hx hb dX5_isIn_14 (by decide) ?_
      exact hQ _ _ _ _ _ (by decide) ⟨rfl, rfl, hw⟩ hW _ _ dX5_isIn_18
theorem gM_isIn : GoodIn lw_all (va_wsS RX5 90 yX5_isIn (ws_ yX5_isIn cX5_isIn 6 (some .boolean))) := lw_S q2231 q2232 q154 q2233
theorem dM_isIn : yX5_isIn.cls ≠ "java/lang/invoke/MethodHandle" ∧ yX5_isIn.cls ≠ "java/lang/invoke/VarHandle" ∧ (parseMethodDescriptor yX5_isIn.desc).map (fun d => d.parameters.length) = some 3 := by decide +kernel

/-! truncate -/
def wM_truncate (post : Int32 → MF → MG → Prop) (x1 : Int32) (F : MF) (G : MG) : Prop :=
  ∀ F_1 : MF, F_1 = upd F 0 (0 : Int32) → wM_isIn (fun r_2 => (r_2 = 0 → wM_fails (fun r_4 F_5 G_6 => post r_4 F_5 G_6) (1 : Int32) F_1 G) ∧ (¬ r_2 = 0 → ∀ F_3 : MF, F_3 = upd F_1 14 x1 → post x1 F_3 G)) ((x1).toInt64) (0 : Int64) ((F_1 14).toInt64) F_1 G
set_option maxHeartbeats 4000000 in
theorem kM_truncate (l : Launch) (w : MP) (post : Int32 → MF → MG → Prop) (x1 : Int32) (F : MF) (G : MG) (hw : wM_truncate post x1 F G) : m_Mi l w yX5_truncate cX5_truncate 2 .int 1 [.ref (mp_h w), .int x1] F G post := by
  refine m_ofWi (by decide) rfl (Nat.le_of_ble_eq_true rfl) (fun _ => True) (fun _ _ => rfl) ?_
  intro p e s m args below meth c Q ls hA hW hQ
  obtain ⟨hE, hT, hl⟩ := hA
  obtain ⟨hx, hb, hml, hown, hts⟩ := id hE
  have hl : lv_has ls 2 [(0, .ref (mp_h w)), (1, .int x1)] := hl
  unfold wM_truncate at hw
  refine lv_aload_n hx hb dX5_truncate_0 rfl (lv_at hl 0 rfl) ?_
  refine lv_iconst (v := (0 : Int32)) hx hb dX5_truncate_1 (by decide) ?_
  refine m_put hx hb hown hts hT hW 0 (by decide) (hts _ q2129) rfl rfl (ty := .int) (x := (0 : Int32)) rfl rfl rfl rfl dX5_truncate_2 (fun F_1 H locs eF_1 hW => ?_)
  have hw := hw F_1 eF_1
  refine lv_iload_n hx hb dX5_truncate_5 rfl (lv_at hl 1 rfl) ?_
  refine lv_i2l (v := (x1).toInt64) hx hb dX5_truncate_6 rfl ?_
  refine lv_lconst (v := (0 : Int64)) hx hb dX5_truncate_7 rfl ?_
  refine lv_aload_n hx hb dX5_truncate_8 rfl (lv_at hl 0 rfl) ?_
  refine m_get hx hb hown hts hT hW 14 (by decide) (hts _ q2143) rfl (v := .int (F_1 14)) rfl dX5_truncate_9 ?_
  refine lv_i2l (v := (F_1 14).toInt64) hx hb dX5_truncate_12 rfl ?_
  refine m_Si (rest := []) hE hT hW (kM_isIn l w _ ((x1).toInt64) (0 : Int64) ((F_1 14).toInt64) F_1 G hw) gM_isIn dM_isIn ⟨Nat.le_of_ble_eq_true rfl, Nat.le_of_ble_eq_true rfl, Nat.zero_le _, Nat.zero_le _⟩ rfl hl.1 rfl (Nat.le_of_ble_eq_true rfl) dX5_truncate_13 (fun r_2 F9 G9 H locs hw hW => ?_)
  obtain ⟨eF9, eG9, hw⟩ := hw
  rw [eF9, eG9] at hW
  refine lv_if_ne (tgt := 25) hx hb dX5_truncate_16 (by decide) (fun q => ?_) (fun q => ?_)
  · have hw := hw.2 q
    refine lv_aload_n hx hb dX5_truncate_25 rfl (lv_at hl 0 rfl) ?_
    refine lv_iload_n hx hb dX5_truncate_26 rfl (lv_at hl 1 rfl) ?_
    refine m_put hx hb hown hts hT hW 14 (by decide) (hts _ q2143) rfl rfl (ty := .int) (x := x1) rfl rfl rfl rfl dX5_truncate_27 (fun F_3 H locs eF_3 hW => ?_)
    have hw := hw F_3 eF_3
    refine lv_iload_n hx hb dX5_truncate_30 rfl (lv_at hl 1 rfl) ?_
    exact hQ _ _ _ _ _ trivial hw hW _ _ dX5_truncate_31
  · have hw := hw.1 q
    refine lv_aload_n hx hb dX5_truncate_19 rfl (lv_at hl 0 rfl) ?_
    refine lv_iconst (v := (1 : Int32)) hx hb dX5_truncate_20 (by decide) ?_
    refine m_Vi (rest := []) hE hT hW (kM_fails l w _ (1 : Int32) F_1 G hw) gM_fails dM_fails ⟨Nat.le_of_ble_eq_true rfl, Nat.le_of_ble_eq_true rfl, Nat.zero_le _, Nat.zero_le _⟩ rfl hl.1 rfl (Nat.le_of_ble_eq_true rfl) dX5_truncate_21 (fun r_4 F_5 G_6 H locs hw hW => ?_)
    exact hQ _ _ _ _ _ trivial hw hW _ _ dX5_truncate_24

/-! here -/
def wM_here (post : Int32 → Prop) (F : MF) (G : MG) : Prop :=
  ((F 14) ≤ (F 15) → post (-1 : Int32)) ∧ (¬ (F 14) ≤ (F 15) → vp_in (F 15) 800 ∧ post ((G 13 ((F 15).toNatClampNeg)) &&& (255 : Int32)))
set_option maxHeartbeats 4000000 in
theorem kM_here (l : Launch) (w : MP) (post : Int32 → Prop) (F : MF) (G : MG) (hw : wM_here post F G) : m_Mi l w yX5_here cX5_here 1 .int 0 [.ref (mp_h w)] F G (fun r F1 G1 => F1 = F ∧ G1 = G ∧ post r) := by
  refine m_ofWi (by decide) rfl (Nat.le_of_ble_eq_true rfl) (fun _ => True) (fun _ _ => rfl) ?_
  intro p e s m args below meth c Q ls hA hW hQ
  obtain ⟨hE, hT, hl⟩ := hA
  obtain ⟨hx, hb, hml, hown, hts⟩ := id hE
  have hl : lv_has ls 1 [(0, .ref (mp_h w))] := hl
  unfold wM_here at hw
  refine lv_aload_n hx hb dX5_here_0 rfl (lv_at hl 0 rfl) ?_
  refine m_get hx hb hown hts hT hW 15 (by decide) (hts _ q2144) rfl (v := .int (F 15)) rfl dX5_here_1 ?_
  refine lv_aload_n hx hb dX5_here_4 rfl (lv_at hl 0 rfl) ?_
  refine m_get hx hb hown hts hT hW 14 (by decide) (hts _ q2143) rfl (v := .int (F 14)) rfl dX5_here_5 ?_
  refine lv_icmp_ge (tgt := 27) hx hb dX5_here_8 (by decide) (fun q => ?_) (fun q => ?_)
  · have hw := hw.1 q
    refine lv_iconst (v := (-1 : Int32)) hx hb dX5_here_27 (by decide) ?_
    exact hQ _ _ _ _ _ trivial ⟨rfl, rfl, hw⟩ hW _ _ dX5_here_28
  · have hw := hw.2 q
    refine lv_aload_n hx hb dX5_here_11 rfl (lv_at hl 0 rfl) ?_
    refine m_get hx hb hown hts hT hW 13 (by decide) (hts _ q2142) rfl (v := .ref (mp_a w 13)) rfl dX5_here_12 ?_
    refine lv_aload_n hx hb dX5_here_15 rfl (lv_at hl 0 rfl) ?_
    refine m_get hx hb hown hts hT hW 15 (by decide) (hts _ q2144) rfl (v := .int (F 15)) rfl dX5_here_16 ?_
    obtain ⟨hi, hw⟩ := hw
    refine m_bald hx hb hT hW (k := 13) (j := ((F 15).toNatClampNeg)) rfl rfl hi dX5_here_19 ?_
    refine lv_sipush (v := (255 : Int32)) hx hb dX5_here_20 (by decide) ?_
    refine lv_iand hx hb dX5_here_23 ?_
    refine lv_goto (tgt := 28) hx hb dX5_here_24 (by decide) ?_
    exact hQ _ _ _ _ _ trivial ⟨rfl, rfl, hw⟩ hW _ _ dX5_here_28
theorem gM_here : GoodIn lw_all (wsV RX5 97 RX5 yX5_here (ws_ yX5_here cX5_here 1 (some .int))) := lw_V q2250 q2252 qs72 q154 q2253
theorem dM_here : yX5_here.cls = RX5 ∧ yX5_here.cls ≠ "java/lang/invoke/MethodHandle" ∧ yX5_here.cls ≠ "java/lang/invoke/VarHandle" ∧ (parseMethodDescriptor yX5_here.desc).map (fun d => d.parameters.length) = some 0 := by decide +kernel

/-! look -/
def wM_look_b0 (post : Int32 → MF → MG → Prop) (K0 : MF → MG → Prop) (F : MF) (G : MG) : Prop :=
  wM_here (fun r_1 => (r_1 = (32 : Int32) → ∀ F_4 : MF, F_4 = upd F 15 ((F 15) + (1 : Int32)) → K0 F_4 G) ∧ (¬ r_1 = (32 : Int32) → ∀ F_2 : MF, F_2 = upd F 16 (F 15) → wM_here (fun r_3 => post r_3 F_2 G) F_2 G)) F G
def wM_look_l0 (post : Int32 → MF → MG → Prop) : Nat → MF → MG → Prop
  | 0 => fun _ _ => False
  | n + 1 => wM_look_b0 post (wM_look_l0 post n)
def wM_look (post : Int32 → MF → MG → Prop) (F : MF) (G : MG) : Prop :=
  ∃ n, wM_look_l0 post n F G
set_option maxHeartbeats 4000000 in
theorem kM_look (l : Launch) (w : MP) (post : Int32 → MF → MG → Prop) (F : MF) (G : MG) (hw : wM_look post F G) : m_Mi l w yX5_look cX5_look 1 .int 1 [.ref (mp_h w)] F G post := by
  refine m_ofWi (by decide) rfl (Nat.le_of_ble_eq_true rfl) (fun _ => True) (fun _ _ => rfl) ?_
  intro p e s m args below meth c Q ls hA hW hQ
  obtain ⟨hE, hT, hl⟩ := hA
  obtain ⟨hx, hb, hml, hown, hts⟩ := id hE
  have hl : lv_has ls 1 [(0, .ref (mp_h w))] := hl
  have lp0 : ∀ (n0 : Nat) (F : MF) (G : MG) (H : Heap) (locs : List Loc) (ls : Array Slot), lv_has ls 1 [(0, .ref (mp_h w))] → m_W w s.heap F G H locs → wM_look_l0 post n0 F G → W p l e (mrm 1) s m args below meth c H locs 0 0 Q (F0 m 0 ls []) := by
    intro n0
    induction n0 with
    | zero => intro F G H locs ls hl hW hw; exact hw.elim
    | succ n0 ih0 =>
      intro F G H locs ls hl hW hw
      have hw : wM_look_b0 post (wM_look_l0 post n0) F G := hw
      unfold wM_look_b0 at hw
      refine lv_aload_n hx hb dX5_look_0 rfl (lv_at hl 0 rfl) ?_
      refine m_Vi (rest := []) hE hT hW (kM_here l w _ F G hw) gM_here dM_here ⟨Nat.le_of_ble_eq_true rfl, Nat.le_of_ble_eq_true rfl, Nat.zero_le _, Nat.zero_le _⟩ rfl hl.1 rfl (Nat.le_of_ble_eq_true rfl) dX5_look_1 (fun r_1 F9 G9 H locs hw hW => ?_)
      obtain ⟨eF9, eG9, hw⟩ := hw
      rw [eF9, eG9] at hW
      refine lv_bipush (v := (32 : Int32)) hx hb dX5_look_4 (by decide) ?_
      refine lv_icmp_ne (tgt := 22) hx hb dX5_look_6 (by decide) (fun q => ?_) (fun q => ?_)
      · have hw := hw.2 q
        refine lv_aload_n hx hb dX5_look_22 rfl (lv_at hl 0 rfl) ?_
        refine lv_aload_n hx hb dX5_look_23 rfl (lv_at hl 0 rfl) ?_
        refine m_get hx hb hown hts hT hW 15 (by decide) (hts _ q2144) rfl (v := .int (F 15)) rfl dX5_look_24 ?_
        refine m_put hx hb hown hts hT hW 16 (by decide) (hts _ q2145) rfl rfl (ty := .int) (x := (F 15)) rfl rfl rfl rfl dX5_look_27 (fun F_2 H locs eF_2 hW => ?_)
        have hw := hw F_2 eF_2
        refine lv_aload_n hx hb dX5_look_30 rfl (lv_at hl 0 rfl) ?_
        refine m_Vi (rest := []) hE hT hW (kM_here l w _ F_2 G hw) gM_here dM_here ⟨Nat.le_of_ble_eq_true rfl, Nat.le_of_ble_eq_true rfl, Nat.zero_le _, Nat.zero_le _⟩ rfl hl.1 rfl (Nat.le_of_ble_eq_true rfl) dX5_look_31 (fun r_3 F9 G9 H locs hw hW => ?_)
        obtain ⟨eF9, eG9, hw⟩ := hw
        rw [eF9, eG9] at hW
        exact hQ _ _ _ _ _ trivial hw hW _ _ dX5_look_34
      · have hw := hw.1 q
        refine lv_aload_n hx hb dX5_look_9 rfl (lv_at hl 0 rfl) ?_
        refine lv_dup hx hb dX5_look_10 rfl ?_
        refine m_get hx hb hown hts hT hW 15 (by decide) (hts _ q2144) rfl (v := .int (F 15)) rfl dX5_look_11 ?_
        refine lv_iconst (v := (1 : Int32)) hx hb dX5_look_14 (by decide) ?_
        refine lv_iadd hx hb dX5_look_15 ?_
        refine m_put hx hb hown hts hT hW 15 (by decide) (hts _ q2144) rfl rfl (ty := .int) (x := ((F 15) + (1 : Int32))) rfl rfl rfl rfl dX5_look_16 (fun F_4 H locs eF_4 hW => ?_)
        have hw := hw F_4 eF_4
        refine lv_goto (tgt := 0) hx hb dX5_look_19 (by decide) ?_
        exact ih0 F_4 G _ _ _ hl hW hw
  unfold wM_look at hw
  obtain ⟨n_5, hw⟩ := hw
  exact lp0 n_5 F G _ _ _ hl hW hw
theorem gM_look : GoodIn lw_all (wsV RX5 107 RX5 yX5_look (ws_ yX5_look cX5_look 1 (some .int))) := lw_V q2246 q2248 qs71 q154 q2249
theorem dM_look : yX5_look.cls = RX5 ∧ yX5_look.cls ≠ "java/lang/invoke/MethodHandle" ∧ yX5_look.cls ≠ "java/lang/invoke/VarHandle" ∧ (parseMethodDescriptor yX5_look.desc).map (fun d => d.parameters.length) = some 0 := by decide +kernel

/-! isFine -/
def wM_isFine (post : Int32 → Prop) (F : MF) (G : MG) : Prop :=
  (0 ≤ (F 17) → post (0 : Int32)) ∧ (¬ 0 ≤ (F 17) → post (1 : Int32))
set_option maxHeartbeats 4000000 in
theorem kM_isFine (l : Launch) (w : MP) (post : Int32 → Prop) (F : MF) (G : MG) (hw : wM_isFine post F G) : m_Mi l w yX5_isFine cX5_isFine 1 .boolean 0 [.ref (mp_h w)] F G (fun r F1 G1 => F1 = F ∧ G1 = G ∧ post r) := by
  refine m_ofWi (by decide) rfl (Nat.le_of_ble_eq_true rfl) (fun r => r = 0 ∨ r = 1) (fun _ h => m_nb h) ?_
  intro p e s m args below meth c Q ls hA hW hQ
  obtain ⟨hE, hT, hl⟩ := hA
  obtain ⟨hx, hb, hml, hown, hts⟩ := id hE
  have hl : lv_has ls 1 [(0, .ref (mp_h w))] := hl
  unfold wM_isFine at hw
  refine lv_aload_n hx hb dX5_isFine_0 rfl (lv_at hl 0 rfl) ?_
  refine m_get hx hb hown hts hT hW 17 (by decide) (hts _ q2146) rfl (v := .int (F 17)) rfl dX5_isFine_1 ?_
  refine lv_if_ge (tgt := 11) hx hb dX5_isFine_4 (by decide) (fun q => ?_) (fun q => ?_)
  · have hw := hw.1 q
    refine lv_iconst (v := (0 : Int32)) hx hb dX5_isFine_11 (by decide) ?_
    exact hQ _ _ _ _ _ (by decide) ⟨rfl, rfl, hw⟩ hW _ _ dX5_isFine_12
  · have hw := hw.2 q
    refine lv_iconst (v := (1 : Int32)) hx hb dX5_isFine_7 (by decide) ?_
    refine lv_goto (tgt := 12) hx hb dX5_isFine_8 (by decide) ?_
    exact hQ _ _ _ _ _ (by decide) ⟨rfl, rfl, hw⟩ hW _ _ dX5_isFine_12
theorem gM_isFine : GoodIn lw_all (wsV RX5 114 RX5 yX5_isFine (ws_ yX5_isFine cX5_isFine 1 (some .boolean))) := lw_V q2263 q2265 qs75 q154 q2266
theorem dM_isFine : yX5_isFine.cls = RX5 ∧ yX5_isFine.cls ≠ "java/lang/invoke/MethodHandle" ∧ yX5_isFine.cls ≠ "java/lang/invoke/VarHandle" ∧ (parseMethodDescriptor yX5_isFine.desc).map (fun d => d.parameters.length) = some 0 := by decide +kernel

/-! isLetter -/
def wM_isLetter (post : Int32 → Prop) (x0 : Int32) (F : MF) (G : MG) : Prop :=
  (x0 < (97 : Int32) → post (0 : Int32)) ∧ (¬ x0 < (97 : Int32) → ((122 : Int32) < x0 → post (0 : Int32)) ∧ (¬ (122 : Int32) < x0 → post (1 : Int32)))
set_option maxHeartbeats 4000000 in
theorem kM_isLetter (l : Launch) (w : MP) (post : Int32 → Prop) (x0 : Int32) (F : MF) (G : MG) (hw : wM_isLetter post x0 F G) : m_Mi l w yX5_isLetter cX5_isLetter 1 .boolean 0 [.int x0] F G (fun r F1 G1 => F1 = F ∧ G1 = G ∧ post r) := by
  refine m_ofWi (by decide) rfl (Nat.le_of_ble_eq_true rfl) (fun r => r = 0 ∨ r = 1) (fun _ h => m_nb h) ?_
  intro p e s m args below meth c Q ls hA hW hQ
  obtain ⟨hE, hT, hl⟩ := hA
  obtain ⟨hx, hb, hml, hown, hts⟩ := id hE
  have hl : lv_has ls 1 [(0, .int x0)] := hl
  unfold wM_isLetter at hw
  refine lv_iload_n hx hb dX5_isLetter_0 rfl (lv_at hl 0 rfl) ?_
  refine lv_bipush (v := (97 : Int32)) hx hb dX5_isLetter_1 (by decide) ?_
  refine lv_icmp_lt (tgt := 16) hx hb dX5_isLetter_3 (by decide) (fun q => ?_) (fun q => ?_)
  · have hw := hw.1 q
    refine lv_iconst (v := (0 : Int32)) hx hb dX5_isLetter_16 (by decide) ?_
    exact hQ _ _ _ _ _ (by decide) ⟨rfl, rfl, hw⟩ hW _ _ dX5_isLetter_17
  · have hw := hw.2 q
    refine lv_iload_n hx hb dX5_isLetter_6 rfl (lv_at hl 0 rfl) ?_
    refine lv_bipush (v := (122 : Int32)) hx hb dX5_isLetter_7 (by decide) ?_
    refine lv_icmp_gt (tgt := 16) hx hb dX5_isLetter_9 (by decide) (fun q => ?_) (fun q => ?_)
    · have hw := hw.1 q
      refine lv_iconst (v := (0 : Int32)) hx hb dX5_isLetter_16 (by decide) ?_
      exact hQ _ _ _ _ _ (by decide) ⟨rfl, rfl, hw⟩ hW _ _ dX5_isLetter_17
    · have hw := hw.2 q
      refine lv_iconst (v := (1 : Int32)) hx hb dX5_isLetter_12 (by decide) ?_
      refine lv_goto (tgt := 17) hx hb dX5_isLetter_13 (by decide) ?_
      exact hQ _ _ _ _ _ (by decide) ⟨rfl, rfl, hw⟩ hW _ _ dX5_isLetter_17
theorem gM_isLetter : GoodIn lw_all (va_wsS RX5 110 yX5_isLetter (ws_ yX5_isLetter cX5_isLetter 1 (some .boolean))) := lw_S q2271 q2272 q154 q2273
theorem dM_isLetter : yX5_isLetter.cls ≠ "java/lang/invoke/MethodHandle" ∧ yX5_isLetter.cls ≠ "java/lang/invoke/VarHandle" ∧ (parseMethodDescriptor yX5_isLetter.desc).map (fun d => d.parameters.length) = some 1 := by decide +kernel

/-! wordLength -/
def wM_wordLength_b10 (post : Int32 → MF → MG → Prop) (K10 : Int32 → MF → MG → Prop) (y2 : Int32) (F : MF) (G : MG) : Prop :=
  ((F 14) ≤ y2 → post (y2 - (F 15)) F G) ∧ (¬ (F 14) ≤ y2 → vp_in y2 800 ∧ wM_isLetter (fun r_1 => (r_1 = 0 → post (y2 - (F 15)) F G) ∧ (¬ r_1 = 0 → K10 (y2 + (1 : Int32)) F G)) (G 13 (y2.toNatClampNeg)) F G)
def wM_wordLength_l10 (post : Int32 → MF → MG → Prop) : Nat → Int32 → MF → MG → Prop
  | 0 => fun _ _ _ => False
  | n + 1 => wM_wordLength_b10 post (wM_wordLength_l10 post n)
def wM_wordLength (post : Int32 → MF → MG → Prop) (F : MF) (G : MG) : Prop :=
  wM_look (fun r_2 F_3 G_4 => ∀ x2_5 : Int32, x2_5 = (F_3 15) → ∃ n, wM_wordLength_l10 post n x2_5 F_3 G_4) F G
set_option maxHeartbeats 4000000 in
theorem kM_wordLength (l : Launch) (w : MP) (post : Int32 → MF → MG → Prop) (F : MF) (G : MG) (hw : wM_wordLength post F G) : m_Mi l w yX5_wordLength cX5_wordLength 3 .int 2 [.ref (mp_h w)] F G post := by
  refine m_ofWi (by decide) rfl (Nat.le_of_ble_eq_true rfl) (fun _ => True) (fun _ _ => rfl) ?_
  intro p e s m args below meth c Q ls hA hW hQ
  obtain ⟨hE, hT, hl⟩ := hA
  obtain ⟨hx, hb, hml, hown, hts⟩ := id hE
  have hl : lv_has ls 3 [(0, .ref (mp_h w))] := hl
  have lp10 : ∀ (n10 : Nat) (y2 : Int32) (F : MF) (G : MG) (H : Heap) (locs : List Loc) (ls : Array Slot), lv_has ls 3 [(0, .ref (mp_h w)), (2, .int y2)] → m_W w s.heap F G H locs → wM_wordLength_l10 post n10 y2 F G → W p l e (mrm 2) s m args below meth c H locs 0 0 Q (F0 m 10 ls []) := by
    intro n10
    induction n10 with
    | zero => intro y2 F G H locs ls hl hW hw; exact hw.elim
    | succ n10 ih10 =>
      intro y2 F G H locs ls hl hW hw
      have hw : wM_wordLength_b10 post (wM_wordLength_l10 post n10) y2 F G := hw
      unfold wM_wordLength_b10 at hw
      refine lv_iload_n hx hb dX5_wordLength_10 rfl (lv_at hl 1 rfl) ?_
      refine lv_aload_n hx hb dX5_wordLength_11 rfl (lv_at hl 0 rfl) ?_
      refine m_get hx hb hown hts hT hW 14 (by decide) (hts _ q2143) rfl (v := .int (F 14)) rfl dX5_wordLength_12 ?_
      refine lv_icmp_ge (tgt := 36) hx hb dX5_wordLength_15 (by decide) (fun q => ?_) (fun q => ?_)
      · have hw := hw.1 q
        refine lv_iload_n hx hb dX5_wordLength_36 rfl (lv_at hl 1 rfl) ?_
        refine lv_aload_n hx hb dX5_wordLength_37 rfl (lv_at hl 0 rfl) ?_
        refine m_get hx hb hown hts hT hW 15 (by decide) (hts _ q2144) rfl (v := .int (F 15)) rfl dX5_wordLength_38 ?_
        refine lv_isub hx hb dX5_wordLength_41 ?_
        exact hQ _ _ _ _ _ trivial hw hW _ _ dX5_wordLength_42
      · have hw := hw.2 q
        refine lv_aload_n hx hb dX5_wordLength_18 rfl (lv_at hl 0 rfl) ?_
        refine m_get hx hb hown hts hT hW 13 (by decide) (hts _ q2142) rfl (v := .ref (mp_a w 13)) rfl dX5_wordLength_19 ?_
        refine lv_iload_n hx hb dX5_wordLength_22 rfl (lv_at hl 1 rfl) ?_
        obtain ⟨hi, hw⟩ := hw
        refine m_bald hx hb hT hW (k := 13) (j := (y2.toNatClampNeg)) rfl rfl hi dX5_wordLength_23 ?_
        refine m_Si (rest := []) hE hT hW (kM_isLetter l w _ (G 13 (y2.toNatClampNeg)) F G hw) gM_isLetter dM_isLetter ⟨Nat.le_of_ble_eq_true rfl, Nat.le_of_ble_eq_true rfl, Nat.zero_le _, Nat.zero_le _⟩ rfl hl.1 rfl (Nat.le_of_ble_eq_true rfl) dX5_wordLength_24 (fun r_1 F9 G9 H locs hw hW => ?_)
        obtain ⟨eF9, eG9, hw⟩ := hw
        rw [eF9, eG9] at hW
        refine lv_if_eq (tgt := 36) hx hb dX5_wordLength_27 (by decide) (fun q => ?_) (fun q => ?_)
        · have hw := hw.1 q
          refine lv_iload_n hx hb dX5_wordLength_36 rfl (lv_at hl 1 rfl) ?_
          refine lv_aload_n hx hb dX5_wordLength_37 rfl (lv_at hl 0 rfl) ?_
          refine m_get hx hb hown hts hT hW 15 (by decide) (hts _ q2144) rfl (v := .int (F 15)) rfl dX5_wordLength_38 ?_
          refine lv_isub hx hb dX5_wordLength_41 ?_
          exact hQ _ _ _ _ _ trivial hw hW _ _ dX5_wordLength_42
        · have hw := hw.2 q
          refine lv_iinc (v := (y2 + (1 : Int32))) (lv' := [(2, .int (y2 + (1 : Int32))), (0, .ref (mp_h w))]) hx hb dX5_wordLength_30 hl (k := 1) rfl rfl (by decide) rfl (fun ls hl => ?_)
          refine lv_goto (tgt := 10) hx hb dX5_wordLength_33 (by decide) ?_
          exact ih10 (y2 + (1 : Int32)) F G _ _ _ (lv_sub hl [1, 0] rfl) hW hw
  unfold wM_wordLength at hw
  refine lv_aload_n hx hb dX5_wordLength_0 rfl (lv_at hl 0 rfl) ?_
  refine m_Vi (rest := []) hE hT hW (kM_look l w _ F G hw) gM_look dM_look ⟨Nat.le_of_ble_eq_true rfl, Nat.le_of_ble_eq_true rfl, Nat.zero_le _, Nat.zero_le _⟩ rfl hl.1 rfl (Nat.le_of_ble_eq_true rfl) dX5_wordLength_1 (fun r_2 F_3 G_4 H locs hw hW => ?_)
  refine lv_istore_n (lv' := [(1, .int r_2), (0, .ref (mp_h w))]) hx hb dX5_wordLength_4 rfl hl (by decide) rfl (fun ls hl => ?_)
  refine lv_aload_n hx hb dX5_wordLength_5 rfl (lv_at hl 1 rfl) ?_
  refine m_get hx hb hown hts hT hW 15 (by decide) (hts _ q2144) rfl (v := .int (F_3 15)) rfl dX5_wordLength_6 ?_
  refine lv_topi (fun x2_5 ex2_5 => ?_)
  have hw := hw x2_5 ex2_5
  refine lv_istore_n (lv' := [(2, .int x2_5), (1, .int r_2), (0, .ref (mp_h w))]) hx hb dX5_wordLength_9 rfl hl (by decide) rfl (fun ls hl => ?_)
  obtain ⟨n_6, hw⟩ := hw
  exact lp10 n_6 x2_5 F_3 G_4 _ _ _ (lv_sub hl [2, 0] rfl) hW hw
theorem gM_wordLength : GoodIn lw_all (wsV RX5 118 RX5 yX5_wordLength (ws_ yX5_wordLength cX5_wordLength 3 (some .int))) := lw_V q2267 q2269 qs76 q154 q2270
theorem dM_wordLength : yX5_wordLength.cls = RX5 ∧ yX5_wordLength.cls ≠ "java/lang/invoke/MethodHandle" ∧ yX5_wordLength.cls ≠ "java/lang/invoke/VarHandle" ∧ (parseMethodDescriptor yX5_wordLength.desc).map (fun d => d.parameters.length) = some 0 := by decide +kernel

/-! wrongAt -/
def wM_wrongAt (post : MF → MG → Prop) (x1 : Int32) (F : MF) (G : MG) : Prop :=
  (0 ≤ (F 17) → post F G) ∧ (¬ 0 ≤ (F 17) → ∀ F_1 : MF, F_1 = upd F 17 x1 → post F_1 G)
set_option maxHeartbeats 4000000 in
theorem kM_wrongAt (l : Launch) (w : MP) (post : MF → MG → Prop) (x1 : Int32) (F : MF) (G : MG) (hw : wM_wrongAt post x1 F G) : m_Mv l w yX5_wrongAt cX5_wrongAt 2 0 [.ref (mp_h w), .int x1] F G post := by
  refine m_ofWv (by decide) rfl (Nat.le_of_ble_eq_true rfl) ?_
  intro p e s m args below meth c Q ls hA hW hQ
  obtain ⟨hE, hT, hl⟩ := hA
  obtain ⟨hx, hb, hml, hown, hts⟩ := id hE
  have hl : lv_has ls 2 [(0, .ref (mp_h w)), (1, .int x1)] := hl
  unfold wM_wrongAt at hw
  refine lv_aload_n hx hb dX5_wrongAt_0 rfl (lv_at hl 0 rfl) ?_
  refine m_get hx hb hown hts hT hW 17 (by decide) (hts _ q2146) rfl (v := .int (F 17)) rfl dX5_wrongAt_1 ?_
  refine lv_if_ge (tgt := 12) hx hb dX5_wrongAt_4 (by decide) (fun q => ?_) (fun q => ?_)
  · have hw := hw.1 q
    exact hQ _ _ _ _ hw hW _ _ dX5_wrongAt_12
  · have hw := hw.2 q
    refine lv_aload_n hx hb dX5_wrongAt_7 rfl (lv_at hl 0 rfl) ?_
    refine lv_iload_n hx hb dX5_wrongAt_8 rfl (lv_at hl 1 rfl) ?_
    refine m_put hx hb hown hts hT hW 17 (by decide) (hts _ q2146) rfl rfl (ty := .int) (x := x1) rfl rfl rfl rfl dX5_wrongAt_9 (fun F_1 H locs eF_1 hW => ?_)
    have hw := hw F_1 eF_1
    exact hQ _ _ _ _ hw hW _ _ dX5_wrongAt_12
theorem gM_wrongAt : GoodIn lw_all (wsV RX5 152 RX5 yX5_wrongAt (ws_ yX5_wrongAt cX5_wrongAt 2 none)) := lw_V q2294 q2296 qs79 q154 q2297
theorem dM_wrongAt : yX5_wrongAt.cls = RX5 ∧ yX5_wrongAt.cls ≠ "java/lang/invoke/MethodHandle" ∧ yX5_wrongAt.cls ≠ "java/lang/invoke/VarHandle" ∧ (parseMethodDescriptor yX5_wrongAt.desc).map (fun d => d.parameters.length) = some 1 := by decide +kernel

/-! room -/
def wM_room (post : MF → MG → Prop) (x1 : Int32) (x2 : Int32) (F : MF) (G : MG) : Prop :=
  vp_in x1 166 ∧ ((G 2 (x1.toNatClampNeg)) = x2 → wM_wrongAt (fun F_1 G_2 => post F_1 G_2) (F 16) F G) ∧ (¬ (G 2 (x1.toNatClampNeg)) = x2 → post F G)
set_option maxHeartbeats 4000000 in
theorem kM_room (l : Launch) (w : MP) (post : MF → MG → Prop) (x1 : Int32) (x2 : Int32) (F : MF) (G : MG) (hw : wM_room post x1 x2 F G) : m_Mv l w yX5_room cX5_room 3 1 [.ref (mp_h w), .int x1, .int x2] F G post := by
  refine m_ofWv (by decide) rfl (Nat.le_of_ble_eq_true rfl) ?_
  intro p e s m args below meth c Q ls hA hW hQ
  obtain ⟨hE, hT, hl⟩ := hA
  obtain ⟨hx, hb, hml, hown, hts⟩ := id hE
  have hl : lv_has ls 3 [(0, .ref (mp_h w)), (1, .int x1), (2, .int x2)] := hl
  unfold wM_room at hw
  refine lv_aload_n hx hb dX5_room_0 rfl (lv_at hl 0 rfl) ?_
  refine m_get hx hb hown hts hT hW 2 (by decide) (hts _ q2131) rfl (v := .ref (mp_a w 2)) rfl dX5_room_1 ?_
  refine lv_iload_n hx hb dX5_room_4 rfl (lv_at hl 1 rfl) ?_
  obtain ⟨hi, hw⟩ := hw
  refine m_iald hx hb hT hW (k := 2) (j := (x1.toNatClampNeg)) rfl rfl hi dX5_room_5 ?_
  refine lv_iload_n hx hb dX5_room_6 rfl (lv_at hl 2 rfl) ?_
  refine lv_icmp_ne (tgt := 18) hx hb dX5_room_7 (by decide) (fun q => ?_) (fun q => ?_)
  · have hw := hw.2 q
    exact hQ _ _ _ _ hw hW _ _ dX5_room_18
  · have hw := hw.1 q
    refine lv_aload_n hx hb dX5_room_10 rfl (lv_at hl 0 rfl) ?_
    refine lv_aload_n hx hb dX5_room_11 rfl (lv_at hl 0 rfl) ?_
    refine m_get hx hb hown hts hT hW 16 (by decide) (hts _ q2145) rfl (v := .int (F 16)) rfl dX5_room_12 ?_
    refine m_Vv (rest := []) hE hT hW (kM_wrongAt l w _ (F 16) F G hw) gM_wrongAt dM_wrongAt ⟨Nat.le_of_ble_eq_true rfl, Nat.le_of_ble_eq_true rfl, Nat.zero_le _, Nat.zero_le _⟩ rfl hl.1 rfl (Nat.le_of_ble_eq_true rfl) dX5_room_15 (fun F_1 G_2 H locs hw hW => ?_)
    exact hQ _ _ _ _ hw hW _ _ dX5_room_18
theorem gM_room : GoodIn lw_all (wsV RX5 167 RX5 yX5_room (ws_ yX5_room cX5_room 3 none)) := lw_V q2290 q2292 qs78 q154 q2293
theorem dM_room : yX5_room.cls = RX5 ∧ yX5_room.cls ≠ "java/lang/invoke/MethodHandle" ∧ yX5_room.cls ≠ "java/lang/invoke/VarHandle" ∧ (parseMethodDescriptor yX5_room.desc).map (fun d => d.parameters.length) = some 2 := by decide +kernel

/-! rowHere -/
def wM_rowHere_b26 (post : Int32 → Prop) (K2 : Int32 → Int32 → Prop) (F : MF) (G : MG) (K26 : Int32 → Int32 → Int32 → Int32 → Prop) (y1 : Int32) (y2 : Int32) (y3 : Int32) (y4 : Int32) : Prop :=
  ((6 : Int32) ≤ y4 → (y3 = 0 → K2 y1 (y2 + (1 : Int32))) ∧ (¬ y3 = 0 → post y2)) ∧ (¬ (6 : Int32) ≤ y4 → (y3 = 0 → (y3 = 0 → K2 y1 (y2 + (1 : Int32))) ∧ (¬ y3 = 0 → post y2)) ∧ (¬ y3 = 0 → vp_in (((6 : Int32) * y2) + y4) 108 ∧ (y1 ≤ y4 → ((G 3 ((((6 : Int32) * y2) + y4).toNatClampNeg)) = (0 : Int32) → K26 y1 y2 (1 : Int32) (y4 + (1 : Int32))) ∧ (¬ (G 3 ((((6 : Int32) * y2) + y4).toNatClampNeg)) = (0 : Int32) → K26 y1 y2 (0 : Int32) (y4 + (1 : Int32)))) ∧ (¬ y1 ≤ y4 → vp_in ((F 15) + y4) 800 ∧ ((G 3 ((((6 : Int32) * y2) + y4).toNatClampNeg)) = (G 13 (((F 15) + y4).toNatClampNeg)) → K26 y1 y2 (1 : Int32) (y4 + (1 : Int32))) ∧ (¬ (G 3 ((((6 : Int32) * y2) + y4).toNatClampNeg)) = (G 13 (((F 15) + y4).toNatClampNeg)) → K26 y1 y2 (0 : Int32) (y4 + (1 : Int32))))))
def wM_rowHere_l26 (post : Int32 → Prop) (K2 : Int32 → Int32 → Prop) (F : MF) (G : MG) : Nat → Int32 → Int32 → Int32 → Int32 → Prop
  | 0 => fun _ _ _ _ => False
  | n + 1 => wM_rowHere_b26 post K2 F G (wM_rowHere_l26 post K2 F G n)
def wM_rowHere_b2 (post : Int32 → Prop) (F : MF) (G : MG) (K2 : Int32 → Int32 → Prop) (y1 : Int32) (y2 : Int32) : Prop :=
  ((G 2 7) ≤ y2 → post (-1 : Int32)) ∧ (¬ (G 2 7) ≤ y2 → wM_isIn (fun r_1 => ∃ n, wM_rowHere_l26 post K2 F G n y1 y2 r_1 (0 : Int32)) ((y1).toInt64) (1 : Int64) (6 : Int64) F G)
def wM_rowHere_l2 (post : Int32 → Prop) (F : MF) (G : MG) : Nat → Int32 → Int32 → Prop
  | 0 => fun _ _ => False
  | n + 1 => wM_rowHere_b2 post F G (wM_rowHere_l2 post F G n)
def wM_rowHere (post : Int32 → Prop) (x1 : Int32) (F : MF) (G : MG) : Prop :=
  ∃ n, wM_rowHere_l2 post F G n x1 (0 : Int32)
set_option maxHeartbeats 4000000 in
theorem kM_rowHere (l : Launch) (w : MP) (post : Int32 → Prop) (x1 : Int32) (F : MF) (G : MG) (hw : wM_rowHere post x1 F G) : m_Mi l w yX5_rowHere cX5_rowHere 5 .int 1 [.ref (mp_h w), .int x1] F G (fun r F1 G1 => F1 = F ∧ G1 = G ∧ post r) := by
  refine m_ofWi (by decide) rfl (Nat.le_of_ble_eq_true rfl) (fun _ => True) (fun _ _ => rfl) ?_
  intro p e s m args below meth c Q ls hA hW hQ
  obtain ⟨hE, hT, hl⟩ := hA
  obtain ⟨hx, hb, hml, hown, hts⟩ := id hE
  have hl : lv_has ls 5 [(0, .ref (mp_h w)), (1, .int x1)] := hl
  have lp2 : ∀ (n2 : Nat) (y1 : Int32) (y2 : Int32) (H : Heap) (locs : List Loc) (ls : Array Slot), lv_has ls 5 [(0, .ref (mp_h w)), (1, .int y1), (2, .int y2)] → m_W w s.heap F G H locs → wM_rowHere_l2 post F G n2 y1 y2 → W p l e (mrm 1) s m args below meth c H locs 0 0 Q (F0 m 2 ls []) := by
    intro n2
    induction n2 with
    | zero => intro y1 y2 H locs ls hl hW hw; exact hw.elim
    | succ n2 ih2 =>
      have lp26 : ∀ (n26 : Nat) (y1 : Int32) (y2 : Int32) (y3 : Int32) (y4 : Int32) (H : Heap) (locs : List Loc) (ls : Array Slot), lv_has ls 5 [(0, .ref (mp_h w)), (1, .int y1), (2, .int y2), (3, .int y3), (4, .int y4)] → m_W w s.heap F G H locs → wM_rowHere_l26 post (wM_rowHere_l2 post F G n2) F G n26 y1 y2 y3 y4 → W p l e (mrm 1) s m args below meth c H locs 0 0 Q (F0 m 26 ls []) := by
        intro n26
        induction n26 with
        | zero => intro y1 y2 y3 y4 H locs ls hl hW hw; exact hw.elim
        | succ n26 ih26 =>
          intro y1 y2 y3 y4 H locs ls hl hW hw
          have hw : wM_rowHere_b26 post (wM_rowHere_l2 post F G n2) F G (wM_rowHere_l26 post (wM_rowHere_l2 post F G n2) F G n26) y1 y2 y3 y4 := hw
          unfold wM_rowHere_b26 at hw
          refine lv_iload hx hb dX5_rowHere_26 (lv_at hl 4 rfl) ?_
          refine lv_bipush (v := (6 : Int32)) hx hb dX5_rowHere_28 (by decide) ?_
          refine lv_icmp_ge (tgt := 86) hx hb dX5_rowHere_30 (by decide) (fun q => ?_) (fun q => ?_)
          · have hw := hw.1 q
            refine lv_iload_n hx hb dX5_rowHere_86 rfl (lv_at hl 3 rfl) ?_
            refine lv_if_eq (tgt := 92) hx hb dX5_rowHere_87 (by decide) (fun q => ?_) (fun q => ?_)
            · have hw := hw.1 q
              refine lv_iinc (v := (y2 + (1 : Int32))) (lv' := [(2, .int (y2 + (1 : Int32))), (0, .ref (mp_h w)), (1, .int y1), (3, .int y3), (4, .int y4)]) hx hb dX5_rowHere_92 hl (k := 2) rfl rfl (by decide) rfl (fun ls hl => ?_)
              refine lv_goto (tgt := 2) hx hb dX5_rowHere_95 (by decide) ?_
              exact ih2 y1 (y2 + (1 : Int32)) _ _ _ (lv_sub hl [1, 2, 0] rfl) hW hw
            · have hw := hw.2 q
              refine lv_iload_n hx hb dX5_rowHere_90 rfl (lv_at hl 2 rfl) ?_
              exact hQ _ _ _ _ _ trivial ⟨rfl, rfl, hw⟩ hW _ _ dX5_rowHere_91
          · have hw := hw.2 q
            refine lv_iload_n hx hb dX5_rowHere_33 rfl (lv_at hl 3 rfl) ?_
            refine lv_if_eq (tgt := 86) hx hb dX5_rowHere_34 (by decide) (fun q => ?_) (fun q => ?_)
            · have hw := hw.1 q
              refine lv_iload_n hx hb dX5_rowHere_86 rfl (lv_at hl 3 rfl) ?_
              refine lv_if_eq (tgt := 92) hx hb dX5_rowHere_87 (by decide) (fun q => ?_) (fun q => ?_)
              · have hw := hw.1 q
                refine lv_iinc (v := (y2 + (1 : Int32))) (lv' := [(2, .int (y2 + (1 : Int32))), (0, .ref (mp_h w)), (1, .int y1), (3, .int y3), (4, .int y4)]) hx hb dX5_rowHere_92 hl (k := 2) rfl rfl (by decide) rfl (fun ls hl => ?_)
                refine lv_goto (tgt := 2) hx hb dX5_rowHere_95 (by decide) ?_
                exact ih2 y1 (y2 + (1 : Int32)) _ _ _ (lv_sub hl [1, 2, 0] rfl) hW hw
              · have hw := hw.2 q
                refine lv_iload_n hx hb dX5_rowHere_90 rfl (lv_at hl 2 rfl) ?_
                exact hQ _ _ _ _ _ trivial ⟨rfl, rfl, hw⟩ hW _ _ dX5_rowHere_91
            · have hw := hw.2 q
              refine lv_aload_n hx hb dX5_rowHere_37 rfl (lv_at hl 0 rfl) ?_
              refine m_get hx hb hown hts hT hW 3 (by decide) (hts _ q2132) rfl (v := .ref (mp_a w 3)) rfl dX5_rowHere_38 ?_
              refine lv_bipush (v := (6 : Int32)) hx hb dX5_rowHere_41 (by decide) ?_
              refine lv_iload_n hx hb dX5_rowHere_43 rfl (lv_at hl 2 rfl) ?_
              refine lv_imul hx hb dX5_rowHere_44 ?_
              refine lv_iload hx hb dX5_rowHere_45 (lv_at hl 4 rfl) ?_
              refine lv_iadd hx hb dX5_rowHere_47 ?_
              obtain ⟨hi, hw⟩ := hw
              refine m_bald hx hb hT hW (k := 3) (j := ((((6 : Int32) * y2) + y4).toNatClampNeg)) rfl rfl hi dX5_rowHere_48 ?_
              refine lv_iload hx hb dX5_rowHere_49 (lv_at hl 4 rfl) ?_
              refine lv_iload_n hx hb dX5_rowHere_51 rfl (lv_at hl 1 rfl) ?_
              refine lv_icmp_ge (tgt := 70) hx hb dX5_rowHere_52 (by decide) (fun q => ?_) (fun q => ?_)
              · have hw := hw.1 q
                refine lv_iconst (v := (0 : Int32)) hx hb dX5_rowHere_70 (by decide) ?_
                refine lv_icmp_ne (tgt := 78) hx hb dX5_rowHere_71 (by decide) (fun q => ?_) (fun q => ?_)
                · have hw := hw.2 q
                  refine lv_iconst (v := (0 : Int32)) hx hb dX5_rowHere_78 (by decide) ?_
                  refine lv_istore_n (lv' := [(3, .int (0 : Int32)), (0, .ref (mp_h w)), (1, .int y1), (2, .int y2), (4, .int y4)]) hx hb dX5_rowHere_79 rfl hl (by decide) rfl (fun ls hl => ?_)
                  refine lv_iinc (v := (y4 + (1 : Int32))) (lv' := [(4, .int (y4 + (1 : Int32))), (3, .int (0 : Int32)), (0, .ref (mp_h w)), (1, .int y1), (2, .int y2)]) hx hb dX5_rowHere_80 hl (k := 4) rfl rfl (by decide) rfl (fun ls hl => ?_)
                  refine lv_goto (tgt := 26) hx hb dX5_rowHere_83 (by decide) ?_
                  exact ih26 y1 y2 (0 : Int32) (y4 + (1 : Int32)) _ _ _ (lv_sub hl [2, 3, 4, 1, 0] rfl) hW hw
                · have hw := hw.1 q
                  refine lv_iconst (v := (1 : Int32)) hx hb dX5_rowHere_74 (by decide) ?_
                  refine lv_goto (tgt := 79) hx hb dX5_rowHere_75 (by decide) ?_
                  refine lv_istore_n (lv' := [(3, .int (1 : Int32)), (0, .ref (mp_h w)), (1, .int y1), (2, .int y2), (4, .int y4)]) hx hb dX5_rowHere_79 rfl hl (by decide) rfl (fun ls hl => ?_)
                  refine lv_iinc (v := (y4 + (1 : Int32))) (lv' := [(4, .int (y4 + (1 : Int32))), (3, .int (1 : Int32)), (0, .ref (mp_h w)), (1, .int y1), (2, .int y2)]) hx hb dX5_rowHere_80 hl (k := 4) rfl rfl (by decide) rfl (fun ls hl => ?_)
                  refine lv_goto (tgt := 26) hx hb dX5_rowHere_83 (by decide) ?_
                  exact ih26 y1 y2 (1 : Int32) (y4 + (1 : Int32)) _ _ _ (lv_sub hl [2, 3, 4, 1, 0] rfl) hW hw
              · have hw := hw.2 q
                refine lv_aload_n hx hb dX5_rowHere_55 rfl (lv_at hl 0 rfl) ?_
                refine m_get hx hb hown hts hT hW 13 (by decide) (hts _ q2142) rfl (v := .ref (mp_a w 13)) rfl dX5_rowHere_56 ?_
                refine lv_aload_n hx hb dX5_rowHere_59 rfl (lv_at hl 0 rfl) ?_
                refine m_get hx hb hown hts hT hW 15 (by decide) (hts _ q2144) rfl (v := .int (F 15)) rfl dX5_rowHere_60 ?_
                refine lv_iload hx hb dX5_rowHere_63 (lv_at hl 4 rfl) ?_
                refine lv_iadd hx hb dX5_rowHere_65 ?_
                obtain ⟨hi, hw⟩ := hw
                refine m_bald hx hb hT hW (k := 13) (j := (((F 15) + y4).toNatClampNeg)) rfl rfl hi dX5_rowHere_66 ?_
                refine lv_goto (tgt := 71) hx hb dX5_rowHere_67 (by decide) ?_
                refine lv_icmp_ne (tgt := 78) hx hb dX5_rowHere_71 (by decide) (fun q => ?_) (fun q => ?_)
                · have hw := hw.2 q
                  refine lv_iconst (v := (0 : Int32)) hx hb dX5_rowHere_78 (by decide) ?_
                  refine lv_istore_n (lv' := [(3, .int (0 : Int32)), (0, .ref (mp_h w)), (1, .int y1), (2, .int y2), (4, .int y4)]) hx hb dX5_rowHere_79 rfl hl (by decide) rfl (fun ls hl => ?_)
                  refine lv_iinc (v := (y4 + (1 : Int32))) (lv' := [(4, .int (y4 + (1 : Int32))), (3, .int (0 : Int32)), (0, .ref (mp_h w)), (1, .int y1), (2, .int y2)]) hx hb dX5_rowHere_80 hl (k := 4) rfl rfl (by decide) rfl (fun ls hl => ?_)
                  refine lv_goto (tgt := 26) hx hb dX5_rowHere_83 (by decide) ?_
                  exact ih26 y1 y2 (0 : Int32) (y4 + (1 : Int32)) _ _ _ (lv_sub hl [2, 3, 4, 1, 0] rfl) hW hw
                · have hw := hw.1 q
                  refine lv_iconst (v := (1 : Int32)) hx hb dX5_rowHere_74 (by decide) ?_
                  refine lv_goto (tgt := 79) hx hb dX5_rowHere_75 (by decide) ?_
                  refine lv_istore_n (lv' := [(3, .int (1 : Int32)), (0, .ref (mp_h w)), (1, .int y1), (2, .int y2), (4, .int y4)]) hx hb dX5_rowHere_79 rfl hl (by decide) rfl (fun ls hl => ?_)
                  refine lv_iinc (v := (y4 + (1 : Int32))) (lv' := [(4, .int (y4 + (1 : Int32))), (3, .int (1 : Int32)), (0, .ref (mp_h w)), (1, .int y1), (2, .int y2)]) hx hb dX5_rowHere_80 hl (k := 4) rfl rfl (by decide) rfl (fun ls hl => ?_)
                  refine lv_goto (tgt := 26) hx hb dX5_rowHere_83 (by decide) ?_
                  exact ih26 y1 y2 (1 : Int32) (y4 + (1 : Int32)) _ _ _ (lv_sub hl [2, 3, 4, 1, 0] rfl) hW hw
      intro y1 y2 H locs ls hl hW hw
      have hw : wM_rowHere_b2 post F G (wM_rowHere_l2 post F G n2) y1 y2 := hw
      unfold wM_rowHere_b2 at hw
      refine lv_iload_n hx hb dX5_rowHere_2 rfl (lv_at hl 2 rfl) ?_
      refine lv_aload_n hx hb dX5_rowHere_3 rfl (lv_at hl 0 rfl) ?_
      refine m_get hx hb hown hts hT hW 2 (by decide) (hts _ q2131) rfl (v := .ref (mp_a w 2)) rfl dX5_rowHere_4 ?_
      refine lv_bipush (v := (7 : Int32)) hx hb dX5_rowHere_7 (by decide) ?_
      refine m_iald hx hb hT hW (k := 2) (j := 7) (by decide) rfl (by unfold vp_in; decide) dX5_rowHere_9 ?_
      refine lv_icmp_ge (tgt := 98) hx hb dX5_rowHere_10 (by decide) (fun q => ?_) (fun q => ?_)
      · have hw := hw.1 q
        refine lv_iconst (v := (-1 : Int32)) hx hb dX5_rowHere_98 (by decide) ?_
        exact hQ _ _ _ _ _ trivial ⟨rfl, rfl, hw⟩ hW _ _ dX5_rowHere_99
      · have hw := hw.2 q
        refine lv_iload_n hx hb dX5_rowHere_13 rfl (lv_at hl 1 rfl) ?_
        refine lv_i2l (v := (y1).toInt64) hx hb dX5_rowHere_14 rfl ?_
        refine lv_lconst (v := (1 : Int64)) hx hb dX5_rowHere_15 rfl ?_
        refine lv_ldc2 hx hb hown (hts _ q2302) dX5_rowHere_16 ?_
        refine m_Si (rest := []) hE hT hW (kM_isIn l w _ ((y1).toInt64) (1 : Int64) (6 : Int64) F G hw) gM_isIn dM_isIn ⟨Nat.le_of_ble_eq_true rfl, Nat.le_of_ble_eq_true rfl, Nat.zero_le _, Nat.zero_le _⟩ rfl hl.1 rfl (Nat.le_of_ble_eq_true rfl) dX5_rowHere_19 (fun r_1 F9 G9 H locs hw hW => ?_)
        obtain ⟨eF9, eG9, hw⟩ := hw
        rw [eF9, eG9] at hW
        refine lv_istore_n (lv' := [(3, .int r_1), (0, .ref (mp_h w)), (1, .int y1), (2, .int y2)]) hx hb dX5_rowHere_22 rfl hl (by decide) rfl (fun ls hl => ?_)
        refine lv_iconst (v := (0 : Int32)) hx hb dX5_rowHere_23 (by decide) ?_
        refine lv_istore (lv' := [(4, .int (0 : Int32)), (3, .int r_1), (0, .ref (mp_h w)), (1, .int y1), (2, .int y2)]) hx hb dX5_rowHere_24 hl (by decide) rfl (fun ls hl => ?_)
        obtain ⟨n_2, hw⟩ := hw
        exact lp26 n_2 y1 y2 r_1 (0 : Int32) _ _ _ (lv_sub hl [2, 3, 4, 1, 0] rfl) hW hw
  unfold wM_rowHere at hw
  refine lv_iconst (v := (0 : Int32)) hx hb dX5_rowHere_0 (by decide) ?_
  refine lv_istore_n (lv' := [(2, .int (0 : Int32)), (0, .ref (mp_h w)), (1, .int x1)]) hx hb dX5_rowHere_1 rfl hl (by decide) rfl (fun ls hl => ?_)
  obtain ⟨n_3, hw⟩ := hw
  exact lp2 n_3 x1 (0 : Int32) _ _ _ (lv_sub hl [1, 2, 0] rfl) hW hw
theorem gM_rowHere : GoodIn lw_all (wsV RX5 164 RX5 yX5_rowHere (ws_ yX5_rowHere cX5_rowHere 5 (some .int))) := lw_V q2314 q2316 qs82 q154 q2317
theorem dM_rowHere : yX5_rowHere.cls = RX5 ∧ yX5_rowHere.cls ≠ "java/lang/invoke/MethodHandle" ∧ yX5_rowHere.cls ≠ "java/lang/invoke/VarHandle" ∧ (parseMethodDescriptor yX5_rowHere.desc).map (fun d => d.parameters.length) = some 1 := by decide +kernel

/-! isDigit -/
def wM_isDigit (post : Int32 → Prop) (x0 : Int32) (F : MF) (G : MG) : Prop :=
  (x0 < (48 : Int32) → post (0 : Int32)) ∧ (¬ x0 < (48 : Int32) → ((57 : Int32) < x0 → post (0 : Int32)) ∧ (¬ (57 : Int32) < x0 → post (1 : Int32)))
set_option maxHeartbeats 4000000 in
theorem kM_isDigit (l : Launch) (w : MP) (post : Int32 → Prop) (x0 : Int32) (F : MF) (G : MG) (hw : wM_isDigit post x0 F G) : m_Mi l w yX5_isDigit cX5_isDigit 1 .boolean 0 [.int x0] F G (fun r F1 G1 => F1 = F ∧ G1 = G ∧ post r) := by
  refine m_ofWi (by decide) rfl (Nat.le_of_ble_eq_true rfl) (fun r => r = 0 ∨ r = 1) (fun _ h => m_nb h) ?_
  intro p e s m args below meth c Q ls hA hW hQ
  obtain ⟨hE, hT, hl⟩ := hA
  obtain ⟨hx, hb, hml, hown, hts⟩ := id hE
  have hl : lv_has ls 1 [(0, .int x0)] := hl
  unfold wM_isDigit at hw
  refine lv_iload_n hx hb dX5_isDigit_0 rfl (lv_at hl 0 rfl) ?_
  refine lv_bipush (v := (48 : Int32)) hx hb dX5_isDigit_1 (by decide) ?_
  refine lv_icmp_lt (tgt := 16) hx hb dX5_isDigit_3 (by decide) (fun q => ?_) (fun q => ?_)
  · have hw := hw.1 q
    refine lv_iconst (v := (0 : Int32)) hx hb dX5_isDigit_16 (by decide) ?_
    exact hQ _ _ _ _ _ (by decide) ⟨rfl, rfl, hw⟩ hW _ _ dX5_isDigit_17
  · have hw := hw.2 q
    refine lv_iload_n hx hb dX5_isDigit_6 rfl (lv_at hl 0 rfl) ?_
    refine lv_bipush (v := (57 : Int32)) hx hb dX5_isDigit_7 (by decide) ?_
    refine lv_icmp_gt (tgt := 16) hx hb dX5_isDigit_9 (by decide) (fun q => ?_) (fun q => ?_)
    · have hw := hw.1 q
      refine lv_iconst (v := (0 : Int32)) hx hb dX5_isDigit_16 (by decide) ?_
      exact hQ _ _ _ _ _ (by decide) ⟨rfl, rfl, hw⟩ hW _ _ dX5_isDigit_17
    · have hw := hw.2 q
      refine lv_iconst (v := (1 : Int32)) hx hb dX5_isDigit_12 (by decide) ?_
      refine lv_goto (tgt := 17) hx hb dX5_isDigit_13 (by decide) ?_
      exact hQ _ _ _ _ _ (by decide) ⟨rfl, rfl, hw⟩ hW _ _ dX5_isDigit_17
theorem gM_isDigit : GoodIn lw_all (va_wsS RX5 149 yX5_isDigit (ws_ yX5_isDigit cX5_isDigit 1 (some .boolean))) := lw_S q2326 q2327 q154 q2328
theorem dM_isDigit : yX5_isDigit.cls ≠ "java/lang/invoke/MethodHandle" ∧ yX5_isDigit.cls ≠ "java/lang/invoke/VarHandle" ∧ (parseMethodDescriptor yX5_isDigit.desc).map (fun d => d.parameters.length) = some 1 := by decide +kernel

/-! number -/
def wM_number_b18 (post : Int32 → MF → MG → Prop) (K18 : Int32 → Int32 → Int32 → Int32 → MF → MG → Prop) (y1 : Int32) (y2 : Int32) (y3 : Int32) (y5 : Int32) (F : MF) (G : MG) : Prop :=
  wM_here (fun r_1 => wM_isDigit (fun r_2 => (r_2 = 0 → ((F 15) = (F 16) → wM_wrongAt (fun F_3 G_4 => post y5 F_3 G_4) (F 16) F G) ∧ (¬ (F 15) = (F 16) → ((5 : Int32) < ((F 15) - (F 16)) → wM_wrongAt (fun F_5 G_6 => post y5 F_5 G_6) (F 16) F G) ∧ (¬ (5 : Int32) < ((F 15) - (F 16)) → wM_isIn (fun r_7 => (r_7 = 0 → wM_wrongAt (fun F_8 G_9 => post y5 F_8 G_9) (F 16) F G) ∧ (¬ r_7 = 0 → ¬ y3 = 0 ∧ ((y5 - y5 / y3 * y3) = 0 → post y5 F G) ∧ (¬ (y5 - y5 / y3 * y3) = 0 → wM_wrongAt (fun F_10 G_11 => post y5 F_10 G_11) (F 16) F G))) ((y5).toInt64) ((y1).toInt64) ((y2).toInt64) F G))) ∧ (¬ r_2 = 0 → ((5 : Int32) ≤ ((F 15) - (F 16)) → ∀ F_12 : MF, F_12 = upd F 15 ((F 15) + (1 : Int32)) → K18 y1 y2 y3 y5 F_12 G) ∧ (¬ (5 : Int32) ≤ ((F 15) - (F 16)) → wM_here (fun r_13 => ∀ x5_14 : Int32, x5_14 = ((((10 : Int32) * y5) + r_13) - (48 : Int32)) → ∀ F_15 : MF, F_15 = upd F 15 ((F 15) + (1 : Int32)) → K18 y1 y2 y3 x5_14 F_15 G) F G))) r_1 F G) F G
def wM_number_l18 (post : Int32 → MF → MG → Prop) : Nat → Int32 → Int32 → Int32 → Int32 → MF → MG → Prop
  | 0 => fun _ _ _ _ _ _ => False
  | n + 1 => wM_number_b18 post (wM_number_l18 post n)
def wM_number (post : Int32 → MF → MG → Prop) (x1 : Int32) (x2 : Int32) (x3 : Int32) (F : MF) (G : MG) : Prop :=
  wM_isFine (fun r_16 => (r_16 = 0 → post (0 : Int32) F G) ∧ (¬ r_16 = 0 → wM_look (fun r_17 F_18 G_19 => ∃ n, wM_number_l18 post n x1 x2 x3 (0 : Int32) F_18 G_19) F G)) F G
set_option maxHeartbeats 4000000 in
theorem kM_number (l : Launch) (w : MP) (post : Int32 → MF → MG → Prop) (x1 : Int32) (x2 : Int32) (x3 : Int32) (F : MF) (G : MG) (hw : wM_number post x1 x2 x3 F G) : m_Mi l w yX5_number cX5_number 6 .int 2 [.ref (mp_h w), .int x1, .int x2, .int x3] F G post := by
  refine m_ofWi (by decide) rfl (Nat.le_of_ble_eq_true rfl) (fun _ => True) (fun _ _ => rfl) ?_
  intro p e s m args below meth c Q ls hA hW hQ
  obtain ⟨hE, hT, hl⟩ := hA
  obtain ⟨hx, hb, hml, hown, hts⟩ := id hE
  have hl : lv_has ls 6 [(0, .ref (mp_h w)), (1, .int x1), (2, .int x2), (3, .int x3)] := hl
  have lp18 : ∀ (n18 : Nat) (y1 : Int32) (y2 : Int32) (y3 : Int32) (y5 : Int32) (F : MF) (G : MG) (H : Heap) (locs : List Loc) (ls : Array Slot), lv_has ls 6 [(0, .ref (mp_h w)), (1, .int y1), (2, .int y2), (3, .int y3), (5, .int y5)] → m_W w s.heap F G H locs → wM_number_l18 post n18 y1 y2 y3 y5 F G → W p l e (mrm 2) s m args below meth c H locs 0 0 Q (F0 m 18 ls []) := by
    intro n18
    induction n18 with
    | zero => intro y1 y2 y3 y5 F G H locs ls hl hW hw; exact hw.elim
    | succ n18 ih18 =>
      intro y1 y2 y3 y5 F G H locs ls hl hW hw
      have hw : wM_number_b18 post (wM_number_l18 post n18) y1 y2 y3 y5 F G := hw
      unfold wM_number_b18 at hw
      refine lv_aload_n hx hb dX5_number_18 rfl (lv_at hl 0 rfl) ?_
      refine m_Vi (rest := []) hE hT hW (kM_here l w _ F G hw) gM_here dM_here ⟨Nat.le_of_ble_eq_true rfl, Nat.le_of_ble_eq_true rfl, Nat.zero_le _, Nat.zero_le _⟩ rfl hl.1 rfl (Nat.le_of_ble_eq_true rfl) dX5_number_19 (fun r_1 F9 G9 H locs hw hW => ?_)
      obtain ⟨eF9, eG9, hw⟩ := hw
      rw [eF9, eG9] at hW
      refine m_Si (rest := []) hE hT hW (kM_isDigit l w _ r_1 F G hw) gM_isDigit dM_isDigit ⟨Nat.le_of_ble_eq_true rfl, Nat.le_of_ble_eq_true rfl, Nat.zero_le _, Nat.zero_le _⟩ rfl hl.1 rfl (Nat.le_of_ble_eq_true rfl) dX5_number_22 (fun r_2 F9 G9 H locs hw hW => ?_)
      obtain ⟨eF9, eG9, hw⟩ := hw
      rw [eF9, eG9] at hW
      refine lv_if_eq (tgt := 74) hx hb dX5_number_25 (by decide) (fun q => ?_) (fun q => ?_)
      · have hw := hw.1 q
        refine lv_aload_n hx hb dX5_number_74 rfl (lv_at hl 0 rfl) ?_
        refine m_get hx hb hown hts hT hW 15 (by decide) (hts _ q2144) rfl (v := .int (F 15)) rfl dX5_number_75 ?_
        refine lv_aload_n hx hb dX5_number_78 rfl (lv_at hl 0 rfl) ?_
        refine m_get hx hb hown hts hT hW 16 (by decide) (hts _ q2145) rfl (v := .int (F 16)) rfl dX5_number_79 ?_
        refine lv_icmp_eq (tgt := 118) hx hb dX5_number_82 (by decide) (fun q => ?_) (fun q => ?_)
        · have hw := hw.1 q
          refine lv_aload_n hx hb dX5_number_118 rfl (lv_at hl 0 rfl) ?_
          refine lv_aload_n hx hb dX5_number_119 rfl (lv_at hl 0 rfl) ?_
          refine m_get hx hb hown hts hT hW 16 (by decide) (hts _ q2145) rfl (v := .int (F 16)) rfl dX5_number_120 ?_
          refine m_Vv (rest := []) hE hT hW (kM_wrongAt l w _ (F 16) F G hw) gM_wrongAt dM_wrongAt ⟨Nat.le_of_ble_eq_true rfl, Nat.le_of_ble_eq_true rfl, Nat.zero_le _, Nat.zero_le _⟩ rfl hl.1 rfl (Nat.le_of_ble_eq_true rfl) dX5_number_123 (fun F_3 G_4 H locs hw hW => ?_)
          refine lv_iload hx hb dX5_number_126 (lv_at hl 4 rfl) ?_
          exact hQ _ _ _ _ _ trivial hw hW _ _ dX5_number_128
        · have hw := hw.2 q
          refine lv_aload_n hx hb dX5_number_85 rfl (lv_at hl 0 rfl) ?_
          refine m_get hx hb hown hts hT hW 15 (by decide) (hts _ q2144) rfl (v := .int (F 15)) rfl dX5_number_86 ?_
          refine lv_aload_n hx hb dX5_number_89 rfl (lv_at hl 0 rfl) ?_
          refine m_get hx hb hown hts hT hW 16 (by decide) (hts _ q2145) rfl (v := .int (F 16)) rfl dX5_number_90 ?_
          refine lv_isub hx hb dX5_number_93 ?_
          refine lv_iconst (v := (5 : Int32)) hx hb dX5_number_94 (by decide) ?_
          refine lv_icmp_gt (tgt := 118) hx hb dX5_number_95 (by decide) (fun q => ?_) (fun q => ?_)
          · have hw := hw.1 q
            refine lv_aload_n hx hb dX5_number_118 rfl (lv_at hl 0 rfl) ?_
            refine lv_aload_n hx hb dX5_number_119 rfl (lv_at hl 0 rfl) ?_
            refine m_get hx hb hown hts hT hW 16 (by decide) (hts _ q2145) rfl (v := .int (F 16)) rfl dX5_number_120 ?_
            refine m_Vv (rest := []) hE hT hW (kM_wrongAt l w _ (F 16) F G hw) gM_wrongAt dM_wrongAt ⟨Nat.le_of_ble_eq_true rfl, Nat.le_of_ble_eq_true rfl, Nat.zero_le _, Nat.zero_le _⟩ rfl hl.1 rfl (Nat.le_of_ble_eq_true rfl) dX5_number_123 (fun F_5 G_6 H locs hw hW => ?_)
            refine lv_iload hx hb dX5_number_126 (lv_at hl 4 rfl) ?_
            exact hQ _ _ _ _ _ trivial hw hW _ _ dX5_number_128
          · have hw := hw.2 q
            refine lv_iload hx hb dX5_number_98 (lv_at hl 4 rfl) ?_
            refine lv_i2l (v := (y5).toInt64) hx hb dX5_number_100 rfl ?_
            refine lv_iload_n hx hb dX5_number_101 rfl (lv_at hl 1 rfl) ?_
            refine lv_i2l (v := (y1).toInt64) hx hb dX5_number_102 rfl ?_
            refine lv_iload_n hx hb dX5_number_103 rfl (lv_at hl 2 rfl) ?_
            refine lv_i2l (v := (y2).toInt64) hx hb dX5_number_104 rfl ?_
            refine m_Si (rest := []) hE hT hW (kM_isIn l w _ ((y5).toInt64) ((y1).toInt64) ((y2).toInt64) F G hw) gM_isIn dM_isIn ⟨Nat.le_of_ble_eq_true rfl, Nat.le_of_ble_eq_true rfl, Nat.zero_le _, Nat.zero_le _⟩ rfl hl.1 rfl (Nat.le_of_ble_eq_true rfl) dX5_number_105 (fun r_7 F9 G9 H locs hw hW => ?_)
            obtain ⟨eF9, eG9, hw⟩ := hw
            rw [eF9, eG9] at hW
            refine lv_if_eq (tgt := 118) hx hb dX5_number_108 (by decide) (fun q => ?_) (fun q => ?_)
            · have hw := hw.1 q
              refine lv_aload_n hx hb dX5_number_118 rfl (lv_at hl 0 rfl) ?_
              refine lv_aload_n hx hb dX5_number_119 rfl (lv_at hl 0 rfl) ?_
              refine m_get hx hb hown hts hT hW 16 (by decide) (hts _ q2145) rfl (v := .int (F 16)) rfl dX5_number_120 ?_
              refine m_Vv (rest := []) hE hT hW (kM_wrongAt l w _ (F 16) F G hw) gM_wrongAt dM_wrongAt ⟨Nat.le_of_ble_eq_true rfl, Nat.le_of_ble_eq_true rfl, Nat.zero_le _, Nat.zero_le _⟩ rfl hl.1 rfl (Nat.le_of_ble_eq_true rfl) dX5_number_123 (fun F_8 G_9 H locs hw hW => ?_)
              refine lv_iload hx hb dX5_number_126 (lv_at hl 4 rfl) ?_
              exact hQ _ _ _ _ _ trivial hw hW _ _ dX5_number_128
            · have hw := hw.2 q
              refine lv_iload hx hb dX5_number_111 (lv_at hl 4 rfl) ?_
              refine lv_iload_n hx hb dX5_number_113 rfl (lv_at hl 3 rfl) ?_
              obtain ⟨h0, hw⟩ := hw
              refine lv_irem hx hb dX5_number_114 h0 ?_
              refine lv_if_eq (tgt := 126) hx hb dX5_number_115 (by decide) (fun q => ?_) (fun q => ?_)
              · have hw := hw.1 q
                refine lv_iload hx hb dX5_number_126 (lv_at hl 4 rfl) ?_
                exact hQ _ _ _ _ _ trivial hw hW _ _ dX5_number_128
              · have hw := hw.2 q
                refine lv_aload_n hx hb dX5_number_118 rfl (lv_at hl 0 rfl) ?_
                refine lv_aload_n hx hb dX5_number_119 rfl (lv_at hl 0 rfl) ?_
                refine m_get hx hb hown hts hT hW 16 (by decide) (hts _ q2145) rfl (v := .int (F 16)) rfl dX5_number_120 ?_
                refine m_Vv (rest := []) hE hT hW (kM_wrongAt l w _ (F 16) F G hw) gM_wrongAt dM_wrongAt ⟨Nat.le_of_ble_eq_true rfl, Nat.le_of_ble_eq_true rfl, Nat.zero_le _, Nat.zero_le _⟩ rfl hl.1 rfl (Nat.le_of_ble_eq_true rfl) dX5_number_123 (fun F_10 G_11 H locs hw hW => ?_)
                refine lv_iload hx hb dX5_number_126 (lv_at hl 4 rfl) ?_
                exact hQ _ _ _ _ _ trivial hw hW _ _ dX5_number_128
      · have hw := hw.2 q
        refine lv_aload_n hx hb dX5_number_28 rfl (lv_at hl 0 rfl) ?_
        refine m_get hx hb hown hts hT hW 15 (by decide) (hts _ q2144) rfl (v := .int (F 15)) rfl dX5_number_29 ?_
        refine lv_aload_n hx hb dX5_number_32 rfl (lv_at hl 0 rfl) ?_
        refine m_get hx hb hown hts hT hW 16 (by decide) (hts _ q2145) rfl (v := .int (F 16)) rfl dX5_number_33 ?_
        refine lv_isub hx hb dX5_number_36 ?_
        refine lv_iconst (v := (5 : Int32)) hx hb dX5_number_37 (by decide) ?_
        refine lv_icmp_ge (tgt := 57) hx hb dX5_number_38 (by decide) (fun q => ?_) (fun q => ?_)
        · have hw := hw.1 q
          refine lv_iload hx hb dX5_number_57 (lv_at hl 4 rfl) ?_
          refine lv_istore (lv' := [(5, .int y5), (0, .ref (mp_h w)), (1, .int y1), (2, .int y2), (3, .int y3)]) hx hb dX5_number_59 hl (by decide) rfl (fun ls hl => ?_)
          refine lv_aload_n hx hb dX5_number_61 rfl (lv_at hl 1 rfl) ?_
          refine lv_dup hx hb dX5_number_62 rfl ?_
          refine m_get hx hb hown hts hT hW 15 (by decide) (hts _ q2144) rfl (v := .int (F 15)) rfl dX5_number_63 ?_
          refine lv_iconst (v := (1 : Int32)) hx hb dX5_number_66 (by decide) ?_
          refine lv_iadd hx hb dX5_number_67 ?_
          refine m_put hx hb hown hts hT hW 15 (by decide) (hts _ q2144) rfl rfl (ty := .int) (x := ((F 15) + (1 : Int32))) rfl rfl rfl rfl dX5_number_68 (fun F_12 H locs eF_12 hW => ?_)
          have hw := hw F_12 eF_12
          refine lv_goto (tgt := 18) hx hb dX5_number_71 (by decide) ?_
          exact ih18 y1 y2 y3 y5 F_12 G _ _ _ (lv_sub hl [1, 2, 3, 4, 0] rfl) hW hw
        · have hw := hw.2 q
          refine lv_bipush (v := (10 : Int32)) hx hb dX5_number_41 (by decide) ?_
          refine lv_iload hx hb dX5_number_43 (lv_at hl 4 rfl) ?_
          refine lv_imul hx hb dX5_number_45 ?_
          refine lv_aload_n hx hb dX5_number_46 rfl (lv_at hl 0 rfl) ?_
          refine m_Vi (rest := [.int ((10 : Int32) * y5)]) hE hT hW (kM_here l w _ F G hw) gM_here dM_here ⟨Nat.le_of_ble_eq_true rfl, Nat.le_of_ble_eq_true rfl, Nat.zero_le _, Nat.zero_le _⟩ rfl hl.1 rfl (Nat.le_of_ble_eq_true rfl) dX5_number_47 (fun r_13 F9 G9 H locs hw hW => ?_)
          obtain ⟨eF9, eG9, hw⟩ := hw
          rw [eF9, eG9] at hW
          refine lv_iadd hx hb dX5_number_50 ?_
          refine lv_bipush (v := (48 : Int32)) hx hb dX5_number_51 (by decide) ?_
          refine lv_isub hx hb dX5_number_53 ?_
          refine lv_goto (tgt := 59) hx hb dX5_number_54 (by decide) ?_
          refine lv_topi (fun x5_14 ex5_14 => ?_)
          have hw := hw x5_14 ex5_14
          refine lv_istore (lv' := [(5, .int x5_14), (0, .ref (mp_h w)), (1, .int y1), (2, .int y2), (3, .int y3)]) hx hb dX5_number_59 hl (by decide) rfl (fun ls hl => ?_)
          refine lv_aload_n hx hb dX5_number_61 rfl (lv_at hl 1 rfl) ?_
          refine lv_dup hx hb dX5_number_62 rfl ?_
          refine m_get hx hb hown hts hT hW 15 (by decide) (hts _ q2144) rfl (v := .int (F 15)) rfl dX5_number_63 ?_
          refine lv_iconst (v := (1 : Int32)) hx hb dX5_number_66 (by decide) ?_
          refine lv_iadd hx hb dX5_number_67 ?_
          refine m_put hx hb hown hts hT hW 15 (by decide) (hts _ q2144) rfl rfl (ty := .int) (x := ((F 15) + (1 : Int32))) rfl rfl rfl rfl dX5_number_68 (fun F_15 H locs eF_15 hW => ?_)
          have hw := hw F_15 eF_15
          refine lv_goto (tgt := 18) hx hb dX5_number_71 (by decide) ?_
          exact ih18 y1 y2 y3 x5_14 F_15 G _ _ _ (lv_sub hl [1, 2, 3, 4, 0] rfl) hW hw
  unfold wM_number at hw
  refine lv_aload_n hx hb dX5_number_0 rfl (lv_at hl 0 rfl) ?_
  refine m_Vi (rest := []) hE hT hW (kM_isFine l w _ F G hw) gM_isFine dM_isFine ⟨Nat.le_of_ble_eq_true rfl, Nat.le_of_ble_eq_true rfl, Nat.zero_le _, Nat.zero_le _⟩ rfl hl.1 rfl (Nat.le_of_ble_eq_true rfl) dX5_number_1 (fun r_16 F9 G9 H locs hw hW => ?_)
  obtain ⟨eF9, eG9, hw⟩ := hw
  rw [eF9, eG9] at hW
  refine lv_if_ne (tgt := 9) hx hb dX5_number_4 (by decide) (fun q => ?_) (fun q => ?_)
  · have hw := hw.2 q
    refine lv_aload_n hx hb dX5_number_9 rfl (lv_at hl 0 rfl) ?_
    refine m_Vi (rest := []) hE hT hW (kM_look l w _ F G hw) gM_look dM_look ⟨Nat.le_of_ble_eq_true rfl, Nat.le_of_ble_eq_true rfl, Nat.zero_le _, Nat.zero_le _⟩ rfl hl.1 rfl (Nat.le_of_ble_eq_true rfl) dX5_number_10 (fun r_17 F_18 G_19 H locs hw hW => ?_)
    refine lv_istore (lv' := [(4, .int r_17), (0, .ref (mp_h w)), (1, .int x1), (2, .int x2), (3, .int x3)]) hx hb dX5_number_13 hl (by decide) rfl (fun ls hl => ?_)
    refine lv_iconst (v := (0 : Int32)) hx hb dX5_number_15 (by decide) ?_
    refine lv_istore (lv' := [(5, .int (0 : Int32)), (4, .int r_17), (0, .ref (mp_h w)), (1, .int x1), (2, .int x2), (3, .int x3)]) hx hb dX5_number_16 hl (by decide) rfl (fun ls hl => ?_)
    obtain ⟨n_20, hw⟩ := hw
    exact lp18 n_20 x1 x2 x3 (0 : Int32) F_18 G_19 _ _ _ (lv_sub hl [2, 3, 4, 5, 0] rfl) hW hw
  · have hw := hw.1 q
    refine lv_iconst (v := (0 : Int32)) hx hb dX5_number_7 (by decide) ?_
    exact hQ _ _ _ _ _ trivial hw hW _ _ dX5_number_8
theorem gM_number : GoodIn lw_all (wsV RX5 155 RX5 yX5_number (ws_ yX5_number cX5_number 6 (some .int))) := lw_V q2322 q2324 qs84 q154 q2325
theorem dM_number : yX5_number.cls = RX5 ∧ yX5_number.cls ≠ "java/lang/invoke/MethodHandle" ∧ yX5_number.cls ≠ "java/lang/invoke/VarHandle" ∧ (parseMethodDescriptor yX5_number.desc).map (fun d => d.parameters.length) = some 3 := by decide +kernel

/-! reads -/
def wM_reads (post : MF → MG → Prop) (x1 : Int32) (x2 : Int32) (x3 : Int32) (x4 : Int32) (F : MF) (G : MG) : Prop :=
  wM_number (fun r_1 F_2 G_3 => wM_isFine (fun r_4 => (r_4 = 0 → post F_2 G_3) ∧ (¬ r_4 = 0 → vp_in x1 166 ∧ ∀ G_5 : MG, G_5 = mu G_3 2 (x1.toNatClampNeg) r_1 → post F_2 G_5)) F_2 G_3) x2 x3 x4 F G
set_option maxHeartbeats 4000000 in
theorem kM_reads (l : Launch) (w : MP) (post : MF → MG → Prop) (x1 : Int32) (x2 : Int32) (x3 : Int32) (x4 : Int32) (F : MF) (G : MG) (hw : wM_reads post x1 x2 x3 x4 F G) : m_Mv l w yX5_reads cX5_reads 6 3 [.ref (mp_h w), .int x1, .int x2, .int x3, .int x4] F G post := by
  refine m_ofWv (by decide) rfl (Nat.le_of_ble_eq_true rfl) ?_
  intro p e s m args below meth c Q ls hA hW hQ
  obtain ⟨hE, hT, hl⟩ := hA
  obtain ⟨hx, hb, hml, hown, hts⟩ := id hE
  have hl : lv_has ls 6 [(0, .ref (mp_h w)), (1, .int x1), (2, .int x2), (3, .int x3), (4, .int x4)] := hl
  unfold wM_reads at hw
  refine lv_aload_n hx hb dX5_reads_0 rfl (lv_at hl 0 rfl) ?_
  refine lv_iload_n hx hb dX5_reads_1 rfl (lv_at hl 2 rfl) ?_
  refine lv_iload_n hx hb dX5_reads_2 rfl (lv_at hl 3 rfl) ?_
  refine lv_iload hx hb dX5_reads_3 (lv_at hl 4 rfl) ?_
  refine m_Vi (rest := []) hE hT hW (kM_number l w _ x2 x3 x4 F G hw) gM_number dM_number ⟨Nat.le_of_ble_eq_true rfl, Nat.le_of_ble_eq_true rfl, Nat.zero_le _, Nat.zero_le _⟩ rfl hl.1 rfl (Nat.le_of_ble_eq_true rfl) dX5_reads_5 (fun r_1 F_2 G_3 H locs hw hW => ?_)
  refine lv_istore (lv' := [(5, .int r_1), (0, .ref (mp_h w)), (1, .int x1), (2, .int x2), (3, .int x3), (4, .int x4)]) hx hb dX5_reads_8 hl (by decide) rfl (fun ls hl => ?_)
  refine lv_aload_n hx hb dX5_reads_10 rfl (lv_at hl 1 rfl) ?_
  refine m_Vi (rest := []) hE hT hW (kM_isFine l w _ F_2 G_3 hw) gM_isFine dM_isFine ⟨Nat.le_of_ble_eq_true rfl, Nat.le_of_ble_eq_true rfl, Nat.zero_le _, Nat.zero_le _⟩ rfl hl.1 rfl (Nat.le_of_ble_eq_true rfl) dX5_reads_11 (fun r_4 F9 G9 H locs hw hW => ?_)
  obtain ⟨eF9, eG9, hw⟩ := hw
  rw [eF9, eG9] at hW
  refine lv_if_eq (tgt := 25) hx hb dX5_reads_14 (by decide) (fun q => ?_) (fun q => ?_)
  · have hw := hw.1 q
    exact hQ _ _ _ _ hw hW _ _ dX5_reads_25
  · have hw := hw.2 q
    refine lv_aload_n hx hb dX5_reads_17 rfl (lv_at hl 1 rfl) ?_
    refine m_get hx hb hown hts hT hW 2 (by decide) (hts _ q2131) rfl (v := .ref (mp_a w 2)) rfl dX5_reads_18 ?_
    refine lv_iload_n hx hb dX5_reads_21 rfl (lv_at hl 2 rfl) ?_
    refine lv_iload hx hb dX5_reads_22 (lv_at hl 0 rfl) ?_
    obtain ⟨hi, hw⟩ := hw
    refine m_iast hx hb hT hW (k := 2) (j := (x1.toNatClampNeg)) rfl rfl hi dX5_reads_24 (fun G_5 H locs eG_5 hW => ?_)
    have hw := hw G_5 eG_5
    exact hQ _ _ _ _ hw hW _ _ dX5_reads_25
theorem gM_reads : GoodIn lw_all (wsV RX5 174 RX5 yX5_reads (ws_ yX5_reads cX5_reads 6 none)) := lw_V q2318 q2320 qs83 q154 q2321
theorem dM_reads : yX5_reads.cls = RX5 ∧ yX5_reads.cls ≠ "java/lang/invoke/MethodHandle" ∧ yX5_reads.cls ≠ "java/lang/invoke/VarHandle" ∧ (parseMethodDescriptor yX5_reads.desc).map (fun d => d.parameters.length) = some 4 := by decide +kernel

/-! isType -/
def wM_isType (post : Int32 → Prop) (x1 : Int32) (F : MF) (G : MG) : Prop :=
  wM_isIn (fun r_1 => (r_1 = 0 ∨ r_1 = 1) ∧ post r_1) ((x1).toInt64) (0 : Int64) (((G 1 1) - (1 : Int32)).toInt64) F G
set_option maxHeartbeats 4000000 in
theorem kM_isType (l : Launch) (w : MP) (post : Int32 → Prop) (x1 : Int32) (F : MF) (G : MG) (hw : wM_isType post x1 F G) : m_Mi l w yX5_isType cX5_isType 2 .boolean 1 [.ref (mp_h w), .int x1] F G (fun r F1 G1 => F1 = F ∧ G1 = G ∧ post r) := by
  refine m_ofWi (by decide) rfl (Nat.le_of_ble_eq_true rfl) (fun r => r = 0 ∨ r = 1) (fun _ h => m_nb h) ?_
  intro p e s m args below meth c Q ls hA hW hQ
  obtain ⟨hE, hT, hl⟩ := hA
  obtain ⟨hx, hb, hml, hown, hts⟩ := id hE
  have hl : lv_has ls 2 [(0, .ref (mp_h w)), (1, .int x1)] := hl
  unfold wM_isType at hw
  refine lv_iload_n hx hb dX5_isType_0 rfl (lv_at hl 1 rfl) ?_
  refine lv_i2l (v := (x1).toInt64) hx hb dX5_isType_1 rfl ?_
  refine lv_lconst (v := (0 : Int64)) hx hb dX5_isType_2 rfl ?_
  refine lv_aload_n hx hb dX5_isType_3 rfl (lv_at hl 0 rfl) ?_
  refine m_get hx hb hown hts hT hW 1 (by decide) (hts _ q2130) rfl (v := .ref (mp_a w 1)) rfl dX5_isType_4 ?_
  refine lv_iconst (v := (1 : Int32)) hx hb dX5_isType_7 (by decide) ?_
  refine m_iald hx hb hT hW (k := 1) (j := 1) (by decide) rfl (by unfold vp_in; decide) dX5_isType_8 ?_
  refine lv_iconst (v := (1 : Int32)) hx hb dX5_isType_9 (by decide) ?_
  refine lv_isub hx hb dX5_isType_10 ?_
  refine lv_i2l (v := ((G 1 1) - (1 : Int32)).toInt64) hx hb dX5_isType_11 rfl ?_
  refine m_Si (rest := []) hE hT hW (kM_isIn l w _ ((x1).toInt64) (0 : Int64) (((G 1 1) - (1 : Int32)).toInt64) F G hw) gM_isIn dM_isIn ⟨Nat.le_of_ble_eq_true rfl, Nat.le_of_ble_eq_true rfl, Nat.zero_le _, Nat.zero_le _⟩ rfl hl.1 rfl (Nat.le_of_ble_eq_true rfl) dX5_isType_12 (fun r_1 F9 G9 H locs hw hW => ?_)
  obtain ⟨eF9, eG9, hw⟩ := hw
  rw [eF9, eG9] at hW
  exact hQ _ _ _ _ _ hw.1 ⟨rfl, rfl, hw.2⟩ hW _ _ dX5_isType_15
theorem gM_isType : GoodIn lw_all (wsV RX5 286 RX5 yX5_isType (ws_ yX5_isType cX5_isType 2 (some .boolean))) := lw_V q2371 q2373 qs93 q154 q2374
theorem dM_isType : yX5_isType.cls = RX5 ∧ yX5_isType.cls ≠ "java/lang/invoke/MethodHandle" ∧ yX5_isType.cls ≠ "java/lang/invoke/VarHandle" ∧ (parseMethodDescriptor yX5_isType.desc).map (fun d => d.parameters.length) = some 1 := by decide +kernel

/-! draft -/
def wM_draft_b69 (post : Int32 → MF → MG → Prop) (K69 : Int32 → Int32 → Int32 → Int32 → Int32 → MF → MG → Prop) (y1 : Int32) (y2 : Int32) (y3 : Int32) (y4 : Int32) (y5 : Int32) (F : MF) (G : MG) : Prop :=
  ((6 : Int32) ≤ y5 → ∀ G_1 : MG, G_1 = mu G 6 0 y1 → ∀ G_2 : MG, G_2 = mu G_1 6 1 y2 → ∀ G_3 : MG, G_3 = mu G_2 6 2 y3 → post y4 F G_3) ∧ (¬ (6 : Int32) ≤ y5 → vp_in ((3 : Int32) + y5) 9 ∧ ∀ G_4 : MG, G_4 = mu G 6 (((3 : Int32) + y5).toNatClampNeg) (0 : Int32) → K69 y1 y2 y3 y4 (y5 + (1 : Int32)) F G_4)
def wM_draft_l69 (post : Int32 → MF → MG → Prop) : Nat → Int32 → Int32 → Int32 → Int32 → Int32 → MF → MG → Prop
  | 0 => fun _ _ _ _ _ _ _ => False
  | n + 1 => wM_draft_b69 post (wM_draft_l69 post n)
def wM_draft (post : Int32 → MF → MG → Prop) (x1 : Int32) (x2 : Int32) (x3 : Int32) (F : MF) (G : MG) : Prop :=
  ∀ F_5 : MF, F_5 = upd F 0 (0 : Int32) → wM_isType (fun r_6 => (r_6 = 0 → wM_fails (fun r_20 F_21 G_22 => post r_20 F_21 G_22) (1 : Int32) F_5 G) ∧ (¬ r_6 = 0 → wM_isIn (fun r_7 => (r_7 = 0 → wM_fails (fun r_8 F_9 G_10 => post r_8 F_9 G_10) (2 : Int32) F_5 G) ∧ (¬ r_7 = 0 → wM_isIn (fun r_11 => (r_11 = 0 → wM_fails (fun r_12 F_13 G_14 => post r_12 F_13 G_14) (2 : Int32) F_5 G) ∧ (¬ r_11 = 0 → ((x3 - x3 / (15 : Int32) * (15 : Int32)) = 0 → ∀ x4_15 : Int32, x4_15 = (G 6 2) → ∃ n, wM_draft_l69 post n x1 x2 x3 x4_15 (0 : Int32) F_5 G) ∧ (¬ (x3 - x3 / (15 : Int32) * (15 : Int32)) = 0 → wM_fails (fun r_17 F_18 G_19 => post r_17 F_18 G_19) (2 : Int32) F_5 G))) ((x3).toInt64) (15 : Int64) (1440 : Int64) F_5 G)) ((x2).toInt64) (1 : Int64) (3000 : Int64) F_5 G)) x1 F_5 G
set_option maxHeartbeats 4000000 in
theorem kM_draft (l : Launch) (w : MP) (post : Int32 → MF → MG → Prop) (x1 : Int32) (x2 : Int32) (x3 : Int32) (F : MF) (G : MG) (hw : wM_draft post x1 x2 x3 F G) : m_Mi l w yX5_draft cX5_draft 6 .int 2 [.ref (mp_h w), .int x1, .int x2, .int x3] F G post := by
  refine m_ofWi (by decide) rfl (Nat.le_of_ble_eq_true rfl) (fun _ => True) (fun _ _ => rfl) ?_
  intro p e s m args below meth c Q ls hA hW hQ
  obtain ⟨hE, hT, hl⟩ := hA
  obtain ⟨hx, hb, hml, hown, hts⟩ := id hE
  have hl : lv_has ls 6 [(0, .ref (mp_h w)), (1, .int x1), (2, .int x2), (3, .int x3)] := hl
  have lp69 : ∀ (n69 : Nat) (y1 : Int32) (y2 : Int32) (y3 : Int32) (y4 : Int32) (y5 : Int32) (F : MF) (G : MG) (H : Heap) (locs : List Loc) (ls : Array Slot), lv_has ls 6 [(0, .ref (mp_h w)), (1, .int y1), (2, .int y2), (3, .int y3), (4, .int y4), (5, .int y5)] → m_W w s.heap F G H locs → wM_draft_l69 post n69 y1 y2 y3 y4 y5 F G → W p l e (mrm 2) s m args below meth c H locs 0 0 Q (F0 m 69 ls []) := by
    intro n69
    induction n69 with
    | zero => intro y1 y2 y3 y4 y5 F G H locs ls hl hW hw; exact hw.elim
    | succ n69 ih69 =>
      intro y1 y2 y3 y4 y5 F G H locs ls hl hW hw
      have hw : wM_draft_b69 post (wM_draft_l69 post n69) y1 y2 y3 y4 y5 F G := hw
      unfold wM_draft_b69 at hw
      refine lv_iload hx hb dX5_draft_69 (lv_at hl 5 rfl) ?_
      refine lv_bipush (v := (6 : Int32)) hx hb dX5_draft_71 (by decide) ?_
      refine lv_icmp_ge (tgt := 92) hx hb dX5_draft_73 (by decide) (fun q => ?_) (fun q => ?_)
      · have hw := hw.1 q
        refine lv_aload_n hx hb dX5_draft_92 rfl (lv_at hl 0 rfl) ?_
        refine m_get hx hb hown hts hT hW 6 (by decide) (hts _ q2135) rfl (v := .ref (mp_a w 6)) rfl dX5_draft_93 ?_
        refine lv_iconst (v := (0 : Int32)) hx hb dX5_draft_96 (by decide) ?_
        refine lv_iload_n hx hb dX5_draft_97 rfl (lv_at hl 1 rfl) ?_
        refine m_iast hx hb hT hW (k := 6) (j := 0) (by decide) rfl (by unfold vp_in; decide) dX5_draft_98 (fun G_1 H locs eG_1 hW => ?_)
        have hw := hw G_1 eG_1
        refine lv_aload_n hx hb dX5_draft_99 rfl (lv_at hl 0 rfl) ?_
        refine m_get hx hb hown hts hT hW 6 (by decide) (hts _ q2135) rfl (v := .ref (mp_a w 6)) rfl dX5_draft_100 ?_
        refine lv_iconst (v := (1 : Int32)) hx hb dX5_draft_103 (by decide) ?_
        refine lv_iload_n hx hb dX5_draft_104 rfl (lv_at hl 2 rfl) ?_
        refine m_iast hx hb hT hW (k := 6) (j := 1) (by decide) rfl (by unfold vp_in; decide) dX5_draft_105 (fun G_2 H locs eG_2 hW => ?_)
        have hw := hw G_2 eG_2
        refine lv_aload_n hx hb dX5_draft_106 rfl (lv_at hl 0 rfl) ?_
        refine m_get hx hb hown hts hT hW 6 (by decide) (hts _ q2135) rfl (v := .ref (mp_a w 6)) rfl dX5_draft_107 ?_
        refine lv_iconst (v := (2 : Int32)) hx hb dX5_draft_110 (by decide) ?_
        refine lv_iload_n hx hb dX5_draft_111 rfl (lv_at hl 3 rfl) ?_
        refine m_iast hx hb hT hW (k := 6) (j := 2) (by decide) rfl (by unfold vp_in; decide) dX5_draft_112 (fun G_3 H locs eG_3 hW => ?_)
        have hw := hw G_3 eG_3
        refine lv_iload hx hb dX5_draft_113 (lv_at hl 4 rfl) ?_
        exact hQ _ _ _ _ _ trivial hw hW _ _ dX5_draft_115
      · have hw := hw.2 q
        refine lv_aload_n hx hb dX5_draft_76 rfl (lv_at hl 0 rfl) ?_
        refine m_get hx hb hown hts hT hW 6 (by decide) (hts _ q2135) rfl (v := .ref (mp_a w 6)) rfl dX5_draft_77 ?_
        refine lv_iconst (v := (3 : Int32)) hx hb dX5_draft_80 (by decide) ?_
        refine lv_iload hx hb dX5_draft_81 (lv_at hl 5 rfl) ?_
        refine lv_iadd hx hb dX5_draft_83 ?_
        refine lv_iconst (v := (0 : Int32)) hx hb dX5_draft_84 (by decide) ?_
        obtain ⟨hi, hw⟩ := hw
        refine m_iast hx hb hT hW (k := 6) (j := (((3 : Int32) + y5).toNatClampNeg)) rfl rfl hi dX5_draft_85 (fun G_4 H locs eG_4 hW => ?_)
        have hw := hw G_4 eG_4
        refine lv_iinc (v := (y5 + (1 : Int32))) (lv' := [(5, .int (y5 + (1 : Int32))), (0, .ref (mp_h w)), (1, .int y1), (2, .int y2), (3, .int y3), (4, .int y4)]) hx hb dX5_draft_86 hl (k := 5) rfl rfl (by decide) rfl (fun ls hl => ?_)
        refine lv_goto (tgt := 69) hx hb dX5_draft_89 (by decide) ?_
        exact ih69 y1 y2 y3 y4 (y5 + (1 : Int32)) F G_4 _ _ _ (lv_sub hl [1, 2, 3, 4, 5, 0] rfl) hW hw
  unfold wM_draft at hw
  refine lv_aload_n hx hb dX5_draft_0 rfl (lv_at hl 0 rfl) ?_
  refine lv_iconst (v := (0 : Int32)) hx hb dX5_draft_1 (by decide) ?_
  refine m_put hx hb hown hts hT hW 0 (by decide) (hts _ q2129) rfl rfl (ty := .int) (x := (0 : Int32)) rfl rfl rfl rfl dX5_draft_2 (fun F_5 H locs eF_5 hW => ?_)
  have hw := hw F_5 eF_5
  refine lv_aload_n hx hb dX5_draft_5 rfl (lv_at hl 0 rfl) ?_
  refine lv_iload_n hx hb dX5_draft_6 rfl (lv_at hl 1 rfl) ?_
  refine m_Vi (rest := []) hE hT hW (kM_isType l w _ x1 F_5 G hw) gM_isType dM_isType ⟨Nat.le_of_ble_eq_true rfl, Nat.le_of_ble_eq_true rfl, Nat.zero_le _, Nat.zero_le _⟩ rfl hl.1 rfl (Nat.le_of_ble_eq_true rfl) dX5_draft_7 (fun r_6 F9 G9 H locs hw hW => ?_)
  obtain ⟨eF9, eG9, hw⟩ := hw
  rw [eF9, eG9] at hW
  refine lv_if_ne (tgt := 19) hx hb dX5_draft_10 (by decide) (fun q => ?_) (fun q => ?_)
  · have hw := hw.2 q
    refine lv_iload_n hx hb dX5_draft_19 rfl (lv_at hl 2 rfl) ?_
    refine lv_i2l (v := (x2).toInt64) hx hb dX5_draft_20 rfl ?_
    refine lv_lconst (v := (1 : Int64)) hx hb dX5_draft_21 rfl ?_
    refine lv_ldc2 hx hb hown (hts _ q2375) dX5_draft_22 ?_
    refine m_Si (rest := []) hE hT hW (kM_isIn l w _ ((x2).toInt64) (1 : Int64) (3000 : Int64) F_5 G hw) gM_isIn dM_isIn ⟨Nat.le_of_ble_eq_true rfl, Nat.le_of_ble_eq_true rfl, Nat.zero_le _, Nat.zero_le _⟩ rfl hl.1 rfl (Nat.le_of_ble_eq_true rfl) dX5_draft_25 (fun r_7 F9 G9 H locs hw hW => ?_)
    obtain ⟨eF9, eG9, hw⟩ := hw
    rw [eF9, eG9] at hW
    refine lv_if_eq (tgt := 52) hx hb dX5_draft_28 (by decide) (fun q => ?_) (fun q => ?_)
    · have hw := hw.1 q
      refine lv_aload_n hx hb dX5_draft_52 rfl (lv_at hl 0 rfl) ?_
      refine lv_iconst (v := (2 : Int32)) hx hb dX5_draft_53 (by decide) ?_
      refine m_Vi (rest := []) hE hT hW (kM_fails l w _ (2 : Int32) F_5 G hw) gM_fails dM_fails ⟨Nat.le_of_ble_eq_true rfl, Nat.le_of_ble_eq_true rfl, Nat.zero_le _, Nat.zero_le _⟩ rfl hl.1 rfl (Nat.le_of_ble_eq_true rfl) dX5_draft_54 (fun r_8 F_9 G_10 H locs hw hW => ?_)
      exact hQ _ _ _ _ _ trivial hw hW _ _ dX5_draft_57
    · have hw := hw.2 q
      refine lv_iload_n hx hb dX5_draft_31 rfl (lv_at hl 3 rfl) ?_
      refine lv_i2l (v := (x3).toInt64) hx hb dX5_draft_32 rfl ?_
      refine lv_ldc2 hx hb hown (hts _ q2376) dX5_draft_33 ?_
      refine lv_ldc2 hx hb hown (hts _ q2377) dX5_draft_36 ?_
      refine m_Si (rest := []) hE hT hW (kM_isIn l w _ ((x3).toInt64) (15 : Int64) (1440 : Int64) F_5 G hw) gM_isIn dM_isIn ⟨Nat.le_of_ble_eq_true rfl, Nat.le_of_ble_eq_true rfl, Nat.zero_le _, Nat.zero_le _⟩ rfl hl.1 rfl (Nat.le_of_ble_eq_true rfl) dX5_draft_39 (fun r_11 F9 G9 H locs hw hW => ?_)
      obtain ⟨eF9, eG9, hw⟩ := hw
      rw [eF9, eG9] at hW
      refine lv_if_eq (tgt := 52) hx hb dX5_draft_42 (by decide) (fun q => ?_) (fun q => ?_)
      · have hw := hw.1 q
        refine lv_aload_n hx hb dX5_draft_52 rfl (lv_at hl 0 rfl) ?_
        refine lv_iconst (v := (2 : Int32)) hx hb dX5_draft_53 (by decide) ?_
        refine m_Vi (rest := []) hE hT hW (kM_fails l w _ (2 : Int32) F_5 G hw) gM_fails dM_fails ⟨Nat.le_of_ble_eq_true rfl, Nat.le_of_ble_eq_true rfl, Nat.zero_le _, Nat.zero_le _⟩ rfl hl.1 rfl (Nat.le_of_ble_eq_true rfl) dX5_draft_54 (fun r_12 F_13 G_14 H locs hw hW => ?_)
        exact hQ _ _ _ _ _ trivial hw hW _ _ dX5_draft_57
      · have hw := hw.2 q
        refine lv_iload_n hx hb dX5_draft_45 rfl (lv_at hl 3 rfl) ?_
        refine lv_bipush (v := (15 : Int32)) hx hb dX5_draft_46 (by decide) ?_
        refine lv_irem hx hb dX5_draft_48 (by decide) ?_
        refine lv_if_eq (tgt := 58) hx hb dX5_draft_49 (by decide) (fun q => ?_) (fun q => ?_)
        · have hw := hw.1 q
          refine lv_aload_n hx hb dX5_draft_58 rfl (lv_at hl 0 rfl) ?_
          refine m_get hx hb hown hts hT hW 6 (by decide) (hts _ q2135) rfl (v := .ref (mp_a w 6)) rfl dX5_draft_59 ?_
          refine lv_iconst (v := (2 : Int32)) hx hb dX5_draft_62 (by decide) ?_
          refine m_iald hx hb hT hW (k := 6) (j := 2) (by decide) rfl (by unfold vp_in; decide) dX5_draft_63 ?_
          refine lv_topi (fun x4_15 ex4_15 => ?_)
          have hw := hw x4_15 ex4_15
          refine lv_istore (lv' := [(4, .int x4_15), (0, .ref (mp_h w)), (1, .int x1), (2, .int x2), (3, .int x3)]) hx hb dX5_draft_64 hl (by decide) rfl (fun ls hl => ?_)
          refine lv_iconst (v := (0 : Int32)) hx hb dX5_draft_66 (by decide) ?_
          refine lv_istore (lv' := [(5, .int (0 : Int32)), (4, .int x4_15), (0, .ref (mp_h w)), (1, .int x1), (2, .int x2), (3, .int x3)]) hx hb dX5_draft_67 hl (by decide) rfl (fun ls hl => ?_)
          obtain ⟨n_16, hw⟩ := hw
          exact lp69 n_16 x1 x2 x3 x4_15 (0 : Int32) F_5 G _ _ _ (lv_sub hl [2, 3, 4, 5, 1, 0] rfl) hW hw
        · have hw := hw.2 q
          refine lv_aload_n hx hb dX5_draft_52 rfl (lv_at hl 0 rfl) ?_
          refine lv_iconst (v := (2 : Int32)) hx hb dX5_draft_53 (by decide) ?_
          refine m_Vi (rest := []) hE hT hW (kM_fails l w _ (2 : Int32) F_5 G hw) gM_fails dM_fails ⟨Nat.le_of_ble_eq_true rfl, Nat.le_of_ble_eq_true rfl, Nat.zero_le _, Nat.zero_le _⟩ rfl hl.1 rfl (Nat.le_of_ble_eq_true rfl) dX5_draft_54 (fun r_17 F_18 G_19 H locs hw hW => ?_)
          exact hQ _ _ _ _ _ trivial hw hW _ _ dX5_draft_57
  · have hw := hw.1 q
    refine lv_aload_n hx hb dX5_draft_13 rfl (lv_at hl 0 rfl) ?_
    refine lv_iconst (v := (1 : Int32)) hx hb dX5_draft_14 (by decide) ?_
    refine m_Vi (rest := []) hE hT hW (kM_fails l w _ (1 : Int32) F_5 G hw) gM_fails dM_fails ⟨Nat.le_of_ble_eq_true rfl, Nat.le_of_ble_eq_true rfl, Nat.zero_le _, Nat.zero_le _⟩ rfl hl.1 rfl (Nat.le_of_ble_eq_true rfl) dX5_draft_15 (fun r_20 F_21 G_22 H locs hw hW => ?_)
    exact hQ _ _ _ _ _ trivial hw hW _ _ dX5_draft_18

/-! isKind -/
def wM_isKind (post : Int32 → Prop) (x1 : Int32) (F : MF) (G : MG) : Prop :=
  wM_isIn (fun r_1 => (r_1 = 0 ∨ r_1 = 1) ∧ post r_1) ((x1).toInt64) (0 : Int64) (((G 1 2) - (1 : Int32)).toInt64) F G
set_option maxHeartbeats 4000000 in
theorem kM_isKind (l : Launch) (w : MP) (post : Int32 → Prop) (x1 : Int32) (F : MF) (G : MG) (hw : wM_isKind post x1 F G) : m_Mi l w yX5_isKind cX5_isKind 2 .boolean 1 [.ref (mp_h w), .int x1] F G (fun r F1 G1 => F1 = F ∧ G1 = G ∧ post r) := by
  refine m_ofWi (by decide) rfl (Nat.le_of_ble_eq_true rfl) (fun r => r = 0 ∨ r = 1) (fun _ h => m_nb h) ?_
  intro p e s m args below meth c Q ls hA hW hQ
  obtain ⟨hE, hT, hl⟩ := hA
  obtain ⟨hx, hb, hml, hown, hts⟩ := id hE
  have hl : lv_has ls 2 [(0, .ref (mp_h w)), (1, .int x1)] := hl
  unfold wM_isKind at hw
  refine lv_iload_n hx hb dX5_isKind_0 rfl (lv_at hl 1 rfl) ?_
  refine lv_i2l (v := (x1).toInt64) hx hb dX5_isKind_1 rfl ?_
  refine lv_lconst (v := (0 : Int64)) hx hb dX5_isKind_2 rfl ?_
  refine lv_aload_n hx hb dX5_isKind_3 rfl (lv_at hl 0 rfl) ?_
  refine m_get hx hb hown hts hT hW 1 (by decide) (hts _ q2130) rfl (v := .ref (mp_a w 1)) rfl dX5_isKind_4 ?_
  refine lv_iconst (v := (2 : Int32)) hx hb dX5_isKind_7 (by decide) ?_
  refine m_iald hx hb hT hW (k := 1) (j := 2) (by decide) rfl (by unfold vp_in; decide) dX5_isKind_8 ?_
  refine lv_iconst (v := (1 : Int32)) hx hb dX5_isKind_9 (by decide) ?_
  refine lv_isub hx hb dX5_isKind_10 ?_
  refine lv_i2l (v := ((G 1 2) - (1 : Int32)).toInt64) hx hb dX5_isKind_11 rfl ?_
  refine m_Si (rest := []) hE hT hW (kM_isIn l w _ ((x1).toInt64) (0 : Int64) (((G 1 2) - (1 : Int32)).toInt64) F G hw) gM_isIn dM_isIn ⟨Nat.le_of_ble_eq_true rfl, Nat.le_of_ble_eq_true rfl, Nat.zero_le _, Nat.zero_le _⟩ rfl hl.1 rfl (Nat.le_of_ble_eq_true rfl) dX5_isKind_12 (fun r_1 F9 G9 H locs hw hW => ?_)
  obtain ⟨eF9, eG9, hw⟩ := hw
  rw [eF9, eG9] at hW
  exact hQ _ _ _ _ _ hw.1 ⟨rfl, rfl, hw.2⟩ hW _ _ dX5_isKind_15
theorem gM_isKind : GoodIn lw_all (wsV RX5 295 RX5 yX5_isKind (ws_ yX5_isKind cX5_isKind 2 (some .boolean))) := lw_V q2382 q2384 qs94 q154 q2385
theorem dM_isKind : yX5_isKind.cls = RX5 ∧ yX5_isKind.cls ≠ "java/lang/invoke/MethodHandle" ∧ yX5_isKind.cls ≠ "java/lang/invoke/VarHandle" ∧ (parseMethodDescriptor yX5_isKind.desc).map (fun d => d.parameters.length) = some 1 := by decide +kernel

/-! need -/
def wM_need (post : Int32 → MF → MG → Prop) (x1 : Int32) (x2 : Int32) (F : MF) (G : MG) : Prop :=
  ∀ F_1 : MF, F_1 = upd F 0 (0 : Int32) → wM_isKind (fun r_2 => (r_2 = 0 → wM_fails (fun r_9 F_10 G_11 => post r_9 F_10 G_11) (1 : Int32) F_1 G) ∧ (¬ r_2 = 0 → vp_in ((32 : Int32) + x1) 166 ∧ wM_isIn (fun r_3 => (r_3 = 0 → wM_fails (fun r_6 F_7 G_8 => post r_6 F_7 G_8) (2 : Int32) F_1 G) ∧ (¬ r_3 = 0 → vp_in ((3 : Int32) + x1) 9 ∧ ∀ x3_4 : Int32, x3_4 = (G 6 (((3 : Int32) + x1).toNatClampNeg)) → vp_in ((3 : Int32) + x1) 9 ∧ ∀ G_5 : MG, G_5 = mu G 6 (((3 : Int32) + x1).toNatClampNeg) x2 → post x3_4 F_1 G_5)) ((x2).toInt64) (0 : Int64) ((G 1 (((32 : Int32) + x1).toNatClampNeg)).toInt64) F_1 G)) x1 F_1 G
set_option maxHeartbeats 4000000 in
theorem kM_need (l : Launch) (w : MP) (post : Int32 → MF → MG → Prop) (x1 : Int32) (x2 : Int32) (F : MF) (G : MG) (hw : wM_need post x1 x2 F G) : m_Mi l w yX5_need cX5_need 4 .int 2 [.ref (mp_h w), .int x1, .int x2] F G post := by
  refine m_ofWi (by decide) rfl (Nat.le_of_ble_eq_true rfl) (fun _ => True) (fun _ _ => rfl) ?_
  intro p e s m args below meth c Q ls hA hW hQ
  obtain ⟨hE, hT, hl⟩ := hA
  obtain ⟨hx, hb, hml, hown, hts⟩ := id hE
  have hl : lv_has ls 4 [(0, .ref (mp_h w)), (1, .int x1), (2, .int x2)] := hl
  unfold wM_need at hw
  refine lv_aload_n hx hb dX5_need_0 rfl (lv_at hl 0 rfl) ?_
  refine lv_iconst (v := (0 : Int32)) hx hb dX5_need_1 (by decide) ?_
  refine m_put hx hb hown hts hT hW 0 (by decide) (hts _ q2129) rfl rfl (ty := .int) (x := (0 : Int32)) rfl rfl rfl rfl dX5_need_2 (fun F_1 H locs eF_1 hW => ?_)
  have hw := hw F_1 eF_1
  refine lv_aload_n hx hb dX5_need_5 rfl (lv_at hl 0 rfl) ?_
  refine lv_iload_n hx hb dX5_need_6 rfl (lv_at hl 1 rfl) ?_
  refine m_Vi (rest := []) hE hT hW (kM_isKind l w _ x1 F_1 G hw) gM_isKind dM_isKind ⟨Nat.le_of_ble_eq_true rfl, Nat.le_of_ble_eq_true rfl, Nat.zero_le _, Nat.zero_le _⟩ rfl hl.1 rfl (Nat.le_of_ble_eq_true rfl) dX5_need_7 (fun r_2 F9 G9 H locs hw hW => ?_)
  obtain ⟨eF9, eG9, hw⟩ := hw
  rw [eF9, eG9] at hW
  refine lv_if_ne (tgt := 19) hx hb dX5_need_10 (by decide) (fun q => ?_) (fun q => ?_)
  · have hw := hw.2 q
    refine lv_iload_n hx hb dX5_need_19 rfl (lv_at hl 2 rfl) ?_
    refine lv_i2l (v := (x2).toInt64) hx hb dX5_need_20 rfl ?_
    refine lv_lconst (v := (0 : Int64)) hx hb dX5_need_21 rfl ?_
    refine lv_aload_n hx hb dX5_need_22 rfl (lv_at hl 0 rfl) ?_
    refine m_get hx hb hown hts hT hW 1 (by decide) (hts _ q2130) rfl (v := .ref (mp_a w 1)) rfl dX5_need_23 ?_
    refine lv_bipush (v := (32 : Int32)) hx hb dX5_need_26 (by decide) ?_
    refine lv_iload_n hx hb dX5_need_28 rfl (lv_at hl 1 rfl) ?_
    refine lv_iadd hx hb dX5_need_29 ?_
    obtain ⟨hi, hw⟩ := hw
    refine m_iald hx hb hT hW (k := 1) (j := (((32 : Int32) + x1).toNatClampNeg)) rfl rfl hi dX5_need_30 ?_
    refine lv_i2l (v := (G 1 (((32 : Int32) + x1).toNatClampNeg)).toInt64) hx hb dX5_need_31 rfl ?_
    refine m_Si (rest := []) hE hT hW (kM_isIn l w _ ((x2).toInt64) (0 : Int64) ((G 1 (((32 : Int32) + x1).toNatClampNeg)).toInt64) F_1 G hw) gM_isIn dM_isIn ⟨Nat.le_of_ble_eq_true rfl, Nat.le_of_ble_eq_true rfl, Nat.zero_le _, Nat.zero_le _⟩ rfl hl.1 rfl (Nat.le_of_ble_eq_true rfl) dX5_need_32 (fun r_3 F9 G9 H locs hw hW => ?_)
    obtain ⟨eF9, eG9, hw⟩ := hw
    rw [eF9, eG9] at hW
    refine lv_if_ne (tgt := 44) hx hb dX5_need_35 (by decide) (fun q => ?_) (fun q => ?_)
    · have hw := hw.2 q
      refine lv_aload_n hx hb dX5_need_44 rfl (lv_at hl 0 rfl) ?_
      refine m_get hx hb hown hts hT hW 6 (by decide) (hts _ q2135) rfl (v := .ref (mp_a w 6)) rfl dX5_need_45 ?_
      refine lv_iconst (v := (3 : Int32)) hx hb dX5_need_48 (by decide) ?_
      refine lv_iload_n hx hb dX5_need_49 rfl (lv_at hl 1 rfl) ?_
      refine lv_iadd hx hb dX5_need_50 ?_
      obtain ⟨hi, hw⟩ := hw
      refine m_iald hx hb hT hW (k := 6) (j := (((3 : Int32) + x1).toNatClampNeg)) rfl rfl hi dX5_need_51 ?_
      refine lv_topi (fun x3_4 ex3_4 => ?_)
      have hw := hw x3_4 ex3_4
      refine lv_istore_n (lv' := [(3, .int x3_4), (0, .ref (mp_h w)), (1, .int x1), (2, .int x2)]) hx hb dX5_need_52 rfl hl (by decide) rfl (fun ls hl => ?_)
      refine lv_aload_n hx hb dX5_need_53 rfl (lv_at hl 1 rfl) ?_
      refine m_get hx hb hown hts hT hW 6 (by decide) (hts _ q2135) rfl (v := .ref (mp_a w 6)) rfl dX5_need_54 ?_
      refine lv_iconst (v := (3 : Int32)) hx hb dX5_need_57 (by decide) ?_
      refine lv_iload_n hx hb dX5_need_58 rfl (lv_at hl 2 rfl) ?_
      refine lv_iadd hx hb dX5_need_59 ?_
      refine lv_iload_n hx hb dX5_need_60 rfl (lv_at hl 3 rfl) ?_
      obtain ⟨hi, hw⟩ := hw
      refine m_iast hx hb hT hW (k := 6) (j := (((3 : Int32) + x1).toNatClampNeg)) rfl rfl hi dX5_need_61 (fun G_5 H locs eG_5 hW => ?_)
      have hw := hw G_5 eG_5
      refine lv_iload_n hx hb dX5_need_62 rfl (lv_at hl 0 rfl) ?_
      exact hQ _ _ _ _ _ trivial hw hW _ _ dX5_need_63
    · have hw := hw.1 q
      refine lv_aload_n hx hb dX5_need_38 rfl (lv_at hl 0 rfl) ?_
      refine lv_iconst (v := (2 : Int32)) hx hb dX5_need_39 (by decide) ?_
      refine m_Vi (rest := []) hE hT hW (kM_fails l w _ (2 : Int32) F_1 G hw) gM_fails dM_fails ⟨Nat.le_of_ble_eq_true rfl, Nat.le_of_ble_eq_true rfl, Nat.zero_le _, Nat.zero_le _⟩ rfl hl.1 rfl (Nat.le_of_ble_eq_true rfl) dX5_need_40 (fun r_6 F_7 G_8 H locs hw hW => ?_)
      exact hQ _ _ _ _ _ trivial hw hW _ _ dX5_need_43
  · have hw := hw.1 q
    refine lv_aload_n hx hb dX5_need_13 rfl (lv_at hl 0 rfl) ?_
    refine lv_iconst (v := (1 : Int32)) hx hb dX5_need_14 (by decide) ?_
    refine m_Vi (rest := []) hE hT hW (kM_fails l w _ (1 : Int32) F_1 G hw) gM_fails dM_fails ⟨Nat.le_of_ble_eq_true rfl, Nat.le_of_ble_eq_true rfl, Nat.zero_le _, Nat.zero_le _⟩ rfl hl.1 rfl (Nat.le_of_ble_eq_true rfl) dX5_need_15 (fun r_9 F_10 G_11 H locs hw hW => ?_)
    exact hQ _ _ _ _ _ trivial hw hW _ _ dX5_need_18

/-! isHall -/
def wM_isHall (post : Int32 → Prop) (x1 : Int32) (F : MF) (G : MG) : Prop :=
  wM_isIn (fun r_1 => (r_1 = 0 ∨ r_1 = 1) ∧ post r_1) ((x1).toInt64) (0 : Int64) (((G 1 0) - (1 : Int32)).toInt64) F G
set_option maxHeartbeats 4000000 in
theorem kM_isHall (l : Launch) (w : MP) (post : Int32 → Prop) (x1 : Int32) (F : MF) (G : MG) (hw : wM_isHall post x1 F G) : m_Mi l w yX5_isHall cX5_isHall 2 .boolean 1 [.ref (mp_h w), .int x1] F G (fun r F1 G1 => F1 = F ∧ G1 = G ∧ post r) := by
  refine m_ofWi (by decide) rfl (Nat.le_of_ble_eq_true rfl) (fun r => r = 0 ∨ r = 1) (fun _ h => m_nb h) ?_
  intro p e s m args below meth c Q ls hA hW hQ
  obtain ⟨hE, hT, hl⟩ := hA
  obtain ⟨hx, hb, hml, hown, hts⟩ := id hE
  have hl : lv_has ls 2 [(0, .ref (mp_h w)), (1, .int x1)] := hl
  unfold wM_isHall at hw
  refine lv_iload_n hx hb dX5_isHall_0 rfl (lv_at hl 1 rfl) ?_
  refine lv_i2l (v := (x1).toInt64) hx hb dX5_isHall_1 rfl ?_
  refine lv_lconst (v := (0 : Int64)) hx hb dX5_isHall_2 rfl ?_
  refine lv_aload_n hx hb dX5_isHall_3 rfl (lv_at hl 0 rfl) ?_
  refine m_get hx hb hown hts hT hW 1 (by decide) (hts _ q2130) rfl (v := .ref (mp_a w 1)) rfl dX5_isHall_4 ?_
  refine lv_iconst (v := (0 : Int32)) hx hb dX5_isHall_7 (by decide) ?_
  refine m_iald hx hb hT hW (k := 1) (j := 0) (by decide) rfl (by unfold vp_in; decide) dX5_isHall_8 ?_
  refine lv_iconst (v := (1 : Int32)) hx hb dX5_isHall_9 (by decide) ?_
  refine lv_isub hx hb dX5_isHall_10 ?_
  refine lv_i2l (v := ((G 1 0) - (1 : Int32)).toInt64) hx hb dX5_isHall_11 rfl ?_
  refine m_Si (rest := []) hE hT hW (kM_isIn l w _ ((x1).toInt64) (0 : Int64) (((G 1 0) - (1 : Int32)).toInt64) F G hw) gM_isIn dM_isIn ⟨Nat.le_of_ble_eq_true rfl, Nat.le_of_ble_eq_true rfl, Nat.zero_le _, Nat.zero_le _⟩ rfl hl.1 rfl (Nat.le_of_ble_eq_true rfl) dX5_isHall_12 (fun r_1 F9 G9 H locs hw hW => ?_)
  obtain ⟨eF9, eG9, hw⟩ := hw
  rw [eF9, eG9] at hW
  exact hQ _ _ _ _ _ hw.1 ⟨rfl, rfl, hw.2⟩ hW _ _ dX5_isHall_15
theorem gM_isHall : GoodIn lw_all (wsV RX5 298 RX5 yX5_isHall (ws_ yX5_isHall cX5_isHall 2 (some .boolean))) := lw_V q2394 q2396 qs96 q154 q2397
theorem dM_isHall : yX5_isHall.cls = RX5 ∧ yX5_isHall.cls ≠ "java/lang/invoke/MethodHandle" ∧ yX5_isHall.cls ≠ "java/lang/invoke/VarHandle" ∧ (parseMethodDescriptor yX5_isHall.desc).map (fun d => d.parameters.length) = some 1 := by decide +kernel

/-! isStart -/
def wM_isStart (post : Int32 → Prop) (x0 : Int32) (F : MF) (G : MG) : Prop :=
  wM_isIn (fun r_1 => (r_1 = 0 → post (0 : Int32)) ∧ (¬ r_1 = 0 → ((x0 - x0 / (15 : Int32) * (15 : Int32)) = 0 → post (1 : Int32)) ∧ (¬ (x0 - x0 / (15 : Int32) * (15 : Int32)) = 0 → post (0 : Int32)))) ((x0).toInt64) (0 : Int64) (86385 : Int64) F G
set_option maxHeartbeats 4000000 in
theorem kM_isStart (l : Launch) (w : MP) (post : Int32 → Prop) (x0 : Int32) (F : MF) (G : MG) (hw : wM_isStart post x0 F G) : m_Mi l w yX5_isStart cX5_isStart 1 .boolean 1 [.int x0] F G (fun r F1 G1 => F1 = F ∧ G1 = G ∧ post r) := by
  refine m_ofWi (by decide) rfl (Nat.le_of_ble_eq_true rfl) (fun r => r = 0 ∨ r = 1) (fun _ h => m_nb h) ?_
  intro p e s m args below meth c Q ls hA hW hQ
  obtain ⟨hE, hT, hl⟩ := hA
  obtain ⟨hx, hb, hml, hown, hts⟩ := id hE
  have hl : lv_has ls 1 [(0, .int x0)] := hl
  unfold wM_isStart at hw
  refine lv_iload_n hx hb dX5_isStart_0 rfl (lv_at hl 0 rfl) ?_
  refine lv_i2l (v := (x0).toInt64) hx hb dX5_isStart_1 rfl ?_
  refine lv_lconst (v := (0 : Int64)) hx hb dX5_isStart_2 rfl ?_
  refine lv_ldc2 hx hb hown (hts _ q2401) dX5_isStart_3 ?_
  refine m_Si (rest := []) hE hT hW (kM_isIn l w _ ((x0).toInt64) (0 : Int64) (86385 : Int64) F G hw) gM_isIn dM_isIn ⟨Nat.le_of_ble_eq_true rfl, Nat.le_of_ble_eq_true rfl, Nat.zero_le _, Nat.zero_le _⟩ rfl hl.1 rfl (Nat.le_of_ble_eq_true rfl) dX5_isStart_6 (fun r_1 F9 G9 H locs hw hW => ?_)
  obtain ⟨eF9, eG9, hw⟩ := hw
  rw [eF9, eG9] at hW
  refine lv_if_eq (tgt := 23) hx hb dX5_isStart_9 (by decide) (fun q => ?_) (fun q => ?_)
  · have hw := hw.1 q
    refine lv_iconst (v := (0 : Int32)) hx hb dX5_isStart_23 (by decide) ?_
    exact hQ _ _ _ _ _ (by decide) ⟨rfl, rfl, hw⟩ hW _ _ dX5_isStart_24
  · have hw := hw.2 q
    refine lv_iload_n hx hb dX5_isStart_12 rfl (lv_at hl 0 rfl) ?_
    refine lv_bipush (v := (15 : Int32)) hx hb dX5_isStart_13 (by decide) ?_
    refine lv_irem hx hb dX5_isStart_15 (by decide) ?_
    refine lv_if_ne (tgt := 23) hx hb dX5_isStart_16 (by decide) (fun q => ?_) (fun q => ?_)
    · have hw := hw.2 q
      refine lv_iconst (v := (0 : Int32)) hx hb dX5_isStart_23 (by decide) ?_
      exact hQ _ _ _ _ _ (by decide) ⟨rfl, rfl, hw⟩ hW _ _ dX5_isStart_24
    · have hw := hw.1 q
      refine lv_iconst (v := (1 : Int32)) hx hb dX5_isStart_19 (by decide) ?_
      refine lv_goto (tgt := 24) hx hb dX5_isStart_20 (by decide) ?_
      exact hQ _ _ _ _ _ (by decide) ⟨rfl, rfl, hw⟩ hW _ _ dX5_isStart_24
theorem gM_isStart : GoodIn lw_all (va_wsS RX5 301 yX5_isStart (ws_ yX5_isStart cX5_isStart 1 (some .boolean))) := lw_S q2398 q2399 q154 q2400
theorem dM_isStart : yX5_isStart.cls ≠ "java/lang/invoke/MethodHandle" ∧ yX5_isStart.cls ≠ "java/lang/invoke/VarHandle" ∧ (parseMethodDescriptor yX5_isStart.desc).map (fun d => d.parameters.length) = some 1 := by decide +kernel

/-! whyNotSlot -/
def wM_whyNotSlot (post : Int32 → Prop) (x1 : Int32) (x2 : Int32) (F : MF) (G : MG) : Prop :=
  wM_isHall (fun r_1 => (r_1 = 0 → post (1 : Int32)) ∧ (¬ r_1 = 0 → wM_isStart (fun r_2 => (r_2 = 0 → post (2 : Int32)) ∧ (¬ r_2 = 0 → post (0 : Int32))) x2 F G)) x1 F G
set_option maxHeartbeats 4000000 in
theorem kM_whyNotSlot (l : Launch) (w : MP) (post : Int32 → Prop) (x1 : Int32) (x2 : Int32) (F : MF) (G : MG) (hw : wM_whyNotSlot post x1 x2 F G) : m_Mi l w yX5_whyNotSlot cX5_whyNotSlot 3 .int 2 [.ref (mp_h w), .int x1, .int x2] F G (fun r F1 G1 => F1 = F ∧ G1 = G ∧ post r) := by
  refine m_ofWi (by decide) rfl (Nat.le_of_ble_eq_true rfl) (fun _ => True) (fun _ _ => rfl) ?_
  intro p e s m args below meth c Q ls hA hW hQ
  obtain ⟨hE, hT, hl⟩ := hA
  obtain ⟨hx, hb, hml, hown, hts⟩ := id hE
  have hl : lv_has ls 3 [(0, .ref (mp_h w)), (1, .int x1), (2, .int x2)] := hl
  unfold wM_whyNotSlot at hw
  refine lv_aload_n hx hb dX5_whyNotSlot_0 rfl (lv_at hl 0 rfl) ?_
  refine lv_iload_n hx hb dX5_whyNotSlot_1 rfl (lv_at hl 1 rfl) ?_
  refine m_Vi (rest := []) hE hT hW (kM_isHall l w _ x1 F G hw) gM_isHall dM_isHall ⟨Nat.le_of_ble_eq_true rfl, Nat.le_of_ble_eq_true rfl, Nat.zero_le _, Nat.zero_le _⟩ rfl hl.1 rfl (Nat.le_of_ble_eq_true rfl) dX5_whyNotSlot_2 (fun r_1 F9 G9 H locs hw hW => ?_)
  obtain ⟨eF9, eG9, hw⟩ := hw
  rw [eF9, eG9] at hW
  refine lv_if_ne (tgt := 12) hx hb dX5_whyNotSlot_5 (by decide) (fun q => ?_) (fun q => ?_)
  · have hw := hw.2 q
    refine lv_iload_n hx hb dX5_whyNotSlot_12 rfl (lv_at hl 2 rfl) ?_
    refine m_Si (rest := []) hE hT hW (kM_isStart l w _ x2 F G hw) gM_isStart dM_isStart ⟨Nat.le_of_ble_eq_true rfl, Nat.le_of_ble_eq_true rfl, Nat.zero_le _, Nat.zero_le _⟩ rfl hl.1 rfl (Nat.le_of_ble_eq_true rfl) dX5_whyNotSlot_13 (fun r_2 F9 G9 H locs hw hW => ?_)
    obtain ⟨eF9, eG9, hw⟩ := hw
    rw [eF9, eG9] at hW
    refine lv_if_ne (tgt := 23) hx hb dX5_whyNotSlot_16 (by decide) (fun q => ?_) (fun q => ?_)
    · have hw := hw.2 q
      refine lv_iconst (v := (0 : Int32)) hx hb dX5_whyNotSlot_23 (by decide) ?_
      exact hQ _ _ _ _ _ trivial ⟨rfl, rfl, hw⟩ hW _ _ dX5_whyNotSlot_24
    · have hw := hw.1 q
      refine lv_iconst (v := (2 : Int32)) hx hb dX5_whyNotSlot_19 (by decide) ?_
      refine lv_goto (tgt := 24) hx hb dX5_whyNotSlot_20 (by decide) ?_
      exact hQ _ _ _ _ _ trivial ⟨rfl, rfl, hw⟩ hW _ _ dX5_whyNotSlot_24
  · have hw := hw.1 q
    refine lv_iconst (v := (1 : Int32)) hx hb dX5_whyNotSlot_8 (by decide) ?_
    refine lv_goto (tgt := 24) hx hb dX5_whyNotSlot_9 (by decide) ?_
    exact hQ _ _ _ _ _ trivial ⟨rfl, rfl, hw⟩ hW _ _ dX5_whyNotSlot_24
theorem gM_whyNotSlot : GoodIn lw_all (wsV RX5 308 RX5 yX5_whyNotSlot (ws_ yX5_whyNotSlot cX5_whyNotSlot 3 (some .int))) := lw_V q2390 q2392 qs95 q154 q2393
theorem dM_whyNotSlot : yX5_whyNotSlot.cls = RX5 ∧ yX5_whyNotSlot.cls ≠ "java/lang/invoke/MethodHandle" ∧ yX5_whyNotSlot.cls ≠ "java/lang/invoke/VarHandle" ∧ (parseMethodDescriptor yX5_whyNotSlot.desc).map (fun d => d.parameters.length) = some 2 := by decide +kernel

/-! asks -/
def wM_asks_b2 (post : MF → MG → Prop) (r1 : Nat) (K2 : Int32 → Int32 → MF → MG → Prop) (y2 : Int32) (y3 : Int32) (F : MF) (G : MG) : Prop :=
  ((9 : Int32) ≤ y3 → post F G) ∧ (¬ (9 : Int32) ≤ y3 → m_ty r1 = 1 ∧ vp_in (y2 + y3) (m_ln r1) ∧ vp_in y3 9 ∧ ∀ G_1 : MG, G_1 = mu G 7 (y3.toNatClampNeg) (G r1 ((y2 + y3).toNatClampNeg)) → K2 y2 (y3 + (1 : Int32)) F G_1)
def wM_asks_l2 (post : MF → MG → Prop) (r1 : Nat) : Nat → Int32 → Int32 → MF → MG → Prop
  | 0 => fun _ _ _ _ => False
  | n + 1 => wM_asks_b2 post r1 (wM_asks_l2 post r1 n)
def wM_asks (post : MF → MG → Prop) (r1 : Nat) (x2 : Int32) (F : MF) (G : MG) : Prop :=
  ∃ n, wM_asks_l2 post r1 n x2 (0 : Int32) F G
set_option maxHeartbeats 4000000 in
theorem kM_asks (l : Launch) (w : MP) (post : MF → MG → Prop) (r1 : Nat) (x2 : Int32) (F : MF) (G : MG) (hw : wM_asks post r1 x2 F G) : m_Mv l w yX5_asks cX5_asks 4 0 [.ref (mp_h w), .ref (mp_a w r1), .int x2] F G post := by
  refine m_ofWv (by decide) rfl (Nat.le_of_ble_eq_true rfl) ?_
  intro p e s m args below meth c Q ls hA hW hQ
  obtain ⟨hE, hT, hl⟩ := hA
  obtain ⟨hx, hb, hml, hown, hts⟩ := id hE
  have hl : lv_has ls 4 [(0, .ref (mp_h w)), (1, .ref (mp_a w r1)), (2, .int x2)] := hl
  have lp2 : ∀ (n2 : Nat) (y2 : Int32) (y3 : Int32) (F : MF) (G : MG) (H : Heap) (locs : List Loc) (ls : Array Slot), lv_has ls 4 [(0, .ref (mp_h w)), (1, .ref (mp_a w r1)), (2, .int y2), (3, .int y3)] → m_W w s.heap F G H locs → wM_asks_l2 post r1 n2 y2 y3 F G → W p l e (mrm 0) s m args below meth c H locs 0 0 Q (F0 m 2 ls []) := by
    intro n2
    induction n2 with
    | zero => intro y2 y3 F G H locs ls hl hW hw; exact hw.elim
    | succ n2 ih2 =>
      intro y2 y3 F G H locs ls hl hW hw
      have hw : wM_asks_b2 post r1 (wM_asks_l2 post r1 n2) y2 y3 F G := hw
      unfold wM_asks_b2 at hw
      refine lv_iload_n hx hb dX5_asks_2 rfl (lv_at hl 3 rfl) ?_
      refine lv_bipush (v := (9 : Int32)) hx hb dX5_asks_3 (by decide) ?_
      refine lv_icmp_ge (tgt := 25) hx hb dX5_asks_5 (by decide) (fun q => ?_) (fun q => ?_)
      · have hw := hw.1 q
        exact hQ _ _ _ _ hw hW _ _ dX5_asks_25
      · have hw := hw.2 q
        refine lv_aload_n hx hb dX5_asks_8 rfl (lv_at hl 0 rfl) ?_
        refine m_get hx hb hown hts hT hW 7 (by decide) (hts _ q2136) rfl (v := .ref (mp_a w 7)) rfl dX5_asks_9 ?_
        refine lv_iload_n hx hb dX5_asks_12 rfl (lv_at hl 3 rfl) ?_
        refine lv_aload_n hx hb dX5_asks_13 rfl (lv_at hl 1 rfl) ?_
        refine lv_iload_n hx hb dX5_asks_14 rfl (lv_at hl 2 rfl) ?_
        refine lv_iload_n hx hb dX5_asks_15 rfl (lv_at hl 3 rfl) ?_
        refine lv_iadd hx hb dX5_asks_16 ?_
        obtain ⟨hk, hi, hw⟩ := hw
        refine m_iald hx hb hT hW (k := r1) (j := ((y2 + y3).toNatClampNeg)) rfl hk hi dX5_asks_17 ?_
        obtain ⟨hi, hw⟩ := hw
        refine m_iast hx hb hT hW (k := 7) (j := (y3.toNatClampNeg)) rfl rfl hi dX5_asks_18 (fun G_1 H locs eG_1 hW => ?_)
        have hw := hw G_1 eG_1
        refine lv_iinc (v := (y3 + (1 : Int32))) (lv' := [(3, .int (y3 + (1 : Int32))), (0, .ref (mp_h w)), (1, .ref (mp_a w r1)), (2, .int y2)]) hx hb dX5_asks_19 hl (k := 3) rfl rfl (by decide) rfl (fun ls hl => ?_)
        refine lv_goto (tgt := 2) hx hb dX5_asks_22 (by decide) ?_
        exact ih2 y2 (y3 + (1 : Int32)) F G_1 _ _ _ (lv_sub hl [1, 2, 3, 0] rfl) hW hw
  unfold wM_asks at hw
  refine lv_iconst (v := (0 : Int32)) hx hb dX5_asks_0 (by decide) ?_
  refine lv_istore_n (lv' := [(3, .int (0 : Int32)), (0, .ref (mp_h w)), (1, .ref (mp_a w r1)), (2, .int x2)]) hx hb dX5_asks_1 rfl hl (by decide) rfl (fun ls hl => ?_)
  obtain ⟨n_2, hw⟩ := hw
  exact lp2 n_2 x2 (0 : Int32) F G _ _ _ (lv_sub hl [1, 2, 3, 0] rfl) hW hw
theorem gM_asks : GoodIn lw_all (wsV RX5 279 RX5 yX5_asks (ws_ yX5_asks cX5_asks 4 none)) := lw_V q2406 q2408 qs98 q154 q2409
theorem dM_asks : yX5_asks.cls = RX5 ∧ yX5_asks.cls ≠ "java/lang/invoke/MethodHandle" ∧ yX5_asks.cls ≠ "java/lang/invoke/VarHandle" ∧ (parseMethodDescriptor yX5_asks.desc).map (fun d => d.parameters.length) = some 2 := by decide +kernel

/-! isShutIn -/
def wM_isShutIn_b3 (post : Int32 → Prop) (F : MF) (G : MG) (K3 : Int32 → Int32 → Int32 → Int32 → Prop) (y1 : Int32) (y2 : Int32) (y3 : Int32) (y4 : Int32) : Prop :=
  ((G 8 3) ≤ y4 → post (0 : Int32)) ∧ (¬ (G 8 3) ≤ y4 → ∀ x5_1 : Int32, x5_1 = ((1004 : Int32) + ((3 : Int32) * y4)) → vp_in x5_1 1052 ∧ ((G 8 (x5_1.toNatClampNeg)) = y1 → vp_in (x5_1 + (1 : Int32)) 1052 ∧ (y3 ≤ (G 8 ((x5_1 + (1 : Int32)).toNatClampNeg)) → K3 y1 y2 y3 (y4 + (1 : Int32))) ∧ (¬ y3 ≤ (G 8 ((x5_1 + (1 : Int32)).toNatClampNeg)) → vp_in (x5_1 + (2 : Int32)) 1052 ∧ ((G 8 ((x5_1 + (2 : Int32)).toNatClampNeg)) ≤ y2 → K3 y1 y2 y3 (y4 + (1 : Int32))) ∧ (¬ (G 8 ((x5_1 + (2 : Int32)).toNatClampNeg)) ≤ y2 → post (1 : Int32)))) ∧ (¬ (G 8 (x5_1.toNatClampNeg)) = y1 → K3 y1 y2 y3 (y4 + (1 : Int32))))
def wM_isShutIn_l3 (post : Int32 → Prop) (F : MF) (G : MG) : Nat → Int32 → Int32 → Int32 → Int32 → Prop
  | 0 => fun _ _ _ _ => False
  | n + 1 => wM_isShutIn_b3 post F G (wM_isShutIn_l3 post F G n)
def wM_isShutIn (post : Int32 → Prop) (x1 : Int32) (x2 : Int32) (x3 : Int32) (F : MF) (G : MG) : Prop :=
  ∃ n, wM_isShutIn_l3 post F G n x1 x2 x3 (0 : Int32)
set_option maxHeartbeats 4000000 in
theorem kM_isShutIn (l : Launch) (w : MP) (post : Int32 → Prop) (x1 : Int32) (x2 : Int32) (x3 : Int32) (F : MF) (G : MG) (hw : wM_isShutIn post x1 x2 x3 F G) : m_Mi l w yX5_isShutIn cX5_isShutIn 6 .boolean 0 [.ref (mp_h w), .int x1, .int x2, .int x3] F G (fun r F1 G1 => F1 = F ∧ G1 = G ∧ post r) := by
  refine m_ofWi (by decide) rfl (Nat.le_of_ble_eq_true rfl) (fun r => r = 0 ∨ r = 1) (fun _ h => m_nb h) ?_
  intro p e s m args below meth c Q ls hA hW hQ
  obtain ⟨hE, hT, hl⟩ := hA
  obtain ⟨hx, hb, hml, hown, hts⟩ := id hE
  have hl : lv_has ls 6 [(0, .ref (mp_h w)), (1, .int x1), (2, .int x2), (3, .int x3)] := hl
  have lp3 : ∀ (n3 : Nat) (y1 : Int32) (y2 : Int32) (y3 : Int32) (y4 : Int32) (H : Heap) (locs : List Loc) (ls : Array Slot), lv_has ls 6 [(0, .ref (mp_h w)), (1, .int y1), (2, .int y2), (3, .int y3), (4, .int y4)] → m_W w s.heap F G H locs → wM_isShutIn_l3 post F G n3 y1 y2 y3 y4 → W p l e (mrm 0) s m args below meth c H locs 0 0 Q (F0 m 3 ls []) := by
    intro n3
    induction n3 with
    | zero => intro y1 y2 y3 y4 H locs ls hl hW hw; exact hw.elim
    | succ n3 ih3 =>
      intro y1 y2 y3 y4 H locs ls hl hW hw
      have hw : wM_isShutIn_b3 post F G (wM_isShutIn_l3 post F G n3) y1 y2 y3 y4 := hw
      unfold wM_isShutIn_b3 at hw
      refine lv_iload hx hb dX5_isShutIn_3 (lv_at hl 4 rfl) ?_
      refine lv_aload_n hx hb dX5_isShutIn_5 rfl (lv_at hl 0 rfl) ?_
      refine m_get hx hb hown hts hT hW 8 (by decide) (hts _ q2137) rfl (v := .ref (mp_a w 8)) rfl dX5_isShutIn_6 ?_
      refine lv_iconst (v := (3 : Int32)) hx hb dX5_isShutIn_9 (by decide) ?_
      refine m_iald hx hb hT hW (k := 8) (j := 3) (by decide) rfl (by unfold vp_in; decide) dX5_isShutIn_10 ?_
      refine lv_icmp_ge (tgt := 69) hx hb dX5_isShutIn_11 (by decide) (fun q => ?_) (fun q => ?_)
      · have hw := hw.1 q
        refine lv_iconst (v := (0 : Int32)) hx hb dX5_isShutIn_69 (by decide) ?_
        exact hQ _ _ _ _ _ (by decide) ⟨rfl, rfl, hw⟩ hW _ _ dX5_isShutIn_70
      · have hw := hw.2 q
        refine lv_sipush (v := (1004 : Int32)) hx hb dX5_isShutIn_14 (by decide) ?_
        refine lv_iconst (v := (3 : Int32)) hx hb dX5_isShutIn_17 (by decide) ?_
        refine lv_iload hx hb dX5_isShutIn_18 (lv_at hl 4 rfl) ?_
        refine lv_imul hx hb dX5_isShutIn_20 ?_
        refine lv_iadd hx hb dX5_isShutIn_21 ?_
        refine lv_topi (fun x5_1 ex5_1 => ?_)
        have hw := hw x5_1 ex5_1
        refine lv_istore (lv' := [(5, .int x5_1), (0, .ref (mp_h w)), (1, .int y1), (2, .int y2), (3, .int y3), (4, .int y4)]) hx hb dX5_isShutIn_22 hl (by decide) rfl (fun ls hl => ?_)
        refine lv_aload_n hx hb dX5_isShutIn_24 rfl (lv_at hl 1 rfl) ?_
        refine m_get hx hb hown hts hT hW 8 (by decide) (hts _ q2137) rfl (v := .ref (mp_a w 8)) rfl dX5_isShutIn_25 ?_
        refine lv_iload hx hb dX5_isShutIn_28 (lv_at hl 0 rfl) ?_
        obtain ⟨hi, hw⟩ := hw
        refine m_iald hx hb hT hW (k := 8) (j := (x5_1.toNatClampNeg)) rfl rfl hi dX5_isShutIn_30 ?_
        refine lv_iload_n hx hb dX5_isShutIn_31 rfl (lv_at hl 2 rfl) ?_
        refine lv_icmp_ne (tgt := 63) hx hb dX5_isShutIn_32 (by decide) (fun q => ?_) (fun q => ?_)
        · have hw := hw.2 q
          refine lv_iinc (v := (y4 + (1 : Int32))) (lv' := [(4, .int (y4 + (1 : Int32))), (5, .int x5_1), (0, .ref (mp_h w)), (1, .int y1), (2, .int y2), (3, .int y3)]) hx hb dX5_isShutIn_63 hl (k := 5) rfl rfl (by decide) rfl (fun ls hl => ?_)
          refine lv_goto (tgt := 3) hx hb dX5_isShutIn_66 (by decide) ?_
          exact ih3 y1 y2 y3 (y4 + (1 : Int32)) _ _ _ (lv_sub hl [2, 3, 4, 5, 0] rfl) hW hw
        · have hw := hw.1 q
          refine lv_aload_n hx hb dX5_isShutIn_35 rfl (lv_at hl 1 rfl) ?_
          refine m_get hx hb hown hts hT hW 8 (by decide) (hts _ q2137) rfl (v := .ref (mp_a w 8)) rfl dX5_isShutIn_36 ?_
          refine lv_iload hx hb dX5_isShutIn_39 (lv_at hl 0 rfl) ?_
          refine lv_iconst (v := (1 : Int32)) hx hb dX5_isShutIn_41 (by decide) ?_
          refine lv_iadd hx hb dX5_isShutIn_42 ?_
          obtain ⟨hi, hw⟩ := hw
          refine m_iald hx hb hT hW (k := 8) (j := ((x5_1 + (1 : Int32)).toNatClampNeg)) rfl rfl hi dX5_isShutIn_43 ?_
          refine lv_iload_n hx hb dX5_isShutIn_44 rfl (lv_at hl 4 rfl) ?_
          refine lv_icmp_ge (tgt := 63) hx hb dX5_isShutIn_45 (by decide) (fun q => ?_) (fun q => ?_)
          · have hw := hw.1 q
            refine lv_iinc (v := (y4 + (1 : Int32))) (lv' := [(4, .int (y4 + (1 : Int32))), (5, .int x5_1), (0, .ref (mp_h w)), (1, .int y1), (2, .int y2), (3, .int y3)]) hx hb dX5_isShutIn_63 hl (k := 5) rfl rfl (by decide) rfl (fun ls hl => ?_)
            refine lv_goto (tgt := 3) hx hb dX5_isShutIn_66 (by decide) ?_
            exact ih3 y1 y2 y3 (y4 + (1 : Int32)) _ _ _ (lv_sub hl [2, 3, 4, 5, 0] rfl) hW hw
          · have hw := hw.2 q
            refine lv_aload_n hx hb dX5_isShutIn_48 rfl (lv_at hl 1 rfl) ?_
            refine m_get hx hb hown hts hT hW 8 (by decide) (hts _ q2137) rfl (v := .ref (mp_a w 8)) rfl dX5_isShutIn_49 ?_
            refine lv_iload hx hb dX5_isShutIn_52 (lv_at hl 0 rfl) ?_
            refine lv_iconst (v := (2 : Int32)) hx hb dX5_isShutIn_54 (by decide) ?_
            refine lv_iadd hx hb dX5_isShutIn_55 ?_
            obtain ⟨hi, hw⟩ := hw
            refine m_iald hx hb hT hW (k := 8) (j := ((x5_1 + (2 : Int32)).toNatClampNeg)) rfl rfl hi dX5_isShutIn_56 ?_
            refine lv_iload_n hx hb dX5_isShutIn_57 rfl (lv_at hl 3 rfl) ?_
            refine lv_icmp_le (tgt := 63) hx hb dX5_isShutIn_58 (by decide) (fun q => ?_) (fun q => ?_)
            · have hw := hw.1 q
              refine lv_iinc (v := (y4 + (1 : Int32))) (lv' := [(4, .int (y4 + (1 : Int32))), (5, .int x5_1), (0, .ref (mp_h w)), (1, .int y1), (2, .int y2), (3, .int y3)]) hx hb dX5_isShutIn_63 hl (k := 5) rfl rfl (by decide) rfl (fun ls hl => ?_)
              refine lv_goto (tgt := 3) hx hb dX5_isShutIn_66 (by decide) ?_
              exact ih3 y1 y2 y3 (y4 + (1 : Int32)) _ _ _ (lv_sub hl [2, 3, 4, 5, 0] rfl) hW hw
            · have hw := hw.2 q
              refine lv_iconst (v := (1 : Int32)) hx hb dX5_isShutIn_61 (by decide) ?_
              exact hQ _ _ _ _ _ (by decide) ⟨rfl, rfl, hw⟩ hW _ _ dX5_isShutIn_62
  unfold wM_isShutIn at hw
  refine lv_iconst (v := (0 : Int32)) hx hb dX5_isShutIn_0 (by decide) ?_
  refine lv_istore (lv' := [(4, .int (0 : Int32)), (0, .ref (mp_h w)), (1, .int x1), (2, .int x2), (3, .int x3)]) hx hb dX5_isShutIn_1 hl (by decide) rfl (fun ls hl => ?_)
  obtain ⟨n_2, hw⟩ := hw
  exact lp3 n_2 x1 x2 x3 (0 : Int32) _ _ _ (lv_sub hl [1, 2, 3, 4, 0] rfl) hW hw
theorem gM_isShutIn : GoodIn lw_all (wsV RX5 266 RX5 yX5_isShutIn (ws_ yX5_isShutIn cX5_isShutIn 6 (some .boolean))) := lw_V q2414 q2416 qs100 q154 q2417
theorem dM_isShutIn : yX5_isShutIn.cls = RX5 ∧ yX5_isShutIn.cls ≠ "java/lang/invoke/MethodHandle" ∧ yX5_isShutIn.cls ≠ "java/lang/invoke/VarHandle" ∧ (parseMethodDescriptor yX5_isShutIn.desc).map (fun d => d.parameters.length) = some 3 := by decide +kernel

/-! isWeeklyIn -/
def wM_isWeeklyIn_j42 (post : Int32 → Prop) (K9 : Int32 → Int32 → Int32 → Int32 → Prop) (F : MF) (G : MG) (y1 : Int32) (y2 : Int32) (y3 : Int32) (y4 : Int32) (z0 : Int32) : Prop :=
  (z0 = 0 → K9 y1 y2 y3 (y4 + (1 : Int32))) ∧ (¬ z0 = 0 → vp_in ((94 : Int32) + y4) 166 ∧ (y2 ≤ (((1440 : Int32) * y3) + (G 1 (((94 : Int32) + y4).toNatClampNeg))) → K9 y1 y2 y3 (y4 + (1 : Int32))) ∧ (¬ y2 ≤ (((1440 : Int32) * y3) + (G 1 (((94 : Int32) + y4).toNatClampNeg))) → vp_in ((102 : Int32) + y4) 166 ∧ ((((1440 : Int32) * y3) + (G 1 (((102 : Int32) + y4).toNatClampNeg))) ≤ y1 → K9 y1 y2 y3 (y4 + (1 : Int32))) ∧ (¬ (((1440 : Int32) * y3) + (G 1 (((102 : Int32) + y4).toNatClampNeg))) ≤ y1 → post (1 : Int32))))
def wM_isWeeklyIn_b9 (post : Int32 → Prop) (F : MF) (G : MG) (K9 : Int32 → Int32 → Int32 → Int32 → Prop) (y1 : Int32) (y2 : Int32) (y3 : Int32) (y4 : Int32) : Prop :=
  ((G 1 3) ≤ y4 → post (0 : Int32)) ∧ (¬ (G 1 3) ≤ y4 → vp_in ((86 : Int32) + y4) 166 ∧ ((G 1 (((86 : Int32) + y4).toNatClampNeg)) = (y3 - y3 / (7 : Int32) * (7 : Int32)) → wM_isWeeklyIn_j42 post K9 F G y1 y2 y3 y4 (1 : Int32)) ∧ (¬ (G 1 (((86 : Int32) + y4).toNatClampNeg)) = (y3 - y3 / (7 : Int32) * (7 : Int32)) → wM_isWeeklyIn_j42 post K9 F G y1 y2 y3 y4 (0 : Int32)))
def wM_isWeeklyIn_l9 (post : Int32 → Prop) (F : MF) (G : MG) : Nat → Int32 → Int32 → Int32 → Int32 → Prop
  | 0 => fun _ _ _ _ => False
  | n + 1 => wM_isWeeklyIn_b9 post F G (wM_isWeeklyIn_l9 post F G n)
def wM_isWeeklyIn (post : Int32 → Prop) (x1 : Int32) (x2 : Int32) (F : MF) (G : MG) : Prop :=
  ∀ x3_1 : Int32, x3_1 = (x1 / (1440 : Int32)) → ∃ n, wM_isWeeklyIn_l9 post F G n x1 x2 x3_1 (0 : Int32)
set_option maxHeartbeats 4000000 in
theorem kM_isWeeklyIn (l : Launch) (w : MP) (post : Int32 → Prop) (x1 : Int32) (x2 : Int32) (F : MF) (G : MG) (hw : wM_isWeeklyIn post x1 x2 F G) : m_Mi l w yX5_isWeeklyIn cX5_isWeeklyIn 6 .boolean 0 [.ref (mp_h w), .int x1, .int x2] F G (fun r F1 G1 => F1 = F ∧ G1 = G ∧ post r) := by
  refine m_ofWi (by decide) rfl (Nat.le_of_ble_eq_true rfl) (fun r => r = 0 ∨ r = 1) (fun _ h => m_nb h) ?_
  intro p e s m args below meth c Q ls hA hW hQ
  obtain ⟨hE, hT, hl⟩ := hA
  obtain ⟨hx, hb, hml, hown, hts⟩ := id hE
  have hl : lv_has ls 6 [(0, .ref (mp_h w)), (1, .int x1), (2, .int x2)] := hl
  have lp9 : ∀ (n9 : Nat) (y1 : Int32) (y2 : Int32) (y3 : Int32) (y4 : Int32) (H : Heap) (locs : List Loc) (ls : Array Slot), lv_has ls 6 [(0, .ref (mp_h w)), (1, .int y1), (2, .int y2), (3, .int y3), (4, .int y4)] → m_W w s.heap F G H locs → wM_isWeeklyIn_l9 post F G n9 y1 y2 y3 y4 → W p l e (mrm 0) s m args below meth c H locs 0 0 Q (F0 m 9 ls []) := by
    intro n9
    induction n9 with
    | zero => intro y1 y2 y3 y4 H locs ls hl hW hw; exact hw.elim
    | succ n9 ih9 =>
      have jn42 : ∀ (y1 : Int32) (y2 : Int32) (y3 : Int32) (y4 : Int32) (z0 : Int32) (H : Heap) (locs : List Loc) (ls : Array Slot), lv_has ls 6 [(0, .ref (mp_h w)), (1, .int y1), (2, .int y2), (3, .int y3), (4, .int y4)] → m_W w s.heap F G H locs → wM_isWeeklyIn_j42 post (wM_isWeeklyIn_l9 post F G n9) F G y1 y2 y3 y4 z0 → W p l e (mrm 0) s m args below meth c H locs 0 0 Q (F0 m 42 ls [.int z0]) := by
        intro y1 y2 y3 y4 z0 H locs ls hl hW hw
        unfold wM_isWeeklyIn_j42 at hw
        refine lv_istore (lv' := [(5, .int z0), (0, .ref (mp_h w)), (1, .int y1), (2, .int y2), (3, .int y3), (4, .int y4)]) hx hb dX5_isWeeklyIn_42 hl (by decide) rfl (fun ls hl => ?_)
        refine lv_iload hx hb dX5_isWeeklyIn_44 (lv_at hl 0 rfl) ?_
        refine lv_if_eq (tgt := 91) hx hb dX5_isWeeklyIn_46 (by decide) (fun q => ?_) (fun q => ?_)
        · have hw := hw.1 q
          refine lv_iinc (v := (y4 + (1 : Int32))) (lv' := [(4, .int (y4 + (1 : Int32))), (5, .int z0), (0, .ref (mp_h w)), (1, .int y1), (2, .int y2), (3, .int y3)]) hx hb dX5_isWeeklyIn_91 hl (k := 5) rfl rfl (by decide) rfl (fun ls hl => ?_)
          refine lv_goto (tgt := 9) hx hb dX5_isWeeklyIn_94 (by decide) ?_
          exact ih9 y1 y2 y3 (y4 + (1 : Int32)) _ _ _ (lv_sub hl [2, 3, 4, 5, 0] rfl) hW hw
        · have hw := hw.2 q
          refine lv_sipush (v := (1440 : Int32)) hx hb dX5_isWeeklyIn_49 (by decide) ?_
          refine lv_iload_n hx hb dX5_isWeeklyIn_52 rfl (lv_at hl 4 rfl) ?_
          refine lv_imul hx hb dX5_isWeeklyIn_53 ?_
          refine lv_aload_n hx hb dX5_isWeeklyIn_54 rfl (lv_at hl 1 rfl) ?_
          refine m_get hx hb hown hts hT hW 1 (by decide) (hts _ q2130) rfl (v := .ref (mp_a w 1)) rfl dX5_isWeeklyIn_55 ?_
          refine lv_bipush (v := (94 : Int32)) hx hb dX5_isWeeklyIn_58 (by decide) ?_
          refine lv_iload hx hb dX5_isWeeklyIn_60 (lv_at hl 5 rfl) ?_
          refine lv_iadd hx hb dX5_isWeeklyIn_62 ?_
          obtain ⟨hi, hw⟩ := hw
          refine m_iald hx hb hT hW (k := 1) (j := (((94 : Int32) + y4).toNatClampNeg)) rfl rfl hi dX5_isWeeklyIn_63 ?_
          refine lv_iadd hx hb dX5_isWeeklyIn_64 ?_
          refine lv_iload_n hx hb dX5_isWeeklyIn_65 rfl (lv_at hl 3 rfl) ?_
          refine lv_icmp_ge (tgt := 91) hx hb dX5_isWeeklyIn_66 (by decide) (fun q => ?_) (fun q => ?_)
          · have hw := hw.1 q
            refine lv_iinc (v := (y4 + (1 : Int32))) (lv' := [(4, .int (y4 + (1 : Int32))), (5, .int z0), (0, .ref (mp_h w)), (1, .int y1), (2, .int y2), (3, .int y3)]) hx hb dX5_isWeeklyIn_91 hl (k := 5) rfl rfl (by decide) rfl (fun ls hl => ?_)
            refine lv_goto (tgt := 9) hx hb dX5_isWeeklyIn_94 (by decide) ?_
            exact ih9 y1 y2 y3 (y4 + (1 : Int32)) _ _ _ (lv_sub hl [2, 3, 4, 5, 0] rfl) hW hw
          · have hw := hw.2 q
            refine lv_sipush (v := (1440 : Int32)) hx hb dX5_isWeeklyIn_69 (by decide) ?_
            refine lv_iload_n hx hb dX5_isWeeklyIn_72 rfl (lv_at hl 4 rfl) ?_
            refine lv_imul hx hb dX5_isWeeklyIn_73 ?_
            refine lv_aload_n hx hb dX5_isWeeklyIn_74 rfl (lv_at hl 1 rfl) ?_
            refine m_get hx hb hown hts hT hW 1 (by decide) (hts _ q2130) rfl (v := .ref (mp_a w 1)) rfl dX5_isWeeklyIn_75 ?_
            refine lv_bipush (v := (102 : Int32)) hx hb dX5_isWeeklyIn_78 (by decide) ?_
            refine lv_iload hx hb dX5_isWeeklyIn_80 (lv_at hl 5 rfl) ?_
            refine lv_iadd hx hb dX5_isWeeklyIn_82 ?_
            obtain ⟨hi, hw⟩ := hw
            refine m_iald hx hb hT hW (k := 1) (j := (((102 : Int32) + y4).toNatClampNeg)) rfl rfl hi dX5_isWeeklyIn_83 ?_
            refine lv_iadd hx hb dX5_isWeeklyIn_84 ?_
            refine lv_iload_n hx hb dX5_isWeeklyIn_85 rfl (lv_at hl 2 rfl) ?_
            refine lv_icmp_le (tgt := 91) hx hb dX5_isWeeklyIn_86 (by decide) (fun q => ?_) (fun q => ?_)
            · have hw := hw.1 q
              refine lv_iinc (v := (y4 + (1 : Int32))) (lv' := [(4, .int (y4 + (1 : Int32))), (5, .int z0), (0, .ref (mp_h w)), (1, .int y1), (2, .int y2), (3, .int y3)]) hx hb dX5_isWeeklyIn_91 hl (k := 5) rfl rfl (by decide) rfl (fun ls hl => ?_)
              refine lv_goto (tgt := 9) hx hb dX5_isWeeklyIn_94 (by decide) ?_
              exact ih9 y1 y2 y3 (y4 + (1 : Int32)) _ _ _ (lv_sub hl [2, 3, 4, 5, 0] rfl) hW hw
            · have hw := hw.2 q
              refine lv_iconst (v := (1 : Int32)) hx hb dX5_isWeeklyIn_89 (by decide) ?_
              exact hQ _ _ _ _ _ (by decide) ⟨rfl, rfl, hw⟩ hW _ _ dX5_isWeeklyIn_90
      intro y1 y2 y3 y4 H locs ls hl hW hw
      have hw : wM_isWeeklyIn_b9 post F G (wM_isWeeklyIn_l9 post F G n9) y1 y2 y3 y4 := hw
      unfold wM_isWeeklyIn_b9 at hw
      refine lv_iload hx hb dX5_isWeeklyIn_9 (lv_at hl 4 rfl) ?_
      refine lv_aload_n hx hb dX5_isWeeklyIn_11 rfl (lv_at hl 0 rfl) ?_
      refine m_get hx hb hown hts hT hW 1 (by decide) (hts _ q2130) rfl (v := .ref (mp_a w 1)) rfl dX5_isWeeklyIn_12 ?_
      refine lv_iconst (v := (3 : Int32)) hx hb dX5_isWeeklyIn_15 (by decide) ?_
      refine m_iald hx hb hT hW (k := 1) (j := 3) (by decide) rfl (by unfold vp_in; decide) dX5_isWeeklyIn_16 ?_
      refine lv_icmp_ge (tgt := 97) hx hb dX5_isWeeklyIn_17 (by decide) (fun q => ?_) (fun q => ?_)
      · have hw := hw.1 q
        refine lv_iconst (v := (0 : Int32)) hx hb dX5_isWeeklyIn_97 (by decide) ?_
        exact hQ _ _ _ _ _ (by decide) ⟨rfl, rfl, hw⟩ hW _ _ dX5_isWeeklyIn_98
      · have hw := hw.2 q
        refine lv_aload_n hx hb dX5_isWeeklyIn_20 rfl (lv_at hl 0 rfl) ?_
        refine m_get hx hb hown hts hT hW 1 (by decide) (hts _ q2130) rfl (v := .ref (mp_a w 1)) rfl dX5_isWeeklyIn_21 ?_
        refine lv_bipush (v := (86 : Int32)) hx hb dX5_isWeeklyIn_24 (by decide) ?_
        refine lv_iload hx hb dX5_isWeeklyIn_26 (lv_at hl 4 rfl) ?_
        refine lv_iadd hx hb dX5_isWeeklyIn_28 ?_
        obtain ⟨hi, hw⟩ := hw
        refine m_iald hx hb hT hW (k := 1) (j := (((86 : Int32) + y4).toNatClampNeg)) rfl rfl hi dX5_isWeeklyIn_29 ?_
        refine lv_iload_n hx hb dX5_isWeeklyIn_30 rfl (lv_at hl 3 rfl) ?_
        refine lv_bipush (v := (7 : Int32)) hx hb dX5_isWeeklyIn_31 (by decide) ?_
        refine lv_irem hx hb dX5_isWeeklyIn_33 (by decide) ?_
        refine lv_icmp_ne (tgt := 41) hx hb dX5_isWeeklyIn_34 (by decide) (fun q => ?_) (fun q => ?_)
        · have hw := hw.2 q
          refine lv_iconst (v := (0 : Int32)) hx hb dX5_isWeeklyIn_41 (by decide) ?_
          exact jn42 y1 y2 y3 y4 (0 : Int32) _ _ _ hl hW hw
        · have hw := hw.1 q
          refine lv_iconst (v := (1 : Int32)) hx hb dX5_isWeeklyIn_37 (by decide) ?_
          refine lv_goto (tgt := 42) hx hb dX5_isWeeklyIn_38 (by decide) ?_
          exact jn42 y1 y2 y3 y4 (1 : Int32) _ _ _ hl hW hw
  unfold wM_isWeeklyIn at hw
  refine lv_iload_n hx hb dX5_isWeeklyIn_0 rfl (lv_at hl 1 rfl) ?_
  refine lv_sipush (v := (1440 : Int32)) hx hb dX5_isWeeklyIn_1 (by decide) ?_
  refine lv_idiv hx hb dX5_isWeeklyIn_4 (by decide) ?_
  refine lv_topi (fun x3_1 ex3_1 => ?_)
  have hw := hw x3_1 ex3_1
  refine lv_istore_n (lv' := [(3, .int x3_1), (0, .ref (mp_h w)), (1, .int x1), (2, .int x2)]) hx hb dX5_isWeeklyIn_5 rfl hl (by decide) rfl (fun ls hl => ?_)
  refine lv_iconst (v := (0 : Int32)) hx hb dX5_isWeeklyIn_6 (by decide) ?_
  refine lv_istore (lv' := [(4, .int (0 : Int32)), (3, .int x3_1), (0, .ref (mp_h w)), (1, .int x1), (2, .int x2)]) hx hb dX5_isWeeklyIn_7 hl (by decide) rfl (fun ls hl => ?_)
  obtain ⟨n_2, hw⟩ := hw
  exact lp9 n_2 x1 x2 x3_1 (0 : Int32) _ _ _ (lv_sub hl [2, 3, 4, 1, 0] rfl) hW hw
theorem gM_isWeeklyIn : GoodIn lw_all (wsV RX5 269 RX5 yX5_isWeeklyIn (ws_ yX5_isWeeklyIn cX5_isWeeklyIn 6 (some .boolean))) := lw_V q2418 q2420 qs101 q154 q2421
theorem dM_isWeeklyIn : yX5_isWeeklyIn.cls = RX5 ∧ yX5_isWeeklyIn.cls ≠ "java/lang/invoke/MethodHandle" ∧ yX5_isWeeklyIn.cls ≠ "java/lang/invoke/VarHandle" ∧ (parseMethodDescriptor yX5_isWeeklyIn.desc).map (fun d => d.parameters.length) = some 2 := by decide +kernel

/-! rowOf -/
def wM_rowOf (post : Int32 → Prop) (x0 : Int32) (F : MF) (G : MG) : Prop :=
  post ((4 : Int32) + ((13 : Int32) * x0))
set_option maxHeartbeats 4000000 in
theorem kM_rowOf (l : Launch) (w : MP) (post : Int32 → Prop) (x0 : Int32) (F : MF) (G : MG) (hw : wM_rowOf post x0 F G) : m_Mi l w yX5_rowOf cX5_rowOf 1 .int 0 [.int x0] F G (fun r F1 G1 => F1 = F ∧ G1 = G ∧ post r) := by
  refine m_ofWi (by decide) rfl (Nat.le_of_ble_eq_true rfl) (fun _ => True) (fun _ _ => rfl) ?_
  intro p e s m args below meth c Q ls hA hW hQ
  obtain ⟨hE, hT, hl⟩ := hA
  obtain ⟨hx, hb, hml, hown, hts⟩ := id hE
  have hl : lv_has ls 1 [(0, .int x0)] := hl
  unfold wM_rowOf at hw
  refine lv_iconst (v := (4 : Int32)) hx hb dX5_rowOf_0 (by decide) ?_
  refine lv_bipush (v := (13 : Int32)) hx hb dX5_rowOf_1 (by decide) ?_
  refine lv_iload_n hx hb dX5_rowOf_3 rfl (lv_at hl 0 rfl) ?_
  refine lv_imul hx hb dX5_rowOf_4 ?_
  refine lv_iadd hx hb dX5_rowOf_5 ?_
  exact hQ _ _ _ _ _ trivial ⟨rfl, rfl, hw⟩ hW _ _ dX5_rowOf_6
theorem gM_rowOf : GoodIn lw_all (va_wsS RX5 225 yX5_rowOf (ws_ yX5_rowOf cX5_rowOf 1 (some .int))) := lw_S q2442 q2443 q154 q2444
theorem dM_rowOf : yX5_rowOf.cls ≠ "java/lang/invoke/MethodHandle" ∧ yX5_rowOf.cls ≠ "java/lang/invoke/VarHandle" ∧ (parseMethodDescriptor yX5_rowOf.desc).map (fun d => d.parameters.length) = some 1 := by decide +kernel

/-! of -/
def wM_of (post : Int32 → Prop) (x1 : Int32) (x2 : Int32) (F : MF) (G : MG) : Prop :=
  wM_rowOf (fun r_1 => vp_in (r_1 + x2) 1052 ∧ post (G 8 ((r_1 + x2).toNatClampNeg))) x1 F G
set_option maxHeartbeats 4000000 in
theorem kM_of (l : Launch) (w : MP) (post : Int32 → Prop) (x1 : Int32) (x2 : Int32) (F : MF) (G : MG) (hw : wM_of post x1 x2 F G) : m_Mi l w yX5_of cX5_of 3 .int 1 [.ref (mp_h w), .int x1, .int x2] F G (fun r F1 G1 => F1 = F ∧ G1 = G ∧ post r) := by
  refine m_ofWi (by decide) rfl (Nat.le_of_ble_eq_true rfl) (fun _ => True) (fun _ _ => rfl) ?_
  intro p e s m args below meth c Q ls hA hW hQ
  obtain ⟨hE, hT, hl⟩ := hA
  obtain ⟨hx, hb, hml, hown, hts⟩ := id hE
  have hl : lv_has ls 3 [(0, .ref (mp_h w)), (1, .int x1), (2, .int x2)] := hl
  unfold wM_of at hw
  refine lv_aload_n hx hb dX5_of_0 rfl (lv_at hl 0 rfl) ?_
  refine m_get hx hb hown hts hT hW 8 (by decide) (hts _ q2137) rfl (v := .ref (mp_a w 8)) rfl dX5_of_1 ?_
  refine lv_iload_n hx hb dX5_of_4 rfl (lv_at hl 1 rfl) ?_
  refine m_Si (rest := [.ref (mp_a w 8)]) hE hT hW (kM_rowOf l w _ x1 F G hw) gM_rowOf dM_rowOf ⟨Nat.le_of_ble_eq_true rfl, Nat.le_of_ble_eq_true rfl, Nat.zero_le _, Nat.zero_le _⟩ rfl hl.1 rfl (Nat.le_of_ble_eq_true rfl) dX5_of_5 (fun r_1 F9 G9 H locs hw hW => ?_)
  obtain ⟨eF9, eG9, hw⟩ := hw
  rw [eF9, eG9] at hW
  refine lv_iload_n hx hb dX5_of_8 rfl (lv_at hl 2 rfl) ?_
  refine lv_iadd hx hb dX5_of_9 ?_
  obtain ⟨hi, hw⟩ := hw
  refine m_iald hx hb hT hW (k := 8) (j := ((r_1 + x2).toNatClampNeg)) rfl rfl hi dX5_of_10 ?_
  exact hQ _ _ _ _ _ trivial ⟨rfl, rfl, hw⟩ hW _ _ dX5_of_11
theorem gM_of : GoodIn lw_all (wsV RX5 228 RX5 yX5_of (ws_ yX5_of cX5_of 3 (some .int))) := lw_V q2438 q2440 qs106 q154 q2441
theorem dM_of : yX5_of.cls = RX5 ∧ yX5_of.cls ≠ "java/lang/invoke/MethodHandle" ∧ yX5_of.cls ≠ "java/lang/invoke/VarHandle" ∧ (parseMethodDescriptor yX5_of.desc).map (fun d => d.parameters.length) = some 2 := by decide +kernel

/-! isActive -/
def wM_isActive (post : Int32 → Prop) (x1 : Int32) (F : MF) (G : MG) : Prop :=
  wM_of (fun r_1 => (r_1 = (1 : Int32) → post (1 : Int32)) ∧ (¬ r_1 = (1 : Int32) → post (0 : Int32))) x1 (11 : Int32) F G
set_option maxHeartbeats 4000000 in
theorem kM_isActive (l : Launch) (w : MP) (post : Int32 → Prop) (x1 : Int32) (F : MF) (G : MG) (hw : wM_isActive post x1 F G) : m_Mi l w yX5_isActive cX5_isActive 2 .boolean 2 [.ref (mp_h w), .int x1] F G (fun r F1 G1 => F1 = F ∧ G1 = G ∧ post r) := by
  refine m_ofWi (by decide) rfl (Nat.le_of_ble_eq_true rfl) (fun r => r = 0 ∨ r = 1) (fun _ h => m_nb h) ?_
  intro p e s m args below meth c Q ls hA hW hQ
  obtain ⟨hE, hT, hl⟩ := hA
  obtain ⟨hx, hb, hml, hown, hts⟩ := id hE
  have hl : lv_has ls 2 [(0, .ref (mp_h w)), (1, .int x1)] := hl
  unfold wM_isActive at hw
  refine lv_aload_n hx hb dX5_isActive_0 rfl (lv_at hl 0 rfl) ?_
  refine lv_iload_n hx hb dX5_isActive_1 rfl (lv_at hl 1 rfl) ?_
  refine lv_bipush (v := (11 : Int32)) hx hb dX5_isActive_2 (by decide) ?_
  refine m_Vi (rest := []) hE hT hW (kM_of l w _ x1 (11 : Int32) F G hw) gM_of dM_of ⟨Nat.le_of_ble_eq_true rfl, Nat.le_of_ble_eq_true rfl, Nat.zero_le _, Nat.zero_le _⟩ rfl hl.1 rfl (Nat.le_of_ble_eq_true rfl) dX5_isActive_4 (fun r_1 F9 G9 H locs hw hW => ?_)
  obtain ⟨eF9, eG9, hw⟩ := hw
  rw [eF9, eG9] at hW
  refine lv_iconst (v := (1 : Int32)) hx hb dX5_isActive_7 (by decide) ?_
  refine lv_icmp_ne (tgt := 15) hx hb dX5_isActive_8 (by decide) (fun q => ?_) (fun q => ?_)
  · have hw := hw.2 q
    refine lv_iconst (v := (0 : Int32)) hx hb dX5_isActive_15 (by decide) ?_
    exact hQ _ _ _ _ _ (by decide) ⟨rfl, rfl, hw⟩ hW _ _ dX5_isActive_16
  · have hw := hw.1 q
    refine lv_iconst (v := (1 : Int32)) hx hb dX5_isActive_11 (by decide) ?_
    refine lv_goto (tgt := 16) hx hb dX5_isActive_12 (by decide) ?_
    exact hQ _ _ _ _ _ (by decide) ⟨rfl, rfl, hw⟩ hW _ _ dX5_isActive_16
theorem gM_isActive : GoodIn lw_all (wsV RX5 236 RX5 yX5_isActive (ws_ yX5_isActive cX5_isActive 2 (some .boolean))) := lw_V q2434 q2436 qs105 q154 q2437
theorem dM_isActive : yX5_isActive.cls = RX5 ∧ yX5_isActive.cls ≠ "java/lang/invoke/MethodHandle" ∧ yX5_isActive.cls ≠ "java/lang/invoke/VarHandle" ∧ (parseMethodDescriptor yX5_isActive.desc).map (fun d => d.parameters.length) = some 1 := by decide +kernel

/-! counts -/
def wM_counts (post : Int32 → Prop) (x1 : Int32) (F : MF) (G : MG) : Prop :=
  wM_isActive (fun r_1 => (r_1 = 0 → post (0 : Int32)) ∧ (¬ r_1 = 0 → vp_in x1 60 ∧ ((G 19 (x1.toNatClampNeg)) = 0 → post (1 : Int32)) ∧ (¬ (G 19 (x1.toNatClampNeg)) = 0 → post (0 : Int32)))) x1 F G
set_option maxHeartbeats 4000000 in
theorem kM_counts (l : Launch) (w : MP) (post : Int32 → Prop) (x1 : Int32) (F : MF) (G : MG) (hw : wM_counts post x1 F G) : m_Mi l w yX5_counts cX5_counts 2 .boolean 3 [.ref (mp_h w), .int x1] F G (fun r F1 G1 => F1 = F ∧ G1 = G ∧ post r) := by
  refine m_ofWi (by decide) rfl (Nat.le_of_ble_eq_true rfl) (fun r => r = 0 ∨ r = 1) (fun _ h => m_nb h) ?_
  intro p e s m args below meth c Q ls hA hW hQ
  obtain ⟨hE, hT, hl⟩ := hA
  obtain ⟨hx, hb, hml, hown, hts⟩ := id hE
  have hl : lv_has ls 2 [(0, .ref (mp_h w)), (1, .int x1)] := hl
  unfold wM_counts at hw
  refine lv_aload_n hx hb dX5_counts_0 rfl (lv_at hl 0 rfl) ?_
  refine lv_iload_n hx hb dX5_counts_1 rfl (lv_at hl 1 rfl) ?_
  refine m_Vi (rest := []) hE hT hW (kM_isActive l w _ x1 F G hw) gM_isActive dM_isActive ⟨Nat.le_of_ble_eq_true rfl, Nat.le_of_ble_eq_true rfl, Nat.zero_le _, Nat.zero_le _⟩ rfl hl.1 rfl (Nat.le_of_ble_eq_true rfl) dX5_counts_2 (fun r_1 F9 G9 H locs hw hW => ?_)
  obtain ⟨eF9, eG9, hw⟩ := hw
  rw [eF9, eG9] at hW
  refine lv_if_eq (tgt := 21) hx hb dX5_counts_5 (by decide) (fun q => ?_) (fun q => ?_)
  · have hw := hw.1 q
    refine lv_iconst (v := (0 : Int32)) hx hb dX5_counts_21 (by decide) ?_
    exact hQ _ _ _ _ _ (by decide) ⟨rfl, rfl, hw⟩ hW _ _ dX5_counts_22
  · have hw := hw.2 q
    refine lv_aload_n hx hb dX5_counts_8 rfl (lv_at hl 0 rfl) ?_
    refine m_get hx hb hown hts hT hW 19 (by decide) (hts _ q2148) rfl (v := .ref (mp_a w 19)) rfl dX5_counts_9 ?_
    refine lv_iload_n hx hb dX5_counts_12 rfl (lv_at hl 1 rfl) ?_
    obtain ⟨hi, hw⟩ := hw
    refine m_zald hx hb hT hW (k := 19) (j := (x1.toNatClampNeg)) rfl rfl hi dX5_counts_13 ?_
    refine lv_if_ne (tgt := 21) hx hb dX5_counts_14 (by decide) (fun q => ?_) (fun q => ?_)
    · have hw := hw.2 q
      refine lv_iconst (v := (0 : Int32)) hx hb dX5_counts_21 (by decide) ?_
      exact hQ _ _ _ _ _ (by decide) ⟨rfl, rfl, hw⟩ hW _ _ dX5_counts_22
    · have hw := hw.1 q
      refine lv_iconst (v := (1 : Int32)) hx hb dX5_counts_17 (by decide) ?_
      refine lv_goto (tgt := 22) hx hb dX5_counts_18 (by decide) ?_
      exact hQ _ _ _ _ _ (by decide) ⟨rfl, rfl, hw⟩ hW _ _ dX5_counts_22
theorem gM_counts : GoodIn lw_all (wsV RX5 239 RX5 yX5_counts (ws_ yX5_counts cX5_counts 2 (some .boolean))) := lw_V q2430 q2432 qs104 q154 q2433
theorem dM_counts : yX5_counts.cls = RX5 ∧ yX5_counts.cls ≠ "java/lang/invoke/MethodHandle" ∧ yX5_counts.cls ≠ "java/lang/invoke/VarHandle" ∧ (parseMethodDescriptor yX5_counts.desc).map (fun d => d.parameters.length) = some 1 := by decide +kernel

/-! endOf -/
def wM_endOf (post : Int32 → Prop) (x1 : Int32) (F : MF) (G : MG) : Prop :=
  wM_of (fun r_1 => wM_of (fun r_2 => post (r_1 + r_2)) x1 (2 : Int32) F G) x1 (10 : Int32) F G
set_option maxHeartbeats 4000000 in
theorem kM_endOf (l : Launch) (w : MP) (post : Int32 → Prop) (x1 : Int32) (F : MF) (G : MG) (hw : wM_endOf post x1 F G) : m_Mi l w yX5_endOf cX5_endOf 2 .int 2 [.ref (mp_h w), .int x1] F G (fun r F1 G1 => F1 = F ∧ G1 = G ∧ post r) := by
  refine m_ofWi (by decide) rfl (Nat.le_of_ble_eq_true rfl) (fun _ => True) (fun _ _ => rfl) ?_
  intro p e s m args below meth c Q ls hA hW hQ
  obtain ⟨hE, hT, hl⟩ := hA
  obtain ⟨hx, hb, hml, hown, hts⟩ := id hE
  have hl : lv_has ls 2 [(0, .ref (mp_h w)), (1, .int x1)] := hl
  unfold wM_endOf at hw
  refine lv_aload_n hx hb dX5_endOf_0 rfl (lv_at hl 0 rfl) ?_
  refine lv_iload_n hx hb dX5_endOf_1 rfl (lv_at hl 1 rfl) ?_
  refine lv_bipush (v := (10 : Int32)) hx hb dX5_endOf_2 (by decide) ?_
  refine m_Vi (rest := []) hE hT hW (kM_of l w _ x1 (10 : Int32) F G hw) gM_of dM_of ⟨Nat.le_of_ble_eq_true rfl, Nat.le_of_ble_eq_true rfl, Nat.zero_le _, Nat.zero_le _⟩ rfl hl.1 rfl (Nat.le_of_ble_eq_true rfl) dX5_endOf_4 (fun r_1 F9 G9 H locs hw hW => ?_)
  obtain ⟨eF9, eG9, hw⟩ := hw
  rw [eF9, eG9] at hW
  refine lv_aload_n hx hb dX5_endOf_7 rfl (lv_at hl 0 rfl) ?_
  refine lv_iload_n hx hb dX5_endOf_8 rfl (lv_at hl 1 rfl) ?_
  refine lv_iconst (v := (2 : Int32)) hx hb dX5_endOf_9 (by decide) ?_
  refine m_Vi (rest := [.int r_1]) hE hT hW (kM_of l w _ x1 (2 : Int32) F G hw) gM_of dM_of ⟨Nat.le_of_ble_eq_true rfl, Nat.le_of_ble_eq_true rfl, Nat.zero_le _, Nat.zero_le _⟩ rfl hl.1 rfl (Nat.le_of_ble_eq_true rfl) dX5_endOf_10 (fun r_2 F9 G9 H locs hw hW => ?_)
  obtain ⟨eF9, eG9, hw⟩ := hw
  rw [eF9, eG9] at hW
  refine lv_iadd hx hb dX5_endOf_13 ?_
  exact hQ _ _ _ _ _ trivial ⟨rfl, rfl, hw⟩ hW _ _ dX5_endOf_14
theorem gM_endOf : GoodIn lw_all (wsV RX5 242 RX5 yX5_endOf (ws_ yX5_endOf cX5_endOf 2 (some .int))) := lw_V q2445 q2447 qs107 q154 q2448
theorem dM_endOf : yX5_endOf.cls = RX5 ∧ yX5_endOf.cls ≠ "java/lang/invoke/MethodHandle" ∧ yX5_endOf.cls ≠ "java/lang/invoke/VarHandle" ∧ (parseMethodDescriptor yX5_endOf.desc).map (fun d => d.parameters.length) = some 1 := by decide +kernel

/-! between -/
def wM_between (post : Int32 → Prop) (x1 : Int32) (x2 : Int32) (F : MF) (G : MG) : Prop :=
  vp_in (((50 : Int32) + ((6 : Int32) * x1)) + x2) 166 ∧ post (G 1 ((((50 : Int32) + ((6 : Int32) * x1)) + x2).toNatClampNeg))
set_option maxHeartbeats 4000000 in
theorem kM_between (l : Launch) (w : MP) (post : Int32 → Prop) (x1 : Int32) (x2 : Int32) (F : MF) (G : MG) (hw : wM_between post x1 x2 F G) : m_Mi l w yX5_between cX5_between 3 .int 0 [.ref (mp_h w), .int x1, .int x2] F G (fun r F1 G1 => F1 = F ∧ G1 = G ∧ post r) := by
  refine m_ofWi (by decide) rfl (Nat.le_of_ble_eq_true rfl) (fun _ => True) (fun _ _ => rfl) ?_
  intro p e s m args below meth c Q ls hA hW hQ
  obtain ⟨hE, hT, hl⟩ := hA
  obtain ⟨hx, hb, hml, hown, hts⟩ := id hE
  have hl : lv_has ls 3 [(0, .ref (mp_h w)), (1, .int x1), (2, .int x2)] := hl
  unfold wM_between at hw
  refine lv_aload_n hx hb dX5_between_0 rfl (lv_at hl 0 rfl) ?_
  refine m_get hx hb hown hts hT hW 1 (by decide) (hts _ q2130) rfl (v := .ref (mp_a w 1)) rfl dX5_between_1 ?_
  refine lv_bipush (v := (50 : Int32)) hx hb dX5_between_4 (by decide) ?_
  refine lv_bipush (v := (6 : Int32)) hx hb dX5_between_6 (by decide) ?_
  refine lv_iload_n hx hb dX5_between_8 rfl (lv_at hl 1 rfl) ?_
  refine lv_imul hx hb dX5_between_9 ?_
  refine lv_iadd hx hb dX5_between_10 ?_
  refine lv_iload_n hx hb dX5_between_11 rfl (lv_at hl 2 rfl) ?_
  refine lv_iadd hx hb dX5_between_12 ?_
  obtain ⟨hi, hw⟩ := hw
  refine m_iald hx hb hT hW (k := 1) (j := ((((50 : Int32) + ((6 : Int32) * x1)) + x2).toNatClampNeg)) rfl rfl hi dX5_between_13 ?_
  exact hQ _ _ _ _ _ trivial ⟨rfl, rfl, hw⟩ hW _ _ dX5_between_14
theorem gM_between : GoodIn lw_all (wsV RX5 245 RX5 yX5_between (ws_ yX5_between cX5_between 3 (some .int))) := lw_V q2449 q2451 qs108 q154 q2452
theorem dM_between : yX5_between.cls = RX5 ∧ yX5_between.cls ≠ "java/lang/invoke/MethodHandle" ∧ yX5_between.cls ≠ "java/lang/invoke/VarHandle" ∧ (parseMethodDescriptor yX5_between.desc).map (fun d => d.parameters.length) = some 2 := by decide +kernel

/-! isNear -/
def wM_isNear_j56 (post : Int32 → Prop) (F : MF) (G : MG) (y1 : Int32) (y3 : Int32) (y4 : Int32) (z0 : Int32) : Prop :=
  wM_between (fun r_1 => wM_of (fun r_2 => (r_2 < ((y3 + (G 7 2)) + r_1) → (z0 = 0 → post (1 : Int32)) ∧ (¬ z0 = 0 → post (0 : Int32))) ∧ (¬ r_2 < ((y3 + (G 7 2)) + r_1) → (z0 = 0 → post (0 : Int32)) ∧ (¬ z0 = 0 → post (0 : Int32)))) y1 (10 : Int32) F G) (G 7 0) y4 F G
def wM_isNear (post : Int32 → Prop) (x1 : Int32) (x2 : Int32) (x3 : Int32) (F : MF) (G : MG) : Prop :=
  wM_counts (fun r_3 => (r_3 = 0 → post (0 : Int32)) ∧ (¬ r_3 = 0 → wM_of (fun r_4 => (r_4 = x2 → wM_of (fun r_5 => wM_endOf (fun r_6 => wM_between (fun r_7 => (x3 < (r_6 + r_7) → wM_isNear_j56 post F G x1 x3 r_5 (0 : Int32)) ∧ (¬ x3 < (r_6 + r_7) → wM_isNear_j56 post F G x1 x3 r_5 (1 : Int32))) r_5 (G 7 0) F G) x1 F G) x1 (0 : Int32) F G) ∧ (¬ r_4 = x2 → post (0 : Int32))) x1 (9 : Int32) F G)) x1 F G
set_option maxHeartbeats 4000000 in
theorem kM_isNear (l : Launch) (w : MP) (post : Int32 → Prop) (x1 : Int32) (x2 : Int32) (x3 : Int32) (F : MF) (G : MG) (hw : wM_isNear post x1 x2 x3 F G) : m_Mi l w yX5_isNear cX5_isNear 7 .boolean 4 [.ref (mp_h w), .int x1, .int x2, .int x3] F G (fun r F1 G1 => F1 = F ∧ G1 = G ∧ post r) := by
  refine m_ofWi (by decide) rfl (Nat.le_of_ble_eq_true rfl) (fun r => r = 0 ∨ r = 1) (fun _ h => m_nb h) ?_
  intro p e s m args below meth c Q ls hA hW hQ
  obtain ⟨hE, hT, hl⟩ := hA
  obtain ⟨hx, hb, hml, hown, hts⟩ := id hE
  have hl : lv_has ls 7 [(0, .ref (mp_h w)), (1, .int x1), (2, .int x2), (3, .int x3)] := hl
  have jn56 : ∀ (y1 : Int32) (y3 : Int32) (y4 : Int32) (z0 : Int32) (H : Heap) (locs : List Loc) (ls : Array Slot), lv_has ls 7 [(0, .ref (mp_h w)), (1, .int y1), (3, .int y3), (4, .int y4)] → m_W w s.heap F G H locs → wM_isNear_j56 post F G y1 y3 y4 z0 → W p l e (mrm 4) s m args below meth c H locs 0 0 Q (F0 m 56 ls [.int z0]) := by
    intro y1 y3 y4 z0 H locs ls hl hW hw
    unfold wM_isNear_j56 at hw
    refine lv_istore (lv' := [(5, .int z0), (0, .ref (mp_h w)), (1, .int y1), (3, .int y3), (4, .int y4)]) hx hb dX5_isNear_56 hl (by decide) rfl (fun ls hl => ?_)
    refine lv_iload_n hx hb dX5_isNear_58 rfl (lv_at hl 3 rfl) ?_
    refine lv_aload_n hx hb dX5_isNear_59 rfl (lv_at hl 1 rfl) ?_
    refine m_get hx hb hown hts hT hW 7 (by decide) (hts _ q2136) rfl (v := .ref (mp_a w 7)) rfl dX5_isNear_60 ?_
    refine lv_iconst (v := (2 : Int32)) hx hb dX5_isNear_63 (by decide) ?_
    refine m_iald hx hb hT hW (k := 7) (j := 2) (by decide) rfl (by unfold vp_in; decide) dX5_isNear_64 ?_
    refine lv_iadd hx hb dX5_isNear_65 ?_
    refine lv_aload_n hx hb dX5_isNear_66 rfl (lv_at hl 1 rfl) ?_
    refine lv_aload_n hx hb dX5_isNear_67 rfl (lv_at hl 1 rfl) ?_
    refine m_get hx hb hown hts hT hW 7 (by decide) (hts _ q2136) rfl (v := .ref (mp_a w 7)) rfl dX5_isNear_68 ?_
    refine lv_iconst (v := (0 : Int32)) hx hb dX5_isNear_71 (by decide) ?_
    refine m_iald hx hb hT hW (k := 7) (j := 0) (by decide) rfl (by unfold vp_in; decide) dX5_isNear_72 ?_
    refine lv_iload hx hb dX5_isNear_73 (lv_at hl 4 rfl) ?_
    refine m_Vi (rest := [.int (y3 + (G 7 2))]) hE hT hW (kM_between l w _ (G 7 0) y4 F G hw) gM_between dM_between ⟨Nat.le_of_ble_eq_true rfl, Nat.le_of_ble_eq_true rfl, Nat.zero_le _, Nat.zero_le _⟩ rfl hl.1 rfl (Nat.le_of_ble_eq_true rfl) dX5_isNear_75 (fun r_1 F9 G9 H locs hw hW => ?_)
    obtain ⟨eF9, eG9, hw⟩ := hw
    rw [eF9, eG9] at hW
    refine lv_iadd hx hb dX5_isNear_78 ?_
    refine lv_aload_n hx hb dX5_isNear_79 rfl (lv_at hl 1 rfl) ?_
    refine lv_iload_n hx hb dX5_isNear_80 rfl (lv_at hl 2 rfl) ?_
    refine lv_bipush (v := (10 : Int32)) hx hb dX5_isNear_81 (by decide) ?_
    refine m_Vi (rest := [.int ((y3 + (G 7 2)) + r_1)]) hE hT hW (kM_of l w _ y1 (10 : Int32) F G hw) gM_of dM_of ⟨Nat.le_of_ble_eq_true rfl, Nat.le_of_ble_eq_true rfl, Nat.zero_le _, Nat.zero_le _⟩ rfl hl.1 rfl (Nat.le_of_ble_eq_true rfl) dX5_isNear_83 (fun r_2 F9 G9 H locs hw hW => ?_)
    obtain ⟨eF9, eG9, hw⟩ := hw
    rw [eF9, eG9] at hW
    refine lv_icmp_gt (tgt := 93) hx hb dX5_isNear_86 (by decide) (fun q => ?_) (fun q => ?_)
    · have hw := hw.1 q
      refine lv_iconst (v := (0 : Int32)) hx hb dX5_isNear_93 (by decide) ?_
      refine lv_istore (lv' := [(6, .int (0 : Int32)), (5, .int z0), (0, .ref (mp_h w)), (1, .int y1), (3, .int y3), (4, .int y4)]) hx hb dX5_isNear_94 hl (by decide) rfl (fun ls hl => ?_)
      refine lv_iload hx hb dX5_isNear_96 (lv_at hl 1 rfl) ?_
      refine lv_if_ne (tgt := 110) hx hb dX5_isNear_98 (by decide) (fun q => ?_) (fun q => ?_)
      · have hw := hw.2 q
        refine lv_iconst (v := (0 : Int32)) hx hb dX5_isNear_110 (by decide) ?_
        exact hQ _ _ _ _ _ (by decide) ⟨rfl, rfl, hw⟩ hW _ _ dX5_isNear_111
      · have hw := hw.1 q
        refine lv_iload hx hb dX5_isNear_101 (lv_at hl 0 rfl) ?_
        refine lv_if_ne (tgt := 110) hx hb dX5_isNear_103 (by decide) (fun q => absurd q (by decide)) (fun _ => ?_)
        refine lv_iconst (v := (1 : Int32)) hx hb dX5_isNear_106 (by decide) ?_
        refine lv_goto (tgt := 111) hx hb dX5_isNear_107 (by decide) ?_
        exact hQ _ _ _ _ _ (by decide) ⟨rfl, rfl, hw⟩ hW _ _ dX5_isNear_111
    · have hw := hw.2 q
      refine lv_iconst (v := (1 : Int32)) hx hb dX5_isNear_89 (by decide) ?_
      refine lv_goto (tgt := 94) hx hb dX5_isNear_90 (by decide) ?_
      refine lv_istore (lv' := [(6, .int (1 : Int32)), (5, .int z0), (0, .ref (mp_h w)), (1, .int y1), (3, .int y3), (4, .int y4)]) hx hb dX5_isNear_94 hl (by decide) rfl (fun ls hl => ?_)
      refine lv_iload hx hb dX5_isNear_96 (lv_at hl 1 rfl) ?_
      refine lv_if_ne (tgt := 110) hx hb dX5_isNear_98 (by decide) (fun q => ?_) (fun q => ?_)
      · have hw := hw.2 q
        refine lv_iconst (v := (0 : Int32)) hx hb dX5_isNear_110 (by decide) ?_
        exact hQ _ _ _ _ _ (by decide) ⟨rfl, rfl, hw⟩ hW _ _ dX5_isNear_111
      · have hw := hw.1 q
        refine lv_iload hx hb dX5_isNear_101 (lv_at hl 0 rfl) ?_
        refine lv_if_ne (tgt := 110) hx hb dX5_isNear_103 (by decide) (fun _ => ?_) (fun q => absurd q (by decide))
        refine lv_iconst (v := (0 : Int32)) hx hb dX5_isNear_110 (by decide) ?_
        exact hQ _ _ _ _ _ (by decide) ⟨rfl, rfl, hw⟩ hW _ _ dX5_isNear_111
  unfold wM_isNear at hw
  refine lv_aload_n hx hb dX5_isNear_0 rfl (lv_at hl 0 rfl) ?_
  refine lv_iload_n hx hb dX5_isNear_1 rfl (lv_at hl 1 rfl) ?_
  refine m_Vi (rest := []) hE hT hW (kM_counts l w _ x1 F G hw) gM_counts dM_counts ⟨Nat.le_of_ble_eq_true rfl, Nat.le_of_ble_eq_true rfl, Nat.zero_le _, Nat.zero_le _⟩ rfl hl.1 rfl (Nat.le_of_ble_eq_true rfl) dX5_isNear_2 (fun r_3 F9 G9 H locs hw hW => ?_)
  obtain ⟨eF9, eG9, hw⟩ := hw
  rw [eF9, eG9] at hW
  refine lv_if_eq (tgt := 19) hx hb dX5_isNear_5 (by decide) (fun q => ?_) (fun q => ?_)
  · have hw := hw.1 q
    refine lv_iconst (v := (0 : Int32)) hx hb dX5_isNear_19 (by decide) ?_
    exact hQ _ _ _ _ _ (by decide) ⟨rfl, rfl, hw⟩ hW _ _ dX5_isNear_20
  · have hw := hw.2 q
    refine lv_aload_n hx hb dX5_isNear_8 rfl (lv_at hl 0 rfl) ?_
    refine lv_iload_n hx hb dX5_isNear_9 rfl (lv_at hl 1 rfl) ?_
    refine lv_bipush (v := (9 : Int32)) hx hb dX5_isNear_10 (by decide) ?_
    refine m_Vi (rest := []) hE hT hW (kM_of l w _ x1 (9 : Int32) F G hw) gM_of dM_of ⟨Nat.le_of_ble_eq_true rfl, Nat.le_of_ble_eq_true rfl, Nat.zero_le _, Nat.zero_le _⟩ rfl hl.1 rfl (Nat.le_of_ble_eq_true rfl) dX5_isNear_12 (fun r_4 F9 G9 H locs hw hW => ?_)
    obtain ⟨eF9, eG9, hw⟩ := hw
    rw [eF9, eG9] at hW
    refine lv_iload_n hx hb dX5_isNear_15 rfl (lv_at hl 2 rfl) ?_
    refine lv_icmp_eq (tgt := 21) hx hb dX5_isNear_16 (by decide) (fun q => ?_) (fun q => ?_)
    · have hw := hw.1 q
      refine lv_aload_n hx hb dX5_isNear_21 rfl (lv_at hl 0 rfl) ?_
      refine lv_iload_n hx hb dX5_isNear_22 rfl (lv_at hl 1 rfl) ?_
      refine lv_iconst (v := (0 : Int32)) hx hb dX5_isNear_23 (by decide) ?_
      refine m_Vi (rest := []) hE hT hW (kM_of l w _ x1 (0 : Int32) F G hw) gM_of dM_of ⟨Nat.le_of_ble_eq_true rfl, Nat.le_of_ble_eq_true rfl, Nat.zero_le _, Nat.zero_le _⟩ rfl hl.1 rfl (Nat.le_of_ble_eq_true rfl) dX5_isNear_24 (fun r_5 F9 G9 H locs hw hW => ?_)
      obtain ⟨eF9, eG9, hw⟩ := hw
      rw [eF9, eG9] at hW
      refine lv_istore (lv' := [(4, .int r_5), (0, .ref (mp_h w)), (1, .int x1), (2, .int x2), (3, .int x3)]) hx hb dX5_isNear_27 hl (by decide) rfl (fun ls hl => ?_)
      refine lv_aload_n hx hb dX5_isNear_29 rfl (lv_at hl 1 rfl) ?_
      refine lv_iload_n hx hb dX5_isNear_30 rfl (lv_at hl 2 rfl) ?_
      refine m_Vi (rest := []) hE hT hW (kM_endOf l w _ x1 F G hw) gM_endOf dM_endOf ⟨Nat.le_of_ble_eq_true rfl, Nat.le_of_ble_eq_true rfl, Nat.zero_le _, Nat.zero_le _⟩ rfl hl.1 rfl (Nat.le_of_ble_eq_true rfl) dX5_isNear_31 (fun r_6 F9 G9 H locs hw hW => ?_)
      obtain ⟨eF9, eG9, hw⟩ := hw
      rw [eF9, eG9] at hW
      refine lv_aload_n hx hb dX5_isNear_34 rfl (lv_at hl 1 rfl) ?_
      refine lv_iload hx hb dX5_isNear_35 (lv_at hl 0 rfl) ?_
      refine lv_aload_n hx hb dX5_isNear_37 rfl (lv_at hl 1 rfl) ?_
      refine m_get hx hb hown hts hT hW 7 (by decide) (hts _ q2136) rfl (v := .ref (mp_a w 7)) rfl dX5_isNear_38 ?_
      refine lv_iconst (v := (0 : Int32)) hx hb dX5_isNear_41 (by decide) ?_
      refine m_iald hx hb hT hW (k := 7) (j := 0) (by decide) rfl (by unfold vp_in; decide) dX5_isNear_42 ?_
      refine m_Vi (rest := [.int r_6]) hE hT hW (kM_between l w _ r_5 (G 7 0) F G hw) gM_between dM_between ⟨Nat.le_of_ble_eq_true rfl, Nat.le_of_ble_eq_true rfl, Nat.zero_le _, Nat.zero_le _⟩ rfl hl.1 rfl (Nat.le_of_ble_eq_true rfl) dX5_isNear_43 (fun r_7 F9 G9 H locs hw hW => ?_)
      obtain ⟨eF9, eG9, hw⟩ := hw
      rw [eF9, eG9] at hW
      refine lv_iadd hx hb dX5_isNear_46 ?_
      refine lv_iload_n hx hb dX5_isNear_47 rfl (lv_at hl 4 rfl) ?_
      refine lv_icmp_gt (tgt := 55) hx hb dX5_isNear_48 (by decide) (fun q => ?_) (fun q => ?_)
      · have hw := hw.1 q
        refine lv_iconst (v := (0 : Int32)) hx hb dX5_isNear_55 (by decide) ?_
        exact jn56 x1 x3 r_5 (0 : Int32) _ _ _ (lv_sub hl [1, 2, 4, 0] rfl) hW hw
      · have hw := hw.2 q
        refine lv_iconst (v := (1 : Int32)) hx hb dX5_isNear_51 (by decide) ?_
        refine lv_goto (tgt := 56) hx hb dX5_isNear_52 (by decide) ?_
        exact jn56 x1 x3 r_5 (1 : Int32) _ _ _ (lv_sub hl [1, 2, 4, 0] rfl) hW hw
    · have hw := hw.2 q
      refine lv_iconst (v := (0 : Int32)) hx hb dX5_isNear_19 (by decide) ?_
      exact hQ _ _ _ _ _ (by decide) ⟨rfl, rfl, hw⟩ hW _ _ dX5_isNear_20
theorem gM_isNear : GoodIn lw_all (wsV RX5 248 RX5 yX5_isNear (ws_ yX5_isNear cX5_isNear 7 (some .boolean))) := lw_V q2426 q2428 qs103 q154 q2429
theorem dM_isNear : yX5_isNear.cls = RX5 ∧ yX5_isNear.cls ≠ "java/lang/invoke/MethodHandle" ∧ yX5_isNear.cls ≠ "java/lang/invoke/VarHandle" ∧ (parseMethodDescriptor yX5_isNear.desc).map (fun d => d.parameters.length) = some 3 := by decide +kernel

/-! isAnyNear -/
def wM_isAnyNear_b2 (post : Int32 → Prop) (F : MF) (G : MG) (K2 : Int32 → Int32 → Int32 → Prop) (y1 : Int32) (y2 : Int32) (y3 : Int32) : Prop :=
  ((G 8 1) ≤ y3 → post (0 : Int32)) ∧ (¬ (G 8 1) ≤ y3 → wM_isNear (fun r_1 => (r_1 = 0 → K2 y1 y2 (y3 + (1 : Int32))) ∧ (¬ r_1 = 0 → post (1 : Int32))) y3 y1 y2 F G)
def wM_isAnyNear_l2 (post : Int32 → Prop) (F : MF) (G : MG) : Nat → Int32 → Int32 → Int32 → Prop
  | 0 => fun _ _ _ => False
  | n + 1 => wM_isAnyNear_b2 post F G (wM_isAnyNear_l2 post F G n)
def wM_isAnyNear (post : Int32 → Prop) (x1 : Int32) (x2 : Int32) (F : MF) (G : MG) : Prop :=
  ∃ n, wM_isAnyNear_l2 post F G n x1 x2 (0 : Int32)
set_option maxHeartbeats 4000000 in
theorem kM_isAnyNear (l : Launch) (w : MP) (post : Int32 → Prop) (x1 : Int32) (x2 : Int32) (F : MF) (G : MG) (hw : wM_isAnyNear post x1 x2 F G) : m_Mi l w yX5_isAnyNear cX5_isAnyNear 4 .boolean 5 [.ref (mp_h w), .int x1, .int x2] F G (fun r F1 G1 => F1 = F ∧ G1 = G ∧ post r) := by
  refine m_ofWi (by decide) rfl (Nat.le_of_ble_eq_true rfl) (fun r => r = 0 ∨ r = 1) (fun _ h => m_nb h) ?_
  intro p e s m args below meth c Q ls hA hW hQ
  obtain ⟨hE, hT, hl⟩ := hA
  obtain ⟨hx, hb, hml, hown, hts⟩ := id hE
  have hl : lv_has ls 4 [(0, .ref (mp_h w)), (1, .int x1), (2, .int x2)] := hl
  have lp2 : ∀ (n2 : Nat) (y1 : Int32) (y2 : Int32) (y3 : Int32) (H : Heap) (locs : List Loc) (ls : Array Slot), lv_has ls 4 [(0, .ref (mp_h w)), (1, .int y1), (2, .int y2), (3, .int y3)] → m_W w s.heap F G H locs → wM_isAnyNear_l2 post F G n2 y1 y2 y3 → W p l e (mrm 5) s m args below meth c H locs 0 0 Q (F0 m 2 ls []) := by
    intro n2
    induction n2 with
    | zero => intro y1 y2 y3 H locs ls hl hW hw; exact hw.elim
    | succ n2 ih2 =>
      intro y1 y2 y3 H locs ls hl hW hw
      have hw : wM_isAnyNear_b2 post F G (wM_isAnyNear_l2 post F G n2) y1 y2 y3 := hw
      unfold wM_isAnyNear_b2 at hw
      refine lv_iload_n hx hb dX5_isAnyNear_2 rfl (lv_at hl 3 rfl) ?_
      refine lv_aload_n hx hb dX5_isAnyNear_3 rfl (lv_at hl 0 rfl) ?_
      refine m_get hx hb hown hts hT hW 8 (by decide) (hts _ q2137) rfl (v := .ref (mp_a w 8)) rfl dX5_isAnyNear_4 ?_
      refine lv_iconst (v := (1 : Int32)) hx hb dX5_isAnyNear_7 (by decide) ?_
      refine m_iald hx hb hT hW (k := 8) (j := 1) (by decide) rfl (by unfold vp_in; decide) dX5_isAnyNear_8 ?_
      refine lv_icmp_ge (tgt := 30) hx hb dX5_isAnyNear_9 (by decide) (fun q => ?_) (fun q => ?_)
      · have hw := hw.1 q
        refine lv_iconst (v := (0 : Int32)) hx hb dX5_isAnyNear_30 (by decide) ?_
        exact hQ _ _ _ _ _ (by decide) ⟨rfl, rfl, hw⟩ hW _ _ dX5_isAnyNear_31
      · have hw := hw.2 q
        refine lv_aload_n hx hb dX5_isAnyNear_12 rfl (lv_at hl 0 rfl) ?_
        refine lv_iload_n hx hb dX5_isAnyNear_13 rfl (lv_at hl 3 rfl) ?_
        refine lv_iload_n hx hb dX5_isAnyNear_14 rfl (lv_at hl 1 rfl) ?_
        refine lv_iload_n hx hb dX5_isAnyNear_15 rfl (lv_at hl 2 rfl) ?_
        refine m_Vi (rest := []) hE hT hW (kM_isNear l w _ y3 y1 y2 F G hw) gM_isNear dM_isNear ⟨Nat.le_of_ble_eq_true rfl, Nat.le_of_ble_eq_true rfl, Nat.zero_le _, Nat.zero_le _⟩ rfl hl.1 rfl (Nat.le_of_ble_eq_true rfl) dX5_isAnyNear_16 (fun r_1 F9 G9 H locs hw hW => ?_)
        obtain ⟨eF9, eG9, hw⟩ := hw
        rw [eF9, eG9] at hW
        refine lv_if_eq (tgt := 24) hx hb dX5_isAnyNear_19 (by decide) (fun q => ?_) (fun q => ?_)
        · have hw := hw.1 q
          refine lv_iinc (v := (y3 + (1 : Int32))) (lv' := [(3, .int (y3 + (1 : Int32))), (0, .ref (mp_h w)), (1, .int y1), (2, .int y2)]) hx hb dX5_isAnyNear_24 hl (k := 3) rfl rfl (by decide) rfl (fun ls hl => ?_)
          refine lv_goto (tgt := 2) hx hb dX5_isAnyNear_27 (by decide) ?_
          exact ih2 y1 y2 (y3 + (1 : Int32)) _ _ _ (lv_sub hl [1, 2, 3, 0] rfl) hW hw
        · have hw := hw.2 q
          refine lv_iconst (v := (1 : Int32)) hx hb dX5_isAnyNear_22 (by decide) ?_
          exact hQ _ _ _ _ _ (by decide) ⟨rfl, rfl, hw⟩ hW _ _ dX5_isAnyNear_23
  unfold wM_isAnyNear at hw
  refine lv_iconst (v := (0 : Int32)) hx hb dX5_isAnyNear_0 (by decide) ?_
  refine lv_istore_n (lv' := [(3, .int (0 : Int32)), (0, .ref (mp_h w)), (1, .int x1), (2, .int x2)]) hx hb dX5_isAnyNear_1 rfl hl (by decide) rfl (fun ls hl => ?_)
  obtain ⟨n_2, hw⟩ := hw
  exact lp2 n_2 x1 x2 (0 : Int32) _ _ _ (lv_sub hl [1, 2, 3, 0] rfl) hW hw
theorem gM_isAnyNear : GoodIn lw_all (wsV RX5 273 RX5 yX5_isAnyNear (ws_ yX5_isAnyNear cX5_isAnyNear 4 (some .boolean))) := lw_V q2422 q2424 qs102 q154 q2425
theorem dM_isAnyNear : yX5_isAnyNear.cls = RX5 ∧ yX5_isAnyNear.cls ≠ "java/lang/invoke/MethodHandle" ∧ yX5_isAnyNear.cls ≠ "java/lang/invoke/VarHandle" ∧ (parseMethodDescriptor yX5_isAnyNear.desc).map (fun d => d.parameters.length) = some 2 := by decide +kernel

/-! peakBy -/
def wM_peakBy_b168 (post : Int32 → MF → MG → Prop) (K168 : Int32 → Int32 → Int32 → Int32 → MF → MG → Prop) (y4 : Int32) (y6 : Int32) (y7 : Int32) (y8 : Int32) (F : MF) (G : MG) : Prop :=
  (y4 ≤ y8 → post y6 F G) ∧ (¬ y4 ≤ y8 → vp_in y8 129 ∧ ∀ x7_1 : Int32, x7_1 = (y7 + (G 20 (y8.toNatClampNeg))) → ∀ x6_2 : Int32, x6_2 = (imax y6 x7_1) → K168 y4 x6_2 x7_1 (y8 + (1 : Int32)) F G)
def wM_peakBy_l168 (post : Int32 → MF → MG → Prop) : Nat → Int32 → Int32 → Int32 → Int32 → MF → MG → Prop
  | 0 => fun _ _ _ _ _ _ => False
  | n + 1 => wM_peakBy_b168 post (wM_peakBy_l168 post n)
def wM_peakBy_b46 (post : Int32 → MF → MG → Prop) (K46 : Int32 → Int32 → Int32 → Int32 → Int32 → Int32 → MF → MG → Prop) (y1 : Int32) (y2 : Int32) (y3 : Int32) (y4 : Int32) (y5 : Int32) (y6 : Int32) (F : MF) (G : MG) : Prop :=
  ((G 8 1) ≤ y6 → ∃ n, wM_peakBy_l168 post n y4 (0 : Int32) (0 : Int32) (0 : Int32) F G) ∧ (¬ (G 8 1) ≤ y6 → wM_of (fun r_4 => ∀ x7_5 : Int32, x7_5 = (imax y2 (r_4 - y5)) → wM_endOf (fun r_6 => ∀ x8_7 : Int32, x8_7 = (imin y3 (r_6 + y5)) → (x8_7 ≤ x7_5 → K46 y1 y2 y3 y4 y5 (y6 + (1 : Int32)) F G) ∧ (¬ x8_7 ≤ x7_5 → wM_counts (fun r_8 => (r_8 = 0 → K46 y1 y2 y3 y4 y5 (y6 + (1 : Int32)) F G) ∧ (¬ r_8 = 0 → vp_in ((x7_5 - y2) / (15 : Int32)) 129 ∧ wM_of (fun r_9 => vp_in ((x7_5 - y2) / (15 : Int32)) 129 ∧ ∀ G_10 : MG, G_10 = mu G 20 (((x7_5 - y2) / (15 : Int32)).toNatClampNeg) ((G 20 (((x7_5 - y2) / (15 : Int32)).toNatClampNeg)) + r_9) → vp_in ((x8_7 - y2) / (15 : Int32)) 129 ∧ wM_of (fun r_11 => vp_in ((x8_7 - y2) / (15 : Int32)) 129 ∧ ∀ G_12 : MG, G_12 = mu G_10 20 (((x8_7 - y2) / (15 : Int32)).toNatClampNeg) ((G_10 20 (((x8_7 - y2) / (15 : Int32)).toNatClampNeg)) - r_11) → K46 y1 y2 y3 y4 y5 (y6 + (1 : Int32)) F G_12) y6 ((3 : Int32) + y1) F G_10) y6 ((3 : Int32) + y1) F G)) y6 F G)) y6 F G) y6 (10 : Int32) F G)
def wM_peakBy_l46 (post : Int32 → MF → MG → Prop) : Nat → Int32 → Int32 → Int32 → Int32 → Int32 → Int32 → MF → MG → Prop
  | 0 => fun _ _ _ _ _ _ _ _ => False
  | n + 1 => wM_peakBy_b46 post (wM_peakBy_l46 post n)
def wM_peakBy_b22 (post : Int32 → MF → MG → Prop) (K22 : Int32 → Int32 → Int32 → Int32 → Int32 → Int32 → MF → MG → Prop) (y1 : Int32) (y2 : Int32) (y3 : Int32) (y4 : Int32) (y5 : Int32) (y6 : Int32) (F : MF) (G : MG) : Prop :=
  (y4 < y6 → ∃ n, wM_peakBy_l46 post n y1 y2 y3 y4 y5 (0 : Int32) F G) ∧ (¬ y4 < y6 → vp_in y6 129 ∧ ∀ G_14 : MG, G_14 = mu G 20 (y6.toNatClampNeg) (0 : Int32) → K22 y1 y2 y3 y4 y5 (y6 + (1 : Int32)) F G_14)
def wM_peakBy_l22 (post : Int32 → MF → MG → Prop) : Nat → Int32 → Int32 → Int32 → Int32 → Int32 → Int32 → MF → MG → Prop
  | 0 => fun _ _ _ _ _ _ _ _ => False
  | n + 1 => wM_peakBy_b22 post (wM_peakBy_l22 post n)
def wM_peakBy (post : Int32 → MF → MG → Prop) (x1 : Int32) (x2 : Int32) (x3 : Int32) (F : MF) (G : MG) : Prop :=
  ∀ x4_15 : Int32, x4_15 = ((x3 - x2) / (15 : Int32)) → vp_in ((44 : Int32) + x1) 166 ∧ ∀ x5_16 : Int32, x5_16 = (G 1 (((44 : Int32) + x1).toNatClampNeg)) → ∃ n, wM_peakBy_l22 post n x1 x2 x3 x4_15 x5_16 (0 : Int32) F G
set_option maxHeartbeats 4000000 in
theorem kM_peakBy (l : Launch) (w : MP) (post : Int32 → MF → MG → Prop) (x1 : Int32) (x2 : Int32) (x3 : Int32) (F : MF) (G : MG) (hw : wM_peakBy post x1 x2 x3 F G) : m_Mi l w yX5_peakBy cX5_peakBy 9 .int 4 [.ref (mp_h w), .int x1, .int x2, .int x3] F G post := by
  refine m_ofWi (by decide) rfl (Nat.le_of_ble_eq_true rfl) (fun _ => True) (fun _ _ => rfl) ?_
  intro p e s m args below meth c Q ls hA hW hQ
  obtain ⟨hE, hT, hl⟩ := hA
  obtain ⟨hx, hb, hml, hown, hts⟩ := id hE
  have hl : lv_has ls 9 [(0, .ref (mp_h w)), (1, .int x1), (2, .int x2), (3, .int x3)] := hl
  have lp168 : ∀ (n168 : Nat) (y4 : Int32) (y6 : Int32) (y7 : Int32) (y8 : Int32) (F : MF) (G : MG) (H : Heap) (locs : List Loc) (ls : Array Slot), lv_has ls 9 [(0, .ref (mp_h w)), (4, .int y4), (6, .int y6), (7, .int y7), (8, .int y8)] → m_W w s.heap F G H locs → wM_peakBy_l168 post n168 y4 y6 y7 y8 F G → W p l e (mrm 4) s m args below meth c H locs 0 0 Q (F0 m 168 ls []) := by
    intro n168
    induction n168 with
    | zero => intro y4 y6 y7 y8 F G H locs ls hl hW hw; exact hw.elim
    | succ n168 ih168 =>
      intro y4 y6 y7 y8 F G H locs ls hl hW hw
      have hw : wM_peakBy_b168 post (wM_peakBy_l168 post n168) y4 y6 y7 y8 F G := hw
      unfold wM_peakBy_b168 at hw
      refine lv_iload hx hb dX5_peakBy_168 (lv_at hl 4 rfl) ?_
      refine lv_iload hx hb dX5_peakBy_170 (lv_at hl 1 rfl) ?_
      refine lv_icmp_ge (tgt := 202) hx hb dX5_peakBy_172 (by decide) (fun q => ?_) (fun q => ?_)
      · have hw := hw.1 q
        refine lv_iload hx hb dX5_peakBy_202 (lv_at hl 2 rfl) ?_
        exact hQ _ _ _ _ _ trivial hw hW _ _ dX5_peakBy_204
      · have hw := hw.2 q
        refine lv_iload hx hb dX5_peakBy_175 (lv_at hl 3 rfl) ?_
        refine lv_aload_n hx hb dX5_peakBy_177 rfl (lv_at hl 0 rfl) ?_
        refine m_get hx hb hown hts hT hW 20 (by decide) (hts _ q2149) rfl (v := .ref (mp_a w 20)) rfl dX5_peakBy_178 ?_
        refine lv_iload hx hb dX5_peakBy_181 (lv_at hl 4 rfl) ?_
        obtain ⟨hi, hw⟩ := hw
        refine m_iald hx hb hT hW (k := 20) (j := (y8.toNatClampNeg)) rfl rfl hi dX5_peakBy_183 ?_
        refine lv_iadd hx hb dX5_peakBy_184 ?_
        refine lv_topi (fun x7_1 ex7_1 => ?_)
        have hw := hw x7_1 ex7_1
        refine lv_istore (lv' := [(7, .int x7_1), (0, .ref (mp_h w)), (4, .int y4), (6, .int y6), (8, .int y8)]) hx hb dX5_peakBy_185 hl (by decide) rfl (fun ls hl => ?_)
        refine lv_iload hx hb dX5_peakBy_187 (lv_at hl 3 rfl) ?_
        refine lv_iload hx hb dX5_peakBy_189 (lv_at hl 0 rfl) ?_
        refine m_max (rest := []) hE hl.1 (hts _ q2461) (hts _ q463) (hts _ q153) (hts _ q464) (Nat.le_of_ble_eq_true rfl) (Nat.le_of_ble_eq_true rfl) (Nat.zero_le _) (Nat.zero_le _) dX5_peakBy_191 ?_
        refine lv_topi (fun x6_2 ex6_2 => ?_)
        have hw := hw x6_2 ex6_2
        refine lv_istore (lv' := [(6, .int x6_2), (7, .int x7_1), (0, .ref (mp_h w)), (4, .int y4), (8, .int y8)]) hx hb dX5_peakBy_194 hl (by decide) rfl (fun ls hl => ?_)
        refine lv_iinc (v := (y8 + (1 : Int32))) (lv' := [(8, .int (y8 + (1 : Int32))), (6, .int x6_2), (7, .int x7_1), (0, .ref (mp_h w)), (4, .int y4)]) hx hb dX5_peakBy_196 hl (k := 4) rfl rfl (by decide) rfl (fun ls hl => ?_)
        refine lv_goto (tgt := 168) hx hb dX5_peakBy_199 (by decide) ?_
        exact ih168 y4 x6_2 x7_1 (y8 + (1 : Int32)) F G _ _ _ (lv_sub hl [3, 4, 1, 2, 0] rfl) hW hw
  have lp46 : ∀ (n46 : Nat) (y1 : Int32) (y2 : Int32) (y3 : Int32) (y4 : Int32) (y5 : Int32) (y6 : Int32) (F : MF) (G : MG) (H : Heap) (locs : List Loc) (ls : Array Slot), lv_has ls 9 [(0, .ref (mp_h w)), (1, .int y1), (2, .int y2), (3, .int y3), (4, .int y4), (5, .int y5), (6, .int y6)] → m_W w s.heap F G H locs → wM_peakBy_l46 post n46 y1 y2 y3 y4 y5 y6 F G → W p l e (mrm 4) s m args below meth c H locs 0 0 Q (F0 m 46 ls []) := by
    intro n46
    induction n46 with
    | zero => intro y1 y2 y3 y4 y5 y6 F G H locs ls hl hW hw; exact hw.elim
    | succ n46 ih46 =>
      intro y1 y2 y3 y4 y5 y6 F G H locs ls hl hW hw
      have hw : wM_peakBy_b46 post (wM_peakBy_l46 post n46) y1 y2 y3 y4 y5 y6 F G := hw
      unfold wM_peakBy_b46 at hw
      refine lv_iload hx hb dX5_peakBy_46 (lv_at hl 6 rfl) ?_
      refine lv_aload_n hx hb dX5_peakBy_48 rfl (lv_at hl 0 rfl) ?_
      refine m_get hx hb hown hts hT hW 8 (by decide) (hts _ q2137) rfl (v := .ref (mp_a w 8)) rfl dX5_peakBy_49 ?_
      refine lv_iconst (v := (1 : Int32)) hx hb dX5_peakBy_52 (by decide) ?_
      refine m_iald hx hb hT hW (k := 8) (j := 1) (by decide) rfl (by unfold vp_in; decide) dX5_peakBy_53 ?_
      refine lv_icmp_ge (tgt := 159) hx hb dX5_peakBy_54 (by decide) (fun q => ?_) (fun q => ?_)
      · have hw := hw.1 q
        refine lv_iconst (v := (0 : Int32)) hx hb dX5_peakBy_159 (by decide) ?_
        refine lv_istore (lv' := [(6, .int (0 : Int32)), (0, .ref (mp_h w)), (1, .int y1), (2, .int y2), (3, .int y3), (4, .int y4), (5, .int y5)]) hx hb dX5_peakBy_160 hl (by decide) rfl (fun ls hl => ?_)
        refine lv_iconst (v := (0 : Int32)) hx hb dX5_peakBy_162 (by decide) ?_
        refine lv_istore (lv' := [(7, .int (0 : Int32)), (6, .int (0 : Int32)), (0, .ref (mp_h w)), (1, .int y1), (2, .int y2), (3, .int y3), (4, .int y4), (5, .int y5)]) hx hb dX5_peakBy_163 hl (by decide) rfl (fun ls hl => ?_)
        refine lv_iconst (v := (0 : Int32)) hx hb dX5_peakBy_165 (by decide) ?_
        refine lv_istore (lv' := [(8, .int (0 : Int32)), (7, .int (0 : Int32)), (6, .int (0 : Int32)), (0, .ref (mp_h w)), (1, .int y1), (2, .int y2), (3, .int y3), (4, .int y4), (5, .int y5)]) hx hb dX5_peakBy_166 hl (by decide) rfl (fun ls hl => ?_)
        obtain ⟨n_3, hw⟩ := hw
        exact lp168 n_3 y4 (0 : Int32) (0 : Int32) (0 : Int32) F G _ _ _ (lv_sub hl [3, 7, 2, 1, 0] rfl) hW hw
      · have hw := hw.2 q
        refine lv_iload_n hx hb dX5_peakBy_57 rfl (lv_at hl 2 rfl) ?_
        refine lv_aload_n hx hb dX5_peakBy_58 rfl (lv_at hl 0 rfl) ?_
        refine lv_iload hx hb dX5_peakBy_59 (lv_at hl 6 rfl) ?_
        refine lv_bipush (v := (10 : Int32)) hx hb dX5_peakBy_61 (by decide) ?_
        refine m_Vi (rest := [.int y2]) hE hT hW (kM_of l w _ y6 (10 : Int32) F G hw) gM_of dM_of ⟨Nat.le_of_ble_eq_true rfl, Nat.le_of_ble_eq_true rfl, Nat.zero_le _, Nat.zero_le _⟩ rfl hl.1 rfl (Nat.le_of_ble_eq_true rfl) dX5_peakBy_63 (fun r_4 F9 G9 H locs hw hW => ?_)
        obtain ⟨eF9, eG9, hw⟩ := hw
        rw [eF9, eG9] at hW
        refine lv_iload hx hb dX5_peakBy_66 (lv_at hl 5 rfl) ?_
        refine lv_isub hx hb dX5_peakBy_68 ?_
        refine m_max (rest := []) hE hl.1 (hts _ q2461) (hts _ q463) (hts _ q153) (hts _ q464) (Nat.le_of_ble_eq_true rfl) (Nat.le_of_ble_eq_true rfl) (Nat.zero_le _) (Nat.zero_le _) dX5_peakBy_69 ?_
        refine lv_topi (fun x7_5 ex7_5 => ?_)
        have hw := hw x7_5 ex7_5
        refine lv_istore (lv' := [(7, .int x7_5), (0, .ref (mp_h w)), (1, .int y1), (2, .int y2), (3, .int y3), (4, .int y4), (5, .int y5), (6, .int y6)]) hx hb dX5_peakBy_72 hl (by decide) rfl (fun ls hl => ?_)
        refine lv_iload_n hx hb dX5_peakBy_74 rfl (lv_at hl 4 rfl) ?_
        refine lv_aload_n hx hb dX5_peakBy_75 rfl (lv_at hl 1 rfl) ?_
        refine lv_iload hx hb dX5_peakBy_76 (lv_at hl 7 rfl) ?_
        refine m_Vi (rest := [.int y3]) hE hT hW (kM_endOf l w _ y6 F G hw) gM_endOf dM_endOf ⟨Nat.le_of_ble_eq_true rfl, Nat.le_of_ble_eq_true rfl, Nat.zero_le _, Nat.zero_le _⟩ rfl hl.1 rfl (Nat.le_of_ble_eq_true rfl) dX5_peakBy_78 (fun r_6 F9 G9 H locs hw hW => ?_)
        obtain ⟨eF9, eG9, hw⟩ := hw
        rw [eF9, eG9] at hW
        refine lv_iload hx hb dX5_peakBy_81 (lv_at hl 6 rfl) ?_
        refine lv_iadd hx hb dX5_peakBy_83 ?_
        refine m_min (rest := []) hE hl.1 (hts _ q2462) (hts _ q466) (hts _ q153) (hts _ q467) (Nat.le_of_ble_eq_true rfl) (Nat.le_of_ble_eq_true rfl) (Nat.zero_le _) (Nat.zero_le _) dX5_peakBy_84 ?_
        refine lv_topi (fun x8_7 ex8_7 => ?_)
        have hw := hw x8_7 ex8_7
        refine lv_istore (lv' := [(8, .int x8_7), (7, .int x7_5), (0, .ref (mp_h w)), (1, .int y1), (2, .int y2), (3, .int y3), (4, .int y4), (5, .int y5), (6, .int y6)]) hx hb dX5_peakBy_87 hl (by decide) rfl (fun ls hl => ?_)
        refine lv_iload hx hb dX5_peakBy_89 (lv_at hl 1 rfl) ?_
        refine lv_iload hx hb dX5_peakBy_91 (lv_at hl 0 rfl) ?_
        refine lv_icmp_ge (tgt := 153) hx hb dX5_peakBy_93 (by decide) (fun q => ?_) (fun q => ?_)
        · have hw := hw.1 q
          refine lv_iinc (v := (y6 + (1 : Int32))) (lv' := [(6, .int (y6 + (1 : Int32))), (8, .int x8_7), (7, .int x7_5), (0, .ref (mp_h w)), (1, .int y1), (2, .int y2), (3, .int y3), (4, .int y4), (5, .int y5)]) hx hb dX5_peakBy_153 hl (k := 8) rfl rfl (by decide) rfl (fun ls hl => ?_)
          refine lv_goto (tgt := 46) hx hb dX5_peakBy_156 (by decide) ?_
          exact ih46 y1 y2 y3 y4 y5 (y6 + (1 : Int32)) F G _ _ _ (lv_sub hl [3, 4, 5, 6, 7, 8, 0] rfl) hW hw
        · have hw := hw.2 q
          refine lv_aload_n hx hb dX5_peakBy_96 rfl (lv_at hl 2 rfl) ?_
          refine lv_iload hx hb dX5_peakBy_97 (lv_at hl 8 rfl) ?_
          refine m_Vi (rest := []) hE hT hW (kM_counts l w _ y6 F G hw) gM_counts dM_counts ⟨Nat.le_of_ble_eq_true rfl, Nat.le_of_ble_eq_true rfl, Nat.zero_le _, Nat.zero_le _⟩ rfl hl.1 rfl (Nat.le_of_ble_eq_true rfl) dX5_peakBy_99 (fun r_8 F9 G9 H locs hw hW => ?_)
          obtain ⟨eF9, eG9, hw⟩ := hw
          rw [eF9, eG9] at hW
          refine lv_if_eq (tgt := 153) hx hb dX5_peakBy_102 (by decide) (fun q => ?_) (fun q => ?_)
          · have hw := hw.1 q
            refine lv_iinc (v := (y6 + (1 : Int32))) (lv' := [(6, .int (y6 + (1 : Int32))), (8, .int x8_7), (7, .int x7_5), (0, .ref (mp_h w)), (1, .int y1), (2, .int y2), (3, .int y3), (4, .int y4), (5, .int y5)]) hx hb dX5_peakBy_153 hl (k := 8) rfl rfl (by decide) rfl (fun ls hl => ?_)
            refine lv_goto (tgt := 46) hx hb dX5_peakBy_156 (by decide) ?_
            exact ih46 y1 y2 y3 y4 y5 (y6 + (1 : Int32)) F G _ _ _ (lv_sub hl [3, 4, 5, 6, 7, 8, 0] rfl) hW hw
          · have hw := hw.2 q
            refine lv_aload_n hx hb dX5_peakBy_105 rfl (lv_at hl 2 rfl) ?_
            refine m_get hx hb hown hts hT hW 20 (by decide) (hts _ q2149) rfl (v := .ref (mp_a w 20)) rfl dX5_peakBy_106 ?_
            refine lv_iload hx hb dX5_peakBy_109 (lv_at hl 1 rfl) ?_
            refine lv_iload_n hx hb dX5_peakBy_111 rfl (lv_at hl 4 rfl) ?_
            refine lv_isub hx hb dX5_peakBy_112 ?_
            refine lv_bipush (v := (15 : Int32)) hx hb dX5_peakBy_113 (by decide) ?_
            refine lv_idiv hx hb dX5_peakBy_115 (by decide) ?_
            refine lv_dup2_11 hx hb dX5_peakBy_116 rfl rfl ?_
            obtain ⟨hi, hw⟩ := hw
            refine m_iald hx hb hT hW (k := 20) (j := (((x7_5 - y2) / (15 : Int32)).toNatClampNeg)) rfl rfl hi dX5_peakBy_117 ?_
            refine lv_aload_n hx hb dX5_peakBy_118 rfl (lv_at hl 2 rfl) ?_
            refine lv_iload hx hb dX5_peakBy_119 (lv_at hl 8 rfl) ?_
            refine lv_iconst (v := (3 : Int32)) hx hb dX5_peakBy_121 (by decide) ?_
            refine lv_iload_n hx hb dX5_peakBy_122 rfl (lv_at hl 3 rfl) ?_
            refine lv_iadd hx hb dX5_peakBy_123 ?_
            refine m_Vi (rest := [.int (G 20 (((x7_5 - y2) / (15 : Int32)).toNatClampNeg)), .int ((x7_5 - y2) / (15 : Int32)), .ref (mp_a w 20)]) hE hT hW (kM_of l w _ y6 ((3 : Int32) + y1) F G hw) gM_of dM_of ⟨Nat.le_of_ble_eq_true rfl, Nat.le_of_ble_eq_true rfl, Nat.zero_le _, Nat.zero_le _⟩ rfl hl.1 rfl (Nat.le_of_ble_eq_true rfl) dX5_peakBy_124 (fun r_9 F9 G9 H locs hw hW => ?_)
            obtain ⟨eF9, eG9, hw⟩ := hw
            rw [eF9, eG9] at hW
            refine lv_iadd hx hb dX5_peakBy_127 ?_
            obtain ⟨hi, hw⟩ := hw
            refine m_iast hx hb hT hW (k := 20) (j := (((x7_5 - y2) / (15 : Int32)).toNatClampNeg)) rfl rfl hi dX5_peakBy_128 (fun G_10 H locs eG_10 hW => ?_)
            have hw := hw G_10 eG_10
            refine lv_aload_n hx hb dX5_peakBy_129 rfl (lv_at hl 2 rfl) ?_
            refine m_get hx hb hown hts hT hW 20 (by decide) (hts _ q2149) rfl (v := .ref (mp_a w 20)) rfl dX5_peakBy_130 ?_
            refine lv_iload hx hb dX5_peakBy_133 (lv_at hl 0 rfl) ?_
            refine lv_iload_n hx hb dX5_peakBy_135 rfl (lv_at hl 4 rfl) ?_
            refine lv_isub hx hb dX5_peakBy_136 ?_
            refine lv_bipush (v := (15 : Int32)) hx hb dX5_peakBy_137 (by decide) ?_
            refine lv_idiv hx hb dX5_peakBy_139 (by decide) ?_
            refine lv_dup2_11 hx hb dX5_peakBy_140 rfl rfl ?_
            obtain ⟨hi, hw⟩ := hw
            refine m_iald hx hb hT hW (k := 20) (j := (((x8_7 - y2) / (15 : Int32)).toNatClampNeg)) rfl rfl hi dX5_peakBy_141 ?_
            refine lv_aload_n hx hb dX5_peakBy_142 rfl (lv_at hl 2 rfl) ?_
            refine lv_iload hx hb dX5_peakBy_143 (lv_at hl 8 rfl) ?_
            refine lv_iconst (v := (3 : Int32)) hx hb dX5_peakBy_145 (by decide) ?_
            refine lv_iload_n hx hb dX5_peakBy_146 rfl (lv_at hl 3 rfl) ?_
            refine lv_iadd hx hb dX5_peakBy_147 ?_
            refine m_Vi (rest := [.int (G_10 20 (((x8_7 - y2) / (15 : Int32)).toNatClampNeg)), .int ((x8_7 - y2) / (15 : Int32)), .ref (mp_a w 20)]) hE hT hW (kM_of l w _ y6 ((3 : Int32) + y1) F G_10 hw) gM_of dM_of ⟨Nat.le_of_ble_eq_true rfl, Nat.le_of_ble_eq_true rfl, Nat.zero_le _, Nat.zero_le _⟩ rfl hl.1 rfl (Nat.le_of_ble_eq_true rfl) dX5_peakBy_148 (fun r_11 F9 G9 H locs hw hW => ?_)
            obtain ⟨eF9, eG9, hw⟩ := hw
            rw [eF9, eG9] at hW
            refine lv_isub hx hb dX5_peakBy_151 ?_
            obtain ⟨hi, hw⟩ := hw
            refine m_iast hx hb hT hW (k := 20) (j := (((x8_7 - y2) / (15 : Int32)).toNatClampNeg)) rfl rfl hi dX5_peakBy_152 (fun G_12 H locs eG_12 hW => ?_)
            have hw := hw G_12 eG_12
            refine lv_iinc (v := (y6 + (1 : Int32))) (lv' := [(6, .int (y6 + (1 : Int32))), (8, .int x8_7), (7, .int x7_5), (0, .ref (mp_h w)), (1, .int y1), (2, .int y2), (3, .int y3), (4, .int y4), (5, .int y5)]) hx hb dX5_peakBy_153 hl (k := 8) rfl rfl (by decide) rfl (fun ls hl => ?_)
            refine lv_goto (tgt := 46) hx hb dX5_peakBy_156 (by decide) ?_
            exact ih46 y1 y2 y3 y4 y5 (y6 + (1 : Int32)) F G_12 _ _ _ (lv_sub hl [3, 4, 5, 6, 7, 8, 0] rfl) hW hw
  have lp22 : ∀ (n22 : Nat) (y1 : Int32) (y2 : Int32) (y3 : Int32) (y4 : Int32) (y5 : Int32) (y6 : Int32) (F : MF) (G : MG) (H : Heap) (locs : List Loc) (ls : Array Slot), lv_has ls 9 [(0, .ref (mp_h w)), (1, .int y1), (2, .int y2), (3, .int y3), (4, .int y4), (5, .int y5), (6, .int y6)] → m_W w s.heap F G H locs → wM_peakBy_l22 post n22 y1 y2 y3 y4 y5 y6 F G → W p l e (mrm 4) s m args below meth c H locs 0 0 Q (F0 m 22 ls []) := by
    intro n22
    induction n22 with
    | zero => intro y1 y2 y3 y4 y5 y6 F G H locs ls hl hW hw; exact hw.elim
    | succ n22 ih22 =>
      intro y1 y2 y3 y4 y5 y6 F G H locs ls hl hW hw
      have hw : wM_peakBy_b22 post (wM_peakBy_l22 post n22) y1 y2 y3 y4 y5 y6 F G := hw
      unfold wM_peakBy_b22 at hw
      refine lv_iload hx hb dX5_peakBy_22 (lv_at hl 6 rfl) ?_
      refine lv_iload hx hb dX5_peakBy_24 (lv_at hl 4 rfl) ?_
      refine lv_icmp_gt (tgt := 43) hx hb dX5_peakBy_26 (by decide) (fun q => ?_) (fun q => ?_)
      · have hw := hw.1 q
        refine lv_iconst (v := (0 : Int32)) hx hb dX5_peakBy_43 (by decide) ?_
        refine lv_istore (lv' := [(6, .int (0 : Int32)), (0, .ref (mp_h w)), (1, .int y1), (2, .int y2), (3, .int y3), (4, .int y4), (5, .int y5)]) hx hb dX5_peakBy_44 hl (by decide) rfl (fun ls hl => ?_)
        obtain ⟨n_13, hw⟩ := hw
        exact lp46 n_13 y1 y2 y3 y4 y5 (0 : Int32) F G _ _ _ (lv_sub hl [1, 2, 3, 4, 5, 6, 0] rfl) hW hw
      · have hw := hw.2 q
        refine lv_aload_n hx hb dX5_peakBy_29 rfl (lv_at hl 0 rfl) ?_
        refine m_get hx hb hown hts hT hW 20 (by decide) (hts _ q2149) rfl (v := .ref (mp_a w 20)) rfl dX5_peakBy_30 ?_
        refine lv_iload hx hb dX5_peakBy_33 (lv_at hl 6 rfl) ?_
        refine lv_iconst (v := (0 : Int32)) hx hb dX5_peakBy_35 (by decide) ?_
        obtain ⟨hi, hw⟩ := hw
        refine m_iast hx hb hT hW (k := 20) (j := (y6.toNatClampNeg)) rfl rfl hi dX5_peakBy_36 (fun G_14 H locs eG_14 hW => ?_)
        have hw := hw G_14 eG_14
        refine lv_iinc (v := (y6 + (1 : Int32))) (lv' := [(6, .int (y6 + (1 : Int32))), (0, .ref (mp_h w)), (1, .int y1), (2, .int y2), (3, .int y3), (4, .int y4), (5, .int y5)]) hx hb dX5_peakBy_37 hl (k := 6) rfl rfl (by decide) rfl (fun ls hl => ?_)
        refine lv_goto (tgt := 22) hx hb dX5_peakBy_40 (by decide) ?_
        exact ih22 y1 y2 y3 y4 y5 (y6 + (1 : Int32)) F G_14 _ _ _ (lv_sub hl [1, 2, 3, 4, 5, 6, 0] rfl) hW hw
  unfold wM_peakBy at hw
  refine lv_iload_n hx hb dX5_peakBy_0 rfl (lv_at hl 3 rfl) ?_
  refine lv_iload_n hx hb dX5_peakBy_1 rfl (lv_at hl 2 rfl) ?_
  refine lv_isub hx hb dX5_peakBy_2 ?_
  refine lv_bipush (v := (15 : Int32)) hx hb dX5_peakBy_3 (by decide) ?_
  refine lv_idiv hx hb dX5_peakBy_5 (by decide) ?_
  refine lv_topi (fun x4_15 ex4_15 => ?_)
  have hw := hw x4_15 ex4_15
  refine lv_istore (lv' := [(4, .int x4_15), (0, .ref (mp_h w)), (1, .int x1), (2, .int x2), (3, .int x3)]) hx hb dX5_peakBy_6 hl (by decide) rfl (fun ls hl => ?_)
  refine lv_aload_n hx hb dX5_peakBy_8 rfl (lv_at hl 1 rfl) ?_
  refine m_get hx hb hown hts hT hW 1 (by decide) (hts _ q2130) rfl (v := .ref (mp_a w 1)) rfl dX5_peakBy_9 ?_
  refine lv_bipush (v := (44 : Int32)) hx hb dX5_peakBy_12 (by decide) ?_
  refine lv_iload_n hx hb dX5_peakBy_14 rfl (lv_at hl 2 rfl) ?_
  refine lv_iadd hx hb dX5_peakBy_15 ?_
  obtain ⟨hi, hw⟩ := hw
  refine m_iald hx hb hT hW (k := 1) (j := (((44 : Int32) + x1).toNatClampNeg)) rfl rfl hi dX5_peakBy_16 ?_
  refine lv_topi (fun x5_16 ex5_16 => ?_)
  have hw := hw x5_16 ex5_16
  refine lv_istore (lv' := [(5, .int x5_16), (4, .int x4_15), (0, .ref (mp_h w)), (1, .int x1), (2, .int x2), (3, .int x3)]) hx hb dX5_peakBy_17 hl (by decide) rfl (fun ls hl => ?_)
  refine lv_iconst (v := (0 : Int32)) hx hb dX5_peakBy_19 (by decide) ?_
  refine lv_istore (lv' := [(6, .int (0 : Int32)), (5, .int x5_16), (4, .int x4_15), (0, .ref (mp_h w)), (1, .int x1), (2, .int x2), (3, .int x3)]) hx hb dX5_peakBy_20 hl (by decide) rfl (fun ls hl => ?_)
  obtain ⟨n_17, hw⟩ := hw
  exact lp22 n_17 x1 x2 x3 x4_15 x5_16 (0 : Int32) F G _ _ _ (lv_sub hl [3, 4, 5, 6, 2, 1, 0] rfl) hW hw
theorem gM_peakBy : GoodIn lw_all (wsV RX5 263 RX5 yX5_peakBy (ws_ yX5_peakBy cX5_peakBy 9 (some .int))) := lw_V q2457 q2459 qs110 q154 q2460
theorem dM_peakBy : yX5_peakBy.cls = RX5 ∧ yX5_peakBy.cls ≠ "java/lang/invoke/MethodHandle" ∧ yX5_peakBy.cls ≠ "java/lang/invoke/VarHandle" ∧ (parseMethodDescriptor yX5_peakBy.desc).map (fun d => d.parameters.length) = some 3 := by decide +kernel

/-! isShort -/
def wM_isShort_b2 (post : Int32 → MF → MG → Prop) (K2 : Int32 → Int32 → MF → MG → Prop) (y1 : Int32) (y2 : Int32) (F : MF) (G : MG) : Prop :=
  ((G 1 2) ≤ y2 → post (0 : Int32) F G) ∧ (¬ (G 1 2) ≤ y2 → vp_in ((3 : Int32) + y2) 9 ∧ ∀ x3_1 : Int32, x3_1 = (G 7 (((3 : Int32) + y2).toNatClampNeg)) → vp_in ((44 : Int32) + y2) 166 ∧ ∀ x4_2 : Int32, x4_2 = (G 1 (((44 : Int32) + y2).toNatClampNeg)) → (x3_1 ≤ 0 → K2 y1 (y2 + (1 : Int32)) F G) ∧ (¬ x3_1 ≤ 0 → wM_peakBy (fun r_3 F_4 G_5 => vp_in ((32 : Int32) + y2) 166 ∧ ((x3_1 + r_3) ≤ (G_5 1 (((32 : Int32) + y2).toNatClampNeg)) → K2 y1 (y2 + (1 : Int32)) F_4 G_5) ∧ (¬ (x3_1 + r_3) ≤ (G_5 1 (((32 : Int32) + y2).toNatClampNeg)) → post (1 : Int32) F_4 G_5)) y2 (y1 - x4_2) ((y1 + (G 7 2)) + x4_2) F G))
def wM_isShort_l2 (post : Int32 → MF → MG → Prop) : Nat → Int32 → Int32 → MF → MG → Prop
  | 0 => fun _ _ _ _ => False
  | n + 1 => wM_isShort_b2 post (wM_isShort_l2 post n)
def wM_isShort (post : Int32 → MF → MG → Prop) (x1 : Int32) (F : MF) (G : MG) : Prop :=
  ∃ n, wM_isShort_l2 post n x1 (0 : Int32) F G
set_option maxHeartbeats 4000000 in
theorem kM_isShort (l : Launch) (w : MP) (post : Int32 → MF → MG → Prop) (x1 : Int32) (F : MF) (G : MG) (hw : wM_isShort post x1 F G) : m_Mi l w yX5_isShort cX5_isShort 5 .boolean 5 [.ref (mp_h w), .int x1] F G post := by
  refine m_ofWi (by decide) rfl (Nat.le_of_ble_eq_true rfl) (fun r => r = 0 ∨ r = 1) (fun _ h => m_nb h) ?_
  intro p e s m args below meth c Q ls hA hW hQ
  obtain ⟨hE, hT, hl⟩ := hA
  obtain ⟨hx, hb, hml, hown, hts⟩ := id hE
  have hl : lv_has ls 5 [(0, .ref (mp_h w)), (1, .int x1)] := hl
  have lp2 : ∀ (n2 : Nat) (y1 : Int32) (y2 : Int32) (F : MF) (G : MG) (H : Heap) (locs : List Loc) (ls : Array Slot), lv_has ls 5 [(0, .ref (mp_h w)), (1, .int y1), (2, .int y2)] → m_W w s.heap F G H locs → wM_isShort_l2 post n2 y1 y2 F G → W p l e (mrm 5) s m args below meth c H locs 0 0 Q (F0 m 2 ls []) := by
    intro n2
    induction n2 with
    | zero => intro y1 y2 F G H locs ls hl hW hw; exact hw.elim
    | succ n2 ih2 =>
      intro y1 y2 F G H locs ls hl hW hw
      have hw : wM_isShort_b2 post (wM_isShort_l2 post n2) y1 y2 F G := hw
      unfold wM_isShort_b2 at hw
      refine lv_iload_n hx hb dX5_isShort_2 rfl (lv_at hl 2 rfl) ?_
      refine lv_aload_n hx hb dX5_isShort_3 rfl (lv_at hl 0 rfl) ?_
      refine m_get hx hb hown hts hT hW 1 (by decide) (hts _ q2130) rfl (v := .ref (mp_a w 1)) rfl dX5_isShort_4 ?_
      refine lv_iconst (v := (2 : Int32)) hx hb dX5_isShort_7 (by decide) ?_
      refine m_iald hx hb hT hW (k := 1) (j := 2) (by decide) rfl (by unfold vp_in; decide) dX5_isShort_8 ?_
      refine lv_icmp_ge (tgt := 78) hx hb dX5_isShort_9 (by decide) (fun q => ?_) (fun q => ?_)
      · have hw := hw.1 q
        refine lv_iconst (v := (0 : Int32)) hx hb dX5_isShort_78 (by decide) ?_
        exact hQ _ _ _ _ _ (by decide) hw hW _ _ dX5_isShort_79
      · have hw := hw.2 q
        refine lv_aload_n hx hb dX5_isShort_12 rfl (lv_at hl 0 rfl) ?_
        refine m_get hx hb hown hts hT hW 7 (by decide) (hts _ q2136) rfl (v := .ref (mp_a w 7)) rfl dX5_isShort_13 ?_
        refine lv_iconst (v := (3 : Int32)) hx hb dX5_isShort_16 (by decide) ?_
        refine lv_iload_n hx hb dX5_isShort_17 rfl (lv_at hl 2 rfl) ?_
        refine lv_iadd hx hb dX5_isShort_18 ?_
        obtain ⟨hi, hw⟩ := hw
        refine m_iald hx hb hT hW (k := 7) (j := (((3 : Int32) + y2).toNatClampNeg)) rfl rfl hi dX5_isShort_19 ?_
        refine lv_topi (fun x3_1 ex3_1 => ?_)
        have hw := hw x3_1 ex3_1
        refine lv_istore_n (lv' := [(3, .int x3_1), (0, .ref (mp_h w)), (1, .int y1), (2, .int y2)]) hx hb dX5_isShort_20 rfl hl (by decide) rfl (fun ls hl => ?_)
        refine lv_aload_n hx hb dX5_isShort_21 rfl (lv_at hl 1 rfl) ?_
        refine m_get hx hb hown hts hT hW 1 (by decide) (hts _ q2130) rfl (v := .ref (mp_a w 1)) rfl dX5_isShort_22 ?_
        refine lv_bipush (v := (44 : Int32)) hx hb dX5_isShort_25 (by decide) ?_
        refine lv_iload_n hx hb dX5_isShort_27 rfl (lv_at hl 3 rfl) ?_
        refine lv_iadd hx hb dX5_isShort_28 ?_
        obtain ⟨hi, hw⟩ := hw
        refine m_iald hx hb hT hW (k := 1) (j := (((44 : Int32) + y2).toNatClampNeg)) rfl rfl hi dX5_isShort_29 ?_
        refine lv_topi (fun x4_2 ex4_2 => ?_)
        have hw := hw x4_2 ex4_2
        refine lv_istore (lv' := [(4, .int x4_2), (3, .int x3_1), (0, .ref (mp_h w)), (1, .int y1), (2, .int y2)]) hx hb dX5_isShort_30 hl (by decide) rfl (fun ls hl => ?_)
        refine lv_iload_n hx hb dX5_isShort_32 rfl (lv_at hl 1 rfl) ?_
        refine lv_if_le (tgt := 72) hx hb dX5_isShort_33 (by decide) (fun q => ?_) (fun q => ?_)
        · have hw := hw.1 q
          refine lv_iinc (v := (y2 + (1 : Int32))) (lv' := [(2, .int (y2 + (1 : Int32))), (4, .int x4_2), (3, .int x3_1), (0, .ref (mp_h w)), (1, .int y1)]) hx hb dX5_isShort_72 hl (k := 4) rfl rfl (by decide) rfl (fun ls hl => ?_)
          refine lv_goto (tgt := 2) hx hb dX5_isShort_75 (by decide) ?_
          exact ih2 y1 (y2 + (1 : Int32)) F G _ _ _ (lv_sub hl [3, 4, 0] rfl) hW hw
        · have hw := hw.2 q
          refine lv_iload_n hx hb dX5_isShort_36 rfl (lv_at hl 1 rfl) ?_
          refine lv_aload_n hx hb dX5_isShort_37 rfl (lv_at hl 2 rfl) ?_
          refine lv_iload_n hx hb dX5_isShort_38 rfl (lv_at hl 4 rfl) ?_
          refine lv_iload_n hx hb dX5_isShort_39 rfl (lv_at hl 3 rfl) ?_
          refine lv_iload hx hb dX5_isShort_40 (lv_at hl 0 rfl) ?_
          refine lv_isub hx hb dX5_isShort_42 ?_
          refine lv_iload_n hx hb dX5_isShort_43 rfl (lv_at hl 3 rfl) ?_
          refine lv_aload_n hx hb dX5_isShort_44 rfl (lv_at hl 2 rfl) ?_
          refine m_get hx hb hown hts hT hW 7 (by decide) (hts _ q2136) rfl (v := .ref (mp_a w 7)) rfl dX5_isShort_45 ?_
          refine lv_iconst (v := (2 : Int32)) hx hb dX5_isShort_48 (by decide) ?_
          refine m_iald hx hb hT hW (k := 7) (j := 2) (by decide) rfl (by unfold vp_in; decide) dX5_isShort_49 ?_
          refine lv_iadd hx hb dX5_isShort_50 ?_
          refine lv_iload hx hb dX5_isShort_51 (lv_at hl 0 rfl) ?_
          refine lv_iadd hx hb dX5_isShort_53 ?_
          refine m_Vi (rest := [.int x3_1]) hE hT hW (kM_peakBy l w _ y2 (y1 - x4_2) ((y1 + (G 7 2)) + x4_2) F G hw) gM_peakBy dM_peakBy ⟨Nat.le_of_ble_eq_true rfl, Nat.le_of_ble_eq_true rfl, Nat.zero_le _, Nat.zero_le _⟩ rfl hl.1 rfl (Nat.le_of_ble_eq_true rfl) dX5_isShort_54 (fun r_3 F_4 G_5 H locs hw hW => ?_)
          refine lv_iadd hx hb dX5_isShort_57 ?_
          refine lv_aload_n hx hb dX5_isShort_58 rfl (lv_at hl 2 rfl) ?_
          refine m_get hx hb hown hts hT hW 1 (by decide) (hts _ q2130) rfl (v := .ref (mp_a w 1)) rfl dX5_isShort_59 ?_
          refine lv_bipush (v := (32 : Int32)) hx hb dX5_isShort_62 (by decide) ?_
          refine lv_iload_n hx hb dX5_isShort_64 rfl (lv_at hl 4 rfl) ?_
          refine lv_iadd hx hb dX5_isShort_65 ?_
          obtain ⟨hi, hw⟩ := hw
          refine m_iald hx hb hT hW (k := 1) (j := (((32 : Int32) + y2).toNatClampNeg)) rfl rfl hi dX5_isShort_66 ?_
          refine lv_icmp_le (tgt := 72) hx hb dX5_isShort_67 (by decide) (fun q => ?_) (fun q => ?_)
          · have hw := hw.1 q
            refine lv_iinc (v := (y2 + (1 : Int32))) (lv' := [(2, .int (y2 + (1 : Int32))), (4, .int x4_2), (3, .int x3_1), (0, .ref (mp_h w)), (1, .int y1)]) hx hb dX5_isShort_72 hl (k := 4) rfl rfl (by decide) rfl (fun ls hl => ?_)
            refine lv_goto (tgt := 2) hx hb dX5_isShort_75 (by decide) ?_
            exact ih2 y1 (y2 + (1 : Int32)) F_4 G_5 _ _ _ (lv_sub hl [3, 4, 0] rfl) hW hw
          · have hw := hw.2 q
            refine lv_iconst (v := (1 : Int32)) hx hb dX5_isShort_70 (by decide) ?_
            exact hQ _ _ _ _ _ (by decide) hw hW _ _ dX5_isShort_71
  unfold wM_isShort at hw
  refine lv_iconst (v := (0 : Int32)) hx hb dX5_isShort_0 (by decide) ?_
  refine lv_istore_n (lv' := [(2, .int (0 : Int32)), (0, .ref (mp_h w)), (1, .int x1)]) hx hb dX5_isShort_1 rfl hl (by decide) rfl (fun ls hl => ?_)
  obtain ⟨n_6, hw⟩ := hw
  exact lp2 n_6 x1 (0 : Int32) F G _ _ _ (lv_sub hl [1, 2, 0] rfl) hW hw
theorem gM_isShort : GoodIn lw_all (wsV RX5 276 RX5 yX5_isShort (ws_ yX5_isShort cX5_isShort 5 (some .boolean))) := lw_V q2453 q2455 qs109 q154 q2456
theorem dM_isShort : yX5_isShort.cls = RX5 ∧ yX5_isShort.cls ≠ "java/lang/invoke/MethodHandle" ∧ yX5_isShort.cls ≠ "java/lang/invoke/VarHandle" ∧ (parseMethodDescriptor yX5_isShort.desc).map (fun d => d.parameters.length) = some 1 := by decide +kernel

/-! problemOf -/
def wM_problemOf (post : Int32 → MF → MG → Prop) (x1 : Int32) (x2 : Int32) (F : MF) (G : MG) : Prop :=
  ∀ x3_1 : Int32, x3_1 = (x2 + (G 7 2)) → ((G 8 0) ≤ x2 → vp_in ((14 : Int32) + x1) 166 ∧ ((x2 - x2 / (1440 : Int32) * (1440 : Int32)) < (G 1 (((14 : Int32) + x1).toNatClampNeg)) → post (2 : Int32) F G) ∧ (¬ (x2 - x2 / (1440 : Int32) * (1440 : Int32)) < (G 1 (((14 : Int32) + x1).toNatClampNeg)) → vp_in ((20 : Int32) + x1) 166 ∧ (((x2 - x2 / (1440 : Int32) * (1440 : Int32)) + (G 7 2)) ≤ (G 1 (((20 : Int32) + x1).toNatClampNeg)) → vp_in ((8 : Int32) + x1) 166 ∧ ((G 7 1) ≤ (G 1 (((8 : Int32) + x1).toNatClampNeg)) → wM_isShutIn (fun r_2 => (r_2 = 0 → wM_isWeeklyIn (fun r_3 => (r_3 = 0 → wM_isAnyNear (fun r_4 => (r_4 = 0 → wM_isShort (fun r_5 F_6 G_7 => (r_5 = 0 → post (0 : Int32) F_6 G_7) ∧ (¬ r_5 = 0 → post (6 : Int32) F_6 G_7)) x2 F G) ∧ (¬ r_4 = 0 → post (5 : Int32) F G)) x1 x2 F G) ∧ (¬ r_3 = 0 → post (4 : Int32) F G)) x2 x3_1 F G) ∧ (¬ r_2 = 0 → post (4 : Int32) F G)) x1 x2 x3_1 F G) ∧ (¬ (G 7 1) ≤ (G 1 (((8 : Int32) + x1).toNatClampNeg)) → post (3 : Int32) F G)) ∧ (¬ ((x2 - x2 / (1440 : Int32) * (1440 : Int32)) + (G 7 2)) ≤ (G 1 (((20 : Int32) + x1).toNatClampNeg)) → post (2 : Int32) F G))) ∧ (¬ (G 8 0) ≤ x2 → post (1 : Int32) F G)
set_option maxHeartbeats 4000000 in
theorem kM_problemOf (l : Launch) (w : MP) (post : Int32 → MF → MG → Prop) (x1 : Int32) (x2 : Int32) (F : MF) (G : MG) (hw : wM_problemOf post x1 x2 F G) : m_Mi l w yX5_problemOf cX5_problemOf 4 .int 6 [.ref (mp_h w), .int x1, .int x2] F G post := by
  refine m_ofWi (by decide) rfl (Nat.le_of_ble_eq_true rfl) (fun _ => True) (fun _ _ => rfl) ?_
  intro p e s m args below meth c Q ls hA hW hQ
  obtain ⟨hE, hT, hl⟩ := hA
  obtain ⟨hx, hb, hml, hown, hts⟩ := id hE
  have hl : lv_has ls 4 [(0, .ref (mp_h w)), (1, .int x1), (2, .int x2)] := hl
  unfold wM_problemOf at hw
  refine lv_iload_n hx hb dX5_problemOf_0 rfl (lv_at hl 2 rfl) ?_
  refine lv_aload_n hx hb dX5_problemOf_1 rfl (lv_at hl 0 rfl) ?_
  refine m_get hx hb hown hts hT hW 7 (by decide) (hts _ q2136) rfl (v := .ref (mp_a w 7)) rfl dX5_problemOf_2 ?_
  refine lv_iconst (v := (2 : Int32)) hx hb dX5_problemOf_5 (by decide) ?_
  refine m_iald hx hb hT hW (k := 7) (j := 2) (by decide) rfl (by unfold vp_in; decide) dX5_problemOf_6 ?_
  refine lv_iadd hx hb dX5_problemOf_7 ?_
  refine lv_topi (fun x3_1 ex3_1 => ?_)
  have hw := hw x3_1 ex3_1
  refine lv_istore_n (lv' := [(3, .int x3_1), (0, .ref (mp_h w)), (1, .int x1), (2, .int x2)]) hx hb dX5_problemOf_8 rfl hl (by decide) rfl (fun ls hl => ?_)
  refine lv_iload_n hx hb dX5_problemOf_9 rfl (lv_at hl 3 rfl) ?_
  refine lv_aload_n hx hb dX5_problemOf_10 rfl (lv_at hl 1 rfl) ?_
  refine m_get hx hb hown hts hT hW 8 (by decide) (hts _ q2137) rfl (v := .ref (mp_a w 8)) rfl dX5_problemOf_11 ?_
  refine lv_iconst (v := (0 : Int32)) hx hb dX5_problemOf_14 (by decide) ?_
  refine m_iald hx hb hT hW (k := 8) (j := 0) (by decide) rfl (by unfold vp_in; decide) dX5_problemOf_15 ?_
  refine lv_icmp_ge (tgt := 21) hx hb dX5_problemOf_16 (by decide) (fun q => ?_) (fun q => ?_)
  · have hw := hw.1 q
    refine lv_iload_n hx hb dX5_problemOf_21 rfl (lv_at hl 3 rfl) ?_
    refine lv_sipush (v := (1440 : Int32)) hx hb dX5_problemOf_22 (by decide) ?_
    refine lv_irem hx hb dX5_problemOf_25 (by decide) ?_
    refine lv_aload_n hx hb dX5_problemOf_26 rfl (lv_at hl 1 rfl) ?_
    refine m_get hx hb hown hts hT hW 1 (by decide) (hts _ q2130) rfl (v := .ref (mp_a w 1)) rfl dX5_problemOf_27 ?_
    refine lv_bipush (v := (14 : Int32)) hx hb dX5_problemOf_30 (by decide) ?_
    refine lv_iload_n hx hb dX5_problemOf_32 rfl (lv_at hl 2 rfl) ?_
    refine lv_iadd hx hb dX5_problemOf_33 ?_
    obtain ⟨hi, hw⟩ := hw
    refine m_iald hx hb hT hW (k := 1) (j := (((14 : Int32) + x1).toNatClampNeg)) rfl rfl hi dX5_problemOf_34 ?_
    refine lv_icmp_lt (tgt := 62) hx hb dX5_problemOf_35 (by decide) (fun q => ?_) (fun q => ?_)
    · have hw := hw.1 q
      refine lv_iconst (v := (2 : Int32)) hx hb dX5_problemOf_62 (by decide) ?_
      exact hQ _ _ _ _ _ trivial hw hW _ _ dX5_problemOf_63
    · have hw := hw.2 q
      refine lv_iload_n hx hb dX5_problemOf_38 rfl (lv_at hl 3 rfl) ?_
      refine lv_sipush (v := (1440 : Int32)) hx hb dX5_problemOf_39 (by decide) ?_
      refine lv_irem hx hb dX5_problemOf_42 (by decide) ?_
      refine lv_aload_n hx hb dX5_problemOf_43 rfl (lv_at hl 1 rfl) ?_
      refine m_get hx hb hown hts hT hW 7 (by decide) (hts _ q2136) rfl (v := .ref (mp_a w 7)) rfl dX5_problemOf_44 ?_
      refine lv_iconst (v := (2 : Int32)) hx hb dX5_problemOf_47 (by decide) ?_
      refine m_iald hx hb hT hW (k := 7) (j := 2) (by decide) rfl (by unfold vp_in; decide) dX5_problemOf_48 ?_
      refine lv_iadd hx hb dX5_problemOf_49 ?_
      refine lv_aload_n hx hb dX5_problemOf_50 rfl (lv_at hl 1 rfl) ?_
      refine m_get hx hb hown hts hT hW 1 (by decide) (hts _ q2130) rfl (v := .ref (mp_a w 1)) rfl dX5_problemOf_51 ?_
      refine lv_bipush (v := (20 : Int32)) hx hb dX5_problemOf_54 (by decide) ?_
      refine lv_iload_n hx hb dX5_problemOf_56 rfl (lv_at hl 2 rfl) ?_
      refine lv_iadd hx hb dX5_problemOf_57 ?_
      obtain ⟨hi, hw⟩ := hw
      refine m_iald hx hb hT hW (k := 1) (j := (((20 : Int32) + x1).toNatClampNeg)) rfl rfl hi dX5_problemOf_58 ?_
      refine lv_icmp_le (tgt := 64) hx hb dX5_problemOf_59 (by decide) (fun q => ?_) (fun q => ?_)
      · have hw := hw.1 q
        refine lv_aload_n hx hb dX5_problemOf_64 rfl (lv_at hl 1 rfl) ?_
        refine m_get hx hb hown hts hT hW 7 (by decide) (hts _ q2136) rfl (v := .ref (mp_a w 7)) rfl dX5_problemOf_65 ?_
        refine lv_iconst (v := (1 : Int32)) hx hb dX5_problemOf_68 (by decide) ?_
        refine m_iald hx hb hT hW (k := 7) (j := 1) (by decide) rfl (by unfold vp_in; decide) dX5_problemOf_69 ?_
        refine lv_aload_n hx hb dX5_problemOf_70 rfl (lv_at hl 1 rfl) ?_
        refine m_get hx hb hown hts hT hW 1 (by decide) (hts _ q2130) rfl (v := .ref (mp_a w 1)) rfl dX5_problemOf_71 ?_
        refine lv_bipush (v := (8 : Int32)) hx hb dX5_problemOf_74 (by decide) ?_
        refine lv_iload_n hx hb dX5_problemOf_76 rfl (lv_at hl 2 rfl) ?_
        refine lv_iadd hx hb dX5_problemOf_77 ?_
        obtain ⟨hi, hw⟩ := hw
        refine m_iald hx hb hT hW (k := 1) (j := (((8 : Int32) + x1).toNatClampNeg)) rfl rfl hi dX5_problemOf_78 ?_
        refine lv_icmp_le (tgt := 84) hx hb dX5_problemOf_79 (by decide) (fun q => ?_) (fun q => ?_)
        · have hw := hw.1 q
          refine lv_aload_n hx hb dX5_problemOf_84 rfl (lv_at hl 1 rfl) ?_
          refine lv_iload_n hx hb dX5_problemOf_85 rfl (lv_at hl 2 rfl) ?_
          refine lv_iload_n hx hb dX5_problemOf_86 rfl (lv_at hl 3 rfl) ?_
          refine lv_iload_n hx hb dX5_problemOf_87 rfl (lv_at hl 0 rfl) ?_
          refine m_Vi (rest := []) hE hT hW (kM_isShutIn l w _ x1 x2 x3_1 F G hw) gM_isShutIn dM_isShutIn ⟨Nat.le_of_ble_eq_true rfl, Nat.le_of_ble_eq_true rfl, Nat.zero_le _, Nat.zero_le _⟩ rfl hl.1 rfl (Nat.le_of_ble_eq_true rfl) dX5_problemOf_88 (fun r_2 F9 G9 H locs hw hW => ?_)
          obtain ⟨eF9, eG9, hw⟩ := hw
          rw [eF9, eG9] at hW
          refine lv_if_ne (tgt := 103) hx hb dX5_problemOf_91 (by decide) (fun q => ?_) (fun q => ?_)
          · have hw := hw.2 q
            refine lv_iconst (v := (4 : Int32)) hx hb dX5_problemOf_103 (by decide) ?_
            exact hQ _ _ _ _ _ trivial hw hW _ _ dX5_problemOf_104
          · have hw := hw.1 q
            refine lv_aload_n hx hb dX5_problemOf_94 rfl (lv_at hl 1 rfl) ?_
            refine lv_iload_n hx hb dX5_problemOf_95 rfl (lv_at hl 3 rfl) ?_
            refine lv_iload_n hx hb dX5_problemOf_96 rfl (lv_at hl 0 rfl) ?_
            refine m_Vi (rest := []) hE hT hW (kM_isWeeklyIn l w _ x2 x3_1 F G hw) gM_isWeeklyIn dM_isWeeklyIn ⟨Nat.le_of_ble_eq_true rfl, Nat.le_of_ble_eq_true rfl, Nat.zero_le _, Nat.zero_le _⟩ rfl hl.1 rfl (Nat.le_of_ble_eq_true rfl) dX5_problemOf_97 (fun r_3 F9 G9 H locs hw hW => ?_)
            obtain ⟨eF9, eG9, hw⟩ := hw
            rw [eF9, eG9] at hW
            refine lv_if_eq (tgt := 105) hx hb dX5_problemOf_100 (by decide) (fun q => ?_) (fun q => ?_)
            · have hw := hw.1 q
              refine lv_aload_n hx hb dX5_problemOf_105 rfl (lv_at hl 1 rfl) ?_
              refine lv_iload_n hx hb dX5_problemOf_106 rfl (lv_at hl 2 rfl) ?_
              refine lv_iload_n hx hb dX5_problemOf_107 rfl (lv_at hl 3 rfl) ?_
              refine m_Vi (rest := []) hE hT hW (kM_isAnyNear l w _ x1 x2 F G hw) gM_isAnyNear dM_isAnyNear ⟨Nat.le_of_ble_eq_true rfl, Nat.le_of_ble_eq_true rfl, Nat.zero_le _, Nat.zero_le _⟩ rfl hl.1 rfl (Nat.le_of_ble_eq_true rfl) dX5_problemOf_108 (fun r_4 F9 G9 H locs hw hW => ?_)
              obtain ⟨eF9, eG9, hw⟩ := hw
              rw [eF9, eG9] at hW
              refine lv_if_eq (tgt := 116) hx hb dX5_problemOf_111 (by decide) (fun q => ?_) (fun q => ?_)
              · have hw := hw.1 q
                refine lv_aload_n hx hb dX5_problemOf_116 rfl (lv_at hl 1 rfl) ?_
                refine lv_iload_n hx hb dX5_problemOf_117 rfl (lv_at hl 3 rfl) ?_
                refine m_Vi (rest := []) hE hT hW (kM_isShort l w _ x2 F G hw) gM_isShort dM_isShort ⟨Nat.le_of_ble_eq_true rfl, Nat.le_of_ble_eq_true rfl, Nat.zero_le _, Nat.zero_le _⟩ rfl hl.1 rfl (Nat.le_of_ble_eq_true rfl) dX5_problemOf_118 (fun r_5 F_6 G_7 H locs hw hW => ?_)
                refine lv_if_eq (tgt := 129) hx hb dX5_problemOf_121 (by decide) (fun q => ?_) (fun q => ?_)
                · have hw := hw.1 q
                  refine lv_iconst (v := (0 : Int32)) hx hb dX5_problemOf_129 (by decide) ?_
                  exact hQ _ _ _ _ _ trivial hw hW _ _ dX5_problemOf_130
                · have hw := hw.2 q
                  refine lv_bipush (v := (6 : Int32)) hx hb dX5_problemOf_124 (by decide) ?_
                  refine lv_goto (tgt := 130) hx hb dX5_problemOf_126 (by decide) ?_
                  exact hQ _ _ _ _ _ trivial hw hW _ _ dX5_problemOf_130
              · have hw := hw.2 q
                refine lv_iconst (v := (5 : Int32)) hx hb dX5_problemOf_114 (by decide) ?_
                exact hQ _ _ _ _ _ trivial hw hW _ _ dX5_problemOf_115
            · have hw := hw.2 q
              refine lv_iconst (v := (4 : Int32)) hx hb dX5_problemOf_103 (by decide) ?_
              exact hQ _ _ _ _ _ trivial hw hW _ _ dX5_problemOf_104
        · have hw := hw.2 q
          refine lv_iconst (v := (3 : Int32)) hx hb dX5_problemOf_82 (by decide) ?_
          exact hQ _ _ _ _ _ trivial hw hW _ _ dX5_problemOf_83
      · have hw := hw.2 q
        refine lv_iconst (v := (2 : Int32)) hx hb dX5_problemOf_62 (by decide) ?_
        exact hQ _ _ _ _ _ trivial hw hW _ _ dX5_problemOf_63
  · have hw := hw.2 q
    refine lv_iconst (v := (1 : Int32)) hx hb dX5_problemOf_19 (by decide) ?_
    exact hQ _ _ _ _ _ trivial hw hW _ _ dX5_problemOf_20
theorem gM_problemOf : GoodIn lw_all (wsV RX5 283 RX5 yX5_problemOf (ws_ yX5_problemOf cX5_problemOf 4 (some .int))) := lw_V q2410 q2412 qs99 q154 q2413
theorem dM_problemOf : yX5_problemOf.cls = RX5 ∧ yX5_problemOf.cls ≠ "java/lang/invoke/MethodHandle" ∧ yX5_problemOf.cls ≠ "java/lang/invoke/VarHandle" ∧ (parseMethodDescriptor yX5_problemOf.desc).map (fun d => d.parameters.length) = some 2 := by decide +kernel

/-! draftProblem -/
def wM_draftProblem (post : Int32 → MF → MG → Prop) (x1 : Int32) (x2 : Int32) (F : MF) (G : MG) : Prop :=
  wM_asks (fun F_1 G_2 => wM_problemOf (fun r_3 F_4 G_5 => post r_3 F_4 G_5) x1 x2 F_1 G_2) (6) (0 : Int32) F G
set_option maxHeartbeats 4000000 in
theorem kM_draftProblem (l : Launch) (w : MP) (post : Int32 → MF → MG → Prop) (x1 : Int32) (x2 : Int32) (F : MF) (G : MG) (hw : wM_draftProblem post x1 x2 F G) : m_Mi l w yX5_draftProblem cX5_draftProblem 3 .int 7 [.ref (mp_h w), .int x1, .int x2] F G post := by
  refine m_ofWi (by decide) rfl (Nat.le_of_ble_eq_true rfl) (fun _ => True) (fun _ _ => rfl) ?_
  intro p e s m args below meth c Q ls hA hW hQ
  obtain ⟨hE, hT, hl⟩ := hA
  obtain ⟨hx, hb, hml, hown, hts⟩ := id hE
  have hl : lv_has ls 3 [(0, .ref (mp_h w)), (1, .int x1), (2, .int x2)] := hl
  unfold wM_draftProblem at hw
  refine lv_aload_n hx hb dX5_draftProblem_0 rfl (lv_at hl 0 rfl) ?_
  refine lv_aload_n hx hb dX5_draftProblem_1 rfl (lv_at hl 0 rfl) ?_
  refine m_get hx hb hown hts hT hW 6 (by decide) (hts _ q2135) rfl (v := .ref (mp_a w 6)) rfl dX5_draftProblem_2 ?_
  refine lv_iconst (v := (0 : Int32)) hx hb dX5_draftProblem_5 (by decide) ?_
  refine m_Vv (rest := []) hE hT hW (kM_asks l w _ (6) (0 : Int32) F G hw) gM_asks dM_asks ⟨Nat.le_of_ble_eq_true rfl, Nat.le_of_ble_eq_true rfl, Nat.zero_le _, Nat.zero_le _⟩ rfl hl.1 rfl (Nat.le_of_ble_eq_true rfl) dX5_draftProblem_6 (fun F_1 G_2 H locs hw hW => ?_)
  refine lv_aload_n hx hb dX5_draftProblem_9 rfl (lv_at hl 0 rfl) ?_
  refine lv_iload_n hx hb dX5_draftProblem_10 rfl (lv_at hl 1 rfl) ?_
  refine lv_iload_n hx hb dX5_draftProblem_11 rfl (lv_at hl 2 rfl) ?_
  refine m_Vi (rest := []) hE hT hW (kM_problemOf l w _ x1 x2 F_1 G_2 hw) gM_problemOf dM_problemOf ⟨Nat.le_of_ble_eq_true rfl, Nat.le_of_ble_eq_true rfl, Nat.zero_le _, Nat.zero_le _⟩ rfl hl.1 rfl (Nat.le_of_ble_eq_true rfl) dX5_draftProblem_12 (fun r_3 F_4 G_5 H locs hw hW => ?_)
  exact hQ _ _ _ _ _ trivial hw hW _ _ dX5_draftProblem_15
theorem gM_draftProblem : GoodIn lw_all (wsV RX5 311 RX5 yX5_draftProblem (ws_ yX5_draftProblem cX5_draftProblem 3 (some .int))) := lw_V q2402 q2404 qs97 q154 q2405
theorem dM_draftProblem : yX5_draftProblem.cls = RX5 ∧ yX5_draftProblem.cls ≠ "java/lang/invoke/MethodHandle" ∧ yX5_draftProblem.cls ≠ "java/lang/invoke/VarHandle" ∧ (parseMethodDescriptor yX5_draftProblem.desc).map (fun d => d.parameters.length) = some 2 := by decide +kernel

/-! remembers -/
def wM_remembers_b52 (post : MF → MG → Prop) (K52 : Int32 → MF → MG → Prop) (y1 : Int32) (F : MF) (G : MG) : Prop :=
  ((1052 : Int32) ≤ y1 → ∀ F_1 : MF, F_1 = upd F 11 ((F 11) + (1 : Int32)) → post F_1 G) ∧ (¬ (1052 : Int32) ≤ y1 → vp_in y1 1052 ∧ vp_in (((1052 : Int32) * (F 11)) + y1) 8416 ∧ ∀ G_2 : MG, G_2 = mu G 10 ((((1052 : Int32) * (F 11)) + y1).toNatClampNeg) (G 8 (y1.toNatClampNeg)) → K52 (y1 + (1 : Int32)) F G_2)
def wM_remembers_l52 (post : MF → MG → Prop) : Nat → Int32 → MF → MG → Prop
  | 0 => fun _ _ _ => False
  | n + 1 => wM_remembers_b52 post (wM_remembers_l52 post n)
def wM_remembers_b11 (post : MF → MG → Prop) (K11 : Int32 → MF → MG → Prop) (y1 : Int32) (F : MF) (G : MG) : Prop :=
  ((7364 : Int32) ≤ y1 → ∀ F_3 : MF, F_3 = upd F 11 ((F 11) - (1 : Int32)) → ∃ n, wM_remembers_l52 post n (0 : Int32) F_3 G) ∧ (¬ (7364 : Int32) ≤ y1 → vp_in (y1 + (1052 : Int32)) 8416 ∧ vp_in y1 8416 ∧ ∀ G_5 : MG, G_5 = mu G 10 (y1.toNatClampNeg) (G 10 ((y1 + (1052 : Int32)).toNatClampNeg)) → K11 (y1 + (1 : Int32)) F G_5)
def wM_remembers_l11 (post : MF → MG → Prop) : Nat → Int32 → MF → MG → Prop
  | 0 => fun _ _ _ => False
  | n + 1 => wM_remembers_b11 post (wM_remembers_l11 post n)
def wM_remembers (post : MF → MG → Prop) (F : MF) (G : MG) : Prop :=
  ((F 11) = (8 : Int32) → ∃ n, wM_remembers_l11 post n (0 : Int32) F G) ∧ (¬ (F 11) = (8 : Int32) → ∃ n, wM_remembers_l52 post n (0 : Int32) F G)
set_option maxHeartbeats 4000000 in
theorem kM_remembers (l : Launch) (w : MP) (post : MF → MG → Prop) (F : MF) (G : MG) (hw : wM_remembers post F G) : m_Mv l w yX5_remembers cX5_remembers 2 0 [.ref (mp_h w)] F G post := by
  refine m_ofWv (by decide) rfl (Nat.le_of_ble_eq_true rfl) ?_
  intro p e s m args below meth c Q ls hA hW hQ
  obtain ⟨hE, hT, hl⟩ := hA
  obtain ⟨hx, hb, hml, hown, hts⟩ := id hE
  have hl : lv_has ls 2 [(0, .ref (mp_h w))] := hl
  have lp52 : ∀ (n52 : Nat) (y1 : Int32) (F : MF) (G : MG) (H : Heap) (locs : List Loc) (ls : Array Slot), lv_has ls 2 [(0, .ref (mp_h w)), (1, .int y1)] → m_W w s.heap F G H locs → wM_remembers_l52 post n52 y1 F G → W p l e (mrm 0) s m args below meth c H locs 0 0 Q (F0 m 52 ls []) := by
    intro n52
    induction n52 with
    | zero => intro y1 F G H locs ls hl hW hw; exact hw.elim
    | succ n52 ih52 =>
      intro y1 F G H locs ls hl hW hw
      have hw : wM_remembers_b52 post (wM_remembers_l52 post n52) y1 F G := hw
      unfold wM_remembers_b52 at hw
      refine lv_iload_n hx hb dX5_remembers_52 rfl (lv_at hl 1 rfl) ?_
      refine lv_sipush (v := (1052 : Int32)) hx hb dX5_remembers_53 (by decide) ?_
      refine lv_icmp_ge (tgt := 86) hx hb dX5_remembers_56 (by decide) (fun q => ?_) (fun q => ?_)
      · have hw := hw.1 q
        refine lv_aload_n hx hb dX5_remembers_86 rfl (lv_at hl 0 rfl) ?_
        refine lv_dup hx hb dX5_remembers_87 rfl ?_
        refine m_get hx hb hown hts hT hW 11 (by decide) (hts _ q2140) rfl (v := .int (F 11)) rfl dX5_remembers_88 ?_
        refine lv_iconst (v := (1 : Int32)) hx hb dX5_remembers_91 (by decide) ?_
        refine lv_iadd hx hb dX5_remembers_92 ?_
        refine m_put hx hb hown hts hT hW 11 (by decide) (hts _ q2140) rfl rfl (ty := .int) (x := ((F 11) + (1 : Int32))) rfl rfl rfl rfl dX5_remembers_93 (fun F_1 H locs eF_1 hW => ?_)
        have hw := hw F_1 eF_1
        exact hQ _ _ _ _ hw hW _ _ dX5_remembers_96
      · have hw := hw.2 q
        refine lv_aload_n hx hb dX5_remembers_59 rfl (lv_at hl 0 rfl) ?_
        refine m_get hx hb hown hts hT hW 10 (by decide) (hts _ q2139) rfl (v := .ref (mp_a w 10)) rfl dX5_remembers_60 ?_
        refine lv_sipush (v := (1052 : Int32)) hx hb dX5_remembers_63 (by decide) ?_
        refine lv_aload_n hx hb dX5_remembers_66 rfl (lv_at hl 0 rfl) ?_
        refine m_get hx hb hown hts hT hW 11 (by decide) (hts _ q2140) rfl (v := .int (F 11)) rfl dX5_remembers_67 ?_
        refine lv_imul hx hb dX5_remembers_70 ?_
        refine lv_iload_n hx hb dX5_remembers_71 rfl (lv_at hl 1 rfl) ?_
        refine lv_iadd hx hb dX5_remembers_72 ?_
        refine lv_aload_n hx hb dX5_remembers_73 rfl (lv_at hl 0 rfl) ?_
        refine m_get hx hb hown hts hT hW 8 (by decide) (hts _ q2137) rfl (v := .ref (mp_a w 8)) rfl dX5_remembers_74 ?_
        refine lv_iload_n hx hb dX5_remembers_77 rfl (lv_at hl 1 rfl) ?_
        obtain ⟨hi, hw⟩ := hw
        refine m_iald hx hb hT hW (k := 8) (j := (y1.toNatClampNeg)) rfl rfl hi dX5_remembers_78 ?_
        obtain ⟨hi, hw⟩ := hw
        refine m_iast hx hb hT hW (k := 10) (j := ((((1052 : Int32) * (F 11)) + y1).toNatClampNeg)) rfl rfl hi dX5_remembers_79 (fun G_2 H locs eG_2 hW => ?_)
        have hw := hw G_2 eG_2
        refine lv_iinc (v := (y1 + (1 : Int32))) (lv' := [(1, .int (y1 + (1 : Int32))), (0, .ref (mp_h w))]) hx hb dX5_remembers_80 hl (k := 1) rfl rfl (by decide) rfl (fun ls hl => ?_)
        refine lv_goto (tgt := 52) hx hb dX5_remembers_83 (by decide) ?_
        exact ih52 (y1 + (1 : Int32)) F G_2 _ _ _ (lv_sub hl [1, 0] rfl) hW hw
  have lp11 : ∀ (n11 : Nat) (y1 : Int32) (F : MF) (G : MG) (H : Heap) (locs : List Loc) (ls : Array Slot), lv_has ls 2 [(0, .ref (mp_h w)), (1, .int y1)] → m_W w s.heap F G H locs → wM_remembers_l11 post n11 y1 F G → W p l e (mrm 0) s m args below meth c H locs 0 0 Q (F0 m 11 ls []) := by
    intro n11
    induction n11 with
    | zero => intro y1 F G H locs ls hl hW hw; exact hw.elim
    | succ n11 ih11 =>
      intro y1 F G H locs ls hl hW hw
      have hw : wM_remembers_b11 post (wM_remembers_l11 post n11) y1 F G := hw
      unfold wM_remembers_b11 at hw
      refine lv_iload_n hx hb dX5_remembers_11 rfl (lv_at hl 1 rfl) ?_
      refine lv_sipush (v := (7364 : Int32)) hx hb dX5_remembers_12 (by decide) ?_
      refine lv_icmp_ge (tgt := 40) hx hb dX5_remembers_15 (by decide) (fun q => ?_) (fun q => ?_)
      · have hw := hw.1 q
        refine lv_aload_n hx hb dX5_remembers_40 rfl (lv_at hl 0 rfl) ?_
        refine lv_dup hx hb dX5_remembers_41 rfl ?_
        refine m_get hx hb hown hts hT hW 11 (by decide) (hts _ q2140) rfl (v := .int (F 11)) rfl dX5_remembers_42 ?_
        refine lv_iconst (v := (1 : Int32)) hx hb dX5_remembers_45 (by decide) ?_
        refine lv_isub hx hb dX5_remembers_46 ?_
        refine m_put hx hb hown hts hT hW 11 (by decide) (hts _ q2140) rfl rfl (ty := .int) (x := ((F 11) - (1 : Int32))) rfl rfl rfl rfl dX5_remembers_47 (fun F_3 H locs eF_3 hW => ?_)
        have hw := hw F_3 eF_3
        refine lv_iconst (v := (0 : Int32)) hx hb dX5_remembers_50 (by decide) ?_
        refine lv_istore_n (lv' := [(1, .int (0 : Int32)), (0, .ref (mp_h w))]) hx hb dX5_remembers_51 rfl hl (by decide) rfl (fun ls hl => ?_)
        obtain ⟨n_4, hw⟩ := hw
        exact lp52 n_4 (0 : Int32) F_3 G _ _ _ (lv_sub hl [1, 0] rfl) hW hw
      · have hw := hw.2 q
        refine lv_aload_n hx hb dX5_remembers_18 rfl (lv_at hl 0 rfl) ?_
        refine m_get hx hb hown hts hT hW 10 (by decide) (hts _ q2139) rfl (v := .ref (mp_a w 10)) rfl dX5_remembers_19 ?_
        refine lv_iload_n hx hb dX5_remembers_22 rfl (lv_at hl 1 rfl) ?_
        refine lv_aload_n hx hb dX5_remembers_23 rfl (lv_at hl 0 rfl) ?_
        refine m_get hx hb hown hts hT hW 10 (by decide) (hts _ q2139) rfl (v := .ref (mp_a w 10)) rfl dX5_remembers_24 ?_
        refine lv_iload_n hx hb dX5_remembers_27 rfl (lv_at hl 1 rfl) ?_
        refine lv_sipush (v := (1052 : Int32)) hx hb dX5_remembers_28 (by decide) ?_
        refine lv_iadd hx hb dX5_remembers_31 ?_
        obtain ⟨hi, hw⟩ := hw
        refine m_iald hx hb hT hW (k := 10) (j := ((y1 + (1052 : Int32)).toNatClampNeg)) rfl rfl hi dX5_remembers_32 ?_
        obtain ⟨hi, hw⟩ := hw
        refine m_iast hx hb hT hW (k := 10) (j := (y1.toNatClampNeg)) rfl rfl hi dX5_remembers_33 (fun G_5 H locs eG_5 hW => ?_)
        have hw := hw G_5 eG_5
        refine lv_iinc (v := (y1 + (1 : Int32))) (lv' := [(1, .int (y1 + (1 : Int32))), (0, .ref (mp_h w))]) hx hb dX5_remembers_34 hl (k := 1) rfl rfl (by decide) rfl (fun ls hl => ?_)
        refine lv_goto (tgt := 11) hx hb dX5_remembers_37 (by decide) ?_
        exact ih11 (y1 + (1 : Int32)) F G_5 _ _ _ (lv_sub hl [1, 0] rfl) hW hw
  unfold wM_remembers at hw
  refine lv_aload_n hx hb dX5_remembers_0 rfl (lv_at hl 0 rfl) ?_
  refine m_get hx hb hown hts hT hW 11 (by decide) (hts _ q2140) rfl (v := .int (F 11)) rfl dX5_remembers_1 ?_
  refine lv_bipush (v := (8 : Int32)) hx hb dX5_remembers_4 (by decide) ?_
  refine lv_icmp_ne (tgt := 50) hx hb dX5_remembers_6 (by decide) (fun q => ?_) (fun q => ?_)
  · have hw := hw.2 q
    refine lv_iconst (v := (0 : Int32)) hx hb dX5_remembers_50 (by decide) ?_
    refine lv_istore_n (lv' := [(1, .int (0 : Int32)), (0, .ref (mp_h w))]) hx hb dX5_remembers_51 rfl hl (by decide) rfl (fun ls hl => ?_)
    obtain ⟨n_6, hw⟩ := hw
    exact lp52 n_6 (0 : Int32) F G _ _ _ (lv_sub hl [1, 0] rfl) hW hw
  · have hw := hw.1 q
    refine lv_iconst (v := (0 : Int32)) hx hb dX5_remembers_9 (by decide) ?_
    refine lv_istore_n (lv' := [(1, .int (0 : Int32)), (0, .ref (mp_h w))]) hx hb dX5_remembers_10 rfl hl (by decide) rfl (fun ls hl => ?_)
    obtain ⟨n_7, hw⟩ := hw
    exact lp11 n_7 (0 : Int32) F G _ _ _ (lv_sub hl [1, 0] rfl) hW hw
theorem gM_remembers : GoodIn lw_all (wsV RX5 314 RX5 yX5_remembers (ws_ yX5_remembers cX5_remembers 2 none)) := lw_V q2463 q2465 qs111 q154 q2466
theorem dM_remembers : yX5_remembers.cls = RX5 ∧ yX5_remembers.cls ≠ "java/lang/invoke/MethodHandle" ∧ yX5_remembers.cls ≠ "java/lang/invoke/VarHandle" ∧ (parseMethodDescriptor yX5_remembers.desc).map (fun d => d.parameters.length) = some 0 := by decide +kernel

/-! puts -/
def wM_puts (post : MF → MG → Prop) (x1 : Int32) (x2 : Int32) (x3 : Int32) (F : MF) (G : MG) : Prop :=
  wM_rowOf (fun r_1 => vp_in (r_1 + (9 : Int32)) 1052 ∧ ∀ G_2 : MG, G_2 = mu G 8 ((r_1 + (9 : Int32)).toNatClampNeg) x2 → wM_rowOf (fun r_3 => vp_in (r_3 + (10 : Int32)) 1052 ∧ ∀ G_4 : MG, G_4 = mu G_2 8 ((r_3 + (10 : Int32)).toNatClampNeg) x3 → post F G_4) x1 F G_2) x1 F G
set_option maxHeartbeats 4000000 in
theorem kM_puts (l : Launch) (w : MP) (post : MF → MG → Prop) (x1 : Int32) (x2 : Int32) (x3 : Int32) (F : MF) (G : MG) (hw : wM_puts post x1 x2 x3 F G) : m_Mv l w yX5_puts cX5_puts 4 1 [.ref (mp_h w), .int x1, .int x2, .int x3] F G post := by
  refine m_ofWv (by decide) rfl (Nat.le_of_ble_eq_true rfl) ?_
  intro p e s m args below meth c Q ls hA hW hQ
  obtain ⟨hE, hT, hl⟩ := hA
  obtain ⟨hx, hb, hml, hown, hts⟩ := id hE
  have hl : lv_has ls 4 [(0, .ref (mp_h w)), (1, .int x1), (2, .int x2), (3, .int x3)] := hl
  unfold wM_puts at hw
  refine lv_aload_n hx hb dX5_puts_0 rfl (lv_at hl 0 rfl) ?_
  refine m_get hx hb hown hts hT hW 8 (by decide) (hts _ q2137) rfl (v := .ref (mp_a w 8)) rfl dX5_puts_1 ?_
  refine lv_iload_n hx hb dX5_puts_4 rfl (lv_at hl 1 rfl) ?_
  refine m_Si (rest := [.ref (mp_a w 8)]) hE hT hW (kM_rowOf l w _ x1 F G hw) gM_rowOf dM_rowOf ⟨Nat.le_of_ble_eq_true rfl, Nat.le_of_ble_eq_true rfl, Nat.zero_le _, Nat.zero_le _⟩ rfl hl.1 rfl (Nat.le_of_ble_eq_true rfl) dX5_puts_5 (fun r_1 F9 G9 H locs hw hW => ?_)
  obtain ⟨eF9, eG9, hw⟩ := hw
  rw [eF9, eG9] at hW
  refine lv_bipush (v := (9 : Int32)) hx hb dX5_puts_8 (by decide) ?_
  refine lv_iadd hx hb dX5_puts_10 ?_
  refine lv_iload_n hx hb dX5_puts_11 rfl (lv_at hl 2 rfl) ?_
  obtain ⟨hi, hw⟩ := hw
  refine m_iast hx hb hT hW (k := 8) (j := ((r_1 + (9 : Int32)).toNatClampNeg)) rfl rfl hi dX5_puts_12 (fun G_2 H locs eG_2 hW => ?_)
  have hw := hw G_2 eG_2
  refine lv_aload_n hx hb dX5_puts_13 rfl (lv_at hl 0 rfl) ?_
  refine m_get hx hb hown hts hT hW 8 (by decide) (hts _ q2137) rfl (v := .ref (mp_a w 8)) rfl dX5_puts_14 ?_
  refine lv_iload_n hx hb dX5_puts_17 rfl (lv_at hl 1 rfl) ?_
  refine m_Si (rest := [.ref (mp_a w 8)]) hE hT hW (kM_rowOf l w _ x1 F G_2 hw) gM_rowOf dM_rowOf ⟨Nat.le_of_ble_eq_true rfl, Nat.le_of_ble_eq_true rfl, Nat.zero_le _, Nat.zero_le _⟩ rfl hl.1 rfl (Nat.le_of_ble_eq_true rfl) dX5_puts_18 (fun r_3 F9 G9 H locs hw hW => ?_)
  obtain ⟨eF9, eG9, hw⟩ := hw
  rw [eF9, eG9] at hW
  refine lv_bipush (v := (10 : Int32)) hx hb dX5_puts_21 (by decide) ?_
  refine lv_iadd hx hb dX5_puts_23 ?_
  refine lv_iload_n hx hb dX5_puts_24 rfl (lv_at hl 3 rfl) ?_
  obtain ⟨hi, hw⟩ := hw
  refine m_iast hx hb hT hW (k := 8) (j := ((r_3 + (10 : Int32)).toNatClampNeg)) rfl rfl hi dX5_puts_25 (fun G_4 H locs eG_4 hW => ?_)
  have hw := hw G_4 eG_4
  exact hQ _ _ _ _ hw hW _ _ dX5_puts_26
theorem gM_puts : GoodIn lw_all (wsV RX5 304 RX5 yX5_puts (ws_ yX5_puts cX5_puts 4 none)) := lw_V q2471 q2473 qs113 q154 q2474
theorem dM_puts : yX5_puts.cls = RX5 ∧ yX5_puts.cls ≠ "java/lang/invoke/MethodHandle" ∧ yX5_puts.cls ≠ "java/lang/invoke/VarHandle" ∧ (parseMethodDescriptor yX5_puts.desc).map (fun d => d.parameters.length) = some 3 := by decide +kernel

/-! books -/
def wM_books_b11 (post : Int32 → MF → MG → Prop) (r1 : Nat) (K11 : Int32 → Int32 → Int32 → Int32 → Int32 → MF → MG → Prop) (y2 : Int32) (y3 : Int32) (y4 : Int32) (y5 : Int32) (y6 : Int32) (F : MF) (G : MG) : Prop :=
  ((9 : Int32) ≤ y6 → wM_puts (fun F_1 G_2 => wM_rowOf (fun r_3 => vp_in (r_3 + (11 : Int32)) 1052 ∧ ∀ G_4 : MG, G_4 = mu G_2 8 ((r_3 + (11 : Int32)).toNatClampNeg) (1 : Int32) → wM_rowOf (fun r_5 => vp_in (r_5 + (12 : Int32)) 1052 ∧ ∀ G_6 : MG, G_6 = mu G_4 8 ((r_5 + (12 : Int32)).toNatClampNeg) (0 : Int32) → ∀ G_7 : MG, G_7 = mu G_6 8 1 ((G_6 8 1) + (1 : Int32)) → post y5 F_1 G_7) y5 F_1 G_4) y5 F_1 G_2) y5 y3 y4 F G) ∧ (¬ (9 : Int32) ≤ y6 → wM_rowOf (fun r_8 => m_ty r1 = 1 ∧ vp_in (y2 + y6) (m_ln r1) ∧ vp_in (r_8 + y6) 1052 ∧ ∀ G_9 : MG, G_9 = mu G 8 ((r_8 + y6).toNatClampNeg) (G r1 ((y2 + y6).toNatClampNeg)) → K11 y2 y3 y4 y5 (y6 + (1 : Int32)) F G_9) y5 F G)
def wM_books_l11 (post : Int32 → MF → MG → Prop) (r1 : Nat) : Nat → Int32 → Int32 → Int32 → Int32 → Int32 → MF → MG → Prop
  | 0 => fun _ _ _ _ _ _ _ => False
  | n + 1 => wM_books_b11 post r1 (wM_books_l11 post r1 n)
def wM_books (post : Int32 → MF → MG → Prop) (r1 : Nat) (x2 : Int32) (x3 : Int32) (x4 : Int32) (F : MF) (G : MG) : Prop :=
  ∀ x5_10 : Int32, x5_10 = (G 8 1) → ∃ n, wM_books_l11 post r1 n x2 x3 x4 x5_10 (0 : Int32) F G
set_option maxHeartbeats 4000000 in
theorem kM_books (l : Launch) (w : MP) (post : Int32 → MF → MG → Prop) (r1 : Nat) (x2 : Int32) (x3 : Int32) (x4 : Int32) (F : MF) (G : MG) (hw : wM_books post r1 x2 x3 x4 F G) : m_Mi l w yX5_books cX5_books 7 .int 2 [.ref (mp_h w), .ref (mp_a w r1), .int x2, .int x3, .int x4] F G post := by
  refine m_ofWi (by decide) rfl (Nat.le_of_ble_eq_true rfl) (fun _ => True) (fun _ _ => rfl) ?_
  intro p e s m args below meth c Q ls hA hW hQ
  obtain ⟨hE, hT, hl⟩ := hA
  obtain ⟨hx, hb, hml, hown, hts⟩ := id hE
  have hl : lv_has ls 7 [(0, .ref (mp_h w)), (1, .ref (mp_a w r1)), (2, .int x2), (3, .int x3), (4, .int x4)] := hl
  have lp11 : ∀ (n11 : Nat) (y2 : Int32) (y3 : Int32) (y4 : Int32) (y5 : Int32) (y6 : Int32) (F : MF) (G : MG) (H : Heap) (locs : List Loc) (ls : Array Slot), lv_has ls 7 [(0, .ref (mp_h w)), (1, .ref (mp_a w r1)), (2, .int y2), (3, .int y3), (4, .int y4), (5, .int y5), (6, .int y6)] → m_W w s.heap F G H locs → wM_books_l11 post r1 n11 y2 y3 y4 y5 y6 F G → W p l e (mrm 2) s m args below meth c H locs 0 0 Q (F0 m 11 ls []) := by
    intro n11
    induction n11 with
    | zero => intro y2 y3 y4 y5 y6 F G H locs ls hl hW hw; exact hw.elim
    | succ n11 ih11 =>
      intro y2 y3 y4 y5 y6 F G H locs ls hl hW hw
      have hw : wM_books_b11 post r1 (wM_books_l11 post r1 n11) y2 y3 y4 y5 y6 F G := hw
      unfold wM_books_b11 at hw
      refine lv_iload hx hb dX5_books_11 (lv_at hl 6 rfl) ?_
      refine lv_bipush (v := (9 : Int32)) hx hb dX5_books_13 (by decide) ?_
      refine lv_icmp_ge (tgt := 43) hx hb dX5_books_15 (by decide) (fun q => ?_) (fun q => ?_)
      · have hw := hw.1 q
        refine lv_aload_n hx hb dX5_books_43 rfl (lv_at hl 0 rfl) ?_
        refine lv_iload hx hb dX5_books_44 (lv_at hl 5 rfl) ?_
        refine lv_iload_n hx hb dX5_books_46 rfl (lv_at hl 3 rfl) ?_
        refine lv_iload hx hb dX5_books_47 (lv_at hl 4 rfl) ?_
        refine m_Vv (rest := []) hE hT hW (kM_puts l w _ y5 y3 y4 F G hw) gM_puts dM_puts ⟨Nat.le_of_ble_eq_true rfl, Nat.le_of_ble_eq_true rfl, Nat.zero_le _, Nat.zero_le _⟩ rfl hl.1 rfl (Nat.le_of_ble_eq_true rfl) dX5_books_49 (fun F_1 G_2 H locs hw hW => ?_)
        refine lv_aload_n hx hb dX5_books_52 rfl (lv_at hl 0 rfl) ?_
        refine m_get hx hb hown hts hT hW 8 (by decide) (hts _ q2137) rfl (v := .ref (mp_a w 8)) rfl dX5_books_53 ?_
        refine lv_iload hx hb dX5_books_56 (lv_at hl 5 rfl) ?_
        refine m_Si (rest := [.ref (mp_a w 8)]) hE hT hW (kM_rowOf l w _ y5 F_1 G_2 hw) gM_rowOf dM_rowOf ⟨Nat.le_of_ble_eq_true rfl, Nat.le_of_ble_eq_true rfl, Nat.zero_le _, Nat.zero_le _⟩ rfl hl.1 rfl (Nat.le_of_ble_eq_true rfl) dX5_books_58 (fun r_3 F9 G9 H locs hw hW => ?_)
        obtain ⟨eF9, eG9, hw⟩ := hw
        rw [eF9, eG9] at hW
        refine lv_bipush (v := (11 : Int32)) hx hb dX5_books_61 (by decide) ?_
        refine lv_iadd hx hb dX5_books_63 ?_
        refine lv_iconst (v := (1 : Int32)) hx hb dX5_books_64 (by decide) ?_
        obtain ⟨hi, hw⟩ := hw
        refine m_iast hx hb hT hW (k := 8) (j := ((r_3 + (11 : Int32)).toNatClampNeg)) rfl rfl hi dX5_books_65 (fun G_4 H locs eG_4 hW => ?_)
        have hw := hw G_4 eG_4
        refine lv_aload_n hx hb dX5_books_66 rfl (lv_at hl 0 rfl) ?_
        refine m_get hx hb hown hts hT hW 8 (by decide) (hts _ q2137) rfl (v := .ref (mp_a w 8)) rfl dX5_books_67 ?_
        refine lv_iload hx hb dX5_books_70 (lv_at hl 5 rfl) ?_
        refine m_Si (rest := [.ref (mp_a w 8)]) hE hT hW (kM_rowOf l w _ y5 F_1 G_4 hw) gM_rowOf dM_rowOf ⟨Nat.le_of_ble_eq_true rfl, Nat.le_of_ble_eq_true rfl, Nat.zero_le _, Nat.zero_le _⟩ rfl hl.1 rfl (Nat.le_of_ble_eq_true rfl) dX5_books_72 (fun r_5 F9 G9 H locs hw hW => ?_)
        obtain ⟨eF9, eG9, hw⟩ := hw
        rw [eF9, eG9] at hW
        refine lv_bipush (v := (12 : Int32)) hx hb dX5_books_75 (by decide) ?_
        refine lv_iadd hx hb dX5_books_77 ?_
        refine lv_iconst (v := (0 : Int32)) hx hb dX5_books_78 (by decide) ?_
        obtain ⟨hi, hw⟩ := hw
        refine m_iast hx hb hT hW (k := 8) (j := ((r_5 + (12 : Int32)).toNatClampNeg)) rfl rfl hi dX5_books_79 (fun G_6 H locs eG_6 hW => ?_)
        have hw := hw G_6 eG_6
        refine lv_aload_n hx hb dX5_books_80 rfl (lv_at hl 0 rfl) ?_
        refine m_get hx hb hown hts hT hW 8 (by decide) (hts _ q2137) rfl (v := .ref (mp_a w 8)) rfl dX5_books_81 ?_
        refine lv_iconst (v := (1 : Int32)) hx hb dX5_books_84 (by decide) ?_
        refine lv_dup2_11 hx hb dX5_books_85 rfl rfl ?_
        refine m_iald hx hb hT hW (k := 8) (j := 1) (by decide) rfl (by unfold vp_in; decide) dX5_books_86 ?_
        refine lv_iconst (v := (1 : Int32)) hx hb dX5_books_87 (by decide) ?_
        refine lv_iadd hx hb dX5_books_88 ?_
        refine m_iast hx hb hT hW (k := 8) (j := 1) (by decide) rfl (by unfold vp_in; decide) dX5_books_89 (fun G_7 H locs eG_7 hW => ?_)
        have hw := hw G_7 eG_7
        refine lv_iload hx hb dX5_books_90 (lv_at hl 5 rfl) ?_
        exact hQ _ _ _ _ _ trivial hw hW _ _ dX5_books_92
      · have hw := hw.2 q
        refine lv_aload_n hx hb dX5_books_18 rfl (lv_at hl 0 rfl) ?_
        refine m_get hx hb hown hts hT hW 8 (by decide) (hts _ q2137) rfl (v := .ref (mp_a w 8)) rfl dX5_books_19 ?_
        refine lv_iload hx hb dX5_books_22 (lv_at hl 5 rfl) ?_
        refine m_Si (rest := [.ref (mp_a w 8)]) hE hT hW (kM_rowOf l w _ y5 F G hw) gM_rowOf dM_rowOf ⟨Nat.le_of_ble_eq_true rfl, Nat.le_of_ble_eq_true rfl, Nat.zero_le _, Nat.zero_le _⟩ rfl hl.1 rfl (Nat.le_of_ble_eq_true rfl) dX5_books_24 (fun r_8 F9 G9 H locs hw hW => ?_)
        obtain ⟨eF9, eG9, hw⟩ := hw
        rw [eF9, eG9] at hW
        refine lv_iload hx hb dX5_books_27 (lv_at hl 6 rfl) ?_
        refine lv_iadd hx hb dX5_books_29 ?_
        refine lv_aload_n hx hb dX5_books_30 rfl (lv_at hl 1 rfl) ?_
        refine lv_iload_n hx hb dX5_books_31 rfl (lv_at hl 2 rfl) ?_
        refine lv_iload hx hb dX5_books_32 (lv_at hl 6 rfl) ?_
        refine lv_iadd hx hb dX5_books_34 ?_
        obtain ⟨hk, hi, hw⟩ := hw
        refine m_iald hx hb hT hW (k := r1) (j := ((y2 + y6).toNatClampNeg)) rfl hk hi dX5_books_35 ?_
        obtain ⟨hi, hw⟩ := hw
        refine m_iast hx hb hT hW (k := 8) (j := ((r_8 + y6).toNatClampNeg)) rfl rfl hi dX5_books_36 (fun G_9 H locs eG_9 hW => ?_)
        have hw := hw G_9 eG_9
        refine lv_iinc (v := (y6 + (1 : Int32))) (lv' := [(6, .int (y6 + (1 : Int32))), (0, .ref (mp_h w)), (1, .ref (mp_a w r1)), (2, .int y2), (3, .int y3), (4, .int y4), (5, .int y5)]) hx hb dX5_books_37 hl (k := 6) rfl rfl (by decide) rfl (fun ls hl => ?_)
        refine lv_goto (tgt := 11) hx hb dX5_books_40 (by decide) ?_
        exact ih11 y2 y3 y4 y5 (y6 + (1 : Int32)) F G_9 _ _ _ (lv_sub hl [1, 2, 3, 4, 5, 6, 0] rfl) hW hw
  unfold wM_books at hw
  refine lv_aload_n hx hb dX5_books_0 rfl (lv_at hl 0 rfl) ?_
  refine m_get hx hb hown hts hT hW 8 (by decide) (hts _ q2137) rfl (v := .ref (mp_a w 8)) rfl dX5_books_1 ?_
  refine lv_iconst (v := (1 : Int32)) hx hb dX5_books_4 (by decide) ?_
  refine m_iald hx hb hT hW (k := 8) (j := 1) (by decide) rfl (by unfold vp_in; decide) dX5_books_5 ?_
  refine lv_topi (fun x5_10 ex5_10 => ?_)
  have hw := hw x5_10 ex5_10
  refine lv_istore (lv' := [(5, .int x5_10), (0, .ref (mp_h w)), (1, .ref (mp_a w r1)), (2, .int x2), (3, .int x3), (4, .int x4)]) hx hb dX5_books_6 hl (by decide) rfl (fun ls hl => ?_)
  refine lv_iconst (v := (0 : Int32)) hx hb dX5_books_8 (by decide) ?_
  refine lv_istore (lv' := [(6, .int (0 : Int32)), (5, .int x5_10), (0, .ref (mp_h w)), (1, .ref (mp_a w r1)), (2, .int x2), (3, .int x3), (4, .int x4)]) hx hb dX5_books_9 hl (by decide) rfl (fun ls hl => ?_)
  obtain ⟨n_11, hw⟩ := hw
  exact lp11 n_11 x2 x3 x4 x5_10 (0 : Int32) F G _ _ _ (lv_sub hl [2, 3, 4, 5, 6, 1, 0] rfl) hW hw
theorem gM_books : GoodIn lw_all (wsV RX5 317 RX5 yX5_books (ws_ yX5_books cX5_books 7 (some .int))) := lw_V q2467 q2469 qs112 q154 q2470
theorem dM_books : yX5_books.cls = RX5 ∧ yX5_books.cls ≠ "java/lang/invoke/MethodHandle" ∧ yX5_books.cls ≠ "java/lang/invoke/VarHandle" ∧ (parseMethodDescriptor yX5_books.desc).map (fun d => d.parameters.length) = some 4 := by decide +kernel

/-! book -/
def wM_book (post : Int32 → MF → MG → Prop) (x1 : Int32) (x2 : Int32) (F : MF) (G : MG) : Prop :=
  wM_whyNotSlot (fun r_1 => ∀ F_2 : MF, F_2 = upd F 0 r_1 → ((F_2 0) ≤ 0 → ((G 1 1) = 0 → wM_fails (fun r_3 F_4 G_5 => post r_3 F_4 G_5) (3 : Int32) F_2 G) ∧ (¬ (G 1 1) = 0 → ((G 8 1) = (60 : Int32) → wM_fails (fun r_6 F_7 G_8 => post r_6 F_7 G_8) (3 : Int32) F_2 G) ∧ (¬ (G 8 1) = (60 : Int32) → wM_draftProblem (fun r_9 F_10 G_11 => (r_9 = 0 → wM_remembers (fun F_12 G_13 => wM_books (fun r_14 F_15 G_16 => post r_14 F_15 G_16) (6) (0 : Int32) x1 x2 F_12 G_13) F_10 G_11) ∧ (¬ r_9 = 0 → wM_fails (fun r_17 F_18 G_19 => post r_17 F_18 G_19) (3 : Int32) F_10 G_11)) x1 x2 F_2 G))) ∧ (¬ (F_2 0) ≤ 0 → post (0 : Int32) F_2 G)) x1 x2 F G
set_option maxHeartbeats 4000000 in
theorem kM_book (l : Launch) (w : MP) (post : Int32 → MF → MG → Prop) (x1 : Int32) (x2 : Int32) (F : MF) (G : MG) (hw : wM_book post x1 x2 F G) : m_Mi l w yX5_book cX5_book 3 .int 8 [.ref (mp_h w), .int x1, .int x2] F G post := by
  refine m_ofWi (by decide) rfl (Nat.le_of_ble_eq_true rfl) (fun _ => True) (fun _ _ => rfl) ?_
  intro p e s m args below meth c Q ls hA hW hQ
  obtain ⟨hE, hT, hl⟩ := hA
  obtain ⟨hx, hb, hml, hown, hts⟩ := id hE
  have hl : lv_has ls 3 [(0, .ref (mp_h w)), (1, .int x1), (2, .int x2)] := hl
  unfold wM_book at hw
  refine lv_aload_n hx hb dX5_book_0 rfl (lv_at hl 0 rfl) ?_
  refine lv_aload_n hx hb dX5_book_1 rfl (lv_at hl 0 rfl) ?_
  refine lv_iload_n hx hb dX5_book_2 rfl (lv_at hl 1 rfl) ?_
  refine lv_iload_n hx hb dX5_book_3 rfl (lv_at hl 2 rfl) ?_
  refine m_Vi (rest := [.ref (mp_h w)]) hE hT hW (kM_whyNotSlot l w _ x1 x2 F G hw) gM_whyNotSlot dM_whyNotSlot ⟨Nat.le_of_ble_eq_true rfl, Nat.le_of_ble_eq_true rfl, Nat.zero_le _, Nat.zero_le _⟩ rfl hl.1 rfl (Nat.le_of_ble_eq_true rfl) dX5_book_4 (fun r_1 F9 G9 H locs hw hW => ?_)
  obtain ⟨eF9, eG9, hw⟩ := hw
  rw [eF9, eG9] at hW
  refine m_put hx hb hown hts hT hW 0 (by decide) (hts _ q2129) rfl rfl (ty := .int) (x := r_1) rfl rfl rfl rfl dX5_book_7 (fun F_2 H locs eF_2 hW => ?_)
  have hw := hw F_2 eF_2
  refine lv_aload_n hx hb dX5_book_10 rfl (lv_at hl 0 rfl) ?_
  refine m_get hx hb hown hts hT hW 0 (by decide) (hts _ q2129) rfl (v := .int (F_2 0)) rfl dX5_book_11 ?_
  refine lv_if_le (tgt := 19) hx hb dX5_book_14 (by decide) (fun q => ?_) (fun q => ?_)
  · have hw := hw.1 q
    refine lv_aload_n hx hb dX5_book_19 rfl (lv_at hl 0 rfl) ?_
    refine m_get hx hb hown hts hT hW 1 (by decide) (hts _ q2130) rfl (v := .ref (mp_a w 1)) rfl dX5_book_20 ?_
    refine lv_iconst (v := (1 : Int32)) hx hb dX5_book_23 (by decide) ?_
    refine m_iald hx hb hT hW (k := 1) (j := 1) (by decide) rfl (by unfold vp_in; decide) dX5_book_24 ?_
    refine lv_if_eq (tgt := 48) hx hb dX5_book_25 (by decide) (fun q => ?_) (fun q => ?_)
    · have hw := hw.1 q
      refine lv_aload_n hx hb dX5_book_48 rfl (lv_at hl 0 rfl) ?_
      refine lv_iconst (v := (3 : Int32)) hx hb dX5_book_49 (by decide) ?_
      refine m_Vi (rest := []) hE hT hW (kM_fails l w _ (3 : Int32) F_2 G hw) gM_fails dM_fails ⟨Nat.le_of_ble_eq_true rfl, Nat.le_of_ble_eq_true rfl, Nat.zero_le _, Nat.zero_le _⟩ rfl hl.1 rfl (Nat.le_of_ble_eq_true rfl) dX5_book_50 (fun r_3 F_4 G_5 H locs hw hW => ?_)
      exact hQ _ _ _ _ _ trivial hw hW _ _ dX5_book_53
    · have hw := hw.2 q
      refine lv_aload_n hx hb dX5_book_28 rfl (lv_at hl 0 rfl) ?_
      refine m_get hx hb hown hts hT hW 8 (by decide) (hts _ q2137) rfl (v := .ref (mp_a w 8)) rfl dX5_book_29 ?_
      refine lv_iconst (v := (1 : Int32)) hx hb dX5_book_32 (by decide) ?_
      refine m_iald hx hb hT hW (k := 8) (j := 1) (by decide) rfl (by unfold vp_in; decide) dX5_book_33 ?_
      refine lv_bipush (v := (60 : Int32)) hx hb dX5_book_34 (by decide) ?_
      refine lv_icmp_eq (tgt := 48) hx hb dX5_book_36 (by decide) (fun q => ?_) (fun q => ?_)
      · have hw := hw.1 q
        refine lv_aload_n hx hb dX5_book_48 rfl (lv_at hl 0 rfl) ?_
        refine lv_iconst (v := (3 : Int32)) hx hb dX5_book_49 (by decide) ?_
        refine m_Vi (rest := []) hE hT hW (kM_fails l w _ (3 : Int32) F_2 G hw) gM_fails dM_fails ⟨Nat.le_of_ble_eq_true rfl, Nat.le_of_ble_eq_true rfl, Nat.zero_le _, Nat.zero_le _⟩ rfl hl.1 rfl (Nat.le_of_ble_eq_true rfl) dX5_book_50 (fun r_6 F_7 G_8 H locs hw hW => ?_)
        exact hQ _ _ _ _ _ trivial hw hW _ _ dX5_book_53
      · have hw := hw.2 q
        refine lv_aload_n hx hb dX5_book_39 rfl (lv_at hl 0 rfl) ?_
        refine lv_iload_n hx hb dX5_book_40 rfl (lv_at hl 1 rfl) ?_
        refine lv_iload_n hx hb dX5_book_41 rfl (lv_at hl 2 rfl) ?_
        refine m_Vi (rest := []) hE hT hW (kM_draftProblem l w _ x1 x2 F_2 G hw) gM_draftProblem dM_draftProblem ⟨Nat.le_of_ble_eq_true rfl, Nat.le_of_ble_eq_true rfl, Nat.zero_le _, Nat.zero_le _⟩ rfl hl.1 rfl (Nat.le_of_ble_eq_true rfl) dX5_book_42 (fun r_9 F_10 G_11 H locs hw hW => ?_)
        refine lv_if_eq (tgt := 54) hx hb dX5_book_45 (by decide) (fun q => ?_) (fun q => ?_)
        · have hw := hw.1 q
          refine lv_aload_n hx hb dX5_book_54 rfl (lv_at hl 0 rfl) ?_
          refine m_Vv (rest := []) hE hT hW (kM_remembers l w _ F_10 G_11 hw) gM_remembers dM_remembers ⟨Nat.le_of_ble_eq_true rfl, Nat.le_of_ble_eq_true rfl, Nat.zero_le _, Nat.zero_le _⟩ rfl hl.1 rfl (Nat.le_of_ble_eq_true rfl) dX5_book_55 (fun F_12 G_13 H locs hw hW => ?_)
          refine lv_aload_n hx hb dX5_book_58 rfl (lv_at hl 0 rfl) ?_
          refine lv_aload_n hx hb dX5_book_59 rfl (lv_at hl 0 rfl) ?_
          refine m_get hx hb hown hts hT hW 6 (by decide) (hts _ q2135) rfl (v := .ref (mp_a w 6)) rfl dX5_book_60 ?_
          refine lv_iconst (v := (0 : Int32)) hx hb dX5_book_63 (by decide) ?_
          refine lv_iload_n hx hb dX5_book_64 rfl (lv_at hl 1 rfl) ?_
          refine lv_iload_n hx hb dX5_book_65 rfl (lv_at hl 2 rfl) ?_
          refine m_Vi (rest := []) hE hT hW (kM_books l w _ (6) (0 : Int32) x1 x2 F_12 G_13 hw) gM_books dM_books ⟨Nat.le_of_ble_eq_true rfl, Nat.le_of_ble_eq_true rfl, Nat.zero_le _, Nat.zero_le _⟩ rfl hl.1 rfl (Nat.le_of_ble_eq_true rfl) dX5_book_66 (fun r_14 F_15 G_16 H locs hw hW => ?_)
          exact hQ _ _ _ _ _ trivial hw hW _ _ dX5_book_69
        · have hw := hw.2 q
          refine lv_aload_n hx hb dX5_book_48 rfl (lv_at hl 0 rfl) ?_
          refine lv_iconst (v := (3 : Int32)) hx hb dX5_book_49 (by decide) ?_
          refine m_Vi (rest := []) hE hT hW (kM_fails l w _ (3 : Int32) F_10 G_11 hw) gM_fails dM_fails ⟨Nat.le_of_ble_eq_true rfl, Nat.le_of_ble_eq_true rfl, Nat.zero_le _, Nat.zero_le _⟩ rfl hl.1 rfl (Nat.le_of_ble_eq_true rfl) dX5_book_50 (fun r_17 F_18 G_19 H locs hw hW => ?_)
          exact hQ _ _ _ _ _ trivial hw hW _ _ dX5_book_53
  · have hw := hw.2 q
    refine lv_iconst (v := (0 : Int32)) hx hb dX5_book_17 (by decide) ?_
    exact hQ _ _ _ _ _ trivial hw hW _ _ dX5_book_18

/-! isBooking -/
def wM_isBooking (post : Int32 → Prop) (x1 : Int32) (F : MF) (G : MG) : Prop :=
  wM_isIn (fun r_1 => (r_1 = 0 ∨ r_1 = 1) ∧ post r_1) ((x1).toInt64) (0 : Int64) (((G 8 1) - (1 : Int32)).toInt64) F G
set_option maxHeartbeats 4000000 in
theorem kM_isBooking (l : Launch) (w : MP) (post : Int32 → Prop) (x1 : Int32) (F : MF) (G : MG) (hw : wM_isBooking post x1 F G) : m_Mi l w yX5_isBooking cX5_isBooking 2 .boolean 1 [.ref (mp_h w), .int x1] F G (fun r F1 G1 => F1 = F ∧ G1 = G ∧ post r) := by
  refine m_ofWi (by decide) rfl (Nat.le_of_ble_eq_true rfl) (fun r => r = 0 ∨ r = 1) (fun _ h => m_nb h) ?_
  intro p e s m args below meth c Q ls hA hW hQ
  obtain ⟨hE, hT, hl⟩ := hA
  obtain ⟨hx, hb, hml, hown, hts⟩ := id hE
  have hl : lv_has ls 2 [(0, .ref (mp_h w)), (1, .int x1)] := hl
  unfold wM_isBooking at hw
  refine lv_iload_n hx hb dX5_isBooking_0 rfl (lv_at hl 1 rfl) ?_
  refine lv_i2l (v := (x1).toInt64) hx hb dX5_isBooking_1 rfl ?_
  refine lv_lconst (v := (0 : Int64)) hx hb dX5_isBooking_2 rfl ?_
  refine lv_aload_n hx hb dX5_isBooking_3 rfl (lv_at hl 0 rfl) ?_
  refine m_get hx hb hown hts hT hW 8 (by decide) (hts _ q2137) rfl (v := .ref (mp_a w 8)) rfl dX5_isBooking_4 ?_
  refine lv_iconst (v := (1 : Int32)) hx hb dX5_isBooking_7 (by decide) ?_
  refine m_iald hx hb hT hW (k := 8) (j := 1) (by decide) rfl (by unfold vp_in; decide) dX5_isBooking_8 ?_
  refine lv_iconst (v := (1 : Int32)) hx hb dX5_isBooking_9 (by decide) ?_
  refine lv_isub hx hb dX5_isBooking_10 ?_
  refine lv_i2l (v := ((G 8 1) - (1 : Int32)).toInt64) hx hb dX5_isBooking_11 rfl ?_
  refine m_Si (rest := []) hE hT hW (kM_isIn l w _ ((x1).toInt64) (0 : Int64) (((G 8 1) - (1 : Int32)).toInt64) F G hw) gM_isIn dM_isIn ⟨Nat.le_of_ble_eq_true rfl, Nat.le_of_ble_eq_true rfl, Nat.zero_le _, Nat.zero_le _⟩ rfl hl.1 rfl (Nat.le_of_ble_eq_true rfl) dX5_isBooking_12 (fun r_1 F9 G9 H locs hw hW => ?_)
  obtain ⟨eF9, eG9, hw⟩ := hw
  rw [eF9, eG9] at hW
  exact hQ _ _ _ _ _ hw.1 ⟨rfl, rfl, hw.2⟩ hW _ _ dX5_isBooking_15
theorem gM_isBooking : GoodIn lw_all (wsV RX5 332 RX5 yX5_isBooking (ws_ yX5_isBooking cX5_isBooking 2 (some .boolean))) := lw_V q2479 q2481 qs114 q154 q2482
theorem dM_isBooking : yX5_isBooking.cls = RX5 ∧ yX5_isBooking.cls ≠ "java/lang/invoke/MethodHandle" ∧ yX5_isBooking.cls ≠ "java/lang/invoke/VarHandle" ∧ (parseMethodDescriptor yX5_isBooking.desc).map (fun d => d.parameters.length) = some 1 := by decide +kernel

/-! isToCome -/
def wM_isToCome (post : Int32 → Prop) (x1 : Int32) (F : MF) (G : MG) : Prop :=
  wM_isActive (fun r_1 => (r_1 = 0 → post (0 : Int32)) ∧ (¬ r_1 = 0 → wM_of (fun r_2 => (r_2 < (G 8 0) → post (0 : Int32)) ∧ (¬ r_2 < (G 8 0) → post (1 : Int32))) x1 (10 : Int32) F G)) x1 F G
set_option maxHeartbeats 4000000 in
theorem kM_isToCome (l : Launch) (w : MP) (post : Int32 → Prop) (x1 : Int32) (F : MF) (G : MG) (hw : wM_isToCome post x1 F G) : m_Mi l w yX5_isToCome cX5_isToCome 2 .boolean 3 [.ref (mp_h w), .int x1] F G (fun r F1 G1 => F1 = F ∧ G1 = G ∧ post r) := by
  refine m_ofWi (by decide) rfl (Nat.le_of_ble_eq_true rfl) (fun r => r = 0 ∨ r = 1) (fun _ h => m_nb h) ?_
  intro p e s m args below meth c Q ls hA hW hQ
  obtain ⟨hE, hT, hl⟩ := hA
  obtain ⟨hx, hb, hml, hown, hts⟩ := id hE
  have hl : lv_has ls 2 [(0, .ref (mp_h w)), (1, .int x1)] := hl
  unfold wM_isToCome at hw
  refine lv_aload_n hx hb dX5_isToCome_0 rfl (lv_at hl 0 rfl) ?_
  refine lv_iload_n hx hb dX5_isToCome_1 rfl (lv_at hl 1 rfl) ?_
  refine m_Vi (rest := []) hE hT hW (kM_isActive l w _ x1 F G hw) gM_isActive dM_isActive ⟨Nat.le_of_ble_eq_true rfl, Nat.le_of_ble_eq_true rfl, Nat.zero_le _, Nat.zero_le _⟩ rfl hl.1 rfl (Nat.le_of_ble_eq_true rfl) dX5_isToCome_2 (fun r_1 F9 G9 H locs hw hW => ?_)
  obtain ⟨eF9, eG9, hw⟩ := hw
  rw [eF9, eG9] at hW
  refine lv_if_eq (tgt := 28) hx hb dX5_isToCome_5 (by decide) (fun q => ?_) (fun q => ?_)
  · have hw := hw.1 q
    refine lv_iconst (v := (0 : Int32)) hx hb dX5_isToCome_28 (by decide) ?_
    exact hQ _ _ _ _ _ (by decide) ⟨rfl, rfl, hw⟩ hW _ _ dX5_isToCome_29
  · have hw := hw.2 q
    refine lv_aload_n hx hb dX5_isToCome_8 rfl (lv_at hl 0 rfl) ?_
    refine lv_iload_n hx hb dX5_isToCome_9 rfl (lv_at hl 1 rfl) ?_
    refine lv_bipush (v := (10 : Int32)) hx hb dX5_isToCome_10 (by decide) ?_
    refine m_Vi (rest := []) hE hT hW (kM_of l w _ x1 (10 : Int32) F G hw) gM_of dM_of ⟨Nat.le_of_ble_eq_true rfl, Nat.le_of_ble_eq_true rfl, Nat.zero_le _, Nat.zero_le _⟩ rfl hl.1 rfl (Nat.le_of_ble_eq_true rfl) dX5_isToCome_12 (fun r_2 F9 G9 H locs hw hW => ?_)
    obtain ⟨eF9, eG9, hw⟩ := hw
    rw [eF9, eG9] at hW
    refine lv_aload_n hx hb dX5_isToCome_15 rfl (lv_at hl 0 rfl) ?_
    refine m_get hx hb hown hts hT hW 8 (by decide) (hts _ q2137) rfl (v := .ref (mp_a w 8)) rfl dX5_isToCome_16 ?_
    refine lv_iconst (v := (0 : Int32)) hx hb dX5_isToCome_19 (by decide) ?_
    refine m_iald hx hb hT hW (k := 8) (j := 0) (by decide) rfl (by unfold vp_in; decide) dX5_isToCome_20 ?_
    refine lv_icmp_lt (tgt := 28) hx hb dX5_isToCome_21 (by decide) (fun q => ?_) (fun q => ?_)
    · have hw := hw.1 q
      refine lv_iconst (v := (0 : Int32)) hx hb dX5_isToCome_28 (by decide) ?_
      exact hQ _ _ _ _ _ (by decide) ⟨rfl, rfl, hw⟩ hW _ _ dX5_isToCome_29
    · have hw := hw.2 q
      refine lv_iconst (v := (1 : Int32)) hx hb dX5_isToCome_24 (by decide) ?_
      refine lv_goto (tgt := 29) hx hb dX5_isToCome_25 (by decide) ?_
      exact hQ _ _ _ _ _ (by decide) ⟨rfl, rfl, hw⟩ hW _ _ dX5_isToCome_29
theorem gM_isToCome : GoodIn lw_all (wsV RX5 335 RX5 yX5_isToCome (ws_ yX5_isToCome cX5_isToCome 2 (some .boolean))) := lw_V q2483 q2485 qs115 q154 q2486
theorem dM_isToCome : yX5_isToCome.cls = RX5 ∧ yX5_isToCome.cls ≠ "java/lang/invoke/MethodHandle" ∧ yX5_isToCome.cls ≠ "java/lang/invoke/VarHandle" ∧ (parseMethodDescriptor yX5_isToCome.desc).map (fun d => d.parameters.length) = some 1 := by decide +kernel

/-! priceOf -/
def wM_priceOf_b23 (post : Int32 → Prop) (r1 : Nat) (F : MF) (G : MG) (K23 : Int32 → Int32 → Int32 → Int32 → Prop) (y2 : Int32) (y4 : Int32) (y5 : Int32) (y6 : Int32) : Prop :=
  ((G 1 2) ≤ y6 → (((y4 / (1440 : Int32)) - (y4 / (1440 : Int32)) / (7 : Int32) * (7 : Int32)) < (5 : Int32) → post y5) ∧ (¬ ((y4 / (1440 : Int32)) - (y4 / (1440 : Int32)) / (7 : Int32) * (7 : Int32)) < (5 : Int32) → post (y5 + ((y5 * (G 1 5)) / (100 : Int32))))) ∧ (¬ (G 1 2) ≤ y6 → m_ty r1 = 1 ∧ vp_in ((y2 + (3 : Int32)) + y6) (m_ln r1) ∧ vp_in ((38 : Int32) + y6) 166 ∧ ∀ x5_1 : Int32, x5_1 = (y5 + ((G r1 (((y2 + (3 : Int32)) + y6).toNatClampNeg)) * (G 1 (((38 : Int32) + y6).toNatClampNeg)))) → K23 y2 y4 x5_1 (y6 + (1 : Int32)))
def wM_priceOf_l23 (post : Int32 → Prop) (r1 : Nat) (F : MF) (G : MG) : Nat → Int32 → Int32 → Int32 → Int32 → Prop
  | 0 => fun _ _ _ _ => False
  | n + 1 => wM_priceOf_b23 post r1 F G (wM_priceOf_l23 post r1 F G n)
def wM_priceOf (post : Int32 → Prop) (r1 : Nat) (x2 : Int32) (x3 : Int32) (x4 : Int32) (F : MF) (G : MG) : Prop :=
  vp_in ((26 : Int32) + x3) 166 ∧ m_ty r1 = 1 ∧ vp_in (x2 + (2 : Int32)) (m_ln r1) ∧ ∀ x5_2 : Int32, x5_2 = (((G 1 (((26 : Int32) + x3).toNatClampNeg)) * (G r1 ((x2 + (2 : Int32)).toNatClampNeg))) / (60 : Int32)) → ∃ n, wM_priceOf_l23 post r1 F G n x2 x4 x5_2 (0 : Int32)
set_option maxHeartbeats 4000000 in
theorem kM_priceOf (l : Launch) (w : MP) (post : Int32 → Prop) (r1 : Nat) (x2 : Int32) (x3 : Int32) (x4 : Int32) (F : MF) (G : MG) (hw : wM_priceOf post r1 x2 x3 x4 F G) : m_Mi l w yX5_priceOf cX5_priceOf 7 .int 0 [.ref (mp_h w), .ref (mp_a w r1), .int x2, .int x3, .int x4] F G (fun r F1 G1 => F1 = F ∧ G1 = G ∧ post r) := by
  refine m_ofWi (by decide) rfl (Nat.le_of_ble_eq_true rfl) (fun _ => True) (fun _ _ => rfl) ?_
  intro p e s m args below meth c Q ls hA hW hQ
  obtain ⟨hE, hT, hl⟩ := hA
  obtain ⟨hx, hb, hml, hown, hts⟩ := id hE
  have hl : lv_has ls 7 [(0, .ref (mp_h w)), (1, .ref (mp_a w r1)), (2, .int x2), (3, .int x3), (4, .int x4)] := hl
  have lp23 : ∀ (n23 : Nat) (y2 : Int32) (y4 : Int32) (y5 : Int32) (y6 : Int32) (H : Heap) (locs : List Loc) (ls : Array Slot), lv_has ls 7 [(0, .ref (mp_h w)), (1, .ref (mp_a w r1)), (2, .int y2), (4, .int y4), (5, .int y5), (6, .int y6)] → m_W w s.heap F G H locs → wM_priceOf_l23 post r1 F G n23 y2 y4 y5 y6 → W p l e (mrm 0) s m args below meth c H locs 0 0 Q (F0 m 23 ls []) := by
    intro n23
    induction n23 with
    | zero => intro y2 y4 y5 y6 H locs ls hl hW hw; exact hw.elim
    | succ n23 ih23 =>
      intro y2 y4 y5 y6 H locs ls hl hW hw
      have hw : wM_priceOf_b23 post r1 F G (wM_priceOf_l23 post r1 F G n23) y2 y4 y5 y6 := hw
      unfold wM_priceOf_b23 at hw
      refine lv_iload hx hb dX5_priceOf_23 (lv_at hl 5 rfl) ?_
      refine lv_aload_n hx hb dX5_priceOf_25 rfl (lv_at hl 0 rfl) ?_
      refine m_get hx hb hown hts hT hW 1 (by decide) (hts _ q2130) rfl (v := .ref (mp_a w 1)) rfl dX5_priceOf_26 ?_
      refine lv_iconst (v := (2 : Int32)) hx hb dX5_priceOf_29 (by decide) ?_
      refine m_iald hx hb hT hW (k := 1) (j := 2) (by decide) rfl (by unfold vp_in; decide) dX5_priceOf_30 ?_
      refine lv_icmp_ge (tgt := 64) hx hb dX5_priceOf_31 (by decide) (fun q => ?_) (fun q => ?_)
      · have hw := hw.1 q
        refine lv_iload hx hb dX5_priceOf_64 (lv_at hl 3 rfl) ?_
        refine lv_sipush (v := (1440 : Int32)) hx hb dX5_priceOf_66 (by decide) ?_
        refine lv_idiv hx hb dX5_priceOf_69 (by decide) ?_
        refine lv_bipush (v := (7 : Int32)) hx hb dX5_priceOf_70 (by decide) ?_
        refine lv_irem hx hb dX5_priceOf_72 (by decide) ?_
        refine lv_iconst (v := (5 : Int32)) hx hb dX5_priceOf_73 (by decide) ?_
        refine lv_icmp_lt (tgt := 95) hx hb dX5_priceOf_74 (by decide) (fun q => ?_) (fun q => ?_)
        · have hw := hw.1 q
          refine lv_iload hx hb dX5_priceOf_95 (lv_at hl 4 rfl) ?_
          exact hQ _ _ _ _ _ trivial ⟨rfl, rfl, hw⟩ hW _ _ dX5_priceOf_97
        · have hw := hw.2 q
          refine lv_iload hx hb dX5_priceOf_77 (lv_at hl 4 rfl) ?_
          refine lv_iload hx hb dX5_priceOf_79 (lv_at hl 4 rfl) ?_
          refine lv_aload_n hx hb dX5_priceOf_81 rfl (lv_at hl 0 rfl) ?_
          refine m_get hx hb hown hts hT hW 1 (by decide) (hts _ q2130) rfl (v := .ref (mp_a w 1)) rfl dX5_priceOf_82 ?_
          refine lv_iconst (v := (5 : Int32)) hx hb dX5_priceOf_85 (by decide) ?_
          refine m_iald hx hb hT hW (k := 1) (j := 5) (by decide) rfl (by unfold vp_in; decide) dX5_priceOf_86 ?_
          refine lv_imul hx hb dX5_priceOf_87 ?_
          refine lv_bipush (v := (100 : Int32)) hx hb dX5_priceOf_88 (by decide) ?_
          refine lv_idiv hx hb dX5_priceOf_90 (by decide) ?_
          refine lv_iadd hx hb dX5_priceOf_91 ?_
          refine lv_goto (tgt := 97) hx hb dX5_priceOf_92 (by decide) ?_
          exact hQ _ _ _ _ _ trivial ⟨rfl, rfl, hw⟩ hW _ _ dX5_priceOf_97
      · have hw := hw.2 q
        refine lv_iload hx hb dX5_priceOf_34 (lv_at hl 4 rfl) ?_
        refine lv_aload_n hx hb dX5_priceOf_36 rfl (lv_at hl 1 rfl) ?_
        refine lv_iload_n hx hb dX5_priceOf_37 rfl (lv_at hl 2 rfl) ?_
        refine lv_iconst (v := (3 : Int32)) hx hb dX5_priceOf_38 (by decide) ?_
        refine lv_iadd hx hb dX5_priceOf_39 ?_
        refine lv_iload hx hb dX5_priceOf_40 (lv_at hl 5 rfl) ?_
        refine lv_iadd hx hb dX5_priceOf_42 ?_
        obtain ⟨hk, hi, hw⟩ := hw
        refine m_iald hx hb hT hW (k := r1) (j := (((y2 + (3 : Int32)) + y6).toNatClampNeg)) rfl hk hi dX5_priceOf_43 ?_
        refine lv_aload_n hx hb dX5_priceOf_44 rfl (lv_at hl 0 rfl) ?_
        refine m_get hx hb hown hts hT hW 1 (by decide) (hts _ q2130) rfl (v := .ref (mp_a w 1)) rfl dX5_priceOf_45 ?_
        refine lv_bipush (v := (38 : Int32)) hx hb dX5_priceOf_48 (by decide) ?_
        refine lv_iload hx hb dX5_priceOf_50 (lv_at hl 5 rfl) ?_
        refine lv_iadd hx hb dX5_priceOf_52 ?_
        obtain ⟨hi, hw⟩ := hw
        refine m_iald hx hb hT hW (k := 1) (j := (((38 : Int32) + y6).toNatClampNeg)) rfl rfl hi dX5_priceOf_53 ?_
        refine lv_imul hx hb dX5_priceOf_54 ?_
        refine lv_iadd hx hb dX5_priceOf_55 ?_
        refine lv_topi (fun x5_1 ex5_1 => ?_)
        have hw := hw x5_1 ex5_1
        refine lv_istore (lv' := [(5, .int x5_1), (0, .ref (mp_h w)), (1, .ref (mp_a w r1)), (2, .int y2), (4, .int y4), (6, .int y6)]) hx hb dX5_priceOf_56 hl (by decide) rfl (fun ls hl => ?_)
        refine lv_iinc (v := (y6 + (1 : Int32))) (lv' := [(6, .int (y6 + (1 : Int32))), (5, .int x5_1), (0, .ref (mp_h w)), (1, .ref (mp_a w r1)), (2, .int y2), (4, .int y4)]) hx hb dX5_priceOf_58 hl (k := 5) rfl rfl (by decide) rfl (fun ls hl => ?_)
        refine lv_goto (tgt := 23) hx hb dX5_priceOf_61 (by decide) ?_
        exact ih23 y2 y4 x5_1 (y6 + (1 : Int32)) _ _ _ (lv_sub hl [2, 3, 4, 5, 1, 0] rfl) hW hw
  unfold wM_priceOf at hw
  refine lv_aload_n hx hb dX5_priceOf_0 rfl (lv_at hl 0 rfl) ?_
  refine m_get hx hb hown hts hT hW 1 (by decide) (hts _ q2130) rfl (v := .ref (mp_a w 1)) rfl dX5_priceOf_1 ?_
  refine lv_bipush (v := (26 : Int32)) hx hb dX5_priceOf_4 (by decide) ?_
  refine lv_iload_n hx hb dX5_priceOf_6 rfl (lv_at hl 3 rfl) ?_
  refine lv_iadd hx hb dX5_priceOf_7 ?_
  obtain ⟨hi, hw⟩ := hw
  refine m_iald hx hb hT hW (k := 1) (j := (((26 : Int32) + x3).toNatClampNeg)) rfl rfl hi dX5_priceOf_8 ?_
  refine lv_aload_n hx hb dX5_priceOf_9 rfl (lv_at hl 1 rfl) ?_
  refine lv_iload_n hx hb dX5_priceOf_10 rfl (lv_at hl 2 rfl) ?_
  refine lv_iconst (v := (2 : Int32)) hx hb dX5_priceOf_11 (by decide) ?_
  refine lv_iadd hx hb dX5_priceOf_12 ?_
  obtain ⟨hk, hi, hw⟩ := hw
  refine m_iald hx hb hT hW (k := r1) (j := ((x2 + (2 : Int32)).toNatClampNeg)) rfl hk hi dX5_priceOf_13 ?_
  refine lv_imul hx hb dX5_priceOf_14 ?_
  refine lv_bipush (v := (60 : Int32)) hx hb dX5_priceOf_15 (by decide) ?_
  refine lv_idiv hx hb dX5_priceOf_17 (by decide) ?_
  refine lv_topi (fun x5_2 ex5_2 => ?_)
  have hw := hw x5_2 ex5_2
  refine lv_istore (lv' := [(5, .int x5_2), (0, .ref (mp_h w)), (1, .ref (mp_a w r1)), (2, .int x2), (3, .int x3), (4, .int x4)]) hx hb dX5_priceOf_18 hl (by decide) rfl (fun ls hl => ?_)
  refine lv_iconst (v := (0 : Int32)) hx hb dX5_priceOf_20 (by decide) ?_
  refine lv_istore (lv' := [(6, .int (0 : Int32)), (5, .int x5_2), (0, .ref (mp_h w)), (1, .ref (mp_a w r1)), (2, .int x2), (3, .int x3), (4, .int x4)]) hx hb dX5_priceOf_21 hl (by decide) rfl (fun ls hl => ?_)
  obtain ⟨n_3, hw⟩ := hw
  exact lp23 n_3 x2 x4 x5_2 (0 : Int32) _ _ _ (lv_sub hl [2, 3, 4, 6, 1, 0] rfl) hW hw
theorem gM_priceOf : GoodIn lw_all (wsV RX5 232 RX5 yX5_priceOf (ws_ yX5_priceOf cX5_priceOf 7 (some .int))) := lw_V q2495 q2497 qs118 q154 q2498
theorem dM_priceOf : yX5_priceOf.cls = RX5 ∧ yX5_priceOf.cls ≠ "java/lang/invoke/MethodHandle" ∧ yX5_priceOf.cls ≠ "java/lang/invoke/VarHandle" ∧ (parseMethodDescriptor yX5_priceOf.desc).map (fun d => d.parameters.length) = some 4 := by decide +kernel

/-! priceNow -/
def wM_priceNow (post : Int32 → Prop) (x1 : Int32) (F : MF) (G : MG) : Prop :=
  wM_rowOf (fun r_1 => wM_of (fun r_2 => wM_of (fun r_3 => wM_priceOf (fun r_4 => post r_4) (8) r_1 r_2 r_3 F G) x1 (10 : Int32) F G) x1 (9 : Int32) F G) x1 F G
set_option maxHeartbeats 4000000 in
theorem kM_priceNow (l : Launch) (w : MP) (post : Int32 → Prop) (x1 : Int32) (F : MF) (G : MG) (hw : wM_priceNow post x1 F G) : m_Mi l w yX5_priceNow cX5_priceNow 2 .int 2 [.ref (mp_h w), .int x1] F G (fun r F1 G1 => F1 = F ∧ G1 = G ∧ post r) := by
  refine m_ofWi (by decide) rfl (Nat.le_of_ble_eq_true rfl) (fun _ => True) (fun _ _ => rfl) ?_
  intro p e s m args below meth c Q ls hA hW hQ
  obtain ⟨hE, hT, hl⟩ := hA
  obtain ⟨hx, hb, hml, hown, hts⟩ := id hE
  have hl : lv_has ls 2 [(0, .ref (mp_h w)), (1, .int x1)] := hl
  unfold wM_priceNow at hw
  refine lv_aload_n hx hb dX5_priceNow_0 rfl (lv_at hl 0 rfl) ?_
  refine lv_aload_n hx hb dX5_priceNow_1 rfl (lv_at hl 0 rfl) ?_
  refine m_get hx hb hown hts hT hW 8 (by decide) (hts _ q2137) rfl (v := .ref (mp_a w 8)) rfl dX5_priceNow_2 ?_
  refine lv_iload_n hx hb dX5_priceNow_5 rfl (lv_at hl 1 rfl) ?_
  refine m_Si (rest := [.ref (mp_a w 8), .ref (mp_h w)]) hE hT hW (kM_rowOf l w _ x1 F G hw) gM_rowOf dM_rowOf ⟨Nat.le_of_ble_eq_true rfl, Nat.le_of_ble_eq_true rfl, Nat.zero_le _, Nat.zero_le _⟩ rfl hl.1 rfl (Nat.le_of_ble_eq_true rfl) dX5_priceNow_6 (fun r_1 F9 G9 H locs hw hW => ?_)
  obtain ⟨eF9, eG9, hw⟩ := hw
  rw [eF9, eG9] at hW
  refine lv_aload_n hx hb dX5_priceNow_9 rfl (lv_at hl 0 rfl) ?_
  refine lv_iload_n hx hb dX5_priceNow_10 rfl (lv_at hl 1 rfl) ?_
  refine lv_bipush (v := (9 : Int32)) hx hb dX5_priceNow_11 (by decide) ?_
  refine m_Vi (rest := [.int r_1, .ref (mp_a w 8), .ref (mp_h w)]) hE hT hW (kM_of l w _ x1 (9 : Int32) F G hw) gM_of dM_of ⟨Nat.le_of_ble_eq_true rfl, Nat.le_of_ble_eq_true rfl, Nat.zero_le _, Nat.zero_le _⟩ rfl hl.1 rfl (Nat.le_of_ble_eq_true rfl) dX5_priceNow_13 (fun r_2 F9 G9 H locs hw hW => ?_)
  obtain ⟨eF9, eG9, hw⟩ := hw
  rw [eF9, eG9] at hW
  refine lv_aload_n hx hb dX5_priceNow_16 rfl (lv_at hl 0 rfl) ?_
  refine lv_iload_n hx hb dX5_priceNow_17 rfl (lv_at hl 1 rfl) ?_
  refine lv_bipush (v := (10 : Int32)) hx hb dX5_priceNow_18 (by decide) ?_
  refine m_Vi (rest := [.int r_2, .int r_1, .ref (mp_a w 8), .ref (mp_h w)]) hE hT hW (kM_of l w _ x1 (10 : Int32) F G hw) gM_of dM_of ⟨Nat.le_of_ble_eq_true rfl, Nat.le_of_ble_eq_true rfl, Nat.zero_le _, Nat.zero_le _⟩ rfl hl.1 rfl (Nat.le_of_ble_eq_true rfl) dX5_priceNow_20 (fun r_3 F9 G9 H locs hw hW => ?_)
  obtain ⟨eF9, eG9, hw⟩ := hw
  rw [eF9, eG9] at hW
  refine m_Vi (rest := []) hE hT hW (kM_priceOf l w _ (8) r_1 r_2 r_3 F G hw) gM_priceOf dM_priceOf ⟨Nat.le_of_ble_eq_true rfl, Nat.le_of_ble_eq_true rfl, Nat.zero_le _, Nat.zero_le _⟩ rfl hl.1 rfl (Nat.le_of_ble_eq_true rfl) dX5_priceNow_23 (fun r_4 F9 G9 H locs hw hW => ?_)
  obtain ⟨eF9, eG9, hw⟩ := hw
  rw [eF9, eG9] at hW
  exact hQ _ _ _ _ _ trivial ⟨rfl, rfl, hw⟩ hW _ _ dX5_priceNow_26
theorem gM_priceNow : GoodIn lw_all (wsV RX5 320 RX5 yX5_priceNow (ws_ yX5_priceNow cX5_priceNow 2 (some .int))) := lw_V q2491 q2493 qs117 q154 q2494
theorem dM_priceNow : yX5_priceNow.cls = RX5 ∧ yX5_priceNow.cls ≠ "java/lang/invoke/MethodHandle" ∧ yX5_priceNow.cls ≠ "java/lang/invoke/VarHandle" ∧ (parseMethodDescriptor yX5_priceNow.desc).map (fun d => d.parameters.length) = some 1 := by decide +kernel

/-! percentOf -/
def wM_percentOf_j58 (post : Int32 → Prop) (K4 : Int32 → Int32 → Int32 → Prop) (F : MF) (G : MG) (y1 : Int32) (y2 : Int32) (y3 : Int32) (z0 : Int32) : Prop :=
  (z0 = 0 → K4 y1 y2 (y3 + (1 : Int32))) ∧ (¬ z0 = 0 → K4 y1 y3 (y3 + (1 : Int32)))
def wM_percentOf_b4 (post : Int32 → Prop) (F : MF) (G : MG) (K4 : Int32 → Int32 → Int32 → Prop) (y1 : Int32) (y2 : Int32) (y3 : Int32) : Prop :=
  ((G 1 4) ≤ y3 → (y2 = (-1 : Int32) → post (100 : Int32)) ∧ (¬ y2 = (-1 : Int32) → vp_in ((114 : Int32) + y2) 166 ∧ post (G 1 (((114 : Int32) + y2).toNatClampNeg)))) ∧ (¬ (G 1 4) ≤ y3 → vp_in ((110 : Int32) + y3) 166 ∧ (y1 < (G 1 (((110 : Int32) + y3).toNatClampNeg)) → wM_percentOf_j58 post K4 F G y1 y2 y3 (0 : Int32)) ∧ (¬ y1 < (G 1 (((110 : Int32) + y3).toNatClampNeg)) → (y2 = (-1 : Int32) → wM_percentOf_j58 post K4 F G y1 y2 y3 (1 : Int32)) ∧ (¬ y2 = (-1 : Int32) → vp_in ((110 : Int32) + y3) 166 ∧ vp_in ((110 : Int32) + y2) 166 ∧ ((G 1 (((110 : Int32) + y3).toNatClampNeg)) ≤ (G 1 (((110 : Int32) + y2).toNatClampNeg)) → wM_percentOf_j58 post K4 F G y1 y2 y3 (0 : Int32)) ∧ (¬ (G 1 (((110 : Int32) + y3).toNatClampNeg)) ≤ (G 1 (((110 : Int32) + y2).toNatClampNeg)) → wM_percentOf_j58 post K4 F G y1 y2 y3 (1 : Int32)))))
def wM_percentOf_l4 (post : Int32 → Prop) (F : MF) (G : MG) : Nat → Int32 → Int32 → Int32 → Prop
  | 0 => fun _ _ _ => False
  | n + 1 => wM_percentOf_b4 post F G (wM_percentOf_l4 post F G n)
def wM_percentOf (post : Int32 → Prop) (x1 : Int32) (F : MF) (G : MG) : Prop :=
  ∃ n, wM_percentOf_l4 post F G n x1 (-1 : Int32) (0 : Int32)
set_option maxHeartbeats 4000000 in
theorem kM_percentOf (l : Launch) (w : MP) (post : Int32 → Prop) (x1 : Int32) (F : MF) (G : MG) (hw : wM_percentOf post x1 F G) : m_Mi l w yX5_percentOf cX5_percentOf 5 .int 0 [.ref (mp_h w), .int x1] F G (fun r F1 G1 => F1 = F ∧ G1 = G ∧ post r) := by
  refine m_ofWi (by decide) rfl (Nat.le_of_ble_eq_true rfl) (fun _ => True) (fun _ _ => rfl) ?_
  intro p e s m args below meth c Q ls hA hW hQ
  obtain ⟨hE, hT, hl⟩ := hA
  obtain ⟨hx, hb, hml, hown, hts⟩ := id hE
  have hl : lv_has ls 5 [(0, .ref (mp_h w)), (1, .int x1)] := hl
  have lp4 : ∀ (n4 : Nat) (y1 : Int32) (y2 : Int32) (y3 : Int32) (H : Heap) (locs : List Loc) (ls : Array Slot), lv_has ls 5 [(0, .ref (mp_h w)), (1, .int y1), (2, .int y2), (3, .int y3)] → m_W w s.heap F G H locs → wM_percentOf_l4 post F G n4 y1 y2 y3 → W p l e (mrm 0) s m args below meth c H locs 0 0 Q (F0 m 4 ls []) := by
    intro n4
    induction n4 with
    | zero => intro y1 y2 y3 H locs ls hl hW hw; exact hw.elim
    | succ n4 ih4 =>
      have jn58 : ∀ (y1 : Int32) (y2 : Int32) (y3 : Int32) (z0 : Int32) (H : Heap) (locs : List Loc) (ls : Array Slot), lv_has ls 5 [(0, .ref (mp_h w)), (1, .int y1), (2, .int y2), (3, .int y3)] → m_W w s.heap F G H locs → wM_percentOf_j58 post (wM_percentOf_l4 post F G n4) F G y1 y2 y3 z0 → W p l e (mrm 0) s m args below meth c H locs 0 0 Q (F0 m 58 ls [.int z0]) := by
        intro y1 y2 y3 z0 H locs ls hl hW hw
        unfold wM_percentOf_j58 at hw
        refine lv_istore (lv' := [(4, .int z0), (0, .ref (mp_h w)), (1, .int y1), (2, .int y2), (3, .int y3)]) hx hb dX5_percentOf_58 hl (by decide) rfl (fun ls hl => ?_)
        refine lv_iload hx hb dX5_percentOf_60 (lv_at hl 0 rfl) ?_
        refine lv_if_eq (tgt := 69) hx hb dX5_percentOf_62 (by decide) (fun q => ?_) (fun q => ?_)
        · have hw := hw.1 q
          refine lv_iload_n hx hb dX5_percentOf_69 rfl (lv_at hl 3 rfl) ?_
          refine lv_istore_n (lv' := [(2, .int y2), (4, .int z0), (0, .ref (mp_h w)), (1, .int y1), (3, .int y3)]) hx hb dX5_percentOf_70 rfl hl (by decide) rfl (fun ls hl => ?_)
          refine lv_iinc (v := (y3 + (1 : Int32))) (lv' := [(3, .int (y3 + (1 : Int32))), (2, .int y2), (4, .int z0), (0, .ref (mp_h w)), (1, .int y1)]) hx hb dX5_percentOf_71 hl (k := 4) rfl rfl (by decide) rfl (fun ls hl => ?_)
          refine lv_goto (tgt := 4) hx hb dX5_percentOf_74 (by decide) ?_
          exact ih4 y1 y2 (y3 + (1 : Int32)) _ _ _ (lv_sub hl [3, 4, 1, 0] rfl) hW hw
        · have hw := hw.2 q
          refine lv_iload_n hx hb dX5_percentOf_65 rfl (lv_at hl 4 rfl) ?_
          refine lv_goto (tgt := 70) hx hb dX5_percentOf_66 (by decide) ?_
          refine lv_istore_n (lv' := [(2, .int y3), (4, .int z0), (0, .ref (mp_h w)), (1, .int y1), (3, .int y3)]) hx hb dX5_percentOf_70 rfl hl (by decide) rfl (fun ls hl => ?_)
          refine lv_iinc (v := (y3 + (1 : Int32))) (lv' := [(3, .int (y3 + (1 : Int32))), (2, .int y3), (4, .int z0), (0, .ref (mp_h w)), (1, .int y1)]) hx hb dX5_percentOf_71 hl (k := 4) rfl rfl (by decide) rfl (fun ls hl => ?_)
          refine lv_goto (tgt := 4) hx hb dX5_percentOf_74 (by decide) ?_
          exact ih4 y1 y3 (y3 + (1 : Int32)) _ _ _ (lv_sub hl [3, 4, 1, 0] rfl) hW hw
      intro y1 y2 y3 H locs ls hl hW hw
      have hw : wM_percentOf_b4 post F G (wM_percentOf_l4 post F G n4) y1 y2 y3 := hw
      unfold wM_percentOf_b4 at hw
      refine lv_iload_n hx hb dX5_percentOf_4 rfl (lv_at hl 3 rfl) ?_
      refine lv_aload_n hx hb dX5_percentOf_5 rfl (lv_at hl 0 rfl) ?_
      refine m_get hx hb hown hts hT hW 1 (by decide) (hts _ q2130) rfl (v := .ref (mp_a w 1)) rfl dX5_percentOf_6 ?_
      refine lv_iconst (v := (4 : Int32)) hx hb dX5_percentOf_9 (by decide) ?_
      refine m_iald hx hb hT hW (k := 1) (j := 4) (by decide) rfl (by unfold vp_in; decide) dX5_percentOf_10 ?_
      refine lv_icmp_ge (tgt := 77) hx hb dX5_percentOf_11 (by decide) (fun q => ?_) (fun q => ?_)
      · have hw := hw.1 q
        refine lv_iload_n hx hb dX5_percentOf_77 rfl (lv_at hl 2 rfl) ?_
        refine lv_iconst (v := (-1 : Int32)) hx hb dX5_percentOf_78 (by decide) ?_
        refine lv_icmp_ne (tgt := 87) hx hb dX5_percentOf_79 (by decide) (fun q => ?_) (fun q => ?_)
        · have hw := hw.2 q
          refine lv_aload_n hx hb dX5_percentOf_87 rfl (lv_at hl 0 rfl) ?_
          refine m_get hx hb hown hts hT hW 1 (by decide) (hts _ q2130) rfl (v := .ref (mp_a w 1)) rfl dX5_percentOf_88 ?_
          refine lv_bipush (v := (114 : Int32)) hx hb dX5_percentOf_91 (by decide) ?_
          refine lv_iload_n hx hb dX5_percentOf_93 rfl (lv_at hl 2 rfl) ?_
          refine lv_iadd hx hb dX5_percentOf_94 ?_
          obtain ⟨hi, hw⟩ := hw
          refine m_iald hx hb hT hW (k := 1) (j := (((114 : Int32) + y2).toNatClampNeg)) rfl rfl hi dX5_percentOf_95 ?_
          exact hQ _ _ _ _ _ trivial ⟨rfl, rfl, hw⟩ hW _ _ dX5_percentOf_96
        · have hw := hw.1 q
          refine lv_bipush (v := (100 : Int32)) hx hb dX5_percentOf_82 (by decide) ?_
          refine lv_goto (tgt := 96) hx hb dX5_percentOf_84 (by decide) ?_
          exact hQ _ _ _ _ _ trivial ⟨rfl, rfl, hw⟩ hW _ _ dX5_percentOf_96
      · have hw := hw.2 q
        refine lv_aload_n hx hb dX5_percentOf_14 rfl (lv_at hl 0 rfl) ?_
        refine m_get hx hb hown hts hT hW 1 (by decide) (hts _ q2130) rfl (v := .ref (mp_a w 1)) rfl dX5_percentOf_15 ?_
        refine lv_bipush (v := (110 : Int32)) hx hb dX5_percentOf_18 (by decide) ?_
        refine lv_iload_n hx hb dX5_percentOf_20 rfl (lv_at hl 3 rfl) ?_
        refine lv_iadd hx hb dX5_percentOf_21 ?_
        obtain ⟨hi, hw⟩ := hw
        refine m_iald hx hb hT hW (k := 1) (j := (((110 : Int32) + y3).toNatClampNeg)) rfl rfl hi dX5_percentOf_22 ?_
        refine lv_iload_n hx hb dX5_percentOf_23 rfl (lv_at hl 1 rfl) ?_
        refine lv_icmp_gt (tgt := 57) hx hb dX5_percentOf_24 (by decide) (fun q => ?_) (fun q => ?_)
        · have hw := hw.1 q
          refine lv_iconst (v := (0 : Int32)) hx hb dX5_percentOf_57 (by decide) ?_
          exact jn58 y1 y2 y3 (0 : Int32) _ _ _ hl hW hw
        · have hw := hw.2 q
          refine lv_iload_n hx hb dX5_percentOf_27 rfl (lv_at hl 2 rfl) ?_
          refine lv_iconst (v := (-1 : Int32)) hx hb dX5_percentOf_28 (by decide) ?_
          refine lv_icmp_eq (tgt := 53) hx hb dX5_percentOf_29 (by decide) (fun q => ?_) (fun q => ?_)
          · have hw := hw.1 q
            refine lv_iconst (v := (1 : Int32)) hx hb dX5_percentOf_53 (by decide) ?_
            refine lv_goto (tgt := 58) hx hb dX5_percentOf_54 (by decide) ?_
            exact jn58 y1 y2 y3 (1 : Int32) _ _ _ hl hW hw
          · have hw := hw.2 q
            refine lv_aload_n hx hb dX5_percentOf_32 rfl (lv_at hl 0 rfl) ?_
            refine m_get hx hb hown hts hT hW 1 (by decide) (hts _ q2130) rfl (v := .ref (mp_a w 1)) rfl dX5_percentOf_33 ?_
            refine lv_bipush (v := (110 : Int32)) hx hb dX5_percentOf_36 (by decide) ?_
            refine lv_iload_n hx hb dX5_percentOf_38 rfl (lv_at hl 3 rfl) ?_
            refine lv_iadd hx hb dX5_percentOf_39 ?_
            obtain ⟨hi, hw⟩ := hw
            refine m_iald hx hb hT hW (k := 1) (j := (((110 : Int32) + y3).toNatClampNeg)) rfl rfl hi dX5_percentOf_40 ?_
            refine lv_aload_n hx hb dX5_percentOf_41 rfl (lv_at hl 0 rfl) ?_
            refine m_get hx hb hown hts hT hW 1 (by decide) (hts _ q2130) rfl (v := .ref (mp_a w 1)) rfl dX5_percentOf_42 ?_
            refine lv_bipush (v := (110 : Int32)) hx hb dX5_percentOf_45 (by decide) ?_
            refine lv_iload_n hx hb dX5_percentOf_47 rfl (lv_at hl 2 rfl) ?_
            refine lv_iadd hx hb dX5_percentOf_48 ?_
            obtain ⟨hi, hw⟩ := hw
            refine m_iald hx hb hT hW (k := 1) (j := (((110 : Int32) + y2).toNatClampNeg)) rfl rfl hi dX5_percentOf_49 ?_
            refine lv_icmp_le (tgt := 57) hx hb dX5_percentOf_50 (by decide) (fun q => ?_) (fun q => ?_)
            · have hw := hw.1 q
              refine lv_iconst (v := (0 : Int32)) hx hb dX5_percentOf_57 (by decide) ?_
              exact jn58 y1 y2 y3 (0 : Int32) _ _ _ hl hW hw
            · have hw := hw.2 q
              refine lv_iconst (v := (1 : Int32)) hx hb dX5_percentOf_53 (by decide) ?_
              refine lv_goto (tgt := 58) hx hb dX5_percentOf_54 (by decide) ?_
              exact jn58 y1 y2 y3 (1 : Int32) _ _ _ hl hW hw
  unfold wM_percentOf at hw
  refine lv_iconst (v := (-1 : Int32)) hx hb dX5_percentOf_0 (by decide) ?_
  refine lv_istore_n (lv' := [(2, .int (-1 : Int32)), (0, .ref (mp_h w)), (1, .int x1)]) hx hb dX5_percentOf_1 rfl hl (by decide) rfl (fun ls hl => ?_)
  refine lv_iconst (v := (0 : Int32)) hx hb dX5_percentOf_2 (by decide) ?_
  refine lv_istore_n (lv' := [(3, .int (0 : Int32)), (2, .int (-1 : Int32)), (0, .ref (mp_h w)), (1, .int x1)]) hx hb dX5_percentOf_3 rfl hl (by decide) rfl (fun ls hl => ?_)
  obtain ⟨n_1, hw⟩ := hw
  exact lp4 n_1 x1 (-1 : Int32) (0 : Int32) _ _ _ (lv_sub hl [2, 3, 1, 0] rfl) hW hw
theorem gM_percentOf : GoodIn lw_all (wsV RX5 323 RX5 yX5_percentOf (ws_ yX5_percentOf cX5_percentOf 5 (some .int))) := lw_V q2499 q2501 qs119 q154 q2502
theorem dM_percentOf : yX5_percentOf.cls = RX5 ∧ yX5_percentOf.cls ≠ "java/lang/invoke/MethodHandle" ∧ yX5_percentOf.cls ≠ "java/lang/invoke/VarHandle" ∧ (parseMethodDescriptor yX5_percentOf.desc).map (fun d => d.parameters.length) = some 1 := by decide +kernel

/-! feeOf -/
def wM_feeOf (post : Int32 → Prop) (x1 : Int32) (F : MF) (G : MG) : Prop :=
  wM_priceNow (fun r_1 => wM_of (fun r_2 => wM_percentOf (fun r_3 => post ((r_1 * r_3) / (100 : Int32))) ((r_2 - (G 8 0)) / (1440 : Int32)) F G) x1 (10 : Int32) F G) x1 F G
set_option maxHeartbeats 4000000 in
theorem kM_feeOf (l : Launch) (w : MP) (post : Int32 → Prop) (x1 : Int32) (F : MF) (G : MG) (hw : wM_feeOf post x1 F G) : m_Mi l w yX5_feeOf cX5_feeOf 2 .int 3 [.ref (mp_h w), .int x1] F G (fun r F1 G1 => F1 = F ∧ G1 = G ∧ post r) := by
  refine m_ofWi (by decide) rfl (Nat.le_of_ble_eq_true rfl) (fun _ => True) (fun _ _ => rfl) ?_
  intro p e s m args below meth c Q ls hA hW hQ
  obtain ⟨hE, hT, hl⟩ := hA
  obtain ⟨hx, hb, hml, hown, hts⟩ := id hE
  have hl : lv_has ls 2 [(0, .ref (mp_h w)), (1, .int x1)] := hl
  unfold wM_feeOf at hw
  refine lv_aload_n hx hb dX5_feeOf_0 rfl (lv_at hl 0 rfl) ?_
  refine lv_iload_n hx hb dX5_feeOf_1 rfl (lv_at hl 1 rfl) ?_
  refine m_Vi (rest := []) hE hT hW (kM_priceNow l w _ x1 F G hw) gM_priceNow dM_priceNow ⟨Nat.le_of_ble_eq_true rfl, Nat.le_of_ble_eq_true rfl, Nat.zero_le _, Nat.zero_le _⟩ rfl hl.1 rfl (Nat.le_of_ble_eq_true rfl) dX5_feeOf_2 (fun r_1 F9 G9 H locs hw hW => ?_)
  obtain ⟨eF9, eG9, hw⟩ := hw
  rw [eF9, eG9] at hW
  refine lv_aload_n hx hb dX5_feeOf_5 rfl (lv_at hl 0 rfl) ?_
  refine lv_aload_n hx hb dX5_feeOf_6 rfl (lv_at hl 0 rfl) ?_
  refine lv_iload_n hx hb dX5_feeOf_7 rfl (lv_at hl 1 rfl) ?_
  refine lv_bipush (v := (10 : Int32)) hx hb dX5_feeOf_8 (by decide) ?_
  refine m_Vi (rest := [.ref (mp_h w), .int r_1]) hE hT hW (kM_of l w _ x1 (10 : Int32) F G hw) gM_of dM_of ⟨Nat.le_of_ble_eq_true rfl, Nat.le_of_ble_eq_true rfl, Nat.zero_le _, Nat.zero_le _⟩ rfl hl.1 rfl (Nat.le_of_ble_eq_true rfl) dX5_feeOf_10 (fun r_2 F9 G9 H locs hw hW => ?_)
  obtain ⟨eF9, eG9, hw⟩ := hw
  rw [eF9, eG9] at hW
  refine lv_aload_n hx hb dX5_feeOf_13 rfl (lv_at hl 0 rfl) ?_
  refine m_get hx hb hown hts hT hW 8 (by decide) (hts _ q2137) rfl (v := .ref (mp_a w 8)) rfl dX5_feeOf_14 ?_
  refine lv_iconst (v := (0 : Int32)) hx hb dX5_feeOf_17 (by decide) ?_
  refine m_iald hx hb hT hW (k := 8) (j := 0) (by decide) rfl (by unfold vp_in; decide) dX5_feeOf_18 ?_
  refine lv_isub hx hb dX5_feeOf_19 ?_
  refine lv_sipush (v := (1440 : Int32)) hx hb dX5_feeOf_20 (by decide) ?_
  refine lv_idiv hx hb dX5_feeOf_23 (by decide) ?_
  refine m_Vi (rest := [.int r_1]) hE hT hW (kM_percentOf l w _ ((r_2 - (G 8 0)) / (1440 : Int32)) F G hw) gM_percentOf dM_percentOf ⟨Nat.le_of_ble_eq_true rfl, Nat.le_of_ble_eq_true rfl, Nat.zero_le _, Nat.zero_le _⟩ rfl hl.1 rfl (Nat.le_of_ble_eq_true rfl) dX5_feeOf_24 (fun r_3 F9 G9 H locs hw hW => ?_)
  obtain ⟨eF9, eG9, hw⟩ := hw
  rw [eF9, eG9] at hW
  refine lv_imul hx hb dX5_feeOf_27 ?_
  refine lv_bipush (v := (100 : Int32)) hx hb dX5_feeOf_28 (by decide) ?_
  refine lv_idiv hx hb dX5_feeOf_30 (by decide) ?_
  exact hQ _ _ _ _ _ trivial ⟨rfl, rfl, hw⟩ hW _ _ dX5_feeOf_31
theorem gM_feeOf : GoodIn lw_all (wsV RX5 338 RX5 yX5_feeOf (ws_ yX5_feeOf cX5_feeOf 2 (some .int))) := lw_V q2487 q2489 qs116 q154 q2490
theorem dM_feeOf : yX5_feeOf.cls = RX5 ∧ yX5_feeOf.cls ≠ "java/lang/invoke/MethodHandle" ∧ yX5_feeOf.cls ≠ "java/lang/invoke/VarHandle" ∧ (parseMethodDescriptor yX5_feeOf.desc).map (fun d => d.parameters.length) = some 1 := by decide +kernel

/-! requestAt -/
def wM_requestAt (post : Int32 → Prop) (x0 : Int32) (F : MF) (G : MG) : Prop :=
  post ((784 : Int32) + ((11 : Int32) * x0))
set_option maxHeartbeats 4000000 in
theorem kM_requestAt (l : Launch) (w : MP) (post : Int32 → Prop) (x0 : Int32) (F : MF) (G : MG) (hw : wM_requestAt post x0 F G) : m_Mi l w yX5_requestAt cX5_requestAt 1 .int 0 [.int x0] F G (fun r F1 G1 => F1 = F ∧ G1 = G ∧ post r) := by
  refine m_ofWi (by decide) rfl (Nat.le_of_ble_eq_true rfl) (fun _ => True) (fun _ _ => rfl) ?_
  intro p e s m args below meth c Q ls hA hW hQ
  obtain ⟨hE, hT, hl⟩ := hA
  obtain ⟨hx, hb, hml, hown, hts⟩ := id hE
  have hl : lv_has ls 1 [(0, .int x0)] := hl
  unfold wM_requestAt at hw
  refine lv_sipush (v := (784 : Int32)) hx hb dX5_requestAt_0 (by decide) ?_
  refine lv_bipush (v := (11 : Int32)) hx hb dX5_requestAt_3 (by decide) ?_
  refine lv_iload_n hx hb dX5_requestAt_5 rfl (lv_at hl 0 rfl) ?_
  refine lv_imul hx hb dX5_requestAt_6 ?_
  refine lv_iadd hx hb dX5_requestAt_7 ?_
  exact hQ _ _ _ _ _ trivial ⟨rfl, rfl, hw⟩ hW _ _ dX5_requestAt_8
theorem gM_requestAt : GoodIn lw_all (va_wsS RX5 326 yX5_requestAt (ws_ yX5_requestAt cX5_requestAt 1 (some .int))) := lw_S q2507 q2508 q154 q2509
theorem dM_requestAt : yX5_requestAt.cls ≠ "java/lang/invoke/MethodHandle" ∧ yX5_requestAt.cls ≠ "java/lang/invoke/VarHandle" ∧ (parseMethodDescriptor yX5_requestAt.desc).map (fun d => d.parameters.length) = some 1 := by decide +kernel

/-! removesRequest -/
def wM_removesRequest_b53 (post : MF → MG → Prop) (K53 : Int32 → MF → MG → Prop) (y2 : Int32) (F : MF) (G : MG) : Prop :=
  ((11 : Int32) ≤ y2 → post F G) ∧ (¬ (11 : Int32) ≤ y2 → wM_requestAt (fun r_1 => vp_in (r_1 + y2) 1052 ∧ ∀ G_2 : MG, G_2 = mu G 8 ((r_1 + y2).toNatClampNeg) (0 : Int32) → K53 (y2 + (1 : Int32)) F G_2) (G 8 2) F G)
def wM_removesRequest_l53 (post : MF → MG → Prop) : Nat → Int32 → MF → MG → Prop
  | 0 => fun _ _ _ => False
  | n + 1 => wM_removesRequest_b53 post (wM_removesRequest_l53 post n)
def wM_removesRequest_b5 (post : MF → MG → Prop) (K5 : Int32 → MF → MG → Prop) (y2 : Int32) (F : MF) (G : MG) : Prop :=
  wM_requestAt (fun r_3 => (r_3 ≤ y2 → ∀ G_4 : MG, G_4 = mu G 8 2 ((G 8 2) - (1 : Int32)) → ∃ n, wM_removesRequest_l53 post n (0 : Int32) F G_4) ∧ (¬ r_3 ≤ y2 → vp_in (y2 + (11 : Int32)) 1052 ∧ vp_in y2 1052 ∧ ∀ G_6 : MG, G_6 = mu G 8 (y2.toNatClampNeg) (G 8 ((y2 + (11 : Int32)).toNatClampNeg)) → K5 (y2 + (1 : Int32)) F G_6)) ((G 8 2) - (1 : Int32)) F G
def wM_removesRequest_l5 (post : MF → MG → Prop) : Nat → Int32 → MF → MG → Prop
  | 0 => fun _ _ _ => False
  | n + 1 => wM_removesRequest_b5 post (wM_removesRequest_l5 post n)
def wM_removesRequest (post : MF → MG → Prop) (x1 : Int32) (F : MF) (G : MG) : Prop :=
  wM_requestAt (fun r_7 => ∃ n, wM_removesRequest_l5 post n r_7 F G) x1 F G
set_option maxHeartbeats 4000000 in
theorem kM_removesRequest (l : Launch) (w : MP) (post : MF → MG → Prop) (x1 : Int32) (F : MF) (G : MG) (hw : wM_removesRequest post x1 F G) : m_Mv l w yX5_removesRequest cX5_removesRequest 3 1 [.ref (mp_h w), .int x1] F G post := by
  refine m_ofWv (by decide) rfl (Nat.le_of_ble_eq_true rfl) ?_
  intro p e s m args below meth c Q ls hA hW hQ
  obtain ⟨hE, hT, hl⟩ := hA
  obtain ⟨hx, hb, hml, hown, hts⟩ := id hE
  have hl : lv_has ls 3 [(0, .ref (mp_h w)), (1, .int x1)] := hl
  have lp53 : ∀ (n53 : Nat) (y2 : Int32) (F : MF) (G : MG) (H : Heap) (locs : List Loc) (ls : Array Slot), lv_has ls 3 [(0, .ref (mp_h w)), (2, .int y2)] → m_W w s.heap F G H locs → wM_removesRequest_l53 post n53 y2 F G → W p l e (mrm 1) s m args below meth c H locs 0 0 Q (F0 m 53 ls []) := by
    intro n53
    induction n53 with
    | zero => intro y2 F G H locs ls hl hW hw; exact hw.elim
    | succ n53 ih53 =>
      intro y2 F G H locs ls hl hW hw
      have hw : wM_removesRequest_b53 post (wM_removesRequest_l53 post n53) y2 F G := hw
      unfold wM_removesRequest_b53 at hw
      refine lv_iload_n hx hb dX5_removesRequest_53 rfl (lv_at hl 1 rfl) ?_
      refine lv_bipush (v := (11 : Int32)) hx hb dX5_removesRequest_54 (by decide) ?_
      refine lv_icmp_ge (tgt := 82) hx hb dX5_removesRequest_56 (by decide) (fun q => ?_) (fun q => ?_)
      · have hw := hw.1 q
        exact hQ _ _ _ _ hw hW _ _ dX5_removesRequest_82
      · have hw := hw.2 q
        refine lv_aload_n hx hb dX5_removesRequest_59 rfl (lv_at hl 0 rfl) ?_
        refine m_get hx hb hown hts hT hW 8 (by decide) (hts _ q2137) rfl (v := .ref (mp_a w 8)) rfl dX5_removesRequest_60 ?_
        refine lv_aload_n hx hb dX5_removesRequest_63 rfl (lv_at hl 0 rfl) ?_
        refine m_get hx hb hown hts hT hW 8 (by decide) (hts _ q2137) rfl (v := .ref (mp_a w 8)) rfl dX5_removesRequest_64 ?_
        refine lv_iconst (v := (2 : Int32)) hx hb dX5_removesRequest_67 (by decide) ?_
        refine m_iald hx hb hT hW (k := 8) (j := 2) (by decide) rfl (by unfold vp_in; decide) dX5_removesRequest_68 ?_
        refine m_Si (rest := [.ref (mp_a w 8)]) hE hT hW (kM_requestAt l w _ (G 8 2) F G hw) gM_requestAt dM_requestAt ⟨Nat.le_of_ble_eq_true rfl, Nat.le_of_ble_eq_true rfl, Nat.zero_le _, Nat.zero_le _⟩ rfl hl.1 rfl (Nat.le_of_ble_eq_true rfl) dX5_removesRequest_69 (fun r_1 F9 G9 H locs hw hW => ?_)
        obtain ⟨eF9, eG9, hw⟩ := hw
        rw [eF9, eG9] at hW
        refine lv_iload_n hx hb dX5_removesRequest_72 rfl (lv_at hl 1 rfl) ?_
        refine lv_iadd hx hb dX5_removesRequest_73 ?_
        refine lv_iconst (v := (0 : Int32)) hx hb dX5_removesRequest_74 (by decide) ?_
        obtain ⟨hi, hw⟩ := hw
        refine m_iast hx hb hT hW (k := 8) (j := ((r_1 + y2).toNatClampNeg)) rfl rfl hi dX5_removesRequest_75 (fun G_2 H locs eG_2 hW => ?_)
        have hw := hw G_2 eG_2
        refine lv_iinc (v := (y2 + (1 : Int32))) (lv' := [(2, .int (y2 + (1 : Int32))), (0, .ref (mp_h w))]) hx hb dX5_removesRequest_76 hl (k := 1) rfl rfl (by decide) rfl (fun ls hl => ?_)
        refine lv_goto (tgt := 53) hx hb dX5_removesRequest_79 (by decide) ?_
        exact ih53 (y2 + (1 : Int32)) F G_2 _ _ _ (lv_sub hl [1, 0] rfl) hW hw
  have lp5 : ∀ (n5 : Nat) (y2 : Int32) (F : MF) (G : MG) (H : Heap) (locs : List Loc) (ls : Array Slot), lv_has ls 3 [(0, .ref (mp_h w)), (2, .int y2)] → m_W w s.heap F G H locs → wM_removesRequest_l5 post n5 y2 F G → W p l e (mrm 1) s m args below meth c H locs 0 0 Q (F0 m 5 ls []) := by
    intro n5
    induction n5 with
    | zero => intro y2 F G H locs ls hl hW hw; exact hw.elim
    | succ n5 ih5 =>
      intro y2 F G H locs ls hl hW hw
      have hw : wM_removesRequest_b5 post (wM_removesRequest_l5 post n5) y2 F G := hw
      unfold wM_removesRequest_b5 at hw
      refine lv_iload_n hx hb dX5_removesRequest_5 rfl (lv_at hl 1 rfl) ?_
      refine lv_aload_n hx hb dX5_removesRequest_6 rfl (lv_at hl 0 rfl) ?_
      refine m_get hx hb hown hts hT hW 8 (by decide) (hts _ q2137) rfl (v := .ref (mp_a w 8)) rfl dX5_removesRequest_7 ?_
      refine lv_iconst (v := (2 : Int32)) hx hb dX5_removesRequest_10 (by decide) ?_
      refine m_iald hx hb hT hW (k := 8) (j := 2) (by decide) rfl (by unfold vp_in; decide) dX5_removesRequest_11 ?_
      refine lv_iconst (v := (1 : Int32)) hx hb dX5_removesRequest_12 (by decide) ?_
      refine lv_isub hx hb dX5_removesRequest_13 ?_
      refine m_Si (rest := [.int y2]) hE hT hW (kM_requestAt l w _ ((G 8 2) - (1 : Int32)) F G hw) gM_requestAt dM_requestAt ⟨Nat.le_of_ble_eq_true rfl, Nat.le_of_ble_eq_true rfl, Nat.zero_le _, Nat.zero_le _⟩ rfl hl.1 rfl (Nat.le_of_ble_eq_true rfl) dX5_removesRequest_14 (fun r_3 F9 G9 H locs hw hW => ?_)
      obtain ⟨eF9, eG9, hw⟩ := hw
      rw [eF9, eG9] at hW
      refine lv_icmp_ge (tgt := 41) hx hb dX5_removesRequest_17 (by decide) (fun q => ?_) (fun q => ?_)
      · have hw := hw.1 q
        refine lv_aload_n hx hb dX5_removesRequest_41 rfl (lv_at hl 0 rfl) ?_
        refine m_get hx hb hown hts hT hW 8 (by decide) (hts _ q2137) rfl (v := .ref (mp_a w 8)) rfl dX5_removesRequest_42 ?_
        refine lv_iconst (v := (2 : Int32)) hx hb dX5_removesRequest_45 (by decide) ?_
        refine lv_dup2_11 hx hb dX5_removesRequest_46 rfl rfl ?_
        refine m_iald hx hb hT hW (k := 8) (j := 2) (by decide) rfl (by unfold vp_in; decide) dX5_removesRequest_47 ?_
        refine lv_iconst (v := (1 : Int32)) hx hb dX5_removesRequest_48 (by decide) ?_
        refine lv_isub hx hb dX5_removesRequest_49 ?_
        refine m_iast hx hb hT hW (k := 8) (j := 2) (by decide) rfl (by unfold vp_in; decide) dX5_removesRequest_50 (fun G_4 H locs eG_4 hW => ?_)
        have hw := hw G_4 eG_4
        refine lv_iconst (v := (0 : Int32)) hx hb dX5_removesRequest_51 (by decide) ?_
        refine lv_istore_n (lv' := [(2, .int (0 : Int32)), (0, .ref (mp_h w))]) hx hb dX5_removesRequest_52 rfl hl (by decide) rfl (fun ls hl => ?_)
        obtain ⟨n_5, hw⟩ := hw
        exact lp53 n_5 (0 : Int32) F G_4 _ _ _ (lv_sub hl [1, 0] rfl) hW hw
      · have hw := hw.2 q
        refine lv_aload_n hx hb dX5_removesRequest_20 rfl (lv_at hl 0 rfl) ?_
        refine m_get hx hb hown hts hT hW 8 (by decide) (hts _ q2137) rfl (v := .ref (mp_a w 8)) rfl dX5_removesRequest_21 ?_
        refine lv_iload_n hx hb dX5_removesRequest_24 rfl (lv_at hl 1 rfl) ?_
        refine lv_aload_n hx hb dX5_removesRequest_25 rfl (lv_at hl 0 rfl) ?_
        refine m_get hx hb hown hts hT hW 8 (by decide) (hts _ q2137) rfl (v := .ref (mp_a w 8)) rfl dX5_removesRequest_26 ?_
        refine lv_iload_n hx hb dX5_removesRequest_29 rfl (lv_at hl 1 rfl) ?_
        refine lv_bipush (v := (11 : Int32)) hx hb dX5_removesRequest_30 (by decide) ?_
        refine lv_iadd hx hb dX5_removesRequest_32 ?_
        obtain ⟨hi, hw⟩ := hw
        refine m_iald hx hb hT hW (k := 8) (j := ((y2 + (11 : Int32)).toNatClampNeg)) rfl rfl hi dX5_removesRequest_33 ?_
        obtain ⟨hi, hw⟩ := hw
        refine m_iast hx hb hT hW (k := 8) (j := (y2.toNatClampNeg)) rfl rfl hi dX5_removesRequest_34 (fun G_6 H locs eG_6 hW => ?_)
        have hw := hw G_6 eG_6
        refine lv_iinc (v := (y2 + (1 : Int32))) (lv' := [(2, .int (y2 + (1 : Int32))), (0, .ref (mp_h w))]) hx hb dX5_removesRequest_35 hl (k := 1) rfl rfl (by decide) rfl (fun ls hl => ?_)
        refine lv_goto (tgt := 5) hx hb dX5_removesRequest_38 (by decide) ?_
        exact ih5 (y2 + (1 : Int32)) F G_6 _ _ _ (lv_sub hl [1, 0] rfl) hW hw
  unfold wM_removesRequest at hw
  refine lv_iload_n hx hb dX5_removesRequest_0 rfl (lv_at hl 1 rfl) ?_
  refine m_Si (rest := []) hE hT hW (kM_requestAt l w _ x1 F G hw) gM_requestAt dM_requestAt ⟨Nat.le_of_ble_eq_true rfl, Nat.le_of_ble_eq_true rfl, Nat.zero_le _, Nat.zero_le _⟩ rfl hl.1 rfl (Nat.le_of_ble_eq_true rfl) dX5_removesRequest_1 (fun r_7 F9 G9 H locs hw hW => ?_)
  obtain ⟨eF9, eG9, hw⟩ := hw
  rw [eF9, eG9] at hW
  refine lv_istore_n (lv' := [(2, .int r_7), (0, .ref (mp_h w)), (1, .int x1)]) hx hb dX5_removesRequest_4 rfl hl (by decide) rfl (fun ls hl => ?_)
  obtain ⟨n_8, hw⟩ := hw
  exact lp5 n_8 r_7 F G _ _ _ (lv_sub hl [1, 0] rfl) hW hw
theorem gM_removesRequest : GoodIn lw_all (wsV RX5 329 RX5 yX5_removesRequest (ws_ yX5_removesRequest cX5_removesRequest 3 none)) := lw_V q2510 q2512 qs121 q154 q2513
theorem dM_removesRequest : yX5_removesRequest.cls = RX5 ∧ yX5_removesRequest.cls ≠ "java/lang/invoke/MethodHandle" ∧ yX5_removesRequest.cls ≠ "java/lang/invoke/VarHandle" ∧ (parseMethodDescriptor yX5_removesRequest.desc).map (fun d => d.parameters.length) = some 1 := by decide +kernel

/-! serves -/
def wM_serves_b2 (post : MF → MG → Prop) (K2 : Int32 → MF → MG → Prop) (y1 : Int32) (F : MF) (G : MG) : Prop :=
  ((G 8 2) ≤ y1 → post F G) ∧ (¬ (G 8 2) ≤ y1 → wM_requestAt (fun r_1 => vp_in (r_1 + (9 : Int32)) 1052 ∧ ∀ x2_2 : Int32, x2_2 = (G 8 ((r_1 + (9 : Int32)).toNatClampNeg)) → wM_requestAt (fun r_3 => vp_in (r_3 + (10 : Int32)) 1052 ∧ ∀ x3_4 : Int32, x3_4 = (G 8 ((r_3 + (10 : Int32)).toNatClampNeg)) → wM_requestAt (fun r_5 => wM_asks (fun F_6 G_7 => ((60 : Int32) ≤ (G_7 8 1) → K2 (y1 + (1 : Int32)) F_6 G_7) ∧ (¬ (60 : Int32) ≤ (G_7 8 1) → wM_problemOf (fun r_8 F_9 G_10 => (r_8 = 0 → wM_requestAt (fun r_11 => wM_books (fun r_12 F_13 G_14 => wM_removesRequest (fun F_15 G_16 => K2 y1 F_15 G_16) y1 F_13 G_14) (8) r_11 x2_2 x3_4 F_9 G_10) y1 F_9 G_10) ∧ (¬ r_8 = 0 → K2 (y1 + (1 : Int32)) F_9 G_10)) x2_2 x3_4 F_6 G_7)) (8) r_5 F G) y1 F G) y1 F G) y1 F G)
def wM_serves_l2 (post : MF → MG → Prop) : Nat → Int32 → MF → MG → Prop
  | 0 => fun _ _ _ => False
  | n + 1 => wM_serves_b2 post (wM_serves_l2 post n)
def wM_serves (post : MF → MG → Prop) (F : MF) (G : MG) : Prop :=
  ∃ n, wM_serves_l2 post n (0 : Int32) F G
set_option maxHeartbeats 4000000 in
theorem kM_serves (l : Launch) (w : MP) (post : MF → MG → Prop) (F : MF) (G : MG) (hw : wM_serves post F G) : m_Mv l w yX5_serves cX5_serves 5 7 [.ref (mp_h w)] F G post := by
  refine m_ofWv (by decide) rfl (Nat.le_of_ble_eq_true rfl) ?_
  intro p e s m args below meth c Q ls hA hW hQ
  obtain ⟨hE, hT, hl⟩ := hA
  obtain ⟨hx, hb, hml, hown, hts⟩ := id hE
  have hl : lv_has ls 5 [(0, .ref (mp_h w))] := hl
  have lp2 : ∀ (n2 : Nat) (y1 : Int32) (F : MF) (G : MG) (H : Heap) (locs : List Loc) (ls : Array Slot), lv_has ls 5 [(0, .ref (mp_h w)), (1, .int y1)] → m_W w s.heap F G H locs → wM_serves_l2 post n2 y1 F G → W p l e (mrm 7) s m args below meth c H locs 0 0 Q (F0 m 2 ls []) := by
    intro n2
    induction n2 with
    | zero => intro y1 F G H locs ls hl hW hw; exact hw.elim
    | succ n2 ih2 =>
      intro y1 F G H locs ls hl hW hw
      have hw : wM_serves_b2 post (wM_serves_l2 post n2) y1 F G := hw
      unfold wM_serves_b2 at hw
      refine lv_iload_n hx hb dX5_serves_2 rfl (lv_at hl 1 rfl) ?_
      refine lv_aload_n hx hb dX5_serves_3 rfl (lv_at hl 0 rfl) ?_
      refine m_get hx hb hown hts hT hW 8 (by decide) (hts _ q2137) rfl (v := .ref (mp_a w 8)) rfl dX5_serves_4 ?_
      refine lv_iconst (v := (2 : Int32)) hx hb dX5_serves_7 (by decide) ?_
      refine m_iald hx hb hT hW (k := 8) (j := 2) (by decide) rfl (by unfold vp_in; decide) dX5_serves_8 ?_
      refine lv_icmp_ge (tgt := 100) hx hb dX5_serves_9 (by decide) (fun q => ?_) (fun q => ?_)
      · have hw := hw.1 q
        exact hQ _ _ _ _ hw hW _ _ dX5_serves_100
      · have hw := hw.2 q
        refine lv_aload_n hx hb dX5_serves_12 rfl (lv_at hl 0 rfl) ?_
        refine m_get hx hb hown hts hT hW 8 (by decide) (hts _ q2137) rfl (v := .ref (mp_a w 8)) rfl dX5_serves_13 ?_
        refine lv_iload_n hx hb dX5_serves_16 rfl (lv_at hl 1 rfl) ?_
        refine m_Si (rest := [.ref (mp_a w 8)]) hE hT hW (kM_requestAt l w _ y1 F G hw) gM_requestAt dM_requestAt ⟨Nat.le_of_ble_eq_true rfl, Nat.le_of_ble_eq_true rfl, Nat.zero_le _, Nat.zero_le _⟩ rfl hl.1 rfl (Nat.le_of_ble_eq_true rfl) dX5_serves_17 (fun r_1 F9 G9 H locs hw hW => ?_)
        obtain ⟨eF9, eG9, hw⟩ := hw
        rw [eF9, eG9] at hW
        refine lv_bipush (v := (9 : Int32)) hx hb dX5_serves_20 (by decide) ?_
        refine lv_iadd hx hb dX5_serves_22 ?_
        obtain ⟨hi, hw⟩ := hw
        refine m_iald hx hb hT hW (k := 8) (j := ((r_1 + (9 : Int32)).toNatClampNeg)) rfl rfl hi dX5_serves_23 ?_
        refine lv_topi (fun x2_2 ex2_2 => ?_)
        have hw := hw x2_2 ex2_2
        refine lv_istore_n (lv' := [(2, .int x2_2), (0, .ref (mp_h w)), (1, .int y1)]) hx hb dX5_serves_24 rfl hl (by decide) rfl (fun ls hl => ?_)
        refine lv_aload_n hx hb dX5_serves_25 rfl (lv_at hl 1 rfl) ?_
        refine m_get hx hb hown hts hT hW 8 (by decide) (hts _ q2137) rfl (v := .ref (mp_a w 8)) rfl dX5_serves_26 ?_
        refine lv_iload_n hx hb dX5_serves_29 rfl (lv_at hl 2 rfl) ?_
        refine m_Si (rest := [.ref (mp_a w 8)]) hE hT hW (kM_requestAt l w _ y1 F G hw) gM_requestAt dM_requestAt ⟨Nat.le_of_ble_eq_true rfl, Nat.le_of_ble_eq_true rfl, Nat.zero_le _, Nat.zero_le _⟩ rfl hl.1 rfl (Nat.le_of_ble_eq_true rfl) dX5_serves_30 (fun r_3 F9 G9 H locs hw hW => ?_)
        obtain ⟨eF9, eG9, hw⟩ := hw
        rw [eF9, eG9] at hW
        refine lv_bipush (v := (10 : Int32)) hx hb dX5_serves_33 (by decide) ?_
        refine lv_iadd hx hb dX5_serves_35 ?_
        obtain ⟨hi, hw⟩ := hw
        refine m_iald hx hb hT hW (k := 8) (j := ((r_3 + (10 : Int32)).toNatClampNeg)) rfl rfl hi dX5_serves_36 ?_
        refine lv_topi (fun x3_4 ex3_4 => ?_)
        have hw := hw x3_4 ex3_4
        refine lv_istore_n (lv' := [(3, .int x3_4), (2, .int x2_2), (0, .ref (mp_h w)), (1, .int y1)]) hx hb dX5_serves_37 rfl hl (by decide) rfl (fun ls hl => ?_)
        refine lv_aload_n hx hb dX5_serves_38 rfl (lv_at hl 2 rfl) ?_
        refine lv_aload_n hx hb dX5_serves_39 rfl (lv_at hl 2 rfl) ?_
        refine m_get hx hb hown hts hT hW 8 (by decide) (hts _ q2137) rfl (v := .ref (mp_a w 8)) rfl dX5_serves_40 ?_
        refine lv_iload_n hx hb dX5_serves_43 rfl (lv_at hl 3 rfl) ?_
        refine m_Si (rest := [.ref (mp_a w 8), .ref (mp_h w)]) hE hT hW (kM_requestAt l w _ y1 F G hw) gM_requestAt dM_requestAt ⟨Nat.le_of_ble_eq_true rfl, Nat.le_of_ble_eq_true rfl, Nat.zero_le _, Nat.zero_le _⟩ rfl hl.1 rfl (Nat.le_of_ble_eq_true rfl) dX5_serves_44 (fun r_5 F9 G9 H locs hw hW => ?_)
        obtain ⟨eF9, eG9, hw⟩ := hw
        rw [eF9, eG9] at hW
        refine m_Vv (rest := []) hE hT hW (kM_asks l w _ (8) r_5 F G hw) gM_asks dM_asks ⟨Nat.le_of_ble_eq_true rfl, Nat.le_of_ble_eq_true rfl, Nat.zero_le _, Nat.zero_le _⟩ rfl hl.1 rfl (Nat.le_of_ble_eq_true rfl) dX5_serves_47 (fun F_6 G_7 H locs hw hW => ?_)
        refine lv_aload_n hx hb dX5_serves_50 rfl (lv_at hl 2 rfl) ?_
        refine m_get hx hb hown hts hT hW 8 (by decide) (hts _ q2137) rfl (v := .ref (mp_a w 8)) rfl dX5_serves_51 ?_
        refine lv_iconst (v := (1 : Int32)) hx hb dX5_serves_54 (by decide) ?_
        refine m_iald hx hb hT hW (k := 8) (j := 1) (by decide) rfl (by unfold vp_in; decide) dX5_serves_55 ?_
        refine lv_bipush (v := (60 : Int32)) hx hb dX5_serves_56 (by decide) ?_
        refine lv_icmp_ge (tgt := 94) hx hb dX5_serves_58 (by decide) (fun q => ?_) (fun q => ?_)
        · have hw := hw.1 q
          refine lv_iinc (v := (y1 + (1 : Int32))) (lv' := [(1, .int (y1 + (1 : Int32))), (3, .int x3_4), (2, .int x2_2), (0, .ref (mp_h w))]) hx hb dX5_serves_94 hl (k := 3) rfl rfl (by decide) rfl (fun ls hl => ?_)
          refine lv_goto (tgt := 2) hx hb dX5_serves_97 (by decide) ?_
          exact ih2 (y1 + (1 : Int32)) F_6 G_7 _ _ _ (lv_sub hl [3, 0] rfl) hW hw
        · have hw := hw.2 q
          refine lv_aload_n hx hb dX5_serves_61 rfl (lv_at hl 2 rfl) ?_
          refine lv_iload_n hx hb dX5_serves_62 rfl (lv_at hl 1 rfl) ?_
          refine lv_iload_n hx hb dX5_serves_63 rfl (lv_at hl 0 rfl) ?_
          refine m_Vi (rest := []) hE hT hW (kM_problemOf l w _ x2_2 x3_4 F_6 G_7 hw) gM_problemOf dM_problemOf ⟨Nat.le_of_ble_eq_true rfl, Nat.le_of_ble_eq_true rfl, Nat.zero_le _, Nat.zero_le _⟩ rfl hl.1 rfl (Nat.le_of_ble_eq_true rfl) dX5_serves_64 (fun r_8 F_9 G_10 H locs hw hW => ?_)
          refine lv_if_ne (tgt := 94) hx hb dX5_serves_67 (by decide) (fun q => ?_) (fun q => ?_)
          · have hw := hw.2 q
            refine lv_iinc (v := (y1 + (1 : Int32))) (lv' := [(1, .int (y1 + (1 : Int32))), (3, .int x3_4), (2, .int x2_2), (0, .ref (mp_h w))]) hx hb dX5_serves_94 hl (k := 3) rfl rfl (by decide) rfl (fun ls hl => ?_)
            refine lv_goto (tgt := 2) hx hb dX5_serves_97 (by decide) ?_
            exact ih2 (y1 + (1 : Int32)) F_9 G_10 _ _ _ (lv_sub hl [3, 0] rfl) hW hw
          · have hw := hw.1 q
            refine lv_aload_n hx hb dX5_serves_70 rfl (lv_at hl 2 rfl) ?_
            refine lv_aload_n hx hb dX5_serves_71 rfl (lv_at hl 2 rfl) ?_
            refine m_get hx hb hown hts hT hW 8 (by decide) (hts _ q2137) rfl (v := .ref (mp_a w 8)) rfl dX5_serves_72 ?_
            refine lv_iload_n hx hb dX5_serves_75 rfl (lv_at hl 3 rfl) ?_
            refine m_Si (rest := [.ref (mp_a w 8), .ref (mp_h w)]) hE hT hW (kM_requestAt l w _ y1 F_9 G_10 hw) gM_requestAt dM_requestAt ⟨Nat.le_of_ble_eq_true rfl, Nat.le_of_ble_eq_true rfl, Nat.zero_le _, Nat.zero_le _⟩ rfl hl.1 rfl (Nat.le_of_ble_eq_true rfl) dX5_serves_76 (fun r_11 F9 G9 H locs hw hW => ?_)
            obtain ⟨eF9, eG9, hw⟩ := hw
            rw [eF9, eG9] at hW
            refine lv_iload_n hx hb dX5_serves_79 rfl (lv_at hl 1 rfl) ?_
            refine lv_iload_n hx hb dX5_serves_80 rfl (lv_at hl 0 rfl) ?_
            refine m_Vi (rest := []) hE hT hW (kM_books l w _ (8) r_11 x2_2 x3_4 F_9 G_10 hw) gM_books dM_books ⟨Nat.le_of_ble_eq_true rfl, Nat.le_of_ble_eq_true rfl, Nat.zero_le _, Nat.zero_le _⟩ rfl hl.1 rfl (Nat.le_of_ble_eq_true rfl) dX5_serves_81 (fun r_12 F_13 G_14 H locs hw hW => ?_)
            refine lv_istore (lv' := [(4, .int r_12), (3, .int x3_4), (2, .int x2_2), (0, .ref (mp_h w)), (1, .int y1)]) hx hb dX5_serves_84 hl (by decide) rfl (fun ls hl => ?_)
            refine lv_aload_n hx hb dX5_serves_86 rfl (lv_at hl 3 rfl) ?_
            refine lv_iload_n hx hb dX5_serves_87 rfl (lv_at hl 4 rfl) ?_
            refine m_Vv (rest := []) hE hT hW (kM_removesRequest l w _ y1 F_13 G_14 hw) gM_removesRequest dM_removesRequest ⟨Nat.le_of_ble_eq_true rfl, Nat.le_of_ble_eq_true rfl, Nat.zero_le _, Nat.zero_le _⟩ rfl hl.1 rfl (Nat.le_of_ble_eq_true rfl) dX5_serves_88 (fun F_15 G_16 H locs hw hW => ?_)
            refine lv_goto (tgt := 97) hx hb dX5_serves_91 (by decide) ?_
            refine lv_goto (tgt := 2) hx hb dX5_serves_97 (by decide) ?_
            exact ih2 y1 F_15 G_16 _ _ _ (lv_sub hl [3, 4] rfl) hW hw
  unfold wM_serves at hw
  refine lv_iconst (v := (0 : Int32)) hx hb dX5_serves_0 (by decide) ?_
  refine lv_istore_n (lv' := [(1, .int (0 : Int32)), (0, .ref (mp_h w))]) hx hb dX5_serves_1 rfl hl (by decide) rfl (fun ls hl => ?_)
  obtain ⟨n_17, hw⟩ := hw
  exact lp2 n_17 (0 : Int32) F G _ _ _ (lv_sub hl [1, 0] rfl) hW hw
theorem gM_serves : GoodIn lw_all (wsV RX5 341 RX5 yX5_serves (ws_ yX5_serves cX5_serves 5 none)) := lw_V q2503 q2505 qs120 q154 q2506
theorem dM_serves : yX5_serves.cls = RX5 ∧ yX5_serves.cls ≠ "java/lang/invoke/MethodHandle" ∧ yX5_serves.cls ≠ "java/lang/invoke/VarHandle" ∧ (parseMethodDescriptor yX5_serves.desc).map (fun d => d.parameters.length) = some 0 := by decide +kernel

/-! cancel -/
def wM_cancel_j26 (post : Int32 → MF → MG → Prop) (y1 : Int32) (z1 : Int32) (F : MF) (G : MG) : Prop :=
  ∀ F_1 : MF, F_1 = upd F 0 z1 → ((F_1 0) ≤ 0 → wM_remembers (fun F_2 G_3 => wM_feeOf (fun r_4 => wM_rowOf (fun r_5 => vp_in (r_5 + (11 : Int32)) 1052 ∧ ∀ G_6 : MG, G_6 = mu G_3 8 ((r_5 + (11 : Int32)).toNatClampNeg) (0 : Int32) → wM_rowOf (fun r_7 => vp_in (r_7 + (12 : Int32)) 1052 ∧ ∀ G_8 : MG, G_8 = mu G_6 8 ((r_7 + (12 : Int32)).toNatClampNeg) r_4 → wM_serves (fun F_9 G_10 => post r_4 F_9 G_10) F_2 G_8) y1 F_2 G_6) y1 F_2 G_3) y1 F_2 G_3) F_1 G) ∧ (¬ (F_1 0) ≤ 0 → post (0 : Int32) F_1 G)
def wM_cancel (post : Int32 → MF → MG → Prop) (x1 : Int32) (F : MF) (G : MG) : Prop :=
  wM_isBooking (fun r_11 => (r_11 = 0 → wM_cancel_j26 post x1 (1 : Int32) F G) ∧ (¬ r_11 = 0 → wM_isToCome (fun r_12 => (r_12 = 0 → wM_cancel_j26 post x1 (2 : Int32) F G) ∧ (¬ r_12 = 0 → wM_cancel_j26 post x1 (0 : Int32) F G)) x1 F G)) x1 F G
set_option maxHeartbeats 4000000 in
theorem kM_cancel (l : Launch) (w : MP) (post : Int32 → MF → MG → Prop) (x1 : Int32) (F : MF) (G : MG) (hw : wM_cancel post x1 F G) : m_Mi l w yX5_cancel cX5_cancel 3 .int 8 [.ref (mp_h w), .int x1] F G post := by
  refine m_ofWi (by decide) rfl (Nat.le_of_ble_eq_true rfl) (fun _ => True) (fun _ _ => rfl) ?_
  intro p e s m args below meth c Q ls hA hW hQ
  obtain ⟨hE, hT, hl⟩ := hA
  obtain ⟨hx, hb, hml, hown, hts⟩ := id hE
  have hl : lv_has ls 3 [(0, .ref (mp_h w)), (1, .int x1)] := hl
  have jn26 : ∀ (y1 : Int32) (z1 : Int32) (F : MF) (G : MG) (H : Heap) (locs : List Loc) (ls : Array Slot), lv_has ls 3 [(0, .ref (mp_h w)), (1, .int y1)] → m_W w s.heap F G H locs → wM_cancel_j26 post y1 z1 F G → W p l e (mrm 8) s m args below meth c H locs 0 0 Q (F0 m 26 ls [.int z1, .ref (mp_h w)]) := by
    intro y1 z1 F G H locs ls hl hW hw
    unfold wM_cancel_j26 at hw
    refine m_put hx hb hown hts hT hW 0 (by decide) (hts _ q2129) rfl rfl (ty := .int) (x := z1) rfl rfl rfl rfl dX5_cancel_26 (fun F_1 H locs eF_1 hW => ?_)
    have hw := hw F_1 eF_1
    refine lv_aload_n hx hb dX5_cancel_29 rfl (lv_at hl 0 rfl) ?_
    refine m_get hx hb hown hts hT hW 0 (by decide) (hts _ q2129) rfl (v := .int (F_1 0)) rfl dX5_cancel_30 ?_
    refine lv_if_le (tgt := 38) hx hb dX5_cancel_33 (by decide) (fun q => ?_) (fun q => ?_)
    · have hw := hw.1 q
      refine lv_aload_n hx hb dX5_cancel_38 rfl (lv_at hl 0 rfl) ?_
      refine m_Vv (rest := []) hE hT hW (kM_remembers l w _ F_1 G hw) gM_remembers dM_remembers ⟨Nat.le_of_ble_eq_true rfl, Nat.le_of_ble_eq_true rfl, Nat.zero_le _, Nat.zero_le _⟩ rfl hl.1 rfl (Nat.le_of_ble_eq_true rfl) dX5_cancel_39 (fun F_2 G_3 H locs hw hW => ?_)
      refine lv_aload_n hx hb dX5_cancel_42 rfl (lv_at hl 0 rfl) ?_
      refine lv_iload_n hx hb dX5_cancel_43 rfl (lv_at hl 1 rfl) ?_
      refine m_Vi (rest := []) hE hT hW (kM_feeOf l w _ y1 F_2 G_3 hw) gM_feeOf dM_feeOf ⟨Nat.le_of_ble_eq_true rfl, Nat.le_of_ble_eq_true rfl, Nat.zero_le _, Nat.zero_le _⟩ rfl hl.1 rfl (Nat.le_of_ble_eq_true rfl) dX5_cancel_44 (fun r_4 F9 G9 H locs hw hW => ?_)
      obtain ⟨eF9, eG9, hw⟩ := hw
      rw [eF9, eG9] at hW
      refine lv_istore_n (lv' := [(2, .int r_4), (0, .ref (mp_h w)), (1, .int y1)]) hx hb dX5_cancel_47 rfl hl (by decide) rfl (fun ls hl => ?_)
      refine lv_aload_n hx hb dX5_cancel_48 rfl (lv_at hl 1 rfl) ?_
      refine m_get hx hb hown hts hT hW 8 (by decide) (hts _ q2137) rfl (v := .ref (mp_a w 8)) rfl dX5_cancel_49 ?_
      refine lv_iload_n hx hb dX5_cancel_52 rfl (lv_at hl 2 rfl) ?_
      refine m_Si (rest := [.ref (mp_a w 8)]) hE hT hW (kM_rowOf l w _ y1 F_2 G_3 hw) gM_rowOf dM_rowOf ⟨Nat.le_of_ble_eq_true rfl, Nat.le_of_ble_eq_true rfl, Nat.zero_le _, Nat.zero_le _⟩ rfl hl.1 rfl (Nat.le_of_ble_eq_true rfl) dX5_cancel_53 (fun r_5 F9 G9 H locs hw hW => ?_)
      obtain ⟨eF9, eG9, hw⟩ := hw
      rw [eF9, eG9] at hW
      refine lv_bipush (v := (11 : Int32)) hx hb dX5_cancel_56 (by decide) ?_
      refine lv_iadd hx hb dX5_cancel_58 ?_
      refine lv_iconst (v := (0 : Int32)) hx hb dX5_cancel_59 (by decide) ?_
      obtain ⟨hi, hw⟩ := hw
      refine m_iast hx hb hT hW (k := 8) (j := ((r_5 + (11 : Int32)).toNatClampNeg)) rfl rfl hi dX5_cancel_60 (fun G_6 H locs eG_6 hW => ?_)
      have hw := hw G_6 eG_6
      refine lv_aload_n hx hb dX5_cancel_61 rfl (lv_at hl 1 rfl) ?_
      refine m_get hx hb hown hts hT hW 8 (by decide) (hts _ q2137) rfl (v := .ref (mp_a w 8)) rfl dX5_cancel_62 ?_
      refine lv_iload_n hx hb dX5_cancel_65 rfl (lv_at hl 2 rfl) ?_
      refine m_Si (rest := [.ref (mp_a w 8)]) hE hT hW (kM_rowOf l w _ y1 F_2 G_6 hw) gM_rowOf dM_rowOf ⟨Nat.le_of_ble_eq_true rfl, Nat.le_of_ble_eq_true rfl, Nat.zero_le _, Nat.zero_le _⟩ rfl hl.1 rfl (Nat.le_of_ble_eq_true rfl) dX5_cancel_66 (fun r_7 F9 G9 H locs hw hW => ?_)
      obtain ⟨eF9, eG9, hw⟩ := hw
      rw [eF9, eG9] at hW
      refine lv_bipush (v := (12 : Int32)) hx hb dX5_cancel_69 (by decide) ?_
      refine lv_iadd hx hb dX5_cancel_71 ?_
      refine lv_iload_n hx hb dX5_cancel_72 rfl (lv_at hl 0 rfl) ?_
      obtain ⟨hi, hw⟩ := hw
      refine m_iast hx hb hT hW (k := 8) (j := ((r_7 + (12 : Int32)).toNatClampNeg)) rfl rfl hi dX5_cancel_73 (fun G_8 H locs eG_8 hW => ?_)
      have hw := hw G_8 eG_8
      refine lv_aload_n hx hb dX5_cancel_74 rfl (lv_at hl 1 rfl) ?_
      refine m_Vv (rest := []) hE hT hW (kM_serves l w _ F_2 G_8 hw) gM_serves dM_serves ⟨Nat.le_of_ble_eq_true rfl, Nat.le_of_ble_eq_true rfl, Nat.zero_le _, Nat.zero_le _⟩ rfl hl.1 rfl (Nat.le_of_ble_eq_true rfl) dX5_cancel_75 (fun F_9 G_10 H locs hw hW => ?_)
      refine lv_iload_n hx hb dX5_cancel_78 rfl (lv_at hl 0 rfl) ?_
      exact hQ _ _ _ _ _ trivial hw hW _ _ dX5_cancel_79
    · have hw := hw.2 q
      refine lv_iconst (v := (0 : Int32)) hx hb dX5_cancel_36 (by decide) ?_
      exact hQ _ _ _ _ _ trivial hw hW _ _ dX5_cancel_37
  unfold wM_cancel at hw
  refine lv_aload_n hx hb dX5_cancel_0 rfl (lv_at hl 0 rfl) ?_
  refine lv_aload_n hx hb dX5_cancel_1 rfl (lv_at hl 0 rfl) ?_
  refine lv_iload_n hx hb dX5_cancel_2 rfl (lv_at hl 1 rfl) ?_
  refine m_Vi (rest := [.ref (mp_h w)]) hE hT hW (kM_isBooking l w _ x1 F G hw) gM_isBooking dM_isBooking ⟨Nat.le_of_ble_eq_true rfl, Nat.le_of_ble_eq_true rfl, Nat.zero_le _, Nat.zero_le _⟩ rfl hl.1 rfl (Nat.le_of_ble_eq_true rfl) dX5_cancel_3 (fun r_11 F9 G9 H locs hw hW => ?_)
  obtain ⟨eF9, eG9, hw⟩ := hw
  rw [eF9, eG9] at hW
  refine lv_if_ne (tgt := 13) hx hb dX5_cancel_6 (by decide) (fun q => ?_) (fun q => ?_)
  · have hw := hw.2 q
    refine lv_aload_n hx hb dX5_cancel_13 rfl (lv_at hl 0 rfl) ?_
    refine lv_iload_n hx hb dX5_cancel_14 rfl (lv_at hl 1 rfl) ?_
    refine m_Vi (rest := [.ref (mp_h w)]) hE hT hW (kM_isToCome l w _ x1 F G hw) gM_isToCome dM_isToCome ⟨Nat.le_of_ble_eq_true rfl, Nat.le_of_ble_eq_true rfl, Nat.zero_le _, Nat.zero_le _⟩ rfl hl.1 rfl (Nat.le_of_ble_eq_true rfl) dX5_cancel_15 (fun r_12 F9 G9 H locs hw hW => ?_)
    obtain ⟨eF9, eG9, hw⟩ := hw
    rw [eF9, eG9] at hW
    refine lv_if_ne (tgt := 25) hx hb dX5_cancel_18 (by decide) (fun q => ?_) (fun q => ?_)
    · have hw := hw.2 q
      refine lv_iconst (v := (0 : Int32)) hx hb dX5_cancel_25 (by decide) ?_
      exact jn26 x1 (0 : Int32) F G _ _ _ hl hW hw
    · have hw := hw.1 q
      refine lv_iconst (v := (2 : Int32)) hx hb dX5_cancel_21 (by decide) ?_
      refine lv_goto (tgt := 26) hx hb dX5_cancel_22 (by decide) ?_
      exact jn26 x1 (2 : Int32) F G _ _ _ hl hW hw
  · have hw := hw.1 q
    refine lv_iconst (v := (1 : Int32)) hx hb dX5_cancel_9 (by decide) ?_
    refine lv_goto (tgt := 26) hx hb dX5_cancel_10 (by decide) ?_
    exact jn26 x1 (1 : Int32) F G _ _ _ hl hW hw

/-! whyNotBooking -/
def wM_whyNotBooking (post : Int32 → Prop) (x1 : Int32) (x2 : Int32) (x3 : Int32) (F : MF) (G : MG) : Prop :=
  wM_isBooking (fun r_1 => (r_1 = 0 → post (1 : Int32)) ∧ (¬ r_1 = 0 → wM_isHall (fun r_2 => (r_2 = 0 → post (1 : Int32)) ∧ (¬ r_2 = 0 → wM_isStart (fun r_3 => (r_3 = 0 → post (2 : Int32)) ∧ (¬ r_3 = 0 → post (0 : Int32))) x3 F G)) x2 F G)) x1 F G
set_option maxHeartbeats 4000000 in
theorem kM_whyNotBooking (l : Launch) (w : MP) (post : Int32 → Prop) (x1 : Int32) (x2 : Int32) (x3 : Int32) (F : MF) (G : MG) (hw : wM_whyNotBooking post x1 x2 x3 F G) : m_Mi l w yX5_whyNotBooking cX5_whyNotBooking 4 .int 2 [.ref (mp_h w), .int x1, .int x2, .int x3] F G (fun r F1 G1 => F1 = F ∧ G1 = G ∧ post r) := by
  refine m_ofWi (by decide) rfl (Nat.le_of_ble_eq_true rfl) (fun _ => True) (fun _ _ => rfl) ?_
  intro p e s m args below meth c Q ls hA hW hQ
  obtain ⟨hE, hT, hl⟩ := hA
  obtain ⟨hx, hb, hml, hown, hts⟩ := id hE
  have hl : lv_has ls 4 [(0, .ref (mp_h w)), (1, .int x1), (2, .int x2), (3, .int x3)] := hl
  unfold wM_whyNotBooking at hw
  refine lv_aload_n hx hb dX5_whyNotBooking_0 rfl (lv_at hl 0 rfl) ?_
  refine lv_iload_n hx hb dX5_whyNotBooking_1 rfl (lv_at hl 1 rfl) ?_
  refine m_Vi (rest := []) hE hT hW (kM_isBooking l w _ x1 F G hw) gM_isBooking dM_isBooking ⟨Nat.le_of_ble_eq_true rfl, Nat.le_of_ble_eq_true rfl, Nat.zero_le _, Nat.zero_le _⟩ rfl hl.1 rfl (Nat.le_of_ble_eq_true rfl) dX5_whyNotBooking_2 (fun r_1 F9 G9 H locs hw hW => ?_)
  obtain ⟨eF9, eG9, hw⟩ := hw
  rw [eF9, eG9] at hW
  refine lv_if_eq (tgt := 16) hx hb dX5_whyNotBooking_5 (by decide) (fun q => ?_) (fun q => ?_)
  · have hw := hw.1 q
    refine lv_iconst (v := (1 : Int32)) hx hb dX5_whyNotBooking_16 (by decide) ?_
    refine lv_goto (tgt := 32) hx hb dX5_whyNotBooking_17 (by decide) ?_
    exact hQ _ _ _ _ _ trivial ⟨rfl, rfl, hw⟩ hW _ _ dX5_whyNotBooking_32
  · have hw := hw.2 q
    refine lv_aload_n hx hb dX5_whyNotBooking_8 rfl (lv_at hl 0 rfl) ?_
    refine lv_iload_n hx hb dX5_whyNotBooking_9 rfl (lv_at hl 2 rfl) ?_
    refine m_Vi (rest := []) hE hT hW (kM_isHall l w _ x2 F G hw) gM_isHall dM_isHall ⟨Nat.le_of_ble_eq_true rfl, Nat.le_of_ble_eq_true rfl, Nat.zero_le _, Nat.zero_le _⟩ rfl hl.1 rfl (Nat.le_of_ble_eq_true rfl) dX5_whyNotBooking_10 (fun r_2 F9 G9 H locs hw hW => ?_)
    obtain ⟨eF9, eG9, hw⟩ := hw
    rw [eF9, eG9] at hW
    refine lv_if_ne (tgt := 20) hx hb dX5_whyNotBooking_13 (by decide) (fun q => ?_) (fun q => ?_)
    · have hw := hw.2 q
      refine lv_iload_n hx hb dX5_whyNotBooking_20 rfl (lv_at hl 3 rfl) ?_
      refine m_Si (rest := []) hE hT hW (kM_isStart l w _ x3 F G hw) gM_isStart dM_isStart ⟨Nat.le_of_ble_eq_true rfl, Nat.le_of_ble_eq_true rfl, Nat.zero_le _, Nat.zero_le _⟩ rfl hl.1 rfl (Nat.le_of_ble_eq_true rfl) dX5_whyNotBooking_21 (fun r_3 F9 G9 H locs hw hW => ?_)
      obtain ⟨eF9, eG9, hw⟩ := hw
      rw [eF9, eG9] at hW
      refine lv_if_ne (tgt := 31) hx hb dX5_whyNotBooking_24 (by decide) (fun q => ?_) (fun q => ?_)
      · have hw := hw.2 q
        refine lv_iconst (v := (0 : Int32)) hx hb dX5_whyNotBooking_31 (by decide) ?_
        exact hQ _ _ _ _ _ trivial ⟨rfl, rfl, hw⟩ hW _ _ dX5_whyNotBooking_32
      · have hw := hw.1 q
        refine lv_iconst (v := (2 : Int32)) hx hb dX5_whyNotBooking_27 (by decide) ?_
        refine lv_goto (tgt := 32) hx hb dX5_whyNotBooking_28 (by decide) ?_
        exact hQ _ _ _ _ _ trivial ⟨rfl, rfl, hw⟩ hW _ _ dX5_whyNotBooking_32
    · have hw := hw.1 q
      refine lv_iconst (v := (1 : Int32)) hx hb dX5_whyNotBooking_16 (by decide) ?_
      refine lv_goto (tgt := 32) hx hb dX5_whyNotBooking_17 (by decide) ?_
      exact hQ _ _ _ _ _ trivial ⟨rfl, rfl, hw⟩ hW _ _ dX5_whyNotBooking_32
theorem gM_whyNotBooking : GoodIn lw_all (wsV RX5 344 RX5 yX5_whyNotBooking (ws_ yX5_whyNotBooking cX5_whyNotBooking 4 (some .int))) := lw_V q2518 q2520 qs122 q154 q2521
theorem dM_whyNotBooking : yX5_whyNotBooking.cls = RX5 ∧ yX5_whyNotBooking.cls ≠ "java/lang/invoke/MethodHandle" ∧ yX5_whyNotBooking.cls ≠ "java/lang/invoke/VarHandle" ∧ (parseMethodDescriptor yX5_whyNotBooking.desc).map (fun d => d.parameters.length) = some 3 := by decide +kernel

/-! bookingProblem -/
def wM_bookingProblem (post : Int32 → MF → MG → Prop) (x1 : Int32) (x2 : Int32) (x3 : Int32) (F : MF) (G : MG) : Prop :=
  wM_rowOf (fun r_1 => wM_asks (fun F_2 G_3 => vp_in x1 60 ∧ ∀ x4_4 : Int32, x4_4 = (G_3 19 (x1.toNatClampNeg)) → vp_in x1 60 ∧ ∀ G_5 : MG, G_5 = mu G_3 19 (x1.toNatClampNeg) ((1 : Int32) &&& 1) → wM_problemOf (fun r_6 F_7 G_8 => vp_in x1 60 ∧ ∀ G_9 : MG, G_9 = mu G_8 19 (x1.toNatClampNeg) (x4_4 &&& 1) → post r_6 F_7 G_9) x2 x3 F_2 G_5) (8) r_1 F G) x1 F G
set_option maxHeartbeats 4000000 in
theorem kM_bookingProblem (l : Launch) (w : MP) (post : Int32 → MF → MG → Prop) (x1 : Int32) (x2 : Int32) (x3 : Int32) (F : MF) (G : MG) (hw : wM_bookingProblem post x1 x2 x3 F G) : m_Mi l w yX5_bookingProblem cX5_bookingProblem 6 .int 7 [.ref (mp_h w), .int x1, .int x2, .int x3] F G post := by
  refine m_ofWi (by decide) rfl (Nat.le_of_ble_eq_true rfl) (fun _ => True) (fun _ _ => rfl) ?_
  intro p e s m args below meth c Q ls hA hW hQ
  obtain ⟨hE, hT, hl⟩ := hA
  obtain ⟨hx, hb, hml, hown, hts⟩ := id hE
  have hl : lv_has ls 6 [(0, .ref (mp_h w)), (1, .int x1), (2, .int x2), (3, .int x3)] := hl
  unfold wM_bookingProblem at hw
  refine lv_aload_n hx hb dX5_bookingProblem_0 rfl (lv_at hl 0 rfl) ?_
  refine lv_aload_n hx hb dX5_bookingProblem_1 rfl (lv_at hl 0 rfl) ?_
  refine m_get hx hb hown hts hT hW 8 (by decide) (hts _ q2137) rfl (v := .ref (mp_a w 8)) rfl dX5_bookingProblem_2 ?_
  refine lv_iload_n hx hb dX5_bookingProblem_5 rfl (lv_at hl 1 rfl) ?_
  refine m_Si (rest := [.ref (mp_a w 8), .ref (mp_h w)]) hE hT hW (kM_rowOf l w _ x1 F G hw) gM_rowOf dM_rowOf ⟨Nat.le_of_ble_eq_true rfl, Nat.le_of_ble_eq_true rfl, Nat.zero_le _, Nat.zero_le _⟩ rfl hl.1 rfl (Nat.le_of_ble_eq_true rfl) dX5_bookingProblem_6 (fun r_1 F9 G9 H locs hw hW => ?_)
  obtain ⟨eF9, eG9, hw⟩ := hw
  rw [eF9, eG9] at hW
  refine m_Vv (rest := []) hE hT hW (kM_asks l w _ (8) r_1 F G hw) gM_asks dM_asks ⟨Nat.le_of_ble_eq_true rfl, Nat.le_of_ble_eq_true rfl, Nat.zero_le _, Nat.zero_le _⟩ rfl hl.1 rfl (Nat.le_of_ble_eq_true rfl) dX5_bookingProblem_9 (fun F_2 G_3 H locs hw hW => ?_)
  refine lv_aload_n hx hb dX5_bookingProblem_12 rfl (lv_at hl 0 rfl) ?_
  refine m_get hx hb hown hts hT hW 19 (by decide) (hts _ q2148) rfl (v := .ref (mp_a w 19)) rfl dX5_bookingProblem_13 ?_
  refine lv_iload_n hx hb dX5_bookingProblem_16 rfl (lv_at hl 1 rfl) ?_
  obtain ⟨hi, hw⟩ := hw
  refine m_zald hx hb hT hW (k := 19) (j := (x1.toNatClampNeg)) rfl rfl hi dX5_bookingProblem_17 ?_
  refine lv_topi (fun x4_4 ex4_4 => ?_)
  have hw := hw x4_4 ex4_4
  refine lv_istore (lv' := [(4, .int x4_4), (0, .ref (mp_h w)), (1, .int x1), (2, .int x2), (3, .int x3)]) hx hb dX5_bookingProblem_18 hl (by decide) rfl (fun ls hl => ?_)
  refine lv_aload_n hx hb dX5_bookingProblem_20 rfl (lv_at hl 1 rfl) ?_
  refine m_get hx hb hown hts hT hW 19 (by decide) (hts _ q2148) rfl (v := .ref (mp_a w 19)) rfl dX5_bookingProblem_21 ?_
  refine lv_iload_n hx hb dX5_bookingProblem_24 rfl (lv_at hl 2 rfl) ?_
  refine lv_iconst (v := (1 : Int32)) hx hb dX5_bookingProblem_25 (by decide) ?_
  obtain ⟨hi, hw⟩ := hw
  refine m_zast hx hb hT hW (k := 19) (j := (x1.toNatClampNeg)) rfl rfl hi dX5_bookingProblem_26 (fun G_5 H locs eG_5 hW => ?_)
  have hw := hw G_5 eG_5
  refine lv_aload_n hx hb dX5_bookingProblem_27 rfl (lv_at hl 1 rfl) ?_
  refine lv_iload_n hx hb dX5_bookingProblem_28 rfl (lv_at hl 3 rfl) ?_
  refine lv_iload_n hx hb dX5_bookingProblem_29 rfl (lv_at hl 4 rfl) ?_
  refine m_Vi (rest := []) hE hT hW (kM_problemOf l w _ x2 x3 F_2 G_5 hw) gM_problemOf dM_problemOf ⟨Nat.le_of_ble_eq_true rfl, Nat.le_of_ble_eq_true rfl, Nat.zero_le _, Nat.zero_le _⟩ rfl hl.1 rfl (Nat.le_of_ble_eq_true rfl) dX5_bookingProblem_30 (fun r_6 F_7 G_8 H locs hw hW => ?_)
  refine lv_istore (lv' := [(5, .int r_6), (4, .int x4_4), (0, .ref (mp_h w)), (1, .int x1), (2, .int x2), (3, .int x3)]) hx hb dX5_bookingProblem_33 hl (by decide) rfl (fun ls hl => ?_)
  refine lv_aload_n hx hb dX5_bookingProblem_35 rfl (lv_at hl 2 rfl) ?_
  refine m_get hx hb hown hts hT hW 19 (by decide) (hts _ q2148) rfl (v := .ref (mp_a w 19)) rfl dX5_bookingProblem_36 ?_
  refine lv_iload_n hx hb dX5_bookingProblem_39 rfl (lv_at hl 3 rfl) ?_
  refine lv_iload hx hb dX5_bookingProblem_40 (lv_at hl 1 rfl) ?_
  obtain ⟨hi, hw⟩ := hw
  refine m_zast hx hb hT hW (k := 19) (j := (x1.toNatClampNeg)) rfl rfl hi dX5_bookingProblem_42 (fun G_9 H locs eG_9 hW => ?_)
  have hw := hw G_9 eG_9
  refine lv_iload hx hb dX5_bookingProblem_43 (lv_at hl 0 rfl) ?_
  exact hQ _ _ _ _ _ trivial hw hW _ _ dX5_bookingProblem_45
theorem gM_bookingProblem : GoodIn lw_all (wsV RX5 347 RX5 yX5_bookingProblem (ws_ yX5_bookingProblem cX5_bookingProblem 6 (some .int))) := lw_V q2522 q2524 qs123 q154 q2525
theorem dM_bookingProblem : yX5_bookingProblem.cls = RX5 ∧ yX5_bookingProblem.cls ≠ "java/lang/invoke/MethodHandle" ∧ yX5_bookingProblem.cls ≠ "java/lang/invoke/VarHandle" ∧ (parseMethodDescriptor yX5_bookingProblem.desc).map (fun d => d.parameters.length) = some 3 := by decide +kernel

/-! move -/
def wM_move (post : Int32 → MF → MG → Prop) (x1 : Int32) (x2 : Int32) (x3 : Int32) (F : MF) (G : MG) : Prop :=
  wM_whyNotBooking (fun r_1 => ∀ F_2 : MF, F_2 = upd F 0 r_1 → ((F_2 0) ≤ 0 → wM_isToCome (fun r_3 => (r_3 = 0 → wM_fails (fun r_4 F_5 G_6 => post r_4 F_5 G_6) (3 : Int32) F_2 G) ∧ (¬ r_3 = 0 → wM_bookingProblem (fun r_7 F_8 G_9 => (r_7 = 0 → wM_remembers (fun F_10 G_11 => wM_puts (fun F_12 G_13 => wM_priceNow (fun r_14 => post r_14 F_12 G_13) x1 F_12 G_13) x1 x2 x3 F_10 G_11) F_8 G_9) ∧ (¬ r_7 = 0 → wM_fails (fun r_15 F_16 G_17 => post r_15 F_16 G_17) (3 : Int32) F_8 G_9)) x1 x2 x3 F_2 G)) x1 F_2 G) ∧ (¬ (F_2 0) ≤ 0 → post (0 : Int32) F_2 G)) x1 x2 x3 F G
set_option maxHeartbeats 4000000 in
theorem kM_move (l : Launch) (w : MP) (post : Int32 → MF → MG → Prop) (x1 : Int32) (x2 : Int32) (x3 : Int32) (F : MF) (G : MG) (hw : wM_move post x1 x2 x3 F G) : m_Mi l w yX5_move cX5_move 4 .int 8 [.ref (mp_h w), .int x1, .int x2, .int x3] F G post := by
  refine m_ofWi (by decide) rfl (Nat.le_of_ble_eq_true rfl) (fun _ => True) (fun _ _ => rfl) ?_
  intro p e s m args below meth c Q ls hA hW hQ
  obtain ⟨hE, hT, hl⟩ := hA
  obtain ⟨hx, hb, hml, hown, hts⟩ := id hE
  have hl : lv_has ls 4 [(0, .ref (mp_h w)), (1, .int x1), (2, .int x2), (3, .int x3)] := hl
  unfold wM_move at hw
  refine lv_aload_n hx hb dX5_move_0 rfl (lv_at hl 0 rfl) ?_
  refine lv_aload_n hx hb dX5_move_1 rfl (lv_at hl 0 rfl) ?_
  refine lv_iload_n hx hb dX5_move_2 rfl (lv_at hl 1 rfl) ?_
  refine lv_iload_n hx hb dX5_move_3 rfl (lv_at hl 2 rfl) ?_
  refine lv_iload_n hx hb dX5_move_4 rfl (lv_at hl 3 rfl) ?_
  refine m_Vi (rest := [.ref (mp_h w)]) hE hT hW (kM_whyNotBooking l w _ x1 x2 x3 F G hw) gM_whyNotBooking dM_whyNotBooking ⟨Nat.le_of_ble_eq_true rfl, Nat.le_of_ble_eq_true rfl, Nat.zero_le _, Nat.zero_le _⟩ rfl hl.1 rfl (Nat.le_of_ble_eq_true rfl) dX5_move_5 (fun r_1 F9 G9 H locs hw hW => ?_)
  obtain ⟨eF9, eG9, hw⟩ := hw
  rw [eF9, eG9] at hW
  refine m_put hx hb hown hts hT hW 0 (by decide) (hts _ q2129) rfl rfl (ty := .int) (x := r_1) rfl rfl rfl rfl dX5_move_8 (fun F_2 H locs eF_2 hW => ?_)
  have hw := hw F_2 eF_2
  refine lv_aload_n hx hb dX5_move_11 rfl (lv_at hl 0 rfl) ?_
  refine m_get hx hb hown hts hT hW 0 (by decide) (hts _ q2129) rfl (v := .int (F_2 0)) rfl dX5_move_12 ?_
  refine lv_if_le (tgt := 20) hx hb dX5_move_15 (by decide) (fun q => ?_) (fun q => ?_)
  · have hw := hw.1 q
    refine lv_aload_n hx hb dX5_move_20 rfl (lv_at hl 0 rfl) ?_
    refine lv_iload_n hx hb dX5_move_21 rfl (lv_at hl 1 rfl) ?_
    refine m_Vi (rest := []) hE hT hW (kM_isToCome l w _ x1 F_2 G hw) gM_isToCome dM_isToCome ⟨Nat.le_of_ble_eq_true rfl, Nat.le_of_ble_eq_true rfl, Nat.zero_le _, Nat.zero_le _⟩ rfl hl.1 rfl (Nat.le_of_ble_eq_true rfl) dX5_move_22 (fun r_3 F9 G9 H locs hw hW => ?_)
    obtain ⟨eF9, eG9, hw⟩ := hw
    rw [eF9, eG9] at hW
    refine lv_if_eq (tgt := 38) hx hb dX5_move_25 (by decide) (fun q => ?_) (fun q => ?_)
    · have hw := hw.1 q
      refine lv_aload_n hx hb dX5_move_38 rfl (lv_at hl 0 rfl) ?_
      refine lv_iconst (v := (3 : Int32)) hx hb dX5_move_39 (by decide) ?_
      refine m_Vi (rest := []) hE hT hW (kM_fails l w _ (3 : Int32) F_2 G hw) gM_fails dM_fails ⟨Nat.le_of_ble_eq_true rfl, Nat.le_of_ble_eq_true rfl, Nat.zero_le _, Nat.zero_le _⟩ rfl hl.1 rfl (Nat.le_of_ble_eq_true rfl) dX5_move_40 (fun r_4 F_5 G_6 H locs hw hW => ?_)
      exact hQ _ _ _ _ _ trivial hw hW _ _ dX5_move_43
    · have hw := hw.2 q
      refine lv_aload_n hx hb dX5_move_28 rfl (lv_at hl 0 rfl) ?_
      refine lv_iload_n hx hb dX5_move_29 rfl (lv_at hl 1 rfl) ?_
      refine lv_iload_n hx hb dX5_move_30 rfl (lv_at hl 2 rfl) ?_
      refine lv_iload_n hx hb dX5_move_31 rfl (lv_at hl 3 rfl) ?_
      refine m_Vi (rest := []) hE hT hW (kM_bookingProblem l w _ x1 x2 x3 F_2 G hw) gM_bookingProblem dM_bookingProblem ⟨Nat.le_of_ble_eq_true rfl, Nat.le_of_ble_eq_true rfl, Nat.zero_le _, Nat.zero_le _⟩ rfl hl.1 rfl (Nat.le_of_ble_eq_true rfl) dX5_move_32 (fun r_7 F_8 G_9 H locs hw hW => ?_)
      refine lv_if_eq (tgt := 44) hx hb dX5_move_35 (by decide) (fun q => ?_) (fun q => ?_)
      · have hw := hw.1 q
        refine lv_aload_n hx hb dX5_move_44 rfl (lv_at hl 0 rfl) ?_
        refine m_Vv (rest := []) hE hT hW (kM_remembers l w _ F_8 G_9 hw) gM_remembers dM_remembers ⟨Nat.le_of_ble_eq_true rfl, Nat.le_of_ble_eq_true rfl, Nat.zero_le _, Nat.zero_le _⟩ rfl hl.1 rfl (Nat.le_of_ble_eq_true rfl) dX5_move_45 (fun F_10 G_11 H locs hw hW => ?_)
        refine lv_aload_n hx hb dX5_move_48 rfl (lv_at hl 0 rfl) ?_
        refine lv_iload_n hx hb dX5_move_49 rfl (lv_at hl 1 rfl) ?_
        refine lv_iload_n hx hb dX5_move_50 rfl (lv_at hl 2 rfl) ?_
        refine lv_iload_n hx hb dX5_move_51 rfl (lv_at hl 3 rfl) ?_
        refine m_Vv (rest := []) hE hT hW (kM_puts l w _ x1 x2 x3 F_10 G_11 hw) gM_puts dM_puts ⟨Nat.le_of_ble_eq_true rfl, Nat.le_of_ble_eq_true rfl, Nat.zero_le _, Nat.zero_le _⟩ rfl hl.1 rfl (Nat.le_of_ble_eq_true rfl) dX5_move_52 (fun F_12 G_13 H locs hw hW => ?_)
        refine lv_aload_n hx hb dX5_move_55 rfl (lv_at hl 0 rfl) ?_
        refine lv_iload_n hx hb dX5_move_56 rfl (lv_at hl 1 rfl) ?_
        refine m_Vi (rest := []) hE hT hW (kM_priceNow l w _ x1 F_12 G_13 hw) gM_priceNow dM_priceNow ⟨Nat.le_of_ble_eq_true rfl, Nat.le_of_ble_eq_true rfl, Nat.zero_le _, Nat.zero_le _⟩ rfl hl.1 rfl (Nat.le_of_ble_eq_true rfl) dX5_move_57 (fun r_14 F9 G9 H locs hw hW => ?_)
        obtain ⟨eF9, eG9, hw⟩ := hw
        rw [eF9, eG9] at hW
        exact hQ _ _ _ _ _ trivial hw hW _ _ dX5_move_60
      · have hw := hw.2 q
        refine lv_aload_n hx hb dX5_move_38 rfl (lv_at hl 0 rfl) ?_
        refine lv_iconst (v := (3 : Int32)) hx hb dX5_move_39 (by decide) ?_
        refine m_Vi (rest := []) hE hT hW (kM_fails l w _ (3 : Int32) F_8 G_9 hw) gM_fails dM_fails ⟨Nat.le_of_ble_eq_true rfl, Nat.le_of_ble_eq_true rfl, Nat.zero_le _, Nat.zero_le _⟩ rfl hl.1 rfl (Nat.le_of_ble_eq_true rfl) dX5_move_40 (fun r_15 F_16 G_17 H locs hw hW => ?_)
        exact hQ _ _ _ _ _ trivial hw hW _ _ dX5_move_43
  · have hw := hw.2 q
    refine lv_iconst (v := (0 : Int32)) hx hb dX5_move_18 (by decide) ?_
    exact hQ _ _ _ _ _ trivial hw hW _ _ dX5_move_19

/-! canTake -/
def wM_canTake_b211 (post : Int32 → MF → MG → Prop) (K211 : Int32 → Int32 → Int32 → MF → MG → Prop) (y1 : Int32) (y4 : Int32) (y5 : Int32) (F : MF) (G : MG) : Prop :=
  (y1 ≤ y5 → (y4 = 0 ∨ y4 = 1) ∧ post y4 F G) ∧ (¬ y1 ≤ y5 → vp_in y5 3 ∧ vp_in y5 3 ∧ vp_in y5 3 ∧ wM_puts (fun F_1 G_2 => vp_in y5 3 ∧ vp_in (G_2 21 (y5.toNatClampNeg)) 60 ∧ ∀ G_3 : MG, G_3 = mu G_2 19 ((G_2 21 (y5.toNatClampNeg)).toNatClampNeg) ((0 : Int32) &&& 1) → K211 y1 y4 (y5 + (1 : Int32)) F_1 G_3) (G 21 (y5.toNatClampNeg)) (G 23 (y5.toNatClampNeg)) (G 24 (y5.toNatClampNeg)) F G)
def wM_canTake_l211 (post : Int32 → MF → MG → Prop) : Nat → Int32 → Int32 → Int32 → MF → MG → Prop
  | 0 => fun _ _ _ _ _ => False
  | n + 1 => wM_canTake_b211 post (wM_canTake_l211 post n)
def wM_canTake_j172 (post : Int32 → MF → MG → Prop) (K74 : Int32 → Int32 → Int32 → Int32 → Int32 → MF → MG → Prop) (y1 : Int32) (y2 : Int32) (y3 : Int32) (y5 : Int32) (y7 : Int32) (y8 : Int32) (z0 : Int32) (F : MF) (G : MG) : Prop :=
  vp_in y5 3 ∧ wM_puts (fun F_4 G_5 => vp_in y5 3 ∧ vp_in (G_5 21 (y5.toNatClampNeg)) 60 ∧ ∀ G_6 : MG, G_6 = mu G_5 19 ((G_5 21 (y5.toNatClampNeg)).toNatClampNeg) ((0 : Int32) &&& 1) → K74 y1 y2 y3 z0 (y5 + (1 : Int32)) F_4 G_6) (G 21 (y5.toNatClampNeg)) y7 y8 F G
def wM_canTake_j136 (post : Int32 → MF → MG → Prop) (K74 : Int32 → Int32 → Int32 → Int32 → Int32 → MF → MG → Prop) (y1 : Int32) (y2 : Int32) (y3 : Int32) (y5 : Int32) (y7 : Int32) (z0 : Int32) (F : MF) (G : MG) : Prop :=
  vp_in y5 3 ∧ wM_rowOf (fun r_7 => wM_asks (fun F_8 G_9 => wM_problemOf (fun r_10 F_11 G_12 => (r_10 = 0 → wM_canTake_j172 post K74 y1 y2 y3 y5 y7 z0 (1 : Int32) F_11 G_12) ∧ (¬ r_10 = 0 → wM_canTake_j172 post K74 y1 y2 y3 y5 y7 z0 (0 : Int32) F_11 G_12)) y7 z0 F_8 G_9) (8) r_7 F G) (G 21 (y5.toNatClampNeg)) F G
def wM_canTake_j100 (post : Int32 → MF → MG → Prop) (K74 : Int32 → Int32 → Int32 → Int32 → Int32 → MF → MG → Prop) (y1 : Int32) (y2 : Int32) (y3 : Int32) (y5 : Int32) (z0 : Int32) (F : MF) (G : MG) : Prop :=
  (y5 = 0 → (y5 = 0 → wM_canTake_j136 post K74 y1 y2 y3 y5 y2 y3 F G) ∧ (¬ y5 = 0 → vp_in z0 3 ∧ wM_canTake_j136 post K74 y1 y2 y3 y5 y2 (G 24 (z0.toNatClampNeg)) F G)) ∧ (¬ y5 = 0 → vp_in z0 3 ∧ ∀ x7_13 : Int32, x7_13 = (G 23 (z0.toNatClampNeg)) → (y5 = 0 → wM_canTake_j136 post K74 y1 y2 y3 y5 x7_13 y3 F G) ∧ (¬ y5 = 0 → vp_in z0 3 ∧ wM_canTake_j136 post K74 y1 y2 y3 y5 x7_13 (G 24 (z0.toNatClampNeg)) F G))
def wM_canTake_b74 (post : Int32 → MF → MG → Prop) (K74 : Int32 → Int32 → Int32 → Int32 → Int32 → MF → MG → Prop) (y1 : Int32) (y2 : Int32) (y3 : Int32) (y4 : Int32) (y5 : Int32) (F : MF) (G : MG) : Prop :=
  (y1 ≤ y5 → ∃ n, wM_canTake_l211 post n y1 y4 (0 : Int32) F G) ∧ (¬ y1 ≤ y5 → (y4 = 0 → ∃ n, wM_canTake_l211 post n y1 y4 (0 : Int32) F G) ∧ (¬ y4 = 0 → (y5 = (y1 - (1 : Int32)) → wM_canTake_j100 post K74 y1 y2 y3 y5 (0 : Int32) F G) ∧ (¬ y5 = (y1 - (1 : Int32)) → wM_canTake_j100 post K74 y1 y2 y3 y5 (y1 - (1 : Int32)) F G)))
def wM_canTake_l74 (post : Int32 → MF → MG → Prop) : Nat → Int32 → Int32 → Int32 → Int32 → Int32 → MF → MG → Prop
  | 0 => fun _ _ _ _ _ _ _ => False
  | n + 1 => wM_canTake_b74 post (wM_canTake_l74 post n)
def wM_canTake_b3 (post : Int32 → MF → MG → Prop) (K3 : Int32 → Int32 → Int32 → Int32 → MF → MG → Prop) (y1 : Int32) (y2 : Int32) (y3 : Int32) (y4 : Int32) (F : MF) (G : MG) : Prop :=
  (y1 ≤ y4 → ∃ n, wM_canTake_l74 post n y1 y2 y3 (1 : Int32) (0 : Int32) F G) ∧ (¬ y1 ≤ y4 → vp_in y4 3 ∧ wM_of (fun r_17 => vp_in y4 3 ∧ ∀ G_18 : MG, G_18 = mu G 23 (y4.toNatClampNeg) r_17 → vp_in y4 3 ∧ wM_of (fun r_19 => vp_in y4 3 ∧ ∀ G_20 : MG, G_20 = mu G_18 24 (y4.toNatClampNeg) r_19 → vp_in y4 3 ∧ vp_in (G_20 21 (y4.toNatClampNeg)) 60 ∧ ∀ G_21 : MG, G_21 = mu G_20 19 ((G_20 21 (y4.toNatClampNeg)).toNatClampNeg) ((1 : Int32) &&& 1) → K3 y1 y2 y3 (y4 + (1 : Int32)) F G_21) (G_18 21 (y4.toNatClampNeg)) (10 : Int32) F G_18) (G 21 (y4.toNatClampNeg)) (9 : Int32) F G)
def wM_canTake_l3 (post : Int32 → MF → MG → Prop) : Nat → Int32 → Int32 → Int32 → Int32 → MF → MG → Prop
  | 0 => fun _ _ _ _ _ _ => False
  | n + 1 => wM_canTake_b3 post (wM_canTake_l3 post n)
def wM_canTake (post : Int32 → MF → MG → Prop) (x1 : Int32) (x2 : Int32) (x3 : Int32) (F : MF) (G : MG) : Prop :=
  ∃ n, wM_canTake_l3 post n x1 x2 x3 (0 : Int32) F G
set_option maxHeartbeats 4000000 in
theorem kM_canTake (l : Launch) (w : MP) (post : Int32 → MF → MG → Prop) (x1 : Int32) (x2 : Int32) (x3 : Int32) (F : MF) (G : MG) (hw : wM_canTake post x1 x2 x3 F G) : m_Mi l w yX5_canTake cX5_canTake 9 .boolean 7 [.ref (mp_h w), .int x1, .int x2, .int x3] F G post := by
  refine m_ofWi (by decide) rfl (Nat.le_of_ble_eq_true rfl) (fun r => r = 0 ∨ r = 1) (fun _ h => m_nb h) ?_
  intro p e s m args below meth c Q ls hA hW hQ
  obtain ⟨hE, hT, hl⟩ := hA
  obtain ⟨hx, hb, hml, hown, hts⟩ := id hE
  have hl : lv_has ls 9 [(0, .ref (mp_h w)), (1, .int x1), (2, .int x2), (3, .int x3)] := hl
  have lp211 : ∀ (n211 : Nat) (y1 : Int32) (y4 : Int32) (y5 : Int32) (F : MF) (G : MG) (H : Heap) (locs : List Loc) (ls : Array Slot), lv_has ls 9 [(0, .ref (mp_h w)), (1, .int y1), (4, .int y4), (5, .int y5)] → m_W w s.heap F G H locs → wM_canTake_l211 post n211 y1 y4 y5 F G → W p l e (mrm 7) s m args below meth c H locs 0 0 Q (F0 m 211 ls []) := by
    intro n211
    induction n211 with
    | zero => intro y1 y4 y5 F G H locs ls hl hW hw; exact hw.elim
    | succ n211 ih211 =>
      intro y1 y4 y5 F G H locs ls hl hW hw
      have hw : wM_canTake_b211 post (wM_canTake_l211 post n211) y1 y4 y5 F G := hw
      unfold wM_canTake_b211 at hw
      refine lv_iload hx hb dX5_canTake_211 (lv_at hl 3 rfl) ?_
      refine lv_iload_n hx hb dX5_canTake_213 rfl (lv_at hl 1 rfl) ?_
      refine lv_icmp_ge (tgt := 261) hx hb dX5_canTake_214 (by decide) (fun q => ?_) (fun q => ?_)
      · have hw := hw.1 q
        refine lv_iload hx hb dX5_canTake_261 (lv_at hl 2 rfl) ?_
        exact hQ _ _ _ _ _ hw.1 hw.2 hW _ _ dX5_canTake_263
      · have hw := hw.2 q
        refine lv_aload_n hx hb dX5_canTake_217 rfl (lv_at hl 0 rfl) ?_
        refine lv_aload_n hx hb dX5_canTake_218 rfl (lv_at hl 0 rfl) ?_
        refine m_get hx hb hown hts hT hW 21 (by decide) (hts _ q2150) rfl (v := .ref (mp_a w 21)) rfl dX5_canTake_219 ?_
        refine lv_iload hx hb dX5_canTake_222 (lv_at hl 3 rfl) ?_
        obtain ⟨hi, hw⟩ := hw
        refine m_iald hx hb hT hW (k := 21) (j := (y5.toNatClampNeg)) rfl rfl hi dX5_canTake_224 ?_
        refine lv_aload_n hx hb dX5_canTake_225 rfl (lv_at hl 0 rfl) ?_
        refine m_get hx hb hown hts hT hW 23 (by decide) (hts _ q2152) rfl (v := .ref (mp_a w 23)) rfl dX5_canTake_226 ?_
        refine lv_iload hx hb dX5_canTake_229 (lv_at hl 3 rfl) ?_
        obtain ⟨hi, hw⟩ := hw
        refine m_iald hx hb hT hW (k := 23) (j := (y5.toNatClampNeg)) rfl rfl hi dX5_canTake_231 ?_
        refine lv_aload_n hx hb dX5_canTake_232 rfl (lv_at hl 0 rfl) ?_
        refine m_get hx hb hown hts hT hW 24 (by decide) (hts _ q2153) rfl (v := .ref (mp_a w 24)) rfl dX5_canTake_233 ?_
        refine lv_iload hx hb dX5_canTake_236 (lv_at hl 3 rfl) ?_
        obtain ⟨hi, hw⟩ := hw
        refine m_iald hx hb hT hW (k := 24) (j := (y5.toNatClampNeg)) rfl rfl hi dX5_canTake_238 ?_
        refine m_Vv (rest := []) hE hT hW (kM_puts l w _ (G 21 (y5.toNatClampNeg)) (G 23 (y5.toNatClampNeg)) (G 24 (y5.toNatClampNeg)) F G hw) gM_puts dM_puts ⟨Nat.le_of_ble_eq_true rfl, Nat.le_of_ble_eq_true rfl, Nat.zero_le _, Nat.zero_le _⟩ rfl hl.1 rfl (Nat.le_of_ble_eq_true rfl) dX5_canTake_239 (fun F_1 G_2 H locs hw hW => ?_)
        refine lv_aload_n hx hb dX5_canTake_242 rfl (lv_at hl 0 rfl) ?_
        refine m_get hx hb hown hts hT hW 19 (by decide) (hts _ q2148) rfl (v := .ref (mp_a w 19)) rfl dX5_canTake_243 ?_
        refine lv_aload_n hx hb dX5_canTake_246 rfl (lv_at hl 0 rfl) ?_
        refine m_get hx hb hown hts hT hW 21 (by decide) (hts _ q2150) rfl (v := .ref (mp_a w 21)) rfl dX5_canTake_247 ?_
        refine lv_iload hx hb dX5_canTake_250 (lv_at hl 3 rfl) ?_
        obtain ⟨hi, hw⟩ := hw
        refine m_iald hx hb hT hW (k := 21) (j := (y5.toNatClampNeg)) rfl rfl hi dX5_canTake_252 ?_
        refine lv_iconst (v := (0 : Int32)) hx hb dX5_canTake_253 (by decide) ?_
        obtain ⟨hi, hw⟩ := hw
        refine m_zast hx hb hT hW (k := 19) (j := ((G_2 21 (y5.toNatClampNeg)).toNatClampNeg)) rfl rfl hi dX5_canTake_254 (fun G_3 H locs eG_3 hW => ?_)
        have hw := hw G_3 eG_3
        refine lv_iinc (v := (y5 + (1 : Int32))) (lv' := [(5, .int (y5 + (1 : Int32))), (0, .ref (mp_h w)), (1, .int y1), (4, .int y4)]) hx hb dX5_canTake_255 hl (k := 3) rfl rfl (by decide) rfl (fun ls hl => ?_)
        refine lv_goto (tgt := 211) hx hb dX5_canTake_258 (by decide) ?_
        exact ih211 y1 y4 (y5 + (1 : Int32)) F_1 G_3 _ _ _ (lv_sub hl [1, 2, 3, 0] rfl) hW hw
  have lp74 : ∀ (n74 : Nat) (y1 : Int32) (y2 : Int32) (y3 : Int32) (y4 : Int32) (y5 : Int32) (F : MF) (G : MG) (H : Heap) (locs : List Loc) (ls : Array Slot), lv_has ls 9 [(0, .ref (mp_h w)), (1, .int y1), (2, .int y2), (3, .int y3), (4, .int y4), (5, .int y5)] → m_W w s.heap F G H locs → wM_canTake_l74 post n74 y1 y2 y3 y4 y5 F G → W p l e (mrm 7) s m args below meth c H locs 0 0 Q (F0 m 74 ls []) := by
    intro n74
    induction n74 with
    | zero => intro y1 y2 y3 y4 y5 F G H locs ls hl hW hw; exact hw.elim
    | succ n74 ih74 =>
      have jn172 : ∀ (y1 : Int32) (y2 : Int32) (y3 : Int32) (y5 : Int32) (y7 : Int32) (y8 : Int32) (z0 : Int32) (F : MF) (G : MG) (H : Heap) (locs : List Loc) (ls : Array Slot), lv_has ls 9 [(0, .ref (mp_h w)), (1, .int y1), (2, .int y2), (3, .int y3), (5, .int y5), (7, .int y7), (8, .int y8)] → m_W w s.heap F G H locs → wM_canTake_j172 post (wM_canTake_l74 post n74) y1 y2 y3 y5 y7 y8 z0 F G → W p l e (mrm 7) s m args below meth c H locs 0 0 Q (F0 m 172 ls [.int z0]) := by
        intro y1 y2 y3 y5 y7 y8 z0 F G H locs ls hl hW hw
        unfold wM_canTake_j172 at hw
        refine lv_istore (lv' := [(4, .int z0), (0, .ref (mp_h w)), (1, .int y1), (2, .int y2), (3, .int y3), (5, .int y5), (7, .int y7), (8, .int y8)]) hx hb dX5_canTake_172 hl (by decide) rfl (fun ls hl => ?_)
        refine lv_aload_n hx hb dX5_canTake_174 rfl (lv_at hl 1 rfl) ?_
        refine lv_aload_n hx hb dX5_canTake_175 rfl (lv_at hl 1 rfl) ?_
        refine m_get hx hb hown hts hT hW 21 (by decide) (hts _ q2150) rfl (v := .ref (mp_a w 21)) rfl dX5_canTake_176 ?_
        refine lv_iload hx hb dX5_canTake_179 (lv_at hl 5 rfl) ?_
        obtain ⟨hi, hw⟩ := hw
        refine m_iald hx hb hT hW (k := 21) (j := (y5.toNatClampNeg)) rfl rfl hi dX5_canTake_181 ?_
        refine lv_iload hx hb dX5_canTake_182 (lv_at hl 6 rfl) ?_
        refine lv_iload hx hb dX5_canTake_184 (lv_at hl 7 rfl) ?_
        refine m_Vv (rest := []) hE hT hW (kM_puts l w _ (G 21 (y5.toNatClampNeg)) y7 y8 F G hw) gM_puts dM_puts ⟨Nat.le_of_ble_eq_true rfl, Nat.le_of_ble_eq_true rfl, Nat.zero_le _, Nat.zero_le _⟩ rfl hl.1 rfl (Nat.le_of_ble_eq_true rfl) dX5_canTake_186 (fun F_4 G_5 H locs hw hW => ?_)
        refine lv_aload_n hx hb dX5_canTake_189 rfl (lv_at hl 1 rfl) ?_
        refine m_get hx hb hown hts hT hW 19 (by decide) (hts _ q2148) rfl (v := .ref (mp_a w 19)) rfl dX5_canTake_190 ?_
        refine lv_aload_n hx hb dX5_canTake_193 rfl (lv_at hl 1 rfl) ?_
        refine m_get hx hb hown hts hT hW 21 (by decide) (hts _ q2150) rfl (v := .ref (mp_a w 21)) rfl dX5_canTake_194 ?_
        refine lv_iload hx hb dX5_canTake_197 (lv_at hl 5 rfl) ?_
        obtain ⟨hi, hw⟩ := hw
        refine m_iald hx hb hT hW (k := 21) (j := (y5.toNatClampNeg)) rfl rfl hi dX5_canTake_199 ?_
        refine lv_iconst (v := (0 : Int32)) hx hb dX5_canTake_200 (by decide) ?_
        obtain ⟨hi, hw⟩ := hw
        refine m_zast hx hb hT hW (k := 19) (j := ((G_5 21 (y5.toNatClampNeg)).toNatClampNeg)) rfl rfl hi dX5_canTake_201 (fun G_6 H locs eG_6 hW => ?_)
        have hw := hw G_6 eG_6
        refine lv_iinc (v := (y5 + (1 : Int32))) (lv' := [(5, .int (y5 + (1 : Int32))), (4, .int z0), (0, .ref (mp_h w)), (1, .int y1), (2, .int y2), (3, .int y3), (7, .int y7), (8, .int y8)]) hx hb dX5_canTake_202 hl (k := 5) rfl rfl (by decide) rfl (fun ls hl => ?_)
        refine lv_goto (tgt := 74) hx hb dX5_canTake_205 (by decide) ?_
        exact ih74 y1 y2 y3 z0 (y5 + (1 : Int32)) F_4 G_6 _ _ _ (lv_sub hl [2, 3, 4, 5, 1, 0] rfl) hW hw
      have jn136 : ∀ (y1 : Int32) (y2 : Int32) (y3 : Int32) (y5 : Int32) (y7 : Int32) (z0 : Int32) (F : MF) (G : MG) (H : Heap) (locs : List Loc) (ls : Array Slot), lv_has ls 9 [(0, .ref (mp_h w)), (1, .int y1), (2, .int y2), (3, .int y3), (5, .int y5), (7, .int y7)] → m_W w s.heap F G H locs → wM_canTake_j136 post (wM_canTake_l74 post n74) y1 y2 y3 y5 y7 z0 F G → W p l e (mrm 7) s m args below meth c H locs 0 0 Q (F0 m 136 ls [.int z0]) := by
        intro y1 y2 y3 y5 y7 z0 F G H locs ls hl hW hw
        unfold wM_canTake_j136 at hw
        refine lv_istore (lv' := [(8, .int z0), (0, .ref (mp_h w)), (1, .int y1), (2, .int y2), (3, .int y3), (5, .int y5), (7, .int y7)]) hx hb dX5_canTake_136 hl (by decide) rfl (fun ls hl => ?_)
        refine lv_aload_n hx hb dX5_canTake_138 rfl (lv_at hl 1 rfl) ?_
        refine lv_aload_n hx hb dX5_canTake_139 rfl (lv_at hl 1 rfl) ?_
        refine m_get hx hb hown hts hT hW 8 (by decide) (hts _ q2137) rfl (v := .ref (mp_a w 8)) rfl dX5_canTake_140 ?_
        refine lv_aload_n hx hb dX5_canTake_143 rfl (lv_at hl 1 rfl) ?_
        refine m_get hx hb hown hts hT hW 21 (by decide) (hts _ q2150) rfl (v := .ref (mp_a w 21)) rfl dX5_canTake_144 ?_
        refine lv_iload hx hb dX5_canTake_147 (lv_at hl 5 rfl) ?_
        obtain ⟨hi, hw⟩ := hw
        refine m_iald hx hb hT hW (k := 21) (j := (y5.toNatClampNeg)) rfl rfl hi dX5_canTake_149 ?_
        refine m_Si (rest := [.ref (mp_a w 8), .ref (mp_h w)]) hE hT hW (kM_rowOf l w _ (G 21 (y5.toNatClampNeg)) F G hw) gM_rowOf dM_rowOf ⟨Nat.le_of_ble_eq_true rfl, Nat.le_of_ble_eq_true rfl, Nat.zero_le _, Nat.zero_le _⟩ rfl hl.1 rfl (Nat.le_of_ble_eq_true rfl) dX5_canTake_150 (fun r_7 F9 G9 H locs hw hW => ?_)
        obtain ⟨eF9, eG9, hw⟩ := hw
        rw [eF9, eG9] at hW
        refine m_Vv (rest := []) hE hT hW (kM_asks l w _ (8) r_7 F G hw) gM_asks dM_asks ⟨Nat.le_of_ble_eq_true rfl, Nat.le_of_ble_eq_true rfl, Nat.zero_le _, Nat.zero_le _⟩ rfl hl.1 rfl (Nat.le_of_ble_eq_true rfl) dX5_canTake_153 (fun F_8 G_9 H locs hw hW => ?_)
        refine lv_aload_n hx hb dX5_canTake_156 rfl (lv_at hl 1 rfl) ?_
        refine lv_iload hx hb dX5_canTake_157 (lv_at hl 6 rfl) ?_
        refine lv_iload hx hb dX5_canTake_159 (lv_at hl 0 rfl) ?_
        refine m_Vi (rest := []) hE hT hW (kM_problemOf l w _ y7 z0 F_8 G_9 hw) gM_problemOf dM_problemOf ⟨Nat.le_of_ble_eq_true rfl, Nat.le_of_ble_eq_true rfl, Nat.zero_le _, Nat.zero_le _⟩ rfl hl.1 rfl (Nat.le_of_ble_eq_true rfl) dX5_canTake_161 (fun r_10 F_11 G_12 H locs hw hW => ?_)
        refine lv_if_ne (tgt := 171) hx hb dX5_canTake_164 (by decide) (fun q => ?_) (fun q => ?_)
        · have hw := hw.2 q
          refine lv_iconst (v := (0 : Int32)) hx hb dX5_canTake_171 (by decide) ?_
          exact jn172 y1 y2 y3 y5 y7 z0 (0 : Int32) F_11 G_12 _ _ _ (lv_sub hl [1, 2, 3, 4, 5, 6, 0] rfl) hW hw
        · have hw := hw.1 q
          refine lv_iconst (v := (1 : Int32)) hx hb dX5_canTake_167 (by decide) ?_
          refine lv_goto (tgt := 172) hx hb dX5_canTake_168 (by decide) ?_
          exact jn172 y1 y2 y3 y5 y7 z0 (1 : Int32) F_11 G_12 _ _ _ (lv_sub hl [1, 2, 3, 4, 5, 6, 0] rfl) hW hw
      have jn100 : ∀ (y1 : Int32) (y2 : Int32) (y3 : Int32) (y5 : Int32) (z0 : Int32) (F : MF) (G : MG) (H : Heap) (locs : List Loc) (ls : Array Slot), lv_has ls 9 [(0, .ref (mp_h w)), (1, .int y1), (2, .int y2), (3, .int y3), (5, .int y5)] → m_W w s.heap F G H locs → wM_canTake_j100 post (wM_canTake_l74 post n74) y1 y2 y3 y5 z0 F G → W p l e (mrm 7) s m args below meth c H locs 0 0 Q (F0 m 100 ls [.int z0]) := by
        intro y1 y2 y3 y5 z0 F G H locs ls hl hW hw
        unfold wM_canTake_j100 at hw
        refine lv_istore (lv' := [(6, .int z0), (0, .ref (mp_h w)), (1, .int y1), (2, .int y2), (3, .int y3), (5, .int y5)]) hx hb dX5_canTake_100 hl (by decide) rfl (fun ls hl => ?_)
        refine lv_iload hx hb dX5_canTake_102 (lv_at hl 5 rfl) ?_
        refine lv_if_ne (tgt := 111) hx hb dX5_canTake_104 (by decide) (fun q => ?_) (fun q => ?_)
        · have hw := hw.2 q
          refine lv_aload_n hx hb dX5_canTake_111 rfl (lv_at hl 1 rfl) ?_
          refine m_get hx hb hown hts hT hW 23 (by decide) (hts _ q2152) rfl (v := .ref (mp_a w 23)) rfl dX5_canTake_112 ?_
          refine lv_iload hx hb dX5_canTake_115 (lv_at hl 0 rfl) ?_
          obtain ⟨hi, hw⟩ := hw
          refine m_iald hx hb hT hW (k := 23) (j := (z0.toNatClampNeg)) rfl rfl hi dX5_canTake_117 ?_
          refine lv_topi (fun x7_13 ex7_13 => ?_)
          have hw := hw x7_13 ex7_13
          refine lv_istore (lv' := [(7, .int x7_13), (6, .int z0), (0, .ref (mp_h w)), (1, .int y1), (2, .int y2), (3, .int y3), (5, .int y5)]) hx hb dX5_canTake_118 hl (by decide) rfl (fun ls hl => ?_)
          refine lv_iload hx hb dX5_canTake_120 (lv_at hl 6 rfl) ?_
          refine lv_if_ne (tgt := 129) hx hb dX5_canTake_122 (by decide) (fun q => ?_) (fun q => ?_)
          · have hw := hw.2 q
            refine lv_aload_n hx hb dX5_canTake_129 rfl (lv_at hl 2 rfl) ?_
            refine m_get hx hb hown hts hT hW 24 (by decide) (hts _ q2153) rfl (v := .ref (mp_a w 24)) rfl dX5_canTake_130 ?_
            refine lv_iload hx hb dX5_canTake_133 (lv_at hl 1 rfl) ?_
            obtain ⟨hi, hw⟩ := hw
            refine m_iald hx hb hT hW (k := 24) (j := (z0.toNatClampNeg)) rfl rfl hi dX5_canTake_135 ?_
            exact jn136 y1 y2 y3 y5 x7_13 (G 24 (z0.toNatClampNeg)) F G _ _ _ (lv_sub hl [2, 3, 4, 5, 6, 0] rfl) hW hw
          · have hw := hw.1 q
            refine lv_iload_n hx hb dX5_canTake_125 rfl (lv_at hl 5 rfl) ?_
            refine lv_goto (tgt := 136) hx hb dX5_canTake_126 (by decide) ?_
            exact jn136 y1 y2 y3 y5 x7_13 y3 F G _ _ _ (lv_sub hl [2, 3, 4, 5, 6, 0] rfl) hW hw
        · have hw := hw.1 q
          refine lv_iload_n hx hb dX5_canTake_107 rfl (lv_at hl 3 rfl) ?_
          refine lv_goto (tgt := 118) hx hb dX5_canTake_108 (by decide) ?_
          refine lv_istore (lv' := [(7, .int y2), (6, .int z0), (0, .ref (mp_h w)), (1, .int y1), (2, .int y2), (3, .int y3), (5, .int y5)]) hx hb dX5_canTake_118 hl (by decide) rfl (fun ls hl => ?_)
          refine lv_iload hx hb dX5_canTake_120 (lv_at hl 6 rfl) ?_
          refine lv_if_ne (tgt := 129) hx hb dX5_canTake_122 (by decide) (fun q => ?_) (fun q => ?_)
          · have hw := hw.2 q
            refine lv_aload_n hx hb dX5_canTake_129 rfl (lv_at hl 2 rfl) ?_
            refine m_get hx hb hown hts hT hW 24 (by decide) (hts _ q2153) rfl (v := .ref (mp_a w 24)) rfl dX5_canTake_130 ?_
            refine lv_iload hx hb dX5_canTake_133 (lv_at hl 1 rfl) ?_
            obtain ⟨hi, hw⟩ := hw
            refine m_iald hx hb hT hW (k := 24) (j := (z0.toNatClampNeg)) rfl rfl hi dX5_canTake_135 ?_
            exact jn136 y1 y2 y3 y5 y2 (G 24 (z0.toNatClampNeg)) F G _ _ _ (lv_sub hl [2, 3, 4, 5, 6, 0] rfl) hW hw
          · have hw := hw.1 q
            refine lv_iload_n hx hb dX5_canTake_125 rfl (lv_at hl 5 rfl) ?_
            refine lv_goto (tgt := 136) hx hb dX5_canTake_126 (by decide) ?_
            exact jn136 y1 y2 y3 y5 y2 y3 F G _ _ _ (lv_sub hl [2, 3, 4, 5, 6, 0] rfl) hW hw
      intro y1 y2 y3 y4 y5 F G H locs ls hl hW hw
      have hw : wM_canTake_b74 post (wM_canTake_l74 post n74) y1 y2 y3 y4 y5 F G := hw
      unfold wM_canTake_b74 at hw
      refine lv_iload hx hb dX5_canTake_74 (lv_at hl 5 rfl) ?_
      refine lv_iload_n hx hb dX5_canTake_76 rfl (lv_at hl 1 rfl) ?_
      refine lv_icmp_ge (tgt := 208) hx hb dX5_canTake_77 (by decide) (fun q => ?_) (fun q => ?_)
      · have hw := hw.1 q
        refine lv_iconst (v := (0 : Int32)) hx hb dX5_canTake_208 (by decide) ?_
        refine lv_istore (lv' := [(5, .int (0 : Int32)), (0, .ref (mp_h w)), (1, .int y1), (2, .int y2), (3, .int y3), (4, .int y4)]) hx hb dX5_canTake_209 hl (by decide) rfl (fun ls hl => ?_)
        obtain ⟨n_14, hw⟩ := hw
        exact lp211 n_14 y1 y4 (0 : Int32) F G _ _ _ (lv_sub hl [1, 2, 5, 0] rfl) hW hw
      · have hw := hw.2 q
        refine lv_iload hx hb dX5_canTake_80 (lv_at hl 4 rfl) ?_
        refine lv_if_eq (tgt := 208) hx hb dX5_canTake_82 (by decide) (fun q => ?_) (fun q => ?_)
        · have hw := hw.1 q
          refine lv_iconst (v := (0 : Int32)) hx hb dX5_canTake_208 (by decide) ?_
          refine lv_istore (lv' := [(5, .int (0 : Int32)), (0, .ref (mp_h w)), (1, .int y1), (2, .int y2), (3, .int y3), (4, .int y4)]) hx hb dX5_canTake_209 hl (by decide) rfl (fun ls hl => ?_)
          obtain ⟨n_15, hw⟩ := hw
          exact lp211 n_15 y1 y4 (0 : Int32) F G _ _ _ (lv_sub hl [1, 2, 5, 0] rfl) hW hw
        · have hw := hw.2 q
          refine lv_iload hx hb dX5_canTake_85 (lv_at hl 5 rfl) ?_
          refine lv_iload_n hx hb dX5_canTake_87 rfl (lv_at hl 1 rfl) ?_
          refine lv_iconst (v := (1 : Int32)) hx hb dX5_canTake_88 (by decide) ?_
          refine lv_isub hx hb dX5_canTake_89 ?_
          refine lv_icmp_ne (tgt := 97) hx hb dX5_canTake_90 (by decide) (fun q => ?_) (fun q => ?_)
          · have hw := hw.2 q
            refine lv_iload_n hx hb dX5_canTake_97 rfl (lv_at hl 1 rfl) ?_
            refine lv_iconst (v := (1 : Int32)) hx hb dX5_canTake_98 (by decide) ?_
            refine lv_isub hx hb dX5_canTake_99 ?_
            exact jn100 y1 y2 y3 y5 (y1 - (1 : Int32)) F G _ _ _ (lv_sub hl [0, 1, 2, 3, 5] rfl) hW hw
          · have hw := hw.1 q
            refine lv_iconst (v := (0 : Int32)) hx hb dX5_canTake_93 (by decide) ?_
            refine lv_goto (tgt := 100) hx hb dX5_canTake_94 (by decide) ?_
            exact jn100 y1 y2 y3 y5 (0 : Int32) F G _ _ _ (lv_sub hl [0, 1, 2, 3, 5] rfl) hW hw
  have lp3 : ∀ (n3 : Nat) (y1 : Int32) (y2 : Int32) (y3 : Int32) (y4 : Int32) (F : MF) (G : MG) (H : Heap) (locs : List Loc) (ls : Array Slot), lv_has ls 9 [(0, .ref (mp_h w)), (1, .int y1), (2, .int y2), (3, .int y3), (4, .int y4)] → m_W w s.heap F G H locs → wM_canTake_l3 post n3 y1 y2 y3 y4 F G → W p l e (mrm 7) s m args below meth c H locs 0 0 Q (F0 m 3 ls []) := by
    intro n3
    induction n3 with
    | zero => intro y1 y2 y3 y4 F G H locs ls hl hW hw; exact hw.elim
    | succ n3 ih3 =>
      intro y1 y2 y3 y4 F G H locs ls hl hW hw
      have hw : wM_canTake_b3 post (wM_canTake_l3 post n3) y1 y2 y3 y4 F G := hw
      unfold wM_canTake_b3 at hw
      refine lv_iload hx hb dX5_canTake_3 (lv_at hl 4 rfl) ?_
      refine lv_iload_n hx hb dX5_canTake_5 rfl (lv_at hl 1 rfl) ?_
      refine lv_icmp_ge (tgt := 68) hx hb dX5_canTake_6 (by decide) (fun q => ?_) (fun q => ?_)
      · have hw := hw.1 q
        refine lv_iconst (v := (1 : Int32)) hx hb dX5_canTake_68 (by decide) ?_
        refine lv_istore (lv' := [(4, .int (1 : Int32)), (0, .ref (mp_h w)), (1, .int y1), (2, .int y2), (3, .int y3)]) hx hb dX5_canTake_69 hl (by decide) rfl (fun ls hl => ?_)
        refine lv_iconst (v := (0 : Int32)) hx hb dX5_canTake_71 (by decide) ?_
        refine lv_istore (lv' := [(5, .int (0 : Int32)), (4, .int (1 : Int32)), (0, .ref (mp_h w)), (1, .int y1), (2, .int y2), (3, .int y3)]) hx hb dX5_canTake_72 hl (by decide) rfl (fun ls hl => ?_)
        obtain ⟨n_16, hw⟩ := hw
        exact lp74 n_16 y1 y2 y3 (1 : Int32) (0 : Int32) F G _ _ _ (lv_sub hl [2, 3, 4, 5, 1, 0] rfl) hW hw
      · have hw := hw.2 q
        refine lv_aload_n hx hb dX5_canTake_9 rfl (lv_at hl 0 rfl) ?_
        refine m_get hx hb hown hts hT hW 23 (by decide) (hts _ q2152) rfl (v := .ref (mp_a w 23)) rfl dX5_canTake_10 ?_
        refine lv_iload hx hb dX5_canTake_13 (lv_at hl 4 rfl) ?_
        refine lv_aload_n hx hb dX5_canTake_15 rfl (lv_at hl 0 rfl) ?_
        refine lv_aload_n hx hb dX5_canTake_16 rfl (lv_at hl 0 rfl) ?_
        refine m_get hx hb hown hts hT hW 21 (by decide) (hts _ q2150) rfl (v := .ref (mp_a w 21)) rfl dX5_canTake_17 ?_
        refine lv_iload hx hb dX5_canTake_20 (lv_at hl 4 rfl) ?_
        obtain ⟨hi, hw⟩ := hw
        refine m_iald hx hb hT hW (k := 21) (j := (y4.toNatClampNeg)) rfl rfl hi dX5_canTake_22 ?_
        refine lv_bipush (v := (9 : Int32)) hx hb dX5_canTake_23 (by decide) ?_
        refine m_Vi (rest := [.int y4, .ref (mp_a w 23)]) hE hT hW (kM_of l w _ (G 21 (y4.toNatClampNeg)) (9 : Int32) F G hw) gM_of dM_of ⟨Nat.le_of_ble_eq_true rfl, Nat.le_of_ble_eq_true rfl, Nat.zero_le _, Nat.zero_le _⟩ rfl hl.1 rfl (Nat.le_of_ble_eq_true rfl) dX5_canTake_25 (fun r_17 F9 G9 H locs hw hW => ?_)
        obtain ⟨eF9, eG9, hw⟩ := hw
        rw [eF9, eG9] at hW
        obtain ⟨hi, hw⟩ := hw
        refine m_iast hx hb hT hW (k := 23) (j := (y4.toNatClampNeg)) rfl rfl hi dX5_canTake_28 (fun G_18 H locs eG_18 hW => ?_)
        have hw := hw G_18 eG_18
        refine lv_aload_n hx hb dX5_canTake_29 rfl (lv_at hl 0 rfl) ?_
        refine m_get hx hb hown hts hT hW 24 (by decide) (hts _ q2153) rfl (v := .ref (mp_a w 24)) rfl dX5_canTake_30 ?_
        refine lv_iload hx hb dX5_canTake_33 (lv_at hl 4 rfl) ?_
        refine lv_aload_n hx hb dX5_canTake_35 rfl (lv_at hl 0 rfl) ?_
        refine lv_aload_n hx hb dX5_canTake_36 rfl (lv_at hl 0 rfl) ?_
        refine m_get hx hb hown hts hT hW 21 (by decide) (hts _ q2150) rfl (v := .ref (mp_a w 21)) rfl dX5_canTake_37 ?_
        refine lv_iload hx hb dX5_canTake_40 (lv_at hl 4 rfl) ?_
        obtain ⟨hi, hw⟩ := hw
        refine m_iald hx hb hT hW (k := 21) (j := (y4.toNatClampNeg)) rfl rfl hi dX5_canTake_42 ?_
        refine lv_bipush (v := (10 : Int32)) hx hb dX5_canTake_43 (by decide) ?_
        refine m_Vi (rest := [.int y4, .ref (mp_a w 24)]) hE hT hW (kM_of l w _ (G_18 21 (y4.toNatClampNeg)) (10 : Int32) F G_18 hw) gM_of dM_of ⟨Nat.le_of_ble_eq_true rfl, Nat.le_of_ble_eq_true rfl, Nat.zero_le _, Nat.zero_le _⟩ rfl hl.1 rfl (Nat.le_of_ble_eq_true rfl) dX5_canTake_45 (fun r_19 F9 G9 H locs hw hW => ?_)
        obtain ⟨eF9, eG9, hw⟩ := hw
        rw [eF9, eG9] at hW
        obtain ⟨hi, hw⟩ := hw
        refine m_iast hx hb hT hW (k := 24) (j := (y4.toNatClampNeg)) rfl rfl hi dX5_canTake_48 (fun G_20 H locs eG_20 hW => ?_)
        have hw := hw G_20 eG_20
        refine lv_aload_n hx hb dX5_canTake_49 rfl (lv_at hl 0 rfl) ?_
        refine m_get hx hb hown hts hT hW 19 (by decide) (hts _ q2148) rfl (v := .ref (mp_a w 19)) rfl dX5_canTake_50 ?_
        refine lv_aload_n hx hb dX5_canTake_53 rfl (lv_at hl 0 rfl) ?_
        refine m_get hx hb hown hts hT hW 21 (by decide) (hts _ q2150) rfl (v := .ref (mp_a w 21)) rfl dX5_canTake_54 ?_
        refine lv_iload hx hb dX5_canTake_57 (lv_at hl 4 rfl) ?_
        obtain ⟨hi, hw⟩ := hw
        refine m_iald hx hb hT hW (k := 21) (j := (y4.toNatClampNeg)) rfl rfl hi dX5_canTake_59 ?_
        refine lv_iconst (v := (1 : Int32)) hx hb dX5_canTake_60 (by decide) ?_
        obtain ⟨hi, hw⟩ := hw
        refine m_zast hx hb hT hW (k := 19) (j := ((G_20 21 (y4.toNatClampNeg)).toNatClampNeg)) rfl rfl hi dX5_canTake_61 (fun G_21 H locs eG_21 hW => ?_)
        have hw := hw G_21 eG_21
        refine lv_iinc (v := (y4 + (1 : Int32))) (lv' := [(4, .int (y4 + (1 : Int32))), (0, .ref (mp_h w)), (1, .int y1), (2, .int y2), (3, .int y3)]) hx hb dX5_canTake_62 hl (k := 4) rfl rfl (by decide) rfl (fun ls hl => ?_)
        refine lv_goto (tgt := 3) hx hb dX5_canTake_65 (by decide) ?_
        exact ih3 y1 y2 y3 (y4 + (1 : Int32)) F G_21 _ _ _ (lv_sub hl [1, 2, 3, 4, 0] rfl) hW hw
  unfold wM_canTake at hw
  refine lv_iconst (v := (0 : Int32)) hx hb dX5_canTake_0 (by decide) ?_
  refine lv_istore (lv' := [(4, .int (0 : Int32)), (0, .ref (mp_h w)), (1, .int x1), (2, .int x2), (3, .int x3)]) hx hb dX5_canTake_1 hl (by decide) rfl (fun ls hl => ?_)
  obtain ⟨n_22, hw⟩ := hw
  exact lp3 n_22 x1 x2 x3 (0 : Int32) F G _ _ _ (lv_sub hl [1, 2, 3, 4, 0] rfl) hW hw
theorem gM_canTake : GoodIn lw_all (wsV RX5 350 RX5 yX5_canTake (ws_ yX5_canTake cX5_canTake 9 (some .boolean))) := lw_V q2534 q2536 qs125 q154 q2537
theorem dM_canTake : yX5_canTake.cls = RX5 ∧ yX5_canTake.cls ≠ "java/lang/invoke/MethodHandle" ∧ yX5_canTake.cls ≠ "java/lang/invoke/VarHandle" ∧ (parseMethodDescriptor yX5_canTake.desc).map (fun d => d.parameters.length) = some 3 := by decide +kernel

/-! seeksTwo -/
def wM_seeksTwo_b2 (post : Int32 → MF → MG → Prop) (K2 : Int32 → Int32 → Int32 → MF → MG → Prop) (y1 : Int32) (y2 : Int32) (y3 : Int32) (F : MF) (G : MG) : Prop :=
  ((G 8 1) ≤ y3 → post (0 : Int32) F G) ∧ (¬ (G 8 1) ≤ y3 → ∀ G_1 : MG, G_1 = mu G 21 1 y3 → (y3 = (G_1 21 0) → K2 y1 y2 (y3 + (1 : Int32)) F G_1) ∧ (¬ y3 = (G_1 21 0) → wM_isToCome (fun r_2 => (r_2 = 0 → K2 y1 y2 (y3 + (1 : Int32)) F G_1) ∧ (¬ r_2 = 0 → wM_canTake (fun r_3 F_4 G_5 => (r_3 = 0 → K2 y1 y2 (y3 + (1 : Int32)) F_4 G_5) ∧ (¬ r_3 = 0 → post (1 : Int32) F_4 G_5)) (2 : Int32) y1 y2 F G_1)) y3 F G_1))
def wM_seeksTwo_l2 (post : Int32 → MF → MG → Prop) : Nat → Int32 → Int32 → Int32 → MF → MG → Prop
  | 0 => fun _ _ _ _ _ => False
  | n + 1 => wM_seeksTwo_b2 post (wM_seeksTwo_l2 post n)
def wM_seeksTwo (post : Int32 → MF → MG → Prop) (x1 : Int32) (x2 : Int32) (F : MF) (G : MG) : Prop :=
  ∃ n, wM_seeksTwo_l2 post n x1 x2 (0 : Int32) F G
set_option maxHeartbeats 4000000 in
theorem kM_seeksTwo (l : Launch) (w : MP) (post : Int32 → MF → MG → Prop) (x1 : Int32) (x2 : Int32) (F : MF) (G : MG) (hw : wM_seeksTwo post x1 x2 F G) : m_Mi l w yX5_seeksTwo cX5_seeksTwo 4 .boolean 8 [.ref (mp_h w), .int x1, .int x2] F G post := by
  refine m_ofWi (by decide) rfl (Nat.le_of_ble_eq_true rfl) (fun r => r = 0 ∨ r = 1) (fun _ h => m_nb h) ?_
  intro p e s m args below meth c Q ls hA hW hQ
  obtain ⟨hE, hT, hl⟩ := hA
  obtain ⟨hx, hb, hml, hown, hts⟩ := id hE
  have hl : lv_has ls 4 [(0, .ref (mp_h w)), (1, .int x1), (2, .int x2)] := hl
  have lp2 : ∀ (n2 : Nat) (y1 : Int32) (y2 : Int32) (y3 : Int32) (F : MF) (G : MG) (H : Heap) (locs : List Loc) (ls : Array Slot), lv_has ls 4 [(0, .ref (mp_h w)), (1, .int y1), (2, .int y2), (3, .int y3)] → m_W w s.heap F G H locs → wM_seeksTwo_l2 post n2 y1 y2 y3 F G → W p l e (mrm 8) s m args below meth c H locs 0 0 Q (F0 m 2 ls []) := by
    intro n2
    induction n2 with
    | zero => intro y1 y2 y3 F G H locs ls hl hW hw; exact hw.elim
    | succ n2 ih2 =>
      intro y1 y2 y3 F G H locs ls hl hW hw
      have hw : wM_seeksTwo_b2 post (wM_seeksTwo_l2 post n2) y1 y2 y3 F G := hw
      unfold wM_seeksTwo_b2 at hw
      refine lv_iload_n hx hb dX5_seeksTwo_2 rfl (lv_at hl 3 rfl) ?_
      refine lv_aload_n hx hb dX5_seeksTwo_3 rfl (lv_at hl 0 rfl) ?_
      refine m_get hx hb hown hts hT hW 8 (by decide) (hts _ q2137) rfl (v := .ref (mp_a w 8)) rfl dX5_seeksTwo_4 ?_
      refine lv_iconst (v := (1 : Int32)) hx hb dX5_seeksTwo_7 (by decide) ?_
      refine m_iald hx hb hT hW (k := 8) (j := 1) (by decide) rfl (by unfold vp_in; decide) dX5_seeksTwo_8 ?_
      refine lv_icmp_ge (tgt := 55) hx hb dX5_seeksTwo_9 (by decide) (fun q => ?_) (fun q => ?_)
      · have hw := hw.1 q
        refine lv_iconst (v := (0 : Int32)) hx hb dX5_seeksTwo_55 (by decide) ?_
        exact hQ _ _ _ _ _ (by decide) hw hW _ _ dX5_seeksTwo_56
      · have hw := hw.2 q
        refine lv_aload_n hx hb dX5_seeksTwo_12 rfl (lv_at hl 0 rfl) ?_
        refine m_get hx hb hown hts hT hW 21 (by decide) (hts _ q2150) rfl (v := .ref (mp_a w 21)) rfl dX5_seeksTwo_13 ?_
        refine lv_iconst (v := (1 : Int32)) hx hb dX5_seeksTwo_16 (by decide) ?_
        refine lv_iload_n hx hb dX5_seeksTwo_17 rfl (lv_at hl 3 rfl) ?_
        refine m_iast hx hb hT hW (k := 21) (j := 1) (by decide) rfl (by unfold vp_in; decide) dX5_seeksTwo_18 (fun G_1 H locs eG_1 hW => ?_)
        have hw := hw G_1 eG_1
        refine lv_iload_n hx hb dX5_seeksTwo_19 rfl (lv_at hl 3 rfl) ?_
        refine lv_aload_n hx hb dX5_seeksTwo_20 rfl (lv_at hl 0 rfl) ?_
        refine m_get hx hb hown hts hT hW 21 (by decide) (hts _ q2150) rfl (v := .ref (mp_a w 21)) rfl dX5_seeksTwo_21 ?_
        refine lv_iconst (v := (0 : Int32)) hx hb dX5_seeksTwo_24 (by decide) ?_
        refine m_iald hx hb hT hW (k := 21) (j := 0) (by decide) rfl (by unfold vp_in; decide) dX5_seeksTwo_25 ?_
        refine lv_icmp_eq (tgt := 49) hx hb dX5_seeksTwo_26 (by decide) (fun q => ?_) (fun q => ?_)
        · have hw := hw.1 q
          refine lv_iinc (v := (y3 + (1 : Int32))) (lv' := [(3, .int (y3 + (1 : Int32))), (0, .ref (mp_h w)), (1, .int y1), (2, .int y2)]) hx hb dX5_seeksTwo_49 hl (k := 3) rfl rfl (by decide) rfl (fun ls hl => ?_)
          refine lv_goto (tgt := 2) hx hb dX5_seeksTwo_52 (by decide) ?_
          exact ih2 y1 y2 (y3 + (1 : Int32)) F G_1 _ _ _ (lv_sub hl [1, 2, 3, 0] rfl) hW hw
        · have hw := hw.2 q
          refine lv_aload_n hx hb dX5_seeksTwo_29 rfl (lv_at hl 0 rfl) ?_
          refine lv_iload_n hx hb dX5_seeksTwo_30 rfl (lv_at hl 3 rfl) ?_
          refine m_Vi (rest := []) hE hT hW (kM_isToCome l w _ y3 F G_1 hw) gM_isToCome dM_isToCome ⟨Nat.le_of_ble_eq_true rfl, Nat.le_of_ble_eq_true rfl, Nat.zero_le _, Nat.zero_le _⟩ rfl hl.1 rfl (Nat.le_of_ble_eq_true rfl) dX5_seeksTwo_31 (fun r_2 F9 G9 H locs hw hW => ?_)
          obtain ⟨eF9, eG9, hw⟩ := hw
          rw [eF9, eG9] at hW
          refine lv_if_eq (tgt := 49) hx hb dX5_seeksTwo_34 (by decide) (fun q => ?_) (fun q => ?_)
          · have hw := hw.1 q
            refine lv_iinc (v := (y3 + (1 : Int32))) (lv' := [(3, .int (y3 + (1 : Int32))), (0, .ref (mp_h w)), (1, .int y1), (2, .int y2)]) hx hb dX5_seeksTwo_49 hl (k := 3) rfl rfl (by decide) rfl (fun ls hl => ?_)
            refine lv_goto (tgt := 2) hx hb dX5_seeksTwo_52 (by decide) ?_
            exact ih2 y1 y2 (y3 + (1 : Int32)) F G_1 _ _ _ (lv_sub hl [1, 2, 3, 0] rfl) hW hw
          · have hw := hw.2 q
            refine lv_aload_n hx hb dX5_seeksTwo_37 rfl (lv_at hl 0 rfl) ?_
            refine lv_iconst (v := (2 : Int32)) hx hb dX5_seeksTwo_38 (by decide) ?_
            refine lv_iload_n hx hb dX5_seeksTwo_39 rfl (lv_at hl 1 rfl) ?_
            refine lv_iload_n hx hb dX5_seeksTwo_40 rfl (lv_at hl 2 rfl) ?_
            refine m_Vi (rest := []) hE hT hW (kM_canTake l w _ (2 : Int32) y1 y2 F G_1 hw) gM_canTake dM_canTake ⟨Nat.le_of_ble_eq_true rfl, Nat.le_of_ble_eq_true rfl, Nat.zero_le _, Nat.zero_le _⟩ rfl hl.1 rfl (Nat.le_of_ble_eq_true rfl) dX5_seeksTwo_41 (fun r_3 F_4 G_5 H locs hw hW => ?_)
            refine lv_if_eq (tgt := 49) hx hb dX5_seeksTwo_44 (by decide) (fun q => ?_) (fun q => ?_)
            · have hw := hw.1 q
              refine lv_iinc (v := (y3 + (1 : Int32))) (lv' := [(3, .int (y3 + (1 : Int32))), (0, .ref (mp_h w)), (1, .int y1), (2, .int y2)]) hx hb dX5_seeksTwo_49 hl (k := 3) rfl rfl (by decide) rfl (fun ls hl => ?_)
              refine lv_goto (tgt := 2) hx hb dX5_seeksTwo_52 (by decide) ?_
              exact ih2 y1 y2 (y3 + (1 : Int32)) F_4 G_5 _ _ _ (lv_sub hl [1, 2, 3, 0] rfl) hW hw
            · have hw := hw.2 q
              refine lv_iconst (v := (1 : Int32)) hx hb dX5_seeksTwo_47 (by decide) ?_
              exact hQ _ _ _ _ _ (by decide) hw hW _ _ dX5_seeksTwo_48
  unfold wM_seeksTwo at hw
  refine lv_iconst (v := (0 : Int32)) hx hb dX5_seeksTwo_0 (by decide) ?_
  refine lv_istore_n (lv' := [(3, .int (0 : Int32)), (0, .ref (mp_h w)), (1, .int x1), (2, .int x2)]) hx hb dX5_seeksTwo_1 rfl hl (by decide) rfl (fun ls hl => ?_)
  obtain ⟨n_6, hw⟩ := hw
  exact lp2 n_6 x1 x2 (0 : Int32) F G _ _ _ (lv_sub hl [1, 2, 3, 0] rfl) hW hw
theorem gM_seeksTwo : GoodIn lw_all (wsV RX5 356 RX5 yX5_seeksTwo (ws_ yX5_seeksTwo cX5_seeksTwo 4 (some .boolean))) := lw_V q2538 q2540 qs126 q154 q2541
theorem dM_seeksTwo : yX5_seeksTwo.cls = RX5 ∧ yX5_seeksTwo.cls ≠ "java/lang/invoke/MethodHandle" ∧ yX5_seeksTwo.cls ≠ "java/lang/invoke/VarHandle" ∧ (parseMethodDescriptor yX5_seeksTwo.desc).map (fun d => d.parameters.length) = some 2 := by decide +kernel

/-! seeksThree -/
def wM_seeksThree_j75 (post : Int32 → MF → MG → Prop) (K2 : Int32 → Int32 → Int32 → MF → MG → Prop) (K15 : Int32 → Int32 → Int32 → Int32 → MF → MG → Prop) (y1 : Int32) (y2 : Int32) (y3 : Int32) (y4 : Int32) (z0 : Int32) (F : MF) (G : MG) : Prop :=
  ∀ G_1 : MG, G_1 = mu G 21 1 y3 → ∀ G_2 : MG, G_2 = mu G_1 21 2 y4 → (z0 = 0 → K15 y1 y2 y3 (y4 + (1 : Int32)) F G_2) ∧ (¬ z0 = 0 → wM_canTake (fun r_3 F_4 G_5 => (r_3 = 0 → K15 y1 y2 y3 (y4 + (1 : Int32)) F_4 G_5) ∧ (¬ r_3 = 0 → post (1 : Int32) F_4 G_5)) (3 : Int32) y1 y2 F G_2)
def wM_seeksThree_b15 (post : Int32 → MF → MG → Prop) (K2 : Int32 → Int32 → Int32 → MF → MG → Prop) (K15 : Int32 → Int32 → Int32 → Int32 → MF → MG → Prop) (y1 : Int32) (y2 : Int32) (y3 : Int32) (y4 : Int32) (F : MF) (G : MG) : Prop :=
  ((G 8 1) ≤ y4 → K2 y1 y2 (y3 + (1 : Int32)) F G) ∧ (¬ (G 8 1) ≤ y4 → (y3 = (G 21 0) → wM_seeksThree_j75 post K2 K15 y1 y2 y3 y4 (0 : Int32) F G) ∧ (¬ y3 = (G 21 0) → (y4 = (G 21 0) → wM_seeksThree_j75 post K2 K15 y1 y2 y3 y4 (0 : Int32) F G) ∧ (¬ y4 = (G 21 0) → (y3 = y4 → wM_seeksThree_j75 post K2 K15 y1 y2 y3 y4 (0 : Int32) F G) ∧ (¬ y3 = y4 → wM_isToCome (fun r_6 => (r_6 = 0 → wM_seeksThree_j75 post K2 K15 y1 y2 y3 y4 (0 : Int32) F G) ∧ (¬ r_6 = 0 → wM_isToCome (fun r_7 => (r_7 = 0 → wM_seeksThree_j75 post K2 K15 y1 y2 y3 y4 (0 : Int32) F G) ∧ (¬ r_7 = 0 → wM_seeksThree_j75 post K2 K15 y1 y2 y3 y4 (1 : Int32) F G)) y4 F G)) y3 F G))))
def wM_seeksThree_l15 (post : Int32 → MF → MG → Prop) (K2 : Int32 → Int32 → Int32 → MF → MG → Prop) : Nat → Int32 → Int32 → Int32 → Int32 → MF → MG → Prop
  | 0 => fun _ _ _ _ _ _ => False
  | n + 1 => wM_seeksThree_b15 post K2 (wM_seeksThree_l15 post K2 n)
def wM_seeksThree_b2 (post : Int32 → MF → MG → Prop) (K2 : Int32 → Int32 → Int32 → MF → MG → Prop) (y1 : Int32) (y2 : Int32) (y3 : Int32) (F : MF) (G : MG) : Prop :=
  ((G 8 1) ≤ y3 → post (0 : Int32) F G) ∧ (¬ (G 8 1) ≤ y3 → ∃ n, wM_seeksThree_l15 post K2 n y1 y2 y3 (0 : Int32) F G)
def wM_seeksThree_l2 (post : Int32 → MF → MG → Prop) : Nat → Int32 → Int32 → Int32 → MF → MG → Prop
  | 0 => fun _ _ _ _ _ => False
  | n + 1 => wM_seeksThree_b2 post (wM_seeksThree_l2 post n)
def wM_seeksThree (post : Int32 → MF → MG → Prop) (x1 : Int32) (x2 : Int32) (F : MF) (G : MG) : Prop :=
  ∃ n, wM_seeksThree_l2 post n x1 x2 (0 : Int32) F G
set_option maxHeartbeats 4000000 in
theorem kM_seeksThree (l : Launch) (w : MP) (post : Int32 → MF → MG → Prop) (x1 : Int32) (x2 : Int32) (F : MF) (G : MG) (hw : wM_seeksThree post x1 x2 F G) : m_Mi l w yX5_seeksThree cX5_seeksThree 6 .boolean 8 [.ref (mp_h w), .int x1, .int x2] F G post := by
  refine m_ofWi (by decide) rfl (Nat.le_of_ble_eq_true rfl) (fun r => r = 0 ∨ r = 1) (fun _ h => m_nb h) ?_
  intro p e s m args below meth c Q ls hA hW hQ
  obtain ⟨hE, hT, hl⟩ := hA
  obtain ⟨hx, hb, hml, hown, hts⟩ := id hE
  have hl : lv_has ls 6 [(0, .ref (mp_h w)), (1, .int x1), (2, .int x2)] := hl
  have lp2 : ∀ (n2 : Nat) (y1 : Int32) (y2 : Int32) (y3 : Int32) (F : MF) (G : MG) (H : Heap) (locs : List Loc) (ls : Array Slot), lv_has ls 6 [(0, .ref (mp_h w)), (1, .int y1), (2, .int y2), (3, .int y3)] → m_W w s.heap F G H locs → wM_seeksThree_l2 post n2 y1 y2 y3 F G → W p l e (mrm 8) s m args below meth c H locs 0 0 Q (F0 m 2 ls []) := by
    intro n2
    induction n2 with
    | zero => intro y1 y2 y3 F G H locs ls hl hW hw; exact hw.elim
    | succ n2 ih2 =>
      have lp15 : ∀ (n15 : Nat) (y1 : Int32) (y2 : Int32) (y3 : Int32) (y4 : Int32) (F : MF) (G : MG) (H : Heap) (locs : List Loc) (ls : Array Slot), lv_has ls 6 [(0, .ref (mp_h w)), (1, .int y1), (2, .int y2), (3, .int y3), (4, .int y4)] → m_W w s.heap F G H locs → wM_seeksThree_l15 post (wM_seeksThree_l2 post n2) n15 y1 y2 y3 y4 F G → W p l e (mrm 8) s m args below meth c H locs 0 0 Q (F0 m 15 ls []) := by
        intro n15
        induction n15 with
        | zero => intro y1 y2 y3 y4 F G H locs ls hl hW hw; exact hw.elim
        | succ n15 ih15 =>
          have jn75 : ∀ (y1 : Int32) (y2 : Int32) (y3 : Int32) (y4 : Int32) (z0 : Int32) (F : MF) (G : MG) (H : Heap) (locs : List Loc) (ls : Array Slot), lv_has ls 6 [(0, .ref (mp_h w)), (1, .int y1), (2, .int y2), (3, .int y3), (4, .int y4)] → m_W w s.heap F G H locs → wM_seeksThree_j75 post (wM_seeksThree_l2 post n2) (wM_seeksThree_l15 post (wM_seeksThree_l2 post n2) n15) y1 y2 y3 y4 z0 F G → W p l e (mrm 8) s m args below meth c H locs 0 0 Q (F0 m 75 ls [.int z0]) := by
            intro y1 y2 y3 y4 z0 F G H locs ls hl hW hw
            unfold wM_seeksThree_j75 at hw
            refine lv_istore (lv' := [(5, .int z0), (0, .ref (mp_h w)), (1, .int y1), (2, .int y2), (3, .int y3), (4, .int y4)]) hx hb dX5_seeksThree_75 hl (by decide) rfl (fun ls hl => ?_)
            refine lv_aload_n hx hb dX5_seeksThree_77 rfl (lv_at hl 1 rfl) ?_
            refine m_get hx hb hown hts hT hW 21 (by decide) (hts _ q2150) rfl (v := .ref (mp_a w 21)) rfl dX5_seeksThree_78 ?_
            refine lv_iconst (v := (1 : Int32)) hx hb dX5_seeksThree_81 (by decide) ?_
            refine lv_iload_n hx hb dX5_seeksThree_82 rfl (lv_at hl 4 rfl) ?_
            refine m_iast hx hb hT hW (k := 21) (j := 1) (by decide) rfl (by unfold vp_in; decide) dX5_seeksThree_83 (fun G_1 H locs eG_1 hW => ?_)
            have hw := hw G_1 eG_1
            refine lv_aload_n hx hb dX5_seeksThree_84 rfl (lv_at hl 1 rfl) ?_
            refine m_get hx hb hown hts hT hW 21 (by decide) (hts _ q2150) rfl (v := .ref (mp_a w 21)) rfl dX5_seeksThree_85 ?_
            refine lv_iconst (v := (2 : Int32)) hx hb dX5_seeksThree_88 (by decide) ?_
            refine lv_iload hx hb dX5_seeksThree_89 (lv_at hl 5 rfl) ?_
            refine m_iast hx hb hT hW (k := 21) (j := 2) (by decide) rfl (by unfold vp_in; decide) dX5_seeksThree_91 (fun G_2 H locs eG_2 hW => ?_)
            have hw := hw G_2 eG_2
            refine lv_iload hx hb dX5_seeksThree_92 (lv_at hl 0 rfl) ?_
            refine lv_if_eq (tgt := 109) hx hb dX5_seeksThree_94 (by decide) (fun q => ?_) (fun q => ?_)
            · have hw := hw.1 q
              refine lv_iinc (v := (y4 + (1 : Int32))) (lv' := [(4, .int (y4 + (1 : Int32))), (5, .int z0), (0, .ref (mp_h w)), (1, .int y1), (2, .int y2), (3, .int y3)]) hx hb dX5_seeksThree_109 hl (k := 5) rfl rfl (by decide) rfl (fun ls hl => ?_)
              refine lv_goto (tgt := 15) hx hb dX5_seeksThree_112 (by decide) ?_
              exact ih15 y1 y2 y3 (y4 + (1 : Int32)) F G_2 _ _ _ (lv_sub hl [2, 3, 4, 5, 0] rfl) hW hw
            · have hw := hw.2 q
              refine lv_aload_n hx hb dX5_seeksThree_97 rfl (lv_at hl 1 rfl) ?_
              refine lv_iconst (v := (3 : Int32)) hx hb dX5_seeksThree_98 (by decide) ?_
              refine lv_iload_n hx hb dX5_seeksThree_99 rfl (lv_at hl 2 rfl) ?_
              refine lv_iload_n hx hb dX5_seeksThree_100 rfl (lv_at hl 3 rfl) ?_
              refine m_Vi (rest := []) hE hT hW (kM_canTake l w _ (3 : Int32) y1 y2 F G_2 hw) gM_canTake dM_canTake ⟨Nat.le_of_ble_eq_true rfl, Nat.le_of_ble_eq_true rfl, Nat.zero_le _, Nat.zero_le _⟩ rfl hl.1 rfl (Nat.le_of_ble_eq_true rfl) dX5_seeksThree_101 (fun r_3 F_4 G_5 H locs hw hW => ?_)
              refine lv_if_eq (tgt := 109) hx hb dX5_seeksThree_104 (by decide) (fun q => ?_) (fun q => ?_)
              · have hw := hw.1 q
                refine lv_iinc (v := (y4 + (1 : Int32))) (lv' := [(4, .int (y4 + (1 : Int32))), (5, .int z0), (0, .ref (mp_h w)), (1, .int y1), (2, .int y2), (3, .int y3)]) hx hb dX5_seeksThree_109 hl (k := 5) rfl rfl (by decide) rfl (fun ls hl => ?_)
                refine lv_goto (tgt := 15) hx hb dX5_seeksThree_112 (by decide) ?_
                exact ih15 y1 y2 y3 (y4 + (1 : Int32)) F_4 G_5 _ _ _ (lv_sub hl [2, 3, 4, 5, 0] rfl) hW hw
              · have hw := hw.2 q
                refine lv_iconst (v := (1 : Int32)) hx hb dX5_seeksThree_107 (by decide) ?_
                exact hQ _ _ _ _ _ (by decide) hw hW _ _ dX5_seeksThree_108
          intro y1 y2 y3 y4 F G H locs ls hl hW hw
          have hw : wM_seeksThree_b15 post (wM_seeksThree_l2 post n2) (wM_seeksThree_l15 post (wM_seeksThree_l2 post n2) n15) y1 y2 y3 y4 F G := hw
          unfold wM_seeksThree_b15 at hw
          refine lv_iload hx hb dX5_seeksThree_15 (lv_at hl 4 rfl) ?_
          refine lv_aload_n hx hb dX5_seeksThree_17 rfl (lv_at hl 0 rfl) ?_
          refine m_get hx hb hown hts hT hW 8 (by decide) (hts _ q2137) rfl (v := .ref (mp_a w 8)) rfl dX5_seeksThree_18 ?_
          refine lv_iconst (v := (1 : Int32)) hx hb dX5_seeksThree_21 (by decide) ?_
          refine m_iald hx hb hT hW (k := 8) (j := 1) (by decide) rfl (by unfold vp_in; decide) dX5_seeksThree_22 ?_
          refine lv_icmp_ge (tgt := 115) hx hb dX5_seeksThree_23 (by decide) (fun q => ?_) (fun q => ?_)
          · have hw := hw.1 q
            refine lv_iinc (v := (y3 + (1 : Int32))) (lv' := [(3, .int (y3 + (1 : Int32))), (0, .ref (mp_h w)), (1, .int y1), (2, .int y2), (4, .int y4)]) hx hb dX5_seeksThree_115 hl (k := 3) rfl rfl (by decide) rfl (fun ls hl => ?_)
            refine lv_goto (tgt := 2) hx hb dX5_seeksThree_118 (by decide) ?_
            exact ih2 y1 y2 (y3 + (1 : Int32)) F G _ _ _ (lv_sub hl [1, 2, 3, 0] rfl) hW hw
          · have hw := hw.2 q
            refine lv_iload_n hx hb dX5_seeksThree_26 rfl (lv_at hl 3 rfl) ?_
            refine lv_aload_n hx hb dX5_seeksThree_27 rfl (lv_at hl 0 rfl) ?_
            refine m_get hx hb hown hts hT hW 21 (by decide) (hts _ q2150) rfl (v := .ref (mp_a w 21)) rfl dX5_seeksThree_28 ?_
            refine lv_iconst (v := (0 : Int32)) hx hb dX5_seeksThree_31 (by decide) ?_
            refine m_iald hx hb hT hW (k := 21) (j := 0) (by decide) rfl (by unfold vp_in; decide) dX5_seeksThree_32 ?_
            refine lv_icmp_eq (tgt := 74) hx hb dX5_seeksThree_33 (by decide) (fun q => ?_) (fun q => ?_)
            · have hw := hw.1 q
              refine lv_iconst (v := (0 : Int32)) hx hb dX5_seeksThree_74 (by decide) ?_
              exact jn75 y1 y2 y3 y4 (0 : Int32) F G _ _ _ hl hW hw
            · have hw := hw.2 q
              refine lv_iload hx hb dX5_seeksThree_36 (lv_at hl 4 rfl) ?_
              refine lv_aload_n hx hb dX5_seeksThree_38 rfl (lv_at hl 0 rfl) ?_
              refine m_get hx hb hown hts hT hW 21 (by decide) (hts _ q2150) rfl (v := .ref (mp_a w 21)) rfl dX5_seeksThree_39 ?_
              refine lv_iconst (v := (0 : Int32)) hx hb dX5_seeksThree_42 (by decide) ?_
              refine m_iald hx hb hT hW (k := 21) (j := 0) (by decide) rfl (by unfold vp_in; decide) dX5_seeksThree_43 ?_
              refine lv_icmp_eq (tgt := 74) hx hb dX5_seeksThree_44 (by decide) (fun q => ?_) (fun q => ?_)
              · have hw := hw.1 q
                refine lv_iconst (v := (0 : Int32)) hx hb dX5_seeksThree_74 (by decide) ?_
                exact jn75 y1 y2 y3 y4 (0 : Int32) F G _ _ _ hl hW hw
              · have hw := hw.2 q
                refine lv_iload_n hx hb dX5_seeksThree_47 rfl (lv_at hl 3 rfl) ?_
                refine lv_iload hx hb dX5_seeksThree_48 (lv_at hl 4 rfl) ?_
                refine lv_icmp_eq (tgt := 74) hx hb dX5_seeksThree_50 (by decide) (fun q => ?_) (fun q => ?_)
                · have hw := hw.1 q
                  refine lv_iconst (v := (0 : Int32)) hx hb dX5_seeksThree_74 (by decide) ?_
                  exact jn75 y1 y2 y3 y4 (0 : Int32) F G _ _ _ hl hW hw
                · have hw := hw.2 q
                  refine lv_aload_n hx hb dX5_seeksThree_53 rfl (lv_at hl 0 rfl) ?_
                  refine lv_iload_n hx hb dX5_seeksThree_54 rfl (lv_at hl 3 rfl) ?_
                  refine m_Vi (rest := []) hE hT hW (kM_isToCome l w _ y3 F G hw) gM_isToCome dM_isToCome ⟨Nat.le_of_ble_eq_true rfl, Nat.le_of_ble_eq_true rfl, Nat.zero_le _, Nat.zero_le _⟩ rfl hl.1 rfl (Nat.le_of_ble_eq_true rfl) dX5_seeksThree_55 (fun r_6 F9 G9 H locs hw hW => ?_)
                  obtain ⟨eF9, eG9, hw⟩ := hw
                  rw [eF9, eG9] at hW
                  refine lv_if_eq (tgt := 74) hx hb dX5_seeksThree_58 (by decide) (fun q => ?_) (fun q => ?_)
                  · have hw := hw.1 q
                    refine lv_iconst (v := (0 : Int32)) hx hb dX5_seeksThree_74 (by decide) ?_
                    exact jn75 y1 y2 y3 y4 (0 : Int32) F G _ _ _ hl hW hw
                  · have hw := hw.2 q
                    refine lv_aload_n hx hb dX5_seeksThree_61 rfl (lv_at hl 0 rfl) ?_
                    refine lv_iload hx hb dX5_seeksThree_62 (lv_at hl 4 rfl) ?_
                    refine m_Vi (rest := []) hE hT hW (kM_isToCome l w _ y4 F G hw) gM_isToCome dM_isToCome ⟨Nat.le_of_ble_eq_true rfl, Nat.le_of_ble_eq_true rfl, Nat.zero_le _, Nat.zero_le _⟩ rfl hl.1 rfl (Nat.le_of_ble_eq_true rfl) dX5_seeksThree_64 (fun r_7 F9 G9 H locs hw hW => ?_)
                    obtain ⟨eF9, eG9, hw⟩ := hw
                    rw [eF9, eG9] at hW
                    refine lv_if_eq (tgt := 74) hx hb dX5_seeksThree_67 (by decide) (fun q => ?_) (fun q => ?_)
                    · have hw := hw.1 q
                      refine lv_iconst (v := (0 : Int32)) hx hb dX5_seeksThree_74 (by decide) ?_
                      exact jn75 y1 y2 y3 y4 (0 : Int32) F G _ _ _ hl hW hw
                    · have hw := hw.2 q
                      refine lv_iconst (v := (1 : Int32)) hx hb dX5_seeksThree_70 (by decide) ?_
                      refine lv_goto (tgt := 75) hx hb dX5_seeksThree_71 (by decide) ?_
                      exact jn75 y1 y2 y3 y4 (1 : Int32) F G _ _ _ hl hW hw
      intro y1 y2 y3 F G H locs ls hl hW hw
      have hw : wM_seeksThree_b2 post (wM_seeksThree_l2 post n2) y1 y2 y3 F G := hw
      unfold wM_seeksThree_b2 at hw
      refine lv_iload_n hx hb dX5_seeksThree_2 rfl (lv_at hl 3 rfl) ?_
      refine lv_aload_n hx hb dX5_seeksThree_3 rfl (lv_at hl 0 rfl) ?_
      refine m_get hx hb hown hts hT hW 8 (by decide) (hts _ q2137) rfl (v := .ref (mp_a w 8)) rfl dX5_seeksThree_4 ?_
      refine lv_iconst (v := (1 : Int32)) hx hb dX5_seeksThree_7 (by decide) ?_
      refine m_iald hx hb hT hW (k := 8) (j := 1) (by decide) rfl (by unfold vp_in; decide) dX5_seeksThree_8 ?_
      refine lv_icmp_ge (tgt := 121) hx hb dX5_seeksThree_9 (by decide) (fun q => ?_) (fun q => ?_)
      · have hw := hw.1 q
        refine lv_iconst (v := (0 : Int32)) hx hb dX5_seeksThree_121 (by decide) ?_
        exact hQ _ _ _ _ _ (by decide) hw hW _ _ dX5_seeksThree_122
      · have hw := hw.2 q
        refine lv_iconst (v := (0 : Int32)) hx hb dX5_seeksThree_12 (by decide) ?_
        refine lv_istore (lv' := [(4, .int (0 : Int32)), (0, .ref (mp_h w)), (1, .int y1), (2, .int y2), (3, .int y3)]) hx hb dX5_seeksThree_13 hl (by decide) rfl (fun ls hl => ?_)
        obtain ⟨n_8, hw⟩ := hw
        exact lp15 n_8 y1 y2 y3 (0 : Int32) F G _ _ _ (lv_sub hl [1, 2, 3, 4, 0] rfl) hW hw
  unfold wM_seeksThree at hw
  refine lv_iconst (v := (0 : Int32)) hx hb dX5_seeksThree_0 (by decide) ?_
  refine lv_istore_n (lv' := [(3, .int (0 : Int32)), (0, .ref (mp_h w)), (1, .int x1), (2, .int x2)]) hx hb dX5_seeksThree_1 rfl hl (by decide) rfl (fun ls hl => ?_)
  obtain ⟨n_9, hw⟩ := hw
  exact lp2 n_9 x1 x2 (0 : Int32) F G _ _ _ (lv_sub hl [1, 2, 3, 0] rfl) hW hw
theorem gM_seeksThree : GoodIn lw_all (wsV RX5 359 RX5 yX5_seeksThree (ws_ yX5_seeksThree cX5_seeksThree 6 (some .boolean))) := lw_V q2542 q2544 qs127 q154 q2545
theorem dM_seeksThree : yX5_seeksThree.cls = RX5 ∧ yX5_seeksThree.cls ≠ "java/lang/invoke/MethodHandle" ∧ yX5_seeksThree.cls ≠ "java/lang/invoke/VarHandle" ∧ (parseMethodDescriptor yX5_seeksThree.desc).map (fun d => d.parameters.length) = some 2 := by decide +kernel

/-! seeks -/
def wM_seeks (post : Int32 → MF → MG → Prop) (x1 : Int32) (x2 : Int32) (x3 : Int32) (F : MF) (G : MG) : Prop :=
  ∀ G_1 : MG, G_1 = mu G 21 0 x1 → ∀ F_2 : MF, F_2 = upd F 22 (0 : Int32) → wM_isToCome (fun r_3 => (r_3 = 0 → post (0 : Int32) F_2 G_1) ∧ (¬ r_3 = 0 → wM_canTake (fun r_4 F_5 G_6 => (r_4 = 0 → wM_seeksTwo (fun r_7 F_8 G_9 => (r_7 = 0 → wM_seeksThree (fun r_10 F_11 G_12 => (r_10 = 0 → ∀ F_13 : MF, F_13 = upd F_11 22 (0 : Int32) → post (F_13 22) F_13 G_12) ∧ (¬ r_10 = 0 → ∀ F_14 : MF, F_14 = upd F_11 22 (3 : Int32) → post (F_14 22) F_14 G_12)) x2 x3 F_8 G_9) ∧ (¬ r_7 = 0 → ∀ F_15 : MF, F_15 = upd F_8 22 (2 : Int32) → post (F_15 22) F_15 G_9)) x2 x3 F_5 G_6) ∧ (¬ r_4 = 0 → ∀ F_16 : MF, F_16 = upd F_5 22 (1 : Int32) → post (F_16 22) F_16 G_6)) (1 : Int32) x2 x3 F_2 G_1)) x1 F_2 G_1
set_option maxHeartbeats 4000000 in
theorem kM_seeks (l : Launch) (w : MP) (post : Int32 → MF → MG → Prop) (x1 : Int32) (x2 : Int32) (x3 : Int32) (F : MF) (G : MG) (hw : wM_seeks post x1 x2 x3 F G) : m_Mi l w yX5_seeks cX5_seeks 4 .int 9 [.ref (mp_h w), .int x1, .int x2, .int x3] F G post := by
  refine m_ofWi (by decide) rfl (Nat.le_of_ble_eq_true rfl) (fun _ => True) (fun _ _ => rfl) ?_
  intro p e s m args below meth c Q ls hA hW hQ
  obtain ⟨hE, hT, hl⟩ := hA
  obtain ⟨hx, hb, hml, hown, hts⟩ := id hE
  have hl : lv_has ls 4 [(0, .ref (mp_h w)), (1, .int x1), (2, .int x2), (3, .int x3)] := hl
  unfold wM_seeks at hw
  refine lv_aload_n hx hb dX5_seeks_0 rfl (lv_at hl 0 rfl) ?_
  refine m_get hx hb hown hts hT hW 21 (by decide) (hts _ q2150) rfl (v := .ref (mp_a w 21)) rfl dX5_seeks_1 ?_
  refine lv_iconst (v := (0 : Int32)) hx hb dX5_seeks_4 (by decide) ?_
  refine lv_iload_n hx hb dX5_seeks_5 rfl (lv_at hl 1 rfl) ?_
  refine m_iast hx hb hT hW (k := 21) (j := 0) (by decide) rfl (by unfold vp_in; decide) dX5_seeks_6 (fun G_1 H locs eG_1 hW => ?_)
  have hw := hw G_1 eG_1
  refine lv_aload_n hx hb dX5_seeks_7 rfl (lv_at hl 0 rfl) ?_
  refine lv_iconst (v := (0 : Int32)) hx hb dX5_seeks_8 (by decide) ?_
  refine m_put hx hb hown hts hT hW 22 (by decide) (hts _ q2151) rfl rfl (ty := .int) (x := (0 : Int32)) rfl rfl rfl rfl dX5_seeks_9 (fun F_2 H locs eF_2 hW => ?_)
  have hw := hw F_2 eF_2
  refine lv_aload_n hx hb dX5_seeks_12 rfl (lv_at hl 0 rfl) ?_
  refine lv_iload_n hx hb dX5_seeks_13 rfl (lv_at hl 1 rfl) ?_
  refine m_Vi (rest := []) hE hT hW (kM_isToCome l w _ x1 F_2 G_1 hw) gM_isToCome dM_isToCome ⟨Nat.le_of_ble_eq_true rfl, Nat.le_of_ble_eq_true rfl, Nat.zero_le _, Nat.zero_le _⟩ rfl hl.1 rfl (Nat.le_of_ble_eq_true rfl) dX5_seeks_14 (fun r_3 F9 G9 H locs hw hW => ?_)
  obtain ⟨eF9, eG9, hw⟩ := hw
  rw [eF9, eG9] at hW
  refine lv_if_ne (tgt := 22) hx hb dX5_seeks_17 (by decide) (fun q => ?_) (fun q => ?_)
  · have hw := hw.2 q
    refine lv_aload_n hx hb dX5_seeks_22 rfl (lv_at hl 0 rfl) ?_
    refine lv_aload_n hx hb dX5_seeks_23 rfl (lv_at hl 0 rfl) ?_
    refine lv_iconst (v := (1 : Int32)) hx hb dX5_seeks_24 (by decide) ?_
    refine lv_iload_n hx hb dX5_seeks_25 rfl (lv_at hl 2 rfl) ?_
    refine lv_iload_n hx hb dX5_seeks_26 rfl (lv_at hl 3 rfl) ?_
    refine m_Vi (rest := [.ref (mp_h w)]) hE hT hW (kM_canTake l w _ (1 : Int32) x2 x3 F_2 G_1 hw) gM_canTake dM_canTake ⟨Nat.le_of_ble_eq_true rfl, Nat.le_of_ble_eq_true rfl, Nat.zero_le _, Nat.zero_le _⟩ rfl hl.1 rfl (Nat.le_of_ble_eq_true rfl) dX5_seeks_27 (fun r_4 F_5 G_6 H locs hw hW => ?_)
    refine lv_if_eq (tgt := 37) hx hb dX5_seeks_30 (by decide) (fun q => ?_) (fun q => ?_)
    · have hw := hw.1 q
      refine lv_aload_n hx hb dX5_seeks_37 rfl (lv_at hl 0 rfl) ?_
      refine lv_iload_n hx hb dX5_seeks_38 rfl (lv_at hl 2 rfl) ?_
      refine lv_iload_n hx hb dX5_seeks_39 rfl (lv_at hl 3 rfl) ?_
      refine m_Vi (rest := [.ref (mp_h w)]) hE hT hW (kM_seeksTwo l w _ x2 x3 F_5 G_6 hw) gM_seeksTwo dM_seeksTwo ⟨Nat.le_of_ble_eq_true rfl, Nat.le_of_ble_eq_true rfl, Nat.zero_le _, Nat.zero_le _⟩ rfl hl.1 rfl (Nat.le_of_ble_eq_true rfl) dX5_seeks_40 (fun r_7 F_8 G_9 H locs hw hW => ?_)
      refine lv_if_eq (tgt := 50) hx hb dX5_seeks_43 (by decide) (fun q => ?_) (fun q => ?_)
      · have hw := hw.1 q
        refine lv_aload_n hx hb dX5_seeks_50 rfl (lv_at hl 0 rfl) ?_
        refine lv_iload_n hx hb dX5_seeks_51 rfl (lv_at hl 2 rfl) ?_
        refine lv_iload_n hx hb dX5_seeks_52 rfl (lv_at hl 3 rfl) ?_
        refine m_Vi (rest := [.ref (mp_h w)]) hE hT hW (kM_seeksThree l w _ x2 x3 F_8 G_9 hw) gM_seeksThree dM_seeksThree ⟨Nat.le_of_ble_eq_true rfl, Nat.le_of_ble_eq_true rfl, Nat.zero_le _, Nat.zero_le _⟩ rfl hl.1 rfl (Nat.le_of_ble_eq_true rfl) dX5_seeks_53 (fun r_10 F_11 G_12 H locs hw hW => ?_)
        refine lv_if_eq (tgt := 63) hx hb dX5_seeks_56 (by decide) (fun q => ?_) (fun q => ?_)
        · have hw := hw.1 q
          refine lv_iconst (v := (0 : Int32)) hx hb dX5_seeks_63 (by decide) ?_
          refine m_put hx hb hown hts hT hW 22 (by decide) (hts _ q2151) rfl rfl (ty := .int) (x := (0 : Int32)) rfl rfl rfl rfl dX5_seeks_64 (fun F_13 H locs eF_13 hW => ?_)
          have hw := hw F_13 eF_13
          refine lv_aload_n hx hb dX5_seeks_67 rfl (lv_at hl 0 rfl) ?_
          refine m_get hx hb hown hts hT hW 22 (by decide) (hts _ q2151) rfl (v := .int (F_13 22)) rfl dX5_seeks_68 ?_
          exact hQ _ _ _ _ _ trivial hw hW _ _ dX5_seeks_71
        · have hw := hw.2 q
          refine lv_iconst (v := (3 : Int32)) hx hb dX5_seeks_59 (by decide) ?_
          refine lv_goto (tgt := 64) hx hb dX5_seeks_60 (by decide) ?_
          refine m_put hx hb hown hts hT hW 22 (by decide) (hts _ q2151) rfl rfl (ty := .int) (x := (3 : Int32)) rfl rfl rfl rfl dX5_seeks_64 (fun F_14 H locs eF_14 hW => ?_)
          have hw := hw F_14 eF_14
          refine lv_aload_n hx hb dX5_seeks_67 rfl (lv_at hl 0 rfl) ?_
          refine m_get hx hb hown hts hT hW 22 (by decide) (hts _ q2151) rfl (v := .int (F_14 22)) rfl dX5_seeks_68 ?_
          exact hQ _ _ _ _ _ trivial hw hW _ _ dX5_seeks_71
      · have hw := hw.2 q
        refine lv_iconst (v := (2 : Int32)) hx hb dX5_seeks_46 (by decide) ?_
        refine lv_goto (tgt := 64) hx hb dX5_seeks_47 (by decide) ?_
        refine m_put hx hb hown hts hT hW 22 (by decide) (hts _ q2151) rfl rfl (ty := .int) (x := (2 : Int32)) rfl rfl rfl rfl dX5_seeks_64 (fun F_15 H locs eF_15 hW => ?_)
        have hw := hw F_15 eF_15
        refine lv_aload_n hx hb dX5_seeks_67 rfl (lv_at hl 0 rfl) ?_
        refine m_get hx hb hown hts hT hW 22 (by decide) (hts _ q2151) rfl (v := .int (F_15 22)) rfl dX5_seeks_68 ?_
        exact hQ _ _ _ _ _ trivial hw hW _ _ dX5_seeks_71
    · have hw := hw.2 q
      refine lv_iconst (v := (1 : Int32)) hx hb dX5_seeks_33 (by decide) ?_
      refine lv_goto (tgt := 64) hx hb dX5_seeks_34 (by decide) ?_
      refine m_put hx hb hown hts hT hW 22 (by decide) (hts _ q2151) rfl rfl (ty := .int) (x := (1 : Int32)) rfl rfl rfl rfl dX5_seeks_64 (fun F_16 H locs eF_16 hW => ?_)
      have hw := hw F_16 eF_16
      refine lv_aload_n hx hb dX5_seeks_67 rfl (lv_at hl 0 rfl) ?_
      refine m_get hx hb hown hts hT hW 22 (by decide) (hts _ q2151) rfl (v := .int (F_16 22)) rfl dX5_seeks_68 ?_
      exact hQ _ _ _ _ _ trivial hw hW _ _ dX5_seeks_71
  · have hw := hw.1 q
    refine lv_iconst (v := (0 : Int32)) hx hb dX5_seeks_20 (by decide) ?_
    exact hQ _ _ _ _ _ trivial hw hW _ _ dX5_seeks_21
theorem gM_seeks : GoodIn lw_all (wsV RX5 362 RX5 yX5_seeks (ws_ yX5_seeks cX5_seeks 4 (some .int))) := lw_V q2530 q2532 qs124 q154 q2533
theorem dM_seeks : yX5_seeks.cls = RX5 ∧ yX5_seeks.cls ≠ "java/lang/invoke/MethodHandle" ∧ yX5_seeks.cls ≠ "java/lang/invoke/VarHandle" ∧ (parseMethodDescriptor yX5_seeks.desc).map (fun d => d.parameters.length) = some 3 := by decide +kernel

/-! carries -/
def wM_carries_j69 (post : MF → MG → Prop) (y1 : Int32) (y2 : Int32) (y3 : Int32) (y4 : Int32) (F : MF) (G : MG) : Prop :=
  ((F 22) ≤ (1 : Int32) → wM_puts (fun F_1 G_2 => post F_1 G_2) (G 21 0) y1 y2 F G) ∧ (¬ (F 22) ≤ (1 : Int32) → vp_in ((F 22) - (1 : Int32)) 3 ∧ wM_puts (fun F_3 G_4 => wM_puts (fun F_5 G_6 => post F_5 G_6) (G_4 21 0) y1 y2 F_3 G_4) (G 21 (((F 22) - (1 : Int32)).toNatClampNeg)) y3 y4 F G)
def wM_carries (post : MF → MG → Prop) (x1 : Int32) (x2 : Int32) (F : MF) (G : MG) : Prop :=
  wM_of (fun r_7 => wM_of (fun r_8 => ((F 22) = (3 : Int32) → wM_of (fun r_9 => wM_of (fun r_10 => wM_puts (fun F_11 G_12 => wM_carries_j69 post x1 x2 r_7 r_8 F_11 G_12) (G 21 1) r_9 r_10 F G) (G 21 2) (10 : Int32) F G) (G 21 2) (9 : Int32) F G) ∧ (¬ (F 22) = (3 : Int32) → wM_carries_j69 post x1 x2 r_7 r_8 F G)) (G 21 0) (10 : Int32) F G) (G 21 0) (9 : Int32) F G
set_option maxHeartbeats 4000000 in
theorem kM_carries (l : Launch) (w : MP) (post : MF → MG → Prop) (x1 : Int32) (x2 : Int32) (F : MF) (G : MG) (hw : wM_carries post x1 x2 F G) : m_Mv l w yX5_carries cX5_carries 5 2 [.ref (mp_h w), .int x1, .int x2] F G post := by
  refine m_ofWv (by decide) rfl (Nat.le_of_ble_eq_true rfl) ?_
  intro p e s m args below meth c Q ls hA hW hQ
  obtain ⟨hE, hT, hl⟩ := hA
  obtain ⟨hx, hb, hml, hown, hts⟩ := id hE
  have hl : lv_has ls 5 [(0, .ref (mp_h w)), (1, .int x1), (2, .int x2)] := hl
  have jn69 : ∀ (y1 : Int32) (y2 : Int32) (y3 : Int32) (y4 : Int32) (F : MF) (G : MG) (H : Heap) (locs : List Loc) (ls : Array Slot), lv_has ls 5 [(0, .ref (mp_h w)), (1, .int y1), (2, .int y2), (3, .int y3), (4, .int y4)] → m_W w s.heap F G H locs → wM_carries_j69 post y1 y2 y3 y4 F G → W p l e (mrm 2) s m args below meth c H locs 0 0 Q (F0 m 69 ls []) := by
    intro y1 y2 y3 y4 F G H locs ls hl hW hw
    unfold wM_carries_j69 at hw
    refine lv_aload_n hx hb dX5_carries_69 rfl (lv_at hl 0 rfl) ?_
    refine m_get hx hb hown hts hT hW 22 (by decide) (hts _ q2151) rfl (v := .int (F 22)) rfl dX5_carries_70 ?_
    refine lv_iconst (v := (1 : Int32)) hx hb dX5_carries_73 (by decide) ?_
    refine lv_icmp_le (tgt := 95) hx hb dX5_carries_74 (by decide) (fun q => ?_) (fun q => ?_)
    · have hw := hw.1 q
      refine lv_aload_n hx hb dX5_carries_95 rfl (lv_at hl 0 rfl) ?_
      refine lv_aload_n hx hb dX5_carries_96 rfl (lv_at hl 0 rfl) ?_
      refine m_get hx hb hown hts hT hW 21 (by decide) (hts _ q2150) rfl (v := .ref (mp_a w 21)) rfl dX5_carries_97 ?_
      refine lv_iconst (v := (0 : Int32)) hx hb dX5_carries_100 (by decide) ?_
      refine m_iald hx hb hT hW (k := 21) (j := 0) (by decide) rfl (by unfold vp_in; decide) dX5_carries_101 ?_
      refine lv_iload_n hx hb dX5_carries_102 rfl (lv_at hl 1 rfl) ?_
      refine lv_iload_n hx hb dX5_carries_103 rfl (lv_at hl 2 rfl) ?_
      refine m_Vv (rest := []) hE hT hW (kM_puts l w _ (G 21 0) y1 y2 F G hw) gM_puts dM_puts ⟨Nat.le_of_ble_eq_true rfl, Nat.le_of_ble_eq_true rfl, Nat.zero_le _, Nat.zero_le _⟩ rfl hl.1 rfl (Nat.le_of_ble_eq_true rfl) dX5_carries_104 (fun F_1 G_2 H locs hw hW => ?_)
      exact hQ _ _ _ _ hw hW _ _ dX5_carries_107
    · have hw := hw.2 q
      refine lv_aload_n hx hb dX5_carries_77 rfl (lv_at hl 0 rfl) ?_
      refine lv_aload_n hx hb dX5_carries_78 rfl (lv_at hl 0 rfl) ?_
      refine m_get hx hb hown hts hT hW 21 (by decide) (hts _ q2150) rfl (v := .ref (mp_a w 21)) rfl dX5_carries_79 ?_
      refine lv_aload_n hx hb dX5_carries_82 rfl (lv_at hl 0 rfl) ?_
      refine m_get hx hb hown hts hT hW 22 (by decide) (hts _ q2151) rfl (v := .int (F 22)) rfl dX5_carries_83 ?_
      refine lv_iconst (v := (1 : Int32)) hx hb dX5_carries_86 (by decide) ?_
      refine lv_isub hx hb dX5_carries_87 ?_
      obtain ⟨hi, hw⟩ := hw
      refine m_iald hx hb hT hW (k := 21) (j := (((F 22) - (1 : Int32)).toNatClampNeg)) rfl rfl hi dX5_carries_88 ?_
      refine lv_iload_n hx hb dX5_carries_89 rfl (lv_at hl 3 rfl) ?_
      refine lv_iload hx hb dX5_carries_90 (lv_at hl 4 rfl) ?_
      refine m_Vv (rest := []) hE hT hW (kM_puts l w _ (G 21 (((F 22) - (1 : Int32)).toNatClampNeg)) y3 y4 F G hw) gM_puts dM_puts ⟨Nat.le_of_ble_eq_true rfl, Nat.le_of_ble_eq_true rfl, Nat.zero_le _, Nat.zero_le _⟩ rfl hl.1 rfl (Nat.le_of_ble_eq_true rfl) dX5_carries_92 (fun F_3 G_4 H locs hw hW => ?_)
      refine lv_aload_n hx hb dX5_carries_95 rfl (lv_at hl 0 rfl) ?_
      refine lv_aload_n hx hb dX5_carries_96 rfl (lv_at hl 0 rfl) ?_
      refine m_get hx hb hown hts hT hW 21 (by decide) (hts _ q2150) rfl (v := .ref (mp_a w 21)) rfl dX5_carries_97 ?_
      refine lv_iconst (v := (0 : Int32)) hx hb dX5_carries_100 (by decide) ?_
      refine m_iald hx hb hT hW (k := 21) (j := 0) (by decide) rfl (by unfold vp_in; decide) dX5_carries_101 ?_
      refine lv_iload_n hx hb dX5_carries_102 rfl (lv_at hl 1 rfl) ?_
      refine lv_iload_n hx hb dX5_carries_103 rfl (lv_at hl 2 rfl) ?_
      refine m_Vv (rest := []) hE hT hW (kM_puts l w _ (G_4 21 0) y1 y2 F_3 G_4 hw) gM_puts dM_puts ⟨Nat.le_of_ble_eq_true rfl, Nat.le_of_ble_eq_true rfl, Nat.zero_le _, Nat.zero_le _⟩ rfl hl.1 rfl (Nat.le_of_ble_eq_true rfl) dX5_carries_104 (fun F_5 G_6 H locs hw hW => ?_)
      exact hQ _ _ _ _ hw hW _ _ dX5_carries_107
  unfold wM_carries at hw
  refine lv_aload_n hx hb dX5_carries_0 rfl (lv_at hl 0 rfl) ?_
  refine lv_aload_n hx hb dX5_carries_1 rfl (lv_at hl 0 rfl) ?_
  refine m_get hx hb hown hts hT hW 21 (by decide) (hts _ q2150) rfl (v := .ref (mp_a w 21)) rfl dX5_carries_2 ?_
  refine lv_iconst (v := (0 : Int32)) hx hb dX5_carries_5 (by decide) ?_
  refine m_iald hx hb hT hW (k := 21) (j := 0) (by decide) rfl (by unfold vp_in; decide) dX5_carries_6 ?_
  refine lv_bipush (v := (9 : Int32)) hx hb dX5_carries_7 (by decide) ?_
  refine m_Vi (rest := []) hE hT hW (kM_of l w _ (G 21 0) (9 : Int32) F G hw) gM_of dM_of ⟨Nat.le_of_ble_eq_true rfl, Nat.le_of_ble_eq_true rfl, Nat.zero_le _, Nat.zero_le _⟩ rfl hl.1 rfl (Nat.le_of_ble_eq_true rfl) dX5_carries_9 (fun r_7 F9 G9 H locs hw hW => ?_)
  obtain ⟨eF9, eG9, hw⟩ := hw
  rw [eF9, eG9] at hW
  refine lv_istore_n (lv' := [(3, .int r_7), (0, .ref (mp_h w)), (1, .int x1), (2, .int x2)]) hx hb dX5_carries_12 rfl hl (by decide) rfl (fun ls hl => ?_)
  refine lv_aload_n hx hb dX5_carries_13 rfl (lv_at hl 1 rfl) ?_
  refine lv_aload_n hx hb dX5_carries_14 rfl (lv_at hl 1 rfl) ?_
  refine m_get hx hb hown hts hT hW 21 (by decide) (hts _ q2150) rfl (v := .ref (mp_a w 21)) rfl dX5_carries_15 ?_
  refine lv_iconst (v := (0 : Int32)) hx hb dX5_carries_18 (by decide) ?_
  refine m_iald hx hb hT hW (k := 21) (j := 0) (by decide) rfl (by unfold vp_in; decide) dX5_carries_19 ?_
  refine lv_bipush (v := (10 : Int32)) hx hb dX5_carries_20 (by decide) ?_
  refine m_Vi (rest := []) hE hT hW (kM_of l w _ (G 21 0) (10 : Int32) F G hw) gM_of dM_of ⟨Nat.le_of_ble_eq_true rfl, Nat.le_of_ble_eq_true rfl, Nat.zero_le _, Nat.zero_le _⟩ rfl hl.1 rfl (Nat.le_of_ble_eq_true rfl) dX5_carries_22 (fun r_8 F9 G9 H locs hw hW => ?_)
  obtain ⟨eF9, eG9, hw⟩ := hw
  rw [eF9, eG9] at hW
  refine lv_istore (lv' := [(4, .int r_8), (3, .int r_7), (0, .ref (mp_h w)), (1, .int x1), (2, .int x2)]) hx hb dX5_carries_25 hl (by decide) rfl (fun ls hl => ?_)
  refine lv_aload_n hx hb dX5_carries_27 rfl (lv_at hl 2 rfl) ?_
  refine m_get hx hb hown hts hT hW 22 (by decide) (hts _ q2151) rfl (v := .int (F 22)) rfl dX5_carries_28 ?_
  refine lv_iconst (v := (3 : Int32)) hx hb dX5_carries_31 (by decide) ?_
  refine lv_icmp_ne (tgt := 69) hx hb dX5_carries_32 (by decide) (fun q => ?_) (fun q => ?_)
  · have hw := hw.2 q
    exact jn69 x1 x2 r_7 r_8 F G _ _ _ (lv_sub hl [2, 3, 4, 1, 0] rfl) hW hw
  · have hw := hw.1 q
    refine lv_aload_n hx hb dX5_carries_35 rfl (lv_at hl 2 rfl) ?_
    refine lv_aload_n hx hb dX5_carries_36 rfl (lv_at hl 2 rfl) ?_
    refine m_get hx hb hown hts hT hW 21 (by decide) (hts _ q2150) rfl (v := .ref (mp_a w 21)) rfl dX5_carries_37 ?_
    refine lv_iconst (v := (1 : Int32)) hx hb dX5_carries_40 (by decide) ?_
    refine m_iald hx hb hT hW (k := 21) (j := 1) (by decide) rfl (by unfold vp_in; decide) dX5_carries_41 ?_
    refine lv_aload_n hx hb dX5_carries_42 rfl (lv_at hl 2 rfl) ?_
    refine lv_aload_n hx hb dX5_carries_43 rfl (lv_at hl 2 rfl) ?_
    refine m_get hx hb hown hts hT hW 21 (by decide) (hts _ q2150) rfl (v := .ref (mp_a w 21)) rfl dX5_carries_44 ?_
    refine lv_iconst (v := (2 : Int32)) hx hb dX5_carries_47 (by decide) ?_
    refine m_iald hx hb hT hW (k := 21) (j := 2) (by decide) rfl (by unfold vp_in; decide) dX5_carries_48 ?_
    refine lv_bipush (v := (9 : Int32)) hx hb dX5_carries_49 (by decide) ?_
    refine m_Vi (rest := [.int (G 21 1), .ref (mp_h w)]) hE hT hW (kM_of l w _ (G 21 2) (9 : Int32) F G hw) gM_of dM_of ⟨Nat.le_of_ble_eq_true rfl, Nat.le_of_ble_eq_true rfl, Nat.zero_le _, Nat.zero_le _⟩ rfl hl.1 rfl (Nat.le_of_ble_eq_true rfl) dX5_carries_51 (fun r_9 F9 G9 H locs hw hW => ?_)
    obtain ⟨eF9, eG9, hw⟩ := hw
    rw [eF9, eG9] at hW
    refine lv_aload_n hx hb dX5_carries_54 rfl (lv_at hl 2 rfl) ?_
    refine lv_aload_n hx hb dX5_carries_55 rfl (lv_at hl 2 rfl) ?_
    refine m_get hx hb hown hts hT hW 21 (by decide) (hts _ q2150) rfl (v := .ref (mp_a w 21)) rfl dX5_carries_56 ?_
    refine lv_iconst (v := (2 : Int32)) hx hb dX5_carries_59 (by decide) ?_
    refine m_iald hx hb hT hW (k := 21) (j := 2) (by decide) rfl (by unfold vp_in; decide) dX5_carries_60 ?_
    refine lv_bipush (v := (10 : Int32)) hx hb dX5_carries_61 (by decide) ?_
    refine m_Vi (rest := [.int r_9, .int (G 21 1), .ref (mp_h w)]) hE hT hW (kM_of l w _ (G 21 2) (10 : Int32) F G hw) gM_of dM_of ⟨Nat.le_of_ble_eq_true rfl, Nat.le_of_ble_eq_true rfl, Nat.zero_le _, Nat.zero_le _⟩ rfl hl.1 rfl (Nat.le_of_ble_eq_true rfl) dX5_carries_63 (fun r_10 F9 G9 H locs hw hW => ?_)
    obtain ⟨eF9, eG9, hw⟩ := hw
    rw [eF9, eG9] at hW
    refine m_Vv (rest := []) hE hT hW (kM_puts l w _ (G 21 1) r_9 r_10 F G hw) gM_puts dM_puts ⟨Nat.le_of_ble_eq_true rfl, Nat.le_of_ble_eq_true rfl, Nat.zero_le _, Nat.zero_le _⟩ rfl hl.1 rfl (Nat.le_of_ble_eq_true rfl) dX5_carries_66 (fun F_11 G_12 H locs hw hW => ?_)
    exact jn69 x1 x2 r_7 r_8 F_11 G_12 _ _ _ (lv_sub hl [2, 3, 4, 1, 0] rfl) hW hw
theorem gM_carries : GoodIn lw_all (wsV RX5 365 RX5 yX5_carries (ws_ yX5_carries cX5_carries 5 none)) := lw_V q2546 q2548 qs128 q154 q2549
theorem dM_carries : yX5_carries.cls = RX5 ∧ yX5_carries.cls ≠ "java/lang/invoke/MethodHandle" ∧ yX5_carries.cls ≠ "java/lang/invoke/VarHandle" ∧ (parseMethodDescriptor yX5_carries.desc).map (fun d => d.parameters.length) = some 2 := by decide +kernel

/-! moveByChain -/
def wM_moveByChain (post : Int32 → MF → MG → Prop) (x1 : Int32) (x2 : Int32) (x3 : Int32) (F : MF) (G : MG) : Prop :=
  wM_whyNotBooking (fun r_1 => ∀ F_2 : MF, F_2 = upd F 0 r_1 → ((F_2 0) ≤ 0 → wM_isActive (fun r_3 => (r_3 = 0 → wM_fails (fun r_4 F_5 G_6 => post r_4 F_5 G_6) (3 : Int32) F_2 G) ∧ (¬ r_3 = 0 → wM_seeks (fun r_7 F_8 G_9 => (r_7 = 0 → wM_fails (fun r_14 F_15 G_16 => post r_14 F_15 G_16) (3 : Int32) F_8 G_9) ∧ (¬ r_7 = 0 → wM_remembers (fun F_10 G_11 => wM_carries (fun F_12 G_13 => post (F_12 22) F_12 G_13) x2 x3 F_10 G_11) F_8 G_9)) x1 x2 x3 F_2 G)) x1 F_2 G) ∧ (¬ (F_2 0) ≤ 0 → post (0 : Int32) F_2 G)) x1 x2 x3 F G
set_option maxHeartbeats 4000000 in
theorem kM_moveByChain (l : Launch) (w : MP) (post : Int32 → MF → MG → Prop) (x1 : Int32) (x2 : Int32) (x3 : Int32) (F : MF) (G : MG) (hw : wM_moveByChain post x1 x2 x3 F G) : m_Mi l w yX5_moveByChain cX5_moveByChain 4 .int 10 [.ref (mp_h w), .int x1, .int x2, .int x3] F G post := by
  refine m_ofWi (by decide) rfl (Nat.le_of_ble_eq_true rfl) (fun _ => True) (fun _ _ => rfl) ?_
  intro p e s m args below meth c Q ls hA hW hQ
  obtain ⟨hE, hT, hl⟩ := hA
  obtain ⟨hx, hb, hml, hown, hts⟩ := id hE
  have hl : lv_has ls 4 [(0, .ref (mp_h w)), (1, .int x1), (2, .int x2), (3, .int x3)] := hl
  unfold wM_moveByChain at hw
  refine lv_aload_n hx hb dX5_moveByChain_0 rfl (lv_at hl 0 rfl) ?_
  refine lv_aload_n hx hb dX5_moveByChain_1 rfl (lv_at hl 0 rfl) ?_
  refine lv_iload_n hx hb dX5_moveByChain_2 rfl (lv_at hl 1 rfl) ?_
  refine lv_iload_n hx hb dX5_moveByChain_3 rfl (lv_at hl 2 rfl) ?_
  refine lv_iload_n hx hb dX5_moveByChain_4 rfl (lv_at hl 3 rfl) ?_
  refine m_Vi (rest := [.ref (mp_h w)]) hE hT hW (kM_whyNotBooking l w _ x1 x2 x3 F G hw) gM_whyNotBooking dM_whyNotBooking ⟨Nat.le_of_ble_eq_true rfl, Nat.le_of_ble_eq_true rfl, Nat.zero_le _, Nat.zero_le _⟩ rfl hl.1 rfl (Nat.le_of_ble_eq_true rfl) dX5_moveByChain_5 (fun r_1 F9 G9 H locs hw hW => ?_)
  obtain ⟨eF9, eG9, hw⟩ := hw
  rw [eF9, eG9] at hW
  refine m_put hx hb hown hts hT hW 0 (by decide) (hts _ q2129) rfl rfl (ty := .int) (x := r_1) rfl rfl rfl rfl dX5_moveByChain_8 (fun F_2 H locs eF_2 hW => ?_)
  have hw := hw F_2 eF_2
  refine lv_aload_n hx hb dX5_moveByChain_11 rfl (lv_at hl 0 rfl) ?_
  refine m_get hx hb hown hts hT hW 0 (by decide) (hts _ q2129) rfl (v := .int (F_2 0)) rfl dX5_moveByChain_12 ?_
  refine lv_if_le (tgt := 20) hx hb dX5_moveByChain_15 (by decide) (fun q => ?_) (fun q => ?_)
  · have hw := hw.1 q
    refine lv_aload_n hx hb dX5_moveByChain_20 rfl (lv_at hl 0 rfl) ?_
    refine lv_iload_n hx hb dX5_moveByChain_21 rfl (lv_at hl 1 rfl) ?_
    refine m_Vi (rest := []) hE hT hW (kM_isActive l w _ x1 F_2 G hw) gM_isActive dM_isActive ⟨Nat.le_of_ble_eq_true rfl, Nat.le_of_ble_eq_true rfl, Nat.zero_le _, Nat.zero_le _⟩ rfl hl.1 rfl (Nat.le_of_ble_eq_true rfl) dX5_moveByChain_22 (fun r_3 F9 G9 H locs hw hW => ?_)
    obtain ⟨eF9, eG9, hw⟩ := hw
    rw [eF9, eG9] at hW
    refine lv_if_eq (tgt := 38) hx hb dX5_moveByChain_25 (by decide) (fun q => ?_) (fun q => ?_)
    · have hw := hw.1 q
      refine lv_aload_n hx hb dX5_moveByChain_38 rfl (lv_at hl 0 rfl) ?_
      refine lv_iconst (v := (3 : Int32)) hx hb dX5_moveByChain_39 (by decide) ?_
      refine m_Vi (rest := []) hE hT hW (kM_fails l w _ (3 : Int32) F_2 G hw) gM_fails dM_fails ⟨Nat.le_of_ble_eq_true rfl, Nat.le_of_ble_eq_true rfl, Nat.zero_le _, Nat.zero_le _⟩ rfl hl.1 rfl (Nat.le_of_ble_eq_true rfl) dX5_moveByChain_40 (fun r_4 F_5 G_6 H locs hw hW => ?_)
      exact hQ _ _ _ _ _ trivial hw hW _ _ dX5_moveByChain_43
    · have hw := hw.2 q
      refine lv_aload_n hx hb dX5_moveByChain_28 rfl (lv_at hl 0 rfl) ?_
      refine lv_iload_n hx hb dX5_moveByChain_29 rfl (lv_at hl 1 rfl) ?_
      refine lv_iload_n hx hb dX5_moveByChain_30 rfl (lv_at hl 2 rfl) ?_
      refine lv_iload_n hx hb dX5_moveByChain_31 rfl (lv_at hl 3 rfl) ?_
      refine m_Vi (rest := []) hE hT hW (kM_seeks l w _ x1 x2 x3 F_2 G hw) gM_seeks dM_seeks ⟨Nat.le_of_ble_eq_true rfl, Nat.le_of_ble_eq_true rfl, Nat.zero_le _, Nat.zero_le _⟩ rfl hl.1 rfl (Nat.le_of_ble_eq_true rfl) dX5_moveByChain_32 (fun r_7 F_8 G_9 H locs hw hW => ?_)
      refine lv_if_ne (tgt := 44) hx hb dX5_moveByChain_35 (by decide) (fun q => ?_) (fun q => ?_)
      · have hw := hw.2 q
        refine lv_aload_n hx hb dX5_moveByChain_44 rfl (lv_at hl 0 rfl) ?_
        refine m_Vv (rest := []) hE hT hW (kM_remembers l w _ F_8 G_9 hw) gM_remembers dM_remembers ⟨Nat.le_of_ble_eq_true rfl, Nat.le_of_ble_eq_true rfl, Nat.zero_le _, Nat.zero_le _⟩ rfl hl.1 rfl (Nat.le_of_ble_eq_true rfl) dX5_moveByChain_45 (fun F_10 G_11 H locs hw hW => ?_)
        refine lv_aload_n hx hb dX5_moveByChain_48 rfl (lv_at hl 0 rfl) ?_
        refine lv_iload_n hx hb dX5_moveByChain_49 rfl (lv_at hl 2 rfl) ?_
        refine lv_iload_n hx hb dX5_moveByChain_50 rfl (lv_at hl 3 rfl) ?_
        refine m_Vv (rest := []) hE hT hW (kM_carries l w _ x2 x3 F_10 G_11 hw) gM_carries dM_carries ⟨Nat.le_of_ble_eq_true rfl, Nat.le_of_ble_eq_true rfl, Nat.zero_le _, Nat.zero_le _⟩ rfl hl.1 rfl (Nat.le_of_ble_eq_true rfl) dX5_moveByChain_51 (fun F_12 G_13 H locs hw hW => ?_)
        refine lv_aload_n hx hb dX5_moveByChain_54 rfl (lv_at hl 0 rfl) ?_
        refine m_get hx hb hown hts hT hW 22 (by decide) (hts _ q2151) rfl (v := .int (F_12 22)) rfl dX5_moveByChain_55 ?_
        exact hQ _ _ _ _ _ trivial hw hW _ _ dX5_moveByChain_58
      · have hw := hw.1 q
        refine lv_aload_n hx hb dX5_moveByChain_38 rfl (lv_at hl 0 rfl) ?_
        refine lv_iconst (v := (3 : Int32)) hx hb dX5_moveByChain_39 (by decide) ?_
        refine m_Vi (rest := []) hE hT hW (kM_fails l w _ (3 : Int32) F_8 G_9 hw) gM_fails dM_fails ⟨Nat.le_of_ble_eq_true rfl, Nat.le_of_ble_eq_true rfl, Nat.zero_le _, Nat.zero_le _⟩ rfl hl.1 rfl (Nat.le_of_ble_eq_true rfl) dX5_moveByChain_40 (fun r_14 F_15 G_16 H locs hw hW => ?_)
        exact hQ _ _ _ _ _ trivial hw hW _ _ dX5_moveByChain_43
  · have hw := hw.2 q
    refine lv_iconst (v := (0 : Int32)) hx hb dX5_moveByChain_18 (by decide) ?_
    exact hQ _ _ _ _ _ trivial hw hW _ _ dX5_moveByChain_19

/-! whyNotPair -/
def wM_whyNotPair (post : Int32 → Prop) (x1 : Int32) (x2 : Int32) (F : MF) (G : MG) : Prop :=
  wM_isBooking (fun r_1 => (r_1 = 0 → post (1 : Int32)) ∧ (¬ r_1 = 0 → wM_isBooking (fun r_2 => (r_2 = 0 → post (1 : Int32)) ∧ (¬ r_2 = 0 → (x1 = x2 → post (2 : Int32)) ∧ (¬ x1 = x2 → wM_isActive (fun r_3 => (r_3 = 0 → post (3 : Int32)) ∧ (¬ r_3 = 0 → wM_isActive (fun r_4 => (r_4 = 0 → post (3 : Int32)) ∧ (¬ r_4 = 0 → post (0 : Int32))) x2 F G)) x1 F G))) x2 F G)) x1 F G
set_option maxHeartbeats 4000000 in
theorem kM_whyNotPair (l : Launch) (w : MP) (post : Int32 → Prop) (x1 : Int32) (x2 : Int32) (F : MF) (G : MG) (hw : wM_whyNotPair post x1 x2 F G) : m_Mi l w yX5_whyNotPair cX5_whyNotPair 3 .int 3 [.ref (mp_h w), .int x1, .int x2] F G (fun r F1 G1 => F1 = F ∧ G1 = G ∧ post r) := by
  refine m_ofWi (by decide) rfl (Nat.le_of_ble_eq_true rfl) (fun _ => True) (fun _ _ => rfl) ?_
  intro p e s m args below meth c Q ls hA hW hQ
  obtain ⟨hE, hT, hl⟩ := hA
  obtain ⟨hx, hb, hml, hown, hts⟩ := id hE
  have hl : lv_has ls 3 [(0, .ref (mp_h w)), (1, .int x1), (2, .int x2)] := hl
  unfold wM_whyNotPair at hw
  refine lv_aload_n hx hb dX5_whyNotPair_0 rfl (lv_at hl 0 rfl) ?_
  refine lv_iload_n hx hb dX5_whyNotPair_1 rfl (lv_at hl 1 rfl) ?_
  refine m_Vi (rest := []) hE hT hW (kM_isBooking l w _ x1 F G hw) gM_isBooking dM_isBooking ⟨Nat.le_of_ble_eq_true rfl, Nat.le_of_ble_eq_true rfl, Nat.zero_le _, Nat.zero_le _⟩ rfl hl.1 rfl (Nat.le_of_ble_eq_true rfl) dX5_whyNotPair_2 (fun r_1 F9 G9 H locs hw hW => ?_)
  obtain ⟨eF9, eG9, hw⟩ := hw
  rw [eF9, eG9] at hW
  refine lv_if_eq (tgt := 16) hx hb dX5_whyNotPair_5 (by decide) (fun q => ?_) (fun q => ?_)
  · have hw := hw.1 q
    refine lv_iconst (v := (1 : Int32)) hx hb dX5_whyNotPair_16 (by decide) ?_
    refine lv_goto (tgt := 50) hx hb dX5_whyNotPair_17 (by decide) ?_
    exact hQ _ _ _ _ _ trivial ⟨rfl, rfl, hw⟩ hW _ _ dX5_whyNotPair_50
  · have hw := hw.2 q
    refine lv_aload_n hx hb dX5_whyNotPair_8 rfl (lv_at hl 0 rfl) ?_
    refine lv_iload_n hx hb dX5_whyNotPair_9 rfl (lv_at hl 2 rfl) ?_
    refine m_Vi (rest := []) hE hT hW (kM_isBooking l w _ x2 F G hw) gM_isBooking dM_isBooking ⟨Nat.le_of_ble_eq_true rfl, Nat.le_of_ble_eq_true rfl, Nat.zero_le _, Nat.zero_le _⟩ rfl hl.1 rfl (Nat.le_of_ble_eq_true rfl) dX5_whyNotPair_10 (fun r_2 F9 G9 H locs hw hW => ?_)
    obtain ⟨eF9, eG9, hw⟩ := hw
    rw [eF9, eG9] at hW
    refine lv_if_ne (tgt := 20) hx hb dX5_whyNotPair_13 (by decide) (fun q => ?_) (fun q => ?_)
    · have hw := hw.2 q
      refine lv_iload_n hx hb dX5_whyNotPair_20 rfl (lv_at hl 1 rfl) ?_
      refine lv_iload_n hx hb dX5_whyNotPair_21 rfl (lv_at hl 2 rfl) ?_
      refine lv_icmp_ne (tgt := 29) hx hb dX5_whyNotPair_22 (by decide) (fun q => ?_) (fun q => ?_)
      · have hw := hw.2 q
        refine lv_aload_n hx hb dX5_whyNotPair_29 rfl (lv_at hl 0 rfl) ?_
        refine lv_iload_n hx hb dX5_whyNotPair_30 rfl (lv_at hl 1 rfl) ?_
        refine m_Vi (rest := []) hE hT hW (kM_isActive l w _ x1 F G hw) gM_isActive dM_isActive ⟨Nat.le_of_ble_eq_true rfl, Nat.le_of_ble_eq_true rfl, Nat.zero_le _, Nat.zero_le _⟩ rfl hl.1 rfl (Nat.le_of_ble_eq_true rfl) dX5_whyNotPair_31 (fun r_3 F9 G9 H locs hw hW => ?_)
        obtain ⟨eF9, eG9, hw⟩ := hw
        rw [eF9, eG9] at hW
        refine lv_if_eq (tgt := 45) hx hb dX5_whyNotPair_34 (by decide) (fun q => ?_) (fun q => ?_)
        · have hw := hw.1 q
          refine lv_iconst (v := (3 : Int32)) hx hb dX5_whyNotPair_45 (by decide) ?_
          refine lv_goto (tgt := 50) hx hb dX5_whyNotPair_46 (by decide) ?_
          exact hQ _ _ _ _ _ trivial ⟨rfl, rfl, hw⟩ hW _ _ dX5_whyNotPair_50
        · have hw := hw.2 q
          refine lv_aload_n hx hb dX5_whyNotPair_37 rfl (lv_at hl 0 rfl) ?_
          refine lv_iload_n hx hb dX5_whyNotPair_38 rfl (lv_at hl 2 rfl) ?_
          refine m_Vi (rest := []) hE hT hW (kM_isActive l w _ x2 F G hw) gM_isActive dM_isActive ⟨Nat.le_of_ble_eq_true rfl, Nat.le_of_ble_eq_true rfl, Nat.zero_le _, Nat.zero_le _⟩ rfl hl.1 rfl (Nat.le_of_ble_eq_true rfl) dX5_whyNotPair_39 (fun r_4 F9 G9 H locs hw hW => ?_)
          obtain ⟨eF9, eG9, hw⟩ := hw
          rw [eF9, eG9] at hW
          refine lv_if_ne (tgt := 49) hx hb dX5_whyNotPair_42 (by decide) (fun q => ?_) (fun q => ?_)
          · have hw := hw.2 q
            refine lv_iconst (v := (0 : Int32)) hx hb dX5_whyNotPair_49 (by decide) ?_
            exact hQ _ _ _ _ _ trivial ⟨rfl, rfl, hw⟩ hW _ _ dX5_whyNotPair_50
          · have hw := hw.1 q
            refine lv_iconst (v := (3 : Int32)) hx hb dX5_whyNotPair_45 (by decide) ?_
            refine lv_goto (tgt := 50) hx hb dX5_whyNotPair_46 (by decide) ?_
            exact hQ _ _ _ _ _ trivial ⟨rfl, rfl, hw⟩ hW _ _ dX5_whyNotPair_50
      · have hw := hw.1 q
        refine lv_iconst (v := (2 : Int32)) hx hb dX5_whyNotPair_25 (by decide) ?_
        refine lv_goto (tgt := 50) hx hb dX5_whyNotPair_26 (by decide) ?_
        exact hQ _ _ _ _ _ trivial ⟨rfl, rfl, hw⟩ hW _ _ dX5_whyNotPair_50
    · have hw := hw.1 q
      refine lv_iconst (v := (1 : Int32)) hx hb dX5_whyNotPair_16 (by decide) ?_
      refine lv_goto (tgt := 50) hx hb dX5_whyNotPair_17 (by decide) ?_
      exact hQ _ _ _ _ _ trivial ⟨rfl, rfl, hw⟩ hW _ _ dX5_whyNotPair_50
theorem gM_whyNotPair : GoodIn lw_all (wsV RX5 368 RX5 yX5_whyNotPair (ws_ yX5_whyNotPair cX5_whyNotPair 3 (some .int))) := lw_V q2554 q2556 qs129 q154 q2557
theorem dM_whyNotPair : yX5_whyNotPair.cls = RX5 ∧ yX5_whyNotPair.cls ≠ "java/lang/invoke/MethodHandle" ∧ yX5_whyNotPair.cls ≠ "java/lang/invoke/VarHandle" ∧ (parseMethodDescriptor yX5_whyNotPair.desc).map (fun d => d.parameters.length) = some 2 := by decide +kernel

/-! swapProblemOf -/
def wM_swapProblemOf (post : Int32 → MF → MG → Prop) (x1 : Int32) (x2 : Int32) (F : MF) (G : MG) : Prop :=
  wM_isToCome (fun r_1 => (r_1 = 0 → post (1 : Int32) F G) ∧ (¬ r_1 = 0 → wM_isToCome (fun r_2 => (r_2 = 0 → post (1 : Int32) F G) ∧ (¬ r_2 = 0 → vp_in x2 60 ∧ ∀ G_3 : MG, G_3 = mu G 19 (x2.toNatClampNeg) ((1 : Int32) &&& 1) → wM_of (fun r_4 => wM_of (fun r_5 => wM_bookingProblem (fun r_6 F_7 G_8 => vp_in x2 60 ∧ ∀ G_9 : MG, G_9 = mu G_8 19 (x2.toNatClampNeg) ((0 : Int32) &&& 1) → (r_6 = 0 → wM_of (fun r_10 => wM_of (fun r_11 => wM_of (fun r_12 => wM_of (fun r_13 => wM_puts (fun F_14 G_15 => wM_bookingProblem (fun r_16 F_17 G_18 => wM_puts (fun F_19 G_20 => (r_16 = 0 → post (0 : Int32) F_19 G_20) ∧ (¬ r_16 = 0 → post ((20 : Int32) + r_16) F_19 G_20)) x1 r_10 r_11 F_17 G_18) x2 r_10 r_11 F_14 G_15) x1 r_12 r_13 F_7 G_9) x2 (10 : Int32) F_7 G_9) x2 (9 : Int32) F_7 G_9) x1 (10 : Int32) F_7 G_9) x1 (9 : Int32) F_7 G_9) ∧ (¬ r_6 = 0 → post ((10 : Int32) + r_6) F_7 G_9)) x1 r_4 r_5 F G_3) x2 (10 : Int32) F G_3) x2 (9 : Int32) F G_3)) x2 F G)) x1 F G
set_option maxHeartbeats 4000000 in
theorem kM_swapProblemOf (l : Launch) (w : MP) (post : Int32 → MF → MG → Prop) (x1 : Int32) (x2 : Int32) (F : MF) (G : MG) (hw : wM_swapProblemOf post x1 x2 F G) : m_Mi l w yX5_swapProblemOf cX5_swapProblemOf 7 .int 8 [.ref (mp_h w), .int x1, .int x2] F G post := by
  refine m_ofWi (by decide) rfl (Nat.le_of_ble_eq_true rfl) (fun _ => True) (fun _ _ => rfl) ?_
  intro p e s m args below meth c Q ls hA hW hQ
  obtain ⟨hE, hT, hl⟩ := hA
  obtain ⟨hx, hb, hml, hown, hts⟩ := id hE
  have hl : lv_has ls 7 [(0, .ref (mp_h w)), (1, .int x1), (2, .int x2)] := hl
  unfold wM_swapProblemOf at hw
  refine lv_aload_n hx hb dX5_swapProblemOf_0 rfl (lv_at hl 0 rfl) ?_
  refine lv_iload_n hx hb dX5_swapProblemOf_1 rfl (lv_at hl 1 rfl) ?_
  refine m_Vi (rest := []) hE hT hW (kM_isToCome l w _ x1 F G hw) gM_isToCome dM_isToCome ⟨Nat.le_of_ble_eq_true rfl, Nat.le_of_ble_eq_true rfl, Nat.zero_le _, Nat.zero_le _⟩ rfl hl.1 rfl (Nat.le_of_ble_eq_true rfl) dX5_swapProblemOf_2 (fun r_1 F9 G9 H locs hw hW => ?_)
  obtain ⟨eF9, eG9, hw⟩ := hw
  rw [eF9, eG9] at hW
  refine lv_if_eq (tgt := 16) hx hb dX5_swapProblemOf_5 (by decide) (fun q => ?_) (fun q => ?_)
  · have hw := hw.1 q
    refine lv_iconst (v := (1 : Int32)) hx hb dX5_swapProblemOf_16 (by decide) ?_
    exact hQ _ _ _ _ _ trivial hw hW _ _ dX5_swapProblemOf_17
  · have hw := hw.2 q
    refine lv_aload_n hx hb dX5_swapProblemOf_8 rfl (lv_at hl 0 rfl) ?_
    refine lv_iload_n hx hb dX5_swapProblemOf_9 rfl (lv_at hl 2 rfl) ?_
    refine m_Vi (rest := []) hE hT hW (kM_isToCome l w _ x2 F G hw) gM_isToCome dM_isToCome ⟨Nat.le_of_ble_eq_true rfl, Nat.le_of_ble_eq_true rfl, Nat.zero_le _, Nat.zero_le _⟩ rfl hl.1 rfl (Nat.le_of_ble_eq_true rfl) dX5_swapProblemOf_10 (fun r_2 F9 G9 H locs hw hW => ?_)
    obtain ⟨eF9, eG9, hw⟩ := hw
    rw [eF9, eG9] at hW
    refine lv_if_ne (tgt := 18) hx hb dX5_swapProblemOf_13 (by decide) (fun q => ?_) (fun q => ?_)
    · have hw := hw.2 q
      refine lv_aload_n hx hb dX5_swapProblemOf_18 rfl (lv_at hl 0 rfl) ?_
      refine m_get hx hb hown hts hT hW 19 (by decide) (hts _ q2148) rfl (v := .ref (mp_a w 19)) rfl dX5_swapProblemOf_19 ?_
      refine lv_iload_n hx hb dX5_swapProblemOf_22 rfl (lv_at hl 2 rfl) ?_
      refine lv_iconst (v := (1 : Int32)) hx hb dX5_swapProblemOf_23 (by decide) ?_
      obtain ⟨hi, hw⟩ := hw
      refine m_zast hx hb hT hW (k := 19) (j := (x2.toNatClampNeg)) rfl rfl hi dX5_swapProblemOf_24 (fun G_3 H locs eG_3 hW => ?_)
      have hw := hw G_3 eG_3
      refine lv_aload_n hx hb dX5_swapProblemOf_25 rfl (lv_at hl 0 rfl) ?_
      refine lv_iload_n hx hb dX5_swapProblemOf_26 rfl (lv_at hl 1 rfl) ?_
      refine lv_aload_n hx hb dX5_swapProblemOf_27 rfl (lv_at hl 0 rfl) ?_
      refine lv_iload_n hx hb dX5_swapProblemOf_28 rfl (lv_at hl 2 rfl) ?_
      refine lv_bipush (v := (9 : Int32)) hx hb dX5_swapProblemOf_29 (by decide) ?_
      refine m_Vi (rest := [.int x1, .ref (mp_h w)]) hE hT hW (kM_of l w _ x2 (9 : Int32) F G_3 hw) gM_of dM_of ⟨Nat.le_of_ble_eq_true rfl, Nat.le_of_ble_eq_true rfl, Nat.zero_le _, Nat.zero_le _⟩ rfl hl.1 rfl (Nat.le_of_ble_eq_true rfl) dX5_swapProblemOf_31 (fun r_4 F9 G9 H locs hw hW => ?_)
      obtain ⟨eF9, eG9, hw⟩ := hw
      rw [eF9, eG9] at hW
      refine lv_aload_n hx hb dX5_swapProblemOf_34 rfl (lv_at hl 0 rfl) ?_
      refine lv_iload_n hx hb dX5_swapProblemOf_35 rfl (lv_at hl 2 rfl) ?_
      refine lv_bipush (v := (10 : Int32)) hx hb dX5_swapProblemOf_36 (by decide) ?_
      refine m_Vi (rest := [.int r_4, .int x1, .ref (mp_h w)]) hE hT hW (kM_of l w _ x2 (10 : Int32) F G_3 hw) gM_of dM_of ⟨Nat.le_of_ble_eq_true rfl, Nat.le_of_ble_eq_true rfl, Nat.zero_le _, Nat.zero_le _⟩ rfl hl.1 rfl (Nat.le_of_ble_eq_true rfl) dX5_swapProblemOf_38 (fun r_5 F9 G9 H locs hw hW => ?_)
      obtain ⟨eF9, eG9, hw⟩ := hw
      rw [eF9, eG9] at hW
      refine m_Vi (rest := []) hE hT hW (kM_bookingProblem l w _ x1 r_4 r_5 F G_3 hw) gM_bookingProblem dM_bookingProblem ⟨Nat.le_of_ble_eq_true rfl, Nat.le_of_ble_eq_true rfl, Nat.zero_le _, Nat.zero_le _⟩ rfl hl.1 rfl (Nat.le_of_ble_eq_true rfl) dX5_swapProblemOf_41 (fun r_6 F_7 G_8 H locs hw hW => ?_)
      refine lv_istore_n (lv' := [(3, .int r_6), (0, .ref (mp_h w)), (1, .int x1), (2, .int x2)]) hx hb dX5_swapProblemOf_44 rfl hl (by decide) rfl (fun ls hl => ?_)
      refine lv_aload_n hx hb dX5_swapProblemOf_45 rfl (lv_at hl 1 rfl) ?_
      refine m_get hx hb hown hts hT hW 19 (by decide) (hts _ q2148) rfl (v := .ref (mp_a w 19)) rfl dX5_swapProblemOf_46 ?_
      refine lv_iload_n hx hb dX5_swapProblemOf_49 rfl (lv_at hl 3 rfl) ?_
      refine lv_iconst (v := (0 : Int32)) hx hb dX5_swapProblemOf_50 (by decide) ?_
      obtain ⟨hi, hw⟩ := hw
      refine m_zast hx hb hT hW (k := 19) (j := (x2.toNatClampNeg)) rfl rfl hi dX5_swapProblemOf_51 (fun G_9 H locs eG_9 hW => ?_)
      have hw := hw G_9 eG_9
      refine lv_iload_n hx hb dX5_swapProblemOf_52 rfl (lv_at hl 0 rfl) ?_
      refine lv_if_eq (tgt := 61) hx hb dX5_swapProblemOf_53 (by decide) (fun q => ?_) (fun q => ?_)
      · have hw := hw.1 q
        refine lv_aload_n hx hb dX5_swapProblemOf_61 rfl (lv_at hl 1 rfl) ?_
        refine lv_iload_n hx hb dX5_swapProblemOf_62 rfl (lv_at hl 2 rfl) ?_
        refine lv_bipush (v := (9 : Int32)) hx hb dX5_swapProblemOf_63 (by decide) ?_
        refine m_Vi (rest := []) hE hT hW (kM_of l w _ x1 (9 : Int32) F_7 G_9 hw) gM_of dM_of ⟨Nat.le_of_ble_eq_true rfl, Nat.le_of_ble_eq_true rfl, Nat.zero_le _, Nat.zero_le _⟩ rfl hl.1 rfl (Nat.le_of_ble_eq_true rfl) dX5_swapProblemOf_65 (fun r_10 F9 G9 H locs hw hW => ?_)
        obtain ⟨eF9, eG9, hw⟩ := hw
        rw [eF9, eG9] at hW
        refine lv_istore (lv' := [(4, .int r_10), (3, .int r_6), (0, .ref (mp_h w)), (1, .int x1), (2, .int x2)]) hx hb dX5_swapProblemOf_68 hl (by decide) rfl (fun ls hl => ?_)
        refine lv_aload_n hx hb dX5_swapProblemOf_70 rfl (lv_at hl 2 rfl) ?_
        refine lv_iload_n hx hb dX5_swapProblemOf_71 rfl (lv_at hl 3 rfl) ?_
        refine lv_bipush (v := (10 : Int32)) hx hb dX5_swapProblemOf_72 (by decide) ?_
        refine m_Vi (rest := []) hE hT hW (kM_of l w _ x1 (10 : Int32) F_7 G_9 hw) gM_of dM_of ⟨Nat.le_of_ble_eq_true rfl, Nat.le_of_ble_eq_true rfl, Nat.zero_le _, Nat.zero_le _⟩ rfl hl.1 rfl (Nat.le_of_ble_eq_true rfl) dX5_swapProblemOf_74 (fun r_11 F9 G9 H locs hw hW => ?_)
        obtain ⟨eF9, eG9, hw⟩ := hw
        rw [eF9, eG9] at hW
        refine lv_istore (lv' := [(5, .int r_11), (4, .int r_10), (3, .int r_6), (0, .ref (mp_h w)), (1, .int x1), (2, .int x2)]) hx hb dX5_swapProblemOf_77 hl (by decide) rfl (fun ls hl => ?_)
        refine lv_aload_n hx hb dX5_swapProblemOf_79 rfl (lv_at hl 3 rfl) ?_
        refine lv_iload_n hx hb dX5_swapProblemOf_80 rfl (lv_at hl 4 rfl) ?_
        refine lv_aload_n hx hb dX5_swapProblemOf_81 rfl (lv_at hl 3 rfl) ?_
        refine lv_iload_n hx hb dX5_swapProblemOf_82 rfl (lv_at hl 5 rfl) ?_
        refine lv_bipush (v := (9 : Int32)) hx hb dX5_swapProblemOf_83 (by decide) ?_
        refine m_Vi (rest := [.int x1, .ref (mp_h w)]) hE hT hW (kM_of l w _ x2 (9 : Int32) F_7 G_9 hw) gM_of dM_of ⟨Nat.le_of_ble_eq_true rfl, Nat.le_of_ble_eq_true rfl, Nat.zero_le _, Nat.zero_le _⟩ rfl hl.1 rfl (Nat.le_of_ble_eq_true rfl) dX5_swapProblemOf_85 (fun r_12 F9 G9 H locs hw hW => ?_)
        obtain ⟨eF9, eG9, hw⟩ := hw
        rw [eF9, eG9] at hW
        refine lv_aload_n hx hb dX5_swapProblemOf_88 rfl (lv_at hl 3 rfl) ?_
        refine lv_iload_n hx hb dX5_swapProblemOf_89 rfl (lv_at hl 5 rfl) ?_
        refine lv_bipush (v := (10 : Int32)) hx hb dX5_swapProblemOf_90 (by decide) ?_
        refine m_Vi (rest := [.int r_12, .int x1, .ref (mp_h w)]) hE hT hW (kM_of l w _ x2 (10 : Int32) F_7 G_9 hw) gM_of dM_of ⟨Nat.le_of_ble_eq_true rfl, Nat.le_of_ble_eq_true rfl, Nat.zero_le _, Nat.zero_le _⟩ rfl hl.1 rfl (Nat.le_of_ble_eq_true rfl) dX5_swapProblemOf_92 (fun r_13 F9 G9 H locs hw hW => ?_)
        obtain ⟨eF9, eG9, hw⟩ := hw
        rw [eF9, eG9] at hW
        refine m_Vv (rest := []) hE hT hW (kM_puts l w _ x1 r_12 r_13 F_7 G_9 hw) gM_puts dM_puts ⟨Nat.le_of_ble_eq_true rfl, Nat.le_of_ble_eq_true rfl, Nat.zero_le _, Nat.zero_le _⟩ rfl hl.1 rfl (Nat.le_of_ble_eq_true rfl) dX5_swapProblemOf_95 (fun F_14 G_15 H locs hw hW => ?_)
        refine lv_aload_n hx hb dX5_swapProblemOf_98 rfl (lv_at hl 3 rfl) ?_
        refine lv_iload_n hx hb dX5_swapProblemOf_99 rfl (lv_at hl 5 rfl) ?_
        refine lv_iload hx hb dX5_swapProblemOf_100 (lv_at hl 1 rfl) ?_
        refine lv_iload hx hb dX5_swapProblemOf_102 (lv_at hl 0 rfl) ?_
        refine m_Vi (rest := []) hE hT hW (kM_bookingProblem l w _ x2 r_10 r_11 F_14 G_15 hw) gM_bookingProblem dM_bookingProblem ⟨Nat.le_of_ble_eq_true rfl, Nat.le_of_ble_eq_true rfl, Nat.zero_le _, Nat.zero_le _⟩ rfl hl.1 rfl (Nat.le_of_ble_eq_true rfl) dX5_swapProblemOf_104 (fun r_16 F_17 G_18 H locs hw hW => ?_)
        refine lv_istore (lv' := [(6, .int r_16), (5, .int r_11), (4, .int r_10), (3, .int r_6), (0, .ref (mp_h w)), (1, .int x1), (2, .int x2)]) hx hb dX5_swapProblemOf_107 hl (by decide) rfl (fun ls hl => ?_)
        refine lv_aload_n hx hb dX5_swapProblemOf_109 rfl (lv_at hl 4 rfl) ?_
        refine lv_iload_n hx hb dX5_swapProblemOf_110 rfl (lv_at hl 5 rfl) ?_
        refine lv_iload hx hb dX5_swapProblemOf_111 (lv_at hl 2 rfl) ?_
        refine lv_iload hx hb dX5_swapProblemOf_113 (lv_at hl 1 rfl) ?_
        refine m_Vv (rest := []) hE hT hW (kM_puts l w _ x1 r_10 r_11 F_17 G_18 hw) gM_puts dM_puts ⟨Nat.le_of_ble_eq_true rfl, Nat.le_of_ble_eq_true rfl, Nat.zero_le _, Nat.zero_le _⟩ rfl hl.1 rfl (Nat.le_of_ble_eq_true rfl) dX5_swapProblemOf_115 (fun F_19 G_20 H locs hw hW => ?_)
        refine lv_iload hx hb dX5_swapProblemOf_118 (lv_at hl 0 rfl) ?_
        refine lv_if_ne (tgt := 127) hx hb dX5_swapProblemOf_120 (by decide) (fun q => ?_) (fun q => ?_)
        · have hw := hw.2 q
          refine lv_bipush (v := (20 : Int32)) hx hb dX5_swapProblemOf_127 (by decide) ?_
          refine lv_iload hx hb dX5_swapProblemOf_129 (lv_at hl 0 rfl) ?_
          refine lv_iadd hx hb dX5_swapProblemOf_131 ?_
          exact hQ _ _ _ _ _ trivial hw hW _ _ dX5_swapProblemOf_132
        · have hw := hw.1 q
          refine lv_iconst (v := (0 : Int32)) hx hb dX5_swapProblemOf_123 (by decide) ?_
          refine lv_goto (tgt := 132) hx hb dX5_swapProblemOf_124 (by decide) ?_
          exact hQ _ _ _ _ _ trivial hw hW _ _ dX5_swapProblemOf_132
      · have hw := hw.2 q
        refine lv_bipush (v := (10 : Int32)) hx hb dX5_swapProblemOf_56 (by decide) ?_
        refine lv_iload_n hx hb dX5_swapProblemOf_58 rfl (lv_at hl 0 rfl) ?_
        refine lv_iadd hx hb dX5_swapProblemOf_59 ?_
        exact hQ _ _ _ _ _ trivial hw hW _ _ dX5_swapProblemOf_60
    · have hw := hw.1 q
      refine lv_iconst (v := (1 : Int32)) hx hb dX5_swapProblemOf_16 (by decide) ?_
      exact hQ _ _ _ _ _ trivial hw hW _ _ dX5_swapProblemOf_17
theorem gM_swapProblemOf : GoodIn lw_all (wsV RX5 371 RX5 yX5_swapProblemOf (ws_ yX5_swapProblemOf cX5_swapProblemOf 7 (some .int))) := lw_V q2558 q2560 qs130 q154 q2561
theorem dM_swapProblemOf : yX5_swapProblemOf.cls = RX5 ∧ yX5_swapProblemOf.cls ≠ "java/lang/invoke/MethodHandle" ∧ yX5_swapProblemOf.cls ≠ "java/lang/invoke/VarHandle" ∧ (parseMethodDescriptor yX5_swapProblemOf.desc).map (fun d => d.parameters.length) = some 2 := by decide +kernel

/-! swap -/
def wM_swap (post : Int32 → MF → MG → Prop) (x1 : Int32) (x2 : Int32) (F : MF) (G : MG) : Prop :=
  wM_whyNotPair (fun r_1 => ∀ F_2 : MF, F_2 = upd F 0 r_1 → ((F_2 0) ≤ 0 → wM_swapProblemOf (fun r_3 F_4 G_5 => (r_3 = 0 → wM_remembers (fun F_6 G_7 => wM_of (fun r_8 => wM_of (fun r_9 => wM_of (fun r_10 => wM_of (fun r_11 => wM_puts (fun F_12 G_13 => wM_puts (fun F_14 G_15 => wM_priceNow (fun r_16 => wM_priceNow (fun r_17 => post (r_16 + r_17) F_14 G_15) x2 F_14 G_15) x1 F_14 G_15) x2 r_8 r_9 F_12 G_13) x1 r_10 r_11 F_6 G_7) x2 (10 : Int32) F_6 G_7) x2 (9 : Int32) F_6 G_7) x1 (10 : Int32) F_6 G_7) x1 (9 : Int32) F_6 G_7) F_4 G_5) ∧ (¬ r_3 = 0 → wM_fails (fun r_18 F_19 G_20 => post r_18 F_19 G_20) (3 : Int32) F_4 G_5)) x1 x2 F_2 G) ∧ (¬ (F_2 0) ≤ 0 → post (0 : Int32) F_2 G)) x1 x2 F G
set_option maxHeartbeats 4000000 in
theorem kM_swap (l : Launch) (w : MP) (post : Int32 → MF → MG → Prop) (x1 : Int32) (x2 : Int32) (F : MF) (G : MG) (hw : wM_swap post x1 x2 F G) : m_Mi l w yX5_swap cX5_swap 5 .int 9 [.ref (mp_h w), .int x1, .int x2] F G post := by
  refine m_ofWi (by decide) rfl (Nat.le_of_ble_eq_true rfl) (fun _ => True) (fun _ _ => rfl) ?_
  intro p e s m args below meth c Q ls hA hW hQ
  obtain ⟨hE, hT, hl⟩ := hA
  obtain ⟨hx, hb, hml, hown, hts⟩ := id hE
  have hl : lv_has ls 5 [(0, .ref (mp_h w)), (1, .int x1), (2, .int x2)] := hl
  unfold wM_swap at hw
  refine lv_aload_n hx hb dX5_swap_0 rfl (lv_at hl 0 rfl) ?_
  refine lv_aload_n hx hb dX5_swap_1 rfl (lv_at hl 0 rfl) ?_
  refine lv_iload_n hx hb dX5_swap_2 rfl (lv_at hl 1 rfl) ?_
  refine lv_iload_n hx hb dX5_swap_3 rfl (lv_at hl 2 rfl) ?_
  refine m_Vi (rest := [.ref (mp_h w)]) hE hT hW (kM_whyNotPair l w _ x1 x2 F G hw) gM_whyNotPair dM_whyNotPair ⟨Nat.le_of_ble_eq_true rfl, Nat.le_of_ble_eq_true rfl, Nat.zero_le _, Nat.zero_le _⟩ rfl hl.1 rfl (Nat.le_of_ble_eq_true rfl) dX5_swap_4 (fun r_1 F9 G9 H locs hw hW => ?_)
  obtain ⟨eF9, eG9, hw⟩ := hw
  rw [eF9, eG9] at hW
  refine m_put hx hb hown hts hT hW 0 (by decide) (hts _ q2129) rfl rfl (ty := .int) (x := r_1) rfl rfl rfl rfl dX5_swap_7 (fun F_2 H locs eF_2 hW => ?_)
  have hw := hw F_2 eF_2
  refine lv_aload_n hx hb dX5_swap_10 rfl (lv_at hl 0 rfl) ?_
  refine m_get hx hb hown hts hT hW 0 (by decide) (hts _ q2129) rfl (v := .int (F_2 0)) rfl dX5_swap_11 ?_
  refine lv_if_le (tgt := 19) hx hb dX5_swap_14 (by decide) (fun q => ?_) (fun q => ?_)
  · have hw := hw.1 q
    refine lv_aload_n hx hb dX5_swap_19 rfl (lv_at hl 0 rfl) ?_
    refine lv_iload_n hx hb dX5_swap_20 rfl (lv_at hl 1 rfl) ?_
    refine lv_iload_n hx hb dX5_swap_21 rfl (lv_at hl 2 rfl) ?_
    refine m_Vi (rest := []) hE hT hW (kM_swapProblemOf l w _ x1 x2 F_2 G hw) gM_swapProblemOf dM_swapProblemOf ⟨Nat.le_of_ble_eq_true rfl, Nat.le_of_ble_eq_true rfl, Nat.zero_le _, Nat.zero_le _⟩ rfl hl.1 rfl (Nat.le_of_ble_eq_true rfl) dX5_swap_22 (fun r_3 F_4 G_5 H locs hw hW => ?_)
    refine lv_if_eq (tgt := 34) hx hb dX5_swap_25 (by decide) (fun q => ?_) (fun q => ?_)
    · have hw := hw.1 q
      refine lv_aload_n hx hb dX5_swap_34 rfl (lv_at hl 0 rfl) ?_
      refine m_Vv (rest := []) hE hT hW (kM_remembers l w _ F_4 G_5 hw) gM_remembers dM_remembers ⟨Nat.le_of_ble_eq_true rfl, Nat.le_of_ble_eq_true rfl, Nat.zero_le _, Nat.zero_le _⟩ rfl hl.1 rfl (Nat.le_of_ble_eq_true rfl) dX5_swap_35 (fun F_6 G_7 H locs hw hW => ?_)
      refine lv_aload_n hx hb dX5_swap_38 rfl (lv_at hl 0 rfl) ?_
      refine lv_iload_n hx hb dX5_swap_39 rfl (lv_at hl 1 rfl) ?_
      refine lv_bipush (v := (9 : Int32)) hx hb dX5_swap_40 (by decide) ?_
      refine m_Vi (rest := []) hE hT hW (kM_of l w _ x1 (9 : Int32) F_6 G_7 hw) gM_of dM_of ⟨Nat.le_of_ble_eq_true rfl, Nat.le_of_ble_eq_true rfl, Nat.zero_le _, Nat.zero_le _⟩ rfl hl.1 rfl (Nat.le_of_ble_eq_true rfl) dX5_swap_42 (fun r_8 F9 G9 H locs hw hW => ?_)
      obtain ⟨eF9, eG9, hw⟩ := hw
      rw [eF9, eG9] at hW
      refine lv_istore_n (lv' := [(3, .int r_8), (0, .ref (mp_h w)), (1, .int x1), (2, .int x2)]) hx hb dX5_swap_45 rfl hl (by decide) rfl (fun ls hl => ?_)
      refine lv_aload_n hx hb dX5_swap_46 rfl (lv_at hl 1 rfl) ?_
      refine lv_iload_n hx hb dX5_swap_47 rfl (lv_at hl 2 rfl) ?_
      refine lv_bipush (v := (10 : Int32)) hx hb dX5_swap_48 (by decide) ?_
      refine m_Vi (rest := []) hE hT hW (kM_of l w _ x1 (10 : Int32) F_6 G_7 hw) gM_of dM_of ⟨Nat.le_of_ble_eq_true rfl, Nat.le_of_ble_eq_true rfl, Nat.zero_le _, Nat.zero_le _⟩ rfl hl.1 rfl (Nat.le_of_ble_eq_true rfl) dX5_swap_50 (fun r_9 F9 G9 H locs hw hW => ?_)
      obtain ⟨eF9, eG9, hw⟩ := hw
      rw [eF9, eG9] at hW
      refine lv_istore (lv' := [(4, .int r_9), (3, .int r_8), (0, .ref (mp_h w)), (1, .int x1), (2, .int x2)]) hx hb dX5_swap_53 hl (by decide) rfl (fun ls hl => ?_)
      refine lv_aload_n hx hb dX5_swap_55 rfl (lv_at hl 2 rfl) ?_
      refine lv_iload_n hx hb dX5_swap_56 rfl (lv_at hl 3 rfl) ?_
      refine lv_aload_n hx hb dX5_swap_57 rfl (lv_at hl 2 rfl) ?_
      refine lv_iload_n hx hb dX5_swap_58 rfl (lv_at hl 4 rfl) ?_
      refine lv_bipush (v := (9 : Int32)) hx hb dX5_swap_59 (by decide) ?_
      refine m_Vi (rest := [.int x1, .ref (mp_h w)]) hE hT hW (kM_of l w _ x2 (9 : Int32) F_6 G_7 hw) gM_of dM_of ⟨Nat.le_of_ble_eq_true rfl, Nat.le_of_ble_eq_true rfl, Nat.zero_le _, Nat.zero_le _⟩ rfl hl.1 rfl (Nat.le_of_ble_eq_true rfl) dX5_swap_61 (fun r_10 F9 G9 H locs hw hW => ?_)
      obtain ⟨eF9, eG9, hw⟩ := hw
      rw [eF9, eG9] at hW
      refine lv_aload_n hx hb dX5_swap_64 rfl (lv_at hl 2 rfl) ?_
      refine lv_iload_n hx hb dX5_swap_65 rfl (lv_at hl 4 rfl) ?_
      refine lv_bipush (v := (10 : Int32)) hx hb dX5_swap_66 (by decide) ?_
      refine m_Vi (rest := [.int r_10, .int x1, .ref (mp_h w)]) hE hT hW (kM_of l w _ x2 (10 : Int32) F_6 G_7 hw) gM_of dM_of ⟨Nat.le_of_ble_eq_true rfl, Nat.le_of_ble_eq_true rfl, Nat.zero_le _, Nat.zero_le _⟩ rfl hl.1 rfl (Nat.le_of_ble_eq_true rfl) dX5_swap_68 (fun r_11 F9 G9 H locs hw hW => ?_)
      obtain ⟨eF9, eG9, hw⟩ := hw
      rw [eF9, eG9] at hW
      refine m_Vv (rest := []) hE hT hW (kM_puts l w _ x1 r_10 r_11 F_6 G_7 hw) gM_puts dM_puts ⟨Nat.le_of_ble_eq_true rfl, Nat.le_of_ble_eq_true rfl, Nat.zero_le _, Nat.zero_le _⟩ rfl hl.1 rfl (Nat.le_of_ble_eq_true rfl) dX5_swap_71 (fun F_12 G_13 H locs hw hW => ?_)
      refine lv_aload_n hx hb dX5_swap_74 rfl (lv_at hl 2 rfl) ?_
      refine lv_iload_n hx hb dX5_swap_75 rfl (lv_at hl 4 rfl) ?_
      refine lv_iload_n hx hb dX5_swap_76 rfl (lv_at hl 1 rfl) ?_
      refine lv_iload hx hb dX5_swap_77 (lv_at hl 0 rfl) ?_
      refine m_Vv (rest := []) hE hT hW (kM_puts l w _ x2 r_8 r_9 F_12 G_13 hw) gM_puts dM_puts ⟨Nat.le_of_ble_eq_true rfl, Nat.le_of_ble_eq_true rfl, Nat.zero_le _, Nat.zero_le _⟩ rfl hl.1 rfl (Nat.le_of_ble_eq_true rfl) dX5_swap_79 (fun F_14 G_15 H locs hw hW => ?_)
      refine lv_aload_n hx hb dX5_swap_82 rfl (lv_at hl 2 rfl) ?_
      refine lv_iload_n hx hb dX5_swap_83 rfl (lv_at hl 3 rfl) ?_
      refine m_Vi (rest := []) hE hT hW (kM_priceNow l w _ x1 F_14 G_15 hw) gM_priceNow dM_priceNow ⟨Nat.le_of_ble_eq_true rfl, Nat.le_of_ble_eq_true rfl, Nat.zero_le _, Nat.zero_le _⟩ rfl hl.1 rfl (Nat.le_of_ble_eq_true rfl) dX5_swap_84 (fun r_16 F9 G9 H locs hw hW => ?_)
      obtain ⟨eF9, eG9, hw⟩ := hw
      rw [eF9, eG9] at hW
      refine lv_aload_n hx hb dX5_swap_87 rfl (lv_at hl 2 rfl) ?_
      refine lv_iload_n hx hb dX5_swap_88 rfl (lv_at hl 4 rfl) ?_
      refine m_Vi (rest := [.int r_16]) hE hT hW (kM_priceNow l w _ x2 F_14 G_15 hw) gM_priceNow dM_priceNow ⟨Nat.le_of_ble_eq_true rfl, Nat.le_of_ble_eq_true rfl, Nat.zero_le _, Nat.zero_le _⟩ rfl hl.1 rfl (Nat.le_of_ble_eq_true rfl) dX5_swap_89 (fun r_17 F9 G9 H locs hw hW => ?_)
      obtain ⟨eF9, eG9, hw⟩ := hw
      rw [eF9, eG9] at hW
      refine lv_iadd hx hb dX5_swap_92 ?_
      exact hQ _ _ _ _ _ trivial hw hW _ _ dX5_swap_93
    · have hw := hw.2 q
      refine lv_aload_n hx hb dX5_swap_28 rfl (lv_at hl 0 rfl) ?_
      refine lv_iconst (v := (3 : Int32)) hx hb dX5_swap_29 (by decide) ?_
      refine m_Vi (rest := []) hE hT hW (kM_fails l w _ (3 : Int32) F_4 G_5 hw) gM_fails dM_fails ⟨Nat.le_of_ble_eq_true rfl, Nat.le_of_ble_eq_true rfl, Nat.zero_le _, Nat.zero_le _⟩ rfl hl.1 rfl (Nat.le_of_ble_eq_true rfl) dX5_swap_30 (fun r_18 F_19 G_20 H locs hw hW => ?_)
      exact hQ _ _ _ _ _ trivial hw hW _ _ dX5_swap_33
  · have hw := hw.2 q
    refine lv_iconst (v := (0 : Int32)) hx hb dX5_swap_17 (by decide) ?_
    exact hQ _ _ _ _ _ trivial hw hW _ _ dX5_swap_18

/-! enqueue -/
def wM_enqueue_b71 (post : Int32 → MF → MG → Prop) (K71 : Int32 → Int32 → Int32 → Int32 → MF → MG → Prop) (y1 : Int32) (y2 : Int32) (y3 : Int32) (y4 : Int32) (F : MF) (G : MG) : Prop :=
  ((9 : Int32) ≤ y4 → vp_in (y3 + (9 : Int32)) 1052 ∧ ∀ G_1 : MG, G_1 = mu G 8 ((y3 + (9 : Int32)).toNatClampNeg) y1 → vp_in (y3 + (10 : Int32)) 1052 ∧ ∀ G_2 : MG, G_2 = mu G_1 8 ((y3 + (10 : Int32)).toNatClampNeg) y2 → ∀ G_3 : MG, G_3 = mu G_2 8 2 ((G_2 8 2) + (1 : Int32)) → post (G_3 8 2) F G_3) ∧ (¬ (9 : Int32) ≤ y4 → vp_in y4 9 ∧ vp_in (y3 + y4) 1052 ∧ ∀ G_4 : MG, G_4 = mu G 8 ((y3 + y4).toNatClampNeg) (G 6 (y4.toNatClampNeg)) → K71 y1 y2 y3 (y4 + (1 : Int32)) F G_4)
def wM_enqueue_l71 (post : Int32 → MF → MG → Prop) : Nat → Int32 → Int32 → Int32 → Int32 → MF → MG → Prop
  | 0 => fun _ _ _ _ _ _ => False
  | n + 1 => wM_enqueue_b71 post (wM_enqueue_l71 post n)
def wM_enqueue (post : Int32 → MF → MG → Prop) (x1 : Int32) (x2 : Int32) (F : MF) (G : MG) : Prop :=
  wM_whyNotSlot (fun r_5 => ∀ F_6 : MF, F_6 = upd F 0 r_5 → ((F_6 0) ≤ 0 → ((G 1 1) = 0 → wM_fails (fun r_7 F_8 G_9 => post r_7 F_8 G_9) (3 : Int32) F_6 G) ∧ (¬ (G 1 1) = 0 → ((G 8 2) = (20 : Int32) → wM_fails (fun r_10 F_11 G_12 => post r_10 F_11 G_12) (3 : Int32) F_6 G) ∧ (¬ (G 8 2) = (20 : Int32) → wM_draftProblem (fun r_13 F_14 G_15 => (r_13 = 0 → wM_fails (fun r_20 F_21 G_22 => post r_20 F_21 G_22) (3 : Int32) F_14 G_15) ∧ (¬ r_13 = 0 → wM_remembers (fun F_16 G_17 => wM_requestAt (fun r_18 => ∃ n, wM_enqueue_l71 post n x1 x2 r_18 (0 : Int32) F_16 G_17) (G_17 8 2) F_16 G_17) F_14 G_15)) x1 x2 F_6 G))) ∧ (¬ (F_6 0) ≤ 0 → post (0 : Int32) F_6 G)) x1 x2 F G
set_option maxHeartbeats 4000000 in
theorem kM_enqueue (l : Launch) (w : MP) (post : Int32 → MF → MG → Prop) (x1 : Int32) (x2 : Int32) (F : MF) (G : MG) (hw : wM_enqueue post x1 x2 F G) : m_Mi l w yX5_enqueue cX5_enqueue 5 .int 8 [.ref (mp_h w), .int x1, .int x2] F G post := by
  refine m_ofWi (by decide) rfl (Nat.le_of_ble_eq_true rfl) (fun _ => True) (fun _ _ => rfl) ?_
  intro p e s m args below meth c Q ls hA hW hQ
  obtain ⟨hE, hT, hl⟩ := hA
  obtain ⟨hx, hb, hml, hown, hts⟩ := id hE
  have hl : lv_has ls 5 [(0, .ref (mp_h w)), (1, .int x1), (2, .int x2)] := hl
  have lp71 : ∀ (n71 : Nat) (y1 : Int32) (y2 : Int32) (y3 : Int32) (y4 : Int32) (F : MF) (G : MG) (H : Heap) (locs : List Loc) (ls : Array Slot), lv_has ls 5 [(0, .ref (mp_h w)), (1, .int y1), (2, .int y2), (3, .int y3), (4, .int y4)] → m_W w s.heap F G H locs → wM_enqueue_l71 post n71 y1 y2 y3 y4 F G → W p l e (mrm 8) s m args below meth c H locs 0 0 Q (F0 m 71 ls []) := by
    intro n71
    induction n71 with
    | zero => intro y1 y2 y3 y4 F G H locs ls hl hW hw; exact hw.elim
    | succ n71 ih71 =>
      intro y1 y2 y3 y4 F G H locs ls hl hW hw
      have hw : wM_enqueue_b71 post (wM_enqueue_l71 post n71) y1 y2 y3 y4 F G := hw
      unfold wM_enqueue_b71 at hw
      refine lv_iload hx hb dX5_enqueue_71 (lv_at hl 4 rfl) ?_
      refine lv_bipush (v := (9 : Int32)) hx hb dX5_enqueue_73 (by decide) ?_
      refine lv_icmp_ge (tgt := 100) hx hb dX5_enqueue_75 (by decide) (fun q => ?_) (fun q => ?_)
      · have hw := hw.1 q
        refine lv_aload_n hx hb dX5_enqueue_100 rfl (lv_at hl 0 rfl) ?_
        refine m_get hx hb hown hts hT hW 8 (by decide) (hts _ q2137) rfl (v := .ref (mp_a w 8)) rfl dX5_enqueue_101 ?_
        refine lv_iload_n hx hb dX5_enqueue_104 rfl (lv_at hl 3 rfl) ?_
        refine lv_bipush (v := (9 : Int32)) hx hb dX5_enqueue_105 (by decide) ?_
        refine lv_iadd hx hb dX5_enqueue_107 ?_
        refine lv_iload_n hx hb dX5_enqueue_108 rfl (lv_at hl 1 rfl) ?_
        obtain ⟨hi, hw⟩ := hw
        refine m_iast hx hb hT hW (k := 8) (j := ((y3 + (9 : Int32)).toNatClampNeg)) rfl rfl hi dX5_enqueue_109 (fun G_1 H locs eG_1 hW => ?_)
        have hw := hw G_1 eG_1
        refine lv_aload_n hx hb dX5_enqueue_110 rfl (lv_at hl 0 rfl) ?_
        refine m_get hx hb hown hts hT hW 8 (by decide) (hts _ q2137) rfl (v := .ref (mp_a w 8)) rfl dX5_enqueue_111 ?_
        refine lv_iload_n hx hb dX5_enqueue_114 rfl (lv_at hl 3 rfl) ?_
        refine lv_bipush (v := (10 : Int32)) hx hb dX5_enqueue_115 (by decide) ?_
        refine lv_iadd hx hb dX5_enqueue_117 ?_
        refine lv_iload_n hx hb dX5_enqueue_118 rfl (lv_at hl 2 rfl) ?_
        obtain ⟨hi, hw⟩ := hw
        refine m_iast hx hb hT hW (k := 8) (j := ((y3 + (10 : Int32)).toNatClampNeg)) rfl rfl hi dX5_enqueue_119 (fun G_2 H locs eG_2 hW => ?_)
        have hw := hw G_2 eG_2
        refine lv_aload_n hx hb dX5_enqueue_120 rfl (lv_at hl 0 rfl) ?_
        refine m_get hx hb hown hts hT hW 8 (by decide) (hts _ q2137) rfl (v := .ref (mp_a w 8)) rfl dX5_enqueue_121 ?_
        refine lv_iconst (v := (2 : Int32)) hx hb dX5_enqueue_124 (by decide) ?_
        refine lv_dup2_11 hx hb dX5_enqueue_125 rfl rfl ?_
        refine m_iald hx hb hT hW (k := 8) (j := 2) (by decide) rfl (by unfold vp_in; decide) dX5_enqueue_126 ?_
        refine lv_iconst (v := (1 : Int32)) hx hb dX5_enqueue_127 (by decide) ?_
        refine lv_iadd hx hb dX5_enqueue_128 ?_
        refine m_iast hx hb hT hW (k := 8) (j := 2) (by decide) rfl (by unfold vp_in; decide) dX5_enqueue_129 (fun G_3 H locs eG_3 hW => ?_)
        have hw := hw G_3 eG_3
        refine lv_aload_n hx hb dX5_enqueue_130 rfl (lv_at hl 0 rfl) ?_
        refine m_get hx hb hown hts hT hW 8 (by decide) (hts _ q2137) rfl (v := .ref (mp_a w 8)) rfl dX5_enqueue_131 ?_
        refine lv_iconst (v := (2 : Int32)) hx hb dX5_enqueue_134 (by decide) ?_
        refine m_iald hx hb hT hW (k := 8) (j := 2) (by decide) rfl (by unfold vp_in; decide) dX5_enqueue_135 ?_
        exact hQ _ _ _ _ _ trivial hw hW _ _ dX5_enqueue_136
      · have hw := hw.2 q
        refine lv_aload_n hx hb dX5_enqueue_78 rfl (lv_at hl 0 rfl) ?_
        refine m_get hx hb hown hts hT hW 8 (by decide) (hts _ q2137) rfl (v := .ref (mp_a w 8)) rfl dX5_enqueue_79 ?_
        refine lv_iload_n hx hb dX5_enqueue_82 rfl (lv_at hl 3 rfl) ?_
        refine lv_iload hx hb dX5_enqueue_83 (lv_at hl 4 rfl) ?_
        refine lv_iadd hx hb dX5_enqueue_85 ?_
        refine lv_aload_n hx hb dX5_enqueue_86 rfl (lv_at hl 0 rfl) ?_
        refine m_get hx hb hown hts hT hW 6 (by decide) (hts _ q2135) rfl (v := .ref (mp_a w 6)) rfl dX5_enqueue_87 ?_
        refine lv_iload hx hb dX5_enqueue_90 (lv_at hl 4 rfl) ?_
        obtain ⟨hi, hw⟩ := hw
        refine m_iald hx hb hT hW (k := 6) (j := (y4.toNatClampNeg)) rfl rfl hi dX5_enqueue_92 ?_
        obtain ⟨hi, hw⟩ := hw
        refine m_iast hx hb hT hW (k := 8) (j := ((y3 + y4).toNatClampNeg)) rfl rfl hi dX5_enqueue_93 (fun G_4 H locs eG_4 hW => ?_)
        have hw := hw G_4 eG_4
        refine lv_iinc (v := (y4 + (1 : Int32))) (lv' := [(4, .int (y4 + (1 : Int32))), (0, .ref (mp_h w)), (1, .int y1), (2, .int y2), (3, .int y3)]) hx hb dX5_enqueue_94 hl (k := 4) rfl rfl (by decide) rfl (fun ls hl => ?_)
        refine lv_goto (tgt := 71) hx hb dX5_enqueue_97 (by decide) ?_
        exact ih71 y1 y2 y3 (y4 + (1 : Int32)) F G_4 _ _ _ (lv_sub hl [1, 2, 3, 4, 0] rfl) hW hw
  unfold wM_enqueue at hw
  refine lv_aload_n hx hb dX5_enqueue_0 rfl (lv_at hl 0 rfl) ?_
  refine lv_aload_n hx hb dX5_enqueue_1 rfl (lv_at hl 0 rfl) ?_
  refine lv_iload_n hx hb dX5_enqueue_2 rfl (lv_at hl 1 rfl) ?_
  refine lv_iload_n hx hb dX5_enqueue_3 rfl (lv_at hl 2 rfl) ?_
  refine m_Vi (rest := [.ref (mp_h w)]) hE hT hW (kM_whyNotSlot l w _ x1 x2 F G hw) gM_whyNotSlot dM_whyNotSlot ⟨Nat.le_of_ble_eq_true rfl, Nat.le_of_ble_eq_true rfl, Nat.zero_le _, Nat.zero_le _⟩ rfl hl.1 rfl (Nat.le_of_ble_eq_true rfl) dX5_enqueue_4 (fun r_5 F9 G9 H locs hw hW => ?_)
  obtain ⟨eF9, eG9, hw⟩ := hw
  rw [eF9, eG9] at hW
  refine m_put hx hb hown hts hT hW 0 (by decide) (hts _ q2129) rfl rfl (ty := .int) (x := r_5) rfl rfl rfl rfl dX5_enqueue_7 (fun F_6 H locs eF_6 hW => ?_)
  have hw := hw F_6 eF_6
  refine lv_aload_n hx hb dX5_enqueue_10 rfl (lv_at hl 0 rfl) ?_
  refine m_get hx hb hown hts hT hW 0 (by decide) (hts _ q2129) rfl (v := .int (F_6 0)) rfl dX5_enqueue_11 ?_
  refine lv_if_le (tgt := 19) hx hb dX5_enqueue_14 (by decide) (fun q => ?_) (fun q => ?_)
  · have hw := hw.1 q
    refine lv_aload_n hx hb dX5_enqueue_19 rfl (lv_at hl 0 rfl) ?_
    refine m_get hx hb hown hts hT hW 1 (by decide) (hts _ q2130) rfl (v := .ref (mp_a w 1)) rfl dX5_enqueue_20 ?_
    refine lv_iconst (v := (1 : Int32)) hx hb dX5_enqueue_23 (by decide) ?_
    refine m_iald hx hb hT hW (k := 1) (j := 1) (by decide) rfl (by unfold vp_in; decide) dX5_enqueue_24 ?_
    refine lv_if_eq (tgt := 48) hx hb dX5_enqueue_25 (by decide) (fun q => ?_) (fun q => ?_)
    · have hw := hw.1 q
      refine lv_aload_n hx hb dX5_enqueue_48 rfl (lv_at hl 0 rfl) ?_
      refine lv_iconst (v := (3 : Int32)) hx hb dX5_enqueue_49 (by decide) ?_
      refine m_Vi (rest := []) hE hT hW (kM_fails l w _ (3 : Int32) F_6 G hw) gM_fails dM_fails ⟨Nat.le_of_ble_eq_true rfl, Nat.le_of_ble_eq_true rfl, Nat.zero_le _, Nat.zero_le _⟩ rfl hl.1 rfl (Nat.le_of_ble_eq_true rfl) dX5_enqueue_50 (fun r_7 F_8 G_9 H locs hw hW => ?_)
      exact hQ _ _ _ _ _ trivial hw hW _ _ dX5_enqueue_53
    · have hw := hw.2 q
      refine lv_aload_n hx hb dX5_enqueue_28 rfl (lv_at hl 0 rfl) ?_
      refine m_get hx hb hown hts hT hW 8 (by decide) (hts _ q2137) rfl (v := .ref (mp_a w 8)) rfl dX5_enqueue_29 ?_
      refine lv_iconst (v := (2 : Int32)) hx hb dX5_enqueue_32 (by decide) ?_
      refine m_iald hx hb hT hW (k := 8) (j := 2) (by decide) rfl (by unfold vp_in; decide) dX5_enqueue_33 ?_
      refine lv_bipush (v := (20 : Int32)) hx hb dX5_enqueue_34 (by decide) ?_
      refine lv_icmp_eq (tgt := 48) hx hb dX5_enqueue_36 (by decide) (fun q => ?_) (fun q => ?_)
      · have hw := hw.1 q
        refine lv_aload_n hx hb dX5_enqueue_48 rfl (lv_at hl 0 rfl) ?_
        refine lv_iconst (v := (3 : Int32)) hx hb dX5_enqueue_49 (by decide) ?_
        refine m_Vi (rest := []) hE hT hW (kM_fails l w _ (3 : Int32) F_6 G hw) gM_fails dM_fails ⟨Nat.le_of_ble_eq_true rfl, Nat.le_of_ble_eq_true rfl, Nat.zero_le _, Nat.zero_le _⟩ rfl hl.1 rfl (Nat.le_of_ble_eq_true rfl) dX5_enqueue_50 (fun r_10 F_11 G_12 H locs hw hW => ?_)
        exact hQ _ _ _ _ _ trivial hw hW _ _ dX5_enqueue_53
      · have hw := hw.2 q
        refine lv_aload_n hx hb dX5_enqueue_39 rfl (lv_at hl 0 rfl) ?_
        refine lv_iload_n hx hb dX5_enqueue_40 rfl (lv_at hl 1 rfl) ?_
        refine lv_iload_n hx hb dX5_enqueue_41 rfl (lv_at hl 2 rfl) ?_
        refine m_Vi (rest := []) hE hT hW (kM_draftProblem l w _ x1 x2 F_6 G hw) gM_draftProblem dM_draftProblem ⟨Nat.le_of_ble_eq_true rfl, Nat.le_of_ble_eq_true rfl, Nat.zero_le _, Nat.zero_le _⟩ rfl hl.1 rfl (Nat.le_of_ble_eq_true rfl) dX5_enqueue_42 (fun r_13 F_14 G_15 H locs hw hW => ?_)
        refine lv_if_ne (tgt := 54) hx hb dX5_enqueue_45 (by decide) (fun q => ?_) (fun q => ?_)
        · have hw := hw.2 q
          refine lv_aload_n hx hb dX5_enqueue_54 rfl (lv_at hl 0 rfl) ?_
          refine m_Vv (rest := []) hE hT hW (kM_remembers l w _ F_14 G_15 hw) gM_remembers dM_remembers ⟨Nat.le_of_ble_eq_true rfl, Nat.le_of_ble_eq_true rfl, Nat.zero_le _, Nat.zero_le _⟩ rfl hl.1 rfl (Nat.le_of_ble_eq_true rfl) dX5_enqueue_55 (fun F_16 G_17 H locs hw hW => ?_)
          refine lv_aload_n hx hb dX5_enqueue_58 rfl (lv_at hl 0 rfl) ?_
          refine m_get hx hb hown hts hT hW 8 (by decide) (hts _ q2137) rfl (v := .ref (mp_a w 8)) rfl dX5_enqueue_59 ?_
          refine lv_iconst (v := (2 : Int32)) hx hb dX5_enqueue_62 (by decide) ?_
          refine m_iald hx hb hT hW (k := 8) (j := 2) (by decide) rfl (by unfold vp_in; decide) dX5_enqueue_63 ?_
          refine m_Si (rest := []) hE hT hW (kM_requestAt l w _ (G_17 8 2) F_16 G_17 hw) gM_requestAt dM_requestAt ⟨Nat.le_of_ble_eq_true rfl, Nat.le_of_ble_eq_true rfl, Nat.zero_le _, Nat.zero_le _⟩ rfl hl.1 rfl (Nat.le_of_ble_eq_true rfl) dX5_enqueue_64 (fun r_18 F9 G9 H locs hw hW => ?_)
          obtain ⟨eF9, eG9, hw⟩ := hw
          rw [eF9, eG9] at hW
          refine lv_istore_n (lv' := [(3, .int r_18), (0, .ref (mp_h w)), (1, .int x1), (2, .int x2)]) hx hb dX5_enqueue_67 rfl hl (by decide) rfl (fun ls hl => ?_)
          refine lv_iconst (v := (0 : Int32)) hx hb dX5_enqueue_68 (by decide) ?_
          refine lv_istore (lv' := [(4, .int (0 : Int32)), (3, .int r_18), (0, .ref (mp_h w)), (1, .int x1), (2, .int x2)]) hx hb dX5_enqueue_69 hl (by decide) rfl (fun ls hl => ?_)
          obtain ⟨n_19, hw⟩ := hw
          exact lp71 n_19 x1 x2 r_18 (0 : Int32) F_16 G_17 _ _ _ (lv_sub hl [2, 3, 4, 1, 0] rfl) hW hw
        · have hw := hw.1 q
          refine lv_aload_n hx hb dX5_enqueue_48 rfl (lv_at hl 0 rfl) ?_
          refine lv_iconst (v := (3 : Int32)) hx hb dX5_enqueue_49 (by decide) ?_
          refine m_Vi (rest := []) hE hT hW (kM_fails l w _ (3 : Int32) F_14 G_15 hw) gM_fails dM_fails ⟨Nat.le_of_ble_eq_true rfl, Nat.le_of_ble_eq_true rfl, Nat.zero_le _, Nat.zero_le _⟩ rfl hl.1 rfl (Nat.le_of_ble_eq_true rfl) dX5_enqueue_50 (fun r_20 F_21 G_22 H locs hw hW => ?_)
          exact hQ _ _ _ _ _ trivial hw hW _ _ dX5_enqueue_53
  · have hw := hw.2 q
    refine lv_iconst (v := (0 : Int32)) hx hb dX5_enqueue_17 (by decide) ?_
    exact hQ _ _ _ _ _ trivial hw hW _ _ dX5_enqueue_18

/-! dequeue -/
def wM_dequeue (post : Int32 → MF → MG → Prop) (x1 : Int32) (F : MF) (G : MG) : Prop :=
  ∀ F_1 : MF, F_1 = upd F 0 (0 : Int32) → wM_isIn (fun r_2 => (r_2 = 0 → wM_fails (fun r_7 F_8 G_9 => post r_7 F_8 G_9) (1 : Int32) F_1 G) ∧ (¬ r_2 = 0 → wM_remembers (fun F_3 G_4 => wM_removesRequest (fun F_5 G_6 => post (G_6 8 2) F_5 G_6) x1 F_3 G_4) F_1 G)) ((x1).toInt64) (0 : Int64) (((G 8 2) - (1 : Int32)).toInt64) F_1 G
set_option maxHeartbeats 4000000 in
theorem kM_dequeue (l : Launch) (w : MP) (post : Int32 → MF → MG → Prop) (x1 : Int32) (F : MF) (G : MG) (hw : wM_dequeue post x1 F G) : m_Mi l w yX5_dequeue cX5_dequeue 2 .int 2 [.ref (mp_h w), .int x1] F G post := by
  refine m_ofWi (by decide) rfl (Nat.le_of_ble_eq_true rfl) (fun _ => True) (fun _ _ => rfl) ?_
  intro p e s m args below meth c Q ls hA hW hQ
  obtain ⟨hE, hT, hl⟩ := hA
  obtain ⟨hx, hb, hml, hown, hts⟩ := id hE
  have hl : lv_has ls 2 [(0, .ref (mp_h w)), (1, .int x1)] := hl
  unfold wM_dequeue at hw
  refine lv_aload_n hx hb dX5_dequeue_0 rfl (lv_at hl 0 rfl) ?_
  refine lv_iconst (v := (0 : Int32)) hx hb dX5_dequeue_1 (by decide) ?_
  refine m_put hx hb hown hts hT hW 0 (by decide) (hts _ q2129) rfl rfl (ty := .int) (x := (0 : Int32)) rfl rfl rfl rfl dX5_dequeue_2 (fun F_1 H locs eF_1 hW => ?_)
  have hw := hw F_1 eF_1
  refine lv_iload_n hx hb dX5_dequeue_5 rfl (lv_at hl 1 rfl) ?_
  refine lv_i2l (v := (x1).toInt64) hx hb dX5_dequeue_6 rfl ?_
  refine lv_lconst (v := (0 : Int64)) hx hb dX5_dequeue_7 rfl ?_
  refine lv_aload_n hx hb dX5_dequeue_8 rfl (lv_at hl 0 rfl) ?_
  refine m_get hx hb hown hts hT hW 8 (by decide) (hts _ q2137) rfl (v := .ref (mp_a w 8)) rfl dX5_dequeue_9 ?_
  refine lv_iconst (v := (2 : Int32)) hx hb dX5_dequeue_12 (by decide) ?_
  refine m_iald hx hb hT hW (k := 8) (j := 2) (by decide) rfl (by unfold vp_in; decide) dX5_dequeue_13 ?_
  refine lv_iconst (v := (1 : Int32)) hx hb dX5_dequeue_14 (by decide) ?_
  refine lv_isub hx hb dX5_dequeue_15 ?_
  refine lv_i2l (v := ((G 8 2) - (1 : Int32)).toInt64) hx hb dX5_dequeue_16 rfl ?_
  refine m_Si (rest := []) hE hT hW (kM_isIn l w _ ((x1).toInt64) (0 : Int64) (((G 8 2) - (1 : Int32)).toInt64) F_1 G hw) gM_isIn dM_isIn ⟨Nat.le_of_ble_eq_true rfl, Nat.le_of_ble_eq_true rfl, Nat.zero_le _, Nat.zero_le _⟩ rfl hl.1 rfl (Nat.le_of_ble_eq_true rfl) dX5_dequeue_17 (fun r_2 F9 G9 H locs hw hW => ?_)
  obtain ⟨eF9, eG9, hw⟩ := hw
  rw [eF9, eG9] at hW
  refine lv_if_ne (tgt := 29) hx hb dX5_dequeue_20 (by decide) (fun q => ?_) (fun q => ?_)
  · have hw := hw.2 q
    refine lv_aload_n hx hb dX5_dequeue_29 rfl (lv_at hl 0 rfl) ?_
    refine m_Vv (rest := []) hE hT hW (kM_remembers l w _ F_1 G hw) gM_remembers dM_remembers ⟨Nat.le_of_ble_eq_true rfl, Nat.le_of_ble_eq_true rfl, Nat.zero_le _, Nat.zero_le _⟩ rfl hl.1 rfl (Nat.le_of_ble_eq_true rfl) dX5_dequeue_30 (fun F_3 G_4 H locs hw hW => ?_)
    refine lv_aload_n hx hb dX5_dequeue_33 rfl (lv_at hl 0 rfl) ?_
    refine lv_iload_n hx hb dX5_dequeue_34 rfl (lv_at hl 1 rfl) ?_
    refine m_Vv (rest := []) hE hT hW (kM_removesRequest l w _ x1 F_3 G_4 hw) gM_removesRequest dM_removesRequest ⟨Nat.le_of_ble_eq_true rfl, Nat.le_of_ble_eq_true rfl, Nat.zero_le _, Nat.zero_le _⟩ rfl hl.1 rfl (Nat.le_of_ble_eq_true rfl) dX5_dequeue_35 (fun F_5 G_6 H locs hw hW => ?_)
    refine lv_aload_n hx hb dX5_dequeue_38 rfl (lv_at hl 0 rfl) ?_
    refine m_get hx hb hown hts hT hW 8 (by decide) (hts _ q2137) rfl (v := .ref (mp_a w 8)) rfl dX5_dequeue_39 ?_
    refine lv_iconst (v := (2 : Int32)) hx hb dX5_dequeue_42 (by decide) ?_
    refine m_iald hx hb hT hW (k := 8) (j := 2) (by decide) rfl (by unfold vp_in; decide) dX5_dequeue_43 ?_
    exact hQ _ _ _ _ _ trivial hw hW _ _ dX5_dequeue_44
  · have hw := hw.1 q
    refine lv_aload_n hx hb dX5_dequeue_23 rfl (lv_at hl 0 rfl) ?_
    refine lv_iconst (v := (1 : Int32)) hx hb dX5_dequeue_24 (by decide) ?_
    refine m_Vi (rest := []) hE hT hW (kM_fails l w _ (1 : Int32) F_1 G hw) gM_fails dM_fails ⟨Nat.le_of_ble_eq_true rfl, Nat.le_of_ble_eq_true rfl, Nat.zero_le _, Nat.zero_le _⟩ rfl hl.1 rfl (Nat.le_of_ble_eq_true rfl) dX5_dequeue_25 (fun r_7 F_8 G_9 H locs hw hW => ?_)
    exact hQ _ _ _ _ _ trivial hw hW _ _ dX5_dequeue_28

/-! isBookedIn -/
def wM_isBookedIn_b3 (post : Int32 → Prop) (F : MF) (G : MG) (K3 : Int32 → Int32 → Int32 → Int32 → Prop) (y1 : Int32) (y2 : Int32) (y3 : Int32) (y4 : Int32) : Prop :=
  ((G 8 1) ≤ y4 → post (0 : Int32)) ∧ (¬ (G 8 1) ≤ y4 → wM_isActive (fun r_1 => (r_1 = 0 → K3 y1 y2 y3 (y4 + (1 : Int32))) ∧ (¬ r_1 = 0 → wM_of (fun r_2 => (r_2 = y1 → wM_of (fun r_3 => (y3 ≤ r_3 → K3 y1 y2 y3 (y4 + (1 : Int32))) ∧ (¬ y3 ≤ r_3 → wM_endOf (fun r_4 => (r_4 ≤ y2 → K3 y1 y2 y3 (y4 + (1 : Int32))) ∧ (¬ r_4 ≤ y2 → post (1 : Int32))) y4 F G)) y4 (10 : Int32) F G) ∧ (¬ r_2 = y1 → K3 y1 y2 y3 (y4 + (1 : Int32)))) y4 (9 : Int32) F G)) y4 F G)
def wM_isBookedIn_l3 (post : Int32 → Prop) (F : MF) (G : MG) : Nat → Int32 → Int32 → Int32 → Int32 → Prop
  | 0 => fun _ _ _ _ => False
  | n + 1 => wM_isBookedIn_b3 post F G (wM_isBookedIn_l3 post F G n)
def wM_isBookedIn (post : Int32 → Prop) (x1 : Int32) (x2 : Int32) (x3 : Int32) (F : MF) (G : MG) : Prop :=
  ∃ n, wM_isBookedIn_l3 post F G n x1 x2 x3 (0 : Int32)
set_option maxHeartbeats 4000000 in
theorem kM_isBookedIn (l : Launch) (w : MP) (post : Int32 → Prop) (x1 : Int32) (x2 : Int32) (x3 : Int32) (F : MF) (G : MG) (hw : wM_isBookedIn post x1 x2 x3 F G) : m_Mi l w yX5_isBookedIn cX5_isBookedIn 5 .boolean 3 [.ref (mp_h w), .int x1, .int x2, .int x3] F G (fun r F1 G1 => F1 = F ∧ G1 = G ∧ post r) := by
  refine m_ofWi (by decide) rfl (Nat.le_of_ble_eq_true rfl) (fun r => r = 0 ∨ r = 1) (fun _ h => m_nb h) ?_
  intro p e s m args below meth c Q ls hA hW hQ
  obtain ⟨hE, hT, hl⟩ := hA
  obtain ⟨hx, hb, hml, hown, hts⟩ := id hE
  have hl : lv_has ls 5 [(0, .ref (mp_h w)), (1, .int x1), (2, .int x2), (3, .int x3)] := hl
  have lp3 : ∀ (n3 : Nat) (y1 : Int32) (y2 : Int32) (y3 : Int32) (y4 : Int32) (H : Heap) (locs : List Loc) (ls : Array Slot), lv_has ls 5 [(0, .ref (mp_h w)), (1, .int y1), (2, .int y2), (3, .int y3), (4, .int y4)] → m_W w s.heap F G H locs → wM_isBookedIn_l3 post F G n3 y1 y2 y3 y4 → W p l e (mrm 3) s m args below meth c H locs 0 0 Q (F0 m 3 ls []) := by
    intro n3
    induction n3 with
    | zero => intro y1 y2 y3 y4 H locs ls hl hW hw; exact hw.elim
    | succ n3 ih3 =>
      intro y1 y2 y3 y4 H locs ls hl hW hw
      have hw : wM_isBookedIn_b3 post F G (wM_isBookedIn_l3 post F G n3) y1 y2 y3 y4 := hw
      unfold wM_isBookedIn_b3 at hw
      refine lv_iload hx hb dX5_isBookedIn_3 (lv_at hl 4 rfl) ?_
      refine lv_aload_n hx hb dX5_isBookedIn_5 rfl (lv_at hl 0 rfl) ?_
      refine m_get hx hb hown hts hT hW 8 (by decide) (hts _ q2137) rfl (v := .ref (mp_a w 8)) rfl dX5_isBookedIn_6 ?_
      refine lv_iconst (v := (1 : Int32)) hx hb dX5_isBookedIn_9 (by decide) ?_
      refine m_iald hx hb hT hW (k := 8) (j := 1) (by decide) rfl (by unfold vp_in; decide) dX5_isBookedIn_10 ?_
      refine lv_icmp_ge (tgt := 65) hx hb dX5_isBookedIn_11 (by decide) (fun q => ?_) (fun q => ?_)
      · have hw := hw.1 q
        refine lv_iconst (v := (0 : Int32)) hx hb dX5_isBookedIn_65 (by decide) ?_
        exact hQ _ _ _ _ _ (by decide) ⟨rfl, rfl, hw⟩ hW _ _ dX5_isBookedIn_66
      · have hw := hw.2 q
        refine lv_aload_n hx hb dX5_isBookedIn_14 rfl (lv_at hl 0 rfl) ?_
        refine lv_iload hx hb dX5_isBookedIn_15 (lv_at hl 4 rfl) ?_
        refine m_Vi (rest := []) hE hT hW (kM_isActive l w _ y4 F G hw) gM_isActive dM_isActive ⟨Nat.le_of_ble_eq_true rfl, Nat.le_of_ble_eq_true rfl, Nat.zero_le _, Nat.zero_le _⟩ rfl hl.1 rfl (Nat.le_of_ble_eq_true rfl) dX5_isBookedIn_17 (fun r_1 F9 G9 H locs hw hW => ?_)
        obtain ⟨eF9, eG9, hw⟩ := hw
        rw [eF9, eG9] at hW
        refine lv_if_eq (tgt := 59) hx hb dX5_isBookedIn_20 (by decide) (fun q => ?_) (fun q => ?_)
        · have hw := hw.1 q
          refine lv_iinc (v := (y4 + (1 : Int32))) (lv' := [(4, .int (y4 + (1 : Int32))), (0, .ref (mp_h w)), (1, .int y1), (2, .int y2), (3, .int y3)]) hx hb dX5_isBookedIn_59 hl (k := 4) rfl rfl (by decide) rfl (fun ls hl => ?_)
          refine lv_goto (tgt := 3) hx hb dX5_isBookedIn_62 (by decide) ?_
          exact ih3 y1 y2 y3 (y4 + (1 : Int32)) _ _ _ (lv_sub hl [1, 2, 3, 4, 0] rfl) hW hw
        · have hw := hw.2 q
          refine lv_aload_n hx hb dX5_isBookedIn_23 rfl (lv_at hl 0 rfl) ?_
          refine lv_iload hx hb dX5_isBookedIn_24 (lv_at hl 4 rfl) ?_
          refine lv_bipush (v := (9 : Int32)) hx hb dX5_isBookedIn_26 (by decide) ?_
          refine m_Vi (rest := []) hE hT hW (kM_of l w _ y4 (9 : Int32) F G hw) gM_of dM_of ⟨Nat.le_of_ble_eq_true rfl, Nat.le_of_ble_eq_true rfl, Nat.zero_le _, Nat.zero_le _⟩ rfl hl.1 rfl (Nat.le_of_ble_eq_true rfl) dX5_isBookedIn_28 (fun r_2 F9 G9 H locs hw hW => ?_)
          obtain ⟨eF9, eG9, hw⟩ := hw
          rw [eF9, eG9] at hW
          refine lv_iload_n hx hb dX5_isBookedIn_31 rfl (lv_at hl 1 rfl) ?_
          refine lv_icmp_ne (tgt := 59) hx hb dX5_isBookedIn_32 (by decide) (fun q => ?_) (fun q => ?_)
          · have hw := hw.2 q
            refine lv_iinc (v := (y4 + (1 : Int32))) (lv' := [(4, .int (y4 + (1 : Int32))), (0, .ref (mp_h w)), (1, .int y1), (2, .int y2), (3, .int y3)]) hx hb dX5_isBookedIn_59 hl (k := 4) rfl rfl (by decide) rfl (fun ls hl => ?_)
            refine lv_goto (tgt := 3) hx hb dX5_isBookedIn_62 (by decide) ?_
            exact ih3 y1 y2 y3 (y4 + (1 : Int32)) _ _ _ (lv_sub hl [1, 2, 3, 4, 0] rfl) hW hw
          · have hw := hw.1 q
            refine lv_aload_n hx hb dX5_isBookedIn_35 rfl (lv_at hl 0 rfl) ?_
            refine lv_iload hx hb dX5_isBookedIn_36 (lv_at hl 4 rfl) ?_
            refine lv_bipush (v := (10 : Int32)) hx hb dX5_isBookedIn_38 (by decide) ?_
            refine m_Vi (rest := []) hE hT hW (kM_of l w _ y4 (10 : Int32) F G hw) gM_of dM_of ⟨Nat.le_of_ble_eq_true rfl, Nat.le_of_ble_eq_true rfl, Nat.zero_le _, Nat.zero_le _⟩ rfl hl.1 rfl (Nat.le_of_ble_eq_true rfl) dX5_isBookedIn_40 (fun r_3 F9 G9 H locs hw hW => ?_)
            obtain ⟨eF9, eG9, hw⟩ := hw
            rw [eF9, eG9] at hW
            refine lv_iload_n hx hb dX5_isBookedIn_43 rfl (lv_at hl 3 rfl) ?_
            refine lv_icmp_ge (tgt := 59) hx hb dX5_isBookedIn_44 (by decide) (fun q => ?_) (fun q => ?_)
            · have hw := hw.1 q
              refine lv_iinc (v := (y4 + (1 : Int32))) (lv' := [(4, .int (y4 + (1 : Int32))), (0, .ref (mp_h w)), (1, .int y1), (2, .int y2), (3, .int y3)]) hx hb dX5_isBookedIn_59 hl (k := 4) rfl rfl (by decide) rfl (fun ls hl => ?_)
              refine lv_goto (tgt := 3) hx hb dX5_isBookedIn_62 (by decide) ?_
              exact ih3 y1 y2 y3 (y4 + (1 : Int32)) _ _ _ (lv_sub hl [1, 2, 3, 4, 0] rfl) hW hw
            · have hw := hw.2 q
              refine lv_aload_n hx hb dX5_isBookedIn_47 rfl (lv_at hl 0 rfl) ?_
              refine lv_iload hx hb dX5_isBookedIn_48 (lv_at hl 4 rfl) ?_
              refine m_Vi (rest := []) hE hT hW (kM_endOf l w _ y4 F G hw) gM_endOf dM_endOf ⟨Nat.le_of_ble_eq_true rfl, Nat.le_of_ble_eq_true rfl, Nat.zero_le _, Nat.zero_le _⟩ rfl hl.1 rfl (Nat.le_of_ble_eq_true rfl) dX5_isBookedIn_50 (fun r_4 F9 G9 H locs hw hW => ?_)
              obtain ⟨eF9, eG9, hw⟩ := hw
              rw [eF9, eG9] at hW
              refine lv_iload_n hx hb dX5_isBookedIn_53 rfl (lv_at hl 2 rfl) ?_
              refine lv_icmp_le (tgt := 59) hx hb dX5_isBookedIn_54 (by decide) (fun q => ?_) (fun q => ?_)
              · have hw := hw.1 q
                refine lv_iinc (v := (y4 + (1 : Int32))) (lv' := [(4, .int (y4 + (1 : Int32))), (0, .ref (mp_h w)), (1, .int y1), (2, .int y2), (3, .int y3)]) hx hb dX5_isBookedIn_59 hl (k := 4) rfl rfl (by decide) rfl (fun ls hl => ?_)
                refine lv_goto (tgt := 3) hx hb dX5_isBookedIn_62 (by decide) ?_
                exact ih3 y1 y2 y3 (y4 + (1 : Int32)) _ _ _ (lv_sub hl [1, 2, 3, 4, 0] rfl) hW hw
              · have hw := hw.2 q
                refine lv_iconst (v := (1 : Int32)) hx hb dX5_isBookedIn_57 (by decide) ?_
                exact hQ _ _ _ _ _ (by decide) ⟨rfl, rfl, hw⟩ hW _ _ dX5_isBookedIn_58
  unfold wM_isBookedIn at hw
  refine lv_iconst (v := (0 : Int32)) hx hb dX5_isBookedIn_0 (by decide) ?_
  refine lv_istore (lv' := [(4, .int (0 : Int32)), (0, .ref (mp_h w)), (1, .int x1), (2, .int x2), (3, .int x3)]) hx hb dX5_isBookedIn_1 hl (by decide) rfl (fun ls hl => ?_)
  obtain ⟨n_5, hw⟩ := hw
  exact lp3 n_5 x1 x2 x3 (0 : Int32) _ _ _ (lv_sub hl [1, 2, 3, 4, 0] rfl) hW hw
theorem gM_isBookedIn : GoodIn lw_all (wsV RX5 376 RX5 yX5_isBookedIn (ws_ yX5_isBookedIn cX5_isBookedIn 5 (some .boolean))) := lw_V q2575 q2577 qs131 q154 q2578
theorem dM_isBookedIn : yX5_isBookedIn.cls = RX5 ∧ yX5_isBookedIn.cls ≠ "java/lang/invoke/MethodHandle" ∧ yX5_isBookedIn.cls ≠ "java/lang/invoke/VarHandle" ∧ (parseMethodDescriptor yX5_isBookedIn.desc).map (fun d => d.parameters.length) = some 3 := by decide +kernel

/-! close -/
def wM_close (post : Int32 → MF → MG → Prop) (x1 : Int32) (x2 : Int32) (x3 : Int32) (F : MF) (G : MG) : Prop :=
  ∀ F_1 : MF, F_1 = upd F 0 (0 : Int32) → wM_isHall (fun r_2 => (r_2 = 0 → wM_fails (fun r_28 F_29 G_30 => post r_28 F_29 G_30) (1 : Int32) F_1 G) ∧ (¬ r_2 = 0 → wM_isStart (fun r_3 => (r_3 = 0 → wM_fails (fun r_4 F_5 G_6 => post r_4 F_5 G_6) (2 : Int32) F_1 G) ∧ (¬ r_3 = 0 → wM_isIn (fun r_7 => (r_7 = 0 → wM_fails (fun r_8 F_9 G_10 => post r_8 F_9 G_10) (2 : Int32) F_1 G) ∧ (¬ r_7 = 0 → ((x3 - x3 / (15 : Int32) * (15 : Int32)) = 0 → ((G 8 3) = (16 : Int32) → wM_fails (fun r_11 F_12 G_13 => post r_11 F_12 G_13) (3 : Int32) F_1 G) ∧ (¬ (G 8 3) = (16 : Int32) → wM_isBookedIn (fun r_14 => (r_14 = 0 → wM_remembers (fun F_15 G_16 => ∀ x4_17 : Int32, x4_17 = ((1004 : Int32) + ((3 : Int32) * (G_16 8 3))) → vp_in x4_17 1052 ∧ ∀ G_18 : MG, G_18 = mu G_16 8 (x4_17.toNatClampNeg) x1 → vp_in (x4_17 + (1 : Int32)) 1052 ∧ ∀ G_19 : MG, G_19 = mu G_18 8 ((x4_17 + (1 : Int32)).toNatClampNeg) x2 → vp_in (x4_17 + (2 : Int32)) 1052 ∧ ∀ G_20 : MG, G_20 = mu G_19 8 ((x4_17 + (2 : Int32)).toNatClampNeg) x3 → ∀ G_21 : MG, G_21 = mu G_20 8 3 ((G_20 8 3) + (1 : Int32)) → post (G_21 8 3) F_15 G_21) F_1 G) ∧ (¬ r_14 = 0 → wM_fails (fun r_22 F_23 G_24 => post r_22 F_23 G_24) (3 : Int32) F_1 G)) x1 x2 x3 F_1 G)) ∧ (¬ (x3 - x3 / (15 : Int32) * (15 : Int32)) = 0 → wM_fails (fun r_25 F_26 G_27 => post r_25 F_26 G_27) (2 : Int32) F_1 G))) ((x3).toInt64) ((x2).toInt64 + (1 : Int64)) (86400 : Int64) F_1 G)) x2 F_1 G)) x1 F_1 G
set_option maxHeartbeats 4000000 in
theorem kM_close (l : Launch) (w : MP) (post : Int32 → MF → MG → Prop) (x1 : Int32) (x2 : Int32) (x3 : Int32) (F : MF) (G : MG) (hw : wM_close post x1 x2 x3 F G) : m_Mi l w yX5_close cX5_close 5 .int 4 [.ref (mp_h w), .int x1, .int x2, .int x3] F G post := by
  refine m_ofWi (by decide) rfl (Nat.le_of_ble_eq_true rfl) (fun _ => True) (fun _ _ => rfl) ?_
  intro p e s m args below meth c Q ls hA hW hQ
  obtain ⟨hE, hT, hl⟩ := hA
  obtain ⟨hx, hb, hml, hown, hts⟩ := id hE
  have hl : lv_has ls 5 [(0, .ref (mp_h w)), (1, .int x1), (2, .int x2), (3, .int x3)] := hl
  unfold wM_close at hw
  refine lv_aload_n hx hb dX5_close_0 rfl (lv_at hl 0 rfl) ?_
  refine lv_iconst (v := (0 : Int32)) hx hb dX5_close_1 (by decide) ?_
  refine m_put hx hb hown hts hT hW 0 (by decide) (hts _ q2129) rfl rfl (ty := .int) (x := (0 : Int32)) rfl rfl rfl rfl dX5_close_2 (fun F_1 H locs eF_1 hW => ?_)
  have hw := hw F_1 eF_1
  refine lv_aload_n hx hb dX5_close_5 rfl (lv_at hl 0 rfl) ?_
  refine lv_iload_n hx hb dX5_close_6 rfl (lv_at hl 1 rfl) ?_
  refine m_Vi (rest := []) hE hT hW (kM_isHall l w _ x1 F_1 G hw) gM_isHall dM_isHall ⟨Nat.le_of_ble_eq_true rfl, Nat.le_of_ble_eq_true rfl, Nat.zero_le _, Nat.zero_le _⟩ rfl hl.1 rfl (Nat.le_of_ble_eq_true rfl) dX5_close_7 (fun r_2 F9 G9 H locs hw hW => ?_)
  obtain ⟨eF9, eG9, hw⟩ := hw
  rw [eF9, eG9] at hW
  refine lv_if_ne (tgt := 19) hx hb dX5_close_10 (by decide) (fun q => ?_) (fun q => ?_)
  · have hw := hw.2 q
    refine lv_iload_n hx hb dX5_close_19 rfl (lv_at hl 2 rfl) ?_
    refine m_Si (rest := []) hE hT hW (kM_isStart l w _ x2 F_1 G hw) gM_isStart dM_isStart ⟨Nat.le_of_ble_eq_true rfl, Nat.le_of_ble_eq_true rfl, Nat.zero_le _, Nat.zero_le _⟩ rfl hl.1 rfl (Nat.le_of_ble_eq_true rfl) dX5_close_20 (fun r_3 F9 G9 H locs hw hW => ?_)
    obtain ⟨eF9, eG9, hw⟩ := hw
    rw [eF9, eG9] at hW
    refine lv_if_eq (tgt := 48) hx hb dX5_close_23 (by decide) (fun q => ?_) (fun q => ?_)
    · have hw := hw.1 q
      refine lv_aload_n hx hb dX5_close_48 rfl (lv_at hl 0 rfl) ?_
      refine lv_iconst (v := (2 : Int32)) hx hb dX5_close_49 (by decide) ?_
      refine m_Vi (rest := []) hE hT hW (kM_fails l w _ (2 : Int32) F_1 G hw) gM_fails dM_fails ⟨Nat.le_of_ble_eq_true rfl, Nat.le_of_ble_eq_true rfl, Nat.zero_le _, Nat.zero_le _⟩ rfl hl.1 rfl (Nat.le_of_ble_eq_true rfl) dX5_close_50 (fun r_4 F_5 G_6 H locs hw hW => ?_)
      exact hQ _ _ _ _ _ trivial hw hW _ _ dX5_close_53
    · have hw := hw.2 q
      refine lv_iload_n hx hb dX5_close_26 rfl (lv_at hl 3 rfl) ?_
      refine lv_i2l (v := (x3).toInt64) hx hb dX5_close_27 rfl ?_
      refine lv_iload_n hx hb dX5_close_28 rfl (lv_at hl 2 rfl) ?_
      refine lv_i2l (v := (x2).toInt64) hx hb dX5_close_29 rfl ?_
      refine lv_lconst (v := (1 : Int64)) hx hb dX5_close_30 rfl ?_
      refine lv_ladd hx hb dX5_close_31 ?_
      refine lv_ldc2 hx hb hown (hts _ q2574) dX5_close_32 ?_
      refine m_Si (rest := []) hE hT hW (kM_isIn l w _ ((x3).toInt64) ((x2).toInt64 + (1 : Int64)) (86400 : Int64) F_1 G hw) gM_isIn dM_isIn ⟨Nat.le_of_ble_eq_true rfl, Nat.le_of_ble_eq_true rfl, Nat.zero_le _, Nat.zero_le _⟩ rfl hl.1 rfl (Nat.le_of_ble_eq_true rfl) dX5_close_35 (fun r_7 F9 G9 H locs hw hW => ?_)
      obtain ⟨eF9, eG9, hw⟩ := hw
      rw [eF9, eG9] at hW
      refine lv_if_eq (tgt := 48) hx hb dX5_close_38 (by decide) (fun q => ?_) (fun q => ?_)
      · have hw := hw.1 q
        refine lv_aload_n hx hb dX5_close_48 rfl (lv_at hl 0 rfl) ?_
        refine lv_iconst (v := (2 : Int32)) hx hb dX5_close_49 (by decide) ?_
        refine m_Vi (rest := []) hE hT hW (kM_fails l w _ (2 : Int32) F_1 G hw) gM_fails dM_fails ⟨Nat.le_of_ble_eq_true rfl, Nat.le_of_ble_eq_true rfl, Nat.zero_le _, Nat.zero_le _⟩ rfl hl.1 rfl (Nat.le_of_ble_eq_true rfl) dX5_close_50 (fun r_8 F_9 G_10 H locs hw hW => ?_)
        exact hQ _ _ _ _ _ trivial hw hW _ _ dX5_close_53
      · have hw := hw.2 q
        refine lv_iload_n hx hb dX5_close_41 rfl (lv_at hl 3 rfl) ?_
        refine lv_bipush (v := (15 : Int32)) hx hb dX5_close_42 (by decide) ?_
        refine lv_irem hx hb dX5_close_44 (by decide) ?_
        refine lv_if_eq (tgt := 54) hx hb dX5_close_45 (by decide) (fun q => ?_) (fun q => ?_)
        · have hw := hw.1 q
          refine lv_aload_n hx hb dX5_close_54 rfl (lv_at hl 0 rfl) ?_
          refine m_get hx hb hown hts hT hW 8 (by decide) (hts _ q2137) rfl (v := .ref (mp_a w 8)) rfl dX5_close_55 ?_
          refine lv_iconst (v := (3 : Int32)) hx hb dX5_close_58 (by decide) ?_
          refine m_iald hx hb hT hW (k := 8) (j := 3) (by decide) rfl (by unfold vp_in; decide) dX5_close_59 ?_
          refine lv_bipush (v := (16 : Int32)) hx hb dX5_close_60 (by decide) ?_
          refine lv_icmp_eq (tgt := 75) hx hb dX5_close_62 (by decide) (fun q => ?_) (fun q => ?_)
          · have hw := hw.1 q
            refine lv_aload_n hx hb dX5_close_75 rfl (lv_at hl 0 rfl) ?_
            refine lv_iconst (v := (3 : Int32)) hx hb dX5_close_76 (by decide) ?_
            refine m_Vi (rest := []) hE hT hW (kM_fails l w _ (3 : Int32) F_1 G hw) gM_fails dM_fails ⟨Nat.le_of_ble_eq_true rfl, Nat.le_of_ble_eq_true rfl, Nat.zero_le _, Nat.zero_le _⟩ rfl hl.1 rfl (Nat.le_of_ble_eq_true rfl) dX5_close_77 (fun r_11 F_12 G_13 H locs hw hW => ?_)
            exact hQ _ _ _ _ _ trivial hw hW _ _ dX5_close_80
          · have hw := hw.2 q
            refine lv_aload_n hx hb dX5_close_65 rfl (lv_at hl 0 rfl) ?_
            refine lv_iload_n hx hb dX5_close_66 rfl (lv_at hl 1 rfl) ?_
            refine lv_iload_n hx hb dX5_close_67 rfl (lv_at hl 2 rfl) ?_
            refine lv_iload_n hx hb dX5_close_68 rfl (lv_at hl 3 rfl) ?_
            refine m_Vi (rest := []) hE hT hW (kM_isBookedIn l w _ x1 x2 x3 F_1 G hw) gM_isBookedIn dM_isBookedIn ⟨Nat.le_of_ble_eq_true rfl, Nat.le_of_ble_eq_true rfl, Nat.zero_le _, Nat.zero_le _⟩ rfl hl.1 rfl (Nat.le_of_ble_eq_true rfl) dX5_close_69 (fun r_14 F9 G9 H locs hw hW => ?_)
            obtain ⟨eF9, eG9, hw⟩ := hw
            rw [eF9, eG9] at hW
            refine lv_if_eq (tgt := 81) hx hb dX5_close_72 (by decide) (fun q => ?_) (fun q => ?_)
            · have hw := hw.1 q
              refine lv_aload_n hx hb dX5_close_81 rfl (lv_at hl 0 rfl) ?_
              refine m_Vv (rest := []) hE hT hW (kM_remembers l w _ F_1 G hw) gM_remembers dM_remembers ⟨Nat.le_of_ble_eq_true rfl, Nat.le_of_ble_eq_true rfl, Nat.zero_le _, Nat.zero_le _⟩ rfl hl.1 rfl (Nat.le_of_ble_eq_true rfl) dX5_close_82 (fun F_15 G_16 H locs hw hW => ?_)
              refine lv_sipush (v := (1004 : Int32)) hx hb dX5_close_85 (by decide) ?_
              refine lv_iconst (v := (3 : Int32)) hx hb dX5_close_88 (by decide) ?_
              refine lv_aload_n hx hb dX5_close_89 rfl (lv_at hl 0 rfl) ?_
              refine m_get hx hb hown hts hT hW 8 (by decide) (hts _ q2137) rfl (v := .ref (mp_a w 8)) rfl dX5_close_90 ?_
              refine lv_iconst (v := (3 : Int32)) hx hb dX5_close_93 (by decide) ?_
              refine m_iald hx hb hT hW (k := 8) (j := 3) (by decide) rfl (by unfold vp_in; decide) dX5_close_94 ?_
              refine lv_imul hx hb dX5_close_95 ?_
              refine lv_iadd hx hb dX5_close_96 ?_
              refine lv_topi (fun x4_17 ex4_17 => ?_)
              have hw := hw x4_17 ex4_17
              refine lv_istore (lv' := [(4, .int x4_17), (0, .ref (mp_h w)), (1, .int x1), (2, .int x2), (3, .int x3)]) hx hb dX5_close_97 hl (by decide) rfl (fun ls hl => ?_)
              refine lv_aload_n hx hb dX5_close_99 rfl (lv_at hl 1 rfl) ?_
              refine m_get hx hb hown hts hT hW 8 (by decide) (hts _ q2137) rfl (v := .ref (mp_a w 8)) rfl dX5_close_100 ?_
              refine lv_iload hx hb dX5_close_103 (lv_at hl 0 rfl) ?_
              refine lv_iload_n hx hb dX5_close_105 rfl (lv_at hl 2 rfl) ?_
              obtain ⟨hi, hw⟩ := hw
              refine m_iast hx hb hT hW (k := 8) (j := (x4_17.toNatClampNeg)) rfl rfl hi dX5_close_106 (fun G_18 H locs eG_18 hW => ?_)
              have hw := hw G_18 eG_18
              refine lv_aload_n hx hb dX5_close_107 rfl (lv_at hl 1 rfl) ?_
              refine m_get hx hb hown hts hT hW 8 (by decide) (hts _ q2137) rfl (v := .ref (mp_a w 8)) rfl dX5_close_108 ?_
              refine lv_iload hx hb dX5_close_111 (lv_at hl 0 rfl) ?_
              refine lv_iconst (v := (1 : Int32)) hx hb dX5_close_113 (by decide) ?_
              refine lv_iadd hx hb dX5_close_114 ?_
              refine lv_iload_n hx hb dX5_close_115 rfl (lv_at hl 3 rfl) ?_
              obtain ⟨hi, hw⟩ := hw
              refine m_iast hx hb hT hW (k := 8) (j := ((x4_17 + (1 : Int32)).toNatClampNeg)) rfl rfl hi dX5_close_116 (fun G_19 H locs eG_19 hW => ?_)
              have hw := hw G_19 eG_19
              refine lv_aload_n hx hb dX5_close_117 rfl (lv_at hl 1 rfl) ?_
              refine m_get hx hb hown hts hT hW 8 (by decide) (hts _ q2137) rfl (v := .ref (mp_a w 8)) rfl dX5_close_118 ?_
              refine lv_iload hx hb dX5_close_121 (lv_at hl 0 rfl) ?_
              refine lv_iconst (v := (2 : Int32)) hx hb dX5_close_123 (by decide) ?_
              refine lv_iadd hx hb dX5_close_124 ?_
              refine lv_iload_n hx hb dX5_close_125 rfl (lv_at hl 4 rfl) ?_
              obtain ⟨hi, hw⟩ := hw
              refine m_iast hx hb hT hW (k := 8) (j := ((x4_17 + (2 : Int32)).toNatClampNeg)) rfl rfl hi dX5_close_126 (fun G_20 H locs eG_20 hW => ?_)
              have hw := hw G_20 eG_20
              refine lv_aload_n hx hb dX5_close_127 rfl (lv_at hl 1 rfl) ?_
              refine m_get hx hb hown hts hT hW 8 (by decide) (hts _ q2137) rfl (v := .ref (mp_a w 8)) rfl dX5_close_128 ?_
              refine lv_iconst (v := (3 : Int32)) hx hb dX5_close_131 (by decide) ?_
              refine lv_dup2_11 hx hb dX5_close_132 rfl rfl ?_
              refine m_iald hx hb hT hW (k := 8) (j := 3) (by decide) rfl (by unfold vp_in; decide) dX5_close_133 ?_
              refine lv_iconst (v := (1 : Int32)) hx hb dX5_close_134 (by decide) ?_
              refine lv_iadd hx hb dX5_close_135 ?_
              refine m_iast hx hb hT hW (k := 8) (j := 3) (by decide) rfl (by unfold vp_in; decide) dX5_close_136 (fun G_21 H locs eG_21 hW => ?_)
              have hw := hw G_21 eG_21
              refine lv_aload_n hx hb dX5_close_137 rfl (lv_at hl 1 rfl) ?_
              refine m_get hx hb hown hts hT hW 8 (by decide) (hts _ q2137) rfl (v := .ref (mp_a w 8)) rfl dX5_close_138 ?_
              refine lv_iconst (v := (3 : Int32)) hx hb dX5_close_141 (by decide) ?_
              refine m_iald hx hb hT hW (k := 8) (j := 3) (by decide) rfl (by unfold vp_in; decide) dX5_close_142 ?_
              exact hQ _ _ _ _ _ trivial hw hW _ _ dX5_close_143
            · have hw := hw.2 q
              refine lv_aload_n hx hb dX5_close_75 rfl (lv_at hl 0 rfl) ?_
              refine lv_iconst (v := (3 : Int32)) hx hb dX5_close_76 (by decide) ?_
              refine m_Vi (rest := []) hE hT hW (kM_fails l w _ (3 : Int32) F_1 G hw) gM_fails dM_fails ⟨Nat.le_of_ble_eq_true rfl, Nat.le_of_ble_eq_true rfl, Nat.zero_le _, Nat.zero_le _⟩ rfl hl.1 rfl (Nat.le_of_ble_eq_true rfl) dX5_close_77 (fun r_22 F_23 G_24 H locs hw hW => ?_)
              exact hQ _ _ _ _ _ trivial hw hW _ _ dX5_close_80
        · have hw := hw.2 q
          refine lv_aload_n hx hb dX5_close_48 rfl (lv_at hl 0 rfl) ?_
          refine lv_iconst (v := (2 : Int32)) hx hb dX5_close_49 (by decide) ?_
          refine m_Vi (rest := []) hE hT hW (kM_fails l w _ (2 : Int32) F_1 G hw) gM_fails dM_fails ⟨Nat.le_of_ble_eq_true rfl, Nat.le_of_ble_eq_true rfl, Nat.zero_le _, Nat.zero_le _⟩ rfl hl.1 rfl (Nat.le_of_ble_eq_true rfl) dX5_close_50 (fun r_25 F_26 G_27 H locs hw hW => ?_)
          exact hQ _ _ _ _ _ trivial hw hW _ _ dX5_close_53
  · have hw := hw.1 q
    refine lv_aload_n hx hb dX5_close_13 rfl (lv_at hl 0 rfl) ?_
    refine lv_iconst (v := (1 : Int32)) hx hb dX5_close_14 (by decide) ?_
    refine m_Vi (rest := []) hE hT hW (kM_fails l w _ (1 : Int32) F_1 G hw) gM_fails dM_fails ⟨Nat.le_of_ble_eq_true rfl, Nat.le_of_ble_eq_true rfl, Nat.zero_le _, Nat.zero_le _⟩ rfl hl.1 rfl (Nat.le_of_ble_eq_true rfl) dX5_close_15 (fun r_28 F_29 G_30 H locs hw hW => ?_)
    exact hQ _ _ _ _ _ trivial hw hW _ _ dX5_close_18

/-! advance -/
def wM_advance (post : Int32 → MF → MG → Prop) (x1 : Int32) (F : MF) (G : MG) : Prop :=
  ∀ F_1 : MF, F_1 = upd F 0 (0 : Int32) → wM_isIn (fun r_2 => (r_2 = 0 → wM_fails (fun r_3 F_4 G_5 => post r_3 F_4 G_5) (1 : Int32) F_1 G) ∧ (¬ r_2 = 0 → (((G 8 0) + x1) ≤ (86400 : Int32) → wM_remembers (fun F_6 G_7 => ∀ G_8 : MG, G_8 = mu G_7 8 0 ((G_7 8 0) + x1) → post (G_8 8 0) F_6 G_8) F_1 G) ∧ (¬ ((G 8 0) + x1) ≤ (86400 : Int32) → wM_fails (fun r_9 F_10 G_11 => post r_9 F_10 G_11) (1 : Int32) F_1 G))) ((x1).toInt64) (1 : Int64) (20000 : Int64) F_1 G
set_option maxHeartbeats 4000000 in
theorem kM_advance (l : Launch) (w : MP) (post : Int32 → MF → MG → Prop) (x1 : Int32) (F : MF) (G : MG) (hw : wM_advance post x1 F G) : m_Mi l w yX5_advance cX5_advance 2 .int 1 [.ref (mp_h w), .int x1] F G post := by
  refine m_ofWi (by decide) rfl (Nat.le_of_ble_eq_true rfl) (fun _ => True) (fun _ _ => rfl) ?_
  intro p e s m args below meth c Q ls hA hW hQ
  obtain ⟨hE, hT, hl⟩ := hA
  obtain ⟨hx, hb, hml, hown, hts⟩ := id hE
  have hl : lv_has ls 2 [(0, .ref (mp_h w)), (1, .int x1)] := hl
  unfold wM_advance at hw
  refine lv_aload_n hx hb dX5_advance_0 rfl (lv_at hl 0 rfl) ?_
  refine lv_iconst (v := (0 : Int32)) hx hb dX5_advance_1 (by decide) ?_
  refine m_put hx hb hown hts hT hW 0 (by decide) (hts _ q2129) rfl rfl (ty := .int) (x := (0 : Int32)) rfl rfl rfl rfl dX5_advance_2 (fun F_1 H locs eF_1 hW => ?_)
  have hw := hw F_1 eF_1
  refine lv_iload_n hx hb dX5_advance_5 rfl (lv_at hl 1 rfl) ?_
  refine lv_i2l (v := (x1).toInt64) hx hb dX5_advance_6 rfl ?_
  refine lv_lconst (v := (1 : Int64)) hx hb dX5_advance_7 rfl ?_
  refine lv_ldc2 hx hb hown (hts _ q2583) dX5_advance_8 ?_
  refine m_Si (rest := []) hE hT hW (kM_isIn l w _ ((x1).toInt64) (1 : Int64) (20000 : Int64) F_1 G hw) gM_isIn dM_isIn ⟨Nat.le_of_ble_eq_true rfl, Nat.le_of_ble_eq_true rfl, Nat.zero_le _, Nat.zero_le _⟩ rfl hl.1 rfl (Nat.le_of_ble_eq_true rfl) dX5_advance_11 (fun r_2 F9 G9 H locs hw hW => ?_)
  obtain ⟨eF9, eG9, hw⟩ := hw
  rw [eF9, eG9] at hW
  refine lv_if_eq (tgt := 30) hx hb dX5_advance_14 (by decide) (fun q => ?_) (fun q => ?_)
  · have hw := hw.1 q
    refine lv_aload_n hx hb dX5_advance_30 rfl (lv_at hl 0 rfl) ?_
    refine lv_iconst (v := (1 : Int32)) hx hb dX5_advance_31 (by decide) ?_
    refine m_Vi (rest := []) hE hT hW (kM_fails l w _ (1 : Int32) F_1 G hw) gM_fails dM_fails ⟨Nat.le_of_ble_eq_true rfl, Nat.le_of_ble_eq_true rfl, Nat.zero_le _, Nat.zero_le _⟩ rfl hl.1 rfl (Nat.le_of_ble_eq_true rfl) dX5_advance_32 (fun r_3 F_4 G_5 H locs hw hW => ?_)
    exact hQ _ _ _ _ _ trivial hw hW _ _ dX5_advance_35
  · have hw := hw.2 q
    refine lv_aload_n hx hb dX5_advance_17 rfl (lv_at hl 0 rfl) ?_
    refine m_get hx hb hown hts hT hW 8 (by decide) (hts _ q2137) rfl (v := .ref (mp_a w 8)) rfl dX5_advance_18 ?_
    refine lv_iconst (v := (0 : Int32)) hx hb dX5_advance_21 (by decide) ?_
    refine m_iald hx hb hT hW (k := 8) (j := 0) (by decide) rfl (by unfold vp_in; decide) dX5_advance_22 ?_
    refine lv_iload_n hx hb dX5_advance_23 rfl (lv_at hl 1 rfl) ?_
    refine lv_iadd hx hb dX5_advance_24 ?_
    refine lv_ldc hx hb hown (hts _ q2350) dX5_advance_25 ?_
    refine lv_icmp_le (tgt := 36) hx hb dX5_advance_27 (by decide) (fun q => ?_) (fun q => ?_)
    · have hw := hw.1 q
      refine lv_aload_n hx hb dX5_advance_36 rfl (lv_at hl 0 rfl) ?_
      refine m_Vv (rest := []) hE hT hW (kM_remembers l w _ F_1 G hw) gM_remembers dM_remembers ⟨Nat.le_of_ble_eq_true rfl, Nat.le_of_ble_eq_true rfl, Nat.zero_le _, Nat.zero_le _⟩ rfl hl.1 rfl (Nat.le_of_ble_eq_true rfl) dX5_advance_37 (fun F_6 G_7 H locs hw hW => ?_)
      refine lv_aload_n hx hb dX5_advance_40 rfl (lv_at hl 0 rfl) ?_
      refine m_get hx hb hown hts hT hW 8 (by decide) (hts _ q2137) rfl (v := .ref (mp_a w 8)) rfl dX5_advance_41 ?_
      refine lv_iconst (v := (0 : Int32)) hx hb dX5_advance_44 (by decide) ?_
      refine lv_dup2_11 hx hb dX5_advance_45 rfl rfl ?_
      refine m_iald hx hb hT hW (k := 8) (j := 0) (by decide) rfl (by unfold vp_in; decide) dX5_advance_46 ?_
      refine lv_iload_n hx hb dX5_advance_47 rfl (lv_at hl 1 rfl) ?_
      refine lv_iadd hx hb dX5_advance_48 ?_
      refine m_iast hx hb hT hW (k := 8) (j := 0) (by decide) rfl (by unfold vp_in; decide) dX5_advance_49 (fun G_8 H locs eG_8 hW => ?_)
      have hw := hw G_8 eG_8
      refine lv_aload_n hx hb dX5_advance_50 rfl (lv_at hl 0 rfl) ?_
      refine m_get hx hb hown hts hT hW 8 (by decide) (hts _ q2137) rfl (v := .ref (mp_a w 8)) rfl dX5_advance_51 ?_
      refine lv_iconst (v := (0 : Int32)) hx hb dX5_advance_54 (by decide) ?_
      refine m_iald hx hb hT hW (k := 8) (j := 0) (by decide) rfl (by unfold vp_in; decide) dX5_advance_55 ?_
      exact hQ _ _ _ _ _ trivial hw hW _ _ dX5_advance_56
    · have hw := hw.2 q
      refine lv_aload_n hx hb dX5_advance_30 rfl (lv_at hl 0 rfl) ?_
      refine lv_iconst (v := (1 : Int32)) hx hb dX5_advance_31 (by decide) ?_
      refine m_Vi (rest := []) hE hT hW (kM_fails l w _ (1 : Int32) F_1 G hw) gM_fails dM_fails ⟨Nat.le_of_ble_eq_true rfl, Nat.le_of_ble_eq_true rfl, Nat.zero_le _, Nat.zero_le _⟩ rfl hl.1 rfl (Nat.le_of_ble_eq_true rfl) dX5_advance_32 (fun r_9 F_10 G_11 H locs hw hW => ?_)
      exact hQ _ _ _ _ _ trivial hw hW _ _ dX5_advance_35

/-! setup -/
def wM_setup (post : Int32 → MF → MG → Prop) (x1 : Int32) (F : MF) (G : MG) : Prop :=
  ∀ F_1 : MF, F_1 = upd F 0 (0 : Int32) → (x1 = (0 : Int32) → post (G 1 0) F_1 G) ∧ (¬ x1 = (0 : Int32) → (x1 = (1 : Int32) → post (G 1 1) F_1 G) ∧ (¬ x1 = (1 : Int32) → (x1 = (2 : Int32) → post (G 1 2) F_1 G) ∧ (¬ x1 = (2 : Int32) → (x1 = (3 : Int32) → post (G 8 3) F_1 G) ∧ (¬ x1 = (3 : Int32) → (x1 = (4 : Int32) → post (G 1 3) F_1 G) ∧ (¬ x1 = (4 : Int32) → (x1 = (5 : Int32) → post (G 1 4) F_1 G) ∧ (¬ x1 = (5 : Int32) → (x1 = (6 : Int32) → post (G 1 5) F_1 G) ∧ (¬ x1 = (6 : Int32) → wM_fails (fun r_2 F_3 G_4 => post r_2 F_3 G_4) (1 : Int32) F_1 G)))))))
set_option maxHeartbeats 4000000 in
theorem kM_setup (l : Launch) (w : MP) (post : Int32 → MF → MG → Prop) (x1 : Int32) (F : MF) (G : MG) (hw : wM_setup post x1 F G) : m_Mi l w yX5_setup cX5_setup 2 .int 1 [.ref (mp_h w), .int x1] F G post := by
  refine m_ofWi (by decide) rfl (Nat.le_of_ble_eq_true rfl) (fun _ => True) (fun _ _ => rfl) ?_
  intro p e s m args below meth c Q ls hA hW hQ
  obtain ⟨hE, hT, hl⟩ := hA
  obtain ⟨hx, hb, hml, hown, hts⟩ := id hE
  have hl : lv_has ls 2 [(0, .ref (mp_h w)), (1, .int x1)] := hl
  unfold wM_setup at hw
  refine lv_aload_n hx hb dX5_setup_0 rfl (lv_at hl 0 rfl) ?_
  refine lv_iconst (v := (0 : Int32)) hx hb dX5_setup_1 (by decide) ?_
  refine m_put hx hb hown hts hT hW 0 (by decide) (hts _ q2129) rfl rfl (ty := .int) (x := (0 : Int32)) rfl rfl rfl rfl dX5_setup_2 (fun F_1 H locs eF_1 hW => ?_)
  have hw := hw F_1 eF_1
  refine lv_iload_n hx hb dX5_setup_5 rfl (lv_at hl 1 rfl) ?_
  by_cases q0 : x1 = (0 : Int32)
  · have hw := hw.1 q0
    refine lv_tableIn (tgt := 48) (off := 42) hx hb dX5_setup_6 (by rw [q0]; decide) (by rw [q0]; decide) (by rw [q0]; rfl) (by decide) ?_
    refine lv_aload_n hx hb dX5_setup_48 rfl (lv_at hl 0 rfl) ?_
    refine m_get hx hb hown hts hT hW 1 (by decide) (hts _ q2130) rfl (v := .ref (mp_a w 1)) rfl dX5_setup_49 ?_
    refine lv_iconst (v := (0 : Int32)) hx hb dX5_setup_52 (by decide) ?_
    refine m_iald hx hb hT hW (k := 1) (j := 0) (by decide) rfl (by unfold vp_in; decide) dX5_setup_53 ?_
    exact hQ _ _ _ _ _ trivial hw hW _ _ dX5_setup_54
  have hw := hw.2 q0
  by_cases q1 : x1 = (1 : Int32)
  · have hw := hw.1 q1
    refine lv_tableIn (tgt := 55) (off := 49) hx hb dX5_setup_6 (by rw [q1]; decide) (by rw [q1]; decide) (by rw [q1]; rfl) (by decide) ?_
    refine lv_aload_n hx hb dX5_setup_55 rfl (lv_at hl 0 rfl) ?_
    refine m_get hx hb hown hts hT hW 1 (by decide) (hts _ q2130) rfl (v := .ref (mp_a w 1)) rfl dX5_setup_56 ?_
    refine lv_iconst (v := (1 : Int32)) hx hb dX5_setup_59 (by decide) ?_
    refine m_iald hx hb hT hW (k := 1) (j := 1) (by decide) rfl (by unfold vp_in; decide) dX5_setup_60 ?_
    exact hQ _ _ _ _ _ trivial hw hW _ _ dX5_setup_61
  have hw := hw.2 q1
  by_cases q2 : x1 = (2 : Int32)
  · have hw := hw.1 q2
    refine lv_tableIn (tgt := 62) (off := 56) hx hb dX5_setup_6 (by rw [q2]; decide) (by rw [q2]; decide) (by rw [q2]; rfl) (by decide) ?_
    refine lv_aload_n hx hb dX5_setup_62 rfl (lv_at hl 0 rfl) ?_
    refine m_get hx hb hown hts hT hW 1 (by decide) (hts _ q2130) rfl (v := .ref (mp_a w 1)) rfl dX5_setup_63 ?_
    refine lv_iconst (v := (2 : Int32)) hx hb dX5_setup_66 (by decide) ?_
    refine m_iald hx hb hT hW (k := 1) (j := 2) (by decide) rfl (by unfold vp_in; decide) dX5_setup_67 ?_
    exact hQ _ _ _ _ _ trivial hw hW _ _ dX5_setup_68
  have hw := hw.2 q2
  by_cases q3 : x1 = (3 : Int32)
  · have hw := hw.1 q3
    refine lv_tableIn (tgt := 69) (off := 63) hx hb dX5_setup_6 (by rw [q3]; decide) (by rw [q3]; decide) (by rw [q3]; rfl) (by decide) ?_
    refine lv_aload_n hx hb dX5_setup_69 rfl (lv_at hl 0 rfl) ?_
    refine m_get hx hb hown hts hT hW 8 (by decide) (hts _ q2137) rfl (v := .ref (mp_a w 8)) rfl dX5_setup_70 ?_
    refine lv_iconst (v := (3 : Int32)) hx hb dX5_setup_73 (by decide) ?_
    refine m_iald hx hb hT hW (k := 8) (j := 3) (by decide) rfl (by unfold vp_in; decide) dX5_setup_74 ?_
    exact hQ _ _ _ _ _ trivial hw hW _ _ dX5_setup_75
  have hw := hw.2 q3
  by_cases q4 : x1 = (4 : Int32)
  · have hw := hw.1 q4
    refine lv_tableIn (tgt := 76) (off := 70) hx hb dX5_setup_6 (by rw [q4]; decide) (by rw [q4]; decide) (by rw [q4]; rfl) (by decide) ?_
    refine lv_aload_n hx hb dX5_setup_76 rfl (lv_at hl 0 rfl) ?_
    refine m_get hx hb hown hts hT hW 1 (by decide) (hts _ q2130) rfl (v := .ref (mp_a w 1)) rfl dX5_setup_77 ?_
    refine lv_iconst (v := (3 : Int32)) hx hb dX5_setup_80 (by decide) ?_
    refine m_iald hx hb hT hW (k := 1) (j := 3) (by decide) rfl (by unfold vp_in; decide) dX5_setup_81 ?_
    exact hQ _ _ _ _ _ trivial hw hW _ _ dX5_setup_82
  have hw := hw.2 q4
  by_cases q5 : x1 = (5 : Int32)
  · have hw := hw.1 q5
    refine lv_tableIn (tgt := 83) (off := 77) hx hb dX5_setup_6 (by rw [q5]; decide) (by rw [q5]; decide) (by rw [q5]; rfl) (by decide) ?_
    refine lv_aload_n hx hb dX5_setup_83 rfl (lv_at hl 0 rfl) ?_
    refine m_get hx hb hown hts hT hW 1 (by decide) (hts _ q2130) rfl (v := .ref (mp_a w 1)) rfl dX5_setup_84 ?_
    refine lv_iconst (v := (4 : Int32)) hx hb dX5_setup_87 (by decide) ?_
    refine m_iald hx hb hT hW (k := 1) (j := 4) (by decide) rfl (by unfold vp_in; decide) dX5_setup_88 ?_
    exact hQ _ _ _ _ _ trivial hw hW _ _ dX5_setup_89
  have hw := hw.2 q5
  by_cases q6 : x1 = (6 : Int32)
  · have hw := hw.1 q6
    refine lv_tableIn (tgt := 90) (off := 84) hx hb dX5_setup_6 (by rw [q6]; decide) (by rw [q6]; decide) (by rw [q6]; rfl) (by decide) ?_
    refine lv_aload_n hx hb dX5_setup_90 rfl (lv_at hl 0 rfl) ?_
    refine m_get hx hb hown hts hT hW 1 (by decide) (hts _ q2130) rfl (v := .ref (mp_a w 1)) rfl dX5_setup_91 ?_
    refine lv_iconst (v := (5 : Int32)) hx hb dX5_setup_94 (by decide) ?_
    refine m_iald hx hb hT hW (k := 1) (j := 5) (by decide) rfl (by unfold vp_in; decide) dX5_setup_95 ?_
    exact hQ _ _ _ _ _ trivial hw hW _ _ dX5_setup_96
  have hw := hw.2 q6
  refine lv_tableOut (tgt := 97) hx hb dX5_setup_6 (m_out (fun j h1 h2 => ?_)) (by decide) ?_
  · have h3 : j = 0 ∨ j = 1 ∨ j = 2 ∨ j = 3 ∨ j = 4 ∨ j = 5 ∨ j = 6 := by omega
    rcases h3 with rfl | rfl | rfl | rfl | rfl | rfl | rfl
    · exact m_ne q0 rfl
    · exact m_ne q1 rfl
    · exact m_ne q2 rfl
    · exact m_ne q3 rfl
    · exact m_ne q4 rfl
    · exact m_ne q5 rfl
    · exact m_ne q6 rfl
  refine lv_aload_n hx hb dX5_setup_97 rfl (lv_at hl 0 rfl) ?_
  refine lv_iconst (v := (1 : Int32)) hx hb dX5_setup_98 (by decide) ?_
  refine m_Vi (rest := []) hE hT hW (kM_fails l w _ (1 : Int32) F_1 G hw) gM_fails dM_fails ⟨Nat.le_of_ble_eq_true rfl, Nat.le_of_ble_eq_true rfl, Nat.zero_le _, Nat.zero_le _⟩ rfl hl.1 rfl (Nat.le_of_ble_eq_true rfl) dX5_setup_99 (fun r_2 F_3 G_4 H locs hw hW => ?_)
  exact hQ _ _ _ _ _ trivial hw hW _ _ dX5_setup_102

/-! setupTime -/
def wM_setupTime (post : Int32 → MF → MG → Prop) (x1 : Int32) (x2 : Int32) (F : MF) (G : MG) : Prop :=
  ∀ F_1 : MF, F_1 = upd F 0 (0 : Int32) → wM_isType (fun r_2 => (r_2 = 0 → wM_fails (fun r_3 F_4 G_5 => post r_3 F_4 G_5) (1 : Int32) F_1 G) ∧ (¬ r_2 = 0 → wM_isType (fun r_6 => (r_6 = 0 → wM_fails (fun r_8 F_9 G_10 => post r_8 F_9 G_10) (1 : Int32) F_1 G) ∧ (¬ r_6 = 0 → wM_between (fun r_7 => post r_7 F_1 G) x1 x2 F_1 G)) x2 F_1 G)) x1 F_1 G
set_option maxHeartbeats 4000000 in
theorem kM_setupTime (l : Launch) (w : MP) (post : Int32 → MF → MG → Prop) (x1 : Int32) (x2 : Int32) (F : MF) (G : MG) (hw : wM_setupTime post x1 x2 F G) : m_Mi l w yX5_setupTime cX5_setupTime 3 .int 2 [.ref (mp_h w), .int x1, .int x2] F G post := by
  refine m_ofWi (by decide) rfl (Nat.le_of_ble_eq_true rfl) (fun _ => True) (fun _ _ => rfl) ?_
  intro p e s m args below meth c Q ls hA hW hQ
  obtain ⟨hE, hT, hl⟩ := hA
  obtain ⟨hx, hb, hml, hown, hts⟩ := id hE
  have hl : lv_has ls 3 [(0, .ref (mp_h w)), (1, .int x1), (2, .int x2)] := hl
  unfold wM_setupTime at hw
  refine lv_aload_n hx hb dX5_setupTime_0 rfl (lv_at hl 0 rfl) ?_
  refine lv_iconst (v := (0 : Int32)) hx hb dX5_setupTime_1 (by decide) ?_
  refine m_put hx hb hown hts hT hW 0 (by decide) (hts _ q2129) rfl rfl (ty := .int) (x := (0 : Int32)) rfl rfl rfl rfl dX5_setupTime_2 (fun F_1 H locs eF_1 hW => ?_)
  have hw := hw F_1 eF_1
  refine lv_aload_n hx hb dX5_setupTime_5 rfl (lv_at hl 0 rfl) ?_
  refine lv_iload_n hx hb dX5_setupTime_6 rfl (lv_at hl 1 rfl) ?_
  refine m_Vi (rest := []) hE hT hW (kM_isType l w _ x1 F_1 G hw) gM_isType dM_isType ⟨Nat.le_of_ble_eq_true rfl, Nat.le_of_ble_eq_true rfl, Nat.zero_le _, Nat.zero_le _⟩ rfl hl.1 rfl (Nat.le_of_ble_eq_true rfl) dX5_setupTime_7 (fun r_2 F9 G9 H locs hw hW => ?_)
  obtain ⟨eF9, eG9, hw⟩ := hw
  rw [eF9, eG9] at hW
  refine lv_if_eq (tgt := 21) hx hb dX5_setupTime_10 (by decide) (fun q => ?_) (fun q => ?_)
  · have hw := hw.1 q
    refine lv_aload_n hx hb dX5_setupTime_21 rfl (lv_at hl 0 rfl) ?_
    refine lv_iconst (v := (1 : Int32)) hx hb dX5_setupTime_22 (by decide) ?_
    refine m_Vi (rest := []) hE hT hW (kM_fails l w _ (1 : Int32) F_1 G hw) gM_fails dM_fails ⟨Nat.le_of_ble_eq_true rfl, Nat.le_of_ble_eq_true rfl, Nat.zero_le _, Nat.zero_le _⟩ rfl hl.1 rfl (Nat.le_of_ble_eq_true rfl) dX5_setupTime_23 (fun r_3 F_4 G_5 H locs hw hW => ?_)
    exact hQ _ _ _ _ _ trivial hw hW _ _ dX5_setupTime_26
  · have hw := hw.2 q
    refine lv_aload_n hx hb dX5_setupTime_13 rfl (lv_at hl 0 rfl) ?_
    refine lv_iload_n hx hb dX5_setupTime_14 rfl (lv_at hl 2 rfl) ?_
    refine m_Vi (rest := []) hE hT hW (kM_isType l w _ x2 F_1 G hw) gM_isType dM_isType ⟨Nat.le_of_ble_eq_true rfl, Nat.le_of_ble_eq_true rfl, Nat.zero_le _, Nat.zero_le _⟩ rfl hl.1 rfl (Nat.le_of_ble_eq_true rfl) dX5_setupTime_15 (fun r_6 F9 G9 H locs hw hW => ?_)
    obtain ⟨eF9, eG9, hw⟩ := hw
    rw [eF9, eG9] at hW
    refine lv_if_ne (tgt := 27) hx hb dX5_setupTime_18 (by decide) (fun q => ?_) (fun q => ?_)
    · have hw := hw.2 q
      refine lv_aload_n hx hb dX5_setupTime_27 rfl (lv_at hl 0 rfl) ?_
      refine lv_iload_n hx hb dX5_setupTime_28 rfl (lv_at hl 1 rfl) ?_
      refine lv_iload_n hx hb dX5_setupTime_29 rfl (lv_at hl 2 rfl) ?_
      refine m_Vi (rest := []) hE hT hW (kM_between l w _ x1 x2 F_1 G hw) gM_between dM_between ⟨Nat.le_of_ble_eq_true rfl, Nat.le_of_ble_eq_true rfl, Nat.zero_le _, Nat.zero_le _⟩ rfl hl.1 rfl (Nat.le_of_ble_eq_true rfl) dX5_setupTime_30 (fun r_7 F9 G9 H locs hw hW => ?_)
      obtain ⟨eF9, eG9, hw⟩ := hw
      rw [eF9, eG9] at hW
      exact hQ _ _ _ _ _ trivial hw hW _ _ dX5_setupTime_33
    · have hw := hw.1 q
      refine lv_aload_n hx hb dX5_setupTime_21 rfl (lv_at hl 0 rfl) ?_
      refine lv_iconst (v := (1 : Int32)) hx hb dX5_setupTime_22 (by decide) ?_
      refine m_Vi (rest := []) hE hT hW (kM_fails l w _ (1 : Int32) F_1 G hw) gM_fails dM_fails ⟨Nat.le_of_ble_eq_true rfl, Nat.le_of_ble_eq_true rfl, Nat.zero_le _, Nat.zero_le _⟩ rfl hl.1 rfl (Nat.le_of_ble_eq_true rfl) dX5_setupTime_23 (fun r_8 F_9 G_10 H locs hw hW => ?_)
      exact hQ _ _ _ _ _ trivial hw hW _ _ dX5_setupTime_26

/-! isClosed -/
def wM_isClosed_j30 (post : Int32 → MF → MG → Prop) (y1 : Int32) (y2 : Int32) (z1 : Int32) (F : MF) (G : MG) : Prop :=
  ∀ F_1 : MF, F_1 = upd F 0 z1 → ((F_1 0) = 0 → wM_isShutIn (fun r_2 => (r_2 = 0 → wM_isWeeklyIn (fun r_3 => (r_3 = 0 → post (0 : Int32) F_1 G) ∧ (¬ r_3 = 0 → post (1 : Int32) F_1 G)) y2 (y2 + (1 : Int32)) F_1 G) ∧ (¬ r_2 = 0 → post (1 : Int32) F_1 G)) y1 y2 (y2 + (1 : Int32)) F_1 G) ∧ (¬ (F_1 0) = 0 → post (0 : Int32) F_1 G)
def wM_isClosed (post : Int32 → MF → MG → Prop) (x1 : Int32) (x2 : Int32) (F : MF) (G : MG) : Prop :=
  wM_isHall (fun r_4 => (r_4 = 0 → wM_isClosed_j30 post x1 x2 (1 : Int32) F G) ∧ (¬ r_4 = 0 → wM_isIn (fun r_5 => (r_5 = 0 → wM_isClosed_j30 post x1 x2 (2 : Int32) F G) ∧ (¬ r_5 = 0 → wM_isClosed_j30 post x1 x2 (0 : Int32) F G)) ((x2).toInt64) (0 : Int64) (86399 : Int64) F G)) x1 F G
set_option maxHeartbeats 4000000 in
theorem kM_isClosed (l : Launch) (w : MP) (post : Int32 → MF → MG → Prop) (x1 : Int32) (x2 : Int32) (F : MF) (G : MG) (hw : wM_isClosed post x1 x2 F G) : m_Mi l w yX5_isClosed cX5_isClosed 3 .boolean 2 [.ref (mp_h w), .int x1, .int x2] F G post := by
  refine m_ofWi (by decide) rfl (Nat.le_of_ble_eq_true rfl) (fun r => r = 0 ∨ r = 1) (fun _ h => m_nb h) ?_
  intro p e s m args below meth c Q ls hA hW hQ
  obtain ⟨hE, hT, hl⟩ := hA
  obtain ⟨hx, hb, hml, hown, hts⟩ := id hE
  have hl : lv_has ls 3 [(0, .ref (mp_h w)), (1, .int x1), (2, .int x2)] := hl
  have jn30 : ∀ (y1 : Int32) (y2 : Int32) (z1 : Int32) (F : MF) (G : MG) (H : Heap) (locs : List Loc) (ls : Array Slot), lv_has ls 3 [(0, .ref (mp_h w)), (1, .int y1), (2, .int y2)] → m_W w s.heap F G H locs → wM_isClosed_j30 post y1 y2 z1 F G → W p l e (mrm 2) s m args below meth c H locs 0 0 Q (F0 m 30 ls [.int z1, .ref (mp_h w)]) := by
    intro y1 y2 z1 F G H locs ls hl hW hw
    unfold wM_isClosed_j30 at hw
    refine m_put hx hb hown hts hT hW 0 (by decide) (hts _ q2129) rfl rfl (ty := .int) (x := z1) rfl rfl rfl rfl dX5_isClosed_30 (fun F_1 H locs eF_1 hW => ?_)
    have hw := hw F_1 eF_1
    refine lv_aload_n hx hb dX5_isClosed_33 rfl (lv_at hl 0 rfl) ?_
    refine m_get hx hb hown hts hT hW 0 (by decide) (hts _ q2129) rfl (v := .int (F_1 0)) rfl dX5_isClosed_34 ?_
    refine lv_if_ne (tgt := 67) hx hb dX5_isClosed_37 (by decide) (fun q => ?_) (fun q => ?_)
    · have hw := hw.2 q
      refine lv_iconst (v := (0 : Int32)) hx hb dX5_isClosed_67 (by decide) ?_
      exact hQ _ _ _ _ _ (by decide) hw hW _ _ dX5_isClosed_68
    · have hw := hw.1 q
      refine lv_aload_n hx hb dX5_isClosed_40 rfl (lv_at hl 0 rfl) ?_
      refine lv_iload_n hx hb dX5_isClosed_41 rfl (lv_at hl 1 rfl) ?_
      refine lv_iload_n hx hb dX5_isClosed_42 rfl (lv_at hl 2 rfl) ?_
      refine lv_iload_n hx hb dX5_isClosed_43 rfl (lv_at hl 2 rfl) ?_
      refine lv_iconst (v := (1 : Int32)) hx hb dX5_isClosed_44 (by decide) ?_
      refine lv_iadd hx hb dX5_isClosed_45 ?_
      refine m_Vi (rest := []) hE hT hW (kM_isShutIn l w _ y1 y2 (y2 + (1 : Int32)) F_1 G hw) gM_isShutIn dM_isShutIn ⟨Nat.le_of_ble_eq_true rfl, Nat.le_of_ble_eq_true rfl, Nat.zero_le _, Nat.zero_le _⟩ rfl hl.1 rfl (Nat.le_of_ble_eq_true rfl) dX5_isClosed_46 (fun r_2 F9 G9 H locs hw hW => ?_)
      obtain ⟨eF9, eG9, hw⟩ := hw
      rw [eF9, eG9] at hW
      refine lv_if_ne (tgt := 63) hx hb dX5_isClosed_49 (by decide) (fun q => ?_) (fun q => ?_)
      · have hw := hw.2 q
        refine lv_iconst (v := (1 : Int32)) hx hb dX5_isClosed_63 (by decide) ?_
        refine lv_goto (tgt := 68) hx hb dX5_isClosed_64 (by decide) ?_
        exact hQ _ _ _ _ _ (by decide) hw hW _ _ dX5_isClosed_68
      · have hw := hw.1 q
        refine lv_aload_n hx hb dX5_isClosed_52 rfl (lv_at hl 0 rfl) ?_
        refine lv_iload_n hx hb dX5_isClosed_53 rfl (lv_at hl 2 rfl) ?_
        refine lv_iload_n hx hb dX5_isClosed_54 rfl (lv_at hl 2 rfl) ?_
        refine lv_iconst (v := (1 : Int32)) hx hb dX5_isClosed_55 (by decide) ?_
        refine lv_iadd hx hb dX5_isClosed_56 ?_
        refine m_Vi (rest := []) hE hT hW (kM_isWeeklyIn l w _ y2 (y2 + (1 : Int32)) F_1 G hw) gM_isWeeklyIn dM_isWeeklyIn ⟨Nat.le_of_ble_eq_true rfl, Nat.le_of_ble_eq_true rfl, Nat.zero_le _, Nat.zero_le _⟩ rfl hl.1 rfl (Nat.le_of_ble_eq_true rfl) dX5_isClosed_57 (fun r_3 F9 G9 H locs hw hW => ?_)
        obtain ⟨eF9, eG9, hw⟩ := hw
        rw [eF9, eG9] at hW
        refine lv_if_eq (tgt := 67) hx hb dX5_isClosed_60 (by decide) (fun q => ?_) (fun q => ?_)
        · have hw := hw.1 q
          refine lv_iconst (v := (0 : Int32)) hx hb dX5_isClosed_67 (by decide) ?_
          exact hQ _ _ _ _ _ (by decide) hw hW _ _ dX5_isClosed_68
        · have hw := hw.2 q
          refine lv_iconst (v := (1 : Int32)) hx hb dX5_isClosed_63 (by decide) ?_
          refine lv_goto (tgt := 68) hx hb dX5_isClosed_64 (by decide) ?_
          exact hQ _ _ _ _ _ (by decide) hw hW _ _ dX5_isClosed_68
  unfold wM_isClosed at hw
  refine lv_aload_n hx hb dX5_isClosed_0 rfl (lv_at hl 0 rfl) ?_
  refine lv_aload_n hx hb dX5_isClosed_1 rfl (lv_at hl 0 rfl) ?_
  refine lv_iload_n hx hb dX5_isClosed_2 rfl (lv_at hl 1 rfl) ?_
  refine m_Vi (rest := [.ref (mp_h w)]) hE hT hW (kM_isHall l w _ x1 F G hw) gM_isHall dM_isHall ⟨Nat.le_of_ble_eq_true rfl, Nat.le_of_ble_eq_true rfl, Nat.zero_le _, Nat.zero_le _⟩ rfl hl.1 rfl (Nat.le_of_ble_eq_true rfl) dX5_isClosed_3 (fun r_4 F9 G9 H locs hw hW => ?_)
  obtain ⟨eF9, eG9, hw⟩ := hw
  rw [eF9, eG9] at hW
  refine lv_if_ne (tgt := 13) hx hb dX5_isClosed_6 (by decide) (fun q => ?_) (fun q => ?_)
  · have hw := hw.2 q
    refine lv_iload_n hx hb dX5_isClosed_13 rfl (lv_at hl 2 rfl) ?_
    refine lv_i2l (v := (x2).toInt64) hx hb dX5_isClosed_14 rfl ?_
    refine lv_lconst (v := (0 : Int64)) hx hb dX5_isClosed_15 rfl ?_
    refine lv_ldc2 hx hb hown (hts _ q2596) dX5_isClosed_16 ?_
    refine m_Si (rest := [.ref (mp_h w)]) hE hT hW (kM_isIn l w _ ((x2).toInt64) (0 : Int64) (86399 : Int64) F G hw) gM_isIn dM_isIn ⟨Nat.le_of_ble_eq_true rfl, Nat.le_of_ble_eq_true rfl, Nat.zero_le _, Nat.zero_le _⟩ rfl hl.1 rfl (Nat.le_of_ble_eq_true rfl) dX5_isClosed_19 (fun r_5 F9 G9 H locs hw hW => ?_)
    obtain ⟨eF9, eG9, hw⟩ := hw
    rw [eF9, eG9] at hW
    refine lv_if_ne (tgt := 29) hx hb dX5_isClosed_22 (by decide) (fun q => ?_) (fun q => ?_)
    · have hw := hw.2 q
      refine lv_iconst (v := (0 : Int32)) hx hb dX5_isClosed_29 (by decide) ?_
      exact jn30 x1 x2 (0 : Int32) F G _ _ _ hl hW hw
    · have hw := hw.1 q
      refine lv_iconst (v := (2 : Int32)) hx hb dX5_isClosed_25 (by decide) ?_
      refine lv_goto (tgt := 30) hx hb dX5_isClosed_26 (by decide) ?_
      exact jn30 x1 x2 (2 : Int32) F G _ _ _ hl hW hw
  · have hw := hw.1 q
    refine lv_iconst (v := (1 : Int32)) hx hb dX5_isClosed_9 (by decide) ?_
    refine lv_goto (tgt := 30) hx hb dX5_isClosed_10 (by decide) ?_
    exact jn30 x1 x2 (1 : Int32) F G _ _ _ hl hW hw

/-! feePercent -/
def wM_feePercent (post : Int32 → MF → MG → Prop) (x1 : Int32) (F : MF) (G : MG) : Prop :=
  ∀ F_1 : MF, F_1 = upd F 0 (0 : Int32) → wM_isIn (fun r_2 => (r_2 = 0 → wM_fails (fun r_4 F_5 G_6 => post r_4 F_5 G_6) (1 : Int32) F_1 G) ∧ (¬ r_2 = 0 → wM_percentOf (fun r_3 => post r_3 F_1 G) x1 F_1 G)) ((x1).toInt64) (0 : Int64) (60 : Int64) F_1 G
set_option maxHeartbeats 4000000 in
theorem kM_feePercent (l : Launch) (w : MP) (post : Int32 → MF → MG → Prop) (x1 : Int32) (F : MF) (G : MG) (hw : wM_feePercent post x1 F G) : m_Mi l w yX5_feePercent cX5_feePercent 2 .int 1 [.ref (mp_h w), .int x1] F G post := by
  refine m_ofWi (by decide) rfl (Nat.le_of_ble_eq_true rfl) (fun _ => True) (fun _ _ => rfl) ?_
  intro p e s m args below meth c Q ls hA hW hQ
  obtain ⟨hE, hT, hl⟩ := hA
  obtain ⟨hx, hb, hml, hown, hts⟩ := id hE
  have hl : lv_has ls 2 [(0, .ref (mp_h w)), (1, .int x1)] := hl
  unfold wM_feePercent at hw
  refine lv_aload_n hx hb dX5_feePercent_0 rfl (lv_at hl 0 rfl) ?_
  refine lv_iconst (v := (0 : Int32)) hx hb dX5_feePercent_1 (by decide) ?_
  refine m_put hx hb hown hts hT hW 0 (by decide) (hts _ q2129) rfl rfl (ty := .int) (x := (0 : Int32)) rfl rfl rfl rfl dX5_feePercent_2 (fun F_1 H locs eF_1 hW => ?_)
  have hw := hw F_1 eF_1
  refine lv_iload_n hx hb dX5_feePercent_5 rfl (lv_at hl 1 rfl) ?_
  refine lv_i2l (v := (x1).toInt64) hx hb dX5_feePercent_6 rfl ?_
  refine lv_lconst (v := (0 : Int64)) hx hb dX5_feePercent_7 rfl ?_
  refine lv_ldc2 hx hb hown (hts _ q2601) dX5_feePercent_8 ?_
  refine m_Si (rest := []) hE hT hW (kM_isIn l w _ ((x1).toInt64) (0 : Int64) (60 : Int64) F_1 G hw) gM_isIn dM_isIn ⟨Nat.le_of_ble_eq_true rfl, Nat.le_of_ble_eq_true rfl, Nat.zero_le _, Nat.zero_le _⟩ rfl hl.1 rfl (Nat.le_of_ble_eq_true rfl) dX5_feePercent_11 (fun r_2 F9 G9 H locs hw hW => ?_)
  obtain ⟨eF9, eG9, hw⟩ := hw
  rw [eF9, eG9] at hW
  refine lv_if_ne (tgt := 23) hx hb dX5_feePercent_14 (by decide) (fun q => ?_) (fun q => ?_)
  · have hw := hw.2 q
    refine lv_aload_n hx hb dX5_feePercent_23 rfl (lv_at hl 0 rfl) ?_
    refine lv_iload_n hx hb dX5_feePercent_24 rfl (lv_at hl 1 rfl) ?_
    refine m_Vi (rest := []) hE hT hW (kM_percentOf l w _ x1 F_1 G hw) gM_percentOf dM_percentOf ⟨Nat.le_of_ble_eq_true rfl, Nat.le_of_ble_eq_true rfl, Nat.zero_le _, Nat.zero_le _⟩ rfl hl.1 rfl (Nat.le_of_ble_eq_true rfl) dX5_feePercent_25 (fun r_3 F9 G9 H locs hw hW => ?_)
    obtain ⟨eF9, eG9, hw⟩ := hw
    rw [eF9, eG9] at hW
    exact hQ _ _ _ _ _ trivial hw hW _ _ dX5_feePercent_28
  · have hw := hw.1 q
    refine lv_aload_n hx hb dX5_feePercent_17 rfl (lv_at hl 0 rfl) ?_
    refine lv_iconst (v := (1 : Int32)) hx hb dX5_feePercent_18 (by decide) ?_
    refine m_Vi (rest := []) hE hT hW (kM_fails l w _ (1 : Int32) F_1 G hw) gM_fails dM_fails ⟨Nat.le_of_ble_eq_true rfl, Nat.le_of_ble_eq_true rfl, Nat.zero_le _, Nat.zero_le _⟩ rfl hl.1 rfl (Nat.le_of_ble_eq_true rfl) dX5_feePercent_19 (fun r_4 F_5 G_6 H locs hw hW => ?_)
    exact hQ _ _ _ _ _ trivial hw hW _ _ dX5_feePercent_22

/-! now -/
def wM_now (post : Int32 → MF → MG → Prop) (F : MF) (G : MG) : Prop :=
  ∀ F_1 : MF, F_1 = upd F 0 (0 : Int32) → post (G 8 0) F_1 G
set_option maxHeartbeats 4000000 in
theorem kM_now (l : Launch) (w : MP) (post : Int32 → MF → MG → Prop) (F : MF) (G : MG) (hw : wM_now post F G) : m_Mi l w yX5_now cX5_now 1 .int 0 [.ref (mp_h w)] F G post := by
  refine m_ofWi (by decide) rfl (Nat.le_of_ble_eq_true rfl) (fun _ => True) (fun _ _ => rfl) ?_
  intro p e s m args below meth c Q ls hA hW hQ
  obtain ⟨hE, hT, hl⟩ := hA
  obtain ⟨hx, hb, hml, hown, hts⟩ := id hE
  have hl : lv_has ls 1 [(0, .ref (mp_h w))] := hl
  unfold wM_now at hw
  refine lv_aload_n hx hb dX5_now_0 rfl (lv_at hl 0 rfl) ?_
  refine lv_iconst (v := (0 : Int32)) hx hb dX5_now_1 (by decide) ?_
  refine m_put hx hb hown hts hT hW 0 (by decide) (hts _ q2129) rfl rfl (ty := .int) (x := (0 : Int32)) rfl rfl rfl rfl dX5_now_2 (fun F_1 H locs eF_1 hW => ?_)
  have hw := hw F_1 eF_1
  refine lv_aload_n hx hb dX5_now_5 rfl (lv_at hl 0 rfl) ?_
  refine m_get hx hb hown hts hT hW 8 (by decide) (hts _ q2137) rfl (v := .ref (mp_a w 8)) rfl dX5_now_6 ?_
  refine lv_iconst (v := (0 : Int32)) hx hb dX5_now_9 (by decide) ?_
  refine m_iald hx hb hT hW (k := 8) (j := 0) (by decide) rfl (by unfold vp_in; decide) dX5_now_10 ?_
  exact hQ _ _ _ _ _ trivial hw hW _ _ dX5_now_11

/-! bookingCount -/
def wM_bookingCount (post : Int32 → MF → MG → Prop) (F : MF) (G : MG) : Prop :=
  ∀ F_1 : MF, F_1 = upd F 0 (0 : Int32) → post (G 8 1) F_1 G
set_option maxHeartbeats 4000000 in
theorem kM_bookingCount (l : Launch) (w : MP) (post : Int32 → MF → MG → Prop) (F : MF) (G : MG) (hw : wM_bookingCount post F G) : m_Mi l w yX5_bookingCount cX5_bookingCount 1 .int 0 [.ref (mp_h w)] F G post := by
  refine m_ofWi (by decide) rfl (Nat.le_of_ble_eq_true rfl) (fun _ => True) (fun _ _ => rfl) ?_
  intro p e s m args below meth c Q ls hA hW hQ
  obtain ⟨hE, hT, hl⟩ := hA
  obtain ⟨hx, hb, hml, hown, hts⟩ := id hE
  have hl : lv_has ls 1 [(0, .ref (mp_h w))] := hl
  unfold wM_bookingCount at hw
  refine lv_aload_n hx hb dX5_bookingCount_0 rfl (lv_at hl 0 rfl) ?_
  refine lv_iconst (v := (0 : Int32)) hx hb dX5_bookingCount_1 (by decide) ?_
  refine m_put hx hb hown hts hT hW 0 (by decide) (hts _ q2129) rfl rfl (ty := .int) (x := (0 : Int32)) rfl rfl rfl rfl dX5_bookingCount_2 (fun F_1 H locs eF_1 hW => ?_)
  have hw := hw F_1 eF_1
  refine lv_aload_n hx hb dX5_bookingCount_5 rfl (lv_at hl 0 rfl) ?_
  refine m_get hx hb hown hts hT hW 8 (by decide) (hts _ q2137) rfl (v := .ref (mp_a w 8)) rfl dX5_bookingCount_6 ?_
  refine lv_iconst (v := (1 : Int32)) hx hb dX5_bookingCount_9 (by decide) ?_
  refine m_iald hx hb hT hW (k := 8) (j := 1) (by decide) rfl (by unfold vp_in; decide) dX5_bookingCount_10 ?_
  exact hQ _ _ _ _ _ trivial hw hW _ _ dX5_bookingCount_11

/-! booking -/
def wM_booking (post : Int32 → MF → MG → Prop) (x1 : Int32) (x2 : Int32) (F : MF) (G : MG) : Prop :=
  ∀ F_1 : MF, F_1 = upd F 0 (0 : Int32) → wM_isBooking (fun r_2 => (r_2 = 0 → wM_fails (fun r_14 F_15 G_16 => post r_14 F_15 G_16) (1 : Int32) F_1 G) ∧ (¬ r_2 = 0 → (x2 = (0 : Int32) → wM_of (fun r_3 => post r_3 F_1 G) x1 (9 : Int32) F_1 G) ∧ (¬ x2 = (0 : Int32) → (x2 = (1 : Int32) → wM_of (fun r_4 => post r_4 F_1 G) x1 (10 : Int32) F_1 G) ∧ (¬ x2 = (1 : Int32) → (x2 = (2 : Int32) → wM_endOf (fun r_5 => post r_5 F_1 G) x1 F_1 G) ∧ (¬ x2 = (2 : Int32) → (x2 = (3 : Int32) → wM_of (fun r_6 => post r_6 F_1 G) x1 (0 : Int32) F_1 G) ∧ (¬ x2 = (3 : Int32) → (x2 = (4 : Int32) → wM_of (fun r_7 => post r_7 F_1 G) x1 (1 : Int32) F_1 G) ∧ (¬ x2 = (4 : Int32) → (x2 = (5 : Int32) → wM_priceNow (fun r_8 => post r_8 F_1 G) x1 F_1 G) ∧ (¬ x2 = (5 : Int32) → (x2 = (6 : Int32) → wM_of (fun r_9 => post r_9 F_1 G) x1 (11 : Int32) F_1 G) ∧ (¬ x2 = (6 : Int32) → (x2 = (7 : Int32) → wM_of (fun r_10 => post r_10 F_1 G) x1 (12 : Int32) F_1 G) ∧ (¬ x2 = (7 : Int32) → wM_fails (fun r_11 F_12 G_13 => post r_11 F_12 G_13) (2 : Int32) F_1 G)))))))))) x1 F_1 G
set_option maxHeartbeats 4000000 in
theorem kM_booking (l : Launch) (w : MP) (post : Int32 → MF → MG → Prop) (x1 : Int32) (x2 : Int32) (F : MF) (G : MG) (hw : wM_booking post x1 x2 F G) : m_Mi l w yX5_booking cX5_booking 3 .int 3 [.ref (mp_h w), .int x1, .int x2] F G post := by
  refine m_ofWi (by decide) rfl (Nat.le_of_ble_eq_true rfl) (fun _ => True) (fun _ _ => rfl) ?_
  intro p e s m args below meth c Q ls hA hW hQ
  obtain ⟨hE, hT, hl⟩ := hA
  obtain ⟨hx, hb, hml, hown, hts⟩ := id hE
  have hl : lv_has ls 3 [(0, .ref (mp_h w)), (1, .int x1), (2, .int x2)] := hl
  unfold wM_booking at hw
  refine lv_aload_n hx hb dX5_booking_0 rfl (lv_at hl 0 rfl) ?_
  refine lv_iconst (v := (0 : Int32)) hx hb dX5_booking_1 (by decide) ?_
  refine m_put hx hb hown hts hT hW 0 (by decide) (hts _ q2129) rfl rfl (ty := .int) (x := (0 : Int32)) rfl rfl rfl rfl dX5_booking_2 (fun F_1 H locs eF_1 hW => ?_)
  have hw := hw F_1 eF_1
  refine lv_aload_n hx hb dX5_booking_5 rfl (lv_at hl 0 rfl) ?_
  refine lv_iload_n hx hb dX5_booking_6 rfl (lv_at hl 1 rfl) ?_
  refine m_Vi (rest := []) hE hT hW (kM_isBooking l w _ x1 F_1 G hw) gM_isBooking dM_isBooking ⟨Nat.le_of_ble_eq_true rfl, Nat.le_of_ble_eq_true rfl, Nat.zero_le _, Nat.zero_le _⟩ rfl hl.1 rfl (Nat.le_of_ble_eq_true rfl) dX5_booking_7 (fun r_2 F9 G9 H locs hw hW => ?_)
  obtain ⟨eF9, eG9, hw⟩ := hw
  rw [eF9, eG9] at hW
  refine lv_if_ne (tgt := 19) hx hb dX5_booking_10 (by decide) (fun q => ?_) (fun q => ?_)
  · have hw := hw.2 q
    refine lv_iload_n hx hb dX5_booking_19 rfl (lv_at hl 2 rfl) ?_
    by_cases q0 : x2 = (0 : Int32)
    · have hw := hw.1 q0
      refine lv_tableIn (tgt := 68) (off := 48) hx hb dX5_booking_20 (by rw [q0]; decide) (by rw [q0]; decide) (by rw [q0]; rfl) (by decide) ?_
      refine lv_aload_n hx hb dX5_booking_68 rfl (lv_at hl 0 rfl) ?_
      refine lv_iload_n hx hb dX5_booking_69 rfl (lv_at hl 1 rfl) ?_
      refine lv_bipush (v := (9 : Int32)) hx hb dX5_booking_70 (by decide) ?_
      refine m_Vi (rest := []) hE hT hW (kM_of l w _ x1 (9 : Int32) F_1 G hw) gM_of dM_of ⟨Nat.le_of_ble_eq_true rfl, Nat.le_of_ble_eq_true rfl, Nat.zero_le _, Nat.zero_le _⟩ rfl hl.1 rfl (Nat.le_of_ble_eq_true rfl) dX5_booking_72 (fun r_3 F9 G9 H locs hw hW => ?_)
      obtain ⟨eF9, eG9, hw⟩ := hw
      rw [eF9, eG9] at hW
      exact hQ _ _ _ _ _ trivial hw hW _ _ dX5_booking_75
    have hw := hw.2 q0
    by_cases q1 : x2 = (1 : Int32)
    · have hw := hw.1 q1
      refine lv_tableIn (tgt := 76) (off := 56) hx hb dX5_booking_20 (by rw [q1]; decide) (by rw [q1]; decide) (by rw [q1]; rfl) (by decide) ?_
      refine lv_aload_n hx hb dX5_booking_76 rfl (lv_at hl 0 rfl) ?_
      refine lv_iload_n hx hb dX5_booking_77 rfl (lv_at hl 1 rfl) ?_
      refine lv_bipush (v := (10 : Int32)) hx hb dX5_booking_78 (by decide) ?_
      refine m_Vi (rest := []) hE hT hW (kM_of l w _ x1 (10 : Int32) F_1 G hw) gM_of dM_of ⟨Nat.le_of_ble_eq_true rfl, Nat.le_of_ble_eq_true rfl, Nat.zero_le _, Nat.zero_le _⟩ rfl hl.1 rfl (Nat.le_of_ble_eq_true rfl) dX5_booking_80 (fun r_4 F9 G9 H locs hw hW => ?_)
      obtain ⟨eF9, eG9, hw⟩ := hw
      rw [eF9, eG9] at hW
      exact hQ _ _ _ _ _ trivial hw hW _ _ dX5_booking_83
    have hw := hw.2 q1
    by_cases q2 : x2 = (2 : Int32)
    · have hw := hw.1 q2
      refine lv_tableIn (tgt := 84) (off := 64) hx hb dX5_booking_20 (by rw [q2]; decide) (by rw [q2]; decide) (by rw [q2]; rfl) (by decide) ?_
      refine lv_aload_n hx hb dX5_booking_84 rfl (lv_at hl 0 rfl) ?_
      refine lv_iload_n hx hb dX5_booking_85 rfl (lv_at hl 1 rfl) ?_
      refine m_Vi (rest := []) hE hT hW (kM_endOf l w _ x1 F_1 G hw) gM_endOf dM_endOf ⟨Nat.le_of_ble_eq_true rfl, Nat.le_of_ble_eq_true rfl, Nat.zero_le _, Nat.zero_le _⟩ rfl hl.1 rfl (Nat.le_of_ble_eq_true rfl) dX5_booking_86 (fun r_5 F9 G9 H locs hw hW => ?_)
      obtain ⟨eF9, eG9, hw⟩ := hw
      rw [eF9, eG9] at hW
      exact hQ _ _ _ _ _ trivial hw hW _ _ dX5_booking_89
    have hw := hw.2 q2
    by_cases q3 : x2 = (3 : Int32)
    · have hw := hw.1 q3
      refine lv_tableIn (tgt := 90) (off := 70) hx hb dX5_booking_20 (by rw [q3]; decide) (by rw [q3]; decide) (by rw [q3]; rfl) (by decide) ?_
      refine lv_aload_n hx hb dX5_booking_90 rfl (lv_at hl 0 rfl) ?_
      refine lv_iload_n hx hb dX5_booking_91 rfl (lv_at hl 1 rfl) ?_
      refine lv_iconst (v := (0 : Int32)) hx hb dX5_booking_92 (by decide) ?_
      refine m_Vi (rest := []) hE hT hW (kM_of l w _ x1 (0 : Int32) F_1 G hw) gM_of dM_of ⟨Nat.le_of_ble_eq_true rfl, Nat.le_of_ble_eq_true rfl, Nat.zero_le _, Nat.zero_le _⟩ rfl hl.1 rfl (Nat.le_of_ble_eq_true rfl) dX5_booking_93 (fun r_6 F9 G9 H locs hw hW => ?_)
      obtain ⟨eF9, eG9, hw⟩ := hw
      rw [eF9, eG9] at hW
      exact hQ _ _ _ _ _ trivial hw hW _ _ dX5_booking_96
    have hw := hw.2 q3
    by_cases q4 : x2 = (4 : Int32)
    · have hw := hw.1 q4
      refine lv_tableIn (tgt := 97) (off := 77) hx hb dX5_booking_20 (by rw [q4]; decide) (by rw [q4]; decide) (by rw [q4]; rfl) (by decide) ?_
      refine lv_aload_n hx hb dX5_booking_97 rfl (lv_at hl 0 rfl) ?_
      refine lv_iload_n hx hb dX5_booking_98 rfl (lv_at hl 1 rfl) ?_
      refine lv_iconst (v := (1 : Int32)) hx hb dX5_booking_99 (by decide) ?_
      refine m_Vi (rest := []) hE hT hW (kM_of l w _ x1 (1 : Int32) F_1 G hw) gM_of dM_of ⟨Nat.le_of_ble_eq_true rfl, Nat.le_of_ble_eq_true rfl, Nat.zero_le _, Nat.zero_le _⟩ rfl hl.1 rfl (Nat.le_of_ble_eq_true rfl) dX5_booking_100 (fun r_7 F9 G9 H locs hw hW => ?_)
      obtain ⟨eF9, eG9, hw⟩ := hw
      rw [eF9, eG9] at hW
      exact hQ _ _ _ _ _ trivial hw hW _ _ dX5_booking_103
    have hw := hw.2 q4
    by_cases q5 : x2 = (5 : Int32)
    · have hw := hw.1 q5
      refine lv_tableIn (tgt := 104) (off := 84) hx hb dX5_booking_20 (by rw [q5]; decide) (by rw [q5]; decide) (by rw [q5]; rfl) (by decide) ?_
      refine lv_aload_n hx hb dX5_booking_104 rfl (lv_at hl 0 rfl) ?_
      refine lv_iload_n hx hb dX5_booking_105 rfl (lv_at hl 1 rfl) ?_
      refine m_Vi (rest := []) hE hT hW (kM_priceNow l w _ x1 F_1 G hw) gM_priceNow dM_priceNow ⟨Nat.le_of_ble_eq_true rfl, Nat.le_of_ble_eq_true rfl, Nat.zero_le _, Nat.zero_le _⟩ rfl hl.1 rfl (Nat.le_of_ble_eq_true rfl) dX5_booking_106 (fun r_8 F9 G9 H locs hw hW => ?_)
      obtain ⟨eF9, eG9, hw⟩ := hw
      rw [eF9, eG9] at hW
      exact hQ _ _ _ _ _ trivial hw hW _ _ dX5_booking_109
    have hw := hw.2 q5
    by_cases q6 : x2 = (6 : Int32)
    · have hw := hw.1 q6
      refine lv_tableIn (tgt := 110) (off := 90) hx hb dX5_booking_20 (by rw [q6]; decide) (by rw [q6]; decide) (by rw [q6]; rfl) (by decide) ?_
      refine lv_aload_n hx hb dX5_booking_110 rfl (lv_at hl 0 rfl) ?_
      refine lv_iload_n hx hb dX5_booking_111 rfl (lv_at hl 1 rfl) ?_
      refine lv_bipush (v := (11 : Int32)) hx hb dX5_booking_112 (by decide) ?_
      refine m_Vi (rest := []) hE hT hW (kM_of l w _ x1 (11 : Int32) F_1 G hw) gM_of dM_of ⟨Nat.le_of_ble_eq_true rfl, Nat.le_of_ble_eq_true rfl, Nat.zero_le _, Nat.zero_le _⟩ rfl hl.1 rfl (Nat.le_of_ble_eq_true rfl) dX5_booking_114 (fun r_9 F9 G9 H locs hw hW => ?_)
      obtain ⟨eF9, eG9, hw⟩ := hw
      rw [eF9, eG9] at hW
      exact hQ _ _ _ _ _ trivial hw hW _ _ dX5_booking_117
    have hw := hw.2 q6
    by_cases q7 : x2 = (7 : Int32)
    · have hw := hw.1 q7
      refine lv_tableIn (tgt := 118) (off := 98) hx hb dX5_booking_20 (by rw [q7]; decide) (by rw [q7]; decide) (by rw [q7]; rfl) (by decide) ?_
      refine lv_aload_n hx hb dX5_booking_118 rfl (lv_at hl 0 rfl) ?_
      refine lv_iload_n hx hb dX5_booking_119 rfl (lv_at hl 1 rfl) ?_
      refine lv_bipush (v := (12 : Int32)) hx hb dX5_booking_120 (by decide) ?_
      refine m_Vi (rest := []) hE hT hW (kM_of l w _ x1 (12 : Int32) F_1 G hw) gM_of dM_of ⟨Nat.le_of_ble_eq_true rfl, Nat.le_of_ble_eq_true rfl, Nat.zero_le _, Nat.zero_le _⟩ rfl hl.1 rfl (Nat.le_of_ble_eq_true rfl) dX5_booking_122 (fun r_10 F9 G9 H locs hw hW => ?_)
      obtain ⟨eF9, eG9, hw⟩ := hw
      rw [eF9, eG9] at hW
      exact hQ _ _ _ _ _ trivial hw hW _ _ dX5_booking_125
    have hw := hw.2 q7
    refine lv_tableOut (tgt := 126) hx hb dX5_booking_20 (m_out (fun j h1 h2 => ?_)) (by decide) ?_
    · have h3 : j = 0 ∨ j = 1 ∨ j = 2 ∨ j = 3 ∨ j = 4 ∨ j = 5 ∨ j = 6 ∨ j = 7 := by omega
      rcases h3 with rfl | rfl | rfl | rfl | rfl | rfl | rfl | rfl
      · exact m_ne q0 rfl
      · exact m_ne q1 rfl
      · exact m_ne q2 rfl
      · exact m_ne q3 rfl
      · exact m_ne q4 rfl
      · exact m_ne q5 rfl
      · exact m_ne q6 rfl
      · exact m_ne q7 rfl
    refine lv_aload_n hx hb dX5_booking_126 rfl (lv_at hl 0 rfl) ?_
    refine lv_iconst (v := (2 : Int32)) hx hb dX5_booking_127 (by decide) ?_
    refine m_Vi (rest := []) hE hT hW (kM_fails l w _ (2 : Int32) F_1 G hw) gM_fails dM_fails ⟨Nat.le_of_ble_eq_true rfl, Nat.le_of_ble_eq_true rfl, Nat.zero_le _, Nat.zero_le _⟩ rfl hl.1 rfl (Nat.le_of_ble_eq_true rfl) dX5_booking_128 (fun r_11 F_12 G_13 H locs hw hW => ?_)
    exact hQ _ _ _ _ _ trivial hw hW _ _ dX5_booking_131
  · have hw := hw.1 q
    refine lv_aload_n hx hb dX5_booking_13 rfl (lv_at hl 0 rfl) ?_
    refine lv_iconst (v := (1 : Int32)) hx hb dX5_booking_14 (by decide) ?_
    refine m_Vi (rest := []) hE hT hW (kM_fails l w _ (1 : Int32) F_1 G hw) gM_fails dM_fails ⟨Nat.le_of_ble_eq_true rfl, Nat.le_of_ble_eq_true rfl, Nat.zero_le _, Nat.zero_le _⟩ rfl hl.1 rfl (Nat.le_of_ble_eq_true rfl) dX5_booking_15 (fun r_14 F_15 G_16 H locs hw hW => ?_)
    exact hQ _ _ _ _ _ trivial hw hW _ _ dX5_booking_18

/-! bookedNeed -/
def wM_bookedNeed (post : Int32 → MF → MG → Prop) (x1 : Int32) (x2 : Int32) (F : MF) (G : MG) : Prop :=
  ∀ F_1 : MF, F_1 = upd F 0 (0 : Int32) → wM_isBooking (fun r_2 => (r_2 = 0 → wM_fails (fun r_3 F_4 G_5 => post r_3 F_4 G_5) (1 : Int32) F_1 G) ∧ (¬ r_2 = 0 → wM_isKind (fun r_6 => (r_6 = 0 → wM_fails (fun r_8 F_9 G_10 => post r_8 F_9 G_10) (1 : Int32) F_1 G) ∧ (¬ r_6 = 0 → wM_of (fun r_7 => post r_7 F_1 G) x1 ((3 : Int32) + x2) F_1 G)) x2 F_1 G)) x1 F_1 G
set_option maxHeartbeats 4000000 in
theorem kM_bookedNeed (l : Launch) (w : MP) (post : Int32 → MF → MG → Prop) (x1 : Int32) (x2 : Int32) (F : MF) (G : MG) (hw : wM_bookedNeed post x1 x2 F G) : m_Mi l w yX5_bookedNeed cX5_bookedNeed 3 .int 2 [.ref (mp_h w), .int x1, .int x2] F G post := by
  refine m_ofWi (by decide) rfl (Nat.le_of_ble_eq_true rfl) (fun _ => True) (fun _ _ => rfl) ?_
  intro p e s m args below meth c Q ls hA hW hQ
  obtain ⟨hE, hT, hl⟩ := hA
  obtain ⟨hx, hb, hml, hown, hts⟩ := id hE
  have hl : lv_has ls 3 [(0, .ref (mp_h w)), (1, .int x1), (2, .int x2)] := hl
  unfold wM_bookedNeed at hw
  refine lv_aload_n hx hb dX5_bookedNeed_0 rfl (lv_at hl 0 rfl) ?_
  refine lv_iconst (v := (0 : Int32)) hx hb dX5_bookedNeed_1 (by decide) ?_
  refine m_put hx hb hown hts hT hW 0 (by decide) (hts _ q2129) rfl rfl (ty := .int) (x := (0 : Int32)) rfl rfl rfl rfl dX5_bookedNeed_2 (fun F_1 H locs eF_1 hW => ?_)
  have hw := hw F_1 eF_1
  refine lv_aload_n hx hb dX5_bookedNeed_5 rfl (lv_at hl 0 rfl) ?_
  refine lv_iload_n hx hb dX5_bookedNeed_6 rfl (lv_at hl 1 rfl) ?_
  refine m_Vi (rest := []) hE hT hW (kM_isBooking l w _ x1 F_1 G hw) gM_isBooking dM_isBooking ⟨Nat.le_of_ble_eq_true rfl, Nat.le_of_ble_eq_true rfl, Nat.zero_le _, Nat.zero_le _⟩ rfl hl.1 rfl (Nat.le_of_ble_eq_true rfl) dX5_bookedNeed_7 (fun r_2 F9 G9 H locs hw hW => ?_)
  obtain ⟨eF9, eG9, hw⟩ := hw
  rw [eF9, eG9] at hW
  refine lv_if_eq (tgt := 21) hx hb dX5_bookedNeed_10 (by decide) (fun q => ?_) (fun q => ?_)
  · have hw := hw.1 q
    refine lv_aload_n hx hb dX5_bookedNeed_21 rfl (lv_at hl 0 rfl) ?_
    refine lv_iconst (v := (1 : Int32)) hx hb dX5_bookedNeed_22 (by decide) ?_
    refine m_Vi (rest := []) hE hT hW (kM_fails l w _ (1 : Int32) F_1 G hw) gM_fails dM_fails ⟨Nat.le_of_ble_eq_true rfl, Nat.le_of_ble_eq_true rfl, Nat.zero_le _, Nat.zero_le _⟩ rfl hl.1 rfl (Nat.le_of_ble_eq_true rfl) dX5_bookedNeed_23 (fun r_3 F_4 G_5 H locs hw hW => ?_)
    exact hQ _ _ _ _ _ trivial hw hW _ _ dX5_bookedNeed_26
  · have hw := hw.2 q
    refine lv_aload_n hx hb dX5_bookedNeed_13 rfl (lv_at hl 0 rfl) ?_
    refine lv_iload_n hx hb dX5_bookedNeed_14 rfl (lv_at hl 2 rfl) ?_
    refine m_Vi (rest := []) hE hT hW (kM_isKind l w _ x2 F_1 G hw) gM_isKind dM_isKind ⟨Nat.le_of_ble_eq_true rfl, Nat.le_of_ble_eq_true rfl, Nat.zero_le _, Nat.zero_le _⟩ rfl hl.1 rfl (Nat.le_of_ble_eq_true rfl) dX5_bookedNeed_15 (fun r_6 F9 G9 H locs hw hW => ?_)
    obtain ⟨eF9, eG9, hw⟩ := hw
    rw [eF9, eG9] at hW
    refine lv_if_ne (tgt := 27) hx hb dX5_bookedNeed_18 (by decide) (fun q => ?_) (fun q => ?_)
    · have hw := hw.2 q
      refine lv_aload_n hx hb dX5_bookedNeed_27 rfl (lv_at hl 0 rfl) ?_
      refine lv_iload_n hx hb dX5_bookedNeed_28 rfl (lv_at hl 1 rfl) ?_
      refine lv_iconst (v := (3 : Int32)) hx hb dX5_bookedNeed_29 (by decide) ?_
      refine lv_iload_n hx hb dX5_bookedNeed_30 rfl (lv_at hl 2 rfl) ?_
      refine lv_iadd hx hb dX5_bookedNeed_31 ?_
      refine m_Vi (rest := []) hE hT hW (kM_of l w _ x1 ((3 : Int32) + x2) F_1 G hw) gM_of dM_of ⟨Nat.le_of_ble_eq_true rfl, Nat.le_of_ble_eq_true rfl, Nat.zero_le _, Nat.zero_le _⟩ rfl hl.1 rfl (Nat.le_of_ble_eq_true rfl) dX5_bookedNeed_32 (fun r_7 F9 G9 H locs hw hW => ?_)
      obtain ⟨eF9, eG9, hw⟩ := hw
      rw [eF9, eG9] at hW
      exact hQ _ _ _ _ _ trivial hw hW _ _ dX5_bookedNeed_35
    · have hw := hw.1 q
      refine lv_aload_n hx hb dX5_bookedNeed_21 rfl (lv_at hl 0 rfl) ?_
      refine lv_iconst (v := (1 : Int32)) hx hb dX5_bookedNeed_22 (by decide) ?_
      refine m_Vi (rest := []) hE hT hW (kM_fails l w _ (1 : Int32) F_1 G hw) gM_fails dM_fails ⟨Nat.le_of_ble_eq_true rfl, Nat.le_of_ble_eq_true rfl, Nat.zero_le _, Nat.zero_le _⟩ rfl hl.1 rfl (Nat.le_of_ble_eq_true rfl) dX5_bookedNeed_23 (fun r_8 F_9 G_10 H locs hw hW => ?_)
      exact hQ _ _ _ _ _ trivial hw hW _ _ dX5_bookedNeed_26

/-! requestCount -/
def wM_requestCount (post : Int32 → MF → MG → Prop) (F : MF) (G : MG) : Prop :=
  ∀ F_1 : MF, F_1 = upd F 0 (0 : Int32) → post (G 8 2) F_1 G
set_option maxHeartbeats 4000000 in
theorem kM_requestCount (l : Launch) (w : MP) (post : Int32 → MF → MG → Prop) (F : MF) (G : MG) (hw : wM_requestCount post F G) : m_Mi l w yX5_requestCount cX5_requestCount 1 .int 0 [.ref (mp_h w)] F G post := by
  refine m_ofWi (by decide) rfl (Nat.le_of_ble_eq_true rfl) (fun _ => True) (fun _ _ => rfl) ?_
  intro p e s m args below meth c Q ls hA hW hQ
  obtain ⟨hE, hT, hl⟩ := hA
  obtain ⟨hx, hb, hml, hown, hts⟩ := id hE
  have hl : lv_has ls 1 [(0, .ref (mp_h w))] := hl
  unfold wM_requestCount at hw
  refine lv_aload_n hx hb dX5_requestCount_0 rfl (lv_at hl 0 rfl) ?_
  refine lv_iconst (v := (0 : Int32)) hx hb dX5_requestCount_1 (by decide) ?_
  refine m_put hx hb hown hts hT hW 0 (by decide) (hts _ q2129) rfl rfl (ty := .int) (x := (0 : Int32)) rfl rfl rfl rfl dX5_requestCount_2 (fun F_1 H locs eF_1 hW => ?_)
  have hw := hw F_1 eF_1
  refine lv_aload_n hx hb dX5_requestCount_5 rfl (lv_at hl 0 rfl) ?_
  refine m_get hx hb hown hts hT hW 8 (by decide) (hts _ q2137) rfl (v := .ref (mp_a w 8)) rfl dX5_requestCount_6 ?_
  refine lv_iconst (v := (2 : Int32)) hx hb dX5_requestCount_9 (by decide) ?_
  refine m_iald hx hb hT hW (k := 8) (j := 2) (by decide) rfl (by unfold vp_in; decide) dX5_requestCount_10 ?_
  exact hQ _ _ _ _ _ trivial hw hW _ _ dX5_requestCount_11

/-! request -/
def wM_request (post : Int32 → MF → MG → Prop) (x1 : Int32) (x2 : Int32) (F : MF) (G : MG) : Prop :=
  ∀ F_1 : MF, F_1 = upd F 0 (0 : Int32) → wM_isIn (fun r_2 => (r_2 = 0 → wM_fails (fun r_7 F_8 G_9 => post r_7 F_8 G_9) (1 : Int32) F_1 G) ∧ (¬ r_2 = 0 → wM_requestAt (fun r_3 => (x2 = (0 : Int32) → vp_in (r_3 + (9 : Int32)) 1052 ∧ post (G 8 ((r_3 + (9 : Int32)).toNatClampNeg)) F_1 G) ∧ (¬ x2 = (0 : Int32) → (x2 = (1 : Int32) → vp_in (r_3 + (10 : Int32)) 1052 ∧ post (G 8 ((r_3 + (10 : Int32)).toNatClampNeg)) F_1 G) ∧ (¬ x2 = (1 : Int32) → (x2 = (2 : Int32) → vp_in (r_3 + (10 : Int32)) 1052 ∧ vp_in (r_3 + (2 : Int32)) 1052 ∧ post ((G 8 ((r_3 + (10 : Int32)).toNatClampNeg)) + (G 8 ((r_3 + (2 : Int32)).toNatClampNeg))) F_1 G) ∧ (¬ x2 = (2 : Int32) → (x2 = (3 : Int32) → vp_in (r_3 + (0 : Int32)) 1052 ∧ post (G 8 ((r_3 + (0 : Int32)).toNatClampNeg)) F_1 G) ∧ (¬ x2 = (3 : Int32) → (x2 = (4 : Int32) → vp_in (r_3 + (1 : Int32)) 1052 ∧ post (G 8 ((r_3 + (1 : Int32)).toNatClampNeg)) F_1 G) ∧ (¬ x2 = (4 : Int32) → wM_fails (fun r_4 F_5 G_6 => post r_4 F_5 G_6) (2 : Int32) F_1 G)))))) x1 F_1 G)) ((x1).toInt64) (0 : Int64) (((G 8 2) - (1 : Int32)).toInt64) F_1 G
set_option maxHeartbeats 4000000 in
theorem kM_request (l : Launch) (w : MP) (post : Int32 → MF → MG → Prop) (x1 : Int32) (x2 : Int32) (F : MF) (G : MG) (hw : wM_request post x1 x2 F G) : m_Mi l w yX5_request cX5_request 4 .int 1 [.ref (mp_h w), .int x1, .int x2] F G post := by
  refine m_ofWi (by decide) rfl (Nat.le_of_ble_eq_true rfl) (fun _ => True) (fun _ _ => rfl) ?_
  intro p e s m args below meth c Q ls hA hW hQ
  obtain ⟨hE, hT, hl⟩ := hA
  obtain ⟨hx, hb, hml, hown, hts⟩ := id hE
  have hl : lv_has ls 4 [(0, .ref (mp_h w)), (1, .int x1), (2, .int x2)] := hl
  unfold wM_request at hw
  refine lv_aload_n hx hb dX5_request_0 rfl (lv_at hl 0 rfl) ?_
  refine lv_iconst (v := (0 : Int32)) hx hb dX5_request_1 (by decide) ?_
  refine m_put hx hb hown hts hT hW 0 (by decide) (hts _ q2129) rfl rfl (ty := .int) (x := (0 : Int32)) rfl rfl rfl rfl dX5_request_2 (fun F_1 H locs eF_1 hW => ?_)
  have hw := hw F_1 eF_1
  refine lv_iload_n hx hb dX5_request_5 rfl (lv_at hl 1 rfl) ?_
  refine lv_i2l (v := (x1).toInt64) hx hb dX5_request_6 rfl ?_
  refine lv_lconst (v := (0 : Int64)) hx hb dX5_request_7 rfl ?_
  refine lv_aload_n hx hb dX5_request_8 rfl (lv_at hl 0 rfl) ?_
  refine m_get hx hb hown hts hT hW 8 (by decide) (hts _ q2137) rfl (v := .ref (mp_a w 8)) rfl dX5_request_9 ?_
  refine lv_iconst (v := (2 : Int32)) hx hb dX5_request_12 (by decide) ?_
  refine m_iald hx hb hT hW (k := 8) (j := 2) (by decide) rfl (by unfold vp_in; decide) dX5_request_13 ?_
  refine lv_iconst (v := (1 : Int32)) hx hb dX5_request_14 (by decide) ?_
  refine lv_isub hx hb dX5_request_15 ?_
  refine lv_i2l (v := ((G 8 2) - (1 : Int32)).toInt64) hx hb dX5_request_16 rfl ?_
  refine m_Si (rest := []) hE hT hW (kM_isIn l w _ ((x1).toInt64) (0 : Int64) (((G 8 2) - (1 : Int32)).toInt64) F_1 G hw) gM_isIn dM_isIn ⟨Nat.le_of_ble_eq_true rfl, Nat.le_of_ble_eq_true rfl, Nat.zero_le _, Nat.zero_le _⟩ rfl hl.1 rfl (Nat.le_of_ble_eq_true rfl) dX5_request_17 (fun r_2 F9 G9 H locs hw hW => ?_)
  obtain ⟨eF9, eG9, hw⟩ := hw
  rw [eF9, eG9] at hW
  refine lv_if_ne (tgt := 29) hx hb dX5_request_20 (by decide) (fun q => ?_) (fun q => ?_)
  · have hw := hw.2 q
    refine lv_iload_n hx hb dX5_request_29 rfl (lv_at hl 1 rfl) ?_
    refine m_Si (rest := []) hE hT hW (kM_requestAt l w _ x1 F_1 G hw) gM_requestAt dM_requestAt ⟨Nat.le_of_ble_eq_true rfl, Nat.le_of_ble_eq_true rfl, Nat.zero_le _, Nat.zero_le _⟩ rfl hl.1 rfl (Nat.le_of_ble_eq_true rfl) dX5_request_30 (fun r_3 F9 G9 H locs hw hW => ?_)
    obtain ⟨eF9, eG9, hw⟩ := hw
    rw [eF9, eG9] at hW
    refine lv_istore_n (lv' := [(3, .int r_3), (0, .ref (mp_h w)), (1, .int x1), (2, .int x2)]) hx hb dX5_request_33 rfl hl (by decide) rfl (fun ls hl => ?_)
    refine lv_iload_n hx hb dX5_request_34 rfl (lv_at hl 3 rfl) ?_
    by_cases q0 : x2 = (0 : Int32)
    · have hw := hw.1 q0
      refine lv_tableIn (tgt := 68) (off := 33) hx hb dX5_request_35 (by rw [q0]; decide) (by rw [q0]; decide) (by rw [q0]; rfl) (by decide) ?_
      refine lv_aload_n hx hb dX5_request_68 rfl (lv_at hl 1 rfl) ?_
      refine m_get hx hb hown hts hT hW 8 (by decide) (hts _ q2137) rfl (v := .ref (mp_a w 8)) rfl dX5_request_69 ?_
      refine lv_iload_n hx hb dX5_request_72 rfl (lv_at hl 0 rfl) ?_
      refine lv_bipush (v := (9 : Int32)) hx hb dX5_request_73 (by decide) ?_
      refine lv_iadd hx hb dX5_request_75 ?_
      obtain ⟨hi, hw⟩ := hw
      refine m_iald hx hb hT hW (k := 8) (j := ((r_3 + (9 : Int32)).toNatClampNeg)) rfl rfl hi dX5_request_76 ?_
      exact hQ _ _ _ _ _ trivial hw hW _ _ dX5_request_77
    have hw := hw.2 q0
    by_cases q1 : x2 = (1 : Int32)
    · have hw := hw.1 q1
      refine lv_tableIn (tgt := 78) (off := 43) hx hb dX5_request_35 (by rw [q1]; decide) (by rw [q1]; decide) (by rw [q1]; rfl) (by decide) ?_
      refine lv_aload_n hx hb dX5_request_78 rfl (lv_at hl 1 rfl) ?_
      refine m_get hx hb hown hts hT hW 8 (by decide) (hts _ q2137) rfl (v := .ref (mp_a w 8)) rfl dX5_request_79 ?_
      refine lv_iload_n hx hb dX5_request_82 rfl (lv_at hl 0 rfl) ?_
      refine lv_bipush (v := (10 : Int32)) hx hb dX5_request_83 (by decide) ?_
      refine lv_iadd hx hb dX5_request_85 ?_
      obtain ⟨hi, hw⟩ := hw
      refine m_iald hx hb hT hW (k := 8) (j := ((r_3 + (10 : Int32)).toNatClampNeg)) rfl rfl hi dX5_request_86 ?_
      exact hQ _ _ _ _ _ trivial hw hW _ _ dX5_request_87
    have hw := hw.2 q1
    by_cases q2 : x2 = (2 : Int32)
    · have hw := hw.1 q2
      refine lv_tableIn (tgt := 88) (off := 53) hx hb dX5_request_35 (by rw [q2]; decide) (by rw [q2]; decide) (by rw [q2]; rfl) (by decide) ?_
      refine lv_aload_n hx hb dX5_request_88 rfl (lv_at hl 1 rfl) ?_
      refine m_get hx hb hown hts hT hW 8 (by decide) (hts _ q2137) rfl (v := .ref (mp_a w 8)) rfl dX5_request_89 ?_
      refine lv_iload_n hx hb dX5_request_92 rfl (lv_at hl 0 rfl) ?_
      refine lv_bipush (v := (10 : Int32)) hx hb dX5_request_93 (by decide) ?_
      refine lv_iadd hx hb dX5_request_95 ?_
      obtain ⟨hi, hw⟩ := hw
      refine m_iald hx hb hT hW (k := 8) (j := ((r_3 + (10 : Int32)).toNatClampNeg)) rfl rfl hi dX5_request_96 ?_
      refine lv_aload_n hx hb dX5_request_97 rfl (lv_at hl 1 rfl) ?_
      refine m_get hx hb hown hts hT hW 8 (by decide) (hts _ q2137) rfl (v := .ref (mp_a w 8)) rfl dX5_request_98 ?_
      refine lv_iload_n hx hb dX5_request_101 rfl (lv_at hl 0 rfl) ?_
      refine lv_iconst (v := (2 : Int32)) hx hb dX5_request_102 (by decide) ?_
      refine lv_iadd hx hb dX5_request_103 ?_
      obtain ⟨hi, hw⟩ := hw
      refine m_iald hx hb hT hW (k := 8) (j := ((r_3 + (2 : Int32)).toNatClampNeg)) rfl rfl hi dX5_request_104 ?_
      refine lv_iadd hx hb dX5_request_105 ?_
      exact hQ _ _ _ _ _ trivial hw hW _ _ dX5_request_106
    have hw := hw.2 q2
    by_cases q3 : x2 = (3 : Int32)
    · have hw := hw.1 q3
      refine lv_tableIn (tgt := 107) (off := 72) hx hb dX5_request_35 (by rw [q3]; decide) (by rw [q3]; decide) (by rw [q3]; rfl) (by decide) ?_
      refine lv_aload_n hx hb dX5_request_107 rfl (lv_at hl 1 rfl) ?_
      refine m_get hx hb hown hts hT hW 8 (by decide) (hts _ q2137) rfl (v := .ref (mp_a w 8)) rfl dX5_request_108 ?_
      refine lv_iload_n hx hb dX5_request_111 rfl (lv_at hl 0 rfl) ?_
      refine lv_iconst (v := (0 : Int32)) hx hb dX5_request_112 (by decide) ?_
      refine lv_iadd hx hb dX5_request_113 ?_
      obtain ⟨hi, hw⟩ := hw
      refine m_iald hx hb hT hW (k := 8) (j := ((r_3 + (0 : Int32)).toNatClampNeg)) rfl rfl hi dX5_request_114 ?_
      exact hQ _ _ _ _ _ trivial hw hW _ _ dX5_request_115
    have hw := hw.2 q3
    by_cases q4 : x2 = (4 : Int32)
    · have hw := hw.1 q4
      refine lv_tableIn (tgt := 116) (off := 81) hx hb dX5_request_35 (by rw [q4]; decide) (by rw [q4]; decide) (by rw [q4]; rfl) (by decide) ?_
      refine lv_aload_n hx hb dX5_request_116 rfl (lv_at hl 1 rfl) ?_
      refine m_get hx hb hown hts hT hW 8 (by decide) (hts _ q2137) rfl (v := .ref (mp_a w 8)) rfl dX5_request_117 ?_
      refine lv_iload_n hx hb dX5_request_120 rfl (lv_at hl 0 rfl) ?_
      refine lv_iconst (v := (1 : Int32)) hx hb dX5_request_121 (by decide) ?_
      refine lv_iadd hx hb dX5_request_122 ?_
      obtain ⟨hi, hw⟩ := hw
      refine m_iald hx hb hT hW (k := 8) (j := ((r_3 + (1 : Int32)).toNatClampNeg)) rfl rfl hi dX5_request_123 ?_
      exact hQ _ _ _ _ _ trivial hw hW _ _ dX5_request_124
    have hw := hw.2 q4
    refine lv_tableOut (tgt := 125) hx hb dX5_request_35 (m_out (fun j h1 h2 => ?_)) (by decide) ?_
    · have h3 : j = 0 ∨ j = 1 ∨ j = 2 ∨ j = 3 ∨ j = 4 := by omega
      rcases h3 with rfl | rfl | rfl | rfl | rfl
      · exact m_ne q0 rfl
      · exact m_ne q1 rfl
      · exact m_ne q2 rfl
      · exact m_ne q3 rfl
      · exact m_ne q4 rfl
    refine lv_aload_n hx hb dX5_request_125 rfl (lv_at hl 1 rfl) ?_
    refine lv_iconst (v := (2 : Int32)) hx hb dX5_request_126 (by decide) ?_
    refine m_Vi (rest := []) hE hT hW (kM_fails l w _ (2 : Int32) F_1 G hw) gM_fails dM_fails ⟨Nat.le_of_ble_eq_true rfl, Nat.le_of_ble_eq_true rfl, Nat.zero_le _, Nat.zero_le _⟩ rfl hl.1 rfl (Nat.le_of_ble_eq_true rfl) dX5_request_127 (fun r_4 F_5 G_6 H locs hw hW => ?_)
    exact hQ _ _ _ _ _ trivial hw hW _ _ dX5_request_130
  · have hw := hw.1 q
    refine lv_aload_n hx hb dX5_request_23 rfl (lv_at hl 0 rfl) ?_
    refine lv_iconst (v := (1 : Int32)) hx hb dX5_request_24 (by decide) ?_
    refine m_Vi (rest := []) hE hT hW (kM_fails l w _ (1 : Int32) F_1 G hw) gM_fails dM_fails ⟨Nat.le_of_ble_eq_true rfl, Nat.le_of_ble_eq_true rfl, Nat.zero_le _, Nat.zero_le _⟩ rfl hl.1 rfl (Nat.le_of_ble_eq_true rfl) dX5_request_25 (fun r_7 F_8 G_9 H locs hw hW => ?_)
    exact hQ _ _ _ _ _ trivial hw hW _ _ dX5_request_28

/-! revenue -/
def wM_revenue_b9 (post : Int32 → MF → MG → Prop) (K9 : Int32 → Int32 → MF → MG → Prop) (y1 : Int32) (y2 : Int32) (F : MF) (G : MG) : Prop :=
  ((G 8 1) ≤ y2 → post y1 F G) ∧ (¬ (G 8 1) ≤ y2 → wM_isActive (fun r_1 => (r_1 = 0 → wM_of (fun r_2 => ∀ x1_3 : Int32, x1_3 = (y1 + r_2) → K9 x1_3 (y2 + (1 : Int32)) F G) y2 (12 : Int32) F G) ∧ (¬ r_1 = 0 → wM_priceNow (fun r_4 => ∀ x1_5 : Int32, x1_5 = (y1 + r_4) → K9 x1_5 (y2 + (1 : Int32)) F G) y2 F G)) y2 F G)
def wM_revenue_l9 (post : Int32 → MF → MG → Prop) : Nat → Int32 → Int32 → MF → MG → Prop
  | 0 => fun _ _ _ _ => False
  | n + 1 => wM_revenue_b9 post (wM_revenue_l9 post n)
def wM_revenue (post : Int32 → MF → MG → Prop) (F : MF) (G : MG) : Prop :=
  ∀ F_6 : MF, F_6 = upd F 0 (0 : Int32) → ∃ n, wM_revenue_l9 post n (0 : Int32) (0 : Int32) F_6 G
set_option maxHeartbeats 4000000 in
theorem kM_revenue (l : Launch) (w : MP) (post : Int32 → MF → MG → Prop) (F : MF) (G : MG) (hw : wM_revenue post F G) : m_Mi l w yX5_revenue cX5_revenue 3 .int 3 [.ref (mp_h w)] F G post := by
  refine m_ofWi (by decide) rfl (Nat.le_of_ble_eq_true rfl) (fun _ => True) (fun _ _ => rfl) ?_
  intro p e s m args below meth c Q ls hA hW hQ
  obtain ⟨hE, hT, hl⟩ := hA
  obtain ⟨hx, hb, hml, hown, hts⟩ := id hE
  have hl : lv_has ls 3 [(0, .ref (mp_h w))] := hl
  have lp9 : ∀ (n9 : Nat) (y1 : Int32) (y2 : Int32) (F : MF) (G : MG) (H : Heap) (locs : List Loc) (ls : Array Slot), lv_has ls 3 [(0, .ref (mp_h w)), (1, .int y1), (2, .int y2)] → m_W w s.heap F G H locs → wM_revenue_l9 post n9 y1 y2 F G → W p l e (mrm 3) s m args below meth c H locs 0 0 Q (F0 m 9 ls []) := by
    intro n9
    induction n9 with
    | zero => intro y1 y2 F G H locs ls hl hW hw; exact hw.elim
    | succ n9 ih9 =>
      intro y1 y2 F G H locs ls hl hW hw
      have hw : wM_revenue_b9 post (wM_revenue_l9 post n9) y1 y2 F G := hw
      unfold wM_revenue_b9 at hw
      refine lv_iload_n hx hb dX5_revenue_9 rfl (lv_at hl 2 rfl) ?_
      refine lv_aload_n hx hb dX5_revenue_10 rfl (lv_at hl 0 rfl) ?_
      refine m_get hx hb hown hts hT hW 8 (by decide) (hts _ q2137) rfl (v := .ref (mp_a w 8)) rfl dX5_revenue_11 ?_
      refine lv_iconst (v := (1 : Int32)) hx hb dX5_revenue_14 (by decide) ?_
      refine m_iald hx hb hT hW (k := 8) (j := 1) (by decide) rfl (by unfold vp_in; decide) dX5_revenue_15 ?_
      refine lv_icmp_ge (tgt := 51) hx hb dX5_revenue_16 (by decide) (fun q => ?_) (fun q => ?_)
      · have hw := hw.1 q
        refine lv_iload_n hx hb dX5_revenue_51 rfl (lv_at hl 1 rfl) ?_
        exact hQ _ _ _ _ _ trivial hw hW _ _ dX5_revenue_52
      · have hw := hw.2 q
        refine lv_iload_n hx hb dX5_revenue_19 rfl (lv_at hl 1 rfl) ?_
        refine lv_aload_n hx hb dX5_revenue_20 rfl (lv_at hl 0 rfl) ?_
        refine lv_iload_n hx hb dX5_revenue_21 rfl (lv_at hl 2 rfl) ?_
        refine m_Vi (rest := [.int y1]) hE hT hW (kM_isActive l w _ y2 F G hw) gM_isActive dM_isActive ⟨Nat.le_of_ble_eq_true rfl, Nat.le_of_ble_eq_true rfl, Nat.zero_le _, Nat.zero_le _⟩ rfl hl.1 rfl (Nat.le_of_ble_eq_true rfl) dX5_revenue_22 (fun r_1 F9 G9 H locs hw hW => ?_)
        obtain ⟨eF9, eG9, hw⟩ := hw
        rw [eF9, eG9] at hW
        refine lv_if_eq (tgt := 36) hx hb dX5_revenue_25 (by decide) (fun q => ?_) (fun q => ?_)
        · have hw := hw.1 q
          refine lv_aload_n hx hb dX5_revenue_36 rfl (lv_at hl 0 rfl) ?_
          refine lv_iload_n hx hb dX5_revenue_37 rfl (lv_at hl 2 rfl) ?_
          refine lv_bipush (v := (12 : Int32)) hx hb dX5_revenue_38 (by decide) ?_
          refine m_Vi (rest := [.int y1]) hE hT hW (kM_of l w _ y2 (12 : Int32) F G hw) gM_of dM_of ⟨Nat.le_of_ble_eq_true rfl, Nat.le_of_ble_eq_true rfl, Nat.zero_le _, Nat.zero_le _⟩ rfl hl.1 rfl (Nat.le_of_ble_eq_true rfl) dX5_revenue_40 (fun r_2 F9 G9 H locs hw hW => ?_)
          obtain ⟨eF9, eG9, hw⟩ := hw
          rw [eF9, eG9] at hW
          refine lv_iadd hx hb dX5_revenue_43 ?_
          refine lv_topi (fun x1_3 ex1_3 => ?_)
          have hw := hw x1_3 ex1_3
          refine lv_istore_n (lv' := [(1, .int x1_3), (0, .ref (mp_h w)), (2, .int y2)]) hx hb dX5_revenue_44 rfl hl (by decide) rfl (fun ls hl => ?_)
          refine lv_iinc (v := (y2 + (1 : Int32))) (lv' := [(2, .int (y2 + (1 : Int32))), (1, .int x1_3), (0, .ref (mp_h w))]) hx hb dX5_revenue_45 hl (k := 2) rfl rfl (by decide) rfl (fun ls hl => ?_)
          refine lv_goto (tgt := 9) hx hb dX5_revenue_48 (by decide) ?_
          exact ih9 x1_3 (y2 + (1 : Int32)) F G _ _ _ (lv_sub hl [2, 1, 0] rfl) hW hw
        · have hw := hw.2 q
          refine lv_aload_n hx hb dX5_revenue_28 rfl (lv_at hl 0 rfl) ?_
          refine lv_iload_n hx hb dX5_revenue_29 rfl (lv_at hl 2 rfl) ?_
          refine m_Vi (rest := [.int y1]) hE hT hW (kM_priceNow l w _ y2 F G hw) gM_priceNow dM_priceNow ⟨Nat.le_of_ble_eq_true rfl, Nat.le_of_ble_eq_true rfl, Nat.zero_le _, Nat.zero_le _⟩ rfl hl.1 rfl (Nat.le_of_ble_eq_true rfl) dX5_revenue_30 (fun r_4 F9 G9 H locs hw hW => ?_)
          obtain ⟨eF9, eG9, hw⟩ := hw
          rw [eF9, eG9] at hW
          refine lv_goto (tgt := 43) hx hb dX5_revenue_33 (by decide) ?_
          refine lv_iadd hx hb dX5_revenue_43 ?_
          refine lv_topi (fun x1_5 ex1_5 => ?_)
          have hw := hw x1_5 ex1_5
          refine lv_istore_n (lv' := [(1, .int x1_5), (0, .ref (mp_h w)), (2, .int y2)]) hx hb dX5_revenue_44 rfl hl (by decide) rfl (fun ls hl => ?_)
          refine lv_iinc (v := (y2 + (1 : Int32))) (lv' := [(2, .int (y2 + (1 : Int32))), (1, .int x1_5), (0, .ref (mp_h w))]) hx hb dX5_revenue_45 hl (k := 2) rfl rfl (by decide) rfl (fun ls hl => ?_)
          refine lv_goto (tgt := 9) hx hb dX5_revenue_48 (by decide) ?_
          exact ih9 x1_5 (y2 + (1 : Int32)) F G _ _ _ (lv_sub hl [2, 1, 0] rfl) hW hw
  unfold wM_revenue at hw
  refine lv_aload_n hx hb dX5_revenue_0 rfl (lv_at hl 0 rfl) ?_
  refine lv_iconst (v := (0 : Int32)) hx hb dX5_revenue_1 (by decide) ?_
  refine m_put hx hb hown hts hT hW 0 (by decide) (hts _ q2129) rfl rfl (ty := .int) (x := (0 : Int32)) rfl rfl rfl rfl dX5_revenue_2 (fun F_6 H locs eF_6 hW => ?_)
  have hw := hw F_6 eF_6
  refine lv_iconst (v := (0 : Int32)) hx hb dX5_revenue_5 (by decide) ?_
  refine lv_istore_n (lv' := [(1, .int (0 : Int32)), (0, .ref (mp_h w))]) hx hb dX5_revenue_6 rfl hl (by decide) rfl (fun ls hl => ?_)
  refine lv_iconst (v := (0 : Int32)) hx hb dX5_revenue_7 (by decide) ?_
  refine lv_istore_n (lv' := [(2, .int (0 : Int32)), (1, .int (0 : Int32)), (0, .ref (mp_h w))]) hx hb dX5_revenue_8 rfl hl (by decide) rfl (fun ls hl => ?_)
  obtain ⟨n_7, hw⟩ := hw
  exact lp9 n_7 (0 : Int32) (0 : Int32) F_6 G _ _ _ (lv_sub hl [2, 1, 0] rfl) hW hw

/-! whyNotDraft -/
def wM_whyNotDraft (post : Int32 → Prop) (x1 : Int32) (x2 : Int32) (F : MF) (G : MG) : Prop :=
  wM_whyNotSlot (fun r_1 => (r_1 = 0 → ((G 1 1) = 0 → post (3 : Int32)) ∧ (¬ (G 1 1) = 0 → post r_1)) ∧ (¬ r_1 = 0 → post r_1)) x1 x2 F G
set_option maxHeartbeats 4000000 in
theorem kM_whyNotDraft (l : Launch) (w : MP) (post : Int32 → Prop) (x1 : Int32) (x2 : Int32) (F : MF) (G : MG) (hw : wM_whyNotDraft post x1 x2 F G) : m_Mi l w yX5_whyNotDraft cX5_whyNotDraft 4 .int 3 [.ref (mp_h w), .int x1, .int x2] F G (fun r F1 G1 => F1 = F ∧ G1 = G ∧ post r) := by
  refine m_ofWi (by decide) rfl (Nat.le_of_ble_eq_true rfl) (fun _ => True) (fun _ _ => rfl) ?_
  intro p e s m args below meth c Q ls hA hW hQ
  obtain ⟨hE, hT, hl⟩ := hA
  obtain ⟨hx, hb, hml, hown, hts⟩ := id hE
  have hl : lv_has ls 4 [(0, .ref (mp_h w)), (1, .int x1), (2, .int x2)] := hl
  unfold wM_whyNotDraft at hw
  refine lv_aload_n hx hb dX5_whyNotDraft_0 rfl (lv_at hl 0 rfl) ?_
  refine lv_iload_n hx hb dX5_whyNotDraft_1 rfl (lv_at hl 1 rfl) ?_
  refine lv_iload_n hx hb dX5_whyNotDraft_2 rfl (lv_at hl 2 rfl) ?_
  refine m_Vi (rest := []) hE hT hW (kM_whyNotSlot l w _ x1 x2 F G hw) gM_whyNotSlot dM_whyNotSlot ⟨Nat.le_of_ble_eq_true rfl, Nat.le_of_ble_eq_true rfl, Nat.zero_le _, Nat.zero_le _⟩ rfl hl.1 rfl (Nat.le_of_ble_eq_true rfl) dX5_whyNotDraft_3 (fun r_1 F9 G9 H locs hw hW => ?_)
  obtain ⟨eF9, eG9, hw⟩ := hw
  rw [eF9, eG9] at hW
  refine lv_istore_n (lv' := [(3, .int r_1), (0, .ref (mp_h w)), (1, .int x1), (2, .int x2)]) hx hb dX5_whyNotDraft_6 rfl hl (by decide) rfl (fun ls hl => ?_)
  refine lv_iload_n hx hb dX5_whyNotDraft_7 rfl (lv_at hl 0 rfl) ?_
  refine lv_if_ne (tgt := 24) hx hb dX5_whyNotDraft_8 (by decide) (fun q => ?_) (fun q => ?_)
  · have hw := hw.2 q
    refine lv_iload_n hx hb dX5_whyNotDraft_24 rfl (lv_at hl 0 rfl) ?_
    exact hQ _ _ _ _ _ trivial ⟨rfl, rfl, hw⟩ hW _ _ dX5_whyNotDraft_25
  · have hw := hw.1 q
    refine lv_aload_n hx hb dX5_whyNotDraft_11 rfl (lv_at hl 1 rfl) ?_
    refine m_get hx hb hown hts hT hW 1 (by decide) (hts _ q2130) rfl (v := .ref (mp_a w 1)) rfl dX5_whyNotDraft_12 ?_
    refine lv_iconst (v := (1 : Int32)) hx hb dX5_whyNotDraft_15 (by decide) ?_
    refine m_iald hx hb hT hW (k := 1) (j := 1) (by decide) rfl (by unfold vp_in; decide) dX5_whyNotDraft_16 ?_
    refine lv_if_ne (tgt := 24) hx hb dX5_whyNotDraft_17 (by decide) (fun q => ?_) (fun q => ?_)
    · have hw := hw.2 q
      refine lv_iload_n hx hb dX5_whyNotDraft_24 rfl (lv_at hl 0 rfl) ?_
      exact hQ _ _ _ _ _ trivial ⟨rfl, rfl, hw⟩ hW _ _ dX5_whyNotDraft_25
    · have hw := hw.1 q
      refine lv_iconst (v := (3 : Int32)) hx hb dX5_whyNotDraft_20 (by decide) ?_
      refine lv_goto (tgt := 25) hx hb dX5_whyNotDraft_21 (by decide) ?_
      exact hQ _ _ _ _ _ trivial ⟨rfl, rfl, hw⟩ hW _ _ dX5_whyNotDraft_25
theorem gM_whyNotDraft : GoodIn lw_all (wsV RX5 385 RX5 yX5_whyNotDraft (ws_ yX5_whyNotDraft cX5_whyNotDraft 4 (some .int))) := lw_V q2634 q2636 qs132 q154 q2637
theorem dM_whyNotDraft : yX5_whyNotDraft.cls = RX5 ∧ yX5_whyNotDraft.cls ≠ "java/lang/invoke/MethodHandle" ∧ yX5_whyNotDraft.cls ≠ "java/lang/invoke/VarHandle" ∧ (parseMethodDescriptor yX5_whyNotDraft.desc).map (fun d => d.parameters.length) = some 2 := by decide +kernel

/-! problem -/
def wM_problem (post : Int32 → MF → MG → Prop) (x1 : Int32) (x2 : Int32) (F : MF) (G : MG) : Prop :=
  wM_whyNotDraft (fun r_1 => ∀ F_2 : MF, F_2 = upd F 0 r_1 → ((F_2 0) ≤ 0 → wM_draftProblem (fun r_3 F_4 G_5 => post r_3 F_4 G_5) x1 x2 F_2 G) ∧ (¬ (F_2 0) ≤ 0 → post (0 : Int32) F_2 G)) x1 x2 F G
set_option maxHeartbeats 4000000 in
theorem kM_problem (l : Launch) (w : MP) (post : Int32 → MF → MG → Prop) (x1 : Int32) (x2 : Int32) (F : MF) (G : MG) (hw : wM_problem post x1 x2 F G) : m_Mi l w yX5_problem cX5_problem 3 .int 8 [.ref (mp_h w), .int x1, .int x2] F G post := by
  refine m_ofWi (by decide) rfl (Nat.le_of_ble_eq_true rfl) (fun _ => True) (fun _ _ => rfl) ?_
  intro p e s m args below meth c Q ls hA hW hQ
  obtain ⟨hE, hT, hl⟩ := hA
  obtain ⟨hx, hb, hml, hown, hts⟩ := id hE
  have hl : lv_has ls 3 [(0, .ref (mp_h w)), (1, .int x1), (2, .int x2)] := hl
  unfold wM_problem at hw
  refine lv_aload_n hx hb dX5_problem_0 rfl (lv_at hl 0 rfl) ?_
  refine lv_aload_n hx hb dX5_problem_1 rfl (lv_at hl 0 rfl) ?_
  refine lv_iload_n hx hb dX5_problem_2 rfl (lv_at hl 1 rfl) ?_
  refine lv_iload_n hx hb dX5_problem_3 rfl (lv_at hl 2 rfl) ?_
  refine m_Vi (rest := [.ref (mp_h w)]) hE hT hW (kM_whyNotDraft l w _ x1 x2 F G hw) gM_whyNotDraft dM_whyNotDraft ⟨Nat.le_of_ble_eq_true rfl, Nat.le_of_ble_eq_true rfl, Nat.zero_le _, Nat.zero_le _⟩ rfl hl.1 rfl (Nat.le_of_ble_eq_true rfl) dX5_problem_4 (fun r_1 F9 G9 H locs hw hW => ?_)
  obtain ⟨eF9, eG9, hw⟩ := hw
  rw [eF9, eG9] at hW
  refine m_put hx hb hown hts hT hW 0 (by decide) (hts _ q2129) rfl rfl (ty := .int) (x := r_1) rfl rfl rfl rfl dX5_problem_7 (fun F_2 H locs eF_2 hW => ?_)
  have hw := hw F_2 eF_2
  refine lv_aload_n hx hb dX5_problem_10 rfl (lv_at hl 0 rfl) ?_
  refine m_get hx hb hown hts hT hW 0 (by decide) (hts _ q2129) rfl (v := .int (F_2 0)) rfl dX5_problem_11 ?_
  refine lv_if_le (tgt := 21) hx hb dX5_problem_14 (by decide) (fun q => ?_) (fun q => ?_)
  · have hw := hw.1 q
    refine lv_aload_n hx hb dX5_problem_21 rfl (lv_at hl 0 rfl) ?_
    refine lv_iload_n hx hb dX5_problem_22 rfl (lv_at hl 1 rfl) ?_
    refine lv_iload_n hx hb dX5_problem_23 rfl (lv_at hl 2 rfl) ?_
    refine m_Vi (rest := []) hE hT hW (kM_draftProblem l w _ x1 x2 F_2 G hw) gM_draftProblem dM_draftProblem ⟨Nat.le_of_ble_eq_true rfl, Nat.le_of_ble_eq_true rfl, Nat.zero_le _, Nat.zero_le _⟩ rfl hl.1 rfl (Nat.le_of_ble_eq_true rfl) dX5_problem_24 (fun r_3 F_4 G_5 H locs hw hW => ?_)
    exact hQ _ _ _ _ _ trivial hw hW _ _ dX5_problem_27
  · have hw := hw.2 q
    refine lv_iconst (v := (0 : Int32)) hx hb dX5_problem_17 (by decide) ?_
    refine lv_goto (tgt := 27) hx hb dX5_problem_18 (by decide) ?_
    exact hQ _ _ _ _ _ trivial hw hW _ _ dX5_problem_27

/-! price -/
def wM_price (post : Int32 → MF → MG → Prop) (x1 : Int32) (x2 : Int32) (F : MF) (G : MG) : Prop :=
  wM_whyNotSlot (fun r_1 => ∀ F_2 : MF, F_2 = upd F 0 r_1 → ((F_2 0) ≤ 0 → wM_priceOf (fun r_3 => post r_3 F_2 G) (6) (0 : Int32) x1 x2 F_2 G) ∧ (¬ (F_2 0) ≤ 0 → post (0 : Int32) F_2 G)) x1 x2 F G
set_option maxHeartbeats 4000000 in
theorem kM_price (l : Launch) (w : MP) (post : Int32 → MF → MG → Prop) (x1 : Int32) (x2 : Int32) (F : MF) (G : MG) (hw : wM_price post x1 x2 F G) : m_Mi l w yX5_price cX5_price 3 .int 3 [.ref (mp_h w), .int x1, .int x2] F G post := by
  refine m_ofWi (by decide) rfl (Nat.le_of_ble_eq_true rfl) (fun _ => True) (fun _ _ => rfl) ?_
  intro p e s m args below meth c Q ls hA hW hQ
  obtain ⟨hE, hT, hl⟩ := hA
  obtain ⟨hx, hb, hml, hown, hts⟩ := id hE
  have hl : lv_has ls 3 [(0, .ref (mp_h w)), (1, .int x1), (2, .int x2)] := hl
  unfold wM_price at hw
  refine lv_aload_n hx hb dX5_price_0 rfl (lv_at hl 0 rfl) ?_
  refine lv_aload_n hx hb dX5_price_1 rfl (lv_at hl 0 rfl) ?_
  refine lv_iload_n hx hb dX5_price_2 rfl (lv_at hl 1 rfl) ?_
  refine lv_iload_n hx hb dX5_price_3 rfl (lv_at hl 2 rfl) ?_
  refine m_Vi (rest := [.ref (mp_h w)]) hE hT hW (kM_whyNotSlot l w _ x1 x2 F G hw) gM_whyNotSlot dM_whyNotSlot ⟨Nat.le_of_ble_eq_true rfl, Nat.le_of_ble_eq_true rfl, Nat.zero_le _, Nat.zero_le _⟩ rfl hl.1 rfl (Nat.le_of_ble_eq_true rfl) dX5_price_4 (fun r_1 F9 G9 H locs hw hW => ?_)
  obtain ⟨eF9, eG9, hw⟩ := hw
  rw [eF9, eG9] at hW
  refine m_put hx hb hown hts hT hW 0 (by decide) (hts _ q2129) rfl rfl (ty := .int) (x := r_1) rfl rfl rfl rfl dX5_price_7 (fun F_2 H locs eF_2 hW => ?_)
  have hw := hw F_2 eF_2
  refine lv_aload_n hx hb dX5_price_10 rfl (lv_at hl 0 rfl) ?_
  refine m_get hx hb hown hts hT hW 0 (by decide) (hts _ q2129) rfl (v := .int (F_2 0)) rfl dX5_price_11 ?_
  refine lv_if_le (tgt := 21) hx hb dX5_price_14 (by decide) (fun q => ?_) (fun q => ?_)
  · have hw := hw.1 q
    refine lv_aload_n hx hb dX5_price_21 rfl (lv_at hl 0 rfl) ?_
    refine lv_aload_n hx hb dX5_price_22 rfl (lv_at hl 0 rfl) ?_
    refine m_get hx hb hown hts hT hW 6 (by decide) (hts _ q2135) rfl (v := .ref (mp_a w 6)) rfl dX5_price_23 ?_
    refine lv_iconst (v := (0 : Int32)) hx hb dX5_price_26 (by decide) ?_
    refine lv_iload_n hx hb dX5_price_27 rfl (lv_at hl 1 rfl) ?_
    refine lv_iload_n hx hb dX5_price_28 rfl (lv_at hl 2 rfl) ?_
    refine m_Vi (rest := []) hE hT hW (kM_priceOf l w _ (6) (0 : Int32) x1 x2 F_2 G hw) gM_priceOf dM_priceOf ⟨Nat.le_of_ble_eq_true rfl, Nat.le_of_ble_eq_true rfl, Nat.zero_le _, Nat.zero_le _⟩ rfl hl.1 rfl (Nat.le_of_ble_eq_true rfl) dX5_price_29 (fun r_3 F9 G9 H locs hw hW => ?_)
    obtain ⟨eF9, eG9, hw⟩ := hw
    rw [eF9, eG9] at hW
    exact hQ _ _ _ _ _ trivial hw hW _ _ dX5_price_32
  · have hw := hw.2 q
    refine lv_iconst (v := (0 : Int32)) hx hb dX5_price_17 (by decide) ?_
    refine lv_goto (tgt := 32) hx hb dX5_price_18 (by decide) ?_
    exact hQ _ _ _ _ _ trivial hw hW _ _ dX5_price_32

/-! earliestIn -/
def wM_earliestIn_b13 (post : Int32 → MF → MG → Prop) (K13 : Int32 → Int32 → MF → MG → Prop) (y1 : Int32) (y3 : Int32) (F : MF) (G : MG) : Prop :=
  ((86385 : Int32) < y3 → post (-1 : Int32) F G) ∧ (¬ (86385 : Int32) < y3 → wM_draftProblem (fun r_1 F_2 G_3 => (r_1 = 0 → post y3 F_2 G_3) ∧ (¬ r_1 = 0 → K13 y1 (y3 + (15 : Int32)) F_2 G_3)) y1 y3 F G)
def wM_earliestIn_l13 (post : Int32 → MF → MG → Prop) : Nat → Int32 → Int32 → MF → MG → Prop
  | 0 => fun _ _ _ _ => False
  | n + 1 => wM_earliestIn_b13 post (wM_earliestIn_l13 post n)
def wM_earliestIn (post : Int32 → MF → MG → Prop) (x1 : Int32) (x2 : Int32) (F : MF) (G : MG) : Prop :=
  ∀ x3_4 : Int32, x3_4 = ((((x2 + (15 : Int32)) - (1 : Int32)) / (15 : Int32)) * (15 : Int32)) → ∃ n, wM_earliestIn_l13 post n x1 x3_4 F G
set_option maxHeartbeats 4000000 in
theorem kM_earliestIn (l : Launch) (w : MP) (post : Int32 → MF → MG → Prop) (x1 : Int32) (x2 : Int32) (F : MF) (G : MG) (hw : wM_earliestIn post x1 x2 F G) : m_Mi l w yX5_earliestIn cX5_earliestIn 4 .int 8 [.ref (mp_h w), .int x1, .int x2] F G post := by
  refine m_ofWi (by decide) rfl (Nat.le_of_ble_eq_true rfl) (fun _ => True) (fun _ _ => rfl) ?_
  intro p e s m args below meth c Q ls hA hW hQ
  obtain ⟨hE, hT, hl⟩ := hA
  obtain ⟨hx, hb, hml, hown, hts⟩ := id hE
  have hl : lv_has ls 4 [(0, .ref (mp_h w)), (1, .int x1), (2, .int x2)] := hl
  have lp13 : ∀ (n13 : Nat) (y1 : Int32) (y3 : Int32) (F : MF) (G : MG) (H : Heap) (locs : List Loc) (ls : Array Slot), lv_has ls 4 [(0, .ref (mp_h w)), (1, .int y1), (3, .int y3)] → m_W w s.heap F G H locs → wM_earliestIn_l13 post n13 y1 y3 F G → W p l e (mrm 8) s m args below meth c H locs 0 0 Q (F0 m 13 ls []) := by
    intro n13
    induction n13 with
    | zero => intro y1 y3 F G H locs ls hl hW hw; exact hw.elim
    | succ n13 ih13 =>
      intro y1 y3 F G H locs ls hl hW hw
      have hw : wM_earliestIn_b13 post (wM_earliestIn_l13 post n13) y1 y3 F G := hw
      unfold wM_earliestIn_b13 at hw
      refine lv_iload_n hx hb dX5_earliestIn_13 rfl (lv_at hl 2 rfl) ?_
      refine lv_ldc hx hb hown (hts _ q2349) dX5_earliestIn_14 ?_
      refine lv_icmp_gt (tgt := 36) hx hb dX5_earliestIn_16 (by decide) (fun q => ?_) (fun q => ?_)
      · have hw := hw.1 q
        refine lv_iconst (v := (-1 : Int32)) hx hb dX5_earliestIn_36 (by decide) ?_
        exact hQ _ _ _ _ _ trivial hw hW _ _ dX5_earliestIn_37
      · have hw := hw.2 q
        refine lv_aload_n hx hb dX5_earliestIn_19 rfl (lv_at hl 0 rfl) ?_
        refine lv_iload_n hx hb dX5_earliestIn_20 rfl (lv_at hl 1 rfl) ?_
        refine lv_iload_n hx hb dX5_earliestIn_21 rfl (lv_at hl 2 rfl) ?_
        refine m_Vi (rest := []) hE hT hW (kM_draftProblem l w _ y1 y3 F G hw) gM_draftProblem dM_draftProblem ⟨Nat.le_of_ble_eq_true rfl, Nat.le_of_ble_eq_true rfl, Nat.zero_le _, Nat.zero_le _⟩ rfl hl.1 rfl (Nat.le_of_ble_eq_true rfl) dX5_earliestIn_22 (fun r_1 F_2 G_3 H locs hw hW => ?_)
        refine lv_if_ne (tgt := 30) hx hb dX5_earliestIn_25 (by decide) (fun q => ?_) (fun q => ?_)
        · have hw := hw.2 q
          refine lv_iinc (v := (y3 + (15 : Int32))) (lv' := [(3, .int (y3 + (15 : Int32))), (0, .ref (mp_h w)), (1, .int y1)]) hx hb dX5_earliestIn_30 hl (k := 2) rfl rfl (by decide) rfl (fun ls hl => ?_)
          refine lv_goto (tgt := 13) hx hb dX5_earliestIn_33 (by decide) ?_
          exact ih13 y1 (y3 + (15 : Int32)) F_2 G_3 _ _ _ (lv_sub hl [1, 2, 0] rfl) hW hw
        · have hw := hw.1 q
          refine lv_iload_n hx hb dX5_earliestIn_28 rfl (lv_at hl 2 rfl) ?_
          exact hQ _ _ _ _ _ trivial hw hW _ _ dX5_earliestIn_29
  unfold wM_earliestIn at hw
  refine lv_iload_n hx hb dX5_earliestIn_0 rfl (lv_at hl 2 rfl) ?_
  refine lv_bipush (v := (15 : Int32)) hx hb dX5_earliestIn_1 (by decide) ?_
  refine lv_iadd hx hb dX5_earliestIn_3 ?_
  refine lv_iconst (v := (1 : Int32)) hx hb dX5_earliestIn_4 (by decide) ?_
  refine lv_isub hx hb dX5_earliestIn_5 ?_
  refine lv_bipush (v := (15 : Int32)) hx hb dX5_earliestIn_6 (by decide) ?_
  refine lv_idiv hx hb dX5_earliestIn_8 (by decide) ?_
  refine lv_bipush (v := (15 : Int32)) hx hb dX5_earliestIn_9 (by decide) ?_
  refine lv_imul hx hb dX5_earliestIn_11 ?_
  refine lv_topi (fun x3_4 ex3_4 => ?_)
  have hw := hw x3_4 ex3_4
  refine lv_istore_n (lv' := [(3, .int x3_4), (0, .ref (mp_h w)), (1, .int x1), (2, .int x2)]) hx hb dX5_earliestIn_12 rfl hl (by decide) rfl (fun ls hl => ?_)
  obtain ⟨n_5, hw⟩ := hw
  exact lp13 n_5 x1 x3_4 F G _ _ _ (lv_sub hl [1, 2, 0] rfl) hW hw
theorem gM_earliestIn : GoodIn lw_all (wsV RX5 388 RX5 yX5_earliestIn (ws_ yX5_earliestIn cX5_earliestIn 4 (some .int))) := lw_V q2646 q2648 qs133 q154 q2649
theorem dM_earliestIn : yX5_earliestIn.cls = RX5 ∧ yX5_earliestIn.cls ≠ "java/lang/invoke/MethodHandle" ∧ yX5_earliestIn.cls ≠ "java/lang/invoke/VarHandle" ∧ (parseMethodDescriptor yX5_earliestIn.desc).map (fun d => d.parameters.length) = some 2 := by decide +kernel

/-! earliest -/
def wM_earliest_j43 (post : Int32 → MF → MG → Prop) (y1 : Int32) (y2 : Int32) (z1 : Int32) (F : MF) (G : MG) : Prop :=
  ∀ F_1 : MF, F_1 = upd F 0 z1 → ((F_1 0) ≤ 0 → wM_earliestIn (fun r_2 F_3 G_4 => (r_2 = (-1 : Int32) → wM_fails (fun r_5 F_6 G_7 => post r_5 F_6 G_7) (4 : Int32) F_3 G_4) ∧ (¬ r_2 = (-1 : Int32) → post r_2 F_3 G_4)) y1 y2 F_1 G) ∧ (¬ (F_1 0) ≤ 0 → post (0 : Int32) F_1 G)
def wM_earliest (post : Int32 → MF → MG → Prop) (x1 : Int32) (x2 : Int32) (F : MF) (G : MG) : Prop :=
  wM_isHall (fun r_8 => (r_8 = 0 → wM_earliest_j43 post x1 x2 (1 : Int32) F G) ∧ (¬ r_8 = 0 → wM_isIn (fun r_9 => (r_9 = 0 → wM_earliest_j43 post x1 x2 (2 : Int32) F G) ∧ (¬ r_9 = 0 → ((G 1 1) = 0 → wM_earliest_j43 post x1 x2 (3 : Int32) F G) ∧ (¬ (G 1 1) = 0 → wM_earliest_j43 post x1 x2 (0 : Int32) F G))) ((x2).toInt64) (0 : Int64) (86385 : Int64) F G)) x1 F G
set_option maxHeartbeats 4000000 in
theorem kM_earliest (l : Launch) (w : MP) (post : Int32 → MF → MG → Prop) (x1 : Int32) (x2 : Int32) (F : MF) (G : MG) (hw : wM_earliest post x1 x2 F G) : m_Mi l w yX5_earliest cX5_earliest 4 .int 9 [.ref (mp_h w), .int x1, .int x2] F G post := by
  refine m_ofWi (by decide) rfl (Nat.le_of_ble_eq_true rfl) (fun _ => True) (fun _ _ => rfl) ?_
  intro p e s m args below meth c Q ls hA hW hQ
  obtain ⟨hE, hT, hl⟩ := hA
  obtain ⟨hx, hb, hml, hown, hts⟩ := id hE
  have hl : lv_has ls 4 [(0, .ref (mp_h w)), (1, .int x1), (2, .int x2)] := hl
  have jn43 : ∀ (y1 : Int32) (y2 : Int32) (z1 : Int32) (F : MF) (G : MG) (H : Heap) (locs : List Loc) (ls : Array Slot), lv_has ls 4 [(0, .ref (mp_h w)), (1, .int y1), (2, .int y2)] → m_W w s.heap F G H locs → wM_earliest_j43 post y1 y2 z1 F G → W p l e (mrm 9) s m args below meth c H locs 0 0 Q (F0 m 43 ls [.int z1, .ref (mp_h w)]) := by
    intro y1 y2 z1 F G H locs ls hl hW hw
    unfold wM_earliest_j43 at hw
    refine m_put hx hb hown hts hT hW 0 (by decide) (hts _ q2129) rfl rfl (ty := .int) (x := z1) rfl rfl rfl rfl dX5_earliest_43 (fun F_1 H locs eF_1 hW => ?_)
    have hw := hw F_1 eF_1
    refine lv_aload_n hx hb dX5_earliest_46 rfl (lv_at hl 0 rfl) ?_
    refine m_get hx hb hown hts hT hW 0 (by decide) (hts _ q2129) rfl (v := .int (F_1 0)) rfl dX5_earliest_47 ?_
    refine lv_if_le (tgt := 55) hx hb dX5_earliest_50 (by decide) (fun q => ?_) (fun q => ?_)
    · have hw := hw.1 q
      refine lv_aload_n hx hb dX5_earliest_55 rfl (lv_at hl 0 rfl) ?_
      refine lv_iload_n hx hb dX5_earliest_56 rfl (lv_at hl 1 rfl) ?_
      refine lv_iload_n hx hb dX5_earliest_57 rfl (lv_at hl 2 rfl) ?_
      refine m_Vi (rest := []) hE hT hW (kM_earliestIn l w _ y1 y2 F_1 G hw) gM_earliestIn dM_earliestIn ⟨Nat.le_of_ble_eq_true rfl, Nat.le_of_ble_eq_true rfl, Nat.zero_le _, Nat.zero_le _⟩ rfl hl.1 rfl (Nat.le_of_ble_eq_true rfl) dX5_earliest_58 (fun r_2 F_3 G_4 H locs hw hW => ?_)
      refine lv_istore_n (lv' := [(3, .int r_2), (0, .ref (mp_h w)), (1, .int y1), (2, .int y2)]) hx hb dX5_earliest_61 rfl hl (by decide) rfl (fun ls hl => ?_)
      refine lv_iload_n hx hb dX5_earliest_62 rfl (lv_at hl 0 rfl) ?_
      refine lv_iconst (v := (-1 : Int32)) hx hb dX5_earliest_63 (by decide) ?_
      refine lv_icmp_ne (tgt := 75) hx hb dX5_earliest_64 (by decide) (fun q => ?_) (fun q => ?_)
      · have hw := hw.2 q
        refine lv_iload_n hx hb dX5_earliest_75 rfl (lv_at hl 0 rfl) ?_
        exact hQ _ _ _ _ _ trivial hw hW _ _ dX5_earliest_76
      · have hw := hw.1 q
        refine lv_aload_n hx hb dX5_earliest_67 rfl (lv_at hl 1 rfl) ?_
        refine lv_iconst (v := (4 : Int32)) hx hb dX5_earliest_68 (by decide) ?_
        refine m_Vi (rest := []) hE hT hW (kM_fails l w _ (4 : Int32) F_3 G_4 hw) gM_fails dM_fails ⟨Nat.le_of_ble_eq_true rfl, Nat.le_of_ble_eq_true rfl, Nat.zero_le _, Nat.zero_le _⟩ rfl hl.1 rfl (Nat.le_of_ble_eq_true rfl) dX5_earliest_69 (fun r_5 F_6 G_7 H locs hw hW => ?_)
        refine lv_goto (tgt := 76) hx hb dX5_earliest_72 (by decide) ?_
        exact hQ _ _ _ _ _ trivial hw hW _ _ dX5_earliest_76
    · have hw := hw.2 q
      refine lv_iconst (v := (0 : Int32)) hx hb dX5_earliest_53 (by decide) ?_
      exact hQ _ _ _ _ _ trivial hw hW _ _ dX5_earliest_54
  unfold wM_earliest at hw
  refine lv_aload_n hx hb dX5_earliest_0 rfl (lv_at hl 0 rfl) ?_
  refine lv_aload_n hx hb dX5_earliest_1 rfl (lv_at hl 0 rfl) ?_
  refine lv_iload_n hx hb dX5_earliest_2 rfl (lv_at hl 1 rfl) ?_
  refine m_Vi (rest := [.ref (mp_h w)]) hE hT hW (kM_isHall l w _ x1 F G hw) gM_isHall dM_isHall ⟨Nat.le_of_ble_eq_true rfl, Nat.le_of_ble_eq_true rfl, Nat.zero_le _, Nat.zero_le _⟩ rfl hl.1 rfl (Nat.le_of_ble_eq_true rfl) dX5_earliest_3 (fun r_8 F9 G9 H locs hw hW => ?_)
  obtain ⟨eF9, eG9, hw⟩ := hw
  rw [eF9, eG9] at hW
  refine lv_if_ne (tgt := 13) hx hb dX5_earliest_6 (by decide) (fun q => ?_) (fun q => ?_)
  · have hw := hw.2 q
    refine lv_iload_n hx hb dX5_earliest_13 rfl (lv_at hl 2 rfl) ?_
    refine lv_i2l (v := (x2).toInt64) hx hb dX5_earliest_14 rfl ?_
    refine lv_lconst (v := (0 : Int64)) hx hb dX5_earliest_15 rfl ?_
    refine lv_ldc2 hx hb hown (hts _ q2401) dX5_earliest_16 ?_
    refine m_Si (rest := [.ref (mp_h w)]) hE hT hW (kM_isIn l w _ ((x2).toInt64) (0 : Int64) (86385 : Int64) F G hw) gM_isIn dM_isIn ⟨Nat.le_of_ble_eq_true rfl, Nat.le_of_ble_eq_true rfl, Nat.zero_le _, Nat.zero_le _⟩ rfl hl.1 rfl (Nat.le_of_ble_eq_true rfl) dX5_earliest_19 (fun r_9 F9 G9 H locs hw hW => ?_)
    obtain ⟨eF9, eG9, hw⟩ := hw
    rw [eF9, eG9] at hW
    refine lv_if_ne (tgt := 29) hx hb dX5_earliest_22 (by decide) (fun q => ?_) (fun q => ?_)
    · have hw := hw.2 q
      refine lv_aload_n hx hb dX5_earliest_29 rfl (lv_at hl 0 rfl) ?_
      refine m_get hx hb hown hts hT hW 1 (by decide) (hts _ q2130) rfl (v := .ref (mp_a w 1)) rfl dX5_earliest_30 ?_
      refine lv_iconst (v := (1 : Int32)) hx hb dX5_earliest_33 (by decide) ?_
      refine m_iald hx hb hT hW (k := 1) (j := 1) (by decide) rfl (by unfold vp_in; decide) dX5_earliest_34 ?_
      refine lv_if_ne (tgt := 42) hx hb dX5_earliest_35 (by decide) (fun q => ?_) (fun q => ?_)
      · have hw := hw.2 q
        refine lv_iconst (v := (0 : Int32)) hx hb dX5_earliest_42 (by decide) ?_
        exact jn43 x1 x2 (0 : Int32) F G _ _ _ hl hW hw
      · have hw := hw.1 q
        refine lv_iconst (v := (3 : Int32)) hx hb dX5_earliest_38 (by decide) ?_
        refine lv_goto (tgt := 43) hx hb dX5_earliest_39 (by decide) ?_
        exact jn43 x1 x2 (3 : Int32) F G _ _ _ hl hW hw
    · have hw := hw.1 q
      refine lv_iconst (v := (2 : Int32)) hx hb dX5_earliest_25 (by decide) ?_
      refine lv_goto (tgt := 43) hx hb dX5_earliest_26 (by decide) ?_
      exact jn43 x1 x2 (2 : Int32) F G _ _ _ hl hW hw
  · have hw := hw.1 q
    refine lv_iconst (v := (1 : Int32)) hx hb dX5_earliest_9 (by decide) ?_
    refine lv_goto (tgt := 43) hx hb dX5_earliest_10 (by decide) ?_
    exact jn43 x1 x2 (1 : Int32) F G _ _ _ hl hW hw

/-! earliestHall -/
def wM_earliestHall_b51 (post : Int32 → MF → MG → Prop) (K51 : Int32 → Int32 → Int32 → Int32 → MF → MG → Prop) (y1 : Int32) (y2 : Int32) (y3 : Int32) (y4 : Int32) (F : MF) (G : MG) : Prop :=
  ((G 1 0) ≤ y4 → (y2 = (-1 : Int32) → wM_fails (fun r_1 F_2 G_3 => post r_1 F_2 G_3) (3 : Int32) F G) ∧ (¬ y2 = (-1 : Int32) → post y2 F G)) ∧ (¬ (G 1 0) ≤ y4 → wM_earliestIn (fun r_4 F_5 G_6 => (r_4 = (-1 : Int32) → K51 y1 y2 y3 (y4 + (1 : Int32)) F_5 G_6) ∧ (¬ r_4 = (-1 : Int32) → (y3 ≤ r_4 → K51 y1 y2 y3 (y4 + (1 : Int32)) F_5 G_6) ∧ (¬ y3 ≤ r_4 → K51 y1 y4 r_4 (y4 + (1 : Int32)) F_5 G_6))) y4 y1 F G)
def wM_earliestHall_l51 (post : Int32 → MF → MG → Prop) : Nat → Int32 → Int32 → Int32 → Int32 → MF → MG → Prop
  | 0 => fun _ _ _ _ _ _ => False
  | n + 1 => wM_earliestHall_b51 post (wM_earliestHall_l51 post n)
def wM_earliestHall_j31 (post : Int32 → MF → MG → Prop) (y1 : Int32) (z1 : Int32) (F : MF) (G : MG) : Prop :=
  ∀ F_7 : MF, F_7 = upd F 0 z1 → ((F_7 0) ≤ 0 → ∃ n, wM_earliestHall_l51 post n y1 (-1 : Int32) (86400 : Int32) (0 : Int32) F_7 G) ∧ (¬ (F_7 0) ≤ 0 → post (0 : Int32) F_7 G)
def wM_earliestHall (post : Int32 → MF → MG → Prop) (x1 : Int32) (F : MF) (G : MG) : Prop :=
  wM_isIn (fun r_9 => (r_9 = 0 → wM_earliestHall_j31 post x1 (1 : Int32) F G) ∧ (¬ r_9 = 0 → ((G 1 1) = 0 → wM_earliestHall_j31 post x1 (2 : Int32) F G) ∧ (¬ (G 1 1) = 0 → wM_earliestHall_j31 post x1 (0 : Int32) F G))) ((x1).toInt64) (0 : Int64) (86385 : Int64) F G
set_option maxHeartbeats 4000000 in
theorem kM_earliestHall (l : Launch) (w : MP) (post : Int32 → MF → MG → Prop) (x1 : Int32) (F : MF) (G : MG) (hw : wM_earliestHall post x1 F G) : m_Mi l w yX5_earliestHall cX5_earliestHall 6 .int 9 [.ref (mp_h w), .int x1] F G post := by
  refine m_ofWi (by decide) rfl (Nat.le_of_ble_eq_true rfl) (fun _ => True) (fun _ _ => rfl) ?_
  intro p e s m args below meth c Q ls hA hW hQ
  obtain ⟨hE, hT, hl⟩ := hA
  obtain ⟨hx, hb, hml, hown, hts⟩ := id hE
  have hl : lv_has ls 6 [(0, .ref (mp_h w)), (1, .int x1)] := hl
  have lp51 : ∀ (n51 : Nat) (y1 : Int32) (y2 : Int32) (y3 : Int32) (y4 : Int32) (F : MF) (G : MG) (H : Heap) (locs : List Loc) (ls : Array Slot), lv_has ls 6 [(0, .ref (mp_h w)), (1, .int y1), (2, .int y2), (3, .int y3), (4, .int y4)] → m_W w s.heap F G H locs → wM_earliestHall_l51 post n51 y1 y2 y3 y4 F G → W p l e (mrm 9) s m args below meth c H locs 0 0 Q (F0 m 51 ls []) := by
    intro n51
    induction n51 with
    | zero => intro y1 y2 y3 y4 F G H locs ls hl hW hw; exact hw.elim
    | succ n51 ih51 =>
      intro y1 y2 y3 y4 F G H locs ls hl hW hw
      have hw : wM_earliestHall_b51 post (wM_earliestHall_l51 post n51) y1 y2 y3 y4 F G := hw
      unfold wM_earliestHall_b51 at hw
      refine lv_iload hx hb dX5_earliestHall_51 (lv_at hl 4 rfl) ?_
      refine lv_aload_n hx hb dX5_earliestHall_53 rfl (lv_at hl 0 rfl) ?_
      refine m_get hx hb hown hts hT hW 1 (by decide) (hts _ q2130) rfl (v := .ref (mp_a w 1)) rfl dX5_earliestHall_54 ?_
      refine lv_iconst (v := (0 : Int32)) hx hb dX5_earliestHall_57 (by decide) ?_
      refine m_iald hx hb hT hW (k := 1) (j := 0) (by decide) rfl (by unfold vp_in; decide) dX5_earliestHall_58 ?_
      refine lv_icmp_ge (tgt := 95) hx hb dX5_earliestHall_59 (by decide) (fun q => ?_) (fun q => ?_)
      · have hw := hw.1 q
        refine lv_iload_n hx hb dX5_earliestHall_95 rfl (lv_at hl 2 rfl) ?_
        refine lv_iconst (v := (-1 : Int32)) hx hb dX5_earliestHall_96 (by decide) ?_
        refine lv_icmp_ne (tgt := 108) hx hb dX5_earliestHall_97 (by decide) (fun q => ?_) (fun q => ?_)
        · have hw := hw.2 q
          refine lv_iload_n hx hb dX5_earliestHall_108 rfl (lv_at hl 2 rfl) ?_
          exact hQ _ _ _ _ _ trivial hw hW _ _ dX5_earliestHall_109
        · have hw := hw.1 q
          refine lv_aload_n hx hb dX5_earliestHall_100 rfl (lv_at hl 0 rfl) ?_
          refine lv_iconst (v := (3 : Int32)) hx hb dX5_earliestHall_101 (by decide) ?_
          refine m_Vi (rest := []) hE hT hW (kM_fails l w _ (3 : Int32) F G hw) gM_fails dM_fails ⟨Nat.le_of_ble_eq_true rfl, Nat.le_of_ble_eq_true rfl, Nat.zero_le _, Nat.zero_le _⟩ rfl hl.1 rfl (Nat.le_of_ble_eq_true rfl) dX5_earliestHall_102 (fun r_1 F_2 G_3 H locs hw hW => ?_)
          refine lv_goto (tgt := 109) hx hb dX5_earliestHall_105 (by decide) ?_
          exact hQ _ _ _ _ _ trivial hw hW _ _ dX5_earliestHall_109
      · have hw := hw.2 q
        refine lv_aload_n hx hb dX5_earliestHall_62 rfl (lv_at hl 0 rfl) ?_
        refine lv_iload hx hb dX5_earliestHall_63 (lv_at hl 4 rfl) ?_
        refine lv_iload_n hx hb dX5_earliestHall_65 rfl (lv_at hl 1 rfl) ?_
        refine m_Vi (rest := []) hE hT hW (kM_earliestIn l w _ y4 y1 F G hw) gM_earliestIn dM_earliestIn ⟨Nat.le_of_ble_eq_true rfl, Nat.le_of_ble_eq_true rfl, Nat.zero_le _, Nat.zero_le _⟩ rfl hl.1 rfl (Nat.le_of_ble_eq_true rfl) dX5_earliestHall_66 (fun r_4 F_5 G_6 H locs hw hW => ?_)
        refine lv_istore (lv' := [(5, .int r_4), (0, .ref (mp_h w)), (1, .int y1), (2, .int y2), (3, .int y3), (4, .int y4)]) hx hb dX5_earliestHall_69 hl (by decide) rfl (fun ls hl => ?_)
        refine lv_iload hx hb dX5_earliestHall_71 (lv_at hl 0 rfl) ?_
        refine lv_iconst (v := (-1 : Int32)) hx hb dX5_earliestHall_73 (by decide) ?_
        refine lv_icmp_eq (tgt := 89) hx hb dX5_earliestHall_74 (by decide) (fun q => ?_) (fun q => ?_)
        · have hw := hw.1 q
          refine lv_iinc (v := (y4 + (1 : Int32))) (lv' := [(4, .int (y4 + (1 : Int32))), (5, .int r_4), (0, .ref (mp_h w)), (1, .int y1), (2, .int y2), (3, .int y3)]) hx hb dX5_earliestHall_89 hl (k := 5) rfl rfl (by decide) rfl (fun ls hl => ?_)
          refine lv_goto (tgt := 51) hx hb dX5_earliestHall_92 (by decide) ?_
          exact ih51 y1 y2 y3 (y4 + (1 : Int32)) F_5 G_6 _ _ _ (lv_sub hl [2, 3, 4, 5, 0] rfl) hW hw
        · have hw := hw.2 q
          refine lv_iload hx hb dX5_earliestHall_77 (lv_at hl 0 rfl) ?_
          refine lv_iload_n hx hb dX5_earliestHall_79 rfl (lv_at hl 4 rfl) ?_
          refine lv_icmp_ge (tgt := 89) hx hb dX5_earliestHall_80 (by decide) (fun q => ?_) (fun q => ?_)
          · have hw := hw.1 q
            refine lv_iinc (v := (y4 + (1 : Int32))) (lv' := [(4, .int (y4 + (1 : Int32))), (5, .int r_4), (0, .ref (mp_h w)), (1, .int y1), (2, .int y2), (3, .int y3)]) hx hb dX5_earliestHall_89 hl (k := 5) rfl rfl (by decide) rfl (fun ls hl => ?_)
            refine lv_goto (tgt := 51) hx hb dX5_earliestHall_92 (by decide) ?_
            exact ih51 y1 y2 y3 (y4 + (1 : Int32)) F_5 G_6 _ _ _ (lv_sub hl [2, 3, 4, 5, 0] rfl) hW hw
          · have hw := hw.2 q
            refine lv_iload hx hb dX5_earliestHall_83 (lv_at hl 0 rfl) ?_
            refine lv_istore_n (lv' := [(3, .int r_4), (5, .int r_4), (0, .ref (mp_h w)), (1, .int y1), (2, .int y2), (4, .int y4)]) hx hb dX5_earliestHall_85 rfl hl (by decide) rfl (fun ls hl => ?_)
            refine lv_iload hx hb dX5_earliestHall_86 (lv_at hl 5 rfl) ?_
            refine lv_istore_n (lv' := [(2, .int y4), (3, .int r_4), (5, .int r_4), (0, .ref (mp_h w)), (1, .int y1), (4, .int y4)]) hx hb dX5_earliestHall_88 rfl hl (by decide) rfl (fun ls hl => ?_)
            refine lv_iinc (v := (y4 + (1 : Int32))) (lv' := [(4, .int (y4 + (1 : Int32))), (2, .int y4), (3, .int r_4), (5, .int r_4), (0, .ref (mp_h w)), (1, .int y1)]) hx hb dX5_earliestHall_89 hl (k := 5) rfl rfl (by decide) rfl (fun ls hl => ?_)
            refine lv_goto (tgt := 51) hx hb dX5_earliestHall_92 (by decide) ?_
            exact ih51 y1 y4 r_4 (y4 + (1 : Int32)) F_5 G_6 _ _ _ (lv_sub hl [4, 5, 1, 2, 0] rfl) hW hw
  have jn31 : ∀ (y1 : Int32) (z1 : Int32) (F : MF) (G : MG) (H : Heap) (locs : List Loc) (ls : Array Slot), lv_has ls 6 [(0, .ref (mp_h w)), (1, .int y1)] → m_W w s.heap F G H locs → wM_earliestHall_j31 post y1 z1 F G → W p l e (mrm 9) s m args below meth c H locs 0 0 Q (F0 m 31 ls [.int z1, .ref (mp_h w)]) := by
    intro y1 z1 F G H locs ls hl hW hw
    unfold wM_earliestHall_j31 at hw
    refine m_put hx hb hown hts hT hW 0 (by decide) (hts _ q2129) rfl rfl (ty := .int) (x := z1) rfl rfl rfl rfl dX5_earliestHall_31 (fun F_7 H locs eF_7 hW => ?_)
    have hw := hw F_7 eF_7
    refine lv_aload_n hx hb dX5_earliestHall_34 rfl (lv_at hl 0 rfl) ?_
    refine m_get hx hb hown hts hT hW 0 (by decide) (hts _ q2129) rfl (v := .int (F_7 0)) rfl dX5_earliestHall_35 ?_
    refine lv_if_le (tgt := 43) hx hb dX5_earliestHall_38 (by decide) (fun q => ?_) (fun q => ?_)
    · have hw := hw.1 q
      refine lv_iconst (v := (-1 : Int32)) hx hb dX5_earliestHall_43 (by decide) ?_
      refine lv_istore_n (lv' := [(2, .int (-1 : Int32)), (0, .ref (mp_h w)), (1, .int y1)]) hx hb dX5_earliestHall_44 rfl hl (by decide) rfl (fun ls hl => ?_)
      refine lv_ldc hx hb hown (hts _ q2350) dX5_earliestHall_45 ?_
      refine lv_istore_n (lv' := [(3, .int (86400 : Int32)), (2, .int (-1 : Int32)), (0, .ref (mp_h w)), (1, .int y1)]) hx hb dX5_earliestHall_47 rfl hl (by decide) rfl (fun ls hl => ?_)
      refine lv_iconst (v := (0 : Int32)) hx hb dX5_earliestHall_48 (by decide) ?_
      refine lv_istore (lv' := [(4, .int (0 : Int32)), (3, .int (86400 : Int32)), (2, .int (-1 : Int32)), (0, .ref (mp_h w)), (1, .int y1)]) hx hb dX5_earliestHall_49 hl (by decide) rfl (fun ls hl => ?_)
      obtain ⟨n_8, hw⟩ := hw
      exact lp51 n_8 y1 (-1 : Int32) (86400 : Int32) (0 : Int32) F_7 G _ _ _ (lv_sub hl [3, 4, 2, 1, 0] rfl) hW hw
    · have hw := hw.2 q
      refine lv_iconst (v := (0 : Int32)) hx hb dX5_earliestHall_41 (by decide) ?_
      exact hQ _ _ _ _ _ trivial hw hW _ _ dX5_earliestHall_42
  unfold wM_earliestHall at hw
  refine lv_aload_n hx hb dX5_earliestHall_0 rfl (lv_at hl 0 rfl) ?_
  refine lv_iload_n hx hb dX5_earliestHall_1 rfl (lv_at hl 1 rfl) ?_
  refine lv_i2l (v := (x1).toInt64) hx hb dX5_earliestHall_2 rfl ?_
  refine lv_lconst (v := (0 : Int64)) hx hb dX5_earliestHall_3 rfl ?_
  refine lv_ldc2 hx hb hown (hts _ q2401) dX5_earliestHall_4 ?_
  refine m_Si (rest := [.ref (mp_h w)]) hE hT hW (kM_isIn l w _ ((x1).toInt64) (0 : Int64) (86385 : Int64) F G hw) gM_isIn dM_isIn ⟨Nat.le_of_ble_eq_true rfl, Nat.le_of_ble_eq_true rfl, Nat.zero_le _, Nat.zero_le _⟩ rfl hl.1 rfl (Nat.le_of_ble_eq_true rfl) dX5_earliestHall_7 (fun r_9 F9 G9 H locs hw hW => ?_)
  obtain ⟨eF9, eG9, hw⟩ := hw
  rw [eF9, eG9] at hW
  refine lv_if_ne (tgt := 17) hx hb dX5_earliestHall_10 (by decide) (fun q => ?_) (fun q => ?_)
  · have hw := hw.2 q
    refine lv_aload_n hx hb dX5_earliestHall_17 rfl (lv_at hl 0 rfl) ?_
    refine m_get hx hb hown hts hT hW 1 (by decide) (hts _ q2130) rfl (v := .ref (mp_a w 1)) rfl dX5_earliestHall_18 ?_
    refine lv_iconst (v := (1 : Int32)) hx hb dX5_earliestHall_21 (by decide) ?_
    refine m_iald hx hb hT hW (k := 1) (j := 1) (by decide) rfl (by unfold vp_in; decide) dX5_earliestHall_22 ?_
    refine lv_if_ne (tgt := 30) hx hb dX5_earliestHall_23 (by decide) (fun q => ?_) (fun q => ?_)
    · have hw := hw.2 q
      refine lv_iconst (v := (0 : Int32)) hx hb dX5_earliestHall_30 (by decide) ?_
      exact jn31 x1 (0 : Int32) F G _ _ _ hl hW hw
    · have hw := hw.1 q
      refine lv_iconst (v := (2 : Int32)) hx hb dX5_earliestHall_26 (by decide) ?_
      refine lv_goto (tgt := 31) hx hb dX5_earliestHall_27 (by decide) ?_
      exact jn31 x1 (2 : Int32) F G _ _ _ hl hW hw
  · have hw := hw.1 q
    refine lv_iconst (v := (1 : Int32)) hx hb dX5_earliestHall_13 (by decide) ?_
    refine lv_goto (tgt := 31) hx hb dX5_earliestHall_14 (by decide) ?_
    exact jn31 x1 (1 : Int32) F G _ _ _ hl hW hw

/-! conflicts -/
def wM_conflicts_b33 (post : Int64 → MF → MG → Prop) (K33 : Int32 → Int32 → Int64 → Int32 → MF → MG → Prop) (y1 : Int32) (y2 : Int32) (y3 : Int64) (y5 : Int32) (F : MF) (G : MG) : Prop :=
  ((G 8 1) ≤ y5 → post y3 F G) ∧ (¬ (G 8 1) ≤ y5 → wM_isNear (fun r_1 => (r_1 = 0 → ∀ x3_2 : Int64, x3_2 = (y3 ||| (0 : Int64)) → K33 y1 y2 x3_2 (y5 + (1 : Int32)) F G) ∧ (¬ r_1 = 0 → ∀ x3_3 : Int64, x3_3 = (y3 ||| ((1 : Int64) <<< (y5.toInt64 &&& 63))) → K33 y1 y2 x3_3 (y5 + (1 : Int32)) F G)) y5 y1 y2 F G)
def wM_conflicts_l33 (post : Int64 → MF → MG → Prop) : Nat → Int32 → Int32 → Int64 → Int32 → MF → MG → Prop
  | 0 => fun _ _ _ _ _ _ => False
  | n + 1 => wM_conflicts_b33 post (wM_conflicts_l33 post n)
def wM_conflicts (post : Int64 → MF → MG → Prop) (x1 : Int32) (x2 : Int32) (F : MF) (G : MG) : Prop :=
  wM_whyNotDraft (fun r_4 => ∀ F_5 : MF, F_5 = upd F 0 r_4 → ((F_5 0) ≤ 0 → wM_asks (fun F_6 G_7 => ∃ n, wM_conflicts_l33 post n x1 x2 (0 : Int64) (0 : Int32) F_6 G_7) (6) (0 : Int32) F_5 G) ∧ (¬ (F_5 0) ≤ 0 → post (0 : Int64) F_5 G)) x1 x2 F G
set_option maxHeartbeats 4000000 in
theorem kM_conflicts (l : Launch) (w : MP) (post : Int64 → MF → MG → Prop) (x1 : Int32) (x2 : Int32) (F : MF) (G : MG) (hw : wM_conflicts post x1 x2 F G) : m_Ml l w yX5_conflicts cX5_conflicts 6 5 [.ref (mp_h w), .int x1, .int x2] F G post := by
  refine m_ofWl (by decide) rfl (Nat.le_of_ble_eq_true rfl) ?_
  intro p e s m args below meth c Q ls hA hW hQ
  obtain ⟨hE, hT, hl⟩ := hA
  obtain ⟨hx, hb, hml, hown, hts⟩ := id hE
  have hl : lv_has ls 6 [(0, .ref (mp_h w)), (1, .int x1), (2, .int x2)] := hl
  have lp33 : ∀ (n33 : Nat) (y1 : Int32) (y2 : Int32) (y3 : Int64) (y5 : Int32) (F : MF) (G : MG) (H : Heap) (locs : List Loc) (ls : Array Slot), lv_has ls 6 [(0, .ref (mp_h w)), (1, .int y1), (2, .int y2), (3, .long y3), (5, .int y5)] → m_W w s.heap F G H locs → wM_conflicts_l33 post n33 y1 y2 y3 y5 F G → W p l e (mrm 5) s m args below meth c H locs 0 0 Q (F0 m 33 ls []) := by
    intro n33
    induction n33 with
    | zero => intro y1 y2 y3 y5 F G H locs ls hl hW hw; exact hw.elim
    | succ n33 ih33 =>
      intro y1 y2 y3 y5 F G H locs ls hl hW hw
      have hw : wM_conflicts_b33 post (wM_conflicts_l33 post n33) y1 y2 y3 y5 F G := hw
      unfold wM_conflicts_b33 at hw
      refine lv_iload hx hb dX5_conflicts_33 (lv_at hl 4 rfl) ?_
      refine lv_aload_n hx hb dX5_conflicts_35 rfl (lv_at hl 0 rfl) ?_
      refine m_get hx hb hown hts hT hW 8 (by decide) (hts _ q2137) rfl (v := .ref (mp_a w 8)) rfl dX5_conflicts_36 ?_
      refine lv_iconst (v := (1 : Int32)) hx hb dX5_conflicts_39 (by decide) ?_
      refine m_iald hx hb hT hW (k := 8) (j := 1) (by decide) rfl (by unfold vp_in; decide) dX5_conflicts_40 ?_
      refine lv_icmp_ge (tgt := 72) hx hb dX5_conflicts_41 (by decide) (fun q => ?_) (fun q => ?_)
      · have hw := hw.1 q
        refine lv_lload_n hx hb dX5_conflicts_72 rfl (lv_at hl 3 rfl) ?_
        exact hQ _ _ _ _ _ hw hW _ _ dX5_conflicts_73
      · have hw := hw.2 q
        refine lv_lload_n hx hb dX5_conflicts_44 rfl (lv_at hl 3 rfl) ?_
        refine lv_aload_n hx hb dX5_conflicts_45 rfl (lv_at hl 0 rfl) ?_
        refine lv_iload hx hb dX5_conflicts_46 (lv_at hl 4 rfl) ?_
        refine lv_iload_n hx hb dX5_conflicts_48 rfl (lv_at hl 1 rfl) ?_
        refine lv_iload_n hx hb dX5_conflicts_49 rfl (lv_at hl 2 rfl) ?_
        refine m_Vi (rest := [.long y3]) hE hT hW (kM_isNear l w _ y5 y1 y2 F G hw) gM_isNear dM_isNear ⟨Nat.le_of_ble_eq_true rfl, Nat.le_of_ble_eq_true rfl, Nat.zero_le _, Nat.zero_le _⟩ rfl hl.1 rfl (Nat.le_of_ble_eq_true rfl) dX5_conflicts_50 (fun r_1 F9 G9 H locs hw hW => ?_)
        obtain ⟨eF9, eG9, hw⟩ := hw
        rw [eF9, eG9] at hW
        refine lv_if_eq (tgt := 63) hx hb dX5_conflicts_53 (by decide) (fun q => ?_) (fun q => ?_)
        · have hw := hw.1 q
          refine lv_lconst (v := (0 : Int64)) hx hb dX5_conflicts_63 rfl ?_
          refine lv_lor hx hb dX5_conflicts_64 ?_
          refine lv_topl (fun x3_2 ex3_2 => ?_)
          have hw := hw x3_2 ex3_2
          refine lv_lstore_n (lv' := [(3, .long x3_2), (0, .ref (mp_h w)), (1, .int y1), (2, .int y2), (5, .int y5)]) hx hb dX5_conflicts_65 rfl hl (by decide) rfl (fun ls hl => ?_)
          refine lv_iinc (v := (y5 + (1 : Int32))) (lv' := [(5, .int (y5 + (1 : Int32))), (3, .long x3_2), (0, .ref (mp_h w)), (1, .int y1), (2, .int y2)]) hx hb dX5_conflicts_66 hl (k := 4) rfl rfl (by decide) rfl (fun ls hl => ?_)
          refine lv_goto (tgt := 33) hx hb dX5_conflicts_69 (by decide) ?_
          exact ih33 y1 y2 x3_2 (y5 + (1 : Int32)) F G _ _ _ (lv_sub hl [2, 3, 4, 1, 0] rfl) hW hw
        · have hw := hw.2 q
          refine lv_lconst (v := (1 : Int64)) hx hb dX5_conflicts_56 rfl ?_
          refine lv_iload hx hb dX5_conflicts_57 (lv_at hl 4 rfl) ?_
          refine lv_lshl (v := ((1 : Int64) <<< (y5.toInt64 &&& 63))) hx hb dX5_conflicts_59 rfl ?_
          refine lv_goto (tgt := 64) hx hb dX5_conflicts_60 (by decide) ?_
          refine lv_lor hx hb dX5_conflicts_64 ?_
          refine lv_topl (fun x3_3 ex3_3 => ?_)
          have hw := hw x3_3 ex3_3
          refine lv_lstore_n (lv' := [(3, .long x3_3), (0, .ref (mp_h w)), (1, .int y1), (2, .int y2), (5, .int y5)]) hx hb dX5_conflicts_65 rfl hl (by decide) rfl (fun ls hl => ?_)
          refine lv_iinc (v := (y5 + (1 : Int32))) (lv' := [(5, .int (y5 + (1 : Int32))), (3, .long x3_3), (0, .ref (mp_h w)), (1, .int y1), (2, .int y2)]) hx hb dX5_conflicts_66 hl (k := 4) rfl rfl (by decide) rfl (fun ls hl => ?_)
          refine lv_goto (tgt := 33) hx hb dX5_conflicts_69 (by decide) ?_
          exact ih33 y1 y2 x3_3 (y5 + (1 : Int32)) F G _ _ _ (lv_sub hl [2, 3, 4, 1, 0] rfl) hW hw
  unfold wM_conflicts at hw
  refine lv_aload_n hx hb dX5_conflicts_0 rfl (lv_at hl 0 rfl) ?_
  refine lv_aload_n hx hb dX5_conflicts_1 rfl (lv_at hl 0 rfl) ?_
  refine lv_iload_n hx hb dX5_conflicts_2 rfl (lv_at hl 1 rfl) ?_
  refine lv_iload_n hx hb dX5_conflicts_3 rfl (lv_at hl 2 rfl) ?_
  refine m_Vi (rest := [.ref (mp_h w)]) hE hT hW (kM_whyNotDraft l w _ x1 x2 F G hw) gM_whyNotDraft dM_whyNotDraft ⟨Nat.le_of_ble_eq_true rfl, Nat.le_of_ble_eq_true rfl, Nat.zero_le _, Nat.zero_le _⟩ rfl hl.1 rfl (Nat.le_of_ble_eq_true rfl) dX5_conflicts_4 (fun r_4 F9 G9 H locs hw hW => ?_)
  obtain ⟨eF9, eG9, hw⟩ := hw
  rw [eF9, eG9] at hW
  refine m_put hx hb hown hts hT hW 0 (by decide) (hts _ q2129) rfl rfl (ty := .int) (x := r_4) rfl rfl rfl rfl dX5_conflicts_7 (fun F_5 H locs eF_5 hW => ?_)
  have hw := hw F_5 eF_5
  refine lv_aload_n hx hb dX5_conflicts_10 rfl (lv_at hl 0 rfl) ?_
  refine m_get hx hb hown hts hT hW 0 (by decide) (hts _ q2129) rfl (v := .int (F_5 0)) rfl dX5_conflicts_11 ?_
  refine lv_if_le (tgt := 19) hx hb dX5_conflicts_14 (by decide) (fun q => ?_) (fun q => ?_)
  · have hw := hw.1 q
    refine lv_aload_n hx hb dX5_conflicts_19 rfl (lv_at hl 0 rfl) ?_
    refine lv_aload_n hx hb dX5_conflicts_20 rfl (lv_at hl 0 rfl) ?_
    refine m_get hx hb hown hts hT hW 6 (by decide) (hts _ q2135) rfl (v := .ref (mp_a w 6)) rfl dX5_conflicts_21 ?_
    refine lv_iconst (v := (0 : Int32)) hx hb dX5_conflicts_24 (by decide) ?_
    refine m_Vv (rest := []) hE hT hW (kM_asks l w _ (6) (0 : Int32) F_5 G hw) gM_asks dM_asks ⟨Nat.le_of_ble_eq_true rfl, Nat.le_of_ble_eq_true rfl, Nat.zero_le _, Nat.zero_le _⟩ rfl hl.1 rfl (Nat.le_of_ble_eq_true rfl) dX5_conflicts_25 (fun F_6 G_7 H locs hw hW => ?_)
    refine lv_lconst (v := (0 : Int64)) hx hb dX5_conflicts_28 rfl ?_
    refine lv_lstore_n (lv' := [(3, .long (0 : Int64)), (0, .ref (mp_h w)), (1, .int x1), (2, .int x2)]) hx hb dX5_conflicts_29 rfl hl (by decide) rfl (fun ls hl => ?_)
    refine lv_iconst (v := (0 : Int32)) hx hb dX5_conflicts_30 (by decide) ?_
    refine lv_istore (lv' := [(5, .int (0 : Int32)), (3, .long (0 : Int64)), (0, .ref (mp_h w)), (1, .int x1), (2, .int x2)]) hx hb dX5_conflicts_31 hl (by decide) rfl (fun ls hl => ?_)
    obtain ⟨n_8, hw⟩ := hw
    exact lp33 n_8 x1 x2 (0 : Int64) (0 : Int32) F_6 G_7 _ _ _ (lv_sub hl [2, 3, 4, 1, 0] rfl) hW hw
  · have hw := hw.2 q
    refine lv_lconst (v := (0 : Int64)) hx hb dX5_conflicts_17 rfl ?_
    exact hQ _ _ _ _ _ hw hW _ _ dX5_conflicts_18

/-! moveProblem -/
def wM_moveProblem (post : Int32 → MF → MG → Prop) (x1 : Int32) (x2 : Int32) (x3 : Int32) (F : MF) (G : MG) : Prop :=
  wM_whyNotBooking (fun r_1 => ∀ F_2 : MF, F_2 = upd F 0 r_1 → ((F_2 0) ≤ 0 → wM_isActive (fun r_3 => (r_3 = 0 → wM_fails (fun r_4 F_5 G_6 => post r_4 F_5 G_6) (3 : Int32) F_2 G) ∧ (¬ r_3 = 0 → wM_bookingProblem (fun r_7 F_8 G_9 => post r_7 F_8 G_9) x1 x2 x3 F_2 G)) x1 F_2 G) ∧ (¬ (F_2 0) ≤ 0 → post (0 : Int32) F_2 G)) x1 x2 x3 F G
set_option maxHeartbeats 4000000 in
theorem kM_moveProblem (l : Launch) (w : MP) (post : Int32 → MF → MG → Prop) (x1 : Int32) (x2 : Int32) (x3 : Int32) (F : MF) (G : MG) (hw : wM_moveProblem post x1 x2 x3 F G) : m_Mi l w yX5_moveProblem cX5_moveProblem 4 .int 8 [.ref (mp_h w), .int x1, .int x2, .int x3] F G post := by
  refine m_ofWi (by decide) rfl (Nat.le_of_ble_eq_true rfl) (fun _ => True) (fun _ _ => rfl) ?_
  intro p e s m args below meth c Q ls hA hW hQ
  obtain ⟨hE, hT, hl⟩ := hA
  obtain ⟨hx, hb, hml, hown, hts⟩ := id hE
  have hl : lv_has ls 4 [(0, .ref (mp_h w)), (1, .int x1), (2, .int x2), (3, .int x3)] := hl
  unfold wM_moveProblem at hw
  refine lv_aload_n hx hb dX5_moveProblem_0 rfl (lv_at hl 0 rfl) ?_
  refine lv_aload_n hx hb dX5_moveProblem_1 rfl (lv_at hl 0 rfl) ?_
  refine lv_iload_n hx hb dX5_moveProblem_2 rfl (lv_at hl 1 rfl) ?_
  refine lv_iload_n hx hb dX5_moveProblem_3 rfl (lv_at hl 2 rfl) ?_
  refine lv_iload_n hx hb dX5_moveProblem_4 rfl (lv_at hl 3 rfl) ?_
  refine m_Vi (rest := [.ref (mp_h w)]) hE hT hW (kM_whyNotBooking l w _ x1 x2 x3 F G hw) gM_whyNotBooking dM_whyNotBooking ⟨Nat.le_of_ble_eq_true rfl, Nat.le_of_ble_eq_true rfl, Nat.zero_le _, Nat.zero_le _⟩ rfl hl.1 rfl (Nat.le_of_ble_eq_true rfl) dX5_moveProblem_5 (fun r_1 F9 G9 H locs hw hW => ?_)
  obtain ⟨eF9, eG9, hw⟩ := hw
  rw [eF9, eG9] at hW
  refine m_put hx hb hown hts hT hW 0 (by decide) (hts _ q2129) rfl rfl (ty := .int) (x := r_1) rfl rfl rfl rfl dX5_moveProblem_8 (fun F_2 H locs eF_2 hW => ?_)
  have hw := hw F_2 eF_2
  refine lv_aload_n hx hb dX5_moveProblem_11 rfl (lv_at hl 0 rfl) ?_
  refine m_get hx hb hown hts hT hW 0 (by decide) (hts _ q2129) rfl (v := .int (F_2 0)) rfl dX5_moveProblem_12 ?_
  refine lv_if_le (tgt := 20) hx hb dX5_moveProblem_15 (by decide) (fun q => ?_) (fun q => ?_)
  · have hw := hw.1 q
    refine lv_aload_n hx hb dX5_moveProblem_20 rfl (lv_at hl 0 rfl) ?_
    refine lv_iload_n hx hb dX5_moveProblem_21 rfl (lv_at hl 1 rfl) ?_
    refine m_Vi (rest := []) hE hT hW (kM_isActive l w _ x1 F_2 G hw) gM_isActive dM_isActive ⟨Nat.le_of_ble_eq_true rfl, Nat.le_of_ble_eq_true rfl, Nat.zero_le _, Nat.zero_le _⟩ rfl hl.1 rfl (Nat.le_of_ble_eq_true rfl) dX5_moveProblem_22 (fun r_3 F9 G9 H locs hw hW => ?_)
    obtain ⟨eF9, eG9, hw⟩ := hw
    rw [eF9, eG9] at hW
    refine lv_if_eq (tgt := 38) hx hb dX5_moveProblem_25 (by decide) (fun q => ?_) (fun q => ?_)
    · have hw := hw.1 q
      refine lv_aload_n hx hb dX5_moveProblem_38 rfl (lv_at hl 0 rfl) ?_
      refine lv_iconst (v := (3 : Int32)) hx hb dX5_moveProblem_39 (by decide) ?_
      refine m_Vi (rest := []) hE hT hW (kM_fails l w _ (3 : Int32) F_2 G hw) gM_fails dM_fails ⟨Nat.le_of_ble_eq_true rfl, Nat.le_of_ble_eq_true rfl, Nat.zero_le _, Nat.zero_le _⟩ rfl hl.1 rfl (Nat.le_of_ble_eq_true rfl) dX5_moveProblem_40 (fun r_4 F_5 G_6 H locs hw hW => ?_)
      exact hQ _ _ _ _ _ trivial hw hW _ _ dX5_moveProblem_43
    · have hw := hw.2 q
      refine lv_aload_n hx hb dX5_moveProblem_28 rfl (lv_at hl 0 rfl) ?_
      refine lv_iload_n hx hb dX5_moveProblem_29 rfl (lv_at hl 1 rfl) ?_
      refine lv_iload_n hx hb dX5_moveProblem_30 rfl (lv_at hl 2 rfl) ?_
      refine lv_iload_n hx hb dX5_moveProblem_31 rfl (lv_at hl 3 rfl) ?_
      refine m_Vi (rest := []) hE hT hW (kM_bookingProblem l w _ x1 x2 x3 F_2 G hw) gM_bookingProblem dM_bookingProblem ⟨Nat.le_of_ble_eq_true rfl, Nat.le_of_ble_eq_true rfl, Nat.zero_le _, Nat.zero_le _⟩ rfl hl.1 rfl (Nat.le_of_ble_eq_true rfl) dX5_moveProblem_32 (fun r_7 F_8 G_9 H locs hw hW => ?_)
      refine lv_goto (tgt := 43) hx hb dX5_moveProblem_35 (by decide) ?_
      exact hQ _ _ _ _ _ trivial hw hW _ _ dX5_moveProblem_43
  · have hw := hw.2 q
    refine lv_iconst (v := (0 : Int32)) hx hb dX5_moveProblem_18 (by decide) ?_
    exact hQ _ _ _ _ _ trivial hw hW _ _ dX5_moveProblem_19

/-! chain -/
def wM_chain_j36 (post : Int32 → MF → MG → Prop) (y1 : Int32) (y2 : Int32) (y3 : Int32) (y4 : Int32) (F : MF) (G : MG) : Prop :=
  ((F 0) ≤ 0 → wM_isActive (fun r_1 => (r_1 = 0 → wM_fails (fun r_8 F_9 G_10 => post r_8 F_9 G_10) (3 : Int32) F G) ∧ (¬ r_1 = 0 → wM_seeks (fun r_2 F_3 G_4 => (r_2 = 0 → wM_fails (fun r_5 F_6 G_7 => post r_5 F_6 G_7) (4 : Int32) F_3 G_4) ∧ (¬ r_2 = 0 → (y4 = 0 → post (F_3 22) F_3 G_4) ∧ (¬ y4 = 0 → (y4 ≤ (F_3 22) → vp_in (y4 - (1 : Int32)) 3 ∧ post (G_4 21 ((y4 - (1 : Int32)).toNatClampNeg)) F_3 G_4) ∧ (¬ y4 ≤ (F_3 22) → post (-1 : Int32) F_3 G_4)))) y1 y2 y3 F G)) y1 F G) ∧ (¬ (F 0) ≤ 0 → post (0 : Int32) F G)
def wM_chain (post : Int32 → MF → MG → Prop) (x1 : Int32) (x2 : Int32) (x3 : Int32) (x4 : Int32) (F : MF) (G : MG) : Prop :=
  wM_whyNotBooking (fun r_11 => ∀ F_12 : MF, F_12 = upd F 0 r_11 → ((F_12 0) = 0 → wM_isIn (fun r_13 => (r_13 = 0 → ∀ F_14 : MF, F_14 = upd F_12 0 (2 : Int32) → wM_chain_j36 post x1 x2 x3 x4 F_14 G) ∧ (¬ r_13 = 0 → wM_chain_j36 post x1 x2 x3 x4 F_12 G)) ((x4).toInt64) (0 : Int64) (3 : Int64) F_12 G) ∧ (¬ (F_12 0) = 0 → wM_chain_j36 post x1 x2 x3 x4 F_12 G)) x1 x2 x3 F G
set_option maxHeartbeats 4000000 in
theorem kM_chain (l : Launch) (w : MP) (post : Int32 → MF → MG → Prop) (x1 : Int32) (x2 : Int32) (x3 : Int32) (x4 : Int32) (F : MF) (G : MG) (hw : wM_chain post x1 x2 x3 x4 F G) : m_Mi l w yX5_chain cX5_chain 5 .int 10 [.ref (mp_h w), .int x1, .int x2, .int x3, .int x4] F G post := by
  refine m_ofWi (by decide) rfl (Nat.le_of_ble_eq_true rfl) (fun _ => True) (fun _ _ => rfl) ?_
  intro p e s m args below meth c Q ls hA hW hQ
  obtain ⟨hE, hT, hl⟩ := hA
  obtain ⟨hx, hb, hml, hown, hts⟩ := id hE
  have hl : lv_has ls 5 [(0, .ref (mp_h w)), (1, .int x1), (2, .int x2), (3, .int x3), (4, .int x4)] := hl
  have jn36 : ∀ (y1 : Int32) (y2 : Int32) (y3 : Int32) (y4 : Int32) (F : MF) (G : MG) (H : Heap) (locs : List Loc) (ls : Array Slot), lv_has ls 5 [(0, .ref (mp_h w)), (1, .int y1), (2, .int y2), (3, .int y3), (4, .int y4)] → m_W w s.heap F G H locs → wM_chain_j36 post y1 y2 y3 y4 F G → W p l e (mrm 10) s m args below meth c H locs 0 0 Q (F0 m 36 ls []) := by
    intro y1 y2 y3 y4 F G H locs ls hl hW hw
    unfold wM_chain_j36 at hw
    refine lv_aload_n hx hb dX5_chain_36 rfl (lv_at hl 0 rfl) ?_
    refine m_get hx hb hown hts hT hW 0 (by decide) (hts _ q2129) rfl (v := .int (F 0)) rfl dX5_chain_37 ?_
    refine lv_if_le (tgt := 45) hx hb dX5_chain_40 (by decide) (fun q => ?_) (fun q => ?_)
    · have hw := hw.1 q
      refine lv_aload_n hx hb dX5_chain_45 rfl (lv_at hl 0 rfl) ?_
      refine lv_iload_n hx hb dX5_chain_46 rfl (lv_at hl 1 rfl) ?_
      refine m_Vi (rest := []) hE hT hW (kM_isActive l w _ y1 F G hw) gM_isActive dM_isActive ⟨Nat.le_of_ble_eq_true rfl, Nat.le_of_ble_eq_true rfl, Nat.zero_le _, Nat.zero_le _⟩ rfl hl.1 rfl (Nat.le_of_ble_eq_true rfl) dX5_chain_47 (fun r_1 F9 G9 H locs hw hW => ?_)
      obtain ⟨eF9, eG9, hw⟩ := hw
      rw [eF9, eG9] at hW
      refine lv_if_ne (tgt := 59) hx hb dX5_chain_50 (by decide) (fun q => ?_) (fun q => ?_)
      · have hw := hw.2 q
        refine lv_aload_n hx hb dX5_chain_59 rfl (lv_at hl 0 rfl) ?_
        refine lv_iload_n hx hb dX5_chain_60 rfl (lv_at hl 1 rfl) ?_
        refine lv_iload_n hx hb dX5_chain_61 rfl (lv_at hl 2 rfl) ?_
        refine lv_iload_n hx hb dX5_chain_62 rfl (lv_at hl 3 rfl) ?_
        refine m_Vi (rest := []) hE hT hW (kM_seeks l w _ y1 y2 y3 F G hw) gM_seeks dM_seeks ⟨Nat.le_of_ble_eq_true rfl, Nat.le_of_ble_eq_true rfl, Nat.zero_le _, Nat.zero_le _⟩ rfl hl.1 rfl (Nat.le_of_ble_eq_true rfl) dX5_chain_63 (fun r_2 F_3 G_4 H locs hw hW => ?_)
        refine lv_if_ne (tgt := 75) hx hb dX5_chain_66 (by decide) (fun q => ?_) (fun q => ?_)
        · have hw := hw.2 q
          refine lv_iload hx hb dX5_chain_75 (lv_at hl 4 rfl) ?_
          refine lv_if_ne (tgt := 87) hx hb dX5_chain_77 (by decide) (fun q => ?_) (fun q => ?_)
          · have hw := hw.2 q
            refine lv_iload hx hb dX5_chain_87 (lv_at hl 4 rfl) ?_
            refine lv_aload_n hx hb dX5_chain_89 rfl (lv_at hl 0 rfl) ?_
            refine m_get hx hb hown hts hT hW 22 (by decide) (hts _ q2151) rfl (v := .int (F_3 22)) rfl dX5_chain_90 ?_
            refine lv_icmp_le (tgt := 100) hx hb dX5_chain_93 (by decide) (fun q => ?_) (fun q => ?_)
            · have hw := hw.1 q
              refine lv_aload_n hx hb dX5_chain_100 rfl (lv_at hl 0 rfl) ?_
              refine m_get hx hb hown hts hT hW 21 (by decide) (hts _ q2150) rfl (v := .ref (mp_a w 21)) rfl dX5_chain_101 ?_
              refine lv_iload hx hb dX5_chain_104 (lv_at hl 4 rfl) ?_
              refine lv_iconst (v := (1 : Int32)) hx hb dX5_chain_106 (by decide) ?_
              refine lv_isub hx hb dX5_chain_107 ?_
              obtain ⟨hi, hw⟩ := hw
              refine m_iald hx hb hT hW (k := 21) (j := ((y4 - (1 : Int32)).toNatClampNeg)) rfl rfl hi dX5_chain_108 ?_
              exact hQ _ _ _ _ _ trivial hw hW _ _ dX5_chain_109
            · have hw := hw.2 q
              refine lv_iconst (v := (-1 : Int32)) hx hb dX5_chain_96 (by decide) ?_
              refine lv_goto (tgt := 109) hx hb dX5_chain_97 (by decide) ?_
              exact hQ _ _ _ _ _ trivial hw hW _ _ dX5_chain_109
          · have hw := hw.1 q
            refine lv_aload_n hx hb dX5_chain_80 rfl (lv_at hl 0 rfl) ?_
            refine m_get hx hb hown hts hT hW 22 (by decide) (hts _ q2151) rfl (v := .int (F_3 22)) rfl dX5_chain_81 ?_
            refine lv_goto (tgt := 109) hx hb dX5_chain_84 (by decide) ?_
            exact hQ _ _ _ _ _ trivial hw hW _ _ dX5_chain_109
        · have hw := hw.1 q
          refine lv_aload_n hx hb dX5_chain_69 rfl (lv_at hl 0 rfl) ?_
          refine lv_iconst (v := (4 : Int32)) hx hb dX5_chain_70 (by decide) ?_
          refine m_Vi (rest := []) hE hT hW (kM_fails l w _ (4 : Int32) F_3 G_4 hw) gM_fails dM_fails ⟨Nat.le_of_ble_eq_true rfl, Nat.le_of_ble_eq_true rfl, Nat.zero_le _, Nat.zero_le _⟩ rfl hl.1 rfl (Nat.le_of_ble_eq_true rfl) dX5_chain_71 (fun r_5 F_6 G_7 H locs hw hW => ?_)
          exact hQ _ _ _ _ _ trivial hw hW _ _ dX5_chain_74
      · have hw := hw.1 q
        refine lv_aload_n hx hb dX5_chain_53 rfl (lv_at hl 0 rfl) ?_
        refine lv_iconst (v := (3 : Int32)) hx hb dX5_chain_54 (by decide) ?_
        refine m_Vi (rest := []) hE hT hW (kM_fails l w _ (3 : Int32) F G hw) gM_fails dM_fails ⟨Nat.le_of_ble_eq_true rfl, Nat.le_of_ble_eq_true rfl, Nat.zero_le _, Nat.zero_le _⟩ rfl hl.1 rfl (Nat.le_of_ble_eq_true rfl) dX5_chain_55 (fun r_8 F_9 G_10 H locs hw hW => ?_)
        exact hQ _ _ _ _ _ trivial hw hW _ _ dX5_chain_58
    · have hw := hw.2 q
      refine lv_iconst (v := (0 : Int32)) hx hb dX5_chain_43 (by decide) ?_
      exact hQ _ _ _ _ _ trivial hw hW _ _ dX5_chain_44
  unfold wM_chain at hw
  refine lv_aload_n hx hb dX5_chain_0 rfl (lv_at hl 0 rfl) ?_
  refine lv_aload_n hx hb dX5_chain_1 rfl (lv_at hl 0 rfl) ?_
  refine lv_iload_n hx hb dX5_chain_2 rfl (lv_at hl 1 rfl) ?_
  refine lv_iload_n hx hb dX5_chain_3 rfl (lv_at hl 2 rfl) ?_
  refine lv_iload_n hx hb dX5_chain_4 rfl (lv_at hl 3 rfl) ?_
  refine m_Vi (rest := [.ref (mp_h w)]) hE hT hW (kM_whyNotBooking l w _ x1 x2 x3 F G hw) gM_whyNotBooking dM_whyNotBooking ⟨Nat.le_of_ble_eq_true rfl, Nat.le_of_ble_eq_true rfl, Nat.zero_le _, Nat.zero_le _⟩ rfl hl.1 rfl (Nat.le_of_ble_eq_true rfl) dX5_chain_5 (fun r_11 F9 G9 H locs hw hW => ?_)
  obtain ⟨eF9, eG9, hw⟩ := hw
  rw [eF9, eG9] at hW
  refine m_put hx hb hown hts hT hW 0 (by decide) (hts _ q2129) rfl rfl (ty := .int) (x := r_11) rfl rfl rfl rfl dX5_chain_8 (fun F_12 H locs eF_12 hW => ?_)
  have hw := hw F_12 eF_12
  refine lv_aload_n hx hb dX5_chain_11 rfl (lv_at hl 0 rfl) ?_
  refine m_get hx hb hown hts hT hW 0 (by decide) (hts _ q2129) rfl (v := .int (F_12 0)) rfl dX5_chain_12 ?_
  refine lv_if_ne (tgt := 36) hx hb dX5_chain_15 (by decide) (fun q => ?_) (fun q => ?_)
  · have hw := hw.2 q
    exact jn36 x1 x2 x3 x4 F_12 G _ _ _ hl hW hw
  · have hw := hw.1 q
    refine lv_iload hx hb dX5_chain_18 (lv_at hl 4 rfl) ?_
    refine lv_i2l (v := (x4).toInt64) hx hb dX5_chain_20 rfl ?_
    refine lv_lconst (v := (0 : Int64)) hx hb dX5_chain_21 rfl ?_
    refine lv_ldc2 hx hb hown (hts _ q2666) dX5_chain_22 ?_
    refine m_Si (rest := []) hE hT hW (kM_isIn l w _ ((x4).toInt64) (0 : Int64) (3 : Int64) F_12 G hw) gM_isIn dM_isIn ⟨Nat.le_of_ble_eq_true rfl, Nat.le_of_ble_eq_true rfl, Nat.zero_le _, Nat.zero_le _⟩ rfl hl.1 rfl (Nat.le_of_ble_eq_true rfl) dX5_chain_25 (fun r_13 F9 G9 H locs hw hW => ?_)
    obtain ⟨eF9, eG9, hw⟩ := hw
    rw [eF9, eG9] at hW
    refine lv_if_ne (tgt := 36) hx hb dX5_chain_28 (by decide) (fun q => ?_) (fun q => ?_)
    · have hw := hw.2 q
      exact jn36 x1 x2 x3 x4 F_12 G _ _ _ hl hW hw
    · have hw := hw.1 q
      refine lv_aload_n hx hb dX5_chain_31 rfl (lv_at hl 0 rfl) ?_
      refine lv_iconst (v := (2 : Int32)) hx hb dX5_chain_32 (by decide) ?_
      refine m_put hx hb hown hts hT hW 0 (by decide) (hts _ q2129) rfl rfl (ty := .int) (x := (2 : Int32)) rfl rfl rfl rfl dX5_chain_33 (fun F_14 H locs eF_14 hW => ?_)
      have hw := hw F_14 eF_14
      exact jn36 x1 x2 x3 x4 F_14 G _ _ _ hl hW hw

/-! swapProblem -/
def wM_swapProblem (post : Int32 → MF → MG → Prop) (x1 : Int32) (x2 : Int32) (F : MF) (G : MG) : Prop :=
  wM_whyNotPair (fun r_1 => ∀ F_2 : MF, F_2 = upd F 0 r_1 → ((F_2 0) ≤ 0 → wM_swapProblemOf (fun r_3 F_4 G_5 => post r_3 F_4 G_5) x1 x2 F_2 G) ∧ (¬ (F_2 0) ≤ 0 → post (0 : Int32) F_2 G)) x1 x2 F G
set_option maxHeartbeats 4000000 in
theorem kM_swapProblem (l : Launch) (w : MP) (post : Int32 → MF → MG → Prop) (x1 : Int32) (x2 : Int32) (F : MF) (G : MG) (hw : wM_swapProblem post x1 x2 F G) : m_Mi l w yX5_swapProblem cX5_swapProblem 3 .int 9 [.ref (mp_h w), .int x1, .int x2] F G post := by
  refine m_ofWi (by decide) rfl (Nat.le_of_ble_eq_true rfl) (fun _ => True) (fun _ _ => rfl) ?_
  intro p e s m args below meth c Q ls hA hW hQ
  obtain ⟨hE, hT, hl⟩ := hA
  obtain ⟨hx, hb, hml, hown, hts⟩ := id hE
  have hl : lv_has ls 3 [(0, .ref (mp_h w)), (1, .int x1), (2, .int x2)] := hl
  unfold wM_swapProblem at hw
  refine lv_aload_n hx hb dX5_swapProblem_0 rfl (lv_at hl 0 rfl) ?_
  refine lv_aload_n hx hb dX5_swapProblem_1 rfl (lv_at hl 0 rfl) ?_
  refine lv_iload_n hx hb dX5_swapProblem_2 rfl (lv_at hl 1 rfl) ?_
  refine lv_iload_n hx hb dX5_swapProblem_3 rfl (lv_at hl 2 rfl) ?_
  refine m_Vi (rest := [.ref (mp_h w)]) hE hT hW (kM_whyNotPair l w _ x1 x2 F G hw) gM_whyNotPair dM_whyNotPair ⟨Nat.le_of_ble_eq_true rfl, Nat.le_of_ble_eq_true rfl, Nat.zero_le _, Nat.zero_le _⟩ rfl hl.1 rfl (Nat.le_of_ble_eq_true rfl) dX5_swapProblem_4 (fun r_1 F9 G9 H locs hw hW => ?_)
  obtain ⟨eF9, eG9, hw⟩ := hw
  rw [eF9, eG9] at hW
  refine m_put hx hb hown hts hT hW 0 (by decide) (hts _ q2129) rfl rfl (ty := .int) (x := r_1) rfl rfl rfl rfl dX5_swapProblem_7 (fun F_2 H locs eF_2 hW => ?_)
  have hw := hw F_2 eF_2
  refine lv_aload_n hx hb dX5_swapProblem_10 rfl (lv_at hl 0 rfl) ?_
  refine m_get hx hb hown hts hT hW 0 (by decide) (hts _ q2129) rfl (v := .int (F_2 0)) rfl dX5_swapProblem_11 ?_
  refine lv_if_le (tgt := 21) hx hb dX5_swapProblem_14 (by decide) (fun q => ?_) (fun q => ?_)
  · have hw := hw.1 q
    refine lv_aload_n hx hb dX5_swapProblem_21 rfl (lv_at hl 0 rfl) ?_
    refine lv_iload_n hx hb dX5_swapProblem_22 rfl (lv_at hl 1 rfl) ?_
    refine lv_iload_n hx hb dX5_swapProblem_23 rfl (lv_at hl 2 rfl) ?_
    refine m_Vi (rest := []) hE hT hW (kM_swapProblemOf l w _ x1 x2 F_2 G hw) gM_swapProblemOf dM_swapProblemOf ⟨Nat.le_of_ble_eq_true rfl, Nat.le_of_ble_eq_true rfl, Nat.zero_le _, Nat.zero_le _⟩ rfl hl.1 rfl (Nat.le_of_ble_eq_true rfl) dX5_swapProblem_24 (fun r_3 F_4 G_5 H locs hw hW => ?_)
    exact hQ _ _ _ _ _ trivial hw hW _ _ dX5_swapProblem_27
  · have hw := hw.2 q
    refine lv_iconst (v := (0 : Int32)) hx hb dX5_swapProblem_17 (by decide) ?_
    refine lv_goto (tgt := 27) hx hb dX5_swapProblem_18 (by decide) ?_
    exact hQ _ _ _ _ _ trivial hw hW _ _ dX5_swapProblem_27

/-! feeNow -/
def wM_feeNow (post : Int32 → MF → MG → Prop) (x1 : Int32) (F : MF) (G : MG) : Prop :=
  wM_isBooking (fun r_1 => (r_1 = 0 → ∀ F_7 : MF, F_7 = upd F 0 (1 : Int32) → ((F_7 0) ≤ 0 → wM_feeOf (fun r_8 => post r_8 F_7 G) x1 F_7 G) ∧ (¬ (F_7 0) ≤ 0 → post (0 : Int32) F_7 G)) ∧ (¬ r_1 = 0 → wM_isToCome (fun r_2 => (r_2 = 0 → ∀ F_5 : MF, F_5 = upd F 0 (2 : Int32) → ((F_5 0) ≤ 0 → wM_feeOf (fun r_6 => post r_6 F_5 G) x1 F_5 G) ∧ (¬ (F_5 0) ≤ 0 → post (0 : Int32) F_5 G)) ∧ (¬ r_2 = 0 → ∀ F_3 : MF, F_3 = upd F 0 (0 : Int32) → ((F_3 0) ≤ 0 → wM_feeOf (fun r_4 => post r_4 F_3 G) x1 F_3 G) ∧ (¬ (F_3 0) ≤ 0 → post (0 : Int32) F_3 G))) x1 F G)) x1 F G
set_option maxHeartbeats 4000000 in
theorem kM_feeNow (l : Launch) (w : MP) (post : Int32 → MF → MG → Prop) (x1 : Int32) (F : MF) (G : MG) (hw : wM_feeNow post x1 F G) : m_Mi l w yX5_feeNow cX5_feeNow 2 .int 4 [.ref (mp_h w), .int x1] F G post := by
  refine m_ofWi (by decide) rfl (Nat.le_of_ble_eq_true rfl) (fun _ => True) (fun _ _ => rfl) ?_
  intro p e s m args below meth c Q ls hA hW hQ
  obtain ⟨hE, hT, hl⟩ := hA
  obtain ⟨hx, hb, hml, hown, hts⟩ := id hE
  have hl : lv_has ls 2 [(0, .ref (mp_h w)), (1, .int x1)] := hl
  unfold wM_feeNow at hw
  refine lv_aload_n hx hb dX5_feeNow_0 rfl (lv_at hl 0 rfl) ?_
  refine lv_aload_n hx hb dX5_feeNow_1 rfl (lv_at hl 0 rfl) ?_
  refine lv_iload_n hx hb dX5_feeNow_2 rfl (lv_at hl 1 rfl) ?_
  refine m_Vi (rest := [.ref (mp_h w)]) hE hT hW (kM_isBooking l w _ x1 F G hw) gM_isBooking dM_isBooking ⟨Nat.le_of_ble_eq_true rfl, Nat.le_of_ble_eq_true rfl, Nat.zero_le _, Nat.zero_le _⟩ rfl hl.1 rfl (Nat.le_of_ble_eq_true rfl) dX5_feeNow_3 (fun r_1 F9 G9 H locs hw hW => ?_)
  obtain ⟨eF9, eG9, hw⟩ := hw
  rw [eF9, eG9] at hW
  refine lv_if_ne (tgt := 13) hx hb dX5_feeNow_6 (by decide) (fun q => ?_) (fun q => ?_)
  · have hw := hw.2 q
    refine lv_aload_n hx hb dX5_feeNow_13 rfl (lv_at hl 0 rfl) ?_
    refine lv_iload_n hx hb dX5_feeNow_14 rfl (lv_at hl 1 rfl) ?_
    refine m_Vi (rest := [.ref (mp_h w)]) hE hT hW (kM_isToCome l w _ x1 F G hw) gM_isToCome dM_isToCome ⟨Nat.le_of_ble_eq_true rfl, Nat.le_of_ble_eq_true rfl, Nat.zero_le _, Nat.zero_le _⟩ rfl hl.1 rfl (Nat.le_of_ble_eq_true rfl) dX5_feeNow_15 (fun r_2 F9 G9 H locs hw hW => ?_)
    obtain ⟨eF9, eG9, hw⟩ := hw
    rw [eF9, eG9] at hW
    refine lv_if_ne (tgt := 25) hx hb dX5_feeNow_18 (by decide) (fun q => ?_) (fun q => ?_)
    · have hw := hw.2 q
      refine lv_iconst (v := (0 : Int32)) hx hb dX5_feeNow_25 (by decide) ?_
      refine m_put hx hb hown hts hT hW 0 (by decide) (hts _ q2129) rfl rfl (ty := .int) (x := (0 : Int32)) rfl rfl rfl rfl dX5_feeNow_26 (fun F_3 H locs eF_3 hW => ?_)
      have hw := hw F_3 eF_3
      refine lv_aload_n hx hb dX5_feeNow_29 rfl (lv_at hl 0 rfl) ?_
      refine m_get hx hb hown hts hT hW 0 (by decide) (hts _ q2129) rfl (v := .int (F_3 0)) rfl dX5_feeNow_30 ?_
      refine lv_if_le (tgt := 40) hx hb dX5_feeNow_33 (by decide) (fun q => ?_) (fun q => ?_)
      · have hw := hw.1 q
        refine lv_aload_n hx hb dX5_feeNow_40 rfl (lv_at hl 0 rfl) ?_
        refine lv_iload_n hx hb dX5_feeNow_41 rfl (lv_at hl 1 rfl) ?_
        refine m_Vi (rest := []) hE hT hW (kM_feeOf l w _ x1 F_3 G hw) gM_feeOf dM_feeOf ⟨Nat.le_of_ble_eq_true rfl, Nat.le_of_ble_eq_true rfl, Nat.zero_le _, Nat.zero_le _⟩ rfl hl.1 rfl (Nat.le_of_ble_eq_true rfl) dX5_feeNow_42 (fun r_4 F9 G9 H locs hw hW => ?_)
        obtain ⟨eF9, eG9, hw⟩ := hw
        rw [eF9, eG9] at hW
        exact hQ _ _ _ _ _ trivial hw hW _ _ dX5_feeNow_45
      · have hw := hw.2 q
        refine lv_iconst (v := (0 : Int32)) hx hb dX5_feeNow_36 (by decide) ?_
        refine lv_goto (tgt := 45) hx hb dX5_feeNow_37 (by decide) ?_
        exact hQ _ _ _ _ _ trivial hw hW _ _ dX5_feeNow_45
    · have hw := hw.1 q
      refine lv_iconst (v := (2 : Int32)) hx hb dX5_feeNow_21 (by decide) ?_
      refine lv_goto (tgt := 26) hx hb dX5_feeNow_22 (by decide) ?_
      refine m_put hx hb hown hts hT hW 0 (by decide) (hts _ q2129) rfl rfl (ty := .int) (x := (2 : Int32)) rfl rfl rfl rfl dX5_feeNow_26 (fun F_5 H locs eF_5 hW => ?_)
      have hw := hw F_5 eF_5
      refine lv_aload_n hx hb dX5_feeNow_29 rfl (lv_at hl 0 rfl) ?_
      refine m_get hx hb hown hts hT hW 0 (by decide) (hts _ q2129) rfl (v := .int (F_5 0)) rfl dX5_feeNow_30 ?_
      refine lv_if_le (tgt := 40) hx hb dX5_feeNow_33 (by decide) (fun q => ?_) (fun q => ?_)
      · have hw := hw.1 q
        refine lv_aload_n hx hb dX5_feeNow_40 rfl (lv_at hl 0 rfl) ?_
        refine lv_iload_n hx hb dX5_feeNow_41 rfl (lv_at hl 1 rfl) ?_
        refine m_Vi (rest := []) hE hT hW (kM_feeOf l w _ x1 F_5 G hw) gM_feeOf dM_feeOf ⟨Nat.le_of_ble_eq_true rfl, Nat.le_of_ble_eq_true rfl, Nat.zero_le _, Nat.zero_le _⟩ rfl hl.1 rfl (Nat.le_of_ble_eq_true rfl) dX5_feeNow_42 (fun r_6 F9 G9 H locs hw hW => ?_)
        obtain ⟨eF9, eG9, hw⟩ := hw
        rw [eF9, eG9] at hW
        exact hQ _ _ _ _ _ trivial hw hW _ _ dX5_feeNow_45
      · have hw := hw.2 q
        refine lv_iconst (v := (0 : Int32)) hx hb dX5_feeNow_36 (by decide) ?_
        refine lv_goto (tgt := 45) hx hb dX5_feeNow_37 (by decide) ?_
        exact hQ _ _ _ _ _ trivial hw hW _ _ dX5_feeNow_45
  · have hw := hw.1 q
    refine lv_iconst (v := (1 : Int32)) hx hb dX5_feeNow_9 (by decide) ?_
    refine lv_goto (tgt := 26) hx hb dX5_feeNow_10 (by decide) ?_
    refine m_put hx hb hown hts hT hW 0 (by decide) (hts _ q2129) rfl rfl (ty := .int) (x := (1 : Int32)) rfl rfl rfl rfl dX5_feeNow_26 (fun F_7 H locs eF_7 hW => ?_)
    have hw := hw F_7 eF_7
    refine lv_aload_n hx hb dX5_feeNow_29 rfl (lv_at hl 0 rfl) ?_
    refine m_get hx hb hown hts hT hW 0 (by decide) (hts _ q2129) rfl (v := .int (F_7 0)) rfl dX5_feeNow_30 ?_
    refine lv_if_le (tgt := 40) hx hb dX5_feeNow_33 (by decide) (fun q => ?_) (fun q => ?_)
    · have hw := hw.1 q
      refine lv_aload_n hx hb dX5_feeNow_40 rfl (lv_at hl 0 rfl) ?_
      refine lv_iload_n hx hb dX5_feeNow_41 rfl (lv_at hl 1 rfl) ?_
      refine m_Vi (rest := []) hE hT hW (kM_feeOf l w _ x1 F_7 G hw) gM_feeOf dM_feeOf ⟨Nat.le_of_ble_eq_true rfl, Nat.le_of_ble_eq_true rfl, Nat.zero_le _, Nat.zero_le _⟩ rfl hl.1 rfl (Nat.le_of_ble_eq_true rfl) dX5_feeNow_42 (fun r_8 F9 G9 H locs hw hW => ?_)
      obtain ⟨eF9, eG9, hw⟩ := hw
      rw [eF9, eG9] at hW
      exact hQ _ _ _ _ _ trivial hw hW _ _ dX5_feeNow_45
    · have hw := hw.2 q
      refine lv_iconst (v := (0 : Int32)) hx hb dX5_feeNow_36 (by decide) ?_
      refine lv_goto (tgt := 45) hx hb dX5_feeNow_37 (by decide) ?_
      exact hQ _ _ _ _ _ trivial hw hW _ _ dX5_feeNow_45

/-! useAt -/
def wM_useAt_j67 (post : Int32 → Prop) (K16 : Int32 → Int32 → Int32 → Int32 → Int32 → Prop) (F : MF) (G : MG) (y1 : Int32) (y2 : Int32) (y3 : Int32) (y4 : Int32) (y5 : Int32) (z0 : Int32) : Prop :=
  (z0 = 0 → ∀ x4_1 : Int32, x4_1 = (y4 + (0 : Int32)) → K16 y1 y2 y3 x4_1 (y5 + (1 : Int32))) ∧ (¬ z0 = 0 → wM_of (fun r_2 => ∀ x4_3 : Int32, x4_3 = (y4 + r_2) → K16 y1 y2 y3 x4_3 (y5 + (1 : Int32))) y5 ((3 : Int32) + y1) F G)
def wM_useAt_b16 (post : Int32 → Prop) (F : MF) (G : MG) (K16 : Int32 → Int32 → Int32 → Int32 → Int32 → Prop) (y1 : Int32) (y2 : Int32) (y3 : Int32) (y4 : Int32) (y5 : Int32) : Prop :=
  ((G 8 1) ≤ y5 → post y4) ∧ (¬ (G 8 1) ≤ y5 → wM_counts (fun r_4 => (r_4 = 0 → wM_useAt_j67 post K16 F G y1 y2 y3 y4 y5 (0 : Int32)) ∧ (¬ r_4 = 0 → wM_of (fun r_5 => (y2 < (r_5 - y3) → wM_useAt_j67 post K16 F G y1 y2 y3 y4 y5 (0 : Int32)) ∧ (¬ y2 < (r_5 - y3) → wM_endOf (fun r_6 => ((r_6 + y3) ≤ y2 → wM_useAt_j67 post K16 F G y1 y2 y3 y4 y5 (0 : Int32)) ∧ (¬ (r_6 + y3) ≤ y2 → wM_useAt_j67 post K16 F G y1 y2 y3 y4 y5 (1 : Int32))) y5 F G)) y5 (10 : Int32) F G)) y5 F G)
def wM_useAt_l16 (post : Int32 → Prop) (F : MF) (G : MG) : Nat → Int32 → Int32 → Int32 → Int32 → Int32 → Prop
  | 0 => fun _ _ _ _ _ => False
  | n + 1 => wM_useAt_b16 post F G (wM_useAt_l16 post F G n)
def wM_useAt (post : Int32 → Prop) (x1 : Int32) (x2 : Int32) (F : MF) (G : MG) : Prop :=
  vp_in ((44 : Int32) + x1) 166 ∧ ∀ x3_7 : Int32, x3_7 = (G 1 (((44 : Int32) + x1).toNatClampNeg)) → ∃ n, wM_useAt_l16 post F G n x1 x2 x3_7 (0 : Int32) (0 : Int32)
set_option maxHeartbeats 4000000 in
theorem kM_useAt (l : Launch) (w : MP) (post : Int32 → Prop) (x1 : Int32) (x2 : Int32) (F : MF) (G : MG) (hw : wM_useAt post x1 x2 F G) : m_Mi l w yX5_useAt cX5_useAt 7 .int 4 [.ref (mp_h w), .int x1, .int x2] F G (fun r F1 G1 => F1 = F ∧ G1 = G ∧ post r) := by
  refine m_ofWi (by decide) rfl (Nat.le_of_ble_eq_true rfl) (fun _ => True) (fun _ _ => rfl) ?_
  intro p e s m args below meth c Q ls hA hW hQ
  obtain ⟨hE, hT, hl⟩ := hA
  obtain ⟨hx, hb, hml, hown, hts⟩ := id hE
  have hl : lv_has ls 7 [(0, .ref (mp_h w)), (1, .int x1), (2, .int x2)] := hl
  have lp16 : ∀ (n16 : Nat) (y1 : Int32) (y2 : Int32) (y3 : Int32) (y4 : Int32) (y5 : Int32) (H : Heap) (locs : List Loc) (ls : Array Slot), lv_has ls 7 [(0, .ref (mp_h w)), (1, .int y1), (2, .int y2), (3, .int y3), (4, .int y4), (5, .int y5)] → m_W w s.heap F G H locs → wM_useAt_l16 post F G n16 y1 y2 y3 y4 y5 → W p l e (mrm 4) s m args below meth c H locs 0 0 Q (F0 m 16 ls []) := by
    intro n16
    induction n16 with
    | zero => intro y1 y2 y3 y4 y5 H locs ls hl hW hw; exact hw.elim
    | succ n16 ih16 =>
      have jn67 : ∀ (y1 : Int32) (y2 : Int32) (y3 : Int32) (y4 : Int32) (y5 : Int32) (z0 : Int32) (H : Heap) (locs : List Loc) (ls : Array Slot), lv_has ls 7 [(0, .ref (mp_h w)), (1, .int y1), (2, .int y2), (3, .int y3), (4, .int y4), (5, .int y5)] → m_W w s.heap F G H locs → wM_useAt_j67 post (wM_useAt_l16 post F G n16) F G y1 y2 y3 y4 y5 z0 → W p l e (mrm 4) s m args below meth c H locs 0 0 Q (F0 m 67 ls [.int z0]) := by
        intro y1 y2 y3 y4 y5 z0 H locs ls hl hW hw
        unfold wM_useAt_j67 at hw
        refine lv_istore (lv' := [(6, .int z0), (0, .ref (mp_h w)), (1, .int y1), (2, .int y2), (3, .int y3), (4, .int y4), (5, .int y5)]) hx hb dX5_useAt_67 hl (by decide) rfl (fun ls hl => ?_)
        refine lv_iload hx hb dX5_useAt_69 (lv_at hl 5 rfl) ?_
        refine lv_iload hx hb dX5_useAt_71 (lv_at hl 0 rfl) ?_
        refine lv_if_eq (tgt := 88) hx hb dX5_useAt_73 (by decide) (fun q => ?_) (fun q => ?_)
        · have hw := hw.1 q
          refine lv_iconst (v := (0 : Int32)) hx hb dX5_useAt_88 (by decide) ?_
          refine lv_iadd hx hb dX5_useAt_89 ?_
          refine lv_topi (fun x4_1 ex4_1 => ?_)
          have hw := hw x4_1 ex4_1
          refine lv_istore (lv' := [(4, .int x4_1), (6, .int z0), (0, .ref (mp_h w)), (1, .int y1), (2, .int y2), (3, .int y3), (5, .int y5)]) hx hb dX5_useAt_90 hl (by decide) rfl (fun ls hl => ?_)
          refine lv_iinc (v := (y5 + (1 : Int32))) (lv' := [(5, .int (y5 + (1 : Int32))), (4, .int x4_1), (6, .int z0), (0, .ref (mp_h w)), (1, .int y1), (2, .int y2), (3, .int y3)]) hx hb dX5_useAt_92 hl (k := 6) rfl rfl (by decide) rfl (fun ls hl => ?_)
          refine lv_goto (tgt := 16) hx hb dX5_useAt_95 (by decide) ?_
          exact ih16 y1 y2 y3 x4_1 (y5 + (1 : Int32)) _ _ _ (lv_sub hl [3, 4, 5, 6, 1, 0] rfl) hW hw
        · have hw := hw.2 q
          refine lv_aload_n hx hb dX5_useAt_76 rfl (lv_at hl 1 rfl) ?_
          refine lv_iload hx hb dX5_useAt_77 (lv_at hl 6 rfl) ?_
          refine lv_iconst (v := (3 : Int32)) hx hb dX5_useAt_79 (by decide) ?_
          refine lv_iload_n hx hb dX5_useAt_80 rfl (lv_at hl 2 rfl) ?_
          refine lv_iadd hx hb dX5_useAt_81 ?_
          refine m_Vi (rest := [.int y4]) hE hT hW (kM_of l w _ y5 ((3 : Int32) + y1) F G hw) gM_of dM_of ⟨Nat.le_of_ble_eq_true rfl, Nat.le_of_ble_eq_true rfl, Nat.zero_le _, Nat.zero_le _⟩ rfl hl.1 rfl (Nat.le_of_ble_eq_true rfl) dX5_useAt_82 (fun r_2 F9 G9 H locs hw hW => ?_)
          obtain ⟨eF9, eG9, hw⟩ := hw
          rw [eF9, eG9] at hW
          refine lv_goto (tgt := 89) hx hb dX5_useAt_85 (by decide) ?_
          refine lv_iadd hx hb dX5_useAt_89 ?_
          refine lv_topi (fun x4_3 ex4_3 => ?_)
          have hw := hw x4_3 ex4_3
          refine lv_istore (lv' := [(4, .int x4_3), (6, .int z0), (0, .ref (mp_h w)), (1, .int y1), (2, .int y2), (3, .int y3), (5, .int y5)]) hx hb dX5_useAt_90 hl (by decide) rfl (fun ls hl => ?_)
          refine lv_iinc (v := (y5 + (1 : Int32))) (lv' := [(5, .int (y5 + (1 : Int32))), (4, .int x4_3), (6, .int z0), (0, .ref (mp_h w)), (1, .int y1), (2, .int y2), (3, .int y3)]) hx hb dX5_useAt_92 hl (k := 6) rfl rfl (by decide) rfl (fun ls hl => ?_)
          refine lv_goto (tgt := 16) hx hb dX5_useAt_95 (by decide) ?_
          exact ih16 y1 y2 y3 x4_3 (y5 + (1 : Int32)) _ _ _ (lv_sub hl [3, 4, 5, 6, 1, 0] rfl) hW hw
      intro y1 y2 y3 y4 y5 H locs ls hl hW hw
      have hw : wM_useAt_b16 post F G (wM_useAt_l16 post F G n16) y1 y2 y3 y4 y5 := hw
      unfold wM_useAt_b16 at hw
      refine lv_iload hx hb dX5_useAt_16 (lv_at hl 5 rfl) ?_
      refine lv_aload_n hx hb dX5_useAt_18 rfl (lv_at hl 0 rfl) ?_
      refine m_get hx hb hown hts hT hW 8 (by decide) (hts _ q2137) rfl (v := .ref (mp_a w 8)) rfl dX5_useAt_19 ?_
      refine lv_iconst (v := (1 : Int32)) hx hb dX5_useAt_22 (by decide) ?_
      refine m_iald hx hb hT hW (k := 8) (j := 1) (by decide) rfl (by unfold vp_in; decide) dX5_useAt_23 ?_
      refine lv_icmp_ge (tgt := 98) hx hb dX5_useAt_24 (by decide) (fun q => ?_) (fun q => ?_)
      · have hw := hw.1 q
        refine lv_iload hx hb dX5_useAt_98 (lv_at hl 4 rfl) ?_
        exact hQ _ _ _ _ _ trivial ⟨rfl, rfl, hw⟩ hW _ _ dX5_useAt_100
      · have hw := hw.2 q
        refine lv_aload_n hx hb dX5_useAt_27 rfl (lv_at hl 0 rfl) ?_
        refine lv_iload hx hb dX5_useAt_28 (lv_at hl 5 rfl) ?_
        refine m_Vi (rest := []) hE hT hW (kM_counts l w _ y5 F G hw) gM_counts dM_counts ⟨Nat.le_of_ble_eq_true rfl, Nat.le_of_ble_eq_true rfl, Nat.zero_le _, Nat.zero_le _⟩ rfl hl.1 rfl (Nat.le_of_ble_eq_true rfl) dX5_useAt_30 (fun r_4 F9 G9 H locs hw hW => ?_)
        obtain ⟨eF9, eG9, hw⟩ := hw
        rw [eF9, eG9] at hW
        refine lv_if_eq (tgt := 66) hx hb dX5_useAt_33 (by decide) (fun q => ?_) (fun q => ?_)
        · have hw := hw.1 q
          refine lv_iconst (v := (0 : Int32)) hx hb dX5_useAt_66 (by decide) ?_
          exact jn67 y1 y2 y3 y4 y5 (0 : Int32) _ _ _ hl hW hw
        · have hw := hw.2 q
          refine lv_iload_n hx hb dX5_useAt_36 rfl (lv_at hl 2 rfl) ?_
          refine lv_aload_n hx hb dX5_useAt_37 rfl (lv_at hl 0 rfl) ?_
          refine lv_iload hx hb dX5_useAt_38 (lv_at hl 5 rfl) ?_
          refine lv_bipush (v := (10 : Int32)) hx hb dX5_useAt_40 (by decide) ?_
          refine m_Vi (rest := [.int y2]) hE hT hW (kM_of l w _ y5 (10 : Int32) F G hw) gM_of dM_of ⟨Nat.le_of_ble_eq_true rfl, Nat.le_of_ble_eq_true rfl, Nat.zero_le _, Nat.zero_le _⟩ rfl hl.1 rfl (Nat.le_of_ble_eq_true rfl) dX5_useAt_42 (fun r_5 F9 G9 H locs hw hW => ?_)
          obtain ⟨eF9, eG9, hw⟩ := hw
          rw [eF9, eG9] at hW
          refine lv_iload_n hx hb dX5_useAt_45 rfl (lv_at hl 3 rfl) ?_
          refine lv_isub hx hb dX5_useAt_46 ?_
          refine lv_icmp_lt (tgt := 66) hx hb dX5_useAt_47 (by decide) (fun q => ?_) (fun q => ?_)
          · have hw := hw.1 q
            refine lv_iconst (v := (0 : Int32)) hx hb dX5_useAt_66 (by decide) ?_
            exact jn67 y1 y2 y3 y4 y5 (0 : Int32) _ _ _ hl hW hw
          · have hw := hw.2 q
            refine lv_iload_n hx hb dX5_useAt_50 rfl (lv_at hl 2 rfl) ?_
            refine lv_aload_n hx hb dX5_useAt_51 rfl (lv_at hl 0 rfl) ?_
            refine lv_iload hx hb dX5_useAt_52 (lv_at hl 5 rfl) ?_
            refine m_Vi (rest := [.int y2]) hE hT hW (kM_endOf l w _ y5 F G hw) gM_endOf dM_endOf ⟨Nat.le_of_ble_eq_true rfl, Nat.le_of_ble_eq_true rfl, Nat.zero_le _, Nat.zero_le _⟩ rfl hl.1 rfl (Nat.le_of_ble_eq_true rfl) dX5_useAt_54 (fun r_6 F9 G9 H locs hw hW => ?_)
            obtain ⟨eF9, eG9, hw⟩ := hw
            rw [eF9, eG9] at hW
            refine lv_iload_n hx hb dX5_useAt_57 rfl (lv_at hl 3 rfl) ?_
            refine lv_iadd hx hb dX5_useAt_58 ?_
            refine lv_icmp_ge (tgt := 66) hx hb dX5_useAt_59 (by decide) (fun q => ?_) (fun q => ?_)
            · have hw := hw.1 q
              refine lv_iconst (v := (0 : Int32)) hx hb dX5_useAt_66 (by decide) ?_
              exact jn67 y1 y2 y3 y4 y5 (0 : Int32) _ _ _ hl hW hw
            · have hw := hw.2 q
              refine lv_iconst (v := (1 : Int32)) hx hb dX5_useAt_62 (by decide) ?_
              refine lv_goto (tgt := 67) hx hb dX5_useAt_63 (by decide) ?_
              exact jn67 y1 y2 y3 y4 y5 (1 : Int32) _ _ _ hl hW hw
  unfold wM_useAt at hw
  refine lv_aload_n hx hb dX5_useAt_0 rfl (lv_at hl 0 rfl) ?_
  refine m_get hx hb hown hts hT hW 1 (by decide) (hts _ q2130) rfl (v := .ref (mp_a w 1)) rfl dX5_useAt_1 ?_
  refine lv_bipush (v := (44 : Int32)) hx hb dX5_useAt_4 (by decide) ?_
  refine lv_iload_n hx hb dX5_useAt_6 rfl (lv_at hl 1 rfl) ?_
  refine lv_iadd hx hb dX5_useAt_7 ?_
  obtain ⟨hi, hw⟩ := hw
  refine m_iald hx hb hT hW (k := 1) (j := (((44 : Int32) + x1).toNatClampNeg)) rfl rfl hi dX5_useAt_8 ?_
  refine lv_topi (fun x3_7 ex3_7 => ?_)
  have hw := hw x3_7 ex3_7
  refine lv_istore_n (lv' := [(3, .int x3_7), (0, .ref (mp_h w)), (1, .int x1), (2, .int x2)]) hx hb dX5_useAt_9 rfl hl (by decide) rfl (fun ls hl => ?_)
  refine lv_iconst (v := (0 : Int32)) hx hb dX5_useAt_10 (by decide) ?_
  refine lv_istore (lv' := [(4, .int (0 : Int32)), (3, .int x3_7), (0, .ref (mp_h w)), (1, .int x1), (2, .int x2)]) hx hb dX5_useAt_11 hl (by decide) rfl (fun ls hl => ?_)
  refine lv_iconst (v := (0 : Int32)) hx hb dX5_useAt_13 (by decide) ?_
  refine lv_istore (lv' := [(5, .int (0 : Int32)), (4, .int (0 : Int32)), (3, .int x3_7), (0, .ref (mp_h w)), (1, .int x1), (2, .int x2)]) hx hb dX5_useAt_14 hl (by decide) rfl (fun ls hl => ?_)
  obtain ⟨n_8, hw⟩ := hw
  exact lp16 n_8 x1 x2 x3_7 (0 : Int32) (0 : Int32) _ _ _ (lv_sub hl [3, 4, 5, 2, 1, 0] rfl) hW hw
theorem gM_useAt : GoodIn lw_all (wsV RX5 252 RX5 yX5_useAt (ws_ yX5_useAt cX5_useAt 7 (some .int))) := lw_V q2679 q2681 qs134 q154 q2682
theorem dM_useAt : yX5_useAt.cls = RX5 ∧ yX5_useAt.cls ≠ "java/lang/invoke/MethodHandle" ∧ yX5_useAt.cls ≠ "java/lang/invoke/VarHandle" ∧ (parseMethodDescriptor yX5_useAt.desc).map (fun d => d.parameters.length) = some 2 := by decide +kernel

/-! inUse -/
def wM_inUse (post : Int32 → MF → MG → Prop) (x1 : Int32) (x2 : Int32) (F : MF) (G : MG) : Prop :=
  wM_isKind (fun r_1 => (r_1 = 0 → ∀ F_7 : MF, F_7 = upd F 0 (1 : Int32) → ((F_7 0) ≤ 0 → wM_useAt (fun r_8 => post r_8 F_7 G) x1 x2 F_7 G) ∧ (¬ (F_7 0) ≤ 0 → post (0 : Int32) F_7 G)) ∧ (¬ r_1 = 0 → wM_isIn (fun r_2 => (r_2 = 0 → ∀ F_5 : MF, F_5 = upd F 0 (2 : Int32) → ((F_5 0) ≤ 0 → wM_useAt (fun r_6 => post r_6 F_5 G) x1 x2 F_5 G) ∧ (¬ (F_5 0) ≤ 0 → post (0 : Int32) F_5 G)) ∧ (¬ r_2 = 0 → ∀ F_3 : MF, F_3 = upd F 0 (0 : Int32) → ((F_3 0) ≤ 0 → wM_useAt (fun r_4 => post r_4 F_3 G) x1 x2 F_3 G) ∧ (¬ (F_3 0) ≤ 0 → post (0 : Int32) F_3 G))) ((x2).toInt64) (0 : Int64) (86399 : Int64) F G)) x1 F G
set_option maxHeartbeats 4000000 in
theorem kM_inUse (l : Launch) (w : MP) (post : Int32 → MF → MG → Prop) (x1 : Int32) (x2 : Int32) (F : MF) (G : MG) (hw : wM_inUse post x1 x2 F G) : m_Mi l w yX5_inUse cX5_inUse 3 .int 5 [.ref (mp_h w), .int x1, .int x2] F G post := by
  refine m_ofWi (by decide) rfl (Nat.le_of_ble_eq_true rfl) (fun _ => True) (fun _ _ => rfl) ?_
  intro p e s m args below meth c Q ls hA hW hQ
  obtain ⟨hE, hT, hl⟩ := hA
  obtain ⟨hx, hb, hml, hown, hts⟩ := id hE
  have hl : lv_has ls 3 [(0, .ref (mp_h w)), (1, .int x1), (2, .int x2)] := hl
  unfold wM_inUse at hw
  refine lv_aload_n hx hb dX5_inUse_0 rfl (lv_at hl 0 rfl) ?_
  refine lv_aload_n hx hb dX5_inUse_1 rfl (lv_at hl 0 rfl) ?_
  refine lv_iload_n hx hb dX5_inUse_2 rfl (lv_at hl 1 rfl) ?_
  refine m_Vi (rest := [.ref (mp_h w)]) hE hT hW (kM_isKind l w _ x1 F G hw) gM_isKind dM_isKind ⟨Nat.le_of_ble_eq_true rfl, Nat.le_of_ble_eq_true rfl, Nat.zero_le _, Nat.zero_le _⟩ rfl hl.1 rfl (Nat.le_of_ble_eq_true rfl) dX5_inUse_3 (fun r_1 F9 G9 H locs hw hW => ?_)
  obtain ⟨eF9, eG9, hw⟩ := hw
  rw [eF9, eG9] at hW
  refine lv_if_ne (tgt := 13) hx hb dX5_inUse_6 (by decide) (fun q => ?_) (fun q => ?_)
  · have hw := hw.2 q
    refine lv_iload_n hx hb dX5_inUse_13 rfl (lv_at hl 2 rfl) ?_
    refine lv_i2l (v := (x2).toInt64) hx hb dX5_inUse_14 rfl ?_
    refine lv_lconst (v := (0 : Int64)) hx hb dX5_inUse_15 rfl ?_
    refine lv_ldc2 hx hb hown (hts _ q2596) dX5_inUse_16 ?_
    refine m_Si (rest := [.ref (mp_h w)]) hE hT hW (kM_isIn l w _ ((x2).toInt64) (0 : Int64) (86399 : Int64) F G hw) gM_isIn dM_isIn ⟨Nat.le_of_ble_eq_true rfl, Nat.le_of_ble_eq_true rfl, Nat.zero_le _, Nat.zero_le _⟩ rfl hl.1 rfl (Nat.le_of_ble_eq_true rfl) dX5_inUse_19 (fun r_2 F9 G9 H locs hw hW => ?_)
    obtain ⟨eF9, eG9, hw⟩ := hw
    rw [eF9, eG9] at hW
    refine lv_if_ne (tgt := 29) hx hb dX5_inUse_22 (by decide) (fun q => ?_) (fun q => ?_)
    · have hw := hw.2 q
      refine lv_iconst (v := (0 : Int32)) hx hb dX5_inUse_29 (by decide) ?_
      refine m_put hx hb hown hts hT hW 0 (by decide) (hts _ q2129) rfl rfl (ty := .int) (x := (0 : Int32)) rfl rfl rfl rfl dX5_inUse_30 (fun F_3 H locs eF_3 hW => ?_)
      have hw := hw F_3 eF_3
      refine lv_aload_n hx hb dX5_inUse_33 rfl (lv_at hl 0 rfl) ?_
      refine m_get hx hb hown hts hT hW 0 (by decide) (hts _ q2129) rfl (v := .int (F_3 0)) rfl dX5_inUse_34 ?_
      refine lv_if_le (tgt := 44) hx hb dX5_inUse_37 (by decide) (fun q => ?_) (fun q => ?_)
      · have hw := hw.1 q
        refine lv_aload_n hx hb dX5_inUse_44 rfl (lv_at hl 0 rfl) ?_
        refine lv_iload_n hx hb dX5_inUse_45 rfl (lv_at hl 1 rfl) ?_
        refine lv_iload_n hx hb dX5_inUse_46 rfl (lv_at hl 2 rfl) ?_
        refine m_Vi (rest := []) hE hT hW (kM_useAt l w _ x1 x2 F_3 G hw) gM_useAt dM_useAt ⟨Nat.le_of_ble_eq_true rfl, Nat.le_of_ble_eq_true rfl, Nat.zero_le _, Nat.zero_le _⟩ rfl hl.1 rfl (Nat.le_of_ble_eq_true rfl) dX5_inUse_47 (fun r_4 F9 G9 H locs hw hW => ?_)
        obtain ⟨eF9, eG9, hw⟩ := hw
        rw [eF9, eG9] at hW
        exact hQ _ _ _ _ _ trivial hw hW _ _ dX5_inUse_50
      · have hw := hw.2 q
        refine lv_iconst (v := (0 : Int32)) hx hb dX5_inUse_40 (by decide) ?_
        refine lv_goto (tgt := 50) hx hb dX5_inUse_41 (by decide) ?_
        exact hQ _ _ _ _ _ trivial hw hW _ _ dX5_inUse_50
    · have hw := hw.1 q
      refine lv_iconst (v := (2 : Int32)) hx hb dX5_inUse_25 (by decide) ?_
      refine lv_goto (tgt := 30) hx hb dX5_inUse_26 (by decide) ?_
      refine m_put hx hb hown hts hT hW 0 (by decide) (hts _ q2129) rfl rfl (ty := .int) (x := (2 : Int32)) rfl rfl rfl rfl dX5_inUse_30 (fun F_5 H locs eF_5 hW => ?_)
      have hw := hw F_5 eF_5
      refine lv_aload_n hx hb dX5_inUse_33 rfl (lv_at hl 0 rfl) ?_
      refine m_get hx hb hown hts hT hW 0 (by decide) (hts _ q2129) rfl (v := .int (F_5 0)) rfl dX5_inUse_34 ?_
      refine lv_if_le (tgt := 44) hx hb dX5_inUse_37 (by decide) (fun q => ?_) (fun q => ?_)
      · have hw := hw.1 q
        refine lv_aload_n hx hb dX5_inUse_44 rfl (lv_at hl 0 rfl) ?_
        refine lv_iload_n hx hb dX5_inUse_45 rfl (lv_at hl 1 rfl) ?_
        refine lv_iload_n hx hb dX5_inUse_46 rfl (lv_at hl 2 rfl) ?_
        refine m_Vi (rest := []) hE hT hW (kM_useAt l w _ x1 x2 F_5 G hw) gM_useAt dM_useAt ⟨Nat.le_of_ble_eq_true rfl, Nat.le_of_ble_eq_true rfl, Nat.zero_le _, Nat.zero_le _⟩ rfl hl.1 rfl (Nat.le_of_ble_eq_true rfl) dX5_inUse_47 (fun r_6 F9 G9 H locs hw hW => ?_)
        obtain ⟨eF9, eG9, hw⟩ := hw
        rw [eF9, eG9] at hW
        exact hQ _ _ _ _ _ trivial hw hW _ _ dX5_inUse_50
      · have hw := hw.2 q
        refine lv_iconst (v := (0 : Int32)) hx hb dX5_inUse_40 (by decide) ?_
        refine lv_goto (tgt := 50) hx hb dX5_inUse_41 (by decide) ?_
        exact hQ _ _ _ _ _ trivial hw hW _ _ dX5_inUse_50
  · have hw := hw.1 q
    refine lv_iconst (v := (1 : Int32)) hx hb dX5_inUse_9 (by decide) ?_
    refine lv_goto (tgt := 30) hx hb dX5_inUse_10 (by decide) ?_
    refine m_put hx hb hown hts hT hW 0 (by decide) (hts _ q2129) rfl rfl (ty := .int) (x := (1 : Int32)) rfl rfl rfl rfl dX5_inUse_30 (fun F_7 H locs eF_7 hW => ?_)
    have hw := hw F_7 eF_7
    refine lv_aload_n hx hb dX5_inUse_33 rfl (lv_at hl 0 rfl) ?_
    refine m_get hx hb hown hts hT hW 0 (by decide) (hts _ q2129) rfl (v := .int (F_7 0)) rfl dX5_inUse_34 ?_
    refine lv_if_le (tgt := 44) hx hb dX5_inUse_37 (by decide) (fun q => ?_) (fun q => ?_)
    · have hw := hw.1 q
      refine lv_aload_n hx hb dX5_inUse_44 rfl (lv_at hl 0 rfl) ?_
      refine lv_iload_n hx hb dX5_inUse_45 rfl (lv_at hl 1 rfl) ?_
      refine lv_iload_n hx hb dX5_inUse_46 rfl (lv_at hl 2 rfl) ?_
      refine m_Vi (rest := []) hE hT hW (kM_useAt l w _ x1 x2 F_7 G hw) gM_useAt dM_useAt ⟨Nat.le_of_ble_eq_true rfl, Nat.le_of_ble_eq_true rfl, Nat.zero_le _, Nat.zero_le _⟩ rfl hl.1 rfl (Nat.le_of_ble_eq_true rfl) dX5_inUse_47 (fun r_8 F9 G9 H locs hw hW => ?_)
      obtain ⟨eF9, eG9, hw⟩ := hw
      rw [eF9, eG9] at hW
      exact hQ _ _ _ _ _ trivial hw hW _ _ dX5_inUse_50
    · have hw := hw.2 q
      refine lv_iconst (v := (0 : Int32)) hx hb dX5_inUse_40 (by decide) ?_
      refine lv_goto (tgt := 50) hx hb dX5_inUse_41 (by decide) ?_
      exact hQ _ _ _ _ _ trivial hw hW _ _ dX5_inUse_50

/-! peakIn -/
def wM_peakIn_b11 (post : Int32 → Prop) (F : MF) (G : MG) (K11 : Int32 → Int32 → Int32 → Int32 → Int32 → Prop) (y1 : Int32) (y2 : Int32) (y3 : Int32) (y4 : Int32) (y5 : Int32) : Prop :=
  ((G 8 1) ≤ y5 → post y4) ∧ (¬ (G 8 1) ≤ y5 → wM_of (fun r_1 => vp_in ((44 : Int32) + y1) 166 ∧ ∀ x6_2 : Int32, x6_2 = (r_1 - (G 1 (((44 : Int32) + y1).toNatClampNeg))) → wM_counts (fun r_3 => (r_3 = 0 → K11 y1 y2 y3 y4 (y5 + (1 : Int32))) ∧ (¬ r_3 = 0 → (x6_2 ≤ y2 → K11 y1 y2 y3 y4 (y5 + (1 : Int32))) ∧ (¬ x6_2 ≤ y2 → (y3 ≤ x6_2 → K11 y1 y2 y3 y4 (y5 + (1 : Int32))) ∧ (¬ y3 ≤ x6_2 → wM_useAt (fun r_4 => ∀ x4_5 : Int32, x4_5 = (imax y4 r_4) → K11 y1 y2 y3 x4_5 (y5 + (1 : Int32))) y1 x6_2 F G)))) y5 F G) y5 (10 : Int32) F G)
def wM_peakIn_l11 (post : Int32 → Prop) (F : MF) (G : MG) : Nat → Int32 → Int32 → Int32 → Int32 → Int32 → Prop
  | 0 => fun _ _ _ _ _ => False
  | n + 1 => wM_peakIn_b11 post F G (wM_peakIn_l11 post F G n)
def wM_peakIn (post : Int32 → Prop) (x1 : Int32) (x2 : Int32) (x3 : Int32) (F : MF) (G : MG) : Prop :=
  wM_useAt (fun r_6 => ∃ n, wM_peakIn_l11 post F G n x1 x2 x3 r_6 (0 : Int32)) x1 x2 F G
set_option maxHeartbeats 4000000 in
theorem kM_peakIn (l : Launch) (w : MP) (post : Int32 → Prop) (x1 : Int32) (x2 : Int32) (x3 : Int32) (F : MF) (G : MG) (hw : wM_peakIn post x1 x2 x3 F G) : m_Mi l w yX5_peakIn cX5_peakIn 7 .int 5 [.ref (mp_h w), .int x1, .int x2, .int x3] F G (fun r F1 G1 => F1 = F ∧ G1 = G ∧ post r) := by
  refine m_ofWi (by decide) rfl (Nat.le_of_ble_eq_true rfl) (fun _ => True) (fun _ _ => rfl) ?_
  intro p e s m args below meth c Q ls hA hW hQ
  obtain ⟨hE, hT, hl⟩ := hA
  obtain ⟨hx, hb, hml, hown, hts⟩ := id hE
  have hl : lv_has ls 7 [(0, .ref (mp_h w)), (1, .int x1), (2, .int x2), (3, .int x3)] := hl
  have lp11 : ∀ (n11 : Nat) (y1 : Int32) (y2 : Int32) (y3 : Int32) (y4 : Int32) (y5 : Int32) (H : Heap) (locs : List Loc) (ls : Array Slot), lv_has ls 7 [(0, .ref (mp_h w)), (1, .int y1), (2, .int y2), (3, .int y3), (4, .int y4), (5, .int y5)] → m_W w s.heap F G H locs → wM_peakIn_l11 post F G n11 y1 y2 y3 y4 y5 → W p l e (mrm 5) s m args below meth c H locs 0 0 Q (F0 m 11 ls []) := by
    intro n11
    induction n11 with
    | zero => intro y1 y2 y3 y4 y5 H locs ls hl hW hw; exact hw.elim
    | succ n11 ih11 =>
      intro y1 y2 y3 y4 y5 H locs ls hl hW hw
      have hw : wM_peakIn_b11 post F G (wM_peakIn_l11 post F G n11) y1 y2 y3 y4 y5 := hw
      unfold wM_peakIn_b11 at hw
      refine lv_iload hx hb dX5_peakIn_11 (lv_at hl 5 rfl) ?_
      refine lv_aload_n hx hb dX5_peakIn_13 rfl (lv_at hl 0 rfl) ?_
      refine m_get hx hb hown hts hT hW 8 (by decide) (hts _ q2137) rfl (v := .ref (mp_a w 8)) rfl dX5_peakIn_14 ?_
      refine lv_iconst (v := (1 : Int32)) hx hb dX5_peakIn_17 (by decide) ?_
      refine m_iald hx hb hT hW (k := 8) (j := 1) (by decide) rfl (by unfold vp_in; decide) dX5_peakIn_18 ?_
      refine lv_icmp_ge (tgt := 83) hx hb dX5_peakIn_19 (by decide) (fun q => ?_) (fun q => ?_)
      · have hw := hw.1 q
        refine lv_iload hx hb dX5_peakIn_83 (lv_at hl 4 rfl) ?_
        exact hQ _ _ _ _ _ trivial ⟨rfl, rfl, hw⟩ hW _ _ dX5_peakIn_85
      · have hw := hw.2 q
        refine lv_aload_n hx hb dX5_peakIn_22 rfl (lv_at hl 0 rfl) ?_
        refine lv_iload hx hb dX5_peakIn_23 (lv_at hl 5 rfl) ?_
        refine lv_bipush (v := (10 : Int32)) hx hb dX5_peakIn_25 (by decide) ?_
        refine m_Vi (rest := []) hE hT hW (kM_of l w _ y5 (10 : Int32) F G hw) gM_of dM_of ⟨Nat.le_of_ble_eq_true rfl, Nat.le_of_ble_eq_true rfl, Nat.zero_le _, Nat.zero_le _⟩ rfl hl.1 rfl (Nat.le_of_ble_eq_true rfl) dX5_peakIn_27 (fun r_1 F9 G9 H locs hw hW => ?_)
        obtain ⟨eF9, eG9, hw⟩ := hw
        rw [eF9, eG9] at hW
        refine lv_aload_n hx hb dX5_peakIn_30 rfl (lv_at hl 0 rfl) ?_
        refine m_get hx hb hown hts hT hW 1 (by decide) (hts _ q2130) rfl (v := .ref (mp_a w 1)) rfl dX5_peakIn_31 ?_
        refine lv_bipush (v := (44 : Int32)) hx hb dX5_peakIn_34 (by decide) ?_
        refine lv_iload_n hx hb dX5_peakIn_36 rfl (lv_at hl 1 rfl) ?_
        refine lv_iadd hx hb dX5_peakIn_37 ?_
        obtain ⟨hi, hw⟩ := hw
        refine m_iald hx hb hT hW (k := 1) (j := (((44 : Int32) + y1).toNatClampNeg)) rfl rfl hi dX5_peakIn_38 ?_
        refine lv_isub hx hb dX5_peakIn_39 ?_
        refine lv_topi (fun x6_2 ex6_2 => ?_)
        have hw := hw x6_2 ex6_2
        refine lv_istore (lv' := [(6, .int x6_2), (0, .ref (mp_h w)), (1, .int y1), (2, .int y2), (3, .int y3), (4, .int y4), (5, .int y5)]) hx hb dX5_peakIn_40 hl (by decide) rfl (fun ls hl => ?_)
        refine lv_aload_n hx hb dX5_peakIn_42 rfl (lv_at hl 1 rfl) ?_
        refine lv_iload hx hb dX5_peakIn_43 (lv_at hl 6 rfl) ?_
        refine m_Vi (rest := []) hE hT hW (kM_counts l w _ y5 F G hw) gM_counts dM_counts ⟨Nat.le_of_ble_eq_true rfl, Nat.le_of_ble_eq_true rfl, Nat.zero_le _, Nat.zero_le _⟩ rfl hl.1 rfl (Nat.le_of_ble_eq_true rfl) dX5_peakIn_45 (fun r_3 F9 G9 H locs hw hW => ?_)
        obtain ⟨eF9, eG9, hw⟩ := hw
        rw [eF9, eG9] at hW
        refine lv_if_eq (tgt := 77) hx hb dX5_peakIn_48 (by decide) (fun q => ?_) (fun q => ?_)
        · have hw := hw.1 q
          refine lv_iinc (v := (y5 + (1 : Int32))) (lv' := [(5, .int (y5 + (1 : Int32))), (6, .int x6_2), (0, .ref (mp_h w)), (1, .int y1), (2, .int y2), (3, .int y3), (4, .int y4)]) hx hb dX5_peakIn_77 hl (k := 6) rfl rfl (by decide) rfl (fun ls hl => ?_)
          refine lv_goto (tgt := 11) hx hb dX5_peakIn_80 (by decide) ?_
          exact ih11 y1 y2 y3 y4 (y5 + (1 : Int32)) _ _ _ (lv_sub hl [2, 3, 4, 5, 6, 0] rfl) hW hw
        · have hw := hw.2 q
          refine lv_iload hx hb dX5_peakIn_51 (lv_at hl 0 rfl) ?_
          refine lv_iload_n hx hb dX5_peakIn_53 rfl (lv_at hl 3 rfl) ?_
          refine lv_icmp_le (tgt := 77) hx hb dX5_peakIn_54 (by decide) (fun q => ?_) (fun q => ?_)
          · have hw := hw.1 q
            refine lv_iinc (v := (y5 + (1 : Int32))) (lv' := [(5, .int (y5 + (1 : Int32))), (6, .int x6_2), (0, .ref (mp_h w)), (1, .int y1), (2, .int y2), (3, .int y3), (4, .int y4)]) hx hb dX5_peakIn_77 hl (k := 6) rfl rfl (by decide) rfl (fun ls hl => ?_)
            refine lv_goto (tgt := 11) hx hb dX5_peakIn_80 (by decide) ?_
            exact ih11 y1 y2 y3 y4 (y5 + (1 : Int32)) _ _ _ (lv_sub hl [2, 3, 4, 5, 6, 0] rfl) hW hw
          · have hw := hw.2 q
            refine lv_iload hx hb dX5_peakIn_57 (lv_at hl 0 rfl) ?_
            refine lv_iload_n hx hb dX5_peakIn_59 rfl (lv_at hl 4 rfl) ?_
            refine lv_icmp_ge (tgt := 77) hx hb dX5_peakIn_60 (by decide) (fun q => ?_) (fun q => ?_)
            · have hw := hw.1 q
              refine lv_iinc (v := (y5 + (1 : Int32))) (lv' := [(5, .int (y5 + (1 : Int32))), (6, .int x6_2), (0, .ref (mp_h w)), (1, .int y1), (2, .int y2), (3, .int y3), (4, .int y4)]) hx hb dX5_peakIn_77 hl (k := 6) rfl rfl (by decide) rfl (fun ls hl => ?_)
              refine lv_goto (tgt := 11) hx hb dX5_peakIn_80 (by decide) ?_
              exact ih11 y1 y2 y3 y4 (y5 + (1 : Int32)) _ _ _ (lv_sub hl [2, 3, 4, 5, 6, 0] rfl) hW hw
            · have hw := hw.2 q
              refine lv_iload hx hb dX5_peakIn_63 (lv_at hl 5 rfl) ?_
              refine lv_aload_n hx hb dX5_peakIn_65 rfl (lv_at hl 1 rfl) ?_
              refine lv_iload_n hx hb dX5_peakIn_66 rfl (lv_at hl 2 rfl) ?_
              refine lv_iload hx hb dX5_peakIn_67 (lv_at hl 0 rfl) ?_
              refine m_Vi (rest := [.int y4]) hE hT hW (kM_useAt l w _ y1 x6_2 F G hw) gM_useAt dM_useAt ⟨Nat.le_of_ble_eq_true rfl, Nat.le_of_ble_eq_true rfl, Nat.zero_le _, Nat.zero_le _⟩ rfl hl.1 rfl (Nat.le_of_ble_eq_true rfl) dX5_peakIn_69 (fun r_4 F9 G9 H locs hw hW => ?_)
              obtain ⟨eF9, eG9, hw⟩ := hw
              rw [eF9, eG9] at hW
              refine m_max (rest := []) hE hl.1 (hts _ q2461) (hts _ q463) (hts _ q153) (hts _ q464) (Nat.le_of_ble_eq_true rfl) (Nat.le_of_ble_eq_true rfl) (Nat.zero_le _) (Nat.zero_le _) dX5_peakIn_72 ?_
              refine lv_topi (fun x4_5 ex4_5 => ?_)
              have hw := hw x4_5 ex4_5
              refine lv_istore (lv' := [(4, .int x4_5), (6, .int x6_2), (0, .ref (mp_h w)), (1, .int y1), (2, .int y2), (3, .int y3), (5, .int y5)]) hx hb dX5_peakIn_75 hl (by decide) rfl (fun ls hl => ?_)
              refine lv_iinc (v := (y5 + (1 : Int32))) (lv' := [(5, .int (y5 + (1 : Int32))), (4, .int x4_5), (6, .int x6_2), (0, .ref (mp_h w)), (1, .int y1), (2, .int y2), (3, .int y3)]) hx hb dX5_peakIn_77 hl (k := 6) rfl rfl (by decide) rfl (fun ls hl => ?_)
              refine lv_goto (tgt := 11) hx hb dX5_peakIn_80 (by decide) ?_
              exact ih11 y1 y2 y3 x4_5 (y5 + (1 : Int32)) _ _ _ (lv_sub hl [3, 4, 5, 6, 1, 0] rfl) hW hw
  unfold wM_peakIn at hw
  refine lv_aload_n hx hb dX5_peakIn_0 rfl (lv_at hl 0 rfl) ?_
  refine lv_iload_n hx hb dX5_peakIn_1 rfl (lv_at hl 1 rfl) ?_
  refine lv_iload_n hx hb dX5_peakIn_2 rfl (lv_at hl 2 rfl) ?_
  refine m_Vi (rest := []) hE hT hW (kM_useAt l w _ x1 x2 F G hw) gM_useAt dM_useAt ⟨Nat.le_of_ble_eq_true rfl, Nat.le_of_ble_eq_true rfl, Nat.zero_le _, Nat.zero_le _⟩ rfl hl.1 rfl (Nat.le_of_ble_eq_true rfl) dX5_peakIn_3 (fun r_6 F9 G9 H locs hw hW => ?_)
  obtain ⟨eF9, eG9, hw⟩ := hw
  rw [eF9, eG9] at hW
  refine lv_istore (lv' := [(4, .int r_6), (0, .ref (mp_h w)), (1, .int x1), (2, .int x2), (3, .int x3)]) hx hb dX5_peakIn_6 hl (by decide) rfl (fun ls hl => ?_)
  refine lv_iconst (v := (0 : Int32)) hx hb dX5_peakIn_8 (by decide) ?_
  refine lv_istore (lv' := [(5, .int (0 : Int32)), (4, .int r_6), (0, .ref (mp_h w)), (1, .int x1), (2, .int x2), (3, .int x3)]) hx hb dX5_peakIn_9 hl (by decide) rfl (fun ls hl => ?_)
  obtain ⟨n_7, hw⟩ := hw
  exact lp11 n_7 x1 x2 x3 r_6 (0 : Int32) _ _ _ (lv_sub hl [2, 3, 4, 5, 1, 0] rfl) hW hw
theorem gM_peakIn : GoodIn lw_all (wsV RX5 395 RX5 yX5_peakIn (ws_ yX5_peakIn cX5_peakIn 7 (some .int))) := lw_V q2688 q2690 qs135 q154 q2691
theorem dM_peakIn : yX5_peakIn.cls = RX5 ∧ yX5_peakIn.cls ≠ "java/lang/invoke/MethodHandle" ∧ yX5_peakIn.cls ≠ "java/lang/invoke/VarHandle" ∧ (parseMethodDescriptor yX5_peakIn.desc).map (fun d => d.parameters.length) = some 3 := by decide +kernel

/-! peak -/
def wM_peak_j30 (post : Int32 → MF → MG → Prop) (y1 : Int32) (y2 : Int32) (z1 : Int32) (F : MF) (G : MG) : Prop :=
  ∀ F_1 : MF, F_1 = upd F 0 z1 → ((F_1 0) ≤ 0 → wM_peakIn (fun r_2 => post r_2 F_1 G) y1 ((1440 : Int32) * y2) ((1440 : Int32) * (y2 + (1 : Int32))) F_1 G) ∧ (¬ (F_1 0) ≤ 0 → post (0 : Int32) F_1 G)
def wM_peak (post : Int32 → MF → MG → Prop) (x1 : Int32) (x2 : Int32) (F : MF) (G : MG) : Prop :=
  wM_isKind (fun r_3 => (r_3 = 0 → wM_peak_j30 post x1 x2 (1 : Int32) F G) ∧ (¬ r_3 = 0 → wM_isIn (fun r_4 => (r_4 = 0 → wM_peak_j30 post x1 x2 (2 : Int32) F G) ∧ (¬ r_4 = 0 → wM_peak_j30 post x1 x2 (0 : Int32) F G)) ((x2).toInt64) (0 : Int64) (59 : Int64) F G)) x1 F G
set_option maxHeartbeats 4000000 in
theorem kM_peak (l : Launch) (w : MP) (post : Int32 → MF → MG → Prop) (x1 : Int32) (x2 : Int32) (F : MF) (G : MG) (hw : wM_peak post x1 x2 F G) : m_Mi l w yX5_peak cX5_peak 3 .int 6 [.ref (mp_h w), .int x1, .int x2] F G post := by
  refine m_ofWi (by decide) rfl (Nat.le_of_ble_eq_true rfl) (fun _ => True) (fun _ _ => rfl) ?_
  intro p e s m args below meth c Q ls hA hW hQ
  obtain ⟨hE, hT, hl⟩ := hA
  obtain ⟨hx, hb, hml, hown, hts⟩ := id hE
  have hl : lv_has ls 3 [(0, .ref (mp_h w)), (1, .int x1), (2, .int x2)] := hl
  have jn30 : ∀ (y1 : Int32) (y2 : Int32) (z1 : Int32) (F : MF) (G : MG) (H : Heap) (locs : List Loc) (ls : Array Slot), lv_has ls 3 [(0, .ref (mp_h w)), (1, .int y1), (2, .int y2)] → m_W w s.heap F G H locs → wM_peak_j30 post y1 y2 z1 F G → W p l e (mrm 6) s m args below meth c H locs 0 0 Q (F0 m 30 ls [.int z1, .ref (mp_h w)]) := by
    intro y1 y2 z1 F G H locs ls hl hW hw
    unfold wM_peak_j30 at hw
    refine m_put hx hb hown hts hT hW 0 (by decide) (hts _ q2129) rfl rfl (ty := .int) (x := z1) rfl rfl rfl rfl dX5_peak_30 (fun F_1 H locs eF_1 hW => ?_)
    have hw := hw F_1 eF_1
    refine lv_aload_n hx hb dX5_peak_33 rfl (lv_at hl 0 rfl) ?_
    refine m_get hx hb hown hts hT hW 0 (by decide) (hts _ q2129) rfl (v := .int (F_1 0)) rfl dX5_peak_34 ?_
    refine lv_if_le (tgt := 44) hx hb dX5_peak_37 (by decide) (fun q => ?_) (fun q => ?_)
    · have hw := hw.1 q
      refine lv_aload_n hx hb dX5_peak_44 rfl (lv_at hl 0 rfl) ?_
      refine lv_iload_n hx hb dX5_peak_45 rfl (lv_at hl 1 rfl) ?_
      refine lv_sipush (v := (1440 : Int32)) hx hb dX5_peak_46 (by decide) ?_
      refine lv_iload_n hx hb dX5_peak_49 rfl (lv_at hl 2 rfl) ?_
      refine lv_imul hx hb dX5_peak_50 ?_
      refine lv_sipush (v := (1440 : Int32)) hx hb dX5_peak_51 (by decide) ?_
      refine lv_iload_n hx hb dX5_peak_54 rfl (lv_at hl 2 rfl) ?_
      refine lv_iconst (v := (1 : Int32)) hx hb dX5_peak_55 (by decide) ?_
      refine lv_iadd hx hb dX5_peak_56 ?_
      refine lv_imul hx hb dX5_peak_57 ?_
      refine m_Vi (rest := []) hE hT hW (kM_peakIn l w _ y1 ((1440 : Int32) * y2) ((1440 : Int32) * (y2 + (1 : Int32))) F_1 G hw) gM_peakIn dM_peakIn ⟨Nat.le_of_ble_eq_true rfl, Nat.le_of_ble_eq_true rfl, Nat.zero_le _, Nat.zero_le _⟩ rfl hl.1 rfl (Nat.le_of_ble_eq_true rfl) dX5_peak_58 (fun r_2 F9 G9 H locs hw hW => ?_)
      obtain ⟨eF9, eG9, hw⟩ := hw
      rw [eF9, eG9] at hW
      exact hQ _ _ _ _ _ trivial hw hW _ _ dX5_peak_61
    · have hw := hw.2 q
      refine lv_iconst (v := (0 : Int32)) hx hb dX5_peak_40 (by decide) ?_
      refine lv_goto (tgt := 61) hx hb dX5_peak_41 (by decide) ?_
      exact hQ _ _ _ _ _ trivial hw hW _ _ dX5_peak_61
  unfold wM_peak at hw
  refine lv_aload_n hx hb dX5_peak_0 rfl (lv_at hl 0 rfl) ?_
  refine lv_aload_n hx hb dX5_peak_1 rfl (lv_at hl 0 rfl) ?_
  refine lv_iload_n hx hb dX5_peak_2 rfl (lv_at hl 1 rfl) ?_
  refine m_Vi (rest := [.ref (mp_h w)]) hE hT hW (kM_isKind l w _ x1 F G hw) gM_isKind dM_isKind ⟨Nat.le_of_ble_eq_true rfl, Nat.le_of_ble_eq_true rfl, Nat.zero_le _, Nat.zero_le _⟩ rfl hl.1 rfl (Nat.le_of_ble_eq_true rfl) dX5_peak_3 (fun r_3 F9 G9 H locs hw hW => ?_)
  obtain ⟨eF9, eG9, hw⟩ := hw
  rw [eF9, eG9] at hW
  refine lv_if_ne (tgt := 13) hx hb dX5_peak_6 (by decide) (fun q => ?_) (fun q => ?_)
  · have hw := hw.2 q
    refine lv_iload_n hx hb dX5_peak_13 rfl (lv_at hl 2 rfl) ?_
    refine lv_i2l (v := (x2).toInt64) hx hb dX5_peak_14 rfl ?_
    refine lv_lconst (v := (0 : Int64)) hx hb dX5_peak_15 rfl ?_
    refine lv_ldc2 hx hb hown (hts _ q2687) dX5_peak_16 ?_
    refine m_Si (rest := [.ref (mp_h w)]) hE hT hW (kM_isIn l w _ ((x2).toInt64) (0 : Int64) (59 : Int64) F G hw) gM_isIn dM_isIn ⟨Nat.le_of_ble_eq_true rfl, Nat.le_of_ble_eq_true rfl, Nat.zero_le _, Nat.zero_le _⟩ rfl hl.1 rfl (Nat.le_of_ble_eq_true rfl) dX5_peak_19 (fun r_4 F9 G9 H locs hw hW => ?_)
    obtain ⟨eF9, eG9, hw⟩ := hw
    rw [eF9, eG9] at hW
    refine lv_if_ne (tgt := 29) hx hb dX5_peak_22 (by decide) (fun q => ?_) (fun q => ?_)
    · have hw := hw.2 q
      refine lv_iconst (v := (0 : Int32)) hx hb dX5_peak_29 (by decide) ?_
      exact jn30 x1 x2 (0 : Int32) F G _ _ _ hl hW hw
    · have hw := hw.1 q
      refine lv_iconst (v := (2 : Int32)) hx hb dX5_peak_25 (by decide) ?_
      refine lv_goto (tgt := 30) hx hb dX5_peak_26 (by decide) ?_
      exact jn30 x1 x2 (2 : Int32) F G _ _ _ hl hW hw
  · have hw := hw.1 q
    refine lv_iconst (v := (1 : Int32)) hx hb dX5_peak_9 (by decide) ?_
    refine lv_goto (tgt := 30) hx hb dX5_peak_10 (by decide) ?_
    exact jn30 x1 x2 (1 : Int32) F G _ _ _ hl hW hw

/-! whyNotDay -/
def wM_whyNotDay (post : Int32 → Prop) (x1 : Int32) (x2 : Int32) (F : MF) (G : MG) : Prop :=
  wM_isHall (fun r_1 => (r_1 = 0 → post (1 : Int32)) ∧ (¬ r_1 = 0 → wM_isIn (fun r_2 => (r_2 = 0 → post (2 : Int32)) ∧ (¬ r_2 = 0 → post (0 : Int32))) ((x2).toInt64) (0 : Int64) (59 : Int64) F G)) x1 F G
set_option maxHeartbeats 4000000 in
theorem kM_whyNotDay (l : Launch) (w : MP) (post : Int32 → Prop) (x1 : Int32) (x2 : Int32) (F : MF) (G : MG) (hw : wM_whyNotDay post x1 x2 F G) : m_Mi l w yX5_whyNotDay cX5_whyNotDay 3 .int 2 [.ref (mp_h w), .int x1, .int x2] F G (fun r F1 G1 => F1 = F ∧ G1 = G ∧ post r) := by
  refine m_ofWi (by decide) rfl (Nat.le_of_ble_eq_true rfl) (fun _ => True) (fun _ _ => rfl) ?_
  intro p e s m args below meth c Q ls hA hW hQ
  obtain ⟨hE, hT, hl⟩ := hA
  obtain ⟨hx, hb, hml, hown, hts⟩ := id hE
  have hl : lv_has ls 3 [(0, .ref (mp_h w)), (1, .int x1), (2, .int x2)] := hl
  unfold wM_whyNotDay at hw
  refine lv_aload_n hx hb dX5_whyNotDay_0 rfl (lv_at hl 0 rfl) ?_
  refine lv_iload_n hx hb dX5_whyNotDay_1 rfl (lv_at hl 1 rfl) ?_
  refine m_Vi (rest := []) hE hT hW (kM_isHall l w _ x1 F G hw) gM_isHall dM_isHall ⟨Nat.le_of_ble_eq_true rfl, Nat.le_of_ble_eq_true rfl, Nat.zero_le _, Nat.zero_le _⟩ rfl hl.1 rfl (Nat.le_of_ble_eq_true rfl) dX5_whyNotDay_2 (fun r_1 F9 G9 H locs hw hW => ?_)
  obtain ⟨eF9, eG9, hw⟩ := hw
  rw [eF9, eG9] at hW
  refine lv_if_ne (tgt := 12) hx hb dX5_whyNotDay_5 (by decide) (fun q => ?_) (fun q => ?_)
  · have hw := hw.2 q
    refine lv_iload_n hx hb dX5_whyNotDay_12 rfl (lv_at hl 2 rfl) ?_
    refine lv_i2l (v := (x2).toInt64) hx hb dX5_whyNotDay_13 rfl ?_
    refine lv_lconst (v := (0 : Int64)) hx hb dX5_whyNotDay_14 rfl ?_
    refine lv_ldc2 hx hb hown (hts _ q2687) dX5_whyNotDay_15 ?_
    refine m_Si (rest := []) hE hT hW (kM_isIn l w _ ((x2).toInt64) (0 : Int64) (59 : Int64) F G hw) gM_isIn dM_isIn ⟨Nat.le_of_ble_eq_true rfl, Nat.le_of_ble_eq_true rfl, Nat.zero_le _, Nat.zero_le _⟩ rfl hl.1 rfl (Nat.le_of_ble_eq_true rfl) dX5_whyNotDay_18 (fun r_2 F9 G9 H locs hw hW => ?_)
    obtain ⟨eF9, eG9, hw⟩ := hw
    rw [eF9, eG9] at hW
    refine lv_if_ne (tgt := 28) hx hb dX5_whyNotDay_21 (by decide) (fun q => ?_) (fun q => ?_)
    · have hw := hw.2 q
      refine lv_iconst (v := (0 : Int32)) hx hb dX5_whyNotDay_28 (by decide) ?_
      exact hQ _ _ _ _ _ trivial ⟨rfl, rfl, hw⟩ hW _ _ dX5_whyNotDay_29
    · have hw := hw.1 q
      refine lv_iconst (v := (2 : Int32)) hx hb dX5_whyNotDay_24 (by decide) ?_
      refine lv_goto (tgt := 29) hx hb dX5_whyNotDay_25 (by decide) ?_
      exact hQ _ _ _ _ _ trivial ⟨rfl, rfl, hw⟩ hW _ _ dX5_whyNotDay_29
  · have hw := hw.1 q
    refine lv_iconst (v := (1 : Int32)) hx hb dX5_whyNotDay_8 (by decide) ?_
    refine lv_goto (tgt := 29) hx hb dX5_whyNotDay_9 (by decide) ?_
    exact hQ _ _ _ _ _ trivial ⟨rfl, rfl, hw⟩ hW _ _ dX5_whyNotDay_29
theorem gM_whyNotDay : GoodIn lw_all (wsV RX5 398 RX5 yX5_whyNotDay (ws_ yX5_whyNotDay cX5_whyNotDay 3 (some .int))) := lw_V q2696 q2698 qs136 q154 q2699
theorem dM_whyNotDay : yX5_whyNotDay.cls = RX5 ∧ yX5_whyNotDay.cls ≠ "java/lang/invoke/MethodHandle" ∧ yX5_whyNotDay.cls ≠ "java/lang/invoke/VarHandle" ∧ (parseMethodDescriptor yX5_whyNotDay.desc).map (fun d => d.parameters.length) = some 2 := by decide +kernel

/-! isOn -/
def wM_isOn (post : Int32 → Prop) (x1 : Int32) (x2 : Int32) (x3 : Int32) (F : MF) (G : MG) : Prop :=
  wM_isActive (fun r_1 => (r_1 = 0 → post (0 : Int32)) ∧ (¬ r_1 = 0 → wM_of (fun r_2 => (r_2 = x2 → wM_of (fun r_3 => ((r_3 / (1440 : Int32)) = x3 → post (1 : Int32)) ∧ (¬ (r_3 / (1440 : Int32)) = x3 → post (0 : Int32))) x1 (10 : Int32) F G) ∧ (¬ r_2 = x2 → post (0 : Int32))) x1 (9 : Int32) F G)) x1 F G
set_option maxHeartbeats 4000000 in
theorem kM_isOn (l : Launch) (w : MP) (post : Int32 → Prop) (x1 : Int32) (x2 : Int32) (x3 : Int32) (F : MF) (G : MG) (hw : wM_isOn post x1 x2 x3 F G) : m_Mi l w yX5_isOn cX5_isOn 4 .boolean 3 [.ref (mp_h w), .int x1, .int x2, .int x3] F G (fun r F1 G1 => F1 = F ∧ G1 = G ∧ post r) := by
  refine m_ofWi (by decide) rfl (Nat.le_of_ble_eq_true rfl) (fun r => r = 0 ∨ r = 1) (fun _ h => m_nb h) ?_
  intro p e s m args below meth c Q ls hA hW hQ
  obtain ⟨hE, hT, hl⟩ := hA
  obtain ⟨hx, hb, hml, hown, hts⟩ := id hE
  have hl : lv_has ls 4 [(0, .ref (mp_h w)), (1, .int x1), (2, .int x2), (3, .int x3)] := hl
  unfold wM_isOn at hw
  refine lv_aload_n hx hb dX5_isOn_0 rfl (lv_at hl 0 rfl) ?_
  refine lv_iload_n hx hb dX5_isOn_1 rfl (lv_at hl 1 rfl) ?_
  refine m_Vi (rest := []) hE hT hW (kM_isActive l w _ x1 F G hw) gM_isActive dM_isActive ⟨Nat.le_of_ble_eq_true rfl, Nat.le_of_ble_eq_true rfl, Nat.zero_le _, Nat.zero_le _⟩ rfl hl.1 rfl (Nat.le_of_ble_eq_true rfl) dX5_isOn_2 (fun r_1 F9 G9 H locs hw hW => ?_)
  obtain ⟨eF9, eG9, hw⟩ := hw
  rw [eF9, eG9] at hW
  refine lv_if_eq (tgt := 38) hx hb dX5_isOn_5 (by decide) (fun q => ?_) (fun q => ?_)
  · have hw := hw.1 q
    refine lv_iconst (v := (0 : Int32)) hx hb dX5_isOn_38 (by decide) ?_
    exact hQ _ _ _ _ _ (by decide) ⟨rfl, rfl, hw⟩ hW _ _ dX5_isOn_39
  · have hw := hw.2 q
    refine lv_aload_n hx hb dX5_isOn_8 rfl (lv_at hl 0 rfl) ?_
    refine lv_iload_n hx hb dX5_isOn_9 rfl (lv_at hl 1 rfl) ?_
    refine lv_bipush (v := (9 : Int32)) hx hb dX5_isOn_10 (by decide) ?_
    refine m_Vi (rest := []) hE hT hW (kM_of l w _ x1 (9 : Int32) F G hw) gM_of dM_of ⟨Nat.le_of_ble_eq_true rfl, Nat.le_of_ble_eq_true rfl, Nat.zero_le _, Nat.zero_le _⟩ rfl hl.1 rfl (Nat.le_of_ble_eq_true rfl) dX5_isOn_12 (fun r_2 F9 G9 H locs hw hW => ?_)
    obtain ⟨eF9, eG9, hw⟩ := hw
    rw [eF9, eG9] at hW
    refine lv_iload_n hx hb dX5_isOn_15 rfl (lv_at hl 2 rfl) ?_
    refine lv_icmp_ne (tgt := 38) hx hb dX5_isOn_16 (by decide) (fun q => ?_) (fun q => ?_)
    · have hw := hw.2 q
      refine lv_iconst (v := (0 : Int32)) hx hb dX5_isOn_38 (by decide) ?_
      exact hQ _ _ _ _ _ (by decide) ⟨rfl, rfl, hw⟩ hW _ _ dX5_isOn_39
    · have hw := hw.1 q
      refine lv_aload_n hx hb dX5_isOn_19 rfl (lv_at hl 0 rfl) ?_
      refine lv_iload_n hx hb dX5_isOn_20 rfl (lv_at hl 1 rfl) ?_
      refine lv_bipush (v := (10 : Int32)) hx hb dX5_isOn_21 (by decide) ?_
      refine m_Vi (rest := []) hE hT hW (kM_of l w _ x1 (10 : Int32) F G hw) gM_of dM_of ⟨Nat.le_of_ble_eq_true rfl, Nat.le_of_ble_eq_true rfl, Nat.zero_le _, Nat.zero_le _⟩ rfl hl.1 rfl (Nat.le_of_ble_eq_true rfl) dX5_isOn_23 (fun r_3 F9 G9 H locs hw hW => ?_)
      obtain ⟨eF9, eG9, hw⟩ := hw
      rw [eF9, eG9] at hW
      refine lv_sipush (v := (1440 : Int32)) hx hb dX5_isOn_26 (by decide) ?_
      refine lv_idiv hx hb dX5_isOn_29 (by decide) ?_
      refine lv_iload_n hx hb dX5_isOn_30 rfl (lv_at hl 3 rfl) ?_
      refine lv_icmp_ne (tgt := 38) hx hb dX5_isOn_31 (by decide) (fun q => ?_) (fun q => ?_)
      · have hw := hw.2 q
        refine lv_iconst (v := (0 : Int32)) hx hb dX5_isOn_38 (by decide) ?_
        exact hQ _ _ _ _ _ (by decide) ⟨rfl, rfl, hw⟩ hW _ _ dX5_isOn_39
      · have hw := hw.1 q
        refine lv_iconst (v := (1 : Int32)) hx hb dX5_isOn_34 (by decide) ?_
        refine lv_goto (tgt := 39) hx hb dX5_isOn_35 (by decide) ?_
        exact hQ _ _ _ _ _ (by decide) ⟨rfl, rfl, hw⟩ hW _ _ dX5_isOn_39
theorem gM_isOn : GoodIn lw_all (wsV RX5 401 RX5 yX5_isOn (ws_ yX5_isOn cX5_isOn 4 (some .boolean))) := lw_V q2700 q2702 qs137 q154 q2703
theorem dM_isOn : yX5_isOn.cls = RX5 ∧ yX5_isOn.cls ≠ "java/lang/invoke/MethodHandle" ∧ yX5_isOn.cls ≠ "java/lang/invoke/VarHandle" ∧ (parseMethodDescriptor yX5_isOn.desc).map (fun d => d.parameters.length) = some 3 := by decide +kernel

/-! occupancy -/
def wM_occupancy_b24 (post : Int32 → MF → MG → Prop) (K24 : Int32 → Int32 → Int32 → Int32 → MF → MG → Prop) (y1 : Int32) (y2 : Int32) (y3 : Int32) (y4 : Int32) (F : MF) (G : MG) : Prop :=
  ((G 8 1) ≤ y4 → vp_in ((20 : Int32) + y1) 166 ∧ vp_in ((14 : Int32) + y1) 166 ∧ ¬ ((G 1 (((20 : Int32) + y1).toNatClampNeg)) - (G 1 (((14 : Int32) + y1).toNatClampNeg))) = 0 ∧ post (((100 : Int32) * y3) / ((G 1 (((20 : Int32) + y1).toNatClampNeg)) - (G 1 (((14 : Int32) + y1).toNatClampNeg)))) F G) ∧ (¬ (G 8 1) ≤ y4 → wM_isOn (fun r_1 => (r_1 = 0 → ∀ x3_2 : Int32, x3_2 = (y3 + (0 : Int32)) → K24 y1 y2 x3_2 (y4 + (1 : Int32)) F G) ∧ (¬ r_1 = 0 → wM_of (fun r_3 => ∀ x3_4 : Int32, x3_4 = (y3 + r_3) → K24 y1 y2 x3_4 (y4 + (1 : Int32)) F G) y4 (2 : Int32) F G)) y4 y1 y2 F G)
def wM_occupancy_l24 (post : Int32 → MF → MG → Prop) : Nat → Int32 → Int32 → Int32 → Int32 → MF → MG → Prop
  | 0 => fun _ _ _ _ _ _ => False
  | n + 1 => wM_occupancy_b24 post (wM_occupancy_l24 post n)
def wM_occupancy (post : Int32 → MF → MG → Prop) (x1 : Int32) (x2 : Int32) (F : MF) (G : MG) : Prop :=
  wM_whyNotDay (fun r_5 => ∀ F_6 : MF, F_6 = upd F 0 r_5 → ((F_6 0) ≤ 0 → ∃ n, wM_occupancy_l24 post n x1 x2 (0 : Int32) (0 : Int32) F_6 G) ∧ (¬ (F_6 0) ≤ 0 → post (0 : Int32) F_6 G)) x1 x2 F G
set_option maxHeartbeats 4000000 in
theorem kM_occupancy (l : Launch) (w : MP) (post : Int32 → MF → MG → Prop) (x1 : Int32) (x2 : Int32) (F : MF) (G : MG) (hw : wM_occupancy post x1 x2 F G) : m_Mi l w yX5_occupancy cX5_occupancy 5 .int 4 [.ref (mp_h w), .int x1, .int x2] F G post := by
  refine m_ofWi (by decide) rfl (Nat.le_of_ble_eq_true rfl) (fun _ => True) (fun _ _ => rfl) ?_
  intro p e s m args below meth c Q ls hA hW hQ
  obtain ⟨hE, hT, hl⟩ := hA
  obtain ⟨hx, hb, hml, hown, hts⟩ := id hE
  have hl : lv_has ls 5 [(0, .ref (mp_h w)), (1, .int x1), (2, .int x2)] := hl
  have lp24 : ∀ (n24 : Nat) (y1 : Int32) (y2 : Int32) (y3 : Int32) (y4 : Int32) (F : MF) (G : MG) (H : Heap) (locs : List Loc) (ls : Array Slot), lv_has ls 5 [(0, .ref (mp_h w)), (1, .int y1), (2, .int y2), (3, .int y3), (4, .int y4)] → m_W w s.heap F G H locs → wM_occupancy_l24 post n24 y1 y2 y3 y4 F G → W p l e (mrm 4) s m args below meth c H locs 0 0 Q (F0 m 24 ls []) := by
    intro n24
    induction n24 with
    | zero => intro y1 y2 y3 y4 F G H locs ls hl hW hw; exact hw.elim
    | succ n24 ih24 =>
      intro y1 y2 y3 y4 F G H locs ls hl hW hw
      have hw : wM_occupancy_b24 post (wM_occupancy_l24 post n24) y1 y2 y3 y4 F G := hw
      unfold wM_occupancy_b24 at hw
      refine lv_iload hx hb dX5_occupancy_24 (lv_at hl 4 rfl) ?_
      refine lv_aload_n hx hb dX5_occupancy_26 rfl (lv_at hl 0 rfl) ?_
      refine m_get hx hb hown hts hT hW 8 (by decide) (hts _ q2137) rfl (v := .ref (mp_a w 8)) rfl dX5_occupancy_27 ?_
      refine lv_iconst (v := (1 : Int32)) hx hb dX5_occupancy_30 (by decide) ?_
      refine m_iald hx hb hT hW (k := 8) (j := 1) (by decide) rfl (by unfold vp_in; decide) dX5_occupancy_31 ?_
      refine lv_icmp_ge (tgt := 66) hx hb dX5_occupancy_32 (by decide) (fun q => ?_) (fun q => ?_)
      · have hw := hw.1 q
        refine lv_bipush (v := (100 : Int32)) hx hb dX5_occupancy_66 (by decide) ?_
        refine lv_iload_n hx hb dX5_occupancy_68 rfl (lv_at hl 3 rfl) ?_
        refine lv_imul hx hb dX5_occupancy_69 ?_
        refine lv_aload_n hx hb dX5_occupancy_70 rfl (lv_at hl 0 rfl) ?_
        refine m_get hx hb hown hts hT hW 1 (by decide) (hts _ q2130) rfl (v := .ref (mp_a w 1)) rfl dX5_occupancy_71 ?_
        refine lv_bipush (v := (20 : Int32)) hx hb dX5_occupancy_74 (by decide) ?_
        refine lv_iload_n hx hb dX5_occupancy_76 rfl (lv_at hl 1 rfl) ?_
        refine lv_iadd hx hb dX5_occupancy_77 ?_
        obtain ⟨hi, hw⟩ := hw
        refine m_iald hx hb hT hW (k := 1) (j := (((20 : Int32) + y1).toNatClampNeg)) rfl rfl hi dX5_occupancy_78 ?_
        refine lv_aload_n hx hb dX5_occupancy_79 rfl (lv_at hl 0 rfl) ?_
        refine m_get hx hb hown hts hT hW 1 (by decide) (hts _ q2130) rfl (v := .ref (mp_a w 1)) rfl dX5_occupancy_80 ?_
        refine lv_bipush (v := (14 : Int32)) hx hb dX5_occupancy_83 (by decide) ?_
        refine lv_iload_n hx hb dX5_occupancy_85 rfl (lv_at hl 1 rfl) ?_
        refine lv_iadd hx hb dX5_occupancy_86 ?_
        obtain ⟨hi, hw⟩ := hw
        refine m_iald hx hb hT hW (k := 1) (j := (((14 : Int32) + y1).toNatClampNeg)) rfl rfl hi dX5_occupancy_87 ?_
        refine lv_isub hx hb dX5_occupancy_88 ?_
        obtain ⟨h0, hw⟩ := hw
        refine lv_idiv hx hb dX5_occupancy_89 h0 ?_
        exact hQ _ _ _ _ _ trivial hw hW _ _ dX5_occupancy_90
      · have hw := hw.2 q
        refine lv_iload_n hx hb dX5_occupancy_35 rfl (lv_at hl 3 rfl) ?_
        refine lv_aload_n hx hb dX5_occupancy_36 rfl (lv_at hl 0 rfl) ?_
        refine lv_iload hx hb dX5_occupancy_37 (lv_at hl 4 rfl) ?_
        refine lv_iload_n hx hb dX5_occupancy_39 rfl (lv_at hl 1 rfl) ?_
        refine lv_iload_n hx hb dX5_occupancy_40 rfl (lv_at hl 2 rfl) ?_
        refine m_Vi (rest := [.int y3]) hE hT hW (kM_isOn l w _ y4 y1 y2 F G hw) gM_isOn dM_isOn ⟨Nat.le_of_ble_eq_true rfl, Nat.le_of_ble_eq_true rfl, Nat.zero_le _, Nat.zero_le _⟩ rfl hl.1 rfl (Nat.le_of_ble_eq_true rfl) dX5_occupancy_41 (fun r_1 F9 G9 H locs hw hW => ?_)
        obtain ⟨eF9, eG9, hw⟩ := hw
        rw [eF9, eG9] at hW
        refine lv_if_eq (tgt := 57) hx hb dX5_occupancy_44 (by decide) (fun q => ?_) (fun q => ?_)
        · have hw := hw.1 q
          refine lv_iconst (v := (0 : Int32)) hx hb dX5_occupancy_57 (by decide) ?_
          refine lv_iadd hx hb dX5_occupancy_58 ?_
          refine lv_topi (fun x3_2 ex3_2 => ?_)
          have hw := hw x3_2 ex3_2
          refine lv_istore_n (lv' := [(3, .int x3_2), (0, .ref (mp_h w)), (1, .int y1), (2, .int y2), (4, .int y4)]) hx hb dX5_occupancy_59 rfl hl (by decide) rfl (fun ls hl => ?_)
          refine lv_iinc (v := (y4 + (1 : Int32))) (lv' := [(4, .int (y4 + (1 : Int32))), (3, .int x3_2), (0, .ref (mp_h w)), (1, .int y1), (2, .int y2)]) hx hb dX5_occupancy_60 hl (k := 4) rfl rfl (by decide) rfl (fun ls hl => ?_)
          refine lv_goto (tgt := 24) hx hb dX5_occupancy_63 (by decide) ?_
          exact ih24 y1 y2 x3_2 (y4 + (1 : Int32)) F G _ _ _ (lv_sub hl [2, 3, 4, 1, 0] rfl) hW hw
        · have hw := hw.2 q
          refine lv_aload_n hx hb dX5_occupancy_47 rfl (lv_at hl 0 rfl) ?_
          refine lv_iload hx hb dX5_occupancy_48 (lv_at hl 4 rfl) ?_
          refine lv_iconst (v := (2 : Int32)) hx hb dX5_occupancy_50 (by decide) ?_
          refine m_Vi (rest := [.int y3]) hE hT hW (kM_of l w _ y4 (2 : Int32) F G hw) gM_of dM_of ⟨Nat.le_of_ble_eq_true rfl, Nat.le_of_ble_eq_true rfl, Nat.zero_le _, Nat.zero_le _⟩ rfl hl.1 rfl (Nat.le_of_ble_eq_true rfl) dX5_occupancy_51 (fun r_3 F9 G9 H locs hw hW => ?_)
          obtain ⟨eF9, eG9, hw⟩ := hw
          rw [eF9, eG9] at hW
          refine lv_goto (tgt := 58) hx hb dX5_occupancy_54 (by decide) ?_
          refine lv_iadd hx hb dX5_occupancy_58 ?_
          refine lv_topi (fun x3_4 ex3_4 => ?_)
          have hw := hw x3_4 ex3_4
          refine lv_istore_n (lv' := [(3, .int x3_4), (0, .ref (mp_h w)), (1, .int y1), (2, .int y2), (4, .int y4)]) hx hb dX5_occupancy_59 rfl hl (by decide) rfl (fun ls hl => ?_)
          refine lv_iinc (v := (y4 + (1 : Int32))) (lv' := [(4, .int (y4 + (1 : Int32))), (3, .int x3_4), (0, .ref (mp_h w)), (1, .int y1), (2, .int y2)]) hx hb dX5_occupancy_60 hl (k := 4) rfl rfl (by decide) rfl (fun ls hl => ?_)
          refine lv_goto (tgt := 24) hx hb dX5_occupancy_63 (by decide) ?_
          exact ih24 y1 y2 x3_4 (y4 + (1 : Int32)) F G _ _ _ (lv_sub hl [2, 3, 4, 1, 0] rfl) hW hw
  unfold wM_occupancy at hw
  refine lv_aload_n hx hb dX5_occupancy_0 rfl (lv_at hl 0 rfl) ?_
  refine lv_aload_n hx hb dX5_occupancy_1 rfl (lv_at hl 0 rfl) ?_
  refine lv_iload_n hx hb dX5_occupancy_2 rfl (lv_at hl 1 rfl) ?_
  refine lv_iload_n hx hb dX5_occupancy_3 rfl (lv_at hl 2 rfl) ?_
  refine m_Vi (rest := [.ref (mp_h w)]) hE hT hW (kM_whyNotDay l w _ x1 x2 F G hw) gM_whyNotDay dM_whyNotDay ⟨Nat.le_of_ble_eq_true rfl, Nat.le_of_ble_eq_true rfl, Nat.zero_le _, Nat.zero_le _⟩ rfl hl.1 rfl (Nat.le_of_ble_eq_true rfl) dX5_occupancy_4 (fun r_5 F9 G9 H locs hw hW => ?_)
  obtain ⟨eF9, eG9, hw⟩ := hw
  rw [eF9, eG9] at hW
  refine m_put hx hb hown hts hT hW 0 (by decide) (hts _ q2129) rfl rfl (ty := .int) (x := r_5) rfl rfl rfl rfl dX5_occupancy_7 (fun F_6 H locs eF_6 hW => ?_)
  have hw := hw F_6 eF_6
  refine lv_aload_n hx hb dX5_occupancy_10 rfl (lv_at hl 0 rfl) ?_
  refine m_get hx hb hown hts hT hW 0 (by decide) (hts _ q2129) rfl (v := .int (F_6 0)) rfl dX5_occupancy_11 ?_
  refine lv_if_le (tgt := 19) hx hb dX5_occupancy_14 (by decide) (fun q => ?_) (fun q => ?_)
  · have hw := hw.1 q
    refine lv_iconst (v := (0 : Int32)) hx hb dX5_occupancy_19 (by decide) ?_
    refine lv_istore_n (lv' := [(3, .int (0 : Int32)), (0, .ref (mp_h w)), (1, .int x1), (2, .int x2)]) hx hb dX5_occupancy_20 rfl hl (by decide) rfl (fun ls hl => ?_)
    refine lv_iconst (v := (0 : Int32)) hx hb dX5_occupancy_21 (by decide) ?_
    refine lv_istore (lv' := [(4, .int (0 : Int32)), (3, .int (0 : Int32)), (0, .ref (mp_h w)), (1, .int x1), (2, .int x2)]) hx hb dX5_occupancy_22 hl (by decide) rfl (fun ls hl => ?_)
    obtain ⟨n_7, hw⟩ := hw
    exact lp24 n_7 x1 x2 (0 : Int32) (0 : Int32) F_6 G _ _ _ (lv_sub hl [2, 3, 4, 1, 0] rfl) hW hw
  · have hw := hw.2 q
    refine lv_iconst (v := (0 : Int32)) hx hb dX5_occupancy_17 (by decide) ?_
    exact hQ _ _ _ _ _ trivial hw hW _ _ dX5_occupancy_18

/-! nextIn -/
def wM_nextIn_j54 (post : Int32 → Prop) (K5 : Int32 → Int32 → Int32 → Int32 → Prop) (F : MF) (G : MG) (y1 : Int32) (y2 : Int32) (y3 : Int32) (y4 : Int32) (z0 : Int32) : Prop :=
  (z0 = 0 → K5 y1 y2 y3 (y4 + (1 : Int32))) ∧ (¬ z0 = 0 → (y3 = (-1 : Int32) → K5 y1 y2 y4 (y4 + (1 : Int32))) ∧ (¬ y3 = (-1 : Int32) → wM_of (fun r_1 => wM_of (fun r_2 => (r_2 ≤ r_1 → K5 y1 y2 y3 (y4 + (1 : Int32))) ∧ (¬ r_2 ≤ r_1 → K5 y1 y2 y4 (y4 + (1 : Int32)))) y3 (10 : Int32) F G) y4 (10 : Int32) F G))
def wM_nextIn_b5 (post : Int32 → Prop) (F : MF) (G : MG) (K5 : Int32 → Int32 → Int32 → Int32 → Prop) (y1 : Int32) (y2 : Int32) (y3 : Int32) (y4 : Int32) : Prop :=
  ((G 8 1) ≤ y4 → post y3) ∧ (¬ (G 8 1) ≤ y4 → wM_isActive (fun r_3 => (r_3 = 0 → wM_nextIn_j54 post K5 F G y1 y2 y3 y4 (0 : Int32)) ∧ (¬ r_3 = 0 → wM_of (fun r_4 => (r_4 = y1 → wM_of (fun r_5 => (r_5 < y2 → wM_nextIn_j54 post K5 F G y1 y2 y3 y4 (0 : Int32)) ∧ (¬ r_5 < y2 → wM_nextIn_j54 post K5 F G y1 y2 y3 y4 (1 : Int32))) y4 (10 : Int32) F G) ∧ (¬ r_4 = y1 → wM_nextIn_j54 post K5 F G y1 y2 y3 y4 (0 : Int32))) y4 (9 : Int32) F G)) y4 F G)
def wM_nextIn_l5 (post : Int32 → Prop) (F : MF) (G : MG) : Nat → Int32 → Int32 → Int32 → Int32 → Prop
  | 0 => fun _ _ _ _ => False
  | n + 1 => wM_nextIn_b5 post F G (wM_nextIn_l5 post F G n)
def wM_nextIn (post : Int32 → Prop) (x1 : Int32) (x2 : Int32) (F : MF) (G : MG) : Prop :=
  ∃ n, wM_nextIn_l5 post F G n x1 x2 (-1 : Int32) (0 : Int32)
set_option maxHeartbeats 4000000 in
theorem kM_nextIn (l : Launch) (w : MP) (post : Int32 → Prop) (x1 : Int32) (x2 : Int32) (F : MF) (G : MG) (hw : wM_nextIn post x1 x2 F G) : m_Mi l w yX5_nextIn cX5_nextIn 6 .int 3 [.ref (mp_h w), .int x1, .int x2] F G (fun r F1 G1 => F1 = F ∧ G1 = G ∧ post r) := by
  refine m_ofWi (by decide) rfl (Nat.le_of_ble_eq_true rfl) (fun _ => True) (fun _ _ => rfl) ?_
  intro p e s m args below meth c Q ls hA hW hQ
  obtain ⟨hE, hT, hl⟩ := hA
  obtain ⟨hx, hb, hml, hown, hts⟩ := id hE
  have hl : lv_has ls 6 [(0, .ref (mp_h w)), (1, .int x1), (2, .int x2)] := hl
  have lp5 : ∀ (n5 : Nat) (y1 : Int32) (y2 : Int32) (y3 : Int32) (y4 : Int32) (H : Heap) (locs : List Loc) (ls : Array Slot), lv_has ls 6 [(0, .ref (mp_h w)), (1, .int y1), (2, .int y2), (3, .int y3), (4, .int y4)] → m_W w s.heap F G H locs → wM_nextIn_l5 post F G n5 y1 y2 y3 y4 → W p l e (mrm 3) s m args below meth c H locs 0 0 Q (F0 m 5 ls []) := by
    intro n5
    induction n5 with
    | zero => intro y1 y2 y3 y4 H locs ls hl hW hw; exact hw.elim
    | succ n5 ih5 =>
      have jn54 : ∀ (y1 : Int32) (y2 : Int32) (y3 : Int32) (y4 : Int32) (z0 : Int32) (H : Heap) (locs : List Loc) (ls : Array Slot), lv_has ls 6 [(0, .ref (mp_h w)), (1, .int y1), (2, .int y2), (3, .int y3), (4, .int y4)] → m_W w s.heap F G H locs → wM_nextIn_j54 post (wM_nextIn_l5 post F G n5) F G y1 y2 y3 y4 z0 → W p l e (mrm 3) s m args below meth c H locs 0 0 Q (F0 m 54 ls [.int z0]) := by
        intro y1 y2 y3 y4 z0 H locs ls hl hW hw
        unfold wM_nextIn_j54 at hw
        refine lv_istore (lv' := [(5, .int z0), (0, .ref (mp_h w)), (1, .int y1), (2, .int y2), (3, .int y3), (4, .int y4)]) hx hb dX5_nextIn_54 hl (by decide) rfl (fun ls hl => ?_)
        refine lv_iload hx hb dX5_nextIn_56 (lv_at hl 0 rfl) ?_
        refine lv_if_eq (tgt := 89) hx hb dX5_nextIn_58 (by decide) (fun q => ?_) (fun q => ?_)
        · have hw := hw.1 q
          refine lv_iload_n hx hb dX5_nextIn_89 rfl (lv_at hl 4 rfl) ?_
          refine lv_istore_n (lv' := [(3, .int y3), (5, .int z0), (0, .ref (mp_h w)), (1, .int y1), (2, .int y2), (4, .int y4)]) hx hb dX5_nextIn_90 rfl hl (by decide) rfl (fun ls hl => ?_)
          refine lv_iinc (v := (y4 + (1 : Int32))) (lv' := [(4, .int (y4 + (1 : Int32))), (3, .int y3), (5, .int z0), (0, .ref (mp_h w)), (1, .int y1), (2, .int y2)]) hx hb dX5_nextIn_91 hl (k := 5) rfl rfl (by decide) rfl (fun ls hl => ?_)
          refine lv_goto (tgt := 5) hx hb dX5_nextIn_94 (by decide) ?_
          exact ih5 y1 y2 y3 (y4 + (1 : Int32)) _ _ _ (lv_sub hl [3, 4, 5, 1, 0] rfl) hW hw
        · have hw := hw.2 q
          refine lv_iload_n hx hb dX5_nextIn_61 rfl (lv_at hl 4 rfl) ?_
          refine lv_iconst (v := (-1 : Int32)) hx hb dX5_nextIn_62 (by decide) ?_
          refine lv_icmp_eq (tgt := 84) hx hb dX5_nextIn_63 (by decide) (fun q => ?_) (fun q => ?_)
          · have hw := hw.1 q
            refine lv_iload hx hb dX5_nextIn_84 (lv_at hl 5 rfl) ?_
            refine lv_goto (tgt := 90) hx hb dX5_nextIn_86 (by decide) ?_
            refine lv_istore_n (lv' := [(3, .int y4), (5, .int z0), (0, .ref (mp_h w)), (1, .int y1), (2, .int y2), (4, .int y4)]) hx hb dX5_nextIn_90 rfl hl (by decide) rfl (fun ls hl => ?_)
            refine lv_iinc (v := (y4 + (1 : Int32))) (lv' := [(4, .int (y4 + (1 : Int32))), (3, .int y4), (5, .int z0), (0, .ref (mp_h w)), (1, .int y1), (2, .int y2)]) hx hb dX5_nextIn_91 hl (k := 5) rfl rfl (by decide) rfl (fun ls hl => ?_)
            refine lv_goto (tgt := 5) hx hb dX5_nextIn_94 (by decide) ?_
            exact ih5 y1 y2 y4 (y4 + (1 : Int32)) _ _ _ (lv_sub hl [3, 4, 5, 1, 0] rfl) hW hw
          · have hw := hw.2 q
            refine lv_aload_n hx hb dX5_nextIn_66 rfl (lv_at hl 1 rfl) ?_
            refine lv_iload hx hb dX5_nextIn_67 (lv_at hl 5 rfl) ?_
            refine lv_bipush (v := (10 : Int32)) hx hb dX5_nextIn_69 (by decide) ?_
            refine m_Vi (rest := []) hE hT hW (kM_of l w _ y4 (10 : Int32) F G hw) gM_of dM_of ⟨Nat.le_of_ble_eq_true rfl, Nat.le_of_ble_eq_true rfl, Nat.zero_le _, Nat.zero_le _⟩ rfl hl.1 rfl (Nat.le_of_ble_eq_true rfl) dX5_nextIn_71 (fun r_1 F9 G9 H locs hw hW => ?_)
            obtain ⟨eF9, eG9, hw⟩ := hw
            rw [eF9, eG9] at hW
            refine lv_aload_n hx hb dX5_nextIn_74 rfl (lv_at hl 1 rfl) ?_
            refine lv_iload_n hx hb dX5_nextIn_75 rfl (lv_at hl 4 rfl) ?_
            refine lv_bipush (v := (10 : Int32)) hx hb dX5_nextIn_76 (by decide) ?_
            refine m_Vi (rest := [.int r_1]) hE hT hW (kM_of l w _ y3 (10 : Int32) F G hw) gM_of dM_of ⟨Nat.le_of_ble_eq_true rfl, Nat.le_of_ble_eq_true rfl, Nat.zero_le _, Nat.zero_le _⟩ rfl hl.1 rfl (Nat.le_of_ble_eq_true rfl) dX5_nextIn_78 (fun r_2 F9 G9 H locs hw hW => ?_)
            obtain ⟨eF9, eG9, hw⟩ := hw
            rw [eF9, eG9] at hW
            refine lv_icmp_ge (tgt := 89) hx hb dX5_nextIn_81 (by decide) (fun q => ?_) (fun q => ?_)
            · have hw := hw.1 q
              refine lv_iload_n hx hb dX5_nextIn_89 rfl (lv_at hl 4 rfl) ?_
              refine lv_istore_n (lv' := [(3, .int y3), (5, .int z0), (0, .ref (mp_h w)), (1, .int y1), (2, .int y2), (4, .int y4)]) hx hb dX5_nextIn_90 rfl hl (by decide) rfl (fun ls hl => ?_)
              refine lv_iinc (v := (y4 + (1 : Int32))) (lv' := [(4, .int (y4 + (1 : Int32))), (3, .int y3), (5, .int z0), (0, .ref (mp_h w)), (1, .int y1), (2, .int y2)]) hx hb dX5_nextIn_91 hl (k := 5) rfl rfl (by decide) rfl (fun ls hl => ?_)
              refine lv_goto (tgt := 5) hx hb dX5_nextIn_94 (by decide) ?_
              exact ih5 y1 y2 y3 (y4 + (1 : Int32)) _ _ _ (lv_sub hl [3, 4, 5, 1, 0] rfl) hW hw
            · have hw := hw.2 q
              refine lv_iload hx hb dX5_nextIn_84 (lv_at hl 5 rfl) ?_
              refine lv_goto (tgt := 90) hx hb dX5_nextIn_86 (by decide) ?_
              refine lv_istore_n (lv' := [(3, .int y4), (5, .int z0), (0, .ref (mp_h w)), (1, .int y1), (2, .int y2), (4, .int y4)]) hx hb dX5_nextIn_90 rfl hl (by decide) rfl (fun ls hl => ?_)
              refine lv_iinc (v := (y4 + (1 : Int32))) (lv' := [(4, .int (y4 + (1 : Int32))), (3, .int y4), (5, .int z0), (0, .ref (mp_h w)), (1, .int y1), (2, .int y2)]) hx hb dX5_nextIn_91 hl (k := 5) rfl rfl (by decide) rfl (fun ls hl => ?_)
              refine lv_goto (tgt := 5) hx hb dX5_nextIn_94 (by decide) ?_
              exact ih5 y1 y2 y4 (y4 + (1 : Int32)) _ _ _ (lv_sub hl [3, 4, 5, 1, 0] rfl) hW hw
      intro y1 y2 y3 y4 H locs ls hl hW hw
      have hw : wM_nextIn_b5 post F G (wM_nextIn_l5 post F G n5) y1 y2 y3 y4 := hw
      unfold wM_nextIn_b5 at hw
      refine lv_iload hx hb dX5_nextIn_5 (lv_at hl 4 rfl) ?_
      refine lv_aload_n hx hb dX5_nextIn_7 rfl (lv_at hl 0 rfl) ?_
      refine m_get hx hb hown hts hT hW 8 (by decide) (hts _ q2137) rfl (v := .ref (mp_a w 8)) rfl dX5_nextIn_8 ?_
      refine lv_iconst (v := (1 : Int32)) hx hb dX5_nextIn_11 (by decide) ?_
      refine m_iald hx hb hT hW (k := 8) (j := 1) (by decide) rfl (by unfold vp_in; decide) dX5_nextIn_12 ?_
      refine lv_icmp_ge (tgt := 97) hx hb dX5_nextIn_13 (by decide) (fun q => ?_) (fun q => ?_)
      · have hw := hw.1 q
        refine lv_iload_n hx hb dX5_nextIn_97 rfl (lv_at hl 3 rfl) ?_
        exact hQ _ _ _ _ _ trivial ⟨rfl, rfl, hw⟩ hW _ _ dX5_nextIn_98
      · have hw := hw.2 q
        refine lv_aload_n hx hb dX5_nextIn_16 rfl (lv_at hl 0 rfl) ?_
        refine lv_iload hx hb dX5_nextIn_17 (lv_at hl 4 rfl) ?_
        refine m_Vi (rest := []) hE hT hW (kM_isActive l w _ y4 F G hw) gM_isActive dM_isActive ⟨Nat.le_of_ble_eq_true rfl, Nat.le_of_ble_eq_true rfl, Nat.zero_le _, Nat.zero_le _⟩ rfl hl.1 rfl (Nat.le_of_ble_eq_true rfl) dX5_nextIn_19 (fun r_3 F9 G9 H locs hw hW => ?_)
        obtain ⟨eF9, eG9, hw⟩ := hw
        rw [eF9, eG9] at hW
        refine lv_if_eq (tgt := 53) hx hb dX5_nextIn_22 (by decide) (fun q => ?_) (fun q => ?_)
        · have hw := hw.1 q
          refine lv_iconst (v := (0 : Int32)) hx hb dX5_nextIn_53 (by decide) ?_
          exact jn54 y1 y2 y3 y4 (0 : Int32) _ _ _ hl hW hw
        · have hw := hw.2 q
          refine lv_aload_n hx hb dX5_nextIn_25 rfl (lv_at hl 0 rfl) ?_
          refine lv_iload hx hb dX5_nextIn_26 (lv_at hl 4 rfl) ?_
          refine lv_bipush (v := (9 : Int32)) hx hb dX5_nextIn_28 (by decide) ?_
          refine m_Vi (rest := []) hE hT hW (kM_of l w _ y4 (9 : Int32) F G hw) gM_of dM_of ⟨Nat.le_of_ble_eq_true rfl, Nat.le_of_ble_eq_true rfl, Nat.zero_le _, Nat.zero_le _⟩ rfl hl.1 rfl (Nat.le_of_ble_eq_true rfl) dX5_nextIn_30 (fun r_4 F9 G9 H locs hw hW => ?_)
          obtain ⟨eF9, eG9, hw⟩ := hw
          rw [eF9, eG9] at hW
          refine lv_iload_n hx hb dX5_nextIn_33 rfl (lv_at hl 1 rfl) ?_
          refine lv_icmp_ne (tgt := 53) hx hb dX5_nextIn_34 (by decide) (fun q => ?_) (fun q => ?_)
          · have hw := hw.2 q
            refine lv_iconst (v := (0 : Int32)) hx hb dX5_nextIn_53 (by decide) ?_
            exact jn54 y1 y2 y3 y4 (0 : Int32) _ _ _ hl hW hw
          · have hw := hw.1 q
            refine lv_aload_n hx hb dX5_nextIn_37 rfl (lv_at hl 0 rfl) ?_
            refine lv_iload hx hb dX5_nextIn_38 (lv_at hl 4 rfl) ?_
            refine lv_bipush (v := (10 : Int32)) hx hb dX5_nextIn_40 (by decide) ?_
            refine m_Vi (rest := []) hE hT hW (kM_of l w _ y4 (10 : Int32) F G hw) gM_of dM_of ⟨Nat.le_of_ble_eq_true rfl, Nat.le_of_ble_eq_true rfl, Nat.zero_le _, Nat.zero_le _⟩ rfl hl.1 rfl (Nat.le_of_ble_eq_true rfl) dX5_nextIn_42 (fun r_5 F9 G9 H locs hw hW => ?_)
            obtain ⟨eF9, eG9, hw⟩ := hw
            rw [eF9, eG9] at hW
            refine lv_iload_n hx hb dX5_nextIn_45 rfl (lv_at hl 2 rfl) ?_
            refine lv_icmp_lt (tgt := 53) hx hb dX5_nextIn_46 (by decide) (fun q => ?_) (fun q => ?_)
            · have hw := hw.1 q
              refine lv_iconst (v := (0 : Int32)) hx hb dX5_nextIn_53 (by decide) ?_
              exact jn54 y1 y2 y3 y4 (0 : Int32) _ _ _ hl hW hw
            · have hw := hw.2 q
              refine lv_iconst (v := (1 : Int32)) hx hb dX5_nextIn_49 (by decide) ?_
              refine lv_goto (tgt := 54) hx hb dX5_nextIn_50 (by decide) ?_
              exact jn54 y1 y2 y3 y4 (1 : Int32) _ _ _ hl hW hw
  unfold wM_nextIn at hw
  refine lv_iconst (v := (-1 : Int32)) hx hb dX5_nextIn_0 (by decide) ?_
  refine lv_istore_n (lv' := [(3, .int (-1 : Int32)), (0, .ref (mp_h w)), (1, .int x1), (2, .int x2)]) hx hb dX5_nextIn_1 rfl hl (by decide) rfl (fun ls hl => ?_)
  refine lv_iconst (v := (0 : Int32)) hx hb dX5_nextIn_2 (by decide) ?_
  refine lv_istore (lv' := [(4, .int (0 : Int32)), (3, .int (-1 : Int32)), (0, .ref (mp_h w)), (1, .int x1), (2, .int x2)]) hx hb dX5_nextIn_3 hl (by decide) rfl (fun ls hl => ?_)
  obtain ⟨n_6, hw⟩ := hw
  exact lp5 n_6 x1 x2 (-1 : Int32) (0 : Int32) _ _ _ (lv_sub hl [2, 3, 4, 1, 0] rfl) hW hw
theorem gM_nextIn : GoodIn lw_all (wsV RX5 404 RX5 yX5_nextIn (ws_ yX5_nextIn cX5_nextIn 6 (some .int))) := lw_V q2708 q2710 qs138 q154 q2711
theorem dM_nextIn : yX5_nextIn.cls = RX5 ∧ yX5_nextIn.cls ≠ "java/lang/invoke/MethodHandle" ∧ yX5_nextIn.cls ≠ "java/lang/invoke/VarHandle" ∧ (parseMethodDescriptor yX5_nextIn.desc).map (fun d => d.parameters.length) = some 2 := by decide +kernel

/-! setupSum -/
def wM_setupSum_b33 (post : Int32 → MF → MG → Prop) (K33 : Int32 → Int32 → Int32 → Int32 → MF → MG → Prop) (y1 : Int32) (y2 : Int32) (y3 : Int32) (y4 : Int32) (F : MF) (G : MG) : Prop :=
  (y4 = (-1 : Int32) → post y3 F G) ∧ (¬ y4 = (-1 : Int32) → wM_isOn (fun r_1 => (r_1 = 0 → post y3 F G) ∧ (¬ r_1 = 0 → wM_of (fun r_2 => wM_nextIn (fun r_3 => (r_3 = (-1 : Int32) → ∀ x3_4 : Int32, x3_4 = (y3 + (0 : Int32)) → K33 y1 y2 x3_4 r_3 F G) ∧ (¬ r_3 = (-1 : Int32) → wM_isOn (fun r_5 => (r_5 = 0 → ∀ x3_6 : Int32, x3_6 = (y3 + (0 : Int32)) → K33 y1 y2 x3_6 r_3 F G) ∧ (¬ r_5 = 0 → wM_of (fun r_7 => wM_of (fun r_8 => wM_between (fun r_9 => ∀ x3_10 : Int32, x3_10 = (y3 + r_9) → K33 y1 y2 x3_10 r_3 F G) r_7 r_8 F G) r_3 (0 : Int32) F G) y4 (0 : Int32) F G)) r_3 y1 y2 F G)) y1 (r_2 + (1 : Int32)) F G) y4 (10 : Int32) F G)) y4 y1 y2 F G)
def wM_setupSum_l33 (post : Int32 → MF → MG → Prop) : Nat → Int32 → Int32 → Int32 → Int32 → MF → MG → Prop
  | 0 => fun _ _ _ _ _ _ => False
  | n + 1 => wM_setupSum_b33 post (wM_setupSum_l33 post n)
def wM_setupSum (post : Int32 → MF → MG → Prop) (x1 : Int32) (x2 : Int32) (F : MF) (G : MG) : Prop :=
  wM_whyNotDay (fun r_11 => ∀ F_12 : MF, F_12 = upd F 0 r_11 → ((F_12 0) ≤ 0 → wM_nextIn (fun r_13 => ∃ n, wM_setupSum_l33 post n x1 x2 (0 : Int32) r_13 F_12 G) x1 ((1440 : Int32) * x2) F_12 G) ∧ (¬ (F_12 0) ≤ 0 → post (0 : Int32) F_12 G)) x1 x2 F G
set_option maxHeartbeats 4000000 in
theorem kM_setupSum (l : Launch) (w : MP) (post : Int32 → MF → MG → Prop) (x1 : Int32) (x2 : Int32) (F : MF) (G : MG) (hw : wM_setupSum post x1 x2 F G) : m_Mi l w yX5_setupSum cX5_setupSum 6 .int 4 [.ref (mp_h w), .int x1, .int x2] F G post := by
  refine m_ofWi (by decide) rfl (Nat.le_of_ble_eq_true rfl) (fun _ => True) (fun _ _ => rfl) ?_
  intro p e s m args below meth c Q ls hA hW hQ
  obtain ⟨hE, hT, hl⟩ := hA
  obtain ⟨hx, hb, hml, hown, hts⟩ := id hE
  have hl : lv_has ls 6 [(0, .ref (mp_h w)), (1, .int x1), (2, .int x2)] := hl
  have lp33 : ∀ (n33 : Nat) (y1 : Int32) (y2 : Int32) (y3 : Int32) (y4 : Int32) (F : MF) (G : MG) (H : Heap) (locs : List Loc) (ls : Array Slot), lv_has ls 6 [(0, .ref (mp_h w)), (1, .int y1), (2, .int y2), (3, .int y3), (4, .int y4)] → m_W w s.heap F G H locs → wM_setupSum_l33 post n33 y1 y2 y3 y4 F G → W p l e (mrm 4) s m args below meth c H locs 0 0 Q (F0 m 33 ls []) := by
    intro n33
    induction n33 with
    | zero => intro y1 y2 y3 y4 F G H locs ls hl hW hw; exact hw.elim
    | succ n33 ih33 =>
      intro y1 y2 y3 y4 F G H locs ls hl hW hw
      have hw : wM_setupSum_b33 post (wM_setupSum_l33 post n33) y1 y2 y3 y4 F G := hw
      unfold wM_setupSum_b33 at hw
      refine lv_iload hx hb dX5_setupSum_33 (lv_at hl 4 rfl) ?_
      refine lv_iconst (v := (-1 : Int32)) hx hb dX5_setupSum_35 (by decide) ?_
      refine lv_icmp_eq (tgt := 116) hx hb dX5_setupSum_36 (by decide) (fun q => ?_) (fun q => ?_)
      · have hw := hw.1 q
        refine lv_iload_n hx hb dX5_setupSum_116 rfl (lv_at hl 3 rfl) ?_
        exact hQ _ _ _ _ _ trivial hw hW _ _ dX5_setupSum_117
      · have hw := hw.2 q
        refine lv_aload_n hx hb dX5_setupSum_39 rfl (lv_at hl 0 rfl) ?_
        refine lv_iload hx hb dX5_setupSum_40 (lv_at hl 4 rfl) ?_
        refine lv_iload_n hx hb dX5_setupSum_42 rfl (lv_at hl 1 rfl) ?_
        refine lv_iload_n hx hb dX5_setupSum_43 rfl (lv_at hl 2 rfl) ?_
        refine m_Vi (rest := []) hE hT hW (kM_isOn l w _ y4 y1 y2 F G hw) gM_isOn dM_isOn ⟨Nat.le_of_ble_eq_true rfl, Nat.le_of_ble_eq_true rfl, Nat.zero_le _, Nat.zero_le _⟩ rfl hl.1 rfl (Nat.le_of_ble_eq_true rfl) dX5_setupSum_44 (fun r_1 F9 G9 H locs hw hW => ?_)
        obtain ⟨eF9, eG9, hw⟩ := hw
        rw [eF9, eG9] at hW
        refine lv_if_eq (tgt := 116) hx hb dX5_setupSum_47 (by decide) (fun q => ?_) (fun q => ?_)
        · have hw := hw.1 q
          refine lv_iload_n hx hb dX5_setupSum_116 rfl (lv_at hl 3 rfl) ?_
          exact hQ _ _ _ _ _ trivial hw hW _ _ dX5_setupSum_117
        · have hw := hw.2 q
          refine lv_aload_n hx hb dX5_setupSum_50 rfl (lv_at hl 0 rfl) ?_
          refine lv_iload_n hx hb dX5_setupSum_51 rfl (lv_at hl 1 rfl) ?_
          refine lv_aload_n hx hb dX5_setupSum_52 rfl (lv_at hl 0 rfl) ?_
          refine lv_iload hx hb dX5_setupSum_53 (lv_at hl 4 rfl) ?_
          refine lv_bipush (v := (10 : Int32)) hx hb dX5_setupSum_55 (by decide) ?_
          refine m_Vi (rest := [.int y1, .ref (mp_h w)]) hE hT hW (kM_of l w _ y4 (10 : Int32) F G hw) gM_of dM_of ⟨Nat.le_of_ble_eq_true rfl, Nat.le_of_ble_eq_true rfl, Nat.zero_le _, Nat.zero_le _⟩ rfl hl.1 rfl (Nat.le_of_ble_eq_true rfl) dX5_setupSum_57 (fun r_2 F9 G9 H locs hw hW => ?_)
          obtain ⟨eF9, eG9, hw⟩ := hw
          rw [eF9, eG9] at hW
          refine lv_iconst (v := (1 : Int32)) hx hb dX5_setupSum_60 (by decide) ?_
          refine lv_iadd hx hb dX5_setupSum_61 ?_
          refine m_Vi (rest := []) hE hT hW (kM_nextIn l w _ y1 (r_2 + (1 : Int32)) F G hw) gM_nextIn dM_nextIn ⟨Nat.le_of_ble_eq_true rfl, Nat.le_of_ble_eq_true rfl, Nat.zero_le _, Nat.zero_le _⟩ rfl hl.1 rfl (Nat.le_of_ble_eq_true rfl) dX5_setupSum_62 (fun r_3 F9 G9 H locs hw hW => ?_)
          obtain ⟨eF9, eG9, hw⟩ := hw
          rw [eF9, eG9] at hW
          refine lv_istore (lv' := [(5, .int r_3), (0, .ref (mp_h w)), (1, .int y1), (2, .int y2), (3, .int y3), (4, .int y4)]) hx hb dX5_setupSum_65 hl (by decide) rfl (fun ls hl => ?_)
          refine lv_iload_n hx hb dX5_setupSum_67 rfl (lv_at hl 4 rfl) ?_
          refine lv_iload hx hb dX5_setupSum_68 (lv_at hl 0 rfl) ?_
          refine lv_iconst (v := (-1 : Int32)) hx hb dX5_setupSum_70 (by decide) ?_
          refine lv_icmp_eq (tgt := 106) hx hb dX5_setupSum_71 (by decide) (fun q => ?_) (fun q => ?_)
          · have hw := hw.1 q
            refine lv_iconst (v := (0 : Int32)) hx hb dX5_setupSum_106 (by decide) ?_
            refine lv_iadd hx hb dX5_setupSum_107 ?_
            refine lv_topi (fun x3_4 ex3_4 => ?_)
            have hw := hw x3_4 ex3_4
            refine lv_istore_n (lv' := [(3, .int x3_4), (5, .int r_3), (0, .ref (mp_h w)), (1, .int y1), (2, .int y2), (4, .int y4)]) hx hb dX5_setupSum_108 rfl hl (by decide) rfl (fun ls hl => ?_)
            refine lv_iload hx hb dX5_setupSum_109 (lv_at hl 1 rfl) ?_
            refine lv_istore (lv' := [(4, .int r_3), (3, .int x3_4), (5, .int r_3), (0, .ref (mp_h w)), (1, .int y1), (2, .int y2)]) hx hb dX5_setupSum_111 hl (by decide) rfl (fun ls hl => ?_)
            refine lv_goto (tgt := 33) hx hb dX5_setupSum_113 (by decide) ?_
            exact ih33 y1 y2 x3_4 r_3 F G _ _ _ (lv_sub hl [3, 4, 5, 1, 0] rfl) hW hw
          · have hw := hw.2 q
            refine lv_aload_n hx hb dX5_setupSum_74 rfl (lv_at hl 1 rfl) ?_
            refine lv_iload hx hb dX5_setupSum_75 (lv_at hl 0 rfl) ?_
            refine lv_iload_n hx hb dX5_setupSum_77 rfl (lv_at hl 2 rfl) ?_
            refine lv_iload_n hx hb dX5_setupSum_78 rfl (lv_at hl 3 rfl) ?_
            refine m_Vi (rest := [.int y3]) hE hT hW (kM_isOn l w _ r_3 y1 y2 F G hw) gM_isOn dM_isOn ⟨Nat.le_of_ble_eq_true rfl, Nat.le_of_ble_eq_true rfl, Nat.zero_le _, Nat.zero_le _⟩ rfl hl.1 rfl (Nat.le_of_ble_eq_true rfl) dX5_setupSum_79 (fun r_5 F9 G9 H locs hw hW => ?_)
            obtain ⟨eF9, eG9, hw⟩ := hw
            rw [eF9, eG9] at hW
            refine lv_if_eq (tgt := 106) hx hb dX5_setupSum_82 (by decide) (fun q => ?_) (fun q => ?_)
            · have hw := hw.1 q
              refine lv_iconst (v := (0 : Int32)) hx hb dX5_setupSum_106 (by decide) ?_
              refine lv_iadd hx hb dX5_setupSum_107 ?_
              refine lv_topi (fun x3_6 ex3_6 => ?_)
              have hw := hw x3_6 ex3_6
              refine lv_istore_n (lv' := [(3, .int x3_6), (5, .int r_3), (0, .ref (mp_h w)), (1, .int y1), (2, .int y2), (4, .int y4)]) hx hb dX5_setupSum_108 rfl hl (by decide) rfl (fun ls hl => ?_)
              refine lv_iload hx hb dX5_setupSum_109 (lv_at hl 1 rfl) ?_
              refine lv_istore (lv' := [(4, .int r_3), (3, .int x3_6), (5, .int r_3), (0, .ref (mp_h w)), (1, .int y1), (2, .int y2)]) hx hb dX5_setupSum_111 hl (by decide) rfl (fun ls hl => ?_)
              refine lv_goto (tgt := 33) hx hb dX5_setupSum_113 (by decide) ?_
              exact ih33 y1 y2 x3_6 r_3 F G _ _ _ (lv_sub hl [3, 4, 5, 1, 0] rfl) hW hw
            · have hw := hw.2 q
              refine lv_aload_n hx hb dX5_setupSum_85 rfl (lv_at hl 1 rfl) ?_
              refine lv_aload_n hx hb dX5_setupSum_86 rfl (lv_at hl 1 rfl) ?_
              refine lv_iload hx hb dX5_setupSum_87 (lv_at hl 5 rfl) ?_
              refine lv_iconst (v := (0 : Int32)) hx hb dX5_setupSum_89 (by decide) ?_
              refine m_Vi (rest := [.ref (mp_h w), .int y3]) hE hT hW (kM_of l w _ y4 (0 : Int32) F G hw) gM_of dM_of ⟨Nat.le_of_ble_eq_true rfl, Nat.le_of_ble_eq_true rfl, Nat.zero_le _, Nat.zero_le _⟩ rfl hl.1 rfl (Nat.le_of_ble_eq_true rfl) dX5_setupSum_90 (fun r_7 F9 G9 H locs hw hW => ?_)
              obtain ⟨eF9, eG9, hw⟩ := hw
              rw [eF9, eG9] at hW
              refine lv_aload_n hx hb dX5_setupSum_93 rfl (lv_at hl 1 rfl) ?_
              refine lv_iload hx hb dX5_setupSum_94 (lv_at hl 0 rfl) ?_
              refine lv_iconst (v := (0 : Int32)) hx hb dX5_setupSum_96 (by decide) ?_
              refine m_Vi (rest := [.int r_7, .ref (mp_h w), .int y3]) hE hT hW (kM_of l w _ r_3 (0 : Int32) F G hw) gM_of dM_of ⟨Nat.le_of_ble_eq_true rfl, Nat.le_of_ble_eq_true rfl, Nat.zero_le _, Nat.zero_le _⟩ rfl hl.1 rfl (Nat.le_of_ble_eq_true rfl) dX5_setupSum_97 (fun r_8 F9 G9 H locs hw hW => ?_)
              obtain ⟨eF9, eG9, hw⟩ := hw
              rw [eF9, eG9] at hW
              refine m_Vi (rest := [.int y3]) hE hT hW (kM_between l w _ r_7 r_8 F G hw) gM_between dM_between ⟨Nat.le_of_ble_eq_true rfl, Nat.le_of_ble_eq_true rfl, Nat.zero_le _, Nat.zero_le _⟩ rfl hl.1 rfl (Nat.le_of_ble_eq_true rfl) dX5_setupSum_100 (fun r_9 F9 G9 H locs hw hW => ?_)
              obtain ⟨eF9, eG9, hw⟩ := hw
              rw [eF9, eG9] at hW
              refine lv_goto (tgt := 107) hx hb dX5_setupSum_103 (by decide) ?_
              refine lv_iadd hx hb dX5_setupSum_107 ?_
              refine lv_topi (fun x3_10 ex3_10 => ?_)
              have hw := hw x3_10 ex3_10
              refine lv_istore_n (lv' := [(3, .int x3_10), (5, .int r_3), (0, .ref (mp_h w)), (1, .int y1), (2, .int y2), (4, .int y4)]) hx hb dX5_setupSum_108 rfl hl (by decide) rfl (fun ls hl => ?_)
              refine lv_iload hx hb dX5_setupSum_109 (lv_at hl 1 rfl) ?_
              refine lv_istore (lv' := [(4, .int r_3), (3, .int x3_10), (5, .int r_3), (0, .ref (mp_h w)), (1, .int y1), (2, .int y2)]) hx hb dX5_setupSum_111 hl (by decide) rfl (fun ls hl => ?_)
              refine lv_goto (tgt := 33) hx hb dX5_setupSum_113 (by decide) ?_
              exact ih33 y1 y2 x3_10 r_3 F G _ _ _ (lv_sub hl [3, 4, 5, 1, 0] rfl) hW hw
  unfold wM_setupSum at hw
  refine lv_aload_n hx hb dX5_setupSum_0 rfl (lv_at hl 0 rfl) ?_
  refine lv_aload_n hx hb dX5_setupSum_1 rfl (lv_at hl 0 rfl) ?_
  refine lv_iload_n hx hb dX5_setupSum_2 rfl (lv_at hl 1 rfl) ?_
  refine lv_iload_n hx hb dX5_setupSum_3 rfl (lv_at hl 2 rfl) ?_
  refine m_Vi (rest := [.ref (mp_h w)]) hE hT hW (kM_whyNotDay l w _ x1 x2 F G hw) gM_whyNotDay dM_whyNotDay ⟨Nat.le_of_ble_eq_true rfl, Nat.le_of_ble_eq_true rfl, Nat.zero_le _, Nat.zero_le _⟩ rfl hl.1 rfl (Nat.le_of_ble_eq_true rfl) dX5_setupSum_4 (fun r_11 F9 G9 H locs hw hW => ?_)
  obtain ⟨eF9, eG9, hw⟩ := hw
  rw [eF9, eG9] at hW
  refine m_put hx hb hown hts hT hW 0 (by decide) (hts _ q2129) rfl rfl (ty := .int) (x := r_11) rfl rfl rfl rfl dX5_setupSum_7 (fun F_12 H locs eF_12 hW => ?_)
  have hw := hw F_12 eF_12
  refine lv_aload_n hx hb dX5_setupSum_10 rfl (lv_at hl 0 rfl) ?_
  refine m_get hx hb hown hts hT hW 0 (by decide) (hts _ q2129) rfl (v := .int (F_12 0)) rfl dX5_setupSum_11 ?_
  refine lv_if_le (tgt := 19) hx hb dX5_setupSum_14 (by decide) (fun q => ?_) (fun q => ?_)
  · have hw := hw.1 q
    refine lv_iconst (v := (0 : Int32)) hx hb dX5_setupSum_19 (by decide) ?_
    refine lv_istore_n (lv' := [(3, .int (0 : Int32)), (0, .ref (mp_h w)), (1, .int x1), (2, .int x2)]) hx hb dX5_setupSum_20 rfl hl (by decide) rfl (fun ls hl => ?_)
    refine lv_aload_n hx hb dX5_setupSum_21 rfl (lv_at hl 1 rfl) ?_
    refine lv_iload_n hx hb dX5_setupSum_22 rfl (lv_at hl 2 rfl) ?_
    refine lv_sipush (v := (1440 : Int32)) hx hb dX5_setupSum_23 (by decide) ?_
    refine lv_iload_n hx hb dX5_setupSum_26 rfl (lv_at hl 3 rfl) ?_
    refine lv_imul hx hb dX5_setupSum_27 ?_
    refine m_Vi (rest := []) hE hT hW (kM_nextIn l w _ x1 ((1440 : Int32) * x2) F_12 G hw) gM_nextIn dM_nextIn ⟨Nat.le_of_ble_eq_true rfl, Nat.le_of_ble_eq_true rfl, Nat.zero_le _, Nat.zero_le _⟩ rfl hl.1 rfl (Nat.le_of_ble_eq_true rfl) dX5_setupSum_28 (fun r_13 F9 G9 H locs hw hW => ?_)
    obtain ⟨eF9, eG9, hw⟩ := hw
    rw [eF9, eG9] at hW
    refine lv_istore (lv' := [(4, .int r_13), (3, .int (0 : Int32)), (0, .ref (mp_h w)), (1, .int x1), (2, .int x2)]) hx hb dX5_setupSum_31 hl (by decide) rfl (fun ls hl => ?_)
    obtain ⟨n_14, hw⟩ := hw
    exact lp33 n_14 x1 x2 (0 : Int32) r_13 F_12 G _ _ _ (lv_sub hl [2, 3, 4, 1, 0] rfl) hW hw
  · have hw := hw.2 q
    refine lv_iconst (v := (0 : Int32)) hx hb dX5_setupSum_17 (by decide) ?_
    exact hQ _ _ _ _ _ trivial hw hW _ _ dX5_setupSum_18

/-! onDay -/
def wM_onDay_b5 (post : Int32 → MF → MG → Prop) (K5 : Int32 → Int32 → Int32 → Int32 → MF → MG → Prop) (y1 : Int32) (y2 : Int32) (y3 : Int32) (y4 : Int32) (F : MF) (G : MG) : Prop :=
  ((G 8 1) ≤ y4 → post y3 F G) ∧ (¬ (G 8 1) ≤ y4 → wM_isOn (fun r_1 => (r_1 = 0 → K5 y1 y2 y3 (y4 + (1 : Int32)) F G) ∧ (¬ r_1 = 0 → ((8 : Int32) ≤ y3 → K5 y1 y2 (y3 + (1 : Int32)) (y4 + (1 : Int32)) F G) ∧ (¬ (8 : Int32) ≤ y3 → wM_of (fun r_2 => vp_in y3 8 ∧ ∀ G_3 : MG, G_3 = mu G 25 (y3.toNatClampNeg) r_2 → K5 y1 y2 (y3 + (1 : Int32)) (y4 + (1 : Int32)) F G_3) y4 (0 : Int32) F G))) y4 y1 y2 F G)
def wM_onDay_l5 (post : Int32 → MF → MG → Prop) : Nat → Int32 → Int32 → Int32 → Int32 → MF → MG → Prop
  | 0 => fun _ _ _ _ _ _ => False
  | n + 1 => wM_onDay_b5 post (wM_onDay_l5 post n)
def wM_onDay (post : Int32 → MF → MG → Prop) (x1 : Int32) (x2 : Int32) (F : MF) (G : MG) : Prop :=
  ∃ n, wM_onDay_l5 post n x1 x2 (0 : Int32) (0 : Int32) F G
set_option maxHeartbeats 4000000 in
theorem kM_onDay (l : Launch) (w : MP) (post : Int32 → MF → MG → Prop) (x1 : Int32) (x2 : Int32) (F : MF) (G : MG) (hw : wM_onDay post x1 x2 F G) : m_Mi l w yX5_onDay cX5_onDay 5 .int 4 [.ref (mp_h w), .int x1, .int x2] F G post := by
  refine m_ofWi (by decide) rfl (Nat.le_of_ble_eq_true rfl) (fun _ => True) (fun _ _ => rfl) ?_
  intro p e s m args below meth c Q ls hA hW hQ
  obtain ⟨hE, hT, hl⟩ := hA
  obtain ⟨hx, hb, hml, hown, hts⟩ := id hE
  have hl : lv_has ls 5 [(0, .ref (mp_h w)), (1, .int x1), (2, .int x2)] := hl
  have lp5 : ∀ (n5 : Nat) (y1 : Int32) (y2 : Int32) (y3 : Int32) (y4 : Int32) (F : MF) (G : MG) (H : Heap) (locs : List Loc) (ls : Array Slot), lv_has ls 5 [(0, .ref (mp_h w)), (1, .int y1), (2, .int y2), (3, .int y3), (4, .int y4)] → m_W w s.heap F G H locs → wM_onDay_l5 post n5 y1 y2 y3 y4 F G → W p l e (mrm 4) s m args below meth c H locs 0 0 Q (F0 m 5 ls []) := by
    intro n5
    induction n5 with
    | zero => intro y1 y2 y3 y4 F G H locs ls hl hW hw; exact hw.elim
    | succ n5 ih5 =>
      intro y1 y2 y3 y4 F G H locs ls hl hW hw
      have hw : wM_onDay_b5 post (wM_onDay_l5 post n5) y1 y2 y3 y4 F G := hw
      unfold wM_onDay_b5 at hw
      refine lv_iload hx hb dX5_onDay_5 (lv_at hl 4 rfl) ?_
      refine lv_aload_n hx hb dX5_onDay_7 rfl (lv_at hl 0 rfl) ?_
      refine m_get hx hb hown hts hT hW 8 (by decide) (hts _ q2137) rfl (v := .ref (mp_a w 8)) rfl dX5_onDay_8 ?_
      refine lv_iconst (v := (1 : Int32)) hx hb dX5_onDay_11 (by decide) ?_
      refine m_iald hx hb hT hW (k := 8) (j := 1) (by decide) rfl (by unfold vp_in; decide) dX5_onDay_12 ?_
      refine lv_icmp_ge (tgt := 58) hx hb dX5_onDay_13 (by decide) (fun q => ?_) (fun q => ?_)
      · have hw := hw.1 q
        refine lv_iload_n hx hb dX5_onDay_58 rfl (lv_at hl 3 rfl) ?_
        exact hQ _ _ _ _ _ trivial hw hW _ _ dX5_onDay_59
      · have hw := hw.2 q
        refine lv_aload_n hx hb dX5_onDay_16 rfl (lv_at hl 0 rfl) ?_
        refine lv_iload hx hb dX5_onDay_17 (lv_at hl 4 rfl) ?_
        refine lv_iload_n hx hb dX5_onDay_19 rfl (lv_at hl 1 rfl) ?_
        refine lv_iload_n hx hb dX5_onDay_20 rfl (lv_at hl 2 rfl) ?_
        refine m_Vi (rest := []) hE hT hW (kM_isOn l w _ y4 y1 y2 F G hw) gM_isOn dM_isOn ⟨Nat.le_of_ble_eq_true rfl, Nat.le_of_ble_eq_true rfl, Nat.zero_le _, Nat.zero_le _⟩ rfl hl.1 rfl (Nat.le_of_ble_eq_true rfl) dX5_onDay_21 (fun r_1 F9 G9 H locs hw hW => ?_)
        obtain ⟨eF9, eG9, hw⟩ := hw
        rw [eF9, eG9] at hW
        refine lv_if_ne (tgt := 30) hx hb dX5_onDay_24 (by decide) (fun q => ?_) (fun q => ?_)
        · have hw := hw.2 q
          refine lv_iload_n hx hb dX5_onDay_30 rfl (lv_at hl 3 rfl) ?_
          refine lv_bipush (v := (8 : Int32)) hx hb dX5_onDay_31 (by decide) ?_
          refine lv_icmp_ge (tgt := 49) hx hb dX5_onDay_33 (by decide) (fun q => ?_) (fun q => ?_)
          · have hw := hw.1 q
            refine lv_iinc (v := (y3 + (1 : Int32))) (lv' := [(3, .int (y3 + (1 : Int32))), (0, .ref (mp_h w)), (1, .int y1), (2, .int y2), (4, .int y4)]) hx hb dX5_onDay_49 hl (k := 3) rfl rfl (by decide) rfl (fun ls hl => ?_)
            refine lv_iinc (v := (y4 + (1 : Int32))) (lv' := [(4, .int (y4 + (1 : Int32))), (3, .int (y3 + (1 : Int32))), (0, .ref (mp_h w)), (1, .int y1), (2, .int y2)]) hx hb dX5_onDay_52 hl (k := 4) rfl rfl (by decide) rfl (fun ls hl => ?_)
            refine lv_goto (tgt := 5) hx hb dX5_onDay_55 (by decide) ?_
            exact ih5 y1 y2 (y3 + (1 : Int32)) (y4 + (1 : Int32)) F G _ _ _ (lv_sub hl [2, 3, 4, 1, 0] rfl) hW hw
          · have hw := hw.2 q
            refine lv_aload_n hx hb dX5_onDay_36 rfl (lv_at hl 0 rfl) ?_
            refine m_get hx hb hown hts hT hW 25 (by decide) (hts _ q2154) rfl (v := .ref (mp_a w 25)) rfl dX5_onDay_37 ?_
            refine lv_iload_n hx hb dX5_onDay_40 rfl (lv_at hl 3 rfl) ?_
            refine lv_aload_n hx hb dX5_onDay_41 rfl (lv_at hl 0 rfl) ?_
            refine lv_iload hx hb dX5_onDay_42 (lv_at hl 4 rfl) ?_
            refine lv_iconst (v := (0 : Int32)) hx hb dX5_onDay_44 (by decide) ?_
            refine m_Vi (rest := [.int y3, .ref (mp_a w 25)]) hE hT hW (kM_of l w _ y4 (0 : Int32) F G hw) gM_of dM_of ⟨Nat.le_of_ble_eq_true rfl, Nat.le_of_ble_eq_true rfl, Nat.zero_le _, Nat.zero_le _⟩ rfl hl.1 rfl (Nat.le_of_ble_eq_true rfl) dX5_onDay_45 (fun r_2 F9 G9 H locs hw hW => ?_)
            obtain ⟨eF9, eG9, hw⟩ := hw
            rw [eF9, eG9] at hW
            obtain ⟨hi, hw⟩ := hw
            refine m_iast hx hb hT hW (k := 25) (j := (y3.toNatClampNeg)) rfl rfl hi dX5_onDay_48 (fun G_3 H locs eG_3 hW => ?_)
            have hw := hw G_3 eG_3
            refine lv_iinc (v := (y3 + (1 : Int32))) (lv' := [(3, .int (y3 + (1 : Int32))), (0, .ref (mp_h w)), (1, .int y1), (2, .int y2), (4, .int y4)]) hx hb dX5_onDay_49 hl (k := 3) rfl rfl (by decide) rfl (fun ls hl => ?_)
            refine lv_iinc (v := (y4 + (1 : Int32))) (lv' := [(4, .int (y4 + (1 : Int32))), (3, .int (y3 + (1 : Int32))), (0, .ref (mp_h w)), (1, .int y1), (2, .int y2)]) hx hb dX5_onDay_52 hl (k := 4) rfl rfl (by decide) rfl (fun ls hl => ?_)
            refine lv_goto (tgt := 5) hx hb dX5_onDay_55 (by decide) ?_
            exact ih5 y1 y2 (y3 + (1 : Int32)) (y4 + (1 : Int32)) F G_3 _ _ _ (lv_sub hl [2, 3, 4, 1, 0] rfl) hW hw
        · have hw := hw.1 q
          refine lv_goto (tgt := 52) hx hb dX5_onDay_27 (by decide) ?_
          refine lv_iinc (v := (y4 + (1 : Int32))) (lv' := [(4, .int (y4 + (1 : Int32))), (0, .ref (mp_h w)), (1, .int y1), (2, .int y2), (3, .int y3)]) hx hb dX5_onDay_52 hl (k := 4) rfl rfl (by decide) rfl (fun ls hl => ?_)
          refine lv_goto (tgt := 5) hx hb dX5_onDay_55 (by decide) ?_
          exact ih5 y1 y2 y3 (y4 + (1 : Int32)) F G _ _ _ (lv_sub hl [1, 2, 3, 4, 0] rfl) hW hw
  unfold wM_onDay at hw
  refine lv_iconst (v := (0 : Int32)) hx hb dX5_onDay_0 (by decide) ?_
  refine lv_istore_n (lv' := [(3, .int (0 : Int32)), (0, .ref (mp_h w)), (1, .int x1), (2, .int x2)]) hx hb dX5_onDay_1 rfl hl (by decide) rfl (fun ls hl => ?_)
  refine lv_iconst (v := (0 : Int32)) hx hb dX5_onDay_2 (by decide) ?_
  refine lv_istore (lv' := [(4, .int (0 : Int32)), (3, .int (0 : Int32)), (0, .ref (mp_h w)), (1, .int x1), (2, .int x2)]) hx hb dX5_onDay_3 hl (by decide) rfl (fun ls hl => ?_)
  obtain ⟨n_4, hw⟩ := hw
  exact lp5 n_4 x1 x2 (0 : Int32) (0 : Int32) F G _ _ _ (lv_sub hl [2, 3, 4, 1, 0] rfl) hW hw
theorem gM_onDay : GoodIn lw_all (wsV RX5 410 RX5 yX5_onDay (ws_ yX5_onDay cX5_onDay 5 (some .int))) := lw_V q2716 q2718 qs139 q154 q2719
theorem dM_onDay : yX5_onDay.cls = RX5 ∧ yX5_onDay.cls ≠ "java/lang/invoke/MethodHandle" ∧ yX5_onDay.cls ≠ "java/lang/invoke/VarHandle" ∧ (parseMethodDescriptor yX5_onDay.desc).map (fun d => d.parameters.length) = some 2 := by decide +kernel

/-! leastOf -/
def wM_leastOf_b24 (post : Int32 → Prop) (F : MF) (G : MG) (K24 : Int32 → Int32 → Int32 → Int32 → Int32 → Prop) (y2 : Int32) (y3 : Int32) (y4 : Int32) (y5 : Int32) (y6 : Int32) : Prop :=
  (y3 ≤ y6 → post y5) ∧ (¬ y3 ≤ y6 → (((y4 >>> (y6 &&& 31)) &&& (1 : Int32)) = (1 : Int32) → vp_in (((8 : Int32) * y4) + y6) 2048 ∧ vp_in y6 8 ∧ vp_in y2 8 ∧ wM_between (fun r_1 => ∀ x5_2 : Int32, x5_2 = (imin y5 ((G 26 ((((8 : Int32) * y4) + y6).toNatClampNeg)) + r_1)) → K24 y2 y3 y4 x5_2 (y6 + (1 : Int32))) (G 25 (y6.toNatClampNeg)) (G 25 (y2.toNatClampNeg)) F G) ∧ (¬ ((y4 >>> (y6 &&& 31)) &&& (1 : Int32)) = (1 : Int32) → K24 y2 y3 y4 y5 (y6 + (1 : Int32))))
def wM_leastOf_l24 (post : Int32 → Prop) (F : MF) (G : MG) : Nat → Int32 → Int32 → Int32 → Int32 → Int32 → Prop
  | 0 => fun _ _ _ _ _ => False
  | n + 1 => wM_leastOf_b24 post F G (wM_leastOf_l24 post F G n)
def wM_leastOf (post : Int32 → Prop) (x1 : Int32) (x2 : Int32) (x3 : Int32) (F : MF) (G : MG) : Prop :=
  ∀ x4_3 : Int32, x4_3 = (x1 &&& (((1 : Int32) <<< (x2 &&& 31)) ^^^ (-1 : Int32))) → (x4_3 = 0 → post (0 : Int32)) ∧ (¬ x4_3 = 0 → ∃ n, wM_leastOf_l24 post F G n x2 x3 x4_3 (2147483647 : Int32) (0 : Int32))
set_option maxHeartbeats 4000000 in
theorem kM_leastOf (l : Launch) (w : MP) (post : Int32 → Prop) (x1 : Int32) (x2 : Int32) (x3 : Int32) (F : MF) (G : MG) (hw : wM_leastOf post x1 x2 x3 F G) : m_Mi l w yX5_leastOf cX5_leastOf 7 .int 2 [.ref (mp_h w), .int x1, .int x2, .int x3] F G (fun r F1 G1 => F1 = F ∧ G1 = G ∧ post r) := by
  refine m_ofWi (by decide) rfl (Nat.le_of_ble_eq_true rfl) (fun _ => True) (fun _ _ => rfl) ?_
  intro p e s m args below meth c Q ls hA hW hQ
  obtain ⟨hE, hT, hl⟩ := hA
  obtain ⟨hx, hb, hml, hown, hts⟩ := id hE
  have hl : lv_has ls 7 [(0, .ref (mp_h w)), (1, .int x1), (2, .int x2), (3, .int x3)] := hl
  have lp24 : ∀ (n24 : Nat) (y2 : Int32) (y3 : Int32) (y4 : Int32) (y5 : Int32) (y6 : Int32) (H : Heap) (locs : List Loc) (ls : Array Slot), lv_has ls 7 [(0, .ref (mp_h w)), (2, .int y2), (3, .int y3), (4, .int y4), (5, .int y5), (6, .int y6)] → m_W w s.heap F G H locs → wM_leastOf_l24 post F G n24 y2 y3 y4 y5 y6 → W p l e (mrm 2) s m args below meth c H locs 0 0 Q (F0 m 24 ls []) := by
    intro n24
    induction n24 with
    | zero => intro y2 y3 y4 y5 y6 H locs ls hl hW hw; exact hw.elim
    | succ n24 ih24 =>
      intro y2 y3 y4 y5 y6 H locs ls hl hW hw
      have hw : wM_leastOf_b24 post F G (wM_leastOf_l24 post F G n24) y2 y3 y4 y5 y6 := hw
      unfold wM_leastOf_b24 at hw
      refine lv_iload hx hb dX5_leastOf_24 (lv_at hl 5 rfl) ?_
      refine lv_iload_n hx hb dX5_leastOf_26 rfl (lv_at hl 2 rfl) ?_
      refine lv_icmp_ge (tgt := 85) hx hb dX5_leastOf_27 (by decide) (fun q => ?_) (fun q => ?_)
      · have hw := hw.1 q
        refine lv_iload hx hb dX5_leastOf_85 (lv_at hl 4 rfl) ?_
        exact hQ _ _ _ _ _ trivial ⟨rfl, rfl, hw⟩ hW _ _ dX5_leastOf_87
      · have hw := hw.2 q
        refine lv_iload hx hb dX5_leastOf_30 (lv_at hl 3 rfl) ?_
        refine lv_iload hx hb dX5_leastOf_32 (lv_at hl 5 rfl) ?_
        refine lv_ishr hx hb dX5_leastOf_34 ?_
        refine lv_iconst (v := (1 : Int32)) hx hb dX5_leastOf_35 (by decide) ?_
        refine lv_iand hx hb dX5_leastOf_36 ?_
        refine lv_iconst (v := (1 : Int32)) hx hb dX5_leastOf_37 (by decide) ?_
        refine lv_icmp_ne (tgt := 79) hx hb dX5_leastOf_38 (by decide) (fun q => ?_) (fun q => ?_)
        · have hw := hw.2 q
          refine lv_iinc (v := (y6 + (1 : Int32))) (lv' := [(6, .int (y6 + (1 : Int32))), (0, .ref (mp_h w)), (2, .int y2), (3, .int y3), (4, .int y4), (5, .int y5)]) hx hb dX5_leastOf_79 hl (k := 5) rfl rfl (by decide) rfl (fun ls hl => ?_)
          refine lv_goto (tgt := 24) hx hb dX5_leastOf_82 (by decide) ?_
          exact ih24 y2 y3 y4 y5 (y6 + (1 : Int32)) _ _ _ (lv_sub hl [1, 2, 3, 4, 5, 0] rfl) hW hw
        · have hw := hw.1 q
          refine lv_iload hx hb dX5_leastOf_41 (lv_at hl 4 rfl) ?_
          refine lv_aload_n hx hb dX5_leastOf_43 rfl (lv_at hl 0 rfl) ?_
          refine m_get hx hb hown hts hT hW 26 (by decide) (hts _ q2155) rfl (v := .ref (mp_a w 26)) rfl dX5_leastOf_44 ?_
          refine lv_bipush (v := (8 : Int32)) hx hb dX5_leastOf_47 (by decide) ?_
          refine lv_iload hx hb dX5_leastOf_49 (lv_at hl 3 rfl) ?_
          refine lv_imul hx hb dX5_leastOf_51 ?_
          refine lv_iload hx hb dX5_leastOf_52 (lv_at hl 5 rfl) ?_
          refine lv_iadd hx hb dX5_leastOf_54 ?_
          obtain ⟨hi, hw⟩ := hw
          refine m_iald hx hb hT hW (k := 26) (j := ((((8 : Int32) * y4) + y6).toNatClampNeg)) rfl rfl hi dX5_leastOf_55 ?_
          refine lv_aload_n hx hb dX5_leastOf_56 rfl (lv_at hl 0 rfl) ?_
          refine lv_aload_n hx hb dX5_leastOf_57 rfl (lv_at hl 0 rfl) ?_
          refine m_get hx hb hown hts hT hW 25 (by decide) (hts _ q2154) rfl (v := .ref (mp_a w 25)) rfl dX5_leastOf_58 ?_
          refine lv_iload hx hb dX5_leastOf_61 (lv_at hl 5 rfl) ?_
          obtain ⟨hi, hw⟩ := hw
          refine m_iald hx hb hT hW (k := 25) (j := (y6.toNatClampNeg)) rfl rfl hi dX5_leastOf_63 ?_
          refine lv_aload_n hx hb dX5_leastOf_64 rfl (lv_at hl 0 rfl) ?_
          refine m_get hx hb hown hts hT hW 25 (by decide) (hts _ q2154) rfl (v := .ref (mp_a w 25)) rfl dX5_leastOf_65 ?_
          refine lv_iload_n hx hb dX5_leastOf_68 rfl (lv_at hl 1 rfl) ?_
          obtain ⟨hi, hw⟩ := hw
          refine m_iald hx hb hT hW (k := 25) (j := (y2.toNatClampNeg)) rfl rfl hi dX5_leastOf_69 ?_
          refine m_Vi (rest := [.int (G 26 ((((8 : Int32) * y4) + y6).toNatClampNeg)), .int y5]) hE hT hW (kM_between l w _ (G 25 (y6.toNatClampNeg)) (G 25 (y2.toNatClampNeg)) F G hw) gM_between dM_between ⟨Nat.le_of_ble_eq_true rfl, Nat.le_of_ble_eq_true rfl, Nat.zero_le _, Nat.zero_le _⟩ rfl hl.1 rfl (Nat.le_of_ble_eq_true rfl) dX5_leastOf_70 (fun r_1 F9 G9 H locs hw hW => ?_)
          obtain ⟨eF9, eG9, hw⟩ := hw
          rw [eF9, eG9] at hW
          refine lv_iadd hx hb dX5_leastOf_73 ?_
          refine m_min (rest := []) hE hl.1 (hts _ q2462) (hts _ q466) (hts _ q153) (hts _ q467) (Nat.le_of_ble_eq_true rfl) (Nat.le_of_ble_eq_true rfl) (Nat.zero_le _) (Nat.zero_le _) dX5_leastOf_74 ?_
          refine lv_topi (fun x5_2 ex5_2 => ?_)
          have hw := hw x5_2 ex5_2
          refine lv_istore (lv' := [(5, .int x5_2), (0, .ref (mp_h w)), (2, .int y2), (3, .int y3), (4, .int y4), (6, .int y6)]) hx hb dX5_leastOf_77 hl (by decide) rfl (fun ls hl => ?_)
          refine lv_iinc (v := (y6 + (1 : Int32))) (lv' := [(6, .int (y6 + (1 : Int32))), (5, .int x5_2), (0, .ref (mp_h w)), (2, .int y2), (3, .int y3), (4, .int y4)]) hx hb dX5_leastOf_79 hl (k := 5) rfl rfl (by decide) rfl (fun ls hl => ?_)
          refine lv_goto (tgt := 24) hx hb dX5_leastOf_82 (by decide) ?_
          exact ih24 y2 y3 y4 x5_2 (y6 + (1 : Int32)) _ _ _ (lv_sub hl [2, 3, 4, 5, 1, 0] rfl) hW hw
  unfold wM_leastOf at hw
  refine lv_iload_n hx hb dX5_leastOf_0 rfl (lv_at hl 1 rfl) ?_
  refine lv_iconst (v := (1 : Int32)) hx hb dX5_leastOf_1 (by decide) ?_
  refine lv_iload_n hx hb dX5_leastOf_2 rfl (lv_at hl 2 rfl) ?_
  refine lv_ishl hx hb dX5_leastOf_3 ?_
  refine lv_iconst (v := (-1 : Int32)) hx hb dX5_leastOf_4 (by decide) ?_
  refine lv_ixor hx hb dX5_leastOf_5 ?_
  refine lv_iand hx hb dX5_leastOf_6 ?_
  refine lv_topi (fun x4_3 ex4_3 => ?_)
  have hw := hw x4_3 ex4_3
  refine lv_istore (lv' := [(4, .int x4_3), (0, .ref (mp_h w)), (1, .int x1), (2, .int x2), (3, .int x3)]) hx hb dX5_leastOf_7 hl (by decide) rfl (fun ls hl => ?_)
  refine lv_iload hx hb dX5_leastOf_9 (lv_at hl 0 rfl) ?_
  refine lv_if_ne (tgt := 16) hx hb dX5_leastOf_11 (by decide) (fun q => ?_) (fun q => ?_)
  · have hw := hw.2 q
    refine lv_ldcw hx hb hown (hts _ q2720) dX5_leastOf_16 ?_
    refine lv_istore (lv' := [(5, .int (2147483647 : Int32)), (4, .int x4_3), (0, .ref (mp_h w)), (1, .int x1), (2, .int x2), (3, .int x3)]) hx hb dX5_leastOf_19 hl (by decide) rfl (fun ls hl => ?_)
    refine lv_iconst (v := (0 : Int32)) hx hb dX5_leastOf_21 (by decide) ?_
    refine lv_istore (lv' := [(6, .int (0 : Int32)), (5, .int (2147483647 : Int32)), (4, .int x4_3), (0, .ref (mp_h w)), (1, .int x1), (2, .int x2), (3, .int x3)]) hx hb dX5_leastOf_22 hl (by decide) rfl (fun ls hl => ?_)
    obtain ⟨n_4, hw⟩ := hw
    exact lp24 n_4 x2 x3 x4_3 (2147483647 : Int32) (0 : Int32) _ _ _ (lv_sub hl [3, 5, 6, 2, 1, 0] rfl) hW hw
  · have hw := hw.1 q
    refine lv_iconst (v := (0 : Int32)) hx hb dX5_leastOf_14 (by decide) ?_
    exact hQ _ _ _ _ _ trivial ⟨rfl, rfl, hw⟩ hW _ _ dX5_leastOf_15
theorem gM_leastOf : GoodIn lw_all (wsV RX5 413 RX5 yX5_leastOf (ws_ yX5_leastOf cX5_leastOf 7 (some .int))) := lw_V q2721 q2723 qs140 q154 q2724
theorem dM_leastOf : yX5_leastOf.cls = RX5 ∧ yX5_leastOf.cls ≠ "java/lang/invoke/MethodHandle" ∧ yX5_leastOf.cls ≠ "java/lang/invoke/VarHandle" ∧ (parseMethodDescriptor yX5_leastOf.desc).map (fun d => d.parameters.length) = some 3 := by decide +kernel

/-! leastSetup -/
def wM_leastSetup_b71 (post : Int32 → MF → MG → Prop) (K61 : Int32 → Int32 → Int32 → Int32 → MF → MG → Prop) (K71 : Int32 → Int32 → Int32 → Int32 → Int32 → MF → MG → Prop) (y3 : Int32) (y4 : Int32) (y5 : Int32) (y6 : Int32) (y7 : Int32) (F : MF) (G : MG) : Prop :=
  (y3 ≤ y7 → K61 y3 y4 y5 (y6 + (1 : Int32)) F G) ∧ (¬ y3 ≤ y7 → (((y6 >>> (y7 &&& 31)) &&& (1 : Int32)) = 0 → K71 y3 y4 y5 y6 (y7 + (1 : Int32)) F G) ∧ (¬ ((y6 >>> (y7 &&& 31)) &&& (1 : Int32)) = 0 → wM_leastOf (fun r_1 => vp_in (((8 : Int32) * y6) + y7) 2048 ∧ ∀ G_2 : MG, G_2 = mu G 26 ((((8 : Int32) * y6) + y7).toNatClampNeg) r_1 → (y6 = y4 → vp_in (((8 : Int32) * y6) + y7) 2048 ∧ ∀ x5_3 : Int32, x5_3 = (imin y5 (G_2 26 ((((8 : Int32) * y6) + y7).toNatClampNeg))) → K71 y3 y4 x5_3 y6 (y7 + (1 : Int32)) F G_2) ∧ (¬ y6 = y4 → K71 y3 y4 y5 y6 (y7 + (1 : Int32)) F G_2)) y6 y7 y3 F G))
def wM_leastSetup_l71 (post : Int32 → MF → MG → Prop) (K61 : Int32 → Int32 → Int32 → Int32 → MF → MG → Prop) : Nat → Int32 → Int32 → Int32 → Int32 → Int32 → MF → MG → Prop
  | 0 => fun _ _ _ _ _ _ _ => False
  | n + 1 => wM_leastSetup_b71 post K61 (wM_leastSetup_l71 post K61 n)
def wM_leastSetup_b61 (post : Int32 → MF → MG → Prop) (K61 : Int32 → Int32 → Int32 → Int32 → MF → MG → Prop) (y3 : Int32) (y4 : Int32) (y5 : Int32) (y6 : Int32) (F : MF) (G : MG) : Prop :=
  (y4 < y6 → post y5 F G) ∧ (¬ y4 < y6 → ∃ n, wM_leastSetup_l71 post K61 n y3 y4 y5 y6 (0 : Int32) F G)
def wM_leastSetup_l61 (post : Int32 → MF → MG → Prop) : Nat → Int32 → Int32 → Int32 → Int32 → MF → MG → Prop
  | 0 => fun _ _ _ _ _ _ => False
  | n + 1 => wM_leastSetup_b61 post (wM_leastSetup_l61 post n)
def wM_leastSetup (post : Int32 → MF → MG → Prop) (x1 : Int32) (x2 : Int32) (F : MF) (G : MG) : Prop :=
  wM_whyNotDay (fun r_5 => ∀ F_6 : MF, F_6 = upd F 0 r_5 → ((F_6 0) ≤ 0 → wM_onDay (fun r_7 F_8 G_9 => (r_7 ≤ (8 : Int32) → ∀ x4_10 : Int32, x4_10 = (((1 : Int32) <<< (r_7 &&& 31)) - (1 : Int32)) → (r_7 = 0 → ∃ n, wM_leastSetup_l61 post n r_7 x4_10 (0 : Int32) (1 : Int32) F_8 G_9) ∧ (¬ r_7 = 0 → ∃ n, wM_leastSetup_l61 post n r_7 x4_10 (2147483647 : Int32) (1 : Int32) F_8 G_9)) ∧ (¬ r_7 ≤ (8 : Int32) → wM_fails (fun r_13 F_14 G_15 => post r_13 F_14 G_15) (3 : Int32) F_8 G_9)) x1 x2 F_6 G) ∧ (¬ (F_6 0) ≤ 0 → post (0 : Int32) F_6 G)) x1 x2 F G
set_option maxHeartbeats 4000000 in
theorem kM_leastSetup (l : Launch) (w : MP) (post : Int32 → MF → MG → Prop) (x1 : Int32) (x2 : Int32) (F : MF) (G : MG) (hw : wM_leastSetup post x1 x2 F G) : m_Mi l w yX5_leastSetup cX5_leastSetup 8 .int 5 [.ref (mp_h w), .int x1, .int x2] F G post := by
  refine m_ofWi (by decide) rfl (Nat.le_of_ble_eq_true rfl) (fun _ => True) (fun _ _ => rfl) ?_
  intro p e s m args below meth c Q ls hA hW hQ
  obtain ⟨hE, hT, hl⟩ := hA
  obtain ⟨hx, hb, hml, hown, hts⟩ := id hE
  have hl : lv_has ls 8 [(0, .ref (mp_h w)), (1, .int x1), (2, .int x2)] := hl
  have lp61 : ∀ (n61 : Nat) (y3 : Int32) (y4 : Int32) (y5 : Int32) (y6 : Int32) (F : MF) (G : MG) (H : Heap) (locs : List Loc) (ls : Array Slot), lv_has ls 8 [(0, .ref (mp_h w)), (3, .int y3), (4, .int y4), (5, .int y5), (6, .int y6)] → m_W w s.heap F G H locs → wM_leastSetup_l61 post n61 y3 y4 y5 y6 F G → W p l e (mrm 5) s m args below meth c H locs 0 0 Q (F0 m 61 ls []) := by
    intro n61
    induction n61 with
    | zero => intro y3 y4 y5 y6 F G H locs ls hl hW hw; exact hw.elim
    | succ n61 ih61 =>
      have lp71 : ∀ (n71 : Nat) (y3 : Int32) (y4 : Int32) (y5 : Int32) (y6 : Int32) (y7 : Int32) (F : MF) (G : MG) (H : Heap) (locs : List Loc) (ls : Array Slot), lv_has ls 8 [(0, .ref (mp_h w)), (3, .int y3), (4, .int y4), (5, .int y5), (6, .int y6), (7, .int y7)] → m_W w s.heap F G H locs → wM_leastSetup_l71 post (wM_leastSetup_l61 post n61) n71 y3 y4 y5 y6 y7 F G → W p l e (mrm 5) s m args below meth c H locs 0 0 Q (F0 m 71 ls []) := by
        intro n71
        induction n71 with
        | zero => intro y3 y4 y5 y6 y7 F G H locs ls hl hW hw; exact hw.elim
        | succ n71 ih71 =>
          intro y3 y4 y5 y6 y7 F G H locs ls hl hW hw
          have hw : wM_leastSetup_b71 post (wM_leastSetup_l61 post n61) (wM_leastSetup_l71 post (wM_leastSetup_l61 post n61) n71) y3 y4 y5 y6 y7 F G := hw
          unfold wM_leastSetup_b71 at hw
          refine lv_iload hx hb dX5_leastSetup_71 (lv_at hl 5 rfl) ?_
          refine lv_iload_n hx hb dX5_leastSetup_73 rfl (lv_at hl 1 rfl) ?_
          refine lv_icmp_ge (tgt := 150) hx hb dX5_leastSetup_74 (by decide) (fun q => ?_) (fun q => ?_)
          · have hw := hw.1 q
            refine lv_iinc (v := (y6 + (1 : Int32))) (lv' := [(6, .int (y6 + (1 : Int32))), (0, .ref (mp_h w)), (3, .int y3), (4, .int y4), (5, .int y5), (7, .int y7)]) hx hb dX5_leastSetup_150 hl (k := 4) rfl rfl (by decide) rfl (fun ls hl => ?_)
            refine lv_goto (tgt := 61) hx hb dX5_leastSetup_153 (by decide) ?_
            exact ih61 y3 y4 y5 (y6 + (1 : Int32)) F G _ _ _ (lv_sub hl [1, 2, 3, 4, 0] rfl) hW hw
          · have hw := hw.2 q
            refine lv_iload hx hb dX5_leastSetup_77 (lv_at hl 4 rfl) ?_
            refine lv_iload hx hb dX5_leastSetup_79 (lv_at hl 5 rfl) ?_
            refine lv_ishr hx hb dX5_leastSetup_81 ?_
            refine lv_iconst (v := (1 : Int32)) hx hb dX5_leastSetup_82 (by decide) ?_
            refine lv_iand hx hb dX5_leastSetup_83 ?_
            refine lv_if_ne (tgt := 90) hx hb dX5_leastSetup_84 (by decide) (fun q => ?_) (fun q => ?_)
            · have hw := hw.2 q
              refine lv_aload_n hx hb dX5_leastSetup_90 rfl (lv_at hl 0 rfl) ?_
              refine m_get hx hb hown hts hT hW 26 (by decide) (hts _ q2155) rfl (v := .ref (mp_a w 26)) rfl dX5_leastSetup_91 ?_
              refine lv_bipush (v := (8 : Int32)) hx hb dX5_leastSetup_94 (by decide) ?_
              refine lv_iload hx hb dX5_leastSetup_96 (lv_at hl 4 rfl) ?_
              refine lv_imul hx hb dX5_leastSetup_98 ?_
              refine lv_iload hx hb dX5_leastSetup_99 (lv_at hl 5 rfl) ?_
              refine lv_iadd hx hb dX5_leastSetup_101 ?_
              refine lv_aload_n hx hb dX5_leastSetup_102 rfl (lv_at hl 0 rfl) ?_
              refine lv_iload hx hb dX5_leastSetup_103 (lv_at hl 4 rfl) ?_
              refine lv_iload hx hb dX5_leastSetup_105 (lv_at hl 5 rfl) ?_
              refine lv_iload_n hx hb dX5_leastSetup_107 rfl (lv_at hl 1 rfl) ?_
              refine m_Vi (rest := [.int (((8 : Int32) * y6) + y7), .ref (mp_a w 26)]) hE hT hW (kM_leastOf l w _ y6 y7 y3 F G hw) gM_leastOf dM_leastOf ⟨Nat.le_of_ble_eq_true rfl, Nat.le_of_ble_eq_true rfl, Nat.zero_le _, Nat.zero_le _⟩ rfl hl.1 rfl (Nat.le_of_ble_eq_true rfl) dX5_leastSetup_108 (fun r_1 F9 G9 H locs hw hW => ?_)
              obtain ⟨eF9, eG9, hw⟩ := hw
              rw [eF9, eG9] at hW
              obtain ⟨hi, hw⟩ := hw
              refine m_iast hx hb hT hW (k := 26) (j := ((((8 : Int32) * y6) + y7).toNatClampNeg)) rfl rfl hi dX5_leastSetup_111 (fun G_2 H locs eG_2 hW => ?_)
              have hw := hw G_2 eG_2
              refine lv_iload hx hb dX5_leastSetup_112 (lv_at hl 4 rfl) ?_
              refine lv_iload hx hb dX5_leastSetup_114 (lv_at hl 2 rfl) ?_
              refine lv_icmp_ne (tgt := 140) hx hb dX5_leastSetup_116 (by decide) (fun q => ?_) (fun q => ?_)
              · have hw := hw.2 q
                refine lv_iload hx hb dX5_leastSetup_140 (lv_at hl 3 rfl) ?_
                refine lv_istore (lv' := [(5, .int y5), (0, .ref (mp_h w)), (3, .int y3), (4, .int y4), (6, .int y6), (7, .int y7)]) hx hb dX5_leastSetup_142 hl (by decide) rfl (fun ls hl => ?_)
                refine lv_iinc (v := (y7 + (1 : Int32))) (lv' := [(7, .int (y7 + (1 : Int32))), (5, .int y5), (0, .ref (mp_h w)), (3, .int y3), (4, .int y4), (6, .int y6)]) hx hb dX5_leastSetup_144 hl (k := 5) rfl rfl (by decide) rfl (fun ls hl => ?_)
                refine lv_goto (tgt := 71) hx hb dX5_leastSetup_147 (by decide) ?_
                exact ih71 y3 y4 y5 y6 (y7 + (1 : Int32)) F G_2 _ _ _ (lv_sub hl [2, 3, 4, 1, 5, 0] rfl) hW hw
              · have hw := hw.1 q
                refine lv_iload hx hb dX5_leastSetup_119 (lv_at hl 3 rfl) ?_
                refine lv_aload_n hx hb dX5_leastSetup_121 rfl (lv_at hl 0 rfl) ?_
                refine m_get hx hb hown hts hT hW 26 (by decide) (hts _ q2155) rfl (v := .ref (mp_a w 26)) rfl dX5_leastSetup_122 ?_
                refine lv_bipush (v := (8 : Int32)) hx hb dX5_leastSetup_125 (by decide) ?_
                refine lv_iload hx hb dX5_leastSetup_127 (lv_at hl 4 rfl) ?_
                refine lv_imul hx hb dX5_leastSetup_129 ?_
                refine lv_iload hx hb dX5_leastSetup_130 (lv_at hl 5 rfl) ?_
                refine lv_iadd hx hb dX5_leastSetup_132 ?_
                obtain ⟨hi, hw⟩ := hw
                refine m_iald hx hb hT hW (k := 26) (j := ((((8 : Int32) * y6) + y7).toNatClampNeg)) rfl rfl hi dX5_leastSetup_133 ?_
                refine m_min (rest := []) hE hl.1 (hts _ q2462) (hts _ q466) (hts _ q153) (hts _ q467) (Nat.le_of_ble_eq_true rfl) (Nat.le_of_ble_eq_true rfl) (Nat.zero_le _) (Nat.zero_le _) dX5_leastSetup_134 ?_
                refine lv_goto (tgt := 142) hx hb dX5_leastSetup_137 (by decide) ?_
                refine lv_topi (fun x5_3 ex5_3 => ?_)
                have hw := hw x5_3 ex5_3
                refine lv_istore (lv' := [(5, .int x5_3), (0, .ref (mp_h w)), (3, .int y3), (4, .int y4), (6, .int y6), (7, .int y7)]) hx hb dX5_leastSetup_142 hl (by decide) rfl (fun ls hl => ?_)
                refine lv_iinc (v := (y7 + (1 : Int32))) (lv' := [(7, .int (y7 + (1 : Int32))), (5, .int x5_3), (0, .ref (mp_h w)), (3, .int y3), (4, .int y4), (6, .int y6)]) hx hb dX5_leastSetup_144 hl (k := 5) rfl rfl (by decide) rfl (fun ls hl => ?_)
                refine lv_goto (tgt := 71) hx hb dX5_leastSetup_147 (by decide) ?_
                exact ih71 y3 y4 x5_3 y6 (y7 + (1 : Int32)) F G_2 _ _ _ (lv_sub hl [2, 3, 4, 1, 5, 0] rfl) hW hw
            · have hw := hw.1 q
              refine lv_goto (tgt := 144) hx hb dX5_leastSetup_87 (by decide) ?_
              refine lv_iinc (v := (y7 + (1 : Int32))) (lv' := [(7, .int (y7 + (1 : Int32))), (0, .ref (mp_h w)), (3, .int y3), (4, .int y4), (5, .int y5), (6, .int y6)]) hx hb dX5_leastSetup_144 hl (k := 5) rfl rfl (by decide) rfl (fun ls hl => ?_)
              refine lv_goto (tgt := 71) hx hb dX5_leastSetup_147 (by decide) ?_
              exact ih71 y3 y4 y5 y6 (y7 + (1 : Int32)) F G _ _ _ (lv_sub hl [1, 2, 3, 4, 5, 0] rfl) hW hw
      intro y3 y4 y5 y6 F G H locs ls hl hW hw
      have hw : wM_leastSetup_b61 post (wM_leastSetup_l61 post n61) y3 y4 y5 y6 F G := hw
      unfold wM_leastSetup_b61 at hw
      refine lv_iload hx hb dX5_leastSetup_61 (lv_at hl 4 rfl) ?_
      refine lv_iload hx hb dX5_leastSetup_63 (lv_at hl 2 rfl) ?_
      refine lv_icmp_gt (tgt := 156) hx hb dX5_leastSetup_65 (by decide) (fun q => ?_) (fun q => ?_)
      · have hw := hw.1 q
        refine lv_iload hx hb dX5_leastSetup_156 (lv_at hl 3 rfl) ?_
        exact hQ _ _ _ _ _ trivial hw hW _ _ dX5_leastSetup_158
      · have hw := hw.2 q
        refine lv_iconst (v := (0 : Int32)) hx hb dX5_leastSetup_68 (by decide) ?_
        refine lv_istore (lv' := [(7, .int (0 : Int32)), (0, .ref (mp_h w)), (3, .int y3), (4, .int y4), (5, .int y5), (6, .int y6)]) hx hb dX5_leastSetup_69 hl (by decide) rfl (fun ls hl => ?_)
        obtain ⟨n_4, hw⟩ := hw
        exact lp71 n_4 y3 y4 y5 y6 (0 : Int32) F G _ _ _ (lv_sub hl [1, 2, 3, 4, 5, 0] rfl) hW hw
  unfold wM_leastSetup at hw
  refine lv_aload_n hx hb dX5_leastSetup_0 rfl (lv_at hl 0 rfl) ?_
  refine lv_aload_n hx hb dX5_leastSetup_1 rfl (lv_at hl 0 rfl) ?_
  refine lv_iload_n hx hb dX5_leastSetup_2 rfl (lv_at hl 1 rfl) ?_
  refine lv_iload_n hx hb dX5_leastSetup_3 rfl (lv_at hl 2 rfl) ?_
  refine m_Vi (rest := [.ref (mp_h w)]) hE hT hW (kM_whyNotDay l w _ x1 x2 F G hw) gM_whyNotDay dM_whyNotDay ⟨Nat.le_of_ble_eq_true rfl, Nat.le_of_ble_eq_true rfl, Nat.zero_le _, Nat.zero_le _⟩ rfl hl.1 rfl (Nat.le_of_ble_eq_true rfl) dX5_leastSetup_4 (fun r_5 F9 G9 H locs hw hW => ?_)
  obtain ⟨eF9, eG9, hw⟩ := hw
  rw [eF9, eG9] at hW
  refine m_put hx hb hown hts hT hW 0 (by decide) (hts _ q2129) rfl rfl (ty := .int) (x := r_5) rfl rfl rfl rfl dX5_leastSetup_7 (fun F_6 H locs eF_6 hW => ?_)
  have hw := hw F_6 eF_6
  refine lv_aload_n hx hb dX5_leastSetup_10 rfl (lv_at hl 0 rfl) ?_
  refine m_get hx hb hown hts hT hW 0 (by decide) (hts _ q2129) rfl (v := .int (F_6 0)) rfl dX5_leastSetup_11 ?_
  refine lv_if_le (tgt := 19) hx hb dX5_leastSetup_14 (by decide) (fun q => ?_) (fun q => ?_)
  · have hw := hw.1 q
    refine lv_aload_n hx hb dX5_leastSetup_19 rfl (lv_at hl 0 rfl) ?_
    refine lv_iload_n hx hb dX5_leastSetup_20 rfl (lv_at hl 1 rfl) ?_
    refine lv_iload_n hx hb dX5_leastSetup_21 rfl (lv_at hl 2 rfl) ?_
    refine m_Vi (rest := []) hE hT hW (kM_onDay l w _ x1 x2 F_6 G hw) gM_onDay dM_onDay ⟨Nat.le_of_ble_eq_true rfl, Nat.le_of_ble_eq_true rfl, Nat.zero_le _, Nat.zero_le _⟩ rfl hl.1 rfl (Nat.le_of_ble_eq_true rfl) dX5_leastSetup_22 (fun r_7 F_8 G_9 H locs hw hW => ?_)
    refine lv_istore_n (lv' := [(3, .int r_7), (0, .ref (mp_h w)), (1, .int x1), (2, .int x2)]) hx hb dX5_leastSetup_25 rfl hl (by decide) rfl (fun ls hl => ?_)
    refine lv_iload_n hx hb dX5_leastSetup_26 rfl (lv_at hl 0 rfl) ?_
    refine lv_bipush (v := (8 : Int32)) hx hb dX5_leastSetup_27 (by decide) ?_
    refine lv_icmp_le (tgt := 38) hx hb dX5_leastSetup_29 (by decide) (fun q => ?_) (fun q => ?_)
    · have hw := hw.1 q
      refine lv_iconst (v := (1 : Int32)) hx hb dX5_leastSetup_38 (by decide) ?_
      refine lv_iload_n hx hb dX5_leastSetup_39 rfl (lv_at hl 0 rfl) ?_
      refine lv_ishl hx hb dX5_leastSetup_40 ?_
      refine lv_iconst (v := (1 : Int32)) hx hb dX5_leastSetup_41 (by decide) ?_
      refine lv_isub hx hb dX5_leastSetup_42 ?_
      refine lv_topi (fun x4_10 ex4_10 => ?_)
      have hw := hw x4_10 ex4_10
      refine lv_istore (lv' := [(4, .int x4_10), (3, .int r_7), (0, .ref (mp_h w)), (1, .int x1), (2, .int x2)]) hx hb dX5_leastSetup_43 hl (by decide) rfl (fun ls hl => ?_)
      refine lv_iload_n hx hb dX5_leastSetup_45 rfl (lv_at hl 1 rfl) ?_
      refine lv_if_ne (tgt := 53) hx hb dX5_leastSetup_46 (by decide) (fun q => ?_) (fun q => ?_)
      · have hw := hw.2 q
        refine lv_ldcw hx hb hown (hts _ q2720) dX5_leastSetup_53 ?_
        refine lv_istore (lv' := [(5, .int (2147483647 : Int32)), (4, .int x4_10), (3, .int r_7), (0, .ref (mp_h w)), (1, .int x1), (2, .int x2)]) hx hb dX5_leastSetup_56 hl (by decide) rfl (fun ls hl => ?_)
        refine lv_iconst (v := (1 : Int32)) hx hb dX5_leastSetup_58 (by decide) ?_
        refine lv_istore (lv' := [(6, .int (1 : Int32)), (5, .int (2147483647 : Int32)), (4, .int x4_10), (3, .int r_7), (0, .ref (mp_h w)), (1, .int x1), (2, .int x2)]) hx hb dX5_leastSetup_59 hl (by decide) rfl (fun ls hl => ?_)
        obtain ⟨n_11, hw⟩ := hw
        exact lp61 n_11 r_7 x4_10 (2147483647 : Int32) (1 : Int32) F_8 G_9 _ _ _ (lv_sub hl [4, 3, 2, 1, 0] rfl) hW hw
      · have hw := hw.1 q
        refine lv_iconst (v := (0 : Int32)) hx hb dX5_leastSetup_49 (by decide) ?_
        refine lv_goto (tgt := 56) hx hb dX5_leastSetup_50 (by decide) ?_
        refine lv_istore (lv' := [(5, .int (0 : Int32)), (4, .int x4_10), (3, .int r_7), (0, .ref (mp_h w)), (1, .int x1), (2, .int x2)]) hx hb dX5_leastSetup_56 hl (by decide) rfl (fun ls hl => ?_)
        refine lv_iconst (v := (1 : Int32)) hx hb dX5_leastSetup_58 (by decide) ?_
        refine lv_istore (lv' := [(6, .int (1 : Int32)), (5, .int (0 : Int32)), (4, .int x4_10), (3, .int r_7), (0, .ref (mp_h w)), (1, .int x1), (2, .int x2)]) hx hb dX5_leastSetup_59 hl (by decide) rfl (fun ls hl => ?_)
        obtain ⟨n_12, hw⟩ := hw
        exact lp61 n_12 r_7 x4_10 (0 : Int32) (1 : Int32) F_8 G_9 _ _ _ (lv_sub hl [4, 3, 2, 1, 0] rfl) hW hw
    · have hw := hw.2 q
      refine lv_aload_n hx hb dX5_leastSetup_32 rfl (lv_at hl 1 rfl) ?_
      refine lv_iconst (v := (3 : Int32)) hx hb dX5_leastSetup_33 (by decide) ?_
      refine m_Vi (rest := []) hE hT hW (kM_fails l w _ (3 : Int32) F_8 G_9 hw) gM_fails dM_fails ⟨Nat.le_of_ble_eq_true rfl, Nat.le_of_ble_eq_true rfl, Nat.zero_le _, Nat.zero_le _⟩ rfl hl.1 rfl (Nat.le_of_ble_eq_true rfl) dX5_leastSetup_34 (fun r_13 F_14 G_15 H locs hw hW => ?_)
      exact hQ _ _ _ _ _ trivial hw hW _ _ dX5_leastSetup_37
  · have hw := hw.2 q
    refine lv_iconst (v := (0 : Int32)) hx hb dX5_leastSetup_17 (by decide) ?_
    exact hQ _ _ _ _ _ trivial hw hW _ _ dX5_leastSetup_18

/-! nextBooking -/
def wM_nextBooking_j30 (post : Int32 → MF → MG → Prop) (y1 : Int32) (y2 : Int32) (z1 : Int32) (F : MF) (G : MG) : Prop :=
  ∀ F_1 : MF, F_1 = upd F 0 z1 → ((F_1 0) ≤ 0 → wM_nextIn (fun r_2 => (r_2 = (-1 : Int32) → wM_fails (fun r_3 F_4 G_5 => post r_3 F_4 G_5) (3 : Int32) F_1 G) ∧ (¬ r_2 = (-1 : Int32) → post r_2 F_1 G)) y1 y2 F_1 G) ∧ (¬ (F_1 0) ≤ 0 → post (0 : Int32) F_1 G)
def wM_nextBooking (post : Int32 → MF → MG → Prop) (x1 : Int32) (x2 : Int32) (F : MF) (G : MG) : Prop :=
  wM_isHall (fun r_6 => (r_6 = 0 → wM_nextBooking_j30 post x1 x2 (1 : Int32) F G) ∧ (¬ r_6 = 0 → wM_isIn (fun r_7 => (r_7 = 0 → wM_nextBooking_j30 post x1 x2 (2 : Int32) F G) ∧ (¬ r_7 = 0 → wM_nextBooking_j30 post x1 x2 (0 : Int32) F G)) ((x2).toInt64) (0 : Int64) (86399 : Int64) F G)) x1 F G
set_option maxHeartbeats 4000000 in
theorem kM_nextBooking (l : Launch) (w : MP) (post : Int32 → MF → MG → Prop) (x1 : Int32) (x2 : Int32) (F : MF) (G : MG) (hw : wM_nextBooking post x1 x2 F G) : m_Mi l w yX5_nextBooking cX5_nextBooking 4 .int 4 [.ref (mp_h w), .int x1, .int x2] F G post := by
  refine m_ofWi (by decide) rfl (Nat.le_of_ble_eq_true rfl) (fun _ => True) (fun _ _ => rfl) ?_
  intro p e s m args below meth c Q ls hA hW hQ
  obtain ⟨hE, hT, hl⟩ := hA
  obtain ⟨hx, hb, hml, hown, hts⟩ := id hE
  have hl : lv_has ls 4 [(0, .ref (mp_h w)), (1, .int x1), (2, .int x2)] := hl
  have jn30 : ∀ (y1 : Int32) (y2 : Int32) (z1 : Int32) (F : MF) (G : MG) (H : Heap) (locs : List Loc) (ls : Array Slot), lv_has ls 4 [(0, .ref (mp_h w)), (1, .int y1), (2, .int y2)] → m_W w s.heap F G H locs → wM_nextBooking_j30 post y1 y2 z1 F G → W p l e (mrm 4) s m args below meth c H locs 0 0 Q (F0 m 30 ls [.int z1, .ref (mp_h w)]) := by
    intro y1 y2 z1 F G H locs ls hl hW hw
    unfold wM_nextBooking_j30 at hw
    refine m_put hx hb hown hts hT hW 0 (by decide) (hts _ q2129) rfl rfl (ty := .int) (x := z1) rfl rfl rfl rfl dX5_nextBooking_30 (fun F_1 H locs eF_1 hW => ?_)
    have hw := hw F_1 eF_1
    refine lv_aload_n hx hb dX5_nextBooking_33 rfl (lv_at hl 0 rfl) ?_
    refine m_get hx hb hown hts hT hW 0 (by decide) (hts _ q2129) rfl (v := .int (F_1 0)) rfl dX5_nextBooking_34 ?_
    refine lv_if_le (tgt := 42) hx hb dX5_nextBooking_37 (by decide) (fun q => ?_) (fun q => ?_)
    · have hw := hw.1 q
      refine lv_aload_n hx hb dX5_nextBooking_42 rfl (lv_at hl 0 rfl) ?_
      refine lv_iload_n hx hb dX5_nextBooking_43 rfl (lv_at hl 1 rfl) ?_
      refine lv_iload_n hx hb dX5_nextBooking_44 rfl (lv_at hl 2 rfl) ?_
      refine m_Vi (rest := []) hE hT hW (kM_nextIn l w _ y1 y2 F_1 G hw) gM_nextIn dM_nextIn ⟨Nat.le_of_ble_eq_true rfl, Nat.le_of_ble_eq_true rfl, Nat.zero_le _, Nat.zero_le _⟩ rfl hl.1 rfl (Nat.le_of_ble_eq_true rfl) dX5_nextBooking_45 (fun r_2 F9 G9 H locs hw hW => ?_)
      obtain ⟨eF9, eG9, hw⟩ := hw
      rw [eF9, eG9] at hW
      refine lv_istore_n (lv' := [(3, .int r_2), (0, .ref (mp_h w)), (1, .int y1), (2, .int y2)]) hx hb dX5_nextBooking_48 rfl hl (by decide) rfl (fun ls hl => ?_)
      refine lv_iload_n hx hb dX5_nextBooking_49 rfl (lv_at hl 0 rfl) ?_
      refine lv_iconst (v := (-1 : Int32)) hx hb dX5_nextBooking_50 (by decide) ?_
      refine lv_icmp_ne (tgt := 62) hx hb dX5_nextBooking_51 (by decide) (fun q => ?_) (fun q => ?_)
      · have hw := hw.2 q
        refine lv_iload_n hx hb dX5_nextBooking_62 rfl (lv_at hl 0 rfl) ?_
        exact hQ _ _ _ _ _ trivial hw hW _ _ dX5_nextBooking_63
      · have hw := hw.1 q
        refine lv_aload_n hx hb dX5_nextBooking_54 rfl (lv_at hl 1 rfl) ?_
        refine lv_iconst (v := (3 : Int32)) hx hb dX5_nextBooking_55 (by decide) ?_
        refine m_Vi (rest := []) hE hT hW (kM_fails l w _ (3 : Int32) F_1 G hw) gM_fails dM_fails ⟨Nat.le_of_ble_eq_true rfl, Nat.le_of_ble_eq_true rfl, Nat.zero_le _, Nat.zero_le _⟩ rfl hl.1 rfl (Nat.le_of_ble_eq_true rfl) dX5_nextBooking_56 (fun r_3 F_4 G_5 H locs hw hW => ?_)
        refine lv_goto (tgt := 63) hx hb dX5_nextBooking_59 (by decide) ?_
        exact hQ _ _ _ _ _ trivial hw hW _ _ dX5_nextBooking_63
    · have hw := hw.2 q
      refine lv_iconst (v := (0 : Int32)) hx hb dX5_nextBooking_40 (by decide) ?_
      exact hQ _ _ _ _ _ trivial hw hW _ _ dX5_nextBooking_41
  unfold wM_nextBooking at hw
  refine lv_aload_n hx hb dX5_nextBooking_0 rfl (lv_at hl 0 rfl) ?_
  refine lv_aload_n hx hb dX5_nextBooking_1 rfl (lv_at hl 0 rfl) ?_
  refine lv_iload_n hx hb dX5_nextBooking_2 rfl (lv_at hl 1 rfl) ?_
  refine m_Vi (rest := [.ref (mp_h w)]) hE hT hW (kM_isHall l w _ x1 F G hw) gM_isHall dM_isHall ⟨Nat.le_of_ble_eq_true rfl, Nat.le_of_ble_eq_true rfl, Nat.zero_le _, Nat.zero_le _⟩ rfl hl.1 rfl (Nat.le_of_ble_eq_true rfl) dX5_nextBooking_3 (fun r_6 F9 G9 H locs hw hW => ?_)
  obtain ⟨eF9, eG9, hw⟩ := hw
  rw [eF9, eG9] at hW
  refine lv_if_ne (tgt := 13) hx hb dX5_nextBooking_6 (by decide) (fun q => ?_) (fun q => ?_)
  · have hw := hw.2 q
    refine lv_iload_n hx hb dX5_nextBooking_13 rfl (lv_at hl 2 rfl) ?_
    refine lv_i2l (v := (x2).toInt64) hx hb dX5_nextBooking_14 rfl ?_
    refine lv_lconst (v := (0 : Int64)) hx hb dX5_nextBooking_15 rfl ?_
    refine lv_ldc2 hx hb hown (hts _ q2596) dX5_nextBooking_16 ?_
    refine m_Si (rest := [.ref (mp_h w)]) hE hT hW (kM_isIn l w _ ((x2).toInt64) (0 : Int64) (86399 : Int64) F G hw) gM_isIn dM_isIn ⟨Nat.le_of_ble_eq_true rfl, Nat.le_of_ble_eq_true rfl, Nat.zero_le _, Nat.zero_le _⟩ rfl hl.1 rfl (Nat.le_of_ble_eq_true rfl) dX5_nextBooking_19 (fun r_7 F9 G9 H locs hw hW => ?_)
    obtain ⟨eF9, eG9, hw⟩ := hw
    rw [eF9, eG9] at hW
    refine lv_if_ne (tgt := 29) hx hb dX5_nextBooking_22 (by decide) (fun q => ?_) (fun q => ?_)
    · have hw := hw.2 q
      refine lv_iconst (v := (0 : Int32)) hx hb dX5_nextBooking_29 (by decide) ?_
      exact jn30 x1 x2 (0 : Int32) F G _ _ _ hl hW hw
    · have hw := hw.1 q
      refine lv_iconst (v := (2 : Int32)) hx hb dX5_nextBooking_25 (by decide) ?_
      refine lv_goto (tgt := 30) hx hb dX5_nextBooking_26 (by decide) ?_
      exact jn30 x1 x2 (2 : Int32) F G _ _ _ hl hW hw
  · have hw := hw.1 q
    refine lv_iconst (v := (1 : Int32)) hx hb dX5_nextBooking_9 (by decide) ?_
    refine lv_goto (tgt := 30) hx hb dX5_nextBooking_10 (by decide) ?_
    exact jn30 x1 x2 (1 : Int32) F G _ _ _ hl hW hw

/-! undo -/
def wM_undo_b30 (post : Int32 → MF → MG → Prop) (K30 : Int32 → MF → MG → Prop) (y1 : Int32) (F : MF) (G : MG) : Prop :=
  ((1052 : Int32) ≤ y1 → post (F 11) F G) ∧ (¬ (1052 : Int32) ≤ y1 → vp_in (((1052 : Int32) * (F 11)) + y1) 8416 ∧ vp_in y1 1052 ∧ ∀ G_1 : MG, G_1 = mu G 8 (y1.toNatClampNeg) (G 10 ((((1052 : Int32) * (F 11)) + y1).toNatClampNeg)) → K30 (y1 + (1 : Int32)) F G_1)
def wM_undo_l30 (post : Int32 → MF → MG → Prop) : Nat → Int32 → MF → MG → Prop
  | 0 => fun _ _ _ => False
  | n + 1 => wM_undo_b30 post (wM_undo_l30 post n)
def wM_undo (post : Int32 → MF → MG → Prop) (F : MF) (G : MG) : Prop :=
  ∀ F_2 : MF, F_2 = upd F 0 (0 : Int32) → ((F_2 11) = 0 → wM_fails (fun r_5 F_6 G_7 => post r_5 F_6 G_7) (1 : Int32) F_2 G) ∧ (¬ (F_2 11) = 0 → ∀ F_3 : MF, F_3 = upd F_2 11 ((F_2 11) - (1 : Int32)) → ∃ n, wM_undo_l30 post n (0 : Int32) F_3 G)
set_option maxHeartbeats 4000000 in
theorem kM_undo (l : Launch) (w : MP) (post : Int32 → MF → MG → Prop) (F : MF) (G : MG) (hw : wM_undo post F G) : m_Mi l w yX5_undo cX5_undo 2 .int 1 [.ref (mp_h w)] F G post := by
  refine m_ofWi (by decide) rfl (Nat.le_of_ble_eq_true rfl) (fun _ => True) (fun _ _ => rfl) ?_
  intro p e s m args below meth c Q ls hA hW hQ
  obtain ⟨hE, hT, hl⟩ := hA
  obtain ⟨hx, hb, hml, hown, hts⟩ := id hE
  have hl : lv_has ls 2 [(0, .ref (mp_h w))] := hl
  have lp30 : ∀ (n30 : Nat) (y1 : Int32) (F : MF) (G : MG) (H : Heap) (locs : List Loc) (ls : Array Slot), lv_has ls 2 [(0, .ref (mp_h w)), (1, .int y1)] → m_W w s.heap F G H locs → wM_undo_l30 post n30 y1 F G → W p l e (mrm 1) s m args below meth c H locs 0 0 Q (F0 m 30 ls []) := by
    intro n30
    induction n30 with
    | zero => intro y1 F G H locs ls hl hW hw; exact hw.elim
    | succ n30 ih30 =>
      intro y1 F G H locs ls hl hW hw
      have hw : wM_undo_b30 post (wM_undo_l30 post n30) y1 F G := hw
      unfold wM_undo_b30 at hw
      refine lv_iload_n hx hb dX5_undo_30 rfl (lv_at hl 1 rfl) ?_
      refine lv_sipush (v := (1052 : Int32)) hx hb dX5_undo_31 (by decide) ?_
      refine lv_icmp_ge (tgt := 64) hx hb dX5_undo_34 (by decide) (fun q => ?_) (fun q => ?_)
      · have hw := hw.1 q
        refine lv_aload_n hx hb dX5_undo_64 rfl (lv_at hl 0 rfl) ?_
        refine m_get hx hb hown hts hT hW 11 (by decide) (hts _ q2140) rfl (v := .int (F 11)) rfl dX5_undo_65 ?_
        exact hQ _ _ _ _ _ trivial hw hW _ _ dX5_undo_68
      · have hw := hw.2 q
        refine lv_aload_n hx hb dX5_undo_37 rfl (lv_at hl 0 rfl) ?_
        refine m_get hx hb hown hts hT hW 8 (by decide) (hts _ q2137) rfl (v := .ref (mp_a w 8)) rfl dX5_undo_38 ?_
        refine lv_iload_n hx hb dX5_undo_41 rfl (lv_at hl 1 rfl) ?_
        refine lv_aload_n hx hb dX5_undo_42 rfl (lv_at hl 0 rfl) ?_
        refine m_get hx hb hown hts hT hW 10 (by decide) (hts _ q2139) rfl (v := .ref (mp_a w 10)) rfl dX5_undo_43 ?_
        refine lv_sipush (v := (1052 : Int32)) hx hb dX5_undo_46 (by decide) ?_
        refine lv_aload_n hx hb dX5_undo_49 rfl (lv_at hl 0 rfl) ?_
        refine m_get hx hb hown hts hT hW 11 (by decide) (hts _ q2140) rfl (v := .int (F 11)) rfl dX5_undo_50 ?_
        refine lv_imul hx hb dX5_undo_53 ?_
        refine lv_iload_n hx hb dX5_undo_54 rfl (lv_at hl 1 rfl) ?_
        refine lv_iadd hx hb dX5_undo_55 ?_
        obtain ⟨hi, hw⟩ := hw
        refine m_iald hx hb hT hW (k := 10) (j := ((((1052 : Int32) * (F 11)) + y1).toNatClampNeg)) rfl rfl hi dX5_undo_56 ?_
        obtain ⟨hi, hw⟩ := hw
        refine m_iast hx hb hT hW (k := 8) (j := (y1.toNatClampNeg)) rfl rfl hi dX5_undo_57 (fun G_1 H locs eG_1 hW => ?_)
        have hw := hw G_1 eG_1
        refine lv_iinc (v := (y1 + (1 : Int32))) (lv' := [(1, .int (y1 + (1 : Int32))), (0, .ref (mp_h w))]) hx hb dX5_undo_58 hl (k := 1) rfl rfl (by decide) rfl (fun ls hl => ?_)
        refine lv_goto (tgt := 30) hx hb dX5_undo_61 (by decide) ?_
        exact ih30 (y1 + (1 : Int32)) F G_1 _ _ _ (lv_sub hl [1, 0] rfl) hW hw
  unfold wM_undo at hw
  refine lv_aload_n hx hb dX5_undo_0 rfl (lv_at hl 0 rfl) ?_
  refine lv_iconst (v := (0 : Int32)) hx hb dX5_undo_1 (by decide) ?_
  refine m_put hx hb hown hts hT hW 0 (by decide) (hts _ q2129) rfl rfl (ty := .int) (x := (0 : Int32)) rfl rfl rfl rfl dX5_undo_2 (fun F_2 H locs eF_2 hW => ?_)
  have hw := hw F_2 eF_2
  refine lv_aload_n hx hb dX5_undo_5 rfl (lv_at hl 0 rfl) ?_
  refine m_get hx hb hown hts hT hW 11 (by decide) (hts _ q2140) rfl (v := .int (F_2 11)) rfl dX5_undo_6 ?_
  refine lv_if_ne (tgt := 18) hx hb dX5_undo_9 (by decide) (fun q => ?_) (fun q => ?_)
  · have hw := hw.2 q
    refine lv_aload_n hx hb dX5_undo_18 rfl (lv_at hl 0 rfl) ?_
    refine lv_dup hx hb dX5_undo_19 rfl ?_
    refine m_get hx hb hown hts hT hW 11 (by decide) (hts _ q2140) rfl (v := .int (F_2 11)) rfl dX5_undo_20 ?_
    refine lv_iconst (v := (1 : Int32)) hx hb dX5_undo_23 (by decide) ?_
    refine lv_isub hx hb dX5_undo_24 ?_
    refine m_put hx hb hown hts hT hW 11 (by decide) (hts _ q2140) rfl rfl (ty := .int) (x := ((F_2 11) - (1 : Int32))) rfl rfl rfl rfl dX5_undo_25 (fun F_3 H locs eF_3 hW => ?_)
    have hw := hw F_3 eF_3
    refine lv_iconst (v := (0 : Int32)) hx hb dX5_undo_28 (by decide) ?_
    refine lv_istore_n (lv' := [(1, .int (0 : Int32)), (0, .ref (mp_h w))]) hx hb dX5_undo_29 rfl hl (by decide) rfl (fun ls hl => ?_)
    obtain ⟨n_4, hw⟩ := hw
    exact lp30 n_4 (0 : Int32) F_3 G _ _ _ (lv_sub hl [1, 0] rfl) hW hw
  · have hw := hw.1 q
    refine lv_aload_n hx hb dX5_undo_12 rfl (lv_at hl 0 rfl) ?_
    refine lv_iconst (v := (1 : Int32)) hx hb dX5_undo_13 (by decide) ?_
    refine m_Vi (rest := []) hE hT hW (kM_fails l w _ (1 : Int32) F_2 G hw) gM_fails dM_fails ⟨Nat.le_of_ble_eq_true rfl, Nat.le_of_ble_eq_true rfl, Nat.zero_le _, Nat.zero_le _⟩ rfl hl.1 rfl (Nat.le_of_ble_eq_true rfl) dX5_undo_14 (fun r_5 F_6 G_7 H locs hw hW => ?_)
    exact hQ _ _ _ _ _ trivial hw hW _ _ dX5_undo_17

/-! undoCount -/
def wM_undoCount (post : Int32 → MF → MG → Prop) (F : MF) (G : MG) : Prop :=
  ∀ F_1 : MF, F_1 = upd F 0 (0 : Int32) → post (F_1 11) F_1 G
set_option maxHeartbeats 4000000 in
theorem kM_undoCount (l : Launch) (w : MP) (post : Int32 → MF → MG → Prop) (F : MF) (G : MG) (hw : wM_undoCount post F G) : m_Mi l w yX5_undoCount cX5_undoCount 1 .int 0 [.ref (mp_h w)] F G post := by
  refine m_ofWi (by decide) rfl (Nat.le_of_ble_eq_true rfl) (fun _ => True) (fun _ _ => rfl) ?_
  intro p e s m args below meth c Q ls hA hW hQ
  obtain ⟨hE, hT, hl⟩ := hA
  obtain ⟨hx, hb, hml, hown, hts⟩ := id hE
  have hl : lv_has ls 1 [(0, .ref (mp_h w))] := hl
  unfold wM_undoCount at hw
  refine lv_aload_n hx hb dX5_undoCount_0 rfl (lv_at hl 0 rfl) ?_
  refine lv_iconst (v := (0 : Int32)) hx hb dX5_undoCount_1 (by decide) ?_
  refine m_put hx hb hown hts hT hW 0 (by decide) (hts _ q2129) rfl rfl (ty := .int) (x := (0 : Int32)) rfl rfl rfl rfl dX5_undoCount_2 (fun F_1 H locs eF_1 hW => ?_)
  have hw := hw F_1 eF_1
  refine lv_aload_n hx hb dX5_undoCount_5 rfl (lv_at hl 0 rfl) ?_
  refine m_get hx hb hown hts hT hW 11 (by decide) (hts _ q2140) rfl (v := .int (F_1 11)) rfl dX5_undoCount_6 ?_
  exact hQ _ _ _ _ _ trivial hw hW _ _ dX5_undoCount_9

/-! save -/
def wM_save_b7 (post : Int32 → MF → MG → Prop) (K7 : Int32 → MF → MG → Prop) (y1 : Int32) (F : MF) (G : MG) : Prop :=
  ((1052 : Int32) ≤ y1 → ∀ F_1 : MF, F_1 = upd F 12 (1 : Int32) → post (G 8 0) F_1 G) ∧ (¬ (1052 : Int32) ≤ y1 → vp_in y1 1052 ∧ vp_in y1 1052 ∧ ∀ G_2 : MG, G_2 = mu G 9 (y1.toNatClampNeg) (G 8 (y1.toNatClampNeg)) → K7 (y1 + (1 : Int32)) F G_2)
def wM_save_l7 (post : Int32 → MF → MG → Prop) : Nat → Int32 → MF → MG → Prop
  | 0 => fun _ _ _ => False
  | n + 1 => wM_save_b7 post (wM_save_l7 post n)
def wM_save (post : Int32 → MF → MG → Prop) (F : MF) (G : MG) : Prop :=
  ∀ F_3 : MF, F_3 = upd F 0 (0 : Int32) → ∃ n, wM_save_l7 post n (0 : Int32) F_3 G
set_option maxHeartbeats 4000000 in
theorem kM_save (l : Launch) (w : MP) (post : Int32 → MF → MG → Prop) (F : MF) (G : MG) (hw : wM_save post F G) : m_Mi l w yX5_save cX5_save 2 .int 0 [.ref (mp_h w)] F G post := by
  refine m_ofWi (by decide) rfl (Nat.le_of_ble_eq_true rfl) (fun _ => True) (fun _ _ => rfl) ?_
  intro p e s m args below meth c Q ls hA hW hQ
  obtain ⟨hE, hT, hl⟩ := hA
  obtain ⟨hx, hb, hml, hown, hts⟩ := id hE
  have hl : lv_has ls 2 [(0, .ref (mp_h w))] := hl
  have lp7 : ∀ (n7 : Nat) (y1 : Int32) (F : MF) (G : MG) (H : Heap) (locs : List Loc) (ls : Array Slot), lv_has ls 2 [(0, .ref (mp_h w)), (1, .int y1)] → m_W w s.heap F G H locs → wM_save_l7 post n7 y1 F G → W p l e (mrm 0) s m args below meth c H locs 0 0 Q (F0 m 7 ls []) := by
    intro n7
    induction n7 with
    | zero => intro y1 F G H locs ls hl hW hw; exact hw.elim
    | succ n7 ih7 =>
      intro y1 F G H locs ls hl hW hw
      have hw : wM_save_b7 post (wM_save_l7 post n7) y1 F G := hw
      unfold wM_save_b7 at hw
      refine lv_iload_n hx hb dX5_save_7 rfl (lv_at hl 1 rfl) ?_
      refine lv_sipush (v := (1052 : Int32)) hx hb dX5_save_8 (by decide) ?_
      refine lv_icmp_ge (tgt := 32) hx hb dX5_save_11 (by decide) (fun q => ?_) (fun q => ?_)
      · have hw := hw.1 q
        refine lv_aload_n hx hb dX5_save_32 rfl (lv_at hl 0 rfl) ?_
        refine lv_iconst (v := (1 : Int32)) hx hb dX5_save_33 (by decide) ?_
        refine m_put hx hb hown hts hT hW 12 (by decide) (hts _ q2141) rfl rfl (ty := .boolean) (x := (1 : Int32)) rfl rfl rfl rfl dX5_save_34 (fun F_1 H locs eF_1 hW => ?_)
        have hw := hw F_1 eF_1
        refine lv_aload_n hx hb dX5_save_37 rfl (lv_at hl 0 rfl) ?_
        refine m_get hx hb hown hts hT hW 8 (by decide) (hts _ q2137) rfl (v := .ref (mp_a w 8)) rfl dX5_save_38 ?_
        refine lv_iconst (v := (0 : Int32)) hx hb dX5_save_41 (by decide) ?_
        refine m_iald hx hb hT hW (k := 8) (j := 0) (by decide) rfl (by unfold vp_in; decide) dX5_save_42 ?_
        exact hQ _ _ _ _ _ trivial hw hW _ _ dX5_save_43
      · have hw := hw.2 q
        refine lv_aload_n hx hb dX5_save_14 rfl (lv_at hl 0 rfl) ?_
        refine m_get hx hb hown hts hT hW 9 (by decide) (hts _ q2138) rfl (v := .ref (mp_a w 9)) rfl dX5_save_15 ?_
        refine lv_iload_n hx hb dX5_save_18 rfl (lv_at hl 1 rfl) ?_
        refine lv_aload_n hx hb dX5_save_19 rfl (lv_at hl 0 rfl) ?_
        refine m_get hx hb hown hts hT hW 8 (by decide) (hts _ q2137) rfl (v := .ref (mp_a w 8)) rfl dX5_save_20 ?_
        refine lv_iload_n hx hb dX5_save_23 rfl (lv_at hl 1 rfl) ?_
        obtain ⟨hi, hw⟩ := hw
        refine m_iald hx hb hT hW (k := 8) (j := (y1.toNatClampNeg)) rfl rfl hi dX5_save_24 ?_
        obtain ⟨hi, hw⟩ := hw
        refine m_iast hx hb hT hW (k := 9) (j := (y1.toNatClampNeg)) rfl rfl hi dX5_save_25 (fun G_2 H locs eG_2 hW => ?_)
        have hw := hw G_2 eG_2
        refine lv_iinc (v := (y1 + (1 : Int32))) (lv' := [(1, .int (y1 + (1 : Int32))), (0, .ref (mp_h w))]) hx hb dX5_save_26 hl (k := 1) rfl rfl (by decide) rfl (fun ls hl => ?_)
        refine lv_goto (tgt := 7) hx hb dX5_save_29 (by decide) ?_
        exact ih7 (y1 + (1 : Int32)) F G_2 _ _ _ (lv_sub hl [1, 0] rfl) hW hw
  unfold wM_save at hw
  refine lv_aload_n hx hb dX5_save_0 rfl (lv_at hl 0 rfl) ?_
  refine lv_iconst (v := (0 : Int32)) hx hb dX5_save_1 (by decide) ?_
  refine m_put hx hb hown hts hT hW 0 (by decide) (hts _ q2129) rfl rfl (ty := .int) (x := (0 : Int32)) rfl rfl rfl rfl dX5_save_2 (fun F_3 H locs eF_3 hW => ?_)
  have hw := hw F_3 eF_3
  refine lv_iconst (v := (0 : Int32)) hx hb dX5_save_5 (by decide) ?_
  refine lv_istore_n (lv' := [(1, .int (0 : Int32)), (0, .ref (mp_h w))]) hx hb dX5_save_6 rfl hl (by decide) rfl (fun ls hl => ?_)
  obtain ⟨n_4, hw⟩ := hw
  exact lp7 n_4 (0 : Int32) F_3 G _ _ _ (lv_sub hl [1, 0] rfl) hW hw

/-! restore -/
def wM_restore_b20 (post : Int32 → MF → MG → Prop) (K20 : Int32 → MF → MG → Prop) (y1 : Int32) (F : MF) (G : MG) : Prop :=
  ((1052 : Int32) ≤ y1 → ∀ F_1 : MF, F_1 = upd F 11 (0 : Int32) → post (G 8 0) F_1 G) ∧ (¬ (1052 : Int32) ≤ y1 → vp_in y1 1052 ∧ vp_in y1 1052 ∧ ∀ G_2 : MG, G_2 = mu G 8 (y1.toNatClampNeg) (G 9 (y1.toNatClampNeg)) → K20 (y1 + (1 : Int32)) F G_2)
def wM_restore_l20 (post : Int32 → MF → MG → Prop) : Nat → Int32 → MF → MG → Prop
  | 0 => fun _ _ _ => False
  | n + 1 => wM_restore_b20 post (wM_restore_l20 post n)
def wM_restore (post : Int32 → MF → MG → Prop) (F : MF) (G : MG) : Prop :=
  ∀ F_3 : MF, F_3 = upd F 0 (0 : Int32) → ((F_3 12) = 0 → wM_fails (fun r_5 F_6 G_7 => post r_5 F_6 G_7) (1 : Int32) F_3 G) ∧ (¬ (F_3 12) = 0 → ∃ n, wM_restore_l20 post n (0 : Int32) F_3 G)
set_option maxHeartbeats 4000000 in
theorem kM_restore (l : Launch) (w : MP) (post : Int32 → MF → MG → Prop) (F : MF) (G : MG) (hw : wM_restore post F G) : m_Mi l w yX5_restore cX5_restore 2 .int 1 [.ref (mp_h w)] F G post := by
  refine m_ofWi (by decide) rfl (Nat.le_of_ble_eq_true rfl) (fun _ => True) (fun _ _ => rfl) ?_
  intro p e s m args below meth c Q ls hA hW hQ
  obtain ⟨hE, hT, hl⟩ := hA
  obtain ⟨hx, hb, hml, hown, hts⟩ := id hE
  have hl : lv_has ls 2 [(0, .ref (mp_h w))] := hl
  have lp20 : ∀ (n20 : Nat) (y1 : Int32) (F : MF) (G : MG) (H : Heap) (locs : List Loc) (ls : Array Slot), lv_has ls 2 [(0, .ref (mp_h w)), (1, .int y1)] → m_W w s.heap F G H locs → wM_restore_l20 post n20 y1 F G → W p l e (mrm 1) s m args below meth c H locs 0 0 Q (F0 m 20 ls []) := by
    intro n20
    induction n20 with
    | zero => intro y1 F G H locs ls hl hW hw; exact hw.elim
    | succ n20 ih20 =>
      intro y1 F G H locs ls hl hW hw
      have hw : wM_restore_b20 post (wM_restore_l20 post n20) y1 F G := hw
      unfold wM_restore_b20 at hw
      refine lv_iload_n hx hb dX5_restore_20 rfl (lv_at hl 1 rfl) ?_
      refine lv_sipush (v := (1052 : Int32)) hx hb dX5_restore_21 (by decide) ?_
      refine lv_icmp_ge (tgt := 45) hx hb dX5_restore_24 (by decide) (fun q => ?_) (fun q => ?_)
      · have hw := hw.1 q
        refine lv_aload_n hx hb dX5_restore_45 rfl (lv_at hl 0 rfl) ?_
        refine lv_iconst (v := (0 : Int32)) hx hb dX5_restore_46 (by decide) ?_
        refine m_put hx hb hown hts hT hW 11 (by decide) (hts _ q2140) rfl rfl (ty := .int) (x := (0 : Int32)) rfl rfl rfl rfl dX5_restore_47 (fun F_1 H locs eF_1 hW => ?_)
        have hw := hw F_1 eF_1
        refine lv_aload_n hx hb dX5_restore_50 rfl (lv_at hl 0 rfl) ?_
        refine m_get hx hb hown hts hT hW 8 (by decide) (hts _ q2137) rfl (v := .ref (mp_a w 8)) rfl dX5_restore_51 ?_
        refine lv_iconst (v := (0 : Int32)) hx hb dX5_restore_54 (by decide) ?_
        refine m_iald hx hb hT hW (k := 8) (j := 0) (by decide) rfl (by unfold vp_in; decide) dX5_restore_55 ?_
        exact hQ _ _ _ _ _ trivial hw hW _ _ dX5_restore_56
      · have hw := hw.2 q
        refine lv_aload_n hx hb dX5_restore_27 rfl (lv_at hl 0 rfl) ?_
        refine m_get hx hb hown hts hT hW 8 (by decide) (hts _ q2137) rfl (v := .ref (mp_a w 8)) rfl dX5_restore_28 ?_
        refine lv_iload_n hx hb dX5_restore_31 rfl (lv_at hl 1 rfl) ?_
        refine lv_aload_n hx hb dX5_restore_32 rfl (lv_at hl 0 rfl) ?_
        refine m_get hx hb hown hts hT hW 9 (by decide) (hts _ q2138) rfl (v := .ref (mp_a w 9)) rfl dX5_restore_33 ?_
        refine lv_iload_n hx hb dX5_restore_36 rfl (lv_at hl 1 rfl) ?_
        obtain ⟨hi, hw⟩ := hw
        refine m_iald hx hb hT hW (k := 9) (j := (y1.toNatClampNeg)) rfl rfl hi dX5_restore_37 ?_
        obtain ⟨hi, hw⟩ := hw
        refine m_iast hx hb hT hW (k := 8) (j := (y1.toNatClampNeg)) rfl rfl hi dX5_restore_38 (fun G_2 H locs eG_2 hW => ?_)
        have hw := hw G_2 eG_2
        refine lv_iinc (v := (y1 + (1 : Int32))) (lv' := [(1, .int (y1 + (1 : Int32))), (0, .ref (mp_h w))]) hx hb dX5_restore_39 hl (k := 1) rfl rfl (by decide) rfl (fun ls hl => ?_)
        refine lv_goto (tgt := 20) hx hb dX5_restore_42 (by decide) ?_
        exact ih20 (y1 + (1 : Int32)) F G_2 _ _ _ (lv_sub hl [1, 0] rfl) hW hw
  unfold wM_restore at hw
  refine lv_aload_n hx hb dX5_restore_0 rfl (lv_at hl 0 rfl) ?_
  refine lv_iconst (v := (0 : Int32)) hx hb dX5_restore_1 (by decide) ?_
  refine m_put hx hb hown hts hT hW 0 (by decide) (hts _ q2129) rfl rfl (ty := .int) (x := (0 : Int32)) rfl rfl rfl rfl dX5_restore_2 (fun F_3 H locs eF_3 hW => ?_)
  have hw := hw F_3 eF_3
  refine lv_aload_n hx hb dX5_restore_5 rfl (lv_at hl 0 rfl) ?_
  refine m_get hx hb hown hts hT hW 12 (by decide) (hts _ q2141) rfl (v := .int (F_3 12)) rfl dX5_restore_6 ?_
  refine lv_if_ne (tgt := 18) hx hb dX5_restore_9 (by decide) (fun q => ?_) (fun q => ?_)
  · have hw := hw.2 q
    refine lv_iconst (v := (0 : Int32)) hx hb dX5_restore_18 (by decide) ?_
    refine lv_istore_n (lv' := [(1, .int (0 : Int32)), (0, .ref (mp_h w))]) hx hb dX5_restore_19 rfl hl (by decide) rfl (fun ls hl => ?_)
    obtain ⟨n_4, hw⟩ := hw
    exact lp20 n_4 (0 : Int32) F_3 G _ _ _ (lv_sub hl [1, 0] rfl) hW hw
  · have hw := hw.1 q
    refine lv_aload_n hx hb dX5_restore_12 rfl (lv_at hl 0 rfl) ?_
    refine lv_iconst (v := (1 : Int32)) hx hb dX5_restore_13 (by decide) ?_
    refine m_Vi (rest := []) hE hT hW (kM_fails l w _ (1 : Int32) F_3 G hw) gM_fails dM_fails ⟨Nat.le_of_ble_eq_true rfl, Nat.le_of_ble_eq_true rfl, Nat.zero_le _, Nat.zero_le _⟩ rfl hl.1 rfl (Nat.le_of_ble_eq_true rfl) dX5_restore_14 (fun r_5 F_6 G_7 H locs hw hW => ?_)
    exact hQ _ _ _ _ _ trivial hw hW _ _ dX5_restore_17

