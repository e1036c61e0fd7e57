/-! THE FREE HEAP (2): what holds of the machine's tables all through a run, and one row an instruction -/
set_option maxRecDepth 100000
def xsh20 : Jvm.Lambda.Shape := ({ iface := "HallPlan$Closure", name := "meets", sam := ({ parameters := [Jvm.ClassFile.FieldType.int, Jvm.ClassFile.FieldType.int, Jvm.ClassFile.FieldType.int], returnType := (Option.some Jvm.ClassFile.FieldType.boolean) } : Jvm.ClassFile.MethodDescriptor), captured := [Jvm.ClassFile.FieldType.int, Jvm.ClassFile.FieldType.int, Jvm.ClassFile.FieldType.int], kind := 6, implClass := "HallPlan", implName := "lambda$closure$0", implDesc := ({ parameters := [Jvm.ClassFile.FieldType.int, Jvm.ClassFile.FieldType.int, Jvm.ClassFile.FieldType.int, Jvm.ClassFile.FieldType.int, Jvm.ClassFile.FieldType.int, Jvm.ClassFile.FieldType.int], returnType := (Option.some Jvm.ClassFile.FieldType.boolean) } : Jvm.ClassFile.MethodDescriptor), implItf := false, inst := ({ parameters := [Jvm.ClassFile.FieldType.int, Jvm.ClassFile.FieldType.int, Jvm.ClassFile.FieldType.int], returnType := (Option.some Jvm.ClassFile.FieldType.boolean) } : Jvm.ClassFile.MethodDescriptor) } : Jvm.Lambda.Shape)
def xsm20 : MethodName := ({ cls := "HallPlan", name := "closure", desc := "(III)LHallPlan$Closure;" } : Jvm.MethodName)
def xsh21 : Jvm.Lambda.Shape := ({ iface := "HallPlan$Closure", name := "meets", sam := ({ parameters := [Jvm.ClassFile.FieldType.int, Jvm.ClassFile.FieldType.int, Jvm.ClassFile.FieldType.int], returnType := (Option.some Jvm.ClassFile.FieldType.boolean) } : Jvm.ClassFile.MethodDescriptor), captured := [Jvm.ClassFile.FieldType.int, Jvm.ClassFile.FieldType.int, Jvm.ClassFile.FieldType.int], kind := 6, implClass := "HallPlan$Setup", implName := "lambda$addWeekly$0", implDesc := ({ parameters := [Jvm.ClassFile.FieldType.int, Jvm.ClassFile.FieldType.int, Jvm.ClassFile.FieldType.int, Jvm.ClassFile.FieldType.int, Jvm.ClassFile.FieldType.int, Jvm.ClassFile.FieldType.int], returnType := (Option.some Jvm.ClassFile.FieldType.boolean) } : Jvm.ClassFile.MethodDescriptor), implItf := false, inst := ({ parameters := [Jvm.ClassFile.FieldType.int, Jvm.ClassFile.FieldType.int, Jvm.ClassFile.FieldType.int], returnType := (Option.some Jvm.ClassFile.FieldType.boolean) } : Jvm.ClassFile.MethodDescriptor) } : Jvm.Lambda.Shape)
def xsm21 : MethodName := ({ cls := "HallPlan$Setup", name := "addWeekly", desc := "(III)V" } : Jvm.MethodName)
def xsh22 : Jvm.Lambda.Shape := ({ iface := "HallPlan$Fee", name := "percent", sam := ({ parameters := [Jvm.ClassFile.FieldType.int], returnType := (Option.some Jvm.ClassFile.FieldType.int) } : Jvm.ClassFile.MethodDescriptor), captured := [Jvm.ClassFile.FieldType.int, Jvm.ClassFile.FieldType.int], kind := 6, implClass := "HallPlan$Setup", implName := "lambda$addFee$1", implDesc := ({ parameters := [Jvm.ClassFile.FieldType.int, Jvm.ClassFile.FieldType.int, Jvm.ClassFile.FieldType.int], returnType := (Option.some Jvm.ClassFile.FieldType.int) } : Jvm.ClassFile.MethodDescriptor), implItf := false, inst := ({ parameters := [Jvm.ClassFile.FieldType.int], returnType := (Option.some Jvm.ClassFile.FieldType.int) } : Jvm.ClassFile.MethodDescriptor) } : Jvm.Lambda.Shape)
def xsm22 : MethodName := ({ cls := "HallPlan$Setup", name := "addFee", desc := "(II)V" } : Jvm.MethodName)
def xsh23 : Jvm.Lambda.Shape := ({ iface := "HallPlan$Check", name := "fails", sam := ({ parameters := [(Jvm.ClassFile.FieldType.object "HallPlan$Event"), Jvm.ClassFile.FieldType.int, Jvm.ClassFile.FieldType.int], returnType := (Option.some Jvm.ClassFile.FieldType.boolean) } : Jvm.ClassFile.MethodDescriptor), captured := [(Jvm.ClassFile.FieldType.object "HallPlan")], kind := 5, implClass := "HallPlan", implName := "lambda$new$1", implDesc := ({ parameters := [(Jvm.ClassFile.FieldType.object "HallPlan$Event"), Jvm.ClassFile.FieldType.int, Jvm.ClassFile.FieldType.int], returnType := (Option.some Jvm.ClassFile.FieldType.boolean) } : Jvm.ClassFile.MethodDescriptor), implItf := false, inst := ({ parameters := [(Jvm.ClassFile.FieldType.object "HallPlan$Event"), Jvm.ClassFile.FieldType.int, Jvm.ClassFile.FieldType.int], returnType := (Option.some Jvm.ClassFile.FieldType.boolean) } : Jvm.ClassFile.MethodDescriptor) } : Jvm.Lambda.Shape)
def xsm23 : MethodName := ({ cls := "HallPlan", name := "<init>", desc := "()V" } : Jvm.MethodName)
def xsh24 : Jvm.Lambda.Shape := ({ iface := "HallPlan$Check", name := "fails", sam := ({ parameters := [(Jvm.ClassFile.FieldType.object "HallPlan$Event"), Jvm.ClassFile.FieldType.int, Jvm.ClassFile.FieldType.int], returnType := (Option.some Jvm.ClassFile.FieldType.boolean) } : Jvm.ClassFile.MethodDescriptor), captured := [(Jvm.ClassFile.FieldType.object "HallPlan")], kind := 5, implClass := "HallPlan", implName := "lambda$new$2", implDesc := ({ parameters := [(Jvm.ClassFile.FieldType.object "HallPlan$Event"), Jvm.ClassFile.FieldType.int, Jvm.ClassFile.FieldType.int], returnType := (Option.some Jvm.ClassFile.FieldType.boolean) } : Jvm.ClassFile.MethodDescriptor), implItf := false, inst := ({ parameters := [(Jvm.ClassFile.FieldType.object "HallPlan$Event"), Jvm.ClassFile.FieldType.int, Jvm.ClassFile.FieldType.int], returnType := (Option.some Jvm.ClassFile.FieldType.boolean) } : Jvm.ClassFile.MethodDescriptor) } : Jvm.Lambda.Shape)
def xsm24 : MethodName := ({ cls := "HallPlan", name := "<init>", desc := "()V" } : Jvm.MethodName)
def xsh25 : Jvm.Lambda.Shape := ({ iface := "HallPlan$Check", name := "fails", sam := ({ parameters := [(Jvm.ClassFile.FieldType.object "HallPlan$Event"), Jvm.ClassFile.FieldType.int, Jvm.ClassFile.FieldType.int], returnType := (Option.some Jvm.ClassFile.FieldType.boolean) } : Jvm.ClassFile.MethodDescriptor), captured := [(Jvm.ClassFile.FieldType.object "HallPlan")], kind := 5, implClass := "HallPlan", implName := "lambda$new$3", implDesc := ({ parameters := [(Jvm.ClassFile.FieldType.object "HallPlan$Event"), Jvm.ClassFile.FieldType.int, Jvm.ClassFile.FieldType.int], returnType := (Option.some Jvm.ClassFile.FieldType.boolean) } : Jvm.ClassFile.MethodDescriptor), implItf := false, inst := ({ parameters := [(Jvm.ClassFile.FieldType.object "HallPlan$Event"), Jvm.ClassFile.FieldType.int, Jvm.ClassFile.FieldType.int], returnType := (Option.some Jvm.ClassFile.FieldType.boolean) } : Jvm.ClassFile.MethodDescriptor) } : Jvm.Lambda.Shape)
def xsm25 : MethodName := ({ cls := "HallPlan", name := "<init>", desc := "()V" } : Jvm.MethodName)
def xsh26 : Jvm.Lambda.Shape := ({ iface := "HallPlan$Check", name := "fails", sam := ({ parameters := [(Jvm.ClassFile.FieldType.object "HallPlan$Event"), Jvm.ClassFile.FieldType.int, Jvm.ClassFile.FieldType.int], returnType := (Option.some Jvm.ClassFile.FieldType.boolean) } : Jvm.ClassFile.MethodDescriptor), captured := [(Jvm.ClassFile.FieldType.object "HallPlan")], kind := 5, implClass := "HallPlan", implName := "lambda$new$4", implDesc := ({ parameters := [(Jvm.ClassFile.FieldType.object "HallPlan$Event"), Jvm.ClassFile.FieldType.int, Jvm.ClassFile.FieldType.int], returnType := (Option.some Jvm.ClassFile.FieldType.boolean) } : Jvm.ClassFile.MethodDescriptor), implItf := false, inst := ({ parameters := [(Jvm.ClassFile.FieldType.object "HallPlan$Event"), Jvm.ClassFile.FieldType.int, Jvm.ClassFile.FieldType.int], returnType := (Option.some Jvm.ClassFile.FieldType.boolean) } : Jvm.ClassFile.MethodDescriptor) } : Jvm.Lambda.Shape)
def xsm26 : MethodName := ({ cls := "HallPlan", name := "<init>", desc := "()V" } : Jvm.MethodName)
def xsh27 : Jvm.Lambda.Shape := ({ iface := "HallPlan$Check", name := "fails", sam := ({ parameters := [(Jvm.ClassFile.FieldType.object "HallPlan$Event"), Jvm.ClassFile.FieldType.int, Jvm.ClassFile.FieldType.int], returnType := (Option.some Jvm.ClassFile.FieldType.boolean) } : Jvm.ClassFile.MethodDescriptor), captured := [(Jvm.ClassFile.FieldType.object "HallPlan")], kind := 5, implClass := "HallPlan", implName := "lambda$new$5", implDesc := ({ parameters := [(Jvm.ClassFile.FieldType.object "HallPlan$Event"), Jvm.ClassFile.FieldType.int, Jvm.ClassFile.FieldType.int], returnType := (Option.some Jvm.ClassFile.FieldType.boolean) } : Jvm.ClassFile.MethodDescriptor), implItf := false, inst := ({ parameters := [(Jvm.ClassFile.FieldType.object "HallPlan$Event"), Jvm.ClassFile.FieldType.int, Jvm.ClassFile.FieldType.int], returnType := (Option.some Jvm.ClassFile.FieldType.boolean) } : Jvm.ClassFile.MethodDescriptor) } : Jvm.Lambda.Shape)
def xsm27 : MethodName := ({ cls := "HallPlan", name := "<init>", desc := "()V" } : Jvm.MethodName)
def xsh28 : Jvm.Lambda.Shape := ({ iface := "HallPlan$Check", name := "fails", sam := ({ parameters := [(Jvm.ClassFile.FieldType.object "HallPlan$Event"), Jvm.ClassFile.FieldType.int, Jvm.ClassFile.FieldType.int], returnType := (Option.some Jvm.ClassFile.FieldType.boolean) } : Jvm.ClassFile.MethodDescriptor), captured := [(Jvm.ClassFile.FieldType.object "HallPlan")], kind := 5, implClass := "HallPlan", implName := "lambda$new$6", implDesc := ({ parameters := [(Jvm.ClassFile.FieldType.object "HallPlan$Event"), Jvm.ClassFile.FieldType.int, Jvm.ClassFile.FieldType.int], returnType := (Option.some Jvm.ClassFile.FieldType.boolean) } : Jvm.ClassFile.MethodDescriptor), implItf := false, inst := ({ parameters := [(Jvm.ClassFile.FieldType.object "HallPlan$Event"), Jvm.ClassFile.FieldType.int, Jvm.ClassFile.FieldType.int], returnType := (Option.some Jvm.ClassFile.FieldType.boolean) } : Jvm.ClassFile.MethodDescriptor) } : Jvm.Lambda.Shape)
def xsm28 : MethodName := ({ cls := "HallPlan", name := "<init>", desc := "()V" } : Jvm.MethodName)
/-- a call site of a lambda that captures something, linked -/
def lamF (x : MethodName) (pc index : Nat) (σ : Lambda.Shape) (cK : ClassId) (U : State) : Prop := ∃ (m : MethodId) (k : Class) (cf : ClassFile) (i0 p0 : Nat), U.methodNamed? x = some m ∧ U.vm.classes[m.cls]? = some k ∧ k.cf = some cf ∧ Lambda.shapeOf? cf index = some σ ∧ (k.callSites.find? fun y => y.1 == m.idx && y.2.1 == pc) = some (i0, p0, .makes cK) ∧ Lambda.isMade { classPath := fun _ => none } U.vm m.cls σ cK = true ∧ U.lambdaCallable σ cK = true
theorem lamF.of {x : MethodName} {pc index : Nat} {σ : Lambda.Shape} {s : State} {args : Array Value} (hc : σ.captured ≠ []) (h : (Cond.lambdaSite x pc index σ).before args s = true) : ∃ cK, lamF x pc index σ cK s := by
  obtain ⟨cK, one, hat⟩ := Cond.lambdaSite_spec h
  obtain ⟨m, k, cf, i0, p0, l, hm, hk, hcf, hsh, -, hfind, hmade, hcall, hl⟩ := State.lambdaAt?_spec hat
  rcases hl with ⟨_, _, _, _, e, _⟩ | ⟨e, _, _⟩
  · exact absurd e hc
  · subst e
    exact ⟨cK, m, k, cf, i0, p0, hm, hk, hcf, hsh, hfind, hmade, hcall⟩
theorem lamF.warm {x : MethodName} {pc index : Nat} {σ : Lambda.Shape} {cK : ClassId} {s U : State} (hW : s.WarmedH U.vm) (h : lamF x pc index σ cK s) : lamF x pc index σ cK U := by
  obtain ⟨m, k, cf, i0, p0, hm, hk, hcf, hsh, hfind, hmade, hcall⟩ := h
  obtain ⟨k', hk', he⟩ := hW.alike.2.2 _ _ hk
  refine ⟨m, k', cf, i0, p0, ?_, hk', by rw [he]; exact hcf, hsh, by rw [he]; exact hfind, Lambda.isMade_warmer hW hmade, ?_⟩
  · have := State.methodNamed?_setVm (s := s) hW.alike x
    rw [hm] at this
    exact this
  · have hA := hW.alike
    simp only [State.lambdaCallable, hA.findClass, hA.assignable, hA.superclasses, hA.declaredIn] at hcall ⊢
    exact hcall
def x_L (w : XP) (U : State) : Prop := lamF xsm20 3 105 xsh20 (x_c w 20) U ∧ lamF xsm21 11 56 xsh21 (x_c w 21) U ∧ lamF xsm22 69 62 xsh22 (x_c w 22) U ∧ lamF xsm23 76 49 xsh23 (x_c w 23) U ∧ lamF xsm24 88 53 xsh24 (x_c w 24) U ∧ lamF xsm25 100 54 xsh25 (x_c w 25) U ∧ lamF xsm26 112 55 xsh26 (x_c w 26) U ∧ lamF xsm27 124 56 xsh27 (x_c w 27) U ∧ lamF xsm28 137 57 xsh28 (x_c w 28) U ∧ (∀ c, 20 ≤ c → ∀ k, x_i w c k = k) ∧ va_Mi "[Ljava/lang/Object;" (x_k w 10) U ∧ ∃ k : Class, U.vm.classes[x_d w 65]? = some k ∧ k.kind = .array (x_d w 50) (.array .int)
def x_K (w : XP) (U : State) : Prop := (∀ (c : Nat) (q : vw_C), xcl[c]? = some q → u_Kn U q.1 q.2.1 q.2.2 (x_c w c) (x_i w c)) ∧ ∀ t, 50 ≤ t → t < 90 → ArrOfT U (x_d w t) (x_ft t) ∧ va_RA U (x_d w t) (x_ft t)
/-- words that aren't in lw_all, and move -/
def xmv (w : Cond) : Bool := w.onTables && (w.keepsCast || match w with
  | .fieldLinkNest .. => true
  | .methodLinkNest .. => true
  | _ => false)
def x_N (U : State) : Prop := (∀ w : Cond, w ∈ lw_tbl → xmv w = true → va_Nw w U) ∧ (∀ C : String, Cond.arrayOver (.object C) ∈ lw_tbl → va_AO C U) ∧ ∀ E nm : String, Cond.not (Cond.castable E nm) ∈ flatC narrow_1 → va_Nc E nm U
theorem x_N.warm {s U : State} (hW : s.WarmedH U.vm) (h : x_N s) : x_N U := by
  refine ⟨fun w hw hm => ?_, fun C hC => (h.2.1 C hC).moved hW.alike, fun E nm hE => (h.2.2 E nm hE).moved hW.alike⟩
  have h1 := h.1 w hw hm
  simp only [xmv, Bool.and_eq_true, Bool.or_eq_true] at hm
  obtain ⟨ht, hm⟩ := hm
  rcases hm with hm | hm
  · exact va_tabs ht (rfl : (s.setVm U.vm).vm = U.vm) (Cond.before_shiftedCast (State.Shifted.of_warmed hW) w hm h1)
  · cases w with
    | fieldLinkNest a i b n d h => exact va_Nw.warmF hW h1
    | methodLinkNest a i x h => exact va_Nw.warmM hW h1
    | _ => cases hm
def x_ST (w : XP) (U : State) (H : Heap) : Prop := va_Z "java/lang/String" "COMPACT_STRINGS" "Z" (.int 1) (x_A w) U H ∧ va_Z "java/util/ArrayList" "DEFAULTCAPACITY_EMPTY_ELEMENTDATA" "[Ljava/lang/Object;" (.ref (x_k w 0)) (x_A w) U H ∧
  vx_Zq Bundle.tN "UNASSIGNED_STACK" Bundle.steD (x_A w) U H ∧ vx_Zq Bundle.tN "SUPPRESSED_SENTINEL" Bundle.listD (x_A w) U H ∧ va_Zq "jdk/internal/util/Preconditions" "SIOOBE_FORMATTER" "Ljava/util/function/BiFunction;" (x_A w) U H
theorem x_ST.moved {w : XP} {u U : State} {H : Heap} (hvm : u.vm.Alike U.vm) (h : x_ST w u H) : x_ST w U H := ⟨va_Z.moved hvm h.1, va_Z.moved hvm h.2.1, vx_Zq.moved hvm h.2.2.1, vx_Zq.moved hvm h.2.2.2.1, va_Zq.moved hvm h.2.2.2.2⟩
theorem x_ST.kept {w : XP} {U : State} {H H1 : Heap} (h : x_ST w U H) (hq : ∀ a : Nat, a < H.size → ¬ x_A w a → H1[a]? = H[a]?) : x_ST w U H1 := ⟨va_Z.kept h.1 hq, va_Z.kept h.2.1 hq, vx_Zq.kept h.2.2.1 hq, vx_Zq.kept h.2.2.2.1 hq, va_Zq.kept h.2.2.2.2 hq⟩
def xsr : List (String × Nat × String × Nat) := [("HallPlan$Parser", 35, "", 9), ("HallPlan$Parser", 109, "hall", 1), ("HallPlan$Parser", 111, "type", 2), ("HallPlan$Parser", 113, "kind", 3), ("HallPlan$Parser", 114, "setup", 4), ("HallPlan$Parser", 116, "closed", 5), ("HallPlan$Parser", 118, "weekly", 6), ("HallPlan$Parser", 120, "fee", 7), ("HallPlan$Parser", 122, "weekend", 8)]
def x_SR (w : XP) (U : State) : Prop := ∀ q ∈ xsr, vk_R q.1 q.2.1 q.2.2.1 (x_k w q.2.2.2) U
/-- what holds of the tables, of the statics, of constants -/
def x_T (w : XP) (U : State) (H : Heap) : Prop := x_K w U ∧ x_N U ∧ x_ST w U H ∧ x_L w U ∧ x_SR w U
theorem x_K.moved {w : XP} {u U : State} (hvm : u.vm.Alike U.vm) (h : x_K w u) : x_K w U := ⟨fun c q hq => u_Kn_moved hvm (h.1 c q hq), fun t h1 h2 => ⟨arrOfT_moved hvm (h.2 t h1 h2).1, (h.2 t h1 h2).2.moved hvm⟩⟩
theorem x_L.warm {w : XP} {s U : State} (hW : s.WarmedH U.vm) (h : x_L w s) : x_L w U := by
  obtain ⟨h1, h2, h3, h4, h5, h6, h7, h8, h9, h10, h11, k, h12, h13⟩ := h
  obtain ⟨k', hk', he'⟩ := hW.alike.2.2 _ _ h12
  exact ⟨h1.warm hW, h2.warm hW, h3.warm hW, h4.warm hW, h5.warm hW, h6.warm hW, h7.warm hW, h8.warm hW, h9.warm hW, h10, va_Mi.moved hW.alike h11, k', hk', by rw [he']; exact h13⟩
theorem x_T.warm {w : XP} {s U : State} {H H1 : Heap} (hW : s.WarmedH U.vm) (hq : ∀ a : Nat, a < H.size → ¬ x_A w a → H1[a]? = H[a]?) (h : x_T w s H) : x_T w U H1 :=
  ⟨x_K.moved hW.alike h.1, x_N.warm hW h.2.1, x_ST.moved hW.alike (x_ST.kept h.2.2.1 hq), x_L.warm hW h.2.2.2.1, fun q hq => vk_R.warm hW (h.2.2.2.2 q hq)⟩
/-- a state whose heap holds the world S -/
def x_I (w : XP) (S : HS) (U : State) : Prop := x_P w S U.heap ∧ x_G S U.heap ∧ x_T w U U.heap ∧ ∀ q, U.heap.size ≤ q → x_A w q
/-- what a walk has of its start -/
def x_E (w : XP) (s : State) : Prop := x_T w s s.heap ∧ ∀ q, s.heap.size ≤ q → x_A w q
/-- where a walk is -/
def x_W (w : XP) (H0 : Heap) (S : HS) (H : Heap) (locs : List Loc) : Prop := x_P w S H ∧ x_G S H ∧ va_S (x_A w) H0 H locs
theorem x_I.blind {w : XP} {S : HS} {av : List Value} : FrameBlind (va_Pc av (x_I w S)) := fun a U g mk q => by
  obtain ⟨q0, qP, qG, qT, qA⟩ := q
  exact ⟨q0, qP, qG, x_T.warm (s := U) (U := U.calling g mk a) (State.WarmedH.refl U) (fun _ _ _ => rfl) qT, qA⟩
theorem x_W.I {w : XP} {s U : State} {S : HS} {H : Heap} {locs : List Loc} (hT : x_E w s) (hW : x_W w s.heap S H locs) (hU : U.heap = H) (hw : s.WarmedH U.vm) : x_I w S U := by
  refine ⟨by rw [hU]; exact hW.1, by rw [hU]; exact hW.2.1, ?_, fun q hq => ?_⟩
  · rw [hU]
    exact x_T.warm hw hW.2.2.2.1 hT.1
  · rw [hU] at hq
    exact hT.2 q (Nat.le_trans hW.2.2.1 hq)
abbrev xrm (d mc ms : Nat) : Room := { frames := d + 12, cells := mc, slots := ms, locals := 128 * d + 4096 }
theorem xb_b {r : Int32} (h : r = 0 ∨ r = 1) : narrow .boolean (.int r) = .int r := by
  rcases h with rfl | rfl <;> rfl
section XROWS
variable {p : Program} {l : Launch} {e : Env} {R : Room} {s : State} {m : MethodId} {args : Array Value} {below : List Frame} {meth : Method} {c : Code} {H : Heap} {locs : List Loc} {cells slots : Nat} {Q : State → Prop}
variable {cc : ByteArray} {pc : Nat} {ls : Array Slot} {rest st0 : List Value} {w : XP} {S : HS} {H0 : Heap}
theorem x_get (hx : p.tables.exec = Jvm.exec) (hb : c.code = cc) {own ref C : String} {T : u_T} {N ci index : Nat} (hown : s.vm.findClass own = some m.cls) (hts : ∀ w ∈ lw_all, w.before args s = true) (hT : x_E w s) (hW : x_W w H0 S H locs) (hin : ∀ w ∈ u_ws C T N, w ∈ lw_all) (hc : xcl[ci]? = some (C, T, N)) (hci : ci < 40) (hN : (xlay ci).length = N) (k : Nat) (hk : k < N)
    (hlink : (Cond.fieldLink own index ref (T k).2.1 (T k).2.2.1).before args s = true) (hsame : (T k).1 = ref) {a : Nat} (hd : hD S ci a) {v : Value} (hv : (hfs ci S a)[k]? = some v) (hdg : decode cc pc = .ok (.getfield index, 3))
    (kk : W p l e R s m args below meth c H locs cells slots Q (F0 m (pc + 3) ls (v :: rest))) : W p l e R s m args below meth c H locs cells slots Q (F0 m pc ls (.ref a :: rest)) := by
  obtain ⟨cell, q1, q2, q3, q4⟩ := hW.1.1 ci a hd hci
  obtain ⟨hS, hfc, kC, hkC, hkind⟩ := hT.1.1.1 ci _ hc
  obtain ⟨cf, kf, fi, f, hi, hsl⟩ := hS k hk
  refine W.getf hx hb hown hlink (by rw [← hsame]; exact hi) (u_facts hfc (by rw [← q2] at hkC; rw [← q2]; exact hkC) (u_lays hts hin hk) hi).1 q1 (by rw [q3]; exact fun h => by cases h) (v := v) ?_ rfl rfl hdg kk
  rw [hsl, q4 k (by rw [hN]; exact hk)]
  simp [vp_V, hv]
theorem x_getN (hx : p.tables.exec = Jvm.exec) (hb : c.code = cc) {own ref C host : String} {T : u_T} {N ci index : Nat} (hown : s.vm.findClass own = some m.cls) (hts : ∀ w ∈ lw_all, w.before args s = true) (hT : x_E w s) (hW : x_W w H0 S H locs) (hin : ∀ w ∈ u_ws C T N, w ∈ lw_all) (hc : xcl[ci]? = some (C, T, N)) (hci : ci < 40) (hN : (xlay ci).length = N) (k : Nat) (hk : k < N)
    (hlink : Cond.fieldLinkNest own index ref (T k).2.1 (T k).2.2.1 host ∈ lw_tbl) (hsame : (T k).1 = ref) {a : Nat} (hd : hD S ci a) {v : Value} (hv : (hfs ci S a)[k]? = some v) (hdg : decode cc pc = .ok (.getfield index, 3))
    (kk : W p l e R s m args below meth c H locs cells slots Q (F0 m (pc + 3) ls (v :: rest))) : W p l e R s m args below meth c H locs cells slots Q (F0 m pc ls (.ref a :: rest)) := by
  obtain ⟨cell, q1, q2, q3, q4⟩ := hW.1.1 ci a hd hci
  obtain ⟨hS, hfc, kC, hkC, hkind⟩ := hT.1.1.1 ci _ hc
  obtain ⟨cf, kf, fi, f, hi, hsl⟩ := hS k hk
  have hl : (Cond.fieldLinkNest own index ref (T k).2.1 (T k).2.2.1 host).before args s = true := va_Nw.use rfl (hT.1.2.1.1 _ hlink rfl)
  refine va_Wgetf hx hb hown hl (by rw [← hsame]; exact hi) (u_facts hfc hkC (u_lays hts hin hk) hi).1 q1 (by rw [q3]; exact fun h => by cases h) (v := v) ?_ rfl rfl hdg kk
  rw [hsl, q4 k (by rw [hN]; exact hk)]
  simp [vp_V, hv]
theorem x_apart (hts : ∀ w ∈ lw_all, w.before args s = true) {C : String} {T : u_T} {N ci : Nat} (hT : x_E w s) (hin : ∀ w ∈ u_ws C T N, w ∈ lw_all) (hc : xcl[ci]? = some (C, T, N)) (ty : Nat → FieldType) (hty : ∀ k, k < N → parseFieldDescriptor (T k).2.2.1 = some (ty k)) (hnm : ∀ a, a < N → ∀ b, b < N → a ≠ b → (T a).2.1 ≠ (T b).2.1) : ∀ x y, x < N → y < N → x ≠ y → (x_i w ci) x ≠ (x_i w ci) y := by
  intro x y hx hy hne
  obtain ⟨hS, -⟩ := hT.1.1.1 ci _ hc
  obtain ⟨_, _, _, fa, hia, ea⟩ := hS x hx
  obtain ⟨_, _, _, fb, hib, eb⟩ := hS y hy
  rw [← ea, ← eb]
  refine u_apart (u_lays hts hin hx) (u_lays hts hin hy) hia hib ?_
  rw [(State.fieldFound?_type hia (hty x hx)).1, (State.fieldFound?_type hib (hty y hy)).1]
  exact hnm x hx y hy hne
theorem x_W.setO {S S1 : HS} {H1 : Heap} {ci a k : Nat} (hW : x_W w H0 S H locs) (hd : hD S ci a) (hci : ci < 40) (hwr : ci ≠ 15 ∨ hD S 99 a) (eD : hD S1 = hD S) (eL : hL S1 = hL S) (eA : hA S1 = hA S) (eB : hB S1 = hB S) (eI : ∀ k x, x ≠ a → hI S1 k x = hI S k x) (eR : ∀ k x, x ≠ a → hR S1 k x = hR S k x)
    (ho : xO w ci S1 a H1) (z : H1.size = H.size) (oq : ∀ q : Nat, q ≠ a → H1[q]? = H[q]?) : x_W w H0 S1 H1 (locs ++ [⟨a, k⟩]) := by
  have hAa : x_A w a := by
    rcases hwr with h | h
    · exact hW.1.2.2.2.2.2.2 ci a hd (by omega) h (by omega) (by omega)
    · exact hW.1.2.2.2.2.2.1 a h
  refine ⟨hW.1.setO hd hci eD eL eA eB eI eR ho oq, ?_, hW.2.2.put z oq hAa⟩
  obtain ⟨g1, g2⟩ := hW.2.1
  exact ⟨fun t a h => g1 t a (by rw [eD] at h; exact h), fun a h => by rw [z]; exact g2 a (by rw [eD] at h; exact h)⟩
theorem x_put0 {own C ref : String} {T : u_T} {N ci index : Nat} (hx : p.tables.exec = Jvm.exec) (hb : c.code = cc) (hown : s.vm.findClass own = some m.cls) (hts : ∀ w ∈ lw_all, w.before args s = true) (hT : x_E w s) (hW : x_W w H0 S H locs) (hin : ∀ w ∈ u_ws C T N, w ∈ lw_all) (hc : xcl[ci]? = some (C, T, N)) (hci : ci < 40) (hN : (xlay ci).length = N) (ty0 : Nat → FieldType) (hty : ∀ k, k < N → parseFieldDescriptor (T k).2.2.1 = some (ty0 k)) (hnm : ∀ a, a < N → ∀ b, b < N → a ≠ b → (T a).2.1 ≠ (T b).2.1) (k : Nat) (hk : k < N)
    (hlink : (Cond.fieldLink own index ref (T k).2.1 (T k).2.2.1).before args s = true ∨ ∃ host, (Cond.fieldLinkNest own index ref (T k).2.1 (T k).2.2.1 host).before args s = true) (hsame : (T k).1 = ref) (hfin : (T k).2.2.2 = false ∨ ((Cond.fieldLink own index ref (T k).2.1 (T k).2.2.1).before args s = true ∧ (T k).2.2.2 = true ∧ meth.name = "<init>" ∧ (T k).1 = own)) {a : Nat} (hd : hD S ci a) {v : Value} (hn : narrow (ty0 k) v = v) (hfit : fits (ty0 k) v = true) (hdg : decode cc pc = .ok (.putfield index, 3))
    (kk : ∀ H1 : Heap, t_OB a (x_c w ci) (xlay ci).length (x_i w ci) H1 (vp_V ((hfs ci S a).set k v)) → H1.size = H.size → (∀ q : Nat, q ≠ a → H1[q]? = H[q]?) → W p l e R s m args below meth c H1 (locs ++ [⟨a, x_i w ci k⟩]) cells slots Q (F0 m (pc + 3) ls rest)) : W p l e R s m args below meth c H locs cells slots Q (F0 m pc ls (v :: .ref a :: rest)) := by
  have hap := x_apart hts hT hin hc ty0 hty hnm
  obtain ⟨cell, q1, q2, q3, q4⟩ := hW.1.1 ci a hd hci
  obtain ⟨hS, hfc, kC, hkC, hkind⟩ := hT.1.1.1 ci _ hc
  obtain ⟨cf, kf, fi, f, hi, hsl⟩ := hS k hk
  have hlay := hts _ (hin _ (u_in_lay hk))
  have hst := (u_facts hfc hkC (u_lays hts hin hk) hi).1
  have hlt : k < (hfs ci S a).length := by rw [hfs_len, hN]; exact hk
  have fin : ∀ H' : Heap, H'[a]? = some (cell.setSlot f.slot v) → t_OB a (x_c w ci) (xlay ci).length (x_i w ci) H' (vp_V ((hfs ci S a).set k v)) := by
    intro H' e1
    rw [hsl] at e1
    rw [hN] at q4 ⊢
    exact t_OB.to (V := updV (vp_V (hfs ci S a)) k v) ⟨_, e1, q2, q3, t_set q4 hap hk v⟩ (fun j _ => vp_updV_set hlt v j)
  have hslot : f.slot < cell.slots.size := by rw [hsl]; exact k2_hasslot (q4 k (by rw [hN]; exact hk))
  rcases hfin with hfin | ⟨hl, hfin, hin2, hdecl⟩
  · unfold u_lay at hlay
    rw [if_neg (by rw [hfin]; decide)] at hlay
    have h6 := u_store hfc hkC hkind hlay hi (hty k hk) hn hfit
    rcases hlink with hl | ⟨host, hl⟩
    · refine W.putK hx hb (f := f) ⟨hown, hl, ⟨_, _, _, by rw [← hsame]; exact hi⟩, hst⟩ (by rw [q2]; exact h6) q1 q3 hslot rfl rfl hdg fun H' e1 e2 e3 => ?_
      have := kk H' (fin H' e1) e2 e3
      rw [hsl]
      exact this
    · refine va_WputK hx hb (f := f) hown hl (by rw [← hsame]; exact hi) hst (by rw [q2]; exact h6) q1 q3 hslot rfl rfl hdg fun H' e1 e2 e3 => ?_
      have := kk H' (fin H' e1) e2 e3
      rw [hsl]
      exact this
  · unfold u_lay at hlay
    rw [if_pos hfin] at hlay
    have hcf : m.cls = cf := by
      obtain ⟨_, _, c', _, _, _, -, -, hf', -, -, -, hown2, -⟩ := Cond.laysFinal_spec hlay
      have e1 : c' = cf := by have := hi.symm.trans hf'; simp at this; exact this.1.symm
      rw [hdecl] at hown2
      rw [← e1]; exact Option.some.inj (hown.symm.trans hown2)
    have h6 := u_fits hfc hkC hkind (Or.inr hlay) hi (hty k hk) hn hfit
    refine W.putFinK hx hb hown hl (by rw [← hsame]; exact hi) hst hcf hin2 (by rw [q2]; exact h6) q1 q3 hslot rfl rfl hdg fun H' e1 e2 e3 => ?_
    have := kk H' (fin H' e1) e2 e3
    rw [hsl]
    exact this
theorem x_puti {own C ref : String} {T : u_T} {N ci index : Nat} (hx : p.tables.exec = Jvm.exec) (hb : c.code = cc) (hown : s.vm.findClass own = some m.cls) (hts : ∀ w ∈ lw_all, w.before args s = true) (hT : x_E w s) (hW : x_W w H0 S H locs) (hin : ∀ w ∈ u_ws C T N, w ∈ lw_all) (hc : xcl[ci]? = some (C, T, N)) (hci : ci < 40) (hN : (xlay ci).length = N) (ty0 : Nat → FieldType) (hty : ∀ k, k < N → parseFieldDescriptor (T k).2.2.1 = some (ty0 k)) (hnm : ∀ a, a < N → ∀ b, b < N → a ≠ b → (T a).2.1 ≠ (T b).2.1) (k : Nat) (hk : k < N) (hly : (xlay ci)[k]? = some false)
    (hlink : (Cond.fieldLink own index ref (T k).2.1 (T k).2.2.1).before args s = true ∨ ∃ host, (Cond.fieldLinkNest own index ref (T k).2.1 (T k).2.2.1 host).before args s = true) (hsame : (T k).1 = ref) (hfin : (T k).2.2.2 = false ∨ ((Cond.fieldLink own index ref (T k).2.1 (T k).2.2.1).before args s = true ∧ (T k).2.2.2 = true ∧ meth.name = "<init>" ∧ (T k).1 = own)) {a : Nat} (hd : hD S ci a) (hwr : ci ≠ 15 ∨ hD S 99 a) {x : Int32} (hn : narrow (ty0 k) (.int x) = .int x) (hfit : fits (ty0 k) (.int x) = true) {key : Nat} (hkey : 100 * ci + k = key) (hdg : decode cc pc = .ok (.putfield index, 3))
    (kk : ∀ (S1 : HS) (H1 : Heap) (locs1 : List Loc), S1 = sI S key a x → x_W w H0 S1 H1 locs1 → W p l e R s m args below meth c H1 locs1 cells slots Q (F0 m (pc + 3) ls rest)) : W p l e R s m args below meth c H locs cells slots Q (F0 m pc ls (.int x :: .ref a :: rest)) := by
  subst hkey
  refine x_put0 hx hb hown hts hT hW hin hc hci hN ty0 hty hnm k hk hlink hsame hfin hd hn hfit hdg fun H1 ho z oq => ?_
  refine kk _ H1 _ rfl (hW.setO hd hci hwr rfl rfl rfl rfl (fun k' y hy => ?_) (fun _ _ _ => rfl) ?_ z oq)
  · rw [sI_I]
    simp [hy]
  · show t_OB _ _ _ _ _ _
    rw [← hfs_setI hly]
    exact ho
theorem x_putr {own C ref : String} {T : u_T} {N ci index : Nat} (hx : p.tables.exec = Jvm.exec) (hb : c.code = cc) (hown : s.vm.findClass own = some m.cls) (hts : ∀ w ∈ lw_all, w.before args s = true) (hT : x_E w s) (hW : x_W w H0 S H locs) (hin : ∀ w ∈ u_ws C T N, w ∈ lw_all) (hc : xcl[ci]? = some (C, T, N)) (hci : ci < 40) (hN : (xlay ci).length = N) (ty0 : Nat → FieldType) (hty : ∀ k, k < N → parseFieldDescriptor (T k).2.2.1 = some (ty0 k)) (hnm : ∀ a, a < N → ∀ b, b < N → a ≠ b → (T a).2.1 ≠ (T b).2.1) (k : Nat) (hk : k < N) (hly : (xlay ci)[k]? = some true)
    (hlink : (Cond.fieldLink own index ref (T k).2.1 (T k).2.2.1).before args s = true ∨ ∃ host, (Cond.fieldLinkNest own index ref (T k).2.1 (T k).2.2.1 host).before args s = true) (hsame : (T k).1 = ref) (hfin : (T k).2.2.2 = false ∨ ((Cond.fieldLink own index ref (T k).2.1 (T k).2.2.1).before args s = true ∧ (T k).2.2.2 = true ∧ meth.name = "<init>" ∧ (T k).1 = own)) {a : Nat} (hd : hD S ci a) (hwr : ci ≠ 15 ∨ hD S 99 a) (x : Option Nat) (hn : narrow (ty0 k) (va_rf x) = va_rf x) (hfit : fits (ty0 k) (va_rf x) = true) {key : Nat} (hkey : 100 * ci + k = key) (hdg : decode cc pc = .ok (.putfield index, 3))
    (kk : ∀ (S1 : HS) (H1 : Heap) (locs1 : List Loc), S1 = sR S key a x → x_W w H0 S1 H1 locs1 → W p l e R s m args below meth c H1 locs1 cells slots Q (F0 m (pc + 3) ls rest)) : W p l e R s m args below meth c H locs cells slots Q (F0 m pc ls (va_rf x :: .ref a :: rest)) := by
  subst hkey
  refine x_put0 hx hb hown hts hT hW hin hc hci hN ty0 hty hnm k hk hlink hsame hfin hd hn hfit hdg fun H1 ho z oq => ?_
  refine kk _ H1 _ rfl (hW.setO hd hci hwr rfl rfl rfl rfl (fun _ _ _ => rfl) (fun k' y hy => ?_) ?_ z oq)
  · rw [sR_R]
    simp [hy]
  · show t_OB _ _ _ _ _ _
    rw [← hfs_setR hly]
    exact ho
end XROWS
