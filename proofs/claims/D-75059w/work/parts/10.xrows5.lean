/-! THE FREE HEAP (5): the printer's rows -/
set_option maxRecDepth 100000
theorem hfs_i {c : Nat} {S : HS} {a k key : Nat} (h : (xlay c)[k]? = some false) (hk : 100 * c + k = key) : (hfs c S a)[k]? = some (.int (hI S key a)) := by subst hk; rw [hfs_get h]; rfl
theorem hfs_o {c : Nat} {S : HS} {a k key : Nat} (h : (xlay c)[k]? = some true) (hk : 100 * c + k = key) : (hfs c S a)[k]? = some (va_rf (hR S key a)) := by subst hk; rw [hfs_get h]; rfl
theorem hfs_r {c : Nat} {S : HS} {a k key b : Nat} (h : (xlay c)[k]? = some true) (hk : 100 * c + k = key) (hb : hR S key a = some b) : (hfs c S a)[k]? = some (.ref b) := by rw [hfs_o h hk, hb]; rfl
theorem dI {S S1 : HS} {k a : Nat} {v : Int32} (e : S1 = sI S k a v) {t x : Nat} (h : hD S t x) : hD S1 t x := by subst e; exact h
theorem dR {S S1 : HS} {k a : Nat} {v : Option Nat} (e : S1 = sR S k a v) {t x : Nat} (h : hD S t x) : hD S1 t x := by subst e; exact h
theorem dA {S S1 : HS} {k a : Nat} {v : Int32} (e : S1 = sA S k a v) {t x : Nat} (h : hD S t x) : hD S1 t x := by subst e; exact h
theorem dB {S S1 : HS} {k a : Nat} {v : Option Nat} (e : S1 = sB S k a v) {t x : Nat} (h : hD S t x) : hD S1 t x := by subst e; exact h
theorem dO {S S1 : HS} {t0 q : Nat} (e : S1 = nO S t0 q) {t x : Nat} (h : hD S t x) : hD S1 t x := by subst e; exact Or.inl h
theorem dN {S S1 : HS} {t0 q n : Nat} (e : S1 = nA S t0 q n) {t x : Nat} (h : hD S t x) : hD S1 t x := by subst e; exact Or.inl h
theorem dOn {S S1 : HS} {t0 q : Nat} (e : S1 = nO S t0 q) : hD S1 t0 q := by subst e; exact Or.inr ⟨rfl, Or.inl rfl⟩
theorem dO9 {S S1 : HS} {t0 q : Nat} (e : S1 = nO S t0 q) : hD S1 99 q := by subst e; exact Or.inr ⟨rfl, Or.inr rfl⟩
theorem dNn {S S1 : HS} {t0 q n : Nat} (e : S1 = nA S t0 q n) : hD S1 t0 q := by subst e; exact Or.inr ⟨rfl, Or.inl rfl⟩
theorem dN9 {S S1 : HS} {t0 q n : Nat} (e : S1 = nA S t0 q n) : hD S1 99 q := by subst e; exact Or.inr ⟨rfl, Or.inr rfl⟩
/-- things that lists hold -/
def xObj (S : HS) (v : Nat) : Prop := hD S 6 v ∨ hD S 7 v ∨ hD S 15 v ∨ hD S 8 v ∨ hD S 11 v ∨ hD S 2 v
def xcc (x : Int32) : Int32 := (x.toUInt32 % 65536).toInt32
theorem xcc_s (x : Int32) : xcc (xcc x) = xcc x := by
  have h : (x.toUInt32 % 65536 % 65536) = x.toUInt32 % 65536 := UInt32.toNat_inj.mp (by simp)
  simp [xcc, h]
theorem xcc_c (x : Int32) : narrow .char (.int (xcc x)) = .int (xcc x) := pk_nc x
theorem xcc_f (x : Int32) : fits .char (.int (xcc x)) = true := pk_fc x
theorem xcc_v (x : Int32) : (x.toUInt32 % 65536).toInt32 = xcc x := rfl
theorem xbb_c (x : Int32) : narrow .byte (.int (x.toInt8.toInt32)) = .int (x.toInt8.toInt32) := by
  show Value.int _ = Value.int _
  simp
section XR5
variable {p : Program} {l : Launch} {e : Env} {R : Room} {s : State} {m : MethodId} {args : Array Value} {below : List Frame} {meth : Method} {c : Code} {H : Heap} {locs : List Loc} {cells slots : Nat} {Q : State → Prop}
variable {cc : ByteArray} {pc : Nat} {ls : Array Slot} {rest st0 : List Value} {w : XP} {S : HS} {H0 : Heap}
theorem x_gi (hx : p.tables.exec = Jvm.exec) (hb : c.code = cc) {own ref C : String} {T : u_T} {N ci index : Nat} (hown : s.vm.findClass own = some m.cls) (hts : ∀ w ∈ lw_all, w.before args s = true) (hT : x_E w s) (hW : x_W w H0 S H locs) (hin : ∀ w ∈ u_ws C T N, w ∈ lw_all) (hc : xcl[ci]? = some (C, T, N)) (hci : ci < 40) (hN : (xlay ci).length = N) (k : Nat) (hk : k < N) (hly : (xlay ci)[k]? = some false) {key : Nat} (hkey : 100 * ci + k = key)
    (hlink : (Cond.fieldLink own index ref (T k).2.1 (T k).2.2.1).before args s = true) (hsame : (T k).1 = ref) {a : Nat} (hd : hD S ci a) (hdg : decode cc pc = .ok (.getfield index, 3))
    (kk : W p l e R s m args below meth c H locs cells slots Q (F0 m (pc + 3) ls (.int (hI S key a) :: rest))) : W p l e R s m args below meth c H locs cells slots Q (F0 m pc ls (.ref a :: rest)) :=
  x_get hx hb hown hts hT hW hin hc hci hN k hk hlink hsame hd (hfs_i hly hkey) hdg kk
theorem x_go (hx : p.tables.exec = Jvm.exec) (hb : c.code = cc) {own ref C : String} {T : u_T} {N ci index : Nat} (hown : s.vm.findClass own = some m.cls) (hts : ∀ w ∈ lw_all, w.before args s = true) (hT : x_E w s) (hW : x_W w H0 S H locs) (hin : ∀ w ∈ u_ws C T N, w ∈ lw_all) (hc : xcl[ci]? = some (C, T, N)) (hci : ci < 40) (hN : (xlay ci).length = N) (k : Nat) (hk : k < N) (hly : (xlay ci)[k]? = some true) {key : Nat} (hkey : 100 * ci + k = key)
    (hlink : (Cond.fieldLink own index ref (T k).2.1 (T k).2.2.1).before args s = true) (hsame : (T k).1 = ref) {a : Nat} (hd : hD S ci a) (hdg : decode cc pc = .ok (.getfield index, 3))
    (kk : W p l e R s m args below meth c H locs cells slots Q (F0 m (pc + 3) ls (va_rf (hR S key a) :: rest))) : W p l e R s m args below meth c H locs cells slots Q (F0 m pc ls (.ref a :: rest)) :=
  x_get hx hb hown hts hT hW hin hc hci hN k hk hlink hsame hd (hfs_o hly hkey) hdg kk
theorem x_gr (hx : p.tables.exec = Jvm.exec) (hb : c.code = cc) {own ref C : String} {T : u_T} {N ci index : Nat} (hown : s.vm.findClass own = some m.cls) (hts : ∀ w ∈ lw_all, w.before args s = true) (hT : x_E w s) (hW : x_W w H0 S H locs) (hin : ∀ w ∈ u_ws C T N, w ∈ lw_all) (hc : xcl[ci]? = some (C, T, N)) (hci : ci < 40) (hN : (xlay ci).length = N) (k : Nat) (hk : k < N) (hly : (xlay ci)[k]? = some true) {key : Nat} (hkey : 100 * ci + k = key)
    (hlink : (Cond.fieldLink own index ref (T k).2.1 (T k).2.2.1).before args s = true) (hsame : (T k).1 = ref) {a b : Nat} (hd : hD S ci a) (hr : hR S key a = some b) (hdg : decode cc pc = .ok (.getfield index, 3))
    (kk : W p l e R s m args below meth c H locs cells slots Q (F0 m (pc + 3) ls (.ref b :: rest))) : W p l e R s m args below meth c H locs cells slots Q (F0 m pc ls (.ref a :: rest)) :=
  x_get hx hb hown hts hT hW hin hc hci hN k hk hlink hsame hd (hfs_r hly hkey hr) hdg kk
theorem x_giN (hx : p.tables.exec = Jvm.exec) (hb : c.code = cc) {own ref C host : String} {T : u_T} {N ci index : Nat} (hown : s.vm.findClass own = some m.cls) (hts : ∀ w ∈ lw_all, w.before args s = true) (hT : x_E w s) (hW : x_W w H0 S H locs) (hin : ∀ w ∈ u_ws C T N, w ∈ lw_all) (hc : xcl[ci]? = some (C, T, N)) (hci : ci < 40) (hN : (xlay ci).length = N) (k : Nat) (hk : k < N) (hly : (xlay ci)[k]? = some false) {key : Nat} (hkey : 100 * ci + k = key)
    (hlink : Cond.fieldLinkNest own index ref (T k).2.1 (T k).2.2.1 host ∈ lw_tbl) (hsame : (T k).1 = ref) {a : Nat} (hd : hD S ci a) (hdg : decode cc pc = .ok (.getfield index, 3))
    (kk : W p l e R s m args below meth c H locs cells slots Q (F0 m (pc + 3) ls (.int (hI S key a) :: rest))) : W p l e R s m args below meth c H locs cells slots Q (F0 m pc ls (.ref a :: rest)) :=
  x_getN hx hb hown hts hT hW hin hc hci hN k hk hlink hsame hd (hfs_i hly hkey) hdg kk
theorem x_goN (hx : p.tables.exec = Jvm.exec) (hb : c.code = cc) {own ref C host : String} {T : u_T} {N ci index : Nat} (hown : s.vm.findClass own = some m.cls) (hts : ∀ w ∈ lw_all, w.before args s = true) (hT : x_E w s) (hW : x_W w H0 S H locs) (hin : ∀ w ∈ u_ws C T N, w ∈ lw_all) (hc : xcl[ci]? = some (C, T, N)) (hci : ci < 40) (hN : (xlay ci).length = N) (k : Nat) (hk : k < N) (hly : (xlay ci)[k]? = some true) {key : Nat} (hkey : 100 * ci + k = key)
    (hlink : Cond.fieldLinkNest own index ref (T k).2.1 (T k).2.2.1 host ∈ lw_tbl) (hsame : (T k).1 = ref) {a : Nat} (hd : hD S ci a) (hdg : decode cc pc = .ok (.getfield index, 3))
    (kk : W p l e R s m args below meth c H locs cells slots Q (F0 m (pc + 3) ls (va_rf (hR S key a) :: rest))) : W p l e R s m args below meth c H locs cells slots Q (F0 m pc ls (.ref a :: rest)) :=
  x_getN hx hb hown hts hT hW hin hc hci hN k hk hlink hsame hd (hfs_o hly hkey) hdg kk
theorem x_grN (hx : p.tables.exec = Jvm.exec) (hb : c.code = cc) {own ref C host : String} {T : u_T} {N ci index : Nat} (hown : s.vm.findClass own = some m.cls) (hts : ∀ w ∈ lw_all, w.before args s = true) (hT : x_E w s) (hW : x_W w H0 S H locs) (hin : ∀ w ∈ u_ws C T N, w ∈ lw_all) (hc : xcl[ci]? = some (C, T, N)) (hci : ci < 40) (hN : (xlay ci).length = N) (k : Nat) (hk : k < N) (hly : (xlay ci)[k]? = some true) {key : Nat} (hkey : 100 * ci + k = key)
    (hlink : Cond.fieldLinkNest own index ref (T k).2.1 (T k).2.2.1 host ∈ lw_tbl) (hsame : (T k).1 = ref) {a b : Nat} (hd : hD S ci a) (hr : hR S key a = some b) (hdg : decode cc pc = .ok (.getfield index, 3))
    (kk : W p l e R s m args below meth c H locs cells slots Q (F0 m (pc + 3) ls (.ref b :: rest))) : W p l e R s m args below meth c H locs cells slots Q (F0 m pc ls (.ref a :: rest)) :=
  x_getN hx hb hown hts hT hW hin hc hci hN k hk hlink hsame hd (hfs_r hly hkey hr) hdg kk
/-- null or not -/
theorem x_ifnull {o : Option Nat} (hexec : p.tables.exec = Jvm.exec) (hb : c.code = cc) {off : Int} {tgt : Nat} (hdg : decode cc pc = .ok (.ifnull off, 3)) (ht : (pc : Int) + off = (tgt : Int)) (k0 : o = none → W p l e R s m args below meth c H locs cells slots Q (F0 m tgt ls rest)) (k1 : ∀ a, o = some a → W p l e R s m args below meth c H locs cells slots Q (F0 m (pc + 3) ls rest)) : W p l e R s m args below meth c H locs cells slots Q (F0 m pc ls (va_rf o :: rest)) := by
  cases o with
  | none => exact lv_ifnullN hexec hb hdg ht (k0 rfl)
  | some a => exact lv_ifnull hexec hb hdg (k1 a rfl)
theorem x_ifnonnull {o : Option Nat} (hexec : p.tables.exec = Jvm.exec) (hb : c.code = cc) {off : Int} {tgt : Nat} (hdg : decode cc pc = .ok (.ifnonnull off, 3)) (ht : (pc : Int) + off = (tgt : Int)) (k1 : ∀ a, o = some a → W p l e R s m args below meth c H locs cells slots Q (F0 m tgt ls rest)) (k0 : o = none → W p l e R s m args below meth c H locs cells slots Q (F0 m (pc + 3) ls rest)) : W p l e R s m args below meth c H locs cells slots Q (F0 m pc ls (va_rf o :: rest)) := by
  cases o with
  | none => exact lv_ifnonnullN hexec hb hdg (k0 rfl)
  | some a => exact lv_ifnonnull hexec hb hdg ht (k1 a rfl)
/-- two references, the same or not -/
theorem x_acmp_eq {a b : Nat} (hexec : p.tables.exec = Jvm.exec) (hb : c.code = cc) {off : Int} {tgt : Nat} (hdg : decode cc pc = .ok (.if_acmp .eq off, 3)) (ht : (pc : Int) + off = (tgt : Int)) (k1 : a = b → W p l e R s m args below meth c H locs cells slots Q (F0 m tgt ls rest)) (k0 : ¬ a = b → W p l e R s m args below meth c H locs cells slots Q (F0 m (pc + 3) ls rest)) : W p l e R s m args below meth c H locs cells slots Q (F0 m pc ls (.ref b :: .ref a :: rest)) :=
  lv_acmp_eq (rx := some a) (ry := some b) hexec hb hdg ht (fun h => k1 (Option.some.inj h)) (fun h => k0 (fun q => h (congrArg some q)))
theorem x_acmp_ne {a b : Nat} (hexec : p.tables.exec = Jvm.exec) (hb : c.code = cc) {off : Int} {tgt : Nat} (hdg : decode cc pc = .ok (.if_acmp .ne off, 3)) (ht : (pc : Int) + off = (tgt : Int)) (k1 : ¬ a = b → W p l e R s m args below meth c H locs cells slots Q (F0 m tgt ls rest)) (k0 : a = b → W p l e R s m args below meth c H locs cells slots Q (F0 m (pc + 3) ls rest)) : W p l e R s m args below meth c H locs cells slots Q (F0 m pc ls (.ref b :: .ref a :: rest)) :=
  lv_acmp_ne (rx := some a) (ry := some b) hexec hb hdg ht (fun h => k1 (fun q => h (congrArg some q))) (fun h => k0 (Option.some.inj h))
end XR5
