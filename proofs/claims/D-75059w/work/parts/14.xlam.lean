/-! LAMBDAS (1): made -/
set_option maxRecDepth 100000
section XSITE
variable {α : Type} {r : α}
theorem xs_a {x : Option CpInfo} {f : Nat → Nat → Option α} (h : Lambda.shapeOf?.match_19 (fun _ => Option α) x f (fun _ => none) = some r) : ∃ b nt, x = some (.invokeDynamic b nt) ∧ f b nt = some r := by
  revert h
  split <;> intro h
  · exact ⟨_, _, rfl, h⟩
  · cases h
theorem xs_b {x : Option CpInfo} {f : Nat → Option α} (h : Lambda.shapeOf?.match_17 (fun _ => Option α) x f (fun _ => none) = some r) : ∃ y, f y = some r := by
  revert h
  split <;> intro h
  · exact ⟨_, h⟩
  · cases h
theorem xs_c {x : Array Nat} {f : Nat → Nat → Nat → Option α} (h : Lambda.shapeOf?.match_15 (fun _ => Option α) x f (fun _ => none) = some r) : ∃ a b c, f a b c = some r := by
  obtain ⟨L⟩ := x
  rcases L with _ | ⟨a0, _ | ⟨a1, _ | ⟨a2, _ | ⟨a3, q⟩⟩⟩⟩
  · cases h
  · cases h
  · cases h
  · exact ⟨a0, a1, a2, h⟩
  · cases h
theorem xs_d {x : Option CpInfo} {f : Nat → Option α} (h : Lambda.shapeOf?.match_9 (fun _ => Option α) x f (fun _ => none) = some r) : ∃ y, f y = some r := by
  revert h
  split <;> intro h
  · exact ⟨_, h⟩
  · cases h
theorem xs_e {x : Option CpInfo} {f : Nat → Nat → Option α} (h : Lambda.shapeOf?.match_12 (fun _ => Option α) x f (fun _ => none) = some r) : ∃ y z, f y z = some r := by
  revert h
  split <;> intro h
  · exact ⟨_, _, h⟩
  · cases h
theorem xs_f {x : Option FieldType} {f : String → Option α} (h : Lambda.shapeOf?.match_6 (fun _ => Option α) x f (fun _ => none) = some r) : ∃ y, f y = some r := by
  revert h
  split <;> intro h
  · exact ⟨_, h⟩
  · cases h
end XSITE
theorem x_site {cf : ClassFile} {index : Nat} {σ : Lambda.Shape} (h : Lambda.shapeOf? cf index = some σ) :
    ∃ (b nt : Nat) (desc : String) (site : ClassFile.MethodDescriptor), cf.constantPool[index]? = some (.invokeDynamic b nt) ∧ cf.constantPool.nameAndType? nt = some (σ.name, desc) ∧ parseMethodDescriptor desc = some site ∧ site.parameters = σ.captured := by
  unfold Lambda.shapeOf? at h
  obtain ⟨b, nt, hc, h⟩ := xs_a h
  refine ⟨b, nt, ?_⟩
  replace h := Option.bind_eq_some_iff.mp h
  replace h := Option.bind_eq_some_iff.mp h.choose_spec.2
  replace h := xs_b h.choose_spec.2
  replace h := Option.bind_eq_some_iff.mp h.choose_spec
  obtain ⟨a0, a1, a2, h⟩ := xs_c h.choose_spec.2
  replace h := xs_d h
  obtain ⟨kind, r1, h⟩ := xs_e h.choose_spec
  replace h := xs_d h
  obtain ⟨nd, hnt, h⟩ := Option.bind_eq_some_iff.mp h.choose_spec
  obtain ⟨site, hsite, h⟩ := Option.bind_eq_some_iff.mp h
  replace h := xs_f h
  obtain ⟨im, -, h⟩ := Option.bind_eq_some_iff.mp h.choose_spec
  obtain ⟨y1, -, h⟩ := Option.bind_eq_some_iff.mp h
  obtain ⟨y2, -, h⟩ := Option.bind_eq_some_iff.mp h
  obtain ⟨y3, -, h⟩ := Option.bind_eq_some_iff.mp h
  obtain ⟨y4, -, h⟩ := Option.bind_eq_some_iff.mp h
  obtain ⟨y5, -, h⟩ := Option.bind_eq_some_iff.mp h
  have e := Option.some.inj h
  have e1 : nd.1 = σ.name := by rw [← e]
  have e2 : site.parameters = σ.captured := by rw [← e]
  exact ⟨nd.2, site, hc, by rw [← e1]; exact hnt, hsite, e2⟩
/-- what a made class lays -/
theorem x_types {e : Setting} {s : State} {args : Array Value} {d c : ClassId} {σ : Lambda.Shape} {dk : Class} {nm : String} {tys : Array FieldType} (h : Lambda.isMade e s.vm d σ c = true) (hd : s.vm.classes[d]? = some dk) (hn : dk.name = nm)
    (hO : (Cond.instantiable "java/lang/Object" 0).before args s = true) (hl : ((σ.file nm).bind (layoutFields · 0)).map (·.2.1) = some tys) : ∃ k, s.vm.classes[c]? = some k ∧ k.instanceTypes = tys ∧ k.kind = .ordinary := by
  obtain ⟨dk', k, ok, tk, file, cf, object, iface, t, lay, methods, target, found, h1, h2, h3, h4, h5, h6, h7, h8, -, -, -, -, -, ⟨-, hkind, -⟩, -, -, -, -, -, -, -, ⟨hty, -⟩, -⟩ := Lambda.isMade_spec h
  have e1 : dk' = dk := Option.some.inj (h1.symm.trans hd)
  obtain ⟨cO, kO, hfO, hkO, -, -, -, hsz⟩ := Cond.instantiable_spec hO
  have e2 : cO = object := Option.some.inj (hfO.symm.trans h5)
  rw [e2, h7] at hkO
  have e3 : ok = kO := Option.some.inj hkO
  rw [← e3] at hsz
  have hz : ok.instanceTypes = #[] := Array.eq_empty_of_size_eq_zero hsz
  rw [hsz] at h8
  rw [e1, hn] at h4
  rw [h4, Option.bind_some, h8] at hl
  have e4 : lay.2.1 = tys := Option.some.inj hl
  exact ⟨k, h2, by rw [hty, hz, e4, Array.empty_append], hkind⟩
/-- a new thing, its fields set -/
theorem x_P.newF {w : XP} {S S1 : HS} {H H1 : Heap} {c : Nat} (h : x_P w S H) (hn : xNew S H.size) (hc : c < 40) (hAw : x_A w H.size) (eD : hD S1 = hD (nO S c H.size)) (eI : ∀ k x, x ≠ H.size → hI S1 k x = hI S k x) (eR : ∀ k x, x ≠ H.size → hR S1 k x = hR S k x) (eL : hL S1 = hL S) (eA : hA S1 = hA S) (eB : hB S1 = hB S) (ho : xO w c S1 H.size H1) (oq : ∀ q : Nat, q < H.size → H1[q]? = H[q]?) : x_P w S1 H1 := by
  have hl : ∀ {t a}, hD S t a → t < 90 → a < H.size := fun hd ht => h.lt hd ht
  obtain ⟨p1, p2, p3, p4, p5, p6, p7⟩ := h
  refine ⟨fun c' a' hd' hc' => ?_, fun t' a' hd' g1 g2 => ?_, fun t' a' hd' g1 g2 => ?_, fun t u a' g1 g2 g3 g4 => ?_, fun t a' g1 g2 => ?_, fun a' g1 => ?_, fun t a' g1 g2 => ?_⟩
  · rw [eD] at hd'
    rcases hd' with hd' | ⟨rfl, e | e⟩
    · have lt := hl hd' (by omega)
      have hf : hfs c' S1 a' = hfs c' S a' := hfs_congr (fun k => eI k a' (by omega)) (fun k => eR k a' (by omega))
      show t_OB _ _ _ _ _ _
      rw [hf]
      exact (p1 c' a' hd' hc').kept (oq a' lt)
    · subst e; exact ho
    · omega
  · rw [eD] at hd'
    rcases hd' with hd' | ⟨rfl, e | e⟩
    · rw [oq a' (hl hd' (by omega)), eL, eA]; exact p2 t' a' hd' g1 g2
    · omega
    · omega
  · rw [eD] at hd'
    rcases hd' with hd' | ⟨rfl, e | e⟩
    · rw [oq a' (hl hd' (by omega)), eL, eB]; exact p3 t' a' hd' g1 g2
    · omega
    · omega
  · rw [eD] at g1 g2
    rcases g1 with g1 | ⟨e1, f1⟩ <;> rcases g2 with g2 | ⟨e2, f2⟩
    · exact p4 t u a' g1 g2 g3 g4
    · subst e2; exact absurd g1 (hn t)
    · subst e1; exact absurd g2 (hn u)
    · omega
  · rw [eD] at g1
    rcases g1 with g1 | ⟨e1, f1⟩
    · exact p5 t a' g1 g2
    · omega
  · rw [eD] at g1
    rcases g1 with g1 | ⟨e1, f1⟩
    · exact p6 a' g1
    · subst e1; exact hAw
  · intro n1 n2 n3
    rw [eD] at g1
    rcases g1 with g1 | ⟨e1, f1⟩
    · exact p7 t a' g1 g2 n1 n2 n3
    · subst e1; exact hAw
section XLM
variable {p : Program} {l : Launch} {e : Env} {R : Room} {s : State} {m : MethodId} {args : Array Value} {below : List Frame} {meth : Method} {c : Code} {H : Heap} {locs : List Loc} {cells slots : Nat} {Q : State → Prop}
variable {cc : ByteArray} {pc : Nat} {ls : Array Slot} {rest st0 : List Value} {w : XP} {S : HS} {H0 : Heap}
theorem x_lam0 {nL : Nat} {own : String} {x : MethodName} {index t : Nat} {σ : Lambda.Shape} {vals : List Value} {mc ms n : Nat} (hE : CallFix p m c cc nL s args lw_all own) (hT : x_E w s) (hW : x_W w s.heap S H locs) (hsz : ls.size = nL) (hnd : s.methodNamed? x = some m) (hLm : lamF x pc index σ (x_c w t) s) (ht : 20 ≤ t) (ht2 : t < 40)
    (hlay : ((σ.file x.cls).bind (layoutFields · 0)).map (·.2.1) = some σ.captured.toArray) (hlen : vals.length = σ.captured.length) (hlx : (xlay t).length = n) (hnn : vals.length = n) (hnar : ((σ.captured.zip vals).map fun (t, v) => narrow t v) = vals) (hfit : ∀ (i : Nat) (v : Value) (ty : FieldType), vals[i]? = some v → σ.captured[i]? = some ty → fits ty v = true)
    (h1 : 1 ≤ mc) (h2 : n ≤ ms) (hc9 : cells + mc ≤ R.cells) (hs9 : slots + ms ≤ R.slots) (hloc : ((vals.reverse ++ rest).map fun v => v.category).sum + 3072 ≤ R.locals) (hdg : decode cc pc = .ok (.invokedynamic index, 5)) (mk : HS → Nat → HS) (eD : ∀ q, hD (mk S q) = hD (nO S t q)) (eI : ∀ q k y, y ≠ q → hI (mk S q) k y = hI S k y) (eR : ∀ q k y, y ≠ q → hR (mk S q) k y = hR S k y) (eL : ∀ q, hL (mk S q) = hL S) (eA : ∀ q, hA (mk S q) = hA S) (eB : ∀ q, hB (mk S q) = hB S) (hV : ∀ q, hfs t (mk S q) q = vals)
    (kk : ∀ (q : Nat) (S1 : HS) (H1 : Heap) (cells1 slots1 : Nat), xNew S q → S1 = mk S q → x_W w s.heap S1 H1 locs → cells1 + (mc - 1) ≤ R.cells → slots1 + (ms - n) ≤ R.slots → W p l e R s m args below meth c H1 locs cells1 slots1 Q (F0 m (pc + 5) ls (.ref q :: rest))) : W p l e R s m args below meth c H locs cells slots Q (F0 m pc ls (vals.reverse ++ rest)) := by
  obtain ⟨hx, hb, hml, hown, hts⟩ := hE
  obtain ⟨m0, k, cf, i0, p0, hm0, hk, hcf, hsh, hfind, hmade, hcall⟩ := hLm
  have e0 : m0 = m := Option.some.inj (hm0.symm.trans hnd)
  rw [e0] at hk hfind hmade
  obtain ⟨b, nt, desc, site, hpc, hnt, hsite, hpar⟩ := x_site hsh
  obtain ⟨k', hk', hkn⟩ := className_of_methodNamed hnd
  have e1 : k' = k := Option.some.inj (hk'.symm.trans hk)
  rw [e1] at hkn
  obtain ⟨kc, hkc, hty, hkind⟩ := x_types hmade hk hkn (hts _ q2803) hlay
  have hE2 : ((kc.instanceTypes.toList.zip vals).map fun (t, v) => narrow t v) = vals := by rw [hty]; exact hnar
  intro T hT0 X
  have hlw : e.platform.lambdaLinkWords = 3072 := by rw [X.admits.platform]
  have h9 : 2 * 0 + ((vals.reverse ++ rest).map fun v => v.category).sum + 3072 ≤ R.locals := by omega
  obtain ⟨X', st⟩ := X.lambdaMakes hx (g := F0 m pc ls (vals.reverse ++ rest)) rfl (by show ls.size = _; rw [hml]; exact hsz) (by rw [hb]; exact hdg) (vals := vals) (rest := rest) hk hfind hcf hpc hnt (parseLong_of_parse hsite) (by rw [hpar]; exact hlen) rfl hkc (by rw [hlw]; exact h9) (by omega) (by rw [hE2]; omega)
    (fun i v hv => by
      rw [hE2] at hv
      have hv2 : vals[i]? = some v := by simpa using hv
      have hi : i < vals.length := (List.getElem?_eq_some_iff.mp hv2).1
      obtain ⟨ty, hty2⟩ : ∃ ty, σ.captured[i]? = some ty := ⟨_, List.getElem?_eq_getElem (by omega)⟩
      have hf := hfit i v ty hv2 hty2
      have hk9 : kc.instanceTypes[i]? = some ty := by rw [hty]; simpa using hty2
      simp [State.fitsSlot, State.slotType?, hkc, hkind, hk9, hf])
  rw [hE2] at X' st
  generalize hce : ({ cls := x_c w t, slots := vals.toArray, vm := .none } : Cell) = ce at X' st
  generalize hH1 : H.push ce = H1
  have z1 : H1.size = H.size + 1 := by rw [← hH1, Array.size_push]
  have e9 : H1[H.size]? = some ce := by rw [← hH1, Array.getElem?_push_size]
  have o1 : ∀ q : Nat, q < H.size → H1[q]? = H[q]? := fun q hq => by rw [← hH1, Array.getElem?_push, if_neg (Nat.ne_of_lt hq)]
  obtain ⟨g1, g2⟩ := hW.2.1
  have hn : xNew S H.size := hW.1.fresh g2 g1
  have hidx : ∀ k, x_i w t k = k := fun k => hT.1.2.2.2.1.2.2.2.2.2.2.2.2.2.1 t ht k
  have hvs : vals.toArray.size = n := by simp [hnn]
  rw [hvs] at X'
  obtain ⟨t2, b1, b2⟩ := kk H.size (mk S H.size) H1 (cells + 1) (slots + n) hn rfl ⟨hW.1.newF hn ht2 (hT.2 _ hW.2.2.1) (eD _) (eI _) (eR _) (eL _) (eA _) (eB _) (by
      show t_OB _ _ _ _ _ _
      rw [hV, hlx]
      refine ⟨ce, e9, by rw [← hce], by rw [← hce], fun k hk => ?_⟩
      rw [hidx, ← hce]
      have hkl : k < vals.length := by omega
      simp [vp_V, List.getElem?_eq_getElem hkl]) o1, ⟨fun t' a h => by
      rw [eD] at h
      rcases h with h | ⟨-, h⟩
      · exact g1 t' a h
      · omega, fun a h => by
      rw [eD] at h
      rcases h with h | ⟨h, -⟩
      · have := g2 a h; omega
      · omega⟩, ⟨Nat.le_trans hW.2.2.1 (by omega), fun q h1 h2 => (o1 q (Nat.lt_of_lt_of_le h1 hW.2.2.1)).trans (hW.2.2.2.1 q h1 h2), hW.2.2.2.2⟩⟩ (by omega) (by omega) (T.pushCell ce) (by rw [← hH1, ← hT0]; rfl) X'
  refine ⟨t2, st t2 ?_, b2⟩
  rw [hT0]
  exact b1
end XLM
