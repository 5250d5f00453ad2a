/-! invokedynamic at the sixteen sites; the calls of Turners, Backs and Askers -/
section LmInv
variable {α : Type}
theorem lm_v19 {x : Option CpInfo} {f : Nat → Nat → Option α} {r : α} (h : Lambda.shapeOf?.match_19 (fun _ => Option α) x f (fun _ => none) = some r) : ∃ b nt, x = some (.invokeDynamic b nt) ∧ f b nt = some r := by
  split at h
  · exact ⟨_, _, rfl, h⟩
  · cases h
theorem lm_v17 {x : Option CpInfo} {f : Nat → Option α} {r : α} (h : Lambda.shapeOf?.match_17 (fun _ => Option α) x f (fun _ => none) = some r) : ∃ z, f z = some r := by
  split at h
  · exact ⟨_, h⟩
  · cases h
theorem lm_v15 {x : Array Nat} {f : Nat → Nat → Nat → Option α} {r : α} (h : Lambda.shapeOf?.match_15 (fun _ => Option α) x f (fun _ => none) = some r) : ∃ a b c, f a b c = some r := by
  rcases x with ⟨l⟩
  rcases l with _ | ⟨a, _ | ⟨b, _ | ⟨c, _ | ⟨d, l⟩⟩⟩⟩
  · exact nomatch (show (none : Option α) = some r from h)
  · exact nomatch (show (none : Option α) = some r from h)
  · exact nomatch (show (none : Option α) = some r from h)
  · exact ⟨a, b, c, h⟩
  · exact nomatch (show (none : Option α) = some r from h)
theorem lm_v12 {x : Option CpInfo} {f : Nat → Nat → Option α} {r : α} (h : Lambda.shapeOf?.match_12 (fun _ => Option α) x f (fun _ => none) = some r) : ∃ a b, f a b = some r := by
  split at h
  · exact ⟨_, _, h⟩
  · cases h
theorem lm_v9 {x : Option CpInfo} {f : Nat → Option α} {r : α} (h : Lambda.shapeOf?.match_9 (fun _ => Option α) x f (fun _ => none) = some r) : ∃ z, f z = some r := by
  split at h
  · exact ⟨_, h⟩
  · cases h
theorem lm_v6 {x : Option FieldType} {f : String → Option α} {r : α} (h : Lambda.shapeOf?.match_6 (fun _ => Option α) x f (fun _ => none) = some r) : ∃ z, f z = some r := by
  split at h
  · exact ⟨_, h⟩
  · cases h
end LmInv
theorem lm_site_of {cf : ClassFile} {index : Nat} {σ : Lambda.Shape} (h : Lambda.shapeOf? cf index = some σ) : ∃ (b nt : Nat) (desc : String) (site : MethodDescriptor), cf.constantPool[index]? = some (.invokeDynamic b nt) ∧ cf.constantPool.nameAndType? nt = some (σ.name, desc) ∧ parseMethodDescriptor desc = some site ∧ site.parameters = σ.captured := by
  unfold Lambda.shapeOf? at h
  obtain ⟨b, nt, hc, h⟩ := lm_v19 h
  obtain ⟨_, -, h⟩ := Option.bind_eq_some_iff.mp h
  obtain ⟨_, -, h⟩ := Option.bind_eq_some_iff.mp h
  obtain ⟨_, h⟩ := lm_v17 h
  obtain ⟨_, -, h⟩ := Option.bind_eq_some_iff.mp h
  obtain ⟨_, _, _, h⟩ := lm_v15 h
  obtain ⟨_, h⟩ := lm_v9 h
  obtain ⟨_, _, h⟩ := lm_v12 h
  obtain ⟨_, h⟩ := lm_v9 h
  obtain ⟨⟨_, desc⟩, hnt, h⟩ := Option.bind_eq_some_iff.mp h
  obtain ⟨site, hsite, h⟩ := Option.bind_eq_some_iff.mp h
  obtain ⟨_, h⟩ := lm_v6 h
  simp only [Option.bind_eq_bind, Option.bind_eq_some_iff, Option.pure_def, Option.some.injEq] at h
  obtain ⟨_, -, _, -, _, -, _, -, _, -, _, -, rfl⟩ := h
  exact ⟨b, nt, desc, site, hc, hnt, hsite, rfl⟩
theorem lm_types {s : State} {d c : ClassId} {σ : Lambda.Shape} {dk : Class} {T : Array FieldType} (h : Lambda.isMade { classPath := fun _ => none } s.vm d σ c = true) (hd : s.vm.classes[d]? = some dk) (hO : xOb s) (hlay : ((σ.file dk.name).bind (layoutFields · 0)).map (·.2.1) = some T) :
    ∃ k : Class, s.vm.classes[c]? = some k ∧ k.instanceTypes = T ∧ k.kind = .ordinary := by
  obtain ⟨dk', k, okk, tk, file, cf, object, iface, toy, lay, methods, target, found, h1, h2, h3, h4, h5, h6, h7, h8, h9, h10, h11, h12, h13, h14, -, -, -, -, -, -, -, h15, -⟩ := Lambda.isMade_spec h
  cases hd.symm.trans h1
  obtain ⟨oc, ok2, g1, g2, -, -, -, g3⟩ := Cond.instantiable_spec hO
  cases h5.symm.trans g1
  cases h7.symm.trans g2
  have hempty : okk.instanceTypes = #[] := Array.eq_empty_of_size_eq_zero g3
  rw [g3] at h8
  rw [h4] at hlay
  simp only [Option.bind_some, h8, Option.map_some, Option.some.injEq] at hlay
  exact ⟨k, h2, by rw [h15.1, hempty, hlay]; simp, h14.2.1⟩
theorem x_llw {l : Launch} {e : Env} (h : l.admits e) (hf : l.flags = flags0) : e.platform.lambdaLinkWords = 3072 := by
  rw [h.platform]
section XIn
variable {L : xL} {y : MethodName} {cc : ByteArray} {nL : Nat} {ret : Option FieldType} {d lo pc : Nat} {lv : List (Option xV)} {st : List xV} {w : xW} {ms : xS} {r : xR} {v : Option xV} {w1 : xW}
/-- a site that captures nothing: its one object -/
theorem x_indyC {k ix : Nat} {σ : Lambda.Shape} (pn : Nat) (hp : pc + 5 = pn) (hd : decode cc pc = .ok (.invokedynamic ix, 5)) (hk : k < 16) (hs : siteWords_1[k]? = some (.lambdaSite y pc ix σ)) (hcap : σ.captured = []) (hroom : (st.map xw).sum + 3072 ≤ lo)
    (kk : xB L y cc nL ret d lo pn lv ((.inr (.inr (some (280 + k))) : xV) :: st) w v w1) : xB L y cc nL ret d lo pc lv st w v w1 := by
  subst hp
  refine ⟨kk.1, kk.2.1, fun p l e R s m args below meth c g k0 n0 C H locs k' n' ls h1 h2 h3 h4 h5 => ?_⟩
  have kk2 := kk.2.2 p l e R s m args below meth c g k0 n0 C H locs k' n' ls h1 h2 h3 h4 h5
  obtain ⟨hx, hb, hml, hret, hO, hw, hlk, hnm, hK, hG, hRf, hRl, hRc, hRs⟩ := C
  obtain ⟨m', kc, cf, i0, p0, lk, z1, z2, z3, z4, z5, z6, z7, z8⟩ := hK.2.2.2.2.2.2.2.2.2.1 k hk y pc ix σ hs
  cases hnm.2.symm.trans z1
  have hlk2 : lk = .constant (g.2.2.2.1 (280 + k)) := by
    rcases z8 with ⟨h, -⟩ | ⟨-, h⟩
    · exact h
    · exact absurd hcap h
  subst hlk2
  subst hb
  intro T hT X
  obtain ⟨t, a1, b1⟩ := kk2 T hT X
  refine ⟨t, X.lambdaConstant hx (g := F0 m pc ls (st.map (xvv g))) rfl (h5.1.trans hml.symm) hd z2 z5 ?_ ?_, b1⟩
  · rw [x_llw X.admits hG.1, hRl]
    have : ((F0 m pc ls (st.map (xvv g))).stack.map fun v => v.category).sum = (st.map xw).sum := xrsum
    rw [this]
    show 2 * 0 + _ + 3072 ≤ lo
    omega
  · have e2 : List.map (xvv g) ((.inr (.inr (some (280 + k))) : xV) :: st) = .ref (g.2.2.2.1 (280 + k)) :: st.map (xvv g) := by
      show Value.ref (xad g (280 + k)) :: _ = _
      rw [show xad g (280 + k) = g.2.2.2.1 (280 + k) from if_pos (by omega)]
    rw [e2] at a1
    exact a1
def lm_fit (t : FieldType) (v : xV) : Bool := match t, v with
  | .int, .inl _ => true
  | .object _, .inr (.inr (some _)) => true
  | _, _ => false
def lm_fits : List FieldType → List xV → Bool
  | [], [] => true
  | t :: ts, v :: vs => lm_fit t v && lm_fits ts vs
  | _, _ => false
theorem lm_fit_ok {g : xG} {t : FieldType} {v : xV} (h : lm_fit t v = true) : narrow t (xvv g v) = xvv g v ∧ fits t (xvv g v) = true := by
  unfold lm_fit at h
  split at h
  · exact ⟨rfl, rfl⟩
  · exact ⟨rfl, rfl⟩
  · cases h
theorem lm_fits_ok {g : xG} : ∀ {ts : List FieldType} {vs : List xV}, lm_fits ts vs = true → ((ts.zip (vs.map (xvv g))).map fun (t, v) => narrow t v) = vs.map (xvv g) ∧ (vs.map (xvv g)).length = ts.length ∧ ∀ (i : Nat) (v : Value), (vs.map (xvv g))[i]? = some v → ∃ t : FieldType, ts[i]? = some t ∧ fits t v = true
  | [], [], _ => ⟨rfl, rfl, fun i v h => by simp at h⟩
  | t :: ts, v :: vs, h => by
    simp only [lm_fits, Bool.and_eq_true] at h
    obtain ⟨a1, a2⟩ := lm_fit_ok (g := g) h.1
    obtain ⟨b1, b2, b3⟩ := lm_fits_ok (g := g) h.2
    refine ⟨by simp only [List.map_cons, List.zip_cons_cons, a1, b1], by simp only [List.map_cons, List.length_cons, b2], fun i u hu => ?_⟩
    cases i with
    | zero => simp only [List.map_cons, List.getElem?_cons_zero, Option.some.injEq] at hu; subst hu; exact ⟨t, rfl, a2⟩
    | succ i => simp only [List.map_cons, List.getElem?_cons_succ] at hu ⊢; exact b3 i u hu
  | [], _ :: _, h => by cases h
  | _ :: _, [], h => by cases h
/-- a site that captures: an object of its class, one more cell -/
theorem x_indyM {k ix : Nat} {σ : Lambda.Shape} {vals rest : List xV} (pn : Nat) (hp : pc + 5 = pn) (hd : decode cc pc = .ok (.invokedynamic ix, 5)) (hk : k < 16) (hs : siteWords_1[k]? = some (.lambdaSite y pc ix σ)) (hy : y.cls = "UnimodularTables") (hcap : σ.captured ≠ []) (hfit : lm_fits σ.captured vals = true) {T : Array FieldType}
    (hlay : ((σ.file "UnimodularTables").bind (layoutFields · 0)).map (·.2.1) = some T) (hT : T.toList = σ.captured) (hL : L (300 + r.2.2.1) = none) (hroom : (st.map xw).sum + 3072 ≤ lo) (hst : st = vals.reverse ++ rest)
    (kk : xB L y cc nL ret d lo pn lv ((.inr (.inr (some (300 + r.2.2.1))) : xV) :: rest) (ms, xal r (.inr (.inr (k, vals))) vals.length) v w1) : xB L y cc nL ret d lo pc lv st (ms, r) v w1 := by
  subst hp; subst hst
  have k1 : r.2.2.1 + 1 ≤ w1.2.2.2.1 := kk.1
  have k2 : r.2.2.2 + vals.length ≤ w1.2.2.2.2 := kk.2.1
  refine ⟨Nat.le_trans (Nat.le_succ _) k1, Nat.le_trans (Nat.le_add_right _ _) k2, fun p l e R s m args below meth c g k0 n0 C H locs k' n' ls h1 h2 h3 h4 h5 => ?_⟩
  have h1' : k0 + k' = r.2.2.1 := h1
  have h2' : n0 + n' = r.2.2.2 := h2
  have hC := C
  obtain ⟨hx, hb, hml, hret, hO, hw, hlk, hnm, hK, hG, hRf, hRl, hRc, hRs⟩ := C
  obtain ⟨m', kc, cf, i0, p0, lk, z1, z2, z3, z4, z5, z6, z7, z8⟩ := hK.2.2.2.2.2.2.2.2.2.1 k hk y pc ix σ hs
  cases hnm.2.symm.trans z1
  obtain ⟨hlk2, -⟩ : lk = .makes (g.2.2.1 k) ∧ σ.captured ≠ [] := by
    rcases z8 with ⟨-, h⟩ | h
    · exact absurd h hcap
    · exact h
  subst hlk2
  obtain ⟨kS', hkS', hnameS⟩ := className_of_methodNamed hnm.2
  cases z2.symm.trans hkS'
  rw [hy] at hnameS
  obtain ⟨bsm, nt, desc, site, hc, hnt, hsite, hpar⟩ := lm_site_of z4
  obtain ⟨kK, hkK, htyK, hkindK⟩ := lm_types z6 z2 hK.2.2.2.2.2.2.2.2.2.2.2 (by rw [hnameS]; exact hlay)
  obtain ⟨f1, f2, f3⟩ := lm_fits_ok (g := g) hfit
  have hslotsE : ((kK.instanceTypes.toList.zip (vals.map (xvv g))).map fun (t, v) => narrow t v) = vals.map (xvv g) := by rw [htyK, hT]; exact f1
  subst hb
  intro U hU X
  have hsum : (((F0 m pc ls ((vals.reverse ++ rest).map (xvv g))).stack).map fun v => v.category).sum = ((vals.reverse ++ rest).map xw).sum := xrsum
  obtain ⟨X₁, st1⟩ := X.lambdaMakes hx (g := F0 m pc ls ((vals.reverse ++ rest).map (xvv g))) rfl (h5.1.trans hml.symm) hd (vals := vals.map (xvv g)) (rest := rest.map (xvv g)) z2 z5 z3 hc hnt (ClassFile.parseLong_of_parse hsite) (by rw [hpar]; exact f2) (by simp) hkK
    (by rw [x_llw X.admits hG.1, hRl, hsum]; show 2 * 0 + _ + 3072 ≤ lo; omega) (by rw [hRc]; omega) (by rw [hslotsE, List.length_map, hRs]; omega)
    (fun i u hv => by
      rw [hslotsE] at hv
      simp only [List.getElem?_toArray] at hv
      obtain ⟨t, t1, t2⟩ := f3 i u hv
      have t3 : kK.instanceTypes[i]? = some t := by rw [htyK, ← Array.getElem?_toList, hT]; exact t1
      simp [State.fitsSlot, State.slotType?, hkK, hkindK, t3, t2])
  rw [hslotsE] at X₁ st1
  have hsz : H.size = g.2.2.2.2.size + r.2.2.1 := h3.1
  have hxad : xad g (300 + r.2.2.1) = H.size := by
    rw [xad_big (by omega), hsz]
    show _ + (300 + r.2.2.1 - 300) = _ + r.2.2.1
    omega
  have hheap : (U.pushCell { cls := g.2.2.1 k, slots := (vals.map (xvv g)).toArray, vm := .none }).heap = H.push { cls := g.2.2.1 k, slots := (vals.map (xvv g)).toArray, vm := .none } := by
    show U.heap.push _ = _
    rw [hU]
  have hS' : xSim g L (ms, xal r (.inr (.inr (k, vals))) vals.length) (H.push { cls := g.2.2.1 k, slots := (vals.map (xvv g)).toArray, vm := .none }) :=
    h3.alloc hL (by show (H.push _)[H.size]? = some _; simp) (by simp) (fun q hq => by rw [Array.getElem?_push]; exact if_neg (by omega))
  have kk2 := kk.2.2 p l e R s m args below meth c g k0 n0 hC _ locs (k' + 1) (n' + vals.length) ls (by show k0 + (k' + 1) = r.2.2.1 + 1; omega) (by show n0 + (n' + vals.length) = r.2.2.2 + vals.length; omega) hS' h4 h5
  have X₂ : Stand p l e R s m args below meth c (U.pushCell { cls := g.2.2.1 k, slots := (vals.map (xvv g)).toArray, vm := .none }) locs (k' + 1) (n' + vals.length) := by
    have : n' + (vals.map (xvv g)).toArray.size = n' + vals.length := by simp
    rw [this] at X₁
    exact X₁
  obtain ⟨t, a1, b1⟩ := kk2 _ hheap X₂
  refine ⟨t, st1 t ?_, b1⟩
  have e2 : List.map (xvv g) ((.inr (.inr (some (300 + r.2.2.1))) : xV) :: rest) = .ref U.heap.size :: rest.map (xvv g) := by
    show Value.ref (xad g (300 + r.2.2.1)) :: _ = _
    rw [hxad, hU]
  rw [e2] at a1
  exact a1
end XIn
