/-! THE CLASSES THAT THE LAMBDA SITES MAKE: what their files hold, and a call of an object of theirs -/
def lm_D (σ : Lambda.Shape) : ClassFile := (σ.file "UnimodularTables").getD { minorVersion := 0, majorVersion := 0, constantPool := #[], accessFlags := 0, thisClass := 0, superClass := 0, interfaces := #[], fields := #[], methods := #[], attributes := #[] }
def lm_F (σ : Lambda.Shape) : Method := ((layoutMethods (lm_D σ)).bind (·[1]?)).getD default
def lm_L (σ : Lambda.Shape) : Array Field × Array FieldType × Array FieldType := (layoutFields (lm_D σ) 0).getD (#[], #[], #[])
/-- the file of a made class: its method's code and locals; the reference mi to the target; the fields' references fs -/
def lm_ok (σ : Lambda.Shape) (bytes : ByteArray) (ml mi mc mn ms : Nat) (fs : List (Nat × Nat × String × String)) : Prop :=
  (σ.file "UnimodularTables").isSome = true ∧ ((layoutMethods (lm_D σ)).bind (·[1]?)).isSome = true ∧ (layoutFields (lm_D σ) 0).isSome = true ∧
  ((lm_F σ).code.map fun c => (c.code.data, c.maxLocals)) = some (bytes.data, ml) ∧ ((lm_F σ).accessFlags, (lm_F σ).sig.returnType) = (0x0001, σ.sam.returnType) ∧
  ((lm_D σ).constantPool[mi]? = some (.methodref mc mn) ∧ (lm_D σ).constantPool.className? mc = some "UnimodularTables" ∧ (lm_D σ).constantPool.nameAndType? mn = some (σ.implName, σ.implDesc.toString)) ∧
  ((lm_D σ).constantPool[mc]? = some (.class_ ms) ∧ (lm_D σ).constantPool.string? ms = some "UnimodularTables" ∧ mc ≠ (lm_D σ).thisClass) ∧
  (∀ q ∈ fs.zipIdx, (lm_D σ).constantPool[q.1.1]? = some (.fieldref 2 q.1.2.1) ∧ (lm_D σ).constantPool.nameAndType? q.1.2.1 = some (q.1.2.2.1, q.1.2.2.2) ∧ (lm_L σ).1.findIdx? (·.name == q.1.2.2.1) = some q.2 ∧ ((lm_L σ).1[q.2]?).map (fun f => (f.isStatic, f.slot)) = some (false, q.2)) ∧
  (lm_L σ).2.1.toList = σ.captured ∧ σ.implClass = "UnimodularTables"
/-- what the tables hold of a made class cK: the reference to the target t, the fields -/
def lm_in (vm : Vm) (cK : ClassId) (σ : Lambda.Shape) (mi : Nat) (fs : List (Nat × Nat × String × String)) (t : MethodId) : Prop :=
  ∃ (k tk : Class) (file : ClassFile) (mc mn : Nat) (toy : ClassId), vm.classes[cK]? = some k ∧ k.cf = some file ∧ file.constantPool[mi]? = some (.methodref mc mn) ∧ file.constantPool.nameAndType? mn = some (σ.implName, σ.implDesc.toString) ∧
    vm.classes[toy]? = some tk ∧ tk.name = "UnimodularTables" ∧ tk.isInterface = false ∧ vm.methodReady cK mi t ∧ vm.classReady cK mc toy ∧ t.cls = toy ∧
    (∀ q ∈ fs.zipIdx, ∃ f : Field, vm.fieldReady cK q.1.1 cK f ∧ f.isStatic = false ∧ f.slot = q.2)
theorem lm_kept {s : State} {vm' : Vm} (hW : s.WarmedH vm') {d i : Nat} {k : Class} {r : Resolved} (hk : s.vm.classes[d]? = some k) (hr : k.resolved[i]? = some (some r)) : ∃ k' : Class, vm'.classes[d]? = some k' ∧ k'.resolved[i]? = some (some r) := by
  obtain ⟨k', h1, h2, h3, h4, h5⟩ := hW.2.2 d k hk
  rcases h4 i with h | ⟨h, -⟩
  · exact ⟨k', h1, h.trans hr⟩
  · rw [hr] at h; cases h
theorem lm_in.warm {s : State} {vm' : Vm} {cK : ClassId} {σ : Lambda.Shape} {mi : Nat} {fs : List (Nat × Nat × String × String)} {t : MethodId} (hW : s.WarmedH vm') (h : lm_in s.vm cK σ mi fs t) : lm_in vm' cK σ mi fs t := by
  obtain ⟨k, tk, file, mc, mn, toy, h1, h2, h3, h4, h5, h6, h7, ⟨k1, a1, a2⟩, ⟨k2, b1, b2⟩, h10, h11⟩ := h
  obtain ⟨k', e1, e2, -⟩ := hW.2.2 _ _ h1
  obtain ⟨tk', e3, e4, -⟩ := hW.2.2 _ _ h5
  obtain ⟨k1', a3, a4⟩ := lm_kept hW a1 a2
  obtain ⟨k2', b3, b4⟩ := lm_kept hW b1 b2
  refine ⟨k', tk', file, mc, mn, toy, e1, by rw [e2]; exact h2, h3, h4, e3, by rw [e4]; exact h6, by rw [e4]; exact h7, ⟨k1', a3, a4⟩, ⟨k2', b3, b4⟩, h10, fun q hq => ?_⟩
  obtain ⟨f, ⟨k3, i, kc, c1, c2, c3, c4⟩, h12, h13⟩ := h11 q hq
  obtain ⟨k3', c5, c6⟩ := lm_kept hW c1 c2
  obtain ⟨kc', c7, c8, -⟩ := hW.2.2 _ _ c3
  exact ⟨f, ⟨k3', i, kc', c5, c6, c7, by rw [c8]; exact c4⟩, h12, h13⟩
theorem lm_D_is {σ : Lambda.Shape} (h : (σ.file "UnimodularTables").isSome = true) : σ.file "UnimodularTables" = some (lm_D σ) := by
  obtain ⟨x, hx⟩ := Option.isSome_iff_exists.mp h
  simp [lm_D, hx]
theorem lm_F_is {σ : Lambda.Shape} (h : ((layoutMethods (lm_D σ)).bind (·[1]?)).isSome = true) : ∀ ms, layoutMethods (lm_D σ) = some ms → ms[1]? = some (lm_F σ) := by
  intro ms hms
  obtain ⟨x, hx⟩ := Option.isSome_iff_exists.mp h
  have hf : lm_F σ = x := by simp [lm_F, hx]
  rw [hms] at hx
  rw [hf]
  exact hx
theorem lm_L_is {σ : Lambda.Shape} (h : (layoutFields (lm_D σ) 0).isSome = true) : layoutFields (lm_D σ) 0 = some (lm_L σ) := by
  obtain ⟨x, hx⟩ := Option.isSome_iff_exists.mp h
  simp [lm_L, hx]
theorem lm_ask {α : Type} {m : MethodId} {x : Except α MethodId} (h : x.toOption = some m) {t : MethodId} (ht : x = .ok t) : t = m := by
  subst ht
  exact Option.some.inj h
/-- a made class's facts at a state -/
theorem lm_facts {s : State} {d c : ClassId} {dk : Class} {σ : Lambda.Shape} {bytes : ByteArray} {ml mi mc mn ms : Nat} {fs : List (Nat × Nat × String × String)} {y : MethodName} {t : MethodId} (ok : lm_ok σ bytes ml mi mc mn ms fs)
    (hd : s.vm.classes[d]? = some dk) (hname : dk.name = "UnimodularTables") (h : Lambda.isMade { classPath := fun _ => none } s.vm d σ c = true) (hO : xOb s) (hi : σ.implItf = false)
    (hy : y = ⟨"UnimodularTables", σ.implName, σ.implDesc.toString⟩) (ht : s.methodNamed? y = some t) :
    ∃ (k : Class) (methk : Method) (ck : Code) (iface : ClassId) (found : MethodId), s.vm.classes[c]? = some k ∧ plainName k.name = true ∧ s.vm.method? ⟨c, 1⟩ = some methk ∧ methk.code = some ck ∧ ck.code = bytes ∧ ck.maxLocals = ml ∧ methk.locks = false ∧ methk.accessFlags = 0x0001 ∧
      methk.sig.returnType = σ.sam.returnType ∧ k.instanceTypes.toList = σ.captured ∧ s.vm.findClass σ.iface = some iface ∧ ((methodIn iface σ.name σ.sam.toString true none).ask { classPath := fun _ => none } s.vm).1 = .ok found ∧ selectMethod {} s.vm c found = .method ⟨c, 1⟩ ∧
      lm_in s.vm c σ mi fs t := by
  obtain ⟨o1, o2, o3, o4, o5, o6, o7, o8, o9, o10⟩ := ok
  obtain ⟨dk', k, okk, tk, file, cf, object, iface, toy, lay, methods, target, found, hd', hk, hfile, hcf, hobj, hif, hok, hlay, hms, ht0, htk, hg, hfo, hrec, -, -, -, hitf, hpool, hmeth, hfields, hit, hres, hsel⟩ := Lambda.isMade_spec h
  cases hd.symm.trans hd'
  rw [hname, lm_D_is o1] at hcf
  cases hcf
  obtain ⟨oc, ok2, g1, g2, -, -, -, g3⟩ := Cond.instantiable_spec hO
  cases hobj.symm.trans g1
  cases hok.symm.trans g2
  rw [g3, lm_L_is o3] at hlay
  cases hlay
  obtain ⟨b, hb, hsame⟩ := hmeth 1 (lm_F σ) (lm_F_is o2 methods hms)
  simp only [Lambda.sameMethod, Bool.and_eq_true, decide_eq_true_eq] at hsame
  obtain ⟨⟨hn, -, hsig, hfl⟩, hcode⟩ := hsame
  simp only [Prod.mk.injEq] at o5
  rw [o10] at ht0
  obtain ⟨kT, hkT, hnT⟩ := className_of_methodNamed ht
  have hcT := findClass_of_methodNamed ht
  subst hy
  cases ht0.symm.trans hcT
  cases htk.symm.trans hkT
  have htt : target = t := by
    have hf := State.methodFound?_of_named ht ⟨by show ("UnimodularTables" : String) ≠ _; decide, by show ("UnimodularTables" : String) ≠ _; decide⟩
    simp only [State.methodFound?, hcT, hkT, Option.bind_eq_bind, Option.bind_some] at hf
    exact lm_ask hf hg
  subst htt
  have hempty : okk.instanceTypes = #[] := Array.eq_empty_of_size_eq_zero g3
  cases hfc : (lm_F σ).code with
  | none => rw [hfc] at o4; cases o4
  | some x =>
    cases hbc : b.code with
    | none => simp [hfc, hbc] at hcode
    | some z =>
      simp only [hfc, hbc, Bool.and_eq_true, decide_eq_true_eq] at hcode
      simp only [hfc, Option.map_some, Option.some.injEq, Prod.mk.injEq] at o4
      refine ⟨k, b, z, iface, found, hk, by rw [hrec.1, hname]; rfl, by simp [Vm.method?, hk, hb], hbc, ?_, by rw [← hcode.1.1.1.1.2.1]; exact o4.2, ?_, by rw [← hfl]; exact o5.1, by rw [← hsig]; exact o5.2, ?_, hif, hfo, hsel,
        k, tk, file, mc, mn, target.cls, hk, hfile, by rw [hpool.2.1]; exact o6.1, by rw [hpool.2.1]; exact o6.2.2, htk, hnT, by rw [hitf]; exact hi, ⟨k, hk, hres mi _ (Lambda.resolvedOf_method o6.1 o6.2.1 ht0 htk o6.2.2 hg)⟩, ⟨k, hk, hres mc _ (Lambda.resolvedOf_class o7.1 o7.2.2 o7.2.1 ht0)⟩, rfl, fun q hq => ?_⟩
      · rw [← hcode.1.1.1.1.2.2]
        exact ByteArray.ext o4.1
      · simp [Method.locks, Method.isSynchronized, ← hfl, o5.1, hasFlag, Acc.synchronized]
      · rw [hit.1, hempty]
        simpa using o9
      · obtain ⟨q1, q2, q3, q4⟩ := o8 q hq
        obtain ⟨f0, r1, r2⟩ := Option.map_eq_some_iff.mp q4
        simp only [Prod.mk.injEq] at r2
        exact ⟨f0, ⟨k, q.2, k, hk, hres q.1.1 _ (Lambda.resolvedOf_field q1 q2 q3), hk, hfields _ _ r1⟩, r2.1, r2.2⟩
section LMW
variable {p : Program} {l : Launch} {e : Env} {R : Room} {s : State} {m : MethodId} {args : Array Value} {below : List Frame} {meth : Method} {c : Code} {H : Heap} {locs : List Loc} {cells slots : Nat} {Q : State → Prop} {cc : ByteArray} {pc : Nat} {ls : Array Slot} {rest : List Value}
variable {σ : Lambda.Shape} {mi : Nat} {fs : List (Nat × Nat × String × String)} {t : MethodId}
theorem lm_getf {ix i a : Nat} {n2 : Nat} {s1 s2 : String} {cell : Cell} {v : Value} (hI : lm_in s.vm m.cls σ mi fs t) (hf : fs[i]? = some (ix, n2, s1, s2)) (hexec : p.tables.exec = Jvm.exec) (hb : c.code = cc) (hcell : H[a]? = some cell) (hkn : cell.vm ≠ .unknown) (hv : cell.slots[i]? = some v) (hd : decode cc pc = .ok (.getfield ix, 3))
    (kk : W p l e R s m args below meth c H locs cells slots Q (F0 m (pc + 3) ls (v :: rest))) : W p l e R s m args below meth c H locs cells slots Q (F0 m pc ls (.ref a :: rest)) := by
  intro T hT X
  obtain ⟨t2, a1, b1⟩ := kk T hT X
  refine ⟨t2, ?_, b1⟩
  obtain ⟨k, tk, file, mc, mn, toy, h1, h2, h3, h4, h5, h6, h7, h8, h9, h10, h11⟩ := lm_in.warm X.warmed hI
  obtain ⟨f, f1, f2, f3⟩ := h11 ((ix, n2, s1, s2), i) (List.mem_zipIdx_iff_getElem?.mpr hf)
  have hv' : cell.slots[f.slot]? = some v := by rw [f3]; exact hv
  subst hb
  jvm_step X.here [hexec, hd, getfield.wp_ready (e := e) (s := T) (f := F0 m pc ls (.ref a :: rest)) (rest := rest) X.here.top f1 f2 rfl (by rw [hT]; exact hcell) hkn hv']
  exact a1
end LMW
section LMC
variable {p : Program} {l : Launch} {e : Env} {R : Room} {s : State} {m : MethodId} {args : Array Value} {below : List Frame} {meth : Method} {c : Code} {H : Heap} {locs : List Loc} {cells slots : Nat} {Q : State → Prop} {cc : ByteArray} {pc : Nat} {ls : Array Slot}
variable {σ : Lambda.Shape} {mi : Nat} {fs : List (Nat × Nat × String × String)} {t : MethodId} {L : xL} {y2 : MethodName} {cc2 : ByteArray} {nL2 : Nat} {ret2 : Option FieldType} {d2 lo2 na : Nat} {as rest : List xV} {w w2 : xW} {vv : Option xV} {g : xG}
theorem lm_poly {k : Class} (h : k.name = "UnimodularTables") (x : Method) : signaturePolymorphic k x = false := by simp [signaturePolymorphic, h]
theorem lm_callS (hct : xCt L y2 cc2 nL2 ret2 d2 lo2 as w vv w2) (hG : xGok l g) (hK : xKf g s) (hw : ∀ w ∈ lw_all, w.before args s = true) (hS : xSim g L w H) (hI : lm_in s.vm m.cls σ mi fs t) (hn : s.methodNamed? y2 = some t) (hexec : p.tables.exec = Jvm.exec) (hb : c.code = cc) (hml : ls.size = c.maxLocals)
    (hgood : GoodIn lw_all (ws_ y2 cc2 nL2 ret2)) (hst : Cond.static y2 ∈ lw_all) (hini : Cond.initialized y2.cls ∈ lw_all) (hcls : y2.cls = "UnimodularTables") (hy2 : xHd y2 na) (hna : as.length = na)
    (hroom : d2 + 1 ≤ R.frames ∧ 8 + (nL2 + 11) + lo2 ≤ R.locals) (hc : cells + (w2.2.2.2.1 - w.2.2.2.1) ≤ R.cells ∧ slots + (w2.2.2.2.2 - w.2.2.2.2) ≤ R.slots) (hr : (rest.map xw).sum ≤ 8) (hd : decode cc pc = .ok (.invokestatic mi, 3))
    (kk : ∀ (H' : Heap) (L' : List Loc), xSim g L w2 H' → (∀ q ∈ L', g.2.2.2.2.size ≤ q.base) → W p l e R s m args below meth c H' (locs ++ L') (cells + (w2.2.2.2.1 - w.2.2.2.1)) (slots + (w2.2.2.2.2 - w.2.2.2.2)) Q (F0 m (pc + 3) ls ((vv.toList ++ rest).map (xvv g)))) :
    W p l e R s m args below meth c H locs cells slots Q (F0 m pc ls ((as.reverse ++ rest).map (xvv g))) := by
  intro T hT X
  have hM := hct.2.2 l g hG
  have hcode : (Cond.code y2 cc2 nL2 ret2).before args s = true := hw _ (hgood _ List.mem_cons_self).1
  have hBk : Back l R p e below s args y2 3 8 (PreOf R _ _ _) (PostOf _ _ _ _) := back_of (bytes := cc2) (maxL := nL2) (ret := ret2) hM xSim.blind rfl rfl hroom.1 hroom.2 (pay_in hw hgood) List.mem_cons_self (fun a' U hW => word_at hW (Or.inl (by first | rfl | simp [Cond.onTables, Cond.keeps, Cond.steady])) (hw _ hini))
  obtain ⟨methM, cM, hmethM, -, -, -, -, -, -, hsigM⟩ := Cond.code_spec hn hcode
  have hstatic : methM.isStatic = true := Cond.static_spec hn hmethM (hw _ hst)
  obtain ⟨kP, hkP, hnP⟩ := className_of_methodNamed hn
  have hinitP : kP.init = .initialized := Cond.initialized_spec (findClass_of_methodNamed hn) hkP (hw _ hini)
  obtain ⟨v, B, X', hpost, hsteps⟩ := hBk m meth c ⟨T, locs, cells, slots⟩ (F0 m pc ls (rest.map (xvv g))) (.invokestatic mi) t (as.map (xvv g)).toArray X rfl hml (by rw [hb]; exact hd) (lv_room (by rw [xrsum]; exact hr)) (X.named hn) ⟨hc.1, hc.2, rfl, hK.warm X.warmed, by rw [show (Pt.U ⟨T, locs, cells, slots⟩).heap = H from hT]; exact hS⟩
  obtain ⟨g', mk, tt, L', e1, e2, ⟨hq, hS2⟩, h1, hL, h2, h3⟩ := hpost
  cases hq
  obtain ⟨U', l2, c2, s2⟩ := B
  dsimp only [Pt.U, Pt.locs, Pt.cells, Pt.slots] at X' e1 e2 h1 h2 h3 hsteps
  subst h1; subst h2; subst h3
  obtain ⟨t2, a1, b1⟩ := kk U'.heap L' (by rw [e1]; exact hS2) hL U' rfl X'
  refine ⟨t2, ?_, b1⟩
  obtain ⟨k, tk, file, mc, mn, toy, i1, i2, i3, i4, i5, i6, i7, i8, i9, i10, i11⟩ := lm_in.warm X.warmed hI
  obtain ⟨b, hmem⟩ := memberRef_ask' (e := e) (vm := T.vm) (d := m.cls) (index := mi) i1 i2 (Or.inl i3) i4
  obtain ⟨kP', hkP', ekP⟩ := X.warmed.alike.2.2 _ _ hkP
  have hnP' : kP'.name = "UnimodularTables" := by rw [ekP]; exact hnP.trans hcls
  subst hb
  have hstack : ((as.reverse ++ rest).map (xvv g)) = (as.map (xvv g)).reverse ++ rest.map (xvv g) := by simp
  rw [hstack]
  jvm_step X.here [hexec, hd, invokestatic.wp_ready (e := e) (s := T) (m := t) (k := kP') (meth := methM) (args := as.map (xvv g)) (rest := rest.map (xvv g)) (f := F0 m pc ls ((as.map (xvv g)).reverse ++ rest.map (xvv g))) X.here.top
    ⟨mc, _, _, b, toy, tk, hmem, i9, i5, by simp [lm_poly i6]⟩ i8 hkP' (by rw [X.warmed.alike.method?]; exact hmethM) (lm_poly hnP' _) hstatic (by rw [ekP]; exact hinitP) (by
      have := hy2.2.2
      rw [hsigM] at this
      simpa [hna] using (Option.some.inj this).symm) rfl]
  intro acts
  rw [doInvoke_state]
  refine hsteps.trans ?_
  have : (Option.map (xvv g) vv).toList ++ List.map (xvv g) rest = (vv.toList ++ rest).map (xvv g) := by cases vv <;> simp
  exact (this ▸ a1)
end LMC
section LMV
variable {p : Program} {l : Launch} {e : Env} {R : Room} {s : State} {m : MethodId} {args : Array Value} {below : List Frame} {meth : Method} {c : Code} {H : Heap} {locs : List Loc} {cells slots : Nat} {Q : State → Prop} {cc : ByteArray} {pc : Nat} {ls : Array Slot}
variable {σ : Lambda.Shape} {mi : Nat} {fs : List (Nat × Nat × String × String)} {t : MethodId} {L : xL} {y2 : MethodName} {cc2 : ByteArray} {nL2 : Nat} {ret2 : Option FieldType} {d2 lo2 na : Nat} {as rest : List xV} {w w2 : xW} {vv : Option xV} {g : xG}
theorem lm_callV {b : Nat} {cellB : Cell} (hct : xCt L y2 cc2 nL2 ret2 d2 lo2 ((.inr (.inr (some b)) : xV) :: as) w vv w2) (hG : xGok l g) (hK : xKf g s) (hw : ∀ w ∈ lw_all, w.before args s = true) (hS : xSim g L w H) (hI : lm_in s.vm m.cls σ mi fs t) (hn : s.methodNamed? y2 = some t) (hexec : p.tables.exec = Jvm.exec) (hb : c.code = cc) (hml : ls.size = c.maxLocals)
    (hcB : H[xad g b]? = some cellB) (hoB : cellB.vm = .none) (hclB : s.vm.findClass "UnimodularTables" = some cellB.cls)
    (hgood : GoodIn lw_all (ws_ y2 cc2 nL2 ret2)) (hst : Cond.instanceMethod y2 ∈ lw_all) (hse : Cond.selects "UnimodularTables" y2 y2 ∈ lw_all) (hini : Cond.initialized y2.cls ∈ lw_all) (hcls : y2.cls = "UnimodularTables") (hy2 : xHd y2 na) (hna : as.length = na)
    (hroom : d2 + 1 ≤ R.frames ∧ 8 + (nL2 + 11) + lo2 ≤ R.locals) (hc : cells + (w2.2.2.2.1 - w.2.2.2.1) ≤ R.cells ∧ slots + (w2.2.2.2.2 - w.2.2.2.2) ≤ R.slots) (hr : (rest.map xw).sum ≤ 8) (hd : decode cc pc = .ok (.invokevirtual mi, 3))
    (kk : ∀ (H' : Heap) (L' : List Loc), xSim g L w2 H' → (∀ q ∈ L', g.2.2.2.2.size ≤ q.base) → W p l e R s m args below meth c H' (locs ++ L') (cells + (w2.2.2.2.1 - w.2.2.2.1)) (slots + (w2.2.2.2.2 - w.2.2.2.2)) Q (F0 m (pc + 3) ls ((vv.toList ++ rest).map (xvv g)))) :
    W p l e R s m args below meth c H locs cells slots Q (F0 m pc ls ((as.reverse ++ (.inr (.inr (some b)) : xV) :: rest).map (xvv g))) := by
  intro T hT X
  have hM := hct.2.2 l g hG
  have hcode : (Cond.code y2 cc2 nL2 ret2).before args s = true := hw _ (hgood _ List.mem_cons_self).1
  have hBk : Back l R p e below s args y2 3 8 (PreOf R _ _ _) (PostOf _ _ _ _) := back_of (bytes := cc2) (maxL := nL2) (ret := ret2) hM xSim.blind rfl rfl hroom.1 hroom.2 (pay_in hw hgood) List.mem_cons_self (fun a' U hW => word_at hW (Or.inl (by first | rfl | simp [Cond.onTables, Cond.keeps, Cond.steady])) (hw _ hini))
  obtain ⟨mk, methM, hnamed, hmethM, hstM, habM⟩ := Cond.instanceMethod_spec (hw _ hst)
  cases hn.symm.trans hnamed
  obtain ⟨methM', cM, hmethM', -, -, -, -, -, -, hsigM⟩ := Cond.code_spec hnamed hcode
  cases hmethM.symm.trans hmethM'
  obtain ⟨c2, r2, m2, q1, q2, q3, q4, kP, hkP, hkPi⟩ := Cond.selects_spec (hw _ hse)
  cases hclB.symm.trans q1
  cases (State.methodFound?_of_named hnamed ⟨hy2.1, hy2.2.1⟩).symm.trans q2
  cases hnamed.symm.trans q3
  obtain ⟨kP2, hkP2, hnP⟩ := className_of_methodNamed hn
  cases hkP.symm.trans hkP2
  obtain ⟨v, B, X', hpost, hsteps⟩ := hBk m meth c ⟨T, locs, cells, slots⟩ (F0 m pc ls (rest.map (xvv g))) (.invokevirtual mi) t (((.inr (.inr (some b)) : xV) :: as).map (xvv g)).toArray X rfl hml (by rw [hb]; exact hd) (lv_room (by rw [xrsum]; exact hr)) (X.named hn) ⟨hc.1, hc.2, rfl, hK.warm X.warmed, by rw [show (Pt.U ⟨T, locs, cells, slots⟩).heap = H from hT]; exact hS⟩
  obtain ⟨g', mk, tt, L', e1, e2, ⟨hq, hS2⟩, h1, hL, h2, h3⟩ := hpost
  cases hq
  obtain ⟨U', l2, c2, s2⟩ := B
  dsimp only [Pt.U, Pt.locs, Pt.cells, Pt.slots] at X' e1 e2 h1 h2 h3 hsteps
  subst h1; subst h2; subst h3
  obtain ⟨t2, a1, b1⟩ := kk U'.heap L' (by rw [e1]; exact hS2) hL U' rfl X'
  refine ⟨t2, ?_, b1⟩
  obtain ⟨k, tk, file, mc, mn, toy, i1, i2, i3, i4, i5, i6, i7, i8, i9, i10, i11⟩ := lm_in.warm X.warmed hI
  obtain ⟨kP', hkP', ekP⟩ := X.warmed.alike.2.2 _ _ hkP
  have hnP' : kP'.name = "UnimodularTables" := by rw [ekP]; exact hnP.trans hcls
  have hselT : selectMethod e.platform T.vm cellB.cls t = .method t := by rw [Launch.admits_selectMethod X.admits, X.warmed.alike.selectMethod]; exact q4
  subst hb
  have hstack : ((as.reverse ++ (.inr (.inr (some b)) : xV) :: rest).map (xvv g)) = (as.map (xvv g)).reverse ++ Value.ref (xad g b) :: rest.map (xvv g) := by simp [xvv, va_rf]
  rw [hstack]
  jvm_step X.here [hexec, hd, invokevirtual.wp_ready (e := e) (s := T) (r := t) (m := t) (k := kP') (mk := kP') (rmeth := methM) (meth := methM) (a := xad g b) (cell := cellB) (args := as.map (xvv g)) (rest := rest.map (xvv g)) (f := F0 m pc ls ((as.map (xvv g)).reverse ++ Value.ref (xad g b) :: rest.map (xvv g))) X.here.top
    ⟨k, file, mc, mn, toy, tk, i1, i2, i3, i9, i5, i7⟩ i8 hkP' (by rw [X.warmed.alike.method?]; exact hmethM) (lm_poly hnP' _) hstM (by
      have := hy2.2.2
      rw [hsigM] at this
      simpa [hna] using (Option.some.inj this).symm) rfl (by rw [hT]; exact hcB) (fun c h => by rw [hoB] at h; cases h) hselT (by rw [X.warmed.alike.method?]; exact hmethM) habM hkP' (by rw [ekP]; exact hkPi)]
  intro acts
  rw [doInvoke_state]
  have hargs : (Value.ref (xad g b) :: as.map (xvv g)).toArray = (((.inr (.inr (some b)) : xV) :: as).map (xvv g)).toArray := by simp [xvv, va_rf]
  rw [hargs]
  refine hsteps.trans ?_
  have : (Option.map (xvv g) vv).toList ++ List.map (xvv g) rest = (vv.toList ++ rest).map (xvv g) := by cases vv <;> simp
  exact (this ▸ a1)
end LMV
/-- the walk of a made class's method, from its entry -/
def lm_W (L : xL) (σ : Lambda.Shape) (mi : Nat) (fs : List (Nat × Nat × String × String)) (t : State → MethodId → Prop) (bytes : ByteArray) (ml : Nat) (caps as : List xV) (d lo : Nat) (w : xW) (vv : Option xV) (w2 : xW) : Prop :=
  w.2.2.2.1 ≤ w2.2.2.2.1 ∧ w.2.2.2.2 ≤ w2.2.2.2.2 ∧
  ∀ (p : Program) (l : Launch) (e : Env) (R : Room) (s : State) (m : MethodId) (below : List Frame) (meth : Method) (c : Code) (H : Heap) (g : xG) (a : Nat) (tt : MethodId), p.tables.exec = Jvm.exec → c.code = bytes → c.maxLocals = ml → meth.sig.returnType = σ.sam.returnType → meth.locks = false →
    xGok l g → xKf g s → (∀ w ∈ lw_all, w.before ((Value.ref a :: as.map (xvv g)).toArray) s = true) → xSim g L w H → lm_in s.vm m.cls σ mi fs tt → t s tt → H[a]? = some { cls := m.cls, slots := (caps.map (xvv g)).toArray, vm := .none } →
    R.frames = d → R.locals = lo → R.cells = w2.2.2.2.1 - w.2.2.2.1 → R.slots = w2.2.2.2.2 - w.2.2.2.2 →
    W p l e R s m (Value.ref a :: as.map (xvv g)).toArray below meth c H [] 0 0 (MQ below (xQ g L vv w2) (Value.ref a :: as.map (xvv g)).toArray s (w2.2.2.2.1 - w.2.2.2.1) (w2.2.2.2.2 - w.2.2.2.2) (fun q => g.2.2.2.2.size ≤ q)) (entryFrame m (Value.ref a :: as.map (xvv g)).toArray c.maxLocals)
section LMR
variable {p : Program} {l : Launch} {e : Env} {R : Room} {s : State} {m : MethodId} {args : Array Value} {below : List Frame} {meth : Method} {c : Code} {H : Heap} {locs : List Loc} {cells slots : Nat} {cc : ByteArray} {pc : Nat} {ls : Array Slot}
variable {σ : Lambda.Shape} {mi mc mn ms ml : Nat} {bytes : ByteArray} {fs : List (Nat × Nat × String × String)} {L : xL} {d2 lo2 na ix cnt k nL : Nat} {caps as rest : List xV} {w w2 : xW} {vv : Option xV} {g : xG} {own : String} {x0 y2 : MethodName} {pc0 i0 : Nat}
theorem lm_run {a : Nat} (hcore : lm_W L σ mi fs (fun U t => U.methodNamed? y2 = some t) bytes ml caps as d2 lo2 w vv w2) (hsw : siteWords_1[k]? = some (.lambdaSite x0 pc0 i0 σ)) (hk : k < 16) (hx0 : x0.cls = "UnimodularTables") (ok : lm_ok σ bytes ml mi mc mn ms fs) (hif : σ.implItf = false)
    (hy2 : y2 = ⟨"UnimodularTables", σ.implName, σ.implDesc.toString⟩) (hcode2 : ∃ b n r, Cond.code y2 b n r ∈ lw_all) (hfm : (⟨σ.iface, σ.name, σ.sam.toString⟩ : MethodName) ∈ xfms) (hlink : Cond.methodLink own ix ⟨σ.iface, σ.name, σ.sam.toString⟩ ∈ lw_all) (hna : as.length = σ.sam.parameters.length) (hsig : parseMethodDescriptor σ.sam.toString = some σ.sam)
    (hexec : p.tables.exec = Jvm.exec) (hb : c.code = cc) (hml : ls.size = c.maxLocals) (hO : s.vm.findClass own = some m.cls) (hw : ∀ w ∈ lw_all, w.before args s = true) (hgd : ∀ w ∈ lw_all, (w.onTables && w.keeps) = true ∨ ∃ ty, w = .arrayClass ty) (hK : xKf g s) (hG : xGok l g) (hS : xSim g L w H) (hcell : H[xad g a]? = some { cls := g.2.2.1 k, slots := (caps.map (xvv g)).toArray, vm := .none })
    (hroom : d2 + 1 ≤ R.frames ∧ 8 + (ml + 11) + lo2 ≤ R.locals) (hc : cells + (w2.2.2.2.1 - w.2.2.2.1) ≤ R.cells ∧ slots + (w2.2.2.2.2 - w.2.2.2.2) ≤ R.slots) (hr : (rest.map xw).sum ≤ 8) (hd : decode cc pc = .ok (.invokeinterface ix cnt, 5)) :
    va_Run5 p l e R s m args below meth c H locs cells slots (w2.2.2.2.1 - w.2.2.2.1) (w2.2.2.2.2 - w.2.2.2.2) (F0 m pc ls ((as.reverse ++ (.inr (.inr (some a)) : xV) :: rest).map (xvv g))) (rest.map (xvv g)) (xQ g L vv w2 #[]) (fun q => g.2.2.2.2.size ≤ q) := by
  intro T hT X
  have hX := hK.2.2.2.2
  obtain ⟨mS, kcS, cfS, i0', p0', lS, z1, z2, z3, z4, z5, z6, z7, z8⟩ := hX.2.2.2.2.2.1 k hk x0 pc0 i0 σ hsw
  obtain ⟨kS, hkS, hnS⟩ := className_of_methodNamed z1
  rw [hx0] at hnS
  obtain ⟨b2, n2, r2, hc2⟩ := hcode2
  obtain ⟨t, ht⟩ := Cond.code_named (hw _ hc2)
  obtain ⟨kc, methk, ck, iface, found, f1, f2, f3, f4, f5, f6, f7, f8, f9, f10, f11, f12, f13, f14⟩ := lm_facts ok hkS hnS z6 hX.2.2.2.2.2.2.2 hif hy2 ht
  obtain ⟨hdecl, hface⟩ := hX.2.2.2.2.2.2.1 _ hfm
  obtain ⟨r0, r, hn0, hrm, hstR, hsigR⟩ := Cond.declares_spec hdecl
  obtain ⟨cL, kL, r1, hcL, hkL, hiL, hfoundL, hn1⟩ := Cond.interfaceMethod_spec hface
  cases hn0.symm.trans hn1
  have hr0cls : r0.cls = cL := Option.some.inj ((findClass_of_methodNamed hn0).symm.trans hcL)
  obtain ⟨hnameR, hdescR⟩ := name_of_methodNamed hn0 hrm
  cases f11.symm.trans hcL
  have hfr : found = r0 := by
    have hf := hfoundL
    simp only [State.methodFound?, f11, hkL, hiL, Option.bind_eq_bind, Option.bind_some] at hf
    exact lm_ask hf f12
  subst hfr
  obtain ⟨ic, g1, g2, g3⟩ := State.lambdaCallable_spec z7
  cases f11.symm.trans g1
  have hselP : selectMethod e.platform s.vm (g.2.2.1 k) found = .method ⟨g.2.2.1 k, 1⟩ := by rw [Launch.admits_selectMethod X.admits]; exact f13
  have hlen : (as.map (xvv g)).length = r.sig.parameters.length := by
    rw [Option.some.inj (hsigR.symm.trans hsig)]; simpa using hna
  subst hb
  obtain ⟨vm₁, X₁, hstep₁⟩ := X.invokeinterface hexec hO (hw _ hlink) hn0 hrm hstR (by rw [hr0cls]; exact hkL) hiL (xfms_ok _ hfm) (a := xad g a) (cell := { cls := g.2.2.1 k, slots := (caps.map (xvv g)).toArray, vm := .none }) (kcell := kc) (by rw [hT]; exact hcell)
    (fun z h => by cases h) f1 (by rw [hr0cls]; exact g2) hselP f3 (by rw [hnameR, hdescR]; exact g3) (by rw [f8]; decide) (by simp [Method.isAbstract, f8, hasFlag, Acc.abstract]) (g := F0 m pc ls ((as.map (xvv g)).reverse ++ Value.ref (xad g a) :: rest.map (xvv g))) rfl (argsL := as.map (xvv g)) (rest := rest.map (xvv g)) hlen rfl hd
  have hmon : 2 * (F0 m pc ls (rest.map (xvv g))).monitorRoom + ((F0 m pc ls (rest.map (xvv g))).stack.map fun v => v.category).sum ≤ 8 := lv_room (by rw [xrsum]; exact hr)
  have hl9 : 2 * (F0 m pc ls (rest.map (xvv g))).monitorRoom + ((F0 m pc ls (rest.map (xvv g))).stack.map fun v => v.category).sum + (ck.maxLocals + 11) + lo2 ≤ R.locals := by
    rw [f6]
    exact Nat.le_trans (Nat.add_le_add_right (Nat.add_le_add_right hmon (ml + 11)) lo2) hroom.2
  obtain ⟨Y₀, hin⟩ := X₁.into (g := F0 m pc ls (rest.map (xvv g))) rfl hml hd ((Value.ref (xad g a) :: as.map (xvv g)).toArray) (R' := { frames := d2, cells := w2.2.2.2.1 - w.2.2.2.1, slots := w2.2.2.2.2 - w.2.2.2.2, locals := lo2 }) (mk := ⟨g.2.2.1 k, 1⟩) (methk := methk) (ck := ck) ((X₁.warmed.alike.method? _).trans f3) f4 f7 (State.plainMethod.of_name (fun k' hk' => by
      obtain ⟨k2, h2, e2⟩ := X₁.warmed.alike.2.2 _ _ f1
      cases hk'.symm.trans h2
      rw [e2]; exact f2)) hroom.1 hl9 hc.1 hc.2
  obtain ⟨-, -, core⟩ := hcore
  have hcw := core p l e { frames := d2, cells := w2.2.2.2.1 - w.2.2.2.1, slots := w2.2.2.2.2 - w.2.2.2.2, locals := lo2 } ((T.setVm vm₁).calling (F0 m pc ls (rest.map (xvv g))) ⟨g.2.2.1 k, 1⟩ (Value.ref (xad g a) :: as.map (xvv g)).toArray) ⟨g.2.2.1 k, 1⟩ (.java (F0 m pc ls (rest.map (xvv g))) :: below) methk ck H g (xad g a) t hexec f5 f6 f9 f7 hG
    (hK.warm X₁.warmed) (fun w0 hw0 => word_at (U := (T.setVm vm₁).calling (F0 m pc ls (rest.map (xvv g))) ⟨g.2.2.1 k, 1⟩ (Value.ref (xad g a) :: as.map (xvv g)).toArray) (show s.WarmedH _ from X₁.warmed) (hgd w0 hw0) (hw w0 hw0)) hS (lm_in.warm X₁.warmed f14) (X₁.named ht) hcell rfl rfl rfl rfl
  obtain ⟨te, hsteps, o, hrun, hend, ⟨hq, hS2⟩, L', ⟨hret, hWe, hsame⟩, hL⟩ := hcw (((T.setVm vm₁).setTop (F0 m pc ls (rest.map (xvv g)))).pushFrame (.java (entryFrame ⟨g.2.2.1 k, 1⟩ (Value.ref (xad g a) :: as.map (xvv g)).toArray ck.maxLocals))) hT Y₀
  subst hq
  obtain ⟨T', X', hW', -, hte⟩ := X₁.outOf (g := F0 m pc ls (rest.map (xvv g))) rfl hd (mk := ⟨g.2.2.1 k, 1⟩) (a := (Value.ref (xad g a) :: as.map (xvv g)).toArray) hend hWe hsame
  refine ⟨vv.map (xvv g), T, te, T', L', hT, X', hL, by rw [hte]; rfl, by rw [hte]; rfl, ⟨rfl, hS2⟩, fun target h => ?_⟩
  have hstack : ((as.reverse ++ (.inr (.inr (some a)) : xV) :: rest).map (xvv g)) = (as.map (xvv g)).reverse ++ Value.ref (xad g a) :: rest.map (xvv g) := by simp [xvv, va_rf]
  rw [hstack]
  refine hstep₁ target fun acts => ?_
  refine (show Steps p.tables e below (doInvoke e ((T.setVm vm₁).setTop (F0 m pc ls (rest.map (xvv g)))) acts ⟨g.2.2.1 k, 1⟩ (Value.ref (xad g a) :: as.map (xvv g)).toArray).1 target from ?_)
  rw [hin acts]
  refine (Steps.weaken (mid := [.java (F0 m pc ls (rest.map (xvv g)))]) hsteps).trans ?_
  rw [hte]
  exact h
end LMR
