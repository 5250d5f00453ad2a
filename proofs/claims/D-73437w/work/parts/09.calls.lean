/-! LAYER 0: a method's entry, calls -/
section XCa
variable {L : xL} {y : MethodName} {cc : ByteArray} {nL : Nat} {ret : Option FieldType} {d lo pc : Nat} {lv : List (Option xV)} {st : List xV} {w : xW} {v : Option xV} {w1 : xW}
def xargs : List xV → List (Option xV)
  | [] => []
  | a :: t => some a :: (if xw a = 2 then none :: xargs t else xargs t)
theorem xargs_spec (g : xG) : ∀ (as : List xV) (k i : Nat) (a : xV), (xargs as)[i]? = some (some a) → (k + i, xvv g a) ∈ lv_args k (as.map (xvv g))
  | [], k, i, a, h => by simp [xargs] at h
  | b :: t, k, 0, a, h => by
    simp [xargs] at h
    subst h
    exact List.mem_cons_self
  | b :: t, k, i + 1, a, h => by
    simp only [xargs, List.getElem?_cons_succ] at h
    show _ ∈ (k, xvv g b) :: lv_args (if (xvv g b).category = 2 then k + 2 else k + 1) (t.map (xvv g))
    refine List.mem_cons_of_mem _ ?_
    rw [xw_cat]
    by_cases hb : xw b = 2
    · rw [if_pos hb] at h ⊢
      cases i with
      | zero => simp at h
      | succ i =>
        have := xargs_spec g t (k + 2) i a (by simpa using h)
        have e : k + (i + 1 + 1) = k + 2 + i := by omega
        rw [e]; exact this
    · rw [if_neg hb] at h ⊢
      have := xargs_spec g t (k + 1) i a h
      have e : k + (i + 1) = k + 1 + i := by omega
      rw [e]; exact this
theorem xsl_len (g : xG) (as : List xV) : (lg_sl (as.map (xvv g))).length = (as.map xw).sum := by
  induction as with
  | nil => rfl
  | cons a t ih =>
    have : lg_sl ((a :: t).map (xvv g)) = (if (xvv g a).category = 2 then [Slot.val (xvv g a), .second] else [.val (xvv g a)]) ++ lg_sl (t.map (xvv g)) := rfl
    rw [this, xw_cat]
    have h12 : xw a = 1 ∨ xw a = 2 := by
      rcases a with i | j | o
      · exact Or.inl rfl
      · exact Or.inr rfl
      · exact Or.inl rfl
    rcases h12 with h | h <;> simp [h, ih] <;> omega
theorem xSim.blind {g : xG} {as : List xV} : FrameBlind (fun a U => a = (as.map (xvv g)).toArray ∧ xKf g U ∧ xSim g L w U.heap) := by
  intro a U gg mk q
  obtain ⟨q0, q1, q2⟩ := q
  exact ⟨q0, xKf.same (s := U) (U := U.calling gg mk a) rfl q1, q2⟩
/-- a contract out of the walk of the method's body -/
theorem xCt.of {as : List xV} (hy : plainName y.cls = true) (hn : (as.map xw).sum ≤ nL) (hlv : xle lv (xargs as)) (hB : xB L y cc nL ret d lo 0 lv [] w v w1) : xCt L y cc nL ret d lo as w v w1 := by
  refine ⟨hB.1, hB.2.1, fun l g hG => ?_⟩
  refine Met.ofW (cc := cc) (maxL := nL) (ret := ret) hy rfl ?_
  intro p e s m args below meth c s₁ B hml hv
  obtain ⟨rfl, hK, hS⟩ := hv
  have hts := atoms_spec (ws := ws_ y cc nL ret) B.pre
  have hts : ∀ w ∈ lw_all, w.before _ s = true := fun w h => hts w (List.mem_cons_of_mem _ h)
  have hown : s.vm.findClass y.cls = some m.cls := findClass_of_methodNamed B.named
  have hlen : (lg_sl (as.map (xvv g))).length ≤ nL := by rw [xsl_len]; exact hn
  have hl := lv_entry (as.map (xvv g)) hlen
  rw [lg_entry_eq]
  generalize (lg_sl (as.map (xvv g)) ++ List.replicate (nL - (lg_sl (as.map (xvv g))).length) Slot.unset).toArray = ls at hl ⊢
  have hl2 : lv_has ls nL (xls g lv) := ⟨hl.1, hl.2.1, fun q hq => by
    obtain ⟨i, b⟩ := q
    obtain ⟨a, h1, rfl⟩ := xls_mem.mp hq
    have := xargs_spec g as 0 i a (xle_spec hlv i a h1)
    exact hl.2.2 (i, xvv g a) (by simpa using this)⟩
  exact hB.2.2 p l e _ s m _ below meth c g w.2.2.2.1 w.2.2.2.2 ⟨B.exec, B.bytes, hml, B.returns, hown, hts, B.notSynchronized, ⟨(name_of_methodNamed B.named B.method).1, B.named⟩, hK, hG, rfl, rfl, rfl, rfl⟩ s.heap [] 0 0 ls rfl rfl hS (fun q h => by cases h) hl2
/-- behind a call -/
theorem xB.run {rest : List xV} {vv : Option xV} {w2 : xW} {a : xG → Array Value} (hc1 : w.2.2.2.1 ≤ w2.2.2.2.1) (hc2 : w.2.2.2.2 ≤ w2.2.2.2.2)
    (h : ∀ (p : Program) (l : Launch) (e : Env) (R : Room) (s : State) (m : MethodId) (args : Array Value) (below : List Frame) (meth : Method) (c : Code) (H : Heap) (locs : List Loc) (k n : Nat) (g : xG) (ls : Array Slot), p.tables.exec = Jvm.exec → c.code = cc → c.maxLocals = nL → s.vm.findClass y.cls = some m.cls → (∀ w ∈ lw_all, w.before args s = true) → xKf g s → xGok l g → R.frames = d → R.locals = lo → k + (w2.2.2.2.1 - w.2.2.2.1) ≤ R.cells → n + (w2.2.2.2.2 - w.2.2.2.2) ≤ R.slots → xSim g L w H → lv_has ls nL (xls g lv) →
      va_Run p l e R s m args below meth c H locs k n (w2.2.2.2.1 - w.2.2.2.1) (w2.2.2.2.2 - w.2.2.2.2) (F0 m pc ls (st.map (xvv g))) (rest.map (xvv g)) (xQ g L vv w2 (a g)) (fun q => g.2.2.2.2.size ≤ q))
    (kk : xB L y cc nL ret d lo (pc + 3) lv (vv.toList ++ rest) w2 v w1) : xB L y cc nL ret d lo pc lv st w v w1 := by
  refine ⟨Nat.le_trans hc1 kk.1, Nat.le_trans hc2 kk.2.1, fun p l e R s m args below meth c g k0 n0 C H locs k n ls h1 h2 h3 h4 h5 => ?_⟩
  obtain ⟨hx, hb, hml, hret, hO, hw, hlk, hnm, hK, hG, hRf, hRl, hRc, hRs⟩ := C
  have k1 := kk.1
  have k2 := kk.2.1
  have hr := h p l e R s m args below meth c H locs k n g ls hx hb hml hO hw hK hG hRf hRl (by rw [hRc]; omega) (by rw [hRs]; omega) h3 h5
  intro T hT X
  obtain ⟨u, st₀, t, T', L2, e0, X', hL, e1, e2, ⟨hv, hS⟩, stp⟩ := hr T hT X
  cases hv
  have hS' : xSim g L w2 T'.heap := by rw [e1]; exact hS
  have hk := kk.2.2 p l e R s m args below meth c g k0 n0 ⟨hx, hb, hml, hret, hO, hw, hlk, hnm, hK, hG, hRf, hRl, hRc, hRs⟩ T'.heap (locs ++ L2) (k + (w2.2.2.2.1 - w.2.2.2.1)) (n + (w2.2.2.2.2 - w.2.2.2.2)) ls (by omega) (by omega) hS' (fun q hq => by
    rcases List.mem_append.mp hq with q1 | q1
    · exact h4 q q1
    · exact hL q q1) h5 T' rfl X'
  obtain ⟨t2, a1, b1⟩ := hk
  refine ⟨t2, stp t2 ?_, b1⟩
  have es : List.map (xvv g) (vv.toList ++ rest) = (vv.map (xvv g)).toList ++ rest.map (xvv g) := by cases vv <;> simp
  rw [es] at a1
  exact a1
abbrev xHd (y : MethodName) (n : Nat) : Prop := y.cls ≠ "java/lang/invoke/MethodHandle" ∧ y.cls ≠ "java/lang/invoke/VarHandle" ∧ (parseMethodDescriptor y.desc).map (fun d => d.parameters.length) = some n
theorem xrsum {g : xG} {rest : List xV} : ((rest.map (xvv g)).map fun v => v.category).sum = (rest.map xw).sum := by
  rw [List.map_map]
  congr 1
  exact List.map_congr_left fun a _ => xw_cat g a
theorem x_callV {y2 : MethodName} {cc2 : ByteArray} {nL2 : Nat} {ret2 : Option FieldType} {d2 lo2 ix b ci N na : Nat} {V2 : Nat → xV} {C : String} {T : u_T} {as rest : List xV} {vv : Option xV} {w2 : xW} (pn : Nat) (hp : pc + 3 = pn) (hd : decode cc pc = .ok (.invokevirtual ix, 3))
    (hct : xCt L y2 cc2 nL2 ret2 d2 lo2 ((.inr (.inr (some b)) : xV) :: as) w vv w2) (hc : xRd L w b (.inr (.inl (ci, V2)))) (hcl : xcl[ci]? = some (C, T, N)) (hG : GoodIn lw_all (wsV y.cls ix C y2 (ws_ y2 cc2 nL2 ret2))) (hC : y2.cls = C) (hy2 : xHd y2 na) (hn : as.length = na)
    (hroom : d2 + 1 ≤ d ∧ 8 + (nL2 + 11) + lo2 ≤ lo) (hr : (rest.map xw).sum ≤ 8) (hst : st = as.reverse ++ (.inr (.inr (some b)) : xV) :: rest) (kk : xB L y cc nL ret d lo pn lv (vv.toList ++ rest) w2 v w1) : xB L y cc nL ret d lo pc lv st w v w1 := by
  subst hp; subst hst
  refine xB.run (a := fun g => (((.inr (.inr (some b)) : xV) :: as).map (xvv g)).toArray) hct.1 hct.2.1 (fun p l e R s m args below meth c H locs k n g ls hx hb hml hO hw hK hGk hRf hRl hRc hRs hS hl => ?_) kk
  have hM := hct.2.2 l g hGk
  have h1 := hc.at hGk hS
  obtain ⟨r, hr1, cell, q1, q2, q3, q4⟩ := h1
  have hr2 : r = (C, T, N) := Option.some.inj (hr1.symm.trans hcl)
  have hfc := (hK.1.1 ci _ hcl).2.1
  refine va_runV (As := as.map (xvv g)) (rest := rest.map (xvv g)) ⟨hx, hb, hml, hO, hw⟩ hM (cwV na hw hG rfl rfl rfl ⟨hC, hy2⟩ ⟨by rw [hRf]; exact hroom.1, by rw [hRl]; exact hroom.2⟩) ⟨xSim.blind, ⟨cell, q1, by rw [q3]; rfl, by rw [q2]; exact hfc⟩, fun U hU hW => ⟨rfl, hK.warm hW, by rw [hU]; exact hS⟩⟩ rfl (by simpa using hn) hl.1 ?_ (lv_room (by rw [xrsum]; exact hr)) hd ⟨hRc, hRs⟩
  simp [xvv, va_rf, xad]
theorem x_callS {y2 : MethodName} {cc2 : ByteArray} {nL2 : Nat} {ret2 : Option FieldType} {d2 lo2 ix na : Nat} {as rest : List xV} {vv : Option xV} {w2 : xW} (pn : Nat) (hp : pc + 3 = pn) (hd : decode cc pc = .ok (.invokestatic ix, 3))
    (hct : xCt L y2 cc2 nL2 ret2 d2 lo2 as w vv w2) (hG : GoodIn lw_all (va_wsS y.cls ix y2 (ws_ y2 cc2 nL2 ret2))) (hy2 : xHd y2 na) (hn : as.length = na)
    (hroom : d2 + 1 ≤ d ∧ 8 + (nL2 + 11) + lo2 ≤ lo) (hr : (rest.map xw).sum ≤ 8) (hst : st = as.reverse ++ rest) (kk : xB L y cc nL ret d lo pn lv (vv.toList ++ rest) w2 v w1) : xB L y cc nL ret d lo pc lv st w v w1 := by
  subst hp; subst hst
  refine xB.run (a := fun g => (as.map (xvv g)).toArray) hct.1 hct.2.1 (fun p l e R s m args below meth c H locs k n g ls hx hb hml hO hw hK hGk hRf hRl hRc hRs hS hl => ?_) kk
  have hM := hct.2.2 l g hGk
  refine va_runS (As := as.map (xvv g)) (rest := rest.map (xvv g)) ⟨hx, hb, hml, hO, hw⟩ hM (va_cwS na hw hG rfl rfl rfl hy2 ⟨by rw [hRf]; exact hroom.1, by rw [hRl]; exact hroom.2⟩) ⟨xSim.blind, fun U hU hW => ⟨rfl, hK.warm hW, by rw [hU]; exact hS⟩⟩ rfl (by simpa using hn) hl.1 (by simp) (lv_room (by rw [xrsum]; exact hr)) hd ⟨hRc, hRs⟩
end XCa
