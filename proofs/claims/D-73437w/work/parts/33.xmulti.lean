/-! LAYER 0: arrays of int arrays; calls of the system's methods -/
theorem xo_outer (c : ClassId) (N h0 : Nat) : ∀ i, i ≤ N → ∀ j, j < N → (Multi.outerC c N h0 i).slots[j]? = some (if j < i then .ref (h0 + 1 + j) else .null)
  | 0, _, j, hj => by simp [Multi.outerC, hj]
  | i + 1, hi, j, hj => by
    have ih := xo_outer c N h0 i (by omega) j hj
    have hs := (Multi.outerC_facts c N h0 i).2.2
    show ((Multi.outerC c N h0 i).slots.setIfInBounds i (.ref (h0 + 1 + i)))[j]? = _
    rw [Array.getElem?_setIfInBounds]
    by_cases hij : i = j
    · subst hij
      rw [if_pos rfl, if_pos (by rw [hs]; exact hj), if_pos (Nat.lt_succ_self _)]
    · rw [if_neg hij, ih]
      by_cases h1 : j < i
      · rw [if_pos h1, if_pos (by omega)]
      · rw [if_neg h1, if_neg (by omega)]
theorem xo_outer_eq (c : ClassId) (N h0 : Nat) : Multi.outerC c N h0 N = arrV c N (fun j => .ref (h0 + 1 + j)) := by
  obtain ⟨h1, h2, h3⟩ := Multi.outerC_facts c N h0 N
  have hs : (Multi.outerC c N h0 N).slots = Array.ofFn (n := N) fun j => Value.ref (h0 + 1 + j.val) := by
    apply Array.ext
    · rw [h3]; simp
    · intro j q1 q2
      have hj : j < N := by rw [h3] at q1; exact q1
      have := xo_outer c N h0 N (Nat.le_refl _) j hj
      rw [if_pos hj, Array.getElem?_eq_getElem q1] at this
      rw [Option.some.inj this]
      simp
  have he : ∀ i, Multi.outerC c N h0 i = { cls := c, slots := (Multi.outerC c N h0 i).slots, vm := .none } := by
    intro i
    induction i with
    | zero => rfl
    | succ i ih =>
      show (Multi.outerC c N h0 i).setSlot i (.ref (h0 + 1 + i)) = _
      rw [ih]
      rfl
  rw [he N, hs]
  rfl
section XMu
variable {L : xL} {y : MethodName} {cc : ByteArray} {nL : Nat} {ret : Option FieldType} {d lo pc : Nat} {lv : List (Option xV)} {st : List xV} {ms : xS} {r : xR} {v : Option xV} {w1 : xW} {ρ : Type} {rr : ρ}
theorem xam_sim {g : xG} {H H' : Heap} {N M : Nat} (hS : xSim g L (ms, r) H) (hL : ∀ q, q ≤ N → L (300 + r.2.2.1 + q) = none) (h1 : H'.size = H.size + 1 + N) (h2 : H'[H.size]? = some (arrV (g.2.1 3) N (fun j => .ref (H.size + 1 + j)))) (h3 : ∀ j, j < N → H'[H.size + 1 + j]? = some (arrV (g.2.1 0) M (fun _ => .int 0))) (h4 : ∀ q, q < H.size → H'[q]? = H[q]?) : xSim g L (ms, xam r N M) H' := by
  obtain ⟨s1, s2, s3⟩ := hS
  have s1' : H.size = g.2.2.2.2.size + r.2.2.1 := s1
  refine ⟨by rw [h1, s1']; show _ = g.2.2.2.2.size + (r.2.2.1 + 1 + N); omega, fun q hq => by rw [h4 q (by omega)]; exact s2 q hq, fun k e hk => ?_⟩
  by_cases hk0 : k = 300 + r.2.2.1
  · have hL0 : L k = none := by rw [hk0]; exact hL 0 (Nat.zero_le _)
    unfold xcell at hk
    rw [hL0] at hk
    have e1 : e = .inl (3, N, .inr (.inr (fun j => some (301 + r.2.2.1 + j)))) := by
      have : (xam r N M).2.1 k = some e := hk
      simp only [xam, hk0, if_pos] at this
      exact (Option.some.inj this).symm
    subst e1
    refine ⟨by omega, ?_⟩
    have ea : xad g k = H.size := by rw [xad_big (by omega), s1', hk0]; omega
    rw [ea]
    show H'[H.size]? = some (arrV (g.2.1 3) N (xcon g (.inr (.inr (fun j => some (301 + r.2.2.1 + j))))))
    rw [h2]
    congr 2
    funext j
    show Value.ref (H.size + 1 + j) = Value.ref (xad g (301 + r.2.2.1 + j))
    have ej : xad g (301 + r.2.2.1 + j) = H.size + 1 + j := by rw [xad_big (by omega), s1']; omega
    rw [ej]
  · by_cases hk1 : 300 + r.2.2.1 < k ∧ k ≤ 300 + r.2.2.1 + N
    · have hL0 : L k = none := by
        have := hL (k - (300 + r.2.2.1)) (by omega)
        rw [show 300 + r.2.2.1 + (k - (300 + r.2.2.1)) = k by omega] at this
        exact this
      unfold xcell at hk
      rw [hL0] at hk
      have e1 : e = .inl (0, M, .inl (fun _ => 0)) := by
        have : (xam r N M).2.1 k = some e := hk
        simp only [xam] at this
        rw [if_neg hk0, if_pos hk1] at this
        exact (Option.some.inj this).symm
      subst e1
      refine ⟨by omega, ?_⟩
      have ea : xad g k = H.size + 1 + (k - (301 + r.2.2.1)) := by rw [xad_big (by omega), s1']; omega
      rw [ea]
      exact h3 _ (by omega)
    · have hk2 : xcell L (ms, r) k = some e := by
        unfold xcell at hk ⊢
        cases hLk : L k with
        | some dd => rw [hLk] at hk; exact hk
        | none =>
          rw [hLk] at hk
          have : (xam r N M).2.1 k = some e := hk
          simp only [xam] at this
          rw [if_neg hk0, if_neg hk1] at this
          exact this
      obtain ⟨q1, q2⟩ := s3 k e hk2
      exact ⟨q1, q2.kept (h4 _ q2.lt)⟩
theorem d_multi {ix : Nat} {n m : Int32} (pn : Nat) (hp : pc + 4 = pn) (hd : decode cc pc = .ok (.multianewarray ix 2, 4)) (hlk : Cond.classLink y.cls ix "[[I" ∈ lw_all) {K : Nat → xR → Option ρ} (h : alm L r n m K = some rr)
    (kk : ∀ a r', K a r' = some rr → xB L y cc nL ret d lo pn lv ((.inr (.inr (some a)) : xV) :: st) (ms, r') v w1) : xB L y cc nL ret d lo pc lv ((.inl m : xV) :: (.inl n : xV) :: st) (ms, r) v w1 := by
  subst hp
  unfold alm at h
  split at h
  · rename_i hc
    obtain ⟨c1, c2, c3, c4, c5⟩ := hc
    have hL : ∀ q, q ≤ n.toNatClampNeg → L (300 + r.2.2.1 + q) = none := by
      intro q hq
      have := List.all_eq_true.mp c5 q (List.mem_range.mpr (by omega))
      simpa using this
    have k := kk _ _ h
    have k1 : r.2.2.1 + 1 + n.toNatClampNeg ≤ w1.2.2.2.1 := k.1
    have k2 : r.2.2.2 + n.toNatClampNeg + n.toNatClampNeg * m.toNatClampNeg ≤ w1.2.2.2.2 := k.2.1
    refine ⟨by show r.2.2.1 ≤ _; omega, by show r.2.2.2 ≤ _; omega, fun p l e0 R s mm args below meth c g k0 n0 C H locs k' n' ls h1 h2 h3 h4 h5 => ?_⟩
    have h1' : k0 + k' = r.2.2.1 := h1
    have h2' : n0 + n' = r.2.2.2 := h2
    have hC := C
    obtain ⟨hx, hb, hml, hret, hO, hw, hlk2, hnm, hK, hG, hRf, hRl, hRc, hRs⟩ := C
    intro T hT X
    have hlink : (Cond.classLink y.cls ix ("[" ++ (FieldType.array .int).toString)).before args s = true := hw _ hlk
    obtain ⟨vm₁, cA, comp, hW1, hfA, hfC, hO1, hI1, X', step⟩ := X.multianewarray2F hx (ty := .int) hO hlink (show (Cond.arrayOver (.array .int)).before args s = true from hK.2.2.2.2.2.2.2.1) (hw _ q261) (g := F0 mm pc ls (List.map (xvv g) ((.inl m : xV) :: (.inl n : xV) :: st))) rfl (by rw [hb]; exact hd) (n := n) (k := m) (rest := st.map (xvv g)) rfl c1 c2 (by omega) (by show m.toNatClampNeg * 4 ≤ _; omega) (by omega) rfl rfl (by rw [hRc]; omega) (by rw [hRs]; omega)
    have hcA : g.2.1 3 = cA := by
      have h4 := (hK.1.2 3 _ (xtys_at (by decide))).2
      exact Option.some.inj (h4.symm.trans hfA)
    have hcC : g.2.1 0 = comp := by
      have h4 := (hK.1.2 0 _ (xtys_at (by decide))).2
      exact Option.some.inj (h4.symm.trans hfC)
    subst hcA; subst hcC
    have hH : (T.setVm vm₁).heap = H := hT
    have f := Multi.fill_facts (T.setVm vm₁) (g.2.1 3) (g.2.1 0) n.toNatClampNeg m.toNatClampNeg (defaultValue .int) n.toNatClampNeg
    have hsim : xSim g L (ms, xam r n.toNatClampNeg m.toNatClampNeg) (Multi.fill (T.setVm vm₁) (g.2.1 3) (g.2.1 0) n.toNatClampNeg m.toNatClampNeg (defaultValue .int) n.toNatClampNeg).heap := by
      refine xam_sim h3 hL (by rw [f.1, hH]) ?_ (fun j hj => ?_) (fun q hq => ?_)
      · have := f.2.1
        rw [xo_outer_eq, hH] at this
        exact this
      · have := Multi.fill_inner (T.setVm vm₁) (g.2.1 3) (g.2.1 0) n.toNatClampNeg m.toNatClampNeg (defaultValue .int) n.toNatClampNeg j hj
        rw [hH] at this
        rw [this]
        exact congrArg some (arrV_new _ _ _)
      · rw [Multi.fill_old _ _ _ _ _ _ (by rw [hH]; exact hq), hH]
    obtain ⟨t2, a1, b1⟩ := k.2.2 p l e0 R s mm args below meth c g k0 n0 hC _ locs (k' + 1 + n.toNatClampNeg) (n' + n.toNatClampNeg + n.toNatClampNeg * m.toNatClampNeg) ls (by show _ = r.2.2.1 + 1 + n.toNatClampNeg; omega) (by show _ = r.2.2.2 + n.toNatClampNeg + n.toNatClampNeg * m.toNatClampNeg; omega) hsim h4 h5 _ rfl X'
    refine ⟨t2, step t2 ?_, b1⟩
    have ea : xad g (300 + r.2.2.1) = T.heap.size := by
      rw [xad_big (by omega), hT, h3.1]
      show _ + (300 + r.2.2.1 - 300) = _ + r.2.2.1
      omega
    have e2 : List.map (xvv g) ((.inr (.inr (some (300 + r.2.2.1))) : xV) :: st) = .ref T.heap.size :: st.map (xvv g) := by
      show Value.ref (xad g (300 + r.2.2.1)) :: _ = _
      rw [ea]
    rw [e2] at a1
    exact a1
  · cases h
end XMu
section XCb
variable {L : xL} {y : MethodName} {cc : ByteArray} {nL : Nat} {ret : Option FieldType} {d lo pc : Nat} {lv : List (Option xV)} {st : List xV} {w : xW} {ms : xS} {r : xR} {v : Option xV} {w1 : xW} {ρ : Type} {rr : ρ}
variable {y2 : MethodName} {cc2 : ByteArray} {nL2 : Nat} {ret2 : Option FieldType} {d2 lo2 ix na : Nat} {as : List xV}
/-- a constructor's call -/
theorem x_callI {b : Nat} {w2 : xW} (rest : List xV) (pn : Nat) (hp : pc + 3 = pn) (hd : decode cc pc = .ok (.invokespecial ix, 3)) (hct : xCt L y2 cc2 nL2 none d2 lo2 ((.inr (.inr (some b)) : xV) :: as) w none w2) (hl : Cond.methodLink y.cls ix y2 ∈ lw_all) (h1 : Cond.instanceMethod y2 ∈ lw_all) (h2 : Cond.initialized y2.cls ∈ lw_all) (h3 : Cond.code y2 cc2 nL2 none ∈ lw_all) (hin : y2.name = "<init>") (hy2 : xHd y2 na) (hn : as.length = na) (hroom : d2 + 1 ≤ d ∧ 8 + (nL2 + 11) + lo2 ≤ lo) (hr : (rest.map xw).sum ≤ 8) (hst : st = as.reverse ++ (.inr (.inr (some b)) : xV) :: rest)
    (kk : xB L y cc nL ret d lo pn lv rest w2 v w1) : xB L y cc nL ret d lo pc lv st w v w1 := by
  subst hp; subst hst
  refine xB.run (vv := none) (a := fun g => (((.inr (.inr (some b)) : xV) :: as).map (xvv g)).toArray) hct.1 hct.2.1 (fun p l e R s m args below meth c H locs k n g ls hx hb hml hO hw hK hGk hRf hRl hRc hRs hS hl2 => ?_) kk
  have hM := hct.2.2 l g hGk
  refine va_runI (As := as.map (xvv g)) (rest := rest.map (xvv g)) ⟨hx, hb, hml, hO, hw⟩ hM (cwI na hw (lw_meth h3) rfl rfl rfl (hw _ h2) (hw _ hl) (hw _ h1) hin hy2 ⟨by rw [hRf]; exact hroom.1, by rw [hRl]; exact hroom.2⟩) ⟨xSim.blind, fun U hU hW => ⟨rfl, hK.warm hW, by rw [hU]; exact hS⟩⟩ rfl (by simpa using hn) hl2.1 ?_ (lv_room (by rw [xrsum]; exact hr)) hd ⟨hRc, hRs⟩
  simp [xvv, va_rf]
/-- Object's constructor -/
theorem x_obj {b : Nat} (pn : Nat) (hp : pc + 3 = pn) (hd : decode cc pc = .ok (.invokespecial ix, 3)) (hl : Cond.methodLink y.cls ix Lib.objectInit ∈ lw_all) (h1 : Cond.instanceMethod Lib.objectInit ∈ lw_all) (h2 : Cond.code Lib.objectInit ⟨#[0xb1]⟩ 1 none ∈ lw_all) (hroom : 1 ≤ d ∧ (st.map xw).sum + 12 ≤ lo) (kk : xB L y cc nL ret d lo pn lv st w v w1) : xB L y cc nL ret d lo pc lv ((.inr (.inr (some b)) : xV) :: st) w v w1 := by
  subst hp
  exact xB.liftR (fun p l e R s m args below meth c H locs k n Q g ls hx hb hml hO hw hRf hRl hc hs k9 => W.objInit (a := xad g b) (rest := st.map (xvv g)) hx hb hO (hw _ hl) (hw _ h1) (hw _ h2) rfl hml.symm rfl hd (by rw [hRf]; exact hroom.1) (by rw [hRl, xrsum]; show 2 * 0 + _ + 12 ≤ lo; omega) k9) kk
theorem x_callSN {vv : Option xV} {w2 : xW} (rest : List xV) (pn : Nat) (hp : pc + 3 = pn) (hd : decode cc pc = .ok (.invokestatic ix, 3)) (hct : xCt L y2 cc2 nL2 ret2 d2 lo2 as w vv w2) (hl : Cond.methodLinkNest y.cls ix y2 "UnimodularTables" ∈ xnest) (h1 : Cond.static y2 ∈ lw_all) (h2 : Cond.initialized y2.cls ∈ lw_all) (h3 : Cond.code y2 cc2 nL2 ret2 ∈ lw_all) (hy2 : xHd y2 na) (hn : as.length = na) (hroom : d2 + 1 ≤ d ∧ 8 + (nL2 + 11) + lo2 ≤ lo) (hr : (rest.map xw).sum ≤ 8) (hst : st = as.reverse ++ rest)
    (kk : xB L y cc nL ret d lo pn lv (vv.toList ++ rest) w2 v w1) : xB L y cc nL ret d lo pc lv st w v w1 := by
  subst hp; subst hst
  refine xB.run (a := fun g => (as.map (xvv g)).toArray) hct.1 hct.2.1 (fun p l e R s m args below meth c H locs k n g ls hx hb hml hO hw hK hGk hRf hRl hRc hRs hS hl2 => ?_) kk
  have hM := hct.2.2 l g hGk
  exact va_runSN (As := as.map (xvv g)) (rest := rest.map (xvv g)) ⟨hx, hb, hml, hO, hw⟩ hM ⟨va_cnB na hw (lw_meth h3) rfl rfl rfl (hK.2.2.2.2.1 _ hl) (hw _ h2) hy2 ⟨by rw [hRf]; exact hroom.1, by rw [hRl]; exact hroom.2⟩, hw _ h1, trivial⟩ ⟨xSim.blind, fun U hU hW => ⟨rfl, hK.warm hW, by rw [hU]; exact hS⟩⟩ rfl (by simpa using hn) hl2.1 (by simp) (lv_room (by rw [xrsum]; exact hr)) hd ⟨hRc, hRs⟩
theorem x_callVN {vv : Option xV} {w2 : xW} {b ci N : Nat} {V2 : Nat → xV} {C : String} {T : u_T} (rest : List xV) (pn : Nat) (hp : pc + 3 = pn) (hd : decode cc pc = .ok (.invokevirtual ix, 3)) (hct : xCt L y2 cc2 nL2 ret2 d2 lo2 ((.inr (.inr (some b)) : xV) :: as) w vv w2) (hc : xRd L w b (.inr (.inl (ci, V2)))) (hcl : xcl[ci]? = some (C, T, N)) (hl : Cond.methodLinkNest y.cls ix y2 "UnimodularTables" ∈ xnest) (h1 : Cond.instanceMethod y2 ∈ lw_all) (h2 : Cond.initialized y2.cls ∈ lw_all) (h3 : Cond.code y2 cc2 nL2 ret2 ∈ lw_all) (h4 : Cond.selects C y2 y2 ∈ lw_all) (hy2 : xHd y2 na) (hn : as.length = na) (hroom : d2 + 1 ≤ d ∧ 8 + (nL2 + 11) + lo2 ≤ lo) (hr : (rest.map xw).sum ≤ 8) (hst : st = as.reverse ++ (.inr (.inr (some b)) : xV) :: rest)
    (kk : xB L y cc nL ret d lo pn lv (vv.toList ++ rest) w2 v w1) : xB L y cc nL ret d lo pc lv st w v w1 := by
  subst hp; subst hst
  refine xB.run (a := fun g => (((.inr (.inr (some b)) : xV) :: as).map (xvv g)).toArray) hct.1 hct.2.1 (fun p l e R s m args below meth c H locs k n g ls hx hb hml hO hw hK hGk hRf hRl hRc hRs hS hl2 => ?_) kk
  have hM := hct.2.2 l g hGk
  have h9 := hc.at hGk hS
  obtain ⟨r, hr1, cell, q1, q2, q3, q4⟩ := h9
  have hr2 : r = (C, T, N) := Option.some.inj (hr1.symm.trans hcl)
  have hfc := (hK.1.1 ci _ hcl).2.1
  refine va_runVN (As := as.map (xvv g)) (rest := rest.map (xvv g)) ⟨hx, hb, hml, hO, hw⟩ hM ⟨va_cnB na hw (lw_meth h3) rfl rfl rfl (hK.2.2.2.2.1 _ hl) (hw _ h2) hy2 ⟨by rw [hRf]; exact hroom.1, by rw [hRl]; exact hroom.2⟩, hw _ h1, hw _ h4⟩ ⟨xSim.blind, ⟨cell, q1, by rw [q3]; rfl, by rw [q2]; exact hfc⟩, fun U hU hW => ⟨rfl, hK.warm hW, by rw [hU]; exact hS⟩⟩ rfl (by simpa using hn) hl2.1 ?_ (lv_room (by rw [xrsum]; exact hr)) hd ⟨hRc, hRs⟩
  simp [xvv, va_rf, xad]
/-- a dyn object of a class -/
def dcl {ρ : Type} (L : xL) (r : xR) (a ci : Nat) (K : Option ρ) : Option ρ := match xdl L r a with
  | some (.inr (.inl o)) => if o.1 = ci then K else none
  | _ => none
theorem x_dcl {a ci : Nat} {K : Option ρ} {P : Prop} (h : dcl L r a ci K = some rr) (kk : ∀ V, xRd L (ms, r) a (.inr (.inl (ci, V))) → K = some rr → P) : P := by
  unfold dcl at h
  split at h
  · rename_i q hq
    split at h
    · rename_i hc
      exact kk q.2 (Or.inl (xdl_cell (show xdl L r a = some (.inr (.inl (ci, q.2))) by rw [hq, ← hc])).1) h
    · cases h
  · cases h
end XCb
theorem pl_X4 : plainName RX4 = true := by decide
theorem pl_X3 : plainName RX3 = true := by decide
theorem pl_X2 : plainName RX2 = true := by decide
theorem pl_X0 : plainName RX0 = true := by decide
theorem pl_J5 : plainName RJ5 = true := by decide
theorem pl_J6 : plainName RJ6 = true := by decide
theorem pl_J7 : plainName RJ7 = true := by decide
theorem pl_J16 : plainName RJ16 = true := by decide
theorem pl_J23 : plainName RJ23 = true := by decide
theorem pl_J2 : plainName RJ2 = true := by decide
theorem pl_J3 : plainName RJ3 = true := by decide
theorem pl_J4 : plainName RJ4 = true := by decide
theorem pl_J21 : plainName RJ21 = true := by decide
theorem pl_J22 : plainName RJ22 = true := by decide
theorem pl_J29 : plainName RJ29 = true := by decide
theorem pl_J20 : plainName RJ20 = true := by decide
theorem pl_J19 : plainName RJ19 = true := by decide
theorem pl_J0 : plainName RJ0 = true := by decide
theorem pl_J1 : plainName RJ1 = true := by decide
theorem pl_J14 : plainName RJ14 = true := by decide
theorem pl_J15 : plainName RJ15 = true := by decide
theorem pl_J17 : plainName RJ17 = true := by decide
section XNl
variable {L : xL} {y : MethodName} {cc : ByteArray} {nL : Nat} {ret : Option FieldType} {d lo pc : Nat} {ms : xS} {r : xR} {v : Option xV} {w1 : xW} {ρ : Type} {rr : ρ}
theorem x_nnP {o : Option Nat} {K : Nat → Option ρ} {P : Option Nat → Prop} (h : nn o K = some rr) (kk : ∀ a, K a = some rr → P (some a)) : P o := by
  cases o with
  | none => cases h
  | some a => exact kk a h
theorem x_nulP {o : Option Nat} {off : Int} {A : Option ρ} {K : Nat → Option ρ} {lv : Option Nat → List (Option xV)} {st : Option Nat → List xV} (tgt pn : Nat) (hp : pc + 3 = pn) (hd : decode cc pc = .ok (.ifnull off, 3)) (ht : (pc : Int) + off = (tgt : Int)) (h : nu o A K = some rr) (kt : A = some rr → xB L y cc nL ret d lo tgt (lv none) (st none) (ms, r) v w1) (kf : ∀ a, K a = some rr → xB L y cc nL ret d lo pn (lv (some a)) (st (some a)) (ms, r) v w1) : xB L y cc nL ret d lo pc (lv o) ((.inr (.inr o) : xV) :: st o) (ms, r) v w1 := by
  cases o with
  | none => exact x_ifnull tgt pn hp hd ht (fun _ => kt h) (fun _ q => by cases q)
  | some a => exact x_ifnull tgt pn hp hd ht (fun q => by cases q) (fun b q => by cases q; exact kf a h)
theorem x_nnlP {o : Option Nat} {off : Int} {A : Option ρ} {K : Nat → Option ρ} {lv : Option Nat → List (Option xV)} {st : Option Nat → List xV} (tgt pn : Nat) (hp : pc + 3 = pn) (hd : decode cc pc = .ok (.ifnonnull off, 3)) (ht : (pc : Int) + off = (tgt : Int)) (h : nu o A K = some rr) (kt : ∀ a, K a = some rr → xB L y cc nL ret d lo tgt (lv (some a)) (st (some a)) (ms, r) v w1) (kf : A = some rr → xB L y cc nL ret d lo pn (lv none) (st none) (ms, r) v w1) : xB L y cc nL ret d lo pc (lv o) ((.inr (.inr o) : xV) :: st o) (ms, r) v w1 := by
  cases o with
  | none => exact x_ifnonnull tgt pn hp hd ht (fun _ q => by cases q) (fun _ => kf h)
  | some a => exact x_ifnonnull tgt pn hp hd ht (fun b q => by cases q; exact kt a h) (fun q => by cases q)
end XNl
