/-! arrays of references: aastore, System.arraycopy -/
def xEn (t : Nat) : String := match t with
  | 4 => "UnimodularTables$Back"
  | 5 => "UnimodularTables$Growth"
  | 6 => "UnimodularTables$Turner"
  | 7 => "java/util/BitSet"
  | 8 => "java/lang/Object"
  | _ => "java/lang/Integer"
/-- o may be stored in an array of type t -/
def xas (L : xL) (r : xR) (t : Nat) (o : Option Nat) : Bool := match o with
  | none => true
  | some b => match t with
    | 4 => match xlm L r b with
      | some (6, _) => true
      | some (7, _) => true
      | _ => false
    | 6 => match xlm L r b with
      | some (0, _) => true
      | some (1, _) => true
      | some (2, _) => true
      | some (3, _) => true
      | some (4, _) => true
      | some (5, _) => true
      | _ => false
    | 5 => match xdl L r b with
      | some (.inr (.inl (3, _))) => true
      | _ => false
    | 7 => match xdl L r b with
      | some (.inr (.inl (8, _))) => true
      | _ => false
    | 8 => decide (b < 256)
    | _ => false
/-- a reference whose class is assignable to E -/
def xrf (s : State) (H : Heap) (E : String) (q : Nat) : Prop := ∃ (cellV : Cell) (kC : Class) (comp : ClassId), H[q]? = some cellV ∧ (∀ z, cellV.vm ≠ .statics z) ∧ s.vm.classes[cellV.cls]? = some kC ∧ s.vm.findClass E = some comp ∧ s.vm.assignable cellV.cls comp = true
theorem xrf_obj {l : Launch} {g : xG} {s : State} {L : xL} {w : xW} {H : Heap} {b ci : Nat} {V : Nat → xV} {C E : String} {T : u_T} {N : Nat} (hG : xGok l g) (hK : xKf g s) (hS : xSim g L w H) (hc : xRd L w b (.inr (.inl (ci, V)))) (hcl : xcl[ci]? = some (C, T, N)) (hE : E = C ∨ (C, E) ∈ xcast) : xrf s H E (xad g b) := by
  obtain ⟨r, hr1, cell, q1, q2, q3, q4⟩ := hc.at hG hS
  cases hr1.symm.trans hcl
  have hfc := (hK.1.1 ci _ hcl).2.1
  obtain ⟨kC, hkC, -⟩ := Vm.findClass_spec hfc
  rcases hE with rfl | hE
  · exact ⟨cell, kC, _, q1, fun z h => (by rw [q3] at h; cases h), by rw [q2]; exact hkC, hfc, by rw [q2]; exact va_asg _ _⟩
  · obtain ⟨c, t, h1, h2, h3⟩ := Cond.castable_spec (hK.2.2.2.2.2.1 _ hE)
    cases hfc.symm.trans h1
    exact ⟨cell, kC, t, q1, fun z h => (by rw [q3] at h; cases h), by rw [q2]; exact hkC, h2, by rw [q2]; exact h3⟩
theorem xrf_lam {l : Launch} {g : xG} {s : State} {L : xL} {w : xW} {H : Heap} {b k : Nat} {caps : List xV} {σ : Lambda.Shape} {nm y2 : MethodName} {bytes : ByteArray} {ml mi : Nat} {fs : List (Nat × Nat × String × String)} (hG : xGok l g) (hK : xKf g s) (hS : xSim g L w H) (hc : xRd L w b (.inr (.inr (k, caps)))) (hs : lm_site k σ nm y2 bytes ml mi fs) : xrf s H nm.cls (xad g b) := by
  have h1 := hc.at hG hS
  obtain ⟨⟨x0, pc0, i0, s1, s2⟩, -, -, -, s6, -, -, s9⟩ := hs
  obtain ⟨mS, kcS, cfS, i0', p0', lS, z1, z2, z3, z4, z5, z6, z7, z8⟩ := hK.2.2.2.2.2.2.2.2.2.1 k s9 x0 pc0 i0 σ s1
  obtain ⟨ic, g1, g2, g3⟩ := State.lambdaCallable_spec z7
  obtain ⟨dk, kk, ok, tk, file, cfK, object, iface', t, lay, methods, tgt, found, -, hk, -⟩ := Lambda.isMade_spec z6
  subst s6
  exact ⟨_, kk, ic, h1, fun z h => (by cases h), hk, g1, g2⟩
theorem xas_ok {L : xL} {ms : xS} {r : xR} {t b : Nat} (h : xas L r t (some b) = true) {l : Launch} {g : xG} {s : State} {H : Heap} (hG : xGok l g) (hK : xKf g s) (hS : xSim g L (ms, r) H) : xty t = .object (xEn t) ∧ t < 10 ∧ xrf s H (xEn t) (xad g b) := by
  unfold xas at h
  split at h
  · rename_i h0; cases h0
  · rename_i o b' h0
    cases h0
    split at h
    · refine ⟨rfl, by decide, ?_⟩
      split at h
      · rename_i hx; exact xrf_lam hG hK hS (xlm_rd hx) lmt_6
      · rename_i hx; exact xrf_lam hG hK hS (xlm_rd hx) lmt_7
      · cases h
    · refine ⟨rfl, by decide, ?_⟩
      split at h
      · rename_i hx; exact xrf_lam hG hK hS (xlm_rd hx) lmt_0
      · rename_i hx; exact xrf_lam hG hK hS (xlm_rd hx) lmt_1
      · rename_i hx; exact xrf_lam hG hK hS (xlm_rd hx) lmt_2
      · rename_i hx; exact xrf_lam hG hK hS (xlm_rd hx) lmt_3
      · rename_i hx; exact xrf_lam hG hK hS (xlm_rd hx) lmt_4
      · rename_i hx; exact xrf_lam hG hK hS (xlm_rd hx) lmt_5
      · cases h
    · refine ⟨rfl, by decide, ?_⟩
      split at h
      · rename_i hx; exact xrf_obj hG hK hS (Or.inl (xdl_cell hx).1) rfl (Or.inl rfl)
      · cases h
    · refine ⟨rfl, by decide, ?_⟩
      split at h
      · rename_i hx; exact xrf_obj hG hK hS (Or.inl (xdl_cell hx).1) rfl (Or.inl rfl)
      · cases h
    · refine ⟨rfl, by decide, ?_⟩
      have hb : b < 256 := of_decide_eq_true h
      exact xrf_obj (ci := 9) (V := fun _ => .inl (Int32.ofNat b - 128)) hG hK hS (Or.inr (by unfold xKc; rw [if_pos hb])) rfl (Or.inr (by decide +kernel))
    · cases h
section XRf
variable {L : xL} {y : MethodName} {cc : ByteArray} {nL : Nat} {ret : Option FieldType} {d lo pc : Nat} {lv : List (Option xV)} {st : List xV} {w : xW} {ms : xS} {r : xR} {v : Option xV} {w1 : xW} {ρ : Type} {rr : ρ}
/-- an instruction that writes one cell, at any of its places -/
theorem xB.writeG {pc' : Nat} {st' : List xV} {w' : xW} {a : Nat} {e : xE} (e' : xE) (hc : xcell L w a = some e) (hc' : w'.2.2.2.1 = w.2.2.2.1) (hs' : w'.2.2.2.2 = w.2.2.2.2) (hu : ∀ q, xcell L w' q = if q = a then some e' else xcell L w q)
    (h : ∀ (p : Program) (l : Launch) (e0 : Env) (R : Room) (s : State) (m : MethodId) (args : Array Value) (below : List Frame) (meth : Method) (c : Code) (H : Heap) (locs : List Loc) (k n : Nat) (Q : State → Prop) (g : xG) (ls : Array Slot), p.tables.exec = Jvm.exec → c.code = cc → c.maxLocals = ls.size → s.vm.findClass y.cls = some m.cls → (∀ w ∈ lw_all, w.before args s = true) → xKf g s → xGok l g → R.frames = d → R.locals = lo → xSim g L w H →
      (∀ (H' : Heap) (L' : List Loc), xat g (xad g a) e' H' → H'.size = H.size → (∀ q, q ≠ xad g a → H'[q]? = H[q]?) → (∀ q ∈ L', q.base = xad g a) → W p l e0 R s m args below meth c H' (locs ++ L') k n Q (F0 m pc' ls (st'.map (xvv g)))) → W p l e0 R s m args below meth c H locs k n Q (F0 m pc ls (st.map (xvv g))))
    (k : xB L y cc nL ret d lo pc' lv st' w' v w1) : xB L y cc nL ret d lo pc lv st w v w1 := by
  refine ⟨by rw [← hc']; exact k.1, by rw [← hs']; exact k.2.1, fun p l e0 R s m args below meth c g k0 n0 C H locs k' n' ls h1 h2 h3 h4 h5 => ?_⟩
  have hC := C
  obtain ⟨hx, hb, hml, hret, hO, hw, hlk, hnm, hK, hG, hRf, hRl, hRc, hRs⟩ := C
  refine h p l e0 R s m args below meth c H locs k' n' _ g ls hx hb (hml.trans h5.1.symm) hO hw hK hG hRf hRl h3 fun H' L' a1 a2 a3 a4 => ?_
  refine k.2.2 p l e0 R s m args below meth c g k0 n0 hC H' _ k' n' ls (by rw [hc']; exact h1) (by rw [hs']; exact h2) (h3.put hc a1 a2 a3 hc' hu) (fun q hq => ?_) h5
  rcases List.mem_append.mp hq with q1 | q1
  · exact h4 q q1
  · rw [a4 q q1, xad_big (h3.2.2 a _ hc).1]
    exact Nat.le_add_right _ _
theorem xcon_upr (g : xG) (f : Nat → Option Nat) (k : Nat) (o : Option Nat) : updV (xcon g (.inr (.inr f))) k (va_rf (o.map (xad g))) = xcon g (.inr (.inr (fun j => if j = k then o else f j))) := by
  funext j
  by_cases hj : j = k
  · subst hj; simp [updV, xcon]
  · simp [updV, xcon, hj]
theorem x_aast {a t n : Nat} {f : Nat → Option Nat} {i : Int32} {o : Option Nat} {w' : xW} (pn : Nat) (hp : pc + 1 = pn) (hd : decode cc pc = .ok (.aastore, 1)) (hc : xcell L w a = some (.inl (t, n, .inr (.inr f)))) (hi : xin i n = true) (ht : 4 ≤ t ∧ t < 10)
    (ho : ∀ b, o = some b → ∀ (l : Launch) (g : xG) (s : State) (H : Heap), xGok l g → xKf g s → xSim g L w H → xty t = .object (xEn t) ∧ xrf s H (xEn t) (xad g b))
    (hc' : w'.2.2.2.1 = w.2.2.2.1) (hs' : w'.2.2.2.2 = w.2.2.2.2) (hu : ∀ q, xcell L w' q = if q = a then some (.inl (t, n, .inr (.inr (fun j => if j = i.toNatClampNeg then o else f j)))) else xcell L w q)
    (kk : xB L y cc nL ret d lo pn lv st w' v w1) : xB L y cc nL ret d lo pc lv ((.inr (.inr o) : xV) :: (.inl i : xV) :: (.inr (.inr (some a)) : xV) :: st) w v w1 := by
  subst hp
  refine xB.writeG _ hc hc' hs' hu (fun p l e R s m args below meth c H locs k' n' Q g ls hx hb hml hO hw hK hG hRf hRl hS kk => ?_) kk
  have h1 := (hS.2.2 a _ hc).2
  have h1' : H[xad g a]? = some (arrV (g.2.1 t) n (xcon g (.inr (.inr f)))) := h1
  have hin := xin_vp hi
  have hin2 : ¬ i < 0 ∧ i.toNatClampNeg < n := ⟨fun q => hin (Or.inl q), Nat.not_le.mp fun q => hin (Or.inr q)⟩
  have hty : ∃ E, xty t = .object E := by
    obtain ⟨h4, h9⟩ := ht
    match t, h4, h9 with
    | 4, _, _ => exact ⟨_, rfl⟩
    | 5, _, _ => exact ⟨_, rfl⟩
    | 6, _, _ => exact ⟨_, rfl⟩
    | 7, _, _ => exact ⟨_, rfl⟩
    | 8, _, _ => exact ⟨_, rfl⟩
    | 9, _, _ => exact ⟨_, rfl⟩
  obtain ⟨E, hE⟩ := hty
  have hKt := hK.1.2 t _ (xtys_at ht.2)
  dsimp only at hKt
  rw [hE] at hKt
  have fin : ∀ (H1 : Heap), H1[xad g a]? = some ((arrV (g.2.1 t) n (xcon g (.inr (.inr f)))).setSlot i.toNatClampNeg (va_rf (o.map (xad g)))) → xat g (xad g a) (.inl (t, n, .inr (.inr (fun j => if j = i.toNatClampNeg then o else f j)))) H1 := by
    intro H1 e
    show H1[_]? = some _
    rw [e, arrV_store, xcon_upr]
  cases o with
  | none =>
    exact va_WaastN hx hb h1' (hKt.1 n _) (fun q => by cases q) (by rw [arrV_size]; exact hin) rfl rfl hd fun H1 e z oq => kk H1 _ (fin H1 e) z oq (fun q hq => by cases List.mem_singleton.mp hq; rfl)
  | some b =>
    obtain ⟨hE2, cellV, kC, comp, g1, g2, g3, g4, g5⟩ := ho b rfl l g s H hG hK hS
    cases hE.symm.trans hE2
    obtain ⟨kA, comp2, k1, k2, k3, -⟩ := hKt.2
    cases g4.symm.trans k3
    obtain ⟨kE, hkE, -⟩ := Vm.findClass_spec k3
    exact W.aast hx hb h1' (fun q h => by cases h) (fun h => by cases h) k1 k2 rfl hkE (by rw [arrV_size]; exact hin2) g1 g2 g3 g5 rfl rfl hd fun H1 e z oq => kk H1 _ (fin H1 e) z oq (fun q hq => by cases List.mem_singleton.mp hq; rfl)
end XRf
section XRc
variable {L : xL} {y : MethodName} {cc : ByteArray} {nL : Nat} {ret : Option FieldType} {d lo pc : Nat} {lv : List (Option xV)} {st : List xV} {w : xW} {ms : xS} {r : xR} {v : Option xV} {w1 : xW} {ρ : Type} {rr : ρ}
theorem x_nn31 (z : Int32) (hz : ¬ z < 0) : z.toInt = (z.toNatClampNeg : Int) := by
  have hz0 : (0 : Int) ≤ z.toInt := by
    have := Int32.not_lt.mp hz
    simpa using Int32.le_iff_toInt_le.mp this
  show z.toInt = ((z.toInt.toNat : Nat) : Int)
  omega
/-- System.arraycopy of references -/
theorem x_copyR {ix a0 a t0 t n0 n1 : Nat} {f0 f : Nat → Option Nat} {sp dp n : Int32} {w' : xW} (pn : Nat) (hp : pc + 3 = pn) (hd : decode cc pc = .ok (.invokestatic ix, 3)) (hlink : Cond.methodLink y.cls ix arraycopyName ∈ lw_all) (hnat : Cond.native arraycopyName ∈ lw_all) (hstat : Cond.static arraycopyName ∈ lw_all) (hini : Cond.initialized "java/lang/System" ∈ lw_all)
    (hc0 : xcell L w a0 = some (.inl (t0, n0, .inr (.inr f0)))) (hc : xcell L w a = some (.inl (t, n1, .inr (.inr f)))) (ht0 : 4 ≤ t0 ∧ t0 < 10) (ht : 4 ≤ t ∧ t < 10) (h1 : ¬ sp < 0) (h2 : ¬ dp < 0) (h3 : ¬ n < 0) (h4 : sp.toNatClampNeg + n.toNatClampNeg ≤ n0) (h5 : dp.toNatClampNeg + n.toNatClampNeg ≤ n1)
    (ho : ∀ i b, i < n.toNatClampNeg → f0 (sp.toNatClampNeg + i) = some b → ∀ (l : Launch) (g : xG) (s : State) (H : Heap), xGok l g → xKf g s → xSim g L w H → xty t = .object (xEn t) ∧ xrf s H (xEn t) (xad g b))
    (hroom : 1 ≤ d ∧ (st.map xw).sum + (nativeFrameWords "java/lang/System" "arraycopy" 5 + 11) ≤ lo)
    (hc' : w'.2.2.2.1 = w.2.2.2.1) (hs' : w'.2.2.2.2 = w.2.2.2.2) (hu : ∀ q, xcell L w' q = if q = a then some (.inl (t, n1, .inr (.inr (va_cpy f0 f sp.toNatClampNeg dp.toNatClampNeg n.toNatClampNeg)))) else xcell L w q)
    (kk : xB L y cc nL ret d lo pn lv st w' v w1) : xB L y cc nL ret d lo pc lv ((.inl n : xV) :: (.inl dp : xV) :: (.inr (.inr (some a)) : xV) :: (.inl sp : xV) :: (.inr (.inr (some a0)) : xV) :: st) w v w1 := by
  subst hp
  refine xB.writeG _ hc hc' hs' hu (fun p l e R s m args below meth c H locs k' n' Q g ls hx hb hml hO hw hK hG hRf hRl hS kw => ?_) kk
  have e0 : H[xad g a0]? = some (arrV (g.2.1 t0) n0 (fun j => va_rf ((f0 j).map (xad g)))) := (hS.2.2 a0 _ hc0).2
  have e1 : H[xad g a]? = some (arrV (g.2.1 t) n1 (fun j => va_rf ((f j).map (xad g)))) := (hS.2.2 a _ hc).2
  have hty : ∀ q, 4 ≤ q ∧ q < 10 → ∃ E, xty q = .object E := by
    intro q hq
    obtain ⟨h4, h9⟩ := hq
    match q, h4, h9 with
    | 4, _, _ => exact ⟨_, rfl⟩
    | 5, _, _ => exact ⟨_, rfl⟩
    | 6, _, _ => exact ⟨_, rfl⟩
    | 7, _, _ => exact ⟨_, rfl⟩
    | 8, _, _ => exact ⟨_, rfl⟩
    | 9, _, _ => exact ⟨_, rfl⟩
  obtain ⟨E0, hE0⟩ := hty t0 ht0
  obtain ⟨E1, hE1⟩ := hty t ht
  have hK0 := hK.1.2 t0 _ (xtys_at ht0.2)
  have hK1 := hK.1.2 t _ (xtys_at ht.2)
  dsimp only at hK0 hK1
  rw [hE0] at hK0
  rw [hE1] at hK1
  obtain ⟨-, k0, hk0, cm0, hkk0⟩ := hK0.1 n0 (fun j => va_rf ((f0 j).map (xad g)))
  obtain ⟨-, k1, hk1, cm1, hkk1⟩ := hK1.1 n1 (fun j => va_rf ((f j).map (xad g)))
  subst hb
  intro T hT X
  obtain ⟨vm', X', step⟩ := X.arraycopy hx hO (hw _ hlink) (hw _ hnat) (hw _ hstat) (hw _ hini) (src := xad g a0) (dst := xad g a) (cs := arrV (g.2.1 t0) n0 (fun j => va_rf ((f0 j).map (xad g)))) (cd := arrV (g.2.1 t) n1 (fun j => va_rf ((f j).map (xad g)))) (srcPos := sp) (destPos := dp) (n := n) (by rw [hT]; exact e0) (by rw [hT]; exact e1)
    (fun _ h => by cases h) (fun _ h => by cases h) (fun h => by cases h) (fun h => by cases h) hk0 hk1 hkk0 hkk1 rfl h1 h2 h3
    (by rw [x_nn31 sp h1, x_nn31 n h3, arrV_size]; omega) (by rw [x_nn31 dp h2, x_nn31 n h3, arrV_size]; omega)
    (fun vm₁ hal i hi => by
      have e : (arrV (g.2.1 t0) n0 (fun j => va_rf ((f0 j).map (xad g)))).slots.getD (sp.toNatClampNeg + i) .null = va_rf ((f0 (sp.toNatClampNeg + i)).map (xad g)) := by
        rw [Array.getD_eq_getD_getElem?, arrV_read _ _ (by omega)]
        rfl
      rw [e]
      cases hy : f0 (sp.toNatClampNeg + i) with
      | none => exact ⟨rfl, trivial⟩
      | some b =>
        obtain ⟨hE2, cellV, kC, comp, g1, g2, g3, g4, g5⟩ := ho i b hi hy l g s H hG hK hS
        cases hE1.symm.trans hE2
        obtain ⟨kA, comp2, r1, r2, r3, -⟩ := hK1.2
        cases hk1.symm.trans r1
        cases hkk1.symm.trans r2
        cases g4.symm.trans r3
        obtain ⟨kE, hkE, -⟩ := Vm.findClass_spec r3
        obtain ⟨kC', hkC', -⟩ := hal.2.2 _ _ g3
        obtain ⟨kE', hkE', -⟩ := hal.2.2 _ _ hkE
        refine ⟨rfl, cellV, (show T.heap[xad g b]? = some cellV by rw [hT]; exact g1), g2, ⟨kC', hkC'⟩, ?_, ?_⟩
        · exact ⟨kE', hkE'⟩
        · show vm₁.assignable _ _ = true
          rw [hal.assignable]
          exact g5)
    (g := F0 m pc ls (.int n :: .int dp :: .ref (xad g a) :: .int sp :: .ref (xad g a0) :: st.map (xvv g))) rfl hml.symm (rest := st.map (xvv g)) rfl hd (by rw [hRf]; exact hroom.1) (by rw [xrsum, hRl]; show 2 * 0 + _ + _ ≤ _; have := hroom.2; omega)
  have e2 : copied (arrV (g.2.1 t0) n0 (fun j => va_rf ((f0 j).map (xad g)))) (arrV (g.2.1 t) n1 (fun j => va_rf ((f j).map (xad g)))) sp dp n = arrV (g.2.1 t) n1 (fun j => va_rf ((va_cpy f0 f sp.toNatClampNeg dp.toNatClampNeg n.toNatClampNeg j).map (xad g))) :=
    va_copied (fun z : Option Nat => va_rf (z.map (xad g))) (g.2.1 t0) (g.2.1 t) f0 f h4
  rw [e2] at X' step
  have hl : xad g a < H.size := (Array.getElem?_eq_some_iff.mp e1).1
  have hheap : ((T.setVm vm').setCell (xad g a) (arrV (g.2.1 t) n1 (fun j => va_rf ((va_cpy f0 f sp.toNatClampNeg dp.toNatClampNeg n.toNatClampNeg j).map (xad g))))).heap = H.setIfInBounds (xad g a) (arrV (g.2.1 t) n1 (fun j => va_rf ((va_cpy f0 f sp.toNatClampNeg dp.toNatClampNeg n.toNatClampNeg j).map (xad g)))) := by rw [← hT]; rfl
  obtain ⟨t2, a1, b1⟩ := kw _ _ (show (H.setIfInBounds (xad g a) _)[xad g a]? = some _ by simp [Array.getElem?_setIfInBounds, hl]; rfl) (by simp) (fun q hq => by simp [Array.getElem?_setIfInBounds, Ne.symm hq]) (fun q hq => by
    obtain ⟨z, -, hz⟩ := List.mem_map.mp hq
    rw [← hz]) _ hheap X'
  exact ⟨t2, step t2 a1, b1⟩
end XRc
