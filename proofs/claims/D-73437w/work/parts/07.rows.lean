/-! LAYER 0: rows over xB (printed by gen/mk_rows.py) -/
section XR
variable {L : xL} {y : MethodName} {cc : ByteArray} {nL : Nat} {ret : Option FieldType} {d lo pc : Nat} {lv : List (Option xV)} {st : List xV} {w : xW} {v : Option xV} {w1 : xW}
theorem xls_mem {g : xG} {lv : List (Option xV)} {i : Nat} {x : Value} : (i, x) ∈ xls g lv ↔ ∃ a, lv[i]? = some (some a) ∧ x = xvv g a := by
  unfold xls
  simp only [List.mem_filterMap, List.mem_zipIdx_iff_getElem?, Option.map_eq_some_iff, Prod.mk.injEq]
  constructor
  · rintro ⟨⟨o, j⟩, h1, a, h2, h3, h4⟩
    subst h3
    exact ⟨a, by rw [h1, h2], h4.symm⟩
  · rintro ⟨a, h1, h2⟩
    exact ⟨(some a, i), h1, a, rfl, rfl, h2.symm⟩
theorem xls_get {g : xG} {lv : List (Option xV)} {ls : Array Slot} {nL i : Nat} {a : xV} (h : lv_has ls nL (xls g lv)) (hi : lv[i]? = some (some a)) : ls[i]? = some (.val (xvv g a)) :=
  h.2.2 (i, xvv g a) (xls_mem.mpr ⟨a, hi, rfl⟩)
def xnl (o : Option xV) : Option xV := match o with
  | some (.inr (.inl _)) => none
  | o => o
def xset : List (Option xV) → Nat → xV → List (Option xV)
  | [], _, _ => []
  | _ :: t, 0, x => some x :: t
  | o :: t, 1, x => xnl o :: xset t 0 x
  | o :: t, n + 2, x => o :: xset t (n + 1) x
def xclr : List (Option xV) → Nat → List (Option xV)
  | [], _ => []
  | _ :: t, 0 => none :: t
  | o :: t, n + 1 => o :: xclr t n
def xw (x : xV) : Nat := match x with
  | .inr (.inl _) => 2
  | _ => 1
theorem xw_cat (g : xG) (x : xV) : (xvv g x).category = xw x := by
  rcases x with i | j | o
  · rfl
  · rfl
  · cases o <;> rfl
theorem xset_spec : ∀ (lv : List (Option xV)) (i : Nat) (x : xV) (j : Nat) (a : xV), (xset lv i x)[j]? = some (some a) → (j = i ∧ a = x) ∨ (j ≠ i ∧ lv[j]? = some (some a) ∧ ¬ (j + 1 = i ∧ xw a = 2))
  | [], i, x, j, a, h => by simp [xset] at h
  | o :: t, 0, x, 0, a, h => by
    simp [xset] at h
    exact Or.inl ⟨rfl, h.symm⟩
  | o :: t, 0, x, j + 1, a, h => by
    simp [xset] at h
    exact Or.inr ⟨by omega, by simpa using h, by omega⟩
  | o :: t, 1, x, 0, a, h => by
    simp only [xset, List.getElem?_cons_zero, Option.some.injEq] at h
    refine Or.inr ⟨by omega, ?_, ?_⟩
    · rcases o with _ | (i | i | i) <;> simp_all [xnl]
    · rcases o with _ | (i | i | i) <;> simp_all [xnl, xw] <;> (subst h; simp)
  | o :: t, 1, x, j + 1, a, h => by
    simp only [xset, List.getElem?_cons_succ] at h
    rcases xset_spec t 0 x j a h with ⟨h1, h2⟩ | ⟨h1, h2, h3⟩
    · exact Or.inl ⟨by omega, h2⟩
    · exact Or.inr ⟨by omega, by simpa using h2, by omega⟩
  | o :: t, n + 2, x, 0, a, h => by
    simp only [xset, List.getElem?_cons_zero, Option.some.injEq] at h
    exact Or.inr ⟨by omega, by simp [h], by omega⟩
  | o :: t, n + 2, x, j + 1, a, h => by
    simp only [xset, List.getElem?_cons_succ] at h
    rcases xset_spec t (n + 1) x j a h with ⟨h1, h2⟩ | ⟨h1, h2, h3⟩
    · exact Or.inl ⟨by omega, h2⟩
    · exact Or.inr ⟨by omega, by simpa using h2, fun q => h3 ⟨by omega, q.2⟩⟩
theorem xclr_spec : ∀ (lv : List (Option xV)) (i j : Nat) (a : xV), (xclr lv i)[j]? = some (some a) → j ≠ i ∧ lv[j]? = some (some a)
  | [], i, j, a, h => by simp [xclr] at h
  | o :: t, 0, 0, a, h => by simp [xclr] at h
  | o :: t, 0, j + 1, a, h => by simpa [xclr] using h
  | o :: t, i + 1, 0, a, h => by simp [xclr] at h; simp [h]
  | o :: t, i + 1, j + 1, a, h => by
    simp only [xclr, List.getElem?_cons_succ] at h
    have := xclr_spec t i j a h
    exact ⟨by omega, by simpa using this.2⟩
theorem xls_st1 {g : xG} {ls : Array Slot} {i : Nat} {x : xV} (h : lv_has ls nL (xls g lv)) (hi : i < nL) (hx : xw x = 1) : ∃ ls', storeLocals ls i (xvv g x) = some ls' ∧ lv_has ls' nL (xls g (xset lv i x)) := by
  obtain ⟨ls', e, h'⟩ := lv_store1 (v := xvv g x) h hi (by rw [xw_cat, hx])
  refine ⟨ls', e, h'.1, h'.2.1, fun q hq => ?_⟩
  obtain ⟨j, b⟩ := q
  obtain ⟨a, h1, rfl⟩ := xls_mem.mp hq
  rcases xset_spec lv i x j a h1 with ⟨rfl, rfl⟩ | ⟨h2, h3, h4⟩
  · exact h'.2.2 _ List.mem_cons_self
  · refine h'.2.2 _ (List.mem_cons_of_mem _ (List.mem_filter.mpr ⟨xls_mem.mpr ⟨a, h3, rfl⟩, ?_⟩))
    simp only [xw_cat, Bool.and_eq_true, Bool.not_eq_true', beq_eq_false_iff_ne, ne_eq, Bool.and_eq_false_imp, beq_iff_eq]
    exact ⟨h2, fun q => by simpa using fun z => h4 ⟨q, z⟩⟩
theorem xls_st2 {g : xG} {ls : Array Slot} {i : Nat} {x : xV} (h : lv_has ls nL (xls g lv)) (hi : i + 1 < nL) (hx : xw x = 2) : ∃ ls', storeLocals ls i (xvv g x) = some ls' ∧ lv_has ls' nL (xls g (xclr (xset lv i x) (i + 1))) := by
  obtain ⟨ls', e, h'⟩ := lv_store2 (v := xvv g x) h hi (by rw [xw_cat, hx])
  refine ⟨ls', e, h'.1, h'.2.1, fun q hq => ?_⟩
  obtain ⟨j, b⟩ := q
  obtain ⟨a, h1, rfl⟩ := xls_mem.mp hq
  obtain ⟨h0, h1⟩ := xclr_spec _ _ j a h1
  rcases xset_spec lv i x j a h1 with ⟨rfl, rfl⟩ | ⟨h2, h3, h4⟩
  · exact h'.2.2 _ List.mem_cons_self
  · refine h'.2.2 _ (List.mem_cons_of_mem _ (List.mem_filter.mpr ⟨xls_mem.mpr ⟨a, h3, rfl⟩, ?_⟩))
    simp only [xw_cat, Bool.and_eq_true, Bool.not_eq_true', beq_eq_false_iff_ne, ne_eq, Bool.and_eq_false_imp, beq_iff_eq]
    exact ⟨h2, h0, fun q => by simpa using fun z => h4 ⟨q, z⟩⟩
/-- fewer locals -/
theorem xB.sub {lv' : List (Option xV)} (h : ∀ (i : Nat) (a : xV), lv'[i]? = some (some a) → lv[i]? = some (some a)) (k : xB L y cc nL ret d lo pc lv' st w v w1) : xB L y cc nL ret d lo pc lv st w v w1 := by
  refine ⟨k.1, k.2.1, fun p l e R s m args below meth c g k0 n0 C H locs k' n' ls h1 h2 h3 h4 h5 => k.2.2 p l e R s m args below meth c g k0 n0 C H locs k' n' ls h1 h2 h3 h4 ⟨h5.1, h5.2.1, fun q hq => ?_⟩⟩
  obtain ⟨j, b⟩ := q
  obtain ⟨a, h6, rfl⟩ := xls_mem.mp hq
  exact h5.2.2 _ (xls_mem.mpr ⟨a, h j a h6, rfl⟩)
def xle : List (Option xV) → List (Option xV) → Prop
  | [], _ => True
  | none :: t, _ :: u => xle t u
  | some a :: t, b :: u => b = some a ∧ xle t u
  | none :: t, [] => xle t []
  | some _ :: _, [] => False
theorem xle_spec : ∀ {a b : List (Option xV)}, xle a b → ∀ (i : Nat) (x : xV), a[i]? = some (some x) → b[i]? = some (some x)
  | [], _, _, i, x, h => by simp at h
  | none :: t, c :: u, hh, 0, x, h => by simp at h
  | none :: t, c :: u, hh, i + 1, x, h => by simpa using xle_spec (a := t) (b := u) hh i x (by simpa using h)
  | some a :: t, c :: u, hh, 0, x, h => by simp at h; rw [hh.1]; simp [h]
  | some a :: t, c :: u, hh, i + 1, x, h => by simpa using xle_spec (a := t) (b := u) hh.2 i x (by simpa using h)
  | none :: t, [], hh, 0, x, h => by simp at h
  | none :: t, [], hh, i + 1, x, h => by
    have := xle_spec (a := t) (b := []) hh i x (by simpa using h)
    simp at this
  | some a :: t, [], hh, i, x, h => hh.elim
theorem xB.le {lv' : List (Option xV)} (h : xle lv' lv) (k : xB L y cc nL ret d lo pc lv' st w v w1) : xB L y cc nL ret d lo pc lv st w v w1 := xB.sub (xle_spec h) k
/-- one instruction that moves the frame alone -/
theorem xB.lift {pc' : Nat} {st' : List xV}
    (h : ∀ (p : Program) (l : Launch) (e : Env) (R : Room) (s : State) (m : MethodId) (args : Array Value) (below : List Frame) (meth : Method) (c : Code) (H : Heap) (locs : List Loc) (k n : Nat) (Q : State → Prop) (g : xG) (ls : Array Slot), p.tables.exec = Jvm.exec → c.code = cc → s.vm.findClass y.cls = some m.cls → (∀ w ∈ lw_all, w.before args s = true) → lv_has ls nL (xls g lv) →
      W p l e R s m args below meth c H locs k n Q (F0 m pc' ls (st'.map (xvv g))) → W p l e R s m args below meth c H locs k n Q (F0 m pc ls (st.map (xvv g))))
    (k : xB L y cc nL ret d lo pc' lv st' w v w1) : xB L y cc nL ret d lo pc lv st w v w1 :=
  ⟨k.1, k.2.1, fun p l e R s m args below meth c g k0 n0 C H locs k' n' ls h1 h2 h3 h4 h5 => h p l e R s m args below meth c H locs k' n' _ g ls C.1 C.2.1 C.2.2.2.2.1 C.2.2.2.2.2.1 h5 (k.2.2 p l e R s m args below meth c g k0 n0 C H locs k' n' ls h1 h2 h3 h4 h5)⟩
/-- a branch -/
theorem xB.lift2 {pa pb : Nat} {sa sb : List xV} {cnd : Prop}
    (h : ∀ (p : Program) (l : Launch) (e : Env) (R : Room) (s : State) (m : MethodId) (args : Array Value) (below : List Frame) (meth : Method) (c : Code) (H : Heap) (locs : List Loc) (k n : Nat) (Q : State → Prop) (g : xG) (ls : Array Slot), p.tables.exec = Jvm.exec → c.code = cc →
      (cnd → W p l e R s m args below meth c H locs k n Q (F0 m pa ls (sa.map (xvv g)))) → (¬ cnd → W p l e R s m args below meth c H locs k n Q (F0 m pb ls (sb.map (xvv g)))) → W p l e R s m args below meth c H locs k n Q (F0 m pc ls (st.map (xvv g))))
    (ka : cnd → xB L y cc nL ret d lo pa lv sa w v w1) (kb : ¬ cnd → xB L y cc nL ret d lo pb lv sb w v w1) : xB L y cc nL ret d lo pc lv st w v w1 := by
  by_cases hc : cnd
  · have k := ka hc
    exact ⟨k.1, k.2.1, fun p l e R s m args below meth c g k0 n0 C H locs k' n' ls h1 h2 h3 h4 h5 => h p l e R s m args below meth c H locs k' n' _ g ls C.1 C.2.1 (fun _ => k.2.2 p l e R s m args below meth c g k0 n0 C H locs k' n' ls h1 h2 h3 h4 h5) (fun q => absurd hc q)⟩
  · have k := kb hc
    exact ⟨k.1, k.2.1, fun p l e R s m args below meth c g k0 n0 C H locs k' n' ls h1 h2 h3 h4 h5 => h p l e R s m args below meth c H locs k' n' _ g ls C.1 C.2.1 (fun q => absurd q hc) (fun _ => k.2.2 p l e R s m args below meth c g k0 n0 C H locs k' n' ls h1 h2 h3 h4 h5)⟩
/-- a store into a variable of one word -/
theorem xB.st1 {i len : Nat} {x : xV} {ins : Instr} (hd : decode cc pc = .ok (ins, len)) (pn : Nat) (hp : pc + len = pn) (hi : i < nL) (hx : xw x = 1) {lv' : List (Option xV)} (hl : xset lv i x = lv') {st' : List xV}
    (h : ∀ (p : Program) (l : Launch) (e : Env) (R : Room) (s : State) (m : MethodId) (args : Array Value) (below : List Frame) (meth : Method) (c : Code) (H : Heap) (locs : List Loc) (k n : Nat) (Q : State → Prop) (g : xG) (ls ls' : Array Slot), p.tables.exec = Jvm.exec → c.code = cc → lv_has ls nL (xls g lv) → storeLocals ls i (xvv g x) = some ls' →
      W p l e R s m args below meth c H locs k n Q (F0 m (pc + len) ls' (st'.map (xvv g))) → W p l e R s m args below meth c H locs k n Q (F0 m pc ls (st.map (xvv g))))
    (k : xB L y cc nL ret d lo pn lv' st' w v w1) : xB L y cc nL ret d lo pc lv st w v w1 := by
  subst hl; subst hp
  refine ⟨k.1, k.2.1, fun p l e R s m args below meth c g k0 n0 C H locs k' n' ls h1 h2 h3 h4 h5 => ?_⟩
  obtain ⟨ls', e', h'⟩ := xls_st1 (x := x) h5 hi hx
  exact h p l e R s m args below meth c H locs k' n' _ g ls ls' C.1 C.2.1 h5 e' (k.2.2 p l e R s m args below meth c g k0 n0 C H locs k' n' ls' h1 h2 h3 h4 h')
theorem xB.st2 {i len : Nat} {x : xV} {ins : Instr} (hd : decode cc pc = .ok (ins, len)) (pn : Nat) (hp : pc + len = pn) (hi : i + 1 < nL) (hx : xw x = 2) {lv' : List (Option xV)} (hl : xclr (xset lv i x) (i + 1) = lv') {st' : List xV}
    (h : ∀ (p : Program) (l : Launch) (e : Env) (R : Room) (s : State) (m : MethodId) (args : Array Value) (below : List Frame) (meth : Method) (c : Code) (H : Heap) (locs : List Loc) (k n : Nat) (Q : State → Prop) (g : xG) (ls ls' : Array Slot), p.tables.exec = Jvm.exec → c.code = cc → lv_has ls nL (xls g lv) → storeLocals ls i (xvv g x) = some ls' →
      W p l e R s m args below meth c H locs k n Q (F0 m (pc + len) ls' (st'.map (xvv g))) → W p l e R s m args below meth c H locs k n Q (F0 m pc ls (st.map (xvv g))))
    (k : xB L y cc nL ret d lo pn lv' st' w v w1) : xB L y cc nL ret d lo pc lv st w v w1 := by
  subst hl; subst hp
  refine ⟨k.1, k.2.1, fun p l e R s m args below meth c g k0 n0 C H locs k' n' ls h1 h2 h3 h4 h5 => ?_⟩
  obtain ⟨ls', e', h'⟩ := xls_st2 (x := x) h5 hi hx
  exact h p l e R s m args below meth c H locs k' n' _ g ls ls' C.1 C.2.1 h5 e' (k.2.2 p l e R s m args below meth c g k0 n0 C H locs k' n' ls' h1 h2 h3 h4 h')

theorem x_iconst {n : Int} (x : Int32) (pn : Nat) (hp : pc + 1 = pn) (hd : decode cc pc = .ok (.iconst n, 1)) (hv : Int32.ofInt n = x) (k : xB L y cc nL ret d lo pn lv ((Sum.inl (x) : xV) :: st) w v w1) : xB L y cc nL ret d lo pc lv st w v w1 := by
  subst hp
  exact xB.lift (fun _ _ _ _ _ _ _ _ _ _ _ _ _ _ _ g ls hx hb hO hw hl k => lv_iconst hx hb hd hv k) k
theorem x_bipush {n : Int} (x : Int32) (pn : Nat) (hp : pc + 2 = pn) (hd : decode cc pc = .ok (.bipush n, 2)) (hv : (Int8.ofInt n).toInt32 = x) (k : xB L y cc nL ret d lo pn lv ((Sum.inl (x) : xV) :: st) w v w1) : xB L y cc nL ret d lo pc lv st w v w1 := by
  subst hp
  exact xB.lift (fun _ _ _ _ _ _ _ _ _ _ _ _ _ _ _ g ls hx hb hO hw hl k => lv_bipush hx hb hd hv k) k
theorem x_sipush {n : Int} (x : Int32) (pn : Nat) (hp : pc + 3 = pn) (hd : decode cc pc = .ok (.sipush n, 3)) (hv : (Int16.ofInt n).toInt32 = x) (k : xB L y cc nL ret d lo pn lv ((Sum.inl (x) : xV) :: st) w v w1) : xB L y cc nL ret d lo pc lv st w v w1 := by
  subst hp
  exact xB.lift (fun _ _ _ _ _ _ _ _ _ _ _ _ _ _ _ g ls hx hb hO hw hl k => lv_sipush hx hb hd hv k) k
theorem x_lconst {n : Fin 2} (x : Int64) (pn : Nat) (hp : pc + 1 = pn) (hd : decode cc pc = .ok (.lconst n, 1)) (hv : Int64.ofNat (n : Nat) = x) (k : xB L y cc nL ret d lo pn lv ((Sum.inr (Sum.inl (x)) : xV) :: st) w v w1) : xB L y cc nL ret d lo pc lv st w v w1 := by
  subst hp
  exact xB.lift (fun _ _ _ _ _ _ _ _ _ _ _ _ _ _ _ g ls hx hb hO hw hl k => lv_lconst hx hb hd hv k) k
theorem x_null  (pn : Nat) (hp : pc + 1 = pn) (hd : decode cc pc = .ok (.aconst_null, 1))  (k : xB L y cc nL ret d lo pn lv ((Sum.inr (Sum.inr (none)) : xV) :: st) w v w1) : xB L y cc nL ret d lo pc lv st w v w1 := by
  subst hp
  exact xB.lift (fun _ _ _ _ _ _ _ _ _ _ _ _ _ _ _ g ls hx hb hO hw hl k => lv_null hx hb hd k) k
theorem x_ldc {ix : Nat} {x : Int32} (pn : Nat) (hp : pc + 2 = pn) (hd : decode cc pc = .ok (.ldc ix, 2)) (hc : Jvm.Cond.constant y.cls ix x ∈ lw_all) (k : xB L y cc nL ret d lo pn lv ((Sum.inl (x) : xV) :: st) w v w1) : xB L y cc nL ret d lo pc lv st w v w1 := by
  subst hp
  exact xB.lift (fun _ _ _ _ _ _ _ _ _ _ _ _ _ _ _ g ls hx hb hO hw hl k => lv_ldc hx hb hO (hw _ hc) hd k) k
theorem x_ldcw {ix : Nat} {x : Int32} (pn : Nat) (hp : pc + 3 = pn) (hd : decode cc pc = .ok (.ldc_w ix, 3)) (hc : Jvm.Cond.constant y.cls ix x ∈ lw_all) (k : xB L y cc nL ret d lo pn lv ((Sum.inl (x) : xV) :: st) w v w1) : xB L y cc nL ret d lo pc lv st w v w1 := by
  subst hp
  exact xB.lift (fun _ _ _ _ _ _ _ _ _ _ _ _ _ _ _ g ls hx hb hO hw hl k => lv_ldcw hx hb hO (hw _ hc) hd k) k
theorem x_ldc2 {ix : Nat} {x : Int64} (pn : Nat) (hp : pc + 3 = pn) (hd : decode cc pc = .ok (.ldc2_w ix, 3)) (hc : Jvm.Cond.constantLong y.cls ix x ∈ lw_all) (k : xB L y cc nL ret d lo pn lv ((Sum.inr (Sum.inl (x)) : xV) :: st) w v w1) : xB L y cc nL ret d lo pc lv st w v w1 := by
  subst hp
  exact xB.lift (fun _ _ _ _ _ _ _ _ _ _ _ _ _ _ _ g ls hx hb hO hw hl k => lv_ldc2 hx hb hO (hw _ hc) hd k) k
theorem x_iload_n {n : Fin 4} {i : Nat} {x : Int32} (pn : Nat) (hp : pc + 1 = pn) (hd : decode cc pc = .ok (.iload_n n, 1)) (hi : (n : Nat) = i) (h : lv[i]? = some (some (Sum.inl (x) : xV))) (k : xB L y cc nL ret d lo pn lv ((Sum.inl (x) : xV) :: st) w v w1) : xB L y cc nL ret d lo pc lv st w v w1 := by
  subst hp
  exact xB.lift (fun _ _ _ _ _ _ _ _ _ _ _ _ _ _ _ g ls hx hb hO hw hl k => lv_iload_n hx hb hd hi (xls_get hl h) k) k
theorem x_iload {i : Nat} {x : Int32} (pn : Nat) (hp : pc + 2 = pn) (hd : decode cc pc = .ok (.iload i, 2)) (h : lv[i]? = some (some (Sum.inl (x) : xV))) (k : xB L y cc nL ret d lo pn lv ((Sum.inl (x) : xV) :: st) w v w1) : xB L y cc nL ret d lo pc lv st w v w1 := by
  subst hp
  exact xB.lift (fun _ _ _ _ _ _ _ _ _ _ _ _ _ _ _ g ls hx hb hO hw hl k => lv_iload hx hb hd (xls_get hl h) k) k
theorem x_lload_n {n : Fin 4} {i : Nat} {x : Int64} (pn : Nat) (hp : pc + 1 = pn) (hd : decode cc pc = .ok (.lload_n n, 1)) (hi : (n : Nat) = i) (h : lv[i]? = some (some (Sum.inr (Sum.inl (x)) : xV))) (k : xB L y cc nL ret d lo pn lv ((Sum.inr (Sum.inl (x)) : xV) :: st) w v w1) : xB L y cc nL ret d lo pc lv st w v w1 := by
  subst hp
  exact xB.lift (fun _ _ _ _ _ _ _ _ _ _ _ _ _ _ _ g ls hx hb hO hw hl k => lv_lload_n hx hb hd hi (xls_get hl h) k) k
theorem x_lload {i : Nat} {x : Int64} (pn : Nat) (hp : pc + 2 = pn) (hd : decode cc pc = .ok (.lload i, 2)) (h : lv[i]? = some (some (Sum.inr (Sum.inl (x)) : xV))) (k : xB L y cc nL ret d lo pn lv ((Sum.inr (Sum.inl (x)) : xV) :: st) w v w1) : xB L y cc nL ret d lo pc lv st w v w1 := by
  subst hp
  exact xB.lift (fun _ _ _ _ _ _ _ _ _ _ _ _ _ _ _ g ls hx hb hO hw hl k => lv_lload hx hb hd (xls_get hl h) k) k
theorem x_aload_n {n : Fin 4} {i : Nat} {o : Option Nat} (pn : Nat) (hp : pc + 1 = pn) (hd : decode cc pc = .ok (.aload_n n, 1)) (hi : (n : Nat) = i) (h : lv[i]? = some (some (Sum.inr (Sum.inr (o)) : xV))) (k : xB L y cc nL ret d lo pn lv ((Sum.inr (Sum.inr (o)) : xV) :: st) w v w1) : xB L y cc nL ret d lo pc lv st w v w1 := by
  subst hp
  cases o with
  | none => exact xB.lift (fun _ _ _ _ _ _ _ _ _ _ _ _ _ _ _ g ls hx hb hO hw hl k => lv_aload_nN hx hb hd hi (xls_get hl h) k) k
  | some a => exact xB.lift (fun _ _ _ _ _ _ _ _ _ _ _ _ _ _ _ g ls hx hb hO hw hl k => lv_aload_n hx hb hd hi (xls_get hl h) k) k
theorem x_aload {i : Nat} {o : Option Nat} (pn : Nat) (hp : pc + 2 = pn) (hd : decode cc pc = .ok (.aload i, 2)) (h : lv[i]? = some (some (Sum.inr (Sum.inr (o)) : xV))) (k : xB L y cc nL ret d lo pn lv ((Sum.inr (Sum.inr (o)) : xV) :: st) w v w1) : xB L y cc nL ret d lo pc lv st w v w1 := by
  subst hp
  cases o with
  | none => exact xB.lift (fun _ _ _ _ _ _ _ _ _ _ _ _ _ _ _ g ls hx hb hO hw hl k => lv_aloadN hx hb hd (xls_get hl h) k) k
  | some a => exact xB.lift (fun _ _ _ _ _ _ _ _ _ _ _ _ _ _ _ g ls hx hb hO hw hl k => lv_aload hx hb hd (xls_get hl h) k) k
theorem x_iadd {a b : Int32} (pn : Nat) (hp : pc + 1 = pn) (hd : decode cc pc = .ok (.iadd, 1))  (k : xB L y cc nL ret d lo pn lv ((Sum.inl (a + b) : xV) :: st) w v w1) : xB L y cc nL ret d lo pc lv ((Sum.inl (b) : xV) :: (Sum.inl (a) : xV) :: st) w v w1 := by
  subst hp
  exact xB.lift (fun _ _ _ _ _ _ _ _ _ _ _ _ _ _ _ g ls hx hb hO hw hl k => lv_iadd hx hb hd k) k
theorem x_isub {a b : Int32} (pn : Nat) (hp : pc + 1 = pn) (hd : decode cc pc = .ok (.isub, 1))  (k : xB L y cc nL ret d lo pn lv ((Sum.inl (a - b) : xV) :: st) w v w1) : xB L y cc nL ret d lo pc lv ((Sum.inl (b) : xV) :: (Sum.inl (a) : xV) :: st) w v w1 := by
  subst hp
  exact xB.lift (fun _ _ _ _ _ _ _ _ _ _ _ _ _ _ _ g ls hx hb hO hw hl k => lv_isub hx hb hd k) k
theorem x_imul {a b : Int32} (pn : Nat) (hp : pc + 1 = pn) (hd : decode cc pc = .ok (.imul, 1))  (k : xB L y cc nL ret d lo pn lv ((Sum.inl (a * b) : xV) :: st) w v w1) : xB L y cc nL ret d lo pc lv ((Sum.inl (b) : xV) :: (Sum.inl (a) : xV) :: st) w v w1 := by
  subst hp
  exact xB.lift (fun _ _ _ _ _ _ _ _ _ _ _ _ _ _ _ g ls hx hb hO hw hl k => lv_imul hx hb hd k) k
theorem x_iand {a b : Int32} (pn : Nat) (hp : pc + 1 = pn) (hd : decode cc pc = .ok (.iand, 1))  (k : xB L y cc nL ret d lo pn lv ((Sum.inl (a &&& b) : xV) :: st) w v w1) : xB L y cc nL ret d lo pc lv ((Sum.inl (b) : xV) :: (Sum.inl (a) : xV) :: st) w v w1 := by
  subst hp
  exact xB.lift (fun _ _ _ _ _ _ _ _ _ _ _ _ _ _ _ g ls hx hb hO hw hl k => lv_iand hx hb hd k) k
theorem x_ior {a b : Int32} (pn : Nat) (hp : pc + 1 = pn) (hd : decode cc pc = .ok (.ior, 1))  (k : xB L y cc nL ret d lo pn lv ((Sum.inl (a ||| b) : xV) :: st) w v w1) : xB L y cc nL ret d lo pc lv ((Sum.inl (b) : xV) :: (Sum.inl (a) : xV) :: st) w v w1 := by
  subst hp
  exact xB.lift (fun _ _ _ _ _ _ _ _ _ _ _ _ _ _ _ g ls hx hb hO hw hl k => lv_ior hx hb hd k) k
theorem x_ixor {a b : Int32} (pn : Nat) (hp : pc + 1 = pn) (hd : decode cc pc = .ok (.ixor, 1))  (k : xB L y cc nL ret d lo pn lv ((Sum.inl (a ^^^ b) : xV) :: st) w v w1) : xB L y cc nL ret d lo pc lv ((Sum.inl (b) : xV) :: (Sum.inl (a) : xV) :: st) w v w1 := by
  subst hp
  exact xB.lift (fun _ _ _ _ _ _ _ _ _ _ _ _ _ _ _ g ls hx hb hO hw hl k => lv_ixor hx hb hd k) k
theorem x_ishl {a b : Int32} (pn : Nat) (hp : pc + 1 = pn) (hd : decode cc pc = .ok (.ishl, 1))  (k : xB L y cc nL ret d lo pn lv ((Sum.inl (a <<< (b &&& 31)) : xV) :: st) w v w1) : xB L y cc nL ret d lo pc lv ((Sum.inl (b) : xV) :: (Sum.inl (a) : xV) :: st) w v w1 := by
  subst hp
  exact xB.lift (fun _ _ _ _ _ _ _ _ _ _ _ _ _ _ _ g ls hx hb hO hw hl k => lv_ishl hx hb hd k) k
theorem x_ishr {a b : Int32} (pn : Nat) (hp : pc + 1 = pn) (hd : decode cc pc = .ok (.ishr, 1))  (k : xB L y cc nL ret d lo pn lv ((Sum.inl (a >>> (b &&& 31)) : xV) :: st) w v w1) : xB L y cc nL ret d lo pc lv ((Sum.inl (b) : xV) :: (Sum.inl (a) : xV) :: st) w v w1 := by
  subst hp
  exact xB.lift (fun _ _ _ _ _ _ _ _ _ _ _ _ _ _ _ g ls hx hb hO hw hl k => lv_ishr hx hb hd k) k
theorem x_idiv {a b : Int32} (pn : Nat) (hp : pc + 1 = pn) (hd : decode cc pc = .ok (.idiv, 1)) (hne : ¬ b = 0) (k : xB L y cc nL ret d lo pn lv ((Sum.inl (a / b) : xV) :: st) w v w1) : xB L y cc nL ret d lo pc lv ((Sum.inl (b) : xV) :: (Sum.inl (a) : xV) :: st) w v w1 := by
  subst hp
  exact xB.lift (fun _ _ _ _ _ _ _ _ _ _ _ _ _ _ _ g ls hx hb hO hw hl k => lv_idiv hx hb hd hne k) k
theorem x_irem {a b : Int32} (pn : Nat) (hp : pc + 1 = pn) (hd : decode cc pc = .ok (.irem, 1)) (hne : ¬ b = 0) (k : xB L y cc nL ret d lo pn lv ((Sum.inl (a - a / b * b) : xV) :: st) w v w1) : xB L y cc nL ret d lo pc lv ((Sum.inl (b) : xV) :: (Sum.inl (a) : xV) :: st) w v w1 := by
  subst hp
  exact xB.lift (fun _ _ _ _ _ _ _ _ _ _ _ _ _ _ _ g ls hx hb hO hw hl k => lv_irem hx hb hd hne k) k
theorem x_ineg {a : Int32} (pn : Nat) (hp : pc + 1 = pn) (hd : decode cc pc = .ok (.ineg, 1))  (k : xB L y cc nL ret d lo pn lv ((Sum.inl (-a) : xV) :: st) w v w1) : xB L y cc nL ret d lo pc lv ((Sum.inl (a) : xV) :: st) w v w1 := by
  subst hp
  exact xB.lift (fun _ _ _ _ _ _ _ _ _ _ _ _ _ _ _ g ls hx hb hO hw hl k => lv_ineg hx hb hd k) k
theorem x_iushr {a b : Int32} (pn : Nat) (hp : pc + 1 = pn) (hd : decode cc pc = .ok (.iushr, 1))  (k : xB L y cc nL ret d lo pn lv ((Sum.inl ((a.toUInt32 >>> (b.toUInt32 &&& Int32.toUInt32 31)).toInt32) : xV) :: st) w v w1) : xB L y cc nL ret d lo pc lv ((Sum.inl (b) : xV) :: (Sum.inl (a) : xV) :: st) w v w1 := by
  subst hp
  exact xB.lift (fun _ _ _ _ _ _ _ _ _ _ _ _ _ _ _ g ls hx hb hO hw hl k => lv_iushr hx hb hd rfl k) k
theorem x_ladd {a b : Int64} (pn : Nat) (hp : pc + 1 = pn) (hd : decode cc pc = .ok (.ladd, 1))  (k : xB L y cc nL ret d lo pn lv ((Sum.inr (Sum.inl (a + b)) : xV) :: st) w v w1) : xB L y cc nL ret d lo pc lv ((Sum.inr (Sum.inl (b)) : xV) :: (Sum.inr (Sum.inl (a)) : xV) :: st) w v w1 := by
  subst hp
  exact xB.lift (fun _ _ _ _ _ _ _ _ _ _ _ _ _ _ _ g ls hx hb hO hw hl k => lv_ladd hx hb hd k) k
theorem x_lsub {a b : Int64} (pn : Nat) (hp : pc + 1 = pn) (hd : decode cc pc = .ok (.lsub, 1))  (k : xB L y cc nL ret d lo pn lv ((Sum.inr (Sum.inl (a - b)) : xV) :: st) w v w1) : xB L y cc nL ret d lo pc lv ((Sum.inr (Sum.inl (b)) : xV) :: (Sum.inr (Sum.inl (a)) : xV) :: st) w v w1 := by
  subst hp
  exact xB.lift (fun _ _ _ _ _ _ _ _ _ _ _ _ _ _ _ g ls hx hb hO hw hl k => lv_lsub hx hb hd k) k
theorem x_lmul {a b : Int64} (pn : Nat) (hp : pc + 1 = pn) (hd : decode cc pc = .ok (.lmul, 1))  (k : xB L y cc nL ret d lo pn lv ((Sum.inr (Sum.inl (a * b)) : xV) :: st) w v w1) : xB L y cc nL ret d lo pc lv ((Sum.inr (Sum.inl (b)) : xV) :: (Sum.inr (Sum.inl (a)) : xV) :: st) w v w1 := by
  subst hp
  exact xB.lift (fun _ _ _ _ _ _ _ _ _ _ _ _ _ _ _ g ls hx hb hO hw hl k => lv_lmul hx hb hd k) k
theorem x_land {a b : Int64} (pn : Nat) (hp : pc + 1 = pn) (hd : decode cc pc = .ok (.land, 1))  (k : xB L y cc nL ret d lo pn lv ((Sum.inr (Sum.inl (a &&& b)) : xV) :: st) w v w1) : xB L y cc nL ret d lo pc lv ((Sum.inr (Sum.inl (b)) : xV) :: (Sum.inr (Sum.inl (a)) : xV) :: st) w v w1 := by
  subst hp
  exact xB.lift (fun _ _ _ _ _ _ _ _ _ _ _ _ _ _ _ g ls hx hb hO hw hl k => lv_land hx hb hd k) k
theorem x_lor {a b : Int64} (pn : Nat) (hp : pc + 1 = pn) (hd : decode cc pc = .ok (.lor, 1))  (k : xB L y cc nL ret d lo pn lv ((Sum.inr (Sum.inl (a ||| b)) : xV) :: st) w v w1) : xB L y cc nL ret d lo pc lv ((Sum.inr (Sum.inl (b)) : xV) :: (Sum.inr (Sum.inl (a)) : xV) :: st) w v w1 := by
  subst hp
  exact xB.lift (fun _ _ _ _ _ _ _ _ _ _ _ _ _ _ _ g ls hx hb hO hw hl k => lv_lor hx hb hd k) k
theorem x_lxor {a b : Int64} (pn : Nat) (hp : pc + 1 = pn) (hd : decode cc pc = .ok (.lxor, 1))  (k : xB L y cc nL ret d lo pn lv ((Sum.inr (Sum.inl (a ^^^ b)) : xV) :: st) w v w1) : xB L y cc nL ret d lo pc lv ((Sum.inr (Sum.inl (b)) : xV) :: (Sum.inr (Sum.inl (a)) : xV) :: st) w v w1 := by
  subst hp
  exact xB.lift (fun _ _ _ _ _ _ _ _ _ _ _ _ _ _ _ g ls hx hb hO hw hl k => lv_lxor hx hb hd k) k
theorem x_ldiv {a b : Int64} (pn : Nat) (hp : pc + 1 = pn) (hd : decode cc pc = .ok (.ldiv, 1)) (hne : ¬ b = 0) (k : xB L y cc nL ret d lo pn lv ((Sum.inr (Sum.inl (a / b)) : xV) :: st) w v w1) : xB L y cc nL ret d lo pc lv ((Sum.inr (Sum.inl (b)) : xV) :: (Sum.inr (Sum.inl (a)) : xV) :: st) w v w1 := by
  subst hp
  exact xB.lift (fun _ _ _ _ _ _ _ _ _ _ _ _ _ _ _ g ls hx hb hO hw hl k => lv_ldiv hx hb hd hne k) k
theorem x_lrem {a b : Int64} (pn : Nat) (hp : pc + 1 = pn) (hd : decode cc pc = .ok (.lrem, 1)) (hne : ¬ b = 0) (k : xB L y cc nL ret d lo pn lv ((Sum.inr (Sum.inl (a - a / b * b)) : xV) :: st) w v w1) : xB L y cc nL ret d lo pc lv ((Sum.inr (Sum.inl (b)) : xV) :: (Sum.inr (Sum.inl (a)) : xV) :: st) w v w1 := by
  subst hp
  exact xB.lift (fun _ _ _ _ _ _ _ _ _ _ _ _ _ _ _ g ls hx hb hO hw hl k => lv_lrem hx hb hd hne k) k
theorem x_lushr {a : Int64} {b : Int32} (pn : Nat) (hp : pc + 1 = pn) (hd : decode cc pc = .ok (.lushr, 1))  (k : xB L y cc nL ret d lo pn lv ((Sum.inr (Sum.inl ((a.toUInt64 >>> (b.toInt64.toUInt64 &&& Int64.toUInt64 63)).toInt64)) : xV) :: st) w v w1) : xB L y cc nL ret d lo pc lv ((Sum.inl (b) : xV) :: (Sum.inr (Sum.inl (a)) : xV) :: st) w v w1 := by
  subst hp
  exact xB.lift (fun _ _ _ _ _ _ _ _ _ _ _ _ _ _ _ g ls hx hb hO hw hl k => lv_lushr hx hb hd rfl k) k
theorem x_lshl {a : Int64} {b : Int32} (pn : Nat) (hp : pc + 1 = pn) (hd : decode cc pc = .ok (.lshl, 1))  (k : xB L y cc nL ret d lo pn lv ((Sum.inr (Sum.inl (a <<< (b.toInt64 &&& 63))) : xV) :: st) w v w1) : xB L y cc nL ret d lo pc lv ((Sum.inl (b) : xV) :: (Sum.inr (Sum.inl (a)) : xV) :: st) w v w1 := by
  subst hp
  exact xB.lift (fun _ _ _ _ _ _ _ _ _ _ _ _ _ _ _ g ls hx hb hO hw hl k => lv_lshl hx hb hd rfl k) k
theorem x_lcmp {a b : Int64} (pn : Nat) (hp : pc + 1 = pn) (hd : decode cc pc = .ok (.lcmp, 1))  (k : xB L y cc nL ret d lo pn lv ((Sum.inl (lg_cmp a b) : xV) :: st) w v w1) : xB L y cc nL ret d lo pc lv ((Sum.inr (Sum.inl (b)) : xV) :: (Sum.inr (Sum.inl (a)) : xV) :: st) w v w1 := by
  subst hp
  exact xB.lift (fun _ _ _ _ _ _ _ _ _ _ _ _ _ _ _ g ls hx hb hO hw hl k => W.lcmp hx hb hd k) k
theorem x_i2l {a : Int32} (pn : Nat) (hp : pc + 1 = pn) (hd : decode cc pc = .ok (.i2l, 1))  (k : xB L y cc nL ret d lo pn lv ((Sum.inr (Sum.inl (a.toInt64)) : xV) :: st) w v w1) : xB L y cc nL ret d lo pc lv ((Sum.inl (a) : xV) :: st) w v w1 := by
  subst hp
  exact xB.lift (fun _ _ _ _ _ _ _ _ _ _ _ _ _ _ _ g ls hx hb hO hw hl k => lv_i2l hx hb hd rfl k) k
theorem x_l2i {a : Int64} (pn : Nat) (hp : pc + 1 = pn) (hd : decode cc pc = .ok (.l2i, 1))  (k : xB L y cc nL ret d lo pn lv ((Sum.inl (a.toInt32) : xV) :: st) w v w1) : xB L y cc nL ret d lo pc lv ((Sum.inr (Sum.inl (a)) : xV) :: st) w v w1 := by
  subst hp
  exact xB.lift (fun _ _ _ _ _ _ _ _ _ _ _ _ _ _ _ g ls hx hb hO hw hl k => lv_l2i hx hb hd rfl k) k
theorem x_i2b {a : Int32} (pn : Nat) (hp : pc + 1 = pn) (hd : decode cc pc = .ok (.i2b, 1))  (k : xB L y cc nL ret d lo pn lv ((Sum.inl (a.toInt8.toInt32) : xV) :: st) w v w1) : xB L y cc nL ret d lo pc lv ((Sum.inl (a) : xV) :: st) w v w1 := by
  subst hp
  exact xB.lift (fun _ _ _ _ _ _ _ _ _ _ _ _ _ _ _ g ls hx hb hO hw hl k => lv_i2b hx hb hd rfl k) k
theorem x_i2c {a : Int32} (pn : Nat) (hp : pc + 1 = pn) (hd : decode cc pc = .ok (.i2c, 1))  (k : xB L y cc nL ret d lo pn lv ((Sum.inl ((a.toUInt32 % 65536).toInt32) : xV) :: st) w v w1) : xB L y cc nL ret d lo pc lv ((Sum.inl (a) : xV) :: st) w v w1 := by
  subst hp
  exact xB.lift (fun _ _ _ _ _ _ _ _ _ _ _ _ _ _ _ g ls hx hb hO hw hl k => lv_i2c hx hb hd rfl k) k
theorem x_dup {a : xV} (pn : Nat) (hp : pc + 1 = pn) (hd : decode cc pc = .ok (.dup, 1)) (h : xw a = 1) (k : xB L y cc nL ret d lo pn lv (a :: a :: st) w v w1) : xB L y cc nL ret d lo pc lv (a :: st) w v w1 := by
  subst hp
  exact xB.lift (fun _ _ _ _ _ _ _ _ _ _ _ _ _ _ _ g ls hx hb hO hw hl k => lv_dup hx hb hd (by rw [xw_cat, h]) k) k
theorem x_pop {a : xV} (pn : Nat) (hp : pc + 1 = pn) (hd : decode cc pc = .ok (.pop, 1)) (h : xw a = 1) (k : xB L y cc nL ret d lo pn lv st w v w1) : xB L y cc nL ret d lo pc lv (a :: st) w v w1 := by
  subst hp
  exact xB.lift (fun _ _ _ _ _ _ _ _ _ _ _ _ _ _ _ g ls hx hb hO hw hl k => lv_pop hx hb hd (by rw [xw_cat, h]) k) k
theorem x_dup_x1 {a b : xV} (pn : Nat) (hp : pc + 1 = pn) (hd : decode cc pc = .ok (.dup_x1, 1)) (h : xw a = 1) (h2 : xw b = 1) (k : xB L y cc nL ret d lo pn lv (a :: b :: a :: st) w v w1) : xB L y cc nL ret d lo pc lv (a :: b :: st) w v w1 := by
  subst hp
  exact xB.lift (fun _ _ _ _ _ _ _ _ _ _ _ _ _ _ _ g ls hx hb hO hw hl k => lv_dup_x1 hx hb hd (by rw [xw_cat, h]) (by rw [xw_cat, h2]) k) k
theorem x_dup2 {a b : xV} (pn : Nat) (hp : pc + 1 = pn) (hd : decode cc pc = .ok (.dup2, 1)) (h : xw a = 1) (h2 : xw b = 1) (k : xB L y cc nL ret d lo pn lv (a :: b :: a :: b :: st) w v w1) : xB L y cc nL ret d lo pc lv (a :: b :: st) w v w1 := by
  subst hp
  exact xB.lift (fun _ _ _ _ _ _ _ _ _ _ _ _ _ _ _ g ls hx hb hO hw hl k => lv_dup2_11 hx hb hd (by rw [xw_cat, h]) (by rw [xw_cat, h2]) k) k
theorem x_dup2l {a : xV} (pn : Nat) (hp : pc + 1 = pn) (hd : decode cc pc = .ok (.dup2, 1)) (h : xw a = 2) (k : xB L y cc nL ret d lo pn lv (a :: a :: st) w v w1) : xB L y cc nL ret d lo pc lv (a :: st) w v w1 := by
  subst hp
  exact xB.lift (fun _ _ _ _ _ _ _ _ _ _ _ _ _ _ _ g ls hx hb hO hw hl k => lv_dup2_2 hx hb hd (by rw [xw_cat, h]) k) k
theorem x_istore_n {n : Fin 4} {i : Nat} {x : Int32} (pn : Nat) (hp : pc + 1 = pn) (hd : decode cc pc = .ok (.istore_n n, 1)) (hi : (n : Nat) = i) (hn : i < nL) {lv' : List (Option xV)} (hl : xset lv i (Sum.inl (x) : xV) = lv') (k : xB L y cc nL ret d lo pn lv' st w v w1) : xB L y cc nL ret d lo pc lv ((Sum.inl (x) : xV) :: st) w v w1 := by
  subst hi; refine xB.st1 (x := (Sum.inl (x) : xV)) hd pn hp hn rfl hl (fun _ _ _ _ _ _ _ _ _ _ _ _ _ _ _ _ ls ls' hx hb hh e' k => ?_) k
  intro T hT X
  obtain ⟨t, a, b⟩ := k T hT X
  refine ⟨t, ?_, b⟩
  have e2 : storeLocals ls _ (.int x) = some ls' := e'
  jvm_step X.here [X.here.top, ↓top_set X.here.top, hx, hb, hd, e2, List.map, xvv]
  exact a
theorem x_istore {i : Nat} {x : Int32} (pn : Nat) (hp : pc + 2 = pn) (hd : decode cc pc = .ok (.istore i, 2)) (hn : i < nL) {lv' : List (Option xV)} (hl : xset lv i (Sum.inl (x) : xV) = lv') (k : xB L y cc nL ret d lo pn lv' st w v w1) : xB L y cc nL ret d lo pc lv ((Sum.inl (x) : xV) :: st) w v w1 := by
  refine xB.st1 (x := (Sum.inl (x) : xV)) hd pn hp hn rfl hl (fun _ _ _ _ _ _ _ _ _ _ _ _ _ _ _ _ ls ls' hx hb hh e' k => ?_) k
  intro T hT X
  obtain ⟨t, a, b⟩ := k T hT X
  refine ⟨t, ?_, b⟩
  have e2 : storeLocals ls _ (.int x) = some ls' := e'
  jvm_step X.here [X.here.top, ↓top_set X.here.top, hx, hb, hd, e2, List.map, xvv]
  exact a
theorem x_lstore_n {n : Fin 4} {i : Nat} {x : Int64} (pn : Nat) (hp : pc + 1 = pn) (hd : decode cc pc = .ok (.lstore_n n, 1)) (hi : (n : Nat) = i) (hn : i + 1 < nL) {lv' : List (Option xV)} (hl : xclr (xset lv i (Sum.inr (Sum.inl (x)) : xV)) (i + 1) = lv') (k : xB L y cc nL ret d lo pn lv' st w v w1) : xB L y cc nL ret d lo pc lv ((Sum.inr (Sum.inl (x)) : xV) :: st) w v w1 := by
  subst hi; refine xB.st2 (x := (Sum.inr (Sum.inl (x)) : xV)) hd pn hp hn rfl hl (fun _ _ _ _ _ _ _ _ _ _ _ _ _ _ _ _ ls ls' hx hb hh e' k => ?_) k
  intro T hT X
  obtain ⟨t, a, b⟩ := k T hT X
  refine ⟨t, ?_, b⟩
  have e2 : storeLocals ls _ (.long x) = some ls' := e'
  jvm_step X.here [X.here.top, ↓top_set X.here.top, hx, hb, hd, e2, List.map, xvv]
  exact a
theorem x_lstore {i : Nat} {x : Int64} (pn : Nat) (hp : pc + 2 = pn) (hd : decode cc pc = .ok (.lstore i, 2)) (hn : i + 1 < nL) {lv' : List (Option xV)} (hl : xclr (xset lv i (Sum.inr (Sum.inl (x)) : xV)) (i + 1) = lv') (k : xB L y cc nL ret d lo pn lv' st w v w1) : xB L y cc nL ret d lo pc lv ((Sum.inr (Sum.inl (x)) : xV) :: st) w v w1 := by
  refine xB.st2 (x := (Sum.inr (Sum.inl (x)) : xV)) hd pn hp hn rfl hl (fun _ _ _ _ _ _ _ _ _ _ _ _ _ _ _ _ ls ls' hx hb hh e' k => ?_) k
  intro T hT X
  obtain ⟨t, a, b⟩ := k T hT X
  refine ⟨t, ?_, b⟩
  have e2 : storeLocals ls _ (.long x) = some ls' := e'
  jvm_step X.here [X.here.top, ↓top_set X.here.top, hx, hb, hd, e2, List.map, xvv]
  exact a
theorem x_astore_n {n : Fin 4} {i : Nat} {o : Option Nat} (pn : Nat) (hp : pc + 1 = pn) (hd : decode cc pc = .ok (.astore_n n, 1)) (hi : (n : Nat) = i) (hn : i < nL) {lv' : List (Option xV)} (hl : xset lv i (Sum.inr (Sum.inr (o)) : xV) = lv') (k : xB L y cc nL ret d lo pn lv' st w v w1) : xB L y cc nL ret d lo pc lv ((Sum.inr (Sum.inr (o)) : xV) :: st) w v w1 := by
  subst hi; refine xB.st1 (x := (Sum.inr (Sum.inr (o)) : xV)) hd pn hp hn rfl hl (fun _ _ _ _ _ _ _ _ _ _ _ _ _ _ _ g ls ls' hx hb hh e' k => ?_) k
  intro T hT X
  obtain ⟨t, a, b⟩ := k T hT X
  refine ⟨t, ?_, b⟩
  cases o with
  | none =>
    have e2 : storeLocals ls _ .null = some ls' := e'
    jvm_step X.here [X.here.top, ↓top_set X.here.top, hx, hb, hd, e2, List.map, xvv, va_rf, Value.isRef]
    exact a
  | some q =>
    have e2 : storeLocals ls _ (.ref (xad g q)) = some ls' := e'
    jvm_step X.here [X.here.top, ↓top_set X.here.top, hx, hb, hd, e2, List.map, xvv, va_rf, Value.isRef]
    exact a
theorem x_astore {i : Nat} {o : Option Nat} (pn : Nat) (hp : pc + 2 = pn) (hd : decode cc pc = .ok (.astore i, 2)) (hn : i < nL) {lv' : List (Option xV)} (hl : xset lv i (Sum.inr (Sum.inr (o)) : xV) = lv') (k : xB L y cc nL ret d lo pn lv' st w v w1) : xB L y cc nL ret d lo pc lv ((Sum.inr (Sum.inr (o)) : xV) :: st) w v w1 := by
  refine xB.st1 (x := (Sum.inr (Sum.inr (o)) : xV)) hd pn hp hn rfl hl (fun _ _ _ _ _ _ _ _ _ _ _ _ _ _ _ g ls ls' hx hb hh e' k => ?_) k
  intro T hT X
  obtain ⟨t, a, b⟩ := k T hT X
  refine ⟨t, ?_, b⟩
  cases o with
  | none =>
    have e2 : storeLocals ls _ .null = some ls' := e'
    jvm_step X.here [X.here.top, ↓top_set X.here.top, hx, hb, hd, e2, List.map, xvv, va_rf, Value.isRef]
    exact a
  | some q =>
    have e2 : storeLocals ls _ (.ref (xad g q)) = some ls' := e'
    jvm_step X.here [X.here.top, ↓top_set X.here.top, hx, hb, hd, e2, List.map, xvv, va_rf, Value.isRef]
    exact a
theorem x_iinc {i : Nat} {n : Int} {x : Int32} (z : Int32) (pn : Nat) (hp : pc + 3 = pn) (hd : decode cc pc = .ok (.iinc i n, 3)) (hz : Int32.ofInt n = z) (h : lv[i]? = some (some (Sum.inl (x) : xV))) (hn : i < nL) {lv' : List (Option xV)} (hl : xset lv i (Sum.inl (x + z) : xV) = lv') (k : xB L y cc nL ret d lo pn lv' st w v w1) : xB L y cc nL ret d lo pc lv st w v w1 := by
  subst hz
  refine xB.st1 (x := (Sum.inl (x + Int32.ofInt n) : xV)) hd pn hp hn rfl hl (fun _ _ _ _ _ _ _ _ _ _ _ _ _ _ _ _ ls ls' hx hb hh e' k => ?_) k
  intro T hT X
  obtain ⟨t, a, b⟩ := k T hT X
  refine ⟨t, ?_, b⟩
  have hg := xls_get hh h
  have e2 : storeLocals ls _ (.int (x + Int32.ofInt n)) = some ls' := e'
  simp only [xvv] at hg
  jvm_step X.here [X.here.top, ↓top_set X.here.top, hx, hb, hd, hg, e2]
  exact a
theorem x_ite {ρ : Type} {c : Prop} (D : Decidable c) {A B : Option ρ} {r : ρ} {P : Prop} (h : (@ite _ c D A B) = some r) (kt : A = some r → P) (kf : B = some r → P) : P := by
  by_cases hc : c
  · rw [if_pos hc] at h; exact kt h
  · rw [if_neg hc] at h; exact kf h
theorem x_if_eq {ρ : Type} {A B : Option ρ} {rr : ρ} {x : Int32} {off : Int} (tgt pn : Nat) (hp : pc + 3 = pn) (hd : decode cc pc = .ok (.ifCond .eq off, 3)) (ht : (pc : Int) + off = (tgt : Int)) (h : (if x = 0 then A else B) = some rr) (kt : A = some rr → xB L y cc nL ret d lo tgt lv st w v w1) (kf : B = some rr → xB L y cc nL ret d lo pn lv st w v w1) : xB L y cc nL ret d lo pc lv ((Sum.inl (x) : xV) :: st) w v w1 := by
  subst hp
  by_cases hc : x = 0
  · rw [if_pos hc] at h
    exact xB.lift2 (cnd := x = 0) (fun _ _ _ _ _ _ _ _ _ _ _ _ _ _ _ _ _ hx hb ka kb => lv_if_eq hx hb hd ht ka kb) (fun _ => kt h) (fun q => absurd hc q)
  · rw [if_neg hc] at h
    exact xB.lift2 (cnd := x = 0) (fun _ _ _ _ _ _ _ _ _ _ _ _ _ _ _ _ _ hx hb ka kb => lv_if_eq hx hb hd ht ka kb) (fun q => absurd q hc) (fun _ => kf h)
theorem x_if_ne {ρ : Type} {A B : Option ρ} {rr : ρ} {x : Int32} {off : Int} (tgt pn : Nat) (hp : pc + 3 = pn) (hd : decode cc pc = .ok (.ifCond .ne off, 3)) (ht : (pc : Int) + off = (tgt : Int)) (h : (if x = 0 then A else B) = some rr) (kt : B = some rr → xB L y cc nL ret d lo tgt lv st w v w1) (kf : A = some rr → xB L y cc nL ret d lo pn lv st w v w1) : xB L y cc nL ret d lo pc lv ((Sum.inl (x) : xV) :: st) w v w1 := by
  subst hp
  by_cases hc : x = 0
  · rw [if_pos hc] at h
    exact xB.lift2 (cnd := x = 0) (fun _ _ _ _ _ _ _ _ _ _ _ _ _ _ _ _ _ hx hb ka kb => lv_if_ne hx hb hd ht kb ka) (fun _ => kf h) (fun q => absurd hc q)
  · rw [if_neg hc] at h
    exact xB.lift2 (cnd := x = 0) (fun _ _ _ _ _ _ _ _ _ _ _ _ _ _ _ _ _ hx hb ka kb => lv_if_ne hx hb hd ht kb ka) (fun q => absurd q hc) (fun _ => kt h)
theorem x_if_lt {ρ : Type} {A B : Option ρ} {rr : ρ} {x : Int32} {off : Int} (tgt pn : Nat) (hp : pc + 3 = pn) (hd : decode cc pc = .ok (.ifCond .lt off, 3)) (ht : (pc : Int) + off = (tgt : Int)) (h : (if x < 0 then A else B) = some rr) (kt : A = some rr → xB L y cc nL ret d lo tgt lv st w v w1) (kf : B = some rr → xB L y cc nL ret d lo pn lv st w v w1) : xB L y cc nL ret d lo pc lv ((Sum.inl (x) : xV) :: st) w v w1 := by
  subst hp
  by_cases hc : x < 0
  · rw [if_pos hc] at h
    exact xB.lift2 (cnd := x < 0) (fun _ _ _ _ _ _ _ _ _ _ _ _ _ _ _ _ _ hx hb ka kb => lv_if_lt hx hb hd ht ka kb) (fun _ => kt h) (fun q => absurd hc q)
  · rw [if_neg hc] at h
    exact xB.lift2 (cnd := x < 0) (fun _ _ _ _ _ _ _ _ _ _ _ _ _ _ _ _ _ hx hb ka kb => lv_if_lt hx hb hd ht ka kb) (fun q => absurd q hc) (fun _ => kf h)
theorem x_if_ge {ρ : Type} {A B : Option ρ} {rr : ρ} {x : Int32} {off : Int} (tgt pn : Nat) (hp : pc + 3 = pn) (hd : decode cc pc = .ok (.ifCond .ge off, 3)) (ht : (pc : Int) + off = (tgt : Int)) (h : (if 0 ≤ x then A else B) = some rr) (kt : A = some rr → xB L y cc nL ret d lo tgt lv st w v w1) (kf : B = some rr → xB L y cc nL ret d lo pn lv st w v w1) : xB L y cc nL ret d lo pc lv ((Sum.inl (x) : xV) :: st) w v w1 := by
  subst hp
  by_cases hc : 0 ≤ x
  · rw [if_pos hc] at h
    exact xB.lift2 (cnd := 0 ≤ x) (fun _ _ _ _ _ _ _ _ _ _ _ _ _ _ _ _ _ hx hb ka kb => lv_if_ge hx hb hd ht ka kb) (fun _ => kt h) (fun q => absurd hc q)
  · rw [if_neg hc] at h
    exact xB.lift2 (cnd := 0 ≤ x) (fun _ _ _ _ _ _ _ _ _ _ _ _ _ _ _ _ _ hx hb ka kb => lv_if_ge hx hb hd ht ka kb) (fun q => absurd q hc) (fun _ => kf h)
theorem x_if_gt {ρ : Type} {A B : Option ρ} {rr : ρ} {x : Int32} {off : Int} (tgt pn : Nat) (hp : pc + 3 = pn) (hd : decode cc pc = .ok (.ifCond .gt off, 3)) (ht : (pc : Int) + off = (tgt : Int)) (h : (if 0 < x then A else B) = some rr) (kt : A = some rr → xB L y cc nL ret d lo tgt lv st w v w1) (kf : B = some rr → xB L y cc nL ret d lo pn lv st w v w1) : xB L y cc nL ret d lo pc lv ((Sum.inl (x) : xV) :: st) w v w1 := by
  subst hp
  by_cases hc : 0 < x
  · rw [if_pos hc] at h
    exact xB.lift2 (cnd := 0 < x) (fun _ _ _ _ _ _ _ _ _ _ _ _ _ _ _ _ _ hx hb ka kb => lv_if_gt hx hb hd ht ka kb) (fun _ => kt h) (fun q => absurd hc q)
  · rw [if_neg hc] at h
    exact xB.lift2 (cnd := 0 < x) (fun _ _ _ _ _ _ _ _ _ _ _ _ _ _ _ _ _ hx hb ka kb => lv_if_gt hx hb hd ht ka kb) (fun q => absurd q hc) (fun _ => kf h)
theorem x_if_le {ρ : Type} {A B : Option ρ} {rr : ρ} {x : Int32} {off : Int} (tgt pn : Nat) (hp : pc + 3 = pn) (hd : decode cc pc = .ok (.ifCond .le off, 3)) (ht : (pc : Int) + off = (tgt : Int)) (h : (if x ≤ 0 then A else B) = some rr) (kt : A = some rr → xB L y cc nL ret d lo tgt lv st w v w1) (kf : B = some rr → xB L y cc nL ret d lo pn lv st w v w1) : xB L y cc nL ret d lo pc lv ((Sum.inl (x) : xV) :: st) w v w1 := by
  subst hp
  by_cases hc : x ≤ 0
  · rw [if_pos hc] at h
    exact xB.lift2 (cnd := x ≤ 0) (fun _ _ _ _ _ _ _ _ _ _ _ _ _ _ _ _ _ hx hb ka kb => lv_if_le hx hb hd ht ka kb) (fun _ => kt h) (fun q => absurd hc q)
  · rw [if_neg hc] at h
    exact xB.lift2 (cnd := x ≤ 0) (fun _ _ _ _ _ _ _ _ _ _ _ _ _ _ _ _ _ hx hb ka kb => lv_if_le hx hb hd ht ka kb) (fun q => absurd q hc) (fun _ => kf h)
theorem x_icmp_eq {ρ : Type} {A B : Option ρ} {rr : ρ} {x z : Int32} {off : Int} (tgt pn : Nat) (hp : pc + 3 = pn) (hd : decode cc pc = .ok (.if_icmp .eq off, 3)) (ht : (pc : Int) + off = (tgt : Int)) (h : (if x = z then A else B) = some rr) (kt : A = some rr → xB L y cc nL ret d lo tgt lv st w v w1) (kf : B = some rr → xB L y cc nL ret d lo pn lv st w v w1) : xB L y cc nL ret d lo pc lv ((Sum.inl (z) : xV) :: (Sum.inl (x) : xV) :: st) w v w1 := by
  subst hp
  by_cases hc : x = z
  · rw [if_pos hc] at h
    exact xB.lift2 (cnd := x = z) (fun _ _ _ _ _ _ _ _ _ _ _ _ _ _ _ _ _ hx hb ka kb => lv_icmp_eq hx hb hd ht ka kb) (fun _ => kt h) (fun q => absurd hc q)
  · rw [if_neg hc] at h
    exact xB.lift2 (cnd := x = z) (fun _ _ _ _ _ _ _ _ _ _ _ _ _ _ _ _ _ hx hb ka kb => lv_icmp_eq hx hb hd ht ka kb) (fun q => absurd q hc) (fun _ => kf h)
theorem x_icmp_ne {ρ : Type} {A B : Option ρ} {rr : ρ} {x z : Int32} {off : Int} (tgt pn : Nat) (hp : pc + 3 = pn) (hd : decode cc pc = .ok (.if_icmp .ne off, 3)) (ht : (pc : Int) + off = (tgt : Int)) (h : (if x = z then A else B) = some rr) (kt : B = some rr → xB L y cc nL ret d lo tgt lv st w v w1) (kf : A = some rr → xB L y cc nL ret d lo pn lv st w v w1) : xB L y cc nL ret d lo pc lv ((Sum.inl (z) : xV) :: (Sum.inl (x) : xV) :: st) w v w1 := by
  subst hp
  by_cases hc : x = z
  · rw [if_pos hc] at h
    exact xB.lift2 (cnd := x = z) (fun _ _ _ _ _ _ _ _ _ _ _ _ _ _ _ _ _ hx hb ka kb => lv_icmp_ne hx hb hd ht kb ka) (fun _ => kf h) (fun q => absurd hc q)
  · rw [if_neg hc] at h
    exact xB.lift2 (cnd := x = z) (fun _ _ _ _ _ _ _ _ _ _ _ _ _ _ _ _ _ hx hb ka kb => lv_icmp_ne hx hb hd ht kb ka) (fun q => absurd q hc) (fun _ => kt h)
theorem x_icmp_lt {ρ : Type} {A B : Option ρ} {rr : ρ} {x z : Int32} {off : Int} (tgt pn : Nat) (hp : pc + 3 = pn) (hd : decode cc pc = .ok (.if_icmp .lt off, 3)) (ht : (pc : Int) + off = (tgt : Int)) (h : (if x < z then A else B) = some rr) (kt : A = some rr → xB L y cc nL ret d lo tgt lv st w v w1) (kf : B = some rr → xB L y cc nL ret d lo pn lv st w v w1) : xB L y cc nL ret d lo pc lv ((Sum.inl (z) : xV) :: (Sum.inl (x) : xV) :: st) w v w1 := by
  subst hp
  by_cases hc : x < z
  · rw [if_pos hc] at h
    exact xB.lift2 (cnd := x < z) (fun _ _ _ _ _ _ _ _ _ _ _ _ _ _ _ _ _ hx hb ka kb => lv_icmp_lt hx hb hd ht ka kb) (fun _ => kt h) (fun q => absurd hc q)
  · rw [if_neg hc] at h
    exact xB.lift2 (cnd := x < z) (fun _ _ _ _ _ _ _ _ _ _ _ _ _ _ _ _ _ hx hb ka kb => lv_icmp_lt hx hb hd ht ka kb) (fun q => absurd q hc) (fun _ => kf h)
theorem x_icmp_ge {ρ : Type} {A B : Option ρ} {rr : ρ} {x z : Int32} {off : Int} (tgt pn : Nat) (hp : pc + 3 = pn) (hd : decode cc pc = .ok (.if_icmp .ge off, 3)) (ht : (pc : Int) + off = (tgt : Int)) (h : (if z ≤ x then A else B) = some rr) (kt : A = some rr → xB L y cc nL ret d lo tgt lv st w v w1) (kf : B = some rr → xB L y cc nL ret d lo pn lv st w v w1) : xB L y cc nL ret d lo pc lv ((Sum.inl (z) : xV) :: (Sum.inl (x) : xV) :: st) w v w1 := by
  subst hp
  by_cases hc : z ≤ x
  · rw [if_pos hc] at h
    exact xB.lift2 (cnd := z ≤ x) (fun _ _ _ _ _ _ _ _ _ _ _ _ _ _ _ _ _ hx hb ka kb => lv_icmp_ge hx hb hd ht ka kb) (fun _ => kt h) (fun q => absurd hc q)
  · rw [if_neg hc] at h
    exact xB.lift2 (cnd := z ≤ x) (fun _ _ _ _ _ _ _ _ _ _ _ _ _ _ _ _ _ hx hb ka kb => lv_icmp_ge hx hb hd ht ka kb) (fun q => absurd q hc) (fun _ => kf h)
theorem x_icmp_gt {ρ : Type} {A B : Option ρ} {rr : ρ} {x z : Int32} {off : Int} (tgt pn : Nat) (hp : pc + 3 = pn) (hd : decode cc pc = .ok (.if_icmp .gt off, 3)) (ht : (pc : Int) + off = (tgt : Int)) (h : (if z < x then A else B) = some rr) (kt : A = some rr → xB L y cc nL ret d lo tgt lv st w v w1) (kf : B = some rr → xB L y cc nL ret d lo pn lv st w v w1) : xB L y cc nL ret d lo pc lv ((Sum.inl (z) : xV) :: (Sum.inl (x) : xV) :: st) w v w1 := by
  subst hp
  by_cases hc : z < x
  · rw [if_pos hc] at h
    exact xB.lift2 (cnd := z < x) (fun _ _ _ _ _ _ _ _ _ _ _ _ _ _ _ _ _ hx hb ka kb => lv_icmp_gt hx hb hd ht ka kb) (fun _ => kt h) (fun q => absurd hc q)
  · rw [if_neg hc] at h
    exact xB.lift2 (cnd := z < x) (fun _ _ _ _ _ _ _ _ _ _ _ _ _ _ _ _ _ hx hb ka kb => lv_icmp_gt hx hb hd ht ka kb) (fun q => absurd q hc) (fun _ => kf h)
theorem x_icmp_le {ρ : Type} {A B : Option ρ} {rr : ρ} {x z : Int32} {off : Int} (tgt pn : Nat) (hp : pc + 3 = pn) (hd : decode cc pc = .ok (.if_icmp .le off, 3)) (ht : (pc : Int) + off = (tgt : Int)) (h : (if x ≤ z then A else B) = some rr) (kt : A = some rr → xB L y cc nL ret d lo tgt lv st w v w1) (kf : B = some rr → xB L y cc nL ret d lo pn lv st w v w1) : xB L y cc nL ret d lo pc lv ((Sum.inl (z) : xV) :: (Sum.inl (x) : xV) :: st) w v w1 := by
  subst hp
  by_cases hc : x ≤ z
  · rw [if_pos hc] at h
    exact xB.lift2 (cnd := x ≤ z) (fun _ _ _ _ _ _ _ _ _ _ _ _ _ _ _ _ _ hx hb ka kb => lv_icmp_le hx hb hd ht ka kb) (fun _ => kt h) (fun q => absurd hc q)
  · rw [if_neg hc] at h
    exact xB.lift2 (cnd := x ≤ z) (fun _ _ _ _ _ _ _ _ _ _ _ _ _ _ _ _ _ hx hb ka kb => lv_icmp_le hx hb hd ht ka kb) (fun q => absurd q hc) (fun _ => kf h)
theorem x_goto {off : Int} (tgt : Nat) (hd : decode cc pc = .ok (.goto off, 3)) (ht : (pc : Int) + off = (tgt : Int)) (k : xB L y cc nL ret d lo tgt lv st w v w1) : xB L y cc nL ret d lo pc lv st w v w1 :=
  xB.lift (fun _ _ _ _ _ _ _ _ _ _ _ _ _ _ _ g ls hx hb hO hw hl k => lv_goto hx hb hd ht k) k
theorem x_ifnull {off : Int} {o : Option Nat} (tgt pn : Nat) (hp : pc + 3 = pn) (hd : decode cc pc = .ok (.ifnull off, 3)) (ht : (pc : Int) + off = (tgt : Int)) (kt : o = none → xB L y cc nL ret d lo tgt lv st w v w1) (kf : ∀ a, o = some a → xB L y cc nL ret d lo pn lv st w v w1) : xB L y cc nL ret d lo pc lv ((Sum.inr (Sum.inr (o)) : xV) :: st) w v w1 := by
  subst hp
  cases o with
  | none => exact xB.lift (fun _ _ _ _ _ _ _ _ _ _ _ _ _ _ _ g ls hx hb hO hw hl k => lv_ifnullN hx hb hd ht k) (kt rfl)
  | some a => exact xB.lift (fun _ _ _ _ _ _ _ _ _ _ _ _ _ _ _ g ls hx hb hO hw hl k => lv_ifnull hx hb hd k) (kf a rfl)
theorem x_ifnonnull {off : Int} {o : Option Nat} (tgt pn : Nat) (hp : pc + 3 = pn) (hd : decode cc pc = .ok (.ifnonnull off, 3)) (ht : (pc : Int) + off = (tgt : Int)) (kt : ∀ a, o = some a → xB L y cc nL ret d lo tgt lv st w v w1) (kf : o = none → xB L y cc nL ret d lo pn lv st w v w1) : xB L y cc nL ret d lo pc lv ((Sum.inr (Sum.inr (o)) : xV) :: st) w v w1 := by
  subst hp
  cases o with
  | none => exact xB.lift (fun _ _ _ _ _ _ _ _ _ _ _ _ _ _ _ g ls hx hb hO hw hl k => lv_ifnonnullN hx hb hd k) (kf rfl)
  | some a => exact xB.lift (fun _ _ _ _ _ _ _ _ _ _ _ _ _ _ _ g ls hx hb hO hw hl k => lv_ifnonnull hx hb hd ht k) (kt a rfl)
theorem x_table {dflt a b : Int} {offs : Array Int} {len : Nat} {x : Int32} {off : Int} (tgt : Nat) (hd : decode cc pc = .ok (.tableswitch dflt a b offs, len)) (h1 : ¬ x.toInt < a) (h2 : ¬ b < x.toInt) (ho : offs[(x.toInt - a).toNat]? = some off) (ht : (pc : Int) + off = (tgt : Int)) (k : xB L y cc nL ret d lo tgt lv st w v w1) : xB L y cc nL ret d lo pc lv ((Sum.inl (x) : xV) :: st) w v w1 :=
  xB.lift (fun _ _ _ _ _ _ _ _ _ _ _ _ _ _ _ g ls hx hb hO hw hl k => lv_tableIn hx hb hd h1 h2 ho ht k) k
theorem x_tableD {dflt a b : Int} {offs : Array Int} {len : Nat} {x : Int32} (tgt : Nat) (hd : decode cc pc = .ok (.tableswitch dflt a b offs, len)) (h : x.toInt < a ∨ b < x.toInt) (ht : (pc : Int) + dflt = (tgt : Int)) (k : xB L y cc nL ret d lo tgt lv st w v w1) : xB L y cc nL ret d lo pc lv ((Sum.inl (x) : xV) :: st) w v w1 :=
  xB.lift (fun _ _ _ _ _ _ _ _ _ _ _ _ _ _ _ g ls hx hb hO hw hl k => lv_tableOut hx hb hd h ht k) k
theorem x_lookup {dflt : Int} {ps : Array (Int × Int)} {len : Nat} {x : Int32} {off : Int} (tgt : Nat) (hd : decode cc pc = .ok (.lookupswitch dflt ps, len)) (hq : (ps.toList.zip (ps.toList.drop 1)).all (fun (a, next) => a.1 < next.1) = true) (ho : Op.lookupswitch.offset ps.toList dflt x.toInt = off) (ht : (pc : Int) + off = (tgt : Int)) (k : xB L y cc nL ret d lo tgt lv st w v w1) : xB L y cc nL ret d lo pc lv ((Sum.inl (x) : xV) :: st) w v w1 :=
  xB.lift (fun _ _ _ _ _ _ _ _ _ _ _ _ _ _ _ g ls hx hb hO hw hl k => lv_lookup hx hb hd hq ho ht k) k
end XR
