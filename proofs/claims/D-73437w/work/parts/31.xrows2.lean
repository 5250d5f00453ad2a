/-! LAYER 0: rows: nest links, final fields, what is made -/
def xarr0 (g : xG) (n : Nat) : Cell := arrV (g.2.1 0) n (fun _ => .int 0)
theorem xarr0_eq (g : xG) (n : Nat) : xarr0 g n = { cls := g.2.1 0, slots := Array.replicate n (.int 0), vm := .none } := (arrV_new _ _ _).symm
section XM1
variable {L : xL} {y : MethodName} {cc : ByteArray} {nL : Nat} {ret : Option FieldType} {d lo pc : Nat} {lv : List (Option xV)} {st : List xV} {w : xW} {v : Option xV} {w1 : xW} {ms : xS} {r : xR}
theorem x_getfN {a ix k ci N : Nat} {V : Nat → xV} {C : String} {T : u_T} (pn : Nat) (hp : pc + 3 = pn) (hd : decode cc pc = .ok (.getfield ix, 3)) (hc : xRd L w a (.inr (.inl (ci, V)))) (hcl : xcl[ci]? = some (C, T, N)) (hin : ∀ w ∈ u_ws C T N, w ∈ lw_all) (hk : k < N)
    (hl : Cond.fieldLinkNest y.cls ix (T k).1 (T k).2.1 (T k).2.2.1 "UnimodularTables" ∈ xnest) {x : xV} (hv : V k = x) (kk : xB L y cc nL ret d lo pn lv (x :: st) w v w1) : xB L y cc nL ret d lo pc lv ((.inr (.inr (some a)) : xV) :: st) w v w1 := by
  subst hp; subst hv
  refine xB.read (fun p l e R s m args below meth c H locs k' n Q g ls hx hb hO hw hK hG hS kk => ?_) kk
  obtain ⟨r, h1, cell, q1, q2, q3, q4⟩ := hc.at hG hS
  have hr : r = (C, T, N) := Option.some.inj (h1.symm.trans hcl)
  subst hr
  obtain ⟨hS2, hfc, kC, hkC, hkind⟩ := hK.1.1 ci _ hcl
  obtain ⟨cf, kf, fi, f, hi, hsl⟩ := hS2 k hk
  refine va_Wgetf hx hb hO (va_Nw.use rfl (hK.2.2.2.2.1 _ hl)) hi (u_facts hfc hkC (u_lays hw hin hk) hi).1 q1 (by rw [q3]; exact fun h => by cases h) (v := xvv g (V k)) ?_ rfl rfl hd kk
  rw [hsl, q4 k hk]
theorem x_putfN {a ix k ci N : Nat} {V : Nat → xV} {C : String} {T : u_T} {w' : xW} (pn : Nat) (hp : pc + 3 = pn) (hd : decode cc pc = .ok (.putfield ix, 3)) (hc : xcell L w a = some (.inr (.inl (ci, V)))) (hcl : xcl[ci]? = some (C, T, N)) (hin : ∀ w ∈ u_ws C T N, w ∈ lw_all) (ty0 : Nat → FieldType) (hty : ∀ k, k < N → parseFieldDescriptor (T k).2.2.1 = some (ty0 k)) (hnm : ∀ a, a < N → ∀ b, b < N → a ≠ b → (T a).2.1 ≠ (T b).2.1) (hk : k < N)
    (hl : Cond.fieldLinkNest y.cls ix (T k).1 (T k).2.1 (T k).2.2.1 "UnimodularTables" ∈ xnest) (hfin : (T k).2.2.2 = false) {x : xV} (hn : ∀ g, narrow (ty0 k) (xvv g x) = xvv g x) (hfit : ∀ g, fits (ty0 k) (xvv g x) = true)
    (hc' : w'.2.2.2.1 = w.2.2.2.1) (hs' : w'.2.2.2.2 = w.2.2.2.2) (hu : ∀ q, xcell L w' q = if q = a then some (.inr (.inl (ci, fun j => if j = k then x else V j))) else xcell L w q)
    (kk : xB L y cc nL ret d lo pn lv st w' v w1) : xB L y cc nL ret d lo pc lv (x :: (.inr (.inr (some a)) : xV) :: st) w v w1 := by
  subst hp
  refine xB.write _ hc hc' hs' hu (fun p l e R s m args below meth c H locs k' n Q g ls hx hb hO hw hnme hK hS kk => ?_) kk
  obtain ⟨-, r, h1, cell, q1, q2, q3, q4⟩ := hS.2.2 a _ hc
  have hr : r = (C, T, N) := Option.some.inj (h1.symm.trans hcl)
  subst hr
  have hap := va_apart (own := y.cls) hw hin ty0 hty hnm hK.1 hcl
  obtain ⟨hS2, hfc, kC, hkC, hkind⟩ := hK.1.1 ci _ hcl
  obtain ⟨cf, kf, fi, f, hi, hsl⟩ := hS2 k hk
  have hlay := hw _ (hin _ (u_in_lay hk))
  unfold u_lay at hlay
  rw [if_neg (by rw [hfin]; decide)] at hlay
  have hst := (u_facts hfc hkC (u_lays hw hin hk) hi).1
  have h6 := u_store hfc hkC hkind hlay hi (hty k hk) (hn g) (hfit g)
  refine va_WputK hx hb (f := f) hO (va_Nw.use rfl (hK.2.2.2.2.1 _ hl)) hi hst (by rw [q2]; exact h6) q1 q3 (by rw [hsl]; exact k2_hasslot (q4 k hk)) rfl rfl hd fun H' e1 e2 e3 => ?_
  rw [hsl] at e1
  refine kk H' f.slot ⟨(C, T, N), hcl, ?_⟩ e2 e3
  exact t_OB.to (V := updV (fun j => xvv g (V j)) k (xvv g x)) ⟨_, e1, q2, q3, t_set q4 hap hk (xvv g x)⟩ (fun j _ => by
    by_cases hj : j = k
    · simp [updV, hj]
    · simp [updV, hj])
/-- a final field, in a constructor of its class -/
theorem x_putF {a ix k ci N : Nat} {V : Nat → xV} {C : String} {T : u_T} {w' : xW} (pn : Nat) (hp : pc + 3 = pn) (hd : decode cc pc = .ok (.putfield ix, 3)) (hy : y.name = "<init>") (hyc : y.cls = C) (hc : xcell L w a = some (.inr (.inl (ci, V)))) (hcl : xcl[ci]? = some (C, T, N)) (hin : ∀ w ∈ u_ws C T N, w ∈ lw_all) (ty0 : Nat → FieldType) (hty : ∀ k, k < N → parseFieldDescriptor (T k).2.2.1 = some (ty0 k)) (hnm : ∀ a, a < N → ∀ b, b < N → a ≠ b → (T a).2.1 ≠ (T b).2.1) (hk : k < N)
    (hl : Cond.fieldLink y.cls ix (T k).1 (T k).2.1 (T k).2.2.1 ∈ lw_all) (hfin : (T k).2.2.2 = true) (hT1 : (T k).1 = C) {x : xV} (hn : ∀ g, narrow (ty0 k) (xvv g x) = xvv g x) (hfit : ∀ g, fits (ty0 k) (xvv g x) = true)
    (hc' : w'.2.2.2.1 = w.2.2.2.1) (hs' : w'.2.2.2.2 = w.2.2.2.2) (hu : ∀ q, xcell L w' q = if q = a then some (.inr (.inl (ci, fun j => if j = k then x else V j))) else xcell L w q)
    (kk : xB L y cc nL ret d lo pn lv st w' v w1) : xB L y cc nL ret d lo pc lv (x :: (.inr (.inr (some a)) : xV) :: st) w v w1 := by
  subst hp
  refine xB.write _ hc hc' hs' hu (fun p l e R s m args below meth c H locs k' n Q g ls hx hb hO hw hnme hK hS kk => ?_) kk
  obtain ⟨-, r, h1, cell, q1, q2, q3, q4⟩ := hS.2.2 a _ hc
  have hr : r = (C, T, N) := Option.some.inj (h1.symm.trans hcl)
  subst hr
  have hap := va_apart (own := y.cls) hw hin ty0 hty hnm hK.1 hcl
  obtain ⟨hS2, hfc, kC, hkC, hkind⟩ := hK.1.1 ci _ hcl
  obtain ⟨cf, kf, fi, f, hi, hsl⟩ := hS2 k hk
  have hlay := hw _ (hin _ (u_in_lay hk))
  unfold u_lay at hlay
  rw [if_pos hfin] at hlay
  have hst := (u_facts hfc hkC (u_lays hw hin hk) hi).1
  have hcf : m.cls = cf := by
    obtain ⟨_, _, c', _, _, _, -, -, hf', -, -, -, hown2, -⟩ := Cond.laysFinal_spec hlay
    have e1 : c' = cf := by have := hi.symm.trans hf'; simp at this; exact this.1.symm
    rw [hT1, ← hyc] at hown2
    rw [← e1]; exact Option.some.inj (hO.symm.trans hown2)
  have h6 := u_fits hfc hkC hkind (Or.inr hlay) hi (hty k hk) (hn g) (hfit g)
  refine W.putFinK hx hb hO (hw _ hl) hi hst hcf (hnme.trans hy) (by rw [q2]; exact h6) q1 q3 (by rw [hsl]; exact k2_hasslot (q4 k hk)) rfl rfl hd fun H' e1 e2 e3 => ?_
  rw [hsl] at e1
  refine kk H' f.slot ⟨(C, T, N), hcl, ?_⟩ e2 e3
  exact t_OB.to (V := updV (fun j => xvv g (V j)) k (xvv g x)) ⟨_, e1, q2, q3, t_set q4 hap hk (xvv g x)⟩ (fun j _ => by
    by_cases hj : j = k
    · simp [updV, hj]
    · simp [updV, hj])
theorem xal_cell {e : xE} {n : Nat} (hL : L (300 + r.2.2.1) = none) (q : Nat) : xcell L (ms, xal r e n) q = if q = 300 + r.2.2.1 then some e else xcell L (ms, r) q := by
  by_cases hq : q = 300 + r.2.2.1
  · rw [if_pos hq, hq]
    unfold xcell
    rw [hL]
    simp [xal]
  · rw [if_neg hq]
    unfold xcell
    cases L q with
    | none => simp [xal, hq]
    | some d => rfl
theorem xSim.alloc {g : xG} {H H' : Heap} {e : xE} {n : Nat} (hS : xSim g L (ms, r) H) (hL : L (300 + r.2.2.1) = none) (h1 : xat g H.size e H') (h2 : H'.size = H.size + 1) (h3 : ∀ q, q < H.size → H'[q]? = H[q]?) : xSim g L (ms, xal r e n) H' := by
  obtain ⟨s1, s2, s3⟩ := hS
  refine ⟨by rw [h2, s1]; rfl, fun q hq => ?_, fun k x hk => ?_⟩
  · rw [h3 q (by omega)]
    exact s2 q hq
  · rw [xal_cell hL] at hk
    by_cases hka : k = 300 + r.2.2.1
    · rw [if_pos hka] at hk
      cases hk
      have e1 : xad g k = H.size := by
        rw [xad_big (by omega), s1, hka]
        show _ + (300 + r.2.2.1 - 300) = _ + r.2.2.1
        omega
      rw [e1]
      exact ⟨by omega, h1⟩
    · rw [if_neg hka] at hk
      obtain ⟨hk3, hk4⟩ := s3 k x hk
      exact ⟨hk3, hk4.kept (h3 _ hk4.lt)⟩
/-- one instruction that makes a cell -/
theorem xB.make {pc' n : Nat} {st' : List xV} (e : xE) (hL : L (300 + r.2.2.1) = none)
    (h : ∀ (p : Program) (l : Launch) (e0 : Env) (R : Room) (s : State) (m : MethodId) (args : Array Value) (below : List Frame) (meth : Method) (c : Code) (H : Heap) (locs : List Loc) (k j : Nat) (Q : State → Prop) (g : xG) (ls : Array Slot), p.tables.exec = Jvm.exec → c.code = cc → s.vm.findClass y.cls = some m.cls → (∀ w ∈ lw_all, w.before args s = true) → xKf g s → k + 1 ≤ R.cells → j + n ≤ R.slots → xad g (300 + r.2.2.1) = H.size →
      (∀ (H' : Heap), xat g H.size e H' → H'.size = H.size + 1 → (∀ q, q < H.size → H'[q]? = H[q]?) → W p l e0 R s m args below meth c H' locs (k + 1) (j + n) Q (F0 m pc' ls (st'.map (xvv g)))) → W p l e0 R s m args below meth c H locs k j Q (F0 m pc ls (st.map (xvv g))))
    (k : xB L y cc nL ret d lo pc' lv st' (ms, xal r e n) v w1) : xB L y cc nL ret d lo pc lv st (ms, r) v w1 := by
  have k1 : r.2.2.1 + 1 ≤ w1.2.2.2.1 := k.1
  have k2 : r.2.2.2 + n ≤ w1.2.2.2.2 := k.2.1
  refine ⟨Nat.le_trans (Nat.le_succ _) k1, Nat.le_trans (Nat.le_add_right _ _) k2, fun p l e0 R s m args below meth c g k0 n0 C H locs k' n' ls h1 h2 h3 h4 h5 => ?_⟩
  have h1' : k0 + k' = r.2.2.1 := h1
  have h2' : n0 + n' = r.2.2.2 := h2
  have hC := C
  obtain ⟨hx, hb, hml, hret, hO, hw, hlk, hnm, hK, hG, hRf, hRl, hRc, hRs⟩ := C
  refine h p l e0 R s m args below meth c H locs k' n' _ g ls hx hb hO hw hK (by rw [hRc]; omega) (by rw [hRs]; omega) ?_ fun H' a1 a2 a3 => ?_
  · rw [xad_big (by omega), h3.1]
    show _ + (300 + r.2.2.1 - 300) = _ + r.2.2.1
    omega
  · exact k.2.2 p l e0 R s m args below meth c g k0 n0 hC H' locs (k' + 1) (n' + n) ls (by show k0 + (k' + 1) = r.2.2.1 + 1; omega) (by show n0 + (n' + n) = r.2.2.2 + n; omega) (h3.alloc hL a1 a2 a3) h4 h5
theorem x_new {ix ci N n : Nat} {C : String} {T : u_T} {V : Nat → xV} (pn : Nat) (hp : pc + 3 = pn) (hd : decode cc pc = .ok (.new ix, 3)) (hL : L (300 + r.2.2.1) = none) (hcl : xcl[ci]? = some (C, T, N)) (hin : ∀ w ∈ u_ws C T N, w ∈ lw_all) (ty0 : Nat → FieldType) (hty : ∀ k, k < N → parseFieldDescriptor (T k).2.2.1 = some (ty0 k)) (hV : ∀ g k, k < N → defaultValue (ty0 k) = xvv g (V k))
    (hlk : Cond.classLink y.cls ix C ∈ lw_all) (hins : Cond.instantiable C n ∈ lw_all) (hini : Cond.initialized C ∈ lw_all) (kk : xB L y cc nL ret d lo pn lv ((.inr (.inr (some (300 + r.2.2.1))) : xV) :: st) (ms, xal r (.inr (.inl (ci, V))) n) v w1) : xB L y cc nL ret d lo pc lv st (ms, r) v w1 := by
  subst hp
  refine xB.make _ hL (fun p l e0 R s m args below meth c H locs k j Q g ls hx hb hO hw hK hc hs ha kk => ?_) kk
  have hKn := hK.1.1 ci _ hcl
  refine W.newcK hx hb hO (hw _ hlk) (hw _ hins) (hw _ hini) rfl hd hc hs hKn.2.1 rfl fun H1 kC hkC e1 z1 o1 => ?_
  have hk := kk H1 ⟨_, hcl, (u_born ty0 hw hin hKn hkC e1 hty).to (fun k hk => hV g k hk)⟩ z1 o1
  have e2 : List.map (xvv g) ((.inr (.inr (some (300 + r.2.2.1))) : xV) :: st) = .ref H.size :: st.map (xvv g) := by
    show Value.ref (xad g (300 + r.2.2.1)) :: _ = _
    rw [ha]
  rw [e2] at hk
  exact hk
theorem x_newi {n : Int32} (pn : Nat) (hp : pc + 2 = pn) (hd : decode cc pc = .ok (.newarray .int, 2)) (hL : L (300 + r.2.2.1) = none) (hn : ¬ n < 0) (hb4 : n.toNatClampNeg ≤ 65536)
    (kk : xB L y cc nL ret d lo pn lv ((.inr (.inr (some (300 + r.2.2.1))) : xV) :: st) (ms, xal r (.inl (0, n.toNatClampNeg, .inl (fun _ => 0))) n.toNatClampNeg) v w1) : xB L y cc nL ret d lo pc lv ((.inl n : xV) :: st) (ms, r) v w1 := by
  subst hp
  refine xB.make _ hL (fun p l e0 R s m args below meth c H locs k j Q g ls hx hb hO hw hK hc hs ha kk => ?_) kk
  refine W.newa (atype := .int) hx hb (hw _ q261) rfl hd rfl hn (by show n.toNatClampNeg * 4 ≤ _; omega) hc hs fun cA kA comp h1 h2 h3 => ?_
  have hcA : g.2.1 0 = cA := by
    have h4 := (hK.1.2 0 _ (xtys_at (by decide))).2
    exact Option.some.inj (h4.symm.trans h1)
  subst hcA
  have hk := kk (H.push { cls := g.2.1 0, slots := Array.replicate n.toNatClampNeg (defaultValue (newarray.typeOf .int)), vm := .none }) (by
    have e9 : xarr0 g n.toNatClampNeg = arrV (g.2.1 0) n.toNatClampNeg (xcon g (.inl (fun _ => 0))) := rfl
    show (H.push _)[H.size]? = some (arrV (g.2.1 0) n.toNatClampNeg (xcon g (.inl (fun _ => 0))))
    rw [← e9, xarr0_eq]
    simp [newarray.typeOf, defaultValue]) (by simp) (fun q hq => by rw [Array.getElem?_push, if_neg (Nat.ne_of_lt hq)])
  have e2 : List.map (xvv g) ((.inr (.inr (some (300 + r.2.2.1))) : xV) :: st) = .ref H.size :: st.map (xvv g) := by
    show Value.ref (xad g (300 + r.2.2.1)) :: _ = _
    rw [ha]
  rw [e2] at hk
  exact hk
end XM1
