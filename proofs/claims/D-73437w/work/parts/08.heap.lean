/-! LAYER 0: rows on cells, returns -/
section XH
variable {L : xL} {y : MethodName} {cc : ByteArray} {nL : Nat} {ret : Option FieldType} {d lo pc : Nat} {lv : List (Option xV)} {st : List xV} {w : xW} {v : Option xV} {w1 : xW}
def xin (i : Int32) (n : Nat) : Bool := decide (¬ (i < 0 ∨ n ≤ i.toNatClampNeg))
theorem xin_vp {i : Int32} {n : Nat} (h : xin i n = true) : vp_in i n := by
  have h2 : ¬ (i < 0 ∨ n ≤ i.toNatClampNeg) := of_decide_eq_true h
  exact h2
theorem xin_lt {i : Int32} {n : Nat} (h : xin i n = true) : i.toNatClampNeg < n := Nat.not_le.mp fun q => xin_vp h (Or.inr q)
theorem xtys_at {g : xG} {t : Nat} (h : t < 10) : (xtys g)[t]? = some (g.2.1 t, xty t) := by
  simp [xtys, h]
theorem xad_big {g : xG} {a : Nat} (h : 300 ≤ a) : xad g a = g.2.2.2.2.size + (a - 300) := by
  unfold xad
  rw [if_neg (by omega)]
theorem xat.kept {g : xG} {a : Nat} {e : xE} {H H1 : Heap} (h : xat g a e H) (hq : H1[a]? = H[a]?) : xat g a e H1 := by
  rcases e with x | o | o
  · exact hq.trans h
  · obtain ⟨r, h1, h2⟩ := h
    exact ⟨r, h1, h2.kept hq⟩
  · exact hq.trans h
theorem xat.lt {g : xG} {a : Nat} {e : xE} {H : Heap} (h : xat g a e H) : a < H.size := by
  rcases e with x | o | o
  · exact (Array.getElem?_eq_some_iff.mp h).1
  · obtain ⟨r, h1, cell, h2, -⟩ := h
    exact (Array.getElem?_eq_some_iff.mp h2).1
  · exact (Array.getElem?_eq_some_iff.mp h).1
/-- a cell written in place -/
theorem xSim.put {g : xG} {w' : xW} {H H' : Heap} {a : Nat} {e e' : xE} (hS : xSim g L w H) (hc : xcell L w a = some e) (h1 : xat g (xad g a) e' H') (h2 : H'.size = H.size) (h3 : ∀ q, q ≠ xad g a → H'[q]? = H[q]?)
    (hc' : w'.2.2.2.1 = w.2.2.2.1) (hu : ∀ q, xcell L w' q = if q = a then some e' else xcell L w q) : xSim g L w' H' := by
  obtain ⟨s1, s2, s3⟩ := hS
  have ha := (s3 a e hc).1
  refine ⟨by rw [h2, hc']; exact s1, fun q hq => ?_, fun k x hk => ?_⟩
  · rw [h3 q (by rw [xad_big ha]; omega)]
    exact s2 q hq
  · rw [hu k] at hk
    by_cases hka : k = a
    · rw [if_pos hka] at hk
      cases hk
      subst hka
      exact ⟨ha, h1⟩
    · rw [if_neg hka] at hk
      obtain ⟨hk3, hk4⟩ := s3 k x hk
      exact ⟨hk3, hk4.kept (h3 _ (by rw [xad_big ha, xad_big hk3]; omega))⟩
theorem xRd.at {l : Launch} {g : xG} {H : Heap} {a : Nat} {e : xE} (hG : xGok l g) (hS : xSim g L w H) (h : xRd L w a e) : xat g (xad g a) e H := by
  rcases h with h | h
  · exact (hS.2.2 a e h).2
  · obtain ⟨h1, h2⟩ := hG.2 a e h
    have e1 : xad g a = g.2.2.2.1 a := by unfold xad; rw [if_pos h1]
    rw [e1]
    exact h2.kept (hS.2.1 _ h2.lt)
/-- one instruction that reads the world -/
theorem xB.read {pc' : Nat} {st' : List xV}
    (h : ∀ (p : Program) (l : Launch) (e : Env) (R : Room) (s : State) (m : MethodId) (args : Array Value) (below : List Frame) (meth : Method) (c : Code) (H : Heap) (locs : List Loc) (k n : Nat) (Q : State → Prop) (g : xG) (ls : Array Slot), p.tables.exec = Jvm.exec → c.code = cc → s.vm.findClass y.cls = some m.cls → (∀ w ∈ lw_all, w.before args s = true) → xKf g s → xGok l g → xSim g L w H →
      W p l e R s m args below meth c H locs k n Q (F0 m pc' ls (st'.map (xvv g))) → W p l e R s m args below meth c H locs k n Q (F0 m pc ls (st.map (xvv g))))
    (k : xB L y cc nL ret d lo pc' lv st' w v w1) : xB L y cc nL ret d lo pc lv st w v w1 :=
  ⟨k.1, k.2.1, fun p l e R s m args below meth c g k0 n0 C H locs k' n' ls h1 h2 h3 h4 h5 => h p l e R s m args below meth c H locs k' n' _ g ls C.1 C.2.1 C.2.2.2.2.1 C.2.2.2.2.2.1 C.2.2.2.2.2.2.2.2.1 C.2.2.2.2.2.2.2.2.2.1 h3 (k.2.2 p l e R s m args below meth c g k0 n0 C H locs k' n' ls h1 h2 h3 h4 h5)⟩
/-- one instruction that writes a cell of the world in place -/
theorem xB.write {pc' : Nat} {st' : List xV} {w' : xW} {a : Nat} {e : xE} (e' : xE) (hc : xcell L w a = some e) (hc' : w'.2.2.2.1 = w.2.2.2.1) (hs' : w'.2.2.2.2 = w.2.2.2.2) (hu : ∀ q, xcell L w' q = if q = a then some e' else xcell L w q)
    (h : ∀ (p : Program) (l : Launch) (e : Env) (R : Room) (s : State) (m : MethodId) (args : Array Value) (below : List Frame) (meth : Method) (c : Code) (H : Heap) (locs : List Loc) (k n : Nat) (Q : State → Prop) (g : xG) (ls : Array Slot), p.tables.exec = Jvm.exec → c.code = cc → s.vm.findClass y.cls = some m.cls → (∀ w ∈ lw_all, w.before args s = true) → meth.name = y.name → xKf g s → xSim g L w H →
      (∀ (H' : Heap) (i : Nat), xat g (xad g a) e' H' → H'.size = H.size → (∀ q, q ≠ xad g a → H'[q]? = H[q]?) → W p l e R s m args below meth c H' (locs ++ [⟨xad g a, i⟩]) k n Q (F0 m pc' ls (st'.map (xvv g)))) → W p l e R s m args below meth c H locs k n Q (F0 m pc ls (st.map (xvv g))))
    (k : xB L y cc nL ret d lo pc' lv st' w' v w1) : xB L y cc nL ret d lo pc lv st w v w1 := by
  refine ⟨by rw [← hc']; exact k.1, by rw [← hs']; exact k.2.1, fun p l e R s m args below meth c g k0 n0 C H locs k' n' ls h1 h2 h3 h4 h5 => ?_⟩
  refine h p l e R s m args below meth c H locs k' n' _ g ls C.1 C.2.1 C.2.2.2.2.1 C.2.2.2.2.2.1 C.2.2.2.2.2.2.2.1.1 C.2.2.2.2.2.2.2.2.1 h3 fun H' i a1 a2 a3 => ?_
  refine k.2.2 p l e R s m args below meth c g k0 n0 C H' _ k' n' ls (by rw [hc']; exact h1) (by rw [hs']; exact h2) (h3.put hc a1 a2 a3 hc' hu) (fun q hq => ?_) h5
  rcases List.mem_append.mp hq with q1 | q1
  · exact h4 q q1
  · cases List.mem_singleton.mp q1
    show _ ≤ xad g a
    rw [xad_big (h3.2.2 a _ hc).1]
    exact Nat.le_add_right _ _
theorem x_getf {a ix k ci N : Nat} {V : Nat → xV} {C : String} {T : u_T} (pn : Nat) (hp : pc + 3 = pn) (hd : decode cc pc = .ok (.getfield ix, 3)) (hc : xRd L w a (.inr (.inl (ci, V)))) (hcl : xcl[ci]? = some (C, T, N)) (hin : ∀ w ∈ u_ws C T N, w ∈ lw_all) (hk : k < N)
    (hl : Cond.fieldLink y.cls ix (T k).1 (T k).2.1 (T k).2.2.1 ∈ lw_all) {x : xV} (hv : V k = x) (kk : xB L y cc nL ret d lo pn lv (x :: st) w v w1) : xB L y cc nL ret d lo pc lv ((.inr (.inr (some a)) : xV) :: st) w v w1 := by
  subst hp; subst hv
  refine xB.read (fun p l e R s m args below meth c H locs k' n Q g ls hx hb hO hw hK hG hS kk => ?_) kk
  obtain ⟨r, h1, cell, q1, q2, q3, q4⟩ := hc.at hG hS
  have hr : r = (C, T, N) := Option.some.inj (h1.symm.trans hcl)
  subst hr
  obtain ⟨hS2, hfc, kC, hkC, hkind⟩ := hK.1.1 ci _ hcl
  obtain ⟨cf, kf, fi, f, hi, hsl⟩ := hS2 k hk
  refine W.getf hx hb hO (hw _ hl) hi (u_facts hfc hkC (u_lays hw hin hk) hi).1 q1 (by rw [q3]; exact fun h => by cases h) (v := xvv g (V k)) ?_ rfl rfl hd kk
  rw [hsl, q4 k hk]
theorem x_putf {a ix k ci N : Nat} {V : Nat → xV} {C : String} {T : u_T} {w' : xW} (pn : Nat) (hp : pc + 3 = pn) (hd : decode cc pc = .ok (.putfield ix, 3)) (hc : xcell L w a = some (.inr (.inl (ci, V)))) (hcl : xcl[ci]? = some (C, T, N)) (hin : ∀ w ∈ u_ws C T N, w ∈ lw_all) (ty0 : Nat → FieldType) (hty : ∀ k, k < N → parseFieldDescriptor (T k).2.2.1 = some (ty0 k)) (hnm : ∀ a, a < N → ∀ b, b < N → a ≠ b → (T a).2.1 ≠ (T b).2.1) (hk : k < N)
    (hl : Cond.fieldLink y.cls ix (T k).1 (T k).2.1 (T k).2.2.1 ∈ lw_all) (hfin : (T k).2.2.2 = false) {x : xV} (hn : ∀ g, narrow (ty0 k) (xvv g x) = xvv g x) (hfit : ∀ g, fits (ty0 k) (xvv g x) = true)
    (hc' : w'.2.2.2.1 = w.2.2.2.1) (hs' : w'.2.2.2.2 = w.2.2.2.2) (hu : ∀ q, xcell L w' q = if q = a then some (.inr (.inl (ci, fun j => if j = k then x else V j))) else xcell L w q)
    (kk : xB L y cc nL ret d lo pn lv st w' v w1) : xB L y cc nL ret d lo pc lv (x :: (.inr (.inr (some a)) : xV) :: st) w v w1 := by
  subst hp
  refine xB.write _ hc hc' hs' hu (fun p l e R s m args below meth c H locs k' n Q g ls hx hb hO hw hnme hK hS kk => ?_) kk
  obtain ⟨-, r, h1, cell, q1, q2, q3, q4⟩ := hS.2.2 a _ hc
  have hr : r = (C, T, N) := Option.some.inj (h1.symm.trans hcl)
  subst hr
  have hap := va_apart (own := y.cls) hw hin ty0 hty hnm hK.1 hcl
  obtain ⟨hS2, hfc, kC, hkC, hkind⟩ := hK.1.1 ci _ hcl
  obtain ⟨cf, kf, fi, f, hi, hsl⟩ := hS2 k hk
  have hlay := hw _ (hin _ (u_in_lay hk))
  unfold u_lay at hlay
  rw [if_neg (by rw [hfin]; decide)] at hlay
  have hst := (u_facts hfc hkC (u_lays hw hin hk) hi).1
  have h6 := u_store hfc hkC hkind hlay hi (hty k hk) (hn g) (hfit g)
  refine W.putK hx hb (f := f) ⟨hO, hw _ hl, ⟨_, _, _, hi⟩, hst⟩ (by rw [q2]; exact h6) q1 q3 (by rw [hsl]; exact k2_hasslot (q4 k hk)) rfl rfl hd fun H' e1 e2 e3 => ?_
  rw [hsl] at e1
  refine kk H' f.slot ⟨(C, T, N), hcl, ?_⟩ e2 e3
  exact t_OB.to (V := updV (fun j => xvv g (V j)) k (xvv g x)) ⟨_, e1, q2, q3, t_set q4 hap hk (xvv g x)⟩ (fun j _ => by
    by_cases hj : j = k
    · simp [updV, hj]
    · simp [updV, hj])
theorem xcon_upd (g : xG) (f : Nat → Int32) (k : Nat) (x : Int32) : updV (xcon g (.inl f)) k (.int x) = xcon g (.inl (fun j => if j = k then x else f j)) := by
  funext j
  by_cases h : j = k <;> simp [updV, xcon, h]
theorem xcon_updL (g : xG) (f : Nat → Int64) (k : Nat) (x : Int64) : updV (xcon g (.inr (.inl f))) k (.long x) = xcon g (.inr (.inl (fun j => if j = k then x else f j))) := by
  funext j
  by_cases h : j = k <;> simp [updV, xcon, h]
theorem xcon_updR (g : xG) (f : Nat → Option Nat) (k : Nat) (x : Option Nat) : updV (xcon g (.inr (.inr f))) k (va_rf (x.map (xad g))) = xcon g (.inr (.inr (fun j => if j = k then x else f j))) := by
  funext j
  by_cases h : j = k <;> simp [updV, xcon, h]
theorem x_alen {a t n : Nat} {ct : xC} (ht : t < 10) (pn : Nat) (hp : pc + 1 = pn) (hd : decode cc pc = .ok (.arraylength, 1)) (hc : xRd L w a (.inl (t, n, ct))) {x : Int32} (hx : n.toInt32 = x)
    (kk : xB L y cc nL ret d lo pn lv ((.inl x : xV) :: st) w v w1) : xB L y cc nL ret d lo pc lv ((.inr (.inr (some a)) : xV) :: st) w v w1 := by
  subst hp; subst hx
  refine xB.read (fun p l e R s m args below meth c H locs k' n' Q g ls hx hb hO hw hK hG hS kk => ?_) kk
  have h1 := hc.at hG hS
  exact W.alen (n := n.toInt32) hx hb h1 ((hK.1.2 t _ (xtys_at ht)).1 n _) (by rw [arrV_size]) rfl rfl hd kk
theorem x_iald {a n : Nat} {f : Nat → Int32} {i : Int32} (pn : Nat) (hp : pc + 1 = pn) (hd : decode cc pc = .ok (.iaload, 1)) (hc : xRd L w a (.inl (0, n, .inl f))) (hi : xin i n = true)
    (kk : xB L y cc nL ret d lo pn lv ((.inl (f i.toNatClampNeg) : xV) :: st) w v w1) : xB L y cc nL ret d lo pc lv ((.inl i : xV) :: (.inr (.inr (some a)) : xV) :: st) w v w1 := by
  subst hp
  refine xB.read (fun p l e R s m args below meth c H locs k' n' Q g ls hx hb hO hw hK hG hS kk => ?_) kk
  have h1 := hc.at hG hS
  exact W.iald (v := .int (f i.toNatClampNeg)) hx hb h1 ((hK.1.2 0 _ (xtys_at (by decide))).1 n _) (fun q => by cases q) (by rw [arrV_size]; exact xin_vp hi) (by rw [arrV_read _ _ (xin_lt hi)]; rfl) rfl rfl hd kk
theorem x_bald {a n : Nat} {f : Nat → Int32} {i : Int32} (pn : Nat) (hp : pc + 1 = pn) (hd : decode cc pc = .ok (.baload, 1)) (hc : xRd L w a (.inl (1, n, .inl f))) (hi : xin i n = true)
    (kk : xB L y cc nL ret d lo pn lv ((.inl (f i.toNatClampNeg) : xV) :: st) w v w1) : xB L y cc nL ret d lo pc lv ((.inl i : xV) :: (.inr (.inr (some a)) : xV) :: st) w v w1 := by
  subst hp
  refine xB.read (fun p l e R s m args below meth c H locs k' n' Q g ls hx hb hO hw hK hG hS kk => ?_) kk
  have h1 := hc.at hG hS
  exact W.bald (v := .int (f i.toNatClampNeg)) hx hb h1 ((hK.1.2 1 _ (xtys_at (by decide))).1 n _) (fun q => by cases q) (by rw [arrV_size]; exact xin_vp hi) (by rw [arrV_read _ _ (xin_lt hi)]; rfl) rfl rfl hd kk
theorem x_lald {a n : Nat} {f : Nat → Int64} {i : Int32} (pn : Nat) (hp : pc + 1 = pn) (hd : decode cc pc = .ok (.laload, 1)) (hc : xRd L w a (.inl (2, n, .inr (.inl f)))) (hi : xin i n = true)
    (kk : xB L y cc nL ret d lo pn lv ((.inr (.inl (f i.toNatClampNeg)) : xV) :: st) w v w1) : xB L y cc nL ret d lo pc lv ((.inl i : xV) :: (.inr (.inr (some a)) : xV) :: st) w v w1 := by
  subst hp
  refine xB.read (fun p l e R s m args below meth c H locs k' n' Q g ls hx hb hO hw hK hG hS kk => ?_) kk
  have h1 := hc.at hG hS
  exact W.lald (v := .long (f i.toNatClampNeg)) hx hb h1 ((hK.1.2 2 _ (xtys_at (by decide))).1 n _) (fun q => by cases q) (by rw [arrV_size]; exact xin_vp hi) (by rw [arrV_read _ _ (xin_lt hi)]; rfl) rfl rfl hd kk
theorem x_aald {a t n : Nat} {f : Nat → Option Nat} {i : Int32} (ht : 3 ≤ t ∧ t < 10) (pn : Nat) (hp : pc + 1 = pn) (hd : decode cc pc = .ok (.aaload, 1)) (hc : xRd L w a (.inl (t, n, .inr (.inr f)))) (hi : xin i n = true)
    (kk : xB L y cc nL ret d lo pn lv ((.inr (.inr (f i.toNatClampNeg)) : xV) :: st) w v w1) : xB L y cc nL ret d lo pc lv ((.inl i : xV) :: (.inr (.inr (some a)) : xV) :: st) w v w1 := by
  subst hp
  refine xB.read (fun p l e R s m args below meth c H locs k' n' Q g ls hx hb hO hw hK hG hS kk => ?_) kk
  have h1 := hc.at hG hS
  have href : (xty t).isReference = true := by
    obtain ⟨h3, h9⟩ := ht
    match t, h3, h9 with
    | 3, _, _ => rfl
    | 4, _, _ => rfl
    | 5, _, _ => rfl
    | 6, _, _ => rfl
    | 7, _, _ => rfl
    | 8, _, _ => rfl
    | 9, _, _ => rfl
    | n + 10, _, h9 => omega
  exact W.aald (v := va_rf ((f i.toNatClampNeg).map (xad g))) hx hb h1 ((hK.1.2 t _ (xtys_at ht.2)).1 n _) href (fun q => by cases q) (by rw [arrV_size]; exact xin_vp hi) (by rw [arrV_read _ _ (xin_lt hi)]; rfl) rfl rfl hd kk
theorem x_iast {a n : Nat} {f : Nat → Int32} {i x : Int32} {w' : xW} (pn : Nat) (hp : pc + 1 = pn) (hd : decode cc pc = .ok (.iastore, 1)) (hc : xcell L w a = some (.inl (0, n, .inl f))) (hi : xin i n = true)
    (hc' : w'.2.2.2.1 = w.2.2.2.1) (hs' : w'.2.2.2.2 = w.2.2.2.2) (hu : ∀ q, xcell L w' q = if q = a then some (.inl (0, n, .inl (fun j => if j = i.toNatClampNeg then x else f j))) else xcell L w q)
    (kk : xB L y cc nL ret d lo pn lv st w' v w1) : xB L y cc nL ret d lo pc lv ((.inl x : xV) :: (.inl i : xV) :: (.inr (.inr (some a)) : xV) :: st) w v w1 := by
  subst hp
  refine xB.write _ hc hc' hs' hu (fun p l e R s m args below meth c H locs k' n' Q g ls hx hb hO hw hnme hK hS kk => ?_) kk
  have h1 := (hS.2.2 a _ hc).2
  refine W.iast hx hb h1 ((hK.1.2 0 _ (xtys_at (by decide))).1 n _) (fun q => by cases q) (by rw [arrV_size]; exact xin_vp hi) rfl rfl hd fun H1 e z oq => ?_
  refine kk H1 _ ?_ z oq
  show H1[_]? = some _
  rw [e, arrV_store, xcon_upd]
theorem x_bast {a n : Nat} {f : Nat → Int32} {i x : Int32} {w' : xW} (pn : Nat) (hp : pc + 1 = pn) (hd : decode cc pc = .ok (.bastore, 1)) (hc : xcell L w a = some (.inl (1, n, .inl f))) (hi : xin i n = true)
    (hc' : w'.2.2.2.1 = w.2.2.2.1) (hs' : w'.2.2.2.2 = w.2.2.2.2) (hu : ∀ q, xcell L w' q = if q = a then some (.inl (1, n, .inl (fun j => if j = i.toNatClampNeg then x.toInt8.toInt32 else f j))) else xcell L w q)
    (kk : xB L y cc nL ret d lo pn lv st w' v w1) : xB L y cc nL ret d lo pc lv ((.inl x : xV) :: (.inl i : xV) :: (.inr (.inr (some a)) : xV) :: st) w v w1 := by
  subst hp
  refine xB.write _ hc hc' hs' hu (fun p l e R s m args below meth c H locs k' n' Q g ls hx hb hO hw hnme hK hS kk => ?_) kk
  have h1 := (hS.2.2 a _ hc).2
  refine W.bast hx hb h1 ((hK.1.2 1 _ (xtys_at (by decide))).1 n _) (fun q => by cases q) (by rw [arrV_size]; exact xin_vp hi) rfl rfl hd fun H1 e z oq => ?_
  refine kk H1 _ ?_ z oq
  show H1[_]? = some _
  rw [e, arrV_store, narrow_byte, xcon_upd]
theorem x_last {a n : Nat} {f : Nat → Int64} {i : Int32} {x : Int64} {w' : xW} (pn : Nat) (hp : pc + 1 = pn) (hd : decode cc pc = .ok (.lastore, 1)) (hc : xcell L w a = some (.inl (2, n, .inr (.inl f)))) (hi : xin i n = true)
    (hc' : w'.2.2.2.1 = w.2.2.2.1) (hs' : w'.2.2.2.2 = w.2.2.2.2) (hu : ∀ q, xcell L w' q = if q = a then some (.inl (2, n, .inr (.inl (fun j => if j = i.toNatClampNeg then x else f j)))) else xcell L w q)
    (kk : xB L y cc nL ret d lo pn lv st w' v w1) : xB L y cc nL ret d lo pc lv ((.inr (.inl x) : xV) :: (.inl i : xV) :: (.inr (.inr (some a)) : xV) :: st) w v w1 := by
  subst hp
  refine xB.write _ hc hc' hs' hu (fun p l e R s m args below meth c H locs k' n' Q g ls hx hb hO hw hnme hK hS kk => ?_) kk
  have h1 := (hS.2.2 a _ hc).2
  refine W.last hx hb h1 ((hK.1.2 2 _ (xtys_at (by decide))).1 n _) (fun q => by cases q) (by rw [arrV_size]; exact xin_vp hi) rfl rfl hd fun H1 e z oq => ?_
  refine kk H1 _ ?_ z oq
  show H1[_]? = some _
  rw [e, arrV_store, xcon_updL]
/-- the ends -/
theorem xB.done {fv : List xV} (hv : st = fv)
    (h : ∀ (p : Program) (l : Launch) (e : Env) (R : Room) (s : State) (m : MethodId) (args : Array Value) (below : List Frame) (meth : Method) (c : Code) (H : Heap) (locs : List Loc) (k n : Nat) (g : xG) (ls : Array Slot), p.tables.exec = Jvm.exec → c.code = cc → meth.sig.returnType = ret → meth.locks = false → (∀ q ∈ locs, g.2.2.2.2.size ≤ q.base) → (∀ t : State, t.heap = H → s.WarmedH t.vm → xQ g L v w args s (.returned (v.map (xvv g))) t) →
      W p l e R s m args below meth c H locs k n (MQ below (xQ g L v w) args s k n (fun q => g.2.2.2.2.size ≤ q)) (F0 m pc ls (st.map (xvv g)))) : xB L y cc nL ret d lo pc lv st w v w := by
  refine ⟨Nat.le_refl _, Nat.le_refl _, fun p l e R s m args below meth c g k0 n0 C H locs k' n' ls h1 h2 h3 h4 h5 => ?_⟩
  have e1 : w.2.2.2.1 - k0 = k' := by omega
  have e2 : w.2.2.2.2 - n0 = n' := by omega
  rw [e1, e2]
  exact h p l e R s m args below meth c H locs k' n' g ls C.1 C.2.1 C.2.2.2.1 C.2.2.2.2.2.2.1 h4 (fun t ht hW => ⟨rfl, by rw [ht]; exact h3⟩)
theorem x_iret {a : Int32} (hr : ret = some .int) (hd : decode cc pc = .ok (.ireturn, 1)) : xB L y cc nL ret d lo pc lv [(.inl a : xV)] w (some (.inl a)) w :=
  xB.done rfl fun p l e R s m args below meth c H locs k n g ls hx hb hret hlk hloc hq => W.iret (v := a) hx hb (hret.trans hr) hq hloc hd hlk
theorem x_zret {a : Int32} (hr : ret = some .boolean) (ha : a = 0 ∨ a = 1) (hd : decode cc pc = .ok (.ireturn, 1)) : xB L y cc nL ret d lo pc lv [(.inl a : xV)] w (some (.inl a)) w :=
  xB.done rfl fun p l e R s m args below meth c H locs k n g ls hx hb hret hlk hloc hq => W.zret (v := a) hx hb (hret.trans hr) (by rcases ha with rfl | rfl <;> rfl) hq hloc hd hlk
theorem x_lret {a : Int64} (hr : ret = some .long) (hd : decode cc pc = .ok (.lreturn, 1)) : xB L y cc nL ret d lo pc lv [(.inr (.inl a) : xV)] w (some (.inr (.inl a))) w :=
  xB.done rfl fun p l e R s m args below meth c H locs k n g ls hx hb hret hlk hloc hq => W.lret (v := a) hx hb (hret.trans hr) hq hloc hd hlk
theorem x_vret (hr : ret = none) (hd : decode cc pc = .ok (.return_, 1)) : xB L y cc nL ret d lo pc lv [] w none w :=
  xB.done rfl fun p l e R s m args below meth c H locs k n g ls hx hb hret hlk hloc hq => W.vret hx hb (hret.trans hr) hq hloc hd hlk
theorem x_aret {o : Option Nat} {rt : FieldType} (hr : ret = some rt) (hrt : (∃ n, rt = .object n) ∨ ∃ t, rt = .array t) (hd : decode cc pc = .ok (.areturn, 1)) : xB L y cc nL ret d lo pc lv [(.inr (.inr o) : xV)] w (some (.inr (.inr o))) w :=
  xB.done rfl fun p l e R s m args below meth c H locs k n g ls hx hb hret hlk hloc hq => W.aret (v := va_rf (o.map (xad g))) hx hb (hret.trans hr) hrt (va_rf_or _) hq hloc hd hlk
end XH
