/-! ldc_w of a String constant -/
theorem xo_ldcWString {p : Program} {l : Launch} {e : Env} {R : Room} {s : State} {m : MethodId} {args : Array Value} {below : List Frame} {meth : Method} {c : Code} {T : State} {locs : List Loc} {cells slots : Nat}
    (X : Stand p l e R s m args below meth c T locs cells slots) (hexec : p.tables.exec = Jvm.exec) {own text : String} {index : Nat} {a : Addr} (hown : s.vm.findClass own = some m.cls)
    (hconst : (Cond.stringRef own index text).before #[] s = true) (hev : (Term.string own index).eval #[] s none [] s = some (.ref a)) {g : JFrame} (hg : g.method = m) (hdg : decode c.code g.pc = .ok (.ldc_w index, 3)) :
    ∀ target, Steps p.tables e below (T.setTop { g with pc := g.pc + 3, stack := .ref a :: g.stack }) target → Steps p.tables e below (T.setTop g) target := by
  obtain ⟨k, cf, i, a', hk, hcf, hcp, -, hr, hev'⟩ := Cond.stringRef_spec hown hconst
  cases hev.symm.trans hev'
  obtain ⟨k', hk', he⟩ := X.warmed.alike.2.2 _ _ hk
  have hr' : k'.resolved[index]? = some (some (.string a)) := by
    rcases X.warmed.entry hk hk' index with h | ⟨h, -⟩
    · rw [h]; exact hr
    · rw [hr] at h; cases h
  intro target hrest
  subst hg
  jvm_step X.here [hexec, hdg, ldc_w.wp_string (e := e) (s := T) (f := g) X.here.top hk' (by rw [he]; exact hcf) hcp hr']
  exact hrest
theorem x_ldcwS {L : xL} {y : MethodName} {cc : ByteArray} {nL : Nat} {ret : Option FieldType} {d lo pc : Nat} {lv : List (Option xV)} {st : List xV} {w : xW} {v : Option xV} {w1 : xW} {ix k : Nat} {tx : String} (pn : Nat) (hp : pc + 3 = pn) (hd : decode cc pc = .ok (.ldc_w ix, 3)) (hs : (y.cls, ix, tx, k) ∈ xlds) (hk : k < 300) (kk : xB L y cc nL ret d lo pn lv ((.inr (.inr (some k)) : xV) :: st) w v w1) : xB L y cc nL ret d lo pc lv st w v w1 := by
  subst hp
  refine xB.read (fun p l e R s m args below meth c H locs k' n' Q g ls hx hb hO hw hK hG hS kk => ?_) kk
  have e1 : g.2.2.2.1 k = xad g k := by unfold xad; rw [if_pos hk]
  have h2 := hK.2.2.1 _ hs
  rw [show g.2.2.2.1 (y.cls, ix, tx, k).2.2.2 = xad g k from e1] at h2
  intro T hT X
  obtain ⟨t, a, b⟩ := kk T hT X
  exact ⟨t, xo_ldcWString X hx (text := tx) hO h2.1 h2.2 (g := F0 m pc ls (st.map (xvv g))) rfl (by rw [hb]; exact hd) t a, b⟩
