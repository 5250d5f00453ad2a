/-! printed by mk_lam.py: the made classes of the sixteen sites -/
section LMX
variable {L : xL} {y : MethodName} {cc : ByteArray} {nL : Nat} {ret : Option FieldType} {d lo pc : Nat} {lv : List (Option xV)} {st : List xV} {w : xW} {v : Option xV} {w1 : xW}
/-- behind an interface's call -/
theorem xB.run5 {rest : List xV} {vv : Option xV} {w2 : xW} {a : xG → Array Value} (hc1 : w.2.2.2.1 ≤ w2.2.2.2.1) (hc2 : w.2.2.2.2 ≤ w2.2.2.2.2)
    (h : ∀ (p : Program) (l : Launch) (e : Env) (R : Room) (s : State) (m : MethodId) (args : Array Value) (below : List Frame) (meth : Method) (c : Code) (H : Heap) (locs : List Loc) (k n : Nat) (g : xG) (ls : Array Slot), p.tables.exec = Jvm.exec → c.code = cc → c.maxLocals = nL → s.vm.findClass y.cls = some m.cls → (∀ w ∈ lw_all, w.before args s = true) → xKf g s → xGok l g → R.frames = d → R.locals = lo → k + (w2.2.2.2.1 - w.2.2.2.1) ≤ R.cells → n + (w2.2.2.2.2 - w.2.2.2.2) ≤ R.slots → xSim g L w H → lv_has ls nL (xls g lv) →
      va_Run5 p l e R s m args below meth c H locs k n (w2.2.2.2.1 - w.2.2.2.1) (w2.2.2.2.2 - w.2.2.2.2) (F0 m pc ls (st.map (xvv g))) (rest.map (xvv g)) (xQ g L vv w2 (a g)) (fun q => g.2.2.2.2.size ≤ q))
    (kk : xB L y cc nL ret d lo (pc + 5) lv (vv.toList ++ rest) w2 v w1) : xB L y cc nL ret d lo pc lv st w v w1 := by
  refine ⟨Nat.le_trans hc1 kk.1, Nat.le_trans hc2 kk.2.1, fun p l e R s m args below meth c g k0 n0 C H locs k n ls h1 h2 h3 h4 h5 => ?_⟩
  obtain ⟨hx, hb, hml, hret, hO, hw, hlk, hnm, hK, hG, hRf, hRl, hRc, hRs⟩ := C
  have k1 := kk.1
  have k2 := kk.2.1
  have hr := h p l e R s m args below meth c H locs k n g ls hx hb hml hO hw hK hG hRf hRl (by rw [hRc]; omega) (by rw [hRs]; omega) h3 h5
  intro T hT X
  obtain ⟨u, st₀, t, T', L2, e0, X', hL, e1, e2, ⟨hv, hS⟩, stp⟩ := hr T hT X
  cases hv
  have hS' : xSim g L w2 T'.heap := by rw [e1]; exact hS
  have hk := kk.2.2 p l e R s m args below meth c g k0 n0 ⟨hx, hb, hml, hret, hO, hw, hlk, hnm, hK, hG, hRf, hRl, hRc, hRs⟩ T'.heap (locs ++ L2) (k + (w2.2.2.2.1 - w.2.2.2.1)) (n + (w2.2.2.2.2 - w.2.2.2.2)) ls (by omega) (by omega) hS' (fun q hq => by
    rcases List.mem_append.mp hq with q1 | q1
    · exact h4 q q1
    · exact hL q q1) h5 T' rfl X'
  obtain ⟨t2, a1, b1⟩ := hk
  refine ⟨t2, stp t2 ?_, b1⟩
  have es : List.map (xvv g) (vv.toList ++ rest) = (vv.map (xvv g)).toList ++ rest.map (xvv g) := by cases vv <;> simp
  rw [es] at a1
  exact a1
/-- what is known of site k: nm: the interface's method, y2: the target -/
def lm_site (k : Nat) (σ : Lambda.Shape) (nm y2 : MethodName) (bytes : ByteArray) (ml mi : Nat) (fs : List (Nat × Nat × String × String)) : Prop :=
  (∃ x0 pc0 i0, siteWords_1[k]? = some (.lambdaSite x0 pc0 i0 σ) ∧ x0.cls = "UnimodularTables") ∧ (∃ mc mn ms, lm_ok σ bytes ml mi mc mn ms fs) ∧ σ.implItf = false ∧ y2 = ⟨"UnimodularTables", σ.implName, σ.implDesc.toString⟩ ∧ nm = ⟨σ.iface, σ.name, σ.sam.toString⟩ ∧ nm ∈ xfms ∧ parseMethodDescriptor σ.sam.toString = some σ.sam ∧ k < 16
theorem x_lam {σ : Lambda.Shape} {nm y2 : MethodName} {bytes : ByteArray} {ml mi k ix cnt a d2 lo2 : Nat} {fs : List (Nat × Nat × String × String)} {caps as rest : List xV} {vv : Option xV} {w2 : xW} (pn : Nat) (hp : pc + 5 = pn) (hd : decode cc pc = .ok (.invokeinterface ix cnt, 5)) (hs : lm_site k σ nm y2 bytes ml mi fs)
    (hcore : lm_W L σ mi fs (fun U t => U.methodNamed? y2 = some t) bytes ml caps as d2 lo2 w vv w2) (hc : xRd L w a (.inr (.inr (k, caps)))) (hc2 : ∃ b n r, Cond.code y2 b n r ∈ lw_all) (hlink : Cond.methodLink y.cls ix nm ∈ lw_all) (hna : as.length = σ.sam.parameters.length)
    (hroom : d2 + 1 ≤ d ∧ 8 + (ml + 11) + lo2 ≤ lo) (hr : (rest.map xw).sum ≤ 8) (hst : st = as.reverse ++ (.inr (.inr (some a)) : xV) :: rest) (kk : xB L y cc nL ret d lo pn lv (vv.toList ++ rest) w2 v w1) : xB L y cc nL ret d lo pc lv st w v w1 := by
  subst hp; subst hst
  obtain ⟨⟨x0, pc0, i0, s1, s2⟩, ⟨mc, mn, ms, s3⟩, s4, s5, s6, s7, s8, s9⟩ := hs
  subst s6
  exact xB.run5 (a := fun _ => #[]) hcore.1 hcore.2.1 (fun p l e R s m args below meth c H locs k n g ls hx hb hml hO hw hK hGk hRf hRl hRc hRs hS hl =>
    lm_run hcore s1 s9 s2 s3 s4 s5 hc2 s7 hlink hna s8 hx hb (hl.1.trans hml.symm) hO hw (fun w0 h0 => (lw_self w0 h0).2) hK hGk hS (hc.at hGk hS) ⟨by rw [hRf]; exact hroom.1, by rw [hRl]; exact hroom.2⟩ ⟨hRc, hRs⟩ hr hd) kk
end LMX
def lmb_T : ByteArray := ⟨#[0x2b, 0x1c, 0x1d, 0xb8, 0x00, 0x11, 0xb0]⟩
theorem lmd_T_0 : decode lmb_T 0 = .ok (.aload_n 1, 1) := by decide +kernel
theorem lmd_T_1 : decode lmb_T 1 = .ok (.iload_n 2, 1) := by decide +kernel
theorem lmd_T_2 : decode lmb_T 2 = .ok (.iload_n 3, 1) := by decide +kernel
theorem lmd_T_3 : decode lmb_T 3 = .ok (.invokestatic 17, 3) := by decide +kernel
theorem lmd_T_6 : decode lmb_T 6 = .ok (.areturn, 1) := by decide +kernel
theorem lm_T {L : xL} {σ : Lambda.Shape} {y2 : MethodName} {cc2 : ByteArray} {nL2 d lo d2 lo2 : Nat} {w w2 : xW} {z0 : Nat} {z1 : Int32} {z2 : Int32} {o : Option Nat} {rt : FieldType} (hct : xCt L y2 cc2 nL2 (some rt) d2 lo2 [(.inr (.inr (some z0)) : xV), (.inl z1 : xV), (.inl z2 : xV)] w (some (.inr (.inr o))) w2) (hcode : Cond.code y2 cc2 nL2 (some rt) ∈ lw_all) (hst : Cond.static y2 ∈ lw_all) (hini : Cond.initialized y2.cls ∈ lw_all) (hcls : y2.cls = "UnimodularTables") (hy2 : xHd y2 3) (hsr : σ.sam.returnType = (some rt)) (hrt : (∃ n, rt = .object n) ∨ ∃ t, rt = .array t) (hroom : d2 + 1 ≤ d ∧ 8 + (nL2 + 11) + lo2 ≤ lo) :
    lm_W L σ 17 [] (fun U t => U.methodNamed? y2 = some t) lmb_T 4 [] [(.inr (.inr (some z0)) : xV), (.inl z1 : xV), (.inl z2 : xV)] d lo w (some (.inr (.inr o))) w2 := by
  refine ⟨hct.1, hct.2.1, ?_⟩
  intro p l e R s m below meth c H g ad tt hx hb hml hret hlk hG hK hw hS hI hn hcell hRf hRl hRc hRs
  have hloc : entryFrame m (Value.ref ad :: ([(.inr (.inr (some z0)) : xV), (.inl z1 : xV), (.inl z2 : xV)] : List xV).map (xvv g)).toArray c.maxLocals = F0 m 0 #[.val (.ref ad), .val (.ref (xad g z0)), .val (.int z1), .val (.int z2)] [] := by rw [hml]; rfl
  rw [hloc]
  refine lv_aload_n hx hb lmd_T_0 (i := 1) rfl rfl ?_
  refine lv_iload_n hx hb lmd_T_1 (i := 2) rfl rfl ?_
  refine lv_iload_n hx hb lmd_T_2 (i := 3) rfl rfl ?_
  refine lm_callS (as := [(.inr (.inr (some z0)) : xV), (.inl z1 : xV), (.inl z2 : xV)]) (rest := []) hct hG hK hw hS hI hn hx hb (by rw [hml]; rfl) (lw_meth hcode) hst hini hcls hy2 rfl ⟨by rw [hRf]; exact hroom.1, by rw [hRl]; exact hroom.2⟩ ⟨by rw [hRc, Nat.zero_add]; exact Nat.le_refl _, by rw [hRs, Nat.zero_add]; exact Nat.le_refl _⟩ (Nat.zero_le _) lmd_T_3 fun H2 L2 hS2 hL2 => ?_
  simp only [Nat.zero_add, List.nil_append]
  exact W.aret (v := va_rf (o.map (xad g))) hx hb (hret.trans hsr) hrt (va_rf_or _) (fun t ht _ => ⟨rfl, by rw [ht]; exact hS2⟩) hL2 lmd_T_6 hlk
def lmb_U : ByteArray := ⟨#[0x2a, 0xb4, 0x00, 0x0f, 0x2b, 0x1c, 0x1d, 0xb8, 0x00, 0x17, 0xb0]⟩
theorem lmd_U_0 : decode lmb_U 0 = .ok (.aload_n 0, 1) := by decide +kernel
theorem lmd_U_1 : decode lmb_U 1 = .ok (.getfield 15, 3) := by decide +kernel
theorem lmd_U_4 : decode lmb_U 4 = .ok (.aload_n 1, 1) := by decide +kernel
theorem lmd_U_5 : decode lmb_U 5 = .ok (.iload_n 2, 1) := by decide +kernel
theorem lmd_U_6 : decode lmb_U 6 = .ok (.iload_n 3, 1) := by decide +kernel
theorem lmd_U_7 : decode lmb_U 7 = .ok (.invokestatic 23, 3) := by decide +kernel
theorem lmd_U_10 : decode lmb_U 10 = .ok (.areturn, 1) := by decide +kernel
theorem lm_U {L : xL} {σ : Lambda.Shape} {y2 : MethodName} {cc2 : ByteArray} {nL2 d lo d2 lo2 : Nat} {w w2 : xW} {z0 : Nat} {z1 : Nat} {z2 : Int32} {z3 : Int32} {o : Option Nat} {rt : FieldType} {f0 : Nat × String × String} (hct : xCt L y2 cc2 nL2 (some rt) d2 lo2 [(.inr (.inr (some z0)) : xV), (.inr (.inr (some z1)) : xV), (.inl z2 : xV), (.inl z3 : xV)] w (some (.inr (.inr o))) w2) (hcode : Cond.code y2 cc2 nL2 (some rt) ∈ lw_all) (hst : Cond.static y2 ∈ lw_all) (hini : Cond.initialized y2.cls ∈ lw_all) (hcls : y2.cls = "UnimodularTables") (hy2 : xHd y2 4) (hsr : σ.sam.returnType = (some rt)) (hrt : (∃ n, rt = .object n) ∨ ∃ t, rt = .array t) (hroom : d2 + 1 ≤ d ∧ 8 + (nL2 + 11) + lo2 ≤ lo) :
    lm_W L σ 23 [(15, f0)] (fun U t => U.methodNamed? y2 = some t) lmb_U 4 [(.inr (.inr (some z0)) : xV)] [(.inr (.inr (some z1)) : xV), (.inl z2 : xV), (.inl z3 : xV)] d lo w (some (.inr (.inr o))) w2 := by
  refine ⟨hct.1, hct.2.1, ?_⟩
  intro p l e R s m below meth c H g ad tt hx hb hml hret hlk hG hK hw hS hI hn hcell hRf hRl hRc hRs
  have hloc : entryFrame m (Value.ref ad :: ([(.inr (.inr (some z1)) : xV), (.inl z2 : xV), (.inl z3 : xV)] : List xV).map (xvv g)).toArray c.maxLocals = F0 m 0 #[.val (.ref ad), .val (.ref (xad g z1)), .val (.int z2), .val (.int z3)] [] := by rw [hml]; rfl
  rw [hloc]
  refine lv_aload_n hx hb lmd_U_0 (i := 0) rfl rfl ?_
  refine lm_getf (i := 0) hI rfl hx hb hcell (by intro h; cases h) rfl lmd_U_1 ?_
  refine lv_aload_n hx hb lmd_U_4 (i := 1) rfl rfl ?_
  refine lv_iload_n hx hb lmd_U_5 (i := 2) rfl rfl ?_
  refine lv_iload_n hx hb lmd_U_6 (i := 3) rfl rfl ?_
  refine lm_callS (as := [(.inr (.inr (some z0)) : xV), (.inr (.inr (some z1)) : xV), (.inl z2 : xV), (.inl z3 : xV)]) (rest := []) hct hG hK hw hS hI hn hx hb (by rw [hml]; rfl) (lw_meth hcode) hst hini hcls hy2 rfl ⟨by rw [hRf]; exact hroom.1, by rw [hRl]; exact hroom.2⟩ ⟨by rw [hRc, Nat.zero_add]; exact Nat.le_refl _, by rw [hRs, Nat.zero_add]; exact Nat.le_refl _⟩ (Nat.zero_le _) lmd_U_7 fun H2 L2 hS2 hL2 => ?_
  simp only [Nat.zero_add, List.nil_append]
  exact W.aret (v := va_rf (o.map (xad g))) hx hb (hret.trans hsr) hrt (va_rf_or _) (fun t ht _ => ⟨rfl, by rw [ht]; exact hS2⟩) hL2 lmd_U_10 hlk
def lmb_P : ByteArray := ⟨#[0x1b, 0xb8, 0x00, 0x11, 0xac]⟩
theorem lmd_P_0 : decode lmb_P 0 = .ok (.iload_n 1, 1) := by decide +kernel
theorem lmd_P_1 : decode lmb_P 1 = .ok (.invokestatic 17, 3) := by decide +kernel
theorem lmd_P_4 : decode lmb_P 4 = .ok (.ireturn, 1) := by decide +kernel
theorem lm_P {L : xL} {σ : Lambda.Shape} {y2 : MethodName} {cc2 : ByteArray} {nL2 d lo d2 lo2 : Nat} {w w2 : xW} {z0 : Int32} {q : Int32} (hct : xCt L y2 cc2 nL2 (some .boolean) d2 lo2 [(.inl z0 : xV)] w (some (.inl q)) w2) (hcode : Cond.code y2 cc2 nL2 (some .boolean) ∈ lw_all) (hst : Cond.static y2 ∈ lw_all) (hini : Cond.initialized y2.cls ∈ lw_all) (hcls : y2.cls = "UnimodularTables") (hy2 : xHd y2 1) (hsr : σ.sam.returnType = (some .boolean)) (hq : q = 0 ∨ q = 1) (hroom : d2 + 1 ≤ d ∧ 8 + (nL2 + 11) + lo2 ≤ lo) :
    lm_W L σ 17 [] (fun U t => U.methodNamed? y2 = some t) lmb_P 2 [] [(.inl z0 : xV)] d lo w (some (.inl q)) w2 := by
  refine ⟨hct.1, hct.2.1, ?_⟩
  intro p l e R s m below meth c H g ad tt hx hb hml hret hlk hG hK hw hS hI hn hcell hRf hRl hRc hRs
  have hloc : entryFrame m (Value.ref ad :: ([(.inl z0 : xV)] : List xV).map (xvv g)).toArray c.maxLocals = F0 m 0 #[.val (.ref ad), .val (.int z0)] [] := by rw [hml]; rfl
  rw [hloc]
  refine lv_iload_n hx hb lmd_P_0 (i := 1) rfl rfl ?_
  refine lm_callS (as := [(.inl z0 : xV)]) (rest := []) hct hG hK hw hS hI hn hx hb (by rw [hml]; rfl) (lw_meth hcode) hst hini hcls hy2 rfl ⟨by rw [hRf]; exact hroom.1, by rw [hRl]; exact hroom.2⟩ ⟨by rw [hRc, Nat.zero_add]; exact Nat.le_refl _, by rw [hRs, Nat.zero_add]; exact Nat.le_refl _⟩ (Nat.zero_le _) lmd_P_1 fun H2 L2 hS2 hL2 => ?_
  simp only [Nat.zero_add, List.nil_append]
  exact W.zret (v := q) hx hb (hret.trans hsr) (by rcases hq with rfl | rfl <;> rfl) (fun t ht _ => ⟨rfl, by rw [ht]; exact hS2⟩) hL2 lmd_P_4 hlk
def lmb_Q : ByteArray := ⟨#[0x2a, 0xb4, 0x00, 0x0f, 0x1b, 0xb8, 0x00, 0x17, 0xac]⟩
theorem lmd_Q_0 : decode lmb_Q 0 = .ok (.aload_n 0, 1) := by decide +kernel
theorem lmd_Q_1 : decode lmb_Q 1 = .ok (.getfield 15, 3) := by decide +kernel
theorem lmd_Q_4 : decode lmb_Q 4 = .ok (.iload_n 1, 1) := by decide +kernel
theorem lmd_Q_5 : decode lmb_Q 5 = .ok (.invokestatic 23, 3) := by decide +kernel
theorem lmd_Q_8 : decode lmb_Q 8 = .ok (.ireturn, 1) := by decide +kernel
theorem lm_Q {L : xL} {σ : Lambda.Shape} {y2 : MethodName} {cc2 : ByteArray} {nL2 d lo d2 lo2 : Nat} {w w2 : xW} {z0 : Int32} {z1 : Int32} {q : Int32} {f0 : Nat × String × String} (hct : xCt L y2 cc2 nL2 (some .boolean) d2 lo2 [(.inl z0 : xV), (.inl z1 : xV)] w (some (.inl q)) w2) (hcode : Cond.code y2 cc2 nL2 (some .boolean) ∈ lw_all) (hst : Cond.static y2 ∈ lw_all) (hini : Cond.initialized y2.cls ∈ lw_all) (hcls : y2.cls = "UnimodularTables") (hy2 : xHd y2 2) (hsr : σ.sam.returnType = (some .boolean)) (hq : q = 0 ∨ q = 1) (hroom : d2 + 1 ≤ d ∧ 8 + (nL2 + 11) + lo2 ≤ lo) :
    lm_W L σ 23 [(15, f0)] (fun U t => U.methodNamed? y2 = some t) lmb_Q 2 [(.inl z0 : xV)] [(.inl z1 : xV)] d lo w (some (.inl q)) w2 := by
  refine ⟨hct.1, hct.2.1, ?_⟩
  intro p l e R s m below meth c H g ad tt hx hb hml hret hlk hG hK hw hS hI hn hcell hRf hRl hRc hRs
  have hloc : entryFrame m (Value.ref ad :: ([(.inl z1 : xV)] : List xV).map (xvv g)).toArray c.maxLocals = F0 m 0 #[.val (.ref ad), .val (.int z1)] [] := by rw [hml]; rfl
  rw [hloc]
  refine lv_aload_n hx hb lmd_Q_0 (i := 0) rfl rfl ?_
  refine lm_getf (i := 0) hI rfl hx hb hcell (by intro h; cases h) rfl lmd_Q_1 ?_
  refine lv_iload_n hx hb lmd_Q_4 (i := 1) rfl rfl ?_
  refine lm_callS (as := [(.inl z0 : xV), (.inl z1 : xV)]) (rest := []) hct hG hK hw hS hI hn hx hb (by rw [hml]; rfl) (lw_meth hcode) hst hini hcls hy2 rfl ⟨by rw [hRf]; exact hroom.1, by rw [hRl]; exact hroom.2⟩ ⟨by rw [hRc, Nat.zero_add]; exact Nat.le_refl _, by rw [hRs, Nat.zero_add]; exact Nat.le_refl _⟩ (Nat.zero_le _) lmd_Q_5 fun H2 L2 hS2 hL2 => ?_
  simp only [Nat.zero_add, List.nil_append]
  exact W.zret (v := q) hx hb (hret.trans hsr) (by rcases hq with rfl | rfl <;> rfl) (fun t ht _ => ⟨rfl, by rw [ht]; exact hS2⟩) hL2 lmd_Q_8 hlk
def lmb_B : ByteArray := ⟨#[0x2a, 0xb4, 0x00, 0x15, 0x2a, 0xb4, 0x00, 0x17, 0x2a, 0xb4, 0x00, 0x19, 0x2a, 0xb4, 0x00, 0x1b, 0x2a, 0xb4, 0x00, 0x1d, 0xb6, 0x00, 0x24, 0xb1]⟩
theorem lmd_B_0 : decode lmb_B 0 = .ok (.aload_n 0, 1) := by decide +kernel
theorem lmd_B_1 : decode lmb_B 1 = .ok (.getfield 21, 3) := by decide +kernel
theorem lmd_B_4 : decode lmb_B 4 = .ok (.aload_n 0, 1) := by decide +kernel
theorem lmd_B_5 : decode lmb_B 5 = .ok (.getfield 23, 3) := by decide +kernel
theorem lmd_B_8 : decode lmb_B 8 = .ok (.aload_n 0, 1) := by decide +kernel
theorem lmd_B_9 : decode lmb_B 9 = .ok (.getfield 25, 3) := by decide +kernel
theorem lmd_B_12 : decode lmb_B 12 = .ok (.aload_n 0, 1) := by decide +kernel
theorem lmd_B_13 : decode lmb_B 13 = .ok (.getfield 27, 3) := by decide +kernel
theorem lmd_B_16 : decode lmb_B 16 = .ok (.aload_n 0, 1) := by decide +kernel
theorem lmd_B_17 : decode lmb_B 17 = .ok (.getfield 29, 3) := by decide +kernel
theorem lmd_B_20 : decode lmb_B 20 = .ok (.invokevirtual 36, 3) := by decide +kernel
theorem lmd_B_23 : decode lmb_B 23 = .ok (.return_, 1) := by decide +kernel
theorem lm_B {L : xL} {σ : Lambda.Shape} {y2 : MethodName} {cc2 : ByteArray} {nL2 d lo d2 lo2 : Nat} {w w2 : xW} {z0 : Nat} {z1 : Nat} {z2 : Int32} {z3 : Int32} {z4 : Int32} {f0 : Nat × String × String} {f1 : Nat × String × String} {f2 : Nat × String × String} {f3 : Nat × String × String} {f4 : Nat × String × String} (hct : xCt L y2 cc2 nL2 none d2 lo2 ((.inr (.inr (some z0)) : xV) :: [(.inr (.inr (some z1)) : xV), (.inl z2 : xV), (.inl z3 : xV), (.inl z4 : xV)]) w none w2) (hcode : Cond.code y2 cc2 nL2 none ∈ lw_all) (hst : Cond.instanceMethod y2 ∈ lw_all) (hse : Cond.selects "UnimodularTables" y2 y2 ∈ lw_all) (hB : ∃ V, xRd L w z0 (.inr (.inl (0, V)))) (hini : Cond.initialized y2.cls ∈ lw_all) (hcls : y2.cls = "UnimodularTables") (hy2 : xHd y2 4) (hsr : σ.sam.returnType = none) (hroom : d2 + 1 ≤ d ∧ 8 + (nL2 + 11) + lo2 ≤ lo) :
    lm_W L σ 36 [(21, f0), (23, f1), (25, f2), (27, f3), (29, f4)] (fun U t => U.methodNamed? y2 = some t) lmb_B 1 [(.inr (.inr (some z0)) : xV), (.inr (.inr (some z1)) : xV), (.inl z2 : xV), (.inl z3 : xV), (.inl z4 : xV)] [] d lo w none w2 := by
  refine ⟨hct.1, hct.2.1, ?_⟩
  intro p l e R s m below meth c H g ad tt hx hb hml hret hlk hG hK hw hS hI hn hcell hRf hRl hRc hRs
  have hloc : entryFrame m (Value.ref ad :: ([] : List xV).map (xvv g)).toArray c.maxLocals = F0 m 0 #[.val (.ref ad)] [] := by rw [hml]; rfl
  rw [hloc]
  obtain ⟨V, hV⟩ := hB
  obtain ⟨rc, hr1, cellB, e1, e2, e3, e4⟩ := hV.at hG hS
  have hfc := (hK.1.1 0 _ hr1).2.1
  have hr2 : rc.1 = "UnimodularTables" := by cases Option.some.inj hr1; rfl
  refine lv_aload_n hx hb lmd_B_0 (i := 0) rfl rfl ?_
  refine lm_getf (i := 0) hI rfl hx hb hcell (by intro h; cases h) rfl lmd_B_1 ?_
  refine lv_aload_n hx hb lmd_B_4 (i := 0) rfl rfl ?_
  refine lm_getf (i := 1) hI rfl hx hb hcell (by intro h; cases h) rfl lmd_B_5 ?_
  refine lv_aload_n hx hb lmd_B_8 (i := 0) rfl rfl ?_
  refine lm_getf (i := 2) hI rfl hx hb hcell (by intro h; cases h) rfl lmd_B_9 ?_
  refine lv_aload_n hx hb lmd_B_12 (i := 0) rfl rfl ?_
  refine lm_getf (i := 3) hI rfl hx hb hcell (by intro h; cases h) rfl lmd_B_13 ?_
  refine lv_aload_n hx hb lmd_B_16 (i := 0) rfl rfl ?_
  refine lm_getf (i := 4) hI rfl hx hb hcell (by intro h; cases h) rfl lmd_B_17 ?_
  refine lm_callV (b := z0) (as := [(.inr (.inr (some z1)) : xV), (.inl z2 : xV), (.inl z3 : xV), (.inl z4 : xV)]) (rest := []) hct hG hK hw hS hI hn hx hb (by rw [hml]; rfl) e1 e3 (by rw [e2, ← hr2]; exact hfc) (lw_meth hcode) hst hse hini hcls hy2 rfl ⟨by rw [hRf]; exact hroom.1, by rw [hRl]; exact hroom.2⟩ ⟨by rw [hRc, Nat.zero_add]; exact Nat.le_refl _, by rw [hRs, Nat.zero_add]; exact Nat.le_refl _⟩ (Nat.zero_le _) lmd_B_20 fun H2 L2 hS2 hL2 => ?_
  simp only [Nat.zero_add, List.nil_append]
  exact W.vret hx hb (hret.trans hsr) (fun t ht _ => ⟨rfl, by rw [ht]; exact hS2⟩) hL2 lmd_B_23 hlk
def lmb_C : ByteArray := ⟨#[0x2a, 0xb4, 0x00, 0x11, 0x2a, 0xb4, 0x00, 0x13, 0xb6, 0x00, 0x1a, 0xb1]⟩
theorem lmd_C_0 : decode lmb_C 0 = .ok (.aload_n 0, 1) := by decide +kernel
theorem lmd_C_1 : decode lmb_C 1 = .ok (.getfield 17, 3) := by decide +kernel
theorem lmd_C_4 : decode lmb_C 4 = .ok (.aload_n 0, 1) := by decide +kernel
theorem lmd_C_5 : decode lmb_C 5 = .ok (.getfield 19, 3) := by decide +kernel
theorem lmd_C_8 : decode lmb_C 8 = .ok (.invokevirtual 26, 3) := by decide +kernel
theorem lmd_C_11 : decode lmb_C 11 = .ok (.return_, 1) := by decide +kernel
theorem lm_C {L : xL} {σ : Lambda.Shape} {y2 : MethodName} {cc2 : ByteArray} {nL2 d lo d2 lo2 : Nat} {w w2 : xW} {z0 : Nat} {z1 : Nat} {f0 : Nat × String × String} {f1 : Nat × String × String} (hct : xCt L y2 cc2 nL2 none d2 lo2 ((.inr (.inr (some z0)) : xV) :: [(.inr (.inr (some z1)) : xV)]) w none w2) (hcode : Cond.code y2 cc2 nL2 none ∈ lw_all) (hst : Cond.instanceMethod y2 ∈ lw_all) (hse : Cond.selects "UnimodularTables" y2 y2 ∈ lw_all) (hB : ∃ V, xRd L w z0 (.inr (.inl (0, V)))) (hini : Cond.initialized y2.cls ∈ lw_all) (hcls : y2.cls = "UnimodularTables") (hy2 : xHd y2 1) (hsr : σ.sam.returnType = none) (hroom : d2 + 1 ≤ d ∧ 8 + (nL2 + 11) + lo2 ≤ lo) :
    lm_W L σ 26 [(17, f0), (19, f1)] (fun U t => U.methodNamed? y2 = some t) lmb_C 1 [(.inr (.inr (some z0)) : xV), (.inr (.inr (some z1)) : xV)] [] d lo w none w2 := by
  refine ⟨hct.1, hct.2.1, ?_⟩
  intro p l e R s m below meth c H g ad tt hx hb hml hret hlk hG hK hw hS hI hn hcell hRf hRl hRc hRs
  have hloc : entryFrame m (Value.ref ad :: ([] : List xV).map (xvv g)).toArray c.maxLocals = F0 m 0 #[.val (.ref ad)] [] := by rw [hml]; rfl
  rw [hloc]
  obtain ⟨V, hV⟩ := hB
  obtain ⟨rc, hr1, cellB, e1, e2, e3, e4⟩ := hV.at hG hS
  have hfc := (hK.1.1 0 _ hr1).2.1
  have hr2 : rc.1 = "UnimodularTables" := by cases Option.some.inj hr1; rfl
  refine lv_aload_n hx hb lmd_C_0 (i := 0) rfl rfl ?_
  refine lm_getf (i := 0) hI rfl hx hb hcell (by intro h; cases h) rfl lmd_C_1 ?_
  refine lv_aload_n hx hb lmd_C_4 (i := 0) rfl rfl ?_
  refine lm_getf (i := 1) hI rfl hx hb hcell (by intro h; cases h) rfl lmd_C_5 ?_
  refine lm_callV (b := z0) (as := [(.inr (.inr (some z1)) : xV)]) (rest := []) hct hG hK hw hS hI hn hx hb (by rw [hml]; rfl) e1 e3 (by rw [e2, ← hr2]; exact hfc) (lw_meth hcode) hst hse hini hcls hy2 rfl ⟨by rw [hRf]; exact hroom.1, by rw [hRl]; exact hroom.2⟩ ⟨by rw [hRc, Nat.zero_add]; exact Nat.le_refl _, by rw [hRs, Nat.zero_add]; exact Nat.le_refl _⟩ (Nat.zero_le _) lmd_C_8 fun H2 L2 hS2 hL2 => ?_
  simp only [Nat.zero_add, List.nil_append]
  exact W.vret hx hb (hret.trans hsr) (fun t ht _ => ⟨rfl, by rw [ht]; exact hS2⟩) hL2 lmd_C_11 hlk
def lms_0 : Lambda.Shape := ({ iface := "UnimodularTables$Turner", name := "of", sam := ({ parameters := [(Jvm.ClassFile.FieldType.object "UnimodularTables$Table"), Jvm.ClassFile.FieldType.int, Jvm.ClassFile.FieldType.int], returnType := (Option.some (Jvm.ClassFile.FieldType.object "UnimodularTables$Table")) } : Jvm.ClassFile.MethodDescriptor), captured := [], kind := 6, implClass := "UnimodularTables", implName := "rowNegated", implDesc := ({ parameters := [(Jvm.ClassFile.FieldType.object "UnimodularTables$Table"), Jvm.ClassFile.FieldType.int, Jvm.ClassFile.FieldType.int], returnType := (Option.some (Jvm.ClassFile.FieldType.object "UnimodularTables$Table")) } : Jvm.ClassFile.MethodDescriptor), implItf := false, inst := ({ parameters := [(Jvm.ClassFile.FieldType.object "UnimodularTables$Table"), Jvm.ClassFile.FieldType.int, Jvm.ClassFile.FieldType.int], returnType := (Option.some (Jvm.ClassFile.FieldType.object "UnimodularTables$Table")) } : Jvm.ClassFile.MethodDescriptor) } : Jvm.Lambda.Shape)
theorem lmk_0 : lm_ok lms_0 lmb_T 4 17 14 16 13 [] := ⟨by decide +kernel, by decide +kernel, by decide +kernel, by decide +kernel, by decide +kernel, by decide +kernel, by decide +kernel, by decide +kernel, by decide +kernel, by decide +kernel⟩
theorem lmt_0 : lm_site 0 lms_0 ⟨"UnimodularTables$Turner", "of", "(LUnimodularTables$Table;II)LUnimodularTables$Table;"⟩ yX1_rowNegated lmb_T 4 17 [] := ⟨⟨_, _, _, rfl, rfl⟩, ⟨_, _, _, lmk_0⟩, rfl, by decide +kernel, by decide +kernel, by decide +kernel, by decide +kernel, by decide⟩
def lms_1 : Lambda.Shape := ({ iface := "UnimodularTables$Turner", name := "of", sam := ({ parameters := [(Jvm.ClassFile.FieldType.object "UnimodularTables$Table"), Jvm.ClassFile.FieldType.int, Jvm.ClassFile.FieldType.int], returnType := (Option.some (Jvm.ClassFile.FieldType.object "UnimodularTables$Table")) } : Jvm.ClassFile.MethodDescriptor), captured := [], kind := 6, implClass := "UnimodularTables", implName := "rowsChanged", implDesc := ({ parameters := [(Jvm.ClassFile.FieldType.object "UnimodularTables$Table"), Jvm.ClassFile.FieldType.int, Jvm.ClassFile.FieldType.int], returnType := (Option.some (Jvm.ClassFile.FieldType.object "UnimodularTables$Table")) } : Jvm.ClassFile.MethodDescriptor), implItf := false, inst := ({ parameters := [(Jvm.ClassFile.FieldType.object "UnimodularTables$Table"), Jvm.ClassFile.FieldType.int, Jvm.ClassFile.FieldType.int], returnType := (Option.some (Jvm.ClassFile.FieldType.object "UnimodularTables$Table")) } : Jvm.ClassFile.MethodDescriptor) } : Jvm.Lambda.Shape)
theorem lmk_1 : lm_ok lms_1 lmb_T 4 17 14 16 13 [] := ⟨by decide +kernel, by decide +kernel, by decide +kernel, by decide +kernel, by decide +kernel, by decide +kernel, by decide +kernel, by decide +kernel, by decide +kernel, by decide +kernel⟩
theorem lmt_1 : lm_site 1 lms_1 ⟨"UnimodularTables$Turner", "of", "(LUnimodularTables$Table;II)LUnimodularTables$Table;"⟩ yX1_rowsChanged lmb_T 4 17 [] := ⟨⟨_, _, _, rfl, rfl⟩, ⟨_, _, _, lmk_1⟩, rfl, by decide +kernel, by decide +kernel, by decide +kernel, by decide +kernel, by decide⟩
def lms_2 : Lambda.Shape := ({ iface := "UnimodularTables$Turner", name := "of", sam := ({ parameters := [(Jvm.ClassFile.FieldType.object "UnimodularTables$Table"), Jvm.ClassFile.FieldType.int, Jvm.ClassFile.FieldType.int], returnType := (Option.some (Jvm.ClassFile.FieldType.object "UnimodularTables$Table")) } : Jvm.ClassFile.MethodDescriptor), captured := [], kind := 6, implClass := "UnimodularTables", implName := "rowDropped", implDesc := ({ parameters := [(Jvm.ClassFile.FieldType.object "UnimodularTables$Table"), Jvm.ClassFile.FieldType.int, Jvm.ClassFile.FieldType.int], returnType := (Option.some (Jvm.ClassFile.FieldType.object "UnimodularTables$Table")) } : Jvm.ClassFile.MethodDescriptor), implItf := false, inst := ({ parameters := [(Jvm.ClassFile.FieldType.object "UnimodularTables$Table"), Jvm.ClassFile.FieldType.int, Jvm.ClassFile.FieldType.int], returnType := (Option.some (Jvm.ClassFile.FieldType.object "UnimodularTables$Table")) } : Jvm.ClassFile.MethodDescriptor) } : Jvm.Lambda.Shape)
theorem lmk_2 : lm_ok lms_2 lmb_T 4 17 14 16 13 [] := ⟨by decide +kernel, by decide +kernel, by decide +kernel, by decide +kernel, by decide +kernel, by decide +kernel, by decide +kernel, by decide +kernel, by decide +kernel, by decide +kernel⟩
theorem lmt_2 : lm_site 2 lms_2 ⟨"UnimodularTables$Turner", "of", "(LUnimodularTables$Table;II)LUnimodularTables$Table;"⟩ yX1_rowDropped lmb_T 4 17 [] := ⟨⟨_, _, _, rfl, rfl⟩, ⟨_, _, _, lmk_2⟩, rfl, by decide +kernel, by decide +kernel, by decide +kernel, by decide +kernel, by decide⟩
def lms_3 : Lambda.Shape := ({ iface := "UnimodularTables$Turner", name := "of", sam := ({ parameters := [(Jvm.ClassFile.FieldType.object "UnimodularTables$Table"), Jvm.ClassFile.FieldType.int, Jvm.ClassFile.FieldType.int], returnType := (Option.some (Jvm.ClassFile.FieldType.object "UnimodularTables$Table")) } : Jvm.ClassFile.MethodDescriptor), captured := [(Jvm.ClassFile.FieldType.object "UnimodularTables$Turner")], kind := 6, implClass := "UnimodularTables", implName := "lambda$sideways$0", implDesc := ({ parameters := [(Jvm.ClassFile.FieldType.object "UnimodularTables$Turner"), (Jvm.ClassFile.FieldType.object "UnimodularTables$Table"), Jvm.ClassFile.FieldType.int, Jvm.ClassFile.FieldType.int], returnType := (Option.some (Jvm.ClassFile.FieldType.object "UnimodularTables$Table")) } : Jvm.ClassFile.MethodDescriptor), implItf := false, inst := ({ parameters := [(Jvm.ClassFile.FieldType.object "UnimodularTables$Table"), Jvm.ClassFile.FieldType.int, Jvm.ClassFile.FieldType.int], returnType := (Option.some (Jvm.ClassFile.FieldType.object "UnimodularTables$Table")) } : Jvm.ClassFile.MethodDescriptor) } : Jvm.Lambda.Shape)
theorem lmk_3 : lm_ok lms_3 lmb_U 4 23 19 22 18 [(15, 14, "arg$1", "LUnimodularTables$Turner;")] := ⟨by decide +kernel, by decide +kernel, by decide +kernel, by decide +kernel, by decide +kernel, by decide +kernel, by decide +kernel, by decide +kernel, by decide +kernel, by decide +kernel⟩
theorem lmt_3 : lm_site 3 lms_3 ⟨"UnimodularTables$Turner", "of", "(LUnimodularTables$Table;II)LUnimodularTables$Table;"⟩ yX1_lambda_sideways_0 lmb_U 4 23 [(15, 14, "arg$1", "LUnimodularTables$Turner;")] := ⟨⟨_, _, _, rfl, rfl⟩, ⟨_, _, _, lmk_3⟩, rfl, by decide +kernel, by decide +kernel, by decide +kernel, by decide +kernel, by decide⟩
def lms_4 : Lambda.Shape := ({ iface := "UnimodularTables$Turner", name := "of", sam := ({ parameters := [(Jvm.ClassFile.FieldType.object "UnimodularTables$Table"), Jvm.ClassFile.FieldType.int, Jvm.ClassFile.FieldType.int], returnType := (Option.some (Jvm.ClassFile.FieldType.object "UnimodularTables$Table")) } : Jvm.ClassFile.MethodDescriptor), captured := [], kind := 6, implClass := "UnimodularTables", implName := "turned", implDesc := ({ parameters := [(Jvm.ClassFile.FieldType.object "UnimodularTables$Table"), Jvm.ClassFile.FieldType.int, Jvm.ClassFile.FieldType.int], returnType := (Option.some (Jvm.ClassFile.FieldType.object "UnimodularTables$Table")) } : Jvm.ClassFile.MethodDescriptor), implItf := false, inst := ({ parameters := [(Jvm.ClassFile.FieldType.object "UnimodularTables$Table"), Jvm.ClassFile.FieldType.int, Jvm.ClassFile.FieldType.int], returnType := (Option.some (Jvm.ClassFile.FieldType.object "UnimodularTables$Table")) } : Jvm.ClassFile.MethodDescriptor) } : Jvm.Lambda.Shape)
theorem lmk_4 : lm_ok lms_4 lmb_T 4 17 14 16 13 [] := ⟨by decide +kernel, by decide +kernel, by decide +kernel, by decide +kernel, by decide +kernel, by decide +kernel, by decide +kernel, by decide +kernel, by decide +kernel, by decide +kernel⟩
theorem lmt_4 : lm_site 4 lms_4 ⟨"UnimodularTables$Turner", "of", "(LUnimodularTables$Table;II)LUnimodularTables$Table;"⟩ yX1_turned lmb_T 4 17 [] := ⟨⟨_, _, _, rfl, rfl⟩, ⟨_, _, _, lmk_4⟩, rfl, by decide +kernel, by decide +kernel, by decide +kernel, by decide +kernel, by decide⟩
def lms_5 : Lambda.Shape := ({ iface := "UnimodularTables$Turner", name := "of", sam := ({ parameters := [(Jvm.ClassFile.FieldType.object "UnimodularTables$Table"), Jvm.ClassFile.FieldType.int, Jvm.ClassFile.FieldType.int], returnType := (Option.some (Jvm.ClassFile.FieldType.object "UnimodularTables$Table")) } : Jvm.ClassFile.MethodDescriptor), captured := [], kind := 6, implClass := "UnimodularTables", implName := "transposed", implDesc := ({ parameters := [(Jvm.ClassFile.FieldType.object "UnimodularTables$Table"), Jvm.ClassFile.FieldType.int, Jvm.ClassFile.FieldType.int], returnType := (Option.some (Jvm.ClassFile.FieldType.object "UnimodularTables$Table")) } : Jvm.ClassFile.MethodDescriptor), implItf := false, inst := ({ parameters := [(Jvm.ClassFile.FieldType.object "UnimodularTables$Table"), Jvm.ClassFile.FieldType.int, Jvm.ClassFile.FieldType.int], returnType := (Option.some (Jvm.ClassFile.FieldType.object "UnimodularTables$Table")) } : Jvm.ClassFile.MethodDescriptor) } : Jvm.Lambda.Shape)
theorem lmk_5 : lm_ok lms_5 lmb_T 4 17 14 16 13 [] := ⟨by decide +kernel, by decide +kernel, by decide +kernel, by decide +kernel, by decide +kernel, by decide +kernel, by decide +kernel, by decide +kernel, by decide +kernel, by decide +kernel⟩
theorem lmt_5 : lm_site 5 lms_5 ⟨"UnimodularTables$Turner", "of", "(LUnimodularTables$Table;II)LUnimodularTables$Table;"⟩ yX1_transposed lmb_T 4 17 [] := ⟨⟨_, _, _, rfl, rfl⟩, ⟨_, _, _, lmk_5⟩, rfl, by decide +kernel, by decide +kernel, by decide +kernel, by decide +kernel, by decide⟩
def lms_6 : Lambda.Shape := ({ iface := "UnimodularTables$Back", name := "goes", sam := ({ parameters := [], returnType := (Option.none : Option Jvm.ClassFile.FieldType) } : Jvm.ClassFile.MethodDescriptor), captured := [(Jvm.ClassFile.FieldType.object "UnimodularTables"), (Jvm.ClassFile.FieldType.object "UnimodularTables$Table"), Jvm.ClassFile.FieldType.int, Jvm.ClassFile.FieldType.int, Jvm.ClassFile.FieldType.int], kind := 5, implClass := "UnimodularTables", implName := "lambda$setNow$2", implDesc := ({ parameters := [(Jvm.ClassFile.FieldType.object "UnimodularTables$Table"), Jvm.ClassFile.FieldType.int, Jvm.ClassFile.FieldType.int, Jvm.ClassFile.FieldType.int], returnType := (Option.none : Option Jvm.ClassFile.FieldType) } : Jvm.ClassFile.MethodDescriptor), implItf := false, inst := ({ parameters := [], returnType := (Option.none : Option Jvm.ClassFile.FieldType) } : Jvm.ClassFile.MethodDescriptor) } : Jvm.Lambda.Shape)
theorem lmk_6 : lm_ok lms_6 lmb_B 1 36 32 35 31 [(21, 20, "arg$1", "LUnimodularTables;"), (23, 22, "arg$2", "LUnimodularTables$Table;"), (25, 24, "arg$3", "I"), (27, 26, "arg$4", "I"), (29, 28, "arg$5", "I")] := ⟨by decide +kernel, by decide +kernel, by decide +kernel, by decide +kernel, by decide +kernel, by decide +kernel, by decide +kernel, by decide +kernel, by decide +kernel, by decide +kernel⟩
theorem lmt_6 : lm_site 6 lms_6 ⟨"UnimodularTables$Back", "goes", "()V"⟩ yX1_lambda_setNow_2 lmb_B 1 36 [(21, 20, "arg$1", "LUnimodularTables;"), (23, 22, "arg$2", "LUnimodularTables$Table;"), (25, 24, "arg$3", "I"), (27, 26, "arg$4", "I"), (29, 28, "arg$5", "I")] := ⟨⟨_, _, _, rfl, rfl⟩, ⟨_, _, _, lmk_6⟩, rfl, by decide +kernel, by decide +kernel, by decide +kernel, by decide +kernel, by decide⟩
def lms_7 : Lambda.Shape := ({ iface := "UnimodularTables$Back", name := "goes", sam := ({ parameters := [], returnType := (Option.none : Option Jvm.ClassFile.FieldType) } : Jvm.ClassFile.MethodDescriptor), captured := [(Jvm.ClassFile.FieldType.object "UnimodularTables"), (Jvm.ClassFile.FieldType.object "UnimodularTables$Table")], kind := 5, implClass := "UnimodularTables", implName := "lambda$act$1", implDesc := ({ parameters := [(Jvm.ClassFile.FieldType.object "UnimodularTables$Table")], returnType := (Option.none : Option Jvm.ClassFile.FieldType) } : Jvm.ClassFile.MethodDescriptor), implItf := false, inst := ({ parameters := [], returnType := (Option.none : Option Jvm.ClassFile.FieldType) } : Jvm.ClassFile.MethodDescriptor) } : Jvm.Lambda.Shape)
theorem lmk_7 : lm_ok lms_7 lmb_C 1 26 22 25 21 [(17, 16, "arg$1", "LUnimodularTables;"), (19, 18, "arg$2", "LUnimodularTables$Table;")] := ⟨by decide +kernel, by decide +kernel, by decide +kernel, by decide +kernel, by decide +kernel, by decide +kernel, by decide +kernel, by decide +kernel, by decide +kernel, by decide +kernel⟩
theorem lmt_7 : lm_site 7 lms_7 ⟨"UnimodularTables$Back", "goes", "()V"⟩ yX1_lambda_act_1 lmb_C 1 26 [(17, 16, "arg$1", "LUnimodularTables;"), (19, 18, "arg$2", "LUnimodularTables$Table;")] := ⟨⟨_, _, _, rfl, rfl⟩, ⟨_, _, _, lmk_7⟩, rfl, by decide +kernel, by decide +kernel, by decide +kernel, by decide +kernel, by decide⟩
def lms_8 : Lambda.Shape := ({ iface := "UnimodularTables$Asker", name := "holds", sam := ({ parameters := [Jvm.ClassFile.FieldType.int], returnType := (Option.some Jvm.ClassFile.FieldType.boolean) } : Jvm.ClassFile.MethodDescriptor), captured := [], kind := 6, implClass := "UnimodularTables", implName := "lambda$asker$3", implDesc := ({ parameters := [Jvm.ClassFile.FieldType.int], returnType := (Option.some Jvm.ClassFile.FieldType.boolean) } : Jvm.ClassFile.MethodDescriptor), implItf := false, inst := ({ parameters := [Jvm.ClassFile.FieldType.int], returnType := (Option.some Jvm.ClassFile.FieldType.boolean) } : Jvm.ClassFile.MethodDescriptor) } : Jvm.Lambda.Shape)
theorem lmk_8 : lm_ok lms_8 lmb_P 2 17 14 16 13 [] := ⟨by decide +kernel, by decide +kernel, by decide +kernel, by decide +kernel, by decide +kernel, by decide +kernel, by decide +kernel, by decide +kernel, by decide +kernel, by decide +kernel⟩
theorem lmt_8 : lm_site 8 lms_8 ⟨"UnimodularTables$Asker", "holds", "(I)Z"⟩ yX1_lambda_asker_3 lmb_P 2 17 [] := ⟨⟨_, _, _, rfl, rfl⟩, ⟨_, _, _, lmk_8⟩, rfl, by decide +kernel, by decide +kernel, by decide +kernel, by decide +kernel, by decide⟩
def lms_9 : Lambda.Shape := ({ iface := "UnimodularTables$Asker", name := "holds", sam := ({ parameters := [Jvm.ClassFile.FieldType.int], returnType := (Option.some Jvm.ClassFile.FieldType.boolean) } : Jvm.ClassFile.MethodDescriptor), captured := [], kind := 6, implClass := "UnimodularTables", implName := "lambda$asker$4", implDesc := ({ parameters := [Jvm.ClassFile.FieldType.int], returnType := (Option.some Jvm.ClassFile.FieldType.boolean) } : Jvm.ClassFile.MethodDescriptor), implItf := false, inst := ({ parameters := [Jvm.ClassFile.FieldType.int], returnType := (Option.some Jvm.ClassFile.FieldType.boolean) } : Jvm.ClassFile.MethodDescriptor) } : Jvm.Lambda.Shape)
theorem lmk_9 : lm_ok lms_9 lmb_P 2 17 14 16 13 [] := ⟨by decide +kernel, by decide +kernel, by decide +kernel, by decide +kernel, by decide +kernel, by decide +kernel, by decide +kernel, by decide +kernel, by decide +kernel, by decide +kernel⟩
theorem lmt_9 : lm_site 9 lms_9 ⟨"UnimodularTables$Asker", "holds", "(I)Z"⟩ yX1_lambda_asker_4 lmb_P 2 17 [] := ⟨⟨_, _, _, rfl, rfl⟩, ⟨_, _, _, lmk_9⟩, rfl, by decide +kernel, by decide +kernel, by decide +kernel, by decide +kernel, by decide⟩
def lms_10 : Lambda.Shape := ({ iface := "UnimodularTables$Asker", name := "holds", sam := ({ parameters := [Jvm.ClassFile.FieldType.int], returnType := (Option.some Jvm.ClassFile.FieldType.boolean) } : Jvm.ClassFile.MethodDescriptor), captured := [], kind := 6, implClass := "UnimodularTables", implName := "isBeyond", implDesc := ({ parameters := [Jvm.ClassFile.FieldType.int], returnType := (Option.some Jvm.ClassFile.FieldType.boolean) } : Jvm.ClassFile.MethodDescriptor), implItf := false, inst := ({ parameters := [Jvm.ClassFile.FieldType.int], returnType := (Option.some Jvm.ClassFile.FieldType.boolean) } : Jvm.ClassFile.MethodDescriptor) } : Jvm.Lambda.Shape)
theorem lmk_10 : lm_ok lms_10 lmb_P 2 17 14 16 13 [] := ⟨by decide +kernel, by decide +kernel, by decide +kernel, by decide +kernel, by decide +kernel, by decide +kernel, by decide +kernel, by decide +kernel, by decide +kernel, by decide +kernel⟩
theorem lmt_10 : lm_site 10 lms_10 ⟨"UnimodularTables$Asker", "holds", "(I)Z"⟩ yX1_isBeyond lmb_P 2 17 [] := ⟨⟨_, _, _, rfl, rfl⟩, ⟨_, _, _, lmk_10⟩, rfl, by decide +kernel, by decide +kernel, by decide +kernel, by decide +kernel, by decide⟩
def lms_11 : Lambda.Shape := ({ iface := "UnimodularTables$Asker", name := "holds", sam := ({ parameters := [Jvm.ClassFile.FieldType.int], returnType := (Option.some Jvm.ClassFile.FieldType.boolean) } : Jvm.ClassFile.MethodDescriptor), captured := [], kind := 6, implClass := "UnimodularTables", implName := "isBeyond", implDesc := ({ parameters := [Jvm.ClassFile.FieldType.int], returnType := (Option.some Jvm.ClassFile.FieldType.boolean) } : Jvm.ClassFile.MethodDescriptor), implItf := false, inst := ({ parameters := [Jvm.ClassFile.FieldType.int], returnType := (Option.some Jvm.ClassFile.FieldType.boolean) } : Jvm.ClassFile.MethodDescriptor) } : Jvm.Lambda.Shape)
theorem lmk_11 : lm_ok lms_11 lmb_P 2 17 14 16 13 [] := ⟨by decide +kernel, by decide +kernel, by decide +kernel, by decide +kernel, by decide +kernel, by decide +kernel, by decide +kernel, by decide +kernel, by decide +kernel, by decide +kernel⟩
theorem lmt_11 : lm_site 11 lms_11 ⟨"UnimodularTables$Asker", "holds", "(I)Z"⟩ yX1_isBeyond lmb_P 2 17 [] := ⟨⟨_, _, _, rfl, rfl⟩, ⟨_, _, _, lmk_11⟩, rfl, by decide +kernel, by decide +kernel, by decide +kernel, by decide +kernel, by decide⟩
def lms_12 : Lambda.Shape := ({ iface := "UnimodularTables$Asker", name := "holds", sam := ({ parameters := [Jvm.ClassFile.FieldType.int], returnType := (Option.some Jvm.ClassFile.FieldType.boolean) } : Jvm.ClassFile.MethodDescriptor), captured := [], kind := 6, implClass := "UnimodularTables", implName := "isBeyond", implDesc := ({ parameters := [Jvm.ClassFile.FieldType.int], returnType := (Option.some Jvm.ClassFile.FieldType.boolean) } : Jvm.ClassFile.MethodDescriptor), implItf := false, inst := ({ parameters := [Jvm.ClassFile.FieldType.int], returnType := (Option.some Jvm.ClassFile.FieldType.boolean) } : Jvm.ClassFile.MethodDescriptor) } : Jvm.Lambda.Shape)
theorem lmk_12 : lm_ok lms_12 lmb_P 2 17 14 16 13 [] := ⟨by decide +kernel, by decide +kernel, by decide +kernel, by decide +kernel, by decide +kernel, by decide +kernel, by decide +kernel, by decide +kernel, by decide +kernel, by decide +kernel⟩
theorem lmt_12 : lm_site 12 lms_12 ⟨"UnimodularTables$Asker", "holds", "(I)Z"⟩ yX1_isBeyond lmb_P 2 17 [] := ⟨⟨_, _, _, rfl, rfl⟩, ⟨_, _, _, lmk_12⟩, rfl, by decide +kernel, by decide +kernel, by decide +kernel, by decide +kernel, by decide⟩
def lms_13 : Lambda.Shape := ({ iface := "UnimodularTables$Asker", name := "holds", sam := ({ parameters := [Jvm.ClassFile.FieldType.int], returnType := (Option.some Jvm.ClassFile.FieldType.boolean) } : Jvm.ClassFile.MethodDescriptor), captured := [], kind := 6, implClass := "UnimodularTables", implName := "lambda$rank$5", implDesc := ({ parameters := [Jvm.ClassFile.FieldType.int], returnType := (Option.some Jvm.ClassFile.FieldType.boolean) } : Jvm.ClassFile.MethodDescriptor), implItf := false, inst := ({ parameters := [Jvm.ClassFile.FieldType.int], returnType := (Option.some Jvm.ClassFile.FieldType.boolean) } : Jvm.ClassFile.MethodDescriptor) } : Jvm.Lambda.Shape)
theorem lmk_13 : lm_ok lms_13 lmb_P 2 17 14 16 13 [] := ⟨by decide +kernel, by decide +kernel, by decide +kernel, by decide +kernel, by decide +kernel, by decide +kernel, by decide +kernel, by decide +kernel, by decide +kernel, by decide +kernel⟩
theorem lmt_13 : lm_site 13 lms_13 ⟨"UnimodularTables$Asker", "holds", "(I)Z"⟩ yX1_lambda_rank_5 lmb_P 2 17 [] := ⟨⟨_, _, _, rfl, rfl⟩, ⟨_, _, _, lmk_13⟩, rfl, by decide +kernel, by decide +kernel, by decide +kernel, by decide +kernel, by decide⟩
def lms_14 : Lambda.Shape := ({ iface := "UnimodularTables$Asker", name := "holds", sam := ({ parameters := [Jvm.ClassFile.FieldType.int], returnType := (Option.some Jvm.ClassFile.FieldType.boolean) } : Jvm.ClassFile.MethodDescriptor), captured := [Jvm.ClassFile.FieldType.int], kind := 6, implClass := "UnimodularTables", implName := "lambda$rank$6", implDesc := ({ parameters := [Jvm.ClassFile.FieldType.int, Jvm.ClassFile.FieldType.int], returnType := (Option.some Jvm.ClassFile.FieldType.boolean) } : Jvm.ClassFile.MethodDescriptor), implItf := false, inst := ({ parameters := [Jvm.ClassFile.FieldType.int], returnType := (Option.some Jvm.ClassFile.FieldType.boolean) } : Jvm.ClassFile.MethodDescriptor) } : Jvm.Lambda.Shape)
theorem lmk_14 : lm_ok lms_14 lmb_Q 2 23 19 22 18 [(15, 14, "arg$1", "I")] := ⟨by decide +kernel, by decide +kernel, by decide +kernel, by decide +kernel, by decide +kernel, by decide +kernel, by decide +kernel, by decide +kernel, by decide +kernel, by decide +kernel⟩
theorem lmt_14 : lm_site 14 lms_14 ⟨"UnimodularTables$Asker", "holds", "(I)Z"⟩ yX1_lambda_rank_6 lmb_Q 2 23 [(15, 14, "arg$1", "I")] := ⟨⟨_, _, _, rfl, rfl⟩, ⟨_, _, _, lmk_14⟩, rfl, by decide +kernel, by decide +kernel, by decide +kernel, by decide +kernel, by decide⟩
def lms_15 : Lambda.Shape := ({ iface := "UnimodularTables$Asker", name := "holds", sam := ({ parameters := [Jvm.ClassFile.FieldType.int], returnType := (Option.some Jvm.ClassFile.FieldType.boolean) } : Jvm.ClassFile.MethodDescriptor), captured := [], kind := 6, implClass := "UnimodularTables", implName := "lambda$bases$7", implDesc := ({ parameters := [Jvm.ClassFile.FieldType.int], returnType := (Option.some Jvm.ClassFile.FieldType.boolean) } : Jvm.ClassFile.MethodDescriptor), implItf := false, inst := ({ parameters := [Jvm.ClassFile.FieldType.int], returnType := (Option.some Jvm.ClassFile.FieldType.boolean) } : Jvm.ClassFile.MethodDescriptor) } : Jvm.Lambda.Shape)
theorem lmk_15 : lm_ok lms_15 lmb_P 2 17 14 16 13 [] := ⟨by decide +kernel, by decide +kernel, by decide +kernel, by decide +kernel, by decide +kernel, by decide +kernel, by decide +kernel, by decide +kernel, by decide +kernel, by decide +kernel⟩
theorem lmt_15 : lm_site 15 lms_15 ⟨"UnimodularTables$Asker", "holds", "(I)Z"⟩ yX1_lambda_bases_7 lmb_P 2 17 [] := ⟨⟨_, _, _, rfl, rfl⟩, ⟨_, _, _, lmk_15⟩, rfl, by decide +kernel, by decide +kernel, by decide +kernel, by decide +kernel, by decide⟩
theorem lml_3 : ((lms_3.file "UnimodularTables").bind (layoutFields · 0)).map (·.2.1) = some #[.object "UnimodularTables$Turner"] := by decide +kernel
theorem lml_6 : ((lms_6.file "UnimodularTables").bind (layoutFields · 0)).map (·.2.1) = some #[.object "UnimodularTables", .object "UnimodularTables$Table", .int, .int, .int] := by decide +kernel
theorem lml_7 : ((lms_7.file "UnimodularTables").bind (layoutFields · 0)).map (·.2.1) = some #[.object "UnimodularTables", .object "UnimodularTables$Table"] := by decide +kernel
theorem lml_14 : ((lms_14.file "UnimodularTables").bind (layoutFields · 0)).map (·.2.1) = some #[.int] := by decide +kernel
