/-! String constants: length, charAt (Latin-1 alone) -/
theorem ydJ10_checkIndex : xHd yJ10_checkIndex 3 := by decide +kernel
theorem ydJ8_checkIndex : xHd yJ8_checkIndex 2 := by decide +kernel
theorem ydJ8_isLatin1 : xHd yJ8_isLatin1 0 := by decide +kernel
theorem ydJ8_coder : xHd yJ8_coder 0 := by decide +kernel
theorem ydJ8_length : xHd yJ8_length 0 := by decide +kernel
theorem ydJ8_charAt : xHd yJ8_charAt 1 := by decide +kernel
theorem ydJ9_charAt : xHd yJ9_charAt 2 := by decide +kernel
theorem pl_J8 : plainName RJ8 = true := by decide
theorem pl_J9 : plainName RJ9 = true := by decide
theorem pl_J10 : plainName RJ10 = true := by decide
theorem in_J8s : ∀ w ∈ u_ws RJ8 TJ8 2, w ∈ lw_all := by
  intro w h
  unfold u_ws at h
  obtain ⟨k, hk, rfl⟩ := List.mem_map.mp h
  exact in_J8 _ (List.mem_map.mpr ⟨k, List.mem_range.mpr (by have := List.mem_range.mp hk; omega), rfl⟩)
section XStr
variable {L : xL} {w : xW}
theorem x_xret {y : MethodName} {cc : ByteArray} {nL : Nat} {ret : Option FieldType} {d lo pc : Nat} {lv : List (Option xV)} {ty : FieldType} {a : Int32} (hr : ret = some ty) (hn : narrow ty (.int a) = .int a) (hd : decode cc pc = .ok (.ireturn, 1)) : xB L y cc nL ret d lo pc lv [(.inl a : xV)] w (some (.inl a)) w :=
  xB.done rfl fun p l e R s m args below meth c H locs k n g ls hx hb hret hlk hloc hq => W.zret (v := a) hx hb (hret.trans hr) hn hq hloc hd hlk
theorem j_pre (l : Launch) (g : xG) {i n : Int32} {o : Option Nat} (hG : xGok l g) (h0 : ¬ i < 0) (h1 : i < n) : Met l yJ10_checkIndex (ws_ yJ10_checkIndex cJ10_checkIndex 3 (some .int)) ({ frames := 0, cells := 0, slots := 0, locals := 0 })
    (fun a U => a = ([.int i, .int n, va_rf o] : List Value).toArray ∧ xKf g U ∧ xSim g L w U.heap) (xQ g L (some (.inl i)) w) 0 0 (fun q => g.2.2.2.2.size ≤ q) := by
  refine Met.ofW (cc := cJ10_checkIndex) (maxL := 3) (ret := some .int) pl_J10 rfl ?_
  intro p e s m args below meth c s₁ B hml hv
  obtain ⟨rfl, hK, hS⟩ := hv
  have hx := B.exec
  have hb := B.bytes
  have hr := B.returns
  have hl : lv_has ((lg_sl ([.int i, .int n, va_rf o] : List Value) ++ List.replicate (3 - (lg_sl ([.int i, .int n, va_rf o] : List Value)).length) Slot.unset).toArray) 3 [(0, .int i), (1, .int n)] := by
    have h := lv_entry ([.int i, .int n, va_rf o] : List Value) (n := 3) (by cases o <;> exact Nat.le_of_ble_eq_true rfl)
    exact ⟨h.1, h.2.1, fun q hq => h.2.2 q (by
      simp only [List.mem_cons, List.not_mem_nil, or_false] at hq
      rcases hq with rfl | rfl <;> simp [lv_args, Value.category])⟩
  rw [lg_entry_eq]
  generalize (lg_sl ([.int i, .int n, va_rf o] : List Value) ++ List.replicate (3 - (lg_sl ([.int i, .int n, va_rf o] : List Value)).length) Slot.unset).toArray = ls at hl ⊢
  have hlk := B.notSynchronized
  refine lv_iload_n hx hb dJ10_checkIndex_0 rfl (lv_at hl 0 rfl) ?_
  refine lv_if_lt (tgt := 9) hx hb dJ10_checkIndex_1 rfl (fun q => absurd q h0) (fun _ => ?_)
  refine lv_iload_n hx hb dJ10_checkIndex_4 rfl (lv_at hl 0 rfl) ?_
  refine lv_iload_n hx hb dJ10_checkIndex_5 rfl (lv_at hl 1 rfl) ?_
  refine lv_icmp_lt (tgt := 16) hx hb dJ10_checkIndex_6 rfl (fun _ => ?_) (fun q => absurd h1 q)
  refine lv_iload_n hx hb dJ10_checkIndex_16 rfl (lv_at hl 0 rfl) ?_
  exact W.iret (v := i) hx hb hr (fun t ht hW => ⟨rfl, by rw [ht]; exact hS⟩) (fun q h => by cases h) dJ10_checkIndex_17
/-- String.checkIndex's call -/
theorem j_chk {d lo : Nat} {lv : List (Option xV)} {i n : Int32} {v : Option xV} {w1 : xW} (h0 : ¬ i < 0) (h1 : i < n) (hroom : 1 ≤ d ∧ 22 ≤ lo) (k : xB L yJ8_checkIndex cJ8_checkIndex 2 none d lo 9 lv [] w v w1) : xB L yJ8_checkIndex cJ8_checkIndex 2 none d lo 2 lv [(.inl n : xV), (.inl i : xV)] w v w1 := by
  refine ⟨k.1, k.2.1, fun p l e R s m args below meth c g k0 n0 C H locs k' n' ls h2 h3 hS h5 hl => ?_⟩
  have k1 := k.1
  have k2 := k.2.1
  have kk := k.2.2 p l e R s m args below meth c g k0 n0 C H
  obtain ⟨hx, hb, hml, hret, hO, hw, hlk, hnm, hK, hG, hRf, hRl, hRc, hRs⟩ := C
  obtain ⟨o, cf, kf, fi, f, a, cell, z1, z2, z3, z4, z5, z6, z7, z8⟩ := hK.2.2.2.1 _ (List.mem_of_getElem? (i := 0) rfl)
  refine W.gets hx hb hO (hw _ q386) z1 z2 z3 z4 (by rw [hS.2.1 a (Array.getElem?_eq_some_iff.mp z5).1]; exact z5) (fun e => by rw [e] at z6; cases z6) z7 rfl dJ8_checkIndex_2 ?_
  have hr := va_runS (p := p) (l := l) (e := e) (R := R) (s := s) (m := m) (args := args) (below := below) (meth := meth) (c := c) (H := H) (locs := locs) (cells := k') (slots := n') (g := F0 m 5 ls [va_rf o, .int n, .int i]) (index := 1059) (As := [.int i, .int n, va_rf o]) (rest := []) ⟨hx, hb, hml, hO, hw⟩ (j_pre (L := L) (w := w) (o := o) l g hG h0 h1) (va_cwS 3 hw (lw_S q388 q389 q132 q390) rfl rfl rfl ydJ10_checkIndex ⟨by rw [hRf]; exact hroom.1, by rw [hRl]; exact hroom.2⟩) ⟨by
      intro a U gg mk q
      obtain ⟨q0, q1, q2⟩ := q
      exact ⟨q0, xKf.same (s := U) (U := U.calling gg mk a) rfl q1, q2⟩, fun U hU hW => ⟨rfl, hK.warm hW, by rw [hU]; exact hS⟩⟩ rfl rfl hl.1 rfl (lv_room (Nat.le_of_ble_eq_true rfl)) dJ8_checkIndex_5 ⟨by rw [hRc]; omega, by rw [hRs]; omega⟩
  intro T hT X
  obtain ⟨u, st₀, t, T', L2, e0, X', hL, e1, e2, ⟨hv, hS2⟩, stp⟩ := hr T hT X
  cases hv
  have hpop : W p l e R s m args below meth c T'.heap (locs ++ L2) (k' + 0) (n' + 0) (MQ below (xQ g L v w1) args s (w1.2.2.2.1 - k0) (w1.2.2.2.2 - n0) (fun q => g.2.2.2.2.size ≤ q)) (F0 m 8 ls [.int i]) := by
    refine lv_pop hx hb dJ8_checkIndex_8 rfl ?_
    exact k.2.2 p l e R s m args below meth c g k0 n0 ⟨hx, hb, hml, hret, hO, hw, hlk, hnm, hK, hG, hRf, hRl, hRc, hRs⟩ T'.heap (locs ++ L2) (k' + 0) (n' + 0) ls h2 h3 (by rw [e1]; exact hS2) (fun q hq => by
      rcases List.mem_append.mp hq with q1 | q1
      · exact h5 q q1
      · exact hL q q1) hl
  obtain ⟨t2, a1, b1⟩ := hpop T' rfl X'
  exact ⟨t2, stp t2 a1, b1⟩
theorem j_checkIndex_ct {i n : Int32} (h0 : ¬ i < 0) (h1 : i < n) : xCt L yJ8_checkIndex cJ8_checkIndex 2 none 1 22 [(.inl i : xV), (.inl n : xV)] w none w := by
  refine xCt.of (lv := [some (.inl i : xV), some (.inl n : xV)]) pl_J8 (Nat.le_of_ble_eq_true rfl) (xle.s (xle.s xle.z)) ?_
  refine x_iload_n (i := 0) 1 rfl dJ8_checkIndex_0 rfl rfl ?_
  refine x_iload_n (i := 1) 2 rfl dJ8_checkIndex_1 rfl rfl ?_
  refine j_chk h0 h1 ⟨by decide, by decide⟩ ?_
  exact x_vret rfl dJ8_checkIndex_9
def xsk (k : Nat) : Bool := decide (256 ≤ k ∧ k < 268 ∧ k % 2 = 0)
abbrev xsl (k : Nat) : Nat := (xstr ((k - 256) / 2)).length
abbrev xsc (k : Nat) (j : Nat) : Int32 := Int32.ofNat ((xstr ((k - 256) / 2)).getD j 0)
def xsV (k : Nat) : Nat → xV := fun j => if j = 0 then .inr (.inr (some (k + 1))) else .inl 0
theorem xKc_s {k : Nat} (h : xsk k = true) : xKc k = some (.inr (.inl (10, xsV k))) ∧ xKc (k + 1) = some (.inl (1, xsl k, .inl (xsc k))) ∧ k < 300 := by
  have h2 : 256 ≤ k ∧ k < 268 ∧ k % 2 = 0 := of_decide_eq_true h
  obtain ⟨a, b, c⟩ := h2
  unfold xKc
  rw [if_neg (by omega), if_pos (by omega), if_pos c, if_neg (by omega), if_pos (by omega), if_neg (by omega), show (k + 1 - 256) / 2 = (k - 256) / 2 by omega]
  exact ⟨rfl, rfl, by omega⟩
theorem xsc_lt (i j : Nat) : (xstr i).getD j 0 < 128 := by
  have h : ∀ i, ∀ c ∈ xstr i, c < 128 := by
    intro i
    match i with
    | 0 => decide
    | 1 => decide
    | 2 => decide
    | 3 => decide
    | 4 => decide
    | n + 5 =>
      have e : xstr (n + 5) = xstr 5 := rfl
      rw [e]; decide
  rw [List.getD_eq_getElem?_getD]
  cases hj : (xstr i)[j]? with
  | none => decide
  | some c => exact h i c (List.mem_of_getElem? hj)
theorem xsc_narrow : ∀ c : Nat, c < 128 → narrow .char (.int (((Int32.ofNat c &&& 255).toUInt32 % 65536).toInt32)) = .int (Int32.ofNat c) ∧ ((Int32.ofNat c &&& 255).toUInt32 % 65536).toInt32 = Int32.ofNat c := by decide +kernel
theorem j_coder_ct {k : Nat} (h : xsk k = true) : xCt L yJ8_coder cJ8_coder 1 (some .byte) 0 0 [(.inr (.inr (some k)) : xV)] w (some (.inl 0)) w := by
  obtain ⟨e1, e2, hk⟩ := xKc_s h
  refine xCt.of (lv := [some (.inr (.inr (some k)) : xV)]) pl_J8 (Nat.le_of_ble_eq_true rfl) (xle.s xle.z) ?_
  refine x_gets (x := .inl 1) 3 rfl dJ8_coder_0 (List.mem_of_getElem? (i := 0) rfl) q378 ?_
  refine x_if_eq (A := none) (B := some ()) (rr := ()) 13 6 rfl dJ8_coder_3 rfl rfl (fun h => by cases h) (fun _ => ?_)
  refine x_aload_n (i := 0) 7 rfl dJ8_coder_6 rfl rfl ?_
  refine x_getf (k := 1) (ci := 10) (C := RJ8) (T := TJ8) (N := 2) (V := xsV k) 10 rfl dJ8_coder_7 (Or.inr e1) rfl in_J8s (by decide) q1365 rfl ?_
  refine x_goto 14 dJ8_coder_10 rfl ?_
  exact x_xret rfl rfl dJ8_coder_14
theorem j_isLatin1_ct {k : Nat} (h : xsk k = true) : xCt L yJ8_isLatin1 cJ8_isLatin1 1 (some .boolean) 0 0 [(.inr (.inr (some k)) : xV)] w (some (.inl 1)) w := by
  obtain ⟨e1, e2, hk⟩ := xKc_s h
  refine xCt.of (lv := [some (.inr (.inr (some k)) : xV)]) pl_J8 (Nat.le_of_ble_eq_true rfl) (xle.s xle.z) ?_
  refine x_gets (x := .inl 1) 3 rfl dJ8_isLatin1_0 (List.mem_of_getElem? (i := 0) rfl) q378 ?_
  refine x_if_eq (A := none) (B := some ()) (rr := ()) 17 6 rfl dJ8_isLatin1_3 rfl rfl (fun h => by cases h) (fun _ => ?_)
  refine x_aload_n (i := 0) 7 rfl dJ8_isLatin1_6 rfl rfl ?_
  refine x_getf (k := 1) (ci := 10) (C := RJ8) (T := TJ8) (N := 2) (V := xsV k) 10 rfl dJ8_isLatin1_7 (Or.inr e1) rfl in_J8s (by decide) q1365 rfl ?_
  refine x_if_ne (A := some ()) (B := none) (rr := ()) 17 13 rfl dJ8_isLatin1_10 rfl rfl (fun h => by cases h) (fun _ => ?_)
  refine x_iconst (1 : Int32) 14 rfl dJ8_isLatin1_13 rfl ?_
  refine x_goto 18 dJ8_isLatin1_14 rfl ?_
  exact x_zret rfl (Or.inr rfl) dJ8_isLatin1_18
theorem j_length_ct {k : Nat} (h : xsk k = true) : xCt L yJ8_length cJ8_length 1 (some .int) 1 20 [(.inr (.inr (some k)) : xV)] w (some (.inl (Int32.ofNat (xsl k)))) w := by
  obtain ⟨e1, e2, hk⟩ := xKc_s h
  refine xCt.of (lv := [some (.inr (.inr (some k)) : xV)]) pl_J8 (Nat.le_of_ble_eq_true rfl) (xle.s xle.z) ?_
  refine x_aload_n (i := 0) 1 rfl dJ8_length_0 rfl rfl ?_
  refine x_getf (k := 0) (ci := 10) (C := RJ8) (T := TJ8) (N := 2) (V := xsV k) 4 rfl dJ8_length_1 (Or.inr e1) rfl in_J8s (by decide) q1364 rfl ?_
  refine x_alen (t := 1) (by decide) 5 rfl dJ8_length_4 (Or.inr e2) rfl ?_
  refine x_aload_n (i := 0) 6 rfl dJ8_length_5 rfl rfl ?_
  refine x_callV (as := []) (rest := [(.inl (xsl k).toInt32 : xV)]) (vv := some (.inl 0)) (w2 := w) (C := RJ8) (T := TJ8) (N := 2) 9 rfl dJ8_length_6 (j_coder_ct h) (Or.inr e1) rfl (lw_V q603 q604 q605 q130 q606) rfl ydJ8_coder rfl ⟨Nat.le_of_ble_eq_true rfl, Nat.le_of_ble_eq_true rfl⟩ (Nat.le_of_ble_eq_true rfl) rfl ?_
  refine x_ishr 10 rfl dJ8_length_9 ?_
  have e3 : (xsl k).toInt32 >>> ((0 : Int32) &&& 31) = Int32.ofNat (xsl k) := sb_shr0 _
  rw [e3]
  exact x_iret rfl dJ8_length_10
theorem j9_charAt_ct {k : Nat} {i : Int32} (h : xsk k = true) (hi : xin i (xsl k) = true) : xCt L yJ9_charAt cJ9_charAt 2 (some .char) 2 43 [(.inr (.inr (some (k + 1))) : xV), (.inl i : xV)] w (some (.inl (xsc k i.toNatClampNeg))) w := by
  obtain ⟨e1, e2, hk⟩ := xKc_s h
  have hv : ¬ (i < 0 ∨ xsl k ≤ i.toNatClampNeg) := xin_vp hi
  have h0 : ¬ i < 0 := fun q => hv (Or.inl q)
  have hlen : xsl k < 64 := by
    have hh : ∀ j, (xstr j).length < 64 := by
      intro j
      match j with
      | 0 => decide
      | 1 => decide
      | 2 => decide
      | 3 => decide
      | 4 => decide
      | n + 5 =>
        have e : xstr (n + 5) = xstr 5 := rfl
        rw [e]; decide
    exact hh _
  have h1 : i < (xsl k).toInt32 := by
    obtain ⟨j, hj, rfl⟩ := vp_in_of (xin_vp hi) (by omega)
    exact nI_lt hj (by omega)
  refine xCt.of (lv := [some (.inr (.inr (some (k + 1))) : xV), some (.inl i : xV)]) pl_J9 (Nat.le_of_ble_eq_true rfl) (xle.s (xle.s xle.z)) ?_
  refine x_iload_n (i := 1) 1 rfl dJ9_charAt_0 rfl rfl ?_
  refine x_aload_n (i := 0) 2 rfl dJ9_charAt_1 rfl rfl ?_
  refine x_alen (t := 1) (by decide) 3 rfl dJ9_charAt_2 (Or.inr e2) rfl ?_
  refine x_callSv (as := [(.inl i : xV), (.inl (xsl k).toInt32 : xV)]) [] 6 rfl dJ9_charAt_3 (j_checkIndex_ct h0 h1) (lw_S q383 q384 q130 q385) ydJ8_checkIndex rfl ⟨Nat.le_of_ble_eq_true rfl, Nat.le_of_ble_eq_true rfl⟩ (Nat.le_of_ble_eq_true rfl) rfl ?_
  refine x_aload_n (i := 0) 7 rfl dJ9_charAt_6 rfl rfl ?_
  refine x_iload_n (i := 1) 8 rfl dJ9_charAt_7 rfl rfl ?_
  refine x_bald 9 rfl dJ9_charAt_8 (Or.inr e2) hi ?_
  refine x_sipush (255 : Int32) 12 rfl dJ9_charAt_9 rfl ?_
  refine x_iand 13 rfl dJ9_charAt_12 ?_
  refine x_i2c 14 rfl dJ9_charAt_13 ?_
  obtain ⟨n1, n2⟩ := xsc_narrow _ (xsc_lt ((k - 256) / 2) i.toNatClampNeg)
  show xB L yJ9_charAt cJ9_charAt 2 (some .char) 2 43 14 _ [(.inl ((Int32.ofNat _ &&& 255).toUInt32 % 65536).toInt32 : xV)] w _ w
  rw [n2] at n1 ⊢
  exact x_xret rfl n1 dJ9_charAt_14
theorem j_charAt_ct {k : Nat} {i : Int32} (h : xsk k = true) (hi : xin i (xsl k) = true) : xCt L yJ8_charAt cJ8_charAt 2 (some .char) 3 64 [(.inr (.inr (some k)) : xV), (.inl i : xV)] w (some (.inl (xsc k i.toNatClampNeg))) w := by
  obtain ⟨e1, e2, hk⟩ := xKc_s h
  refine xCt.of (lv := [some (.inr (.inr (some k)) : xV), some (.inl i : xV)]) pl_J8 (Nat.le_of_ble_eq_true rfl) (xle.s (xle.s xle.z)) ?_
  refine x_aload_n (i := 0) 1 rfl dJ8_charAt_0 rfl rfl ?_
  refine x_callV (as := []) (rest := []) (vv := some (.inl 1)) (w2 := w) (C := RJ8) (T := TJ8) (N := 2) 4 rfl dJ8_charAt_1 (j_isLatin1_ct h) (Or.inr e1) rfl (lw_V q374 q375 q376 q130 q377) rfl ydJ8_isLatin1 rfl ⟨Nat.le_of_ble_eq_true rfl, Nat.le_of_ble_eq_true rfl⟩ (Nat.le_of_ble_eq_true rfl) rfl ?_
  refine x_if_eq (A := none) (B := some ()) (rr := ()) 16 7 rfl dJ8_charAt_4 rfl rfl (fun h => by cases h) (fun _ => ?_)
  refine x_aload_n (i := 0) 8 rfl dJ8_charAt_7 rfl rfl ?_
  refine x_getf (k := 0) (ci := 10) (C := RJ8) (T := TJ8) (N := 2) (V := xsV k) 11 rfl dJ8_charAt_8 (Or.inr e1) rfl in_J8s (by decide) q1364 rfl ?_
  refine x_iload_n (i := 1) 12 rfl dJ8_charAt_11 rfl rfl ?_
  refine x_callSi (as := [(.inr (.inr (some (k + 1))) : xV), (.inl i : xV)]) [] 15 rfl dJ8_charAt_12 (j9_charAt_ct h hi) (lw_S q380 q381 q131 q382) ydJ9_charAt rfl ⟨Nat.le_of_ble_eq_true rfl, Nat.le_of_ble_eq_true rfl⟩ (Nat.le_of_ble_eq_true rfl) rfl ?_
  obtain ⟨n1, n2⟩ := xsc_narrow _ (xsc_lt ((k - 256) / 2) i.toNatClampNeg)
  rw [n2] at n1
  exact x_xret rfl n1 dJ8_charAt_15
end XStr
def slen {ρ : Type} (k : Nat) (K : Int32 → Option ρ) : Option ρ := if xsk k = true then K (Int32.ofNat (xsl k)) else none
def sch {ρ : Type} (k : Nat) (i : Int32) (K : Int32 → Option ρ) : Option ρ := if xsk k = true ∧ xin i (xsl k) = true then K (xsc k i.toNatClampNeg) else none
section XStr2
variable {L : xL} {y : MethodName} {cc : ByteArray} {nL : Nat} {ret : Option FieldType} {d lo pc : Nat} {lv : List (Option xV)} {w : xW} {v : Option xV} {w1 : xW} {ρ : Type} {rr : ρ}
theorem x_slen {ix k : Nat} {rest : List xV} (pn : Nat) (hp : pc + 3 = pn) (hd : decode cc pc = .ok (.invokevirtual ix, 3)) (hG : GoodIn lw_all (wsV y.cls ix RJ8 yJ8_length (ws_ yJ8_length cJ8_length 1 (some .int)))) (hroom : 2 ≤ d ∧ 40 ≤ lo) (hr : (rest.map xw).sum ≤ 8) {K : Int32 → Option ρ} (h : slen k K = some rr)
    (kk : ∀ x, K x = some rr → xB L y cc nL ret d lo pn lv ((.inl x : xV) :: rest) w v w1) : xB L y cc nL ret d lo pc lv ((.inr (.inr (some k)) : xV) :: rest) w v w1 := by
  unfold slen at h
  by_cases hk : xsk k = true
  · rw [if_pos hk] at h
    exact x_callV (as := []) (rest := rest) (vv := some (.inl _)) (w2 := w) (C := RJ8) (T := TJ8) (N := 2) pn hp hd (j_length_ct hk) (Or.inr (xKc_s hk).1) rfl hG rfl ydJ8_length rfl ⟨hroom.1, hroom.2⟩ hr rfl (kk _ h)
  · rw [if_neg hk] at h; cases h
theorem x_sch {ix k : Nat} {i : Int32} {rest : List xV} (pn : Nat) (hp : pc + 3 = pn) (hd : decode cc pc = .ok (.invokevirtual ix, 3)) (hG : GoodIn lw_all (wsV y.cls ix RJ8 yJ8_charAt (ws_ yJ8_charAt cJ8_charAt 2 (some .char)))) (hroom : 4 ≤ d ∧ 85 ≤ lo) (hr : (rest.map xw).sum ≤ 8) {K : Int32 → Option ρ} (h : sch k i K = some rr)
    (kk : ∀ x, K x = some rr → xB L y cc nL ret d lo pn lv ((.inl x : xV) :: rest) w v w1) : xB L y cc nL ret d lo pc lv ((.inl i : xV) :: (.inr (.inr (some k)) : xV) :: rest) w v w1 := by
  unfold sch at h
  by_cases hk : xsk k = true ∧ xin i (xsl k) = true
  · rw [if_pos hk] at h
    exact x_callV (as := [(.inl i : xV)]) (rest := rest) (vv := some (.inl _)) (w2 := w) (C := RJ8) (T := TJ8) (N := 2) pn hp hd (j_charAt_ct hk.1 hk.2) (Or.inr (xKc_s hk.1).1) rfl hG rfl ydJ8_charAt rfl ⟨hroom.1, hroom.2⟩ hr rfl (kk _ h)
  · rw [if_neg hk] at h; cases h
end XStr2
