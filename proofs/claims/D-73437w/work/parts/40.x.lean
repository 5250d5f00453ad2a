set_option maxRecDepth 100000
/-! UnimodularTables.valueOf(I)I -/
theorem ydX1_valueOf : xHd yX1_valueOf 1 := by decide +kernel
def p_X1_valueOf (a0 : Int32) : Option (Int32) := if a0 = (43 : Int32) then some ((1 : Int32)) else if a0 = (45 : Int32) then some ((-1 : Int32)) else some ((0 : Int32))
theorem p_X1_valueOf_ct {L : xL} {w : xW} {rr : Int32} {a0 : Int32} (h : p_X1_valueOf a0 = some rr) : xCt L yX1_valueOf cX1_valueOf 1 (some .int) 0 0 [(.inl (a0) : xV)] w (some (.inl rr)) w := by
  refine xCt.of (lv := [some (.inl (a0) : xV)]) pl_X1 (Nat.le_of_ble_eq_true rfl) (xle.s xle.z) ?_
  refine x_iload_n (i := 0) 1 rfl dX1_valueOf_0 rfl rfl ?_
  refine x_bipush (43 : Int32) 3 rfl dX1_valueOf_1 rfl ?_
  refine x_icmp_ne 10 6 rfl dX1_valueOf_3 rfl h (fun h => ?_) (fun h => ?_)
  · refine x_iload_n (i := 0) 11 rfl dX1_valueOf_10 rfl rfl ?_
    refine x_bipush (45 : Int32) 13 rfl dX1_valueOf_11 rfl ?_
    refine x_icmp_ne 20 16 rfl dX1_valueOf_13 rfl h (fun h => ?_) (fun h => ?_)
    · refine x_iconst (0 : Int32) 21 rfl dX1_valueOf_20 rfl ?_
      cases h
      exact x_iret rfl dX1_valueOf_21
    · refine x_iconst (-1 : Int32) 17 rfl dX1_valueOf_16 rfl ?_
      refine x_goto 21 dX1_valueOf_17 rfl ?_
      cases h
      exact x_iret rfl dX1_valueOf_21
  · refine x_iconst (1 : Int32) 7 rfl dX1_valueOf_6 rfl ?_
    refine x_goto 21 dX1_valueOf_7 rfl ?_
    cases h
    exact x_iret rfl dX1_valueOf_21
/-! UnimodularTables$Table.<init>(II)V -/
theorem ydX4_init : xHd yX4_init 2 := by decide +kernel
def d_X4_init (L : xL) (a0 : Nat) (a1 : Int32) (a2 : Int32) (r : xR) : Option (xR) := dpv L r a0 2 0 (.inl a1) fun r1 => dpv L r1 a0 2 1 (.inl a2) fun r2 => alm L r2 a1 a2 fun p3 r4 => dpv L r4 a0 2 2 (.inr (.inr (some (p3)))) fun r5 => some r5
theorem d_X4_init_ct {L : xL} {ms : xS} {rr : xR} {a0 : Nat} {a1 : Int32} {a2 : Int32} {r : xR} (h : d_X4_init L a0 a1 a2 r = some rr) : xCt L yX4_init cX4_init 3 none 1 20 [(.inr (.inr (some (a0))) : xV), (.inl (a1) : xV), (.inl (a2) : xV)] (ms, r) none (ms, rr) := by
  refine xCt.of (lv := [some (.inr (.inr (some (a0))) : xV), some (.inl (a1) : xV), some (.inl (a2) : xV)]) pl_X4 (Nat.le_of_ble_eq_true rfl) (xle.s (xle.s (xle.s xle.z))) ?_
  refine x_aload_n (i := 0) 1 rfl dX4_init_0 rfl rfl ?_
  refine x_obj 4 rfl dX4_init_1 q352 q161 q162 ⟨Nat.le_of_ble_eq_true rfl, Nat.le_of_ble_eq_true rfl⟩ ?_
  refine x_aload_n (i := 0) 5 rfl dX4_init_4 rfl rfl ?_
  refine x_iload_n (i := 1) 6 rfl dX4_init_5 rfl rfl ?_
  refine d_putiF (ci := 2) (k := 0) (C := RX4) (T := TX4) (N := 3) 9 rfl dX4_init_6 rfl rfl rfl rfl in_X4 (by decide) tyX4 tyX4_ok nmX4 q354 rfl (Or.inl rfl) h (fun r1 h => ?_)
  refine x_aload_n (i := 0) 10 rfl dX4_init_9 rfl rfl ?_
  refine x_iload_n (i := 2) 11 rfl dX4_init_10 rfl rfl ?_
  refine d_putiF (ci := 2) (k := 1) (C := RX4) (T := TX4) (N := 3) 14 rfl dX4_init_11 rfl rfl rfl rfl in_X4 (by decide) tyX4 tyX4_ok nmX4 q357 rfl (Or.inl rfl) h (fun r2 h => ?_)
  refine x_aload_n (i := 0) 15 rfl dX4_init_14 rfl rfl ?_
  refine x_iload_n (i := 1) 16 rfl dX4_init_15 rfl rfl ?_
  refine x_iload_n (i := 2) 17 rfl dX4_init_16 rfl rfl ?_
  refine d_multi 21 rfl dX4_init_17 q353 h (fun p3 r4 h => ?_)
  refine d_putrF (ci := 2) (k := 2) (C := RX4) (T := TX4) (N := 3) 24 rfl dX4_init_21 rfl rfl rfl rfl in_X4 (by decide) tyX4 tyX4_ok nmX4 q360 rfl (Or.inr ⟨_, rfl⟩) h (fun r5 h => ?_)
  cases h
  exact x_vret rfl dX4_init_24
/-! UnimodularTables$Table.copied()LUnimodularTables$Table; -/
theorem ydX4_copied : xHd yX4_copied 0 := by decide +kernel
def d_X4_copied_28_s (L : xL) (rec18 : Nat → Nat → Int32 → xR → Option (Nat × xR)) (rec28 : Nat → Nat → Int32 → Int32 → xR → Option (Nat × xR)) (a0 : Nat) (a1 : Nat) (a2 : Int32) (a3 : Int32) (r : xR) : Option (Nat × xR) := dgi L r a0 2 1 fun x1 => if x1 ≤ a3 then lt (a2 + (1 : Int32)) fun x2 => rec18 a0 a1 x2 r else dgr L r a1 2 2 fun p3 => nn p3 fun p4 => dar L r p4 a2 fun p5 => dgr L r a0 2 2 fun p6 => nn p6 fun p7 => dar L r p7 a2 fun p8 => nn p8 fun p9 => dai L r p9 a3 fun x10 => nn p5 fun p11 => daw L r p11 a3 x10 fun r12 => lt (a3 + (1 : Int32)) fun x13 => rec28 a0 a1 a2 x13 r12
theorem d_X4_copied_28_s_ok {L : xL} {ms : xS} {rr : Nat × xR} {rec18 : Nat → Nat → Int32 → xR → Option (Nat × xR)} {rec28 : Nat → Nat → Int32 → Int32 → xR → Option (Nat × xR)} (hr18 : ∀ {a0 : Nat} {a1 : Nat} {a2 : Int32} {r : xR}, rec18 a0 a1 a2 r = some rr → xB L yX4_copied cX4_copied 4 (some (.object "UnimodularTables$Table")) 2 42 18 [some (.inr (.inr (some (a0))) : xV), some (.inr (.inr (some (a1))) : xV), some (.inl (a2) : xV), none] [] (ms, r) (some (.inr (.inr (some rr.1)))) (ms, rr.2)) (hr28 : ∀ {a0 : Nat} {a1 : Nat} {a2 : Int32} {a3 : Int32} {r : xR}, rec28 a0 a1 a2 a3 r = some rr → xB L yX4_copied cX4_copied 4 (some (.object "UnimodularTables$Table")) 2 42 28 [some (.inr (.inr (some (a0))) : xV), some (.inr (.inr (some (a1))) : xV), some (.inl (a2) : xV), some (.inl (a3) : xV)] [] (ms, r) (some (.inr (.inr (some rr.1)))) (ms, rr.2)) {a0 : Nat} {a1 : Nat} {a2 : Int32} {a3 : Int32} {r : xR} (h : d_X4_copied_28_s L rec18 rec28 a0 a1 a2 a3 r = some rr) : xB L yX4_copied cX4_copied 4 (some (.object "UnimodularTables$Table")) 2 42 28 [some (.inr (.inr (some (a0))) : xV), some (.inr (.inr (some (a1))) : xV), some (.inl (a2) : xV), some (.inl (a3) : xV)] [] (ms, r) (some (.inr (.inr (some rr.1)))) (ms, rr.2) := by
  refine x_iload_n (i := 3) 29 rfl dX4_copied_28 rfl rfl ?_
  refine x_aload_n (i := 0) 30 rfl dX4_copied_29 rfl rfl ?_
  refine d_geti (ci := 2) (k := 1) (C := RX4) (T := TX4) (N := 3) 33 rfl dX4_copied_30 rfl in_X4 (by decide) q357 h (fun x1 h => ?_)
  refine x_icmp_ge 58 36 rfl dX4_copied_33 rfl h (fun h => ?_) (fun h => ?_)
  · refine x_iincL (i := 2) (1 : Int32) 61 rfl dX4_copied_58 rfl rfl (by decide) h (fun x2 h => ?_)
    change xB L yX4_copied cX4_copied 4 (some (.object "UnimodularTables$Table")) 2 42 61 [some (.inr (.inr (some (a0))) : xV), some (.inr (.inr (some (a1))) : xV), some (.inl (x2) : xV), some (.inl (a3) : xV)] [] (ms, r) _ _
    refine x_goto 18 dX4_copied_61 rfl ?_
    exact xB.le (xle.s (xle.s (xle.s (xle.n xle.z)))) (hr18 h)
  · refine x_aload_n (i := 1) 37 rfl dX4_copied_36 rfl rfl ?_
    refine d_getr (ci := 2) (k := 2) (C := RX4) (T := TX4) (N := 3) 40 rfl dX4_copied_37 rfl in_X4 (by decide) q360 h (fun p3 h => ?_)
    refine x_iload_n (i := 2) 41 rfl dX4_copied_40 rfl rfl ?_
    refine x_nnP (P := fun p3 => xB L yX4_copied cX4_copied 4 (some (.object "UnimodularTables$Table")) 2 42 41 [some (.inr (.inr (some (a0))) : xV), some (.inr (.inr (some (a1))) : xV), some (.inl (a2) : xV), some (.inl (a3) : xV)] [(.inl (a2) : xV), (.inr (.inr (p3)) : xV)] (ms, r) (some (.inr (.inr (some rr.1)))) (ms, rr.2)) h (fun p4 h => ?_)
    refine d_aald 42 rfl dX4_copied_41 h (fun p5 h => ?_)
    refine x_iload_n (i := 3) 43 rfl dX4_copied_42 rfl rfl ?_
    refine x_aload_n (i := 0) 44 rfl dX4_copied_43 rfl rfl ?_
    refine d_getr (ci := 2) (k := 2) (C := RX4) (T := TX4) (N := 3) 47 rfl dX4_copied_44 rfl in_X4 (by decide) q360 h (fun p6 h => ?_)
    refine x_iload_n (i := 2) 48 rfl dX4_copied_47 rfl rfl ?_
    refine x_nnP (P := fun p6 => xB L yX4_copied cX4_copied 4 (some (.object "UnimodularTables$Table")) 2 42 48 [some (.inr (.inr (some (a0))) : xV), some (.inr (.inr (some (a1))) : xV), some (.inl (a2) : xV), some (.inl (a3) : xV)] [(.inl (a2) : xV), (.inr (.inr (p6)) : xV), (.inl (a3) : xV), (.inr (.inr (p5)) : xV)] (ms, r) (some (.inr (.inr (some rr.1)))) (ms, rr.2)) h (fun p7 h => ?_)
    refine d_aald 49 rfl dX4_copied_48 h (fun p8 h => ?_)
    refine x_iload_n (i := 3) 50 rfl dX4_copied_49 rfl rfl ?_
    refine x_nnP (P := fun p8 => xB L yX4_copied cX4_copied 4 (some (.object "UnimodularTables$Table")) 2 42 50 [some (.inr (.inr (some (a0))) : xV), some (.inr (.inr (some (a1))) : xV), some (.inl (a2) : xV), some (.inl (a3) : xV)] [(.inl (a3) : xV), (.inr (.inr (p8)) : xV), (.inl (a3) : xV), (.inr (.inr (p5)) : xV)] (ms, r) (some (.inr (.inr (some rr.1)))) (ms, rr.2)) h (fun p9 h => ?_)
    refine d_iald 51 rfl dX4_copied_50 h (fun x10 h => ?_)
    refine x_nnP (P := fun p5 => xB L yX4_copied cX4_copied 4 (some (.object "UnimodularTables$Table")) 2 42 51 [some (.inr (.inr (some (a0))) : xV), some (.inr (.inr (some (a1))) : xV), some (.inl (a2) : xV), some (.inl (a3) : xV)] [(.inl (x10) : xV), (.inl (a3) : xV), (.inr (.inr (p5)) : xV)] (ms, r) (some (.inr (.inr (some rr.1)))) (ms, rr.2)) h (fun p11 h => ?_)
    refine d_iast 52 rfl dX4_copied_51 h (fun r12 h => ?_)
    refine x_iincL (i := 3) (1 : Int32) 55 rfl dX4_copied_52 rfl rfl (by decide) h (fun x13 h => ?_)
    change xB L yX4_copied cX4_copied 4 (some (.object "UnimodularTables$Table")) 2 42 55 [some (.inr (.inr (some (a0))) : xV), some (.inr (.inr (some (a1))) : xV), some (.inl (a2) : xV), some (.inl (x13) : xV)] [] (ms, r12) _ _
    refine x_goto 28 dX4_copied_55 rfl ?_
    exact xB.le (xle.s (xle.s (xle.s (xle.s xle.z)))) (hr28 h)
def d_X4_copied_28_L (L : xL) (rec18 : Nat → Nat → Int32 → xR → Option (Nat × xR)) : Nat → Nat → Nat → Int32 → Int32 → xR → Option (Nat × xR)
  | 0 => fun _ _ _ _ _ => none
  | n + 1 => d_X4_copied_28_s L rec18 (d_X4_copied_28_L L rec18 n)
theorem d_X4_copied_28_L_ok {L : xL} {ms : xS} {rr : Nat × xR} {rec18 : Nat → Nat → Int32 → xR → Option (Nat × xR)} (hr18 : ∀ {a0 : Nat} {a1 : Nat} {a2 : Int32} {r : xR}, rec18 a0 a1 a2 r = some rr → xB L yX4_copied cX4_copied 4 (some (.object "UnimodularTables$Table")) 2 42 18 [some (.inr (.inr (some (a0))) : xV), some (.inr (.inr (some (a1))) : xV), some (.inl (a2) : xV), none] [] (ms, r) (some (.inr (.inr (some rr.1)))) (ms, rr.2)) : ∀ (n9 : Nat) {a0 : Nat} {a1 : Nat} {a2 : Int32} {a3 : Int32} {r : xR}, d_X4_copied_28_L L rec18 n9 a0 a1 a2 a3 r = some rr → xB L yX4_copied cX4_copied 4 (some (.object "UnimodularTables$Table")) 2 42 28 [some (.inr (.inr (some (a0))) : xV), some (.inr (.inr (some (a1))) : xV), some (.inl (a2) : xV), some (.inl (a3) : xV)] [] (ms, r) (some (.inr (.inr (some rr.1)))) (ms, rr.2)
  | 0, _, _, _, _, _, h => by cases h
  | n9 + 1, _, _, _, _, _, h => d_X4_copied_28_s_ok hr18 (d_X4_copied_28_L_ok hr18 n9) h
def d_X4_copied_18_s (L : xL) (rec18 : Nat → Nat → Int32 → xR → Option (Nat × xR)) (a0 : Nat) (a1 : Nat) (a2 : Int32) (r : xR) : Option (Nat × xR) := dgi L r a0 2 0 fun x14 => if x14 ≤ a2 then some (a1, r) else lt ((0 : Int32)) fun x15 => d_X4_copied_28_L L rec18 xFU a0 a1 a2 x15 r
theorem d_X4_copied_18_s_ok {L : xL} {ms : xS} {rr : Nat × xR} {rec18 : Nat → Nat → Int32 → xR → Option (Nat × xR)} (hr18 : ∀ {a0 : Nat} {a1 : Nat} {a2 : Int32} {r : xR}, rec18 a0 a1 a2 r = some rr → xB L yX4_copied cX4_copied 4 (some (.object "UnimodularTables$Table")) 2 42 18 [some (.inr (.inr (some (a0))) : xV), some (.inr (.inr (some (a1))) : xV), some (.inl (a2) : xV), none] [] (ms, r) (some (.inr (.inr (some rr.1)))) (ms, rr.2)) {a0 : Nat} {a1 : Nat} {a2 : Int32} {r : xR} (h : d_X4_copied_18_s L rec18 a0 a1 a2 r = some rr) : xB L yX4_copied cX4_copied 4 (some (.object "UnimodularTables$Table")) 2 42 18 [some (.inr (.inr (some (a0))) : xV), some (.inr (.inr (some (a1))) : xV), some (.inl (a2) : xV), none] [] (ms, r) (some (.inr (.inr (some rr.1)))) (ms, rr.2) := by
  refine x_iload_n (i := 2) 19 rfl dX4_copied_18 rfl rfl ?_
  refine x_aload_n (i := 0) 20 rfl dX4_copied_19 rfl rfl ?_
  refine d_geti (ci := 2) (k := 0) (C := RX4) (T := TX4) (N := 3) 23 rfl dX4_copied_20 rfl in_X4 (by decide) q354 h (fun x14 h => ?_)
  refine x_icmp_ge 64 26 rfl dX4_copied_23 rfl h (fun h => ?_) (fun h => ?_)
  · refine x_aload_n (i := 1) 65 rfl dX4_copied_64 rfl rfl ?_
    cases h
    exact x_aret rfl (Or.inl ⟨_, rfl⟩) dX4_copied_65
  · refine x_iconst (0 : Int32) 27 rfl dX4_copied_26 rfl ?_
    refine x_lti h (fun x15 h => ?_)
    refine x_istore_n 28 rfl dX4_copied_27 rfl (by decide) (lv' := [some (.inr (.inr (some (a0))) : xV), some (.inr (.inr (some (a1))) : xV), some (.inl (a2) : xV), some (.inl (x15) : xV)]) rfl ?_
    exact xB.le (xle.s (xle.s (xle.s (xle.s xle.z)))) (d_X4_copied_28_L_ok hr18 xFU h)
def d_X4_copied_18_L (L : xL) : Nat → Nat → Nat → Int32 → xR → Option (Nat × xR)
  | 0 => fun _ _ _ _ => none
  | n + 1 => d_X4_copied_18_s L (d_X4_copied_18_L L  n)
theorem d_X4_copied_18_L_ok {L : xL} {ms : xS} {rr : Nat × xR} : ∀ (n9 : Nat) {a0 : Nat} {a1 : Nat} {a2 : Int32} {r : xR}, d_X4_copied_18_L L  n9 a0 a1 a2 r = some rr → xB L yX4_copied cX4_copied 4 (some (.object "UnimodularTables$Table")) 2 42 18 [some (.inr (.inr (some (a0))) : xV), some (.inr (.inr (some (a1))) : xV), some (.inl (a2) : xV), none] [] (ms, r) (some (.inr (.inr (some rr.1)))) (ms, rr.2)
  | 0, _, _, _, _, h => by cases h
  | n9 + 1, _, _, _, _, h => d_X4_copied_18_s_ok (d_X4_copied_18_L_ok  n9) h
def d_X4_copied (L : xL) (a0 : Nat) (r : xR) : Option (Nat × xR) := al L r (.inr (.inl (2, xdefV tyX4))) 3 fun p16 r17 => dgi L r17 a0 2 0 fun x18 => dgi L r17 a0 2 1 fun x19 => cl (d_X4_init L p16 x18 x19 r17) fun q20 => lt ((0 : Int32)) fun x21 => d_X4_copied_18_L L xFU a0 p16 x21 q20
theorem d_X4_copied_ct {L : xL} {ms : xS} {rr : Nat × xR} {a0 : Nat} {r : xR} (h : d_X4_copied L a0 r = some rr) : xCt L yX4_copied cX4_copied 4 (some (.object "UnimodularTables$Table")) 2 42 [(.inr (.inr (some (a0))) : xV)] (ms, r) (some (.inr (.inr (some rr.1)))) (ms, rr.2) := by
  refine xCt.of (lv := [some (.inr (.inr (some (a0))) : xV), none, none, none]) pl_X4 (Nat.le_of_ble_eq_true rfl) (xle.s (xle.m (xle.m (xle.m xle.z)))) ?_
  refine d_new (ci := 2) (C := RX4) (T := TX4) (N := 3) tyX4 3 rfl dX4_copied_0 rfl in_X4 tyX4_ok (by decide) q420 q348 q129 h (fun p16 r17 h => ?_)
  refine x_dup 4 rfl dX4_copied_3 rfl ?_
  refine x_aload_n (i := 0) 5 rfl dX4_copied_4 rfl rfl ?_
  refine d_geti (ci := 2) (k := 0) (C := RX4) (T := TX4) (N := 3) 8 rfl dX4_copied_5 rfl in_X4 (by decide) q354 h (fun x18 h => ?_)
  refine x_aload_n (i := 0) 9 rfl dX4_copied_8 rfl rfl ?_
  refine d_geti (ci := 2) (k := 1) (C := RX4) (T := TX4) (N := 3) 12 rfl dX4_copied_9 rfl in_X4 (by decide) q357 h (fun x19 h => ?_)
  refine x_cl h (fun q20 hq h => ?_)
  refine x_callI (as := [(.inl (x18) : xV), (.inl (x19) : xV)]) (w2 := (ms, q20)) [(.inr (.inr (some (p16))) : xV)] 15 rfl dX4_copied_12 (d_X4_init_ct hq) q421 q350 q129 q351 rfl ydX4_init rfl ⟨Nat.le_of_ble_eq_true rfl, Nat.le_of_ble_eq_true rfl⟩ (Nat.le_of_ble_eq_true rfl) rfl ?_
  refine x_astore_n 16 rfl dX4_copied_15 rfl (by decide) (lv' := [some (.inr (.inr (some (a0))) : xV), some (.inr (.inr (some (p16))) : xV), none, none]) rfl ?_
  refine x_iconst (0 : Int32) 17 rfl dX4_copied_16 rfl ?_
  refine x_lti h (fun x21 h => ?_)
  refine x_istore_n 18 rfl dX4_copied_17 rfl (by decide) (lv' := [some (.inr (.inr (some (a0))) : xV), some (.inr (.inr (some (p16))) : xV), some (.inl (x21) : xV), none]) rfl ?_
  exact xB.le (xle.s (xle.s (xle.s (xle.n xle.z)))) (d_X4_copied_18_L_ok xFU h)
/-! UnimodularTables.rowNegated(LUnimodularTables$Table;II)LUnimodularTables$Table; -/
theorem ydX1_rowNegated : xHd yX1_rowNegated 3 := by decide +kernel
def d_X1_rowNegated_8_s (L : xL) (rec8 : Nat → Int32 → Nat → Int32 → xR → Option (Nat × xR)) (a0 : Nat) (a1 : Int32) (a3 : Nat) (a4 : Int32) (r : xR) : Option (Nat × xR) := dgi L r a0 2 1 fun x1 => if x1 ≤ a4 then some (a3, r) else dgr L r a3 2 2 fun p2 => nn p2 fun p3 => dar L r p3 a1 fun p4 => dgr L r a0 2 2 fun p5 => nn p5 fun p6 => dar L r p6 a1 fun p7 => nn p7 fun p8 => dai L r p8 a4 fun x9 => nn p4 fun p10 => daw L r p10 a4 (-x9) fun r11 => lt (a4 + (1 : Int32)) fun x12 => rec8 a0 a1 a3 x12 r11
theorem d_X1_rowNegated_8_s_ok {L : xL} {ms : xS} {rr : Nat × xR} {rec8 : Nat → Int32 → Nat → Int32 → xR → Option (Nat × xR)} (hr8 : ∀ {a0 : Nat} {a1 : Int32} {a3 : Nat} {a4 : Int32} {r : xR}, rec8 a0 a1 a3 a4 r = some rr → xB L yX1_rowNegated cX1_rowNegated 5 (some (.object "UnimodularTables$Table")) 3 65 8 [some (.inr (.inr (some (a0))) : xV), some (.inl (a1) : xV), none, some (.inr (.inr (some (a3))) : xV), some (.inl (a4) : xV)] [] (ms, r) (some (.inr (.inr (some rr.1)))) (ms, rr.2)) {a0 : Nat} {a1 : Int32} {a3 : Nat} {a4 : Int32} {r : xR} (h : d_X1_rowNegated_8_s L rec8 a0 a1 a3 a4 r = some rr) : xB L yX1_rowNegated cX1_rowNegated 5 (some (.object "UnimodularTables$Table")) 3 65 8 [some (.inr (.inr (some (a0))) : xV), some (.inl (a1) : xV), none, some (.inr (.inr (some (a3))) : xV), some (.inl (a4) : xV)] [] (ms, r) (some (.inr (.inr (some rr.1)))) (ms, rr.2) := by
  refine x_iload (i := 4) 10 rfl dX1_rowNegated_8 rfl ?_
  refine x_aload_n (i := 0) 11 rfl dX1_rowNegated_10 rfl rfl ?_
  refine d_getiN (ci := 2) (k := 1) (C := RX4) (T := TX4) (N := 3) 14 rfl dX1_rowNegated_11 rfl in_X4 (by decide) (List.mem_of_getElem? (i := 7) rfl) h (fun x1 h => ?_)
  refine x_icmp_ge 42 17 rfl dX1_rowNegated_14 rfl h (fun h => ?_) (fun h => ?_)
  · refine x_aload_n (i := 3) 43 rfl dX1_rowNegated_42 rfl rfl ?_
    cases h
    exact x_aret rfl (Or.inl ⟨_, rfl⟩) dX1_rowNegated_43
  · refine x_aload_n (i := 3) 18 rfl dX1_rowNegated_17 rfl rfl ?_
    refine d_getrN (ci := 2) (k := 2) (C := RX4) (T := TX4) (N := 3) 21 rfl dX1_rowNegated_18 rfl in_X4 (by decide) (List.mem_of_getElem? (i := 9) rfl) h (fun p2 h => ?_)
    refine x_iload_n (i := 1) 22 rfl dX1_rowNegated_21 rfl rfl ?_
    refine x_nnP (P := fun p2 => xB L yX1_rowNegated cX1_rowNegated 5 (some (.object "UnimodularTables$Table")) 3 65 22 [some (.inr (.inr (some (a0))) : xV), some (.inl (a1) : xV), none, some (.inr (.inr (some (a3))) : xV), some (.inl (a4) : xV)] [(.inl (a1) : xV), (.inr (.inr (p2)) : xV)] (ms, r) (some (.inr (.inr (some rr.1)))) (ms, rr.2)) h (fun p3 h => ?_)
    refine d_aald 23 rfl dX1_rowNegated_22 h (fun p4 h => ?_)
    refine x_iload (i := 4) 25 rfl dX1_rowNegated_23 rfl ?_
    refine x_aload_n (i := 0) 26 rfl dX1_rowNegated_25 rfl rfl ?_
    refine d_getrN (ci := 2) (k := 2) (C := RX4) (T := TX4) (N := 3) 29 rfl dX1_rowNegated_26 rfl in_X4 (by decide) (List.mem_of_getElem? (i := 9) rfl) h (fun p5 h => ?_)
    refine x_iload_n (i := 1) 30 rfl dX1_rowNegated_29 rfl rfl ?_
    refine x_nnP (P := fun p5 => xB L yX1_rowNegated cX1_rowNegated 5 (some (.object "UnimodularTables$Table")) 3 65 30 [some (.inr (.inr (some (a0))) : xV), some (.inl (a1) : xV), none, some (.inr (.inr (some (a3))) : xV), some (.inl (a4) : xV)] [(.inl (a1) : xV), (.inr (.inr (p5)) : xV), (.inl (a4) : xV), (.inr (.inr (p4)) : xV)] (ms, r) (some (.inr (.inr (some rr.1)))) (ms, rr.2)) h (fun p6 h => ?_)
    refine d_aald 31 rfl dX1_rowNegated_30 h (fun p7 h => ?_)
    refine x_iload (i := 4) 33 rfl dX1_rowNegated_31 rfl ?_
    refine x_nnP (P := fun p7 => xB L yX1_rowNegated cX1_rowNegated 5 (some (.object "UnimodularTables$Table")) 3 65 33 [some (.inr (.inr (some (a0))) : xV), some (.inl (a1) : xV), none, some (.inr (.inr (some (a3))) : xV), some (.inl (a4) : xV)] [(.inl (a4) : xV), (.inr (.inr (p7)) : xV), (.inl (a4) : xV), (.inr (.inr (p4)) : xV)] (ms, r) (some (.inr (.inr (some rr.1)))) (ms, rr.2)) h (fun p8 h => ?_)
    refine d_iald 34 rfl dX1_rowNegated_33 h (fun x9 h => ?_)
    refine x_ineg 35 rfl dX1_rowNegated_34 ?_
    refine x_nnP (P := fun p4 => xB L yX1_rowNegated cX1_rowNegated 5 (some (.object "UnimodularTables$Table")) 3 65 35 [some (.inr (.inr (some (a0))) : xV), some (.inl (a1) : xV), none, some (.inr (.inr (some (a3))) : xV), some (.inl (a4) : xV)] [(.inl (-x9) : xV), (.inl (a4) : xV), (.inr (.inr (p4)) : xV)] (ms, r) (some (.inr (.inr (some rr.1)))) (ms, rr.2)) h (fun p10 h => ?_)
    refine d_iast 36 rfl dX1_rowNegated_35 h (fun r11 h => ?_)
    refine x_iincL (i := 4) (1 : Int32) 39 rfl dX1_rowNegated_36 rfl rfl (by decide) h (fun x12 h => ?_)
    change xB L yX1_rowNegated cX1_rowNegated 5 (some (.object "UnimodularTables$Table")) 3 65 39 [some (.inr (.inr (some (a0))) : xV), some (.inl (a1) : xV), none, some (.inr (.inr (some (a3))) : xV), some (.inl (x12) : xV)] [] (ms, r11) _ _
    refine x_goto 8 dX1_rowNegated_39 rfl ?_
    exact xB.le (xle.s (xle.s (xle.n (xle.s (xle.s xle.z))))) (hr8 h)
def d_X1_rowNegated_8_L (L : xL) : Nat → Nat → Int32 → Nat → Int32 → xR → Option (Nat × xR)
  | 0 => fun _ _ _ _ _ => none
  | n + 1 => d_X1_rowNegated_8_s L (d_X1_rowNegated_8_L L  n)
theorem d_X1_rowNegated_8_L_ok {L : xL} {ms : xS} {rr : Nat × xR} : ∀ (n9 : Nat) {a0 : Nat} {a1 : Int32} {a3 : Nat} {a4 : Int32} {r : xR}, d_X1_rowNegated_8_L L  n9 a0 a1 a3 a4 r = some rr → xB L yX1_rowNegated cX1_rowNegated 5 (some (.object "UnimodularTables$Table")) 3 65 8 [some (.inr (.inr (some (a0))) : xV), some (.inl (a1) : xV), none, some (.inr (.inr (some (a3))) : xV), some (.inl (a4) : xV)] [] (ms, r) (some (.inr (.inr (some rr.1)))) (ms, rr.2)
  | 0, _, _, _, _, _, h => by cases h
  | n9 + 1, _, _, _, _, _, h => d_X1_rowNegated_8_s_ok (d_X1_rowNegated_8_L_ok  n9) h
def d_X1_rowNegated (L : xL) (a0 : Nat) (a1 : Int32) (a2 : Int32) (r : xR) : Option (Nat × xR) := dcl L r a0 2 <| cl (d_X4_copied L a0 r) fun q13 => lt ((0 : Int32)) fun x14 => d_X1_rowNegated_8_L L xFU a0 a1 q13.1 x14 q13.2
theorem d_X1_rowNegated_ct {L : xL} {ms : xS} {rr : Nat × xR} {a0 : Nat} {a1 : Int32} {a2 : Int32} {r : xR} (h : d_X1_rowNegated L a0 a1 a2 r = some rr) : xCt L yX1_rowNegated cX1_rowNegated 5 (some (.object "UnimodularTables$Table")) 3 65 [(.inr (.inr (some (a0))) : xV), (.inl (a1) : xV), (.inl (a2) : xV)] (ms, r) (some (.inr (.inr (some rr.1)))) (ms, rr.2) := by
  refine xCt.of (lv := [some (.inr (.inr (some (a0))) : xV), some (.inl (a1) : xV), some (.inl (a2) : xV), none, none]) pl_X1 (Nat.le_of_ble_eq_true rfl) (xle.s (xle.s (xle.s (xle.m (xle.m xle.z))))) ?_
  refine x_aload_n (i := 0) 1 rfl dX1_rowNegated_0 rfl rfl ?_
  refine x_dcl (ms := ms) h (fun V9 hc h => ?_)
  refine x_cl h (fun q13 hq h => ?_)
  refine x_callV (as := []) (rest := []) (vv := (some (.inr (.inr (some (q13.1))) : xV))) (w2 := (ms, q13.2)) (C := RX4) (T := TX4) (N := 3) 4 rfl dX1_rowNegated_1 (d_X4_copied_ct hq) hc rfl (lw_V q416 q417 q418 q129 q419) rfl ydX4_copied rfl ⟨Nat.le_of_ble_eq_true rfl, Nat.le_of_ble_eq_true rfl⟩ (Nat.le_of_ble_eq_true rfl) rfl ?_
  change xB L yX1_rowNegated cX1_rowNegated 5 (some (.object "UnimodularTables$Table")) 3 65 4 [some (.inr (.inr (some (a0))) : xV), some (.inl (a1) : xV), some (.inl (a2) : xV), none, none] [(.inr (.inr (some (q13.1))) : xV)] (ms, q13.2) _ _
  refine x_astore_n 5 rfl dX1_rowNegated_4 rfl (by decide) (lv' := [some (.inr (.inr (some (a0))) : xV), some (.inl (a1) : xV), some (.inl (a2) : xV), some (.inr (.inr (some (q13.1))) : xV), none]) rfl ?_
  refine x_iconst (0 : Int32) 6 rfl dX1_rowNegated_5 rfl ?_
  refine x_lti h (fun x14 h => ?_)
  refine x_istore 8 rfl dX1_rowNegated_6 (by decide) (lv' := [some (.inr (.inr (some (a0))) : xV), some (.inl (a1) : xV), some (.inl (a2) : xV), some (.inr (.inr (some (q13.1))) : xV), some (.inl (x14) : xV)]) rfl ?_
  exact xB.le (xle.s (xle.s (xle.n (xle.s (xle.s xle.z))))) (d_X1_rowNegated_8_L_ok xFU h)
/-! UnimodularTables.rowsChanged(LUnimodularTables$Table;II)LUnimodularTables$Table; -/
theorem ydX1_rowsChanged : xHd yX1_rowsChanged 3 := by decide +kernel
def d_X1_rowsChanged_8_s (L : xL) (rec8 : Nat → Int32 → Int32 → Nat → Int32 → xR → Option (Nat × xR)) (a0 : Nat) (a1 : Int32) (a2 : Int32) (a3 : Nat) (a4 : Int32) (r : xR) : Option (Nat × xR) := dgi L r a0 2 1 fun x1 => if x1 ≤ a4 then some (a3, r) else dgr L r a3 2 2 fun p2 => nn p2 fun p3 => dar L r p3 a1 fun p4 => dgr L r a0 2 2 fun p5 => nn p5 fun p6 => dar L r p6 a2 fun p7 => nn p7 fun p8 => dai L r p8 a4 fun x9 => nn p4 fun p10 => daw L r p10 a4 x9 fun r11 => dgr L r11 a3 2 2 fun p12 => nn p12 fun p13 => dar L r11 p13 a2 fun p14 => dgr L r11 a0 2 2 fun p15 => nn p15 fun p16 => dar L r11 p16 a1 fun p17 => nn p17 fun p18 => dai L r11 p18 a4 fun x19 => nn p14 fun p20 => daw L r11 p20 a4 x19 fun r21 => lt (a4 + (1 : Int32)) fun x22 => rec8 a0 a1 a2 a3 x22 r21
theorem d_X1_rowsChanged_8_s_ok {L : xL} {ms : xS} {rr : Nat × xR} {rec8 : Nat → Int32 → Int32 → Nat → Int32 → xR → Option (Nat × xR)} (hr8 : ∀ {a0 : Nat} {a1 : Int32} {a2 : Int32} {a3 : Nat} {a4 : Int32} {r : xR}, rec8 a0 a1 a2 a3 a4 r = some rr → xB L yX1_rowsChanged cX1_rowsChanged 5 (some (.object "UnimodularTables$Table")) 3 65 8 [some (.inr (.inr (some (a0))) : xV), some (.inl (a1) : xV), some (.inl (a2) : xV), some (.inr (.inr (some (a3))) : xV), some (.inl (a4) : xV)] [] (ms, r) (some (.inr (.inr (some rr.1)))) (ms, rr.2)) {a0 : Nat} {a1 : Int32} {a2 : Int32} {a3 : Nat} {a4 : Int32} {r : xR} (h : d_X1_rowsChanged_8_s L rec8 a0 a1 a2 a3 a4 r = some rr) : xB L yX1_rowsChanged cX1_rowsChanged 5 (some (.object "UnimodularTables$Table")) 3 65 8 [some (.inr (.inr (some (a0))) : xV), some (.inl (a1) : xV), some (.inl (a2) : xV), some (.inr (.inr (some (a3))) : xV), some (.inl (a4) : xV)] [] (ms, r) (some (.inr (.inr (some rr.1)))) (ms, rr.2) := by
  refine x_iload (i := 4) 10 rfl dX1_rowsChanged_8 rfl ?_
  refine x_aload_n (i := 0) 11 rfl dX1_rowsChanged_10 rfl rfl ?_
  refine d_getiN (ci := 2) (k := 1) (C := RX4) (T := TX4) (N := 3) 14 rfl dX1_rowsChanged_11 rfl in_X4 (by decide) (List.mem_of_getElem? (i := 7) rfl) h (fun x1 h => ?_)
  refine x_icmp_ge 59 17 rfl dX1_rowsChanged_14 rfl h (fun h => ?_) (fun h => ?_)
  · refine x_aload_n (i := 3) 60 rfl dX1_rowsChanged_59 rfl rfl ?_
    cases h
    exact x_aret rfl (Or.inl ⟨_, rfl⟩) dX1_rowsChanged_60
  · refine x_aload_n (i := 3) 18 rfl dX1_rowsChanged_17 rfl rfl ?_
    refine d_getrN (ci := 2) (k := 2) (C := RX4) (T := TX4) (N := 3) 21 rfl dX1_rowsChanged_18 rfl in_X4 (by decide) (List.mem_of_getElem? (i := 9) rfl) h (fun p2 h => ?_)
    refine x_iload_n (i := 1) 22 rfl dX1_rowsChanged_21 rfl rfl ?_
    refine x_nnP (P := fun p2 => xB L yX1_rowsChanged cX1_rowsChanged 5 (some (.object "UnimodularTables$Table")) 3 65 22 [some (.inr (.inr (some (a0))) : xV), some (.inl (a1) : xV), some (.inl (a2) : xV), some (.inr (.inr (some (a3))) : xV), some (.inl (a4) : xV)] [(.inl (a1) : xV), (.inr (.inr (p2)) : xV)] (ms, r) (some (.inr (.inr (some rr.1)))) (ms, rr.2)) h (fun p3 h => ?_)
    refine d_aald 23 rfl dX1_rowsChanged_22 h (fun p4 h => ?_)
    refine x_iload (i := 4) 25 rfl dX1_rowsChanged_23 rfl ?_
    refine x_aload_n (i := 0) 26 rfl dX1_rowsChanged_25 rfl rfl ?_
    refine d_getrN (ci := 2) (k := 2) (C := RX4) (T := TX4) (N := 3) 29 rfl dX1_rowsChanged_26 rfl in_X4 (by decide) (List.mem_of_getElem? (i := 9) rfl) h (fun p5 h => ?_)
    refine x_iload_n (i := 2) 30 rfl dX1_rowsChanged_29 rfl rfl ?_
    refine x_nnP (P := fun p5 => xB L yX1_rowsChanged cX1_rowsChanged 5 (some (.object "UnimodularTables$Table")) 3 65 30 [some (.inr (.inr (some (a0))) : xV), some (.inl (a1) : xV), some (.inl (a2) : xV), some (.inr (.inr (some (a3))) : xV), some (.inl (a4) : xV)] [(.inl (a2) : xV), (.inr (.inr (p5)) : xV), (.inl (a4) : xV), (.inr (.inr (p4)) : xV)] (ms, r) (some (.inr (.inr (some rr.1)))) (ms, rr.2)) h (fun p6 h => ?_)
    refine d_aald 31 rfl dX1_rowsChanged_30 h (fun p7 h => ?_)
    refine x_iload (i := 4) 33 rfl dX1_rowsChanged_31 rfl ?_
    refine x_nnP (P := fun p7 => xB L yX1_rowsChanged cX1_rowsChanged 5 (some (.object "UnimodularTables$Table")) 3 65 33 [some (.inr (.inr (some (a0))) : xV), some (.inl (a1) : xV), some (.inl (a2) : xV), some (.inr (.inr (some (a3))) : xV), some (.inl (a4) : xV)] [(.inl (a4) : xV), (.inr (.inr (p7)) : xV), (.inl (a4) : xV), (.inr (.inr (p4)) : xV)] (ms, r) (some (.inr (.inr (some rr.1)))) (ms, rr.2)) h (fun p8 h => ?_)
    refine d_iald 34 rfl dX1_rowsChanged_33 h (fun x9 h => ?_)
    refine x_nnP (P := fun p4 => xB L yX1_rowsChanged cX1_rowsChanged 5 (some (.object "UnimodularTables$Table")) 3 65 34 [some (.inr (.inr (some (a0))) : xV), some (.inl (a1) : xV), some (.inl (a2) : xV), some (.inr (.inr (some (a3))) : xV), some (.inl (a4) : xV)] [(.inl (x9) : xV), (.inl (a4) : xV), (.inr (.inr (p4)) : xV)] (ms, r) (some (.inr (.inr (some rr.1)))) (ms, rr.2)) h (fun p10 h => ?_)
    refine d_iast 35 rfl dX1_rowsChanged_34 h (fun r11 h => ?_)
    refine x_aload_n (i := 3) 36 rfl dX1_rowsChanged_35 rfl rfl ?_
    refine d_getrN (ci := 2) (k := 2) (C := RX4) (T := TX4) (N := 3) 39 rfl dX1_rowsChanged_36 rfl in_X4 (by decide) (List.mem_of_getElem? (i := 9) rfl) h (fun p12 h => ?_)
    refine x_iload_n (i := 2) 40 rfl dX1_rowsChanged_39 rfl rfl ?_
    refine x_nnP (P := fun p12 => xB L yX1_rowsChanged cX1_rowsChanged 5 (some (.object "UnimodularTables$Table")) 3 65 40 [some (.inr (.inr (some (a0))) : xV), some (.inl (a1) : xV), some (.inl (a2) : xV), some (.inr (.inr (some (a3))) : xV), some (.inl (a4) : xV)] [(.inl (a2) : xV), (.inr (.inr (p12)) : xV)] (ms, r11) (some (.inr (.inr (some rr.1)))) (ms, rr.2)) h (fun p13 h => ?_)
    refine d_aald 41 rfl dX1_rowsChanged_40 h (fun p14 h => ?_)
    refine x_iload (i := 4) 43 rfl dX1_rowsChanged_41 rfl ?_
    refine x_aload_n (i := 0) 44 rfl dX1_rowsChanged_43 rfl rfl ?_
    refine d_getrN (ci := 2) (k := 2) (C := RX4) (T := TX4) (N := 3) 47 rfl dX1_rowsChanged_44 rfl in_X4 (by decide) (List.mem_of_getElem? (i := 9) rfl) h (fun p15 h => ?_)
    refine x_iload_n (i := 1) 48 rfl dX1_rowsChanged_47 rfl rfl ?_
    refine x_nnP (P := fun p15 => xB L yX1_rowsChanged cX1_rowsChanged 5 (some (.object "UnimodularTables$Table")) 3 65 48 [some (.inr (.inr (some (a0))) : xV), some (.inl (a1) : xV), some (.inl (a2) : xV), some (.inr (.inr (some (a3))) : xV), some (.inl (a4) : xV)] [(.inl (a1) : xV), (.inr (.inr (p15)) : xV), (.inl (a4) : xV), (.inr (.inr (p14)) : xV)] (ms, r11) (some (.inr (.inr (some rr.1)))) (ms, rr.2)) h (fun p16 h => ?_)
    refine d_aald 49 rfl dX1_rowsChanged_48 h (fun p17 h => ?_)
    refine x_iload (i := 4) 51 rfl dX1_rowsChanged_49 rfl ?_
    refine x_nnP (P := fun p17 => xB L yX1_rowsChanged cX1_rowsChanged 5 (some (.object "UnimodularTables$Table")) 3 65 51 [some (.inr (.inr (some (a0))) : xV), some (.inl (a1) : xV), some (.inl (a2) : xV), some (.inr (.inr (some (a3))) : xV), some (.inl (a4) : xV)] [(.inl (a4) : xV), (.inr (.inr (p17)) : xV), (.inl (a4) : xV), (.inr (.inr (p14)) : xV)] (ms, r11) (some (.inr (.inr (some rr.1)))) (ms, rr.2)) h (fun p18 h => ?_)
    refine d_iald 52 rfl dX1_rowsChanged_51 h (fun x19 h => ?_)
    refine x_nnP (P := fun p14 => xB L yX1_rowsChanged cX1_rowsChanged 5 (some (.object "UnimodularTables$Table")) 3 65 52 [some (.inr (.inr (some (a0))) : xV), some (.inl (a1) : xV), some (.inl (a2) : xV), some (.inr (.inr (some (a3))) : xV), some (.inl (a4) : xV)] [(.inl (x19) : xV), (.inl (a4) : xV), (.inr (.inr (p14)) : xV)] (ms, r11) (some (.inr (.inr (some rr.1)))) (ms, rr.2)) h (fun p20 h => ?_)
    refine d_iast 53 rfl dX1_rowsChanged_52 h (fun r21 h => ?_)
    refine x_iincL (i := 4) (1 : Int32) 56 rfl dX1_rowsChanged_53 rfl rfl (by decide) h (fun x22 h => ?_)
    change xB L yX1_rowsChanged cX1_rowsChanged 5 (some (.object "UnimodularTables$Table")) 3 65 56 [some (.inr (.inr (some (a0))) : xV), some (.inl (a1) : xV), some (.inl (a2) : xV), some (.inr (.inr (some (a3))) : xV), some (.inl (x22) : xV)] [] (ms, r21) _ _
    refine x_goto 8 dX1_rowsChanged_56 rfl ?_
    exact xB.le (xle.s (xle.s (xle.s (xle.s (xle.s xle.z))))) (hr8 h)
def d_X1_rowsChanged_8_L (L : xL) : Nat → Nat → Int32 → Int32 → Nat → Int32 → xR → Option (Nat × xR)
  | 0 => fun _ _ _ _ _ _ => none
  | n + 1 => d_X1_rowsChanged_8_s L (d_X1_rowsChanged_8_L L  n)
theorem d_X1_rowsChanged_8_L_ok {L : xL} {ms : xS} {rr : Nat × xR} : ∀ (n9 : Nat) {a0 : Nat} {a1 : Int32} {a2 : Int32} {a3 : Nat} {a4 : Int32} {r : xR}, d_X1_rowsChanged_8_L L  n9 a0 a1 a2 a3 a4 r = some rr → xB L yX1_rowsChanged cX1_rowsChanged 5 (some (.object "UnimodularTables$Table")) 3 65 8 [some (.inr (.inr (some (a0))) : xV), some (.inl (a1) : xV), some (.inl (a2) : xV), some (.inr (.inr (some (a3))) : xV), some (.inl (a4) : xV)] [] (ms, r) (some (.inr (.inr (some rr.1)))) (ms, rr.2)
  | 0, _, _, _, _, _, _, h => by cases h
  | n9 + 1, _, _, _, _, _, _, h => d_X1_rowsChanged_8_s_ok (d_X1_rowsChanged_8_L_ok  n9) h
def d_X1_rowsChanged (L : xL) (a0 : Nat) (a1 : Int32) (a2 : Int32) (r : xR) : Option (Nat × xR) := dcl L r a0 2 <| cl (d_X4_copied L a0 r) fun q23 => lt ((0 : Int32)) fun x24 => d_X1_rowsChanged_8_L L xFU a0 a1 a2 q23.1 x24 q23.2
theorem d_X1_rowsChanged_ct {L : xL} {ms : xS} {rr : Nat × xR} {a0 : Nat} {a1 : Int32} {a2 : Int32} {r : xR} (h : d_X1_rowsChanged L a0 a1 a2 r = some rr) : xCt L yX1_rowsChanged cX1_rowsChanged 5 (some (.object "UnimodularTables$Table")) 3 65 [(.inr (.inr (some (a0))) : xV), (.inl (a1) : xV), (.inl (a2) : xV)] (ms, r) (some (.inr (.inr (some rr.1)))) (ms, rr.2) := by
  refine xCt.of (lv := [some (.inr (.inr (some (a0))) : xV), some (.inl (a1) : xV), some (.inl (a2) : xV), none, none]) pl_X1 (Nat.le_of_ble_eq_true rfl) (xle.s (xle.s (xle.s (xle.m (xle.m xle.z))))) ?_
  refine x_aload_n (i := 0) 1 rfl dX1_rowsChanged_0 rfl rfl ?_
  refine x_dcl (ms := ms) h (fun V9 hc h => ?_)
  refine x_cl h (fun q23 hq h => ?_)
  refine x_callV (as := []) (rest := []) (vv := (some (.inr (.inr (some (q23.1))) : xV))) (w2 := (ms, q23.2)) (C := RX4) (T := TX4) (N := 3) 4 rfl dX1_rowsChanged_1 (d_X4_copied_ct hq) hc rfl (lw_V q416 q417 q418 q129 q419) rfl ydX4_copied rfl ⟨Nat.le_of_ble_eq_true rfl, Nat.le_of_ble_eq_true rfl⟩ (Nat.le_of_ble_eq_true rfl) rfl ?_
  change xB L yX1_rowsChanged cX1_rowsChanged 5 (some (.object "UnimodularTables$Table")) 3 65 4 [some (.inr (.inr (some (a0))) : xV), some (.inl (a1) : xV), some (.inl (a2) : xV), none, none] [(.inr (.inr (some (q23.1))) : xV)] (ms, q23.2) _ _
  refine x_astore_n 5 rfl dX1_rowsChanged_4 rfl (by decide) (lv' := [some (.inr (.inr (some (a0))) : xV), some (.inl (a1) : xV), some (.inl (a2) : xV), some (.inr (.inr (some (q23.1))) : xV), none]) rfl ?_
  refine x_iconst (0 : Int32) 6 rfl dX1_rowsChanged_5 rfl ?_
  refine x_lti h (fun x24 h => ?_)
  refine x_istore 8 rfl dX1_rowsChanged_6 (by decide) (lv' := [some (.inr (.inr (some (a0))) : xV), some (.inl (a1) : xV), some (.inl (a2) : xV), some (.inr (.inr (some (q23.1))) : xV), some (.inl (x24) : xV)]) rfl ?_
  exact xB.le (xle.s (xle.s (xle.s (xle.s (xle.s xle.z))))) (d_X1_rowsChanged_8_L_ok xFU h)
/-! UnimodularTables.rowDropped(LUnimodularTables$Table;II)LUnimodularTables$Table; -/
theorem ydX1_rowDropped : xHd yX1_rowDropped 3 := by decide +kernel
def d_X1_rowDropped_70 (L : xL) (rec21 : Nat → Int32 → Nat → Int32 → xR → Option (Nat × xR)) (rec33 : Nat → Int32 → Nat → Int32 → Int32 → xR → Option (Nat × xR)) (a0 : Nat) (a1 : Int32) (a3 : Nat) (a4 : Int32) (a5 : Int32) (s0 : Int32) (s1 : Option Nat) (s2 : Int32) (s3 : Option Nat) (r : xR) : Option (Nat × xR) := nn s1 fun p1 => dar L r p1 s0 fun p2 => nn p2 fun p3 => dai L r p3 a5 fun x4 => nn s3 fun p5 => daw L r p5 s2 x4 fun r6 => lt (a5 + (1 : Int32)) fun x7 => rec33 a0 a1 a3 a4 x7 r6
theorem d_X1_rowDropped_70_ok {L : xL} {ms : xS} {rr : Nat × xR} {rec21 : Nat → Int32 → Nat → Int32 → xR → Option (Nat × xR)} {rec33 : Nat → Int32 → Nat → Int32 → Int32 → xR → Option (Nat × xR)} (hr21 : ∀ {a0 : Nat} {a1 : Int32} {a3 : Nat} {a4 : Int32} {r : xR}, rec21 a0 a1 a3 a4 r = some rr → xB L yX1_rowDropped cX1_rowDropped 6 (some (.object "UnimodularTables$Table")) 2 42 21 [some (.inr (.inr (some (a0))) : xV), some (.inl (a1) : xV), none, some (.inr (.inr (some (a3))) : xV), some (.inl (a4) : xV), none] [] (ms, r) (some (.inr (.inr (some rr.1)))) (ms, rr.2)) (hr33 : ∀ {a0 : Nat} {a1 : Int32} {a3 : Nat} {a4 : Int32} {a5 : Int32} {r : xR}, rec33 a0 a1 a3 a4 a5 r = some rr → xB L yX1_rowDropped cX1_rowDropped 6 (some (.object "UnimodularTables$Table")) 2 42 33 [some (.inr (.inr (some (a0))) : xV), some (.inl (a1) : xV), none, some (.inr (.inr (some (a3))) : xV), some (.inl (a4) : xV), some (.inl (a5) : xV)] [] (ms, r) (some (.inr (.inr (some rr.1)))) (ms, rr.2)) {a0 : Nat} {a1 : Int32} {a3 : Nat} {a4 : Int32} {a5 : Int32} {s0 : Int32} {s1 : Option Nat} {s2 : Int32} {s3 : Option Nat} {r : xR} (h : d_X1_rowDropped_70 L rec21 rec33 a0 a1 a3 a4 a5 s0 s1 s2 s3 r = some rr) : xB L yX1_rowDropped cX1_rowDropped 6 (some (.object "UnimodularTables$Table")) 2 42 70 [some (.inr (.inr (some (a0))) : xV), some (.inl (a1) : xV), none, some (.inr (.inr (some (a3))) : xV), some (.inl (a4) : xV), some (.inl (a5) : xV)] [(.inl (s0) : xV), (.inr (.inr (s1)) : xV), (.inl (s2) : xV), (.inr (.inr (s3)) : xV)] (ms, r) (some (.inr (.inr (some rr.1)))) (ms, rr.2) := by
  refine x_nnP (P := fun s1 => xB L yX1_rowDropped cX1_rowDropped 6 (some (.object "UnimodularTables$Table")) 2 42 70 [some (.inr (.inr (some (a0))) : xV), some (.inl (a1) : xV), none, some (.inr (.inr (some (a3))) : xV), some (.inl (a4) : xV), some (.inl (a5) : xV)] [(.inl (s0) : xV), (.inr (.inr (s1)) : xV), (.inl (s2) : xV), (.inr (.inr (s3)) : xV)] (ms, r) (some (.inr (.inr (some rr.1)))) (ms, rr.2)) h (fun p1 h => ?_)
  refine d_aald 71 rfl dX1_rowDropped_70 h (fun p2 h => ?_)
  refine x_iload (i := 5) 73 rfl dX1_rowDropped_71 rfl ?_
  refine x_nnP (P := fun p2 => xB L yX1_rowDropped cX1_rowDropped 6 (some (.object "UnimodularTables$Table")) 2 42 73 [some (.inr (.inr (some (a0))) : xV), some (.inl (a1) : xV), none, some (.inr (.inr (some (a3))) : xV), some (.inl (a4) : xV), some (.inl (a5) : xV)] [(.inl (a5) : xV), (.inr (.inr (p2)) : xV), (.inl (s2) : xV), (.inr (.inr (s3)) : xV)] (ms, r) (some (.inr (.inr (some rr.1)))) (ms, rr.2)) h (fun p3 h => ?_)
  refine d_iald 74 rfl dX1_rowDropped_73 h (fun x4 h => ?_)
  refine x_nnP (P := fun s3 => xB L yX1_rowDropped cX1_rowDropped 6 (some (.object "UnimodularTables$Table")) 2 42 74 [some (.inr (.inr (some (a0))) : xV), some (.inl (a1) : xV), none, some (.inr (.inr (some (a3))) : xV), some (.inl (a4) : xV), some (.inl (a5) : xV)] [(.inl (x4) : xV), (.inl (s2) : xV), (.inr (.inr (s3)) : xV)] (ms, r) (some (.inr (.inr (some rr.1)))) (ms, rr.2)) h (fun p5 h => ?_)
  refine d_iast 75 rfl dX1_rowDropped_74 h (fun r6 h => ?_)
  refine x_iincL (i := 5) (1 : Int32) 78 rfl dX1_rowDropped_75 rfl rfl (by decide) h (fun x7 h => ?_)
  change xB L yX1_rowDropped cX1_rowDropped 6 (some (.object "UnimodularTables$Table")) 2 42 78 [some (.inr (.inr (some (a0))) : xV), some (.inl (a1) : xV), none, some (.inr (.inr (some (a3))) : xV), some (.inl (a4) : xV), some (.inl (x7) : xV)] [] (ms, r6) _ _
  refine x_goto 33 dX1_rowDropped_78 rfl ?_
  exact xB.le (xle.s (xle.s (xle.n (xle.s (xle.s (xle.s xle.z)))))) (hr33 h)
def d_X1_rowDropped_33_s (L : xL) (rec21 : Nat → Int32 → Nat → Int32 → xR → Option (Nat × xR)) (rec33 : Nat → Int32 → Nat → Int32 → Int32 → xR → Option (Nat × xR)) (a0 : Nat) (a1 : Int32) (a3 : Nat) (a4 : Int32) (a5 : Int32) (r : xR) : Option (Nat × xR) := dgi L r a0 2 1 fun x8 => if x8 ≤ a5 then lt (a4 + (1 : Int32)) fun x9 => rec21 a0 a1 a3 x9 r else dgr L r a3 2 2 fun p10 => nn p10 fun p11 => dar L r p11 a4 fun p12 => dgr L r a0 2 2 fun p13 => if a1 ≤ a4 then d_X1_rowDropped_70 L rec21 rec33 a0 a1 a3 a4 a5 (a4 + (1 : Int32)) p13 a5 p12 r else d_X1_rowDropped_70 L rec21 rec33 a0 a1 a3 a4 a5 a4 p13 a5 p12 r
theorem d_X1_rowDropped_33_s_ok {L : xL} {ms : xS} {rr : Nat × xR} {rec21 : Nat → Int32 → Nat → Int32 → xR → Option (Nat × xR)} {rec33 : Nat → Int32 → Nat → Int32 → Int32 → xR → Option (Nat × xR)} (hr21 : ∀ {a0 : Nat} {a1 : Int32} {a3 : Nat} {a4 : Int32} {r : xR}, rec21 a0 a1 a3 a4 r = some rr → xB L yX1_rowDropped cX1_rowDropped 6 (some (.object "UnimodularTables$Table")) 2 42 21 [some (.inr (.inr (some (a0))) : xV), some (.inl (a1) : xV), none, some (.inr (.inr (some (a3))) : xV), some (.inl (a4) : xV), none] [] (ms, r) (some (.inr (.inr (some rr.1)))) (ms, rr.2)) (hr33 : ∀ {a0 : Nat} {a1 : Int32} {a3 : Nat} {a4 : Int32} {a5 : Int32} {r : xR}, rec33 a0 a1 a3 a4 a5 r = some rr → xB L yX1_rowDropped cX1_rowDropped 6 (some (.object "UnimodularTables$Table")) 2 42 33 [some (.inr (.inr (some (a0))) : xV), some (.inl (a1) : xV), none, some (.inr (.inr (some (a3))) : xV), some (.inl (a4) : xV), some (.inl (a5) : xV)] [] (ms, r) (some (.inr (.inr (some rr.1)))) (ms, rr.2)) {a0 : Nat} {a1 : Int32} {a3 : Nat} {a4 : Int32} {a5 : Int32} {r : xR} (h : d_X1_rowDropped_33_s L rec21 rec33 a0 a1 a3 a4 a5 r = some rr) : xB L yX1_rowDropped cX1_rowDropped 6 (some (.object "UnimodularTables$Table")) 2 42 33 [some (.inr (.inr (some (a0))) : xV), some (.inl (a1) : xV), none, some (.inr (.inr (some (a3))) : xV), some (.inl (a4) : xV), some (.inl (a5) : xV)] [] (ms, r) (some (.inr (.inr (some rr.1)))) (ms, rr.2) := by
  refine x_iload (i := 5) 35 rfl dX1_rowDropped_33 rfl ?_
  refine x_aload_n (i := 0) 36 rfl dX1_rowDropped_35 rfl rfl ?_
  refine d_getiN (ci := 2) (k := 1) (C := RX4) (T := TX4) (N := 3) 39 rfl dX1_rowDropped_36 rfl in_X4 (by decide) (List.mem_of_getElem? (i := 7) rfl) h (fun x8 h => ?_)
  refine x_icmp_ge 81 42 rfl dX1_rowDropped_39 rfl h (fun h => ?_) (fun h => ?_)
  · refine x_iincL (i := 4) (1 : Int32) 84 rfl dX1_rowDropped_81 rfl rfl (by decide) h (fun x9 h => ?_)
    change xB L yX1_rowDropped cX1_rowDropped 6 (some (.object "UnimodularTables$Table")) 2 42 84 [some (.inr (.inr (some (a0))) : xV), some (.inl (a1) : xV), none, some (.inr (.inr (some (a3))) : xV), some (.inl (x9) : xV), some (.inl (a5) : xV)] [] (ms, r) _ _
    refine x_goto 21 dX1_rowDropped_84 rfl ?_
    exact xB.le (xle.s (xle.s (xle.n (xle.s (xle.s (xle.n xle.z)))))) (hr21 h)
  · refine x_aload_n (i := 3) 43 rfl dX1_rowDropped_42 rfl rfl ?_
    refine d_getrN (ci := 2) (k := 2) (C := RX4) (T := TX4) (N := 3) 46 rfl dX1_rowDropped_43 rfl in_X4 (by decide) (List.mem_of_getElem? (i := 9) rfl) h (fun p10 h => ?_)
    refine x_iload (i := 4) 48 rfl dX1_rowDropped_46 rfl ?_
    refine x_nnP (P := fun p10 => xB L yX1_rowDropped cX1_rowDropped 6 (some (.object "UnimodularTables$Table")) 2 42 48 [some (.inr (.inr (some (a0))) : xV), some (.inl (a1) : xV), none, some (.inr (.inr (some (a3))) : xV), some (.inl (a4) : xV), some (.inl (a5) : xV)] [(.inl (a4) : xV), (.inr (.inr (p10)) : xV)] (ms, r) (some (.inr (.inr (some rr.1)))) (ms, rr.2)) h (fun p11 h => ?_)
    refine d_aald 49 rfl dX1_rowDropped_48 h (fun p12 h => ?_)
    refine x_iload (i := 5) 51 rfl dX1_rowDropped_49 rfl ?_
    refine x_aload_n (i := 0) 52 rfl dX1_rowDropped_51 rfl rfl ?_
    refine d_getrN (ci := 2) (k := 2) (C := RX4) (T := TX4) (N := 3) 55 rfl dX1_rowDropped_52 rfl in_X4 (by decide) (List.mem_of_getElem? (i := 9) rfl) h (fun p13 h => ?_)
    refine x_iload (i := 4) 57 rfl dX1_rowDropped_55 rfl ?_
    refine x_iload_n (i := 1) 58 rfl dX1_rowDropped_57 rfl rfl ?_
    refine x_icmp_ge 66 61 rfl dX1_rowDropped_58 rfl h (fun h => ?_) (fun h => ?_)
    · refine x_iload (i := 4) 68 rfl dX1_rowDropped_66 rfl ?_
      refine x_iconst (1 : Int32) 69 rfl dX1_rowDropped_68 rfl ?_
      refine x_iadd 70 rfl dX1_rowDropped_69 ?_
      exact xB.le (xle.s (xle.s (xle.n (xle.s (xle.s (xle.s xle.z)))))) (d_X1_rowDropped_70_ok hr21 hr33 h)
    · refine x_iload (i := 4) 63 rfl dX1_rowDropped_61 rfl ?_
      refine x_goto 70 dX1_rowDropped_63 rfl ?_
      exact xB.le (xle.s (xle.s (xle.n (xle.s (xle.s (xle.s xle.z)))))) (d_X1_rowDropped_70_ok hr21 hr33 h)
def d_X1_rowDropped_33_L (L : xL) (rec21 : Nat → Int32 → Nat → Int32 → xR → Option (Nat × xR)) : Nat → Nat → Int32 → Nat → Int32 → Int32 → xR → Option (Nat × xR)
  | 0 => fun _ _ _ _ _ _ => none
  | n + 1 => d_X1_rowDropped_33_s L rec21 (d_X1_rowDropped_33_L L rec21 n)
theorem d_X1_rowDropped_33_L_ok {L : xL} {ms : xS} {rr : Nat × xR} {rec21 : Nat → Int32 → Nat → Int32 → xR → Option (Nat × xR)} (hr21 : ∀ {a0 : Nat} {a1 : Int32} {a3 : Nat} {a4 : Int32} {r : xR}, rec21 a0 a1 a3 a4 r = some rr → xB L yX1_rowDropped cX1_rowDropped 6 (some (.object "UnimodularTables$Table")) 2 42 21 [some (.inr (.inr (some (a0))) : xV), some (.inl (a1) : xV), none, some (.inr (.inr (some (a3))) : xV), some (.inl (a4) : xV), none] [] (ms, r) (some (.inr (.inr (some rr.1)))) (ms, rr.2)) : ∀ (n9 : Nat) {a0 : Nat} {a1 : Int32} {a3 : Nat} {a4 : Int32} {a5 : Int32} {r : xR}, d_X1_rowDropped_33_L L rec21 n9 a0 a1 a3 a4 a5 r = some rr → xB L yX1_rowDropped cX1_rowDropped 6 (some (.object "UnimodularTables$Table")) 2 42 33 [some (.inr (.inr (some (a0))) : xV), some (.inl (a1) : xV), none, some (.inr (.inr (some (a3))) : xV), some (.inl (a4) : xV), some (.inl (a5) : xV)] [] (ms, r) (some (.inr (.inr (some rr.1)))) (ms, rr.2)
  | 0, _, _, _, _, _, _, h => by cases h
  | n9 + 1, _, _, _, _, _, _, h => d_X1_rowDropped_33_s_ok hr21 (d_X1_rowDropped_33_L_ok hr21 n9) h
def d_X1_rowDropped_21_s (L : xL) (rec21 : Nat → Int32 → Nat → Int32 → xR → Option (Nat × xR)) (a0 : Nat) (a1 : Int32) (a3 : Nat) (a4 : Int32) (r : xR) : Option (Nat × xR) := dgi L r a3 2 0 fun x14 => if x14 ≤ a4 then some (a3, r) else lt ((0 : Int32)) fun x15 => d_X1_rowDropped_33_L L rec21 xFU a0 a1 a3 a4 x15 r
theorem d_X1_rowDropped_21_s_ok {L : xL} {ms : xS} {rr : Nat × xR} {rec21 : Nat → Int32 → Nat → Int32 → xR → Option (Nat × xR)} (hr21 : ∀ {a0 : Nat} {a1 : Int32} {a3 : Nat} {a4 : Int32} {r : xR}, rec21 a0 a1 a3 a4 r = some rr → xB L yX1_rowDropped cX1_rowDropped 6 (some (.object "UnimodularTables$Table")) 2 42 21 [some (.inr (.inr (some (a0))) : xV), some (.inl (a1) : xV), none, some (.inr (.inr (some (a3))) : xV), some (.inl (a4) : xV), none] [] (ms, r) (some (.inr (.inr (some rr.1)))) (ms, rr.2)) {a0 : Nat} {a1 : Int32} {a3 : Nat} {a4 : Int32} {r : xR} (h : d_X1_rowDropped_21_s L rec21 a0 a1 a3 a4 r = some rr) : xB L yX1_rowDropped cX1_rowDropped 6 (some (.object "UnimodularTables$Table")) 2 42 21 [some (.inr (.inr (some (a0))) : xV), some (.inl (a1) : xV), none, some (.inr (.inr (some (a3))) : xV), some (.inl (a4) : xV), none] [] (ms, r) (some (.inr (.inr (some rr.1)))) (ms, rr.2) := by
  refine x_iload (i := 4) 23 rfl dX1_rowDropped_21 rfl ?_
  refine x_aload_n (i := 3) 24 rfl dX1_rowDropped_23 rfl rfl ?_
  refine d_getiN (ci := 2) (k := 0) (C := RX4) (T := TX4) (N := 3) 27 rfl dX1_rowDropped_24 rfl in_X4 (by decide) (List.mem_of_getElem? (i := 5) rfl) h (fun x14 h => ?_)
  refine x_icmp_ge 87 30 rfl dX1_rowDropped_27 rfl h (fun h => ?_) (fun h => ?_)
  · refine x_aload_n (i := 3) 88 rfl dX1_rowDropped_87 rfl rfl ?_
    cases h
    exact x_aret rfl (Or.inl ⟨_, rfl⟩) dX1_rowDropped_88
  · refine x_iconst (0 : Int32) 31 rfl dX1_rowDropped_30 rfl ?_
    refine x_lti h (fun x15 h => ?_)
    refine x_istore 33 rfl dX1_rowDropped_31 (by decide) (lv' := [some (.inr (.inr (some (a0))) : xV), some (.inl (a1) : xV), none, some (.inr (.inr (some (a3))) : xV), some (.inl (a4) : xV), some (.inl (x15) : xV)]) rfl ?_
    exact xB.le (xle.s (xle.s (xle.n (xle.s (xle.s (xle.s xle.z)))))) (d_X1_rowDropped_33_L_ok hr21 xFU h)
def d_X1_rowDropped_21_L (L : xL) : Nat → Nat → Int32 → Nat → Int32 → xR → Option (Nat × xR)
  | 0 => fun _ _ _ _ _ => none
  | n + 1 => d_X1_rowDropped_21_s L (d_X1_rowDropped_21_L L  n)
theorem d_X1_rowDropped_21_L_ok {L : xL} {ms : xS} {rr : Nat × xR} : ∀ (n9 : Nat) {a0 : Nat} {a1 : Int32} {a3 : Nat} {a4 : Int32} {r : xR}, d_X1_rowDropped_21_L L  n9 a0 a1 a3 a4 r = some rr → xB L yX1_rowDropped cX1_rowDropped 6 (some (.object "UnimodularTables$Table")) 2 42 21 [some (.inr (.inr (some (a0))) : xV), some (.inl (a1) : xV), none, some (.inr (.inr (some (a3))) : xV), some (.inl (a4) : xV), none] [] (ms, r) (some (.inr (.inr (some rr.1)))) (ms, rr.2)
  | 0, _, _, _, _, _, h => by cases h
  | n9 + 1, _, _, _, _, _, h => d_X1_rowDropped_21_s_ok (d_X1_rowDropped_21_L_ok  n9) h
def d_X1_rowDropped (L : xL) (a0 : Nat) (a1 : Int32) (a2 : Int32) (r : xR) : Option (Nat × xR) := al L r (.inr (.inl (2, xdefV tyX4))) 3 fun p16 r17 => dgi L r17 a0 2 0 fun x18 => dgi L r17 a0 2 1 fun x19 => cl (d_X4_init L p16 (x18 - (1 : Int32)) x19 r17) fun q20 => lt ((0 : Int32)) fun x21 => d_X1_rowDropped_21_L L xFU a0 a1 p16 x21 q20
theorem d_X1_rowDropped_ct {L : xL} {ms : xS} {rr : Nat × xR} {a0 : Nat} {a1 : Int32} {a2 : Int32} {r : xR} (h : d_X1_rowDropped L a0 a1 a2 r = some rr) : xCt L yX1_rowDropped cX1_rowDropped 6 (some (.object "UnimodularTables$Table")) 2 42 [(.inr (.inr (some (a0))) : xV), (.inl (a1) : xV), (.inl (a2) : xV)] (ms, r) (some (.inr (.inr (some rr.1)))) (ms, rr.2) := by
  refine xCt.of (lv := [some (.inr (.inr (some (a0))) : xV), some (.inl (a1) : xV), some (.inl (a2) : xV), none, none, none]) pl_X1 (Nat.le_of_ble_eq_true rfl) (xle.s (xle.s (xle.s (xle.m (xle.m (xle.m xle.z)))))) ?_
  refine d_new (ci := 2) (C := RX4) (T := TX4) (N := 3) tyX4 3 rfl dX1_rowDropped_0 rfl in_X4 tyX4_ok (by decide) q347 q348 q129 h (fun p16 r17 h => ?_)
  refine x_dup 4 rfl dX1_rowDropped_3 rfl ?_
  refine x_aload_n (i := 0) 5 rfl dX1_rowDropped_4 rfl rfl ?_
  refine d_getiN (ci := 2) (k := 0) (C := RX4) (T := TX4) (N := 3) 8 rfl dX1_rowDropped_5 rfl in_X4 (by decide) (List.mem_of_getElem? (i := 5) rfl) h (fun x18 h => ?_)
  refine x_iconst (1 : Int32) 9 rfl dX1_rowDropped_8 rfl ?_
  refine x_isub 10 rfl dX1_rowDropped_9 ?_
  refine x_aload_n (i := 0) 11 rfl dX1_rowDropped_10 rfl rfl ?_
  refine d_getiN (ci := 2) (k := 1) (C := RX4) (T := TX4) (N := 3) 14 rfl dX1_rowDropped_11 rfl in_X4 (by decide) (List.mem_of_getElem? (i := 7) rfl) h (fun x19 h => ?_)
  refine x_cl h (fun q20 hq h => ?_)
  refine x_callI (as := [(.inl (x18 - (1 : Int32)) : xV), (.inl (x19) : xV)]) (w2 := (ms, q20)) [(.inr (.inr (some (p16))) : xV)] 17 rfl dX1_rowDropped_14 (d_X4_init_ct hq) q349 q350 q129 q351 rfl ydX4_init rfl ⟨Nat.le_of_ble_eq_true rfl, Nat.le_of_ble_eq_true rfl⟩ (Nat.le_of_ble_eq_true rfl) rfl ?_
  refine x_astore_n 18 rfl dX1_rowDropped_17 rfl (by decide) (lv' := [some (.inr (.inr (some (a0))) : xV), some (.inl (a1) : xV), some (.inl (a2) : xV), some (.inr (.inr (some (p16))) : xV), none, none]) rfl ?_
  refine x_iconst (0 : Int32) 19 rfl dX1_rowDropped_18 rfl ?_
  refine x_lti h (fun x21 h => ?_)
  refine x_istore 21 rfl dX1_rowDropped_19 (by decide) (lv' := [some (.inr (.inr (some (a0))) : xV), some (.inl (a1) : xV), some (.inl (a2) : xV), some (.inr (.inr (some (p16))) : xV), some (.inl (x21) : xV), none]) rfl ?_
  exact xB.le (xle.s (xle.s (xle.n (xle.s (xle.s (xle.n xle.z)))))) (d_X1_rowDropped_21_L_ok xFU h)
/-! UnimodularTables.transposed(LUnimodularTables$Table;II)LUnimodularTables$Table; -/
theorem ydX1_transposed : xHd yX1_transposed 3 := by decide +kernel
def d_X1_transposed_31_s (L : xL) (rec19 : Nat → Nat → Int32 → xR → Option (Nat × xR)) (rec31 : Nat → Nat → Int32 → Int32 → xR → Option (Nat × xR)) (a0 : Nat) (a3 : Nat) (a4 : Int32) (a5 : Int32) (r : xR) : Option (Nat × xR) := dgi L r a0 2 1 fun x1 => if x1 ≤ a5 then lt (a4 + (1 : Int32)) fun x2 => rec19 a0 a3 x2 r else dgr L r a3 2 2 fun p3 => nn p3 fun p4 => dar L r p4 a5 fun p5 => dgr L r a0 2 2 fun p6 => nn p6 fun p7 => dar L r p7 a4 fun p8 => nn p8 fun p9 => dai L r p9 a5 fun x10 => nn p5 fun p11 => daw L r p11 a4 x10 fun r12 => lt (a5 + (1 : Int32)) fun x13 => rec31 a0 a3 a4 x13 r12
theorem d_X1_transposed_31_s_ok {L : xL} {ms : xS} {rr : Nat × xR} {rec19 : Nat → Nat → Int32 → xR → Option (Nat × xR)} {rec31 : Nat → Nat → Int32 → Int32 → xR → Option (Nat × xR)} (hr19 : ∀ {a0 : Nat} {a3 : Nat} {a4 : Int32} {r : xR}, rec19 a0 a3 a4 r = some rr → xB L yX1_transposed cX1_transposed 6 (some (.object "UnimodularTables$Table")) 2 42 19 [some (.inr (.inr (some (a0))) : xV), none, none, some (.inr (.inr (some (a3))) : xV), some (.inl (a4) : xV), none] [] (ms, r) (some (.inr (.inr (some rr.1)))) (ms, rr.2)) (hr31 : ∀ {a0 : Nat} {a3 : Nat} {a4 : Int32} {a5 : Int32} {r : xR}, rec31 a0 a3 a4 a5 r = some rr → xB L yX1_transposed cX1_transposed 6 (some (.object "UnimodularTables$Table")) 2 42 31 [some (.inr (.inr (some (a0))) : xV), none, none, some (.inr (.inr (some (a3))) : xV), some (.inl (a4) : xV), some (.inl (a5) : xV)] [] (ms, r) (some (.inr (.inr (some rr.1)))) (ms, rr.2)) {a0 : Nat} {a3 : Nat} {a4 : Int32} {a5 : Int32} {r : xR} (h : d_X1_transposed_31_s L rec19 rec31 a0 a3 a4 a5 r = some rr) : xB L yX1_transposed cX1_transposed 6 (some (.object "UnimodularTables$Table")) 2 42 31 [some (.inr (.inr (some (a0))) : xV), none, none, some (.inr (.inr (some (a3))) : xV), some (.inl (a4) : xV), some (.inl (a5) : xV)] [] (ms, r) (some (.inr (.inr (some rr.1)))) (ms, rr.2) := by
  refine x_iload (i := 5) 33 rfl dX1_transposed_31 rfl ?_
  refine x_aload_n (i := 0) 34 rfl dX1_transposed_33 rfl rfl ?_
  refine d_getiN (ci := 2) (k := 1) (C := RX4) (T := TX4) (N := 3) 37 rfl dX1_transposed_34 rfl in_X4 (by decide) (List.mem_of_getElem? (i := 7) rfl) h (fun x1 h => ?_)
  refine x_icmp_ge 66 40 rfl dX1_transposed_37 rfl h (fun h => ?_) (fun h => ?_)
  · refine x_iincL (i := 4) (1 : Int32) 69 rfl dX1_transposed_66 rfl rfl (by decide) h (fun x2 h => ?_)
    change xB L yX1_transposed cX1_transposed 6 (some (.object "UnimodularTables$Table")) 2 42 69 [some (.inr (.inr (some (a0))) : xV), none, none, some (.inr (.inr (some (a3))) : xV), some (.inl (x2) : xV), some (.inl (a5) : xV)] [] (ms, r) _ _
    refine x_goto 19 dX1_transposed_69 rfl ?_
    exact xB.le (xle.s (xle.n (xle.n (xle.s (xle.s (xle.n xle.z)))))) (hr19 h)
  · refine x_aload_n (i := 3) 41 rfl dX1_transposed_40 rfl rfl ?_
    refine d_getrN (ci := 2) (k := 2) (C := RX4) (T := TX4) (N := 3) 44 rfl dX1_transposed_41 rfl in_X4 (by decide) (List.mem_of_getElem? (i := 9) rfl) h (fun p3 h => ?_)
    refine x_iload (i := 5) 46 rfl dX1_transposed_44 rfl ?_
    refine x_nnP (P := fun p3 => xB L yX1_transposed cX1_transposed 6 (some (.object "UnimodularTables$Table")) 2 42 46 [some (.inr (.inr (some (a0))) : xV), none, none, some (.inr (.inr (some (a3))) : xV), some (.inl (a4) : xV), some (.inl (a5) : xV)] [(.inl (a5) : xV), (.inr (.inr (p3)) : xV)] (ms, r) (some (.inr (.inr (some rr.1)))) (ms, rr.2)) h (fun p4 h => ?_)
    refine d_aald 47 rfl dX1_transposed_46 h (fun p5 h => ?_)
    refine x_iload (i := 4) 49 rfl dX1_transposed_47 rfl ?_
    refine x_aload_n (i := 0) 50 rfl dX1_transposed_49 rfl rfl ?_
    refine d_getrN (ci := 2) (k := 2) (C := RX4) (T := TX4) (N := 3) 53 rfl dX1_transposed_50 rfl in_X4 (by decide) (List.mem_of_getElem? (i := 9) rfl) h (fun p6 h => ?_)
    refine x_iload (i := 4) 55 rfl dX1_transposed_53 rfl ?_
    refine x_nnP (P := fun p6 => xB L yX1_transposed cX1_transposed 6 (some (.object "UnimodularTables$Table")) 2 42 55 [some (.inr (.inr (some (a0))) : xV), none, none, some (.inr (.inr (some (a3))) : xV), some (.inl (a4) : xV), some (.inl (a5) : xV)] [(.inl (a4) : xV), (.inr (.inr (p6)) : xV), (.inl (a4) : xV), (.inr (.inr (p5)) : xV)] (ms, r) (some (.inr (.inr (some rr.1)))) (ms, rr.2)) h (fun p7 h => ?_)
    refine d_aald 56 rfl dX1_transposed_55 h (fun p8 h => ?_)
    refine x_iload (i := 5) 58 rfl dX1_transposed_56 rfl ?_
    refine x_nnP (P := fun p8 => xB L yX1_transposed cX1_transposed 6 (some (.object "UnimodularTables$Table")) 2 42 58 [some (.inr (.inr (some (a0))) : xV), none, none, some (.inr (.inr (some (a3))) : xV), some (.inl (a4) : xV), some (.inl (a5) : xV)] [(.inl (a5) : xV), (.inr (.inr (p8)) : xV), (.inl (a4) : xV), (.inr (.inr (p5)) : xV)] (ms, r) (some (.inr (.inr (some rr.1)))) (ms, rr.2)) h (fun p9 h => ?_)
    refine d_iald 59 rfl dX1_transposed_58 h (fun x10 h => ?_)
    refine x_nnP (P := fun p5 => xB L yX1_transposed cX1_transposed 6 (some (.object "UnimodularTables$Table")) 2 42 59 [some (.inr (.inr (some (a0))) : xV), none, none, some (.inr (.inr (some (a3))) : xV), some (.inl (a4) : xV), some (.inl (a5) : xV)] [(.inl (x10) : xV), (.inl (a4) : xV), (.inr (.inr (p5)) : xV)] (ms, r) (some (.inr (.inr (some rr.1)))) (ms, rr.2)) h (fun p11 h => ?_)
    refine d_iast 60 rfl dX1_transposed_59 h (fun r12 h => ?_)
    refine x_iincL (i := 5) (1 : Int32) 63 rfl dX1_transposed_60 rfl rfl (by decide) h (fun x13 h => ?_)
    change xB L yX1_transposed cX1_transposed 6 (some (.object "UnimodularTables$Table")) 2 42 63 [some (.inr (.inr (some (a0))) : xV), none, none, some (.inr (.inr (some (a3))) : xV), some (.inl (a4) : xV), some (.inl (x13) : xV)] [] (ms, r12) _ _
    refine x_goto 31 dX1_transposed_63 rfl ?_
    exact xB.le (xle.s (xle.n (xle.n (xle.s (xle.s (xle.s xle.z)))))) (hr31 h)
def d_X1_transposed_31_L (L : xL) (rec19 : Nat → Nat → Int32 → xR → Option (Nat × xR)) : Nat → Nat → Nat → Int32 → Int32 → xR → Option (Nat × xR)
  | 0 => fun _ _ _ _ _ => none
  | n + 1 => d_X1_transposed_31_s L rec19 (d_X1_transposed_31_L L rec19 n)
theorem d_X1_transposed_31_L_ok {L : xL} {ms : xS} {rr : Nat × xR} {rec19 : Nat → Nat → Int32 → xR → Option (Nat × xR)} (hr19 : ∀ {a0 : Nat} {a3 : Nat} {a4 : Int32} {r : xR}, rec19 a0 a3 a4 r = some rr → xB L yX1_transposed cX1_transposed 6 (some (.object "UnimodularTables$Table")) 2 42 19 [some (.inr (.inr (some (a0))) : xV), none, none, some (.inr (.inr (some (a3))) : xV), some (.inl (a4) : xV), none] [] (ms, r) (some (.inr (.inr (some rr.1)))) (ms, rr.2)) : ∀ (n9 : Nat) {a0 : Nat} {a3 : Nat} {a4 : Int32} {a5 : Int32} {r : xR}, d_X1_transposed_31_L L rec19 n9 a0 a3 a4 a5 r = some rr → xB L yX1_transposed cX1_transposed 6 (some (.object "UnimodularTables$Table")) 2 42 31 [some (.inr (.inr (some (a0))) : xV), none, none, some (.inr (.inr (some (a3))) : xV), some (.inl (a4) : xV), some (.inl (a5) : xV)] [] (ms, r) (some (.inr (.inr (some rr.1)))) (ms, rr.2)
  | 0, _, _, _, _, _, h => by cases h
  | n9 + 1, _, _, _, _, _, h => d_X1_transposed_31_s_ok hr19 (d_X1_transposed_31_L_ok hr19 n9) h
def d_X1_transposed_19_s (L : xL) (rec19 : Nat → Nat → Int32 → xR → Option (Nat × xR)) (a0 : Nat) (a3 : Nat) (a4 : Int32) (r : xR) : Option (Nat × xR) := dgi L r a0 2 0 fun x14 => if x14 ≤ a4 then some (a3, r) else lt ((0 : Int32)) fun x15 => d_X1_transposed_31_L L rec19 xFU a0 a3 a4 x15 r
theorem d_X1_transposed_19_s_ok {L : xL} {ms : xS} {rr : Nat × xR} {rec19 : Nat → Nat → Int32 → xR → Option (Nat × xR)} (hr19 : ∀ {a0 : Nat} {a3 : Nat} {a4 : Int32} {r : xR}, rec19 a0 a3 a4 r = some rr → xB L yX1_transposed cX1_transposed 6 (some (.object "UnimodularTables$Table")) 2 42 19 [some (.inr (.inr (some (a0))) : xV), none, none, some (.inr (.inr (some (a3))) : xV), some (.inl (a4) : xV), none] [] (ms, r) (some (.inr (.inr (some rr.1)))) (ms, rr.2)) {a0 : Nat} {a3 : Nat} {a4 : Int32} {r : xR} (h : d_X1_transposed_19_s L rec19 a0 a3 a4 r = some rr) : xB L yX1_transposed cX1_transposed 6 (some (.object "UnimodularTables$Table")) 2 42 19 [some (.inr (.inr (some (a0))) : xV), none, none, some (.inr (.inr (some (a3))) : xV), some (.inl (a4) : xV), none] [] (ms, r) (some (.inr (.inr (some rr.1)))) (ms, rr.2) := by
  refine x_iload (i := 4) 21 rfl dX1_transposed_19 rfl ?_
  refine x_aload_n (i := 0) 22 rfl dX1_transposed_21 rfl rfl ?_
  refine d_getiN (ci := 2) (k := 0) (C := RX4) (T := TX4) (N := 3) 25 rfl dX1_transposed_22 rfl in_X4 (by decide) (List.mem_of_getElem? (i := 5) rfl) h (fun x14 h => ?_)
  refine x_icmp_ge 72 28 rfl dX1_transposed_25 rfl h (fun h => ?_) (fun h => ?_)
  · refine x_aload_n (i := 3) 73 rfl dX1_transposed_72 rfl rfl ?_
    cases h
    exact x_aret rfl (Or.inl ⟨_, rfl⟩) dX1_transposed_73
  · refine x_iconst (0 : Int32) 29 rfl dX1_transposed_28 rfl ?_
    refine x_lti h (fun x15 h => ?_)
    refine x_istore 31 rfl dX1_transposed_29 (by decide) (lv' := [some (.inr (.inr (some (a0))) : xV), none, none, some (.inr (.inr (some (a3))) : xV), some (.inl (a4) : xV), some (.inl (x15) : xV)]) rfl ?_
    exact xB.le (xle.s (xle.n (xle.n (xle.s (xle.s (xle.s xle.z)))))) (d_X1_transposed_31_L_ok hr19 xFU h)
def d_X1_transposed_19_L (L : xL) : Nat → Nat → Nat → Int32 → xR → Option (Nat × xR)
  | 0 => fun _ _ _ _ => none
  | n + 1 => d_X1_transposed_19_s L (d_X1_transposed_19_L L  n)
theorem d_X1_transposed_19_L_ok {L : xL} {ms : xS} {rr : Nat × xR} : ∀ (n9 : Nat) {a0 : Nat} {a3 : Nat} {a4 : Int32} {r : xR}, d_X1_transposed_19_L L  n9 a0 a3 a4 r = some rr → xB L yX1_transposed cX1_transposed 6 (some (.object "UnimodularTables$Table")) 2 42 19 [some (.inr (.inr (some (a0))) : xV), none, none, some (.inr (.inr (some (a3))) : xV), some (.inl (a4) : xV), none] [] (ms, r) (some (.inr (.inr (some rr.1)))) (ms, rr.2)
  | 0, _, _, _, _, h => by cases h
  | n9 + 1, _, _, _, _, h => d_X1_transposed_19_s_ok (d_X1_transposed_19_L_ok  n9) h
def d_X1_transposed (L : xL) (a0 : Nat) (a1 : Int32) (a2 : Int32) (r : xR) : Option (Nat × xR) := al L r (.inr (.inl (2, xdefV tyX4))) 3 fun p16 r17 => dgi L r17 a0 2 1 fun x18 => dgi L r17 a0 2 0 fun x19 => cl (d_X4_init L p16 x18 x19 r17) fun q20 => lt ((0 : Int32)) fun x21 => d_X1_transposed_19_L L xFU a0 p16 x21 q20
theorem d_X1_transposed_ct {L : xL} {ms : xS} {rr : Nat × xR} {a0 : Nat} {a1 : Int32} {a2 : Int32} {r : xR} (h : d_X1_transposed L a0 a1 a2 r = some rr) : xCt L yX1_transposed cX1_transposed 6 (some (.object "UnimodularTables$Table")) 2 42 [(.inr (.inr (some (a0))) : xV), (.inl (a1) : xV), (.inl (a2) : xV)] (ms, r) (some (.inr (.inr (some rr.1)))) (ms, rr.2) := by
  refine xCt.of (lv := [some (.inr (.inr (some (a0))) : xV), some (.inl (a1) : xV), some (.inl (a2) : xV), none, none, none]) pl_X1 (Nat.le_of_ble_eq_true rfl) (xle.s (xle.s (xle.s (xle.m (xle.m (xle.m xle.z)))))) ?_
  refine d_new (ci := 2) (C := RX4) (T := TX4) (N := 3) tyX4 3 rfl dX1_transposed_0 rfl in_X4 tyX4_ok (by decide) q347 q348 q129 h (fun p16 r17 h => ?_)
  refine x_dup 4 rfl dX1_transposed_3 rfl ?_
  refine x_aload_n (i := 0) 5 rfl dX1_transposed_4 rfl rfl ?_
  refine d_getiN (ci := 2) (k := 1) (C := RX4) (T := TX4) (N := 3) 8 rfl dX1_transposed_5 rfl in_X4 (by decide) (List.mem_of_getElem? (i := 7) rfl) h (fun x18 h => ?_)
  refine x_aload_n (i := 0) 9 rfl dX1_transposed_8 rfl rfl ?_
  refine d_getiN (ci := 2) (k := 0) (C := RX4) (T := TX4) (N := 3) 12 rfl dX1_transposed_9 rfl in_X4 (by decide) (List.mem_of_getElem? (i := 5) rfl) h (fun x19 h => ?_)
  refine x_cl h (fun q20 hq h => ?_)
  refine x_callI (as := [(.inl (x18) : xV), (.inl (x19) : xV)]) (w2 := (ms, q20)) [(.inr (.inr (some (p16))) : xV)] 15 rfl dX1_transposed_12 (d_X4_init_ct hq) q349 q350 q129 q351 rfl ydX4_init rfl ⟨Nat.le_of_ble_eq_true rfl, Nat.le_of_ble_eq_true rfl⟩ (Nat.le_of_ble_eq_true rfl) rfl ?_
  refine x_astore_n 16 rfl dX1_transposed_15 rfl (by decide) (lv' := [some (.inr (.inr (some (a0))) : xV), some (.inl (a1) : xV), some (.inl (a2) : xV), some (.inr (.inr (some (p16))) : xV), none, none]) rfl ?_
  refine x_iconst (0 : Int32) 17 rfl dX1_transposed_16 rfl ?_
  refine x_lti h (fun x21 h => ?_)
  refine x_istore 19 rfl dX1_transposed_17 (by decide) (lv' := [some (.inr (.inr (some (a0))) : xV), some (.inl (a1) : xV), some (.inl (a2) : xV), some (.inr (.inr (some (p16))) : xV), some (.inl (x21) : xV), none]) rfl ?_
  exact xB.le (xle.s (xle.n (xle.n (xle.s (xle.s (xle.n xle.z)))))) (d_X1_transposed_19_L_ok xFU h)
/-! UnimodularTables.turned(LUnimodularTables$Table;II)LUnimodularTables$Table; -/
theorem ydX1_turned : xHd yX1_turned 3 := by decide +kernel
def d_X1_turned_160 (L : xL) (rec29 : Nat → Int32 → Int32 → Nat → Int32 → Int32 → xR → Option (Nat × xR)) (rec41 : Nat → Int32 → Int32 → Nat → Int32 → Int32 → Int32 → xR → Option (Nat × xR)) (a0 : Nat) (a1 : Int32) (a2 : Int32) (a3 : Nat) (a4 : Int32) (a5 : Int32) (a6 : Int32) (s0 : Int32) (s1 : Int32) (s2 : Option Nat) (r : xR) : Option (Nat × xR) := nn s2 fun p1 => daw L r p1 s1 s0 fun r2 => lt (a6 + (1 : Int32)) fun x3 => rec41 a0 a1 a2 a3 a4 a5 x3 r2
theorem d_X1_turned_160_ok {L : xL} {ms : xS} {rr : Nat × xR} {rec29 : Nat → Int32 → Int32 → Nat → Int32 → Int32 → xR → Option (Nat × xR)} {rec41 : Nat → Int32 → Int32 → Nat → Int32 → Int32 → Int32 → xR → Option (Nat × xR)} (hr29 : ∀ {a0 : Nat} {a1 : Int32} {a2 : Int32} {a3 : Nat} {a4 : Int32} {a5 : Int32} {r : xR}, rec29 a0 a1 a2 a3 a4 a5 r = some rr → xB L yX1_turned cX1_turned 9 (some (.object "UnimodularTables$Table")) 2 42 29 [some (.inr (.inr (some (a0))) : xV), some (.inl (a1) : xV), some (.inl (a2) : xV), some (.inr (.inr (some (a3))) : xV), some (.inl (a4) : xV), some (.inl (a5) : xV), none, none, none] [] (ms, r) (some (.inr (.inr (some rr.1)))) (ms, rr.2)) (hr41 : ∀ {a0 : Nat} {a1 : Int32} {a2 : Int32} {a3 : Nat} {a4 : Int32} {a5 : Int32} {a6 : Int32} {r : xR}, rec41 a0 a1 a2 a3 a4 a5 a6 r = some rr → xB L yX1_turned cX1_turned 9 (some (.object "UnimodularTables$Table")) 2 42 41 [some (.inr (.inr (some (a0))) : xV), some (.inl (a1) : xV), some (.inl (a2) : xV), some (.inr (.inr (some (a3))) : xV), some (.inl (a4) : xV), some (.inl (a5) : xV), some (.inl (a6) : xV), none, none] [] (ms, r) (some (.inr (.inr (some rr.1)))) (ms, rr.2)) {a0 : Nat} {a1 : Int32} {a2 : Int32} {a3 : Nat} {a4 : Int32} {a5 : Int32} {a6 : Int32} {s0 : Int32} {s1 : Int32} {s2 : Option Nat} {r : xR} (h : d_X1_turned_160 L rec29 rec41 a0 a1 a2 a3 a4 a5 a6 s0 s1 s2 r = some rr) : xB L yX1_turned cX1_turned 9 (some (.object "UnimodularTables$Table")) 2 42 160 [some (.inr (.inr (some (a0))) : xV), some (.inl (a1) : xV), some (.inl (a2) : xV), some (.inr (.inr (some (a3))) : xV), some (.inl (a4) : xV), some (.inl (a5) : xV), some (.inl (a6) : xV), none, none] [(.inl (s0) : xV), (.inl (s1) : xV), (.inr (.inr (s2)) : xV)] (ms, r) (some (.inr (.inr (some rr.1)))) (ms, rr.2) := by
  refine x_nnP (P := fun s2 => xB L yX1_turned cX1_turned 9 (some (.object "UnimodularTables$Table")) 2 42 160 [some (.inr (.inr (some (a0))) : xV), some (.inl (a1) : xV), some (.inl (a2) : xV), some (.inr (.inr (some (a3))) : xV), some (.inl (a4) : xV), some (.inl (a5) : xV), some (.inl (a6) : xV), none, none] [(.inl (s0) : xV), (.inl (s1) : xV), (.inr (.inr (s2)) : xV)] (ms, r) (some (.inr (.inr (some rr.1)))) (ms, rr.2)) h (fun p1 h => ?_)
  refine d_iast 161 rfl dX1_turned_160 h (fun r2 h => ?_)
  refine x_iincL (i := 6) (1 : Int32) 164 rfl dX1_turned_161 rfl rfl (by decide) h (fun x3 h => ?_)
  change xB L yX1_turned cX1_turned 9 (some (.object "UnimodularTables$Table")) 2 42 164 [some (.inr (.inr (some (a0))) : xV), some (.inl (a1) : xV), some (.inl (a2) : xV), some (.inr (.inr (some (a3))) : xV), some (.inl (a4) : xV), some (.inl (a5) : xV), some (.inl (x3) : xV), none, none] [] (ms, r2) _ _
  refine x_goto 41 dX1_turned_164 rfl ?_
  exact xB.le (xle.s (xle.s (xle.s (xle.s (xle.s (xle.s (xle.s (xle.n (xle.n xle.z))))))))) (hr41 h)
def d_X1_turned_111 (L : xL) (rec29 : Nat → Int32 → Int32 → Nat → Int32 → Int32 → xR → Option (Nat × xR)) (rec41 : Nat → Int32 → Int32 → Nat → Int32 → Int32 → Int32 → xR → Option (Nat × xR)) (a0 : Nat) (a1 : Int32) (a2 : Int32) (a3 : Nat) (a4 : Int32) (a5 : Int32) (a6 : Int32) (s0 : Int32) (s1 : Option Nat) (r : xR) : Option (Nat × xR) := dgr L r a0 2 2 fun p4 => nn p4 fun p5 => dar L r p5 a5 fun p6 => nn p6 fun p7 => dai L r p7 a6 fun x8 => d_X1_turned_160 L rec29 rec41 a0 a1 a2 a3 a4 a5 a6 (a4 * x8) s0 s1 r
theorem d_X1_turned_111_ok {L : xL} {ms : xS} {rr : Nat × xR} {rec29 : Nat → Int32 → Int32 → Nat → Int32 → Int32 → xR → Option (Nat × xR)} {rec41 : Nat → Int32 → Int32 → Nat → Int32 → Int32 → Int32 → xR → Option (Nat × xR)} (hr29 : ∀ {a0 : Nat} {a1 : Int32} {a2 : Int32} {a3 : Nat} {a4 : Int32} {a5 : Int32} {r : xR}, rec29 a0 a1 a2 a3 a4 a5 r = some rr → xB L yX1_turned cX1_turned 9 (some (.object "UnimodularTables$Table")) 2 42 29 [some (.inr (.inr (some (a0))) : xV), some (.inl (a1) : xV), some (.inl (a2) : xV), some (.inr (.inr (some (a3))) : xV), some (.inl (a4) : xV), some (.inl (a5) : xV), none, none, none] [] (ms, r) (some (.inr (.inr (some rr.1)))) (ms, rr.2)) (hr41 : ∀ {a0 : Nat} {a1 : Int32} {a2 : Int32} {a3 : Nat} {a4 : Int32} {a5 : Int32} {a6 : Int32} {r : xR}, rec41 a0 a1 a2 a3 a4 a5 a6 r = some rr → xB L yX1_turned cX1_turned 9 (some (.object "UnimodularTables$Table")) 2 42 41 [some (.inr (.inr (some (a0))) : xV), some (.inl (a1) : xV), some (.inl (a2) : xV), some (.inr (.inr (some (a3))) : xV), some (.inl (a4) : xV), some (.inl (a5) : xV), some (.inl (a6) : xV), none, none] [] (ms, r) (some (.inr (.inr (some rr.1)))) (ms, rr.2)) {a0 : Nat} {a1 : Int32} {a2 : Int32} {a3 : Nat} {a4 : Int32} {a5 : Int32} {a6 : Int32} {s0 : Int32} {s1 : Option Nat} {r : xR} (h : d_X1_turned_111 L rec29 rec41 a0 a1 a2 a3 a4 a5 a6 s0 s1 r = some rr) : xB L yX1_turned cX1_turned 9 (some (.object "UnimodularTables$Table")) 2 42 111 [some (.inr (.inr (some (a0))) : xV), some (.inl (a1) : xV), some (.inl (a2) : xV), some (.inr (.inr (some (a3))) : xV), some (.inl (a4) : xV), some (.inl (a5) : xV), some (.inl (a6) : xV), none, none] [(.inl (s0) : xV), (.inr (.inr (s1)) : xV)] (ms, r) (some (.inr (.inr (some rr.1)))) (ms, rr.2) := by
  refine x_iload (i := 4) 113 rfl dX1_turned_111 rfl ?_
  refine x_aload_n (i := 0) 114 rfl dX1_turned_113 rfl rfl ?_
  refine d_getrN (ci := 2) (k := 2) (C := RX4) (T := TX4) (N := 3) 117 rfl dX1_turned_114 rfl in_X4 (by decide) (List.mem_of_getElem? (i := 9) rfl) h (fun p4 h => ?_)
  refine x_iload (i := 5) 119 rfl dX1_turned_117 rfl ?_
  refine x_nnP (P := fun p4 => xB L yX1_turned cX1_turned 9 (some (.object "UnimodularTables$Table")) 2 42 119 [some (.inr (.inr (some (a0))) : xV), some (.inl (a1) : xV), some (.inl (a2) : xV), some (.inr (.inr (some (a3))) : xV), some (.inl (a4) : xV), some (.inl (a5) : xV), some (.inl (a6) : xV), none, none] [(.inl (a5) : xV), (.inr (.inr (p4)) : xV), (.inl (a4) : xV), (.inl (s0) : xV), (.inr (.inr (s1)) : xV)] (ms, r) (some (.inr (.inr (some rr.1)))) (ms, rr.2)) h (fun p5 h => ?_)
  refine d_aald 120 rfl dX1_turned_119 h (fun p6 h => ?_)
  refine x_iload (i := 6) 122 rfl dX1_turned_120 rfl ?_
  refine x_nnP (P := fun p6 => xB L yX1_turned cX1_turned 9 (some (.object "UnimodularTables$Table")) 2 42 122 [some (.inr (.inr (some (a0))) : xV), some (.inl (a1) : xV), some (.inl (a2) : xV), some (.inr (.inr (some (a3))) : xV), some (.inl (a4) : xV), some (.inl (a5) : xV), some (.inl (a6) : xV), none, none] [(.inl (a6) : xV), (.inr (.inr (p6)) : xV), (.inl (a4) : xV), (.inl (s0) : xV), (.inr (.inr (s1)) : xV)] (ms, r) (some (.inr (.inr (some rr.1)))) (ms, rr.2)) h (fun p7 h => ?_)
  refine d_iald 123 rfl dX1_turned_122 h (fun x8 h => ?_)
  refine x_imul 124 rfl dX1_turned_123 ?_
  refine x_goto 160 dX1_turned_124 rfl ?_
  exact xB.le (xle.s (xle.s (xle.s (xle.s (xle.s (xle.s (xle.s (xle.n (xle.n xle.z))))))))) (d_X1_turned_160_ok hr29 hr41 h)
def d_X1_turned_101 (L : xL) (rec29 : Nat → Int32 → Int32 → Nat → Int32 → Int32 → xR → Option (Nat × xR)) (rec41 : Nat → Int32 → Int32 → Nat → Int32 → Int32 → Int32 → xR → Option (Nat × xR)) (a0 : Nat) (a1 : Int32) (a2 : Int32) (a3 : Nat) (a4 : Int32) (a5 : Int32) (a6 : Int32) (a7 : Int32) (a8 : Int32) (s0 : Int32) (s1 : Option Nat) (r : xR) : Option (Nat × xR) := if a7 = 0 then if a8 = 0 then dgr L r a0 2 2 fun p9 => nn p9 fun p10 => dar L r p10 a5 fun p11 => nn p11 fun p12 => dai L r p12 a6 fun x13 => dgr L r a0 2 2 fun p14 => nn p14 fun p15 => dar L r p15 a5 fun p16 => nn p16 fun p17 => dai L r p17 a2 fun x18 => dgr L r a0 2 2 fun p19 => nn p19 fun p20 => dar L r p20 a1 fun p21 => nn p21 fun p22 => dai L r p22 a6 fun x23 => d_X1_turned_160 L rec29 rec41 a0 a1 a2 a3 a4 a5 a6 (x13 - ((a4 * x18) * x23)) s0 s1 r else d_X1_turned_111 L rec29 rec41 a0 a1 a2 a3 a4 a5 a6 s0 s1 r else d_X1_turned_111 L rec29 rec41 a0 a1 a2 a3 a4 a5 a6 s0 s1 r
theorem d_X1_turned_101_ok {L : xL} {ms : xS} {rr : Nat × xR} {rec29 : Nat → Int32 → Int32 → Nat → Int32 → Int32 → xR → Option (Nat × xR)} {rec41 : Nat → Int32 → Int32 → Nat → Int32 → Int32 → Int32 → xR → Option (Nat × xR)} (hr29 : ∀ {a0 : Nat} {a1 : Int32} {a2 : Int32} {a3 : Nat} {a4 : Int32} {a5 : Int32} {r : xR}, rec29 a0 a1 a2 a3 a4 a5 r = some rr → xB L yX1_turned cX1_turned 9 (some (.object "UnimodularTables$Table")) 2 42 29 [some (.inr (.inr (some (a0))) : xV), some (.inl (a1) : xV), some (.inl (a2) : xV), some (.inr (.inr (some (a3))) : xV), some (.inl (a4) : xV), some (.inl (a5) : xV), none, none, none] [] (ms, r) (some (.inr (.inr (some rr.1)))) (ms, rr.2)) (hr41 : ∀ {a0 : Nat} {a1 : Int32} {a2 : Int32} {a3 : Nat} {a4 : Int32} {a5 : Int32} {a6 : Int32} {r : xR}, rec41 a0 a1 a2 a3 a4 a5 a6 r = some rr → xB L yX1_turned cX1_turned 9 (some (.object "UnimodularTables$Table")) 2 42 41 [some (.inr (.inr (some (a0))) : xV), some (.inl (a1) : xV), some (.inl (a2) : xV), some (.inr (.inr (some (a3))) : xV), some (.inl (a4) : xV), some (.inl (a5) : xV), some (.inl (a6) : xV), none, none] [] (ms, r) (some (.inr (.inr (some rr.1)))) (ms, rr.2)) {a0 : Nat} {a1 : Int32} {a2 : Int32} {a3 : Nat} {a4 : Int32} {a5 : Int32} {a6 : Int32} {a7 : Int32} {a8 : Int32} {s0 : Int32} {s1 : Option Nat} {r : xR} (h : d_X1_turned_101 L rec29 rec41 a0 a1 a2 a3 a4 a5 a6 a7 a8 s0 s1 r = some rr) : xB L yX1_turned cX1_turned 9 (some (.object "UnimodularTables$Table")) 2 42 101 [some (.inr (.inr (some (a0))) : xV), some (.inl (a1) : xV), some (.inl (a2) : xV), some (.inr (.inr (some (a3))) : xV), some (.inl (a4) : xV), some (.inl (a5) : xV), some (.inl (a6) : xV), some (.inl (a7) : xV), some (.inl (a8) : xV)] [(.inl (s0) : xV), (.inr (.inr (s1)) : xV)] (ms, r) (some (.inr (.inr (some rr.1)))) (ms, rr.2) := by
  refine x_iload (i := 7) 103 rfl dX1_turned_101 rfl ?_
  refine x_if_ne 111 106 rfl dX1_turned_103 rfl h (fun h => ?_) (fun h => ?_)
  · exact xB.le (xle.s (xle.s (xle.s (xle.s (xle.s (xle.s (xle.s (xle.n (xle.n xle.z))))))))) (d_X1_turned_111_ok hr29 hr41 h)
  · refine x_iload (i := 8) 108 rfl dX1_turned_106 rfl ?_
    refine x_if_eq 127 111 rfl dX1_turned_108 rfl h (fun h => ?_) (fun h => ?_)
    · refine x_aload_n (i := 0) 128 rfl dX1_turned_127 rfl rfl ?_
      refine d_getrN (ci := 2) (k := 2) (C := RX4) (T := TX4) (N := 3) 131 rfl dX1_turned_128 rfl in_X4 (by decide) (List.mem_of_getElem? (i := 9) rfl) h (fun p9 h => ?_)
      refine x_iload (i := 5) 133 rfl dX1_turned_131 rfl ?_
      refine x_nnP (P := fun p9 => xB L yX1_turned cX1_turned 9 (some (.object "UnimodularTables$Table")) 2 42 133 [some (.inr (.inr (some (a0))) : xV), some (.inl (a1) : xV), some (.inl (a2) : xV), some (.inr (.inr (some (a3))) : xV), some (.inl (a4) : xV), some (.inl (a5) : xV), some (.inl (a6) : xV), some (.inl (a7) : xV), some (.inl (a8) : xV)] [(.inl (a5) : xV), (.inr (.inr (p9)) : xV), (.inl (s0) : xV), (.inr (.inr (s1)) : xV)] (ms, r) (some (.inr (.inr (some rr.1)))) (ms, rr.2)) h (fun p10 h => ?_)
      refine d_aald 134 rfl dX1_turned_133 h (fun p11 h => ?_)
      refine x_iload (i := 6) 136 rfl dX1_turned_134 rfl ?_
      refine x_nnP (P := fun p11 => xB L yX1_turned cX1_turned 9 (some (.object "UnimodularTables$Table")) 2 42 136 [some (.inr (.inr (some (a0))) : xV), some (.inl (a1) : xV), some (.inl (a2) : xV), some (.inr (.inr (some (a3))) : xV), some (.inl (a4) : xV), some (.inl (a5) : xV), some (.inl (a6) : xV), some (.inl (a7) : xV), some (.inl (a8) : xV)] [(.inl (a6) : xV), (.inr (.inr (p11)) : xV), (.inl (s0) : xV), (.inr (.inr (s1)) : xV)] (ms, r) (some (.inr (.inr (some rr.1)))) (ms, rr.2)) h (fun p12 h => ?_)
      refine d_iald 137 rfl dX1_turned_136 h (fun x13 h => ?_)
      refine x_iload (i := 4) 139 rfl dX1_turned_137 rfl ?_
      refine x_aload_n (i := 0) 140 rfl dX1_turned_139 rfl rfl ?_
      refine d_getrN (ci := 2) (k := 2) (C := RX4) (T := TX4) (N := 3) 143 rfl dX1_turned_140 rfl in_X4 (by decide) (List.mem_of_getElem? (i := 9) rfl) h (fun p14 h => ?_)
      refine x_iload (i := 5) 145 rfl dX1_turned_143 rfl ?_
      refine x_nnP (P := fun p14 => xB L yX1_turned cX1_turned 9 (some (.object "UnimodularTables$Table")) 2 42 145 [some (.inr (.inr (some (a0))) : xV), some (.inl (a1) : xV), some (.inl (a2) : xV), some (.inr (.inr (some (a3))) : xV), some (.inl (a4) : xV), some (.inl (a5) : xV), some (.inl (a6) : xV), some (.inl (a7) : xV), some (.inl (a8) : xV)] [(.inl (a5) : xV), (.inr (.inr (p14)) : xV), (.inl (a4) : xV), (.inl (x13) : xV), (.inl (s0) : xV), (.inr (.inr (s1)) : xV)] (ms, r) (some (.inr (.inr (some rr.1)))) (ms, rr.2)) h (fun p15 h => ?_)
      refine d_aald 146 rfl dX1_turned_145 h (fun p16 h => ?_)
      refine x_iload_n (i := 2) 147 rfl dX1_turned_146 rfl rfl ?_
      refine x_nnP (P := fun p16 => xB L yX1_turned cX1_turned 9 (some (.object "UnimodularTables$Table")) 2 42 147 [some (.inr (.inr (some (a0))) : xV), some (.inl (a1) : xV), some (.inl (a2) : xV), some (.inr (.inr (some (a3))) : xV), some (.inl (a4) : xV), some (.inl (a5) : xV), some (.inl (a6) : xV), some (.inl (a7) : xV), some (.inl (a8) : xV)] [(.inl (a2) : xV), (.inr (.inr (p16)) : xV), (.inl (a4) : xV), (.inl (x13) : xV), (.inl (s0) : xV), (.inr (.inr (s1)) : xV)] (ms, r) (some (.inr (.inr (some rr.1)))) (ms, rr.2)) h (fun p17 h => ?_)
      refine d_iald 148 rfl dX1_turned_147 h (fun x18 h => ?_)
      refine x_imul 149 rfl dX1_turned_148 ?_
      refine x_aload_n (i := 0) 150 rfl dX1_turned_149 rfl rfl ?_
      refine d_getrN (ci := 2) (k := 2) (C := RX4) (T := TX4) (N := 3) 153 rfl dX1_turned_150 rfl in_X4 (by decide) (List.mem_of_getElem? (i := 9) rfl) h (fun p19 h => ?_)
      refine x_iload_n (i := 1) 154 rfl dX1_turned_153 rfl rfl ?_
      refine x_nnP (P := fun p19 => xB L yX1_turned cX1_turned 9 (some (.object "UnimodularTables$Table")) 2 42 154 [some (.inr (.inr (some (a0))) : xV), some (.inl (a1) : xV), some (.inl (a2) : xV), some (.inr (.inr (some (a3))) : xV), some (.inl (a4) : xV), some (.inl (a5) : xV), some (.inl (a6) : xV), some (.inl (a7) : xV), some (.inl (a8) : xV)] [(.inl (a1) : xV), (.inr (.inr (p19)) : xV), (.inl (a4 * x18) : xV), (.inl (x13) : xV), (.inl (s0) : xV), (.inr (.inr (s1)) : xV)] (ms, r) (some (.inr (.inr (some rr.1)))) (ms, rr.2)) h (fun p20 h => ?_)
      refine d_aald 155 rfl dX1_turned_154 h (fun p21 h => ?_)
      refine x_iload (i := 6) 157 rfl dX1_turned_155 rfl ?_
      refine x_nnP (P := fun p21 => xB L yX1_turned cX1_turned 9 (some (.object "UnimodularTables$Table")) 2 42 157 [some (.inr (.inr (some (a0))) : xV), some (.inl (a1) : xV), some (.inl (a2) : xV), some (.inr (.inr (some (a3))) : xV), some (.inl (a4) : xV), some (.inl (a5) : xV), some (.inl (a6) : xV), some (.inl (a7) : xV), some (.inl (a8) : xV)] [(.inl (a6) : xV), (.inr (.inr (p21)) : xV), (.inl (a4 * x18) : xV), (.inl (x13) : xV), (.inl (s0) : xV), (.inr (.inr (s1)) : xV)] (ms, r) (some (.inr (.inr (some rr.1)))) (ms, rr.2)) h (fun p22 h => ?_)
      refine d_iald 158 rfl dX1_turned_157 h (fun x23 h => ?_)
      refine x_imul 159 rfl dX1_turned_158 ?_
      refine x_isub 160 rfl dX1_turned_159 ?_
      exact xB.le (xle.s (xle.s (xle.s (xle.s (xle.s (xle.s (xle.s (xle.n (xle.n xle.z))))))))) (d_X1_turned_160_ok hr29 hr41 h)
    · exact xB.le (xle.s (xle.s (xle.s (xle.s (xle.s (xle.s (xle.s (xle.n (xle.n xle.z))))))))) (d_X1_turned_111_ok hr29 hr41 h)
def d_X1_turned_74 (L : xL) (rec29 : Nat → Int32 → Int32 → Nat → Int32 → Int32 → xR → Option (Nat × xR)) (rec41 : Nat → Int32 → Int32 → Nat → Int32 → Int32 → Int32 → xR → Option (Nat × xR)) (a0 : Nat) (a1 : Int32) (a2 : Int32) (a3 : Nat) (a4 : Int32) (a5 : Int32) (a6 : Int32) (a7 : Int32) (s0 : Int32) (r : xR) : Option (Nat × xR) := dgr L r a3 2 2 fun p24 => nn p24 fun p25 => dar L r p25 a5 fun p26 => if a7 = 0 then d_X1_turned_101 L rec29 rec41 a0 a1 a2 a3 a4 a5 a6 a7 s0 a6 p26 r else if s0 = 0 then d_X1_turned_101 L rec29 rec41 a0 a1 a2 a3 a4 a5 a6 a7 s0 a6 p26 r else d_X1_turned_160 L rec29 rec41 a0 a1 a2 a3 a4 a5 a6 (-a4) a6 p26 r
theorem d_X1_turned_74_ok {L : xL} {ms : xS} {rr : Nat × xR} {rec29 : Nat → Int32 → Int32 → Nat → Int32 → Int32 → xR → Option (Nat × xR)} {rec41 : Nat → Int32 → Int32 → Nat → Int32 → Int32 → Int32 → xR → Option (Nat × xR)} (hr29 : ∀ {a0 : Nat} {a1 : Int32} {a2 : Int32} {a3 : Nat} {a4 : Int32} {a5 : Int32} {r : xR}, rec29 a0 a1 a2 a3 a4 a5 r = some rr → xB L yX1_turned cX1_turned 9 (some (.object "UnimodularTables$Table")) 2 42 29 [some (.inr (.inr (some (a0))) : xV), some (.inl (a1) : xV), some (.inl (a2) : xV), some (.inr (.inr (some (a3))) : xV), some (.inl (a4) : xV), some (.inl (a5) : xV), none, none, none] [] (ms, r) (some (.inr (.inr (some rr.1)))) (ms, rr.2)) (hr41 : ∀ {a0 : Nat} {a1 : Int32} {a2 : Int32} {a3 : Nat} {a4 : Int32} {a5 : Int32} {a6 : Int32} {r : xR}, rec41 a0 a1 a2 a3 a4 a5 a6 r = some rr → xB L yX1_turned cX1_turned 9 (some (.object "UnimodularTables$Table")) 2 42 41 [some (.inr (.inr (some (a0))) : xV), some (.inl (a1) : xV), some (.inl (a2) : xV), some (.inr (.inr (some (a3))) : xV), some (.inl (a4) : xV), some (.inl (a5) : xV), some (.inl (a6) : xV), none, none] [] (ms, r) (some (.inr (.inr (some rr.1)))) (ms, rr.2)) {a0 : Nat} {a1 : Int32} {a2 : Int32} {a3 : Nat} {a4 : Int32} {a5 : Int32} {a6 : Int32} {a7 : Int32} {s0 : Int32} {r : xR} (h : d_X1_turned_74 L rec29 rec41 a0 a1 a2 a3 a4 a5 a6 a7 s0 r = some rr) : xB L yX1_turned cX1_turned 9 (some (.object "UnimodularTables$Table")) 2 42 74 [some (.inr (.inr (some (a0))) : xV), some (.inl (a1) : xV), some (.inl (a2) : xV), some (.inr (.inr (some (a3))) : xV), some (.inl (a4) : xV), some (.inl (a5) : xV), some (.inl (a6) : xV), some (.inl (a7) : xV), none] [(.inl (s0) : xV)] (ms, r) (some (.inr (.inr (some rr.1)))) (ms, rr.2) := by
  refine x_istore 76 rfl dX1_turned_74 (by decide) (lv' := [some (.inr (.inr (some (a0))) : xV), some (.inl (a1) : xV), some (.inl (a2) : xV), some (.inr (.inr (some (a3))) : xV), some (.inl (a4) : xV), some (.inl (a5) : xV), some (.inl (a6) : xV), some (.inl (a7) : xV), some (.inl (s0) : xV)]) rfl ?_
  refine x_aload_n (i := 3) 77 rfl dX1_turned_76 rfl rfl ?_
  refine d_getrN (ci := 2) (k := 2) (C := RX4) (T := TX4) (N := 3) 80 rfl dX1_turned_77 rfl in_X4 (by decide) (List.mem_of_getElem? (i := 9) rfl) h (fun p24 h => ?_)
  refine x_iload (i := 5) 82 rfl dX1_turned_80 rfl ?_
  refine x_nnP (P := fun p24 => xB L yX1_turned cX1_turned 9 (some (.object "UnimodularTables$Table")) 2 42 82 [some (.inr (.inr (some (a0))) : xV), some (.inl (a1) : xV), some (.inl (a2) : xV), some (.inr (.inr (some (a3))) : xV), some (.inl (a4) : xV), some (.inl (a5) : xV), some (.inl (a6) : xV), some (.inl (a7) : xV), some (.inl (s0) : xV)] [(.inl (a5) : xV), (.inr (.inr (p24)) : xV)] (ms, r) (some (.inr (.inr (some rr.1)))) (ms, rr.2)) h (fun p25 h => ?_)
  refine d_aald 83 rfl dX1_turned_82 h (fun p26 h => ?_)
  refine x_iload (i := 6) 85 rfl dX1_turned_83 rfl ?_
  refine x_iload (i := 7) 87 rfl dX1_turned_85 rfl ?_
  refine x_if_eq 101 90 rfl dX1_turned_87 rfl h (fun h => ?_) (fun h => ?_)
  · exact xB.le (xle.s (xle.s (xle.s (xle.s (xle.s (xle.s (xle.s (xle.s (xle.s xle.z))))))))) (d_X1_turned_101_ok hr29 hr41 h)
  · refine x_iload (i := 8) 92 rfl dX1_turned_90 rfl ?_
    refine x_if_eq 101 95 rfl dX1_turned_92 rfl h (fun h => ?_) (fun h => ?_)
    · exact xB.le (xle.s (xle.s (xle.s (xle.s (xle.s (xle.s (xle.s (xle.s (xle.s xle.z))))))))) (d_X1_turned_101_ok hr29 hr41 h)
    · refine x_iload (i := 4) 97 rfl dX1_turned_95 rfl ?_
      refine x_ineg 98 rfl dX1_turned_97 ?_
      refine x_goto 160 dX1_turned_98 rfl ?_
      exact xB.le (xle.s (xle.s (xle.s (xle.s (xle.s (xle.s (xle.s (xle.n (xle.n xle.z))))))))) (d_X1_turned_160_ok hr29 hr41 h)
def d_X1_turned_61 (L : xL) (rec29 : Nat → Int32 → Int32 → Nat → Int32 → Int32 → xR → Option (Nat × xR)) (rec41 : Nat → Int32 → Int32 → Nat → Int32 → Int32 → Int32 → xR → Option (Nat × xR)) (a0 : Nat) (a1 : Int32) (a2 : Int32) (a3 : Nat) (a4 : Int32) (a5 : Int32) (a6 : Int32) (s0 : Int32) (r : xR) : Option (Nat × xR) := if a6 = a2 then d_X1_turned_74 L rec29 rec41 a0 a1 a2 a3 a4 a5 a6 s0 (1 : Int32) r else d_X1_turned_74 L rec29 rec41 a0 a1 a2 a3 a4 a5 a6 s0 (0 : Int32) r
theorem d_X1_turned_61_ok {L : xL} {ms : xS} {rr : Nat × xR} {rec29 : Nat → Int32 → Int32 → Nat → Int32 → Int32 → xR → Option (Nat × xR)} {rec41 : Nat → Int32 → Int32 → Nat → Int32 → Int32 → Int32 → xR → Option (Nat × xR)} (hr29 : ∀ {a0 : Nat} {a1 : Int32} {a2 : Int32} {a3 : Nat} {a4 : Int32} {a5 : Int32} {r : xR}, rec29 a0 a1 a2 a3 a4 a5 r = some rr → xB L yX1_turned cX1_turned 9 (some (.object "UnimodularTables$Table")) 2 42 29 [some (.inr (.inr (some (a0))) : xV), some (.inl (a1) : xV), some (.inl (a2) : xV), some (.inr (.inr (some (a3))) : xV), some (.inl (a4) : xV), some (.inl (a5) : xV), none, none, none] [] (ms, r) (some (.inr (.inr (some rr.1)))) (ms, rr.2)) (hr41 : ∀ {a0 : Nat} {a1 : Int32} {a2 : Int32} {a3 : Nat} {a4 : Int32} {a5 : Int32} {a6 : Int32} {r : xR}, rec41 a0 a1 a2 a3 a4 a5 a6 r = some rr → xB L yX1_turned cX1_turned 9 (some (.object "UnimodularTables$Table")) 2 42 41 [some (.inr (.inr (some (a0))) : xV), some (.inl (a1) : xV), some (.inl (a2) : xV), some (.inr (.inr (some (a3))) : xV), some (.inl (a4) : xV), some (.inl (a5) : xV), some (.inl (a6) : xV), none, none] [] (ms, r) (some (.inr (.inr (some rr.1)))) (ms, rr.2)) {a0 : Nat} {a1 : Int32} {a2 : Int32} {a3 : Nat} {a4 : Int32} {a5 : Int32} {a6 : Int32} {s0 : Int32} {r : xR} (h : d_X1_turned_61 L rec29 rec41 a0 a1 a2 a3 a4 a5 a6 s0 r = some rr) : xB L yX1_turned cX1_turned 9 (some (.object "UnimodularTables$Table")) 2 42 61 [some (.inr (.inr (some (a0))) : xV), some (.inl (a1) : xV), some (.inl (a2) : xV), some (.inr (.inr (some (a3))) : xV), some (.inl (a4) : xV), some (.inl (a5) : xV), some (.inl (a6) : xV), none, none] [(.inl (s0) : xV)] (ms, r) (some (.inr (.inr (some rr.1)))) (ms, rr.2) := by
  refine x_istore 63 rfl dX1_turned_61 (by decide) (lv' := [some (.inr (.inr (some (a0))) : xV), some (.inl (a1) : xV), some (.inl (a2) : xV), some (.inr (.inr (some (a3))) : xV), some (.inl (a4) : xV), some (.inl (a5) : xV), some (.inl (a6) : xV), some (.inl (s0) : xV), none]) rfl ?_
  refine x_iload (i := 6) 65 rfl dX1_turned_63 rfl ?_
  refine x_iload_n (i := 2) 66 rfl dX1_turned_65 rfl rfl ?_
  refine x_icmp_ne 73 69 rfl dX1_turned_66 rfl h (fun h => ?_) (fun h => ?_)
  · refine x_iconst (0 : Int32) 74 rfl dX1_turned_73 rfl ?_
    exact xB.le (xle.s (xle.s (xle.s (xle.s (xle.s (xle.s (xle.s (xle.s (xle.n xle.z))))))))) (d_X1_turned_74_ok hr29 hr41 h)
  · refine x_iconst (1 : Int32) 70 rfl dX1_turned_69 rfl ?_
    refine x_goto 74 dX1_turned_70 rfl ?_
    exact xB.le (xle.s (xle.s (xle.s (xle.s (xle.s (xle.s (xle.s (xle.s (xle.n xle.z))))))))) (d_X1_turned_74_ok hr29 hr41 h)
def d_X1_turned_41_s (L : xL) (rec29 : Nat → Int32 → Int32 → Nat → Int32 → Int32 → xR → Option (Nat × xR)) (rec41 : Nat → Int32 → Int32 → Nat → Int32 → Int32 → Int32 → xR → Option (Nat × xR)) (a0 : Nat) (a1 : Int32) (a2 : Int32) (a3 : Nat) (a4 : Int32) (a5 : Int32) (a6 : Int32) (r : xR) : Option (Nat × xR) := dgi L r a0 2 1 fun x27 => if x27 ≤ a6 then lt (a5 + (1 : Int32)) fun x28 => rec29 a0 a1 a2 a3 a4 x28 r else if a5 = a1 then d_X1_turned_61 L rec29 rec41 a0 a1 a2 a3 a4 a5 a6 (1 : Int32) r else d_X1_turned_61 L rec29 rec41 a0 a1 a2 a3 a4 a5 a6 (0 : Int32) r
theorem d_X1_turned_41_s_ok {L : xL} {ms : xS} {rr : Nat × xR} {rec29 : Nat → Int32 → Int32 → Nat → Int32 → Int32 → xR → Option (Nat × xR)} {rec41 : Nat → Int32 → Int32 → Nat → Int32 → Int32 → Int32 → xR → Option (Nat × xR)} (hr29 : ∀ {a0 : Nat} {a1 : Int32} {a2 : Int32} {a3 : Nat} {a4 : Int32} {a5 : Int32} {r : xR}, rec29 a0 a1 a2 a3 a4 a5 r = some rr → xB L yX1_turned cX1_turned 9 (some (.object "UnimodularTables$Table")) 2 42 29 [some (.inr (.inr (some (a0))) : xV), some (.inl (a1) : xV), some (.inl (a2) : xV), some (.inr (.inr (some (a3))) : xV), some (.inl (a4) : xV), some (.inl (a5) : xV), none, none, none] [] (ms, r) (some (.inr (.inr (some rr.1)))) (ms, rr.2)) (hr41 : ∀ {a0 : Nat} {a1 : Int32} {a2 : Int32} {a3 : Nat} {a4 : Int32} {a5 : Int32} {a6 : Int32} {r : xR}, rec41 a0 a1 a2 a3 a4 a5 a6 r = some rr → xB L yX1_turned cX1_turned 9 (some (.object "UnimodularTables$Table")) 2 42 41 [some (.inr (.inr (some (a0))) : xV), some (.inl (a1) : xV), some (.inl (a2) : xV), some (.inr (.inr (some (a3))) : xV), some (.inl (a4) : xV), some (.inl (a5) : xV), some (.inl (a6) : xV), none, none] [] (ms, r) (some (.inr (.inr (some rr.1)))) (ms, rr.2)) {a0 : Nat} {a1 : Int32} {a2 : Int32} {a3 : Nat} {a4 : Int32} {a5 : Int32} {a6 : Int32} {r : xR} (h : d_X1_turned_41_s L rec29 rec41 a0 a1 a2 a3 a4 a5 a6 r = some rr) : xB L yX1_turned cX1_turned 9 (some (.object "UnimodularTables$Table")) 2 42 41 [some (.inr (.inr (some (a0))) : xV), some (.inl (a1) : xV), some (.inl (a2) : xV), some (.inr (.inr (some (a3))) : xV), some (.inl (a4) : xV), some (.inl (a5) : xV), some (.inl (a6) : xV), none, none] [] (ms, r) (some (.inr (.inr (some rr.1)))) (ms, rr.2) := by
  refine x_iload (i := 6) 43 rfl dX1_turned_41 rfl ?_
  refine x_aload_n (i := 0) 44 rfl dX1_turned_43 rfl rfl ?_
  refine d_getiN (ci := 2) (k := 1) (C := RX4) (T := TX4) (N := 3) 47 rfl dX1_turned_44 rfl in_X4 (by decide) (List.mem_of_getElem? (i := 7) rfl) h (fun x27 h => ?_)
  refine x_icmp_ge 167 50 rfl dX1_turned_47 rfl h (fun h => ?_) (fun h => ?_)
  · refine x_iincL (i := 5) (1 : Int32) 170 rfl dX1_turned_167 rfl rfl (by decide) h (fun x28 h => ?_)
    change xB L yX1_turned cX1_turned 9 (some (.object "UnimodularTables$Table")) 2 42 170 [some (.inr (.inr (some (a0))) : xV), some (.inl (a1) : xV), some (.inl (a2) : xV), some (.inr (.inr (some (a3))) : xV), some (.inl (a4) : xV), some (.inl (x28) : xV), some (.inl (a6) : xV), none, none] [] (ms, r) _ _
    refine x_goto 29 dX1_turned_170 rfl ?_
    exact xB.le (xle.s (xle.s (xle.s (xle.s (xle.s (xle.s (xle.n (xle.n (xle.n xle.z))))))))) (hr29 h)
  · refine x_iload (i := 5) 52 rfl dX1_turned_50 rfl ?_
    refine x_iload_n (i := 1) 53 rfl dX1_turned_52 rfl rfl ?_
    refine x_icmp_ne 60 56 rfl dX1_turned_53 rfl h (fun h => ?_) (fun h => ?_)
    · refine x_iconst (0 : Int32) 61 rfl dX1_turned_60 rfl ?_
      exact xB.le (xle.s (xle.s (xle.s (xle.s (xle.s (xle.s (xle.s (xle.n (xle.n xle.z))))))))) (d_X1_turned_61_ok hr29 hr41 h)
    · refine x_iconst (1 : Int32) 57 rfl dX1_turned_56 rfl ?_
      refine x_goto 61 dX1_turned_57 rfl ?_
      exact xB.le (xle.s (xle.s (xle.s (xle.s (xle.s (xle.s (xle.s (xle.n (xle.n xle.z))))))))) (d_X1_turned_61_ok hr29 hr41 h)
def d_X1_turned_41_L (L : xL) (rec29 : Nat → Int32 → Int32 → Nat → Int32 → Int32 → xR → Option (Nat × xR)) : Nat → Nat → Int32 → Int32 → Nat → Int32 → Int32 → Int32 → xR → Option (Nat × xR)
  | 0 => fun _ _ _ _ _ _ _ _ => none
  | n + 1 => d_X1_turned_41_s L rec29 (d_X1_turned_41_L L rec29 n)
theorem d_X1_turned_41_L_ok {L : xL} {ms : xS} {rr : Nat × xR} {rec29 : Nat → Int32 → Int32 → Nat → Int32 → Int32 → xR → Option (Nat × xR)} (hr29 : ∀ {a0 : Nat} {a1 : Int32} {a2 : Int32} {a3 : Nat} {a4 : Int32} {a5 : Int32} {r : xR}, rec29 a0 a1 a2 a3 a4 a5 r = some rr → xB L yX1_turned cX1_turned 9 (some (.object "UnimodularTables$Table")) 2 42 29 [some (.inr (.inr (some (a0))) : xV), some (.inl (a1) : xV), some (.inl (a2) : xV), some (.inr (.inr (some (a3))) : xV), some (.inl (a4) : xV), some (.inl (a5) : xV), none, none, none] [] (ms, r) (some (.inr (.inr (some rr.1)))) (ms, rr.2)) : ∀ (n9 : Nat) {a0 : Nat} {a1 : Int32} {a2 : Int32} {a3 : Nat} {a4 : Int32} {a5 : Int32} {a6 : Int32} {r : xR}, d_X1_turned_41_L L rec29 n9 a0 a1 a2 a3 a4 a5 a6 r = some rr → xB L yX1_turned cX1_turned 9 (some (.object "UnimodularTables$Table")) 2 42 41 [some (.inr (.inr (some (a0))) : xV), some (.inl (a1) : xV), some (.inl (a2) : xV), some (.inr (.inr (some (a3))) : xV), some (.inl (a4) : xV), some (.inl (a5) : xV), some (.inl (a6) : xV), none, none] [] (ms, r) (some (.inr (.inr (some rr.1)))) (ms, rr.2)
  | 0, _, _, _, _, _, _, _, _, h => by cases h
  | n9 + 1, _, _, _, _, _, _, _, _, h => d_X1_turned_41_s_ok hr29 (d_X1_turned_41_L_ok hr29 n9) h
def d_X1_turned_29_s (L : xL) (rec29 : Nat → Int32 → Int32 → Nat → Int32 → Int32 → xR → Option (Nat × xR)) (a0 : Nat) (a1 : Int32) (a2 : Int32) (a3 : Nat) (a4 : Int32) (a5 : Int32) (r : xR) : Option (Nat × xR) := dgi L r a0 2 0 fun x29 => if x29 ≤ a5 then some (a3, r) else lt ((0 : Int32)) fun x30 => d_X1_turned_41_L L rec29 xFU a0 a1 a2 a3 a4 a5 x30 r
theorem d_X1_turned_29_s_ok {L : xL} {ms : xS} {rr : Nat × xR} {rec29 : Nat → Int32 → Int32 → Nat → Int32 → Int32 → xR → Option (Nat × xR)} (hr29 : ∀ {a0 : Nat} {a1 : Int32} {a2 : Int32} {a3 : Nat} {a4 : Int32} {a5 : Int32} {r : xR}, rec29 a0 a1 a2 a3 a4 a5 r = some rr → xB L yX1_turned cX1_turned 9 (some (.object "UnimodularTables$Table")) 2 42 29 [some (.inr (.inr (some (a0))) : xV), some (.inl (a1) : xV), some (.inl (a2) : xV), some (.inr (.inr (some (a3))) : xV), some (.inl (a4) : xV), some (.inl (a5) : xV), none, none, none] [] (ms, r) (some (.inr (.inr (some rr.1)))) (ms, rr.2)) {a0 : Nat} {a1 : Int32} {a2 : Int32} {a3 : Nat} {a4 : Int32} {a5 : Int32} {r : xR} (h : d_X1_turned_29_s L rec29 a0 a1 a2 a3 a4 a5 r = some rr) : xB L yX1_turned cX1_turned 9 (some (.object "UnimodularTables$Table")) 2 42 29 [some (.inr (.inr (some (a0))) : xV), some (.inl (a1) : xV), some (.inl (a2) : xV), some (.inr (.inr (some (a3))) : xV), some (.inl (a4) : xV), some (.inl (a5) : xV), none, none, none] [] (ms, r) (some (.inr (.inr (some rr.1)))) (ms, rr.2) := by
  refine x_iload (i := 5) 31 rfl dX1_turned_29 rfl ?_
  refine x_aload_n (i := 0) 32 rfl dX1_turned_31 rfl rfl ?_
  refine d_getiN (ci := 2) (k := 0) (C := RX4) (T := TX4) (N := 3) 35 rfl dX1_turned_32 rfl in_X4 (by decide) (List.mem_of_getElem? (i := 5) rfl) h (fun x29 h => ?_)
  refine x_icmp_ge 173 38 rfl dX1_turned_35 rfl h (fun h => ?_) (fun h => ?_)
  · refine x_aload_n (i := 3) 174 rfl dX1_turned_173 rfl rfl ?_
    cases h
    exact x_aret rfl (Or.inl ⟨_, rfl⟩) dX1_turned_174
  · refine x_iconst (0 : Int32) 39 rfl dX1_turned_38 rfl ?_
    refine x_lti h (fun x30 h => ?_)
    refine x_istore 41 rfl dX1_turned_39 (by decide) (lv' := [some (.inr (.inr (some (a0))) : xV), some (.inl (a1) : xV), some (.inl (a2) : xV), some (.inr (.inr (some (a3))) : xV), some (.inl (a4) : xV), some (.inl (a5) : xV), some (.inl (x30) : xV), none, none]) rfl ?_
    exact xB.le (xle.s (xle.s (xle.s (xle.s (xle.s (xle.s (xle.s (xle.n (xle.n xle.z))))))))) (d_X1_turned_41_L_ok hr29 xFU h)
def d_X1_turned_29_L (L : xL) : Nat → Nat → Int32 → Int32 → Nat → Int32 → Int32 → xR → Option (Nat × xR)
  | 0 => fun _ _ _ _ _ _ _ => none
  | n + 1 => d_X1_turned_29_s L (d_X1_turned_29_L L  n)
theorem d_X1_turned_29_L_ok {L : xL} {ms : xS} {rr : Nat × xR} : ∀ (n9 : Nat) {a0 : Nat} {a1 : Int32} {a2 : Int32} {a3 : Nat} {a4 : Int32} {a5 : Int32} {r : xR}, d_X1_turned_29_L L  n9 a0 a1 a2 a3 a4 a5 r = some rr → xB L yX1_turned cX1_turned 9 (some (.object "UnimodularTables$Table")) 2 42 29 [some (.inr (.inr (some (a0))) : xV), some (.inl (a1) : xV), some (.inl (a2) : xV), some (.inr (.inr (some (a3))) : xV), some (.inl (a4) : xV), some (.inl (a5) : xV), none, none, none] [] (ms, r) (some (.inr (.inr (some rr.1)))) (ms, rr.2)
  | 0, _, _, _, _, _, _, _, h => by cases h
  | n9 + 1, _, _, _, _, _, _, _, h => d_X1_turned_29_s_ok (d_X1_turned_29_L_ok  n9) h
def d_X1_turned (L : xL) (a0 : Nat) (a1 : Int32) (a2 : Int32) (r : xR) : Option (Nat × xR) := al L r (.inr (.inl (2, xdefV tyX4))) 3 fun p31 r32 => dgi L r32 a0 2 0 fun x33 => dgi L r32 a0 2 1 fun x34 => cl (d_X4_init L p31 x33 x34 r32) fun q35 => dgr L q35 a0 2 2 fun p36 => nn p36 fun p37 => dar L q35 p37 a1 fun p38 => nn p38 fun p39 => dai L q35 p39 a2 fun x40 => lt ((0 : Int32)) fun x41 => d_X1_turned_29_L L xFU a0 a1 a2 p31 x40 x41 q35
theorem d_X1_turned_ct {L : xL} {ms : xS} {rr : Nat × xR} {a0 : Nat} {a1 : Int32} {a2 : Int32} {r : xR} (h : d_X1_turned L a0 a1 a2 r = some rr) : xCt L yX1_turned cX1_turned 9 (some (.object "UnimodularTables$Table")) 2 42 [(.inr (.inr (some (a0))) : xV), (.inl (a1) : xV), (.inl (a2) : xV)] (ms, r) (some (.inr (.inr (some rr.1)))) (ms, rr.2) := by
  refine xCt.of (lv := [some (.inr (.inr (some (a0))) : xV), some (.inl (a1) : xV), some (.inl (a2) : xV), none, none, none, none, none, none]) pl_X1 (Nat.le_of_ble_eq_true rfl) (xle.s (xle.s (xle.s (xle.m (xle.m (xle.m (xle.m (xle.m (xle.m xle.z))))))))) ?_
  refine d_new (ci := 2) (C := RX4) (T := TX4) (N := 3) tyX4 3 rfl dX1_turned_0 rfl in_X4 tyX4_ok (by decide) q347 q348 q129 h (fun p31 r32 h => ?_)
  refine x_dup 4 rfl dX1_turned_3 rfl ?_
  refine x_aload_n (i := 0) 5 rfl dX1_turned_4 rfl rfl ?_
  refine d_getiN (ci := 2) (k := 0) (C := RX4) (T := TX4) (N := 3) 8 rfl dX1_turned_5 rfl in_X4 (by decide) (List.mem_of_getElem? (i := 5) rfl) h (fun x33 h => ?_)
  refine x_aload_n (i := 0) 9 rfl dX1_turned_8 rfl rfl ?_
  refine d_getiN (ci := 2) (k := 1) (C := RX4) (T := TX4) (N := 3) 12 rfl dX1_turned_9 rfl in_X4 (by decide) (List.mem_of_getElem? (i := 7) rfl) h (fun x34 h => ?_)
  refine x_cl h (fun q35 hq h => ?_)
  refine x_callI (as := [(.inl (x33) : xV), (.inl (x34) : xV)]) (w2 := (ms, q35)) [(.inr (.inr (some (p31))) : xV)] 15 rfl dX1_turned_12 (d_X4_init_ct hq) q349 q350 q129 q351 rfl ydX4_init rfl ⟨Nat.le_of_ble_eq_true rfl, Nat.le_of_ble_eq_true rfl⟩ (Nat.le_of_ble_eq_true rfl) rfl ?_
  refine x_astore_n 16 rfl dX1_turned_15 rfl (by decide) (lv' := [some (.inr (.inr (some (a0))) : xV), some (.inl (a1) : xV), some (.inl (a2) : xV), some (.inr (.inr (some (p31))) : xV), none, none, none, none, none]) rfl ?_
  refine x_aload_n (i := 0) 17 rfl dX1_turned_16 rfl rfl ?_
  refine d_getrN (ci := 2) (k := 2) (C := RX4) (T := TX4) (N := 3) 20 rfl dX1_turned_17 rfl in_X4 (by decide) (List.mem_of_getElem? (i := 9) rfl) h (fun p36 h => ?_)
  refine x_iload_n (i := 1) 21 rfl dX1_turned_20 rfl rfl ?_
  refine x_nnP (P := fun p36 => xB L yX1_turned cX1_turned 9 (some (.object "UnimodularTables$Table")) 2 42 21 [some (.inr (.inr (some (a0))) : xV), some (.inl (a1) : xV), some (.inl (a2) : xV), some (.inr (.inr (some (p31))) : xV), none, none, none, none, none] [(.inl (a1) : xV), (.inr (.inr (p36)) : xV)] (ms, q35) (some (.inr (.inr (some rr.1)))) (ms, rr.2)) h (fun p37 h => ?_)
  refine d_aald 22 rfl dX1_turned_21 h (fun p38 h => ?_)
  refine x_iload_n (i := 2) 23 rfl dX1_turned_22 rfl rfl ?_
  refine x_nnP (P := fun p38 => xB L yX1_turned cX1_turned 9 (some (.object "UnimodularTables$Table")) 2 42 23 [some (.inr (.inr (some (a0))) : xV), some (.inl (a1) : xV), some (.inl (a2) : xV), some (.inr (.inr (some (p31))) : xV), none, none, none, none, none] [(.inl (a2) : xV), (.inr (.inr (p38)) : xV)] (ms, q35) (some (.inr (.inr (some rr.1)))) (ms, rr.2)) h (fun p39 h => ?_)
  refine d_iald 24 rfl dX1_turned_23 h (fun x40 h => ?_)
  refine x_istore 26 rfl dX1_turned_24 (by decide) (lv' := [some (.inr (.inr (some (a0))) : xV), some (.inl (a1) : xV), some (.inl (a2) : xV), some (.inr (.inr (some (p31))) : xV), some (.inl (x40) : xV), none, none, none, none]) rfl ?_
  refine x_iconst (0 : Int32) 27 rfl dX1_turned_26 rfl ?_
  refine x_lti h (fun x41 h => ?_)
  refine x_istore 29 rfl dX1_turned_27 (by decide) (lv' := [some (.inr (.inr (some (a0))) : xV), some (.inl (a1) : xV), some (.inl (a2) : xV), some (.inr (.inr (some (p31))) : xV), some (.inl (x40) : xV), some (.inl (x41) : xV), none, none, none]) rfl ?_
  exact xB.le (xle.s (xle.s (xle.s (xle.s (xle.s (xle.s (xle.n (xle.n (xle.n xle.z))))))))) (d_X1_turned_29_L_ok xFU h)
section XFc0
variable {L : xL} {y : MethodName} {cc : ByteArray} {nL : Nat} {ret : Option FieldType} {d lo pc : Nat} {lv : List (Option xV)} {ms : xS} {r : xR} {v : Option xV} {w1 : xW} {ix cnt : Nat}
/-- a Turner that captures nothing -/
def ltn0 (L : xL) (r : xR) (c t : Nat) (a b : Int32) : Option (Nat × xR) := match xlm L r c with
  | some (0, []) => d_X1_rowNegated L t a b r
  | some (1, []) => d_X1_rowsChanged L t a b r
  | some (2, []) => d_X1_rowDropped L t a b r
  | some (4, []) => d_X1_turned L t a b r
  | some (5, []) => d_X1_transposed L t a b r
  | _ => none
theorem x_turn0 {c t : Nat} {a b : Int32} {rr : Nat × xR} (rest : List xV) (pn : Nat) (hp : pc + 5 = pn) (hd : decode cc pc = .ok (.invokeinterface ix cnt, 5)) (hlink : Cond.methodLink y.cls ix ⟨"UnimodularTables$Turner", "of", "(LUnimodularTables$Table;II)LUnimodularTables$Table;"⟩ ∈ lw_all) (h : ltn0 L r c t a b = some rr) (hroom : 5 ≤ d ∧ 123 ≤ lo) (hr : (rest.map xw).sum ≤ 8) (kk : xB L y cc nL ret d lo pn lv ((.inr (.inr (some rr.1)) : xV) :: rest) (ms, rr.2) v w1) : xB L y cc nL ret d lo pc lv ((.inl b : xV) :: (.inl a : xV) :: (.inr (.inr (some t)) : xV) :: (.inr (.inr (some c)) : xV) :: rest) (ms, r) v w1 := by
  unfold ltn0 at h
  split at h
  · rename_i hx
    exact x_lam (as := [(.inr (.inr (some t)) : xV), (.inl a : xV), (.inl b : xV)]) (rest := rest) pn hp hd lmt_0 (lm_T (d := 4) (lo := 100) (d_X1_rowNegated_ct (ms := ms) h) q415 q414 q118 rfl ydX1_rowNegated rfl (Or.inl ⟨_, rfl⟩) ⟨Nat.le_of_ble_eq_true rfl, Nat.le_of_ble_eq_true rfl⟩) (xlm_rd hx) ⟨_, _, _, q415⟩ hlink rfl ⟨hroom.1, hroom.2⟩ hr rfl kk
  · rename_i hx
    exact x_lam (as := [(.inr (.inr (some t)) : xV), (.inl a : xV), (.inl b : xV)]) (rest := rest) pn hp hd lmt_1 (lm_T (d := 4) (lo := 100) (d_X1_rowsChanged_ct (ms := ms) h) q423 q422 q118 rfl ydX1_rowsChanged rfl (Or.inl ⟨_, rfl⟩) ⟨Nat.le_of_ble_eq_true rfl, Nat.le_of_ble_eq_true rfl⟩) (xlm_rd hx) ⟨_, _, _, q423⟩ hlink rfl ⟨hroom.1, hroom.2⟩ hr rfl kk
  · rename_i hx
    exact x_lam (as := [(.inr (.inr (some t)) : xV), (.inl a : xV), (.inl b : xV)]) (rest := rest) pn hp hd lmt_2 (lm_T (d := 4) (lo := 100) (d_X1_rowDropped_ct (ms := ms) h) q425 q424 q118 rfl ydX1_rowDropped rfl (Or.inl ⟨_, rfl⟩) ⟨Nat.le_of_ble_eq_true rfl, Nat.le_of_ble_eq_true rfl⟩) (xlm_rd hx) ⟨_, _, _, q425⟩ hlink rfl ⟨hroom.1, hroom.2⟩ hr rfl kk
  · rename_i hx
    exact x_lam (as := [(.inr (.inr (some t)) : xV), (.inl a : xV), (.inl b : xV)]) (rest := rest) pn hp hd lmt_4 (lm_T (d := 4) (lo := 100) (d_X1_turned_ct (ms := ms) h) q441 q440 q118 rfl ydX1_turned rfl (Or.inl ⟨_, rfl⟩) ⟨Nat.le_of_ble_eq_true rfl, Nat.le_of_ble_eq_true rfl⟩) (xlm_rd hx) ⟨_, _, _, q441⟩ hlink rfl ⟨hroom.1, hroom.2⟩ hr rfl kk
  · rename_i hx
    exact x_lam (as := [(.inr (.inr (some t)) : xV), (.inl a : xV), (.inl b : xV)]) (rest := rest) pn hp hd lmt_5 (lm_T (d := 4) (lo := 100) (d_X1_transposed_ct (ms := ms) h) q435 q434 q118 rfl ydX1_transposed rfl (Or.inl ⟨_, rfl⟩) ⟨Nat.le_of_ble_eq_true rfl, Nat.le_of_ble_eq_true rfl⟩) (xlm_rd hx) ⟨_, _, _, q435⟩ hlink rfl ⟨hroom.1, hroom.2⟩ hr rfl kk
  · cases h
end XFc0
/-! UnimodularTables.lambda$sideways$0(LUnimodularTables$Turner;LUnimodularTables$Table;II)LUnimodularTables$Table; -/
theorem ydX1_lambda_sideways_0 : xHd yX1_lambda_sideways_0 4 := by decide +kernel
def d_X1_lambda_sideways_0 (L : xL) (a0 : Nat) (a1 : Nat) (a2 : Int32) (a3 : Int32) (r : xR) : Option (Nat × xR) := cl (d_X1_transposed L a1 (0 : Int32) (0 : Int32) r) fun q1 => cl (ltn0 L q1.2 a0 q1.1 a2 a3) fun q2 => cl (d_X1_transposed L q2.1 (0 : Int32) (0 : Int32) q2.2) fun q3 => some (q3.1, q3.2)
theorem d_X1_lambda_sideways_0_ct {L : xL} {ms : xS} {rr : Nat × xR} {a0 : Nat} {a1 : Nat} {a2 : Int32} {a3 : Int32} {r : xR} (h : d_X1_lambda_sideways_0 L a0 a1 a2 a3 r = some rr) : xCt L yX1_lambda_sideways_0 cX1_lambda_sideways_0 4 (some (.object "UnimodularTables$Table")) 5 123 [(.inr (.inr (some (a0))) : xV), (.inr (.inr (some (a1))) : xV), (.inl (a2) : xV), (.inl (a3) : xV)] (ms, r) (some (.inr (.inr (some rr.1)))) (ms, rr.2) := by
  refine xCt.of (lv := [some (.inr (.inr (some (a0))) : xV), some (.inr (.inr (some (a1))) : xV), some (.inl (a2) : xV), some (.inl (a3) : xV)]) pl_X1 (Nat.le_of_ble_eq_true rfl) (xle.s (xle.s (xle.s (xle.s xle.z)))) ?_
  refine x_aload_n (i := 0) 1 rfl dX1_lambda_sideways_0_0 rfl rfl ?_
  refine x_aload_n (i := 1) 2 rfl dX1_lambda_sideways_0_1 rfl rfl ?_
  refine x_iconst (0 : Int32) 3 rfl dX1_lambda_sideways_0_2 rfl ?_
  refine x_iconst (0 : Int32) 4 rfl dX1_lambda_sideways_0_3 rfl ?_
  refine x_cl h (fun q1 hq h => ?_)
  refine x_callS (as := [(.inr (.inr (some (a1))) : xV), (.inl ((0 : Int32)) : xV), (.inl ((0 : Int32)) : xV)]) (rest := [(.inr (.inr (some (a0))) : xV)]) (vv := (some (.inr (.inr (some (q1.1))) : xV))) (w2 := (ms, q1.2)) 7 rfl dX1_lambda_sideways_0_4 (d_X1_transposed_ct hq) (lw_S q433 q434 q118 q435) ydX1_transposed rfl ⟨Nat.le_of_ble_eq_true rfl, Nat.le_of_ble_eq_true rfl⟩ (Nat.le_of_ble_eq_true rfl) rfl ?_
  change xB L yX1_lambda_sideways_0 cX1_lambda_sideways_0 4 (some (.object "UnimodularTables$Table")) 5 123 7 [some (.inr (.inr (some (a0))) : xV), some (.inr (.inr (some (a1))) : xV), some (.inl (a2) : xV), some (.inl (a3) : xV)] [(.inr (.inr (some (q1.1))) : xV), (.inr (.inr (some (a0))) : xV)] (ms, q1.2) _ _
  refine x_iload_n (i := 2) 8 rfl dX1_lambda_sideways_0_7 rfl rfl ?_
  refine x_iload_n (i := 3) 9 rfl dX1_lambda_sideways_0_8 rfl rfl ?_
  refine x_cl h (fun q2 hq h => ?_)
  refine x_turn0 [] 14 rfl dX1_lambda_sideways_0_9 q437 hq ⟨Nat.le_of_ble_eq_true rfl, Nat.le_of_ble_eq_true rfl⟩ (Nat.le_of_ble_eq_true rfl) ?_
  refine x_iconst (0 : Int32) 15 rfl dX1_lambda_sideways_0_14 rfl ?_
  refine x_iconst (0 : Int32) 16 rfl dX1_lambda_sideways_0_15 rfl ?_
  refine x_cl h (fun q3 hq h => ?_)
  refine x_callS (as := [(.inr (.inr (some (q2.1))) : xV), (.inl ((0 : Int32)) : xV), (.inl ((0 : Int32)) : xV)]) (rest := []) (vv := (some (.inr (.inr (some (q3.1))) : xV))) (w2 := (ms, q3.2)) 19 rfl dX1_lambda_sideways_0_16 (d_X1_transposed_ct hq) (lw_S q433 q434 q118 q435) ydX1_transposed rfl ⟨Nat.le_of_ble_eq_true rfl, Nat.le_of_ble_eq_true rfl⟩ (Nat.le_of_ble_eq_true rfl) rfl ?_
  change xB L yX1_lambda_sideways_0 cX1_lambda_sideways_0 4 (some (.object "UnimodularTables$Table")) 5 123 19 [some (.inr (.inr (some (a0))) : xV), some (.inr (.inr (some (a1))) : xV), some (.inl (a2) : xV), some (.inl (a3) : xV)] [(.inr (.inr (some (q3.1))) : xV)] (ms, q3.2) _ _
  cases h
  exact x_aret rfl (Or.inl ⟨_, rfl⟩) dX1_lambda_sideways_0_19
/-! UnimodularTables.byteOf(IIIIII)I -/
theorem ydX1_byteOf : xHd yX1_byteOf 6 := by decide +kernel
def p_X1_byteOf_45 (a5 : Int32) (s0 : Int32) : Option (Int32) := some ((jshr s0 ((24 : Int32) - ((8 : Int32) * (jrem a5 (4 : Int32))))) &&& (255 : Int32))
theorem p_X1_byteOf_45_ok {L : xL} {w : xW} {rr : Int32} {a5 : Int32} {s0 : Int32} (h : p_X1_byteOf_45  a5 s0 = some rr) : xB L yX1_byteOf cX1_byteOf 7 (some .int) 0 0 45 [none, none, none, none, none, some (.inl (a5) : xV), none] [(.inl (s0) : xV)] w (some (.inl rr)) w := by
  refine x_istore 47 rfl dX1_byteOf_45 (by decide) (lv' := [none, none, none, none, none, some (.inl (a5) : xV), some (.inl (s0) : xV)]) rfl ?_
  refine x_iload (i := 6) 49 rfl dX1_byteOf_47 rfl ?_
  refine x_bipush (24 : Int32) 51 rfl dX1_byteOf_49 rfl ?_
  refine x_bipush (8 : Int32) 53 rfl dX1_byteOf_51 rfl ?_
  refine x_iload (i := 5) 55 rfl dX1_byteOf_53 rfl ?_
  refine x_iconst (4 : Int32) 56 rfl dX1_byteOf_55 rfl ?_
  refine x_irem 57 rfl dX1_byteOf_56 (by decide) ?_
  refine x_imul 58 rfl dX1_byteOf_57 ?_
  refine x_isub 59 rfl dX1_byteOf_58 ?_
  refine x_ishr 60 rfl dX1_byteOf_59 ?_
  refine x_sipush (255 : Int32) 63 rfl dX1_byteOf_60 rfl ?_
  refine x_iand 64 rfl dX1_byteOf_63 ?_
  cases h
  exact x_iret rfl dX1_byteOf_64
def p_X1_byteOf (a0 : Int32) (a1 : Int32) (a2 : Int32) (a3 : Int32) (a4 : Int32) (a5 : Int32) : Option (Int32) := if (4 : Int32) ≤ a5 then if (8 : Int32) ≤ a5 then if (12 : Int32) ≤ a5 then if (16 : Int32) ≤ a5 then p_X1_byteOf_45 a5 a4 else p_X1_byteOf_45 a5 a3 else p_X1_byteOf_45 a5 a2 else p_X1_byteOf_45 a5 a1 else p_X1_byteOf_45 a5 a0
theorem p_X1_byteOf_ct {L : xL} {w : xW} {rr : Int32} {a0 : Int32} {a1 : Int32} {a2 : Int32} {a3 : Int32} {a4 : Int32} {a5 : Int32} (h : p_X1_byteOf a0 a1 a2 a3 a4 a5 = some rr) : xCt L yX1_byteOf cX1_byteOf 7 (some .int) 0 0 [(.inl (a0) : xV), (.inl (a1) : xV), (.inl (a2) : xV), (.inl (a3) : xV), (.inl (a4) : xV), (.inl (a5) : xV)] w (some (.inl rr)) w := by
  refine xCt.of (lv := [some (.inl (a0) : xV), some (.inl (a1) : xV), some (.inl (a2) : xV), some (.inl (a3) : xV), some (.inl (a4) : xV), some (.inl (a5) : xV), none]) pl_X1 (Nat.le_of_ble_eq_true rfl) (xle.s (xle.s (xle.s (xle.s (xle.s (xle.s (xle.m xle.z))))))) ?_
  refine x_iload (i := 5) 2 rfl dX1_byteOf_0 rfl ?_
  refine x_iconst (4 : Int32) 3 rfl dX1_byteOf_2 rfl ?_
  refine x_icmp_ge 10 6 rfl dX1_byteOf_3 rfl h (fun h => ?_) (fun h => ?_)
  · refine x_iload (i := 5) 12 rfl dX1_byteOf_10 rfl ?_
    refine x_bipush (8 : Int32) 14 rfl dX1_byteOf_12 rfl ?_
    refine x_icmp_ge 21 17 rfl dX1_byteOf_14 rfl h (fun h => ?_) (fun h => ?_)
    · refine x_iload (i := 5) 23 rfl dX1_byteOf_21 rfl ?_
      refine x_bipush (12 : Int32) 25 rfl dX1_byteOf_23 rfl ?_
      refine x_icmp_ge 32 28 rfl dX1_byteOf_25 rfl h (fun h => ?_) (fun h => ?_)
      · refine x_iload (i := 5) 34 rfl dX1_byteOf_32 rfl ?_
        refine x_bipush (16 : Int32) 36 rfl dX1_byteOf_34 rfl ?_
        refine x_icmp_ge 43 39 rfl dX1_byteOf_36 rfl h (fun h => ?_) (fun h => ?_)
        · refine x_iload (i := 4) 45 rfl dX1_byteOf_43 rfl ?_
          exact xB.le (xle.n (xle.n (xle.n (xle.n (xle.n (xle.s (xle.n xle.z))))))) (p_X1_byteOf_45_ok h)
        · refine x_iload_n (i := 3) 40 rfl dX1_byteOf_39 rfl rfl ?_
          refine x_goto 45 dX1_byteOf_40 rfl ?_
          exact xB.le (xle.n (xle.n (xle.n (xle.n (xle.n (xle.s (xle.n xle.z))))))) (p_X1_byteOf_45_ok h)
      · refine x_iload_n (i := 2) 29 rfl dX1_byteOf_28 rfl rfl ?_
        refine x_goto 45 dX1_byteOf_29 rfl ?_
        exact xB.le (xle.n (xle.n (xle.n (xle.n (xle.n (xle.s (xle.n xle.z))))))) (p_X1_byteOf_45_ok h)
    · refine x_iload_n (i := 1) 18 rfl dX1_byteOf_17 rfl rfl ?_
      refine x_goto 45 dX1_byteOf_18 rfl ?_
      exact xB.le (xle.n (xle.n (xle.n (xle.n (xle.n (xle.s (xle.n xle.z))))))) (p_X1_byteOf_45_ok h)
  · refine x_iload_n (i := 0) 7 rfl dX1_byteOf_6 rfl rfl ?_
    refine x_goto 45 dX1_byteOf_7 rfl ?_
    exact xB.le (xle.n (xle.n (xle.n (xle.n (xle.n (xle.s (xle.n xle.z))))))) (p_X1_byteOf_45_ok h)
/-! UnimodularTables.feed(IIIII)I -/
theorem ydX1_feed : xHd yX1_feed 5 := by decide +kernel
def x_X1_feed_100 (rec55 : Int32 → Int32 → Int32 → Int32 → Int32 → Int32 → xR → Option (Int32 × xR)) (a1 : Int32) (a2 : Int32) (a3 : Int32) (a4 : Int32) (a5 : Int32) (a7 : Int32) (r : xR) : Option (Int32 × xR) := lt (a7 + (1 : Int32)) fun x1 => rec55 a1 a2 a3 a4 a5 x1 r
theorem x_X1_feed_100_ok {ms : xS} {rr : Int32 × xR} {rec55 : Int32 → Int32 → Int32 → Int32 → Int32 → Int32 → xR → Option (Int32 × xR)} (hr55 : ∀ {a1 : Int32} {a2 : Int32} {a3 : Int32} {a4 : Int32} {a5 : Int32} {a7 : Int32} {r : xR}, rec55 a1 a2 a3 a4 a5 a7 r = some rr → xB xLL yX1_feed cX1_feed 9 (some .int) 1 26 55 [some (.inr (.inr (some 300)) : xV), some (.inl (a1) : xV), some (.inl (a2) : xV), some (.inl (a3) : xV), some (.inl (a4) : xV), some (.inl (a5) : xV), none, some (.inl (a7) : xV), none] [] (ms, r) (some (.inl rr.1)) (ms, rr.2)) {a1 : Int32} {a2 : Int32} {a3 : Int32} {a4 : Int32} {a5 : Int32} {a7 : Int32} {r : xR} (h : x_X1_feed_100 rec55 a1 a2 a3 a4 a5 a7 r = some rr) : xB xLL yX1_feed cX1_feed 9 (some .int) 1 26 100 [some (.inr (.inr (some 300)) : xV), some (.inl (a1) : xV), some (.inl (a2) : xV), some (.inl (a3) : xV), some (.inl (a4) : xV), some (.inl (a5) : xV), none, some (.inl (a7) : xV), none] [] (ms, r) (some (.inl rr.1)) (ms, rr.2) := by
  refine x_iincL (i := 7) (1 : Int32) 103 rfl dX1_feed_100 rfl rfl (by decide) h (fun x1 h => ?_)
  change xB xLL yX1_feed cX1_feed 9 (some .int) 1 26 103 [some (.inr (.inr (some 300)) : xV), some (.inl (a1) : xV), some (.inl (a2) : xV), some (.inl (a3) : xV), some (.inl (a4) : xV), some (.inl (a5) : xV), none, some (.inl (x1) : xV), none] [] (ms, r) _ _
  refine x_goto 55 dX1_feed_103 rfl ?_
  exact xB.le (xle.s (xle.s (xle.s (xle.s (xle.s (xle.s (xle.n (xle.s (xle.n xle.z))))))))) (hr55 h)
def x_X1_feed_55_s (rec55 : Int32 → Int32 → Int32 → Int32 → Int32 → Int32 → xR → Option (Int32 × xR)) (a1 : Int32) (a2 : Int32) (a3 : Int32) (a4 : Int32) (a5 : Int32) (a7 : Int32) (r : xR) : Option (Int32 × xR) := if (20 : Int32) ≤ a7 then some (r.1.1 0 3, r) else cl (p_X1_byteOf a1 a2 a3 a4 a5 a7) fun q2 => if q2 = 0 then x_X1_feed_100 rec55 a1 a2 a3 a4 a5 a7 r else qpi r 0 3 ((r.1.1 0 3) + (1 : Int32)) fun r3 => qwb r3 (r.1.1 0 3) q2.toInt8.toInt32 fun r4 => x_X1_feed_100 rec55 a1 a2 a3 a4 a5 a7 r4
theorem x_X1_feed_55_s_ok {ms : xS} {rr : Int32 × xR} {rec55 : Int32 → Int32 → Int32 → Int32 → Int32 → Int32 → xR → Option (Int32 × xR)} (hr55 : ∀ {a1 : Int32} {a2 : Int32} {a3 : Int32} {a4 : Int32} {a5 : Int32} {a7 : Int32} {r : xR}, rec55 a1 a2 a3 a4 a5 a7 r = some rr → xB xLL yX1_feed cX1_feed 9 (some .int) 1 26 55 [some (.inr (.inr (some 300)) : xV), some (.inl (a1) : xV), some (.inl (a2) : xV), some (.inl (a3) : xV), some (.inl (a4) : xV), some (.inl (a5) : xV), none, some (.inl (a7) : xV), none] [] (ms, r) (some (.inl rr.1)) (ms, rr.2)) {a1 : Int32} {a2 : Int32} {a3 : Int32} {a4 : Int32} {a5 : Int32} {a7 : Int32} {r : xR} (h : x_X1_feed_55_s rec55 a1 a2 a3 a4 a5 a7 r = some rr) : xB xLL yX1_feed cX1_feed 9 (some .int) 1 26 55 [some (.inr (.inr (some 300)) : xV), some (.inl (a1) : xV), some (.inl (a2) : xV), some (.inl (a3) : xV), some (.inl (a4) : xV), some (.inl (a5) : xV), none, some (.inl (a7) : xV), none] [] (ms, r) (some (.inl rr.1)) (ms, rr.2) := by
  refine x_iload (i := 7) 57 rfl dX1_feed_55 rfl ?_
  refine x_bipush (20 : Int32) 59 rfl dX1_feed_57 rfl ?_
  refine x_icmp_ge 106 62 rfl dX1_feed_59 rfl h (fun h => ?_) (fun h => ?_)
  · refine x_aload_n (i := 0) 107 rfl dX1_feed_106 rfl rfl ?_
    refine q_get (k := 3) 110 rfl dX1_feed_107 (by decide) q445 rfl ?_
    cases h
    exact x_iret rfl dX1_feed_110
  · refine x_iload_n (i := 1) 63 rfl dX1_feed_62 rfl rfl ?_
    refine x_iload_n (i := 2) 64 rfl dX1_feed_63 rfl rfl ?_
    refine x_iload_n (i := 3) 65 rfl dX1_feed_64 rfl rfl ?_
    refine x_iload (i := 4) 67 rfl dX1_feed_65 rfl ?_
    refine x_iload (i := 5) 69 rfl dX1_feed_67 rfl ?_
    refine x_iload (i := 7) 71 rfl dX1_feed_69 rfl ?_
    refine x_cl h (fun q2 hq h => ?_)
    refine x_callS (as := [(.inl (a1) : xV), (.inl (a2) : xV), (.inl (a3) : xV), (.inl (a4) : xV), (.inl (a5) : xV), (.inl (a7) : xV)]) (rest := []) (vv := (some (.inl (q2) : xV))) (w2 := (ms, r)) 74 rfl dX1_feed_71 (p_X1_byteOf_ct hq) (lw_S q549 q550 q118 q551) ydX1_byteOf rfl ⟨Nat.le_of_ble_eq_true rfl, Nat.le_of_ble_eq_true rfl⟩ (Nat.le_of_ble_eq_true rfl) rfl ?_
    change xB xLL yX1_feed cX1_feed 9 (some .int) 1 26 74 [some (.inr (.inr (some 300)) : xV), some (.inl (a1) : xV), some (.inl (a2) : xV), some (.inl (a3) : xV), some (.inl (a4) : xV), some (.inl (a5) : xV), none, some (.inl (a7) : xV), none] [(.inl (q2) : xV)] (ms, r) _ _
    refine x_istore 76 rfl dX1_feed_74 (by decide) (lv' := [some (.inr (.inr (some 300)) : xV), some (.inl (a1) : xV), some (.inl (a2) : xV), some (.inl (a3) : xV), some (.inl (a4) : xV), some (.inl (a5) : xV), none, some (.inl (a7) : xV), some (.inl (q2) : xV)]) rfl ?_
    refine x_iload (i := 8) 78 rfl dX1_feed_76 rfl ?_
    refine x_if_eq 100 81 rfl dX1_feed_78 rfl h (fun h => ?_) (fun h => ?_)
    · exact xB.le (xle.s (xle.s (xle.s (xle.s (xle.s (xle.s (xle.n (xle.s (xle.n xle.z))))))))) (x_X1_feed_100_ok hr55 h)
    · refine x_aload_n (i := 0) 82 rfl dX1_feed_81 rfl rfl ?_
      refine q_get (k := 2) 85 rfl dX1_feed_82 (by decide) q444 rfl ?_
      refine x_aload_n (i := 0) 86 rfl dX1_feed_85 rfl rfl ?_
      refine x_dup 87 rfl dX1_feed_86 rfl ?_
      refine q_get (k := 3) 90 rfl dX1_feed_87 (by decide) q445 rfl ?_
      refine x_dup_x1 91 rfl dX1_feed_90 rfl rfl ?_
      refine x_iconst (1 : Int32) 92 rfl dX1_feed_91 rfl ?_
      refine x_iadd 93 rfl dX1_feed_92 ?_
      refine q_puti (k := 3) (z := 0) 96 rfl dX1_feed_93 (by decide) rfl (Or.inl rfl) rfl q445 h (fun r3 h => ?_)
      refine x_iload (i := 8) 98 rfl dX1_feed_96 rfl ?_
      refine x_i2b 99 rfl dX1_feed_98 ?_
      refine q_bast 100 rfl dX1_feed_99 h (fun r4 h => ?_)
      exact xB.le (xle.s (xle.s (xle.s (xle.s (xle.s (xle.s (xle.n (xle.s (xle.n xle.z))))))))) (x_X1_feed_100_ok hr55 h)
def x_X1_feed_55_L : Nat → Int32 → Int32 → Int32 → Int32 → Int32 → Int32 → xR → Option (Int32 × xR)
  | 0 => fun _ _ _ _ _ _ _ => none
  | n + 1 => x_X1_feed_55_s (x_X1_feed_55_L  n)
theorem x_X1_feed_55_L_ok {ms : xS} {rr : Int32 × xR} : ∀ (n9 : Nat) {a1 : Int32} {a2 : Int32} {a3 : Int32} {a4 : Int32} {a5 : Int32} {a7 : Int32} {r : xR}, x_X1_feed_55_L  n9 a1 a2 a3 a4 a5 a7 r = some rr → xB xLL yX1_feed cX1_feed 9 (some .int) 1 26 55 [some (.inr (.inr (some 300)) : xV), some (.inl (a1) : xV), some (.inl (a2) : xV), some (.inl (a3) : xV), some (.inl (a4) : xV), some (.inl (a5) : xV), none, some (.inl (a7) : xV), none] [] (ms, r) (some (.inl rr.1)) (ms, rr.2)
  | 0, _, _, _, _, _, _, _, h => by cases h
  | n9 + 1, _, _, _, _, _, _, _, h => x_X1_feed_55_s_ok (x_X1_feed_55_L_ok  n9) h
def x_X1_feed_31 (rec6 : Int32 → Int32 → Int32 → Int32 → Int32 → Int32 → Int32 → xR → Option (Int32 × xR)) (a1 : Int32) (a2 : Int32) (a3 : Int32) (a4 : Int32) (a5 : Int32) (a6 : Int32) (a7 : Int32) (r : xR) : Option (Int32 × xR) := lt (a7 + (1 : Int32)) fun x5 => rec6 a1 a2 a3 a4 a5 a6 x5 r
theorem x_X1_feed_31_ok {ms : xS} {rr : Int32 × xR} {rec6 : Int32 → Int32 → Int32 → Int32 → Int32 → Int32 → Int32 → xR → Option (Int32 × xR)} (hr6 : ∀ {a1 : Int32} {a2 : Int32} {a3 : Int32} {a4 : Int32} {a5 : Int32} {a6 : Int32} {a7 : Int32} {r : xR}, rec6 a1 a2 a3 a4 a5 a6 a7 r = some rr → xB xLL yX1_feed cX1_feed 9 (some .int) 1 26 6 [some (.inr (.inr (some 300)) : xV), some (.inl (a1) : xV), some (.inl (a2) : xV), some (.inl (a3) : xV), some (.inl (a4) : xV), some (.inl (a5) : xV), some (.inl (a6) : xV), some (.inl (a7) : xV), none] [] (ms, r) (some (.inl rr.1)) (ms, rr.2)) {a1 : Int32} {a2 : Int32} {a3 : Int32} {a4 : Int32} {a5 : Int32} {a6 : Int32} {a7 : Int32} {r : xR} (h : x_X1_feed_31 rec6 a1 a2 a3 a4 a5 a6 a7 r = some rr) : xB xLL yX1_feed cX1_feed 9 (some .int) 1 26 31 [some (.inr (.inr (some 300)) : xV), some (.inl (a1) : xV), some (.inl (a2) : xV), some (.inl (a3) : xV), some (.inl (a4) : xV), some (.inl (a5) : xV), some (.inl (a6) : xV), some (.inl (a7) : xV), none] [] (ms, r) (some (.inl rr.1)) (ms, rr.2) := by
  refine x_iincL (i := 7) (1 : Int32) 34 rfl dX1_feed_31 rfl rfl (by decide) h (fun x5 h => ?_)
  change xB xLL yX1_feed cX1_feed 9 (some .int) 1 26 34 [some (.inr (.inr (some 300)) : xV), some (.inl (a1) : xV), some (.inl (a2) : xV), some (.inl (a3) : xV), some (.inl (a4) : xV), some (.inl (a5) : xV), some (.inl (a6) : xV), some (.inl (x5) : xV), none] [] (ms, r) _ _
  refine x_goto 6 dX1_feed_34 rfl ?_
  exact xB.le (xle.s (xle.s (xle.s (xle.s (xle.s (xle.s (xle.s (xle.s (xle.n xle.z))))))))) (hr6 h)
def x_X1_feed_6_s (rec6 : Int32 → Int32 → Int32 → Int32 → Int32 → Int32 → Int32 → xR → Option (Int32 × xR)) (a1 : Int32) (a2 : Int32) (a3 : Int32) (a4 : Int32) (a5 : Int32) (a6 : Int32) (a7 : Int32) (r : xR) : Option (Int32 × xR) := if (20 : Int32) ≤ a7 then if ((r.1.1 0 3) + a6) ≤ (240 : Int32) then lt ((0 : Int32)) fun x6 => x_X1_feed_55_L xFU a1 a2 a3 a4 a5 x6 r else some ((-1 : Int32), r) else cl (p_X1_byteOf a1 a2 a3 a4 a5 a7) fun q7 => if q7 = 0 then x_X1_feed_31 rec6 a1 a2 a3 a4 a5 a6 a7 r else lt (a6 + (1 : Int32)) fun x8 => x_X1_feed_31 rec6 a1 a2 a3 a4 a5 x8 a7 r
theorem x_X1_feed_6_s_ok {ms : xS} {rr : Int32 × xR} {rec6 : Int32 → Int32 → Int32 → Int32 → Int32 → Int32 → Int32 → xR → Option (Int32 × xR)} (hr6 : ∀ {a1 : Int32} {a2 : Int32} {a3 : Int32} {a4 : Int32} {a5 : Int32} {a6 : Int32} {a7 : Int32} {r : xR}, rec6 a1 a2 a3 a4 a5 a6 a7 r = some rr → xB xLL yX1_feed cX1_feed 9 (some .int) 1 26 6 [some (.inr (.inr (some 300)) : xV), some (.inl (a1) : xV), some (.inl (a2) : xV), some (.inl (a3) : xV), some (.inl (a4) : xV), some (.inl (a5) : xV), some (.inl (a6) : xV), some (.inl (a7) : xV), none] [] (ms, r) (some (.inl rr.1)) (ms, rr.2)) {a1 : Int32} {a2 : Int32} {a3 : Int32} {a4 : Int32} {a5 : Int32} {a6 : Int32} {a7 : Int32} {r : xR} (h : x_X1_feed_6_s rec6 a1 a2 a3 a4 a5 a6 a7 r = some rr) : xB xLL yX1_feed cX1_feed 9 (some .int) 1 26 6 [some (.inr (.inr (some 300)) : xV), some (.inl (a1) : xV), some (.inl (a2) : xV), some (.inl (a3) : xV), some (.inl (a4) : xV), some (.inl (a5) : xV), some (.inl (a6) : xV), some (.inl (a7) : xV), none] [] (ms, r) (some (.inl rr.1)) (ms, rr.2) := by
  refine x_iload (i := 7) 8 rfl dX1_feed_6 rfl ?_
  refine x_bipush (20 : Int32) 10 rfl dX1_feed_8 rfl ?_
  refine x_icmp_ge 37 13 rfl dX1_feed_10 rfl h (fun h => ?_) (fun h => ?_)
  · refine x_aload_n (i := 0) 38 rfl dX1_feed_37 rfl rfl ?_
    refine q_get (k := 3) 41 rfl dX1_feed_38 (by decide) q445 rfl ?_
    refine x_iload (i := 6) 43 rfl dX1_feed_41 rfl ?_
    refine x_iadd 44 rfl dX1_feed_43 ?_
    refine x_sipush (240 : Int32) 47 rfl dX1_feed_44 rfl ?_
    refine x_icmp_le 52 50 rfl dX1_feed_47 rfl h (fun h => ?_) (fun h => ?_)
    · refine x_iconst (0 : Int32) 53 rfl dX1_feed_52 rfl ?_
      refine x_lti h (fun x6 h => ?_)
      refine x_istore 55 rfl dX1_feed_53 (by decide) (lv' := [some (.inr (.inr (some 300)) : xV), some (.inl (a1) : xV), some (.inl (a2) : xV), some (.inl (a3) : xV), some (.inl (a4) : xV), some (.inl (a5) : xV), some (.inl (a6) : xV), some (.inl (x6) : xV), none]) rfl ?_
      exact xB.le (xle.s (xle.s (xle.s (xle.s (xle.s (xle.s (xle.n (xle.s (xle.n xle.z))))))))) (x_X1_feed_55_L_ok xFU h)
    · refine x_iconst (-1 : Int32) 51 rfl dX1_feed_50 rfl ?_
      cases h
      exact x_iret rfl dX1_feed_51
  · refine x_iload_n (i := 1) 14 rfl dX1_feed_13 rfl rfl ?_
    refine x_iload_n (i := 2) 15 rfl dX1_feed_14 rfl rfl ?_
    refine x_iload_n (i := 3) 16 rfl dX1_feed_15 rfl rfl ?_
    refine x_iload (i := 4) 18 rfl dX1_feed_16 rfl ?_
    refine x_iload (i := 5) 20 rfl dX1_feed_18 rfl ?_
    refine x_iload (i := 7) 22 rfl dX1_feed_20 rfl ?_
    refine x_cl h (fun q7 hq h => ?_)
    refine x_callS (as := [(.inl (a1) : xV), (.inl (a2) : xV), (.inl (a3) : xV), (.inl (a4) : xV), (.inl (a5) : xV), (.inl (a7) : xV)]) (rest := []) (vv := (some (.inl (q7) : xV))) (w2 := (ms, r)) 25 rfl dX1_feed_22 (p_X1_byteOf_ct hq) (lw_S q549 q550 q118 q551) ydX1_byteOf rfl ⟨Nat.le_of_ble_eq_true rfl, Nat.le_of_ble_eq_true rfl⟩ (Nat.le_of_ble_eq_true rfl) rfl ?_
    change xB xLL yX1_feed cX1_feed 9 (some .int) 1 26 25 [some (.inr (.inr (some 300)) : xV), some (.inl (a1) : xV), some (.inl (a2) : xV), some (.inl (a3) : xV), some (.inl (a4) : xV), some (.inl (a5) : xV), some (.inl (a6) : xV), some (.inl (a7) : xV), none] [(.inl (q7) : xV)] (ms, r) _ _
    refine x_if_eq 31 28 rfl dX1_feed_25 rfl h (fun h => ?_) (fun h => ?_)
    · exact xB.le (xle.s (xle.s (xle.s (xle.s (xle.s (xle.s (xle.s (xle.s (xle.n xle.z))))))))) (x_X1_feed_31_ok hr6 h)
    · refine x_iincL (i := 6) (1 : Int32) 31 rfl dX1_feed_28 rfl rfl (by decide) h (fun x8 h => ?_)
      change xB xLL yX1_feed cX1_feed 9 (some .int) 1 26 31 [some (.inr (.inr (some 300)) : xV), some (.inl (a1) : xV), some (.inl (a2) : xV), some (.inl (a3) : xV), some (.inl (a4) : xV), some (.inl (a5) : xV), some (.inl (x8) : xV), some (.inl (a7) : xV), none] [] (ms, r) _ _
      exact xB.le (xle.s (xle.s (xle.s (xle.s (xle.s (xle.s (xle.s (xle.s (xle.n xle.z))))))))) (x_X1_feed_31_ok hr6 h)
def x_X1_feed_6_L : Nat → Int32 → Int32 → Int32 → Int32 → Int32 → Int32 → Int32 → xR → Option (Int32 × xR)
  | 0 => fun _ _ _ _ _ _ _ _ => none
  | n + 1 => x_X1_feed_6_s (x_X1_feed_6_L  n)
theorem x_X1_feed_6_L_ok {ms : xS} {rr : Int32 × xR} : ∀ (n9 : Nat) {a1 : Int32} {a2 : Int32} {a3 : Int32} {a4 : Int32} {a5 : Int32} {a6 : Int32} {a7 : Int32} {r : xR}, x_X1_feed_6_L  n9 a1 a2 a3 a4 a5 a6 a7 r = some rr → xB xLL yX1_feed cX1_feed 9 (some .int) 1 26 6 [some (.inr (.inr (some 300)) : xV), some (.inl (a1) : xV), some (.inl (a2) : xV), some (.inl (a3) : xV), some (.inl (a4) : xV), some (.inl (a5) : xV), some (.inl (a6) : xV), some (.inl (a7) : xV), none] [] (ms, r) (some (.inl rr.1)) (ms, rr.2)
  | 0, _, _, _, _, _, _, _, _, h => by cases h
  | n9 + 1, _, _, _, _, _, _, _, _, h => x_X1_feed_6_s_ok (x_X1_feed_6_L_ok  n9) h
def x_X1_feed (a1 : Int32) (a2 : Int32) (a3 : Int32) (a4 : Int32) (a5 : Int32) (r : xR) : Option (Int32 × xR) := lt ((0 : Int32)) fun x9 => lt ((0 : Int32)) fun x10 => x_X1_feed_6_L xFU a1 a2 a3 a4 a5 x9 x10 r
theorem x_X1_feed_ct {ms : xS} {rr : Int32 × xR} {a1 : Int32} {a2 : Int32} {a3 : Int32} {a4 : Int32} {a5 : Int32} {r : xR} (h : x_X1_feed a1 a2 a3 a4 a5 r = some rr) : xCt xLL yX1_feed cX1_feed 9 (some .int) 1 26 [(.inr (.inr (some 300)) : xV), (.inl (a1) : xV), (.inl (a2) : xV), (.inl (a3) : xV), (.inl (a4) : xV), (.inl (a5) : xV)] (ms, r) (some (.inl rr.1)) (ms, rr.2) := by
  refine xCt.of (lv := [some (.inr (.inr (some 300)) : xV), some (.inl (a1) : xV), some (.inl (a2) : xV), some (.inl (a3) : xV), some (.inl (a4) : xV), some (.inl (a5) : xV), none, none, none]) pl_X1 (Nat.le_of_ble_eq_true rfl) (xle.s (xle.s (xle.s (xle.s (xle.s (xle.s (xle.m (xle.m (xle.m xle.z))))))))) ?_
  refine x_iconst (0 : Int32) 1 rfl dX1_feed_0 rfl ?_
  refine x_lti h (fun x9 h => ?_)
  refine x_istore 3 rfl dX1_feed_1 (by decide) (lv' := [some (.inr (.inr (some 300)) : xV), some (.inl (a1) : xV), some (.inl (a2) : xV), some (.inl (a3) : xV), some (.inl (a4) : xV), some (.inl (a5) : xV), some (.inl (x9) : xV), none, none]) rfl ?_
  refine x_iconst (0 : Int32) 4 rfl dX1_feed_3 rfl ?_
  refine x_lti h (fun x10 h => ?_)
  refine x_istore 6 rfl dX1_feed_4 (by decide) (lv' := [some (.inr (.inr (some 300)) : xV), some (.inl (a1) : xV), some (.inl (a2) : xV), some (.inl (a3) : xV), some (.inl (a4) : xV), some (.inl (a5) : xV), some (.inl (x9) : xV), some (.inl (x10) : xV), none]) rfl ?_
  exact xB.le (xle.s (xle.s (xle.s (xle.s (xle.s (xle.s (xle.s (xle.s (xle.n xle.z))))))))) (x_X1_feed_6_L_ok xFU h)
/-! UnimodularTables.in(III)Z -/
theorem ydX1_in : xHd yX1_in 3 := by decide +kernel
def p_X1_in (a0 : Int32) (a1 : Int32) (a2 : Int32) : Option (Int32) := if a0 < a1 then some ((0 : Int32)) else if a2 < a0 then some ((0 : Int32)) else some ((1 : Int32))
theorem p_X1_in_ct {L : xL} {w : xW} {rr : Int32} {a0 : Int32} {a1 : Int32} {a2 : Int32} (h : p_X1_in a0 a1 a2 = some rr) : xCt L yX1_in cX1_in 3 (some .boolean) 0 0 [(.inl (a0) : xV), (.inl (a1) : xV), (.inl (a2) : xV)] w (some (.inl rr)) w := by
  refine xCt.of (lv := [some (.inl (a0) : xV), some (.inl (a1) : xV), some (.inl (a2) : xV)]) pl_X1 (Nat.le_of_ble_eq_true rfl) (xle.s (xle.s (xle.s xle.z))) ?_
  refine x_iload_n (i := 0) 1 rfl dX1_in_0 rfl rfl ?_
  refine x_iload_n (i := 1) 2 rfl dX1_in_1 rfl rfl ?_
  refine x_icmp_lt 14 5 rfl dX1_in_2 rfl h (fun h => ?_) (fun h => ?_)
  · refine x_iconst (0 : Int32) 15 rfl dX1_in_14 rfl ?_
    cases h
    exact x_zret rfl (Or.inl rfl) dX1_in_15
  · refine x_iload_n (i := 0) 6 rfl dX1_in_5 rfl rfl ?_
    refine x_iload_n (i := 2) 7 rfl dX1_in_6 rfl rfl ?_
    refine x_icmp_gt 14 10 rfl dX1_in_7 rfl h (fun h => ?_) (fun h => ?_)
    · refine x_iconst (0 : Int32) 15 rfl dX1_in_14 rfl ?_
      cases h
      exact x_zret rfl (Or.inl rfl) dX1_in_15
    · refine x_iconst (1 : Int32) 11 rfl dX1_in_10 rfl ?_
      refine x_goto 15 dX1_in_11 rfl ?_
      cases h
      exact x_zret rfl (Or.inr rfl) dX1_in_15
/-! UnimodularTables.end(I)Z -/
theorem ydX1_end : xHd yX1_end 1 := by decide +kernel
def x_X1_end (a1 : Int32) (r : xR) : Option (Int32 × xR) := cl (p_X1_in a1 (0 : Int32) (r.1.1 0 3)) fun q1 => if q1 = 0 then some ((0 : Int32), r) else qpi r 0 3 a1 fun r2 => some ((1 : Int32), r2)
theorem x_X1_end_ct {ms : xS} {rr : Int32 × xR} {a1 : Int32} {r : xR} (h : x_X1_end a1 r = some rr) : xCt xLL yX1_end cX1_end 2 (some .boolean) 1 22 [(.inr (.inr (some 300)) : xV), (.inl (a1) : xV)] (ms, r) (some (.inl rr.1)) (ms, rr.2) := by
  refine xCt.of (lv := [some (.inr (.inr (some 300)) : xV), some (.inl (a1) : xV)]) pl_X1 (Nat.le_of_ble_eq_true rfl) (xle.s (xle.s xle.z)) ?_
  refine x_iload_n (i := 1) 1 rfl dX1_end_0 rfl rfl ?_
  refine x_iconst (0 : Int32) 2 rfl dX1_end_1 rfl ?_
  refine x_aload_n (i := 0) 3 rfl dX1_end_2 rfl rfl ?_
  refine q_get (k := 3) 6 rfl dX1_end_3 (by decide) q445 rfl ?_
  refine x_cl h (fun q1 hq h => ?_)
  refine x_callS (as := [(.inl (a1) : xV), (.inl ((0 : Int32)) : xV), (.inl (r.1.1 0 3) : xV)]) (rest := []) (vv := (some (.inl (q1) : xV))) (w2 := (ms, r)) 9 rfl dX1_end_6 (p_X1_in_ct hq) (lw_S q556 q557 q118 q558) ydX1_in rfl ⟨Nat.le_of_ble_eq_true rfl, Nat.le_of_ble_eq_true rfl⟩ (Nat.le_of_ble_eq_true rfl) rfl ?_
  change xB xLL yX1_end cX1_end 2 (some .boolean) 1 22 9 [some (.inr (.inr (some 300)) : xV), some (.inl (a1) : xV)] [(.inl (q1) : xV)] (ms, r) _ _
  refine x_if_ne 14 12 rfl dX1_end_9 rfl h (fun h => ?_) (fun h => ?_)
  · refine x_aload_n (i := 0) 15 rfl dX1_end_14 rfl rfl ?_
    refine x_iload_n (i := 1) 16 rfl dX1_end_15 rfl rfl ?_
    refine q_puti (k := 3) (z := 0) 19 rfl dX1_end_16 (by decide) rfl (Or.inl rfl) rfl q445 h (fun r2 h => ?_)
    refine x_iconst (1 : Int32) 20 rfl dX1_end_19 rfl ?_
    cases h
    exact x_zret rfl (Or.inr rfl) dX1_end_20
  · refine x_iconst (0 : Int32) 13 rfl dX1_end_12 rfl ?_
    cases h
    exact x_zret rfl (Or.inl rfl) dX1_end_13
/-! UnimodularTables.ahead()I -/
theorem ydX1_ahead : xHd yX1_ahead 0 := by decide +kernel
def x_X1_ahead_38 (r : xR) : Option (Int32 × xR) := if (r.1.1 0 3) ≤ (r.1.1 0 4) then some ((-1 : Int32), r) else qrb r (r.1.1 0 4) fun x1 => some (x1 &&& (255 : Int32), r)
theorem x_X1_ahead_38_ok {ms : xS} {rr : Int32 × xR} {r : xR} (h : x_X1_ahead_38  r = some rr) : xB xLL yX1_ahead cX1_ahead 1 (some .int) 0 0 38 [some (.inr (.inr (some 300)) : xV)] [] (ms, r) (some (.inl rr.1)) (ms, rr.2) := by
  refine x_aload_n (i := 0) 39 rfl dX1_ahead_38 rfl rfl ?_
  refine q_get (k := 4) 42 rfl dX1_ahead_39 (by decide) q446 rfl ?_
  refine x_aload_n (i := 0) 43 rfl dX1_ahead_42 rfl rfl ?_
  refine q_get (k := 3) 46 rfl dX1_ahead_43 (by decide) q445 rfl ?_
  refine x_icmp_ge 65 49 rfl dX1_ahead_46 rfl h (fun h => ?_) (fun h => ?_)
  · refine x_iconst (-1 : Int32) 66 rfl dX1_ahead_65 rfl ?_
    cases h
    exact x_iret rfl dX1_ahead_66
  · refine x_aload_n (i := 0) 50 rfl dX1_ahead_49 rfl rfl ?_
    refine q_get (k := 2) 53 rfl dX1_ahead_50 (by decide) q444 rfl ?_
    refine x_aload_n (i := 0) 54 rfl dX1_ahead_53 rfl rfl ?_
    refine q_get (k := 4) 57 rfl dX1_ahead_54 (by decide) q446 rfl ?_
    refine q_bald 58 rfl dX1_ahead_57 h (fun x1 h => ?_)
    refine x_sipush (255 : Int32) 61 rfl dX1_ahead_58 rfl ?_
    refine x_iand 62 rfl dX1_ahead_61 ?_
    refine x_goto 66 dX1_ahead_62 rfl ?_
    cases h
    exact x_iret rfl dX1_ahead_66
def x_X1_ahead_0_s (rec0 : xR → Option (Int32 × xR)) (r : xR) : Option (Int32 × xR) := if (r.1.1 0 3) ≤ (r.1.1 0 4) then x_X1_ahead_38 r else qrb r (r.1.1 0 4) fun x2 => if x2 = (32 : Int32) then qpi r 0 4 ((r.1.1 0 4) + (1 : Int32)) fun r3 => rec0 r3 else x_X1_ahead_38 r
theorem x_X1_ahead_0_s_ok {ms : xS} {rr : Int32 × xR} {rec0 : xR → Option (Int32 × xR)} (hr0 : ∀ {r : xR}, rec0 r = some rr → xB xLL yX1_ahead cX1_ahead 1 (some .int) 0 0 0 [some (.inr (.inr (some 300)) : xV)] [] (ms, r) (some (.inl rr.1)) (ms, rr.2)) {r : xR} (h : x_X1_ahead_0_s rec0 r = some rr) : xB xLL yX1_ahead cX1_ahead 1 (some .int) 0 0 0 [some (.inr (.inr (some 300)) : xV)] [] (ms, r) (some (.inl rr.1)) (ms, rr.2) := by
  refine x_aload_n (i := 0) 1 rfl dX1_ahead_0 rfl rfl ?_
  refine q_get (k := 4) 4 rfl dX1_ahead_1 (by decide) q446 rfl ?_
  refine x_aload_n (i := 0) 5 rfl dX1_ahead_4 rfl rfl ?_
  refine q_get (k := 3) 8 rfl dX1_ahead_5 (by decide) q445 rfl ?_
  refine x_icmp_ge 38 11 rfl dX1_ahead_8 rfl h (fun h => ?_) (fun h => ?_)
  · exact xB.le (xle.s xle.z) (x_X1_ahead_38_ok h)
  · refine x_aload_n (i := 0) 12 rfl dX1_ahead_11 rfl rfl ?_
    refine q_get (k := 2) 15 rfl dX1_ahead_12 (by decide) q444 rfl ?_
    refine x_aload_n (i := 0) 16 rfl dX1_ahead_15 rfl rfl ?_
    refine q_get (k := 4) 19 rfl dX1_ahead_16 (by decide) q446 rfl ?_
    refine q_bald 20 rfl dX1_ahead_19 h (fun x2 h => ?_)
    refine x_bipush (32 : Int32) 22 rfl dX1_ahead_20 rfl ?_
    refine x_icmp_ne 38 25 rfl dX1_ahead_22 rfl h (fun h => ?_) (fun h => ?_)
    · exact xB.le (xle.s xle.z) (x_X1_ahead_38_ok h)
    · refine x_aload_n (i := 0) 26 rfl dX1_ahead_25 rfl rfl ?_
      refine x_dup 27 rfl dX1_ahead_26 rfl ?_
      refine q_get (k := 4) 30 rfl dX1_ahead_27 (by decide) q446 rfl ?_
      refine x_iconst (1 : Int32) 31 rfl dX1_ahead_30 rfl ?_
      refine x_iadd 32 rfl dX1_ahead_31 ?_
      refine q_puti (k := 4) (z := 0) 35 rfl dX1_ahead_32 (by decide) rfl (Or.inl rfl) rfl q446 h (fun r3 h => ?_)
      refine x_goto 0 dX1_ahead_35 rfl ?_
      exact xB.le (xle.s xle.z) (hr0 h)
def x_X1_ahead_0_L : Nat → xR → Option (Int32 × xR)
  | 0 => fun _ => none
  | n + 1 => x_X1_ahead_0_s (x_X1_ahead_0_L  n)
theorem x_X1_ahead_0_L_ok {ms : xS} {rr : Int32 × xR} : ∀ (n9 : Nat) {r : xR}, x_X1_ahead_0_L  n9 r = some rr → xB xLL yX1_ahead cX1_ahead 1 (some .int) 0 0 0 [some (.inr (.inr (some 300)) : xV)] [] (ms, r) (some (.inl rr.1)) (ms, rr.2)
  | 0, _, h => by cases h
  | n9 + 1, _, h => x_X1_ahead_0_s_ok (x_X1_ahead_0_L_ok  n9) h
def x_X1_ahead (r : xR) : Option (Int32 × xR) := x_X1_ahead_0_L xFU r
theorem x_X1_ahead_ct {ms : xS} {rr : Int32 × xR} {r : xR} (h : x_X1_ahead r = some rr) : xCt xLL yX1_ahead cX1_ahead 1 (some .int) 0 0 [(.inr (.inr (some 300)) : xV)] (ms, r) (some (.inl rr.1)) (ms, rr.2) := by
  refine xCt.of (lv := [some (.inr (.inr (some 300)) : xV)]) pl_X1 (Nat.le_of_ble_eq_true rfl) (xle.s xle.z) ?_
  exact xB.le (xle.s xle.z) (x_X1_ahead_0_L_ok xFU h)
/-! UnimodularTables.isEntry(I)Z -/
theorem ydX1_isEntry : xHd yX1_isEntry 1 := by decide +kernel
def p_X1_isEntry_18  : Option (Int32) := some ((1 : Int32))
theorem p_X1_isEntry_18_ok {L : xL} {w : xW} {rr : Int32}  (h : p_X1_isEntry_18   = some rr) : xB L yX1_isEntry cX1_isEntry 1 (some .boolean) 0 0 18 [none] [] w (some (.inl rr)) w := by
  refine x_iconst (1 : Int32) 19 rfl dX1_isEntry_18 rfl ?_
  refine x_goto 23 dX1_isEntry_19 rfl ?_
  cases h
  exact x_zret rfl (Or.inr rfl) dX1_isEntry_23
def p_X1_isEntry (a0 : Int32) : Option (Int32) := if a0 = (43 : Int32) then p_X1_isEntry_18 else if a0 = (45 : Int32) then p_X1_isEntry_18 else if a0 = (48 : Int32) then p_X1_isEntry_18 else some ((0 : Int32))
theorem p_X1_isEntry_ct {L : xL} {w : xW} {rr : Int32} {a0 : Int32} (h : p_X1_isEntry a0 = some rr) : xCt L yX1_isEntry cX1_isEntry 1 (some .boolean) 0 0 [(.inl (a0) : xV)] w (some (.inl rr)) w := by
  refine xCt.of (lv := [some (.inl (a0) : xV)]) pl_X1 (Nat.le_of_ble_eq_true rfl) (xle.s xle.z) ?_
  refine x_iload_n (i := 0) 1 rfl dX1_isEntry_0 rfl rfl ?_
  refine x_bipush (43 : Int32) 3 rfl dX1_isEntry_1 rfl ?_
  refine x_icmp_eq 18 6 rfl dX1_isEntry_3 rfl h (fun h => ?_) (fun h => ?_)
  · exact xB.le (xle.n xle.z) (p_X1_isEntry_18_ok h)
  · refine x_iload_n (i := 0) 7 rfl dX1_isEntry_6 rfl rfl ?_
    refine x_bipush (45 : Int32) 9 rfl dX1_isEntry_7 rfl ?_
    refine x_icmp_eq 18 12 rfl dX1_isEntry_9 rfl h (fun h => ?_) (fun h => ?_)
    · exact xB.le (xle.n xle.z) (p_X1_isEntry_18_ok h)
    · refine x_iload_n (i := 0) 13 rfl dX1_isEntry_12 rfl rfl ?_
      refine x_bipush (48 : Int32) 15 rfl dX1_isEntry_13 rfl ?_
      refine x_icmp_ne 22 18 rfl dX1_isEntry_15 rfl h (fun h => ?_) (fun h => ?_)
      · refine x_iconst (0 : Int32) 23 rfl dX1_isEntry_22 rfl ?_
        cases h
        exact x_zret rfl (Or.inl rfl) dX1_isEntry_23
      · exact xB.le (xle.n xle.z) (p_X1_isEntry_18_ok h)
/-! UnimodularTables.rowRead(I)I -/
theorem ydX1_rowRead : xHd yX1_rowRead 1 := by decide +kernel
def x_X1_rowRead_2_s (rec2 : Int32 → Int32 → xR → Option (Int32 × xR)) (a1 : Int32) (a2 : Int32) (r : xR) : Option (Int32 × xR) := cl (x_X1_ahead r) fun q1 => cl (p_X1_isEntry q1.1) fun q2 => if q2 = 0 then some (a2, q1.2) else if a1 ≤ a2 then some (a2, q1.2) else cl (x_X1_ahead q1.2) fun q3 => cl (p_X1_valueOf q3.1) fun q4 => qwr q3.2 3 (((6 : Int32) * (q1.2.1.1 0 6)) + a2) q4 fun r5 => lt (a2 + (1 : Int32)) fun x6 => qpi r5 0 4 ((r5.1.1 0 4) + (1 : Int32)) fun r7 => rec2 a1 x6 r7
theorem x_X1_rowRead_2_s_ok {ms : xS} {rr : Int32 × xR} {rec2 : Int32 → Int32 → xR → Option (Int32 × xR)} (hr2 : ∀ {a1 : Int32} {a2 : Int32} {r : xR}, rec2 a1 a2 r = some rr → xB xLL yX1_rowRead cX1_rowRead 3 (some .int) 1 20 2 [some (.inr (.inr (some 300)) : xV), some (.inl (a1) : xV), some (.inl (a2) : xV)] [] (ms, r) (some (.inl rr.1)) (ms, rr.2)) {a1 : Int32} {a2 : Int32} {r : xR} (h : x_X1_rowRead_2_s rec2 a1 a2 r = some rr) : xB xLL yX1_rowRead cX1_rowRead 3 (some .int) 1 20 2 [some (.inr (.inr (some 300)) : xV), some (.inl (a1) : xV), some (.inl (a2) : xV)] [] (ms, r) (some (.inl rr.1)) (ms, rr.2) := by
  refine x_aload_n (i := 0) 3 rfl dX1_rowRead_2 rfl rfl ?_
  refine x_cl h (fun q1 hq h => ?_)
  refine x_callV (as := []) (rest := []) (vv := (some (.inl (q1.1) : xV))) (w2 := (ms, q1.2)) (C := RX1) (T := TX1) (N := 34) 6 rfl dX1_rowRead_3 (x_X1_ahead_ct hq) (Or.inl xcell_X0) rfl (lw_V q571 q573 qs4 q118 q574) rfl ydX1_ahead rfl ⟨Nat.le_of_ble_eq_true rfl, Nat.le_of_ble_eq_true rfl⟩ (Nat.le_of_ble_eq_true rfl) rfl ?_
  change xB xLL yX1_rowRead cX1_rowRead 3 (some .int) 1 20 6 [some (.inr (.inr (some 300)) : xV), some (.inl (a1) : xV), some (.inl (a2) : xV)] [(.inl (q1.1) : xV)] (ms, q1.2) _ _
  refine x_cl h (fun q2 hq h => ?_)
  refine x_callS (as := [(.inl (q1.1) : xV)]) (rest := []) (vv := (some (.inl (q2) : xV))) (w2 := (ms, q1.2)) 9 rfl dX1_rowRead_6 (p_X1_isEntry_ct hq) (lw_S q575 q576 q118 q577) ydX1_isEntry rfl ⟨Nat.le_of_ble_eq_true rfl, Nat.le_of_ble_eq_true rfl⟩ (Nat.le_of_ble_eq_true rfl) rfl ?_
  change xB xLL yX1_rowRead cX1_rowRead 3 (some .int) 1 20 9 [some (.inr (.inr (some 300)) : xV), some (.inl (a1) : xV), some (.inl (a2) : xV)] [(.inl (q2) : xV)] (ms, q1.2) _ _
  refine x_if_eq 54 12 rfl dX1_rowRead_9 rfl h (fun h => ?_) (fun h => ?_)
  · refine x_iload_n (i := 2) 55 rfl dX1_rowRead_54 rfl rfl ?_
    cases h
    exact x_iret rfl dX1_rowRead_55
  · refine x_iload_n (i := 2) 13 rfl dX1_rowRead_12 rfl rfl ?_
    refine x_iload_n (i := 1) 14 rfl dX1_rowRead_13 rfl rfl ?_
    refine x_icmp_ge 54 17 rfl dX1_rowRead_14 rfl h (fun h => ?_) (fun h => ?_)
    · refine x_iload_n (i := 2) 55 rfl dX1_rowRead_54 rfl rfl ?_
      cases h
      exact x_iret rfl dX1_rowRead_55
    · refine x_aload_n (i := 0) 18 rfl dX1_rowRead_17 rfl rfl ?_
      refine q_get (k := 5) 21 rfl dX1_rowRead_18 (by decide) q447 rfl ?_
      refine x_bipush (6 : Int32) 23 rfl dX1_rowRead_21 rfl ?_
      refine x_aload_n (i := 0) 24 rfl dX1_rowRead_23 rfl rfl ?_
      refine q_get (k := 6) 27 rfl dX1_rowRead_24 (by decide) q448 rfl ?_
      refine x_imul 28 rfl dX1_rowRead_27 ?_
      refine x_iload_n (i := 2) 29 rfl dX1_rowRead_28 rfl rfl ?_
      refine x_iadd 30 rfl dX1_rowRead_29 ?_
      refine x_aload_n (i := 0) 31 rfl dX1_rowRead_30 rfl rfl ?_
      refine x_cl h (fun q3 hq h => ?_)
      refine x_callV (as := []) (rest := [(.inl (((6 : Int32) * (q1.2.1.1 0 6)) + a2) : xV), (.inr (.inr (some (300 + 3))) : xV)]) (vv := (some (.inl (q3.1) : xV))) (w2 := (ms, q3.2)) (C := RX1) (T := TX1) (N := 34) 34 rfl dX1_rowRead_31 (x_X1_ahead_ct hq) (Or.inl xcell_X0) rfl (lw_V q571 q573 qs4 q118 q574) rfl ydX1_ahead rfl ⟨Nat.le_of_ble_eq_true rfl, Nat.le_of_ble_eq_true rfl⟩ (Nat.le_of_ble_eq_true rfl) rfl ?_
      change xB xLL yX1_rowRead cX1_rowRead 3 (some .int) 1 20 34 [some (.inr (.inr (some 300)) : xV), some (.inl (a1) : xV), some (.inl (a2) : xV)] [(.inl (q3.1) : xV), (.inl (((6 : Int32) * (q1.2.1.1 0 6)) + a2) : xV), (.inr (.inr (some (300 + 3))) : xV)] (ms, q3.2) _ _
      refine x_cl h (fun q4 hq h => ?_)
      refine x_callS (as := [(.inl (q3.1) : xV)]) (rest := [(.inl (((6 : Int32) * (q1.2.1.1 0 6)) + a2) : xV), (.inr (.inr (some (300 + 3))) : xV)]) (vv := (some (.inl (q4) : xV))) (w2 := (ms, q3.2)) 37 rfl dX1_rowRead_34 (p_X1_valueOf_ct hq) (lw_S q410 q411 q118 q412) ydX1_valueOf rfl ⟨Nat.le_of_ble_eq_true rfl, Nat.le_of_ble_eq_true rfl⟩ (Nat.le_of_ble_eq_true rfl) rfl ?_
      change xB xLL yX1_rowRead cX1_rowRead 3 (some .int) 1 20 37 [some (.inr (.inr (some 300)) : xV), some (.inl (a1) : xV), some (.inl (a2) : xV)] [(.inl (q4) : xV), (.inl (((6 : Int32) * (q1.2.1.1 0 6)) + a2) : xV), (.inr (.inr (some (300 + 3))) : xV)] (ms, q3.2) _ _
      refine q_iast 38 rfl dX1_rowRead_37 h (fun r5 h => ?_)
      refine x_iincL (i := 2) (1 : Int32) 41 rfl dX1_rowRead_38 rfl rfl (by decide) h (fun x6 h => ?_)
      change xB xLL yX1_rowRead cX1_rowRead 3 (some .int) 1 20 41 [some (.inr (.inr (some 300)) : xV), some (.inl (a1) : xV), some (.inl (x6) : xV)] [] (ms, r5) _ _
      refine x_aload_n (i := 0) 42 rfl dX1_rowRead_41 rfl rfl ?_
      refine x_dup 43 rfl dX1_rowRead_42 rfl ?_
      refine q_get (k := 4) 46 rfl dX1_rowRead_43 (by decide) q446 rfl ?_
      refine x_iconst (1 : Int32) 47 rfl dX1_rowRead_46 rfl ?_
      refine x_iadd 48 rfl dX1_rowRead_47 ?_
      refine q_puti (k := 4) (z := 0) 51 rfl dX1_rowRead_48 (by decide) rfl (Or.inl rfl) rfl q446 h (fun r7 h => ?_)
      refine x_goto 2 dX1_rowRead_51 rfl ?_
      exact xB.le (xle.s (xle.s (xle.s xle.z))) (hr2 h)
def x_X1_rowRead_2_L : Nat → Int32 → Int32 → xR → Option (Int32 × xR)
  | 0 => fun _ _ _ => none
  | n + 1 => x_X1_rowRead_2_s (x_X1_rowRead_2_L  n)
theorem x_X1_rowRead_2_L_ok {ms : xS} {rr : Int32 × xR} : ∀ (n9 : Nat) {a1 : Int32} {a2 : Int32} {r : xR}, x_X1_rowRead_2_L  n9 a1 a2 r = some rr → xB xLL yX1_rowRead cX1_rowRead 3 (some .int) 1 20 2 [some (.inr (.inr (some 300)) : xV), some (.inl (a1) : xV), some (.inl (a2) : xV)] [] (ms, r) (some (.inl rr.1)) (ms, rr.2)
  | 0, _, _, _, h => by cases h
  | n9 + 1, _, _, _, h => x_X1_rowRead_2_s_ok (x_X1_rowRead_2_L_ok  n9) h
def x_X1_rowRead (a1 : Int32) (r : xR) : Option (Int32 × xR) := lt ((0 : Int32)) fun x8 => x_X1_rowRead_2_L xFU a1 x8 r
theorem x_X1_rowRead_ct {ms : xS} {rr : Int32 × xR} {a1 : Int32} {r : xR} (h : x_X1_rowRead a1 r = some rr) : xCt xLL yX1_rowRead cX1_rowRead 3 (some .int) 1 20 [(.inr (.inr (some 300)) : xV), (.inl (a1) : xV)] (ms, r) (some (.inl rr.1)) (ms, rr.2) := by
  refine xCt.of (lv := [some (.inr (.inr (some 300)) : xV), some (.inl (a1) : xV), none]) pl_X1 (Nat.le_of_ble_eq_true rfl) (xle.s (xle.s (xle.m xle.z))) ?_
  refine x_iconst (0 : Int32) 1 rfl dX1_rowRead_0 rfl ?_
  refine x_lti h (fun x8 h => ?_)
  refine x_istore_n 2 rfl dX1_rowRead_1 rfl (by decide) (lv' := [some (.inr (.inr (some 300)) : xV), some (.inl (a1) : xV), some (.inl (x8) : xV)]) rfl ?_
  exact xB.le (xle.s (xle.s (xle.s xle.z))) (x_X1_rowRead_2_L_ok xFU h)
/-! UnimodularTables.readTable()LUnimodularTables$Table; -/
theorem ydX1_readTable : xHd yX1_readTable 0 := by decide +kernel
def x_X1_readTable_28_s (rec18 : Nat → Int32 → xR → Option (Nat × xR)) (rec28 : Nat → Int32 → Int32 → xR → Option (Nat × xR)) (a1 : Nat) (a2 : Int32) (a3 : Int32) (r : xR) : Option (Nat × xR) := dgi xLL r a1 2 1 fun x1 => if x1 ≤ a3 then lt (a2 + (1 : Int32)) fun x2 => rec18 a1 x2 r else dgr xLL r a1 2 2 fun p3 => nn p3 fun p4 => dar xLL r p4 a2 fun p5 => qrd r 3 (((6 : Int32) * a2) + a3) fun x6 => nn p5 fun p7 => daw xLL r p7 a3 x6 fun r8 => lt (a3 + (1 : Int32)) fun x9 => rec28 a1 a2 x9 r8
theorem x_X1_readTable_28_s_ok {ms : xS} {rr : Nat × xR} {rec18 : Nat → Int32 → xR → Option (Nat × xR)} {rec28 : Nat → Int32 → Int32 → xR → Option (Nat × xR)} (hr18 : ∀ {a1 : Nat} {a2 : Int32} {r : xR}, rec18 a1 a2 r = some rr → xB xLL yX1_readTable cX1_readTable 4 (some (.object "UnimodularTables$Table")) 2 42 18 [some (.inr (.inr (some 300)) : xV), some (.inr (.inr (some (a1))) : xV), some (.inl (a2) : xV), none] [] (ms, r) (some (.inr (.inr (some rr.1)))) (ms, rr.2)) (hr28 : ∀ {a1 : Nat} {a2 : Int32} {a3 : Int32} {r : xR}, rec28 a1 a2 a3 r = some rr → xB xLL yX1_readTable cX1_readTable 4 (some (.object "UnimodularTables$Table")) 2 42 28 [some (.inr (.inr (some 300)) : xV), some (.inr (.inr (some (a1))) : xV), some (.inl (a2) : xV), some (.inl (a3) : xV)] [] (ms, r) (some (.inr (.inr (some rr.1)))) (ms, rr.2)) {a1 : Nat} {a2 : Int32} {a3 : Int32} {r : xR} (h : x_X1_readTable_28_s rec18 rec28 a1 a2 a3 r = some rr) : xB xLL yX1_readTable cX1_readTable 4 (some (.object "UnimodularTables$Table")) 2 42 28 [some (.inr (.inr (some 300)) : xV), some (.inr (.inr (some (a1))) : xV), some (.inl (a2) : xV), some (.inl (a3) : xV)] [] (ms, r) (some (.inr (.inr (some rr.1)))) (ms, rr.2) := by
  refine x_iload_n (i := 3) 29 rfl dX1_readTable_28 rfl rfl ?_
  refine x_aload_n (i := 1) 30 rfl dX1_readTable_29 rfl rfl ?_
  refine d_getiN (ci := 2) (k := 1) (C := RX4) (T := TX4) (N := 3) 33 rfl dX1_readTable_30 rfl in_X4 (by decide) (List.mem_of_getElem? (i := 7) rfl) h (fun x1 h => ?_)
  refine x_icmp_ge 61 36 rfl dX1_readTable_33 rfl h (fun h => ?_) (fun h => ?_)
  · refine x_iincL (i := 2) (1 : Int32) 64 rfl dX1_readTable_61 rfl rfl (by decide) h (fun x2 h => ?_)
    change xB xLL yX1_readTable cX1_readTable 4 (some (.object "UnimodularTables$Table")) 2 42 64 [some (.inr (.inr (some 300)) : xV), some (.inr (.inr (some (a1))) : xV), some (.inl (x2) : xV), some (.inl (a3) : xV)] [] (ms, r) _ _
    refine x_goto 18 dX1_readTable_64 rfl ?_
    exact xB.le (xle.s (xle.s (xle.s (xle.n xle.z)))) (hr18 h)
  · refine x_aload_n (i := 1) 37 rfl dX1_readTable_36 rfl rfl ?_
    refine d_getrN (ci := 2) (k := 2) (C := RX4) (T := TX4) (N := 3) 40 rfl dX1_readTable_37 rfl in_X4 (by decide) (List.mem_of_getElem? (i := 9) rfl) h (fun p3 h => ?_)
    refine x_iload_n (i := 2) 41 rfl dX1_readTable_40 rfl rfl ?_
    refine x_nnP (P := fun p3 => xB xLL yX1_readTable cX1_readTable 4 (some (.object "UnimodularTables$Table")) 2 42 41 [some (.inr (.inr (some 300)) : xV), some (.inr (.inr (some (a1))) : xV), some (.inl (a2) : xV), some (.inl (a3) : xV)] [(.inl (a2) : xV), (.inr (.inr (p3)) : xV)] (ms, r) (some (.inr (.inr (some rr.1)))) (ms, rr.2)) h (fun p4 h => ?_)
    refine d_aald 42 rfl dX1_readTable_41 h (fun p5 h => ?_)
    refine x_iload_n (i := 3) 43 rfl dX1_readTable_42 rfl rfl ?_
    refine x_aload_n (i := 0) 44 rfl dX1_readTable_43 rfl rfl ?_
    refine q_get (k := 5) 47 rfl dX1_readTable_44 (by decide) q447 rfl ?_
    refine x_bipush (6 : Int32) 49 rfl dX1_readTable_47 rfl ?_
    refine x_iload_n (i := 2) 50 rfl dX1_readTable_49 rfl rfl ?_
    refine x_imul 51 rfl dX1_readTable_50 ?_
    refine x_iload_n (i := 3) 52 rfl dX1_readTable_51 rfl rfl ?_
    refine x_iadd 53 rfl dX1_readTable_52 ?_
    refine q_iald 54 rfl dX1_readTable_53 h (fun x6 h => ?_)
    refine x_nnP (P := fun p5 => xB xLL yX1_readTable cX1_readTable 4 (some (.object "UnimodularTables$Table")) 2 42 54 [some (.inr (.inr (some 300)) : xV), some (.inr (.inr (some (a1))) : xV), some (.inl (a2) : xV), some (.inl (a3) : xV)] [(.inl (x6) : xV), (.inl (a3) : xV), (.inr (.inr (p5)) : xV)] (ms, r) (some (.inr (.inr (some rr.1)))) (ms, rr.2)) h (fun p7 h => ?_)
    refine d_iast 55 rfl dX1_readTable_54 h (fun r8 h => ?_)
    refine x_iincL (i := 3) (1 : Int32) 58 rfl dX1_readTable_55 rfl rfl (by decide) h (fun x9 h => ?_)
    change xB xLL yX1_readTable cX1_readTable 4 (some (.object "UnimodularTables$Table")) 2 42 58 [some (.inr (.inr (some 300)) : xV), some (.inr (.inr (some (a1))) : xV), some (.inl (a2) : xV), some (.inl (x9) : xV)] [] (ms, r8) _ _
    refine x_goto 28 dX1_readTable_58 rfl ?_
    exact xB.le (xle.s (xle.s (xle.s (xle.s xle.z)))) (hr28 h)
def x_X1_readTable_28_L (rec18 : Nat → Int32 → xR → Option (Nat × xR)) : Nat → Nat → Int32 → Int32 → xR → Option (Nat × xR)
  | 0 => fun _ _ _ _ => none
  | n + 1 => x_X1_readTable_28_s rec18 (x_X1_readTable_28_L rec18 n)
theorem x_X1_readTable_28_L_ok {ms : xS} {rr : Nat × xR} {rec18 : Nat → Int32 → xR → Option (Nat × xR)} (hr18 : ∀ {a1 : Nat} {a2 : Int32} {r : xR}, rec18 a1 a2 r = some rr → xB xLL yX1_readTable cX1_readTable 4 (some (.object "UnimodularTables$Table")) 2 42 18 [some (.inr (.inr (some 300)) : xV), some (.inr (.inr (some (a1))) : xV), some (.inl (a2) : xV), none] [] (ms, r) (some (.inr (.inr (some rr.1)))) (ms, rr.2)) : ∀ (n9 : Nat) {a1 : Nat} {a2 : Int32} {a3 : Int32} {r : xR}, x_X1_readTable_28_L rec18 n9 a1 a2 a3 r = some rr → xB xLL yX1_readTable cX1_readTable 4 (some (.object "UnimodularTables$Table")) 2 42 28 [some (.inr (.inr (some 300)) : xV), some (.inr (.inr (some (a1))) : xV), some (.inl (a2) : xV), some (.inl (a3) : xV)] [] (ms, r) (some (.inr (.inr (some rr.1)))) (ms, rr.2)
  | 0, _, _, _, _, h => by cases h
  | n9 + 1, _, _, _, _, h => x_X1_readTable_28_s_ok hr18 (x_X1_readTable_28_L_ok hr18 n9) h
def x_X1_readTable_18_s (rec18 : Nat → Int32 → xR → Option (Nat × xR)) (a1 : Nat) (a2 : Int32) (r : xR) : Option (Nat × xR) := dgi xLL r a1 2 0 fun x10 => if x10 ≤ a2 then some (a1, r) else lt ((0 : Int32)) fun x11 => x_X1_readTable_28_L rec18 xFU a1 a2 x11 r
theorem x_X1_readTable_18_s_ok {ms : xS} {rr : Nat × xR} {rec18 : Nat → Int32 → xR → Option (Nat × xR)} (hr18 : ∀ {a1 : Nat} {a2 : Int32} {r : xR}, rec18 a1 a2 r = some rr → xB xLL yX1_readTable cX1_readTable 4 (some (.object "UnimodularTables$Table")) 2 42 18 [some (.inr (.inr (some 300)) : xV), some (.inr (.inr (some (a1))) : xV), some (.inl (a2) : xV), none] [] (ms, r) (some (.inr (.inr (some rr.1)))) (ms, rr.2)) {a1 : Nat} {a2 : Int32} {r : xR} (h : x_X1_readTable_18_s rec18 a1 a2 r = some rr) : xB xLL yX1_readTable cX1_readTable 4 (some (.object "UnimodularTables$Table")) 2 42 18 [some (.inr (.inr (some 300)) : xV), some (.inr (.inr (some (a1))) : xV), some (.inl (a2) : xV), none] [] (ms, r) (some (.inr (.inr (some rr.1)))) (ms, rr.2) := by
  refine x_iload_n (i := 2) 19 rfl dX1_readTable_18 rfl rfl ?_
  refine x_aload_n (i := 1) 20 rfl dX1_readTable_19 rfl rfl ?_
  refine d_getiN (ci := 2) (k := 0) (C := RX4) (T := TX4) (N := 3) 23 rfl dX1_readTable_20 rfl in_X4 (by decide) (List.mem_of_getElem? (i := 5) rfl) h (fun x10 h => ?_)
  refine x_icmp_ge 67 26 rfl dX1_readTable_23 rfl h (fun h => ?_) (fun h => ?_)
  · refine x_aload_n (i := 1) 68 rfl dX1_readTable_67 rfl rfl ?_
    cases h
    exact x_aret rfl (Or.inl ⟨_, rfl⟩) dX1_readTable_68
  · refine x_iconst (0 : Int32) 27 rfl dX1_readTable_26 rfl ?_
    refine x_lti h (fun x11 h => ?_)
    refine x_istore_n 28 rfl dX1_readTable_27 rfl (by decide) (lv' := [some (.inr (.inr (some 300)) : xV), some (.inr (.inr (some (a1))) : xV), some (.inl (a2) : xV), some (.inl (x11) : xV)]) rfl ?_
    exact xB.le (xle.s (xle.s (xle.s (xle.s xle.z)))) (x_X1_readTable_28_L_ok hr18 xFU h)
def x_X1_readTable_18_L : Nat → Nat → Int32 → xR → Option (Nat × xR)
  | 0 => fun _ _ _ => none
  | n + 1 => x_X1_readTable_18_s (x_X1_readTable_18_L  n)
theorem x_X1_readTable_18_L_ok {ms : xS} {rr : Nat × xR} : ∀ (n9 : Nat) {a1 : Nat} {a2 : Int32} {r : xR}, x_X1_readTable_18_L  n9 a1 a2 r = some rr → xB xLL yX1_readTable cX1_readTable 4 (some (.object "UnimodularTables$Table")) 2 42 18 [some (.inr (.inr (some 300)) : xV), some (.inr (.inr (some (a1))) : xV), some (.inl (a2) : xV), none] [] (ms, r) (some (.inr (.inr (some rr.1)))) (ms, rr.2)
  | 0, _, _, _, h => by cases h
  | n9 + 1, _, _, _, h => x_X1_readTable_18_s_ok (x_X1_readTable_18_L_ok  n9) h
def x_X1_readTable (r : xR) : Option (Nat × xR) := al xLL r (.inr (.inl (2, xdefV tyX4))) 3 fun p12 r13 => cl (d_X4_init xLL p12 (r13.1.1 0 6) (r13.1.1 0 7) r13) fun q14 => lt ((0 : Int32)) fun x15 => x_X1_readTable_18_L xFU p12 x15 q14
theorem x_X1_readTable_ct {ms : xS} {rr : Nat × xR} {r : xR} (h : x_X1_readTable r = some rr) : xCt xLL yX1_readTable cX1_readTable 4 (some (.object "UnimodularTables$Table")) 2 42 [(.inr (.inr (some 300)) : xV)] (ms, r) (some (.inr (.inr (some rr.1)))) (ms, rr.2) := by
  refine xCt.of (lv := [some (.inr (.inr (some 300)) : xV), none, none, none]) pl_X1 (Nat.le_of_ble_eq_true rfl) (xle.s (xle.m (xle.m (xle.m xle.z)))) ?_
  refine d_new (ci := 2) (C := RX4) (T := TX4) (N := 3) tyX4 3 rfl dX1_readTable_0 rfl in_X4 tyX4_ok (by decide) q347 q348 q129 h (fun p12 r13 h => ?_)
  refine x_dup 4 rfl dX1_readTable_3 rfl ?_
  refine x_aload_n (i := 0) 5 rfl dX1_readTable_4 rfl rfl ?_
  refine q_get (k := 6) 8 rfl dX1_readTable_5 (by decide) q448 rfl ?_
  refine x_aload_n (i := 0) 9 rfl dX1_readTable_8 rfl rfl ?_
  refine q_get (k := 7) 12 rfl dX1_readTable_9 (by decide) q449 rfl ?_
  refine x_cl h (fun q14 hq h => ?_)
  refine x_callI (as := [(.inl (r13.1.1 0 6) : xV), (.inl (r13.1.1 0 7) : xV)]) (w2 := (ms, q14)) [(.inr (.inr (some (p12))) : xV)] 15 rfl dX1_readTable_12 (d_X4_init_ct hq) q349 q350 q129 q351 rfl ydX4_init rfl ⟨Nat.le_of_ble_eq_true rfl, Nat.le_of_ble_eq_true rfl⟩ (Nat.le_of_ble_eq_true rfl) rfl ?_
  refine x_astore_n 16 rfl dX1_readTable_15 rfl (by decide) (lv' := [some (.inr (.inr (some 300)) : xV), some (.inr (.inr (some (p12))) : xV), none, none]) rfl ?_
  refine x_iconst (0 : Int32) 17 rfl dX1_readTable_16 rfl ?_
  refine x_lti h (fun x15 h => ?_)
  refine x_istore_n 18 rfl dX1_readTable_17 rfl (by decide) (lv' := [some (.inr (.inr (some 300)) : xV), some (.inr (.inr (some (p12))) : xV), some (.inl (x15) : xV), none]) rfl ?_
  exact xB.le (xle.s (xle.s (xle.s (xle.n xle.z)))) (x_X1_readTable_18_L_ok xFU h)
/-! UnimodularTables.become(LUnimodularTables$Table;)V -/
theorem ydX1_become : xHd yX1_become 1 := by decide +kernel
def x_X1_become (a1 : Option Nat) (r : xR) : Option (xR) := qpr r 0 11 a1 fun r1 => qpi r1 0 18 (0 : Int32) fun r2 => ix (0 : Int32) 2 fun _ => gok ((0 : Int32).toNatClampNeg) <| qpi r2 (12 + 18 * ((0 : Int32).toNatClampNeg)) 3 (0 : Int32) fun r4 => ix (1 : Int32) 2 fun _ => gok ((1 : Int32).toNatClampNeg) <| qpi r4 (12 + 18 * ((1 : Int32).toNatClampNeg)) 3 (0 : Int32) fun r6 => some r6
theorem x_X1_become_ct {ms : xS} {rr : xR} {a1 : Option Nat} {r : xR} (h : x_X1_become a1 r = some rr) : xCt xLL yX1_become cX1_become 2 none 0 0 [(.inr (.inr (some 300)) : xV), (.inr (.inr (a1)) : xV)] (ms, r) none (ms, rr) := by
  refine xCt.of (lv := [some (.inr (.inr (some 300)) : xV), some (.inr (.inr (a1)) : xV)]) pl_X1 (Nat.le_of_ble_eq_true rfl) (xle.s (xle.s xle.z)) ?_
  refine x_aload_n (i := 0) 1 rfl dX1_become_0 rfl rfl ?_
  refine x_aload_n (i := 1) 2 rfl dX1_become_1 rfl rfl ?_
  refine q_putr (k := 11) (z := 0) 5 rfl dX1_become_2 (by decide) rfl (Or.inl ⟨_, rfl⟩) rfl q453 h (fun r1 h => ?_)
  refine x_aload_n (i := 0) 6 rfl dX1_become_5 rfl rfl ?_
  refine x_iconst (0 : Int32) 7 rfl dX1_become_6 rfl ?_
  refine q_puti (k := 18) (z := 0) 10 rfl dX1_become_7 (by decide) rfl (Or.inr ⟨rfl, Or.inl rfl⟩) rfl q460 h (fun r2 h => ?_)
  refine x_aload_n (i := 0) 11 rfl dX1_become_10 rfl rfl ?_
  refine q_get (k := 21) 14 rfl dX1_become_11 (by decide) q463 rfl ?_
  refine x_iconst (0 : Int32) 15 rfl dX1_become_14 rfl ?_
  refine x_ix h (fun hi h => ?_)
  refine q_sides hi 16 rfl dX1_become_15 ?_
  refine x_iconst (0 : Int32) 17 rfl dX1_become_16 rfl ?_
  refine x_gok h (fun hg h => ?_)
  refine g_putiN (k := 3) (z := 0) 20 rfl dX1_become_17 (by decide) hg rfl (Or.inr ⟨rfl, Or.inl rfl⟩) rfl (List.mem_of_getElem? (i := 3) rfl) h (fun r4 h => ?_)
  refine x_aload_n (i := 0) 21 rfl dX1_become_20 rfl rfl ?_
  refine q_get (k := 21) 24 rfl dX1_become_21 (by decide) q463 rfl ?_
  refine x_iconst (1 : Int32) 25 rfl dX1_become_24 rfl ?_
  refine x_ix h (fun hi h => ?_)
  refine q_sides hi 26 rfl dX1_become_25 ?_
  refine x_iconst (0 : Int32) 27 rfl dX1_become_26 rfl ?_
  refine x_gok h (fun hg h => ?_)
  refine g_putiN (k := 3) (z := 0) 30 rfl dX1_become_27 (by decide) hg rfl (Or.inr ⟨rfl, Or.inl rfl⟩) rfl (List.mem_of_getElem? (i := 3) rfl) h (fun r6 h => ?_)
  cases h
  exact x_vret rfl dX1_become_30
/-! UnimodularTables.isRow(LUnimodularTables$Table;I)Z -/
theorem ydX1_isRow : xHd yX1_isRow 2 := by decide +kernel
def x_X1_isRow (a0 : Nat) (a1 : Int32) (r : xR) : Option (Int32 × xR) := dgi xLL r a0 2 0 fun x1 => cl (p_X1_in a1 (0 : Int32) (x1 - (1 : Int32))) fun q2 => zb q2 (some (q2, r))
theorem x_X1_isRow_ct {ms : xS} {rr : Int32 × xR} {a0 : Nat} {a1 : Int32} {r : xR} (h : x_X1_isRow a0 a1 r = some rr) : xCt xLL yX1_isRow cX1_isRow 2 (some .boolean) 1 22 [(.inr (.inr (some (a0))) : xV), (.inl (a1) : xV)] (ms, r) (some (.inl rr.1)) (ms, rr.2) := by
  refine xCt.of (lv := [some (.inr (.inr (some (a0))) : xV), some (.inl (a1) : xV)]) pl_X1 (Nat.le_of_ble_eq_true rfl) (xle.s (xle.s xle.z)) ?_
  refine x_iload_n (i := 1) 1 rfl dX1_isRow_0 rfl rfl ?_
  refine x_iconst (0 : Int32) 2 rfl dX1_isRow_1 rfl ?_
  refine x_aload_n (i := 0) 3 rfl dX1_isRow_2 rfl rfl ?_
  refine d_getiN (ci := 2) (k := 0) (C := RX4) (T := TX4) (N := 3) 6 rfl dX1_isRow_3 rfl in_X4 (by decide) (List.mem_of_getElem? (i := 5) rfl) h (fun x1 h => ?_)
  refine x_iconst (1 : Int32) 7 rfl dX1_isRow_6 rfl ?_
  refine x_isub 8 rfl dX1_isRow_7 ?_
  refine x_cl h (fun q2 hq h => ?_)
  refine x_callS (as := [(.inl (a1) : xV), (.inl ((0 : Int32)) : xV), (.inl (x1 - (1 : Int32)) : xV)]) (rest := []) (vv := (some (.inl (q2) : xV))) (w2 := (ms, r)) 11 rfl dX1_isRow_8 (p_X1_in_ct hq) (lw_S q556 q557 q118 q558) ydX1_in rfl ⟨Nat.le_of_ble_eq_true rfl, Nat.le_of_ble_eq_true rfl⟩ (Nat.le_of_ble_eq_true rfl) rfl ?_
  change xB xLL yX1_isRow cX1_isRow 2 (some .boolean) 1 22 11 [some (.inr (.inr (some (a0))) : xV), some (.inl (a1) : xV)] [(.inl (q2) : xV)] (ms, r) _ _
  refine x_zb h (fun hz h => ?_)
  cases h
  exact x_zret rfl hz dX1_isRow_11
/-! UnimodularTables.isColumn(LUnimodularTables$Table;I)Z -/
theorem ydX1_isColumn : xHd yX1_isColumn 2 := by decide +kernel
def x_X1_isColumn (a0 : Nat) (a1 : Int32) (r : xR) : Option (Int32 × xR) := dgi xLL r a0 2 1 fun x1 => cl (p_X1_in a1 (0 : Int32) (x1 - (1 : Int32))) fun q2 => zb q2 (some (q2, r))
theorem x_X1_isColumn_ct {ms : xS} {rr : Int32 × xR} {a0 : Nat} {a1 : Int32} {r : xR} (h : x_X1_isColumn a0 a1 r = some rr) : xCt xLL yX1_isColumn cX1_isColumn 2 (some .boolean) 1 22 [(.inr (.inr (some (a0))) : xV), (.inl (a1) : xV)] (ms, r) (some (.inl rr.1)) (ms, rr.2) := by
  refine xCt.of (lv := [some (.inr (.inr (some (a0))) : xV), some (.inl (a1) : xV)]) pl_X1 (Nat.le_of_ble_eq_true rfl) (xle.s (xle.s xle.z)) ?_
  refine x_iload_n (i := 1) 1 rfl dX1_isColumn_0 rfl rfl ?_
  refine x_iconst (0 : Int32) 2 rfl dX1_isColumn_1 rfl ?_
  refine x_aload_n (i := 0) 3 rfl dX1_isColumn_2 rfl rfl ?_
  refine d_getiN (ci := 2) (k := 1) (C := RX4) (T := TX4) (N := 3) 6 rfl dX1_isColumn_3 rfl in_X4 (by decide) (List.mem_of_getElem? (i := 7) rfl) h (fun x1 h => ?_)
  refine x_iconst (1 : Int32) 7 rfl dX1_isColumn_6 rfl ?_
  refine x_isub 8 rfl dX1_isColumn_7 ?_
  refine x_cl h (fun q2 hq h => ?_)
  refine x_callS (as := [(.inl (a1) : xV), (.inl ((0 : Int32)) : xV), (.inl (x1 - (1 : Int32)) : xV)]) (rest := []) (vv := (some (.inl (q2) : xV))) (w2 := (ms, r)) 11 rfl dX1_isColumn_8 (p_X1_in_ct hq) (lw_S q556 q557 q118 q558) ydX1_in rfl ⟨Nat.le_of_ble_eq_true rfl, Nat.le_of_ble_eq_true rfl⟩ (Nat.le_of_ble_eq_true rfl) rfl ?_
  change xB xLL yX1_isColumn cX1_isColumn 2 (some .boolean) 1 22 11 [some (.inr (.inr (some (a0))) : xV), some (.inl (a1) : xV)] [(.inl (q2) : xV)] (ms, r) _ _
  refine x_zb h (fun hz h => ?_)
  cases h
  exact x_zret rfl hz dX1_isColumn_11
/-! UnimodularTables.whyNotSet(LUnimodularTables$Table;III)I -/
theorem ydX1_whyNotSet : xHd yX1_whyNotSet 4 := by decide +kernel
def x_X1_whyNotSet_33 (r : xR) : Option (Int32 × xR) := some ((1 : Int32), r)
theorem x_X1_whyNotSet_33_ok {ms : xS} {rr : Int32 × xR} {r : xR} (h : x_X1_whyNotSet_33  r = some rr) : xB xLL yX1_whyNotSet cX1_whyNotSet 4 (some .int) 2 43 33 [none, none, none, none] [] (ms, r) (some (.inl rr.1)) (ms, rr.2) := by
  refine x_iconst (1 : Int32) 34 rfl dX1_whyNotSet_33 rfl ?_
  refine x_goto 54 dX1_whyNotSet_34 rfl ?_
  cases h
  exact x_iret rfl dX1_whyNotSet_54
def x_X1_whyNotSet (a0 : Option Nat) (a1 : Int32) (a2 : Int32) (a3 : Int32) (r : xR) : Option (Int32 × xR) := nu a0 (some ((0 : Int32), r)) fun p1 => cl (x_X1_isRow p1 a1 r) fun q2 => if q2.1 = 0 then x_X1_whyNotSet_33 q2.2 else cl (x_X1_isColumn p1 a2 q2.2) fun q3 => if q3.1 = 0 then x_X1_whyNotSet_33 q3.2 else cl (p_X1_in a3 (-1 : Int32) (1 : Int32)) fun q4 => if q4 = 0 then x_X1_whyNotSet_33 q3.2 else dgr xLL q3.2 p1 2 2 fun p5 => nn p5 fun p6 => dar xLL q3.2 p6 a1 fun p7 => nn p7 fun p8 => dai xLL q3.2 p8 a2 fun x9 => if x9 = a3 then some ((2 : Int32), q3.2) else some ((-1 : Int32), q3.2)
theorem x_X1_whyNotSet_ct {ms : xS} {rr : Int32 × xR} {a0 : Option Nat} {a1 : Int32} {a2 : Int32} {a3 : Int32} {r : xR} (h : x_X1_whyNotSet a0 a1 a2 a3 r = some rr) : xCt xLL yX1_whyNotSet cX1_whyNotSet 4 (some .int) 2 43 [(.inr (.inr (a0)) : xV), (.inl (a1) : xV), (.inl (a2) : xV), (.inl (a3) : xV)] (ms, r) (some (.inl rr.1)) (ms, rr.2) := by
  refine xCt.of (lv := [some (.inr (.inr (a0)) : xV), some (.inl (a1) : xV), some (.inl (a2) : xV), some (.inl (a3) : xV)]) pl_X1 (Nat.le_of_ble_eq_true rfl) (xle.s (xle.s (xle.s (xle.s xle.z)))) ?_
  refine x_aload_n (i := 0) 1 rfl dX1_whyNotSet_0 rfl rfl ?_
  refine x_nnlP (lv := fun a0 => [some (.inr (.inr (a0)) : xV), some (.inl (a1) : xV), some (.inl (a2) : xV), some (.inl (a3) : xV)]) (st := fun a0 => []) 8 4 rfl dX1_whyNotSet_1 rfl h (fun p1 h => ?_) (fun h => ?_)
  · refine x_aload_n (i := 0) 9 rfl dX1_whyNotSet_8 rfl rfl ?_
    refine x_iload_n (i := 1) 10 rfl dX1_whyNotSet_9 rfl rfl ?_
    refine x_cl h (fun q2 hq h => ?_)
    refine x_callS (as := [(.inr (.inr (some (p1))) : xV), (.inl (a1) : xV)]) (rest := []) (vv := (some (.inl (q2.1) : xV))) (w2 := (ms, q2.2)) 13 rfl dX1_whyNotSet_10 (x_X1_isRow_ct hq) (lw_S q686 q687 q118 q688) ydX1_isRow rfl ⟨Nat.le_of_ble_eq_true rfl, Nat.le_of_ble_eq_true rfl⟩ (Nat.le_of_ble_eq_true rfl) rfl ?_
    change xB xLL yX1_whyNotSet cX1_whyNotSet 4 (some .int) 2 43 13 [some (.inr (.inr (some (p1))) : xV), some (.inl (a1) : xV), some (.inl (a2) : xV), some (.inl (a3) : xV)] [(.inl (q2.1) : xV)] (ms, q2.2) _ _
    refine x_if_eq 33 16 rfl dX1_whyNotSet_13 rfl h (fun h => ?_) (fun h => ?_)
    · exact xB.le (xle.n (xle.n (xle.n (xle.n xle.z)))) (x_X1_whyNotSet_33_ok h)
    · refine x_aload_n (i := 0) 17 rfl dX1_whyNotSet_16 rfl rfl ?_
      refine x_iload_n (i := 2) 18 rfl dX1_whyNotSet_17 rfl rfl ?_
      refine x_cl h (fun q3 hq h => ?_)
      refine x_callS (as := [(.inr (.inr (some (p1))) : xV), (.inl (a2) : xV)]) (rest := []) (vv := (some (.inl (q3.1) : xV))) (w2 := (ms, q3.2)) 21 rfl dX1_whyNotSet_18 (x_X1_isColumn_ct hq) (lw_S q689 q690 q118 q691) ydX1_isColumn rfl ⟨Nat.le_of_ble_eq_true rfl, Nat.le_of_ble_eq_true rfl⟩ (Nat.le_of_ble_eq_true rfl) rfl ?_
      change xB xLL yX1_whyNotSet cX1_whyNotSet 4 (some .int) 2 43 21 [some (.inr (.inr (some (p1))) : xV), some (.inl (a1) : xV), some (.inl (a2) : xV), some (.inl (a3) : xV)] [(.inl (q3.1) : xV)] (ms, q3.2) _ _
      refine x_if_eq 33 24 rfl dX1_whyNotSet_21 rfl h (fun h => ?_) (fun h => ?_)
      · exact xB.le (xle.n (xle.n (xle.n (xle.n xle.z)))) (x_X1_whyNotSet_33_ok h)
      · refine x_iload_n (i := 3) 25 rfl dX1_whyNotSet_24 rfl rfl ?_
        refine x_iconst (-1 : Int32) 26 rfl dX1_whyNotSet_25 rfl ?_
        refine x_iconst (1 : Int32) 27 rfl dX1_whyNotSet_26 rfl ?_
        refine x_cl h (fun q4 hq h => ?_)
        refine x_callS (as := [(.inl (a3) : xV), (.inl ((-1 : Int32)) : xV), (.inl ((1 : Int32)) : xV)]) (rest := []) (vv := (some (.inl (q4) : xV))) (w2 := (ms, q3.2)) 30 rfl dX1_whyNotSet_27 (p_X1_in_ct hq) (lw_S q556 q557 q118 q558) ydX1_in rfl ⟨Nat.le_of_ble_eq_true rfl, Nat.le_of_ble_eq_true rfl⟩ (Nat.le_of_ble_eq_true rfl) rfl ?_
        change xB xLL yX1_whyNotSet cX1_whyNotSet 4 (some .int) 2 43 30 [some (.inr (.inr (some (p1))) : xV), some (.inl (a1) : xV), some (.inl (a2) : xV), some (.inl (a3) : xV)] [(.inl (q4) : xV)] (ms, q3.2) _ _
        refine x_if_ne 37 33 rfl dX1_whyNotSet_30 rfl h (fun h => ?_) (fun h => ?_)
        · refine x_aload_n (i := 0) 38 rfl dX1_whyNotSet_37 rfl rfl ?_
          refine d_getrN (ci := 2) (k := 2) (C := RX4) (T := TX4) (N := 3) 41 rfl dX1_whyNotSet_38 rfl in_X4 (by decide) (List.mem_of_getElem? (i := 9) rfl) h (fun p5 h => ?_)
          refine x_iload_n (i := 1) 42 rfl dX1_whyNotSet_41 rfl rfl ?_
          refine x_nnP (P := fun p5 => xB xLL yX1_whyNotSet cX1_whyNotSet 4 (some .int) 2 43 42 [some (.inr (.inr (some (p1))) : xV), some (.inl (a1) : xV), some (.inl (a2) : xV), some (.inl (a3) : xV)] [(.inl (a1) : xV), (.inr (.inr (p5)) : xV)] (ms, q3.2) (some (.inl rr.1)) (ms, rr.2)) h (fun p6 h => ?_)
          refine d_aald 43 rfl dX1_whyNotSet_42 h (fun p7 h => ?_)
          refine x_iload_n (i := 2) 44 rfl dX1_whyNotSet_43 rfl rfl ?_
          refine x_nnP (P := fun p7 => xB xLL yX1_whyNotSet cX1_whyNotSet 4 (some .int) 2 43 44 [some (.inr (.inr (some (p1))) : xV), some (.inl (a1) : xV), some (.inl (a2) : xV), some (.inl (a3) : xV)] [(.inl (a2) : xV), (.inr (.inr (p7)) : xV)] (ms, q3.2) (some (.inl rr.1)) (ms, rr.2)) h (fun p8 h => ?_)
          refine d_iald 45 rfl dX1_whyNotSet_44 h (fun x9 h => ?_)
          refine x_iload_n (i := 3) 46 rfl dX1_whyNotSet_45 rfl rfl ?_
          refine x_icmp_ne 53 49 rfl dX1_whyNotSet_46 rfl h (fun h => ?_) (fun h => ?_)
          · refine x_iconst (-1 : Int32) 54 rfl dX1_whyNotSet_53 rfl ?_
            cases h
            exact x_iret rfl dX1_whyNotSet_54
          · refine x_iconst (2 : Int32) 50 rfl dX1_whyNotSet_49 rfl ?_
            refine x_goto 54 dX1_whyNotSet_50 rfl ?_
            cases h
            exact x_iret rfl dX1_whyNotSet_54
        · exact xB.le (xle.n (xle.n (xle.n (xle.n xle.z)))) (x_X1_whyNotSet_33_ok h)
  · refine x_iconst (0 : Int32) 5 rfl dX1_whyNotSet_4 rfl ?_
    refine x_goto 54 dX1_whyNotSet_5 rfl ?_
    cases h
    exact x_iret rfl dX1_whyNotSet_54
