set_option maxRecDepth 100000
/-! UnimodularTables.draws(IJ)I -/
theorem ydX1_draws : xHd yX1_draws 2 := by decide +kernel
def x_X1_draws_46 (rec30 : Int32 → Int32 → Int32 → xR → Option (Int32 × xR)) (a1 : Int32) (a4 : Int32) (a5 : Int32) (r : xR) : Option (Int32 × xR) := lt (a5 + (1 : Int32)) fun x1 => rec30 a1 a4 x1 r
theorem x_X1_draws_46_ok {ms : xS} {rr : Int32 × xR} {rec30 : Int32 → Int32 → Int32 → xR → Option (Int32 × xR)} (hr30 : ∀ {a1 : Int32} {a4 : Int32} {a5 : Int32} {r : xR}, rec30 a1 a4 a5 r = some rr → xB xLL yX1_draws cX1_draws 6 (some .int) 8 3139 30 [some (.inr (.inr (some 300)) : xV), some (.inl (a1) : xV), none, none, some (.inl (a4) : xV), some (.inl (a5) : xV)] [] (ms, r) (some (.inl rr.1)) (ms, rr.2)) {a1 : Int32} {a4 : Int32} {a5 : Int32} {r : xR} (h : x_X1_draws_46 rec30 a1 a4 a5 r = some rr) : xB xLL yX1_draws cX1_draws 6 (some .int) 8 3139 46 [some (.inr (.inr (some 300)) : xV), some (.inl (a1) : xV), none, none, some (.inl (a4) : xV), some (.inl (a5) : xV)] [] (ms, r) (some (.inl rr.1)) (ms, rr.2) := by
  refine x_iincL (i := 5) (1 : Int32) 49 rfl dX1_draws_46 rfl rfl (by decide) h (fun x1 h => ?_)
  change xB xLL yX1_draws cX1_draws 6 (some .int) 8 3139 49 [some (.inr (.inr (some 300)) : xV), some (.inl (a1) : xV), none, none, some (.inl (a4) : xV), some (.inl (x1) : xV)] [] (ms, r) _ _
  refine x_goto 30 dX1_draws_49 rfl ?_
  exact xB.le (xle.s (xle.s (xle.n (xle.n (xle.s (xle.s xle.z)))))) (hr30 h)
def x_X1_draws_30_s (rec30 : Int32 → Int32 → Int32 → xR → Option (Int32 × xR)) (a1 : Int32) (a4 : Int32) (a5 : Int32) (r : xR) : Option (Int32 × xR) := if a1 ≤ a5 then some (a4, r) else cl (x_X1_drawAct r) fun q2 => if q2.1 = 0 then x_X1_draws_46 rec30 a1 a4 a5 q2.2 else lt (a4 + (1 : Int32)) fun x3 => x_X1_draws_46 rec30 a1 x3 a5 q2.2
theorem x_X1_draws_30_s_ok {ms : xS} {rr : Int32 × xR} {rec30 : Int32 → Int32 → Int32 → xR → Option (Int32 × xR)} (hr30 : ∀ {a1 : Int32} {a4 : Int32} {a5 : Int32} {r : xR}, rec30 a1 a4 a5 r = some rr → xB xLL yX1_draws cX1_draws 6 (some .int) 8 3139 30 [some (.inr (.inr (some 300)) : xV), some (.inl (a1) : xV), none, none, some (.inl (a4) : xV), some (.inl (a5) : xV)] [] (ms, r) (some (.inl rr.1)) (ms, rr.2)) {a1 : Int32} {a4 : Int32} {a5 : Int32} {r : xR} (h : x_X1_draws_30_s rec30 a1 a4 a5 r = some rr) : xB xLL yX1_draws cX1_draws 6 (some .int) 8 3139 30 [some (.inr (.inr (some 300)) : xV), some (.inl (a1) : xV), none, none, some (.inl (a4) : xV), some (.inl (a5) : xV)] [] (ms, r) (some (.inl rr.1)) (ms, rr.2) := by
  refine x_iload (i := 5) 32 rfl dX1_draws_30 rfl ?_
  refine x_iload_n (i := 1) 33 rfl dX1_draws_32 rfl rfl ?_
  refine x_icmp_ge 52 36 rfl dX1_draws_33 rfl h (fun h => ?_) (fun h => ?_)
  · refine x_iload (i := 4) 54 rfl dX1_draws_52 rfl ?_
    cases h
    exact x_iret rfl dX1_draws_54
  · refine x_aload_n (i := 0) 37 rfl dX1_draws_36 rfl rfl ?_
    refine x_cl h (fun q2 hq h => ?_)
    refine x_callV (as := []) (rest := []) (vv := (some (.inl (q2.1) : xV))) (w2 := (ms, q2.2)) (C := RX1) (T := TX1) (N := 34) 40 rfl dX1_draws_37 (x_X1_drawAct_ct hq) (Or.inl xcell_X0) rfl (lw_V q1763 q1765 qs64 q118 q1766) rfl ydX1_drawAct rfl ⟨Nat.le_of_ble_eq_true rfl, Nat.le_of_ble_eq_true rfl⟩ (Nat.le_of_ble_eq_true rfl) rfl ?_
    change xB xLL yX1_draws cX1_draws 6 (some .int) 8 3139 40 [some (.inr (.inr (some 300)) : xV), some (.inl (a1) : xV), none, none, some (.inl (a4) : xV), some (.inl (a5) : xV)] [(.inl (q2.1) : xV)] (ms, q2.2) _ _
    refine x_if_eq 46 43 rfl dX1_draws_40 rfl h (fun h => ?_) (fun h => ?_)
    · exact xB.le (xle.s (xle.s (xle.n (xle.n (xle.s (xle.s xle.z)))))) (x_X1_draws_46_ok hr30 h)
    · refine x_iincL (i := 4) (1 : Int32) 46 rfl dX1_draws_43 rfl rfl (by decide) h (fun x3 h => ?_)
      change xB xLL yX1_draws cX1_draws 6 (some .int) 8 3139 46 [some (.inr (.inr (some 300)) : xV), some (.inl (a1) : xV), none, none, some (.inl (x3) : xV), some (.inl (a5) : xV)] [] (ms, q2.2) _ _
      exact xB.le (xle.s (xle.s (xle.n (xle.n (xle.s (xle.s xle.z)))))) (x_X1_draws_46_ok hr30 h)
def x_X1_draws_30_L : Nat → Int32 → Int32 → Int32 → xR → Option (Int32 × xR)
  | 0 => fun _ _ _ _ => none
  | n + 1 => x_X1_draws_30_s (x_X1_draws_30_L  n)
theorem x_X1_draws_30_L_ok {ms : xS} {rr : Int32 × xR} : ∀ (n9 : Nat) {a1 : Int32} {a4 : Int32} {a5 : Int32} {r : xR}, x_X1_draws_30_L  n9 a1 a4 a5 r = some rr → xB xLL yX1_draws cX1_draws 6 (some .int) 8 3139 30 [some (.inr (.inr (some 300)) : xV), some (.inl (a1) : xV), none, none, some (.inl (a4) : xV), some (.inl (a5) : xV)] [] (ms, r) (some (.inl rr.1)) (ms, rr.2)
  | 0, _, _, _, _, h => by cases h
  | n9 + 1, _, _, _, _, h => x_X1_draws_30_s_ok (x_X1_draws_30_L_ok  n9) h
def x_X1_draws (a1 : Int32) (a2 : Int64) (r : xR) : Option (Int32 × xR) := lt (r.1.2.2 0 11) fun p4 => nu p4 (some ((-1 : Int32), r)) fun p5 => cl (p_X1_in a1 (1 : Int32) (30 : Int32)) fun q6 => if q6 = 0 then some ((-1 : Int32), r) else qpl r 0 31 a2 fun r7 => lt ((0 : Int32)) fun x8 => lt ((0 : Int32)) fun x9 => x_X1_draws_30_L xFU a1 x8 x9 r7
theorem x_X1_draws_ct {ms : xS} {rr : Int32 × xR} {a1 : Int32} {a2 : Int64} {r : xR} (h : x_X1_draws a1 a2 r = some rr) : xCt xLL yX1_draws cX1_draws 6 (some .int) 8 3139 [(.inr (.inr (some 300)) : xV), (.inl (a1) : xV), (.inr (.inl (a2)) : xV)] (ms, r) (some (.inl rr.1)) (ms, rr.2) := by
  refine xCt.of (lv := [some (.inr (.inr (some 300)) : xV), some (.inl (a1) : xV), some (.inr (.inl (a2)) : xV), none, none, none]) pl_X1 (Nat.le_of_ble_eq_true rfl) (xle.s (xle.s (xle.s (xle.n (xle.m (xle.m xle.z)))))) ?_
  refine x_aload_n (i := 0) 1 rfl dX1_draws_0 rfl rfl ?_
  refine q_get (k := 11) 4 rfl dX1_draws_1 (by decide) q453 rfl ?_
  refine x_ltr h (fun p4 h => ?_)
  refine x_nulP (lv := fun p4 => [some (.inr (.inr (some 300)) : xV), some (.inl (a1) : xV), some (.inr (.inl (a2)) : xV), none, none, none]) (st := fun p4 => []) 17 7 rfl dX1_draws_4 rfl h (fun h => ?_) (fun p5 h => ?_)
  · refine x_iconst (-1 : Int32) 18 rfl dX1_draws_17 rfl ?_
    cases h
    exact x_iret rfl dX1_draws_18
  · refine x_iload_n (i := 1) 8 rfl dX1_draws_7 rfl rfl ?_
    refine x_iconst (1 : Int32) 9 rfl dX1_draws_8 rfl ?_
    refine x_bipush (30 : Int32) 11 rfl dX1_draws_9 rfl ?_
    refine x_cl h (fun q6 hq h => ?_)
    refine x_callS (as := [(.inl (a1) : xV), (.inl ((1 : Int32)) : xV), (.inl ((30 : Int32)) : xV)]) (rest := []) (vv := (some (.inl (q6) : xV))) (w2 := (ms, r)) 14 rfl dX1_draws_11 (p_X1_in_ct hq) (lw_S q556 q557 q118 q558) ydX1_in rfl ⟨Nat.le_of_ble_eq_true rfl, Nat.le_of_ble_eq_true rfl⟩ (Nat.le_of_ble_eq_true rfl) rfl ?_
    change xB xLL yX1_draws cX1_draws 6 (some .int) 8 3139 14 [some (.inr (.inr (some 300)) : xV), some (.inl (a1) : xV), some (.inr (.inl (a2)) : xV), none, none, none] [(.inl (q6) : xV)] (ms, r) _ _
    refine x_if_ne 19 17 rfl dX1_draws_14 rfl h (fun h => ?_) (fun h => ?_)
    · refine x_aload_n (i := 0) 20 rfl dX1_draws_19 rfl rfl ?_
      refine x_lload_n (i := 2) 21 rfl dX1_draws_20 rfl rfl ?_
      refine q_putl (k := 31) (z := 0) 24 rfl dX1_draws_21 (by decide) rfl rfl rfl q473 h (fun r7 h => ?_)
      refine x_iconst (0 : Int32) 25 rfl dX1_draws_24 rfl ?_
      refine x_lti h (fun x8 h => ?_)
      refine x_istore 27 rfl dX1_draws_25 (by decide) (lv' := [some (.inr (.inr (some 300)) : xV), some (.inl (a1) : xV), some (.inr (.inl (a2)) : xV), none, some (.inl (x8) : xV), none]) rfl ?_
      refine x_iconst (0 : Int32) 28 rfl dX1_draws_27 rfl ?_
      refine x_lti h (fun x9 h => ?_)
      refine x_istore 30 rfl dX1_draws_28 (by decide) (lv' := [some (.inr (.inr (some 300)) : xV), some (.inl (a1) : xV), some (.inr (.inl (a2)) : xV), none, some (.inl (x8) : xV), some (.inl (x9) : xV)]) rfl ?_
      exact xB.le (xle.s (xle.s (xle.n (xle.n (xle.s (xle.s xle.z)))))) (x_X1_draws_30_L_ok xFU h)
    · refine x_iconst (-1 : Int32) 18 rfl dX1_draws_17 rfl ?_
      cases h
      exact x_iret rfl dX1_draws_18
/-! UnimodularTables.status(I)I -/
theorem ydX1_status : xHd yX1_status 1 := by decide +kernel
def x_X1_status (a1 : Int32) (r : xR) : Option (Int32 × xR) := cl (p_X1_in a1 (0 : Int32) (3 : Int32)) fun q1 => if q1 = 0 then some ((-1 : Int32), r) else qrd r 8 a1 fun x2 => some (x2, r)
theorem x_X1_status_ct {ms : xS} {rr : Int32 × xR} {a1 : Int32} {r : xR} (h : x_X1_status a1 r = some rr) : xCt xLL yX1_status cX1_status 2 (some .int) 1 22 [(.inr (.inr (some 300)) : xV), (.inl (a1) : xV)] (ms, r) (some (.inl rr.1)) (ms, rr.2) := by
  refine xCt.of (lv := [some (.inr (.inr (some 300)) : xV), some (.inl (a1) : xV)]) pl_X1 (Nat.le_of_ble_eq_true rfl) (xle.s (xle.s xle.z)) ?_
  refine x_iload_n (i := 1) 1 rfl dX1_status_0 rfl rfl ?_
  refine x_iconst (0 : Int32) 2 rfl dX1_status_1 rfl ?_
  refine x_iconst (3 : Int32) 3 rfl dX1_status_2 rfl ?_
  refine x_cl h (fun q1 hq h => ?_)
  refine x_callS (as := [(.inl (a1) : xV), (.inl ((0 : Int32)) : xV), (.inl ((3 : Int32)) : xV)]) (rest := []) (vv := (some (.inl (q1) : xV))) (w2 := (ms, r)) 6 rfl dX1_status_3 (p_X1_in_ct hq) (lw_S q556 q557 q118 q558) ydX1_in rfl ⟨Nat.le_of_ble_eq_true rfl, Nat.le_of_ble_eq_true rfl⟩ (Nat.le_of_ble_eq_true rfl) rfl ?_
  change xB xLL yX1_status cX1_status 2 (some .int) 1 22 6 [some (.inr (.inr (some 300)) : xV), some (.inl (a1) : xV)] [(.inl (q1) : xV)] (ms, r) _ _
  refine x_if_eq 18 9 rfl dX1_status_6 rfl h (fun h => ?_) (fun h => ?_)
  · refine x_iconst (-1 : Int32) 19 rfl dX1_status_18 rfl ?_
    cases h
    exact x_iret rfl dX1_status_19
  · refine x_aload_n (i := 0) 10 rfl dX1_status_9 rfl rfl ?_
    refine q_get (k := 15) 13 rfl dX1_status_10 (by decide) q457 rfl ?_
    refine x_iload_n (i := 1) 14 rfl dX1_status_13 rfl rfl ?_
    refine q_iald 15 rfl dX1_status_14 h (fun x2 h => ?_)
    refine x_goto 19 dX1_status_15 rfl ?_
    cases h
    exact x_iret rfl dX1_status_19
/-! UnimodularTables.onesOf(LUnimodularTables$Table;)I -/
theorem ydX1_onesOf : xHd yX1_onesOf 1 := by decide +kernel
def x_X1_onesOf_39 (rec4 : Nat → Int32 → Int32 → xR → Option (Int32 × xR)) (rec15 : Nat → Int32 → Int32 → Int32 → xR → Option (Int32 × xR)) (a1 : Nat) (a2 : Int32) (a3 : Int32) (a4 : Int32) (r : xR) : Option (Int32 × xR) := lt (a4 + (1 : Int32)) fun x1 => rec15 a1 a2 a3 x1 r
theorem x_X1_onesOf_39_ok {ms : xS} {rr : Int32 × xR} {rec4 : Nat → Int32 → Int32 → xR → Option (Int32 × xR)} {rec15 : Nat → Int32 → Int32 → Int32 → xR → Option (Int32 × xR)} (hr4 : ∀ {a1 : Nat} {a2 : Int32} {a3 : Int32} {r : xR}, rec4 a1 a2 a3 r = some rr → xB xLL yX1_onesOf cX1_onesOf 5 (some .int) 0 0 4 [none, some (.inr (.inr (some (a1))) : xV), some (.inl (a2) : xV), some (.inl (a3) : xV), none] [] (ms, r) (some (.inl rr.1)) (ms, rr.2)) (hr15 : ∀ {a1 : Nat} {a2 : Int32} {a3 : Int32} {a4 : Int32} {r : xR}, rec15 a1 a2 a3 a4 r = some rr → xB xLL yX1_onesOf cX1_onesOf 5 (some .int) 0 0 15 [none, some (.inr (.inr (some (a1))) : xV), some (.inl (a2) : xV), some (.inl (a3) : xV), some (.inl (a4) : xV)] [] (ms, r) (some (.inl rr.1)) (ms, rr.2)) {a1 : Nat} {a2 : Int32} {a3 : Int32} {a4 : Int32} {r : xR} (h : x_X1_onesOf_39 rec4 rec15 a1 a2 a3 a4 r = some rr) : xB xLL yX1_onesOf cX1_onesOf 5 (some .int) 0 0 39 [none, some (.inr (.inr (some (a1))) : xV), some (.inl (a2) : xV), some (.inl (a3) : xV), some (.inl (a4) : xV)] [] (ms, r) (some (.inl rr.1)) (ms, rr.2) := by
  refine x_iincL (i := 4) (1 : Int32) 42 rfl dX1_onesOf_39 rfl rfl (by decide) h (fun x1 h => ?_)
  change xB xLL yX1_onesOf cX1_onesOf 5 (some .int) 0 0 42 [none, some (.inr (.inr (some (a1))) : xV), some (.inl (a2) : xV), some (.inl (a3) : xV), some (.inl (x1) : xV)] [] (ms, r) _ _
  refine x_goto 15 dX1_onesOf_42 rfl ?_
  exact xB.le (xle.n (xle.s (xle.s (xle.s (xle.s xle.z))))) (hr15 h)
def x_X1_onesOf_15_s (rec4 : Nat → Int32 → Int32 → xR → Option (Int32 × xR)) (rec15 : Nat → Int32 → Int32 → Int32 → xR → Option (Int32 × xR)) (a1 : Nat) (a2 : Int32) (a3 : Int32) (a4 : Int32) (r : xR) : Option (Int32 × xR) := dgi xLL r a1 2 1 fun x2 => if x2 ≤ a4 then lt (a3 + (1 : Int32)) fun x3 => rec4 a1 a2 x3 r else dgr xLL r a1 2 2 fun p4 => nn p4 fun p5 => dar xLL r p5 a3 fun p6 => nn p6 fun p7 => dai xLL r p7 a4 fun x8 => if x8 = 0 then x_X1_onesOf_39 rec4 rec15 a1 a2 a3 a4 r else lt (a2 + (1 : Int32)) fun x9 => x_X1_onesOf_39 rec4 rec15 a1 x9 a3 a4 r
theorem x_X1_onesOf_15_s_ok {ms : xS} {rr : Int32 × xR} {rec4 : Nat → Int32 → Int32 → xR → Option (Int32 × xR)} {rec15 : Nat → Int32 → Int32 → Int32 → xR → Option (Int32 × xR)} (hr4 : ∀ {a1 : Nat} {a2 : Int32} {a3 : Int32} {r : xR}, rec4 a1 a2 a3 r = some rr → xB xLL yX1_onesOf cX1_onesOf 5 (some .int) 0 0 4 [none, some (.inr (.inr (some (a1))) : xV), some (.inl (a2) : xV), some (.inl (a3) : xV), none] [] (ms, r) (some (.inl rr.1)) (ms, rr.2)) (hr15 : ∀ {a1 : Nat} {a2 : Int32} {a3 : Int32} {a4 : Int32} {r : xR}, rec15 a1 a2 a3 a4 r = some rr → xB xLL yX1_onesOf cX1_onesOf 5 (some .int) 0 0 15 [none, some (.inr (.inr (some (a1))) : xV), some (.inl (a2) : xV), some (.inl (a3) : xV), some (.inl (a4) : xV)] [] (ms, r) (some (.inl rr.1)) (ms, rr.2)) {a1 : Nat} {a2 : Int32} {a3 : Int32} {a4 : Int32} {r : xR} (h : x_X1_onesOf_15_s rec4 rec15 a1 a2 a3 a4 r = some rr) : xB xLL yX1_onesOf cX1_onesOf 5 (some .int) 0 0 15 [none, some (.inr (.inr (some (a1))) : xV), some (.inl (a2) : xV), some (.inl (a3) : xV), some (.inl (a4) : xV)] [] (ms, r) (some (.inl rr.1)) (ms, rr.2) := by
  refine x_iload (i := 4) 17 rfl dX1_onesOf_15 rfl ?_
  refine x_aload_n (i := 1) 18 rfl dX1_onesOf_17 rfl rfl ?_
  refine d_getiN (ci := 2) (k := 1) (C := RX4) (T := TX4) (N := 3) 21 rfl dX1_onesOf_18 rfl in_X4 (by decide) (List.mem_of_getElem? (i := 7) rfl) h (fun x2 h => ?_)
  refine x_icmp_ge 45 24 rfl dX1_onesOf_21 rfl h (fun h => ?_) (fun h => ?_)
  · refine x_iincL (i := 3) (1 : Int32) 48 rfl dX1_onesOf_45 rfl rfl (by decide) h (fun x3 h => ?_)
    change xB xLL yX1_onesOf cX1_onesOf 5 (some .int) 0 0 48 [none, some (.inr (.inr (some (a1))) : xV), some (.inl (a2) : xV), some (.inl (x3) : xV), some (.inl (a4) : xV)] [] (ms, r) _ _
    refine x_goto 4 dX1_onesOf_48 rfl ?_
    exact xB.le (xle.n (xle.s (xle.s (xle.s (xle.n xle.z))))) (hr4 h)
  · refine x_aload_n (i := 1) 25 rfl dX1_onesOf_24 rfl rfl ?_
    refine d_getrN (ci := 2) (k := 2) (C := RX4) (T := TX4) (N := 3) 28 rfl dX1_onesOf_25 rfl in_X4 (by decide) (List.mem_of_getElem? (i := 9) rfl) h (fun p4 h => ?_)
    refine x_iload_n (i := 3) 29 rfl dX1_onesOf_28 rfl rfl ?_
    refine x_nnP (P := fun p4 => xB xLL yX1_onesOf cX1_onesOf 5 (some .int) 0 0 29 [none, some (.inr (.inr (some (a1))) : xV), some (.inl (a2) : xV), some (.inl (a3) : xV), some (.inl (a4) : xV)] [(.inl (a3) : xV), (.inr (.inr (p4)) : xV)] (ms, r) (some (.inl rr.1)) (ms, rr.2)) h (fun p5 h => ?_)
    refine d_aald 30 rfl dX1_onesOf_29 h (fun p6 h => ?_)
    refine x_iload (i := 4) 32 rfl dX1_onesOf_30 rfl ?_
    refine x_nnP (P := fun p6 => xB xLL yX1_onesOf cX1_onesOf 5 (some .int) 0 0 32 [none, some (.inr (.inr (some (a1))) : xV), some (.inl (a2) : xV), some (.inl (a3) : xV), some (.inl (a4) : xV)] [(.inl (a4) : xV), (.inr (.inr (p6)) : xV)] (ms, r) (some (.inl rr.1)) (ms, rr.2)) h (fun p7 h => ?_)
    refine d_iald 33 rfl dX1_onesOf_32 h (fun x8 h => ?_)
    refine x_if_eq 39 36 rfl dX1_onesOf_33 rfl h (fun h => ?_) (fun h => ?_)
    · exact xB.le (xle.n (xle.s (xle.s (xle.s (xle.s xle.z))))) (x_X1_onesOf_39_ok hr4 hr15 h)
    · refine x_iincL (i := 2) (1 : Int32) 39 rfl dX1_onesOf_36 rfl rfl (by decide) h (fun x9 h => ?_)
      change xB xLL yX1_onesOf cX1_onesOf 5 (some .int) 0 0 39 [none, some (.inr (.inr (some (a1))) : xV), some (.inl (x9) : xV), some (.inl (a3) : xV), some (.inl (a4) : xV)] [] (ms, r) _ _
      exact xB.le (xle.n (xle.s (xle.s (xle.s (xle.s xle.z))))) (x_X1_onesOf_39_ok hr4 hr15 h)
def x_X1_onesOf_15_L (rec4 : Nat → Int32 → Int32 → xR → Option (Int32 × xR)) : Nat → Nat → Int32 → Int32 → Int32 → xR → Option (Int32 × xR)
  | 0 => fun _ _ _ _ _ => none
  | n + 1 => x_X1_onesOf_15_s rec4 (x_X1_onesOf_15_L rec4 n)
theorem x_X1_onesOf_15_L_ok {ms : xS} {rr : Int32 × xR} {rec4 : Nat → Int32 → Int32 → xR → Option (Int32 × xR)} (hr4 : ∀ {a1 : Nat} {a2 : Int32} {a3 : Int32} {r : xR}, rec4 a1 a2 a3 r = some rr → xB xLL yX1_onesOf cX1_onesOf 5 (some .int) 0 0 4 [none, some (.inr (.inr (some (a1))) : xV), some (.inl (a2) : xV), some (.inl (a3) : xV), none] [] (ms, r) (some (.inl rr.1)) (ms, rr.2)) : ∀ (n9 : Nat) {a1 : Nat} {a2 : Int32} {a3 : Int32} {a4 : Int32} {r : xR}, x_X1_onesOf_15_L rec4 n9 a1 a2 a3 a4 r = some rr → xB xLL yX1_onesOf cX1_onesOf 5 (some .int) 0 0 15 [none, some (.inr (.inr (some (a1))) : xV), some (.inl (a2) : xV), some (.inl (a3) : xV), some (.inl (a4) : xV)] [] (ms, r) (some (.inl rr.1)) (ms, rr.2)
  | 0, _, _, _, _, _, h => by cases h
  | n9 + 1, _, _, _, _, _, h => x_X1_onesOf_15_s_ok hr4 (x_X1_onesOf_15_L_ok hr4 n9) h
def x_X1_onesOf_4_s (rec4 : Nat → Int32 → Int32 → xR → Option (Int32 × xR)) (a1 : Nat) (a2 : Int32) (a3 : Int32) (r : xR) : Option (Int32 × xR) := dgi xLL r a1 2 0 fun x10 => if x10 ≤ a3 then some (a2, r) else lt ((0 : Int32)) fun x11 => x_X1_onesOf_15_L rec4 xFU a1 a2 a3 x11 r
theorem x_X1_onesOf_4_s_ok {ms : xS} {rr : Int32 × xR} {rec4 : Nat → Int32 → Int32 → xR → Option (Int32 × xR)} (hr4 : ∀ {a1 : Nat} {a2 : Int32} {a3 : Int32} {r : xR}, rec4 a1 a2 a3 r = some rr → xB xLL yX1_onesOf cX1_onesOf 5 (some .int) 0 0 4 [none, some (.inr (.inr (some (a1))) : xV), some (.inl (a2) : xV), some (.inl (a3) : xV), none] [] (ms, r) (some (.inl rr.1)) (ms, rr.2)) {a1 : Nat} {a2 : Int32} {a3 : Int32} {r : xR} (h : x_X1_onesOf_4_s rec4 a1 a2 a3 r = some rr) : xB xLL yX1_onesOf cX1_onesOf 5 (some .int) 0 0 4 [none, some (.inr (.inr (some (a1))) : xV), some (.inl (a2) : xV), some (.inl (a3) : xV), none] [] (ms, r) (some (.inl rr.1)) (ms, rr.2) := by
  refine x_iload_n (i := 3) 5 rfl dX1_onesOf_4 rfl rfl ?_
  refine x_aload_n (i := 1) 6 rfl dX1_onesOf_5 rfl rfl ?_
  refine d_getiN (ci := 2) (k := 0) (C := RX4) (T := TX4) (N := 3) 9 rfl dX1_onesOf_6 rfl in_X4 (by decide) (List.mem_of_getElem? (i := 5) rfl) h (fun x10 h => ?_)
  refine x_icmp_ge 51 12 rfl dX1_onesOf_9 rfl h (fun h => ?_) (fun h => ?_)
  · refine x_iload_n (i := 2) 52 rfl dX1_onesOf_51 rfl rfl ?_
    cases h
    exact x_iret rfl dX1_onesOf_52
  · refine x_iconst (0 : Int32) 13 rfl dX1_onesOf_12 rfl ?_
    refine x_lti h (fun x11 h => ?_)
    refine x_istore 15 rfl dX1_onesOf_13 (by decide) (lv' := [none, some (.inr (.inr (some (a1))) : xV), some (.inl (a2) : xV), some (.inl (a3) : xV), some (.inl (x11) : xV)]) rfl ?_
    exact xB.le (xle.n (xle.s (xle.s (xle.s (xle.s xle.z))))) (x_X1_onesOf_15_L_ok hr4 xFU h)
def x_X1_onesOf_4_L : Nat → Nat → Int32 → Int32 → xR → Option (Int32 × xR)
  | 0 => fun _ _ _ _ => none
  | n + 1 => x_X1_onesOf_4_s (x_X1_onesOf_4_L  n)
theorem x_X1_onesOf_4_L_ok {ms : xS} {rr : Int32 × xR} : ∀ (n9 : Nat) {a1 : Nat} {a2 : Int32} {a3 : Int32} {r : xR}, x_X1_onesOf_4_L  n9 a1 a2 a3 r = some rr → xB xLL yX1_onesOf cX1_onesOf 5 (some .int) 0 0 4 [none, some (.inr (.inr (some (a1))) : xV), some (.inl (a2) : xV), some (.inl (a3) : xV), none] [] (ms, r) (some (.inl rr.1)) (ms, rr.2)
  | 0, _, _, _, _, h => by cases h
  | n9 + 1, _, _, _, _, h => x_X1_onesOf_4_s_ok (x_X1_onesOf_4_L_ok  n9) h
def x_X1_onesOf (a1 : Nat) (r : xR) : Option (Int32 × xR) := lt ((0 : Int32)) fun x12 => lt ((0 : Int32)) fun x13 => x_X1_onesOf_4_L xFU a1 x12 x13 r
theorem x_X1_onesOf_ct {ms : xS} {rr : Int32 × xR} {a1 : Nat} {r : xR} (h : x_X1_onesOf a1 r = some rr) : xCt xLL yX1_onesOf cX1_onesOf 5 (some .int) 0 0 [(.inr (.inr (some 300)) : xV), (.inr (.inr (some (a1))) : xV)] (ms, r) (some (.inl rr.1)) (ms, rr.2) := by
  refine xCt.of (lv := [some (.inr (.inr (some 300)) : xV), some (.inr (.inr (some (a1))) : xV), none, none, none]) pl_X1 (Nat.le_of_ble_eq_true rfl) (xle.s (xle.s (xle.m (xle.m (xle.m xle.z))))) ?_
  refine x_iconst (0 : Int32) 1 rfl dX1_onesOf_0 rfl ?_
  refine x_lti h (fun x12 h => ?_)
  refine x_istore_n 2 rfl dX1_onesOf_1 rfl (by decide) (lv' := [some (.inr (.inr (some 300)) : xV), some (.inr (.inr (some (a1))) : xV), some (.inl (x12) : xV), none, none]) rfl ?_
  refine x_iconst (0 : Int32) 3 rfl dX1_onesOf_2 rfl ?_
  refine x_lti h (fun x13 h => ?_)
  refine x_istore_n 4 rfl dX1_onesOf_3 rfl (by decide) (lv' := [some (.inr (.inr (some 300)) : xV), some (.inr (.inr (some (a1))) : xV), some (.inl (x12) : xV), some (.inl (x13) : xV), none]) rfl ?_
  exact xB.le (xle.n (xle.s (xle.s (xle.s (xle.n xle.z))))) (x_X1_onesOf_4_L_ok xFU h)
