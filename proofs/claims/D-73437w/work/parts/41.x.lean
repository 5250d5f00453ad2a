set_option maxRecDepth 100000
/-! UnimodularTables.isRefused(I)Z -/
theorem ydX1_isRefused : xHd yX1_isRefused 1 := by decide +kernel
def x_X1_isRefused_15 (a1 : Int32) (r : xR) : Option (Int32 × xR) := if a1 = (-1 : Int32) then some ((0 : Int32), r) else some ((1 : Int32), r)
theorem x_X1_isRefused_15_ok {ms : xS} {rr : Int32 × xR} {a1 : Int32} {r : xR} (h : x_X1_isRefused_15  a1 r = some rr) : xB xLL yX1_isRefused cX1_isRefused 2 (some .boolean) 0 0 15 [none, some (.inl (a1) : xV)] [] (ms, r) (some (.inl rr.1)) (ms, rr.2) := by
  refine x_iload_n (i := 1) 16 rfl dX1_isRefused_15 rfl rfl ?_
  refine x_iconst (-1 : Int32) 17 rfl dX1_isRefused_16 rfl ?_
  refine x_icmp_eq 24 20 rfl dX1_isRefused_17 rfl h (fun h => ?_) (fun h => ?_)
  · refine x_iconst (0 : Int32) 25 rfl dX1_isRefused_24 rfl ?_
    cases h
    exact x_zret rfl (Or.inl rfl) dX1_isRefused_25
  · refine x_iconst (1 : Int32) 21 rfl dX1_isRefused_20 rfl ?_
    refine x_goto 25 dX1_isRefused_21 rfl ?_
    cases h
    exact x_zret rfl (Or.inr rfl) dX1_isRefused_25
def x_X1_isRefused (a1 : Int32) (r : xR) : Option (Int32 × xR) := if a1 = (-1 : Int32) then x_X1_isRefused_15 a1 r else qrd r 8 a1 fun x1 => qwr r 8 a1 (x1 + (1 : Int32)) fun r2 => x_X1_isRefused_15 a1 r2
theorem x_X1_isRefused_ct {ms : xS} {rr : Int32 × xR} {a1 : Int32} {r : xR} (h : x_X1_isRefused a1 r = some rr) : xCt xLL yX1_isRefused cX1_isRefused 2 (some .boolean) 0 0 [(.inr (.inr (some 300)) : xV), (.inl (a1) : xV)] (ms, r) (some (.inl rr.1)) (ms, rr.2) := by
  refine xCt.of (lv := [some (.inr (.inr (some 300)) : xV), some (.inl (a1) : xV)]) pl_X1 (Nat.le_of_ble_eq_true rfl) (xle.s (xle.s xle.z)) ?_
  refine x_iload_n (i := 1) 1 rfl dX1_isRefused_0 rfl rfl ?_
  refine x_iconst (-1 : Int32) 2 rfl dX1_isRefused_1 rfl ?_
  refine x_icmp_eq 15 5 rfl dX1_isRefused_2 rfl h (fun h => ?_) (fun h => ?_)
  · exact xB.le (xle.n (xle.s xle.z)) (x_X1_isRefused_15_ok h)
  · refine x_aload_n (i := 0) 6 rfl dX1_isRefused_5 rfl rfl ?_
    refine q_get (k := 15) 9 rfl dX1_isRefused_6 (by decide) q457 rfl ?_
    refine x_iload_n (i := 1) 10 rfl dX1_isRefused_9 rfl rfl ?_
    refine x_dup2 11 rfl dX1_isRefused_10 rfl rfl ?_
    refine q_iald 12 rfl dX1_isRefused_11 h (fun x1 h => ?_)
    refine x_iconst (1 : Int32) 13 rfl dX1_isRefused_12 rfl ?_
    refine x_iadd 14 rfl dX1_isRefused_13 ?_
    refine q_iast 15 rfl dX1_isRefused_14 h (fun r2 h => ?_)
    exact xB.le (xle.n (xle.s xle.z)) (x_X1_isRefused_15_ok h)
/-! UnimodularTables.did(LUnimodularTables$Back;)V -/
theorem ydX1_did : xHd yX1_did 1 := by decide +kernel
def x_X1_did_34 (a1 : Nat) (r : xR) : Option (xR) := quw r (r.1.1 0 13) (some (a1)) fun r1 => qpi r1 0 13 ((r1.1.1 0 13) + (1 : Int32)) fun r2 => some r2
theorem x_X1_did_34_ok {ms : xS} {rr : xR} {a1 : Nat} {r : xR} (h : x_X1_did_34  a1 r = some rr) : xB xLL yX1_did cX1_did 2 none 1 26 34 [some (.inr (.inr (some 300)) : xV), some (.inr (.inr (some (a1))) : xV)] [] (ms, r) none (ms, rr) := by
  refine x_aload_n (i := 0) 35 rfl dX1_did_34 rfl rfl ?_
  refine q_get (k := 12) 38 rfl dX1_did_35 (by decide) q454 rfl ?_
  refine x_aload_n (i := 0) 39 rfl dX1_did_38 rfl rfl ?_
  refine q_get (k := 13) 42 rfl dX1_did_39 (by decide) q455 rfl ?_
  refine x_aload_n (i := 1) 43 rfl dX1_did_42 rfl rfl ?_
  refine q_aast 44 rfl dX1_did_43 h (fun r1 h => ?_)
  refine x_aload_n (i := 0) 45 rfl dX1_did_44 rfl rfl ?_
  refine x_dup 46 rfl dX1_did_45 rfl ?_
  refine q_get (k := 13) 49 rfl dX1_did_46 (by decide) q455 rfl ?_
  refine x_iconst (1 : Int32) 50 rfl dX1_did_49 rfl ?_
  refine x_iadd 51 rfl dX1_did_50 ?_
  refine q_puti (k := 13) (z := 0) 54 rfl dX1_did_51 (by decide) rfl (Or.inl rfl) rfl q455 h (fun r2 h => ?_)
  cases h
  exact x_vret rfl dX1_did_54
def x_X1_did (a1 : Nat) (r : xR) : Option (xR) := if (r.1.1 0 13) = (40 : Int32) then qus r fun r3 => qpi r3 0 13 ((r3.1.1 0 13) - (1 : Int32)) fun r4 => x_X1_did_34 a1 r4 else x_X1_did_34 a1 r
theorem x_X1_did_ct {ms : xS} {rr : xR} {a1 : Nat} {r : xR} (h : x_X1_did a1 r = some rr) : xCt xLL yX1_did cX1_did 2 none 1 26 [(.inr (.inr (some 300)) : xV), (.inr (.inr (some (a1))) : xV)] (ms, r) none (ms, rr) := by
  refine xCt.of (lv := [some (.inr (.inr (some 300)) : xV), some (.inr (.inr (some (a1))) : xV)]) pl_X1 (Nat.le_of_ble_eq_true rfl) (xle.s (xle.s xle.z)) ?_
  refine x_aload_n (i := 0) 1 rfl dX1_did_0 rfl rfl ?_
  refine q_get (k := 13) 4 rfl dX1_did_1 (by decide) q455 rfl ?_
  refine x_bipush (40 : Int32) 6 rfl dX1_did_4 rfl ?_
  refine x_icmp_ne 34 9 rfl dX1_did_6 rfl h (fun h => ?_) (fun h => ?_)
  · exact xB.le (xle.s (xle.s xle.z)) (x_X1_did_34_ok h)
  · refine x_aload_n (i := 0) 10 rfl dX1_did_9 rfl rfl ?_
    refine q_get (k := 12) 13 rfl dX1_did_10 (by decide) q454 rfl ?_
    refine x_iconst (1 : Int32) 14 rfl dX1_did_13 rfl ?_
    refine x_aload_n (i := 0) 15 rfl dX1_did_14 rfl rfl ?_
    refine q_get (k := 12) 18 rfl dX1_did_15 (by decide) q454 rfl ?_
    refine x_iconst (0 : Int32) 19 rfl dX1_did_18 rfl ?_
    refine x_bipush (39 : Int32) 21 rfl dX1_did_19 rfl ?_
    refine q_ushift 24 rfl dX1_did_21 q707 q709 q708 q139 ⟨Nat.le_of_ble_eq_true rfl, Nat.le_of_ble_eq_true rfl⟩ h (fun r3 h => ?_)
    refine x_aload_n (i := 0) 25 rfl dX1_did_24 rfl rfl ?_
    refine x_dup 26 rfl dX1_did_25 rfl ?_
    refine q_get (k := 13) 29 rfl dX1_did_26 (by decide) q455 rfl ?_
    refine x_iconst (1 : Int32) 30 rfl dX1_did_29 rfl ?_
    refine x_isub 31 rfl dX1_did_30 ?_
    refine q_puti (k := 13) (z := 0) 34 rfl dX1_did_31 (by decide) rfl (Or.inl rfl) rfl q455 h (fun r4 h => ?_)
    exact xB.le (xle.s (xle.s xle.z)) (x_X1_did_34_ok h)
/-! UnimodularTables.setNow(III)V -/
theorem ydX1_setNow : xHd yX1_setNow 3 := by decide +kernel
def x_X1_setNow (a1 : Int32) (a2 : Int32) (a3 : Int32) (r : xR) : Option (xR) := lt (r.1.2.2 0 11) fun p1 => nn p1 fun p2 => dgr xLL r p2 2 2 fun p3 => nn p3 fun p4 => dar xLL r p4 a1 fun p5 => nn p5 fun p6 => dai xLL r p6 a2 fun x7 => dgr xLL r p2 2 2 fun p8 => nn p8 fun p9 => dar xLL r p9 a1 fun p10 => nn p10 fun p11 => daw xLL r p11 a2 a3 fun r12 => cl (x_X1_become ((some (p2))) r12) fun q13 => al xLL q13 (.inr (.inr (6, [(.inr (.inr (some 300)) : xV), (.inr (.inr (some (p2))) : xV), (.inl (a1) : xV), (.inl (a2) : xV), (.inl (x7) : xV)]))) 5 fun p14 r15 => cl (x_X1_did p14 r15) fun q16 => some q16
theorem x_X1_setNow_ct {ms : xS} {rr : xR} {a1 : Int32} {a2 : Int32} {a3 : Int32} {r : xR} (h : x_X1_setNow a1 a2 a3 r = some rr) : xCt xLL yX1_setNow cX1_setNow 6 none 2 3089 [(.inr (.inr (some 300)) : xV), (.inl (a1) : xV), (.inl (a2) : xV), (.inl (a3) : xV)] (ms, r) none (ms, rr) := by
  refine xCt.of (lv := [some (.inr (.inr (some 300)) : xV), some (.inl (a1) : xV), some (.inl (a2) : xV), some (.inl (a3) : xV), none, none]) pl_X1 (Nat.le_of_ble_eq_true rfl) (xle.s (xle.s (xle.s (xle.s (xle.m (xle.m xle.z)))))) ?_
  refine x_aload_n (i := 0) 1 rfl dX1_setNow_0 rfl rfl ?_
  refine q_get (k := 11) 4 rfl dX1_setNow_1 (by decide) q453 rfl ?_
  refine x_ltr h (fun p1 h => ?_)
  refine x_astore 6 rfl dX1_setNow_4 (by decide) (lv' := [some (.inr (.inr (some 300)) : xV), some (.inl (a1) : xV), some (.inl (a2) : xV), some (.inl (a3) : xV), some (.inr (.inr (p1)) : xV), none]) rfl ?_
  refine x_aload (i := 4) 8 rfl dX1_setNow_6 rfl ?_
  refine x_nnP (P := fun p1 => xB xLL yX1_setNow cX1_setNow 6 none 2 3089 8 [some (.inr (.inr (some 300)) : xV), some (.inl (a1) : xV), some (.inl (a2) : xV), some (.inl (a3) : xV), some (.inr (.inr (p1)) : xV), none] [(.inr (.inr (p1)) : xV)] (ms, r) none (ms, rr)) h (fun p2 h => ?_)
  refine d_getrN (ci := 2) (k := 2) (C := RX4) (T := TX4) (N := 3) 11 rfl dX1_setNow_8 rfl in_X4 (by decide) (List.mem_of_getElem? (i := 9) rfl) h (fun p3 h => ?_)
  refine x_iload_n (i := 1) 12 rfl dX1_setNow_11 rfl rfl ?_
  refine x_nnP (P := fun p3 => xB xLL yX1_setNow cX1_setNow 6 none 2 3089 12 [some (.inr (.inr (some 300)) : xV), some (.inl (a1) : xV), some (.inl (a2) : xV), some (.inl (a3) : xV), some (.inr (.inr (some (p2))) : xV), none] [(.inl (a1) : xV), (.inr (.inr (p3)) : xV)] (ms, r) none (ms, rr)) h (fun p4 h => ?_)
  refine d_aald 13 rfl dX1_setNow_12 h (fun p5 h => ?_)
  refine x_iload_n (i := 2) 14 rfl dX1_setNow_13 rfl rfl ?_
  refine x_nnP (P := fun p5 => xB xLL yX1_setNow cX1_setNow 6 none 2 3089 14 [some (.inr (.inr (some 300)) : xV), some (.inl (a1) : xV), some (.inl (a2) : xV), some (.inl (a3) : xV), some (.inr (.inr (some (p2))) : xV), none] [(.inl (a2) : xV), (.inr (.inr (p5)) : xV)] (ms, r) none (ms, rr)) h (fun p6 h => ?_)
  refine d_iald 15 rfl dX1_setNow_14 h (fun x7 h => ?_)
  refine x_istore 17 rfl dX1_setNow_15 (by decide) (lv' := [some (.inr (.inr (some 300)) : xV), some (.inl (a1) : xV), some (.inl (a2) : xV), some (.inl (a3) : xV), some (.inr (.inr (some (p2))) : xV), some (.inl (x7) : xV)]) rfl ?_
  refine x_aload (i := 4) 19 rfl dX1_setNow_17 rfl ?_
  refine d_getrN (ci := 2) (k := 2) (C := RX4) (T := TX4) (N := 3) 22 rfl dX1_setNow_19 rfl in_X4 (by decide) (List.mem_of_getElem? (i := 9) rfl) h (fun p8 h => ?_)
  refine x_iload_n (i := 1) 23 rfl dX1_setNow_22 rfl rfl ?_
  refine x_nnP (P := fun p8 => xB xLL yX1_setNow cX1_setNow 6 none 2 3089 23 [some (.inr (.inr (some 300)) : xV), some (.inl (a1) : xV), some (.inl (a2) : xV), some (.inl (a3) : xV), some (.inr (.inr (some (p2))) : xV), some (.inl (x7) : xV)] [(.inl (a1) : xV), (.inr (.inr (p8)) : xV)] (ms, r) none (ms, rr)) h (fun p9 h => ?_)
  refine d_aald 24 rfl dX1_setNow_23 h (fun p10 h => ?_)
  refine x_iload_n (i := 2) 25 rfl dX1_setNow_24 rfl rfl ?_
  refine x_iload_n (i := 3) 26 rfl dX1_setNow_25 rfl rfl ?_
  refine x_nnP (P := fun p10 => xB xLL yX1_setNow cX1_setNow 6 none 2 3089 26 [some (.inr (.inr (some 300)) : xV), some (.inl (a1) : xV), some (.inl (a2) : xV), some (.inl (a3) : xV), some (.inr (.inr (some (p2))) : xV), some (.inl (x7) : xV)] [(.inl (a3) : xV), (.inl (a2) : xV), (.inr (.inr (p10)) : xV)] (ms, r) none (ms, rr)) h (fun p11 h => ?_)
  refine d_iast 27 rfl dX1_setNow_26 h (fun r12 h => ?_)
  refine x_aload_n (i := 0) 28 rfl dX1_setNow_27 rfl rfl ?_
  refine x_aload (i := 4) 30 rfl dX1_setNow_28 rfl ?_
  refine x_cl h (fun q13 hq h => ?_)
  refine x_callV (as := [(.inr (.inr (some (p2))) : xV)]) (rest := []) (vv := none) (w2 := (ms, q13)) (C := RX1) (T := TX1) (N := 34) 33 rfl dX1_setNow_30 (x_X1_become_ct hq) (Or.inl xcell_X0) rfl (lw_V q675 q677 qs11 q118 q678) rfl ydX1_become rfl ⟨Nat.le_of_ble_eq_true rfl, Nat.le_of_ble_eq_true rfl⟩ (Nat.le_of_ble_eq_true rfl) rfl ?_
  change xB xLL yX1_setNow cX1_setNow 6 none 2 3089 33 [some (.inr (.inr (some 300)) : xV), some (.inl (a1) : xV), some (.inl (a2) : xV), some (.inl (a3) : xV), some (.inr (.inr (some (p2))) : xV), some (.inl (x7) : xV)] [] (ms, q13) _ _
  refine x_aload_n (i := 0) 34 rfl dX1_setNow_33 rfl rfl ?_
  refine x_aload_n (i := 0) 35 rfl dX1_setNow_34 rfl rfl ?_
  refine x_aload (i := 4) 37 rfl dX1_setNow_35 rfl ?_
  refine x_iload_n (i := 1) 38 rfl dX1_setNow_37 rfl rfl ?_
  refine x_iload_n (i := 2) 39 rfl dX1_setNow_38 rfl rfl ?_
  refine x_iload (i := 5) 41 rfl dX1_setNow_39 rfl ?_
  refine d_indyM (k := 6) (σ := lms_6) (vals := [(.inr (.inr (some 300)) : xV), (.inr (.inr (some (p2))) : xV), (.inl (a1) : xV), (.inl (a2) : xV), (.inl (x7) : xV)]) [(.inr (.inr (some 300)) : xV)] 46 rfl dX1_setNow_41 (by decide) rfl rfl (List.cons_ne_nil _ _) rfl lml_6 rfl rfl (Nat.le_of_ble_eq_true rfl) rfl h (fun p14 r15 h => ?_)
  refine x_cl h (fun q16 hq h => ?_)
  refine x_callV (as := [(.inr (.inr (some (p14))) : xV)]) (rest := []) (vv := none) (w2 := (ms, q16)) (C := RX1) (T := TX1) (N := 34) 49 rfl dX1_setNow_46 (x_X1_did_ct hq) (Or.inl xcell_X0) rfl (lw_V q703 q705 qs15 q118 q706) rfl ydX1_did rfl ⟨Nat.le_of_ble_eq_true rfl, Nat.le_of_ble_eq_true rfl⟩ (Nat.le_of_ble_eq_true rfl) rfl ?_
  change xB xLL yX1_setNow cX1_setNow 6 none 2 3089 49 [some (.inr (.inr (some 300)) : xV), some (.inl (a1) : xV), some (.inl (a2) : xV), some (.inl (a3) : xV), some (.inr (.inr (some (p2))) : xV), some (.inl (x7) : xV)] [] (ms, q16) _ _
  cases h
  exact x_vret rfl dX1_setNow_49
/-! UnimodularTables.change(III)I -/
theorem ydX1_change : xHd yX1_change 3 := by decide +kernel
def x_X1_change (a1 : Int32) (a2 : Int32) (a3 : Int32) (r : xR) : Option (Int32 × xR) := lt (r.1.2.2 0 11) fun p1 => cl (x_X1_whyNotSet p1 a1 a2 a3 r) fun q2 => cl (x_X1_isRefused q2.1 q2.2) fun q3 => if q3.1 = 0 then lt (q3.2.1.2.2 0 11) fun p4 => nn p4 fun p5 => dgr xLL q3.2 p5 2 2 fun p6 => nn p6 fun p7 => dar xLL q3.2 p7 a1 fun p8 => nn p8 fun p9 => dai xLL q3.2 p9 a2 fun x10 => cl (x_X1_setNow a1 a2 a3 q3.2) fun q11 => some (x10, q11) else some ((-1000000 : Int32), q3.2)
theorem x_X1_change_ct {ms : xS} {rr : Int32 × xR} {a1 : Int32} {a2 : Int32} {a3 : Int32} {r : xR} (h : x_X1_change a1 a2 a3 r = some rr) : xCt xLL yX1_change cX1_change 5 (some .int) 3 3114 [(.inr (.inr (some 300)) : xV), (.inl (a1) : xV), (.inl (a2) : xV), (.inl (a3) : xV)] (ms, r) (some (.inl rr.1)) (ms, rr.2) := by
  refine xCt.of (lv := [some (.inr (.inr (some 300)) : xV), some (.inl (a1) : xV), some (.inl (a2) : xV), some (.inl (a3) : xV), none]) pl_X1 (Nat.le_of_ble_eq_true rfl) (xle.s (xle.s (xle.s (xle.s (xle.m xle.z))))) ?_
  refine x_aload_n (i := 0) 1 rfl dX1_change_0 rfl rfl ?_
  refine x_aload_n (i := 0) 2 rfl dX1_change_1 rfl rfl ?_
  refine q_get (k := 11) 5 rfl dX1_change_2 (by decide) q453 rfl ?_
  refine x_ltr h (fun p1 h => ?_)
  refine x_iload_n (i := 1) 6 rfl dX1_change_5 rfl rfl ?_
  refine x_iload_n (i := 2) 7 rfl dX1_change_6 rfl rfl ?_
  refine x_iload_n (i := 3) 8 rfl dX1_change_7 rfl rfl ?_
  refine x_cl h (fun q2 hq h => ?_)
  refine x_callS (as := [(.inr (.inr (p1)) : xV), (.inl (a1) : xV), (.inl (a2) : xV), (.inl (a3) : xV)]) (rest := [(.inr (.inr (some 300)) : xV)]) (vv := (some (.inl (q2.1) : xV))) (w2 := (ms, q2.2)) 11 rfl dX1_change_8 (x_X1_whyNotSet_ct hq) (lw_S q683 q684 q118 q685) ydX1_whyNotSet rfl ⟨Nat.le_of_ble_eq_true rfl, Nat.le_of_ble_eq_true rfl⟩ (Nat.le_of_ble_eq_true rfl) rfl ?_
  change xB xLL yX1_change cX1_change 5 (some .int) 3 3114 11 [some (.inr (.inr (some 300)) : xV), some (.inl (a1) : xV), some (.inl (a2) : xV), some (.inl (a3) : xV), none] [(.inl (q2.1) : xV), (.inr (.inr (some 300)) : xV)] (ms, q2.2) _ _
  refine x_cl h (fun q3 hq h => ?_)
  refine x_callV (as := [(.inl (q2.1) : xV)]) (rest := []) (vv := (some (.inl (q3.1) : xV))) (w2 := (ms, q3.2)) (C := RX1) (T := TX1) (N := 34) 14 rfl dX1_change_11 (x_X1_isRefused_ct hq) (Or.inl xcell_X0) rfl (lw_V q692 q694 qs12 q118 q695) rfl ydX1_isRefused rfl ⟨Nat.le_of_ble_eq_true rfl, Nat.le_of_ble_eq_true rfl⟩ (Nat.le_of_ble_eq_true rfl) rfl ?_
  change xB xLL yX1_change cX1_change 5 (some .int) 3 3114 14 [some (.inr (.inr (some 300)) : xV), some (.inl (a1) : xV), some (.inl (a2) : xV), some (.inl (a3) : xV), none] [(.inl (q3.1) : xV)] (ms, q3.2) _ _
  refine x_if_eq 20 17 rfl dX1_change_14 rfl h (fun h => ?_) (fun h => ?_)
  · refine x_aload_n (i := 0) 21 rfl dX1_change_20 rfl rfl ?_
    refine q_get (k := 11) 24 rfl dX1_change_21 (by decide) q453 rfl ?_
    refine x_ltr h (fun p4 h => ?_)
    refine x_nnP (P := fun p4 => xB xLL yX1_change cX1_change 5 (some .int) 3 3114 24 [some (.inr (.inr (some 300)) : xV), some (.inl (a1) : xV), some (.inl (a2) : xV), some (.inl (a3) : xV), none] [(.inr (.inr (p4)) : xV)] (ms, q3.2) (some (.inl rr.1)) (ms, rr.2)) h (fun p5 h => ?_)
    refine d_getrN (ci := 2) (k := 2) (C := RX4) (T := TX4) (N := 3) 27 rfl dX1_change_24 rfl in_X4 (by decide) (List.mem_of_getElem? (i := 9) rfl) h (fun p6 h => ?_)
    refine x_iload_n (i := 1) 28 rfl dX1_change_27 rfl rfl ?_
    refine x_nnP (P := fun p6 => xB xLL yX1_change cX1_change 5 (some .int) 3 3114 28 [some (.inr (.inr (some 300)) : xV), some (.inl (a1) : xV), some (.inl (a2) : xV), some (.inl (a3) : xV), none] [(.inl (a1) : xV), (.inr (.inr (p6)) : xV)] (ms, q3.2) (some (.inl rr.1)) (ms, rr.2)) h (fun p7 h => ?_)
    refine d_aald 29 rfl dX1_change_28 h (fun p8 h => ?_)
    refine x_iload_n (i := 2) 30 rfl dX1_change_29 rfl rfl ?_
    refine x_nnP (P := fun p8 => xB xLL yX1_change cX1_change 5 (some .int) 3 3114 30 [some (.inr (.inr (some 300)) : xV), some (.inl (a1) : xV), some (.inl (a2) : xV), some (.inl (a3) : xV), none] [(.inl (a2) : xV), (.inr (.inr (p8)) : xV)] (ms, q3.2) (some (.inl rr.1)) (ms, rr.2)) h (fun p9 h => ?_)
    refine d_iald 31 rfl dX1_change_30 h (fun x10 h => ?_)
    refine x_istore 33 rfl dX1_change_31 (by decide) (lv' := [some (.inr (.inr (some 300)) : xV), some (.inl (a1) : xV), some (.inl (a2) : xV), some (.inl (a3) : xV), some (.inl (x10) : xV)]) rfl ?_
    refine x_aload_n (i := 0) 34 rfl dX1_change_33 rfl rfl ?_
    refine x_iload_n (i := 1) 35 rfl dX1_change_34 rfl rfl ?_
    refine x_iload_n (i := 2) 36 rfl dX1_change_35 rfl rfl ?_
    refine x_iload_n (i := 3) 37 rfl dX1_change_36 rfl rfl ?_
    refine x_cl h (fun q11 hq h => ?_)
    refine x_callV (as := [(.inl (a1) : xV), (.inl (a2) : xV), (.inl (a3) : xV)]) (rest := []) (vv := none) (w2 := (ms, q11)) (C := RX1) (T := TX1) (N := 34) 40 rfl dX1_change_37 (x_X1_setNow_ct hq) (Or.inl xcell_X0) rfl (lw_V q696 q698 qs13 q118 q699) rfl ydX1_setNow rfl ⟨Nat.le_of_ble_eq_true rfl, Nat.le_of_ble_eq_true rfl⟩ (Nat.le_of_ble_eq_true rfl) rfl ?_
    change xB xLL yX1_change cX1_change 5 (some .int) 3 3114 40 [some (.inr (.inr (some 300)) : xV), some (.inl (a1) : xV), some (.inl (a2) : xV), some (.inl (a3) : xV), some (.inl (x10) : xV)] [] (ms, q11) _ _
    refine x_iload (i := 4) 42 rfl dX1_change_40 rfl ?_
    cases h
    exact x_iret rfl dX1_change_42
  · refine x_ldc 19 rfl dX1_change_17 q657 ?_
    cases h
    exact x_iret rfl dX1_change_19
/-! UnimodularTables.lambda$setNow$2(LUnimodularTables$Table;III)V -/
theorem ydX1_lambda_setNow_2 : xHd yX1_lambda_setNow_2 4 := by decide +kernel
def x_X1_lambda_setNow_2 (a1 : Nat) (a2 : Int32) (a3 : Int32) (a4 : Int32) (r : xR) : Option (xR) := dgr xLL r a1 2 2 fun p1 => nn p1 fun p2 => dar xLL r p2 a2 fun p3 => nn p3 fun p4 => daw xLL r p4 a3 a4 fun r5 => cl (x_X1_become ((some (a1))) r5) fun q6 => some q6
theorem x_X1_lambda_setNow_2_ct {ms : xS} {rr : xR} {a1 : Nat} {a2 : Int32} {a3 : Int32} {a4 : Int32} {r : xR} (h : x_X1_lambda_setNow_2 a1 a2 a3 a4 r = some rr) : xCt xLL yX1_lambda_setNow_2 cX1_lambda_setNow_2 5 none 1 21 [(.inr (.inr (some 300)) : xV), (.inr (.inr (some (a1))) : xV), (.inl (a2) : xV), (.inl (a3) : xV), (.inl (a4) : xV)] (ms, r) none (ms, rr) := by
  refine xCt.of (lv := [some (.inr (.inr (some 300)) : xV), some (.inr (.inr (some (a1))) : xV), some (.inl (a2) : xV), some (.inl (a3) : xV), some (.inl (a4) : xV)]) pl_X1 (Nat.le_of_ble_eq_true rfl) (xle.s (xle.s (xle.s (xle.s (xle.s xle.z))))) ?_
  refine x_aload_n (i := 1) 1 rfl dX1_lambda_setNow_2_0 rfl rfl ?_
  refine d_getrN (ci := 2) (k := 2) (C := RX4) (T := TX4) (N := 3) 4 rfl dX1_lambda_setNow_2_1 rfl in_X4 (by decide) (List.mem_of_getElem? (i := 9) rfl) h (fun p1 h => ?_)
  refine x_iload_n (i := 2) 5 rfl dX1_lambda_setNow_2_4 rfl rfl ?_
  refine x_nnP (P := fun p1 => xB xLL yX1_lambda_setNow_2 cX1_lambda_setNow_2 5 none 1 21 5 [some (.inr (.inr (some 300)) : xV), some (.inr (.inr (some (a1))) : xV), some (.inl (a2) : xV), some (.inl (a3) : xV), some (.inl (a4) : xV)] [(.inl (a2) : xV), (.inr (.inr (p1)) : xV)] (ms, r) none (ms, rr)) h (fun p2 h => ?_)
  refine d_aald 6 rfl dX1_lambda_setNow_2_5 h (fun p3 h => ?_)
  refine x_iload_n (i := 3) 7 rfl dX1_lambda_setNow_2_6 rfl rfl ?_
  refine x_iload (i := 4) 9 rfl dX1_lambda_setNow_2_7 rfl ?_
  refine x_nnP (P := fun p3 => xB xLL yX1_lambda_setNow_2 cX1_lambda_setNow_2 5 none 1 21 9 [some (.inr (.inr (some 300)) : xV), some (.inr (.inr (some (a1))) : xV), some (.inl (a2) : xV), some (.inl (a3) : xV), some (.inl (a4) : xV)] [(.inl (a4) : xV), (.inl (a3) : xV), (.inr (.inr (p3)) : xV)] (ms, r) none (ms, rr)) h (fun p4 h => ?_)
  refine d_iast 10 rfl dX1_lambda_setNow_2_9 h (fun r5 h => ?_)
  refine x_aload_n (i := 0) 11 rfl dX1_lambda_setNow_2_10 rfl rfl ?_
  refine x_aload_n (i := 1) 12 rfl dX1_lambda_setNow_2_11 rfl rfl ?_
  refine x_cl h (fun q6 hq h => ?_)
  refine x_callV (as := [(.inr (.inr (some (a1))) : xV)]) (rest := []) (vv := none) (w2 := (ms, q6)) (C := RX1) (T := TX1) (N := 34) 15 rfl dX1_lambda_setNow_2_12 (x_X1_become_ct hq) (Or.inl xcell_X0) rfl (lw_V q675 q677 qs11 q118 q678) rfl ydX1_become rfl ⟨Nat.le_of_ble_eq_true rfl, Nat.le_of_ble_eq_true rfl⟩ (Nat.le_of_ble_eq_true rfl) rfl ?_
  change xB xLL yX1_lambda_setNow_2 cX1_lambda_setNow_2 5 none 1 21 15 [some (.inr (.inr (some 300)) : xV), some (.inr (.inr (some (a1))) : xV), some (.inl (a2) : xV), some (.inl (a3) : xV), some (.inl (a4) : xV)] [] (ms, q6) _ _
  cases h
  exact x_vret rfl dX1_lambda_setNow_2_15
/-! UnimodularTables.areThere(LUnimodularTables$Table;III)Z -/
theorem ydX1_areThere : xHd yX1_areThere 4 := by decide +kernel
def x_X1_areThere_136 (a1 : Int32) (r : xR) : Option (Int32 × xR) := if a1 = (5 : Int32) then some ((1 : Int32), r) else some ((0 : Int32), r)
theorem x_X1_areThere_136_ok {ms : xS} {rr : Int32 × xR} {a1 : Int32} {r : xR} (h : x_X1_areThere_136  a1 r = some rr) : xB xLL yX1_areThere cX1_areThere 4 (some .boolean) 2 43 136 [none, some (.inl (a1) : xV), none, none] [] (ms, r) (some (.inl rr.1)) (ms, rr.2) := by
  refine x_iload_n (i := 1) 137 rfl dX1_areThere_136 rfl rfl ?_
  refine x_iconst (5 : Int32) 138 rfl dX1_areThere_137 rfl ?_
  refine x_icmp_ne 145 141 rfl dX1_areThere_138 rfl h (fun h => ?_) (fun h => ?_)
  · refine x_iconst (0 : Int32) 146 rfl dX1_areThere_145 rfl ?_
    cases h
    exact x_zret rfl (Or.inl rfl) dX1_areThere_146
  · refine x_iconst (1 : Int32) 142 rfl dX1_areThere_141 rfl ?_
    refine x_goto 146 dX1_areThere_142 rfl ?_
    cases h
    exact x_zret rfl (Or.inr rfl) dX1_areThere_146
def x_X1_areThere_132 (r : xR) : Option (Int32 × xR) := some ((0 : Int32), r)
theorem x_X1_areThere_132_ok {ms : xS} {rr : Int32 × xR} {r : xR} (h : x_X1_areThere_132  r = some rr) : xB xLL yX1_areThere cX1_areThere 4 (some .boolean) 2 43 132 [none, none, none, none] [] (ms, r) (some (.inl rr.1)) (ms, rr.2) := by
  refine x_iconst (0 : Int32) 133 rfl dX1_areThere_132 rfl ?_
  refine x_goto 146 dX1_areThere_133 rfl ?_
  cases h
  exact x_zret rfl (Or.inl rfl) dX1_areThere_146
def x_X1_areThere_108 (r : xR) : Option (Int32 × xR) := some ((0 : Int32), r)
theorem x_X1_areThere_108_ok {ms : xS} {rr : Int32 × xR} {r : xR} (h : x_X1_areThere_108  r = some rr) : xB xLL yX1_areThere cX1_areThere 4 (some .boolean) 2 43 108 [none, none, none, none] [] (ms, r) (some (.inl rr.1)) (ms, rr.2) := by
  refine x_iconst (0 : Int32) 109 rfl dX1_areThere_108 rfl ?_
  refine x_goto 146 dX1_areThere_109 rfl ?_
  cases h
  exact x_zret rfl (Or.inl rfl) dX1_areThere_146
def x_X1_areThere_84 (r : xR) : Option (Int32 × xR) := some ((0 : Int32), r)
theorem x_X1_areThere_84_ok {ms : xS} {rr : Int32 × xR} {r : xR} (h : x_X1_areThere_84  r = some rr) : xB xLL yX1_areThere cX1_areThere 4 (some .boolean) 2 43 84 [none, none, none, none] [] (ms, r) (some (.inl rr.1)) (ms, rr.2) := by
  refine x_iconst (0 : Int32) 85 rfl dX1_areThere_84 rfl ?_
  refine x_goto 146 dX1_areThere_85 rfl ?_
  cases h
  exact x_zret rfl (Or.inl rfl) dX1_areThere_146
def x_X1_areThere_56 (a0 : Nat) (a2 : Int32) (r : xR) : Option (Int32 × xR) := cl (x_X1_isColumn a0 a2 r) fun q1 => zb q1.1 (some (q1.1, q1.2))
theorem x_X1_areThere_56_ok {ms : xS} {rr : Int32 × xR} {a0 : Nat} {a2 : Int32} {r : xR} (h : x_X1_areThere_56  a0 a2 r = some rr) : xB xLL yX1_areThere cX1_areThere 4 (some .boolean) 2 43 56 [some (.inr (.inr (some (a0))) : xV), none, some (.inl (a2) : xV), none] [] (ms, r) (some (.inl rr.1)) (ms, rr.2) := by
  refine x_aload_n (i := 0) 57 rfl dX1_areThere_56 rfl rfl ?_
  refine x_iload_n (i := 2) 58 rfl dX1_areThere_57 rfl rfl ?_
  refine x_cl h (fun q1 hq h => ?_)
  refine x_callS (as := [(.inr (.inr (some (a0))) : xV), (.inl (a2) : xV)]) (rest := []) (vv := (some (.inl (q1.1) : xV))) (w2 := (ms, q1.2)) 61 rfl dX1_areThere_58 (x_X1_isColumn_ct hq) (lw_S q689 q690 q118 q691) ydX1_isColumn rfl ⟨Nat.le_of_ble_eq_true rfl, Nat.le_of_ble_eq_true rfl⟩ (Nat.le_of_ble_eq_true rfl) rfl ?_
  change xB xLL yX1_areThere cX1_areThere 4 (some .boolean) 2 43 61 [some (.inr (.inr (some (a0))) : xV), none, some (.inl (a2) : xV), none] [(.inl (q1.1) : xV)] (ms, q1.2) _ _
  refine x_goto 146 dX1_areThere_61 rfl ?_
  refine x_zb h (fun hz h => ?_)
  cases h
  exact x_zret rfl hz dX1_areThere_146
def x_X1_areThere_48 (a0 : Nat) (a2 : Int32) (r : xR) : Option (Int32 × xR) := cl (x_X1_isRow a0 a2 r) fun q2 => zb q2.1 (some (q2.1, q2.2))
theorem x_X1_areThere_48_ok {ms : xS} {rr : Int32 × xR} {a0 : Nat} {a2 : Int32} {r : xR} (h : x_X1_areThere_48  a0 a2 r = some rr) : xB xLL yX1_areThere cX1_areThere 4 (some .boolean) 2 43 48 [some (.inr (.inr (some (a0))) : xV), none, some (.inl (a2) : xV), none] [] (ms, r) (some (.inl rr.1)) (ms, rr.2) := by
  refine x_aload_n (i := 0) 49 rfl dX1_areThere_48 rfl rfl ?_
  refine x_iload_n (i := 2) 50 rfl dX1_areThere_49 rfl rfl ?_
  refine x_cl h (fun q2 hq h => ?_)
  refine x_callS (as := [(.inr (.inr (some (a0))) : xV), (.inl (a2) : xV)]) (rest := []) (vv := (some (.inl (q2.1) : xV))) (w2 := (ms, q2.2)) 53 rfl dX1_areThere_50 (x_X1_isRow_ct hq) (lw_S q686 q687 q118 q688) ydX1_isRow rfl ⟨Nat.le_of_ble_eq_true rfl, Nat.le_of_ble_eq_true rfl⟩ (Nat.le_of_ble_eq_true rfl) rfl ?_
  change xB xLL yX1_areThere cX1_areThere 4 (some .boolean) 2 43 53 [some (.inr (.inr (some (a0))) : xV), none, some (.inl (a2) : xV), none] [(.inl (q2.1) : xV)] (ms, q2.2) _ _
  refine x_goto 146 dX1_areThere_53 rfl ?_
  refine x_zb h (fun hz h => ?_)
  cases h
  exact x_zret rfl hz dX1_areThere_146
def x_X1_areThere (a0 : Nat) (a1 : Int32) (a2 : Int32) (a3 : Int32) (r : xR) : Option (Int32 × xR) := if a1 = (0 : Int32) then x_X1_areThere_48 a0 a2 r else if a1 = (1 : Int32) then x_X1_areThere_56 a0 a2 r else if a1 = (2 : Int32) then cl (x_X1_isRow a0 a2 r) fun q3 => if q3.1 = 0 then x_X1_areThere_84 q3.2 else cl (x_X1_isRow a0 a3 q3.2) fun q4 => if q4.1 = 0 then x_X1_areThere_84 q4.2 else some ((1 : Int32), q4.2) else if a1 = (3 : Int32) then cl (x_X1_isColumn a0 a2 r) fun q5 => if q5.1 = 0 then x_X1_areThere_108 q5.2 else cl (x_X1_isColumn a0 a3 q5.2) fun q6 => if q6.1 = 0 then x_X1_areThere_108 q6.2 else some ((1 : Int32), q6.2) else if a1 = (4 : Int32) then cl (x_X1_isRow a0 a2 r) fun q7 => if q7.1 = 0 then x_X1_areThere_132 q7.2 else cl (x_X1_isColumn a0 a3 q7.2) fun q8 => if q8.1 = 0 then x_X1_areThere_132 q8.2 else some ((1 : Int32), q8.2) else if a1 = (5 : Int32) then x_X1_areThere_136 (5 : Int32) r else if a1 = (6 : Int32) then x_X1_areThere_48 a0 a2 r else if a1 = (7 : Int32) then x_X1_areThere_56 a0 a2 r else x_X1_areThere_136 a1 r
theorem x_X1_areThere_ct {ms : xS} {rr : Int32 × xR} {a0 : Nat} {a1 : Int32} {a2 : Int32} {a3 : Int32} {r : xR} (h : x_X1_areThere a0 a1 a2 a3 r = some rr) : xCt xLL yX1_areThere cX1_areThere 4 (some .boolean) 2 43 [(.inr (.inr (some (a0))) : xV), (.inl (a1) : xV), (.inl (a2) : xV), (.inl (a3) : xV)] (ms, r) (some (.inl rr.1)) (ms, rr.2) := by
  refine xCt.of (lv := [some (.inr (.inr (some (a0))) : xV), some (.inl (a1) : xV), some (.inl (a2) : xV), some (.inl (a3) : xV)]) pl_X1 (Nat.le_of_ble_eq_true rfl) (xle.s (xle.s (xle.s (xle.s xle.z)))) ?_
  refine x_iload_n (i := 1) 1 rfl dX1_areThere_0 rfl rfl ?_
  refine x_sw (0 : Int32) h (fun hc hh => ?_) (fun hc0 h => ?_)
  · subst hc
    replace h := hh
    refine x_table 48 dX1_areThere_1 (by decide) (by decide) rfl rfl ?_
    exact xB.le (xle.s (xle.n (xle.s (xle.n xle.z)))) (x_X1_areThere_48_ok h)
  · refine x_sw (1 : Int32) h (fun hc hh => ?_) (fun hc1 h => ?_)
    · subst hc
      replace h := hh
      refine x_table 56 dX1_areThere_1 (by decide) (by decide) rfl rfl ?_
      exact xB.le (xle.s (xle.n (xle.s (xle.n xle.z)))) (x_X1_areThere_56_ok h)
    · refine x_sw (2 : Int32) h (fun hc hh => ?_) (fun hc2 h => ?_)
      · subst hc
        replace h := hh
        refine x_table 64 dX1_areThere_1 (by decide) (by decide) rfl rfl ?_
        refine x_aload_n (i := 0) 65 rfl dX1_areThere_64 rfl rfl ?_
        refine x_iload_n (i := 2) 66 rfl dX1_areThere_65 rfl rfl ?_
        refine x_cl h (fun q3 hq h => ?_)
        refine x_callS (as := [(.inr (.inr (some (a0))) : xV), (.inl (a2) : xV)]) (rest := []) (vv := (some (.inl (q3.1) : xV))) (w2 := (ms, q3.2)) 69 rfl dX1_areThere_66 (x_X1_isRow_ct hq) (lw_S q686 q687 q118 q688) ydX1_isRow rfl ⟨Nat.le_of_ble_eq_true rfl, Nat.le_of_ble_eq_true rfl⟩ (Nat.le_of_ble_eq_true rfl) rfl ?_
        change xB xLL yX1_areThere cX1_areThere 4 (some .boolean) 2 43 69 [some (.inr (.inr (some (a0))) : xV), some (.inl ((2 : Int32)) : xV), some (.inl (a2) : xV), some (.inl (a3) : xV)] [(.inl (q3.1) : xV)] (ms, q3.2) _ _
        refine x_if_eq 84 72 rfl dX1_areThere_69 rfl h (fun h => ?_) (fun h => ?_)
        · exact xB.le (xle.n (xle.n (xle.n (xle.n xle.z)))) (x_X1_areThere_84_ok h)
        · refine x_aload_n (i := 0) 73 rfl dX1_areThere_72 rfl rfl ?_
          refine x_iload_n (i := 3) 74 rfl dX1_areThere_73 rfl rfl ?_
          refine x_cl h (fun q4 hq h => ?_)
          refine x_callS (as := [(.inr (.inr (some (a0))) : xV), (.inl (a3) : xV)]) (rest := []) (vv := (some (.inl (q4.1) : xV))) (w2 := (ms, q4.2)) 77 rfl dX1_areThere_74 (x_X1_isRow_ct hq) (lw_S q686 q687 q118 q688) ydX1_isRow rfl ⟨Nat.le_of_ble_eq_true rfl, Nat.le_of_ble_eq_true rfl⟩ (Nat.le_of_ble_eq_true rfl) rfl ?_
          change xB xLL yX1_areThere cX1_areThere 4 (some .boolean) 2 43 77 [some (.inr (.inr (some (a0))) : xV), some (.inl ((2 : Int32)) : xV), some (.inl (a2) : xV), some (.inl (a3) : xV)] [(.inl (q4.1) : xV)] (ms, q4.2) _ _
          refine x_if_eq 84 80 rfl dX1_areThere_77 rfl h (fun h => ?_) (fun h => ?_)
          · exact xB.le (xle.n (xle.n (xle.n (xle.n xle.z)))) (x_X1_areThere_84_ok h)
          · refine x_iconst (1 : Int32) 81 rfl dX1_areThere_80 rfl ?_
            refine x_goto 146 dX1_areThere_81 rfl ?_
            cases h
            exact x_zret rfl (Or.inr rfl) dX1_areThere_146
      · refine x_sw (3 : Int32) h (fun hc hh => ?_) (fun hc3 h => ?_)
        · subst hc
          replace h := hh
          refine x_table 88 dX1_areThere_1 (by decide) (by decide) rfl rfl ?_
          refine x_aload_n (i := 0) 89 rfl dX1_areThere_88 rfl rfl ?_
          refine x_iload_n (i := 2) 90 rfl dX1_areThere_89 rfl rfl ?_
          refine x_cl h (fun q5 hq h => ?_)
          refine x_callS (as := [(.inr (.inr (some (a0))) : xV), (.inl (a2) : xV)]) (rest := []) (vv := (some (.inl (q5.1) : xV))) (w2 := (ms, q5.2)) 93 rfl dX1_areThere_90 (x_X1_isColumn_ct hq) (lw_S q689 q690 q118 q691) ydX1_isColumn rfl ⟨Nat.le_of_ble_eq_true rfl, Nat.le_of_ble_eq_true rfl⟩ (Nat.le_of_ble_eq_true rfl) rfl ?_
          change xB xLL yX1_areThere cX1_areThere 4 (some .boolean) 2 43 93 [some (.inr (.inr (some (a0))) : xV), some (.inl ((3 : Int32)) : xV), some (.inl (a2) : xV), some (.inl (a3) : xV)] [(.inl (q5.1) : xV)] (ms, q5.2) _ _
          refine x_if_eq 108 96 rfl dX1_areThere_93 rfl h (fun h => ?_) (fun h => ?_)
          · exact xB.le (xle.n (xle.n (xle.n (xle.n xle.z)))) (x_X1_areThere_108_ok h)
          · refine x_aload_n (i := 0) 97 rfl dX1_areThere_96 rfl rfl ?_
            refine x_iload_n (i := 3) 98 rfl dX1_areThere_97 rfl rfl ?_
            refine x_cl h (fun q6 hq h => ?_)
            refine x_callS (as := [(.inr (.inr (some (a0))) : xV), (.inl (a3) : xV)]) (rest := []) (vv := (some (.inl (q6.1) : xV))) (w2 := (ms, q6.2)) 101 rfl dX1_areThere_98 (x_X1_isColumn_ct hq) (lw_S q689 q690 q118 q691) ydX1_isColumn rfl ⟨Nat.le_of_ble_eq_true rfl, Nat.le_of_ble_eq_true rfl⟩ (Nat.le_of_ble_eq_true rfl) rfl ?_
            change xB xLL yX1_areThere cX1_areThere 4 (some .boolean) 2 43 101 [some (.inr (.inr (some (a0))) : xV), some (.inl ((3 : Int32)) : xV), some (.inl (a2) : xV), some (.inl (a3) : xV)] [(.inl (q6.1) : xV)] (ms, q6.2) _ _
            refine x_if_eq 108 104 rfl dX1_areThere_101 rfl h (fun h => ?_) (fun h => ?_)
            · exact xB.le (xle.n (xle.n (xle.n (xle.n xle.z)))) (x_X1_areThere_108_ok h)
            · refine x_iconst (1 : Int32) 105 rfl dX1_areThere_104 rfl ?_
              refine x_goto 146 dX1_areThere_105 rfl ?_
              cases h
              exact x_zret rfl (Or.inr rfl) dX1_areThere_146
        · refine x_sw (4 : Int32) h (fun hc hh => ?_) (fun hc4 h => ?_)
          · subst hc
            replace h := hh
            refine x_table 112 dX1_areThere_1 (by decide) (by decide) rfl rfl ?_
            refine x_aload_n (i := 0) 113 rfl dX1_areThere_112 rfl rfl ?_
            refine x_iload_n (i := 2) 114 rfl dX1_areThere_113 rfl rfl ?_
            refine x_cl h (fun q7 hq h => ?_)
            refine x_callS (as := [(.inr (.inr (some (a0))) : xV), (.inl (a2) : xV)]) (rest := []) (vv := (some (.inl (q7.1) : xV))) (w2 := (ms, q7.2)) 117 rfl dX1_areThere_114 (x_X1_isRow_ct hq) (lw_S q686 q687 q118 q688) ydX1_isRow rfl ⟨Nat.le_of_ble_eq_true rfl, Nat.le_of_ble_eq_true rfl⟩ (Nat.le_of_ble_eq_true rfl) rfl ?_
            change xB xLL yX1_areThere cX1_areThere 4 (some .boolean) 2 43 117 [some (.inr (.inr (some (a0))) : xV), some (.inl ((4 : Int32)) : xV), some (.inl (a2) : xV), some (.inl (a3) : xV)] [(.inl (q7.1) : xV)] (ms, q7.2) _ _
            refine x_if_eq 132 120 rfl dX1_areThere_117 rfl h (fun h => ?_) (fun h => ?_)
            · exact xB.le (xle.n (xle.n (xle.n (xle.n xle.z)))) (x_X1_areThere_132_ok h)
            · refine x_aload_n (i := 0) 121 rfl dX1_areThere_120 rfl rfl ?_
              refine x_iload_n (i := 3) 122 rfl dX1_areThere_121 rfl rfl ?_
              refine x_cl h (fun q8 hq h => ?_)
              refine x_callS (as := [(.inr (.inr (some (a0))) : xV), (.inl (a3) : xV)]) (rest := []) (vv := (some (.inl (q8.1) : xV))) (w2 := (ms, q8.2)) 125 rfl dX1_areThere_122 (x_X1_isColumn_ct hq) (lw_S q689 q690 q118 q691) ydX1_isColumn rfl ⟨Nat.le_of_ble_eq_true rfl, Nat.le_of_ble_eq_true rfl⟩ (Nat.le_of_ble_eq_true rfl) rfl ?_
              change xB xLL yX1_areThere cX1_areThere 4 (some .boolean) 2 43 125 [some (.inr (.inr (some (a0))) : xV), some (.inl ((4 : Int32)) : xV), some (.inl (a2) : xV), some (.inl (a3) : xV)] [(.inl (q8.1) : xV)] (ms, q8.2) _ _
              refine x_if_eq 132 128 rfl dX1_areThere_125 rfl h (fun h => ?_) (fun h => ?_)
              · exact xB.le (xle.n (xle.n (xle.n (xle.n xle.z)))) (x_X1_areThere_132_ok h)
              · refine x_iconst (1 : Int32) 129 rfl dX1_areThere_128 rfl ?_
                refine x_goto 146 dX1_areThere_129 rfl ?_
                cases h
                exact x_zret rfl (Or.inr rfl) dX1_areThere_146
          · refine x_sw (5 : Int32) h (fun hc hh => ?_) (fun hc5 h => ?_)
            · subst hc
              replace h := hh
              refine x_table 136 dX1_areThere_1 (by decide) (by decide) rfl rfl ?_
              exact xB.le (xle.n (xle.s (xle.n (xle.n xle.z)))) (x_X1_areThere_136_ok h)
            · refine x_sw (6 : Int32) h (fun hc hh => ?_) (fun hc6 h => ?_)
              · subst hc
                replace h := hh
                refine x_table 48 dX1_areThere_1 (by decide) (by decide) rfl rfl ?_
                exact xB.le (xle.s (xle.n (xle.s (xle.n xle.z)))) (x_X1_areThere_48_ok h)
              · refine x_sw (7 : Int32) h (fun hc hh => ?_) (fun hc7 h => ?_)
                · subst hc
                  replace h := hh
                  refine x_table 56 dX1_areThere_1 (by decide) (by decide) rfl rfl ?_
                  exact xB.le (xle.s (xle.n (xle.s (xle.n xle.z)))) (x_X1_areThere_56_ok h)
                · refine x_tableD 136 dX1_areThere_1 (x_out_0_7 hc0 hc1 hc2 hc3 hc4 hc5 hc6 hc7) rfl ?_
                  exact xB.le (xle.n (xle.s (xle.n (xle.n xle.z)))) (x_X1_areThere_136_ok h)
/-! UnimodularTables.isWithin(LUnimodularTables$Table;)Z -/
theorem ydX1_isWithin : xHd yX1_isWithin 1 := by decide +kernel
def x_X1_isWithin_12_s (rec2 : Nat → Int32 → xR → Option (Int32 × xR)) (rec12 : Nat → Int32 → Int32 → xR → Option (Int32 × xR)) (a0 : Nat) (a1 : Int32) (a2 : Int32) (r : xR) : Option (Int32 × xR) := dgi xLL r a0 2 1 fun x1 => if x1 ≤ a2 then lt (a1 + (1 : Int32)) fun x2 => rec2 a0 x2 r else dgr xLL r a0 2 2 fun p3 => nn p3 fun p4 => dar xLL r p4 a1 fun p5 => nn p5 fun p6 => dai xLL r p6 a2 fun x7 => cl (p_X1_in x7 (-1 : Int32) (1 : Int32)) fun q8 => if q8 = 0 then some ((0 : Int32), r) else lt (a2 + (1 : Int32)) fun x9 => rec12 a0 a1 x9 r
theorem x_X1_isWithin_12_s_ok {ms : xS} {rr : Int32 × xR} {rec2 : Nat → Int32 → xR → Option (Int32 × xR)} {rec12 : Nat → Int32 → Int32 → xR → Option (Int32 × xR)} (hr2 : ∀ {a0 : Nat} {a1 : Int32} {r : xR}, rec2 a0 a1 r = some rr → xB xLL yX1_isWithin cX1_isWithin 3 (some .boolean) 1 22 2 [some (.inr (.inr (some (a0))) : xV), some (.inl (a1) : xV), none] [] (ms, r) (some (.inl rr.1)) (ms, rr.2)) (hr12 : ∀ {a0 : Nat} {a1 : Int32} {a2 : Int32} {r : xR}, rec12 a0 a1 a2 r = some rr → xB xLL yX1_isWithin cX1_isWithin 3 (some .boolean) 1 22 12 [some (.inr (.inr (some (a0))) : xV), some (.inl (a1) : xV), some (.inl (a2) : xV)] [] (ms, r) (some (.inl rr.1)) (ms, rr.2)) {a0 : Nat} {a1 : Int32} {a2 : Int32} {r : xR} (h : x_X1_isWithin_12_s rec2 rec12 a0 a1 a2 r = some rr) : xB xLL yX1_isWithin cX1_isWithin 3 (some .boolean) 1 22 12 [some (.inr (.inr (some (a0))) : xV), some (.inl (a1) : xV), some (.inl (a2) : xV)] [] (ms, r) (some (.inl rr.1)) (ms, rr.2) := by
  refine x_iload_n (i := 2) 13 rfl dX1_isWithin_12 rfl rfl ?_
  refine x_aload_n (i := 0) 14 rfl dX1_isWithin_13 rfl rfl ?_
  refine d_getiN (ci := 2) (k := 1) (C := RX4) (T := TX4) (N := 3) 17 rfl dX1_isWithin_14 rfl in_X4 (by decide) (List.mem_of_getElem? (i := 7) rfl) h (fun x1 h => ?_)
  refine x_icmp_ge 44 20 rfl dX1_isWithin_17 rfl h (fun h => ?_) (fun h => ?_)
  · refine x_iincL (i := 1) (1 : Int32) 47 rfl dX1_isWithin_44 rfl rfl (by decide) h (fun x2 h => ?_)
    change xB xLL yX1_isWithin cX1_isWithin 3 (some .boolean) 1 22 47 [some (.inr (.inr (some (a0))) : xV), some (.inl (x2) : xV), some (.inl (a2) : xV)] [] (ms, r) _ _
    refine x_goto 2 dX1_isWithin_47 rfl ?_
    exact xB.le (xle.s (xle.s (xle.n xle.z))) (hr2 h)
  · refine x_aload_n (i := 0) 21 rfl dX1_isWithin_20 rfl rfl ?_
    refine d_getrN (ci := 2) (k := 2) (C := RX4) (T := TX4) (N := 3) 24 rfl dX1_isWithin_21 rfl in_X4 (by decide) (List.mem_of_getElem? (i := 9) rfl) h (fun p3 h => ?_)
    refine x_iload_n (i := 1) 25 rfl dX1_isWithin_24 rfl rfl ?_
    refine x_nnP (P := fun p3 => xB xLL yX1_isWithin cX1_isWithin 3 (some .boolean) 1 22 25 [some (.inr (.inr (some (a0))) : xV), some (.inl (a1) : xV), some (.inl (a2) : xV)] [(.inl (a1) : xV), (.inr (.inr (p3)) : xV)] (ms, r) (some (.inl rr.1)) (ms, rr.2)) h (fun p4 h => ?_)
    refine d_aald 26 rfl dX1_isWithin_25 h (fun p5 h => ?_)
    refine x_iload_n (i := 2) 27 rfl dX1_isWithin_26 rfl rfl ?_
    refine x_nnP (P := fun p5 => xB xLL yX1_isWithin cX1_isWithin 3 (some .boolean) 1 22 27 [some (.inr (.inr (some (a0))) : xV), some (.inl (a1) : xV), some (.inl (a2) : xV)] [(.inl (a2) : xV), (.inr (.inr (p5)) : xV)] (ms, r) (some (.inl rr.1)) (ms, rr.2)) h (fun p6 h => ?_)
    refine d_iald 28 rfl dX1_isWithin_27 h (fun x7 h => ?_)
    refine x_iconst (-1 : Int32) 29 rfl dX1_isWithin_28 rfl ?_
    refine x_iconst (1 : Int32) 30 rfl dX1_isWithin_29 rfl ?_
    refine x_cl h (fun q8 hq h => ?_)
    refine x_callS (as := [(.inl (x7) : xV), (.inl ((-1 : Int32)) : xV), (.inl ((1 : Int32)) : xV)]) (rest := []) (vv := (some (.inl (q8) : xV))) (w2 := (ms, r)) 33 rfl dX1_isWithin_30 (p_X1_in_ct hq) (lw_S q556 q557 q118 q558) ydX1_in rfl ⟨Nat.le_of_ble_eq_true rfl, Nat.le_of_ble_eq_true rfl⟩ (Nat.le_of_ble_eq_true rfl) rfl ?_
    change xB xLL yX1_isWithin cX1_isWithin 3 (some .boolean) 1 22 33 [some (.inr (.inr (some (a0))) : xV), some (.inl (a1) : xV), some (.inl (a2) : xV)] [(.inl (q8) : xV)] (ms, r) _ _
    refine x_if_ne 38 36 rfl dX1_isWithin_33 rfl h (fun h => ?_) (fun h => ?_)
    · refine x_iincL (i := 2) (1 : Int32) 41 rfl dX1_isWithin_38 rfl rfl (by decide) h (fun x9 h => ?_)
      change xB xLL yX1_isWithin cX1_isWithin 3 (some .boolean) 1 22 41 [some (.inr (.inr (some (a0))) : xV), some (.inl (a1) : xV), some (.inl (x9) : xV)] [] (ms, r) _ _
      refine x_goto 12 dX1_isWithin_41 rfl ?_
      exact xB.le (xle.s (xle.s (xle.s xle.z))) (hr12 h)
    · refine x_iconst (0 : Int32) 37 rfl dX1_isWithin_36 rfl ?_
      cases h
      exact x_zret rfl (Or.inl rfl) dX1_isWithin_37
def x_X1_isWithin_12_L (rec2 : Nat → Int32 → xR → Option (Int32 × xR)) : Nat → Nat → Int32 → Int32 → xR → Option (Int32 × xR)
  | 0 => fun _ _ _ _ => none
  | n + 1 => x_X1_isWithin_12_s rec2 (x_X1_isWithin_12_L rec2 n)
theorem x_X1_isWithin_12_L_ok {ms : xS} {rr : Int32 × xR} {rec2 : Nat → Int32 → xR → Option (Int32 × xR)} (hr2 : ∀ {a0 : Nat} {a1 : Int32} {r : xR}, rec2 a0 a1 r = some rr → xB xLL yX1_isWithin cX1_isWithin 3 (some .boolean) 1 22 2 [some (.inr (.inr (some (a0))) : xV), some (.inl (a1) : xV), none] [] (ms, r) (some (.inl rr.1)) (ms, rr.2)) : ∀ (n9 : Nat) {a0 : Nat} {a1 : Int32} {a2 : Int32} {r : xR}, x_X1_isWithin_12_L rec2 n9 a0 a1 a2 r = some rr → xB xLL yX1_isWithin cX1_isWithin 3 (some .boolean) 1 22 12 [some (.inr (.inr (some (a0))) : xV), some (.inl (a1) : xV), some (.inl (a2) : xV)] [] (ms, r) (some (.inl rr.1)) (ms, rr.2)
  | 0, _, _, _, _, h => by cases h
  | n9 + 1, _, _, _, _, h => x_X1_isWithin_12_s_ok hr2 (x_X1_isWithin_12_L_ok hr2 n9) h
def x_X1_isWithin_2_s (rec2 : Nat → Int32 → xR → Option (Int32 × xR)) (a0 : Nat) (a1 : Int32) (r : xR) : Option (Int32 × xR) := dgi xLL r a0 2 0 fun x10 => if x10 ≤ a1 then some ((1 : Int32), r) else lt ((0 : Int32)) fun x11 => x_X1_isWithin_12_L rec2 xFU a0 a1 x11 r
theorem x_X1_isWithin_2_s_ok {ms : xS} {rr : Int32 × xR} {rec2 : Nat → Int32 → xR → Option (Int32 × xR)} (hr2 : ∀ {a0 : Nat} {a1 : Int32} {r : xR}, rec2 a0 a1 r = some rr → xB xLL yX1_isWithin cX1_isWithin 3 (some .boolean) 1 22 2 [some (.inr (.inr (some (a0))) : xV), some (.inl (a1) : xV), none] [] (ms, r) (some (.inl rr.1)) (ms, rr.2)) {a0 : Nat} {a1 : Int32} {r : xR} (h : x_X1_isWithin_2_s rec2 a0 a1 r = some rr) : xB xLL yX1_isWithin cX1_isWithin 3 (some .boolean) 1 22 2 [some (.inr (.inr (some (a0))) : xV), some (.inl (a1) : xV), none] [] (ms, r) (some (.inl rr.1)) (ms, rr.2) := by
  refine x_iload_n (i := 1) 3 rfl dX1_isWithin_2 rfl rfl ?_
  refine x_aload_n (i := 0) 4 rfl dX1_isWithin_3 rfl rfl ?_
  refine d_getiN (ci := 2) (k := 0) (C := RX4) (T := TX4) (N := 3) 7 rfl dX1_isWithin_4 rfl in_X4 (by decide) (List.mem_of_getElem? (i := 5) rfl) h (fun x10 h => ?_)
  refine x_icmp_ge 50 10 rfl dX1_isWithin_7 rfl h (fun h => ?_) (fun h => ?_)
  · refine x_iconst (1 : Int32) 51 rfl dX1_isWithin_50 rfl ?_
    cases h
    exact x_zret rfl (Or.inr rfl) dX1_isWithin_51
  · refine x_iconst (0 : Int32) 11 rfl dX1_isWithin_10 rfl ?_
    refine x_lti h (fun x11 h => ?_)
    refine x_istore_n 12 rfl dX1_isWithin_11 rfl (by decide) (lv' := [some (.inr (.inr (some (a0))) : xV), some (.inl (a1) : xV), some (.inl (x11) : xV)]) rfl ?_
    exact xB.le (xle.s (xle.s (xle.s xle.z))) (x_X1_isWithin_12_L_ok hr2 xFU h)
def x_X1_isWithin_2_L : Nat → Nat → Int32 → xR → Option (Int32 × xR)
  | 0 => fun _ _ _ => none
  | n + 1 => x_X1_isWithin_2_s (x_X1_isWithin_2_L  n)
theorem x_X1_isWithin_2_L_ok {ms : xS} {rr : Int32 × xR} : ∀ (n9 : Nat) {a0 : Nat} {a1 : Int32} {r : xR}, x_X1_isWithin_2_L  n9 a0 a1 r = some rr → xB xLL yX1_isWithin cX1_isWithin 3 (some .boolean) 1 22 2 [some (.inr (.inr (some (a0))) : xV), some (.inl (a1) : xV), none] [] (ms, r) (some (.inl rr.1)) (ms, rr.2)
  | 0, _, _, _, h => by cases h
  | n9 + 1, _, _, _, h => x_X1_isWithin_2_s_ok (x_X1_isWithin_2_L_ok  n9) h
def x_X1_isWithin (a0 : Nat) (r : xR) : Option (Int32 × xR) := lt ((0 : Int32)) fun x12 => x_X1_isWithin_2_L xFU a0 x12 r
theorem x_X1_isWithin_ct {ms : xS} {rr : Int32 × xR} {a0 : Nat} {r : xR} (h : x_X1_isWithin a0 r = some rr) : xCt xLL yX1_isWithin cX1_isWithin 3 (some .boolean) 1 22 [(.inr (.inr (some (a0))) : xV)] (ms, r) (some (.inl rr.1)) (ms, rr.2) := by
  refine xCt.of (lv := [some (.inr (.inr (some (a0))) : xV), none, none]) pl_X1 (Nat.le_of_ble_eq_true rfl) (xle.s (xle.m (xle.m xle.z))) ?_
  refine x_iconst (0 : Int32) 1 rfl dX1_isWithin_0 rfl ?_
  refine x_lti h (fun x12 h => ?_)
  refine x_istore_n 2 rfl dX1_isWithin_1 rfl (by decide) (lv' := [some (.inr (.inr (some (a0))) : xV), some (.inl (x12) : xV), none]) rfl ?_
  exact xB.le (xle.s (xle.s (xle.n xle.z))) (x_X1_isWithin_2_L_ok xFU h)
/-! UnimodularTables.whyNot(LUnimodularTables$Table;III)I -/
theorem ydX1_whyNot : xHd yX1_whyNot 4 := by decide +kernel
def x_X1_whyNot_84 (a1 : Nat) (a2 : Int32) (a3 : Int32) (a4 : Int32) (r : xR) : Option (Int32 × xR) := if a2 = (4 : Int32) then cl (d_X1_turned xLL a1 a3 a4 r) fun q1 => cl (x_X1_isWithin q1.1 q1.2) fun q2 => if q2.1 = 0 then some ((3 : Int32), q2.2) else some ((-1 : Int32), q2.2) else some ((-1 : Int32), r)
theorem x_X1_whyNot_84_ok {ms : xS} {rr : Int32 × xR} {a1 : Nat} {a2 : Int32} {a3 : Int32} {a4 : Int32} {r : xR} (h : x_X1_whyNot_84  a1 a2 a3 a4 r = some rr) : xB xLL yX1_whyNot cX1_whyNot 5 (some .int) 3 70 84 [none, some (.inr (.inr (some (a1))) : xV), some (.inl (a2) : xV), some (.inl (a3) : xV), some (.inl (a4) : xV)] [] (ms, r) (some (.inl rr.1)) (ms, rr.2) := by
  refine x_iload_n (i := 2) 85 rfl dX1_whyNot_84 rfl rfl ?_
  refine x_iconst (4 : Int32) 86 rfl dX1_whyNot_85 rfl ?_
  refine x_icmp_ne 106 89 rfl dX1_whyNot_86 rfl h (fun h => ?_) (fun h => ?_)
  · refine x_iconst (-1 : Int32) 107 rfl dX1_whyNot_106 rfl ?_
    cases h
    exact x_iret rfl dX1_whyNot_107
  · refine x_aload_n (i := 1) 90 rfl dX1_whyNot_89 rfl rfl ?_
    refine x_iload_n (i := 3) 91 rfl dX1_whyNot_90 rfl rfl ?_
    refine x_iload (i := 4) 93 rfl dX1_whyNot_91 rfl ?_
    refine x_cl h (fun q1 hq h => ?_)
    refine x_callS (as := [(.inr (.inr (some (a1))) : xV), (.inl (a3) : xV), (.inl (a4) : xV)]) (rest := []) (vv := (some (.inr (.inr (some (q1.1))) : xV))) (w2 := (ms, q1.2)) 96 rfl dX1_whyNot_93 (d_X1_turned_ct hq) (lw_S q721 q440 q118 q441) ydX1_turned rfl ⟨Nat.le_of_ble_eq_true rfl, Nat.le_of_ble_eq_true rfl⟩ (Nat.le_of_ble_eq_true rfl) rfl ?_
    change xB xLL yX1_whyNot cX1_whyNot 5 (some .int) 3 70 96 [none, some (.inr (.inr (some (a1))) : xV), some (.inl (a2) : xV), some (.inl (a3) : xV), some (.inl (a4) : xV)] [(.inr (.inr (some (q1.1))) : xV)] (ms, q1.2) _ _
    refine x_cl h (fun q2 hq h => ?_)
    refine x_callS (as := [(.inr (.inr (some (q1.1))) : xV)]) (rest := []) (vv := (some (.inl (q2.1) : xV))) (w2 := (ms, q2.2)) 99 rfl dX1_whyNot_96 (x_X1_isWithin_ct hq) (lw_S q722 q723 q118 q724) ydX1_isWithin rfl ⟨Nat.le_of_ble_eq_true rfl, Nat.le_of_ble_eq_true rfl⟩ (Nat.le_of_ble_eq_true rfl) rfl ?_
    change xB xLL yX1_whyNot cX1_whyNot 5 (some .int) 3 70 99 [none, some (.inr (.inr (some (a1))) : xV), some (.inl (a2) : xV), some (.inl (a3) : xV), some (.inl (a4) : xV)] [(.inl (q2.1) : xV)] (ms, q2.2) _ _
    refine x_if_ne 106 102 rfl dX1_whyNot_99 rfl h (fun h => ?_) (fun h => ?_)
    · refine x_iconst (-1 : Int32) 107 rfl dX1_whyNot_106 rfl ?_
      cases h
      exact x_iret rfl dX1_whyNot_107
    · refine x_iconst (3 : Int32) 103 rfl dX1_whyNot_102 rfl ?_
      refine x_goto 107 dX1_whyNot_103 rfl ?_
      cases h
      exact x_iret rfl dX1_whyNot_107
def x_X1_whyNot_68 (a1 : Nat) (a2 : Int32) (a3 : Int32) (a4 : Int32) (r : xR) : Option (Int32 × xR) := if a2 = (7 : Int32) then dgi xLL r a1 2 1 fun x3 => if x3 = (1 : Int32) then some ((3 : Int32), r) else x_X1_whyNot_84 a1 a2 a3 a4 r else x_X1_whyNot_84 a1 a2 a3 a4 r
theorem x_X1_whyNot_68_ok {ms : xS} {rr : Int32 × xR} {a1 : Nat} {a2 : Int32} {a3 : Int32} {a4 : Int32} {r : xR} (h : x_X1_whyNot_68  a1 a2 a3 a4 r = some rr) : xB xLL yX1_whyNot cX1_whyNot 5 (some .int) 3 70 68 [none, some (.inr (.inr (some (a1))) : xV), some (.inl (a2) : xV), some (.inl (a3) : xV), some (.inl (a4) : xV)] [] (ms, r) (some (.inl rr.1)) (ms, rr.2) := by
  refine x_iload_n (i := 2) 69 rfl dX1_whyNot_68 rfl rfl ?_
  refine x_bipush (7 : Int32) 71 rfl dX1_whyNot_69 rfl ?_
  refine x_icmp_ne 84 74 rfl dX1_whyNot_71 rfl h (fun h => ?_) (fun h => ?_)
  · exact xB.le (xle.n (xle.s (xle.s (xle.s (xle.s xle.z))))) (x_X1_whyNot_84_ok h)
  · refine x_aload_n (i := 1) 75 rfl dX1_whyNot_74 rfl rfl ?_
    refine d_getiN (ci := 2) (k := 1) (C := RX4) (T := TX4) (N := 3) 78 rfl dX1_whyNot_75 rfl in_X4 (by decide) (List.mem_of_getElem? (i := 7) rfl) h (fun x3 h => ?_)
    refine x_iconst (1 : Int32) 79 rfl dX1_whyNot_78 rfl ?_
    refine x_icmp_ne 84 82 rfl dX1_whyNot_79 rfl h (fun h => ?_) (fun h => ?_)
    · exact xB.le (xle.n (xle.s (xle.s (xle.s (xle.s xle.z))))) (x_X1_whyNot_84_ok h)
    · refine x_iconst (3 : Int32) 83 rfl dX1_whyNot_82 rfl ?_
      cases h
      exact x_iret rfl dX1_whyNot_83
def x_X1_whyNot_54 (a1 : Nat) (a2 : Int32) (a3 : Int32) (a4 : Int32) (r : xR) : Option (Int32 × xR) := if a2 = (6 : Int32) then dgi xLL r a1 2 0 fun x4 => if x4 = (1 : Int32) then some ((3 : Int32), r) else x_X1_whyNot_68 a1 a2 a3 a4 r else x_X1_whyNot_68 a1 a2 a3 a4 r
theorem x_X1_whyNot_54_ok {ms : xS} {rr : Int32 × xR} {a1 : Nat} {a2 : Int32} {a3 : Int32} {a4 : Int32} {r : xR} (h : x_X1_whyNot_54  a1 a2 a3 a4 r = some rr) : xB xLL yX1_whyNot cX1_whyNot 5 (some .int) 3 70 54 [none, some (.inr (.inr (some (a1))) : xV), some (.inl (a2) : xV), some (.inl (a3) : xV), some (.inl (a4) : xV)] [] (ms, r) (some (.inl rr.1)) (ms, rr.2) := by
  refine x_iload_n (i := 2) 55 rfl dX1_whyNot_54 rfl rfl ?_
  refine x_bipush (6 : Int32) 57 rfl dX1_whyNot_55 rfl ?_
  refine x_icmp_ne 68 60 rfl dX1_whyNot_57 rfl h (fun h => ?_) (fun h => ?_)
  · exact xB.le (xle.n (xle.s (xle.s (xle.s (xle.s xle.z))))) (x_X1_whyNot_68_ok h)
  · refine x_aload_n (i := 1) 61 rfl dX1_whyNot_60 rfl rfl ?_
    refine d_getiN (ci := 2) (k := 0) (C := RX4) (T := TX4) (N := 3) 64 rfl dX1_whyNot_61 rfl in_X4 (by decide) (List.mem_of_getElem? (i := 5) rfl) h (fun x4 h => ?_)
    refine x_iconst (1 : Int32) 65 rfl dX1_whyNot_64 rfl ?_
    refine x_icmp_eq 82 68 rfl dX1_whyNot_65 rfl h (fun h => ?_) (fun h => ?_)
    · refine x_iconst (3 : Int32) 83 rfl dX1_whyNot_82 rfl ?_
      cases h
      exact x_iret rfl dX1_whyNot_83
    · exact xB.le (xle.n (xle.s (xle.s (xle.s (xle.s xle.z))))) (x_X1_whyNot_68_ok h)
def x_X1_whyNot_35 (a1 : Nat) (a2 : Int32) (a3 : Int32) (a4 : Int32) (r : xR) : Option (Int32 × xR) := if a2 = (4 : Int32) then dgr xLL r a1 2 2 fun p5 => nn p5 fun p6 => dar xLL r p6 a3 fun p7 => nn p7 fun p8 => dai xLL r p8 a4 fun x9 => if x9 = 0 then some ((2 : Int32), r) else x_X1_whyNot_54 a1 a2 a3 a4 r else x_X1_whyNot_54 a1 a2 a3 a4 r
theorem x_X1_whyNot_35_ok {ms : xS} {rr : Int32 × xR} {a1 : Nat} {a2 : Int32} {a3 : Int32} {a4 : Int32} {r : xR} (h : x_X1_whyNot_35  a1 a2 a3 a4 r = some rr) : xB xLL yX1_whyNot cX1_whyNot 5 (some .int) 3 70 35 [none, some (.inr (.inr (some (a1))) : xV), some (.inl (a2) : xV), some (.inl (a3) : xV), some (.inl (a4) : xV)] [] (ms, r) (some (.inl rr.1)) (ms, rr.2) := by
  refine x_iload_n (i := 2) 36 rfl dX1_whyNot_35 rfl rfl ?_
  refine x_iconst (4 : Int32) 37 rfl dX1_whyNot_36 rfl ?_
  refine x_icmp_ne 54 40 rfl dX1_whyNot_37 rfl h (fun h => ?_) (fun h => ?_)
  · exact xB.le (xle.n (xle.s (xle.s (xle.s (xle.s xle.z))))) (x_X1_whyNot_54_ok h)
  · refine x_aload_n (i := 1) 41 rfl dX1_whyNot_40 rfl rfl ?_
    refine d_getrN (ci := 2) (k := 2) (C := RX4) (T := TX4) (N := 3) 44 rfl dX1_whyNot_41 rfl in_X4 (by decide) (List.mem_of_getElem? (i := 9) rfl) h (fun p5 h => ?_)
    refine x_iload_n (i := 3) 45 rfl dX1_whyNot_44 rfl rfl ?_
    refine x_nnP (P := fun p5 => xB xLL yX1_whyNot cX1_whyNot 5 (some .int) 3 70 45 [none, some (.inr (.inr (some (a1))) : xV), some (.inl (a2) : xV), some (.inl (a3) : xV), some (.inl (a4) : xV)] [(.inl (a3) : xV), (.inr (.inr (p5)) : xV)] (ms, r) (some (.inl rr.1)) (ms, rr.2)) h (fun p6 h => ?_)
    refine d_aald 46 rfl dX1_whyNot_45 h (fun p7 h => ?_)
    refine x_iload (i := 4) 48 rfl dX1_whyNot_46 rfl ?_
    refine x_nnP (P := fun p7 => xB xLL yX1_whyNot cX1_whyNot 5 (some .int) 3 70 48 [none, some (.inr (.inr (some (a1))) : xV), some (.inl (a2) : xV), some (.inl (a3) : xV), some (.inl (a4) : xV)] [(.inl (a4) : xV), (.inr (.inr (p7)) : xV)] (ms, r) (some (.inl rr.1)) (ms, rr.2)) h (fun p8 h => ?_)
    refine d_iald 49 rfl dX1_whyNot_48 h (fun x9 h => ?_)
    refine x_if_ne 54 52 rfl dX1_whyNot_49 rfl h (fun h => ?_) (fun h => ?_)
    · exact xB.le (xle.n (xle.s (xle.s (xle.s (xle.s xle.z))))) (x_X1_whyNot_54_ok h)
    · refine x_iconst (2 : Int32) 53 rfl dX1_whyNot_52 rfl ?_
      cases h
      exact x_iret rfl dX1_whyNot_53
def x_X1_whyNot_29 (a1 : Nat) (a2 : Int32) (a3 : Int32) (a4 : Int32) (r : xR) : Option (Int32 × xR) := if a3 = a4 then some ((2 : Int32), r) else x_X1_whyNot_35 a1 a2 a3 a4 r
theorem x_X1_whyNot_29_ok {ms : xS} {rr : Int32 × xR} {a1 : Nat} {a2 : Int32} {a3 : Int32} {a4 : Int32} {r : xR} (h : x_X1_whyNot_29  a1 a2 a3 a4 r = some rr) : xB xLL yX1_whyNot cX1_whyNot 5 (some .int) 3 70 29 [none, some (.inr (.inr (some (a1))) : xV), some (.inl (a2) : xV), some (.inl (a3) : xV), some (.inl (a4) : xV)] [] (ms, r) (some (.inl rr.1)) (ms, rr.2) := by
  refine x_iload_n (i := 3) 30 rfl dX1_whyNot_29 rfl rfl ?_
  refine x_iload (i := 4) 32 rfl dX1_whyNot_30 rfl ?_
  refine x_icmp_eq 52 35 rfl dX1_whyNot_32 rfl h (fun h => ?_) (fun h => ?_)
  · refine x_iconst (2 : Int32) 53 rfl dX1_whyNot_52 rfl ?_
    cases h
    exact x_iret rfl dX1_whyNot_53
  · exact xB.le (xle.n (xle.s (xle.s (xle.s (xle.s xle.z))))) (x_X1_whyNot_35_ok h)
def x_X1_whyNot (a1 : Option Nat) (a2 : Int32) (a3 : Int32) (a4 : Int32) (r : xR) : Option (Int32 × xR) := nu a1 (some ((0 : Int32), r)) fun p10 => cl (x_X1_areThere p10 a2 a3 a4 r) fun q11 => if q11.1 = 0 then some ((1 : Int32), q11.2) else if a2 = (2 : Int32) then x_X1_whyNot_29 p10 a2 a3 a4 q11.2 else if a2 = (3 : Int32) then x_X1_whyNot_29 p10 a2 a3 a4 q11.2 else x_X1_whyNot_35 p10 a2 a3 a4 q11.2
theorem x_X1_whyNot_ct {ms : xS} {rr : Int32 × xR} {a1 : Option Nat} {a2 : Int32} {a3 : Int32} {a4 : Int32} {r : xR} (h : x_X1_whyNot a1 a2 a3 a4 r = some rr) : xCt xLL yX1_whyNot cX1_whyNot 5 (some .int) 3 70 [(.inr (.inr (some 300)) : xV), (.inr (.inr (a1)) : xV), (.inl (a2) : xV), (.inl (a3) : xV), (.inl (a4) : xV)] (ms, r) (some (.inl rr.1)) (ms, rr.2) := by
  refine xCt.of (lv := [some (.inr (.inr (some 300)) : xV), some (.inr (.inr (a1)) : xV), some (.inl (a2) : xV), some (.inl (a3) : xV), some (.inl (a4) : xV)]) pl_X1 (Nat.le_of_ble_eq_true rfl) (xle.s (xle.s (xle.s (xle.s (xle.s xle.z))))) ?_
  refine x_aload_n (i := 1) 1 rfl dX1_whyNot_0 rfl rfl ?_
  refine x_nnlP (lv := fun a1 => [some (.inr (.inr (some 300)) : xV), some (.inr (.inr (a1)) : xV), some (.inl (a2) : xV), some (.inl (a3) : xV), some (.inl (a4) : xV)]) (st := fun a1 => []) 6 4 rfl dX1_whyNot_1 rfl h (fun p10 h => ?_) (fun h => ?_)
  · refine x_aload_n (i := 1) 7 rfl dX1_whyNot_6 rfl rfl ?_
    refine x_iload_n (i := 2) 8 rfl dX1_whyNot_7 rfl rfl ?_
    refine x_iload_n (i := 3) 9 rfl dX1_whyNot_8 rfl rfl ?_
    refine x_iload (i := 4) 11 rfl dX1_whyNot_9 rfl ?_
    refine x_cl h (fun q11 hq h => ?_)
    refine x_callS (as := [(.inr (.inr (some (p10))) : xV), (.inl (a2) : xV), (.inl (a3) : xV), (.inl (a4) : xV)]) (rest := []) (vv := (some (.inl (q11.1) : xV))) (w2 := (ms, q11.2)) 14 rfl dX1_whyNot_11 (x_X1_areThere_ct hq) (lw_S q718 q719 q118 q720) ydX1_areThere rfl ⟨Nat.le_of_ble_eq_true rfl, Nat.le_of_ble_eq_true rfl⟩ (Nat.le_of_ble_eq_true rfl) rfl ?_
    change xB xLL yX1_whyNot cX1_whyNot 5 (some .int) 3 70 14 [some (.inr (.inr (some 300)) : xV), some (.inr (.inr (some (p10))) : xV), some (.inl (a2) : xV), some (.inl (a3) : xV), some (.inl (a4) : xV)] [(.inl (q11.1) : xV)] (ms, q11.2) _ _
    refine x_if_ne 19 17 rfl dX1_whyNot_14 rfl h (fun h => ?_) (fun h => ?_)
    · refine x_iload_n (i := 2) 20 rfl dX1_whyNot_19 rfl rfl ?_
      refine x_iconst (2 : Int32) 21 rfl dX1_whyNot_20 rfl ?_
      refine x_icmp_eq 29 24 rfl dX1_whyNot_21 rfl h (fun h => ?_) (fun h => ?_)
      · exact xB.le (xle.n (xle.s (xle.s (xle.s (xle.s xle.z))))) (x_X1_whyNot_29_ok h)
      · refine x_iload_n (i := 2) 25 rfl dX1_whyNot_24 rfl rfl ?_
        refine x_iconst (3 : Int32) 26 rfl dX1_whyNot_25 rfl ?_
        refine x_icmp_ne 35 29 rfl dX1_whyNot_26 rfl h (fun h => ?_) (fun h => ?_)
        · exact xB.le (xle.n (xle.s (xle.s (xle.s (xle.s xle.z))))) (x_X1_whyNot_35_ok h)
        · exact xB.le (xle.n (xle.s (xle.s (xle.s (xle.s xle.z))))) (x_X1_whyNot_29_ok h)
    · refine x_iconst (1 : Int32) 18 rfl dX1_whyNot_17 rfl ?_
      cases h
      exact x_iret rfl dX1_whyNot_18
  · refine x_iconst (0 : Int32) 5 rfl dX1_whyNot_4 rfl ?_
    cases h
    exact x_iret rfl dX1_whyNot_5
section XFc1
variable {L : xL} {y : MethodName} {cc : ByteArray} {nL : Nat} {ret : Option FieldType} {d lo pc : Nat} {lv : List (Option xV)} {ms : xS} {r : xR} {v : Option xV} {w1 : xW} {ix cnt : Nat}
/-- a Turner -/
def ltn (L : xL) (r : xR) (c t : Nat) (a b : Int32) : Option (Nat × xR) := match xlm L r c with
  | some (3, [.inr (.inr (some c0))]) => d_X1_lambda_sideways_0 L c0 t a b r
  | _ => ltn0 L r c t a b
theorem x_turn {c t : Nat} {a b : Int32} {rr : Nat × xR} (rest : List xV) (pn : Nat) (hp : pc + 5 = pn) (hd : decode cc pc = .ok (.invokeinterface ix cnt, 5)) (hlink : Cond.methodLink y.cls ix ⟨"UnimodularTables$Turner", "of", "(LUnimodularTables$Table;II)LUnimodularTables$Table;"⟩ ∈ lw_all) (h : ltn L r c t a b = some rr) (hroom : 7 ≤ d ∧ 177 ≤ lo) (hr : (rest.map xw).sum ≤ 8) (kk : xB L y cc nL ret d lo pn lv ((.inr (.inr (some rr.1)) : xV) :: rest) (ms, rr.2) v w1) : xB L y cc nL ret d lo pc lv ((.inl b : xV) :: (.inl a : xV) :: (.inr (.inr (some t)) : xV) :: (.inr (.inr (some c)) : xV) :: rest) (ms, r) v w1 := by
  unfold ltn at h
  split at h
  · rename_i hx
    exact x_lam (as := [(.inr (.inr (some t)) : xV), (.inl a : xV), (.inl b : xV)]) (rest := rest) pn hp hd lmt_3 (lm_U (d := 6) (lo := 154) (d_X1_lambda_sideways_0_ct (ms := ms) h) q432 q431 q118 rfl ydX1_lambda_sideways_0 rfl (Or.inl ⟨_, rfl⟩) ⟨Nat.le_of_ble_eq_true rfl, Nat.le_of_ble_eq_true rfl⟩) (xlm_rd hx) ⟨_, _, _, q432⟩ hlink rfl ⟨hroom.1, hroom.2⟩ hr rfl kk
  · exact x_turn0 rest pn hp hd hlink h ⟨Nat.le_trans (Nat.le_of_ble_eq_true rfl) hroom.1, Nat.le_trans (Nat.le_of_ble_eq_true rfl) hroom.2⟩ hr kk
end XFc1
/-! UnimodularTables.act(LUnimodularTables$Table;)V -/
theorem ydX1_act : xHd yX1_act 1 := by decide +kernel
def x_X1_act (a1 : Option Nat) (r : xR) : Option (xR) := lt (r.1.2.2 0 11) fun p1 => cl (x_X1_become a1 r) fun q2 => nn p1 fun p3 => al xLL q2 (.inr (.inr (7, [(.inr (.inr (some 300)) : xV), (.inr (.inr (some (p3))) : xV)]))) 2 fun p4 r5 => cl (x_X1_did p4 r5) fun q6 => some q6
theorem x_X1_act_ct {ms : xS} {rr : xR} {a1 : Option Nat} {r : xR} (h : x_X1_act a1 r = some rr) : xCt xLL yX1_act cX1_act 3 none 2 3089 [(.inr (.inr (some 300)) : xV), (.inr (.inr (a1)) : xV)] (ms, r) none (ms, rr) := by
  refine xCt.of (lv := [some (.inr (.inr (some 300)) : xV), some (.inr (.inr (a1)) : xV), none]) pl_X1 (Nat.le_of_ble_eq_true rfl) (xle.s (xle.s (xle.m xle.z))) ?_
  refine x_aload_n (i := 0) 1 rfl dX1_act_0 rfl rfl ?_
  refine q_get (k := 11) 4 rfl dX1_act_1 (by decide) q453 rfl ?_
  refine x_ltr h (fun p1 h => ?_)
  refine x_astore_n 5 rfl dX1_act_4 rfl (by decide) (lv' := [some (.inr (.inr (some 300)) : xV), some (.inr (.inr (a1)) : xV), some (.inr (.inr (p1)) : xV)]) rfl ?_
  refine x_aload_n (i := 0) 6 rfl dX1_act_5 rfl rfl ?_
  refine x_aload_n (i := 1) 7 rfl dX1_act_6 rfl rfl ?_
  refine x_cl h (fun q2 hq h => ?_)
  refine x_callV (as := [(.inr (.inr (a1)) : xV)]) (rest := []) (vv := none) (w2 := (ms, q2)) (C := RX1) (T := TX1) (N := 34) 10 rfl dX1_act_7 (x_X1_become_ct hq) (Or.inl xcell_X0) rfl (lw_V q675 q677 qs11 q118 q678) rfl ydX1_become rfl ⟨Nat.le_of_ble_eq_true rfl, Nat.le_of_ble_eq_true rfl⟩ (Nat.le_of_ble_eq_true rfl) rfl ?_
  change xB xLL yX1_act cX1_act 3 none 2 3089 10 [some (.inr (.inr (some 300)) : xV), some (.inr (.inr (a1)) : xV), some (.inr (.inr (p1)) : xV)] [] (ms, q2) _ _
  refine x_aload_n (i := 0) 11 rfl dX1_act_10 rfl rfl ?_
  refine x_aload_n (i := 0) 12 rfl dX1_act_11 rfl rfl ?_
  refine x_aload_n (i := 2) 13 rfl dX1_act_12 rfl rfl ?_
  refine x_nnP (P := fun p1 => xB xLL yX1_act cX1_act 3 none 2 3089 13 [some (.inr (.inr (some 300)) : xV), some (.inr (.inr (a1)) : xV), some (.inr (.inr (p1)) : xV)] [(.inr (.inr (p1)) : xV), (.inr (.inr (some 300)) : xV), (.inr (.inr (some 300)) : xV)] (ms, q2) none (ms, rr)) h (fun p3 h => ?_)
  refine d_indyM (k := 7) (σ := lms_7) (vals := [(.inr (.inr (some 300)) : xV), (.inr (.inr (some (p3))) : xV)]) [(.inr (.inr (some 300)) : xV)] 18 rfl dX1_act_13 (by decide) rfl rfl (List.cons_ne_nil _ _) rfl lml_7 rfl rfl (Nat.le_of_ble_eq_true rfl) rfl h (fun p4 r5 h => ?_)
  refine x_cl h (fun q6 hq h => ?_)
  refine x_callV (as := [(.inr (.inr (some (p4))) : xV)]) (rest := []) (vv := none) (w2 := (ms, q6)) (C := RX1) (T := TX1) (N := 34) 21 rfl dX1_act_18 (x_X1_did_ct hq) (Or.inl xcell_X0) rfl (lw_V q703 q705 qs15 q118 q706) rfl ydX1_did rfl ⟨Nat.le_of_ble_eq_true rfl, Nat.le_of_ble_eq_true rfl⟩ (Nat.le_of_ble_eq_true rfl) rfl ?_
  change xB xLL yX1_act cX1_act 3 none 2 3089 21 [some (.inr (.inr (some 300)) : xV), some (.inr (.inr (a1)) : xV), some (.inr (.inr (some (p3))) : xV)] [] (ms, q6) _ _
  cases h
  exact x_vret rfl dX1_act_21
/-! UnimodularTables.deal(III)I -/
theorem ydX1_deal : xHd yX1_deal 3 := by decide +kernel
def x_X1_deal (a1 : Int32) (a2 : Int32) (a3 : Int32) (r : xR) : Option (Int32 × xR) := lt (r.1.2.2 0 11) fun p1 => cl (x_X1_whyNot p1 a1 a2 a3 r) fun q2 => cl (x_X1_isRefused q2.1 q2.2) fun q3 => if q3.1 = 0 then dar xLL q3.2 376 a1 fun p4 => lt (q3.2.1.2.2 0 11) fun p5 => nn p5 fun p6 => nn p4 fun p7 => cl (ltn xLL q3.2 p7 p6 a2 a3) fun q8 => cl (x_X1_act ((some (q8.1))) q8.2) fun q9 => some (q9.1.1 0 13, q9) else some ((-1 : Int32), q3.2)
theorem x_X1_deal_ct {ms : xS} {rr : Int32 × xR} {a1 : Int32} {a2 : Int32} {a3 : Int32} {r : xR} (h : x_X1_deal a1 a2 a3 r = some rr) : xCt xLL yX1_deal cX1_deal 4 (some .int) 7 3111 [(.inr (.inr (some 300)) : xV), (.inl (a1) : xV), (.inl (a2) : xV), (.inl (a3) : xV)] (ms, r) (some (.inl rr.1)) (ms, rr.2) := by
  refine xCt.of (lv := [some (.inr (.inr (some 300)) : xV), some (.inl (a1) : xV), some (.inl (a2) : xV), some (.inl (a3) : xV)]) pl_X1 (Nat.le_of_ble_eq_true rfl) (xle.s (xle.s (xle.s (xle.s xle.z)))) ?_
  refine x_aload_n (i := 0) 1 rfl dX1_deal_0 rfl rfl ?_
  refine x_aload_n (i := 0) 2 rfl dX1_deal_1 rfl rfl ?_
  refine x_aload_n (i := 0) 3 rfl dX1_deal_2 rfl rfl ?_
  refine q_get (k := 11) 6 rfl dX1_deal_3 (by decide) q453 rfl ?_
  refine x_ltr h (fun p1 h => ?_)
  refine x_iload_n (i := 1) 7 rfl dX1_deal_6 rfl rfl ?_
  refine x_iload_n (i := 2) 8 rfl dX1_deal_7 rfl rfl ?_
  refine x_iload_n (i := 3) 9 rfl dX1_deal_8 rfl rfl ?_
  refine x_cl h (fun q2 hq h => ?_)
  refine x_callV (as := [(.inr (.inr (p1)) : xV), (.inl (a1) : xV), (.inl (a2) : xV), (.inl (a3) : xV)]) (rest := [(.inr (.inr (some 300)) : xV)]) (vv := (some (.inl (q2.1) : xV))) (w2 := (ms, q2.2)) (C := RX1) (T := TX1) (N := 34) 12 rfl dX1_deal_9 (x_X1_whyNot_ct hq) (Or.inl xcell_X0) rfl (lw_V q714 q716 qs16 q118 q717) rfl ydX1_whyNot rfl ⟨Nat.le_of_ble_eq_true rfl, Nat.le_of_ble_eq_true rfl⟩ (Nat.le_of_ble_eq_true rfl) rfl ?_
  change xB xLL yX1_deal cX1_deal 4 (some .int) 7 3111 12 [some (.inr (.inr (some 300)) : xV), some (.inl (a1) : xV), some (.inl (a2) : xV), some (.inl (a3) : xV)] [(.inl (q2.1) : xV), (.inr (.inr (some 300)) : xV)] (ms, q2.2) _ _
  refine x_cl h (fun q3 hq h => ?_)
  refine x_callV (as := [(.inl (q2.1) : xV)]) (rest := []) (vv := (some (.inl (q3.1) : xV))) (w2 := (ms, q3.2)) (C := RX1) (T := TX1) (N := 34) 15 rfl dX1_deal_12 (x_X1_isRefused_ct hq) (Or.inl xcell_X0) rfl (lw_V q692 q694 qs12 q118 q695) rfl ydX1_isRefused rfl ⟨Nat.le_of_ble_eq_true rfl, Nat.le_of_ble_eq_true rfl⟩ (Nat.le_of_ble_eq_true rfl) rfl ?_
  change xB xLL yX1_deal cX1_deal 4 (some .int) 7 3111 15 [some (.inr (.inr (some 300)) : xV), some (.inl (a1) : xV), some (.inl (a2) : xV), some (.inl (a3) : xV)] [(.inl (q3.1) : xV)] (ms, q3.2) _ _
  refine x_if_eq 20 18 rfl dX1_deal_15 rfl h (fun h => ?_) (fun h => ?_)
  · refine x_aload_n (i := 0) 21 rfl dX1_deal_20 rfl rfl ?_
    refine x_aload_n (i := 0) 22 rfl dX1_deal_21 rfl rfl ?_
    refine q_get (k := 0) 25 rfl dX1_deal_22 (by decide) q442 rfl ?_
    refine x_iload_n (i := 1) 26 rfl dX1_deal_25 rfl rfl ?_
    refine d_aald 27 rfl dX1_deal_26 h (fun p4 h => ?_)
    refine x_aload_n (i := 0) 28 rfl dX1_deal_27 rfl rfl ?_
    refine q_get (k := 11) 31 rfl dX1_deal_28 (by decide) q453 rfl ?_
    refine x_ltr h (fun p5 h => ?_)
    refine x_iload_n (i := 2) 32 rfl dX1_deal_31 rfl rfl ?_
    refine x_iload_n (i := 3) 33 rfl dX1_deal_32 rfl rfl ?_
    refine x_nnP (P := fun p5 => xB xLL yX1_deal cX1_deal 4 (some .int) 7 3111 33 [some (.inr (.inr (some 300)) : xV), some (.inl (a1) : xV), some (.inl (a2) : xV), some (.inl (a3) : xV)] [(.inl (a3) : xV), (.inl (a2) : xV), (.inr (.inr (p5)) : xV), (.inr (.inr (p4)) : xV), (.inr (.inr (some 300)) : xV)] (ms, q3.2) (some (.inl rr.1)) (ms, rr.2)) h (fun p6 h => ?_)
    refine x_nnP (P := fun p4 => xB xLL yX1_deal cX1_deal 4 (some .int) 7 3111 33 [some (.inr (.inr (some 300)) : xV), some (.inl (a1) : xV), some (.inl (a2) : xV), some (.inl (a3) : xV)] [(.inl (a3) : xV), (.inl (a2) : xV), (.inr (.inr (some (p6))) : xV), (.inr (.inr (p4)) : xV), (.inr (.inr (some 300)) : xV)] (ms, q3.2) (some (.inl rr.1)) (ms, rr.2)) h (fun p7 h => ?_)
    refine x_cl h (fun q8 hq h => ?_)
    refine x_turn [(.inr (.inr (some 300)) : xV)] 38 rfl dX1_deal_33 q437 hq ⟨Nat.le_of_ble_eq_true rfl, Nat.le_of_ble_eq_true rfl⟩ (Nat.le_of_ble_eq_true rfl) ?_
    refine x_cl h (fun q9 hq h => ?_)
    refine x_callV (as := [(.inr (.inr (some (q8.1))) : xV)]) (rest := []) (vv := none) (w2 := (ms, q9)) (C := RX1) (T := TX1) (N := 34) 41 rfl dX1_deal_38 (x_X1_act_ct hq) (Or.inl xcell_X0) rfl (lw_V q725 q727 qs17 q118 q728) rfl ydX1_act rfl ⟨Nat.le_of_ble_eq_true rfl, Nat.le_of_ble_eq_true rfl⟩ (Nat.le_of_ble_eq_true rfl) rfl ?_
    change xB xLL yX1_deal cX1_deal 4 (some .int) 7 3111 41 [some (.inr (.inr (some 300)) : xV), some (.inl (a1) : xV), some (.inl (a2) : xV), some (.inl (a3) : xV)] [] (ms, q9) _ _
    refine x_aload_n (i := 0) 42 rfl dX1_deal_41 rfl rfl ?_
    refine q_get (k := 13) 45 rfl dX1_deal_42 (by decide) q455 rfl ?_
    cases h
    exact x_iret rfl dX1_deal_45
  · refine x_iconst (-1 : Int32) 19 rfl dX1_deal_18 rfl ?_
    cases h
    exact x_iret rfl dX1_deal_19
/-! UnimodularTables.lambda$act$1(LUnimodularTables$Table;)V -/
theorem ydX1_lambda_act_1 : xHd yX1_lambda_act_1 1 := by decide +kernel
def x_X1_lambda_act_1 (a1 : Nat) (r : xR) : Option (xR) := cl (x_X1_become ((some (a1))) r) fun q1 => some q1
theorem x_X1_lambda_act_1_ct {ms : xS} {rr : xR} {a1 : Nat} {r : xR} (h : x_X1_lambda_act_1 a1 r = some rr) : xCt xLL yX1_lambda_act_1 cX1_lambda_act_1 2 none 1 21 [(.inr (.inr (some 300)) : xV), (.inr (.inr (some (a1))) : xV)] (ms, r) none (ms, rr) := by
  refine xCt.of (lv := [some (.inr (.inr (some 300)) : xV), some (.inr (.inr (some (a1))) : xV)]) pl_X1 (Nat.le_of_ble_eq_true rfl) (xle.s (xle.s xle.z)) ?_
  refine x_aload_n (i := 0) 1 rfl dX1_lambda_act_1_0 rfl rfl ?_
  refine x_aload_n (i := 1) 2 rfl dX1_lambda_act_1_1 rfl rfl ?_
  refine x_cl h (fun q1 hq h => ?_)
  refine x_callV (as := [(.inr (.inr (some (a1))) : xV)]) (rest := []) (vv := none) (w2 := (ms, q1)) (C := RX1) (T := TX1) (N := 34) 5 rfl dX1_lambda_act_1_2 (x_X1_become_ct hq) (Or.inl xcell_X0) rfl (lw_V q675 q677 qs11 q118 q678) rfl ydX1_become rfl ⟨Nat.le_of_ble_eq_true rfl, Nat.le_of_ble_eq_true rfl⟩ (Nat.le_of_ble_eq_true rfl) rfl ?_
  change xB xLL yX1_lambda_act_1 cX1_lambda_act_1 2 none 1 21 5 [some (.inr (.inr (some 300)) : xV), some (.inr (.inr (some (a1))) : xV)] [] (ms, q1) _ _
  cases h
  exact x_vret rfl dX1_lambda_act_1_5
/-! UnimodularTables.joined(LUnimodularTables$Table;LUnimodularTables$Table;)LUnimodularTables$Table; -/
theorem ydX1_joined : xHd yX1_joined 2 := by decide +kernel
def d_X1_joined_91_s (L : xL) (rec80 : Nat → Nat → Nat → Int32 → xR → Option (Nat × xR)) (rec91 : Nat → Nat → Nat → Int32 → Int32 → xR → Option (Nat × xR)) (a0 : Nat) (a1 : Nat) (a2 : Nat) (a3 : Int32) (a4 : Int32) (r : xR) : Option (Nat × xR) := dgi L r a1 2 1 fun x1 => if x1 ≤ a4 then lt (a3 + (1 : Int32)) fun x2 => rec80 a0 a1 a2 x2 r else dgr L r a2 2 2 fun p3 => dgi L r a0 2 0 fun x4 => nn p3 fun p5 => dar L r p5 (x4 + a3) fun p6 => dgi L r a0 2 1 fun x7 => dgr L r a1 2 2 fun p8 => nn p8 fun p9 => dar L r p9 a3 fun p10 => nn p10 fun p11 => dai L r p11 a4 fun x12 => nn p6 fun p13 => daw L r p13 (x7 + a4) x12 fun r14 => lt (a4 + (1 : Int32)) fun x15 => rec91 a0 a1 a2 a3 x15 r14
theorem d_X1_joined_91_s_ok {L : xL} {ms : xS} {rr : Nat × xR} {rec80 : Nat → Nat → Nat → Int32 → xR → Option (Nat × xR)} {rec91 : Nat → Nat → Nat → Int32 → Int32 → xR → Option (Nat × xR)} (hr80 : ∀ {a0 : Nat} {a1 : Nat} {a2 : Nat} {a3 : Int32} {r : xR}, rec80 a0 a1 a2 a3 r = some rr → xB L yX1_joined cX1_joined 5 (some (.object "UnimodularTables$Table")) 2 42 80 [some (.inr (.inr (some (a0))) : xV), some (.inr (.inr (some (a1))) : xV), some (.inr (.inr (some (a2))) : xV), some (.inl (a3) : xV), none] [] (ms, r) (some (.inr (.inr (some rr.1)))) (ms, rr.2)) (hr91 : ∀ {a0 : Nat} {a1 : Nat} {a2 : Nat} {a3 : Int32} {a4 : Int32} {r : xR}, rec91 a0 a1 a2 a3 a4 r = some rr → xB L yX1_joined cX1_joined 5 (some (.object "UnimodularTables$Table")) 2 42 91 [some (.inr (.inr (some (a0))) : xV), some (.inr (.inr (some (a1))) : xV), some (.inr (.inr (some (a2))) : xV), some (.inl (a3) : xV), some (.inl (a4) : xV)] [] (ms, r) (some (.inr (.inr (some rr.1)))) (ms, rr.2)) {a0 : Nat} {a1 : Nat} {a2 : Nat} {a3 : Int32} {a4 : Int32} {r : xR} (h : d_X1_joined_91_s L rec80 rec91 a0 a1 a2 a3 a4 r = some rr) : xB L yX1_joined cX1_joined 5 (some (.object "UnimodularTables$Table")) 2 42 91 [some (.inr (.inr (some (a0))) : xV), some (.inr (.inr (some (a1))) : xV), some (.inr (.inr (some (a2))) : xV), some (.inl (a3) : xV), some (.inl (a4) : xV)] [] (ms, r) (some (.inr (.inr (some rr.1)))) (ms, rr.2) := by
  refine x_iload (i := 4) 93 rfl dX1_joined_91 rfl ?_
  refine x_aload_n (i := 1) 94 rfl dX1_joined_93 rfl rfl ?_
  refine d_getiN (ci := 2) (k := 1) (C := RX4) (T := TX4) (N := 3) 97 rfl dX1_joined_94 rfl in_X4 (by decide) (List.mem_of_getElem? (i := 7) rfl) h (fun x1 h => ?_)
  refine x_icmp_ge 134 100 rfl dX1_joined_97 rfl h (fun h => ?_) (fun h => ?_)
  · refine x_iincL (i := 3) (1 : Int32) 137 rfl dX1_joined_134 rfl rfl (by decide) h (fun x2 h => ?_)
    change xB L yX1_joined cX1_joined 5 (some (.object "UnimodularTables$Table")) 2 42 137 [some (.inr (.inr (some (a0))) : xV), some (.inr (.inr (some (a1))) : xV), some (.inr (.inr (some (a2))) : xV), some (.inl (x2) : xV), some (.inl (a4) : xV)] [] (ms, r) _ _
    refine x_goto 80 dX1_joined_137 rfl ?_
    exact xB.le (xle.s (xle.s (xle.s (xle.s (xle.n xle.z))))) (hr80 h)
  · refine x_aload_n (i := 2) 101 rfl dX1_joined_100 rfl rfl ?_
    refine d_getrN (ci := 2) (k := 2) (C := RX4) (T := TX4) (N := 3) 104 rfl dX1_joined_101 rfl in_X4 (by decide) (List.mem_of_getElem? (i := 9) rfl) h (fun p3 h => ?_)
    refine x_aload_n (i := 0) 105 rfl dX1_joined_104 rfl rfl ?_
    refine d_getiN (ci := 2) (k := 0) (C := RX4) (T := TX4) (N := 3) 108 rfl dX1_joined_105 rfl in_X4 (by decide) (List.mem_of_getElem? (i := 5) rfl) h (fun x4 h => ?_)
    refine x_iload_n (i := 3) 109 rfl dX1_joined_108 rfl rfl ?_
    refine x_iadd 110 rfl dX1_joined_109 ?_
    refine x_nnP (P := fun p3 => xB L yX1_joined cX1_joined 5 (some (.object "UnimodularTables$Table")) 2 42 110 [some (.inr (.inr (some (a0))) : xV), some (.inr (.inr (some (a1))) : xV), some (.inr (.inr (some (a2))) : xV), some (.inl (a3) : xV), some (.inl (a4) : xV)] [(.inl (x4 + a3) : xV), (.inr (.inr (p3)) : xV)] (ms, r) (some (.inr (.inr (some rr.1)))) (ms, rr.2)) h (fun p5 h => ?_)
    refine d_aald 111 rfl dX1_joined_110 h (fun p6 h => ?_)
    refine x_aload_n (i := 0) 112 rfl dX1_joined_111 rfl rfl ?_
    refine d_getiN (ci := 2) (k := 1) (C := RX4) (T := TX4) (N := 3) 115 rfl dX1_joined_112 rfl in_X4 (by decide) (List.mem_of_getElem? (i := 7) rfl) h (fun x7 h => ?_)
    refine x_iload (i := 4) 117 rfl dX1_joined_115 rfl ?_
    refine x_iadd 118 rfl dX1_joined_117 ?_
    refine x_aload_n (i := 1) 119 rfl dX1_joined_118 rfl rfl ?_
    refine d_getrN (ci := 2) (k := 2) (C := RX4) (T := TX4) (N := 3) 122 rfl dX1_joined_119 rfl in_X4 (by decide) (List.mem_of_getElem? (i := 9) rfl) h (fun p8 h => ?_)
    refine x_iload_n (i := 3) 123 rfl dX1_joined_122 rfl rfl ?_
    refine x_nnP (P := fun p8 => xB L yX1_joined cX1_joined 5 (some (.object "UnimodularTables$Table")) 2 42 123 [some (.inr (.inr (some (a0))) : xV), some (.inr (.inr (some (a1))) : xV), some (.inr (.inr (some (a2))) : xV), some (.inl (a3) : xV), some (.inl (a4) : xV)] [(.inl (a3) : xV), (.inr (.inr (p8)) : xV), (.inl (x7 + a4) : xV), (.inr (.inr (p6)) : xV)] (ms, r) (some (.inr (.inr (some rr.1)))) (ms, rr.2)) h (fun p9 h => ?_)
    refine d_aald 124 rfl dX1_joined_123 h (fun p10 h => ?_)
    refine x_iload (i := 4) 126 rfl dX1_joined_124 rfl ?_
    refine x_nnP (P := fun p10 => xB L yX1_joined cX1_joined 5 (some (.object "UnimodularTables$Table")) 2 42 126 [some (.inr (.inr (some (a0))) : xV), some (.inr (.inr (some (a1))) : xV), some (.inr (.inr (some (a2))) : xV), some (.inl (a3) : xV), some (.inl (a4) : xV)] [(.inl (a4) : xV), (.inr (.inr (p10)) : xV), (.inl (x7 + a4) : xV), (.inr (.inr (p6)) : xV)] (ms, r) (some (.inr (.inr (some rr.1)))) (ms, rr.2)) h (fun p11 h => ?_)
    refine d_iald 127 rfl dX1_joined_126 h (fun x12 h => ?_)
    refine x_nnP (P := fun p6 => xB L yX1_joined cX1_joined 5 (some (.object "UnimodularTables$Table")) 2 42 127 [some (.inr (.inr (some (a0))) : xV), some (.inr (.inr (some (a1))) : xV), some (.inr (.inr (some (a2))) : xV), some (.inl (a3) : xV), some (.inl (a4) : xV)] [(.inl (x12) : xV), (.inl (x7 + a4) : xV), (.inr (.inr (p6)) : xV)] (ms, r) (some (.inr (.inr (some rr.1)))) (ms, rr.2)) h (fun p13 h => ?_)
    refine d_iast 128 rfl dX1_joined_127 h (fun r14 h => ?_)
    refine x_iincL (i := 4) (1 : Int32) 131 rfl dX1_joined_128 rfl rfl (by decide) h (fun x15 h => ?_)
    change xB L yX1_joined cX1_joined 5 (some (.object "UnimodularTables$Table")) 2 42 131 [some (.inr (.inr (some (a0))) : xV), some (.inr (.inr (some (a1))) : xV), some (.inr (.inr (some (a2))) : xV), some (.inl (a3) : xV), some (.inl (x15) : xV)] [] (ms, r14) _ _
    refine x_goto 91 dX1_joined_131 rfl ?_
    exact xB.le (xle.s (xle.s (xle.s (xle.s (xle.s xle.z))))) (hr91 h)
def d_X1_joined_91_L (L : xL) (rec80 : Nat → Nat → Nat → Int32 → xR → Option (Nat × xR)) : Nat → Nat → Nat → Nat → Int32 → Int32 → xR → Option (Nat × xR)
  | 0 => fun _ _ _ _ _ _ => none
  | n + 1 => d_X1_joined_91_s L rec80 (d_X1_joined_91_L L rec80 n)
theorem d_X1_joined_91_L_ok {L : xL} {ms : xS} {rr : Nat × xR} {rec80 : Nat → Nat → Nat → Int32 → xR → Option (Nat × xR)} (hr80 : ∀ {a0 : Nat} {a1 : Nat} {a2 : Nat} {a3 : Int32} {r : xR}, rec80 a0 a1 a2 a3 r = some rr → xB L yX1_joined cX1_joined 5 (some (.object "UnimodularTables$Table")) 2 42 80 [some (.inr (.inr (some (a0))) : xV), some (.inr (.inr (some (a1))) : xV), some (.inr (.inr (some (a2))) : xV), some (.inl (a3) : xV), none] [] (ms, r) (some (.inr (.inr (some rr.1)))) (ms, rr.2)) : ∀ (n9 : Nat) {a0 : Nat} {a1 : Nat} {a2 : Nat} {a3 : Int32} {a4 : Int32} {r : xR}, d_X1_joined_91_L L rec80 n9 a0 a1 a2 a3 a4 r = some rr → xB L yX1_joined cX1_joined 5 (some (.object "UnimodularTables$Table")) 2 42 91 [some (.inr (.inr (some (a0))) : xV), some (.inr (.inr (some (a1))) : xV), some (.inr (.inr (some (a2))) : xV), some (.inl (a3) : xV), some (.inl (a4) : xV)] [] (ms, r) (some (.inr (.inr (some rr.1)))) (ms, rr.2)
  | 0, _, _, _, _, _, _, h => by cases h
  | n9 + 1, _, _, _, _, _, _, h => d_X1_joined_91_s_ok hr80 (d_X1_joined_91_L_ok hr80 n9) h
def d_X1_joined_80_s (L : xL) (rec80 : Nat → Nat → Nat → Int32 → xR → Option (Nat × xR)) (a0 : Nat) (a1 : Nat) (a2 : Nat) (a3 : Int32) (r : xR) : Option (Nat × xR) := dgi L r a1 2 0 fun x16 => if x16 ≤ a3 then some (a2, r) else lt ((0 : Int32)) fun x17 => d_X1_joined_91_L L rec80 xFU a0 a1 a2 a3 x17 r
theorem d_X1_joined_80_s_ok {L : xL} {ms : xS} {rr : Nat × xR} {rec80 : Nat → Nat → Nat → Int32 → xR → Option (Nat × xR)} (hr80 : ∀ {a0 : Nat} {a1 : Nat} {a2 : Nat} {a3 : Int32} {r : xR}, rec80 a0 a1 a2 a3 r = some rr → xB L yX1_joined cX1_joined 5 (some (.object "UnimodularTables$Table")) 2 42 80 [some (.inr (.inr (some (a0))) : xV), some (.inr (.inr (some (a1))) : xV), some (.inr (.inr (some (a2))) : xV), some (.inl (a3) : xV), none] [] (ms, r) (some (.inr (.inr (some rr.1)))) (ms, rr.2)) {a0 : Nat} {a1 : Nat} {a2 : Nat} {a3 : Int32} {r : xR} (h : d_X1_joined_80_s L rec80 a0 a1 a2 a3 r = some rr) : xB L yX1_joined cX1_joined 5 (some (.object "UnimodularTables$Table")) 2 42 80 [some (.inr (.inr (some (a0))) : xV), some (.inr (.inr (some (a1))) : xV), some (.inr (.inr (some (a2))) : xV), some (.inl (a3) : xV), none] [] (ms, r) (some (.inr (.inr (some rr.1)))) (ms, rr.2) := by
  refine x_iload_n (i := 3) 81 rfl dX1_joined_80 rfl rfl ?_
  refine x_aload_n (i := 1) 82 rfl dX1_joined_81 rfl rfl ?_
  refine d_getiN (ci := 2) (k := 0) (C := RX4) (T := TX4) (N := 3) 85 rfl dX1_joined_82 rfl in_X4 (by decide) (List.mem_of_getElem? (i := 5) rfl) h (fun x16 h => ?_)
  refine x_icmp_ge 140 88 rfl dX1_joined_85 rfl h (fun h => ?_) (fun h => ?_)
  · refine x_aload_n (i := 2) 141 rfl dX1_joined_140 rfl rfl ?_
    cases h
    exact x_aret rfl (Or.inl ⟨_, rfl⟩) dX1_joined_141
  · refine x_iconst (0 : Int32) 89 rfl dX1_joined_88 rfl ?_
    refine x_lti h (fun x17 h => ?_)
    refine x_istore 91 rfl dX1_joined_89 (by decide) (lv' := [some (.inr (.inr (some (a0))) : xV), some (.inr (.inr (some (a1))) : xV), some (.inr (.inr (some (a2))) : xV), some (.inl (a3) : xV), some (.inl (x17) : xV)]) rfl ?_
    exact xB.le (xle.s (xle.s (xle.s (xle.s (xle.s xle.z))))) (d_X1_joined_91_L_ok hr80 xFU h)
def d_X1_joined_80_L (L : xL) : Nat → Nat → Nat → Nat → Int32 → xR → Option (Nat × xR)
  | 0 => fun _ _ _ _ _ => none
  | n + 1 => d_X1_joined_80_s L (d_X1_joined_80_L L  n)
theorem d_X1_joined_80_L_ok {L : xL} {ms : xS} {rr : Nat × xR} : ∀ (n9 : Nat) {a0 : Nat} {a1 : Nat} {a2 : Nat} {a3 : Int32} {r : xR}, d_X1_joined_80_L L  n9 a0 a1 a2 a3 r = some rr → xB L yX1_joined cX1_joined 5 (some (.object "UnimodularTables$Table")) 2 42 80 [some (.inr (.inr (some (a0))) : xV), some (.inr (.inr (some (a1))) : xV), some (.inr (.inr (some (a2))) : xV), some (.inl (a3) : xV), none] [] (ms, r) (some (.inr (.inr (some rr.1)))) (ms, rr.2)
  | 0, _, _, _, _, _, h => by cases h
  | n9 + 1, _, _, _, _, _, h => d_X1_joined_80_s_ok (d_X1_joined_80_L_ok  n9) h
def d_X1_joined_39_s (L : xL) (rec28 : Nat → Nat → Nat → Int32 → xR → Option (Nat × xR)) (rec39 : Nat → Nat → Nat → Int32 → Int32 → xR → Option (Nat × xR)) (a0 : Nat) (a1 : Nat) (a2 : Nat) (a3 : Int32) (a4 : Int32) (r : xR) : Option (Nat × xR) := dgi L r a0 2 1 fun x18 => if x18 ≤ a4 then lt (a3 + (1 : Int32)) fun x19 => rec28 a0 a1 a2 x19 r else dgr L r a2 2 2 fun p20 => nn p20 fun p21 => dar L r p21 a3 fun p22 => dgr L r a0 2 2 fun p23 => nn p23 fun p24 => dar L r p24 a3 fun p25 => nn p25 fun p26 => dai L r p26 a4 fun x27 => nn p22 fun p28 => daw L r p28 a4 x27 fun r29 => lt (a4 + (1 : Int32)) fun x30 => rec39 a0 a1 a2 a3 x30 r29
theorem d_X1_joined_39_s_ok {L : xL} {ms : xS} {rr : Nat × xR} {rec28 : Nat → Nat → Nat → Int32 → xR → Option (Nat × xR)} {rec39 : Nat → Nat → Nat → Int32 → Int32 → xR → Option (Nat × xR)} (hr28 : ∀ {a0 : Nat} {a1 : Nat} {a2 : Nat} {a3 : Int32} {r : xR}, rec28 a0 a1 a2 a3 r = some rr → xB L yX1_joined cX1_joined 5 (some (.object "UnimodularTables$Table")) 2 42 28 [some (.inr (.inr (some (a0))) : xV), some (.inr (.inr (some (a1))) : xV), some (.inr (.inr (some (a2))) : xV), some (.inl (a3) : xV), none] [] (ms, r) (some (.inr (.inr (some rr.1)))) (ms, rr.2)) (hr39 : ∀ {a0 : Nat} {a1 : Nat} {a2 : Nat} {a3 : Int32} {a4 : Int32} {r : xR}, rec39 a0 a1 a2 a3 a4 r = some rr → xB L yX1_joined cX1_joined 5 (some (.object "UnimodularTables$Table")) 2 42 39 [some (.inr (.inr (some (a0))) : xV), some (.inr (.inr (some (a1))) : xV), some (.inr (.inr (some (a2))) : xV), some (.inl (a3) : xV), some (.inl (a4) : xV)] [] (ms, r) (some (.inr (.inr (some rr.1)))) (ms, rr.2)) {a0 : Nat} {a1 : Nat} {a2 : Nat} {a3 : Int32} {a4 : Int32} {r : xR} (h : d_X1_joined_39_s L rec28 rec39 a0 a1 a2 a3 a4 r = some rr) : xB L yX1_joined cX1_joined 5 (some (.object "UnimodularTables$Table")) 2 42 39 [some (.inr (.inr (some (a0))) : xV), some (.inr (.inr (some (a1))) : xV), some (.inr (.inr (some (a2))) : xV), some (.inl (a3) : xV), some (.inl (a4) : xV)] [] (ms, r) (some (.inr (.inr (some rr.1)))) (ms, rr.2) := by
  refine x_iload (i := 4) 41 rfl dX1_joined_39 rfl ?_
  refine x_aload_n (i := 0) 42 rfl dX1_joined_41 rfl rfl ?_
  refine d_getiN (ci := 2) (k := 1) (C := RX4) (T := TX4) (N := 3) 45 rfl dX1_joined_42 rfl in_X4 (by decide) (List.mem_of_getElem? (i := 7) rfl) h (fun x18 h => ?_)
  refine x_icmp_ge 72 48 rfl dX1_joined_45 rfl h (fun h => ?_) (fun h => ?_)
  · refine x_iincL (i := 3) (1 : Int32) 75 rfl dX1_joined_72 rfl rfl (by decide) h (fun x19 h => ?_)
    change xB L yX1_joined cX1_joined 5 (some (.object "UnimodularTables$Table")) 2 42 75 [some (.inr (.inr (some (a0))) : xV), some (.inr (.inr (some (a1))) : xV), some (.inr (.inr (some (a2))) : xV), some (.inl (x19) : xV), some (.inl (a4) : xV)] [] (ms, r) _ _
    refine x_goto 28 dX1_joined_75 rfl ?_
    exact xB.le (xle.s (xle.s (xle.s (xle.s (xle.n xle.z))))) (hr28 h)
  · refine x_aload_n (i := 2) 49 rfl dX1_joined_48 rfl rfl ?_
    refine d_getrN (ci := 2) (k := 2) (C := RX4) (T := TX4) (N := 3) 52 rfl dX1_joined_49 rfl in_X4 (by decide) (List.mem_of_getElem? (i := 9) rfl) h (fun p20 h => ?_)
    refine x_iload_n (i := 3) 53 rfl dX1_joined_52 rfl rfl ?_
    refine x_nnP (P := fun p20 => xB L yX1_joined cX1_joined 5 (some (.object "UnimodularTables$Table")) 2 42 53 [some (.inr (.inr (some (a0))) : xV), some (.inr (.inr (some (a1))) : xV), some (.inr (.inr (some (a2))) : xV), some (.inl (a3) : xV), some (.inl (a4) : xV)] [(.inl (a3) : xV), (.inr (.inr (p20)) : xV)] (ms, r) (some (.inr (.inr (some rr.1)))) (ms, rr.2)) h (fun p21 h => ?_)
    refine d_aald 54 rfl dX1_joined_53 h (fun p22 h => ?_)
    refine x_iload (i := 4) 56 rfl dX1_joined_54 rfl ?_
    refine x_aload_n (i := 0) 57 rfl dX1_joined_56 rfl rfl ?_
    refine d_getrN (ci := 2) (k := 2) (C := RX4) (T := TX4) (N := 3) 60 rfl dX1_joined_57 rfl in_X4 (by decide) (List.mem_of_getElem? (i := 9) rfl) h (fun p23 h => ?_)
    refine x_iload_n (i := 3) 61 rfl dX1_joined_60 rfl rfl ?_
    refine x_nnP (P := fun p23 => xB L yX1_joined cX1_joined 5 (some (.object "UnimodularTables$Table")) 2 42 61 [some (.inr (.inr (some (a0))) : xV), some (.inr (.inr (some (a1))) : xV), some (.inr (.inr (some (a2))) : xV), some (.inl (a3) : xV), some (.inl (a4) : xV)] [(.inl (a3) : xV), (.inr (.inr (p23)) : xV), (.inl (a4) : xV), (.inr (.inr (p22)) : xV)] (ms, r) (some (.inr (.inr (some rr.1)))) (ms, rr.2)) h (fun p24 h => ?_)
    refine d_aald 62 rfl dX1_joined_61 h (fun p25 h => ?_)
    refine x_iload (i := 4) 64 rfl dX1_joined_62 rfl ?_
    refine x_nnP (P := fun p25 => xB L yX1_joined cX1_joined 5 (some (.object "UnimodularTables$Table")) 2 42 64 [some (.inr (.inr (some (a0))) : xV), some (.inr (.inr (some (a1))) : xV), some (.inr (.inr (some (a2))) : xV), some (.inl (a3) : xV), some (.inl (a4) : xV)] [(.inl (a4) : xV), (.inr (.inr (p25)) : xV), (.inl (a4) : xV), (.inr (.inr (p22)) : xV)] (ms, r) (some (.inr (.inr (some rr.1)))) (ms, rr.2)) h (fun p26 h => ?_)
    refine d_iald 65 rfl dX1_joined_64 h (fun x27 h => ?_)
    refine x_nnP (P := fun p22 => xB L yX1_joined cX1_joined 5 (some (.object "UnimodularTables$Table")) 2 42 65 [some (.inr (.inr (some (a0))) : xV), some (.inr (.inr (some (a1))) : xV), some (.inr (.inr (some (a2))) : xV), some (.inl (a3) : xV), some (.inl (a4) : xV)] [(.inl (x27) : xV), (.inl (a4) : xV), (.inr (.inr (p22)) : xV)] (ms, r) (some (.inr (.inr (some rr.1)))) (ms, rr.2)) h (fun p28 h => ?_)
    refine d_iast 66 rfl dX1_joined_65 h (fun r29 h => ?_)
    refine x_iincL (i := 4) (1 : Int32) 69 rfl dX1_joined_66 rfl rfl (by decide) h (fun x30 h => ?_)
    change xB L yX1_joined cX1_joined 5 (some (.object "UnimodularTables$Table")) 2 42 69 [some (.inr (.inr (some (a0))) : xV), some (.inr (.inr (some (a1))) : xV), some (.inr (.inr (some (a2))) : xV), some (.inl (a3) : xV), some (.inl (x30) : xV)] [] (ms, r29) _ _
    refine x_goto 39 dX1_joined_69 rfl ?_
    exact xB.le (xle.s (xle.s (xle.s (xle.s (xle.s xle.z))))) (hr39 h)
def d_X1_joined_39_L (L : xL) (rec28 : Nat → Nat → Nat → Int32 → xR → Option (Nat × xR)) : Nat → Nat → Nat → Nat → Int32 → Int32 → xR → Option (Nat × xR)
  | 0 => fun _ _ _ _ _ _ => none
  | n + 1 => d_X1_joined_39_s L rec28 (d_X1_joined_39_L L rec28 n)
theorem d_X1_joined_39_L_ok {L : xL} {ms : xS} {rr : Nat × xR} {rec28 : Nat → Nat → Nat → Int32 → xR → Option (Nat × xR)} (hr28 : ∀ {a0 : Nat} {a1 : Nat} {a2 : Nat} {a3 : Int32} {r : xR}, rec28 a0 a1 a2 a3 r = some rr → xB L yX1_joined cX1_joined 5 (some (.object "UnimodularTables$Table")) 2 42 28 [some (.inr (.inr (some (a0))) : xV), some (.inr (.inr (some (a1))) : xV), some (.inr (.inr (some (a2))) : xV), some (.inl (a3) : xV), none] [] (ms, r) (some (.inr (.inr (some rr.1)))) (ms, rr.2)) : ∀ (n9 : Nat) {a0 : Nat} {a1 : Nat} {a2 : Nat} {a3 : Int32} {a4 : Int32} {r : xR}, d_X1_joined_39_L L rec28 n9 a0 a1 a2 a3 a4 r = some rr → xB L yX1_joined cX1_joined 5 (some (.object "UnimodularTables$Table")) 2 42 39 [some (.inr (.inr (some (a0))) : xV), some (.inr (.inr (some (a1))) : xV), some (.inr (.inr (some (a2))) : xV), some (.inl (a3) : xV), some (.inl (a4) : xV)] [] (ms, r) (some (.inr (.inr (some rr.1)))) (ms, rr.2)
  | 0, _, _, _, _, _, _, h => by cases h
  | n9 + 1, _, _, _, _, _, _, h => d_X1_joined_39_s_ok hr28 (d_X1_joined_39_L_ok hr28 n9) h
def d_X1_joined_28_s (L : xL) (rec28 : Nat → Nat → Nat → Int32 → xR → Option (Nat × xR)) (a0 : Nat) (a1 : Nat) (a2 : Nat) (a3 : Int32) (r : xR) : Option (Nat × xR) := dgi L r a0 2 0 fun x31 => if x31 ≤ a3 then lt ((0 : Int32)) fun x32 => d_X1_joined_80_L L xFU a0 a1 a2 x32 r else lt ((0 : Int32)) fun x33 => d_X1_joined_39_L L rec28 xFU a0 a1 a2 a3 x33 r
theorem d_X1_joined_28_s_ok {L : xL} {ms : xS} {rr : Nat × xR} {rec28 : Nat → Nat → Nat → Int32 → xR → Option (Nat × xR)} (hr28 : ∀ {a0 : Nat} {a1 : Nat} {a2 : Nat} {a3 : Int32} {r : xR}, rec28 a0 a1 a2 a3 r = some rr → xB L yX1_joined cX1_joined 5 (some (.object "UnimodularTables$Table")) 2 42 28 [some (.inr (.inr (some (a0))) : xV), some (.inr (.inr (some (a1))) : xV), some (.inr (.inr (some (a2))) : xV), some (.inl (a3) : xV), none] [] (ms, r) (some (.inr (.inr (some rr.1)))) (ms, rr.2)) {a0 : Nat} {a1 : Nat} {a2 : Nat} {a3 : Int32} {r : xR} (h : d_X1_joined_28_s L rec28 a0 a1 a2 a3 r = some rr) : xB L yX1_joined cX1_joined 5 (some (.object "UnimodularTables$Table")) 2 42 28 [some (.inr (.inr (some (a0))) : xV), some (.inr (.inr (some (a1))) : xV), some (.inr (.inr (some (a2))) : xV), some (.inl (a3) : xV), none] [] (ms, r) (some (.inr (.inr (some rr.1)))) (ms, rr.2) := by
  refine x_iload_n (i := 3) 29 rfl dX1_joined_28 rfl rfl ?_
  refine x_aload_n (i := 0) 30 rfl dX1_joined_29 rfl rfl ?_
  refine d_getiN (ci := 2) (k := 0) (C := RX4) (T := TX4) (N := 3) 33 rfl dX1_joined_30 rfl in_X4 (by decide) (List.mem_of_getElem? (i := 5) rfl) h (fun x31 h => ?_)
  refine x_icmp_ge 78 36 rfl dX1_joined_33 rfl h (fun h => ?_) (fun h => ?_)
  · refine x_iconst (0 : Int32) 79 rfl dX1_joined_78 rfl ?_
    refine x_lti h (fun x32 h => ?_)
    refine x_istore_n 80 rfl dX1_joined_79 rfl (by decide) (lv' := [some (.inr (.inr (some (a0))) : xV), some (.inr (.inr (some (a1))) : xV), some (.inr (.inr (some (a2))) : xV), some (.inl (x32) : xV), none]) rfl ?_
    exact xB.le (xle.s (xle.s (xle.s (xle.s (xle.n xle.z))))) (d_X1_joined_80_L_ok xFU h)
  · refine x_iconst (0 : Int32) 37 rfl dX1_joined_36 rfl ?_
    refine x_lti h (fun x33 h => ?_)
    refine x_istore 39 rfl dX1_joined_37 (by decide) (lv' := [some (.inr (.inr (some (a0))) : xV), some (.inr (.inr (some (a1))) : xV), some (.inr (.inr (some (a2))) : xV), some (.inl (a3) : xV), some (.inl (x33) : xV)]) rfl ?_
    exact xB.le (xle.s (xle.s (xle.s (xle.s (xle.s xle.z))))) (d_X1_joined_39_L_ok hr28 xFU h)
def d_X1_joined_28_L (L : xL) : Nat → Nat → Nat → Nat → Int32 → xR → Option (Nat × xR)
  | 0 => fun _ _ _ _ _ => none
  | n + 1 => d_X1_joined_28_s L (d_X1_joined_28_L L  n)
theorem d_X1_joined_28_L_ok {L : xL} {ms : xS} {rr : Nat × xR} : ∀ (n9 : Nat) {a0 : Nat} {a1 : Nat} {a2 : Nat} {a3 : Int32} {r : xR}, d_X1_joined_28_L L  n9 a0 a1 a2 a3 r = some rr → xB L yX1_joined cX1_joined 5 (some (.object "UnimodularTables$Table")) 2 42 28 [some (.inr (.inr (some (a0))) : xV), some (.inr (.inr (some (a1))) : xV), some (.inr (.inr (some (a2))) : xV), some (.inl (a3) : xV), none] [] (ms, r) (some (.inr (.inr (some rr.1)))) (ms, rr.2)
  | 0, _, _, _, _, _, h => by cases h
  | n9 + 1, _, _, _, _, _, h => d_X1_joined_28_s_ok (d_X1_joined_28_L_ok  n9) h
def d_X1_joined (L : xL) (a0 : Nat) (a1 : Nat) (r : xR) : Option (Nat × xR) := al L r (.inr (.inl (2, xdefV tyX4))) 3 fun p34 r35 => dgi L r35 a0 2 0 fun x36 => dgi L r35 a1 2 0 fun x37 => dgi L r35 a0 2 1 fun x38 => dgi L r35 a1 2 1 fun x39 => cl (d_X4_init L p34 (x36 + x37) (x38 + x39) r35) fun q40 => lt ((0 : Int32)) fun x41 => d_X1_joined_28_L L xFU a0 a1 p34 x41 q40
theorem d_X1_joined_ct {L : xL} {ms : xS} {rr : Nat × xR} {a0 : Nat} {a1 : Nat} {r : xR} (h : d_X1_joined L a0 a1 r = some rr) : xCt L yX1_joined cX1_joined 5 (some (.object "UnimodularTables$Table")) 2 42 [(.inr (.inr (some (a0))) : xV), (.inr (.inr (some (a1))) : xV)] (ms, r) (some (.inr (.inr (some rr.1)))) (ms, rr.2) := by
  refine xCt.of (lv := [some (.inr (.inr (some (a0))) : xV), some (.inr (.inr (some (a1))) : xV), none, none, none]) pl_X1 (Nat.le_of_ble_eq_true rfl) (xle.s (xle.s (xle.m (xle.m (xle.m xle.z))))) ?_
  refine d_new (ci := 2) (C := RX4) (T := TX4) (N := 3) tyX4 3 rfl dX1_joined_0 rfl in_X4 tyX4_ok (by decide) q347 q348 q129 h (fun p34 r35 h => ?_)
  refine x_dup 4 rfl dX1_joined_3 rfl ?_
  refine x_aload_n (i := 0) 5 rfl dX1_joined_4 rfl rfl ?_
  refine d_getiN (ci := 2) (k := 0) (C := RX4) (T := TX4) (N := 3) 8 rfl dX1_joined_5 rfl in_X4 (by decide) (List.mem_of_getElem? (i := 5) rfl) h (fun x36 h => ?_)
  refine x_aload_n (i := 1) 9 rfl dX1_joined_8 rfl rfl ?_
  refine d_getiN (ci := 2) (k := 0) (C := RX4) (T := TX4) (N := 3) 12 rfl dX1_joined_9 rfl in_X4 (by decide) (List.mem_of_getElem? (i := 5) rfl) h (fun x37 h => ?_)
  refine x_iadd 13 rfl dX1_joined_12 ?_
  refine x_aload_n (i := 0) 14 rfl dX1_joined_13 rfl rfl ?_
  refine d_getiN (ci := 2) (k := 1) (C := RX4) (T := TX4) (N := 3) 17 rfl dX1_joined_14 rfl in_X4 (by decide) (List.mem_of_getElem? (i := 7) rfl) h (fun x38 h => ?_)
  refine x_aload_n (i := 1) 18 rfl dX1_joined_17 rfl rfl ?_
  refine d_getiN (ci := 2) (k := 1) (C := RX4) (T := TX4) (N := 3) 21 rfl dX1_joined_18 rfl in_X4 (by decide) (List.mem_of_getElem? (i := 7) rfl) h (fun x39 h => ?_)
  refine x_iadd 22 rfl dX1_joined_21 ?_
  refine x_cl h (fun q40 hq h => ?_)
  refine x_callI (as := [(.inl (x36 + x37) : xV), (.inl (x38 + x39) : xV)]) (w2 := (ms, q40)) [(.inr (.inr (some (p34))) : xV)] 25 rfl dX1_joined_22 (d_X4_init_ct hq) q349 q350 q129 q351 rfl ydX4_init rfl ⟨Nat.le_of_ble_eq_true rfl, Nat.le_of_ble_eq_true rfl⟩ (Nat.le_of_ble_eq_true rfl) rfl ?_
  refine x_astore_n 26 rfl dX1_joined_25 rfl (by decide) (lv' := [some (.inr (.inr (some (a0))) : xV), some (.inr (.inr (some (a1))) : xV), some (.inr (.inr (some (p34))) : xV), none, none]) rfl ?_
  refine x_iconst (0 : Int32) 27 rfl dX1_joined_26 rfl ?_
  refine x_lti h (fun x41 h => ?_)
  refine x_istore_n 28 rfl dX1_joined_27 rfl (by decide) (lv' := [some (.inr (.inr (some (a0))) : xV), some (.inr (.inr (some (a1))) : xV), some (.inr (.inr (some (p34))) : xV), some (.inl (x41) : xV), none]) rfl ?_
  exact xB.le (xle.s (xle.s (xle.s (xle.s (xle.n xle.z))))) (d_X1_joined_28_L_ok xFU h)
/-! UnimodularTables.linked(LUnimodularTables$Table;LUnimodularTables$Table;)LUnimodularTables$Table; -/
theorem ydX1_linked : xHd yX1_linked 2 := by decide +kernel
def d_X1_linked_149_s (L : xL) (rec137 : Nat → Nat → Int32 → Nat → Int32 → xR → Option (Nat × xR)) (rec149 : Nat → Nat → Int32 → Nat → Int32 → Int32 → xR → Option (Nat × xR)) (a0 : Nat) (a1 : Nat) (a2 : Int32) (a3 : Nat) (a4 : Int32) (a5 : Int32) (r : xR) : Option (Nat × xR) := dgi L r a1 2 1 fun x1 => if x1 ≤ a5 then lt (a4 + (1 : Int32)) fun x2 => rec137 a0 a1 a2 a3 x2 r else dgr L r a3 2 2 fun p3 => dgi L r a0 2 0 fun x4 => nn p3 fun p5 => dar L r p5 ((x4 + a4) - (1 : Int32)) fun p6 => dgr L r a1 2 2 fun p7 => nn p7 fun p8 => dar L r p8 a4 fun p9 => nn p9 fun p10 => dai L r p10 a5 fun x11 => nn p6 fun p12 => daw L r p12 (a2 + a5) x11 fun r13 => lt (a5 + (1 : Int32)) fun x14 => rec149 a0 a1 a2 a3 a4 x14 r13
theorem d_X1_linked_149_s_ok {L : xL} {ms : xS} {rr : Nat × xR} {rec137 : Nat → Nat → Int32 → Nat → Int32 → xR → Option (Nat × xR)} {rec149 : Nat → Nat → Int32 → Nat → Int32 → Int32 → xR → Option (Nat × xR)} (hr137 : ∀ {a0 : Nat} {a1 : Nat} {a2 : Int32} {a3 : Nat} {a4 : Int32} {r : xR}, rec137 a0 a1 a2 a3 a4 r = some rr → xB L yX1_linked cX1_linked 6 (some (.object "UnimodularTables$Table")) 2 42 137 [some (.inr (.inr (some (a0))) : xV), some (.inr (.inr (some (a1))) : xV), some (.inl (a2) : xV), some (.inr (.inr (some (a3))) : xV), some (.inl (a4) : xV), none] [] (ms, r) (some (.inr (.inr (some rr.1)))) (ms, rr.2)) (hr149 : ∀ {a0 : Nat} {a1 : Nat} {a2 : Int32} {a3 : Nat} {a4 : Int32} {a5 : Int32} {r : xR}, rec149 a0 a1 a2 a3 a4 a5 r = some rr → xB L yX1_linked cX1_linked 6 (some (.object "UnimodularTables$Table")) 2 42 149 [some (.inr (.inr (some (a0))) : xV), some (.inr (.inr (some (a1))) : xV), some (.inl (a2) : xV), some (.inr (.inr (some (a3))) : xV), some (.inl (a4) : xV), some (.inl (a5) : xV)] [] (ms, r) (some (.inr (.inr (some rr.1)))) (ms, rr.2)) {a0 : Nat} {a1 : Nat} {a2 : Int32} {a3 : Nat} {a4 : Int32} {a5 : Int32} {r : xR} (h : d_X1_linked_149_s L rec137 rec149 a0 a1 a2 a3 a4 a5 r = some rr) : xB L yX1_linked cX1_linked 6 (some (.object "UnimodularTables$Table")) 2 42 149 [some (.inr (.inr (some (a0))) : xV), some (.inr (.inr (some (a1))) : xV), some (.inl (a2) : xV), some (.inr (.inr (some (a3))) : xV), some (.inl (a4) : xV), some (.inl (a5) : xV)] [] (ms, r) (some (.inr (.inr (some rr.1)))) (ms, rr.2) := by
  refine x_iload (i := 5) 151 rfl dX1_linked_149 rfl ?_
  refine x_aload_n (i := 1) 152 rfl dX1_linked_151 rfl rfl ?_
  refine d_getiN (ci := 2) (k := 1) (C := RX4) (T := TX4) (N := 3) 155 rfl dX1_linked_152 rfl in_X4 (by decide) (List.mem_of_getElem? (i := 7) rfl) h (fun x1 h => ?_)
  refine x_icmp_ge 193 158 rfl dX1_linked_155 rfl h (fun h => ?_) (fun h => ?_)
  · refine x_iincL (i := 4) (1 : Int32) 196 rfl dX1_linked_193 rfl rfl (by decide) h (fun x2 h => ?_)
    change xB L yX1_linked cX1_linked 6 (some (.object "UnimodularTables$Table")) 2 42 196 [some (.inr (.inr (some (a0))) : xV), some (.inr (.inr (some (a1))) : xV), some (.inl (a2) : xV), some (.inr (.inr (some (a3))) : xV), some (.inl (x2) : xV), some (.inl (a5) : xV)] [] (ms, r) _ _
    refine x_goto 137 dX1_linked_196 rfl ?_
    exact xB.le (xle.s (xle.s (xle.s (xle.s (xle.s (xle.n xle.z)))))) (hr137 h)
  · refine x_aload_n (i := 3) 159 rfl dX1_linked_158 rfl rfl ?_
    refine d_getrN (ci := 2) (k := 2) (C := RX4) (T := TX4) (N := 3) 162 rfl dX1_linked_159 rfl in_X4 (by decide) (List.mem_of_getElem? (i := 9) rfl) h (fun p3 h => ?_)
    refine x_aload_n (i := 0) 163 rfl dX1_linked_162 rfl rfl ?_
    refine d_getiN (ci := 2) (k := 0) (C := RX4) (T := TX4) (N := 3) 166 rfl dX1_linked_163 rfl in_X4 (by decide) (List.mem_of_getElem? (i := 5) rfl) h (fun x4 h => ?_)
    refine x_iload (i := 4) 168 rfl dX1_linked_166 rfl ?_
    refine x_iadd 169 rfl dX1_linked_168 ?_
    refine x_iconst (1 : Int32) 170 rfl dX1_linked_169 rfl ?_
    refine x_isub 171 rfl dX1_linked_170 ?_
    refine x_nnP (P := fun p3 => xB L yX1_linked cX1_linked 6 (some (.object "UnimodularTables$Table")) 2 42 171 [some (.inr (.inr (some (a0))) : xV), some (.inr (.inr (some (a1))) : xV), some (.inl (a2) : xV), some (.inr (.inr (some (a3))) : xV), some (.inl (a4) : xV), some (.inl (a5) : xV)] [(.inl ((x4 + a4) - (1 : Int32)) : xV), (.inr (.inr (p3)) : xV)] (ms, r) (some (.inr (.inr (some rr.1)))) (ms, rr.2)) h (fun p5 h => ?_)
    refine d_aald 172 rfl dX1_linked_171 h (fun p6 h => ?_)
    refine x_iload_n (i := 2) 173 rfl dX1_linked_172 rfl rfl ?_
    refine x_iload (i := 5) 175 rfl dX1_linked_173 rfl ?_
    refine x_iadd 176 rfl dX1_linked_175 ?_
    refine x_aload_n (i := 1) 177 rfl dX1_linked_176 rfl rfl ?_
    refine d_getrN (ci := 2) (k := 2) (C := RX4) (T := TX4) (N := 3) 180 rfl dX1_linked_177 rfl in_X4 (by decide) (List.mem_of_getElem? (i := 9) rfl) h (fun p7 h => ?_)
    refine x_iload (i := 4) 182 rfl dX1_linked_180 rfl ?_
    refine x_nnP (P := fun p7 => xB L yX1_linked cX1_linked 6 (some (.object "UnimodularTables$Table")) 2 42 182 [some (.inr (.inr (some (a0))) : xV), some (.inr (.inr (some (a1))) : xV), some (.inl (a2) : xV), some (.inr (.inr (some (a3))) : xV), some (.inl (a4) : xV), some (.inl (a5) : xV)] [(.inl (a4) : xV), (.inr (.inr (p7)) : xV), (.inl (a2 + a5) : xV), (.inr (.inr (p6)) : xV)] (ms, r) (some (.inr (.inr (some rr.1)))) (ms, rr.2)) h (fun p8 h => ?_)
    refine d_aald 183 rfl dX1_linked_182 h (fun p9 h => ?_)
    refine x_iload (i := 5) 185 rfl dX1_linked_183 rfl ?_
    refine x_nnP (P := fun p9 => xB L yX1_linked cX1_linked 6 (some (.object "UnimodularTables$Table")) 2 42 185 [some (.inr (.inr (some (a0))) : xV), some (.inr (.inr (some (a1))) : xV), some (.inl (a2) : xV), some (.inr (.inr (some (a3))) : xV), some (.inl (a4) : xV), some (.inl (a5) : xV)] [(.inl (a5) : xV), (.inr (.inr (p9)) : xV), (.inl (a2 + a5) : xV), (.inr (.inr (p6)) : xV)] (ms, r) (some (.inr (.inr (some rr.1)))) (ms, rr.2)) h (fun p10 h => ?_)
    refine d_iald 186 rfl dX1_linked_185 h (fun x11 h => ?_)
    refine x_nnP (P := fun p6 => xB L yX1_linked cX1_linked 6 (some (.object "UnimodularTables$Table")) 2 42 186 [some (.inr (.inr (some (a0))) : xV), some (.inr (.inr (some (a1))) : xV), some (.inl (a2) : xV), some (.inr (.inr (some (a3))) : xV), some (.inl (a4) : xV), some (.inl (a5) : xV)] [(.inl (x11) : xV), (.inl (a2 + a5) : xV), (.inr (.inr (p6)) : xV)] (ms, r) (some (.inr (.inr (some rr.1)))) (ms, rr.2)) h (fun p12 h => ?_)
    refine d_iast 187 rfl dX1_linked_186 h (fun r13 h => ?_)
    refine x_iincL (i := 5) (1 : Int32) 190 rfl dX1_linked_187 rfl rfl (by decide) h (fun x14 h => ?_)
    change xB L yX1_linked cX1_linked 6 (some (.object "UnimodularTables$Table")) 2 42 190 [some (.inr (.inr (some (a0))) : xV), some (.inr (.inr (some (a1))) : xV), some (.inl (a2) : xV), some (.inr (.inr (some (a3))) : xV), some (.inl (a4) : xV), some (.inl (x14) : xV)] [] (ms, r13) _ _
    refine x_goto 149 dX1_linked_190 rfl ?_
    exact xB.le (xle.s (xle.s (xle.s (xle.s (xle.s (xle.s xle.z)))))) (hr149 h)
def d_X1_linked_149_L (L : xL) (rec137 : Nat → Nat → Int32 → Nat → Int32 → xR → Option (Nat × xR)) : Nat → Nat → Nat → Int32 → Nat → Int32 → Int32 → xR → Option (Nat × xR)
  | 0 => fun _ _ _ _ _ _ _ => none
  | n + 1 => d_X1_linked_149_s L rec137 (d_X1_linked_149_L L rec137 n)
theorem d_X1_linked_149_L_ok {L : xL} {ms : xS} {rr : Nat × xR} {rec137 : Nat → Nat → Int32 → Nat → Int32 → xR → Option (Nat × xR)} (hr137 : ∀ {a0 : Nat} {a1 : Nat} {a2 : Int32} {a3 : Nat} {a4 : Int32} {r : xR}, rec137 a0 a1 a2 a3 a4 r = some rr → xB L yX1_linked cX1_linked 6 (some (.object "UnimodularTables$Table")) 2 42 137 [some (.inr (.inr (some (a0))) : xV), some (.inr (.inr (some (a1))) : xV), some (.inl (a2) : xV), some (.inr (.inr (some (a3))) : xV), some (.inl (a4) : xV), none] [] (ms, r) (some (.inr (.inr (some rr.1)))) (ms, rr.2)) : ∀ (n9 : Nat) {a0 : Nat} {a1 : Nat} {a2 : Int32} {a3 : Nat} {a4 : Int32} {a5 : Int32} {r : xR}, d_X1_linked_149_L L rec137 n9 a0 a1 a2 a3 a4 a5 r = some rr → xB L yX1_linked cX1_linked 6 (some (.object "UnimodularTables$Table")) 2 42 149 [some (.inr (.inr (some (a0))) : xV), some (.inr (.inr (some (a1))) : xV), some (.inl (a2) : xV), some (.inr (.inr (some (a3))) : xV), some (.inl (a4) : xV), some (.inl (a5) : xV)] [] (ms, r) (some (.inr (.inr (some rr.1)))) (ms, rr.2)
  | 0, _, _, _, _, _, _, _, h => by cases h
  | n9 + 1, _, _, _, _, _, _, _, h => d_X1_linked_149_s_ok hr137 (d_X1_linked_149_L_ok hr137 n9) h
def d_X1_linked_137_s (L : xL) (rec137 : Nat → Nat → Int32 → Nat → Int32 → xR → Option (Nat × xR)) (a0 : Nat) (a1 : Nat) (a2 : Int32) (a3 : Nat) (a4 : Int32) (r : xR) : Option (Nat × xR) := dgi L r a1 2 0 fun x15 => if x15 ≤ a4 then some (a3, r) else lt ((0 : Int32)) fun x16 => d_X1_linked_149_L L rec137 xFU a0 a1 a2 a3 a4 x16 r
theorem d_X1_linked_137_s_ok {L : xL} {ms : xS} {rr : Nat × xR} {rec137 : Nat → Nat → Int32 → Nat → Int32 → xR → Option (Nat × xR)} (hr137 : ∀ {a0 : Nat} {a1 : Nat} {a2 : Int32} {a3 : Nat} {a4 : Int32} {r : xR}, rec137 a0 a1 a2 a3 a4 r = some rr → xB L yX1_linked cX1_linked 6 (some (.object "UnimodularTables$Table")) 2 42 137 [some (.inr (.inr (some (a0))) : xV), some (.inr (.inr (some (a1))) : xV), some (.inl (a2) : xV), some (.inr (.inr (some (a3))) : xV), some (.inl (a4) : xV), none] [] (ms, r) (some (.inr (.inr (some rr.1)))) (ms, rr.2)) {a0 : Nat} {a1 : Nat} {a2 : Int32} {a3 : Nat} {a4 : Int32} {r : xR} (h : d_X1_linked_137_s L rec137 a0 a1 a2 a3 a4 r = some rr) : xB L yX1_linked cX1_linked 6 (some (.object "UnimodularTables$Table")) 2 42 137 [some (.inr (.inr (some (a0))) : xV), some (.inr (.inr (some (a1))) : xV), some (.inl (a2) : xV), some (.inr (.inr (some (a3))) : xV), some (.inl (a4) : xV), none] [] (ms, r) (some (.inr (.inr (some rr.1)))) (ms, rr.2) := by
  refine x_iload (i := 4) 139 rfl dX1_linked_137 rfl ?_
  refine x_aload_n (i := 1) 140 rfl dX1_linked_139 rfl rfl ?_
  refine d_getiN (ci := 2) (k := 0) (C := RX4) (T := TX4) (N := 3) 143 rfl dX1_linked_140 rfl in_X4 (by decide) (List.mem_of_getElem? (i := 5) rfl) h (fun x15 h => ?_)
  refine x_icmp_ge 199 146 rfl dX1_linked_143 rfl h (fun h => ?_) (fun h => ?_)
  · refine x_aload_n (i := 3) 200 rfl dX1_linked_199 rfl rfl ?_
    cases h
    exact x_aret rfl (Or.inl ⟨_, rfl⟩) dX1_linked_200
  · refine x_iconst (0 : Int32) 147 rfl dX1_linked_146 rfl ?_
    refine x_lti h (fun x16 h => ?_)
    refine x_istore 149 rfl dX1_linked_147 (by decide) (lv' := [some (.inr (.inr (some (a0))) : xV), some (.inr (.inr (some (a1))) : xV), some (.inl (a2) : xV), some (.inr (.inr (some (a3))) : xV), some (.inl (a4) : xV), some (.inl (x16) : xV)]) rfl ?_
    exact xB.le (xle.s (xle.s (xle.s (xle.s (xle.s (xle.s xle.z)))))) (d_X1_linked_149_L_ok hr137 xFU h)
def d_X1_linked_137_L (L : xL) : Nat → Nat → Nat → Int32 → Nat → Int32 → xR → Option (Nat × xR)
  | 0 => fun _ _ _ _ _ _ => none
  | n + 1 => d_X1_linked_137_s L (d_X1_linked_137_L L  n)
theorem d_X1_linked_137_L_ok {L : xL} {ms : xS} {rr : Nat × xR} : ∀ (n9 : Nat) {a0 : Nat} {a1 : Nat} {a2 : Int32} {a3 : Nat} {a4 : Int32} {r : xR}, d_X1_linked_137_L L  n9 a0 a1 a2 a3 a4 r = some rr → xB L yX1_linked cX1_linked 6 (some (.object "UnimodularTables$Table")) 2 42 137 [some (.inr (.inr (some (a0))) : xV), some (.inr (.inr (some (a1))) : xV), some (.inl (a2) : xV), some (.inr (.inr (some (a3))) : xV), some (.inl (a4) : xV), none] [] (ms, r) (some (.inr (.inr (some rr.1)))) (ms, rr.2)
  | 0, _, _, _, _, _, _, h => by cases h
  | n9 + 1, _, _, _, _, _, _, h => d_X1_linked_137_s_ok (d_X1_linked_137_L_ok  n9) h
def d_X1_linked_82_s (L : xL) (rec35 : Nat → Nat → Int32 → Nat → Int32 → xR → Option (Nat × xR)) (rec82 : Nat → Nat → Int32 → Nat → Int32 → Int32 → xR → Option (Nat × xR)) (a0 : Nat) (a1 : Nat) (a2 : Int32) (a3 : Nat) (a4 : Int32) (a5 : Int32) (r : xR) : Option (Nat × xR) := dgi L r a1 2 1 fun x17 => if x17 ≤ a5 then lt (a4 + (1 : Int32)) fun x18 => rec35 a0 a1 a2 a3 x18 r else dgr L r a3 2 2 fun p19 => nn p19 fun p20 => dar L r p20 a4 fun p21 => dgr L r a0 2 2 fun p22 => nn p22 fun p23 => dar L r p23 a4 fun p24 => nn p24 fun p25 => dai L r p25 a2 fun x26 => dgr L r a1 2 2 fun p27 => nn p27 fun p28 => dar L r p28 (0 : Int32) fun p29 => nn p29 fun p30 => dai L r p30 a5 fun x31 => nn p21 fun p32 => daw L r p32 (a2 + a5) (x26 * x31) fun r33 => lt (a5 + (1 : Int32)) fun x34 => rec82 a0 a1 a2 a3 a4 x34 r33
theorem d_X1_linked_82_s_ok {L : xL} {ms : xS} {rr : Nat × xR} {rec35 : Nat → Nat → Int32 → Nat → Int32 → xR → Option (Nat × xR)} {rec82 : Nat → Nat → Int32 → Nat → Int32 → Int32 → xR → Option (Nat × xR)} (hr35 : ∀ {a0 : Nat} {a1 : Nat} {a2 : Int32} {a3 : Nat} {a4 : Int32} {r : xR}, rec35 a0 a1 a2 a3 a4 r = some rr → xB L yX1_linked cX1_linked 6 (some (.object "UnimodularTables$Table")) 2 42 35 [some (.inr (.inr (some (a0))) : xV), some (.inr (.inr (some (a1))) : xV), some (.inl (a2) : xV), some (.inr (.inr (some (a3))) : xV), some (.inl (a4) : xV), none] [] (ms, r) (some (.inr (.inr (some rr.1)))) (ms, rr.2)) (hr82 : ∀ {a0 : Nat} {a1 : Nat} {a2 : Int32} {a3 : Nat} {a4 : Int32} {a5 : Int32} {r : xR}, rec82 a0 a1 a2 a3 a4 a5 r = some rr → xB L yX1_linked cX1_linked 6 (some (.object "UnimodularTables$Table")) 2 42 82 [some (.inr (.inr (some (a0))) : xV), some (.inr (.inr (some (a1))) : xV), some (.inl (a2) : xV), some (.inr (.inr (some (a3))) : xV), some (.inl (a4) : xV), some (.inl (a5) : xV)] [] (ms, r) (some (.inr (.inr (some rr.1)))) (ms, rr.2)) {a0 : Nat} {a1 : Nat} {a2 : Int32} {a3 : Nat} {a4 : Int32} {a5 : Int32} {r : xR} (h : d_X1_linked_82_s L rec35 rec82 a0 a1 a2 a3 a4 a5 r = some rr) : xB L yX1_linked cX1_linked 6 (some (.object "UnimodularTables$Table")) 2 42 82 [some (.inr (.inr (some (a0))) : xV), some (.inr (.inr (some (a1))) : xV), some (.inl (a2) : xV), some (.inr (.inr (some (a3))) : xV), some (.inl (a4) : xV), some (.inl (a5) : xV)] [] (ms, r) (some (.inr (.inr (some rr.1)))) (ms, rr.2) := by
  refine x_iload (i := 5) 84 rfl dX1_linked_82 rfl ?_
  refine x_aload_n (i := 1) 85 rfl dX1_linked_84 rfl rfl ?_
  refine d_getiN (ci := 2) (k := 1) (C := RX4) (T := TX4) (N := 3) 88 rfl dX1_linked_85 rfl in_X4 (by decide) (List.mem_of_getElem? (i := 7) rfl) h (fun x17 h => ?_)
  refine x_icmp_ge 128 91 rfl dX1_linked_88 rfl h (fun h => ?_) (fun h => ?_)
  · refine x_iincL (i := 4) (1 : Int32) 131 rfl dX1_linked_128 rfl rfl (by decide) h (fun x18 h => ?_)
    change xB L yX1_linked cX1_linked 6 (some (.object "UnimodularTables$Table")) 2 42 131 [some (.inr (.inr (some (a0))) : xV), some (.inr (.inr (some (a1))) : xV), some (.inl (a2) : xV), some (.inr (.inr (some (a3))) : xV), some (.inl (x18) : xV), some (.inl (a5) : xV)] [] (ms, r) _ _
    refine x_goto 35 dX1_linked_131 rfl ?_
    exact xB.le (xle.s (xle.s (xle.s (xle.s (xle.s (xle.n xle.z)))))) (hr35 h)
  · refine x_aload_n (i := 3) 92 rfl dX1_linked_91 rfl rfl ?_
    refine d_getrN (ci := 2) (k := 2) (C := RX4) (T := TX4) (N := 3) 95 rfl dX1_linked_92 rfl in_X4 (by decide) (List.mem_of_getElem? (i := 9) rfl) h (fun p19 h => ?_)
    refine x_iload (i := 4) 97 rfl dX1_linked_95 rfl ?_
    refine x_nnP (P := fun p19 => xB L yX1_linked cX1_linked 6 (some (.object "UnimodularTables$Table")) 2 42 97 [some (.inr (.inr (some (a0))) : xV), some (.inr (.inr (some (a1))) : xV), some (.inl (a2) : xV), some (.inr (.inr (some (a3))) : xV), some (.inl (a4) : xV), some (.inl (a5) : xV)] [(.inl (a4) : xV), (.inr (.inr (p19)) : xV)] (ms, r) (some (.inr (.inr (some rr.1)))) (ms, rr.2)) h (fun p20 h => ?_)
    refine d_aald 98 rfl dX1_linked_97 h (fun p21 h => ?_)
    refine x_iload_n (i := 2) 99 rfl dX1_linked_98 rfl rfl ?_
    refine x_iload (i := 5) 101 rfl dX1_linked_99 rfl ?_
    refine x_iadd 102 rfl dX1_linked_101 ?_
    refine x_aload_n (i := 0) 103 rfl dX1_linked_102 rfl rfl ?_
    refine d_getrN (ci := 2) (k := 2) (C := RX4) (T := TX4) (N := 3) 106 rfl dX1_linked_103 rfl in_X4 (by decide) (List.mem_of_getElem? (i := 9) rfl) h (fun p22 h => ?_)
    refine x_iload (i := 4) 108 rfl dX1_linked_106 rfl ?_
    refine x_nnP (P := fun p22 => xB L yX1_linked cX1_linked 6 (some (.object "UnimodularTables$Table")) 2 42 108 [some (.inr (.inr (some (a0))) : xV), some (.inr (.inr (some (a1))) : xV), some (.inl (a2) : xV), some (.inr (.inr (some (a3))) : xV), some (.inl (a4) : xV), some (.inl (a5) : xV)] [(.inl (a4) : xV), (.inr (.inr (p22)) : xV), (.inl (a2 + a5) : xV), (.inr (.inr (p21)) : xV)] (ms, r) (some (.inr (.inr (some rr.1)))) (ms, rr.2)) h (fun p23 h => ?_)
    refine d_aald 109 rfl dX1_linked_108 h (fun p24 h => ?_)
    refine x_iload_n (i := 2) 110 rfl dX1_linked_109 rfl rfl ?_
    refine x_nnP (P := fun p24 => xB L yX1_linked cX1_linked 6 (some (.object "UnimodularTables$Table")) 2 42 110 [some (.inr (.inr (some (a0))) : xV), some (.inr (.inr (some (a1))) : xV), some (.inl (a2) : xV), some (.inr (.inr (some (a3))) : xV), some (.inl (a4) : xV), some (.inl (a5) : xV)] [(.inl (a2) : xV), (.inr (.inr (p24)) : xV), (.inl (a2 + a5) : xV), (.inr (.inr (p21)) : xV)] (ms, r) (some (.inr (.inr (some rr.1)))) (ms, rr.2)) h (fun p25 h => ?_)
    refine d_iald 111 rfl dX1_linked_110 h (fun x26 h => ?_)
    refine x_aload_n (i := 1) 112 rfl dX1_linked_111 rfl rfl ?_
    refine d_getrN (ci := 2) (k := 2) (C := RX4) (T := TX4) (N := 3) 115 rfl dX1_linked_112 rfl in_X4 (by decide) (List.mem_of_getElem? (i := 9) rfl) h (fun p27 h => ?_)
    refine x_iconst (0 : Int32) 116 rfl dX1_linked_115 rfl ?_
    refine x_nnP (P := fun p27 => xB L yX1_linked cX1_linked 6 (some (.object "UnimodularTables$Table")) 2 42 116 [some (.inr (.inr (some (a0))) : xV), some (.inr (.inr (some (a1))) : xV), some (.inl (a2) : xV), some (.inr (.inr (some (a3))) : xV), some (.inl (a4) : xV), some (.inl (a5) : xV)] [(.inl ((0 : Int32)) : xV), (.inr (.inr (p27)) : xV), (.inl (x26) : xV), (.inl (a2 + a5) : xV), (.inr (.inr (p21)) : xV)] (ms, r) (some (.inr (.inr (some rr.1)))) (ms, rr.2)) h (fun p28 h => ?_)
    refine d_aald 117 rfl dX1_linked_116 h (fun p29 h => ?_)
    refine x_iload (i := 5) 119 rfl dX1_linked_117 rfl ?_
    refine x_nnP (P := fun p29 => xB L yX1_linked cX1_linked 6 (some (.object "UnimodularTables$Table")) 2 42 119 [some (.inr (.inr (some (a0))) : xV), some (.inr (.inr (some (a1))) : xV), some (.inl (a2) : xV), some (.inr (.inr (some (a3))) : xV), some (.inl (a4) : xV), some (.inl (a5) : xV)] [(.inl (a5) : xV), (.inr (.inr (p29)) : xV), (.inl (x26) : xV), (.inl (a2 + a5) : xV), (.inr (.inr (p21)) : xV)] (ms, r) (some (.inr (.inr (some rr.1)))) (ms, rr.2)) h (fun p30 h => ?_)
    refine d_iald 120 rfl dX1_linked_119 h (fun x31 h => ?_)
    refine x_imul 121 rfl dX1_linked_120 ?_
    refine x_nnP (P := fun p21 => xB L yX1_linked cX1_linked 6 (some (.object "UnimodularTables$Table")) 2 42 121 [some (.inr (.inr (some (a0))) : xV), some (.inr (.inr (some (a1))) : xV), some (.inl (a2) : xV), some (.inr (.inr (some (a3))) : xV), some (.inl (a4) : xV), some (.inl (a5) : xV)] [(.inl (x26 * x31) : xV), (.inl (a2 + a5) : xV), (.inr (.inr (p21)) : xV)] (ms, r) (some (.inr (.inr (some rr.1)))) (ms, rr.2)) h (fun p32 h => ?_)
    refine d_iast 122 rfl dX1_linked_121 h (fun r33 h => ?_)
    refine x_iincL (i := 5) (1 : Int32) 125 rfl dX1_linked_122 rfl rfl (by decide) h (fun x34 h => ?_)
    change xB L yX1_linked cX1_linked 6 (some (.object "UnimodularTables$Table")) 2 42 125 [some (.inr (.inr (some (a0))) : xV), some (.inr (.inr (some (a1))) : xV), some (.inl (a2) : xV), some (.inr (.inr (some (a3))) : xV), some (.inl (a4) : xV), some (.inl (x34) : xV)] [] (ms, r33) _ _
    refine x_goto 82 dX1_linked_125 rfl ?_
    exact xB.le (xle.s (xle.s (xle.s (xle.s (xle.s (xle.s xle.z)))))) (hr82 h)
def d_X1_linked_82_L (L : xL) (rec35 : Nat → Nat → Int32 → Nat → Int32 → xR → Option (Nat × xR)) : Nat → Nat → Nat → Int32 → Nat → Int32 → Int32 → xR → Option (Nat × xR)
  | 0 => fun _ _ _ _ _ _ _ => none
  | n + 1 => d_X1_linked_82_s L rec35 (d_X1_linked_82_L L rec35 n)
theorem d_X1_linked_82_L_ok {L : xL} {ms : xS} {rr : Nat × xR} {rec35 : Nat → Nat → Int32 → Nat → Int32 → xR → Option (Nat × xR)} (hr35 : ∀ {a0 : Nat} {a1 : Nat} {a2 : Int32} {a3 : Nat} {a4 : Int32} {r : xR}, rec35 a0 a1 a2 a3 a4 r = some rr → xB L yX1_linked cX1_linked 6 (some (.object "UnimodularTables$Table")) 2 42 35 [some (.inr (.inr (some (a0))) : xV), some (.inr (.inr (some (a1))) : xV), some (.inl (a2) : xV), some (.inr (.inr (some (a3))) : xV), some (.inl (a4) : xV), none] [] (ms, r) (some (.inr (.inr (some rr.1)))) (ms, rr.2)) : ∀ (n9 : Nat) {a0 : Nat} {a1 : Nat} {a2 : Int32} {a3 : Nat} {a4 : Int32} {a5 : Int32} {r : xR}, d_X1_linked_82_L L rec35 n9 a0 a1 a2 a3 a4 a5 r = some rr → xB L yX1_linked cX1_linked 6 (some (.object "UnimodularTables$Table")) 2 42 82 [some (.inr (.inr (some (a0))) : xV), some (.inr (.inr (some (a1))) : xV), some (.inl (a2) : xV), some (.inr (.inr (some (a3))) : xV), some (.inl (a4) : xV), some (.inl (a5) : xV)] [] (ms, r) (some (.inr (.inr (some rr.1)))) (ms, rr.2)
  | 0, _, _, _, _, _, _, _, h => by cases h
  | n9 + 1, _, _, _, _, _, _, _, h => d_X1_linked_82_s_ok hr35 (d_X1_linked_82_L_ok hr35 n9) h
def d_X1_linked_47_s (L : xL) (rec35 : Nat → Nat → Int32 → Nat → Int32 → xR → Option (Nat × xR)) (rec47 : Nat → Nat → Int32 → Nat → Int32 → Int32 → xR → Option (Nat × xR)) (a0 : Nat) (a1 : Nat) (a2 : Int32) (a3 : Nat) (a4 : Int32) (a5 : Int32) (r : xR) : Option (Nat × xR) := if a2 ≤ a5 then lt ((0 : Int32)) fun x35 => d_X1_linked_82_L L rec35 xFU a0 a1 a2 a3 a4 x35 r else dgr L r a3 2 2 fun p36 => nn p36 fun p37 => dar L r p37 a4 fun p38 => dgr L r a0 2 2 fun p39 => nn p39 fun p40 => dar L r p40 a4 fun p41 => nn p41 fun p42 => dai L r p42 a5 fun x43 => nn p38 fun p44 => daw L r p44 a5 x43 fun r45 => lt (a5 + (1 : Int32)) fun x46 => rec47 a0 a1 a2 a3 a4 x46 r45
theorem d_X1_linked_47_s_ok {L : xL} {ms : xS} {rr : Nat × xR} {rec35 : Nat → Nat → Int32 → Nat → Int32 → xR → Option (Nat × xR)} {rec47 : Nat → Nat → Int32 → Nat → Int32 → Int32 → xR → Option (Nat × xR)} (hr35 : ∀ {a0 : Nat} {a1 : Nat} {a2 : Int32} {a3 : Nat} {a4 : Int32} {r : xR}, rec35 a0 a1 a2 a3 a4 r = some rr → xB L yX1_linked cX1_linked 6 (some (.object "UnimodularTables$Table")) 2 42 35 [some (.inr (.inr (some (a0))) : xV), some (.inr (.inr (some (a1))) : xV), some (.inl (a2) : xV), some (.inr (.inr (some (a3))) : xV), some (.inl (a4) : xV), none] [] (ms, r) (some (.inr (.inr (some rr.1)))) (ms, rr.2)) (hr47 : ∀ {a0 : Nat} {a1 : Nat} {a2 : Int32} {a3 : Nat} {a4 : Int32} {a5 : Int32} {r : xR}, rec47 a0 a1 a2 a3 a4 a5 r = some rr → xB L yX1_linked cX1_linked 6 (some (.object "UnimodularTables$Table")) 2 42 47 [some (.inr (.inr (some (a0))) : xV), some (.inr (.inr (some (a1))) : xV), some (.inl (a2) : xV), some (.inr (.inr (some (a3))) : xV), some (.inl (a4) : xV), some (.inl (a5) : xV)] [] (ms, r) (some (.inr (.inr (some rr.1)))) (ms, rr.2)) {a0 : Nat} {a1 : Nat} {a2 : Int32} {a3 : Nat} {a4 : Int32} {a5 : Int32} {r : xR} (h : d_X1_linked_47_s L rec35 rec47 a0 a1 a2 a3 a4 a5 r = some rr) : xB L yX1_linked cX1_linked 6 (some (.object "UnimodularTables$Table")) 2 42 47 [some (.inr (.inr (some (a0))) : xV), some (.inr (.inr (some (a1))) : xV), some (.inl (a2) : xV), some (.inr (.inr (some (a3))) : xV), some (.inl (a4) : xV), some (.inl (a5) : xV)] [] (ms, r) (some (.inr (.inr (some rr.1)))) (ms, rr.2) := by
  refine x_iload (i := 5) 49 rfl dX1_linked_47 rfl ?_
  refine x_iload_n (i := 2) 50 rfl dX1_linked_49 rfl rfl ?_
  refine x_icmp_ge 79 53 rfl dX1_linked_50 rfl h (fun h => ?_) (fun h => ?_)
  · refine x_iconst (0 : Int32) 80 rfl dX1_linked_79 rfl ?_
    refine x_lti h (fun x35 h => ?_)
    refine x_istore 82 rfl dX1_linked_80 (by decide) (lv' := [some (.inr (.inr (some (a0))) : xV), some (.inr (.inr (some (a1))) : xV), some (.inl (a2) : xV), some (.inr (.inr (some (a3))) : xV), some (.inl (a4) : xV), some (.inl (x35) : xV)]) rfl ?_
    exact xB.le (xle.s (xle.s (xle.s (xle.s (xle.s (xle.s xle.z)))))) (d_X1_linked_82_L_ok hr35 xFU h)
  · refine x_aload_n (i := 3) 54 rfl dX1_linked_53 rfl rfl ?_
    refine d_getrN (ci := 2) (k := 2) (C := RX4) (T := TX4) (N := 3) 57 rfl dX1_linked_54 rfl in_X4 (by decide) (List.mem_of_getElem? (i := 9) rfl) h (fun p36 h => ?_)
    refine x_iload (i := 4) 59 rfl dX1_linked_57 rfl ?_
    refine x_nnP (P := fun p36 => xB L yX1_linked cX1_linked 6 (some (.object "UnimodularTables$Table")) 2 42 59 [some (.inr (.inr (some (a0))) : xV), some (.inr (.inr (some (a1))) : xV), some (.inl (a2) : xV), some (.inr (.inr (some (a3))) : xV), some (.inl (a4) : xV), some (.inl (a5) : xV)] [(.inl (a4) : xV), (.inr (.inr (p36)) : xV)] (ms, r) (some (.inr (.inr (some rr.1)))) (ms, rr.2)) h (fun p37 h => ?_)
    refine d_aald 60 rfl dX1_linked_59 h (fun p38 h => ?_)
    refine x_iload (i := 5) 62 rfl dX1_linked_60 rfl ?_
    refine x_aload_n (i := 0) 63 rfl dX1_linked_62 rfl rfl ?_
    refine d_getrN (ci := 2) (k := 2) (C := RX4) (T := TX4) (N := 3) 66 rfl dX1_linked_63 rfl in_X4 (by decide) (List.mem_of_getElem? (i := 9) rfl) h (fun p39 h => ?_)
    refine x_iload (i := 4) 68 rfl dX1_linked_66 rfl ?_
    refine x_nnP (P := fun p39 => xB L yX1_linked cX1_linked 6 (some (.object "UnimodularTables$Table")) 2 42 68 [some (.inr (.inr (some (a0))) : xV), some (.inr (.inr (some (a1))) : xV), some (.inl (a2) : xV), some (.inr (.inr (some (a3))) : xV), some (.inl (a4) : xV), some (.inl (a5) : xV)] [(.inl (a4) : xV), (.inr (.inr (p39)) : xV), (.inl (a5) : xV), (.inr (.inr (p38)) : xV)] (ms, r) (some (.inr (.inr (some rr.1)))) (ms, rr.2)) h (fun p40 h => ?_)
    refine d_aald 69 rfl dX1_linked_68 h (fun p41 h => ?_)
    refine x_iload (i := 5) 71 rfl dX1_linked_69 rfl ?_
    refine x_nnP (P := fun p41 => xB L yX1_linked cX1_linked 6 (some (.object "UnimodularTables$Table")) 2 42 71 [some (.inr (.inr (some (a0))) : xV), some (.inr (.inr (some (a1))) : xV), some (.inl (a2) : xV), some (.inr (.inr (some (a3))) : xV), some (.inl (a4) : xV), some (.inl (a5) : xV)] [(.inl (a5) : xV), (.inr (.inr (p41)) : xV), (.inl (a5) : xV), (.inr (.inr (p38)) : xV)] (ms, r) (some (.inr (.inr (some rr.1)))) (ms, rr.2)) h (fun p42 h => ?_)
    refine d_iald 72 rfl dX1_linked_71 h (fun x43 h => ?_)
    refine x_nnP (P := fun p38 => xB L yX1_linked cX1_linked 6 (some (.object "UnimodularTables$Table")) 2 42 72 [some (.inr (.inr (some (a0))) : xV), some (.inr (.inr (some (a1))) : xV), some (.inl (a2) : xV), some (.inr (.inr (some (a3))) : xV), some (.inl (a4) : xV), some (.inl (a5) : xV)] [(.inl (x43) : xV), (.inl (a5) : xV), (.inr (.inr (p38)) : xV)] (ms, r) (some (.inr (.inr (some rr.1)))) (ms, rr.2)) h (fun p44 h => ?_)
    refine d_iast 73 rfl dX1_linked_72 h (fun r45 h => ?_)
    refine x_iincL (i := 5) (1 : Int32) 76 rfl dX1_linked_73 rfl rfl (by decide) h (fun x46 h => ?_)
    change xB L yX1_linked cX1_linked 6 (some (.object "UnimodularTables$Table")) 2 42 76 [some (.inr (.inr (some (a0))) : xV), some (.inr (.inr (some (a1))) : xV), some (.inl (a2) : xV), some (.inr (.inr (some (a3))) : xV), some (.inl (a4) : xV), some (.inl (x46) : xV)] [] (ms, r45) _ _
    refine x_goto 47 dX1_linked_76 rfl ?_
    exact xB.le (xle.s (xle.s (xle.s (xle.s (xle.s (xle.s xle.z)))))) (hr47 h)
def d_X1_linked_47_L (L : xL) (rec35 : Nat → Nat → Int32 → Nat → Int32 → xR → Option (Nat × xR)) : Nat → Nat → Nat → Int32 → Nat → Int32 → Int32 → xR → Option (Nat × xR)
  | 0 => fun _ _ _ _ _ _ _ => none
  | n + 1 => d_X1_linked_47_s L rec35 (d_X1_linked_47_L L rec35 n)
theorem d_X1_linked_47_L_ok {L : xL} {ms : xS} {rr : Nat × xR} {rec35 : Nat → Nat → Int32 → Nat → Int32 → xR → Option (Nat × xR)} (hr35 : ∀ {a0 : Nat} {a1 : Nat} {a2 : Int32} {a3 : Nat} {a4 : Int32} {r : xR}, rec35 a0 a1 a2 a3 a4 r = some rr → xB L yX1_linked cX1_linked 6 (some (.object "UnimodularTables$Table")) 2 42 35 [some (.inr (.inr (some (a0))) : xV), some (.inr (.inr (some (a1))) : xV), some (.inl (a2) : xV), some (.inr (.inr (some (a3))) : xV), some (.inl (a4) : xV), none] [] (ms, r) (some (.inr (.inr (some rr.1)))) (ms, rr.2)) : ∀ (n9 : Nat) {a0 : Nat} {a1 : Nat} {a2 : Int32} {a3 : Nat} {a4 : Int32} {a5 : Int32} {r : xR}, d_X1_linked_47_L L rec35 n9 a0 a1 a2 a3 a4 a5 r = some rr → xB L yX1_linked cX1_linked 6 (some (.object "UnimodularTables$Table")) 2 42 47 [some (.inr (.inr (some (a0))) : xV), some (.inr (.inr (some (a1))) : xV), some (.inl (a2) : xV), some (.inr (.inr (some (a3))) : xV), some (.inl (a4) : xV), some (.inl (a5) : xV)] [] (ms, r) (some (.inr (.inr (some rr.1)))) (ms, rr.2)
  | 0, _, _, _, _, _, _, _, h => by cases h
  | n9 + 1, _, _, _, _, _, _, _, h => d_X1_linked_47_s_ok hr35 (d_X1_linked_47_L_ok hr35 n9) h
def d_X1_linked_35_s (L : xL) (rec35 : Nat → Nat → Int32 → Nat → Int32 → xR → Option (Nat × xR)) (a0 : Nat) (a1 : Nat) (a2 : Int32) (a3 : Nat) (a4 : Int32) (r : xR) : Option (Nat × xR) := dgi L r a0 2 0 fun x47 => if x47 ≤ a4 then lt ((1 : Int32)) fun x48 => d_X1_linked_137_L L xFU a0 a1 a2 a3 x48 r else lt ((0 : Int32)) fun x49 => d_X1_linked_47_L L rec35 xFU a0 a1 a2 a3 a4 x49 r
theorem d_X1_linked_35_s_ok {L : xL} {ms : xS} {rr : Nat × xR} {rec35 : Nat → Nat → Int32 → Nat → Int32 → xR → Option (Nat × xR)} (hr35 : ∀ {a0 : Nat} {a1 : Nat} {a2 : Int32} {a3 : Nat} {a4 : Int32} {r : xR}, rec35 a0 a1 a2 a3 a4 r = some rr → xB L yX1_linked cX1_linked 6 (some (.object "UnimodularTables$Table")) 2 42 35 [some (.inr (.inr (some (a0))) : xV), some (.inr (.inr (some (a1))) : xV), some (.inl (a2) : xV), some (.inr (.inr (some (a3))) : xV), some (.inl (a4) : xV), none] [] (ms, r) (some (.inr (.inr (some rr.1)))) (ms, rr.2)) {a0 : Nat} {a1 : Nat} {a2 : Int32} {a3 : Nat} {a4 : Int32} {r : xR} (h : d_X1_linked_35_s L rec35 a0 a1 a2 a3 a4 r = some rr) : xB L yX1_linked cX1_linked 6 (some (.object "UnimodularTables$Table")) 2 42 35 [some (.inr (.inr (some (a0))) : xV), some (.inr (.inr (some (a1))) : xV), some (.inl (a2) : xV), some (.inr (.inr (some (a3))) : xV), some (.inl (a4) : xV), none] [] (ms, r) (some (.inr (.inr (some rr.1)))) (ms, rr.2) := by
  refine x_iload (i := 4) 37 rfl dX1_linked_35 rfl ?_
  refine x_aload_n (i := 0) 38 rfl dX1_linked_37 rfl rfl ?_
  refine d_getiN (ci := 2) (k := 0) (C := RX4) (T := TX4) (N := 3) 41 rfl dX1_linked_38 rfl in_X4 (by decide) (List.mem_of_getElem? (i := 5) rfl) h (fun x47 h => ?_)
  refine x_icmp_ge 134 44 rfl dX1_linked_41 rfl h (fun h => ?_) (fun h => ?_)
  · refine x_iconst (1 : Int32) 135 rfl dX1_linked_134 rfl ?_
    refine x_lti h (fun x48 h => ?_)
    refine x_istore 137 rfl dX1_linked_135 (by decide) (lv' := [some (.inr (.inr (some (a0))) : xV), some (.inr (.inr (some (a1))) : xV), some (.inl (a2) : xV), some (.inr (.inr (some (a3))) : xV), some (.inl (x48) : xV), none]) rfl ?_
    exact xB.le (xle.s (xle.s (xle.s (xle.s (xle.s (xle.n xle.z)))))) (d_X1_linked_137_L_ok xFU h)
  · refine x_iconst (0 : Int32) 45 rfl dX1_linked_44 rfl ?_
    refine x_lti h (fun x49 h => ?_)
    refine x_istore 47 rfl dX1_linked_45 (by decide) (lv' := [some (.inr (.inr (some (a0))) : xV), some (.inr (.inr (some (a1))) : xV), some (.inl (a2) : xV), some (.inr (.inr (some (a3))) : xV), some (.inl (a4) : xV), some (.inl (x49) : xV)]) rfl ?_
    exact xB.le (xle.s (xle.s (xle.s (xle.s (xle.s (xle.s xle.z)))))) (d_X1_linked_47_L_ok hr35 xFU h)
def d_X1_linked_35_L (L : xL) : Nat → Nat → Nat → Int32 → Nat → Int32 → xR → Option (Nat × xR)
  | 0 => fun _ _ _ _ _ _ => none
  | n + 1 => d_X1_linked_35_s L (d_X1_linked_35_L L  n)
theorem d_X1_linked_35_L_ok {L : xL} {ms : xS} {rr : Nat × xR} : ∀ (n9 : Nat) {a0 : Nat} {a1 : Nat} {a2 : Int32} {a3 : Nat} {a4 : Int32} {r : xR}, d_X1_linked_35_L L  n9 a0 a1 a2 a3 a4 r = some rr → xB L yX1_linked cX1_linked 6 (some (.object "UnimodularTables$Table")) 2 42 35 [some (.inr (.inr (some (a0))) : xV), some (.inr (.inr (some (a1))) : xV), some (.inl (a2) : xV), some (.inr (.inr (some (a3))) : xV), some (.inl (a4) : xV), none] [] (ms, r) (some (.inr (.inr (some rr.1)))) (ms, rr.2)
  | 0, _, _, _, _, _, _, h => by cases h
  | n9 + 1, _, _, _, _, _, _, h => d_X1_linked_35_s_ok (d_X1_linked_35_L_ok  n9) h
def d_X1_linked (L : xL) (a0 : Nat) (a1 : Nat) (r : xR) : Option (Nat × xR) := dgi L r a0 2 1 fun x50 => lt (x50 - (1 : Int32)) fun x51 => al L r (.inr (.inl (2, xdefV tyX4))) 3 fun p52 r53 => dgi L r53 a0 2 0 fun x54 => dgi L r53 a1 2 0 fun x55 => dgi L r53 a1 2 1 fun x56 => cl (d_X4_init L p52 ((x54 + x55) - (1 : Int32)) (x51 + x56) r53) fun q57 => lt ((0 : Int32)) fun x58 => d_X1_linked_35_L L xFU a0 a1 x51 p52 x58 q57
theorem d_X1_linked_ct {L : xL} {ms : xS} {rr : Nat × xR} {a0 : Nat} {a1 : Nat} {r : xR} (h : d_X1_linked L a0 a1 r = some rr) : xCt L yX1_linked cX1_linked 6 (some (.object "UnimodularTables$Table")) 2 42 [(.inr (.inr (some (a0))) : xV), (.inr (.inr (some (a1))) : xV)] (ms, r) (some (.inr (.inr (some rr.1)))) (ms, rr.2) := by
  refine xCt.of (lv := [some (.inr (.inr (some (a0))) : xV), some (.inr (.inr (some (a1))) : xV), none, none, none, none]) pl_X1 (Nat.le_of_ble_eq_true rfl) (xle.s (xle.s (xle.m (xle.m (xle.m (xle.m xle.z)))))) ?_
  refine x_aload_n (i := 0) 1 rfl dX1_linked_0 rfl rfl ?_
  refine d_getiN (ci := 2) (k := 1) (C := RX4) (T := TX4) (N := 3) 4 rfl dX1_linked_1 rfl in_X4 (by decide) (List.mem_of_getElem? (i := 7) rfl) h (fun x50 h => ?_)
  refine x_iconst (1 : Int32) 5 rfl dX1_linked_4 rfl ?_
  refine x_isub 6 rfl dX1_linked_5 ?_
  refine x_lti h (fun x51 h => ?_)
  refine x_istore_n 7 rfl dX1_linked_6 rfl (by decide) (lv' := [some (.inr (.inr (some (a0))) : xV), some (.inr (.inr (some (a1))) : xV), some (.inl (x51) : xV), none, none, none]) rfl ?_
  refine d_new (ci := 2) (C := RX4) (T := TX4) (N := 3) tyX4 10 rfl dX1_linked_7 rfl in_X4 tyX4_ok (by decide) q347 q348 q129 h (fun p52 r53 h => ?_)
  refine x_dup 11 rfl dX1_linked_10 rfl ?_
  refine x_aload_n (i := 0) 12 rfl dX1_linked_11 rfl rfl ?_
  refine d_getiN (ci := 2) (k := 0) (C := RX4) (T := TX4) (N := 3) 15 rfl dX1_linked_12 rfl in_X4 (by decide) (List.mem_of_getElem? (i := 5) rfl) h (fun x54 h => ?_)
  refine x_aload_n (i := 1) 16 rfl dX1_linked_15 rfl rfl ?_
  refine d_getiN (ci := 2) (k := 0) (C := RX4) (T := TX4) (N := 3) 19 rfl dX1_linked_16 rfl in_X4 (by decide) (List.mem_of_getElem? (i := 5) rfl) h (fun x55 h => ?_)
  refine x_iadd 20 rfl dX1_linked_19 ?_
  refine x_iconst (1 : Int32) 21 rfl dX1_linked_20 rfl ?_
  refine x_isub 22 rfl dX1_linked_21 ?_
  refine x_iload_n (i := 2) 23 rfl dX1_linked_22 rfl rfl ?_
  refine x_aload_n (i := 1) 24 rfl dX1_linked_23 rfl rfl ?_
  refine d_getiN (ci := 2) (k := 1) (C := RX4) (T := TX4) (N := 3) 27 rfl dX1_linked_24 rfl in_X4 (by decide) (List.mem_of_getElem? (i := 7) rfl) h (fun x56 h => ?_)
  refine x_iadd 28 rfl dX1_linked_27 ?_
  refine x_cl h (fun q57 hq h => ?_)
  refine x_callI (as := [(.inl ((x54 + x55) - (1 : Int32)) : xV), (.inl (x51 + x56) : xV)]) (w2 := (ms, q57)) [(.inr (.inr (some (p52))) : xV)] 31 rfl dX1_linked_28 (d_X4_init_ct hq) q349 q350 q129 q351 rfl ydX4_init rfl ⟨Nat.le_of_ble_eq_true rfl, Nat.le_of_ble_eq_true rfl⟩ (Nat.le_of_ble_eq_true rfl) rfl ?_
  refine x_astore_n 32 rfl dX1_linked_31 rfl (by decide) (lv' := [some (.inr (.inr (some (a0))) : xV), some (.inr (.inr (some (a1))) : xV), some (.inl (x51) : xV), some (.inr (.inr (some (p52))) : xV), none, none]) rfl ?_
  refine x_iconst (0 : Int32) 33 rfl dX1_linked_32 rfl ?_
  refine x_lti h (fun x58 h => ?_)
  refine x_istore 35 rfl dX1_linked_33 (by decide) (lv' := [some (.inr (.inr (some (a0))) : xV), some (.inr (.inr (some (a1))) : xV), some (.inl (x51) : xV), some (.inr (.inr (some (p52))) : xV), some (.inl (x58) : xV), none]) rfl ?_
  exact xB.le (xle.s (xle.s (xle.s (xle.s (xle.s (xle.n xle.z)))))) (d_X1_linked_35_L_ok xFU h)
section XFc2
variable {L : xL} {y : MethodName} {cc : ByteArray} {nL : Nat} {ret : Option FieldType} {d lo pc : Nat} {lv : List (Option xV)} {ms : xS} {r : xR} {v : Option xV} {w1 : xW} {ix cnt : Nat}
/-- a Back -/
def lbk (r : xR) (c : Nat) : Option xR := match xlm xLL r c with
  | some (6, [.inr (.inr (some 300)), .inr (.inr (some t)), .inl a, .inl b, .inl x]) => x_X1_lambda_setNow_2 t a b x r
  | some (7, [.inr (.inr (some 300)), .inr (.inr (some t))]) => x_X1_lambda_act_1 t r
  | _ => none
theorem x_back {c : Nat} {rr : xR} (rest : List xV) (pn : Nat) (hp : pc + 5 = pn) (hd : decode cc pc = .ok (.invokeinterface ix cnt, 5)) (hlink : Cond.methodLink y.cls ix ⟨"UnimodularTables$Back", "goes", "()V"⟩ ∈ lw_all) (h : lbk r c = some rr) (hroom : 3 ≤ d ∧ 73 ≤ lo) (hr : (rest.map xw).sum ≤ 8) (kk : xB xLL y cc nL ret d lo pn lv rest (ms, rr) v w1) : xB xLL y cc nL ret d lo pc lv ((.inr (.inr (some c)) : xV) :: rest) (ms, r) v w1 := by
  unfold lbk at h
  split at h
  · rename_i hx
    exact x_lam (vv := none) (as := []) (rest := rest) pn hp hd lmt_6 (lm_B (d := 2) (lo := 53) (x_X1_lambda_setNow_2_ct (ms := ms) h) q702 q701 qs14 ⟨_, Or.inl xcell_X0⟩ q118 rfl ydX1_lambda_setNow_2 rfl ⟨Nat.le_of_ble_eq_true rfl, Nat.le_of_ble_eq_true rfl⟩) (xlm_rd hx) ⟨_, _, _, q702⟩ hlink rfl ⟨hroom.1, hroom.2⟩ hr rfl kk
  · rename_i hx
    exact x_lam (vv := none) (as := []) (rest := rest) pn hp hd lmt_7 (lm_C (d := 2) (lo := 53) (x_X1_lambda_act_1_ct (ms := ms) h) q731 q730 qs18 ⟨_, Or.inl xcell_X0⟩ q118 rfl ydX1_lambda_act_1 rfl ⟨Nat.le_of_ble_eq_true rfl, Nat.le_of_ble_eq_true rfl⟩) (xlm_rd hx) ⟨_, _, _, q731⟩ hlink rfl ⟨hroom.1, hroom.2⟩ hr rfl kk
  · cases h
end XFc2
/-! UnimodularTables.undo()I -/
theorem ydX1_undo : xHd yX1_undo 0 := by decide +kernel
def x_X1_undo (r : xR) : Option (Int32 × xR) := if (r.1.1 0 13) = 0 then some ((-1 : Int32), r) else qpi r 0 13 ((r.1.1 0 13) - (1 : Int32)) fun r1 => ix (r1.1.1 0 13) 40 fun _ => lt (r1.1.2.2 6 (r1.1.1 0 13).toNatClampNeg) fun p2 => nn p2 fun p3 => cl (lbk r1 p3) fun q4 => some (q4.1.1 0 13, q4)
theorem x_X1_undo_ct {ms : xS} {rr : Int32 × xR} {r : xR} (h : x_X1_undo r = some rr) : xCt xLL yX1_undo cX1_undo 1 (some .int) 3 73 [(.inr (.inr (some 300)) : xV)] (ms, r) (some (.inl rr.1)) (ms, rr.2) := by
  refine xCt.of (lv := [some (.inr (.inr (some 300)) : xV)]) pl_X1 (Nat.le_of_ble_eq_true rfl) (xle.s xle.z) ?_
  refine x_aload_n (i := 0) 1 rfl dX1_undo_0 rfl rfl ?_
  refine q_get (k := 13) 4 rfl dX1_undo_1 (by decide) q455 rfl ?_
  refine x_if_ne 9 7 rfl dX1_undo_4 rfl h (fun h => ?_) (fun h => ?_)
  · refine x_aload_n (i := 0) 10 rfl dX1_undo_9 rfl rfl ?_
    refine x_dup 11 rfl dX1_undo_10 rfl ?_
    refine q_get (k := 13) 14 rfl dX1_undo_11 (by decide) q455 rfl ?_
    refine x_iconst (1 : Int32) 15 rfl dX1_undo_14 rfl ?_
    refine x_isub 16 rfl dX1_undo_15 ?_
    refine q_puti (k := 13) (z := 0) 19 rfl dX1_undo_16 (by decide) rfl (Or.inl rfl) rfl q455 h (fun r1 h => ?_)
    refine x_aload_n (i := 0) 20 rfl dX1_undo_19 rfl rfl ?_
    refine q_get (k := 12) 23 rfl dX1_undo_20 (by decide) q454 rfl ?_
    refine x_aload_n (i := 0) 24 rfl dX1_undo_23 rfl rfl ?_
    refine q_get (k := 13) 27 rfl dX1_undo_24 (by decide) q455 rfl ?_
    refine x_ix h (fun hi h => ?_)
    refine q_undo hi 28 rfl dX1_undo_27 ?_
    refine x_ltr h (fun p2 h => ?_)
    refine x_nnP (P := fun p2 => xB xLL yX1_undo cX1_undo 1 (some .int) 3 73 28 [some (.inr (.inr (some 300)) : xV)] [(.inr (.inr (p2)) : xV)] (ms, r1) (some (.inl rr.1)) (ms, rr.2)) h (fun p3 h => ?_)
    refine x_cl h (fun q4 hq h => ?_)
    refine x_back [] 33 rfl dX1_undo_28 q813 hq ⟨Nat.le_of_ble_eq_true rfl, Nat.le_of_ble_eq_true rfl⟩ (Nat.le_of_ble_eq_true rfl) ?_
    refine x_aload_n (i := 0) 34 rfl dX1_undo_33 rfl rfl ?_
    refine q_get (k := 13) 37 rfl dX1_undo_34 (by decide) q455 rfl ?_
    cases h
    exact x_iret rfl dX1_undo_37
  · refine x_iconst (-1 : Int32) 8 rfl dX1_undo_7 rfl ?_
    cases h
    exact x_iret rfl dX1_undo_8
/-! java/lang/Integer.bitCount(I)I -/
theorem ydJ18_bitCount : xHd yJ18_bitCount 1 := by decide +kernel
def p_J18_bitCount (a0 : Int32) : Option (Int32) := lt (a0 - ((jushr a0 (1 : Int32)) &&& (1431655765 : Int32))) fun x1 => lt ((x1 &&& (858993459 : Int32)) + ((jushr x1 (2 : Int32)) &&& (858993459 : Int32))) fun x2 => lt ((x2 + (jushr x2 (4 : Int32))) &&& (252645135 : Int32)) fun x3 => lt (x3 + (jushr x3 (8 : Int32))) fun x4 => lt (x4 + (jushr x4 (16 : Int32))) fun x5 => some (x5 &&& (63 : Int32))
theorem p_J18_bitCount_ct {L : xL} {w : xW} {rr : Int32} {a0 : Int32} (h : p_J18_bitCount a0 = some rr) : xCt L yJ18_bitCount cJ18_bitCount 1 (some .int) 0 0 [(.inl (a0) : xV)] w (some (.inl rr)) w := by
  refine xCt.of (lv := [some (.inl (a0) : xV)]) pl_J18 (Nat.le_of_ble_eq_true rfl) (xle.s xle.z) ?_
  refine x_iload_n (i := 0) 1 rfl dJ18_bitCount_0 rfl rfl ?_
  refine x_iload_n (i := 0) 2 rfl dJ18_bitCount_1 rfl rfl ?_
  refine x_iconst (1 : Int32) 3 rfl dJ18_bitCount_2 rfl ?_
  refine x_iushr 4 rfl dJ18_bitCount_3 ?_
  refine x_ldcw 7 rfl dJ18_bitCount_4 q826 ?_
  refine x_iand 8 rfl dJ18_bitCount_7 ?_
  refine x_isub 9 rfl dJ18_bitCount_8 ?_
  refine x_lti h (fun x1 h => ?_)
  refine x_istore_n 10 rfl dJ18_bitCount_9 rfl (by decide) (lv' := [some (.inl (x1) : xV)]) rfl ?_
  refine x_iload_n (i := 0) 11 rfl dJ18_bitCount_10 rfl rfl ?_
  refine x_ldcw 14 rfl dJ18_bitCount_11 q827 ?_
  refine x_iand 15 rfl dJ18_bitCount_14 ?_
  refine x_iload_n (i := 0) 16 rfl dJ18_bitCount_15 rfl rfl ?_
  refine x_iconst (2 : Int32) 17 rfl dJ18_bitCount_16 rfl ?_
  refine x_iushr 18 rfl dJ18_bitCount_17 ?_
  refine x_ldcw 21 rfl dJ18_bitCount_18 q827 ?_
  refine x_iand 22 rfl dJ18_bitCount_21 ?_
  refine x_iadd 23 rfl dJ18_bitCount_22 ?_
  refine x_lti h (fun x2 h => ?_)
  refine x_istore_n 24 rfl dJ18_bitCount_23 rfl (by decide) (lv' := [some (.inl (x2) : xV)]) rfl ?_
  refine x_iload_n (i := 0) 25 rfl dJ18_bitCount_24 rfl rfl ?_
  refine x_iload_n (i := 0) 26 rfl dJ18_bitCount_25 rfl rfl ?_
  refine x_iconst (4 : Int32) 27 rfl dJ18_bitCount_26 rfl ?_
  refine x_iushr 28 rfl dJ18_bitCount_27 ?_
  refine x_iadd 29 rfl dJ18_bitCount_28 ?_
  refine x_ldcw 32 rfl dJ18_bitCount_29 q828 ?_
  refine x_iand 33 rfl dJ18_bitCount_32 ?_
  refine x_lti h (fun x3 h => ?_)
  refine x_istore_n 34 rfl dJ18_bitCount_33 rfl (by decide) (lv' := [some (.inl (x3) : xV)]) rfl ?_
  refine x_iload_n (i := 0) 35 rfl dJ18_bitCount_34 rfl rfl ?_
  refine x_iload_n (i := 0) 36 rfl dJ18_bitCount_35 rfl rfl ?_
  refine x_bipush (8 : Int32) 38 rfl dJ18_bitCount_36 rfl ?_
  refine x_iushr 39 rfl dJ18_bitCount_38 ?_
  refine x_iadd 40 rfl dJ18_bitCount_39 ?_
  refine x_lti h (fun x4 h => ?_)
  refine x_istore_n 41 rfl dJ18_bitCount_40 rfl (by decide) (lv' := [some (.inl (x4) : xV)]) rfl ?_
  refine x_iload_n (i := 0) 42 rfl dJ18_bitCount_41 rfl rfl ?_
  refine x_iload_n (i := 0) 43 rfl dJ18_bitCount_42 rfl rfl ?_
  refine x_bipush (16 : Int32) 45 rfl dJ18_bitCount_43 rfl ?_
  refine x_iushr 46 rfl dJ18_bitCount_45 ?_
  refine x_iadd 47 rfl dJ18_bitCount_46 ?_
  refine x_lti h (fun x5 h => ?_)
  refine x_istore_n 48 rfl dJ18_bitCount_47 rfl (by decide) (lv' := [some (.inl (x5) : xV)]) rfl ?_
  refine x_iload_n (i := 0) 49 rfl dJ18_bitCount_48 rfl rfl ?_
  refine x_bipush (63 : Int32) 51 rfl dJ18_bitCount_49 rfl ?_
  refine x_iand 52 rfl dJ18_bitCount_51 ?_
  cases h
  exact x_iret rfl dJ18_bitCount_52
/-! UnimodularTables.isSquare(LUnimodularTables$Table;II)Z -/
theorem ydX1_isSquare : xHd yX1_isSquare 3 := by decide +kernel
def x_X1_isSquare (a0 : Nat) (a1 : Int32) (a2 : Int32) (r : xR) : Option (Int32 × xR) := if a1 ≤ 0 then some ((0 : Int32), r) else if a2 ≤ 0 then some ((0 : Int32), r) else dgi xLL r a0 2 0 fun x1 => if (jshl (1 : Int32) x1) ≤ a1 then some ((0 : Int32), r) else dgi xLL r a0 2 1 fun x2 => if (jshl (1 : Int32) x2) ≤ a2 then some ((0 : Int32), r) else cl (p_J18_bitCount a1) fun q3 => cl (p_J18_bitCount a2) fun q4 => if q3 = q4 then some ((1 : Int32), r) else some ((0 : Int32), r)
theorem x_X1_isSquare_ct {ms : xS} {rr : Int32 × xR} {a0 : Nat} {a1 : Int32} {a2 : Int32} {r : xR} (h : x_X1_isSquare a0 a1 a2 r = some rr) : xCt xLL yX1_isSquare cX1_isSquare 3 (some .boolean) 1 20 [(.inr (.inr (some (a0))) : xV), (.inl (a1) : xV), (.inl (a2) : xV)] (ms, r) (some (.inl rr.1)) (ms, rr.2) := by
  refine xCt.of (lv := [some (.inr (.inr (some (a0))) : xV), some (.inl (a1) : xV), some (.inl (a2) : xV)]) pl_X1 (Nat.le_of_ble_eq_true rfl) (xle.s (xle.s (xle.s xle.z))) ?_
  refine x_iload_n (i := 1) 1 rfl dX1_isSquare_0 rfl rfl ?_
  refine x_if_le 43 4 rfl dX1_isSquare_1 rfl h (fun h => ?_) (fun h => ?_)
  · refine x_iconst (0 : Int32) 44 rfl dX1_isSquare_43 rfl ?_
    cases h
    exact x_zret rfl (Or.inl rfl) dX1_isSquare_44
  · refine x_iload_n (i := 2) 5 rfl dX1_isSquare_4 rfl rfl ?_
    refine x_if_le 43 8 rfl dX1_isSquare_5 rfl h (fun h => ?_) (fun h => ?_)
    · refine x_iconst (0 : Int32) 44 rfl dX1_isSquare_43 rfl ?_
      cases h
      exact x_zret rfl (Or.inl rfl) dX1_isSquare_44
    · refine x_iload_n (i := 1) 9 rfl dX1_isSquare_8 rfl rfl ?_
      refine x_iconst (1 : Int32) 10 rfl dX1_isSquare_9 rfl ?_
      refine x_aload_n (i := 0) 11 rfl dX1_isSquare_10 rfl rfl ?_
      refine d_getiN (ci := 2) (k := 0) (C := RX4) (T := TX4) (N := 3) 14 rfl dX1_isSquare_11 rfl in_X4 (by decide) (List.mem_of_getElem? (i := 5) rfl) h (fun x1 h => ?_)
      refine x_ishl 15 rfl dX1_isSquare_14 ?_
      refine x_icmp_ge 43 18 rfl dX1_isSquare_15 rfl h (fun h => ?_) (fun h => ?_)
      · refine x_iconst (0 : Int32) 44 rfl dX1_isSquare_43 rfl ?_
        cases h
        exact x_zret rfl (Or.inl rfl) dX1_isSquare_44
      · refine x_iload_n (i := 2) 19 rfl dX1_isSquare_18 rfl rfl ?_
        refine x_iconst (1 : Int32) 20 rfl dX1_isSquare_19 rfl ?_
        refine x_aload_n (i := 0) 21 rfl dX1_isSquare_20 rfl rfl ?_
        refine d_getiN (ci := 2) (k := 1) (C := RX4) (T := TX4) (N := 3) 24 rfl dX1_isSquare_21 rfl in_X4 (by decide) (List.mem_of_getElem? (i := 7) rfl) h (fun x2 h => ?_)
        refine x_ishl 25 rfl dX1_isSquare_24 ?_
        refine x_icmp_ge 43 28 rfl dX1_isSquare_25 rfl h (fun h => ?_) (fun h => ?_)
        · refine x_iconst (0 : Int32) 44 rfl dX1_isSquare_43 rfl ?_
          cases h
          exact x_zret rfl (Or.inl rfl) dX1_isSquare_44
        · refine x_iload_n (i := 1) 29 rfl dX1_isSquare_28 rfl rfl ?_
          refine x_cl h (fun q3 hq h => ?_)
          refine x_callS (as := [(.inl (a1) : xV)]) (rest := []) (vv := (some (.inl (q3) : xV))) (w2 := (ms, r)) 32 rfl dX1_isSquare_29 (p_J18_bitCount_ct hq) (lw_S q823 q824 q142 q825) ydJ18_bitCount rfl ⟨Nat.le_of_ble_eq_true rfl, Nat.le_of_ble_eq_true rfl⟩ (Nat.le_of_ble_eq_true rfl) rfl ?_
          change xB xLL yX1_isSquare cX1_isSquare 3 (some .boolean) 1 20 32 [some (.inr (.inr (some (a0))) : xV), some (.inl (a1) : xV), some (.inl (a2) : xV)] [(.inl (q3) : xV)] (ms, r) _ _
          refine x_iload_n (i := 2) 33 rfl dX1_isSquare_32 rfl rfl ?_
          refine x_cl h (fun q4 hq h => ?_)
          refine x_callS (as := [(.inl (a2) : xV)]) (rest := [(.inl (q3) : xV)]) (vv := (some (.inl (q4) : xV))) (w2 := (ms, r)) 36 rfl dX1_isSquare_33 (p_J18_bitCount_ct hq) (lw_S q823 q824 q142 q825) ydJ18_bitCount rfl ⟨Nat.le_of_ble_eq_true rfl, Nat.le_of_ble_eq_true rfl⟩ (Nat.le_of_ble_eq_true rfl) rfl ?_
          change xB xLL yX1_isSquare cX1_isSquare 3 (some .boolean) 1 20 36 [some (.inr (.inr (some (a0))) : xV), some (.inl (a1) : xV), some (.inl (a2) : xV)] [(.inl (q4) : xV), (.inl (q3) : xV)] (ms, r) _ _
          refine x_icmp_ne 43 39 rfl dX1_isSquare_36 rfl h (fun h => ?_) (fun h => ?_)
          · refine x_iconst (0 : Int32) 44 rfl dX1_isSquare_43 rfl ?_
            cases h
            exact x_zret rfl (Or.inl rfl) dX1_isSquare_44
          · refine x_iconst (1 : Int32) 40 rfl dX1_isSquare_39 rfl ?_
            refine x_goto 44 dX1_isSquare_40 rfl ?_
            cases h
            exact x_zret rfl (Or.inr rfl) dX1_isSquare_44
/-! java/lang/Integer.numberOfTrailingZeros(I)I -/
theorem ydJ18_numberOfTrailingZeros : xHd yJ18_numberOfTrailingZeros 1 := by decide +kernel
def p_J18_numberOfTrailingZeros_74 (a0 : Int32) (a1 : Int32) : Option (Int32) := some (a1 + (jushr a0 (1 : Int32)))
theorem p_J18_numberOfTrailingZeros_74_ok {L : xL} {w : xW} {rr : Int32} {a0 : Int32} {a1 : Int32} (h : p_J18_numberOfTrailingZeros_74  a0 a1 = some rr) : xB L yJ18_numberOfTrailingZeros cJ18_numberOfTrailingZeros 2 (some .int) 0 0 74 [some (.inl (a0) : xV), some (.inl (a1) : xV)] [] w (some (.inl rr)) w := by
  refine x_iload_n (i := 1) 75 rfl dJ18_numberOfTrailingZeros_74 rfl rfl ?_
  refine x_iload_n (i := 0) 76 rfl dJ18_numberOfTrailingZeros_75 rfl rfl ?_
  refine x_iconst (1 : Int32) 77 rfl dJ18_numberOfTrailingZeros_76 rfl ?_
  refine x_iushr 78 rfl dJ18_numberOfTrailingZeros_77 ?_
  refine x_iadd 79 rfl dJ18_numberOfTrailingZeros_78 ?_
  cases h
  exact x_iret rfl dJ18_numberOfTrailingZeros_79
def p_J18_numberOfTrailingZeros_62 (a0 : Int32) (a1 : Int32) : Option (Int32) := if a0 ≤ (4 : Int32) then p_J18_numberOfTrailingZeros_74 a0 a1 else lt (a1 + (2 : Int32)) fun x1 => lt (jushr a0 (2 : Int32)) fun x2 => p_J18_numberOfTrailingZeros_74 x2 x1
theorem p_J18_numberOfTrailingZeros_62_ok {L : xL} {w : xW} {rr : Int32} {a0 : Int32} {a1 : Int32} (h : p_J18_numberOfTrailingZeros_62  a0 a1 = some rr) : xB L yJ18_numberOfTrailingZeros cJ18_numberOfTrailingZeros 2 (some .int) 0 0 62 [some (.inl (a0) : xV), some (.inl (a1) : xV)] [] w (some (.inl rr)) w := by
  refine x_iload_n (i := 0) 63 rfl dJ18_numberOfTrailingZeros_62 rfl rfl ?_
  refine x_iconst (4 : Int32) 64 rfl dJ18_numberOfTrailingZeros_63 rfl ?_
  refine x_icmp_le 74 67 rfl dJ18_numberOfTrailingZeros_64 rfl h (fun h => ?_) (fun h => ?_)
  · exact xB.le (xle.s (xle.s xle.z)) (p_J18_numberOfTrailingZeros_74_ok h)
  · refine x_iincL (i := 1) (2 : Int32) 70 rfl dJ18_numberOfTrailingZeros_67 rfl rfl (by decide) h (fun x1 h => ?_)
    change xB L yJ18_numberOfTrailingZeros cJ18_numberOfTrailingZeros 2 (some .int) 0 0 70 [some (.inl (a0) : xV), some (.inl (x1) : xV)] [] w _ _
    refine x_iload_n (i := 0) 71 rfl dJ18_numberOfTrailingZeros_70 rfl rfl ?_
    refine x_iconst (2 : Int32) 72 rfl dJ18_numberOfTrailingZeros_71 rfl ?_
    refine x_iushr 73 rfl dJ18_numberOfTrailingZeros_72 ?_
    refine x_lti h (fun x2 h => ?_)
    refine x_istore_n 74 rfl dJ18_numberOfTrailingZeros_73 rfl (by decide) (lv' := [some (.inl (x2) : xV), some (.inl (x1) : xV)]) rfl ?_
    exact xB.le (xle.s (xle.s xle.z)) (p_J18_numberOfTrailingZeros_74_ok h)
def p_J18_numberOfTrailingZeros_49 (a0 : Int32) (a1 : Int32) : Option (Int32) := if a0 ≤ (16 : Int32) then p_J18_numberOfTrailingZeros_62 a0 a1 else lt (a1 + (4 : Int32)) fun x3 => lt (jushr a0 (4 : Int32)) fun x4 => p_J18_numberOfTrailingZeros_62 x4 x3
theorem p_J18_numberOfTrailingZeros_49_ok {L : xL} {w : xW} {rr : Int32} {a0 : Int32} {a1 : Int32} (h : p_J18_numberOfTrailingZeros_49  a0 a1 = some rr) : xB L yJ18_numberOfTrailingZeros cJ18_numberOfTrailingZeros 2 (some .int) 0 0 49 [some (.inl (a0) : xV), some (.inl (a1) : xV)] [] w (some (.inl rr)) w := by
  refine x_iload_n (i := 0) 50 rfl dJ18_numberOfTrailingZeros_49 rfl rfl ?_
  refine x_bipush (16 : Int32) 52 rfl dJ18_numberOfTrailingZeros_50 rfl ?_
  refine x_icmp_le 62 55 rfl dJ18_numberOfTrailingZeros_52 rfl h (fun h => ?_) (fun h => ?_)
  · exact xB.le (xle.s (xle.s xle.z)) (p_J18_numberOfTrailingZeros_62_ok h)
  · refine x_iincL (i := 1) (4 : Int32) 58 rfl dJ18_numberOfTrailingZeros_55 rfl rfl (by decide) h (fun x3 h => ?_)
    change xB L yJ18_numberOfTrailingZeros cJ18_numberOfTrailingZeros 2 (some .int) 0 0 58 [some (.inl (a0) : xV), some (.inl (x3) : xV)] [] w _ _
    refine x_iload_n (i := 0) 59 rfl dJ18_numberOfTrailingZeros_58 rfl rfl ?_
    refine x_iconst (4 : Int32) 60 rfl dJ18_numberOfTrailingZeros_59 rfl ?_
    refine x_iushr 61 rfl dJ18_numberOfTrailingZeros_60 ?_
    refine x_lti h (fun x4 h => ?_)
    refine x_istore_n 62 rfl dJ18_numberOfTrailingZeros_61 rfl (by decide) (lv' := [some (.inl (x4) : xV), some (.inl (x3) : xV)]) rfl ?_
    exact xB.le (xle.s (xle.s xle.z)) (p_J18_numberOfTrailingZeros_62_ok h)
def p_J18_numberOfTrailingZeros_34 (a0 : Int32) (a1 : Int32) : Option (Int32) := if a0 ≤ (256 : Int32) then p_J18_numberOfTrailingZeros_49 a0 a1 else lt (a1 + (8 : Int32)) fun x5 => lt (jushr a0 (8 : Int32)) fun x6 => p_J18_numberOfTrailingZeros_49 x6 x5
theorem p_J18_numberOfTrailingZeros_34_ok {L : xL} {w : xW} {rr : Int32} {a0 : Int32} {a1 : Int32} (h : p_J18_numberOfTrailingZeros_34  a0 a1 = some rr) : xB L yJ18_numberOfTrailingZeros cJ18_numberOfTrailingZeros 2 (some .int) 0 0 34 [some (.inl (a0) : xV), some (.inl (a1) : xV)] [] w (some (.inl rr)) w := by
  refine x_iload_n (i := 0) 35 rfl dJ18_numberOfTrailingZeros_34 rfl rfl ?_
  refine x_sipush (256 : Int32) 38 rfl dJ18_numberOfTrailingZeros_35 rfl ?_
  refine x_icmp_le 49 41 rfl dJ18_numberOfTrailingZeros_38 rfl h (fun h => ?_) (fun h => ?_)
  · exact xB.le (xle.s (xle.s xle.z)) (p_J18_numberOfTrailingZeros_49_ok h)
  · refine x_iincL (i := 1) (8 : Int32) 44 rfl dJ18_numberOfTrailingZeros_41 rfl rfl (by decide) h (fun x5 h => ?_)
    change xB L yJ18_numberOfTrailingZeros cJ18_numberOfTrailingZeros 2 (some .int) 0 0 44 [some (.inl (a0) : xV), some (.inl (x5) : xV)] [] w _ _
    refine x_iload_n (i := 0) 45 rfl dJ18_numberOfTrailingZeros_44 rfl rfl ?_
    refine x_bipush (8 : Int32) 47 rfl dJ18_numberOfTrailingZeros_45 rfl ?_
    refine x_iushr 48 rfl dJ18_numberOfTrailingZeros_47 ?_
    refine x_lti h (fun x6 h => ?_)
    refine x_istore_n 49 rfl dJ18_numberOfTrailingZeros_48 rfl (by decide) (lv' := [some (.inl (x6) : xV), some (.inl (x5) : xV)]) rfl ?_
    exact xB.le (xle.s (xle.s xle.z)) (p_J18_numberOfTrailingZeros_49_ok h)
def p_J18_numberOfTrailingZeros (a0 : Int32) : Option (Int32) := lt ((a0 ^^^ (-1 : Int32)) &&& (a0 - (1 : Int32))) fun x7 => if 0 < x7 then lt ((1 : Int32)) fun x8 => if x7 ≤ (65536 : Int32) then p_J18_numberOfTrailingZeros_34 x7 x8 else lt (x8 + (16 : Int32)) fun x9 => lt (jushr x7 (16 : Int32)) fun x10 => p_J18_numberOfTrailingZeros_34 x10 x9 else some (x7 &&& (32 : Int32))
theorem p_J18_numberOfTrailingZeros_ct {L : xL} {w : xW} {rr : Int32} {a0 : Int32} (h : p_J18_numberOfTrailingZeros a0 = some rr) : xCt L yJ18_numberOfTrailingZeros cJ18_numberOfTrailingZeros 2 (some .int) 0 0 [(.inl (a0) : xV)] w (some (.inl rr)) w := by
  refine xCt.of (lv := [some (.inl (a0) : xV), none]) pl_J18 (Nat.le_of_ble_eq_true rfl) (xle.s (xle.m xle.z)) ?_
  refine x_iload_n (i := 0) 1 rfl dJ18_numberOfTrailingZeros_0 rfl rfl ?_
  refine x_iconst (-1 : Int32) 2 rfl dJ18_numberOfTrailingZeros_1 rfl ?_
  refine x_ixor 3 rfl dJ18_numberOfTrailingZeros_2 ?_
  refine x_iload_n (i := 0) 4 rfl dJ18_numberOfTrailingZeros_3 rfl rfl ?_
  refine x_iconst (1 : Int32) 5 rfl dJ18_numberOfTrailingZeros_4 rfl ?_
  refine x_isub 6 rfl dJ18_numberOfTrailingZeros_5 ?_
  refine x_iand 7 rfl dJ18_numberOfTrailingZeros_6 ?_
  refine x_lti h (fun x7 h => ?_)
  refine x_istore_n 8 rfl dJ18_numberOfTrailingZeros_7 rfl (by decide) (lv' := [some (.inl (x7) : xV), none]) rfl ?_
  refine x_iload_n (i := 0) 9 rfl dJ18_numberOfTrailingZeros_8 rfl rfl ?_
  refine x_if_gt 17 12 rfl dJ18_numberOfTrailingZeros_9 rfl h (fun h => ?_) (fun h => ?_)
  · refine x_iconst (1 : Int32) 18 rfl dJ18_numberOfTrailingZeros_17 rfl ?_
    refine x_lti h (fun x8 h => ?_)
    refine x_istore_n 19 rfl dJ18_numberOfTrailingZeros_18 rfl (by decide) (lv' := [some (.inl (x7) : xV), some (.inl (x8) : xV)]) rfl ?_
    refine x_iload_n (i := 0) 20 rfl dJ18_numberOfTrailingZeros_19 rfl rfl ?_
    refine x_ldcw 23 rfl dJ18_numberOfTrailingZeros_20 q839 ?_
    refine x_icmp_le 34 26 rfl dJ18_numberOfTrailingZeros_23 rfl h (fun h => ?_) (fun h => ?_)
    · exact xB.le (xle.s (xle.s xle.z)) (p_J18_numberOfTrailingZeros_34_ok h)
    · refine x_iincL (i := 1) (16 : Int32) 29 rfl dJ18_numberOfTrailingZeros_26 rfl rfl (by decide) h (fun x9 h => ?_)
      change xB L yJ18_numberOfTrailingZeros cJ18_numberOfTrailingZeros 2 (some .int) 0 0 29 [some (.inl (x7) : xV), some (.inl (x9) : xV)] [] w _ _
      refine x_iload_n (i := 0) 30 rfl dJ18_numberOfTrailingZeros_29 rfl rfl ?_
      refine x_bipush (16 : Int32) 32 rfl dJ18_numberOfTrailingZeros_30 rfl ?_
      refine x_iushr 33 rfl dJ18_numberOfTrailingZeros_32 ?_
      refine x_lti h (fun x10 h => ?_)
      refine x_istore_n 34 rfl dJ18_numberOfTrailingZeros_33 rfl (by decide) (lv' := [some (.inl (x10) : xV), some (.inl (x9) : xV)]) rfl ?_
      exact xB.le (xle.s (xle.s xle.z)) (p_J18_numberOfTrailingZeros_34_ok h)
  · refine x_iload_n (i := 0) 13 rfl dJ18_numberOfTrailingZeros_12 rfl rfl ?_
    refine x_bipush (32 : Int32) 15 rfl dJ18_numberOfTrailingZeros_13 rfl ?_
    refine x_iand 16 rfl dJ18_numberOfTrailingZeros_15 ?_
    cases h
    exact x_iret rfl dJ18_numberOfTrailingZeros_16
