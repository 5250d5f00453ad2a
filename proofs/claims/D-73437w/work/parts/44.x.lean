set_option maxRecDepth 100000
/-! UnimodularTables.arc(III)I -/
theorem ydX1_arc : xHd yX1_arc 3 := by decide +kernel
def x_X1_arc (a1 : Int32) (a2 : Int32) (a3 : Int32) (r : xR) : Option (Int32 × xR) := cl (x_X1_isGrown a1 r) fun q1 => if q1.1 = 0 then some ((-1 : Int32), q1.2) else ix a1 2 fun _ => gok a1.toNatClampNeg <| lt (q1.2.1.2.2 (12 + 18 * a1.toNatClampNeg) 5) fun p3 => nn p3 fun p4 => cl (x_X1_isRow p4 a2 q1.2) fun q5 => if q5.1 = 0 then some ((-1 : Int32), q5.2) else cl (p_X1_in a3 (0 : Int32) (1 : Int32)) fun q6 => if q6 = 0 then some ((-1 : Int32), q5.2) else if a3 = 0 then ix a1 2 fun _ => gok a1.toNatClampNeg <| qrd q5.2 (13 + 18 * a1.toNatClampNeg) a2 fun x10 => some (x10, q5.2) else ix a1 2 fun _ => gok a1.toNatClampNeg <| qrd q5.2 (14 + 18 * a1.toNatClampNeg) a2 fun x8 => some (x8, q5.2)
theorem x_X1_arc_ct {ms : xS} {rr : Int32 × xR} {a1 : Int32} {a2 : Int32} {a3 : Int32} {r : xR} (h : x_X1_arc a1 a2 a3 r = some rr) : xCt xLL yX1_arc cX1_arc 4 (some .int) 16 3156 [(.inr (.inr (some 300)) : xV), (.inl (a1) : xV), (.inl (a2) : xV), (.inl (a3) : xV)] (ms, r) (some (.inl rr.1)) (ms, rr.2) := by
  refine xCt.of (lv := [some (.inr (.inr (some 300)) : xV), some (.inl (a1) : xV), some (.inl (a2) : xV), some (.inl (a3) : xV)]) pl_X1 (Nat.le_of_ble_eq_true rfl) (xle.s (xle.s (xle.s (xle.s xle.z)))) ?_
  refine x_aload_n (i := 0) 1 rfl dX1_arc_0 rfl rfl ?_
  refine x_iload_n (i := 1) 2 rfl dX1_arc_1 rfl rfl ?_
  refine x_cl h (fun q1 hq h => ?_)
  refine x_callV (as := [(.inl (a1) : xV)]) (rest := []) (vv := (some (.inl (q1.1) : xV))) (w2 := (ms, q1.2)) (C := RX1) (T := TX1) (N := 34) 5 rfl dX1_arc_2 (x_X1_isGrown_ct hq) (Or.inl xcell_X0) rfl (lw_V q900 q902 qs28 q118 q903) rfl ydX1_isGrown rfl ⟨Nat.le_of_ble_eq_true rfl, Nat.le_of_ble_eq_true rfl⟩ (Nat.le_of_ble_eq_true rfl) rfl ?_
  change xB xLL yX1_arc cX1_arc 4 (some .int) 16 3156 5 [some (.inr (.inr (some 300)) : xV), some (.inl (a1) : xV), some (.inl (a2) : xV), some (.inl (a3) : xV)] [(.inl (q1.1) : xV)] (ms, q1.2) _ _
  refine x_if_eq 33 8 rfl dX1_arc_5 rfl h (fun h => ?_) (fun h => ?_)
  · refine x_iconst (-1 : Int32) 34 rfl dX1_arc_33 rfl ?_
    cases h
    exact x_iret rfl dX1_arc_34
  · refine x_aload_n (i := 0) 9 rfl dX1_arc_8 rfl rfl ?_
    refine q_get (k := 21) 12 rfl dX1_arc_9 (by decide) q463 rfl ?_
    refine x_iload_n (i := 1) 13 rfl dX1_arc_12 rfl rfl ?_
    refine x_ix h (fun hi h => ?_)
    refine q_sides hi 14 rfl dX1_arc_13 ?_
    refine x_gok h (fun hg h => ?_)
    refine g_getN (k := 5) 17 rfl dX1_arc_14 (by decide) (List.mem_of_getElem? (i := 4) rfl) hg rfl ?_
    refine x_ltr h (fun p3 h => ?_)
    refine x_iload_n (i := 2) 18 rfl dX1_arc_17 rfl rfl ?_
    refine x_nnP (P := fun p3 => xB xLL yX1_arc cX1_arc 4 (some .int) 16 3156 18 [some (.inr (.inr (some 300)) : xV), some (.inl (a1) : xV), some (.inl (a2) : xV), some (.inl (a3) : xV)] [(.inl (a2) : xV), (.inr (.inr (p3)) : xV)] (ms, q1.2) (some (.inl rr.1)) (ms, rr.2)) h (fun p4 h => ?_)
    refine x_cl h (fun q5 hq h => ?_)
    refine x_callS (as := [(.inr (.inr (some (p4))) : xV), (.inl (a2) : xV)]) (rest := []) (vv := (some (.inl (q5.1) : xV))) (w2 := (ms, q5.2)) 21 rfl dX1_arc_18 (x_X1_isRow_ct hq) (lw_S q686 q687 q118 q688) ydX1_isRow rfl ⟨Nat.le_of_ble_eq_true rfl, Nat.le_of_ble_eq_true rfl⟩ (Nat.le_of_ble_eq_true rfl) rfl ?_
    change xB xLL yX1_arc cX1_arc 4 (some .int) 16 3156 21 [some (.inr (.inr (some 300)) : xV), some (.inl (a1) : xV), some (.inl (a2) : xV), some (.inl (a3) : xV)] [(.inl (q5.1) : xV)] (ms, q5.2) _ _
    refine x_if_eq 33 24 rfl dX1_arc_21 rfl h (fun h => ?_) (fun h => ?_)
    · refine x_iconst (-1 : Int32) 34 rfl dX1_arc_33 rfl ?_
      cases h
      exact x_iret rfl dX1_arc_34
    · refine x_iload_n (i := 3) 25 rfl dX1_arc_24 rfl rfl ?_
      refine x_iconst (0 : Int32) 26 rfl dX1_arc_25 rfl ?_
      refine x_iconst (1 : Int32) 27 rfl dX1_arc_26 rfl ?_
      refine x_cl h (fun q6 hq h => ?_)
      refine x_callS (as := [(.inl (a3) : xV), (.inl ((0 : Int32)) : xV), (.inl ((1 : Int32)) : xV)]) (rest := []) (vv := (some (.inl (q6) : xV))) (w2 := (ms, q5.2)) 30 rfl dX1_arc_27 (p_X1_in_ct hq) (lw_S q556 q557 q118 q558) ydX1_in rfl ⟨Nat.le_of_ble_eq_true rfl, Nat.le_of_ble_eq_true rfl⟩ (Nat.le_of_ble_eq_true rfl) rfl ?_
      change xB xLL yX1_arc cX1_arc 4 (some .int) 16 3156 30 [some (.inr (.inr (some 300)) : xV), some (.inl (a1) : xV), some (.inl (a2) : xV), some (.inl (a3) : xV)] [(.inl (q6) : xV)] (ms, q5.2) _ _
      refine x_if_ne 35 33 rfl dX1_arc_30 rfl h (fun h => ?_) (fun h => ?_)
      · refine x_iload_n (i := 3) 36 rfl dX1_arc_35 rfl rfl ?_
        refine x_if_ne 53 39 rfl dX1_arc_36 rfl h (fun h => ?_) (fun h => ?_)
        · refine x_aload_n (i := 0) 54 rfl dX1_arc_53 rfl rfl ?_
          refine q_get (k := 21) 57 rfl dX1_arc_54 (by decide) q463 rfl ?_
          refine x_iload_n (i := 1) 58 rfl dX1_arc_57 rfl rfl ?_
          refine x_ix h (fun hi h => ?_)
          refine q_sides hi 59 rfl dX1_arc_58 ?_
          refine x_gok h (fun hg h => ?_)
          refine g_getN (k := 1) 62 rfl dX1_arc_59 (by decide) (List.mem_of_getElem? (i := 2) rfl) hg rfl ?_
          refine x_iload_n (i := 2) 63 rfl dX1_arc_62 rfl rfl ?_
          refine q_iald 64 rfl dX1_arc_63 h (fun x8 h => ?_)
          cases h
          exact x_iret rfl dX1_arc_64
        · refine x_aload_n (i := 0) 40 rfl dX1_arc_39 rfl rfl ?_
          refine q_get (k := 21) 43 rfl dX1_arc_40 (by decide) q463 rfl ?_
          refine x_iload_n (i := 1) 44 rfl dX1_arc_43 rfl rfl ?_
          refine x_ix h (fun hi h => ?_)
          refine q_sides hi 45 rfl dX1_arc_44 ?_
          refine x_gok h (fun hg h => ?_)
          refine g_getN (k := 0) 48 rfl dX1_arc_45 (by decide) (List.mem_of_getElem? (i := 1) rfl) hg rfl ?_
          refine x_iload_n (i := 2) 49 rfl dX1_arc_48 rfl rfl ?_
          refine q_iald 50 rfl dX1_arc_49 h (fun x10 h => ?_)
          refine x_goto 64 dX1_arc_50 rfl ?_
          cases h
          exact x_iret rfl dX1_arc_64
      · refine x_iconst (-1 : Int32) 34 rfl dX1_arc_33 rfl ?_
        cases h
        exact x_iret rfl dX1_arc_34
/-! UnimodularTables.isTold(II)Z -/
theorem ydX1_isTold : xHd yX1_isTold 2 := by decide +kernel
def x_X1_isTold_30 (r : xR) : Option (Int32 × xR) := some ((0 : Int32), r)
theorem x_X1_isTold_30_ok {ms : xS} {rr : Int32 × xR} {r : xR} (h : x_X1_isTold_30  r = some rr) : xB xLL yX1_isTold cX1_isTold 3 (some .boolean) 0 0 30 [none, none, none] [] (ms, r) (some (.inl rr.1)) (ms, rr.2) := by
  refine x_iconst (0 : Int32) 31 rfl dX1_isTold_30 rfl ?_
  refine x_goto 59 dX1_isTold_31 rfl ?_
  cases h
  exact x_zret rfl (Or.inl rfl) dX1_isTold_59
def x_X1_isTold (a1 : Int32) (a2 : Int32) (r : xR) : Option (Int32 × xR) := if (6 : Int32) ≤ a1 then if (6 : Int32) ≤ a2 then some ((0 : Int32), r) else ix a2 6 fun _ => qrd r (49 + a2.toNatClampNeg) (a1 - (6 : Int32)) fun x2 => if x2 = 0 then some ((0 : Int32), r) else some ((1 : Int32), r) else if a2 < (6 : Int32) then x_X1_isTold_30 r else ix a1 6 fun _ => qrd r (49 + a1.toNatClampNeg) (a2 - (6 : Int32)) fun x4 => if x4 = 0 then x_X1_isTold_30 r else some ((1 : Int32), r)
theorem x_X1_isTold_ct {ms : xS} {rr : Int32 × xR} {a1 : Int32} {a2 : Int32} {r : xR} (h : x_X1_isTold a1 a2 r = some rr) : xCt xLL yX1_isTold cX1_isTold 3 (some .boolean) 0 0 [(.inr (.inr (some 300)) : xV), (.inl (a1) : xV), (.inl (a2) : xV)] (ms, r) (some (.inl rr.1)) (ms, rr.2) := by
  refine xCt.of (lv := [some (.inr (.inr (some 300)) : xV), some (.inl (a1) : xV), some (.inl (a2) : xV)]) pl_X1 (Nat.le_of_ble_eq_true rfl) (xle.s (xle.s (xle.s xle.z))) ?_
  refine x_iload_n (i := 1) 1 rfl dX1_isTold_0 rfl rfl ?_
  refine x_bipush (6 : Int32) 3 rfl dX1_isTold_1 rfl ?_
  refine x_icmp_ge 34 6 rfl dX1_isTold_3 rfl h (fun h => ?_) (fun h => ?_)
  · refine x_iload_n (i := 2) 35 rfl dX1_isTold_34 rfl rfl ?_
    refine x_bipush (6 : Int32) 37 rfl dX1_isTold_35 rfl ?_
    refine x_icmp_ge 58 40 rfl dX1_isTold_37 rfl h (fun h => ?_) (fun h => ?_)
    · refine x_iconst (0 : Int32) 59 rfl dX1_isTold_58 rfl ?_
      cases h
      exact x_zret rfl (Or.inl rfl) dX1_isTold_59
    · refine x_aload_n (i := 0) 41 rfl dX1_isTold_40 rfl rfl ?_
      refine q_get (k := 22) 44 rfl dX1_isTold_41 (by decide) q464 rfl ?_
      refine x_iload_n (i := 2) 45 rfl dX1_isTold_44 rfl rfl ?_
      refine x_ix h (fun hi h => ?_)
      refine q_signs hi 46 rfl dX1_isTold_45 ?_
      refine x_iload_n (i := 1) 47 rfl dX1_isTold_46 rfl rfl ?_
      refine x_bipush (6 : Int32) 49 rfl dX1_isTold_47 rfl ?_
      refine x_isub 50 rfl dX1_isTold_49 ?_
      refine q_iald 51 rfl dX1_isTold_50 h (fun x2 h => ?_)
      refine x_if_eq 58 54 rfl dX1_isTold_51 rfl h (fun h => ?_) (fun h => ?_)
      · refine x_iconst (0 : Int32) 59 rfl dX1_isTold_58 rfl ?_
        cases h
        exact x_zret rfl (Or.inl rfl) dX1_isTold_59
      · refine x_iconst (1 : Int32) 55 rfl dX1_isTold_54 rfl ?_
        refine x_goto 59 dX1_isTold_55 rfl ?_
        cases h
        exact x_zret rfl (Or.inr rfl) dX1_isTold_59
  · refine x_iload_n (i := 2) 7 rfl dX1_isTold_6 rfl rfl ?_
    refine x_bipush (6 : Int32) 9 rfl dX1_isTold_7 rfl ?_
    refine x_icmp_lt 30 12 rfl dX1_isTold_9 rfl h (fun h => ?_) (fun h => ?_)
    · exact xB.le (xle.n (xle.n (xle.n xle.z))) (x_X1_isTold_30_ok h)
    · refine x_aload_n (i := 0) 13 rfl dX1_isTold_12 rfl rfl ?_
      refine q_get (k := 22) 16 rfl dX1_isTold_13 (by decide) q464 rfl ?_
      refine x_iload_n (i := 1) 17 rfl dX1_isTold_16 rfl rfl ?_
      refine x_ix h (fun hi h => ?_)
      refine q_signs hi 18 rfl dX1_isTold_17 ?_
      refine x_iload_n (i := 2) 19 rfl dX1_isTold_18 rfl rfl ?_
      refine x_bipush (6 : Int32) 21 rfl dX1_isTold_19 rfl ?_
      refine x_isub 22 rfl dX1_isTold_21 ?_
      refine q_iald 23 rfl dX1_isTold_22 h (fun x4 h => ?_)
      refine x_if_eq 30 26 rfl dX1_isTold_23 rfl h (fun h => ?_) (fun h => ?_)
      · exact xB.le (xle.n (xle.n (xle.n xle.z))) (x_X1_isTold_30_ok h)
      · refine x_iconst (1 : Int32) 27 rfl dX1_isTold_26 rfl ?_
        refine x_goto 59 dX1_isTold_27 rfl ?_
        cases h
        exact x_zret rfl (Or.inr rfl) dX1_isTold_59
/-! UnimodularTables.signsOnWay(I)I -/
theorem ydX1_signsOnWay : xHd yX1_signsOnWay 1 := by decide +kernel
def x_X1_signsOnWay_84 (rec4 : Int32 → Int32 → xR → Option (Int32 × xR)) (a4 : Int32) (s0 : Int32) (s1 : Int32) (r : xR) : Option (Int32 × xR) := lt (s1 + s0) fun x1 => rec4 x1 a4 r
theorem x_X1_signsOnWay_84_ok {ms : xS} {rr : Int32 × xR} {rec4 : Int32 → Int32 → xR → Option (Int32 × xR)} (hr4 : ∀ {a2 : Int32} {a3 : Int32} {r : xR}, rec4 a2 a3 r = some rr → xB xLL yX1_signsOnWay cX1_signsOnWay 5 (some .int) 1 22 4 [some (.inr (.inr (some 300)) : xV), none, some (.inl (a2) : xV), some (.inl (a3) : xV), none] [] (ms, r) (some (.inl rr.1)) (ms, rr.2)) {a4 : Int32} {s0 : Int32} {s1 : Int32} {r : xR} (h : x_X1_signsOnWay_84 rec4 a4 s0 s1 r = some rr) : xB xLL yX1_signsOnWay cX1_signsOnWay 5 (some .int) 1 22 84 [some (.inr (.inr (some 300)) : xV), none, none, none, some (.inl (a4) : xV)] [(.inl (s0) : xV), (.inl (s1) : xV)] (ms, r) (some (.inl rr.1)) (ms, rr.2) := by
  refine x_iadd 85 rfl dX1_signsOnWay_84 ?_
  refine x_lti h (fun x1 h => ?_)
  refine x_istore_n 86 rfl dX1_signsOnWay_85 rfl (by decide) (lv' := [some (.inr (.inr (some 300)) : xV), none, some (.inl (x1) : xV), none, some (.inl (a4) : xV)]) rfl ?_
  refine x_iload (i := 4) 88 rfl dX1_signsOnWay_86 rfl ?_
  refine x_istore_n 89 rfl dX1_signsOnWay_88 rfl (by decide) (lv' := [some (.inr (.inr (some 300)) : xV), none, some (.inl (x1) : xV), some (.inl (a4) : xV), some (.inl (a4) : xV)]) rfl ?_
  refine x_goto 4 dX1_signsOnWay_89 rfl ?_
  exact xB.le (xle.s (xle.n (xle.s (xle.s (xle.n xle.z))))) (hr4 h)
def x_X1_signsOnWay_44 (rec4 : Int32 → Int32 → xR → Option (Int32 × xR)) (rec16 : Int32 → Int32 → Int32 → xR → Option (Int32 × xR)) (a2 : Int32) (a3 : Int32) (a4 : Int32) (r : xR) : Option (Int32 × xR) := lt (a4 + (1 : Int32)) fun x2 => rec16 a2 a3 x2 r
theorem x_X1_signsOnWay_44_ok {ms : xS} {rr : Int32 × xR} {rec4 : Int32 → Int32 → xR → Option (Int32 × xR)} {rec16 : Int32 → Int32 → Int32 → xR → Option (Int32 × xR)} (hr4 : ∀ {a2 : Int32} {a3 : Int32} {r : xR}, rec4 a2 a3 r = some rr → xB xLL yX1_signsOnWay cX1_signsOnWay 5 (some .int) 1 22 4 [some (.inr (.inr (some 300)) : xV), none, some (.inl (a2) : xV), some (.inl (a3) : xV), none] [] (ms, r) (some (.inl rr.1)) (ms, rr.2)) (hr16 : ∀ {a2 : Int32} {a3 : Int32} {a4 : Int32} {r : xR}, rec16 a2 a3 a4 r = some rr → xB xLL yX1_signsOnWay cX1_signsOnWay 5 (some .int) 1 22 16 [some (.inr (.inr (some 300)) : xV), none, some (.inl (a2) : xV), some (.inl (a3) : xV), some (.inl (a4) : xV)] [] (ms, r) (some (.inl rr.1)) (ms, rr.2)) {a2 : Int32} {a3 : Int32} {a4 : Int32} {r : xR} (h : x_X1_signsOnWay_44 rec4 rec16 a2 a3 a4 r = some rr) : xB xLL yX1_signsOnWay cX1_signsOnWay 5 (some .int) 1 22 44 [some (.inr (.inr (some 300)) : xV), none, some (.inl (a2) : xV), some (.inl (a3) : xV), some (.inl (a4) : xV)] [] (ms, r) (some (.inl rr.1)) (ms, rr.2) := by
  refine x_iincL (i := 4) (1 : Int32) 47 rfl dX1_signsOnWay_44 rfl rfl (by decide) h (fun x2 h => ?_)
  change xB xLL yX1_signsOnWay cX1_signsOnWay 5 (some .int) 1 22 47 [some (.inr (.inr (some 300)) : xV), none, some (.inl (a2) : xV), some (.inl (a3) : xV), some (.inl (x2) : xV)] [] (ms, r) _ _
  refine x_goto 16 dX1_signsOnWay_47 rfl ?_
  exact xB.le (xle.s (xle.n (xle.s (xle.s (xle.s xle.z))))) (hr16 h)
def x_X1_signsOnWay_16_s (rec4 : Int32 → Int32 → xR → Option (Int32 × xR)) (rec16 : Int32 → Int32 → Int32 → xR → Option (Int32 × xR)) (a2 : Int32) (a3 : Int32) (a4 : Int32) (r : xR) : Option (Int32 × xR) := cl (x_X1_isTold a3 a4 r) fun q3 => if q3.1 = 0 then x_X1_signsOnWay_44 rec4 rec16 a2 a3 a4 q3.2 else qrd q3.2 55 a4 fun x4 => qrd q3.2 55 a3 fun x5 => if x4 = (x5 - (1 : Int32)) then if (6 : Int32) ≤ a3 then ix a4 6 fun _ => qrd q3.2 (49 + a4.toNatClampNeg) (a3 - (6 : Int32)) fun x7 => x_X1_signsOnWay_84 rec4 a4 x7 a2 q3.2 else ix a3 6 fun _ => qrd q3.2 (49 + a3.toNatClampNeg) (a4 - (6 : Int32)) fun x9 => x_X1_signsOnWay_84 rec4 a4 x9 a2 q3.2 else x_X1_signsOnWay_44 rec4 rec16 a2 a3 a4 q3.2
theorem x_X1_signsOnWay_16_s_ok {ms : xS} {rr : Int32 × xR} {rec4 : Int32 → Int32 → xR → Option (Int32 × xR)} {rec16 : Int32 → Int32 → Int32 → xR → Option (Int32 × xR)} (hr4 : ∀ {a2 : Int32} {a3 : Int32} {r : xR}, rec4 a2 a3 r = some rr → xB xLL yX1_signsOnWay cX1_signsOnWay 5 (some .int) 1 22 4 [some (.inr (.inr (some 300)) : xV), none, some (.inl (a2) : xV), some (.inl (a3) : xV), none] [] (ms, r) (some (.inl rr.1)) (ms, rr.2)) (hr16 : ∀ {a2 : Int32} {a3 : Int32} {a4 : Int32} {r : xR}, rec16 a2 a3 a4 r = some rr → xB xLL yX1_signsOnWay cX1_signsOnWay 5 (some .int) 1 22 16 [some (.inr (.inr (some 300)) : xV), none, some (.inl (a2) : xV), some (.inl (a3) : xV), some (.inl (a4) : xV)] [] (ms, r) (some (.inl rr.1)) (ms, rr.2)) {a2 : Int32} {a3 : Int32} {a4 : Int32} {r : xR} (h : x_X1_signsOnWay_16_s rec4 rec16 a2 a3 a4 r = some rr) : xB xLL yX1_signsOnWay cX1_signsOnWay 5 (some .int) 1 22 16 [some (.inr (.inr (some 300)) : xV), none, some (.inl (a2) : xV), some (.inl (a3) : xV), some (.inl (a4) : xV)] [] (ms, r) (some (.inl rr.1)) (ms, rr.2) := by
  refine x_aload_n (i := 0) 17 rfl dX1_signsOnWay_16 rfl rfl ?_
  refine x_iload_n (i := 3) 18 rfl dX1_signsOnWay_17 rfl rfl ?_
  refine x_iload (i := 4) 20 rfl dX1_signsOnWay_18 rfl ?_
  refine x_cl h (fun q3 hq h => ?_)
  refine x_callV (as := [(.inl (a3) : xV), (.inl (a4) : xV)]) (rest := []) (vv := (some (.inl (q3.1) : xV))) (w2 := (ms, q3.2)) (C := RX1) (T := TX1) (N := 34) 23 rfl dX1_signsOnWay_20 (x_X1_isTold_ct hq) (Or.inl xcell_X0) rfl (lw_V q1619 q1621 qs49 q118 q1622) rfl ydX1_isTold rfl ⟨Nat.le_of_ble_eq_true rfl, Nat.le_of_ble_eq_true rfl⟩ (Nat.le_of_ble_eq_true rfl) rfl ?_
  change xB xLL yX1_signsOnWay cX1_signsOnWay 5 (some .int) 1 22 23 [some (.inr (.inr (some 300)) : xV), none, some (.inl (a2) : xV), some (.inl (a3) : xV), some (.inl (a4) : xV)] [(.inl (q3.1) : xV)] (ms, q3.2) _ _
  refine x_if_eq 44 26 rfl dX1_signsOnWay_23 rfl h (fun h => ?_) (fun h => ?_)
  · exact xB.le (xle.s (xle.n (xle.s (xle.s (xle.s xle.z))))) (x_X1_signsOnWay_44_ok hr4 hr16 h)
  · refine x_aload_n (i := 0) 27 rfl dX1_signsOnWay_26 rfl rfl ?_
    refine q_get (k := 23) 30 rfl dX1_signsOnWay_27 (by decide) q465 rfl ?_
    refine x_iload (i := 4) 32 rfl dX1_signsOnWay_30 rfl ?_
    refine q_iald 33 rfl dX1_signsOnWay_32 h (fun x4 h => ?_)
    refine x_aload_n (i := 0) 34 rfl dX1_signsOnWay_33 rfl rfl ?_
    refine q_get (k := 23) 37 rfl dX1_signsOnWay_34 (by decide) q465 rfl ?_
    refine x_iload_n (i := 3) 38 rfl dX1_signsOnWay_37 rfl rfl ?_
    refine q_iald 39 rfl dX1_signsOnWay_38 h (fun x5 h => ?_)
    refine x_iconst (1 : Int32) 40 rfl dX1_signsOnWay_39 rfl ?_
    refine x_isub 41 rfl dX1_signsOnWay_40 ?_
    refine x_icmp_eq 50 44 rfl dX1_signsOnWay_41 rfl h (fun h => ?_) (fun h => ?_)
    · refine x_iload_n (i := 2) 51 rfl dX1_signsOnWay_50 rfl rfl ?_
      refine x_iload_n (i := 3) 52 rfl dX1_signsOnWay_51 rfl rfl ?_
      refine x_bipush (6 : Int32) 54 rfl dX1_signsOnWay_52 rfl ?_
      refine x_icmp_ge 72 57 rfl dX1_signsOnWay_54 rfl h (fun h => ?_) (fun h => ?_)
      · refine x_aload_n (i := 0) 73 rfl dX1_signsOnWay_72 rfl rfl ?_
        refine q_get (k := 22) 76 rfl dX1_signsOnWay_73 (by decide) q464 rfl ?_
        refine x_iload (i := 4) 78 rfl dX1_signsOnWay_76 rfl ?_
        refine x_ix h (fun hi h => ?_)
        refine q_signs hi 79 rfl dX1_signsOnWay_78 ?_
        refine x_iload_n (i := 3) 80 rfl dX1_signsOnWay_79 rfl rfl ?_
        refine x_bipush (6 : Int32) 82 rfl dX1_signsOnWay_80 rfl ?_
        refine x_isub 83 rfl dX1_signsOnWay_82 ?_
        refine q_iald 84 rfl dX1_signsOnWay_83 h (fun x7 h => ?_)
        exact xB.le (xle.s (xle.n (xle.n (xle.n (xle.s xle.z))))) (x_X1_signsOnWay_84_ok hr4 h)
      · refine x_aload_n (i := 0) 58 rfl dX1_signsOnWay_57 rfl rfl ?_
        refine q_get (k := 22) 61 rfl dX1_signsOnWay_58 (by decide) q464 rfl ?_
        refine x_iload_n (i := 3) 62 rfl dX1_signsOnWay_61 rfl rfl ?_
        refine x_ix h (fun hi h => ?_)
        refine q_signs hi 63 rfl dX1_signsOnWay_62 ?_
        refine x_iload (i := 4) 65 rfl dX1_signsOnWay_63 rfl ?_
        refine x_bipush (6 : Int32) 67 rfl dX1_signsOnWay_65 rfl ?_
        refine x_isub 68 rfl dX1_signsOnWay_67 ?_
        refine q_iald 69 rfl dX1_signsOnWay_68 h (fun x9 h => ?_)
        refine x_goto 84 dX1_signsOnWay_69 rfl ?_
        exact xB.le (xle.s (xle.n (xle.n (xle.n (xle.s xle.z))))) (x_X1_signsOnWay_84_ok hr4 h)
    · exact xB.le (xle.s (xle.n (xle.s (xle.s (xle.s xle.z))))) (x_X1_signsOnWay_44_ok hr4 hr16 h)
def x_X1_signsOnWay_16_L (rec4 : Int32 → Int32 → xR → Option (Int32 × xR)) : Nat → Int32 → Int32 → Int32 → xR → Option (Int32 × xR)
  | 0 => fun _ _ _ _ => none
  | n + 1 => x_X1_signsOnWay_16_s rec4 (x_X1_signsOnWay_16_L rec4 n)
theorem x_X1_signsOnWay_16_L_ok {ms : xS} {rr : Int32 × xR} {rec4 : Int32 → Int32 → xR → Option (Int32 × xR)} (hr4 : ∀ {a2 : Int32} {a3 : Int32} {r : xR}, rec4 a2 a3 r = some rr → xB xLL yX1_signsOnWay cX1_signsOnWay 5 (some .int) 1 22 4 [some (.inr (.inr (some 300)) : xV), none, some (.inl (a2) : xV), some (.inl (a3) : xV), none] [] (ms, r) (some (.inl rr.1)) (ms, rr.2)) : ∀ (n9 : Nat) {a2 : Int32} {a3 : Int32} {a4 : Int32} {r : xR}, x_X1_signsOnWay_16_L rec4 n9 a2 a3 a4 r = some rr → xB xLL yX1_signsOnWay cX1_signsOnWay 5 (some .int) 1 22 16 [some (.inr (.inr (some 300)) : xV), none, some (.inl (a2) : xV), some (.inl (a3) : xV), some (.inl (a4) : xV)] [] (ms, r) (some (.inl rr.1)) (ms, rr.2)
  | 0, _, _, _, _, h => by cases h
  | n9 + 1, _, _, _, _, h => x_X1_signsOnWay_16_s_ok hr4 (x_X1_signsOnWay_16_L_ok hr4 n9) h
def x_X1_signsOnWay_4_s (rec4 : Int32 → Int32 → xR → Option (Int32 × xR)) (a2 : Int32) (a3 : Int32) (r : xR) : Option (Int32 × xR) := qrd r 55 a3 fun x10 => if x10 ≤ 0 then some (a2, r) else lt ((0 : Int32)) fun x11 => x_X1_signsOnWay_16_L rec4 xFU a2 a3 x11 r
theorem x_X1_signsOnWay_4_s_ok {ms : xS} {rr : Int32 × xR} {rec4 : Int32 → Int32 → xR → Option (Int32 × xR)} (hr4 : ∀ {a2 : Int32} {a3 : Int32} {r : xR}, rec4 a2 a3 r = some rr → xB xLL yX1_signsOnWay cX1_signsOnWay 5 (some .int) 1 22 4 [some (.inr (.inr (some 300)) : xV), none, some (.inl (a2) : xV), some (.inl (a3) : xV), none] [] (ms, r) (some (.inl rr.1)) (ms, rr.2)) {a2 : Int32} {a3 : Int32} {r : xR} (h : x_X1_signsOnWay_4_s rec4 a2 a3 r = some rr) : xB xLL yX1_signsOnWay cX1_signsOnWay 5 (some .int) 1 22 4 [some (.inr (.inr (some 300)) : xV), none, some (.inl (a2) : xV), some (.inl (a3) : xV), none] [] (ms, r) (some (.inl rr.1)) (ms, rr.2) := by
  refine x_aload_n (i := 0) 5 rfl dX1_signsOnWay_4 rfl rfl ?_
  refine q_get (k := 23) 8 rfl dX1_signsOnWay_5 (by decide) q465 rfl ?_
  refine x_iload_n (i := 3) 9 rfl dX1_signsOnWay_8 rfl rfl ?_
  refine q_iald 10 rfl dX1_signsOnWay_9 h (fun x10 h => ?_)
  refine x_if_le 92 13 rfl dX1_signsOnWay_10 rfl h (fun h => ?_) (fun h => ?_)
  · refine x_iload_n (i := 2) 93 rfl dX1_signsOnWay_92 rfl rfl ?_
    cases h
    exact x_iret rfl dX1_signsOnWay_93
  · refine x_iconst (0 : Int32) 14 rfl dX1_signsOnWay_13 rfl ?_
    refine x_lti h (fun x11 h => ?_)
    refine x_istore 16 rfl dX1_signsOnWay_14 (by decide) (lv' := [some (.inr (.inr (some 300)) : xV), none, some (.inl (a2) : xV), some (.inl (a3) : xV), some (.inl (x11) : xV)]) rfl ?_
    exact xB.le (xle.s (xle.n (xle.s (xle.s (xle.s xle.z))))) (x_X1_signsOnWay_16_L_ok hr4 xFU h)
def x_X1_signsOnWay_4_L : Nat → Int32 → Int32 → xR → Option (Int32 × xR)
  | 0 => fun _ _ _ => none
  | n + 1 => x_X1_signsOnWay_4_s (x_X1_signsOnWay_4_L  n)
theorem x_X1_signsOnWay_4_L_ok {ms : xS} {rr : Int32 × xR} : ∀ (n9 : Nat) {a2 : Int32} {a3 : Int32} {r : xR}, x_X1_signsOnWay_4_L  n9 a2 a3 r = some rr → xB xLL yX1_signsOnWay cX1_signsOnWay 5 (some .int) 1 22 4 [some (.inr (.inr (some 300)) : xV), none, some (.inl (a2) : xV), some (.inl (a3) : xV), none] [] (ms, r) (some (.inl rr.1)) (ms, rr.2)
  | 0, _, _, _, h => by cases h
  | n9 + 1, _, _, _, h => x_X1_signsOnWay_4_s_ok (x_X1_signsOnWay_4_L_ok  n9) h
def x_X1_signsOnWay (a1 : Int32) (r : xR) : Option (Int32 × xR) := lt ((0 : Int32)) fun x12 => x_X1_signsOnWay_4_L xFU x12 a1 r
theorem x_X1_signsOnWay_ct {ms : xS} {rr : Int32 × xR} {a1 : Int32} {r : xR} (h : x_X1_signsOnWay a1 r = some rr) : xCt xLL yX1_signsOnWay cX1_signsOnWay 5 (some .int) 1 22 [(.inr (.inr (some 300)) : xV), (.inl (a1) : xV)] (ms, r) (some (.inl rr.1)) (ms, rr.2) := by
  refine xCt.of (lv := [some (.inr (.inr (some 300)) : xV), some (.inl (a1) : xV), none, none, none]) pl_X1 (Nat.le_of_ble_eq_true rfl) (xle.s (xle.s (xle.m (xle.m (xle.m xle.z))))) ?_
  refine x_iconst (0 : Int32) 1 rfl dX1_signsOnWay_0 rfl ?_
  refine x_lti h (fun x12 h => ?_)
  refine x_istore_n 2 rfl dX1_signsOnWay_1 rfl (by decide) (lv' := [some (.inr (.inr (some 300)) : xV), some (.inl (a1) : xV), some (.inl (x12) : xV), none, none]) rfl ?_
  refine x_iload_n (i := 1) 3 rfl dX1_signsOnWay_2 rfl rfl ?_
  refine x_istore_n 4 rfl dX1_signsOnWay_3 rfl (by decide) (lv' := [some (.inr (.inr (some 300)) : xV), some (.inl (a1) : xV), some (.inl (x12) : xV), some (.inl (a1) : xV), none]) rfl ?_
  exact xB.le (xle.s (xle.n (xle.s (xle.s (xle.n xle.z))))) (x_X1_signsOnWay_4_L_ok xFU h)
/-! UnimodularTables.order([I)V -/
theorem ydX1_order : xHd yX1_order 1 := by decide +kernel
def x_X1_order_2_s (rec2 : Nat → Int32 → xR → Option (xR)) (a0 : Nat) (a1 : Int32) (r : xR) : Option (xR) := dln xLL r a0 fun x1 => if x1 ≤ a1 then some r else daw xLL r a0 a1 a1 fun r2 => lt (a1 + (1 : Int32)) fun x3 => rec2 a0 x3 r2
theorem x_X1_order_2_s_ok {ms : xS} {rr : xR} {rec2 : Nat → Int32 → xR → Option (xR)} (hr2 : ∀ {a0 : Nat} {a1 : Int32} {r : xR}, rec2 a0 a1 r = some rr → xB xLL yX1_order cX1_order 2 none 0 0 2 [some (.inr (.inr (some (a0))) : xV), some (.inl (a1) : xV)] [] (ms, r) none (ms, rr)) {a0 : Nat} {a1 : Int32} {r : xR} (h : x_X1_order_2_s rec2 a0 a1 r = some rr) : xB xLL yX1_order cX1_order 2 none 0 0 2 [some (.inr (.inr (some (a0))) : xV), some (.inl (a1) : xV)] [] (ms, r) none (ms, rr) := by
  refine x_iload_n (i := 1) 3 rfl dX1_order_2 rfl rfl ?_
  refine x_aload_n (i := 0) 4 rfl dX1_order_3 rfl rfl ?_
  refine d_alen 5 rfl dX1_order_4 h (fun x1 h => ?_)
  refine x_icmp_ge 18 8 rfl dX1_order_5 rfl h (fun h => ?_) (fun h => ?_)
  · cases h
    exact x_vret rfl dX1_order_18
  · refine x_aload_n (i := 0) 9 rfl dX1_order_8 rfl rfl ?_
    refine x_iload_n (i := 1) 10 rfl dX1_order_9 rfl rfl ?_
    refine x_iload_n (i := 1) 11 rfl dX1_order_10 rfl rfl ?_
    refine d_iast 12 rfl dX1_order_11 h (fun r2 h => ?_)
    refine x_iincL (i := 1) (1 : Int32) 15 rfl dX1_order_12 rfl rfl (by decide) h (fun x3 h => ?_)
    change xB xLL yX1_order cX1_order 2 none 0 0 15 [some (.inr (.inr (some (a0))) : xV), some (.inl (x3) : xV)] [] (ms, r2) _ _
    refine x_goto 2 dX1_order_15 rfl ?_
    exact xB.le (xle.s (xle.s xle.z)) (hr2 h)
def x_X1_order_2_L : Nat → Nat → Int32 → xR → Option (xR)
  | 0 => fun _ _ _ => none
  | n + 1 => x_X1_order_2_s (x_X1_order_2_L  n)
theorem x_X1_order_2_L_ok {ms : xS} {rr : xR} : ∀ (n9 : Nat) {a0 : Nat} {a1 : Int32} {r : xR}, x_X1_order_2_L  n9 a0 a1 r = some rr → xB xLL yX1_order cX1_order 2 none 0 0 2 [some (.inr (.inr (some (a0))) : xV), some (.inl (a1) : xV)] [] (ms, r) none (ms, rr)
  | 0, _, _, _, h => by cases h
  | n9 + 1, _, _, _, h => x_X1_order_2_s_ok (x_X1_order_2_L_ok  n9) h
def x_X1_order (a0 : Nat) (r : xR) : Option (xR) := lt ((0 : Int32)) fun x4 => x_X1_order_2_L xFU a0 x4 r
theorem x_X1_order_ct {ms : xS} {rr : xR} {a0 : Nat} {r : xR} (h : x_X1_order a0 r = some rr) : xCt xLL yX1_order cX1_order 2 none 0 0 [(.inr (.inr (some (a0))) : xV)] (ms, r) none (ms, rr) := by
  refine xCt.of (lv := [some (.inr (.inr (some (a0))) : xV), none]) pl_X1 (Nat.le_of_ble_eq_true rfl) (xle.s (xle.m xle.z)) ?_
  refine x_iconst (0 : Int32) 1 rfl dX1_order_0 rfl ?_
  refine x_lti h (fun x4 h => ?_)
  refine x_istore_n 2 rfl dX1_order_1 rfl (by decide) (lv' := [some (.inr (.inr (some (a0))) : xV), some (.inl (x4) : xV)]) rfl ?_
  exact xB.le (xle.s (xle.s xle.z)) (x_X1_order_2_L_ok xFU h)
/-! UnimodularTables.isLikePlaced(LUnimodularTables$Table;[I[ILUnimodularTables$Table;)Z -/
theorem ydX1_isLikePlaced : xHd yX1_isLikePlaced 4 := by decide +kernel
def x_X1_isLikePlaced_64 (rec3 : Nat → Nat → Nat → Nat → Int32 → xR → Option (Int32 × xR)) (rec15 : Nat → Nat → Nat → Nat → Int32 → Int32 → xR → Option (Int32 × xR)) (a0 : Nat) (a1 : Nat) (a2 : Nat) (a3 : Nat) (a4 : Int32) (a5 : Int32) (s0 : Int32) (s1 : Int32) (r : xR) : Option (Int32 × xR) := if s1 = s0 then lt (a5 + (1 : Int32)) fun x1 => rec15 a0 a1 a2 a3 a4 x1 r else some ((0 : Int32), r)
theorem x_X1_isLikePlaced_64_ok {ms : xS} {rr : Int32 × xR} {rec3 : Nat → Nat → Nat → Nat → Int32 → xR → Option (Int32 × xR)} {rec15 : Nat → Nat → Nat → Nat → Int32 → Int32 → xR → Option (Int32 × xR)} (hr3 : ∀ {a0 : Nat} {a1 : Nat} {a2 : Nat} {a3 : Nat} {a4 : Int32} {r : xR}, rec3 a0 a1 a2 a3 a4 r = some rr → xB xLL yX1_isLikePlaced cX1_isLikePlaced 6 (some .boolean) 0 0 3 [some (.inr (.inr (some (a0))) : xV), some (.inr (.inr (some (a1))) : xV), some (.inr (.inr (some (a2))) : xV), some (.inr (.inr (some (a3))) : xV), some (.inl (a4) : xV), none] [] (ms, r) (some (.inl rr.1)) (ms, rr.2)) (hr15 : ∀ {a0 : Nat} {a1 : Nat} {a2 : Nat} {a3 : Nat} {a4 : Int32} {a5 : Int32} {r : xR}, rec15 a0 a1 a2 a3 a4 a5 r = some rr → xB xLL yX1_isLikePlaced cX1_isLikePlaced 6 (some .boolean) 0 0 15 [some (.inr (.inr (some (a0))) : xV), some (.inr (.inr (some (a1))) : xV), some (.inr (.inr (some (a2))) : xV), some (.inr (.inr (some (a3))) : xV), some (.inl (a4) : xV), some (.inl (a5) : xV)] [] (ms, r) (some (.inl rr.1)) (ms, rr.2)) {a0 : Nat} {a1 : Nat} {a2 : Nat} {a3 : Nat} {a4 : Int32} {a5 : Int32} {s0 : Int32} {s1 : Int32} {r : xR} (h : x_X1_isLikePlaced_64 rec3 rec15 a0 a1 a2 a3 a4 a5 s0 s1 r = some rr) : xB xLL yX1_isLikePlaced cX1_isLikePlaced 6 (some .boolean) 0 0 64 [some (.inr (.inr (some (a0))) : xV), some (.inr (.inr (some (a1))) : xV), some (.inr (.inr (some (a2))) : xV), some (.inr (.inr (some (a3))) : xV), some (.inl (a4) : xV), some (.inl (a5) : xV)] [(.inl (s0) : xV), (.inl (s1) : xV)] (ms, r) (some (.inl rr.1)) (ms, rr.2) := by
  refine x_icmp_eq 69 67 rfl dX1_isLikePlaced_64 rfl h (fun h => ?_) (fun h => ?_)
  · refine x_iincL (i := 5) (1 : Int32) 72 rfl dX1_isLikePlaced_69 rfl rfl (by decide) h (fun x1 h => ?_)
    change xB xLL yX1_isLikePlaced cX1_isLikePlaced 6 (some .boolean) 0 0 72 [some (.inr (.inr (some (a0))) : xV), some (.inr (.inr (some (a1))) : xV), some (.inr (.inr (some (a2))) : xV), some (.inr (.inr (some (a3))) : xV), some (.inl (a4) : xV), some (.inl (x1) : xV)] [] (ms, r) _ _
    refine x_goto 15 dX1_isLikePlaced_72 rfl ?_
    exact xB.le (xle.s (xle.s (xle.s (xle.s (xle.s (xle.s xle.z)))))) (hr15 h)
  · refine x_iconst (0 : Int32) 68 rfl dX1_isLikePlaced_67 rfl ?_
    cases h
    exact x_zret rfl (Or.inl rfl) dX1_isLikePlaced_68
def x_X1_isLikePlaced_46 (rec3 : Nat → Nat → Nat → Nat → Int32 → xR → Option (Int32 × xR)) (rec15 : Nat → Nat → Nat → Nat → Int32 → Int32 → xR → Option (Int32 × xR)) (a0 : Nat) (a1 : Nat) (a2 : Nat) (a3 : Nat) (a4 : Int32) (a5 : Int32) (s0 : Int32) (r : xR) : Option (Int32 × xR) := dgr xLL r a3 2 2 fun p2 => nn p2 fun p3 => dar xLL r p3 a4 fun p4 => nn p4 fun p5 => dai xLL r p5 a5 fun x6 => if x6 = 0 then x_X1_isLikePlaced_64 rec3 rec15 a0 a1 a2 a3 a4 a5 (1 : Int32) s0 r else x_X1_isLikePlaced_64 rec3 rec15 a0 a1 a2 a3 a4 a5 (0 : Int32) s0 r
theorem x_X1_isLikePlaced_46_ok {ms : xS} {rr : Int32 × xR} {rec3 : Nat → Nat → Nat → Nat → Int32 → xR → Option (Int32 × xR)} {rec15 : Nat → Nat → Nat → Nat → Int32 → Int32 → xR → Option (Int32 × xR)} (hr3 : ∀ {a0 : Nat} {a1 : Nat} {a2 : Nat} {a3 : Nat} {a4 : Int32} {r : xR}, rec3 a0 a1 a2 a3 a4 r = some rr → xB xLL yX1_isLikePlaced cX1_isLikePlaced 6 (some .boolean) 0 0 3 [some (.inr (.inr (some (a0))) : xV), some (.inr (.inr (some (a1))) : xV), some (.inr (.inr (some (a2))) : xV), some (.inr (.inr (some (a3))) : xV), some (.inl (a4) : xV), none] [] (ms, r) (some (.inl rr.1)) (ms, rr.2)) (hr15 : ∀ {a0 : Nat} {a1 : Nat} {a2 : Nat} {a3 : Nat} {a4 : Int32} {a5 : Int32} {r : xR}, rec15 a0 a1 a2 a3 a4 a5 r = some rr → xB xLL yX1_isLikePlaced cX1_isLikePlaced 6 (some .boolean) 0 0 15 [some (.inr (.inr (some (a0))) : xV), some (.inr (.inr (some (a1))) : xV), some (.inr (.inr (some (a2))) : xV), some (.inr (.inr (some (a3))) : xV), some (.inl (a4) : xV), some (.inl (a5) : xV)] [] (ms, r) (some (.inl rr.1)) (ms, rr.2)) {a0 : Nat} {a1 : Nat} {a2 : Nat} {a3 : Nat} {a4 : Int32} {a5 : Int32} {s0 : Int32} {r : xR} (h : x_X1_isLikePlaced_46 rec3 rec15 a0 a1 a2 a3 a4 a5 s0 r = some rr) : xB xLL yX1_isLikePlaced cX1_isLikePlaced 6 (some .boolean) 0 0 46 [some (.inr (.inr (some (a0))) : xV), some (.inr (.inr (some (a1))) : xV), some (.inr (.inr (some (a2))) : xV), some (.inr (.inr (some (a3))) : xV), some (.inl (a4) : xV), some (.inl (a5) : xV)] [(.inl (s0) : xV)] (ms, r) (some (.inl rr.1)) (ms, rr.2) := by
  refine x_aload_n (i := 3) 47 rfl dX1_isLikePlaced_46 rfl rfl ?_
  refine d_getrN (ci := 2) (k := 2) (C := RX4) (T := TX4) (N := 3) 50 rfl dX1_isLikePlaced_47 rfl in_X4 (by decide) (List.mem_of_getElem? (i := 9) rfl) h (fun p2 h => ?_)
  refine x_iload (i := 4) 52 rfl dX1_isLikePlaced_50 rfl ?_
  refine x_nnP (P := fun p2 => xB xLL yX1_isLikePlaced cX1_isLikePlaced 6 (some .boolean) 0 0 52 [some (.inr (.inr (some (a0))) : xV), some (.inr (.inr (some (a1))) : xV), some (.inr (.inr (some (a2))) : xV), some (.inr (.inr (some (a3))) : xV), some (.inl (a4) : xV), some (.inl (a5) : xV)] [(.inl (a4) : xV), (.inr (.inr (p2)) : xV), (.inl (s0) : xV)] (ms, r) (some (.inl rr.1)) (ms, rr.2)) h (fun p3 h => ?_)
  refine d_aald 53 rfl dX1_isLikePlaced_52 h (fun p4 h => ?_)
  refine x_iload (i := 5) 55 rfl dX1_isLikePlaced_53 rfl ?_
  refine x_nnP (P := fun p4 => xB xLL yX1_isLikePlaced cX1_isLikePlaced 6 (some .boolean) 0 0 55 [some (.inr (.inr (some (a0))) : xV), some (.inr (.inr (some (a1))) : xV), some (.inr (.inr (some (a2))) : xV), some (.inr (.inr (some (a3))) : xV), some (.inl (a4) : xV), some (.inl (a5) : xV)] [(.inl (a5) : xV), (.inr (.inr (p4)) : xV), (.inl (s0) : xV)] (ms, r) (some (.inl rr.1)) (ms, rr.2)) h (fun p5 h => ?_)
  refine d_iald 56 rfl dX1_isLikePlaced_55 h (fun x6 h => ?_)
  refine x_if_ne 63 59 rfl dX1_isLikePlaced_56 rfl h (fun h => ?_) (fun h => ?_)
  · refine x_iconst (0 : Int32) 64 rfl dX1_isLikePlaced_63 rfl ?_
    exact xB.le (xle.s (xle.s (xle.s (xle.s (xle.s (xle.s xle.z)))))) (x_X1_isLikePlaced_64_ok hr3 hr15 h)
  · refine x_iconst (1 : Int32) 60 rfl dX1_isLikePlaced_59 rfl ?_
    refine x_goto 64 dX1_isLikePlaced_60 rfl ?_
    exact xB.le (xle.s (xle.s (xle.s (xle.s (xle.s (xle.s xle.z)))))) (x_X1_isLikePlaced_64_ok hr3 hr15 h)
def x_X1_isLikePlaced_15_s (rec3 : Nat → Nat → Nat → Nat → Int32 → xR → Option (Int32 × xR)) (rec15 : Nat → Nat → Nat → Nat → Int32 → Int32 → xR → Option (Int32 × xR)) (a0 : Nat) (a1 : Nat) (a2 : Nat) (a3 : Nat) (a4 : Int32) (a5 : Int32) (r : xR) : Option (Int32 × xR) := dgi xLL r a3 2 1 fun x7 => if x7 ≤ a5 then lt (a4 + (1 : Int32)) fun x8 => rec3 a0 a1 a2 a3 x8 r else dgr xLL r a0 2 2 fun p9 => dai xLL r a1 a4 fun x10 => nn p9 fun p11 => dar xLL r p11 x10 fun p12 => dai xLL r a2 a5 fun x13 => nn p12 fun p14 => dai xLL r p14 x13 fun x15 => if x15 = 0 then x_X1_isLikePlaced_46 rec3 rec15 a0 a1 a2 a3 a4 a5 (1 : Int32) r else x_X1_isLikePlaced_46 rec3 rec15 a0 a1 a2 a3 a4 a5 (0 : Int32) r
theorem x_X1_isLikePlaced_15_s_ok {ms : xS} {rr : Int32 × xR} {rec3 : Nat → Nat → Nat → Nat → Int32 → xR → Option (Int32 × xR)} {rec15 : Nat → Nat → Nat → Nat → Int32 → Int32 → xR → Option (Int32 × xR)} (hr3 : ∀ {a0 : Nat} {a1 : Nat} {a2 : Nat} {a3 : Nat} {a4 : Int32} {r : xR}, rec3 a0 a1 a2 a3 a4 r = some rr → xB xLL yX1_isLikePlaced cX1_isLikePlaced 6 (some .boolean) 0 0 3 [some (.inr (.inr (some (a0))) : xV), some (.inr (.inr (some (a1))) : xV), some (.inr (.inr (some (a2))) : xV), some (.inr (.inr (some (a3))) : xV), some (.inl (a4) : xV), none] [] (ms, r) (some (.inl rr.1)) (ms, rr.2)) (hr15 : ∀ {a0 : Nat} {a1 : Nat} {a2 : Nat} {a3 : Nat} {a4 : Int32} {a5 : Int32} {r : xR}, rec15 a0 a1 a2 a3 a4 a5 r = some rr → xB xLL yX1_isLikePlaced cX1_isLikePlaced 6 (some .boolean) 0 0 15 [some (.inr (.inr (some (a0))) : xV), some (.inr (.inr (some (a1))) : xV), some (.inr (.inr (some (a2))) : xV), some (.inr (.inr (some (a3))) : xV), some (.inl (a4) : xV), some (.inl (a5) : xV)] [] (ms, r) (some (.inl rr.1)) (ms, rr.2)) {a0 : Nat} {a1 : Nat} {a2 : Nat} {a3 : Nat} {a4 : Int32} {a5 : Int32} {r : xR} (h : x_X1_isLikePlaced_15_s rec3 rec15 a0 a1 a2 a3 a4 a5 r = some rr) : xB xLL yX1_isLikePlaced cX1_isLikePlaced 6 (some .boolean) 0 0 15 [some (.inr (.inr (some (a0))) : xV), some (.inr (.inr (some (a1))) : xV), some (.inr (.inr (some (a2))) : xV), some (.inr (.inr (some (a3))) : xV), some (.inl (a4) : xV), some (.inl (a5) : xV)] [] (ms, r) (some (.inl rr.1)) (ms, rr.2) := by
  refine x_iload (i := 5) 17 rfl dX1_isLikePlaced_15 rfl ?_
  refine x_aload_n (i := 3) 18 rfl dX1_isLikePlaced_17 rfl rfl ?_
  refine d_getiN (ci := 2) (k := 1) (C := RX4) (T := TX4) (N := 3) 21 rfl dX1_isLikePlaced_18 rfl in_X4 (by decide) (List.mem_of_getElem? (i := 7) rfl) h (fun x7 h => ?_)
  refine x_icmp_ge 75 24 rfl dX1_isLikePlaced_21 rfl h (fun h => ?_) (fun h => ?_)
  · refine x_iincL (i := 4) (1 : Int32) 78 rfl dX1_isLikePlaced_75 rfl rfl (by decide) h (fun x8 h => ?_)
    change xB xLL yX1_isLikePlaced cX1_isLikePlaced 6 (some .boolean) 0 0 78 [some (.inr (.inr (some (a0))) : xV), some (.inr (.inr (some (a1))) : xV), some (.inr (.inr (some (a2))) : xV), some (.inr (.inr (some (a3))) : xV), some (.inl (x8) : xV), some (.inl (a5) : xV)] [] (ms, r) _ _
    refine x_goto 3 dX1_isLikePlaced_78 rfl ?_
    exact xB.le (xle.s (xle.s (xle.s (xle.s (xle.s (xle.n xle.z)))))) (hr3 h)
  · refine x_aload_n (i := 0) 25 rfl dX1_isLikePlaced_24 rfl rfl ?_
    refine d_getrN (ci := 2) (k := 2) (C := RX4) (T := TX4) (N := 3) 28 rfl dX1_isLikePlaced_25 rfl in_X4 (by decide) (List.mem_of_getElem? (i := 9) rfl) h (fun p9 h => ?_)
    refine x_aload_n (i := 1) 29 rfl dX1_isLikePlaced_28 rfl rfl ?_
    refine x_iload (i := 4) 31 rfl dX1_isLikePlaced_29 rfl ?_
    refine d_iald 32 rfl dX1_isLikePlaced_31 h (fun x10 h => ?_)
    refine x_nnP (P := fun p9 => xB xLL yX1_isLikePlaced cX1_isLikePlaced 6 (some .boolean) 0 0 32 [some (.inr (.inr (some (a0))) : xV), some (.inr (.inr (some (a1))) : xV), some (.inr (.inr (some (a2))) : xV), some (.inr (.inr (some (a3))) : xV), some (.inl (a4) : xV), some (.inl (a5) : xV)] [(.inl (x10) : xV), (.inr (.inr (p9)) : xV)] (ms, r) (some (.inl rr.1)) (ms, rr.2)) h (fun p11 h => ?_)
    refine d_aald 33 rfl dX1_isLikePlaced_32 h (fun p12 h => ?_)
    refine x_aload_n (i := 2) 34 rfl dX1_isLikePlaced_33 rfl rfl ?_
    refine x_iload (i := 5) 36 rfl dX1_isLikePlaced_34 rfl ?_
    refine d_iald 37 rfl dX1_isLikePlaced_36 h (fun x13 h => ?_)
    refine x_nnP (P := fun p12 => xB xLL yX1_isLikePlaced cX1_isLikePlaced 6 (some .boolean) 0 0 37 [some (.inr (.inr (some (a0))) : xV), some (.inr (.inr (some (a1))) : xV), some (.inr (.inr (some (a2))) : xV), some (.inr (.inr (some (a3))) : xV), some (.inl (a4) : xV), some (.inl (a5) : xV)] [(.inl (x13) : xV), (.inr (.inr (p12)) : xV)] (ms, r) (some (.inl rr.1)) (ms, rr.2)) h (fun p14 h => ?_)
    refine d_iald 38 rfl dX1_isLikePlaced_37 h (fun x15 h => ?_)
    refine x_if_ne 45 41 rfl dX1_isLikePlaced_38 rfl h (fun h => ?_) (fun h => ?_)
    · refine x_iconst (0 : Int32) 46 rfl dX1_isLikePlaced_45 rfl ?_
      exact xB.le (xle.s (xle.s (xle.s (xle.s (xle.s (xle.s xle.z)))))) (x_X1_isLikePlaced_46_ok hr3 hr15 h)
    · refine x_iconst (1 : Int32) 42 rfl dX1_isLikePlaced_41 rfl ?_
      refine x_goto 46 dX1_isLikePlaced_42 rfl ?_
      exact xB.le (xle.s (xle.s (xle.s (xle.s (xle.s (xle.s xle.z)))))) (x_X1_isLikePlaced_46_ok hr3 hr15 h)
def x_X1_isLikePlaced_15_L (rec3 : Nat → Nat → Nat → Nat → Int32 → xR → Option (Int32 × xR)) : Nat → Nat → Nat → Nat → Nat → Int32 → Int32 → xR → Option (Int32 × xR)
  | 0 => fun _ _ _ _ _ _ _ => none
  | n + 1 => x_X1_isLikePlaced_15_s rec3 (x_X1_isLikePlaced_15_L rec3 n)
theorem x_X1_isLikePlaced_15_L_ok {ms : xS} {rr : Int32 × xR} {rec3 : Nat → Nat → Nat → Nat → Int32 → xR → Option (Int32 × xR)} (hr3 : ∀ {a0 : Nat} {a1 : Nat} {a2 : Nat} {a3 : Nat} {a4 : Int32} {r : xR}, rec3 a0 a1 a2 a3 a4 r = some rr → xB xLL yX1_isLikePlaced cX1_isLikePlaced 6 (some .boolean) 0 0 3 [some (.inr (.inr (some (a0))) : xV), some (.inr (.inr (some (a1))) : xV), some (.inr (.inr (some (a2))) : xV), some (.inr (.inr (some (a3))) : xV), some (.inl (a4) : xV), none] [] (ms, r) (some (.inl rr.1)) (ms, rr.2)) : ∀ (n9 : Nat) {a0 : Nat} {a1 : Nat} {a2 : Nat} {a3 : Nat} {a4 : Int32} {a5 : Int32} {r : xR}, x_X1_isLikePlaced_15_L rec3 n9 a0 a1 a2 a3 a4 a5 r = some rr → xB xLL yX1_isLikePlaced cX1_isLikePlaced 6 (some .boolean) 0 0 15 [some (.inr (.inr (some (a0))) : xV), some (.inr (.inr (some (a1))) : xV), some (.inr (.inr (some (a2))) : xV), some (.inr (.inr (some (a3))) : xV), some (.inl (a4) : xV), some (.inl (a5) : xV)] [] (ms, r) (some (.inl rr.1)) (ms, rr.2)
  | 0, _, _, _, _, _, _, _, h => by cases h
  | n9 + 1, _, _, _, _, _, _, _, h => x_X1_isLikePlaced_15_s_ok hr3 (x_X1_isLikePlaced_15_L_ok hr3 n9) h
def x_X1_isLikePlaced_3_s (rec3 : Nat → Nat → Nat → Nat → Int32 → xR → Option (Int32 × xR)) (a0 : Nat) (a1 : Nat) (a2 : Nat) (a3 : Nat) (a4 : Int32) (r : xR) : Option (Int32 × xR) := dgi xLL r a3 2 0 fun x16 => if x16 ≤ a4 then some ((1 : Int32), r) else lt ((0 : Int32)) fun x17 => x_X1_isLikePlaced_15_L rec3 xFU a0 a1 a2 a3 a4 x17 r
theorem x_X1_isLikePlaced_3_s_ok {ms : xS} {rr : Int32 × xR} {rec3 : Nat → Nat → Nat → Nat → Int32 → xR → Option (Int32 × xR)} (hr3 : ∀ {a0 : Nat} {a1 : Nat} {a2 : Nat} {a3 : Nat} {a4 : Int32} {r : xR}, rec3 a0 a1 a2 a3 a4 r = some rr → xB xLL yX1_isLikePlaced cX1_isLikePlaced 6 (some .boolean) 0 0 3 [some (.inr (.inr (some (a0))) : xV), some (.inr (.inr (some (a1))) : xV), some (.inr (.inr (some (a2))) : xV), some (.inr (.inr (some (a3))) : xV), some (.inl (a4) : xV), none] [] (ms, r) (some (.inl rr.1)) (ms, rr.2)) {a0 : Nat} {a1 : Nat} {a2 : Nat} {a3 : Nat} {a4 : Int32} {r : xR} (h : x_X1_isLikePlaced_3_s rec3 a0 a1 a2 a3 a4 r = some rr) : xB xLL yX1_isLikePlaced cX1_isLikePlaced 6 (some .boolean) 0 0 3 [some (.inr (.inr (some (a0))) : xV), some (.inr (.inr (some (a1))) : xV), some (.inr (.inr (some (a2))) : xV), some (.inr (.inr (some (a3))) : xV), some (.inl (a4) : xV), none] [] (ms, r) (some (.inl rr.1)) (ms, rr.2) := by
  refine x_iload (i := 4) 5 rfl dX1_isLikePlaced_3 rfl ?_
  refine x_aload_n (i := 3) 6 rfl dX1_isLikePlaced_5 rfl rfl ?_
  refine d_getiN (ci := 2) (k := 0) (C := RX4) (T := TX4) (N := 3) 9 rfl dX1_isLikePlaced_6 rfl in_X4 (by decide) (List.mem_of_getElem? (i := 5) rfl) h (fun x16 h => ?_)
  refine x_icmp_ge 81 12 rfl dX1_isLikePlaced_9 rfl h (fun h => ?_) (fun h => ?_)
  · refine x_iconst (1 : Int32) 82 rfl dX1_isLikePlaced_81 rfl ?_
    cases h
    exact x_zret rfl (Or.inr rfl) dX1_isLikePlaced_82
  · refine x_iconst (0 : Int32) 13 rfl dX1_isLikePlaced_12 rfl ?_
    refine x_lti h (fun x17 h => ?_)
    refine x_istore 15 rfl dX1_isLikePlaced_13 (by decide) (lv' := [some (.inr (.inr (some (a0))) : xV), some (.inr (.inr (some (a1))) : xV), some (.inr (.inr (some (a2))) : xV), some (.inr (.inr (some (a3))) : xV), some (.inl (a4) : xV), some (.inl (x17) : xV)]) rfl ?_
    exact xB.le (xle.s (xle.s (xle.s (xle.s (xle.s (xle.s xle.z)))))) (x_X1_isLikePlaced_15_L_ok hr3 xFU h)
def x_X1_isLikePlaced_3_L : Nat → Nat → Nat → Nat → Nat → Int32 → xR → Option (Int32 × xR)
  | 0 => fun _ _ _ _ _ _ => none
  | n + 1 => x_X1_isLikePlaced_3_s (x_X1_isLikePlaced_3_L  n)
theorem x_X1_isLikePlaced_3_L_ok {ms : xS} {rr : Int32 × xR} : ∀ (n9 : Nat) {a0 : Nat} {a1 : Nat} {a2 : Nat} {a3 : Nat} {a4 : Int32} {r : xR}, x_X1_isLikePlaced_3_L  n9 a0 a1 a2 a3 a4 r = some rr → xB xLL yX1_isLikePlaced cX1_isLikePlaced 6 (some .boolean) 0 0 3 [some (.inr (.inr (some (a0))) : xV), some (.inr (.inr (some (a1))) : xV), some (.inr (.inr (some (a2))) : xV), some (.inr (.inr (some (a3))) : xV), some (.inl (a4) : xV), none] [] (ms, r) (some (.inl rr.1)) (ms, rr.2)
  | 0, _, _, _, _, _, _, h => by cases h
  | n9 + 1, _, _, _, _, _, _, h => x_X1_isLikePlaced_3_s_ok (x_X1_isLikePlaced_3_L_ok  n9) h
def x_X1_isLikePlaced (a0 : Nat) (a1 : Nat) (a2 : Nat) (a3 : Nat) (r : xR) : Option (Int32 × xR) := lt ((0 : Int32)) fun x18 => x_X1_isLikePlaced_3_L xFU a0 a1 a2 a3 x18 r
theorem x_X1_isLikePlaced_ct {ms : xS} {rr : Int32 × xR} {a0 : Nat} {a1 : Nat} {a2 : Nat} {a3 : Nat} {r : xR} (h : x_X1_isLikePlaced a0 a1 a2 a3 r = some rr) : xCt xLL yX1_isLikePlaced cX1_isLikePlaced 6 (some .boolean) 0 0 [(.inr (.inr (some (a0))) : xV), (.inr (.inr (some (a1))) : xV), (.inr (.inr (some (a2))) : xV), (.inr (.inr (some (a3))) : xV)] (ms, r) (some (.inl rr.1)) (ms, rr.2) := by
  refine xCt.of (lv := [some (.inr (.inr (some (a0))) : xV), some (.inr (.inr (some (a1))) : xV), some (.inr (.inr (some (a2))) : xV), some (.inr (.inr (some (a3))) : xV), none, none]) pl_X1 (Nat.le_of_ble_eq_true rfl) (xle.s (xle.s (xle.s (xle.s (xle.m (xle.m xle.z)))))) ?_
  refine x_iconst (0 : Int32) 1 rfl dX1_isLikePlaced_0 rfl ?_
  refine x_lti h (fun x18 h => ?_)
  refine x_istore 3 rfl dX1_isLikePlaced_1 (by decide) (lv' := [some (.inr (.inr (some (a0))) : xV), some (.inr (.inr (some (a1))) : xV), some (.inr (.inr (some (a2))) : xV), some (.inr (.inr (some (a3))) : xV), some (.inl (x18) : xV), none]) rfl ?_
  exact xB.le (xle.s (xle.s (xle.s (xle.s (xle.s (xle.n xle.z)))))) (x_X1_isLikePlaced_3_L_ok xFU h)
/-! UnimodularTables.spreads(IIII)Z -/
theorem ydX1_spreads : xHd yX1_spreads 4 := by decide +kernel
def x_X1_spreads_32 (a1 : Int32) (a2 : Int32) (a3 : Int32) (a4 : Int32) (s0 : Int32) (s1 : Int32) (r : xR) : Option (Int32 × xR) := if s1 = s0 then some ((0 : Int32), r) else qrd r 58 a1 fun x1 => if x1 = 0 then qrd r 59 a2 fun x4 => qwr r 58 a1 ((a3 * a4) * x4) fun r5 => some ((1 : Int32), r5) else qrd r 58 a1 fun x2 => qwr r 59 a2 ((a3 * a4) * x2) fun r3 => some ((1 : Int32), r3)
theorem x_X1_spreads_32_ok {ms : xS} {rr : Int32 × xR} {a1 : Int32} {a2 : Int32} {a3 : Int32} {a4 : Int32} {s0 : Int32} {s1 : Int32} {r : xR} (h : x_X1_spreads_32  a1 a2 a3 a4 s0 s1 r = some rr) : xB xLL yX1_spreads cX1_spreads 5 (some .boolean) 0 0 32 [some (.inr (.inr (some 300)) : xV), some (.inl (a1) : xV), some (.inl (a2) : xV), some (.inl (a3) : xV), some (.inl (a4) : xV)] [(.inl (s0) : xV), (.inl (s1) : xV)] (ms, r) (some (.inl rr.1)) (ms, rr.2) := by
  refine x_icmp_ne 37 35 rfl dX1_spreads_32 rfl h (fun h => ?_) (fun h => ?_)
  · refine x_aload_n (i := 0) 38 rfl dX1_spreads_37 rfl rfl ?_
    refine q_get (k := 25) 41 rfl dX1_spreads_38 (by decide) q467 rfl ?_
    refine x_iload_n (i := 1) 42 rfl dX1_spreads_41 rfl rfl ?_
    refine q_iald 43 rfl dX1_spreads_42 h (fun x1 h => ?_)
    refine x_if_ne 66 46 rfl dX1_spreads_43 rfl h (fun h => ?_) (fun h => ?_)
    · refine x_aload_n (i := 0) 67 rfl dX1_spreads_66 rfl rfl ?_
      refine q_get (k := 26) 70 rfl dX1_spreads_67 (by decide) q468 rfl ?_
      refine x_iload_n (i := 2) 71 rfl dX1_spreads_70 rfl rfl ?_
      refine x_iload_n (i := 3) 72 rfl dX1_spreads_71 rfl rfl ?_
      refine x_iload (i := 4) 74 rfl dX1_spreads_72 rfl ?_
      refine x_imul 75 rfl dX1_spreads_74 ?_
      refine x_aload_n (i := 0) 76 rfl dX1_spreads_75 rfl rfl ?_
      refine q_get (k := 25) 79 rfl dX1_spreads_76 (by decide) q467 rfl ?_
      refine x_iload_n (i := 1) 80 rfl dX1_spreads_79 rfl rfl ?_
      refine q_iald 81 rfl dX1_spreads_80 h (fun x2 h => ?_)
      refine x_imul 82 rfl dX1_spreads_81 ?_
      refine q_iast 83 rfl dX1_spreads_82 h (fun r3 h => ?_)
      refine x_iconst (1 : Int32) 84 rfl dX1_spreads_83 rfl ?_
      cases h
      exact x_zret rfl (Or.inr rfl) dX1_spreads_84
    · refine x_aload_n (i := 0) 47 rfl dX1_spreads_46 rfl rfl ?_
      refine q_get (k := 25) 50 rfl dX1_spreads_47 (by decide) q467 rfl ?_
      refine x_iload_n (i := 1) 51 rfl dX1_spreads_50 rfl rfl ?_
      refine x_iload_n (i := 3) 52 rfl dX1_spreads_51 rfl rfl ?_
      refine x_iload (i := 4) 54 rfl dX1_spreads_52 rfl ?_
      refine x_imul 55 rfl dX1_spreads_54 ?_
      refine x_aload_n (i := 0) 56 rfl dX1_spreads_55 rfl rfl ?_
      refine q_get (k := 26) 59 rfl dX1_spreads_56 (by decide) q468 rfl ?_
      refine x_iload_n (i := 2) 60 rfl dX1_spreads_59 rfl rfl ?_
      refine q_iald 61 rfl dX1_spreads_60 h (fun x4 h => ?_)
      refine x_imul 62 rfl dX1_spreads_61 ?_
      refine q_iast 63 rfl dX1_spreads_62 h (fun r5 h => ?_)
      refine x_goto 83 dX1_spreads_63 rfl ?_
      refine x_iconst (1 : Int32) 84 rfl dX1_spreads_83 rfl ?_
      cases h
      exact x_zret rfl (Or.inr rfl) dX1_spreads_84
  · refine x_iconst (0 : Int32) 36 rfl dX1_spreads_35 rfl ?_
    cases h
    exact x_zret rfl (Or.inl rfl) dX1_spreads_36
def x_X1_spreads_18 (a1 : Int32) (a2 : Int32) (a3 : Int32) (a4 : Int32) (s0 : Int32) (r : xR) : Option (Int32 × xR) := qrd r 59 a2 fun x6 => if x6 = 0 then x_X1_spreads_32 a1 a2 a3 a4 (1 : Int32) s0 r else x_X1_spreads_32 a1 a2 a3 a4 (0 : Int32) s0 r
theorem x_X1_spreads_18_ok {ms : xS} {rr : Int32 × xR} {a1 : Int32} {a2 : Int32} {a3 : Int32} {a4 : Int32} {s0 : Int32} {r : xR} (h : x_X1_spreads_18  a1 a2 a3 a4 s0 r = some rr) : xB xLL yX1_spreads cX1_spreads 5 (some .boolean) 0 0 18 [some (.inr (.inr (some 300)) : xV), some (.inl (a1) : xV), some (.inl (a2) : xV), some (.inl (a3) : xV), some (.inl (a4) : xV)] [(.inl (s0) : xV)] (ms, r) (some (.inl rr.1)) (ms, rr.2) := by
  refine x_aload_n (i := 0) 19 rfl dX1_spreads_18 rfl rfl ?_
  refine q_get (k := 26) 22 rfl dX1_spreads_19 (by decide) q468 rfl ?_
  refine x_iload_n (i := 2) 23 rfl dX1_spreads_22 rfl rfl ?_
  refine q_iald 24 rfl dX1_spreads_23 h (fun x6 h => ?_)
  refine x_if_ne 31 27 rfl dX1_spreads_24 rfl h (fun h => ?_) (fun h => ?_)
  · refine x_iconst (0 : Int32) 32 rfl dX1_spreads_31 rfl ?_
    exact xB.le (xle.s (xle.s (xle.s (xle.s (xle.s xle.z))))) (x_X1_spreads_32_ok h)
  · refine x_iconst (1 : Int32) 28 rfl dX1_spreads_27 rfl ?_
    refine x_goto 32 dX1_spreads_28 rfl ?_
    exact xB.le (xle.s (xle.s (xle.s (xle.s (xle.s xle.z))))) (x_X1_spreads_32_ok h)
def x_X1_spreads (a1 : Int32) (a2 : Int32) (a3 : Int32) (a4 : Int32) (r : xR) : Option (Int32 × xR) := if a3 = 0 then some ((0 : Int32), r) else qrd r 58 a1 fun x7 => if x7 = 0 then x_X1_spreads_18 a1 a2 a3 a4 (1 : Int32) r else x_X1_spreads_18 a1 a2 a3 a4 (0 : Int32) r
theorem x_X1_spreads_ct {ms : xS} {rr : Int32 × xR} {a1 : Int32} {a2 : Int32} {a3 : Int32} {a4 : Int32} {r : xR} (h : x_X1_spreads a1 a2 a3 a4 r = some rr) : xCt xLL yX1_spreads cX1_spreads 5 (some .boolean) 0 0 [(.inr (.inr (some 300)) : xV), (.inl (a1) : xV), (.inl (a2) : xV), (.inl (a3) : xV), (.inl (a4) : xV)] (ms, r) (some (.inl rr.1)) (ms, rr.2) := by
  refine xCt.of (lv := [some (.inr (.inr (some 300)) : xV), some (.inl (a1) : xV), some (.inl (a2) : xV), some (.inl (a3) : xV), some (.inl (a4) : xV)]) pl_X1 (Nat.le_of_ble_eq_true rfl) (xle.s (xle.s (xle.s (xle.s (xle.s xle.z))))) ?_
  refine x_iload_n (i := 3) 1 rfl dX1_spreads_0 rfl rfl ?_
  refine x_if_eq 35 4 rfl dX1_spreads_1 rfl h (fun h => ?_) (fun h => ?_)
  · refine x_iconst (0 : Int32) 36 rfl dX1_spreads_35 rfl ?_
    cases h
    exact x_zret rfl (Or.inl rfl) dX1_spreads_36
  · refine x_aload_n (i := 0) 5 rfl dX1_spreads_4 rfl rfl ?_
    refine q_get (k := 25) 8 rfl dX1_spreads_5 (by decide) q467 rfl ?_
    refine x_iload_n (i := 1) 9 rfl dX1_spreads_8 rfl rfl ?_
    refine q_iald 10 rfl dX1_spreads_9 h (fun x7 h => ?_)
    refine x_if_ne 17 13 rfl dX1_spreads_10 rfl h (fun h => ?_) (fun h => ?_)
    · refine x_iconst (0 : Int32) 18 rfl dX1_spreads_17 rfl ?_
      exact xB.le (xle.s (xle.s (xle.s (xle.s (xle.s xle.z))))) (x_X1_spreads_18_ok h)
    · refine x_iconst (1 : Int32) 14 rfl dX1_spreads_13 rfl ?_
      refine x_goto 18 dX1_spreads_14 rfl ?_
      exact xB.le (xle.s (xle.s (xle.s (xle.s (xle.s xle.z))))) (x_X1_spreads_18_ok h)
/-! UnimodularTables.isScaled(LUnimodularTables$Table;[I[ILUnimodularTables$Table;)Z -/
theorem ydX1_isScaled : xHd yX1_isScaled 4 := by decide +kernel
def x_X1_isScaled_194_s (rec181 : Nat → Nat → Nat → Nat → Int32 → xR → Option (Int32 × xR)) (rec194 : Nat → Nat → Nat → Nat → Int32 → Int32 → xR → Option (Int32 × xR)) (a1 : Nat) (a2 : Nat) (a3 : Nat) (a4 : Nat) (a5 : Int32) (a6 : Int32) (r : xR) : Option (Int32 × xR) := dgi xLL r a4 2 1 fun x1 => if x1 ≤ a6 then lt (a5 + (1 : Int32)) fun x2 => rec181 a1 a2 a3 a4 x2 r else dgr xLL r a1 2 2 fun p3 => dai xLL r a2 a5 fun x4 => nn p3 fun p5 => dar xLL r p5 x4 fun p6 => dai xLL r a3 a6 fun x7 => nn p6 fun p8 => dai xLL r p8 x7 fun x9 => qrd r 58 a5 fun x10 => qrd r 59 a6 fun x11 => dgr xLL r a4 2 2 fun p12 => nn p12 fun p13 => dar xLL r p13 a5 fun p14 => nn p14 fun p15 => dai xLL r p15 a6 fun x16 => if ((x9 * x10) * x11) = x16 then lt (a6 + (1 : Int32)) fun x17 => rec194 a1 a2 a3 a4 a5 x17 r else some ((0 : Int32), r)
theorem x_X1_isScaled_194_s_ok {ms : xS} {rr : Int32 × xR} {rec181 : Nat → Nat → Nat → Nat → Int32 → xR → Option (Int32 × xR)} {rec194 : Nat → Nat → Nat → Nat → Int32 → Int32 → xR → Option (Int32 × xR)} (hr181 : ∀ {a1 : Nat} {a2 : Nat} {a3 : Nat} {a4 : Nat} {a5 : Int32} {r : xR}, rec181 a1 a2 a3 a4 a5 r = some rr → xB xLL yX1_isScaled cX1_isScaled 9 (some .boolean) 1 24 181 [some (.inr (.inr (some 300)) : xV), some (.inr (.inr (some (a1))) : xV), some (.inr (.inr (some (a2))) : xV), some (.inr (.inr (some (a3))) : xV), some (.inr (.inr (some (a4))) : xV), some (.inl (a5) : xV), none, none, none] [] (ms, r) (some (.inl rr.1)) (ms, rr.2)) (hr194 : ∀ {a1 : Nat} {a2 : Nat} {a3 : Nat} {a4 : Nat} {a5 : Int32} {a6 : Int32} {r : xR}, rec194 a1 a2 a3 a4 a5 a6 r = some rr → xB xLL yX1_isScaled cX1_isScaled 9 (some .boolean) 1 24 194 [some (.inr (.inr (some 300)) : xV), some (.inr (.inr (some (a1))) : xV), some (.inr (.inr (some (a2))) : xV), some (.inr (.inr (some (a3))) : xV), some (.inr (.inr (some (a4))) : xV), some (.inl (a5) : xV), some (.inl (a6) : xV), none, none] [] (ms, r) (some (.inl rr.1)) (ms, rr.2)) {a1 : Nat} {a2 : Nat} {a3 : Nat} {a4 : Nat} {a5 : Int32} {a6 : Int32} {r : xR} (h : x_X1_isScaled_194_s rec181 rec194 a1 a2 a3 a4 a5 a6 r = some rr) : xB xLL yX1_isScaled cX1_isScaled 9 (some .boolean) 1 24 194 [some (.inr (.inr (some 300)) : xV), some (.inr (.inr (some (a1))) : xV), some (.inr (.inr (some (a2))) : xV), some (.inr (.inr (some (a3))) : xV), some (.inr (.inr (some (a4))) : xV), some (.inl (a5) : xV), some (.inl (a6) : xV), none, none] [] (ms, r) (some (.inl rr.1)) (ms, rr.2) := by
  refine x_iload (i := 6) 196 rfl dX1_isScaled_194 rfl ?_
  refine x_aload (i := 4) 198 rfl dX1_isScaled_196 rfl ?_
  refine d_getiN (ci := 2) (k := 1) (C := RX4) (T := TX4) (N := 3) 201 rfl dX1_isScaled_198 rfl in_X4 (by decide) (List.mem_of_getElem? (i := 7) rfl) h (fun x1 h => ?_)
  refine x_icmp_ge 256 204 rfl dX1_isScaled_201 rfl h (fun h => ?_) (fun h => ?_)
  · refine x_iincL (i := 5) (1 : Int32) 259 rfl dX1_isScaled_256 rfl rfl (by decide) h (fun x2 h => ?_)
    change xB xLL yX1_isScaled cX1_isScaled 9 (some .boolean) 1 24 259 [some (.inr (.inr (some 300)) : xV), some (.inr (.inr (some (a1))) : xV), some (.inr (.inr (some (a2))) : xV), some (.inr (.inr (some (a3))) : xV), some (.inr (.inr (some (a4))) : xV), some (.inl (x2) : xV), some (.inl (a6) : xV), none, none] [] (ms, r) _ _
    refine x_goto 181 dX1_isScaled_259 rfl ?_
    exact xB.le (xle.s (xle.s (xle.s (xle.s (xle.s (xle.s (xle.n (xle.n (xle.n xle.z))))))))) (hr181 h)
  · refine x_aload_n (i := 1) 205 rfl dX1_isScaled_204 rfl rfl ?_
    refine d_getrN (ci := 2) (k := 2) (C := RX4) (T := TX4) (N := 3) 208 rfl dX1_isScaled_205 rfl in_X4 (by decide) (List.mem_of_getElem? (i := 9) rfl) h (fun p3 h => ?_)
    refine x_aload_n (i := 2) 209 rfl dX1_isScaled_208 rfl rfl ?_
    refine x_iload (i := 5) 211 rfl dX1_isScaled_209 rfl ?_
    refine d_iald 212 rfl dX1_isScaled_211 h (fun x4 h => ?_)
    refine x_nnP (P := fun p3 => xB xLL yX1_isScaled cX1_isScaled 9 (some .boolean) 1 24 212 [some (.inr (.inr (some 300)) : xV), some (.inr (.inr (some (a1))) : xV), some (.inr (.inr (some (a2))) : xV), some (.inr (.inr (some (a3))) : xV), some (.inr (.inr (some (a4))) : xV), some (.inl (a5) : xV), some (.inl (a6) : xV), none, none] [(.inl (x4) : xV), (.inr (.inr (p3)) : xV)] (ms, r) (some (.inl rr.1)) (ms, rr.2)) h (fun p5 h => ?_)
    refine d_aald 213 rfl dX1_isScaled_212 h (fun p6 h => ?_)
    refine x_aload_n (i := 3) 214 rfl dX1_isScaled_213 rfl rfl ?_
    refine x_iload (i := 6) 216 rfl dX1_isScaled_214 rfl ?_
    refine d_iald 217 rfl dX1_isScaled_216 h (fun x7 h => ?_)
    refine x_nnP (P := fun p6 => xB xLL yX1_isScaled cX1_isScaled 9 (some .boolean) 1 24 217 [some (.inr (.inr (some 300)) : xV), some (.inr (.inr (some (a1))) : xV), some (.inr (.inr (some (a2))) : xV), some (.inr (.inr (some (a3))) : xV), some (.inr (.inr (some (a4))) : xV), some (.inl (a5) : xV), some (.inl (a6) : xV), none, none] [(.inl (x7) : xV), (.inr (.inr (p6)) : xV)] (ms, r) (some (.inl rr.1)) (ms, rr.2)) h (fun p8 h => ?_)
    refine d_iald 218 rfl dX1_isScaled_217 h (fun x9 h => ?_)
    refine x_aload_n (i := 0) 219 rfl dX1_isScaled_218 rfl rfl ?_
    refine q_get (k := 25) 222 rfl dX1_isScaled_219 (by decide) q467 rfl ?_
    refine x_iload (i := 5) 224 rfl dX1_isScaled_222 rfl ?_
    refine q_iald 225 rfl dX1_isScaled_224 h (fun x10 h => ?_)
    refine x_imul 226 rfl dX1_isScaled_225 ?_
    refine x_aload_n (i := 0) 227 rfl dX1_isScaled_226 rfl rfl ?_
    refine q_get (k := 26) 230 rfl dX1_isScaled_227 (by decide) q468 rfl ?_
    refine x_iload (i := 6) 232 rfl dX1_isScaled_230 rfl ?_
    refine q_iald 233 rfl dX1_isScaled_232 h (fun x11 h => ?_)
    refine x_imul 234 rfl dX1_isScaled_233 ?_
    refine x_aload (i := 4) 236 rfl dX1_isScaled_234 rfl ?_
    refine d_getrN (ci := 2) (k := 2) (C := RX4) (T := TX4) (N := 3) 239 rfl dX1_isScaled_236 rfl in_X4 (by decide) (List.mem_of_getElem? (i := 9) rfl) h (fun p12 h => ?_)
    refine x_iload (i := 5) 241 rfl dX1_isScaled_239 rfl ?_
    refine x_nnP (P := fun p12 => xB xLL yX1_isScaled cX1_isScaled 9 (some .boolean) 1 24 241 [some (.inr (.inr (some 300)) : xV), some (.inr (.inr (some (a1))) : xV), some (.inr (.inr (some (a2))) : xV), some (.inr (.inr (some (a3))) : xV), some (.inr (.inr (some (a4))) : xV), some (.inl (a5) : xV), some (.inl (a6) : xV), none, none] [(.inl (a5) : xV), (.inr (.inr (p12)) : xV), (.inl ((x9 * x10) * x11) : xV)] (ms, r) (some (.inl rr.1)) (ms, rr.2)) h (fun p13 h => ?_)
    refine d_aald 242 rfl dX1_isScaled_241 h (fun p14 h => ?_)
    refine x_iload (i := 6) 244 rfl dX1_isScaled_242 rfl ?_
    refine x_nnP (P := fun p14 => xB xLL yX1_isScaled cX1_isScaled 9 (some .boolean) 1 24 244 [some (.inr (.inr (some 300)) : xV), some (.inr (.inr (some (a1))) : xV), some (.inr (.inr (some (a2))) : xV), some (.inr (.inr (some (a3))) : xV), some (.inr (.inr (some (a4))) : xV), some (.inl (a5) : xV), some (.inl (a6) : xV), none, none] [(.inl (a6) : xV), (.inr (.inr (p14)) : xV), (.inl ((x9 * x10) * x11) : xV)] (ms, r) (some (.inl rr.1)) (ms, rr.2)) h (fun p15 h => ?_)
    refine d_iald 245 rfl dX1_isScaled_244 h (fun x16 h => ?_)
    refine x_icmp_eq 250 248 rfl dX1_isScaled_245 rfl h (fun h => ?_) (fun h => ?_)
    · refine x_iincL (i := 6) (1 : Int32) 253 rfl dX1_isScaled_250 rfl rfl (by decide) h (fun x17 h => ?_)
      change xB xLL yX1_isScaled cX1_isScaled 9 (some .boolean) 1 24 253 [some (.inr (.inr (some 300)) : xV), some (.inr (.inr (some (a1))) : xV), some (.inr (.inr (some (a2))) : xV), some (.inr (.inr (some (a3))) : xV), some (.inr (.inr (some (a4))) : xV), some (.inl (a5) : xV), some (.inl (x17) : xV), none, none] [] (ms, r) _ _
      refine x_goto 194 dX1_isScaled_253 rfl ?_
      exact xB.le (xle.s (xle.s (xle.s (xle.s (xle.s (xle.s (xle.s (xle.n (xle.n xle.z))))))))) (hr194 h)
    · refine x_iconst (0 : Int32) 249 rfl dX1_isScaled_248 rfl ?_
      cases h
      exact x_zret rfl (Or.inl rfl) dX1_isScaled_249
def x_X1_isScaled_194_L (rec181 : Nat → Nat → Nat → Nat → Int32 → xR → Option (Int32 × xR)) : Nat → Nat → Nat → Nat → Nat → Int32 → Int32 → xR → Option (Int32 × xR)
  | 0 => fun _ _ _ _ _ _ _ => none
  | n + 1 => x_X1_isScaled_194_s rec181 (x_X1_isScaled_194_L rec181 n)
theorem x_X1_isScaled_194_L_ok {ms : xS} {rr : Int32 × xR} {rec181 : Nat → Nat → Nat → Nat → Int32 → xR → Option (Int32 × xR)} (hr181 : ∀ {a1 : Nat} {a2 : Nat} {a3 : Nat} {a4 : Nat} {a5 : Int32} {r : xR}, rec181 a1 a2 a3 a4 a5 r = some rr → xB xLL yX1_isScaled cX1_isScaled 9 (some .boolean) 1 24 181 [some (.inr (.inr (some 300)) : xV), some (.inr (.inr (some (a1))) : xV), some (.inr (.inr (some (a2))) : xV), some (.inr (.inr (some (a3))) : xV), some (.inr (.inr (some (a4))) : xV), some (.inl (a5) : xV), none, none, none] [] (ms, r) (some (.inl rr.1)) (ms, rr.2)) : ∀ (n9 : Nat) {a1 : Nat} {a2 : Nat} {a3 : Nat} {a4 : Nat} {a5 : Int32} {a6 : Int32} {r : xR}, x_X1_isScaled_194_L rec181 n9 a1 a2 a3 a4 a5 a6 r = some rr → xB xLL yX1_isScaled cX1_isScaled 9 (some .boolean) 1 24 194 [some (.inr (.inr (some 300)) : xV), some (.inr (.inr (some (a1))) : xV), some (.inr (.inr (some (a2))) : xV), some (.inr (.inr (some (a3))) : xV), some (.inr (.inr (some (a4))) : xV), some (.inl (a5) : xV), some (.inl (a6) : xV), none, none] [] (ms, r) (some (.inl rr.1)) (ms, rr.2)
  | 0, _, _, _, _, _, _, _, h => by cases h
  | n9 + 1, _, _, _, _, _, _, _, h => x_X1_isScaled_194_s_ok hr181 (x_X1_isScaled_194_L_ok hr181 n9) h
def x_X1_isScaled_181_s (rec181 : Nat → Nat → Nat → Nat → Int32 → xR → Option (Int32 × xR)) (a1 : Nat) (a2 : Nat) (a3 : Nat) (a4 : Nat) (a5 : Int32) (r : xR) : Option (Int32 × xR) := dgi xLL r a4 2 0 fun x18 => if x18 ≤ a5 then some ((1 : Int32), r) else lt ((0 : Int32)) fun x19 => x_X1_isScaled_194_L rec181 xFU a1 a2 a3 a4 a5 x19 r
theorem x_X1_isScaled_181_s_ok {ms : xS} {rr : Int32 × xR} {rec181 : Nat → Nat → Nat → Nat → Int32 → xR → Option (Int32 × xR)} (hr181 : ∀ {a1 : Nat} {a2 : Nat} {a3 : Nat} {a4 : Nat} {a5 : Int32} {r : xR}, rec181 a1 a2 a3 a4 a5 r = some rr → xB xLL yX1_isScaled cX1_isScaled 9 (some .boolean) 1 24 181 [some (.inr (.inr (some 300)) : xV), some (.inr (.inr (some (a1))) : xV), some (.inr (.inr (some (a2))) : xV), some (.inr (.inr (some (a3))) : xV), some (.inr (.inr (some (a4))) : xV), some (.inl (a5) : xV), none, none, none] [] (ms, r) (some (.inl rr.1)) (ms, rr.2)) {a1 : Nat} {a2 : Nat} {a3 : Nat} {a4 : Nat} {a5 : Int32} {r : xR} (h : x_X1_isScaled_181_s rec181 a1 a2 a3 a4 a5 r = some rr) : xB xLL yX1_isScaled cX1_isScaled 9 (some .boolean) 1 24 181 [some (.inr (.inr (some 300)) : xV), some (.inr (.inr (some (a1))) : xV), some (.inr (.inr (some (a2))) : xV), some (.inr (.inr (some (a3))) : xV), some (.inr (.inr (some (a4))) : xV), some (.inl (a5) : xV), none, none, none] [] (ms, r) (some (.inl rr.1)) (ms, rr.2) := by
  refine x_iload (i := 5) 183 rfl dX1_isScaled_181 rfl ?_
  refine x_aload (i := 4) 185 rfl dX1_isScaled_183 rfl ?_
  refine d_getiN (ci := 2) (k := 0) (C := RX4) (T := TX4) (N := 3) 188 rfl dX1_isScaled_185 rfl in_X4 (by decide) (List.mem_of_getElem? (i := 5) rfl) h (fun x18 h => ?_)
  refine x_icmp_ge 262 191 rfl dX1_isScaled_188 rfl h (fun h => ?_) (fun h => ?_)
  · refine x_iconst (1 : Int32) 263 rfl dX1_isScaled_262 rfl ?_
    cases h
    exact x_zret rfl (Or.inr rfl) dX1_isScaled_263
  · refine x_iconst (0 : Int32) 192 rfl dX1_isScaled_191 rfl ?_
    refine x_lti h (fun x19 h => ?_)
    refine x_istore 194 rfl dX1_isScaled_192 (by decide) (lv' := [some (.inr (.inr (some 300)) : xV), some (.inr (.inr (some (a1))) : xV), some (.inr (.inr (some (a2))) : xV), some (.inr (.inr (some (a3))) : xV), some (.inr (.inr (some (a4))) : xV), some (.inl (a5) : xV), some (.inl (x19) : xV), none, none]) rfl ?_
    exact xB.le (xle.s (xle.s (xle.s (xle.s (xle.s (xle.s (xle.s (xle.n (xle.n xle.z))))))))) (x_X1_isScaled_194_L_ok hr181 xFU h)
def x_X1_isScaled_181_L : Nat → Nat → Nat → Nat → Nat → Int32 → xR → Option (Int32 × xR)
  | 0 => fun _ _ _ _ _ _ => none
  | n + 1 => x_X1_isScaled_181_s (x_X1_isScaled_181_L  n)
theorem x_X1_isScaled_181_L_ok {ms : xS} {rr : Int32 × xR} : ∀ (n9 : Nat) {a1 : Nat} {a2 : Nat} {a3 : Nat} {a4 : Nat} {a5 : Int32} {r : xR}, x_X1_isScaled_181_L  n9 a1 a2 a3 a4 a5 r = some rr → xB xLL yX1_isScaled cX1_isScaled 9 (some .boolean) 1 24 181 [some (.inr (.inr (some 300)) : xV), some (.inr (.inr (some (a1))) : xV), some (.inr (.inr (some (a2))) : xV), some (.inr (.inr (some (a3))) : xV), some (.inr (.inr (some (a4))) : xV), some (.inl (a5) : xV), none, none, none] [] (ms, r) (some (.inl rr.1)) (ms, rr.2)
  | 0, _, _, _, _, _, _, h => by cases h
  | n9 + 1, _, _, _, _, _, _, h => x_X1_isScaled_181_s_ok (x_X1_isScaled_181_L_ok  n9) h
def x_X1_isScaled_172 (rec51 : Nat → Nat → Nat → Nat → Int32 → xR → Option (Int32 × xR)) (a1 : Nat) (a2 : Nat) (a3 : Nat) (a4 : Nat) (a5 : Int32) (r : xR) : Option (Int32 × xR) := lt (a5 + (1 : Int32)) fun x20 => rec51 a1 a2 a3 a4 x20 r
theorem x_X1_isScaled_172_ok {ms : xS} {rr : Int32 × xR} {rec51 : Nat → Nat → Nat → Nat → Int32 → xR → Option (Int32 × xR)} (hr51 : ∀ {a1 : Nat} {a2 : Nat} {a3 : Nat} {a4 : Nat} {a5 : Int32} {r : xR}, rec51 a1 a2 a3 a4 a5 r = some rr → xB xLL yX1_isScaled cX1_isScaled 9 (some .boolean) 1 24 51 [some (.inr (.inr (some 300)) : xV), some (.inr (.inr (some (a1))) : xV), some (.inr (.inr (some (a2))) : xV), some (.inr (.inr (some (a3))) : xV), some (.inr (.inr (some (a4))) : xV), some (.inl (a5) : xV), none, none, none] [] (ms, r) (some (.inl rr.1)) (ms, rr.2)) {a1 : Nat} {a2 : Nat} {a3 : Nat} {a4 : Nat} {a5 : Int32} {r : xR} (h : x_X1_isScaled_172 rec51 a1 a2 a3 a4 a5 r = some rr) : xB xLL yX1_isScaled cX1_isScaled 9 (some .boolean) 1 24 172 [some (.inr (.inr (some 300)) : xV), some (.inr (.inr (some (a1))) : xV), some (.inr (.inr (some (a2))) : xV), some (.inr (.inr (some (a3))) : xV), some (.inr (.inr (some (a4))) : xV), some (.inl (a5) : xV), none, none, none] [] (ms, r) (some (.inl rr.1)) (ms, rr.2) := by
  refine x_iincL (i := 5) (1 : Int32) 175 rfl dX1_isScaled_172 rfl rfl (by decide) h (fun x20 h => ?_)
  change xB xLL yX1_isScaled cX1_isScaled 9 (some .boolean) 1 24 175 [some (.inr (.inr (some 300)) : xV), some (.inr (.inr (some (a1))) : xV), some (.inr (.inr (some (a2))) : xV), some (.inr (.inr (some (a3))) : xV), some (.inr (.inr (some (a4))) : xV), some (.inl (x20) : xV), none, none, none] [] (ms, r) _ _
  refine x_goto 51 dX1_isScaled_175 rfl ?_
  exact xB.le (xle.s (xle.s (xle.s (xle.s (xle.s (xle.s (xle.n (xle.n (xle.n xle.z))))))))) (hr51 h)
def x_X1_isScaled_109_s (rec51 : Nat → Nat → Nat → Nat → Int32 → xR → Option (Int32 × xR)) (rec85 : Nat → Nat → Nat → Nat → Int32 → Int32 → xR → Option (Int32 × xR)) (rec96 : Nat → Nat → Nat → Nat → Int32 → Int32 → Int32 → xR → Option (Int32 × xR)) (rec109 : Nat → Nat → Nat → Nat → Int32 → Int32 → Int32 → Int32 → xR → Option (Int32 × xR)) (a1 : Nat) (a2 : Nat) (a3 : Nat) (a4 : Nat) (a5 : Int32) (a6 : Int32) (a7 : Int32) (a8 : Int32) (r : xR) : Option (Int32 × xR) := dgi xLL r a4 2 1 fun x21 => if x21 ≤ a8 then lt (a7 + (1 : Int32)) fun x22 => rec96 a1 a2 a3 a4 a5 a6 x22 r else dgr xLL r a1 2 2 fun p23 => dai xLL r a2 a7 fun x24 => nn p23 fun p25 => dar xLL r p25 x24 fun p26 => dai xLL r a3 a8 fun x27 => nn p26 fun p28 => dai xLL r p28 x27 fun x29 => dgr xLL r a4 2 2 fun p30 => nn p30 fun p31 => dar xLL r p31 a7 fun p32 => nn p32 fun p33 => dai xLL r p33 a8 fun x34 => cl (x_X1_spreads a7 a8 x29 x34 r) fun q35 => lt (a6 ||| q35.1) fun x36 => lt (a8 + (1 : Int32)) fun x37 => rec109 a1 a2 a3 a4 a5 x36 a7 x37 q35.2
theorem x_X1_isScaled_109_s_ok {ms : xS} {rr : Int32 × xR} {rec51 : Nat → Nat → Nat → Nat → Int32 → xR → Option (Int32 × xR)} {rec85 : Nat → Nat → Nat → Nat → Int32 → Int32 → xR → Option (Int32 × xR)} {rec96 : Nat → Nat → Nat → Nat → Int32 → Int32 → Int32 → xR → Option (Int32 × xR)} {rec109 : Nat → Nat → Nat → Nat → Int32 → Int32 → Int32 → Int32 → xR → Option (Int32 × xR)} (hr51 : ∀ {a1 : Nat} {a2 : Nat} {a3 : Nat} {a4 : Nat} {a5 : Int32} {r : xR}, rec51 a1 a2 a3 a4 a5 r = some rr → xB xLL yX1_isScaled cX1_isScaled 9 (some .boolean) 1 24 51 [some (.inr (.inr (some 300)) : xV), some (.inr (.inr (some (a1))) : xV), some (.inr (.inr (some (a2))) : xV), some (.inr (.inr (some (a3))) : xV), some (.inr (.inr (some (a4))) : xV), some (.inl (a5) : xV), none, none, none] [] (ms, r) (some (.inl rr.1)) (ms, rr.2)) (hr85 : ∀ {a1 : Nat} {a2 : Nat} {a3 : Nat} {a4 : Nat} {a5 : Int32} {a6 : Int32} {r : xR}, rec85 a1 a2 a3 a4 a5 a6 r = some rr → xB xLL yX1_isScaled cX1_isScaled 9 (some .boolean) 1 24 85 [some (.inr (.inr (some 300)) : xV), some (.inr (.inr (some (a1))) : xV), some (.inr (.inr (some (a2))) : xV), some (.inr (.inr (some (a3))) : xV), some (.inr (.inr (some (a4))) : xV), some (.inl (a5) : xV), some (.inl (a6) : xV), none, none] [] (ms, r) (some (.inl rr.1)) (ms, rr.2)) (hr96 : ∀ {a1 : Nat} {a2 : Nat} {a3 : Nat} {a4 : Nat} {a5 : Int32} {a6 : Int32} {a7 : Int32} {r : xR}, rec96 a1 a2 a3 a4 a5 a6 a7 r = some rr → xB xLL yX1_isScaled cX1_isScaled 9 (some .boolean) 1 24 96 [some (.inr (.inr (some 300)) : xV), some (.inr (.inr (some (a1))) : xV), some (.inr (.inr (some (a2))) : xV), some (.inr (.inr (some (a3))) : xV), some (.inr (.inr (some (a4))) : xV), some (.inl (a5) : xV), some (.inl (a6) : xV), some (.inl (a7) : xV), none] [] (ms, r) (some (.inl rr.1)) (ms, rr.2)) (hr109 : ∀ {a1 : Nat} {a2 : Nat} {a3 : Nat} {a4 : Nat} {a5 : Int32} {a6 : Int32} {a7 : Int32} {a8 : Int32} {r : xR}, rec109 a1 a2 a3 a4 a5 a6 a7 a8 r = some rr → xB xLL yX1_isScaled cX1_isScaled 9 (some .boolean) 1 24 109 [some (.inr (.inr (some 300)) : xV), some (.inr (.inr (some (a1))) : xV), some (.inr (.inr (some (a2))) : xV), some (.inr (.inr (some (a3))) : xV), some (.inr (.inr (some (a4))) : xV), some (.inl (a5) : xV), some (.inl (a6) : xV), some (.inl (a7) : xV), some (.inl (a8) : xV)] [] (ms, r) (some (.inl rr.1)) (ms, rr.2)) {a1 : Nat} {a2 : Nat} {a3 : Nat} {a4 : Nat} {a5 : Int32} {a6 : Int32} {a7 : Int32} {a8 : Int32} {r : xR} (h : x_X1_isScaled_109_s rec51 rec85 rec96 rec109 a1 a2 a3 a4 a5 a6 a7 a8 r = some rr) : xB xLL yX1_isScaled cX1_isScaled 9 (some .boolean) 1 24 109 [some (.inr (.inr (some 300)) : xV), some (.inr (.inr (some (a1))) : xV), some (.inr (.inr (some (a2))) : xV), some (.inr (.inr (some (a3))) : xV), some (.inr (.inr (some (a4))) : xV), some (.inl (a5) : xV), some (.inl (a6) : xV), some (.inl (a7) : xV), some (.inl (a8) : xV)] [] (ms, r) (some (.inl rr.1)) (ms, rr.2) := by
  refine x_iload (i := 8) 111 rfl dX1_isScaled_109 rfl ?_
  refine x_aload (i := 4) 113 rfl dX1_isScaled_111 rfl ?_
  refine d_getiN (ci := 2) (k := 1) (C := RX4) (T := TX4) (N := 3) 116 rfl dX1_isScaled_113 rfl in_X4 (by decide) (List.mem_of_getElem? (i := 7) rfl) h (fun x21 h => ?_)
  refine x_icmp_ge 163 119 rfl dX1_isScaled_116 rfl h (fun h => ?_) (fun h => ?_)
  · refine x_iincL (i := 7) (1 : Int32) 166 rfl dX1_isScaled_163 rfl rfl (by decide) h (fun x22 h => ?_)
    change xB xLL yX1_isScaled cX1_isScaled 9 (some .boolean) 1 24 166 [some (.inr (.inr (some 300)) : xV), some (.inr (.inr (some (a1))) : xV), some (.inr (.inr (some (a2))) : xV), some (.inr (.inr (some (a3))) : xV), some (.inr (.inr (some (a4))) : xV), some (.inl (a5) : xV), some (.inl (a6) : xV), some (.inl (x22) : xV), some (.inl (a8) : xV)] [] (ms, r) _ _
    refine x_goto 96 dX1_isScaled_166 rfl ?_
    exact xB.le (xle.s (xle.s (xle.s (xle.s (xle.s (xle.s (xle.s (xle.s (xle.n xle.z))))))))) (hr96 h)
  · refine x_iload (i := 6) 121 rfl dX1_isScaled_119 rfl ?_
    refine x_aload_n (i := 0) 122 rfl dX1_isScaled_121 rfl rfl ?_
    refine x_iload (i := 7) 124 rfl dX1_isScaled_122 rfl ?_
    refine x_iload (i := 8) 126 rfl dX1_isScaled_124 rfl ?_
    refine x_aload_n (i := 1) 127 rfl dX1_isScaled_126 rfl rfl ?_
    refine d_getrN (ci := 2) (k := 2) (C := RX4) (T := TX4) (N := 3) 130 rfl dX1_isScaled_127 rfl in_X4 (by decide) (List.mem_of_getElem? (i := 9) rfl) h (fun p23 h => ?_)
    refine x_aload_n (i := 2) 131 rfl dX1_isScaled_130 rfl rfl ?_
    refine x_iload (i := 7) 133 rfl dX1_isScaled_131 rfl ?_
    refine d_iald 134 rfl dX1_isScaled_133 h (fun x24 h => ?_)
    refine x_nnP (P := fun p23 => xB xLL yX1_isScaled cX1_isScaled 9 (some .boolean) 1 24 134 [some (.inr (.inr (some 300)) : xV), some (.inr (.inr (some (a1))) : xV), some (.inr (.inr (some (a2))) : xV), some (.inr (.inr (some (a3))) : xV), some (.inr (.inr (some (a4))) : xV), some (.inl (a5) : xV), some (.inl (a6) : xV), some (.inl (a7) : xV), some (.inl (a8) : xV)] [(.inl (x24) : xV), (.inr (.inr (p23)) : xV), (.inl (a8) : xV), (.inl (a7) : xV), (.inr (.inr (some 300)) : xV), (.inl (a6) : xV)] (ms, r) (some (.inl rr.1)) (ms, rr.2)) h (fun p25 h => ?_)
    refine d_aald 135 rfl dX1_isScaled_134 h (fun p26 h => ?_)
    refine x_aload_n (i := 3) 136 rfl dX1_isScaled_135 rfl rfl ?_
    refine x_iload (i := 8) 138 rfl dX1_isScaled_136 rfl ?_
    refine d_iald 139 rfl dX1_isScaled_138 h (fun x27 h => ?_)
    refine x_nnP (P := fun p26 => xB xLL yX1_isScaled cX1_isScaled 9 (some .boolean) 1 24 139 [some (.inr (.inr (some 300)) : xV), some (.inr (.inr (some (a1))) : xV), some (.inr (.inr (some (a2))) : xV), some (.inr (.inr (some (a3))) : xV), some (.inr (.inr (some (a4))) : xV), some (.inl (a5) : xV), some (.inl (a6) : xV), some (.inl (a7) : xV), some (.inl (a8) : xV)] [(.inl (x27) : xV), (.inr (.inr (p26)) : xV), (.inl (a8) : xV), (.inl (a7) : xV), (.inr (.inr (some 300)) : xV), (.inl (a6) : xV)] (ms, r) (some (.inl rr.1)) (ms, rr.2)) h (fun p28 h => ?_)
    refine d_iald 140 rfl dX1_isScaled_139 h (fun x29 h => ?_)
    refine x_aload (i := 4) 142 rfl dX1_isScaled_140 rfl ?_
    refine d_getrN (ci := 2) (k := 2) (C := RX4) (T := TX4) (N := 3) 145 rfl dX1_isScaled_142 rfl in_X4 (by decide) (List.mem_of_getElem? (i := 9) rfl) h (fun p30 h => ?_)
    refine x_iload (i := 7) 147 rfl dX1_isScaled_145 rfl ?_
    refine x_nnP (P := fun p30 => xB xLL yX1_isScaled cX1_isScaled 9 (some .boolean) 1 24 147 [some (.inr (.inr (some 300)) : xV), some (.inr (.inr (some (a1))) : xV), some (.inr (.inr (some (a2))) : xV), some (.inr (.inr (some (a3))) : xV), some (.inr (.inr (some (a4))) : xV), some (.inl (a5) : xV), some (.inl (a6) : xV), some (.inl (a7) : xV), some (.inl (a8) : xV)] [(.inl (a7) : xV), (.inr (.inr (p30)) : xV), (.inl (x29) : xV), (.inl (a8) : xV), (.inl (a7) : xV), (.inr (.inr (some 300)) : xV), (.inl (a6) : xV)] (ms, r) (some (.inl rr.1)) (ms, rr.2)) h (fun p31 h => ?_)
    refine d_aald 148 rfl dX1_isScaled_147 h (fun p32 h => ?_)
    refine x_iload (i := 8) 150 rfl dX1_isScaled_148 rfl ?_
    refine x_nnP (P := fun p32 => xB xLL yX1_isScaled cX1_isScaled 9 (some .boolean) 1 24 150 [some (.inr (.inr (some 300)) : xV), some (.inr (.inr (some (a1))) : xV), some (.inr (.inr (some (a2))) : xV), some (.inr (.inr (some (a3))) : xV), some (.inr (.inr (some (a4))) : xV), some (.inl (a5) : xV), some (.inl (a6) : xV), some (.inl (a7) : xV), some (.inl (a8) : xV)] [(.inl (a8) : xV), (.inr (.inr (p32)) : xV), (.inl (x29) : xV), (.inl (a8) : xV), (.inl (a7) : xV), (.inr (.inr (some 300)) : xV), (.inl (a6) : xV)] (ms, r) (some (.inl rr.1)) (ms, rr.2)) h (fun p33 h => ?_)
    refine d_iald 151 rfl dX1_isScaled_150 h (fun x34 h => ?_)
    refine x_cl h (fun q35 hq h => ?_)
    refine x_callV (as := [(.inl (a7) : xV), (.inl (a8) : xV), (.inl (x29) : xV), (.inl (x34) : xV)]) (rest := [(.inl (a6) : xV)]) (vv := (some (.inl (q35.1) : xV))) (w2 := (ms, q35.2)) (C := RX1) (T := TX1) (N := 34) 154 rfl dX1_isScaled_151 (x_X1_spreads_ct hq) (Or.inl xcell_X0) rfl (lw_V q1650 q1652 qs53 q118 q1653) rfl ydX1_spreads rfl ⟨Nat.le_of_ble_eq_true rfl, Nat.le_of_ble_eq_true rfl⟩ (Nat.le_of_ble_eq_true rfl) rfl ?_
    change xB xLL yX1_isScaled cX1_isScaled 9 (some .boolean) 1 24 154 [some (.inr (.inr (some 300)) : xV), some (.inr (.inr (some (a1))) : xV), some (.inr (.inr (some (a2))) : xV), some (.inr (.inr (some (a3))) : xV), some (.inr (.inr (some (a4))) : xV), some (.inl (a5) : xV), some (.inl (a6) : xV), some (.inl (a7) : xV), some (.inl (a8) : xV)] [(.inl (q35.1) : xV), (.inl (a6) : xV)] (ms, q35.2) _ _
    refine x_ior 155 rfl dX1_isScaled_154 ?_
    refine x_lti h (fun x36 h => ?_)
    refine x_istore 157 rfl dX1_isScaled_155 (by decide) (lv' := [some (.inr (.inr (some 300)) : xV), some (.inr (.inr (some (a1))) : xV), some (.inr (.inr (some (a2))) : xV), some (.inr (.inr (some (a3))) : xV), some (.inr (.inr (some (a4))) : xV), some (.inl (a5) : xV), some (.inl (x36) : xV), some (.inl (a7) : xV), some (.inl (a8) : xV)]) rfl ?_
    refine x_iincL (i := 8) (1 : Int32) 160 rfl dX1_isScaled_157 rfl rfl (by decide) h (fun x37 h => ?_)
    change xB xLL yX1_isScaled cX1_isScaled 9 (some .boolean) 1 24 160 [some (.inr (.inr (some 300)) : xV), some (.inr (.inr (some (a1))) : xV), some (.inr (.inr (some (a2))) : xV), some (.inr (.inr (some (a3))) : xV), some (.inr (.inr (some (a4))) : xV), some (.inl (a5) : xV), some (.inl (x36) : xV), some (.inl (a7) : xV), some (.inl (x37) : xV)] [] (ms, q35.2) _ _
    refine x_goto 109 dX1_isScaled_160 rfl ?_
    exact xB.le (xle.s (xle.s (xle.s (xle.s (xle.s (xle.s (xle.s (xle.s (xle.s xle.z))))))))) (hr109 h)
def x_X1_isScaled_109_L (rec51 : Nat → Nat → Nat → Nat → Int32 → xR → Option (Int32 × xR)) (rec85 : Nat → Nat → Nat → Nat → Int32 → Int32 → xR → Option (Int32 × xR)) (rec96 : Nat → Nat → Nat → Nat → Int32 → Int32 → Int32 → xR → Option (Int32 × xR)) : Nat → Nat → Nat → Nat → Nat → Int32 → Int32 → Int32 → Int32 → xR → Option (Int32 × xR)
  | 0 => fun _ _ _ _ _ _ _ _ _ => none
  | n + 1 => x_X1_isScaled_109_s rec51 rec85 rec96 (x_X1_isScaled_109_L rec51 rec85 rec96 n)
theorem x_X1_isScaled_109_L_ok {ms : xS} {rr : Int32 × xR} {rec51 : Nat → Nat → Nat → Nat → Int32 → xR → Option (Int32 × xR)} {rec85 : Nat → Nat → Nat → Nat → Int32 → Int32 → xR → Option (Int32 × xR)} {rec96 : Nat → Nat → Nat → Nat → Int32 → Int32 → Int32 → xR → Option (Int32 × xR)} (hr51 : ∀ {a1 : Nat} {a2 : Nat} {a3 : Nat} {a4 : Nat} {a5 : Int32} {r : xR}, rec51 a1 a2 a3 a4 a5 r = some rr → xB xLL yX1_isScaled cX1_isScaled 9 (some .boolean) 1 24 51 [some (.inr (.inr (some 300)) : xV), some (.inr (.inr (some (a1))) : xV), some (.inr (.inr (some (a2))) : xV), some (.inr (.inr (some (a3))) : xV), some (.inr (.inr (some (a4))) : xV), some (.inl (a5) : xV), none, none, none] [] (ms, r) (some (.inl rr.1)) (ms, rr.2)) (hr85 : ∀ {a1 : Nat} {a2 : Nat} {a3 : Nat} {a4 : Nat} {a5 : Int32} {a6 : Int32} {r : xR}, rec85 a1 a2 a3 a4 a5 a6 r = some rr → xB xLL yX1_isScaled cX1_isScaled 9 (some .boolean) 1 24 85 [some (.inr (.inr (some 300)) : xV), some (.inr (.inr (some (a1))) : xV), some (.inr (.inr (some (a2))) : xV), some (.inr (.inr (some (a3))) : xV), some (.inr (.inr (some (a4))) : xV), some (.inl (a5) : xV), some (.inl (a6) : xV), none, none] [] (ms, r) (some (.inl rr.1)) (ms, rr.2)) (hr96 : ∀ {a1 : Nat} {a2 : Nat} {a3 : Nat} {a4 : Nat} {a5 : Int32} {a6 : Int32} {a7 : Int32} {r : xR}, rec96 a1 a2 a3 a4 a5 a6 a7 r = some rr → xB xLL yX1_isScaled cX1_isScaled 9 (some .boolean) 1 24 96 [some (.inr (.inr (some 300)) : xV), some (.inr (.inr (some (a1))) : xV), some (.inr (.inr (some (a2))) : xV), some (.inr (.inr (some (a3))) : xV), some (.inr (.inr (some (a4))) : xV), some (.inl (a5) : xV), some (.inl (a6) : xV), some (.inl (a7) : xV), none] [] (ms, r) (some (.inl rr.1)) (ms, rr.2)) : ∀ (n9 : Nat) {a1 : Nat} {a2 : Nat} {a3 : Nat} {a4 : Nat} {a5 : Int32} {a6 : Int32} {a7 : Int32} {a8 : Int32} {r : xR}, x_X1_isScaled_109_L rec51 rec85 rec96 n9 a1 a2 a3 a4 a5 a6 a7 a8 r = some rr → xB xLL yX1_isScaled cX1_isScaled 9 (some .boolean) 1 24 109 [some (.inr (.inr (some 300)) : xV), some (.inr (.inr (some (a1))) : xV), some (.inr (.inr (some (a2))) : xV), some (.inr (.inr (some (a3))) : xV), some (.inr (.inr (some (a4))) : xV), some (.inl (a5) : xV), some (.inl (a6) : xV), some (.inl (a7) : xV), some (.inl (a8) : xV)] [] (ms, r) (some (.inl rr.1)) (ms, rr.2)
  | 0, _, _, _, _, _, _, _, _, _, h => by cases h
  | n9 + 1, _, _, _, _, _, _, _, _, _, h => x_X1_isScaled_109_s_ok hr51 hr85 hr96 (x_X1_isScaled_109_L_ok hr51 hr85 hr96 n9) h
def x_X1_isScaled_96_s (rec51 : Nat → Nat → Nat → Nat → Int32 → xR → Option (Int32 × xR)) (rec85 : Nat → Nat → Nat → Nat → Int32 → Int32 → xR → Option (Int32 × xR)) (rec96 : Nat → Nat → Nat → Nat → Int32 → Int32 → Int32 → xR → Option (Int32 × xR)) (a1 : Nat) (a2 : Nat) (a3 : Nat) (a4 : Nat) (a5 : Int32) (a6 : Int32) (a7 : Int32) (r : xR) : Option (Int32 × xR) := dgi xLL r a4 2 0 fun x38 => if x38 ≤ a7 then rec85 a1 a2 a3 a4 a5 a6 r else lt ((0 : Int32)) fun x39 => x_X1_isScaled_109_L rec51 rec85 rec96 xFU a1 a2 a3 a4 a5 a6 a7 x39 r
theorem x_X1_isScaled_96_s_ok {ms : xS} {rr : Int32 × xR} {rec51 : Nat → Nat → Nat → Nat → Int32 → xR → Option (Int32 × xR)} {rec85 : Nat → Nat → Nat → Nat → Int32 → Int32 → xR → Option (Int32 × xR)} {rec96 : Nat → Nat → Nat → Nat → Int32 → Int32 → Int32 → xR → Option (Int32 × xR)} (hr51 : ∀ {a1 : Nat} {a2 : Nat} {a3 : Nat} {a4 : Nat} {a5 : Int32} {r : xR}, rec51 a1 a2 a3 a4 a5 r = some rr → xB xLL yX1_isScaled cX1_isScaled 9 (some .boolean) 1 24 51 [some (.inr (.inr (some 300)) : xV), some (.inr (.inr (some (a1))) : xV), some (.inr (.inr (some (a2))) : xV), some (.inr (.inr (some (a3))) : xV), some (.inr (.inr (some (a4))) : xV), some (.inl (a5) : xV), none, none, none] [] (ms, r) (some (.inl rr.1)) (ms, rr.2)) (hr85 : ∀ {a1 : Nat} {a2 : Nat} {a3 : Nat} {a4 : Nat} {a5 : Int32} {a6 : Int32} {r : xR}, rec85 a1 a2 a3 a4 a5 a6 r = some rr → xB xLL yX1_isScaled cX1_isScaled 9 (some .boolean) 1 24 85 [some (.inr (.inr (some 300)) : xV), some (.inr (.inr (some (a1))) : xV), some (.inr (.inr (some (a2))) : xV), some (.inr (.inr (some (a3))) : xV), some (.inr (.inr (some (a4))) : xV), some (.inl (a5) : xV), some (.inl (a6) : xV), none, none] [] (ms, r) (some (.inl rr.1)) (ms, rr.2)) (hr96 : ∀ {a1 : Nat} {a2 : Nat} {a3 : Nat} {a4 : Nat} {a5 : Int32} {a6 : Int32} {a7 : Int32} {r : xR}, rec96 a1 a2 a3 a4 a5 a6 a7 r = some rr → xB xLL yX1_isScaled cX1_isScaled 9 (some .boolean) 1 24 96 [some (.inr (.inr (some 300)) : xV), some (.inr (.inr (some (a1))) : xV), some (.inr (.inr (some (a2))) : xV), some (.inr (.inr (some (a3))) : xV), some (.inr (.inr (some (a4))) : xV), some (.inl (a5) : xV), some (.inl (a6) : xV), some (.inl (a7) : xV), none] [] (ms, r) (some (.inl rr.1)) (ms, rr.2)) {a1 : Nat} {a2 : Nat} {a3 : Nat} {a4 : Nat} {a5 : Int32} {a6 : Int32} {a7 : Int32} {r : xR} (h : x_X1_isScaled_96_s rec51 rec85 rec96 a1 a2 a3 a4 a5 a6 a7 r = some rr) : xB xLL yX1_isScaled cX1_isScaled 9 (some .boolean) 1 24 96 [some (.inr (.inr (some 300)) : xV), some (.inr (.inr (some (a1))) : xV), some (.inr (.inr (some (a2))) : xV), some (.inr (.inr (some (a3))) : xV), some (.inr (.inr (some (a4))) : xV), some (.inl (a5) : xV), some (.inl (a6) : xV), some (.inl (a7) : xV), none] [] (ms, r) (some (.inl rr.1)) (ms, rr.2) := by
  refine x_iload (i := 7) 98 rfl dX1_isScaled_96 rfl ?_
  refine x_aload (i := 4) 100 rfl dX1_isScaled_98 rfl ?_
  refine d_getiN (ci := 2) (k := 0) (C := RX4) (T := TX4) (N := 3) 103 rfl dX1_isScaled_100 rfl in_X4 (by decide) (List.mem_of_getElem? (i := 5) rfl) h (fun x38 h => ?_)
  refine x_icmp_ge 169 106 rfl dX1_isScaled_103 rfl h (fun h => ?_) (fun h => ?_)
  · refine x_goto 85 dX1_isScaled_169 rfl ?_
    exact xB.le (xle.s (xle.s (xle.s (xle.s (xle.s (xle.s (xle.s (xle.n (xle.n xle.z))))))))) (hr85 h)
  · refine x_iconst (0 : Int32) 107 rfl dX1_isScaled_106 rfl ?_
    refine x_lti h (fun x39 h => ?_)
    refine x_istore 109 rfl dX1_isScaled_107 (by decide) (lv' := [some (.inr (.inr (some 300)) : xV), some (.inr (.inr (some (a1))) : xV), some (.inr (.inr (some (a2))) : xV), some (.inr (.inr (some (a3))) : xV), some (.inr (.inr (some (a4))) : xV), some (.inl (a5) : xV), some (.inl (a6) : xV), some (.inl (a7) : xV), some (.inl (x39) : xV)]) rfl ?_
    exact xB.le (xle.s (xle.s (xle.s (xle.s (xle.s (xle.s (xle.s (xle.s (xle.s xle.z))))))))) (x_X1_isScaled_109_L_ok hr51 hr85 hr96 xFU h)
def x_X1_isScaled_96_L (rec51 : Nat → Nat → Nat → Nat → Int32 → xR → Option (Int32 × xR)) (rec85 : Nat → Nat → Nat → Nat → Int32 → Int32 → xR → Option (Int32 × xR)) : Nat → Nat → Nat → Nat → Nat → Int32 → Int32 → Int32 → xR → Option (Int32 × xR)
  | 0 => fun _ _ _ _ _ _ _ _ => none
  | n + 1 => x_X1_isScaled_96_s rec51 rec85 (x_X1_isScaled_96_L rec51 rec85 n)
theorem x_X1_isScaled_96_L_ok {ms : xS} {rr : Int32 × xR} {rec51 : Nat → Nat → Nat → Nat → Int32 → xR → Option (Int32 × xR)} {rec85 : Nat → Nat → Nat → Nat → Int32 → Int32 → xR → Option (Int32 × xR)} (hr51 : ∀ {a1 : Nat} {a2 : Nat} {a3 : Nat} {a4 : Nat} {a5 : Int32} {r : xR}, rec51 a1 a2 a3 a4 a5 r = some rr → xB xLL yX1_isScaled cX1_isScaled 9 (some .boolean) 1 24 51 [some (.inr (.inr (some 300)) : xV), some (.inr (.inr (some (a1))) : xV), some (.inr (.inr (some (a2))) : xV), some (.inr (.inr (some (a3))) : xV), some (.inr (.inr (some (a4))) : xV), some (.inl (a5) : xV), none, none, none] [] (ms, r) (some (.inl rr.1)) (ms, rr.2)) (hr85 : ∀ {a1 : Nat} {a2 : Nat} {a3 : Nat} {a4 : Nat} {a5 : Int32} {a6 : Int32} {r : xR}, rec85 a1 a2 a3 a4 a5 a6 r = some rr → xB xLL yX1_isScaled cX1_isScaled 9 (some .boolean) 1 24 85 [some (.inr (.inr (some 300)) : xV), some (.inr (.inr (some (a1))) : xV), some (.inr (.inr (some (a2))) : xV), some (.inr (.inr (some (a3))) : xV), some (.inr (.inr (some (a4))) : xV), some (.inl (a5) : xV), some (.inl (a6) : xV), none, none] [] (ms, r) (some (.inl rr.1)) (ms, rr.2)) : ∀ (n9 : Nat) {a1 : Nat} {a2 : Nat} {a3 : Nat} {a4 : Nat} {a5 : Int32} {a6 : Int32} {a7 : Int32} {r : xR}, x_X1_isScaled_96_L rec51 rec85 n9 a1 a2 a3 a4 a5 a6 a7 r = some rr → xB xLL yX1_isScaled cX1_isScaled 9 (some .boolean) 1 24 96 [some (.inr (.inr (some 300)) : xV), some (.inr (.inr (some (a1))) : xV), some (.inr (.inr (some (a2))) : xV), some (.inr (.inr (some (a3))) : xV), some (.inr (.inr (some (a4))) : xV), some (.inl (a5) : xV), some (.inl (a6) : xV), some (.inl (a7) : xV), none] [] (ms, r) (some (.inl rr.1)) (ms, rr.2)
  | 0, _, _, _, _, _, _, _, _, h => by cases h
  | n9 + 1, _, _, _, _, _, _, _, _, h => x_X1_isScaled_96_s_ok hr51 hr85 (x_X1_isScaled_96_L_ok hr51 hr85 n9) h
def x_X1_isScaled_85_s (rec51 : Nat → Nat → Nat → Nat → Int32 → xR → Option (Int32 × xR)) (rec85 : Nat → Nat → Nat → Nat → Int32 → Int32 → xR → Option (Int32 × xR)) (a1 : Nat) (a2 : Nat) (a3 : Nat) (a4 : Nat) (a5 : Int32) (a6 : Int32) (r : xR) : Option (Int32 × xR) := if a6 = 0 then x_X1_isScaled_172 rec51 a1 a2 a3 a4 a5 r else lt ((0 : Int32)) fun x40 => lt ((0 : Int32)) fun x41 => x_X1_isScaled_96_L rec51 rec85 xFU a1 a2 a3 a4 a5 x40 x41 r
theorem x_X1_isScaled_85_s_ok {ms : xS} {rr : Int32 × xR} {rec51 : Nat → Nat → Nat → Nat → Int32 → xR → Option (Int32 × xR)} {rec85 : Nat → Nat → Nat → Nat → Int32 → Int32 → xR → Option (Int32 × xR)} (hr51 : ∀ {a1 : Nat} {a2 : Nat} {a3 : Nat} {a4 : Nat} {a5 : Int32} {r : xR}, rec51 a1 a2 a3 a4 a5 r = some rr → xB xLL yX1_isScaled cX1_isScaled 9 (some .boolean) 1 24 51 [some (.inr (.inr (some 300)) : xV), some (.inr (.inr (some (a1))) : xV), some (.inr (.inr (some (a2))) : xV), some (.inr (.inr (some (a3))) : xV), some (.inr (.inr (some (a4))) : xV), some (.inl (a5) : xV), none, none, none] [] (ms, r) (some (.inl rr.1)) (ms, rr.2)) (hr85 : ∀ {a1 : Nat} {a2 : Nat} {a3 : Nat} {a4 : Nat} {a5 : Int32} {a6 : Int32} {r : xR}, rec85 a1 a2 a3 a4 a5 a6 r = some rr → xB xLL yX1_isScaled cX1_isScaled 9 (some .boolean) 1 24 85 [some (.inr (.inr (some 300)) : xV), some (.inr (.inr (some (a1))) : xV), some (.inr (.inr (some (a2))) : xV), some (.inr (.inr (some (a3))) : xV), some (.inr (.inr (some (a4))) : xV), some (.inl (a5) : xV), some (.inl (a6) : xV), none, none] [] (ms, r) (some (.inl rr.1)) (ms, rr.2)) {a1 : Nat} {a2 : Nat} {a3 : Nat} {a4 : Nat} {a5 : Int32} {a6 : Int32} {r : xR} (h : x_X1_isScaled_85_s rec51 rec85 a1 a2 a3 a4 a5 a6 r = some rr) : xB xLL yX1_isScaled cX1_isScaled 9 (some .boolean) 1 24 85 [some (.inr (.inr (some 300)) : xV), some (.inr (.inr (some (a1))) : xV), some (.inr (.inr (some (a2))) : xV), some (.inr (.inr (some (a3))) : xV), some (.inr (.inr (some (a4))) : xV), some (.inl (a5) : xV), some (.inl (a6) : xV), none, none] [] (ms, r) (some (.inl rr.1)) (ms, rr.2) := by
  refine x_iload (i := 6) 87 rfl dX1_isScaled_85 rfl ?_
  refine x_if_eq 172 90 rfl dX1_isScaled_87 rfl h (fun h => ?_) (fun h => ?_)
  · exact xB.le (xle.s (xle.s (xle.s (xle.s (xle.s (xle.s (xle.n (xle.n (xle.n xle.z))))))))) (x_X1_isScaled_172_ok hr51 h)
  · refine x_iconst (0 : Int32) 91 rfl dX1_isScaled_90 rfl ?_
    refine x_lti h (fun x40 h => ?_)
    refine x_istore 93 rfl dX1_isScaled_91 (by decide) (lv' := [some (.inr (.inr (some 300)) : xV), some (.inr (.inr (some (a1))) : xV), some (.inr (.inr (some (a2))) : xV), some (.inr (.inr (some (a3))) : xV), some (.inr (.inr (some (a4))) : xV), some (.inl (a5) : xV), some (.inl (x40) : xV), none, none]) rfl ?_
    refine x_iconst (0 : Int32) 94 rfl dX1_isScaled_93 rfl ?_
    refine x_lti h (fun x41 h => ?_)
    refine x_istore 96 rfl dX1_isScaled_94 (by decide) (lv' := [some (.inr (.inr (some 300)) : xV), some (.inr (.inr (some (a1))) : xV), some (.inr (.inr (some (a2))) : xV), some (.inr (.inr (some (a3))) : xV), some (.inr (.inr (some (a4))) : xV), some (.inl (a5) : xV), some (.inl (x40) : xV), some (.inl (x41) : xV), none]) rfl ?_
    exact xB.le (xle.s (xle.s (xle.s (xle.s (xle.s (xle.s (xle.s (xle.s (xle.n xle.z))))))))) (x_X1_isScaled_96_L_ok hr51 hr85 xFU h)
def x_X1_isScaled_85_L (rec51 : Nat → Nat → Nat → Nat → Int32 → xR → Option (Int32 × xR)) : Nat → Nat → Nat → Nat → Nat → Int32 → Int32 → xR → Option (Int32 × xR)
  | 0 => fun _ _ _ _ _ _ _ => none
  | n + 1 => x_X1_isScaled_85_s rec51 (x_X1_isScaled_85_L rec51 n)
theorem x_X1_isScaled_85_L_ok {ms : xS} {rr : Int32 × xR} {rec51 : Nat → Nat → Nat → Nat → Int32 → xR → Option (Int32 × xR)} (hr51 : ∀ {a1 : Nat} {a2 : Nat} {a3 : Nat} {a4 : Nat} {a5 : Int32} {r : xR}, rec51 a1 a2 a3 a4 a5 r = some rr → xB xLL yX1_isScaled cX1_isScaled 9 (some .boolean) 1 24 51 [some (.inr (.inr (some 300)) : xV), some (.inr (.inr (some (a1))) : xV), some (.inr (.inr (some (a2))) : xV), some (.inr (.inr (some (a3))) : xV), some (.inr (.inr (some (a4))) : xV), some (.inl (a5) : xV), none, none, none] [] (ms, r) (some (.inl rr.1)) (ms, rr.2)) : ∀ (n9 : Nat) {a1 : Nat} {a2 : Nat} {a3 : Nat} {a4 : Nat} {a5 : Int32} {a6 : Int32} {r : xR}, x_X1_isScaled_85_L rec51 n9 a1 a2 a3 a4 a5 a6 r = some rr → xB xLL yX1_isScaled cX1_isScaled 9 (some .boolean) 1 24 85 [some (.inr (.inr (some 300)) : xV), some (.inr (.inr (some (a1))) : xV), some (.inr (.inr (some (a2))) : xV), some (.inr (.inr (some (a3))) : xV), some (.inr (.inr (some (a4))) : xV), some (.inl (a5) : xV), some (.inl (a6) : xV), none, none] [] (ms, r) (some (.inl rr.1)) (ms, rr.2)
  | 0, _, _, _, _, _, _, _, h => by cases h
  | n9 + 1, _, _, _, _, _, _, _, h => x_X1_isScaled_85_s_ok hr51 (x_X1_isScaled_85_L_ok hr51 n9) h
def x_X1_isScaled_51_s (rec51 : Nat → Nat → Nat → Nat → Int32 → xR → Option (Int32 × xR)) (a1 : Nat) (a2 : Nat) (a3 : Nat) (a4 : Nat) (a5 : Int32) (r : xR) : Option (Int32 × xR) := dgi xLL r a4 2 0 fun x42 => if x42 ≤ a5 then lt ((0 : Int32)) fun x43 => x_X1_isScaled_181_L xFU a1 a2 a3 a4 x43 r else qrd r 58 a5 fun x44 => if x44 = 0 then qwr r 58 a5 (1 : Int32) fun r45 => lt ((1 : Int32)) fun x46 => x_X1_isScaled_85_L rec51 xFU a1 a2 a3 a4 a5 x46 r45 else x_X1_isScaled_172 rec51 a1 a2 a3 a4 a5 r
theorem x_X1_isScaled_51_s_ok {ms : xS} {rr : Int32 × xR} {rec51 : Nat → Nat → Nat → Nat → Int32 → xR → Option (Int32 × xR)} (hr51 : ∀ {a1 : Nat} {a2 : Nat} {a3 : Nat} {a4 : Nat} {a5 : Int32} {r : xR}, rec51 a1 a2 a3 a4 a5 r = some rr → xB xLL yX1_isScaled cX1_isScaled 9 (some .boolean) 1 24 51 [some (.inr (.inr (some 300)) : xV), some (.inr (.inr (some (a1))) : xV), some (.inr (.inr (some (a2))) : xV), some (.inr (.inr (some (a3))) : xV), some (.inr (.inr (some (a4))) : xV), some (.inl (a5) : xV), none, none, none] [] (ms, r) (some (.inl rr.1)) (ms, rr.2)) {a1 : Nat} {a2 : Nat} {a3 : Nat} {a4 : Nat} {a5 : Int32} {r : xR} (h : x_X1_isScaled_51_s rec51 a1 a2 a3 a4 a5 r = some rr) : xB xLL yX1_isScaled cX1_isScaled 9 (some .boolean) 1 24 51 [some (.inr (.inr (some 300)) : xV), some (.inr (.inr (some (a1))) : xV), some (.inr (.inr (some (a2))) : xV), some (.inr (.inr (some (a3))) : xV), some (.inr (.inr (some (a4))) : xV), some (.inl (a5) : xV), none, none, none] [] (ms, r) (some (.inl rr.1)) (ms, rr.2) := by
  refine x_iload (i := 5) 53 rfl dX1_isScaled_51 rfl ?_
  refine x_aload (i := 4) 55 rfl dX1_isScaled_53 rfl ?_
  refine d_getiN (ci := 2) (k := 0) (C := RX4) (T := TX4) (N := 3) 58 rfl dX1_isScaled_55 rfl in_X4 (by decide) (List.mem_of_getElem? (i := 5) rfl) h (fun x42 h => ?_)
  refine x_icmp_ge 178 61 rfl dX1_isScaled_58 rfl h (fun h => ?_) (fun h => ?_)
  · refine x_iconst (0 : Int32) 179 rfl dX1_isScaled_178 rfl ?_
    refine x_lti h (fun x43 h => ?_)
    refine x_istore 181 rfl dX1_isScaled_179 (by decide) (lv' := [some (.inr (.inr (some 300)) : xV), some (.inr (.inr (some (a1))) : xV), some (.inr (.inr (some (a2))) : xV), some (.inr (.inr (some (a3))) : xV), some (.inr (.inr (some (a4))) : xV), some (.inl (x43) : xV), none, none, none]) rfl ?_
    exact xB.le (xle.s (xle.s (xle.s (xle.s (xle.s (xle.s (xle.n (xle.n (xle.n xle.z))))))))) (x_X1_isScaled_181_L_ok xFU h)
  · refine x_aload_n (i := 0) 62 rfl dX1_isScaled_61 rfl rfl ?_
    refine q_get (k := 25) 65 rfl dX1_isScaled_62 (by decide) q467 rfl ?_
    refine x_iload (i := 5) 67 rfl dX1_isScaled_65 rfl ?_
    refine q_iald 68 rfl dX1_isScaled_67 h (fun x44 h => ?_)
    refine x_if_eq 74 71 rfl dX1_isScaled_68 rfl h (fun h => ?_) (fun h => ?_)
    · refine x_aload_n (i := 0) 75 rfl dX1_isScaled_74 rfl rfl ?_
      refine q_get (k := 25) 78 rfl dX1_isScaled_75 (by decide) q467 rfl ?_
      refine x_iload (i := 5) 80 rfl dX1_isScaled_78 rfl ?_
      refine x_iconst (1 : Int32) 81 rfl dX1_isScaled_80 rfl ?_
      refine q_iast 82 rfl dX1_isScaled_81 h (fun r45 h => ?_)
      refine x_iconst (1 : Int32) 83 rfl dX1_isScaled_82 rfl ?_
      refine x_lti h (fun x46 h => ?_)
      refine x_istore 85 rfl dX1_isScaled_83 (by decide) (lv' := [some (.inr (.inr (some 300)) : xV), some (.inr (.inr (some (a1))) : xV), some (.inr (.inr (some (a2))) : xV), some (.inr (.inr (some (a3))) : xV), some (.inr (.inr (some (a4))) : xV), some (.inl (a5) : xV), some (.inl (x46) : xV), none, none]) rfl ?_
      exact xB.le (xle.s (xle.s (xle.s (xle.s (xle.s (xle.s (xle.s (xle.n (xle.n xle.z))))))))) (x_X1_isScaled_85_L_ok hr51 xFU h)
    · refine x_goto 172 dX1_isScaled_71 rfl ?_
      exact xB.le (xle.s (xle.s (xle.s (xle.s (xle.s (xle.s (xle.n (xle.n (xle.n xle.z))))))))) (x_X1_isScaled_172_ok hr51 h)
def x_X1_isScaled_51_L : Nat → Nat → Nat → Nat → Nat → Int32 → xR → Option (Int32 × xR)
  | 0 => fun _ _ _ _ _ _ => none
  | n + 1 => x_X1_isScaled_51_s (x_X1_isScaled_51_L  n)
theorem x_X1_isScaled_51_L_ok {ms : xS} {rr : Int32 × xR} : ∀ (n9 : Nat) {a1 : Nat} {a2 : Nat} {a3 : Nat} {a4 : Nat} {a5 : Int32} {r : xR}, x_X1_isScaled_51_L  n9 a1 a2 a3 a4 a5 r = some rr → xB xLL yX1_isScaled cX1_isScaled 9 (some .boolean) 1 24 51 [some (.inr (.inr (some 300)) : xV), some (.inr (.inr (some (a1))) : xV), some (.inr (.inr (some (a2))) : xV), some (.inr (.inr (some (a3))) : xV), some (.inr (.inr (some (a4))) : xV), some (.inl (a5) : xV), none, none, none] [] (ms, r) (some (.inl rr.1)) (ms, rr.2)
  | 0, _, _, _, _, _, _, h => by cases h
  | n9 + 1, _, _, _, _, _, _, h => x_X1_isScaled_51_s_ok (x_X1_isScaled_51_L_ok  n9) h
def x_X1_isScaled_27_s (rec27 : Nat → Nat → Nat → Nat → Int32 → xR → Option (Int32 × xR)) (a1 : Nat) (a2 : Nat) (a3 : Nat) (a4 : Nat) (a5 : Int32) (r : xR) : Option (Int32 × xR) := if (6 : Int32) ≤ a5 then lt ((0 : Int32)) fun x47 => x_X1_isScaled_51_L xFU a1 a2 a3 a4 x47 r else qwr r 59 a5 (0 : Int32) fun r48 => lt (a5 + (1 : Int32)) fun x49 => rec27 a1 a2 a3 a4 x49 r48
theorem x_X1_isScaled_27_s_ok {ms : xS} {rr : Int32 × xR} {rec27 : Nat → Nat → Nat → Nat → Int32 → xR → Option (Int32 × xR)} (hr27 : ∀ {a1 : Nat} {a2 : Nat} {a3 : Nat} {a4 : Nat} {a5 : Int32} {r : xR}, rec27 a1 a2 a3 a4 a5 r = some rr → xB xLL yX1_isScaled cX1_isScaled 9 (some .boolean) 1 24 27 [some (.inr (.inr (some 300)) : xV), some (.inr (.inr (some (a1))) : xV), some (.inr (.inr (some (a2))) : xV), some (.inr (.inr (some (a3))) : xV), some (.inr (.inr (some (a4))) : xV), some (.inl (a5) : xV), none, none, none] [] (ms, r) (some (.inl rr.1)) (ms, rr.2)) {a1 : Nat} {a2 : Nat} {a3 : Nat} {a4 : Nat} {a5 : Int32} {r : xR} (h : x_X1_isScaled_27_s rec27 a1 a2 a3 a4 a5 r = some rr) : xB xLL yX1_isScaled cX1_isScaled 9 (some .boolean) 1 24 27 [some (.inr (.inr (some 300)) : xV), some (.inr (.inr (some (a1))) : xV), some (.inr (.inr (some (a2))) : xV), some (.inr (.inr (some (a3))) : xV), some (.inr (.inr (some (a4))) : xV), some (.inl (a5) : xV), none, none, none] [] (ms, r) (some (.inl rr.1)) (ms, rr.2) := by
  refine x_iload (i := 5) 29 rfl dX1_isScaled_27 rfl ?_
  refine x_bipush (6 : Int32) 31 rfl dX1_isScaled_29 rfl ?_
  refine x_icmp_ge 48 34 rfl dX1_isScaled_31 rfl h (fun h => ?_) (fun h => ?_)
  · refine x_iconst (0 : Int32) 49 rfl dX1_isScaled_48 rfl ?_
    refine x_lti h (fun x47 h => ?_)
    refine x_istore 51 rfl dX1_isScaled_49 (by decide) (lv' := [some (.inr (.inr (some 300)) : xV), some (.inr (.inr (some (a1))) : xV), some (.inr (.inr (some (a2))) : xV), some (.inr (.inr (some (a3))) : xV), some (.inr (.inr (some (a4))) : xV), some (.inl (x47) : xV), none, none, none]) rfl ?_
    exact xB.le (xle.s (xle.s (xle.s (xle.s (xle.s (xle.s (xle.n (xle.n (xle.n xle.z))))))))) (x_X1_isScaled_51_L_ok xFU h)
  · refine x_aload_n (i := 0) 35 rfl dX1_isScaled_34 rfl rfl ?_
    refine q_get (k := 26) 38 rfl dX1_isScaled_35 (by decide) q468 rfl ?_
    refine x_iload (i := 5) 40 rfl dX1_isScaled_38 rfl ?_
    refine x_iconst (0 : Int32) 41 rfl dX1_isScaled_40 rfl ?_
    refine q_iast 42 rfl dX1_isScaled_41 h (fun r48 h => ?_)
    refine x_iincL (i := 5) (1 : Int32) 45 rfl dX1_isScaled_42 rfl rfl (by decide) h (fun x49 h => ?_)
    change xB xLL yX1_isScaled cX1_isScaled 9 (some .boolean) 1 24 45 [some (.inr (.inr (some 300)) : xV), some (.inr (.inr (some (a1))) : xV), some (.inr (.inr (some (a2))) : xV), some (.inr (.inr (some (a3))) : xV), some (.inr (.inr (some (a4))) : xV), some (.inl (x49) : xV), none, none, none] [] (ms, r48) _ _
    refine x_goto 27 dX1_isScaled_45 rfl ?_
    exact xB.le (xle.s (xle.s (xle.s (xle.s (xle.s (xle.s (xle.n (xle.n (xle.n xle.z))))))))) (hr27 h)
def x_X1_isScaled_27_L : Nat → Nat → Nat → Nat → Nat → Int32 → xR → Option (Int32 × xR)
  | 0 => fun _ _ _ _ _ _ => none
  | n + 1 => x_X1_isScaled_27_s (x_X1_isScaled_27_L  n)
theorem x_X1_isScaled_27_L_ok {ms : xS} {rr : Int32 × xR} : ∀ (n9 : Nat) {a1 : Nat} {a2 : Nat} {a3 : Nat} {a4 : Nat} {a5 : Int32} {r : xR}, x_X1_isScaled_27_L  n9 a1 a2 a3 a4 a5 r = some rr → xB xLL yX1_isScaled cX1_isScaled 9 (some .boolean) 1 24 27 [some (.inr (.inr (some 300)) : xV), some (.inr (.inr (some (a1))) : xV), some (.inr (.inr (some (a2))) : xV), some (.inr (.inr (some (a3))) : xV), some (.inr (.inr (some (a4))) : xV), some (.inl (a5) : xV), none, none, none] [] (ms, r) (some (.inl rr.1)) (ms, rr.2)
  | 0, _, _, _, _, _, _, h => by cases h
  | n9 + 1, _, _, _, _, _, _, h => x_X1_isScaled_27_s_ok (x_X1_isScaled_27_L_ok  n9) h
def x_X1_isScaled_3_s (rec3 : Nat → Nat → Nat → Nat → Int32 → xR → Option (Int32 × xR)) (a1 : Nat) (a2 : Nat) (a3 : Nat) (a4 : Nat) (a5 : Int32) (r : xR) : Option (Int32 × xR) := if (6 : Int32) ≤ a5 then lt ((0 : Int32)) fun x50 => x_X1_isScaled_27_L xFU a1 a2 a3 a4 x50 r else qwr r 58 a5 (0 : Int32) fun r51 => lt (a5 + (1 : Int32)) fun x52 => rec3 a1 a2 a3 a4 x52 r51
theorem x_X1_isScaled_3_s_ok {ms : xS} {rr : Int32 × xR} {rec3 : Nat → Nat → Nat → Nat → Int32 → xR → Option (Int32 × xR)} (hr3 : ∀ {a1 : Nat} {a2 : Nat} {a3 : Nat} {a4 : Nat} {a5 : Int32} {r : xR}, rec3 a1 a2 a3 a4 a5 r = some rr → xB xLL yX1_isScaled cX1_isScaled 9 (some .boolean) 1 24 3 [some (.inr (.inr (some 300)) : xV), some (.inr (.inr (some (a1))) : xV), some (.inr (.inr (some (a2))) : xV), some (.inr (.inr (some (a3))) : xV), some (.inr (.inr (some (a4))) : xV), some (.inl (a5) : xV), none, none, none] [] (ms, r) (some (.inl rr.1)) (ms, rr.2)) {a1 : Nat} {a2 : Nat} {a3 : Nat} {a4 : Nat} {a5 : Int32} {r : xR} (h : x_X1_isScaled_3_s rec3 a1 a2 a3 a4 a5 r = some rr) : xB xLL yX1_isScaled cX1_isScaled 9 (some .boolean) 1 24 3 [some (.inr (.inr (some 300)) : xV), some (.inr (.inr (some (a1))) : xV), some (.inr (.inr (some (a2))) : xV), some (.inr (.inr (some (a3))) : xV), some (.inr (.inr (some (a4))) : xV), some (.inl (a5) : xV), none, none, none] [] (ms, r) (some (.inl rr.1)) (ms, rr.2) := by
  refine x_iload (i := 5) 5 rfl dX1_isScaled_3 rfl ?_
  refine x_bipush (6 : Int32) 7 rfl dX1_isScaled_5 rfl ?_
  refine x_icmp_ge 24 10 rfl dX1_isScaled_7 rfl h (fun h => ?_) (fun h => ?_)
  · refine x_iconst (0 : Int32) 25 rfl dX1_isScaled_24 rfl ?_
    refine x_lti h (fun x50 h => ?_)
    refine x_istore 27 rfl dX1_isScaled_25 (by decide) (lv' := [some (.inr (.inr (some 300)) : xV), some (.inr (.inr (some (a1))) : xV), some (.inr (.inr (some (a2))) : xV), some (.inr (.inr (some (a3))) : xV), some (.inr (.inr (some (a4))) : xV), some (.inl (x50) : xV), none, none, none]) rfl ?_
    exact xB.le (xle.s (xle.s (xle.s (xle.s (xle.s (xle.s (xle.n (xle.n (xle.n xle.z))))))))) (x_X1_isScaled_27_L_ok xFU h)
  · refine x_aload_n (i := 0) 11 rfl dX1_isScaled_10 rfl rfl ?_
    refine q_get (k := 25) 14 rfl dX1_isScaled_11 (by decide) q467 rfl ?_
    refine x_iload (i := 5) 16 rfl dX1_isScaled_14 rfl ?_
    refine x_iconst (0 : Int32) 17 rfl dX1_isScaled_16 rfl ?_
    refine q_iast 18 rfl dX1_isScaled_17 h (fun r51 h => ?_)
    refine x_iincL (i := 5) (1 : Int32) 21 rfl dX1_isScaled_18 rfl rfl (by decide) h (fun x52 h => ?_)
    change xB xLL yX1_isScaled cX1_isScaled 9 (some .boolean) 1 24 21 [some (.inr (.inr (some 300)) : xV), some (.inr (.inr (some (a1))) : xV), some (.inr (.inr (some (a2))) : xV), some (.inr (.inr (some (a3))) : xV), some (.inr (.inr (some (a4))) : xV), some (.inl (x52) : xV), none, none, none] [] (ms, r51) _ _
    refine x_goto 3 dX1_isScaled_21 rfl ?_
    exact xB.le (xle.s (xle.s (xle.s (xle.s (xle.s (xle.s (xle.n (xle.n (xle.n xle.z))))))))) (hr3 h)
def x_X1_isScaled_3_L : Nat → Nat → Nat → Nat → Nat → Int32 → xR → Option (Int32 × xR)
  | 0 => fun _ _ _ _ _ _ => none
  | n + 1 => x_X1_isScaled_3_s (x_X1_isScaled_3_L  n)
theorem x_X1_isScaled_3_L_ok {ms : xS} {rr : Int32 × xR} : ∀ (n9 : Nat) {a1 : Nat} {a2 : Nat} {a3 : Nat} {a4 : Nat} {a5 : Int32} {r : xR}, x_X1_isScaled_3_L  n9 a1 a2 a3 a4 a5 r = some rr → xB xLL yX1_isScaled cX1_isScaled 9 (some .boolean) 1 24 3 [some (.inr (.inr (some 300)) : xV), some (.inr (.inr (some (a1))) : xV), some (.inr (.inr (some (a2))) : xV), some (.inr (.inr (some (a3))) : xV), some (.inr (.inr (some (a4))) : xV), some (.inl (a5) : xV), none, none, none] [] (ms, r) (some (.inl rr.1)) (ms, rr.2)
  | 0, _, _, _, _, _, _, h => by cases h
  | n9 + 1, _, _, _, _, _, _, h => x_X1_isScaled_3_s_ok (x_X1_isScaled_3_L_ok  n9) h
def x_X1_isScaled (a1 : Nat) (a2 : Nat) (a3 : Nat) (a4 : Nat) (r : xR) : Option (Int32 × xR) := lt ((0 : Int32)) fun x53 => x_X1_isScaled_3_L xFU a1 a2 a3 a4 x53 r
theorem x_X1_isScaled_ct {ms : xS} {rr : Int32 × xR} {a1 : Nat} {a2 : Nat} {a3 : Nat} {a4 : Nat} {r : xR} (h : x_X1_isScaled a1 a2 a3 a4 r = some rr) : xCt xLL yX1_isScaled cX1_isScaled 9 (some .boolean) 1 24 [(.inr (.inr (some 300)) : xV), (.inr (.inr (some (a1))) : xV), (.inr (.inr (some (a2))) : xV), (.inr (.inr (some (a3))) : xV), (.inr (.inr (some (a4))) : xV)] (ms, r) (some (.inl rr.1)) (ms, rr.2) := by
  refine xCt.of (lv := [some (.inr (.inr (some 300)) : xV), some (.inr (.inr (some (a1))) : xV), some (.inr (.inr (some (a2))) : xV), some (.inr (.inr (some (a3))) : xV), some (.inr (.inr (some (a4))) : xV), none, none, none, none]) pl_X1 (Nat.le_of_ble_eq_true rfl) (xle.s (xle.s (xle.s (xle.s (xle.s (xle.m (xle.m (xle.m (xle.m xle.z))))))))) ?_
  refine x_iconst (0 : Int32) 1 rfl dX1_isScaled_0 rfl ?_
  refine x_lti h (fun x53 h => ?_)
  refine x_istore 3 rfl dX1_isScaled_1 (by decide) (lv' := [some (.inr (.inr (some 300)) : xV), some (.inr (.inr (some (a1))) : xV), some (.inr (.inr (some (a2))) : xV), some (.inr (.inr (some (a3))) : xV), some (.inr (.inr (some (a4))) : xV), some (.inl (x53) : xV), none, none, none]) rfl ?_
  exact xB.le (xle.s (xle.s (xle.s (xle.s (xle.s (xle.s (xle.n (xle.n (xle.n xle.z))))))))) (x_X1_isScaled_3_L_ok xFU h)
/-! UnimodularTables.swap([III)V -/
theorem ydX1_swap : xHd yX1_swap 3 := by decide +kernel
def x_X1_swap (a0 : Nat) (a1 : Int32) (a2 : Int32) (r : xR) : Option (xR) := dai xLL r a0 a1 fun x1 => dai xLL r a0 a2 fun x2 => daw xLL r a0 a1 x2 fun r3 => daw xLL r3 a0 a2 x1 fun r4 => some r4
theorem x_X1_swap_ct {ms : xS} {rr : xR} {a0 : Nat} {a1 : Int32} {a2 : Int32} {r : xR} (h : x_X1_swap a0 a1 a2 r = some rr) : xCt xLL yX1_swap cX1_swap 4 none 0 0 [(.inr (.inr (some (a0))) : xV), (.inl (a1) : xV), (.inl (a2) : xV)] (ms, r) none (ms, rr) := by
  refine xCt.of (lv := [some (.inr (.inr (some (a0))) : xV), some (.inl (a1) : xV), some (.inl (a2) : xV), none]) pl_X1 (Nat.le_of_ble_eq_true rfl) (xle.s (xle.s (xle.s (xle.m xle.z)))) ?_
  refine x_aload_n (i := 0) 1 rfl dX1_swap_0 rfl rfl ?_
  refine x_iload_n (i := 1) 2 rfl dX1_swap_1 rfl rfl ?_
  refine d_iald 3 rfl dX1_swap_2 h (fun x1 h => ?_)
  refine x_istore_n 4 rfl dX1_swap_3 rfl (by decide) (lv' := [some (.inr (.inr (some (a0))) : xV), some (.inl (a1) : xV), some (.inl (a2) : xV), some (.inl (x1) : xV)]) rfl ?_
  refine x_aload_n (i := 0) 5 rfl dX1_swap_4 rfl rfl ?_
  refine x_iload_n (i := 1) 6 rfl dX1_swap_5 rfl rfl ?_
  refine x_aload_n (i := 0) 7 rfl dX1_swap_6 rfl rfl ?_
  refine x_iload_n (i := 2) 8 rfl dX1_swap_7 rfl rfl ?_
  refine d_iald 9 rfl dX1_swap_8 h (fun x2 h => ?_)
  refine d_iast 10 rfl dX1_swap_9 h (fun r3 h => ?_)
  refine x_aload_n (i := 0) 11 rfl dX1_swap_10 rfl rfl ?_
  refine x_iload_n (i := 2) 12 rfl dX1_swap_11 rfl rfl ?_
  refine x_iload_n (i := 3) 13 rfl dX1_swap_12 rfl rfl ?_
  refine d_iast 14 rfl dX1_swap_13 h (fun r4 h => ?_)
  cases h
  exact x_vret rfl dX1_swap_14
/-! UnimodularTables.goesOn([I)Z -/
theorem ydX1_goesOn : xHd yX1_goesOn 1 := by decide +kernel
def x_X1_goesOn_59_s (rec59 : Nat → Int32 → Int32 → xR → Option (Int32 × xR)) (a0 : Nat) (a3 : Int32) (a4 : Int32) (r : xR) : Option (Int32 × xR) := if a4 ≤ a3 then some ((1 : Int32), r) else cl (x_X1_swap a0 a3 a4 r) fun q1 => lt (a3 + (1 : Int32)) fun x2 => lt (a4 + (-1 : Int32)) fun x3 => rec59 a0 x2 x3 q1
theorem x_X1_goesOn_59_s_ok {ms : xS} {rr : Int32 × xR} {rec59 : Nat → Int32 → Int32 → xR → Option (Int32 × xR)} (hr59 : ∀ {a0 : Nat} {a3 : Int32} {a4 : Int32} {r : xR}, rec59 a0 a3 a4 r = some rr → xB xLL yX1_goesOn cX1_goesOn 5 (some .boolean) 1 23 59 [some (.inr (.inr (some (a0))) : xV), none, none, some (.inl (a3) : xV), some (.inl (a4) : xV)] [] (ms, r) (some (.inl rr.1)) (ms, rr.2)) {a0 : Nat} {a3 : Int32} {a4 : Int32} {r : xR} (h : x_X1_goesOn_59_s rec59 a0 a3 a4 r = some rr) : xB xLL yX1_goesOn cX1_goesOn 5 (some .boolean) 1 23 59 [some (.inr (.inr (some (a0))) : xV), none, none, some (.inl (a3) : xV), some (.inl (a4) : xV)] [] (ms, r) (some (.inl rr.1)) (ms, rr.2) := by
  refine x_iload_n (i := 3) 60 rfl dX1_goesOn_59 rfl rfl ?_
  refine x_iload (i := 4) 62 rfl dX1_goesOn_60 rfl ?_
  refine x_icmp_ge 81 65 rfl dX1_goesOn_62 rfl h (fun h => ?_) (fun h => ?_)
  · refine x_iconst (1 : Int32) 82 rfl dX1_goesOn_81 rfl ?_
    cases h
    exact x_zret rfl (Or.inr rfl) dX1_goesOn_82
  · refine x_aload_n (i := 0) 66 rfl dX1_goesOn_65 rfl rfl ?_
    refine x_iload_n (i := 3) 67 rfl dX1_goesOn_66 rfl rfl ?_
    refine x_iload (i := 4) 69 rfl dX1_goesOn_67 rfl ?_
    refine x_cl h (fun q1 hq h => ?_)
    refine x_callS (as := [(.inr (.inr (some (a0))) : xV), (.inl (a3) : xV), (.inl (a4) : xV)]) (rest := []) (vv := none) (w2 := (ms, q1)) 72 rfl dX1_goesOn_69 (x_X1_swap_ct hq) (lw_S q1665 q1666 q118 q1667) ydX1_swap rfl ⟨Nat.le_of_ble_eq_true rfl, Nat.le_of_ble_eq_true rfl⟩ (Nat.le_of_ble_eq_true rfl) rfl ?_
    change xB xLL yX1_goesOn cX1_goesOn 5 (some .boolean) 1 23 72 [some (.inr (.inr (some (a0))) : xV), none, none, some (.inl (a3) : xV), some (.inl (a4) : xV)] [] (ms, q1) _ _
    refine x_iincL (i := 3) (1 : Int32) 75 rfl dX1_goesOn_72 rfl rfl (by decide) h (fun x2 h => ?_)
    change xB xLL yX1_goesOn cX1_goesOn 5 (some .boolean) 1 23 75 [some (.inr (.inr (some (a0))) : xV), none, none, some (.inl (x2) : xV), some (.inl (a4) : xV)] [] (ms, q1) _ _
    refine x_iincL (i := 4) (-1 : Int32) 78 rfl dX1_goesOn_75 rfl rfl (by decide) h (fun x3 h => ?_)
    change xB xLL yX1_goesOn cX1_goesOn 5 (some .boolean) 1 23 78 [some (.inr (.inr (some (a0))) : xV), none, none, some (.inl (x2) : xV), some (.inl (x3) : xV)] [] (ms, q1) _ _
    refine x_goto 59 dX1_goesOn_78 rfl ?_
    exact xB.le (xle.s (xle.n (xle.n (xle.s (xle.s xle.z))))) (hr59 h)
def x_X1_goesOn_59_L : Nat → Nat → Int32 → Int32 → xR → Option (Int32 × xR)
  | 0 => fun _ _ _ _ => none
  | n + 1 => x_X1_goesOn_59_s (x_X1_goesOn_59_L  n)
theorem x_X1_goesOn_59_L_ok {ms : xS} {rr : Int32 × xR} : ∀ (n9 : Nat) {a0 : Nat} {a3 : Int32} {a4 : Int32} {r : xR}, x_X1_goesOn_59_L  n9 a0 a3 a4 r = some rr → xB xLL yX1_goesOn cX1_goesOn 5 (some .boolean) 1 23 59 [some (.inr (.inr (some (a0))) : xV), none, none, some (.inl (a3) : xV), some (.inl (a4) : xV)] [] (ms, r) (some (.inl rr.1)) (ms, rr.2)
  | 0, _, _, _, _, h => by cases h
  | n9 + 1, _, _, _, _, h => x_X1_goesOn_59_s_ok (x_X1_goesOn_59_L_ok  n9) h
def x_X1_goesOn_31_s (rec31 : Nat → Int32 → Int32 → xR → Option (Int32 × xR)) (a0 : Nat) (a1 : Int32) (a2 : Int32) (r : xR) : Option (Int32 × xR) := dai xLL r a0 a2 fun x4 => dai xLL r a0 a1 fun x5 => if x5 ≤ x4 then cl (x_X1_swap a0 a1 a2 r) fun q6 => lt (a1 + (1 : Int32)) fun x7 => lt ((4 : Int32)) fun x8 => x_X1_goesOn_59_L xFU a0 x7 x8 q6 else lt (a2 + (-1 : Int32)) fun x9 => rec31 a0 a1 x9 r
theorem x_X1_goesOn_31_s_ok {ms : xS} {rr : Int32 × xR} {rec31 : Nat → Int32 → Int32 → xR → Option (Int32 × xR)} (hr31 : ∀ {a0 : Nat} {a1 : Int32} {a2 : Int32} {r : xR}, rec31 a0 a1 a2 r = some rr → xB xLL yX1_goesOn cX1_goesOn 5 (some .boolean) 1 23 31 [some (.inr (.inr (some (a0))) : xV), some (.inl (a1) : xV), some (.inl (a2) : xV), none, none] [] (ms, r) (some (.inl rr.1)) (ms, rr.2)) {a0 : Nat} {a1 : Int32} {a2 : Int32} {r : xR} (h : x_X1_goesOn_31_s rec31 a0 a1 a2 r = some rr) : xB xLL yX1_goesOn cX1_goesOn 5 (some .boolean) 1 23 31 [some (.inr (.inr (some (a0))) : xV), some (.inl (a1) : xV), some (.inl (a2) : xV), none, none] [] (ms, r) (some (.inl rr.1)) (ms, rr.2) := by
  refine x_aload_n (i := 0) 32 rfl dX1_goesOn_31 rfl rfl ?_
  refine x_iload_n (i := 2) 33 rfl dX1_goesOn_32 rfl rfl ?_
  refine d_iald 34 rfl dX1_goesOn_33 h (fun x4 h => ?_)
  refine x_aload_n (i := 0) 35 rfl dX1_goesOn_34 rfl rfl ?_
  refine x_iload_n (i := 1) 36 rfl dX1_goesOn_35 rfl rfl ?_
  refine d_iald 37 rfl dX1_goesOn_36 h (fun x5 h => ?_)
  refine x_icmp_ge 46 40 rfl dX1_goesOn_37 rfl h (fun h => ?_) (fun h => ?_)
  · refine x_aload_n (i := 0) 47 rfl dX1_goesOn_46 rfl rfl ?_
    refine x_iload_n (i := 1) 48 rfl dX1_goesOn_47 rfl rfl ?_
    refine x_iload_n (i := 2) 49 rfl dX1_goesOn_48 rfl rfl ?_
    refine x_cl h (fun q6 hq h => ?_)
    refine x_callS (as := [(.inr (.inr (some (a0))) : xV), (.inl (a1) : xV), (.inl (a2) : xV)]) (rest := []) (vv := none) (w2 := (ms, q6)) 52 rfl dX1_goesOn_49 (x_X1_swap_ct hq) (lw_S q1665 q1666 q118 q1667) ydX1_swap rfl ⟨Nat.le_of_ble_eq_true rfl, Nat.le_of_ble_eq_true rfl⟩ (Nat.le_of_ble_eq_true rfl) rfl ?_
    change xB xLL yX1_goesOn cX1_goesOn 5 (some .boolean) 1 23 52 [some (.inr (.inr (some (a0))) : xV), some (.inl (a1) : xV), some (.inl (a2) : xV), none, none] [] (ms, q6) _ _
    refine x_iload_n (i := 1) 53 rfl dX1_goesOn_52 rfl rfl ?_
    refine x_iconst (1 : Int32) 54 rfl dX1_goesOn_53 rfl ?_
    refine x_iadd 55 rfl dX1_goesOn_54 ?_
    refine x_lti h (fun x7 h => ?_)
    refine x_istore_n 56 rfl dX1_goesOn_55 rfl (by decide) (lv' := [some (.inr (.inr (some (a0))) : xV), some (.inl (a1) : xV), some (.inl (a2) : xV), some (.inl (x7) : xV), none]) rfl ?_
    refine x_iconst (4 : Int32) 57 rfl dX1_goesOn_56 rfl ?_
    refine x_lti h (fun x8 h => ?_)
    refine x_istore 59 rfl dX1_goesOn_57 (by decide) (lv' := [some (.inr (.inr (some (a0))) : xV), some (.inl (a1) : xV), some (.inl (a2) : xV), some (.inl (x7) : xV), some (.inl (x8) : xV)]) rfl ?_
    exact xB.le (xle.s (xle.n (xle.n (xle.s (xle.s xle.z))))) (x_X1_goesOn_59_L_ok xFU h)
  · refine x_iincL (i := 2) (-1 : Int32) 43 rfl dX1_goesOn_40 rfl rfl (by decide) h (fun x9 h => ?_)
    change xB xLL yX1_goesOn cX1_goesOn 5 (some .boolean) 1 23 43 [some (.inr (.inr (some (a0))) : xV), some (.inl (a1) : xV), some (.inl (x9) : xV), none, none] [] (ms, r) _ _
    refine x_goto 31 dX1_goesOn_43 rfl ?_
    exact xB.le (xle.s (xle.s (xle.s (xle.n (xle.n xle.z))))) (hr31 h)
def x_X1_goesOn_31_L : Nat → Nat → Int32 → Int32 → xR → Option (Int32 × xR)
  | 0 => fun _ _ _ _ => none
  | n + 1 => x_X1_goesOn_31_s (x_X1_goesOn_31_L  n)
theorem x_X1_goesOn_31_L_ok {ms : xS} {rr : Int32 × xR} : ∀ (n9 : Nat) {a0 : Nat} {a1 : Int32} {a2 : Int32} {r : xR}, x_X1_goesOn_31_L  n9 a0 a1 a2 r = some rr → xB xLL yX1_goesOn cX1_goesOn 5 (some .boolean) 1 23 31 [some (.inr (.inr (some (a0))) : xV), some (.inl (a1) : xV), some (.inl (a2) : xV), none, none] [] (ms, r) (some (.inl rr.1)) (ms, rr.2)
  | 0, _, _, _, _, h => by cases h
  | n9 + 1, _, _, _, _, h => x_X1_goesOn_31_s_ok (x_X1_goesOn_31_L_ok  n9) h
def x_X1_goesOn_23 (a0 : Nat) (a1 : Int32) (r : xR) : Option (Int32 × xR) := if 0 ≤ a1 then lt ((4 : Int32)) fun x10 => x_X1_goesOn_31_L xFU a0 a1 x10 r else some ((0 : Int32), r)
theorem x_X1_goesOn_23_ok {ms : xS} {rr : Int32 × xR} {a0 : Nat} {a1 : Int32} {r : xR} (h : x_X1_goesOn_23  a0 a1 r = some rr) : xB xLL yX1_goesOn cX1_goesOn 5 (some .boolean) 1 23 23 [some (.inr (.inr (some (a0))) : xV), some (.inl (a1) : xV), none, none, none] [] (ms, r) (some (.inl rr.1)) (ms, rr.2) := by
  refine x_iload_n (i := 1) 24 rfl dX1_goesOn_23 rfl rfl ?_
  refine x_if_ge 29 27 rfl dX1_goesOn_24 rfl h (fun h => ?_) (fun h => ?_)
  · refine x_iconst (4 : Int32) 30 rfl dX1_goesOn_29 rfl ?_
    refine x_lti h (fun x10 h => ?_)
    refine x_istore_n 31 rfl dX1_goesOn_30 rfl (by decide) (lv' := [some (.inr (.inr (some (a0))) : xV), some (.inl (a1) : xV), some (.inl (x10) : xV), none, none]) rfl ?_
    exact xB.le (xle.s (xle.s (xle.s (xle.n (xle.n xle.z))))) (x_X1_goesOn_31_L_ok xFU h)
  · refine x_iconst (0 : Int32) 28 rfl dX1_goesOn_27 rfl ?_
    cases h
    exact x_zret rfl (Or.inl rfl) dX1_goesOn_28
def x_X1_goesOn_2_s (rec2 : Nat → Int32 → xR → Option (Int32 × xR)) (a0 : Nat) (a1 : Int32) (r : xR) : Option (Int32 × xR) := if a1 < 0 then x_X1_goesOn_23 a0 a1 r else dai xLL r a0 a1 fun x11 => dai xLL r a0 (a1 + (1 : Int32)) fun x12 => if x11 ≤ x12 then x_X1_goesOn_23 a0 a1 r else lt (a1 + (-1 : Int32)) fun x13 => rec2 a0 x13 r
theorem x_X1_goesOn_2_s_ok {ms : xS} {rr : Int32 × xR} {rec2 : Nat → Int32 → xR → Option (Int32 × xR)} (hr2 : ∀ {a0 : Nat} {a1 : Int32} {r : xR}, rec2 a0 a1 r = some rr → xB xLL yX1_goesOn cX1_goesOn 5 (some .boolean) 1 23 2 [some (.inr (.inr (some (a0))) : xV), some (.inl (a1) : xV), none, none, none] [] (ms, r) (some (.inl rr.1)) (ms, rr.2)) {a0 : Nat} {a1 : Int32} {r : xR} (h : x_X1_goesOn_2_s rec2 a0 a1 r = some rr) : xB xLL yX1_goesOn cX1_goesOn 5 (some .boolean) 1 23 2 [some (.inr (.inr (some (a0))) : xV), some (.inl (a1) : xV), none, none, none] [] (ms, r) (some (.inl rr.1)) (ms, rr.2) := by
  refine x_iload_n (i := 1) 3 rfl dX1_goesOn_2 rfl rfl ?_
  refine x_if_lt 23 6 rfl dX1_goesOn_3 rfl h (fun h => ?_) (fun h => ?_)
  · exact xB.le (xle.s (xle.s (xle.n (xle.n (xle.n xle.z))))) (x_X1_goesOn_23_ok h)
  · refine x_aload_n (i := 0) 7 rfl dX1_goesOn_6 rfl rfl ?_
    refine x_iload_n (i := 1) 8 rfl dX1_goesOn_7 rfl rfl ?_
    refine d_iald 9 rfl dX1_goesOn_8 h (fun x11 h => ?_)
    refine x_aload_n (i := 0) 10 rfl dX1_goesOn_9 rfl rfl ?_
    refine x_iload_n (i := 1) 11 rfl dX1_goesOn_10 rfl rfl ?_
    refine x_iconst (1 : Int32) 12 rfl dX1_goesOn_11 rfl ?_
    refine x_iadd 13 rfl dX1_goesOn_12 ?_
    refine d_iald 14 rfl dX1_goesOn_13 h (fun x12 h => ?_)
    refine x_icmp_le 23 17 rfl dX1_goesOn_14 rfl h (fun h => ?_) (fun h => ?_)
    · exact xB.le (xle.s (xle.s (xle.n (xle.n (xle.n xle.z))))) (x_X1_goesOn_23_ok h)
    · refine x_iincL (i := 1) (-1 : Int32) 20 rfl dX1_goesOn_17 rfl rfl (by decide) h (fun x13 h => ?_)
      change xB xLL yX1_goesOn cX1_goesOn 5 (some .boolean) 1 23 20 [some (.inr (.inr (some (a0))) : xV), some (.inl (x13) : xV), none, none, none] [] (ms, r) _ _
      refine x_goto 2 dX1_goesOn_20 rfl ?_
      exact xB.le (xle.s (xle.s (xle.n (xle.n (xle.n xle.z))))) (hr2 h)
def x_X1_goesOn_2_L : Nat → Nat → Int32 → xR → Option (Int32 × xR)
  | 0 => fun _ _ _ => none
  | n + 1 => x_X1_goesOn_2_s (x_X1_goesOn_2_L  n)
theorem x_X1_goesOn_2_L_ok {ms : xS} {rr : Int32 × xR} : ∀ (n9 : Nat) {a0 : Nat} {a1 : Int32} {r : xR}, x_X1_goesOn_2_L  n9 a0 a1 r = some rr → xB xLL yX1_goesOn cX1_goesOn 5 (some .boolean) 1 23 2 [some (.inr (.inr (some (a0))) : xV), some (.inl (a1) : xV), none, none, none] [] (ms, r) (some (.inl rr.1)) (ms, rr.2)
  | 0, _, _, _, h => by cases h
  | n9 + 1, _, _, _, h => x_X1_goesOn_2_s_ok (x_X1_goesOn_2_L_ok  n9) h
def x_X1_goesOn (a0 : Nat) (r : xR) : Option (Int32 × xR) := lt ((3 : Int32)) fun x14 => x_X1_goesOn_2_L xFU a0 x14 r
theorem x_X1_goesOn_ct {ms : xS} {rr : Int32 × xR} {a0 : Nat} {r : xR} (h : x_X1_goesOn a0 r = some rr) : xCt xLL yX1_goesOn cX1_goesOn 5 (some .boolean) 1 23 [(.inr (.inr (some (a0))) : xV)] (ms, r) (some (.inl rr.1)) (ms, rr.2) := by
  refine xCt.of (lv := [some (.inr (.inr (some (a0))) : xV), none, none, none, none]) pl_X1 (Nat.le_of_ble_eq_true rfl) (xle.s (xle.m (xle.m (xle.m (xle.m xle.z))))) ?_
  refine x_iconst (3 : Int32) 1 rfl dX1_goesOn_0 rfl ?_
  refine x_lti h (fun x14 h => ?_)
  refine x_istore_n 2 rfl dX1_goesOn_1 rfl (by decide) (lv' := [some (.inr (.inr (some (a0))) : xV), some (.inl (x14) : xV), none, none, none]) rfl ?_
  exact xB.le (xle.s (xle.s (xle.n (xle.n (xle.n xle.z))))) (x_X1_goesOn_2_L_ok xFU h)
/-! UnimodularTables.becomes(LUnimodularTables$Table;)Z -/
theorem ydX1_becomes : xHd yX1_becomes 1 := by decide +kernel
def x_X1_becomes_87 (rec41 : Nat → Nat → Nat → Int32 → xR → Option (Int32 × xR)) (rec53 : Nat → Nat → Nat → Int32 → xR → Option (Int32 × xR)) (a1 : Nat) (a2 : Nat) (a3 : Nat) (r : xR) : Option (Int32 × xR) := cl (x_X1_goesOn a3 r) fun q1 => rec53 a1 a2 a3 q1.1 q1.2
theorem x_X1_becomes_87_ok {ms : xS} {rr : Int32 × xR} {rec41 : Nat → Nat → Nat → Int32 → xR → Option (Int32 × xR)} {rec53 : Nat → Nat → Nat → Int32 → xR → Option (Int32 × xR)} (hr41 : ∀ {a1 : Nat} {a2 : Nat} {a3 : Nat} {a4 : Int32} {r : xR}, rec41 a1 a2 a3 a4 r = some rr → xB xLL yX1_becomes cX1_becomes 6 (some .boolean) 2 52 41 [some (.inr (.inr (some 300)) : xV), some (.inr (.inr (some (a1))) : xV), some (.inr (.inr (some (a2))) : xV), some (.inr (.inr (some (a3))) : xV), some (.inl (a4) : xV), none] [] (ms, r) (some (.inl rr.1)) (ms, rr.2)) (hr53 : ∀ {a1 : Nat} {a2 : Nat} {a3 : Nat} {a5 : Int32} {r : xR}, rec53 a1 a2 a3 a5 r = some rr → xB xLL yX1_becomes cX1_becomes 6 (some .boolean) 2 52 53 [some (.inr (.inr (some 300)) : xV), some (.inr (.inr (some (a1))) : xV), some (.inr (.inr (some (a2))) : xV), some (.inr (.inr (some (a3))) : xV), none, some (.inl (a5) : xV)] [] (ms, r) (some (.inl rr.1)) (ms, rr.2)) {a1 : Nat} {a2 : Nat} {a3 : Nat} {r : xR} (h : x_X1_becomes_87 rec41 rec53 a1 a2 a3 r = some rr) : xB xLL yX1_becomes cX1_becomes 6 (some .boolean) 2 52 87 [some (.inr (.inr (some 300)) : xV), some (.inr (.inr (some (a1))) : xV), some (.inr (.inr (some (a2))) : xV), some (.inr (.inr (some (a3))) : xV), none, none] [] (ms, r) (some (.inl rr.1)) (ms, rr.2) := by
  refine x_aload_n (i := 3) 88 rfl dX1_becomes_87 rfl rfl ?_
  refine x_cl h (fun q1 hq h => ?_)
  refine x_callS (as := [(.inr (.inr (some (a3))) : xV)]) (rest := []) (vv := (some (.inl (q1.1) : xV))) (w2 := (ms, q1.2)) 91 rfl dX1_becomes_88 (x_X1_goesOn_ct hq) (lw_S q1662 q1663 q118 q1664) ydX1_goesOn rfl ⟨Nat.le_of_ble_eq_true rfl, Nat.le_of_ble_eq_true rfl⟩ (Nat.le_of_ble_eq_true rfl) rfl ?_
  change xB xLL yX1_becomes cX1_becomes 6 (some .boolean) 2 52 91 [some (.inr (.inr (some 300)) : xV), some (.inr (.inr (some (a1))) : xV), some (.inr (.inr (some (a2))) : xV), some (.inr (.inr (some (a3))) : xV), none, none] [(.inl (q1.1) : xV)] (ms, q1.2) _ _
  refine x_istore 93 rfl dX1_becomes_91 (by decide) (lv' := [some (.inr (.inr (some 300)) : xV), some (.inr (.inr (some (a1))) : xV), some (.inr (.inr (some (a2))) : xV), some (.inr (.inr (some (a3))) : xV), none, some (.inl (q1.1) : xV)]) rfl ?_
  refine x_goto 53 dX1_becomes_93 rfl ?_
  exact xB.le (xle.s (xle.s (xle.s (xle.s (xle.n (xle.s xle.z)))))) (hr53 h)
def x_X1_becomes_53_s (rec41 : Nat → Nat → Nat → Int32 → xR → Option (Int32 × xR)) (rec53 : Nat → Nat → Nat → Int32 → xR → Option (Int32 × xR)) (a1 : Nat) (a2 : Nat) (a3 : Nat) (a5 : Int32) (r : xR) : Option (Int32 × xR) := if a5 = 0 then cl (x_X1_goesOn a2 r) fun q2 => rec41 a1 a2 a3 q2.1 q2.2 else lt (r.1.2.2 0 11) fun p3 => nn p3 fun p4 => cl (x_X1_isLikePlaced p4 a2 a3 a1 r) fun q5 => if q5.1 = 0 then x_X1_becomes_87 rec41 rec53 a1 a2 a3 q5.2 else lt (q5.2.1.2.2 0 11) fun p6 => nn p6 fun p7 => cl (x_X1_isScaled p7 a2 a3 a1 q5.2) fun q8 => if q8.1 = 0 then x_X1_becomes_87 rec41 rec53 a1 a2 a3 q8.2 else some ((1 : Int32), q8.2)
theorem x_X1_becomes_53_s_ok {ms : xS} {rr : Int32 × xR} {rec41 : Nat → Nat → Nat → Int32 → xR → Option (Int32 × xR)} {rec53 : Nat → Nat → Nat → Int32 → xR → Option (Int32 × xR)} (hr41 : ∀ {a1 : Nat} {a2 : Nat} {a3 : Nat} {a4 : Int32} {r : xR}, rec41 a1 a2 a3 a4 r = some rr → xB xLL yX1_becomes cX1_becomes 6 (some .boolean) 2 52 41 [some (.inr (.inr (some 300)) : xV), some (.inr (.inr (some (a1))) : xV), some (.inr (.inr (some (a2))) : xV), some (.inr (.inr (some (a3))) : xV), some (.inl (a4) : xV), none] [] (ms, r) (some (.inl rr.1)) (ms, rr.2)) (hr53 : ∀ {a1 : Nat} {a2 : Nat} {a3 : Nat} {a5 : Int32} {r : xR}, rec53 a1 a2 a3 a5 r = some rr → xB xLL yX1_becomes cX1_becomes 6 (some .boolean) 2 52 53 [some (.inr (.inr (some 300)) : xV), some (.inr (.inr (some (a1))) : xV), some (.inr (.inr (some (a2))) : xV), some (.inr (.inr (some (a3))) : xV), none, some (.inl (a5) : xV)] [] (ms, r) (some (.inl rr.1)) (ms, rr.2)) {a1 : Nat} {a2 : Nat} {a3 : Nat} {a5 : Int32} {r : xR} (h : x_X1_becomes_53_s rec41 rec53 a1 a2 a3 a5 r = some rr) : xB xLL yX1_becomes cX1_becomes 6 (some .boolean) 2 52 53 [some (.inr (.inr (some 300)) : xV), some (.inr (.inr (some (a1))) : xV), some (.inr (.inr (some (a2))) : xV), some (.inr (.inr (some (a3))) : xV), none, some (.inl (a5) : xV)] [] (ms, r) (some (.inl rr.1)) (ms, rr.2) := by
  refine x_iload (i := 5) 55 rfl dX1_becomes_53 rfl ?_
  refine x_if_eq 96 58 rfl dX1_becomes_55 rfl h (fun h => ?_) (fun h => ?_)
  · refine x_aload_n (i := 2) 97 rfl dX1_becomes_96 rfl rfl ?_
    refine x_cl h (fun q2 hq h => ?_)
    refine x_callS (as := [(.inr (.inr (some (a2))) : xV)]) (rest := []) (vv := (some (.inl (q2.1) : xV))) (w2 := (ms, q2.2)) 100 rfl dX1_becomes_97 (x_X1_goesOn_ct hq) (lw_S q1662 q1663 q118 q1664) ydX1_goesOn rfl ⟨Nat.le_of_ble_eq_true rfl, Nat.le_of_ble_eq_true rfl⟩ (Nat.le_of_ble_eq_true rfl) rfl ?_
    change xB xLL yX1_becomes cX1_becomes 6 (some .boolean) 2 52 100 [some (.inr (.inr (some 300)) : xV), some (.inr (.inr (some (a1))) : xV), some (.inr (.inr (some (a2))) : xV), some (.inr (.inr (some (a3))) : xV), none, some (.inl (a5) : xV)] [(.inl (q2.1) : xV)] (ms, q2.2) _ _
    refine x_istore 102 rfl dX1_becomes_100 (by decide) (lv' := [some (.inr (.inr (some 300)) : xV), some (.inr (.inr (some (a1))) : xV), some (.inr (.inr (some (a2))) : xV), some (.inr (.inr (some (a3))) : xV), some (.inl (q2.1) : xV), some (.inl (a5) : xV)]) rfl ?_
    refine x_goto 41 dX1_becomes_102 rfl ?_
    exact xB.le (xle.s (xle.s (xle.s (xle.s (xle.s (xle.n xle.z)))))) (hr41 h)
  · refine x_aload_n (i := 0) 59 rfl dX1_becomes_58 rfl rfl ?_
    refine q_get (k := 11) 62 rfl dX1_becomes_59 (by decide) q453 rfl ?_
    refine x_ltr h (fun p3 h => ?_)
    refine x_aload_n (i := 2) 63 rfl dX1_becomes_62 rfl rfl ?_
    refine x_aload_n (i := 3) 64 rfl dX1_becomes_63 rfl rfl ?_
    refine x_aload_n (i := 1) 65 rfl dX1_becomes_64 rfl rfl ?_
    refine x_nnP (P := fun p3 => xB xLL yX1_becomes cX1_becomes 6 (some .boolean) 2 52 65 [some (.inr (.inr (some 300)) : xV), some (.inr (.inr (some (a1))) : xV), some (.inr (.inr (some (a2))) : xV), some (.inr (.inr (some (a3))) : xV), none, some (.inl (a5) : xV)] [(.inr (.inr (some (a1))) : xV), (.inr (.inr (some (a3))) : xV), (.inr (.inr (some (a2))) : xV), (.inr (.inr (p3)) : xV)] (ms, r) (some (.inl rr.1)) (ms, rr.2)) h (fun p4 h => ?_)
    refine x_cl h (fun q5 hq h => ?_)
    refine x_callS (as := [(.inr (.inr (some (p4))) : xV), (.inr (.inr (some (a2))) : xV), (.inr (.inr (some (a3))) : xV), (.inr (.inr (some (a1))) : xV)]) (rest := []) (vv := (some (.inl (q5.1) : xV))) (w2 := (ms, q5.2)) 68 rfl dX1_becomes_65 (x_X1_isLikePlaced_ct hq) (lw_S q1643 q1644 q118 q1645) ydX1_isLikePlaced rfl ⟨Nat.le_of_ble_eq_true rfl, Nat.le_of_ble_eq_true rfl⟩ (Nat.le_of_ble_eq_true rfl) rfl ?_
    change xB xLL yX1_becomes cX1_becomes 6 (some .boolean) 2 52 68 [some (.inr (.inr (some 300)) : xV), some (.inr (.inr (some (a1))) : xV), some (.inr (.inr (some (a2))) : xV), some (.inr (.inr (some (a3))) : xV), none, some (.inl (a5) : xV)] [(.inl (q5.1) : xV)] (ms, q5.2) _ _
    refine x_if_eq 87 71 rfl dX1_becomes_68 rfl h (fun h => ?_) (fun h => ?_)
    · exact xB.le (xle.s (xle.s (xle.s (xle.s (xle.n (xle.n xle.z)))))) (x_X1_becomes_87_ok hr41 hr53 h)
    · refine x_aload_n (i := 0) 72 rfl dX1_becomes_71 rfl rfl ?_
      refine x_aload_n (i := 0) 73 rfl dX1_becomes_72 rfl rfl ?_
      refine q_get (k := 11) 76 rfl dX1_becomes_73 (by decide) q453 rfl ?_
      refine x_ltr h (fun p6 h => ?_)
      refine x_aload_n (i := 2) 77 rfl dX1_becomes_76 rfl rfl ?_
      refine x_aload_n (i := 3) 78 rfl dX1_becomes_77 rfl rfl ?_
      refine x_aload_n (i := 1) 79 rfl dX1_becomes_78 rfl rfl ?_
      refine x_nnP (P := fun p6 => xB xLL yX1_becomes cX1_becomes 6 (some .boolean) 2 52 79 [some (.inr (.inr (some 300)) : xV), some (.inr (.inr (some (a1))) : xV), some (.inr (.inr (some (a2))) : xV), some (.inr (.inr (some (a3))) : xV), none, some (.inl (a5) : xV)] [(.inr (.inr (some (a1))) : xV), (.inr (.inr (some (a3))) : xV), (.inr (.inr (some (a2))) : xV), (.inr (.inr (p6)) : xV), (.inr (.inr (some 300)) : xV)] (ms, q5.2) (some (.inl rr.1)) (ms, rr.2)) h (fun p7 h => ?_)
      refine x_cl h (fun q8 hq h => ?_)
      refine x_callV (as := [(.inr (.inr (some (p7))) : xV), (.inr (.inr (some (a2))) : xV), (.inr (.inr (some (a3))) : xV), (.inr (.inr (some (a1))) : xV)]) (rest := []) (vv := (some (.inl (q8.1) : xV))) (w2 := (ms, q8.2)) (C := RX1) (T := TX1) (N := 34) 82 rfl dX1_becomes_79 (x_X1_isScaled_ct hq) (Or.inl xcell_X0) rfl (lw_V q1646 q1648 qs52 q118 q1649) rfl ydX1_isScaled rfl ⟨Nat.le_of_ble_eq_true rfl, Nat.le_of_ble_eq_true rfl⟩ (Nat.le_of_ble_eq_true rfl) rfl ?_
      change xB xLL yX1_becomes cX1_becomes 6 (some .boolean) 2 52 82 [some (.inr (.inr (some 300)) : xV), some (.inr (.inr (some (a1))) : xV), some (.inr (.inr (some (a2))) : xV), some (.inr (.inr (some (a3))) : xV), none, some (.inl (a5) : xV)] [(.inl (q8.1) : xV)] (ms, q8.2) _ _
      refine x_if_eq 87 85 rfl dX1_becomes_82 rfl h (fun h => ?_) (fun h => ?_)
      · exact xB.le (xle.s (xle.s (xle.s (xle.s (xle.n (xle.n xle.z)))))) (x_X1_becomes_87_ok hr41 hr53 h)
      · refine x_iconst (1 : Int32) 86 rfl dX1_becomes_85 rfl ?_
        cases h
        exact x_zret rfl (Or.inr rfl) dX1_becomes_86
def x_X1_becomes_53_L (rec41 : Nat → Nat → Nat → Int32 → xR → Option (Int32 × xR)) : Nat → Nat → Nat → Nat → Int32 → xR → Option (Int32 × xR)
  | 0 => fun _ _ _ _ _ => none
  | n + 1 => x_X1_becomes_53_s rec41 (x_X1_becomes_53_L rec41 n)
theorem x_X1_becomes_53_L_ok {ms : xS} {rr : Int32 × xR} {rec41 : Nat → Nat → Nat → Int32 → xR → Option (Int32 × xR)} (hr41 : ∀ {a1 : Nat} {a2 : Nat} {a3 : Nat} {a4 : Int32} {r : xR}, rec41 a1 a2 a3 a4 r = some rr → xB xLL yX1_becomes cX1_becomes 6 (some .boolean) 2 52 41 [some (.inr (.inr (some 300)) : xV), some (.inr (.inr (some (a1))) : xV), some (.inr (.inr (some (a2))) : xV), some (.inr (.inr (some (a3))) : xV), some (.inl (a4) : xV), none] [] (ms, r) (some (.inl rr.1)) (ms, rr.2)) : ∀ (n9 : Nat) {a1 : Nat} {a2 : Nat} {a3 : Nat} {a5 : Int32} {r : xR}, x_X1_becomes_53_L rec41 n9 a1 a2 a3 a5 r = some rr → xB xLL yX1_becomes cX1_becomes 6 (some .boolean) 2 52 53 [some (.inr (.inr (some 300)) : xV), some (.inr (.inr (some (a1))) : xV), some (.inr (.inr (some (a2))) : xV), some (.inr (.inr (some (a3))) : xV), none, some (.inl (a5) : xV)] [] (ms, r) (some (.inl rr.1)) (ms, rr.2)
  | 0, _, _, _, _, _, h => by cases h
  | n9 + 1, _, _, _, _, _, h => x_X1_becomes_53_s_ok hr41 (x_X1_becomes_53_L_ok hr41 n9) h
def x_X1_becomes_41_s (rec41 : Nat → Nat → Nat → Int32 → xR → Option (Int32 × xR)) (a1 : Nat) (a2 : Nat) (a3 : Nat) (a4 : Int32) (r : xR) : Option (Int32 × xR) := if a4 = 0 then some ((0 : Int32), r) else cl (x_X1_order a3 r) fun q9 => lt ((1 : Int32)) fun x10 => x_X1_becomes_53_L rec41 xFU a1 a2 a3 x10 q9
theorem x_X1_becomes_41_s_ok {ms : xS} {rr : Int32 × xR} {rec41 : Nat → Nat → Nat → Int32 → xR → Option (Int32 × xR)} (hr41 : ∀ {a1 : Nat} {a2 : Nat} {a3 : Nat} {a4 : Int32} {r : xR}, rec41 a1 a2 a3 a4 r = some rr → xB xLL yX1_becomes cX1_becomes 6 (some .boolean) 2 52 41 [some (.inr (.inr (some 300)) : xV), some (.inr (.inr (some (a1))) : xV), some (.inr (.inr (some (a2))) : xV), some (.inr (.inr (some (a3))) : xV), some (.inl (a4) : xV), none] [] (ms, r) (some (.inl rr.1)) (ms, rr.2)) {a1 : Nat} {a2 : Nat} {a3 : Nat} {a4 : Int32} {r : xR} (h : x_X1_becomes_41_s rec41 a1 a2 a3 a4 r = some rr) : xB xLL yX1_becomes cX1_becomes 6 (some .boolean) 2 52 41 [some (.inr (.inr (some 300)) : xV), some (.inr (.inr (some (a1))) : xV), some (.inr (.inr (some (a2))) : xV), some (.inr (.inr (some (a3))) : xV), some (.inl (a4) : xV), none] [] (ms, r) (some (.inl rr.1)) (ms, rr.2) := by
  refine x_iload (i := 4) 43 rfl dX1_becomes_41 rfl ?_
  refine x_if_eq 105 46 rfl dX1_becomes_43 rfl h (fun h => ?_) (fun h => ?_)
  · refine x_iconst (0 : Int32) 106 rfl dX1_becomes_105 rfl ?_
    cases h
    exact x_zret rfl (Or.inl rfl) dX1_becomes_106
  · refine x_aload_n (i := 3) 47 rfl dX1_becomes_46 rfl rfl ?_
    refine x_cl h (fun q9 hq h => ?_)
    refine x_callS (as := [(.inr (.inr (some (a3))) : xV)]) (rest := []) (vv := none) (w2 := (ms, q9)) 50 rfl dX1_becomes_47 (x_X1_order_ct hq) (lw_S q1640 q1641 q118 q1642) ydX1_order rfl ⟨Nat.le_of_ble_eq_true rfl, Nat.le_of_ble_eq_true rfl⟩ (Nat.le_of_ble_eq_true rfl) rfl ?_
    change xB xLL yX1_becomes cX1_becomes 6 (some .boolean) 2 52 50 [some (.inr (.inr (some 300)) : xV), some (.inr (.inr (some (a1))) : xV), some (.inr (.inr (some (a2))) : xV), some (.inr (.inr (some (a3))) : xV), some (.inl (a4) : xV), none] [] (ms, q9) _ _
    refine x_iconst (1 : Int32) 51 rfl dX1_becomes_50 rfl ?_
    refine x_lti h (fun x10 h => ?_)
    refine x_istore 53 rfl dX1_becomes_51 (by decide) (lv' := [some (.inr (.inr (some 300)) : xV), some (.inr (.inr (some (a1))) : xV), some (.inr (.inr (some (a2))) : xV), some (.inr (.inr (some (a3))) : xV), some (.inl (a4) : xV), some (.inl (x10) : xV)]) rfl ?_
    exact xB.le (xle.s (xle.s (xle.s (xle.s (xle.n (xle.s xle.z)))))) (x_X1_becomes_53_L_ok hr41 xFU h)
def x_X1_becomes_41_L : Nat → Nat → Nat → Nat → Int32 → xR → Option (Int32 × xR)
  | 0 => fun _ _ _ _ _ => none
  | n + 1 => x_X1_becomes_41_s (x_X1_becomes_41_L  n)
theorem x_X1_becomes_41_L_ok {ms : xS} {rr : Int32 × xR} : ∀ (n9 : Nat) {a1 : Nat} {a2 : Nat} {a3 : Nat} {a4 : Int32} {r : xR}, x_X1_becomes_41_L  n9 a1 a2 a3 a4 r = some rr → xB xLL yX1_becomes cX1_becomes 6 (some .boolean) 2 52 41 [some (.inr (.inr (some 300)) : xV), some (.inr (.inr (some (a1))) : xV), some (.inr (.inr (some (a2))) : xV), some (.inr (.inr (some (a3))) : xV), some (.inl (a4) : xV), none] [] (ms, r) (some (.inl rr.1)) (ms, rr.2)
  | 0, _, _, _, _, _, h => by cases h
  | n9 + 1, _, _, _, _, _, h => x_X1_becomes_41_s_ok (x_X1_becomes_41_L_ok  n9) h
def x_X1_becomes (a1 : Nat) (r : xR) : Option (Int32 × xR) := lt (r.1.2.2 0 11) fun p11 => nn p11 fun p12 => dgi xLL r p12 2 0 fun x13 => if x13 = (5 : Int32) then lt (r.1.2.2 0 11) fun p14 => nn p14 fun p15 => dgi xLL r p15 2 1 fun x16 => if x16 = (5 : Int32) then ali xLL r (6 : Int32) fun p17 r18 => ali xLL r18 (6 : Int32) fun p19 r20 => cl (x_X1_order p17 r20) fun q21 => lt ((1 : Int32)) fun x22 => x_X1_becomes_41_L xFU a1 p17 p19 x22 q21 else some ((0 : Int32), r) else some ((0 : Int32), r)
theorem x_X1_becomes_ct {ms : xS} {rr : Int32 × xR} {a1 : Nat} {r : xR} (h : x_X1_becomes a1 r = some rr) : xCt xLL yX1_becomes cX1_becomes 6 (some .boolean) 2 52 [(.inr (.inr (some 300)) : xV), (.inr (.inr (some (a1))) : xV)] (ms, r) (some (.inl rr.1)) (ms, rr.2) := by
  refine xCt.of (lv := [some (.inr (.inr (some 300)) : xV), some (.inr (.inr (some (a1))) : xV), none, none, none, none]) pl_X1 (Nat.le_of_ble_eq_true rfl) (xle.s (xle.s (xle.m (xle.m (xle.m (xle.m xle.z)))))) ?_
  refine x_aload_n (i := 0) 1 rfl dX1_becomes_0 rfl rfl ?_
  refine q_get (k := 11) 4 rfl dX1_becomes_1 (by decide) q453 rfl ?_
  refine x_ltr h (fun p11 h => ?_)
  refine x_nnP (P := fun p11 => xB xLL yX1_becomes cX1_becomes 6 (some .boolean) 2 52 4 [some (.inr (.inr (some 300)) : xV), some (.inr (.inr (some (a1))) : xV), none, none, none, none] [(.inr (.inr (p11)) : xV)] (ms, r) (some (.inl rr.1)) (ms, rr.2)) h (fun p12 h => ?_)
  refine d_getiN (ci := 2) (k := 0) (C := RX4) (T := TX4) (N := 3) 7 rfl dX1_becomes_4 rfl in_X4 (by decide) (List.mem_of_getElem? (i := 5) rfl) h (fun x13 h => ?_)
  refine x_iconst (5 : Int32) 8 rfl dX1_becomes_7 rfl ?_
  refine x_icmp_ne 22 11 rfl dX1_becomes_8 rfl h (fun h => ?_) (fun h => ?_)
  · refine x_iconst (0 : Int32) 23 rfl dX1_becomes_22 rfl ?_
    cases h
    exact x_zret rfl (Or.inl rfl) dX1_becomes_23
  · refine x_aload_n (i := 0) 12 rfl dX1_becomes_11 rfl rfl ?_
    refine q_get (k := 11) 15 rfl dX1_becomes_12 (by decide) q453 rfl ?_
    refine x_ltr h (fun p14 h => ?_)
    refine x_nnP (P := fun p14 => xB xLL yX1_becomes cX1_becomes 6 (some .boolean) 2 52 15 [some (.inr (.inr (some 300)) : xV), some (.inr (.inr (some (a1))) : xV), none, none, none, none] [(.inr (.inr (p14)) : xV)] (ms, r) (some (.inl rr.1)) (ms, rr.2)) h (fun p15 h => ?_)
    refine d_getiN (ci := 2) (k := 1) (C := RX4) (T := TX4) (N := 3) 18 rfl dX1_becomes_15 rfl in_X4 (by decide) (List.mem_of_getElem? (i := 7) rfl) h (fun x16 h => ?_)
    refine x_iconst (5 : Int32) 19 rfl dX1_becomes_18 rfl ?_
    refine x_icmp_eq 24 22 rfl dX1_becomes_19 rfl h (fun h => ?_) (fun h => ?_)
    · refine x_bipush (6 : Int32) 26 rfl dX1_becomes_24 rfl ?_
      refine d_newi 28 rfl dX1_becomes_26 h (fun p17 r18 h => ?_)
      refine x_astore_n 29 rfl dX1_becomes_28 rfl (by decide) (lv' := [some (.inr (.inr (some 300)) : xV), some (.inr (.inr (some (a1))) : xV), some (.inr (.inr (some (p17))) : xV), none, none, none]) rfl ?_
      refine x_bipush (6 : Int32) 31 rfl dX1_becomes_29 rfl ?_
      refine d_newi 33 rfl dX1_becomes_31 h (fun p19 r20 h => ?_)
      refine x_astore_n 34 rfl dX1_becomes_33 rfl (by decide) (lv' := [some (.inr (.inr (some 300)) : xV), some (.inr (.inr (some (a1))) : xV), some (.inr (.inr (some (p17))) : xV), some (.inr (.inr (some (p19))) : xV), none, none]) rfl ?_
      refine x_aload_n (i := 2) 35 rfl dX1_becomes_34 rfl rfl ?_
      refine x_cl h (fun q21 hq h => ?_)
      refine x_callS (as := [(.inr (.inr (some (p17))) : xV)]) (rest := []) (vv := none) (w2 := (ms, q21)) 38 rfl dX1_becomes_35 (x_X1_order_ct hq) (lw_S q1640 q1641 q118 q1642) ydX1_order rfl ⟨Nat.le_of_ble_eq_true rfl, Nat.le_of_ble_eq_true rfl⟩ (Nat.le_of_ble_eq_true rfl) rfl ?_
      change xB xLL yX1_becomes cX1_becomes 6 (some .boolean) 2 52 38 [some (.inr (.inr (some 300)) : xV), some (.inr (.inr (some (a1))) : xV), some (.inr (.inr (some (p17))) : xV), some (.inr (.inr (some (p19))) : xV), none, none] [] (ms, q21) _ _
      refine x_iconst (1 : Int32) 39 rfl dX1_becomes_38 rfl ?_
      refine x_lti h (fun x22 h => ?_)
      refine x_istore 41 rfl dX1_becomes_39 (by decide) (lv' := [some (.inr (.inr (some 300)) : xV), some (.inr (.inr (some (a1))) : xV), some (.inr (.inr (some (p17))) : xV), some (.inr (.inr (some (p19))) : xV), some (.inl (x22) : xV), none]) rfl ?_
      exact xB.le (xle.s (xle.s (xle.s (xle.s (xle.s (xle.n xle.z)))))) (x_X1_becomes_41_L_ok xFU h)
    · refine x_iconst (0 : Int32) 23 rfl dX1_becomes_22 rfl ?_
      cases h
      exact x_zret rfl (Or.inl rfl) dX1_becomes_23
/-! UnimodularTables.special()I -/
theorem ydX1_special : xHd yX1_special 0 := by decide +kernel
def x_X1_special (r : xR) : Option (Int32 × xR) := lt (r.1.2.2 0 11) fun p1 => nu p1 (some ((-1 : Int32), r)) fun p2 => cl (x_X1_becomes 360 r) fun q3 => if q3.1 = 0 then cl (x_X1_becomes 367 q3.2) fun q4 => if q4.1 = 0 then some ((0 : Int32), q4.2) else some ((2 : Int32), q4.2) else some ((1 : Int32), q3.2)
theorem x_X1_special_ct {ms : xS} {rr : Int32 × xR} {r : xR} (h : x_X1_special r = some rr) : xCt xLL yX1_special cX1_special 1 (some .int) 3 77 [(.inr (.inr (some 300)) : xV)] (ms, r) (some (.inl rr.1)) (ms, rr.2) := by
  refine xCt.of (lv := [some (.inr (.inr (some 300)) : xV)]) pl_X1 (Nat.le_of_ble_eq_true rfl) (xle.s xle.z) ?_
  refine x_aload_n (i := 0) 1 rfl dX1_special_0 rfl rfl ?_
  refine q_get (k := 11) 4 rfl dX1_special_1 (by decide) q453 rfl ?_
  refine x_ltr h (fun p1 h => ?_)
  refine x_nnlP (lv := fun p1 => [some (.inr (.inr (some 300)) : xV)]) (st := fun p1 => []) 11 7 rfl dX1_special_4 rfl h (fun p2 h => ?_) (fun h => ?_)
  · refine x_aload_n (i := 0) 12 rfl dX1_special_11 rfl rfl ?_
    refine x_aload_n (i := 0) 13 rfl dX1_special_12 rfl rfl ?_
    refine q_get (k := 27) 16 rfl dX1_special_13 (by decide) q469 rfl ?_
    refine x_cl h (fun q3 hq h => ?_)
    refine x_callV (as := [(.inr (.inr (some (360))) : xV)]) (rest := []) (vv := (some (.inl (q3.1) : xV))) (w2 := (ms, q3.2)) (C := RX1) (T := TX1) (N := 34) 19 rfl dX1_special_16 (x_X1_becomes_ct hq) (Or.inl xcell_X0) rfl (lw_V q1658 q1660 qs54 q118 q1661) rfl ydX1_becomes rfl ⟨Nat.le_of_ble_eq_true rfl, Nat.le_of_ble_eq_true rfl⟩ (Nat.le_of_ble_eq_true rfl) rfl ?_
    change xB xLL yX1_special cX1_special 1 (some .int) 3 77 19 [some (.inr (.inr (some 300)) : xV)] [(.inl (q3.1) : xV)] (ms, q3.2) _ _
    refine x_if_eq 26 22 rfl dX1_special_19 rfl h (fun h => ?_) (fun h => ?_)
    · refine x_aload_n (i := 0) 27 rfl dX1_special_26 rfl rfl ?_
      refine x_aload_n (i := 0) 28 rfl dX1_special_27 rfl rfl ?_
      refine q_get (k := 28) 31 rfl dX1_special_28 (by decide) q470 rfl ?_
      refine x_cl h (fun q4 hq h => ?_)
      refine x_callV (as := [(.inr (.inr (some (367))) : xV)]) (rest := []) (vv := (some (.inl (q4.1) : xV))) (w2 := (ms, q4.2)) (C := RX1) (T := TX1) (N := 34) 34 rfl dX1_special_31 (x_X1_becomes_ct hq) (Or.inl xcell_X0) rfl (lw_V q1658 q1660 qs54 q118 q1661) rfl ydX1_becomes rfl ⟨Nat.le_of_ble_eq_true rfl, Nat.le_of_ble_eq_true rfl⟩ (Nat.le_of_ble_eq_true rfl) rfl ?_
      change xB xLL yX1_special cX1_special 1 (some .int) 3 77 34 [some (.inr (.inr (some 300)) : xV)] [(.inl (q4.1) : xV)] (ms, q4.2) _ _
      refine x_if_eq 41 37 rfl dX1_special_34 rfl h (fun h => ?_) (fun h => ?_)
      · refine x_iconst (0 : Int32) 42 rfl dX1_special_41 rfl ?_
        cases h
        exact x_iret rfl dX1_special_42
      · refine x_iconst (2 : Int32) 38 rfl dX1_special_37 rfl ?_
        refine x_goto 42 dX1_special_38 rfl ?_
        cases h
        exact x_iret rfl dX1_special_42
    · refine x_iconst (1 : Int32) 23 rfl dX1_special_22 rfl ?_
      refine x_goto 42 dX1_special_23 rfl ?_
      cases h
      exact x_iret rfl dX1_special_42
  · refine x_iconst (-1 : Int32) 8 rfl dX1_special_7 rfl ?_
    refine x_goto 42 dX1_special_8 rfl ?_
    cases h
    exact x_iret rfl dX1_special_42
/-! UnimodularTables.rank(I)I -/
theorem ydX1_rank : xHd yX1_rank 1 := by decide +kernel
def x_X1_rank_45_s (rec45 : Nat → Int32 → xR → Option (Int32 × xR)) (a2 : Nat) (a3 : Int32) (r : xR) : Option (Int32 × xR) := if a3 ≤ 0 then some (a3, r) else lt (r.1.2.2 0 11) fun p1 => cl (x_X1_detsNow r) fun q2 => nn p1 fun p3 => cl (x_X1_many p3 q2.1 a3 a2 q2.2) fun q4 => if q4.1 = 0 then lt (a3 + (-1 : Int32)) fun x5 => rec45 a2 x5 q4.2 else some (a3, q4.2)
theorem x_X1_rank_45_s_ok {ms : xS} {rr : Int32 × xR} {rec45 : Nat → Int32 → xR → Option (Int32 × xR)} (hr45 : ∀ {a2 : Nat} {a3 : Int32} {r : xR}, rec45 a2 a3 r = some rr → xB xLL yX1_rank cX1_rank 4 (some .int) 6 3089 45 [some (.inr (.inr (some 300)) : xV), none, some (.inr (.inr (some (a2))) : xV), some (.inl (a3) : xV)] [] (ms, r) (some (.inl rr.1)) (ms, rr.2)) {a2 : Nat} {a3 : Int32} {r : xR} (h : x_X1_rank_45_s rec45 a2 a3 r = some rr) : xB xLL yX1_rank cX1_rank 4 (some .int) 6 3089 45 [some (.inr (.inr (some 300)) : xV), none, some (.inr (.inr (some (a2))) : xV), some (.inl (a3) : xV)] [] (ms, r) (some (.inl rr.1)) (ms, rr.2) := by
  refine x_iload_n (i := 3) 46 rfl dX1_rank_45 rfl rfl ?_
  refine x_if_le 71 49 rfl dX1_rank_46 rfl h (fun h => ?_) (fun h => ?_)
  · refine x_iload_n (i := 3) 72 rfl dX1_rank_71 rfl rfl ?_
    cases h
    exact x_iret rfl dX1_rank_72
  · refine x_aload_n (i := 0) 50 rfl dX1_rank_49 rfl rfl ?_
    refine q_get (k := 11) 53 rfl dX1_rank_50 (by decide) q453 rfl ?_
    refine x_ltr h (fun p1 h => ?_)
    refine x_aload_n (i := 0) 54 rfl dX1_rank_53 rfl rfl ?_
    refine x_cl h (fun q2 hq h => ?_)
    refine x_callV (as := []) (rest := [(.inr (.inr (p1)) : xV)]) (vv := (some (.inr (.inr (some (300 + q2.1))) : xV))) (w2 := (ms, q2.2)) (C := RX1) (T := TX1) (N := 34) 57 rfl dX1_rank_54 (x_X1_detsNow_ct hq) (Or.inl xcell_X0) rfl (lw_V q829 q831 qs23 q118 q832) rfl ydX1_detsNow rfl ⟨Nat.le_of_ble_eq_true rfl, Nat.le_of_ble_eq_true rfl⟩ (Nat.le_of_ble_eq_true rfl) rfl ?_
    change xB xLL yX1_rank cX1_rank 4 (some .int) 6 3089 57 [some (.inr (.inr (some 300)) : xV), none, some (.inr (.inr (some (a2))) : xV), some (.inl (a3) : xV)] [(.inr (.inr (some (300 + q2.1))) : xV), (.inr (.inr (p1)) : xV)] (ms, q2.2) _ _
    refine x_iload_n (i := 3) 58 rfl dX1_rank_57 rfl rfl ?_
    refine x_aload_n (i := 2) 59 rfl dX1_rank_58 rfl rfl ?_
    refine x_nnP (P := fun p1 => xB xLL yX1_rank cX1_rank 4 (some .int) 6 3089 59 [some (.inr (.inr (some 300)) : xV), none, some (.inr (.inr (some (a2))) : xV), some (.inl (a3) : xV)] [(.inr (.inr (some (a2))) : xV), (.inl (a3) : xV), (.inr (.inr (some (300 + q2.1))) : xV), (.inr (.inr (p1)) : xV)] (ms, q2.2) (some (.inl rr.1)) (ms, rr.2)) h (fun p3 h => ?_)
    refine x_cl h (fun q4 hq h => ?_)
    refine x_callS (as := [(.inr (.inr (some (p3))) : xV), (.inr (.inr (some (300 + q2.1))) : xV), (.inl (a3) : xV), (.inr (.inr (some (a2))) : xV)]) (rest := []) (vv := (some (.inl (q4.1) : xV))) (w2 := (ms, q4.2)) 62 rfl dX1_rank_59 (x_X1_many_ct hq) (lw_S q856 q857 q118 q858) ydX1_many rfl ⟨Nat.le_of_ble_eq_true rfl, Nat.le_of_ble_eq_true rfl⟩ (Nat.le_of_ble_eq_true rfl) rfl ?_
    change xB xLL yX1_rank cX1_rank 4 (some .int) 6 3089 62 [some (.inr (.inr (some 300)) : xV), none, some (.inr (.inr (some (a2))) : xV), some (.inl (a3) : xV)] [(.inl (q4.1) : xV)] (ms, q4.2) _ _
    refine x_if_ne 71 65 rfl dX1_rank_62 rfl h (fun h => ?_) (fun h => ?_)
    · refine x_iload_n (i := 3) 72 rfl dX1_rank_71 rfl rfl ?_
      cases h
      exact x_iret rfl dX1_rank_72
    · refine x_iincL (i := 3) (-1 : Int32) 68 rfl dX1_rank_65 rfl rfl (by decide) h (fun x5 h => ?_)
      change xB xLL yX1_rank cX1_rank 4 (some .int) 6 3089 68 [some (.inr (.inr (some 300)) : xV), none, some (.inr (.inr (some (a2))) : xV), some (.inl (x5) : xV)] [] (ms, q4.2) _ _
      refine x_goto 45 dX1_rank_68 rfl ?_
      exact xB.le (xle.s (xle.n (xle.s (xle.s xle.z)))) (hr45 h)
def x_X1_rank_45_L : Nat → Nat → Int32 → xR → Option (Int32 × xR)
  | 0 => fun _ _ _ => none
  | n + 1 => x_X1_rank_45_s (x_X1_rank_45_L  n)
theorem x_X1_rank_45_L_ok {ms : xS} {rr : Int32 × xR} : ∀ (n9 : Nat) {a2 : Nat} {a3 : Int32} {r : xR}, x_X1_rank_45_L  n9 a2 a3 r = some rr → xB xLL yX1_rank cX1_rank 4 (some .int) 6 3089 45 [some (.inr (.inr (some 300)) : xV), none, some (.inr (.inr (some (a2))) : xV), some (.inl (a3) : xV)] [] (ms, r) (some (.inl rr.1)) (ms, rr.2)
  | 0, _, _, _, h => by cases h
  | n9 + 1, _, _, _, h => x_X1_rank_45_s_ok (x_X1_rank_45_L_ok  n9) h
def x_X1_rank_41 (s0 : Nat) (r : xR) : Option (Int32 × xR) := lt ((6 : Int32)) fun x6 => x_X1_rank_45_L xFU s0 x6 r
theorem x_X1_rank_41_ok {ms : xS} {rr : Int32 × xR} {s0 : Nat} {r : xR} (h : x_X1_rank_41  s0 r = some rr) : xB xLL yX1_rank cX1_rank 4 (some .int) 6 3089 41 [some (.inr (.inr (some 300)) : xV), none, none, none] [(.inr (.inr (some (s0))) : xV)] (ms, r) (some (.inl rr.1)) (ms, rr.2) := by
  refine x_astore_n 42 rfl dX1_rank_41 rfl (by decide) (lv' := [some (.inr (.inr (some 300)) : xV), none, some (.inr (.inr (some (s0))) : xV), none]) rfl ?_
  refine x_bipush (6 : Int32) 44 rfl dX1_rank_42 rfl ?_
  refine x_lti h (fun x6 h => ?_)
  refine x_istore_n 45 rfl dX1_rank_44 rfl (by decide) (lv' := [some (.inr (.inr (some 300)) : xV), none, some (.inr (.inr (some (s0))) : xV), some (.inl (x6) : xV)]) rfl ?_
  exact xB.le (xle.s (xle.n (xle.s (xle.s xle.z)))) (x_X1_rank_45_L_ok xFU h)
def x_X1_rank_23 (a1 : Int32) (r : xR) : Option (Int32 × xR) := if a1 = 0 then x_X1_rank_41 293 r else al xLL r (.inr (.inr (14, [(.inl (a1) : xV)]))) 1 fun p7 r8 => x_X1_rank_41 p7 r8
theorem x_X1_rank_23_ok {ms : xS} {rr : Int32 × xR} {a1 : Int32} {r : xR} (h : x_X1_rank_23  a1 r = some rr) : xB xLL yX1_rank cX1_rank 4 (some .int) 6 3089 23 [some (.inr (.inr (some 300)) : xV), some (.inl (a1) : xV), none, none] [] (ms, r) (some (.inl rr.1)) (ms, rr.2) := by
  refine x_iload_n (i := 1) 24 rfl dX1_rank_23 rfl rfl ?_
  refine x_if_ne 35 27 rfl dX1_rank_24 rfl h (fun h => ?_) (fun h => ?_)
  · refine x_iload_n (i := 1) 36 rfl dX1_rank_35 rfl rfl ?_
    refine d_indyM (k := 14) (σ := lms_14) (vals := [(.inl (a1) : xV)]) [] 41 rfl dX1_rank_36 (by decide) rfl rfl (List.cons_ne_nil _ _) rfl lml_14 rfl rfl (Nat.le_of_ble_eq_true rfl) rfl h (fun p7 r8 h => ?_)
    exact xB.le (xle.s (xle.n (xle.n (xle.n xle.z)))) (x_X1_rank_41_ok h)
  · refine x_indyC (k := 13) (σ := lms_13) 32 rfl dX1_rank_27 (by decide) rfl rfl (Nat.le_of_ble_eq_true rfl) ?_
    refine x_goto 41 dX1_rank_32 rfl ?_
    exact xB.le (xle.s (xle.n (xle.n (xle.n xle.z)))) (x_X1_rank_41_ok h)
def x_X1_rank (a1 : Int32) (r : xR) : Option (Int32 × xR) := lt (r.1.2.2 0 11) fun p9 => nu p9 (some ((-1 : Int32), r)) fun p10 => if a1 = 0 then x_X1_rank_23 a1 r else if a1 = (2 : Int32) then x_X1_rank_23 a1 r else if a1 = (3 : Int32) then x_X1_rank_23 a1 r else some ((-1 : Int32), r)
theorem x_X1_rank_ct {ms : xS} {rr : Int32 × xR} {a1 : Int32} {r : xR} (h : x_X1_rank a1 r = some rr) : xCt xLL yX1_rank cX1_rank 4 (some .int) 6 3089 [(.inr (.inr (some 300)) : xV), (.inl (a1) : xV)] (ms, r) (some (.inl rr.1)) (ms, rr.2) := by
  refine xCt.of (lv := [some (.inr (.inr (some 300)) : xV), some (.inl (a1) : xV), none, none]) pl_X1 (Nat.le_of_ble_eq_true rfl) (xle.s (xle.s (xle.m (xle.m xle.z)))) ?_
  refine x_aload_n (i := 0) 1 rfl dX1_rank_0 rfl rfl ?_
  refine q_get (k := 11) 4 rfl dX1_rank_1 (by decide) q453 rfl ?_
  refine x_ltr h (fun p9 h => ?_)
  refine x_nulP (lv := fun p9 => [some (.inr (.inr (some 300)) : xV), some (.inl (a1) : xV), none, none]) (st := fun p9 => []) 21 7 rfl dX1_rank_4 rfl h (fun h => ?_) (fun p10 h => ?_)
  · refine x_iconst (-1 : Int32) 22 rfl dX1_rank_21 rfl ?_
    cases h
    exact x_iret rfl dX1_rank_22
  · refine x_iload_n (i := 1) 8 rfl dX1_rank_7 rfl rfl ?_
    refine x_if_eq 23 11 rfl dX1_rank_8 rfl h (fun h => ?_) (fun h => ?_)
    · exact xB.le (xle.s (xle.s (xle.n (xle.n xle.z)))) (x_X1_rank_23_ok h)
    · refine x_iload_n (i := 1) 12 rfl dX1_rank_11 rfl rfl ?_
      refine x_iconst (2 : Int32) 13 rfl dX1_rank_12 rfl ?_
      refine x_icmp_eq 23 16 rfl dX1_rank_13 rfl h (fun h => ?_) (fun h => ?_)
      · exact xB.le (xle.s (xle.s (xle.n (xle.n xle.z)))) (x_X1_rank_23_ok h)
      · refine x_iload_n (i := 1) 17 rfl dX1_rank_16 rfl rfl ?_
        refine x_iconst (3 : Int32) 18 rfl dX1_rank_17 rfl ?_
        refine x_icmp_eq 23 21 rfl dX1_rank_18 rfl h (fun h => ?_) (fun h => ?_)
        · exact xB.le (xle.s (xle.s (xle.n (xle.n xle.z)))) (x_X1_rank_23_ok h)
        · refine x_iconst (-1 : Int32) 22 rfl dX1_rank_21 rfl ?_
          cases h
          exact x_iret rfl dX1_rank_22
/-! UnimodularTables.bases()I -/
theorem ydX1_bases : xHd yX1_bases 0 := by decide +kernel
def x_X1_bases (r : xR) : Option (Int32 × xR) := lt (r.1.2.2 0 11) fun p1 => nu p1 (some ((-1 : Int32), r)) fun p2 => lt (r.1.2.2 0 11) fun p3 => cl (x_X1_detsNow r) fun q4 => nn p3 fun p5 => cl (x_X1_many p5 q4.1 (0 : Int32) 295 q4.2) fun q6 => some (q6.1 + (1 : Int32), q6.2)
theorem x_X1_bases_ct {ms : xS} {rr : Int32 × xR} {r : xR} (h : x_X1_bases r = some rr) : xCt xLL yX1_bases cX1_bases 1 (some .int) 6 3089 [(.inr (.inr (some 300)) : xV)] (ms, r) (some (.inl rr.1)) (ms, rr.2) := by
  refine xCt.of (lv := [some (.inr (.inr (some 300)) : xV)]) pl_X1 (Nat.le_of_ble_eq_true rfl) (xle.s xle.z) ?_
  refine x_aload_n (i := 0) 1 rfl dX1_bases_0 rfl rfl ?_
  refine q_get (k := 11) 4 rfl dX1_bases_1 (by decide) q453 rfl ?_
  refine x_ltr h (fun p1 h => ?_)
  refine x_nnlP (lv := fun p1 => [some (.inr (.inr (some 300)) : xV)]) (st := fun p1 => []) 11 7 rfl dX1_bases_4 rfl h (fun p2 h => ?_) (fun h => ?_)
  · refine x_aload_n (i := 0) 12 rfl dX1_bases_11 rfl rfl ?_
    refine q_get (k := 11) 15 rfl dX1_bases_12 (by decide) q453 rfl ?_
    refine x_ltr h (fun p3 h => ?_)
    refine x_aload_n (i := 0) 16 rfl dX1_bases_15 rfl rfl ?_
    refine x_cl h (fun q4 hq h => ?_)
    refine x_callV (as := []) (rest := [(.inr (.inr (p3)) : xV)]) (vv := (some (.inr (.inr (some (300 + q4.1))) : xV))) (w2 := (ms, q4.2)) (C := RX1) (T := TX1) (N := 34) 19 rfl dX1_bases_16 (x_X1_detsNow_ct hq) (Or.inl xcell_X0) rfl (lw_V q829 q831 qs23 q118 q832) rfl ydX1_detsNow rfl ⟨Nat.le_of_ble_eq_true rfl, Nat.le_of_ble_eq_true rfl⟩ (Nat.le_of_ble_eq_true rfl) rfl ?_
    change xB xLL yX1_bases cX1_bases 1 (some .int) 6 3089 19 [some (.inr (.inr (some 300)) : xV)] [(.inr (.inr (some (300 + q4.1))) : xV), (.inr (.inr (p3)) : xV)] (ms, q4.2) _ _
    refine x_iconst (0 : Int32) 20 rfl dX1_bases_19 rfl ?_
    refine x_indyC (k := 15) (σ := lms_15) 25 rfl dX1_bases_20 (by decide) rfl rfl (Nat.le_of_ble_eq_true rfl) ?_
    refine x_nnP (P := fun p3 => xB xLL yX1_bases cX1_bases 1 (some .int) 6 3089 25 [some (.inr (.inr (some 300)) : xV)] [(.inr (.inr (some (295))) : xV), (.inl ((0 : Int32)) : xV), (.inr (.inr (some (300 + q4.1))) : xV), (.inr (.inr (p3)) : xV)] (ms, q4.2) (some (.inl rr.1)) (ms, rr.2)) h (fun p5 h => ?_)
    refine x_cl h (fun q6 hq h => ?_)
    refine x_callS (as := [(.inr (.inr (some (p5))) : xV), (.inr (.inr (some (300 + q4.1))) : xV), (.inl ((0 : Int32)) : xV), (.inr (.inr (some (295))) : xV)]) (rest := []) (vv := (some (.inl (q6.1) : xV))) (w2 := (ms, q6.2)) 28 rfl dX1_bases_25 (x_X1_many_ct hq) (lw_S q856 q857 q118 q858) ydX1_many rfl ⟨Nat.le_of_ble_eq_true rfl, Nat.le_of_ble_eq_true rfl⟩ (Nat.le_of_ble_eq_true rfl) rfl ?_
    change xB xLL yX1_bases cX1_bases 1 (some .int) 6 3089 28 [some (.inr (.inr (some 300)) : xV)] [(.inl (q6.1) : xV)] (ms, q6.2) _ _
    refine x_iconst (1 : Int32) 29 rfl dX1_bases_28 rfl ?_
    refine x_iadd 30 rfl dX1_bases_29 ?_
    cases h
    exact x_iret rfl dX1_bases_30
  · refine x_iconst (-1 : Int32) 8 rfl dX1_bases_7 rfl ?_
    refine x_goto 30 dX1_bases_8 rfl ?_
    cases h
    exact x_iret rfl dX1_bases_30
/-! UnimodularTables.isTotalWith(III)Z -/
theorem ydX1_isTotalWith : xHd yX1_isTotalWith 3 := by decide +kernel
def x_X1_isTotalWith (a1 : Int32) (a2 : Int32) (a3 : Int32) (r : xR) : Option (Int32 × xR) := lt (r.1.2.2 0 11) fun p1 => nn p1 fun p2 => dgr xLL r p2 2 2 fun p3 => nn p3 fun p4 => dar xLL r p4 a1 fun p5 => nn p5 fun p6 => dai xLL r p6 a2 fun x7 => lt (r.1.2.2 0 11) fun p8 => nn p8 fun p9 => dgr xLL r p9 2 2 fun p10 => nn p10 fun p11 => dar xLL r p11 a1 fun p12 => nn p12 fun p13 => daw xLL r p13 a2 a3 fun r14 => lt (r14.1.2.2 0 11) fun p15 => nn p15 fun p16 => cl (x_X1_isTotal p16 r14) fun q17 => lt (q17.2.1.2.2 0 11) fun p18 => nn p18 fun p19 => dgr xLL q17.2 p19 2 2 fun p20 => nn p20 fun p21 => dar xLL q17.2 p21 a1 fun p22 => nn p22 fun p23 => daw xLL q17.2 p23 a2 x7 fun r24 => zb q17.1 (some (q17.1, r24))
theorem x_X1_isTotalWith_ct {ms : xS} {rr : Int32 × xR} {a1 : Int32} {a2 : Int32} {a3 : Int32} {r : xR} (h : x_X1_isTotalWith a1 a2 a3 r = some rr) : xCt xLL yX1_isTotalWith cX1_isTotalWith 6 (some .boolean) 7 3110 [(.inr (.inr (some 300)) : xV), (.inl (a1) : xV), (.inl (a2) : xV), (.inl (a3) : xV)] (ms, r) (some (.inl rr.1)) (ms, rr.2) := by
  refine xCt.of (lv := [some (.inr (.inr (some 300)) : xV), some (.inl (a1) : xV), some (.inl (a2) : xV), some (.inl (a3) : xV), none, none]) pl_X1 (Nat.le_of_ble_eq_true rfl) (xle.s (xle.s (xle.s (xle.s (xle.m (xle.m xle.z)))))) ?_
  refine x_aload_n (i := 0) 1 rfl dX1_isTotalWith_0 rfl rfl ?_
  refine q_get (k := 11) 4 rfl dX1_isTotalWith_1 (by decide) q453 rfl ?_
  refine x_ltr h (fun p1 h => ?_)
  refine x_nnP (P := fun p1 => xB xLL yX1_isTotalWith cX1_isTotalWith 6 (some .boolean) 7 3110 4 [some (.inr (.inr (some 300)) : xV), some (.inl (a1) : xV), some (.inl (a2) : xV), some (.inl (a3) : xV), none, none] [(.inr (.inr (p1)) : xV)] (ms, r) (some (.inl rr.1)) (ms, rr.2)) h (fun p2 h => ?_)
  refine d_getrN (ci := 2) (k := 2) (C := RX4) (T := TX4) (N := 3) 7 rfl dX1_isTotalWith_4 rfl in_X4 (by decide) (List.mem_of_getElem? (i := 9) rfl) h (fun p3 h => ?_)
  refine x_iload_n (i := 1) 8 rfl dX1_isTotalWith_7 rfl rfl ?_
  refine x_nnP (P := fun p3 => xB xLL yX1_isTotalWith cX1_isTotalWith 6 (some .boolean) 7 3110 8 [some (.inr (.inr (some 300)) : xV), some (.inl (a1) : xV), some (.inl (a2) : xV), some (.inl (a3) : xV), none, none] [(.inl (a1) : xV), (.inr (.inr (p3)) : xV)] (ms, r) (some (.inl rr.1)) (ms, rr.2)) h (fun p4 h => ?_)
  refine d_aald 9 rfl dX1_isTotalWith_8 h (fun p5 h => ?_)
  refine x_iload_n (i := 2) 10 rfl dX1_isTotalWith_9 rfl rfl ?_
  refine x_nnP (P := fun p5 => xB xLL yX1_isTotalWith cX1_isTotalWith 6 (some .boolean) 7 3110 10 [some (.inr (.inr (some 300)) : xV), some (.inl (a1) : xV), some (.inl (a2) : xV), some (.inl (a3) : xV), none, none] [(.inl (a2) : xV), (.inr (.inr (p5)) : xV)] (ms, r) (some (.inl rr.1)) (ms, rr.2)) h (fun p6 h => ?_)
  refine d_iald 11 rfl dX1_isTotalWith_10 h (fun x7 h => ?_)
  refine x_istore 13 rfl dX1_isTotalWith_11 (by decide) (lv' := [some (.inr (.inr (some 300)) : xV), some (.inl (a1) : xV), some (.inl (a2) : xV), some (.inl (a3) : xV), some (.inl (x7) : xV), none]) rfl ?_
  refine x_aload_n (i := 0) 14 rfl dX1_isTotalWith_13 rfl rfl ?_
  refine q_get (k := 11) 17 rfl dX1_isTotalWith_14 (by decide) q453 rfl ?_
  refine x_ltr h (fun p8 h => ?_)
  refine x_nnP (P := fun p8 => xB xLL yX1_isTotalWith cX1_isTotalWith 6 (some .boolean) 7 3110 17 [some (.inr (.inr (some 300)) : xV), some (.inl (a1) : xV), some (.inl (a2) : xV), some (.inl (a3) : xV), some (.inl (x7) : xV), none] [(.inr (.inr (p8)) : xV)] (ms, r) (some (.inl rr.1)) (ms, rr.2)) h (fun p9 h => ?_)
  refine d_getrN (ci := 2) (k := 2) (C := RX4) (T := TX4) (N := 3) 20 rfl dX1_isTotalWith_17 rfl in_X4 (by decide) (List.mem_of_getElem? (i := 9) rfl) h (fun p10 h => ?_)
  refine x_iload_n (i := 1) 21 rfl dX1_isTotalWith_20 rfl rfl ?_
  refine x_nnP (P := fun p10 => xB xLL yX1_isTotalWith cX1_isTotalWith 6 (some .boolean) 7 3110 21 [some (.inr (.inr (some 300)) : xV), some (.inl (a1) : xV), some (.inl (a2) : xV), some (.inl (a3) : xV), some (.inl (x7) : xV), none] [(.inl (a1) : xV), (.inr (.inr (p10)) : xV)] (ms, r) (some (.inl rr.1)) (ms, rr.2)) h (fun p11 h => ?_)
  refine d_aald 22 rfl dX1_isTotalWith_21 h (fun p12 h => ?_)
  refine x_iload_n (i := 2) 23 rfl dX1_isTotalWith_22 rfl rfl ?_
  refine x_iload_n (i := 3) 24 rfl dX1_isTotalWith_23 rfl rfl ?_
  refine x_nnP (P := fun p12 => xB xLL yX1_isTotalWith cX1_isTotalWith 6 (some .boolean) 7 3110 24 [some (.inr (.inr (some 300)) : xV), some (.inl (a1) : xV), some (.inl (a2) : xV), some (.inl (a3) : xV), some (.inl (x7) : xV), none] [(.inl (a3) : xV), (.inl (a2) : xV), (.inr (.inr (p12)) : xV)] (ms, r) (some (.inl rr.1)) (ms, rr.2)) h (fun p13 h => ?_)
  refine d_iast 25 rfl dX1_isTotalWith_24 h (fun r14 h => ?_)
  refine x_aload_n (i := 0) 26 rfl dX1_isTotalWith_25 rfl rfl ?_
  refine x_aload_n (i := 0) 27 rfl dX1_isTotalWith_26 rfl rfl ?_
  refine q_get (k := 11) 30 rfl dX1_isTotalWith_27 (by decide) q453 rfl ?_
  refine x_ltr h (fun p15 h => ?_)
  refine x_nnP (P := fun p15 => xB xLL yX1_isTotalWith cX1_isTotalWith 6 (some .boolean) 7 3110 30 [some (.inr (.inr (some 300)) : xV), some (.inl (a1) : xV), some (.inl (a2) : xV), some (.inl (a3) : xV), some (.inl (x7) : xV), none] [(.inr (.inr (p15)) : xV), (.inr (.inr (some 300)) : xV)] (ms, r14) (some (.inl rr.1)) (ms, rr.2)) h (fun p16 h => ?_)
  refine x_cl h (fun q17 hq h => ?_)
  refine x_callV (as := [(.inr (.inr (some (p16))) : xV)]) (rest := []) (vv := (some (.inl (q17.1) : xV))) (w2 := (ms, q17.2)) (C := RX1) (T := TX1) (N := 34) 33 rfl dX1_isTotalWith_30 (x_X1_isTotal_ct hq) (Or.inl xcell_X0) rfl (lw_V q1635 q914 qs29 q118 q915) rfl ydX1_isTotal rfl ⟨Nat.le_of_ble_eq_true rfl, Nat.le_of_ble_eq_true rfl⟩ (Nat.le_of_ble_eq_true rfl) rfl ?_
  change xB xLL yX1_isTotalWith cX1_isTotalWith 6 (some .boolean) 7 3110 33 [some (.inr (.inr (some 300)) : xV), some (.inl (a1) : xV), some (.inl (a2) : xV), some (.inl (a3) : xV), some (.inl (x7) : xV), none] [(.inl (q17.1) : xV)] (ms, q17.2) _ _
  refine x_istore 35 rfl dX1_isTotalWith_33 (by decide) (lv' := [some (.inr (.inr (some 300)) : xV), some (.inl (a1) : xV), some (.inl (a2) : xV), some (.inl (a3) : xV), some (.inl (x7) : xV), some (.inl (q17.1) : xV)]) rfl ?_
  refine x_aload_n (i := 0) 36 rfl dX1_isTotalWith_35 rfl rfl ?_
  refine q_get (k := 11) 39 rfl dX1_isTotalWith_36 (by decide) q453 rfl ?_
  refine x_ltr h (fun p18 h => ?_)
  refine x_nnP (P := fun p18 => xB xLL yX1_isTotalWith cX1_isTotalWith 6 (some .boolean) 7 3110 39 [some (.inr (.inr (some 300)) : xV), some (.inl (a1) : xV), some (.inl (a2) : xV), some (.inl (a3) : xV), some (.inl (x7) : xV), some (.inl (q17.1) : xV)] [(.inr (.inr (p18)) : xV)] (ms, q17.2) (some (.inl rr.1)) (ms, rr.2)) h (fun p19 h => ?_)
  refine d_getrN (ci := 2) (k := 2) (C := RX4) (T := TX4) (N := 3) 42 rfl dX1_isTotalWith_39 rfl in_X4 (by decide) (List.mem_of_getElem? (i := 9) rfl) h (fun p20 h => ?_)
  refine x_iload_n (i := 1) 43 rfl dX1_isTotalWith_42 rfl rfl ?_
  refine x_nnP (P := fun p20 => xB xLL yX1_isTotalWith cX1_isTotalWith 6 (some .boolean) 7 3110 43 [some (.inr (.inr (some 300)) : xV), some (.inl (a1) : xV), some (.inl (a2) : xV), some (.inl (a3) : xV), some (.inl (x7) : xV), some (.inl (q17.1) : xV)] [(.inl (a1) : xV), (.inr (.inr (p20)) : xV)] (ms, q17.2) (some (.inl rr.1)) (ms, rr.2)) h (fun p21 h => ?_)
  refine d_aald 44 rfl dX1_isTotalWith_43 h (fun p22 h => ?_)
  refine x_iload_n (i := 2) 45 rfl dX1_isTotalWith_44 rfl rfl ?_
  refine x_iload (i := 4) 47 rfl dX1_isTotalWith_45 rfl ?_
  refine x_nnP (P := fun p22 => xB xLL yX1_isTotalWith cX1_isTotalWith 6 (some .boolean) 7 3110 47 [some (.inr (.inr (some 300)) : xV), some (.inl (a1) : xV), some (.inl (a2) : xV), some (.inl (a3) : xV), some (.inl (x7) : xV), some (.inl (q17.1) : xV)] [(.inl (x7) : xV), (.inl (a2) : xV), (.inr (.inr (p22)) : xV)] (ms, q17.2) (some (.inl rr.1)) (ms, rr.2)) h (fun p23 h => ?_)
  refine d_iast 48 rfl dX1_isTotalWith_47 h (fun r24 h => ?_)
  refine x_iload (i := 5) 50 rfl dX1_isTotalWith_48 rfl ?_
  refine x_zb h (fun hz h => ?_)
  cases h
  exact x_zret rfl hz dX1_isTotalWith_50
/-! UnimodularTables.mends()I -/
theorem ydX1_mends : xHd yX1_mends 0 := by decide +kernel
def x_X1_mends_113 (rec21 : Int32 → xR → Option (Int32 × xR)) (a1 : Int32) (r : xR) : Option (Int32 × xR) := lt (a1 + (1 : Int32)) fun x1 => rec21 x1 r
theorem x_X1_mends_113_ok {ms : xS} {rr : Int32 × xR} {rec21 : Int32 → xR → Option (Int32 × xR)} (hr21 : ∀ {a1 : Int32} {r : xR}, rec21 a1 r = some rr → xB xLL yX1_mends cX1_mends 4 (some .int) 8 3135 21 [some (.inr (.inr (some 300)) : xV), some (.inl (a1) : xV), none, none] [] (ms, r) (some (.inl rr.1)) (ms, rr.2)) {a1 : Int32} {r : xR} (h : x_X1_mends_113 rec21 a1 r = some rr) : xB xLL yX1_mends cX1_mends 4 (some .int) 8 3135 113 [some (.inr (.inr (some 300)) : xV), some (.inl (a1) : xV), none, none] [] (ms, r) (some (.inl rr.1)) (ms, rr.2) := by
  refine x_iincL (i := 1) (1 : Int32) 116 rfl dX1_mends_113 rfl rfl (by decide) h (fun x1 h => ?_)
  change xB xLL yX1_mends cX1_mends 4 (some .int) 8 3135 116 [some (.inr (.inr (some 300)) : xV), some (.inl (x1) : xV), none, none] [] (ms, r) _ _
  refine x_goto 21 dX1_mends_116 rfl ?_
  exact xB.le (xle.s (xle.s (xle.n (xle.n xle.z)))) (hr21 h)
def x_X1_mends_21_s (rec21 : Int32 → xR → Option (Int32 × xR)) (a1 : Int32) (r : xR) : Option (Int32 × xR) := lt (r.1.2.2 0 11) fun p2 => nn p2 fun p3 => dgi xLL r p3 2 0 fun x4 => lt (r.1.2.2 0 11) fun p5 => nn p5 fun p6 => dgi xLL r p6 2 1 fun x7 => if (((3 : Int32) * x4) * x7) ≤ a1 then some ((-1 : Int32), r) else lt (r.1.2.2 0 11) fun p8 => nn p8 fun p9 => dgi xLL r p9 2 1 fun x10 => nz x10 (lt ((a1 / (3 : Int32)) / x10) fun x11 => lt (r.1.2.2 0 11) fun p12 => nn p12 fun p13 => dgi xLL r p13 2 1 fun x14 => nz x14 (lt (jrem (a1 / (3 : Int32)) x14) fun x15 => lt (r.1.2.2 0 11) fun p16 => nn p16 fun p17 => dgr xLL r p17 2 2 fun p18 => nn p18 fun p19 => dar xLL r p19 x11 fun p20 => nn p20 fun p21 => dai xLL r p21 x15 fun x22 => if x22 = ((jrem a1 (3 : Int32)) - (1 : Int32)) then x_X1_mends_113 rec21 a1 r else cl (x_X1_isTotalWith x11 x15 ((jrem a1 (3 : Int32)) - (1 : Int32)) r) fun q23 => if q23.1 = 0 then x_X1_mends_113 rec21 a1 q23.2 else some ((((100 : Int32) * x11) + ((10 : Int32) * x15)) + (jrem a1 (3 : Int32)), q23.2)))
theorem x_X1_mends_21_s_ok {ms : xS} {rr : Int32 × xR} {rec21 : Int32 → xR → Option (Int32 × xR)} (hr21 : ∀ {a1 : Int32} {r : xR}, rec21 a1 r = some rr → xB xLL yX1_mends cX1_mends 4 (some .int) 8 3135 21 [some (.inr (.inr (some 300)) : xV), some (.inl (a1) : xV), none, none] [] (ms, r) (some (.inl rr.1)) (ms, rr.2)) {a1 : Int32} {r : xR} (h : x_X1_mends_21_s rec21 a1 r = some rr) : xB xLL yX1_mends cX1_mends 4 (some .int) 8 3135 21 [some (.inr (.inr (some 300)) : xV), some (.inl (a1) : xV), none, none] [] (ms, r) (some (.inl rr.1)) (ms, rr.2) := by
  refine x_iload_n (i := 1) 22 rfl dX1_mends_21 rfl rfl ?_
  refine x_iconst (3 : Int32) 23 rfl dX1_mends_22 rfl ?_
  refine x_aload_n (i := 0) 24 rfl dX1_mends_23 rfl rfl ?_
  refine q_get (k := 11) 27 rfl dX1_mends_24 (by decide) q453 rfl ?_
  refine x_ltr h (fun p2 h => ?_)
  refine x_nnP (P := fun p2 => xB xLL yX1_mends cX1_mends 4 (some .int) 8 3135 27 [some (.inr (.inr (some 300)) : xV), some (.inl (a1) : xV), none, none] [(.inr (.inr (p2)) : xV), (.inl ((3 : Int32)) : xV), (.inl (a1) : xV)] (ms, r) (some (.inl rr.1)) (ms, rr.2)) h (fun p3 h => ?_)
  refine d_getiN (ci := 2) (k := 0) (C := RX4) (T := TX4) (N := 3) 30 rfl dX1_mends_27 rfl in_X4 (by decide) (List.mem_of_getElem? (i := 5) rfl) h (fun x4 h => ?_)
  refine x_imul 31 rfl dX1_mends_30 ?_
  refine x_aload_n (i := 0) 32 rfl dX1_mends_31 rfl rfl ?_
  refine q_get (k := 11) 35 rfl dX1_mends_32 (by decide) q453 rfl ?_
  refine x_ltr h (fun p5 h => ?_)
  refine x_nnP (P := fun p5 => xB xLL yX1_mends cX1_mends 4 (some .int) 8 3135 35 [some (.inr (.inr (some 300)) : xV), some (.inl (a1) : xV), none, none] [(.inr (.inr (p5)) : xV), (.inl ((3 : Int32) * x4) : xV), (.inl (a1) : xV)] (ms, r) (some (.inl rr.1)) (ms, rr.2)) h (fun p6 h => ?_)
  refine d_getiN (ci := 2) (k := 1) (C := RX4) (T := TX4) (N := 3) 38 rfl dX1_mends_35 rfl in_X4 (by decide) (List.mem_of_getElem? (i := 7) rfl) h (fun x7 h => ?_)
  refine x_imul 39 rfl dX1_mends_38 ?_
  refine x_icmp_ge 119 42 rfl dX1_mends_39 rfl h (fun h => ?_) (fun h => ?_)
  · refine x_iconst (-1 : Int32) 120 rfl dX1_mends_119 rfl ?_
    cases h
    exact x_iret rfl dX1_mends_120
  · refine x_iload_n (i := 1) 43 rfl dX1_mends_42 rfl rfl ?_
    refine x_iconst (3 : Int32) 44 rfl dX1_mends_43 rfl ?_
    refine x_idiv 45 rfl dX1_mends_44 (by decide) ?_
    refine x_aload_n (i := 0) 46 rfl dX1_mends_45 rfl rfl ?_
    refine q_get (k := 11) 49 rfl dX1_mends_46 (by decide) q453 rfl ?_
    refine x_ltr h (fun p8 h => ?_)
    refine x_nnP (P := fun p8 => xB xLL yX1_mends cX1_mends 4 (some .int) 8 3135 49 [some (.inr (.inr (some 300)) : xV), some (.inl (a1) : xV), none, none] [(.inr (.inr (p8)) : xV), (.inl (a1 / (3 : Int32)) : xV)] (ms, r) (some (.inl rr.1)) (ms, rr.2)) h (fun p9 h => ?_)
    refine d_getiN (ci := 2) (k := 1) (C := RX4) (T := TX4) (N := 3) 52 rfl dX1_mends_49 rfl in_X4 (by decide) (List.mem_of_getElem? (i := 7) rfl) h (fun x10 h => ?_)
    refine x_nz h (fun hz h => ?_)
    refine x_idiv 53 rfl dX1_mends_52 hz ?_
    refine x_lti h (fun x11 h => ?_)
    refine x_istore_n 54 rfl dX1_mends_53 rfl (by decide) (lv' := [some (.inr (.inr (some 300)) : xV), some (.inl (a1) : xV), some (.inl (x11) : xV), none]) rfl ?_
    refine x_iload_n (i := 1) 55 rfl dX1_mends_54 rfl rfl ?_
    refine x_iconst (3 : Int32) 56 rfl dX1_mends_55 rfl ?_
    refine x_idiv 57 rfl dX1_mends_56 (by decide) ?_
    refine x_aload_n (i := 0) 58 rfl dX1_mends_57 rfl rfl ?_
    refine q_get (k := 11) 61 rfl dX1_mends_58 (by decide) q453 rfl ?_
    refine x_ltr h (fun p12 h => ?_)
    refine x_nnP (P := fun p12 => xB xLL yX1_mends cX1_mends 4 (some .int) 8 3135 61 [some (.inr (.inr (some 300)) : xV), some (.inl (a1) : xV), some (.inl (x11) : xV), none] [(.inr (.inr (p12)) : xV), (.inl (a1 / (3 : Int32)) : xV)] (ms, r) (some (.inl rr.1)) (ms, rr.2)) h (fun p13 h => ?_)
    refine d_getiN (ci := 2) (k := 1) (C := RX4) (T := TX4) (N := 3) 64 rfl dX1_mends_61 rfl in_X4 (by decide) (List.mem_of_getElem? (i := 7) rfl) h (fun x14 h => ?_)
    refine x_nz h (fun hz h => ?_)
    refine x_irem 65 rfl dX1_mends_64 hz ?_
    refine x_lti h (fun x15 h => ?_)
    refine x_istore_n 66 rfl dX1_mends_65 rfl (by decide) (lv' := [some (.inr (.inr (some 300)) : xV), some (.inl (a1) : xV), some (.inl (x11) : xV), some (.inl (x15) : xV)]) rfl ?_
    refine x_aload_n (i := 0) 67 rfl dX1_mends_66 rfl rfl ?_
    refine q_get (k := 11) 70 rfl dX1_mends_67 (by decide) q453 rfl ?_
    refine x_ltr h (fun p16 h => ?_)
    refine x_nnP (P := fun p16 => xB xLL yX1_mends cX1_mends 4 (some .int) 8 3135 70 [some (.inr (.inr (some 300)) : xV), some (.inl (a1) : xV), some (.inl (x11) : xV), some (.inl (x15) : xV)] [(.inr (.inr (p16)) : xV)] (ms, r) (some (.inl rr.1)) (ms, rr.2)) h (fun p17 h => ?_)
    refine d_getrN (ci := 2) (k := 2) (C := RX4) (T := TX4) (N := 3) 73 rfl dX1_mends_70 rfl in_X4 (by decide) (List.mem_of_getElem? (i := 9) rfl) h (fun p18 h => ?_)
    refine x_iload_n (i := 2) 74 rfl dX1_mends_73 rfl rfl ?_
    refine x_nnP (P := fun p18 => xB xLL yX1_mends cX1_mends 4 (some .int) 8 3135 74 [some (.inr (.inr (some 300)) : xV), some (.inl (a1) : xV), some (.inl (x11) : xV), some (.inl (x15) : xV)] [(.inl (x11) : xV), (.inr (.inr (p18)) : xV)] (ms, r) (some (.inl rr.1)) (ms, rr.2)) h (fun p19 h => ?_)
    refine d_aald 75 rfl dX1_mends_74 h (fun p20 h => ?_)
    refine x_iload_n (i := 3) 76 rfl dX1_mends_75 rfl rfl ?_
    refine x_nnP (P := fun p20 => xB xLL yX1_mends cX1_mends 4 (some .int) 8 3135 76 [some (.inr (.inr (some 300)) : xV), some (.inl (a1) : xV), some (.inl (x11) : xV), some (.inl (x15) : xV)] [(.inl (x15) : xV), (.inr (.inr (p20)) : xV)] (ms, r) (some (.inl rr.1)) (ms, rr.2)) h (fun p21 h => ?_)
    refine d_iald 77 rfl dX1_mends_76 h (fun x22 h => ?_)
    refine x_iload_n (i := 1) 78 rfl dX1_mends_77 rfl rfl ?_
    refine x_iconst (3 : Int32) 79 rfl dX1_mends_78 rfl ?_
    refine x_irem 80 rfl dX1_mends_79 (by decide) ?_
    refine x_iconst (1 : Int32) 81 rfl dX1_mends_80 rfl ?_
    refine x_isub 82 rfl dX1_mends_81 ?_
    refine x_icmp_eq 113 85 rfl dX1_mends_82 rfl h (fun h => ?_) (fun h => ?_)
    · exact xB.le (xle.s (xle.s (xle.n (xle.n xle.z)))) (x_X1_mends_113_ok hr21 h)
    · refine x_aload_n (i := 0) 86 rfl dX1_mends_85 rfl rfl ?_
      refine x_iload_n (i := 2) 87 rfl dX1_mends_86 rfl rfl ?_
      refine x_iload_n (i := 3) 88 rfl dX1_mends_87 rfl rfl ?_
      refine x_iload_n (i := 1) 89 rfl dX1_mends_88 rfl rfl ?_
      refine x_iconst (3 : Int32) 90 rfl dX1_mends_89 rfl ?_
      refine x_irem 91 rfl dX1_mends_90 (by decide) ?_
      refine x_iconst (1 : Int32) 92 rfl dX1_mends_91 rfl ?_
      refine x_isub 93 rfl dX1_mends_92 ?_
      refine x_cl h (fun q23 hq h => ?_)
      refine x_callV (as := [(.inl (x11) : xV), (.inl (x15) : xV), (.inl ((jrem a1 (3 : Int32)) - (1 : Int32)) : xV)]) (rest := []) (vv := (some (.inl (q23.1) : xV))) (w2 := (ms, q23.2)) (C := RX1) (T := TX1) (N := 34) 96 rfl dX1_mends_93 (x_X1_isTotalWith_ct hq) (Or.inl xcell_X0) rfl (lw_V q1698 q1700 qs57 q118 q1701) rfl ydX1_isTotalWith rfl ⟨Nat.le_of_ble_eq_true rfl, Nat.le_of_ble_eq_true rfl⟩ (Nat.le_of_ble_eq_true rfl) rfl ?_
      change xB xLL yX1_mends cX1_mends 4 (some .int) 8 3135 96 [some (.inr (.inr (some 300)) : xV), some (.inl (a1) : xV), some (.inl (x11) : xV), some (.inl (x15) : xV)] [(.inl (q23.1) : xV)] (ms, q23.2) _ _
      refine x_if_eq 113 99 rfl dX1_mends_96 rfl h (fun h => ?_) (fun h => ?_)
      · exact xB.le (xle.s (xle.s (xle.n (xle.n xle.z)))) (x_X1_mends_113_ok hr21 h)
      · refine x_bipush (100 : Int32) 101 rfl dX1_mends_99 rfl ?_
        refine x_iload_n (i := 2) 102 rfl dX1_mends_101 rfl rfl ?_
        refine x_imul 103 rfl dX1_mends_102 ?_
        refine x_bipush (10 : Int32) 105 rfl dX1_mends_103 rfl ?_
        refine x_iload_n (i := 3) 106 rfl dX1_mends_105 rfl rfl ?_
        refine x_imul 107 rfl dX1_mends_106 ?_
        refine x_iadd 108 rfl dX1_mends_107 ?_
        refine x_iload_n (i := 1) 109 rfl dX1_mends_108 rfl rfl ?_
        refine x_iconst (3 : Int32) 110 rfl dX1_mends_109 rfl ?_
        refine x_irem 111 rfl dX1_mends_110 (by decide) ?_
        refine x_iadd 112 rfl dX1_mends_111 ?_
        cases h
        exact x_iret rfl dX1_mends_112
def x_X1_mends_21_L : Nat → Int32 → xR → Option (Int32 × xR)
  | 0 => fun _ _ => none
  | n + 1 => x_X1_mends_21_s (x_X1_mends_21_L  n)
theorem x_X1_mends_21_L_ok {ms : xS} {rr : Int32 × xR} : ∀ (n9 : Nat) {a1 : Int32} {r : xR}, x_X1_mends_21_L  n9 a1 r = some rr → xB xLL yX1_mends cX1_mends 4 (some .int) 8 3135 21 [some (.inr (.inr (some 300)) : xV), some (.inl (a1) : xV), none, none] [] (ms, r) (some (.inl rr.1)) (ms, rr.2)
  | 0, _, _, h => by cases h
  | n9 + 1, _, _, h => x_X1_mends_21_s_ok (x_X1_mends_21_L_ok  n9) h
def x_X1_mends (r : xR) : Option (Int32 × xR) := lt (r.1.2.2 0 11) fun p24 => nu p24 (some ((-1 : Int32), r)) fun p25 => cl (x_X1_isTotalNow r) fun q26 => if q26.1 = 0 then lt ((0 : Int32)) fun x27 => x_X1_mends_21_L xFU x27 q26.2 else some ((-1000000 : Int32), q26.2)
theorem x_X1_mends_ct {ms : xS} {rr : Int32 × xR} {r : xR} (h : x_X1_mends r = some rr) : xCt xLL yX1_mends cX1_mends 4 (some .int) 8 3135 [(.inr (.inr (some 300)) : xV)] (ms, r) (some (.inl rr.1)) (ms, rr.2) := by
  refine xCt.of (lv := [some (.inr (.inr (some 300)) : xV), none, none, none]) pl_X1 (Nat.le_of_ble_eq_true rfl) (xle.s (xle.m (xle.m (xle.m xle.z)))) ?_
  refine x_aload_n (i := 0) 1 rfl dX1_mends_0 rfl rfl ?_
  refine q_get (k := 11) 4 rfl dX1_mends_1 (by decide) q453 rfl ?_
  refine x_ltr h (fun p24 h => ?_)
  refine x_nnlP (lv := fun p24 => [some (.inr (.inr (some 300)) : xV), none, none, none]) (st := fun p24 => []) 9 7 rfl dX1_mends_4 rfl h (fun p25 h => ?_) (fun h => ?_)
  · refine x_aload_n (i := 0) 10 rfl dX1_mends_9 rfl rfl ?_
    refine x_cl h (fun q26 hq h => ?_)
    refine x_callV (as := []) (rest := []) (vv := (some (.inl (q26.1) : xV))) (w2 := (ms, q26.2)) (C := RX1) (T := TX1) (N := 34) 13 rfl dX1_mends_10 (x_X1_isTotalNow_ct hq) (Or.inl xcell_X0) rfl (lw_V q867 q869 qs24 q118 q870) rfl ydX1_isTotalNow rfl ⟨Nat.le_of_ble_eq_true rfl, Nat.le_of_ble_eq_true rfl⟩ (Nat.le_of_ble_eq_true rfl) rfl ?_
    change xB xLL yX1_mends cX1_mends 4 (some .int) 8 3135 13 [some (.inr (.inr (some 300)) : xV), none, none, none] [(.inl (q26.1) : xV)] (ms, q26.2) _ _
    refine x_if_eq 19 16 rfl dX1_mends_13 rfl h (fun h => ?_) (fun h => ?_)
    · refine x_iconst (0 : Int32) 20 rfl dX1_mends_19 rfl ?_
      refine x_lti h (fun x27 h => ?_)
      refine x_istore_n 21 rfl dX1_mends_20 rfl (by decide) (lv' := [some (.inr (.inr (some 300)) : xV), some (.inl (x27) : xV), none, none]) rfl ?_
      exact xB.le (xle.s (xle.s (xle.n (xle.n xle.z)))) (x_X1_mends_21_L_ok xFU h)
    · refine x_ldc 18 rfl dX1_mends_16 q657 ?_
      cases h
      exact x_iret rfl dX1_mends_18
  · refine x_iconst (-1 : Int32) 8 rfl dX1_mends_7 rfl ?_
    cases h
    exact x_iret rfl dX1_mends_8
