set_option maxRecDepth 100000
/-! java/util/BitSet.wordIndex(I)I -/
theorem ydJ6_wordIndex : xHd yJ6_wordIndex 1 := by decide +kernel
def p_J6_wordIndex (a0 : Int32) : Option (Int32) := some (jshr a0 (6 : Int32))
theorem p_J6_wordIndex_ct {L : xL} {w : xW} {rr : Int32} {a0 : Int32} (h : p_J6_wordIndex a0 = some rr) : xCt L yJ6_wordIndex cJ6_wordIndex 1 (some .int) 0 0 [(.inl (a0) : xV)] w (some (.inl rr)) w := by
  refine xCt.of (lv := [some (.inl (a0) : xV)]) pl_J6 (Nat.le_of_ble_eq_true rfl) (xle.s xle.z) ?_
  refine x_iload_n (i := 0) 1 rfl dJ6_wordIndex_0 rfl rfl ?_
  refine x_bipush (6 : Int32) 3 rfl dJ6_wordIndex_1 rfl ?_
  refine x_ishr 4 rfl dJ6_wordIndex_3 ?_
  cases h
  exact x_iret rfl dJ6_wordIndex_4
/-! java/lang/Long.numberOfTrailingZeros(J)I -/
theorem ydJ19_numberOfTrailingZeros : xHd yJ19_numberOfTrailingZeros 1 := by decide +kernel
def p_J19_numberOfTrailingZeros (a0 : Int64) : Option (Int32) := lt (a0.toInt32) fun x1 => if x1 = 0 then cl (p_J18_numberOfTrailingZeros ((jlushr a0 (32 : Int32)).toInt32)) fun q3 => some ((32 : Int32) + q3) else cl (p_J18_numberOfTrailingZeros x1) fun q2 => some (q2)
theorem p_J19_numberOfTrailingZeros_ct {L : xL} {w : xW} {rr : Int32} {a0 : Int64} (h : p_J19_numberOfTrailingZeros a0 = some rr) : xCt L yJ19_numberOfTrailingZeros cJ19_numberOfTrailingZeros 3 (some .int) 1 21 [(.inr (.inl (a0)) : xV)] w (some (.inl rr)) w := by
  refine xCt.of (lv := [some (.inr (.inl (a0)) : xV), none, none]) pl_J19 (Nat.le_of_ble_eq_true rfl) (xle.s (xle.n (xle.m xle.z))) ?_
  refine x_lload_n (i := 0) 1 rfl dJ19_numberOfTrailingZeros_0 rfl rfl ?_
  refine x_l2i 2 rfl dJ19_numberOfTrailingZeros_1 ?_
  refine x_lti h (fun x1 h => ?_)
  refine x_istore_n 3 rfl dJ19_numberOfTrailingZeros_2 rfl (by decide) (lv' := [some (.inr (.inl (a0)) : xV), none, some (.inl (x1) : xV)]) rfl ?_
  refine x_iload_n (i := 2) 4 rfl dJ19_numberOfTrailingZeros_3 rfl rfl ?_
  refine x_if_ne 21 7 rfl dJ19_numberOfTrailingZeros_4 rfl h (fun h => ?_) (fun h => ?_)
  · refine x_iload_n (i := 2) 22 rfl dJ19_numberOfTrailingZeros_21 rfl rfl ?_
    refine x_cl h (fun q2 hq h => ?_)
    refine x_callSi [] 25 rfl dJ19_numberOfTrailingZeros_22 (p_J18_numberOfTrailingZeros_ct hq) (lw_S q938 q837 q142 q838) ydJ18_numberOfTrailingZeros rfl ⟨Nat.le_of_ble_eq_true rfl, Nat.le_of_ble_eq_true rfl⟩ (Nat.le_of_ble_eq_true rfl) rfl ?_
    cases h
    exact x_iret rfl dJ19_numberOfTrailingZeros_25
  · refine x_bipush (32 : Int32) 9 rfl dJ19_numberOfTrailingZeros_7 rfl ?_
    refine x_lload_n (i := 0) 10 rfl dJ19_numberOfTrailingZeros_9 rfl rfl ?_
    refine x_bipush (32 : Int32) 12 rfl dJ19_numberOfTrailingZeros_10 rfl ?_
    refine x_lushr 13 rfl dJ19_numberOfTrailingZeros_12 ?_
    refine x_l2i 14 rfl dJ19_numberOfTrailingZeros_13 ?_
    refine x_cl h (fun q3 hq h => ?_)
    refine x_callSi [(.inl ((32 : Int32)) : xV)] 17 rfl dJ19_numberOfTrailingZeros_14 (p_J18_numberOfTrailingZeros_ct hq) (lw_S q938 q837 q142 q838) ydJ18_numberOfTrailingZeros rfl ⟨Nat.le_of_ble_eq_true rfl, Nat.le_of_ble_eq_true rfl⟩ (Nat.le_of_ble_eq_true rfl) rfl ?_
    refine x_iadd 18 rfl dJ19_numberOfTrailingZeros_17 ?_
    refine x_goto 25 dJ19_numberOfTrailingZeros_18 rfl ?_
    cases h
    exact x_iret rfl dJ19_numberOfTrailingZeros_25
/-! java/util/BitSet.nextSetBit(I)I -/
theorem ydJ6_nextSetBit : xHd yJ6_nextSetBit 1 := by decide +kernel
def x_J6_nextSetBit_63_s (rec63 : Nat → Int32 → Int64 → xR → Option (Int32 × xR)) (a0 : Nat) (a2 : Int32) (a3 : Int64) (r : xR) : Option (Int32 × xR) := if (lg_cmp a3 (0 : Int64)) = 0 then lt (a2 + (1 : Int32)) fun x1 => bok a0 <| if x1 = (r.1.1 a0 1) then some ((-1 : Int32), r) else bok a0 <| blr r a0 x1 fun x2 => rec63 a0 x1 x2 r else cl (p_J19_numberOfTrailingZeros a3) fun q3 => some ((a2 * (64 : Int32)) + q3, r)
theorem x_J6_nextSetBit_63_s_ok {ms : xS} {rr : Int32 × xR} {rec63 : Nat → Int32 → Int64 → xR → Option (Int32 × xR)} (hr63 : ∀ {a0 : Nat} {a2 : Int32} {a3 : Int64} {r : xR}, rec63 a0 a2 a3 r = some rr → xB xLL yJ6_nextSetBit cJ6_nextSetBit 5 (some .int) 2 43 63 [some (.inr (.inr (some (300 + a0))) : xV), none, some (.inl (a2) : xV), some (.inr (.inl (a3)) : xV), none] [] (ms, r) (some (.inl rr.1)) (ms, rr.2)) {a0 : Nat} {a2 : Int32} {a3 : Int64} {r : xR} (h : x_J6_nextSetBit_63_s rec63 a0 a2 a3 r = some rr) : xB xLL yJ6_nextSetBit cJ6_nextSetBit 5 (some .int) 2 43 63 [some (.inr (.inr (some (300 + a0))) : xV), none, some (.inl (a2) : xV), some (.inr (.inl (a3)) : xV), none] [] (ms, r) (some (.inl rr.1)) (ms, rr.2) := by
  refine x_lload_n (i := 3) 64 rfl dJ6_nextSetBit_63 rfl rfl ?_
  refine x_lconst (0 : Int64) 65 rfl dJ6_nextSetBit_64 rfl ?_
  refine x_lcmp 66 rfl dJ6_nextSetBit_65 ?_
  refine x_if_eq 79 69 rfl dJ6_nextSetBit_66 rfl h (fun h => ?_) (fun h => ?_)
  · refine x_iincL (i := 2) (1 : Int32) 82 rfl dJ6_nextSetBit_79 rfl rfl (by decide) h (fun x1 h => ?_)
    change xB xLL yJ6_nextSetBit cJ6_nextSetBit 5 (some .int) 2 43 82 [some (.inr (.inr (some (300 + a0))) : xV), none, some (.inl (x1) : xV), some (.inr (.inl (a3)) : xV), none] [] (ms, r) _ _
    refine x_iload_n (i := 2) 83 rfl dJ6_nextSetBit_82 rfl rfl ?_
    refine x_aload_n (i := 0) 84 rfl dJ6_nextSetBit_83 rfl rfl ?_
    refine x_bok h (fun hb h => ?_)
    refine b_get (k := 1) 87 rfl dJ6_nextSetBit_84 (by decide) q284 hb rfl ?_
    refine x_icmp_ne 92 90 rfl dJ6_nextSetBit_87 rfl h (fun h => ?_) (fun h => ?_)
    · refine x_aload_n (i := 0) 93 rfl dJ6_nextSetBit_92 rfl rfl ?_
      refine x_bok h (fun hb h => ?_)
      refine b_get (k := 0) 96 rfl dJ6_nextSetBit_93 (by decide) q283 hb rfl ?_
      refine x_iload_n (i := 2) 97 rfl dJ6_nextSetBit_96 rfl rfl ?_
      refine b_lald 98 rfl dJ6_nextSetBit_97 h (fun x2 h => ?_)
      refine x_lstore_n 99 rfl dJ6_nextSetBit_98 rfl (by decide) (lv' := [some (.inr (.inr (some (300 + a0))) : xV), none, some (.inl (x1) : xV), some (.inr (.inl (x2)) : xV), none]) rfl ?_
      refine x_goto 63 dJ6_nextSetBit_99 rfl ?_
      exact xB.le (xle.s (xle.n (xle.s (xle.s (xle.n xle.z))))) (hr63 h)
    · refine x_iconst (-1 : Int32) 91 rfl dJ6_nextSetBit_90 rfl ?_
      cases h
      exact x_iret rfl dJ6_nextSetBit_91
  · refine x_iload_n (i := 2) 70 rfl dJ6_nextSetBit_69 rfl rfl ?_
    refine x_bipush (64 : Int32) 72 rfl dJ6_nextSetBit_70 rfl ?_
    refine x_imul 73 rfl dJ6_nextSetBit_72 ?_
    refine x_lload_n (i := 3) 74 rfl dJ6_nextSetBit_73 rfl rfl ?_
    refine x_cl h (fun q3 hq h => ?_)
    refine x_callS (as := [(.inr (.inl (a3)) : xV)]) (rest := [(.inl (a2 * (64 : Int32)) : xV)]) (vv := (some (.inl (q3) : xV))) (w2 := (ms, r)) 77 rfl dJ6_nextSetBit_74 (p_J19_numberOfTrailingZeros_ct hq) (lw_S q935 q936 q143 q937) ydJ19_numberOfTrailingZeros rfl ⟨Nat.le_of_ble_eq_true rfl, Nat.le_of_ble_eq_true rfl⟩ (Nat.le_of_ble_eq_true rfl) rfl ?_
    change xB xLL yJ6_nextSetBit cJ6_nextSetBit 5 (some .int) 2 43 77 [some (.inr (.inr (some (300 + a0))) : xV), none, some (.inl (a2) : xV), some (.inr (.inl (a3)) : xV), none] [(.inl (q3) : xV), (.inl (a2 * (64 : Int32)) : xV)] (ms, r) _ _
    refine x_iadd 78 rfl dJ6_nextSetBit_77 ?_
    cases h
    exact x_iret rfl dJ6_nextSetBit_78
def x_J6_nextSetBit_63_L : Nat → Nat → Int32 → Int64 → xR → Option (Int32 × xR)
  | 0 => fun _ _ _ _ => none
  | n + 1 => x_J6_nextSetBit_63_s (x_J6_nextSetBit_63_L  n)
theorem x_J6_nextSetBit_63_L_ok {ms : xS} {rr : Int32 × xR} : ∀ (n9 : Nat) {a0 : Nat} {a2 : Int32} {a3 : Int64} {r : xR}, x_J6_nextSetBit_63_L  n9 a0 a2 a3 r = some rr → xB xLL yJ6_nextSetBit cJ6_nextSetBit 5 (some .int) 2 43 63 [some (.inr (.inr (some (300 + a0))) : xV), none, some (.inl (a2) : xV), some (.inr (.inl (a3)) : xV), none] [] (ms, r) (some (.inl rr.1)) (ms, rr.2)
  | 0, _, _, _, _, h => by cases h
  | n9 + 1, _, _, _, _, h => x_J6_nextSetBit_63_s_ok (x_J6_nextSetBit_63_L_ok  n9) h
def x_J6_nextSetBit (a0 : Nat) (a1 : Int32) (r : xR) : Option (Int32 × xR) := if 0 ≤ a1 then bok a0 <| cl (x_J6_checkInvariants a0 r) fun q4 => cl (p_J6_wordIndex a1) fun q5 => bok a0 <| if q5 < (q4.1.1 a0 1) then bok a0 <| blr q4 a0 q5 fun x6 => lt (x6 &&& (jlshl (-1 : Int64) a1)) fun x7 => x_J6_nextSetBit_63_L xFU a0 q5 x7 q4 else some ((-1 : Int32), q4) else none
theorem x_J6_nextSetBit_ct {ms : xS} {rr : Int32 × xR} {a0 : Nat} {a1 : Int32} {r : xR} (h : x_J6_nextSetBit a0 a1 r = some rr) : xCt xLL yJ6_nextSetBit cJ6_nextSetBit 5 (some .int) 2 43 [(.inr (.inr (some (300 + a0))) : xV), (.inl (a1) : xV)] (ms, r) (some (.inl rr.1)) (ms, rr.2) := by
  refine xCt.of (lv := [some (.inr (.inr (some (300 + a0))) : xV), some (.inl (a1) : xV), none, none, none]) pl_J6 (Nat.le_of_ble_eq_true rfl) (xle.s (xle.s (xle.m (xle.m (xle.m xle.z))))) ?_
  refine x_iload_n (i := 1) 1 rfl dJ6_nextSetBit_0 rfl rfl ?_
  refine x_if_ge 31 4 rfl dJ6_nextSetBit_1 rfl h (fun h => ?_) (fun h => ?_)
  · refine x_aload_n (i := 0) 32 rfl dJ6_nextSetBit_31 rfl rfl ?_
    refine x_bok h (fun hb h => ?_)
    refine x_cl h (fun q4 hq h => ?_)
    refine x_callV (as := []) (rest := []) (vv := none) (w2 := (ms, q4)) (C := RJ6) (T := TJ6) (N := 3) 35 rfl dJ6_nextSetBit_32 (x_J6_checkInvariants_ct hq) (Or.inl (xcell_XB hb).1) rfl (lw_V q928 q930 qs32 q127 q931) rfl ydJ6_checkInvariants rfl ⟨Nat.le_of_ble_eq_true rfl, Nat.le_of_ble_eq_true rfl⟩ (Nat.le_of_ble_eq_true rfl) rfl ?_
    change xB xLL yJ6_nextSetBit cJ6_nextSetBit 5 (some .int) 2 43 35 [some (.inr (.inr (some (300 + a0))) : xV), some (.inl (a1) : xV), none, none, none] [] (ms, q4) _ _
    refine x_iload_n (i := 1) 36 rfl dJ6_nextSetBit_35 rfl rfl ?_
    refine x_cl h (fun q5 hq h => ?_)
    refine x_callS (as := [(.inl (a1) : xV)]) (rest := []) (vv := (some (.inl (q5) : xV))) (w2 := (ms, q4)) 39 rfl dJ6_nextSetBit_36 (p_J6_wordIndex_ct hq) (lw_S q280 q281 q127 q282) ydJ6_wordIndex rfl ⟨Nat.le_of_ble_eq_true rfl, Nat.le_of_ble_eq_true rfl⟩ (Nat.le_of_ble_eq_true rfl) rfl ?_
    change xB xLL yJ6_nextSetBit cJ6_nextSetBit 5 (some .int) 2 43 39 [some (.inr (.inr (some (300 + a0))) : xV), some (.inl (a1) : xV), none, none, none] [(.inl (q5) : xV)] (ms, q4) _ _
    refine x_istore_n 40 rfl dJ6_nextSetBit_39 rfl (by decide) (lv' := [some (.inr (.inr (some (300 + a0))) : xV), some (.inl (a1) : xV), some (.inl (q5) : xV), none, none]) rfl ?_
    refine x_iload_n (i := 2) 41 rfl dJ6_nextSetBit_40 rfl rfl ?_
    refine x_aload_n (i := 0) 42 rfl dJ6_nextSetBit_41 rfl rfl ?_
    refine x_bok h (fun hb h => ?_)
    refine b_get (k := 1) 45 rfl dJ6_nextSetBit_42 (by decide) q284 hb rfl ?_
    refine x_icmp_lt 50 48 rfl dJ6_nextSetBit_45 rfl h (fun h => ?_) (fun h => ?_)
    · refine x_aload_n (i := 0) 51 rfl dJ6_nextSetBit_50 rfl rfl ?_
      refine x_bok h (fun hb h => ?_)
      refine b_get (k := 0) 54 rfl dJ6_nextSetBit_51 (by decide) q283 hb rfl ?_
      refine x_iload_n (i := 2) 55 rfl dJ6_nextSetBit_54 rfl rfl ?_
      refine b_lald 56 rfl dJ6_nextSetBit_55 h (fun x6 h => ?_)
      refine x_ldc2 59 rfl dJ6_nextSetBit_56 q934 ?_
      refine x_iload_n (i := 1) 60 rfl dJ6_nextSetBit_59 rfl rfl ?_
      refine x_lshl 61 rfl dJ6_nextSetBit_60 ?_
      refine x_land 62 rfl dJ6_nextSetBit_61 ?_
      refine x_ltl h (fun x7 h => ?_)
      refine x_lstore_n 63 rfl dJ6_nextSetBit_62 rfl (by decide) (lv' := [some (.inr (.inr (some (300 + a0))) : xV), some (.inl (a1) : xV), some (.inl (q5) : xV), some (.inr (.inl (x7)) : xV), none]) rfl ?_
      exact xB.le (xle.s (xle.n (xle.s (xle.s (xle.n xle.z))))) (x_J6_nextSetBit_63_L_ok xFU h)
    · refine x_iconst (-1 : Int32) 49 rfl dJ6_nextSetBit_48 rfl ?_
      cases h
      exact x_iret rfl dJ6_nextSetBit_49
  · cases h
/-! UnimodularTables$Growth.setAt(I)I -/
theorem ydX3_setAt : xHd yX3_setAt 1 := by decide +kernel
def x_X3_setAt_13_s (rec13 : Nat → Int32 → Int32 → Int32 → xR → Option (Int32 × xR)) (a0 : Nat) (a1 : Int32) (a2 : Int32) (a3 : Int32) (r : xR) : Option (Int32 × xR) := if a3 < 0 then some (a2, r) else lt (a2 ||| (jshl (1 : Int32) a3)) fun x1 => gok a0 <| gok a0 <| ix a1 7 fun _ => bok (16 + 18 * a0 + 2 * a1.toNatClampNeg) <| cl (x_J6_nextSetBit (16 + 18 * a0 + 2 * a1.toNatClampNeg) (a3 + (1 : Int32)) r) fun q3 => rec13 a0 a1 x1 q3.1 q3.2
theorem x_X3_setAt_13_s_ok {ms : xS} {rr : Int32 × xR} {rec13 : Nat → Int32 → Int32 → Int32 → xR → Option (Int32 × xR)} (hr13 : ∀ {a0 : Nat} {a1 : Int32} {a2 : Int32} {a3 : Int32} {r : xR}, rec13 a0 a1 a2 a3 r = some rr → xB xLL yX3_setAt cX3_setAt 4 (some .int) 3 67 13 [some (.inr (.inr (some (312 + 18 * a0))) : xV), some (.inl (a1) : xV), some (.inl (a2) : xV), some (.inl (a3) : xV)] [] (ms, r) (some (.inl rr.1)) (ms, rr.2)) {a0 : Nat} {a1 : Int32} {a2 : Int32} {a3 : Int32} {r : xR} (h : x_X3_setAt_13_s rec13 a0 a1 a2 a3 r = some rr) : xB xLL yX3_setAt cX3_setAt 4 (some .int) 3 67 13 [some (.inr (.inr (some (312 + 18 * a0))) : xV), some (.inl (a1) : xV), some (.inl (a2) : xV), some (.inl (a3) : xV)] [] (ms, r) (some (.inl rr.1)) (ms, rr.2) := by
  refine x_iload_n (i := 3) 14 rfl dX3_setAt_13 rfl rfl ?_
  refine x_if_lt 39 17 rfl dX3_setAt_14 rfl h (fun h => ?_) (fun h => ?_)
  · refine x_iload_n (i := 2) 40 rfl dX3_setAt_39 rfl rfl ?_
    cases h
    exact x_iret rfl dX3_setAt_40
  · refine x_iload_n (i := 2) 18 rfl dX3_setAt_17 rfl rfl ?_
    refine x_iconst (1 : Int32) 19 rfl dX3_setAt_18 rfl ?_
    refine x_iload_n (i := 3) 20 rfl dX3_setAt_19 rfl rfl ?_
    refine x_ishl 21 rfl dX3_setAt_20 ?_
    refine x_ior 22 rfl dX3_setAt_21 ?_
    refine x_lti h (fun x1 h => ?_)
    refine x_istore_n 23 rfl dX3_setAt_22 rfl (by decide) (lv' := [some (.inr (.inr (some (312 + 18 * a0))) : xV), some (.inl (a1) : xV), some (.inl (x1) : xV), some (.inl (a3) : xV)]) rfl ?_
    refine x_aload_n (i := 0) 24 rfl dX3_setAt_23 rfl rfl ?_
    refine x_gok h (fun hg h => ?_)
    refine g_get (k := 2) 27 rfl dX3_setAt_24 (by decide) q298 hg rfl ?_
    refine x_iload_n (i := 1) 28 rfl dX3_setAt_27 rfl rfl ?_
    refine x_gok h (fun hg h => ?_)
    refine x_ix h (fun hi h => ?_)
    refine q_ends hg hi 29 rfl dX3_setAt_28 ?_
    refine x_iload_n (i := 3) 30 rfl dX3_setAt_29 rfl rfl ?_
    refine x_iconst (1 : Int32) 31 rfl dX3_setAt_30 rfl ?_
    refine x_iadd 32 rfl dX3_setAt_31 ?_
    refine x_bok h (fun hb h => ?_)
    refine x_cl h (fun q3 hq h => ?_)
    refine x_callV (as := [(.inl (a3 + (1 : Int32)) : xV)]) (rest := []) (vv := (some (.inl (q3.1) : xV))) (w2 := (ms, q3.2)) (C := RJ6) (T := TJ6) (N := 3) 35 rfl dX3_setAt_32 (x_J6_nextSetBit_ct hq) (Or.inl (xcell_XB hb).1) rfl (lw_V q924 q925 q926 q127 q927) rfl ydJ6_nextSetBit rfl ⟨Nat.le_of_ble_eq_true rfl, Nat.le_of_ble_eq_true rfl⟩ (Nat.le_of_ble_eq_true rfl) rfl ?_
    change xB xLL yX3_setAt cX3_setAt 4 (some .int) 3 67 35 [some (.inr (.inr (some (312 + 18 * a0))) : xV), some (.inl (a1) : xV), some (.inl (x1) : xV), some (.inl (a3) : xV)] [(.inl (q3.1) : xV)] (ms, q3.2) _ _
    refine x_istore_n 36 rfl dX3_setAt_35 rfl (by decide) (lv' := [some (.inr (.inr (some (312 + 18 * a0))) : xV), some (.inl (a1) : xV), some (.inl (x1) : xV), some (.inl (q3.1) : xV)]) rfl ?_
    refine x_goto 13 dX3_setAt_36 rfl ?_
    exact xB.le (xle.s (xle.s (xle.s (xle.s xle.z)))) (hr13 h)
def x_X3_setAt_13_L : Nat → Nat → Int32 → Int32 → Int32 → xR → Option (Int32 × xR)
  | 0 => fun _ _ _ _ _ => none
  | n + 1 => x_X3_setAt_13_s (x_X3_setAt_13_L  n)
theorem x_X3_setAt_13_L_ok {ms : xS} {rr : Int32 × xR} : ∀ (n9 : Nat) {a0 : Nat} {a1 : Int32} {a2 : Int32} {a3 : Int32} {r : xR}, x_X3_setAt_13_L  n9 a0 a1 a2 a3 r = some rr → xB xLL yX3_setAt cX3_setAt 4 (some .int) 3 67 13 [some (.inr (.inr (some (312 + 18 * a0))) : xV), some (.inl (a1) : xV), some (.inl (a2) : xV), some (.inl (a3) : xV)] [] (ms, r) (some (.inl rr.1)) (ms, rr.2)
  | 0, _, _, _, _, _, h => by cases h
  | n9 + 1, _, _, _, _, _, h => x_X3_setAt_13_s_ok (x_X3_setAt_13_L_ok  n9) h
def x_X3_setAt (a0 : Nat) (a1 : Int32) (r : xR) : Option (Int32 × xR) := lt ((0 : Int32)) fun x4 => gok a0 <| gok a0 <| ix a1 7 fun _ => bok (16 + 18 * a0 + 2 * a1.toNatClampNeg) <| cl (x_J6_nextSetBit (16 + 18 * a0 + 2 * a1.toNatClampNeg) (0 : Int32) r) fun q6 => x_X3_setAt_13_L xFU a0 a1 x4 q6.1 q6.2
theorem x_X3_setAt_ct {ms : xS} {rr : Int32 × xR} {a0 : Nat} {a1 : Int32} {r : xR} (h : x_X3_setAt a0 a1 r = some rr) : xCt xLL yX3_setAt cX3_setAt 4 (some .int) 3 67 [(.inr (.inr (some (312 + 18 * a0))) : xV), (.inl (a1) : xV)] (ms, r) (some (.inl rr.1)) (ms, rr.2) := by
  refine xCt.of (lv := [some (.inr (.inr (some (312 + 18 * a0))) : xV), some (.inl (a1) : xV), none, none]) pl_X3 (Nat.le_of_ble_eq_true rfl) (xle.s (xle.s (xle.m (xle.m xle.z)))) ?_
  refine x_iconst (0 : Int32) 1 rfl dX3_setAt_0 rfl ?_
  refine x_lti h (fun x4 h => ?_)
  refine x_istore_n 2 rfl dX3_setAt_1 rfl (by decide) (lv' := [some (.inr (.inr (some (312 + 18 * a0))) : xV), some (.inl (a1) : xV), some (.inl (x4) : xV), none]) rfl ?_
  refine x_aload_n (i := 0) 3 rfl dX3_setAt_2 rfl rfl ?_
  refine x_gok h (fun hg h => ?_)
  refine g_get (k := 2) 6 rfl dX3_setAt_3 (by decide) q298 hg rfl ?_
  refine x_iload_n (i := 1) 7 rfl dX3_setAt_6 rfl rfl ?_
  refine x_gok h (fun hg h => ?_)
  refine x_ix h (fun hi h => ?_)
  refine q_ends hg hi 8 rfl dX3_setAt_7 ?_
  refine x_iconst (0 : Int32) 9 rfl dX3_setAt_8 rfl ?_
  refine x_bok h (fun hb h => ?_)
  refine x_cl h (fun q6 hq h => ?_)
  refine x_callV (as := [(.inl ((0 : Int32)) : xV)]) (rest := []) (vv := (some (.inl (q6.1) : xV))) (w2 := (ms, q6.2)) (C := RJ6) (T := TJ6) (N := 3) 12 rfl dX3_setAt_9 (x_J6_nextSetBit_ct hq) (Or.inl (xcell_XB hb).1) rfl (lw_V q924 q925 q926 q127 q927) rfl ydJ6_nextSetBit rfl ⟨Nat.le_of_ble_eq_true rfl, Nat.le_of_ble_eq_true rfl⟩ (Nat.le_of_ble_eq_true rfl) rfl ?_
  change xB xLL yX3_setAt cX3_setAt 4 (some .int) 3 67 12 [some (.inr (.inr (some (312 + 18 * a0))) : xV), some (.inl (a1) : xV), some (.inl (x4) : xV), none] [(.inl (q6.1) : xV)] (ms, q6.2) _ _
  refine x_istore_n 13 rfl dX3_setAt_12 rfl (by decide) (lv' := [some (.inr (.inr (some (312 + 18 * a0))) : xV), some (.inl (a1) : xV), some (.inl (x4) : xV), some (.inl (q6.1) : xV)]) rfl ?_
  exact xB.le (xle.s (xle.s (xle.s (xle.s xle.z)))) (x_X3_setAt_13_L_ok xFU h)
/-! java/util/BitSet.recalculateWordsInUse()V -/
theorem ydJ6_recalculateWordsInUse : xHd yJ6_recalculateWordsInUse 0 := by decide +kernel
def x_J6_recalculateWordsInUse_31 (a0 : Nat) (a1 : Int32) (r : xR) : Option (xR) := bok a0 <| qpi r a0 1 (a1 + (1 : Int32)) fun r1 => some r1
theorem x_J6_recalculateWordsInUse_31_ok {ms : xS} {rr : xR} {a0 : Nat} {a1 : Int32} {r : xR} (h : x_J6_recalculateWordsInUse_31  a0 a1 r = some rr) : xB xLL yJ6_recalculateWordsInUse cJ6_recalculateWordsInUse 2 none 0 0 31 [some (.inr (.inr (some (300 + a0))) : xV), some (.inl (a1) : xV)] [] (ms, r) none (ms, rr) := by
  refine x_aload_n (i := 0) 32 rfl dJ6_recalculateWordsInUse_31 rfl rfl ?_
  refine x_iload_n (i := 1) 33 rfl dJ6_recalculateWordsInUse_32 rfl rfl ?_
  refine x_iconst (1 : Int32) 34 rfl dJ6_recalculateWordsInUse_33 rfl ?_
  refine x_iadd 35 rfl dJ6_recalculateWordsInUse_34 ?_
  refine x_bok h (fun hb h => ?_)
  refine b_puti (k := 1) (z := 0) 38 rfl dJ6_recalculateWordsInUse_35 (by decide) hb rfl (Or.inl rfl) rfl q284 h (fun r1 h => ?_)
  cases h
  exact x_vret rfl dJ6_recalculateWordsInUse_38
def x_J6_recalculateWordsInUse_7_s (rec7 : Nat → Int32 → xR → Option (xR)) (a0 : Nat) (a1 : Int32) (r : xR) : Option (xR) := if a1 < 0 then x_J6_recalculateWordsInUse_31 a0 a1 r else bok a0 <| blr r a0 a1 fun x2 => if (lg_cmp x2 (0 : Int64)) = 0 then lt (a1 + (-1 : Int32)) fun x3 => rec7 a0 x3 r else x_J6_recalculateWordsInUse_31 a0 a1 r
theorem x_J6_recalculateWordsInUse_7_s_ok {ms : xS} {rr : xR} {rec7 : Nat → Int32 → xR → Option (xR)} (hr7 : ∀ {a0 : Nat} {a1 : Int32} {r : xR}, rec7 a0 a1 r = some rr → xB xLL yJ6_recalculateWordsInUse cJ6_recalculateWordsInUse 2 none 0 0 7 [some (.inr (.inr (some (300 + a0))) : xV), some (.inl (a1) : xV)] [] (ms, r) none (ms, rr)) {a0 : Nat} {a1 : Int32} {r : xR} (h : x_J6_recalculateWordsInUse_7_s rec7 a0 a1 r = some rr) : xB xLL yJ6_recalculateWordsInUse cJ6_recalculateWordsInUse 2 none 0 0 7 [some (.inr (.inr (some (300 + a0))) : xV), some (.inl (a1) : xV)] [] (ms, r) none (ms, rr) := by
  refine x_iload_n (i := 1) 8 rfl dJ6_recalculateWordsInUse_7 rfl rfl ?_
  refine x_if_lt 31 11 rfl dJ6_recalculateWordsInUse_8 rfl h (fun h => ?_) (fun h => ?_)
  · exact xB.le (xle.s (xle.s xle.z)) (x_J6_recalculateWordsInUse_31_ok h)
  · refine x_aload_n (i := 0) 12 rfl dJ6_recalculateWordsInUse_11 rfl rfl ?_
    refine x_bok h (fun hb h => ?_)
    refine b_get (k := 0) 15 rfl dJ6_recalculateWordsInUse_12 (by decide) q283 hb rfl ?_
    refine x_iload_n (i := 1) 16 rfl dJ6_recalculateWordsInUse_15 rfl rfl ?_
    refine b_lald 17 rfl dJ6_recalculateWordsInUse_16 h (fun x2 h => ?_)
    refine x_lconst (0 : Int64) 18 rfl dJ6_recalculateWordsInUse_17 rfl ?_
    refine x_lcmp 19 rfl dJ6_recalculateWordsInUse_18 ?_
    refine x_if_eq 25 22 rfl dJ6_recalculateWordsInUse_19 rfl h (fun h => ?_) (fun h => ?_)
    · refine x_iincL (i := 1) (-1 : Int32) 28 rfl dJ6_recalculateWordsInUse_25 rfl rfl (by decide) h (fun x3 h => ?_)
      change xB xLL yJ6_recalculateWordsInUse cJ6_recalculateWordsInUse 2 none 0 0 28 [some (.inr (.inr (some (300 + a0))) : xV), some (.inl (x3) : xV)] [] (ms, r) _ _
      refine x_goto 7 dJ6_recalculateWordsInUse_28 rfl ?_
      exact xB.le (xle.s (xle.s xle.z)) (hr7 h)
    · refine x_goto 31 dJ6_recalculateWordsInUse_22 rfl ?_
      exact xB.le (xle.s (xle.s xle.z)) (x_J6_recalculateWordsInUse_31_ok h)
def x_J6_recalculateWordsInUse_7_L : Nat → Nat → Int32 → xR → Option (xR)
  | 0 => fun _ _ _ => none
  | n + 1 => x_J6_recalculateWordsInUse_7_s (x_J6_recalculateWordsInUse_7_L  n)
theorem x_J6_recalculateWordsInUse_7_L_ok {ms : xS} {rr : xR} : ∀ (n9 : Nat) {a0 : Nat} {a1 : Int32} {r : xR}, x_J6_recalculateWordsInUse_7_L  n9 a0 a1 r = some rr → xB xLL yJ6_recalculateWordsInUse cJ6_recalculateWordsInUse 2 none 0 0 7 [some (.inr (.inr (some (300 + a0))) : xV), some (.inl (a1) : xV)] [] (ms, r) none (ms, rr)
  | 0, _, _, _, h => by cases h
  | n9 + 1, _, _, _, h => x_J6_recalculateWordsInUse_7_s_ok (x_J6_recalculateWordsInUse_7_L_ok  n9) h
def x_J6_recalculateWordsInUse (a0 : Nat) (r : xR) : Option (xR) := bok a0 <| lt ((r.1.1 a0 1) - (1 : Int32)) fun x4 => x_J6_recalculateWordsInUse_7_L xFU a0 x4 r
theorem x_J6_recalculateWordsInUse_ct {ms : xS} {rr : xR} {a0 : Nat} {r : xR} (h : x_J6_recalculateWordsInUse a0 r = some rr) : xCt xLL yJ6_recalculateWordsInUse cJ6_recalculateWordsInUse 2 none 0 0 [(.inr (.inr (some (300 + a0))) : xV)] (ms, r) none (ms, rr) := by
  refine xCt.of (lv := [some (.inr (.inr (some (300 + a0))) : xV), none]) pl_J6 (Nat.le_of_ble_eq_true rfl) (xle.s (xle.m xle.z)) ?_
  refine x_aload_n (i := 0) 1 rfl dJ6_recalculateWordsInUse_0 rfl rfl ?_
  refine x_bok h (fun hb h => ?_)
  refine b_get (k := 1) 4 rfl dJ6_recalculateWordsInUse_1 (by decide) q284 hb rfl ?_
  refine x_iconst (1 : Int32) 5 rfl dJ6_recalculateWordsInUse_4 rfl ?_
  refine x_isub 6 rfl dJ6_recalculateWordsInUse_5 ?_
  refine x_lti h (fun x4 h => ?_)
  refine x_istore_n 7 rfl dJ6_recalculateWordsInUse_6 rfl (by decide) (lv' := [some (.inr (.inr (some (300 + a0))) : xV), some (.inl (x4) : xV)]) rfl ?_
  exact xB.le (xle.s (xle.s xle.z)) (x_J6_recalculateWordsInUse_7_L_ok xFU h)
/-! java/util/BitSet.clear(I)V -/
theorem ydJ6_clear_2 : xHd yJ6_clear_2 1 := by decide +kernel
def x_J6_clear_2 (a0 : Nat) (a1 : Int32) (r : xR) : Option (xR) := if 0 ≤ a1 then cl (p_J6_wordIndex a1) fun q1 => bok a0 <| if q1 < (r.1.1 a0 1) then bok a0 <| blr r a0 q1 fun x2 => blw r a0 q1 (x2 &&& ((jlshl (1 : Int64) a1) ^^^ (-1 : Int64))) fun r3 => bok a0 <| cl (x_J6_recalculateWordsInUse a0 r3) fun q4 => bok a0 <| cl (x_J6_checkInvariants a0 q4) fun q5 => some q5 else some r else none
theorem x_J6_clear_2_ct {ms : xS} {rr : xR} {a0 : Nat} {a1 : Int32} {r : xR} (h : x_J6_clear_2 a0 a1 r = some rr) : xCt xLL yJ6_clear_2 cJ6_clear_2 3 none 1 21 [(.inr (.inr (some (300 + a0))) : xV), (.inl (a1) : xV)] (ms, r) none (ms, rr) := by
  refine xCt.of (lv := [some (.inr (.inr (some (300 + a0))) : xV), some (.inl (a1) : xV), none]) pl_J6 (Nat.le_of_ble_eq_true rfl) (xle.s (xle.s (xle.m xle.z))) ?_
  refine x_iload_n (i := 1) 1 rfl dJ6_clear_2_0 rfl rfl ?_
  refine x_if_ge 31 4 rfl dJ6_clear_2_1 rfl h (fun h => ?_) (fun h => ?_)
  · refine x_iload_n (i := 1) 32 rfl dJ6_clear_2_31 rfl rfl ?_
    refine x_cl h (fun q1 hq h => ?_)
    refine x_callS (as := [(.inl (a1) : xV)]) (rest := []) (vv := (some (.inl (q1) : xV))) (w2 := (ms, r)) 35 rfl dJ6_clear_2_32 (p_J6_wordIndex_ct hq) (lw_S q280 q281 q127 q282) ydJ6_wordIndex rfl ⟨Nat.le_of_ble_eq_true rfl, Nat.le_of_ble_eq_true rfl⟩ (Nat.le_of_ble_eq_true rfl) rfl ?_
    change xB xLL yJ6_clear_2 cJ6_clear_2 3 none 1 21 35 [some (.inr (.inr (some (300 + a0))) : xV), some (.inl (a1) : xV), none] [(.inl (q1) : xV)] (ms, r) _ _
    refine x_istore_n 36 rfl dJ6_clear_2_35 rfl (by decide) (lv' := [some (.inr (.inr (some (300 + a0))) : xV), some (.inl (a1) : xV), some (.inl (q1) : xV)]) rfl ?_
    refine x_iload_n (i := 2) 37 rfl dJ6_clear_2_36 rfl rfl ?_
    refine x_aload_n (i := 0) 38 rfl dJ6_clear_2_37 rfl rfl ?_
    refine x_bok h (fun hb h => ?_)
    refine b_get (k := 1) 41 rfl dJ6_clear_2_38 (by decide) q284 hb rfl ?_
    refine x_icmp_lt 45 44 rfl dJ6_clear_2_41 rfl h (fun h => ?_) (fun h => ?_)
    · refine x_aload_n (i := 0) 46 rfl dJ6_clear_2_45 rfl rfl ?_
      refine x_bok h (fun hb h => ?_)
      refine b_get (k := 0) 49 rfl dJ6_clear_2_46 (by decide) q283 hb rfl ?_
      refine x_iload_n (i := 2) 50 rfl dJ6_clear_2_49 rfl rfl ?_
      refine x_dup2 51 rfl dJ6_clear_2_50 rfl rfl ?_
      refine b_lald 52 rfl dJ6_clear_2_51 h (fun x2 h => ?_)
      refine x_lconst (1 : Int64) 53 rfl dJ6_clear_2_52 rfl ?_
      refine x_iload_n (i := 1) 54 rfl dJ6_clear_2_53 rfl rfl ?_
      refine x_lshl 55 rfl dJ6_clear_2_54 ?_
      refine x_ldc2 58 rfl dJ6_clear_2_55 q934 ?_
      refine x_lxor 59 rfl dJ6_clear_2_58 ?_
      refine x_land 60 rfl dJ6_clear_2_59 ?_
      refine b_last 61 rfl dJ6_clear_2_60 h (fun r3 h => ?_)
      refine x_aload_n (i := 0) 62 rfl dJ6_clear_2_61 rfl rfl ?_
      refine x_bok h (fun hb h => ?_)
      refine x_cl h (fun q4 hq h => ?_)
      refine x_callV (as := []) (rest := []) (vv := none) (w2 := (ms, q4)) (C := RJ6) (T := TJ6) (N := 3) 65 rfl dJ6_clear_2_62 (x_J6_recalculateWordsInUse_ct hq) (Or.inl (xcell_XB hb).1) rfl (lw_V q952 q954 qs35 q127 q955) rfl ydJ6_recalculateWordsInUse rfl ⟨Nat.le_of_ble_eq_true rfl, Nat.le_of_ble_eq_true rfl⟩ (Nat.le_of_ble_eq_true rfl) rfl ?_
      change xB xLL yJ6_clear_2 cJ6_clear_2 3 none 1 21 65 [some (.inr (.inr (some (300 + a0))) : xV), some (.inl (a1) : xV), some (.inl (q1) : xV)] [] (ms, q4) _ _
      refine x_aload_n (i := 0) 66 rfl dJ6_clear_2_65 rfl rfl ?_
      refine x_bok h (fun hb h => ?_)
      refine x_cl h (fun q5 hq h => ?_)
      refine x_callV (as := []) (rest := []) (vv := none) (w2 := (ms, q5)) (C := RJ6) (T := TJ6) (N := 3) 69 rfl dJ6_clear_2_66 (x_J6_checkInvariants_ct hq) (Or.inl (xcell_XB hb).1) rfl (lw_V q928 q930 qs32 q127 q931) rfl ydJ6_checkInvariants rfl ⟨Nat.le_of_ble_eq_true rfl, Nat.le_of_ble_eq_true rfl⟩ (Nat.le_of_ble_eq_true rfl) rfl ?_
      change xB xLL yJ6_clear_2 cJ6_clear_2 3 none 1 21 69 [some (.inr (.inr (some (300 + a0))) : xV), some (.inl (a1) : xV), some (.inl (q1) : xV)] [] (ms, q5) _ _
      cases h
      exact x_vret rfl dJ6_clear_2_69
    · cases h
      exact x_vret rfl dJ6_clear_2_44
  · cases h
/-! java/util/BitSet.ensureCapacity(I)V -/
theorem ydJ6_ensureCapacity : xHd yJ6_ensureCapacity 1 := by decide +kernel
def x_J6_ensureCapacity (a0 : Nat) (a1 : Int32) (r : xR) : Option (xR) := bok a0 <| bok a0 <| if a1 ≤ (1 : Int32) then some r else none
theorem x_J6_ensureCapacity_ct {ms : xS} {rr : xR} {a0 : Nat} {a1 : Int32} {r : xR} (h : x_J6_ensureCapacity a0 a1 r = some rr) : xCt xLL yJ6_ensureCapacity cJ6_ensureCapacity 3 none 0 0 [(.inr (.inr (some (300 + a0))) : xV), (.inl (a1) : xV)] (ms, r) none (ms, rr) := by
  refine xCt.of (lv := [some (.inr (.inr (some (300 + a0))) : xV), some (.inl (a1) : xV), none]) pl_J6 (Nat.le_of_ble_eq_true rfl) (xle.s (xle.s (xle.m xle.z))) ?_
  refine x_aload_n (i := 0) 1 rfl dJ6_ensureCapacity_0 rfl rfl ?_
  refine x_bok h (fun hb h => ?_)
  refine b_get (k := 0) 4 rfl dJ6_ensureCapacity_1 (by decide) q283 hb rfl ?_
  refine x_bok h (fun hb h => ?_)
  refine b_alen hb 5 rfl dJ6_ensureCapacity_4 ?_
  refine x_iload_n (i := 1) 6 rfl dJ6_ensureCapacity_5 rfl rfl ?_
  refine x_icmp_ge 38 9 rfl dJ6_ensureCapacity_6 rfl h (fun h => ?_) (fun h => ?_)
  · cases h
    exact x_vret rfl dJ6_ensureCapacity_38
  · cases h
/-! java/util/BitSet.expandTo(I)V -/
theorem ydJ6_expandTo : xHd yJ6_expandTo 1 := by decide +kernel
def x_J6_expandTo (a0 : Nat) (a1 : Int32) (r : xR) : Option (xR) := lt (a1 + (1 : Int32)) fun x1 => bok a0 <| if x1 ≤ (r.1.1 a0 1) then some r else bok a0 <| cl (x_J6_ensureCapacity a0 x1 r) fun q2 => bok a0 <| qpi q2 a0 1 x1 fun r3 => some r3
theorem x_J6_expandTo_ct {ms : xS} {rr : xR} {a0 : Nat} {a1 : Int32} {r : xR} (h : x_J6_expandTo a0 a1 r = some rr) : xCt xLL yJ6_expandTo cJ6_expandTo 3 none 1 22 [(.inr (.inr (some (300 + a0))) : xV), (.inl (a1) : xV)] (ms, r) none (ms, rr) := by
  refine xCt.of (lv := [some (.inr (.inr (some (300 + a0))) : xV), some (.inl (a1) : xV), none]) pl_J6 (Nat.le_of_ble_eq_true rfl) (xle.s (xle.s (xle.m xle.z))) ?_
  refine x_iload_n (i := 1) 1 rfl dJ6_expandTo_0 rfl rfl ?_
  refine x_iconst (1 : Int32) 2 rfl dJ6_expandTo_1 rfl ?_
  refine x_iadd 3 rfl dJ6_expandTo_2 ?_
  refine x_lti h (fun x1 h => ?_)
  refine x_istore_n 4 rfl dJ6_expandTo_3 rfl (by decide) (lv' := [some (.inr (.inr (some (300 + a0))) : xV), some (.inl (a1) : xV), some (.inl (x1) : xV)]) rfl ?_
  refine x_aload_n (i := 0) 5 rfl dJ6_expandTo_4 rfl rfl ?_
  refine x_bok h (fun hb h => ?_)
  refine b_get (k := 1) 8 rfl dJ6_expandTo_5 (by decide) q284 hb rfl ?_
  refine x_iload_n (i := 2) 9 rfl dJ6_expandTo_8 rfl rfl ?_
  refine x_icmp_ge 22 12 rfl dJ6_expandTo_9 rfl h (fun h => ?_) (fun h => ?_)
  · cases h
    exact x_vret rfl dJ6_expandTo_22
  · refine x_aload_n (i := 0) 13 rfl dJ6_expandTo_12 rfl rfl ?_
    refine x_iload_n (i := 2) 14 rfl dJ6_expandTo_13 rfl rfl ?_
    refine x_bok h (fun hb h => ?_)
    refine x_cl h (fun q2 hq h => ?_)
    refine x_callV (as := [(.inl (x1) : xV)]) (rest := []) (vv := none) (w2 := (ms, q2)) (C := RJ6) (T := TJ6) (N := 3) 17 rfl dJ6_expandTo_14 (x_J6_ensureCapacity_ct hq) (Or.inl (xcell_XB hb).1) rfl (lw_V q964 q966 qs37 q127 q967) rfl ydJ6_ensureCapacity rfl ⟨Nat.le_of_ble_eq_true rfl, Nat.le_of_ble_eq_true rfl⟩ (Nat.le_of_ble_eq_true rfl) rfl ?_
    change xB xLL yJ6_expandTo cJ6_expandTo 3 none 1 22 17 [some (.inr (.inr (some (300 + a0))) : xV), some (.inl (a1) : xV), some (.inl (x1) : xV)] [] (ms, q2) _ _
    refine x_aload_n (i := 0) 18 rfl dJ6_expandTo_17 rfl rfl ?_
    refine x_iload_n (i := 2) 19 rfl dJ6_expandTo_18 rfl rfl ?_
    refine x_bok h (fun hb h => ?_)
    refine b_puti (k := 1) (z := 0) 22 rfl dJ6_expandTo_19 (by decide) hb rfl (Or.inl rfl) rfl q284 h (fun r3 h => ?_)
    cases h
    exact x_vret rfl dJ6_expandTo_22
/-! java/util/BitSet.set(I)V -/
theorem ydJ6_set : xHd yJ6_set 1 := by decide +kernel
def x_J6_set (a0 : Nat) (a1 : Int32) (r : xR) : Option (xR) := if 0 ≤ a1 then cl (p_J6_wordIndex a1) fun q1 => bok a0 <| cl (x_J6_expandTo a0 q1 r) fun q2 => bok a0 <| blr q2 a0 q1 fun x3 => blw q2 a0 q1 (x3 ||| (jlshl (1 : Int64) a1)) fun r4 => bok a0 <| cl (x_J6_checkInvariants a0 r4) fun q5 => some q5 else none
theorem x_J6_set_ct {ms : xS} {rr : xR} {a0 : Nat} {a1 : Int32} {r : xR} (h : x_J6_set a0 a1 r = some rr) : xCt xLL yJ6_set cJ6_set 3 none 2 44 [(.inr (.inr (some (300 + a0))) : xV), (.inl (a1) : xV)] (ms, r) none (ms, rr) := by
  refine xCt.of (lv := [some (.inr (.inr (some (300 + a0))) : xV), some (.inl (a1) : xV), none]) pl_J6 (Nat.le_of_ble_eq_true rfl) (xle.s (xle.s (xle.m xle.z))) ?_
  refine x_iload_n (i := 1) 1 rfl dJ6_set_0 rfl rfl ?_
  refine x_if_ge 31 4 rfl dJ6_set_1 rfl h (fun h => ?_) (fun h => ?_)
  · refine x_iload_n (i := 1) 32 rfl dJ6_set_31 rfl rfl ?_
    refine x_cl h (fun q1 hq h => ?_)
    refine x_callS (as := [(.inl (a1) : xV)]) (rest := []) (vv := (some (.inl (q1) : xV))) (w2 := (ms, r)) 35 rfl dJ6_set_32 (p_J6_wordIndex_ct hq) (lw_S q280 q281 q127 q282) ydJ6_wordIndex rfl ⟨Nat.le_of_ble_eq_true rfl, Nat.le_of_ble_eq_true rfl⟩ (Nat.le_of_ble_eq_true rfl) rfl ?_
    change xB xLL yJ6_set cJ6_set 3 none 2 44 35 [some (.inr (.inr (some (300 + a0))) : xV), some (.inl (a1) : xV), none] [(.inl (q1) : xV)] (ms, r) _ _
    refine x_istore_n 36 rfl dJ6_set_35 rfl (by decide) (lv' := [some (.inr (.inr (some (300 + a0))) : xV), some (.inl (a1) : xV), some (.inl (q1) : xV)]) rfl ?_
    refine x_aload_n (i := 0) 37 rfl dJ6_set_36 rfl rfl ?_
    refine x_iload_n (i := 2) 38 rfl dJ6_set_37 rfl rfl ?_
    refine x_bok h (fun hb h => ?_)
    refine x_cl h (fun q2 hq h => ?_)
    refine x_callV (as := [(.inl (q1) : xV)]) (rest := []) (vv := none) (w2 := (ms, q2)) (C := RJ6) (T := TJ6) (N := 3) 41 rfl dJ6_set_38 (x_J6_expandTo_ct hq) (Or.inl (xcell_XB hb).1) rfl (lw_V q960 q962 qs36 q127 q963) rfl ydJ6_expandTo rfl ⟨Nat.le_of_ble_eq_true rfl, Nat.le_of_ble_eq_true rfl⟩ (Nat.le_of_ble_eq_true rfl) rfl ?_
    change xB xLL yJ6_set cJ6_set 3 none 2 44 41 [some (.inr (.inr (some (300 + a0))) : xV), some (.inl (a1) : xV), some (.inl (q1) : xV)] [] (ms, q2) _ _
    refine x_aload_n (i := 0) 42 rfl dJ6_set_41 rfl rfl ?_
    refine x_bok h (fun hb h => ?_)
    refine b_get (k := 0) 45 rfl dJ6_set_42 (by decide) q283 hb rfl ?_
    refine x_iload_n (i := 2) 46 rfl dJ6_set_45 rfl rfl ?_
    refine x_dup2 47 rfl dJ6_set_46 rfl rfl ?_
    refine b_lald 48 rfl dJ6_set_47 h (fun x3 h => ?_)
    refine x_lconst (1 : Int64) 49 rfl dJ6_set_48 rfl ?_
    refine x_iload_n (i := 1) 50 rfl dJ6_set_49 rfl rfl ?_
    refine x_lshl 51 rfl dJ6_set_50 ?_
    refine x_lor 52 rfl dJ6_set_51 ?_
    refine b_last 53 rfl dJ6_set_52 h (fun r4 h => ?_)
    refine x_aload_n (i := 0) 54 rfl dJ6_set_53 rfl rfl ?_
    refine x_bok h (fun hb h => ?_)
    refine x_cl h (fun q5 hq h => ?_)
    refine x_callV (as := []) (rest := []) (vv := none) (w2 := (ms, q5)) (C := RJ6) (T := TJ6) (N := 3) 57 rfl dJ6_set_54 (x_J6_checkInvariants_ct hq) (Or.inl (xcell_XB hb).1) rfl (lw_V q928 q930 qs32 q127 q931) rfl ydJ6_checkInvariants rfl ⟨Nat.le_of_ble_eq_true rfl, Nat.le_of_ble_eq_true rfl⟩ (Nat.le_of_ble_eq_true rfl) rfl ?_
    change xB xLL yJ6_set cJ6_set 3 none 2 44 57 [some (.inr (.inr (some (300 + a0))) : xV), some (.inl (a1) : xV), some (.inl (q1) : xV)] [] (ms, q5) _ _
    cases h
    exact x_vret rfl dJ6_set_57
  · cases h
/-! UnimodularTables$Growth.moves(III)V -/
theorem ydX3_moves : xHd yX3_moves 3 := by decide +kernel
def x_X3_moves_79 (rec3 : Nat → Int32 → Int32 → Int32 → Int32 → xR → Option (xR)) (a0 : Nat) (a1 : Int32) (a2 : Int32) (a3 : Int32) (a4 : Int32) (r : xR) : Option (xR) := lt (a4 + (1 : Int32)) fun x1 => rec3 a0 a1 a2 a3 x1 r
theorem x_X3_moves_79_ok {ms : xS} {rr : xR} {rec3 : Nat → Int32 → Int32 → Int32 → Int32 → xR → Option (xR)} (hr3 : ∀ {a0 : Nat} {a1 : Int32} {a2 : Int32} {a3 : Int32} {a4 : Int32} {r : xR}, rec3 a0 a1 a2 a3 a4 r = some rr → xB xLL yX3_moves cX3_moves 5 none 3 66 3 [some (.inr (.inr (some (312 + 18 * a0))) : xV), some (.inl (a1) : xV), some (.inl (a2) : xV), some (.inl (a3) : xV), some (.inl (a4) : xV)] [] (ms, r) none (ms, rr)) {a0 : Nat} {a1 : Int32} {a2 : Int32} {a3 : Int32} {a4 : Int32} {r : xR} (h : x_X3_moves_79 rec3 a0 a1 a2 a3 a4 r = some rr) : xB xLL yX3_moves cX3_moves 5 none 3 66 79 [some (.inr (.inr (some (312 + 18 * a0))) : xV), some (.inl (a1) : xV), some (.inl (a2) : xV), some (.inl (a3) : xV), some (.inl (a4) : xV)] [] (ms, r) none (ms, rr) := by
  refine x_iincL (i := 4) (1 : Int32) 82 rfl dX3_moves_79 rfl rfl (by decide) h (fun x1 h => ?_)
  change xB xLL yX3_moves cX3_moves 5 none 3 66 82 [some (.inr (.inr (some (312 + 18 * a0))) : xV), some (.inl (a1) : xV), some (.inl (a2) : xV), some (.inl (a3) : xV), some (.inl (x1) : xV)] [] (ms, r) _ _
  refine x_goto 3 dX3_moves_82 rfl ?_
  exact xB.le (xle.s (xle.s (xle.s (xle.s (xle.s xle.z))))) (hr3 h)
def x_X3_moves_57 (rec3 : Nat → Int32 → Int32 → Int32 → Int32 → xR → Option (xR)) (a0 : Nat) (a1 : Int32) (a2 : Int32) (a3 : Int32) (a4 : Int32) (r : xR) : Option (xR) := gok a0 <| gok a0 <| ix a2 7 fun _ => bok (16 + 18 * a0 + 2 * a2.toNatClampNeg) <| cl (x_J6_clear_2 (16 + 18 * a0 + 2 * a2.toNatClampNeg) a4 r) fun q3 => gok a0 <| gok a0 <| ix a3 7 fun _ => bok (16 + 18 * a0 + 2 * a3.toNatClampNeg) <| cl (x_J6_set (16 + 18 * a0 + 2 * a3.toNatClampNeg) a4 q3) fun q5 => x_X3_moves_79 rec3 a0 a1 a2 a3 a4 q5
theorem x_X3_moves_57_ok {ms : xS} {rr : xR} {rec3 : Nat → Int32 → Int32 → Int32 → Int32 → xR → Option (xR)} (hr3 : ∀ {a0 : Nat} {a1 : Int32} {a2 : Int32} {a3 : Int32} {a4 : Int32} {r : xR}, rec3 a0 a1 a2 a3 a4 r = some rr → xB xLL yX3_moves cX3_moves 5 none 3 66 3 [some (.inr (.inr (some (312 + 18 * a0))) : xV), some (.inl (a1) : xV), some (.inl (a2) : xV), some (.inl (a3) : xV), some (.inl (a4) : xV)] [] (ms, r) none (ms, rr)) {a0 : Nat} {a1 : Int32} {a2 : Int32} {a3 : Int32} {a4 : Int32} {r : xR} (h : x_X3_moves_57 rec3 a0 a1 a2 a3 a4 r = some rr) : xB xLL yX3_moves cX3_moves 5 none 3 66 57 [some (.inr (.inr (some (312 + 18 * a0))) : xV), some (.inl (a1) : xV), some (.inl (a2) : xV), some (.inl (a3) : xV), some (.inl (a4) : xV)] [] (ms, r) none (ms, rr) := by
  refine x_aload_n (i := 0) 58 rfl dX3_moves_57 rfl rfl ?_
  refine x_gok h (fun hg h => ?_)
  refine g_get (k := 2) 61 rfl dX3_moves_58 (by decide) q298 hg rfl ?_
  refine x_iload_n (i := 2) 62 rfl dX3_moves_61 rfl rfl ?_
  refine x_gok h (fun hg h => ?_)
  refine x_ix h (fun hi h => ?_)
  refine q_ends hg hi 63 rfl dX3_moves_62 ?_
  refine x_iload (i := 4) 65 rfl dX3_moves_63 rfl ?_
  refine x_bok h (fun hb h => ?_)
  refine x_cl h (fun q3 hq h => ?_)
  refine x_callV (as := [(.inl (a4) : xV)]) (rest := []) (vv := none) (w2 := (ms, q3)) (C := RJ6) (T := TJ6) (N := 3) 68 rfl dX3_moves_65 (x_J6_clear_2_ct hq) (Or.inl (xcell_XB hb).1) rfl (lw_V q948 q949 q950 q127 q951) rfl ydJ6_clear_2 rfl ⟨Nat.le_of_ble_eq_true rfl, Nat.le_of_ble_eq_true rfl⟩ (Nat.le_of_ble_eq_true rfl) rfl ?_
  change xB xLL yX3_moves cX3_moves 5 none 3 66 68 [some (.inr (.inr (some (312 + 18 * a0))) : xV), some (.inl (a1) : xV), some (.inl (a2) : xV), some (.inl (a3) : xV), some (.inl (a4) : xV)] [] (ms, q3) _ _
  refine x_aload_n (i := 0) 69 rfl dX3_moves_68 rfl rfl ?_
  refine x_gok h (fun hg h => ?_)
  refine g_get (k := 2) 72 rfl dX3_moves_69 (by decide) q298 hg rfl ?_
  refine x_iload_n (i := 3) 73 rfl dX3_moves_72 rfl rfl ?_
  refine x_gok h (fun hg h => ?_)
  refine x_ix h (fun hi h => ?_)
  refine q_ends hg hi 74 rfl dX3_moves_73 ?_
  refine x_iload (i := 4) 76 rfl dX3_moves_74 rfl ?_
  refine x_bok h (fun hb h => ?_)
  refine x_cl h (fun q5 hq h => ?_)
  refine x_callV (as := [(.inl (a4) : xV)]) (rest := []) (vv := none) (w2 := (ms, q5)) (C := RJ6) (T := TJ6) (N := 3) 79 rfl dX3_moves_76 (x_J6_set_ct hq) (Or.inl (xcell_XB hb).1) rfl (lw_V q956 q957 q958 q127 q959) rfl ydJ6_set rfl ⟨Nat.le_of_ble_eq_true rfl, Nat.le_of_ble_eq_true rfl⟩ (Nat.le_of_ble_eq_true rfl) rfl ?_
  change xB xLL yX3_moves cX3_moves 5 none 3 66 79 [some (.inr (.inr (some (312 + 18 * a0))) : xV), some (.inl (a1) : xV), some (.inl (a2) : xV), some (.inl (a3) : xV), some (.inl (a4) : xV)] [] (ms, q5) _ _
  exact xB.le (xle.s (xle.s (xle.s (xle.s (xle.s xle.z))))) (x_X3_moves_79_ok hr3 h)
def x_X3_moves_3_s (rec3 : Nat → Int32 → Int32 → Int32 → Int32 → xR → Option (xR)) (a0 : Nat) (a1 : Int32) (a2 : Int32) (a3 : Int32) (a4 : Int32) (r : xR) : Option (xR) := gok a0 <| lt (r.1.2.2 (12 + 18 * a0) 5) fun p6 => nn p6 fun p7 => dgi xLL r p7 2 0 fun x8 => if x8 ≤ a4 then some r else cl (p_X1_has a1 a4) fun q9 => if q9 = 0 then x_X3_moves_79 rec3 a0 a1 a2 a3 a4 r else gok a0 <| qrd r (13 + 18 * a0) a4 fun x10 => if x10 = a2 then gok a0 <| qwr r (13 + 18 * a0) a4 a3 fun r12 => x_X3_moves_57 rec3 a0 a1 a2 a3 a4 r12 else gok a0 <| qwr r (14 + 18 * a0) a4 a3 fun r11 => x_X3_moves_57 rec3 a0 a1 a2 a3 a4 r11
theorem x_X3_moves_3_s_ok {ms : xS} {rr : xR} {rec3 : Nat → Int32 → Int32 → Int32 → Int32 → xR → Option (xR)} (hr3 : ∀ {a0 : Nat} {a1 : Int32} {a2 : Int32} {a3 : Int32} {a4 : Int32} {r : xR}, rec3 a0 a1 a2 a3 a4 r = some rr → xB xLL yX3_moves cX3_moves 5 none 3 66 3 [some (.inr (.inr (some (312 + 18 * a0))) : xV), some (.inl (a1) : xV), some (.inl (a2) : xV), some (.inl (a3) : xV), some (.inl (a4) : xV)] [] (ms, r) none (ms, rr)) {a0 : Nat} {a1 : Int32} {a2 : Int32} {a3 : Int32} {a4 : Int32} {r : xR} (h : x_X3_moves_3_s rec3 a0 a1 a2 a3 a4 r = some rr) : xB xLL yX3_moves cX3_moves 5 none 3 66 3 [some (.inr (.inr (some (312 + 18 * a0))) : xV), some (.inl (a1) : xV), some (.inl (a2) : xV), some (.inl (a3) : xV), some (.inl (a4) : xV)] [] (ms, r) none (ms, rr) := by
  refine x_iload (i := 4) 5 rfl dX3_moves_3 rfl ?_
  refine x_aload_n (i := 0) 6 rfl dX3_moves_5 rfl rfl ?_
  refine x_gok h (fun hg h => ?_)
  refine g_get (k := 5) 9 rfl dX3_moves_6 (by decide) q302 hg rfl ?_
  refine x_ltr h (fun p6 h => ?_)
  refine x_nnP (P := fun p6 => xB xLL yX3_moves cX3_moves 5 none 3 66 9 [some (.inr (.inr (some (312 + 18 * a0))) : xV), some (.inl (a1) : xV), some (.inl (a2) : xV), some (.inl (a3) : xV), some (.inl (a4) : xV)] [(.inr (.inr (p6)) : xV), (.inl (a4) : xV)] (ms, r) none (ms, rr)) h (fun p7 h => ?_)
  refine d_getiN (ci := 2) (k := 0) (C := RX4) (T := TX4) (N := 3) 12 rfl dX3_moves_9 rfl in_X4 (by decide) (List.mem_of_getElem? (i := 6) rfl) h (fun x8 h => ?_)
  refine x_icmp_ge 85 15 rfl dX3_moves_12 rfl h (fun h => ?_) (fun h => ?_)
  · cases h
    exact x_vret rfl dX3_moves_85
  · refine x_iload_n (i := 1) 16 rfl dX3_moves_15 rfl rfl ?_
    refine x_iload (i := 4) 18 rfl dX3_moves_16 rfl ?_
    refine x_cl h (fun q9 hq h => ?_)
    refine x_callSN (vv := (some (.inl (q9) : xV))) (w2 := (ms, r)) [] 21 rfl dX3_moves_18 (p_X1_has_ct hq) (List.mem_of_getElem? (i := 12) rfl) q841 q118 q842 ydX1_has rfl ⟨Nat.le_of_ble_eq_true rfl, Nat.le_of_ble_eq_true rfl⟩ (Nat.le_of_ble_eq_true rfl) rfl ?_
    change xB xLL yX3_moves cX3_moves 5 none 3 66 21 [some (.inr (.inr (some (312 + 18 * a0))) : xV), some (.inl (a1) : xV), some (.inl (a2) : xV), some (.inl (a3) : xV), some (.inl (a4) : xV)] [(.inl (q9) : xV)] (ms, r) _ _
    refine x_if_ne 27 24 rfl dX3_moves_21 rfl h (fun h => ?_) (fun h => ?_)
    · refine x_aload_n (i := 0) 28 rfl dX3_moves_27 rfl rfl ?_
      refine x_gok h (fun hg h => ?_)
      refine g_get (k := 0) 31 rfl dX3_moves_28 (by decide) q294 hg rfl ?_
      refine x_iload (i := 4) 33 rfl dX3_moves_31 rfl ?_
      refine q_iald 34 rfl dX3_moves_33 h (fun x10 h => ?_)
      refine x_iload_n (i := 2) 35 rfl dX3_moves_34 rfl rfl ?_
      refine x_icmp_ne 49 38 rfl dX3_moves_35 rfl h (fun h => ?_) (fun h => ?_)
      · refine x_aload_n (i := 0) 50 rfl dX3_moves_49 rfl rfl ?_
        refine x_gok h (fun hg h => ?_)
        refine g_get (k := 1) 53 rfl dX3_moves_50 (by decide) q296 hg rfl ?_
        refine x_iload (i := 4) 55 rfl dX3_moves_53 rfl ?_
        refine x_iload_n (i := 3) 56 rfl dX3_moves_55 rfl rfl ?_
        refine q_iast 57 rfl dX3_moves_56 h (fun r11 h => ?_)
        exact xB.le (xle.s (xle.s (xle.s (xle.s (xle.s xle.z))))) (x_X3_moves_57_ok hr3 h)
      · refine x_aload_n (i := 0) 39 rfl dX3_moves_38 rfl rfl ?_
        refine x_gok h (fun hg h => ?_)
        refine g_get (k := 0) 42 rfl dX3_moves_39 (by decide) q294 hg rfl ?_
        refine x_iload (i := 4) 44 rfl dX3_moves_42 rfl ?_
        refine x_iload_n (i := 3) 45 rfl dX3_moves_44 rfl rfl ?_
        refine q_iast 46 rfl dX3_moves_45 h (fun r12 h => ?_)
        refine x_goto 57 dX3_moves_46 rfl ?_
        exact xB.le (xle.s (xle.s (xle.s (xle.s (xle.s xle.z))))) (x_X3_moves_57_ok hr3 h)
    · refine x_goto 79 dX3_moves_24 rfl ?_
      exact xB.le (xle.s (xle.s (xle.s (xle.s (xle.s xle.z))))) (x_X3_moves_79_ok hr3 h)
def x_X3_moves_3_L : Nat → Nat → Int32 → Int32 → Int32 → Int32 → xR → Option (xR)
  | 0 => fun _ _ _ _ _ _ => none
  | n + 1 => x_X3_moves_3_s (x_X3_moves_3_L  n)
theorem x_X3_moves_3_L_ok {ms : xS} {rr : xR} : ∀ (n9 : Nat) {a0 : Nat} {a1 : Int32} {a2 : Int32} {a3 : Int32} {a4 : Int32} {r : xR}, x_X3_moves_3_L  n9 a0 a1 a2 a3 a4 r = some rr → xB xLL yX3_moves cX3_moves 5 none 3 66 3 [some (.inr (.inr (some (312 + 18 * a0))) : xV), some (.inl (a1) : xV), some (.inl (a2) : xV), some (.inl (a3) : xV), some (.inl (a4) : xV)] [] (ms, r) none (ms, rr)
  | 0, _, _, _, _, _, _, h => by cases h
  | n9 + 1, _, _, _, _, _, _, h => x_X3_moves_3_s_ok (x_X3_moves_3_L_ok  n9) h
def x_X3_moves (a0 : Nat) (a1 : Int32) (a2 : Int32) (a3 : Int32) (r : xR) : Option (xR) := lt ((0 : Int32)) fun x13 => x_X3_moves_3_L xFU a0 a1 a2 a3 x13 r
theorem x_X3_moves_ct {ms : xS} {rr : xR} {a0 : Nat} {a1 : Int32} {a2 : Int32} {a3 : Int32} {r : xR} (h : x_X3_moves a0 a1 a2 a3 r = some rr) : xCt xLL yX3_moves cX3_moves 5 none 3 66 [(.inr (.inr (some (312 + 18 * a0))) : xV), (.inl (a1) : xV), (.inl (a2) : xV), (.inl (a3) : xV)] (ms, r) none (ms, rr) := by
  refine xCt.of (lv := [some (.inr (.inr (some (312 + 18 * a0))) : xV), some (.inl (a1) : xV), some (.inl (a2) : xV), some (.inl (a3) : xV), none]) pl_X3 (Nat.le_of_ble_eq_true rfl) (xle.s (xle.s (xle.s (xle.s (xle.m xle.z))))) ?_
  refine x_iconst (0 : Int32) 1 rfl dX3_moves_0 rfl ?_
  refine x_lti h (fun x13 h => ?_)
  refine x_istore 3 rfl dX3_moves_1 (by decide) (lv' := [some (.inr (.inr (some (312 + 18 * a0))) : xV), some (.inl (a1) : xV), some (.inl (a2) : xV), some (.inl (a3) : xV), some (.inl (x13) : xV)]) rfl ?_
  exact xB.le (xle.s (xle.s (xle.s (xle.s (xle.s xle.z))))) (x_X3_moves_3_L_ok xFU h)
/-! UnimodularTables$Growth.parts(IIII)V -/
theorem ydX3_parts : xHd yX3_parts 4 := by decide +kernel
def x_X3_parts_47 (a0 : Nat) (a1 : Int32) (a2 : Int32) (s0 : Int32) (s1 : Int32) (s2 : Nat) (r : xR) : Option (xR) := qwr r s2 s1 s0 fun r1 => gok a0 <| gok a0 <| ix a2 7 fun _ => bok (16 + 18 * a0 + 2 * a2.toNatClampNeg) <| cl (x_J6_set (16 + 18 * a0 + 2 * a2.toNatClampNeg) a1 r1) fun q3 => gok a0 <| gok a0 <| gok a0 <| ix (q3.1.1 (12 + 18 * a0) 6) 7 fun _ => bok (16 + 18 * a0 + 2 * (q3.1.1 (12 + 18 * a0) 6).toNatClampNeg) <| cl (x_J6_set (16 + 18 * a0 + 2 * (q3.1.1 (12 + 18 * a0) 6).toNatClampNeg) a1 q3) fun q5 => gok a0 <| gok a0 <| qpi q5 (12 + 18 * a0) 6 ((q5.1.1 (12 + 18 * a0) 6) + (1 : Int32)) fun r6 => some r6
theorem x_X3_parts_47_ok {ms : xS} {rr : xR} {a0 : Nat} {a1 : Int32} {a2 : Int32} {s0 : Int32} {s1 : Int32} {s2 : Nat} {r : xR} (h : x_X3_parts_47  a0 a1 a2 s0 s1 s2 r = some rr) : xB xLL yX3_parts cX3_parts 5 none 4 90 47 [some (.inr (.inr (some (312 + 18 * a0))) : xV), some (.inl (a1) : xV), some (.inl (a2) : xV), none, none] [(.inl (s0) : xV), (.inl (s1) : xV), (.inr (.inr (some (300 + s2))) : xV)] (ms, r) none (ms, rr) := by
  refine q_iast 48 rfl dX3_parts_47 h (fun r1 h => ?_)
  refine x_aload_n (i := 0) 49 rfl dX3_parts_48 rfl rfl ?_
  refine x_gok h (fun hg h => ?_)
  refine g_get (k := 2) 52 rfl dX3_parts_49 (by decide) q298 hg rfl ?_
  refine x_iload_n (i := 2) 53 rfl dX3_parts_52 rfl rfl ?_
  refine x_gok h (fun hg h => ?_)
  refine x_ix h (fun hi h => ?_)
  refine q_ends hg hi 54 rfl dX3_parts_53 ?_
  refine x_iload_n (i := 1) 55 rfl dX3_parts_54 rfl rfl ?_
  refine x_bok h (fun hb h => ?_)
  refine x_cl h (fun q3 hq h => ?_)
  refine x_callV (as := [(.inl (a1) : xV)]) (rest := []) (vv := none) (w2 := (ms, q3)) (C := RJ6) (T := TJ6) (N := 3) 58 rfl dX3_parts_55 (x_J6_set_ct hq) (Or.inl (xcell_XB hb).1) rfl (lw_V q956 q957 q958 q127 q959) rfl ydJ6_set rfl ⟨Nat.le_of_ble_eq_true rfl, Nat.le_of_ble_eq_true rfl⟩ (Nat.le_of_ble_eq_true rfl) rfl ?_
  change xB xLL yX3_parts cX3_parts 5 none 4 90 58 [some (.inr (.inr (some (312 + 18 * a0))) : xV), some (.inl (a1) : xV), some (.inl (a2) : xV), none, none] [] (ms, q3) _ _
  refine x_aload_n (i := 0) 59 rfl dX3_parts_58 rfl rfl ?_
  refine x_gok h (fun hg h => ?_)
  refine g_get (k := 2) 62 rfl dX3_parts_59 (by decide) q298 hg rfl ?_
  refine x_aload_n (i := 0) 63 rfl dX3_parts_62 rfl rfl ?_
  refine x_gok h (fun hg h => ?_)
  refine g_get (k := 6) 66 rfl dX3_parts_63 (by decide) q304 hg rfl ?_
  refine x_gok h (fun hg h => ?_)
  refine x_ix h (fun hi h => ?_)
  refine q_ends hg hi 67 rfl dX3_parts_66 ?_
  refine x_iload_n (i := 1) 68 rfl dX3_parts_67 rfl rfl ?_
  refine x_bok h (fun hb h => ?_)
  refine x_cl h (fun q5 hq h => ?_)
  refine x_callV (as := [(.inl (a1) : xV)]) (rest := []) (vv := none) (w2 := (ms, q5)) (C := RJ6) (T := TJ6) (N := 3) 71 rfl dX3_parts_68 (x_J6_set_ct hq) (Or.inl (xcell_XB hb).1) rfl (lw_V q956 q957 q958 q127 q959) rfl ydJ6_set rfl ⟨Nat.le_of_ble_eq_true rfl, Nat.le_of_ble_eq_true rfl⟩ (Nat.le_of_ble_eq_true rfl) rfl ?_
  change xB xLL yX3_parts cX3_parts 5 none 4 90 71 [some (.inr (.inr (some (312 + 18 * a0))) : xV), some (.inl (a1) : xV), some (.inl (a2) : xV), none, none] [] (ms, q5) _ _
  refine x_aload_n (i := 0) 72 rfl dX3_parts_71 rfl rfl ?_
  refine x_dup 73 rfl dX3_parts_72 rfl ?_
  refine x_gok h (fun hg h => ?_)
  refine g_get (k := 6) 76 rfl dX3_parts_73 (by decide) q304 hg rfl ?_
  refine x_iconst (1 : Int32) 77 rfl dX3_parts_76 rfl ?_
  refine x_iadd 78 rfl dX3_parts_77 ?_
  refine x_gok h (fun hg h => ?_)
  refine g_puti (k := 6) (z := 0) 81 rfl dX3_parts_78 (by decide) hg rfl (Or.inl rfl) rfl q304 h (fun r6 h => ?_)
  cases h
  exact x_vret rfl dX3_parts_81
def x_X3_parts_28 (a0 : Nat) (a1 : Int32) (a2 : Int32) (a4 : Int32) (s0 : Int32) (s1 : Int32) (s2 : Nat) (r : xR) : Option (xR) := qwr r s2 s1 s0 fun r7 => gok a0 <| if a4 = 0 then gok a0 <| x_X3_parts_47 a0 a1 a2 (r7.1.1 (12 + 18 * a0) 6) a1 (14 + 18 * a0) r7 else x_X3_parts_47 a0 a1 a2 a2 a1 (14 + 18 * a0) r7
theorem x_X3_parts_28_ok {ms : xS} {rr : xR} {a0 : Nat} {a1 : Int32} {a2 : Int32} {a4 : Int32} {s0 : Int32} {s1 : Int32} {s2 : Nat} {r : xR} (h : x_X3_parts_28  a0 a1 a2 a4 s0 s1 s2 r = some rr) : xB xLL yX3_parts cX3_parts 5 none 4 90 28 [some (.inr (.inr (some (312 + 18 * a0))) : xV), some (.inl (a1) : xV), some (.inl (a2) : xV), none, some (.inl (a4) : xV)] [(.inl (s0) : xV), (.inl (s1) : xV), (.inr (.inr (some (300 + s2))) : xV)] (ms, r) none (ms, rr) := by
  refine q_iast 29 rfl dX3_parts_28 h (fun r7 h => ?_)
  refine x_aload_n (i := 0) 30 rfl dX3_parts_29 rfl rfl ?_
  refine x_gok h (fun hg h => ?_)
  refine g_get (k := 1) 33 rfl dX3_parts_30 (by decide) q296 hg rfl ?_
  refine x_iload_n (i := 1) 34 rfl dX3_parts_33 rfl rfl ?_
  refine x_iload (i := 4) 36 rfl dX3_parts_34 rfl ?_
  refine x_if_ne 46 39 rfl dX3_parts_36 rfl h (fun h => ?_) (fun h => ?_)
  · refine x_iload_n (i := 2) 47 rfl dX3_parts_46 rfl rfl ?_
    exact xB.le (xle.s (xle.s (xle.s (xle.n (xle.n xle.z))))) (x_X3_parts_47_ok h)
  · refine x_aload_n (i := 0) 40 rfl dX3_parts_39 rfl rfl ?_
    refine x_gok h (fun hg h => ?_)
    refine g_get (k := 6) 43 rfl dX3_parts_40 (by decide) q304 hg rfl ?_
    refine x_goto 47 dX3_parts_43 rfl ?_
    exact xB.le (xle.s (xle.s (xle.s (xle.n (xle.n xle.z))))) (x_X3_parts_47_ok h)
def x_X3_parts (a0 : Nat) (a1 : Int32) (a2 : Int32) (a3 : Int32) (a4 : Int32) (r : xR) : Option (xR) := gok a0 <| gok a0 <| cl (x_X3_moves a0 a3 a2 (r.1.1 (12 + 18 * a0) 6) r) fun q8 => gok a0 <| if a4 = 0 then x_X3_parts_28 a0 a1 a2 a4 a2 a1 (13 + 18 * a0) q8 else gok a0 <| x_X3_parts_28 a0 a1 a2 a4 (q8.1.1 (12 + 18 * a0) 6) a1 (13 + 18 * a0) q8
theorem x_X3_parts_ct {ms : xS} {rr : xR} {a0 : Nat} {a1 : Int32} {a2 : Int32} {a3 : Int32} {a4 : Int32} {r : xR} (h : x_X3_parts a0 a1 a2 a3 a4 r = some rr) : xCt xLL yX3_parts cX3_parts 5 none 4 90 [(.inr (.inr (some (312 + 18 * a0))) : xV), (.inl (a1) : xV), (.inl (a2) : xV), (.inl (a3) : xV), (.inl (a4) : xV)] (ms, r) none (ms, rr) := by
  refine xCt.of (lv := [some (.inr (.inr (some (312 + 18 * a0))) : xV), some (.inl (a1) : xV), some (.inl (a2) : xV), some (.inl (a3) : xV), some (.inl (a4) : xV)]) pl_X3 (Nat.le_of_ble_eq_true rfl) (xle.s (xle.s (xle.s (xle.s (xle.s xle.z))))) ?_
  refine x_aload_n (i := 0) 1 rfl dX3_parts_0 rfl rfl ?_
  refine x_iload_n (i := 3) 2 rfl dX3_parts_1 rfl rfl ?_
  refine x_iload_n (i := 2) 3 rfl dX3_parts_2 rfl rfl ?_
  refine x_aload_n (i := 0) 4 rfl dX3_parts_3 rfl rfl ?_
  refine x_gok h (fun hg h => ?_)
  refine g_get (k := 6) 7 rfl dX3_parts_4 (by decide) q304 hg rfl ?_
  refine x_gok h (fun hg h => ?_)
  refine x_cl h (fun q8 hq h => ?_)
  refine x_callV (as := [(.inl (a3) : xV), (.inl (a2) : xV), (.inl (r.1.1 (12 + 18 * a0) 6) : xV)]) (rest := []) (vv := none) (w2 := (ms, q8)) (C := RX3) (T := TX3) (N := 8) 10 rfl dX3_parts_7 (x_X3_moves_ct hq) (Or.inl (xcell_XG hg)) rfl (lw_V q943 q945 qs34 q126 q946) rfl ydX3_moves rfl ⟨Nat.le_of_ble_eq_true rfl, Nat.le_of_ble_eq_true rfl⟩ (Nat.le_of_ble_eq_true rfl) rfl ?_
  change xB xLL yX3_parts cX3_parts 5 none 4 90 10 [some (.inr (.inr (some (312 + 18 * a0))) : xV), some (.inl (a1) : xV), some (.inl (a2) : xV), some (.inl (a3) : xV), some (.inl (a4) : xV)] [] (ms, q8) _ _
  refine x_aload_n (i := 0) 11 rfl dX3_parts_10 rfl rfl ?_
  refine x_gok h (fun hg h => ?_)
  refine g_get (k := 0) 14 rfl dX3_parts_11 (by decide) q294 hg rfl ?_
  refine x_iload_n (i := 1) 15 rfl dX3_parts_14 rfl rfl ?_
  refine x_iload (i := 4) 17 rfl dX3_parts_15 rfl ?_
  refine x_if_ne 24 20 rfl dX3_parts_17 rfl h (fun h => ?_) (fun h => ?_)
  · refine x_aload_n (i := 0) 25 rfl dX3_parts_24 rfl rfl ?_
    refine x_gok h (fun hg h => ?_)
    refine g_get (k := 6) 28 rfl dX3_parts_25 (by decide) q304 hg rfl ?_
    exact xB.le (xle.s (xle.s (xle.s (xle.n (xle.s xle.z))))) (x_X3_parts_28_ok h)
  · refine x_iload_n (i := 2) 21 rfl dX3_parts_20 rfl rfl ?_
    refine x_goto 28 dX3_parts_21 rfl ?_
    exact xB.le (xle.s (xle.s (xle.s (xle.n (xle.s xle.z))))) (x_X3_parts_28_ok h)
/-! UnimodularTables$Growth.tail(II)I -/
theorem ydX3_tail : xHd yX3_tail 2 := by decide +kernel
def x_X3_tail (a0 : Nat) (a1 : Int32) (a2 : Int32) (r : xR) : Option (Int32 × xR) := gok a0 <| lt (r.1.2.2 (12 + 18 * a0) 5) fun p1 => nn p1 fun p2 => dgr xLL r p2 2 2 fun p3 => nn p3 fun p4 => dar xLL r p4 a1 fun p5 => nn p5 fun p6 => dai xLL r p6 a2 fun x7 => if x7 ≤ 0 then gok a0 <| qrd r (14 + 18 * a0) a1 fun x8 => some (x8, r) else gok a0 <| qrd r (13 + 18 * a0) a1 fun x9 => some (x9, r)
theorem x_X3_tail_ct {ms : xS} {rr : Int32 × xR} {a0 : Nat} {a1 : Int32} {a2 : Int32} {r : xR} (h : x_X3_tail a0 a1 a2 r = some rr) : xCt xLL yX3_tail cX3_tail 3 (some .int) 0 0 [(.inr (.inr (some (312 + 18 * a0))) : xV), (.inl (a1) : xV), (.inl (a2) : xV)] (ms, r) (some (.inl rr.1)) (ms, rr.2) := by
  refine xCt.of (lv := [some (.inr (.inr (some (312 + 18 * a0))) : xV), some (.inl (a1) : xV), some (.inl (a2) : xV)]) pl_X3 (Nat.le_of_ble_eq_true rfl) (xle.s (xle.s (xle.s xle.z))) ?_
  refine x_aload_n (i := 0) 1 rfl dX3_tail_0 rfl rfl ?_
  refine x_gok h (fun hg h => ?_)
  refine g_get (k := 5) 4 rfl dX3_tail_1 (by decide) q302 hg rfl ?_
  refine x_ltr h (fun p1 h => ?_)
  refine x_nnP (P := fun p1 => xB xLL yX3_tail cX3_tail 3 (some .int) 0 0 4 [some (.inr (.inr (some (312 + 18 * a0))) : xV), some (.inl (a1) : xV), some (.inl (a2) : xV)] [(.inr (.inr (p1)) : xV)] (ms, r) (some (.inl rr.1)) (ms, rr.2)) h (fun p2 h => ?_)
  refine d_getrN (ci := 2) (k := 2) (C := RX4) (T := TX4) (N := 3) 7 rfl dX3_tail_4 rfl in_X4 (by decide) (List.mem_of_getElem? (i := 10) rfl) h (fun p3 h => ?_)
  refine x_iload_n (i := 1) 8 rfl dX3_tail_7 rfl rfl ?_
  refine x_nnP (P := fun p3 => xB xLL yX3_tail cX3_tail 3 (some .int) 0 0 8 [some (.inr (.inr (some (312 + 18 * a0))) : xV), some (.inl (a1) : xV), some (.inl (a2) : xV)] [(.inl (a1) : xV), (.inr (.inr (p3)) : xV)] (ms, r) (some (.inl rr.1)) (ms, rr.2)) h (fun p4 h => ?_)
  refine d_aald 9 rfl dX3_tail_8 h (fun p5 h => ?_)
  refine x_iload_n (i := 2) 10 rfl dX3_tail_9 rfl rfl ?_
  refine x_nnP (P := fun p5 => xB xLL yX3_tail cX3_tail 3 (some .int) 0 0 10 [some (.inr (.inr (some (312 + 18 * a0))) : xV), some (.inl (a1) : xV), some (.inl (a2) : xV)] [(.inl (a2) : xV), (.inr (.inr (p5)) : xV)] (ms, r) (some (.inl rr.1)) (ms, rr.2)) h (fun p6 h => ?_)
  refine d_iald 11 rfl dX3_tail_10 h (fun x7 h => ?_)
  refine x_if_le 23 14 rfl dX3_tail_11 rfl h (fun h => ?_) (fun h => ?_)
  · refine x_aload_n (i := 0) 24 rfl dX3_tail_23 rfl rfl ?_
    refine x_gok h (fun hg h => ?_)
    refine g_get (k := 1) 27 rfl dX3_tail_24 (by decide) q296 hg rfl ?_
    refine x_iload_n (i := 1) 28 rfl dX3_tail_27 rfl rfl ?_
    refine q_iald 29 rfl dX3_tail_28 h (fun x8 h => ?_)
    cases h
    exact x_iret rfl dX3_tail_29
  · refine x_aload_n (i := 0) 15 rfl dX3_tail_14 rfl rfl ?_
    refine x_gok h (fun hg h => ?_)
    refine g_get (k := 0) 18 rfl dX3_tail_15 (by decide) q294 hg rfl ?_
    refine x_iload_n (i := 1) 19 rfl dX3_tail_18 rfl rfl ?_
    refine q_iald 20 rfl dX3_tail_19 h (fun x9 h => ?_)
    refine x_goto 29 dX3_tail_20 rfl ?_
    cases h
    exact x_iret rfl dX3_tail_29
/-! UnimodularTables$Growth.head(II)I -/
theorem ydX3_head : xHd yX3_head 2 := by decide +kernel
def x_X3_head (a0 : Nat) (a1 : Int32) (a2 : Int32) (r : xR) : Option (Int32 × xR) := gok a0 <| lt (r.1.2.2 (12 + 18 * a0) 5) fun p1 => nn p1 fun p2 => dgr xLL r p2 2 2 fun p3 => nn p3 fun p4 => dar xLL r p4 a1 fun p5 => nn p5 fun p6 => dai xLL r p6 a2 fun x7 => if x7 ≤ 0 then gok a0 <| qrd r (13 + 18 * a0) a1 fun x8 => some (x8, r) else gok a0 <| qrd r (14 + 18 * a0) a1 fun x9 => some (x9, r)
theorem x_X3_head_ct {ms : xS} {rr : Int32 × xR} {a0 : Nat} {a1 : Int32} {a2 : Int32} {r : xR} (h : x_X3_head a0 a1 a2 r = some rr) : xCt xLL yX3_head cX3_head 3 (some .int) 0 0 [(.inr (.inr (some (312 + 18 * a0))) : xV), (.inl (a1) : xV), (.inl (a2) : xV)] (ms, r) (some (.inl rr.1)) (ms, rr.2) := by
  refine xCt.of (lv := [some (.inr (.inr (some (312 + 18 * a0))) : xV), some (.inl (a1) : xV), some (.inl (a2) : xV)]) pl_X3 (Nat.le_of_ble_eq_true rfl) (xle.s (xle.s (xle.s xle.z))) ?_
  refine x_aload_n (i := 0) 1 rfl dX3_head_0 rfl rfl ?_
  refine x_gok h (fun hg h => ?_)
  refine g_get (k := 5) 4 rfl dX3_head_1 (by decide) q302 hg rfl ?_
  refine x_ltr h (fun p1 h => ?_)
  refine x_nnP (P := fun p1 => xB xLL yX3_head cX3_head 3 (some .int) 0 0 4 [some (.inr (.inr (some (312 + 18 * a0))) : xV), some (.inl (a1) : xV), some (.inl (a2) : xV)] [(.inr (.inr (p1)) : xV)] (ms, r) (some (.inl rr.1)) (ms, rr.2)) h (fun p2 h => ?_)
  refine d_getrN (ci := 2) (k := 2) (C := RX4) (T := TX4) (N := 3) 7 rfl dX3_head_4 rfl in_X4 (by decide) (List.mem_of_getElem? (i := 10) rfl) h (fun p3 h => ?_)
  refine x_iload_n (i := 1) 8 rfl dX3_head_7 rfl rfl ?_
  refine x_nnP (P := fun p3 => xB xLL yX3_head cX3_head 3 (some .int) 0 0 8 [some (.inr (.inr (some (312 + 18 * a0))) : xV), some (.inl (a1) : xV), some (.inl (a2) : xV)] [(.inl (a1) : xV), (.inr (.inr (p3)) : xV)] (ms, r) (some (.inl rr.1)) (ms, rr.2)) h (fun p4 h => ?_)
  refine d_aald 9 rfl dX3_head_8 h (fun p5 h => ?_)
  refine x_iload_n (i := 2) 10 rfl dX3_head_9 rfl rfl ?_
  refine x_nnP (P := fun p5 => xB xLL yX3_head cX3_head 3 (some .int) 0 0 10 [some (.inr (.inr (some (312 + 18 * a0))) : xV), some (.inl (a1) : xV), some (.inl (a2) : xV)] [(.inl (a2) : xV), (.inr (.inr (p5)) : xV)] (ms, r) (some (.inl rr.1)) (ms, rr.2)) h (fun p6 h => ?_)
  refine d_iald 11 rfl dX3_head_10 h (fun x7 h => ?_)
  refine x_if_le 23 14 rfl dX3_head_11 rfl h (fun h => ?_) (fun h => ?_)
  · refine x_aload_n (i := 0) 24 rfl dX3_head_23 rfl rfl ?_
    refine x_gok h (fun hg h => ?_)
    refine g_get (k := 0) 27 rfl dX3_head_24 (by decide) q294 hg rfl ?_
    refine x_iload_n (i := 1) 28 rfl dX3_head_27 rfl rfl ?_
    refine q_iald 29 rfl dX3_head_28 h (fun x8 h => ?_)
    cases h
    exact x_iret rfl dX3_head_29
  · refine x_aload_n (i := 0) 15 rfl dX3_head_14 rfl rfl ?_
    refine x_gok h (fun hg h => ?_)
    refine g_get (k := 1) 18 rfl dX3_head_15 (by decide) q296 hg rfl ?_
    refine x_iload_n (i := 1) 19 rfl dX3_head_18 rfl rfl ?_
    refine q_iald 20 rfl dX3_head_19 h (fun x9 h => ?_)
    refine x_goto 29 dX3_head_20 rfl ?_
    cases h
    exact x_iret rfl dX3_head_29
/-! UnimodularTables$Growth.areWays(I)Z -/
theorem ydX3_areWays : xHd yX3_areWays 1 := by decide +kernel
def x_X3_areWays_102 (rec2 : Nat → Int32 → Int32 → xR → Option (Int32 × xR)) (rec21 : Nat → Int32 → Int32 → Int32 → Int32 → Int32 → xR → Option (Int32 × xR)) (a0 : Nat) (a1 : Int32) (a2 : Int32) (a3 : Int32) (a4 : Int32) (a5 : Int32) (r : xR) : Option (Int32 × xR) := lt (a5 + (1 : Int32)) fun x1 => rec21 a0 a1 a2 a3 a4 x1 r
theorem x_X3_areWays_102_ok {ms : xS} {rr : Int32 × xR} {rec2 : Nat → Int32 → Int32 → xR → Option (Int32 × xR)} {rec21 : Nat → Int32 → Int32 → Int32 → Int32 → Int32 → xR → Option (Int32 × xR)} (hr2 : ∀ {a0 : Nat} {a1 : Int32} {a2 : Int32} {r : xR}, rec2 a0 a1 a2 r = some rr → xB xLL yX3_areWays cX3_areWays 6 (some .boolean) 1 22 2 [some (.inr (.inr (some (312 + 18 * a0))) : xV), some (.inl (a1) : xV), some (.inl (a2) : xV), none, none, none] [] (ms, r) (some (.inl rr.1)) (ms, rr.2)) (hr21 : ∀ {a0 : Nat} {a1 : Int32} {a2 : Int32} {a3 : Int32} {a4 : Int32} {a5 : Int32} {r : xR}, rec21 a0 a1 a2 a3 a4 a5 r = some rr → xB xLL yX3_areWays cX3_areWays 6 (some .boolean) 1 22 21 [some (.inr (.inr (some (312 + 18 * a0))) : xV), some (.inl (a1) : xV), some (.inl (a2) : xV), some (.inl (a3) : xV), some (.inl (a4) : xV), some (.inl (a5) : xV)] [] (ms, r) (some (.inl rr.1)) (ms, rr.2)) {a0 : Nat} {a1 : Int32} {a2 : Int32} {a3 : Int32} {a4 : Int32} {a5 : Int32} {r : xR} (h : x_X3_areWays_102 rec2 rec21 a0 a1 a2 a3 a4 a5 r = some rr) : xB xLL yX3_areWays cX3_areWays 6 (some .boolean) 1 22 102 [some (.inr (.inr (some (312 + 18 * a0))) : xV), some (.inl (a1) : xV), some (.inl (a2) : xV), some (.inl (a3) : xV), some (.inl (a4) : xV), some (.inl (a5) : xV)] [] (ms, r) (some (.inl rr.1)) (ms, rr.2) := by
  refine x_iincL (i := 5) (1 : Int32) 105 rfl dX3_areWays_102 rfl rfl (by decide) h (fun x1 h => ?_)
  change xB xLL yX3_areWays cX3_areWays 6 (some .boolean) 1 22 105 [some (.inr (.inr (some (312 + 18 * a0))) : xV), some (.inl (a1) : xV), some (.inl (a2) : xV), some (.inl (a3) : xV), some (.inl (a4) : xV), some (.inl (x1) : xV)] [] (ms, r) _ _
  refine x_goto 21 dX3_areWays_105 rfl ?_
  exact xB.le (xle.s (xle.s (xle.s (xle.s (xle.s (xle.s xle.z)))))) (hr21 h)
def x_X3_areWays_21_s (rec2 : Nat → Int32 → Int32 → xR → Option (Int32 × xR)) (rec21 : Nat → Int32 → Int32 → Int32 → Int32 → Int32 → xR → Option (Int32 × xR)) (a0 : Nat) (a1 : Int32) (a2 : Int32) (a3 : Int32) (a4 : Int32) (a5 : Int32) (r : xR) : Option (Int32 × xR) := if a1 ≤ a5 then cl (p_J18_bitCount (a3 &&& (a4 ^^^ (-1 : Int32)))) fun q2 => if q2 ≤ (1 : Int32) then lt (a2 + (1 : Int32)) fun x3 => rec2 a0 a1 x3 r else some ((0 : Int32), r) else gok a0 <| lt (r.1.2.2 (12 + 18 * a0) 5) fun p4 => nn p4 fun p5 => dgr xLL r p5 2 2 fun p6 => nn p6 fun p7 => dar xLL r p7 a5 fun p8 => nn p8 fun p9 => dai xLL r p9 a2 fun x10 => if x10 = 0 then x_X3_areWays_102 rec2 rec21 a0 a1 a2 a3 a4 a5 r else gok a0 <| cl (x_X3_tail a0 a5 a2 r) fun q11 => cl (p_X1_has a3 q11.1) fun q12 => if q12 = 0 then gok a0 <| cl (x_X3_head a0 a5 a2 q11.2) fun q13 => cl (p_X1_has a4 q13.1) fun q14 => if q14 = 0 then gok a0 <| cl (x_X3_tail a0 a5 a2 q13.2) fun q15 => lt (a3 ||| (jshl (1 : Int32) q15.1)) fun x16 => gok a0 <| cl (x_X3_head a0 a5 a2 q15.2) fun q17 => lt (a4 ||| (jshl (1 : Int32) q17.1)) fun x18 => x_X3_areWays_102 rec2 rec21 a0 a1 a2 x16 x18 a5 q17.2 else some ((0 : Int32), q13.2) else some ((0 : Int32), q11.2)
theorem x_X3_areWays_21_s_ok {ms : xS} {rr : Int32 × xR} {rec2 : Nat → Int32 → Int32 → xR → Option (Int32 × xR)} {rec21 : Nat → Int32 → Int32 → Int32 → Int32 → Int32 → xR → Option (Int32 × xR)} (hr2 : ∀ {a0 : Nat} {a1 : Int32} {a2 : Int32} {r : xR}, rec2 a0 a1 a2 r = some rr → xB xLL yX3_areWays cX3_areWays 6 (some .boolean) 1 22 2 [some (.inr (.inr (some (312 + 18 * a0))) : xV), some (.inl (a1) : xV), some (.inl (a2) : xV), none, none, none] [] (ms, r) (some (.inl rr.1)) (ms, rr.2)) (hr21 : ∀ {a0 : Nat} {a1 : Int32} {a2 : Int32} {a3 : Int32} {a4 : Int32} {a5 : Int32} {r : xR}, rec21 a0 a1 a2 a3 a4 a5 r = some rr → xB xLL yX3_areWays cX3_areWays 6 (some .boolean) 1 22 21 [some (.inr (.inr (some (312 + 18 * a0))) : xV), some (.inl (a1) : xV), some (.inl (a2) : xV), some (.inl (a3) : xV), some (.inl (a4) : xV), some (.inl (a5) : xV)] [] (ms, r) (some (.inl rr.1)) (ms, rr.2)) {a0 : Nat} {a1 : Int32} {a2 : Int32} {a3 : Int32} {a4 : Int32} {a5 : Int32} {r : xR} (h : x_X3_areWays_21_s rec2 rec21 a0 a1 a2 a3 a4 a5 r = some rr) : xB xLL yX3_areWays cX3_areWays 6 (some .boolean) 1 22 21 [some (.inr (.inr (some (312 + 18 * a0))) : xV), some (.inl (a1) : xV), some (.inl (a2) : xV), some (.inl (a3) : xV), some (.inl (a4) : xV), some (.inl (a5) : xV)] [] (ms, r) (some (.inl rr.1)) (ms, rr.2) := by
  refine x_iload (i := 5) 23 rfl dX3_areWays_21 rfl ?_
  refine x_iload_n (i := 1) 24 rfl dX3_areWays_23 rfl rfl ?_
  refine x_icmp_ge 108 27 rfl dX3_areWays_24 rfl h (fun h => ?_) (fun h => ?_)
  · refine x_iload_n (i := 3) 109 rfl dX3_areWays_108 rfl rfl ?_
    refine x_iload (i := 4) 111 rfl dX3_areWays_109 rfl ?_
    refine x_iconst (-1 : Int32) 112 rfl dX3_areWays_111 rfl ?_
    refine x_ixor 113 rfl dX3_areWays_112 ?_
    refine x_iand 114 rfl dX3_areWays_113 ?_
    refine x_cl h (fun q2 hq h => ?_)
    refine x_callS (as := [(.inl (a3 &&& (a4 ^^^ (-1 : Int32))) : xV)]) (rest := []) (vv := (some (.inl (q2) : xV))) (w2 := (ms, r)) 117 rfl dX3_areWays_114 (p_J18_bitCount_ct hq) (lw_S q993 q824 q142 q825) ydJ18_bitCount rfl ⟨Nat.le_of_ble_eq_true rfl, Nat.le_of_ble_eq_true rfl⟩ (Nat.le_of_ble_eq_true rfl) rfl ?_
    change xB xLL yX3_areWays cX3_areWays 6 (some .boolean) 1 22 117 [some (.inr (.inr (some (312 + 18 * a0))) : xV), some (.inl (a1) : xV), some (.inl (a2) : xV), some (.inl (a3) : xV), some (.inl (a4) : xV), some (.inl (a5) : xV)] [(.inl (q2) : xV)] (ms, r) _ _
    refine x_iconst (1 : Int32) 118 rfl dX3_areWays_117 rfl ?_
    refine x_icmp_le 123 121 rfl dX3_areWays_118 rfl h (fun h => ?_) (fun h => ?_)
    · refine x_iincL (i := 2) (1 : Int32) 126 rfl dX3_areWays_123 rfl rfl (by decide) h (fun x3 h => ?_)
      change xB xLL yX3_areWays cX3_areWays 6 (some .boolean) 1 22 126 [some (.inr (.inr (some (312 + 18 * a0))) : xV), some (.inl (a1) : xV), some (.inl (x3) : xV), some (.inl (a3) : xV), some (.inl (a4) : xV), some (.inl (a5) : xV)] [] (ms, r) _ _
      refine x_goto 2 dX3_areWays_126 rfl ?_
      exact xB.le (xle.s (xle.s (xle.s (xle.n (xle.n (xle.n xle.z)))))) (hr2 h)
    · refine x_iconst (0 : Int32) 122 rfl dX3_areWays_121 rfl ?_
      cases h
      exact x_zret rfl (Or.inl rfl) dX3_areWays_122
  · refine x_aload_n (i := 0) 28 rfl dX3_areWays_27 rfl rfl ?_
    refine x_gok h (fun hg h => ?_)
    refine g_get (k := 5) 31 rfl dX3_areWays_28 (by decide) q302 hg rfl ?_
    refine x_ltr h (fun p4 h => ?_)
    refine x_nnP (P := fun p4 => xB xLL yX3_areWays cX3_areWays 6 (some .boolean) 1 22 31 [some (.inr (.inr (some (312 + 18 * a0))) : xV), some (.inl (a1) : xV), some (.inl (a2) : xV), some (.inl (a3) : xV), some (.inl (a4) : xV), some (.inl (a5) : xV)] [(.inr (.inr (p4)) : xV)] (ms, r) (some (.inl rr.1)) (ms, rr.2)) h (fun p5 h => ?_)
    refine d_getrN (ci := 2) (k := 2) (C := RX4) (T := TX4) (N := 3) 34 rfl dX3_areWays_31 rfl in_X4 (by decide) (List.mem_of_getElem? (i := 10) rfl) h (fun p6 h => ?_)
    refine x_iload (i := 5) 36 rfl dX3_areWays_34 rfl ?_
    refine x_nnP (P := fun p6 => xB xLL yX3_areWays cX3_areWays 6 (some .boolean) 1 22 36 [some (.inr (.inr (some (312 + 18 * a0))) : xV), some (.inl (a1) : xV), some (.inl (a2) : xV), some (.inl (a3) : xV), some (.inl (a4) : xV), some (.inl (a5) : xV)] [(.inl (a5) : xV), (.inr (.inr (p6)) : xV)] (ms, r) (some (.inl rr.1)) (ms, rr.2)) h (fun p7 h => ?_)
    refine d_aald 37 rfl dX3_areWays_36 h (fun p8 h => ?_)
    refine x_iload_n (i := 2) 38 rfl dX3_areWays_37 rfl rfl ?_
    refine x_nnP (P := fun p8 => xB xLL yX3_areWays cX3_areWays 6 (some .boolean) 1 22 38 [some (.inr (.inr (some (312 + 18 * a0))) : xV), some (.inl (a1) : xV), some (.inl (a2) : xV), some (.inl (a3) : xV), some (.inl (a4) : xV), some (.inl (a5) : xV)] [(.inl (a2) : xV), (.inr (.inr (p8)) : xV)] (ms, r) (some (.inl rr.1)) (ms, rr.2)) h (fun p9 h => ?_)
    refine d_iald 39 rfl dX3_areWays_38 h (fun x10 h => ?_)
    refine x_if_ne 45 42 rfl dX3_areWays_39 rfl h (fun h => ?_) (fun h => ?_)
    · refine x_iload_n (i := 3) 46 rfl dX3_areWays_45 rfl rfl ?_
      refine x_aload_n (i := 0) 47 rfl dX3_areWays_46 rfl rfl ?_
      refine x_iload (i := 5) 49 rfl dX3_areWays_47 rfl ?_
      refine x_iload_n (i := 2) 50 rfl dX3_areWays_49 rfl rfl ?_
      refine x_gok h (fun hg h => ?_)
      refine x_cl h (fun q11 hq h => ?_)
      refine x_callV (as := [(.inl (a5) : xV), (.inl (a2) : xV)]) (rest := [(.inl (a3) : xV)]) (vv := (some (.inl (q11.1) : xV))) (w2 := (ms, q11.2)) (C := RX3) (T := TX3) (N := 8) 53 rfl dX3_areWays_50 (x_X3_tail_ct hq) (Or.inl (xcell_XG hg)) rfl (lw_V q985 q987 qs39 q126 q988) rfl ydX3_tail rfl ⟨Nat.le_of_ble_eq_true rfl, Nat.le_of_ble_eq_true rfl⟩ (Nat.le_of_ble_eq_true rfl) rfl ?_
      change xB xLL yX3_areWays cX3_areWays 6 (some .boolean) 1 22 53 [some (.inr (.inr (some (312 + 18 * a0))) : xV), some (.inl (a1) : xV), some (.inl (a2) : xV), some (.inl (a3) : xV), some (.inl (a4) : xV), some (.inl (a5) : xV)] [(.inl (q11.1) : xV), (.inl (a3) : xV)] (ms, q11.2) _ _
      refine x_cl h (fun q12 hq h => ?_)
      refine x_callSN (vv := (some (.inl (q12) : xV))) (w2 := (ms, q11.2)) [] 56 rfl dX3_areWays_53 (p_X1_has_ct hq) (List.mem_of_getElem? (i := 12) rfl) q841 q118 q842 ydX1_has rfl ⟨Nat.le_of_ble_eq_true rfl, Nat.le_of_ble_eq_true rfl⟩ (Nat.le_of_ble_eq_true rfl) rfl ?_
      change xB xLL yX3_areWays cX3_areWays 6 (some .boolean) 1 22 56 [some (.inr (.inr (some (312 + 18 * a0))) : xV), some (.inl (a1) : xV), some (.inl (a2) : xV), some (.inl (a3) : xV), some (.inl (a4) : xV), some (.inl (a5) : xV)] [(.inl (q12) : xV)] (ms, q11.2) _ _
      refine x_if_ne 74 59 rfl dX3_areWays_56 rfl h (fun h => ?_) (fun h => ?_)
      · refine x_iconst (0 : Int32) 75 rfl dX3_areWays_74 rfl ?_
        cases h
        exact x_zret rfl (Or.inl rfl) dX3_areWays_75
      · refine x_iload (i := 4) 61 rfl dX3_areWays_59 rfl ?_
        refine x_aload_n (i := 0) 62 rfl dX3_areWays_61 rfl rfl ?_
        refine x_iload (i := 5) 64 rfl dX3_areWays_62 rfl ?_
        refine x_iload_n (i := 2) 65 rfl dX3_areWays_64 rfl rfl ?_
        refine x_gok h (fun hg h => ?_)
        refine x_cl h (fun q13 hq h => ?_)
        refine x_callV (as := [(.inl (a5) : xV), (.inl (a2) : xV)]) (rest := [(.inl (a4) : xV)]) (vv := (some (.inl (q13.1) : xV))) (w2 := (ms, q13.2)) (C := RX3) (T := TX3) (N := 8) 68 rfl dX3_areWays_65 (x_X3_head_ct hq) (Or.inl (xcell_XG hg)) rfl (lw_V q989 q991 qs40 q126 q992) rfl ydX3_head rfl ⟨Nat.le_of_ble_eq_true rfl, Nat.le_of_ble_eq_true rfl⟩ (Nat.le_of_ble_eq_true rfl) rfl ?_
        change xB xLL yX3_areWays cX3_areWays 6 (some .boolean) 1 22 68 [some (.inr (.inr (some (312 + 18 * a0))) : xV), some (.inl (a1) : xV), some (.inl (a2) : xV), some (.inl (a3) : xV), some (.inl (a4) : xV), some (.inl (a5) : xV)] [(.inl (q13.1) : xV), (.inl (a4) : xV)] (ms, q13.2) _ _
        refine x_cl h (fun q14 hq h => ?_)
        refine x_callSN (vv := (some (.inl (q14) : xV))) (w2 := (ms, q13.2)) [] 71 rfl dX3_areWays_68 (p_X1_has_ct hq) (List.mem_of_getElem? (i := 12) rfl) q841 q118 q842 ydX1_has rfl ⟨Nat.le_of_ble_eq_true rfl, Nat.le_of_ble_eq_true rfl⟩ (Nat.le_of_ble_eq_true rfl) rfl ?_
        change xB xLL yX3_areWays cX3_areWays 6 (some .boolean) 1 22 71 [some (.inr (.inr (some (312 + 18 * a0))) : xV), some (.inl (a1) : xV), some (.inl (a2) : xV), some (.inl (a3) : xV), some (.inl (a4) : xV), some (.inl (a5) : xV)] [(.inl (q14) : xV)] (ms, q13.2) _ _
        refine x_if_eq 76 74 rfl dX3_areWays_71 rfl h (fun h => ?_) (fun h => ?_)
        · refine x_iload_n (i := 3) 77 rfl dX3_areWays_76 rfl rfl ?_
          refine x_iconst (1 : Int32) 78 rfl dX3_areWays_77 rfl ?_
          refine x_aload_n (i := 0) 79 rfl dX3_areWays_78 rfl rfl ?_
          refine x_iload (i := 5) 81 rfl dX3_areWays_79 rfl ?_
          refine x_iload_n (i := 2) 82 rfl dX3_areWays_81 rfl rfl ?_
          refine x_gok h (fun hg h => ?_)
          refine x_cl h (fun q15 hq h => ?_)
          refine x_callV (as := [(.inl (a5) : xV), (.inl (a2) : xV)]) (rest := [(.inl ((1 : Int32)) : xV), (.inl (a3) : xV)]) (vv := (some (.inl (q15.1) : xV))) (w2 := (ms, q15.2)) (C := RX3) (T := TX3) (N := 8) 85 rfl dX3_areWays_82 (x_X3_tail_ct hq) (Or.inl (xcell_XG hg)) rfl (lw_V q985 q987 qs39 q126 q988) rfl ydX3_tail rfl ⟨Nat.le_of_ble_eq_true rfl, Nat.le_of_ble_eq_true rfl⟩ (Nat.le_of_ble_eq_true rfl) rfl ?_
          change xB xLL yX3_areWays cX3_areWays 6 (some .boolean) 1 22 85 [some (.inr (.inr (some (312 + 18 * a0))) : xV), some (.inl (a1) : xV), some (.inl (a2) : xV), some (.inl (a3) : xV), some (.inl (a4) : xV), some (.inl (a5) : xV)] [(.inl (q15.1) : xV), (.inl ((1 : Int32)) : xV), (.inl (a3) : xV)] (ms, q15.2) _ _
          refine x_ishl 86 rfl dX3_areWays_85 ?_
          refine x_ior 87 rfl dX3_areWays_86 ?_
          refine x_lti h (fun x16 h => ?_)
          refine x_istore_n 88 rfl dX3_areWays_87 rfl (by decide) (lv' := [some (.inr (.inr (some (312 + 18 * a0))) : xV), some (.inl (a1) : xV), some (.inl (a2) : xV), some (.inl (x16) : xV), some (.inl (a4) : xV), some (.inl (a5) : xV)]) rfl ?_
          refine x_iload (i := 4) 90 rfl dX3_areWays_88 rfl ?_
          refine x_iconst (1 : Int32) 91 rfl dX3_areWays_90 rfl ?_
          refine x_aload_n (i := 0) 92 rfl dX3_areWays_91 rfl rfl ?_
          refine x_iload (i := 5) 94 rfl dX3_areWays_92 rfl ?_
          refine x_iload_n (i := 2) 95 rfl dX3_areWays_94 rfl rfl ?_
          refine x_gok h (fun hg h => ?_)
          refine x_cl h (fun q17 hq h => ?_)
          refine x_callV (as := [(.inl (a5) : xV), (.inl (a2) : xV)]) (rest := [(.inl ((1 : Int32)) : xV), (.inl (a4) : xV)]) (vv := (some (.inl (q17.1) : xV))) (w2 := (ms, q17.2)) (C := RX3) (T := TX3) (N := 8) 98 rfl dX3_areWays_95 (x_X3_head_ct hq) (Or.inl (xcell_XG hg)) rfl (lw_V q989 q991 qs40 q126 q992) rfl ydX3_head rfl ⟨Nat.le_of_ble_eq_true rfl, Nat.le_of_ble_eq_true rfl⟩ (Nat.le_of_ble_eq_true rfl) rfl ?_
          change xB xLL yX3_areWays cX3_areWays 6 (some .boolean) 1 22 98 [some (.inr (.inr (some (312 + 18 * a0))) : xV), some (.inl (a1) : xV), some (.inl (a2) : xV), some (.inl (x16) : xV), some (.inl (a4) : xV), some (.inl (a5) : xV)] [(.inl (q17.1) : xV), (.inl ((1 : Int32)) : xV), (.inl (a4) : xV)] (ms, q17.2) _ _
          refine x_ishl 99 rfl dX3_areWays_98 ?_
          refine x_ior 100 rfl dX3_areWays_99 ?_
          refine x_lti h (fun x18 h => ?_)
          refine x_istore 102 rfl dX3_areWays_100 (by decide) (lv' := [some (.inr (.inr (some (312 + 18 * a0))) : xV), some (.inl (a1) : xV), some (.inl (a2) : xV), some (.inl (x16) : xV), some (.inl (x18) : xV), some (.inl (a5) : xV)]) rfl ?_
          exact xB.le (xle.s (xle.s (xle.s (xle.s (xle.s (xle.s xle.z)))))) (x_X3_areWays_102_ok hr2 hr21 h)
        · refine x_iconst (0 : Int32) 75 rfl dX3_areWays_74 rfl ?_
          cases h
          exact x_zret rfl (Or.inl rfl) dX3_areWays_75
    · refine x_goto 102 dX3_areWays_42 rfl ?_
      exact xB.le (xle.s (xle.s (xle.s (xle.s (xle.s (xle.s xle.z)))))) (x_X3_areWays_102_ok hr2 hr21 h)
def x_X3_areWays_21_L (rec2 : Nat → Int32 → Int32 → xR → Option (Int32 × xR)) : Nat → Nat → Int32 → Int32 → Int32 → Int32 → Int32 → xR → Option (Int32 × xR)
  | 0 => fun _ _ _ _ _ _ _ => none
  | n + 1 => x_X3_areWays_21_s rec2 (x_X3_areWays_21_L rec2 n)
theorem x_X3_areWays_21_L_ok {ms : xS} {rr : Int32 × xR} {rec2 : Nat → Int32 → Int32 → xR → Option (Int32 × xR)} (hr2 : ∀ {a0 : Nat} {a1 : Int32} {a2 : Int32} {r : xR}, rec2 a0 a1 a2 r = some rr → xB xLL yX3_areWays cX3_areWays 6 (some .boolean) 1 22 2 [some (.inr (.inr (some (312 + 18 * a0))) : xV), some (.inl (a1) : xV), some (.inl (a2) : xV), none, none, none] [] (ms, r) (some (.inl rr.1)) (ms, rr.2)) : ∀ (n9 : Nat) {a0 : Nat} {a1 : Int32} {a2 : Int32} {a3 : Int32} {a4 : Int32} {a5 : Int32} {r : xR}, x_X3_areWays_21_L rec2 n9 a0 a1 a2 a3 a4 a5 r = some rr → xB xLL yX3_areWays cX3_areWays 6 (some .boolean) 1 22 21 [some (.inr (.inr (some (312 + 18 * a0))) : xV), some (.inl (a1) : xV), some (.inl (a2) : xV), some (.inl (a3) : xV), some (.inl (a4) : xV), some (.inl (a5) : xV)] [] (ms, r) (some (.inl rr.1)) (ms, rr.2)
  | 0, _, _, _, _, _, _, _, h => by cases h
  | n9 + 1, _, _, _, _, _, _, _, h => x_X3_areWays_21_s_ok hr2 (x_X3_areWays_21_L_ok hr2 n9) h
def x_X3_areWays_2_s (rec2 : Nat → Int32 → Int32 → xR → Option (Int32 × xR)) (a0 : Nat) (a1 : Int32) (a2 : Int32) (r : xR) : Option (Int32 × xR) := gok a0 <| lt (r.1.2.2 (12 + 18 * a0) 5) fun p19 => nn p19 fun p20 => dgi xLL r p20 2 1 fun x21 => if x21 ≤ a2 then some ((1 : Int32), r) else lt ((0 : Int32)) fun x22 => lt ((0 : Int32)) fun x23 => lt ((0 : Int32)) fun x24 => x_X3_areWays_21_L rec2 xFU a0 a1 a2 x22 x23 x24 r
theorem x_X3_areWays_2_s_ok {ms : xS} {rr : Int32 × xR} {rec2 : Nat → Int32 → Int32 → xR → Option (Int32 × xR)} (hr2 : ∀ {a0 : Nat} {a1 : Int32} {a2 : Int32} {r : xR}, rec2 a0 a1 a2 r = some rr → xB xLL yX3_areWays cX3_areWays 6 (some .boolean) 1 22 2 [some (.inr (.inr (some (312 + 18 * a0))) : xV), some (.inl (a1) : xV), some (.inl (a2) : xV), none, none, none] [] (ms, r) (some (.inl rr.1)) (ms, rr.2)) {a0 : Nat} {a1 : Int32} {a2 : Int32} {r : xR} (h : x_X3_areWays_2_s rec2 a0 a1 a2 r = some rr) : xB xLL yX3_areWays cX3_areWays 6 (some .boolean) 1 22 2 [some (.inr (.inr (some (312 + 18 * a0))) : xV), some (.inl (a1) : xV), some (.inl (a2) : xV), none, none, none] [] (ms, r) (some (.inl rr.1)) (ms, rr.2) := by
  refine x_iload_n (i := 2) 3 rfl dX3_areWays_2 rfl rfl ?_
  refine x_aload_n (i := 0) 4 rfl dX3_areWays_3 rfl rfl ?_
  refine x_gok h (fun hg h => ?_)
  refine g_get (k := 5) 7 rfl dX3_areWays_4 (by decide) q302 hg rfl ?_
  refine x_ltr h (fun p19 h => ?_)
  refine x_nnP (P := fun p19 => xB xLL yX3_areWays cX3_areWays 6 (some .boolean) 1 22 7 [some (.inr (.inr (some (312 + 18 * a0))) : xV), some (.inl (a1) : xV), some (.inl (a2) : xV), none, none, none] [(.inr (.inr (p19)) : xV), (.inl (a2) : xV)] (ms, r) (some (.inl rr.1)) (ms, rr.2)) h (fun p20 h => ?_)
  refine d_getiN (ci := 2) (k := 1) (C := RX4) (T := TX4) (N := 3) 10 rfl dX3_areWays_7 rfl in_X4 (by decide) (List.mem_of_getElem? (i := 8) rfl) h (fun x21 h => ?_)
  refine x_icmp_ge 129 13 rfl dX3_areWays_10 rfl h (fun h => ?_) (fun h => ?_)
  · refine x_iconst (1 : Int32) 130 rfl dX3_areWays_129 rfl ?_
    cases h
    exact x_zret rfl (Or.inr rfl) dX3_areWays_130
  · refine x_iconst (0 : Int32) 14 rfl dX3_areWays_13 rfl ?_
    refine x_lti h (fun x22 h => ?_)
    refine x_istore_n 15 rfl dX3_areWays_14 rfl (by decide) (lv' := [some (.inr (.inr (some (312 + 18 * a0))) : xV), some (.inl (a1) : xV), some (.inl (a2) : xV), some (.inl (x22) : xV), none, none]) rfl ?_
    refine x_iconst (0 : Int32) 16 rfl dX3_areWays_15 rfl ?_
    refine x_lti h (fun x23 h => ?_)
    refine x_istore 18 rfl dX3_areWays_16 (by decide) (lv' := [some (.inr (.inr (some (312 + 18 * a0))) : xV), some (.inl (a1) : xV), some (.inl (a2) : xV), some (.inl (x22) : xV), some (.inl (x23) : xV), none]) rfl ?_
    refine x_iconst (0 : Int32) 19 rfl dX3_areWays_18 rfl ?_
    refine x_lti h (fun x24 h => ?_)
    refine x_istore 21 rfl dX3_areWays_19 (by decide) (lv' := [some (.inr (.inr (some (312 + 18 * a0))) : xV), some (.inl (a1) : xV), some (.inl (a2) : xV), some (.inl (x22) : xV), some (.inl (x23) : xV), some (.inl (x24) : xV)]) rfl ?_
    exact xB.le (xle.s (xle.s (xle.s (xle.s (xle.s (xle.s xle.z)))))) (x_X3_areWays_21_L_ok hr2 xFU h)
def x_X3_areWays_2_L : Nat → Nat → Int32 → Int32 → xR → Option (Int32 × xR)
  | 0 => fun _ _ _ _ => none
  | n + 1 => x_X3_areWays_2_s (x_X3_areWays_2_L  n)
theorem x_X3_areWays_2_L_ok {ms : xS} {rr : Int32 × xR} : ∀ (n9 : Nat) {a0 : Nat} {a1 : Int32} {a2 : Int32} {r : xR}, x_X3_areWays_2_L  n9 a0 a1 a2 r = some rr → xB xLL yX3_areWays cX3_areWays 6 (some .boolean) 1 22 2 [some (.inr (.inr (some (312 + 18 * a0))) : xV), some (.inl (a1) : xV), some (.inl (a2) : xV), none, none, none] [] (ms, r) (some (.inl rr.1)) (ms, rr.2)
  | 0, _, _, _, _, h => by cases h
  | n9 + 1, _, _, _, _, h => x_X3_areWays_2_s_ok (x_X3_areWays_2_L_ok  n9) h
def x_X3_areWays (a0 : Nat) (a1 : Int32) (r : xR) : Option (Int32 × xR) := lt ((0 : Int32)) fun x25 => x_X3_areWays_2_L xFU a0 a1 x25 r
theorem x_X3_areWays_ct {ms : xS} {rr : Int32 × xR} {a0 : Nat} {a1 : Int32} {r : xR} (h : x_X3_areWays a0 a1 r = some rr) : xCt xLL yX3_areWays cX3_areWays 6 (some .boolean) 1 22 [(.inr (.inr (some (312 + 18 * a0))) : xV), (.inl (a1) : xV)] (ms, r) (some (.inl rr.1)) (ms, rr.2) := by
  refine xCt.of (lv := [some (.inr (.inr (some (312 + 18 * a0))) : xV), some (.inl (a1) : xV), none, none, none, none]) pl_X3 (Nat.le_of_ble_eq_true rfl) (xle.s (xle.s (xle.m (xle.m (xle.m (xle.m xle.z)))))) ?_
  refine x_iconst (0 : Int32) 1 rfl dX3_areWays_0 rfl ?_
  refine x_lti h (fun x25 h => ?_)
  refine x_istore_n 2 rfl dX3_areWays_1 rfl (by decide) (lv' := [some (.inr (.inr (some (312 + 18 * a0))) : xV), some (.inl (a1) : xV), some (.inl (x25) : xV), none, none, none]) rfl ?_
  exact xB.le (xle.s (xle.s (xle.s (xle.n (xle.n (xle.n xle.z)))))) (x_X3_areWays_2_L_ok xFU h)
/-! UnimodularTables$Growth.heals(III)V -/
theorem ydX3_heals : xHd yX3_heals 3 := by decide +kernel
def x_X3_heals (a0 : Nat) (a1 : Int32) (a2 : Int32) (a3 : Int32) (r : xR) : Option (xR) := gok a0 <| gok a0 <| qpi r (12 + 18 * a0) 6 ((r.1.1 (12 + 18 * a0) 6) - (1 : Int32)) fun r1 => gok a0 <| gok a0 <| ix a2 7 fun _ => bok (16 + 18 * a0 + 2 * a2.toNatClampNeg) <| cl (x_J6_clear_2 (16 + 18 * a0 + 2 * a2.toNatClampNeg) a1 r1) fun q3 => gok a0 <| gok a0 <| gok a0 <| ix (q3.1.1 (12 + 18 * a0) 6) 7 fun _ => bok (16 + 18 * a0 + 2 * (q3.1.1 (12 + 18 * a0) 6).toNatClampNeg) <| cl (x_J6_clear_2 (16 + 18 * a0 + 2 * (q3.1.1 (12 + 18 * a0) 6).toNatClampNeg) a1 q3) fun q5 => gok a0 <| gok a0 <| cl (x_X3_moves a0 a3 (q5.1.1 (12 + 18 * a0) 6) a2 q5) fun q6 => some q6
theorem x_X3_heals_ct {ms : xS} {rr : xR} {a0 : Nat} {a1 : Int32} {a2 : Int32} {a3 : Int32} {r : xR} (h : x_X3_heals a0 a1 a2 a3 r = some rr) : xCt xLL yX3_heals cX3_heals 4 none 4 90 [(.inr (.inr (some (312 + 18 * a0))) : xV), (.inl (a1) : xV), (.inl (a2) : xV), (.inl (a3) : xV)] (ms, r) none (ms, rr) := by
  refine xCt.of (lv := [some (.inr (.inr (some (312 + 18 * a0))) : xV), some (.inl (a1) : xV), some (.inl (a2) : xV), some (.inl (a3) : xV)]) pl_X3 (Nat.le_of_ble_eq_true rfl) (xle.s (xle.s (xle.s (xle.s xle.z)))) ?_
  refine x_aload_n (i := 0) 1 rfl dX3_heals_0 rfl rfl ?_
  refine x_dup 2 rfl dX3_heals_1 rfl ?_
  refine x_gok h (fun hg h => ?_)
  refine g_get (k := 6) 5 rfl dX3_heals_2 (by decide) q304 hg rfl ?_
  refine x_iconst (1 : Int32) 6 rfl dX3_heals_5 rfl ?_
  refine x_isub 7 rfl dX3_heals_6 ?_
  refine x_gok h (fun hg h => ?_)
  refine g_puti (k := 6) (z := 0) 10 rfl dX3_heals_7 (by decide) hg rfl (Or.inl rfl) rfl q304 h (fun r1 h => ?_)
  refine x_aload_n (i := 0) 11 rfl dX3_heals_10 rfl rfl ?_
  refine x_gok h (fun hg h => ?_)
  refine g_get (k := 2) 14 rfl dX3_heals_11 (by decide) q298 hg rfl ?_
  refine x_iload_n (i := 2) 15 rfl dX3_heals_14 rfl rfl ?_
  refine x_gok h (fun hg h => ?_)
  refine x_ix h (fun hi h => ?_)
  refine q_ends hg hi 16 rfl dX3_heals_15 ?_
  refine x_iload_n (i := 1) 17 rfl dX3_heals_16 rfl rfl ?_
  refine x_bok h (fun hb h => ?_)
  refine x_cl h (fun q3 hq h => ?_)
  refine x_callV (as := [(.inl (a1) : xV)]) (rest := []) (vv := none) (w2 := (ms, q3)) (C := RJ6) (T := TJ6) (N := 3) 20 rfl dX3_heals_17 (x_J6_clear_2_ct hq) (Or.inl (xcell_XB hb).1) rfl (lw_V q948 q949 q950 q127 q951) rfl ydJ6_clear_2 rfl ⟨Nat.le_of_ble_eq_true rfl, Nat.le_of_ble_eq_true rfl⟩ (Nat.le_of_ble_eq_true rfl) rfl ?_
  change xB xLL yX3_heals cX3_heals 4 none 4 90 20 [some (.inr (.inr (some (312 + 18 * a0))) : xV), some (.inl (a1) : xV), some (.inl (a2) : xV), some (.inl (a3) : xV)] [] (ms, q3) _ _
  refine x_aload_n (i := 0) 21 rfl dX3_heals_20 rfl rfl ?_
  refine x_gok h (fun hg h => ?_)
  refine g_get (k := 2) 24 rfl dX3_heals_21 (by decide) q298 hg rfl ?_
  refine x_aload_n (i := 0) 25 rfl dX3_heals_24 rfl rfl ?_
  refine x_gok h (fun hg h => ?_)
  refine g_get (k := 6) 28 rfl dX3_heals_25 (by decide) q304 hg rfl ?_
  refine x_gok h (fun hg h => ?_)
  refine x_ix h (fun hi h => ?_)
  refine q_ends hg hi 29 rfl dX3_heals_28 ?_
  refine x_iload_n (i := 1) 30 rfl dX3_heals_29 rfl rfl ?_
  refine x_bok h (fun hb h => ?_)
  refine x_cl h (fun q5 hq h => ?_)
  refine x_callV (as := [(.inl (a1) : xV)]) (rest := []) (vv := none) (w2 := (ms, q5)) (C := RJ6) (T := TJ6) (N := 3) 33 rfl dX3_heals_30 (x_J6_clear_2_ct hq) (Or.inl (xcell_XB hb).1) rfl (lw_V q948 q949 q950 q127 q951) rfl ydJ6_clear_2 rfl ⟨Nat.le_of_ble_eq_true rfl, Nat.le_of_ble_eq_true rfl⟩ (Nat.le_of_ble_eq_true rfl) rfl ?_
  change xB xLL yX3_heals cX3_heals 4 none 4 90 33 [some (.inr (.inr (some (312 + 18 * a0))) : xV), some (.inl (a1) : xV), some (.inl (a2) : xV), some (.inl (a3) : xV)] [] (ms, q5) _ _
  refine x_aload_n (i := 0) 34 rfl dX3_heals_33 rfl rfl ?_
  refine x_iload_n (i := 3) 35 rfl dX3_heals_34 rfl rfl ?_
  refine x_aload_n (i := 0) 36 rfl dX3_heals_35 rfl rfl ?_
  refine x_gok h (fun hg h => ?_)
  refine g_get (k := 6) 39 rfl dX3_heals_36 (by decide) q304 hg rfl ?_
  refine x_iload_n (i := 2) 40 rfl dX3_heals_39 rfl rfl ?_
  refine x_gok h (fun hg h => ?_)
  refine x_cl h (fun q6 hq h => ?_)
  refine x_callV (as := [(.inl (a3) : xV), (.inl (q5.1.1 (12 + 18 * a0) 6) : xV), (.inl (a2) : xV)]) (rest := []) (vv := none) (w2 := (ms, q6)) (C := RX3) (T := TX3) (N := 8) 43 rfl dX3_heals_40 (x_X3_moves_ct hq) (Or.inl (xcell_XG hg)) rfl (lw_V q943 q945 qs34 q126 q946) rfl ydX3_moves rfl ⟨Nat.le_of_ble_eq_true rfl, Nat.le_of_ble_eq_true rfl⟩ (Nat.le_of_ble_eq_true rfl) rfl ?_
  change xB xLL yX3_heals cX3_heals 4 none 4 90 43 [some (.inr (.inr (some (312 + 18 * a0))) : xV), some (.inl (a1) : xV), some (.inl (a2) : xV), some (.inl (a3) : xV)] [] (ms, q6) _ _
  cases h
  exact x_vret rfl dX3_heals_43
/-! UnimodularTables$Growth.grows(I)Z -/
theorem ydX3_grows : xHd yX3_grows 1 := by decide +kernel
def x_X3_grows_105 (self : Nat → Int32 → xR → Option (Int32 × xR)) (rec15 : Nat → Int32 → Int32 → xR → Option (Int32 × xR)) (rec32 : Nat → Int32 → Int32 → Int32 → Int32 → xR → Option (Int32 × xR)) (a0 : Nat) (a1 : Int32) (a2 : Int32) (a3 : Int32) (a4 : Int32) (r : xR) : Option (Int32 × xR) := lt (a4 + (1 : Int32)) fun x1 => rec32 a0 a1 a2 a3 x1 r
theorem x_X3_grows_105_ok {ms : xS} {rr : Int32 × xR} {rec15 : Nat → Int32 → Int32 → xR → Option (Int32 × xR)} {rec32 : Nat → Int32 → Int32 → Int32 → Int32 → xR → Option (Int32 × xR)} {n : Nat} {self : Nat → Int32 → xR → Option (Int32 × xR)} (hself : ∀ {b0 : Nat} {b1 : Int32} {r : xR} {rq : Int32 × xR}, self b0 b1 r = some rq → xCt xLL yX3_grows cX3_grows 6 (some .boolean) (5 + n) (114 + n * 25) [(.inr (.inr (some (312 + 18 * b0))) : xV), (.inl (b1) : xV)] (ms, r) (some (.inl rq.1)) (ms, rq.2)) (hr15 : ∀ {a0 : Nat} {a1 : Int32} {a2 : Int32} {r : xR}, rec15 a0 a1 a2 r = some rr → xB xLL yX3_grows cX3_grows 6 (some .boolean) (5 + (n + 1)) (114 + (n + 1) * 25) 15 [some (.inr (.inr (some (312 + 18 * a0))) : xV), some (.inl (a1) : xV), some (.inl (a2) : xV), none, none, none] [] (ms, r) (some (.inl rr.1)) (ms, rr.2)) (hr32 : ∀ {a0 : Nat} {a1 : Int32} {a2 : Int32} {a3 : Int32} {a4 : Int32} {r : xR}, rec32 a0 a1 a2 a3 a4 r = some rr → xB xLL yX3_grows cX3_grows 6 (some .boolean) (5 + (n + 1)) (114 + (n + 1) * 25) 32 [some (.inr (.inr (some (312 + 18 * a0))) : xV), some (.inl (a1) : xV), some (.inl (a2) : xV), some (.inl (a3) : xV), some (.inl (a4) : xV), none] [] (ms, r) (some (.inl rr.1)) (ms, rr.2)) {a0 : Nat} {a1 : Int32} {a2 : Int32} {a3 : Int32} {a4 : Int32} {r : xR} (h : x_X3_grows_105 self rec15 rec32 a0 a1 a2 a3 a4 r = some rr) : xB xLL yX3_grows cX3_grows 6 (some .boolean) (5 + (n + 1)) (114 + (n + 1) * 25) 105 [some (.inr (.inr (some (312 + 18 * a0))) : xV), some (.inl (a1) : xV), some (.inl (a2) : xV), some (.inl (a3) : xV), some (.inl (a4) : xV), none] [] (ms, r) (some (.inl rr.1)) (ms, rr.2) := by
  refine x_iincL (i := 4) (1 : Int32) 108 rfl dX3_grows_105 rfl rfl (by decide) h (fun x1 h => ?_)
  change xB xLL yX3_grows cX3_grows 6 (some .boolean) (5 + (n + 1)) (114 + (n + 1) * 25) 108 [some (.inr (.inr (some (312 + 18 * a0))) : xV), some (.inl (a1) : xV), some (.inl (a2) : xV), some (.inl (a3) : xV), some (.inl (x1) : xV), none] [] (ms, r) _ _
  refine x_goto 32 dX3_grows_108 rfl ?_
  exact xB.le (xle.s (xle.s (xle.s (xle.s (xle.s (xle.n xle.z)))))) (hr32 h)
def x_X3_grows_91 (self : Nat → Int32 → xR → Option (Int32 × xR)) (rec15 : Nat → Int32 → Int32 → xR → Option (Int32 × xR)) (rec32 : Nat → Int32 → Int32 → Int32 → Int32 → xR → Option (Int32 × xR)) (rec53 : Nat → Int32 → Int32 → Int32 → Int32 → Int32 → xR → Option (Int32 × xR)) (a0 : Nat) (a1 : Int32) (a2 : Int32) (a3 : Int32) (a4 : Int32) (a5 : Int32) (r : xR) : Option (Int32 × xR) := gok a0 <| cl (x_X3_heals a0 a1 a2 a4 r) fun q2 => lt (a5 + (1 : Int32)) fun x3 => rec53 a0 a1 a2 a3 a4 x3 q2
theorem x_X3_grows_91_ok {ms : xS} {rr : Int32 × xR} {rec15 : Nat → Int32 → Int32 → xR → Option (Int32 × xR)} {rec32 : Nat → Int32 → Int32 → Int32 → Int32 → xR → Option (Int32 × xR)} {rec53 : Nat → Int32 → Int32 → Int32 → Int32 → Int32 → xR → Option (Int32 × xR)} {n : Nat} {self : Nat → Int32 → xR → Option (Int32 × xR)} (hself : ∀ {b0 : Nat} {b1 : Int32} {r : xR} {rq : Int32 × xR}, self b0 b1 r = some rq → xCt xLL yX3_grows cX3_grows 6 (some .boolean) (5 + n) (114 + n * 25) [(.inr (.inr (some (312 + 18 * b0))) : xV), (.inl (b1) : xV)] (ms, r) (some (.inl rq.1)) (ms, rq.2)) (hr15 : ∀ {a0 : Nat} {a1 : Int32} {a2 : Int32} {r : xR}, rec15 a0 a1 a2 r = some rr → xB xLL yX3_grows cX3_grows 6 (some .boolean) (5 + (n + 1)) (114 + (n + 1) * 25) 15 [some (.inr (.inr (some (312 + 18 * a0))) : xV), some (.inl (a1) : xV), some (.inl (a2) : xV), none, none, none] [] (ms, r) (some (.inl rr.1)) (ms, rr.2)) (hr32 : ∀ {a0 : Nat} {a1 : Int32} {a2 : Int32} {a3 : Int32} {a4 : Int32} {r : xR}, rec32 a0 a1 a2 a3 a4 r = some rr → xB xLL yX3_grows cX3_grows 6 (some .boolean) (5 + (n + 1)) (114 + (n + 1) * 25) 32 [some (.inr (.inr (some (312 + 18 * a0))) : xV), some (.inl (a1) : xV), some (.inl (a2) : xV), some (.inl (a3) : xV), some (.inl (a4) : xV), none] [] (ms, r) (some (.inl rr.1)) (ms, rr.2)) (hr53 : ∀ {a0 : Nat} {a1 : Int32} {a2 : Int32} {a3 : Int32} {a4 : Int32} {a5 : Int32} {r : xR}, rec53 a0 a1 a2 a3 a4 a5 r = some rr → xB xLL yX3_grows cX3_grows 6 (some .boolean) (5 + (n + 1)) (114 + (n + 1) * 25) 53 [some (.inr (.inr (some (312 + 18 * a0))) : xV), some (.inl (a1) : xV), some (.inl (a2) : xV), some (.inl (a3) : xV), some (.inl (a4) : xV), some (.inl (a5) : xV)] [] (ms, r) (some (.inl rr.1)) (ms, rr.2)) {a0 : Nat} {a1 : Int32} {a2 : Int32} {a3 : Int32} {a4 : Int32} {a5 : Int32} {r : xR} (h : x_X3_grows_91 self rec15 rec32 rec53 a0 a1 a2 a3 a4 a5 r = some rr) : xB xLL yX3_grows cX3_grows 6 (some .boolean) (5 + (n + 1)) (114 + (n + 1) * 25) 91 [some (.inr (.inr (some (312 + 18 * a0))) : xV), some (.inl (a1) : xV), some (.inl (a2) : xV), some (.inl (a3) : xV), some (.inl (a4) : xV), some (.inl (a5) : xV)] [] (ms, r) (some (.inl rr.1)) (ms, rr.2) := by
  refine x_aload_n (i := 0) 92 rfl dX3_grows_91 rfl rfl ?_
  refine x_iload_n (i := 1) 93 rfl dX3_grows_92 rfl rfl ?_
  refine x_iload_n (i := 2) 94 rfl dX3_grows_93 rfl rfl ?_
  refine x_iload (i := 4) 96 rfl dX3_grows_94 rfl ?_
  refine x_gok h (fun hg h => ?_)
  refine x_cl h (fun q2 hq h => ?_)
  refine x_callV (as := [(.inl (a1) : xV), (.inl (a2) : xV), (.inl (a4) : xV)]) (rest := []) (vv := none) (w2 := (ms, q2)) (C := RX3) (T := TX3) (N := 8) 99 rfl dX3_grows_96 (x_X3_heals_ct hq) (Or.inl (xcell_XG hg)) rfl (lw_V q994 q996 qs41 q126 q997) rfl ydX3_heals rfl ⟨by omega, by omega⟩ (Nat.le_of_ble_eq_true rfl) rfl ?_
  change xB xLL yX3_grows cX3_grows 6 (some .boolean) (5 + (n + 1)) (114 + (n + 1) * 25) 99 [some (.inr (.inr (some (312 + 18 * a0))) : xV), some (.inl (a1) : xV), some (.inl (a2) : xV), some (.inl (a3) : xV), some (.inl (a4) : xV), some (.inl (a5) : xV)] [] (ms, q2) _ _
  refine x_iincL (i := 5) (1 : Int32) 102 rfl dX3_grows_99 rfl rfl (by decide) h (fun x3 h => ?_)
  change xB xLL yX3_grows cX3_grows 6 (some .boolean) (5 + (n + 1)) (114 + (n + 1) * 25) 102 [some (.inr (.inr (some (312 + 18 * a0))) : xV), some (.inl (a1) : xV), some (.inl (a2) : xV), some (.inl (a3) : xV), some (.inl (a4) : xV), some (.inl (x3) : xV)] [] (ms, q2) _ _
  refine x_goto 53 dX3_grows_102 rfl ?_
  exact xB.le (xle.s (xle.s (xle.s (xle.s (xle.s (xle.s xle.z)))))) (hr53 h)
def x_X3_grows_53_s (self : Nat → Int32 → xR → Option (Int32 × xR)) (rec15 : Nat → Int32 → Int32 → xR → Option (Int32 × xR)) (rec32 : Nat → Int32 → Int32 → Int32 → Int32 → xR → Option (Int32 × xR)) (rec53 : Nat → Int32 → Int32 → Int32 → Int32 → Int32 → xR → Option (Int32 × xR)) (a0 : Nat) (a1 : Int32) (a2 : Int32) (a3 : Int32) (a4 : Int32) (a5 : Int32) (r : xR) : Option (Int32 × xR) := if (2 : Int32) ≤ a5 then x_X3_grows_105 self rec15 rec32 a0 a1 a2 a3 a4 r else gok a0 <| cl (x_X3_parts a0 a1 a2 a4 a5 r) fun q4 => gok a0 <| cl (x_X3_areWays a0 (a1 + (1 : Int32)) q4) fun q5 => if q5.1 = 0 then x_X3_grows_91 self rec15 rec32 rec53 a0 a1 a2 a3 a4 a5 q5.2 else gok a0 <| cl (self a0 (a1 + (1 : Int32)) q5.2) fun q6 => if q6.1 = 0 then x_X3_grows_91 self rec15 rec32 rec53 a0 a1 a2 a3 a4 a5 q6.2 else some ((1 : Int32), q6.2)
theorem x_X3_grows_53_s_ok {ms : xS} {rr : Int32 × xR} {rec15 : Nat → Int32 → Int32 → xR → Option (Int32 × xR)} {rec32 : Nat → Int32 → Int32 → Int32 → Int32 → xR → Option (Int32 × xR)} {rec53 : Nat → Int32 → Int32 → Int32 → Int32 → Int32 → xR → Option (Int32 × xR)} {n : Nat} {self : Nat → Int32 → xR → Option (Int32 × xR)} (hself : ∀ {b0 : Nat} {b1 : Int32} {r : xR} {rq : Int32 × xR}, self b0 b1 r = some rq → xCt xLL yX3_grows cX3_grows 6 (some .boolean) (5 + n) (114 + n * 25) [(.inr (.inr (some (312 + 18 * b0))) : xV), (.inl (b1) : xV)] (ms, r) (some (.inl rq.1)) (ms, rq.2)) (hr15 : ∀ {a0 : Nat} {a1 : Int32} {a2 : Int32} {r : xR}, rec15 a0 a1 a2 r = some rr → xB xLL yX3_grows cX3_grows 6 (some .boolean) (5 + (n + 1)) (114 + (n + 1) * 25) 15 [some (.inr (.inr (some (312 + 18 * a0))) : xV), some (.inl (a1) : xV), some (.inl (a2) : xV), none, none, none] [] (ms, r) (some (.inl rr.1)) (ms, rr.2)) (hr32 : ∀ {a0 : Nat} {a1 : Int32} {a2 : Int32} {a3 : Int32} {a4 : Int32} {r : xR}, rec32 a0 a1 a2 a3 a4 r = some rr → xB xLL yX3_grows cX3_grows 6 (some .boolean) (5 + (n + 1)) (114 + (n + 1) * 25) 32 [some (.inr (.inr (some (312 + 18 * a0))) : xV), some (.inl (a1) : xV), some (.inl (a2) : xV), some (.inl (a3) : xV), some (.inl (a4) : xV), none] [] (ms, r) (some (.inl rr.1)) (ms, rr.2)) (hr53 : ∀ {a0 : Nat} {a1 : Int32} {a2 : Int32} {a3 : Int32} {a4 : Int32} {a5 : Int32} {r : xR}, rec53 a0 a1 a2 a3 a4 a5 r = some rr → xB xLL yX3_grows cX3_grows 6 (some .boolean) (5 + (n + 1)) (114 + (n + 1) * 25) 53 [some (.inr (.inr (some (312 + 18 * a0))) : xV), some (.inl (a1) : xV), some (.inl (a2) : xV), some (.inl (a3) : xV), some (.inl (a4) : xV), some (.inl (a5) : xV)] [] (ms, r) (some (.inl rr.1)) (ms, rr.2)) {a0 : Nat} {a1 : Int32} {a2 : Int32} {a3 : Int32} {a4 : Int32} {a5 : Int32} {r : xR} (h : x_X3_grows_53_s self rec15 rec32 rec53 a0 a1 a2 a3 a4 a5 r = some rr) : xB xLL yX3_grows cX3_grows 6 (some .boolean) (5 + (n + 1)) (114 + (n + 1) * 25) 53 [some (.inr (.inr (some (312 + 18 * a0))) : xV), some (.inl (a1) : xV), some (.inl (a2) : xV), some (.inl (a3) : xV), some (.inl (a4) : xV), some (.inl (a5) : xV)] [] (ms, r) (some (.inl rr.1)) (ms, rr.2) := by
  refine x_iload (i := 5) 55 rfl dX3_grows_53 rfl ?_
  refine x_iconst (2 : Int32) 56 rfl dX3_grows_55 rfl ?_
  refine x_icmp_ge 105 59 rfl dX3_grows_56 rfl h (fun h => ?_) (fun h => ?_)
  · exact xB.le (xle.s (xle.s (xle.s (xle.s (xle.s (xle.n xle.z)))))) (x_X3_grows_105_ok hself hr15 hr32 h)
  · refine x_aload_n (i := 0) 60 rfl dX3_grows_59 rfl rfl ?_
    refine x_iload_n (i := 1) 61 rfl dX3_grows_60 rfl rfl ?_
    refine x_iload_n (i := 2) 62 rfl dX3_grows_61 rfl rfl ?_
    refine x_iload (i := 4) 64 rfl dX3_grows_62 rfl ?_
    refine x_iload (i := 5) 66 rfl dX3_grows_64 rfl ?_
    refine x_gok h (fun hg h => ?_)
    refine x_cl h (fun q4 hq h => ?_)
    refine x_callV (as := [(.inl (a1) : xV), (.inl (a2) : xV), (.inl (a4) : xV), (.inl (a5) : xV)]) (rest := []) (vv := none) (w2 := (ms, q4)) (C := RX3) (T := TX3) (N := 8) 69 rfl dX3_grows_66 (x_X3_parts_ct hq) (Or.inl (xcell_XG hg)) rfl (lw_V q939 q941 qs33 q126 q942) rfl ydX3_parts rfl ⟨by omega, by omega⟩ (Nat.le_of_ble_eq_true rfl) rfl ?_
    change xB xLL yX3_grows cX3_grows 6 (some .boolean) (5 + (n + 1)) (114 + (n + 1) * 25) 69 [some (.inr (.inr (some (312 + 18 * a0))) : xV), some (.inl (a1) : xV), some (.inl (a2) : xV), some (.inl (a3) : xV), some (.inl (a4) : xV), some (.inl (a5) : xV)] [] (ms, q4) _ _
    refine x_aload_n (i := 0) 70 rfl dX3_grows_69 rfl rfl ?_
    refine x_iload_n (i := 1) 71 rfl dX3_grows_70 rfl rfl ?_
    refine x_iconst (1 : Int32) 72 rfl dX3_grows_71 rfl ?_
    refine x_iadd 73 rfl dX3_grows_72 ?_
    refine x_gok h (fun hg h => ?_)
    refine x_cl h (fun q5 hq h => ?_)
    refine x_callV (as := [(.inl (a1 + (1 : Int32)) : xV)]) (rest := []) (vv := (some (.inl (q5.1) : xV))) (w2 := (ms, q5.2)) (C := RX3) (T := TX3) (N := 8) 76 rfl dX3_grows_73 (x_X3_areWays_ct hq) (Or.inl (xcell_XG hg)) rfl (lw_V q981 q983 qs38 q126 q984) rfl ydX3_areWays rfl ⟨by omega, by omega⟩ (Nat.le_of_ble_eq_true rfl) rfl ?_
    change xB xLL yX3_grows cX3_grows 6 (some .boolean) (5 + (n + 1)) (114 + (n + 1) * 25) 76 [some (.inr (.inr (some (312 + 18 * a0))) : xV), some (.inl (a1) : xV), some (.inl (a2) : xV), some (.inl (a3) : xV), some (.inl (a4) : xV), some (.inl (a5) : xV)] [(.inl (q5.1) : xV)] (ms, q5.2) _ _
    refine x_if_eq 91 79 rfl dX3_grows_76 rfl h (fun h => ?_) (fun h => ?_)
    · exact xB.le (xle.s (xle.s (xle.s (xle.s (xle.s (xle.s xle.z)))))) (x_X3_grows_91_ok hself hr15 hr32 hr53 h)
    · refine x_aload_n (i := 0) 80 rfl dX3_grows_79 rfl rfl ?_
      refine x_iload_n (i := 1) 81 rfl dX3_grows_80 rfl rfl ?_
      refine x_iconst (1 : Int32) 82 rfl dX3_grows_81 rfl ?_
      refine x_iadd 83 rfl dX3_grows_82 ?_
      refine x_gok h (fun hg h => ?_)
      refine x_cl h (fun q6 hq h => ?_)
      refine x_callV (as := [(.inl (a1 + (1 : Int32)) : xV)]) (rest := []) (vv := (some (.inl (q6.1) : xV))) (w2 := (ms, q6.2)) (C := RX3) (T := TX3) (N := 8) 86 rfl dX3_grows_83 (hself hq) (Or.inl (xcell_XG hg)) rfl (lw_V q916 q918 qs30 q126 q919) rfl ydX3_grows rfl ⟨by omega, by omega⟩ (Nat.le_of_ble_eq_true rfl) rfl ?_
      change xB xLL yX3_grows cX3_grows 6 (some .boolean) (5 + (n + 1)) (114 + (n + 1) * 25) 86 [some (.inr (.inr (some (312 + 18 * a0))) : xV), some (.inl (a1) : xV), some (.inl (a2) : xV), some (.inl (a3) : xV), some (.inl (a4) : xV), some (.inl (a5) : xV)] [(.inl (q6.1) : xV)] (ms, q6.2) _ _
      refine x_if_eq 91 89 rfl dX3_grows_86 rfl h (fun h => ?_) (fun h => ?_)
      · exact xB.le (xle.s (xle.s (xle.s (xle.s (xle.s (xle.s xle.z)))))) (x_X3_grows_91_ok hself hr15 hr32 hr53 h)
      · refine x_iconst (1 : Int32) 90 rfl dX3_grows_89 rfl ?_
        cases h
        exact x_zret rfl (Or.inr rfl) dX3_grows_90
def x_X3_grows_53_L (self : Nat → Int32 → xR → Option (Int32 × xR)) (rec15 : Nat → Int32 → Int32 → xR → Option (Int32 × xR)) (rec32 : Nat → Int32 → Int32 → Int32 → Int32 → xR → Option (Int32 × xR)) : Nat → Nat → Int32 → Int32 → Int32 → Int32 → Int32 → xR → Option (Int32 × xR)
  | 0 => fun _ _ _ _ _ _ _ => none
  | n + 1 => x_X3_grows_53_s self rec15 rec32 (x_X3_grows_53_L self rec15 rec32 n)
theorem x_X3_grows_53_L_ok {ms : xS} {rr : Int32 × xR} {rec15 : Nat → Int32 → Int32 → xR → Option (Int32 × xR)} {rec32 : Nat → Int32 → Int32 → Int32 → Int32 → xR → Option (Int32 × xR)} {n : Nat} {self : Nat → Int32 → xR → Option (Int32 × xR)} (hself : ∀ {b0 : Nat} {b1 : Int32} {r : xR} {rq : Int32 × xR}, self b0 b1 r = some rq → xCt xLL yX3_grows cX3_grows 6 (some .boolean) (5 + n) (114 + n * 25) [(.inr (.inr (some (312 + 18 * b0))) : xV), (.inl (b1) : xV)] (ms, r) (some (.inl rq.1)) (ms, rq.2)) (hr15 : ∀ {a0 : Nat} {a1 : Int32} {a2 : Int32} {r : xR}, rec15 a0 a1 a2 r = some rr → xB xLL yX3_grows cX3_grows 6 (some .boolean) (5 + (n + 1)) (114 + (n + 1) * 25) 15 [some (.inr (.inr (some (312 + 18 * a0))) : xV), some (.inl (a1) : xV), some (.inl (a2) : xV), none, none, none] [] (ms, r) (some (.inl rr.1)) (ms, rr.2)) (hr32 : ∀ {a0 : Nat} {a1 : Int32} {a2 : Int32} {a3 : Int32} {a4 : Int32} {r : xR}, rec32 a0 a1 a2 a3 a4 r = some rr → xB xLL yX3_grows cX3_grows 6 (some .boolean) (5 + (n + 1)) (114 + (n + 1) * 25) 32 [some (.inr (.inr (some (312 + 18 * a0))) : xV), some (.inl (a1) : xV), some (.inl (a2) : xV), some (.inl (a3) : xV), some (.inl (a4) : xV), none] [] (ms, r) (some (.inl rr.1)) (ms, rr.2)) : ∀ (n9 : Nat) {a0 : Nat} {a1 : Int32} {a2 : Int32} {a3 : Int32} {a4 : Int32} {a5 : Int32} {r : xR}, x_X3_grows_53_L self rec15 rec32 n9 a0 a1 a2 a3 a4 a5 r = some rr → xB xLL yX3_grows cX3_grows 6 (some .boolean) (5 + (n + 1)) (114 + (n + 1) * 25) 53 [some (.inr (.inr (some (312 + 18 * a0))) : xV), some (.inl (a1) : xV), some (.inl (a2) : xV), some (.inl (a3) : xV), some (.inl (a4) : xV), some (.inl (a5) : xV)] [] (ms, r) (some (.inl rr.1)) (ms, rr.2)
  | 0, _, _, _, _, _, _, _, h => by cases h
  | n9 + 1, _, _, _, _, _, _, _, h => x_X3_grows_53_s_ok hself hr15 hr32 (x_X3_grows_53_L_ok hself hr15 hr32 n9) h
def x_X3_grows_32_s (self : Nat → Int32 → xR → Option (Int32 × xR)) (rec15 : Nat → Int32 → Int32 → xR → Option (Int32 × xR)) (rec32 : Nat → Int32 → Int32 → Int32 → Int32 → xR → Option (Int32 × xR)) (a0 : Nat) (a1 : Int32) (a2 : Int32) (a3 : Int32) (a4 : Int32) (r : xR) : Option (Int32 × xR) := if a3 < a4 then lt (a2 + (1 : Int32)) fun x7 => rec15 a0 a1 x7 r else if (a4 &&& (a3 ^^^ (-1 : Int32))) = 0 then lt ((0 : Int32)) fun x8 => x_X3_grows_53_L self rec15 rec32 xFU a0 a1 a2 a3 a4 x8 r else x_X3_grows_105 self rec15 rec32 a0 a1 a2 a3 a4 r
theorem x_X3_grows_32_s_ok {ms : xS} {rr : Int32 × xR} {rec15 : Nat → Int32 → Int32 → xR → Option (Int32 × xR)} {rec32 : Nat → Int32 → Int32 → Int32 → Int32 → xR → Option (Int32 × xR)} {n : Nat} {self : Nat → Int32 → xR → Option (Int32 × xR)} (hself : ∀ {b0 : Nat} {b1 : Int32} {r : xR} {rq : Int32 × xR}, self b0 b1 r = some rq → xCt xLL yX3_grows cX3_grows 6 (some .boolean) (5 + n) (114 + n * 25) [(.inr (.inr (some (312 + 18 * b0))) : xV), (.inl (b1) : xV)] (ms, r) (some (.inl rq.1)) (ms, rq.2)) (hr15 : ∀ {a0 : Nat} {a1 : Int32} {a2 : Int32} {r : xR}, rec15 a0 a1 a2 r = some rr → xB xLL yX3_grows cX3_grows 6 (some .boolean) (5 + (n + 1)) (114 + (n + 1) * 25) 15 [some (.inr (.inr (some (312 + 18 * a0))) : xV), some (.inl (a1) : xV), some (.inl (a2) : xV), none, none, none] [] (ms, r) (some (.inl rr.1)) (ms, rr.2)) (hr32 : ∀ {a0 : Nat} {a1 : Int32} {a2 : Int32} {a3 : Int32} {a4 : Int32} {r : xR}, rec32 a0 a1 a2 a3 a4 r = some rr → xB xLL yX3_grows cX3_grows 6 (some .boolean) (5 + (n + 1)) (114 + (n + 1) * 25) 32 [some (.inr (.inr (some (312 + 18 * a0))) : xV), some (.inl (a1) : xV), some (.inl (a2) : xV), some (.inl (a3) : xV), some (.inl (a4) : xV), none] [] (ms, r) (some (.inl rr.1)) (ms, rr.2)) {a0 : Nat} {a1 : Int32} {a2 : Int32} {a3 : Int32} {a4 : Int32} {r : xR} (h : x_X3_grows_32_s self rec15 rec32 a0 a1 a2 a3 a4 r = some rr) : xB xLL yX3_grows cX3_grows 6 (some .boolean) (5 + (n + 1)) (114 + (n + 1) * 25) 32 [some (.inr (.inr (some (312 + 18 * a0))) : xV), some (.inl (a1) : xV), some (.inl (a2) : xV), some (.inl (a3) : xV), some (.inl (a4) : xV), none] [] (ms, r) (some (.inl rr.1)) (ms, rr.2) := by
  refine x_iload (i := 4) 34 rfl dX3_grows_32 rfl ?_
  refine x_iload_n (i := 3) 35 rfl dX3_grows_34 rfl rfl ?_
  refine x_icmp_gt 111 38 rfl dX3_grows_35 rfl h (fun h => ?_) (fun h => ?_)
  · refine x_iincL (i := 2) (1 : Int32) 114 rfl dX3_grows_111 rfl rfl (by decide) h (fun x7 h => ?_)
    change xB xLL yX3_grows cX3_grows 6 (some .boolean) (5 + (n + 1)) (114 + (n + 1) * 25) 114 [some (.inr (.inr (some (312 + 18 * a0))) : xV), some (.inl (a1) : xV), some (.inl (x7) : xV), some (.inl (a3) : xV), some (.inl (a4) : xV), none] [] (ms, r) _ _
    refine x_goto 15 dX3_grows_114 rfl ?_
    exact xB.le (xle.s (xle.s (xle.s (xle.n (xle.n (xle.n xle.z)))))) (hr15 h)
  · refine x_iload (i := 4) 40 rfl dX3_grows_38 rfl ?_
    refine x_iload_n (i := 3) 41 rfl dX3_grows_40 rfl rfl ?_
    refine x_iconst (-1 : Int32) 42 rfl dX3_grows_41 rfl ?_
    refine x_ixor 43 rfl dX3_grows_42 ?_
    refine x_iand 44 rfl dX3_grows_43 ?_
    refine x_if_eq 50 47 rfl dX3_grows_44 rfl h (fun h => ?_) (fun h => ?_)
    · refine x_iconst (0 : Int32) 51 rfl dX3_grows_50 rfl ?_
      refine x_lti h (fun x8 h => ?_)
      refine x_istore 53 rfl dX3_grows_51 (by decide) (lv' := [some (.inr (.inr (some (312 + 18 * a0))) : xV), some (.inl (a1) : xV), some (.inl (a2) : xV), some (.inl (a3) : xV), some (.inl (a4) : xV), some (.inl (x8) : xV)]) rfl ?_
      exact xB.le (xle.s (xle.s (xle.s (xle.s (xle.s (xle.s xle.z)))))) (x_X3_grows_53_L_ok hself hr15 hr32 xFU h)
    · refine x_goto 105 dX3_grows_47 rfl ?_
      exact xB.le (xle.s (xle.s (xle.s (xle.s (xle.s (xle.n xle.z)))))) (x_X3_grows_105_ok hself hr15 hr32 h)
def x_X3_grows_32_L (self : Nat → Int32 → xR → Option (Int32 × xR)) (rec15 : Nat → Int32 → Int32 → xR → Option (Int32 × xR)) : Nat → Nat → Int32 → Int32 → Int32 → Int32 → xR → Option (Int32 × xR)
  | 0 => fun _ _ _ _ _ _ => none
  | n + 1 => x_X3_grows_32_s self rec15 (x_X3_grows_32_L self rec15 n)
theorem x_X3_grows_32_L_ok {ms : xS} {rr : Int32 × xR} {rec15 : Nat → Int32 → Int32 → xR → Option (Int32 × xR)} {n : Nat} {self : Nat → Int32 → xR → Option (Int32 × xR)} (hself : ∀ {b0 : Nat} {b1 : Int32} {r : xR} {rq : Int32 × xR}, self b0 b1 r = some rq → xCt xLL yX3_grows cX3_grows 6 (some .boolean) (5 + n) (114 + n * 25) [(.inr (.inr (some (312 + 18 * b0))) : xV), (.inl (b1) : xV)] (ms, r) (some (.inl rq.1)) (ms, rq.2)) (hr15 : ∀ {a0 : Nat} {a1 : Int32} {a2 : Int32} {r : xR}, rec15 a0 a1 a2 r = some rr → xB xLL yX3_grows cX3_grows 6 (some .boolean) (5 + (n + 1)) (114 + (n + 1) * 25) 15 [some (.inr (.inr (some (312 + 18 * a0))) : xV), some (.inl (a1) : xV), some (.inl (a2) : xV), none, none, none] [] (ms, r) (some (.inl rr.1)) (ms, rr.2)) : ∀ (n9 : Nat) {a0 : Nat} {a1 : Int32} {a2 : Int32} {a3 : Int32} {a4 : Int32} {r : xR}, x_X3_grows_32_L self rec15 n9 a0 a1 a2 a3 a4 r = some rr → xB xLL yX3_grows cX3_grows 6 (some .boolean) (5 + (n + 1)) (114 + (n + 1) * 25) 32 [some (.inr (.inr (some (312 + 18 * a0))) : xV), some (.inl (a1) : xV), some (.inl (a2) : xV), some (.inl (a3) : xV), some (.inl (a4) : xV), none] [] (ms, r) (some (.inl rr.1)) (ms, rr.2)
  | 0, _, _, _, _, _, _, h => by cases h
  | n9 + 1, _, _, _, _, _, _, h => x_X3_grows_32_s_ok hself hr15 (x_X3_grows_32_L_ok hself hr15 n9) h
def x_X3_grows_15_s (self : Nat → Int32 → xR → Option (Int32 × xR)) (rec15 : Nat → Int32 → Int32 → xR → Option (Int32 × xR)) (a0 : Nat) (a1 : Int32) (a2 : Int32) (r : xR) : Option (Int32 × xR) := gok a0 <| if (r.1.1 (12 + 18 * a0) 6) ≤ a2 then some ((0 : Int32), r) else gok a0 <| cl (x_X3_setAt a0 a2 r) fun q9 => lt ((0 : Int32)) fun x10 => x_X3_grows_32_L self rec15 xFU a0 a1 a2 q9.1 x10 q9.2
theorem x_X3_grows_15_s_ok {ms : xS} {rr : Int32 × xR} {rec15 : Nat → Int32 → Int32 → xR → Option (Int32 × xR)} {n : Nat} {self : Nat → Int32 → xR → Option (Int32 × xR)} (hself : ∀ {b0 : Nat} {b1 : Int32} {r : xR} {rq : Int32 × xR}, self b0 b1 r = some rq → xCt xLL yX3_grows cX3_grows 6 (some .boolean) (5 + n) (114 + n * 25) [(.inr (.inr (some (312 + 18 * b0))) : xV), (.inl (b1) : xV)] (ms, r) (some (.inl rq.1)) (ms, rq.2)) (hr15 : ∀ {a0 : Nat} {a1 : Int32} {a2 : Int32} {r : xR}, rec15 a0 a1 a2 r = some rr → xB xLL yX3_grows cX3_grows 6 (some .boolean) (5 + (n + 1)) (114 + (n + 1) * 25) 15 [some (.inr (.inr (some (312 + 18 * a0))) : xV), some (.inl (a1) : xV), some (.inl (a2) : xV), none, none, none] [] (ms, r) (some (.inl rr.1)) (ms, rr.2)) {a0 : Nat} {a1 : Int32} {a2 : Int32} {r : xR} (h : x_X3_grows_15_s self rec15 a0 a1 a2 r = some rr) : xB xLL yX3_grows cX3_grows 6 (some .boolean) (5 + (n + 1)) (114 + (n + 1) * 25) 15 [some (.inr (.inr (some (312 + 18 * a0))) : xV), some (.inl (a1) : xV), some (.inl (a2) : xV), none, none, none] [] (ms, r) (some (.inl rr.1)) (ms, rr.2) := by
  refine x_iload_n (i := 2) 16 rfl dX3_grows_15 rfl rfl ?_
  refine x_aload_n (i := 0) 17 rfl dX3_grows_16 rfl rfl ?_
  refine x_gok h (fun hg h => ?_)
  refine g_get (k := 6) 20 rfl dX3_grows_17 (by decide) q304 hg rfl ?_
  refine x_icmp_ge 117 23 rfl dX3_grows_20 rfl h (fun h => ?_) (fun h => ?_)
  · refine x_iconst (0 : Int32) 118 rfl dX3_grows_117 rfl ?_
    cases h
    exact x_zret rfl (Or.inl rfl) dX3_grows_118
  · refine x_aload_n (i := 0) 24 rfl dX3_grows_23 rfl rfl ?_
    refine x_iload_n (i := 2) 25 rfl dX3_grows_24 rfl rfl ?_
    refine x_gok h (fun hg h => ?_)
    refine x_cl h (fun q9 hq h => ?_)
    refine x_callV (as := [(.inl (a2) : xV)]) (rest := []) (vv := (some (.inl (q9.1) : xV))) (w2 := (ms, q9.2)) (C := RX3) (T := TX3) (N := 8) 28 rfl dX3_grows_25 (x_X3_setAt_ct hq) (Or.inl (xcell_XG hg)) rfl (lw_V q920 q922 qs31 q126 q923) rfl ydX3_setAt rfl ⟨by omega, by omega⟩ (Nat.le_of_ble_eq_true rfl) rfl ?_
    change xB xLL yX3_grows cX3_grows 6 (some .boolean) (5 + (n + 1)) (114 + (n + 1) * 25) 28 [some (.inr (.inr (some (312 + 18 * a0))) : xV), some (.inl (a1) : xV), some (.inl (a2) : xV), none, none, none] [(.inl (q9.1) : xV)] (ms, q9.2) _ _
    refine x_istore_n 29 rfl dX3_grows_28 rfl (by decide) (lv' := [some (.inr (.inr (some (312 + 18 * a0))) : xV), some (.inl (a1) : xV), some (.inl (a2) : xV), some (.inl (q9.1) : xV), none, none]) rfl ?_
    refine x_iconst (0 : Int32) 30 rfl dX3_grows_29 rfl ?_
    refine x_lti h (fun x10 h => ?_)
    refine x_istore 32 rfl dX3_grows_30 (by decide) (lv' := [some (.inr (.inr (some (312 + 18 * a0))) : xV), some (.inl (a1) : xV), some (.inl (a2) : xV), some (.inl (q9.1) : xV), some (.inl (x10) : xV), none]) rfl ?_
    exact xB.le (xle.s (xle.s (xle.s (xle.s (xle.s (xle.n xle.z)))))) (x_X3_grows_32_L_ok hself hr15 xFU h)
def x_X3_grows_15_L (self : Nat → Int32 → xR → Option (Int32 × xR)) : Nat → Nat → Int32 → Int32 → xR → Option (Int32 × xR)
  | 0 => fun _ _ _ _ => none
  | n + 1 => x_X3_grows_15_s self (x_X3_grows_15_L self  n)
theorem x_X3_grows_15_L_ok {ms : xS} {rr : Int32 × xR} {n : Nat} {self : Nat → Int32 → xR → Option (Int32 × xR)} (hself : ∀ {b0 : Nat} {b1 : Int32} {r : xR} {rq : Int32 × xR}, self b0 b1 r = some rq → xCt xLL yX3_grows cX3_grows 6 (some .boolean) (5 + n) (114 + n * 25) [(.inr (.inr (some (312 + 18 * b0))) : xV), (.inl (b1) : xV)] (ms, r) (some (.inl rq.1)) (ms, rq.2)) : ∀ (n9 : Nat) {a0 : Nat} {a1 : Int32} {a2 : Int32} {r : xR}, x_X3_grows_15_L self  n9 a0 a1 a2 r = some rr → xB xLL yX3_grows cX3_grows 6 (some .boolean) (5 + (n + 1)) (114 + (n + 1) * 25) 15 [some (.inr (.inr (some (312 + 18 * a0))) : xV), some (.inl (a1) : xV), some (.inl (a2) : xV), none, none, none] [] (ms, r) (some (.inl rr.1)) (ms, rr.2)
  | 0, _, _, _, _, h => by cases h
  | n9 + 1, _, _, _, _, h => x_X3_grows_15_s_ok hself (x_X3_grows_15_L_ok hself n9) h
def x_X3_grows_e (self : Nat → Int32 → xR → Option (Int32 × xR)) (a0 : Nat) (a1 : Int32) (r : xR) : Option (Int32 × xR) := gok a0 <| lt (r.1.2.2 (12 + 18 * a0) 5) fun p11 => nn p11 fun p12 => dgi xLL r p12 2 0 fun x13 => if a1 = x13 then some ((1 : Int32), r) else lt ((0 : Int32)) fun x14 => x_X3_grows_15_L self xFU a0 a1 x14 r
theorem x_X3_grows_e_ct {ms : xS} {rr : Int32 × xR} {n : Nat} {self : Nat → Int32 → xR → Option (Int32 × xR)} (hself : ∀ {b0 : Nat} {b1 : Int32} {r : xR} {rq : Int32 × xR}, self b0 b1 r = some rq → xCt xLL yX3_grows cX3_grows 6 (some .boolean) (5 + n) (114 + n * 25) [(.inr (.inr (some (312 + 18 * b0))) : xV), (.inl (b1) : xV)] (ms, r) (some (.inl rq.1)) (ms, rq.2)) {a0 : Nat} {a1 : Int32} {r : xR} (h : x_X3_grows_e self a0 a1 r = some rr) : xCt xLL yX3_grows cX3_grows 6 (some .boolean) (5 + (n + 1)) (114 + (n + 1) * 25) [(.inr (.inr (some (312 + 18 * a0))) : xV), (.inl (a1) : xV)] (ms, r) (some (.inl rr.1)) (ms, rr.2) := by
  refine xCt.of (lv := [some (.inr (.inr (some (312 + 18 * a0))) : xV), some (.inl (a1) : xV), none, none, none, none]) pl_X3 (Nat.le_of_ble_eq_true rfl) (xle.s (xle.s (xle.m (xle.m (xle.m (xle.m xle.z)))))) ?_
  refine x_iload_n (i := 1) 1 rfl dX3_grows_0 rfl rfl ?_
  refine x_aload_n (i := 0) 2 rfl dX3_grows_1 rfl rfl ?_
  refine x_gok h (fun hg h => ?_)
  refine g_get (k := 5) 5 rfl dX3_grows_2 (by decide) q302 hg rfl ?_
  refine x_ltr h (fun p11 h => ?_)
  refine x_nnP (P := fun p11 => xB xLL yX3_grows cX3_grows 6 (some .boolean) (5 + (n + 1)) (114 + (n + 1) * 25) 5 [some (.inr (.inr (some (312 + 18 * a0))) : xV), some (.inl (a1) : xV), none, none, none, none] [(.inr (.inr (p11)) : xV), (.inl (a1) : xV)] (ms, r) (some (.inl rr.1)) (ms, rr.2)) h (fun p12 h => ?_)
  refine d_getiN (ci := 2) (k := 0) (C := RX4) (T := TX4) (N := 3) 8 rfl dX3_grows_5 rfl in_X4 (by decide) (List.mem_of_getElem? (i := 6) rfl) h (fun x13 h => ?_)
  refine x_icmp_ne 13 11 rfl dX3_grows_8 rfl h (fun h => ?_) (fun h => ?_)
  · refine x_iconst (0 : Int32) 14 rfl dX3_grows_13 rfl ?_
    refine x_lti h (fun x14 h => ?_)
    refine x_istore_n 15 rfl dX3_grows_14 rfl (by decide) (lv' := [some (.inr (.inr (some (312 + 18 * a0))) : xV), some (.inl (a1) : xV), some (.inl (x14) : xV), none, none, none]) rfl ?_
    exact xB.le (xle.s (xle.s (xle.s (xle.n (xle.n (xle.n xle.z)))))) (x_X3_grows_15_L_ok hself xFU h)
  · refine x_iconst (1 : Int32) 12 rfl dX3_grows_11 rfl ?_
    cases h
    exact x_zret rfl (Or.inr rfl) dX3_grows_12
def x_X3_grows : Nat → Nat → Int32 → xR → Option (Int32 × xR)
  | 0 => fun _ _ _ => none
  | n + 1 => x_X3_grows_e (x_X3_grows n)
theorem x_X3_grows_ct {ms : xS} : ∀ (n : Nat) {a0 : Nat} {a1 : Int32} {r : xR} {rr : Int32 × xR}, x_X3_grows n a0 a1 r = some rr → xCt xLL yX3_grows cX3_grows 6 (some .boolean) (5 + n) (114 + n * 25) [(.inr (.inr (some (312 + 18 * a0))) : xV), (.inl (a1) : xV)] (ms, r) (some (.inl rr.1)) (ms, rr.2)
  | 0, _, _, _, _, h => by cases h
  | n + 1, _, _, _, _, h => x_X3_grows_e_ct (x_X3_grows_ct n) h
/-! UnimodularTables$Growth.lays(LUnimodularTables$Table;)Z -/
theorem ydX3_lays : xHd yX3_lays 1 := by decide +kernel
def x_X3_lays_86 (a0 : Nat) (s0 : Int32) (s1 : Nat) (r : xR) : Option (Int32 × xR) := zb s0 <| gok s1 <| qpi r (12 + 18 * s1) 4 s0 fun r1 => gok a0 <| zb (r1.1.1 (12 + 18 * a0) 4) (some (r1.1.1 (12 + 18 * a0) 4, r1))
theorem x_X3_lays_86_ok {ms : xS} {rr : Int32 × xR} {a0 : Nat} {s0 : Int32} {s1 : Nat} {r : xR} (h : x_X3_lays_86  a0 s0 s1 r = some rr) : xB xLL yX3_lays cX3_lays 6 (some .boolean) 14 3110 86 [some (.inr (.inr (some (312 + 18 * a0))) : xV), none, none, none, none, none] [(.inl (s0) : xV), (.inr (.inr (some (312 + 18 * s1))) : xV)] (ms, r) (some (.inl rr.1)) (ms, rr.2) := by
  refine x_zb h (fun hz h => ?_)
  refine x_gok h (fun hg h => ?_)
  refine g_puti (k := 4) (z := 0) 89 rfl dX3_lays_86 (by decide) hg rfl (Or.inr ⟨rfl, hz⟩) rfl q301 h (fun r1 h => ?_)
  refine x_aload_n (i := 0) 90 rfl dX3_lays_89 rfl rfl ?_
  refine x_gok h (fun hg h => ?_)
  refine g_get (k := 4) 93 rfl dX3_lays_90 (by decide) q301 hg rfl ?_
  refine x_zb h (fun hz h => ?_)
  cases h
  exact x_zret rfl hz dX3_lays_93
def x_X3_lays_85 (a0 : Nat) (s0 : Nat) (r : xR) : Option (Int32 × xR) := x_X3_lays_86 a0 (0 : Int32) s0 r
theorem x_X3_lays_85_ok {ms : xS} {rr : Int32 × xR} {a0 : Nat} {s0 : Nat} {r : xR} (h : x_X3_lays_85  a0 s0 r = some rr) : xB xLL yX3_lays cX3_lays 6 (some .boolean) 14 3110 85 [some (.inr (.inr (some (312 + 18 * a0))) : xV), none, none, none, none, none] [(.inr (.inr (some (312 + 18 * s0))) : xV)] (ms, r) (some (.inl rr.1)) (ms, rr.2) := by
  refine x_iconst (0 : Int32) 86 rfl dX3_lays_85 rfl ?_
  exact xB.le (xle.s (xle.n (xle.n (xle.n (xle.n (xle.n xle.z)))))) (x_X3_lays_86_ok h)
def x_X3_lays_38_s (rec38 : Nat → Nat → Nat → Int32 → Int32 → xR → Option (Int32 × xR)) (a0 : Nat) (a1 : Nat) (a2 : Nat) (a3 : Int32) (a4 : Int32) (r : xR) : Option (Int32 × xR) := if a3 ≤ a4 then gok a0 <| cl (x_X1_isTotal a1 r) fun q2 => if q2.1 = 0 then x_X3_lays_85 a0 a0 q2.2 else gok a0 <| cl (x_X3_grows 8 a0 (0 : Int32) q2.2) fun q3 => if q3.1 = 0 then x_X3_lays_85 a0 a0 q3.2 else x_X3_lays_86 a0 (1 : Int32) a0 q3.2 else gok a2 <| ix a4 7 fun _ => bok (16 + 18 * a2 + 2 * a4.toNatClampNeg) <| cl (x_J6_clear (16 + 18 * a2 + 2 * a4.toNatClampNeg) r) fun q5 => lt (a4 + (1 : Int32)) fun x6 => rec38 a0 a1 a2 a3 x6 q5
theorem x_X3_lays_38_s_ok {ms : xS} {rr : Int32 × xR} {rec38 : Nat → Nat → Nat → Int32 → Int32 → xR → Option (Int32 × xR)} (hr38 : ∀ {a0 : Nat} {a1 : Nat} {a2 : Nat} {a3 : Int32} {a4 : Int32} {r : xR}, rec38 a0 a1 a2 a3 a4 r = some rr → xB xLL yX3_lays cX3_lays 6 (some .boolean) 14 3110 38 [some (.inr (.inr (some (312 + 18 * a0))) : xV), some (.inr (.inr (some (a1))) : xV), some (.inr (.inr (some (315 + 18 * a2))) : xV), some (.inl (a3) : xV), some (.inl (a4) : xV), none] [] (ms, r) (some (.inl rr.1)) (ms, rr.2)) {a0 : Nat} {a1 : Nat} {a2 : Nat} {a3 : Int32} {a4 : Int32} {r : xR} (h : x_X3_lays_38_s rec38 a0 a1 a2 a3 a4 r = some rr) : xB xLL yX3_lays cX3_lays 6 (some .boolean) 14 3110 38 [some (.inr (.inr (some (312 + 18 * a0))) : xV), some (.inr (.inr (some (a1))) : xV), some (.inr (.inr (some (315 + 18 * a2))) : xV), some (.inl (a3) : xV), some (.inl (a4) : xV), none] [] (ms, r) (some (.inl rr.1)) (ms, rr.2) := by
  refine x_iload (i := 4) 40 rfl dX3_lays_38 rfl ?_
  refine x_iload_n (i := 3) 41 rfl dX3_lays_40 rfl rfl ?_
  refine x_icmp_ge 61 44 rfl dX3_lays_41 rfl h (fun h => ?_) (fun h => ?_)
  · refine x_aload_n (i := 0) 62 rfl dX3_lays_61 rfl rfl ?_
    refine x_aload_n (i := 0) 63 rfl dX3_lays_62 rfl rfl ?_
    refine x_gok h (fun hg h => ?_)
    refine g_get (k := 7) 66 rfl dX3_lays_63 (by decide) q305 hg rfl ?_
    refine x_aload_n (i := 1) 67 rfl dX3_lays_66 rfl rfl ?_
    refine x_cl h (fun q2 hq h => ?_)
    refine x_callVN (as := [(.inr (.inr (some (a1))) : xV)]) (vv := (some (.inl (q2.1) : xV))) (w2 := (ms, q2.2)) (C := RX1) (T := TX1) (N := 34) [(.inr (.inr (some (312 + 18 * a0))) : xV)] 70 rfl dX3_lays_67 (x_X1_isTotal_ct hq) (Or.inl xcell_X0) rfl (List.mem_of_getElem? (i := 11) rfl) q914 q118 q915 qs29 ydX1_isTotal rfl ⟨Nat.le_of_ble_eq_true rfl, Nat.le_of_ble_eq_true rfl⟩ (Nat.le_of_ble_eq_true rfl) rfl ?_
    change xB xLL yX3_lays cX3_lays 6 (some .boolean) 14 3110 70 [some (.inr (.inr (some (312 + 18 * a0))) : xV), some (.inr (.inr (some (a1))) : xV), some (.inr (.inr (some (315 + 18 * a2))) : xV), some (.inl (a3) : xV), some (.inl (a4) : xV), none] [(.inl (q2.1) : xV), (.inr (.inr (some (312 + 18 * a0))) : xV)] (ms, q2.2) _ _
    refine x_if_eq 85 73 rfl dX3_lays_70 rfl h (fun h => ?_) (fun h => ?_)
    · exact xB.le (xle.s (xle.n (xle.n (xle.n (xle.n (xle.n xle.z)))))) (x_X3_lays_85_ok h)
    · refine x_aload_n (i := 0) 74 rfl dX3_lays_73 rfl rfl ?_
      refine x_iconst (0 : Int32) 75 rfl dX3_lays_74 rfl ?_
      refine x_gok h (fun hg h => ?_)
      refine x_cl h (fun q3 hq h => ?_)
      refine x_callV (as := [(.inl ((0 : Int32)) : xV)]) (rest := [(.inr (.inr (some (312 + 18 * a0))) : xV)]) (vv := (some (.inl (q3.1) : xV))) (w2 := (ms, q3.2)) (C := RX3) (T := TX3) (N := 8) 78 rfl dX3_lays_75 (x_X3_grows_ct 8 hq) (Or.inl (xcell_XG hg)) rfl (lw_V q916 q918 qs30 q126 q919) rfl ydX3_grows rfl ⟨Nat.le_of_ble_eq_true rfl, Nat.le_of_ble_eq_true rfl⟩ (Nat.le_of_ble_eq_true rfl) rfl ?_
      change xB xLL yX3_lays cX3_lays 6 (some .boolean) 14 3110 78 [some (.inr (.inr (some (312 + 18 * a0))) : xV), some (.inr (.inr (some (a1))) : xV), some (.inr (.inr (some (315 + 18 * a2))) : xV), some (.inl (a3) : xV), some (.inl (a4) : xV), none] [(.inl (q3.1) : xV), (.inr (.inr (some (312 + 18 * a0))) : xV)] (ms, q3.2) _ _
      refine x_if_eq 85 81 rfl dX3_lays_78 rfl h (fun h => ?_) (fun h => ?_)
      · exact xB.le (xle.s (xle.n (xle.n (xle.n (xle.n (xle.n xle.z)))))) (x_X3_lays_85_ok h)
      · refine x_iconst (1 : Int32) 82 rfl dX3_lays_81 rfl ?_
        refine x_goto 86 dX3_lays_82 rfl ?_
        exact xB.le (xle.s (xle.n (xle.n (xle.n (xle.n (xle.n xle.z)))))) (x_X3_lays_86_ok h)
  · refine x_aload_n (i := 2) 45 rfl dX3_lays_44 rfl rfl ?_
    refine x_iload (i := 4) 47 rfl dX3_lays_45 rfl ?_
    refine x_gok h (fun hg h => ?_)
    refine x_ix h (fun hi h => ?_)
    refine q_ends hg hi 48 rfl dX3_lays_47 ?_
    refine x_astore 50 rfl dX3_lays_48 (by decide) (lv' := [some (.inr (.inr (some (312 + 18 * a0))) : xV), some (.inr (.inr (some (a1))) : xV), some (.inr (.inr (some (315 + 18 * a2))) : xV), some (.inl (a3) : xV), some (.inl (a4) : xV), some (.inr (.inr (some (300 + (16 + 18 * a2 + 2 * a4.toNatClampNeg)))) : xV)]) rfl ?_
    refine x_aload (i := 5) 52 rfl dX3_lays_50 rfl ?_
    refine x_bok h (fun hb h => ?_)
    refine x_cl h (fun q5 hq h => ?_)
    refine x_callV (as := []) (rest := []) (vv := none) (w2 := (ms, q5)) (C := RJ6) (T := TJ6) (N := 3) 55 rfl dX3_lays_52 (x_J6_clear_ct hq) (Or.inl (xcell_XB hb).1) rfl (lw_V q908 q909 q910 q127 q911) rfl ydJ6_clear rfl ⟨Nat.le_of_ble_eq_true rfl, Nat.le_of_ble_eq_true rfl⟩ (Nat.le_of_ble_eq_true rfl) rfl ?_
    change xB xLL yX3_lays cX3_lays 6 (some .boolean) 14 3110 55 [some (.inr (.inr (some (312 + 18 * a0))) : xV), some (.inr (.inr (some (a1))) : xV), some (.inr (.inr (some (315 + 18 * a2))) : xV), some (.inl (a3) : xV), some (.inl (a4) : xV), some (.inr (.inr (some (300 + (16 + 18 * a2 + 2 * a4.toNatClampNeg)))) : xV)] [] (ms, q5) _ _
    refine x_iincL (i := 4) (1 : Int32) 58 rfl dX3_lays_55 rfl rfl (by decide) h (fun x6 h => ?_)
    change xB xLL yX3_lays cX3_lays 6 (some .boolean) 14 3110 58 [some (.inr (.inr (some (312 + 18 * a0))) : xV), some (.inr (.inr (some (a1))) : xV), some (.inr (.inr (some (315 + 18 * a2))) : xV), some (.inl (a3) : xV), some (.inl (x6) : xV), some (.inr (.inr (some (300 + (16 + 18 * a2 + 2 * a4.toNatClampNeg)))) : xV)] [] (ms, q5) _ _
    refine x_goto 38 dX3_lays_58 rfl ?_
    exact xB.le (xle.s (xle.s (xle.s (xle.s (xle.s (xle.n xle.z)))))) (hr38 h)
def x_X3_lays_38_L : Nat → Nat → Nat → Nat → Int32 → Int32 → xR → Option (Int32 × xR)
  | 0 => fun _ _ _ _ _ _ => none
  | n + 1 => x_X3_lays_38_s (x_X3_lays_38_L  n)
theorem x_X3_lays_38_L_ok {ms : xS} {rr : Int32 × xR} : ∀ (n9 : Nat) {a0 : Nat} {a1 : Nat} {a2 : Nat} {a3 : Int32} {a4 : Int32} {r : xR}, x_X3_lays_38_L  n9 a0 a1 a2 a3 a4 r = some rr → xB xLL yX3_lays cX3_lays 6 (some .boolean) 14 3110 38 [some (.inr (.inr (some (312 + 18 * a0))) : xV), some (.inr (.inr (some (a1))) : xV), some (.inr (.inr (some (315 + 18 * a2))) : xV), some (.inl (a3) : xV), some (.inl (a4) : xV), none] [] (ms, r) (some (.inl rr.1)) (ms, rr.2)
  | 0, _, _, _, _, _, _, h => by cases h
  | n9 + 1, _, _, _, _, _, _, h => x_X3_lays_38_s_ok (x_X3_lays_38_L_ok  n9) h
def x_X3_lays (a0 : Nat) (a1 : Nat) (r : xR) : Option (Int32 × xR) := gok a0 <| if (r.1.1 (12 + 18 * a0) 3) = 0 then gok a0 <| qpi r (12 + 18 * a0) 3 (1 : Int32) fun r7 => gok a0 <| qpr r7 (12 + 18 * a0) 5 (some (a1)) fun r8 => gok a0 <| qpi r8 (12 + 18 * a0) 6 (1 : Int32) fun r9 => gok a0 <| gok a0 <| lt ((7 : Int32)) fun x10 => lt ((0 : Int32)) fun x11 => x_X3_lays_38_L xFU a0 a1 a0 x10 x11 r9 else gok a0 <| zb (r.1.1 (12 + 18 * a0) 4) (some (r.1.1 (12 + 18 * a0) 4, r))
theorem x_X3_lays_ct {ms : xS} {rr : Int32 × xR} {a0 : Nat} {a1 : Nat} {r : xR} (h : x_X3_lays a0 a1 r = some rr) : xCt xLL yX3_lays cX3_lays 6 (some .boolean) 14 3110 [(.inr (.inr (some (312 + 18 * a0))) : xV), (.inr (.inr (some (a1))) : xV)] (ms, r) (some (.inl rr.1)) (ms, rr.2) := by
  refine xCt.of (lv := [some (.inr (.inr (some (312 + 18 * a0))) : xV), some (.inr (.inr (some (a1))) : xV), none, none, none, none]) pl_X3 (Nat.le_of_ble_eq_true rfl) (xle.s (xle.s (xle.m (xle.m (xle.m (xle.m xle.z)))))) ?_
  refine x_aload_n (i := 0) 1 rfl dX3_lays_0 rfl rfl ?_
  refine x_gok h (fun hg h => ?_)
  refine g_get (k := 3) 4 rfl dX3_lays_1 (by decide) q299 hg rfl ?_
  refine x_if_eq 12 7 rfl dX3_lays_4 rfl h (fun h => ?_) (fun h => ?_)
  · refine x_aload_n (i := 0) 13 rfl dX3_lays_12 rfl rfl ?_
    refine x_iconst (1 : Int32) 14 rfl dX3_lays_13 rfl ?_
    refine x_gok h (fun hg h => ?_)
    refine g_puti (k := 3) (z := 0) 17 rfl dX3_lays_14 (by decide) hg rfl (Or.inr ⟨rfl, Or.inr rfl⟩) rfl q299 h (fun r7 h => ?_)
    refine x_aload_n (i := 0) 18 rfl dX3_lays_17 rfl rfl ?_
    refine x_aload_n (i := 1) 19 rfl dX3_lays_18 rfl rfl ?_
    refine x_gok h (fun hg h => ?_)
    refine g_putr (k := 5) (z := 0) 22 rfl dX3_lays_19 (by decide) hg rfl (Or.inl ⟨_, rfl⟩) rfl q302 h (fun r8 h => ?_)
    refine x_aload_n (i := 0) 23 rfl dX3_lays_22 rfl rfl ?_
    refine x_iconst (1 : Int32) 24 rfl dX3_lays_23 rfl ?_
    refine x_gok h (fun hg h => ?_)
    refine g_puti (k := 6) (z := 0) 27 rfl dX3_lays_24 (by decide) hg rfl (Or.inl rfl) rfl q304 h (fun r9 h => ?_)
    refine x_aload_n (i := 0) 28 rfl dX3_lays_27 rfl rfl ?_
    refine x_gok h (fun hg h => ?_)
    refine g_get (k := 2) 31 rfl dX3_lays_28 (by decide) q298 hg rfl ?_
    refine x_astore_n 32 rfl dX3_lays_31 rfl (by decide) (lv' := [some (.inr (.inr (some (312 + 18 * a0))) : xV), some (.inr (.inr (some (a1))) : xV), some (.inr (.inr (some (315 + 18 * a0))) : xV), none, none, none]) rfl ?_
    refine x_aload_n (i := 2) 33 rfl dX3_lays_32 rfl rfl ?_
    refine x_gok h (fun hg h => ?_)
    refine q_endsl hg 34 rfl dX3_lays_33 ?_
    refine x_lti h (fun x10 h => ?_)
    refine x_istore_n 35 rfl dX3_lays_34 rfl (by decide) (lv' := [some (.inr (.inr (some (312 + 18 * a0))) : xV), some (.inr (.inr (some (a1))) : xV), some (.inr (.inr (some (315 + 18 * a0))) : xV), some (.inl (x10) : xV), none, none]) rfl ?_
    refine x_iconst (0 : Int32) 36 rfl dX3_lays_35 rfl ?_
    refine x_lti h (fun x11 h => ?_)
    refine x_istore 38 rfl dX3_lays_36 (by decide) (lv' := [some (.inr (.inr (some (312 + 18 * a0))) : xV), some (.inr (.inr (some (a1))) : xV), some (.inr (.inr (some (315 + 18 * a0))) : xV), some (.inl (x10) : xV), some (.inl (x11) : xV), none]) rfl ?_
    exact xB.le (xle.s (xle.s (xle.s (xle.s (xle.s (xle.n xle.z)))))) (x_X3_lays_38_L_ok xFU h)
  · refine x_aload_n (i := 0) 8 rfl dX3_lays_7 rfl rfl ?_
    refine x_gok h (fun hg h => ?_)
    refine g_get (k := 4) 11 rfl dX3_lays_8 (by decide) q301 hg rfl ?_
    refine x_zb h (fun hz h => ?_)
    cases h
    exact x_zret rfl hz dX3_lays_11
/-! UnimodularTables.isGrown(I)Z -/
theorem ydX1_isGrown : xHd yX1_isGrown 1 := by decide +kernel
def x_X1_isGrown_42 (s0 : Option Nat) (s1 : Nat) (r : xR) : Option (Int32 × xR) := nn s0 fun p1 => gok s1 <| cl (x_X3_lays s1 p1 r) fun q2 => if q2.1 = 0 then some ((0 : Int32), q2.2) else some ((1 : Int32), q2.2)
theorem x_X1_isGrown_42_ok {ms : xS} {rr : Int32 × xR} {s0 : Option Nat} {s1 : Nat} {r : xR} (h : x_X1_isGrown_42  s0 s1 r = some rr) : xB xLL yX1_isGrown cX1_isGrown 2 (some .boolean) 15 3135 42 [none, none] [(.inr (.inr (s0)) : xV), (.inr (.inr (some (312 + 18 * s1))) : xV)] (ms, r) (some (.inl rr.1)) (ms, rr.2) := by
  refine x_nnP (P := fun s0 => xB xLL yX1_isGrown cX1_isGrown 2 (some .boolean) 15 3135 42 [none, none] [(.inr (.inr (s0)) : xV), (.inr (.inr (some (312 + 18 * s1))) : xV)] (ms, r) (some (.inl rr.1)) (ms, rr.2)) h (fun p1 h => ?_)
  refine x_gok h (fun hg h => ?_)
  refine x_cl h (fun q2 hq h => ?_)
  refine x_callV (as := [(.inr (.inr (some (p1))) : xV)]) (rest := []) (vv := (some (.inl (q2.1) : xV))) (w2 := (ms, q2.2)) (C := RX3) (T := TX3) (N := 8) 45 rfl dX1_isGrown_42 (x_X3_lays_ct hq) (Or.inl (xcell_XG hg)) rfl (lw_V q904 q905 q906 q126 q907) rfl ydX3_lays rfl ⟨Nat.le_of_ble_eq_true rfl, Nat.le_of_ble_eq_true rfl⟩ (Nat.le_of_ble_eq_true rfl) rfl ?_
  change xB xLL yX1_isGrown cX1_isGrown 2 (some .boolean) 15 3135 45 [none, none] [(.inl (q2.1) : xV)] (ms, q2.2) _ _
  refine x_if_eq 52 48 rfl dX1_isGrown_45 rfl h (fun h => ?_) (fun h => ?_)
  · refine x_iconst (0 : Int32) 53 rfl dX1_isGrown_52 rfl ?_
    cases h
    exact x_zret rfl (Or.inl rfl) dX1_isGrown_53
  · refine x_iconst (1 : Int32) 49 rfl dX1_isGrown_48 rfl ?_
    refine x_goto 53 dX1_isGrown_49 rfl ?_
    cases h
    exact x_zret rfl (Or.inr rfl) dX1_isGrown_53
def x_X1_isGrown (a1 : Int32) (r : xR) : Option (Int32 × xR) := lt (r.1.2.2 0 11) fun p3 => nu p3 (some ((0 : Int32), r)) fun p4 => cl (p_X1_in a1 (0 : Int32) (1 : Int32)) fun q5 => if q5 = 0 then some ((0 : Int32), r) else ix a1 2 fun _ => if a1 = 0 then lt (r.1.2.2 0 11) fun p10 => x_X1_isGrown_42 p10 a1.toNatClampNeg r else lt (r.1.2.2 0 11) fun p7 => nn p7 fun p8 => cl (d_X1_transposed xLL p8 (0 : Int32) (0 : Int32) r) fun q9 => x_X1_isGrown_42 (some (q9.1)) a1.toNatClampNeg q9.2
theorem x_X1_isGrown_ct {ms : xS} {rr : Int32 × xR} {a1 : Int32} {r : xR} (h : x_X1_isGrown a1 r = some rr) : xCt xLL yX1_isGrown cX1_isGrown 2 (some .boolean) 15 3135 [(.inr (.inr (some 300)) : xV), (.inl (a1) : xV)] (ms, r) (some (.inl rr.1)) (ms, rr.2) := by
  refine xCt.of (lv := [some (.inr (.inr (some 300)) : xV), some (.inl (a1) : xV)]) pl_X1 (Nat.le_of_ble_eq_true rfl) (xle.s (xle.s xle.z)) ?_
  refine x_aload_n (i := 0) 1 rfl dX1_isGrown_0 rfl rfl ?_
  refine q_get (k := 11) 4 rfl dX1_isGrown_1 (by decide) q453 rfl ?_
  refine x_ltr h (fun p3 h => ?_)
  refine x_nulP (lv := fun p3 => [some (.inr (.inr (some 300)) : xV), some (.inl (a1) : xV)]) (st := fun p3 => []) 52 7 rfl dX1_isGrown_4 rfl h (fun h => ?_) (fun p4 h => ?_)
  · refine x_iconst (0 : Int32) 53 rfl dX1_isGrown_52 rfl ?_
    cases h
    exact x_zret rfl (Or.inl rfl) dX1_isGrown_53
  · refine x_iload_n (i := 1) 8 rfl dX1_isGrown_7 rfl rfl ?_
    refine x_iconst (0 : Int32) 9 rfl dX1_isGrown_8 rfl ?_
    refine x_iconst (1 : Int32) 10 rfl dX1_isGrown_9 rfl ?_
    refine x_cl h (fun q5 hq h => ?_)
    refine x_callS (as := [(.inl (a1) : xV), (.inl ((0 : Int32)) : xV), (.inl ((1 : Int32)) : xV)]) (rest := []) (vv := (some (.inl (q5) : xV))) (w2 := (ms, r)) 13 rfl dX1_isGrown_10 (p_X1_in_ct hq) (lw_S q556 q557 q118 q558) ydX1_in rfl ⟨Nat.le_of_ble_eq_true rfl, Nat.le_of_ble_eq_true rfl⟩ (Nat.le_of_ble_eq_true rfl) rfl ?_
    change xB xLL yX1_isGrown cX1_isGrown 2 (some .boolean) 15 3135 13 [some (.inr (.inr (some 300)) : xV), some (.inl (a1) : xV)] [(.inl (q5) : xV)] (ms, r) _ _
    refine x_if_eq 52 16 rfl dX1_isGrown_13 rfl h (fun h => ?_) (fun h => ?_)
    · refine x_iconst (0 : Int32) 53 rfl dX1_isGrown_52 rfl ?_
      cases h
      exact x_zret rfl (Or.inl rfl) dX1_isGrown_53
    · refine x_aload_n (i := 0) 17 rfl dX1_isGrown_16 rfl rfl ?_
      refine q_get (k := 21) 20 rfl dX1_isGrown_17 (by decide) q463 rfl ?_
      refine x_iload_n (i := 1) 21 rfl dX1_isGrown_20 rfl rfl ?_
      refine x_ix h (fun hi h => ?_)
      refine q_sides hi 22 rfl dX1_isGrown_21 ?_
      refine x_iload_n (i := 1) 23 rfl dX1_isGrown_22 rfl rfl ?_
      refine x_if_ne 33 26 rfl dX1_isGrown_23 rfl h (fun h => ?_) (fun h => ?_)
      · refine x_aload_n (i := 0) 34 rfl dX1_isGrown_33 rfl rfl ?_
        refine q_get (k := 11) 37 rfl dX1_isGrown_34 (by decide) q453 rfl ?_
        refine x_ltr h (fun p7 h => ?_)
        refine x_iconst (0 : Int32) 38 rfl dX1_isGrown_37 rfl ?_
        refine x_iconst (0 : Int32) 39 rfl dX1_isGrown_38 rfl ?_
        refine x_nnP (P := fun p7 => xB xLL yX1_isGrown cX1_isGrown 2 (some .boolean) 15 3135 39 [some (.inr (.inr (some 300)) : xV), some (.inl (a1) : xV)] [(.inl ((0 : Int32)) : xV), (.inl ((0 : Int32)) : xV), (.inr (.inr (p7)) : xV), (.inr (.inr (some (312 + 18 * a1.toNatClampNeg))) : xV)] (ms, r) (some (.inl rr.1)) (ms, rr.2)) h (fun p8 h => ?_)
        refine x_cl h (fun q9 hq h => ?_)
        refine x_callS (as := [(.inr (.inr (some (p8))) : xV), (.inl ((0 : Int32)) : xV), (.inl ((0 : Int32)) : xV)]) (rest := [(.inr (.inr (some (312 + 18 * a1.toNatClampNeg))) : xV)]) (vv := (some (.inr (.inr (some (q9.1))) : xV))) (w2 := (ms, q9.2)) 42 rfl dX1_isGrown_39 (d_X1_transposed_ct hq) (lw_S q433 q434 q118 q435) ydX1_transposed rfl ⟨Nat.le_of_ble_eq_true rfl, Nat.le_of_ble_eq_true rfl⟩ (Nat.le_of_ble_eq_true rfl) rfl ?_
        change xB xLL yX1_isGrown cX1_isGrown 2 (some .boolean) 15 3135 42 [some (.inr (.inr (some 300)) : xV), some (.inl (a1) : xV)] [(.inr (.inr (some (q9.1))) : xV), (.inr (.inr (some (312 + 18 * a1.toNatClampNeg))) : xV)] (ms, q9.2) _ _
        exact xB.le (xle.n (xle.n xle.z)) (x_X1_isGrown_42_ok h)
      · refine x_aload_n (i := 0) 27 rfl dX1_isGrown_26 rfl rfl ?_
        refine q_get (k := 11) 30 rfl dX1_isGrown_27 (by decide) q453 rfl ?_
        refine x_ltr h (fun p10 h => ?_)
        refine x_goto 42 dX1_isGrown_30 rfl ?_
        exact xB.le (xle.n (xle.n xle.z)) (x_X1_isGrown_42_ok h)
/-! UnimodularTables.network(I)I -/
theorem ydX1_network : xHd yX1_network 1 := by decide +kernel
def x_X1_network_16 (r : xR) : Option (Int32 × xR) := some ((-1 : Int32), r)
theorem x_X1_network_16_ok {ms : xS} {rr : Int32 × xR} {r : xR} (h : x_X1_network_16  r = some rr) : xB xLL yX1_network cX1_network 2 (some .int) 16 3156 16 [none, none] [] (ms, r) (some (.inl rr.1)) (ms, rr.2) := by
  refine x_iconst (-1 : Int32) 17 rfl dX1_network_16 rfl ?_
  refine x_goto 33 dX1_network_17 rfl ?_
  cases h
  exact x_iret rfl dX1_network_33
def x_X1_network (a1 : Int32) (r : xR) : Option (Int32 × xR) := lt (r.1.2.2 0 11) fun p1 => nu p1 (x_X1_network_16 r) fun p2 => cl (p_X1_in a1 (0 : Int32) (1 : Int32)) fun q3 => if q3 = 0 then x_X1_network_16 r else cl (x_X1_isGrown a1 r) fun q4 => if q4.1 = 0 then some ((0 : Int32), q4.2) else some ((1 : Int32), q4.2)
theorem x_X1_network_ct {ms : xS} {rr : Int32 × xR} {a1 : Int32} {r : xR} (h : x_X1_network a1 r = some rr) : xCt xLL yX1_network cX1_network 2 (some .int) 16 3156 [(.inr (.inr (some 300)) : xV), (.inl (a1) : xV)] (ms, r) (some (.inl rr.1)) (ms, rr.2) := by
  refine xCt.of (lv := [some (.inr (.inr (some 300)) : xV), some (.inl (a1) : xV)]) pl_X1 (Nat.le_of_ble_eq_true rfl) (xle.s (xle.s xle.z)) ?_
  refine x_aload_n (i := 0) 1 rfl dX1_network_0 rfl rfl ?_
  refine q_get (k := 11) 4 rfl dX1_network_1 (by decide) q453 rfl ?_
  refine x_ltr h (fun p1 h => ?_)
  refine x_nulP (lv := fun p1 => [some (.inr (.inr (some 300)) : xV), some (.inl (a1) : xV)]) (st := fun p1 => []) 16 7 rfl dX1_network_4 rfl h (fun h => ?_) (fun p2 h => ?_)
  · exact xB.le (xle.n (xle.n xle.z)) (x_X1_network_16_ok h)
  · refine x_iload_n (i := 1) 8 rfl dX1_network_7 rfl rfl ?_
    refine x_iconst (0 : Int32) 9 rfl dX1_network_8 rfl ?_
    refine x_iconst (1 : Int32) 10 rfl dX1_network_9 rfl ?_
    refine x_cl h (fun q3 hq h => ?_)
    refine x_callS (as := [(.inl (a1) : xV), (.inl ((0 : Int32)) : xV), (.inl ((1 : Int32)) : xV)]) (rest := []) (vv := (some (.inl (q3) : xV))) (w2 := (ms, r)) 13 rfl dX1_network_10 (p_X1_in_ct hq) (lw_S q556 q557 q118 q558) ydX1_in rfl ⟨Nat.le_of_ble_eq_true rfl, Nat.le_of_ble_eq_true rfl⟩ (Nat.le_of_ble_eq_true rfl) rfl ?_
    change xB xLL yX1_network cX1_network 2 (some .int) 16 3156 13 [some (.inr (.inr (some 300)) : xV), some (.inl (a1) : xV)] [(.inl (q3) : xV)] (ms, r) _ _
    refine x_if_ne 20 16 rfl dX1_network_13 rfl h (fun h => ?_) (fun h => ?_)
    · refine x_aload_n (i := 0) 21 rfl dX1_network_20 rfl rfl ?_
      refine x_iload_n (i := 1) 22 rfl dX1_network_21 rfl rfl ?_
      refine x_cl h (fun q4 hq h => ?_)
      refine x_callV (as := [(.inl (a1) : xV)]) (rest := []) (vv := (some (.inl (q4.1) : xV))) (w2 := (ms, q4.2)) (C := RX1) (T := TX1) (N := 34) 25 rfl dX1_network_22 (x_X1_isGrown_ct hq) (Or.inl xcell_X0) rfl (lw_V q900 q902 qs28 q118 q903) rfl ydX1_isGrown rfl ⟨Nat.le_of_ble_eq_true rfl, Nat.le_of_ble_eq_true rfl⟩ (Nat.le_of_ble_eq_true rfl) rfl ?_
      change xB xLL yX1_network cX1_network 2 (some .int) 16 3156 25 [some (.inr (.inr (some 300)) : xV), some (.inl (a1) : xV)] [(.inl (q4.1) : xV)] (ms, q4.2) _ _
      refine x_if_eq 32 28 rfl dX1_network_25 rfl h (fun h => ?_) (fun h => ?_)
      · refine x_iconst (0 : Int32) 33 rfl dX1_network_32 rfl ?_
        cases h
        exact x_iret rfl dX1_network_33
      · refine x_iconst (1 : Int32) 29 rfl dX1_network_28 rfl ?_
        refine x_goto 33 dX1_network_29 rfl ?_
        cases h
        exact x_iret rfl dX1_network_33
    · exact xB.le (xle.n (xle.n xle.z)) (x_X1_network_16_ok h)
