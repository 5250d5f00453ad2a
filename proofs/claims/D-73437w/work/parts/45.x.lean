set_option maxRecDepth 100000
/-! UnimodularTables.fragile()I -/
theorem ydX1_fragile : xHd yX1_fragile 0 := by decide +kernel
def x_X1_fragile_82 (rec20 : Int32 → Int32 → xR → Option (Int32 × xR)) (rec33 : Int32 → Int32 → Int32 → xR → Option (Int32 × xR)) (a1 : Int32) (a2 : Int32) (a3 : Int32) (r : xR) : Option (Int32 × xR) := lt (a3 + (1 : Int32)) fun x1 => rec33 a1 a2 x1 r
theorem x_X1_fragile_82_ok {ms : xS} {rr : Int32 × xR} {rec20 : Int32 → Int32 → xR → Option (Int32 × xR)} {rec33 : Int32 → Int32 → Int32 → xR → Option (Int32 × xR)} (hr20 : ∀ {a1 : Int32} {a2 : Int32} {r : xR}, rec20 a1 a2 r = some rr → xB xLL yX1_fragile cX1_fragile 4 (some .int) 8 3135 20 [some (.inr (.inr (some 300)) : xV), some (.inl (a1) : xV), some (.inl (a2) : xV), none] [] (ms, r) (some (.inl rr.1)) (ms, rr.2)) (hr33 : ∀ {a1 : Int32} {a2 : Int32} {a3 : Int32} {r : xR}, rec33 a1 a2 a3 r = some rr → xB xLL yX1_fragile cX1_fragile 4 (some .int) 8 3135 33 [some (.inr (.inr (some 300)) : xV), some (.inl (a1) : xV), some (.inl (a2) : xV), some (.inl (a3) : xV)] [] (ms, r) (some (.inl rr.1)) (ms, rr.2)) {a1 : Int32} {a2 : Int32} {a3 : Int32} {r : xR} (h : x_X1_fragile_82 rec20 rec33 a1 a2 a3 r = some rr) : xB xLL yX1_fragile cX1_fragile 4 (some .int) 8 3135 82 [some (.inr (.inr (some 300)) : xV), some (.inl (a1) : xV), some (.inl (a2) : xV), some (.inl (a3) : xV)] [] (ms, r) (some (.inl rr.1)) (ms, rr.2) := by
  refine x_iincL (i := 3) (1 : Int32) 85 rfl dX1_fragile_82 rfl rfl (by decide) h (fun x1 h => ?_)
  change xB xLL yX1_fragile cX1_fragile 4 (some .int) 8 3135 85 [some (.inr (.inr (some 300)) : xV), some (.inl (a1) : xV), some (.inl (a2) : xV), some (.inl (x1) : xV)] [] (ms, r) _ _
  refine x_goto 33 dX1_fragile_85 rfl ?_
  exact xB.le (xle.s (xle.s (xle.s (xle.s xle.z)))) (hr33 h)
def x_X1_fragile_33_s (rec20 : Int32 → Int32 → xR → Option (Int32 × xR)) (rec33 : Int32 → Int32 → Int32 → xR → Option (Int32 × xR)) (a1 : Int32) (a2 : Int32) (a3 : Int32) (r : xR) : Option (Int32 × xR) := lt (r.1.2.2 0 11) fun p2 => nn p2 fun p3 => dgi xLL r p3 2 1 fun x4 => if x4 ≤ a3 then lt (a2 + (1 : Int32)) fun x5 => rec20 a1 x5 r else lt (r.1.2.2 0 11) fun p6 => nn p6 fun p7 => dgr xLL r p7 2 2 fun p8 => nn p8 fun p9 => dar xLL r p9 a2 fun p10 => nn p10 fun p11 => dai xLL r p11 a3 fun x12 => if x12 = 0 then x_X1_fragile_82 rec20 rec33 a1 a2 a3 r else lt (r.1.2.2 0 11) fun p13 => nn p13 fun p14 => dgr xLL r p14 2 2 fun p15 => nn p15 fun p16 => dar xLL r p16 a2 fun p17 => nn p17 fun p18 => dai xLL r p18 a3 fun x19 => cl (x_X1_isTotalWith a2 a3 (-x19) r) fun q20 => if q20.1 = 0 then lt (a1 + (1 : Int32)) fun x21 => x_X1_fragile_82 rec20 rec33 x21 a2 a3 q20.2 else x_X1_fragile_82 rec20 rec33 a1 a2 a3 q20.2
theorem x_X1_fragile_33_s_ok {ms : xS} {rr : Int32 × xR} {rec20 : Int32 → Int32 → xR → Option (Int32 × xR)} {rec33 : Int32 → Int32 → Int32 → xR → Option (Int32 × xR)} (hr20 : ∀ {a1 : Int32} {a2 : Int32} {r : xR}, rec20 a1 a2 r = some rr → xB xLL yX1_fragile cX1_fragile 4 (some .int) 8 3135 20 [some (.inr (.inr (some 300)) : xV), some (.inl (a1) : xV), some (.inl (a2) : xV), none] [] (ms, r) (some (.inl rr.1)) (ms, rr.2)) (hr33 : ∀ {a1 : Int32} {a2 : Int32} {a3 : Int32} {r : xR}, rec33 a1 a2 a3 r = some rr → xB xLL yX1_fragile cX1_fragile 4 (some .int) 8 3135 33 [some (.inr (.inr (some 300)) : xV), some (.inl (a1) : xV), some (.inl (a2) : xV), some (.inl (a3) : xV)] [] (ms, r) (some (.inl rr.1)) (ms, rr.2)) {a1 : Int32} {a2 : Int32} {a3 : Int32} {r : xR} (h : x_X1_fragile_33_s rec20 rec33 a1 a2 a3 r = some rr) : xB xLL yX1_fragile cX1_fragile 4 (some .int) 8 3135 33 [some (.inr (.inr (some 300)) : xV), some (.inl (a1) : xV), some (.inl (a2) : xV), some (.inl (a3) : xV)] [] (ms, r) (some (.inl rr.1)) (ms, rr.2) := by
  refine x_iload_n (i := 3) 34 rfl dX1_fragile_33 rfl rfl ?_
  refine x_aload_n (i := 0) 35 rfl dX1_fragile_34 rfl rfl ?_
  refine q_get (k := 11) 38 rfl dX1_fragile_35 (by decide) q453 rfl ?_
  refine x_ltr h (fun p2 h => ?_)
  refine x_nnP (P := fun p2 => xB xLL yX1_fragile cX1_fragile 4 (some .int) 8 3135 38 [some (.inr (.inr (some 300)) : xV), some (.inl (a1) : xV), some (.inl (a2) : xV), some (.inl (a3) : xV)] [(.inr (.inr (p2)) : xV), (.inl (a3) : xV)] (ms, r) (some (.inl rr.1)) (ms, rr.2)) h (fun p3 h => ?_)
  refine d_getiN (ci := 2) (k := 1) (C := RX4) (T := TX4) (N := 3) 41 rfl dX1_fragile_38 rfl in_X4 (by decide) (List.mem_of_getElem? (i := 7) rfl) h (fun x4 h => ?_)
  refine x_icmp_ge 88 44 rfl dX1_fragile_41 rfl h (fun h => ?_) (fun h => ?_)
  · refine x_iincL (i := 2) (1 : Int32) 91 rfl dX1_fragile_88 rfl rfl (by decide) h (fun x5 h => ?_)
    change xB xLL yX1_fragile cX1_fragile 4 (some .int) 8 3135 91 [some (.inr (.inr (some 300)) : xV), some (.inl (a1) : xV), some (.inl (x5) : xV), some (.inl (a3) : xV)] [] (ms, r) _ _
    refine x_goto 20 dX1_fragile_91 rfl ?_
    exact xB.le (xle.s (xle.s (xle.s (xle.n xle.z)))) (hr20 h)
  · refine x_aload_n (i := 0) 45 rfl dX1_fragile_44 rfl rfl ?_
    refine q_get (k := 11) 48 rfl dX1_fragile_45 (by decide) q453 rfl ?_
    refine x_ltr h (fun p6 h => ?_)
    refine x_nnP (P := fun p6 => xB xLL yX1_fragile cX1_fragile 4 (some .int) 8 3135 48 [some (.inr (.inr (some 300)) : xV), some (.inl (a1) : xV), some (.inl (a2) : xV), some (.inl (a3) : xV)] [(.inr (.inr (p6)) : xV)] (ms, r) (some (.inl rr.1)) (ms, rr.2)) h (fun p7 h => ?_)
    refine d_getrN (ci := 2) (k := 2) (C := RX4) (T := TX4) (N := 3) 51 rfl dX1_fragile_48 rfl in_X4 (by decide) (List.mem_of_getElem? (i := 9) rfl) h (fun p8 h => ?_)
    refine x_iload_n (i := 2) 52 rfl dX1_fragile_51 rfl rfl ?_
    refine x_nnP (P := fun p8 => xB xLL yX1_fragile cX1_fragile 4 (some .int) 8 3135 52 [some (.inr (.inr (some 300)) : xV), some (.inl (a1) : xV), some (.inl (a2) : xV), some (.inl (a3) : xV)] [(.inl (a2) : xV), (.inr (.inr (p8)) : xV)] (ms, r) (some (.inl rr.1)) (ms, rr.2)) h (fun p9 h => ?_)
    refine d_aald 53 rfl dX1_fragile_52 h (fun p10 h => ?_)
    refine x_iload_n (i := 3) 54 rfl dX1_fragile_53 rfl rfl ?_
    refine x_nnP (P := fun p10 => xB xLL yX1_fragile cX1_fragile 4 (some .int) 8 3135 54 [some (.inr (.inr (some 300)) : xV), some (.inl (a1) : xV), some (.inl (a2) : xV), some (.inl (a3) : xV)] [(.inl (a3) : xV), (.inr (.inr (p10)) : xV)] (ms, r) (some (.inl rr.1)) (ms, rr.2)) h (fun p11 h => ?_)
    refine d_iald 55 rfl dX1_fragile_54 h (fun x12 h => ?_)
    refine x_if_eq 82 58 rfl dX1_fragile_55 rfl h (fun h => ?_) (fun h => ?_)
    · exact xB.le (xle.s (xle.s (xle.s (xle.s xle.z)))) (x_X1_fragile_82_ok hr20 hr33 h)
    · refine x_aload_n (i := 0) 59 rfl dX1_fragile_58 rfl rfl ?_
      refine x_iload_n (i := 2) 60 rfl dX1_fragile_59 rfl rfl ?_
      refine x_iload_n (i := 3) 61 rfl dX1_fragile_60 rfl rfl ?_
      refine x_aload_n (i := 0) 62 rfl dX1_fragile_61 rfl rfl ?_
      refine q_get (k := 11) 65 rfl dX1_fragile_62 (by decide) q453 rfl ?_
      refine x_ltr h (fun p13 h => ?_)
      refine x_nnP (P := fun p13 => xB xLL yX1_fragile cX1_fragile 4 (some .int) 8 3135 65 [some (.inr (.inr (some 300)) : xV), some (.inl (a1) : xV), some (.inl (a2) : xV), some (.inl (a3) : xV)] [(.inr (.inr (p13)) : xV), (.inl (a3) : xV), (.inl (a2) : xV), (.inr (.inr (some 300)) : xV)] (ms, r) (some (.inl rr.1)) (ms, rr.2)) h (fun p14 h => ?_)
      refine d_getrN (ci := 2) (k := 2) (C := RX4) (T := TX4) (N := 3) 68 rfl dX1_fragile_65 rfl in_X4 (by decide) (List.mem_of_getElem? (i := 9) rfl) h (fun p15 h => ?_)
      refine x_iload_n (i := 2) 69 rfl dX1_fragile_68 rfl rfl ?_
      refine x_nnP (P := fun p15 => xB xLL yX1_fragile cX1_fragile 4 (some .int) 8 3135 69 [some (.inr (.inr (some 300)) : xV), some (.inl (a1) : xV), some (.inl (a2) : xV), some (.inl (a3) : xV)] [(.inl (a2) : xV), (.inr (.inr (p15)) : xV), (.inl (a3) : xV), (.inl (a2) : xV), (.inr (.inr (some 300)) : xV)] (ms, r) (some (.inl rr.1)) (ms, rr.2)) h (fun p16 h => ?_)
      refine d_aald 70 rfl dX1_fragile_69 h (fun p17 h => ?_)
      refine x_iload_n (i := 3) 71 rfl dX1_fragile_70 rfl rfl ?_
      refine x_nnP (P := fun p17 => xB xLL yX1_fragile cX1_fragile 4 (some .int) 8 3135 71 [some (.inr (.inr (some 300)) : xV), some (.inl (a1) : xV), some (.inl (a2) : xV), some (.inl (a3) : xV)] [(.inl (a3) : xV), (.inr (.inr (p17)) : xV), (.inl (a3) : xV), (.inl (a2) : xV), (.inr (.inr (some 300)) : xV)] (ms, r) (some (.inl rr.1)) (ms, rr.2)) h (fun p18 h => ?_)
      refine d_iald 72 rfl dX1_fragile_71 h (fun x19 h => ?_)
      refine x_ineg 73 rfl dX1_fragile_72 ?_
      refine x_cl h (fun q20 hq h => ?_)
      refine x_callV (as := [(.inl (a2) : xV), (.inl (a3) : xV), (.inl (-x19) : xV)]) (rest := []) (vv := (some (.inl (q20.1) : xV))) (w2 := (ms, q20.2)) (C := RX1) (T := TX1) (N := 34) 76 rfl dX1_fragile_73 (x_X1_isTotalWith_ct hq) (Or.inl xcell_X0) rfl (lw_V q1698 q1700 qs57 q118 q1701) rfl ydX1_isTotalWith rfl ⟨Nat.le_of_ble_eq_true rfl, Nat.le_of_ble_eq_true rfl⟩ (Nat.le_of_ble_eq_true rfl) rfl ?_
      change xB xLL yX1_fragile cX1_fragile 4 (some .int) 8 3135 76 [some (.inr (.inr (some 300)) : xV), some (.inl (a1) : xV), some (.inl (a2) : xV), some (.inl (a3) : xV)] [(.inl (q20.1) : xV)] (ms, q20.2) _ _
      refine x_if_ne 82 79 rfl dX1_fragile_76 rfl h (fun h => ?_) (fun h => ?_)
      · exact xB.le (xle.s (xle.s (xle.s (xle.s xle.z)))) (x_X1_fragile_82_ok hr20 hr33 h)
      · refine x_iincL (i := 1) (1 : Int32) 82 rfl dX1_fragile_79 rfl rfl (by decide) h (fun x21 h => ?_)
        change xB xLL yX1_fragile cX1_fragile 4 (some .int) 8 3135 82 [some (.inr (.inr (some 300)) : xV), some (.inl (x21) : xV), some (.inl (a2) : xV), some (.inl (a3) : xV)] [] (ms, q20.2) _ _
        exact xB.le (xle.s (xle.s (xle.s (xle.s xle.z)))) (x_X1_fragile_82_ok hr20 hr33 h)
def x_X1_fragile_33_L (rec20 : Int32 → Int32 → xR → Option (Int32 × xR)) : Nat → Int32 → Int32 → Int32 → xR → Option (Int32 × xR)
  | 0 => fun _ _ _ _ => none
  | n + 1 => x_X1_fragile_33_s rec20 (x_X1_fragile_33_L rec20 n)
theorem x_X1_fragile_33_L_ok {ms : xS} {rr : Int32 × xR} {rec20 : Int32 → Int32 → xR → Option (Int32 × xR)} (hr20 : ∀ {a1 : Int32} {a2 : Int32} {r : xR}, rec20 a1 a2 r = some rr → xB xLL yX1_fragile cX1_fragile 4 (some .int) 8 3135 20 [some (.inr (.inr (some 300)) : xV), some (.inl (a1) : xV), some (.inl (a2) : xV), none] [] (ms, r) (some (.inl rr.1)) (ms, rr.2)) : ∀ (n9 : Nat) {a1 : Int32} {a2 : Int32} {a3 : Int32} {r : xR}, x_X1_fragile_33_L rec20 n9 a1 a2 a3 r = some rr → xB xLL yX1_fragile cX1_fragile 4 (some .int) 8 3135 33 [some (.inr (.inr (some 300)) : xV), some (.inl (a1) : xV), some (.inl (a2) : xV), some (.inl (a3) : xV)] [] (ms, r) (some (.inl rr.1)) (ms, rr.2)
  | 0, _, _, _, _, h => by cases h
  | n9 + 1, _, _, _, _, h => x_X1_fragile_33_s_ok hr20 (x_X1_fragile_33_L_ok hr20 n9) h
def x_X1_fragile_20_s (rec20 : Int32 → Int32 → xR → Option (Int32 × xR)) (a1 : Int32) (a2 : Int32) (r : xR) : Option (Int32 × xR) := lt (r.1.2.2 0 11) fun p22 => nn p22 fun p23 => dgi xLL r p23 2 0 fun x24 => if x24 ≤ a2 then some (a1, r) else lt ((0 : Int32)) fun x25 => x_X1_fragile_33_L rec20 xFU a1 a2 x25 r
theorem x_X1_fragile_20_s_ok {ms : xS} {rr : Int32 × xR} {rec20 : Int32 → Int32 → xR → Option (Int32 × xR)} (hr20 : ∀ {a1 : Int32} {a2 : Int32} {r : xR}, rec20 a1 a2 r = some rr → xB xLL yX1_fragile cX1_fragile 4 (some .int) 8 3135 20 [some (.inr (.inr (some 300)) : xV), some (.inl (a1) : xV), some (.inl (a2) : xV), none] [] (ms, r) (some (.inl rr.1)) (ms, rr.2)) {a1 : Int32} {a2 : Int32} {r : xR} (h : x_X1_fragile_20_s rec20 a1 a2 r = some rr) : xB xLL yX1_fragile cX1_fragile 4 (some .int) 8 3135 20 [some (.inr (.inr (some 300)) : xV), some (.inl (a1) : xV), some (.inl (a2) : xV), none] [] (ms, r) (some (.inl rr.1)) (ms, rr.2) := by
  refine x_iload_n (i := 2) 21 rfl dX1_fragile_20 rfl rfl ?_
  refine x_aload_n (i := 0) 22 rfl dX1_fragile_21 rfl rfl ?_
  refine q_get (k := 11) 25 rfl dX1_fragile_22 (by decide) q453 rfl ?_
  refine x_ltr h (fun p22 h => ?_)
  refine x_nnP (P := fun p22 => xB xLL yX1_fragile cX1_fragile 4 (some .int) 8 3135 25 [some (.inr (.inr (some 300)) : xV), some (.inl (a1) : xV), some (.inl (a2) : xV), none] [(.inr (.inr (p22)) : xV), (.inl (a2) : xV)] (ms, r) (some (.inl rr.1)) (ms, rr.2)) h (fun p23 h => ?_)
  refine d_getiN (ci := 2) (k := 0) (C := RX4) (T := TX4) (N := 3) 28 rfl dX1_fragile_25 rfl in_X4 (by decide) (List.mem_of_getElem? (i := 5) rfl) h (fun x24 h => ?_)
  refine x_icmp_ge 94 31 rfl dX1_fragile_28 rfl h (fun h => ?_) (fun h => ?_)
  · refine x_iload_n (i := 1) 95 rfl dX1_fragile_94 rfl rfl ?_
    cases h
    exact x_iret rfl dX1_fragile_95
  · refine x_iconst (0 : Int32) 32 rfl dX1_fragile_31 rfl ?_
    refine x_lti h (fun x25 h => ?_)
    refine x_istore_n 33 rfl dX1_fragile_32 rfl (by decide) (lv' := [some (.inr (.inr (some 300)) : xV), some (.inl (a1) : xV), some (.inl (a2) : xV), some (.inl (x25) : xV)]) rfl ?_
    exact xB.le (xle.s (xle.s (xle.s (xle.s xle.z)))) (x_X1_fragile_33_L_ok hr20 xFU h)
def x_X1_fragile_20_L : Nat → Int32 → Int32 → xR → Option (Int32 × xR)
  | 0 => fun _ _ _ => none
  | n + 1 => x_X1_fragile_20_s (x_X1_fragile_20_L  n)
theorem x_X1_fragile_20_L_ok {ms : xS} {rr : Int32 × xR} : ∀ (n9 : Nat) {a1 : Int32} {a2 : Int32} {r : xR}, x_X1_fragile_20_L  n9 a1 a2 r = some rr → xB xLL yX1_fragile cX1_fragile 4 (some .int) 8 3135 20 [some (.inr (.inr (some 300)) : xV), some (.inl (a1) : xV), some (.inl (a2) : xV), none] [] (ms, r) (some (.inl rr.1)) (ms, rr.2)
  | 0, _, _, _, h => by cases h
  | n9 + 1, _, _, _, h => x_X1_fragile_20_s_ok (x_X1_fragile_20_L_ok  n9) h
def x_X1_fragile (r : xR) : Option (Int32 × xR) := lt (r.1.2.2 0 11) fun p26 => nu p26 (some ((-1 : Int32), r)) fun p27 => cl (x_X1_isTotalNow r) fun q28 => if q28.1 = 0 then some ((-1 : Int32), q28.2) else lt ((0 : Int32)) fun x29 => lt ((0 : Int32)) fun x30 => x_X1_fragile_20_L xFU x29 x30 q28.2
theorem x_X1_fragile_ct {ms : xS} {rr : Int32 × xR} {r : xR} (h : x_X1_fragile r = some rr) : xCt xLL yX1_fragile cX1_fragile 4 (some .int) 8 3135 [(.inr (.inr (some 300)) : xV)] (ms, r) (some (.inl rr.1)) (ms, rr.2) := by
  refine xCt.of (lv := [some (.inr (.inr (some 300)) : xV), none, none, none]) pl_X1 (Nat.le_of_ble_eq_true rfl) (xle.s (xle.m (xle.m (xle.m xle.z)))) ?_
  refine x_aload_n (i := 0) 1 rfl dX1_fragile_0 rfl rfl ?_
  refine q_get (k := 11) 4 rfl dX1_fragile_1 (by decide) q453 rfl ?_
  refine x_ltr h (fun p26 h => ?_)
  refine x_nulP (lv := fun p26 => [some (.inr (.inr (some 300)) : xV), none, none, none]) (st := fun p26 => []) 14 7 rfl dX1_fragile_4 rfl h (fun h => ?_) (fun p27 h => ?_)
  · refine x_iconst (-1 : Int32) 15 rfl dX1_fragile_14 rfl ?_
    cases h
    exact x_iret rfl dX1_fragile_15
  · refine x_aload_n (i := 0) 8 rfl dX1_fragile_7 rfl rfl ?_
    refine x_cl h (fun q28 hq h => ?_)
    refine x_callV (as := []) (rest := []) (vv := (some (.inl (q28.1) : xV))) (w2 := (ms, q28.2)) (C := RX1) (T := TX1) (N := 34) 11 rfl dX1_fragile_8 (x_X1_isTotalNow_ct hq) (Or.inl xcell_X0) rfl (lw_V q867 q869 qs24 q118 q870) rfl ydX1_isTotalNow rfl ⟨Nat.le_of_ble_eq_true rfl, Nat.le_of_ble_eq_true rfl⟩ (Nat.le_of_ble_eq_true rfl) rfl ?_
    change xB xLL yX1_fragile cX1_fragile 4 (some .int) 8 3135 11 [some (.inr (.inr (some 300)) : xV), none, none, none] [(.inl (q28.1) : xV)] (ms, q28.2) _ _
    refine x_if_ne 16 14 rfl dX1_fragile_11 rfl h (fun h => ?_) (fun h => ?_)
    · refine x_iconst (0 : Int32) 17 rfl dX1_fragile_16 rfl ?_
      refine x_lti h (fun x29 h => ?_)
      refine x_istore_n 18 rfl dX1_fragile_17 rfl (by decide) (lv' := [some (.inr (.inr (some 300)) : xV), some (.inl (x29) : xV), none, none]) rfl ?_
      refine x_iconst (0 : Int32) 19 rfl dX1_fragile_18 rfl ?_
      refine x_lti h (fun x30 h => ?_)
      refine x_istore_n 20 rfl dX1_fragile_19 rfl (by decide) (lv' := [some (.inr (.inr (some 300)) : xV), some (.inl (x29) : xV), some (.inl (x30) : xV), none]) rfl ?_
      exact xB.le (xle.s (xle.s (xle.s (xle.n xle.z)))) (x_X1_fragile_20_L_ok xFU h)
    · refine x_iconst (-1 : Int32) 15 rfl dX1_fragile_14 rfl ?_
      cases h
      exact x_iret rfl dX1_fragile_15
/-! UnimodularTables.fills(II)I -/
theorem ydX1_fills : xHd yX1_fills 2 := by decide +kernel
def x_X1_fills_62 (rec36 : Int32 → Int32 → Int32 → Int32 → xR → Option (Int32 × xR)) (a1 : Int32) (a2 : Int32) (a3 : Int32) (a4 : Int32) (r : xR) : Option (Int32 × xR) := lt (a4 + (1 : Int32)) fun x1 => rec36 a1 a2 a3 x1 r
theorem x_X1_fills_62_ok {ms : xS} {rr : Int32 × xR} {rec36 : Int32 → Int32 → Int32 → Int32 → xR → Option (Int32 × xR)} (hr36 : ∀ {a1 : Int32} {a2 : Int32} {a3 : Int32} {a4 : Int32} {r : xR}, rec36 a1 a2 a3 a4 r = some rr → xB xLL yX1_fills cX1_fills 5 (some .int) 8 3135 36 [some (.inr (.inr (some 300)) : xV), some (.inl (a1) : xV), some (.inl (a2) : xV), some (.inl (a3) : xV), some (.inl (a4) : xV)] [] (ms, r) (some (.inl rr.1)) (ms, rr.2)) {a1 : Int32} {a2 : Int32} {a3 : Int32} {a4 : Int32} {r : xR} (h : x_X1_fills_62 rec36 a1 a2 a3 a4 r = some rr) : xB xLL yX1_fills cX1_fills 5 (some .int) 8 3135 62 [some (.inr (.inr (some 300)) : xV), some (.inl (a1) : xV), some (.inl (a2) : xV), some (.inl (a3) : xV), some (.inl (a4) : xV)] [] (ms, r) (some (.inl rr.1)) (ms, rr.2) := by
  refine x_iincL (i := 4) (1 : Int32) 65 rfl dX1_fills_62 rfl rfl (by decide) h (fun x1 h => ?_)
  change xB xLL yX1_fills cX1_fills 5 (some .int) 8 3135 65 [some (.inr (.inr (some 300)) : xV), some (.inl (a1) : xV), some (.inl (a2) : xV), some (.inl (a3) : xV), some (.inl (x1) : xV)] [] (ms, r) _ _
  refine x_goto 36 dX1_fills_65 rfl ?_
  exact xB.le (xle.s (xle.s (xle.s (xle.s (xle.s xle.z))))) (hr36 h)
def x_X1_fills_36_s (rec36 : Int32 → Int32 → Int32 → Int32 → xR → Option (Int32 × xR)) (a1 : Int32) (a2 : Int32) (a3 : Int32) (a4 : Int32) (r : xR) : Option (Int32 × xR) := if (2 : Int32) ≤ a4 then some (a3, r) else cl (x_X1_isTotalWith a1 a2 a4 r) fun q2 => if q2.1 = 0 then x_X1_fills_62 rec36 a1 a2 a3 a4 q2.2 else lt (a3 ||| (jshl (1 : Int32) (a4 + (1 : Int32)))) fun x3 => x_X1_fills_62 rec36 a1 a2 x3 a4 q2.2
theorem x_X1_fills_36_s_ok {ms : xS} {rr : Int32 × xR} {rec36 : Int32 → Int32 → Int32 → Int32 → xR → Option (Int32 × xR)} (hr36 : ∀ {a1 : Int32} {a2 : Int32} {a3 : Int32} {a4 : Int32} {r : xR}, rec36 a1 a2 a3 a4 r = some rr → xB xLL yX1_fills cX1_fills 5 (some .int) 8 3135 36 [some (.inr (.inr (some 300)) : xV), some (.inl (a1) : xV), some (.inl (a2) : xV), some (.inl (a3) : xV), some (.inl (a4) : xV)] [] (ms, r) (some (.inl rr.1)) (ms, rr.2)) {a1 : Int32} {a2 : Int32} {a3 : Int32} {a4 : Int32} {r : xR} (h : x_X1_fills_36_s rec36 a1 a2 a3 a4 r = some rr) : xB xLL yX1_fills cX1_fills 5 (some .int) 8 3135 36 [some (.inr (.inr (some 300)) : xV), some (.inl (a1) : xV), some (.inl (a2) : xV), some (.inl (a3) : xV), some (.inl (a4) : xV)] [] (ms, r) (some (.inl rr.1)) (ms, rr.2) := by
  refine x_iload (i := 4) 38 rfl dX1_fills_36 rfl ?_
  refine x_iconst (2 : Int32) 39 rfl dX1_fills_38 rfl ?_
  refine x_icmp_ge 68 42 rfl dX1_fills_39 rfl h (fun h => ?_) (fun h => ?_)
  · refine x_iload_n (i := 3) 69 rfl dX1_fills_68 rfl rfl ?_
    cases h
    exact x_iret rfl dX1_fills_69
  · refine x_aload_n (i := 0) 43 rfl dX1_fills_42 rfl rfl ?_
    refine x_iload_n (i := 1) 44 rfl dX1_fills_43 rfl rfl ?_
    refine x_iload_n (i := 2) 45 rfl dX1_fills_44 rfl rfl ?_
    refine x_iload (i := 4) 47 rfl dX1_fills_45 rfl ?_
    refine x_cl h (fun q2 hq h => ?_)
    refine x_callV (as := [(.inl (a1) : xV), (.inl (a2) : xV), (.inl (a4) : xV)]) (rest := []) (vv := (some (.inl (q2.1) : xV))) (w2 := (ms, q2.2)) (C := RX1) (T := TX1) (N := 34) 50 rfl dX1_fills_47 (x_X1_isTotalWith_ct hq) (Or.inl xcell_X0) rfl (lw_V q1698 q1700 qs57 q118 q1701) rfl ydX1_isTotalWith rfl ⟨Nat.le_of_ble_eq_true rfl, Nat.le_of_ble_eq_true rfl⟩ (Nat.le_of_ble_eq_true rfl) rfl ?_
    change xB xLL yX1_fills cX1_fills 5 (some .int) 8 3135 50 [some (.inr (.inr (some 300)) : xV), some (.inl (a1) : xV), some (.inl (a2) : xV), some (.inl (a3) : xV), some (.inl (a4) : xV)] [(.inl (q2.1) : xV)] (ms, q2.2) _ _
    refine x_if_eq 62 53 rfl dX1_fills_50 rfl h (fun h => ?_) (fun h => ?_)
    · exact xB.le (xle.s (xle.s (xle.s (xle.s (xle.s xle.z))))) (x_X1_fills_62_ok hr36 h)
    · refine x_iload_n (i := 3) 54 rfl dX1_fills_53 rfl rfl ?_
      refine x_iconst (1 : Int32) 55 rfl dX1_fills_54 rfl ?_
      refine x_iload (i := 4) 57 rfl dX1_fills_55 rfl ?_
      refine x_iconst (1 : Int32) 58 rfl dX1_fills_57 rfl ?_
      refine x_iadd 59 rfl dX1_fills_58 ?_
      refine x_ishl 60 rfl dX1_fills_59 ?_
      refine x_ior 61 rfl dX1_fills_60 ?_
      refine x_lti h (fun x3 h => ?_)
      refine x_istore_n 62 rfl dX1_fills_61 rfl (by decide) (lv' := [some (.inr (.inr (some 300)) : xV), some (.inl (a1) : xV), some (.inl (a2) : xV), some (.inl (x3) : xV), some (.inl (a4) : xV)]) rfl ?_
      exact xB.le (xle.s (xle.s (xle.s (xle.s (xle.s xle.z))))) (x_X1_fills_62_ok hr36 h)
def x_X1_fills_36_L : Nat → Int32 → Int32 → Int32 → Int32 → xR → Option (Int32 × xR)
  | 0 => fun _ _ _ _ _ => none
  | n + 1 => x_X1_fills_36_s (x_X1_fills_36_L  n)
theorem x_X1_fills_36_L_ok {ms : xS} {rr : Int32 × xR} : ∀ (n9 : Nat) {a1 : Int32} {a2 : Int32} {a3 : Int32} {a4 : Int32} {r : xR}, x_X1_fills_36_L  n9 a1 a2 a3 a4 r = some rr → xB xLL yX1_fills cX1_fills 5 (some .int) 8 3135 36 [some (.inr (.inr (some 300)) : xV), some (.inl (a1) : xV), some (.inl (a2) : xV), some (.inl (a3) : xV), some (.inl (a4) : xV)] [] (ms, r) (some (.inl rr.1)) (ms, rr.2)
  | 0, _, _, _, _, _, h => by cases h
  | n9 + 1, _, _, _, _, _, h => x_X1_fills_36_s_ok (x_X1_fills_36_L_ok  n9) h
def x_X1_fills (a1 : Int32) (a2 : Int32) (r : xR) : Option (Int32 × xR) := lt (r.1.2.2 0 11) fun p4 => nu p4 (some ((-1 : Int32), r)) fun p5 => lt (r.1.2.2 0 11) fun p6 => nn p6 fun p7 => cl (x_X1_isRow p7 a1 r) fun q8 => if q8.1 = 0 then some ((-1 : Int32), q8.2) else lt (q8.2.1.2.2 0 11) fun p9 => nn p9 fun p10 => cl (x_X1_isColumn p10 a2 q8.2) fun q11 => if q11.1 = 0 then some ((-1 : Int32), q11.2) else lt ((0 : Int32)) fun x12 => lt ((-1 : Int32)) fun x13 => x_X1_fills_36_L xFU a1 a2 x12 x13 q11.2
theorem x_X1_fills_ct {ms : xS} {rr : Int32 × xR} {a1 : Int32} {a2 : Int32} {r : xR} (h : x_X1_fills a1 a2 r = some rr) : xCt xLL yX1_fills cX1_fills 5 (some .int) 8 3135 [(.inr (.inr (some 300)) : xV), (.inl (a1) : xV), (.inl (a2) : xV)] (ms, r) (some (.inl rr.1)) (ms, rr.2) := by
  refine xCt.of (lv := [some (.inr (.inr (some 300)) : xV), some (.inl (a1) : xV), some (.inl (a2) : xV), none, none]) pl_X1 (Nat.le_of_ble_eq_true rfl) (xle.s (xle.s (xle.s (xle.m (xle.m xle.z))))) ?_
  refine x_aload_n (i := 0) 1 rfl dX1_fills_0 rfl rfl ?_
  refine q_get (k := 11) 4 rfl dX1_fills_1 (by decide) q453 rfl ?_
  refine x_ltr h (fun p4 h => ?_)
  refine x_nulP (lv := fun p4 => [some (.inr (.inr (some 300)) : xV), some (.inl (a1) : xV), some (.inl (a2) : xV), none, none]) (st := fun p4 => []) 29 7 rfl dX1_fills_4 rfl h (fun h => ?_) (fun p5 h => ?_)
  · refine x_iconst (-1 : Int32) 30 rfl dX1_fills_29 rfl ?_
    cases h
    exact x_iret rfl dX1_fills_30
  · refine x_aload_n (i := 0) 8 rfl dX1_fills_7 rfl rfl ?_
    refine q_get (k := 11) 11 rfl dX1_fills_8 (by decide) q453 rfl ?_
    refine x_ltr h (fun p6 h => ?_)
    refine x_iload_n (i := 1) 12 rfl dX1_fills_11 rfl rfl ?_
    refine x_nnP (P := fun p6 => xB xLL yX1_fills cX1_fills 5 (some .int) 8 3135 12 [some (.inr (.inr (some 300)) : xV), some (.inl (a1) : xV), some (.inl (a2) : xV), none, none] [(.inl (a1) : xV), (.inr (.inr (p6)) : xV)] (ms, r) (some (.inl rr.1)) (ms, rr.2)) h (fun p7 h => ?_)
    refine x_cl h (fun q8 hq h => ?_)
    refine x_callS (as := [(.inr (.inr (some (p7))) : xV), (.inl (a1) : xV)]) (rest := []) (vv := (some (.inl (q8.1) : xV))) (w2 := (ms, q8.2)) 15 rfl dX1_fills_12 (x_X1_isRow_ct hq) (lw_S q686 q687 q118 q688) ydX1_isRow rfl ⟨Nat.le_of_ble_eq_true rfl, Nat.le_of_ble_eq_true rfl⟩ (Nat.le_of_ble_eq_true rfl) rfl ?_
    change xB xLL yX1_fills cX1_fills 5 (some .int) 8 3135 15 [some (.inr (.inr (some 300)) : xV), some (.inl (a1) : xV), some (.inl (a2) : xV), none, none] [(.inl (q8.1) : xV)] (ms, q8.2) _ _
    refine x_if_eq 29 18 rfl dX1_fills_15 rfl h (fun h => ?_) (fun h => ?_)
    · refine x_iconst (-1 : Int32) 30 rfl dX1_fills_29 rfl ?_
      cases h
      exact x_iret rfl dX1_fills_30
    · refine x_aload_n (i := 0) 19 rfl dX1_fills_18 rfl rfl ?_
      refine q_get (k := 11) 22 rfl dX1_fills_19 (by decide) q453 rfl ?_
      refine x_ltr h (fun p9 h => ?_)
      refine x_iload_n (i := 2) 23 rfl dX1_fills_22 rfl rfl ?_
      refine x_nnP (P := fun p9 => xB xLL yX1_fills cX1_fills 5 (some .int) 8 3135 23 [some (.inr (.inr (some 300)) : xV), some (.inl (a1) : xV), some (.inl (a2) : xV), none, none] [(.inl (a2) : xV), (.inr (.inr (p9)) : xV)] (ms, q8.2) (some (.inl rr.1)) (ms, rr.2)) h (fun p10 h => ?_)
      refine x_cl h (fun q11 hq h => ?_)
      refine x_callS (as := [(.inr (.inr (some (p10))) : xV), (.inl (a2) : xV)]) (rest := []) (vv := (some (.inl (q11.1) : xV))) (w2 := (ms, q11.2)) 26 rfl dX1_fills_23 (x_X1_isColumn_ct hq) (lw_S q689 q690 q118 q691) ydX1_isColumn rfl ⟨Nat.le_of_ble_eq_true rfl, Nat.le_of_ble_eq_true rfl⟩ (Nat.le_of_ble_eq_true rfl) rfl ?_
      change xB xLL yX1_fills cX1_fills 5 (some .int) 8 3135 26 [some (.inr (.inr (some 300)) : xV), some (.inl (a1) : xV), some (.inl (a2) : xV), none, none] [(.inl (q11.1) : xV)] (ms, q11.2) _ _
      refine x_if_ne 31 29 rfl dX1_fills_26 rfl h (fun h => ?_) (fun h => ?_)
      · refine x_iconst (0 : Int32) 32 rfl dX1_fills_31 rfl ?_
        refine x_lti h (fun x12 h => ?_)
        refine x_istore_n 33 rfl dX1_fills_32 rfl (by decide) (lv' := [some (.inr (.inr (some 300)) : xV), some (.inl (a1) : xV), some (.inl (a2) : xV), some (.inl (x12) : xV), none]) rfl ?_
        refine x_iconst (-1 : Int32) 34 rfl dX1_fills_33 rfl ?_
        refine x_lti h (fun x13 h => ?_)
        refine x_istore 36 rfl dX1_fills_34 (by decide) (lv' := [some (.inr (.inr (some 300)) : xV), some (.inl (a1) : xV), some (.inl (a2) : xV), some (.inl (x12) : xV), some (.inl (x13) : xV)]) rfl ?_
        exact xB.le (xle.s (xle.s (xle.s (xle.s (xle.s xle.z))))) (x_X1_fills_36_L_ok xFU h)
      · refine x_iconst (-1 : Int32) 30 rfl dX1_fills_29 rfl ?_
        cases h
        exact x_iret rfl dX1_fills_30
/-! UnimodularTables.onesAt(IZ)I -/
theorem ydX1_onesAt : xHd yX1_onesAt 2 := by decide +kernel
def x_X1_onesAt_72 (rec5 : Int32 → Int32 → Int32 → Int32 → xR → Option (Int32 × xR)) (a1 : Int32) (a2 : Int32) (a3 : Int32) (a4 : Int32) (r : xR) : Option (Int32 × xR) := lt (a4 + (1 : Int32)) fun x1 => rec5 a1 a2 a3 x1 r
theorem x_X1_onesAt_72_ok {ms : xS} {rr : Int32 × xR} {rec5 : Int32 → Int32 → Int32 → Int32 → xR → Option (Int32 × xR)} (hr5 : ∀ {a1 : Int32} {a2 : Int32} {a3 : Int32} {a4 : Int32} {r : xR}, rec5 a1 a2 a3 a4 r = some rr → xB xLL yX1_onesAt cX1_onesAt 5 (some .int) 0 0 5 [some (.inr (.inr (some 300)) : xV), some (.inl (a1) : xV), some (.inl (a2) : xV), some (.inl (a3) : xV), some (.inl (a4) : xV)] [] (ms, r) (some (.inl rr.1)) (ms, rr.2)) {a1 : Int32} {a2 : Int32} {a3 : Int32} {a4 : Int32} {r : xR} (h : x_X1_onesAt_72 rec5 a1 a2 a3 a4 r = some rr) : xB xLL yX1_onesAt cX1_onesAt 5 (some .int) 0 0 72 [some (.inr (.inr (some 300)) : xV), some (.inl (a1) : xV), some (.inl (a2) : xV), some (.inl (a3) : xV), some (.inl (a4) : xV)] [] (ms, r) (some (.inl rr.1)) (ms, rr.2) := by
  refine x_iincL (i := 4) (1 : Int32) 75 rfl dX1_onesAt_72 rfl rfl (by decide) h (fun x1 h => ?_)
  change xB xLL yX1_onesAt cX1_onesAt 5 (some .int) 0 0 75 [some (.inr (.inr (some 300)) : xV), some (.inl (a1) : xV), some (.inl (a2) : xV), some (.inl (a3) : xV), some (.inl (x1) : xV)] [] (ms, r) _ _
  refine x_goto 5 dX1_onesAt_75 rfl ?_
  exact xB.le (xle.s (xle.s (xle.s (xle.s (xle.s xle.z))))) (hr5 h)
def x_X1_onesAt_62 (rec5 : Int32 → Int32 → Int32 → Int32 → xR → Option (Int32 × xR)) (a1 : Int32) (a2 : Int32) (a3 : Int32) (a4 : Int32) (s0 : Int32) (r : xR) : Option (Int32 × xR) := if s0 = 0 then x_X1_onesAt_72 rec5 a1 a2 a3 a4 r else lt (a3 ||| (jshl (1 : Int32) a4)) fun x2 => x_X1_onesAt_72 rec5 a1 a2 x2 a4 r
theorem x_X1_onesAt_62_ok {ms : xS} {rr : Int32 × xR} {rec5 : Int32 → Int32 → Int32 → Int32 → xR → Option (Int32 × xR)} (hr5 : ∀ {a1 : Int32} {a2 : Int32} {a3 : Int32} {a4 : Int32} {r : xR}, rec5 a1 a2 a3 a4 r = some rr → xB xLL yX1_onesAt cX1_onesAt 5 (some .int) 0 0 5 [some (.inr (.inr (some 300)) : xV), some (.inl (a1) : xV), some (.inl (a2) : xV), some (.inl (a3) : xV), some (.inl (a4) : xV)] [] (ms, r) (some (.inl rr.1)) (ms, rr.2)) {a1 : Int32} {a2 : Int32} {a3 : Int32} {a4 : Int32} {s0 : Int32} {r : xR} (h : x_X1_onesAt_62 rec5 a1 a2 a3 a4 s0 r = some rr) : xB xLL yX1_onesAt cX1_onesAt 5 (some .int) 0 0 62 [some (.inr (.inr (some 300)) : xV), some (.inl (a1) : xV), some (.inl (a2) : xV), some (.inl (a3) : xV), some (.inl (a4) : xV)] [(.inl (s0) : xV)] (ms, r) (some (.inl rr.1)) (ms, rr.2) := by
  refine x_if_eq 72 65 rfl dX1_onesAt_62 rfl h (fun h => ?_) (fun h => ?_)
  · exact xB.le (xle.s (xle.s (xle.s (xle.s (xle.s xle.z))))) (x_X1_onesAt_72_ok hr5 h)
  · refine x_iload_n (i := 3) 66 rfl dX1_onesAt_65 rfl rfl ?_
    refine x_iconst (1 : Int32) 67 rfl dX1_onesAt_66 rfl ?_
    refine x_iload (i := 4) 69 rfl dX1_onesAt_67 rfl ?_
    refine x_ishl 70 rfl dX1_onesAt_69 ?_
    refine x_ior 71 rfl dX1_onesAt_70 ?_
    refine x_lti h (fun x2 h => ?_)
    refine x_istore_n 72 rfl dX1_onesAt_71 rfl (by decide) (lv' := [some (.inr (.inr (some 300)) : xV), some (.inl (a1) : xV), some (.inl (a2) : xV), some (.inl (x2) : xV), some (.inl (a4) : xV)]) rfl ?_
    exact xB.le (xle.s (xle.s (xle.s (xle.s (xle.s xle.z))))) (x_X1_onesAt_72_ok hr5 h)
def x_X1_onesAt_28 (rec5 : Int32 → Int32 → Int32 → Int32 → xR → Option (Int32 × xR)) (a1 : Int32) (a2 : Int32) (a3 : Int32) (a4 : Int32) (s0 : Int32) (s1 : Int32) (r : xR) : Option (Int32 × xR) := if s0 ≤ s1 then some (a3, r) else if a2 = 0 then lt (r.1.2.2 0 11) fun p3 => nn p3 fun p4 => dgr xLL r p4 2 2 fun p5 => nn p5 fun p6 => dar xLL r p6 a1 fun p7 => nn p7 fun p8 => dai xLL r p8 a4 fun x9 => x_X1_onesAt_62 rec5 a1 a2 a3 a4 x9 r else lt (r.1.2.2 0 11) fun p10 => nn p10 fun p11 => dgr xLL r p11 2 2 fun p12 => nn p12 fun p13 => dar xLL r p13 a4 fun p14 => nn p14 fun p15 => dai xLL r p15 a1 fun x16 => x_X1_onesAt_62 rec5 a1 a2 a3 a4 x16 r
theorem x_X1_onesAt_28_ok {ms : xS} {rr : Int32 × xR} {rec5 : Int32 → Int32 → Int32 → Int32 → xR → Option (Int32 × xR)} (hr5 : ∀ {a1 : Int32} {a2 : Int32} {a3 : Int32} {a4 : Int32} {r : xR}, rec5 a1 a2 a3 a4 r = some rr → xB xLL yX1_onesAt cX1_onesAt 5 (some .int) 0 0 5 [some (.inr (.inr (some 300)) : xV), some (.inl (a1) : xV), some (.inl (a2) : xV), some (.inl (a3) : xV), some (.inl (a4) : xV)] [] (ms, r) (some (.inl rr.1)) (ms, rr.2)) {a1 : Int32} {a2 : Int32} {a3 : Int32} {a4 : Int32} {s0 : Int32} {s1 : Int32} {r : xR} (h : x_X1_onesAt_28 rec5 a1 a2 a3 a4 s0 s1 r = some rr) : xB xLL yX1_onesAt cX1_onesAt 5 (some .int) 0 0 28 [some (.inr (.inr (some 300)) : xV), some (.inl (a1) : xV), some (.inl (a2) : xV), some (.inl (a3) : xV), some (.inl (a4) : xV)] [(.inl (s0) : xV), (.inl (s1) : xV)] (ms, r) (some (.inl rr.1)) (ms, rr.2) := by
  refine x_icmp_ge 78 31 rfl dX1_onesAt_28 rfl h (fun h => ?_) (fun h => ?_)
  · refine x_iload_n (i := 3) 79 rfl dX1_onesAt_78 rfl rfl ?_
    cases h
    exact x_iret rfl dX1_onesAt_79
  · refine x_iload_n (i := 2) 32 rfl dX1_onesAt_31 rfl rfl ?_
    refine x_if_eq 50 35 rfl dX1_onesAt_32 rfl h (fun h => ?_) (fun h => ?_)
    · refine x_aload_n (i := 0) 51 rfl dX1_onesAt_50 rfl rfl ?_
      refine q_get (k := 11) 54 rfl dX1_onesAt_51 (by decide) q453 rfl ?_
      refine x_ltr h (fun p3 h => ?_)
      refine x_nnP (P := fun p3 => xB xLL yX1_onesAt cX1_onesAt 5 (some .int) 0 0 54 [some (.inr (.inr (some 300)) : xV), some (.inl (a1) : xV), some (.inl (a2) : xV), some (.inl (a3) : xV), some (.inl (a4) : xV)] [(.inr (.inr (p3)) : xV)] (ms, r) (some (.inl rr.1)) (ms, rr.2)) h (fun p4 h => ?_)
      refine d_getrN (ci := 2) (k := 2) (C := RX4) (T := TX4) (N := 3) 57 rfl dX1_onesAt_54 rfl in_X4 (by decide) (List.mem_of_getElem? (i := 9) rfl) h (fun p5 h => ?_)
      refine x_iload_n (i := 1) 58 rfl dX1_onesAt_57 rfl rfl ?_
      refine x_nnP (P := fun p5 => xB xLL yX1_onesAt cX1_onesAt 5 (some .int) 0 0 58 [some (.inr (.inr (some 300)) : xV), some (.inl (a1) : xV), some (.inl (a2) : xV), some (.inl (a3) : xV), some (.inl (a4) : xV)] [(.inl (a1) : xV), (.inr (.inr (p5)) : xV)] (ms, r) (some (.inl rr.1)) (ms, rr.2)) h (fun p6 h => ?_)
      refine d_aald 59 rfl dX1_onesAt_58 h (fun p7 h => ?_)
      refine x_iload (i := 4) 61 rfl dX1_onesAt_59 rfl ?_
      refine x_nnP (P := fun p7 => xB xLL yX1_onesAt cX1_onesAt 5 (some .int) 0 0 61 [some (.inr (.inr (some 300)) : xV), some (.inl (a1) : xV), some (.inl (a2) : xV), some (.inl (a3) : xV), some (.inl (a4) : xV)] [(.inl (a4) : xV), (.inr (.inr (p7)) : xV)] (ms, r) (some (.inl rr.1)) (ms, rr.2)) h (fun p8 h => ?_)
      refine d_iald 62 rfl dX1_onesAt_61 h (fun x9 h => ?_)
      exact xB.le (xle.s (xle.s (xle.s (xle.s (xle.s xle.z))))) (x_X1_onesAt_62_ok hr5 h)
    · refine x_aload_n (i := 0) 36 rfl dX1_onesAt_35 rfl rfl ?_
      refine q_get (k := 11) 39 rfl dX1_onesAt_36 (by decide) q453 rfl ?_
      refine x_ltr h (fun p10 h => ?_)
      refine x_nnP (P := fun p10 => xB xLL yX1_onesAt cX1_onesAt 5 (some .int) 0 0 39 [some (.inr (.inr (some 300)) : xV), some (.inl (a1) : xV), some (.inl (a2) : xV), some (.inl (a3) : xV), some (.inl (a4) : xV)] [(.inr (.inr (p10)) : xV)] (ms, r) (some (.inl rr.1)) (ms, rr.2)) h (fun p11 h => ?_)
      refine d_getrN (ci := 2) (k := 2) (C := RX4) (T := TX4) (N := 3) 42 rfl dX1_onesAt_39 rfl in_X4 (by decide) (List.mem_of_getElem? (i := 9) rfl) h (fun p12 h => ?_)
      refine x_iload (i := 4) 44 rfl dX1_onesAt_42 rfl ?_
      refine x_nnP (P := fun p12 => xB xLL yX1_onesAt cX1_onesAt 5 (some .int) 0 0 44 [some (.inr (.inr (some 300)) : xV), some (.inl (a1) : xV), some (.inl (a2) : xV), some (.inl (a3) : xV), some (.inl (a4) : xV)] [(.inl (a4) : xV), (.inr (.inr (p12)) : xV)] (ms, r) (some (.inl rr.1)) (ms, rr.2)) h (fun p13 h => ?_)
      refine d_aald 45 rfl dX1_onesAt_44 h (fun p14 h => ?_)
      refine x_iload_n (i := 1) 46 rfl dX1_onesAt_45 rfl rfl ?_
      refine x_nnP (P := fun p14 => xB xLL yX1_onesAt cX1_onesAt 5 (some .int) 0 0 46 [some (.inr (.inr (some 300)) : xV), some (.inl (a1) : xV), some (.inl (a2) : xV), some (.inl (a3) : xV), some (.inl (a4) : xV)] [(.inl (a1) : xV), (.inr (.inr (p14)) : xV)] (ms, r) (some (.inl rr.1)) (ms, rr.2)) h (fun p15 h => ?_)
      refine d_iald 47 rfl dX1_onesAt_46 h (fun x16 h => ?_)
      refine x_goto 62 dX1_onesAt_47 rfl ?_
      exact xB.le (xle.s (xle.s (xle.s (xle.s (xle.s xle.z))))) (x_X1_onesAt_62_ok hr5 h)
def x_X1_onesAt_5_s (rec5 : Int32 → Int32 → Int32 → Int32 → xR → Option (Int32 × xR)) (a1 : Int32) (a2 : Int32) (a3 : Int32) (a4 : Int32) (r : xR) : Option (Int32 × xR) := if a2 = 0 then lt (r.1.2.2 0 11) fun p17 => nn p17 fun p18 => dgi xLL r p18 2 1 fun x19 => x_X1_onesAt_28 rec5 a1 a2 a3 a4 x19 a4 r else lt (r.1.2.2 0 11) fun p20 => nn p20 fun p21 => dgi xLL r p21 2 0 fun x22 => x_X1_onesAt_28 rec5 a1 a2 a3 a4 x22 a4 r
theorem x_X1_onesAt_5_s_ok {ms : xS} {rr : Int32 × xR} {rec5 : Int32 → Int32 → Int32 → Int32 → xR → Option (Int32 × xR)} (hr5 : ∀ {a1 : Int32} {a2 : Int32} {a3 : Int32} {a4 : Int32} {r : xR}, rec5 a1 a2 a3 a4 r = some rr → xB xLL yX1_onesAt cX1_onesAt 5 (some .int) 0 0 5 [some (.inr (.inr (some 300)) : xV), some (.inl (a1) : xV), some (.inl (a2) : xV), some (.inl (a3) : xV), some (.inl (a4) : xV)] [] (ms, r) (some (.inl rr.1)) (ms, rr.2)) {a1 : Int32} {a2 : Int32} {a3 : Int32} {a4 : Int32} {r : xR} (h : x_X1_onesAt_5_s rec5 a1 a2 a3 a4 r = some rr) : xB xLL yX1_onesAt cX1_onesAt 5 (some .int) 0 0 5 [some (.inr (.inr (some 300)) : xV), some (.inl (a1) : xV), some (.inl (a2) : xV), some (.inl (a3) : xV), some (.inl (a4) : xV)] [] (ms, r) (some (.inl rr.1)) (ms, rr.2) := by
  refine x_iload (i := 4) 7 rfl dX1_onesAt_5 rfl ?_
  refine x_iload_n (i := 2) 8 rfl dX1_onesAt_7 rfl rfl ?_
  refine x_if_eq 21 11 rfl dX1_onesAt_8 rfl h (fun h => ?_) (fun h => ?_)
  · refine x_aload_n (i := 0) 22 rfl dX1_onesAt_21 rfl rfl ?_
    refine q_get (k := 11) 25 rfl dX1_onesAt_22 (by decide) q453 rfl ?_
    refine x_ltr h (fun p17 h => ?_)
    refine x_nnP (P := fun p17 => xB xLL yX1_onesAt cX1_onesAt 5 (some .int) 0 0 25 [some (.inr (.inr (some 300)) : xV), some (.inl (a1) : xV), some (.inl (a2) : xV), some (.inl (a3) : xV), some (.inl (a4) : xV)] [(.inr (.inr (p17)) : xV), (.inl (a4) : xV)] (ms, r) (some (.inl rr.1)) (ms, rr.2)) h (fun p18 h => ?_)
    refine d_getiN (ci := 2) (k := 1) (C := RX4) (T := TX4) (N := 3) 28 rfl dX1_onesAt_25 rfl in_X4 (by decide) (List.mem_of_getElem? (i := 7) rfl) h (fun x19 h => ?_)
    exact xB.le (xle.s (xle.s (xle.s (xle.s (xle.s xle.z))))) (x_X1_onesAt_28_ok hr5 h)
  · refine x_aload_n (i := 0) 12 rfl dX1_onesAt_11 rfl rfl ?_
    refine q_get (k := 11) 15 rfl dX1_onesAt_12 (by decide) q453 rfl ?_
    refine x_ltr h (fun p20 h => ?_)
    refine x_nnP (P := fun p20 => xB xLL yX1_onesAt cX1_onesAt 5 (some .int) 0 0 15 [some (.inr (.inr (some 300)) : xV), some (.inl (a1) : xV), some (.inl (a2) : xV), some (.inl (a3) : xV), some (.inl (a4) : xV)] [(.inr (.inr (p20)) : xV), (.inl (a4) : xV)] (ms, r) (some (.inl rr.1)) (ms, rr.2)) h (fun p21 h => ?_)
    refine d_getiN (ci := 2) (k := 0) (C := RX4) (T := TX4) (N := 3) 18 rfl dX1_onesAt_15 rfl in_X4 (by decide) (List.mem_of_getElem? (i := 5) rfl) h (fun x22 h => ?_)
    refine x_goto 28 dX1_onesAt_18 rfl ?_
    exact xB.le (xle.s (xle.s (xle.s (xle.s (xle.s xle.z))))) (x_X1_onesAt_28_ok hr5 h)
def x_X1_onesAt_5_L : Nat → Int32 → Int32 → Int32 → Int32 → xR → Option (Int32 × xR)
  | 0 => fun _ _ _ _ _ => none
  | n + 1 => x_X1_onesAt_5_s (x_X1_onesAt_5_L  n)
theorem x_X1_onesAt_5_L_ok {ms : xS} {rr : Int32 × xR} : ∀ (n9 : Nat) {a1 : Int32} {a2 : Int32} {a3 : Int32} {a4 : Int32} {r : xR}, x_X1_onesAt_5_L  n9 a1 a2 a3 a4 r = some rr → xB xLL yX1_onesAt cX1_onesAt 5 (some .int) 0 0 5 [some (.inr (.inr (some 300)) : xV), some (.inl (a1) : xV), some (.inl (a2) : xV), some (.inl (a3) : xV), some (.inl (a4) : xV)] [] (ms, r) (some (.inl rr.1)) (ms, rr.2)
  | 0, _, _, _, _, _, h => by cases h
  | n9 + 1, _, _, _, _, _, h => x_X1_onesAt_5_s_ok (x_X1_onesAt_5_L_ok  n9) h
def x_X1_onesAt (a1 : Int32) (a2 : Int32) (r : xR) : Option (Int32 × xR) := lt ((0 : Int32)) fun x23 => lt ((0 : Int32)) fun x24 => x_X1_onesAt_5_L xFU a1 a2 x23 x24 r
theorem x_X1_onesAt_ct {ms : xS} {rr : Int32 × xR} {a1 : Int32} {a2 : Int32} {r : xR} (h : x_X1_onesAt a1 a2 r = some rr) : xCt xLL yX1_onesAt cX1_onesAt 5 (some .int) 0 0 [(.inr (.inr (some 300)) : xV), (.inl (a1) : xV), (.inl (a2) : xV)] (ms, r) (some (.inl rr.1)) (ms, rr.2) := by
  refine xCt.of (lv := [some (.inr (.inr (some 300)) : xV), some (.inl (a1) : xV), some (.inl (a2) : xV), none, none]) pl_X1 (Nat.le_of_ble_eq_true rfl) (xle.s (xle.s (xle.s (xle.m (xle.m xle.z))))) ?_
  refine x_iconst (0 : Int32) 1 rfl dX1_onesAt_0 rfl ?_
  refine x_lti h (fun x23 h => ?_)
  refine x_istore_n 2 rfl dX1_onesAt_1 rfl (by decide) (lv' := [some (.inr (.inr (some 300)) : xV), some (.inl (a1) : xV), some (.inl (a2) : xV), some (.inl (x23) : xV), none]) rfl ?_
  refine x_iconst (0 : Int32) 3 rfl dX1_onesAt_2 rfl ?_
  refine x_lti h (fun x24 h => ?_)
  refine x_istore 5 rfl dX1_onesAt_3 (by decide) (lv' := [some (.inr (.inr (some 300)) : xV), some (.inl (a1) : xV), some (.inl (a2) : xV), some (.inl (x23) : xV), some (.inl (x24) : xV)]) rfl ?_
  exact xB.le (xle.s (xle.s (xle.s (xle.s (xle.s xle.z))))) (x_X1_onesAt_5_L_ok xFU h)
/-! UnimodularTables.doesPack(I)Z -/
theorem ydX1_doesPack : xHd yX1_doesPack 1 := by decide +kernel
def x_X1_doesPack_48 (rec4 : Int32 → Int32 → Int32 → xR → Option (Int32 × xR)) (a1 : Int32) (a2 : Int32) (a3 : Int32) (r : xR) : Option (Int32 × xR) := lt (a3 + (1 : Int32)) fun x1 => rec4 a1 a2 x1 r
theorem x_X1_doesPack_48_ok {ms : xS} {rr : Int32 × xR} {rec4 : Int32 → Int32 → Int32 → xR → Option (Int32 × xR)} (hr4 : ∀ {a1 : Int32} {a2 : Int32} {a3 : Int32} {r : xR}, rec4 a1 a2 a3 r = some rr → xB xLL yX1_doesPack cX1_doesPack 4 (some .boolean) 1 24 4 [some (.inr (.inr (some 300)) : xV), some (.inl (a1) : xV), some (.inl (a2) : xV), some (.inl (a3) : xV)] [] (ms, r) (some (.inl rr.1)) (ms, rr.2)) {a1 : Int32} {a2 : Int32} {a3 : Int32} {r : xR} (h : x_X1_doesPack_48 rec4 a1 a2 a3 r = some rr) : xB xLL yX1_doesPack cX1_doesPack 4 (some .boolean) 1 24 48 [some (.inr (.inr (some 300)) : xV), some (.inl (a1) : xV), some (.inl (a2) : xV), some (.inl (a3) : xV)] [] (ms, r) (some (.inl rr.1)) (ms, rr.2) := by
  refine x_iincL (i := 3) (1 : Int32) 51 rfl dX1_doesPack_48 rfl rfl (by decide) h (fun x1 h => ?_)
  change xB xLL yX1_doesPack cX1_doesPack 4 (some .boolean) 1 24 51 [some (.inr (.inr (some 300)) : xV), some (.inl (a1) : xV), some (.inl (a2) : xV), some (.inl (x1) : xV)] [] (ms, r) _ _
  refine x_goto 4 dX1_doesPack_51 rfl ?_
  exact xB.le (xle.s (xle.s (xle.s (xle.s xle.z)))) (hr4 h)
def x_X1_doesPack_4_s (rec4 : Int32 → Int32 → Int32 → xR → Option (Int32 × xR)) (a1 : Int32) (a2 : Int32) (a3 : Int32) (r : xR) : Option (Int32 × xR) := lt (r.1.2.2 0 11) fun p2 => nn p2 fun p3 => dgi xLL r p3 2 1 fun x4 => if x4 ≤ a3 then some ((1 : Int32), r) else cl (p_X1_has a1 a3) fun q5 => if q5 = 0 then x_X1_doesPack_48 rec4 a1 a2 a3 r else cl (x_X1_onesAt a3 (1 : Int32) r) fun q6 => if (a2 &&& q6.1) = 0 then cl (x_X1_onesAt a3 (1 : Int32) q6.2) fun q7 => lt (a2 ||| q7.1) fun x8 => x_X1_doesPack_48 rec4 a1 x8 a3 q7.2 else some ((0 : Int32), q6.2)
theorem x_X1_doesPack_4_s_ok {ms : xS} {rr : Int32 × xR} {rec4 : Int32 → Int32 → Int32 → xR → Option (Int32 × xR)} (hr4 : ∀ {a1 : Int32} {a2 : Int32} {a3 : Int32} {r : xR}, rec4 a1 a2 a3 r = some rr → xB xLL yX1_doesPack cX1_doesPack 4 (some .boolean) 1 24 4 [some (.inr (.inr (some 300)) : xV), some (.inl (a1) : xV), some (.inl (a2) : xV), some (.inl (a3) : xV)] [] (ms, r) (some (.inl rr.1)) (ms, rr.2)) {a1 : Int32} {a2 : Int32} {a3 : Int32} {r : xR} (h : x_X1_doesPack_4_s rec4 a1 a2 a3 r = some rr) : xB xLL yX1_doesPack cX1_doesPack 4 (some .boolean) 1 24 4 [some (.inr (.inr (some 300)) : xV), some (.inl (a1) : xV), some (.inl (a2) : xV), some (.inl (a3) : xV)] [] (ms, r) (some (.inl rr.1)) (ms, rr.2) := by
  refine x_iload_n (i := 3) 5 rfl dX1_doesPack_4 rfl rfl ?_
  refine x_aload_n (i := 0) 6 rfl dX1_doesPack_5 rfl rfl ?_
  refine q_get (k := 11) 9 rfl dX1_doesPack_6 (by decide) q453 rfl ?_
  refine x_ltr h (fun p2 h => ?_)
  refine x_nnP (P := fun p2 => xB xLL yX1_doesPack cX1_doesPack 4 (some .boolean) 1 24 9 [some (.inr (.inr (some 300)) : xV), some (.inl (a1) : xV), some (.inl (a2) : xV), some (.inl (a3) : xV)] [(.inr (.inr (p2)) : xV), (.inl (a3) : xV)] (ms, r) (some (.inl rr.1)) (ms, rr.2)) h (fun p3 h => ?_)
  refine d_getiN (ci := 2) (k := 1) (C := RX4) (T := TX4) (N := 3) 12 rfl dX1_doesPack_9 rfl in_X4 (by decide) (List.mem_of_getElem? (i := 7) rfl) h (fun x4 h => ?_)
  refine x_icmp_ge 54 15 rfl dX1_doesPack_12 rfl h (fun h => ?_) (fun h => ?_)
  · refine x_iconst (1 : Int32) 55 rfl dX1_doesPack_54 rfl ?_
    cases h
    exact x_zret rfl (Or.inr rfl) dX1_doesPack_55
  · refine x_iload_n (i := 1) 16 rfl dX1_doesPack_15 rfl rfl ?_
    refine x_iload_n (i := 3) 17 rfl dX1_doesPack_16 rfl rfl ?_
    refine x_cl h (fun q5 hq h => ?_)
    refine x_callS (as := [(.inl (a1) : xV), (.inl (a3) : xV)]) (rest := []) (vv := (some (.inl (q5) : xV))) (w2 := (ms, r)) 20 rfl dX1_doesPack_17 (p_X1_has_ct hq) (lw_S q840 q841 q118 q842) ydX1_has rfl ⟨Nat.le_of_ble_eq_true rfl, Nat.le_of_ble_eq_true rfl⟩ (Nat.le_of_ble_eq_true rfl) rfl ?_
    change xB xLL yX1_doesPack cX1_doesPack 4 (some .boolean) 1 24 20 [some (.inr (.inr (some 300)) : xV), some (.inl (a1) : xV), some (.inl (a2) : xV), some (.inl (a3) : xV)] [(.inl (q5) : xV)] (ms, r) _ _
    refine x_if_ne 26 23 rfl dX1_doesPack_20 rfl h (fun h => ?_) (fun h => ?_)
    · refine x_iload_n (i := 2) 27 rfl dX1_doesPack_26 rfl rfl ?_
      refine x_aload_n (i := 0) 28 rfl dX1_doesPack_27 rfl rfl ?_
      refine x_iload_n (i := 3) 29 rfl dX1_doesPack_28 rfl rfl ?_
      refine x_iconst (1 : Int32) 30 rfl dX1_doesPack_29 rfl ?_
      refine x_cl h (fun q6 hq h => ?_)
      refine x_callV (as := [(.inl (a3) : xV), (.inl ((1 : Int32)) : xV)]) (rest := [(.inl (a2) : xV)]) (vv := (some (.inl (q6.1) : xV))) (w2 := (ms, q6.2)) (C := RX1) (T := TX1) (N := 34) 33 rfl dX1_doesPack_30 (x_X1_onesAt_ct hq) (Or.inl xcell_X0) rfl (lw_V q1718 q1720 qs59 q118 q1721) rfl ydX1_onesAt rfl ⟨Nat.le_of_ble_eq_true rfl, Nat.le_of_ble_eq_true rfl⟩ (Nat.le_of_ble_eq_true rfl) rfl ?_
      change xB xLL yX1_doesPack cX1_doesPack 4 (some .boolean) 1 24 33 [some (.inr (.inr (some 300)) : xV), some (.inl (a1) : xV), some (.inl (a2) : xV), some (.inl (a3) : xV)] [(.inl (q6.1) : xV), (.inl (a2) : xV)] (ms, q6.2) _ _
      refine x_iand 34 rfl dX1_doesPack_33 ?_
      refine x_if_eq 39 37 rfl dX1_doesPack_34 rfl h (fun h => ?_) (fun h => ?_)
      · refine x_iload_n (i := 2) 40 rfl dX1_doesPack_39 rfl rfl ?_
        refine x_aload_n (i := 0) 41 rfl dX1_doesPack_40 rfl rfl ?_
        refine x_iload_n (i := 3) 42 rfl dX1_doesPack_41 rfl rfl ?_
        refine x_iconst (1 : Int32) 43 rfl dX1_doesPack_42 rfl ?_
        refine x_cl h (fun q7 hq h => ?_)
        refine x_callV (as := [(.inl (a3) : xV), (.inl ((1 : Int32)) : xV)]) (rest := [(.inl (a2) : xV)]) (vv := (some (.inl (q7.1) : xV))) (w2 := (ms, q7.2)) (C := RX1) (T := TX1) (N := 34) 46 rfl dX1_doesPack_43 (x_X1_onesAt_ct hq) (Or.inl xcell_X0) rfl (lw_V q1718 q1720 qs59 q118 q1721) rfl ydX1_onesAt rfl ⟨Nat.le_of_ble_eq_true rfl, Nat.le_of_ble_eq_true rfl⟩ (Nat.le_of_ble_eq_true rfl) rfl ?_
        change xB xLL yX1_doesPack cX1_doesPack 4 (some .boolean) 1 24 46 [some (.inr (.inr (some 300)) : xV), some (.inl (a1) : xV), some (.inl (a2) : xV), some (.inl (a3) : xV)] [(.inl (q7.1) : xV), (.inl (a2) : xV)] (ms, q7.2) _ _
        refine x_ior 47 rfl dX1_doesPack_46 ?_
        refine x_lti h (fun x8 h => ?_)
        refine x_istore_n 48 rfl dX1_doesPack_47 rfl (by decide) (lv' := [some (.inr (.inr (some 300)) : xV), some (.inl (a1) : xV), some (.inl (x8) : xV), some (.inl (a3) : xV)]) rfl ?_
        exact xB.le (xle.s (xle.s (xle.s (xle.s xle.z)))) (x_X1_doesPack_48_ok hr4 h)
      · refine x_iconst (0 : Int32) 38 rfl dX1_doesPack_37 rfl ?_
        cases h
        exact x_zret rfl (Or.inl rfl) dX1_doesPack_38
    · refine x_goto 48 dX1_doesPack_23 rfl ?_
      exact xB.le (xle.s (xle.s (xle.s (xle.s xle.z)))) (x_X1_doesPack_48_ok hr4 h)
def x_X1_doesPack_4_L : Nat → Int32 → Int32 → Int32 → xR → Option (Int32 × xR)
  | 0 => fun _ _ _ _ => none
  | n + 1 => x_X1_doesPack_4_s (x_X1_doesPack_4_L  n)
theorem x_X1_doesPack_4_L_ok {ms : xS} {rr : Int32 × xR} : ∀ (n9 : Nat) {a1 : Int32} {a2 : Int32} {a3 : Int32} {r : xR}, x_X1_doesPack_4_L  n9 a1 a2 a3 r = some rr → xB xLL yX1_doesPack cX1_doesPack 4 (some .boolean) 1 24 4 [some (.inr (.inr (some 300)) : xV), some (.inl (a1) : xV), some (.inl (a2) : xV), some (.inl (a3) : xV)] [] (ms, r) (some (.inl rr.1)) (ms, rr.2)
  | 0, _, _, _, _, h => by cases h
  | n9 + 1, _, _, _, _, h => x_X1_doesPack_4_s_ok (x_X1_doesPack_4_L_ok  n9) h
def x_X1_doesPack (a1 : Int32) (r : xR) : Option (Int32 × xR) := lt ((0 : Int32)) fun x9 => lt ((0 : Int32)) fun x10 => x_X1_doesPack_4_L xFU a1 x9 x10 r
theorem x_X1_doesPack_ct {ms : xS} {rr : Int32 × xR} {a1 : Int32} {r : xR} (h : x_X1_doesPack a1 r = some rr) : xCt xLL yX1_doesPack cX1_doesPack 4 (some .boolean) 1 24 [(.inr (.inr (some 300)) : xV), (.inl (a1) : xV)] (ms, r) (some (.inl rr.1)) (ms, rr.2) := by
  refine xCt.of (lv := [some (.inr (.inr (some 300)) : xV), some (.inl (a1) : xV), none, none]) pl_X1 (Nat.le_of_ble_eq_true rfl) (xle.s (xle.s (xle.m (xle.m xle.z)))) ?_
  refine x_iconst (0 : Int32) 1 rfl dX1_doesPack_0 rfl ?_
  refine x_lti h (fun x9 h => ?_)
  refine x_istore_n 2 rfl dX1_doesPack_1 rfl (by decide) (lv' := [some (.inr (.inr (some 300)) : xV), some (.inl (a1) : xV), some (.inl (x9) : xV), none]) rfl ?_
  refine x_iconst (0 : Int32) 3 rfl dX1_doesPack_2 rfl ?_
  refine x_lti h (fun x10 h => ?_)
  refine x_istore_n 4 rfl dX1_doesPack_3 rfl (by decide) (lv' := [some (.inr (.inr (some 300)) : xV), some (.inl (a1) : xV), some (.inl (x9) : xV), some (.inl (x10) : xV)]) rfl ?_
  exact xB.le (xle.s (xle.s (xle.s (xle.s xle.z)))) (x_X1_doesPack_4_L_ok xFU h)
/-! UnimodularTables.doesCover(I)Z -/
theorem ydX1_doesCover : xHd yX1_doesCover 1 := by decide +kernel
def x_X1_doesCover_35 (rec2 : Int32 → Int32 → xR → Option (Int32 × xR)) (a1 : Int32) (a2 : Int32) (r : xR) : Option (Int32 × xR) := lt (a2 + (1 : Int32)) fun x1 => rec2 a1 x1 r
theorem x_X1_doesCover_35_ok {ms : xS} {rr : Int32 × xR} {rec2 : Int32 → Int32 → xR → Option (Int32 × xR)} (hr2 : ∀ {a1 : Int32} {a2 : Int32} {r : xR}, rec2 a1 a2 r = some rr → xB xLL yX1_doesCover cX1_doesCover 3 (some .boolean) 1 24 2 [some (.inr (.inr (some 300)) : xV), some (.inl (a1) : xV), some (.inl (a2) : xV)] [] (ms, r) (some (.inl rr.1)) (ms, rr.2)) {a1 : Int32} {a2 : Int32} {r : xR} (h : x_X1_doesCover_35 rec2 a1 a2 r = some rr) : xB xLL yX1_doesCover cX1_doesCover 3 (some .boolean) 1 24 35 [some (.inr (.inr (some 300)) : xV), some (.inl (a1) : xV), some (.inl (a2) : xV)] [] (ms, r) (some (.inl rr.1)) (ms, rr.2) := by
  refine x_iincL (i := 2) (1 : Int32) 38 rfl dX1_doesCover_35 rfl rfl (by decide) h (fun x1 h => ?_)
  change xB xLL yX1_doesCover cX1_doesCover 3 (some .boolean) 1 24 38 [some (.inr (.inr (some 300)) : xV), some (.inl (a1) : xV), some (.inl (x1) : xV)] [] (ms, r) _ _
  refine x_goto 2 dX1_doesCover_38 rfl ?_
  exact xB.le (xle.s (xle.s (xle.s xle.z))) (hr2 h)
def x_X1_doesCover_2_s (rec2 : Int32 → Int32 → xR → Option (Int32 × xR)) (a1 : Int32) (a2 : Int32) (r : xR) : Option (Int32 × xR) := lt (r.1.2.2 0 11) fun p2 => nn p2 fun p3 => dgi xLL r p3 2 1 fun x4 => if x4 ≤ a2 then some ((1 : Int32), r) else cl (x_X1_onesAt a2 (1 : Int32) r) fun q5 => if q5.1 = 0 then x_X1_doesCover_35 rec2 a1 a2 q5.2 else cl (x_X1_onesAt a2 (1 : Int32) q5.2) fun q6 => if (q6.1 &&& a1) = 0 then some ((0 : Int32), q6.2) else x_X1_doesCover_35 rec2 a1 a2 q6.2
theorem x_X1_doesCover_2_s_ok {ms : xS} {rr : Int32 × xR} {rec2 : Int32 → Int32 → xR → Option (Int32 × xR)} (hr2 : ∀ {a1 : Int32} {a2 : Int32} {r : xR}, rec2 a1 a2 r = some rr → xB xLL yX1_doesCover cX1_doesCover 3 (some .boolean) 1 24 2 [some (.inr (.inr (some 300)) : xV), some (.inl (a1) : xV), some (.inl (a2) : xV)] [] (ms, r) (some (.inl rr.1)) (ms, rr.2)) {a1 : Int32} {a2 : Int32} {r : xR} (h : x_X1_doesCover_2_s rec2 a1 a2 r = some rr) : xB xLL yX1_doesCover cX1_doesCover 3 (some .boolean) 1 24 2 [some (.inr (.inr (some 300)) : xV), some (.inl (a1) : xV), some (.inl (a2) : xV)] [] (ms, r) (some (.inl rr.1)) (ms, rr.2) := by
  refine x_iload_n (i := 2) 3 rfl dX1_doesCover_2 rfl rfl ?_
  refine x_aload_n (i := 0) 4 rfl dX1_doesCover_3 rfl rfl ?_
  refine q_get (k := 11) 7 rfl dX1_doesCover_4 (by decide) q453 rfl ?_
  refine x_ltr h (fun p2 h => ?_)
  refine x_nnP (P := fun p2 => xB xLL yX1_doesCover cX1_doesCover 3 (some .boolean) 1 24 7 [some (.inr (.inr (some 300)) : xV), some (.inl (a1) : xV), some (.inl (a2) : xV)] [(.inr (.inr (p2)) : xV), (.inl (a2) : xV)] (ms, r) (some (.inl rr.1)) (ms, rr.2)) h (fun p3 h => ?_)
  refine d_getiN (ci := 2) (k := 1) (C := RX4) (T := TX4) (N := 3) 10 rfl dX1_doesCover_7 rfl in_X4 (by decide) (List.mem_of_getElem? (i := 7) rfl) h (fun x4 h => ?_)
  refine x_icmp_ge 41 13 rfl dX1_doesCover_10 rfl h (fun h => ?_) (fun h => ?_)
  · refine x_iconst (1 : Int32) 42 rfl dX1_doesCover_41 rfl ?_
    cases h
    exact x_zret rfl (Or.inr rfl) dX1_doesCover_42
  · refine x_aload_n (i := 0) 14 rfl dX1_doesCover_13 rfl rfl ?_
    refine x_iload_n (i := 2) 15 rfl dX1_doesCover_14 rfl rfl ?_
    refine x_iconst (1 : Int32) 16 rfl dX1_doesCover_15 rfl ?_
    refine x_cl h (fun q5 hq h => ?_)
    refine x_callV (as := [(.inl (a2) : xV), (.inl ((1 : Int32)) : xV)]) (rest := []) (vv := (some (.inl (q5.1) : xV))) (w2 := (ms, q5.2)) (C := RX1) (T := TX1) (N := 34) 19 rfl dX1_doesCover_16 (x_X1_onesAt_ct hq) (Or.inl xcell_X0) rfl (lw_V q1718 q1720 qs59 q118 q1721) rfl ydX1_onesAt rfl ⟨Nat.le_of_ble_eq_true rfl, Nat.le_of_ble_eq_true rfl⟩ (Nat.le_of_ble_eq_true rfl) rfl ?_
    change xB xLL yX1_doesCover cX1_doesCover 3 (some .boolean) 1 24 19 [some (.inr (.inr (some 300)) : xV), some (.inl (a1) : xV), some (.inl (a2) : xV)] [(.inl (q5.1) : xV)] (ms, q5.2) _ _
    refine x_if_eq 35 22 rfl dX1_doesCover_19 rfl h (fun h => ?_) (fun h => ?_)
    · exact xB.le (xle.s (xle.s (xle.s xle.z))) (x_X1_doesCover_35_ok hr2 h)
    · refine x_aload_n (i := 0) 23 rfl dX1_doesCover_22 rfl rfl ?_
      refine x_iload_n (i := 2) 24 rfl dX1_doesCover_23 rfl rfl ?_
      refine x_iconst (1 : Int32) 25 rfl dX1_doesCover_24 rfl ?_
      refine x_cl h (fun q6 hq h => ?_)
      refine x_callV (as := [(.inl (a2) : xV), (.inl ((1 : Int32)) : xV)]) (rest := []) (vv := (some (.inl (q6.1) : xV))) (w2 := (ms, q6.2)) (C := RX1) (T := TX1) (N := 34) 28 rfl dX1_doesCover_25 (x_X1_onesAt_ct hq) (Or.inl xcell_X0) rfl (lw_V q1718 q1720 qs59 q118 q1721) rfl ydX1_onesAt rfl ⟨Nat.le_of_ble_eq_true rfl, Nat.le_of_ble_eq_true rfl⟩ (Nat.le_of_ble_eq_true rfl) rfl ?_
      change xB xLL yX1_doesCover cX1_doesCover 3 (some .boolean) 1 24 28 [some (.inr (.inr (some 300)) : xV), some (.inl (a1) : xV), some (.inl (a2) : xV)] [(.inl (q6.1) : xV)] (ms, q6.2) _ _
      refine x_iload_n (i := 1) 29 rfl dX1_doesCover_28 rfl rfl ?_
      refine x_iand 30 rfl dX1_doesCover_29 ?_
      refine x_if_ne 35 33 rfl dX1_doesCover_30 rfl h (fun h => ?_) (fun h => ?_)
      · exact xB.le (xle.s (xle.s (xle.s xle.z))) (x_X1_doesCover_35_ok hr2 h)
      · refine x_iconst (0 : Int32) 34 rfl dX1_doesCover_33 rfl ?_
        cases h
        exact x_zret rfl (Or.inl rfl) dX1_doesCover_34
def x_X1_doesCover_2_L : Nat → Int32 → Int32 → xR → Option (Int32 × xR)
  | 0 => fun _ _ _ => none
  | n + 1 => x_X1_doesCover_2_s (x_X1_doesCover_2_L  n)
theorem x_X1_doesCover_2_L_ok {ms : xS} {rr : Int32 × xR} : ∀ (n9 : Nat) {a1 : Int32} {a2 : Int32} {r : xR}, x_X1_doesCover_2_L  n9 a1 a2 r = some rr → xB xLL yX1_doesCover cX1_doesCover 3 (some .boolean) 1 24 2 [some (.inr (.inr (some 300)) : xV), some (.inl (a1) : xV), some (.inl (a2) : xV)] [] (ms, r) (some (.inl rr.1)) (ms, rr.2)
  | 0, _, _, _, h => by cases h
  | n9 + 1, _, _, _, h => x_X1_doesCover_2_s_ok (x_X1_doesCover_2_L_ok  n9) h
def x_X1_doesCover (a1 : Int32) (r : xR) : Option (Int32 × xR) := lt ((0 : Int32)) fun x7 => x_X1_doesCover_2_L xFU a1 x7 r
theorem x_X1_doesCover_ct {ms : xS} {rr : Int32 × xR} {a1 : Int32} {r : xR} (h : x_X1_doesCover a1 r = some rr) : xCt xLL yX1_doesCover cX1_doesCover 3 (some .boolean) 1 24 [(.inr (.inr (some 300)) : xV), (.inl (a1) : xV)] (ms, r) (some (.inl rr.1)) (ms, rr.2) := by
  refine xCt.of (lv := [some (.inr (.inr (some 300)) : xV), some (.inl (a1) : xV), none]) pl_X1 (Nat.le_of_ble_eq_true rfl) (xle.s (xle.s (xle.m xle.z))) ?_
  refine x_iconst (0 : Int32) 1 rfl dX1_doesCover_0 rfl ?_
  refine x_lti h (fun x7 h => ?_)
  refine x_istore_n 2 rfl dX1_doesCover_1 rfl (by decide) (lv' := [some (.inr (.inr (some 300)) : xV), some (.inl (a1) : xV), some (.inl (x7) : xV)]) rfl ?_
  exact xB.le (xle.s (xle.s (xle.s xle.z))) (x_X1_doesCover_2_L_ok xFU h)
/-! UnimodularTables.pack(I)I -/
theorem ydX1_pack : xHd yX1_pack 1 := by decide +kernel
def x_X1_pack_119 (rec22 : Int32 → Int32 → Int32 → xR → Option (Int32 × xR)) (a1 : Int32) (a2 : Int32) (a3 : Int32) (r : xR) : Option (Int32 × xR) := lt (a3 + (1 : Int32)) fun x1 => rec22 a1 a2 x1 r
theorem x_X1_pack_119_ok {ms : xS} {rr : Int32 × xR} {rec22 : Int32 → Int32 → Int32 → xR → Option (Int32 × xR)} (hr22 : ∀ {a1 : Int32} {a2 : Int32} {a3 : Int32} {r : xR}, rec22 a1 a2 a3 r = some rr → xB xLL yX1_pack cX1_pack 5 (some .int) 2 47 22 [some (.inr (.inr (some 300)) : xV), some (.inl (a1) : xV), some (.inl (a2) : xV), some (.inl (a3) : xV), none] [] (ms, r) (some (.inl rr.1)) (ms, rr.2)) {a1 : Int32} {a2 : Int32} {a3 : Int32} {r : xR} (h : x_X1_pack_119 rec22 a1 a2 a3 r = some rr) : xB xLL yX1_pack cX1_pack 5 (some .int) 2 47 119 [some (.inr (.inr (some 300)) : xV), some (.inl (a1) : xV), some (.inl (a2) : xV), some (.inl (a3) : xV), none] [] (ms, r) (some (.inl rr.1)) (ms, rr.2) := by
  refine x_iincL (i := 3) (1 : Int32) 122 rfl dX1_pack_119 rfl rfl (by decide) h (fun x1 h => ?_)
  change xB xLL yX1_pack cX1_pack 5 (some .int) 2 47 122 [some (.inr (.inr (some 300)) : xV), some (.inl (a1) : xV), some (.inl (a2) : xV), some (.inl (x1) : xV), none] [] (ms, r) _ _
  refine x_goto 22 dX1_pack_122 rfl ?_
  exact xB.le (xle.s (xle.s (xle.s (xle.s (xle.n xle.z))))) (hr22 h)
def x_X1_pack_117 (rec22 : Int32 → Int32 → Int32 → xR → Option (Int32 × xR)) (a1 : Int32) (a3 : Int32) (r : xR) : Option (Int32 × xR) := x_X1_pack_119 rec22 a1 a3 a3 r
theorem x_X1_pack_117_ok {ms : xS} {rr : Int32 × xR} {rec22 : Int32 → Int32 → Int32 → xR → Option (Int32 × xR)} (hr22 : ∀ {a1 : Int32} {a2 : Int32} {a3 : Int32} {r : xR}, rec22 a1 a2 a3 r = some rr → xB xLL yX1_pack cX1_pack 5 (some .int) 2 47 22 [some (.inr (.inr (some 300)) : xV), some (.inl (a1) : xV), some (.inl (a2) : xV), some (.inl (a3) : xV), none] [] (ms, r) (some (.inl rr.1)) (ms, rr.2)) {a1 : Int32} {a3 : Int32} {r : xR} (h : x_X1_pack_117 rec22 a1 a3 r = some rr) : xB xLL yX1_pack cX1_pack 5 (some .int) 2 47 117 [some (.inr (.inr (some 300)) : xV), some (.inl (a1) : xV), none, some (.inl (a3) : xV), none] [] (ms, r) (some (.inl rr.1)) (ms, rr.2) := by
  refine x_iload_n (i := 3) 118 rfl dX1_pack_117 rfl rfl ?_
  refine x_istore_n 119 rfl dX1_pack_118 rfl (by decide) (lv' := [some (.inr (.inr (some 300)) : xV), some (.inl (a1) : xV), some (.inl (a3) : xV), some (.inl (a3) : xV), none]) rfl ?_
  exact xB.le (xle.s (xle.s (xle.s (xle.s (xle.n xle.z))))) (x_X1_pack_119_ok hr22 h)
def x_X1_pack_93 (rec22 : Int32 → Int32 → Int32 → xR → Option (Int32 × xR)) (a1 : Int32) (a2 : Int32) (a3 : Int32) (s0 : Int32) (r : xR) : Option (Int32 × xR) := if a2 = (-1 : Int32) then x_X1_pack_117 rec22 a1 a3 r else if a1 = 0 then if s0 ≤ 0 then x_X1_pack_119 rec22 a1 a2 a3 r else x_X1_pack_117 rec22 a1 a3 r else if 0 ≤ s0 then x_X1_pack_119 rec22 a1 a2 a3 r else x_X1_pack_117 rec22 a1 a3 r
theorem x_X1_pack_93_ok {ms : xS} {rr : Int32 × xR} {rec22 : Int32 → Int32 → Int32 → xR → Option (Int32 × xR)} (hr22 : ∀ {a1 : Int32} {a2 : Int32} {a3 : Int32} {r : xR}, rec22 a1 a2 a3 r = some rr → xB xLL yX1_pack cX1_pack 5 (some .int) 2 47 22 [some (.inr (.inr (some 300)) : xV), some (.inl (a1) : xV), some (.inl (a2) : xV), some (.inl (a3) : xV), none] [] (ms, r) (some (.inl rr.1)) (ms, rr.2)) {a1 : Int32} {a2 : Int32} {a3 : Int32} {s0 : Int32} {r : xR} (h : x_X1_pack_93 rec22 a1 a2 a3 s0 r = some rr) : xB xLL yX1_pack cX1_pack 5 (some .int) 2 47 93 [some (.inr (.inr (some 300)) : xV), some (.inl (a1) : xV), some (.inl (a2) : xV), some (.inl (a3) : xV), none] [(.inl (s0) : xV)] (ms, r) (some (.inl rr.1)) (ms, rr.2) := by
  refine x_istore 95 rfl dX1_pack_93 (by decide) (lv' := [some (.inr (.inr (some 300)) : xV), some (.inl (a1) : xV), some (.inl (a2) : xV), some (.inl (a3) : xV), some (.inl (s0) : xV)]) rfl ?_
  refine x_iload_n (i := 2) 96 rfl dX1_pack_95 rfl rfl ?_
  refine x_iconst (-1 : Int32) 97 rfl dX1_pack_96 rfl ?_
  refine x_icmp_eq 117 100 rfl dX1_pack_97 rfl h (fun h => ?_) (fun h => ?_)
  · exact xB.le (xle.s (xle.s (xle.n (xle.s (xle.n xle.z))))) (x_X1_pack_117_ok hr22 h)
  · refine x_iload_n (i := 1) 101 rfl dX1_pack_100 rfl rfl ?_
    refine x_if_ne 112 104 rfl dX1_pack_101 rfl h (fun h => ?_) (fun h => ?_)
    · refine x_iload (i := 4) 114 rfl dX1_pack_112 rfl ?_
      refine x_if_ge 119 117 rfl dX1_pack_114 rfl h (fun h => ?_) (fun h => ?_)
      · exact xB.le (xle.s (xle.s (xle.s (xle.s (xle.n xle.z))))) (x_X1_pack_119_ok hr22 h)
      · exact xB.le (xle.s (xle.s (xle.n (xle.s (xle.n xle.z))))) (x_X1_pack_117_ok hr22 h)
    · refine x_iload (i := 4) 106 rfl dX1_pack_104 rfl ?_
      refine x_if_le 119 109 rfl dX1_pack_106 rfl h (fun h => ?_) (fun h => ?_)
      · exact xB.le (xle.s (xle.s (xle.s (xle.s (xle.n xle.z))))) (x_X1_pack_119_ok hr22 h)
      · refine x_goto 117 dX1_pack_109 rfl ?_
        exact xB.le (xle.s (xle.s (xle.n (xle.s (xle.n xle.z))))) (x_X1_pack_117_ok hr22 h)
def x_X1_pack_75 (rec22 : Int32 → Int32 → Int32 → xR → Option (Int32 × xR)) (a1 : Int32) (a2 : Int32) (a3 : Int32) (r : xR) : Option (Int32 × xR) := if a2 = (-1 : Int32) then x_X1_pack_93 rec22 a1 a2 a3 (1 : Int32) r else cl (p_J18_bitCount a3) fun q2 => cl (p_J18_bitCount a2) fun q3 => x_X1_pack_93 rec22 a1 a2 a3 (q2 - q3) r
theorem x_X1_pack_75_ok {ms : xS} {rr : Int32 × xR} {rec22 : Int32 → Int32 → Int32 → xR → Option (Int32 × xR)} (hr22 : ∀ {a1 : Int32} {a2 : Int32} {a3 : Int32} {r : xR}, rec22 a1 a2 a3 r = some rr → xB xLL yX1_pack cX1_pack 5 (some .int) 2 47 22 [some (.inr (.inr (some 300)) : xV), some (.inl (a1) : xV), some (.inl (a2) : xV), some (.inl (a3) : xV), none] [] (ms, r) (some (.inl rr.1)) (ms, rr.2)) {a1 : Int32} {a2 : Int32} {a3 : Int32} {r : xR} (h : x_X1_pack_75 rec22 a1 a2 a3 r = some rr) : xB xLL yX1_pack cX1_pack 5 (some .int) 2 47 75 [some (.inr (.inr (some 300)) : xV), some (.inl (a1) : xV), some (.inl (a2) : xV), some (.inl (a3) : xV), none] [] (ms, r) (some (.inl rr.1)) (ms, rr.2) := by
  refine x_iload_n (i := 2) 76 rfl dX1_pack_75 rfl rfl ?_
  refine x_iconst (-1 : Int32) 77 rfl dX1_pack_76 rfl ?_
  refine x_icmp_ne 84 80 rfl dX1_pack_77 rfl h (fun h => ?_) (fun h => ?_)
  · refine x_iload_n (i := 3) 85 rfl dX1_pack_84 rfl rfl ?_
    refine x_cl h (fun q2 hq h => ?_)
    refine x_callS (as := [(.inl (a3) : xV)]) (rest := []) (vv := (some (.inl (q2) : xV))) (w2 := (ms, r)) 88 rfl dX1_pack_85 (p_J18_bitCount_ct hq) (lw_S q823 q824 q142 q825) ydJ18_bitCount rfl ⟨Nat.le_of_ble_eq_true rfl, Nat.le_of_ble_eq_true rfl⟩ (Nat.le_of_ble_eq_true rfl) rfl ?_
    change xB xLL yX1_pack cX1_pack 5 (some .int) 2 47 88 [some (.inr (.inr (some 300)) : xV), some (.inl (a1) : xV), some (.inl (a2) : xV), some (.inl (a3) : xV), none] [(.inl (q2) : xV)] (ms, r) _ _
    refine x_iload_n (i := 2) 89 rfl dX1_pack_88 rfl rfl ?_
    refine x_cl h (fun q3 hq h => ?_)
    refine x_callS (as := [(.inl (a2) : xV)]) (rest := [(.inl (q2) : xV)]) (vv := (some (.inl (q3) : xV))) (w2 := (ms, r)) 92 rfl dX1_pack_89 (p_J18_bitCount_ct hq) (lw_S q823 q824 q142 q825) ydJ18_bitCount rfl ⟨Nat.le_of_ble_eq_true rfl, Nat.le_of_ble_eq_true rfl⟩ (Nat.le_of_ble_eq_true rfl) rfl ?_
    change xB xLL yX1_pack cX1_pack 5 (some .int) 2 47 92 [some (.inr (.inr (some 300)) : xV), some (.inl (a1) : xV), some (.inl (a2) : xV), some (.inl (a3) : xV), none] [(.inl (q3) : xV), (.inl (q2) : xV)] (ms, r) _ _
    refine x_isub 93 rfl dX1_pack_92 ?_
    exact xB.le (xle.s (xle.s (xle.s (xle.s (xle.n xle.z))))) (x_X1_pack_93_ok hr22 h)
  · refine x_iconst (1 : Int32) 81 rfl dX1_pack_80 rfl ?_
    refine x_goto 93 dX1_pack_81 rfl ?_
    exact xB.le (xle.s (xle.s (xle.s (xle.s (xle.n xle.z))))) (x_X1_pack_93_ok hr22 h)
def x_X1_pack_45 (rec22 : Int32 → Int32 → Int32 → xR → Option (Int32 × xR)) (a1 : Int32) (a2 : Int32) (a3 : Int32) (s0 : Int32) (s1 : Int32) (s2 : Int32) (r : xR) : Option (Int32 × xR) := if (jshl s1 s0) ≤ s2 then some (a2, r) else if a1 = 0 then cl (x_X1_doesPack a3 r) fun q5 => if q5.1 = 0 then x_X1_pack_119 rec22 a1 a2 a3 q5.2 else x_X1_pack_75 rec22 a1 a2 a3 q5.2 else cl (x_X1_doesCover a3 r) fun q4 => if q4.1 = 0 then x_X1_pack_119 rec22 a1 a2 a3 q4.2 else x_X1_pack_75 rec22 a1 a2 a3 q4.2
theorem x_X1_pack_45_ok {ms : xS} {rr : Int32 × xR} {rec22 : Int32 → Int32 → Int32 → xR → Option (Int32 × xR)} (hr22 : ∀ {a1 : Int32} {a2 : Int32} {a3 : Int32} {r : xR}, rec22 a1 a2 a3 r = some rr → xB xLL yX1_pack cX1_pack 5 (some .int) 2 47 22 [some (.inr (.inr (some 300)) : xV), some (.inl (a1) : xV), some (.inl (a2) : xV), some (.inl (a3) : xV), none] [] (ms, r) (some (.inl rr.1)) (ms, rr.2)) {a1 : Int32} {a2 : Int32} {a3 : Int32} {s0 : Int32} {s1 : Int32} {s2 : Int32} {r : xR} (h : x_X1_pack_45 rec22 a1 a2 a3 s0 s1 s2 r = some rr) : xB xLL yX1_pack cX1_pack 5 (some .int) 2 47 45 [some (.inr (.inr (some 300)) : xV), some (.inl (a1) : xV), some (.inl (a2) : xV), some (.inl (a3) : xV), none] [(.inl (s0) : xV), (.inl (s1) : xV), (.inl (s2) : xV)] (ms, r) (some (.inl rr.1)) (ms, rr.2) := by
  refine x_ishl 46 rfl dX1_pack_45 ?_
  refine x_icmp_ge 125 49 rfl dX1_pack_46 rfl h (fun h => ?_) (fun h => ?_)
  · refine x_iload_n (i := 2) 126 rfl dX1_pack_125 rfl rfl ?_
    cases h
    exact x_iret rfl dX1_pack_126
  · refine x_iload_n (i := 1) 50 rfl dX1_pack_49 rfl rfl ?_
    refine x_if_ne 64 53 rfl dX1_pack_50 rfl h (fun h => ?_) (fun h => ?_)
    · refine x_aload_n (i := 0) 65 rfl dX1_pack_64 rfl rfl ?_
      refine x_iload_n (i := 3) 66 rfl dX1_pack_65 rfl rfl ?_
      refine x_cl h (fun q4 hq h => ?_)
      refine x_callV (as := [(.inl (a3) : xV)]) (rest := []) (vv := (some (.inl (q4.1) : xV))) (w2 := (ms, q4.2)) (C := RX1) (T := TX1) (N := 34) 69 rfl dX1_pack_66 (x_X1_doesCover_ct hq) (Or.inl xcell_X0) rfl (lw_V q1722 q1724 qs60 q118 q1725) rfl ydX1_doesCover rfl ⟨Nat.le_of_ble_eq_true rfl, Nat.le_of_ble_eq_true rfl⟩ (Nat.le_of_ble_eq_true rfl) rfl ?_
      change xB xLL yX1_pack cX1_pack 5 (some .int) 2 47 69 [some (.inr (.inr (some 300)) : xV), some (.inl (a1) : xV), some (.inl (a2) : xV), some (.inl (a3) : xV), none] [(.inl (q4.1) : xV)] (ms, q4.2) _ _
      refine x_if_ne 75 72 rfl dX1_pack_69 rfl h (fun h => ?_) (fun h => ?_)
      · exact xB.le (xle.s (xle.s (xle.s (xle.s (xle.n xle.z))))) (x_X1_pack_75_ok hr22 h)
      · refine x_goto 119 dX1_pack_72 rfl ?_
        exact xB.le (xle.s (xle.s (xle.s (xle.s (xle.n xle.z))))) (x_X1_pack_119_ok hr22 h)
    · refine x_aload_n (i := 0) 54 rfl dX1_pack_53 rfl rfl ?_
      refine x_iload_n (i := 3) 55 rfl dX1_pack_54 rfl rfl ?_
      refine x_cl h (fun q5 hq h => ?_)
      refine x_callV (as := [(.inl (a3) : xV)]) (rest := []) (vv := (some (.inl (q5.1) : xV))) (w2 := (ms, q5.2)) (C := RX1) (T := TX1) (N := 34) 58 rfl dX1_pack_55 (x_X1_doesPack_ct hq) (Or.inl xcell_X0) rfl (lw_V q1714 q1716 qs58 q118 q1717) rfl ydX1_doesPack rfl ⟨Nat.le_of_ble_eq_true rfl, Nat.le_of_ble_eq_true rfl⟩ (Nat.le_of_ble_eq_true rfl) rfl ?_
      change xB xLL yX1_pack cX1_pack 5 (some .int) 2 47 58 [some (.inr (.inr (some 300)) : xV), some (.inl (a1) : xV), some (.inl (a2) : xV), some (.inl (a3) : xV), none] [(.inl (q5.1) : xV)] (ms, q5.2) _ _
      refine x_if_ne 75 61 rfl dX1_pack_58 rfl h (fun h => ?_) (fun h => ?_)
      · exact xB.le (xle.s (xle.s (xle.s (xle.s (xle.n xle.z))))) (x_X1_pack_75_ok hr22 h)
      · refine x_goto 119 dX1_pack_61 rfl ?_
        exact xB.le (xle.s (xle.s (xle.s (xle.s (xle.n xle.z))))) (x_X1_pack_119_ok hr22 h)
def x_X1_pack_22_s (rec22 : Int32 → Int32 → Int32 → xR → Option (Int32 × xR)) (a1 : Int32) (a2 : Int32) (a3 : Int32) (r : xR) : Option (Int32 × xR) := if a1 = 0 then lt (r.1.2.2 0 11) fun p9 => nn p9 fun p10 => dgi xLL r p10 2 1 fun x11 => x_X1_pack_45 rec22 a1 a2 a3 x11 (1 : Int32) a3 r else lt (r.1.2.2 0 11) fun p6 => nn p6 fun p7 => dgi xLL r p7 2 0 fun x8 => x_X1_pack_45 rec22 a1 a2 a3 x8 (1 : Int32) a3 r
theorem x_X1_pack_22_s_ok {ms : xS} {rr : Int32 × xR} {rec22 : Int32 → Int32 → Int32 → xR → Option (Int32 × xR)} (hr22 : ∀ {a1 : Int32} {a2 : Int32} {a3 : Int32} {r : xR}, rec22 a1 a2 a3 r = some rr → xB xLL yX1_pack cX1_pack 5 (some .int) 2 47 22 [some (.inr (.inr (some 300)) : xV), some (.inl (a1) : xV), some (.inl (a2) : xV), some (.inl (a3) : xV), none] [] (ms, r) (some (.inl rr.1)) (ms, rr.2)) {a1 : Int32} {a2 : Int32} {a3 : Int32} {r : xR} (h : x_X1_pack_22_s rec22 a1 a2 a3 r = some rr) : xB xLL yX1_pack cX1_pack 5 (some .int) 2 47 22 [some (.inr (.inr (some 300)) : xV), some (.inl (a1) : xV), some (.inl (a2) : xV), some (.inl (a3) : xV), none] [] (ms, r) (some (.inl rr.1)) (ms, rr.2) := by
  refine x_iload_n (i := 3) 23 rfl dX1_pack_22 rfl rfl ?_
  refine x_iconst (1 : Int32) 24 rfl dX1_pack_23 rfl ?_
  refine x_iload_n (i := 1) 25 rfl dX1_pack_24 rfl rfl ?_
  refine x_if_ne 38 28 rfl dX1_pack_25 rfl h (fun h => ?_) (fun h => ?_)
  · refine x_aload_n (i := 0) 39 rfl dX1_pack_38 rfl rfl ?_
    refine q_get (k := 11) 42 rfl dX1_pack_39 (by decide) q453 rfl ?_
    refine x_ltr h (fun p6 h => ?_)
    refine x_nnP (P := fun p6 => xB xLL yX1_pack cX1_pack 5 (some .int) 2 47 42 [some (.inr (.inr (some 300)) : xV), some (.inl (a1) : xV), some (.inl (a2) : xV), some (.inl (a3) : xV), none] [(.inr (.inr (p6)) : xV), (.inl ((1 : Int32)) : xV), (.inl (a3) : xV)] (ms, r) (some (.inl rr.1)) (ms, rr.2)) h (fun p7 h => ?_)
    refine d_getiN (ci := 2) (k := 0) (C := RX4) (T := TX4) (N := 3) 45 rfl dX1_pack_42 rfl in_X4 (by decide) (List.mem_of_getElem? (i := 5) rfl) h (fun x8 h => ?_)
    exact xB.le (xle.s (xle.s (xle.s (xle.s (xle.n xle.z))))) (x_X1_pack_45_ok hr22 h)
  · refine x_aload_n (i := 0) 29 rfl dX1_pack_28 rfl rfl ?_
    refine q_get (k := 11) 32 rfl dX1_pack_29 (by decide) q453 rfl ?_
    refine x_ltr h (fun p9 h => ?_)
    refine x_nnP (P := fun p9 => xB xLL yX1_pack cX1_pack 5 (some .int) 2 47 32 [some (.inr (.inr (some 300)) : xV), some (.inl (a1) : xV), some (.inl (a2) : xV), some (.inl (a3) : xV), none] [(.inr (.inr (p9)) : xV), (.inl ((1 : Int32)) : xV), (.inl (a3) : xV)] (ms, r) (some (.inl rr.1)) (ms, rr.2)) h (fun p10 h => ?_)
    refine d_getiN (ci := 2) (k := 1) (C := RX4) (T := TX4) (N := 3) 35 rfl dX1_pack_32 rfl in_X4 (by decide) (List.mem_of_getElem? (i := 7) rfl) h (fun x11 h => ?_)
    refine x_goto 45 dX1_pack_35 rfl ?_
    exact xB.le (xle.s (xle.s (xle.s (xle.s (xle.n xle.z))))) (x_X1_pack_45_ok hr22 h)
def x_X1_pack_22_L : Nat → Int32 → Int32 → Int32 → xR → Option (Int32 × xR)
  | 0 => fun _ _ _ _ => none
  | n + 1 => x_X1_pack_22_s (x_X1_pack_22_L  n)
theorem x_X1_pack_22_L_ok {ms : xS} {rr : Int32 × xR} : ∀ (n9 : Nat) {a1 : Int32} {a2 : Int32} {a3 : Int32} {r : xR}, x_X1_pack_22_L  n9 a1 a2 a3 r = some rr → xB xLL yX1_pack cX1_pack 5 (some .int) 2 47 22 [some (.inr (.inr (some 300)) : xV), some (.inl (a1) : xV), some (.inl (a2) : xV), some (.inl (a3) : xV), none] [] (ms, r) (some (.inl rr.1)) (ms, rr.2)
  | 0, _, _, _, _, h => by cases h
  | n9 + 1, _, _, _, _, h => x_X1_pack_22_s_ok (x_X1_pack_22_L_ok  n9) h
def x_X1_pack (a1 : Int32) (r : xR) : Option (Int32 × xR) := lt (r.1.2.2 0 11) fun p12 => nu p12 (some ((-1 : Int32), r)) fun p13 => cl (p_X1_in a1 (0 : Int32) (1 : Int32)) fun q14 => if q14 = 0 then some ((-1 : Int32), r) else lt ((-1 : Int32)) fun x15 => lt ((0 : Int32)) fun x16 => x_X1_pack_22_L xFU a1 x15 x16 r
theorem x_X1_pack_ct {ms : xS} {rr : Int32 × xR} {a1 : Int32} {r : xR} (h : x_X1_pack a1 r = some rr) : xCt xLL yX1_pack cX1_pack 5 (some .int) 2 47 [(.inr (.inr (some 300)) : xV), (.inl (a1) : xV)] (ms, r) (some (.inl rr.1)) (ms, rr.2) := by
  refine xCt.of (lv := [some (.inr (.inr (some 300)) : xV), some (.inl (a1) : xV), none, none, none]) pl_X1 (Nat.le_of_ble_eq_true rfl) (xle.s (xle.s (xle.m (xle.m (xle.m xle.z))))) ?_
  refine x_aload_n (i := 0) 1 rfl dX1_pack_0 rfl rfl ?_
  refine q_get (k := 11) 4 rfl dX1_pack_1 (by decide) q453 rfl ?_
  refine x_ltr h (fun p12 h => ?_)
  refine x_nulP (lv := fun p12 => [some (.inr (.inr (some 300)) : xV), some (.inl (a1) : xV), none, none, none]) (st := fun p12 => []) 16 7 rfl dX1_pack_4 rfl h (fun h => ?_) (fun p13 h => ?_)
  · refine x_iconst (-1 : Int32) 17 rfl dX1_pack_16 rfl ?_
    cases h
    exact x_iret rfl dX1_pack_17
  · refine x_iload_n (i := 1) 8 rfl dX1_pack_7 rfl rfl ?_
    refine x_iconst (0 : Int32) 9 rfl dX1_pack_8 rfl ?_
    refine x_iconst (1 : Int32) 10 rfl dX1_pack_9 rfl ?_
    refine x_cl h (fun q14 hq h => ?_)
    refine x_callS (as := [(.inl (a1) : xV), (.inl ((0 : Int32)) : xV), (.inl ((1 : Int32)) : xV)]) (rest := []) (vv := (some (.inl (q14) : xV))) (w2 := (ms, r)) 13 rfl dX1_pack_10 (p_X1_in_ct hq) (lw_S q556 q557 q118 q558) ydX1_in rfl ⟨Nat.le_of_ble_eq_true rfl, Nat.le_of_ble_eq_true rfl⟩ (Nat.le_of_ble_eq_true rfl) rfl ?_
    change xB xLL yX1_pack cX1_pack 5 (some .int) 2 47 13 [some (.inr (.inr (some 300)) : xV), some (.inl (a1) : xV), none, none, none] [(.inl (q14) : xV)] (ms, r) _ _
    refine x_if_ne 18 16 rfl dX1_pack_13 rfl h (fun h => ?_) (fun h => ?_)
    · refine x_iconst (-1 : Int32) 19 rfl dX1_pack_18 rfl ?_
      refine x_lti h (fun x15 h => ?_)
      refine x_istore_n 20 rfl dX1_pack_19 rfl (by decide) (lv' := [some (.inr (.inr (some 300)) : xV), some (.inl (a1) : xV), some (.inl (x15) : xV), none, none]) rfl ?_
      refine x_iconst (0 : Int32) 21 rfl dX1_pack_20 rfl ?_
      refine x_lti h (fun x16 h => ?_)
      refine x_istore_n 22 rfl dX1_pack_21 rfl (by decide) (lv' := [some (.inr (.inr (some 300)) : xV), some (.inl (a1) : xV), some (.inl (x15) : xV), some (.inl (x16) : xV), none]) rfl ?_
      exact xB.le (xle.s (xle.s (xle.s (xle.s (xle.n xle.z))))) (x_X1_pack_22_L_ok xFU h)
    · refine x_iconst (-1 : Int32) 17 rfl dX1_pack_16 rfl ?_
      cases h
      exact x_iret rfl dX1_pack_17
/-! UnimodularTables.adjoint(II)I -/
theorem ydX1_adjoint : xHd yX1_adjoint 2 := by decide +kernel
def x_X1_adjoint_99 (a1 : Int32) (a2 : Int32) (s0 : Int32) (r : xR) : Option (Int32 × xR) := if (jrem (a1 + a2) (2 : Int32)) = 0 then some (s0, r) else some (-s0, r)
theorem x_X1_adjoint_99_ok {ms : xS} {rr : Int32 × xR} {a1 : Int32} {a2 : Int32} {s0 : Int32} {r : xR} (h : x_X1_adjoint_99  a1 a2 s0 r = some rr) : xB xLL yX1_adjoint cX1_adjoint 5 (some .int) 3 68 99 [none, some (.inl (a1) : xV), some (.inl (a2) : xV), none, none] [(.inl (s0) : xV)] (ms, r) (some (.inl rr.1)) (ms, rr.2) := by
  refine x_istore 101 rfl dX1_adjoint_99 (by decide) (lv' := [none, some (.inl (a1) : xV), some (.inl (a2) : xV), none, some (.inl (s0) : xV)]) rfl ?_
  refine x_iload_n (i := 1) 102 rfl dX1_adjoint_101 rfl rfl ?_
  refine x_iload_n (i := 2) 103 rfl dX1_adjoint_102 rfl rfl ?_
  refine x_iadd 104 rfl dX1_adjoint_103 ?_
  refine x_iconst (2 : Int32) 105 rfl dX1_adjoint_104 rfl ?_
  refine x_irem 106 rfl dX1_adjoint_105 (by decide) ?_
  refine x_if_ne 114 109 rfl dX1_adjoint_106 rfl h (fun h => ?_) (fun h => ?_)
  · refine x_iload (i := 4) 116 rfl dX1_adjoint_114 rfl ?_
    refine x_ineg 117 rfl dX1_adjoint_116 ?_
    cases h
    exact x_iret rfl dX1_adjoint_117
  · refine x_iload (i := 4) 111 rfl dX1_adjoint_109 rfl ?_
    refine x_goto 117 dX1_adjoint_111 rfl ?_
    cases h
    exact x_iret rfl dX1_adjoint_117
def x_X1_adjoint (a1 : Int32) (a2 : Int32) (r : xR) : Option (Int32 × xR) := lt (r.1.2.2 0 11) fun p1 => nu p1 (some ((-1000000 : Int32), r)) fun p2 => lt (r.1.2.2 0 11) fun p3 => nn p3 fun p4 => cl (x_X1_isRow p4 a1 r) fun q5 => if q5.1 = 0 then some ((-1000000 : Int32), q5.2) else lt (q5.2.1.2.2 0 11) fun p6 => nn p6 fun p7 => cl (x_X1_isColumn p7 a2 q5.2) fun q8 => if q8.1 = 0 then some ((-1000000 : Int32), q8.2) else lt (q8.2.1.2.2 0 11) fun p9 => nn p9 fun p10 => dgi xLL q8.2 p10 2 0 fun x11 => lt (q8.2.1.2.2 0 11) fun p12 => nn p12 fun p13 => dgi xLL q8.2 p13 2 1 fun x14 => if x11 = x14 then lt (q8.2.1.2.2 0 11) fun p15 => nn p15 fun p16 => dgi xLL q8.2 p16 2 0 fun x17 => lt ((jshl (1 : Int32) x17) - (1 : Int32)) fun x18 => lt (q8.2.1.2.2 0 11) fun p19 => nn p19 fun p20 => dgi xLL q8.2 p20 2 0 fun x21 => if x21 = (1 : Int32) then x_X1_adjoint_99 a1 a2 (1 : Int32) q8.2 else cl (x_X1_detsNow q8.2) fun q22 => qrd q22.2 q22.1 (((64 : Int32) * (x18 &&& ((jshl (1 : Int32) a2) ^^^ (-1 : Int32)))) + (x18 &&& ((jshl (1 : Int32) a1) ^^^ (-1 : Int32)))) fun x23 => x_X1_adjoint_99 a1 a2 x23 q22.2 else some ((-1000000 : Int32), q8.2)
theorem x_X1_adjoint_ct {ms : xS} {rr : Int32 × xR} {a1 : Int32} {a2 : Int32} {r : xR} (h : x_X1_adjoint a1 a2 r = some rr) : xCt xLL yX1_adjoint cX1_adjoint 5 (some .int) 3 68 [(.inr (.inr (some 300)) : xV), (.inl (a1) : xV), (.inl (a2) : xV)] (ms, r) (some (.inl rr.1)) (ms, rr.2) := by
  refine xCt.of (lv := [some (.inr (.inr (some 300)) : xV), some (.inl (a1) : xV), some (.inl (a2) : xV), none, none]) pl_X1 (Nat.le_of_ble_eq_true rfl) (xle.s (xle.s (xle.s (xle.m (xle.m xle.z))))) ?_
  refine x_aload_n (i := 0) 1 rfl dX1_adjoint_0 rfl rfl ?_
  refine q_get (k := 11) 4 rfl dX1_adjoint_1 (by decide) q453 rfl ?_
  refine x_ltr h (fun p1 h => ?_)
  refine x_nulP (lv := fun p1 => [some (.inr (.inr (some 300)) : xV), some (.inl (a1) : xV), some (.inl (a2) : xV), none, none]) (st := fun p1 => []) 46 7 rfl dX1_adjoint_4 rfl h (fun h => ?_) (fun p2 h => ?_)
  · refine x_ldc 48 rfl dX1_adjoint_46 q657 ?_
    cases h
    exact x_iret rfl dX1_adjoint_48
  · refine x_aload_n (i := 0) 8 rfl dX1_adjoint_7 rfl rfl ?_
    refine q_get (k := 11) 11 rfl dX1_adjoint_8 (by decide) q453 rfl ?_
    refine x_ltr h (fun p3 h => ?_)
    refine x_iload_n (i := 1) 12 rfl dX1_adjoint_11 rfl rfl ?_
    refine x_nnP (P := fun p3 => xB xLL yX1_adjoint cX1_adjoint 5 (some .int) 3 68 12 [some (.inr (.inr (some 300)) : xV), some (.inl (a1) : xV), some (.inl (a2) : xV), none, none] [(.inl (a1) : xV), (.inr (.inr (p3)) : xV)] (ms, r) (some (.inl rr.1)) (ms, rr.2)) h (fun p4 h => ?_)
    refine x_cl h (fun q5 hq h => ?_)
    refine x_callS (as := [(.inr (.inr (some (p4))) : xV), (.inl (a1) : xV)]) (rest := []) (vv := (some (.inl (q5.1) : xV))) (w2 := (ms, q5.2)) 15 rfl dX1_adjoint_12 (x_X1_isRow_ct hq) (lw_S q686 q687 q118 q688) ydX1_isRow rfl ⟨Nat.le_of_ble_eq_true rfl, Nat.le_of_ble_eq_true rfl⟩ (Nat.le_of_ble_eq_true rfl) rfl ?_
    change xB xLL yX1_adjoint cX1_adjoint 5 (some .int) 3 68 15 [some (.inr (.inr (some 300)) : xV), some (.inl (a1) : xV), some (.inl (a2) : xV), none, none] [(.inl (q5.1) : xV)] (ms, q5.2) _ _
    refine x_if_eq 46 18 rfl dX1_adjoint_15 rfl h (fun h => ?_) (fun h => ?_)
    · refine x_ldc 48 rfl dX1_adjoint_46 q657 ?_
      cases h
      exact x_iret rfl dX1_adjoint_48
    · refine x_aload_n (i := 0) 19 rfl dX1_adjoint_18 rfl rfl ?_
      refine q_get (k := 11) 22 rfl dX1_adjoint_19 (by decide) q453 rfl ?_
      refine x_ltr h (fun p6 h => ?_)
      refine x_iload_n (i := 2) 23 rfl dX1_adjoint_22 rfl rfl ?_
      refine x_nnP (P := fun p6 => xB xLL yX1_adjoint cX1_adjoint 5 (some .int) 3 68 23 [some (.inr (.inr (some 300)) : xV), some (.inl (a1) : xV), some (.inl (a2) : xV), none, none] [(.inl (a2) : xV), (.inr (.inr (p6)) : xV)] (ms, q5.2) (some (.inl rr.1)) (ms, rr.2)) h (fun p7 h => ?_)
      refine x_cl h (fun q8 hq h => ?_)
      refine x_callS (as := [(.inr (.inr (some (p7))) : xV), (.inl (a2) : xV)]) (rest := []) (vv := (some (.inl (q8.1) : xV))) (w2 := (ms, q8.2)) 26 rfl dX1_adjoint_23 (x_X1_isColumn_ct hq) (lw_S q689 q690 q118 q691) ydX1_isColumn rfl ⟨Nat.le_of_ble_eq_true rfl, Nat.le_of_ble_eq_true rfl⟩ (Nat.le_of_ble_eq_true rfl) rfl ?_
      change xB xLL yX1_adjoint cX1_adjoint 5 (some .int) 3 68 26 [some (.inr (.inr (some 300)) : xV), some (.inl (a1) : xV), some (.inl (a2) : xV), none, none] [(.inl (q8.1) : xV)] (ms, q8.2) _ _
      refine x_if_eq 46 29 rfl dX1_adjoint_26 rfl h (fun h => ?_) (fun h => ?_)
      · refine x_ldc 48 rfl dX1_adjoint_46 q657 ?_
        cases h
        exact x_iret rfl dX1_adjoint_48
      · refine x_aload_n (i := 0) 30 rfl dX1_adjoint_29 rfl rfl ?_
        refine q_get (k := 11) 33 rfl dX1_adjoint_30 (by decide) q453 rfl ?_
        refine x_ltr h (fun p9 h => ?_)
        refine x_nnP (P := fun p9 => xB xLL yX1_adjoint cX1_adjoint 5 (some .int) 3 68 33 [some (.inr (.inr (some 300)) : xV), some (.inl (a1) : xV), some (.inl (a2) : xV), none, none] [(.inr (.inr (p9)) : xV)] (ms, q8.2) (some (.inl rr.1)) (ms, rr.2)) h (fun p10 h => ?_)
        refine d_getiN (ci := 2) (k := 0) (C := RX4) (T := TX4) (N := 3) 36 rfl dX1_adjoint_33 rfl in_X4 (by decide) (List.mem_of_getElem? (i := 5) rfl) h (fun x11 h => ?_)
        refine x_aload_n (i := 0) 37 rfl dX1_adjoint_36 rfl rfl ?_
        refine q_get (k := 11) 40 rfl dX1_adjoint_37 (by decide) q453 rfl ?_
        refine x_ltr h (fun p12 h => ?_)
        refine x_nnP (P := fun p12 => xB xLL yX1_adjoint cX1_adjoint 5 (some .int) 3 68 40 [some (.inr (.inr (some 300)) : xV), some (.inl (a1) : xV), some (.inl (a2) : xV), none, none] [(.inr (.inr (p12)) : xV), (.inl (x11) : xV)] (ms, q8.2) (some (.inl rr.1)) (ms, rr.2)) h (fun p13 h => ?_)
        refine d_getiN (ci := 2) (k := 1) (C := RX4) (T := TX4) (N := 3) 43 rfl dX1_adjoint_40 rfl in_X4 (by decide) (List.mem_of_getElem? (i := 7) rfl) h (fun x14 h => ?_)
        refine x_icmp_eq 49 46 rfl dX1_adjoint_43 rfl h (fun h => ?_) (fun h => ?_)
        · refine x_iconst (1 : Int32) 50 rfl dX1_adjoint_49 rfl ?_
          refine x_aload_n (i := 0) 51 rfl dX1_adjoint_50 rfl rfl ?_
          refine q_get (k := 11) 54 rfl dX1_adjoint_51 (by decide) q453 rfl ?_
          refine x_ltr h (fun p15 h => ?_)
          refine x_nnP (P := fun p15 => xB xLL yX1_adjoint cX1_adjoint 5 (some .int) 3 68 54 [some (.inr (.inr (some 300)) : xV), some (.inl (a1) : xV), some (.inl (a2) : xV), none, none] [(.inr (.inr (p15)) : xV), (.inl ((1 : Int32)) : xV)] (ms, q8.2) (some (.inl rr.1)) (ms, rr.2)) h (fun p16 h => ?_)
          refine d_getiN (ci := 2) (k := 0) (C := RX4) (T := TX4) (N := 3) 57 rfl dX1_adjoint_54 rfl in_X4 (by decide) (List.mem_of_getElem? (i := 5) rfl) h (fun x17 h => ?_)
          refine x_ishl 58 rfl dX1_adjoint_57 ?_
          refine x_iconst (1 : Int32) 59 rfl dX1_adjoint_58 rfl ?_
          refine x_isub 60 rfl dX1_adjoint_59 ?_
          refine x_lti h (fun x18 h => ?_)
          refine x_istore_n 61 rfl dX1_adjoint_60 rfl (by decide) (lv' := [some (.inr (.inr (some 300)) : xV), some (.inl (a1) : xV), some (.inl (a2) : xV), some (.inl (x18) : xV), none]) rfl ?_
          refine x_aload_n (i := 0) 62 rfl dX1_adjoint_61 rfl rfl ?_
          refine q_get (k := 11) 65 rfl dX1_adjoint_62 (by decide) q453 rfl ?_
          refine x_ltr h (fun p19 h => ?_)
          refine x_nnP (P := fun p19 => xB xLL yX1_adjoint cX1_adjoint 5 (some .int) 3 68 65 [some (.inr (.inr (some 300)) : xV), some (.inl (a1) : xV), some (.inl (a2) : xV), some (.inl (x18) : xV), none] [(.inr (.inr (p19)) : xV)] (ms, q8.2) (some (.inl rr.1)) (ms, rr.2)) h (fun p20 h => ?_)
          refine d_getiN (ci := 2) (k := 0) (C := RX4) (T := TX4) (N := 3) 68 rfl dX1_adjoint_65 rfl in_X4 (by decide) (List.mem_of_getElem? (i := 5) rfl) h (fun x21 h => ?_)
          refine x_iconst (1 : Int32) 69 rfl dX1_adjoint_68 rfl ?_
          refine x_icmp_ne 76 72 rfl dX1_adjoint_69 rfl h (fun h => ?_) (fun h => ?_)
          · refine x_aload_n (i := 0) 77 rfl dX1_adjoint_76 rfl rfl ?_
            refine x_cl h (fun q22 hq h => ?_)
            refine x_callV (as := []) (rest := []) (vv := (some (.inr (.inr (some (300 + q22.1))) : xV))) (w2 := (ms, q22.2)) (C := RX1) (T := TX1) (N := 34) 80 rfl dX1_adjoint_77 (x_X1_detsNow_ct hq) (Or.inl xcell_X0) rfl (lw_V q829 q831 qs23 q118 q832) rfl ydX1_detsNow rfl ⟨Nat.le_of_ble_eq_true rfl, Nat.le_of_ble_eq_true rfl⟩ (Nat.le_of_ble_eq_true rfl) rfl ?_
            change xB xLL yX1_adjoint cX1_adjoint 5 (some .int) 3 68 80 [some (.inr (.inr (some 300)) : xV), some (.inl (a1) : xV), some (.inl (a2) : xV), some (.inl (x18) : xV), none] [(.inr (.inr (some (300 + q22.1))) : xV)] (ms, q22.2) _ _
            refine x_bipush (64 : Int32) 82 rfl dX1_adjoint_80 rfl ?_
            refine x_iload_n (i := 3) 83 rfl dX1_adjoint_82 rfl rfl ?_
            refine x_iconst (1 : Int32) 84 rfl dX1_adjoint_83 rfl ?_
            refine x_iload_n (i := 2) 85 rfl dX1_adjoint_84 rfl rfl ?_
            refine x_ishl 86 rfl dX1_adjoint_85 ?_
            refine x_iconst (-1 : Int32) 87 rfl dX1_adjoint_86 rfl ?_
            refine x_ixor 88 rfl dX1_adjoint_87 ?_
            refine x_iand 89 rfl dX1_adjoint_88 ?_
            refine x_imul 90 rfl dX1_adjoint_89 ?_
            refine x_iload_n (i := 3) 91 rfl dX1_adjoint_90 rfl rfl ?_
            refine x_iconst (1 : Int32) 92 rfl dX1_adjoint_91 rfl ?_
            refine x_iload_n (i := 1) 93 rfl dX1_adjoint_92 rfl rfl ?_
            refine x_ishl 94 rfl dX1_adjoint_93 ?_
            refine x_iconst (-1 : Int32) 95 rfl dX1_adjoint_94 rfl ?_
            refine x_ixor 96 rfl dX1_adjoint_95 ?_
            refine x_iand 97 rfl dX1_adjoint_96 ?_
            refine x_iadd 98 rfl dX1_adjoint_97 ?_
            refine q_iald 99 rfl dX1_adjoint_98 h (fun x23 h => ?_)
            exact xB.le (xle.n (xle.s (xle.s (xle.n (xle.n xle.z))))) (x_X1_adjoint_99_ok h)
          · refine x_iconst (1 : Int32) 73 rfl dX1_adjoint_72 rfl ?_
            refine x_goto 99 dX1_adjoint_73 rfl ?_
            exact xB.le (xle.n (xle.s (xle.s (xle.n (xle.n xle.z))))) (x_X1_adjoint_99_ok h)
        · refine x_ldc 48 rfl dX1_adjoint_46 q657 ?_
          cases h
          exact x_iret rfl dX1_adjoint_48
/-! UnimodularTables.step(III)I -/
theorem ydX1_step : xHd yX1_step 3 := by decide +kernel
def x_X1_step (a1 : Int32) (a2 : Int32) (a3 : Int32) (r : xR) : Option (Int32 × xR) := cl (p_X1_in a1 (0 : Int32) ((r.1.1 0 10) - (1 : Int32))) fun q1 => if q1 = 0 then some ((-1000000 : Int32), r) else qrd r 5 a1 fun x2 => cl (p_X1_in a2 (0 : Int32) (x2 - (1 : Int32))) fun q3 => if q3 = 0 then some ((-1000000 : Int32), r) else cl (p_X1_in a3 (0 : Int32) (3 : Int32)) fun q4 => if q4 = 0 then some ((-1000000 : Int32), r) else qrd r 4 (((4 : Int32) * (((12 : Int32) * a1) + a2)) + a3) fun x5 => some (x5, r)
theorem x_X1_step_ct {ms : xS} {rr : Int32 × xR} {a1 : Int32} {a2 : Int32} {a3 : Int32} {r : xR} (h : x_X1_step a1 a2 a3 r = some rr) : xCt xLL yX1_step cX1_step 4 (some .int) 1 22 [(.inr (.inr (some 300)) : xV), (.inl (a1) : xV), (.inl (a2) : xV), (.inl (a3) : xV)] (ms, r) (some (.inl rr.1)) (ms, rr.2) := by
  refine xCt.of (lv := [some (.inr (.inr (some 300)) : xV), some (.inl (a1) : xV), some (.inl (a2) : xV), some (.inl (a3) : xV)]) pl_X1 (Nat.le_of_ble_eq_true rfl) (xle.s (xle.s (xle.s (xle.s xle.z)))) ?_
  refine x_iload_n (i := 1) 1 rfl dX1_step_0 rfl rfl ?_
  refine x_iconst (0 : Int32) 2 rfl dX1_step_1 rfl ?_
  refine x_aload_n (i := 0) 3 rfl dX1_step_2 rfl rfl ?_
  refine q_get (k := 10) 6 rfl dX1_step_3 (by decide) q452 rfl ?_
  refine x_iconst (1 : Int32) 7 rfl dX1_step_6 rfl ?_
  refine x_isub 8 rfl dX1_step_7 ?_
  refine x_cl h (fun q1 hq h => ?_)
  refine x_callS (as := [(.inl (a1) : xV), (.inl ((0 : Int32)) : xV), (.inl ((r.1.1 0 10) - (1 : Int32)) : xV)]) (rest := []) (vv := (some (.inl (q1) : xV))) (w2 := (ms, r)) 11 rfl dX1_step_8 (p_X1_in_ct hq) (lw_S q556 q557 q118 q558) ydX1_in rfl ⟨Nat.le_of_ble_eq_true rfl, Nat.le_of_ble_eq_true rfl⟩ (Nat.le_of_ble_eq_true rfl) rfl ?_
  change xB xLL yX1_step cX1_step 4 (some .int) 1 22 11 [some (.inr (.inr (some 300)) : xV), some (.inl (a1) : xV), some (.inl (a2) : xV), some (.inl (a3) : xV)] [(.inl (q1) : xV)] (ms, r) _ _
  refine x_if_eq 57 14 rfl dX1_step_11 rfl h (fun h => ?_) (fun h => ?_)
  · refine x_ldc 59 rfl dX1_step_57 q657 ?_
    cases h
    exact x_iret rfl dX1_step_59
  · refine x_iload_n (i := 2) 15 rfl dX1_step_14 rfl rfl ?_
    refine x_iconst (0 : Int32) 16 rfl dX1_step_15 rfl ?_
    refine x_aload_n (i := 0) 17 rfl dX1_step_16 rfl rfl ?_
    refine q_get (k := 9) 20 rfl dX1_step_17 (by decide) q451 rfl ?_
    refine x_iload_n (i := 1) 21 rfl dX1_step_20 rfl rfl ?_
    refine q_iald 22 rfl dX1_step_21 h (fun x2 h => ?_)
    refine x_iconst (1 : Int32) 23 rfl dX1_step_22 rfl ?_
    refine x_isub 24 rfl dX1_step_23 ?_
    refine x_cl h (fun q3 hq h => ?_)
    refine x_callS (as := [(.inl (a2) : xV), (.inl ((0 : Int32)) : xV), (.inl (x2 - (1 : Int32)) : xV)]) (rest := []) (vv := (some (.inl (q3) : xV))) (w2 := (ms, r)) 27 rfl dX1_step_24 (p_X1_in_ct hq) (lw_S q556 q557 q118 q558) ydX1_in rfl ⟨Nat.le_of_ble_eq_true rfl, Nat.le_of_ble_eq_true rfl⟩ (Nat.le_of_ble_eq_true rfl) rfl ?_
    change xB xLL yX1_step cX1_step 4 (some .int) 1 22 27 [some (.inr (.inr (some 300)) : xV), some (.inl (a1) : xV), some (.inl (a2) : xV), some (.inl (a3) : xV)] [(.inl (q3) : xV)] (ms, r) _ _
    refine x_if_eq 57 30 rfl dX1_step_27 rfl h (fun h => ?_) (fun h => ?_)
    · refine x_ldc 59 rfl dX1_step_57 q657 ?_
      cases h
      exact x_iret rfl dX1_step_59
    · refine x_iload_n (i := 3) 31 rfl dX1_step_30 rfl rfl ?_
      refine x_iconst (0 : Int32) 32 rfl dX1_step_31 rfl ?_
      refine x_iconst (3 : Int32) 33 rfl dX1_step_32 rfl ?_
      refine x_cl h (fun q4 hq h => ?_)
      refine x_callS (as := [(.inl (a3) : xV), (.inl ((0 : Int32)) : xV), (.inl ((3 : Int32)) : xV)]) (rest := []) (vv := (some (.inl (q4) : xV))) (w2 := (ms, r)) 36 rfl dX1_step_33 (p_X1_in_ct hq) (lw_S q556 q557 q118 q558) ydX1_in rfl ⟨Nat.le_of_ble_eq_true rfl, Nat.le_of_ble_eq_true rfl⟩ (Nat.le_of_ble_eq_true rfl) rfl ?_
      change xB xLL yX1_step cX1_step 4 (some .int) 1 22 36 [some (.inr (.inr (some 300)) : xV), some (.inl (a1) : xV), some (.inl (a2) : xV), some (.inl (a3) : xV)] [(.inl (q4) : xV)] (ms, r) _ _
      refine x_if_eq 57 39 rfl dX1_step_36 rfl h (fun h => ?_) (fun h => ?_)
      · refine x_ldc 59 rfl dX1_step_57 q657 ?_
        cases h
        exact x_iret rfl dX1_step_59
      · refine x_aload_n (i := 0) 40 rfl dX1_step_39 rfl rfl ?_
        refine q_get (k := 8) 43 rfl dX1_step_40 (by decide) q450 rfl ?_
        refine x_iconst (4 : Int32) 44 rfl dX1_step_43 rfl ?_
        refine x_bipush (12 : Int32) 46 rfl dX1_step_44 rfl ?_
        refine x_iload_n (i := 1) 47 rfl dX1_step_46 rfl rfl ?_
        refine x_imul 48 rfl dX1_step_47 ?_
        refine x_iload_n (i := 2) 49 rfl dX1_step_48 rfl rfl ?_
        refine x_iadd 50 rfl dX1_step_49 ?_
        refine x_imul 51 rfl dX1_step_50 ?_
        refine x_iload_n (i := 3) 52 rfl dX1_step_51 rfl rfl ?_
        refine x_iadd 53 rfl dX1_step_52 ?_
        refine q_iald 54 rfl dX1_step_53 h (fun x5 h => ?_)
        refine x_goto 59 dX1_step_54 rfl ?_
        cases h
        exact x_iret rfl dX1_step_59
/-! UnimodularTables.canStep(LUnimodularTables$Table;I)Z -/
theorem ydX1_canStep : xHd yX1_canStep 2 := by decide +kernel
def x_X1_canStep_62 (s0 : Int32) (r : xR) : Option (Int32 × xR) := if s0 = (-1 : Int32) then some ((1 : Int32), r) else some ((0 : Int32), r)
theorem x_X1_canStep_62_ok {ms : xS} {rr : Int32 × xR} {s0 : Int32} {r : xR} (h : x_X1_canStep_62  s0 r = some rr) : xB xLL yX1_canStep cX1_canStep 5 (some .boolean) 4 94 62 [none, none, none, none, none] [(.inl (s0) : xV)] (ms, r) (some (.inl rr.1)) (ms, rr.2) := by
  refine x_iconst (-1 : Int32) 63 rfl dX1_canStep_62 rfl ?_
  refine x_icmp_ne 70 66 rfl dX1_canStep_63 rfl h (fun h => ?_) (fun h => ?_)
  · refine x_iconst (0 : Int32) 71 rfl dX1_canStep_70 rfl ?_
    cases h
    exact x_zret rfl (Or.inl rfl) dX1_canStep_71
  · refine x_iconst (1 : Int32) 67 rfl dX1_canStep_66 rfl ?_
    refine x_goto 71 dX1_canStep_67 rfl ?_
    cases h
    exact x_zret rfl (Or.inr rfl) dX1_canStep_71
def x_X1_canStep (a1 : Nat) (a2 : Int32) (r : xR) : Option (Int32 × xR) := qrd r 4 (a2 + (1 : Int32)) fun x1 => qrd r 4 (a2 + (2 : Int32)) fun x2 => qrd r 4 a2 fun x3 => if x3 = (6 : Int32) then qrd r 4 (a2 + (3 : Int32)) fun x6 => cl (x_X1_whyNotSet ((some (a1))) x1 x2 x6 r) fun q7 => x_X1_canStep_62 q7.1 q7.2 else qrd r 4 a2 fun x4 => cl (x_X1_whyNot ((some (a1))) x4 x1 x2 r) fun q5 => x_X1_canStep_62 q5.1 q5.2
theorem x_X1_canStep_ct {ms : xS} {rr : Int32 × xR} {a1 : Nat} {a2 : Int32} {r : xR} (h : x_X1_canStep a1 a2 r = some rr) : xCt xLL yX1_canStep cX1_canStep 5 (some .boolean) 4 94 [(.inr (.inr (some 300)) : xV), (.inr (.inr (some (a1))) : xV), (.inl (a2) : xV)] (ms, r) (some (.inl rr.1)) (ms, rr.2) := by
  refine xCt.of (lv := [some (.inr (.inr (some 300)) : xV), some (.inr (.inr (some (a1))) : xV), some (.inl (a2) : xV), none, none]) pl_X1 (Nat.le_of_ble_eq_true rfl) (xle.s (xle.s (xle.s (xle.m (xle.m xle.z))))) ?_
  refine x_aload_n (i := 0) 1 rfl dX1_canStep_0 rfl rfl ?_
  refine q_get (k := 8) 4 rfl dX1_canStep_1 (by decide) q450 rfl ?_
  refine x_iload_n (i := 2) 5 rfl dX1_canStep_4 rfl rfl ?_
  refine x_iconst (1 : Int32) 6 rfl dX1_canStep_5 rfl ?_
  refine x_iadd 7 rfl dX1_canStep_6 ?_
  refine q_iald 8 rfl dX1_canStep_7 h (fun x1 h => ?_)
  refine x_istore_n 9 rfl dX1_canStep_8 rfl (by decide) (lv' := [some (.inr (.inr (some 300)) : xV), some (.inr (.inr (some (a1))) : xV), some (.inl (a2) : xV), some (.inl (x1) : xV), none]) rfl ?_
  refine x_aload_n (i := 0) 10 rfl dX1_canStep_9 rfl rfl ?_
  refine q_get (k := 8) 13 rfl dX1_canStep_10 (by decide) q450 rfl ?_
  refine x_iload_n (i := 2) 14 rfl dX1_canStep_13 rfl rfl ?_
  refine x_iconst (2 : Int32) 15 rfl dX1_canStep_14 rfl ?_
  refine x_iadd 16 rfl dX1_canStep_15 ?_
  refine q_iald 17 rfl dX1_canStep_16 h (fun x2 h => ?_)
  refine x_istore 19 rfl dX1_canStep_17 (by decide) (lv' := [some (.inr (.inr (some 300)) : xV), some (.inr (.inr (some (a1))) : xV), some (.inl (a2) : xV), some (.inl (x1) : xV), some (.inl (x2) : xV)]) rfl ?_
  refine x_aload_n (i := 0) 20 rfl dX1_canStep_19 rfl rfl ?_
  refine q_get (k := 8) 23 rfl dX1_canStep_20 (by decide) q450 rfl ?_
  refine x_iload_n (i := 2) 24 rfl dX1_canStep_23 rfl rfl ?_
  refine q_iald 25 rfl dX1_canStep_24 h (fun x3 h => ?_)
  refine x_bipush (6 : Int32) 27 rfl dX1_canStep_25 rfl ?_
  refine x_icmp_ne 48 30 rfl dX1_canStep_27 rfl h (fun h => ?_) (fun h => ?_)
  · refine x_aload_n (i := 0) 49 rfl dX1_canStep_48 rfl rfl ?_
    refine x_aload_n (i := 1) 50 rfl dX1_canStep_49 rfl rfl ?_
    refine x_aload_n (i := 0) 51 rfl dX1_canStep_50 rfl rfl ?_
    refine q_get (k := 8) 54 rfl dX1_canStep_51 (by decide) q450 rfl ?_
    refine x_iload_n (i := 2) 55 rfl dX1_canStep_54 rfl rfl ?_
    refine q_iald 56 rfl dX1_canStep_55 h (fun x4 h => ?_)
    refine x_iload_n (i := 3) 57 rfl dX1_canStep_56 rfl rfl ?_
    refine x_iload (i := 4) 59 rfl dX1_canStep_57 rfl ?_
    refine x_cl h (fun q5 hq h => ?_)
    refine x_callV (as := [(.inr (.inr (some (a1))) : xV), (.inl (x4) : xV), (.inl (x1) : xV), (.inl (x2) : xV)]) (rest := []) (vv := (some (.inl (q5.1) : xV))) (w2 := (ms, q5.2)) (C := RX1) (T := TX1) (N := 34) 62 rfl dX1_canStep_59 (x_X1_whyNot_ct hq) (Or.inl xcell_X0) rfl (lw_V q714 q716 qs16 q118 q717) rfl ydX1_whyNot rfl ⟨Nat.le_of_ble_eq_true rfl, Nat.le_of_ble_eq_true rfl⟩ (Nat.le_of_ble_eq_true rfl) rfl ?_
    change xB xLL yX1_canStep cX1_canStep 5 (some .boolean) 4 94 62 [some (.inr (.inr (some 300)) : xV), some (.inr (.inr (some (a1))) : xV), some (.inl (a2) : xV), some (.inl (x1) : xV), some (.inl (x2) : xV)] [(.inl (q5.1) : xV)] (ms, q5.2) _ _
    exact xB.le (xle.n (xle.n (xle.n (xle.n (xle.n xle.z))))) (x_X1_canStep_62_ok h)
  · refine x_aload_n (i := 1) 31 rfl dX1_canStep_30 rfl rfl ?_
    refine x_iload_n (i := 3) 32 rfl dX1_canStep_31 rfl rfl ?_
    refine x_iload (i := 4) 34 rfl dX1_canStep_32 rfl ?_
    refine x_aload_n (i := 0) 35 rfl dX1_canStep_34 rfl rfl ?_
    refine q_get (k := 8) 38 rfl dX1_canStep_35 (by decide) q450 rfl ?_
    refine x_iload_n (i := 2) 39 rfl dX1_canStep_38 rfl rfl ?_
    refine x_iconst (3 : Int32) 40 rfl dX1_canStep_39 rfl ?_
    refine x_iadd 41 rfl dX1_canStep_40 ?_
    refine q_iald 42 rfl dX1_canStep_41 h (fun x6 h => ?_)
    refine x_cl h (fun q7 hq h => ?_)
    refine x_callS (as := [(.inr (.inr (some (a1))) : xV), (.inl (x1) : xV), (.inl (x2) : xV), (.inl (x6) : xV)]) (rest := []) (vv := (some (.inl (q7.1) : xV))) (w2 := (ms, q7.2)) 45 rfl dX1_canStep_42 (x_X1_whyNotSet_ct hq) (lw_S q683 q684 q118 q685) ydX1_whyNotSet rfl ⟨Nat.le_of_ble_eq_true rfl, Nat.le_of_ble_eq_true rfl⟩ (Nat.le_of_ble_eq_true rfl) rfl ?_
    change xB xLL yX1_canStep cX1_canStep 5 (some .boolean) 4 94 45 [some (.inr (.inr (some 300)) : xV), some (.inr (.inr (some (a1))) : xV), some (.inl (a2) : xV), some (.inl (x1) : xV), some (.inl (x2) : xV)] [(.inl (q7.1) : xV)] (ms, q7.2) _ _
    refine x_goto 62 dX1_canStep_45 rfl ?_
    exact xB.le (xle.n (xle.n (xle.n (xle.n (xle.n xle.z))))) (x_X1_canStep_62_ok h)
/-! UnimodularTables.stepped(LUnimodularTables$Table;I)LUnimodularTables$Table; -/
theorem ydX1_stepped : xHd yX1_stepped 2 := by decide +kernel
def x_X1_stepped (a1 : Nat) (a2 : Int32) (r : xR) : Option (Nat × xR) := qrd r 4 (a2 + (1 : Int32)) fun x1 => qrd r 4 (a2 + (2 : Int32)) fun x2 => qrd r 4 a2 fun x3 => if x3 = (6 : Int32) then dcl xLL r a1 2 <| cl (d_X4_copied xLL a1 r) fun q4 => dgr xLL q4.2 q4.1 2 2 fun p5 => nn p5 fun p6 => dar xLL q4.2 p6 x1 fun p7 => qrd q4.2 4 (a2 + (3 : Int32)) fun x8 => nn p7 fun p9 => daw xLL q4.2 p9 x2 x8 fun r10 => some (q4.1, r10) else qrd r 4 a2 fun x11 => dar xLL r 376 x11 fun p12 => nn p12 fun p13 => cl (ltn xLL r p13 a1 x1 x2) fun q14 => some (q14.1, q14.2)
theorem x_X1_stepped_ct {ms : xS} {rr : Nat × xR} {a1 : Nat} {a2 : Int32} {r : xR} (h : x_X1_stepped a1 a2 r = some rr) : xCt xLL yX1_stepped cX1_stepped 6 (some (.object "UnimodularTables$Table")) 7 177 [(.inr (.inr (some 300)) : xV), (.inr (.inr (some (a1))) : xV), (.inl (a2) : xV)] (ms, r) (some (.inr (.inr (some rr.1)))) (ms, rr.2) := by
  refine xCt.of (lv := [some (.inr (.inr (some 300)) : xV), some (.inr (.inr (some (a1))) : xV), some (.inl (a2) : xV), none, none, none]) pl_X1 (Nat.le_of_ble_eq_true rfl) (xle.s (xle.s (xle.s (xle.m (xle.m (xle.m xle.z)))))) ?_
  refine x_aload_n (i := 0) 1 rfl dX1_stepped_0 rfl rfl ?_
  refine q_get (k := 8) 4 rfl dX1_stepped_1 (by decide) q450 rfl ?_
  refine x_iload_n (i := 2) 5 rfl dX1_stepped_4 rfl rfl ?_
  refine x_iconst (1 : Int32) 6 rfl dX1_stepped_5 rfl ?_
  refine x_iadd 7 rfl dX1_stepped_6 ?_
  refine q_iald 8 rfl dX1_stepped_7 h (fun x1 h => ?_)
  refine x_istore_n 9 rfl dX1_stepped_8 rfl (by decide) (lv' := [some (.inr (.inr (some 300)) : xV), some (.inr (.inr (some (a1))) : xV), some (.inl (a2) : xV), some (.inl (x1) : xV), none, none]) rfl ?_
  refine x_aload_n (i := 0) 10 rfl dX1_stepped_9 rfl rfl ?_
  refine q_get (k := 8) 13 rfl dX1_stepped_10 (by decide) q450 rfl ?_
  refine x_iload_n (i := 2) 14 rfl dX1_stepped_13 rfl rfl ?_
  refine x_iconst (2 : Int32) 15 rfl dX1_stepped_14 rfl ?_
  refine x_iadd 16 rfl dX1_stepped_15 ?_
  refine q_iald 17 rfl dX1_stepped_16 h (fun x2 h => ?_)
  refine x_istore 19 rfl dX1_stepped_17 (by decide) (lv' := [some (.inr (.inr (some 300)) : xV), some (.inr (.inr (some (a1))) : xV), some (.inl (a2) : xV), some (.inl (x1) : xV), some (.inl (x2) : xV), none]) rfl ?_
  refine x_aload_n (i := 0) 20 rfl dX1_stepped_19 rfl rfl ?_
  refine q_get (k := 8) 23 rfl dX1_stepped_20 (by decide) q450 rfl ?_
  refine x_iload_n (i := 2) 24 rfl dX1_stepped_23 rfl rfl ?_
  refine q_iald 25 rfl dX1_stepped_24 h (fun x3 h => ?_)
  refine x_bipush (6 : Int32) 27 rfl dX1_stepped_25 rfl ?_
  refine x_icmp_eq 51 30 rfl dX1_stepped_27 rfl h (fun h => ?_) (fun h => ?_)
  · refine x_aload_n (i := 1) 52 rfl dX1_stepped_51 rfl rfl ?_
    refine x_dcl (ms := ms) h (fun V9 hc h => ?_)
    refine x_cl h (fun q4 hq h => ?_)
    refine x_callV (as := []) (rest := []) (vv := (some (.inr (.inr (some (q4.1))) : xV))) (w2 := (ms, q4.2)) (C := RX4) (T := TX4) (N := 3) 55 rfl dX1_stepped_52 (d_X4_copied_ct hq) hc rfl (lw_V q416 q417 q418 q129 q419) rfl ydX4_copied rfl ⟨Nat.le_of_ble_eq_true rfl, Nat.le_of_ble_eq_true rfl⟩ (Nat.le_of_ble_eq_true rfl) rfl ?_
    change xB xLL yX1_stepped cX1_stepped 6 (some (.object "UnimodularTables$Table")) 7 177 55 [some (.inr (.inr (some 300)) : xV), some (.inr (.inr (some (a1))) : xV), some (.inl (a2) : xV), some (.inl (x1) : xV), some (.inl (x2) : xV), none] [(.inr (.inr (some (q4.1))) : xV)] (ms, q4.2) _ _
    refine x_astore 57 rfl dX1_stepped_55 (by decide) (lv' := [some (.inr (.inr (some 300)) : xV), some (.inr (.inr (some (a1))) : xV), some (.inl (a2) : xV), some (.inl (x1) : xV), some (.inl (x2) : xV), some (.inr (.inr (some (q4.1))) : xV)]) rfl ?_
    refine x_aload (i := 5) 59 rfl dX1_stepped_57 rfl ?_
    refine d_getrN (ci := 2) (k := 2) (C := RX4) (T := TX4) (N := 3) 62 rfl dX1_stepped_59 rfl in_X4 (by decide) (List.mem_of_getElem? (i := 9) rfl) h (fun p5 h => ?_)
    refine x_iload_n (i := 3) 63 rfl dX1_stepped_62 rfl rfl ?_
    refine x_nnP (P := fun p5 => xB xLL yX1_stepped cX1_stepped 6 (some (.object "UnimodularTables$Table")) 7 177 63 [some (.inr (.inr (some 300)) : xV), some (.inr (.inr (some (a1))) : xV), some (.inl (a2) : xV), some (.inl (x1) : xV), some (.inl (x2) : xV), some (.inr (.inr (some (q4.1))) : xV)] [(.inl (x1) : xV), (.inr (.inr (p5)) : xV)] (ms, q4.2) (some (.inr (.inr (some rr.1)))) (ms, rr.2)) h (fun p6 h => ?_)
    refine d_aald 64 rfl dX1_stepped_63 h (fun p7 h => ?_)
    refine x_iload (i := 4) 66 rfl dX1_stepped_64 rfl ?_
    refine x_aload_n (i := 0) 67 rfl dX1_stepped_66 rfl rfl ?_
    refine q_get (k := 8) 70 rfl dX1_stepped_67 (by decide) q450 rfl ?_
    refine x_iload_n (i := 2) 71 rfl dX1_stepped_70 rfl rfl ?_
    refine x_iconst (3 : Int32) 72 rfl dX1_stepped_71 rfl ?_
    refine x_iadd 73 rfl dX1_stepped_72 ?_
    refine q_iald 74 rfl dX1_stepped_73 h (fun x8 h => ?_)
    refine x_nnP (P := fun p7 => xB xLL yX1_stepped cX1_stepped 6 (some (.object "UnimodularTables$Table")) 7 177 74 [some (.inr (.inr (some 300)) : xV), some (.inr (.inr (some (a1))) : xV), some (.inl (a2) : xV), some (.inl (x1) : xV), some (.inl (x2) : xV), some (.inr (.inr (some (q4.1))) : xV)] [(.inl (x8) : xV), (.inl (x2) : xV), (.inr (.inr (p7)) : xV)] (ms, q4.2) (some (.inr (.inr (some rr.1)))) (ms, rr.2)) h (fun p9 h => ?_)
    refine d_iast 75 rfl dX1_stepped_74 h (fun r10 h => ?_)
    refine x_aload (i := 5) 77 rfl dX1_stepped_75 rfl ?_
    cases h
    exact x_aret rfl (Or.inl ⟨_, rfl⟩) dX1_stepped_77
  · refine x_aload_n (i := 0) 31 rfl dX1_stepped_30 rfl rfl ?_
    refine q_get (k := 0) 34 rfl dX1_stepped_31 (by decide) q442 rfl ?_
    refine x_aload_n (i := 0) 35 rfl dX1_stepped_34 rfl rfl ?_
    refine q_get (k := 8) 38 rfl dX1_stepped_35 (by decide) q450 rfl ?_
    refine x_iload_n (i := 2) 39 rfl dX1_stepped_38 rfl rfl ?_
    refine q_iald 40 rfl dX1_stepped_39 h (fun x11 h => ?_)
    refine d_aald 41 rfl dX1_stepped_40 h (fun p12 h => ?_)
    refine x_aload_n (i := 1) 42 rfl dX1_stepped_41 rfl rfl ?_
    refine x_iload_n (i := 3) 43 rfl dX1_stepped_42 rfl rfl ?_
    refine x_iload (i := 4) 45 rfl dX1_stepped_43 rfl ?_
    refine x_nnP (P := fun p12 => xB xLL yX1_stepped cX1_stepped 6 (some (.object "UnimodularTables$Table")) 7 177 45 [some (.inr (.inr (some 300)) : xV), some (.inr (.inr (some (a1))) : xV), some (.inl (a2) : xV), some (.inl (x1) : xV), some (.inl (x2) : xV), none] [(.inl (x2) : xV), (.inl (x1) : xV), (.inr (.inr (some (a1))) : xV), (.inr (.inr (p12)) : xV)] (ms, r) (some (.inr (.inr (some rr.1)))) (ms, rr.2)) h (fun p13 h => ?_)
    refine x_cl h (fun q14 hq h => ?_)
    refine x_turn [] 50 rfl dX1_stepped_45 q437 hq ⟨Nat.le_of_ble_eq_true rfl, Nat.le_of_ble_eq_true rfl⟩ (Nat.le_of_ble_eq_true rfl) ?_
    cases h
    exact x_aret rfl (Or.inl ⟨_, rfl⟩) dX1_stepped_50
/-! UnimodularTables.run(II)I -/
theorem ydX1_run : xHd yX1_run 2 := by decide +kernel
def x_X1_run_90 (a1 : Int32) (a2 : Int32) (a3 : Option Nat) (a4 : Int32) (r : xR) : Option (Int32 × xR) := if a2 = (1 : Int32) then nn a3 fun p2 => cl (x_X1_isTotal p2 r) fun q3 => if q3.1 = 0 then some ((0 : Int32), q3.2) else some ((1 : Int32), q3.2) else qrd r 5 a1 fun x1 => if a4 = x1 then some ((-1 : Int32), r) else some (a4, r)
theorem x_X1_run_90_ok {ms : xS} {rr : Int32 × xR} {a1 : Int32} {a2 : Int32} {a3 : Option Nat} {a4 : Int32} {r : xR} (h : x_X1_run_90  a1 a2 a3 a4 r = some rr) : xB xLL yX1_run cX1_run 5 (some .int) 8 3110 90 [some (.inr (.inr (some 300)) : xV), some (.inl (a1) : xV), some (.inl (a2) : xV), some (.inr (.inr (a3)) : xV), some (.inl (a4) : xV)] [] (ms, r) (some (.inl rr.1)) (ms, rr.2) := by
  refine x_iload_n (i := 2) 91 rfl dX1_run_90 rfl rfl ?_
  refine x_iconst (1 : Int32) 92 rfl dX1_run_91 rfl ?_
  refine x_icmp_ne 111 95 rfl dX1_run_92 rfl h (fun h => ?_) (fun h => ?_)
  · refine x_iload (i := 4) 113 rfl dX1_run_111 rfl ?_
    refine x_aload_n (i := 0) 114 rfl dX1_run_113 rfl rfl ?_
    refine q_get (k := 9) 117 rfl dX1_run_114 (by decide) q451 rfl ?_
    refine x_iload_n (i := 1) 118 rfl dX1_run_117 rfl rfl ?_
    refine q_iald 119 rfl dX1_run_118 h (fun x1 h => ?_)
    refine x_icmp_ne 126 122 rfl dX1_run_119 rfl h (fun h => ?_) (fun h => ?_)
    · refine x_iload (i := 4) 128 rfl dX1_run_126 rfl ?_
      cases h
      exact x_iret rfl dX1_run_128
    · refine x_iconst (-1 : Int32) 123 rfl dX1_run_122 rfl ?_
      refine x_goto 128 dX1_run_123 rfl ?_
      cases h
      exact x_iret rfl dX1_run_128
  · refine x_aload_n (i := 0) 96 rfl dX1_run_95 rfl rfl ?_
    refine x_aload_n (i := 3) 97 rfl dX1_run_96 rfl rfl ?_
    refine x_nnP (P := fun a3 => xB xLL yX1_run cX1_run 5 (some .int) 8 3110 97 [some (.inr (.inr (some 300)) : xV), some (.inl (a1) : xV), some (.inl (a2) : xV), some (.inr (.inr (a3)) : xV), some (.inl (a4) : xV)] [(.inr (.inr (a3)) : xV), (.inr (.inr (some 300)) : xV)] (ms, r) (some (.inl rr.1)) (ms, rr.2)) h (fun p2 h => ?_)
    refine x_cl h (fun q3 hq h => ?_)
    refine x_callV (as := [(.inr (.inr (some (p2))) : xV)]) (rest := []) (vv := (some (.inl (q3.1) : xV))) (w2 := (ms, q3.2)) (C := RX1) (T := TX1) (N := 34) 100 rfl dX1_run_97 (x_X1_isTotal_ct hq) (Or.inl xcell_X0) rfl (lw_V q1635 q914 qs29 q118 q915) rfl ydX1_isTotal rfl ⟨Nat.le_of_ble_eq_true rfl, Nat.le_of_ble_eq_true rfl⟩ (Nat.le_of_ble_eq_true rfl) rfl ?_
    change xB xLL yX1_run cX1_run 5 (some .int) 8 3110 100 [some (.inr (.inr (some 300)) : xV), some (.inl (a1) : xV), some (.inl (a2) : xV), some (.inr (.inr (some (p2))) : xV), some (.inl (a4) : xV)] [(.inl (q3.1) : xV)] (ms, q3.2) _ _
    refine x_if_eq 107 103 rfl dX1_run_100 rfl h (fun h => ?_) (fun h => ?_)
    · refine x_iconst (0 : Int32) 108 rfl dX1_run_107 rfl ?_
      refine x_goto 128 dX1_run_108 rfl ?_
      cases h
      exact x_iret rfl dX1_run_128
    · refine x_iconst (1 : Int32) 104 rfl dX1_run_103 rfl ?_
      refine x_goto 128 dX1_run_104 rfl ?_
      cases h
      exact x_iret rfl dX1_run_128
def x_X1_run_41_s (rec41 : Int32 → Int32 → Option Nat → Int32 → xR → Option (Int32 × xR)) (a1 : Int32) (a2 : Int32) (a3 : Option Nat) (a4 : Int32) (r : xR) : Option (Int32 × xR) := qrd r 5 a1 fun x4 => if x4 ≤ a4 then x_X1_run_90 a1 a2 a3 a4 r else nn a3 fun p5 => cl (x_X1_canStep p5 ((4 : Int32) * (((12 : Int32) * a1) + a4)) r) fun q6 => if q6.1 = 0 then x_X1_run_90 a1 a2 (some (p5)) a4 q6.2 else cl (x_X1_stepped p5 ((4 : Int32) * (((12 : Int32) * a1) + a4)) q6.2) fun q7 => lt (a4 + (1 : Int32)) fun x8 => rec41 a1 a2 (some (q7.1)) x8 q7.2
theorem x_X1_run_41_s_ok {ms : xS} {rr : Int32 × xR} {rec41 : Int32 → Int32 → Option Nat → Int32 → xR → Option (Int32 × xR)} (hr41 : ∀ {a1 : Int32} {a2 : Int32} {a3 : Option Nat} {a4 : Int32} {r : xR}, rec41 a1 a2 a3 a4 r = some rr → xB xLL yX1_run cX1_run 5 (some .int) 8 3110 41 [some (.inr (.inr (some 300)) : xV), some (.inl (a1) : xV), some (.inl (a2) : xV), some (.inr (.inr (a3)) : xV), some (.inl (a4) : xV)] [] (ms, r) (some (.inl rr.1)) (ms, rr.2)) {a1 : Int32} {a2 : Int32} {a3 : Option Nat} {a4 : Int32} {r : xR} (h : x_X1_run_41_s rec41 a1 a2 a3 a4 r = some rr) : xB xLL yX1_run cX1_run 5 (some .int) 8 3110 41 [some (.inr (.inr (some 300)) : xV), some (.inl (a1) : xV), some (.inl (a2) : xV), some (.inr (.inr (a3)) : xV), some (.inl (a4) : xV)] [] (ms, r) (some (.inl rr.1)) (ms, rr.2) := by
  refine x_iload (i := 4) 43 rfl dX1_run_41 rfl ?_
  refine x_aload_n (i := 0) 44 rfl dX1_run_43 rfl rfl ?_
  refine q_get (k := 9) 47 rfl dX1_run_44 (by decide) q451 rfl ?_
  refine x_iload_n (i := 1) 48 rfl dX1_run_47 rfl rfl ?_
  refine q_iald 49 rfl dX1_run_48 h (fun x4 h => ?_)
  refine x_icmp_ge 90 52 rfl dX1_run_49 rfl h (fun h => ?_) (fun h => ?_)
  · exact xB.le (xle.s (xle.s (xle.s (xle.s (xle.s xle.z))))) (x_X1_run_90_ok h)
  · refine x_aload_n (i := 0) 53 rfl dX1_run_52 rfl rfl ?_
    refine x_aload_n (i := 3) 54 rfl dX1_run_53 rfl rfl ?_
    refine x_iconst (4 : Int32) 55 rfl dX1_run_54 rfl ?_
    refine x_bipush (12 : Int32) 57 rfl dX1_run_55 rfl ?_
    refine x_iload_n (i := 1) 58 rfl dX1_run_57 rfl rfl ?_
    refine x_imul 59 rfl dX1_run_58 ?_
    refine x_iload (i := 4) 61 rfl dX1_run_59 rfl ?_
    refine x_iadd 62 rfl dX1_run_61 ?_
    refine x_imul 63 rfl dX1_run_62 ?_
    refine x_nnP (P := fun a3 => xB xLL yX1_run cX1_run 5 (some .int) 8 3110 63 [some (.inr (.inr (some 300)) : xV), some (.inl (a1) : xV), some (.inl (a2) : xV), some (.inr (.inr (a3)) : xV), some (.inl (a4) : xV)] [(.inl ((4 : Int32) * (((12 : Int32) * a1) + a4)) : xV), (.inr (.inr (a3)) : xV), (.inr (.inr (some 300)) : xV)] (ms, r) (some (.inl rr.1)) (ms, rr.2)) h (fun p5 h => ?_)
    refine x_cl h (fun q6 hq h => ?_)
    refine x_callV (as := [(.inr (.inr (some (p5))) : xV), (.inl ((4 : Int32) * (((12 : Int32) * a1) + a4)) : xV)]) (rest := []) (vv := (some (.inl (q6.1) : xV))) (w2 := (ms, q6.2)) (C := RX1) (T := TX1) (N := 34) 66 rfl dX1_run_63 (x_X1_canStep_ct hq) (Or.inl xcell_X0) rfl (lw_V q1747 q1749 qs62 q118 q1750) rfl ydX1_canStep rfl ⟨Nat.le_of_ble_eq_true rfl, Nat.le_of_ble_eq_true rfl⟩ (Nat.le_of_ble_eq_true rfl) rfl ?_
    change xB xLL yX1_run cX1_run 5 (some .int) 8 3110 66 [some (.inr (.inr (some 300)) : xV), some (.inl (a1) : xV), some (.inl (a2) : xV), some (.inr (.inr (some (p5))) : xV), some (.inl (a4) : xV)] [(.inl (q6.1) : xV)] (ms, q6.2) _ _
    refine x_if_eq 90 69 rfl dX1_run_66 rfl h (fun h => ?_) (fun h => ?_)
    · exact xB.le (xle.s (xle.s (xle.s (xle.s (xle.s xle.z))))) (x_X1_run_90_ok h)
    · refine x_aload_n (i := 0) 70 rfl dX1_run_69 rfl rfl ?_
      refine x_aload_n (i := 3) 71 rfl dX1_run_70 rfl rfl ?_
      refine x_iconst (4 : Int32) 72 rfl dX1_run_71 rfl ?_
      refine x_bipush (12 : Int32) 74 rfl dX1_run_72 rfl ?_
      refine x_iload_n (i := 1) 75 rfl dX1_run_74 rfl rfl ?_
      refine x_imul 76 rfl dX1_run_75 ?_
      refine x_iload (i := 4) 78 rfl dX1_run_76 rfl ?_
      refine x_iadd 79 rfl dX1_run_78 ?_
      refine x_imul 80 rfl dX1_run_79 ?_
      refine x_cl h (fun q7 hq h => ?_)
      refine x_callV (as := [(.inr (.inr (some (p5))) : xV), (.inl ((4 : Int32) * (((12 : Int32) * a1) + a4)) : xV)]) (rest := []) (vv := (some (.inr (.inr (some (q7.1))) : xV))) (w2 := (ms, q7.2)) (C := RX1) (T := TX1) (N := 34) 83 rfl dX1_run_80 (x_X1_stepped_ct hq) (Or.inl xcell_X0) rfl (lw_V q1751 q1753 qs63 q118 q1754) rfl ydX1_stepped rfl ⟨Nat.le_of_ble_eq_true rfl, Nat.le_of_ble_eq_true rfl⟩ (Nat.le_of_ble_eq_true rfl) rfl ?_
      change xB xLL yX1_run cX1_run 5 (some .int) 8 3110 83 [some (.inr (.inr (some 300)) : xV), some (.inl (a1) : xV), some (.inl (a2) : xV), some (.inr (.inr (some (p5))) : xV), some (.inl (a4) : xV)] [(.inr (.inr (some (q7.1))) : xV)] (ms, q7.2) _ _
      refine x_astore_n 84 rfl dX1_run_83 rfl (by decide) (lv' := [some (.inr (.inr (some 300)) : xV), some (.inl (a1) : xV), some (.inl (a2) : xV), some (.inr (.inr (some (q7.1))) : xV), some (.inl (a4) : xV)]) rfl ?_
      refine x_iincL (i := 4) (1 : Int32) 87 rfl dX1_run_84 rfl rfl (by decide) h (fun x8 h => ?_)
      change xB xLL yX1_run cX1_run 5 (some .int) 8 3110 87 [some (.inr (.inr (some 300)) : xV), some (.inl (a1) : xV), some (.inl (a2) : xV), some (.inr (.inr (some (q7.1))) : xV), some (.inl (x8) : xV)] [] (ms, q7.2) _ _
      refine x_goto 41 dX1_run_87 rfl ?_
      exact xB.le (xle.s (xle.s (xle.s (xle.s (xle.s xle.z))))) (hr41 h)
def x_X1_run_41_L : Nat → Int32 → Int32 → Option Nat → Int32 → xR → Option (Int32 × xR)
  | 0 => fun _ _ _ _ _ => none
  | n + 1 => x_X1_run_41_s (x_X1_run_41_L  n)
theorem x_X1_run_41_L_ok {ms : xS} {rr : Int32 × xR} : ∀ (n9 : Nat) {a1 : Int32} {a2 : Int32} {a3 : Option Nat} {a4 : Int32} {r : xR}, x_X1_run_41_L  n9 a1 a2 a3 a4 r = some rr → xB xLL yX1_run cX1_run 5 (some .int) 8 3110 41 [some (.inr (.inr (some 300)) : xV), some (.inl (a1) : xV), some (.inl (a2) : xV), some (.inr (.inr (a3)) : xV), some (.inl (a4) : xV)] [] (ms, r) (some (.inl rr.1)) (ms, rr.2)
  | 0, _, _, _, _, _, h => by cases h
  | n9 + 1, _, _, _, _, _, h => x_X1_run_41_s_ok (x_X1_run_41_L_ok  n9) h
def x_X1_run (a1 : Int32) (a2 : Int32) (r : xR) : Option (Int32 × xR) := lt (r.1.2.2 0 11) fun p9 => nu p9 (some ((-1000000 : Int32), r)) fun p10 => cl (p_X1_in a1 (0 : Int32) ((r.1.1 0 10) - (1 : Int32))) fun q11 => if q11 = 0 then some ((-1000000 : Int32), r) else cl (p_X1_in a2 (0 : Int32) (1 : Int32)) fun q12 => if q12 = 0 then some ((-1000000 : Int32), r) else lt (r.1.2.2 0 11) fun p13 => lt ((0 : Int32)) fun x14 => x_X1_run_41_L xFU a1 a2 p13 x14 r
theorem x_X1_run_ct {ms : xS} {rr : Int32 × xR} {a1 : Int32} {a2 : Int32} {r : xR} (h : x_X1_run a1 a2 r = some rr) : xCt xLL yX1_run cX1_run 5 (some .int) 8 3110 [(.inr (.inr (some 300)) : xV), (.inl (a1) : xV), (.inl (a2) : xV)] (ms, r) (some (.inl rr.1)) (ms, rr.2) := by
  refine xCt.of (lv := [some (.inr (.inr (some 300)) : xV), some (.inl (a1) : xV), some (.inl (a2) : xV), none, none]) pl_X1 (Nat.le_of_ble_eq_true rfl) (xle.s (xle.s (xle.s (xle.m (xle.m xle.z))))) ?_
  refine x_aload_n (i := 0) 1 rfl dX1_run_0 rfl rfl ?_
  refine q_get (k := 11) 4 rfl dX1_run_1 (by decide) q453 rfl ?_
  refine x_ltr h (fun p9 h => ?_)
  refine x_nulP (lv := fun p9 => [some (.inr (.inr (some 300)) : xV), some (.inl (a1) : xV), some (.inl (a2) : xV), none, none]) (st := fun p9 => []) 30 7 rfl dX1_run_4 rfl h (fun h => ?_) (fun p10 h => ?_)
  · refine x_ldc 32 rfl dX1_run_30 q657 ?_
    cases h
    exact x_iret rfl dX1_run_32
  · refine x_iload_n (i := 1) 8 rfl dX1_run_7 rfl rfl ?_
    refine x_iconst (0 : Int32) 9 rfl dX1_run_8 rfl ?_
    refine x_aload_n (i := 0) 10 rfl dX1_run_9 rfl rfl ?_
    refine q_get (k := 10) 13 rfl dX1_run_10 (by decide) q452 rfl ?_
    refine x_iconst (1 : Int32) 14 rfl dX1_run_13 rfl ?_
    refine x_isub 15 rfl dX1_run_14 ?_
    refine x_cl h (fun q11 hq h => ?_)
    refine x_callS (as := [(.inl (a1) : xV), (.inl ((0 : Int32)) : xV), (.inl ((r.1.1 0 10) - (1 : Int32)) : xV)]) (rest := []) (vv := (some (.inl (q11) : xV))) (w2 := (ms, r)) 18 rfl dX1_run_15 (p_X1_in_ct hq) (lw_S q556 q557 q118 q558) ydX1_in rfl ⟨Nat.le_of_ble_eq_true rfl, Nat.le_of_ble_eq_true rfl⟩ (Nat.le_of_ble_eq_true rfl) rfl ?_
    change xB xLL yX1_run cX1_run 5 (some .int) 8 3110 18 [some (.inr (.inr (some 300)) : xV), some (.inl (a1) : xV), some (.inl (a2) : xV), none, none] [(.inl (q11) : xV)] (ms, r) _ _
    refine x_if_eq 30 21 rfl dX1_run_18 rfl h (fun h => ?_) (fun h => ?_)
    · refine x_ldc 32 rfl dX1_run_30 q657 ?_
      cases h
      exact x_iret rfl dX1_run_32
    · refine x_iload_n (i := 2) 22 rfl dX1_run_21 rfl rfl ?_
      refine x_iconst (0 : Int32) 23 rfl dX1_run_22 rfl ?_
      refine x_iconst (1 : Int32) 24 rfl dX1_run_23 rfl ?_
      refine x_cl h (fun q12 hq h => ?_)
      refine x_callS (as := [(.inl (a2) : xV), (.inl ((0 : Int32)) : xV), (.inl ((1 : Int32)) : xV)]) (rest := []) (vv := (some (.inl (q12) : xV))) (w2 := (ms, r)) 27 rfl dX1_run_24 (p_X1_in_ct hq) (lw_S q556 q557 q118 q558) ydX1_in rfl ⟨Nat.le_of_ble_eq_true rfl, Nat.le_of_ble_eq_true rfl⟩ (Nat.le_of_ble_eq_true rfl) rfl ?_
      change xB xLL yX1_run cX1_run 5 (some .int) 8 3110 27 [some (.inr (.inr (some 300)) : xV), some (.inl (a1) : xV), some (.inl (a2) : xV), none, none] [(.inl (q12) : xV)] (ms, r) _ _
      refine x_if_ne 33 30 rfl dX1_run_27 rfl h (fun h => ?_) (fun h => ?_)
      · refine x_aload_n (i := 0) 34 rfl dX1_run_33 rfl rfl ?_
        refine q_get (k := 11) 37 rfl dX1_run_34 (by decide) q453 rfl ?_
        refine x_ltr h (fun p13 h => ?_)
        refine x_astore_n 38 rfl dX1_run_37 rfl (by decide) (lv' := [some (.inr (.inr (some 300)) : xV), some (.inl (a1) : xV), some (.inl (a2) : xV), some (.inr (.inr (p13)) : xV), none]) rfl ?_
        refine x_iconst (0 : Int32) 39 rfl dX1_run_38 rfl ?_
        refine x_lti h (fun x14 h => ?_)
        refine x_istore 41 rfl dX1_run_39 (by decide) (lv' := [some (.inr (.inr (some 300)) : xV), some (.inl (a1) : xV), some (.inl (a2) : xV), some (.inr (.inr (p13)) : xV), some (.inl (x14) : xV)]) rfl ?_
        exact xB.le (xle.s (xle.s (xle.s (xle.s (xle.s xle.z))))) (x_X1_run_41_L_ok xFU h)
      · refine x_ldc 32 rfl dX1_run_30 q657 ?_
        cases h
        exact x_iret rfl dX1_run_32
/-! UnimodularTables.perform(I)I -/
theorem ydX1_perform : xHd yX1_perform 1 := by decide +kernel
def x_X1_perform_25_s (rec25 : Int32 → Int32 → xR → Option (Int32 × xR)) (a1 : Int32) (a2 : Int32) (r : xR) : Option (Int32 × xR) := qrd r 5 a1 fun x1 => if x1 ≤ a2 then some (a2, r) else lt (r.1.2.2 0 11) fun p2 => nn p2 fun p3 => cl (x_X1_canStep p3 ((4 : Int32) * (((12 : Int32) * a1) + a2)) r) fun q4 => if q4.1 = 0 then some (a2, q4.2) else lt (q4.2.1.2.2 0 11) fun p5 => nn p5 fun p6 => cl (x_X1_stepped p6 ((4 : Int32) * (((12 : Int32) * a1) + a2)) q4.2) fun q7 => cl (x_X1_act ((some (q7.1))) q7.2) fun q8 => lt (a2 + (1 : Int32)) fun x9 => rec25 a1 x9 q8
theorem x_X1_perform_25_s_ok {ms : xS} {rr : Int32 × xR} {rec25 : Int32 → Int32 → xR → Option (Int32 × xR)} (hr25 : ∀ {a1 : Int32} {a2 : Int32} {r : xR}, rec25 a1 a2 r = some rr → xB xLL yX1_perform cX1_perform 3 (some .int) 8 3111 25 [some (.inr (.inr (some 300)) : xV), some (.inl (a1) : xV), some (.inl (a2) : xV)] [] (ms, r) (some (.inl rr.1)) (ms, rr.2)) {a1 : Int32} {a2 : Int32} {r : xR} (h : x_X1_perform_25_s rec25 a1 a2 r = some rr) : xB xLL yX1_perform cX1_perform 3 (some .int) 8 3111 25 [some (.inr (.inr (some 300)) : xV), some (.inl (a1) : xV), some (.inl (a2) : xV)] [] (ms, r) (some (.inl rr.1)) (ms, rr.2) := by
  refine x_iload_n (i := 2) 26 rfl dX1_perform_25 rfl rfl ?_
  refine x_aload_n (i := 0) 27 rfl dX1_perform_26 rfl rfl ?_
  refine q_get (k := 9) 30 rfl dX1_perform_27 (by decide) q451 rfl ?_
  refine x_iload_n (i := 1) 31 rfl dX1_perform_30 rfl rfl ?_
  refine q_iald 32 rfl dX1_perform_31 h (fun x1 h => ?_)
  refine x_icmp_ge 80 35 rfl dX1_perform_32 rfl h (fun h => ?_) (fun h => ?_)
  · refine x_iload_n (i := 2) 81 rfl dX1_perform_80 rfl rfl ?_
    cases h
    exact x_iret rfl dX1_perform_81
  · refine x_aload_n (i := 0) 36 rfl dX1_perform_35 rfl rfl ?_
    refine x_aload_n (i := 0) 37 rfl dX1_perform_36 rfl rfl ?_
    refine q_get (k := 11) 40 rfl dX1_perform_37 (by decide) q453 rfl ?_
    refine x_ltr h (fun p2 h => ?_)
    refine x_iconst (4 : Int32) 41 rfl dX1_perform_40 rfl ?_
    refine x_bipush (12 : Int32) 43 rfl dX1_perform_41 rfl ?_
    refine x_iload_n (i := 1) 44 rfl dX1_perform_43 rfl rfl ?_
    refine x_imul 45 rfl dX1_perform_44 ?_
    refine x_iload_n (i := 2) 46 rfl dX1_perform_45 rfl rfl ?_
    refine x_iadd 47 rfl dX1_perform_46 ?_
    refine x_imul 48 rfl dX1_perform_47 ?_
    refine x_nnP (P := fun p2 => xB xLL yX1_perform cX1_perform 3 (some .int) 8 3111 48 [some (.inr (.inr (some 300)) : xV), some (.inl (a1) : xV), some (.inl (a2) : xV)] [(.inl ((4 : Int32) * (((12 : Int32) * a1) + a2)) : xV), (.inr (.inr (p2)) : xV), (.inr (.inr (some 300)) : xV)] (ms, r) (some (.inl rr.1)) (ms, rr.2)) h (fun p3 h => ?_)
    refine x_cl h (fun q4 hq h => ?_)
    refine x_callV (as := [(.inr (.inr (some (p3))) : xV), (.inl ((4 : Int32) * (((12 : Int32) * a1) + a2)) : xV)]) (rest := []) (vv := (some (.inl (q4.1) : xV))) (w2 := (ms, q4.2)) (C := RX1) (T := TX1) (N := 34) 51 rfl dX1_perform_48 (x_X1_canStep_ct hq) (Or.inl xcell_X0) rfl (lw_V q1747 q1749 qs62 q118 q1750) rfl ydX1_canStep rfl ⟨Nat.le_of_ble_eq_true rfl, Nat.le_of_ble_eq_true rfl⟩ (Nat.le_of_ble_eq_true rfl) rfl ?_
    change xB xLL yX1_perform cX1_perform 3 (some .int) 8 3111 51 [some (.inr (.inr (some 300)) : xV), some (.inl (a1) : xV), some (.inl (a2) : xV)] [(.inl (q4.1) : xV)] (ms, q4.2) _ _
    refine x_if_eq 80 54 rfl dX1_perform_51 rfl h (fun h => ?_) (fun h => ?_)
    · refine x_iload_n (i := 2) 81 rfl dX1_perform_80 rfl rfl ?_
      cases h
      exact x_iret rfl dX1_perform_81
    · refine x_aload_n (i := 0) 55 rfl dX1_perform_54 rfl rfl ?_
      refine x_aload_n (i := 0) 56 rfl dX1_perform_55 rfl rfl ?_
      refine x_aload_n (i := 0) 57 rfl dX1_perform_56 rfl rfl ?_
      refine q_get (k := 11) 60 rfl dX1_perform_57 (by decide) q453 rfl ?_
      refine x_ltr h (fun p5 h => ?_)
      refine x_iconst (4 : Int32) 61 rfl dX1_perform_60 rfl ?_
      refine x_bipush (12 : Int32) 63 rfl dX1_perform_61 rfl ?_
      refine x_iload_n (i := 1) 64 rfl dX1_perform_63 rfl rfl ?_
      refine x_imul 65 rfl dX1_perform_64 ?_
      refine x_iload_n (i := 2) 66 rfl dX1_perform_65 rfl rfl ?_
      refine x_iadd 67 rfl dX1_perform_66 ?_
      refine x_imul 68 rfl dX1_perform_67 ?_
      refine x_nnP (P := fun p5 => xB xLL yX1_perform cX1_perform 3 (some .int) 8 3111 68 [some (.inr (.inr (some 300)) : xV), some (.inl (a1) : xV), some (.inl (a2) : xV)] [(.inl ((4 : Int32) * (((12 : Int32) * a1) + a2)) : xV), (.inr (.inr (p5)) : xV), (.inr (.inr (some 300)) : xV), (.inr (.inr (some 300)) : xV)] (ms, q4.2) (some (.inl rr.1)) (ms, rr.2)) h (fun p6 h => ?_)
      refine x_cl h (fun q7 hq h => ?_)
      refine x_callV (as := [(.inr (.inr (some (p6))) : xV), (.inl ((4 : Int32) * (((12 : Int32) * a1) + a2)) : xV)]) (rest := [(.inr (.inr (some 300)) : xV)]) (vv := (some (.inr (.inr (some (q7.1))) : xV))) (w2 := (ms, q7.2)) (C := RX1) (T := TX1) (N := 34) 71 rfl dX1_perform_68 (x_X1_stepped_ct hq) (Or.inl xcell_X0) rfl (lw_V q1751 q1753 qs63 q118 q1754) rfl ydX1_stepped rfl ⟨Nat.le_of_ble_eq_true rfl, Nat.le_of_ble_eq_true rfl⟩ (Nat.le_of_ble_eq_true rfl) rfl ?_
      change xB xLL yX1_perform cX1_perform 3 (some .int) 8 3111 71 [some (.inr (.inr (some 300)) : xV), some (.inl (a1) : xV), some (.inl (a2) : xV)] [(.inr (.inr (some (q7.1))) : xV), (.inr (.inr (some 300)) : xV)] (ms, q7.2) _ _
      refine x_cl h (fun q8 hq h => ?_)
      refine x_callV (as := [(.inr (.inr (some (q7.1))) : xV)]) (rest := []) (vv := none) (w2 := (ms, q8)) (C := RX1) (T := TX1) (N := 34) 74 rfl dX1_perform_71 (x_X1_act_ct hq) (Or.inl xcell_X0) rfl (lw_V q725 q727 qs17 q118 q728) rfl ydX1_act rfl ⟨Nat.le_of_ble_eq_true rfl, Nat.le_of_ble_eq_true rfl⟩ (Nat.le_of_ble_eq_true rfl) rfl ?_
      change xB xLL yX1_perform cX1_perform 3 (some .int) 8 3111 74 [some (.inr (.inr (some 300)) : xV), some (.inl (a1) : xV), some (.inl (a2) : xV)] [] (ms, q8) _ _
      refine x_iincL (i := 2) (1 : Int32) 77 rfl dX1_perform_74 rfl rfl (by decide) h (fun x9 h => ?_)
      change xB xLL yX1_perform cX1_perform 3 (some .int) 8 3111 77 [some (.inr (.inr (some 300)) : xV), some (.inl (a1) : xV), some (.inl (x9) : xV)] [] (ms, q8) _ _
      refine x_goto 25 dX1_perform_77 rfl ?_
      exact xB.le (xle.s (xle.s (xle.s xle.z))) (hr25 h)
def x_X1_perform_25_L : Nat → Int32 → Int32 → xR → Option (Int32 × xR)
  | 0 => fun _ _ _ => none
  | n + 1 => x_X1_perform_25_s (x_X1_perform_25_L  n)
theorem x_X1_perform_25_L_ok {ms : xS} {rr : Int32 × xR} : ∀ (n9 : Nat) {a1 : Int32} {a2 : Int32} {r : xR}, x_X1_perform_25_L  n9 a1 a2 r = some rr → xB xLL yX1_perform cX1_perform 3 (some .int) 8 3111 25 [some (.inr (.inr (some 300)) : xV), some (.inl (a1) : xV), some (.inl (a2) : xV)] [] (ms, r) (some (.inl rr.1)) (ms, rr.2)
  | 0, _, _, _, h => by cases h
  | n9 + 1, _, _, _, h => x_X1_perform_25_s_ok (x_X1_perform_25_L_ok  n9) h
def x_X1_perform (a1 : Int32) (r : xR) : Option (Int32 × xR) := lt (r.1.2.2 0 11) fun p10 => nu p10 (some ((-1 : Int32), r)) fun p11 => cl (p_X1_in a1 (0 : Int32) ((r.1.1 0 10) - (1 : Int32))) fun q12 => if q12 = 0 then some ((-1 : Int32), r) else lt ((0 : Int32)) fun x13 => x_X1_perform_25_L xFU a1 x13 r
theorem x_X1_perform_ct {ms : xS} {rr : Int32 × xR} {a1 : Int32} {r : xR} (h : x_X1_perform a1 r = some rr) : xCt xLL yX1_perform cX1_perform 3 (some .int) 8 3111 [(.inr (.inr (some 300)) : xV), (.inl (a1) : xV)] (ms, r) (some (.inl rr.1)) (ms, rr.2) := by
  refine xCt.of (lv := [some (.inr (.inr (some 300)) : xV), some (.inl (a1) : xV), none]) pl_X1 (Nat.le_of_ble_eq_true rfl) (xle.s (xle.s (xle.m xle.z))) ?_
  refine x_aload_n (i := 0) 1 rfl dX1_perform_0 rfl rfl ?_
  refine q_get (k := 11) 4 rfl dX1_perform_1 (by decide) q453 rfl ?_
  refine x_ltr h (fun p10 h => ?_)
  refine x_nulP (lv := fun p10 => [some (.inr (.inr (some 300)) : xV), some (.inl (a1) : xV), none]) (st := fun p10 => []) 21 7 rfl dX1_perform_4 rfl h (fun h => ?_) (fun p11 h => ?_)
  · refine x_iconst (-1 : Int32) 22 rfl dX1_perform_21 rfl ?_
    cases h
    exact x_iret rfl dX1_perform_22
  · refine x_iload_n (i := 1) 8 rfl dX1_perform_7 rfl rfl ?_
    refine x_iconst (0 : Int32) 9 rfl dX1_perform_8 rfl ?_
    refine x_aload_n (i := 0) 10 rfl dX1_perform_9 rfl rfl ?_
    refine q_get (k := 10) 13 rfl dX1_perform_10 (by decide) q452 rfl ?_
    refine x_iconst (1 : Int32) 14 rfl dX1_perform_13 rfl ?_
    refine x_isub 15 rfl dX1_perform_14 ?_
    refine x_cl h (fun q12 hq h => ?_)
    refine x_callS (as := [(.inl (a1) : xV), (.inl ((0 : Int32)) : xV), (.inl ((r.1.1 0 10) - (1 : Int32)) : xV)]) (rest := []) (vv := (some (.inl (q12) : xV))) (w2 := (ms, r)) 18 rfl dX1_perform_15 (p_X1_in_ct hq) (lw_S q556 q557 q118 q558) ydX1_in rfl ⟨Nat.le_of_ble_eq_true rfl, Nat.le_of_ble_eq_true rfl⟩ (Nat.le_of_ble_eq_true rfl) rfl ?_
    change xB xLL yX1_perform cX1_perform 3 (some .int) 8 3111 18 [some (.inr (.inr (some 300)) : xV), some (.inl (a1) : xV), none] [(.inl (q12) : xV)] (ms, r) _ _
    refine x_if_ne 23 21 rfl dX1_perform_18 rfl h (fun h => ?_) (fun h => ?_)
    · refine x_iconst (0 : Int32) 24 rfl dX1_perform_23 rfl ?_
      refine x_lti h (fun x13 h => ?_)
      refine x_istore_n 25 rfl dX1_perform_24 rfl (by decide) (lv' := [some (.inr (.inr (some 300)) : xV), some (.inl (a1) : xV), some (.inl (x13) : xV)]) rfl ?_
      exact xB.le (xle.s (xle.s (xle.s xle.z))) (x_X1_perform_25_L_ok xFU h)
    · refine x_iconst (-1 : Int32) 22 rfl dX1_perform_21 rfl ?_
      cases h
      exact x_iret rfl dX1_perform_22
/-! UnimodularTables.draw(I)I -/
theorem ydX1_draw : xHd yX1_draw 1 := by decide +kernel
def x_X1_draw (a1 : Int32) (r : xR) : Option (Int32 × xR) := qpl r 0 31 (((r.1.2.1 0 31) * (6364136223846793005 : Int64)) + (1442695040888963407 : Int64)) fun r1 => nzl a1.toInt64 (some ((jreml (jlushr (r1.1.2.1 0 31) (33 : Int32)) a1.toInt64).toInt32, r1))
theorem x_X1_draw_ct {ms : xS} {rr : Int32 × xR} {a1 : Int32} {r : xR} (h : x_X1_draw a1 r = some rr) : xCt xLL yX1_draw cX1_draw 2 (some .int) 0 0 [(.inr (.inr (some 300)) : xV), (.inl (a1) : xV)] (ms, r) (some (.inl rr.1)) (ms, rr.2) := by
  refine xCt.of (lv := [some (.inr (.inr (some 300)) : xV), some (.inl (a1) : xV)]) pl_X1 (Nat.le_of_ble_eq_true rfl) (xle.s (xle.s xle.z)) ?_
  refine x_aload_n (i := 0) 1 rfl dX1_draw_0 rfl rfl ?_
  refine x_aload_n (i := 0) 2 rfl dX1_draw_1 rfl rfl ?_
  refine q_get (k := 31) 5 rfl dX1_draw_2 (by decide) q473 rfl ?_
  refine x_ldc2 8 rfl dX1_draw_5 q1771 ?_
  refine x_lmul 9 rfl dX1_draw_8 ?_
  refine x_ldc2 12 rfl dX1_draw_9 q1772 ?_
  refine x_ladd 13 rfl dX1_draw_12 ?_
  refine q_putl (k := 31) (z := 0) 16 rfl dX1_draw_13 (by decide) rfl rfl rfl q473 h (fun r1 h => ?_)
  refine x_aload_n (i := 0) 17 rfl dX1_draw_16 rfl rfl ?_
  refine q_get (k := 31) 20 rfl dX1_draw_17 (by decide) q473 rfl ?_
  refine x_bipush (33 : Int32) 22 rfl dX1_draw_20 rfl ?_
  refine x_lushr 23 rfl dX1_draw_22 ?_
  refine x_iload_n (i := 1) 24 rfl dX1_draw_23 rfl rfl ?_
  refine x_i2l 25 rfl dX1_draw_24 ?_
  refine x_nzl h (fun hz h => ?_)
  refine x_lrem 26 rfl dX1_draw_25 hz ?_
  refine x_l2i 27 rfl dX1_draw_26 ?_
  cases h
  exact x_iret rfl dX1_draw_27
/-! UnimodularTables.drawAct()Z -/
theorem ydX1_drawAct : xHd yX1_drawAct 0 := by decide +kernel
def x_X1_drawAct_88 (a1 : Int32) (a3 : Int32) (s0 : Int32) (r : xR) : Option (Int32 × xR) := if (5 : Int32) ≤ a1 then cl (x_X1_draw (3 : Int32) r) fun q1 => lt (q1.1 - (1 : Int32)) fun x2 => lt (q1.2.1.2.2 0 11) fun p3 => cl (x_X1_whyNotSet p3 a3 s0 x2 q1.2) fun q4 => if q4.1 = (-1 : Int32) then cl (x_X1_setNow a3 s0 x2 q4.2) fun q5 => some ((1 : Int32), q5) else some ((0 : Int32), q4.2) else lt (r.1.2.2 0 11) fun p6 => cl (x_X1_whyNot p6 a1 a3 s0 r) fun q7 => if q7.1 = (-1 : Int32) then dar xLL q7.2 376 a1 fun p8 => lt (q7.2.1.2.2 0 11) fun p9 => nn p9 fun p10 => nn p8 fun p11 => cl (ltn xLL q7.2 p11 p10 a3 s0) fun q12 => cl (x_X1_act ((some (q12.1))) q12.2) fun q13 => some ((1 : Int32), q13) else some ((0 : Int32), q7.2)
theorem x_X1_drawAct_88_ok {ms : xS} {rr : Int32 × xR} {a1 : Int32} {a3 : Int32} {s0 : Int32} {r : xR} (h : x_X1_drawAct_88  a1 a3 s0 r = some rr) : xB xLL yX1_drawAct cX1_drawAct 6 (some .boolean) 7 3114 88 [some (.inr (.inr (some 300)) : xV), some (.inl (a1) : xV), none, some (.inl (a3) : xV), none, none] [(.inl (s0) : xV)] (ms, r) (some (.inl rr.1)) (ms, rr.2) := by
  refine x_istore 90 rfl dX1_drawAct_88 (by decide) (lv' := [some (.inr (.inr (some 300)) : xV), some (.inl (a1) : xV), none, some (.inl (a3) : xV), some (.inl (s0) : xV), none]) rfl ?_
  refine x_iload_n (i := 1) 91 rfl dX1_drawAct_90 rfl rfl ?_
  refine x_iconst (5 : Int32) 92 rfl dX1_drawAct_91 rfl ?_
  refine x_icmp_ge 137 95 rfl dX1_drawAct_92 rfl h (fun h => ?_) (fun h => ?_)
  · refine x_aload_n (i := 0) 138 rfl dX1_drawAct_137 rfl rfl ?_
    refine x_iconst (3 : Int32) 139 rfl dX1_drawAct_138 rfl ?_
    refine x_cl h (fun q1 hq h => ?_)
    refine x_callV (as := [(.inl ((3 : Int32)) : xV)]) (rest := []) (vv := (some (.inl (q1.1) : xV))) (w2 := (ms, q1.2)) (C := RX1) (T := TX1) (N := 34) 142 rfl dX1_drawAct_139 (x_X1_draw_ct hq) (Or.inl xcell_X0) rfl (lw_V q1767 q1769 qs65 q118 q1770) rfl ydX1_draw rfl ⟨Nat.le_of_ble_eq_true rfl, Nat.le_of_ble_eq_true rfl⟩ (Nat.le_of_ble_eq_true rfl) rfl ?_
    change xB xLL yX1_drawAct cX1_drawAct 6 (some .boolean) 7 3114 142 [some (.inr (.inr (some 300)) : xV), some (.inl (a1) : xV), none, some (.inl (a3) : xV), some (.inl (s0) : xV), none] [(.inl (q1.1) : xV)] (ms, q1.2) _ _
    refine x_iconst (1 : Int32) 143 rfl dX1_drawAct_142 rfl ?_
    refine x_isub 144 rfl dX1_drawAct_143 ?_
    refine x_lti h (fun x2 h => ?_)
    refine x_istore 146 rfl dX1_drawAct_144 (by decide) (lv' := [some (.inr (.inr (some 300)) : xV), some (.inl (a1) : xV), none, some (.inl (a3) : xV), some (.inl (s0) : xV), some (.inl (x2) : xV)]) rfl ?_
    refine x_aload_n (i := 0) 147 rfl dX1_drawAct_146 rfl rfl ?_
    refine q_get (k := 11) 150 rfl dX1_drawAct_147 (by decide) q453 rfl ?_
    refine x_ltr h (fun p3 h => ?_)
    refine x_iload_n (i := 3) 151 rfl dX1_drawAct_150 rfl rfl ?_
    refine x_iload (i := 4) 153 rfl dX1_drawAct_151 rfl ?_
    refine x_iload (i := 5) 155 rfl dX1_drawAct_153 rfl ?_
    refine x_cl h (fun q4 hq h => ?_)
    refine x_callS (as := [(.inr (.inr (p3)) : xV), (.inl (a3) : xV), (.inl (s0) : xV), (.inl (x2) : xV)]) (rest := []) (vv := (some (.inl (q4.1) : xV))) (w2 := (ms, q4.2)) 158 rfl dX1_drawAct_155 (x_X1_whyNotSet_ct hq) (lw_S q683 q684 q118 q685) ydX1_whyNotSet rfl ⟨Nat.le_of_ble_eq_true rfl, Nat.le_of_ble_eq_true rfl⟩ (Nat.le_of_ble_eq_true rfl) rfl ?_
    change xB xLL yX1_drawAct cX1_drawAct 6 (some .boolean) 7 3114 158 [some (.inr (.inr (some 300)) : xV), some (.inl (a1) : xV), none, some (.inl (a3) : xV), some (.inl (s0) : xV), some (.inl (x2) : xV)] [(.inl (q4.1) : xV)] (ms, q4.2) _ _
    refine x_iconst (-1 : Int32) 159 rfl dX1_drawAct_158 rfl ?_
    refine x_icmp_eq 164 162 rfl dX1_drawAct_159 rfl h (fun h => ?_) (fun h => ?_)
    · refine x_aload_n (i := 0) 165 rfl dX1_drawAct_164 rfl rfl ?_
      refine x_iload_n (i := 3) 166 rfl dX1_drawAct_165 rfl rfl ?_
      refine x_iload (i := 4) 168 rfl dX1_drawAct_166 rfl ?_
      refine x_iload (i := 5) 170 rfl dX1_drawAct_168 rfl ?_
      refine x_cl h (fun q5 hq h => ?_)
      refine x_callV (as := [(.inl (a3) : xV), (.inl (s0) : xV), (.inl (x2) : xV)]) (rest := []) (vv := none) (w2 := (ms, q5)) (C := RX1) (T := TX1) (N := 34) 173 rfl dX1_drawAct_170 (x_X1_setNow_ct hq) (Or.inl xcell_X0) rfl (lw_V q696 q698 qs13 q118 q699) rfl ydX1_setNow rfl ⟨Nat.le_of_ble_eq_true rfl, Nat.le_of_ble_eq_true rfl⟩ (Nat.le_of_ble_eq_true rfl) rfl ?_
      change xB xLL yX1_drawAct cX1_drawAct 6 (some .boolean) 7 3114 173 [some (.inr (.inr (some 300)) : xV), some (.inl (a1) : xV), none, some (.inl (a3) : xV), some (.inl (s0) : xV), some (.inl (x2) : xV)] [] (ms, q5) _ _
      refine x_iconst (1 : Int32) 174 rfl dX1_drawAct_173 rfl ?_
      cases h
      exact x_zret rfl (Or.inr rfl) dX1_drawAct_174
    · refine x_iconst (0 : Int32) 163 rfl dX1_drawAct_162 rfl ?_
      cases h
      exact x_zret rfl (Or.inl rfl) dX1_drawAct_163
  · refine x_aload_n (i := 0) 96 rfl dX1_drawAct_95 rfl rfl ?_
    refine x_aload_n (i := 0) 97 rfl dX1_drawAct_96 rfl rfl ?_
    refine q_get (k := 11) 100 rfl dX1_drawAct_97 (by decide) q453 rfl ?_
    refine x_ltr h (fun p6 h => ?_)
    refine x_iload_n (i := 1) 101 rfl dX1_drawAct_100 rfl rfl ?_
    refine x_iload_n (i := 3) 102 rfl dX1_drawAct_101 rfl rfl ?_
    refine x_iload (i := 4) 104 rfl dX1_drawAct_102 rfl ?_
    refine x_cl h (fun q7 hq h => ?_)
    refine x_callV (as := [(.inr (.inr (p6)) : xV), (.inl (a1) : xV), (.inl (a3) : xV), (.inl (s0) : xV)]) (rest := []) (vv := (some (.inl (q7.1) : xV))) (w2 := (ms, q7.2)) (C := RX1) (T := TX1) (N := 34) 107 rfl dX1_drawAct_104 (x_X1_whyNot_ct hq) (Or.inl xcell_X0) rfl (lw_V q714 q716 qs16 q118 q717) rfl ydX1_whyNot rfl ⟨Nat.le_of_ble_eq_true rfl, Nat.le_of_ble_eq_true rfl⟩ (Nat.le_of_ble_eq_true rfl) rfl ?_
    change xB xLL yX1_drawAct cX1_drawAct 6 (some .boolean) 7 3114 107 [some (.inr (.inr (some 300)) : xV), some (.inl (a1) : xV), none, some (.inl (a3) : xV), some (.inl (s0) : xV), none] [(.inl (q7.1) : xV)] (ms, q7.2) _ _
    refine x_iconst (-1 : Int32) 108 rfl dX1_drawAct_107 rfl ?_
    refine x_icmp_eq 113 111 rfl dX1_drawAct_108 rfl h (fun h => ?_) (fun h => ?_)
    · refine x_aload_n (i := 0) 114 rfl dX1_drawAct_113 rfl rfl ?_
      refine x_aload_n (i := 0) 115 rfl dX1_drawAct_114 rfl rfl ?_
      refine q_get (k := 0) 118 rfl dX1_drawAct_115 (by decide) q442 rfl ?_
      refine x_iload_n (i := 1) 119 rfl dX1_drawAct_118 rfl rfl ?_
      refine d_aald 120 rfl dX1_drawAct_119 h (fun p8 h => ?_)
      refine x_aload_n (i := 0) 121 rfl dX1_drawAct_120 rfl rfl ?_
      refine q_get (k := 11) 124 rfl dX1_drawAct_121 (by decide) q453 rfl ?_
      refine x_ltr h (fun p9 h => ?_)
      refine x_iload_n (i := 3) 125 rfl dX1_drawAct_124 rfl rfl ?_
      refine x_iload (i := 4) 127 rfl dX1_drawAct_125 rfl ?_
      refine x_nnP (P := fun p9 => xB xLL yX1_drawAct cX1_drawAct 6 (some .boolean) 7 3114 127 [some (.inr (.inr (some 300)) : xV), some (.inl (a1) : xV), none, some (.inl (a3) : xV), some (.inl (s0) : xV), none] [(.inl (s0) : xV), (.inl (a3) : xV), (.inr (.inr (p9)) : xV), (.inr (.inr (p8)) : xV), (.inr (.inr (some 300)) : xV)] (ms, q7.2) (some (.inl rr.1)) (ms, rr.2)) h (fun p10 h => ?_)
      refine x_nnP (P := fun p8 => xB xLL yX1_drawAct cX1_drawAct 6 (some .boolean) 7 3114 127 [some (.inr (.inr (some 300)) : xV), some (.inl (a1) : xV), none, some (.inl (a3) : xV), some (.inl (s0) : xV), none] [(.inl (s0) : xV), (.inl (a3) : xV), (.inr (.inr (some (p10))) : xV), (.inr (.inr (p8)) : xV), (.inr (.inr (some 300)) : xV)] (ms, q7.2) (some (.inl rr.1)) (ms, rr.2)) h (fun p11 h => ?_)
      refine x_cl h (fun q12 hq h => ?_)
      refine x_turn [(.inr (.inr (some 300)) : xV)] 132 rfl dX1_drawAct_127 q437 hq ⟨Nat.le_of_ble_eq_true rfl, Nat.le_of_ble_eq_true rfl⟩ (Nat.le_of_ble_eq_true rfl) ?_
      refine x_cl h (fun q13 hq h => ?_)
      refine x_callV (as := [(.inr (.inr (some (q12.1))) : xV)]) (rest := []) (vv := none) (w2 := (ms, q13)) (C := RX1) (T := TX1) (N := 34) 135 rfl dX1_drawAct_132 (x_X1_act_ct hq) (Or.inl xcell_X0) rfl (lw_V q725 q727 qs17 q118 q728) rfl ydX1_act rfl ⟨Nat.le_of_ble_eq_true rfl, Nat.le_of_ble_eq_true rfl⟩ (Nat.le_of_ble_eq_true rfl) rfl ?_
      change xB xLL yX1_drawAct cX1_drawAct 6 (some .boolean) 7 3114 135 [some (.inr (.inr (some 300)) : xV), some (.inl (a1) : xV), none, some (.inl (a3) : xV), some (.inl (s0) : xV), none] [] (ms, q13) _ _
      refine x_iconst (1 : Int32) 136 rfl dX1_drawAct_135 rfl ?_
      cases h
      exact x_zret rfl (Or.inr rfl) dX1_drawAct_136
    · refine x_iconst (0 : Int32) 112 rfl dX1_drawAct_111 rfl ?_
      cases h
      exact x_zret rfl (Or.inl rfl) dX1_drawAct_112
def x_X1_drawAct_85 (a1 : Int32) (a3 : Int32) (s0 : Int32) (r : xR) : Option (Int32 × xR) := cl (x_X1_draw s0 r) fun q14 => x_X1_drawAct_88 a1 a3 q14.1 q14.2
theorem x_X1_drawAct_85_ok {ms : xS} {rr : Int32 × xR} {a1 : Int32} {a3 : Int32} {s0 : Int32} {r : xR} (h : x_X1_drawAct_85  a1 a3 s0 r = some rr) : xB xLL yX1_drawAct cX1_drawAct 6 (some .boolean) 7 3114 85 [some (.inr (.inr (some 300)) : xV), some (.inl (a1) : xV), none, some (.inl (a3) : xV), none, none] [(.inl (s0) : xV), (.inr (.inr (some 300)) : xV)] (ms, r) (some (.inl rr.1)) (ms, rr.2) := by
  refine x_cl h (fun q14 hq h => ?_)
  refine x_callV (as := [(.inl (s0) : xV)]) (rest := []) (vv := (some (.inl (q14.1) : xV))) (w2 := (ms, q14.2)) (C := RX1) (T := TX1) (N := 34) 88 rfl dX1_drawAct_85 (x_X1_draw_ct hq) (Or.inl xcell_X0) rfl (lw_V q1767 q1769 qs65 q118 q1770) rfl ydX1_draw rfl ⟨Nat.le_of_ble_eq_true rfl, Nat.le_of_ble_eq_true rfl⟩ (Nat.le_of_ble_eq_true rfl) rfl ?_
  change xB xLL yX1_drawAct cX1_drawAct 6 (some .boolean) 7 3114 88 [some (.inr (.inr (some 300)) : xV), some (.inl (a1) : xV), none, some (.inl (a3) : xV), none, none] [(.inl (q14.1) : xV)] (ms, q14.2) _ _
  exact xB.le (xle.s (xle.s (xle.n (xle.s (xle.n (xle.n xle.z)))))) (x_X1_drawAct_88_ok h)
def x_X1_drawAct_49 (a1 : Int32) (s0 : Int32) (r : xR) : Option (Int32 × xR) := cl (x_X1_draw s0 r) fun q15 => if (2 : Int32) ≤ a1 then if a1 = (2 : Int32) then lt (q15.2.1.2.2 0 11) fun p19 => nn p19 fun p20 => dgi xLL q15.2 p20 2 0 fun x21 => x_X1_drawAct_85 a1 q15.1 x21 q15.2 else lt (q15.2.1.2.2 0 11) fun p16 => nn p16 fun p17 => dgi xLL q15.2 p17 2 1 fun x18 => x_X1_drawAct_85 a1 q15.1 x18 q15.2 else x_X1_drawAct_88 a1 q15.1 (0 : Int32) q15.2
theorem x_X1_drawAct_49_ok {ms : xS} {rr : Int32 × xR} {a1 : Int32} {s0 : Int32} {r : xR} (h : x_X1_drawAct_49  a1 s0 r = some rr) : xB xLL yX1_drawAct cX1_drawAct 6 (some .boolean) 7 3114 49 [some (.inr (.inr (some 300)) : xV), some (.inl (a1) : xV), none, none, none, none] [(.inl (s0) : xV), (.inr (.inr (some 300)) : xV)] (ms, r) (some (.inl rr.1)) (ms, rr.2) := by
  refine x_cl h (fun q15 hq h => ?_)
  refine x_callV (as := [(.inl (s0) : xV)]) (rest := []) (vv := (some (.inl (q15.1) : xV))) (w2 := (ms, q15.2)) (C := RX1) (T := TX1) (N := 34) 52 rfl dX1_drawAct_49 (x_X1_draw_ct hq) (Or.inl xcell_X0) rfl (lw_V q1767 q1769 qs65 q118 q1770) rfl ydX1_draw rfl ⟨Nat.le_of_ble_eq_true rfl, Nat.le_of_ble_eq_true rfl⟩ (Nat.le_of_ble_eq_true rfl) rfl ?_
  change xB xLL yX1_drawAct cX1_drawAct 6 (some .boolean) 7 3114 52 [some (.inr (.inr (some 300)) : xV), some (.inl (a1) : xV), none, none, none, none] [(.inl (q15.1) : xV)] (ms, q15.2) _ _
  refine x_istore_n 53 rfl dX1_drawAct_52 rfl (by decide) (lv' := [some (.inr (.inr (some 300)) : xV), some (.inl (a1) : xV), none, some (.inl (q15.1) : xV), none, none]) rfl ?_
  refine x_iload_n (i := 1) 54 rfl dX1_drawAct_53 rfl rfl ?_
  refine x_iconst (2 : Int32) 55 rfl dX1_drawAct_54 rfl ?_
  refine x_icmp_ge 62 58 rfl dX1_drawAct_55 rfl h (fun h => ?_) (fun h => ?_)
  · refine x_aload_n (i := 0) 63 rfl dX1_drawAct_62 rfl rfl ?_
    refine x_iload_n (i := 1) 64 rfl dX1_drawAct_63 rfl rfl ?_
    refine x_iconst (2 : Int32) 65 rfl dX1_drawAct_64 rfl ?_
    refine x_icmp_ne 78 68 rfl dX1_drawAct_65 rfl h (fun h => ?_) (fun h => ?_)
    · refine x_aload_n (i := 0) 79 rfl dX1_drawAct_78 rfl rfl ?_
      refine q_get (k := 11) 82 rfl dX1_drawAct_79 (by decide) q453 rfl ?_
      refine x_ltr h (fun p16 h => ?_)
      refine x_nnP (P := fun p16 => xB xLL yX1_drawAct cX1_drawAct 6 (some .boolean) 7 3114 82 [some (.inr (.inr (some 300)) : xV), some (.inl (a1) : xV), none, some (.inl (q15.1) : xV), none, none] [(.inr (.inr (p16)) : xV), (.inr (.inr (some 300)) : xV)] (ms, q15.2) (some (.inl rr.1)) (ms, rr.2)) h (fun p17 h => ?_)
      refine d_getiN (ci := 2) (k := 1) (C := RX4) (T := TX4) (N := 3) 85 rfl dX1_drawAct_82 rfl in_X4 (by decide) (List.mem_of_getElem? (i := 7) rfl) h (fun x18 h => ?_)
      exact xB.le (xle.s (xle.s (xle.n (xle.s (xle.n (xle.n xle.z)))))) (x_X1_drawAct_85_ok h)
    · refine x_aload_n (i := 0) 69 rfl dX1_drawAct_68 rfl rfl ?_
      refine q_get (k := 11) 72 rfl dX1_drawAct_69 (by decide) q453 rfl ?_
      refine x_ltr h (fun p19 h => ?_)
      refine x_nnP (P := fun p19 => xB xLL yX1_drawAct cX1_drawAct 6 (some .boolean) 7 3114 72 [some (.inr (.inr (some 300)) : xV), some (.inl (a1) : xV), none, some (.inl (q15.1) : xV), none, none] [(.inr (.inr (p19)) : xV), (.inr (.inr (some 300)) : xV)] (ms, q15.2) (some (.inl rr.1)) (ms, rr.2)) h (fun p20 h => ?_)
      refine d_getiN (ci := 2) (k := 0) (C := RX4) (T := TX4) (N := 3) 75 rfl dX1_drawAct_72 rfl in_X4 (by decide) (List.mem_of_getElem? (i := 5) rfl) h (fun x21 h => ?_)
      refine x_goto 85 dX1_drawAct_75 rfl ?_
      exact xB.le (xle.s (xle.s (xle.n (xle.s (xle.n (xle.n xle.z)))))) (x_X1_drawAct_85_ok h)
  · refine x_iconst (0 : Int32) 59 rfl dX1_drawAct_58 rfl ?_
    refine x_goto 88 dX1_drawAct_59 rfl ?_
    exact xB.le (xle.s (xle.s (xle.n (xle.s (xle.n (xle.n xle.z)))))) (x_X1_drawAct_88_ok h)
def x_X1_drawAct_32 (a1 : Int32) (r : xR) : Option (Int32 × xR) := lt (r.1.2.2 0 11) fun p22 => nn p22 fun p23 => dgi xLL r p23 2 0 fun x24 => x_X1_drawAct_49 a1 x24 r
theorem x_X1_drawAct_32_ok {ms : xS} {rr : Int32 × xR} {a1 : Int32} {r : xR} (h : x_X1_drawAct_32  a1 r = some rr) : xB xLL yX1_drawAct cX1_drawAct 6 (some .boolean) 7 3114 32 [some (.inr (.inr (some 300)) : xV), some (.inl (a1) : xV), none, none, none, none] [(.inr (.inr (some 300)) : xV)] (ms, r) (some (.inl rr.1)) (ms, rr.2) := by
  refine x_aload_n (i := 0) 33 rfl dX1_drawAct_32 rfl rfl ?_
  refine q_get (k := 11) 36 rfl dX1_drawAct_33 (by decide) q453 rfl ?_
  refine x_ltr h (fun p22 h => ?_)
  refine x_nnP (P := fun p22 => xB xLL yX1_drawAct cX1_drawAct 6 (some .boolean) 7 3114 36 [some (.inr (.inr (some 300)) : xV), some (.inl (a1) : xV), none, none, none, none] [(.inr (.inr (p22)) : xV), (.inr (.inr (some 300)) : xV)] (ms, r) (some (.inl rr.1)) (ms, rr.2)) h (fun p23 h => ?_)
  refine d_getiN (ci := 2) (k := 0) (C := RX4) (T := TX4) (N := 3) 39 rfl dX1_drawAct_36 rfl in_X4 (by decide) (List.mem_of_getElem? (i := 5) rfl) h (fun x24 h => ?_)
  refine x_goto 49 dX1_drawAct_39 rfl ?_
  exact xB.le (xle.s (xle.s (xle.n (xle.n (xle.n (xle.n xle.z)))))) (x_X1_drawAct_49_ok h)
def x_X1_drawAct_21 (a1 : Int32) (s0 : Int32) (r : xR) : Option (Int32 × xR) := if s0 = 0 then if a1 ≤ (3 : Int32) then lt (r.1.2.2 0 11) fun p25 => nn p25 fun p26 => dgi xLL r p26 2 1 fun x27 => x_X1_drawAct_49 a1 x27 r else x_X1_drawAct_32 a1 r else x_X1_drawAct_32 a1 r
theorem x_X1_drawAct_21_ok {ms : xS} {rr : Int32 × xR} {a1 : Int32} {s0 : Int32} {r : xR} (h : x_X1_drawAct_21  a1 s0 r = some rr) : xB xLL yX1_drawAct cX1_drawAct 6 (some .boolean) 7 3114 21 [some (.inr (.inr (some 300)) : xV), some (.inl (a1) : xV), none, none, none, none] [(.inl (s0) : xV)] (ms, r) (some (.inl rr.1)) (ms, rr.2) := by
  refine x_istore_n 22 rfl dX1_drawAct_21 rfl (by decide) (lv' := [some (.inr (.inr (some 300)) : xV), some (.inl (a1) : xV), some (.inl (s0) : xV), none, none, none]) rfl ?_
  refine x_aload_n (i := 0) 23 rfl dX1_drawAct_22 rfl rfl ?_
  refine x_iload_n (i := 2) 24 rfl dX1_drawAct_23 rfl rfl ?_
  refine x_if_ne 32 27 rfl dX1_drawAct_24 rfl h (fun h => ?_) (fun h => ?_)
  · exact xB.le (xle.s (xle.s (xle.n (xle.n (xle.n (xle.n xle.z)))))) (x_X1_drawAct_32_ok h)
  · refine x_iload_n (i := 1) 28 rfl dX1_drawAct_27 rfl rfl ?_
    refine x_iconst (3 : Int32) 29 rfl dX1_drawAct_28 rfl ?_
    refine x_icmp_le 42 32 rfl dX1_drawAct_29 rfl h (fun h => ?_) (fun h => ?_)
    · refine x_aload_n (i := 0) 43 rfl dX1_drawAct_42 rfl rfl ?_
      refine q_get (k := 11) 46 rfl dX1_drawAct_43 (by decide) q453 rfl ?_
      refine x_ltr h (fun p25 h => ?_)
      refine x_nnP (P := fun p25 => xB xLL yX1_drawAct cX1_drawAct 6 (some .boolean) 7 3114 46 [some (.inr (.inr (some 300)) : xV), some (.inl (a1) : xV), some (.inl (s0) : xV), none, none, none] [(.inr (.inr (p25)) : xV), (.inr (.inr (some 300)) : xV)] (ms, r) (some (.inl rr.1)) (ms, rr.2)) h (fun p26 h => ?_)
      refine d_getiN (ci := 2) (k := 1) (C := RX4) (T := TX4) (N := 3) 49 rfl dX1_drawAct_46 rfl in_X4 (by decide) (List.mem_of_getElem? (i := 7) rfl) h (fun x27 h => ?_)
      exact xB.le (xle.s (xle.s (xle.n (xle.n (xle.n (xle.n xle.z)))))) (x_X1_drawAct_49_ok h)
    · exact xB.le (xle.s (xle.s (xle.n (xle.n (xle.n (xle.n xle.z)))))) (x_X1_drawAct_32_ok h)
def x_X1_drawAct_16 (a1 : Int32) (r : xR) : Option (Int32 × xR) := x_X1_drawAct_21 a1 (1 : Int32) r
theorem x_X1_drawAct_16_ok {ms : xS} {rr : Int32 × xR} {a1 : Int32} {r : xR} (h : x_X1_drawAct_16  a1 r = some rr) : xB xLL yX1_drawAct cX1_drawAct 6 (some .boolean) 7 3114 16 [some (.inr (.inr (some 300)) : xV), some (.inl (a1) : xV), none, none, none, none] [] (ms, r) (some (.inl rr.1)) (ms, rr.2) := by
  refine x_iconst (1 : Int32) 17 rfl dX1_drawAct_16 rfl ?_
  refine x_goto 21 dX1_drawAct_17 rfl ?_
  exact xB.le (xle.s (xle.s (xle.n (xle.n (xle.n (xle.n xle.z)))))) (x_X1_drawAct_21_ok h)
def x_X1_drawAct (r : xR) : Option (Int32 × xR) := cl (x_X1_draw (6 : Int32) r) fun q28 => if q28.1 = 0 then x_X1_drawAct_16 q28.1 q28.2 else if q28.1 = (2 : Int32) then x_X1_drawAct_16 q28.1 q28.2 else x_X1_drawAct_21 q28.1 (0 : Int32) q28.2
theorem x_X1_drawAct_ct {ms : xS} {rr : Int32 × xR} {r : xR} (h : x_X1_drawAct r = some rr) : xCt xLL yX1_drawAct cX1_drawAct 6 (some .boolean) 7 3114 [(.inr (.inr (some 300)) : xV)] (ms, r) (some (.inl rr.1)) (ms, rr.2) := by
  refine xCt.of (lv := [some (.inr (.inr (some 300)) : xV), none, none, none, none, none]) pl_X1 (Nat.le_of_ble_eq_true rfl) (xle.s (xle.m (xle.m (xle.m (xle.m (xle.m xle.z)))))) ?_
  refine x_aload_n (i := 0) 1 rfl dX1_drawAct_0 rfl rfl ?_
  refine x_bipush (6 : Int32) 3 rfl dX1_drawAct_1 rfl ?_
  refine x_cl h (fun q28 hq h => ?_)
  refine x_callV (as := [(.inl ((6 : Int32)) : xV)]) (rest := []) (vv := (some (.inl (q28.1) : xV))) (w2 := (ms, q28.2)) (C := RX1) (T := TX1) (N := 34) 6 rfl dX1_drawAct_3 (x_X1_draw_ct hq) (Or.inl xcell_X0) rfl (lw_V q1767 q1769 qs65 q118 q1770) rfl ydX1_draw rfl ⟨Nat.le_of_ble_eq_true rfl, Nat.le_of_ble_eq_true rfl⟩ (Nat.le_of_ble_eq_true rfl) rfl ?_
  change xB xLL yX1_drawAct cX1_drawAct 6 (some .boolean) 7 3114 6 [some (.inr (.inr (some 300)) : xV), none, none, none, none, none] [(.inl (q28.1) : xV)] (ms, q28.2) _ _
  refine x_istore_n 7 rfl dX1_drawAct_6 rfl (by decide) (lv' := [some (.inr (.inr (some 300)) : xV), some (.inl (q28.1) : xV), none, none, none, none]) rfl ?_
  refine x_iload_n (i := 1) 8 rfl dX1_drawAct_7 rfl rfl ?_
  refine x_if_eq 16 11 rfl dX1_drawAct_8 rfl h (fun h => ?_) (fun h => ?_)
  · exact xB.le (xle.s (xle.s (xle.n (xle.n (xle.n (xle.n xle.z)))))) (x_X1_drawAct_16_ok h)
  · refine x_iload_n (i := 1) 12 rfl dX1_drawAct_11 rfl rfl ?_
    refine x_iconst (2 : Int32) 13 rfl dX1_drawAct_12 rfl ?_
    refine x_icmp_ne 20 16 rfl dX1_drawAct_13 rfl h (fun h => ?_) (fun h => ?_)
    · refine x_iconst (0 : Int32) 21 rfl dX1_drawAct_20 rfl ?_
      exact xB.le (xle.s (xle.s (xle.n (xle.n (xle.n (xle.n xle.z)))))) (x_X1_drawAct_21_ok h)
    · exact xB.le (xle.s (xle.s (xle.n (xle.n (xle.n (xle.n xle.z)))))) (x_X1_drawAct_16_ok h)
