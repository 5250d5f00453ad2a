set_option maxRecDepth 100000
/-! UnimodularTables.has(II)Z -/
theorem ydX1_has : xHd yX1_has 2 := by decide +kernel
def p_X1_has (a0 : Int32) (a1 : Int32) : Option (Int32) := if ((jshr a0 a1) &&& (1 : Int32)) = (1 : Int32) then some ((1 : Int32)) else some ((0 : Int32))
theorem p_X1_has_ct {L : xL} {w : xW} {rr : Int32} {a0 : Int32} {a1 : Int32} (h : p_X1_has a0 a1 = some rr) : xCt L yX1_has cX1_has 2 (some .boolean) 0 0 [(.inl (a0) : xV), (.inl (a1) : xV)] w (some (.inl rr)) w := by
  refine xCt.of (lv := [some (.inl (a0) : xV), some (.inl (a1) : xV)]) pl_X1 (Nat.le_of_ble_eq_true rfl) (xle.s (xle.s xle.z)) ?_
  refine x_iload_n (i := 0) 1 rfl dX1_has_0 rfl rfl ?_
  refine x_iload_n (i := 1) 2 rfl dX1_has_1 rfl rfl ?_
  refine x_ishr 3 rfl dX1_has_2 ?_
  refine x_iconst (1 : Int32) 4 rfl dX1_has_3 rfl ?_
  refine x_iand 5 rfl dX1_has_4 ?_
  refine x_iconst (1 : Int32) 6 rfl dX1_has_5 rfl ?_
  refine x_icmp_ne 13 9 rfl dX1_has_6 rfl h (fun h => ?_) (fun h => ?_)
  · refine x_iconst (0 : Int32) 14 rfl dX1_has_13 rfl ?_
    cases h
    exact x_zret rfl (Or.inl rfl) dX1_has_14
  · refine x_iconst (1 : Int32) 10 rfl dX1_has_9 rfl ?_
    refine x_goto 14 dX1_has_10 rfl ?_
    cases h
    exact x_zret rfl (Or.inr rfl) dX1_has_14
/-! UnimodularTables.layDets(LUnimodularTables$Table;[I)V -/
theorem ydX1_layDets : xHd yX1_layDets 2 := by decide +kernel
def x_X1_layDets_141 (rec6 : Nat → Nat → Int32 → xR → Option (xR)) (rec24 : Nat → Nat → Int32 → Int32 → Int32 → xR → Option (xR)) (a0 : Nat) (a1 : Nat) (a2 : Int32) (a3 : Int32) (a4 : Int32) (r : xR) : Option (xR) := lt (a4 + (1 : Int32)) fun x1 => rec24 a0 a1 a2 a3 x1 r
theorem x_X1_layDets_141_ok {ms : xS} {rr : xR} {rec6 : Nat → Nat → Int32 → xR → Option (xR)} {rec24 : Nat → Nat → Int32 → Int32 → Int32 → xR → Option (xR)} (hr6 : ∀ {a0 : Nat} {a1 : Nat} {a2 : Int32} {r : xR}, rec6 a0 a1 a2 r = some rr → xB xLL yX1_layDets cX1_layDets 8 none 1 21 6 [some (.inr (.inr (some (a0))) : xV), some (.inr (.inr (some (300 + a1))) : xV), some (.inl (a2) : xV), none, none, none, none, none] [] (ms, r) none (ms, rr)) (hr24 : ∀ {a0 : Nat} {a1 : Nat} {a2 : Int32} {a3 : Int32} {a4 : Int32} {r : xR}, rec24 a0 a1 a2 a3 a4 r = some rr → xB xLL yX1_layDets cX1_layDets 8 none 1 21 24 [some (.inr (.inr (some (a0))) : xV), some (.inr (.inr (some (300 + a1))) : xV), some (.inl (a2) : xV), some (.inl (a3) : xV), some (.inl (a4) : xV), none, none, none] [] (ms, r) none (ms, rr)) {a0 : Nat} {a1 : Nat} {a2 : Int32} {a3 : Int32} {a4 : Int32} {r : xR} (h : x_X1_layDets_141 rec6 rec24 a0 a1 a2 a3 a4 r = some rr) : xB xLL yX1_layDets cX1_layDets 8 none 1 21 141 [some (.inr (.inr (some (a0))) : xV), some (.inr (.inr (some (300 + a1))) : xV), some (.inl (a2) : xV), some (.inl (a3) : xV), some (.inl (a4) : xV), none, none, none] [] (ms, r) none (ms, rr) := by
  refine x_iincL (i := 4) (1 : Int32) 144 rfl dX1_layDets_141 rfl rfl (by decide) h (fun x1 h => ?_)
  change xB xLL yX1_layDets cX1_layDets 8 none 1 21 144 [some (.inr (.inr (some (a0))) : xV), some (.inr (.inr (some (300 + a1))) : xV), some (.inl (a2) : xV), some (.inl (a3) : xV), some (.inl (x1) : xV), none, none, none] [] (ms, r) _ _
  refine x_goto 24 dX1_layDets_144 rfl ?_
  exact xB.le (xle.s (xle.s (xle.s (xle.s (xle.s (xle.n (xle.n (xle.n xle.z)))))))) (hr24 h)
def x_X1_layDets_124 (rec6 : Nat → Nat → Int32 → xR → Option (xR)) (rec24 : Nat → Nat → Int32 → Int32 → Int32 → xR → Option (xR)) (rec59 : Nat → Nat → Int32 → Int32 → Int32 → Int32 → Int32 → Int32 → xR → Option (xR)) (a0 : Nat) (a1 : Nat) (a2 : Int32) (a3 : Int32) (a4 : Int32) (a5 : Int32) (a6 : Int32) (a7 : Int32) (r : xR) : Option (xR) := lt (a7 + (1 : Int32)) fun x2 => rec59 a0 a1 a2 a3 a4 a5 a6 x2 r
theorem x_X1_layDets_124_ok {ms : xS} {rr : xR} {rec6 : Nat → Nat → Int32 → xR → Option (xR)} {rec24 : Nat → Nat → Int32 → Int32 → Int32 → xR → Option (xR)} {rec59 : Nat → Nat → Int32 → Int32 → Int32 → Int32 → Int32 → Int32 → xR → Option (xR)} (hr6 : ∀ {a0 : Nat} {a1 : Nat} {a2 : Int32} {r : xR}, rec6 a0 a1 a2 r = some rr → xB xLL yX1_layDets cX1_layDets 8 none 1 21 6 [some (.inr (.inr (some (a0))) : xV), some (.inr (.inr (some (300 + a1))) : xV), some (.inl (a2) : xV), none, none, none, none, none] [] (ms, r) none (ms, rr)) (hr24 : ∀ {a0 : Nat} {a1 : Nat} {a2 : Int32} {a3 : Int32} {a4 : Int32} {r : xR}, rec24 a0 a1 a2 a3 a4 r = some rr → xB xLL yX1_layDets cX1_layDets 8 none 1 21 24 [some (.inr (.inr (some (a0))) : xV), some (.inr (.inr (some (300 + a1))) : xV), some (.inl (a2) : xV), some (.inl (a3) : xV), some (.inl (a4) : xV), none, none, none] [] (ms, r) none (ms, rr)) (hr59 : ∀ {a0 : Nat} {a1 : Nat} {a2 : Int32} {a3 : Int32} {a4 : Int32} {a5 : Int32} {a6 : Int32} {a7 : Int32} {r : xR}, rec59 a0 a1 a2 a3 a4 a5 a6 a7 r = some rr → xB xLL yX1_layDets cX1_layDets 8 none 1 21 59 [some (.inr (.inr (some (a0))) : xV), some (.inr (.inr (some (300 + a1))) : xV), some (.inl (a2) : xV), some (.inl (a3) : xV), some (.inl (a4) : xV), some (.inl (a5) : xV), some (.inl (a6) : xV), some (.inl (a7) : xV)] [] (ms, r) none (ms, rr)) {a0 : Nat} {a1 : Nat} {a2 : Int32} {a3 : Int32} {a4 : Int32} {a5 : Int32} {a6 : Int32} {a7 : Int32} {r : xR} (h : x_X1_layDets_124 rec6 rec24 rec59 a0 a1 a2 a3 a4 a5 a6 a7 r = some rr) : xB xLL yX1_layDets cX1_layDets 8 none 1 21 124 [some (.inr (.inr (some (a0))) : xV), some (.inr (.inr (some (300 + a1))) : xV), some (.inl (a2) : xV), some (.inl (a3) : xV), some (.inl (a4) : xV), some (.inl (a5) : xV), some (.inl (a6) : xV), some (.inl (a7) : xV)] [] (ms, r) none (ms, rr) := by
  refine x_iincL (i := 7) (1 : Int32) 127 rfl dX1_layDets_124 rfl rfl (by decide) h (fun x2 h => ?_)
  change xB xLL yX1_layDets cX1_layDets 8 none 1 21 127 [some (.inr (.inr (some (a0))) : xV), some (.inr (.inr (some (300 + a1))) : xV), some (.inl (a2) : xV), some (.inl (a3) : xV), some (.inl (a4) : xV), some (.inl (a5) : xV), some (.inl (a6) : xV), some (.inl (x2) : xV)] [] (ms, r) _ _
  refine x_goto 59 dX1_layDets_127 rfl ?_
  exact xB.le (xle.s (xle.s (xle.s (xle.s (xle.s (xle.s (xle.s (xle.s xle.z)))))))) (hr59 h)
def x_X1_layDets_59_s (rec6 : Nat → Nat → Int32 → xR → Option (xR)) (rec24 : Nat → Nat → Int32 → Int32 → Int32 → xR → Option (xR)) (rec59 : Nat → Nat → Int32 → Int32 → Int32 → Int32 → Int32 → Int32 → xR → Option (xR)) (a0 : Nat) (a1 : Nat) (a2 : Int32) (a3 : Int32) (a4 : Int32) (a5 : Int32) (a6 : Int32) (a7 : Int32) (r : xR) : Option (xR) := dgi xLL r a0 2 1 fun x3 => if x3 ≤ a7 then qwr r a1 (((64 : Int32) * a2) + a4) a5 fun r4 => x_X1_layDets_141 rec6 rec24 a0 a1 a2 a3 a4 r4 else cl (p_X1_has a4 a7) fun q5 => if q5 = 0 then x_X1_layDets_124 rec6 rec24 rec59 a0 a1 a2 a3 a4 a5 a6 a7 r else dgr xLL r a0 2 2 fun p6 => nn p6 fun p7 => dar xLL r p7 a3 fun p8 => nn p8 fun p9 => dai xLL r p9 a7 fun x10 => qrd r a1 (((64 : Int32) * (a2 &&& (a2 - (1 : Int32)))) + (a4 &&& ((jshl (1 : Int32) a7) ^^^ (-1 : Int32)))) fun x11 => lt (a5 + ((a6 * x10) * x11)) fun x12 => lt (-a6) fun x13 => x_X1_layDets_124 rec6 rec24 rec59 a0 a1 a2 a3 a4 x12 x13 a7 r
theorem x_X1_layDets_59_s_ok {ms : xS} {rr : xR} {rec6 : Nat → Nat → Int32 → xR → Option (xR)} {rec24 : Nat → Nat → Int32 → Int32 → Int32 → xR → Option (xR)} {rec59 : Nat → Nat → Int32 → Int32 → Int32 → Int32 → Int32 → Int32 → xR → Option (xR)} (hr6 : ∀ {a0 : Nat} {a1 : Nat} {a2 : Int32} {r : xR}, rec6 a0 a1 a2 r = some rr → xB xLL yX1_layDets cX1_layDets 8 none 1 21 6 [some (.inr (.inr (some (a0))) : xV), some (.inr (.inr (some (300 + a1))) : xV), some (.inl (a2) : xV), none, none, none, none, none] [] (ms, r) none (ms, rr)) (hr24 : ∀ {a0 : Nat} {a1 : Nat} {a2 : Int32} {a3 : Int32} {a4 : Int32} {r : xR}, rec24 a0 a1 a2 a3 a4 r = some rr → xB xLL yX1_layDets cX1_layDets 8 none 1 21 24 [some (.inr (.inr (some (a0))) : xV), some (.inr (.inr (some (300 + a1))) : xV), some (.inl (a2) : xV), some (.inl (a3) : xV), some (.inl (a4) : xV), none, none, none] [] (ms, r) none (ms, rr)) (hr59 : ∀ {a0 : Nat} {a1 : Nat} {a2 : Int32} {a3 : Int32} {a4 : Int32} {a5 : Int32} {a6 : Int32} {a7 : Int32} {r : xR}, rec59 a0 a1 a2 a3 a4 a5 a6 a7 r = some rr → xB xLL yX1_layDets cX1_layDets 8 none 1 21 59 [some (.inr (.inr (some (a0))) : xV), some (.inr (.inr (some (300 + a1))) : xV), some (.inl (a2) : xV), some (.inl (a3) : xV), some (.inl (a4) : xV), some (.inl (a5) : xV), some (.inl (a6) : xV), some (.inl (a7) : xV)] [] (ms, r) none (ms, rr)) {a0 : Nat} {a1 : Nat} {a2 : Int32} {a3 : Int32} {a4 : Int32} {a5 : Int32} {a6 : Int32} {a7 : Int32} {r : xR} (h : x_X1_layDets_59_s rec6 rec24 rec59 a0 a1 a2 a3 a4 a5 a6 a7 r = some rr) : xB xLL yX1_layDets cX1_layDets 8 none 1 21 59 [some (.inr (.inr (some (a0))) : xV), some (.inr (.inr (some (300 + a1))) : xV), some (.inl (a2) : xV), some (.inl (a3) : xV), some (.inl (a4) : xV), some (.inl (a5) : xV), some (.inl (a6) : xV), some (.inl (a7) : xV)] [] (ms, r) none (ms, rr) := by
  refine x_iload (i := 7) 61 rfl dX1_layDets_59 rfl ?_
  refine x_aload_n (i := 0) 62 rfl dX1_layDets_61 rfl rfl ?_
  refine d_getiN (ci := 2) (k := 1) (C := RX4) (T := TX4) (N := 3) 65 rfl dX1_layDets_62 rfl in_X4 (by decide) (List.mem_of_getElem? (i := 7) rfl) h (fun x3 h => ?_)
  refine x_icmp_ge 130 68 rfl dX1_layDets_65 rfl h (fun h => ?_) (fun h => ?_)
  · refine x_aload_n (i := 1) 131 rfl dX1_layDets_130 rfl rfl ?_
    refine x_bipush (64 : Int32) 133 rfl dX1_layDets_131 rfl ?_
    refine x_iload_n (i := 2) 134 rfl dX1_layDets_133 rfl rfl ?_
    refine x_imul 135 rfl dX1_layDets_134 ?_
    refine x_iload (i := 4) 137 rfl dX1_layDets_135 rfl ?_
    refine x_iadd 138 rfl dX1_layDets_137 ?_
    refine x_iload (i := 5) 140 rfl dX1_layDets_138 rfl ?_
    refine q_iast 141 rfl dX1_layDets_140 h (fun r4 h => ?_)
    exact xB.le (xle.s (xle.s (xle.s (xle.s (xle.s (xle.n (xle.n (xle.n xle.z)))))))) (x_X1_layDets_141_ok hr6 hr24 h)
  · refine x_iload (i := 4) 70 rfl dX1_layDets_68 rfl ?_
    refine x_iload (i := 7) 72 rfl dX1_layDets_70 rfl ?_
    refine x_cl h (fun q5 hq h => ?_)
    refine x_callS (as := [(.inl (a4) : xV), (.inl (a7) : xV)]) (rest := []) (vv := (some (.inl (q5) : xV))) (w2 := (ms, r)) 75 rfl dX1_layDets_72 (p_X1_has_ct hq) (lw_S q840 q841 q118 q842) ydX1_has rfl ⟨Nat.le_of_ble_eq_true rfl, Nat.le_of_ble_eq_true rfl⟩ (Nat.le_of_ble_eq_true rfl) rfl ?_
    change xB xLL yX1_layDets cX1_layDets 8 none 1 21 75 [some (.inr (.inr (some (a0))) : xV), some (.inr (.inr (some (300 + a1))) : xV), some (.inl (a2) : xV), some (.inl (a3) : xV), some (.inl (a4) : xV), some (.inl (a5) : xV), some (.inl (a6) : xV), some (.inl (a7) : xV)] [(.inl (q5) : xV)] (ms, r) _ _
    refine x_if_ne 81 78 rfl dX1_layDets_75 rfl h (fun h => ?_) (fun h => ?_)
    · refine x_iload (i := 5) 83 rfl dX1_layDets_81 rfl ?_
      refine x_iload (i := 6) 85 rfl dX1_layDets_83 rfl ?_
      refine x_aload_n (i := 0) 86 rfl dX1_layDets_85 rfl rfl ?_
      refine d_getrN (ci := 2) (k := 2) (C := RX4) (T := TX4) (N := 3) 89 rfl dX1_layDets_86 rfl in_X4 (by decide) (List.mem_of_getElem? (i := 9) rfl) h (fun p6 h => ?_)
      refine x_iload_n (i := 3) 90 rfl dX1_layDets_89 rfl rfl ?_
      refine x_nnP (P := fun p6 => xB xLL yX1_layDets cX1_layDets 8 none 1 21 90 [some (.inr (.inr (some (a0))) : xV), some (.inr (.inr (some (300 + a1))) : xV), some (.inl (a2) : xV), some (.inl (a3) : xV), some (.inl (a4) : xV), some (.inl (a5) : xV), some (.inl (a6) : xV), some (.inl (a7) : xV)] [(.inl (a3) : xV), (.inr (.inr (p6)) : xV), (.inl (a6) : xV), (.inl (a5) : xV)] (ms, r) none (ms, rr)) h (fun p7 h => ?_)
      refine d_aald 91 rfl dX1_layDets_90 h (fun p8 h => ?_)
      refine x_iload (i := 7) 93 rfl dX1_layDets_91 rfl ?_
      refine x_nnP (P := fun p8 => xB xLL yX1_layDets cX1_layDets 8 none 1 21 93 [some (.inr (.inr (some (a0))) : xV), some (.inr (.inr (some (300 + a1))) : xV), some (.inl (a2) : xV), some (.inl (a3) : xV), some (.inl (a4) : xV), some (.inl (a5) : xV), some (.inl (a6) : xV), some (.inl (a7) : xV)] [(.inl (a7) : xV), (.inr (.inr (p8)) : xV), (.inl (a6) : xV), (.inl (a5) : xV)] (ms, r) none (ms, rr)) h (fun p9 h => ?_)
      refine d_iald 94 rfl dX1_layDets_93 h (fun x10 h => ?_)
      refine x_imul 95 rfl dX1_layDets_94 ?_
      refine x_aload_n (i := 1) 96 rfl dX1_layDets_95 rfl rfl ?_
      refine x_bipush (64 : Int32) 98 rfl dX1_layDets_96 rfl ?_
      refine x_iload_n (i := 2) 99 rfl dX1_layDets_98 rfl rfl ?_
      refine x_iload_n (i := 2) 100 rfl dX1_layDets_99 rfl rfl ?_
      refine x_iconst (1 : Int32) 101 rfl dX1_layDets_100 rfl ?_
      refine x_isub 102 rfl dX1_layDets_101 ?_
      refine x_iand 103 rfl dX1_layDets_102 ?_
      refine x_imul 104 rfl dX1_layDets_103 ?_
      refine x_iload (i := 4) 106 rfl dX1_layDets_104 rfl ?_
      refine x_iconst (1 : Int32) 107 rfl dX1_layDets_106 rfl ?_
      refine x_iload (i := 7) 109 rfl dX1_layDets_107 rfl ?_
      refine x_ishl 110 rfl dX1_layDets_109 ?_
      refine x_iconst (-1 : Int32) 111 rfl dX1_layDets_110 rfl ?_
      refine x_ixor 112 rfl dX1_layDets_111 ?_
      refine x_iand 113 rfl dX1_layDets_112 ?_
      refine x_iadd 114 rfl dX1_layDets_113 ?_
      refine q_iald 115 rfl dX1_layDets_114 h (fun x11 h => ?_)
      refine x_imul 116 rfl dX1_layDets_115 ?_
      refine x_iadd 117 rfl dX1_layDets_116 ?_
      refine x_lti h (fun x12 h => ?_)
      refine x_istore 119 rfl dX1_layDets_117 (by decide) (lv' := [some (.inr (.inr (some (a0))) : xV), some (.inr (.inr (some (300 + a1))) : xV), some (.inl (a2) : xV), some (.inl (a3) : xV), some (.inl (a4) : xV), some (.inl (x12) : xV), some (.inl (a6) : xV), some (.inl (a7) : xV)]) rfl ?_
      refine x_iload (i := 6) 121 rfl dX1_layDets_119 rfl ?_
      refine x_ineg 122 rfl dX1_layDets_121 ?_
      refine x_lti h (fun x13 h => ?_)
      refine x_istore 124 rfl dX1_layDets_122 (by decide) (lv' := [some (.inr (.inr (some (a0))) : xV), some (.inr (.inr (some (300 + a1))) : xV), some (.inl (a2) : xV), some (.inl (a3) : xV), some (.inl (a4) : xV), some (.inl (x12) : xV), some (.inl (x13) : xV), some (.inl (a7) : xV)]) rfl ?_
      exact xB.le (xle.s (xle.s (xle.s (xle.s (xle.s (xle.s (xle.s (xle.s xle.z)))))))) (x_X1_layDets_124_ok hr6 hr24 hr59 h)
    · refine x_goto 124 dX1_layDets_78 rfl ?_
      exact xB.le (xle.s (xle.s (xle.s (xle.s (xle.s (xle.s (xle.s (xle.s xle.z)))))))) (x_X1_layDets_124_ok hr6 hr24 hr59 h)
def x_X1_layDets_59_L (rec6 : Nat → Nat → Int32 → xR → Option (xR)) (rec24 : Nat → Nat → Int32 → Int32 → Int32 → xR → Option (xR)) : Nat → Nat → Nat → Int32 → Int32 → Int32 → Int32 → Int32 → Int32 → xR → Option (xR)
  | 0 => fun _ _ _ _ _ _ _ _ _ => none
  | n + 1 => x_X1_layDets_59_s rec6 rec24 (x_X1_layDets_59_L rec6 rec24 n)
theorem x_X1_layDets_59_L_ok {ms : xS} {rr : xR} {rec6 : Nat → Nat → Int32 → xR → Option (xR)} {rec24 : Nat → Nat → Int32 → Int32 → Int32 → xR → Option (xR)} (hr6 : ∀ {a0 : Nat} {a1 : Nat} {a2 : Int32} {r : xR}, rec6 a0 a1 a2 r = some rr → xB xLL yX1_layDets cX1_layDets 8 none 1 21 6 [some (.inr (.inr (some (a0))) : xV), some (.inr (.inr (some (300 + a1))) : xV), some (.inl (a2) : xV), none, none, none, none, none] [] (ms, r) none (ms, rr)) (hr24 : ∀ {a0 : Nat} {a1 : Nat} {a2 : Int32} {a3 : Int32} {a4 : Int32} {r : xR}, rec24 a0 a1 a2 a3 a4 r = some rr → xB xLL yX1_layDets cX1_layDets 8 none 1 21 24 [some (.inr (.inr (some (a0))) : xV), some (.inr (.inr (some (300 + a1))) : xV), some (.inl (a2) : xV), some (.inl (a3) : xV), some (.inl (a4) : xV), none, none, none] [] (ms, r) none (ms, rr)) : ∀ (n9 : Nat) {a0 : Nat} {a1 : Nat} {a2 : Int32} {a3 : Int32} {a4 : Int32} {a5 : Int32} {a6 : Int32} {a7 : Int32} {r : xR}, x_X1_layDets_59_L rec6 rec24 n9 a0 a1 a2 a3 a4 a5 a6 a7 r = some rr → xB xLL yX1_layDets cX1_layDets 8 none 1 21 59 [some (.inr (.inr (some (a0))) : xV), some (.inr (.inr (some (300 + a1))) : xV), some (.inl (a2) : xV), some (.inl (a3) : xV), some (.inl (a4) : xV), some (.inl (a5) : xV), some (.inl (a6) : xV), some (.inl (a7) : xV)] [] (ms, r) none (ms, rr)
  | 0, _, _, _, _, _, _, _, _, _, h => by cases h
  | n9 + 1, _, _, _, _, _, _, _, _, _, h => x_X1_layDets_59_s_ok hr6 hr24 (x_X1_layDets_59_L_ok hr6 hr24 n9) h
def x_X1_layDets_24_s (rec6 : Nat → Nat → Int32 → xR → Option (xR)) (rec24 : Nat → Nat → Int32 → Int32 → Int32 → xR → Option (xR)) (a0 : Nat) (a1 : Nat) (a2 : Int32) (a3 : Int32) (a4 : Int32) (r : xR) : Option (xR) := dgi xLL r a0 2 1 fun x14 => if (jshl (1 : Int32) x14) ≤ a4 then lt (a2 + (1 : Int32)) fun x15 => rec6 a0 a1 x15 r else cl (p_J18_bitCount a2) fun q16 => cl (p_J18_bitCount a4) fun q17 => if q16 = q17 then lt ((0 : Int32)) fun x18 => lt ((1 : Int32)) fun x19 => lt ((0 : Int32)) fun x20 => x_X1_layDets_59_L rec6 rec24 xFU a0 a1 a2 a3 a4 x18 x19 x20 r else x_X1_layDets_141 rec6 rec24 a0 a1 a2 a3 a4 r
theorem x_X1_layDets_24_s_ok {ms : xS} {rr : xR} {rec6 : Nat → Nat → Int32 → xR → Option (xR)} {rec24 : Nat → Nat → Int32 → Int32 → Int32 → xR → Option (xR)} (hr6 : ∀ {a0 : Nat} {a1 : Nat} {a2 : Int32} {r : xR}, rec6 a0 a1 a2 r = some rr → xB xLL yX1_layDets cX1_layDets 8 none 1 21 6 [some (.inr (.inr (some (a0))) : xV), some (.inr (.inr (some (300 + a1))) : xV), some (.inl (a2) : xV), none, none, none, none, none] [] (ms, r) none (ms, rr)) (hr24 : ∀ {a0 : Nat} {a1 : Nat} {a2 : Int32} {a3 : Int32} {a4 : Int32} {r : xR}, rec24 a0 a1 a2 a3 a4 r = some rr → xB xLL yX1_layDets cX1_layDets 8 none 1 21 24 [some (.inr (.inr (some (a0))) : xV), some (.inr (.inr (some (300 + a1))) : xV), some (.inl (a2) : xV), some (.inl (a3) : xV), some (.inl (a4) : xV), none, none, none] [] (ms, r) none (ms, rr)) {a0 : Nat} {a1 : Nat} {a2 : Int32} {a3 : Int32} {a4 : Int32} {r : xR} (h : x_X1_layDets_24_s rec6 rec24 a0 a1 a2 a3 a4 r = some rr) : xB xLL yX1_layDets cX1_layDets 8 none 1 21 24 [some (.inr (.inr (some (a0))) : xV), some (.inr (.inr (some (300 + a1))) : xV), some (.inl (a2) : xV), some (.inl (a3) : xV), some (.inl (a4) : xV), none, none, none] [] (ms, r) none (ms, rr) := by
  refine x_iload (i := 4) 26 rfl dX1_layDets_24 rfl ?_
  refine x_iconst (1 : Int32) 27 rfl dX1_layDets_26 rfl ?_
  refine x_aload_n (i := 0) 28 rfl dX1_layDets_27 rfl rfl ?_
  refine d_getiN (ci := 2) (k := 1) (C := RX4) (T := TX4) (N := 3) 31 rfl dX1_layDets_28 rfl in_X4 (by decide) (List.mem_of_getElem? (i := 7) rfl) h (fun x14 h => ?_)
  refine x_ishl 32 rfl dX1_layDets_31 ?_
  refine x_icmp_ge 147 35 rfl dX1_layDets_32 rfl h (fun h => ?_) (fun h => ?_)
  · refine x_iincL (i := 2) (1 : Int32) 150 rfl dX1_layDets_147 rfl rfl (by decide) h (fun x15 h => ?_)
    change xB xLL yX1_layDets cX1_layDets 8 none 1 21 150 [some (.inr (.inr (some (a0))) : xV), some (.inr (.inr (some (300 + a1))) : xV), some (.inl (x15) : xV), some (.inl (a3) : xV), some (.inl (a4) : xV), none, none, none] [] (ms, r) _ _
    refine x_goto 6 dX1_layDets_150 rfl ?_
    exact xB.le (xle.s (xle.s (xle.s (xle.n (xle.n (xle.n (xle.n (xle.n xle.z)))))))) (hr6 h)
  · refine x_iload_n (i := 2) 36 rfl dX1_layDets_35 rfl rfl ?_
    refine x_cl h (fun q16 hq h => ?_)
    refine x_callS (as := [(.inl (a2) : xV)]) (rest := []) (vv := (some (.inl (q16) : xV))) (w2 := (ms, r)) 39 rfl dX1_layDets_36 (p_J18_bitCount_ct hq) (lw_S q823 q824 q142 q825) ydJ18_bitCount rfl ⟨Nat.le_of_ble_eq_true rfl, Nat.le_of_ble_eq_true rfl⟩ (Nat.le_of_ble_eq_true rfl) rfl ?_
    change xB xLL yX1_layDets cX1_layDets 8 none 1 21 39 [some (.inr (.inr (some (a0))) : xV), some (.inr (.inr (some (300 + a1))) : xV), some (.inl (a2) : xV), some (.inl (a3) : xV), some (.inl (a4) : xV), none, none, none] [(.inl (q16) : xV)] (ms, r) _ _
    refine x_iload (i := 4) 41 rfl dX1_layDets_39 rfl ?_
    refine x_cl h (fun q17 hq h => ?_)
    refine x_callS (as := [(.inl (a4) : xV)]) (rest := [(.inl (q16) : xV)]) (vv := (some (.inl (q17) : xV))) (w2 := (ms, r)) 44 rfl dX1_layDets_41 (p_J18_bitCount_ct hq) (lw_S q823 q824 q142 q825) ydJ18_bitCount rfl ⟨Nat.le_of_ble_eq_true rfl, Nat.le_of_ble_eq_true rfl⟩ (Nat.le_of_ble_eq_true rfl) rfl ?_
    change xB xLL yX1_layDets cX1_layDets 8 none 1 21 44 [some (.inr (.inr (some (a0))) : xV), some (.inr (.inr (some (300 + a1))) : xV), some (.inl (a2) : xV), some (.inl (a3) : xV), some (.inl (a4) : xV), none, none, none] [(.inl (q17) : xV), (.inl (q16) : xV)] (ms, r) _ _
    refine x_icmp_eq 50 47 rfl dX1_layDets_44 rfl h (fun h => ?_) (fun h => ?_)
    · refine x_iconst (0 : Int32) 51 rfl dX1_layDets_50 rfl ?_
      refine x_lti h (fun x18 h => ?_)
      refine x_istore 53 rfl dX1_layDets_51 (by decide) (lv' := [some (.inr (.inr (some (a0))) : xV), some (.inr (.inr (some (300 + a1))) : xV), some (.inl (a2) : xV), some (.inl (a3) : xV), some (.inl (a4) : xV), some (.inl (x18) : xV), none, none]) rfl ?_
      refine x_iconst (1 : Int32) 54 rfl dX1_layDets_53 rfl ?_
      refine x_lti h (fun x19 h => ?_)
      refine x_istore 56 rfl dX1_layDets_54 (by decide) (lv' := [some (.inr (.inr (some (a0))) : xV), some (.inr (.inr (some (300 + a1))) : xV), some (.inl (a2) : xV), some (.inl (a3) : xV), some (.inl (a4) : xV), some (.inl (x18) : xV), some (.inl (x19) : xV), none]) rfl ?_
      refine x_iconst (0 : Int32) 57 rfl dX1_layDets_56 rfl ?_
      refine x_lti h (fun x20 h => ?_)
      refine x_istore 59 rfl dX1_layDets_57 (by decide) (lv' := [some (.inr (.inr (some (a0))) : xV), some (.inr (.inr (some (300 + a1))) : xV), some (.inl (a2) : xV), some (.inl (a3) : xV), some (.inl (a4) : xV), some (.inl (x18) : xV), some (.inl (x19) : xV), some (.inl (x20) : xV)]) rfl ?_
      exact xB.le (xle.s (xle.s (xle.s (xle.s (xle.s (xle.s (xle.s (xle.s xle.z)))))))) (x_X1_layDets_59_L_ok hr6 hr24 xFU h)
    · refine x_goto 141 dX1_layDets_47 rfl ?_
      exact xB.le (xle.s (xle.s (xle.s (xle.s (xle.s (xle.n (xle.n (xle.n xle.z)))))))) (x_X1_layDets_141_ok hr6 hr24 h)
def x_X1_layDets_24_L (rec6 : Nat → Nat → Int32 → xR → Option (xR)) : Nat → Nat → Nat → Int32 → Int32 → Int32 → xR → Option (xR)
  | 0 => fun _ _ _ _ _ _ => none
  | n + 1 => x_X1_layDets_24_s rec6 (x_X1_layDets_24_L rec6 n)
theorem x_X1_layDets_24_L_ok {ms : xS} {rr : xR} {rec6 : Nat → Nat → Int32 → xR → Option (xR)} (hr6 : ∀ {a0 : Nat} {a1 : Nat} {a2 : Int32} {r : xR}, rec6 a0 a1 a2 r = some rr → xB xLL yX1_layDets cX1_layDets 8 none 1 21 6 [some (.inr (.inr (some (a0))) : xV), some (.inr (.inr (some (300 + a1))) : xV), some (.inl (a2) : xV), none, none, none, none, none] [] (ms, r) none (ms, rr)) : ∀ (n9 : Nat) {a0 : Nat} {a1 : Nat} {a2 : Int32} {a3 : Int32} {a4 : Int32} {r : xR}, x_X1_layDets_24_L rec6 n9 a0 a1 a2 a3 a4 r = some rr → xB xLL yX1_layDets cX1_layDets 8 none 1 21 24 [some (.inr (.inr (some (a0))) : xV), some (.inr (.inr (some (300 + a1))) : xV), some (.inl (a2) : xV), some (.inl (a3) : xV), some (.inl (a4) : xV), none, none, none] [] (ms, r) none (ms, rr)
  | 0, _, _, _, _, _, _, h => by cases h
  | n9 + 1, _, _, _, _, _, _, h => x_X1_layDets_24_s_ok hr6 (x_X1_layDets_24_L_ok hr6 n9) h
def x_X1_layDets_6_s (rec6 : Nat → Nat → Int32 → xR → Option (xR)) (a0 : Nat) (a1 : Nat) (a2 : Int32) (r : xR) : Option (xR) := dgi xLL r a0 2 0 fun x21 => if (jshl (1 : Int32) x21) ≤ a2 then some r else cl (p_J18_numberOfTrailingZeros a2) fun q22 => lt ((1 : Int32)) fun x23 => x_X1_layDets_24_L rec6 xFU a0 a1 a2 q22 x23 r
theorem x_X1_layDets_6_s_ok {ms : xS} {rr : xR} {rec6 : Nat → Nat → Int32 → xR → Option (xR)} (hr6 : ∀ {a0 : Nat} {a1 : Nat} {a2 : Int32} {r : xR}, rec6 a0 a1 a2 r = some rr → xB xLL yX1_layDets cX1_layDets 8 none 1 21 6 [some (.inr (.inr (some (a0))) : xV), some (.inr (.inr (some (300 + a1))) : xV), some (.inl (a2) : xV), none, none, none, none, none] [] (ms, r) none (ms, rr)) {a0 : Nat} {a1 : Nat} {a2 : Int32} {r : xR} (h : x_X1_layDets_6_s rec6 a0 a1 a2 r = some rr) : xB xLL yX1_layDets cX1_layDets 8 none 1 21 6 [some (.inr (.inr (some (a0))) : xV), some (.inr (.inr (some (300 + a1))) : xV), some (.inl (a2) : xV), none, none, none, none, none] [] (ms, r) none (ms, rr) := by
  refine x_iload_n (i := 2) 7 rfl dX1_layDets_6 rfl rfl ?_
  refine x_iconst (1 : Int32) 8 rfl dX1_layDets_7 rfl ?_
  refine x_aload_n (i := 0) 9 rfl dX1_layDets_8 rfl rfl ?_
  refine d_getiN (ci := 2) (k := 0) (C := RX4) (T := TX4) (N := 3) 12 rfl dX1_layDets_9 rfl in_X4 (by decide) (List.mem_of_getElem? (i := 5) rfl) h (fun x21 h => ?_)
  refine x_ishl 13 rfl dX1_layDets_12 ?_
  refine x_icmp_ge 153 16 rfl dX1_layDets_13 rfl h (fun h => ?_) (fun h => ?_)
  · cases h
    exact x_vret rfl dX1_layDets_153
  · refine x_iload_n (i := 2) 17 rfl dX1_layDets_16 rfl rfl ?_
    refine x_cl h (fun q22 hq h => ?_)
    refine x_callS (as := [(.inl (a2) : xV)]) (rest := []) (vv := (some (.inl (q22) : xV))) (w2 := (ms, r)) 20 rfl dX1_layDets_17 (p_J18_numberOfTrailingZeros_ct hq) (lw_S q836 q837 q142 q838) ydJ18_numberOfTrailingZeros rfl ⟨Nat.le_of_ble_eq_true rfl, Nat.le_of_ble_eq_true rfl⟩ (Nat.le_of_ble_eq_true rfl) rfl ?_
    change xB xLL yX1_layDets cX1_layDets 8 none 1 21 20 [some (.inr (.inr (some (a0))) : xV), some (.inr (.inr (some (300 + a1))) : xV), some (.inl (a2) : xV), none, none, none, none, none] [(.inl (q22) : xV)] (ms, r) _ _
    refine x_istore_n 21 rfl dX1_layDets_20 rfl (by decide) (lv' := [some (.inr (.inr (some (a0))) : xV), some (.inr (.inr (some (300 + a1))) : xV), some (.inl (a2) : xV), some (.inl (q22) : xV), none, none, none, none]) rfl ?_
    refine x_iconst (1 : Int32) 22 rfl dX1_layDets_21 rfl ?_
    refine x_lti h (fun x23 h => ?_)
    refine x_istore 24 rfl dX1_layDets_22 (by decide) (lv' := [some (.inr (.inr (some (a0))) : xV), some (.inr (.inr (some (300 + a1))) : xV), some (.inl (a2) : xV), some (.inl (q22) : xV), some (.inl (x23) : xV), none, none, none]) rfl ?_
    exact xB.le (xle.s (xle.s (xle.s (xle.s (xle.s (xle.n (xle.n (xle.n xle.z)))))))) (x_X1_layDets_24_L_ok hr6 xFU h)
def x_X1_layDets_6_L : Nat → Nat → Nat → Int32 → xR → Option (xR)
  | 0 => fun _ _ _ _ => none
  | n + 1 => x_X1_layDets_6_s (x_X1_layDets_6_L  n)
theorem x_X1_layDets_6_L_ok {ms : xS} {rr : xR} : ∀ (n9 : Nat) {a0 : Nat} {a1 : Nat} {a2 : Int32} {r : xR}, x_X1_layDets_6_L  n9 a0 a1 a2 r = some rr → xB xLL yX1_layDets cX1_layDets 8 none 1 21 6 [some (.inr (.inr (some (a0))) : xV), some (.inr (.inr (some (300 + a1))) : xV), some (.inl (a2) : xV), none, none, none, none, none] [] (ms, r) none (ms, rr)
  | 0, _, _, _, _, h => by cases h
  | n9 + 1, _, _, _, _, h => x_X1_layDets_6_s_ok (x_X1_layDets_6_L_ok  n9) h
def x_X1_layDets (a0 : Nat) (a1 : Nat) (r : xR) : Option (xR) := qwr r a1 (0 : Int32) (1 : Int32) fun r24 => lt ((1 : Int32)) fun x25 => x_X1_layDets_6_L xFU a0 a1 x25 r24
theorem x_X1_layDets_ct {ms : xS} {rr : xR} {a0 : Nat} {a1 : Nat} {r : xR} (h : x_X1_layDets a0 a1 r = some rr) : xCt xLL yX1_layDets cX1_layDets 8 none 1 21 [(.inr (.inr (some (a0))) : xV), (.inr (.inr (some (300 + a1))) : xV)] (ms, r) none (ms, rr) := by
  refine xCt.of (lv := [some (.inr (.inr (some (a0))) : xV), some (.inr (.inr (some (300 + a1))) : xV), none, none, none, none, none, none]) pl_X1 (Nat.le_of_ble_eq_true rfl) (xle.s (xle.s (xle.m (xle.m (xle.m (xle.m (xle.m (xle.m xle.z)))))))) ?_
  refine x_aload_n (i := 1) 1 rfl dX1_layDets_0 rfl rfl ?_
  refine x_iconst (0 : Int32) 2 rfl dX1_layDets_1 rfl ?_
  refine x_iconst (1 : Int32) 3 rfl dX1_layDets_2 rfl ?_
  refine q_iast 4 rfl dX1_layDets_3 h (fun r24 h => ?_)
  refine x_iconst (1 : Int32) 5 rfl dX1_layDets_4 rfl ?_
  refine x_lti h (fun x25 h => ?_)
  refine x_istore_n 6 rfl dX1_layDets_5 rfl (by decide) (lv' := [some (.inr (.inr (some (a0))) : xV), some (.inr (.inr (some (300 + a1))) : xV), some (.inl (x25) : xV), none, none, none, none, none]) rfl ?_
  exact xB.le (xle.s (xle.s (xle.s (xle.n (xle.n (xle.n (xle.n (xle.n xle.z)))))))) (x_X1_layDets_6_L_ok xFU h)
/-! UnimodularTables.detsNow()[I -/
theorem ydX1_detsNow : xHd yX1_detsNow 0 := by decide +kernel
def x_X1_detsNow_18 (r : xR) : Option (Nat × xR) := qpi r 0 18 (1 : Int32) fun r1 => some (9, r1)
theorem x_X1_detsNow_18_ok {ms : xS} {rr : Nat × xR} {r : xR} (h : x_X1_detsNow_18  r = some rr) : xB xLL yX1_detsNow cX1_detsNow 1 (some (.array FieldType.int)) 2 48 18 [some (.inr (.inr (some 300)) : xV)] [] (ms, r) (some (.inr (.inr (some (300 + rr.1))))) (ms, rr.2) := by
  refine x_aload_n (i := 0) 19 rfl dX1_detsNow_18 rfl rfl ?_
  refine x_iconst (1 : Int32) 20 rfl dX1_detsNow_19 rfl ?_
  refine q_puti (k := 18) (z := 0) 23 rfl dX1_detsNow_20 (by decide) rfl (Or.inr ⟨rfl, Or.inr rfl⟩) rfl q460 h (fun r1 h => ?_)
  refine x_aload_n (i := 0) 24 rfl dX1_detsNow_23 rfl rfl ?_
  refine q_get (k := 16) 27 rfl dX1_detsNow_24 (by decide) q458 rfl ?_
  cases h
  exact x_aret rfl (Or.inr ⟨_, rfl⟩) dX1_detsNow_27
def x_X1_detsNow (r : xR) : Option (Nat × xR) := if (r.1.1 0 18) = 0 then lt (r.1.2.2 0 11) fun p2 => nn p2 fun p3 => cl (x_X1_layDets p3 9 r) fun q4 => x_X1_detsNow_18 q4 else x_X1_detsNow_18 r
theorem x_X1_detsNow_ct {ms : xS} {rr : Nat × xR} {r : xR} (h : x_X1_detsNow r = some rr) : xCt xLL yX1_detsNow cX1_detsNow 1 (some (.array FieldType.int)) 2 48 [(.inr (.inr (some 300)) : xV)] (ms, r) (some (.inr (.inr (some (300 + rr.1))))) (ms, rr.2) := by
  refine xCt.of (lv := [some (.inr (.inr (some 300)) : xV)]) pl_X1 (Nat.le_of_ble_eq_true rfl) (xle.s xle.z) ?_
  refine x_aload_n (i := 0) 1 rfl dX1_detsNow_0 rfl rfl ?_
  refine q_get (k := 18) 4 rfl dX1_detsNow_1 (by decide) q460 rfl ?_
  refine x_if_ne 18 7 rfl dX1_detsNow_4 rfl h (fun h => ?_) (fun h => ?_)
  · exact xB.le (xle.s xle.z) (x_X1_detsNow_18_ok h)
  · refine x_aload_n (i := 0) 8 rfl dX1_detsNow_7 rfl rfl ?_
    refine q_get (k := 11) 11 rfl dX1_detsNow_8 (by decide) q453 rfl ?_
    refine x_ltr h (fun p2 h => ?_)
    refine x_aload_n (i := 0) 12 rfl dX1_detsNow_11 rfl rfl ?_
    refine q_get (k := 16) 15 rfl dX1_detsNow_12 (by decide) q458 rfl ?_
    refine x_nnP (P := fun p2 => xB xLL yX1_detsNow cX1_detsNow 1 (some (.array FieldType.int)) 2 48 15 [some (.inr (.inr (some 300)) : xV)] [(.inr (.inr (some (300 + 9))) : xV), (.inr (.inr (p2)) : xV)] (ms, r) (some (.inr (.inr (some (300 + rr.1))))) (ms, rr.2)) h (fun p3 h => ?_)
    refine x_cl h (fun q4 hq h => ?_)
    refine x_callS (as := [(.inr (.inr (some (p3))) : xV), (.inr (.inr (some (300 + 9))) : xV)]) (rest := []) (vv := none) (w2 := (ms, q4)) 18 rfl dX1_detsNow_15 (x_X1_layDets_ct hq) (lw_S q833 q834 q118 q835) ydX1_layDets rfl ⟨Nat.le_of_ble_eq_true rfl, Nat.le_of_ble_eq_true rfl⟩ (Nat.le_of_ble_eq_true rfl) rfl ?_
    change xB xLL yX1_detsNow cX1_detsNow 1 (some (.array FieldType.int)) 2 48 18 [some (.inr (.inr (some 300)) : xV)] [] (ms, q4) _ _
    exact xB.le (xle.s xle.z) (x_X1_detsNow_18_ok h)
/-! UnimodularTables.det(II)I -/
theorem ydX1_det : xHd yX1_det 2 := by decide +kernel
def x_X1_det (a1 : Int32) (a2 : Int32) (r : xR) : Option (Int32 × xR) := lt (r.1.2.2 0 11) fun p1 => nu p1 (some ((-1000000 : Int32), r)) fun p2 => lt (r.1.2.2 0 11) fun p3 => nn p3 fun p4 => cl (x_X1_isSquare p4 a1 a2 r) fun q5 => if q5.1 = 0 then some ((-1000000 : Int32), q5.2) else cl (x_X1_detsNow q5.2) fun q6 => qrd q6.2 q6.1 (((64 : Int32) * a1) + a2) fun x7 => some (x7, q6.2)
theorem x_X1_det_ct {ms : xS} {rr : Int32 × xR} {a1 : Int32} {a2 : Int32} {r : xR} (h : x_X1_det a1 a2 r = some rr) : xCt xLL yX1_det cX1_det 3 (some .int) 3 68 [(.inr (.inr (some 300)) : xV), (.inl (a1) : xV), (.inl (a2) : xV)] (ms, r) (some (.inl rr.1)) (ms, rr.2) := by
  refine xCt.of (lv := [some (.inr (.inr (some 300)) : xV), some (.inl (a1) : xV), some (.inl (a2) : xV)]) pl_X1 (Nat.le_of_ble_eq_true rfl) (xle.s (xle.s (xle.s xle.z))) ?_
  refine x_aload_n (i := 0) 1 rfl dX1_det_0 rfl rfl ?_
  refine q_get (k := 11) 4 rfl dX1_det_1 (by decide) q453 rfl ?_
  refine x_ltr h (fun p1 h => ?_)
  refine x_nulP (lv := fun p1 => [some (.inr (.inr (some 300)) : xV), some (.inl (a1) : xV), some (.inl (a2) : xV)]) (st := fun p1 => []) 33 7 rfl dX1_det_4 rfl h (fun h => ?_) (fun p2 h => ?_)
  · refine x_ldc 35 rfl dX1_det_33 q657 ?_
    cases h
    exact x_iret rfl dX1_det_35
  · refine x_aload_n (i := 0) 8 rfl dX1_det_7 rfl rfl ?_
    refine q_get (k := 11) 11 rfl dX1_det_8 (by decide) q453 rfl ?_
    refine x_ltr h (fun p3 h => ?_)
    refine x_iload_n (i := 1) 12 rfl dX1_det_11 rfl rfl ?_
    refine x_iload_n (i := 2) 13 rfl dX1_det_12 rfl rfl ?_
    refine x_nnP (P := fun p3 => xB xLL yX1_det cX1_det 3 (some .int) 3 68 13 [some (.inr (.inr (some 300)) : xV), some (.inl (a1) : xV), some (.inl (a2) : xV)] [(.inl (a2) : xV), (.inl (a1) : xV), (.inr (.inr (p3)) : xV)] (ms, r) (some (.inl rr.1)) (ms, rr.2)) h (fun p4 h => ?_)
    refine x_cl h (fun q5 hq h => ?_)
    refine x_callS (as := [(.inr (.inr (some (p4))) : xV), (.inl (a1) : xV), (.inl (a2) : xV)]) (rest := []) (vv := (some (.inl (q5.1) : xV))) (w2 := (ms, q5.2)) 16 rfl dX1_det_13 (x_X1_isSquare_ct hq) (lw_S q820 q821 q118 q822) ydX1_isSquare rfl ⟨Nat.le_of_ble_eq_true rfl, Nat.le_of_ble_eq_true rfl⟩ (Nat.le_of_ble_eq_true rfl) rfl ?_
    change xB xLL yX1_det cX1_det 3 (some .int) 3 68 16 [some (.inr (.inr (some 300)) : xV), some (.inl (a1) : xV), some (.inl (a2) : xV)] [(.inl (q5.1) : xV)] (ms, q5.2) _ _
    refine x_if_eq 33 19 rfl dX1_det_16 rfl h (fun h => ?_) (fun h => ?_)
    · refine x_ldc 35 rfl dX1_det_33 q657 ?_
      cases h
      exact x_iret rfl dX1_det_35
    · refine x_aload_n (i := 0) 20 rfl dX1_det_19 rfl rfl ?_
      refine x_cl h (fun q6 hq h => ?_)
      refine x_callV (as := []) (rest := []) (vv := (some (.inr (.inr (some (300 + q6.1))) : xV))) (w2 := (ms, q6.2)) (C := RX1) (T := TX1) (N := 34) 23 rfl dX1_det_20 (x_X1_detsNow_ct hq) (Or.inl xcell_X0) rfl (lw_V q829 q831 qs23 q118 q832) rfl ydX1_detsNow rfl ⟨Nat.le_of_ble_eq_true rfl, Nat.le_of_ble_eq_true rfl⟩ (Nat.le_of_ble_eq_true rfl) rfl ?_
      change xB xLL yX1_det cX1_det 3 (some .int) 3 68 23 [some (.inr (.inr (some 300)) : xV), some (.inl (a1) : xV), some (.inl (a2) : xV)] [(.inr (.inr (some (300 + q6.1))) : xV)] (ms, q6.2) _ _
      refine x_bipush (64 : Int32) 25 rfl dX1_det_23 rfl ?_
      refine x_iload_n (i := 1) 26 rfl dX1_det_25 rfl rfl ?_
      refine x_imul 27 rfl dX1_det_26 ?_
      refine x_iload_n (i := 2) 28 rfl dX1_det_27 rfl rfl ?_
      refine x_iadd 29 rfl dX1_det_28 ?_
      refine q_iald 30 rfl dX1_det_29 h (fun x7 h => ?_)
      refine x_goto 35 dX1_det_30 rfl ?_
      cases h
      exact x_iret rfl dX1_det_35
/-! UnimodularTables.asker(I)LUnimodularTables$Asker; -/
theorem ydX1_asker : xHd yX1_asker 1 := by decide +kernel
def d_X1_asker (L : xL) (a0 : Int32) (r : xR) : Option (Nat × xR) := if a0 = 0 then some (288, r) else if a0 = (1 : Int32) then some (289, r) else some (290, r)
theorem d_X1_asker_ct {L : xL} {ms : xS} {rr : Nat × xR} {a0 : Int32} {r : xR} (h : d_X1_asker L a0 r = some rr) : xCt L yX1_asker cX1_asker 1 (some (.object "UnimodularTables$Asker")) 0 3089 [(.inl (a0) : xV)] (ms, r) (some (.inr (.inr (some rr.1)))) (ms, rr.2) := by
  refine xCt.of (lv := [some (.inl (a0) : xV)]) pl_X1 (Nat.le_of_ble_eq_true rfl) (xle.s xle.z) ?_
  refine x_iload_n (i := 0) 1 rfl dX1_asker_0 rfl rfl ?_
  refine x_if_ne 10 4 rfl dX1_asker_1 rfl h (fun h => ?_) (fun h => ?_)
  · refine x_iload_n (i := 0) 11 rfl dX1_asker_10 rfl rfl ?_
    refine x_iconst (1 : Int32) 12 rfl dX1_asker_11 rfl ?_
    refine x_icmp_ne 21 15 rfl dX1_asker_12 rfl h (fun h => ?_) (fun h => ?_)
    · refine x_indyC (k := 10) (σ := lms_10) 26 rfl dX1_asker_21 (by decide) rfl rfl (Nat.le_of_ble_eq_true rfl) ?_
      cases h
      exact x_aret rfl (Or.inl ⟨_, rfl⟩) dX1_asker_26
    · refine x_indyC (k := 9) (σ := lms_9) 20 rfl dX1_asker_15 (by decide) rfl rfl (Nat.le_of_ble_eq_true rfl) ?_
      cases h
      exact x_aret rfl (Or.inl ⟨_, rfl⟩) dX1_asker_20
  · refine x_indyC (k := 8) (σ := lms_8) 9 rfl dX1_asker_4 (by decide) rfl rfl (Nat.le_of_ble_eq_true rfl) ?_
    cases h
    exact x_aret rfl (Or.inl ⟨_, rfl⟩) dX1_asker_9
/-! UnimodularTables.lambda$asker$3(I)Z -/
theorem ydX1_lambda_asker_3 : xHd yX1_lambda_asker_3 1 := by decide +kernel
def p_X1_lambda_asker_3 (a0 : Int32) : Option (Int32) := if a0 = 0 then some ((1 : Int32)) else some ((0 : Int32))
theorem p_X1_lambda_asker_3_ct {L : xL} {w : xW} {rr : Int32} {a0 : Int32} (h : p_X1_lambda_asker_3 a0 = some rr) : xCt L yX1_lambda_asker_3 cX1_lambda_asker_3 1 (some .boolean) 0 0 [(.inl (a0) : xV)] w (some (.inl rr)) w := by
  refine xCt.of (lv := [some (.inl (a0) : xV)]) pl_X1 (Nat.le_of_ble_eq_true rfl) (xle.s xle.z) ?_
  refine x_iload_n (i := 0) 1 rfl dX1_lambda_asker_3_0 rfl rfl ?_
  refine x_if_ne 8 4 rfl dX1_lambda_asker_3_1 rfl h (fun h => ?_) (fun h => ?_)
  · refine x_iconst (0 : Int32) 9 rfl dX1_lambda_asker_3_8 rfl ?_
    cases h
    exact x_zret rfl (Or.inl rfl) dX1_lambda_asker_3_9
  · refine x_iconst (1 : Int32) 5 rfl dX1_lambda_asker_3_4 rfl ?_
    refine x_goto 9 dX1_lambda_asker_3_5 rfl ?_
    cases h
    exact x_zret rfl (Or.inr rfl) dX1_lambda_asker_3_9
/-! UnimodularTables.lambda$asker$4(I)Z -/
theorem ydX1_lambda_asker_4 : xHd yX1_lambda_asker_4 1 := by decide +kernel
def p_X1_lambda_asker_4_10  : Option (Int32) := some ((1 : Int32))
theorem p_X1_lambda_asker_4_10_ok {L : xL} {w : xW} {rr : Int32}  (h : p_X1_lambda_asker_4_10   = some rr) : xB L yX1_lambda_asker_4 cX1_lambda_asker_4 1 (some .boolean) 0 0 10 [none] [] w (some (.inl rr)) w := by
  refine x_iconst (1 : Int32) 11 rfl dX1_lambda_asker_4_10 rfl ?_
  refine x_goto 15 dX1_lambda_asker_4_11 rfl ?_
  cases h
  exact x_zret rfl (Or.inr rfl) dX1_lambda_asker_4_15
def p_X1_lambda_asker_4 (a0 : Int32) : Option (Int32) := if a0 = (1 : Int32) then p_X1_lambda_asker_4_10 else if a0 = (-1 : Int32) then p_X1_lambda_asker_4_10 else some ((0 : Int32))
theorem p_X1_lambda_asker_4_ct {L : xL} {w : xW} {rr : Int32} {a0 : Int32} (h : p_X1_lambda_asker_4 a0 = some rr) : xCt L yX1_lambda_asker_4 cX1_lambda_asker_4 1 (some .boolean) 0 0 [(.inl (a0) : xV)] w (some (.inl rr)) w := by
  refine xCt.of (lv := [some (.inl (a0) : xV)]) pl_X1 (Nat.le_of_ble_eq_true rfl) (xle.s xle.z) ?_
  refine x_iload_n (i := 0) 1 rfl dX1_lambda_asker_4_0 rfl rfl ?_
  refine x_iconst (1 : Int32) 2 rfl dX1_lambda_asker_4_1 rfl ?_
  refine x_icmp_eq 10 5 rfl dX1_lambda_asker_4_2 rfl h (fun h => ?_) (fun h => ?_)
  · exact xB.le (xle.n xle.z) (p_X1_lambda_asker_4_10_ok h)
  · refine x_iload_n (i := 0) 6 rfl dX1_lambda_asker_4_5 rfl rfl ?_
    refine x_iconst (-1 : Int32) 7 rfl dX1_lambda_asker_4_6 rfl ?_
    refine x_icmp_ne 14 10 rfl dX1_lambda_asker_4_7 rfl h (fun h => ?_) (fun h => ?_)
    · refine x_iconst (0 : Int32) 15 rfl dX1_lambda_asker_4_14 rfl ?_
      cases h
      exact x_zret rfl (Or.inl rfl) dX1_lambda_asker_4_15
    · exact xB.le (xle.n xle.z) (p_X1_lambda_asker_4_10_ok h)
/-! UnimodularTables.isBeyond(I)Z -/
theorem ydX1_isBeyond : xHd yX1_isBeyond 1 := by decide +kernel
def p_X1_isBeyond (a0 : Int32) : Option (Int32) := cl (p_X1_in a0 (-1 : Int32) (1 : Int32)) fun q1 => if q1 = 0 then some ((1 : Int32)) else some ((0 : Int32))
theorem p_X1_isBeyond_ct {L : xL} {w : xW} {rr : Int32} {a0 : Int32} (h : p_X1_isBeyond a0 = some rr) : xCt L yX1_isBeyond cX1_isBeyond 1 (some .boolean) 1 22 [(.inl (a0) : xV)] w (some (.inl rr)) w := by
  refine xCt.of (lv := [some (.inl (a0) : xV)]) pl_X1 (Nat.le_of_ble_eq_true rfl) (xle.s xle.z) ?_
  refine x_iload_n (i := 0) 1 rfl dX1_isBeyond_0 rfl rfl ?_
  refine x_iconst (-1 : Int32) 2 rfl dX1_isBeyond_1 rfl ?_
  refine x_iconst (1 : Int32) 3 rfl dX1_isBeyond_2 rfl ?_
  refine x_cl h (fun q1 hq h => ?_)
  refine x_callSi [] 6 rfl dX1_isBeyond_3 (p_X1_in_ct hq) (lw_S q556 q557 q118 q558) ydX1_in rfl ⟨Nat.le_of_ble_eq_true rfl, Nat.le_of_ble_eq_true rfl⟩ (Nat.le_of_ble_eq_true rfl) rfl ?_
  refine x_if_ne 13 9 rfl dX1_isBeyond_6 rfl h (fun h => ?_) (fun h => ?_)
  · refine x_iconst (0 : Int32) 14 rfl dX1_isBeyond_13 rfl ?_
    cases h
    exact x_zret rfl (Or.inl rfl) dX1_isBeyond_14
  · refine x_iconst (1 : Int32) 10 rfl dX1_isBeyond_9 rfl ?_
    refine x_goto 14 dX1_isBeyond_10 rfl ?_
    cases h
    exact x_zret rfl (Or.inr rfl) dX1_isBeyond_14
/-! UnimodularTables.lambda$rank$5(I)Z -/
theorem ydX1_lambda_rank_5 : xHd yX1_lambda_rank_5 1 := by decide +kernel
def p_X1_lambda_rank_5 (a0 : Int32) : Option (Int32) := if a0 = 0 then some ((0 : Int32)) else some ((1 : Int32))
theorem p_X1_lambda_rank_5_ct {L : xL} {w : xW} {rr : Int32} {a0 : Int32} (h : p_X1_lambda_rank_5 a0 = some rr) : xCt L yX1_lambda_rank_5 cX1_lambda_rank_5 1 (some .boolean) 0 0 [(.inl (a0) : xV)] w (some (.inl rr)) w := by
  refine xCt.of (lv := [some (.inl (a0) : xV)]) pl_X1 (Nat.le_of_ble_eq_true rfl) (xle.s xle.z) ?_
  refine x_iload_n (i := 0) 1 rfl dX1_lambda_rank_5_0 rfl rfl ?_
  refine x_if_eq 8 4 rfl dX1_lambda_rank_5_1 rfl h (fun h => ?_) (fun h => ?_)
  · refine x_iconst (0 : Int32) 9 rfl dX1_lambda_rank_5_8 rfl ?_
    cases h
    exact x_zret rfl (Or.inl rfl) dX1_lambda_rank_5_9
  · refine x_iconst (1 : Int32) 5 rfl dX1_lambda_rank_5_4 rfl ?_
    refine x_goto 9 dX1_lambda_rank_5_5 rfl ?_
    cases h
    exact x_zret rfl (Or.inr rfl) dX1_lambda_rank_5_9
/-! UnimodularTables.lambda$rank$6(II)Z -/
theorem ydX1_lambda_rank_6 : xHd yX1_lambda_rank_6 2 := by decide +kernel
def p_X1_lambda_rank_6 (a0 : Int32) (a1 : Int32) : Option (Int32) := nz a0 (if (jrem a1 a0) = 0 then some ((0 : Int32)) else some ((1 : Int32)))
theorem p_X1_lambda_rank_6_ct {L : xL} {w : xW} {rr : Int32} {a0 : Int32} {a1 : Int32} (h : p_X1_lambda_rank_6 a0 a1 = some rr) : xCt L yX1_lambda_rank_6 cX1_lambda_rank_6 2 (some .boolean) 0 0 [(.inl (a0) : xV), (.inl (a1) : xV)] w (some (.inl rr)) w := by
  refine xCt.of (lv := [some (.inl (a0) : xV), some (.inl (a1) : xV)]) pl_X1 (Nat.le_of_ble_eq_true rfl) (xle.s (xle.s xle.z)) ?_
  refine x_iload_n (i := 1) 1 rfl dX1_lambda_rank_6_0 rfl rfl ?_
  refine x_iload_n (i := 0) 2 rfl dX1_lambda_rank_6_1 rfl rfl ?_
  refine x_nz h (fun hz h => ?_)
  refine x_irem 3 rfl dX1_lambda_rank_6_2 hz ?_
  refine x_if_eq 10 6 rfl dX1_lambda_rank_6_3 rfl h (fun h => ?_) (fun h => ?_)
  · refine x_iconst (0 : Int32) 11 rfl dX1_lambda_rank_6_10 rfl ?_
    cases h
    exact x_zret rfl (Or.inl rfl) dX1_lambda_rank_6_11
  · refine x_iconst (1 : Int32) 7 rfl dX1_lambda_rank_6_6 rfl ?_
    refine x_goto 11 dX1_lambda_rank_6_7 rfl ?_
    cases h
    exact x_zret rfl (Or.inr rfl) dX1_lambda_rank_6_11
/-! UnimodularTables.lambda$bases$7(I)Z -/
theorem ydX1_lambda_bases_7 : xHd yX1_lambda_bases_7 1 := by decide +kernel
def p_X1_lambda_bases_7 (a0 : Int32) : Option (Int32) := if a0 = 0 then some ((0 : Int32)) else some ((1 : Int32))
theorem p_X1_lambda_bases_7_ct {L : xL} {w : xW} {rr : Int32} {a0 : Int32} (h : p_X1_lambda_bases_7 a0 = some rr) : xCt L yX1_lambda_bases_7 cX1_lambda_bases_7 1 (some .boolean) 0 0 [(.inl (a0) : xV)] w (some (.inl rr)) w := by
  refine xCt.of (lv := [some (.inl (a0) : xV)]) pl_X1 (Nat.le_of_ble_eq_true rfl) (xle.s xle.z) ?_
  refine x_iload_n (i := 0) 1 rfl dX1_lambda_bases_7_0 rfl rfl ?_
  refine x_if_eq 8 4 rfl dX1_lambda_bases_7_1 rfl h (fun h => ?_) (fun h => ?_)
  · refine x_iconst (0 : Int32) 9 rfl dX1_lambda_bases_7_8 rfl ?_
    cases h
    exact x_zret rfl (Or.inl rfl) dX1_lambda_bases_7_9
  · refine x_iconst (1 : Int32) 5 rfl dX1_lambda_bases_7_4 rfl ?_
    refine x_goto 9 dX1_lambda_bases_7_5 rfl ?_
    cases h
    exact x_zret rfl (Or.inr rfl) dX1_lambda_bases_7_9
section XFc3
variable {L : xL} {y : MethodName} {cc : ByteArray} {nL : Nat} {ret : Option FieldType} {d lo pc : Nat} {lv : List (Option xV)} {ms : xS} {r : xR} {v : Option xV} {w1 : xW} {ix cnt : Nat}
/-- an Asker -/
def lak0 (L : xL) (r : xR) (c : Nat) (x : Int32) : Option Int32 := match xlm L r c with
  | some (8, []) => p_X1_lambda_asker_3 x
  | some (9, []) => p_X1_lambda_asker_4 x
  | some (10, []) => p_X1_isBeyond x
  | some (11, []) => p_X1_isBeyond x
  | some (12, []) => p_X1_isBeyond x
  | some (13, []) => p_X1_lambda_rank_5 x
  | some (14, [.inl n]) => p_X1_lambda_rank_6 n x
  | some (15, []) => p_X1_lambda_bases_7 x
  | _ => none
def lak (L : xL) (r : xR) (c : Nat) (x : Int32) : Option Int32 := cl (lak0 L r c x) fun q => zb q <| some q
theorem x_ask {c : Nat} {x rr : Int32} (rest : List xV) (pn : Nat) (hp : pc + 5 = pn) (hd : decode cc pc = .ok (.invokeinterface ix cnt, 5)) (hlink : Cond.methodLink y.cls ix ⟨"UnimodularTables$Asker", "holds", "(I)Z"⟩ ∈ lw_all) (h : lak L r c x = some rr) (hroom : 5 ≤ d ∧ 121 ≤ lo) (hr : (rest.map xw).sum ≤ 8) (kk : xB L y cc nL ret d lo pn lv ((.inl rr : xV) :: rest) (ms, r) v w1) : xB L y cc nL ret d lo pc lv ((.inl x : xV) :: (.inr (.inr (some c)) : xV) :: rest) (ms, r) v w1 := by
  refine x_cl h (fun q hq h => ?_)
  refine x_zb h (fun hz h => ?_)
  cases h
  unfold lak0 at hq
  split at hq
  · rename_i hx
    exact x_lam (vv := some (.inl rr)) (as := [(.inl x : xV)]) (rest := rest) pn hp hd lmt_8 (lm_P (d := 4) (lo := 100) (p_X1_lambda_asker_3_ct hq) q851 q850 q118 rfl ydX1_lambda_asker_3 rfl hz ⟨Nat.le_of_ble_eq_true rfl, Nat.le_of_ble_eq_true rfl⟩) (xlm_rd (ms := ms) hx) ⟨_, _, _, q851⟩ hlink rfl ⟨hroom.1, hroom.2⟩ hr rfl kk
  · rename_i hx
    exact x_lam (vv := some (.inl rr)) (as := [(.inl x : xV)]) (rest := rest) pn hp hd lmt_9 (lm_P (d := 4) (lo := 100) (p_X1_lambda_asker_4_ct hq) q853 q852 q118 rfl ydX1_lambda_asker_4 rfl hz ⟨Nat.le_of_ble_eq_true rfl, Nat.le_of_ble_eq_true rfl⟩) (xlm_rd (ms := ms) hx) ⟨_, _, _, q853⟩ hlink rfl ⟨hroom.1, hroom.2⟩ hr rfl kk
  · rename_i hx
    exact x_lam (vv := some (.inl rr)) (as := [(.inl x : xV)]) (rest := rest) pn hp hd lmt_10 (lm_P (d := 4) (lo := 100) (p_X1_isBeyond_ct hq) q855 q854 q118 rfl ydX1_isBeyond rfl hz ⟨Nat.le_of_ble_eq_true rfl, Nat.le_of_ble_eq_true rfl⟩) (xlm_rd (ms := ms) hx) ⟨_, _, _, q855⟩ hlink rfl ⟨hroom.1, hroom.2⟩ hr rfl kk
  · rename_i hx
    exact x_lam (vv := some (.inl rr)) (as := [(.inl x : xV)]) (rest := rest) pn hp hd lmt_11 (lm_P (d := 4) (lo := 100) (p_X1_isBeyond_ct hq) q855 q854 q118 rfl ydX1_isBeyond rfl hz ⟨Nat.le_of_ble_eq_true rfl, Nat.le_of_ble_eq_true rfl⟩) (xlm_rd (ms := ms) hx) ⟨_, _, _, q855⟩ hlink rfl ⟨hroom.1, hroom.2⟩ hr rfl kk
  · rename_i hx
    exact x_lam (vv := some (.inl rr)) (as := [(.inl x : xV)]) (rest := rest) pn hp hd lmt_12 (lm_P (d := 4) (lo := 100) (p_X1_isBeyond_ct hq) q855 q854 q118 rfl ydX1_isBeyond rfl hz ⟨Nat.le_of_ble_eq_true rfl, Nat.le_of_ble_eq_true rfl⟩) (xlm_rd (ms := ms) hx) ⟨_, _, _, q855⟩ hlink rfl ⟨hroom.1, hroom.2⟩ hr rfl kk
  · rename_i hx
    exact x_lam (vv := some (.inl rr)) (as := [(.inl x : xV)]) (rest := rest) pn hp hd lmt_13 (lm_P (d := 4) (lo := 100) (p_X1_lambda_rank_5_ct hq) q1685 q1684 q118 rfl ydX1_lambda_rank_5 rfl hz ⟨Nat.le_of_ble_eq_true rfl, Nat.le_of_ble_eq_true rfl⟩) (xlm_rd (ms := ms) hx) ⟨_, _, _, q1685⟩ hlink rfl ⟨hroom.1, hroom.2⟩ hr rfl kk
  · rename_i hx
    exact x_lam (vv := some (.inl rr)) (as := [(.inl x : xV)]) (rest := rest) pn hp hd lmt_14 (lm_Q (d := 4) (lo := 100) (p_X1_lambda_rank_6_ct hq) q1687 q1686 q118 rfl ydX1_lambda_rank_6 rfl hz ⟨Nat.le_of_ble_eq_true rfl, Nat.le_of_ble_eq_true rfl⟩) (xlm_rd (ms := ms) hx) ⟨_, _, _, q1687⟩ hlink rfl ⟨hroom.1, hroom.2⟩ hr rfl kk
  · rename_i hx
    exact x_lam (vv := some (.inl rr)) (as := [(.inl x : xV)]) (rest := rest) pn hp hd lmt_15 (lm_P (d := 4) (lo := 100) (p_X1_lambda_bases_7_ct hq) q1693 q1692 q118 rfl ydX1_lambda_bases_7 rfl hz ⟨Nat.le_of_ble_eq_true rfl, Nat.le_of_ble_eq_true rfl⟩) (xlm_rd (ms := ms) hx) ⟨_, _, _, q1693⟩ hlink rfl ⟨hroom.1, hroom.2⟩ hr rfl kk
  · cases hq
end XFc3
/-! UnimodularTables.many(LUnimodularTables$Table;[IILUnimodularTables$Asker;)I -/
theorem ydX1_many : xHd yX1_many 4 := by decide +kernel
def x_X1_many_86 (rec6 : Nat → Nat → Int32 → Nat → Int32 → Int32 → xR → Option (Int32 × xR)) (a0 : Nat) (a1 : Nat) (a2 : Int32) (a3 : Nat) (a4 : Int32) (a5 : Int32) (r : xR) : Option (Int32 × xR) := lt (a5 + (1 : Int32)) fun x1 => rec6 a0 a1 a2 a3 a4 x1 r
theorem x_X1_many_86_ok {ms : xS} {rr : Int32 × xR} {rec6 : Nat → Nat → Int32 → Nat → Int32 → Int32 → xR → Option (Int32 × xR)} (hr6 : ∀ {a0 : Nat} {a1 : Nat} {a2 : Int32} {a3 : Nat} {a4 : Int32} {a5 : Int32} {r : xR}, rec6 a0 a1 a2 a3 a4 a5 r = some rr → xB xLL yX1_many cX1_many 7 (some .int) 5 121 6 [some (.inr (.inr (some (a0))) : xV), some (.inr (.inr (some (300 + a1))) : xV), some (.inl (a2) : xV), some (.inr (.inr (some (a3))) : xV), some (.inl (a4) : xV), some (.inl (a5) : xV), none] [] (ms, r) (some (.inl rr.1)) (ms, rr.2)) {a0 : Nat} {a1 : Nat} {a2 : Int32} {a3 : Nat} {a4 : Int32} {a5 : Int32} {r : xR} (h : x_X1_many_86 rec6 a0 a1 a2 a3 a4 a5 r = some rr) : xB xLL yX1_many cX1_many 7 (some .int) 5 121 86 [some (.inr (.inr (some (a0))) : xV), some (.inr (.inr (some (300 + a1))) : xV), some (.inl (a2) : xV), some (.inr (.inr (some (a3))) : xV), some (.inl (a4) : xV), some (.inl (a5) : xV), none] [] (ms, r) (some (.inl rr.1)) (ms, rr.2) := by
  refine x_iincL (i := 5) (1 : Int32) 89 rfl dX1_many_86 rfl rfl (by decide) h (fun x1 h => ?_)
  change xB xLL yX1_many cX1_many 7 (some .int) 5 121 89 [some (.inr (.inr (some (a0))) : xV), some (.inr (.inr (some (300 + a1))) : xV), some (.inl (a2) : xV), some (.inr (.inr (some (a3))) : xV), some (.inl (a4) : xV), some (.inl (x1) : xV), none] [] (ms, r) _ _
  refine x_goto 6 dX1_many_89 rfl ?_
  exact xB.le (xle.s (xle.s (xle.s (xle.s (xle.s (xle.s (xle.n xle.z))))))) (hr6 h)
def x_X1_many_80 (rec6 : Nat → Nat → Int32 → Nat → Int32 → Int32 → xR → Option (Int32 × xR)) (rec36 : Nat → Nat → Int32 → Nat → Int32 → Int32 → Int32 → xR → Option (Int32 × xR)) (a0 : Nat) (a1 : Nat) (a2 : Int32) (a3 : Nat) (a4 : Int32) (a5 : Int32) (a6 : Int32) (r : xR) : Option (Int32 × xR) := lt (a6 + (1 : Int32)) fun x2 => rec36 a0 a1 a2 a3 a4 a5 x2 r
theorem x_X1_many_80_ok {ms : xS} {rr : Int32 × xR} {rec6 : Nat → Nat → Int32 → Nat → Int32 → Int32 → xR → Option (Int32 × xR)} {rec36 : Nat → Nat → Int32 → Nat → Int32 → Int32 → Int32 → xR → Option (Int32 × xR)} (hr6 : ∀ {a0 : Nat} {a1 : Nat} {a2 : Int32} {a3 : Nat} {a4 : Int32} {a5 : Int32} {r : xR}, rec6 a0 a1 a2 a3 a4 a5 r = some rr → xB xLL yX1_many cX1_many 7 (some .int) 5 121 6 [some (.inr (.inr (some (a0))) : xV), some (.inr (.inr (some (300 + a1))) : xV), some (.inl (a2) : xV), some (.inr (.inr (some (a3))) : xV), some (.inl (a4) : xV), some (.inl (a5) : xV), none] [] (ms, r) (some (.inl rr.1)) (ms, rr.2)) (hr36 : ∀ {a0 : Nat} {a1 : Nat} {a2 : Int32} {a3 : Nat} {a4 : Int32} {a5 : Int32} {a6 : Int32} {r : xR}, rec36 a0 a1 a2 a3 a4 a5 a6 r = some rr → xB xLL yX1_many cX1_many 7 (some .int) 5 121 36 [some (.inr (.inr (some (a0))) : xV), some (.inr (.inr (some (300 + a1))) : xV), some (.inl (a2) : xV), some (.inr (.inr (some (a3))) : xV), some (.inl (a4) : xV), some (.inl (a5) : xV), some (.inl (a6) : xV)] [] (ms, r) (some (.inl rr.1)) (ms, rr.2)) {a0 : Nat} {a1 : Nat} {a2 : Int32} {a3 : Nat} {a4 : Int32} {a5 : Int32} {a6 : Int32} {r : xR} (h : x_X1_many_80 rec6 rec36 a0 a1 a2 a3 a4 a5 a6 r = some rr) : xB xLL yX1_many cX1_many 7 (some .int) 5 121 80 [some (.inr (.inr (some (a0))) : xV), some (.inr (.inr (some (300 + a1))) : xV), some (.inl (a2) : xV), some (.inr (.inr (some (a3))) : xV), some (.inl (a4) : xV), some (.inl (a5) : xV), some (.inl (a6) : xV)] [] (ms, r) (some (.inl rr.1)) (ms, rr.2) := by
  refine x_iincL (i := 6) (1 : Int32) 83 rfl dX1_many_80 rfl rfl (by decide) h (fun x2 h => ?_)
  change xB xLL yX1_many cX1_many 7 (some .int) 5 121 83 [some (.inr (.inr (some (a0))) : xV), some (.inr (.inr (some (300 + a1))) : xV), some (.inl (a2) : xV), some (.inr (.inr (some (a3))) : xV), some (.inl (a4) : xV), some (.inl (a5) : xV), some (.inl (x2) : xV)] [] (ms, r) _ _
  refine x_goto 36 dX1_many_83 rfl ?_
  exact xB.le (xle.s (xle.s (xle.s (xle.s (xle.s (xle.s (xle.s xle.z))))))) (hr36 h)
def x_X1_many_36_s (rec6 : Nat → Nat → Int32 → Nat → Int32 → Int32 → xR → Option (Int32 × xR)) (rec36 : Nat → Nat → Int32 → Nat → Int32 → Int32 → Int32 → xR → Option (Int32 × xR)) (a0 : Nat) (a1 : Nat) (a2 : Int32) (a3 : Nat) (a4 : Int32) (a5 : Int32) (a6 : Int32) (r : xR) : Option (Int32 × xR) := dgi xLL r a0 2 1 fun x3 => if (jshl (1 : Int32) x3) ≤ a6 then x_X1_many_86 rec6 a0 a1 a2 a3 a4 a5 r else cl (x_X1_isSquare a0 a5 a6 r) fun q4 => if q4.1 = 0 then x_X1_many_80 rec6 rec36 a0 a1 a2 a3 a4 a5 a6 q4.2 else qrd q4.2 a1 (((64 : Int32) * a5) + a6) fun x5 => cl (lak xLL q4.2 a3 x5) fun q6 => if q6 = 0 then x_X1_many_80 rec6 rec36 a0 a1 a2 a3 a4 a5 a6 q4.2 else lt (a4 + (1 : Int32)) fun x7 => x_X1_many_80 rec6 rec36 a0 a1 a2 a3 x7 a5 a6 q4.2
theorem x_X1_many_36_s_ok {ms : xS} {rr : Int32 × xR} {rec6 : Nat → Nat → Int32 → Nat → Int32 → Int32 → xR → Option (Int32 × xR)} {rec36 : Nat → Nat → Int32 → Nat → Int32 → Int32 → Int32 → xR → Option (Int32 × xR)} (hr6 : ∀ {a0 : Nat} {a1 : Nat} {a2 : Int32} {a3 : Nat} {a4 : Int32} {a5 : Int32} {r : xR}, rec6 a0 a1 a2 a3 a4 a5 r = some rr → xB xLL yX1_many cX1_many 7 (some .int) 5 121 6 [some (.inr (.inr (some (a0))) : xV), some (.inr (.inr (some (300 + a1))) : xV), some (.inl (a2) : xV), some (.inr (.inr (some (a3))) : xV), some (.inl (a4) : xV), some (.inl (a5) : xV), none] [] (ms, r) (some (.inl rr.1)) (ms, rr.2)) (hr36 : ∀ {a0 : Nat} {a1 : Nat} {a2 : Int32} {a3 : Nat} {a4 : Int32} {a5 : Int32} {a6 : Int32} {r : xR}, rec36 a0 a1 a2 a3 a4 a5 a6 r = some rr → xB xLL yX1_many cX1_many 7 (some .int) 5 121 36 [some (.inr (.inr (some (a0))) : xV), some (.inr (.inr (some (300 + a1))) : xV), some (.inl (a2) : xV), some (.inr (.inr (some (a3))) : xV), some (.inl (a4) : xV), some (.inl (a5) : xV), some (.inl (a6) : xV)] [] (ms, r) (some (.inl rr.1)) (ms, rr.2)) {a0 : Nat} {a1 : Nat} {a2 : Int32} {a3 : Nat} {a4 : Int32} {a5 : Int32} {a6 : Int32} {r : xR} (h : x_X1_many_36_s rec6 rec36 a0 a1 a2 a3 a4 a5 a6 r = some rr) : xB xLL yX1_many cX1_many 7 (some .int) 5 121 36 [some (.inr (.inr (some (a0))) : xV), some (.inr (.inr (some (300 + a1))) : xV), some (.inl (a2) : xV), some (.inr (.inr (some (a3))) : xV), some (.inl (a4) : xV), some (.inl (a5) : xV), some (.inl (a6) : xV)] [] (ms, r) (some (.inl rr.1)) (ms, rr.2) := by
  refine x_iload (i := 6) 38 rfl dX1_many_36 rfl ?_
  refine x_iconst (1 : Int32) 39 rfl dX1_many_38 rfl ?_
  refine x_aload_n (i := 0) 40 rfl dX1_many_39 rfl rfl ?_
  refine d_getiN (ci := 2) (k := 1) (C := RX4) (T := TX4) (N := 3) 43 rfl dX1_many_40 rfl in_X4 (by decide) (List.mem_of_getElem? (i := 7) rfl) h (fun x3 h => ?_)
  refine x_ishl 44 rfl dX1_many_43 ?_
  refine x_icmp_ge 86 47 rfl dX1_many_44 rfl h (fun h => ?_) (fun h => ?_)
  · exact xB.le (xle.s (xle.s (xle.s (xle.s (xle.s (xle.s (xle.n xle.z))))))) (x_X1_many_86_ok hr6 h)
  · refine x_aload_n (i := 0) 48 rfl dX1_many_47 rfl rfl ?_
    refine x_iload (i := 5) 50 rfl dX1_many_48 rfl ?_
    refine x_iload (i := 6) 52 rfl dX1_many_50 rfl ?_
    refine x_cl h (fun q4 hq h => ?_)
    refine x_callS (as := [(.inr (.inr (some (a0))) : xV), (.inl (a5) : xV), (.inl (a6) : xV)]) (rest := []) (vv := (some (.inl (q4.1) : xV))) (w2 := (ms, q4.2)) 55 rfl dX1_many_52 (x_X1_isSquare_ct hq) (lw_S q820 q821 q118 q822) ydX1_isSquare rfl ⟨Nat.le_of_ble_eq_true rfl, Nat.le_of_ble_eq_true rfl⟩ (Nat.le_of_ble_eq_true rfl) rfl ?_
    change xB xLL yX1_many cX1_many 7 (some .int) 5 121 55 [some (.inr (.inr (some (a0))) : xV), some (.inr (.inr (some (300 + a1))) : xV), some (.inl (a2) : xV), some (.inr (.inr (some (a3))) : xV), some (.inl (a4) : xV), some (.inl (a5) : xV), some (.inl (a6) : xV)] [(.inl (q4.1) : xV)] (ms, q4.2) _ _
    refine x_if_eq 80 58 rfl dX1_many_55 rfl h (fun h => ?_) (fun h => ?_)
    · exact xB.le (xle.s (xle.s (xle.s (xle.s (xle.s (xle.s (xle.s xle.z))))))) (x_X1_many_80_ok hr6 hr36 h)
    · refine x_aload_n (i := 3) 59 rfl dX1_many_58 rfl rfl ?_
      refine x_aload_n (i := 1) 60 rfl dX1_many_59 rfl rfl ?_
      refine x_bipush (64 : Int32) 62 rfl dX1_many_60 rfl ?_
      refine x_iload (i := 5) 64 rfl dX1_many_62 rfl ?_
      refine x_imul 65 rfl dX1_many_64 ?_
      refine x_iload (i := 6) 67 rfl dX1_many_65 rfl ?_
      refine x_iadd 68 rfl dX1_many_67 ?_
      refine q_iald 69 rfl dX1_many_68 h (fun x5 h => ?_)
      refine x_cl h (fun q6 hq h => ?_)
      refine x_ask [] 74 rfl dX1_many_69 q860 hq ⟨Nat.le_of_ble_eq_true rfl, Nat.le_of_ble_eq_true rfl⟩ (Nat.le_of_ble_eq_true rfl) ?_
      refine x_if_eq 80 77 rfl dX1_many_74 rfl h (fun h => ?_) (fun h => ?_)
      · exact xB.le (xle.s (xle.s (xle.s (xle.s (xle.s (xle.s (xle.s xle.z))))))) (x_X1_many_80_ok hr6 hr36 h)
      · refine x_iincL (i := 4) (1 : Int32) 80 rfl dX1_many_77 rfl rfl (by decide) h (fun x7 h => ?_)
        change xB xLL yX1_many cX1_many 7 (some .int) 5 121 80 [some (.inr (.inr (some (a0))) : xV), some (.inr (.inr (some (300 + a1))) : xV), some (.inl (a2) : xV), some (.inr (.inr (some (a3))) : xV), some (.inl (x7) : xV), some (.inl (a5) : xV), some (.inl (a6) : xV)] [] (ms, q4.2) _ _
        exact xB.le (xle.s (xle.s (xle.s (xle.s (xle.s (xle.s (xle.s xle.z))))))) (x_X1_many_80_ok hr6 hr36 h)
def x_X1_many_36_L (rec6 : Nat → Nat → Int32 → Nat → Int32 → Int32 → xR → Option (Int32 × xR)) : Nat → Nat → Nat → Int32 → Nat → Int32 → Int32 → Int32 → xR → Option (Int32 × xR)
  | 0 => fun _ _ _ _ _ _ _ _ => none
  | n + 1 => x_X1_many_36_s rec6 (x_X1_many_36_L rec6 n)
theorem x_X1_many_36_L_ok {ms : xS} {rr : Int32 × xR} {rec6 : Nat → Nat → Int32 → Nat → Int32 → Int32 → xR → Option (Int32 × xR)} (hr6 : ∀ {a0 : Nat} {a1 : Nat} {a2 : Int32} {a3 : Nat} {a4 : Int32} {a5 : Int32} {r : xR}, rec6 a0 a1 a2 a3 a4 a5 r = some rr → xB xLL yX1_many cX1_many 7 (some .int) 5 121 6 [some (.inr (.inr (some (a0))) : xV), some (.inr (.inr (some (300 + a1))) : xV), some (.inl (a2) : xV), some (.inr (.inr (some (a3))) : xV), some (.inl (a4) : xV), some (.inl (a5) : xV), none] [] (ms, r) (some (.inl rr.1)) (ms, rr.2)) : ∀ (n9 : Nat) {a0 : Nat} {a1 : Nat} {a2 : Int32} {a3 : Nat} {a4 : Int32} {a5 : Int32} {a6 : Int32} {r : xR}, x_X1_many_36_L rec6 n9 a0 a1 a2 a3 a4 a5 a6 r = some rr → xB xLL yX1_many cX1_many 7 (some .int) 5 121 36 [some (.inr (.inr (some (a0))) : xV), some (.inr (.inr (some (300 + a1))) : xV), some (.inl (a2) : xV), some (.inr (.inr (some (a3))) : xV), some (.inl (a4) : xV), some (.inl (a5) : xV), some (.inl (a6) : xV)] [] (ms, r) (some (.inl rr.1)) (ms, rr.2)
  | 0, _, _, _, _, _, _, _, _, h => by cases h
  | n9 + 1, _, _, _, _, _, _, _, _, h => x_X1_many_36_s_ok hr6 (x_X1_many_36_L_ok hr6 n9) h
def x_X1_many_33 (rec6 : Nat → Nat → Int32 → Nat → Int32 → Int32 → xR → Option (Int32 × xR)) (a0 : Nat) (a1 : Nat) (a2 : Int32) (a3 : Nat) (a4 : Int32) (a5 : Int32) (r : xR) : Option (Int32 × xR) := lt ((1 : Int32)) fun x8 => x_X1_many_36_L rec6 xFU a0 a1 a2 a3 a4 a5 x8 r
theorem x_X1_many_33_ok {ms : xS} {rr : Int32 × xR} {rec6 : Nat → Nat → Int32 → Nat → Int32 → Int32 → xR → Option (Int32 × xR)} (hr6 : ∀ {a0 : Nat} {a1 : Nat} {a2 : Int32} {a3 : Nat} {a4 : Int32} {a5 : Int32} {r : xR}, rec6 a0 a1 a2 a3 a4 a5 r = some rr → xB xLL yX1_many cX1_many 7 (some .int) 5 121 6 [some (.inr (.inr (some (a0))) : xV), some (.inr (.inr (some (300 + a1))) : xV), some (.inl (a2) : xV), some (.inr (.inr (some (a3))) : xV), some (.inl (a4) : xV), some (.inl (a5) : xV), none] [] (ms, r) (some (.inl rr.1)) (ms, rr.2)) {a0 : Nat} {a1 : Nat} {a2 : Int32} {a3 : Nat} {a4 : Int32} {a5 : Int32} {r : xR} (h : x_X1_many_33 rec6 a0 a1 a2 a3 a4 a5 r = some rr) : xB xLL yX1_many cX1_many 7 (some .int) 5 121 33 [some (.inr (.inr (some (a0))) : xV), some (.inr (.inr (some (300 + a1))) : xV), some (.inl (a2) : xV), some (.inr (.inr (some (a3))) : xV), some (.inl (a4) : xV), some (.inl (a5) : xV), none] [] (ms, r) (some (.inl rr.1)) (ms, rr.2) := by
  refine x_iconst (1 : Int32) 34 rfl dX1_many_33 rfl ?_
  refine x_lti h (fun x8 h => ?_)
  refine x_istore 36 rfl dX1_many_34 (by decide) (lv' := [some (.inr (.inr (some (a0))) : xV), some (.inr (.inr (some (300 + a1))) : xV), some (.inl (a2) : xV), some (.inr (.inr (some (a3))) : xV), some (.inl (a4) : xV), some (.inl (a5) : xV), some (.inl (x8) : xV)]) rfl ?_
  exact xB.le (xle.s (xle.s (xle.s (xle.s (xle.s (xle.s (xle.s xle.z))))))) (x_X1_many_36_L_ok hr6 xFU h)
def x_X1_many_6_s (rec6 : Nat → Nat → Int32 → Nat → Int32 → Int32 → xR → Option (Int32 × xR)) (a0 : Nat) (a1 : Nat) (a2 : Int32) (a3 : Nat) (a4 : Int32) (a5 : Int32) (r : xR) : Option (Int32 × xR) := dgi xLL r a0 2 0 fun x9 => if (jshl (1 : Int32) x9) ≤ a5 then some (a4, r) else if a2 ≤ 0 then x_X1_many_33 rec6 a0 a1 a2 a3 a4 a5 r else cl (p_J18_bitCount a5) fun q10 => if q10 = a2 then x_X1_many_33 rec6 a0 a1 a2 a3 a4 a5 r else x_X1_many_86 rec6 a0 a1 a2 a3 a4 a5 r
theorem x_X1_many_6_s_ok {ms : xS} {rr : Int32 × xR} {rec6 : Nat → Nat → Int32 → Nat → Int32 → Int32 → xR → Option (Int32 × xR)} (hr6 : ∀ {a0 : Nat} {a1 : Nat} {a2 : Int32} {a3 : Nat} {a4 : Int32} {a5 : Int32} {r : xR}, rec6 a0 a1 a2 a3 a4 a5 r = some rr → xB xLL yX1_many cX1_many 7 (some .int) 5 121 6 [some (.inr (.inr (some (a0))) : xV), some (.inr (.inr (some (300 + a1))) : xV), some (.inl (a2) : xV), some (.inr (.inr (some (a3))) : xV), some (.inl (a4) : xV), some (.inl (a5) : xV), none] [] (ms, r) (some (.inl rr.1)) (ms, rr.2)) {a0 : Nat} {a1 : Nat} {a2 : Int32} {a3 : Nat} {a4 : Int32} {a5 : Int32} {r : xR} (h : x_X1_many_6_s rec6 a0 a1 a2 a3 a4 a5 r = some rr) : xB xLL yX1_many cX1_many 7 (some .int) 5 121 6 [some (.inr (.inr (some (a0))) : xV), some (.inr (.inr (some (300 + a1))) : xV), some (.inl (a2) : xV), some (.inr (.inr (some (a3))) : xV), some (.inl (a4) : xV), some (.inl (a5) : xV), none] [] (ms, r) (some (.inl rr.1)) (ms, rr.2) := by
  refine x_iload (i := 5) 8 rfl dX1_many_6 rfl ?_
  refine x_iconst (1 : Int32) 9 rfl dX1_many_8 rfl ?_
  refine x_aload_n (i := 0) 10 rfl dX1_many_9 rfl rfl ?_
  refine d_getiN (ci := 2) (k := 0) (C := RX4) (T := TX4) (N := 3) 13 rfl dX1_many_10 rfl in_X4 (by decide) (List.mem_of_getElem? (i := 5) rfl) h (fun x9 h => ?_)
  refine x_ishl 14 rfl dX1_many_13 ?_
  refine x_icmp_ge 92 17 rfl dX1_many_14 rfl h (fun h => ?_) (fun h => ?_)
  · refine x_iload (i := 4) 94 rfl dX1_many_92 rfl ?_
    cases h
    exact x_iret rfl dX1_many_94
  · refine x_iload_n (i := 2) 18 rfl dX1_many_17 rfl rfl ?_
    refine x_if_le 33 21 rfl dX1_many_18 rfl h (fun h => ?_) (fun h => ?_)
    · exact xB.le (xle.s (xle.s (xle.s (xle.s (xle.s (xle.s (xle.n xle.z))))))) (x_X1_many_33_ok hr6 h)
    · refine x_iload (i := 5) 23 rfl dX1_many_21 rfl ?_
      refine x_cl h (fun q10 hq h => ?_)
      refine x_callS (as := [(.inl (a5) : xV)]) (rest := []) (vv := (some (.inl (q10) : xV))) (w2 := (ms, r)) 26 rfl dX1_many_23 (p_J18_bitCount_ct hq) (lw_S q823 q824 q142 q825) ydJ18_bitCount rfl ⟨Nat.le_of_ble_eq_true rfl, Nat.le_of_ble_eq_true rfl⟩ (Nat.le_of_ble_eq_true rfl) rfl ?_
      change xB xLL yX1_many cX1_many 7 (some .int) 5 121 26 [some (.inr (.inr (some (a0))) : xV), some (.inr (.inr (some (300 + a1))) : xV), some (.inl (a2) : xV), some (.inr (.inr (some (a3))) : xV), some (.inl (a4) : xV), some (.inl (a5) : xV), none] [(.inl (q10) : xV)] (ms, r) _ _
      refine x_iload_n (i := 2) 27 rfl dX1_many_26 rfl rfl ?_
      refine x_icmp_eq 33 30 rfl dX1_many_27 rfl h (fun h => ?_) (fun h => ?_)
      · exact xB.le (xle.s (xle.s (xle.s (xle.s (xle.s (xle.s (xle.n xle.z))))))) (x_X1_many_33_ok hr6 h)
      · refine x_goto 86 dX1_many_30 rfl ?_
        exact xB.le (xle.s (xle.s (xle.s (xle.s (xle.s (xle.s (xle.n xle.z))))))) (x_X1_many_86_ok hr6 h)
def x_X1_many_6_L : Nat → Nat → Nat → Int32 → Nat → Int32 → Int32 → xR → Option (Int32 × xR)
  | 0 => fun _ _ _ _ _ _ _ => none
  | n + 1 => x_X1_many_6_s (x_X1_many_6_L  n)
theorem x_X1_many_6_L_ok {ms : xS} {rr : Int32 × xR} : ∀ (n9 : Nat) {a0 : Nat} {a1 : Nat} {a2 : Int32} {a3 : Nat} {a4 : Int32} {a5 : Int32} {r : xR}, x_X1_many_6_L  n9 a0 a1 a2 a3 a4 a5 r = some rr → xB xLL yX1_many cX1_many 7 (some .int) 5 121 6 [some (.inr (.inr (some (a0))) : xV), some (.inr (.inr (some (300 + a1))) : xV), some (.inl (a2) : xV), some (.inr (.inr (some (a3))) : xV), some (.inl (a4) : xV), some (.inl (a5) : xV), none] [] (ms, r) (some (.inl rr.1)) (ms, rr.2)
  | 0, _, _, _, _, _, _, _, h => by cases h
  | n9 + 1, _, _, _, _, _, _, _, h => x_X1_many_6_s_ok (x_X1_many_6_L_ok  n9) h
def x_X1_many (a0 : Nat) (a1 : Nat) (a2 : Int32) (a3 : Nat) (r : xR) : Option (Int32 × xR) := lt ((0 : Int32)) fun x11 => lt ((1 : Int32)) fun x12 => x_X1_many_6_L xFU a0 a1 a2 a3 x11 x12 r
theorem x_X1_many_ct {ms : xS} {rr : Int32 × xR} {a0 : Nat} {a1 : Nat} {a2 : Int32} {a3 : Nat} {r : xR} (h : x_X1_many a0 a1 a2 a3 r = some rr) : xCt xLL yX1_many cX1_many 7 (some .int) 5 121 [(.inr (.inr (some (a0))) : xV), (.inr (.inr (some (300 + a1))) : xV), (.inl (a2) : xV), (.inr (.inr (some (a3))) : xV)] (ms, r) (some (.inl rr.1)) (ms, rr.2) := by
  refine xCt.of (lv := [some (.inr (.inr (some (a0))) : xV), some (.inr (.inr (some (300 + a1))) : xV), some (.inl (a2) : xV), some (.inr (.inr (some (a3))) : xV), none, none, none]) pl_X1 (Nat.le_of_ble_eq_true rfl) (xle.s (xle.s (xle.s (xle.s (xle.m (xle.m (xle.m xle.z))))))) ?_
  refine x_iconst (0 : Int32) 1 rfl dX1_many_0 rfl ?_
  refine x_lti h (fun x11 h => ?_)
  refine x_istore 3 rfl dX1_many_1 (by decide) (lv' := [some (.inr (.inr (some (a0))) : xV), some (.inr (.inr (some (300 + a1))) : xV), some (.inl (a2) : xV), some (.inr (.inr (some (a3))) : xV), some (.inl (x11) : xV), none, none]) rfl ?_
  refine x_iconst (1 : Int32) 4 rfl dX1_many_3 rfl ?_
  refine x_lti h (fun x12 h => ?_)
  refine x_istore 6 rfl dX1_many_4 (by decide) (lv' := [some (.inr (.inr (some (a0))) : xV), some (.inr (.inr (some (300 + a1))) : xV), some (.inl (a2) : xV), some (.inr (.inr (some (a3))) : xV), some (.inl (x11) : xV), some (.inl (x12) : xV), none]) rfl ?_
  exact xB.le (xle.s (xle.s (xle.s (xle.s (xle.s (xle.s (xle.n xle.z))))))) (x_X1_many_6_L_ok xFU h)
/-! UnimodularTables.squares(II)I -/
theorem ydX1_squares : xHd yX1_squares 2 := by decide +kernel
def x_X1_squares (a1 : Int32) (a2 : Int32) (r : xR) : Option (Int32 × xR) := lt (r.1.2.2 0 11) fun p1 => nu p1 (some ((-1 : Int32), r)) fun p2 => cl (p_X1_in a1 (1 : Int32) (6 : Int32)) fun q3 => if q3 = 0 then some ((-1 : Int32), r) else cl (p_X1_in a2 (0 : Int32) (2 : Int32)) fun q4 => if q4 = 0 then some ((-1 : Int32), r) else lt (r.1.2.2 0 11) fun p5 => cl (x_X1_detsNow r) fun q6 => cl (d_X1_asker xLL a2 q6.2) fun q7 => nn p5 fun p8 => cl (x_X1_many p8 q6.1 a1 q7.1 q7.2) fun q9 => some (q9.1, q9.2)
theorem x_X1_squares_ct {ms : xS} {rr : Int32 × xR} {a1 : Int32} {a2 : Int32} {r : xR} (h : x_X1_squares a1 a2 r = some rr) : xCt xLL yX1_squares cX1_squares 3 (some .int) 6 3109 [(.inr (.inr (some 300)) : xV), (.inl (a1) : xV), (.inl (a2) : xV)] (ms, r) (some (.inl rr.1)) (ms, rr.2) := by
  refine xCt.of (lv := [some (.inr (.inr (some 300)) : xV), some (.inl (a1) : xV), some (.inl (a2) : xV)]) pl_X1 (Nat.le_of_ble_eq_true rfl) (xle.s (xle.s (xle.s xle.z))) ?_
  refine x_aload_n (i := 0) 1 rfl dX1_squares_0 rfl rfl ?_
  refine q_get (k := 11) 4 rfl dX1_squares_1 (by decide) q453 rfl ?_
  refine x_ltr h (fun p1 h => ?_)
  refine x_nulP (lv := fun p1 => [some (.inr (.inr (some 300)) : xV), some (.inl (a1) : xV), some (.inl (a2) : xV)]) (st := fun p1 => []) 45 7 rfl dX1_squares_4 rfl h (fun h => ?_) (fun p2 h => ?_)
  · refine x_iconst (-1 : Int32) 46 rfl dX1_squares_45 rfl ?_
    cases h
    exact x_iret rfl dX1_squares_46
  · refine x_iload_n (i := 1) 8 rfl dX1_squares_7 rfl rfl ?_
    refine x_iconst (1 : Int32) 9 rfl dX1_squares_8 rfl ?_
    refine x_bipush (6 : Int32) 11 rfl dX1_squares_9 rfl ?_
    refine x_cl h (fun q3 hq h => ?_)
    refine x_callS (as := [(.inl (a1) : xV), (.inl ((1 : Int32)) : xV), (.inl ((6 : Int32)) : xV)]) (rest := []) (vv := (some (.inl (q3) : xV))) (w2 := (ms, r)) 14 rfl dX1_squares_11 (p_X1_in_ct hq) (lw_S q556 q557 q118 q558) ydX1_in rfl ⟨Nat.le_of_ble_eq_true rfl, Nat.le_of_ble_eq_true rfl⟩ (Nat.le_of_ble_eq_true rfl) rfl ?_
    change xB xLL yX1_squares cX1_squares 3 (some .int) 6 3109 14 [some (.inr (.inr (some 300)) : xV), some (.inl (a1) : xV), some (.inl (a2) : xV)] [(.inl (q3) : xV)] (ms, r) _ _
    refine x_if_eq 45 17 rfl dX1_squares_14 rfl h (fun h => ?_) (fun h => ?_)
    · refine x_iconst (-1 : Int32) 46 rfl dX1_squares_45 rfl ?_
      cases h
      exact x_iret rfl dX1_squares_46
    · refine x_iload_n (i := 2) 18 rfl dX1_squares_17 rfl rfl ?_
      refine x_iconst (0 : Int32) 19 rfl dX1_squares_18 rfl ?_
      refine x_iconst (2 : Int32) 20 rfl dX1_squares_19 rfl ?_
      refine x_cl h (fun q4 hq h => ?_)
      refine x_callS (as := [(.inl (a2) : xV), (.inl ((0 : Int32)) : xV), (.inl ((2 : Int32)) : xV)]) (rest := []) (vv := (some (.inl (q4) : xV))) (w2 := (ms, r)) 23 rfl dX1_squares_20 (p_X1_in_ct hq) (lw_S q556 q557 q118 q558) ydX1_in rfl ⟨Nat.le_of_ble_eq_true rfl, Nat.le_of_ble_eq_true rfl⟩ (Nat.le_of_ble_eq_true rfl) rfl ?_
      change xB xLL yX1_squares cX1_squares 3 (some .int) 6 3109 23 [some (.inr (.inr (some 300)) : xV), some (.inl (a1) : xV), some (.inl (a2) : xV)] [(.inl (q4) : xV)] (ms, r) _ _
      refine x_if_eq 45 26 rfl dX1_squares_23 rfl h (fun h => ?_) (fun h => ?_)
      · refine x_iconst (-1 : Int32) 46 rfl dX1_squares_45 rfl ?_
        cases h
        exact x_iret rfl dX1_squares_46
      · refine x_aload_n (i := 0) 27 rfl dX1_squares_26 rfl rfl ?_
        refine q_get (k := 11) 30 rfl dX1_squares_27 (by decide) q453 rfl ?_
        refine x_ltr h (fun p5 h => ?_)
        refine x_aload_n (i := 0) 31 rfl dX1_squares_30 rfl rfl ?_
        refine x_cl h (fun q6 hq h => ?_)
        refine x_callV (as := []) (rest := [(.inr (.inr (p5)) : xV)]) (vv := (some (.inr (.inr (some (300 + q6.1))) : xV))) (w2 := (ms, q6.2)) (C := RX1) (T := TX1) (N := 34) 34 rfl dX1_squares_31 (x_X1_detsNow_ct hq) (Or.inl xcell_X0) rfl (lw_V q829 q831 qs23 q118 q832) rfl ydX1_detsNow rfl ⟨Nat.le_of_ble_eq_true rfl, Nat.le_of_ble_eq_true rfl⟩ (Nat.le_of_ble_eq_true rfl) rfl ?_
        change xB xLL yX1_squares cX1_squares 3 (some .int) 6 3109 34 [some (.inr (.inr (some 300)) : xV), some (.inl (a1) : xV), some (.inl (a2) : xV)] [(.inr (.inr (some (300 + q6.1))) : xV), (.inr (.inr (p5)) : xV)] (ms, q6.2) _ _
        refine x_iload_n (i := 1) 35 rfl dX1_squares_34 rfl rfl ?_
        refine x_iload_n (i := 2) 36 rfl dX1_squares_35 rfl rfl ?_
        refine x_cl h (fun q7 hq h => ?_)
        refine x_callS (as := [(.inl (a2) : xV)]) (rest := [(.inl (a1) : xV), (.inr (.inr (some (300 + q6.1))) : xV), (.inr (.inr (p5)) : xV)]) (vv := (some (.inr (.inr (some (q7.1))) : xV))) (w2 := (ms, q7.2)) 39 rfl dX1_squares_36 (d_X1_asker_ct hq) (lw_S q847 q848 q118 q849) ydX1_asker rfl ⟨Nat.le_of_ble_eq_true rfl, Nat.le_of_ble_eq_true rfl⟩ (Nat.le_of_ble_eq_true rfl) rfl ?_
        change xB xLL yX1_squares cX1_squares 3 (some .int) 6 3109 39 [some (.inr (.inr (some 300)) : xV), some (.inl (a1) : xV), some (.inl (a2) : xV)] [(.inr (.inr (some (q7.1))) : xV), (.inl (a1) : xV), (.inr (.inr (some (300 + q6.1))) : xV), (.inr (.inr (p5)) : xV)] (ms, q7.2) _ _
        refine x_nnP (P := fun p5 => xB xLL yX1_squares cX1_squares 3 (some .int) 6 3109 39 [some (.inr (.inr (some 300)) : xV), some (.inl (a1) : xV), some (.inl (a2) : xV)] [(.inr (.inr (some (q7.1))) : xV), (.inl (a1) : xV), (.inr (.inr (some (300 + q6.1))) : xV), (.inr (.inr (p5)) : xV)] (ms, q7.2) (some (.inl rr.1)) (ms, rr.2)) h (fun p8 h => ?_)
        refine x_cl h (fun q9 hq h => ?_)
        refine x_callS (as := [(.inr (.inr (some (p8))) : xV), (.inr (.inr (some (300 + q6.1))) : xV), (.inl (a1) : xV), (.inr (.inr (some (q7.1))) : xV)]) (rest := []) (vv := (some (.inl (q9.1) : xV))) (w2 := (ms, q9.2)) 42 rfl dX1_squares_39 (x_X1_many_ct hq) (lw_S q856 q857 q118 q858) ydX1_many rfl ⟨Nat.le_of_ble_eq_true rfl, Nat.le_of_ble_eq_true rfl⟩ (Nat.le_of_ble_eq_true rfl) rfl ?_
        change xB xLL yX1_squares cX1_squares 3 (some .int) 6 3109 42 [some (.inr (.inr (some 300)) : xV), some (.inl (a1) : xV), some (.inl (a2) : xV)] [(.inl (q9.1) : xV)] (ms, q9.2) _ _
        refine x_goto 46 dX1_squares_42 rfl ?_
        cases h
        exact x_iret rfl dX1_squares_46
/-! UnimodularTables.isTotalNow()Z -/
theorem ydX1_isTotalNow : xHd yX1_isTotalNow 0 := by decide +kernel
def x_X1_isTotalNow (r : xR) : Option (Int32 × xR) := lt (r.1.2.2 0 11) fun p1 => cl (x_X1_detsNow r) fun q2 => nn p1 fun p3 => cl (x_X1_many p3 q2.1 (0 : Int32) 291 q2.2) fun q4 => if q4.1 = 0 then some ((1 : Int32), q4.2) else some ((0 : Int32), q4.2)
theorem x_X1_isTotalNow_ct {ms : xS} {rr : Int32 × xR} {r : xR} (h : x_X1_isTotalNow r = some rr) : xCt xLL yX1_isTotalNow cX1_isTotalNow 1 (some .boolean) 6 3089 [(.inr (.inr (some 300)) : xV)] (ms, r) (some (.inl rr.1)) (ms, rr.2) := by
  refine xCt.of (lv := [some (.inr (.inr (some 300)) : xV)]) pl_X1 (Nat.le_of_ble_eq_true rfl) (xle.s xle.z) ?_
  refine x_aload_n (i := 0) 1 rfl dX1_isTotalNow_0 rfl rfl ?_
  refine q_get (k := 11) 4 rfl dX1_isTotalNow_1 (by decide) q453 rfl ?_
  refine x_ltr h (fun p1 h => ?_)
  refine x_aload_n (i := 0) 5 rfl dX1_isTotalNow_4 rfl rfl ?_
  refine x_cl h (fun q2 hq h => ?_)
  refine x_callV (as := []) (rest := [(.inr (.inr (p1)) : xV)]) (vv := (some (.inr (.inr (some (300 + q2.1))) : xV))) (w2 := (ms, q2.2)) (C := RX1) (T := TX1) (N := 34) 8 rfl dX1_isTotalNow_5 (x_X1_detsNow_ct hq) (Or.inl xcell_X0) rfl (lw_V q829 q831 qs23 q118 q832) rfl ydX1_detsNow rfl ⟨Nat.le_of_ble_eq_true rfl, Nat.le_of_ble_eq_true rfl⟩ (Nat.le_of_ble_eq_true rfl) rfl ?_
  change xB xLL yX1_isTotalNow cX1_isTotalNow 1 (some .boolean) 6 3089 8 [some (.inr (.inr (some 300)) : xV)] [(.inr (.inr (some (300 + q2.1))) : xV), (.inr (.inr (p1)) : xV)] (ms, q2.2) _ _
  refine x_iconst (0 : Int32) 9 rfl dX1_isTotalNow_8 rfl ?_
  refine x_indyC (k := 11) (σ := lms_11) 14 rfl dX1_isTotalNow_9 (by decide) rfl rfl (Nat.le_of_ble_eq_true rfl) ?_
  refine x_nnP (P := fun p1 => xB xLL yX1_isTotalNow cX1_isTotalNow 1 (some .boolean) 6 3089 14 [some (.inr (.inr (some 300)) : xV)] [(.inr (.inr (some (291))) : xV), (.inl ((0 : Int32)) : xV), (.inr (.inr (some (300 + q2.1))) : xV), (.inr (.inr (p1)) : xV)] (ms, q2.2) (some (.inl rr.1)) (ms, rr.2)) h (fun p3 h => ?_)
  refine x_cl h (fun q4 hq h => ?_)
  refine x_callS (as := [(.inr (.inr (some (p3))) : xV), (.inr (.inr (some (300 + q2.1))) : xV), (.inl ((0 : Int32)) : xV), (.inr (.inr (some (291))) : xV)]) (rest := []) (vv := (some (.inl (q4.1) : xV))) (w2 := (ms, q4.2)) 17 rfl dX1_isTotalNow_14 (x_X1_many_ct hq) (lw_S q856 q857 q118 q858) ydX1_many rfl ⟨Nat.le_of_ble_eq_true rfl, Nat.le_of_ble_eq_true rfl⟩ (Nat.le_of_ble_eq_true rfl) rfl ?_
  change xB xLL yX1_isTotalNow cX1_isTotalNow 1 (some .boolean) 6 3089 17 [some (.inr (.inr (some 300)) : xV)] [(.inl (q4.1) : xV)] (ms, q4.2) _ _
  refine x_if_ne 24 20 rfl dX1_isTotalNow_17 rfl h (fun h => ?_) (fun h => ?_)
  · refine x_iconst (0 : Int32) 25 rfl dX1_isTotalNow_24 rfl ?_
    cases h
    exact x_zret rfl (Or.inl rfl) dX1_isTotalNow_25
  · refine x_iconst (1 : Int32) 21 rfl dX1_isTotalNow_20 rfl ?_
    refine x_goto 25 dX1_isTotalNow_21 rfl ?_
    cases h
    exact x_zret rfl (Or.inr rfl) dX1_isTotalNow_25
/-! UnimodularTables.total()I -/
theorem ydX1_total : xHd yX1_total 0 := by decide +kernel
def x_X1_total (r : xR) : Option (Int32 × xR) := lt (r.1.2.2 0 11) fun p1 => nu p1 (some ((-1 : Int32), r)) fun p2 => cl (x_X1_isTotalNow r) fun q3 => if q3.1 = 0 then some ((0 : Int32), q3.2) else some ((1 : Int32), q3.2)
theorem x_X1_total_ct {ms : xS} {rr : Int32 × xR} {r : xR} (h : x_X1_total r = some rr) : xCt xLL yX1_total cX1_total 1 (some .int) 7 3109 [(.inr (.inr (some 300)) : xV)] (ms, r) (some (.inl rr.1)) (ms, rr.2) := by
  refine xCt.of (lv := [some (.inr (.inr (some 300)) : xV)]) pl_X1 (Nat.le_of_ble_eq_true rfl) (xle.s xle.z) ?_
  refine x_aload_n (i := 0) 1 rfl dX1_total_0 rfl rfl ?_
  refine q_get (k := 11) 4 rfl dX1_total_1 (by decide) q453 rfl ?_
  refine x_ltr h (fun p1 h => ?_)
  refine x_nnlP (lv := fun p1 => [some (.inr (.inr (some 300)) : xV)]) (st := fun p1 => []) 11 7 rfl dX1_total_4 rfl h (fun p2 h => ?_) (fun h => ?_)
  · refine x_aload_n (i := 0) 12 rfl dX1_total_11 rfl rfl ?_
    refine x_cl h (fun q3 hq h => ?_)
    refine x_callV (as := []) (rest := []) (vv := (some (.inl (q3.1) : xV))) (w2 := (ms, q3.2)) (C := RX1) (T := TX1) (N := 34) 15 rfl dX1_total_12 (x_X1_isTotalNow_ct hq) (Or.inl xcell_X0) rfl (lw_V q867 q869 qs24 q118 q870) rfl ydX1_isTotalNow rfl ⟨Nat.le_of_ble_eq_true rfl, Nat.le_of_ble_eq_true rfl⟩ (Nat.le_of_ble_eq_true rfl) rfl ?_
    change xB xLL yX1_total cX1_total 1 (some .int) 7 3109 15 [some (.inr (.inr (some 300)) : xV)] [(.inl (q3.1) : xV)] (ms, q3.2) _ _
    refine x_if_eq 22 18 rfl dX1_total_15 rfl h (fun h => ?_) (fun h => ?_)
    · refine x_iconst (0 : Int32) 23 rfl dX1_total_22 rfl ?_
      cases h
      exact x_iret rfl dX1_total_23
    · refine x_iconst (1 : Int32) 19 rfl dX1_total_18 rfl ?_
      refine x_goto 23 dX1_total_19 rfl ?_
      cases h
      exact x_iret rfl dX1_total_23
  · refine x_iconst (-1 : Int32) 8 rfl dX1_total_7 rfl ?_
    refine x_goto 23 dX1_total_8 rfl ?_
    cases h
    exact x_iret rfl dX1_total_23
/-! UnimodularTables.layWitness()Z -/
theorem ydX1_layWitness : xHd yX1_layWitness 0 := by decide +kernel
def x_X1_layWitness_100 (rec5 : Int32 → Int32 → xR → Option (Int32 × xR)) (a1 : Int32) (a2 : Int32) (r : xR) : Option (Int32 × xR) := lt (a2 + (1 : Int32)) fun x1 => rec5 a1 x1 r
theorem x_X1_layWitness_100_ok {ms : xS} {rr : Int32 × xR} {rec5 : Int32 → Int32 → xR → Option (Int32 × xR)} (hr5 : ∀ {a1 : Int32} {a2 : Int32} {r : xR}, rec5 a1 a2 r = some rr → xB xLL yX1_layWitness cX1_layWitness 4 (some .boolean) 3 68 5 [some (.inr (.inr (some 300)) : xV), some (.inl (a1) : xV), some (.inl (a2) : xV), none] [] (ms, r) (some (.inl rr.1)) (ms, rr.2)) {a1 : Int32} {a2 : Int32} {r : xR} (h : x_X1_layWitness_100 rec5 a1 a2 r = some rr) : xB xLL yX1_layWitness cX1_layWitness 4 (some .boolean) 3 68 100 [some (.inr (.inr (some 300)) : xV), some (.inl (a1) : xV), some (.inl (a2) : xV), none] [] (ms, r) (some (.inl rr.1)) (ms, rr.2) := by
  refine x_iincL (i := 2) (1 : Int32) 103 rfl dX1_layWitness_100 rfl rfl (by decide) h (fun x1 h => ?_)
  change xB xLL yX1_layWitness cX1_layWitness 4 (some .boolean) 3 68 103 [some (.inr (.inr (some 300)) : xV), some (.inl (a1) : xV), some (.inl (x1) : xV), none] [] (ms, r) _ _
  refine x_goto 5 dX1_layWitness_103 rfl ?_
  exact xB.le (xle.s (xle.s (xle.s (xle.n xle.z)))) (hr5 h)
def x_X1_layWitness_94 (rec5 : Int32 → Int32 → xR → Option (Int32 × xR)) (rec31 : Int32 → Int32 → Int32 → xR → Option (Int32 × xR)) (a1 : Int32) (a2 : Int32) (a3 : Int32) (r : xR) : Option (Int32 × xR) := lt (a3 + (1 : Int32)) fun x2 => rec31 a1 a2 x2 r
theorem x_X1_layWitness_94_ok {ms : xS} {rr : Int32 × xR} {rec5 : Int32 → Int32 → xR → Option (Int32 × xR)} {rec31 : Int32 → Int32 → Int32 → xR → Option (Int32 × xR)} (hr5 : ∀ {a1 : Int32} {a2 : Int32} {r : xR}, rec5 a1 a2 r = some rr → xB xLL yX1_layWitness cX1_layWitness 4 (some .boolean) 3 68 5 [some (.inr (.inr (some 300)) : xV), some (.inl (a1) : xV), some (.inl (a2) : xV), none] [] (ms, r) (some (.inl rr.1)) (ms, rr.2)) (hr31 : ∀ {a1 : Int32} {a2 : Int32} {a3 : Int32} {r : xR}, rec31 a1 a2 a3 r = some rr → xB xLL yX1_layWitness cX1_layWitness 4 (some .boolean) 3 68 31 [some (.inr (.inr (some 300)) : xV), some (.inl (a1) : xV), some (.inl (a2) : xV), some (.inl (a3) : xV)] [] (ms, r) (some (.inl rr.1)) (ms, rr.2)) {a1 : Int32} {a2 : Int32} {a3 : Int32} {r : xR} (h : x_X1_layWitness_94 rec5 rec31 a1 a2 a3 r = some rr) : xB xLL yX1_layWitness cX1_layWitness 4 (some .boolean) 3 68 94 [some (.inr (.inr (some 300)) : xV), some (.inl (a1) : xV), some (.inl (a2) : xV), some (.inl (a3) : xV)] [] (ms, r) (some (.inl rr.1)) (ms, rr.2) := by
  refine x_iincL (i := 3) (1 : Int32) 97 rfl dX1_layWitness_94 rfl rfl (by decide) h (fun x2 h => ?_)
  change xB xLL yX1_layWitness cX1_layWitness 4 (some .boolean) 3 68 97 [some (.inr (.inr (some 300)) : xV), some (.inl (a1) : xV), some (.inl (a2) : xV), some (.inl (x2) : xV)] [] (ms, r) _ _
  refine x_goto 31 dX1_layWitness_97 rfl ?_
  exact xB.le (xle.s (xle.s (xle.s (xle.s xle.z)))) (hr31 h)
def x_X1_layWitness_31_s (rec5 : Int32 → Int32 → xR → Option (Int32 × xR)) (rec31 : Int32 → Int32 → Int32 → xR → Option (Int32 × xR)) (a1 : Int32) (a2 : Int32) (a3 : Int32) (r : xR) : Option (Int32 × xR) := lt (r.1.2.2 0 11) fun p3 => nn p3 fun p4 => dgi xLL r p4 2 1 fun x5 => if (jshl (1 : Int32) x5) ≤ a3 then x_X1_layWitness_100 rec5 a1 a2 r else lt (r.1.2.2 0 11) fun p6 => nn p6 fun p7 => cl (x_X1_isSquare p7 a2 a3 r) fun q8 => if q8.1 = 0 then x_X1_layWitness_94 rec5 rec31 a1 a2 a3 q8.2 else cl (x_X1_detsNow q8.2) fun q9 => qrd q9.2 q9.1 (((64 : Int32) * a2) + a3) fun x10 => cl (p_X1_isBeyond x10) fun q11 => if q11 = 0 then x_X1_layWitness_94 rec5 rec31 a1 a2 a3 q9.2 else cl (p_J18_bitCount a2) fun q12 => qpi q9.2 0 19 a2 fun r13 => qpi r13 0 20 a3 fun r14 => x_X1_layWitness_100 rec5 q12 a2 r14
theorem x_X1_layWitness_31_s_ok {ms : xS} {rr : Int32 × xR} {rec5 : Int32 → Int32 → xR → Option (Int32 × xR)} {rec31 : Int32 → Int32 → Int32 → xR → Option (Int32 × xR)} (hr5 : ∀ {a1 : Int32} {a2 : Int32} {r : xR}, rec5 a1 a2 r = some rr → xB xLL yX1_layWitness cX1_layWitness 4 (some .boolean) 3 68 5 [some (.inr (.inr (some 300)) : xV), some (.inl (a1) : xV), some (.inl (a2) : xV), none] [] (ms, r) (some (.inl rr.1)) (ms, rr.2)) (hr31 : ∀ {a1 : Int32} {a2 : Int32} {a3 : Int32} {r : xR}, rec31 a1 a2 a3 r = some rr → xB xLL yX1_layWitness cX1_layWitness 4 (some .boolean) 3 68 31 [some (.inr (.inr (some 300)) : xV), some (.inl (a1) : xV), some (.inl (a2) : xV), some (.inl (a3) : xV)] [] (ms, r) (some (.inl rr.1)) (ms, rr.2)) {a1 : Int32} {a2 : Int32} {a3 : Int32} {r : xR} (h : x_X1_layWitness_31_s rec5 rec31 a1 a2 a3 r = some rr) : xB xLL yX1_layWitness cX1_layWitness 4 (some .boolean) 3 68 31 [some (.inr (.inr (some 300)) : xV), some (.inl (a1) : xV), some (.inl (a2) : xV), some (.inl (a3) : xV)] [] (ms, r) (some (.inl rr.1)) (ms, rr.2) := by
  refine x_iload_n (i := 3) 32 rfl dX1_layWitness_31 rfl rfl ?_
  refine x_iconst (1 : Int32) 33 rfl dX1_layWitness_32 rfl ?_
  refine x_aload_n (i := 0) 34 rfl dX1_layWitness_33 rfl rfl ?_
  refine q_get (k := 11) 37 rfl dX1_layWitness_34 (by decide) q453 rfl ?_
  refine x_ltr h (fun p3 h => ?_)
  refine x_nnP (P := fun p3 => xB xLL yX1_layWitness cX1_layWitness 4 (some .boolean) 3 68 37 [some (.inr (.inr (some 300)) : xV), some (.inl (a1) : xV), some (.inl (a2) : xV), some (.inl (a3) : xV)] [(.inr (.inr (p3)) : xV), (.inl ((1 : Int32)) : xV), (.inl (a3) : xV)] (ms, r) (some (.inl rr.1)) (ms, rr.2)) h (fun p4 h => ?_)
  refine d_getiN (ci := 2) (k := 1) (C := RX4) (T := TX4) (N := 3) 40 rfl dX1_layWitness_37 rfl in_X4 (by decide) (List.mem_of_getElem? (i := 7) rfl) h (fun x5 h => ?_)
  refine x_ishl 41 rfl dX1_layWitness_40 ?_
  refine x_icmp_ge 100 44 rfl dX1_layWitness_41 rfl h (fun h => ?_) (fun h => ?_)
  · exact xB.le (xle.s (xle.s (xle.s (xle.n xle.z)))) (x_X1_layWitness_100_ok hr5 h)
  · refine x_aload_n (i := 0) 45 rfl dX1_layWitness_44 rfl rfl ?_
    refine q_get (k := 11) 48 rfl dX1_layWitness_45 (by decide) q453 rfl ?_
    refine x_ltr h (fun p6 h => ?_)
    refine x_iload_n (i := 2) 49 rfl dX1_layWitness_48 rfl rfl ?_
    refine x_iload_n (i := 3) 50 rfl dX1_layWitness_49 rfl rfl ?_
    refine x_nnP (P := fun p6 => xB xLL yX1_layWitness cX1_layWitness 4 (some .boolean) 3 68 50 [some (.inr (.inr (some 300)) : xV), some (.inl (a1) : xV), some (.inl (a2) : xV), some (.inl (a3) : xV)] [(.inl (a3) : xV), (.inl (a2) : xV), (.inr (.inr (p6)) : xV)] (ms, r) (some (.inl rr.1)) (ms, rr.2)) h (fun p7 h => ?_)
    refine x_cl h (fun q8 hq h => ?_)
    refine x_callS (as := [(.inr (.inr (some (p7))) : xV), (.inl (a2) : xV), (.inl (a3) : xV)]) (rest := []) (vv := (some (.inl (q8.1) : xV))) (w2 := (ms, q8.2)) 53 rfl dX1_layWitness_50 (x_X1_isSquare_ct hq) (lw_S q820 q821 q118 q822) ydX1_isSquare rfl ⟨Nat.le_of_ble_eq_true rfl, Nat.le_of_ble_eq_true rfl⟩ (Nat.le_of_ble_eq_true rfl) rfl ?_
    change xB xLL yX1_layWitness cX1_layWitness 4 (some .boolean) 3 68 53 [some (.inr (.inr (some 300)) : xV), some (.inl (a1) : xV), some (.inl (a2) : xV), some (.inl (a3) : xV)] [(.inl (q8.1) : xV)] (ms, q8.2) _ _
    refine x_if_eq 94 56 rfl dX1_layWitness_53 rfl h (fun h => ?_) (fun h => ?_)
    · exact xB.le (xle.s (xle.s (xle.s (xle.s xle.z)))) (x_X1_layWitness_94_ok hr5 hr31 h)
    · refine x_aload_n (i := 0) 57 rfl dX1_layWitness_56 rfl rfl ?_
      refine x_cl h (fun q9 hq h => ?_)
      refine x_callV (as := []) (rest := []) (vv := (some (.inr (.inr (some (300 + q9.1))) : xV))) (w2 := (ms, q9.2)) (C := RX1) (T := TX1) (N := 34) 60 rfl dX1_layWitness_57 (x_X1_detsNow_ct hq) (Or.inl xcell_X0) rfl (lw_V q829 q831 qs23 q118 q832) rfl ydX1_detsNow rfl ⟨Nat.le_of_ble_eq_true rfl, Nat.le_of_ble_eq_true rfl⟩ (Nat.le_of_ble_eq_true rfl) rfl ?_
      change xB xLL yX1_layWitness cX1_layWitness 4 (some .boolean) 3 68 60 [some (.inr (.inr (some 300)) : xV), some (.inl (a1) : xV), some (.inl (a2) : xV), some (.inl (a3) : xV)] [(.inr (.inr (some (300 + q9.1))) : xV)] (ms, q9.2) _ _
      refine x_bipush (64 : Int32) 62 rfl dX1_layWitness_60 rfl ?_
      refine x_iload_n (i := 2) 63 rfl dX1_layWitness_62 rfl rfl ?_
      refine x_imul 64 rfl dX1_layWitness_63 ?_
      refine x_iload_n (i := 3) 65 rfl dX1_layWitness_64 rfl rfl ?_
      refine x_iadd 66 rfl dX1_layWitness_65 ?_
      refine q_iald 67 rfl dX1_layWitness_66 h (fun x10 h => ?_)
      refine x_cl h (fun q11 hq h => ?_)
      refine x_callS (as := [(.inl (x10) : xV)]) (rest := []) (vv := (some (.inl (q11) : xV))) (w2 := (ms, q9.2)) 70 rfl dX1_layWitness_67 (p_X1_isBeyond_ct hq) (lw_S q879 q854 q118 q855) ydX1_isBeyond rfl ⟨Nat.le_of_ble_eq_true rfl, Nat.le_of_ble_eq_true rfl⟩ (Nat.le_of_ble_eq_true rfl) rfl ?_
      change xB xLL yX1_layWitness cX1_layWitness 4 (some .boolean) 3 68 70 [some (.inr (.inr (some 300)) : xV), some (.inl (a1) : xV), some (.inl (a2) : xV), some (.inl (a3) : xV)] [(.inl (q11) : xV)] (ms, q9.2) _ _
      refine x_if_ne 76 73 rfl dX1_layWitness_70 rfl h (fun h => ?_) (fun h => ?_)
      · refine x_iload_n (i := 2) 77 rfl dX1_layWitness_76 rfl rfl ?_
        refine x_cl h (fun q12 hq h => ?_)
        refine x_callS (as := [(.inl (a2) : xV)]) (rest := []) (vv := (some (.inl (q12) : xV))) (w2 := (ms, q9.2)) 80 rfl dX1_layWitness_77 (p_J18_bitCount_ct hq) (lw_S q823 q824 q142 q825) ydJ18_bitCount rfl ⟨Nat.le_of_ble_eq_true rfl, Nat.le_of_ble_eq_true rfl⟩ (Nat.le_of_ble_eq_true rfl) rfl ?_
        change xB xLL yX1_layWitness cX1_layWitness 4 (some .boolean) 3 68 80 [some (.inr (.inr (some 300)) : xV), some (.inl (a1) : xV), some (.inl (a2) : xV), some (.inl (a3) : xV)] [(.inl (q12) : xV)] (ms, q9.2) _ _
        refine x_istore_n 81 rfl dX1_layWitness_80 rfl (by decide) (lv' := [some (.inr (.inr (some 300)) : xV), some (.inl (q12) : xV), some (.inl (a2) : xV), some (.inl (a3) : xV)]) rfl ?_
        refine x_aload_n (i := 0) 82 rfl dX1_layWitness_81 rfl rfl ?_
        refine x_iload_n (i := 2) 83 rfl dX1_layWitness_82 rfl rfl ?_
        refine q_puti (k := 19) (z := 0) 86 rfl dX1_layWitness_83 (by decide) rfl (Or.inl rfl) rfl q461 h (fun r13 h => ?_)
        refine x_aload_n (i := 0) 87 rfl dX1_layWitness_86 rfl rfl ?_
        refine x_iload_n (i := 3) 88 rfl dX1_layWitness_87 rfl rfl ?_
        refine q_puti (k := 20) (z := 0) 91 rfl dX1_layWitness_88 (by decide) rfl (Or.inl rfl) rfl q462 h (fun r14 h => ?_)
        refine x_goto 100 dX1_layWitness_91 rfl ?_
        exact xB.le (xle.s (xle.s (xle.s (xle.n xle.z)))) (x_X1_layWitness_100_ok hr5 h)
      · refine x_goto 94 dX1_layWitness_73 rfl ?_
        exact xB.le (xle.s (xle.s (xle.s (xle.s xle.z)))) (x_X1_layWitness_94_ok hr5 hr31 h)
def x_X1_layWitness_31_L (rec5 : Int32 → Int32 → xR → Option (Int32 × xR)) : Nat → Int32 → Int32 → Int32 → xR → Option (Int32 × xR)
  | 0 => fun _ _ _ _ => none
  | n + 1 => x_X1_layWitness_31_s rec5 (x_X1_layWitness_31_L rec5 n)
theorem x_X1_layWitness_31_L_ok {ms : xS} {rr : Int32 × xR} {rec5 : Int32 → Int32 → xR → Option (Int32 × xR)} (hr5 : ∀ {a1 : Int32} {a2 : Int32} {r : xR}, rec5 a1 a2 r = some rr → xB xLL yX1_layWitness cX1_layWitness 4 (some .boolean) 3 68 5 [some (.inr (.inr (some 300)) : xV), some (.inl (a1) : xV), some (.inl (a2) : xV), none] [] (ms, r) (some (.inl rr.1)) (ms, rr.2)) : ∀ (n9 : Nat) {a1 : Int32} {a2 : Int32} {a3 : Int32} {r : xR}, x_X1_layWitness_31_L rec5 n9 a1 a2 a3 r = some rr → xB xLL yX1_layWitness cX1_layWitness 4 (some .boolean) 3 68 31 [some (.inr (.inr (some 300)) : xV), some (.inl (a1) : xV), some (.inl (a2) : xV), some (.inl (a3) : xV)] [] (ms, r) (some (.inl rr.1)) (ms, rr.2)
  | 0, _, _, _, _, h => by cases h
  | n9 + 1, _, _, _, _, h => x_X1_layWitness_31_s_ok hr5 (x_X1_layWitness_31_L_ok hr5 n9) h
def x_X1_layWitness_5_s (rec5 : Int32 → Int32 → xR → Option (Int32 × xR)) (a1 : Int32) (a2 : Int32) (r : xR) : Option (Int32 × xR) := lt (r.1.2.2 0 11) fun p15 => nn p15 fun p16 => dgi xLL r p16 2 0 fun x17 => if (jshl (1 : Int32) x17) ≤ a2 then if (6 : Int32) < a1 then some ((0 : Int32), r) else some ((1 : Int32), r) else cl (p_J18_bitCount a2) fun q18 => if q18 < a1 then lt ((1 : Int32)) fun x19 => x_X1_layWitness_31_L rec5 xFU a1 a2 x19 r else x_X1_layWitness_100 rec5 a1 a2 r
theorem x_X1_layWitness_5_s_ok {ms : xS} {rr : Int32 × xR} {rec5 : Int32 → Int32 → xR → Option (Int32 × xR)} (hr5 : ∀ {a1 : Int32} {a2 : Int32} {r : xR}, rec5 a1 a2 r = some rr → xB xLL yX1_layWitness cX1_layWitness 4 (some .boolean) 3 68 5 [some (.inr (.inr (some 300)) : xV), some (.inl (a1) : xV), some (.inl (a2) : xV), none] [] (ms, r) (some (.inl rr.1)) (ms, rr.2)) {a1 : Int32} {a2 : Int32} {r : xR} (h : x_X1_layWitness_5_s rec5 a1 a2 r = some rr) : xB xLL yX1_layWitness cX1_layWitness 4 (some .boolean) 3 68 5 [some (.inr (.inr (some 300)) : xV), some (.inl (a1) : xV), some (.inl (a2) : xV), none] [] (ms, r) (some (.inl rr.1)) (ms, rr.2) := by
  refine x_iload_n (i := 2) 6 rfl dX1_layWitness_5 rfl rfl ?_
  refine x_iconst (1 : Int32) 7 rfl dX1_layWitness_6 rfl ?_
  refine x_aload_n (i := 0) 8 rfl dX1_layWitness_7 rfl rfl ?_
  refine q_get (k := 11) 11 rfl dX1_layWitness_8 (by decide) q453 rfl ?_
  refine x_ltr h (fun p15 h => ?_)
  refine x_nnP (P := fun p15 => xB xLL yX1_layWitness cX1_layWitness 4 (some .boolean) 3 68 11 [some (.inr (.inr (some 300)) : xV), some (.inl (a1) : xV), some (.inl (a2) : xV), none] [(.inr (.inr (p15)) : xV), (.inl ((1 : Int32)) : xV), (.inl (a2) : xV)] (ms, r) (some (.inl rr.1)) (ms, rr.2)) h (fun p16 h => ?_)
  refine d_getiN (ci := 2) (k := 0) (C := RX4) (T := TX4) (N := 3) 14 rfl dX1_layWitness_11 rfl in_X4 (by decide) (List.mem_of_getElem? (i := 5) rfl) h (fun x17 h => ?_)
  refine x_ishl 15 rfl dX1_layWitness_14 ?_
  refine x_icmp_ge 106 18 rfl dX1_layWitness_15 rfl h (fun h => ?_) (fun h => ?_)
  · refine x_iload_n (i := 1) 107 rfl dX1_layWitness_106 rfl rfl ?_
    refine x_bipush (6 : Int32) 109 rfl dX1_layWitness_107 rfl ?_
    refine x_icmp_gt 116 112 rfl dX1_layWitness_109 rfl h (fun h => ?_) (fun h => ?_)
    · refine x_iconst (0 : Int32) 117 rfl dX1_layWitness_116 rfl ?_
      cases h
      exact x_zret rfl (Or.inl rfl) dX1_layWitness_117
    · refine x_iconst (1 : Int32) 113 rfl dX1_layWitness_112 rfl ?_
      refine x_goto 117 dX1_layWitness_113 rfl ?_
      cases h
      exact x_zret rfl (Or.inr rfl) dX1_layWitness_117
  · refine x_iload_n (i := 2) 19 rfl dX1_layWitness_18 rfl rfl ?_
    refine x_cl h (fun q18 hq h => ?_)
    refine x_callS (as := [(.inl (a2) : xV)]) (rest := []) (vv := (some (.inl (q18) : xV))) (w2 := (ms, r)) 22 rfl dX1_layWitness_19 (p_J18_bitCount_ct hq) (lw_S q823 q824 q142 q825) ydJ18_bitCount rfl ⟨Nat.le_of_ble_eq_true rfl, Nat.le_of_ble_eq_true rfl⟩ (Nat.le_of_ble_eq_true rfl) rfl ?_
    change xB xLL yX1_layWitness cX1_layWitness 4 (some .boolean) 3 68 22 [some (.inr (.inr (some 300)) : xV), some (.inl (a1) : xV), some (.inl (a2) : xV), none] [(.inl (q18) : xV)] (ms, r) _ _
    refine x_iload_n (i := 1) 23 rfl dX1_layWitness_22 rfl rfl ?_
    refine x_icmp_lt 29 26 rfl dX1_layWitness_23 rfl h (fun h => ?_) (fun h => ?_)
    · refine x_iconst (1 : Int32) 30 rfl dX1_layWitness_29 rfl ?_
      refine x_lti h (fun x19 h => ?_)
      refine x_istore_n 31 rfl dX1_layWitness_30 rfl (by decide) (lv' := [some (.inr (.inr (some 300)) : xV), some (.inl (a1) : xV), some (.inl (a2) : xV), some (.inl (x19) : xV)]) rfl ?_
      exact xB.le (xle.s (xle.s (xle.s (xle.s xle.z)))) (x_X1_layWitness_31_L_ok hr5 xFU h)
    · refine x_goto 100 dX1_layWitness_26 rfl ?_
      exact xB.le (xle.s (xle.s (xle.s (xle.n xle.z)))) (x_X1_layWitness_100_ok hr5 h)
def x_X1_layWitness_5_L : Nat → Int32 → Int32 → xR → Option (Int32 × xR)
  | 0 => fun _ _ _ => none
  | n + 1 => x_X1_layWitness_5_s (x_X1_layWitness_5_L  n)
theorem x_X1_layWitness_5_L_ok {ms : xS} {rr : Int32 × xR} : ∀ (n9 : Nat) {a1 : Int32} {a2 : Int32} {r : xR}, x_X1_layWitness_5_L  n9 a1 a2 r = some rr → xB xLL yX1_layWitness cX1_layWitness 4 (some .boolean) 3 68 5 [some (.inr (.inr (some 300)) : xV), some (.inl (a1) : xV), some (.inl (a2) : xV), none] [] (ms, r) (some (.inl rr.1)) (ms, rr.2)
  | 0, _, _, _, h => by cases h
  | n9 + 1, _, _, _, h => x_X1_layWitness_5_s_ok (x_X1_layWitness_5_L_ok  n9) h
def x_X1_layWitness (r : xR) : Option (Int32 × xR) := lt ((7 : Int32)) fun x20 => lt ((1 : Int32)) fun x21 => x_X1_layWitness_5_L xFU x20 x21 r
theorem x_X1_layWitness_ct {ms : xS} {rr : Int32 × xR} {r : xR} (h : x_X1_layWitness r = some rr) : xCt xLL yX1_layWitness cX1_layWitness 4 (some .boolean) 3 68 [(.inr (.inr (some 300)) : xV)] (ms, r) (some (.inl rr.1)) (ms, rr.2) := by
  refine xCt.of (lv := [some (.inr (.inr (some 300)) : xV), none, none, none]) pl_X1 (Nat.le_of_ble_eq_true rfl) (xle.s (xle.m (xle.m (xle.m xle.z)))) ?_
  refine x_bipush (7 : Int32) 2 rfl dX1_layWitness_0 rfl ?_
  refine x_lti h (fun x20 h => ?_)
  refine x_istore_n 3 rfl dX1_layWitness_2 rfl (by decide) (lv' := [some (.inr (.inr (some 300)) : xV), some (.inl (x20) : xV), none, none]) rfl ?_
  refine x_iconst (1 : Int32) 4 rfl dX1_layWitness_3 rfl ?_
  refine x_lti h (fun x21 h => ?_)
  refine x_istore_n 5 rfl dX1_layWitness_4 rfl (by decide) (lv' := [some (.inr (.inr (some 300)) : xV), some (.inl (x20) : xV), some (.inl (x21) : xV), none]) rfl ?_
  exact xB.le (xle.s (xle.s (xle.s (xle.n xle.z)))) (x_X1_layWitness_5_L_ok xFU h)
/-! UnimodularTables.witness(I)I -/
theorem ydX1_witness : xHd yX1_witness 1 := by decide +kernel
def x_X1_witness (a1 : Int32) (r : xR) : Option (Int32 × xR) := lt (r.1.2.2 0 11) fun p1 => nu p1 (some ((-1000000 : Int32), r)) fun p2 => cl (p_X1_in a1 (0 : Int32) (3 : Int32)) fun q3 => if q3 = 0 then some ((-1000000 : Int32), r) else cl (x_X1_layWitness r) fun q4 => if q4.1 = 0 then some ((-1000000 : Int32), q4.2) else if a1 = (0 : Int32) then cl (p_J18_bitCount (q4.2.1.1 0 19)) fun q5 => some (q5, q4.2) else if a1 = (1 : Int32) then some (q4.2.1.1 0 19, q4.2) else if a1 = (2 : Int32) then some (q4.2.1.1 0 20, q4.2) else cl (x_X1_detsNow q4.2) fun q6 => qrd q6.2 q6.1 (((64 : Int32) * (q6.2.1.1 0 19)) + (q6.2.1.1 0 20)) fun x7 => some (x7, q6.2)
theorem x_X1_witness_ct {ms : xS} {rr : Int32 × xR} {a1 : Int32} {r : xR} (h : x_X1_witness a1 r = some rr) : xCt xLL yX1_witness cX1_witness 2 (some .int) 4 91 [(.inr (.inr (some 300)) : xV), (.inl (a1) : xV)] (ms, r) (some (.inl rr.1)) (ms, rr.2) := by
  refine xCt.of (lv := [some (.inr (.inr (some 300)) : xV), some (.inl (a1) : xV)]) pl_X1 (Nat.le_of_ble_eq_true rfl) (xle.s (xle.s xle.z)) ?_
  refine x_aload_n (i := 0) 1 rfl dX1_witness_0 rfl rfl ?_
  refine q_get (k := 11) 4 rfl dX1_witness_1 (by decide) q453 rfl ?_
  refine x_ltr h (fun p1 h => ?_)
  refine x_nulP (lv := fun p1 => [some (.inr (.inr (some 300)) : xV), some (.inl (a1) : xV)]) (st := fun p1 => []) 23 7 rfl dX1_witness_4 rfl h (fun h => ?_) (fun p2 h => ?_)
  · refine x_ldc 25 rfl dX1_witness_23 q657 ?_
    cases h
    exact x_iret rfl dX1_witness_25
  · refine x_iload_n (i := 1) 8 rfl dX1_witness_7 rfl rfl ?_
    refine x_iconst (0 : Int32) 9 rfl dX1_witness_8 rfl ?_
    refine x_iconst (3 : Int32) 10 rfl dX1_witness_9 rfl ?_
    refine x_cl h (fun q3 hq h => ?_)
    refine x_callS (as := [(.inl (a1) : xV), (.inl ((0 : Int32)) : xV), (.inl ((3 : Int32)) : xV)]) (rest := []) (vv := (some (.inl (q3) : xV))) (w2 := (ms, r)) 13 rfl dX1_witness_10 (p_X1_in_ct hq) (lw_S q556 q557 q118 q558) ydX1_in rfl ⟨Nat.le_of_ble_eq_true rfl, Nat.le_of_ble_eq_true rfl⟩ (Nat.le_of_ble_eq_true rfl) rfl ?_
    change xB xLL yX1_witness cX1_witness 2 (some .int) 4 91 13 [some (.inr (.inr (some 300)) : xV), some (.inl (a1) : xV)] [(.inl (q3) : xV)] (ms, r) _ _
    refine x_if_eq 23 16 rfl dX1_witness_13 rfl h (fun h => ?_) (fun h => ?_)
    · refine x_ldc 25 rfl dX1_witness_23 q657 ?_
      cases h
      exact x_iret rfl dX1_witness_25
    · refine x_aload_n (i := 0) 17 rfl dX1_witness_16 rfl rfl ?_
      refine x_cl h (fun q4 hq h => ?_)
      refine x_callV (as := []) (rest := []) (vv := (some (.inl (q4.1) : xV))) (w2 := (ms, q4.2)) (C := RX1) (T := TX1) (N := 34) 20 rfl dX1_witness_17 (x_X1_layWitness_ct hq) (Or.inl xcell_X0) rfl (lw_V q875 q877 qs25 q118 q878) rfl ydX1_layWitness rfl ⟨Nat.le_of_ble_eq_true rfl, Nat.le_of_ble_eq_true rfl⟩ (Nat.le_of_ble_eq_true rfl) rfl ?_
      change xB xLL yX1_witness cX1_witness 2 (some .int) 4 91 20 [some (.inr (.inr (some 300)) : xV), some (.inl (a1) : xV)] [(.inl (q4.1) : xV)] (ms, q4.2) _ _
      refine x_if_ne 26 23 rfl dX1_witness_20 rfl h (fun h => ?_) (fun h => ?_)
      · refine x_iload_n (i := 1) 27 rfl dX1_witness_26 rfl rfl ?_
        refine x_sw (0 : Int32) h (fun hc hh => ?_) (fun hc0 h => ?_)
        · subst hc
          replace h := hh
          refine x_table 52 dX1_witness_27 (by decide) (by decide) rfl rfl ?_
          refine x_aload_n (i := 0) 53 rfl dX1_witness_52 rfl rfl ?_
          refine q_get (k := 19) 56 rfl dX1_witness_53 (by decide) q461 rfl ?_
          refine x_cl h (fun q5 hq h => ?_)
          refine x_callS (as := [(.inl (q4.2.1.1 0 19) : xV)]) (rest := []) (vv := (some (.inl (q5) : xV))) (w2 := (ms, q4.2)) 59 rfl dX1_witness_56 (p_J18_bitCount_ct hq) (lw_S q823 q824 q142 q825) ydJ18_bitCount rfl ⟨Nat.le_of_ble_eq_true rfl, Nat.le_of_ble_eq_true rfl⟩ (Nat.le_of_ble_eq_true rfl) rfl ?_
          change xB xLL yX1_witness cX1_witness 2 (some .int) 4 91 59 [some (.inr (.inr (some 300)) : xV), some (.inl ((0 : Int32)) : xV)] [(.inl (q5) : xV)] (ms, q4.2) _ _
          refine x_goto 93 dX1_witness_59 rfl ?_
          cases h
          exact x_iret rfl dX1_witness_93
        · refine x_sw (1 : Int32) h (fun hc hh => ?_) (fun hc1 h => ?_)
          · subst hc
            replace h := hh
            refine x_table 62 dX1_witness_27 (by decide) (by decide) rfl rfl ?_
            refine x_aload_n (i := 0) 63 rfl dX1_witness_62 rfl rfl ?_
            refine q_get (k := 19) 66 rfl dX1_witness_63 (by decide) q461 rfl ?_
            refine x_goto 93 dX1_witness_66 rfl ?_
            cases h
            exact x_iret rfl dX1_witness_93
          · refine x_sw (2 : Int32) h (fun hc hh => ?_) (fun hc2 h => ?_)
            · subst hc
              replace h := hh
              refine x_table 69 dX1_witness_27 (by decide) (by decide) rfl rfl ?_
              refine x_aload_n (i := 0) 70 rfl dX1_witness_69 rfl rfl ?_
              refine q_get (k := 20) 73 rfl dX1_witness_70 (by decide) q462 rfl ?_
              refine x_goto 93 dX1_witness_73 rfl ?_
              cases h
              exact x_iret rfl dX1_witness_93
            · refine x_tableD 76 dX1_witness_27 (x_out_0_2 hc0 hc1 hc2) rfl ?_
              refine x_aload_n (i := 0) 77 rfl dX1_witness_76 rfl rfl ?_
              refine x_cl h (fun q6 hq h => ?_)
              refine x_callV (as := []) (rest := []) (vv := (some (.inr (.inr (some (300 + q6.1))) : xV))) (w2 := (ms, q6.2)) (C := RX1) (T := TX1) (N := 34) 80 rfl dX1_witness_77 (x_X1_detsNow_ct hq) (Or.inl xcell_X0) rfl (lw_V q829 q831 qs23 q118 q832) rfl ydX1_detsNow rfl ⟨Nat.le_of_ble_eq_true rfl, Nat.le_of_ble_eq_true rfl⟩ (Nat.le_of_ble_eq_true rfl) rfl ?_
              change xB xLL yX1_witness cX1_witness 2 (some .int) 4 91 80 [some (.inr (.inr (some 300)) : xV), some (.inl (a1) : xV)] [(.inr (.inr (some (300 + q6.1))) : xV)] (ms, q6.2) _ _
              refine x_bipush (64 : Int32) 82 rfl dX1_witness_80 rfl ?_
              refine x_aload_n (i := 0) 83 rfl dX1_witness_82 rfl rfl ?_
              refine q_get (k := 19) 86 rfl dX1_witness_83 (by decide) q461 rfl ?_
              refine x_imul 87 rfl dX1_witness_86 ?_
              refine x_aload_n (i := 0) 88 rfl dX1_witness_87 rfl rfl ?_
              refine q_get (k := 20) 91 rfl dX1_witness_88 (by decide) q462 rfl ?_
              refine x_iadd 92 rfl dX1_witness_91 ?_
              refine q_iald 93 rfl dX1_witness_92 h (fun x7 h => ?_)
              cases h
              exact x_iret rfl dX1_witness_93
      · refine x_ldc 25 rfl dX1_witness_23 q657 ?_
        cases h
        exact x_iret rfl dX1_witness_25
/-! UnimodularTables.doesHalve(II)Z -/
theorem ydX1_doesHalve : xHd yX1_doesHalve 2 := by decide +kernel
def x_X1_doesHalve_82 (rec2 : Int32 → Int32 → Int32 → xR → Option (Int32 × xR)) (rec19 : Int32 → Int32 → Int32 → Int32 → Int32 → xR → Option (Int32 × xR)) (a1 : Int32) (a2 : Int32) (a3 : Int32) (a4 : Int32) (a5 : Int32) (r : xR) : Option (Int32 × xR) := lt (a5 + (1 : Int32)) fun x1 => rec19 a1 a2 a3 a4 x1 r
theorem x_X1_doesHalve_82_ok {ms : xS} {rr : Int32 × xR} {rec2 : Int32 → Int32 → Int32 → xR → Option (Int32 × xR)} {rec19 : Int32 → Int32 → Int32 → Int32 → Int32 → xR → Option (Int32 × xR)} (hr2 : ∀ {a1 : Int32} {a2 : Int32} {a3 : Int32} {r : xR}, rec2 a1 a2 a3 r = some rr → xB xLL yX1_doesHalve cX1_doesHalve 6 (some .boolean) 1 22 2 [some (.inr (.inr (some 300)) : xV), some (.inl (a1) : xV), some (.inl (a2) : xV), some (.inl (a3) : xV), none, none] [] (ms, r) (some (.inl rr.1)) (ms, rr.2)) (hr19 : ∀ {a1 : Int32} {a2 : Int32} {a3 : Int32} {a4 : Int32} {a5 : Int32} {r : xR}, rec19 a1 a2 a3 a4 a5 r = some rr → xB xLL yX1_doesHalve cX1_doesHalve 6 (some .boolean) 1 22 19 [some (.inr (.inr (some 300)) : xV), some (.inl (a1) : xV), some (.inl (a2) : xV), some (.inl (a3) : xV), some (.inl (a4) : xV), some (.inl (a5) : xV)] [] (ms, r) (some (.inl rr.1)) (ms, rr.2)) {a1 : Int32} {a2 : Int32} {a3 : Int32} {a4 : Int32} {a5 : Int32} {r : xR} (h : x_X1_doesHalve_82 rec2 rec19 a1 a2 a3 a4 a5 r = some rr) : xB xLL yX1_doesHalve cX1_doesHalve 6 (some .boolean) 1 22 82 [some (.inr (.inr (some 300)) : xV), some (.inl (a1) : xV), some (.inl (a2) : xV), some (.inl (a3) : xV), some (.inl (a4) : xV), some (.inl (a5) : xV)] [] (ms, r) (some (.inl rr.1)) (ms, rr.2) := by
  refine x_iincL (i := 5) (1 : Int32) 85 rfl dX1_doesHalve_82 rfl rfl (by decide) h (fun x1 h => ?_)
  change xB xLL yX1_doesHalve cX1_doesHalve 6 (some .boolean) 1 22 85 [some (.inr (.inr (some 300)) : xV), some (.inl (a1) : xV), some (.inl (a2) : xV), some (.inl (a3) : xV), some (.inl (a4) : xV), some (.inl (x1) : xV)] [] (ms, r) _ _
  refine x_goto 19 dX1_doesHalve_85 rfl ?_
  exact xB.le (xle.s (xle.s (xle.s (xle.s (xle.s (xle.s xle.z)))))) (hr19 h)
def x_X1_doesHalve_79 (rec2 : Int32 → Int32 → Int32 → xR → Option (Int32 × xR)) (rec19 : Int32 → Int32 → Int32 → Int32 → Int32 → xR → Option (Int32 × xR)) (a1 : Int32) (a2 : Int32) (a3 : Int32) (a5 : Int32) (s0 : Int32) (s1 : Int32) (r : xR) : Option (Int32 × xR) := lt (s1 + s0) fun x2 => x_X1_doesHalve_82 rec2 rec19 a1 a2 a3 x2 a5 r
theorem x_X1_doesHalve_79_ok {ms : xS} {rr : Int32 × xR} {rec2 : Int32 → Int32 → Int32 → xR → Option (Int32 × xR)} {rec19 : Int32 → Int32 → Int32 → Int32 → Int32 → xR → Option (Int32 × xR)} (hr2 : ∀ {a1 : Int32} {a2 : Int32} {a3 : Int32} {r : xR}, rec2 a1 a2 a3 r = some rr → xB xLL yX1_doesHalve cX1_doesHalve 6 (some .boolean) 1 22 2 [some (.inr (.inr (some 300)) : xV), some (.inl (a1) : xV), some (.inl (a2) : xV), some (.inl (a3) : xV), none, none] [] (ms, r) (some (.inl rr.1)) (ms, rr.2)) (hr19 : ∀ {a1 : Int32} {a2 : Int32} {a3 : Int32} {a4 : Int32} {a5 : Int32} {r : xR}, rec19 a1 a2 a3 a4 a5 r = some rr → xB xLL yX1_doesHalve cX1_doesHalve 6 (some .boolean) 1 22 19 [some (.inr (.inr (some 300)) : xV), some (.inl (a1) : xV), some (.inl (a2) : xV), some (.inl (a3) : xV), some (.inl (a4) : xV), some (.inl (a5) : xV)] [] (ms, r) (some (.inl rr.1)) (ms, rr.2)) {a1 : Int32} {a2 : Int32} {a3 : Int32} {a5 : Int32} {s0 : Int32} {s1 : Int32} {r : xR} (h : x_X1_doesHalve_79 rec2 rec19 a1 a2 a3 a5 s0 s1 r = some rr) : xB xLL yX1_doesHalve cX1_doesHalve 6 (some .boolean) 1 22 79 [some (.inr (.inr (some 300)) : xV), some (.inl (a1) : xV), some (.inl (a2) : xV), some (.inl (a3) : xV), none, some (.inl (a5) : xV)] [(.inl (s0) : xV), (.inl (s1) : xV)] (ms, r) (some (.inl rr.1)) (ms, rr.2) := by
  refine x_iadd 80 rfl dX1_doesHalve_79 ?_
  refine x_lti h (fun x2 h => ?_)
  refine x_istore 82 rfl dX1_doesHalve_80 (by decide) (lv' := [some (.inr (.inr (some 300)) : xV), some (.inl (a1) : xV), some (.inl (a2) : xV), some (.inl (a3) : xV), some (.inl (x2) : xV), some (.inl (a5) : xV)]) rfl ?_
  exact xB.le (xle.s (xle.s (xle.s (xle.s (xle.s (xle.s xle.z)))))) (x_X1_doesHalve_82_ok hr2 hr19 h)
def x_X1_doesHalve_19_s (rec2 : Int32 → Int32 → Int32 → xR → Option (Int32 × xR)) (rec19 : Int32 → Int32 → Int32 → Int32 → Int32 → xR → Option (Int32 × xR)) (a1 : Int32) (a2 : Int32) (a3 : Int32) (a4 : Int32) (a5 : Int32) (r : xR) : Option (Int32 × xR) := lt (r.1.2.2 0 11) fun p3 => nn p3 fun p4 => dgi xLL r p4 2 0 fun x5 => if x5 ≤ a5 then cl (p_X1_in a4 (-1 : Int32) (1 : Int32)) fun q6 => if q6 = 0 then some ((0 : Int32), r) else lt (a3 + (1 : Int32)) fun x7 => rec2 a1 a2 x7 r else cl (p_X1_has a1 a5) fun q8 => if q8 = 0 then x_X1_doesHalve_82 rec2 rec19 a1 a2 a3 a4 a5 r else cl (p_X1_has a2 a5) fun q9 => if q9 = 0 then lt (r.1.2.2 0 11) fun p10 => nn p10 fun p11 => dgr xLL r p11 2 2 fun p12 => nn p12 fun p13 => dar xLL r p13 a5 fun p14 => nn p14 fun p15 => dai xLL r p15 a3 fun x16 => x_X1_doesHalve_79 rec2 rec19 a1 a2 a3 a5 (-x16) a4 r else lt (r.1.2.2 0 11) fun p17 => nn p17 fun p18 => dgr xLL r p18 2 2 fun p19 => nn p19 fun p20 => dar xLL r p20 a5 fun p21 => nn p21 fun p22 => dai xLL r p22 a3 fun x23 => x_X1_doesHalve_79 rec2 rec19 a1 a2 a3 a5 x23 a4 r
theorem x_X1_doesHalve_19_s_ok {ms : xS} {rr : Int32 × xR} {rec2 : Int32 → Int32 → Int32 → xR → Option (Int32 × xR)} {rec19 : Int32 → Int32 → Int32 → Int32 → Int32 → xR → Option (Int32 × xR)} (hr2 : ∀ {a1 : Int32} {a2 : Int32} {a3 : Int32} {r : xR}, rec2 a1 a2 a3 r = some rr → xB xLL yX1_doesHalve cX1_doesHalve 6 (some .boolean) 1 22 2 [some (.inr (.inr (some 300)) : xV), some (.inl (a1) : xV), some (.inl (a2) : xV), some (.inl (a3) : xV), none, none] [] (ms, r) (some (.inl rr.1)) (ms, rr.2)) (hr19 : ∀ {a1 : Int32} {a2 : Int32} {a3 : Int32} {a4 : Int32} {a5 : Int32} {r : xR}, rec19 a1 a2 a3 a4 a5 r = some rr → xB xLL yX1_doesHalve cX1_doesHalve 6 (some .boolean) 1 22 19 [some (.inr (.inr (some 300)) : xV), some (.inl (a1) : xV), some (.inl (a2) : xV), some (.inl (a3) : xV), some (.inl (a4) : xV), some (.inl (a5) : xV)] [] (ms, r) (some (.inl rr.1)) (ms, rr.2)) {a1 : Int32} {a2 : Int32} {a3 : Int32} {a4 : Int32} {a5 : Int32} {r : xR} (h : x_X1_doesHalve_19_s rec2 rec19 a1 a2 a3 a4 a5 r = some rr) : xB xLL yX1_doesHalve cX1_doesHalve 6 (some .boolean) 1 22 19 [some (.inr (.inr (some 300)) : xV), some (.inl (a1) : xV), some (.inl (a2) : xV), some (.inl (a3) : xV), some (.inl (a4) : xV), some (.inl (a5) : xV)] [] (ms, r) (some (.inl rr.1)) (ms, rr.2) := by
  refine x_iload (i := 5) 21 rfl dX1_doesHalve_19 rfl ?_
  refine x_aload_n (i := 0) 22 rfl dX1_doesHalve_21 rfl rfl ?_
  refine q_get (k := 11) 25 rfl dX1_doesHalve_22 (by decide) q453 rfl ?_
  refine x_ltr h (fun p3 h => ?_)
  refine x_nnP (P := fun p3 => xB xLL yX1_doesHalve cX1_doesHalve 6 (some .boolean) 1 22 25 [some (.inr (.inr (some 300)) : xV), some (.inl (a1) : xV), some (.inl (a2) : xV), some (.inl (a3) : xV), some (.inl (a4) : xV), some (.inl (a5) : xV)] [(.inr (.inr (p3)) : xV), (.inl (a5) : xV)] (ms, r) (some (.inl rr.1)) (ms, rr.2)) h (fun p4 h => ?_)
  refine d_getiN (ci := 2) (k := 0) (C := RX4) (T := TX4) (N := 3) 28 rfl dX1_doesHalve_25 rfl in_X4 (by decide) (List.mem_of_getElem? (i := 5) rfl) h (fun x5 h => ?_)
  refine x_icmp_ge 88 31 rfl dX1_doesHalve_28 rfl h (fun h => ?_) (fun h => ?_)
  · refine x_iload (i := 4) 90 rfl dX1_doesHalve_88 rfl ?_
    refine x_iconst (-1 : Int32) 91 rfl dX1_doesHalve_90 rfl ?_
    refine x_iconst (1 : Int32) 92 rfl dX1_doesHalve_91 rfl ?_
    refine x_cl h (fun q6 hq h => ?_)
    refine x_callS (as := [(.inl (a4) : xV), (.inl ((-1 : Int32)) : xV), (.inl ((1 : Int32)) : xV)]) (rest := []) (vv := (some (.inl (q6) : xV))) (w2 := (ms, r)) 95 rfl dX1_doesHalve_92 (p_X1_in_ct hq) (lw_S q556 q557 q118 q558) ydX1_in rfl ⟨Nat.le_of_ble_eq_true rfl, Nat.le_of_ble_eq_true rfl⟩ (Nat.le_of_ble_eq_true rfl) rfl ?_
    change xB xLL yX1_doesHalve cX1_doesHalve 6 (some .boolean) 1 22 95 [some (.inr (.inr (some 300)) : xV), some (.inl (a1) : xV), some (.inl (a2) : xV), some (.inl (a3) : xV), some (.inl (a4) : xV), some (.inl (a5) : xV)] [(.inl (q6) : xV)] (ms, r) _ _
    refine x_if_ne 100 98 rfl dX1_doesHalve_95 rfl h (fun h => ?_) (fun h => ?_)
    · refine x_iincL (i := 3) (1 : Int32) 103 rfl dX1_doesHalve_100 rfl rfl (by decide) h (fun x7 h => ?_)
      change xB xLL yX1_doesHalve cX1_doesHalve 6 (some .boolean) 1 22 103 [some (.inr (.inr (some 300)) : xV), some (.inl (a1) : xV), some (.inl (a2) : xV), some (.inl (x7) : xV), some (.inl (a4) : xV), some (.inl (a5) : xV)] [] (ms, r) _ _
      refine x_goto 2 dX1_doesHalve_103 rfl ?_
      exact xB.le (xle.s (xle.s (xle.s (xle.s (xle.n (xle.n xle.z)))))) (hr2 h)
    · refine x_iconst (0 : Int32) 99 rfl dX1_doesHalve_98 rfl ?_
      cases h
      exact x_zret rfl (Or.inl rfl) dX1_doesHalve_99
  · refine x_iload_n (i := 1) 32 rfl dX1_doesHalve_31 rfl rfl ?_
    refine x_iload (i := 5) 34 rfl dX1_doesHalve_32 rfl ?_
    refine x_cl h (fun q8 hq h => ?_)
    refine x_callS (as := [(.inl (a1) : xV), (.inl (a5) : xV)]) (rest := []) (vv := (some (.inl (q8) : xV))) (w2 := (ms, r)) 37 rfl dX1_doesHalve_34 (p_X1_has_ct hq) (lw_S q840 q841 q118 q842) ydX1_has rfl ⟨Nat.le_of_ble_eq_true rfl, Nat.le_of_ble_eq_true rfl⟩ (Nat.le_of_ble_eq_true rfl) rfl ?_
    change xB xLL yX1_doesHalve cX1_doesHalve 6 (some .boolean) 1 22 37 [some (.inr (.inr (some 300)) : xV), some (.inl (a1) : xV), some (.inl (a2) : xV), some (.inl (a3) : xV), some (.inl (a4) : xV), some (.inl (a5) : xV)] [(.inl (q8) : xV)] (ms, r) _ _
    refine x_if_eq 82 40 rfl dX1_doesHalve_37 rfl h (fun h => ?_) (fun h => ?_)
    · exact xB.le (xle.s (xle.s (xle.s (xle.s (xle.s (xle.s xle.z)))))) (x_X1_doesHalve_82_ok hr2 hr19 h)
    · refine x_iload (i := 4) 42 rfl dX1_doesHalve_40 rfl ?_
      refine x_iload_n (i := 2) 43 rfl dX1_doesHalve_42 rfl rfl ?_
      refine x_iload (i := 5) 45 rfl dX1_doesHalve_43 rfl ?_
      refine x_cl h (fun q9 hq h => ?_)
      refine x_callS (as := [(.inl (a2) : xV), (.inl (a5) : xV)]) (rest := [(.inl (a4) : xV)]) (vv := (some (.inl (q9) : xV))) (w2 := (ms, r)) 48 rfl dX1_doesHalve_45 (p_X1_has_ct hq) (lw_S q840 q841 q118 q842) ydX1_has rfl ⟨Nat.le_of_ble_eq_true rfl, Nat.le_of_ble_eq_true rfl⟩ (Nat.le_of_ble_eq_true rfl) rfl ?_
      change xB xLL yX1_doesHalve cX1_doesHalve 6 (some .boolean) 1 22 48 [some (.inr (.inr (some 300)) : xV), some (.inl (a1) : xV), some (.inl (a2) : xV), some (.inl (a3) : xV), some (.inl (a4) : xV), some (.inl (a5) : xV)] [(.inl (q9) : xV), (.inl (a4) : xV)] (ms, r) _ _
      refine x_if_eq 66 51 rfl dX1_doesHalve_48 rfl h (fun h => ?_) (fun h => ?_)
      · refine x_aload_n (i := 0) 67 rfl dX1_doesHalve_66 rfl rfl ?_
        refine q_get (k := 11) 70 rfl dX1_doesHalve_67 (by decide) q453 rfl ?_
        refine x_ltr h (fun p10 h => ?_)
        refine x_nnP (P := fun p10 => xB xLL yX1_doesHalve cX1_doesHalve 6 (some .boolean) 1 22 70 [some (.inr (.inr (some 300)) : xV), some (.inl (a1) : xV), some (.inl (a2) : xV), some (.inl (a3) : xV), some (.inl (a4) : xV), some (.inl (a5) : xV)] [(.inr (.inr (p10)) : xV), (.inl (a4) : xV)] (ms, r) (some (.inl rr.1)) (ms, rr.2)) h (fun p11 h => ?_)
        refine d_getrN (ci := 2) (k := 2) (C := RX4) (T := TX4) (N := 3) 73 rfl dX1_doesHalve_70 rfl in_X4 (by decide) (List.mem_of_getElem? (i := 9) rfl) h (fun p12 h => ?_)
        refine x_iload (i := 5) 75 rfl dX1_doesHalve_73 rfl ?_
        refine x_nnP (P := fun p12 => xB xLL yX1_doesHalve cX1_doesHalve 6 (some .boolean) 1 22 75 [some (.inr (.inr (some 300)) : xV), some (.inl (a1) : xV), some (.inl (a2) : xV), some (.inl (a3) : xV), some (.inl (a4) : xV), some (.inl (a5) : xV)] [(.inl (a5) : xV), (.inr (.inr (p12)) : xV), (.inl (a4) : xV)] (ms, r) (some (.inl rr.1)) (ms, rr.2)) h (fun p13 h => ?_)
        refine d_aald 76 rfl dX1_doesHalve_75 h (fun p14 h => ?_)
        refine x_iload_n (i := 3) 77 rfl dX1_doesHalve_76 rfl rfl ?_
        refine x_nnP (P := fun p14 => xB xLL yX1_doesHalve cX1_doesHalve 6 (some .boolean) 1 22 77 [some (.inr (.inr (some 300)) : xV), some (.inl (a1) : xV), some (.inl (a2) : xV), some (.inl (a3) : xV), some (.inl (a4) : xV), some (.inl (a5) : xV)] [(.inl (a3) : xV), (.inr (.inr (p14)) : xV), (.inl (a4) : xV)] (ms, r) (some (.inl rr.1)) (ms, rr.2)) h (fun p15 h => ?_)
        refine d_iald 78 rfl dX1_doesHalve_77 h (fun x16 h => ?_)
        refine x_ineg 79 rfl dX1_doesHalve_78 ?_
        exact xB.le (xle.s (xle.s (xle.s (xle.s (xle.n (xle.s xle.z)))))) (x_X1_doesHalve_79_ok hr2 hr19 h)
      · refine x_aload_n (i := 0) 52 rfl dX1_doesHalve_51 rfl rfl ?_
        refine q_get (k := 11) 55 rfl dX1_doesHalve_52 (by decide) q453 rfl ?_
        refine x_ltr h (fun p17 h => ?_)
        refine x_nnP (P := fun p17 => xB xLL yX1_doesHalve cX1_doesHalve 6 (some .boolean) 1 22 55 [some (.inr (.inr (some 300)) : xV), some (.inl (a1) : xV), some (.inl (a2) : xV), some (.inl (a3) : xV), some (.inl (a4) : xV), some (.inl (a5) : xV)] [(.inr (.inr (p17)) : xV), (.inl (a4) : xV)] (ms, r) (some (.inl rr.1)) (ms, rr.2)) h (fun p18 h => ?_)
        refine d_getrN (ci := 2) (k := 2) (C := RX4) (T := TX4) (N := 3) 58 rfl dX1_doesHalve_55 rfl in_X4 (by decide) (List.mem_of_getElem? (i := 9) rfl) h (fun p19 h => ?_)
        refine x_iload (i := 5) 60 rfl dX1_doesHalve_58 rfl ?_
        refine x_nnP (P := fun p19 => xB xLL yX1_doesHalve cX1_doesHalve 6 (some .boolean) 1 22 60 [some (.inr (.inr (some 300)) : xV), some (.inl (a1) : xV), some (.inl (a2) : xV), some (.inl (a3) : xV), some (.inl (a4) : xV), some (.inl (a5) : xV)] [(.inl (a5) : xV), (.inr (.inr (p19)) : xV), (.inl (a4) : xV)] (ms, r) (some (.inl rr.1)) (ms, rr.2)) h (fun p20 h => ?_)
        refine d_aald 61 rfl dX1_doesHalve_60 h (fun p21 h => ?_)
        refine x_iload_n (i := 3) 62 rfl dX1_doesHalve_61 rfl rfl ?_
        refine x_nnP (P := fun p21 => xB xLL yX1_doesHalve cX1_doesHalve 6 (some .boolean) 1 22 62 [some (.inr (.inr (some 300)) : xV), some (.inl (a1) : xV), some (.inl (a2) : xV), some (.inl (a3) : xV), some (.inl (a4) : xV), some (.inl (a5) : xV)] [(.inl (a3) : xV), (.inr (.inr (p21)) : xV), (.inl (a4) : xV)] (ms, r) (some (.inl rr.1)) (ms, rr.2)) h (fun p22 h => ?_)
        refine d_iald 63 rfl dX1_doesHalve_62 h (fun x23 h => ?_)
        refine x_goto 79 dX1_doesHalve_63 rfl ?_
        exact xB.le (xle.s (xle.s (xle.s (xle.s (xle.n (xle.s xle.z)))))) (x_X1_doesHalve_79_ok hr2 hr19 h)
def x_X1_doesHalve_19_L (rec2 : Int32 → Int32 → Int32 → xR → Option (Int32 × xR)) : Nat → Int32 → Int32 → Int32 → Int32 → Int32 → xR → Option (Int32 × xR)
  | 0 => fun _ _ _ _ _ _ => none
  | n + 1 => x_X1_doesHalve_19_s rec2 (x_X1_doesHalve_19_L rec2 n)
theorem x_X1_doesHalve_19_L_ok {ms : xS} {rr : Int32 × xR} {rec2 : Int32 → Int32 → Int32 → xR → Option (Int32 × xR)} (hr2 : ∀ {a1 : Int32} {a2 : Int32} {a3 : Int32} {r : xR}, rec2 a1 a2 a3 r = some rr → xB xLL yX1_doesHalve cX1_doesHalve 6 (some .boolean) 1 22 2 [some (.inr (.inr (some 300)) : xV), some (.inl (a1) : xV), some (.inl (a2) : xV), some (.inl (a3) : xV), none, none] [] (ms, r) (some (.inl rr.1)) (ms, rr.2)) : ∀ (n9 : Nat) {a1 : Int32} {a2 : Int32} {a3 : Int32} {a4 : Int32} {a5 : Int32} {r : xR}, x_X1_doesHalve_19_L rec2 n9 a1 a2 a3 a4 a5 r = some rr → xB xLL yX1_doesHalve cX1_doesHalve 6 (some .boolean) 1 22 19 [some (.inr (.inr (some 300)) : xV), some (.inl (a1) : xV), some (.inl (a2) : xV), some (.inl (a3) : xV), some (.inl (a4) : xV), some (.inl (a5) : xV)] [] (ms, r) (some (.inl rr.1)) (ms, rr.2)
  | 0, _, _, _, _, _, _, h => by cases h
  | n9 + 1, _, _, _, _, _, _, h => x_X1_doesHalve_19_s_ok hr2 (x_X1_doesHalve_19_L_ok hr2 n9) h
def x_X1_doesHalve_2_s (rec2 : Int32 → Int32 → Int32 → xR → Option (Int32 × xR)) (a1 : Int32) (a2 : Int32) (a3 : Int32) (r : xR) : Option (Int32 × xR) := lt (r.1.2.2 0 11) fun p24 => nn p24 fun p25 => dgi xLL r p25 2 1 fun x26 => if x26 ≤ a3 then some ((1 : Int32), r) else lt ((0 : Int32)) fun x27 => lt ((0 : Int32)) fun x28 => x_X1_doesHalve_19_L rec2 xFU a1 a2 a3 x27 x28 r
theorem x_X1_doesHalve_2_s_ok {ms : xS} {rr : Int32 × xR} {rec2 : Int32 → Int32 → Int32 → xR → Option (Int32 × xR)} (hr2 : ∀ {a1 : Int32} {a2 : Int32} {a3 : Int32} {r : xR}, rec2 a1 a2 a3 r = some rr → xB xLL yX1_doesHalve cX1_doesHalve 6 (some .boolean) 1 22 2 [some (.inr (.inr (some 300)) : xV), some (.inl (a1) : xV), some (.inl (a2) : xV), some (.inl (a3) : xV), none, none] [] (ms, r) (some (.inl rr.1)) (ms, rr.2)) {a1 : Int32} {a2 : Int32} {a3 : Int32} {r : xR} (h : x_X1_doesHalve_2_s rec2 a1 a2 a3 r = some rr) : xB xLL yX1_doesHalve cX1_doesHalve 6 (some .boolean) 1 22 2 [some (.inr (.inr (some 300)) : xV), some (.inl (a1) : xV), some (.inl (a2) : xV), some (.inl (a3) : xV), none, none] [] (ms, r) (some (.inl rr.1)) (ms, rr.2) := by
  refine x_iload_n (i := 3) 3 rfl dX1_doesHalve_2 rfl rfl ?_
  refine x_aload_n (i := 0) 4 rfl dX1_doesHalve_3 rfl rfl ?_
  refine q_get (k := 11) 7 rfl dX1_doesHalve_4 (by decide) q453 rfl ?_
  refine x_ltr h (fun p24 h => ?_)
  refine x_nnP (P := fun p24 => xB xLL yX1_doesHalve cX1_doesHalve 6 (some .boolean) 1 22 7 [some (.inr (.inr (some 300)) : xV), some (.inl (a1) : xV), some (.inl (a2) : xV), some (.inl (a3) : xV), none, none] [(.inr (.inr (p24)) : xV), (.inl (a3) : xV)] (ms, r) (some (.inl rr.1)) (ms, rr.2)) h (fun p25 h => ?_)
  refine d_getiN (ci := 2) (k := 1) (C := RX4) (T := TX4) (N := 3) 10 rfl dX1_doesHalve_7 rfl in_X4 (by decide) (List.mem_of_getElem? (i := 7) rfl) h (fun x26 h => ?_)
  refine x_icmp_ge 106 13 rfl dX1_doesHalve_10 rfl h (fun h => ?_) (fun h => ?_)
  · refine x_iconst (1 : Int32) 107 rfl dX1_doesHalve_106 rfl ?_
    cases h
    exact x_zret rfl (Or.inr rfl) dX1_doesHalve_107
  · refine x_iconst (0 : Int32) 14 rfl dX1_doesHalve_13 rfl ?_
    refine x_lti h (fun x27 h => ?_)
    refine x_istore 16 rfl dX1_doesHalve_14 (by decide) (lv' := [some (.inr (.inr (some 300)) : xV), some (.inl (a1) : xV), some (.inl (a2) : xV), some (.inl (a3) : xV), some (.inl (x27) : xV), none]) rfl ?_
    refine x_iconst (0 : Int32) 17 rfl dX1_doesHalve_16 rfl ?_
    refine x_lti h (fun x28 h => ?_)
    refine x_istore 19 rfl dX1_doesHalve_17 (by decide) (lv' := [some (.inr (.inr (some 300)) : xV), some (.inl (a1) : xV), some (.inl (a2) : xV), some (.inl (a3) : xV), some (.inl (x27) : xV), some (.inl (x28) : xV)]) rfl ?_
    exact xB.le (xle.s (xle.s (xle.s (xle.s (xle.s (xle.s xle.z)))))) (x_X1_doesHalve_19_L_ok hr2 xFU h)
def x_X1_doesHalve_2_L : Nat → Int32 → Int32 → Int32 → xR → Option (Int32 × xR)
  | 0 => fun _ _ _ _ => none
  | n + 1 => x_X1_doesHalve_2_s (x_X1_doesHalve_2_L  n)
theorem x_X1_doesHalve_2_L_ok {ms : xS} {rr : Int32 × xR} : ∀ (n9 : Nat) {a1 : Int32} {a2 : Int32} {a3 : Int32} {r : xR}, x_X1_doesHalve_2_L  n9 a1 a2 a3 r = some rr → xB xLL yX1_doesHalve cX1_doesHalve 6 (some .boolean) 1 22 2 [some (.inr (.inr (some 300)) : xV), some (.inl (a1) : xV), some (.inl (a2) : xV), some (.inl (a3) : xV), none, none] [] (ms, r) (some (.inl rr.1)) (ms, rr.2)
  | 0, _, _, _, _, h => by cases h
  | n9 + 1, _, _, _, _, h => x_X1_doesHalve_2_s_ok (x_X1_doesHalve_2_L_ok  n9) h
def x_X1_doesHalve (a1 : Int32) (a2 : Int32) (r : xR) : Option (Int32 × xR) := lt ((0 : Int32)) fun x29 => x_X1_doesHalve_2_L xFU a1 a2 x29 r
theorem x_X1_doesHalve_ct {ms : xS} {rr : Int32 × xR} {a1 : Int32} {a2 : Int32} {r : xR} (h : x_X1_doesHalve a1 a2 r = some rr) : xCt xLL yX1_doesHalve cX1_doesHalve 6 (some .boolean) 1 22 [(.inr (.inr (some 300)) : xV), (.inl (a1) : xV), (.inl (a2) : xV)] (ms, r) (some (.inl rr.1)) (ms, rr.2) := by
  refine xCt.of (lv := [some (.inr (.inr (some 300)) : xV), some (.inl (a1) : xV), some (.inl (a2) : xV), none, none, none]) pl_X1 (Nat.le_of_ble_eq_true rfl) (xle.s (xle.s (xle.s (xle.m (xle.m (xle.m xle.z)))))) ?_
  refine x_iconst (0 : Int32) 1 rfl dX1_doesHalve_0 rfl ?_
  refine x_lti h (fun x29 h => ?_)
  refine x_istore_n 2 rfl dX1_doesHalve_1 rfl (by decide) (lv' := [some (.inr (.inr (some 300)) : xV), some (.inl (a1) : xV), some (.inl (a2) : xV), some (.inl (x29) : xV), none, none]) rfl ?_
  exact xB.le (xle.s (xle.s (xle.s (xle.s (xle.n (xle.n xle.z)))))) (x_X1_doesHalve_2_L_ok xFU h)
/-! UnimodularTables.halvesOf(I)I -/
theorem ydX1_halvesOf : xHd yX1_halvesOf 1 := by decide +kernel
def x_X1_halvesOf_26 (rec2 : Int32 → Int32 → xR → Option (Int32 × xR)) (a1 : Int32) (a2 : Int32) (r : xR) : Option (Int32 × xR) := lt (a2 + (1 : Int32)) fun x1 => rec2 a1 x1 r
theorem x_X1_halvesOf_26_ok {ms : xS} {rr : Int32 × xR} {rec2 : Int32 → Int32 → xR → Option (Int32 × xR)} (hr2 : ∀ {a1 : Int32} {a2 : Int32} {r : xR}, rec2 a1 a2 r = some rr → xB xLL yX1_halvesOf cX1_halvesOf 3 (some .int) 2 47 2 [some (.inr (.inr (some 300)) : xV), some (.inl (a1) : xV), some (.inl (a2) : xV)] [] (ms, r) (some (.inl rr.1)) (ms, rr.2)) {a1 : Int32} {a2 : Int32} {r : xR} (h : x_X1_halvesOf_26 rec2 a1 a2 r = some rr) : xB xLL yX1_halvesOf cX1_halvesOf 3 (some .int) 2 47 26 [some (.inr (.inr (some 300)) : xV), some (.inl (a1) : xV), some (.inl (a2) : xV)] [] (ms, r) (some (.inl rr.1)) (ms, rr.2) := by
  refine x_iincL (i := 2) (1 : Int32) 29 rfl dX1_halvesOf_26 rfl rfl (by decide) h (fun x1 h => ?_)
  change xB xLL yX1_halvesOf cX1_halvesOf 3 (some .int) 2 47 29 [some (.inr (.inr (some 300)) : xV), some (.inl (a1) : xV), some (.inl (x1) : xV)] [] (ms, r) _ _
  refine x_goto 2 dX1_halvesOf_29 rfl ?_
  exact xB.le (xle.s (xle.s (xle.s xle.z))) (hr2 h)
def x_X1_halvesOf_2_s (rec2 : Int32 → Int32 → xR → Option (Int32 × xR)) (a1 : Int32) (a2 : Int32) (r : xR) : Option (Int32 × xR) := if a1 < a2 then some ((-1 : Int32), r) else if (a2 &&& (a1 ^^^ (-1 : Int32))) = 0 then cl (x_X1_doesHalve a1 a2 r) fun q2 => if q2.1 = 0 then x_X1_halvesOf_26 rec2 a1 a2 q2.2 else some (a2, q2.2) else x_X1_halvesOf_26 rec2 a1 a2 r
theorem x_X1_halvesOf_2_s_ok {ms : xS} {rr : Int32 × xR} {rec2 : Int32 → Int32 → xR → Option (Int32 × xR)} (hr2 : ∀ {a1 : Int32} {a2 : Int32} {r : xR}, rec2 a1 a2 r = some rr → xB xLL yX1_halvesOf cX1_halvesOf 3 (some .int) 2 47 2 [some (.inr (.inr (some 300)) : xV), some (.inl (a1) : xV), some (.inl (a2) : xV)] [] (ms, r) (some (.inl rr.1)) (ms, rr.2)) {a1 : Int32} {a2 : Int32} {r : xR} (h : x_X1_halvesOf_2_s rec2 a1 a2 r = some rr) : xB xLL yX1_halvesOf cX1_halvesOf 3 (some .int) 2 47 2 [some (.inr (.inr (some 300)) : xV), some (.inl (a1) : xV), some (.inl (a2) : xV)] [] (ms, r) (some (.inl rr.1)) (ms, rr.2) := by
  refine x_iload_n (i := 2) 3 rfl dX1_halvesOf_2 rfl rfl ?_
  refine x_iload_n (i := 1) 4 rfl dX1_halvesOf_3 rfl rfl ?_
  refine x_icmp_gt 32 7 rfl dX1_halvesOf_4 rfl h (fun h => ?_) (fun h => ?_)
  · refine x_iconst (-1 : Int32) 33 rfl dX1_halvesOf_32 rfl ?_
    cases h
    exact x_iret rfl dX1_halvesOf_33
  · refine x_iload_n (i := 2) 8 rfl dX1_halvesOf_7 rfl rfl ?_
    refine x_iload_n (i := 1) 9 rfl dX1_halvesOf_8 rfl rfl ?_
    refine x_iconst (-1 : Int32) 10 rfl dX1_halvesOf_9 rfl ?_
    refine x_ixor 11 rfl dX1_halvesOf_10 ?_
    refine x_iand 12 rfl dX1_halvesOf_11 ?_
    refine x_if_ne 26 15 rfl dX1_halvesOf_12 rfl h (fun h => ?_) (fun h => ?_)
    · exact xB.le (xle.s (xle.s (xle.s xle.z))) (x_X1_halvesOf_26_ok hr2 h)
    · refine x_aload_n (i := 0) 16 rfl dX1_halvesOf_15 rfl rfl ?_
      refine x_iload_n (i := 1) 17 rfl dX1_halvesOf_16 rfl rfl ?_
      refine x_iload_n (i := 2) 18 rfl dX1_halvesOf_17 rfl rfl ?_
      refine x_cl h (fun q2 hq h => ?_)
      refine x_callV (as := [(.inl (a1) : xV), (.inl (a2) : xV)]) (rest := []) (vv := (some (.inl (q2.1) : xV))) (w2 := (ms, q2.2)) (C := RX1) (T := TX1) (N := 34) 21 rfl dX1_halvesOf_18 (x_X1_doesHalve_ct hq) (Or.inl xcell_X0) rfl (lw_V q888 q890 qs27 q118 q891) rfl ydX1_doesHalve rfl ⟨Nat.le_of_ble_eq_true rfl, Nat.le_of_ble_eq_true rfl⟩ (Nat.le_of_ble_eq_true rfl) rfl ?_
      change xB xLL yX1_halvesOf cX1_halvesOf 3 (some .int) 2 47 21 [some (.inr (.inr (some 300)) : xV), some (.inl (a1) : xV), some (.inl (a2) : xV)] [(.inl (q2.1) : xV)] (ms, q2.2) _ _
      refine x_if_eq 26 24 rfl dX1_halvesOf_21 rfl h (fun h => ?_) (fun h => ?_)
      · exact xB.le (xle.s (xle.s (xle.s xle.z))) (x_X1_halvesOf_26_ok hr2 h)
      · refine x_iload_n (i := 2) 25 rfl dX1_halvesOf_24 rfl rfl ?_
        cases h
        exact x_iret rfl dX1_halvesOf_25
def x_X1_halvesOf_2_L : Nat → Int32 → Int32 → xR → Option (Int32 × xR)
  | 0 => fun _ _ _ => none
  | n + 1 => x_X1_halvesOf_2_s (x_X1_halvesOf_2_L  n)
theorem x_X1_halvesOf_2_L_ok {ms : xS} {rr : Int32 × xR} : ∀ (n9 : Nat) {a1 : Int32} {a2 : Int32} {r : xR}, x_X1_halvesOf_2_L  n9 a1 a2 r = some rr → xB xLL yX1_halvesOf cX1_halvesOf 3 (some .int) 2 47 2 [some (.inr (.inr (some 300)) : xV), some (.inl (a1) : xV), some (.inl (a2) : xV)] [] (ms, r) (some (.inl rr.1)) (ms, rr.2)
  | 0, _, _, _, h => by cases h
  | n9 + 1, _, _, _, h => x_X1_halvesOf_2_s_ok (x_X1_halvesOf_2_L_ok  n9) h
def x_X1_halvesOf (a1 : Int32) (r : xR) : Option (Int32 × xR) := lt ((0 : Int32)) fun x3 => x_X1_halvesOf_2_L xFU a1 x3 r
theorem x_X1_halvesOf_ct {ms : xS} {rr : Int32 × xR} {a1 : Int32} {r : xR} (h : x_X1_halvesOf a1 r = some rr) : xCt xLL yX1_halvesOf cX1_halvesOf 3 (some .int) 2 47 [(.inr (.inr (some 300)) : xV), (.inl (a1) : xV)] (ms, r) (some (.inl rr.1)) (ms, rr.2) := by
  refine xCt.of (lv := [some (.inr (.inr (some 300)) : xV), some (.inl (a1) : xV), none]) pl_X1 (Nat.le_of_ble_eq_true rfl) (xle.s (xle.s (xle.m xle.z))) ?_
  refine x_iconst (0 : Int32) 1 rfl dX1_halvesOf_0 rfl ?_
  refine x_lti h (fun x3 h => ?_)
  refine x_istore_n 2 rfl dX1_halvesOf_1 rfl (by decide) (lv' := [some (.inr (.inr (some 300)) : xV), some (.inl (a1) : xV), some (.inl (x3) : xV)]) rfl ?_
  exact xB.le (xle.s (xle.s (xle.s xle.z))) (x_X1_halvesOf_2_L_ok xFU h)
/-! UnimodularTables.halves(I)I -/
theorem ydX1_halves : xHd yX1_halves 1 := by decide +kernel
def x_X1_halves (a1 : Int32) (r : xR) : Option (Int32 × xR) := lt (r.1.2.2 0 11) fun p1 => nu p1 (some ((-1 : Int32), r)) fun p2 => lt (r.1.2.2 0 11) fun p3 => nn p3 fun p4 => dgi xLL r p4 2 0 fun x5 => cl (p_X1_in a1 (0 : Int32) ((jshl (1 : Int32) x5) - (1 : Int32))) fun q6 => if q6 = 0 then some ((-1 : Int32), r) else cl (x_X1_halvesOf a1 r) fun q7 => some (q7.1, q7.2)
theorem x_X1_halves_ct {ms : xS} {rr : Int32 × xR} {a1 : Int32} {r : xR} (h : x_X1_halves a1 r = some rr) : xCt xLL yX1_halves cX1_halves 2 (some .int) 3 69 [(.inr (.inr (some 300)) : xV), (.inl (a1) : xV)] (ms, r) (some (.inl rr.1)) (ms, rr.2) := by
  refine xCt.of (lv := [some (.inr (.inr (some 300)) : xV), some (.inl (a1) : xV)]) pl_X1 (Nat.le_of_ble_eq_true rfl) (xle.s (xle.s xle.z)) ?_
  refine x_aload_n (i := 0) 1 rfl dX1_halves_0 rfl rfl ?_
  refine q_get (k := 11) 4 rfl dX1_halves_1 (by decide) q453 rfl ?_
  refine x_ltr h (fun p1 h => ?_)
  refine x_nulP (lv := fun p1 => [some (.inr (.inr (some 300)) : xV), some (.inl (a1) : xV)]) (st := fun p1 => []) 34 7 rfl dX1_halves_4 rfl h (fun h => ?_) (fun p2 h => ?_)
  · refine x_iconst (-1 : Int32) 35 rfl dX1_halves_34 rfl ?_
    cases h
    exact x_iret rfl dX1_halves_35
  · refine x_iload_n (i := 1) 8 rfl dX1_halves_7 rfl rfl ?_
    refine x_iconst (0 : Int32) 9 rfl dX1_halves_8 rfl ?_
    refine x_iconst (1 : Int32) 10 rfl dX1_halves_9 rfl ?_
    refine x_aload_n (i := 0) 11 rfl dX1_halves_10 rfl rfl ?_
    refine q_get (k := 11) 14 rfl dX1_halves_11 (by decide) q453 rfl ?_
    refine x_ltr h (fun p3 h => ?_)
    refine x_nnP (P := fun p3 => xB xLL yX1_halves cX1_halves 2 (some .int) 3 69 14 [some (.inr (.inr (some 300)) : xV), some (.inl (a1) : xV)] [(.inr (.inr (p3)) : xV), (.inl ((1 : Int32)) : xV), (.inl ((0 : Int32)) : xV), (.inl (a1) : xV)] (ms, r) (some (.inl rr.1)) (ms, rr.2)) h (fun p4 h => ?_)
    refine d_getiN (ci := 2) (k := 0) (C := RX4) (T := TX4) (N := 3) 17 rfl dX1_halves_14 rfl in_X4 (by decide) (List.mem_of_getElem? (i := 5) rfl) h (fun x5 h => ?_)
    refine x_ishl 18 rfl dX1_halves_17 ?_
    refine x_iconst (1 : Int32) 19 rfl dX1_halves_18 rfl ?_
    refine x_isub 20 rfl dX1_halves_19 ?_
    refine x_cl h (fun q6 hq h => ?_)
    refine x_callS (as := [(.inl (a1) : xV), (.inl ((0 : Int32)) : xV), (.inl ((jshl (1 : Int32) x5) - (1 : Int32)) : xV)]) (rest := []) (vv := (some (.inl (q6) : xV))) (w2 := (ms, r)) 23 rfl dX1_halves_20 (p_X1_in_ct hq) (lw_S q556 q557 q118 q558) ydX1_in rfl ⟨Nat.le_of_ble_eq_true rfl, Nat.le_of_ble_eq_true rfl⟩ (Nat.le_of_ble_eq_true rfl) rfl ?_
    change xB xLL yX1_halves cX1_halves 2 (some .int) 3 69 23 [some (.inr (.inr (some 300)) : xV), some (.inl (a1) : xV)] [(.inl (q6) : xV)] (ms, r) _ _
    refine x_if_eq 34 26 rfl dX1_halves_23 rfl h (fun h => ?_) (fun h => ?_)
    · refine x_iconst (-1 : Int32) 35 rfl dX1_halves_34 rfl ?_
      cases h
      exact x_iret rfl dX1_halves_35
    · refine x_aload_n (i := 0) 27 rfl dX1_halves_26 rfl rfl ?_
      refine x_iload_n (i := 1) 28 rfl dX1_halves_27 rfl rfl ?_
      refine x_cl h (fun q7 hq h => ?_)
      refine x_callV (as := [(.inl (a1) : xV)]) (rest := []) (vv := (some (.inl (q7.1) : xV))) (w2 := (ms, q7.2)) (C := RX1) (T := TX1) (N := 34) 31 rfl dX1_halves_28 (x_X1_halvesOf_ct hq) (Or.inl xcell_X0) rfl (lw_V q884 q886 qs26 q118 q887) rfl ydX1_halvesOf rfl ⟨Nat.le_of_ble_eq_true rfl, Nat.le_of_ble_eq_true rfl⟩ (Nat.le_of_ble_eq_true rfl) rfl ?_
      change xB xLL yX1_halves cX1_halves 2 (some .int) 3 69 31 [some (.inr (.inr (some 300)) : xV), some (.inl (a1) : xV)] [(.inl (q7.1) : xV)] (ms, q7.2) _ _
      refine x_goto 35 dX1_halves_31 rfl ?_
      cases h
      exact x_iret rfl dX1_halves_35
/-! UnimodularTables.unhalved()I -/
theorem ydX1_unhalved : xHd yX1_unhalved 0 := by decide +kernel
def x_X1_unhalved_11_s (rec11 : Int32 → xR → Option (Int32 × xR)) (a1 : Int32) (r : xR) : Option (Int32 × xR) := lt (r.1.2.2 0 11) fun p1 => nn p1 fun p2 => dgi xLL r p2 2 0 fun x3 => if (jshl (1 : Int32) x3) ≤ a1 then some ((-1 : Int32), r) else cl (x_X1_halvesOf a1 r) fun q4 => if q4.1 = (-1 : Int32) then some (a1, q4.2) else lt (a1 + (1 : Int32)) fun x5 => rec11 x5 q4.2
theorem x_X1_unhalved_11_s_ok {ms : xS} {rr : Int32 × xR} {rec11 : Int32 → xR → Option (Int32 × xR)} (hr11 : ∀ {a1 : Int32} {r : xR}, rec11 a1 r = some rr → xB xLL yX1_unhalved cX1_unhalved 2 (some .int) 3 69 11 [some (.inr (.inr (some 300)) : xV), some (.inl (a1) : xV)] [] (ms, r) (some (.inl rr.1)) (ms, rr.2)) {a1 : Int32} {r : xR} (h : x_X1_unhalved_11_s rec11 a1 r = some rr) : xB xLL yX1_unhalved cX1_unhalved 2 (some .int) 3 69 11 [some (.inr (.inr (some 300)) : xV), some (.inl (a1) : xV)] [] (ms, r) (some (.inl rr.1)) (ms, rr.2) := by
  refine x_iload_n (i := 1) 12 rfl dX1_unhalved_11 rfl rfl ?_
  refine x_iconst (1 : Int32) 13 rfl dX1_unhalved_12 rfl ?_
  refine x_aload_n (i := 0) 14 rfl dX1_unhalved_13 rfl rfl ?_
  refine q_get (k := 11) 17 rfl dX1_unhalved_14 (by decide) q453 rfl ?_
  refine x_ltr h (fun p1 h => ?_)
  refine x_nnP (P := fun p1 => xB xLL yX1_unhalved cX1_unhalved 2 (some .int) 3 69 17 [some (.inr (.inr (some 300)) : xV), some (.inl (a1) : xV)] [(.inr (.inr (p1)) : xV), (.inl ((1 : Int32)) : xV), (.inl (a1) : xV)] (ms, r) (some (.inl rr.1)) (ms, rr.2)) h (fun p2 h => ?_)
  refine d_getiN (ci := 2) (k := 0) (C := RX4) (T := TX4) (N := 3) 20 rfl dX1_unhalved_17 rfl in_X4 (by decide) (List.mem_of_getElem? (i := 5) rfl) h (fun x3 h => ?_)
  refine x_ishl 21 rfl dX1_unhalved_20 ?_
  refine x_icmp_ge 41 24 rfl dX1_unhalved_21 rfl h (fun h => ?_) (fun h => ?_)
  · refine x_iconst (-1 : Int32) 42 rfl dX1_unhalved_41 rfl ?_
    cases h
    exact x_iret rfl dX1_unhalved_42
  · refine x_aload_n (i := 0) 25 rfl dX1_unhalved_24 rfl rfl ?_
    refine x_iload_n (i := 1) 26 rfl dX1_unhalved_25 rfl rfl ?_
    refine x_cl h (fun q4 hq h => ?_)
    refine x_callV (as := [(.inl (a1) : xV)]) (rest := []) (vv := (some (.inl (q4.1) : xV))) (w2 := (ms, q4.2)) (C := RX1) (T := TX1) (N := 34) 29 rfl dX1_unhalved_26 (x_X1_halvesOf_ct hq) (Or.inl xcell_X0) rfl (lw_V q884 q886 qs26 q118 q887) rfl ydX1_halvesOf rfl ⟨Nat.le_of_ble_eq_true rfl, Nat.le_of_ble_eq_true rfl⟩ (Nat.le_of_ble_eq_true rfl) rfl ?_
    change xB xLL yX1_unhalved cX1_unhalved 2 (some .int) 3 69 29 [some (.inr (.inr (some 300)) : xV), some (.inl (a1) : xV)] [(.inl (q4.1) : xV)] (ms, q4.2) _ _
    refine x_iconst (-1 : Int32) 30 rfl dX1_unhalved_29 rfl ?_
    refine x_icmp_ne 35 33 rfl dX1_unhalved_30 rfl h (fun h => ?_) (fun h => ?_)
    · refine x_iincL (i := 1) (1 : Int32) 38 rfl dX1_unhalved_35 rfl rfl (by decide) h (fun x5 h => ?_)
      change xB xLL yX1_unhalved cX1_unhalved 2 (some .int) 3 69 38 [some (.inr (.inr (some 300)) : xV), some (.inl (x5) : xV)] [] (ms, q4.2) _ _
      refine x_goto 11 dX1_unhalved_38 rfl ?_
      exact xB.le (xle.s (xle.s xle.z)) (hr11 h)
    · refine x_iload_n (i := 1) 34 rfl dX1_unhalved_33 rfl rfl ?_
      cases h
      exact x_iret rfl dX1_unhalved_34
def x_X1_unhalved_11_L : Nat → Int32 → xR → Option (Int32 × xR)
  | 0 => fun _ _ => none
  | n + 1 => x_X1_unhalved_11_s (x_X1_unhalved_11_L  n)
theorem x_X1_unhalved_11_L_ok {ms : xS} {rr : Int32 × xR} : ∀ (n9 : Nat) {a1 : Int32} {r : xR}, x_X1_unhalved_11_L  n9 a1 r = some rr → xB xLL yX1_unhalved cX1_unhalved 2 (some .int) 3 69 11 [some (.inr (.inr (some 300)) : xV), some (.inl (a1) : xV)] [] (ms, r) (some (.inl rr.1)) (ms, rr.2)
  | 0, _, _, h => by cases h
  | n9 + 1, _, _, h => x_X1_unhalved_11_s_ok (x_X1_unhalved_11_L_ok  n9) h
def x_X1_unhalved (r : xR) : Option (Int32 × xR) := lt (r.1.2.2 0 11) fun p6 => nu p6 (some ((-1 : Int32), r)) fun p7 => lt ((0 : Int32)) fun x8 => x_X1_unhalved_11_L xFU x8 r
theorem x_X1_unhalved_ct {ms : xS} {rr : Int32 × xR} {r : xR} (h : x_X1_unhalved r = some rr) : xCt xLL yX1_unhalved cX1_unhalved 2 (some .int) 3 69 [(.inr (.inr (some 300)) : xV)] (ms, r) (some (.inl rr.1)) (ms, rr.2) := by
  refine xCt.of (lv := [some (.inr (.inr (some 300)) : xV), none]) pl_X1 (Nat.le_of_ble_eq_true rfl) (xle.s (xle.m xle.z)) ?_
  refine x_aload_n (i := 0) 1 rfl dX1_unhalved_0 rfl rfl ?_
  refine q_get (k := 11) 4 rfl dX1_unhalved_1 (by decide) q453 rfl ?_
  refine x_ltr h (fun p6 h => ?_)
  refine x_nnlP (lv := fun p6 => [some (.inr (.inr (some 300)) : xV), none]) (st := fun p6 => []) 9 7 rfl dX1_unhalved_4 rfl h (fun p7 h => ?_) (fun h => ?_)
  · refine x_iconst (0 : Int32) 10 rfl dX1_unhalved_9 rfl ?_
    refine x_lti h (fun x8 h => ?_)
    refine x_istore_n 11 rfl dX1_unhalved_10 rfl (by decide) (lv' := [some (.inr (.inr (some 300)) : xV), some (.inl (x8) : xV)]) rfl ?_
    exact xB.le (xle.s (xle.s xle.z)) (x_X1_unhalved_11_L_ok xFU h)
  · refine x_iconst (-1 : Int32) 8 rfl dX1_unhalved_7 rfl ?_
    cases h
    exact x_iret rfl dX1_unhalved_8
/-! java/util/BitSet.clear()V -/
theorem ydJ6_clear : xHd yJ6_clear 0 := by decide +kernel
def x_J6_clear_0_s (rec0 : Nat → xR → Option (xR)) (a0 : Nat) (r : xR) : Option (xR) := bok a0 <| if (r.1.1 a0 1) ≤ 0 then some r else bok a0 <| bok a0 <| bok a0 <| qpi r a0 1 ((r.1.1 a0 1) - (1 : Int32)) fun r1 => blw r1 a0 ((r.1.1 a0 1) - (1 : Int32)) (0 : Int64) fun r2 => rec0 a0 r2
theorem x_J6_clear_0_s_ok {ms : xS} {rr : xR} {rec0 : Nat → xR → Option (xR)} (hr0 : ∀ {a0 : Nat} {r : xR}, rec0 a0 r = some rr → xB xLL yJ6_clear cJ6_clear 1 none 0 0 0 [some (.inr (.inr (some (300 + a0))) : xV)] [] (ms, r) none (ms, rr)) {a0 : Nat} {r : xR} (h : x_J6_clear_0_s rec0 a0 r = some rr) : xB xLL yJ6_clear cJ6_clear 1 none 0 0 0 [some (.inr (.inr (some (300 + a0))) : xV)] [] (ms, r) none (ms, rr) := by
  refine x_aload_n (i := 0) 1 rfl dJ6_clear_0 rfl rfl ?_
  refine x_bok h (fun hb h => ?_)
  refine b_get (k := 1) 4 rfl dJ6_clear_1 (by decide) q284 hb rfl ?_
  refine x_if_le 27 7 rfl dJ6_clear_4 rfl h (fun h => ?_) (fun h => ?_)
  · cases h
    exact x_vret rfl dJ6_clear_27
  · refine x_aload_n (i := 0) 8 rfl dJ6_clear_7 rfl rfl ?_
    refine x_bok h (fun hb h => ?_)
    refine b_get (k := 0) 11 rfl dJ6_clear_8 (by decide) q283 hb rfl ?_
    refine x_aload_n (i := 0) 12 rfl dJ6_clear_11 rfl rfl ?_
    refine x_dup 13 rfl dJ6_clear_12 rfl ?_
    refine x_bok h (fun hb h => ?_)
    refine b_get (k := 1) 16 rfl dJ6_clear_13 (by decide) q284 hb rfl ?_
    refine x_iconst (1 : Int32) 17 rfl dJ6_clear_16 rfl ?_
    refine x_isub 18 rfl dJ6_clear_17 ?_
    refine x_dup_x1 19 rfl dJ6_clear_18 rfl rfl ?_
    refine x_bok h (fun hb h => ?_)
    refine b_puti (k := 1) (z := 0) 22 rfl dJ6_clear_19 (by decide) hb rfl (Or.inl rfl) rfl q284 h (fun r1 h => ?_)
    refine x_lconst (0 : Int64) 23 rfl dJ6_clear_22 rfl ?_
    refine b_last 24 rfl dJ6_clear_23 h (fun r2 h => ?_)
    refine x_goto 0 dJ6_clear_24 rfl ?_
    exact xB.le (xle.s xle.z) (hr0 h)
def x_J6_clear_0_L : Nat → Nat → xR → Option (xR)
  | 0 => fun _ _ => none
  | n + 1 => x_J6_clear_0_s (x_J6_clear_0_L  n)
theorem x_J6_clear_0_L_ok {ms : xS} {rr : xR} : ∀ (n9 : Nat) {a0 : Nat} {r : xR}, x_J6_clear_0_L  n9 a0 r = some rr → xB xLL yJ6_clear cJ6_clear 1 none 0 0 0 [some (.inr (.inr (some (300 + a0))) : xV)] [] (ms, r) none (ms, rr)
  | 0, _, _, h => by cases h
  | n9 + 1, _, _, h => x_J6_clear_0_s_ok (x_J6_clear_0_L_ok  n9) h
def x_J6_clear (a0 : Nat) (r : xR) : Option (xR) := x_J6_clear_0_L xFU a0 r
theorem x_J6_clear_ct {ms : xS} {rr : xR} {a0 : Nat} {r : xR} (h : x_J6_clear a0 r = some rr) : xCt xLL yJ6_clear cJ6_clear 1 none 0 0 [(.inr (.inr (some (300 + a0))) : xV)] (ms, r) none (ms, rr) := by
  refine xCt.of (lv := [some (.inr (.inr (some (300 + a0))) : xV)]) pl_J6 (Nat.le_of_ble_eq_true rfl) (xle.s xle.z) ?_
  exact xB.le (xle.s xle.z) (x_J6_clear_0_L_ok xFU h)
/-! UnimodularTables.isTotal(LUnimodularTables$Table;)Z -/
theorem ydX1_isTotal : xHd yX1_isTotal 1 := by decide +kernel
def x_X1_isTotal (a1 : Nat) (r : xR) : Option (Int32 × xR) := cl (x_X1_layDets a1 10 r) fun q1 => cl (x_X1_many a1 10 (0 : Int32) 292 q1) fun q2 => if q2.1 = 0 then some ((1 : Int32), q2.2) else some ((0 : Int32), q2.2)
theorem x_X1_isTotal_ct {ms : xS} {rr : Int32 × xR} {a1 : Nat} {r : xR} (h : x_X1_isTotal a1 r = some rr) : xCt xLL yX1_isTotal cX1_isTotal 2 (some .boolean) 6 3089 [(.inr (.inr (some 300)) : xV), (.inr (.inr (some (a1))) : xV)] (ms, r) (some (.inl rr.1)) (ms, rr.2) := by
  refine xCt.of (lv := [some (.inr (.inr (some 300)) : xV), some (.inr (.inr (some (a1))) : xV)]) pl_X1 (Nat.le_of_ble_eq_true rfl) (xle.s (xle.s xle.z)) ?_
  refine x_aload_n (i := 1) 1 rfl dX1_isTotal_0 rfl rfl ?_
  refine x_aload_n (i := 0) 2 rfl dX1_isTotal_1 rfl rfl ?_
  refine q_get (k := 17) 5 rfl dX1_isTotal_2 (by decide) q459 rfl ?_
  refine x_cl h (fun q1 hq h => ?_)
  refine x_callS (as := [(.inr (.inr (some (a1))) : xV), (.inr (.inr (some (300 + 10))) : xV)]) (rest := []) (vv := none) (w2 := (ms, q1)) 8 rfl dX1_isTotal_5 (x_X1_layDets_ct hq) (lw_S q833 q834 q118 q835) ydX1_layDets rfl ⟨Nat.le_of_ble_eq_true rfl, Nat.le_of_ble_eq_true rfl⟩ (Nat.le_of_ble_eq_true rfl) rfl ?_
  change xB xLL yX1_isTotal cX1_isTotal 2 (some .boolean) 6 3089 8 [some (.inr (.inr (some 300)) : xV), some (.inr (.inr (some (a1))) : xV)] [] (ms, q1) _ _
  refine x_aload_n (i := 1) 9 rfl dX1_isTotal_8 rfl rfl ?_
  refine x_aload_n (i := 0) 10 rfl dX1_isTotal_9 rfl rfl ?_
  refine q_get (k := 17) 13 rfl dX1_isTotal_10 (by decide) q459 rfl ?_
  refine x_iconst (0 : Int32) 14 rfl dX1_isTotal_13 rfl ?_
  refine x_indyC (k := 12) (σ := lms_12) 19 rfl dX1_isTotal_14 (by decide) rfl rfl (Nat.le_of_ble_eq_true rfl) ?_
  refine x_cl h (fun q2 hq h => ?_)
  refine x_callS (as := [(.inr (.inr (some (a1))) : xV), (.inr (.inr (some (300 + 10))) : xV), (.inl ((0 : Int32)) : xV), (.inr (.inr (some (292))) : xV)]) (rest := []) (vv := (some (.inl (q2.1) : xV))) (w2 := (ms, q2.2)) 22 rfl dX1_isTotal_19 (x_X1_many_ct hq) (lw_S q856 q857 q118 q858) ydX1_many rfl ⟨Nat.le_of_ble_eq_true rfl, Nat.le_of_ble_eq_true rfl⟩ (Nat.le_of_ble_eq_true rfl) rfl ?_
  change xB xLL yX1_isTotal cX1_isTotal 2 (some .boolean) 6 3089 22 [some (.inr (.inr (some 300)) : xV), some (.inr (.inr (some (a1))) : xV)] [(.inl (q2.1) : xV)] (ms, q2.2) _ _
  refine x_if_ne 29 25 rfl dX1_isTotal_22 rfl h (fun h => ?_) (fun h => ?_)
  · refine x_iconst (0 : Int32) 30 rfl dX1_isTotal_29 rfl ?_
    cases h
    exact x_zret rfl (Or.inl rfl) dX1_isTotal_30
  · refine x_iconst (1 : Int32) 26 rfl dX1_isTotal_25 rfl ?_
    refine x_goto 30 dX1_isTotal_26 rfl ?_
    cases h
    exact x_zret rfl (Or.inr rfl) dX1_isTotal_30
/-! java/util/BitSet.checkInvariants()V -/
theorem ydJ6_checkInvariants : xHd yJ6_checkInvariants 0 := by decide +kernel
def x_J6_checkInvariants_70 (a0 : Nat) (r : xR) : Option (xR) := if (1 : Int32) = 0 then none else some r
theorem x_J6_checkInvariants_70_ok {ms : xS} {rr : xR} {a0 : Nat} {r : xR} (h : x_J6_checkInvariants_70  a0 r = some rr) : xB xLL yJ6_checkInvariants cJ6_checkInvariants 1 none 0 0 70 [some (.inr (.inr (some (300 + a0))) : xV)] [] (ms, r) none (ms, rr) := by
  refine x_gets 73 rfl dJ6_checkInvariants_70 (List.mem_of_getElem? (i := 1) rfl) q932 ?_
  refine x_if_ne 110 76 rfl dJ6_checkInvariants_73 rfl h (fun h => ?_) (fun h => ?_)
  · cases h
    exact x_vret rfl dJ6_checkInvariants_110
  · cases h
def x_J6_checkInvariants_37 (a0 : Nat) (r : xR) : Option (xR) := if (1 : Int32) = 0 then none else x_J6_checkInvariants_70 a0 r
theorem x_J6_checkInvariants_37_ok {ms : xS} {rr : xR} {a0 : Nat} {r : xR} (h : x_J6_checkInvariants_37  a0 r = some rr) : xB xLL yJ6_checkInvariants cJ6_checkInvariants 1 none 0 0 37 [some (.inr (.inr (some (300 + a0))) : xV)] [] (ms, r) none (ms, rr) := by
  refine x_gets 40 rfl dJ6_checkInvariants_37 (List.mem_of_getElem? (i := 1) rfl) q932 ?_
  refine x_if_ne 70 43 rfl dJ6_checkInvariants_40 rfl h (fun h => ?_) (fun h => ?_)
  · exact xB.le (xle.s xle.z) (x_J6_checkInvariants_70_ok h)
  · cases h
def x_J6_checkInvariants (a0 : Nat) (r : xR) : Option (xR) := if (1 : Int32) = 0 then none else x_J6_checkInvariants_37 a0 r
theorem x_J6_checkInvariants_ct {ms : xS} {rr : xR} {a0 : Nat} {r : xR} (h : x_J6_checkInvariants a0 r = some rr) : xCt xLL yJ6_checkInvariants cJ6_checkInvariants 1 none 0 0 [(.inr (.inr (some (300 + a0))) : xV)] (ms, r) none (ms, rr) := by
  refine xCt.of (lv := [some (.inr (.inr (some (300 + a0))) : xV)]) pl_J6 (Nat.le_of_ble_eq_true rfl) (xle.s xle.z) ?_
  refine x_gets 3 rfl dJ6_checkInvariants_0 (List.mem_of_getElem? (i := 1) rfl) q932 ?_
  refine x_if_ne 37 6 rfl dJ6_checkInvariants_3 rfl h (fun h => ?_) (fun h => ?_)
  · exact xB.le (xle.s xle.z) (x_J6_checkInvariants_37_ok h)
  · cases h
