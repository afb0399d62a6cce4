set_option maxRecDepth 100000
abbrev m_X8_init : Mi := (yX8_init, cX8_init, none, 1, 6, 141, [])
theorem n_X8_init : nameOk yX8_init 0 := ⟨by decide, by decide, by decide +kernel⟩
def f_X8_initP (s0 : Hp) (x0 : Nat) (k : Hp → Option (Unit × Hp)) : Option (Unit × Hp) :=
  (some x0).bind fun _ => nwA s0 101 2000 fun v1 s2 => (pR s2 8 (some x0) 1 v1).bind fun s3 => nwA s3 101 2000 fun v4 s5 => (pR s5 8 (some x0) 3 v4).bind fun s6 => nwA s6 100 403 fun v7 s8 => (pR s8 8 (some x0) 5 v7).bind fun s9 => nwA s9 100 403 fun v10 s11 => (pR s11 8 (some x0) 6 v10).bind fun s12 => nwA s12 100 403 fun v13 s14 => (pR s14 8 (some x0) 7 v13).bind fun s15 => nwA s15 104 403 fun v16 s17 => (pR s17 8 (some x0) 8 v16).bind fun s18 => nwA s18 104 17 fun v19 s20 => (pR s20 8 (some x0) 9 v19).bind fun s21 => (pI s21 8 (some x0) 17 (-1)).bind fun s22 => nwA s22 104 22 fun v23 s24 => (pR s24 8 (some x0) 21 v23).bind fun s25 => nwA s25 100 22 fun v26 s27 => (pR s27 8 (some x0) 22 v26).bind fun s28 => nwA s28 100 22 fun v29 s30 => (pR s30 8 (some x0) 23 v29).bind fun s31 => nwA s31 100 2 fun v32 s33 => (pR s33 8 (some x0) 24 v32).bind fun s34 => nwA s34 100 2 fun v35 s36 => (pR s36 8 (some x0) 25 v35).bind fun s37 => nwA s37 100 24 fun v38 s39 => (pR s39 8 (some x0) 26 v38).bind fun s40 => nwA s40 100 24 fun v41 s42 => (pR s42 8 (some x0) 27 v41).bind fun s43 => nwA s43 100 2 fun v44 s45 => (pR s45 8 (some x0) 28 v44).bind fun s46 => nwA s46 100 12 fun v47 s48 => (pR s48 8 (some x0) 29 v47).bind fun s49 => nwA s49 100 12 fun v50 s51 => (pR s51 8 (some x0) 30 v50).bind fun s52 => nwA s52 100 2 fun v53 s54 => (pR s54 8 (some x0) 31 v53).bind fun s55 => nwA s55 100 16 fun v56 s57 => (pR s57 8 (some x0) 32 v56).bind fun s58 => nwA s58 100 16 fun v59 s60 => (pR s60 8 (some x0) 33 v59).bind fun s61 => nwA s61 100 2 fun v62 s63 => (pR s63 8 (some x0) 34 v62).bind fun s64 => nwA s64 100 2 fun v65 s66 => (pR s66 8 (some x0) 35 v65).bind fun s67 => nwA s67 100 14 fun v68 s69 => (pR s69 8 (some x0) 36 v68).bind fun s70 => nwA s70 100 14 fun v71 s72 => (pR s72 8 (some x0) 37 v71).bind fun s73 => nwA s73 102 260 fun v74 s75 => (pR s75 8 (some x0) 39 v74).bind fun s76 => nwA s76 100 260 fun v77 s78 => (pR s78 8 (some x0) 40 v77).bind fun s79 => nwA s79 100 260 fun v80 s81 => (pR s81 8 (some x0) 41 v80).bind fun s82 => nwA s82 100 260 fun v83 s84 => (pR s84 8 (some x0) 42 v83).bind fun s85 => nwA s85 100 260 fun v86 s87 => (pR s87 8 (some x0) 43 v86).bind fun s88 => nwA s88 100 840 fun v89 s90 => (pR s90 8 (some x0) 45 v89).bind fun s91 => nwA s91 100 840 fun v92 s93 => (pR s93 8 (some x0) 46 v92).bind fun s94 => nwA s94 100 64 fun v95 s96 => (pR s96 8 (some x0) 47 v95).bind fun s97 => nwA s97 100 6 fun v98 s99 => (pR s99 8 (some x0) 49 v98).bind fun s100 => nwA s100 100 400 fun v101 s102 => (pR s102 8 (some x0) 50 v101).bind fun s103 => nwA s103 100 10800 fun v104 s105 => (pR s105 8 (some x0) 52 v104).bind fun s106 => nwA s106 100 8 fun v107 s108 => (pR s108 8 (some x0) 54 v107).bind fun s109 => nwA s109 100 8 fun v110 s111 => (pR s111 8 (some x0) 55 v110).bind fun s112 => nwA s112 100 10800 fun v113 s114 => (pR s114 8 (some x0) 56 v113).bind fun s115 => nwA s115 100 8 fun v116 s117 => (pR s117 8 (some x0) 58 v116).bind fun s118 => nwA s118 100 8 fun v119 s120 => (pR s120 8 (some x0) 59 v119).bind fun s121 => nwA s121 100 1060 fun v122 s123 => (pR s123 8 (some x0) 62 v122).bind fun s124 => nwA s124 102 2400 fun v125 s126 => (pR s126 8 (some x0) 63 v125).bind fun s127 => nwA s127 102 2400 fun v128 s129 => (pR s129 8 (some x0) 64 v128).bind fun s130 => nwA s130 100 300 fun v131 s132 => (pR s132 8 (some x0) 65 v131).bind fun s133 => nwA s133 100 8 fun v134 s135 => (pR s135 8 (some x0) 66 v134).bind fun s136 => nwA s136 100 20 fun v137 s138 => (pR s138 8 (some x0) 68 v137).bind fun s139 => nwA s139 100 20 fun v140 s141 => (pR s141 8 (some x0) 69 v140).bind fun s142 => nwA s142 100 20 fun v143 s144 => (pR s144 8 (some x0) 70 v143).bind fun s145 => nwA s145 102 20 fun v146 s147 => (pR s147 8 (some x0) 71 v146).bind fun s148 => nwA s148 102 3 fun v149 s150 => (pR s150 8 (some x0) 72 v149).bind fun s151 => nwA s151 100 32400 fun v152 s153 => (pR s153 8 (some x0) 73 v152).bind fun s154 => nwA s154 100 51 fun v155 s156 => (pR s156 8 (some x0) 74 v155).bind fun s157 => k s157
theorem w_X8_initP {σ0 : Hp} {w : Unit × Hp} (s0 : Hp) (x0 : Nat) (k : Hp → Option (Unit × Hp)) (hk : ∀ s1 : Hp, k s1 = some w → AW m_X8_init σ0 (oU w) 439 [some (rV (some x0))] [] s1) (h : f_X8_initP s0 x0 k = some w) : AW m_X8_init σ0 (oU w) 0 [some (rV (some x0))] [] s0 := by
  unfold f_X8_initP at h
  refine AW.aload_n dX8_init_0 rfl ?_
  refine AW.objI dX8_init_1 q1486 rfl rfl h (fun _ h => ?_)
  refine AW.aload_n dX8_init_4 rfl ?_
  refine AW.sipush dX8_init_5 (by decide) ?_
  refine AW.newa (t := 101) (atype := .byte) dX8_init_8 (Nat.le_of_ble_eq_true rfl) mu101 rfl (by decide) (fun _ h => by cases h) ⟨(fun h => by cases h), (fun h => by cases h)⟩ (by decide) q238 h (fun v1 s2 h => ?_)
  refine AW.putR (t := 8) (k := 1) dX8_init_10 ck8 mu8 (Nat.le_of_ble_eq_true rfl) (Or.inr ⟨_, rfl⟩) q1541 (Or.inl rfl) (Or.inr ⟨rfl, rfl⟩) h (fun s3 h => ?_)
  refine AW.aload_n dX8_init_13 rfl ?_
  refine AW.sipush dX8_init_14 (by decide) ?_
  refine AW.newa (t := 101) (atype := .byte) dX8_init_17 (Nat.le_of_ble_eq_true rfl) mu101 rfl (by decide) (fun _ h => by cases h) ⟨(fun h => by cases h), (fun h => by cases h)⟩ (by decide) q238 h (fun v4 s5 h => ?_)
  refine AW.putR (t := 8) (k := 3) dX8_init_19 ck8 mu8 (Nat.le_of_ble_eq_true rfl) (Or.inr ⟨_, rfl⟩) q1543 (Or.inl rfl) (Or.inr ⟨rfl, rfl⟩) h (fun s6 h => ?_)
  refine AW.aload_n dX8_init_22 rfl ?_
  refine AW.sipush dX8_init_23 (by decide) ?_
  refine AW.newa (t := 100) (atype := .int) dX8_init_26 (Nat.le_of_ble_eq_true rfl) mu100 rfl (by decide) (fun _ h => by cases h) ⟨(fun h => by cases h), (fun h => by cases h)⟩ (by decide) q420 h (fun v7 s8 h => ?_)
  refine AW.putR (t := 8) (k := 5) dX8_init_28 ck8 mu8 (Nat.le_of_ble_eq_true rfl) (Or.inr ⟨_, rfl⟩) q1545 (Or.inl rfl) (Or.inr ⟨rfl, rfl⟩) h (fun s9 h => ?_)
  refine AW.aload_n dX8_init_31 rfl ?_
  refine AW.sipush dX8_init_32 (by decide) ?_
  refine AW.newa (t := 100) (atype := .int) dX8_init_35 (Nat.le_of_ble_eq_true rfl) mu100 rfl (by decide) (fun _ h => by cases h) ⟨(fun h => by cases h), (fun h => by cases h)⟩ (by decide) q420 h (fun v10 s11 h => ?_)
  refine AW.putR (t := 8) (k := 6) dX8_init_37 ck8 mu8 (Nat.le_of_ble_eq_true rfl) (Or.inr ⟨_, rfl⟩) q1546 (Or.inl rfl) (Or.inr ⟨rfl, rfl⟩) h (fun s12 h => ?_)
  refine AW.aload_n dX8_init_40 rfl ?_
  refine AW.sipush dX8_init_41 (by decide) ?_
  refine AW.newa (t := 100) (atype := .int) dX8_init_44 (Nat.le_of_ble_eq_true rfl) mu100 rfl (by decide) (fun _ h => by cases h) ⟨(fun h => by cases h), (fun h => by cases h)⟩ (by decide) q420 h (fun v13 s14 h => ?_)
  refine AW.putR (t := 8) (k := 7) dX8_init_46 ck8 mu8 (Nat.le_of_ble_eq_true rfl) (Or.inr ⟨_, rfl⟩) q1547 (Or.inl rfl) (Or.inr ⟨rfl, rfl⟩) h (fun s15 h => ?_)
  refine AW.aload_n dX8_init_49 rfl ?_
  refine AW.sipush dX8_init_50 (by decide) ?_
  refine AW.newa (t := 104) (atype := .long) dX8_init_53 (Nat.le_of_ble_eq_true rfl) mu104 rfl (by decide) (fun _ h => by cases h) ⟨(fun h => by cases h), (fun h => by cases h)⟩ (by decide) q1766 h (fun v16 s17 h => ?_)
  refine AW.putR (t := 8) (k := 8) dX8_init_55 ck8 mu8 (Nat.le_of_ble_eq_true rfl) (Or.inr ⟨_, rfl⟩) q1548 (Or.inl rfl) (Or.inr ⟨rfl, rfl⟩) h (fun s18 h => ?_)
  refine AW.aload_n dX8_init_58 rfl ?_
  refine AW.bipush dX8_init_59 (by decide) ?_
  refine AW.newa (t := 104) (atype := .long) dX8_init_61 (Nat.le_of_ble_eq_true rfl) mu104 rfl (by decide) (fun _ h => by cases h) ⟨(fun h => by cases h), (fun h => by cases h)⟩ (by decide) q1766 h (fun v19 s20 h => ?_)
  refine AW.putR (t := 8) (k := 9) dX8_init_63 ck8 mu8 (Nat.le_of_ble_eq_true rfl) (Or.inr ⟨_, rfl⟩) q1549 (Or.inl rfl) (Or.inr ⟨rfl, rfl⟩) h (fun s21 h => ?_)
  refine AW.aload_n dX8_init_66 rfl ?_
  refine AW.iconst dX8_init_67 ?_
  refine AW.putI (t := 8) (k := 17) dX8_init_68 ck8 mu8 (Nat.le_of_ble_eq_true rfl) rfl q1557 (Or.inl rfl) (Or.inl rfl) h (fun s22 h => ?_)
  refine AW.aload_n dX8_init_71 rfl ?_
  refine AW.bipush dX8_init_72 (by decide) ?_
  refine AW.newa (t := 104) (atype := .long) dX8_init_74 (Nat.le_of_ble_eq_true rfl) mu104 rfl (by decide) (fun _ h => by cases h) ⟨(fun h => by cases h), (fun h => by cases h)⟩ (by decide) q1766 h (fun v23 s24 h => ?_)
  refine AW.putR (t := 8) (k := 21) dX8_init_76 ck8 mu8 (Nat.le_of_ble_eq_true rfl) (Or.inr ⟨_, rfl⟩) q1561 (Or.inl rfl) (Or.inr ⟨rfl, rfl⟩) h (fun s25 h => ?_)
  refine AW.aload_n dX8_init_79 rfl ?_
  refine AW.bipush dX8_init_80 (by decide) ?_
  refine AW.newa (t := 100) (atype := .int) dX8_init_82 (Nat.le_of_ble_eq_true rfl) mu100 rfl (by decide) (fun _ h => by cases h) ⟨(fun h => by cases h), (fun h => by cases h)⟩ (by decide) q420 h (fun v26 s27 h => ?_)
  refine AW.putR (t := 8) (k := 22) dX8_init_84 ck8 mu8 (Nat.le_of_ble_eq_true rfl) (Or.inr ⟨_, rfl⟩) q1562 (Or.inl rfl) (Or.inr ⟨rfl, rfl⟩) h (fun s28 h => ?_)
  refine AW.aload_n dX8_init_87 rfl ?_
  refine AW.bipush dX8_init_88 (by decide) ?_
  refine AW.newa (t := 100) (atype := .int) dX8_init_90 (Nat.le_of_ble_eq_true rfl) mu100 rfl (by decide) (fun _ h => by cases h) ⟨(fun h => by cases h), (fun h => by cases h)⟩ (by decide) q420 h (fun v29 s30 h => ?_)
  refine AW.putR (t := 8) (k := 23) dX8_init_92 ck8 mu8 (Nat.le_of_ble_eq_true rfl) (Or.inr ⟨_, rfl⟩) q1563 (Or.inl rfl) (Or.inr ⟨rfl, rfl⟩) h (fun s31 h => ?_)
  refine AW.aload_n dX8_init_95 rfl ?_
  refine AW.iconst dX8_init_96 ?_
  refine AW.newa (t := 100) (atype := .int) dX8_init_97 (Nat.le_of_ble_eq_true rfl) mu100 rfl (by decide) (fun _ h => by cases h) ⟨(fun h => by cases h), (fun h => by cases h)⟩ (by decide) q420 h (fun v32 s33 h => ?_)
  refine AW.putR (t := 8) (k := 24) dX8_init_99 ck8 mu8 (Nat.le_of_ble_eq_true rfl) (Or.inr ⟨_, rfl⟩) q1564 (Or.inl rfl) (Or.inr ⟨rfl, rfl⟩) h (fun s34 h => ?_)
  refine AW.aload_n dX8_init_102 rfl ?_
  refine AW.iconst dX8_init_103 ?_
  refine AW.newa (t := 100) (atype := .int) dX8_init_104 (Nat.le_of_ble_eq_true rfl) mu100 rfl (by decide) (fun _ h => by cases h) ⟨(fun h => by cases h), (fun h => by cases h)⟩ (by decide) q420 h (fun v35 s36 h => ?_)
  refine AW.putR (t := 8) (k := 25) dX8_init_106 ck8 mu8 (Nat.le_of_ble_eq_true rfl) (Or.inr ⟨_, rfl⟩) q1565 (Or.inl rfl) (Or.inr ⟨rfl, rfl⟩) h (fun s37 h => ?_)
  refine AW.aload_n dX8_init_109 rfl ?_
  refine AW.bipush dX8_init_110 (by decide) ?_
  refine AW.newa (t := 100) (atype := .int) dX8_init_112 (Nat.le_of_ble_eq_true rfl) mu100 rfl (by decide) (fun _ h => by cases h) ⟨(fun h => by cases h), (fun h => by cases h)⟩ (by decide) q420 h (fun v38 s39 h => ?_)
  refine AW.putR (t := 8) (k := 26) dX8_init_114 ck8 mu8 (Nat.le_of_ble_eq_true rfl) (Or.inr ⟨_, rfl⟩) q1566 (Or.inl rfl) (Or.inr ⟨rfl, rfl⟩) h (fun s40 h => ?_)
  refine AW.aload_n dX8_init_117 rfl ?_
  refine AW.bipush dX8_init_118 (by decide) ?_
  refine AW.newa (t := 100) (atype := .int) dX8_init_120 (Nat.le_of_ble_eq_true rfl) mu100 rfl (by decide) (fun _ h => by cases h) ⟨(fun h => by cases h), (fun h => by cases h)⟩ (by decide) q420 h (fun v41 s42 h => ?_)
  refine AW.putR (t := 8) (k := 27) dX8_init_122 ck8 mu8 (Nat.le_of_ble_eq_true rfl) (Or.inr ⟨_, rfl⟩) q1567 (Or.inl rfl) (Or.inr ⟨rfl, rfl⟩) h (fun s43 h => ?_)
  refine AW.aload_n dX8_init_125 rfl ?_
  refine AW.iconst dX8_init_126 ?_
  refine AW.newa (t := 100) (atype := .int) dX8_init_127 (Nat.le_of_ble_eq_true rfl) mu100 rfl (by decide) (fun _ h => by cases h) ⟨(fun h => by cases h), (fun h => by cases h)⟩ (by decide) q420 h (fun v44 s45 h => ?_)
  refine AW.putR (t := 8) (k := 28) dX8_init_129 ck8 mu8 (Nat.le_of_ble_eq_true rfl) (Or.inr ⟨_, rfl⟩) q1568 (Or.inl rfl) (Or.inr ⟨rfl, rfl⟩) h (fun s46 h => ?_)
  refine AW.aload_n dX8_init_132 rfl ?_
  refine AW.bipush dX8_init_133 (by decide) ?_
  refine AW.newa (t := 100) (atype := .int) dX8_init_135 (Nat.le_of_ble_eq_true rfl) mu100 rfl (by decide) (fun _ h => by cases h) ⟨(fun h => by cases h), (fun h => by cases h)⟩ (by decide) q420 h (fun v47 s48 h => ?_)
  refine AW.putR (t := 8) (k := 29) dX8_init_137 ck8 mu8 (Nat.le_of_ble_eq_true rfl) (Or.inr ⟨_, rfl⟩) q1569 (Or.inl rfl) (Or.inr ⟨rfl, rfl⟩) h (fun s49 h => ?_)
  refine AW.aload_n dX8_init_140 rfl ?_
  refine AW.bipush dX8_init_141 (by decide) ?_
  refine AW.newa (t := 100) (atype := .int) dX8_init_143 (Nat.le_of_ble_eq_true rfl) mu100 rfl (by decide) (fun _ h => by cases h) ⟨(fun h => by cases h), (fun h => by cases h)⟩ (by decide) q420 h (fun v50 s51 h => ?_)
  refine AW.putR (t := 8) (k := 30) dX8_init_145 ck8 mu8 (Nat.le_of_ble_eq_true rfl) (Or.inr ⟨_, rfl⟩) q1570 (Or.inl rfl) (Or.inr ⟨rfl, rfl⟩) h (fun s52 h => ?_)
  refine AW.aload_n dX8_init_148 rfl ?_
  refine AW.iconst dX8_init_149 ?_
  refine AW.newa (t := 100) (atype := .int) dX8_init_150 (Nat.le_of_ble_eq_true rfl) mu100 rfl (by decide) (fun _ h => by cases h) ⟨(fun h => by cases h), (fun h => by cases h)⟩ (by decide) q420 h (fun v53 s54 h => ?_)
  refine AW.putR (t := 8) (k := 31) dX8_init_152 ck8 mu8 (Nat.le_of_ble_eq_true rfl) (Or.inr ⟨_, rfl⟩) q1571 (Or.inl rfl) (Or.inr ⟨rfl, rfl⟩) h (fun s55 h => ?_)
  refine AW.aload_n dX8_init_155 rfl ?_
  refine AW.bipush dX8_init_156 (by decide) ?_
  refine AW.newa (t := 100) (atype := .int) dX8_init_158 (Nat.le_of_ble_eq_true rfl) mu100 rfl (by decide) (fun _ h => by cases h) ⟨(fun h => by cases h), (fun h => by cases h)⟩ (by decide) q420 h (fun v56 s57 h => ?_)
  refine AW.putR (t := 8) (k := 32) dX8_init_160 ck8 mu8 (Nat.le_of_ble_eq_true rfl) (Or.inr ⟨_, rfl⟩) q1572 (Or.inl rfl) (Or.inr ⟨rfl, rfl⟩) h (fun s58 h => ?_)
  refine AW.aload_n dX8_init_163 rfl ?_
  refine AW.bipush dX8_init_164 (by decide) ?_
  refine AW.newa (t := 100) (atype := .int) dX8_init_166 (Nat.le_of_ble_eq_true rfl) mu100 rfl (by decide) (fun _ h => by cases h) ⟨(fun h => by cases h), (fun h => by cases h)⟩ (by decide) q420 h (fun v59 s60 h => ?_)
  refine AW.putR (t := 8) (k := 33) dX8_init_168 ck8 mu8 (Nat.le_of_ble_eq_true rfl) (Or.inr ⟨_, rfl⟩) q1573 (Or.inl rfl) (Or.inr ⟨rfl, rfl⟩) h (fun s61 h => ?_)
  refine AW.aload_n dX8_init_171 rfl ?_
  refine AW.iconst dX8_init_172 ?_
  refine AW.newa (t := 100) (atype := .int) dX8_init_173 (Nat.le_of_ble_eq_true rfl) mu100 rfl (by decide) (fun _ h => by cases h) ⟨(fun h => by cases h), (fun h => by cases h)⟩ (by decide) q420 h (fun v62 s63 h => ?_)
  refine AW.putR (t := 8) (k := 34) dX8_init_175 ck8 mu8 (Nat.le_of_ble_eq_true rfl) (Or.inr ⟨_, rfl⟩) q1574 (Or.inl rfl) (Or.inr ⟨rfl, rfl⟩) h (fun s64 h => ?_)
  refine AW.aload_n dX8_init_178 rfl ?_
  refine AW.iconst dX8_init_179 ?_
  refine AW.newa (t := 100) (atype := .int) dX8_init_180 (Nat.le_of_ble_eq_true rfl) mu100 rfl (by decide) (fun _ h => by cases h) ⟨(fun h => by cases h), (fun h => by cases h)⟩ (by decide) q420 h (fun v65 s66 h => ?_)
  refine AW.putR (t := 8) (k := 35) dX8_init_182 ck8 mu8 (Nat.le_of_ble_eq_true rfl) (Or.inr ⟨_, rfl⟩) q1575 (Or.inl rfl) (Or.inr ⟨rfl, rfl⟩) h (fun s67 h => ?_)
  refine AW.aload_n dX8_init_185 rfl ?_
  refine AW.bipush dX8_init_186 (by decide) ?_
  refine AW.newa (t := 100) (atype := .int) dX8_init_188 (Nat.le_of_ble_eq_true rfl) mu100 rfl (by decide) (fun _ h => by cases h) ⟨(fun h => by cases h), (fun h => by cases h)⟩ (by decide) q420 h (fun v68 s69 h => ?_)
  refine AW.putR (t := 8) (k := 36) dX8_init_190 ck8 mu8 (Nat.le_of_ble_eq_true rfl) (Or.inr ⟨_, rfl⟩) q1576 (Or.inl rfl) (Or.inr ⟨rfl, rfl⟩) h (fun s70 h => ?_)
  refine AW.aload_n dX8_init_193 rfl ?_
  refine AW.bipush dX8_init_194 (by decide) ?_
  refine AW.newa (t := 100) (atype := .int) dX8_init_196 (Nat.le_of_ble_eq_true rfl) mu100 rfl (by decide) (fun _ h => by cases h) ⟨(fun h => by cases h), (fun h => by cases h)⟩ (by decide) q420 h (fun v71 s72 h => ?_)
  refine AW.putR (t := 8) (k := 37) dX8_init_198 ck8 mu8 (Nat.le_of_ble_eq_true rfl) (Or.inr ⟨_, rfl⟩) q1577 (Or.inl rfl) (Or.inr ⟨rfl, rfl⟩) h (fun s73 h => ?_)
  refine AW.aload_n dX8_init_201 rfl ?_
  refine AW.sipush dX8_init_202 (by decide) ?_
  refine AW.newa (t := 102) (atype := .boolean) dX8_init_205 (Nat.le_of_ble_eq_true rfl) mu102 rfl (by decide) (fun _ h => by cases h) ⟨(fun h => by cases h), (fun h => by cases h)⟩ (by decide) q419 h (fun v74 s75 h => ?_)
  refine AW.putR (t := 8) (k := 39) dX8_init_207 ck8 mu8 (Nat.le_of_ble_eq_true rfl) (Or.inr ⟨_, rfl⟩) q1579 (Or.inl rfl) (Or.inr ⟨rfl, rfl⟩) h (fun s76 h => ?_)
  refine AW.aload_n dX8_init_210 rfl ?_
  refine AW.sipush dX8_init_211 (by decide) ?_
  refine AW.newa (t := 100) (atype := .int) dX8_init_214 (Nat.le_of_ble_eq_true rfl) mu100 rfl (by decide) (fun _ h => by cases h) ⟨(fun h => by cases h), (fun h => by cases h)⟩ (by decide) q420 h (fun v77 s78 h => ?_)
  refine AW.putR (t := 8) (k := 40) dX8_init_216 ck8 mu8 (Nat.le_of_ble_eq_true rfl) (Or.inr ⟨_, rfl⟩) q1580 (Or.inl rfl) (Or.inr ⟨rfl, rfl⟩) h (fun s79 h => ?_)
  refine AW.aload_n dX8_init_219 rfl ?_
  refine AW.sipush dX8_init_220 (by decide) ?_
  refine AW.newa (t := 100) (atype := .int) dX8_init_223 (Nat.le_of_ble_eq_true rfl) mu100 rfl (by decide) (fun _ h => by cases h) ⟨(fun h => by cases h), (fun h => by cases h)⟩ (by decide) q420 h (fun v80 s81 h => ?_)
  refine AW.putR (t := 8) (k := 41) dX8_init_225 ck8 mu8 (Nat.le_of_ble_eq_true rfl) (Or.inr ⟨_, rfl⟩) q1581 (Or.inl rfl) (Or.inr ⟨rfl, rfl⟩) h (fun s82 h => ?_)
  refine AW.aload_n dX8_init_228 rfl ?_
  refine AW.sipush dX8_init_229 (by decide) ?_
  refine AW.newa (t := 100) (atype := .int) dX8_init_232 (Nat.le_of_ble_eq_true rfl) mu100 rfl (by decide) (fun _ h => by cases h) ⟨(fun h => by cases h), (fun h => by cases h)⟩ (by decide) q420 h (fun v83 s84 h => ?_)
  refine AW.putR (t := 8) (k := 42) dX8_init_234 ck8 mu8 (Nat.le_of_ble_eq_true rfl) (Or.inr ⟨_, rfl⟩) q1582 (Or.inl rfl) (Or.inr ⟨rfl, rfl⟩) h (fun s85 h => ?_)
  refine AW.aload_n dX8_init_237 rfl ?_
  refine AW.sipush dX8_init_238 (by decide) ?_
  refine AW.newa (t := 100) (atype := .int) dX8_init_241 (Nat.le_of_ble_eq_true rfl) mu100 rfl (by decide) (fun _ h => by cases h) ⟨(fun h => by cases h), (fun h => by cases h)⟩ (by decide) q420 h (fun v86 s87 h => ?_)
  refine AW.putR (t := 8) (k := 43) dX8_init_243 ck8 mu8 (Nat.le_of_ble_eq_true rfl) (Or.inr ⟨_, rfl⟩) q1583 (Or.inl rfl) (Or.inr ⟨rfl, rfl⟩) h (fun s88 h => ?_)
  refine AW.aload_n dX8_init_246 rfl ?_
  refine AW.sipush dX8_init_247 (by decide) ?_
  refine AW.newa (t := 100) (atype := .int) dX8_init_250 (Nat.le_of_ble_eq_true rfl) mu100 rfl (by decide) (fun _ h => by cases h) ⟨(fun h => by cases h), (fun h => by cases h)⟩ (by decide) q420 h (fun v89 s90 h => ?_)
  refine AW.putR (t := 8) (k := 45) dX8_init_252 ck8 mu8 (Nat.le_of_ble_eq_true rfl) (Or.inr ⟨_, rfl⟩) q1585 (Or.inl rfl) (Or.inr ⟨rfl, rfl⟩) h (fun s91 h => ?_)
  refine AW.aload_n dX8_init_255 rfl ?_
  refine AW.sipush dX8_init_256 (by decide) ?_
  refine AW.newa (t := 100) (atype := .int) dX8_init_259 (Nat.le_of_ble_eq_true rfl) mu100 rfl (by decide) (fun _ h => by cases h) ⟨(fun h => by cases h), (fun h => by cases h)⟩ (by decide) q420 h (fun v92 s93 h => ?_)
  refine AW.putR (t := 8) (k := 46) dX8_init_261 ck8 mu8 (Nat.le_of_ble_eq_true rfl) (Or.inr ⟨_, rfl⟩) q1586 (Or.inl rfl) (Or.inr ⟨rfl, rfl⟩) h (fun s94 h => ?_)
  refine AW.aload_n dX8_init_264 rfl ?_
  refine AW.bipush dX8_init_265 (by decide) ?_
  refine AW.newa (t := 100) (atype := .int) dX8_init_267 (Nat.le_of_ble_eq_true rfl) mu100 rfl (by decide) (fun _ h => by cases h) ⟨(fun h => by cases h), (fun h => by cases h)⟩ (by decide) q420 h (fun v95 s96 h => ?_)
  refine AW.putR (t := 8) (k := 47) dX8_init_269 ck8 mu8 (Nat.le_of_ble_eq_true rfl) (Or.inr ⟨_, rfl⟩) q1587 (Or.inl rfl) (Or.inr ⟨rfl, rfl⟩) h (fun s97 h => ?_)
  refine AW.aload_n dX8_init_272 rfl ?_
  refine AW.bipush dX8_init_273 (by decide) ?_
  refine AW.newa (t := 100) (atype := .int) dX8_init_275 (Nat.le_of_ble_eq_true rfl) mu100 rfl (by decide) (fun _ h => by cases h) ⟨(fun h => by cases h), (fun h => by cases h)⟩ (by decide) q420 h (fun v98 s99 h => ?_)
  refine AW.putR (t := 8) (k := 49) dX8_init_277 ck8 mu8 (Nat.le_of_ble_eq_true rfl) (Or.inr ⟨_, rfl⟩) q1589 (Or.inl rfl) (Or.inr ⟨rfl, rfl⟩) h (fun s100 h => ?_)
  refine AW.aload_n dX8_init_280 rfl ?_
  refine AW.sipush dX8_init_281 (by decide) ?_
  refine AW.newa (t := 100) (atype := .int) dX8_init_284 (Nat.le_of_ble_eq_true rfl) mu100 rfl (by decide) (fun _ h => by cases h) ⟨(fun h => by cases h), (fun h => by cases h)⟩ (by decide) q420 h (fun v101 s102 h => ?_)
  refine AW.putR (t := 8) (k := 50) dX8_init_286 ck8 mu8 (Nat.le_of_ble_eq_true rfl) (Or.inr ⟨_, rfl⟩) q1590 (Or.inl rfl) (Or.inr ⟨rfl, rfl⟩) h (fun s103 h => ?_)
  refine AW.aload_n dX8_init_289 rfl ?_
  refine AW.sipush dX8_init_290 (by decide) ?_
  refine AW.newa (t := 100) (atype := .int) dX8_init_293 (Nat.le_of_ble_eq_true rfl) mu100 rfl (by decide) (fun _ h => by cases h) ⟨(fun h => by cases h), (fun h => by cases h)⟩ (by decide) q420 h (fun v104 s105 h => ?_)
  refine AW.putR (t := 8) (k := 52) dX8_init_295 ck8 mu8 (Nat.le_of_ble_eq_true rfl) (Or.inr ⟨_, rfl⟩) q1592 (Or.inl rfl) (Or.inr ⟨rfl, rfl⟩) h (fun s106 h => ?_)
  refine AW.aload_n dX8_init_298 rfl ?_
  refine AW.bipush dX8_init_299 (by decide) ?_
  refine AW.newa (t := 100) (atype := .int) dX8_init_301 (Nat.le_of_ble_eq_true rfl) mu100 rfl (by decide) (fun _ h => by cases h) ⟨(fun h => by cases h), (fun h => by cases h)⟩ (by decide) q420 h (fun v107 s108 h => ?_)
  refine AW.putR (t := 8) (k := 54) dX8_init_303 ck8 mu8 (Nat.le_of_ble_eq_true rfl) (Or.inr ⟨_, rfl⟩) q1594 (Or.inl rfl) (Or.inr ⟨rfl, rfl⟩) h (fun s109 h => ?_)
  refine AW.aload_n dX8_init_306 rfl ?_
  refine AW.bipush dX8_init_307 (by decide) ?_
  refine AW.newa (t := 100) (atype := .int) dX8_init_309 (Nat.le_of_ble_eq_true rfl) mu100 rfl (by decide) (fun _ h => by cases h) ⟨(fun h => by cases h), (fun h => by cases h)⟩ (by decide) q420 h (fun v110 s111 h => ?_)
  refine AW.putR (t := 8) (k := 55) dX8_init_311 ck8 mu8 (Nat.le_of_ble_eq_true rfl) (Or.inr ⟨_, rfl⟩) q1595 (Or.inl rfl) (Or.inr ⟨rfl, rfl⟩) h (fun s112 h => ?_)
  refine AW.aload_n dX8_init_314 rfl ?_
  refine AW.sipush dX8_init_315 (by decide) ?_
  refine AW.newa (t := 100) (atype := .int) dX8_init_318 (Nat.le_of_ble_eq_true rfl) mu100 rfl (by decide) (fun _ h => by cases h) ⟨(fun h => by cases h), (fun h => by cases h)⟩ (by decide) q420 h (fun v113 s114 h => ?_)
  refine AW.putR (t := 8) (k := 56) dX8_init_320 ck8 mu8 (Nat.le_of_ble_eq_true rfl) (Or.inr ⟨_, rfl⟩) q1596 (Or.inl rfl) (Or.inr ⟨rfl, rfl⟩) h (fun s115 h => ?_)
  refine AW.aload_n dX8_init_323 rfl ?_
  refine AW.bipush dX8_init_324 (by decide) ?_
  refine AW.newa (t := 100) (atype := .int) dX8_init_326 (Nat.le_of_ble_eq_true rfl) mu100 rfl (by decide) (fun _ h => by cases h) ⟨(fun h => by cases h), (fun h => by cases h)⟩ (by decide) q420 h (fun v116 s117 h => ?_)
  refine AW.putR (t := 8) (k := 58) dX8_init_328 ck8 mu8 (Nat.le_of_ble_eq_true rfl) (Or.inr ⟨_, rfl⟩) q1598 (Or.inl rfl) (Or.inr ⟨rfl, rfl⟩) h (fun s118 h => ?_)
  refine AW.aload_n dX8_init_331 rfl ?_
  refine AW.bipush dX8_init_332 (by decide) ?_
  refine AW.newa (t := 100) (atype := .int) dX8_init_334 (Nat.le_of_ble_eq_true rfl) mu100 rfl (by decide) (fun _ h => by cases h) ⟨(fun h => by cases h), (fun h => by cases h)⟩ (by decide) q420 h (fun v119 s120 h => ?_)
  refine AW.putR (t := 8) (k := 59) dX8_init_336 ck8 mu8 (Nat.le_of_ble_eq_true rfl) (Or.inr ⟨_, rfl⟩) q1599 (Or.inl rfl) (Or.inr ⟨rfl, rfl⟩) h (fun s121 h => ?_)
  refine AW.aload_n dX8_init_339 rfl ?_
  refine AW.sipush dX8_init_340 (by decide) ?_
  refine AW.newa (t := 100) (atype := .int) dX8_init_343 (Nat.le_of_ble_eq_true rfl) mu100 rfl (by decide) (fun _ h => by cases h) ⟨(fun h => by cases h), (fun h => by cases h)⟩ (by decide) q420 h (fun v122 s123 h => ?_)
  refine AW.putR (t := 8) (k := 62) dX8_init_345 ck8 mu8 (Nat.le_of_ble_eq_true rfl) (Or.inr ⟨_, rfl⟩) q1602 (Or.inl rfl) (Or.inr ⟨rfl, rfl⟩) h (fun s124 h => ?_)
  refine AW.aload_n dX8_init_348 rfl ?_
  refine AW.sipush dX8_init_349 (by decide) ?_
  refine AW.newa (t := 102) (atype := .boolean) dX8_init_352 (Nat.le_of_ble_eq_true rfl) mu102 rfl (by decide) (fun _ h => by cases h) ⟨(fun h => by cases h), (fun h => by cases h)⟩ (by decide) q419 h (fun v125 s126 h => ?_)
  refine AW.putR (t := 8) (k := 63) dX8_init_354 ck8 mu8 (Nat.le_of_ble_eq_true rfl) (Or.inr ⟨_, rfl⟩) q1603 (Or.inl rfl) (Or.inr ⟨rfl, rfl⟩) h (fun s127 h => ?_)
  refine AW.aload_n dX8_init_357 rfl ?_
  refine AW.sipush dX8_init_358 (by decide) ?_
  refine AW.newa (t := 102) (atype := .boolean) dX8_init_361 (Nat.le_of_ble_eq_true rfl) mu102 rfl (by decide) (fun _ h => by cases h) ⟨(fun h => by cases h), (fun h => by cases h)⟩ (by decide) q419 h (fun v128 s129 h => ?_)
  refine AW.putR (t := 8) (k := 64) dX8_init_363 ck8 mu8 (Nat.le_of_ble_eq_true rfl) (Or.inr ⟨_, rfl⟩) q1604 (Or.inl rfl) (Or.inr ⟨rfl, rfl⟩) h (fun s130 h => ?_)
  refine AW.aload_n dX8_init_366 rfl ?_
  refine AW.sipush dX8_init_367 (by decide) ?_
  refine AW.newa (t := 100) (atype := .int) dX8_init_370 (Nat.le_of_ble_eq_true rfl) mu100 rfl (by decide) (fun _ h => by cases h) ⟨(fun h => by cases h), (fun h => by cases h)⟩ (by decide) q420 h (fun v131 s132 h => ?_)
  refine AW.putR (t := 8) (k := 65) dX8_init_372 ck8 mu8 (Nat.le_of_ble_eq_true rfl) (Or.inr ⟨_, rfl⟩) q1605 (Or.inl rfl) (Or.inr ⟨rfl, rfl⟩) h (fun s133 h => ?_)
  refine AW.aload_n dX8_init_375 rfl ?_
  refine AW.bipush dX8_init_376 (by decide) ?_
  refine AW.newa (t := 100) (atype := .int) dX8_init_378 (Nat.le_of_ble_eq_true rfl) mu100 rfl (by decide) (fun _ h => by cases h) ⟨(fun h => by cases h), (fun h => by cases h)⟩ (by decide) q420 h (fun v134 s135 h => ?_)
  refine AW.putR (t := 8) (k := 66) dX8_init_380 ck8 mu8 (Nat.le_of_ble_eq_true rfl) (Or.inr ⟨_, rfl⟩) q1606 (Or.inl rfl) (Or.inr ⟨rfl, rfl⟩) h (fun s136 h => ?_)
  refine AW.aload_n dX8_init_383 rfl ?_
  refine AW.bipush dX8_init_384 (by decide) ?_
  refine AW.newa (t := 100) (atype := .int) dX8_init_386 (Nat.le_of_ble_eq_true rfl) mu100 rfl (by decide) (fun _ h => by cases h) ⟨(fun h => by cases h), (fun h => by cases h)⟩ (by decide) q420 h (fun v137 s138 h => ?_)
  refine AW.putR (t := 8) (k := 68) dX8_init_388 ck8 mu8 (Nat.le_of_ble_eq_true rfl) (Or.inr ⟨_, rfl⟩) q1608 (Or.inl rfl) (Or.inr ⟨rfl, rfl⟩) h (fun s139 h => ?_)
  refine AW.aload_n dX8_init_391 rfl ?_
  refine AW.bipush dX8_init_392 (by decide) ?_
  refine AW.newa (t := 100) (atype := .int) dX8_init_394 (Nat.le_of_ble_eq_true rfl) mu100 rfl (by decide) (fun _ h => by cases h) ⟨(fun h => by cases h), (fun h => by cases h)⟩ (by decide) q420 h (fun v140 s141 h => ?_)
  refine AW.putR (t := 8) (k := 69) dX8_init_396 ck8 mu8 (Nat.le_of_ble_eq_true rfl) (Or.inr ⟨_, rfl⟩) q1609 (Or.inl rfl) (Or.inr ⟨rfl, rfl⟩) h (fun s142 h => ?_)
  refine AW.aload_n dX8_init_399 rfl ?_
  refine AW.bipush dX8_init_400 (by decide) ?_
  refine AW.newa (t := 100) (atype := .int) dX8_init_402 (Nat.le_of_ble_eq_true rfl) mu100 rfl (by decide) (fun _ h => by cases h) ⟨(fun h => by cases h), (fun h => by cases h)⟩ (by decide) q420 h (fun v143 s144 h => ?_)
  refine AW.putR (t := 8) (k := 70) dX8_init_404 ck8 mu8 (Nat.le_of_ble_eq_true rfl) (Or.inr ⟨_, rfl⟩) q1610 (Or.inl rfl) (Or.inr ⟨rfl, rfl⟩) h (fun s145 h => ?_)
  refine AW.aload_n dX8_init_407 rfl ?_
  refine AW.bipush dX8_init_408 (by decide) ?_
  refine AW.newa (t := 102) (atype := .boolean) dX8_init_410 (Nat.le_of_ble_eq_true rfl) mu102 rfl (by decide) (fun _ h => by cases h) ⟨(fun h => by cases h), (fun h => by cases h)⟩ (by decide) q419 h (fun v146 s147 h => ?_)
  refine AW.putR (t := 8) (k := 71) dX8_init_412 ck8 mu8 (Nat.le_of_ble_eq_true rfl) (Or.inr ⟨_, rfl⟩) q1611 (Or.inl rfl) (Or.inr ⟨rfl, rfl⟩) h (fun s148 h => ?_)
  refine AW.aload_n dX8_init_415 rfl ?_
  refine AW.iconst dX8_init_416 ?_
  refine AW.newa (t := 102) (atype := .boolean) dX8_init_417 (Nat.le_of_ble_eq_true rfl) mu102 rfl (by decide) (fun _ h => by cases h) ⟨(fun h => by cases h), (fun h => by cases h)⟩ (by decide) q419 h (fun v149 s150 h => ?_)
  refine AW.putR (t := 8) (k := 72) dX8_init_419 ck8 mu8 (Nat.le_of_ble_eq_true rfl) (Or.inr ⟨_, rfl⟩) q1612 (Or.inl rfl) (Or.inr ⟨rfl, rfl⟩) h (fun s151 h => ?_)
  refine AW.aload_n dX8_init_422 rfl ?_
  refine AW.sipush dX8_init_423 (by decide) ?_
  refine AW.newa (t := 100) (atype := .int) dX8_init_426 (Nat.le_of_ble_eq_true rfl) mu100 rfl (by decide) (fun _ h => by cases h) ⟨(fun h => by cases h), (fun h => by cases h)⟩ (by decide) q420 h (fun v152 s153 h => ?_)
  refine AW.putR (t := 8) (k := 73) dX8_init_428 ck8 mu8 (Nat.le_of_ble_eq_true rfl) (Or.inr ⟨_, rfl⟩) q1613 (Or.inl rfl) (Or.inr ⟨rfl, rfl⟩) h (fun s154 h => ?_)
  refine AW.aload_n dX8_init_431 rfl ?_
  refine AW.bipush dX8_init_432 (by decide) ?_
  refine AW.newa (t := 100) (atype := .int) dX8_init_434 (Nat.le_of_ble_eq_true rfl) mu100 rfl (by decide) (fun _ h => by cases h) ⟨(fun h => by cases h), (fun h => by cases h)⟩ (by decide) q420 h (fun v155 s156 h => ?_)
  refine AW.putR (t := 8) (k := 74) dX8_init_436 ck8 mu8 (Nat.le_of_ble_eq_true rfl) (Or.inr ⟨_, rfl⟩) q1614 (Or.inl rfl) (Or.inr ⟨rfl, rfl⟩) h (fun s157 h => ?_)
  exact hk _ h
def f_X8_initT (s0 : TW) : Option (Unit × TW) :=
  bt_ (f_X8_plain s0 0) fun _ s1 => bt_ (f_X8_word s1 114 111 111 109 0 0 0) fun v3 s2 => (ts s2 9 0 v3).bind fun s4 => bt_ (f_X8_word s4 100 111 111 114 0 0 0) fun v6 s5 => (ts s5 9 1 v6).bind fun s7 => bt_ (f_X8_word s7 109 97 110 0 0 0 0) fun v9 s8 => (ts s8 9 2 v9).bind fun s10 => bt_ (f_X8_word s10 103 111 101 115 0 0 0) fun v12 s11 => (ts s11 9 3 v12).bind fun s13 => bt_ (f_X8_word s13 109 105 114 114 111 114 0) fun v15 s14 => (ts s14 9 4 v15).bind fun s16 => bt_ (f_X8_word s16 108 97 116 101 0 0 0) fun v18 s17 => (ts s17 9 5 v18).bind fun s19 => bt_ (f_X8_word s19 98 114 101 97 107 115 0) fun v21 s20 => (ts s20 9 6 v21).bind fun s22 => bt_ (f_X8_word s22 115 101 101 100 0 0 0) fun v24 s23 => (ts s23 9 7 v24).bind fun s25 => bt_ (f_X8_word s25 105 102 0 0 0 0 0) fun v27 s26 => (ts s26 9 8 v27).bind fun s28 => bt_ (f_X8_word s28 116 104 101 110 0 0 0) fun v30 s29 => (ts s29 9 9 v30).bind fun s31 => bt_ (f_X8_word s31 101 108 115 101 0 0 0) fun v33 s32 => (ts s32 9 10 v33).bind fun s34 => bt_ (f_X8_word s34 109 105 110 117 116 101 0) fun v36 s35 => (ts s35 9 11 v36).bind fun s37 => bt_ (f_X8_word s37 104 101 114 101 0 0 0) fun v39 s38 => (ts s38 9 12 v39).bind fun s40 => bt_ (f_X8_word s40 114 97 110 107 0 0 0) fun v42 s41 => (ts s41 9 13 v42).bind fun s43 => bt_ (f_X8_word s43 110 117 109 98 101 114 0) fun v45 s44 => (ts s44 9 14 v45).bind fun s46 => bt_ (f_X8_word s46 119 97 121 115 0 0 0) fun v48 s47 => (ts s47 9 15 v48).bind fun s49 => bt_ (f_X8_word s49 119 105 116 104 0 0 0) fun v51 s50 => (ts s50 9 16 v51).bind fun s52 => bt_ (f_X8_begins s52) fun _ s53 => bt_ (f_X8_keepsRows s53 0) fun _ s54 => some ((), s54)
theorem w_X8_initT {b : Nat} {σ σ0 : Hp} {w : Unit × TW} (s0 : TW) (h : f_X8_initT s0 = some w) : AW m_X8_init σ0 (tU b σ w) 439 [some (rV (some b))] [] (insT b s0 σ) := by
  unfold f_X8_initT at h
  refine AW.aload_n dX8_init_439 rfl ?_
  refine AW.iconst dX8_init_440 ?_
  refine AW.tVU (M' := m_X8_plain) [iV 0] [] dX8_init_441 q1487 q1489 qs53 q139 q1490 rfl n_X8_plain rfl rfl rfl (fun _ _ e => c_X8_plain e) h (fun _ s1 h => ?_)
  refine AW.aload_n dX8_init_444 rfl ?_
  refine AW.tgR (k := 9) dX8_init_445 (Nat.le_of_ble_eq_true rfl) (fun _ => rfl) q1549 rfl ia9 ?_
  refine AW.iconst dX8_init_448 ?_
  refine AW.bipush dX8_init_449 (by decide) ?_
  refine AW.bipush dX8_init_451 (by decide) ?_
  refine AW.bipush dX8_init_453 (by decide) ?_
  refine AW.bipush dX8_init_455 (by decide) ?_
  refine AW.iconst dX8_init_457 ?_
  refine AW.iconst dX8_init_458 ?_
  refine AW.iconst dX8_init_459 ?_
  refine AW.tSJ (M' := m_X8_word) [iV 114, iV 111, iV 111, iV 109, iV 0, iV 0, iV 0] [iV 0, rV (some (b + tof 9))] dX8_init_460 q1491 q1492 q139 q1493 n_X8_word rfl rfl rfl (fun _ _ e => c_X8_word e) h (fun v3 s2 h => ?_)
  refine AW.tlast (k := 9) dX8_init_463 ia9 (Nat.le_of_ble_eq_true rfl) mt9 rfl h (fun s4 h => ?_)
  refine AW.aload_n dX8_init_464 rfl ?_
  refine AW.tgR (k := 9) dX8_init_465 (Nat.le_of_ble_eq_true rfl) (fun _ => rfl) q1549 rfl ia9 ?_
  refine AW.iconst dX8_init_468 ?_
  refine AW.bipush dX8_init_469 (by decide) ?_
  refine AW.bipush dX8_init_471 (by decide) ?_
  refine AW.bipush dX8_init_473 (by decide) ?_
  refine AW.bipush dX8_init_475 (by decide) ?_
  refine AW.iconst dX8_init_477 ?_
  refine AW.iconst dX8_init_478 ?_
  refine AW.iconst dX8_init_479 ?_
  refine AW.tSJ (M' := m_X8_word) [iV 100, iV 111, iV 111, iV 114, iV 0, iV 0, iV 0] [iV 1, rV (some (b + tof 9))] dX8_init_480 q1491 q1492 q139 q1493 n_X8_word rfl rfl rfl (fun _ _ e => c_X8_word e) h (fun v6 s5 h => ?_)
  refine AW.tlast (k := 9) dX8_init_483 ia9 (Nat.le_of_ble_eq_true rfl) mt9 rfl h (fun s7 h => ?_)
  refine AW.aload_n dX8_init_484 rfl ?_
  refine AW.tgR (k := 9) dX8_init_485 (Nat.le_of_ble_eq_true rfl) (fun _ => rfl) q1549 rfl ia9 ?_
  refine AW.iconst dX8_init_488 ?_
  refine AW.bipush dX8_init_489 (by decide) ?_
  refine AW.bipush dX8_init_491 (by decide) ?_
  refine AW.bipush dX8_init_493 (by decide) ?_
  refine AW.iconst dX8_init_495 ?_
  refine AW.iconst dX8_init_496 ?_
  refine AW.iconst dX8_init_497 ?_
  refine AW.iconst dX8_init_498 ?_
  refine AW.tSJ (M' := m_X8_word) [iV 109, iV 97, iV 110, iV 0, iV 0, iV 0, iV 0] [iV 2, rV (some (b + tof 9))] dX8_init_499 q1491 q1492 q139 q1493 n_X8_word rfl rfl rfl (fun _ _ e => c_X8_word e) h (fun v9 s8 h => ?_)
  refine AW.tlast (k := 9) dX8_init_502 ia9 (Nat.le_of_ble_eq_true rfl) mt9 rfl h (fun s10 h => ?_)
  refine AW.aload_n dX8_init_503 rfl ?_
  refine AW.tgR (k := 9) dX8_init_504 (Nat.le_of_ble_eq_true rfl) (fun _ => rfl) q1549 rfl ia9 ?_
  refine AW.iconst dX8_init_507 ?_
  refine AW.bipush dX8_init_508 (by decide) ?_
  refine AW.bipush dX8_init_510 (by decide) ?_
  refine AW.bipush dX8_init_512 (by decide) ?_
  refine AW.bipush dX8_init_514 (by decide) ?_
  refine AW.iconst dX8_init_516 ?_
  refine AW.iconst dX8_init_517 ?_
  refine AW.iconst dX8_init_518 ?_
  refine AW.tSJ (M' := m_X8_word) [iV 103, iV 111, iV 101, iV 115, iV 0, iV 0, iV 0] [iV 3, rV (some (b + tof 9))] dX8_init_519 q1491 q1492 q139 q1493 n_X8_word rfl rfl rfl (fun _ _ e => c_X8_word e) h (fun v12 s11 h => ?_)
  refine AW.tlast (k := 9) dX8_init_522 ia9 (Nat.le_of_ble_eq_true rfl) mt9 rfl h (fun s13 h => ?_)
  refine AW.aload_n dX8_init_523 rfl ?_
  refine AW.tgR (k := 9) dX8_init_524 (Nat.le_of_ble_eq_true rfl) (fun _ => rfl) q1549 rfl ia9 ?_
  refine AW.iconst dX8_init_527 ?_
  refine AW.bipush dX8_init_528 (by decide) ?_
  refine AW.bipush dX8_init_530 (by decide) ?_
  refine AW.bipush dX8_init_532 (by decide) ?_
  refine AW.bipush dX8_init_534 (by decide) ?_
  refine AW.bipush dX8_init_536 (by decide) ?_
  refine AW.bipush dX8_init_538 (by decide) ?_
  refine AW.iconst dX8_init_540 ?_
  refine AW.tSJ (M' := m_X8_word) [iV 109, iV 105, iV 114, iV 114, iV 111, iV 114, iV 0] [iV 4, rV (some (b + tof 9))] dX8_init_541 q1491 q1492 q139 q1493 n_X8_word rfl rfl rfl (fun _ _ e => c_X8_word e) h (fun v15 s14 h => ?_)
  refine AW.tlast (k := 9) dX8_init_544 ia9 (Nat.le_of_ble_eq_true rfl) mt9 rfl h (fun s16 h => ?_)
  refine AW.aload_n dX8_init_545 rfl ?_
  refine AW.tgR (k := 9) dX8_init_546 (Nat.le_of_ble_eq_true rfl) (fun _ => rfl) q1549 rfl ia9 ?_
  refine AW.iconst dX8_init_549 ?_
  refine AW.bipush dX8_init_550 (by decide) ?_
  refine AW.bipush dX8_init_552 (by decide) ?_
  refine AW.bipush dX8_init_554 (by decide) ?_
  refine AW.bipush dX8_init_556 (by decide) ?_
  refine AW.iconst dX8_init_558 ?_
  refine AW.iconst dX8_init_559 ?_
  refine AW.iconst dX8_init_560 ?_
  refine AW.tSJ (M' := m_X8_word) [iV 108, iV 97, iV 116, iV 101, iV 0, iV 0, iV 0] [iV 5, rV (some (b + tof 9))] dX8_init_561 q1491 q1492 q139 q1493 n_X8_word rfl rfl rfl (fun _ _ e => c_X8_word e) h (fun v18 s17 h => ?_)
  refine AW.tlast (k := 9) dX8_init_564 ia9 (Nat.le_of_ble_eq_true rfl) mt9 rfl h (fun s19 h => ?_)
  refine AW.aload_n dX8_init_565 rfl ?_
  refine AW.tgR (k := 9) dX8_init_566 (Nat.le_of_ble_eq_true rfl) (fun _ => rfl) q1549 rfl ia9 ?_
  refine AW.bipush dX8_init_569 (by decide) ?_
  refine AW.bipush dX8_init_571 (by decide) ?_
  refine AW.bipush dX8_init_573 (by decide) ?_
  refine AW.bipush dX8_init_575 (by decide) ?_
  refine AW.bipush dX8_init_577 (by decide) ?_
  refine AW.bipush dX8_init_579 (by decide) ?_
  refine AW.bipush dX8_init_581 (by decide) ?_
  refine AW.iconst dX8_init_583 ?_
  refine AW.tSJ (M' := m_X8_word) [iV 98, iV 114, iV 101, iV 97, iV 107, iV 115, iV 0] [iV 6, rV (some (b + tof 9))] dX8_init_584 q1491 q1492 q139 q1493 n_X8_word rfl rfl rfl (fun _ _ e => c_X8_word e) h (fun v21 s20 h => ?_)
  refine AW.tlast (k := 9) dX8_init_587 ia9 (Nat.le_of_ble_eq_true rfl) mt9 rfl h (fun s22 h => ?_)
  refine AW.aload_n dX8_init_588 rfl ?_
  refine AW.tgR (k := 9) dX8_init_589 (Nat.le_of_ble_eq_true rfl) (fun _ => rfl) q1549 rfl ia9 ?_
  refine AW.bipush dX8_init_592 (by decide) ?_
  refine AW.bipush dX8_init_594 (by decide) ?_
  refine AW.bipush dX8_init_596 (by decide) ?_
  refine AW.bipush dX8_init_598 (by decide) ?_
  refine AW.bipush dX8_init_600 (by decide) ?_
  refine AW.iconst dX8_init_602 ?_
  refine AW.iconst dX8_init_603 ?_
  refine AW.iconst dX8_init_604 ?_
  refine AW.tSJ (M' := m_X8_word) [iV 115, iV 101, iV 101, iV 100, iV 0, iV 0, iV 0] [iV 7, rV (some (b + tof 9))] dX8_init_605 q1491 q1492 q139 q1493 n_X8_word rfl rfl rfl (fun _ _ e => c_X8_word e) h (fun v24 s23 h => ?_)
  refine AW.tlast (k := 9) dX8_init_608 ia9 (Nat.le_of_ble_eq_true rfl) mt9 rfl h (fun s25 h => ?_)
  refine AW.aload_n dX8_init_609 rfl ?_
  refine AW.tgR (k := 9) dX8_init_610 (Nat.le_of_ble_eq_true rfl) (fun _ => rfl) q1549 rfl ia9 ?_
  refine AW.bipush dX8_init_613 (by decide) ?_
  refine AW.bipush dX8_init_615 (by decide) ?_
  refine AW.bipush dX8_init_617 (by decide) ?_
  refine AW.iconst dX8_init_619 ?_
  refine AW.iconst dX8_init_620 ?_
  refine AW.iconst dX8_init_621 ?_
  refine AW.iconst dX8_init_622 ?_
  refine AW.iconst dX8_init_623 ?_
  refine AW.tSJ (M' := m_X8_word) [iV 105, iV 102, iV 0, iV 0, iV 0, iV 0, iV 0] [iV 8, rV (some (b + tof 9))] dX8_init_624 q1491 q1492 q139 q1493 n_X8_word rfl rfl rfl (fun _ _ e => c_X8_word e) h (fun v27 s26 h => ?_)
  refine AW.tlast (k := 9) dX8_init_627 ia9 (Nat.le_of_ble_eq_true rfl) mt9 rfl h (fun s28 h => ?_)
  refine AW.aload_n dX8_init_628 rfl ?_
  refine AW.tgR (k := 9) dX8_init_629 (Nat.le_of_ble_eq_true rfl) (fun _ => rfl) q1549 rfl ia9 ?_
  refine AW.bipush dX8_init_632 (by decide) ?_
  refine AW.bipush dX8_init_634 (by decide) ?_
  refine AW.bipush dX8_init_636 (by decide) ?_
  refine AW.bipush dX8_init_638 (by decide) ?_
  refine AW.bipush dX8_init_640 (by decide) ?_
  refine AW.iconst dX8_init_642 ?_
  refine AW.iconst dX8_init_643 ?_
  refine AW.iconst dX8_init_644 ?_
  refine AW.tSJ (M' := m_X8_word) [iV 116, iV 104, iV 101, iV 110, iV 0, iV 0, iV 0] [iV 9, rV (some (b + tof 9))] dX8_init_645 q1491 q1492 q139 q1493 n_X8_word rfl rfl rfl (fun _ _ e => c_X8_word e) h (fun v30 s29 h => ?_)
  refine AW.tlast (k := 9) dX8_init_648 ia9 (Nat.le_of_ble_eq_true rfl) mt9 rfl h (fun s31 h => ?_)
  refine AW.aload_n dX8_init_649 rfl ?_
  refine AW.tgR (k := 9) dX8_init_650 (Nat.le_of_ble_eq_true rfl) (fun _ => rfl) q1549 rfl ia9 ?_
  refine AW.bipush dX8_init_653 (by decide) ?_
  refine AW.bipush dX8_init_655 (by decide) ?_
  refine AW.bipush dX8_init_657 (by decide) ?_
  refine AW.bipush dX8_init_659 (by decide) ?_
  refine AW.bipush dX8_init_661 (by decide) ?_
  refine AW.iconst dX8_init_663 ?_
  refine AW.iconst dX8_init_664 ?_
  refine AW.iconst dX8_init_665 ?_
  refine AW.tSJ (M' := m_X8_word) [iV 101, iV 108, iV 115, iV 101, iV 0, iV 0, iV 0] [iV 10, rV (some (b + tof 9))] dX8_init_666 q1491 q1492 q139 q1493 n_X8_word rfl rfl rfl (fun _ _ e => c_X8_word e) h (fun v33 s32 h => ?_)
  refine AW.tlast (k := 9) dX8_init_669 ia9 (Nat.le_of_ble_eq_true rfl) mt9 rfl h (fun s34 h => ?_)
  refine AW.aload_n dX8_init_670 rfl ?_
  refine AW.tgR (k := 9) dX8_init_671 (Nat.le_of_ble_eq_true rfl) (fun _ => rfl) q1549 rfl ia9 ?_
  refine AW.bipush dX8_init_674 (by decide) ?_
  refine AW.bipush dX8_init_676 (by decide) ?_
  refine AW.bipush dX8_init_678 (by decide) ?_
  refine AW.bipush dX8_init_680 (by decide) ?_
  refine AW.bipush dX8_init_682 (by decide) ?_
  refine AW.bipush dX8_init_684 (by decide) ?_
  refine AW.bipush dX8_init_686 (by decide) ?_
  refine AW.iconst dX8_init_688 ?_
  refine AW.tSJ (M' := m_X8_word) [iV 109, iV 105, iV 110, iV 117, iV 116, iV 101, iV 0] [iV 11, rV (some (b + tof 9))] dX8_init_689 q1491 q1492 q139 q1493 n_X8_word rfl rfl rfl (fun _ _ e => c_X8_word e) h (fun v36 s35 h => ?_)
  refine AW.tlast (k := 9) dX8_init_692 ia9 (Nat.le_of_ble_eq_true rfl) mt9 rfl h (fun s37 h => ?_)
  refine AW.aload_n dX8_init_693 rfl ?_
  refine AW.tgR (k := 9) dX8_init_694 (Nat.le_of_ble_eq_true rfl) (fun _ => rfl) q1549 rfl ia9 ?_
  refine AW.bipush dX8_init_697 (by decide) ?_
  refine AW.bipush dX8_init_699 (by decide) ?_
  refine AW.bipush dX8_init_701 (by decide) ?_
  refine AW.bipush dX8_init_703 (by decide) ?_
  refine AW.bipush dX8_init_705 (by decide) ?_
  refine AW.iconst dX8_init_707 ?_
  refine AW.iconst dX8_init_708 ?_
  refine AW.iconst dX8_init_709 ?_
  refine AW.tSJ (M' := m_X8_word) [iV 104, iV 101, iV 114, iV 101, iV 0, iV 0, iV 0] [iV 12, rV (some (b + tof 9))] dX8_init_710 q1491 q1492 q139 q1493 n_X8_word rfl rfl rfl (fun _ _ e => c_X8_word e) h (fun v39 s38 h => ?_)
  refine AW.tlast (k := 9) dX8_init_713 ia9 (Nat.le_of_ble_eq_true rfl) mt9 rfl h (fun s40 h => ?_)
  refine AW.aload_n dX8_init_714 rfl ?_
  refine AW.tgR (k := 9) dX8_init_715 (Nat.le_of_ble_eq_true rfl) (fun _ => rfl) q1549 rfl ia9 ?_
  refine AW.bipush dX8_init_718 (by decide) ?_
  refine AW.bipush dX8_init_720 (by decide) ?_
  refine AW.bipush dX8_init_722 (by decide) ?_
  refine AW.bipush dX8_init_724 (by decide) ?_
  refine AW.bipush dX8_init_726 (by decide) ?_
  refine AW.iconst dX8_init_728 ?_
  refine AW.iconst dX8_init_729 ?_
  refine AW.iconst dX8_init_730 ?_
  refine AW.tSJ (M' := m_X8_word) [iV 114, iV 97, iV 110, iV 107, iV 0, iV 0, iV 0] [iV 13, rV (some (b + tof 9))] dX8_init_731 q1491 q1492 q139 q1493 n_X8_word rfl rfl rfl (fun _ _ e => c_X8_word e) h (fun v42 s41 h => ?_)
  refine AW.tlast (k := 9) dX8_init_734 ia9 (Nat.le_of_ble_eq_true rfl) mt9 rfl h (fun s43 h => ?_)
  refine AW.aload_n dX8_init_735 rfl ?_
  refine AW.tgR (k := 9) dX8_init_736 (Nat.le_of_ble_eq_true rfl) (fun _ => rfl) q1549 rfl ia9 ?_
  refine AW.bipush dX8_init_739 (by decide) ?_
  refine AW.bipush dX8_init_741 (by decide) ?_
  refine AW.bipush dX8_init_743 (by decide) ?_
  refine AW.bipush dX8_init_745 (by decide) ?_
  refine AW.bipush dX8_init_747 (by decide) ?_
  refine AW.bipush dX8_init_749 (by decide) ?_
  refine AW.bipush dX8_init_751 (by decide) ?_
  refine AW.iconst dX8_init_753 ?_
  refine AW.tSJ (M' := m_X8_word) [iV 110, iV 117, iV 109, iV 98, iV 101, iV 114, iV 0] [iV 14, rV (some (b + tof 9))] dX8_init_754 q1491 q1492 q139 q1493 n_X8_word rfl rfl rfl (fun _ _ e => c_X8_word e) h (fun v45 s44 h => ?_)
  refine AW.tlast (k := 9) dX8_init_757 ia9 (Nat.le_of_ble_eq_true rfl) mt9 rfl h (fun s46 h => ?_)
  refine AW.aload_n dX8_init_758 rfl ?_
  refine AW.tgR (k := 9) dX8_init_759 (Nat.le_of_ble_eq_true rfl) (fun _ => rfl) q1549 rfl ia9 ?_
  refine AW.bipush dX8_init_762 (by decide) ?_
  refine AW.bipush dX8_init_764 (by decide) ?_
  refine AW.bipush dX8_init_766 (by decide) ?_
  refine AW.bipush dX8_init_768 (by decide) ?_
  refine AW.bipush dX8_init_770 (by decide) ?_
  refine AW.iconst dX8_init_772 ?_
  refine AW.iconst dX8_init_773 ?_
  refine AW.iconst dX8_init_774 ?_
  refine AW.tSJ (M' := m_X8_word) [iV 119, iV 97, iV 121, iV 115, iV 0, iV 0, iV 0] [iV 15, rV (some (b + tof 9))] dX8_init_775 q1491 q1492 q139 q1493 n_X8_word rfl rfl rfl (fun _ _ e => c_X8_word e) h (fun v48 s47 h => ?_)
  refine AW.tlast (k := 9) dX8_init_778 ia9 (Nat.le_of_ble_eq_true rfl) mt9 rfl h (fun s49 h => ?_)
  refine AW.aload_n dX8_init_779 rfl ?_
  refine AW.tgR (k := 9) dX8_init_780 (Nat.le_of_ble_eq_true rfl) (fun _ => rfl) q1549 rfl ia9 ?_
  refine AW.bipush dX8_init_783 (by decide) ?_
  refine AW.bipush dX8_init_785 (by decide) ?_
  refine AW.bipush dX8_init_787 (by decide) ?_
  refine AW.bipush dX8_init_789 (by decide) ?_
  refine AW.bipush dX8_init_791 (by decide) ?_
  refine AW.iconst dX8_init_793 ?_
  refine AW.iconst dX8_init_794 ?_
  refine AW.iconst dX8_init_795 ?_
  refine AW.tSJ (M' := m_X8_word) [iV 119, iV 105, iV 116, iV 104, iV 0, iV 0, iV 0] [iV 16, rV (some (b + tof 9))] dX8_init_796 q1491 q1492 q139 q1493 n_X8_word rfl rfl rfl (fun _ _ e => c_X8_word e) h (fun v51 s50 h => ?_)
  refine AW.tlast (k := 9) dX8_init_799 ia9 (Nat.le_of_ble_eq_true rfl) mt9 rfl h (fun s52 h => ?_)
  refine AW.aload_n dX8_init_800 rfl ?_
  refine AW.tVU (M' := m_X8_begins) [] [] dX8_init_801 q1498 q1500 qs54 q139 q1501 rfl n_X8_begins rfl rfl rfl (fun _ _ e => c_X8_begins e) h (fun _ s53 h => ?_)
  refine AW.aload_n dX8_init_804 rfl ?_
  refine AW.iconst dX8_init_805 ?_
  refine AW.tVU (M' := m_X8_keepsRows) [iV 0] [] dX8_init_806 q1537 q1539 qs63 q139 q1540 rfl n_X8_keepsRows rfl rfl rfl (fun _ _ e => c_X8_keepsRows e) h (fun _ s54 h => ?_)
  cases h
  exact AW.vret dX8_init_809 rfl
def tau0 : TW := (fun k => if k = 17 then -1 else 0, fun _ _ => 0)
def f_X8_init (dT : TW → Nat → Hp → Bool) (s0 : Hp) (x0 : Nat) : Option (Unit × Hp) := f_X8_initP s0 x0 (fun s => if dT tau0 x0 s = true then bt_ (f_X8_initT tau0) (fun v t => some (v, insT x0 t s)) else none)
theorem c_X8_init {dT : TW → Nat → Hp → Bool} (hd : okT dT) {s0 : Hp} {x0 : Nat} {v : Unit} {s1 : Hp} (h : f_X8_init dT s0 x0 = some (v, s1)) : Ct m_X8_init [rV (some x0)] s0 (.inl none, s1) := by
  refine Ct.of2 (w_X8_initP (w := (v, s1)) s0 x0 _ (fun s hk => ?_) h) (by decide) rfl rfl rfl
  obtain ⟨e1, e2⟩ := pz_elim hk
  unfold bt_ at e2
  obtain ⟨⟨v1, t⟩, e3, e4⟩ := ob_some e2
  cases e4
  have := w_X8_initT (b := x0) (σ := s) (σ0 := s0) tau0 e3
  rw [hd _ _ _ e1] at this
  exact this
abbrev m_L_law : Mi := (⟨"LateMirrorsLaw", "law", "([I)Z"⟩, cL_law, some .boolean, 4, 8192, 100000, [])
def f_L_lawP (dT : TW → Nat → Hp → Bool) (s0 : Hp) (x0 : Option Nat) (k : Hp → Option Nat → Option Nat → Option (Int × Hp)) : Option (Int × Hp) :=
  nw s0 0 23 fun v1 s2 => (rcv s2 0 v1).bind fun b4 => bn (f_X0_init s2 b4) fun _ s3 => nw s3 8 75 fun v5 s6 => (rcv s6 8 v5).bind fun b8 => bn (f_X8_init dT s6 b8) fun _ s7 => k s7 v1 v5
theorem w_L_lawP {σ0 : Hp} {w : Int × Hp} {dT : TW → Nat → Hp → Bool} (hd : okT dT) (s0 : Hp) (x0 : Option Nat) (k : Hp → Option Nat → Option Nat → Option (Int × Hp)) (hk : ∀ (s1 : Hp) (x1 x2 : Option Nat), k s1 x1 x2 = some w → AW m_L_law σ0 (oI w) 18 [some (rV x0), some (rV x1), some (rV x2), some (iV 0)] [] s1) (h : f_L_lawP dT s0 x0 k = some w) : AW m_L_law σ0 (oI w) 0 [some (rV x0), none, none, none] [] s0 := by
  unfold f_L_lawP at h
  refine AW.new (t := 0) (n := 23) dL_law_0 ck0 mu0 nf0 q157 q158 q121 h (fun v1 s2 h => ?_)
  refine AW.dupR dL_law_3 ?_
  refine AW.IU (M' := m_X0_init) (t := 0) [] [rV v1] dL_law_4 q159 q160 q121 q161 rfl rfl n_X0_init rfl rfl rfl (fun _ _ _ e => c_X0_init e) h (fun _ s3 h => ?_)
  refine AW.astore_n (L' := [some (rV x0), some (rV v1), none, none]) dL_law_7 (Nat.le_of_ble_eq_true rfl) rfl rfl ?_
  refine AW.new (t := 8) (n := 75) dL_law_8 ck8 mu8 nf8 q1481 q1482 q139 h (fun v5 s6 h => ?_)
  refine AW.dupR dL_law_11 ?_
  refine AW.IU (M' := m_X8_init) (t := 8) [] [rV v5] dL_law_12 q1483 q1484 q139 q1485 rfl rfl n_X8_init rfl rfl rfl (fun _ _ _ e => c_X8_init hd e) h (fun _ s7 h => ?_)
  refine AW.astore_n (L' := [some (rV x0), some (rV v1), some (rV v5), none]) dL_law_15 (Nat.le_of_ble_eq_true rfl) rfl rfl ?_
  refine AW.iconst dL_law_16 ?_
  refine AW.istore_n (L' := [some (rV x0), some (rV v1), some (rV v5), some (iV 0)]) dL_law_17 (Nat.le_of_ble_eq_true rfl) rfl rfl ?_
  exact hk _ _ _ h
def f_L_law_L18 (b : Nat) (dT : TW → Nat → Hp → Bool) : Nat → LSt → Option Nat → Option Nat → Int → (LSt → Option (Int × LSt)) → Option (Int × LSt)
  | 0, _, _, _, _, _ => none
  | n + 1, s0, x0, x1, x3, k => (aL (insT b s0.1 s0.2) 151 x0).bind fun v1 => (if nrm (v1 - 6) < nrm x3 then (k s0) else ((aI (insT b s0.1 s0.2) 151 x0 x3).bind fun v2 => (if nrm (anI v2 63) = 0 then ((aI (insT b s0.1 s0.2) 151 x0 (x3 + 1)).bind fun v3 => (aI (insT b s0.1 s0.2) 151 x0 (x3 + 2)).bind fun v4 => (aI (insT b s0.1 s0.2) 151 x0 (x3 + 3)).bind fun v5 => (aI (insT b s0.1 s0.2) 151 x0 (x3 + 4)).bind fun v6 => (aI (insT b s0.1 s0.2) 151 x0 (x3 + 5)).bind fun v7 => (rcv (insT b s0.1 s0.2) 0 x1).bind fun b10 => bl dT b s0.1 (f_X0_feed (insT b s0.1 s0.2) b10 v3 v4 v5 v6 v7) fun v8 s9 => (aI (insT b s9.1 s9.2) 151 x0 (x3 + 1)).bind fun v11 => (aI (insT b s9.1 s9.2) 151 x0 (x3 + 2)).bind fun v12 => (aI (insT b s9.1 s9.2) 151 x0 (x3 + 3)).bind fun v13 => (aI (insT b s9.1 s9.2) 151 x0 (x3 + 4)).bind fun v14 => (aI (insT b s9.1 s9.2) 151 x0 (x3 + 5)).bind fun v15 => bm s9 (f_X8_feed s9.1 v11 v12 v13 v14 v15) fun v16 s17 => (if nrm v8 = nrm v16 then (f_L_law_L18 b dT n s17 x0 x1 (x3 + 6) k) else (some (0, s17)))) else (if nrm (anI v2 63) = 1 then ((aI (insT b s0.1 s0.2) 151 x0 (x3 + 1)).bind fun v20 => (rcv (insT b s0.1 s0.2) 0 x1).bind fun b23 => bl dT b s0.1 (f_X0_back (insT b s0.1 s0.2) b23 v20) fun v21 s22 => (aI (insT b s22.1 s22.2) 151 x0 (x3 + 1)).bind fun v24 => bm s22 (f_X8_back s22.1 v24) fun v25 s26 => (if nrm v21 = nrm v25 then (f_L_law_L18 b dT n s26 x0 x1 (x3 + 6) k) else (some (0, s26)))) else (if nrm (anI v2 63) = 2 then ((rcv (insT b s0.1 s0.2) 0 x1).bind fun b31 => bl dT b s0.1 (f_X0_read (insT b s0.1 s0.2) b31) fun v29 s30 => bm s30 (f_X8_read s30.1) fun v32 s33 => (if nrm v29 = nrm v32 then (f_L_law_L18 b dT n s33 x0 x1 (x3 + 6) k) else (some (0, s33)))) else (if nrm (anI v2 63) = 3 then ((rcv (insT b s0.1 s0.2) 0 x1).bind fun b38 => bl dT b s0.1 (f_X0_place (insT b s0.1 s0.2) b38) fun v36 s37 => bm s37 (f_X8_place s37.1) fun v39 s40 => (if nrm v36 = nrm v39 then (f_L_law_L18 b dT n s40 x0 x1 (x3 + 6) k) else (some (0, s40)))) else (if nrm (anI v2 63) = 4 then ((aI (insT b s0.1 s0.2) 151 x0 (x3 + 1)).bind fun v43 => (aI (insT b s0.1 s0.2) 151 x0 (x3 + 2)).bind fun v44 => (aI (insT b s0.1 s0.2) 151 x0 (x3 + 3)).bind fun v45 => (rcv (insT b s0.1 s0.2) 0 x1).bind fun b48 => bl dT b s0.1 (f_X0_man (insT b s0.1 s0.2) b48 v43 v44 v45) fun v46 s47 => (aI (insT b s47.1 s47.2) 151 x0 (x3 + 1)).bind fun v49 => (aI (insT b s47.1 s47.2) 151 x0 (x3 + 2)).bind fun v50 => (aI (insT b s47.1 s47.2) 151 x0 (x3 + 3)).bind fun v51 => bm s47 (f_X8_man s47.1 v49 v50 v51) fun v52 s53 => (if nrm v46 = nrm v52 then (f_L_law_L18 b dT n s53 x0 x1 (x3 + 6) k) else (some (0, s53)))) else (if nrm (anI v2 63) = 5 then ((aI (insT b s0.1 s0.2) 151 x0 (x3 + 1)).bind fun v56 => (aI (insT b s0.1 s0.2) 151 x0 (x3 + 2)).bind fun v57 => (aI (insT b s0.1 s0.2) 151 x0 (x3 + 3)).bind fun v58 => (rcv (insT b s0.1 s0.2) 0 x1).bind fun b61 => bl dT b s0.1 (f_X0_mirror (insT b s0.1 s0.2) b61 v56 v57 v58) fun v59 s60 => (aI (insT b s60.1 s60.2) 151 x0 (x3 + 1)).bind fun v62 => (aI (insT b s60.1 s60.2) 151 x0 (x3 + 2)).bind fun v63 => (aI (insT b s60.1 s60.2) 151 x0 (x3 + 3)).bind fun v64 => bm s60 (f_X8_mirror s60.1 v62 v63 v64) fun v65 s66 => (if nrm v59 = nrm v65 then (f_L_law_L18 b dT n s66 x0 x1 (x3 + 6) k) else (some (0, s66)))) else (if nrm (anI v2 63) = 6 then ((aI (insT b s0.1 s0.2) 151 x0 (x3 + 1)).bind fun v69 => (rcv (insT b s0.1 s0.2) 0 x1).bind fun b72 => bl dT b s0.1 (f_X0_minutes (insT b s0.1 s0.2) b72 v69) fun v70 s71 => (aI (insT b s71.1 s71.2) 151 x0 (x3 + 1)).bind fun v73 => bm s71 (f_X8_minutes s71.1 v73) fun v74 s75 => (if nrm v70 = nrm v74 then (f_L_law_L18 b dT n s75 x0 x1 (x3 + 6) k) else (some (0, s75)))) else (if nrm (anI v2 63) = 7 then ((aI (insT b s0.1 s0.2) 151 x0 (x3 + 1)).bind fun v78 => (aI (insT b s0.1 s0.2) 151 x0 (x3 + 2)).bind fun v79 => (rcv (insT b s0.1 s0.2) 0 x1).bind fun b82 => bl dT b s0.1 (f_X0_go (insT b s0.1 s0.2) b82 v78 v79) fun v80 s81 => (aI (insT b s81.1 s81.2) 151 x0 (x3 + 1)).bind fun v83 => (aI (insT b s81.1 s81.2) 151 x0 (x3 + 2)).bind fun v84 => bm s81 (f_X8_go s81.1 v83 v84) fun v85 s86 => (if nrm v80 = nrm v85 then (f_L_law_L18 b dT n s86 x0 x1 (x3 + 6) k) else (some (0, s86)))) else (if nrm (anI v2 63) = 8 then ((aI (insT b s0.1 s0.2) 151 x0 (x3 + 1)).bind fun v89 => (aI (insT b s0.1 s0.2) 151 x0 (x3 + 2)).bind fun v90 => (rcv (insT b s0.1 s0.2) 0 x1).bind fun b93 => bl dT b s0.1 (f_X0_raise (insT b s0.1 s0.2) b93 v89 v90) fun v91 s92 => (aI (insT b s92.1 s92.2) 151 x0 (x3 + 1)).bind fun v94 => (aI (insT b s92.1 s92.2) 151 x0 (x3 + 2)).bind fun v95 => bm s92 (f_X8_raise s92.1 v94 v95) fun v96 s97 => (if nrm v91 = nrm v96 then (f_L_law_L18 b dT n s97 x0 x1 (x3 + 6) k) else (some (0, s97)))) else (if nrm (anI v2 63) = 9 then ((aI (insT b s0.1 s0.2) 151 x0 (x3 + 1)).bind fun v100 => (aI (insT b s0.1 s0.2) 151 x0 (x3 + 2)).bind fun v101 => (rcv (insT b s0.1 s0.2) 0 x1).bind fun b104 => bl dT b s0.1 (f_X0_carry (insT b s0.1 s0.2) b104 v100 v101) fun v102 s103 => (aI (insT b s103.1 s103.2) 151 x0 (x3 + 1)).bind fun v105 => (aI (insT b s103.1 s103.2) 151 x0 (x3 + 2)).bind fun v106 => bm s103 (f_X8_carry s103.1 v105 v106) fun v107 s108 => (if nrm v102 = nrm v107 then (f_L_law_L18 b dT n s108 x0 x1 (x3 + 6) k) else (some (0, s108)))) else (if nrm (anI v2 63) = 10 then ((aI (insT b s0.1 s0.2) 151 x0 (x3 + 1)).bind fun v111 => (aI (insT b s0.1 s0.2) 151 x0 (x3 + 2)).bind fun v112 => jn (fun (s113 : LSt) (x0 : Option Nat) (x1 : Option Nat) (x3 : Int) (y0 : Option Nat) (y1 : Int) (y2 : Int) => (rcv (insT b s113.1 s113.2) 0 y0).bind fun b116 => bl dT b s113.1 (f_X0_turn (insT b s113.1 s113.2) b116 y1 y2) fun v114 s115 => (aI (insT b s115.1 s115.2) 151 x0 (x3 + 1)).bind fun v117 => (aI (insT b s115.1 s115.2) 151 x0 (x3 + 2)).bind fun v118 => jn (fun (s119 : LSt) (x0 : Option Nat) (x1 : Option Nat) (x3 : Int) (y0 : Int) (y2 : Int) (y3 : Int) => bm s119 (f_X8_turn s119.1 y2 y3) fun v120 s121 => (if nrm y0 = nrm v120 then (f_L_law_L18 b dT n s121 x0 x1 (x3 + 6) k) else (some (0, s121)))) fun j585 => (if nrm v118 = 0 then (j585 s115 x0 x1 x3 v114 v117 0) else (j585 s115 x0 x1 x3 v114 v117 1))) fun j563 => (if nrm v112 = 0 then (j563 s0 x0 x1 x3 x1 v111 0) else (j563 s0 x0 x1 x3 x1 v111 1))) else (if nrm (anI v2 63) = 11 then ((aI (insT b s0.1 s0.2) 151 x0 (x3 + 1)).bind fun v126 => (rcv (insT b s0.1 s0.2) 0 x1).bind fun b129 => bl dT b s0.1 (f_X0_smash (insT b s0.1 s0.2) b129 v126) fun v127 s128 => (aI (insT b s128.1 s128.2) 151 x0 (x3 + 1)).bind fun v130 => bm s128 (f_X8_smash s128.1 v130) fun v131 s132 => (if nrm v127 = nrm v131 then (f_L_law_L18 b dT n s132 x0 x1 (x3 + 6) k) else (some (0, s132)))) else (if nrm (anI v2 63) = 12 then ((rcv (insT b s0.1 s0.2) 0 x1).bind fun b137 => bl dT b s0.1 (f_X0_undo (insT b s0.1 s0.2) b137) fun v135 s136 => bm s136 (f_X8_undo s136.1) fun v138 s139 => (if nrm v135 = nrm v138 then (f_L_law_L18 b dT n s139 x0 x1 (x3 + 6) k) else (some (0, s139)))) else (if nrm (anI v2 63) = 13 then ((aI (insT b s0.1 s0.2) 151 x0 (x3 + 1)).bind fun v142 => (aI (insT b s0.1 s0.2) 151 x0 (x3 + 2)).bind fun v143 => (aI (insT b s0.1 s0.2) 151 x0 (x3 + 3)).bind fun v144 => (aI (insT b s0.1 s0.2) 151 x0 (x3 + 4)).bind fun v145 => (rcv (insT b s0.1 s0.2) 0 x1).bind fun b148 => bl dT b s0.1 (f_X0_look (insT b s0.1 s0.2) b148 v142 v143 v144 v145) fun v146 s147 => (aI (insT b s147.1 s147.2) 151 x0 (x3 + 1)).bind fun v149 => (aI (insT b s147.1 s147.2) 151 x0 (x3 + 2)).bind fun v150 => (aI (insT b s147.1 s147.2) 151 x0 (x3 + 3)).bind fun v151 => (aI (insT b s147.1 s147.2) 151 x0 (x3 + 4)).bind fun v152 => bm s147 (f_X8_look s147.1 v149 v150 v151 v152) fun v153 s154 => (if nrm v146 = nrm v153 then (f_L_law_L18 b dT n s154 x0 x1 (x3 + 6) k) else (some (0, s154)))) else (if nrm (anI v2 63) = 14 then ((aI (insT b s0.1 s0.2) 151 x0 (x3 + 1)).bind fun v157 => (aI (insT b s0.1 s0.2) 151 x0 (x3 + 2)).bind fun v158 => (rcv (insT b s0.1 s0.2) 0 x1).bind fun b161 => bl dT b s0.1 (f_X0_last (insT b s0.1 s0.2) b161 v157 v158) fun v159 s160 => (aI (insT b s160.1 s160.2) 151 x0 (x3 + 1)).bind fun v162 => (aI (insT b s160.1 s160.2) 151 x0 (x3 + 2)).bind fun v163 => bm s160 (f_X8_last s160.1 v162 v163) fun v164 s165 => (if nrm v159 = nrm v164 then (f_L_law_L18 b dT n s165 x0 x1 (x3 + 6) k) else (some (0, s165)))) else (if nrm (anI v2 63) = 15 then ((aI (insT b s0.1 s0.2) 151 x0 (x3 + 1)).bind fun v168 => (aI (insT b s0.1 s0.2) 151 x0 (x3 + 2)).bind fun v169 => (rcv (insT b s0.1 s0.2) 0 x1).bind fun b172 => bl dT b s0.1 (f_X0_visits (insT b s0.1 s0.2) b172 v168 v169) fun v170 s171 => (aI (insT b s171.1 s171.2) 151 x0 (x3 + 1)).bind fun v173 => (aI (insT b s171.1 s171.2) 151 x0 (x3 + 2)).bind fun v174 => bm s171 (f_X8_visits s171.1 v173 v174) fun v175 s176 => (if nrm v170 = nrm v175 then (f_L_law_L18 b dT n s176 x0 x1 (x3 + 6) k) else (some (0, s176)))) else (if nrm (anI v2 63) = 16 then ((aI (insT b s0.1 s0.2) 151 x0 (x3 + 1)).bind fun v179 => (aI (insT b s0.1 s0.2) 151 x0 (x3 + 2)).bind fun v180 => jn (fun (s181 : LSt) (x0 : Option Nat) (x1 : Option Nat) (x3 : Int) (y0 : Option Nat) (y1 : Int) (y2 : Int) => (rcv (insT b s181.1 s181.2) 0 y0).bind fun b184 => bl dT b s181.1 (f_X0_alone (insT b s181.1 s181.2) b184 y1 y2) fun v182 s183 => (aI (insT b s183.1 s183.2) 151 x0 (x3 + 1)).bind fun v185 => (aI (insT b s183.1 s183.2) 151 x0 (x3 + 2)).bind fun v186 => jn (fun (s187 : LSt) (x0 : Option Nat) (x1 : Option Nat) (x3 : Int) (y0 : Int) (y2 : Int) (y3 : Int) => bm s187 (f_X8_alone s187.1 y2 y3) fun v188 s189 => (if nrm y0 = nrm v188 then (f_L_law_L18 b dT n s189 x0 x1 (x3 + 6) k) else (some (0, s189)))) fun j789 => (if nrm v186 = 0 then (j789 s183 x0 x1 x3 v182 v185 0) else (j789 s183 x0 x1 x3 v182 v185 1))) fun j767 => (if nrm v180 = 0 then (j767 s0 x0 x1 x3 x1 v179 0) else (j767 s0 x0 x1 x3 x1 v179 1))) else (if nrm (anI v2 63) = 17 then ((rcv (insT b s0.1 s0.2) 0 x1).bind fun b196 => bl dT b s0.1 (f_X0_lonely (insT b s0.1 s0.2) b196) fun v194 s195 => bm s195 (f_X8_lonely s195.1) fun v197 s198 => (if nrm v194 = nrm v197 then (f_L_law_L18 b dT n s198 x0 x1 (x3 + 6) k) else (some (0, s198)))) else (if nrm (anI v2 63) = 18 then ((aI (insT b s0.1 s0.2) 151 x0 (x3 + 1)).bind fun v201 => (aI (insT b s0.1 s0.2) 151 x0 (x3 + 2)).bind fun v202 => (aI (insT b s0.1 s0.2) 151 x0 (x3 + 3)).bind fun v203 => (rcv (insT b s0.1 s0.2) 0 x1).bind fun b206 => bl dT b s0.1 (f_X0_together (insT b s0.1 s0.2) b206 v201 v202 v203) fun v204 s205 => (aI (insT b s205.1 s205.2) 151 x0 (x3 + 1)).bind fun v207 => (aI (insT b s205.1 s205.2) 151 x0 (x3 + 2)).bind fun v208 => (aI (insT b s205.1 s205.2) 151 x0 (x3 + 3)).bind fun v209 => bm s205 (f_X8_together s205.1 v207 v208 v209) fun v210 s211 => (if nrm v204 = nrm v210 then (f_L_law_L18 b dT n s211 x0 x1 (x3 + 6) k) else (some (0, s211)))) else (if nrm (anI v2 63) = 19 then ((aI (insT b s0.1 s0.2) 151 x0 (x3 + 1)).bind fun v214 => (aI (insT b s0.1 s0.2) 151 x0 (x3 + 2)).bind fun v215 => (aI (insT b s0.1 s0.2) 151 x0 (x3 + 3)).bind fun v216 => (rcv (insT b s0.1 s0.2) 0 x1).bind fun b219 => bl dT b s0.1 (f_X0_facing (insT b s0.1 s0.2) b219 v214 v215 v216) fun v217 s218 => (aI (insT b s218.1 s218.2) 151 x0 (x3 + 1)).bind fun v220 => (aI (insT b s218.1 s218.2) 151 x0 (x3 + 2)).bind fun v221 => (aI (insT b s218.1 s218.2) 151 x0 (x3 + 3)).bind fun v222 => bm s218 (f_X8_facing s218.1 v220 v221 v222) fun v223 s224 => (if nrm v217 = nrm v223 then (f_L_law_L18 b dT n s224 x0 x1 (x3 + 6) k) else (some (0, s224)))) else (if nrm (anI v2 63) = 20 then ((aI (insT b s0.1 s0.2) 151 x0 (x3 + 1)).bind fun v227 => (aI (insT b s0.1 s0.2) 151 x0 (x3 + 2)).bind fun v228 => (aI (insT b s0.1 s0.2) 151 x0 (x3 + 3)).bind fun v229 => (rcv (insT b s0.1 s0.2) 0 x1).bind fun b232 => bl dT b s0.1 (f_X0_glimpses (insT b s0.1 s0.2) b232 v227 v228 v229) fun v230 s231 => (aI (insT b s231.1 s231.2) 151 x0 (x3 + 1)).bind fun v233 => (aI (insT b s231.1 s231.2) 151 x0 (x3 + 2)).bind fun v234 => (aI (insT b s231.1 s231.2) 151 x0 (x3 + 3)).bind fun v235 => bm s231 (f_X8_glimpses s231.1 v233 v234 v235) fun v236 s237 => (if nrm v230 = nrm v236 then (f_L_law_L18 b dT n s237 x0 x1 (x3 + 6) k) else (some (0, s237)))) else (if nrm (anI v2 63) = 21 then ((aI (insT b s0.1 s0.2) 151 x0 (x3 + 1)).bind fun v240 => (rcv (insT b s0.1 s0.2) 0 x1).bind fun b243 => bl dT b s0.1 (f_X0_ghosts (insT b s0.1 s0.2) b243 v240) fun v241 s242 => (aI (insT b s242.1 s242.2) 151 x0 (x3 + 1)).bind fun v244 => bm s242 (f_X8_ghosts s242.1 v244) fun v245 s246 => (if nrm v241 = nrm v245 then (f_L_law_L18 b dT n s246 x0 x1 (x3 + 6) k) else (some (0, s246)))) else (if nrm (anI v2 63) = 22 then ((aI (insT b s0.1 s0.2) 151 x0 (x3 + 1)).bind fun v249 => (rcv (insT b s0.1 s0.2) 0 x1).bind fun b252 => bl dT b s0.1 (f_X0_oldest (insT b s0.1 s0.2) b252 v249) fun v250 s251 => (aI (insT b s251.1 s251.2) 151 x0 (x3 + 1)).bind fun v253 => bm s251 (f_X8_oldest s251.1 v253) fun v254 s255 => (if nrm v250 = nrm v254 then (f_L_law_L18 b dT n s255 x0 x1 (x3 + 6) k) else (some (0, s255)))) else (if nrm (anI v2 63) = 23 then ((aI (insT b s0.1 s0.2) 151 x0 (x3 + 1)).bind fun v258 => (aI (insT b s0.1 s0.2) 151 x0 (x3 + 2)).bind fun v259 => jn (fun (s260 : LSt) (x0 : Option Nat) (x1 : Option Nat) (x3 : Int) (y0 : Option Nat) (y1 : Int) (y2 : Int) => (rcv (insT b s260.1 s260.2) 0 y0).bind fun b263 => bl dT b s260.1 (f_X0_shown (insT b s260.1 s260.2) b263 y1 y2) fun v261 s262 => (aI (insT b s262.1 s262.2) 151 x0 (x3 + 1)).bind fun v264 => (aI (insT b s262.1 s262.2) 151 x0 (x3 + 2)).bind fun v265 => jn (fun (s266 : LSt) (x0 : Option Nat) (x1 : Option Nat) (x3 : Int) (y0 : Int) (y2 : Int) (y3 : Int) => bm s266 (f_X8_shown s266.1 y2 y3) fun v267 s268 => (if nrm y0 = nrm v267 then (f_L_law_L18 b dT n s268 x0 x1 (x3 + 6) k) else (some (0, s268)))) fun j1026 => (if nrm v265 = 0 then (j1026 s262 x0 x1 x3 v261 v264 0) else (j1026 s262 x0 x1 x3 v261 v264 1))) fun j1004 => (if nrm v259 = 0 then (j1004 s0 x0 x1 x3 x1 v258 0) else (j1004 s0 x0 x1 x3 x1 v258 1))) else (if nrm (anI v2 63) = 24 then ((aI (insT b s0.1 s0.2) 151 x0 (x3 + 1)).bind fun v273 => (aI (insT b s0.1 s0.2) 151 x0 (x3 + 2)).bind fun v274 => (rcv (insT b s0.1 s0.2) 0 x1).bind fun b277 => bl dT b s0.1 (f_X0_deepest (insT b s0.1 s0.2) b277 v273 v274) fun v275 s276 => (aI (insT b s276.1 s276.2) 151 x0 (x3 + 1)).bind fun v278 => (aI (insT b s276.1 s276.2) 151 x0 (x3 + 2)).bind fun v279 => bm s276 (f_X8_deepest s276.1 v278 v279) fun v280 s281 => (if nrm v275 = nrm v280 then (f_L_law_L18 b dT n s281 x0 x1 (x3 + 6) k) else (some (0, s281)))) else (if nrm (anI v2 63) = 25 then ((aI (insT b s0.1 s0.2) 151 x0 (x3 + 1)).bind fun v284 => (aI (insT b s0.1 s0.2) 151 x0 (x3 + 2)).bind fun v285 => (rcv (insT b s0.1 s0.2) 0 x1).bind fun b288 => bl dT b s0.1 (f_X0_crowd (insT b s0.1 s0.2) b288 v284 v285) fun v286 s287 => (aI (insT b s287.1 s287.2) 151 x0 (x3 + 1)).bind fun v289 => (aI (insT b s287.1 s287.2) 151 x0 (x3 + 2)).bind fun v290 => bm s287 (f_X8_crowd s287.1 v289 v290) fun v291 s292 => (if nrm v286 = nrm v291 then (f_L_law_L18 b dT n s292 x0 x1 (x3 + 6) k) else (some (0, s292)))) else (if nrm (anI v2 63) = 26 then ((aI (insT b s0.1 s0.2) 151 x0 (x3 + 1)).bind fun v295 => (aI (insT b s0.1 s0.2) 151 x0 (x3 + 2)).bind fun v296 => (rcv (insT b s0.1 s0.2) 0 x1).bind fun b299 => bl dT b s0.1 (f_X0_rankFor (insT b s0.1 s0.2) b299 v295 v296) fun v297 s298 => (aI (insT b s298.1 s298.2) 151 x0 (x3 + 1)).bind fun v300 => (aI (insT b s298.1 s298.2) 151 x0 (x3 + 2)).bind fun v301 => bm s298 (f_X8_rankFor s298.1 v300 v301) fun v302 s303 => (if nrm v297 = nrm v302 then (f_L_law_L18 b dT n s303 x0 x1 (x3 + 6) k) else (some (0, s303)))) else (if nrm (anI v2 63) = 27 then ((aI (insT b s0.1 s0.2) 151 x0 (x3 + 1)).bind fun v306 => (aI (insT b s0.1 s0.2) 151 x0 (x3 + 2)).bind fun v307 => (aI (insT b s0.1 s0.2) 151 x0 (x3 + 3)).bind fun v308 => (aI (insT b s0.1 s0.2) 151 x0 (x3 + 4)).bind fun v309 => (rcv (insT b s0.1 s0.2) 0 x1).bind fun b312 => bl dT b s0.1 (f_X0_view (insT b s0.1 s0.2) b312 v306 v307 v308 v309) fun v310 s311 => (aI (insT b s311.1 s311.2) 151 x0 (x3 + 1)).bind fun v313 => (aI (insT b s311.1 s311.2) 151 x0 (x3 + 2)).bind fun v314 => (aI (insT b s311.1 s311.2) 151 x0 (x3 + 3)).bind fun v315 => (aI (insT b s311.1 s311.2) 151 x0 (x3 + 4)).bind fun v316 => bm s311 (f_X8_view s311.1 v313 v314 v315 v316) fun v317 s318 => (if nrm v310 = nrm v317 then (f_L_law_L18 b dT n s318 x0 x1 (x3 + 6) k) else (some (0, s318)))) else (if nrm (anI v2 63) = 28 then ((aI (insT b s0.1 s0.2) 151 x0 (x3 + 1)).bind fun v321 => (aI (insT b s0.1 s0.2) 151 x0 (x3 + 2)).bind fun v322 => (rcv (insT b s0.1 s0.2) 0 x1).bind fun b325 => bl dT b s0.1 (f_X0_willBe (insT b s0.1 s0.2) b325 v321 v322) fun v323 s324 => (aI (insT b s324.1 s324.2) 151 x0 (x3 + 1)).bind fun v326 => (aI (insT b s324.1 s324.2) 151 x0 (x3 + 2)).bind fun v327 => bm s324 (f_X8_willBe s324.1 v326 v327) fun v328 s329 => (if nrm v323 = nrm v328 then (f_L_law_L18 b dT n s329 x0 x1 (x3 + 6) k) else (some (0, s329)))) else (if nrm (anI v2 63) = 29 then ((aI (insT b s0.1 s0.2) 151 x0 (x3 + 1)).bind fun v332 => (aI (insT b s0.1 s0.2) 151 x0 (x3 + 2)).bind fun v333 => (aI (insT b s0.1 s0.2) 151 x0 (x3 + 3)).bind fun v334 => (rcv (insT b s0.1 s0.2) 0 x1).bind fun b337 => bl dT b s0.1 (f_X0_rests (insT b s0.1 s0.2) b337 v332 v333 v334) fun v335 s336 => (aI (insT b s336.1 s336.2) 151 x0 (x3 + 1)).bind fun v338 => (aI (insT b s336.1 s336.2) 151 x0 (x3 + 2)).bind fun v339 => (aI (insT b s336.1 s336.2) 151 x0 (x3 + 3)).bind fun v340 => bm s336 (f_X8_rests s336.1 v338 v339 v340) fun v341 s342 => (if nrm v335 = nrm v341 then (f_L_law_L18 b dT n s342 x0 x1 (x3 + 6) k) else (some (0, s342)))) else (if nrm (anI v2 63) = 30 then ((aI (insT b s0.1 s0.2) 151 x0 (x3 + 1)).bind fun v345 => (aI (insT b s0.1 s0.2) 151 x0 (x3 + 2)).bind fun v346 => (rcv (insT b s0.1 s0.2) 0 x1).bind fun b349 => bl dT b s0.1 (f_X0_still (insT b s0.1 s0.2) b349 v345 v346) fun v347 s348 => (aI (insT b s348.1 s348.2) 151 x0 (x3 + 1)).bind fun v350 => (aI (insT b s348.1 s348.2) 151 x0 (x3 + 2)).bind fun v351 => bm s348 (f_X8_still s348.1 v350 v351) fun v352 s353 => (if nrm v347 = nrm v352 then (f_L_law_L18 b dT n s353 x0 x1 (x3 + 6) k) else (some (0, s353)))) else (if nrm (anI v2 63) = 31 then ((aI (insT b s0.1 s0.2) 151 x0 (x3 + 1)).bind fun v356 => (aI (insT b s0.1 s0.2) 151 x0 (x3 + 2)).bind fun v357 => (aI (insT b s0.1 s0.2) 151 x0 (x3 + 3)).bind fun v358 => (rcv (insT b s0.1 s0.2) 0 x1).bind fun b361 => bl dT b s0.1 (f_X0_soonest (insT b s0.1 s0.2) b361 v356 v357 v358) fun v359 s360 => (aI (insT b s360.1 s360.2) 151 x0 (x3 + 1)).bind fun v362 => (aI (insT b s360.1 s360.2) 151 x0 (x3 + 2)).bind fun v363 => (aI (insT b s360.1 s360.2) 151 x0 (x3 + 3)).bind fun v364 => bm s360 (f_X8_soonest s360.1 v362 v363 v364) fun v365 s366 => (if nrm v359 = nrm v365 then (f_L_law_L18 b dT n s366 x0 x1 (x3 + 6) k) else (some (0, s366)))) else (if nrm (anI v2 63) = 32 then ((aI (insT b s0.1 s0.2) 151 x0 (x3 + 1)).bind fun v369 => (aI (insT b s0.1 s0.2) 151 x0 (x3 + 2)).bind fun v370 => (rcv (insT b s0.1 s0.2) 0 x1).bind fun b373 => bl dT b s0.1 (f_X0_seen (insT b s0.1 s0.2) b373 v369 v370) fun v371 s372 => (aI (insT b s372.1 s372.2) 151 x0 (x3 + 1)).bind fun v374 => (aI (insT b s372.1 s372.2) 151 x0 (x3 + 2)).bind fun v375 => bm s372 (f_X8_seen s372.1 v374 v375) fun v376 s377 => (if nrm v371 = nrm v376 then (f_L_law_L18 b dT n s377 x0 x1 (x3 + 6) k) else (some (0, s377)))) else (if nrm (anI v2 63) = 33 then ((aI (insT b s0.1 s0.2) 151 x0 (x3 + 1)).bind fun v380 => (aI (insT b s0.1 s0.2) 151 x0 (x3 + 2)).bind fun v381 => (aI (insT b s0.1 s0.2) 151 x0 (x3 + 3)).bind fun v382 => (rcv (insT b s0.1 s0.2) 0 x1).bind fun b385 => bl dT b s0.1 (f_X0_jolt (insT b s0.1 s0.2) b385 v380 v381 v382) fun v383 s384 => (aI (insT b s384.1 s384.2) 151 x0 (x3 + 1)).bind fun v386 => (aI (insT b s384.1 s384.2) 151 x0 (x3 + 2)).bind fun v387 => (aI (insT b s384.1 s384.2) 151 x0 (x3 + 3)).bind fun v388 => bm s384 (f_X8_jolt s384.1 v386 v387 v388) fun v389 s390 => (if nrm v383 = nrm v389 then (f_L_law_L18 b dT n s390 x0 x1 (x3 + 6) k) else (some (0, s390)))) else (if nrm (anI v2 63) = 34 then ((aI (insT b s0.1 s0.2) 151 x0 (x3 + 1)).bind fun v393 => (aI (insT b s0.1 s0.2) 151 x0 (x3 + 2)).bind fun v394 => (aI (insT b s0.1 s0.2) 151 x0 (x3 + 3)).bind fun v395 => (rcv (insT b s0.1 s0.2) 0 x1).bind fun b398 => bl dT b s0.1 (f_X0_hidden (insT b s0.1 s0.2) b398 v393 v394 v395) fun v396 s397 => (aI (insT b s397.1 s397.2) 151 x0 (x3 + 1)).bind fun v399 => (aI (insT b s397.1 s397.2) 151 x0 (x3 + 2)).bind fun v400 => (aI (insT b s397.1 s397.2) 151 x0 (x3 + 3)).bind fun v401 => bm s397 (f_X8_hidden s397.1 v399 v400 v401) fun v402 s403 => (if nrm v396 = nrm v402 then (f_L_law_L18 b dT n s403 x0 x1 (x3 + 6) k) else (some (0, s403)))) else (if nrm (anI v2 63) = 35 then ((aI (insT b s0.1 s0.2) 151 x0 (x3 + 1)).bind fun v406 => (rcv (insT b s0.1 s0.2) 0 x1).bind fun b409 => bl dT b s0.1 (f_X0_stand (insT b s0.1 s0.2) b409 v406) fun v407 s408 => (aI (insT b s408.1 s408.2) 151 x0 (x3 + 1)).bind fun v410 => bm s408 (f_X8_stand s408.1 v410) fun v411 s412 => (if nrm v407 = nrm v411 then (f_L_law_L18 b dT n s412 x0 x1 (x3 + 6) k) else (some (0, s412)))) else (if nrm (anI v2 63) = 36 then ((aI (insT b s0.1 s0.2) 151 x0 (x3 + 1)).bind fun v415 => (aI (insT b s0.1 s0.2) 151 x0 (x3 + 2)).bind fun v416 => (rcv (insT b s0.1 s0.2) 0 x1).bind fun b419 => bl dT b s0.1 (f_X0_turned (insT b s0.1 s0.2) b419 v415 v416) fun v417 s418 => (aI (insT b s418.1 s418.2) 151 x0 (x3 + 1)).bind fun v420 => (aI (insT b s418.1 s418.2) 151 x0 (x3 + 2)).bind fun v421 => bm s418 (f_X8_turned s418.1 v420 v421) fun v422 s423 => (if nrm v417 = nrm v422 then (f_L_law_L18 b dT n s423 x0 x1 (x3 + 6) k) else (some (0, s423)))) else (if nrm (anI v2 63) = 37 then ((aI (insT b s0.1 s0.2) 151 x0 (x3 + 1)).bind fun v426 => (aI (insT b s0.1 s0.2) 151 x0 (x3 + 2)).bind fun v427 => (aI (insT b s0.1 s0.2) 151 x0 (x3 + 3)).bind fun v428 => (rcv (insT b s0.1 s0.2) 0 x1).bind fun b431 => bl dT b s0.1 (f_X0_odds (insT b s0.1 s0.2) b431 v426 v427 v428) fun v429 s430 => (aI (insT b s430.1 s430.2) 151 x0 (x3 + 1)).bind fun v432 => (aI (insT b s430.1 s430.2) 151 x0 (x3 + 2)).bind fun v433 => (aI (insT b s430.1 s430.2) 151 x0 (x3 + 3)).bind fun v434 => bm s430 (f_X8_odds s430.1 v432 v433 v434) fun v435 s436 => (if nrm v429 = nrm v435 then (f_L_law_L18 b dT n s436 x0 x1 (x3 + 6) k) else (some (0, s436)))) else (if nrm (anI v2 63) = 38 then ((aI (insT b s0.1 s0.2) 151 x0 (x3 + 1)).bind fun v439 => (aI (insT b s0.1 s0.2) 151 x0 (x3 + 2)).bind fun v440 => (aI (insT b s0.1 s0.2) 151 x0 (x3 + 3)).bind fun v441 => (aI (insT b s0.1 s0.2) 151 x0 (x3 + 4)).bind fun v442 => jn (fun (s443 : LSt) (x0 : Option Nat) (x1 : Option Nat) (x3 : Int) (y0 : Option Nat) (y1 : Int) (y2 : Int) (y3 : Int) (y4 : Int) => (rcv (insT b s443.1 s443.2) 0 y0).bind fun b446 => bl dT b s443.1 (f_X0_tell (insT b s443.1 s443.2) b446 y1 y2 y3 y4) fun v444 s445 => (aI (insT b s445.1 s445.2) 151 x0 (x3 + 1)).bind fun v447 => (aI (insT b s445.1 s445.2) 151 x0 (x3 + 2)).bind fun v448 => (aI (insT b s445.1 s445.2) 151 x0 (x3 + 3)).bind fun v449 => (aI (insT b s445.1 s445.2) 151 x0 (x3 + 4)).bind fun v450 => jn (fun (s451 : LSt) (x0 : Option Nat) (x1 : Option Nat) (x3 : Int) (y0 : Int) (y2 : Int) (y3 : Int) (y4 : Int) (y5 : Int) => bm s451 (f_X8_tell s451.1 y2 y3 y4 y5) fun v452 s453 => (if nrm y0 = nrm v452 then (f_L_law_L18 b dT n s453 x0 x1 (x3 + 6) k) else (some (0, s453)))) fun j1617 => (if nrm v450 = 0 then (j1617 s445 x0 x1 x3 v444 v447 v448 v449 0) else (j1617 s445 x0 x1 x3 v444 v447 v448 v449 1))) fun j1585 => (if nrm v442 = 0 then (j1585 s0 x0 x1 x3 x1 v439 v440 v441 0) else (j1585 s0 x0 x1 x3 x1 v439 v440 v441 1))) else (if nrm (anI v2 63) = 39 then ((rcv (insT b s0.1 s0.2) 0 x1).bind fun b460 => bl dT b s0.1 (f_X0_forget (insT b s0.1 s0.2) b460) fun v458 s459 => bm s459 (f_X8_forget s459.1) fun v461 s462 => (if nrm v458 = nrm v461 then (f_L_law_L18 b dT n s462 x0 x1 (x3 + 6) k) else (some (0, s462)))) else (if nrm (anI v2 63) = 40 then ((aI (insT b s0.1 s0.2) 151 x0 (x3 + 1)).bind fun v465 => (aI (insT b s0.1 s0.2) 151 x0 (x3 + 2)).bind fun v466 => (aI (insT b s0.1 s0.2) 151 x0 (x3 + 3)).bind fun v467 => (rcv (insT b s0.1 s0.2) 0 x1).bind fun b470 => bl dT b s0.1 (f_X0_began (insT b s0.1 s0.2) b470 v465 v466 v467) fun v468 s469 => (aI (insT b s469.1 s469.2) 151 x0 (x3 + 1)).bind fun v471 => (aI (insT b s469.1 s469.2) 151 x0 (x3 + 2)).bind fun v472 => (aI (insT b s469.1 s469.2) 151 x0 (x3 + 3)).bind fun v473 => bm s469 (f_X8_began s469.1 v471 v472 v473) fun v474 s475 => (if nrm v468 = nrm v474 then (f_L_law_L18 b dT n s475 x0 x1 (x3 + 6) k) else (some (0, s475)))) else (if nrm (anI v2 63) = 41 then ((aI (insT b s0.1 s0.2) 151 x0 (x3 + 1)).bind fun v478 => (rcv (insT b s0.1 s0.2) 0 x1).bind fun b481 => bl dT b s0.1 (f_X0_hold (insT b s0.1 s0.2) b481 v478) fun v479 s480 => (aI (insT b s480.1 s480.2) 151 x0 (x3 + 1)).bind fun v482 => bm s480 (f_X8_hold s480.1 v482) fun v483 s484 => (if nrm v479 = nrm v483 then (f_L_law_L18 b dT n s484 x0 x1 (x3 + 6) k) else (some (0, s484)))) else (if nrm (anI v2 63) = 42 then ((aI (insT b s0.1 s0.2) 151 x0 (x3 + 1)).bind fun v487 => (rcv (insT b s0.1 s0.2) 0 x1).bind fun b490 => bl dT b s0.1 (f_X0_restore (insT b s0.1 s0.2) b490 v487) fun v488 s489 => (aI (insT b s489.1 s489.2) 151 x0 (x3 + 1)).bind fun v491 => bm s489 (f_X8_restore s489.1 v491) fun v492 s493 => (if nrm v488 = nrm v492 then (f_L_law_L18 b dT n s493 x0 x1 (x3 + 6) k) else (some (0, s493)))) else (if nrm (anI v2 63) = 43 then ((aI (insT b s0.1 s0.2) 151 x0 (x3 + 1)).bind fun v496 => (rcv (insT b s0.1 s0.2) 0 x1).bind fun b499 => bl dT b s0.1 (f_X0_count (insT b s0.1 s0.2) b499 v496) fun v497 s498 => (aI (insT b s498.1 s498.2) 151 x0 (x3 + 1)).bind fun v500 => bm s498 (f_X8_count s498.1 v500) fun v501 s502 => (if nrm v497 = nrm v501 then (f_L_law_L18 b dT n s502 x0 x1 (x3 + 6) k) else (some (0, s502)))) else (f_L_law_L18 b dT n s0 x0 x1 (x3 + 6) k)))))))))))))))))))))))))))))))))))))))))))))))
theorem w_L_law_L18 {b : Nat} {σ0 : Hp} {w : Int × LSt} {dT : TW → Nat → Hp → Bool} (hd : okT dT) : ∀ (n : Nat) (s0 : LSt) (x0 : Option Nat) (x1 : Option Nat) (x3 : Int) (k : (LSt → Option (Int × LSt))), f_L_law_L18 b dT n s0 x0 x1 x3 k = some w → (∀ (s1 : LSt), k s1 = some w → AW m_L_law σ0 (lI b w) 1756 [none, none, none, none] [] (insT b s1.1 s1.2)) → AW m_L_law σ0 (lI b w) 18 [some (rV x0), some (rV x1), some (rV (some b)), some (iV x3)] [] (insT b s0.1 s0.2) := by
  intro n
  induction n with
  | zero =>
    intro s0 x0 x1 x3 k h hk
    rw [f_L_law_L18] at h
    cases h
  | succ n ih =>
    intro s0 x0 x1 x3 k h hk
    rw [f_L_law_L18] at h
    refine AW.iload_n dL_law_18 rfl ?_
    refine AW.aload_n dL_law_19 rfl ?_
    refine AW.alen (t := 151) dL_law_20 (Nat.le_of_ble_eq_true rfl) h (fun v1 h => ?_)
    refine AW.bipush dL_law_21 (by decide) ?_
    refine AW.isub dL_law_23 ?_
    refine AW.icmp_gt 1756 dL_law_24 (by decide) h (fun c549 h => ?_) (fun c549 h => ?_)
    · exact AW.fewer (L' := [none, none, none, none]) (trivial) (hk _ h)
    · refine AW.aload_n dL_law_27 rfl ?_
      refine AW.iload_n dL_law_28 rfl ?_
      refine AW.iald (t := 151) dL_law_29 (Nat.le_of_ble_eq_true rfl) rfl h (fun v2 h => ?_)
      refine AW.bipush dL_law_30 (by decide) ?_
      refine AW.iand dL_law_32 ?_
      rcases ite_or h with ⟨c548, h⟩ | ⟨c548, h⟩
      · refine AW.tIn 0 224 dL_law_33 (by omega) (by decide) rfl (by decide) ?_
        refine AW.aload_n dL_law_224 rfl ?_
        refine AW.aload_n dL_law_225 rfl ?_
        refine AW.iload_n dL_law_226 rfl ?_
        refine AW.iconst dL_law_227 ?_
        refine AW.iadd dL_law_228 ?_
        refine AW.iald (t := 151) dL_law_229 (Nat.le_of_ble_eq_true rfl) rfl h (fun v3 h => ?_)
        refine AW.aload_n dL_law_230 rfl ?_
        refine AW.iload_n dL_law_231 rfl ?_
        refine AW.iconst dL_law_232 ?_
        refine AW.iadd dL_law_233 ?_
        refine AW.iald (t := 151) dL_law_234 (Nat.le_of_ble_eq_true rfl) rfl h (fun v4 h => ?_)
        refine AW.aload_n dL_law_235 rfl ?_
        refine AW.iload_n dL_law_236 rfl ?_
        refine AW.iconst dL_law_237 ?_
        refine AW.iadd dL_law_238 ?_
        refine AW.iald (t := 151) dL_law_239 (Nat.le_of_ble_eq_true rfl) rfl h (fun v5 h => ?_)
        refine AW.aload_n dL_law_240 rfl ?_
        refine AW.iload_n dL_law_241 rfl ?_
        refine AW.iconst dL_law_242 ?_
        refine AW.iadd dL_law_243 ?_
        refine AW.iald (t := 151) dL_law_244 (Nat.le_of_ble_eq_true rfl) rfl h (fun v6 h => ?_)
        refine AW.aload_n dL_law_245 rfl ?_
        refine AW.iload_n dL_law_246 rfl ?_
        refine AW.iconst dL_law_247 ?_
        refine AW.iadd dL_law_248 ?_
        refine AW.iald (t := 151) dL_law_249 (Nat.le_of_ble_eq_true rfl) rfl h (fun v7 h => ?_)
        refine AW.lVI (M' := m_X0_feed) (t := 0) hd [iV v3, iV v4, iV v5, iV v6, iV v7] [] dL_law_250 q616 q617 q618 q121 q619 ck0 rfl n_X0_feed rfl rfl rfl (fun _ _ _ e => c_X0_feed e) h (fun v8 s9 h => ?_)
        refine AW.aload_n dL_law_253 rfl ?_
        refine AW.aload_n dL_law_254 rfl ?_
        refine AW.iload_n dL_law_255 rfl ?_
        refine AW.iconst dL_law_256 ?_
        refine AW.iadd dL_law_257 ?_
        refine AW.iald (t := 151) dL_law_258 (Nat.le_of_ble_eq_true rfl) rfl h (fun v11 h => ?_)
        refine AW.aload_n dL_law_259 rfl ?_
        refine AW.iload_n dL_law_260 rfl ?_
        refine AW.iconst dL_law_261 ?_
        refine AW.iadd dL_law_262 ?_
        refine AW.iald (t := 151) dL_law_263 (Nat.le_of_ble_eq_true rfl) rfl h (fun v12 h => ?_)
        refine AW.aload_n dL_law_264 rfl ?_
        refine AW.iload_n dL_law_265 rfl ?_
        refine AW.iconst dL_law_266 ?_
        refine AW.iadd dL_law_267 ?_
        refine AW.iald (t := 151) dL_law_268 (Nat.le_of_ble_eq_true rfl) rfl h (fun v13 h => ?_)
        refine AW.aload_n dL_law_269 rfl ?_
        refine AW.iload_n dL_law_270 rfl ?_
        refine AW.iconst dL_law_271 ?_
        refine AW.iadd dL_law_272 ?_
        refine AW.iald (t := 151) dL_law_273 (Nat.le_of_ble_eq_true rfl) rfl h (fun v14 h => ?_)
        refine AW.aload_n dL_law_274 rfl ?_
        refine AW.iload_n dL_law_275 rfl ?_
        refine AW.iconst dL_law_276 ?_
        refine AW.iadd dL_law_277 ?_
        refine AW.iald (t := 151) dL_law_278 (Nat.le_of_ble_eq_true rfl) rfl h (fun v15 h => ?_)
        refine AW.mVI (M' := m_X8_feed) [iV v11, iV v12, iV v13, iV v14, iV v15] [iV v8] dL_law_279 q1767 q1768 q1769 q139 q1770 rfl n_X8_feed rfl rfl rfl (fun _ _ e => c_X8_feed e) h (fun v16 s17 h => ?_)
        refine AW.icmp_eq 1750 dL_law_282 (by decide) h (fun c19 h => ?_) (fun c19 h => ?_)
        · refine AW.iinc (L' := [some (rV x0), some (rV x1), some (rV (some b)), some (iV (x3 + 6))]) dL_law_1750 rfl (Nat.le_of_ble_eq_true rfl) rfl rfl ?_
          refine AW.goto (tgt := 18) dL_law_1753 (by decide) ?_
          exact ih _ _ _ _ _ h hk
        · refine AW.iconst dL_law_285 ?_
          cases h
          exact AW.zret (z := 0) dL_law_286 rfl zz0
      · rcases ite_or h with ⟨c547, h⟩ | ⟨c547, h⟩
        · refine AW.tIn 1 287 dL_law_33 (by omega) (by decide) rfl (by decide) ?_
          refine AW.aload_n dL_law_287 rfl ?_
          refine AW.aload_n dL_law_288 rfl ?_
          refine AW.iload_n dL_law_289 rfl ?_
          refine AW.iconst dL_law_290 ?_
          refine AW.iadd dL_law_291 ?_
          refine AW.iald (t := 151) dL_law_292 (Nat.le_of_ble_eq_true rfl) rfl h (fun v20 h => ?_)
          refine AW.lVI (M' := m_X0_back) (t := 0) hd [iV v20] [] dL_law_293 q624 q625 q626 q121 q627 ck0 rfl n_X0_back rfl rfl rfl (fun _ _ _ e => c_X0_back e) h (fun v21 s22 h => ?_)
          refine AW.aload_n dL_law_296 rfl ?_
          refine AW.aload_n dL_law_297 rfl ?_
          refine AW.iload_n dL_law_298 rfl ?_
          refine AW.iconst dL_law_299 ?_
          refine AW.iadd dL_law_300 ?_
          refine AW.iald (t := 151) dL_law_301 (Nat.le_of_ble_eq_true rfl) rfl h (fun v24 h => ?_)
          refine AW.mVI (M' := m_X8_back) [iV v24] [iV v21] dL_law_302 q1775 q1776 q1777 q139 q1778 rfl n_X8_back rfl rfl rfl (fun _ _ e => c_X8_back e) h (fun v25 s26 h => ?_)
          refine AW.icmp_eq 1750 dL_law_305 (by decide) h (fun c28 h => ?_) (fun c28 h => ?_)
          · refine AW.iinc (L' := [some (rV x0), some (rV x1), some (rV (some b)), some (iV (x3 + 6))]) dL_law_1750 rfl (Nat.le_of_ble_eq_true rfl) rfl rfl ?_
            refine AW.goto (tgt := 18) dL_law_1753 (by decide) ?_
            exact ih _ _ _ _ _ h hk
          · refine AW.iconst dL_law_308 ?_
            cases h
            exact AW.zret (z := 0) dL_law_309 rfl zz0
        · rcases ite_or h with ⟨c546, h⟩ | ⟨c546, h⟩
          · refine AW.tIn 2 310 dL_law_33 (by omega) (by decide) rfl (by decide) ?_
            refine AW.aload_n dL_law_310 rfl ?_
            refine AW.lHI (M' := m_X0_read) (t := 0) hd [] [] dL_law_311 q628 q629 q630 q121 q631 ck0 rfl n_X0_read rfl rfl rfl (fun _ _ _ e => c_X0_read e) h (fun v29 s30 h => ?_)
            refine AW.aload_n dL_law_314 rfl ?_
            refine AW.mVI (M' := m_X8_read) [] [iV v29] dL_law_315 q1779 q1780 q1781 q139 q1782 rfl n_X8_read rfl rfl rfl (fun _ _ e => c_X8_read e) h (fun v32 s33 h => ?_)
            refine AW.icmp_eq 1750 dL_law_318 (by decide) h (fun c35 h => ?_) (fun c35 h => ?_)
            · refine AW.iinc (L' := [some (rV x0), some (rV x1), some (rV (some b)), some (iV (x3 + 6))]) dL_law_1750 rfl (Nat.le_of_ble_eq_true rfl) rfl rfl ?_
              refine AW.goto (tgt := 18) dL_law_1753 (by decide) ?_
              exact ih _ _ _ _ _ h hk
            · refine AW.iconst dL_law_321 ?_
              cases h
              exact AW.zret (z := 0) dL_law_322 rfl zz0
          · rcases ite_or h with ⟨c545, h⟩ | ⟨c545, h⟩
            · refine AW.tIn 3 323 dL_law_33 (by omega) (by decide) rfl (by decide) ?_
              refine AW.aload_n dL_law_323 rfl ?_
              refine AW.lVI (M' := m_X0_place) (t := 0) hd [] [] dL_law_324 q1163 q1164 q1165 q121 q1166 ck0 rfl n_X0_place rfl rfl rfl (fun _ _ _ e => c_X0_place e) h (fun v36 s37 h => ?_)
              refine AW.aload_n dL_law_327 rfl ?_
              refine AW.mVI (M' := m_X8_place) [] [iV v36] dL_law_328 q1885 q1886 q1887 q139 q1888 rfl n_X8_place rfl rfl rfl (fun _ _ e => c_X8_place e) h (fun v39 s40 h => ?_)
              refine AW.icmp_eq 1750 dL_law_331 (by decide) h (fun c42 h => ?_) (fun c42 h => ?_)
              · refine AW.iinc (L' := [some (rV x0), some (rV x1), some (rV (some b)), some (iV (x3 + 6))]) dL_law_1750 rfl (Nat.le_of_ble_eq_true rfl) rfl rfl ?_
                refine AW.goto (tgt := 18) dL_law_1753 (by decide) ?_
                exact ih _ _ _ _ _ h hk
              · refine AW.iconst dL_law_334 ?_
                cases h
                exact AW.zret (z := 0) dL_law_335 rfl zz0
            · rcases ite_or h with ⟨c544, h⟩ | ⟨c544, h⟩
              · refine AW.tIn 4 336 dL_law_33 (by omega) (by decide) rfl (by decide) ?_
                refine AW.aload_n dL_law_336 rfl ?_
                refine AW.aload_n dL_law_337 rfl ?_
                refine AW.iload_n dL_law_338 rfl ?_
                refine AW.iconst dL_law_339 ?_
                refine AW.iadd dL_law_340 ?_
                refine AW.iald (t := 151) dL_law_341 (Nat.le_of_ble_eq_true rfl) rfl h (fun v43 h => ?_)
                refine AW.aload_n dL_law_342 rfl ?_
                refine AW.iload_n dL_law_343 rfl ?_
                refine AW.iconst dL_law_344 ?_
                refine AW.iadd dL_law_345 ?_
                refine AW.iald (t := 151) dL_law_346 (Nat.le_of_ble_eq_true rfl) rfl h (fun v44 h => ?_)
                refine AW.aload_n dL_law_347 rfl ?_
                refine AW.iload_n dL_law_348 rfl ?_
                refine AW.iconst dL_law_349 ?_
                refine AW.iadd dL_law_350 ?_
                refine AW.iald (t := 151) dL_law_351 (Nat.le_of_ble_eq_true rfl) rfl h (fun v45 h => ?_)
                refine AW.lVI (M' := m_X0_man) (t := 0) hd [iV v43, iV v44, iV v45] [] dL_law_352 q1167 q1168 q1169 q121 q1170 ck0 rfl n_X0_man rfl rfl rfl (fun _ _ _ e => c_X0_man e) h (fun v46 s47 h => ?_)
                refine AW.aload_n dL_law_355 rfl ?_
                refine AW.aload_n dL_law_356 rfl ?_
                refine AW.iload_n dL_law_357 rfl ?_
                refine AW.iconst dL_law_358 ?_
                refine AW.iadd dL_law_359 ?_
                refine AW.iald (t := 151) dL_law_360 (Nat.le_of_ble_eq_true rfl) rfl h (fun v49 h => ?_)
                refine AW.aload_n dL_law_361 rfl ?_
                refine AW.iload_n dL_law_362 rfl ?_
                refine AW.iconst dL_law_363 ?_
                refine AW.iadd dL_law_364 ?_
                refine AW.iald (t := 151) dL_law_365 (Nat.le_of_ble_eq_true rfl) rfl h (fun v50 h => ?_)
                refine AW.aload_n dL_law_366 rfl ?_
                refine AW.iload_n dL_law_367 rfl ?_
                refine AW.iconst dL_law_368 ?_
                refine AW.iadd dL_law_369 ?_
                refine AW.iald (t := 151) dL_law_370 (Nat.le_of_ble_eq_true rfl) rfl h (fun v51 h => ?_)
                refine AW.mVI (M' := m_X8_man) [iV v49, iV v50, iV v51] [iV v46] dL_law_371 q1889 q1890 q1891 q139 q1892 rfl n_X8_man rfl rfl rfl (fun _ _ e => c_X8_man e) h (fun v52 s53 h => ?_)
                refine AW.icmp_eq 1750 dL_law_374 (by decide) h (fun c55 h => ?_) (fun c55 h => ?_)
                · refine AW.iinc (L' := [some (rV x0), some (rV x1), some (rV (some b)), some (iV (x3 + 6))]) dL_law_1750 rfl (Nat.le_of_ble_eq_true rfl) rfl rfl ?_
                  refine AW.goto (tgt := 18) dL_law_1753 (by decide) ?_
                  exact ih _ _ _ _ _ h hk
                · refine AW.iconst dL_law_377 ?_
                  cases h
                  exact AW.zret (z := 0) dL_law_378 rfl zz0
              · rcases ite_or h with ⟨c543, h⟩ | ⟨c543, h⟩
                · refine AW.tIn 5 379 dL_law_33 (by omega) (by decide) rfl (by decide) ?_
                  refine AW.aload_n dL_law_379 rfl ?_
                  refine AW.aload_n dL_law_380 rfl ?_
                  refine AW.iload_n dL_law_381 rfl ?_
                  refine AW.iconst dL_law_382 ?_
                  refine AW.iadd dL_law_383 ?_
                  refine AW.iald (t := 151) dL_law_384 (Nat.le_of_ble_eq_true rfl) rfl h (fun v56 h => ?_)
                  refine AW.aload_n dL_law_385 rfl ?_
                  refine AW.iload_n dL_law_386 rfl ?_
                  refine AW.iconst dL_law_387 ?_
                  refine AW.iadd dL_law_388 ?_
                  refine AW.iald (t := 151) dL_law_389 (Nat.le_of_ble_eq_true rfl) rfl h (fun v57 h => ?_)
                  refine AW.aload_n dL_law_390 rfl ?_
                  refine AW.iload_n dL_law_391 rfl ?_
                  refine AW.iconst dL_law_392 ?_
                  refine AW.iadd dL_law_393 ?_
                  refine AW.iald (t := 151) dL_law_394 (Nat.le_of_ble_eq_true rfl) rfl h (fun v58 h => ?_)
                  refine AW.lVI (M' := m_X0_mirror) (t := 0) hd [iV v56, iV v57, iV v58] [] dL_law_395 q1187 q1188 q1189 q121 q1190 ck0 rfl n_X0_mirror rfl rfl rfl (fun _ _ _ e => c_X0_mirror e) h (fun v59 s60 h => ?_)
                  refine AW.aload_n dL_law_398 rfl ?_
                  refine AW.aload_n dL_law_399 rfl ?_
                  refine AW.iload_n dL_law_400 rfl ?_
                  refine AW.iconst dL_law_401 ?_
                  refine AW.iadd dL_law_402 ?_
                  refine AW.iald (t := 151) dL_law_403 (Nat.le_of_ble_eq_true rfl) rfl h (fun v62 h => ?_)
                  refine AW.aload_n dL_law_404 rfl ?_
                  refine AW.iload_n dL_law_405 rfl ?_
                  refine AW.iconst dL_law_406 ?_
                  refine AW.iadd dL_law_407 ?_
                  refine AW.iald (t := 151) dL_law_408 (Nat.le_of_ble_eq_true rfl) rfl h (fun v63 h => ?_)
                  refine AW.aload_n dL_law_409 rfl ?_
                  refine AW.iload_n dL_law_410 rfl ?_
                  refine AW.iconst dL_law_411 ?_
                  refine AW.iadd dL_law_412 ?_
                  refine AW.iald (t := 151) dL_law_413 (Nat.le_of_ble_eq_true rfl) rfl h (fun v64 h => ?_)
                  refine AW.mVI (M' := m_X8_mirror) [iV v62, iV v63, iV v64] [iV v59] dL_law_414 q1904 q1905 q1906 q139 q1907 rfl n_X8_mirror rfl rfl rfl (fun _ _ e => c_X8_mirror e) h (fun v65 s66 h => ?_)
                  refine AW.icmp_eq 1750 dL_law_417 (by decide) h (fun c68 h => ?_) (fun c68 h => ?_)
                  · refine AW.iinc (L' := [some (rV x0), some (rV x1), some (rV (some b)), some (iV (x3 + 6))]) dL_law_1750 rfl (Nat.le_of_ble_eq_true rfl) rfl rfl ?_
                    refine AW.goto (tgt := 18) dL_law_1753 (by decide) ?_
                    exact ih _ _ _ _ _ h hk
                  · refine AW.iconst dL_law_420 ?_
                    cases h
                    exact AW.zret (z := 0) dL_law_421 rfl zz0
                · rcases ite_or h with ⟨c542, h⟩ | ⟨c542, h⟩
                  · refine AW.tIn 6 422 dL_law_33 (by omega) (by decide) rfl (by decide) ?_
                    refine AW.aload_n dL_law_422 rfl ?_
                    refine AW.aload_n dL_law_423 rfl ?_
                    refine AW.iload_n dL_law_424 rfl ?_
                    refine AW.iconst dL_law_425 ?_
                    refine AW.iadd dL_law_426 ?_
                    refine AW.iald (t := 151) dL_law_427 (Nat.le_of_ble_eq_true rfl) rfl h (fun v69 h => ?_)
                    refine AW.lVI (M' := m_X0_minutes) (t := 0) hd [iV v69] [] dL_law_428 q1213 q1214 q1215 q121 q1216 ck0 rfl n_X0_minutes rfl rfl rfl (fun _ _ _ e => c_X0_minutes e) h (fun v70 s71 h => ?_)
                    refine AW.aload_n dL_law_431 rfl ?_
                    refine AW.aload_n dL_law_432 rfl ?_
                    refine AW.iload_n dL_law_433 rfl ?_
                    refine AW.iconst dL_law_434 ?_
                    refine AW.iadd dL_law_435 ?_
                    refine AW.iald (t := 151) dL_law_436 (Nat.le_of_ble_eq_true rfl) rfl h (fun v73 h => ?_)
                    refine AW.mVI (M' := m_X8_minutes) [iV v73] [iV v70] dL_law_437 q1932 q1933 q1934 q139 q1935 rfl n_X8_minutes rfl rfl rfl (fun _ _ e => c_X8_minutes e) h (fun v74 s75 h => ?_)
                    refine AW.icmp_eq 1750 dL_law_440 (by decide) h (fun c77 h => ?_) (fun c77 h => ?_)
                    · refine AW.iinc (L' := [some (rV x0), some (rV x1), some (rV (some b)), some (iV (x3 + 6))]) dL_law_1750 rfl (Nat.le_of_ble_eq_true rfl) rfl rfl ?_
                      refine AW.goto (tgt := 18) dL_law_1753 (by decide) ?_
                      exact ih _ _ _ _ _ h hk
                    · refine AW.iconst dL_law_443 ?_
                      cases h
                      exact AW.zret (z := 0) dL_law_444 rfl zz0
                  · rcases ite_or h with ⟨c541, h⟩ | ⟨c541, h⟩
                    · refine AW.tIn 7 445 dL_law_33 (by omega) (by decide) rfl (by decide) ?_
                      refine AW.aload_n dL_law_445 rfl ?_
                      refine AW.aload_n dL_law_446 rfl ?_
                      refine AW.iload_n dL_law_447 rfl ?_
                      refine AW.iconst dL_law_448 ?_
                      refine AW.iadd dL_law_449 ?_
                      refine AW.iald (t := 151) dL_law_450 (Nat.le_of_ble_eq_true rfl) rfl h (fun v78 h => ?_)
                      refine AW.aload_n dL_law_451 rfl ?_
                      refine AW.iload_n dL_law_452 rfl ?_
                      refine AW.iconst dL_law_453 ?_
                      refine AW.iadd dL_law_454 ?_
                      refine AW.iald (t := 151) dL_law_455 (Nat.le_of_ble_eq_true rfl) rfl h (fun v79 h => ?_)
                      refine AW.lVI (M' := m_X0_go) (t := 0) hd [iV v78, iV v79] [] dL_law_456 q1250 q1251 q1252 q121 q1253 ck0 rfl n_X0_go rfl rfl rfl (fun _ _ _ e => c_X0_go e) h (fun v80 s81 h => ?_)
                      refine AW.aload_n dL_law_459 rfl ?_
                      refine AW.aload_n dL_law_460 rfl ?_
                      refine AW.iload_n dL_law_461 rfl ?_
                      refine AW.iconst dL_law_462 ?_
                      refine AW.iadd dL_law_463 ?_
                      refine AW.iald (t := 151) dL_law_464 (Nat.le_of_ble_eq_true rfl) rfl h (fun v83 h => ?_)
                      refine AW.aload_n dL_law_465 rfl ?_
                      refine AW.iload_n dL_law_466 rfl ?_
                      refine AW.iconst dL_law_467 ?_
                      refine AW.iadd dL_law_468 ?_
                      refine AW.iald (t := 151) dL_law_469 (Nat.le_of_ble_eq_true rfl) rfl h (fun v84 h => ?_)
                      refine AW.mVI (M' := m_X8_go) [iV v83, iV v84] [iV v80] dL_law_470 q1968 q1969 q1970 q139 q1971 rfl n_X8_go rfl rfl rfl (fun _ _ e => c_X8_go e) h (fun v85 s86 h => ?_)
                      refine AW.icmp_eq 1750 dL_law_473 (by decide) h (fun c88 h => ?_) (fun c88 h => ?_)
                      · refine AW.iinc (L' := [some (rV x0), some (rV x1), some (rV (some b)), some (iV (x3 + 6))]) dL_law_1750 rfl (Nat.le_of_ble_eq_true rfl) rfl rfl ?_
                        refine AW.goto (tgt := 18) dL_law_1753 (by decide) ?_
                        exact ih _ _ _ _ _ h hk
                      · refine AW.iconst dL_law_476 ?_
                        cases h
                        exact AW.zret (z := 0) dL_law_477 rfl zz0
                    · rcases ite_or h with ⟨c540, h⟩ | ⟨c540, h⟩
                      · refine AW.tIn 8 478 dL_law_33 (by omega) (by decide) rfl (by decide) ?_
                        refine AW.aload_n dL_law_478 rfl ?_
                        refine AW.aload_n dL_law_479 rfl ?_
                        refine AW.iload_n dL_law_480 rfl ?_
                        refine AW.iconst dL_law_481 ?_
                        refine AW.iadd dL_law_482 ?_
                        refine AW.iald (t := 151) dL_law_483 (Nat.le_of_ble_eq_true rfl) rfl h (fun v89 h => ?_)
                        refine AW.aload_n dL_law_484 rfl ?_
                        refine AW.iload_n dL_law_485 rfl ?_
                        refine AW.iconst dL_law_486 ?_
                        refine AW.iadd dL_law_487 ?_
                        refine AW.iald (t := 151) dL_law_488 (Nat.le_of_ble_eq_true rfl) rfl h (fun v90 h => ?_)
                        refine AW.lVI (M' := m_X0_raise) (t := 0) hd [iV v89, iV v90] [] dL_law_489 q1257 q1258 q1259 q121 q1260 ck0 rfl n_X0_raise rfl rfl rfl (fun _ _ _ e => c_X0_raise e) h (fun v91 s92 h => ?_)
                        refine AW.aload_n dL_law_492 rfl ?_
                        refine AW.aload_n dL_law_493 rfl ?_
                        refine AW.iload_n dL_law_494 rfl ?_
                        refine AW.iconst dL_law_495 ?_
                        refine AW.iadd dL_law_496 ?_
                        refine AW.iald (t := 151) dL_law_497 (Nat.le_of_ble_eq_true rfl) rfl h (fun v94 h => ?_)
                        refine AW.aload_n dL_law_498 rfl ?_
                        refine AW.iload_n dL_law_499 rfl ?_
                        refine AW.iconst dL_law_500 ?_
                        refine AW.iadd dL_law_501 ?_
                        refine AW.iald (t := 151) dL_law_502 (Nat.le_of_ble_eq_true rfl) rfl h (fun v95 h => ?_)
                        refine AW.mVI (M' := m_X8_raise) [iV v94, iV v95] [iV v91] dL_law_503 q1980 q1981 q1982 q139 q1983 rfl n_X8_raise rfl rfl rfl (fun _ _ e => c_X8_raise e) h (fun v96 s97 h => ?_)
                        refine AW.icmp_eq 1750 dL_law_506 (by decide) h (fun c99 h => ?_) (fun c99 h => ?_)
                        · refine AW.iinc (L' := [some (rV x0), some (rV x1), some (rV (some b)), some (iV (x3 + 6))]) dL_law_1750 rfl (Nat.le_of_ble_eq_true rfl) rfl rfl ?_
                          refine AW.goto (tgt := 18) dL_law_1753 (by decide) ?_
                          exact ih _ _ _ _ _ h hk
                        · refine AW.iconst dL_law_509 ?_
                          cases h
                          exact AW.zret (z := 0) dL_law_510 rfl zz0
                      · rcases ite_or h with ⟨c539, h⟩ | ⟨c539, h⟩
                        · refine AW.tIn 9 511 dL_law_33 (by omega) (by decide) rfl (by decide) ?_
                          refine AW.aload_n dL_law_511 rfl ?_
                          refine AW.aload_n dL_law_512 rfl ?_
                          refine AW.iload_n dL_law_513 rfl ?_
                          refine AW.iconst dL_law_514 ?_
                          refine AW.iadd dL_law_515 ?_
                          refine AW.iald (t := 151) dL_law_516 (Nat.le_of_ble_eq_true rfl) rfl h (fun v100 h => ?_)
                          refine AW.aload_n dL_law_517 rfl ?_
                          refine AW.iload_n dL_law_518 rfl ?_
                          refine AW.iconst dL_law_519 ?_
                          refine AW.iadd dL_law_520 ?_
                          refine AW.iald (t := 151) dL_law_521 (Nat.le_of_ble_eq_true rfl) rfl h (fun v101 h => ?_)
                          refine AW.lVI (M' := m_X0_carry) (t := 0) hd [iV v100, iV v101] [] dL_law_522 q1261 q1262 q1263 q121 q1264 ck0 rfl n_X0_carry rfl rfl rfl (fun _ _ _ e => c_X0_carry e) h (fun v102 s103 h => ?_)
                          refine AW.aload_n dL_law_525 rfl ?_
                          refine AW.aload_n dL_law_526 rfl ?_
                          refine AW.iload_n dL_law_527 rfl ?_
                          refine AW.iconst dL_law_528 ?_
                          refine AW.iadd dL_law_529 ?_
                          refine AW.iald (t := 151) dL_law_530 (Nat.le_of_ble_eq_true rfl) rfl h (fun v105 h => ?_)
                          refine AW.aload_n dL_law_531 rfl ?_
                          refine AW.iload_n dL_law_532 rfl ?_
                          refine AW.iconst dL_law_533 ?_
                          refine AW.iadd dL_law_534 ?_
                          refine AW.iald (t := 151) dL_law_535 (Nat.le_of_ble_eq_true rfl) rfl h (fun v106 h => ?_)
                          refine AW.mVI (M' := m_X8_carry) [iV v105, iV v106] [iV v102] dL_law_536 q1984 q1985 q1986 q139 q1987 rfl n_X8_carry rfl rfl rfl (fun _ _ e => c_X8_carry e) h (fun v107 s108 h => ?_)
                          refine AW.icmp_eq 1750 dL_law_539 (by decide) h (fun c110 h => ?_) (fun c110 h => ?_)
                          · refine AW.iinc (L' := [some (rV x0), some (rV x1), some (rV (some b)), some (iV (x3 + 6))]) dL_law_1750 rfl (Nat.le_of_ble_eq_true rfl) rfl rfl ?_
                            refine AW.goto (tgt := 18) dL_law_1753 (by decide) ?_
                            exact ih _ _ _ _ _ h hk
                          · refine AW.iconst dL_law_542 ?_
                            cases h
                            exact AW.zret (z := 0) dL_law_543 rfl zz0
                        · rcases ite_or h with ⟨c538, h⟩ | ⟨c538, h⟩
                          · refine AW.tIn 10 544 dL_law_33 (by omega) (by decide) rfl (by decide) ?_
                            refine AW.aload_n dL_law_544 rfl ?_
                            refine AW.aload_n dL_law_545 rfl ?_
                            refine AW.iload_n dL_law_546 rfl ?_
                            refine AW.iconst dL_law_547 ?_
                            refine AW.iadd dL_law_548 ?_
                            refine AW.iald (t := 151) dL_law_549 (Nat.le_of_ble_eq_true rfl) rfl h (fun v111 h => ?_)
                            refine AW.aload_n dL_law_550 rfl ?_
                            refine AW.iload_n dL_law_551 rfl ?_
                            refine AW.iconst dL_law_552 ?_
                            refine AW.iadd dL_law_553 ?_
                            refine AW.iald (t := 151) dL_law_554 (Nat.le_of_ble_eq_true rfl) rfl h (fun v112 h => ?_)
                            refine jn_elim h (fun (j : (LSt → Option Nat → Option Nat → Int → Option Nat → Int → Int → Option (Int × LSt))) => ∀ (s113 : LSt) (x0 : Option Nat) (x1 : Option Nat) (x3 : Int) (y0 : Option Nat) (y1 : Int) (y2 : Int), j s113 x0 x1 x3 y0 y1 y2 = some w → AW m_L_law σ0 (lI b w) 563 [some (rV x0), some (rV x1), some (rV (some b)), some (iV x3)] [iV y2, iV y1, rV y0] (insT b s113.1 s113.2)) ?_ (fun j563 hj563 h => ?_)
                            · intro s113 x0 x1 x3 y0 y1 y2 h
                              refine AW.lVI (M' := m_X0_turn) (t := 0) hd [iV y1, iV y2] [] dL_law_563 q1273 q1274 q1275 q121 q1276 ck0 rfl n_X0_turn rfl rfl rfl (fun _ _ _ e => c_X0_turn e) h (fun v114 s115 h => ?_)
                              refine AW.aload_n dL_law_566 rfl ?_
                              refine AW.aload_n dL_law_567 rfl ?_
                              refine AW.iload_n dL_law_568 rfl ?_
                              refine AW.iconst dL_law_569 ?_
                              refine AW.iadd dL_law_570 ?_
                              refine AW.iald (t := 151) dL_law_571 (Nat.le_of_ble_eq_true rfl) rfl h (fun v117 h => ?_)
                              refine AW.aload_n dL_law_572 rfl ?_
                              refine AW.iload_n dL_law_573 rfl ?_
                              refine AW.iconst dL_law_574 ?_
                              refine AW.iadd dL_law_575 ?_
                              refine AW.iald (t := 151) dL_law_576 (Nat.le_of_ble_eq_true rfl) rfl h (fun v118 h => ?_)
                              refine jn_elim h (fun (j : (LSt → Option Nat → Option Nat → Int → Int → Int → Int → Option (Int × LSt))) => ∀ (s119 : LSt) (x0 : Option Nat) (x1 : Option Nat) (x3 : Int) (y0 : Int) (y2 : Int) (y3 : Int), j s119 x0 x1 x3 y0 y2 y3 = some w → AW m_L_law σ0 (lI b w) 585 [some (rV x0), some (rV x1), some (rV (some b)), some (iV x3)] [iV y3, iV y2, rV (some b), iV y0] (insT b s119.1 s119.2)) ?_ (fun j585 hj585 h => ?_)
                              · intro s119 x0 x1 x3 y0 y2 y3 h
                                refine AW.mVI (M' := m_X8_turn) [iV y2, iV y3] [iV y0] dL_law_585 q1992 q1993 q1994 q139 q1995 rfl n_X8_turn rfl rfl rfl (fun _ _ e => c_X8_turn e) h (fun v120 s121 h => ?_)
                                refine AW.icmp_eq 1750 dL_law_588 (by decide) h (fun c123 h => ?_) (fun c123 h => ?_)
                                · refine AW.iinc (L' := [some (rV x0), some (rV x1), some (rV (some b)), some (iV (x3 + 6))]) dL_law_1750 rfl (Nat.le_of_ble_eq_true rfl) rfl rfl ?_
                                  refine AW.goto (tgt := 18) dL_law_1753 (by decide) ?_
                                  exact ih _ _ _ _ _ h hk
                                · refine AW.iconst dL_law_591 ?_
                                  cases h
                                  exact AW.zret (z := 0) dL_law_592 rfl zz0
                              · refine AW.if_eq 584 dL_law_577 (by decide) h (fun c124 h => ?_) (fun c124 h => ?_)
                                · refine AW.iconst dL_law_584 ?_
                                  exact hj585 _ _ _ _ _ _ _ h
                                · refine AW.iconst dL_law_580 ?_
                                  refine AW.goto (tgt := 585) dL_law_581 (by decide) ?_
                                  exact hj585 _ _ _ _ _ _ _ h
                            · refine AW.if_eq 562 dL_law_555 (by decide) h (fun c125 h => ?_) (fun c125 h => ?_)
                              · refine AW.iconst dL_law_562 ?_
                                exact hj563 _ _ _ _ _ _ _ h
                              · refine AW.iconst dL_law_558 ?_
                                refine AW.goto (tgt := 563) dL_law_559 (by decide) ?_
                                exact hj563 _ _ _ _ _ _ _ h
                          · rcases ite_or h with ⟨c537, h⟩ | ⟨c537, h⟩
                            · refine AW.tIn 11 593 dL_law_33 (by omega) (by decide) rfl (by decide) ?_
                              refine AW.aload_n dL_law_593 rfl ?_
                              refine AW.aload_n dL_law_594 rfl ?_
                              refine AW.iload_n dL_law_595 rfl ?_
                              refine AW.iconst dL_law_596 ?_
                              refine AW.iadd dL_law_597 ?_
                              refine AW.iald (t := 151) dL_law_598 (Nat.le_of_ble_eq_true rfl) rfl h (fun v126 h => ?_)
                              refine AW.lVI (M' := m_X0_smash) (t := 0) hd [iV v126] [] dL_law_599 q1277 q1278 q1279 q121 q1280 ck0 rfl n_X0_smash rfl rfl rfl (fun _ _ _ e => c_X0_smash e) h (fun v127 s128 h => ?_)
                              refine AW.aload_n dL_law_602 rfl ?_
                              refine AW.aload_n dL_law_603 rfl ?_
                              refine AW.iload_n dL_law_604 rfl ?_
                              refine AW.iconst dL_law_605 ?_
                              refine AW.iadd dL_law_606 ?_
                              refine AW.iald (t := 151) dL_law_607 (Nat.le_of_ble_eq_true rfl) rfl h (fun v130 h => ?_)
                              refine AW.mVI (M' := m_X8_smash) [iV v130] [iV v127] dL_law_608 q1996 q1997 q1998 q139 q1999 rfl n_X8_smash rfl rfl rfl (fun _ _ e => c_X8_smash e) h (fun v131 s132 h => ?_)
                              refine AW.icmp_eq 1750 dL_law_611 (by decide) h (fun c134 h => ?_) (fun c134 h => ?_)
                              · refine AW.iinc (L' := [some (rV x0), some (rV x1), some (rV (some b)), some (iV (x3 + 6))]) dL_law_1750 rfl (Nat.le_of_ble_eq_true rfl) rfl rfl ?_
                                refine AW.goto (tgt := 18) dL_law_1753 (by decide) ?_
                                exact ih _ _ _ _ _ h hk
                              · refine AW.iconst dL_law_614 ?_
                                cases h
                                exact AW.zret (z := 0) dL_law_615 rfl zz0
                            · rcases ite_or h with ⟨c536, h⟩ | ⟨c536, h⟩
                              · refine AW.tIn 12 616 dL_law_33 (by omega) (by decide) rfl (by decide) ?_
                                refine AW.aload_n dL_law_616 rfl ?_
                                refine AW.lVI (M' := m_X0_undo) (t := 0) hd [] [] dL_law_617 q1282 q1283 q1284 q121 q1285 ck0 rfl n_X0_undo rfl rfl rfl (fun _ _ _ e => c_X0_undo e) h (fun v135 s136 h => ?_)
                                refine AW.aload_n dL_law_620 rfl ?_
                                refine AW.mVI (M' := m_X8_undo) [] [iV v135] dL_law_621 q2000 q2001 q2002 q139 q2003 rfl n_X8_undo rfl rfl rfl (fun _ _ e => c_X8_undo e) h (fun v138 s139 h => ?_)
                                refine AW.icmp_eq 1750 dL_law_624 (by decide) h (fun c141 h => ?_) (fun c141 h => ?_)
                                · refine AW.iinc (L' := [some (rV x0), some (rV x1), some (rV (some b)), some (iV (x3 + 6))]) dL_law_1750 rfl (Nat.le_of_ble_eq_true rfl) rfl rfl ?_
                                  refine AW.goto (tgt := 18) dL_law_1753 (by decide) ?_
                                  exact ih _ _ _ _ _ h hk
                                · refine AW.iconst dL_law_627 ?_
                                  cases h
                                  exact AW.zret (z := 0) dL_law_628 rfl zz0
                              · rcases ite_or h with ⟨c535, h⟩ | ⟨c535, h⟩
                                · refine AW.tIn 13 629 dL_law_33 (by omega) (by decide) rfl (by decide) ?_
                                  refine AW.aload_n dL_law_629 rfl ?_
                                  refine AW.aload_n dL_law_630 rfl ?_
                                  refine AW.iload_n dL_law_631 rfl ?_
                                  refine AW.iconst dL_law_632 ?_
                                  refine AW.iadd dL_law_633 ?_
                                  refine AW.iald (t := 151) dL_law_634 (Nat.le_of_ble_eq_true rfl) rfl h (fun v142 h => ?_)
                                  refine AW.aload_n dL_law_635 rfl ?_
                                  refine AW.iload_n dL_law_636 rfl ?_
                                  refine AW.iconst dL_law_637 ?_
                                  refine AW.iadd dL_law_638 ?_
                                  refine AW.iald (t := 151) dL_law_639 (Nat.le_of_ble_eq_true rfl) rfl h (fun v143 h => ?_)
                                  refine AW.aload_n dL_law_640 rfl ?_
                                  refine AW.iload_n dL_law_641 rfl ?_
                                  refine AW.iconst dL_law_642 ?_
                                  refine AW.iadd dL_law_643 ?_
                                  refine AW.iald (t := 151) dL_law_644 (Nat.le_of_ble_eq_true rfl) rfl h (fun v144 h => ?_)
                                  refine AW.aload_n dL_law_645 rfl ?_
                                  refine AW.iload_n dL_law_646 rfl ?_
                                  refine AW.iconst dL_law_647 ?_
                                  refine AW.iadd dL_law_648 ?_
                                  refine AW.iald (t := 151) dL_law_649 (Nat.le_of_ble_eq_true rfl) rfl h (fun v145 h => ?_)
                                  refine AW.lVI (M' := m_X0_look) (t := 0) hd [iV v142, iV v143, iV v144, iV v145] [] dL_law_650 q1286 q1287 q1288 q121 q1289 ck0 rfl n_X0_look rfl rfl rfl (fun _ _ _ e => c_X0_look e) h (fun v146 s147 h => ?_)
                                  refine AW.aload_n dL_law_653 rfl ?_
                                  refine AW.aload_n dL_law_654 rfl ?_
                                  refine AW.iload_n dL_law_655 rfl ?_
                                  refine AW.iconst dL_law_656 ?_
                                  refine AW.iadd dL_law_657 ?_
                                  refine AW.iald (t := 151) dL_law_658 (Nat.le_of_ble_eq_true rfl) rfl h (fun v149 h => ?_)
                                  refine AW.aload_n dL_law_659 rfl ?_
                                  refine AW.iload_n dL_law_660 rfl ?_
                                  refine AW.iconst dL_law_661 ?_
                                  refine AW.iadd dL_law_662 ?_
                                  refine AW.iald (t := 151) dL_law_663 (Nat.le_of_ble_eq_true rfl) rfl h (fun v150 h => ?_)
                                  refine AW.aload_n dL_law_664 rfl ?_
                                  refine AW.iload_n dL_law_665 rfl ?_
                                  refine AW.iconst dL_law_666 ?_
                                  refine AW.iadd dL_law_667 ?_
                                  refine AW.iald (t := 151) dL_law_668 (Nat.le_of_ble_eq_true rfl) rfl h (fun v151 h => ?_)
                                  refine AW.aload_n dL_law_669 rfl ?_
                                  refine AW.iload_n dL_law_670 rfl ?_
                                  refine AW.iconst dL_law_671 ?_
                                  refine AW.iadd dL_law_672 ?_
                                  refine AW.iald (t := 151) dL_law_673 (Nat.le_of_ble_eq_true rfl) rfl h (fun v152 h => ?_)
                                  refine AW.mVI (M' := m_X8_look) [iV v149, iV v150, iV v151, iV v152] [iV v146] dL_law_674 q2004 q2005 q2006 q139 q2007 rfl n_X8_look rfl rfl rfl (fun _ _ e => c_X8_look e) h (fun v153 s154 h => ?_)
                                  refine AW.icmp_eq 1750 dL_law_677 (by decide) h (fun c156 h => ?_) (fun c156 h => ?_)
                                  · refine AW.iinc (L' := [some (rV x0), some (rV x1), some (rV (some b)), some (iV (x3 + 6))]) dL_law_1750 rfl (Nat.le_of_ble_eq_true rfl) rfl rfl ?_
                                    refine AW.goto (tgt := 18) dL_law_1753 (by decide) ?_
                                    exact ih _ _ _ _ _ h hk
                                  · refine AW.iconst dL_law_680 ?_
                                    cases h
                                    exact AW.zret (z := 0) dL_law_681 rfl zz0
                                · rcases ite_or h with ⟨c534, h⟩ | ⟨c534, h⟩
                                  · refine AW.tIn 14 682 dL_law_33 (by omega) (by decide) rfl (by decide) ?_
                                    refine AW.aload_n dL_law_682 rfl ?_
                                    refine AW.aload_n dL_law_683 rfl ?_
                                    refine AW.iload_n dL_law_684 rfl ?_
                                    refine AW.iconst dL_law_685 ?_
                                    refine AW.iadd dL_law_686 ?_
                                    refine AW.iald (t := 151) dL_law_687 (Nat.le_of_ble_eq_true rfl) rfl h (fun v157 h => ?_)
                                    refine AW.aload_n dL_law_688 rfl ?_
                                    refine AW.iload_n dL_law_689 rfl ?_
                                    refine AW.iconst dL_law_690 ?_
                                    refine AW.iadd dL_law_691 ?_
                                    refine AW.iald (t := 151) dL_law_692 (Nat.le_of_ble_eq_true rfl) rfl h (fun v158 h => ?_)
                                    refine AW.lVI (M' := m_X0_last) (t := 0) hd [iV v157, iV v158] [] dL_law_693 q1309 q1310 q1311 q121 q1312 ck0 rfl n_X0_last rfl rfl rfl (fun _ _ _ e => c_X0_last e) h (fun v159 s160 h => ?_)
                                    refine AW.aload_n dL_law_696 rfl ?_
                                    refine AW.aload_n dL_law_697 rfl ?_
                                    refine AW.iload_n dL_law_698 rfl ?_
                                    refine AW.iconst dL_law_699 ?_
                                    refine AW.iadd dL_law_700 ?_
                                    refine AW.iald (t := 151) dL_law_701 (Nat.le_of_ble_eq_true rfl) rfl h (fun v162 h => ?_)
                                    refine AW.aload_n dL_law_702 rfl ?_
                                    refine AW.iload_n dL_law_703 rfl ?_
                                    refine AW.iconst dL_law_704 ?_
                                    refine AW.iadd dL_law_705 ?_
                                    refine AW.iald (t := 151) dL_law_706 (Nat.le_of_ble_eq_true rfl) rfl h (fun v163 h => ?_)
                                    refine AW.mVI (M' := m_X8_last) [iV v162, iV v163] [iV v159] dL_law_707 q2020 q2021 q2022 q139 q2023 rfl n_X8_last rfl rfl rfl (fun _ _ e => c_X8_last e) h (fun v164 s165 h => ?_)
                                    refine AW.icmp_eq 1750 dL_law_710 (by decide) h (fun c167 h => ?_) (fun c167 h => ?_)
                                    · refine AW.iinc (L' := [some (rV x0), some (rV x1), some (rV (some b)), some (iV (x3 + 6))]) dL_law_1750 rfl (Nat.le_of_ble_eq_true rfl) rfl rfl ?_
                                      refine AW.goto (tgt := 18) dL_law_1753 (by decide) ?_
                                      exact ih _ _ _ _ _ h hk
                                    · refine AW.iconst dL_law_713 ?_
                                      cases h
                                      exact AW.zret (z := 0) dL_law_714 rfl zz0
                                  · rcases ite_or h with ⟨c533, h⟩ | ⟨c533, h⟩
                                    · refine AW.tIn 15 715 dL_law_33 (by omega) (by decide) rfl (by decide) ?_
                                      refine AW.aload_n dL_law_715 rfl ?_
                                      refine AW.aload_n dL_law_716 rfl ?_
                                      refine AW.iload_n dL_law_717 rfl ?_
                                      refine AW.iconst dL_law_718 ?_
                                      refine AW.iadd dL_law_719 ?_
                                      refine AW.iald (t := 151) dL_law_720 (Nat.le_of_ble_eq_true rfl) rfl h (fun v168 h => ?_)
                                      refine AW.aload_n dL_law_721 rfl ?_
                                      refine AW.iload_n dL_law_722 rfl ?_
                                      refine AW.iconst dL_law_723 ?_
                                      refine AW.iadd dL_law_724 ?_
                                      refine AW.iald (t := 151) dL_law_725 (Nat.le_of_ble_eq_true rfl) rfl h (fun v169 h => ?_)
                                      refine AW.lVI (M' := m_X0_visits) (t := 0) hd [iV v168, iV v169] [] dL_law_726 q1313 q1314 q1315 q121 q1316 ck0 rfl n_X0_visits rfl rfl rfl (fun _ _ _ e => c_X0_visits e) h (fun v170 s171 h => ?_)
                                      refine AW.aload_n dL_law_729 rfl ?_
                                      refine AW.aload_n dL_law_730 rfl ?_
                                      refine AW.iload_n dL_law_731 rfl ?_
                                      refine AW.iconst dL_law_732 ?_
                                      refine AW.iadd dL_law_733 ?_
                                      refine AW.iald (t := 151) dL_law_734 (Nat.le_of_ble_eq_true rfl) rfl h (fun v173 h => ?_)
                                      refine AW.aload_n dL_law_735 rfl ?_
                                      refine AW.iload_n dL_law_736 rfl ?_
                                      refine AW.iconst dL_law_737 ?_
                                      refine AW.iadd dL_law_738 ?_
                                      refine AW.iald (t := 151) dL_law_739 (Nat.le_of_ble_eq_true rfl) rfl h (fun v174 h => ?_)
                                      refine AW.mVI (M' := m_X8_visits) [iV v173, iV v174] [iV v170] dL_law_740 q2024 q2025 q2026 q139 q2027 rfl n_X8_visits rfl rfl rfl (fun _ _ e => c_X8_visits e) h (fun v175 s176 h => ?_)
                                      refine AW.icmp_eq 1750 dL_law_743 (by decide) h (fun c178 h => ?_) (fun c178 h => ?_)
                                      · refine AW.iinc (L' := [some (rV x0), some (rV x1), some (rV (some b)), some (iV (x3 + 6))]) dL_law_1750 rfl (Nat.le_of_ble_eq_true rfl) rfl rfl ?_
                                        refine AW.goto (tgt := 18) dL_law_1753 (by decide) ?_
                                        exact ih _ _ _ _ _ h hk
                                      · refine AW.iconst dL_law_746 ?_
                                        cases h
                                        exact AW.zret (z := 0) dL_law_747 rfl zz0
                                    · rcases ite_or h with ⟨c532, h⟩ | ⟨c532, h⟩
                                      · refine AW.tIn 16 748 dL_law_33 (by omega) (by decide) rfl (by decide) ?_
                                        refine AW.aload_n dL_law_748 rfl ?_
                                        refine AW.aload_n dL_law_749 rfl ?_
                                        refine AW.iload_n dL_law_750 rfl ?_
                                        refine AW.iconst dL_law_751 ?_
                                        refine AW.iadd dL_law_752 ?_
                                        refine AW.iald (t := 151) dL_law_753 (Nat.le_of_ble_eq_true rfl) rfl h (fun v179 h => ?_)
                                        refine AW.aload_n dL_law_754 rfl ?_
                                        refine AW.iload_n dL_law_755 rfl ?_
                                        refine AW.iconst dL_law_756 ?_
                                        refine AW.iadd dL_law_757 ?_
                                        refine AW.iald (t := 151) dL_law_758 (Nat.le_of_ble_eq_true rfl) rfl h (fun v180 h => ?_)
                                        refine jn_elim h (fun (j : (LSt → Option Nat → Option Nat → Int → Option Nat → Int → Int → Option (Int × LSt))) => ∀ (s181 : LSt) (x0 : Option Nat) (x1 : Option Nat) (x3 : Int) (y0 : Option Nat) (y1 : Int) (y2 : Int), j s181 x0 x1 x3 y0 y1 y2 = some w → AW m_L_law σ0 (lI b w) 767 [some (rV x0), some (rV x1), some (rV (some b)), some (iV x3)] [iV y2, iV y1, rV y0] (insT b s181.1 s181.2)) ?_ (fun j767 hj767 h => ?_)
                                        · intro s181 x0 x1 x3 y0 y1 y2 h
                                          refine AW.lVI (M' := m_X0_alone) (t := 0) hd [iV y1, iV y2] [] dL_law_767 q1317 q1318 q1319 q121 q1320 ck0 rfl n_X0_alone rfl rfl rfl (fun _ _ _ e => c_X0_alone e) h (fun v182 s183 h => ?_)
                                          refine AW.aload_n dL_law_770 rfl ?_
                                          refine AW.aload_n dL_law_771 rfl ?_
                                          refine AW.iload_n dL_law_772 rfl ?_
                                          refine AW.iconst dL_law_773 ?_
                                          refine AW.iadd dL_law_774 ?_
                                          refine AW.iald (t := 151) dL_law_775 (Nat.le_of_ble_eq_true rfl) rfl h (fun v185 h => ?_)
                                          refine AW.aload_n dL_law_776 rfl ?_
                                          refine AW.iload_n dL_law_777 rfl ?_
                                          refine AW.iconst dL_law_778 ?_
                                          refine AW.iadd dL_law_779 ?_
                                          refine AW.iald (t := 151) dL_law_780 (Nat.le_of_ble_eq_true rfl) rfl h (fun v186 h => ?_)
                                          refine jn_elim h (fun (j : (LSt → Option Nat → Option Nat → Int → Int → Int → Int → Option (Int × LSt))) => ∀ (s187 : LSt) (x0 : Option Nat) (x1 : Option Nat) (x3 : Int) (y0 : Int) (y2 : Int) (y3 : Int), j s187 x0 x1 x3 y0 y2 y3 = some w → AW m_L_law σ0 (lI b w) 789 [some (rV x0), some (rV x1), some (rV (some b)), some (iV x3)] [iV y3, iV y2, rV (some b), iV y0] (insT b s187.1 s187.2)) ?_ (fun j789 hj789 h => ?_)
                                          · intro s187 x0 x1 x3 y0 y2 y3 h
                                            refine AW.mVI (M' := m_X8_alone) [iV y2, iV y3] [iV y0] dL_law_789 q2028 q2029 q2030 q139 q2031 rfl n_X8_alone rfl rfl rfl (fun _ _ e => c_X8_alone e) h (fun v188 s189 h => ?_)
                                            refine AW.icmp_eq 1750 dL_law_792 (by decide) h (fun c191 h => ?_) (fun c191 h => ?_)
                                            · refine AW.iinc (L' := [some (rV x0), some (rV x1), some (rV (some b)), some (iV (x3 + 6))]) dL_law_1750 rfl (Nat.le_of_ble_eq_true rfl) rfl rfl ?_
                                              refine AW.goto (tgt := 18) dL_law_1753 (by decide) ?_
                                              exact ih _ _ _ _ _ h hk
                                            · refine AW.iconst dL_law_795 ?_
                                              cases h
                                              exact AW.zret (z := 0) dL_law_796 rfl zz0
                                          · refine AW.if_eq 788 dL_law_781 (by decide) h (fun c192 h => ?_) (fun c192 h => ?_)
                                            · refine AW.iconst dL_law_788 ?_
                                              exact hj789 _ _ _ _ _ _ _ h
                                            · refine AW.iconst dL_law_784 ?_
                                              refine AW.goto (tgt := 789) dL_law_785 (by decide) ?_
                                              exact hj789 _ _ _ _ _ _ _ h
                                        · refine AW.if_eq 766 dL_law_759 (by decide) h (fun c193 h => ?_) (fun c193 h => ?_)
                                          · refine AW.iconst dL_law_766 ?_
                                            exact hj767 _ _ _ _ _ _ _ h
                                          · refine AW.iconst dL_law_762 ?_
                                            refine AW.goto (tgt := 767) dL_law_763 (by decide) ?_
                                            exact hj767 _ _ _ _ _ _ _ h
                                      · rcases ite_or h with ⟨c531, h⟩ | ⟨c531, h⟩
                                        · refine AW.tIn 17 797 dL_law_33 (by omega) (by decide) rfl (by decide) ?_
                                          refine AW.aload_n dL_law_797 rfl ?_
                                          refine AW.lVI (M' := m_X0_lonely) (t := 0) hd [] [] dL_law_798 q1326 q1327 q1328 q121 q1329 ck0 rfl n_X0_lonely rfl rfl rfl (fun _ _ _ e => c_X0_lonely e) h (fun v194 s195 h => ?_)
                                          refine AW.aload_n dL_law_801 rfl ?_
                                          refine AW.mVI (M' := m_X8_lonely) [] [iV v194] dL_law_802 q2040 q2041 q2042 q139 q2043 rfl n_X8_lonely rfl rfl rfl (fun _ _ e => c_X8_lonely e) h (fun v197 s198 h => ?_)
                                          refine AW.icmp_eq 1750 dL_law_805 (by decide) h (fun c200 h => ?_) (fun c200 h => ?_)
                                          · refine AW.iinc (L' := [some (rV x0), some (rV x1), some (rV (some b)), some (iV (x3 + 6))]) dL_law_1750 rfl (Nat.le_of_ble_eq_true rfl) rfl rfl ?_
                                            refine AW.goto (tgt := 18) dL_law_1753 (by decide) ?_
                                            exact ih _ _ _ _ _ h hk
                                          · refine AW.iconst dL_law_808 ?_
                                            cases h
                                            exact AW.zret (z := 0) dL_law_809 rfl zz0
                                        · rcases ite_or h with ⟨c530, h⟩ | ⟨c530, h⟩
                                          · refine AW.tIn 18 810 dL_law_33 (by omega) (by decide) rfl (by decide) ?_
                                            refine AW.aload_n dL_law_810 rfl ?_
                                            refine AW.aload_n dL_law_811 rfl ?_
                                            refine AW.iload_n dL_law_812 rfl ?_
                                            refine AW.iconst dL_law_813 ?_
                                            refine AW.iadd dL_law_814 ?_
                                            refine AW.iald (t := 151) dL_law_815 (Nat.le_of_ble_eq_true rfl) rfl h (fun v201 h => ?_)
                                            refine AW.aload_n dL_law_816 rfl ?_
                                            refine AW.iload_n dL_law_817 rfl ?_
                                            refine AW.iconst dL_law_818 ?_
                                            refine AW.iadd dL_law_819 ?_
                                            refine AW.iald (t := 151) dL_law_820 (Nat.le_of_ble_eq_true rfl) rfl h (fun v202 h => ?_)
                                            refine AW.aload_n dL_law_821 rfl ?_
                                            refine AW.iload_n dL_law_822 rfl ?_
                                            refine AW.iconst dL_law_823 ?_
                                            refine AW.iadd dL_law_824 ?_
                                            refine AW.iald (t := 151) dL_law_825 (Nat.le_of_ble_eq_true rfl) rfl h (fun v203 h => ?_)
                                            refine AW.lVI (M' := m_X0_together) (t := 0) hd [iV v201, iV v202, iV v203] [] dL_law_826 q1331 q1332 q1333 q121 q1334 ck0 rfl n_X0_together rfl rfl rfl (fun _ _ _ e => c_X0_together e) h (fun v204 s205 h => ?_)
                                            refine AW.aload_n dL_law_829 rfl ?_
                                            refine AW.aload_n dL_law_830 rfl ?_
                                            refine AW.iload_n dL_law_831 rfl ?_
                                            refine AW.iconst dL_law_832 ?_
                                            refine AW.iadd dL_law_833 ?_
                                            refine AW.iald (t := 151) dL_law_834 (Nat.le_of_ble_eq_true rfl) rfl h (fun v207 h => ?_)
                                            refine AW.aload_n dL_law_835 rfl ?_
                                            refine AW.iload_n dL_law_836 rfl ?_
                                            refine AW.iconst dL_law_837 ?_
                                            refine AW.iadd dL_law_838 ?_
                                            refine AW.iald (t := 151) dL_law_839 (Nat.le_of_ble_eq_true rfl) rfl h (fun v208 h => ?_)
                                            refine AW.aload_n dL_law_840 rfl ?_
                                            refine AW.iload_n dL_law_841 rfl ?_
                                            refine AW.iconst dL_law_842 ?_
                                            refine AW.iadd dL_law_843 ?_
                                            refine AW.iald (t := 151) dL_law_844 (Nat.le_of_ble_eq_true rfl) rfl h (fun v209 h => ?_)
                                            refine AW.mVI (M' := m_X8_together) [iV v207, iV v208, iV v209] [iV v204] dL_law_845 q2044 q2045 q2046 q139 q2047 rfl n_X8_together rfl rfl rfl (fun _ _ e => c_X8_together e) h (fun v210 s211 h => ?_)
                                            refine AW.icmp_eq 1750 dL_law_848 (by decide) h (fun c213 h => ?_) (fun c213 h => ?_)
                                            · refine AW.iinc (L' := [some (rV x0), some (rV x1), some (rV (some b)), some (iV (x3 + 6))]) dL_law_1750 rfl (Nat.le_of_ble_eq_true rfl) rfl rfl ?_
                                              refine AW.goto (tgt := 18) dL_law_1753 (by decide) ?_
                                              exact ih _ _ _ _ _ h hk
                                            · refine AW.iconst dL_law_851 ?_
                                              cases h
                                              exact AW.zret (z := 0) dL_law_852 rfl zz0
                                          · rcases ite_or h with ⟨c529, h⟩ | ⟨c529, h⟩
                                            · refine AW.tIn 19 853 dL_law_33 (by omega) (by decide) rfl (by decide) ?_
                                              refine AW.aload_n dL_law_853 rfl ?_
                                              refine AW.aload_n dL_law_854 rfl ?_
                                              refine AW.iload_n dL_law_855 rfl ?_
                                              refine AW.iconst dL_law_856 ?_
                                              refine AW.iadd dL_law_857 ?_
                                              refine AW.iald (t := 151) dL_law_858 (Nat.le_of_ble_eq_true rfl) rfl h (fun v214 h => ?_)
                                              refine AW.aload_n dL_law_859 rfl ?_
                                              refine AW.iload_n dL_law_860 rfl ?_
                                              refine AW.iconst dL_law_861 ?_
                                              refine AW.iadd dL_law_862 ?_
                                              refine AW.iald (t := 151) dL_law_863 (Nat.le_of_ble_eq_true rfl) rfl h (fun v215 h => ?_)
                                              refine AW.aload_n dL_law_864 rfl ?_
                                              refine AW.iload_n dL_law_865 rfl ?_
                                              refine AW.iconst dL_law_866 ?_
                                              refine AW.iadd dL_law_867 ?_
                                              refine AW.iald (t := 151) dL_law_868 (Nat.le_of_ble_eq_true rfl) rfl h (fun v216 h => ?_)
                                              refine AW.lVI (M' := m_X0_facing) (t := 0) hd [iV v214, iV v215, iV v216] [] dL_law_869 q1305 q1306 q1307 q121 q1308 ck0 rfl n_X0_facing rfl rfl rfl (fun _ _ _ e => c_X0_facing e) h (fun v217 s218 h => ?_)
                                              refine AW.aload_n dL_law_872 rfl ?_
                                              refine AW.aload_n dL_law_873 rfl ?_
                                              refine AW.iload_n dL_law_874 rfl ?_
                                              refine AW.iconst dL_law_875 ?_
                                              refine AW.iadd dL_law_876 ?_
                                              refine AW.iald (t := 151) dL_law_877 (Nat.le_of_ble_eq_true rfl) rfl h (fun v220 h => ?_)
                                              refine AW.aload_n dL_law_878 rfl ?_
                                              refine AW.iload_n dL_law_879 rfl ?_
                                              refine AW.iconst dL_law_880 ?_
                                              refine AW.iadd dL_law_881 ?_
                                              refine AW.iald (t := 151) dL_law_882 (Nat.le_of_ble_eq_true rfl) rfl h (fun v221 h => ?_)
                                              refine AW.aload_n dL_law_883 rfl ?_
                                              refine AW.iload_n dL_law_884 rfl ?_
                                              refine AW.iconst dL_law_885 ?_
                                              refine AW.iadd dL_law_886 ?_
                                              refine AW.iald (t := 151) dL_law_887 (Nat.le_of_ble_eq_true rfl) rfl h (fun v222 h => ?_)
                                              refine AW.mVI (M' := m_X8_facing) [iV v220, iV v221, iV v222] [iV v217] dL_law_888 q2012 q2013 q2014 q139 q2015 rfl n_X8_facing rfl rfl rfl (fun _ _ e => c_X8_facing e) h (fun v223 s224 h => ?_)
                                              refine AW.icmp_eq 1750 dL_law_891 (by decide) h (fun c226 h => ?_) (fun c226 h => ?_)
                                              · refine AW.iinc (L' := [some (rV x0), some (rV x1), some (rV (some b)), some (iV (x3 + 6))]) dL_law_1750 rfl (Nat.le_of_ble_eq_true rfl) rfl rfl ?_
                                                refine AW.goto (tgt := 18) dL_law_1753 (by decide) ?_
                                                exact ih _ _ _ _ _ h hk
                                              · refine AW.iconst dL_law_894 ?_
                                                cases h
                                                exact AW.zret (z := 0) dL_law_895 rfl zz0
                                            · rcases ite_or h with ⟨c528, h⟩ | ⟨c528, h⟩
                                              · refine AW.tIn 20 896 dL_law_33 (by omega) (by decide) rfl (by decide) ?_
                                                refine AW.aload_n dL_law_896 rfl ?_
                                                refine AW.aload_n dL_law_897 rfl ?_
                                                refine AW.iload_n dL_law_898 rfl ?_
                                                refine AW.iconst dL_law_899 ?_
                                                refine AW.iadd dL_law_900 ?_
                                                refine AW.iald (t := 151) dL_law_901 (Nat.le_of_ble_eq_true rfl) rfl h (fun v227 h => ?_)
                                                refine AW.aload_n dL_law_902 rfl ?_
                                                refine AW.iload_n dL_law_903 rfl ?_
                                                refine AW.iconst dL_law_904 ?_
                                                refine AW.iadd dL_law_905 ?_
                                                refine AW.iald (t := 151) dL_law_906 (Nat.le_of_ble_eq_true rfl) rfl h (fun v228 h => ?_)
                                                refine AW.aload_n dL_law_907 rfl ?_
                                                refine AW.iload_n dL_law_908 rfl ?_
                                                refine AW.iconst dL_law_909 ?_
                                                refine AW.iadd dL_law_910 ?_
                                                refine AW.iald (t := 151) dL_law_911 (Nat.le_of_ble_eq_true rfl) rfl h (fun v229 h => ?_)
                                                refine AW.lVI (M' := m_X0_glimpses) (t := 0) hd [iV v227, iV v228, iV v229] [] dL_law_912 q1335 q1336 q1337 q121 q1338 ck0 rfl n_X0_glimpses rfl rfl rfl (fun _ _ _ e => c_X0_glimpses e) h (fun v230 s231 h => ?_)
                                                refine AW.aload_n dL_law_915 rfl ?_
                                                refine AW.aload_n dL_law_916 rfl ?_
                                                refine AW.iload_n dL_law_917 rfl ?_
                                                refine AW.iconst dL_law_918 ?_
                                                refine AW.iadd dL_law_919 ?_
                                                refine AW.iald (t := 151) dL_law_920 (Nat.le_of_ble_eq_true rfl) rfl h (fun v233 h => ?_)
                                                refine AW.aload_n dL_law_921 rfl ?_
                                                refine AW.iload_n dL_law_922 rfl ?_
                                                refine AW.iconst dL_law_923 ?_
                                                refine AW.iadd dL_law_924 ?_
                                                refine AW.iald (t := 151) dL_law_925 (Nat.le_of_ble_eq_true rfl) rfl h (fun v234 h => ?_)
                                                refine AW.aload_n dL_law_926 rfl ?_
                                                refine AW.iload_n dL_law_927 rfl ?_
                                                refine AW.iconst dL_law_928 ?_
                                                refine AW.iadd dL_law_929 ?_
                                                refine AW.iald (t := 151) dL_law_930 (Nat.le_of_ble_eq_true rfl) rfl h (fun v235 h => ?_)
                                                refine AW.mVI (M' := m_X8_glimpses) [iV v233, iV v234, iV v235] [iV v230] dL_law_931 q2048 q2049 q2050 q139 q2051 rfl n_X8_glimpses rfl rfl rfl (fun _ _ e => c_X8_glimpses e) h (fun v236 s237 h => ?_)
                                                refine AW.icmp_eq 1750 dL_law_934 (by decide) h (fun c239 h => ?_) (fun c239 h => ?_)
                                                · refine AW.iinc (L' := [some (rV x0), some (rV x1), some (rV (some b)), some (iV (x3 + 6))]) dL_law_1750 rfl (Nat.le_of_ble_eq_true rfl) rfl rfl ?_
                                                  refine AW.goto (tgt := 18) dL_law_1753 (by decide) ?_
                                                  exact ih _ _ _ _ _ h hk
                                                · refine AW.iconst dL_law_937 ?_
                                                  cases h
                                                  exact AW.zret (z := 0) dL_law_938 rfl zz0
                                              · rcases ite_or h with ⟨c527, h⟩ | ⟨c527, h⟩
                                                · refine AW.tIn 21 939 dL_law_33 (by omega) (by decide) rfl (by decide) ?_
                                                  refine AW.aload_n dL_law_939 rfl ?_
                                                  refine AW.aload_n dL_law_940 rfl ?_
                                                  refine AW.iload_n dL_law_941 rfl ?_
                                                  refine AW.iconst dL_law_942 ?_
                                                  refine AW.iadd dL_law_943 ?_
                                                  refine AW.iald (t := 151) dL_law_944 (Nat.le_of_ble_eq_true rfl) rfl h (fun v240 h => ?_)
                                                  refine AW.lVI (M' := m_X0_ghosts) (t := 0) hd [iV v240] [] dL_law_945 q1343 q1344 q1345 q121 q1346 ck0 rfl n_X0_ghosts rfl rfl rfl (fun _ _ _ e => c_X0_ghosts e) h (fun v241 s242 h => ?_)
                                                  refine AW.aload_n dL_law_948 rfl ?_
                                                  refine AW.aload_n dL_law_949 rfl ?_
                                                  refine AW.iload_n dL_law_950 rfl ?_
                                                  refine AW.iconst dL_law_951 ?_
                                                  refine AW.iadd dL_law_952 ?_
                                                  refine AW.iald (t := 151) dL_law_953 (Nat.le_of_ble_eq_true rfl) rfl h (fun v244 h => ?_)
                                                  refine AW.mVI (M' := m_X8_ghosts) [iV v244] [iV v241] dL_law_954 q2060 q2061 q2062 q139 q2063 rfl n_X8_ghosts rfl rfl rfl (fun _ _ e => c_X8_ghosts e) h (fun v245 s246 h => ?_)
                                                  refine AW.icmp_eq 1750 dL_law_957 (by decide) h (fun c248 h => ?_) (fun c248 h => ?_)
                                                  · refine AW.iinc (L' := [some (rV x0), some (rV x1), some (rV (some b)), some (iV (x3 + 6))]) dL_law_1750 rfl (Nat.le_of_ble_eq_true rfl) rfl rfl ?_
                                                    refine AW.goto (tgt := 18) dL_law_1753 (by decide) ?_
                                                    exact ih _ _ _ _ _ h hk
                                                  · refine AW.iconst dL_law_960 ?_
                                                    cases h
                                                    exact AW.zret (z := 0) dL_law_961 rfl zz0
                                                · rcases ite_or h with ⟨c526, h⟩ | ⟨c526, h⟩
                                                  · refine AW.tIn 22 962 dL_law_33 (by omega) (by decide) rfl (by decide) ?_
                                                    refine AW.aload_n dL_law_962 rfl ?_
                                                    refine AW.aload_n dL_law_963 rfl ?_
                                                    refine AW.iload_n dL_law_964 rfl ?_
                                                    refine AW.iconst dL_law_965 ?_
                                                    refine AW.iadd dL_law_966 ?_
                                                    refine AW.iald (t := 151) dL_law_967 (Nat.le_of_ble_eq_true rfl) rfl h (fun v249 h => ?_)
                                                    refine AW.lVI (M' := m_X0_oldest) (t := 0) hd [iV v249] [] dL_law_968 q1347 q1348 q1349 q121 q1350 ck0 rfl n_X0_oldest rfl rfl rfl (fun _ _ _ e => c_X0_oldest e) h (fun v250 s251 h => ?_)
                                                    refine AW.aload_n dL_law_971 rfl ?_
                                                    refine AW.aload_n dL_law_972 rfl ?_
                                                    refine AW.iload_n dL_law_973 rfl ?_
                                                    refine AW.iconst dL_law_974 ?_
                                                    refine AW.iadd dL_law_975 ?_
                                                    refine AW.iald (t := 151) dL_law_976 (Nat.le_of_ble_eq_true rfl) rfl h (fun v253 h => ?_)
                                                    refine AW.mVI (M' := m_X8_oldest) [iV v253] [iV v250] dL_law_977 q2064 q2065 q2066 q139 q2067 rfl n_X8_oldest rfl rfl rfl (fun _ _ e => c_X8_oldest e) h (fun v254 s255 h => ?_)
                                                    refine AW.icmp_eq 1750 dL_law_980 (by decide) h (fun c257 h => ?_) (fun c257 h => ?_)
                                                    · refine AW.iinc (L' := [some (rV x0), some (rV x1), some (rV (some b)), some (iV (x3 + 6))]) dL_law_1750 rfl (Nat.le_of_ble_eq_true rfl) rfl rfl ?_
                                                      refine AW.goto (tgt := 18) dL_law_1753 (by decide) ?_
                                                      exact ih _ _ _ _ _ h hk
                                                    · refine AW.iconst dL_law_983 ?_
                                                      cases h
                                                      exact AW.zret (z := 0) dL_law_984 rfl zz0
                                                  · rcases ite_or h with ⟨c525, h⟩ | ⟨c525, h⟩
                                                    · refine AW.tIn 23 985 dL_law_33 (by omega) (by decide) rfl (by decide) ?_
                                                      refine AW.aload_n dL_law_985 rfl ?_
                                                      refine AW.aload_n dL_law_986 rfl ?_
                                                      refine AW.iload_n dL_law_987 rfl ?_
                                                      refine AW.iconst dL_law_988 ?_
                                                      refine AW.iadd dL_law_989 ?_
                                                      refine AW.iald (t := 151) dL_law_990 (Nat.le_of_ble_eq_true rfl) rfl h (fun v258 h => ?_)
                                                      refine AW.aload_n dL_law_991 rfl ?_
                                                      refine AW.iload_n dL_law_992 rfl ?_
                                                      refine AW.iconst dL_law_993 ?_
                                                      refine AW.iadd dL_law_994 ?_
                                                      refine AW.iald (t := 151) dL_law_995 (Nat.le_of_ble_eq_true rfl) rfl h (fun v259 h => ?_)
                                                      refine jn_elim h (fun (j : (LSt → Option Nat → Option Nat → Int → Option Nat → Int → Int → Option (Int × LSt))) => ∀ (s260 : LSt) (x0 : Option Nat) (x1 : Option Nat) (x3 : Int) (y0 : Option Nat) (y1 : Int) (y2 : Int), j s260 x0 x1 x3 y0 y1 y2 = some w → AW m_L_law σ0 (lI b w) 1004 [some (rV x0), some (rV x1), some (rV (some b)), some (iV x3)] [iV y2, iV y1, rV y0] (insT b s260.1 s260.2)) ?_ (fun j1004 hj1004 h => ?_)
                                                      · intro s260 x0 x1 x3 y0 y1 y2 h
                                                        refine AW.lVI (M' := m_X0_shown) (t := 0) hd [iV y1, iV y2] [] dL_law_1004 q1351 q1352 q1353 q121 q1354 ck0 rfl n_X0_shown rfl rfl rfl (fun _ _ _ e => c_X0_shown e) h (fun v261 s262 h => ?_)
                                                        refine AW.aload_n dL_law_1007 rfl ?_
                                                        refine AW.aload_n dL_law_1008 rfl ?_
                                                        refine AW.iload_n dL_law_1009 rfl ?_
                                                        refine AW.iconst dL_law_1010 ?_
                                                        refine AW.iadd dL_law_1011 ?_
                                                        refine AW.iald (t := 151) dL_law_1012 (Nat.le_of_ble_eq_true rfl) rfl h (fun v264 h => ?_)
                                                        refine AW.aload_n dL_law_1013 rfl ?_
                                                        refine AW.iload_n dL_law_1014 rfl ?_
                                                        refine AW.iconst dL_law_1015 ?_
                                                        refine AW.iadd dL_law_1016 ?_
                                                        refine AW.iald (t := 151) dL_law_1017 (Nat.le_of_ble_eq_true rfl) rfl h (fun v265 h => ?_)
                                                        refine jn_elim h (fun (j : (LSt → Option Nat → Option Nat → Int → Int → Int → Int → Option (Int × LSt))) => ∀ (s266 : LSt) (x0 : Option Nat) (x1 : Option Nat) (x3 : Int) (y0 : Int) (y2 : Int) (y3 : Int), j s266 x0 x1 x3 y0 y2 y3 = some w → AW m_L_law σ0 (lI b w) 1026 [some (rV x0), some (rV x1), some (rV (some b)), some (iV x3)] [iV y3, iV y2, rV (some b), iV y0] (insT b s266.1 s266.2)) ?_ (fun j1026 hj1026 h => ?_)
                                                        · intro s266 x0 x1 x3 y0 y2 y3 h
                                                          refine AW.mVI (M' := m_X8_shown) [iV y2, iV y3] [iV y0] dL_law_1026 q2068 q2069 q2070 q139 q2071 rfl n_X8_shown rfl rfl rfl (fun _ _ e => c_X8_shown e) h (fun v267 s268 h => ?_)
                                                          refine AW.icmp_eq 1750 dL_law_1029 (by decide) h (fun c270 h => ?_) (fun c270 h => ?_)
                                                          · refine AW.iinc (L' := [some (rV x0), some (rV x1), some (rV (some b)), some (iV (x3 + 6))]) dL_law_1750 rfl (Nat.le_of_ble_eq_true rfl) rfl rfl ?_
                                                            refine AW.goto (tgt := 18) dL_law_1753 (by decide) ?_
                                                            exact ih _ _ _ _ _ h hk
                                                          · refine AW.iconst dL_law_1032 ?_
                                                            cases h
                                                            exact AW.zret (z := 0) dL_law_1033 rfl zz0
                                                        · refine AW.if_eq 1025 dL_law_1018 (by decide) h (fun c271 h => ?_) (fun c271 h => ?_)
                                                          · refine AW.iconst dL_law_1025 ?_
                                                            exact hj1026 _ _ _ _ _ _ _ h
                                                          · refine AW.iconst dL_law_1021 ?_
                                                            refine AW.goto (tgt := 1026) dL_law_1022 (by decide) ?_
                                                            exact hj1026 _ _ _ _ _ _ _ h
                                                      · refine AW.if_eq 1003 dL_law_996 (by decide) h (fun c272 h => ?_) (fun c272 h => ?_)
                                                        · refine AW.iconst dL_law_1003 ?_
                                                          exact hj1004 _ _ _ _ _ _ _ h
                                                        · refine AW.iconst dL_law_999 ?_
                                                          refine AW.goto (tgt := 1004) dL_law_1000 (by decide) ?_
                                                          exact hj1004 _ _ _ _ _ _ _ h
                                                    · rcases ite_or h with ⟨c524, h⟩ | ⟨c524, h⟩
                                                      · refine AW.tIn 24 1034 dL_law_33 (by omega) (by decide) rfl (by decide) ?_
                                                        refine AW.aload_n dL_law_1034 rfl ?_
                                                        refine AW.aload_n dL_law_1035 rfl ?_
                                                        refine AW.iload_n dL_law_1036 rfl ?_
                                                        refine AW.iconst dL_law_1037 ?_
                                                        refine AW.iadd dL_law_1038 ?_
                                                        refine AW.iald (t := 151) dL_law_1039 (Nat.le_of_ble_eq_true rfl) rfl h (fun v273 h => ?_)
                                                        refine AW.aload_n dL_law_1040 rfl ?_
                                                        refine AW.iload_n dL_law_1041 rfl ?_
                                                        refine AW.iconst dL_law_1042 ?_
                                                        refine AW.iadd dL_law_1043 ?_
                                                        refine AW.iald (t := 151) dL_law_1044 (Nat.le_of_ble_eq_true rfl) rfl h (fun v274 h => ?_)
                                                        refine AW.lVI (M' := m_X0_deepest) (t := 0) hd [iV v273, iV v274] [] dL_law_1045 q1355 q1356 q1357 q121 q1358 ck0 rfl n_X0_deepest rfl rfl rfl (fun _ _ _ e => c_X0_deepest e) h (fun v275 s276 h => ?_)
                                                        refine AW.aload_n dL_law_1048 rfl ?_
                                                        refine AW.aload_n dL_law_1049 rfl ?_
                                                        refine AW.iload_n dL_law_1050 rfl ?_
                                                        refine AW.iconst dL_law_1051 ?_
                                                        refine AW.iadd dL_law_1052 ?_
                                                        refine AW.iald (t := 151) dL_law_1053 (Nat.le_of_ble_eq_true rfl) rfl h (fun v278 h => ?_)
                                                        refine AW.aload_n dL_law_1054 rfl ?_
                                                        refine AW.iload_n dL_law_1055 rfl ?_
                                                        refine AW.iconst dL_law_1056 ?_
                                                        refine AW.iadd dL_law_1057 ?_
                                                        refine AW.iald (t := 151) dL_law_1058 (Nat.le_of_ble_eq_true rfl) rfl h (fun v279 h => ?_)
                                                        refine AW.mVI (M' := m_X8_deepest) [iV v278, iV v279] [iV v275] dL_law_1059 q2016 q2017 q2018 q139 q2019 rfl n_X8_deepest rfl rfl rfl (fun _ _ e => c_X8_deepest e) h (fun v280 s281 h => ?_)
                                                        refine AW.icmp_eq 1750 dL_law_1062 (by decide) h (fun c283 h => ?_) (fun c283 h => ?_)
                                                        · refine AW.iinc (L' := [some (rV x0), some (rV x1), some (rV (some b)), some (iV (x3 + 6))]) dL_law_1750 rfl (Nat.le_of_ble_eq_true rfl) rfl rfl ?_
                                                          refine AW.goto (tgt := 18) dL_law_1753 (by decide) ?_
                                                          exact ih _ _ _ _ _ h hk
                                                        · refine AW.iconst dL_law_1065 ?_
                                                          cases h
                                                          exact AW.zret (z := 0) dL_law_1066 rfl zz0
                                                      · rcases ite_or h with ⟨c523, h⟩ | ⟨c523, h⟩
                                                        · refine AW.tIn 25 1067 dL_law_33 (by omega) (by decide) rfl (by decide) ?_
                                                          refine AW.aload_n dL_law_1067 rfl ?_
                                                          refine AW.aload_n dL_law_1068 rfl ?_
                                                          refine AW.iload_n dL_law_1069 rfl ?_
                                                          refine AW.iconst dL_law_1070 ?_
                                                          refine AW.iadd dL_law_1071 ?_
                                                          refine AW.iald (t := 151) dL_law_1072 (Nat.le_of_ble_eq_true rfl) rfl h (fun v284 h => ?_)
                                                          refine AW.aload_n dL_law_1073 rfl ?_
                                                          refine AW.iload_n dL_law_1074 rfl ?_
                                                          refine AW.iconst dL_law_1075 ?_
                                                          refine AW.iadd dL_law_1076 ?_
                                                          refine AW.iald (t := 151) dL_law_1077 (Nat.le_of_ble_eq_true rfl) rfl h (fun v285 h => ?_)
                                                          refine AW.lVI (M' := m_X0_crowd) (t := 0) hd [iV v284, iV v285] [] dL_law_1078 q1364 q1365 q1366 q121 q1367 ck0 rfl n_X0_crowd rfl rfl rfl (fun _ _ _ e => c_X0_crowd e) h (fun v286 s287 h => ?_)
                                                          refine AW.aload_n dL_law_1081 rfl ?_
                                                          refine AW.aload_n dL_law_1082 rfl ?_
                                                          refine AW.iload_n dL_law_1083 rfl ?_
                                                          refine AW.iconst dL_law_1084 ?_
                                                          refine AW.iadd dL_law_1085 ?_
                                                          refine AW.iald (t := 151) dL_law_1086 (Nat.le_of_ble_eq_true rfl) rfl h (fun v289 h => ?_)
                                                          refine AW.aload_n dL_law_1087 rfl ?_
                                                          refine AW.iload_n dL_law_1088 rfl ?_
                                                          refine AW.iconst dL_law_1089 ?_
                                                          refine AW.iadd dL_law_1090 ?_
                                                          refine AW.iald (t := 151) dL_law_1091 (Nat.le_of_ble_eq_true rfl) rfl h (fun v290 h => ?_)
                                                          refine AW.mVI (M' := m_X8_crowd) [iV v289, iV v290] [iV v286] dL_law_1092 q2056 q2057 q2058 q139 q2059 rfl n_X8_crowd rfl rfl rfl (fun _ _ e => c_X8_crowd e) h (fun v291 s292 h => ?_)
                                                          refine AW.icmp_eq 1750 dL_law_1095 (by decide) h (fun c294 h => ?_) (fun c294 h => ?_)
                                                          · refine AW.iinc (L' := [some (rV x0), some (rV x1), some (rV (some b)), some (iV (x3 + 6))]) dL_law_1750 rfl (Nat.le_of_ble_eq_true rfl) rfl rfl ?_
                                                            refine AW.goto (tgt := 18) dL_law_1753 (by decide) ?_
                                                            exact ih _ _ _ _ _ h hk
                                                          · refine AW.iconst dL_law_1098 ?_
                                                            cases h
                                                            exact AW.zret (z := 0) dL_law_1099 rfl zz0
                                                        · rcases ite_or h with ⟨c522, h⟩ | ⟨c522, h⟩
                                                          · refine AW.tIn 26 1100 dL_law_33 (by omega) (by decide) rfl (by decide) ?_
                                                            refine AW.aload_n dL_law_1100 rfl ?_
                                                            refine AW.aload_n dL_law_1101 rfl ?_
                                                            refine AW.iload_n dL_law_1102 rfl ?_
                                                            refine AW.iconst dL_law_1103 ?_
                                                            refine AW.iadd dL_law_1104 ?_
                                                            refine AW.iald (t := 151) dL_law_1105 (Nat.le_of_ble_eq_true rfl) rfl h (fun v295 h => ?_)
                                                            refine AW.aload_n dL_law_1106 rfl ?_
                                                            refine AW.iload_n dL_law_1107 rfl ?_
                                                            refine AW.iconst dL_law_1108 ?_
                                                            refine AW.iadd dL_law_1109 ?_
                                                            refine AW.iald (t := 151) dL_law_1110 (Nat.le_of_ble_eq_true rfl) rfl h (fun v296 h => ?_)
                                                            refine AW.lVI (M' := m_X0_rankFor) (t := 0) hd [iV v295, iV v296] [] dL_law_1111 q1369 q1370 q1371 q121 q1372 ck0 rfl n_X0_rankFor rfl rfl rfl (fun _ _ _ e => c_X0_rankFor e) h (fun v297 s298 h => ?_)
                                                            refine AW.aload_n dL_law_1114 rfl ?_
                                                            refine AW.aload_n dL_law_1115 rfl ?_
                                                            refine AW.iload_n dL_law_1116 rfl ?_
                                                            refine AW.iconst dL_law_1117 ?_
                                                            refine AW.iadd dL_law_1118 ?_
                                                            refine AW.iald (t := 151) dL_law_1119 (Nat.le_of_ble_eq_true rfl) rfl h (fun v300 h => ?_)
                                                            refine AW.aload_n dL_law_1120 rfl ?_
                                                            refine AW.iload_n dL_law_1121 rfl ?_
                                                            refine AW.iconst dL_law_1122 ?_
                                                            refine AW.iadd dL_law_1123 ?_
                                                            refine AW.iald (t := 151) dL_law_1124 (Nat.le_of_ble_eq_true rfl) rfl h (fun v301 h => ?_)
                                                            refine AW.mVI (M' := m_X8_rankFor) [iV v300, iV v301] [iV v297] dL_law_1125 q2072 q2073 q2074 q139 q2075 rfl n_X8_rankFor rfl rfl rfl (fun _ _ e => c_X8_rankFor e) h (fun v302 s303 h => ?_)
                                                            refine AW.icmp_eq 1750 dL_law_1128 (by decide) h (fun c305 h => ?_) (fun c305 h => ?_)
                                                            · refine AW.iinc (L' := [some (rV x0), some (rV x1), some (rV (some b)), some (iV (x3 + 6))]) dL_law_1750 rfl (Nat.le_of_ble_eq_true rfl) rfl rfl ?_
                                                              refine AW.goto (tgt := 18) dL_law_1753 (by decide) ?_
                                                              exact ih _ _ _ _ _ h hk
                                                            · refine AW.iconst dL_law_1131 ?_
                                                              cases h
                                                              exact AW.zret (z := 0) dL_law_1132 rfl zz0
                                                          · rcases ite_or h with ⟨c521, h⟩ | ⟨c521, h⟩
                                                            · refine AW.tIn 27 1133 dL_law_33 (by omega) (by decide) rfl (by decide) ?_
                                                              refine AW.aload_n dL_law_1133 rfl ?_
                                                              refine AW.aload_n dL_law_1134 rfl ?_
                                                              refine AW.iload_n dL_law_1135 rfl ?_
                                                              refine AW.iconst dL_law_1136 ?_
                                                              refine AW.iadd dL_law_1137 ?_
                                                              refine AW.iald (t := 151) dL_law_1138 (Nat.le_of_ble_eq_true rfl) rfl h (fun v306 h => ?_)
                                                              refine AW.aload_n dL_law_1139 rfl ?_
                                                              refine AW.iload_n dL_law_1140 rfl ?_
                                                              refine AW.iconst dL_law_1141 ?_
                                                              refine AW.iadd dL_law_1142 ?_
                                                              refine AW.iald (t := 151) dL_law_1143 (Nat.le_of_ble_eq_true rfl) rfl h (fun v307 h => ?_)
                                                              refine AW.aload_n dL_law_1144 rfl ?_
                                                              refine AW.iload_n dL_law_1145 rfl ?_
                                                              refine AW.iconst dL_law_1146 ?_
                                                              refine AW.iadd dL_law_1147 ?_
                                                              refine AW.iald (t := 151) dL_law_1148 (Nat.le_of_ble_eq_true rfl) rfl h (fun v308 h => ?_)
                                                              refine AW.aload_n dL_law_1149 rfl ?_
                                                              refine AW.iload_n dL_law_1150 rfl ?_
                                                              refine AW.iconst dL_law_1151 ?_
                                                              refine AW.iadd dL_law_1152 ?_
                                                              refine AW.iald (t := 151) dL_law_1153 (Nat.le_of_ble_eq_true rfl) rfl h (fun v309 h => ?_)
                                                              refine AW.lVI (M' := m_X0_view) (t := 0) hd [iV v306, iV v307, iV v308, iV v309] [] dL_law_1154 q1425 q1426 q1427 q121 q1428 ck0 rfl n_X0_view rfl rfl rfl (fun _ _ _ e => c_X0_view e) h (fun v310 s311 h => ?_)
                                                              refine AW.aload_n dL_law_1157 rfl ?_
                                                              refine AW.aload_n dL_law_1158 rfl ?_
                                                              refine AW.iload_n dL_law_1159 rfl ?_
                                                              refine AW.iconst dL_law_1160 ?_
                                                              refine AW.iadd dL_law_1161 ?_
                                                              refine AW.iald (t := 151) dL_law_1162 (Nat.le_of_ble_eq_true rfl) rfl h (fun v313 h => ?_)
                                                              refine AW.aload_n dL_law_1163 rfl ?_
                                                              refine AW.iload_n dL_law_1164 rfl ?_
                                                              refine AW.iconst dL_law_1165 ?_
                                                              refine AW.iadd dL_law_1166 ?_
                                                              refine AW.iald (t := 151) dL_law_1167 (Nat.le_of_ble_eq_true rfl) rfl h (fun v314 h => ?_)
                                                              refine AW.aload_n dL_law_1168 rfl ?_
                                                              refine AW.iload_n dL_law_1169 rfl ?_
                                                              refine AW.iconst dL_law_1170 ?_
                                                              refine AW.iadd dL_law_1171 ?_
                                                              refine AW.iald (t := 151) dL_law_1172 (Nat.le_of_ble_eq_true rfl) rfl h (fun v315 h => ?_)
                                                              refine AW.aload_n dL_law_1173 rfl ?_
                                                              refine AW.iload_n dL_law_1174 rfl ?_
                                                              refine AW.iconst dL_law_1175 ?_
                                                              refine AW.iadd dL_law_1176 ?_
                                                              refine AW.iald (t := 151) dL_law_1177 (Nat.le_of_ble_eq_true rfl) rfl h (fun v316 h => ?_)
                                                              refine AW.mVI (M' := m_X8_view) [iV v313, iV v314, iV v315, iV v316] [iV v310] dL_law_1178 q2115 q2116 q2117 q139 q2118 rfl n_X8_view rfl rfl rfl (fun _ _ e => c_X8_view e) h (fun v317 s318 h => ?_)
                                                              refine AW.icmp_eq 1750 dL_law_1181 (by decide) h (fun c320 h => ?_) (fun c320 h => ?_)
                                                              · refine AW.iinc (L' := [some (rV x0), some (rV x1), some (rV (some b)), some (iV (x3 + 6))]) dL_law_1750 rfl (Nat.le_of_ble_eq_true rfl) rfl rfl ?_
                                                                refine AW.goto (tgt := 18) dL_law_1753 (by decide) ?_
                                                                exact ih _ _ _ _ _ h hk
                                                              · refine AW.iconst dL_law_1184 ?_
                                                                cases h
                                                                exact AW.zret (z := 0) dL_law_1185 rfl zz0
                                                            · rcases ite_or h with ⟨c520, h⟩ | ⟨c520, h⟩
                                                              · refine AW.tIn 28 1186 dL_law_33 (by omega) (by decide) rfl (by decide) ?_
                                                                refine AW.aload_n dL_law_1186 rfl ?_
                                                                refine AW.aload_n dL_law_1187 rfl ?_
                                                                refine AW.iload_n dL_law_1188 rfl ?_
                                                                refine AW.iconst dL_law_1189 ?_
                                                                refine AW.iadd dL_law_1190 ?_
                                                                refine AW.iald (t := 151) dL_law_1191 (Nat.le_of_ble_eq_true rfl) rfl h (fun v321 h => ?_)
                                                                refine AW.aload_n dL_law_1192 rfl ?_
                                                                refine AW.iload_n dL_law_1193 rfl ?_
                                                                refine AW.iconst dL_law_1194 ?_
                                                                refine AW.iadd dL_law_1195 ?_
                                                                refine AW.iald (t := 151) dL_law_1196 (Nat.le_of_ble_eq_true rfl) rfl h (fun v322 h => ?_)
                                                                refine AW.lVI (M' := m_X0_willBe) (t := 0) hd [iV v321, iV v322] [] dL_law_1197 q1433 q1434 q1435 q121 q1436 ck0 rfl n_X0_willBe rfl rfl rfl (fun _ _ _ e => c_X0_willBe e) h (fun v323 s324 h => ?_)
                                                                refine AW.aload_n dL_law_1200 rfl ?_
                                                                refine AW.aload_n dL_law_1201 rfl ?_
                                                                refine AW.iload_n dL_law_1202 rfl ?_
                                                                refine AW.iconst dL_law_1203 ?_
                                                                refine AW.iadd dL_law_1204 ?_
                                                                refine AW.iald (t := 151) dL_law_1205 (Nat.le_of_ble_eq_true rfl) rfl h (fun v326 h => ?_)
                                                                refine AW.aload_n dL_law_1206 rfl ?_
                                                                refine AW.iload_n dL_law_1207 rfl ?_
                                                                refine AW.iconst dL_law_1208 ?_
                                                                refine AW.iadd dL_law_1209 ?_
                                                                refine AW.iald (t := 151) dL_law_1210 (Nat.le_of_ble_eq_true rfl) rfl h (fun v327 h => ?_)
                                                                refine AW.mVI (M' := m_X8_willBe) [iV v326, iV v327] [iV v323] dL_law_1211 q2107 q2108 q2109 q139 q2110 rfl n_X8_willBe rfl rfl rfl (fun _ _ e => c_X8_willBe e) h (fun v328 s329 h => ?_)
                                                                refine AW.icmp_eq 1750 dL_law_1214 (by decide) h (fun c331 h => ?_) (fun c331 h => ?_)
                                                                · refine AW.iinc (L' := [some (rV x0), some (rV x1), some (rV (some b)), some (iV (x3 + 6))]) dL_law_1750 rfl (Nat.le_of_ble_eq_true rfl) rfl rfl ?_
                                                                  refine AW.goto (tgt := 18) dL_law_1753 (by decide) ?_
                                                                  exact ih _ _ _ _ _ h hk
                                                                · refine AW.iconst dL_law_1217 ?_
                                                                  cases h
                                                                  exact AW.zret (z := 0) dL_law_1218 rfl zz0
                                                              · rcases ite_or h with ⟨c519, h⟩ | ⟨c519, h⟩
                                                                · refine AW.tIn 29 1219 dL_law_33 (by omega) (by decide) rfl (by decide) ?_
                                                                  refine AW.aload_n dL_law_1219 rfl ?_
                                                                  refine AW.aload_n dL_law_1220 rfl ?_
                                                                  refine AW.iload_n dL_law_1221 rfl ?_
                                                                  refine AW.iconst dL_law_1222 ?_
                                                                  refine AW.iadd dL_law_1223 ?_
                                                                  refine AW.iald (t := 151) dL_law_1224 (Nat.le_of_ble_eq_true rfl) rfl h (fun v332 h => ?_)
                                                                  refine AW.aload_n dL_law_1225 rfl ?_
                                                                  refine AW.iload_n dL_law_1226 rfl ?_
                                                                  refine AW.iconst dL_law_1227 ?_
                                                                  refine AW.iadd dL_law_1228 ?_
                                                                  refine AW.iald (t := 151) dL_law_1229 (Nat.le_of_ble_eq_true rfl) rfl h (fun v333 h => ?_)
                                                                  refine AW.aload_n dL_law_1230 rfl ?_
                                                                  refine AW.iload_n dL_law_1231 rfl ?_
                                                                  refine AW.iconst dL_law_1232 ?_
                                                                  refine AW.iadd dL_law_1233 ?_
                                                                  refine AW.iald (t := 151) dL_law_1234 (Nat.le_of_ble_eq_true rfl) rfl h (fun v334 h => ?_)
                                                                  refine AW.lVI (M' := m_X0_rests) (t := 0) hd [iV v332, iV v333, iV v334] [] dL_law_1235 q1437 q1438 q1439 q121 q1440 ck0 rfl n_X0_rests rfl rfl rfl (fun _ _ _ e => c_X0_rests e) h (fun v335 s336 h => ?_)
                                                                  refine AW.aload_n dL_law_1238 rfl ?_
                                                                  refine AW.aload_n dL_law_1239 rfl ?_
                                                                  refine AW.iload_n dL_law_1240 rfl ?_
                                                                  refine AW.iconst dL_law_1241 ?_
                                                                  refine AW.iadd dL_law_1242 ?_
                                                                  refine AW.iald (t := 151) dL_law_1243 (Nat.le_of_ble_eq_true rfl) rfl h (fun v338 h => ?_)
                                                                  refine AW.aload_n dL_law_1244 rfl ?_
                                                                  refine AW.iload_n dL_law_1245 rfl ?_
                                                                  refine AW.iconst dL_law_1246 ?_
                                                                  refine AW.iadd dL_law_1247 ?_
                                                                  refine AW.iald (t := 151) dL_law_1248 (Nat.le_of_ble_eq_true rfl) rfl h (fun v339 h => ?_)
                                                                  refine AW.aload_n dL_law_1249 rfl ?_
                                                                  refine AW.iload_n dL_law_1250 rfl ?_
                                                                  refine AW.iconst dL_law_1251 ?_
                                                                  refine AW.iadd dL_law_1252 ?_
                                                                  refine AW.iald (t := 151) dL_law_1253 (Nat.le_of_ble_eq_true rfl) rfl h (fun v340 h => ?_)
                                                                  refine AW.mVI (M' := m_X8_rests) [iV v338, iV v339, iV v340] [iV v335] dL_law_1254 q2139 q2140 q2141 q139 q2142 rfl n_X8_rests rfl rfl rfl (fun _ _ e => c_X8_rests e) h (fun v341 s342 h => ?_)
                                                                  refine AW.icmp_eq 1750 dL_law_1257 (by decide) h (fun c344 h => ?_) (fun c344 h => ?_)
                                                                  · refine AW.iinc (L' := [some (rV x0), some (rV x1), some (rV (some b)), some (iV (x3 + 6))]) dL_law_1750 rfl (Nat.le_of_ble_eq_true rfl) rfl rfl ?_
                                                                    refine AW.goto (tgt := 18) dL_law_1753 (by decide) ?_
                                                                    exact ih _ _ _ _ _ h hk
                                                                  · refine AW.iconst dL_law_1260 ?_
                                                                    cases h
                                                                    exact AW.zret (z := 0) dL_law_1261 rfl zz0
                                                                · rcases ite_or h with ⟨c518, h⟩ | ⟨c518, h⟩
                                                                  · refine AW.tIn 30 1262 dL_law_33 (by omega) (by decide) rfl (by decide) ?_
                                                                    refine AW.aload_n dL_law_1262 rfl ?_
                                                                    refine AW.aload_n dL_law_1263 rfl ?_
                                                                    refine AW.iload_n dL_law_1264 rfl ?_
                                                                    refine AW.iconst dL_law_1265 ?_
                                                                    refine AW.iadd dL_law_1266 ?_
                                                                    refine AW.iald (t := 151) dL_law_1267 (Nat.le_of_ble_eq_true rfl) rfl h (fun v345 h => ?_)
                                                                    refine AW.aload_n dL_law_1268 rfl ?_
                                                                    refine AW.iload_n dL_law_1269 rfl ?_
                                                                    refine AW.iconst dL_law_1270 ?_
                                                                    refine AW.iadd dL_law_1271 ?_
                                                                    refine AW.iald (t := 151) dL_law_1272 (Nat.le_of_ble_eq_true rfl) rfl h (fun v346 h => ?_)
                                                                    refine AW.lVI (M' := m_X0_still) (t := 0) hd [iV v345, iV v346] [] dL_law_1273 q1374 q1375 q1376 q121 q1377 ck0 rfl n_X0_still rfl rfl rfl (fun _ _ _ e => c_X0_still e) h (fun v347 s348 h => ?_)
                                                                    refine AW.aload_n dL_law_1276 rfl ?_
                                                                    refine AW.aload_n dL_law_1277 rfl ?_
                                                                    refine AW.iload_n dL_law_1278 rfl ?_
                                                                    refine AW.iconst dL_law_1279 ?_
                                                                    refine AW.iadd dL_law_1280 ?_
                                                                    refine AW.iald (t := 151) dL_law_1281 (Nat.le_of_ble_eq_true rfl) rfl h (fun v350 h => ?_)
                                                                    refine AW.aload_n dL_law_1282 rfl ?_
                                                                    refine AW.iload_n dL_law_1283 rfl ?_
                                                                    refine AW.iconst dL_law_1284 ?_
                                                                    refine AW.iadd dL_law_1285 ?_
                                                                    refine AW.iald (t := 151) dL_law_1286 (Nat.le_of_ble_eq_true rfl) rfl h (fun v351 h => ?_)
                                                                    refine AW.mVI (M' := m_X8_still) [iV v350, iV v351] [iV v347] dL_law_1287 q2076 q2077 q2078 q139 q2079 rfl n_X8_still rfl rfl rfl (fun _ _ e => c_X8_still e) h (fun v352 s353 h => ?_)
                                                                    refine AW.icmp_eq 1750 dL_law_1290 (by decide) h (fun c355 h => ?_) (fun c355 h => ?_)
                                                                    · refine AW.iinc (L' := [some (rV x0), some (rV x1), some (rV (some b)), some (iV (x3 + 6))]) dL_law_1750 rfl (Nat.le_of_ble_eq_true rfl) rfl rfl ?_
                                                                      refine AW.goto (tgt := 18) dL_law_1753 (by decide) ?_
                                                                      exact ih _ _ _ _ _ h hk
                                                                    · refine AW.iconst dL_law_1293 ?_
                                                                      cases h
                                                                      exact AW.zret (z := 0) dL_law_1294 rfl zz0
                                                                  · rcases ite_or h with ⟨c517, h⟩ | ⟨c517, h⟩
                                                                    · refine AW.tIn 31 1295 dL_law_33 (by omega) (by decide) rfl (by decide) ?_
                                                                      refine AW.aload_n dL_law_1295 rfl ?_
                                                                      refine AW.aload_n dL_law_1296 rfl ?_
                                                                      refine AW.iload_n dL_law_1297 rfl ?_
                                                                      refine AW.iconst dL_law_1298 ?_
                                                                      refine AW.iadd dL_law_1299 ?_
                                                                      refine AW.iald (t := 151) dL_law_1300 (Nat.le_of_ble_eq_true rfl) rfl h (fun v356 h => ?_)
                                                                      refine AW.aload_n dL_law_1301 rfl ?_
                                                                      refine AW.iload_n dL_law_1302 rfl ?_
                                                                      refine AW.iconst dL_law_1303 ?_
                                                                      refine AW.iadd dL_law_1304 ?_
                                                                      refine AW.iald (t := 151) dL_law_1305 (Nat.le_of_ble_eq_true rfl) rfl h (fun v357 h => ?_)
                                                                      refine AW.aload_n dL_law_1306 rfl ?_
                                                                      refine AW.iload_n dL_law_1307 rfl ?_
                                                                      refine AW.iconst dL_law_1308 ?_
                                                                      refine AW.iadd dL_law_1309 ?_
                                                                      refine AW.iald (t := 151) dL_law_1310 (Nat.le_of_ble_eq_true rfl) rfl h (fun v358 h => ?_)
                                                                      refine AW.lVI (M' := m_X0_soonest) (t := 0) hd [iV v356, iV v357, iV v358] [] dL_law_1311 q1386 q1387 q1388 q121 q1389 ck0 rfl n_X0_soonest rfl rfl rfl (fun _ _ _ e => c_X0_soonest e) h (fun v359 s360 h => ?_)
                                                                      refine AW.aload_n dL_law_1314 rfl ?_
                                                                      refine AW.aload_n dL_law_1315 rfl ?_
                                                                      refine AW.iload_n dL_law_1316 rfl ?_
                                                                      refine AW.iconst dL_law_1317 ?_
                                                                      refine AW.iadd dL_law_1318 ?_
                                                                      refine AW.iald (t := 151) dL_law_1319 (Nat.le_of_ble_eq_true rfl) rfl h (fun v362 h => ?_)
                                                                      refine AW.aload_n dL_law_1320 rfl ?_
                                                                      refine AW.iload_n dL_law_1321 rfl ?_
                                                                      refine AW.iconst dL_law_1322 ?_
                                                                      refine AW.iadd dL_law_1323 ?_
                                                                      refine AW.iald (t := 151) dL_law_1324 (Nat.le_of_ble_eq_true rfl) rfl h (fun v363 h => ?_)
                                                                      refine AW.aload_n dL_law_1325 rfl ?_
                                                                      refine AW.iload_n dL_law_1326 rfl ?_
                                                                      refine AW.iconst dL_law_1327 ?_
                                                                      refine AW.iadd dL_law_1328 ?_
                                                                      refine AW.iald (t := 151) dL_law_1329 (Nat.le_of_ble_eq_true rfl) rfl h (fun v364 h => ?_)
                                                                      refine AW.mVI (M' := m_X8_soonest) [iV v362, iV v363, iV v364] [iV v359] dL_law_1330 q2088 q2089 q2090 q139 q2091 rfl n_X8_soonest rfl rfl rfl (fun _ _ e => c_X8_soonest e) h (fun v365 s366 h => ?_)
                                                                      refine AW.icmp_eq 1750 dL_law_1333 (by decide) h (fun c368 h => ?_) (fun c368 h => ?_)
                                                                      · refine AW.iinc (L' := [some (rV x0), some (rV x1), some (rV (some b)), some (iV (x3 + 6))]) dL_law_1750 rfl (Nat.le_of_ble_eq_true rfl) rfl rfl ?_
                                                                        refine AW.goto (tgt := 18) dL_law_1753 (by decide) ?_
                                                                        exact ih _ _ _ _ _ h hk
                                                                      · refine AW.iconst dL_law_1336 ?_
                                                                        cases h
                                                                        exact AW.zret (z := 0) dL_law_1337 rfl zz0
                                                                    · rcases ite_or h with ⟨c516, h⟩ | ⟨c516, h⟩
                                                                      · refine AW.tIn 32 1338 dL_law_33 (by omega) (by decide) rfl (by decide) ?_
                                                                        refine AW.aload_n dL_law_1338 rfl ?_
                                                                        refine AW.aload_n dL_law_1339 rfl ?_
                                                                        refine AW.iload_n dL_law_1340 rfl ?_
                                                                        refine AW.iconst dL_law_1341 ?_
                                                                        refine AW.iadd dL_law_1342 ?_
                                                                        refine AW.iald (t := 151) dL_law_1343 (Nat.le_of_ble_eq_true rfl) rfl h (fun v369 h => ?_)
                                                                        refine AW.aload_n dL_law_1344 rfl ?_
                                                                        refine AW.iload_n dL_law_1345 rfl ?_
                                                                        refine AW.iconst dL_law_1346 ?_
                                                                        refine AW.iadd dL_law_1347 ?_
                                                                        refine AW.iald (t := 151) dL_law_1348 (Nat.le_of_ble_eq_true rfl) rfl h (fun v370 h => ?_)
                                                                        refine AW.lVI (M' := m_X0_seen) (t := 0) hd [iV v369, iV v370] [] dL_law_1349 q1390 q1391 q1392 q121 q1393 ck0 rfl n_X0_seen rfl rfl rfl (fun _ _ _ e => c_X0_seen e) h (fun v371 s372 h => ?_)
                                                                        refine AW.aload_n dL_law_1352 rfl ?_
                                                                        refine AW.aload_n dL_law_1353 rfl ?_
                                                                        refine AW.iload_n dL_law_1354 rfl ?_
                                                                        refine AW.iconst dL_law_1355 ?_
                                                                        refine AW.iadd dL_law_1356 ?_
                                                                        refine AW.iald (t := 151) dL_law_1357 (Nat.le_of_ble_eq_true rfl) rfl h (fun v374 h => ?_)
                                                                        refine AW.aload_n dL_law_1358 rfl ?_
                                                                        refine AW.iload_n dL_law_1359 rfl ?_
                                                                        refine AW.iconst dL_law_1360 ?_
                                                                        refine AW.iadd dL_law_1361 ?_
                                                                        refine AW.iald (t := 151) dL_law_1362 (Nat.le_of_ble_eq_true rfl) rfl h (fun v375 h => ?_)
                                                                        refine AW.mVI (M' := m_X8_seen) [iV v374, iV v375] [iV v371] dL_law_1363 q2092 q2093 q2094 q139 q2095 rfl n_X8_seen rfl rfl rfl (fun _ _ e => c_X8_seen e) h (fun v376 s377 h => ?_)
                                                                        refine AW.icmp_eq 1750 dL_law_1366 (by decide) h (fun c379 h => ?_) (fun c379 h => ?_)
                                                                        · refine AW.iinc (L' := [some (rV x0), some (rV x1), some (rV (some b)), some (iV (x3 + 6))]) dL_law_1750 rfl (Nat.le_of_ble_eq_true rfl) rfl rfl ?_
                                                                          refine AW.goto (tgt := 18) dL_law_1753 (by decide) ?_
                                                                          exact ih _ _ _ _ _ h hk
                                                                        · refine AW.iconst dL_law_1369 ?_
                                                                          cases h
                                                                          exact AW.zret (z := 0) dL_law_1370 rfl zz0
                                                                      · rcases ite_or h with ⟨c515, h⟩ | ⟨c515, h⟩
                                                                        · refine AW.tIn 33 1371 dL_law_33 (by omega) (by decide) rfl (by decide) ?_
                                                                          refine AW.aload_n dL_law_1371 rfl ?_
                                                                          refine AW.aload_n dL_law_1372 rfl ?_
                                                                          refine AW.iload_n dL_law_1373 rfl ?_
                                                                          refine AW.iconst dL_law_1374 ?_
                                                                          refine AW.iadd dL_law_1375 ?_
                                                                          refine AW.iald (t := 151) dL_law_1376 (Nat.le_of_ble_eq_true rfl) rfl h (fun v380 h => ?_)
                                                                          refine AW.aload_n dL_law_1377 rfl ?_
                                                                          refine AW.iload_n dL_law_1378 rfl ?_
                                                                          refine AW.iconst dL_law_1379 ?_
                                                                          refine AW.iadd dL_law_1380 ?_
                                                                          refine AW.iald (t := 151) dL_law_1381 (Nat.le_of_ble_eq_true rfl) rfl h (fun v381 h => ?_)
                                                                          refine AW.aload_n dL_law_1382 rfl ?_
                                                                          refine AW.iload_n dL_law_1383 rfl ?_
                                                                          refine AW.iconst dL_law_1384 ?_
                                                                          refine AW.iadd dL_law_1385 ?_
                                                                          refine AW.iald (t := 151) dL_law_1386 (Nat.le_of_ble_eq_true rfl) rfl h (fun v382 h => ?_)
                                                                          refine AW.lVI (M' := m_X0_jolt) (t := 0) hd [iV v380, iV v381, iV v382] [] dL_law_1387 q1402 q1403 q1404 q121 q1405 ck0 rfl n_X0_jolt rfl rfl rfl (fun _ _ _ e => c_X0_jolt e) h (fun v383 s384 h => ?_)
                                                                          refine AW.aload_n dL_law_1390 rfl ?_
                                                                          refine AW.aload_n dL_law_1391 rfl ?_
                                                                          refine AW.iload_n dL_law_1392 rfl ?_
                                                                          refine AW.iconst dL_law_1393 ?_
                                                                          refine AW.iadd dL_law_1394 ?_
                                                                          refine AW.iald (t := 151) dL_law_1395 (Nat.le_of_ble_eq_true rfl) rfl h (fun v386 h => ?_)
                                                                          refine AW.aload_n dL_law_1396 rfl ?_
                                                                          refine AW.iload_n dL_law_1397 rfl ?_
                                                                          refine AW.iconst dL_law_1398 ?_
                                                                          refine AW.iadd dL_law_1399 ?_
                                                                          refine AW.iald (t := 151) dL_law_1400 (Nat.le_of_ble_eq_true rfl) rfl h (fun v387 h => ?_)
                                                                          refine AW.aload_n dL_law_1401 rfl ?_
                                                                          refine AW.iload_n dL_law_1402 rfl ?_
                                                                          refine AW.iconst dL_law_1403 ?_
                                                                          refine AW.iadd dL_law_1404 ?_
                                                                          refine AW.iald (t := 151) dL_law_1405 (Nat.le_of_ble_eq_true rfl) rfl h (fun v388 h => ?_)
                                                                          refine AW.mVI (M' := m_X8_jolt) [iV v386, iV v387, iV v388] [iV v383] dL_law_1406 q2151 q2152 q2153 q139 q2154 rfl n_X8_jolt rfl rfl rfl (fun _ _ e => c_X8_jolt e) h (fun v389 s390 h => ?_)
                                                                          refine AW.icmp_eq 1750 dL_law_1409 (by decide) h (fun c392 h => ?_) (fun c392 h => ?_)
                                                                          · refine AW.iinc (L' := [some (rV x0), some (rV x1), some (rV (some b)), some (iV (x3 + 6))]) dL_law_1750 rfl (Nat.le_of_ble_eq_true rfl) rfl rfl ?_
                                                                            refine AW.goto (tgt := 18) dL_law_1753 (by decide) ?_
                                                                            exact ih _ _ _ _ _ h hk
                                                                          · refine AW.iconst dL_law_1412 ?_
                                                                            cases h
                                                                            exact AW.zret (z := 0) dL_law_1413 rfl zz0
                                                                        · rcases ite_or h with ⟨c514, h⟩ | ⟨c514, h⟩
                                                                          · refine AW.tIn 34 1414 dL_law_33 (by omega) (by decide) rfl (by decide) ?_
                                                                            refine AW.aload_n dL_law_1414 rfl ?_
                                                                            refine AW.aload_n dL_law_1415 rfl ?_
                                                                            refine AW.iload_n dL_law_1416 rfl ?_
                                                                            refine AW.iconst dL_law_1417 ?_
                                                                            refine AW.iadd dL_law_1418 ?_
                                                                            refine AW.iald (t := 151) dL_law_1419 (Nat.le_of_ble_eq_true rfl) rfl h (fun v393 h => ?_)
                                                                            refine AW.aload_n dL_law_1420 rfl ?_
                                                                            refine AW.iload_n dL_law_1421 rfl ?_
                                                                            refine AW.iconst dL_law_1422 ?_
                                                                            refine AW.iadd dL_law_1423 ?_
                                                                            refine AW.iald (t := 151) dL_law_1424 (Nat.le_of_ble_eq_true rfl) rfl h (fun v394 h => ?_)
                                                                            refine AW.aload_n dL_law_1425 rfl ?_
                                                                            refine AW.iload_n dL_law_1426 rfl ?_
                                                                            refine AW.iconst dL_law_1427 ?_
                                                                            refine AW.iadd dL_law_1428 ?_
                                                                            refine AW.iald (t := 151) dL_law_1429 (Nat.le_of_ble_eq_true rfl) rfl h (fun v395 h => ?_)
                                                                            refine AW.lVI (M' := m_X0_hidden) (t := 0) hd [iV v393, iV v394, iV v395] [] dL_law_1430 q1412 q1413 q1414 q121 q1415 ck0 rfl n_X0_hidden rfl rfl rfl (fun _ _ _ e => c_X0_hidden e) h (fun v396 s397 h => ?_)
                                                                            refine AW.aload_n dL_law_1433 rfl ?_
                                                                            refine AW.aload_n dL_law_1434 rfl ?_
                                                                            refine AW.iload_n dL_law_1435 rfl ?_
                                                                            refine AW.iconst dL_law_1436 ?_
                                                                            refine AW.iadd dL_law_1437 ?_
                                                                            refine AW.iald (t := 151) dL_law_1438 (Nat.le_of_ble_eq_true rfl) rfl h (fun v399 h => ?_)
                                                                            refine AW.aload_n dL_law_1439 rfl ?_
                                                                            refine AW.iload_n dL_law_1440 rfl ?_
                                                                            refine AW.iconst dL_law_1441 ?_
                                                                            refine AW.iadd dL_law_1442 ?_
                                                                            refine AW.iald (t := 151) dL_law_1443 (Nat.le_of_ble_eq_true rfl) rfl h (fun v400 h => ?_)
                                                                            refine AW.aload_n dL_law_1444 rfl ?_
                                                                            refine AW.iload_n dL_law_1445 rfl ?_
                                                                            refine AW.iconst dL_law_1446 ?_
                                                                            refine AW.iadd dL_law_1447 ?_
                                                                            refine AW.iald (t := 151) dL_law_1448 (Nat.le_of_ble_eq_true rfl) rfl h (fun v401 h => ?_)
                                                                            refine AW.mVI (M' := m_X8_hidden) [iV v399, iV v400, iV v401] [iV v396] dL_law_1449 q2123 q2124 q2125 q139 q2126 rfl n_X8_hidden rfl rfl rfl (fun _ _ e => c_X8_hidden e) h (fun v402 s403 h => ?_)
                                                                            refine AW.icmp_eq 1750 dL_law_1452 (by decide) h (fun c405 h => ?_) (fun c405 h => ?_)
                                                                            · refine AW.iinc (L' := [some (rV x0), some (rV x1), some (rV (some b)), some (iV (x3 + 6))]) dL_law_1750 rfl (Nat.le_of_ble_eq_true rfl) rfl rfl ?_
                                                                              refine AW.goto (tgt := 18) dL_law_1753 (by decide) ?_
                                                                              exact ih _ _ _ _ _ h hk
                                                                            · refine AW.iconst dL_law_1455 ?_
                                                                              cases h
                                                                              exact AW.zret (z := 0) dL_law_1456 rfl zz0
                                                                          · rcases ite_or h with ⟨c513, h⟩ | ⟨c513, h⟩
                                                                            · refine AW.tIn 35 1457 dL_law_33 (by omega) (by decide) rfl (by decide) ?_
                                                                              refine AW.aload_n dL_law_1457 rfl ?_
                                                                              refine AW.aload_n dL_law_1458 rfl ?_
                                                                              refine AW.iload_n dL_law_1459 rfl ?_
                                                                              refine AW.iconst dL_law_1460 ?_
                                                                              refine AW.iadd dL_law_1461 ?_
                                                                              refine AW.iald (t := 151) dL_law_1462 (Nat.le_of_ble_eq_true rfl) rfl h (fun v406 h => ?_)
                                                                              refine AW.lVI (M' := m_X0_stand) (t := 0) hd [iV v406] [] dL_law_1463 q1449 q1450 q1451 q121 q1452 ck0 rfl n_X0_stand rfl rfl rfl (fun _ _ _ e => c_X0_stand e) h (fun v407 s408 h => ?_)
                                                                              refine AW.aload_n dL_law_1466 rfl ?_
                                                                              refine AW.aload_n dL_law_1467 rfl ?_
                                                                              refine AW.iload_n dL_law_1468 rfl ?_
                                                                              refine AW.iconst dL_law_1469 ?_
                                                                              refine AW.iadd dL_law_1470 ?_
                                                                              refine AW.iald (t := 151) dL_law_1471 (Nat.le_of_ble_eq_true rfl) rfl h (fun v410 h => ?_)
                                                                              refine AW.mVI (M' := m_X8_stand) [iV v410] [iV v407] dL_law_1472 q2131 q2132 q2133 q139 q2134 rfl n_X8_stand rfl rfl rfl (fun _ _ e => c_X8_stand e) h (fun v411 s412 h => ?_)
                                                                              refine AW.icmp_eq 1750 dL_law_1475 (by decide) h (fun c414 h => ?_) (fun c414 h => ?_)
                                                                              · refine AW.iinc (L' := [some (rV x0), some (rV x1), some (rV (some b)), some (iV (x3 + 6))]) dL_law_1750 rfl (Nat.le_of_ble_eq_true rfl) rfl rfl ?_
                                                                                refine AW.goto (tgt := 18) dL_law_1753 (by decide) ?_
                                                                                exact ih _ _ _ _ _ h hk
                                                                              · refine AW.iconst dL_law_1478 ?_
                                                                                cases h
                                                                                exact AW.zret (z := 0) dL_law_1479 rfl zz0
                                                                            · rcases ite_or h with ⟨c512, h⟩ | ⟨c512, h⟩
                                                                              · refine AW.tIn 36 1480 dL_law_33 (by omega) (by decide) rfl (by decide) ?_
                                                                                refine AW.aload_n dL_law_1480 rfl ?_
                                                                                refine AW.aload_n dL_law_1481 rfl ?_
                                                                                refine AW.iload_n dL_law_1482 rfl ?_
                                                                                refine AW.iconst dL_law_1483 ?_
                                                                                refine AW.iadd dL_law_1484 ?_
                                                                                refine AW.iald (t := 151) dL_law_1485 (Nat.le_of_ble_eq_true rfl) rfl h (fun v415 h => ?_)
                                                                                refine AW.aload_n dL_law_1486 rfl ?_
                                                                                refine AW.iload_n dL_law_1487 rfl ?_
                                                                                refine AW.iconst dL_law_1488 ?_
                                                                                refine AW.iadd dL_law_1489 ?_
                                                                                refine AW.iald (t := 151) dL_law_1490 (Nat.le_of_ble_eq_true rfl) rfl h (fun v416 h => ?_)
                                                                                refine AW.lVI (M' := m_X0_turned) (t := 0) hd [iV v415, iV v416] [] dL_law_1491 q1398 q1399 q1400 q121 q1401 ck0 rfl n_X0_turned rfl rfl rfl (fun _ _ _ e => c_X0_turned e) h (fun v417 s418 h => ?_)
                                                                                refine AW.aload_n dL_law_1494 rfl ?_
                                                                                refine AW.aload_n dL_law_1495 rfl ?_
                                                                                refine AW.iload_n dL_law_1496 rfl ?_
                                                                                refine AW.iconst dL_law_1497 ?_
                                                                                refine AW.iadd dL_law_1498 ?_
                                                                                refine AW.iald (t := 151) dL_law_1499 (Nat.le_of_ble_eq_true rfl) rfl h (fun v420 h => ?_)
                                                                                refine AW.aload_n dL_law_1500 rfl ?_
                                                                                refine AW.iload_n dL_law_1501 rfl ?_
                                                                                refine AW.iconst dL_law_1502 ?_
                                                                                refine AW.iadd dL_law_1503 ?_
                                                                                refine AW.iald (t := 151) dL_law_1504 (Nat.le_of_ble_eq_true rfl) rfl h (fun v421 h => ?_)
                                                                                refine AW.mVI (M' := m_X8_turned) [iV v420, iV v421] [iV v417] dL_law_1505 q2103 q2104 q2105 q139 q2106 rfl n_X8_turned rfl rfl rfl (fun _ _ e => c_X8_turned e) h (fun v422 s423 h => ?_)
                                                                                refine AW.icmp_eq 1750 dL_law_1508 (by decide) h (fun c425 h => ?_) (fun c425 h => ?_)
                                                                                · refine AW.iinc (L' := [some (rV x0), some (rV x1), some (rV (some b)), some (iV (x3 + 6))]) dL_law_1750 rfl (Nat.le_of_ble_eq_true rfl) rfl rfl ?_
                                                                                  refine AW.goto (tgt := 18) dL_law_1753 (by decide) ?_
                                                                                  exact ih _ _ _ _ _ h hk
                                                                                · refine AW.iconst dL_law_1511 ?_
                                                                                  cases h
                                                                                  exact AW.zret (z := 0) dL_law_1512 rfl zz0
                                                                              · rcases ite_or h with ⟨c511, h⟩ | ⟨c511, h⟩
                                                                                · refine AW.tIn 37 1513 dL_law_33 (by omega) (by decide) rfl (by decide) ?_
                                                                                  refine AW.aload_n dL_law_1513 rfl ?_
                                                                                  refine AW.aload_n dL_law_1514 rfl ?_
                                                                                  refine AW.iload_n dL_law_1515 rfl ?_
                                                                                  refine AW.iconst dL_law_1516 ?_
                                                                                  refine AW.iadd dL_law_1517 ?_
                                                                                  refine AW.iald (t := 151) dL_law_1518 (Nat.le_of_ble_eq_true rfl) rfl h (fun v426 h => ?_)
                                                                                  refine AW.aload_n dL_law_1519 rfl ?_
                                                                                  refine AW.iload_n dL_law_1520 rfl ?_
                                                                                  refine AW.iconst dL_law_1521 ?_
                                                                                  refine AW.iadd dL_law_1522 ?_
                                                                                  refine AW.iald (t := 151) dL_law_1523 (Nat.le_of_ble_eq_true rfl) rfl h (fun v427 h => ?_)
                                                                                  refine AW.aload_n dL_law_1524 rfl ?_
                                                                                  refine AW.iload_n dL_law_1525 rfl ?_
                                                                                  refine AW.iconst dL_law_1526 ?_
                                                                                  refine AW.iadd dL_law_1527 ?_
                                                                                  refine AW.iald (t := 151) dL_law_1528 (Nat.le_of_ble_eq_true rfl) rfl h (fun v428 h => ?_)
                                                                                  refine AW.lVI (M' := m_X0_odds) (t := 0) hd [iV v426, iV v427, iV v428] [] dL_law_1529 q1408 q1409 q1410 q121 q1411 ck0 rfl n_X0_odds rfl rfl rfl (fun _ _ _ e => c_X0_odds e) h (fun v429 s430 h => ?_)
                                                                                  refine AW.aload_n dL_law_1532 rfl ?_
                                                                                  refine AW.aload_n dL_law_1533 rfl ?_
                                                                                  refine AW.iload_n dL_law_1534 rfl ?_
                                                                                  refine AW.iconst dL_law_1535 ?_
                                                                                  refine AW.iadd dL_law_1536 ?_
                                                                                  refine AW.iald (t := 151) dL_law_1537 (Nat.le_of_ble_eq_true rfl) rfl h (fun v432 h => ?_)
                                                                                  refine AW.aload_n dL_law_1538 rfl ?_
                                                                                  refine AW.iload_n dL_law_1539 rfl ?_
                                                                                  refine AW.iconst dL_law_1540 ?_
                                                                                  refine AW.iadd dL_law_1541 ?_
                                                                                  refine AW.iald (t := 151) dL_law_1542 (Nat.le_of_ble_eq_true rfl) rfl h (fun v433 h => ?_)
                                                                                  refine AW.aload_n dL_law_1543 rfl ?_
                                                                                  refine AW.iload_n dL_law_1544 rfl ?_
                                                                                  refine AW.iconst dL_law_1545 ?_
                                                                                  refine AW.iadd dL_law_1546 ?_
                                                                                  refine AW.iald (t := 151) dL_law_1547 (Nat.le_of_ble_eq_true rfl) rfl h (fun v434 h => ?_)
                                                                                  refine AW.mVI (M' := m_X8_odds) [iV v432, iV v433, iV v434] [iV v429] dL_law_1548 q2111 q2112 q2113 q139 q2114 rfl n_X8_odds rfl rfl rfl (fun _ _ e => c_X8_odds e) h (fun v435 s436 h => ?_)
                                                                                  refine AW.icmp_eq 1750 dL_law_1551 (by decide) h (fun c438 h => ?_) (fun c438 h => ?_)
                                                                                  · refine AW.iinc (L' := [some (rV x0), some (rV x1), some (rV (some b)), some (iV (x3 + 6))]) dL_law_1750 rfl (Nat.le_of_ble_eq_true rfl) rfl rfl ?_
                                                                                    refine AW.goto (tgt := 18) dL_law_1753 (by decide) ?_
                                                                                    exact ih _ _ _ _ _ h hk
                                                                                  · refine AW.iconst dL_law_1554 ?_
                                                                                    cases h
                                                                                    exact AW.zret (z := 0) dL_law_1555 rfl zz0
                                                                                · rcases ite_or h with ⟨c510, h⟩ | ⟨c510, h⟩
                                                                                  · refine AW.tIn 38 1556 dL_law_33 (by omega) (by decide) rfl (by decide) ?_
                                                                                    refine AW.aload_n dL_law_1556 rfl ?_
                                                                                    refine AW.aload_n dL_law_1557 rfl ?_
                                                                                    refine AW.iload_n dL_law_1558 rfl ?_
                                                                                    refine AW.iconst dL_law_1559 ?_
                                                                                    refine AW.iadd dL_law_1560 ?_
                                                                                    refine AW.iald (t := 151) dL_law_1561 (Nat.le_of_ble_eq_true rfl) rfl h (fun v439 h => ?_)
                                                                                    refine AW.aload_n dL_law_1562 rfl ?_
                                                                                    refine AW.iload_n dL_law_1563 rfl ?_
                                                                                    refine AW.iconst dL_law_1564 ?_
                                                                                    refine AW.iadd dL_law_1565 ?_
                                                                                    refine AW.iald (t := 151) dL_law_1566 (Nat.le_of_ble_eq_true rfl) rfl h (fun v440 h => ?_)
                                                                                    refine AW.aload_n dL_law_1567 rfl ?_
                                                                                    refine AW.iload_n dL_law_1568 rfl ?_
                                                                                    refine AW.iconst dL_law_1569 ?_
                                                                                    refine AW.iadd dL_law_1570 ?_
                                                                                    refine AW.iald (t := 151) dL_law_1571 (Nat.le_of_ble_eq_true rfl) rfl h (fun v441 h => ?_)
                                                                                    refine AW.aload_n dL_law_1572 rfl ?_
                                                                                    refine AW.iload_n dL_law_1573 rfl ?_
                                                                                    refine AW.iconst dL_law_1574 ?_
                                                                                    refine AW.iadd dL_law_1575 ?_
                                                                                    refine AW.iald (t := 151) dL_law_1576 (Nat.le_of_ble_eq_true rfl) rfl h (fun v442 h => ?_)
                                                                                    refine jn_elim h (fun (j : (LSt → Option Nat → Option Nat → Int → Option Nat → Int → Int → Int → Int → Option (Int × LSt))) => ∀ (s443 : LSt) (x0 : Option Nat) (x1 : Option Nat) (x3 : Int) (y0 : Option Nat) (y1 : Int) (y2 : Int) (y3 : Int) (y4 : Int), j s443 x0 x1 x3 y0 y1 y2 y3 y4 = some w → AW m_L_law σ0 (lI b w) 1585 [some (rV x0), some (rV x1), some (rV (some b)), some (iV x3)] [iV y4, iV y3, iV y2, iV y1, rV y0] (insT b s443.1 s443.2)) ?_ (fun j1585 hj1585 h => ?_)
                                                                                    · intro s443 x0 x1 x3 y0 y1 y2 y3 y4 h
                                                                                      refine AW.lVI (M' := m_X0_tell) (t := 0) hd [iV y1, iV y2, iV y3, iV y4] [] dL_law_1585 q1453 q1454 q1455 q121 q1456 ck0 rfl n_X0_tell rfl rfl rfl (fun _ _ _ e => c_X0_tell e) h (fun v444 s445 h => ?_)
                                                                                      refine AW.aload_n dL_law_1588 rfl ?_
                                                                                      refine AW.aload_n dL_law_1589 rfl ?_
                                                                                      refine AW.iload_n dL_law_1590 rfl ?_
                                                                                      refine AW.iconst dL_law_1591 ?_
                                                                                      refine AW.iadd dL_law_1592 ?_
                                                                                      refine AW.iald (t := 151) dL_law_1593 (Nat.le_of_ble_eq_true rfl) rfl h (fun v447 h => ?_)
                                                                                      refine AW.aload_n dL_law_1594 rfl ?_
                                                                                      refine AW.iload_n dL_law_1595 rfl ?_
                                                                                      refine AW.iconst dL_law_1596 ?_
                                                                                      refine AW.iadd dL_law_1597 ?_
                                                                                      refine AW.iald (t := 151) dL_law_1598 (Nat.le_of_ble_eq_true rfl) rfl h (fun v448 h => ?_)
                                                                                      refine AW.aload_n dL_law_1599 rfl ?_
                                                                                      refine AW.iload_n dL_law_1600 rfl ?_
                                                                                      refine AW.iconst dL_law_1601 ?_
                                                                                      refine AW.iadd dL_law_1602 ?_
                                                                                      refine AW.iald (t := 151) dL_law_1603 (Nat.le_of_ble_eq_true rfl) rfl h (fun v449 h => ?_)
                                                                                      refine AW.aload_n dL_law_1604 rfl ?_
                                                                                      refine AW.iload_n dL_law_1605 rfl ?_
                                                                                      refine AW.iconst dL_law_1606 ?_
                                                                                      refine AW.iadd dL_law_1607 ?_
                                                                                      refine AW.iald (t := 151) dL_law_1608 (Nat.le_of_ble_eq_true rfl) rfl h (fun v450 h => ?_)
                                                                                      refine jn_elim h (fun (j : (LSt → Option Nat → Option Nat → Int → Int → Int → Int → Int → Int → Option (Int × LSt))) => ∀ (s451 : LSt) (x0 : Option Nat) (x1 : Option Nat) (x3 : Int) (y0 : Int) (y2 : Int) (y3 : Int) (y4 : Int) (y5 : Int), j s451 x0 x1 x3 y0 y2 y3 y4 y5 = some w → AW m_L_law σ0 (lI b w) 1617 [some (rV x0), some (rV x1), some (rV (some b)), some (iV x3)] [iV y5, iV y4, iV y3, iV y2, rV (some b), iV y0] (insT b s451.1 s451.2)) ?_ (fun j1617 hj1617 h => ?_)
                                                                                      · intro s451 x0 x1 x3 y0 y2 y3 y4 y5 h
                                                                                        refine AW.mVI (M' := m_X8_tell) [iV y2, iV y3, iV y4, iV y5] [iV y0] dL_law_1617 q2155 q2156 q2157 q139 q2158 rfl n_X8_tell rfl rfl rfl (fun _ _ e => c_X8_tell e) h (fun v452 s453 h => ?_)
                                                                                        refine AW.icmp_eq 1750 dL_law_1620 (by decide) h (fun c455 h => ?_) (fun c455 h => ?_)
                                                                                        · refine AW.iinc (L' := [some (rV x0), some (rV x1), some (rV (some b)), some (iV (x3 + 6))]) dL_law_1750 rfl (Nat.le_of_ble_eq_true rfl) rfl rfl ?_
                                                                                          refine AW.goto (tgt := 18) dL_law_1753 (by decide) ?_
                                                                                          exact ih _ _ _ _ _ h hk
                                                                                        · refine AW.iconst dL_law_1623 ?_
                                                                                          cases h
                                                                                          exact AW.zret (z := 0) dL_law_1624 rfl zz0
                                                                                      · refine AW.if_eq 1616 dL_law_1609 (by decide) h (fun c456 h => ?_) (fun c456 h => ?_)
                                                                                        · refine AW.iconst dL_law_1616 ?_
                                                                                          exact hj1617 _ _ _ _ _ _ _ _ _ h
                                                                                        · refine AW.iconst dL_law_1612 ?_
                                                                                          refine AW.goto (tgt := 1617) dL_law_1613 (by decide) ?_
                                                                                          exact hj1617 _ _ _ _ _ _ _ _ _ h
                                                                                    · refine AW.if_eq 1584 dL_law_1577 (by decide) h (fun c457 h => ?_) (fun c457 h => ?_)
                                                                                      · refine AW.iconst dL_law_1584 ?_
                                                                                        exact hj1585 _ _ _ _ _ _ _ _ _ h
                                                                                      · refine AW.iconst dL_law_1580 ?_
                                                                                        refine AW.goto (tgt := 1585) dL_law_1581 (by decide) ?_
                                                                                        exact hj1585 _ _ _ _ _ _ _ _ _ h
                                                                                  · rcases ite_or h with ⟨c509, h⟩ | ⟨c509, h⟩
                                                                                    · refine AW.tIn 39 1625 dL_law_33 (by omega) (by decide) rfl (by decide) ?_
                                                                                      refine AW.aload_n dL_law_1625 rfl ?_
                                                                                      refine AW.lVI (M' := m_X0_forget) (t := 0) hd [] [] dL_law_1626 q1457 q1458 q1459 q121 q1460 ck0 rfl n_X0_forget rfl rfl rfl (fun _ _ _ e => c_X0_forget e) h (fun v458 s459 h => ?_)
                                                                                      refine AW.aload_n dL_law_1629 rfl ?_
                                                                                      refine AW.mVI (M' := m_X8_forget) [] [iV v458] dL_law_1630 q2159 q2160 q2161 q139 q2162 rfl n_X8_forget rfl rfl rfl (fun _ _ e => c_X8_forget e) h (fun v461 s462 h => ?_)
                                                                                      refine AW.icmp_eq 1750 dL_law_1633 (by decide) h (fun c464 h => ?_) (fun c464 h => ?_)
                                                                                      · refine AW.iinc (L' := [some (rV x0), some (rV x1), some (rV (some b)), some (iV (x3 + 6))]) dL_law_1750 rfl (Nat.le_of_ble_eq_true rfl) rfl rfl ?_
                                                                                        refine AW.goto (tgt := 18) dL_law_1753 (by decide) ?_
                                                                                        exact ih _ _ _ _ _ h hk
                                                                                      · refine AW.iconst dL_law_1636 ?_
                                                                                        cases h
                                                                                        exact AW.zret (z := 0) dL_law_1637 rfl zz0
                                                                                    · rcases ite_or h with ⟨c508, h⟩ | ⟨c508, h⟩
                                                                                      · refine AW.tIn 40 1638 dL_law_33 (by omega) (by decide) rfl (by decide) ?_
                                                                                        refine AW.aload_n dL_law_1638 rfl ?_
                                                                                        refine AW.aload_n dL_law_1639 rfl ?_
                                                                                        refine AW.iload_n dL_law_1640 rfl ?_
                                                                                        refine AW.iconst dL_law_1641 ?_
                                                                                        refine AW.iadd dL_law_1642 ?_
                                                                                        refine AW.iald (t := 151) dL_law_1643 (Nat.le_of_ble_eq_true rfl) rfl h (fun v465 h => ?_)
                                                                                        refine AW.aload_n dL_law_1644 rfl ?_
                                                                                        refine AW.iload_n dL_law_1645 rfl ?_
                                                                                        refine AW.iconst dL_law_1646 ?_
                                                                                        refine AW.iadd dL_law_1647 ?_
                                                                                        refine AW.iald (t := 151) dL_law_1648 (Nat.le_of_ble_eq_true rfl) rfl h (fun v466 h => ?_)
                                                                                        refine AW.aload_n dL_law_1649 rfl ?_
                                                                                        refine AW.iload_n dL_law_1650 rfl ?_
                                                                                        refine AW.iconst dL_law_1651 ?_
                                                                                        refine AW.iadd dL_law_1652 ?_
                                                                                        refine AW.iald (t := 151) dL_law_1653 (Nat.le_of_ble_eq_true rfl) rfl h (fun v467 h => ?_)
                                                                                        refine AW.lVI (M' := m_X0_began) (t := 0) hd [iV v465, iV v466, iV v467] [] dL_law_1654 q1461 q1462 q1463 q121 q1464 ck0 rfl n_X0_began rfl rfl rfl (fun _ _ _ e => c_X0_began e) h (fun v468 s469 h => ?_)
                                                                                        refine AW.aload_n dL_law_1657 rfl ?_
                                                                                        refine AW.aload_n dL_law_1658 rfl ?_
                                                                                        refine AW.iload_n dL_law_1659 rfl ?_
                                                                                        refine AW.iconst dL_law_1660 ?_
                                                                                        refine AW.iadd dL_law_1661 ?_
                                                                                        refine AW.iald (t := 151) dL_law_1662 (Nat.le_of_ble_eq_true rfl) rfl h (fun v471 h => ?_)
                                                                                        refine AW.aload_n dL_law_1663 rfl ?_
                                                                                        refine AW.iload_n dL_law_1664 rfl ?_
                                                                                        refine AW.iconst dL_law_1665 ?_
                                                                                        refine AW.iadd dL_law_1666 ?_
                                                                                        refine AW.iald (t := 151) dL_law_1667 (Nat.le_of_ble_eq_true rfl) rfl h (fun v472 h => ?_)
                                                                                        refine AW.aload_n dL_law_1668 rfl ?_
                                                                                        refine AW.iload_n dL_law_1669 rfl ?_
                                                                                        refine AW.iconst dL_law_1670 ?_
                                                                                        refine AW.iadd dL_law_1671 ?_
                                                                                        refine AW.iald (t := 151) dL_law_1672 (Nat.le_of_ble_eq_true rfl) rfl h (fun v473 h => ?_)
                                                                                        refine AW.mVI (M' := m_X8_began) [iV v471, iV v472, iV v473] [iV v468] dL_law_1673 q2163 q2164 q2165 q139 q2166 rfl n_X8_began rfl rfl rfl (fun _ _ e => c_X8_began e) h (fun v474 s475 h => ?_)
                                                                                        refine AW.icmp_eq 1750 dL_law_1676 (by decide) h (fun c477 h => ?_) (fun c477 h => ?_)
                                                                                        · refine AW.iinc (L' := [some (rV x0), some (rV x1), some (rV (some b)), some (iV (x3 + 6))]) dL_law_1750 rfl (Nat.le_of_ble_eq_true rfl) rfl rfl ?_
                                                                                          refine AW.goto (tgt := 18) dL_law_1753 (by decide) ?_
                                                                                          exact ih _ _ _ _ _ h hk
                                                                                        · refine AW.iconst dL_law_1679 ?_
                                                                                          cases h
                                                                                          exact AW.zret (z := 0) dL_law_1680 rfl zz0
                                                                                      · rcases ite_or h with ⟨c507, h⟩ | ⟨c507, h⟩
                                                                                        · refine AW.tIn 41 1681 dL_law_33 (by omega) (by decide) rfl (by decide) ?_
                                                                                          refine AW.aload_n dL_law_1681 rfl ?_
                                                                                          refine AW.aload_n dL_law_1682 rfl ?_
                                                                                          refine AW.iload_n dL_law_1683 rfl ?_
                                                                                          refine AW.iconst dL_law_1684 ?_
                                                                                          refine AW.iadd dL_law_1685 ?_
                                                                                          refine AW.iald (t := 151) dL_law_1686 (Nat.le_of_ble_eq_true rfl) rfl h (fun v478 h => ?_)
                                                                                          refine AW.lVI (M' := m_X0_hold) (t := 0) hd [iV v478] [] dL_law_1687 q1469 q1470 q1471 q121 q1472 ck0 rfl n_X0_hold rfl rfl rfl (fun _ _ _ e => c_X0_hold e) h (fun v479 s480 h => ?_)
                                                                                          refine AW.aload_n dL_law_1690 rfl ?_
                                                                                          refine AW.aload_n dL_law_1691 rfl ?_
                                                                                          refine AW.iload_n dL_law_1692 rfl ?_
                                                                                          refine AW.iconst dL_law_1693 ?_
                                                                                          refine AW.iadd dL_law_1694 ?_
                                                                                          refine AW.iald (t := 151) dL_law_1695 (Nat.le_of_ble_eq_true rfl) rfl h (fun v482 h => ?_)
                                                                                          refine AW.mVI (M' := m_X8_hold) [iV v482] [iV v479] dL_law_1696 q2171 q2172 q2173 q139 q2174 rfl n_X8_hold rfl rfl rfl (fun _ _ e => c_X8_hold e) h (fun v483 s484 h => ?_)
                                                                                          refine AW.icmp_eq 1750 dL_law_1699 (by decide) h (fun c486 h => ?_) (fun c486 h => ?_)
                                                                                          · refine AW.iinc (L' := [some (rV x0), some (rV x1), some (rV (some b)), some (iV (x3 + 6))]) dL_law_1750 rfl (Nat.le_of_ble_eq_true rfl) rfl rfl ?_
                                                                                            refine AW.goto (tgt := 18) dL_law_1753 (by decide) ?_
                                                                                            exact ih _ _ _ _ _ h hk
                                                                                          · refine AW.iconst dL_law_1702 ?_
                                                                                            cases h
                                                                                            exact AW.zret (z := 0) dL_law_1703 rfl zz0
                                                                                        · rcases ite_or h with ⟨c506, h⟩ | ⟨c506, h⟩
                                                                                          · refine AW.tIn 42 1704 dL_law_33 (by omega) (by decide) rfl (by decide) ?_
                                                                                            refine AW.aload_n dL_law_1704 rfl ?_
                                                                                            refine AW.aload_n dL_law_1705 rfl ?_
                                                                                            refine AW.iload_n dL_law_1706 rfl ?_
                                                                                            refine AW.iconst dL_law_1707 ?_
                                                                                            refine AW.iadd dL_law_1708 ?_
                                                                                            refine AW.iald (t := 151) dL_law_1709 (Nat.le_of_ble_eq_true rfl) rfl h (fun v487 h => ?_)
                                                                                            refine AW.lVI (M' := m_X0_restore) (t := 0) hd [iV v487] [] dL_law_1710 q1473 q1474 q1475 q121 q1476 ck0 rfl n_X0_restore rfl rfl rfl (fun _ _ _ e => c_X0_restore e) h (fun v488 s489 h => ?_)
                                                                                            refine AW.aload_n dL_law_1713 rfl ?_
                                                                                            refine AW.aload_n dL_law_1714 rfl ?_
                                                                                            refine AW.iload_n dL_law_1715 rfl ?_
                                                                                            refine AW.iconst dL_law_1716 ?_
                                                                                            refine AW.iadd dL_law_1717 ?_
                                                                                            refine AW.iald (t := 151) dL_law_1718 (Nat.le_of_ble_eq_true rfl) rfl h (fun v491 h => ?_)
                                                                                            refine AW.mVI (M' := m_X8_restore) [iV v491] [iV v488] dL_law_1719 q2175 q2176 q2177 q139 q2178 rfl n_X8_restore rfl rfl rfl (fun _ _ e => c_X8_restore e) h (fun v492 s493 h => ?_)
                                                                                            refine AW.icmp_eq 1750 dL_law_1722 (by decide) h (fun c495 h => ?_) (fun c495 h => ?_)
                                                                                            · refine AW.iinc (L' := [some (rV x0), some (rV x1), some (rV (some b)), some (iV (x3 + 6))]) dL_law_1750 rfl (Nat.le_of_ble_eq_true rfl) rfl rfl ?_
                                                                                              refine AW.goto (tgt := 18) dL_law_1753 (by decide) ?_
                                                                                              exact ih _ _ _ _ _ h hk
                                                                                            · refine AW.iconst dL_law_1725 ?_
                                                                                              cases h
                                                                                              exact AW.zret (z := 0) dL_law_1726 rfl zz0
                                                                                          · rcases ite_or h with ⟨c505, h⟩ | ⟨c505, h⟩
                                                                                            · refine AW.tIn 43 1727 dL_law_33 (by omega) (by decide) rfl (by decide) ?_
                                                                                              refine AW.aload_n dL_law_1727 rfl ?_
                                                                                              refine AW.aload_n dL_law_1728 rfl ?_
                                                                                              refine AW.iload_n dL_law_1729 rfl ?_
                                                                                              refine AW.iconst dL_law_1730 ?_
                                                                                              refine AW.iadd dL_law_1731 ?_
                                                                                              refine AW.iald (t := 151) dL_law_1732 (Nat.le_of_ble_eq_true rfl) rfl h (fun v496 h => ?_)
                                                                                              refine AW.lVI (M' := m_X0_count) (t := 0) hd [iV v496] [] dL_law_1733 q1477 q1478 q1479 q121 q1480 ck0 rfl n_X0_count rfl rfl rfl (fun _ _ _ e => c_X0_count e) h (fun v497 s498 h => ?_)
                                                                                              refine AW.aload_n dL_law_1736 rfl ?_
                                                                                              refine AW.aload_n dL_law_1737 rfl ?_
                                                                                              refine AW.iload_n dL_law_1738 rfl ?_
                                                                                              refine AW.iconst dL_law_1739 ?_
                                                                                              refine AW.iadd dL_law_1740 ?_
                                                                                              refine AW.iald (t := 151) dL_law_1741 (Nat.le_of_ble_eq_true rfl) rfl h (fun v500 h => ?_)
                                                                                              refine AW.mVI (M' := m_X8_count) [iV v500] [iV v497] dL_law_1742 q2179 q2180 q2181 q139 q2182 rfl n_X8_count rfl rfl rfl (fun _ _ e => c_X8_count e) h (fun v501 s502 h => ?_)
                                                                                              refine AW.icmp_eq 1750 dL_law_1745 (by decide) h (fun c504 h => ?_) (fun c504 h => ?_)
                                                                                              · refine AW.iinc (L' := [some (rV x0), some (rV x1), some (rV (some b)), some (iV (x3 + 6))]) dL_law_1750 rfl (Nat.le_of_ble_eq_true rfl) rfl rfl ?_
                                                                                                refine AW.goto (tgt := 18) dL_law_1753 (by decide) ?_
                                                                                                exact ih _ _ _ _ _ h hk
                                                                                              · refine AW.iconst dL_law_1748 ?_
                                                                                                cases h
                                                                                                exact AW.zret (z := 0) dL_law_1749 rfl zz0
                                                                                            · refine AW.tOut 1750 dL_law_33 (by omega) (by decide) ?_
                                                                                              refine AW.iinc (L' := [some (rV x0), some (rV x1), some (rV (some b)), some (iV (x3 + 6))]) dL_law_1750 rfl (Nat.le_of_ble_eq_true rfl) rfl rfl ?_
                                                                                              refine AW.goto (tgt := 18) dL_law_1753 (by decide) ?_
                                                                                              exact ih _ _ _ _ _ h hk
def f_L_law (dT : TW → Nat → Hp → Bool) (s0 : Hp) (x0 : Option Nat) : Option (Int × Hp) := f_L_lawP dT s0 x0 (fun s x1 x2 => x2.bind fun b => bt_ (f_X8_initT tau0) fun _ t => if dT t b s = true then (f_L_law_L18 b dT FU (t, s) x0 x1 0 (fun s1 => some (1, s1))).bind fun w => some (w.1, insT b w.2.1 w.2.2) else none)
theorem w_L_law {σ0 : Hp} {w : Int × Hp} {dT : TW → Nat → Hp → Bool} (hd : okT dT) (s0 : Hp) (x0 : Option Nat) (h : f_L_law dT s0 x0 = some w) : AW m_L_law σ0 (oI w) 0 [some (rV x0), none, none, none] [] s0 := by
  refine w_L_lawP hd s0 x0 _ (fun s x1 x2 hk => ?_) h
  obtain ⟨b, rfl, h1⟩ := ob_some hk
  unfold bt_ at h1
  obtain ⟨⟨u, t⟩, h2, h3⟩ := ob_some h1
  obtain ⟨h4, h5⟩ := pz_elim h3
  obtain ⟨⟨z, s2⟩, h6, h7⟩ := ob_some h5
  cases h7
  have := w_L_law_L18 (b := b) (σ0 := σ0) (w := (z, s2)) hd FU (t, s) x0 x1 0 _ h6 (fun s550 h => by
    refine AW.iconst dL_law_1756 ?_
    cases h
    exact AW.zret (z := 1) dL_law_1757 rfl zz1)
  rw [show insT b (t, s).1 (t, s).2 = s from hd _ _ _ h4] at this
  exact this
