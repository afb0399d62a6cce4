set_option maxRecDepth 100000
theorem ia1 : isA 1 := ⟨rfl, by decide, by decide⟩
theorem mt1 : mutT (ttg 1) := ⟨by decide, by decide⟩
theorem ia3 : isA 3 := ⟨rfl, by decide, by decide⟩
theorem mt3 : mutT (ttg 3) := ⟨by decide, by decide⟩
theorem ia5 : isA 5 := ⟨rfl, by decide, by decide⟩
theorem mt5 : mutT (ttg 5) := ⟨by decide, by decide⟩
theorem ia6 : isA 6 := ⟨rfl, by decide, by decide⟩
theorem mt6 : mutT (ttg 6) := ⟨by decide, by decide⟩
theorem ia7 : isA 7 := ⟨rfl, by decide, by decide⟩
theorem mt7 : mutT (ttg 7) := ⟨by decide, by decide⟩
theorem ia8 : isA 8 := ⟨rfl, by decide, by decide⟩
theorem mt8 : mutT (ttg 8) := ⟨by decide, by decide⟩
theorem ia9 : isA 9 := ⟨rfl, by decide, by decide⟩
theorem mt9 : mutT (ttg 9) := ⟨by decide, by decide⟩
theorem ia21 : isA 21 := ⟨rfl, by decide, by decide⟩
theorem mt21 : mutT (ttg 21) := ⟨by decide, by decide⟩
theorem ia22 : isA 22 := ⟨rfl, by decide, by decide⟩
theorem mt22 : mutT (ttg 22) := ⟨by decide, by decide⟩
theorem ia23 : isA 23 := ⟨rfl, by decide, by decide⟩
theorem mt23 : mutT (ttg 23) := ⟨by decide, by decide⟩
theorem ia24 : isA 24 := ⟨rfl, by decide, by decide⟩
theorem mt24 : mutT (ttg 24) := ⟨by decide, by decide⟩
theorem ia25 : isA 25 := ⟨rfl, by decide, by decide⟩
theorem mt25 : mutT (ttg 25) := ⟨by decide, by decide⟩
theorem ia26 : isA 26 := ⟨rfl, by decide, by decide⟩
theorem mt26 : mutT (ttg 26) := ⟨by decide, by decide⟩
theorem ia27 : isA 27 := ⟨rfl, by decide, by decide⟩
theorem mt27 : mutT (ttg 27) := ⟨by decide, by decide⟩
theorem ia28 : isA 28 := ⟨rfl, by decide, by decide⟩
theorem mt28 : mutT (ttg 28) := ⟨by decide, by decide⟩
theorem ia29 : isA 29 := ⟨rfl, by decide, by decide⟩
theorem mt29 : mutT (ttg 29) := ⟨by decide, by decide⟩
theorem ia30 : isA 30 := ⟨rfl, by decide, by decide⟩
theorem mt30 : mutT (ttg 30) := ⟨by decide, by decide⟩
theorem ia31 : isA 31 := ⟨rfl, by decide, by decide⟩
theorem mt31 : mutT (ttg 31) := ⟨by decide, by decide⟩
theorem ia32 : isA 32 := ⟨rfl, by decide, by decide⟩
theorem mt32 : mutT (ttg 32) := ⟨by decide, by decide⟩
theorem ia33 : isA 33 := ⟨rfl, by decide, by decide⟩
theorem mt33 : mutT (ttg 33) := ⟨by decide, by decide⟩
theorem ia34 : isA 34 := ⟨rfl, by decide, by decide⟩
theorem mt34 : mutT (ttg 34) := ⟨by decide, by decide⟩
theorem ia35 : isA 35 := ⟨rfl, by decide, by decide⟩
theorem mt35 : mutT (ttg 35) := ⟨by decide, by decide⟩
theorem ia36 : isA 36 := ⟨rfl, by decide, by decide⟩
theorem mt36 : mutT (ttg 36) := ⟨by decide, by decide⟩
theorem ia37 : isA 37 := ⟨rfl, by decide, by decide⟩
theorem mt37 : mutT (ttg 37) := ⟨by decide, by decide⟩
theorem ia39 : isA 39 := ⟨rfl, by decide, by decide⟩
theorem mt39 : mutT (ttg 39) := ⟨by decide, by decide⟩
theorem ia40 : isA 40 := ⟨rfl, by decide, by decide⟩
theorem mt40 : mutT (ttg 40) := ⟨by decide, by decide⟩
theorem ia41 : isA 41 := ⟨rfl, by decide, by decide⟩
theorem mt41 : mutT (ttg 41) := ⟨by decide, by decide⟩
theorem ia42 : isA 42 := ⟨rfl, by decide, by decide⟩
theorem mt42 : mutT (ttg 42) := ⟨by decide, by decide⟩
theorem ia43 : isA 43 := ⟨rfl, by decide, by decide⟩
theorem mt43 : mutT (ttg 43) := ⟨by decide, by decide⟩
theorem ia45 : isA 45 := ⟨rfl, by decide, by decide⟩
theorem mt45 : mutT (ttg 45) := ⟨by decide, by decide⟩
theorem ia46 : isA 46 := ⟨rfl, by decide, by decide⟩
theorem mt46 : mutT (ttg 46) := ⟨by decide, by decide⟩
theorem ia47 : isA 47 := ⟨rfl, by decide, by decide⟩
theorem mt47 : mutT (ttg 47) := ⟨by decide, by decide⟩
theorem ia49 : isA 49 := ⟨rfl, by decide, by decide⟩
theorem mt49 : mutT (ttg 49) := ⟨by decide, by decide⟩
theorem ia50 : isA 50 := ⟨rfl, by decide, by decide⟩
theorem mt50 : mutT (ttg 50) := ⟨by decide, by decide⟩
theorem ia52 : isA 52 := ⟨rfl, by decide, by decide⟩
theorem mt52 : mutT (ttg 52) := ⟨by decide, by decide⟩
theorem ia54 : isA 54 := ⟨rfl, by decide, by decide⟩
theorem mt54 : mutT (ttg 54) := ⟨by decide, by decide⟩
theorem ia55 : isA 55 := ⟨rfl, by decide, by decide⟩
theorem mt55 : mutT (ttg 55) := ⟨by decide, by decide⟩
theorem ia56 : isA 56 := ⟨rfl, by decide, by decide⟩
theorem mt56 : mutT (ttg 56) := ⟨by decide, by decide⟩
theorem ia58 : isA 58 := ⟨rfl, by decide, by decide⟩
theorem mt58 : mutT (ttg 58) := ⟨by decide, by decide⟩
theorem ia59 : isA 59 := ⟨rfl, by decide, by decide⟩
theorem mt59 : mutT (ttg 59) := ⟨by decide, by decide⟩
theorem ia62 : isA 62 := ⟨rfl, by decide, by decide⟩
theorem mt62 : mutT (ttg 62) := ⟨by decide, by decide⟩
theorem ia63 : isA 63 := ⟨rfl, by decide, by decide⟩
theorem mt63 : mutT (ttg 63) := ⟨by decide, by decide⟩
theorem ia64 : isA 64 := ⟨rfl, by decide, by decide⟩
theorem mt64 : mutT (ttg 64) := ⟨by decide, by decide⟩
theorem ia65 : isA 65 := ⟨rfl, by decide, by decide⟩
theorem mt65 : mutT (ttg 65) := ⟨by decide, by decide⟩
theorem ia66 : isA 66 := ⟨rfl, by decide, by decide⟩
theorem mt66 : mutT (ttg 66) := ⟨by decide, by decide⟩
theorem ia68 : isA 68 := ⟨rfl, by decide, by decide⟩
theorem mt68 : mutT (ttg 68) := ⟨by decide, by decide⟩
theorem ia69 : isA 69 := ⟨rfl, by decide, by decide⟩
theorem mt69 : mutT (ttg 69) := ⟨by decide, by decide⟩
theorem ia70 : isA 70 := ⟨rfl, by decide, by decide⟩
theorem mt70 : mutT (ttg 70) := ⟨by decide, by decide⟩
theorem ia71 : isA 71 := ⟨rfl, by decide, by decide⟩
theorem mt71 : mutT (ttg 71) := ⟨by decide, by decide⟩
theorem ia72 : isA 72 := ⟨rfl, by decide, by decide⟩
theorem mt72 : mutT (ttg 72) := ⟨by decide, by decide⟩
theorem ia73 : isA 73 := ⟨rfl, by decide, by decide⟩
theorem mt73 : mutT (ttg 73) := ⟨by decide, by decide⟩
theorem ia74 : isA 74 := ⟨rfl, by decide, by decide⟩
theorem mt74 : mutT (ttg 74) := ⟨by decide, by decide⟩
abbrev m_X8_in : Mi := (yX8_in, cX8_in, (some .boolean), 3, 0, 0, [])
theorem n_X8_in : nameOk yX8_in 3 := ⟨by decide, by decide, by decide +kernel⟩
def f_X8_in (s0 : TW) (x0 : Int) (x1 : Int) (x2 : Int) : Option (Int × TW) :=
  (if nrm x0 < nrm x1 then (some (0, s0)) else ((if nrm x2 < nrm x0 then (some (0, s0)) else (some (1, s0)))))
theorem w_X8_in {b : Nat} {σ σ0 : Hp} {w : Int × TW} (s0 : TW) (x0 : Int) (x1 : Int) (x2 : Int) (h : f_X8_in s0 x0 x1 x2 = some w) : AW m_X8_in σ0 (tI b σ w) 0 [some (iV x0), some (iV x1), some (iV x2)] [] (insT b s0 σ) := by
  unfold f_X8_in at h
  refine AW.iload_n dX8_in_0 rfl ?_
  refine AW.iload_n dX8_in_1 rfl ?_
  refine AW.icmp_lt 14 dX8_in_2 (by decide) h (fun c2 h => ?_) (fun c2 h => ?_)
  · refine AW.iconst dX8_in_14 ?_
    cases h
    exact AW.zret (z := 0) dX8_in_15 rfl zz0
  · refine AW.iload_n dX8_in_5 rfl ?_
    refine AW.iload_n dX8_in_6 rfl ?_
    refine AW.icmp_gt 14 dX8_in_7 (by decide) h (fun c1 h => ?_) (fun c1 h => ?_)
    · refine AW.iconst dX8_in_14 ?_
      cases h
      exact AW.zret (z := 0) dX8_in_15 rfl zz0
    · refine AW.iconst dX8_in_10 ?_
      refine AW.goto (tgt := 15) dX8_in_11 (by decide) ?_
      cases h
      exact AW.zret (z := 1) dX8_in_15 rfl zz1
theorem c_X8_in {b : Nat} {σ : Hp} {s0 : TW} {x0 : Int} {x1 : Int} {x2 : Int} {v : Int} {s1 : TW} (h : f_X8_in s0 x0 x1 x2 = some (v, s1)) : Ct m_X8_in [iV x0, iV x1, iV x2] (insT b s0 σ) (.inl (some (iV v)), insT b s1 σ) :=
  Ct.of2 (w_X8_in s0 x0 x1 x2 h) (by decide) rfl rfl rfl
abbrev m_X8_isMan : Mi := (yX8_isMan, cX8_isMan, (some .boolean), 2, 1, 22, [])
theorem n_X8_isMan : nameOk yX8_isMan 1 := ⟨by decide, by decide, by decide +kernel⟩
def f_X8_isMan (s0 : TW) (x1 : Int) : Option (Int × TW) :=
  (ta s0 28 (s0.1 18)).bind fun v1 => bt_ (f_X8_in s0 x1 0 (v1 - 1)) fun v3 s2 => if nrm v3 = 0 ∨ nrm v3 = 1 then some (v3, s2) else none
theorem w_X8_isMan {b : Nat} {σ σ0 : Hp} {w : Int × TW} (s0 : TW) (x1 : Int) (h : f_X8_isMan s0 x1 = some w) : AW m_X8_isMan σ0 (tI b σ w) 0 [some (rV (some b)), some (iV x1)] [] (insT b s0 σ) := by
  unfold f_X8_isMan at h
  refine AW.iload_n dX8_isMan_0 rfl ?_
  refine AW.iconst dX8_isMan_1 ?_
  refine AW.aload_n dX8_isMan_2 rfl ?_
  refine AW.tgR (k := 28) dX8_isMan_3 (Nat.le_of_ble_eq_true rfl) (fun _ => rfl) q1568 rfl ia28 ?_
  refine AW.aload_n dX8_isMan_6 rfl ?_
  refine AW.tgI (k := 18) dX8_isMan_7 (Nat.le_of_ble_eq_true rfl) (fun _ => rfl) q1558 rfl ?_
  refine AW.tiald (k := 28) dX8_isMan_10 ia28 (Nat.le_of_ble_eq_true rfl) rfl h (fun v1 h => ?_)
  refine AW.iconst dX8_isMan_11 ?_
  refine AW.isub dX8_isMan_12 ?_
  refine AW.tSI (M' := m_X8_in) [iV x1, iV 0, iV (v1 - 1)] [] dX8_isMan_13 q1897 q1898 q139 q1899 n_X8_in rfl rfl rfl (fun _ _ e => c_X8_in e) h (fun v3 s2 h => ?_)
  obtain ⟨hz, h⟩ := pz_elim h
  cases h
  exact AW.zret dX8_isMan_16 rfl hz
theorem c_X8_isMan {b : Nat} {σ : Hp} {s0 : TW} {x1 : Int} {v : Int} {s1 : TW} (h : f_X8_isMan s0 x1 = some (v, s1)) : Ct m_X8_isMan [rV (some b), iV x1] (insT b s0 σ) (.inl (some (iV v)), insT b s1 σ) :=
  Ct.of2 (w_X8_isMan s0 x1 h) (by decide) rfl rfl rfl
abbrev m_X8_copies : Mi := (yX8_copies, cX8_copies, none, 2, 0, 0, [])
theorem n_X8_copies : nameOk yX8_copies 0 := ⟨by decide, by decide, by decide +kernel⟩
def f_X8_copies_L2 : Nat → TW → Int → (TW → Option (Unit × TW)) → Option (Unit × TW)
  | 0, _, _, _ => none
  | n + 1, s0, x1, k => (if nrm ((36 * (s0.1 53)) + 36) ≤ nrm x1 then (k s0) else ((ta s0 52 x1).bind fun v1 => (ts s0 56 x1 v1).bind fun s2 => f_X8_copies_L2 n s2 (x1 + 1) k))
theorem w_X8_copies_L2 {b : Nat} {σ σ0 : Hp} {w : Unit × TW} : ∀ (n : Nat) (s0 : TW) (x1 : Int) (k : (TW → Option (Unit × TW))), f_X8_copies_L2 n s0 x1 k = some w → (∀ (s1 : TW), k s1 = some w → AW m_X8_copies σ0 (tU b σ w) 34 [some (rV (some b)), none] [] (insT b s1 σ)) → AW m_X8_copies σ0 (tU b σ w) 2 [some (rV (some b)), some (iV x1)] [] (insT b s0 σ) := by
  intro n
  induction n with
  | zero =>
    intro s0 x1 k h hk
    rw [f_X8_copies_L2] at h
    cases h
  | succ n ih =>
    intro s0 x1 k h hk
    rw [f_X8_copies_L2] at h
    refine AW.iload_n dX8_copies_2 rfl ?_
    refine AW.bipush dX8_copies_3 (by decide) ?_
    refine AW.aload_n dX8_copies_5 rfl ?_
    refine AW.tgI (k := 53) dX8_copies_6 (Nat.le_of_ble_eq_true rfl) (fun _ => rfl) q1593 rfl ?_
    refine AW.imul dX8_copies_9 ?_
    refine AW.bipush dX8_copies_10 (by decide) ?_
    refine AW.iadd dX8_copies_12 ?_
    refine AW.icmp_ge 34 dX8_copies_13 (by decide) h (fun c3 h => ?_) (fun c3 h => ?_)
    · exact AW.fewer (L' := [some (rV (some b)), none]) (And.intro rfl trivial) (hk _ h)
    · refine AW.aload_n dX8_copies_16 rfl ?_
      refine AW.tgR (k := 56) dX8_copies_17 (Nat.le_of_ble_eq_true rfl) (fun _ => rfl) q1596 rfl ia56 ?_
      refine AW.iload_n dX8_copies_20 rfl ?_
      refine AW.aload_n dX8_copies_21 rfl ?_
      refine AW.tgR (k := 52) dX8_copies_22 (Nat.le_of_ble_eq_true rfl) (fun _ => rfl) q1592 rfl ia52 ?_
      refine AW.iload_n dX8_copies_25 rfl ?_
      refine AW.tiald (k := 52) dX8_copies_26 ia52 (Nat.le_of_ble_eq_true rfl) rfl h (fun v1 h => ?_)
      refine AW.tiast (k := 56) dX8_copies_27 ia56 (Nat.le_of_ble_eq_true rfl) mt56 rfl h (fun s2 h => ?_)
      refine AW.iinc (L' := [some (rV (some b)), some (iV (x1 + 1))]) dX8_copies_28 rfl (Nat.le_of_ble_eq_true rfl) rfl rfl ?_
      refine AW.goto (tgt := 2) dX8_copies_31 (by decide) ?_
      exact ih _ _ _ h hk
def f_X8_copies_L44 : Nat → TW → Int → (TW → Option (Unit × TW)) → Option (Unit × TW)
  | 0, _, _, _ => none
  | n + 1, s0, x1, k => (if nrm 8 ≤ nrm x1 then (k s0) else ((ta s0 54 x1).bind fun v6 => (ts s0 58 x1 v6).bind fun s7 => (ta s7 55 x1).bind fun v8 => (ts s7 59 x1 v8).bind fun s9 => f_X8_copies_L44 n s9 (x1 + 1) k))
theorem w_X8_copies_L44 {b : Nat} {σ σ0 : Hp} {w : Unit × TW} : ∀ (n : Nat) (s0 : TW) (x1 : Int) (k : (TW → Option (Unit × TW))), f_X8_copies_L44 n s0 x1 k = some w → (∀ (s1 : TW), k s1 = some w → AW m_X8_copies σ0 (tU b σ w) 80 [some (rV (some b)), none] [] (insT b s1 σ)) → AW m_X8_copies σ0 (tU b σ w) 44 [some (rV (some b)), some (iV x1)] [] (insT b s0 σ) := by
  intro n
  induction n with
  | zero =>
    intro s0 x1 k h hk
    rw [f_X8_copies_L44] at h
    cases h
  | succ n ih =>
    intro s0 x1 k h hk
    rw [f_X8_copies_L44] at h
    refine AW.iload_n dX8_copies_44 rfl ?_
    refine AW.bipush dX8_copies_45 (by decide) ?_
    refine AW.icmp_ge 80 dX8_copies_47 (by decide) h (fun c10 h => ?_) (fun c10 h => ?_)
    · exact AW.fewer (L' := [some (rV (some b)), none]) (And.intro rfl trivial) (hk _ h)
    · refine AW.aload_n dX8_copies_50 rfl ?_
      refine AW.tgR (k := 58) dX8_copies_51 (Nat.le_of_ble_eq_true rfl) (fun _ => rfl) q1598 rfl ia58 ?_
      refine AW.iload_n dX8_copies_54 rfl ?_
      refine AW.aload_n dX8_copies_55 rfl ?_
      refine AW.tgR (k := 54) dX8_copies_56 (Nat.le_of_ble_eq_true rfl) (fun _ => rfl) q1594 rfl ia54 ?_
      refine AW.iload_n dX8_copies_59 rfl ?_
      refine AW.tiald (k := 54) dX8_copies_60 ia54 (Nat.le_of_ble_eq_true rfl) rfl h (fun v6 h => ?_)
      refine AW.tiast (k := 58) dX8_copies_61 ia58 (Nat.le_of_ble_eq_true rfl) mt58 rfl h (fun s7 h => ?_)
      refine AW.aload_n dX8_copies_62 rfl ?_
      refine AW.tgR (k := 59) dX8_copies_63 (Nat.le_of_ble_eq_true rfl) (fun _ => rfl) q1599 rfl ia59 ?_
      refine AW.iload_n dX8_copies_66 rfl ?_
      refine AW.aload_n dX8_copies_67 rfl ?_
      refine AW.tgR (k := 55) dX8_copies_68 (Nat.le_of_ble_eq_true rfl) (fun _ => rfl) q1595 rfl ia55 ?_
      refine AW.iload_n dX8_copies_71 rfl ?_
      refine AW.tiald (k := 55) dX8_copies_72 ia55 (Nat.le_of_ble_eq_true rfl) rfl h (fun v8 h => ?_)
      refine AW.tiast (k := 59) dX8_copies_73 ia59 (Nat.le_of_ble_eq_true rfl) mt59 rfl h (fun s9 h => ?_)
      refine AW.iinc (L' := [some (rV (some b)), some (iV (x1 + 1))]) dX8_copies_74 rfl (Nat.le_of_ble_eq_true rfl) rfl rfl ?_
      refine AW.goto (tgt := 44) dX8_copies_77 (by decide) ?_
      exact ih _ _ _ h hk
def f_X8_copies (s0 : TW) : Option (Unit × TW) :=
  f_X8_copies_L2 FU s0 0 (fun s4 => bd (tp s4 57 (s4.1 53)) fun s5 => f_X8_copies_L44 FU s5 0 (fun s11 => (ta s11 35 (s11.1 18)).bind fun v12 => bd (tp s11 60 v12) fun s13 => some ((), s13)))
theorem w_X8_copies {b : Nat} {σ σ0 : Hp} {w : Unit × TW} (s0 : TW) (h : f_X8_copies s0 = some w) : AW m_X8_copies σ0 (tU b σ w) 0 [some (rV (some b)), none] [] (insT b s0 σ) := by
  unfold f_X8_copies at h
  refine AW.iconst dX8_copies_0 ?_
  refine AW.istore_n (L' := [some (rV (some b)), some (iV 0)]) dX8_copies_1 (Nat.le_of_ble_eq_true rfl) rfl rfl ?_
  refine w_X8_copies_L2 _ _ _ _ h (fun s4 h => ?_)
  refine AW.aload_n dX8_copies_34 rfl ?_
  refine AW.aload_n dX8_copies_35 rfl ?_
  refine AW.tgI (k := 53) dX8_copies_36 (Nat.le_of_ble_eq_true rfl) (fun _ => rfl) q1593 rfl ?_
  refine AW.tpB (k := 57) dX8_copies_39 (Nat.le_of_ble_eq_true rfl) rfl q1597 rfl rfl h (fun s5 h => ?_)
  refine AW.iconst dX8_copies_42 ?_
  refine AW.istore_n (L' := [some (rV (some b)), some (iV 0)]) dX8_copies_43 (Nat.le_of_ble_eq_true rfl) rfl rfl ?_
  refine w_X8_copies_L44 _ _ _ _ h (fun s11 h => ?_)
  refine AW.aload_n dX8_copies_80 rfl ?_
  refine AW.aload_n dX8_copies_81 rfl ?_
  refine AW.tgR (k := 35) dX8_copies_82 (Nat.le_of_ble_eq_true rfl) (fun _ => rfl) q1575 rfl ia35 ?_
  refine AW.aload_n dX8_copies_85 rfl ?_
  refine AW.tgI (k := 18) dX8_copies_86 (Nat.le_of_ble_eq_true rfl) (fun _ => rfl) q1558 rfl ?_
  refine AW.tiald (k := 35) dX8_copies_89 ia35 (Nat.le_of_ble_eq_true rfl) rfl h (fun v12 h => ?_)
  refine AW.tpB (k := 60) dX8_copies_90 (Nat.le_of_ble_eq_true rfl) rfl q1600 rfl rfl h (fun s13 h => ?_)
  cases h
  exact AW.vret dX8_copies_93 rfl
theorem c_X8_copies {b : Nat} {σ : Hp} {s0 : TW} {v : Unit} {s1 : TW} (h : f_X8_copies s0 = some (v, s1)) : Ct m_X8_copies [rV (some b)] (insT b s0 σ) (.inl none, insT b s1 σ) :=
  Ct.of2 (w_X8_copies s0 h) (by decide) rfl rfl rfl
abbrev m_X8_menIn : Mi := (yX8_menIn, cX8_menIn, (some .int), 5, 0, 0, [])
theorem n_X8_menIn : nameOk yX8_menIn 2 := ⟨by decide, by decide, by decide +kernel⟩
def f_X8_menIn_L5 : Nat → TW → Int → Int → Int → Int → (TW → Int → Option (Int × TW)) → Option (Int × TW)
  | 0, _, _, _, _, _, _ => none
  | n + 1, s0, x1, x2, x3, x4, k => (ta s0 28 (s0.1 18)).bind fun v1 => (if nrm v1 ≤ nrm x4 then (k s0 x3) else ((ta s0 56 ((36 * x2) + x4)).bind fun v2 => (if ¬ nrm v2 = nrm x1 then (f_X8_menIn_L5 n s0 x1 x2 x3 (x4 + 1) k) else (f_X8_menIn_L5 n s0 x1 x2 (orI x3 (slI 1 x4)) (x4 + 1) k))))
theorem w_X8_menIn_L5 {b : Nat} {σ σ0 : Hp} {w : Int × TW} : ∀ (n : Nat) (s0 : TW) (x1 : Int) (x2 : Int) (x3 : Int) (x4 : Int) (k : (TW → Int → Option (Int × TW))), f_X8_menIn_L5 n s0 x1 x2 x3 x4 k = some w → (∀ (s1 : TW) (x3 : Int), k s1 x3 = some w → AW m_X8_menIn σ0 (tI b σ w) 48 [none, none, none, some (iV x3), none] [] (insT b s1 σ)) → AW m_X8_menIn σ0 (tI b σ w) 5 [some (rV (some b)), some (iV x1), some (iV x2), some (iV x3), some (iV x4)] [] (insT b s0 σ) := by
  intro n
  induction n with
  | zero =>
    intro s0 x1 x2 x3 x4 k h hk
    rw [f_X8_menIn_L5] at h
    cases h
  | succ n ih =>
    intro s0 x1 x2 x3 x4 k h hk
    rw [f_X8_menIn_L5] at h
    refine AW.iload dX8_menIn_5 rfl ?_
    refine AW.aload_n dX8_menIn_7 rfl ?_
    refine AW.tgR (k := 28) dX8_menIn_8 (Nat.le_of_ble_eq_true rfl) (fun _ => rfl) q1568 rfl ia28 ?_
    refine AW.aload_n dX8_menIn_11 rfl ?_
    refine AW.tgI (k := 18) dX8_menIn_12 (Nat.le_of_ble_eq_true rfl) (fun _ => rfl) q1558 rfl ?_
    refine AW.tiald (k := 28) dX8_menIn_15 ia28 (Nat.le_of_ble_eq_true rfl) rfl h (fun v1 h => ?_)
    refine AW.icmp_ge 48 dX8_menIn_16 (by decide) h (fun c4 h => ?_) (fun c4 h => ?_)
    · exact AW.fewer (L' := [none, none, none, some (iV x3), none]) (And.intro rfl trivial) (hk _ _ h)
    · refine AW.aload_n dX8_menIn_19 rfl ?_
      refine AW.tgR (k := 56) dX8_menIn_20 (Nat.le_of_ble_eq_true rfl) (fun _ => rfl) q1596 rfl ia56 ?_
      refine AW.bipush dX8_menIn_23 (by decide) ?_
      refine AW.iload_n dX8_menIn_25 rfl ?_
      refine AW.imul dX8_menIn_26 ?_
      refine AW.iload dX8_menIn_27 rfl ?_
      refine AW.iadd dX8_menIn_29 ?_
      refine AW.tiald (k := 56) dX8_menIn_30 ia56 (Nat.le_of_ble_eq_true rfl) rfl h (fun v2 h => ?_)
      refine AW.iload_n dX8_menIn_31 rfl ?_
      refine AW.icmp_ne 42 dX8_menIn_32 (by decide) h (fun c3 h => ?_) (fun c3 h => ?_)
      · refine AW.iinc (L' := [some (rV (some b)), some (iV x1), some (iV x2), some (iV x3), some (iV (x4 + 1))]) dX8_menIn_42 rfl (Nat.le_of_ble_eq_true rfl) rfl rfl ?_
        refine AW.goto (tgt := 5) dX8_menIn_45 (by decide) ?_
        exact ih _ _ _ _ _ _ h hk
      · refine AW.iload_n dX8_menIn_35 rfl ?_
        refine AW.iconst dX8_menIn_36 ?_
        refine AW.iload dX8_menIn_37 rfl ?_
        refine AW.ishl dX8_menIn_39 ?_
        refine AW.ior dX8_menIn_40 ?_
        refine AW.istore_n (L' := [some (rV (some b)), some (iV x1), some (iV x2), some (iV (orI x3 (slI 1 x4))), some (iV x4)]) dX8_menIn_41 (Nat.le_of_ble_eq_true rfl) rfl rfl ?_
        refine AW.iinc (L' := [some (rV (some b)), some (iV x1), some (iV x2), some (iV (orI x3 (slI 1 x4))), some (iV (x4 + 1))]) dX8_menIn_42 rfl (Nat.le_of_ble_eq_true rfl) rfl rfl ?_
        refine AW.goto (tgt := 5) dX8_menIn_45 (by decide) ?_
        exact ih _ _ _ _ _ _ h hk
def f_X8_menIn (s0 : TW) (x1 : Int) (x2 : Int) : Option (Int × TW) :=
  f_X8_menIn_L5 FU s0 x1 x2 0 0 (fun s5 x3 => some (nrm x3, s5))
theorem w_X8_menIn {b : Nat} {σ σ0 : Hp} {w : Int × TW} (s0 : TW) (x1 : Int) (x2 : Int) (h : f_X8_menIn s0 x1 x2 = some w) : AW m_X8_menIn σ0 (tI b σ w) 0 [some (rV (some b)), some (iV x1), some (iV x2), none, none] [] (insT b s0 σ) := by
  unfold f_X8_menIn at h
  refine AW.iconst dX8_menIn_0 ?_
  refine AW.istore_n (L' := [some (rV (some b)), some (iV x1), some (iV x2), some (iV 0), none]) dX8_menIn_1 (Nat.le_of_ble_eq_true rfl) rfl rfl ?_
  refine AW.iconst dX8_menIn_2 ?_
  refine AW.istore (L' := [some (rV (some b)), some (iV x1), some (iV x2), some (iV 0), some (iV 0)]) dX8_menIn_3 (Nat.le_of_ble_eq_true rfl) rfl rfl ?_
  refine w_X8_menIn_L5 _ _ _ _ _ _ _ h (fun s5 x3 h => ?_)
  refine AW.iload_n dX8_menIn_48 rfl ?_
  refine AW.nv ?_
  cases h
  exact AW.iret dX8_menIn_49 rfl
theorem c_X8_menIn {b : Nat} {σ : Hp} {s0 : TW} {x1 : Int} {x2 : Int} {v : Int} {s1 : TW} (h : f_X8_menIn s0 x1 x2 = some (v, s1)) : Ct m_X8_menIn [rV (some b), iV x1, iV x2] (insT b s0 σ) (.inl (some (iV v)), insT b s1 σ) :=
  Ct.of2 (w_X8_menIn s0 x1 x2 h) (by decide) rfl rfl rfl
abbrev m_X8_bits : Mi := (yX8_bits, cX8_bits, (some .int), 3, 0, 0, [])
theorem n_X8_bits : nameOk yX8_bits 1 := ⟨by decide, by decide, by decide +kernel⟩
def f_X8_bits_L4 : Nat → TW → Int → Int → Int → (TW → Int → Option (Int × TW)) → Option (Int × TW)
  | 0, _, _, _, _, _ => none
  | n + 1, s0, x0, x1, x2, k => (if nrm 8 ≤ nrm x2 then (k s0 x1) else (f_X8_bits_L4 n s0 x0 (x1 + (anI (srI x0 x2) 1)) (x2 + 1) k))
theorem w_X8_bits_L4 {b : Nat} {σ σ0 : Hp} {w : Int × TW} : ∀ (n : Nat) (s0 : TW) (x0 : Int) (x1 : Int) (x2 : Int) (k : (TW → Int → Option (Int × TW))), f_X8_bits_L4 n s0 x0 x1 x2 k = some w → (∀ (s1 : TW) (x1 : Int), k s1 x1 = some w → AW m_X8_bits σ0 (tI b σ w) 24 [none, some (iV x1), none] [] (insT b s1 σ)) → AW m_X8_bits σ0 (tI b σ w) 4 [some (iV x0), some (iV x1), some (iV x2)] [] (insT b s0 σ) := by
  intro n
  induction n with
  | zero =>
    intro s0 x0 x1 x2 k h hk
    rw [f_X8_bits_L4] at h
    cases h
  | succ n ih =>
    intro s0 x0 x1 x2 k h hk
    rw [f_X8_bits_L4] at h
    refine AW.iload_n dX8_bits_4 rfl ?_
    refine AW.bipush dX8_bits_5 (by decide) ?_
    refine AW.icmp_ge 24 dX8_bits_7 (by decide) h (fun c1 h => ?_) (fun c1 h => ?_)
    · exact AW.fewer (L' := [none, some (iV x1), none]) (And.intro rfl trivial) (hk _ _ h)
    · refine AW.iload_n dX8_bits_10 rfl ?_
      refine AW.iload_n dX8_bits_11 rfl ?_
      refine AW.iload_n dX8_bits_12 rfl ?_
      refine AW.ishr dX8_bits_13 ?_
      refine AW.iconst dX8_bits_14 ?_
      refine AW.iand dX8_bits_15 ?_
      refine AW.iadd dX8_bits_16 ?_
      refine AW.istore_n (L' := [some (iV x0), some (iV (x1 + (anI (srI x0 x2) 1))), some (iV x2)]) dX8_bits_17 (Nat.le_of_ble_eq_true rfl) rfl rfl ?_
      refine AW.iinc (L' := [some (iV x0), some (iV (x1 + (anI (srI x0 x2) 1))), some (iV (x2 + 1))]) dX8_bits_18 rfl (Nat.le_of_ble_eq_true rfl) rfl rfl ?_
      refine AW.goto (tgt := 4) dX8_bits_21 (by decide) ?_
      exact ih _ _ _ _ _ h hk
def f_X8_bits (s0 : TW) (x0 : Int) : Option (Int × TW) :=
  f_X8_bits_L4 FU s0 x0 0 0 (fun s2 x1 => some (nrm x1, s2))
theorem w_X8_bits {b : Nat} {σ σ0 : Hp} {w : Int × TW} (s0 : TW) (x0 : Int) (h : f_X8_bits s0 x0 = some w) : AW m_X8_bits σ0 (tI b σ w) 0 [some (iV x0), none, none] [] (insT b s0 σ) := by
  unfold f_X8_bits at h
  refine AW.iconst dX8_bits_0 ?_
  refine AW.istore_n (L' := [some (iV x0), some (iV 0), none]) dX8_bits_1 (Nat.le_of_ble_eq_true rfl) rfl rfl ?_
  refine AW.iconst dX8_bits_2 ?_
  refine AW.istore_n (L' := [some (iV x0), some (iV 0), some (iV 0)]) dX8_bits_3 (Nat.le_of_ble_eq_true rfl) rfl rfl ?_
  refine w_X8_bits_L4 _ _ _ _ _ _ h (fun s2 x1 h => ?_)
  refine AW.iload_n dX8_bits_24 rfl ?_
  refine AW.nv ?_
  cases h
  exact AW.iret dX8_bits_25 rfl
theorem c_X8_bits {b : Nat} {σ : Hp} {s0 : TW} {x0 : Int} {v : Int} {s1 : TW} (h : f_X8_bits s0 x0 = some (v, s1)) : Ct m_X8_bits [iV x0] (insT b s0 σ) (.inl (some (iV v)), insT b s1 σ) :=
  Ct.of2 (w_X8_bits s0 x0 h) (by decide) rfl rfl rfl
abbrev m_X8_isAlone : Mi := (yX8_isAlone, cX8_isAlone, (some .boolean), 3, 1, 24, [])
theorem n_X8_isAlone : nameOk yX8_isAlone 2 := ⟨by decide, by decide, by decide +kernel⟩
def f_X8_isAlone (s0 : TW) (x1 : Int) (x2 : Int) : Option (Int × TW) :=
  (ta s0 56 ((36 * x2) + x1)).bind fun v1 => bt_ (f_X8_menIn s0 v1 x2) fun v3 s2 => bt_ (f_X8_bits s2 v3) fun v5 s4 => (if ¬ nrm v5 = nrm 1 then (some (0, s4)) else (some (1, s4)))
theorem w_X8_isAlone {b : Nat} {σ σ0 : Hp} {w : Int × TW} (s0 : TW) (x1 : Int) (x2 : Int) (h : f_X8_isAlone s0 x1 x2 = some w) : AW m_X8_isAlone σ0 (tI b σ w) 0 [some (rV (some b)), some (iV x1), some (iV x2)] [] (insT b s0 σ) := by
  unfold f_X8_isAlone at h
  refine AW.aload_n dX8_isAlone_0 rfl ?_
  refine AW.aload_n dX8_isAlone_1 rfl ?_
  refine AW.tgR (k := 56) dX8_isAlone_2 (Nat.le_of_ble_eq_true rfl) (fun _ => rfl) q1596 rfl ia56 ?_
  refine AW.bipush dX8_isAlone_5 (by decide) ?_
  refine AW.iload_n dX8_isAlone_7 rfl ?_
  refine AW.imul dX8_isAlone_8 ?_
  refine AW.iload_n dX8_isAlone_9 rfl ?_
  refine AW.iadd dX8_isAlone_10 ?_
  refine AW.tiald (k := 56) dX8_isAlone_11 ia56 (Nat.le_of_ble_eq_true rfl) rfl h (fun v1 h => ?_)
  refine AW.iload_n dX8_isAlone_12 rfl ?_
  refine AW.tVI (M' := m_X8_menIn) [iV v1, iV x2] [] dX8_isAlone_13 q1522 q1524 qs60 q139 q1525 rfl n_X8_menIn rfl rfl rfl (fun _ _ e => c_X8_menIn e) h (fun v3 s2 h => ?_)
  refine AW.tSI (M' := m_X8_bits) [iV v3] [] dX8_isAlone_16 q1526 q1527 q139 q1528 n_X8_bits rfl rfl rfl (fun _ _ e => c_X8_bits e) h (fun v5 s4 h => ?_)
  refine AW.iconst dX8_isAlone_19 ?_
  refine AW.icmp_ne 27 dX8_isAlone_20 (by decide) h (fun c6 h => ?_) (fun c6 h => ?_)
  · refine AW.iconst dX8_isAlone_27 ?_
    cases h
    exact AW.zret (z := 0) dX8_isAlone_28 rfl zz0
  · refine AW.iconst dX8_isAlone_23 ?_
    refine AW.goto (tgt := 28) dX8_isAlone_24 (by decide) ?_
    cases h
    exact AW.zret (z := 1) dX8_isAlone_28 rfl zz1
theorem c_X8_isAlone {b : Nat} {σ : Hp} {s0 : TW} {x1 : Int} {x2 : Int} {v : Int} {s1 : TW} (h : f_X8_isAlone s0 x1 x2 = some (v, s1)) : Ct m_X8_isAlone [rV (some b), iV x1, iV x2] (insT b s0 σ) (.inl (some (iV v)), insT b s1 σ) :=
  Ct.of2 (w_X8_isAlone s0 x1 x2 h) (by decide) rfl rfl rfl
abbrev m_X8_aloneOf : Mi := (yX8_aloneOf, cX8_aloneOf, (some .int), 4, 2, 46, [])
theorem n_X8_aloneOf : nameOk yX8_aloneOf 1 := ⟨by decide, by decide, by decide +kernel⟩
def f_X8_aloneOf_L4 : Nat → TW → Int → Int → Int → (TW → Int → Option (Int × TW)) → Option (Int × TW)
  | 0, _, _, _, _, _ => none
  | n + 1, s0, x1, x2, x3, k => (if nrm (s0.1 57) < nrm x3 then (k s0 x2) else (bt_ (f_X8_isAlone s0 x1 x3) fun v2 s1 => (if nrm v2 = 0 then (f_X8_aloneOf_L4 n s1 x1 x2 (x3 + 1) k) else (f_X8_aloneOf_L4 n s1 x1 (x2 + 1) (x3 + 1) k))))
theorem w_X8_aloneOf_L4 {b : Nat} {σ σ0 : Hp} {w : Int × TW} : ∀ (n : Nat) (s0 : TW) (x1 : Int) (x2 : Int) (x3 : Int) (k : (TW → Int → Option (Int × TW))), f_X8_aloneOf_L4 n s0 x1 x2 x3 k = some w → (∀ (s1 : TW) (x2 : Int), k s1 x2 = some w → AW m_X8_aloneOf σ0 (tI b σ w) 30 [none, none, some (iV x2), none] [] (insT b s1 σ)) → AW m_X8_aloneOf σ0 (tI b σ w) 4 [some (rV (some b)), some (iV x1), some (iV x2), some (iV x3)] [] (insT b s0 σ) := by
  intro n
  induction n with
  | zero =>
    intro s0 x1 x2 x3 k h hk
    rw [f_X8_aloneOf_L4] at h
    cases h
  | succ n ih =>
    intro s0 x1 x2 x3 k h hk
    rw [f_X8_aloneOf_L4] at h
    refine AW.iload_n dX8_aloneOf_4 rfl ?_
    refine AW.aload_n dX8_aloneOf_5 rfl ?_
    refine AW.tgI (k := 57) dX8_aloneOf_6 (Nat.le_of_ble_eq_true rfl) (fun _ => rfl) q1597 rfl ?_
    refine AW.icmp_gt 30 dX8_aloneOf_9 (by decide) h (fun c4 h => ?_) (fun c4 h => ?_)
    · exact AW.fewer (L' := [none, none, some (iV x2), none]) (And.intro rfl trivial) (hk _ _ h)
    · refine AW.aload_n dX8_aloneOf_12 rfl ?_
      refine AW.iload_n dX8_aloneOf_13 rfl ?_
      refine AW.iload_n dX8_aloneOf_14 rfl ?_
      refine AW.tVI (M' := m_X8_isAlone) [iV x1, iV x3] [] dX8_aloneOf_15 q2036 q2038 qs109 q139 q2039 rfl n_X8_isAlone rfl rfl rfl (fun _ _ e => c_X8_isAlone e) h (fun v2 s1 h => ?_)
      refine AW.if_eq 24 dX8_aloneOf_18 (by decide) h (fun c3 h => ?_) (fun c3 h => ?_)
      · refine AW.iinc (L' := [some (rV (some b)), some (iV x1), some (iV x2), some (iV (x3 + 1))]) dX8_aloneOf_24 rfl (Nat.le_of_ble_eq_true rfl) rfl rfl ?_
        refine AW.goto (tgt := 4) dX8_aloneOf_27 (by decide) ?_
        exact ih _ _ _ _ _ h hk
      · refine AW.iinc (L' := [some (rV (some b)), some (iV x1), some (iV (x2 + 1)), some (iV x3)]) dX8_aloneOf_21 rfl (Nat.le_of_ble_eq_true rfl) rfl rfl ?_
        refine AW.iinc (L' := [some (rV (some b)), some (iV x1), some (iV (x2 + 1)), some (iV (x3 + 1))]) dX8_aloneOf_24 rfl (Nat.le_of_ble_eq_true rfl) rfl rfl ?_
        refine AW.goto (tgt := 4) dX8_aloneOf_27 (by decide) ?_
        exact ih _ _ _ _ _ h hk
def f_X8_aloneOf (s0 : TW) (x1 : Int) : Option (Int × TW) :=
  f_X8_aloneOf_L4 FU s0 x1 0 0 (fun s5 x2 => some (nrm x2, s5))
theorem w_X8_aloneOf {b : Nat} {σ σ0 : Hp} {w : Int × TW} (s0 : TW) (x1 : Int) (h : f_X8_aloneOf s0 x1 = some w) : AW m_X8_aloneOf σ0 (tI b σ w) 0 [some (rV (some b)), some (iV x1), none, none] [] (insT b s0 σ) := by
  unfold f_X8_aloneOf at h
  refine AW.iconst dX8_aloneOf_0 ?_
  refine AW.istore_n (L' := [some (rV (some b)), some (iV x1), some (iV 0), none]) dX8_aloneOf_1 (Nat.le_of_ble_eq_true rfl) rfl rfl ?_
  refine AW.iconst dX8_aloneOf_2 ?_
  refine AW.istore_n (L' := [some (rV (some b)), some (iV x1), some (iV 0), some (iV 0)]) dX8_aloneOf_3 (Nat.le_of_ble_eq_true rfl) rfl rfl ?_
  refine w_X8_aloneOf_L4 _ _ _ _ _ _ h (fun s5 x2 h => ?_)
  refine AW.iload_n dX8_aloneOf_30 rfl ?_
  refine AW.nv ?_
  cases h
  exact AW.iret dX8_aloneOf_31 rfl
theorem c_X8_aloneOf {b : Nat} {σ : Hp} {s0 : TW} {x1 : Int} {v : Int} {s1 : TW} (h : f_X8_aloneOf s0 x1 = some (v, s1)) : Ct m_X8_aloneOf [rV (some b), iV x1] (insT b s0 σ) (.inl (some (iV v)), insT b s1 σ) :=
  Ct.of2 (w_X8_aloneOf s0 x1 h) (by decide) rfl rfl rfl
abbrev m_X8_alone : Mi := (yX8_alone, cX8_alone, (some .int), 6, 3, 69, [])
theorem n_X8_alone : nameOk yX8_alone 2 := ⟨by decide, by decide, by decide +kernel⟩
def f_X8_alone_L32 : Nat → TW → Int → Int → Int → Int → (TW → Int → Option (Int × TW)) → Option (Int × TW)
  | 0, _, _, _, _, _, _ => none
  | n + 1, s0, x1, x3, x4, x5, k => (if nrm (s0.1 57) < nrm x5 then (k s0 x3) else (bt_ (f_X8_isAlone s0 x1 x5) fun v5 s4 => jn (fun (s6 : TW) (x1 : Int) (x3 : Int) (x5 : Int) (y0 : Int) => (if nrm y0 ≤ nrm x3 then (f_X8_alone_L32 n s6 x1 x3 y0 (x5 + 1) k) else (f_X8_alone_L32 n s6 x1 y0 y0 (x5 + 1) k))) fun j59 => (if nrm v5 = 0 then (j59 s4 x1 x3 x5 0) else (j59 s4 x1 x3 x5 (x4 + 1)))))
theorem w_X8_alone_L32 {b : Nat} {σ σ0 : Hp} {w : Int × TW} : ∀ (n : Nat) (s0 : TW) (x1 : Int) (x3 : Int) (x4 : Int) (x5 : Int) (k : (TW → Int → Option (Int × TW))), f_X8_alone_L32 n s0 x1 x3 x4 x5 k = some w → (∀ (s1 : TW) (x3 : Int), k s1 x3 = some w → AW m_X8_alone σ0 (tI b σ w) 76 [none, none, none, some (iV x3), none, none] [] (insT b s1 σ)) → AW m_X8_alone σ0 (tI b σ w) 32 [some (rV (some b)), some (iV x1), none, some (iV x3), some (iV x4), some (iV x5)] [] (insT b s0 σ) := by
  intro n
  induction n with
  | zero =>
    intro s0 x1 x3 x4 x5 k h hk
    rw [f_X8_alone_L32] at h
    cases h
  | succ n ih =>
    intro s0 x1 x3 x4 x5 k h hk
    rw [f_X8_alone_L32] at h
    refine AW.iload dX8_alone_32 rfl ?_
    refine AW.aload_n dX8_alone_34 rfl ?_
    refine AW.tgI (k := 57) dX8_alone_35 (Nat.le_of_ble_eq_true rfl) (fun _ => rfl) q1597 rfl ?_
    refine AW.icmp_gt 76 dX8_alone_38 (by decide) h (fun c9 h => ?_) (fun c9 h => ?_)
    · exact AW.fewer (L' := [none, none, none, some (iV x3), none, none]) (And.intro rfl trivial) (hk _ _ h)
    · refine AW.aload_n dX8_alone_41 rfl ?_
      refine AW.iload_n dX8_alone_42 rfl ?_
      refine AW.iload dX8_alone_43 rfl ?_
      refine AW.tVI (M' := m_X8_isAlone) [iV x1, iV x5] [] dX8_alone_45 q2036 q2038 qs109 q139 q2039 rfl n_X8_isAlone rfl rfl rfl (fun _ _ e => c_X8_isAlone e) h (fun v5 s4 h => ?_)
      refine jn_elim h (fun (j : (TW → Int → Int → Int → Int → Option (Int × TW))) => ∀ (s6 : TW) (x1 : Int) (x3 : Int) (x5 : Int) (y0 : Int), j s6 x1 x3 x5 y0 = some w → AW m_X8_alone σ0 (tI b σ w) 59 [some (rV (some b)), some (iV x1), none, some (iV x3), none, some (iV x5)] [iV y0] (insT b s6 σ)) ?_ (fun j59 hj59 h => ?_)
      · intro s6 x1 x3 x5 y0 h
        refine AW.istore (L' := [some (rV (some b)), some (iV x1), none, some (iV x3), some (iV y0), some (iV x5)]) dX8_alone_59 (Nat.le_of_ble_eq_true rfl) rfl rfl ?_
        refine AW.iload dX8_alone_61 rfl ?_
        refine AW.iload_n dX8_alone_63 rfl ?_
        refine AW.icmp_le 70 dX8_alone_64 (by decide) h (fun c7 h => ?_) (fun c7 h => ?_)
        · refine AW.iinc (L' := [some (rV (some b)), some (iV x1), none, some (iV x3), some (iV y0), some (iV (x5 + 1))]) dX8_alone_70 rfl (Nat.le_of_ble_eq_true rfl) rfl rfl ?_
          refine AW.goto (tgt := 32) dX8_alone_73 (by decide) ?_
          exact ih _ _ _ _ _ _ h hk
        · refine AW.iload dX8_alone_67 rfl ?_
          refine AW.istore_n (L' := [some (rV (some b)), some (iV x1), none, some (iV y0), some (iV y0), some (iV x5)]) dX8_alone_69 (Nat.le_of_ble_eq_true rfl) rfl rfl ?_
          refine AW.iinc (L' := [some (rV (some b)), some (iV x1), none, some (iV y0), some (iV y0), some (iV (x5 + 1))]) dX8_alone_70 rfl (Nat.le_of_ble_eq_true rfl) rfl rfl ?_
          refine AW.goto (tgt := 32) dX8_alone_73 (by decide) ?_
          exact ih _ _ _ _ _ _ h hk
      · refine AW.if_eq 58 dX8_alone_48 (by decide) h (fun c8 h => ?_) (fun c8 h => ?_)
        · refine AW.iconst dX8_alone_58 ?_
          exact AW.fewer (L' := [some (rV (some b)), some (iV x1), none, some (iV x3), none, some (iV x5)]) (And.intro rfl (And.intro rfl (And.intro rfl (And.intro rfl trivial)))) (hj59 _ _ _ _ _ h)
        · refine AW.iload dX8_alone_51 rfl ?_
          refine AW.iconst dX8_alone_53 ?_
          refine AW.iadd dX8_alone_54 ?_
          refine AW.goto (tgt := 59) dX8_alone_55 (by decide) ?_
          exact AW.fewer (L' := [some (rV (some b)), some (iV x1), none, some (iV x3), none, some (iV x5)]) (And.intro rfl (And.intro rfl (And.intro rfl (And.intro rfl trivial)))) (hj59 _ _ _ _ _ h)
def f_X8_alone (s0 : TW) (x1 : Int) (x2 : Int) : Option (Int × TW) :=
  bt_ (f_X8_isMan s0 x1) fun v2 s1 => (if ¬ nrm v2 = 0 then (bt_ (f_X8_copies s1) fun _ s3 => (if ¬ nrm x2 = 0 then (f_X8_alone_L32 FU s3 x1 0 0 0 (fun s10 x3 => some (nrm x3, s10))) else (bt_ (f_X8_aloneOf s3 x1) fun v12 s11 => some (v12, s11)))) else (some ((-1), s1)))
theorem w_X8_alone {b : Nat} {σ σ0 : Hp} {w : Int × TW} (s0 : TW) (x1 : Int) (x2 : Int) (h : f_X8_alone s0 x1 x2 = some w) : AW m_X8_alone σ0 (tI b σ w) 0 [some (rV (some b)), some (iV x1), some (iV x2), none, none, none] [] (insT b s0 σ) := by
  unfold f_X8_alone at h
  refine AW.aload_n dX8_alone_0 rfl ?_
  refine AW.iload_n dX8_alone_1 rfl ?_
  refine AW.tVI (M' := m_X8_isMan) [iV x1] [] dX8_alone_2 q1893 q1895 qs89 q139 q1896 rfl n_X8_isMan rfl rfl rfl (fun _ _ e => c_X8_isMan e) h (fun v2 s1 h => ?_)
  refine AW.if_ne 10 dX8_alone_5 (by decide) h (fun c14 h => ?_) (fun c14 h => ?_)
  · refine AW.aload_n dX8_alone_10 rfl ?_
    refine AW.tVU (M' := m_X8_copies) [] [] dX8_alone_11 q1912 q1914 qs92 q139 q1915 rfl n_X8_copies rfl rfl rfl (fun _ _ e => c_X8_copies e) h (fun _ s3 h => ?_)
    refine AW.iload_n dX8_alone_14 rfl ?_
    refine AW.if_ne 24 dX8_alone_15 (by decide) h (fun c13 h => ?_) (fun c13 h => ?_)
    · refine AW.iconst dX8_alone_24 ?_
      refine AW.istore_n (L' := [some (rV (some b)), some (iV x1), some (iV x2), some (iV 0), none, none]) dX8_alone_25 (Nat.le_of_ble_eq_true rfl) rfl rfl ?_
      refine AW.iconst dX8_alone_26 ?_
      refine AW.istore (L' := [some (rV (some b)), some (iV x1), some (iV x2), some (iV 0), some (iV 0), none]) dX8_alone_27 (Nat.le_of_ble_eq_true rfl) rfl rfl ?_
      refine AW.iconst dX8_alone_29 ?_
      refine AW.istore (L' := [some (rV (some b)), some (iV x1), some (iV x2), some (iV 0), some (iV 0), some (iV 0)]) dX8_alone_30 (Nat.le_of_ble_eq_true rfl) rfl rfl ?_
      refine AW.fewer (L' := [some (rV (some b)), some (iV x1), none, some (iV 0), some (iV 0), some (iV 0)]) (And.intro rfl (And.intro rfl (And.intro rfl (And.intro rfl (And.intro rfl trivial))))) ?_
      refine w_X8_alone_L32 _ _ _ _ _ _ _ h (fun s10 x3 h => ?_)
      refine AW.iload_n dX8_alone_76 rfl ?_
      refine AW.nv ?_
      cases h
      exact AW.iret dX8_alone_77 rfl
    · refine AW.aload_n dX8_alone_18 rfl ?_
      refine AW.iload_n dX8_alone_19 rfl ?_
      refine AW.tVI (M' := m_X8_aloneOf) [iV x1] [] dX8_alone_20 q2032 q2034 qs108 q139 q2035 rfl n_X8_aloneOf rfl rfl rfl (fun _ _ e => c_X8_aloneOf e) h (fun v12 s11 h => ?_)
      cases h
      exact AW.iret dX8_alone_23 rfl
  · refine AW.iconst dX8_alone_8 ?_
    cases h
    exact AW.iret dX8_alone_9 rfl
theorem c_X8_alone {b : Nat} {σ : Hp} {s0 : TW} {x1 : Int} {x2 : Int} {v : Int} {s1 : TW} (h : f_X8_alone s0 x1 x2 = some (v, s1)) : Ct m_X8_alone [rV (some b), iV x1, iV x2] (insT b s0 σ) (.inl (some (iV v)), insT b s1 σ) :=
  Ct.of2 (w_X8_alone s0 x1 x2 h) (by decide) rfl rfl rfl
abbrev m_X8_appends : Mi := (yX8_appends, cX8_appends, (some .long), 3, 0, 0, [])
theorem n_X8_appends : nameOk yX8_appends 2 := ⟨by decide, by decide, by decide +kernel⟩
def f_X8_appends (s0 : TW) (x0 : Int) (x2 : Int) : Option (Int × TW) :=
  (if ¬ nrm x2 = 0 then (some ((27 * x0) + (nrm ((x2 - 97) + 1)), s0)) else (some (x0, s0)))
theorem w_X8_appends {b : Nat} {σ σ0 : Hp} {w : Int × TW} (s0 : TW) (x0 : Int) (x2 : Int) (h : f_X8_appends s0 x0 x2 = some w) : AW m_X8_appends σ0 (tJ b σ w) 0 [some (jV x0), none, some (iV x2)] [] (insT b s0 σ) := by
  unfold f_X8_appends at h
  refine AW.iload_n dX8_appends_0 rfl ?_
  refine AW.if_ne 8 dX8_appends_1 (by decide) h (fun c1 h => ?_) (fun c1 h => ?_)
  · refine AW.ldc2 (z := 27) dX8_appends_8 q1497 (by decide) ?_
    refine AW.lload_n dX8_appends_11 rfl ?_
    refine AW.lmul dX8_appends_12 ?_
    refine AW.iload_n dX8_appends_13 rfl ?_
    refine AW.bipush dX8_appends_14 (by decide) ?_
    refine AW.isub dX8_appends_16 ?_
    refine AW.iconst dX8_appends_17 ?_
    refine AW.iadd dX8_appends_18 ?_
    refine AW.i2l dX8_appends_19 ?_
    refine AW.ladd dX8_appends_20 ?_
    cases h
    exact AW.lret dX8_appends_21 rfl
  · refine AW.lload_n dX8_appends_4 rfl ?_
    refine AW.goto (tgt := 21) dX8_appends_5 (by decide) ?_
    cases h
    exact AW.lret dX8_appends_21 rfl
theorem c_X8_appends {b : Nat} {σ : Hp} {s0 : TW} {x0 : Int} {x2 : Int} {v : Int} {s1 : TW} (h : f_X8_appends s0 x0 x2 = some (v, s1)) : Ct m_X8_appends [jV x0, iV x2] (insT b s0 σ) (.inl (some (jV v)), insT b s1 σ) :=
  Ct.of2 (w_X8_appends s0 x0 x2 h) (by decide) rfl rfl rfl
abbrev m_X8_back : Mi := (yX8_back, cX8_back, (some .int), 2, 0, 0, [])
theorem n_X8_back : nameOk yX8_back 1 := ⟨by decide, by decide, by decide +kernel⟩
def f_X8_back (s0 : TW) (x1 : Int) : Option (Int × TW) :=
  (if nrm x1 < 0 then (some ((-1), s0)) else ((if nrm x1 ≤ nrm (s0.1 2) then (bd (tp s0 2 (nrm ((s0.1 2) - x1))) fun s1 => some (s1.1 2, s1)) else (some ((-1), s0)))))
theorem w_X8_back {b : Nat} {σ σ0 : Hp} {w : Int × TW} (s0 : TW) (x1 : Int) (h : f_X8_back s0 x1 = some w) : AW m_X8_back σ0 (tI b σ w) 0 [some (rV (some b)), some (iV x1)] [] (insT b s0 σ) := by
  unfold f_X8_back at h
  refine AW.iload_n dX8_back_0 rfl ?_
  refine AW.if_lt 12 dX8_back_1 (by decide) h (fun c3 h => ?_) (fun c3 h => ?_)
  · refine AW.iconst dX8_back_12 ?_
    cases h
    exact AW.iret dX8_back_13 rfl
  · refine AW.iload_n dX8_back_4 rfl ?_
    refine AW.aload_n dX8_back_5 rfl ?_
    refine AW.tgI (k := 2) dX8_back_6 (Nat.le_of_ble_eq_true rfl) (fun _ => rfl) q1542 rfl ?_
    refine AW.icmp_le 14 dX8_back_9 (by decide) h (fun c2 h => ?_) (fun c2 h => ?_)
    · refine AW.aload_n dX8_back_14 rfl ?_
      refine AW.dupR dX8_back_15 ?_
      refine AW.tgI (k := 2) dX8_back_16 (Nat.le_of_ble_eq_true rfl) (fun _ => rfl) q1542 rfl ?_
      refine AW.iload_n dX8_back_19 rfl ?_
      refine AW.isub dX8_back_20 ?_
      refine AW.nv ?_
      refine AW.tpB (k := 2) dX8_back_21 (Nat.le_of_ble_eq_true rfl) rfl q1542 rfl rfl h (fun s1 h => ?_)
      refine AW.aload_n dX8_back_24 rfl ?_
      refine AW.tgI (k := 2) dX8_back_25 (Nat.le_of_ble_eq_true rfl) (fun _ => rfl) q1542 rfl ?_
      cases h
      exact AW.iret dX8_back_28 rfl
    · refine AW.iconst dX8_back_12 ?_
      cases h
      exact AW.iret dX8_back_13 rfl
theorem c_X8_back {b : Nat} {σ : Hp} {s0 : TW} {x1 : Int} {v : Int} {s1 : TW} (h : f_X8_back s0 x1 = some (v, s1)) : Ct m_X8_back [rV (some b), iV x1] (insT b s0 σ) (.inl (some (iV v)), insT b s1 σ) :=
  Ct.of2 (w_X8_back s0 x1 h) (by decide) rfl rfl rfl
abbrev m_X8_rankOfOwner : Mi := (yX8_rankOfOwner, cX8_rankOfOwner, (some .int), 2, 0, 0, [])
theorem n_X8_rankOfOwner : nameOk yX8_rankOfOwner 1 := ⟨by decide, by decide, by decide +kernel⟩
def f_X8_rankOfOwner (s0 : TW) (x1 : Int) : Option (Int × TW) :=
  (ta s0 33 ((8 * (s0.1 18)) + x1)).bind fun v1 => (ta s0 56 (((36 * (s0.1 57)) + 6) + v1)).bind fun v2 => some (v2, s0)
theorem w_X8_rankOfOwner {b : Nat} {σ σ0 : Hp} {w : Int × TW} (s0 : TW) (x1 : Int) (h : f_X8_rankOfOwner s0 x1 = some w) : AW m_X8_rankOfOwner σ0 (tI b σ w) 0 [some (rV (some b)), some (iV x1)] [] (insT b s0 σ) := by
  unfold f_X8_rankOfOwner at h
  refine AW.aload_n dX8_rankOfOwner_0 rfl ?_
  refine AW.tgR (k := 56) dX8_rankOfOwner_1 (Nat.le_of_ble_eq_true rfl) (fun _ => rfl) q1596 rfl ia56 ?_
  refine AW.bipush dX8_rankOfOwner_4 (by decide) ?_
  refine AW.aload_n dX8_rankOfOwner_6 rfl ?_
  refine AW.tgI (k := 57) dX8_rankOfOwner_7 (Nat.le_of_ble_eq_true rfl) (fun _ => rfl) q1597 rfl ?_
  refine AW.imul dX8_rankOfOwner_10 ?_
  refine AW.bipush dX8_rankOfOwner_11 (by decide) ?_
  refine AW.iadd dX8_rankOfOwner_13 ?_
  refine AW.aload_n dX8_rankOfOwner_14 rfl ?_
  refine AW.tgR (k := 33) dX8_rankOfOwner_15 (Nat.le_of_ble_eq_true rfl) (fun _ => rfl) q1573 rfl ia33 ?_
  refine AW.bipush dX8_rankOfOwner_18 (by decide) ?_
  refine AW.aload_n dX8_rankOfOwner_20 rfl ?_
  refine AW.tgI (k := 18) dX8_rankOfOwner_21 (Nat.le_of_ble_eq_true rfl) (fun _ => rfl) q1558 rfl ?_
  refine AW.imul dX8_rankOfOwner_24 ?_
  refine AW.iload_n dX8_rankOfOwner_25 rfl ?_
  refine AW.iadd dX8_rankOfOwner_26 ?_
  refine AW.tiald (k := 33) dX8_rankOfOwner_27 ia33 (Nat.le_of_ble_eq_true rfl) rfl h (fun v1 h => ?_)
  refine AW.iadd dX8_rankOfOwner_28 ?_
  refine AW.tiald (k := 56) dX8_rankOfOwner_29 ia56 (Nat.le_of_ble_eq_true rfl) rfl h (fun v2 h => ?_)
  cases h
  exact AW.iret dX8_rankOfOwner_30 rfl
theorem c_X8_rankOfOwner {b : Nat} {σ : Hp} {s0 : TW} {x1 : Int} {v : Int} {s1 : TW} (h : f_X8_rankOfOwner s0 x1 = some (v, s1)) : Ct m_X8_rankOfOwner [rV (some b), iV x1] (insT b s0 σ) (.inl (some (iV v)), insT b s1 σ) :=
  Ct.of2 (w_X8_rankOfOwner s0 x1 h) (by decide) rfl rfl rfl
abbrev m_X8_waysOf : Mi := (yX8_waysOf, cX8_waysOf, (some .int), 4, 0, 0, [])
theorem n_X8_waysOf : nameOk yX8_waysOf 1 := ⟨by decide, by decide, by decide +kernel⟩
def f_X8_waysOf_L4 : Nat → TW → Int → Int → Int → (TW → Int → Option (Int × TW)) → Option (Int × TW)
  | 0, _, _, _, _, _ => none
  | n + 1, s0, x1, x2, x3, k => (ta s0 25 (s0.1 18)).bind fun v1 => (if nrm v1 ≤ nrm x3 then (k s0 x2) else ((ta s0 26 ((12 * (s0.1 18)) + x3)).bind fun v2 => (if nrm v2 = nrm x1 then (f_X8_waysOf_L4 n s0 x1 (x2 + 1) (x3 + 1) k) else ((ta s0 27 ((12 * (s0.1 18)) + x3)).bind fun v3 => (if ¬ nrm v3 = nrm x1 then (f_X8_waysOf_L4 n s0 x1 x2 (x3 + 1) k) else (f_X8_waysOf_L4 n s0 x1 (x2 + 1) (x3 + 1) k))))))
theorem w_X8_waysOf_L4 {b : Nat} {σ σ0 : Hp} {w : Int × TW} : ∀ (n : Nat) (s0 : TW) (x1 : Int) (x2 : Int) (x3 : Int) (k : (TW → Int → Option (Int × TW))), f_X8_waysOf_L4 n s0 x1 x2 x3 k = some w → (∀ (s1 : TW) (x2 : Int), k s1 x2 = some w → AW m_X8_waysOf σ0 (tI b σ w) 62 [none, none, some (iV x2), none] [] (insT b s1 σ)) → AW m_X8_waysOf σ0 (tI b σ w) 4 [some (rV (some b)), some (iV x1), some (iV x2), some (iV x3)] [] (insT b s0 σ) := by
  intro n
  induction n with
  | zero =>
    intro s0 x1 x2 x3 k h hk
    rw [f_X8_waysOf_L4] at h
    cases h
  | succ n ih =>
    intro s0 x1 x2 x3 k h hk
    rw [f_X8_waysOf_L4] at h
    refine AW.iload_n dX8_waysOf_4 rfl ?_
    refine AW.aload_n dX8_waysOf_5 rfl ?_
    refine AW.tgR (k := 25) dX8_waysOf_6 (Nat.le_of_ble_eq_true rfl) (fun _ => rfl) q1565 rfl ia25 ?_
    refine AW.aload_n dX8_waysOf_9 rfl ?_
    refine AW.tgI (k := 18) dX8_waysOf_10 (Nat.le_of_ble_eq_true rfl) (fun _ => rfl) q1558 rfl ?_
    refine AW.tiald (k := 25) dX8_waysOf_13 ia25 (Nat.le_of_ble_eq_true rfl) rfl h (fun v1 h => ?_)
    refine AW.icmp_ge 62 dX8_waysOf_14 (by decide) h (fun c6 h => ?_) (fun c6 h => ?_)
    · exact AW.fewer (L' := [none, none, some (iV x2), none]) (And.intro rfl trivial) (hk _ _ h)
    · refine AW.aload_n dX8_waysOf_17 rfl ?_
      refine AW.tgR (k := 26) dX8_waysOf_18 (Nat.le_of_ble_eq_true rfl) (fun _ => rfl) q1566 rfl ia26 ?_
      refine AW.bipush dX8_waysOf_21 (by decide) ?_
      refine AW.aload_n dX8_waysOf_23 rfl ?_
      refine AW.tgI (k := 18) dX8_waysOf_24 (Nat.le_of_ble_eq_true rfl) (fun _ => rfl) q1558 rfl ?_
      refine AW.imul dX8_waysOf_27 ?_
      refine AW.iload_n dX8_waysOf_28 rfl ?_
      refine AW.iadd dX8_waysOf_29 ?_
      refine AW.tiald (k := 26) dX8_waysOf_30 ia26 (Nat.le_of_ble_eq_true rfl) rfl h (fun v2 h => ?_)
      refine AW.iload_n dX8_waysOf_31 rfl ?_
      refine AW.icmp_eq 53 dX8_waysOf_32 (by decide) h (fun c5 h => ?_) (fun c5 h => ?_)
      · refine AW.iinc (L' := [some (rV (some b)), some (iV x1), some (iV (x2 + 1)), some (iV x3)]) dX8_waysOf_53 rfl (Nat.le_of_ble_eq_true rfl) rfl rfl ?_
        refine AW.iinc (L' := [some (rV (some b)), some (iV x1), some (iV (x2 + 1)), some (iV (x3 + 1))]) dX8_waysOf_56 rfl (Nat.le_of_ble_eq_true rfl) rfl rfl ?_
        refine AW.goto (tgt := 4) dX8_waysOf_59 (by decide) ?_
        exact ih _ _ _ _ _ h hk
      · refine AW.aload_n dX8_waysOf_35 rfl ?_
        refine AW.tgR (k := 27) dX8_waysOf_36 (Nat.le_of_ble_eq_true rfl) (fun _ => rfl) q1567 rfl ia27 ?_
        refine AW.bipush dX8_waysOf_39 (by decide) ?_
        refine AW.aload_n dX8_waysOf_41 rfl ?_
        refine AW.tgI (k := 18) dX8_waysOf_42 (Nat.le_of_ble_eq_true rfl) (fun _ => rfl) q1558 rfl ?_
        refine AW.imul dX8_waysOf_45 ?_
        refine AW.iload_n dX8_waysOf_46 rfl ?_
        refine AW.iadd dX8_waysOf_47 ?_
        refine AW.tiald (k := 27) dX8_waysOf_48 ia27 (Nat.le_of_ble_eq_true rfl) rfl h (fun v3 h => ?_)
        refine AW.iload_n dX8_waysOf_49 rfl ?_
        refine AW.icmp_ne 56 dX8_waysOf_50 (by decide) h (fun c4 h => ?_) (fun c4 h => ?_)
        · refine AW.iinc (L' := [some (rV (some b)), some (iV x1), some (iV x2), some (iV (x3 + 1))]) dX8_waysOf_56 rfl (Nat.le_of_ble_eq_true rfl) rfl rfl ?_
          refine AW.goto (tgt := 4) dX8_waysOf_59 (by decide) ?_
          exact ih _ _ _ _ _ h hk
        · refine AW.iinc (L' := [some (rV (some b)), some (iV x1), some (iV (x2 + 1)), some (iV x3)]) dX8_waysOf_53 rfl (Nat.le_of_ble_eq_true rfl) rfl rfl ?_
          refine AW.iinc (L' := [some (rV (some b)), some (iV x1), some (iV (x2 + 1)), some (iV (x3 + 1))]) dX8_waysOf_56 rfl (Nat.le_of_ble_eq_true rfl) rfl rfl ?_
          refine AW.goto (tgt := 4) dX8_waysOf_59 (by decide) ?_
          exact ih _ _ _ _ _ h hk
def f_X8_waysOf (s0 : TW) (x1 : Int) : Option (Int × TW) :=
  f_X8_waysOf_L4 FU s0 x1 0 0 (fun s7 x2 => some (nrm x2, s7))
theorem w_X8_waysOf {b : Nat} {σ σ0 : Hp} {w : Int × TW} (s0 : TW) (x1 : Int) (h : f_X8_waysOf s0 x1 = some w) : AW m_X8_waysOf σ0 (tI b σ w) 0 [some (rV (some b)), some (iV x1), none, none] [] (insT b s0 σ) := by
  unfold f_X8_waysOf at h
  refine AW.iconst dX8_waysOf_0 ?_
  refine AW.istore_n (L' := [some (rV (some b)), some (iV x1), some (iV 0), none]) dX8_waysOf_1 (Nat.le_of_ble_eq_true rfl) rfl rfl ?_
  refine AW.iconst dX8_waysOf_2 ?_
  refine AW.istore_n (L' := [some (rV (some b)), some (iV x1), some (iV 0), some (iV 0)]) dX8_waysOf_3 (Nat.le_of_ble_eq_true rfl) rfl rfl ?_
  refine w_X8_waysOf_L4 _ _ _ _ _ _ h (fun s7 x2 h => ?_)
  refine AW.iload_n dX8_waysOf_62 rfl ?_
  refine AW.nv ?_
  cases h
  exact AW.iret dX8_waysOf_63 rfl
theorem c_X8_waysOf {b : Nat} {σ : Hp} {s0 : TW} {x1 : Int} {v : Int} {s1 : TW} (h : f_X8_waysOf s0 x1 = some (v, s1)) : Ct m_X8_waysOf [rV (some b), iV x1] (insT b s0 σ) (.inl (some (iV v)), insT b s1 σ) :=
  Ct.of2 (w_X8_waysOf s0 x1 h) (by decide) rfl rfl rfl
abbrev m_X8_termOf : Mi := (yX8_termOf, cX8_termOf, (some .int), 8, 0, 0, [])
theorem n_X8_termOf : nameOk yX8_termOf 2 := ⟨by decide, by decide, by decide +kernel⟩
def f_X8_termOf_L5 : Nat → TW → Int → Int → Int → (TW → Option (Int × TW)) → Option (Int × TW)
  | 0, _, _, _, _, _ => none
  | n + 1, s0, x2, x3, x4, k => (if nrm x2 ≤ nrm x4 then (k s0) else ((ta s0 45 x4).bind fun v1 => (if nrm 2 ≤ nrm v1 then ((ta s0 50 ((x3 + (-1)) - 1)).bind fun v2 => (ta s0 50 (x3 + (-1))).bind fun v3 => jn (fun (s4 : TW) (x2 : Int) (x3 : Int) (x4 : Int) (x5 : Int) (x6 : Int) (x7 : Int) => (if ¬ nrm x5 = nrm 2 then ((if ¬ nrm x5 = nrm 3 then ((if ¬ nrm x5 = nrm 4 then (if nrm x7 = 0 then none else (ts s4 50 (x3 - 1) (dvI x6 x7)).bind fun s6 => f_X8_termOf_L5 n s6 x2 x3 (x4 + 1) k) else ((ts s4 50 (x3 - 1) (nrm (x6 * x7))).bind fun s7 => f_X8_termOf_L5 n s7 x2 x3 (x4 + 1) k))) else ((ts s4 50 (x3 - 1) (nrm (x6 - x7))).bind fun s9 => f_X8_termOf_L5 n s9 x2 x3 (x4 + 1) k))) else ((ts s4 50 (x3 - 1) (nrm (x6 + x7))).bind fun s11 => f_X8_termOf_L5 n s11 x2 x3 (x4 + 1) k))) fun j104 => (if ¬ nrm v1 = nrm 5 then (j104 s0 x2 (x3 + (-1)) x4 v1 v2 v3) else ((if ¬ nrm v3 = 0 then (j104 s0 x2 (x3 + (-1)) x4 v1 v2 v3) else ((tz s0 51 1).bind fun s13 => some (0, s13)))))) else (jn (fun (s16 : TW) (x2 : Int) (x3 : Int) (x4 : Int) (y1 : Int) (y2 : Int) => (ts s16 50 y1 (nrm y2)).bind fun s17 => f_X8_termOf_L5 n s17 x2 (x3 + 1) (x4 + 1) k) fun j58 => (if ¬ nrm v1 = 0 then ((ta s0 46 x4).bind fun v18 => (ta s0 49 v18).bind fun v19 => j58 s0 x2 x3 x4 x3 v19) else ((ta s0 46 x4).bind fun v20 => j58 s0 x2 x3 x4 x3 v20))))))
theorem w_X8_termOf_L5 {b : Nat} {σ σ0 : Hp} {w : Int × TW} : ∀ (n : Nat) (s0 : TW) (x2 : Int) (x3 : Int) (x4 : Int) (k : (TW → Option (Int × TW))), f_X8_termOf_L5 n s0 x2 x3 x4 k = some w → (∀ (s1 : TW), k s1 = some w → AW m_X8_termOf σ0 (tI b σ w) 165 [some (rV (some b)), none, none, none, none, none, none, none] [] (insT b s1 σ)) → AW m_X8_termOf σ0 (tI b σ w) 5 [some (rV (some b)), none, some (iV x2), some (iV x3), some (iV x4), none, none, none] [] (insT b s0 σ) := by
  intro n
  induction n with
  | zero =>
    intro s0 x2 x3 x4 k h hk
    rw [f_X8_termOf_L5] at h
    cases h
  | succ n ih =>
    intro s0 x2 x3 x4 k h hk
    rw [f_X8_termOf_L5] at h
    refine AW.iload dX8_termOf_5 rfl ?_
    refine AW.iload_n dX8_termOf_7 rfl ?_
    refine AW.icmp_ge 165 dX8_termOf_8 (by decide) h (fun c23 h => ?_) (fun c23 h => ?_)
    · exact AW.fewer (L' := [some (rV (some b)), none, none, none, none, none, none, none]) (And.intro rfl trivial) (hk _ h)
    · refine AW.aload_n dX8_termOf_11 rfl ?_
      refine AW.tgR (k := 45) dX8_termOf_12 (Nat.le_of_ble_eq_true rfl) (fun _ => rfl) q1585 rfl ia45 ?_
      refine AW.iload dX8_termOf_15 rfl ?_
      refine AW.tiald (k := 45) dX8_termOf_17 ia45 (Nat.le_of_ble_eq_true rfl) rfl h (fun v1 h => ?_)
      refine AW.istore (L' := [some (rV (some b)), none, some (iV x2), some (iV x3), some (iV x4), some (iV v1), none, none]) dX8_termOf_18 (Nat.le_of_ble_eq_true rfl) rfl rfl ?_
      refine AW.iload dX8_termOf_20 rfl ?_
      refine AW.iconst dX8_termOf_22 ?_
      refine AW.icmp_ge 65 dX8_termOf_23 (by decide) h (fun c22 h => ?_) (fun c22 h => ?_)
      · refine AW.iinc (L' := [some (rV (some b)), none, some (iV x2), some (iV (x3 + (-1))), some (iV x4), some (iV v1), none, none]) dX8_termOf_65 rfl (Nat.le_of_ble_eq_true rfl) rfl rfl ?_
        refine AW.aload_n dX8_termOf_68 rfl ?_
        refine AW.tgR (k := 50) dX8_termOf_69 (Nat.le_of_ble_eq_true rfl) (fun _ => rfl) q1590 rfl ia50 ?_
        refine AW.iload_n dX8_termOf_72 rfl ?_
        refine AW.iconst dX8_termOf_73 ?_
        refine AW.isub dX8_termOf_74 ?_
        refine AW.tiald (k := 50) dX8_termOf_75 ia50 (Nat.le_of_ble_eq_true rfl) rfl h (fun v2 h => ?_)
        refine AW.istore (L' := [some (rV (some b)), none, some (iV x2), some (iV (x3 + (-1))), some (iV x4), some (iV v1), some (iV v2), none]) dX8_termOf_76 (Nat.le_of_ble_eq_true rfl) rfl rfl ?_
        refine AW.aload_n dX8_termOf_78 rfl ?_
        refine AW.tgR (k := 50) dX8_termOf_79 (Nat.le_of_ble_eq_true rfl) (fun _ => rfl) q1590 rfl ia50 ?_
        refine AW.iload_n dX8_termOf_82 rfl ?_
        refine AW.tiald (k := 50) dX8_termOf_83 ia50 (Nat.le_of_ble_eq_true rfl) rfl h (fun v3 h => ?_)
        refine AW.istore (L' := [some (rV (some b)), none, some (iV x2), some (iV (x3 + (-1))), some (iV x4), some (iV v1), some (iV v2), some (iV v3)]) dX8_termOf_84 (Nat.le_of_ble_eq_true rfl) rfl rfl ?_
        refine AW.iload dX8_termOf_86 rfl ?_
        refine AW.iconst dX8_termOf_88 ?_
        refine jn_elim h (fun (j : (TW → Int → Int → Int → Int → Int → Int → Option (Int × TW))) => ∀ (s4 : TW) (x2 : Int) (x3 : Int) (x4 : Int) (x5 : Int) (x6 : Int) (x7 : Int), j s4 x2 x3 x4 x5 x6 x7 = some w → AW m_X8_termOf σ0 (tI b σ w) 104 [some (rV (some b)), none, some (iV x2), some (iV x3), some (iV x4), some (iV x5), some (iV x6), some (iV x7)] [] (insT b s4 σ)) ?_ (fun j104 hj104 h => ?_)
        · intro s4 x2 x3 x4 x5 x6 x7 h
          refine AW.aload_n dX8_termOf_104 rfl ?_
          refine AW.tgR (k := 50) dX8_termOf_105 (Nat.le_of_ble_eq_true rfl) (fun _ => rfl) q1590 rfl ia50 ?_
          refine AW.iload_n dX8_termOf_108 rfl ?_
          refine AW.iconst dX8_termOf_109 ?_
          refine AW.isub dX8_termOf_110 ?_
          refine AW.iload dX8_termOf_111 rfl ?_
          refine AW.iconst dX8_termOf_113 ?_
          refine AW.icmp_ne 125 dX8_termOf_114 (by decide) h (fun c12 h => ?_) (fun c12 h => ?_)
          · refine AW.iload dX8_termOf_125 rfl ?_
            refine AW.iconst dX8_termOf_127 ?_
            refine AW.icmp_ne 139 dX8_termOf_128 (by decide) h (fun c10 h => ?_) (fun c10 h => ?_)
            · refine AW.iload dX8_termOf_139 rfl ?_
              refine AW.iconst dX8_termOf_141 ?_
              refine AW.icmp_ne 153 dX8_termOf_142 (by decide) h (fun c8 h => ?_) (fun c8 h => ?_)
              · refine AW.iload dX8_termOf_153 rfl ?_
                refine AW.iload dX8_termOf_155 rfl ?_
                obtain ⟨hz5, h⟩ := nz_elim h
                refine AW.idiv dX8_termOf_157 hz5 ?_
                refine AW.tiast (k := 50) dX8_termOf_158 ia50 (Nat.le_of_ble_eq_true rfl) mt50 rfl h (fun s6 h => ?_)
                refine AW.iinc (L' := [some (rV (some b)), none, some (iV x2), some (iV x3), some (iV (x4 + 1)), some (iV x5), some (iV x6), some (iV x7)]) dX8_termOf_159 rfl (Nat.le_of_ble_eq_true rfl) rfl rfl ?_
                refine AW.goto (tgt := 5) dX8_termOf_162 (by decide) ?_
                exact AW.fewer (L' := [some (rV (some b)), none, some (iV x2), some (iV x3), some (iV (x4 + 1)), none, none, none]) (And.intro rfl (And.intro rfl (And.intro rfl (And.intro rfl trivial)))) (ih _ _ _ _ _ h hk)
              · refine AW.iload dX8_termOf_145 rfl ?_
                refine AW.iload dX8_termOf_147 rfl ?_
                refine AW.imul dX8_termOf_149 ?_
                refine AW.goto (tgt := 158) dX8_termOf_150 (by decide) ?_
                refine AW.nv ?_
                refine AW.tiast (k := 50) dX8_termOf_158 ia50 (Nat.le_of_ble_eq_true rfl) mt50 rfl h (fun s7 h => ?_)
                refine AW.iinc (L' := [some (rV (some b)), none, some (iV x2), some (iV x3), some (iV (x4 + 1)), some (iV x5), some (iV x6), some (iV x7)]) dX8_termOf_159 rfl (Nat.le_of_ble_eq_true rfl) rfl rfl ?_
                refine AW.goto (tgt := 5) dX8_termOf_162 (by decide) ?_
                exact AW.fewer (L' := [some (rV (some b)), none, some (iV x2), some (iV x3), some (iV (x4 + 1)), none, none, none]) (And.intro rfl (And.intro rfl (And.intro rfl (And.intro rfl trivial)))) (ih _ _ _ _ _ h hk)
            · refine AW.iload dX8_termOf_131 rfl ?_
              refine AW.iload dX8_termOf_133 rfl ?_
              refine AW.isub dX8_termOf_135 ?_
              refine AW.goto (tgt := 158) dX8_termOf_136 (by decide) ?_
              refine AW.nv ?_
              refine AW.tiast (k := 50) dX8_termOf_158 ia50 (Nat.le_of_ble_eq_true rfl) mt50 rfl h (fun s9 h => ?_)
              refine AW.iinc (L' := [some (rV (some b)), none, some (iV x2), some (iV x3), some (iV (x4 + 1)), some (iV x5), some (iV x6), some (iV x7)]) dX8_termOf_159 rfl (Nat.le_of_ble_eq_true rfl) rfl rfl ?_
              refine AW.goto (tgt := 5) dX8_termOf_162 (by decide) ?_
              exact AW.fewer (L' := [some (rV (some b)), none, some (iV x2), some (iV x3), some (iV (x4 + 1)), none, none, none]) (And.intro rfl (And.intro rfl (And.intro rfl (And.intro rfl trivial)))) (ih _ _ _ _ _ h hk)
          · refine AW.iload dX8_termOf_117 rfl ?_
            refine AW.iload dX8_termOf_119 rfl ?_
            refine AW.iadd dX8_termOf_121 ?_
            refine AW.goto (tgt := 158) dX8_termOf_122 (by decide) ?_
            refine AW.nv ?_
            refine AW.tiast (k := 50) dX8_termOf_158 ia50 (Nat.le_of_ble_eq_true rfl) mt50 rfl h (fun s11 h => ?_)
            refine AW.iinc (L' := [some (rV (some b)), none, some (iV x2), some (iV x3), some (iV (x4 + 1)), some (iV x5), some (iV x6), some (iV x7)]) dX8_termOf_159 rfl (Nat.le_of_ble_eq_true rfl) rfl rfl ?_
            refine AW.goto (tgt := 5) dX8_termOf_162 (by decide) ?_
            exact AW.fewer (L' := [some (rV (some b)), none, some (iV x2), some (iV x3), some (iV (x4 + 1)), none, none, none]) (And.intro rfl (And.intro rfl (And.intro rfl (And.intro rfl trivial)))) (ih _ _ _ _ _ h hk)
        · refine AW.icmp_ne 104 dX8_termOf_89 (by decide) h (fun c15 h => ?_) (fun c15 h => ?_)
          · exact hj104 _ _ _ _ _ _ _ h
          · refine AW.iload dX8_termOf_92 rfl ?_
            refine AW.if_ne 104 dX8_termOf_94 (by decide) h (fun c14 h => ?_) (fun c14 h => ?_)
            · exact hj104 _ _ _ _ _ _ _ h
            · refine AW.aload_n dX8_termOf_97 rfl ?_
              refine AW.iconst dX8_termOf_98 ?_
              refine AW.tpZ (k := 51) dX8_termOf_99 (Nat.le_of_ble_eq_true rfl) rfl q1591 rfl rfl h (fun s13 h => ?_)
              refine AW.iconst dX8_termOf_102 ?_
              cases h
              exact AW.iret dX8_termOf_103 rfl
      · refine AW.aload_n dX8_termOf_26 rfl ?_
        refine AW.tgR (k := 50) dX8_termOf_27 (Nat.le_of_ble_eq_true rfl) (fun _ => rfl) q1590 rfl ia50 ?_
        refine AW.iload_n dX8_termOf_30 rfl ?_
        refine AW.iload dX8_termOf_31 rfl ?_
        refine jn_elim h (fun (j : (TW → Int → Int → Int → Int → Int → Option (Int × TW))) => ∀ (s16 : TW) (x2 : Int) (x3 : Int) (x4 : Int) (y1 : Int) (y2 : Int), j s16 x2 x3 x4 y1 y2 = some w → AW m_X8_termOf σ0 (tI b σ w) 58 [some (rV (some b)), none, some (iV x2), some (iV x3), some (iV x4), none, none, none] [iV y2, iV y1, rV (some (b + tof 50))] (insT b s16 σ)) ?_ (fun j58 hj58 h => ?_)
        · intro s16 x2 x3 x4 y1 y2 h
          refine AW.nv ?_
          refine AW.tiast (k := 50) dX8_termOf_58 ia50 (Nat.le_of_ble_eq_true rfl) mt50 rfl h (fun s17 h => ?_)
          refine AW.iinc (L' := [some (rV (some b)), none, some (iV x2), some (iV (x3 + 1)), some (iV x4), none, none, none]) dX8_termOf_59 rfl (Nat.le_of_ble_eq_true rfl) rfl rfl ?_
          refine AW.goto (tgt := 159) dX8_termOf_62 (by decide) ?_
          refine AW.iinc (L' := [some (rV (some b)), none, some (iV x2), some (iV (x3 + 1)), some (iV (x4 + 1)), none, none, none]) dX8_termOf_159 rfl (Nat.le_of_ble_eq_true rfl) rfl rfl ?_
          refine AW.goto (tgt := 5) dX8_termOf_162 (by decide) ?_
          exact ih _ _ _ _ _ h hk
        · refine AW.if_ne 46 dX8_termOf_33 (by decide) h (fun c21 h => ?_) (fun c21 h => ?_)
          · refine AW.aload_n dX8_termOf_46 rfl ?_
            refine AW.tgR (k := 49) dX8_termOf_47 (Nat.le_of_ble_eq_true rfl) (fun _ => rfl) q1589 rfl ia49 ?_
            refine AW.aload_n dX8_termOf_50 rfl ?_
            refine AW.tgR (k := 46) dX8_termOf_51 (Nat.le_of_ble_eq_true rfl) (fun _ => rfl) q1586 rfl ia46 ?_
            refine AW.iload dX8_termOf_54 rfl ?_
            refine AW.tiald (k := 46) dX8_termOf_56 ia46 (Nat.le_of_ble_eq_true rfl) rfl h (fun v18 h => ?_)
            refine AW.tiald (k := 49) dX8_termOf_57 ia49 (Nat.le_of_ble_eq_true rfl) rfl h (fun v19 h => ?_)
            exact AW.fewer (L' := [some (rV (some b)), none, some (iV x2), some (iV x3), some (iV x4), none, none, none]) (And.intro rfl (And.intro rfl (And.intro rfl (And.intro rfl trivial)))) (hj58 _ _ _ _ _ _ h)
          · refine AW.aload_n dX8_termOf_36 rfl ?_
            refine AW.tgR (k := 46) dX8_termOf_37 (Nat.le_of_ble_eq_true rfl) (fun _ => rfl) q1586 rfl ia46 ?_
            refine AW.iload dX8_termOf_40 rfl ?_
            refine AW.tiald (k := 46) dX8_termOf_42 ia46 (Nat.le_of_ble_eq_true rfl) rfl h (fun v20 h => ?_)
            refine AW.goto (tgt := 58) dX8_termOf_43 (by decide) ?_
            exact AW.fewer (L' := [some (rV (some b)), none, some (iV x2), some (iV x3), some (iV x4), none, none, none]) (And.intro rfl (And.intro rfl (And.intro rfl (And.intro rfl trivial)))) (hj58 _ _ _ _ _ _ h)
def f_X8_termOf (s0 : TW) (x1 : Int) (x2 : Int) : Option (Int × TW) :=
  f_X8_termOf_L5 FU s0 x2 0 x1 (fun s24 => (ta s24 50 0).bind fun v25 => some (v25, s24))
theorem w_X8_termOf {b : Nat} {σ σ0 : Hp} {w : Int × TW} (s0 : TW) (x1 : Int) (x2 : Int) (h : f_X8_termOf s0 x1 x2 = some w) : AW m_X8_termOf σ0 (tI b σ w) 0 [some (rV (some b)), some (iV x1), some (iV x2), none, none, none, none, none] [] (insT b s0 σ) := by
  unfold f_X8_termOf at h
  refine AW.iconst dX8_termOf_0 ?_
  refine AW.istore_n (L' := [some (rV (some b)), some (iV x1), some (iV x2), some (iV 0), none, none, none, none]) dX8_termOf_1 (Nat.le_of_ble_eq_true rfl) rfl rfl ?_
  refine AW.iload_n dX8_termOf_2 rfl ?_
  refine AW.istore (L' := [some (rV (some b)), some (iV x1), some (iV x2), some (iV 0), some (iV x1), none, none, none]) dX8_termOf_3 (Nat.le_of_ble_eq_true rfl) rfl rfl ?_
  refine AW.fewer (L' := [some (rV (some b)), none, some (iV x2), some (iV 0), some (iV x1), none, none, none]) (And.intro rfl (And.intro rfl (And.intro rfl (And.intro rfl trivial)))) ?_
  refine w_X8_termOf_L5 _ _ _ _ _ _ h (fun s24 h => ?_)
  refine AW.aload_n dX8_termOf_165 rfl ?_
  refine AW.tgR (k := 50) dX8_termOf_166 (Nat.le_of_ble_eq_true rfl) (fun _ => rfl) q1590 rfl ia50 ?_
  refine AW.iconst dX8_termOf_169 ?_
  refine AW.tiald (k := 50) dX8_termOf_170 ia50 (Nat.le_of_ble_eq_true rfl) rfl h (fun v25 h => ?_)
  cases h
  exact AW.iret dX8_termOf_171 rfl
theorem c_X8_termOf {b : Nat} {σ : Hp} {s0 : TW} {x1 : Int} {x2 : Int} {v : Int} {s1 : TW} (h : f_X8_termOf s0 x1 x2 = some (v, s1)) : Ct m_X8_termOf [rV (some b), iV x1, iV x2] (insT b s0 σ) (.inl (some (iV v)), insT b s1 σ) :=
  Ct.of2 (w_X8_termOf s0 x1 x2 h) (by decide) rfl rfl rfl
abbrev m_X8_tells : Mi := (yX8_tells, cX8_tells, (some .int), 7, 1, 27, [])
theorem n_X8_tells : nameOk yX8_tells 2 := ⟨by decide, by decide, by decide +kernel⟩
def f_X8_tells_L40 : Nat → TW → Int → Int → (TW → Option (Int × TW)) → Option (Int × TW)
  | 0, _, _, _, _ => none
  | n + 1, s0, x3, x4, k => (ta s0 37 x3).bind fun v5 => (if nrm v5 ≤ nrm x4 then (k s0) else ((ta s0 39 x4).bind fun v6 => jn (fun (s7 : TW) (x4 : Int) => (ta s7 42 x4).bind fun v8 => (ta s7 43 x4).bind fun v9 => bt_ (f_X8_termOf s7 v8 v9) fun v11 s10 => (if nrm (s10.1 51) = 0 then (some (v11, s10)) else (some (0, s10)))) fun j120 => (if nrm v6 = 0 then (j120 s0 x4) else ((ta s0 40 x4).bind fun v13 => (ta s0 41 x4).bind fun v14 => bt_ (f_X8_termOf s0 v13 v14) fun v16 s15 => (ta s15 41 x4).bind fun v17 => (ta s15 42 x4).bind fun v18 => bt_ (f_X8_termOf s15 v17 v18) fun v20 s19 => (if nrm (s19.1 51) = 0 then ((if nrm v16 < nrm v20 then (j120 s19 x4) else (f_X8_tells_L40 n s19 x3 (x4 + 1) k))) else (some (0, s19)))))))
theorem w_X8_tells_L40 {b : Nat} {σ σ0 : Hp} {w : Int × TW} : ∀ (n : Nat) (s0 : TW) (x3 : Int) (x4 : Int) (k : (TW → Option (Int × TW))), f_X8_tells_L40 n s0 x3 x4 k = some w → (∀ (s1 : TW), k s1 = some w → AW m_X8_tells σ0 (tI b σ w) 160 [none, none, none, none, none, none, none] [] (insT b s1 σ)) → AW m_X8_tells σ0 (tI b σ w) 40 [some (rV (some b)), none, none, some (iV x3), some (iV x4), none, none] [] (insT b s0 σ) := by
  intro n
  induction n with
  | zero =>
    intro s0 x3 x4 k h hk
    rw [f_X8_tells_L40] at h
    cases h
  | succ n ih =>
    intro s0 x3 x4 k h hk
    rw [f_X8_tells_L40] at h
    refine AW.iload dX8_tells_40 rfl ?_
    refine AW.aload_n dX8_tells_42 rfl ?_
    refine AW.tgR (k := 37) dX8_tells_43 (Nat.le_of_ble_eq_true rfl) (fun _ => rfl) q1577 rfl ia37 ?_
    refine AW.iload_n dX8_tells_46 rfl ?_
    refine AW.tiald (k := 37) dX8_tells_47 ia37 (Nat.le_of_ble_eq_true rfl) rfl h (fun v5 h => ?_)
    refine AW.icmp_ge 160 dX8_tells_48 (by decide) h (fun c24 h => ?_) (fun c24 h => ?_)
    · exact AW.fewer (L' := [none, none, none, none, none, none, none]) (trivial) (hk _ h)
    · refine AW.aload_n dX8_tells_51 rfl ?_
      refine AW.tgR (k := 39) dX8_tells_52 (Nat.le_of_ble_eq_true rfl) (fun _ => rfl) q1579 rfl ia39 ?_
      refine AW.iload dX8_tells_55 rfl ?_
      refine AW.tzald (k := 39) dX8_tells_57 ia39 (Nat.le_of_ble_eq_true rfl) rfl h (fun v6 h => ?_)
      refine jn_elim h (fun (j : (TW → Int → Option (Int × TW))) => ∀ (s7 : TW) (x4 : Int), j s7 x4 = some w → AW m_X8_tells σ0 (tI b σ w) 120 [some (rV (some b)), none, none, none, some (iV x4), none, none] [] (insT b s7 σ)) ?_ (fun j120 hj120 h => ?_)
      · intro s7 x4 h
        refine AW.aload_n dX8_tells_120 rfl ?_
        refine AW.aload_n dX8_tells_121 rfl ?_
        refine AW.tgR (k := 42) dX8_tells_122 (Nat.le_of_ble_eq_true rfl) (fun _ => rfl) q1582 rfl ia42 ?_
        refine AW.iload dX8_tells_125 rfl ?_
        refine AW.tiald (k := 42) dX8_tells_127 ia42 (Nat.le_of_ble_eq_true rfl) rfl h (fun v8 h => ?_)
        refine AW.aload_n dX8_tells_128 rfl ?_
        refine AW.tgR (k := 43) dX8_tells_129 (Nat.le_of_ble_eq_true rfl) (fun _ => rfl) q1583 rfl ia43 ?_
        refine AW.iload dX8_tells_132 rfl ?_
        refine AW.tiald (k := 43) dX8_tells_134 ia43 (Nat.le_of_ble_eq_true rfl) rfl h (fun v9 h => ?_)
        refine AW.tVI (M' := m_X8_termOf) [iV v8, iV v9] [] dX8_tells_135 q1533 q1535 qs62 q139 q1536 rfl n_X8_termOf rfl rfl rfl (fun _ _ e => c_X8_termOf e) h (fun v11 s10 h => ?_)
        refine AW.istore (L' := [some (rV (some b)), none, none, none, some (iV x4), some (iV v11), none]) dX8_tells_138 (Nat.le_of_ble_eq_true rfl) rfl rfl ?_
        refine AW.aload_n dX8_tells_140 rfl ?_
        refine AW.tgI (k := 51) dX8_tells_141 (Nat.le_of_ble_eq_true rfl) (fun _ => rfl) q1591 rfl ?_
        refine AW.if_eq 151 dX8_tells_144 (by decide) h (fun c12 h => ?_) (fun c12 h => ?_)
        · refine AW.iload dX8_tells_151 rfl ?_
          cases h
          exact AW.iret dX8_tells_153 rfl
        · refine AW.iconst dX8_tells_147 ?_
          refine AW.goto (tgt := 153) dX8_tells_148 (by decide) ?_
          cases h
          exact AW.iret dX8_tells_153 rfl
      · refine AW.if_eq 120 dX8_tells_58 (by decide) h (fun c23 h => ?_) (fun c23 h => ?_)
        · exact AW.fewer (L' := [some (rV (some b)), none, none, none, some (iV x4), none, none]) (And.intro rfl (And.intro rfl trivial)) (hj120 _ _ h)
        · refine AW.aload_n dX8_tells_61 rfl ?_
          refine AW.aload_n dX8_tells_62 rfl ?_
          refine AW.tgR (k := 40) dX8_tells_63 (Nat.le_of_ble_eq_true rfl) (fun _ => rfl) q1580 rfl ia40 ?_
          refine AW.iload dX8_tells_66 rfl ?_
          refine AW.tiald (k := 40) dX8_tells_68 ia40 (Nat.le_of_ble_eq_true rfl) rfl h (fun v13 h => ?_)
          refine AW.aload_n dX8_tells_69 rfl ?_
          refine AW.tgR (k := 41) dX8_tells_70 (Nat.le_of_ble_eq_true rfl) (fun _ => rfl) q1581 rfl ia41 ?_
          refine AW.iload dX8_tells_73 rfl ?_
          refine AW.tiald (k := 41) dX8_tells_75 ia41 (Nat.le_of_ble_eq_true rfl) rfl h (fun v14 h => ?_)
          refine AW.tVI (M' := m_X8_termOf) [iV v13, iV v14] [] dX8_tells_76 q1533 q1535 qs62 q139 q1536 rfl n_X8_termOf rfl rfl rfl (fun _ _ e => c_X8_termOf e) h (fun v16 s15 h => ?_)
          refine AW.istore (L' := [some (rV (some b)), none, none, some (iV x3), some (iV x4), some (iV v16), none]) dX8_tells_79 (Nat.le_of_ble_eq_true rfl) rfl rfl ?_
          refine AW.aload_n dX8_tells_81 rfl ?_
          refine AW.aload_n dX8_tells_82 rfl ?_
          refine AW.tgR (k := 41) dX8_tells_83 (Nat.le_of_ble_eq_true rfl) (fun _ => rfl) q1581 rfl ia41 ?_
          refine AW.iload dX8_tells_86 rfl ?_
          refine AW.tiald (k := 41) dX8_tells_88 ia41 (Nat.le_of_ble_eq_true rfl) rfl h (fun v17 h => ?_)
          refine AW.aload_n dX8_tells_89 rfl ?_
          refine AW.tgR (k := 42) dX8_tells_90 (Nat.le_of_ble_eq_true rfl) (fun _ => rfl) q1582 rfl ia42 ?_
          refine AW.iload dX8_tells_93 rfl ?_
          refine AW.tiald (k := 42) dX8_tells_95 ia42 (Nat.le_of_ble_eq_true rfl) rfl h (fun v18 h => ?_)
          refine AW.tVI (M' := m_X8_termOf) [iV v17, iV v18] [] dX8_tells_96 q1533 q1535 qs62 q139 q1536 rfl n_X8_termOf rfl rfl rfl (fun _ _ e => c_X8_termOf e) h (fun v20 s19 h => ?_)
          refine AW.istore (L' := [some (rV (some b)), none, none, some (iV x3), some (iV x4), some (iV v16), some (iV v20)]) dX8_tells_99 (Nat.le_of_ble_eq_true rfl) rfl rfl ?_
          refine AW.aload_n dX8_tells_101 rfl ?_
          refine AW.tgI (k := 51) dX8_tells_102 (Nat.le_of_ble_eq_true rfl) (fun _ => rfl) q1591 rfl ?_
          refine AW.if_eq 110 dX8_tells_105 (by decide) h (fun c22 h => ?_) (fun c22 h => ?_)
          · refine AW.iload dX8_tells_110 rfl ?_
            refine AW.iload dX8_tells_112 rfl ?_
            refine AW.icmp_lt 120 dX8_tells_114 (by decide) h (fun c21 h => ?_) (fun c21 h => ?_)
            · exact AW.fewer (L' := [some (rV (some b)), none, none, none, some (iV x4), none, none]) (And.intro rfl (And.intro rfl trivial)) (hj120 _ _ h)
            · refine AW.goto (tgt := 154) dX8_tells_117 (by decide) ?_
              refine AW.iinc (L' := [some (rV (some b)), none, none, some (iV x3), some (iV (x4 + 1)), some (iV v16), some (iV v20)]) dX8_tells_154 rfl (Nat.le_of_ble_eq_true rfl) rfl rfl ?_
              refine AW.goto (tgt := 40) dX8_tells_157 (by decide) ?_
              exact AW.fewer (L' := [some (rV (some b)), none, none, some (iV x3), some (iV (x4 + 1)), none, none]) (And.intro rfl (And.intro rfl (And.intro rfl trivial))) (ih _ _ _ _ h hk)
          · refine AW.iconst dX8_tells_108 ?_
            cases h
            exact AW.iret dX8_tells_109 rfl
def f_X8_tells (s0 : TW) (x1 : Int) (x2 : Int) : Option (Int × TW) :=
  (ta s0 36 ((7 * (s0.1 18)) + x1)).bind fun v1 => (ta s0 37 ((7 * (s0.1 18)) + x1)).bind fun v2 => (if ¬ nrm v1 = nrm v2 then ((tz s0 51 0).bind fun s3 => (ta s3 36 ((7 * (s0.1 18)) + x1)).bind fun v4 => f_X8_tells_L40 FU s3 ((7 * (s0.1 18)) + x1) v4 (fun s25 => some (0, s25))) else (some (nrm x2, s0)))
theorem w_X8_tells {b : Nat} {σ σ0 : Hp} {w : Int × TW} (s0 : TW) (x1 : Int) (x2 : Int) (h : f_X8_tells s0 x1 x2 = some w) : AW m_X8_tells σ0 (tI b σ w) 0 [some (rV (some b)), some (iV x1), some (iV x2), none, none, none, none] [] (insT b s0 σ) := by
  unfold f_X8_tells at h
  refine AW.bipush dX8_tells_0 (by decide) ?_
  refine AW.aload_n dX8_tells_2 rfl ?_
  refine AW.tgI (k := 18) dX8_tells_3 (Nat.le_of_ble_eq_true rfl) (fun _ => rfl) q1558 rfl ?_
  refine AW.imul dX8_tells_6 ?_
  refine AW.iload_n dX8_tells_7 rfl ?_
  refine AW.iadd dX8_tells_8 ?_
  refine AW.istore_n (L' := [some (rV (some b)), some (iV x1), some (iV x2), some (iV ((7 * (s0.1 18)) + x1)), none, none, none]) dX8_tells_9 (Nat.le_of_ble_eq_true rfl) rfl rfl ?_
  refine AW.aload_n dX8_tells_10 rfl ?_
  refine AW.tgR (k := 36) dX8_tells_11 (Nat.le_of_ble_eq_true rfl) (fun _ => rfl) q1576 rfl ia36 ?_
  refine AW.iload_n dX8_tells_14 rfl ?_
  refine AW.tiald (k := 36) dX8_tells_15 ia36 (Nat.le_of_ble_eq_true rfl) rfl h (fun v1 h => ?_)
  refine AW.aload_n dX8_tells_16 rfl ?_
  refine AW.tgR (k := 37) dX8_tells_17 (Nat.le_of_ble_eq_true rfl) (fun _ => rfl) q1577 rfl ia37 ?_
  refine AW.iload_n dX8_tells_20 rfl ?_
  refine AW.tiald (k := 37) dX8_tells_21 ia37 (Nat.le_of_ble_eq_true rfl) rfl h (fun v2 h => ?_)
  refine AW.icmp_ne 27 dX8_tells_22 (by decide) h (fun c26 h => ?_) (fun c26 h => ?_)
  · refine AW.aload_n dX8_tells_27 rfl ?_
    refine AW.iconst dX8_tells_28 ?_
    refine AW.tpZ (k := 51) dX8_tells_29 (Nat.le_of_ble_eq_true rfl) rfl q1591 rfl rfl h (fun s3 h => ?_)
    refine AW.aload_n dX8_tells_32 rfl ?_
    refine AW.tgR (k := 36) dX8_tells_33 (Nat.le_of_ble_eq_true rfl) (fun _ => rfl) q1576 rfl ia36 ?_
    refine AW.iload_n dX8_tells_36 rfl ?_
    refine AW.tiald (k := 36) dX8_tells_37 ia36 (Nat.le_of_ble_eq_true rfl) rfl h (fun v4 h => ?_)
    refine AW.istore (L' := [some (rV (some b)), some (iV x1), some (iV x2), some (iV ((7 * (s0.1 18)) + x1)), some (iV v4), none, none]) dX8_tells_38 (Nat.le_of_ble_eq_true rfl) rfl rfl ?_
    refine AW.fewer (L' := [some (rV (some b)), none, none, some (iV ((7 * (s0.1 18)) + x1)), some (iV v4), none, none]) (And.intro rfl (And.intro rfl (And.intro rfl trivial))) ?_
    refine w_X8_tells_L40 _ _ _ _ _ h (fun s25 h => ?_)
    refine AW.iconst dX8_tells_160 ?_
    cases h
    exact AW.iret dX8_tells_161 rfl
  · refine AW.iload_n dX8_tells_25 rfl ?_
    refine AW.nv ?_
    cases h
    exact AW.iret dX8_tells_26 rfl
theorem c_X8_tells {b : Nat} {σ : Hp} {s0 : TW} {x1 : Int} {x2 : Int} {v : Int} {s1 : TW} (h : f_X8_tells s0 x1 x2 = some (v, s1)) : Ct m_X8_tells [rV (some b), iV x1, iV x2] (insT b s0 σ) (.inl (some (iV v)), insT b s1 σ) :=
  Ct.of2 (w_X8_tells s0 x1 x2 h) (by decide) rfl rfl rfl
abbrev m_X8_lateBy : Mi := (yX8_lateBy, cX8_lateBy, (some .int), 5, 2, 53, [])
theorem n_X8_lateBy : nameOk yX8_lateBy 2 := ⟨by decide, by decide, by decide +kernel⟩
def f_X8_lateBy (s0 : TW) (x1 : Int) (x2 : Int) : Option (Int × TW) :=
  (ta s0 56 (((36 * (s0.1 57)) + 12) + x1)).bind fun v1 => (ts s0 49 0 (s0.1 57)).bind fun s2 => (ts s2 49 1 v1).bind fun s3 => (ts s3 49 2 (nrm x2)).bind fun s4 => (ts s4 49 3 (nrm x1)).bind fun s5 => bt_ (f_X8_waysOf s5 v1) fun v7 s6 => (ts s6 49 4 v7).bind fun s8 => bt_ (f_X8_menIn s8 v1 (s8.1 57)) fun v10 s9 => bt_ (f_X8_bits s9 v10) fun v12 s11 => (ts s11 49 5 v12).bind fun s13 => bt_ (f_X8_tells s13 6 x2) fun v15 s14 => (if 0 ≤ nrm v15 then ((if nrm v15 ≤ nrm 240 then (some (v15, s14)) else (some (240, s14)))) else (some (0, s14)))
theorem w_X8_lateBy {b : Nat} {σ σ0 : Hp} {w : Int × TW} (s0 : TW) (x1 : Int) (x2 : Int) (h : f_X8_lateBy s0 x1 x2 = some w) : AW m_X8_lateBy σ0 (tI b σ w) 0 [some (rV (some b)), some (iV x1), some (iV x2), none, none] [] (insT b s0 σ) := by
  unfold f_X8_lateBy at h
  refine AW.aload_n dX8_lateBy_0 rfl ?_
  refine AW.tgR (k := 56) dX8_lateBy_1 (Nat.le_of_ble_eq_true rfl) (fun _ => rfl) q1596 rfl ia56 ?_
  refine AW.bipush dX8_lateBy_4 (by decide) ?_
  refine AW.aload_n dX8_lateBy_6 rfl ?_
  refine AW.tgI (k := 57) dX8_lateBy_7 (Nat.le_of_ble_eq_true rfl) (fun _ => rfl) q1597 rfl ?_
  refine AW.imul dX8_lateBy_10 ?_
  refine AW.bipush dX8_lateBy_11 (by decide) ?_
  refine AW.iadd dX8_lateBy_13 ?_
  refine AW.iload_n dX8_lateBy_14 rfl ?_
  refine AW.iadd dX8_lateBy_15 ?_
  refine AW.tiald (k := 56) dX8_lateBy_16 ia56 (Nat.le_of_ble_eq_true rfl) rfl h (fun v1 h => ?_)
  refine AW.istore_n (L' := [some (rV (some b)), some (iV x1), some (iV x2), some (iV v1), none]) dX8_lateBy_17 (Nat.le_of_ble_eq_true rfl) rfl rfl ?_
  refine AW.aload_n dX8_lateBy_18 rfl ?_
  refine AW.tgR (k := 49) dX8_lateBy_19 (Nat.le_of_ble_eq_true rfl) (fun _ => rfl) q1589 rfl ia49 ?_
  refine AW.iconst dX8_lateBy_22 ?_
  refine AW.aload_n dX8_lateBy_23 rfl ?_
  refine AW.tgI (k := 57) dX8_lateBy_24 (Nat.le_of_ble_eq_true rfl) (fun _ => rfl) q1597 rfl ?_
  refine AW.tiast (k := 49) dX8_lateBy_27 ia49 (Nat.le_of_ble_eq_true rfl) mt49 rfl h (fun s2 h => ?_)
  refine AW.aload_n dX8_lateBy_28 rfl ?_
  refine AW.tgR (k := 49) dX8_lateBy_29 (Nat.le_of_ble_eq_true rfl) (fun _ => rfl) q1589 rfl ia49 ?_
  refine AW.iconst dX8_lateBy_32 ?_
  refine AW.iload_n dX8_lateBy_33 rfl ?_
  refine AW.tiast (k := 49) dX8_lateBy_34 ia49 (Nat.le_of_ble_eq_true rfl) mt49 rfl h (fun s3 h => ?_)
  refine AW.aload_n dX8_lateBy_35 rfl ?_
  refine AW.tgR (k := 49) dX8_lateBy_36 (Nat.le_of_ble_eq_true rfl) (fun _ => rfl) q1589 rfl ia49 ?_
  refine AW.iconst dX8_lateBy_39 ?_
  refine AW.iload_n dX8_lateBy_40 rfl ?_
  refine AW.nv ?_
  refine AW.tiast (k := 49) dX8_lateBy_41 ia49 (Nat.le_of_ble_eq_true rfl) mt49 rfl h (fun s4 h => ?_)
  refine AW.aload_n dX8_lateBy_42 rfl ?_
  refine AW.tgR (k := 49) dX8_lateBy_43 (Nat.le_of_ble_eq_true rfl) (fun _ => rfl) q1589 rfl ia49 ?_
  refine AW.iconst dX8_lateBy_46 ?_
  refine AW.iload_n dX8_lateBy_47 rfl ?_
  refine AW.nv ?_
  refine AW.tiast (k := 49) dX8_lateBy_48 ia49 (Nat.le_of_ble_eq_true rfl) mt49 rfl h (fun s5 h => ?_)
  refine AW.aload_n dX8_lateBy_49 rfl ?_
  refine AW.tgR (k := 49) dX8_lateBy_50 (Nat.le_of_ble_eq_true rfl) (fun _ => rfl) q1589 rfl ia49 ?_
  refine AW.iconst dX8_lateBy_53 ?_
  refine AW.aload_n dX8_lateBy_54 rfl ?_
  refine AW.iload_n dX8_lateBy_55 rfl ?_
  refine AW.tVI (M' := m_X8_waysOf) [iV v1] [iV 4, rV (some (b + tof 49))] dX8_lateBy_56 q1518 q1520 qs59 q139 q1521 rfl n_X8_waysOf rfl rfl rfl (fun _ _ e => c_X8_waysOf e) h (fun v7 s6 h => ?_)
  refine AW.tiast (k := 49) dX8_lateBy_59 ia49 (Nat.le_of_ble_eq_true rfl) mt49 rfl h (fun s8 h => ?_)
  refine AW.aload_n dX8_lateBy_60 rfl ?_
  refine AW.tgR (k := 49) dX8_lateBy_61 (Nat.le_of_ble_eq_true rfl) (fun _ => rfl) q1589 rfl ia49 ?_
  refine AW.iconst dX8_lateBy_64 ?_
  refine AW.aload_n dX8_lateBy_65 rfl ?_
  refine AW.iload_n dX8_lateBy_66 rfl ?_
  refine AW.aload_n dX8_lateBy_67 rfl ?_
  refine AW.tgI (k := 57) dX8_lateBy_68 (Nat.le_of_ble_eq_true rfl) (fun _ => rfl) q1597 rfl ?_
  refine AW.tVI (M' := m_X8_menIn) [iV v1, iV (s8.1 57)] [iV 5, rV (some (b + tof 49))] dX8_lateBy_71 q1522 q1524 qs60 q139 q1525 rfl n_X8_menIn rfl rfl rfl (fun _ _ e => c_X8_menIn e) h (fun v10 s9 h => ?_)
  refine AW.tSI (M' := m_X8_bits) [iV v10] [iV 5, rV (some (b + tof 49))] dX8_lateBy_74 q1526 q1527 q139 q1528 n_X8_bits rfl rfl rfl (fun _ _ e => c_X8_bits e) h (fun v12 s11 h => ?_)
  refine AW.tiast (k := 49) dX8_lateBy_77 ia49 (Nat.le_of_ble_eq_true rfl) mt49 rfl h (fun s13 h => ?_)
  refine AW.aload_n dX8_lateBy_78 rfl ?_
  refine AW.bipush dX8_lateBy_79 (by decide) ?_
  refine AW.iload_n dX8_lateBy_81 rfl ?_
  refine AW.tVI (M' := m_X8_tells) [iV 6, iV x2] [] dX8_lateBy_82 q1529 q1531 qs61 q139 q1532 rfl n_X8_tells rfl rfl rfl (fun _ _ e => c_X8_tells e) h (fun v15 s14 h => ?_)
  refine AW.istore (L' := [some (rV (some b)), some (iV x1), some (iV x2), some (iV v1), some (iV v15)]) dX8_lateBy_85 (Nat.le_of_ble_eq_true rfl) rfl rfl ?_
  refine AW.iload dX8_lateBy_87 rfl ?_
  refine AW.if_ge 96 dX8_lateBy_89 (by decide) h (fun c17 h => ?_) (fun c17 h => ?_)
  · refine AW.iload dX8_lateBy_96 rfl ?_
    refine AW.sipush dX8_lateBy_98 (by decide) ?_
    refine AW.icmp_le 110 dX8_lateBy_101 (by decide) h (fun c16 h => ?_) (fun c16 h => ?_)
    · refine AW.iload dX8_lateBy_110 rfl ?_
      cases h
      exact AW.iret dX8_lateBy_112 rfl
    · refine AW.sipush dX8_lateBy_104 (by decide) ?_
      refine AW.goto (tgt := 112) dX8_lateBy_107 (by decide) ?_
      cases h
      exact AW.iret dX8_lateBy_112 rfl
  · refine AW.iconst dX8_lateBy_92 ?_
    refine AW.goto (tgt := 112) dX8_lateBy_93 (by decide) ?_
    cases h
    exact AW.iret dX8_lateBy_112 rfl
theorem c_X8_lateBy {b : Nat} {σ : Hp} {s0 : TW} {x1 : Int} {x2 : Int} {v : Int} {s1 : TW} (h : f_X8_lateBy s0 x1 x2 = some (v, s1)) : Ct m_X8_lateBy [rV (some b), iV x1, iV x2] (insT b s0 σ) (.inl (some (iV v)), insT b s1 σ) :=
  Ct.of2 (w_X8_lateBy s0 x1 x2 h) (by decide) rfl rfl rfl
abbrev m_X8_fillsLate : Mi := (yX8_fillsLate, cX8_fillsLate, none, 2, 3, 77, [])
theorem n_X8_fillsLate : nameOk yX8_fillsLate 0 := ⟨by decide, by decide, by decide +kernel⟩
def f_X8_fillsLate_L2 : Nat → TW → Int → (TW → Option (Unit × TW)) → Option (Unit × TW)
  | 0, _, _, _ => none
  | n + 1, s0, x1, k => (ta s0 31 (s0.1 18)).bind fun v1 => (if nrm v1 ≤ nrm x1 then (k s0) else (bt_ (f_X8_rankOfOwner s0 x1) fun v3 s2 => bt_ (f_X8_lateBy s2 x1 v3) fun v5 s4 => (ts s4 56 (((36 * (s0.1 57)) + 28) + x1) v5).bind fun s6 => f_X8_fillsLate_L2 n s6 (x1 + 1) k))
theorem w_X8_fillsLate_L2 {b : Nat} {σ σ0 : Hp} {w : Unit × TW} : ∀ (n : Nat) (s0 : TW) (x1 : Int) (k : (TW → Option (Unit × TW))), f_X8_fillsLate_L2 n s0 x1 k = some w → (∀ (s1 : TW), k s1 = some w → AW m_X8_fillsLate σ0 (tU b σ w) 48 [none, none] [] (insT b s1 σ)) → AW m_X8_fillsLate σ0 (tU b σ w) 2 [some (rV (some b)), some (iV x1)] [] (insT b s0 σ) := by
  intro n
  induction n with
  | zero =>
    intro s0 x1 k h hk
    rw [f_X8_fillsLate_L2] at h
    cases h
  | succ n ih =>
    intro s0 x1 k h hk
    rw [f_X8_fillsLate_L2] at h
    refine AW.iload_n dX8_fillsLate_2 rfl ?_
    refine AW.aload_n dX8_fillsLate_3 rfl ?_
    refine AW.tgR (k := 31) dX8_fillsLate_4 (Nat.le_of_ble_eq_true rfl) (fun _ => rfl) q1571 rfl ia31 ?_
    refine AW.aload_n dX8_fillsLate_7 rfl ?_
    refine AW.tgI (k := 18) dX8_fillsLate_8 (Nat.le_of_ble_eq_true rfl) (fun _ => rfl) q1558 rfl ?_
    refine AW.tiald (k := 31) dX8_fillsLate_11 ia31 (Nat.le_of_ble_eq_true rfl) rfl h (fun v1 h => ?_)
    refine AW.icmp_ge 48 dX8_fillsLate_12 (by decide) h (fun c7 h => ?_) (fun c7 h => ?_)
    · exact AW.fewer (L' := [none, none]) (trivial) (hk _ h)
    · refine AW.aload_n dX8_fillsLate_15 rfl ?_
      refine AW.tgR (k := 56) dX8_fillsLate_16 (Nat.le_of_ble_eq_true rfl) (fun _ => rfl) q1596 rfl ia56 ?_
      refine AW.bipush dX8_fillsLate_19 (by decide) ?_
      refine AW.aload_n dX8_fillsLate_21 rfl ?_
      refine AW.tgI (k := 57) dX8_fillsLate_22 (Nat.le_of_ble_eq_true rfl) (fun _ => rfl) q1597 rfl ?_
      refine AW.imul dX8_fillsLate_25 ?_
      refine AW.bipush dX8_fillsLate_26 (by decide) ?_
      refine AW.iadd dX8_fillsLate_28 ?_
      refine AW.iload_n dX8_fillsLate_29 rfl ?_
      refine AW.iadd dX8_fillsLate_30 ?_
      refine AW.aload_n dX8_fillsLate_31 rfl ?_
      refine AW.iload_n dX8_fillsLate_32 rfl ?_
      refine AW.aload_n dX8_fillsLate_33 rfl ?_
      refine AW.iload_n dX8_fillsLate_34 rfl ?_
      refine AW.tVI (M' := m_X8_rankOfOwner) [iV x1] [iV x1, rV (some b), iV (((36 * (s0.1 57)) + 28) + x1), rV (some (b + tof 56))] dX8_fillsLate_35 q1510 q1512 qs57 q139 q1513 rfl n_X8_rankOfOwner rfl rfl rfl (fun _ _ e => c_X8_rankOfOwner e) h (fun v3 s2 h => ?_)
      refine AW.tVI (M' := m_X8_lateBy) [iV x1, iV v3] [iV (((36 * (s0.1 57)) + 28) + x1), rV (some (b + tof 56))] dX8_fillsLate_38 q1514 q1516 qs58 q139 q1517 rfl n_X8_lateBy rfl rfl rfl (fun _ _ e => c_X8_lateBy e) h (fun v5 s4 h => ?_)
      refine AW.tiast (k := 56) dX8_fillsLate_41 ia56 (Nat.le_of_ble_eq_true rfl) mt56 rfl h (fun s6 h => ?_)
      refine AW.iinc (L' := [some (rV (some b)), some (iV (x1 + 1))]) dX8_fillsLate_42 rfl (Nat.le_of_ble_eq_true rfl) rfl rfl ?_
      refine AW.goto (tgt := 2) dX8_fillsLate_45 (by decide) ?_
      exact ih _ _ _ h hk
def f_X8_fillsLate (s0 : TW) : Option (Unit × TW) :=
  f_X8_fillsLate_L2 FU s0 0 (fun s8 => some ((), s8))
theorem w_X8_fillsLate {b : Nat} {σ σ0 : Hp} {w : Unit × TW} (s0 : TW) (h : f_X8_fillsLate s0 = some w) : AW m_X8_fillsLate σ0 (tU b σ w) 0 [some (rV (some b)), none] [] (insT b s0 σ) := by
  unfold f_X8_fillsLate at h
  refine AW.iconst dX8_fillsLate_0 ?_
  refine AW.istore_n (L' := [some (rV (some b)), some (iV 0)]) dX8_fillsLate_1 (Nat.le_of_ble_eq_true rfl) rfl rfl ?_
  refine w_X8_fillsLate_L2 _ _ _ _ h (fun s8 h => ?_)
  cases h
  exact AW.vret dX8_fillsLate_48 rfl
theorem c_X8_fillsLate {b : Nat} {σ : Hp} {s0 : TW} {v : Unit} {s1 : TW} (h : f_X8_fillsLate s0 = some (v, s1)) : Ct m_X8_fillsLate [rV (some b)] (insT b s0 σ) (.inl none, insT b s1 σ) :=
  Ct.of2 (w_X8_fillsLate s0 h) (by decide) rfl rfl rfl
abbrev m_X8_keepsRows : Mi := (yX8_keepsRows, cX8_keepsRows, none, 3, 0, 0, [])
theorem n_X8_keepsRows : nameOk yX8_keepsRows 1 := ⟨by decide, by decide, by decide +kernel⟩
def f_X8_keepsRows_L5 : Nat → TW → Int → (TW → Option (Unit × TW)) → Option (Unit × TW)
  | 0, _, _, _ => none
  | n + 1, s0, x2, k => (if nrm ((36 * (s0.1 57)) + 36) ≤ nrm x2 then (k s0) else ((ta s0 56 x2).bind fun v1 => (ts s0 52 x2 v1).bind fun s2 => f_X8_keepsRows_L5 n s2 (x2 + 1) k))
theorem w_X8_keepsRows_L5 {b : Nat} {σ σ0 : Hp} {w : Unit × TW} : ∀ (n : Nat) (s0 : TW) (x2 : Int) (k : (TW → Option (Unit × TW))), f_X8_keepsRows_L5 n s0 x2 k = some w → (∀ (s1 : TW), k s1 = some w → AW m_X8_keepsRows σ0 (tU b σ w) 37 [some (rV (some b)), none, none] [] (insT b s1 σ)) → AW m_X8_keepsRows σ0 (tU b σ w) 5 [some (rV (some b)), none, some (iV x2)] [] (insT b s0 σ) := by
  intro n
  induction n with
  | zero =>
    intro s0 x2 k h hk
    rw [f_X8_keepsRows_L5] at h
    cases h
  | succ n ih =>
    intro s0 x2 k h hk
    rw [f_X8_keepsRows_L5] at h
    refine AW.iload_n dX8_keepsRows_5 rfl ?_
    refine AW.bipush dX8_keepsRows_6 (by decide) ?_
    refine AW.aload_n dX8_keepsRows_8 rfl ?_
    refine AW.tgI (k := 57) dX8_keepsRows_9 (Nat.le_of_ble_eq_true rfl) (fun _ => rfl) q1597 rfl ?_
    refine AW.imul dX8_keepsRows_12 ?_
    refine AW.bipush dX8_keepsRows_13 (by decide) ?_
    refine AW.iadd dX8_keepsRows_15 ?_
    refine AW.icmp_ge 37 dX8_keepsRows_16 (by decide) h (fun c3 h => ?_) (fun c3 h => ?_)
    · exact AW.fewer (L' := [some (rV (some b)), none, none]) (And.intro rfl trivial) (hk _ h)
    · refine AW.aload_n dX8_keepsRows_19 rfl ?_
      refine AW.tgR (k := 52) dX8_keepsRows_20 (Nat.le_of_ble_eq_true rfl) (fun _ => rfl) q1592 rfl ia52 ?_
      refine AW.iload_n dX8_keepsRows_23 rfl ?_
      refine AW.aload_n dX8_keepsRows_24 rfl ?_
      refine AW.tgR (k := 56) dX8_keepsRows_25 (Nat.le_of_ble_eq_true rfl) (fun _ => rfl) q1596 rfl ia56 ?_
      refine AW.iload_n dX8_keepsRows_28 rfl ?_
      refine AW.tiald (k := 56) dX8_keepsRows_29 ia56 (Nat.le_of_ble_eq_true rfl) rfl h (fun v1 h => ?_)
      refine AW.tiast (k := 52) dX8_keepsRows_30 ia52 (Nat.le_of_ble_eq_true rfl) mt52 rfl h (fun s2 h => ?_)
      refine AW.iinc (L' := [some (rV (some b)), none, some (iV (x2 + 1))]) dX8_keepsRows_31 rfl (Nat.le_of_ble_eq_true rfl) rfl rfl ?_
      refine AW.goto (tgt := 5) dX8_keepsRows_34 (by decide) ?_
      exact ih _ _ _ h hk
def f_X8_keepsRows_L47 : Nat → TW → Int → (TW → Option (Unit × TW)) → Option (Unit × TW)
  | 0, _, _, _ => none
  | n + 1, s0, x2, k => (if nrm 8 ≤ nrm x2 then (k s0) else ((ta s0 58 x2).bind fun v6 => (ts s0 54 x2 v6).bind fun s7 => (ta s7 59 x2).bind fun v8 => (ts s7 55 x2 v8).bind fun s9 => f_X8_keepsRows_L47 n s9 (x2 + 1) k))
theorem w_X8_keepsRows_L47 {b : Nat} {σ σ0 : Hp} {w : Unit × TW} : ∀ (n : Nat) (s0 : TW) (x2 : Int) (k : (TW → Option (Unit × TW))), f_X8_keepsRows_L47 n s0 x2 k = some w → (∀ (s1 : TW), k s1 = some w → AW m_X8_keepsRows σ0 (tU b σ w) 83 [none, none, none] [] (insT b s1 σ)) → AW m_X8_keepsRows σ0 (tU b σ w) 47 [some (rV (some b)), none, some (iV x2)] [] (insT b s0 σ) := by
  intro n
  induction n with
  | zero =>
    intro s0 x2 k h hk
    rw [f_X8_keepsRows_L47] at h
    cases h
  | succ n ih =>
    intro s0 x2 k h hk
    rw [f_X8_keepsRows_L47] at h
    refine AW.iload_n dX8_keepsRows_47 rfl ?_
    refine AW.bipush dX8_keepsRows_48 (by decide) ?_
    refine AW.icmp_ge 83 dX8_keepsRows_50 (by decide) h (fun c10 h => ?_) (fun c10 h => ?_)
    · exact AW.fewer (L' := [none, none, none]) (trivial) (hk _ h)
    · refine AW.aload_n dX8_keepsRows_53 rfl ?_
      refine AW.tgR (k := 54) dX8_keepsRows_54 (Nat.le_of_ble_eq_true rfl) (fun _ => rfl) q1594 rfl ia54 ?_
      refine AW.iload_n dX8_keepsRows_57 rfl ?_
      refine AW.aload_n dX8_keepsRows_58 rfl ?_
      refine AW.tgR (k := 58) dX8_keepsRows_59 (Nat.le_of_ble_eq_true rfl) (fun _ => rfl) q1598 rfl ia58 ?_
      refine AW.iload_n dX8_keepsRows_62 rfl ?_
      refine AW.tiald (k := 58) dX8_keepsRows_63 ia58 (Nat.le_of_ble_eq_true rfl) rfl h (fun v6 h => ?_)
      refine AW.tiast (k := 54) dX8_keepsRows_64 ia54 (Nat.le_of_ble_eq_true rfl) mt54 rfl h (fun s7 h => ?_)
      refine AW.aload_n dX8_keepsRows_65 rfl ?_
      refine AW.tgR (k := 55) dX8_keepsRows_66 (Nat.le_of_ble_eq_true rfl) (fun _ => rfl) q1595 rfl ia55 ?_
      refine AW.iload_n dX8_keepsRows_69 rfl ?_
      refine AW.aload_n dX8_keepsRows_70 rfl ?_
      refine AW.tgR (k := 59) dX8_keepsRows_71 (Nat.le_of_ble_eq_true rfl) (fun _ => rfl) q1599 rfl ia59 ?_
      refine AW.iload_n dX8_keepsRows_74 rfl ?_
      refine AW.tiald (k := 59) dX8_keepsRows_75 ia59 (Nat.le_of_ble_eq_true rfl) rfl h (fun v8 h => ?_)
      refine AW.tiast (k := 55) dX8_keepsRows_76 ia55 (Nat.le_of_ble_eq_true rfl) mt55 rfl h (fun s9 h => ?_)
      refine AW.iinc (L' := [some (rV (some b)), none, some (iV (x2 + 1))]) dX8_keepsRows_77 rfl (Nat.le_of_ble_eq_true rfl) rfl rfl ?_
      refine AW.goto (tgt := 47) dX8_keepsRows_80 (by decide) ?_
      exact ih _ _ _ h hk
def f_X8_keepsRows (s0 : TW) (x1 : Int) : Option (Unit × TW) :=
  f_X8_keepsRows_L5 FU s0 (36 * x1) (fun s4 => bd (tp s4 53 (s4.1 57)) fun s5 => f_X8_keepsRows_L47 FU s5 0 (fun s11 => some ((), s11)))
theorem w_X8_keepsRows {b : Nat} {σ σ0 : Hp} {w : Unit × TW} (s0 : TW) (x1 : Int) (h : f_X8_keepsRows s0 x1 = some w) : AW m_X8_keepsRows σ0 (tU b σ w) 0 [some (rV (some b)), some (iV x1), none] [] (insT b s0 σ) := by
  unfold f_X8_keepsRows at h
  refine AW.bipush dX8_keepsRows_0 (by decide) ?_
  refine AW.iload_n dX8_keepsRows_2 rfl ?_
  refine AW.imul dX8_keepsRows_3 ?_
  refine AW.istore_n (L' := [some (rV (some b)), some (iV x1), some (iV (36 * x1))]) dX8_keepsRows_4 (Nat.le_of_ble_eq_true rfl) rfl rfl ?_
  refine AW.fewer (L' := [some (rV (some b)), none, some (iV (36 * x1))]) (And.intro rfl (And.intro rfl trivial)) ?_
  refine w_X8_keepsRows_L5 _ _ _ _ h (fun s4 h => ?_)
  refine AW.aload_n dX8_keepsRows_37 rfl ?_
  refine AW.aload_n dX8_keepsRows_38 rfl ?_
  refine AW.tgI (k := 57) dX8_keepsRows_39 (Nat.le_of_ble_eq_true rfl) (fun _ => rfl) q1597 rfl ?_
  refine AW.tpB (k := 53) dX8_keepsRows_42 (Nat.le_of_ble_eq_true rfl) rfl q1593 rfl rfl h (fun s5 h => ?_)
  refine AW.iconst dX8_keepsRows_45 ?_
  refine AW.istore_n (L' := [some (rV (some b)), none, some (iV 0)]) dX8_keepsRows_46 (Nat.le_of_ble_eq_true rfl) rfl rfl ?_
  refine w_X8_keepsRows_L47 _ _ _ _ h (fun s11 h => ?_)
  cases h
  exact AW.vret dX8_keepsRows_83 rfl
theorem c_X8_keepsRows {b : Nat} {σ : Hp} {s0 : TW} {x1 : Int} {v : Unit} {s1 : TW} (h : f_X8_keepsRows s0 x1 = some (v, s1)) : Ct m_X8_keepsRows [rV (some b), iV x1] (insT b s0 σ) (.inl none, insT b s1 σ) :=
  Ct.of2 (w_X8_keepsRows s0 x1 h) (by decide) rfl rfl rfl
abbrev m_X8_keeps : Mi := (yX8_keeps, cX8_keeps, none, 3, 1, 22, [])
theorem n_X8_keeps : nameOk yX8_keeps 0 := ⟨by decide, by decide, by decide +kernel⟩
def f_X8_keeps_L69 : Nat → TW → Int → Int → (TW → Int → Option (Unit × TW)) → Option (Unit × TW)
  | 0, _, _, _, _ => none
  | n + 1, s0, x1, x2, k => (if nrm 36 ≤ nrm x2 then (k s0 x1) else ((ta s0 52 ((36 * (s0.1 53)) + x2)).bind fun v3 => (ts s0 62 ((x1 + 1) + x2) v3).bind fun s4 => f_X8_keeps_L69 n s4 x1 (x2 + 1) k))
theorem w_X8_keeps_L69 {b : Nat} {σ σ0 : Hp} {w : Unit × TW} : ∀ (n : Nat) (s0 : TW) (x1 : Int) (x2 : Int) (k : (TW → Int → Option (Unit × TW))), f_X8_keeps_L69 n s0 x1 x2 k = some w → (∀ (s1 : TW) (x1 : Int), k s1 x1 = some w → AW m_X8_keeps σ0 (tU b σ w) 105 [some (rV (some b)), some (iV x1), none] [] (insT b s1 σ)) → AW m_X8_keeps σ0 (tU b σ w) 69 [some (rV (some b)), some (iV x1), some (iV x2)] [] (insT b s0 σ) := by
  intro n
  induction n with
  | zero =>
    intro s0 x1 x2 k h hk
    rw [f_X8_keeps_L69] at h
    cases h
  | succ n ih =>
    intro s0 x1 x2 k h hk
    rw [f_X8_keeps_L69] at h
    refine AW.iload_n dX8_keeps_69 rfl ?_
    refine AW.bipush dX8_keeps_70 (by decide) ?_
    refine AW.icmp_ge 105 dX8_keeps_72 (by decide) h (fun c5 h => ?_) (fun c5 h => ?_)
    · exact AW.fewer (L' := [some (rV (some b)), some (iV x1), none]) (And.intro rfl (And.intro rfl trivial)) (hk _ _ h)
    · refine AW.aload_n dX8_keeps_75 rfl ?_
      refine AW.tgR (k := 62) dX8_keeps_76 (Nat.le_of_ble_eq_true rfl) (fun _ => rfl) q1602 rfl ia62 ?_
      refine AW.iload_n dX8_keeps_79 rfl ?_
      refine AW.iconst dX8_keeps_80 ?_
      refine AW.iadd dX8_keeps_81 ?_
      refine AW.iload_n dX8_keeps_82 rfl ?_
      refine AW.iadd dX8_keeps_83 ?_
      refine AW.aload_n dX8_keeps_84 rfl ?_
      refine AW.tgR (k := 52) dX8_keeps_85 (Nat.le_of_ble_eq_true rfl) (fun _ => rfl) q1592 rfl ia52 ?_
      refine AW.bipush dX8_keeps_88 (by decide) ?_
      refine AW.aload_n dX8_keeps_90 rfl ?_
      refine AW.tgI (k := 53) dX8_keeps_91 (Nat.le_of_ble_eq_true rfl) (fun _ => rfl) q1593 rfl ?_
      refine AW.imul dX8_keeps_94 ?_
      refine AW.iload_n dX8_keeps_95 rfl ?_
      refine AW.iadd dX8_keeps_96 ?_
      refine AW.tiald (k := 52) dX8_keeps_97 ia52 (Nat.le_of_ble_eq_true rfl) rfl h (fun v3 h => ?_)
      refine AW.tiast (k := 62) dX8_keeps_98 ia62 (Nat.le_of_ble_eq_true rfl) mt62 rfl h (fun s4 h => ?_)
      refine AW.iinc (L' := [some (rV (some b)), some (iV x1), some (iV (x2 + 1))]) dX8_keeps_99 rfl (Nat.le_of_ble_eq_true rfl) rfl rfl ?_
      refine AW.goto (tgt := 69) dX8_keeps_102 (by decide) ?_
      exact ih _ _ _ _ h hk
def f_X8_keeps_L107 : Nat → TW → Int → Int → (TW → Option (Unit × TW)) → Option (Unit × TW)
  | 0, _, _, _, _ => none
  | n + 1, s0, x1, x2, k => (if nrm 8 ≤ nrm x2 then (k s0) else ((ta s0 54 x2).bind fun v7 => (ts s0 62 ((x1 + 37) + x2) v7).bind fun s8 => (ta s8 55 x2).bind fun v9 => (ts s8 62 ((x1 + 45) + x2) v9).bind fun s10 => f_X8_keeps_L107 n s10 x1 (x2 + 1) k))
theorem w_X8_keeps_L107 {b : Nat} {σ σ0 : Hp} {w : Unit × TW} : ∀ (n : Nat) (s0 : TW) (x1 : Int) (x2 : Int) (k : (TW → Option (Unit × TW))), f_X8_keeps_L107 n s0 x1 x2 k = some w → (∀ (s1 : TW), k s1 = some w → AW m_X8_keeps σ0 (tU b σ w) 153 [some (rV (some b)), none, none] [] (insT b s1 σ)) → AW m_X8_keeps σ0 (tU b σ w) 107 [some (rV (some b)), some (iV x1), some (iV x2)] [] (insT b s0 σ) := by
  intro n
  induction n with
  | zero =>
    intro s0 x1 x2 k h hk
    rw [f_X8_keeps_L107] at h
    cases h
  | succ n ih =>
    intro s0 x1 x2 k h hk
    rw [f_X8_keeps_L107] at h
    refine AW.iload_n dX8_keeps_107 rfl ?_
    refine AW.bipush dX8_keeps_108 (by decide) ?_
    refine AW.icmp_ge 153 dX8_keeps_110 (by decide) h (fun c11 h => ?_) (fun c11 h => ?_)
    · exact AW.fewer (L' := [some (rV (some b)), none, none]) (And.intro rfl trivial) (hk _ h)
    · refine AW.aload_n dX8_keeps_113 rfl ?_
      refine AW.tgR (k := 62) dX8_keeps_114 (Nat.le_of_ble_eq_true rfl) (fun _ => rfl) q1602 rfl ia62 ?_
      refine AW.iload_n dX8_keeps_117 rfl ?_
      refine AW.bipush dX8_keeps_118 (by decide) ?_
      refine AW.iadd dX8_keeps_120 ?_
      refine AW.iload_n dX8_keeps_121 rfl ?_
      refine AW.iadd dX8_keeps_122 ?_
      refine AW.aload_n dX8_keeps_123 rfl ?_
      refine AW.tgR (k := 54) dX8_keeps_124 (Nat.le_of_ble_eq_true rfl) (fun _ => rfl) q1594 rfl ia54 ?_
      refine AW.iload_n dX8_keeps_127 rfl ?_
      refine AW.tiald (k := 54) dX8_keeps_128 ia54 (Nat.le_of_ble_eq_true rfl) rfl h (fun v7 h => ?_)
      refine AW.tiast (k := 62) dX8_keeps_129 ia62 (Nat.le_of_ble_eq_true rfl) mt62 rfl h (fun s8 h => ?_)
      refine AW.aload_n dX8_keeps_130 rfl ?_
      refine AW.tgR (k := 62) dX8_keeps_131 (Nat.le_of_ble_eq_true rfl) (fun _ => rfl) q1602 rfl ia62 ?_
      refine AW.iload_n dX8_keeps_134 rfl ?_
      refine AW.bipush dX8_keeps_135 (by decide) ?_
      refine AW.iadd dX8_keeps_137 ?_
      refine AW.iload_n dX8_keeps_138 rfl ?_
      refine AW.iadd dX8_keeps_139 ?_
      refine AW.aload_n dX8_keeps_140 rfl ?_
      refine AW.tgR (k := 55) dX8_keeps_141 (Nat.le_of_ble_eq_true rfl) (fun _ => rfl) q1595 rfl ia55 ?_
      refine AW.iload_n dX8_keeps_144 rfl ?_
      refine AW.tiald (k := 55) dX8_keeps_145 ia55 (Nat.le_of_ble_eq_true rfl) rfl h (fun v9 h => ?_)
      refine AW.tiast (k := 62) dX8_keeps_146 ia62 (Nat.le_of_ble_eq_true rfl) mt62 rfl h (fun s10 h => ?_)
      refine AW.iinc (L' := [some (rV (some b)), some (iV x1), some (iV (x2 + 1))]) dX8_keeps_147 rfl (Nat.le_of_ble_eq_true rfl) rfl rfl ?_
      refine AW.goto (tgt := 107) dX8_keeps_150 (by decide) ?_
      exact ih _ _ _ _ h hk
def f_X8_keeps_L11 : Nat → TW → Int → (TW → Option (Unit × TW)) → Option (Unit × TW)
  | 0, _, _, _ => none
  | n + 1, s0, x1, k => (if nrm 1007 ≤ nrm x1 then (k s0) else ((ta s0 62 (x1 + 53)).bind fun v15 => (ts s0 62 x1 v15).bind fun s16 => f_X8_keeps_L11 n s16 (x1 + 1) k))
theorem w_X8_keeps_L11 {b : Nat} {σ σ0 : Hp} {w : Unit × TW} : ∀ (n : Nat) (s0 : TW) (x1 : Int) (k : (TW → Option (Unit × TW))), f_X8_keeps_L11 n s0 x1 k = some w → (∀ (s1 : TW), k s1 = some w → AW m_X8_keeps σ0 (tU b σ w) 39 [some (rV (some b)), none, none] [] (insT b s1 σ)) → AW m_X8_keeps σ0 (tU b σ w) 11 [some (rV (some b)), some (iV x1), none] [] (insT b s0 σ) := by
  intro n
  induction n with
  | zero =>
    intro s0 x1 k h hk
    rw [f_X8_keeps_L11] at h
    cases h
  | succ n ih =>
    intro s0 x1 k h hk
    rw [f_X8_keeps_L11] at h
    refine AW.iload_n dX8_keeps_11 rfl ?_
    refine AW.sipush dX8_keeps_12 (by decide) ?_
    refine AW.icmp_ge 39 dX8_keeps_15 (by decide) h (fun c17 h => ?_) (fun c17 h => ?_)
    · exact AW.fewer (L' := [some (rV (some b)), none, none]) (And.intro rfl trivial) (hk _ h)
    · refine AW.aload_n dX8_keeps_18 rfl ?_
      refine AW.tgR (k := 62) dX8_keeps_19 (Nat.le_of_ble_eq_true rfl) (fun _ => rfl) q1602 rfl ia62 ?_
      refine AW.iload_n dX8_keeps_22 rfl ?_
      refine AW.aload_n dX8_keeps_23 rfl ?_
      refine AW.tgR (k := 62) dX8_keeps_24 (Nat.le_of_ble_eq_true rfl) (fun _ => rfl) q1602 rfl ia62 ?_
      refine AW.iload_n dX8_keeps_27 rfl ?_
      refine AW.bipush dX8_keeps_28 (by decide) ?_
      refine AW.iadd dX8_keeps_30 ?_
      refine AW.tiald (k := 62) dX8_keeps_31 ia62 (Nat.le_of_ble_eq_true rfl) rfl h (fun v15 h => ?_)
      refine AW.tiast (k := 62) dX8_keeps_32 ia62 (Nat.le_of_ble_eq_true rfl) mt62 rfl h (fun s16 h => ?_)
      refine AW.iinc (L' := [some (rV (some b)), some (iV (x1 + 1)), none]) dX8_keeps_33 rfl (Nat.le_of_ble_eq_true rfl) rfl rfl ?_
      refine AW.goto (tgt := 11) dX8_keeps_36 (by decide) ?_
      exact ih _ _ _ h hk
def f_X8_keeps (s0 : TW) : Option (Unit × TW) :=
  jn (fun (s1 : TW) => (ts s1 62 (53 * (s1.1 61)) (s1.1 53)).bind fun s2 => f_X8_keeps_L69 FU s2 (53 * (s1.1 61)) 0 (fun s6 x1 => f_X8_keeps_L107 FU s6 x1 0 (fun s12 => bd (tp s12 61 (nrm ((s12.1 61) + 1))) fun s13 => bt_ (f_X8_keepsRows s13 (s13.1 53)) fun _ s14 => some ((), s14)))) fun j49 => (if ¬ nrm (s0.1 61) = nrm 20 then (j49 s0) else (f_X8_keeps_L11 FU s0 0 (fun s18 => bd (tp s18 61 (nrm ((s18.1 61) - 1))) fun s19 => j49 s19)))
theorem w_X8_keeps {b : Nat} {σ σ0 : Hp} {w : Unit × TW} (s0 : TW) (h : f_X8_keeps s0 = some w) : AW m_X8_keeps σ0 (tU b σ w) 0 [some (rV (some b)), none, none] [] (insT b s0 σ) := by
  unfold f_X8_keeps at h
  refine AW.aload_n dX8_keeps_0 rfl ?_
  refine AW.tgI (k := 61) dX8_keeps_1 (Nat.le_of_ble_eq_true rfl) (fun _ => rfl) q1601 rfl ?_
  refine AW.bipush dX8_keeps_4 (by decide) ?_
  refine jn_elim h (fun (j : (TW → Option (Unit × TW))) => ∀ (s1 : TW), j s1 = some w → AW m_X8_keeps σ0 (tU b σ w) 49 [some (rV (some b)), none, none] [] (insT b s1 σ)) ?_ (fun j49 hj49 h => ?_)
  · intro s1 h
    refine AW.bipush dX8_keeps_49 (by decide) ?_
    refine AW.aload_n dX8_keeps_51 rfl ?_
    refine AW.tgI (k := 61) dX8_keeps_52 (Nat.le_of_ble_eq_true rfl) (fun _ => rfl) q1601 rfl ?_
    refine AW.imul dX8_keeps_55 ?_
    refine AW.istore_n (L' := [some (rV (some b)), some (iV (53 * (s1.1 61))), none]) dX8_keeps_56 (Nat.le_of_ble_eq_true rfl) rfl rfl ?_
    refine AW.aload_n dX8_keeps_57 rfl ?_
    refine AW.tgR (k := 62) dX8_keeps_58 (Nat.le_of_ble_eq_true rfl) (fun _ => rfl) q1602 rfl ia62 ?_
    refine AW.iload_n dX8_keeps_61 rfl ?_
    refine AW.aload_n dX8_keeps_62 rfl ?_
    refine AW.tgI (k := 53) dX8_keeps_63 (Nat.le_of_ble_eq_true rfl) (fun _ => rfl) q1593 rfl ?_
    refine AW.tiast (k := 62) dX8_keeps_66 ia62 (Nat.le_of_ble_eq_true rfl) mt62 rfl h (fun s2 h => ?_)
    refine AW.iconst dX8_keeps_67 ?_
    refine AW.istore_n (L' := [some (rV (some b)), some (iV (53 * (s1.1 61))), some (iV 0)]) dX8_keeps_68 (Nat.le_of_ble_eq_true rfl) rfl rfl ?_
    refine w_X8_keeps_L69 _ _ _ _ _ h (fun s6 x1 h => ?_)
    refine AW.iconst dX8_keeps_105 ?_
    refine AW.istore_n (L' := [some (rV (some b)), some (iV x1), some (iV 0)]) dX8_keeps_106 (Nat.le_of_ble_eq_true rfl) rfl rfl ?_
    refine w_X8_keeps_L107 _ _ _ _ _ h (fun s12 h => ?_)
    refine AW.aload_n dX8_keeps_153 rfl ?_
    refine AW.dupR dX8_keeps_154 ?_
    refine AW.tgI (k := 61) dX8_keeps_155 (Nat.le_of_ble_eq_true rfl) (fun _ => rfl) q1601 rfl ?_
    refine AW.iconst dX8_keeps_158 ?_
    refine AW.iadd dX8_keeps_159 ?_
    refine AW.nv ?_
    refine AW.tpB (k := 61) dX8_keeps_160 (Nat.le_of_ble_eq_true rfl) rfl q1601 rfl rfl h (fun s13 h => ?_)
    refine AW.aload_n dX8_keeps_163 rfl ?_
    refine AW.aload_n dX8_keeps_164 rfl ?_
    refine AW.tgI (k := 53) dX8_keeps_165 (Nat.le_of_ble_eq_true rfl) (fun _ => rfl) q1593 rfl ?_
    refine AW.tVU (M' := m_X8_keepsRows) [iV (s13.1 53)] [] dX8_keeps_168 q1537 q1539 qs63 q139 q1540 rfl n_X8_keepsRows rfl rfl rfl (fun _ _ e => c_X8_keepsRows e) h (fun _ s14 h => ?_)
    cases h
    exact AW.vret dX8_keeps_171 rfl
  · refine AW.icmp_ne 49 dX8_keeps_6 (by decide) h (fun c20 h => ?_) (fun c20 h => ?_)
    · exact hj49 _ h
    · refine AW.iconst dX8_keeps_9 ?_
      refine AW.istore_n (L' := [some (rV (some b)), some (iV 0), none]) dX8_keeps_10 (Nat.le_of_ble_eq_true rfl) rfl rfl ?_
      refine w_X8_keeps_L11 _ _ _ _ h (fun s18 h => ?_)
      refine AW.aload_n dX8_keeps_39 rfl ?_
      refine AW.dupR dX8_keeps_40 ?_
      refine AW.tgI (k := 61) dX8_keeps_41 (Nat.le_of_ble_eq_true rfl) (fun _ => rfl) q1601 rfl ?_
      refine AW.iconst dX8_keeps_44 ?_
      refine AW.isub dX8_keeps_45 ?_
      refine AW.nv ?_
      refine AW.tpB (k := 61) dX8_keeps_46 (Nat.le_of_ble_eq_true rfl) rfl q1601 rfl rfl h (fun s19 h => ?_)
      exact hj49 _ h
theorem c_X8_keeps {b : Nat} {σ : Hp} {s0 : TW} {v : Unit} {s1 : TW} (h : f_X8_keeps s0 = some (v, s1)) : Ct m_X8_keeps [rV (some b)] (insT b s0 σ) (.inl none, insT b s1 σ) :=
  Ct.of2 (w_X8_keeps s0 h) (by decide) rfl rfl rfl
abbrev m_X8_becomes : Mi := (yX8_becomes, cX8_becomes, none, 3, 4, 98, [])
theorem n_X8_becomes : nameOk yX8_becomes 2 := ⟨by decide, by decide, by decide +kernel⟩
def f_X8_becomes (s0 : TW) (x1 : Int) (x2 : Int) : Option (Unit × TW) :=
  bt_ (f_X8_copies s0) fun _ s1 => (ts s1 56 ((36 * (s1.1 57)) + x1) (nrm x2)).bind fun s2 => bt_ (f_X8_fillsLate s2) fun _ s3 => bt_ (f_X8_keeps s3) fun _ s4 => some ((), s4)
theorem w_X8_becomes {b : Nat} {σ σ0 : Hp} {w : Unit × TW} (s0 : TW) (x1 : Int) (x2 : Int) (h : f_X8_becomes s0 x1 x2 = some w) : AW m_X8_becomes σ0 (tU b σ w) 0 [some (rV (some b)), some (iV x1), some (iV x2)] [] (insT b s0 σ) := by
  unfold f_X8_becomes at h
  refine AW.aload_n dX8_becomes_0 rfl ?_
  refine AW.tVU (M' := m_X8_copies) [] [] dX8_becomes_1 q1912 q1914 qs92 q139 q1915 rfl n_X8_copies rfl rfl rfl (fun _ _ e => c_X8_copies e) h (fun _ s1 h => ?_)
  refine AW.aload_n dX8_becomes_4 rfl ?_
  refine AW.tgR (k := 56) dX8_becomes_5 (Nat.le_of_ble_eq_true rfl) (fun _ => rfl) q1596 rfl ia56 ?_
  refine AW.bipush dX8_becomes_8 (by decide) ?_
  refine AW.aload_n dX8_becomes_10 rfl ?_
  refine AW.tgI (k := 57) dX8_becomes_11 (Nat.le_of_ble_eq_true rfl) (fun _ => rfl) q1597 rfl ?_
  refine AW.imul dX8_becomes_14 ?_
  refine AW.iload_n dX8_becomes_15 rfl ?_
  refine AW.iadd dX8_becomes_16 ?_
  refine AW.iload_n dX8_becomes_17 rfl ?_
  refine AW.nv ?_
  refine AW.tiast (k := 56) dX8_becomes_18 ia56 (Nat.le_of_ble_eq_true rfl) mt56 rfl h (fun s2 h => ?_)
  refine AW.aload_n dX8_becomes_19 rfl ?_
  refine AW.tVU (M' := m_X8_fillsLate) [] [] dX8_becomes_20 q1506 q1508 qs56 q139 q1509 rfl n_X8_fillsLate rfl rfl rfl (fun _ _ e => c_X8_fillsLate e) h (fun _ s3 h => ?_)
  refine AW.aload_n dX8_becomes_23 rfl ?_
  refine AW.tVU (M' := m_X8_keeps) [] [] dX8_becomes_24 q1964 q1966 qs103 q139 q1967 rfl n_X8_keeps rfl rfl rfl (fun _ _ e => c_X8_keeps e) h (fun _ s4 h => ?_)
  cases h
  exact AW.vret dX8_becomes_27 rfl
theorem c_X8_becomes {b : Nat} {σ : Hp} {s0 : TW} {x1 : Int} {x2 : Int} {v : Unit} {s1 : TW} (h : f_X8_becomes s0 x1 x2 = some (v, s1)) : Ct m_X8_becomes [rV (some b), iV x1, iV x2] (insT b s0 σ) (.inl none, insT b s1 σ) :=
  Ct.of2 (w_X8_becomes s0 x1 x2 h) (by decide) rfl rfl rfl
abbrev m_X8_beginsWith : Mi := (yX8_beginsWith, cX8_beginsWith, none, 4, 4, 98, [])
theorem n_X8_beginsWith : nameOk yX8_beginsWith 2 := ⟨by decide, by decide, by decide +kernel⟩
def f_X8_beginsWith_L7 : Nat → TW → Int → Int → Int → (TW → Int → Int → Option (Unit × TW)) → Option (Unit × TW)
  | 0, _, _, _, _, _ => none
  | n + 1, s0, x1, x2, x3, k => (if nrm 36 ≤ nrm x3 then (k s0 x1 x2) else ((ts s0 56 x3 0).bind fun s2 => f_X8_beginsWith_L7 n s2 x1 x2 (x3 + 1) k))
theorem w_X8_beginsWith_L7 {b : Nat} {σ σ0 : Hp} {w : Unit × TW} : ∀ (n : Nat) (s0 : TW) (x1 : Int) (x2 : Int) (x3 : Int) (k : (TW → Int → Int → Option (Unit × TW))), f_X8_beginsWith_L7 n s0 x1 x2 x3 k = some w → (∀ (s1 : TW) (x1 : Int) (x2 : Int), k s1 x1 x2 = some w → AW m_X8_beginsWith σ0 (tU b σ w) 26 [some (rV (some b)), some (iV x1), some (iV x2), none] [] (insT b s1 σ)) → AW m_X8_beginsWith σ0 (tU b σ w) 7 [some (rV (some b)), some (iV x1), some (iV x2), some (iV x3)] [] (insT b s0 σ) := by
  intro n
  induction n with
  | zero =>
    intro s0 x1 x2 x3 k h hk
    rw [f_X8_beginsWith_L7] at h
    cases h
  | succ n ih =>
    intro s0 x1 x2 x3 k h hk
    rw [f_X8_beginsWith_L7] at h
    refine AW.iload_n dX8_beginsWith_7 rfl ?_
    refine AW.bipush dX8_beginsWith_8 (by decide) ?_
    refine AW.icmp_ge 26 dX8_beginsWith_10 (by decide) h (fun c3 h => ?_) (fun c3 h => ?_)
    · exact AW.fewer (L' := [some (rV (some b)), some (iV x1), some (iV x2), none]) (And.intro rfl (And.intro rfl (And.intro rfl trivial))) (hk _ _ _ h)
    · refine AW.aload_n dX8_beginsWith_13 rfl ?_
      refine AW.tgR (k := 56) dX8_beginsWith_14 (Nat.le_of_ble_eq_true rfl) (fun _ => rfl) q1596 rfl ia56 ?_
      refine AW.iload_n dX8_beginsWith_17 rfl ?_
      refine AW.iconst dX8_beginsWith_18 ?_
      refine AW.tiast (k := 56) dX8_beginsWith_19 ia56 (Nat.le_of_ble_eq_true rfl) mt56 rfl h (fun s2 h => ?_)
      refine AW.iinc (L' := [some (rV (some b)), some (iV x1), some (iV x2), some (iV (x3 + 1))]) dX8_beginsWith_20 rfl (Nat.le_of_ble_eq_true rfl) rfl rfl ?_
      refine AW.goto (tgt := 7) dX8_beginsWith_23 (by decide) ?_
      exact ih _ _ _ _ _ h hk
def f_X8_beginsWith_L28 : Nat → TW → Int → Int → Int → (TW → Option (Unit × TW)) → Option (Unit × TW)
  | 0, _, _, _, _, _ => none
  | n + 1, s0, x1, x2, x3, k => (ta s0 28 (s0.1 18)).bind fun v5 => (if nrm v5 ≤ nrm x3 then (k s0) else (jn (fun (s6 : TW) (x1 : Int) (x2 : Int) (x3 : Int) (y1 : Int) (y2 : Int) => (ts s6 56 y1 (nrm y2)).bind fun s7 => (ta s7 29 ((6 * (s7.1 18)) + x3)).bind fun v8 => (ts s7 56 (6 + x3) v8).bind fun s9 => f_X8_beginsWith_L28 n s9 x1 x2 (x3 + 1) k) fun j69 => (if ¬ nrm x3 = nrm x1 then ((ta s0 30 ((6 * (s0.1 18)) + x3)).bind fun v10 => j69 s0 x1 x2 x3 x3 v10) else (j69 s0 x1 x2 x3 x3 x2))))
theorem w_X8_beginsWith_L28 {b : Nat} {σ σ0 : Hp} {w : Unit × TW} : ∀ (n : Nat) (s0 : TW) (x1 : Int) (x2 : Int) (x3 : Int) (k : (TW → Option (Unit × TW))), f_X8_beginsWith_L28 n s0 x1 x2 x3 k = some w → (∀ (s1 : TW), k s1 = some w → AW m_X8_beginsWith σ0 (tU b σ w) 99 [some (rV (some b)), none, none, none] [] (insT b s1 σ)) → AW m_X8_beginsWith σ0 (tU b σ w) 28 [some (rV (some b)), some (iV x1), some (iV x2), some (iV x3)] [] (insT b s0 σ) := by
  intro n
  induction n with
  | zero =>
    intro s0 x1 x2 x3 k h hk
    rw [f_X8_beginsWith_L28] at h
    cases h
  | succ n ih =>
    intro s0 x1 x2 x3 k h hk
    rw [f_X8_beginsWith_L28] at h
    refine AW.iload_n dX8_beginsWith_28 rfl ?_
    refine AW.aload_n dX8_beginsWith_29 rfl ?_
    refine AW.tgR (k := 28) dX8_beginsWith_30 (Nat.le_of_ble_eq_true rfl) (fun _ => rfl) q1568 rfl ia28 ?_
    refine AW.aload_n dX8_beginsWith_33 rfl ?_
    refine AW.tgI (k := 18) dX8_beginsWith_34 (Nat.le_of_ble_eq_true rfl) (fun _ => rfl) q1558 rfl ?_
    refine AW.tiald (k := 28) dX8_beginsWith_37 ia28 (Nat.le_of_ble_eq_true rfl) rfl h (fun v5 h => ?_)
    refine AW.icmp_ge 99 dX8_beginsWith_38 (by decide) h (fun c12 h => ?_) (fun c12 h => ?_)
    · exact AW.fewer (L' := [some (rV (some b)), none, none, none]) (And.intro rfl trivial) (hk _ h)
    · refine AW.aload_n dX8_beginsWith_41 rfl ?_
      refine AW.tgR (k := 56) dX8_beginsWith_42 (Nat.le_of_ble_eq_true rfl) (fun _ => rfl) q1596 rfl ia56 ?_
      refine AW.iload_n dX8_beginsWith_45 rfl ?_
      refine AW.iload_n dX8_beginsWith_46 rfl ?_
      refine AW.iload_n dX8_beginsWith_47 rfl ?_
      refine jn_elim h (fun (j : (TW → Int → Int → Int → Int → Int → Option (Unit × TW))) => ∀ (s6 : TW) (x1 : Int) (x2 : Int) (x3 : Int) (y1 : Int) (y2 : Int), j s6 x1 x2 x3 y1 y2 = some w → AW m_X8_beginsWith σ0 (tU b σ w) 69 [some (rV (some b)), some (iV x1), some (iV x2), some (iV x3)] [iV y2, iV y1, rV (some (b + tof 56))] (insT b s6 σ)) ?_ (fun j69 hj69 h => ?_)
      · intro s6 x1 x2 x3 y1 y2 h
        refine AW.nv ?_
        refine AW.tiast (k := 56) dX8_beginsWith_69 ia56 (Nat.le_of_ble_eq_true rfl) mt56 rfl h (fun s7 h => ?_)
        refine AW.aload_n dX8_beginsWith_70 rfl ?_
        refine AW.tgR (k := 56) dX8_beginsWith_71 (Nat.le_of_ble_eq_true rfl) (fun _ => rfl) q1596 rfl ia56 ?_
        refine AW.bipush dX8_beginsWith_74 (by decide) ?_
        refine AW.iload_n dX8_beginsWith_76 rfl ?_
        refine AW.iadd dX8_beginsWith_77 ?_
        refine AW.aload_n dX8_beginsWith_78 rfl ?_
        refine AW.tgR (k := 29) dX8_beginsWith_79 (Nat.le_of_ble_eq_true rfl) (fun _ => rfl) q1569 rfl ia29 ?_
        refine AW.bipush dX8_beginsWith_82 (by decide) ?_
        refine AW.aload_n dX8_beginsWith_84 rfl ?_
        refine AW.tgI (k := 18) dX8_beginsWith_85 (Nat.le_of_ble_eq_true rfl) (fun _ => rfl) q1558 rfl ?_
        refine AW.imul dX8_beginsWith_88 ?_
        refine AW.iload_n dX8_beginsWith_89 rfl ?_
        refine AW.iadd dX8_beginsWith_90 ?_
        refine AW.tiald (k := 29) dX8_beginsWith_91 ia29 (Nat.le_of_ble_eq_true rfl) rfl h (fun v8 h => ?_)
        refine AW.tiast (k := 56) dX8_beginsWith_92 ia56 (Nat.le_of_ble_eq_true rfl) mt56 rfl h (fun s9 h => ?_)
        refine AW.iinc (L' := [some (rV (some b)), some (iV x1), some (iV x2), some (iV (x3 + 1))]) dX8_beginsWith_93 rfl (Nat.le_of_ble_eq_true rfl) rfl rfl ?_
        refine AW.goto (tgt := 28) dX8_beginsWith_96 (by decide) ?_
        exact ih _ _ _ _ _ h hk
      · refine AW.icmp_ne 55 dX8_beginsWith_48 (by decide) h (fun c11 h => ?_) (fun c11 h => ?_)
        · refine AW.aload_n dX8_beginsWith_55 rfl ?_
          refine AW.tgR (k := 30) dX8_beginsWith_56 (Nat.le_of_ble_eq_true rfl) (fun _ => rfl) q1570 rfl ia30 ?_
          refine AW.bipush dX8_beginsWith_59 (by decide) ?_
          refine AW.aload_n dX8_beginsWith_61 rfl ?_
          refine AW.tgI (k := 18) dX8_beginsWith_62 (Nat.le_of_ble_eq_true rfl) (fun _ => rfl) q1558 rfl ?_
          refine AW.imul dX8_beginsWith_65 ?_
          refine AW.iload_n dX8_beginsWith_66 rfl ?_
          refine AW.iadd dX8_beginsWith_67 ?_
          refine AW.tiald (k := 30) dX8_beginsWith_68 ia30 (Nat.le_of_ble_eq_true rfl) rfl h (fun v10 h => ?_)
          exact hj69 _ _ _ _ _ _ h
        · refine AW.iload_n dX8_beginsWith_51 rfl ?_
          refine AW.goto (tgt := 69) dX8_beginsWith_52 (by decide) ?_
          exact hj69 _ _ _ _ _ _ h
def f_X8_beginsWith_L101 : Nat → TW → Int → (TW → Option (Unit × TW)) → Option (Unit × TW)
  | 0, _, _, _ => none
  | n + 1, s0, x3, k => (if nrm 8 ≤ nrm x3 then (k s0) else ((ta s0 32 ((8 * (s0.1 18)) + x3)).bind fun v14 => (ts s0 56 (12 + x3) v14).bind fun s15 => (ts s15 58 x3 (-1)).bind fun s16 => (ts s16 59 x3 (-2)).bind fun s17 => f_X8_beginsWith_L101 n s17 (x3 + 1) k))
theorem w_X8_beginsWith_L101 {b : Nat} {σ σ0 : Hp} {w : Unit × TW} : ∀ (n : Nat) (s0 : TW) (x3 : Int) (k : (TW → Option (Unit × TW))), f_X8_beginsWith_L101 n s0 x3 k = some w → (∀ (s1 : TW), k s1 = some w → AW m_X8_beginsWith σ0 (tU b σ w) 151 [some (rV (some b)), none, none, none] [] (insT b s1 σ)) → AW m_X8_beginsWith σ0 (tU b σ w) 101 [some (rV (some b)), none, none, some (iV x3)] [] (insT b s0 σ) := by
  intro n
  induction n with
  | zero =>
    intro s0 x3 k h hk
    rw [f_X8_beginsWith_L101] at h
    cases h
  | succ n ih =>
    intro s0 x3 k h hk
    rw [f_X8_beginsWith_L101] at h
    refine AW.iload_n dX8_beginsWith_101 rfl ?_
    refine AW.bipush dX8_beginsWith_102 (by decide) ?_
    refine AW.icmp_ge 151 dX8_beginsWith_104 (by decide) h (fun c18 h => ?_) (fun c18 h => ?_)
    · exact AW.fewer (L' := [some (rV (some b)), none, none, none]) (And.intro rfl trivial) (hk _ h)
    · refine AW.aload_n dX8_beginsWith_107 rfl ?_
      refine AW.tgR (k := 56) dX8_beginsWith_108 (Nat.le_of_ble_eq_true rfl) (fun _ => rfl) q1596 rfl ia56 ?_
      refine AW.bipush dX8_beginsWith_111 (by decide) ?_
      refine AW.iload_n dX8_beginsWith_113 rfl ?_
      refine AW.iadd dX8_beginsWith_114 ?_
      refine AW.aload_n dX8_beginsWith_115 rfl ?_
      refine AW.tgR (k := 32) dX8_beginsWith_116 (Nat.le_of_ble_eq_true rfl) (fun _ => rfl) q1572 rfl ia32 ?_
      refine AW.bipush dX8_beginsWith_119 (by decide) ?_
      refine AW.aload_n dX8_beginsWith_121 rfl ?_
      refine AW.tgI (k := 18) dX8_beginsWith_122 (Nat.le_of_ble_eq_true rfl) (fun _ => rfl) q1558 rfl ?_
      refine AW.imul dX8_beginsWith_125 ?_
      refine AW.iload_n dX8_beginsWith_126 rfl ?_
      refine AW.iadd dX8_beginsWith_127 ?_
      refine AW.tiald (k := 32) dX8_beginsWith_128 ia32 (Nat.le_of_ble_eq_true rfl) rfl h (fun v14 h => ?_)
      refine AW.tiast (k := 56) dX8_beginsWith_129 ia56 (Nat.le_of_ble_eq_true rfl) mt56 rfl h (fun s15 h => ?_)
      refine AW.aload_n dX8_beginsWith_130 rfl ?_
      refine AW.tgR (k := 58) dX8_beginsWith_131 (Nat.le_of_ble_eq_true rfl) (fun _ => rfl) q1598 rfl ia58 ?_
      refine AW.iload_n dX8_beginsWith_134 rfl ?_
      refine AW.iconst dX8_beginsWith_135 ?_
      refine AW.tiast (k := 58) dX8_beginsWith_136 ia58 (Nat.le_of_ble_eq_true rfl) mt58 rfl h (fun s16 h => ?_)
      refine AW.aload_n dX8_beginsWith_137 rfl ?_
      refine AW.tgR (k := 59) dX8_beginsWith_138 (Nat.le_of_ble_eq_true rfl) (fun _ => rfl) q1599 rfl ia59 ?_
      refine AW.iload_n dX8_beginsWith_141 rfl ?_
      refine AW.bipush dX8_beginsWith_142 (by decide) ?_
      refine AW.tiast (k := 59) dX8_beginsWith_144 ia59 (Nat.le_of_ble_eq_true rfl) mt59 rfl h (fun s17 h => ?_)
      refine AW.iinc (L' := [some (rV (some b)), none, none, some (iV (x3 + 1))]) dX8_beginsWith_145 rfl (Nat.le_of_ble_eq_true rfl) rfl rfl ?_
      refine AW.goto (tgt := 101) dX8_beginsWith_148 (by decide) ?_
      exact ih _ _ _ h hk
def f_X8_beginsWith (s0 : TW) (x1 : Int) (x2 : Int) : Option (Unit × TW) :=
  bd (tp s0 57 0) fun s1 => f_X8_beginsWith_L7 FU s1 x1 x2 0 (fun s4 x1 x2 => f_X8_beginsWith_L28 FU s4 x1 x2 0 (fun s13 => f_X8_beginsWith_L101 FU s13 0 (fun s19 => (ta s19 35 (s19.1 18)).bind fun v20 => bd (tp s19 60 v20) fun s21 => bt_ (f_X8_fillsLate s21) fun _ s22 => some ((), s22))))
theorem w_X8_beginsWith {b : Nat} {σ σ0 : Hp} {w : Unit × TW} (s0 : TW) (x1 : Int) (x2 : Int) (h : f_X8_beginsWith s0 x1 x2 = some w) : AW m_X8_beginsWith σ0 (tU b σ w) 0 [some (rV (some b)), some (iV x1), some (iV x2), none] [] (insT b s0 σ) := by
  unfold f_X8_beginsWith at h
  refine AW.aload_n dX8_beginsWith_0 rfl ?_
  refine AW.iconst dX8_beginsWith_1 ?_
  refine AW.tpB (k := 57) dX8_beginsWith_2 (Nat.le_of_ble_eq_true rfl) rfl q1597 rfl rfl h (fun s1 h => ?_)
  refine AW.iconst dX8_beginsWith_5 ?_
  refine AW.istore_n (L' := [some (rV (some b)), some (iV x1), some (iV x2), some (iV 0)]) dX8_beginsWith_6 (Nat.le_of_ble_eq_true rfl) rfl rfl ?_
  refine w_X8_beginsWith_L7 _ _ _ _ _ _ h (fun s4 x1 x2 h => ?_)
  refine AW.iconst dX8_beginsWith_26 ?_
  refine AW.istore_n (L' := [some (rV (some b)), some (iV x1), some (iV x2), some (iV 0)]) dX8_beginsWith_27 (Nat.le_of_ble_eq_true rfl) rfl rfl ?_
  refine w_X8_beginsWith_L28 _ _ _ _ _ _ h (fun s13 h => ?_)
  refine AW.iconst dX8_beginsWith_99 ?_
  refine AW.istore_n (L' := [some (rV (some b)), none, none, some (iV 0)]) dX8_beginsWith_100 (Nat.le_of_ble_eq_true rfl) rfl rfl ?_
  refine w_X8_beginsWith_L101 _ _ _ _ h (fun s19 h => ?_)
  refine AW.aload_n dX8_beginsWith_151 rfl ?_
  refine AW.aload_n dX8_beginsWith_152 rfl ?_
  refine AW.tgR (k := 35) dX8_beginsWith_153 (Nat.le_of_ble_eq_true rfl) (fun _ => rfl) q1575 rfl ia35 ?_
  refine AW.aload_n dX8_beginsWith_156 rfl ?_
  refine AW.tgI (k := 18) dX8_beginsWith_157 (Nat.le_of_ble_eq_true rfl) (fun _ => rfl) q1558 rfl ?_
  refine AW.tiald (k := 35) dX8_beginsWith_160 ia35 (Nat.le_of_ble_eq_true rfl) rfl h (fun v20 h => ?_)
  refine AW.tpB (k := 60) dX8_beginsWith_161 (Nat.le_of_ble_eq_true rfl) rfl q1600 rfl rfl h (fun s21 h => ?_)
  refine AW.aload_n dX8_beginsWith_164 rfl ?_
  refine AW.tVU (M' := m_X8_fillsLate) [] [] dX8_beginsWith_165 q1506 q1508 qs56 q139 q1509 rfl n_X8_fillsLate rfl rfl rfl (fun _ _ e => c_X8_fillsLate e) h (fun _ s22 h => ?_)
  cases h
  exact AW.vret dX8_beginsWith_168 rfl
theorem c_X8_beginsWith {b : Nat} {σ : Hp} {s0 : TW} {x1 : Int} {x2 : Int} {v : Unit} {s1 : TW} (h : f_X8_beginsWith s0 x1 x2 = some (v, s1)) : Ct m_X8_beginsWith [rV (some b), iV x1, iV x2] (insT b s0 σ) (.inl none, insT b s1 σ) :=
  Ct.of2 (w_X8_beginsWith s0 x1 x2 h) (by decide) rfl rfl rfl
abbrev m_X8_through : Mi := (yX8_through, cX8_through, (some .int), 7, 0, 0, [])
theorem n_X8_through : nameOk yX8_through 2 := ⟨by decide, by decide, by decide +kernel⟩
def f_X8_through_L5 : Nat → TW → Int → Int → Int → Int → (TW → Int → Option (Int × TW)) → Option (Int × TW)
  | 0, _, _, _, _, _, _ => none
  | n + 1, s0, x1, x2, x3, x4, k => (ta s0 25 (s0.1 18)).bind fun v1 => (if nrm v1 ≤ nrm x4 then (k s0 x1) else ((ta s0 26 ((12 * (s0.1 18)) + x4)).bind fun v2 => (ta s0 27 ((12 * (s0.1 18)) + x4)).bind fun v3 => jn (fun (s4 : TW) (x1 : Int) (x2 : Int) (x3 : Int) (x4 : Int) (x5 : Int) (x6 : Int) => (if ¬ nrm (x3 + 1) = nrm x2 then (f_X8_through_L5 n s4 x1 x2 (x3 + 1) (x4 + 1) k) else ((if ¬ nrm x5 = nrm x1 then (some (nrm x5, s4)) else (some (nrm x6, s4)))))) fun j68 => (if nrm v2 = nrm x1 then (j68 s0 x1 x2 x3 x4 v2 v3) else ((if nrm v3 = nrm x1 then (j68 s0 x1 x2 x3 x4 v2 v3) else (f_X8_through_L5 n s0 x1 x2 x3 (x4 + 1) k))))))
theorem w_X8_through_L5 {b : Nat} {σ σ0 : Hp} {w : Int × TW} : ∀ (n : Nat) (s0 : TW) (x1 : Int) (x2 : Int) (x3 : Int) (x4 : Int) (k : (TW → Int → Option (Int × TW))), f_X8_through_L5 n s0 x1 x2 x3 x4 k = some w → (∀ (s1 : TW) (x1 : Int), k s1 x1 = some w → AW m_X8_through σ0 (tI b σ w) 96 [none, some (iV x1), none, none, none, none, none] [] (insT b s1 σ)) → AW m_X8_through σ0 (tI b σ w) 5 [some (rV (some b)), some (iV x1), some (iV x2), some (iV x3), some (iV x4), none, none] [] (insT b s0 σ) := by
  intro n
  induction n with
  | zero =>
    intro s0 x1 x2 x3 x4 k h hk
    rw [f_X8_through_L5] at h
    cases h
  | succ n ih =>
    intro s0 x1 x2 x3 x4 k h hk
    rw [f_X8_through_L5] at h
    refine AW.iload dX8_through_5 rfl ?_
    refine AW.aload_n dX8_through_7 rfl ?_
    refine AW.tgR (k := 25) dX8_through_8 (Nat.le_of_ble_eq_true rfl) (fun _ => rfl) q1565 rfl ia25 ?_
    refine AW.aload_n dX8_through_11 rfl ?_
    refine AW.tgI (k := 18) dX8_through_12 (Nat.le_of_ble_eq_true rfl) (fun _ => rfl) q1558 rfl ?_
    refine AW.tiald (k := 25) dX8_through_15 ia25 (Nat.le_of_ble_eq_true rfl) rfl h (fun v1 h => ?_)
    refine AW.icmp_ge 96 dX8_through_16 (by decide) h (fun c9 h => ?_) (fun c9 h => ?_)
    · exact AW.fewer (L' := [none, some (iV x1), none, none, none, none, none]) (And.intro rfl trivial) (hk _ _ h)
    · refine AW.aload_n dX8_through_19 rfl ?_
      refine AW.tgR (k := 26) dX8_through_20 (Nat.le_of_ble_eq_true rfl) (fun _ => rfl) q1566 rfl ia26 ?_
      refine AW.bipush dX8_through_23 (by decide) ?_
      refine AW.aload_n dX8_through_25 rfl ?_
      refine AW.tgI (k := 18) dX8_through_26 (Nat.le_of_ble_eq_true rfl) (fun _ => rfl) q1558 rfl ?_
      refine AW.imul dX8_through_29 ?_
      refine AW.iload dX8_through_30 rfl ?_
      refine AW.iadd dX8_through_32 ?_
      refine AW.tiald (k := 26) dX8_through_33 ia26 (Nat.le_of_ble_eq_true rfl) rfl h (fun v2 h => ?_)
      refine AW.istore (L' := [some (rV (some b)), some (iV x1), some (iV x2), some (iV x3), some (iV x4), some (iV v2), none]) dX8_through_34 (Nat.le_of_ble_eq_true rfl) rfl rfl ?_
      refine AW.aload_n dX8_through_36 rfl ?_
      refine AW.tgR (k := 27) dX8_through_37 (Nat.le_of_ble_eq_true rfl) (fun _ => rfl) q1567 rfl ia27 ?_
      refine AW.bipush dX8_through_40 (by decide) ?_
      refine AW.aload_n dX8_through_42 rfl ?_
      refine AW.tgI (k := 18) dX8_through_43 (Nat.le_of_ble_eq_true rfl) (fun _ => rfl) q1558 rfl ?_
      refine AW.imul dX8_through_46 ?_
      refine AW.iload dX8_through_47 rfl ?_
      refine AW.iadd dX8_through_49 ?_
      refine AW.tiald (k := 27) dX8_through_50 ia27 (Nat.le_of_ble_eq_true rfl) rfl h (fun v3 h => ?_)
      refine AW.istore (L' := [some (rV (some b)), some (iV x1), some (iV x2), some (iV x3), some (iV x4), some (iV v2), some (iV v3)]) dX8_through_51 (Nat.le_of_ble_eq_true rfl) rfl rfl ?_
      refine AW.iload dX8_through_53 rfl ?_
      refine AW.iload_n dX8_through_55 rfl ?_
      refine jn_elim h (fun (j : (TW → Int → Int → Int → Int → Int → Int → Option (Int × TW))) => ∀ (s4 : TW) (x1 : Int) (x2 : Int) (x3 : Int) (x4 : Int) (x5 : Int) (x6 : Int), j s4 x1 x2 x3 x4 x5 x6 = some w → AW m_X8_through σ0 (tI b σ w) 68 [some (rV (some b)), some (iV x1), some (iV x2), some (iV x3), some (iV x4), some (iV x5), some (iV x6)] [] (insT b s4 σ)) ?_ (fun j68 hj68 h => ?_)
      · intro s4 x1 x2 x3 x4 x5 x6 h
        refine AW.iinc (L' := [some (rV (some b)), some (iV x1), some (iV x2), some (iV (x3 + 1)), some (iV x4), some (iV x5), some (iV x6)]) dX8_through_68 rfl (Nat.le_of_ble_eq_true rfl) rfl rfl ?_
        refine AW.iload_n dX8_through_71 rfl ?_
        refine AW.iload_n dX8_through_72 rfl ?_
        refine AW.icmp_ne 90 dX8_through_73 (by decide) h (fun c6 h => ?_) (fun c6 h => ?_)
        · refine AW.iinc (L' := [some (rV (some b)), some (iV x1), some (iV x2), some (iV (x3 + 1)), some (iV (x4 + 1)), some (iV x5), some (iV x6)]) dX8_through_90 rfl (Nat.le_of_ble_eq_true rfl) rfl rfl ?_
          refine AW.goto (tgt := 5) dX8_through_93 (by decide) ?_
          exact AW.fewer (L' := [some (rV (some b)), some (iV x1), some (iV x2), some (iV (x3 + 1)), some (iV (x4 + 1)), none, none]) (And.intro rfl (And.intro rfl (And.intro rfl (And.intro rfl (And.intro rfl trivial))))) (ih _ _ _ _ _ _ h hk)
        · refine AW.iload dX8_through_76 rfl ?_
          refine AW.iload_n dX8_through_78 rfl ?_
          refine AW.icmp_ne 87 dX8_through_79 (by decide) h (fun c5 h => ?_) (fun c5 h => ?_)
          · refine AW.iload dX8_through_87 rfl ?_
            refine AW.nv ?_
            cases h
            exact AW.iret dX8_through_89 rfl
          · refine AW.iload dX8_through_82 rfl ?_
            refine AW.goto (tgt := 89) dX8_through_84 (by decide) ?_
            refine AW.nv ?_
            cases h
            exact AW.iret dX8_through_89 rfl
      · refine AW.icmp_eq 68 dX8_through_56 (by decide) h (fun c8 h => ?_) (fun c8 h => ?_)
        · exact hj68 _ _ _ _ _ _ _ h
        · refine AW.iload dX8_through_59 rfl ?_
          refine AW.iload_n dX8_through_61 rfl ?_
          refine AW.icmp_eq 68 dX8_through_62 (by decide) h (fun c7 h => ?_) (fun c7 h => ?_)
          · exact hj68 _ _ _ _ _ _ _ h
          · refine AW.goto (tgt := 90) dX8_through_65 (by decide) ?_
            refine AW.iinc (L' := [some (rV (some b)), some (iV x1), some (iV x2), some (iV x3), some (iV (x4 + 1)), some (iV v2), some (iV v3)]) dX8_through_90 rfl (Nat.le_of_ble_eq_true rfl) rfl rfl ?_
            refine AW.goto (tgt := 5) dX8_through_93 (by decide) ?_
            exact AW.fewer (L' := [some (rV (some b)), some (iV x1), some (iV x2), some (iV x3), some (iV (x4 + 1)), none, none]) (And.intro rfl (And.intro rfl (And.intro rfl (And.intro rfl (And.intro rfl trivial))))) (ih _ _ _ _ _ _ h hk)
def f_X8_through (s0 : TW) (x1 : Int) (x2 : Int) : Option (Int × TW) :=
  f_X8_through_L5 FU s0 x1 x2 0 0 (fun s10 x1 => some (nrm x1, s10))
theorem w_X8_through {b : Nat} {σ σ0 : Hp} {w : Int × TW} (s0 : TW) (x1 : Int) (x2 : Int) (h : f_X8_through s0 x1 x2 = some w) : AW m_X8_through σ0 (tI b σ w) 0 [some (rV (some b)), some (iV x1), some (iV x2), none, none, none, none] [] (insT b s0 σ) := by
  unfold f_X8_through at h
  refine AW.iconst dX8_through_0 ?_
  refine AW.istore_n (L' := [some (rV (some b)), some (iV x1), some (iV x2), some (iV 0), none, none, none]) dX8_through_1 (Nat.le_of_ble_eq_true rfl) rfl rfl ?_
  refine AW.iconst dX8_through_2 ?_
  refine AW.istore (L' := [some (rV (some b)), some (iV x1), some (iV x2), some (iV 0), some (iV 0), none, none]) dX8_through_3 (Nat.le_of_ble_eq_true rfl) rfl rfl ?_
  refine w_X8_through_L5 _ _ _ _ _ _ _ h (fun s10 x1 h => ?_)
  refine AW.iload_n dX8_through_96 rfl ?_
  refine AW.nv ?_
  cases h
  exact AW.iret dX8_through_97 rfl
theorem c_X8_through {b : Nat} {σ : Hp} {s0 : TW} {x1 : Int} {x2 : Int} {v : Int} {s1 : TW} (h : f_X8_through s0 x1 x2 = some (v, s1)) : Ct m_X8_through [rV (some b), iV x1, iV x2] (insT b s0 σ) (.inl (some (iV v)), insT b s1 σ) :=
  Ct.of2 (w_X8_through s0 x1 x2 h) (by decide) rfl rfl rfl
abbrev m_X8_goesTo : Mi := (yX8_goesTo, cX8_goesTo, (some .int), 6, 2, 53, [])
theorem n_X8_goesTo : nameOk yX8_goesTo 1 := ⟨by decide, by decide, by decide +kernel⟩
def f_X8_goesTo (s0 : TW) (x1 : Int) : Option (Int × TW) :=
  (ta s0 56 ((36 * (s0.1 57)) + x1)).bind fun v1 => bt_ (f_X8_waysOf s0 v1) fun v3 s2 => (ts s2 49 0 (s2.1 57)).bind fun s4 => (ts s4 49 1 v1).bind fun s5 => (ta s5 56 (((36 * (s5.1 57)) + 6) + x1)).bind fun v6 => (ts s5 49 2 v6).bind fun s7 => (ts s7 49 3 (nrm x1)).bind fun s8 => (ts s8 49 4 v3).bind fun s9 => bt_ (f_X8_menIn s9 v1 (s9.1 57)) fun v11 s10 => bt_ (f_X8_bits s10 v11) fun v13 s12 => (ts s12 49 5 (nrm (v13 - 1))).bind fun s14 => bt_ (f_X8_tells s14 x1 0) fun v16 s15 => jn (fun (s17 : TW) (x2 : Int) (y0 : Int) => (if ¬ nrm y0 = 0 then (bt_ (f_X8_through s17 x2 y0) fun v19 s18 => some (v19, s18)) else (some (nrm x2, s17)))) fun j118 => (if 0 ≤ nrm v16 then (if nrm (v3 + 1) = 0 then none else j118 s15 v1 (rmI v16 (v3 + 1))) else (j118 s15 v1 0))
theorem w_X8_goesTo {b : Nat} {σ σ0 : Hp} {w : Int × TW} (s0 : TW) (x1 : Int) (h : f_X8_goesTo s0 x1 = some w) : AW m_X8_goesTo σ0 (tI b σ w) 0 [some (rV (some b)), some (iV x1), none, none, none, none] [] (insT b s0 σ) := by
  unfold f_X8_goesTo at h
  refine AW.aload_n dX8_goesTo_0 rfl ?_
  refine AW.tgR (k := 56) dX8_goesTo_1 (Nat.le_of_ble_eq_true rfl) (fun _ => rfl) q1596 rfl ia56 ?_
  refine AW.bipush dX8_goesTo_4 (by decide) ?_
  refine AW.aload_n dX8_goesTo_6 rfl ?_
  refine AW.tgI (k := 57) dX8_goesTo_7 (Nat.le_of_ble_eq_true rfl) (fun _ => rfl) q1597 rfl ?_
  refine AW.imul dX8_goesTo_10 ?_
  refine AW.iload_n dX8_goesTo_11 rfl ?_
  refine AW.iadd dX8_goesTo_12 ?_
  refine AW.tiald (k := 56) dX8_goesTo_13 ia56 (Nat.le_of_ble_eq_true rfl) rfl h (fun v1 h => ?_)
  refine AW.istore_n (L' := [some (rV (some b)), some (iV x1), some (iV v1), none, none, none]) dX8_goesTo_14 (Nat.le_of_ble_eq_true rfl) rfl rfl ?_
  refine AW.aload_n dX8_goesTo_15 rfl ?_
  refine AW.iload_n dX8_goesTo_16 rfl ?_
  refine AW.tVI (M' := m_X8_waysOf) [iV v1] [] dX8_goesTo_17 q1518 q1520 qs59 q139 q1521 rfl n_X8_waysOf rfl rfl rfl (fun _ _ e => c_X8_waysOf e) h (fun v3 s2 h => ?_)
  refine AW.istore_n (L' := [some (rV (some b)), some (iV x1), some (iV v1), some (iV v3), none, none]) dX8_goesTo_20 (Nat.le_of_ble_eq_true rfl) rfl rfl ?_
  refine AW.aload_n dX8_goesTo_21 rfl ?_
  refine AW.tgR (k := 49) dX8_goesTo_22 (Nat.le_of_ble_eq_true rfl) (fun _ => rfl) q1589 rfl ia49 ?_
  refine AW.iconst dX8_goesTo_25 ?_
  refine AW.aload_n dX8_goesTo_26 rfl ?_
  refine AW.tgI (k := 57) dX8_goesTo_27 (Nat.le_of_ble_eq_true rfl) (fun _ => rfl) q1597 rfl ?_
  refine AW.tiast (k := 49) dX8_goesTo_30 ia49 (Nat.le_of_ble_eq_true rfl) mt49 rfl h (fun s4 h => ?_)
  refine AW.aload_n dX8_goesTo_31 rfl ?_
  refine AW.tgR (k := 49) dX8_goesTo_32 (Nat.le_of_ble_eq_true rfl) (fun _ => rfl) q1589 rfl ia49 ?_
  refine AW.iconst dX8_goesTo_35 ?_
  refine AW.iload_n dX8_goesTo_36 rfl ?_
  refine AW.tiast (k := 49) dX8_goesTo_37 ia49 (Nat.le_of_ble_eq_true rfl) mt49 rfl h (fun s5 h => ?_)
  refine AW.aload_n dX8_goesTo_38 rfl ?_
  refine AW.tgR (k := 49) dX8_goesTo_39 (Nat.le_of_ble_eq_true rfl) (fun _ => rfl) q1589 rfl ia49 ?_
  refine AW.iconst dX8_goesTo_42 ?_
  refine AW.aload_n dX8_goesTo_43 rfl ?_
  refine AW.tgR (k := 56) dX8_goesTo_44 (Nat.le_of_ble_eq_true rfl) (fun _ => rfl) q1596 rfl ia56 ?_
  refine AW.bipush dX8_goesTo_47 (by decide) ?_
  refine AW.aload_n dX8_goesTo_49 rfl ?_
  refine AW.tgI (k := 57) dX8_goesTo_50 (Nat.le_of_ble_eq_true rfl) (fun _ => rfl) q1597 rfl ?_
  refine AW.imul dX8_goesTo_53 ?_
  refine AW.bipush dX8_goesTo_54 (by decide) ?_
  refine AW.iadd dX8_goesTo_56 ?_
  refine AW.iload_n dX8_goesTo_57 rfl ?_
  refine AW.iadd dX8_goesTo_58 ?_
  refine AW.tiald (k := 56) dX8_goesTo_59 ia56 (Nat.le_of_ble_eq_true rfl) rfl h (fun v6 h => ?_)
  refine AW.tiast (k := 49) dX8_goesTo_60 ia49 (Nat.le_of_ble_eq_true rfl) mt49 rfl h (fun s7 h => ?_)
  refine AW.aload_n dX8_goesTo_61 rfl ?_
  refine AW.tgR (k := 49) dX8_goesTo_62 (Nat.le_of_ble_eq_true rfl) (fun _ => rfl) q1589 rfl ia49 ?_
  refine AW.iconst dX8_goesTo_65 ?_
  refine AW.iload_n dX8_goesTo_66 rfl ?_
  refine AW.nv ?_
  refine AW.tiast (k := 49) dX8_goesTo_67 ia49 (Nat.le_of_ble_eq_true rfl) mt49 rfl h (fun s8 h => ?_)
  refine AW.aload_n dX8_goesTo_68 rfl ?_
  refine AW.tgR (k := 49) dX8_goesTo_69 (Nat.le_of_ble_eq_true rfl) (fun _ => rfl) q1589 rfl ia49 ?_
  refine AW.iconst dX8_goesTo_72 ?_
  refine AW.iload_n dX8_goesTo_73 rfl ?_
  refine AW.tiast (k := 49) dX8_goesTo_74 ia49 (Nat.le_of_ble_eq_true rfl) mt49 rfl h (fun s9 h => ?_)
  refine AW.aload_n dX8_goesTo_75 rfl ?_
  refine AW.tgR (k := 49) dX8_goesTo_76 (Nat.le_of_ble_eq_true rfl) (fun _ => rfl) q1589 rfl ia49 ?_
  refine AW.iconst dX8_goesTo_79 ?_
  refine AW.aload_n dX8_goesTo_80 rfl ?_
  refine AW.iload_n dX8_goesTo_81 rfl ?_
  refine AW.aload_n dX8_goesTo_82 rfl ?_
  refine AW.tgI (k := 57) dX8_goesTo_83 (Nat.le_of_ble_eq_true rfl) (fun _ => rfl) q1597 rfl ?_
  refine AW.tVI (M' := m_X8_menIn) [iV v1, iV (s9.1 57)] [iV 5, rV (some (b + tof 49))] dX8_goesTo_86 q1522 q1524 qs60 q139 q1525 rfl n_X8_menIn rfl rfl rfl (fun _ _ e => c_X8_menIn e) h (fun v11 s10 h => ?_)
  refine AW.tSI (M' := m_X8_bits) [iV v11] [iV 5, rV (some (b + tof 49))] dX8_goesTo_89 q1526 q1527 q139 q1528 n_X8_bits rfl rfl rfl (fun _ _ e => c_X8_bits e) h (fun v13 s12 h => ?_)
  refine AW.iconst dX8_goesTo_92 ?_
  refine AW.isub dX8_goesTo_93 ?_
  refine AW.nv ?_
  refine AW.tiast (k := 49) dX8_goesTo_94 ia49 (Nat.le_of_ble_eq_true rfl) mt49 rfl h (fun s14 h => ?_)
  refine AW.aload_n dX8_goesTo_95 rfl ?_
  refine AW.iload_n dX8_goesTo_96 rfl ?_
  refine AW.iconst dX8_goesTo_97 ?_
  refine AW.tVI (M' := m_X8_tells) [iV x1, iV 0] [] dX8_goesTo_98 q1529 q1531 qs61 q139 q1532 rfl n_X8_tells rfl rfl rfl (fun _ _ e => c_X8_tells e) h (fun v16 s15 h => ?_)
  refine AW.istore (L' := [some (rV (some b)), some (iV x1), some (iV v1), some (iV v3), some (iV v16), none]) dX8_goesTo_101 (Nat.le_of_ble_eq_true rfl) rfl rfl ?_
  refine AW.iload dX8_goesTo_103 rfl ?_
  refine jn_elim h (fun (j : (TW → Int → Int → Option (Int × TW))) => ∀ (s17 : TW) (x2 : Int) (y0 : Int), j s17 x2 y0 = some w → AW m_X8_goesTo σ0 (tI b σ w) 118 [some (rV (some b)), none, some (iV x2), none, none, none] [iV y0] (insT b s17 σ)) ?_ (fun j118 hj118 h => ?_)
  · intro s17 x2 y0 h
    refine AW.istore (L' := [some (rV (some b)), none, some (iV x2), none, none, some (iV y0)]) dX8_goesTo_118 (Nat.le_of_ble_eq_true rfl) rfl rfl ?_
    refine AW.iload dX8_goesTo_120 rfl ?_
    refine AW.if_ne 129 dX8_goesTo_122 (by decide) h (fun c20 h => ?_) (fun c20 h => ?_)
    · refine AW.aload_n dX8_goesTo_129 rfl ?_
      refine AW.iload_n dX8_goesTo_130 rfl ?_
      refine AW.iload dX8_goesTo_131 rfl ?_
      refine AW.tVI (M' := m_X8_through) [iV x2, iV y0] [] dX8_goesTo_133 q1948 q1950 qs100 q139 q1951 rfl n_X8_through rfl rfl rfl (fun _ _ e => c_X8_through e) h (fun v19 s18 h => ?_)
      cases h
      exact AW.iret dX8_goesTo_136 rfl
    · refine AW.iload_n dX8_goesTo_125 rfl ?_
      refine AW.goto (tgt := 136) dX8_goesTo_126 (by decide) ?_
      refine AW.nv ?_
      cases h
      exact AW.iret dX8_goesTo_136 rfl
  · refine AW.if_ge 112 dX8_goesTo_105 (by decide) h (fun c22 h => ?_) (fun c22 h => ?_)
    · refine AW.iload dX8_goesTo_112 rfl ?_
      refine AW.iload_n dX8_goesTo_114 rfl ?_
      refine AW.iconst dX8_goesTo_115 ?_
      refine AW.iadd dX8_goesTo_116 ?_
      obtain ⟨hz21, h⟩ := nz_elim h
      refine AW.irem dX8_goesTo_117 hz21 ?_
      exact AW.fewer (L' := [some (rV (some b)), none, some (iV v1), none, none, none]) (And.intro rfl (And.intro rfl trivial)) (hj118 _ _ _ h)
    · refine AW.iconst dX8_goesTo_108 ?_
      refine AW.goto (tgt := 118) dX8_goesTo_109 (by decide) ?_
      exact AW.fewer (L' := [some (rV (some b)), none, some (iV v1), none, none, none]) (And.intro rfl (And.intro rfl trivial)) (hj118 _ _ _ h)
theorem c_X8_goesTo {b : Nat} {σ : Hp} {s0 : TW} {x1 : Int} {v : Int} {s1 : TW} (h : f_X8_goesTo s0 x1 = some (v, s1)) : Ct m_X8_goesTo [rV (some b), iV x1] (insT b s0 σ) (.inl (some (iV v)), insT b s1 σ) :=
  Ct.of2 (w_X8_goesTo s0 x1 h) (by decide) rfl rfl rfl
abbrev m_X8_mixed : Mi := (yX8_mixed, cX8_mixed, (some .int), 3, 0, 0, [])
theorem n_X8_mixed : nameOk yX8_mixed 2 := ⟨by decide, by decide, by decide +kernel⟩
def f_X8_mixed (s0 : TW) (x0 : Int) (x1 : Int) : Option (Int × TW) :=
  some (xoI (((xoI x0 x1) * 1103515245) + 12345) (suI (((xoI x0 x1) * 1103515245) + 12345) 15), s0)
theorem w_X8_mixed {b : Nat} {σ σ0 : Hp} {w : Int × TW} (s0 : TW) (x0 : Int) (x1 : Int) (h : f_X8_mixed s0 x0 x1 = some w) : AW m_X8_mixed σ0 (tI b σ w) 0 [some (iV x0), some (iV x1), none] [] (insT b s0 σ) := by
  unfold f_X8_mixed at h
  refine AW.iload_n dX8_mixed_0 rfl ?_
  refine AW.iload_n dX8_mixed_1 rfl ?_
  refine AW.ixor dX8_mixed_2 ?_
  refine AW.ldcw (z := 1103515245) dX8_mixed_3 q1959 (by decide) ?_
  refine AW.imul dX8_mixed_6 ?_
  refine AW.sipush dX8_mixed_7 (by decide) ?_
  refine AW.iadd dX8_mixed_10 ?_
  refine AW.istore_n (L' := [some (iV x0), some (iV x1), some (iV (((xoI x0 x1) * 1103515245) + 12345))]) dX8_mixed_11 (Nat.le_of_ble_eq_true rfl) rfl rfl ?_
  refine AW.iload_n dX8_mixed_12 rfl ?_
  refine AW.iload_n dX8_mixed_13 rfl ?_
  refine AW.bipush dX8_mixed_14 (by decide) ?_
  refine AW.iushr dX8_mixed_16 ?_
  refine AW.ixor dX8_mixed_17 ?_
  cases h
  exact AW.iret dX8_mixed_18 rfl
theorem c_X8_mixed {b : Nat} {σ : Hp} {s0 : TW} {x0 : Int} {x1 : Int} {v : Int} {s1 : TW} (h : f_X8_mixed s0 x0 x1 = some (v, s1)) : Ct m_X8_mixed [iV x0, iV x1] (insT b s0 σ) (.inl (some (iV v)), insT b s1 σ) :=
  Ct.of2 (w_X8_mixed s0 x0 x1 h) (by decide) rfl rfl rfl
abbrev m_X8_lotOf : Mi := (yX8_lotOf, cX8_lotOf, (some .int), 2, 1, 22, [])
theorem n_X8_lotOf : nameOk yX8_lotOf 1 := ⟨by decide, by decide, by decide +kernel⟩
def f_X8_lotOf (s0 : TW) (x1 : Int) : Option (Int × TW) :=
  bt_ (f_X8_mixed s0 (s0.1 60) 43) fun v2 s1 => bt_ (f_X8_mixed s1 v2 ((8 * (s1.1 57)) + x1)) fun v4 s3 => some (rmI (suI v4 1) 100, s3)
theorem w_X8_lotOf {b : Nat} {σ σ0 : Hp} {w : Int × TW} (s0 : TW) (x1 : Int) (h : f_X8_lotOf s0 x1 = some w) : AW m_X8_lotOf σ0 (tI b σ w) 0 [some (rV (some b)), some (iV x1)] [] (insT b s0 σ) := by
  unfold f_X8_lotOf at h
  refine AW.aload_n dX8_lotOf_0 rfl ?_
  refine AW.tgI (k := 60) dX8_lotOf_1 (Nat.le_of_ble_eq_true rfl) (fun _ => rfl) q1600 rfl ?_
  refine AW.bipush dX8_lotOf_4 (by decide) ?_
  refine AW.tSI (M' := m_X8_mixed) [iV (s0.1 60), iV 43] [] dX8_lotOf_6 q1956 q1957 q139 q1958 n_X8_mixed rfl rfl rfl (fun _ _ e => c_X8_mixed e) h (fun v2 s1 h => ?_)
  refine AW.bipush dX8_lotOf_9 (by decide) ?_
  refine AW.aload_n dX8_lotOf_11 rfl ?_
  refine AW.tgI (k := 57) dX8_lotOf_12 (Nat.le_of_ble_eq_true rfl) (fun _ => rfl) q1597 rfl ?_
  refine AW.imul dX8_lotOf_15 ?_
  refine AW.iload_n dX8_lotOf_16 rfl ?_
  refine AW.iadd dX8_lotOf_17 ?_
  refine AW.tSI (M' := m_X8_mixed) [iV v2, iV ((8 * (s1.1 57)) + x1)] [] dX8_lotOf_18 q1956 q1957 q139 q1958 n_X8_mixed rfl rfl rfl (fun _ _ e => c_X8_mixed e) h (fun v4 s3 h => ?_)
  refine AW.iconst dX8_lotOf_21 ?_
  refine AW.iushr dX8_lotOf_22 ?_
  refine AW.bipush dX8_lotOf_23 (by decide) ?_
  refine AW.irem dX8_lotOf_25 (by decide) ?_
  cases h
  exact AW.iret dX8_lotOf_26 rfl
theorem c_X8_lotOf {b : Nat} {σ : Hp} {s0 : TW} {x1 : Int} {v : Int} {s1 : TW} (h : f_X8_lotOf s0 x1 = some (v, s1)) : Ct m_X8_lotOf [rV (some b), iV x1] (insT b s0 σ) (.inl (some (iV v)), insT b s1 σ) :=
  Ct.of2 (w_X8_lotOf s0 x1 h) (by decide) rfl rfl rfl
abbrev m_X8_isTurned : Mi := (yX8_isTurned, cX8_isTurned, (some .boolean), 3, 0, 0, [])
theorem n_X8_isTurned : nameOk yX8_isTurned 2 := ⟨by decide, by decide, by decide +kernel⟩
def f_X8_isTurned (s0 : TW) (x1 : Int) (x2 : Int) : Option (Int × TW) :=
  (ta s0 56 (((36 * x2) + 20) + x1)).bind fun v1 => (if ¬ nrm v1 = nrm 1 then (some (0, s0)) else (some (1, s0)))
theorem w_X8_isTurned {b : Nat} {σ σ0 : Hp} {w : Int × TW} (s0 : TW) (x1 : Int) (x2 : Int) (h : f_X8_isTurned s0 x1 x2 = some w) : AW m_X8_isTurned σ0 (tI b σ w) 0 [some (rV (some b)), some (iV x1), some (iV x2)] [] (insT b s0 σ) := by
  unfold f_X8_isTurned at h
  refine AW.aload_n dX8_isTurned_0 rfl ?_
  refine AW.tgR (k := 56) dX8_isTurned_1 (Nat.le_of_ble_eq_true rfl) (fun _ => rfl) q1596 rfl ia56 ?_
  refine AW.bipush dX8_isTurned_4 (by decide) ?_
  refine AW.iload_n dX8_isTurned_6 rfl ?_
  refine AW.imul dX8_isTurned_7 ?_
  refine AW.bipush dX8_isTurned_8 (by decide) ?_
  refine AW.iadd dX8_isTurned_10 ?_
  refine AW.iload_n dX8_isTurned_11 rfl ?_
  refine AW.iadd dX8_isTurned_12 ?_
  refine AW.tiald (k := 56) dX8_isTurned_13 ia56 (Nat.le_of_ble_eq_true rfl) rfl h (fun v1 h => ?_)
  refine AW.iconst dX8_isTurned_14 ?_
  refine AW.icmp_ne 22 dX8_isTurned_15 (by decide) h (fun c2 h => ?_) (fun c2 h => ?_)
  · refine AW.iconst dX8_isTurned_22 ?_
    cases h
    exact AW.zret (z := 0) dX8_isTurned_23 rfl zz0
  · refine AW.iconst dX8_isTurned_18 ?_
    refine AW.goto (tgt := 23) dX8_isTurned_19 (by decide) ?_
    cases h
    exact AW.zret (z := 1) dX8_isTurned_23 rfl zz1
theorem c_X8_isTurned {b : Nat} {σ : Hp} {s0 : TW} {x1 : Int} {x2 : Int} {v : Int} {s1 : TW} (h : f_X8_isTurned s0 x1 x2 = some (v, s1)) : Ct m_X8_isTurned [rV (some b), iV x1, iV x2] (insT b s0 σ) (.inl (some (iV v)), insT b s1 σ) :=
  Ct.of2 (w_X8_isTurned s0 x1 x2 h) (by decide) rfl rfl rfl
abbrev m_X8_showsAt : Mi := (yX8_showsAt, cX8_showsAt, (some .int), 4, 1, 22, [])
theorem n_X8_showsAt : nameOk yX8_showsAt 2 := ⟨by decide, by decide, by decide +kernel⟩
def f_X8_showsAt (s0 : TW) (x1 : Int) (x2 : Int) : Option (Int × TW) :=
  (ta s0 58 x1).bind fun v1 => jn (fun (s2 : TW) (x1 : Int) (x2 : Int) (y0 : Int) => (if nrm y0 < 0 then (some ((-2), s2)) else (bt_ (f_X8_isTurned s2 x1 x2) fun v4 s3 => (if ¬ nrm v4 = 0 then (some ((-2), s3)) else (bt_ (f_X8_isTurned s3 x1 y0) fun v6 s5 => (if nrm v6 = 0 then (some (nrm y0, s5)) else (some ((-2), s5)))))))) fun j45 => jn (fun (s10 : TW) (x1 : Int) (x2 : Int) => (ta s10 56 (((36 * x2) + 28) + x1)).bind fun v11 => j45 s10 x1 x2 (x2 - v11)) fun j29 => (if nrm v1 = nrm (-1) then (j29 s0 x1 x2) else ((ta s0 58 x1).bind fun v12 => (if nrm x2 < nrm v12 then (j29 s0 x1 x2) else ((ta s0 59 x1).bind fun v13 => j45 s0 x1 x2 v13))))
theorem w_X8_showsAt {b : Nat} {σ σ0 : Hp} {w : Int × TW} (s0 : TW) (x1 : Int) (x2 : Int) (h : f_X8_showsAt s0 x1 x2 = some w) : AW m_X8_showsAt σ0 (tI b σ w) 0 [some (rV (some b)), some (iV x1), some (iV x2), none] [] (insT b s0 σ) := by
  unfold f_X8_showsAt at h
  refine AW.aload_n dX8_showsAt_0 rfl ?_
  refine AW.tgR (k := 58) dX8_showsAt_1 (Nat.le_of_ble_eq_true rfl) (fun _ => rfl) q1598 rfl ia58 ?_
  refine AW.iload_n dX8_showsAt_4 rfl ?_
  refine AW.tiald (k := 58) dX8_showsAt_5 ia58 (Nat.le_of_ble_eq_true rfl) rfl h (fun v1 h => ?_)
  refine AW.iconst dX8_showsAt_6 ?_
  refine jn_elim h (fun (j : (TW → Int → Int → Int → Option (Int × TW))) => ∀ (s2 : TW) (x1 : Int) (x2 : Int) (y0 : Int), j s2 x1 x2 y0 = some w → AW m_X8_showsAt σ0 (tI b σ w) 45 [some (rV (some b)), some (iV x1), some (iV x2), none] [iV y0] (insT b s2 σ)) ?_ (fun j45 hj45 h => ?_)
  · intro s2 x1 x2 y0 h
    refine AW.istore_n (L' := [some (rV (some b)), some (iV x1), some (iV x2), some (iV y0)]) dX8_showsAt_45 (Nat.le_of_ble_eq_true rfl) rfl rfl ?_
    refine AW.iload_n dX8_showsAt_46 rfl ?_
    refine AW.if_lt 68 dX8_showsAt_47 (by decide) h (fun c9 h => ?_) (fun c9 h => ?_)
    · refine AW.bipush dX8_showsAt_68 (by decide) ?_
      refine AW.goto (tgt := 74) dX8_showsAt_70 (by decide) ?_
      cases h
      exact AW.iret dX8_showsAt_74 rfl
    · refine AW.aload_n dX8_showsAt_50 rfl ?_
      refine AW.iload_n dX8_showsAt_51 rfl ?_
      refine AW.iload_n dX8_showsAt_52 rfl ?_
      refine AW.tVI (M' := m_X8_isTurned) [iV x1, iV x2] [] dX8_showsAt_53 q1920 q1922 qs94 q139 q1923 rfl n_X8_isTurned rfl rfl rfl (fun _ _ e => c_X8_isTurned e) h (fun v4 s3 h => ?_)
      refine AW.if_ne 68 dX8_showsAt_56 (by decide) h (fun c8 h => ?_) (fun c8 h => ?_)
      · refine AW.bipush dX8_showsAt_68 (by decide) ?_
        refine AW.goto (tgt := 74) dX8_showsAt_70 (by decide) ?_
        cases h
        exact AW.iret dX8_showsAt_74 rfl
      · refine AW.aload_n dX8_showsAt_59 rfl ?_
        refine AW.iload_n dX8_showsAt_60 rfl ?_
        refine AW.iload_n dX8_showsAt_61 rfl ?_
        refine AW.tVI (M' := m_X8_isTurned) [iV x1, iV y0] [] dX8_showsAt_62 q1920 q1922 qs94 q139 q1923 rfl n_X8_isTurned rfl rfl rfl (fun _ _ e => c_X8_isTurned e) h (fun v6 s5 h => ?_)
        refine AW.if_eq 73 dX8_showsAt_65 (by decide) h (fun c7 h => ?_) (fun c7 h => ?_)
        · refine AW.iload_n dX8_showsAt_73 rfl ?_
          refine AW.nv ?_
          cases h
          exact AW.iret dX8_showsAt_74 rfl
        · refine AW.bipush dX8_showsAt_68 (by decide) ?_
          refine AW.goto (tgt := 74) dX8_showsAt_70 (by decide) ?_
          cases h
          exact AW.iret dX8_showsAt_74 rfl
  · refine jn_elim h (fun (j : (TW → Int → Int → Option (Int × TW))) => ∀ (s10 : TW) (x1 : Int) (x2 : Int), j s10 x1 x2 = some w → AW m_X8_showsAt σ0 (tI b σ w) 29 [some (rV (some b)), some (iV x1), some (iV x2), none] [] (insT b s10 σ)) ?_ (fun j29 hj29 h => ?_)
    · intro s10 x1 x2 h
      refine AW.iload_n dX8_showsAt_29 rfl ?_
      refine AW.aload_n dX8_showsAt_30 rfl ?_
      refine AW.tgR (k := 56) dX8_showsAt_31 (Nat.le_of_ble_eq_true rfl) (fun _ => rfl) q1596 rfl ia56 ?_
      refine AW.bipush dX8_showsAt_34 (by decide) ?_
      refine AW.iload_n dX8_showsAt_36 rfl ?_
      refine AW.imul dX8_showsAt_37 ?_
      refine AW.bipush dX8_showsAt_38 (by decide) ?_
      refine AW.iadd dX8_showsAt_40 ?_
      refine AW.iload_n dX8_showsAt_41 rfl ?_
      refine AW.iadd dX8_showsAt_42 ?_
      refine AW.tiald (k := 56) dX8_showsAt_43 ia56 (Nat.le_of_ble_eq_true rfl) rfl h (fun v11 h => ?_)
      refine AW.isub dX8_showsAt_44 ?_
      exact hj45 _ _ _ _ h
    · refine AW.icmp_eq 29 dX8_showsAt_7 (by decide) h (fun c15 h => ?_) (fun c15 h => ?_)
      · exact hj29 _ _ _ h
      · refine AW.aload_n dX8_showsAt_10 rfl ?_
        refine AW.tgR (k := 58) dX8_showsAt_11 (Nat.le_of_ble_eq_true rfl) (fun _ => rfl) q1598 rfl ia58 ?_
        refine AW.iload_n dX8_showsAt_14 rfl ?_
        refine AW.tiald (k := 58) dX8_showsAt_15 ia58 (Nat.le_of_ble_eq_true rfl) rfl h (fun v12 h => ?_)
        refine AW.iload_n dX8_showsAt_16 rfl ?_
        refine AW.icmp_gt 29 dX8_showsAt_17 (by decide) h (fun c14 h => ?_) (fun c14 h => ?_)
        · exact hj29 _ _ _ h
        · refine AW.aload_n dX8_showsAt_20 rfl ?_
          refine AW.tgR (k := 59) dX8_showsAt_21 (Nat.le_of_ble_eq_true rfl) (fun _ => rfl) q1599 rfl ia59 ?_
          refine AW.iload_n dX8_showsAt_24 rfl ?_
          refine AW.tiald (k := 59) dX8_showsAt_25 ia59 (Nat.le_of_ble_eq_true rfl) rfl h (fun v13 h => ?_)
          refine AW.goto (tgt := 45) dX8_showsAt_26 (by decide) ?_
          exact hj45 _ _ _ _ h
theorem c_X8_showsAt {b : Nat} {σ : Hp} {s0 : TW} {x1 : Int} {x2 : Int} {v : Int} {s1 : TW} (h : f_X8_showsAt s0 x1 x2 = some (v, s1)) : Ct m_X8_showsAt [rV (some b), iV x1, iV x2] (insT b s0 σ) (.inl (some (iV v)), insT b s1 σ) :=
  Ct.of2 (w_X8_showsAt s0 x1 x2 h) (by decide) rfl rfl rfl
abbrev m_X8_breaksNow : Mi := (yX8_breaksNow, cX8_breaksNow, none, 2, 2, 45, [])
theorem n_X8_breaksNow : nameOk yX8_breaksNow 1 := ⟨by decide, by decide, by decide +kernel⟩
def f_X8_breaksNow (s0 : TW) (x1 : Int) : Option (Unit × TW) :=
  bt_ (f_X8_showsAt s0 x1 (s0.1 57)) fun v2 s1 => (ts s1 59 x1 v2).bind fun s3 => (ts s3 58 x1 (s3.1 57)).bind fun s4 => some ((), s4)
theorem w_X8_breaksNow {b : Nat} {σ σ0 : Hp} {w : Unit × TW} (s0 : TW) (x1 : Int) (h : f_X8_breaksNow s0 x1 = some w) : AW m_X8_breaksNow σ0 (tU b σ w) 0 [some (rV (some b)), some (iV x1)] [] (insT b s0 σ) := by
  unfold f_X8_breaksNow at h
  refine AW.aload_n dX8_breaksNow_0 rfl ?_
  refine AW.tgR (k := 59) dX8_breaksNow_1 (Nat.le_of_ble_eq_true rfl) (fun _ => rfl) q1599 rfl ia59 ?_
  refine AW.iload_n dX8_breaksNow_4 rfl ?_
  refine AW.aload_n dX8_breaksNow_5 rfl ?_
  refine AW.iload_n dX8_breaksNow_6 rfl ?_
  refine AW.aload_n dX8_breaksNow_7 rfl ?_
  refine AW.tgI (k := 57) dX8_breaksNow_8 (Nat.le_of_ble_eq_true rfl) (fun _ => rfl) q1597 rfl ?_
  refine AW.tVI (M' := m_X8_showsAt) [iV x1, iV (s0.1 57)] [iV x1, rV (some (b + tof 59))] dX8_breaksNow_11 q1916 q1918 qs93 q139 q1919 rfl n_X8_showsAt rfl rfl rfl (fun _ _ e => c_X8_showsAt e) h (fun v2 s1 h => ?_)
  refine AW.tiast (k := 59) dX8_breaksNow_14 ia59 (Nat.le_of_ble_eq_true rfl) mt59 rfl h (fun s3 h => ?_)
  refine AW.aload_n dX8_breaksNow_15 rfl ?_
  refine AW.tgR (k := 58) dX8_breaksNow_16 (Nat.le_of_ble_eq_true rfl) (fun _ => rfl) q1598 rfl ia58 ?_
  refine AW.iload_n dX8_breaksNow_19 rfl ?_
  refine AW.aload_n dX8_breaksNow_20 rfl ?_
  refine AW.tgI (k := 57) dX8_breaksNow_21 (Nat.le_of_ble_eq_true rfl) (fun _ => rfl) q1597 rfl ?_
  refine AW.tiast (k := 58) dX8_breaksNow_24 ia58 (Nat.le_of_ble_eq_true rfl) mt58 rfl h (fun s4 h => ?_)
  cases h
  exact AW.vret dX8_breaksNow_25 rfl
theorem c_X8_breaksNow {b : Nat} {σ : Hp} {s0 : TW} {x1 : Int} {v : Unit} {s1 : TW} (h : f_X8_breaksNow s0 x1 = some (v, s1)) : Ct m_X8_breaksNow [rV (some b), iV x1] (insT b s0 σ) (.inl none, insT b s1 σ) :=
  Ct.of2 (w_X8_breaksNow s0 x1 h) (by decide) rfl rfl rfl
abbrev m_X8_minuteGoes : Mi := (yX8_minuteGoes, cX8_minuteGoes, none, 4, 4, 98, [])
theorem n_X8_minuteGoes : nameOk yX8_minuteGoes 0 := ⟨by decide, by decide, by decide +kernel⟩
def f_X8_minuteGoes_L15 : Nat → TW → Int → Int → Int → (TW → Int → Int → Option (Unit × TW)) → Option (Unit × TW)
  | 0, _, _, _, _, _ => none
  | n + 1, s0, x1, x2, x3, k => (ta s0 28 (s0.1 18)).bind fun v1 => (if nrm v1 ≤ nrm x3 then (k s0 x1 x2) else (bt_ (f_X8_goesTo s0 x3) fun v3 s2 => (ts s2 56 (x2 + x3) v3).bind fun s4 => f_X8_minuteGoes_L15 n s4 x1 x2 (x3 + 1) k))
theorem w_X8_minuteGoes_L15 {b : Nat} {σ σ0 : Hp} {w : Unit × TW} : ∀ (n : Nat) (s0 : TW) (x1 : Int) (x2 : Int) (x3 : Int) (k : (TW → Int → Int → Option (Unit × TW))), f_X8_minuteGoes_L15 n s0 x1 x2 x3 k = some w → (∀ (s1 : TW) (x1 : Int) (x2 : Int), k s1 x1 x2 = some w → AW m_X8_minuteGoes σ0 (tU b σ w) 47 [some (rV (some b)), some (iV x1), some (iV x2), none] [] (insT b s1 σ)) → AW m_X8_minuteGoes σ0 (tU b σ w) 15 [some (rV (some b)), some (iV x1), some (iV x2), some (iV x3)] [] (insT b s0 σ) := by
  intro n
  induction n with
  | zero =>
    intro s0 x1 x2 x3 k h hk
    rw [f_X8_minuteGoes_L15] at h
    cases h
  | succ n ih =>
    intro s0 x1 x2 x3 k h hk
    rw [f_X8_minuteGoes_L15] at h
    refine AW.iload_n dX8_minuteGoes_15 rfl ?_
    refine AW.aload_n dX8_minuteGoes_16 rfl ?_
    refine AW.tgR (k := 28) dX8_minuteGoes_17 (Nat.le_of_ble_eq_true rfl) (fun _ => rfl) q1568 rfl ia28 ?_
    refine AW.aload_n dX8_minuteGoes_20 rfl ?_
    refine AW.tgI (k := 18) dX8_minuteGoes_21 (Nat.le_of_ble_eq_true rfl) (fun _ => rfl) q1558 rfl ?_
    refine AW.tiald (k := 28) dX8_minuteGoes_24 ia28 (Nat.le_of_ble_eq_true rfl) rfl h (fun v1 h => ?_)
    refine AW.icmp_ge 47 dX8_minuteGoes_25 (by decide) h (fun c5 h => ?_) (fun c5 h => ?_)
    · exact AW.fewer (L' := [some (rV (some b)), some (iV x1), some (iV x2), none]) (And.intro rfl (And.intro rfl (And.intro rfl trivial))) (hk _ _ _ h)
    · refine AW.aload_n dX8_minuteGoes_28 rfl ?_
      refine AW.tgR (k := 56) dX8_minuteGoes_29 (Nat.le_of_ble_eq_true rfl) (fun _ => rfl) q1596 rfl ia56 ?_
      refine AW.iload_n dX8_minuteGoes_32 rfl ?_
      refine AW.iload_n dX8_minuteGoes_33 rfl ?_
      refine AW.iadd dX8_minuteGoes_34 ?_
      refine AW.aload_n dX8_minuteGoes_35 rfl ?_
      refine AW.iload_n dX8_minuteGoes_36 rfl ?_
      refine AW.tVI (M' := m_X8_goesTo) [iV x3] [iV (x2 + x3), rV (some (b + tof 56))] dX8_minuteGoes_37 q1944 q1946 qs99 q139 q1947 rfl n_X8_goesTo rfl rfl rfl (fun _ _ e => c_X8_goesTo e) h (fun v3 s2 h => ?_)
      refine AW.tiast (k := 56) dX8_minuteGoes_40 ia56 (Nat.le_of_ble_eq_true rfl) mt56 rfl h (fun s4 h => ?_)
      refine AW.iinc (L' := [some (rV (some b)), some (iV x1), some (iV x2), some (iV (x3 + 1))]) dX8_minuteGoes_41 rfl (Nat.le_of_ble_eq_true rfl) rfl rfl ?_
      refine AW.goto (tgt := 15) dX8_minuteGoes_44 (by decide) ?_
      exact ih _ _ _ _ _ h hk
def f_X8_minuteGoes_L50 : Nat → TW → Int → Int → Int → (TW → Option (Unit × TW)) → Option (Unit × TW)
  | 0, _, _, _, _, _ => none
  | n + 1, s0, x1, x2, x3, k => (if nrm 28 ≤ nrm x3 then (k s0) else ((ta s0 56 (x1 + x3)).bind fun v7 => (ts s0 56 (x2 + x3) v7).bind fun s8 => f_X8_minuteGoes_L50 n s8 x1 x2 (x3 + 1) k))
theorem w_X8_minuteGoes_L50 {b : Nat} {σ σ0 : Hp} {w : Unit × TW} : ∀ (n : Nat) (s0 : TW) (x1 : Int) (x2 : Int) (x3 : Int) (k : (TW → Option (Unit × TW))), f_X8_minuteGoes_L50 n s0 x1 x2 x3 k = some w → (∀ (s1 : TW), k s1 = some w → AW m_X8_minuteGoes σ0 (tU b σ w) 78 [some (rV (some b)), none, none, none] [] (insT b s1 σ)) → AW m_X8_minuteGoes σ0 (tU b σ w) 50 [some (rV (some b)), some (iV x1), some (iV x2), some (iV x3)] [] (insT b s0 σ) := by
  intro n
  induction n with
  | zero =>
    intro s0 x1 x2 x3 k h hk
    rw [f_X8_minuteGoes_L50] at h
    cases h
  | succ n ih =>
    intro s0 x1 x2 x3 k h hk
    rw [f_X8_minuteGoes_L50] at h
    refine AW.iload_n dX8_minuteGoes_50 rfl ?_
    refine AW.bipush dX8_minuteGoes_51 (by decide) ?_
    refine AW.icmp_ge 78 dX8_minuteGoes_53 (by decide) h (fun c9 h => ?_) (fun c9 h => ?_)
    · exact AW.fewer (L' := [some (rV (some b)), none, none, none]) (And.intro rfl trivial) (hk _ h)
    · refine AW.aload_n dX8_minuteGoes_56 rfl ?_
      refine AW.tgR (k := 56) dX8_minuteGoes_57 (Nat.le_of_ble_eq_true rfl) (fun _ => rfl) q1596 rfl ia56 ?_
      refine AW.iload_n dX8_minuteGoes_60 rfl ?_
      refine AW.iload_n dX8_minuteGoes_61 rfl ?_
      refine AW.iadd dX8_minuteGoes_62 ?_
      refine AW.aload_n dX8_minuteGoes_63 rfl ?_
      refine AW.tgR (k := 56) dX8_minuteGoes_64 (Nat.le_of_ble_eq_true rfl) (fun _ => rfl) q1596 rfl ia56 ?_
      refine AW.iload_n dX8_minuteGoes_67 rfl ?_
      refine AW.iload_n dX8_minuteGoes_68 rfl ?_
      refine AW.iadd dX8_minuteGoes_69 ?_
      refine AW.tiald (k := 56) dX8_minuteGoes_70 ia56 (Nat.le_of_ble_eq_true rfl) rfl h (fun v7 h => ?_)
      refine AW.tiast (k := 56) dX8_minuteGoes_71 ia56 (Nat.le_of_ble_eq_true rfl) mt56 rfl h (fun s8 h => ?_)
      refine AW.iinc (L' := [some (rV (some b)), some (iV x1), some (iV x2), some (iV (x3 + 1))]) dX8_minuteGoes_72 rfl (Nat.le_of_ble_eq_true rfl) rfl rfl ?_
      refine AW.goto (tgt := 50) dX8_minuteGoes_75 (by decide) ?_
      exact ih _ _ _ _ _ h hk
def f_X8_minuteGoes_L94 : Nat → TW → Int → (TW → Option (Unit × TW)) → Option (Unit × TW)
  | 0, _, _, _ => none
  | n + 1, s0, x3, k => (ta s0 31 (s0.1 18)).bind fun v13 => (if nrm v13 ≤ nrm x3 then (k s0) else ((ta s0 58 x3).bind fun v14 => (if ¬ nrm v14 = nrm (-1) then (f_X8_minuteGoes_L94 n s0 (x3 + 1) k) else (bt_ (f_X8_lotOf s0 x3) fun v16 s15 => (ta s15 34 (s15.1 18)).bind fun v17 => (if nrm v17 ≤ nrm v16 then (f_X8_minuteGoes_L94 n s15 (x3 + 1) k) else (bt_ (f_X8_breaksNow s15 x3) fun _ s18 => f_X8_minuteGoes_L94 n s18 (x3 + 1) k))))))
theorem w_X8_minuteGoes_L94 {b : Nat} {σ σ0 : Hp} {w : Unit × TW} : ∀ (n : Nat) (s0 : TW) (x3 : Int) (k : (TW → Option (Unit × TW))), f_X8_minuteGoes_L94 n s0 x3 k = some w → (∀ (s1 : TW), k s1 = some w → AW m_X8_minuteGoes σ0 (tU b σ w) 145 [none, none, none, none] [] (insT b s1 σ)) → AW m_X8_minuteGoes σ0 (tU b σ w) 94 [some (rV (some b)), none, none, some (iV x3)] [] (insT b s0 σ) := by
  intro n
  induction n with
  | zero =>
    intro s0 x3 k h hk
    rw [f_X8_minuteGoes_L94] at h
    cases h
  | succ n ih =>
    intro s0 x3 k h hk
    rw [f_X8_minuteGoes_L94] at h
    refine AW.iload_n dX8_minuteGoes_94 rfl ?_
    refine AW.aload_n dX8_minuteGoes_95 rfl ?_
    refine AW.tgR (k := 31) dX8_minuteGoes_96 (Nat.le_of_ble_eq_true rfl) (fun _ => rfl) q1571 rfl ia31 ?_
    refine AW.aload_n dX8_minuteGoes_99 rfl ?_
    refine AW.tgI (k := 18) dX8_minuteGoes_100 (Nat.le_of_ble_eq_true rfl) (fun _ => rfl) q1558 rfl ?_
    refine AW.tiald (k := 31) dX8_minuteGoes_103 ia31 (Nat.le_of_ble_eq_true rfl) rfl h (fun v13 h => ?_)
    refine AW.icmp_ge 145 dX8_minuteGoes_104 (by decide) h (fun c21 h => ?_) (fun c21 h => ?_)
    · exact AW.fewer (L' := [none, none, none, none]) (trivial) (hk _ h)
    · refine AW.aload_n dX8_minuteGoes_107 rfl ?_
      refine AW.tgR (k := 58) dX8_minuteGoes_108 (Nat.le_of_ble_eq_true rfl) (fun _ => rfl) q1598 rfl ia58 ?_
      refine AW.iload_n dX8_minuteGoes_111 rfl ?_
      refine AW.tiald (k := 58) dX8_minuteGoes_112 ia58 (Nat.le_of_ble_eq_true rfl) rfl h (fun v14 h => ?_)
      refine AW.iconst dX8_minuteGoes_113 ?_
      refine AW.icmp_ne 139 dX8_minuteGoes_114 (by decide) h (fun c20 h => ?_) (fun c20 h => ?_)
      · refine AW.iinc (L' := [some (rV (some b)), none, none, some (iV (x3 + 1))]) dX8_minuteGoes_139 rfl (Nat.le_of_ble_eq_true rfl) rfl rfl ?_
        refine AW.goto (tgt := 94) dX8_minuteGoes_142 (by decide) ?_
        exact ih _ _ _ h hk
      · refine AW.aload_n dX8_minuteGoes_117 rfl ?_
        refine AW.iload_n dX8_minuteGoes_118 rfl ?_
        refine AW.tVI (M' := m_X8_lotOf) [iV x3] [] dX8_minuteGoes_119 q1952 q1954 qs101 q139 q1955 rfl n_X8_lotOf rfl rfl rfl (fun _ _ e => c_X8_lotOf e) h (fun v16 s15 h => ?_)
        refine AW.aload_n dX8_minuteGoes_122 rfl ?_
        refine AW.tgR (k := 34) dX8_minuteGoes_123 (Nat.le_of_ble_eq_true rfl) (fun _ => rfl) q1574 rfl ia34 ?_
        refine AW.aload_n dX8_minuteGoes_126 rfl ?_
        refine AW.tgI (k := 18) dX8_minuteGoes_127 (Nat.le_of_ble_eq_true rfl) (fun _ => rfl) q1558 rfl ?_
        refine AW.tiald (k := 34) dX8_minuteGoes_130 ia34 (Nat.le_of_ble_eq_true rfl) rfl h (fun v17 h => ?_)
        refine AW.icmp_ge 139 dX8_minuteGoes_131 (by decide) h (fun c19 h => ?_) (fun c19 h => ?_)
        · refine AW.iinc (L' := [some (rV (some b)), none, none, some (iV (x3 + 1))]) dX8_minuteGoes_139 rfl (Nat.le_of_ble_eq_true rfl) rfl rfl ?_
          refine AW.goto (tgt := 94) dX8_minuteGoes_142 (by decide) ?_
          exact ih _ _ _ h hk
        · refine AW.aload_n dX8_minuteGoes_134 rfl ?_
          refine AW.iload_n dX8_minuteGoes_135 rfl ?_
          refine AW.tVU (M' := m_X8_breaksNow) [iV x3] [] dX8_minuteGoes_136 q1960 q1962 qs102 q139 q1963 rfl n_X8_breaksNow rfl rfl rfl (fun _ _ e => c_X8_breaksNow e) h (fun _ s18 h => ?_)
          refine AW.iinc (L' := [some (rV (some b)), none, none, some (iV (x3 + 1))]) dX8_minuteGoes_139 rfl (Nat.le_of_ble_eq_true rfl) rfl rfl ?_
          refine AW.goto (tgt := 94) dX8_minuteGoes_142 (by decide) ?_
          exact ih _ _ _ h hk
def f_X8_minuteGoes (s0 : TW) : Option (Unit × TW) :=
  f_X8_minuteGoes_L15 FU s0 (36 * (s0.1 57)) ((36 * (s0.1 57)) + 36) 0 (fun s6 x1 x2 => f_X8_minuteGoes_L50 FU s6 x1 x2 6 (fun s10 => bd (tp s10 57 (nrm ((s10.1 57) + 1))) fun s11 => bt_ (f_X8_fillsLate s11) fun _ s12 => f_X8_minuteGoes_L94 FU s12 0 (fun s22 => some ((), s22))))
theorem w_X8_minuteGoes {b : Nat} {σ σ0 : Hp} {w : Unit × TW} (s0 : TW) (h : f_X8_minuteGoes s0 = some w) : AW m_X8_minuteGoes σ0 (tU b σ w) 0 [some (rV (some b)), none, none, none] [] (insT b s0 σ) := by
  unfold f_X8_minuteGoes at h
  refine AW.bipush dX8_minuteGoes_0 (by decide) ?_
  refine AW.aload_n dX8_minuteGoes_2 rfl ?_
  refine AW.tgI (k := 57) dX8_minuteGoes_3 (Nat.le_of_ble_eq_true rfl) (fun _ => rfl) q1597 rfl ?_
  refine AW.imul dX8_minuteGoes_6 ?_
  refine AW.istore_n (L' := [some (rV (some b)), some (iV (36 * (s0.1 57))), none, none]) dX8_minuteGoes_7 (Nat.le_of_ble_eq_true rfl) rfl rfl ?_
  refine AW.iload_n dX8_minuteGoes_8 rfl ?_
  refine AW.bipush dX8_minuteGoes_9 (by decide) ?_
  refine AW.iadd dX8_minuteGoes_11 ?_
  refine AW.istore_n (L' := [some (rV (some b)), some (iV (36 * (s0.1 57))), some (iV ((36 * (s0.1 57)) + 36)), none]) dX8_minuteGoes_12 (Nat.le_of_ble_eq_true rfl) rfl rfl ?_
  refine AW.iconst dX8_minuteGoes_13 ?_
  refine AW.istore_n (L' := [some (rV (some b)), some (iV (36 * (s0.1 57))), some (iV ((36 * (s0.1 57)) + 36)), some (iV 0)]) dX8_minuteGoes_14 (Nat.le_of_ble_eq_true rfl) rfl rfl ?_
  refine w_X8_minuteGoes_L15 _ _ _ _ _ _ h (fun s6 x1 x2 h => ?_)
  refine AW.bipush dX8_minuteGoes_47 (by decide) ?_
  refine AW.istore_n (L' := [some (rV (some b)), some (iV x1), some (iV x2), some (iV 6)]) dX8_minuteGoes_49 (Nat.le_of_ble_eq_true rfl) rfl rfl ?_
  refine w_X8_minuteGoes_L50 _ _ _ _ _ _ h (fun s10 h => ?_)
  refine AW.aload_n dX8_minuteGoes_78 rfl ?_
  refine AW.dupR dX8_minuteGoes_79 ?_
  refine AW.tgI (k := 57) dX8_minuteGoes_80 (Nat.le_of_ble_eq_true rfl) (fun _ => rfl) q1597 rfl ?_
  refine AW.iconst dX8_minuteGoes_83 ?_
  refine AW.iadd dX8_minuteGoes_84 ?_
  refine AW.nv ?_
  refine AW.tpB (k := 57) dX8_minuteGoes_85 (Nat.le_of_ble_eq_true rfl) rfl q1597 rfl rfl h (fun s11 h => ?_)
  refine AW.aload_n dX8_minuteGoes_88 rfl ?_
  refine AW.tVU (M' := m_X8_fillsLate) [] [] dX8_minuteGoes_89 q1506 q1508 qs56 q139 q1509 rfl n_X8_fillsLate rfl rfl rfl (fun _ _ e => c_X8_fillsLate e) h (fun _ s12 h => ?_)
  refine AW.iconst dX8_minuteGoes_92 ?_
  refine AW.istore_n (L' := [some (rV (some b)), none, none, some (iV 0)]) dX8_minuteGoes_93 (Nat.le_of_ble_eq_true rfl) rfl rfl ?_
  refine w_X8_minuteGoes_L94 _ _ _ _ h (fun s22 h => ?_)
  cases h
  exact AW.vret dX8_minuteGoes_145 rfl
theorem c_X8_minuteGoes {b : Nat} {σ : Hp} {s0 : TW} {v : Unit} {s1 : TW} (h : f_X8_minuteGoes s0 = some (v, s1)) : Ct m_X8_minuteGoes [rV (some b)] (insT b s0 σ) (.inl none, insT b s1 σ) :=
  Ct.of2 (w_X8_minuteGoes s0 h) (by decide) rfl rfl rfl
