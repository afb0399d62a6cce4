set_option maxRecDepth 100000
abbrev m_X8_goesTill : Mi := (yX8_goesTill, cX8_goesTill, none, 2, 5, 121, [])
theorem n_X8_goesTill : nameOk yX8_goesTill 1 := ⟨by decide, by decide, by decide +kernel⟩
def f_X8_goesTill_L0 : Nat → TW → Int → (TW → Option (Unit × TW)) → Option (Unit × TW)
  | 0, _, _, _ => none
  | n + 1, s0, x1, k => (if nrm x1 ≤ nrm (s0.1 57) then (k s0) else ((if nrm 299 ≤ nrm (s0.1 57) then (k s0) else (bt_ (f_X8_minuteGoes s0) fun _ s1 => f_X8_goesTill_L0 n s1 x1 k))))
theorem w_X8_goesTill_L0 {b : Nat} {σ σ0 : Hp} {w : Unit × TW} : ∀ (n : Nat) (s0 : TW) (x1 : Int) (k : (TW → Option (Unit × TW))), f_X8_goesTill_L0 n s0 x1 k = some w → (∀ (s1 : TW), k s1 = some w → AW m_X8_goesTill σ0 (tU b σ w) 25 [none, none] [] (insT b s1 σ)) → AW m_X8_goesTill σ0 (tU b σ w) 0 [some (rV (some b)), some (iV x1)] [] (insT b s0 σ) := by
  intro n
  induction n with
  | zero =>
    intro s0 x1 k h hk
    rw [f_X8_goesTill_L0] at h
    cases h
  | succ n ih =>
    intro s0 x1 k h hk
    rw [f_X8_goesTill_L0] at h
    refine AW.aload_n dX8_goesTill_0 rfl ?_
    refine AW.tgI (k := 57) dX8_goesTill_1 (Nat.le_of_ble_eq_true rfl) (fun _ => rfl) q1597 rfl ?_
    refine AW.iload_n dX8_goesTill_4 rfl ?_
    refine AW.icmp_ge 25 dX8_goesTill_5 (by decide) h (fun c3 h => ?_) (fun c3 h => ?_)
    · exact AW.fewer (L' := [none, none]) (trivial) (hk _ h)
    · refine AW.aload_n dX8_goesTill_8 rfl ?_
      refine AW.tgI (k := 57) dX8_goesTill_9 (Nat.le_of_ble_eq_true rfl) (fun _ => rfl) q1597 rfl ?_
      refine AW.sipush dX8_goesTill_12 (by decide) ?_
      refine AW.icmp_ge 25 dX8_goesTill_15 (by decide) h (fun c2 h => ?_) (fun c2 h => ?_)
      · exact AW.fewer (L' := [none, none]) (trivial) (hk _ h)
      · refine AW.aload_n dX8_goesTill_18 rfl ?_
        refine AW.tVU (M' := m_X8_minuteGoes) [] [] dX8_goesTill_19 q1940 q1942 qs98 q139 q1943 rfl n_X8_minuteGoes rfl rfl rfl (fun _ _ e => c_X8_minuteGoes e) h (fun _ s1 h => ?_)
        refine AW.goto (tgt := 0) dX8_goesTill_22 (by decide) ?_
        exact ih _ _ _ h hk
def f_X8_goesTill (s0 : TW) (x1 : Int) : Option (Unit × TW) :=
  f_X8_goesTill_L0 FU s0 x1 (fun s4 => some ((), s4))
theorem w_X8_goesTill {b : Nat} {σ σ0 : Hp} {w : Unit × TW} (s0 : TW) (x1 : Int) (h : f_X8_goesTill s0 x1 = some w) : AW m_X8_goesTill σ0 (tU b σ w) 0 [some (rV (some b)), some (iV x1)] [] (insT b s0 σ) := by
  unfold f_X8_goesTill at h
  refine w_X8_goesTill_L0 _ _ _ _ h (fun s4 h => ?_)
  cases h
  exact AW.vret dX8_goesTill_25 rfl
theorem c_X8_goesTill {b : Nat} {σ : Hp} {s0 : TW} {x1 : Int} {v : Unit} {s1 : TW} (h : f_X8_goesTill s0 x1 = some (v, s1)) : Ct m_X8_goesTill [rV (some b), iV x1] (insT b s0 σ) (.inl none, insT b s1 σ) :=
  Ct.of2 (w_X8_goesTill s0 x1 h) (by decide) rfl rfl rfl
abbrev m_X8_hungIn : Mi := (yX8_hungIn, cX8_hungIn, (some .int), 3, 0, 0, [])
theorem n_X8_hungIn : nameOk yX8_hungIn 2 := ⟨by decide, by decide, by decide +kernel⟩
def f_X8_hungIn (s0 : TW) (x1 : Int) (x2 : Int) : Option (Int × TW) :=
  (ta s0 56 (((36 * x2) + 12) + x1)).bind fun v1 => some (v1, s0)
theorem w_X8_hungIn {b : Nat} {σ σ0 : Hp} {w : Int × TW} (s0 : TW) (x1 : Int) (x2 : Int) (h : f_X8_hungIn s0 x1 x2 = some w) : AW m_X8_hungIn σ0 (tI b σ w) 0 [some (rV (some b)), some (iV x1), some (iV x2)] [] (insT b s0 σ) := by
  unfold f_X8_hungIn at h
  refine AW.aload_n dX8_hungIn_0 rfl ?_
  refine AW.tgR (k := 56) dX8_hungIn_1 (Nat.le_of_ble_eq_true rfl) (fun _ => rfl) q1596 rfl ia56 ?_
  refine AW.bipush dX8_hungIn_4 (by decide) ?_
  refine AW.iload_n dX8_hungIn_6 rfl ?_
  refine AW.imul dX8_hungIn_7 ?_
  refine AW.bipush dX8_hungIn_8 (by decide) ?_
  refine AW.iadd dX8_hungIn_10 ?_
  refine AW.iload_n dX8_hungIn_11 rfl ?_
  refine AW.iadd dX8_hungIn_12 ?_
  refine AW.tiald (k := 56) dX8_hungIn_13 ia56 (Nat.le_of_ble_eq_true rfl) rfl h (fun v1 h => ?_)
  cases h
  exact AW.iret dX8_hungIn_14 rfl
theorem c_X8_hungIn {b : Nat} {σ : Hp} {s0 : TW} {x1 : Int} {x2 : Int} {v : Int} {s1 : TW} (h : f_X8_hungIn s0 x1 x2 = some (v, s1)) : Ct m_X8_hungIn [rV (some b), iV x1, iV x2] (insT b s0 σ) (.inl (some (iV v)), insT b s1 σ) :=
  Ct.of2 (w_X8_hungIn s0 x1 x2 h) (by decide) rfl rfl rfl
abbrev m_X8_menShown : Mi := (yX8_menShown, cX8_menShown, (some .int), 3, 1, 24, [])
theorem n_X8_menShown : nameOk yX8_menShown 2 := ⟨by decide, by decide, by decide +kernel⟩
def f_X8_menShown (s0 : TW) (x1 : Int) (x2 : Int) : Option (Int × TW) :=
  (if 0 ≤ nrm x2 then (bt_ (f_X8_hungIn s0 x1 x2) fun v2 s1 => bt_ (f_X8_menIn s1 v2 x2) fun v4 s3 => some (v4, s3)) else (some (0, s0)))
theorem w_X8_menShown {b : Nat} {σ σ0 : Hp} {w : Int × TW} (s0 : TW) (x1 : Int) (x2 : Int) (h : f_X8_menShown s0 x1 x2 = some w) : AW m_X8_menShown σ0 (tI b σ w) 0 [some (rV (some b)), some (iV x1), some (iV x2)] [] (insT b s0 σ) := by
  unfold f_X8_menShown at h
  refine AW.iload_n dX8_menShown_0 rfl ?_
  refine AW.if_ge 8 dX8_menShown_1 (by decide) h (fun c5 h => ?_) (fun c5 h => ?_)
  · refine AW.aload_n dX8_menShown_8 rfl ?_
    refine AW.aload_n dX8_menShown_9 rfl ?_
    refine AW.iload_n dX8_menShown_10 rfl ?_
    refine AW.iload_n dX8_menShown_11 rfl ?_
    refine AW.tVI (M' := m_X8_hungIn) [iV x1, iV x2] [rV (some b)] dX8_menShown_12 q1924 q1926 qs95 q139 q1927 rfl n_X8_hungIn rfl rfl rfl (fun _ _ e => c_X8_hungIn e) h (fun v2 s1 h => ?_)
    refine AW.iload_n dX8_menShown_15 rfl ?_
    refine AW.tVI (M' := m_X8_menIn) [iV v2, iV x2] [] dX8_menShown_16 q1522 q1524 qs60 q139 q1525 rfl n_X8_menIn rfl rfl rfl (fun _ _ e => c_X8_menIn e) h (fun v4 s3 h => ?_)
    cases h
    exact AW.iret dX8_menShown_19 rfl
  · refine AW.iconst dX8_menShown_4 ?_
    refine AW.goto (tgt := 19) dX8_menShown_5 (by decide) ?_
    cases h
    exact AW.iret dX8_menShown_19 rfl
theorem c_X8_menShown {b : Nat} {σ : Hp} {s0 : TW} {x1 : Int} {x2 : Int} {v : Int} {s1 : TW} (h : f_X8_menShown s0 x1 x2 = some (v, s1)) : Ct m_X8_menShown [rV (some b), iV x1, iV x2] (insT b s0 σ) (.inl (some (iV v)), insT b s1 σ) :=
  Ct.of2 (w_X8_menShown s0 x1 x2 h) (by decide) rfl rfl rfl
abbrev m_X8_isSeenIn : Mi := (yX8_isSeenIn, cX8_isSeenIn, (some .boolean), 4, 2, 46, [])
theorem n_X8_isSeenIn : nameOk yX8_isSeenIn 3 := ⟨by decide, by decide, by decide +kernel⟩
def f_X8_isSeenIn (s0 : TW) (x1 : Int) (x2 : Int) (x3 : Int) : Option (Int × TW) :=
  bt_ (f_X8_showsAt s0 x1 x2) fun v2 s1 => bt_ (f_X8_menShown s1 x1 v2) fun v4 s3 => (if ¬ nrm (anI (srI v4 x3) 1) = nrm 1 then (some (0, s3)) else (some (1, s3)))
theorem w_X8_isSeenIn {b : Nat} {σ σ0 : Hp} {w : Int × TW} (s0 : TW) (x1 : Int) (x2 : Int) (x3 : Int) (h : f_X8_isSeenIn s0 x1 x2 x3 = some w) : AW m_X8_isSeenIn σ0 (tI b σ w) 0 [some (rV (some b)), some (iV x1), some (iV x2), some (iV x3)] [] (insT b s0 σ) := by
  unfold f_X8_isSeenIn at h
  refine AW.aload_n dX8_isSeenIn_0 rfl ?_
  refine AW.iload_n dX8_isSeenIn_1 rfl ?_
  refine AW.aload_n dX8_isSeenIn_2 rfl ?_
  refine AW.iload_n dX8_isSeenIn_3 rfl ?_
  refine AW.iload_n dX8_isSeenIn_4 rfl ?_
  refine AW.tVI (M' := m_X8_showsAt) [iV x1, iV x2] [iV x1, rV (some b)] dX8_isSeenIn_5 q1916 q1918 qs93 q139 q1919 rfl n_X8_showsAt rfl rfl rfl (fun _ _ e => c_X8_showsAt e) h (fun v2 s1 h => ?_)
  refine AW.tVI (M' := m_X8_menShown) [iV x1, iV v2] [] dX8_isSeenIn_8 q1928 q1930 qs96 q139 q1931 rfl n_X8_menShown rfl rfl rfl (fun _ _ e => c_X8_menShown e) h (fun v4 s3 h => ?_)
  refine AW.iload_n dX8_isSeenIn_11 rfl ?_
  refine AW.ishr dX8_isSeenIn_12 ?_
  refine AW.iconst dX8_isSeenIn_13 ?_
  refine AW.iand dX8_isSeenIn_14 ?_
  refine AW.iconst dX8_isSeenIn_15 ?_
  refine AW.icmp_ne 23 dX8_isSeenIn_16 (by decide) h (fun c5 h => ?_) (fun c5 h => ?_)
  · refine AW.iconst dX8_isSeenIn_23 ?_
    cases h
    exact AW.zret (z := 0) dX8_isSeenIn_24 rfl zz0
  · refine AW.iconst dX8_isSeenIn_19 ?_
    refine AW.goto (tgt := 24) dX8_isSeenIn_20 (by decide) ?_
    cases h
    exact AW.zret (z := 1) dX8_isSeenIn_24 rfl zz1
theorem c_X8_isSeenIn {b : Nat} {σ : Hp} {s0 : TW} {x1 : Int} {x2 : Int} {x3 : Int} {v : Int} {s1 : TW} (h : f_X8_isSeenIn s0 x1 x2 x3 = some (v, s1)) : Ct m_X8_isSeenIn [rV (some b), iV x1, iV x2, iV x3] (insT b s0 σ) (.inl (some (iV v)), insT b s1 σ) :=
  Ct.of2 (w_X8_isSeenIn s0 x1 x2 x3 h) (by decide) rfl rfl rfl
abbrev m_X8_isSo : Mi := (yX8_isSo, cX8_isSo, (some .boolean), 6, 6, 142, [])
theorem n_X8_isSo : nameOk yX8_isSo 3 := ⟨by decide, by decide, by decide +kernel⟩
def f_X8_isSo_L12 : Nat → TW → Int → Int → Int → (TW → Int → Int → Option (Int × TW)) → Option (Int × TW)
  | 0, _, _, _, _, _ => none
  | n + 1, s0, x3, x4, x5, k => (if nrm x3 ≤ nrm x5 then (k s0 x3 x4) else ((ta s0 69 x5).bind fun v2 => (if nrm v2 ≤ nrm x4 then (f_X8_isSo_L12 n s0 x3 x4 (x5 + 1) k) else ((ta s0 69 x5).bind fun v3 => f_X8_isSo_L12 n s0 x3 v3 (x5 + 1) k))))
theorem w_X8_isSo_L12 {b : Nat} {σ σ0 : Hp} {w : Int × TW} : ∀ (n : Nat) (s0 : TW) (x3 : Int) (x4 : Int) (x5 : Int) (k : (TW → Int → Int → Option (Int × TW))), f_X8_isSo_L12 n s0 x3 x4 x5 k = some w → (∀ (s1 : TW) (x3 : Int) (x4 : Int), k s1 x3 x4 = some w → AW m_X8_isSo σ0 (tI b σ w) 45 [some (rV (some b)), none, none, some (iV x3), some (iV x4), none] [] (insT b s1 σ)) → AW m_X8_isSo σ0 (tI b σ w) 12 [some (rV (some b)), none, none, some (iV x3), some (iV x4), some (iV x5)] [] (insT b s0 σ) := by
  intro n
  induction n with
  | zero =>
    intro s0 x3 x4 x5 k h hk
    rw [f_X8_isSo_L12] at h
    cases h
  | succ n ih =>
    intro s0 x3 x4 x5 k h hk
    rw [f_X8_isSo_L12] at h
    refine AW.iload dX8_isSo_12 rfl ?_
    refine AW.iload_n dX8_isSo_14 rfl ?_
    refine AW.icmp_ge 45 dX8_isSo_15 (by decide) h (fun c5 h => ?_) (fun c5 h => ?_)
    · exact AW.fewer (L' := [some (rV (some b)), none, none, some (iV x3), some (iV x4), none]) (And.intro rfl (And.intro rfl (And.intro rfl trivial))) (hk _ _ _ h)
    · refine AW.aload_n dX8_isSo_18 rfl ?_
      refine AW.tgR (k := 69) dX8_isSo_19 (Nat.le_of_ble_eq_true rfl) (fun _ => rfl) q1609 rfl ia69 ?_
      refine AW.iload dX8_isSo_22 rfl ?_
      refine AW.tiald (k := 69) dX8_isSo_24 ia69 (Nat.le_of_ble_eq_true rfl) rfl h (fun v2 h => ?_)
      refine AW.iload dX8_isSo_25 rfl ?_
      refine AW.icmp_le 39 dX8_isSo_27 (by decide) h (fun c4 h => ?_) (fun c4 h => ?_)
      · refine AW.iinc (L' := [some (rV (some b)), none, none, some (iV x3), some (iV x4), some (iV (x5 + 1))]) dX8_isSo_39 rfl (Nat.le_of_ble_eq_true rfl) rfl rfl ?_
        refine AW.goto (tgt := 12) dX8_isSo_42 (by decide) ?_
        exact ih _ _ _ _ _ h hk
      · refine AW.aload_n dX8_isSo_30 rfl ?_
        refine AW.tgR (k := 69) dX8_isSo_31 (Nat.le_of_ble_eq_true rfl) (fun _ => rfl) q1609 rfl ia69 ?_
        refine AW.iload dX8_isSo_34 rfl ?_
        refine AW.tiald (k := 69) dX8_isSo_36 ia69 (Nat.le_of_ble_eq_true rfl) rfl h (fun v3 h => ?_)
        refine AW.istore (L' := [some (rV (some b)), none, none, some (iV x3), some (iV v3), some (iV x5)]) dX8_isSo_37 (Nat.le_of_ble_eq_true rfl) rfl rfl ?_
        refine AW.iinc (L' := [some (rV (some b)), none, none, some (iV x3), some (iV v3), some (iV (x5 + 1))]) dX8_isSo_39 rfl (Nat.le_of_ble_eq_true rfl) rfl rfl ?_
        refine AW.goto (tgt := 12) dX8_isSo_42 (by decide) ?_
        exact ih _ _ _ _ _ h hk
def f_X8_isSo_L54 : Nat → TW → Int → Int → (TW → Option (Int × TW)) → Option (Int × TW)
  | 0, _, _, _, _ => none
  | n + 1, s0, x3, x5, k => (if nrm x3 ≤ nrm x5 then (k s0) else ((ta s0 68 x5).bind fun v8 => (ta s0 69 x5).bind fun v9 => (ta s0 70 x5).bind fun v10 => bt_ (f_X8_isSeenIn s0 v8 v9 v10) fun v12 s11 => (ta s11 71 x5).bind fun v13 => (if nrm v12 = nrm v13 then (f_X8_isSo_L54 n s11 x3 (x5 + 1) k) else (some (0, s11)))))
theorem w_X8_isSo_L54 {b : Nat} {σ σ0 : Hp} {w : Int × TW} : ∀ (n : Nat) (s0 : TW) (x3 : Int) (x5 : Int) (k : (TW → Option (Int × TW))), f_X8_isSo_L54 n s0 x3 x5 k = some w → (∀ (s1 : TW), k s1 = some w → AW m_X8_isSo σ0 (tI b σ w) 103 [none, none, none, none, none, none] [] (insT b s1 σ)) → AW m_X8_isSo σ0 (tI b σ w) 54 [some (rV (some b)), none, none, some (iV x3), none, some (iV x5)] [] (insT b s0 σ) := by
  intro n
  induction n with
  | zero =>
    intro s0 x3 x5 k h hk
    rw [f_X8_isSo_L54] at h
    cases h
  | succ n ih =>
    intro s0 x3 x5 k h hk
    rw [f_X8_isSo_L54] at h
    refine AW.iload dX8_isSo_54 rfl ?_
    refine AW.iload_n dX8_isSo_56 rfl ?_
    refine AW.icmp_ge 103 dX8_isSo_57 (by decide) h (fun c15 h => ?_) (fun c15 h => ?_)
    · exact AW.fewer (L' := [none, none, none, none, none, none]) (trivial) (hk _ h)
    · refine AW.aload_n dX8_isSo_60 rfl ?_
      refine AW.aload_n dX8_isSo_61 rfl ?_
      refine AW.tgR (k := 68) dX8_isSo_62 (Nat.le_of_ble_eq_true rfl) (fun _ => rfl) q1608 rfl ia68 ?_
      refine AW.iload dX8_isSo_65 rfl ?_
      refine AW.tiald (k := 68) dX8_isSo_67 ia68 (Nat.le_of_ble_eq_true rfl) rfl h (fun v8 h => ?_)
      refine AW.aload_n dX8_isSo_68 rfl ?_
      refine AW.tgR (k := 69) dX8_isSo_69 (Nat.le_of_ble_eq_true rfl) (fun _ => rfl) q1609 rfl ia69 ?_
      refine AW.iload dX8_isSo_72 rfl ?_
      refine AW.tiald (k := 69) dX8_isSo_74 ia69 (Nat.le_of_ble_eq_true rfl) rfl h (fun v9 h => ?_)
      refine AW.aload_n dX8_isSo_75 rfl ?_
      refine AW.tgR (k := 70) dX8_isSo_76 (Nat.le_of_ble_eq_true rfl) (fun _ => rfl) q1610 rfl ia70 ?_
      refine AW.iload dX8_isSo_79 rfl ?_
      refine AW.tiald (k := 70) dX8_isSo_81 ia70 (Nat.le_of_ble_eq_true rfl) rfl h (fun v10 h => ?_)
      refine AW.tVI (M' := m_X8_isSeenIn) [iV v8, iV v9, iV v10] [] dX8_isSo_82 q2099 q2101 qs113 q139 q2102 rfl n_X8_isSeenIn rfl rfl rfl (fun _ _ e => c_X8_isSeenIn e) h (fun v12 s11 h => ?_)
      refine AW.aload_n dX8_isSo_85 rfl ?_
      refine AW.tgR (k := 71) dX8_isSo_86 (Nat.le_of_ble_eq_true rfl) (fun _ => rfl) q1611 rfl ia71 ?_
      refine AW.iload dX8_isSo_89 rfl ?_
      refine AW.tzald (k := 71) dX8_isSo_91 ia71 (Nat.le_of_ble_eq_true rfl) rfl h (fun v13 h => ?_)
      refine AW.icmp_eq 97 dX8_isSo_92 (by decide) h (fun c14 h => ?_) (fun c14 h => ?_)
      · refine AW.iinc (L' := [some (rV (some b)), none, none, some (iV x3), none, some (iV (x5 + 1))]) dX8_isSo_97 rfl (Nat.le_of_ble_eq_true rfl) rfl rfl ?_
        refine AW.goto (tgt := 54) dX8_isSo_100 (by decide) ?_
        exact ih _ _ _ _ h hk
      · refine AW.iconst dX8_isSo_95 ?_
        cases h
        exact AW.zret (z := 0) dX8_isSo_96 rfl zz0
def f_X8_isSo (s0 : TW) (x1 : Int) (x2 : Int) (x3 : Int) : Option (Int × TW) :=
  bt_ (f_X8_beginsWith s0 x1 x2) fun _ s1 => f_X8_isSo_L12 FU s1 x3 0 0 (fun s6 x3 x4 => bt_ (f_X8_goesTill s6 x4) fun _ s7 => f_X8_isSo_L54 FU s7 x3 0 (fun s16 => some (1, s16)))
theorem w_X8_isSo {b : Nat} {σ σ0 : Hp} {w : Int × TW} (s0 : TW) (x1 : Int) (x2 : Int) (x3 : Int) (h : f_X8_isSo s0 x1 x2 x3 = some w) : AW m_X8_isSo σ0 (tI b σ w) 0 [some (rV (some b)), some (iV x1), some (iV x2), some (iV x3), none, none] [] (insT b s0 σ) := by
  unfold f_X8_isSo at h
  refine AW.aload_n dX8_isSo_0 rfl ?_
  refine AW.iload_n dX8_isSo_1 rfl ?_
  refine AW.iload_n dX8_isSo_2 rfl ?_
  refine AW.tVU (M' := m_X8_beginsWith) [iV x1, iV x2] [] dX8_isSo_3 q1502 q1504 qs55 q139 q1505 rfl n_X8_beginsWith rfl rfl rfl (fun _ _ e => c_X8_beginsWith e) h (fun _ s1 h => ?_)
  refine AW.iconst dX8_isSo_6 ?_
  refine AW.istore (L' := [some (rV (some b)), some (iV x1), some (iV x2), some (iV x3), some (iV 0), none]) dX8_isSo_7 (Nat.le_of_ble_eq_true rfl) rfl rfl ?_
  refine AW.iconst dX8_isSo_9 ?_
  refine AW.istore (L' := [some (rV (some b)), some (iV x1), some (iV x2), some (iV x3), some (iV 0), some (iV 0)]) dX8_isSo_10 (Nat.le_of_ble_eq_true rfl) rfl rfl ?_
  refine AW.fewer (L' := [some (rV (some b)), none, none, some (iV x3), some (iV 0), some (iV 0)]) (And.intro rfl (And.intro rfl (And.intro rfl (And.intro rfl trivial)))) ?_
  refine w_X8_isSo_L12 _ _ _ _ _ _ h (fun s6 x3 x4 h => ?_)
  refine AW.aload_n dX8_isSo_45 rfl ?_
  refine AW.iload dX8_isSo_46 rfl ?_
  refine AW.tVU (M' := m_X8_goesTill) [iV x4] [] dX8_isSo_48 q1936 q1938 qs97 q139 q1939 rfl n_X8_goesTill rfl rfl rfl (fun _ _ e => c_X8_goesTill e) h (fun _ s7 h => ?_)
  refine AW.iconst dX8_isSo_51 ?_
  refine AW.istore (L' := [some (rV (some b)), none, none, some (iV x3), some (iV x4), some (iV 0)]) dX8_isSo_52 (Nat.le_of_ble_eq_true rfl) rfl rfl ?_
  refine AW.fewer (L' := [some (rV (some b)), none, none, some (iV x3), none, some (iV 0)]) (And.intro rfl (And.intro rfl (And.intro rfl trivial))) ?_
  refine w_X8_isSo_L54 _ _ _ _ _ h (fun s16 h => ?_)
  refine AW.iconst dX8_isSo_103 ?_
  cases h
  exact AW.zret (z := 1) dX8_isSo_104 rfl zz1
theorem c_X8_isSo {b : Nat} {σ : Hp} {s0 : TW} {x1 : Int} {x2 : Int} {x3 : Int} {v : Int} {s1 : TW} (h : f_X8_isSo s0 x1 x2 x3 = some (v, s1)) : Ct m_X8_isSo [rV (some b), iV x1, iV x2, iV x3] (insT b s0 σ) (.inl (some (iV v)), insT b s1 σ) :=
  Ct.of2 (w_X8_isSo s0 x1 x2 x3 h) (by decide) rfl rfl rfl
abbrev m_X8_began : Mi := (yX8_began, cX8_began, (some .int), 6, 7, 167, [])
theorem n_X8_began : nameOk yX8_began 3 := ⟨by decide, by decide, by decide +kernel⟩
def f_X8_began_L33 : Nat → TW → Int → Int → Int → Int → Int → (TW → Int → Int → Option (Int × TW)) → Option (Int × TW)
  | 0, _, _, _, _, _, _, _ => none
  | n + 1, s0, x1, x2, x3, x4, x5, k => (ta s0 24 (s0.1 18)).bind fun v5 => (if nrm v5 ≤ nrm x5 then (k s0 x3 x4) else (bt_ (f_X8_isSo s0 x1 x5 x2) fun v7 s6 => (if ¬ nrm v7 = 0 then ((if ¬ nrm x4 = nrm x3 then (f_X8_began_L33 n s6 x1 x2 x3 (x4 + 1) (x5 + 1) k) else (some (nrm x5, s6)))) else (f_X8_began_L33 n s6 x1 x2 x3 x4 (x5 + 1) k))))
theorem w_X8_began_L33 {b : Nat} {σ σ0 : Hp} {w : Int × TW} : ∀ (n : Nat) (s0 : TW) (x1 : Int) (x2 : Int) (x3 : Int) (x4 : Int) (x5 : Int) (k : (TW → Int → Int → Option (Int × TW))), f_X8_began_L33 n s0 x1 x2 x3 x4 x5 k = some w → (∀ (s1 : TW) (x3 : Int) (x4 : Int), k s1 x3 x4 = some w → AW m_X8_began σ0 (tI b σ w) 79 [none, none, none, some (iV x3), some (iV x4), none] [] (insT b s1 σ)) → AW m_X8_began σ0 (tI b σ w) 33 [some (rV (some b)), some (iV x1), some (iV x2), some (iV x3), some (iV x4), some (iV x5)] [] (insT b s0 σ) := by
  intro n
  induction n with
  | zero =>
    intro s0 x1 x2 x3 x4 x5 k h hk
    rw [f_X8_began_L33] at h
    cases h
  | succ n ih =>
    intro s0 x1 x2 x3 x4 x5 k h hk
    rw [f_X8_began_L33] at h
    refine AW.iload dX8_began_33 rfl ?_
    refine AW.aload_n dX8_began_35 rfl ?_
    refine AW.tgR (k := 24) dX8_began_36 (Nat.le_of_ble_eq_true rfl) (fun _ => rfl) q1564 rfl ia24 ?_
    refine AW.aload_n dX8_began_39 rfl ?_
    refine AW.tgI (k := 18) dX8_began_40 (Nat.le_of_ble_eq_true rfl) (fun _ => rfl) q1558 rfl ?_
    refine AW.tiald (k := 24) dX8_began_43 ia24 (Nat.le_of_ble_eq_true rfl) rfl h (fun v5 h => ?_)
    refine AW.icmp_ge 79 dX8_began_44 (by decide) h (fun c10 h => ?_) (fun c10 h => ?_)
    · exact AW.fewer (L' := [none, none, none, some (iV x3), some (iV x4), none]) (And.intro rfl (And.intro rfl trivial)) (hk _ _ _ h)
    · refine AW.aload_n dX8_began_47 rfl ?_
      refine AW.iload_n dX8_began_48 rfl ?_
      refine AW.iload dX8_began_49 rfl ?_
      refine AW.iload_n dX8_began_51 rfl ?_
      refine AW.tVI (M' := m_X8_isSo) [iV x1, iV x5, iV x2] [] dX8_began_52 q2167 q2169 qs119 q139 q2170 rfl n_X8_isSo rfl rfl rfl (fun _ _ e => c_X8_isSo e) h (fun v7 s6 h => ?_)
      refine AW.if_ne 61 dX8_began_55 (by decide) h (fun c9 h => ?_) (fun c9 h => ?_)
      · refine AW.iload dX8_began_61 rfl ?_
        refine AW.iload_n dX8_began_63 rfl ?_
        refine AW.icmp_ne 70 dX8_began_64 (by decide) h (fun c8 h => ?_) (fun c8 h => ?_)
        · refine AW.iinc (L' := [some (rV (some b)), some (iV x1), some (iV x2), some (iV x3), some (iV (x4 + 1)), some (iV x5)]) dX8_began_70 rfl (Nat.le_of_ble_eq_true rfl) rfl rfl ?_
          refine AW.iinc (L' := [some (rV (some b)), some (iV x1), some (iV x2), some (iV x3), some (iV (x4 + 1)), some (iV (x5 + 1))]) dX8_began_73 rfl (Nat.le_of_ble_eq_true rfl) rfl rfl ?_
          refine AW.goto (tgt := 33) dX8_began_76 (by decide) ?_
          exact ih _ _ _ _ _ _ _ h hk
        · refine AW.iload dX8_began_67 rfl ?_
          refine AW.nv ?_
          cases h
          exact AW.iret dX8_began_69 rfl
      · refine AW.goto (tgt := 73) dX8_began_58 (by decide) ?_
        refine AW.iinc (L' := [some (rV (some b)), some (iV x1), some (iV x2), some (iV x3), some (iV x4), some (iV (x5 + 1))]) dX8_began_73 rfl (Nat.le_of_ble_eq_true rfl) rfl rfl ?_
        refine AW.goto (tgt := 33) dX8_began_76 (by decide) ?_
        exact ih _ _ _ _ _ _ _ h hk
def f_X8_began (s0 : TW) (x1 : Int) (x2 : Int) (x3 : Int) : Option (Int × TW) :=
  bt_ (f_X8_isMan s0 x1) fun v2 s1 => (if nrm v2 = 0 then (some ((-1), s1)) else (bt_ (f_X8_in s1 x2 0 (s1.1 67)) fun v4 s3 => (if nrm v4 = 0 then (some ((-1), s3)) else ((if nrm (-1) ≤ nrm x3 then (f_X8_began_L33 FU s3 x1 x2 x3 0 0 (fun s11 x3 x4 => (if ¬ nrm x3 = nrm (-1) then (some ((-1), s11)) else (some (nrm x4, s11))))) else (some ((-1), s3)))))))
theorem w_X8_began {b : Nat} {σ σ0 : Hp} {w : Int × TW} (s0 : TW) (x1 : Int) (x2 : Int) (x3 : Int) (h : f_X8_began s0 x1 x2 x3 = some w) : AW m_X8_began σ0 (tI b σ w) 0 [some (rV (some b)), some (iV x1), some (iV x2), some (iV x3), none, none] [] (insT b s0 σ) := by
  unfold f_X8_began at h
  refine AW.aload_n dX8_began_0 rfl ?_
  refine AW.iload_n dX8_began_1 rfl ?_
  refine AW.tVI (M' := m_X8_isMan) [iV x1] [] dX8_began_2 q1893 q1895 qs89 q139 q1896 rfl n_X8_isMan rfl rfl rfl (fun _ _ e => c_X8_isMan e) h (fun v2 s1 h => ?_)
  refine AW.if_eq 25 dX8_began_5 (by decide) h (fun c15 h => ?_) (fun c15 h => ?_)
  · refine AW.iconst dX8_began_25 ?_
    cases h
    exact AW.iret dX8_began_26 rfl
  · refine AW.iload_n dX8_began_8 rfl ?_
    refine AW.iconst dX8_began_9 ?_
    refine AW.aload_n dX8_began_10 rfl ?_
    refine AW.tgI (k := 67) dX8_began_11 (Nat.le_of_ble_eq_true rfl) (fun _ => rfl) q1607 rfl ?_
    refine AW.tSI (M' := m_X8_in) [iV x2, iV 0, iV (s1.1 67)] [] dX8_began_14 q1897 q1898 q139 q1899 n_X8_in rfl rfl rfl (fun _ _ e => c_X8_in e) h (fun v4 s3 h => ?_)
    refine AW.if_eq 25 dX8_began_17 (by decide) h (fun c14 h => ?_) (fun c14 h => ?_)
    · refine AW.iconst dX8_began_25 ?_
      cases h
      exact AW.iret dX8_began_26 rfl
    · refine AW.iload_n dX8_began_20 rfl ?_
      refine AW.iconst dX8_began_21 ?_
      refine AW.icmp_ge 27 dX8_began_22 (by decide) h (fun c13 h => ?_) (fun c13 h => ?_)
      · refine AW.iconst dX8_began_27 ?_
        refine AW.istore (L' := [some (rV (some b)), some (iV x1), some (iV x2), some (iV x3), some (iV 0), none]) dX8_began_28 (Nat.le_of_ble_eq_true rfl) rfl rfl ?_
        refine AW.iconst dX8_began_30 ?_
        refine AW.istore (L' := [some (rV (some b)), some (iV x1), some (iV x2), some (iV x3), some (iV 0), some (iV 0)]) dX8_began_31 (Nat.le_of_ble_eq_true rfl) rfl rfl ?_
        refine w_X8_began_L33 _ _ _ _ _ _ _ _ h (fun s11 x3 x4 h => ?_)
        refine AW.iload_n dX8_began_79 rfl ?_
        refine AW.iconst dX8_began_80 ?_
        refine AW.icmp_ne 89 dX8_began_81 (by decide) h (fun c12 h => ?_) (fun c12 h => ?_)
        · refine AW.iconst dX8_began_89 ?_
          cases h
          exact AW.iret dX8_began_90 rfl
        · refine AW.iload dX8_began_84 rfl ?_
          refine AW.goto (tgt := 90) dX8_began_86 (by decide) ?_
          refine AW.nv ?_
          cases h
          exact AW.iret dX8_began_90 rfl
      · refine AW.iconst dX8_began_25 ?_
        cases h
        exact AW.iret dX8_began_26 rfl
theorem c_X8_began {b : Nat} {σ : Hp} {s0 : TW} {x1 : Int} {x2 : Int} {x3 : Int} {v : Int} {s1 : TW} (h : f_X8_began s0 x1 x2 x3 = some (v, s1)) : Ct m_X8_began [rV (some b), iV x1, iV x2, iV x3] (insT b s0 σ) (.inl (some (iV v)), insT b s1 σ) :=
  Ct.of2 (w_X8_began s0 x1 x2 x3 h) (by decide) rfl rfl rfl
abbrev m_X8_begins : Mi := (yX8_begins, cX8_begins, none, 1, 5, 121, [])
theorem n_X8_begins : nameOk yX8_begins 0 := ⟨by decide, by decide, by decide +kernel⟩
def f_X8_begins (s0 : TW) : Option (Unit × TW) :=
  bt_ (f_X8_beginsWith s0 (-1) (-1)) fun _ s1 => some ((), s1)
theorem w_X8_begins {b : Nat} {σ σ0 : Hp} {w : Unit × TW} (s0 : TW) (h : f_X8_begins s0 = some w) : AW m_X8_begins σ0 (tU b σ w) 0 [some (rV (some b))] [] (insT b s0 σ) := by
  unfold f_X8_begins at h
  refine AW.aload_n dX8_begins_0 rfl ?_
  refine AW.iconst dX8_begins_1 ?_
  refine AW.iconst dX8_begins_2 ?_
  refine AW.tVU (M' := m_X8_beginsWith) [iV (-1), iV (-1)] [] dX8_begins_3 q1502 q1504 qs55 q139 q1505 rfl n_X8_beginsWith rfl rfl rfl (fun _ _ e => c_X8_beginsWith e) h (fun _ s1 h => ?_)
  cases h
  exact AW.vret dX8_begins_6 rfl
theorem c_X8_begins {b : Nat} {σ : Hp} {s0 : TW} {v : Unit} {s1 : TW} (h : f_X8_begins s0 = some (v, s1)) : Ct m_X8_begins [rV (some b)] (insT b s0 σ) (.inl none, insT b s1 σ) :=
  Ct.of2 (w_X8_begins s0 h) (by decide) rfl rfl rfl
abbrev m_X8_is : Mi := (yX8_is, cX8_is, (some .boolean), 2, 0, 0, [])
theorem n_X8_is : nameOk yX8_is 1 := ⟨by decide, by decide, by decide +kernel⟩
def f_X8_is (s0 : TW) (x1 : Int) : Option (Int × TW) :=
  (if ¬ nrm (s0.1 13) = 0 then (some (0, s0)) else ((ta s0 5 (s0.1 11)).bind fun v1 => (if ¬ nrm v1 = nrm x1 then (some (0, s0)) else (some (1, s0)))))
theorem w_X8_is {b : Nat} {σ σ0 : Hp} {w : Int × TW} (s0 : TW) (x1 : Int) (h : f_X8_is s0 x1 = some w) : AW m_X8_is σ0 (tI b σ w) 0 [some (rV (some b)), some (iV x1)] [] (insT b s0 σ) := by
  unfold f_X8_is at h
  refine AW.aload_n dX8_is_0 rfl ?_
  refine AW.tgI (k := 13) dX8_is_1 (Nat.le_of_ble_eq_true rfl) (fun _ => rfl) q1553 rfl ?_
  refine AW.if_ne 24 dX8_is_4 (by decide) h (fun c3 h => ?_) (fun c3 h => ?_)
  · refine AW.iconst dX8_is_24 ?_
    cases h
    exact AW.zret (z := 0) dX8_is_25 rfl zz0
  · refine AW.aload_n dX8_is_7 rfl ?_
    refine AW.tgR (k := 5) dX8_is_8 (Nat.le_of_ble_eq_true rfl) (fun _ => rfl) q1545 rfl ia5 ?_
    refine AW.aload_n dX8_is_11 rfl ?_
    refine AW.tgI (k := 11) dX8_is_12 (Nat.le_of_ble_eq_true rfl) (fun _ => rfl) q1551 rfl ?_
    refine AW.tiald (k := 5) dX8_is_15 ia5 (Nat.le_of_ble_eq_true rfl) rfl h (fun v1 h => ?_)
    refine AW.iload_n dX8_is_16 rfl ?_
    refine AW.icmp_ne 24 dX8_is_17 (by decide) h (fun c2 h => ?_) (fun c2 h => ?_)
    · refine AW.iconst dX8_is_24 ?_
      cases h
      exact AW.zret (z := 0) dX8_is_25 rfl zz0
    · refine AW.iconst dX8_is_20 ?_
      refine AW.goto (tgt := 25) dX8_is_21 (by decide) ?_
      cases h
      exact AW.zret (z := 1) dX8_is_25 rfl zz1
theorem c_X8_is {b : Nat} {σ : Hp} {s0 : TW} {x1 : Int} {v : Int} {s1 : TW} (h : f_X8_is s0 x1 = some (v, s1)) : Ct m_X8_is [rV (some b), iV x1] (insT b s0 σ) (.inl (some (iV v)), insT b s1 σ) :=
  Ct.of2 (w_X8_is s0 x1 h) (by decide) rfl rfl rfl
abbrev m_X8_fail : Mi := (yX8_fail, cX8_fail, none, 2, 0, 0, [])
theorem n_X8_fail : nameOk yX8_fail 1 := ⟨by decide, by decide, by decide +kernel⟩
def f_X8_fail (s0 : TW) (x1 : Int) : Option (Unit × TW) :=
  (if nrm (s0.1 13) ≤ 0 then (bd (tp s0 13 (nrm x1)) fun s1 => (ta s1 6 (s1.1 11)).bind fun v2 => bd (tp s1 14 v2) fun s3 => some ((), s3)) else (some ((), s0)))
theorem w_X8_fail {b : Nat} {σ σ0 : Hp} {w : Unit × TW} (s0 : TW) (x1 : Int) (h : f_X8_fail s0 x1 = some w) : AW m_X8_fail σ0 (tU b σ w) 0 [some (rV (some b)), some (iV x1)] [] (insT b s0 σ) := by
  unfold f_X8_fail at h
  refine AW.aload_n dX8_fail_0 rfl ?_
  refine AW.tgI (k := 13) dX8_fail_1 (Nat.le_of_ble_eq_true rfl) (fun _ => rfl) q1553 rfl ?_
  refine AW.if_le 8 dX8_fail_4 (by decide) h (fun c4 h => ?_) (fun c4 h => ?_)
  · refine AW.aload_n dX8_fail_8 rfl ?_
    refine AW.iload_n dX8_fail_9 rfl ?_
    refine AW.nv ?_
    refine AW.tpB (k := 13) dX8_fail_10 (Nat.le_of_ble_eq_true rfl) rfl q1553 rfl rfl h (fun s1 h => ?_)
    refine AW.aload_n dX8_fail_13 rfl ?_
    refine AW.aload_n dX8_fail_14 rfl ?_
    refine AW.tgR (k := 6) dX8_fail_15 (Nat.le_of_ble_eq_true rfl) (fun _ => rfl) q1546 rfl ia6 ?_
    refine AW.aload_n dX8_fail_18 rfl ?_
    refine AW.tgI (k := 11) dX8_fail_19 (Nat.le_of_ble_eq_true rfl) (fun _ => rfl) q1551 rfl ?_
    refine AW.tiald (k := 6) dX8_fail_22 ia6 (Nat.le_of_ble_eq_true rfl) rfl h (fun v2 h => ?_)
    refine AW.tpB (k := 14) dX8_fail_23 (Nat.le_of_ble_eq_true rfl) rfl q1554 rfl rfl h (fun s3 h => ?_)
    cases h
    exact AW.vret dX8_fail_26 rfl
  · cases h
    exact AW.vret dX8_fail_7 rfl
theorem c_X8_fail {b : Nat} {σ : Hp} {s0 : TW} {x1 : Int} {v : Unit} {s1 : TW} (h : f_X8_fail s0 x1 = some (v, s1)) : Ct m_X8_fail [rV (some b), iV x1] (insT b s0 σ) (.inl none, insT b s1 σ) :=
  Ct.of2 (w_X8_fail s0 x1 h) (by decide) rfl rfl rfl
abbrev m_X8_wrong : Mi := (yX8_wrong, cX8_wrong, none, 4, 0, 0, [])
theorem n_X8_wrong : nameOk yX8_wrong 2 := ⟨by decide, by decide, by decide +kernel⟩
def f_X8_wrong (s0 : TW) (x1 : Int) (x2 : Int) : Option (Unit × TW) :=
  (ta s0 6 x2).bind fun v1 => (if 0 < nrm (s0.1 13) then (some ((), s0)) else (jn (fun (s2 : TW) (x1 : Int) (x3 : Int) => bd (tp s2 15 (nrm x1)) fun s3 => bd (tp s3 16 (nrm x3)) fun s4 => some ((), s4)) fun j46 => (if nrm (s0.1 15) = 0 then (j46 s0 x1 v1) else ((if nrm (s0.1 16) < nrm v1 then (some ((), s0)) else ((if ¬ nrm v1 = nrm (s0.1 16) then (j46 s0 x1 v1) else ((if nrm x1 < nrm (s0.1 15) then (j46 s0 x1 v1) else (some ((), s0)))))))))))
theorem w_X8_wrong {b : Nat} {σ σ0 : Hp} {w : Unit × TW} (s0 : TW) (x1 : Int) (x2 : Int) (h : f_X8_wrong s0 x1 x2 = some w) : AW m_X8_wrong σ0 (tU b σ w) 0 [some (rV (some b)), some (iV x1), some (iV x2), none] [] (insT b s0 σ) := by
  unfold f_X8_wrong at h
  refine AW.aload_n dX8_wrong_0 rfl ?_
  refine AW.tgR (k := 6) dX8_wrong_1 (Nat.le_of_ble_eq_true rfl) (fun _ => rfl) q1546 rfl ia6 ?_
  refine AW.iload_n dX8_wrong_4 rfl ?_
  refine AW.tiald (k := 6) dX8_wrong_5 ia6 (Nat.le_of_ble_eq_true rfl) rfl h (fun v1 h => ?_)
  refine AW.istore_n (L' := [some (rV (some b)), some (iV x1), some (iV x2), some (iV v1)]) dX8_wrong_6 (Nat.le_of_ble_eq_true rfl) rfl rfl ?_
  refine AW.aload_n dX8_wrong_7 rfl ?_
  refine AW.tgI (k := 13) dX8_wrong_8 (Nat.le_of_ble_eq_true rfl) (fun _ => rfl) q1553 rfl ?_
  refine AW.if_gt 45 dX8_wrong_11 (by decide) h (fun c9 h => ?_) (fun c9 h => ?_)
  · cases h
    exact AW.vret dX8_wrong_45 rfl
  · refine AW.aload_n dX8_wrong_14 rfl ?_
    refine AW.tgI (k := 15) dX8_wrong_15 (Nat.le_of_ble_eq_true rfl) (fun _ => rfl) q1555 rfl ?_
    refine jn_elim h (fun (j : (TW → Int → Int → Option (Unit × TW))) => ∀ (s2 : TW) (x1 : Int) (x3 : Int), j s2 x1 x3 = some w → AW m_X8_wrong σ0 (tU b σ w) 46 [some (rV (some b)), some (iV x1), none, some (iV x3)] [] (insT b s2 σ)) ?_ (fun j46 hj46 h => ?_)
    · intro s2 x1 x3 h
      refine AW.aload_n dX8_wrong_46 rfl ?_
      refine AW.iload_n dX8_wrong_47 rfl ?_
      refine AW.nv ?_
      refine AW.tpB (k := 15) dX8_wrong_48 (Nat.le_of_ble_eq_true rfl) rfl q1555 rfl rfl h (fun s3 h => ?_)
      refine AW.aload_n dX8_wrong_51 rfl ?_
      refine AW.iload_n dX8_wrong_52 rfl ?_
      refine AW.nv ?_
      refine AW.tpB (k := 16) dX8_wrong_53 (Nat.le_of_ble_eq_true rfl) rfl q1556 rfl rfl h (fun s4 h => ?_)
      cases h
      exact AW.vret dX8_wrong_56 rfl
    · refine AW.if_eq 46 dX8_wrong_18 (by decide) h (fun c8 h => ?_) (fun c8 h => ?_)
      · exact AW.fewer (L' := [some (rV (some b)), some (iV x1), none, some (iV v1)]) (And.intro rfl (And.intro rfl (And.intro rfl trivial))) (hj46 _ _ _ h)
      · refine AW.iload_n dX8_wrong_21 rfl ?_
        refine AW.aload_n dX8_wrong_22 rfl ?_
        refine AW.tgI (k := 16) dX8_wrong_23 (Nat.le_of_ble_eq_true rfl) (fun _ => rfl) q1556 rfl ?_
        refine AW.icmp_gt 45 dX8_wrong_26 (by decide) h (fun c7 h => ?_) (fun c7 h => ?_)
        · cases h
          exact AW.vret dX8_wrong_45 rfl
        · refine AW.iload_n dX8_wrong_29 rfl ?_
          refine AW.aload_n dX8_wrong_30 rfl ?_
          refine AW.tgI (k := 16) dX8_wrong_31 (Nat.le_of_ble_eq_true rfl) (fun _ => rfl) q1556 rfl ?_
          refine AW.icmp_ne 46 dX8_wrong_34 (by decide) h (fun c6 h => ?_) (fun c6 h => ?_)
          · exact AW.fewer (L' := [some (rV (some b)), some (iV x1), none, some (iV v1)]) (And.intro rfl (And.intro rfl (And.intro rfl trivial))) (hj46 _ _ _ h)
          · refine AW.iload_n dX8_wrong_37 rfl ?_
            refine AW.aload_n dX8_wrong_38 rfl ?_
            refine AW.tgI (k := 15) dX8_wrong_39 (Nat.le_of_ble_eq_true rfl) (fun _ => rfl) q1555 rfl ?_
            refine AW.icmp_lt 46 dX8_wrong_42 (by decide) h (fun c5 h => ?_) (fun c5 h => ?_)
            · exact AW.fewer (L' := [some (rV (some b)), some (iV x1), none, some (iV v1)]) (And.intro rfl (And.intro rfl (And.intro rfl trivial))) (hj46 _ _ _ h)
            · cases h
              exact AW.vret dX8_wrong_45 rfl
theorem c_X8_wrong {b : Nat} {σ : Hp} {s0 : TW} {x1 : Int} {x2 : Int} {v : Unit} {s1 : TW} (h : f_X8_wrong s0 x1 x2 = some (v, s1)) : Ct m_X8_wrong [rV (some b), iV x1, iV x2] (insT b s0 σ) (.inl none, insT b s1 σ) :=
  Ct.of2 (w_X8_wrong s0 x1 x2 h) (by decide) rfl rfl rfl
abbrev m_X8_goesOn : Mi := (yX8_goesOn, cX8_goesOn, none, 1, 1, 21, [])
theorem n_X8_goesOn : nameOk yX8_goesOn 0 := ⟨by decide, by decide, by decide +kernel⟩
def f_X8_goesOn (s0 : TW) : Option (Unit × TW) :=
  (if ¬ nrm (s0.1 11) = nrm 400 then (bd (tp s0 11 (nrm ((s0.1 11) + 1))) fun s1 => some ((), s1)) else (bt_ (f_X8_fail s0 2) fun _ s2 => some ((), s2)))
theorem w_X8_goesOn {b : Nat} {σ σ0 : Hp} {w : Unit × TW} (s0 : TW) (h : f_X8_goesOn s0 = some w) : AW m_X8_goesOn σ0 (tU b σ w) 0 [some (rV (some b))] [] (insT b s0 σ) := by
  unfold f_X8_goesOn at h
  refine AW.aload_n dX8_goesOn_0 rfl ?_
  refine AW.tgI (k := 11) dX8_goesOn_1 (Nat.le_of_ble_eq_true rfl) (fun _ => rfl) q1551 rfl ?_
  refine AW.sipush dX8_goesOn_4 (by decide) ?_
  refine AW.icmp_ne 18 dX8_goesOn_7 (by decide) h (fun c3 h => ?_) (fun c3 h => ?_)
  · refine AW.aload_n dX8_goesOn_18 rfl ?_
    refine AW.dupR dX8_goesOn_19 ?_
    refine AW.tgI (k := 11) dX8_goesOn_20 (Nat.le_of_ble_eq_true rfl) (fun _ => rfl) q1551 rfl ?_
    refine AW.iconst dX8_goesOn_23 ?_
    refine AW.iadd dX8_goesOn_24 ?_
    refine AW.nv ?_
    refine AW.tpB (k := 11) dX8_goesOn_25 (Nat.le_of_ble_eq_true rfl) rfl q1551 rfl rfl h (fun s1 h => ?_)
    cases h
    exact AW.vret dX8_goesOn_28 rfl
  · refine AW.aload_n dX8_goesOn_10 rfl ?_
    refine AW.iconst dX8_goesOn_11 ?_
    refine AW.tVU (M' := m_X8_fail) [iV 2] [] dX8_goesOn_12 q1817 q1819 qs72 q139 q1820 rfl n_X8_fail rfl rfl rfl (fun _ _ e => c_X8_fail e) h (fun _ s2 h => ?_)
    refine AW.goto (tgt := 28) dX8_goesOn_15 (by decide) ?_
    cases h
    exact AW.vret dX8_goesOn_28 rfl
theorem c_X8_goesOn {b : Nat} {σ : Hp} {s0 : TW} {v : Unit} {s1 : TW} (h : f_X8_goesOn s0 = some (v, s1)) : Ct m_X8_goesOn [rV (some b)] (insT b s0 σ) (.inl none, insT b s1 σ) :=
  Ct.of2 (w_X8_goesOn s0 h) (by decide) rfl rfl rfl
abbrev m_X8_bounded : Mi := (yX8_bounded, cX8_bounded, (some .int), 4, 2, 41, [])
theorem n_X8_bounded : nameOk yX8_bounded 2 := ⟨by decide, by decide, by decide +kernel⟩
def f_X8_bounded (s0 : TW) (x1 : Int) (x2 : Int) : Option (Int × TW) :=
  jn (fun (s1 : TW) (x1 : Int) => bt_ (f_X8_fail s1 1) fun _ s2 => some (nrm x1, s2)) fun j15 => (if 0 < nrm (s0.1 13) then (j15 s0 x1) else (bt_ (f_X8_is s0 2) fun v4 s3 => (if ¬ nrm v4 = 0 then ((ta s3 7 (s3.1 11)).bind fun v5 => jn (fun (s6 : TW) (x3 : Int) => bt_ (f_X8_goesOn s6) fun _ s7 => some (nrm x3, s7)) fun j51 => jn (fun (s8 : TW) (x3 : Int) => bt_ (f_X8_wrong s8 5 (s8.1 11)) fun _ s9 => j51 s9 x3) fun j42 => (if nrm v5 < nrm x1 then (j42 s3 v5) else ((if nrm v5 ≤ nrm x2 then (j51 s3 v5) else (j42 s3 v5))))) else (j15 s3 x1))))
theorem w_X8_bounded {b : Nat} {σ σ0 : Hp} {w : Int × TW} (s0 : TW) (x1 : Int) (x2 : Int) (h : f_X8_bounded s0 x1 x2 = some w) : AW m_X8_bounded σ0 (tI b σ w) 0 [some (rV (some b)), some (iV x1), some (iV x2), none] [] (insT b s0 σ) := by
  unfold f_X8_bounded at h
  refine AW.aload_n dX8_bounded_0 rfl ?_
  refine AW.tgI (k := 13) dX8_bounded_1 (Nat.le_of_ble_eq_true rfl) (fun _ => rfl) q1553 rfl ?_
  refine jn_elim h (fun (j : (TW → Int → Option (Int × TW))) => ∀ (s1 : TW) (x1 : Int), j s1 x1 = some w → AW m_X8_bounded σ0 (tI b σ w) 15 [some (rV (some b)), some (iV x1), none, none] [] (insT b s1 σ)) ?_ (fun j15 hj15 h => ?_)
  · intro s1 x1 h
    refine AW.aload_n dX8_bounded_15 rfl ?_
    refine AW.iconst dX8_bounded_16 ?_
    refine AW.tVU (M' := m_X8_fail) [iV 1] [] dX8_bounded_17 q1817 q1819 qs72 q139 q1820 rfl n_X8_fail rfl rfl rfl (fun _ _ e => c_X8_fail e) h (fun _ s2 h => ?_)
    refine AW.iload_n dX8_bounded_20 rfl ?_
    refine AW.nv ?_
    cases h
    exact AW.iret dX8_bounded_21 rfl
  · refine AW.if_gt 15 dX8_bounded_4 (by decide) h (fun c13 h => ?_) (fun c13 h => ?_)
    · exact AW.fewer (L' := [some (rV (some b)), some (iV x1), none, none]) (And.intro rfl (And.intro rfl trivial)) (hj15 _ _ h)
    · refine AW.aload_n dX8_bounded_7 rfl ?_
      refine AW.iconst dX8_bounded_8 ?_
      refine AW.tVI (M' := m_X8_is) [iV 2] [] dX8_bounded_9 q1805 q1807 qs69 q139 q1808 rfl n_X8_is rfl rfl rfl (fun _ _ e => c_X8_is e) h (fun v4 s3 h => ?_)
      refine AW.if_ne 22 dX8_bounded_12 (by decide) h (fun c12 h => ?_) (fun c12 h => ?_)
      · refine AW.aload_n dX8_bounded_22 rfl ?_
        refine AW.tgR (k := 7) dX8_bounded_23 (Nat.le_of_ble_eq_true rfl) (fun _ => rfl) q1547 rfl ia7 ?_
        refine AW.aload_n dX8_bounded_26 rfl ?_
        refine AW.tgI (k := 11) dX8_bounded_27 (Nat.le_of_ble_eq_true rfl) (fun _ => rfl) q1551 rfl ?_
        refine AW.tiald (k := 7) dX8_bounded_30 ia7 (Nat.le_of_ble_eq_true rfl) rfl h (fun v5 h => ?_)
        refine AW.istore_n (L' := [some (rV (some b)), some (iV x1), some (iV x2), some (iV v5)]) dX8_bounded_31 (Nat.le_of_ble_eq_true rfl) rfl rfl ?_
        refine AW.iload_n dX8_bounded_32 rfl ?_
        refine AW.iload_n dX8_bounded_33 rfl ?_
        refine jn_elim h (fun (j : (TW → Int → Option (Int × TW))) => ∀ (s6 : TW) (x3 : Int), j s6 x3 = some w → AW m_X8_bounded σ0 (tI b σ w) 51 [some (rV (some b)), none, none, some (iV x3)] [] (insT b s6 σ)) ?_ (fun j51 hj51 h => ?_)
        · intro s6 x3 h
          refine AW.aload_n dX8_bounded_51 rfl ?_
          refine AW.tVU (M' := m_X8_goesOn) [] [] dX8_bounded_52 q1821 q1823 qs73 q139 q1824 rfl n_X8_goesOn rfl rfl rfl (fun _ _ e => c_X8_goesOn e) h (fun _ s7 h => ?_)
          refine AW.iload_n dX8_bounded_55 rfl ?_
          refine AW.nv ?_
          cases h
          exact AW.iret dX8_bounded_56 rfl
        · refine jn_elim h (fun (j : (TW → Int → Option (Int × TW))) => ∀ (s8 : TW) (x3 : Int), j s8 x3 = some w → AW m_X8_bounded σ0 (tI b σ w) 42 [some (rV (some b)), none, none, some (iV x3)] [] (insT b s8 σ)) ?_ (fun j42 hj42 h => ?_)
          · intro s8 x3 h
            refine AW.aload_n dX8_bounded_42 rfl ?_
            refine AW.iconst dX8_bounded_43 ?_
            refine AW.aload_n dX8_bounded_44 rfl ?_
            refine AW.tgI (k := 11) dX8_bounded_45 (Nat.le_of_ble_eq_true rfl) (fun _ => rfl) q1551 rfl ?_
            refine AW.tVU (M' := m_X8_wrong) [iV 5, iV (s8.1 11)] [] dX8_bounded_48 q1833 q1835 qs76 q139 q1836 rfl n_X8_wrong rfl rfl rfl (fun _ _ e => c_X8_wrong e) h (fun _ s9 h => ?_)
            exact hj51 _ _ h
          · refine AW.icmp_lt 42 dX8_bounded_34 (by decide) h (fun c11 h => ?_) (fun c11 h => ?_)
            · exact AW.fewer (L' := [some (rV (some b)), none, none, some (iV v5)]) (And.intro rfl (And.intro rfl trivial)) (hj42 _ _ h)
            · refine AW.iload_n dX8_bounded_37 rfl ?_
              refine AW.iload_n dX8_bounded_38 rfl ?_
              refine AW.icmp_le 51 dX8_bounded_39 (by decide) h (fun c10 h => ?_) (fun c10 h => ?_)
              · exact AW.fewer (L' := [some (rV (some b)), none, none, some (iV v5)]) (And.intro rfl (And.intro rfl trivial)) (hj51 _ _ h)
              · exact AW.fewer (L' := [some (rV (some b)), none, none, some (iV v5)]) (And.intro rfl (And.intro rfl trivial)) (hj42 _ _ h)
      · exact AW.fewer (L' := [some (rV (some b)), some (iV x1), none, none]) (And.intro rfl (And.intro rfl trivial)) (hj15 _ _ h)
theorem c_X8_bounded {b : Nat} {σ : Hp} {s0 : TW} {x1 : Int} {x2 : Int} {v : Int} {s1 : TW} (h : f_X8_bounded s0 x1 x2 = some (v, s1)) : Ct m_X8_bounded [rV (some b), iV x1, iV x2] (insT b s0 σ) (.inl (some (iV v)), insT b s1 σ) :=
  Ct.of2 (w_X8_bounded s0 x1 x2 h) (by decide) rfl rfl rfl
abbrev m_X8_byteAt : Mi := (yX8_byteAt, cX8_byteAt, (some .int), 2, 0, 0, [])
theorem n_X8_byteAt : nameOk yX8_byteAt 1 := ⟨by decide, by decide, by decide +kernel⟩
def f_X8_byteAt (s0 : TW) (x1 : Int) : Option (Int × TW) :=
  (if nrm (s0.1 4) ≤ nrm x1 then (some (0, s0)) else ((ta s0 3 x1).bind fun v1 => some (anI v1 255, s0)))
theorem w_X8_byteAt {b : Nat} {σ σ0 : Hp} {w : Int × TW} (s0 : TW) (x1 : Int) (h : f_X8_byteAt s0 x1 = some w) : AW m_X8_byteAt σ0 (tI b σ w) 0 [some (rV (some b)), some (iV x1)] [] (insT b s0 σ) := by
  unfold f_X8_byteAt at h
  refine AW.iload_n dX8_byteAt_0 rfl ?_
  refine AW.aload_n dX8_byteAt_1 rfl ?_
  refine AW.tgI (k := 4) dX8_byteAt_2 (Nat.le_of_ble_eq_true rfl) (fun _ => rfl) q1544 rfl ?_
  refine AW.icmp_ge 21 dX8_byteAt_5 (by decide) h (fun c2 h => ?_) (fun c2 h => ?_)
  · refine AW.iconst dX8_byteAt_21 ?_
    cases h
    exact AW.iret dX8_byteAt_22 rfl
  · refine AW.aload_n dX8_byteAt_8 rfl ?_
    refine AW.tgR (k := 3) dX8_byteAt_9 (Nat.le_of_ble_eq_true rfl) (fun _ => rfl) q1543 rfl ia3 ?_
    refine AW.iload_n dX8_byteAt_12 rfl ?_
    refine AW.tbald (k := 3) dX8_byteAt_13 ia3 (Nat.le_of_ble_eq_true rfl) rfl h (fun v1 h => ?_)
    refine AW.sipush dX8_byteAt_14 (by decide) ?_
    refine AW.iand dX8_byteAt_17 ?_
    refine AW.goto (tgt := 22) dX8_byteAt_18 (by decide) ?_
    cases h
    exact AW.iret dX8_byteAt_22 rfl
theorem c_X8_byteAt {b : Nat} {σ : Hp} {s0 : TW} {x1 : Int} {v : Int} {s1 : TW} (h : f_X8_byteAt s0 x1 = some (v, s1)) : Ct m_X8_byteAt [rV (some b), iV x1] (insT b s0 σ) (.inl (some (iV v)), insT b s1 σ) :=
  Ct.of2 (w_X8_byteAt s0 x1 h) (by decide) rfl rfl rfl
abbrev m_X8_isMirror : Mi := (yX8_isMirror, cX8_isMirror, (some .boolean), 2, 1, 22, [])
theorem n_X8_isMirror : nameOk yX8_isMirror 1 := ⟨by decide, by decide, by decide +kernel⟩
def f_X8_isMirror (s0 : TW) (x1 : Int) : Option (Int × TW) :=
  (ta s0 31 (s0.1 18)).bind fun v1 => bt_ (f_X8_in s0 x1 0 (v1 - 1)) fun v3 s2 => if nrm v3 = 0 ∨ nrm v3 = 1 then some (v3, s2) else none
theorem w_X8_isMirror {b : Nat} {σ σ0 : Hp} {w : Int × TW} (s0 : TW) (x1 : Int) (h : f_X8_isMirror s0 x1 = some w) : AW m_X8_isMirror σ0 (tI b σ w) 0 [some (rV (some b)), some (iV x1)] [] (insT b s0 σ) := by
  unfold f_X8_isMirror at h
  refine AW.iload_n dX8_isMirror_0 rfl ?_
  refine AW.iconst dX8_isMirror_1 ?_
  refine AW.aload_n dX8_isMirror_2 rfl ?_
  refine AW.tgR (k := 31) dX8_isMirror_3 (Nat.le_of_ble_eq_true rfl) (fun _ => rfl) q1571 rfl ia31 ?_
  refine AW.aload_n dX8_isMirror_6 rfl ?_
  refine AW.tgI (k := 18) dX8_isMirror_7 (Nat.le_of_ble_eq_true rfl) (fun _ => rfl) q1558 rfl ?_
  refine AW.tiald (k := 31) dX8_isMirror_10 ia31 (Nat.le_of_ble_eq_true rfl) rfl h (fun v1 h => ?_)
  refine AW.iconst dX8_isMirror_11 ?_
  refine AW.isub dX8_isMirror_12 ?_
  refine AW.tSI (M' := m_X8_in) [iV x1, iV 0, iV (v1 - 1)] [] dX8_isMirror_13 q1897 q1898 q139 q1899 n_X8_in rfl rfl rfl (fun _ _ e => c_X8_in e) h (fun v3 s2 h => ?_)
  obtain ⟨hz, h⟩ := pz_elim h
  cases h
  exact AW.zret dX8_isMirror_16 rfl hz
theorem c_X8_isMirror {b : Nat} {σ : Hp} {s0 : TW} {x1 : Int} {v : Int} {s1 : TW} (h : f_X8_isMirror s0 x1 = some (v, s1)) : Ct m_X8_isMirror [rV (some b), iV x1] (insT b s0 σ) (.inl (some (iV v)), insT b s1 σ) :=
  Ct.of2 (w_X8_isMirror s0 x1 h) (by decide) rfl rfl rfl
abbrev m_X8_isRoom : Mi := (yX8_isRoom, cX8_isRoom, (some .boolean), 2, 1, 22, [])
theorem n_X8_isRoom : nameOk yX8_isRoom 1 := ⟨by decide, by decide, by decide +kernel⟩
def f_X8_isRoom (s0 : TW) (x1 : Int) : Option (Int × TW) :=
  (ta s0 24 (s0.1 18)).bind fun v1 => bt_ (f_X8_in s0 x1 0 (v1 - 1)) fun v3 s2 => if nrm v3 = 0 ∨ nrm v3 = 1 then some (v3, s2) else none
theorem w_X8_isRoom {b : Nat} {σ σ0 : Hp} {w : Int × TW} (s0 : TW) (x1 : Int) (h : f_X8_isRoom s0 x1 = some w) : AW m_X8_isRoom σ0 (tI b σ w) 0 [some (rV (some b)), some (iV x1)] [] (insT b s0 σ) := by
  unfold f_X8_isRoom at h
  refine AW.iload_n dX8_isRoom_0 rfl ?_
  refine AW.iconst dX8_isRoom_1 ?_
  refine AW.aload_n dX8_isRoom_2 rfl ?_
  refine AW.tgR (k := 24) dX8_isRoom_3 (Nat.le_of_ble_eq_true rfl) (fun _ => rfl) q1564 rfl ia24 ?_
  refine AW.aload_n dX8_isRoom_6 rfl ?_
  refine AW.tgI (k := 18) dX8_isRoom_7 (Nat.le_of_ble_eq_true rfl) (fun _ => rfl) q1558 rfl ?_
  refine AW.tiald (k := 24) dX8_isRoom_10 ia24 (Nat.le_of_ble_eq_true rfl) rfl h (fun v1 h => ?_)
  refine AW.iconst dX8_isRoom_11 ?_
  refine AW.isub dX8_isRoom_12 ?_
  refine AW.tSI (M' := m_X8_in) [iV x1, iV 0, iV (v1 - 1)] [] dX8_isRoom_13 q1897 q1898 q139 q1899 n_X8_in rfl rfl rfl (fun _ _ e => c_X8_in e) h (fun v3 s2 h => ?_)
  obtain ⟨hz, h⟩ := pz_elim h
  cases h
  exact AW.zret dX8_isRoom_16 rfl hz
theorem c_X8_isRoom {b : Nat} {σ : Hp} {s0 : TW} {x1 : Int} {v : Int} {s1 : TW} (h : f_X8_isRoom s0 x1 = some (v, s1)) : Ct m_X8_isRoom [rV (some b), iV x1] (insT b s0 σ) (.inl (some (iV v)), insT b s1 σ) :=
  Ct.of2 (w_X8_isRoom s0 x1 h) (by decide) rfl rfl rfl
abbrev m_X8_nowOf : Mi := (yX8_nowOf, cX8_nowOf, (some .int), 2, 0, 0, [])
theorem n_X8_nowOf : nameOk yX8_nowOf 1 := ⟨by decide, by decide, by decide +kernel⟩
def f_X8_nowOf (s0 : TW) (x1 : Int) : Option (Int × TW) :=
  (ta s0 52 ((36 * (s0.1 53)) + x1)).bind fun v1 => some (v1, s0)
theorem w_X8_nowOf {b : Nat} {σ σ0 : Hp} {w : Int × TW} (s0 : TW) (x1 : Int) (h : f_X8_nowOf s0 x1 = some w) : AW m_X8_nowOf σ0 (tI b σ w) 0 [some (rV (some b)), some (iV x1)] [] (insT b s0 σ) := by
  unfold f_X8_nowOf at h
  refine AW.aload_n dX8_nowOf_0 rfl ?_
  refine AW.tgR (k := 52) dX8_nowOf_1 (Nat.le_of_ble_eq_true rfl) (fun _ => rfl) q1592 rfl ia52 ?_
  refine AW.bipush dX8_nowOf_4 (by decide) ?_
  refine AW.aload_n dX8_nowOf_6 rfl ?_
  refine AW.tgI (k := 53) dX8_nowOf_7 (Nat.le_of_ble_eq_true rfl) (fun _ => rfl) q1593 rfl ?_
  refine AW.imul dX8_nowOf_10 ?_
  refine AW.iload_n dX8_nowOf_11 rfl ?_
  refine AW.iadd dX8_nowOf_12 ?_
  refine AW.tiald (k := 52) dX8_nowOf_13 ia52 (Nat.le_of_ble_eq_true rfl) rfl h (fun v1 h => ?_)
  cases h
  exact AW.iret dX8_nowOf_14 rfl
theorem c_X8_nowOf {b : Nat} {σ : Hp} {s0 : TW} {x1 : Int} {v : Int} {s1 : TW} (h : f_X8_nowOf s0 x1 = some (v, s1)) : Ct m_X8_nowOf [rV (some b), iV x1] (insT b s0 σ) (.inl (some (iV v)), insT b s1 σ) :=
  Ct.of2 (w_X8_nowOf s0 x1 h) (by decide) rfl rfl rfl
abbrev m_X8_carry : Mi := (yX8_carry, cX8_carry, (some .boolean), 3, 5, 120, [])
theorem n_X8_carry : nameOk yX8_carry 2 := ⟨by decide, by decide, by decide +kernel⟩
def f_X8_carry (s0 : TW) (x1 : Int) (x2 : Int) : Option (Int × TW) :=
  bt_ (f_X8_isMirror s0 x1) fun v2 s1 => (if nrm v2 = 0 then (some (0, s1)) else (bt_ (f_X8_isRoom s1 x2) fun v4 s3 => (if nrm v4 = 0 then (some (0, s3)) else (bt_ (f_X8_nowOf s3 (12 + x1)) fun v6 s5 => (if ¬ nrm v6 = nrm x2 then (bt_ (f_X8_becomes s5 (12 + x1) x2) fun _ s7 => some (1, s7)) else (some (0, s5)))))))
theorem w_X8_carry {b : Nat} {σ σ0 : Hp} {w : Int × TW} (s0 : TW) (x1 : Int) (x2 : Int) (h : f_X8_carry s0 x1 x2 = some w) : AW m_X8_carry σ0 (tI b σ w) 0 [some (rV (some b)), some (iV x1), some (iV x2)] [] (insT b s0 σ) := by
  unfold f_X8_carry at h
  refine AW.aload_n dX8_carry_0 rfl ?_
  refine AW.iload_n dX8_carry_1 rfl ?_
  refine AW.tVI (M' := m_X8_isMirror) [iV x1] [] dX8_carry_2 q1908 q1910 qs91 q139 q1911 rfl n_X8_isMirror rfl rfl rfl (fun _ _ e => c_X8_isMirror e) h (fun v2 s1 h => ?_)
  refine AW.if_eq 28 dX8_carry_5 (by decide) h (fun c10 h => ?_) (fun c10 h => ?_)
  · refine AW.iconst dX8_carry_28 ?_
    cases h
    exact AW.zret (z := 0) dX8_carry_29 rfl zz0
  · refine AW.aload_n dX8_carry_8 rfl ?_
    refine AW.iload_n dX8_carry_9 rfl ?_
    refine AW.tVI (M' := m_X8_isRoom) [iV x2] [] dX8_carry_10 q1988 q1990 qs106 q139 q1991 rfl n_X8_isRoom rfl rfl rfl (fun _ _ e => c_X8_isRoom e) h (fun v4 s3 h => ?_)
    refine AW.if_eq 28 dX8_carry_13 (by decide) h (fun c9 h => ?_) (fun c9 h => ?_)
    · refine AW.iconst dX8_carry_28 ?_
      cases h
      exact AW.zret (z := 0) dX8_carry_29 rfl zz0
    · refine AW.aload_n dX8_carry_16 rfl ?_
      refine AW.bipush dX8_carry_17 (by decide) ?_
      refine AW.iload_n dX8_carry_19 rfl ?_
      refine AW.iadd dX8_carry_20 ?_
      refine AW.tVI (M' := m_X8_nowOf) [iV (12 + x1)] [] dX8_carry_21 q1972 q1974 qs104 q139 q1975 rfl n_X8_nowOf rfl rfl rfl (fun _ _ e => c_X8_nowOf e) h (fun v6 s5 h => ?_)
      refine AW.iload_n dX8_carry_24 rfl ?_
      refine AW.icmp_ne 30 dX8_carry_25 (by decide) h (fun c8 h => ?_) (fun c8 h => ?_)
      · refine AW.aload_n dX8_carry_30 rfl ?_
        refine AW.bipush dX8_carry_31 (by decide) ?_
        refine AW.iload_n dX8_carry_33 rfl ?_
        refine AW.iadd dX8_carry_34 ?_
        refine AW.iload_n dX8_carry_35 rfl ?_
        refine AW.tVU (M' := m_X8_becomes) [iV (12 + x1), iV x2] [] dX8_carry_36 q1976 q1978 qs105 q139 q1979 rfl n_X8_becomes rfl rfl rfl (fun _ _ e => c_X8_becomes e) h (fun _ s7 h => ?_)
        refine AW.iconst dX8_carry_39 ?_
        cases h
        exact AW.zret (z := 1) dX8_carry_40 rfl zz1
      · refine AW.iconst dX8_carry_28 ?_
        cases h
        exact AW.zret (z := 0) dX8_carry_29 rfl zz0
theorem c_X8_carry {b : Nat} {σ : Hp} {s0 : TW} {x1 : Int} {x2 : Int} {v : Int} {s1 : TW} (h : f_X8_carry s0 x1 x2 = some (v, s1)) : Ct m_X8_carry [rV (some b), iV x1, iV x2] (insT b s0 σ) (.inl (some (iV v)), insT b s1 σ) :=
  Ct.of2 (w_X8_carry s0 x1 x2 h) (by decide) rfl rfl rfl
abbrev m_X8_emit : Mi := (yX8_emit, cX8_emit, none, 3, 0, 0, [])
theorem n_X8_emit : nameOk yX8_emit 2 := ⟨by decide, by decide, by decide +kernel⟩
def f_X8_emit (s0 : TW) (x1 : Int) (x2 : Int) : Option (Unit × TW) :=
  (ts s0 45 (s0.1 44) (nrm x1)).bind fun s1 => (ts s1 46 (s1.1 44) (nrm x2)).bind fun s2 => bd (tp s2 44 (nrm ((s2.1 44) + 1))) fun s3 => some ((), s3)
theorem w_X8_emit {b : Nat} {σ σ0 : Hp} {w : Unit × TW} (s0 : TW) (x1 : Int) (x2 : Int) (h : f_X8_emit s0 x1 x2 = some w) : AW m_X8_emit σ0 (tU b σ w) 0 [some (rV (some b)), some (iV x1), some (iV x2)] [] (insT b s0 σ) := by
  unfold f_X8_emit at h
  refine AW.aload_n dX8_emit_0 rfl ?_
  refine AW.tgR (k := 45) dX8_emit_1 (Nat.le_of_ble_eq_true rfl) (fun _ => rfl) q1585 rfl ia45 ?_
  refine AW.aload_n dX8_emit_4 rfl ?_
  refine AW.tgI (k := 44) dX8_emit_5 (Nat.le_of_ble_eq_true rfl) (fun _ => rfl) q1584 rfl ?_
  refine AW.iload_n dX8_emit_8 rfl ?_
  refine AW.nv ?_
  refine AW.tiast (k := 45) dX8_emit_9 ia45 (Nat.le_of_ble_eq_true rfl) mt45 rfl h (fun s1 h => ?_)
  refine AW.aload_n dX8_emit_10 rfl ?_
  refine AW.tgR (k := 46) dX8_emit_11 (Nat.le_of_ble_eq_true rfl) (fun _ => rfl) q1586 rfl ia46 ?_
  refine AW.aload_n dX8_emit_14 rfl ?_
  refine AW.tgI (k := 44) dX8_emit_15 (Nat.le_of_ble_eq_true rfl) (fun _ => rfl) q1584 rfl ?_
  refine AW.iload_n dX8_emit_18 rfl ?_
  refine AW.nv ?_
  refine AW.tiast (k := 46) dX8_emit_19 ia46 (Nat.le_of_ble_eq_true rfl) mt46 rfl h (fun s2 h => ?_)
  refine AW.aload_n dX8_emit_20 rfl ?_
  refine AW.dupR dX8_emit_21 ?_
  refine AW.tgI (k := 44) dX8_emit_22 (Nat.le_of_ble_eq_true rfl) (fun _ => rfl) q1584 rfl ?_
  refine AW.iconst dX8_emit_25 ?_
  refine AW.iadd dX8_emit_26 ?_
  refine AW.nv ?_
  refine AW.tpB (k := 44) dX8_emit_27 (Nat.le_of_ble_eq_true rfl) rfl q1584 rfl rfl h (fun s3 h => ?_)
  cases h
  exact AW.vret dX8_emit_30 rfl
theorem c_X8_emit {b : Nat} {σ : Hp} {s0 : TW} {x1 : Int} {x2 : Int} {v : Unit} {s1 : TW} (h : f_X8_emit s0 x1 x2 = some (v, s1)) : Ct m_X8_emit [rV (some b), iV x1, iV x2] (insT b s0 σ) (.inl none, insT b s1 σ) :=
  Ct.of2 (w_X8_emit s0 x1 x2 h) (by decide) rfl rfl rfl
abbrev m_X8_comesOut : Mi := (yX8_comesOut, cX8_comesOut, none, 3, 1, 22, [])
theorem n_X8_comesOut : nameOk yX8_comesOut 1 := ⟨by decide, by decide, by decide +kernel⟩
def f_X8_comesOut_L0 : Nat → TW → Int → (TW → Option (Unit × TW)) → Option (Unit × TW)
  | 0, _, _, _ => none
  | n + 1, s0, x1, k => (if nrm (s0.1 48) ≤ 0 then (k s0) else ((ta s0 47 ((s0.1 48) - 1)).bind fun v1 => (if nrm v1 = nrm 6 then (some ((), s0)) else (jn (fun (s2 : TW) (x1 : Int) (x2 : Int) => bd (tp s2 48 (nrm ((s2.1 48) - 1))) fun s3 => jn (fun (s4 : TW) (x1 : Int) (y1 : Int) => bt_ (f_X8_emit s4 y1 0) fun _ s5 => f_X8_comesOut_L0 n s5 x1 k) fun j84 => (if ¬ nrm x2 = nrm 8 then ((if ¬ nrm x2 = nrm 9 then ((if ¬ nrm x2 = nrm 10 then (j84 s3 x1 5) else (j84 s3 x1 4))) else (j84 s3 x1 3))) else (j84 s3 x1 2))) fun j42 => (if nrm x1 = 0 then (j42 s0 x1 v1) else ((if nrm v1 = nrm 8 then (some ((), s0)) else ((if ¬ nrm v1 = nrm 9 then (j42 s0 x1 v1) else (some ((), s0)))))))))))
theorem w_X8_comesOut_L0 {b : Nat} {σ σ0 : Hp} {w : Unit × TW} : ∀ (n : Nat) (s0 : TW) (x1 : Int) (k : (TW → Option (Unit × TW))), f_X8_comesOut_L0 n s0 x1 k = some w → (∀ (s1 : TW), k s1 = some w → AW m_X8_comesOut σ0 (tU b σ w) 91 [none, none, none] [] (insT b s1 σ)) → AW m_X8_comesOut σ0 (tU b σ w) 0 [some (rV (some b)), some (iV x1), none] [] (insT b s0 σ) := by
  intro n
  induction n with
  | zero =>
    intro s0 x1 k h hk
    rw [f_X8_comesOut_L0] at h
    cases h
  | succ n ih =>
    intro s0 x1 k h hk
    rw [f_X8_comesOut_L0] at h
    refine AW.aload_n dX8_comesOut_0 rfl ?_
    refine AW.tgI (k := 48) dX8_comesOut_1 (Nat.le_of_ble_eq_true rfl) (fun _ => rfl) q1588 rfl ?_
    refine AW.if_le 91 dX8_comesOut_4 (by decide) h (fun c13 h => ?_) (fun c13 h => ?_)
    · exact AW.fewer (L' := [none, none, none]) (trivial) (hk _ h)
    · refine AW.aload_n dX8_comesOut_7 rfl ?_
      refine AW.tgR (k := 47) dX8_comesOut_8 (Nat.le_of_ble_eq_true rfl) (fun _ => rfl) q1587 rfl ia47 ?_
      refine AW.aload_n dX8_comesOut_11 rfl ?_
      refine AW.tgI (k := 48) dX8_comesOut_12 (Nat.le_of_ble_eq_true rfl) (fun _ => rfl) q1588 rfl ?_
      refine AW.iconst dX8_comesOut_15 ?_
      refine AW.isub dX8_comesOut_16 ?_
      refine AW.tiald (k := 47) dX8_comesOut_17 ia47 (Nat.le_of_ble_eq_true rfl) rfl h (fun v1 h => ?_)
      refine AW.istore_n (L' := [some (rV (some b)), some (iV x1), some (iV v1)]) dX8_comesOut_18 (Nat.le_of_ble_eq_true rfl) rfl rfl ?_
      refine AW.iload_n dX8_comesOut_19 rfl ?_
      refine AW.bipush dX8_comesOut_20 (by decide) ?_
      refine AW.icmp_eq 41 dX8_comesOut_22 (by decide) h (fun c12 h => ?_) (fun c12 h => ?_)
      · cases h
        exact AW.vret dX8_comesOut_41 rfl
      · refine AW.iload_n dX8_comesOut_25 rfl ?_
        refine jn_elim h (fun (j : (TW → Int → Int → Option (Unit × TW))) => ∀ (s2 : TW) (x1 : Int) (x2 : Int), j s2 x1 x2 = some w → AW m_X8_comesOut σ0 (tU b σ w) 42 [some (rV (some b)), some (iV x1), some (iV x2)] [] (insT b s2 σ)) ?_ (fun j42 hj42 h => ?_)
        · intro s2 x1 x2 h
          refine AW.aload_n dX8_comesOut_42 rfl ?_
          refine AW.dupR dX8_comesOut_43 ?_
          refine AW.tgI (k := 48) dX8_comesOut_44 (Nat.le_of_ble_eq_true rfl) (fun _ => rfl) q1588 rfl ?_
          refine AW.iconst dX8_comesOut_47 ?_
          refine AW.isub dX8_comesOut_48 ?_
          refine AW.nv ?_
          refine AW.tpB (k := 48) dX8_comesOut_49 (Nat.le_of_ble_eq_true rfl) rfl q1588 rfl rfl h (fun s3 h => ?_)
          refine AW.aload_n dX8_comesOut_52 rfl ?_
          refine AW.iload_n dX8_comesOut_53 rfl ?_
          refine AW.bipush dX8_comesOut_54 (by decide) ?_
          refine jn_elim h (fun (j : (TW → Int → Int → Option (Unit × TW))) => ∀ (s4 : TW) (x1 : Int) (y1 : Int), j s4 x1 y1 = some w → AW m_X8_comesOut σ0 (tU b σ w) 84 [some (rV (some b)), some (iV x1), none] [iV y1, rV (some b)] (insT b s4 σ)) ?_ (fun j84 hj84 h => ?_)
          · intro s4 x1 y1 h
            refine AW.iconst dX8_comesOut_84 ?_
            refine AW.tVU (M' := m_X8_emit) [iV y1, iV 0] [] dX8_comesOut_85 q1869 q1871 qs85 q139 q1872 rfl n_X8_emit rfl rfl rfl (fun _ _ e => c_X8_emit e) h (fun _ s5 h => ?_)
            refine AW.goto (tgt := 0) dX8_comesOut_88 (by decide) ?_
            exact ih _ _ _ h hk
          · refine AW.icmp_ne 63 dX8_comesOut_56 (by decide) h (fun c8 h => ?_) (fun c8 h => ?_)
            · refine AW.iload_n dX8_comesOut_63 rfl ?_
              refine AW.bipush dX8_comesOut_64 (by decide) ?_
              refine AW.icmp_ne 73 dX8_comesOut_66 (by decide) h (fun c7 h => ?_) (fun c7 h => ?_)
              · refine AW.iload_n dX8_comesOut_73 rfl ?_
                refine AW.bipush dX8_comesOut_74 (by decide) ?_
                refine AW.icmp_ne 83 dX8_comesOut_76 (by decide) h (fun c6 h => ?_) (fun c6 h => ?_)
                · refine AW.iconst dX8_comesOut_83 ?_
                  exact AW.fewer (L' := [some (rV (some b)), some (iV x1), none]) (And.intro rfl (And.intro rfl trivial)) (hj84 _ _ _ h)
                · refine AW.iconst dX8_comesOut_79 ?_
                  refine AW.goto (tgt := 84) dX8_comesOut_80 (by decide) ?_
                  exact AW.fewer (L' := [some (rV (some b)), some (iV x1), none]) (And.intro rfl (And.intro rfl trivial)) (hj84 _ _ _ h)
              · refine AW.iconst dX8_comesOut_69 ?_
                refine AW.goto (tgt := 84) dX8_comesOut_70 (by decide) ?_
                exact AW.fewer (L' := [some (rV (some b)), some (iV x1), none]) (And.intro rfl (And.intro rfl trivial)) (hj84 _ _ _ h)
            · refine AW.iconst dX8_comesOut_59 ?_
              refine AW.goto (tgt := 84) dX8_comesOut_60 (by decide) ?_
              exact AW.fewer (L' := [some (rV (some b)), some (iV x1), none]) (And.intro rfl (And.intro rfl trivial)) (hj84 _ _ _ h)
        · refine AW.if_eq 42 dX8_comesOut_26 (by decide) h (fun c11 h => ?_) (fun c11 h => ?_)
          · exact hj42 _ _ _ h
          · refine AW.iload_n dX8_comesOut_29 rfl ?_
            refine AW.bipush dX8_comesOut_30 (by decide) ?_
            refine AW.icmp_eq 41 dX8_comesOut_32 (by decide) h (fun c10 h => ?_) (fun c10 h => ?_)
            · cases h
              exact AW.vret dX8_comesOut_41 rfl
            · refine AW.iload_n dX8_comesOut_35 rfl ?_
              refine AW.bipush dX8_comesOut_36 (by decide) ?_
              refine AW.icmp_ne 42 dX8_comesOut_38 (by decide) h (fun c9 h => ?_) (fun c9 h => ?_)
              · exact hj42 _ _ _ h
              · cases h
                exact AW.vret dX8_comesOut_41 rfl
def f_X8_comesOut (s0 : TW) (x1 : Int) : Option (Unit × TW) :=
  f_X8_comesOut_L0 FU s0 x1 (fun s14 => some ((), s14))
theorem w_X8_comesOut {b : Nat} {σ σ0 : Hp} {w : Unit × TW} (s0 : TW) (x1 : Int) (h : f_X8_comesOut s0 x1 = some w) : AW m_X8_comesOut σ0 (tU b σ w) 0 [some (rV (some b)), some (iV x1), none] [] (insT b s0 σ) := by
  unfold f_X8_comesOut at h
  refine w_X8_comesOut_L0 _ _ _ _ h (fun s14 h => ?_)
  cases h
  exact AW.vret dX8_comesOut_91 rfl
theorem c_X8_comesOut {b : Nat} {σ : Hp} {s0 : TW} {x1 : Int} {v : Unit} {s1 : TW} (h : f_X8_comesOut s0 x1 = some (v, s1)) : Ct m_X8_comesOut [rV (some b), iV x1] (insT b s0 σ) (.inl none, insT b s1 σ) :=
  Ct.of2 (w_X8_comesOut s0 x1 h) (by decide) rfl rfl rfl
abbrev m_X8_count : Mi := (yX8_count, cX8_count, (some .int), 4, 1, 21, [])
theorem n_X8_count : nameOk yX8_count 1 := ⟨by decide, by decide, by decide +kernel⟩
def f_X8_count_L109 : Nat → TW → Int → Int → Int → (TW → Int → Option (Int × TW)) → Option (Int × TW)
  | 0, _, _, _, _, _ => none
  | n + 1, s0, x1, x2, x3, k => (ta s0 31 (s0.1 18)).bind fun v5 => (if nrm v5 ≤ nrm x3 then (k s0 x2) else (jn (fun (s6 : TW) (x1 : Int) (x2 : Int) (x3 : Int) => f_X8_count_L109 n s6 x1 (orI x2 (slI 1 x3)) (x3 + 1) k) fun j152 => (if ¬ nrm x1 = nrm 5 then (bt_ (f_X8_nowOf s0 (20 + x3)) fun v8 s7 => (if ¬ nrm v8 = nrm 1 then (f_X8_count_L109 n s7 x1 x2 (x3 + 1) k) else (j152 s7 x1 x2 x3))) else ((ta s0 54 x3).bind fun v10 => (if nrm v10 = nrm (-1) then (f_X8_count_L109 n s0 x1 x2 (x3 + 1) k) else (j152 s0 x1 x2 x3))))))
theorem w_X8_count_L109 {b : Nat} {σ σ0 : Hp} {w : Int × TW} : ∀ (n : Nat) (s0 : TW) (x1 : Int) (x2 : Int) (x3 : Int) (k : (TW → Int → Option (Int × TW))), f_X8_count_L109 n s0 x1 x2 x3 k = some w → (∀ (s1 : TW) (x2 : Int), k s1 x2 = some w → AW m_X8_count σ0 (tI b σ w) 164 [none, none, some (iV x2), none] [] (insT b s1 σ)) → AW m_X8_count σ0 (tI b σ w) 109 [some (rV (some b)), some (iV x1), some (iV x2), some (iV x3)] [] (insT b s0 σ) := by
  intro n
  induction n with
  | zero =>
    intro s0 x1 x2 x3 k h hk
    rw [f_X8_count_L109] at h
    cases h
  | succ n ih =>
    intro s0 x1 x2 x3 k h hk
    rw [f_X8_count_L109] at h
    refine AW.iload_n dX8_count_109 rfl ?_
    refine AW.aload_n dX8_count_110 rfl ?_
    refine AW.tgR (k := 31) dX8_count_111 (Nat.le_of_ble_eq_true rfl) (fun _ => rfl) q1571 rfl ia31 ?_
    refine AW.aload_n dX8_count_114 rfl ?_
    refine AW.tgI (k := 18) dX8_count_115 (Nat.le_of_ble_eq_true rfl) (fun _ => rfl) q1558 rfl ?_
    refine AW.tiald (k := 31) dX8_count_118 ia31 (Nat.le_of_ble_eq_true rfl) rfl h (fun v5 h => ?_)
    refine AW.icmp_ge 164 dX8_count_119 (by decide) h (fun c13 h => ?_) (fun c13 h => ?_)
    · exact AW.fewer (L' := [none, none, some (iV x2), none]) (And.intro rfl trivial) (hk _ _ h)
    · refine AW.iload_n dX8_count_122 rfl ?_
      refine AW.iconst dX8_count_123 ?_
      refine jn_elim h (fun (j : (TW → Int → Int → Int → Option (Int × TW))) => ∀ (s6 : TW) (x1 : Int) (x2 : Int) (x3 : Int), j s6 x1 x2 x3 = some w → AW m_X8_count σ0 (tI b σ w) 152 [some (rV (some b)), some (iV x1), some (iV x2), some (iV x3)] [] (insT b s6 σ)) ?_ (fun j152 hj152 h => ?_)
      · intro s6 x1 x2 x3 h
        refine AW.iload_n dX8_count_152 rfl ?_
        refine AW.iconst dX8_count_153 ?_
        refine AW.iload_n dX8_count_154 rfl ?_
        refine AW.ishl dX8_count_155 ?_
        refine AW.ior dX8_count_156 ?_
        refine AW.istore_n (L' := [some (rV (some b)), some (iV x1), some (iV (orI x2 (slI 1 x3))), some (iV x3)]) dX8_count_157 (Nat.le_of_ble_eq_true rfl) rfl rfl ?_
        refine AW.iinc (L' := [some (rV (some b)), some (iV x1), some (iV (orI x2 (slI 1 x3))), some (iV (x3 + 1))]) dX8_count_158 rfl (Nat.le_of_ble_eq_true rfl) rfl rfl ?_
        refine AW.goto (tgt := 109) dX8_count_161 (by decide) ?_
        exact ih _ _ _ _ _ h hk
      · refine AW.icmp_ne 140 dX8_count_124 (by decide) h (fun c12 h => ?_) (fun c12 h => ?_)
        · refine AW.aload_n dX8_count_140 rfl ?_
          refine AW.bipush dX8_count_141 (by decide) ?_
          refine AW.iload_n dX8_count_143 rfl ?_
          refine AW.iadd dX8_count_144 ?_
          refine AW.tVI (M' := m_X8_nowOf) [iV (20 + x3)] [] dX8_count_145 q1972 q1974 qs104 q139 q1975 rfl n_X8_nowOf rfl rfl rfl (fun _ _ e => c_X8_nowOf e) h (fun v8 s7 h => ?_)
          refine AW.iconst dX8_count_148 ?_
          refine AW.icmp_ne 158 dX8_count_149 (by decide) h (fun c9 h => ?_) (fun c9 h => ?_)
          · refine AW.iinc (L' := [some (rV (some b)), some (iV x1), some (iV x2), some (iV (x3 + 1))]) dX8_count_158 rfl (Nat.le_of_ble_eq_true rfl) rfl rfl ?_
            refine AW.goto (tgt := 109) dX8_count_161 (by decide) ?_
            exact ih _ _ _ _ _ h hk
          · exact hj152 _ _ _ _ h
        · refine AW.aload_n dX8_count_127 rfl ?_
          refine AW.tgR (k := 54) dX8_count_128 (Nat.le_of_ble_eq_true rfl) (fun _ => rfl) q1594 rfl ia54 ?_
          refine AW.iload_n dX8_count_131 rfl ?_
          refine AW.tiald (k := 54) dX8_count_132 ia54 (Nat.le_of_ble_eq_true rfl) rfl h (fun v10 h => ?_)
          refine AW.iconst dX8_count_133 ?_
          refine AW.icmp_eq 158 dX8_count_134 (by decide) h (fun c11 h => ?_) (fun c11 h => ?_)
          · refine AW.iinc (L' := [some (rV (some b)), some (iV x1), some (iV x2), some (iV (x3 + 1))]) dX8_count_158 rfl (Nat.le_of_ble_eq_true rfl) rfl rfl ?_
            refine AW.goto (tgt := 109) dX8_count_161 (by decide) ?_
            exact ih _ _ _ _ _ h hk
          · refine AW.goto (tgt := 152) dX8_count_137 (by decide) ?_
            exact hj152 _ _ _ _ h
def f_X8_count (s0 : TW) (x1 : Int) : Option (Int × TW) :=
  (if nrm x1 = 0 then ((ta s0 24 (s0.1 18)).bind fun v1 => some (v1, s0)) else (if nrm x1 = 1 then ((ta s0 25 (s0.1 18)).bind fun v2 => some (v2, s0)) else (if nrm x1 = 2 then ((ta s0 28 (s0.1 18)).bind fun v3 => some (v3, s0)) else (if nrm x1 = 3 then ((ta s0 31 (s0.1 18)).bind fun v4 => some (v4, s0)) else (if nrm x1 = 4 then (some (s0.1 53, s0)) else (if nrm x1 = 5 then (f_X8_count_L109 FU s0 x1 0 0 (fun s14 x2 => some (nrm x2, s14))) else (if nrm x1 = 6 then (f_X8_count_L109 FU s0 x1 0 0 (fun s15 x2 => some (nrm x2, s15))) else (if nrm x1 = 7 then (some (s0.1 2, s0)) else (if nrm x1 = 8 then (some (s0.1 61, s0)) else (if nrm x1 = 9 then (some (s0.1 67, s0)) else (if nrm x1 = 10 then ((ta s0 72 0).bind fun v16 => jn (fun (s17 : TW) (y0 : Int) => (ta s17 72 1).bind fun v18 => jn (fun (s19 : TW) (y0 : Int) (y1 : Int) => (ta s19 72 2).bind fun v20 => (if nrm v20 = 0 then (some (nrm ((y0 + y1) + 0), s19)) else (some (nrm ((y0 + y1) + 1), s19)))) fun j209 => (if nrm v18 = 0 then (j209 s17 y0 0) else (j209 s17 y0 1))) fun j195 => (if nrm v16 = 0 then (j195 s0 0) else (j195 s0 1))) else (some ((-1), s0)))))))))))))
theorem w_X8_count {b : Nat} {σ σ0 : Hp} {w : Int × TW} (s0 : TW) (x1 : Int) (h : f_X8_count s0 x1 = some w) : AW m_X8_count σ0 (tI b σ w) 0 [some (rV (some b)), some (iV x1), none, none] [] (insT b s0 σ) := by
  unfold f_X8_count at h
  refine AW.iload_n dX8_count_0 rfl ?_
  rcases ite_or h with ⟨c34, h⟩ | ⟨c34, h⟩
  · refine AW.tIn 0 60 dX8_count_1 (by omega) (by decide) rfl (by decide) ?_
    refine AW.aload_n dX8_count_60 rfl ?_
    refine AW.tgR (k := 24) dX8_count_61 (Nat.le_of_ble_eq_true rfl) (fun _ => rfl) q1564 rfl ia24 ?_
    refine AW.aload_n dX8_count_64 rfl ?_
    refine AW.tgI (k := 18) dX8_count_65 (Nat.le_of_ble_eq_true rfl) (fun _ => rfl) q1558 rfl ?_
    refine AW.tiald (k := 24) dX8_count_68 ia24 (Nat.le_of_ble_eq_true rfl) rfl h (fun v1 h => ?_)
    cases h
    exact AW.iret dX8_count_69 rfl
  · rcases ite_or h with ⟨c33, h⟩ | ⟨c33, h⟩
    · refine AW.tIn 1 70 dX8_count_1 (by omega) (by decide) rfl (by decide) ?_
      refine AW.aload_n dX8_count_70 rfl ?_
      refine AW.tgR (k := 25) dX8_count_71 (Nat.le_of_ble_eq_true rfl) (fun _ => rfl) q1565 rfl ia25 ?_
      refine AW.aload_n dX8_count_74 rfl ?_
      refine AW.tgI (k := 18) dX8_count_75 (Nat.le_of_ble_eq_true rfl) (fun _ => rfl) q1558 rfl ?_
      refine AW.tiald (k := 25) dX8_count_78 ia25 (Nat.le_of_ble_eq_true rfl) rfl h (fun v2 h => ?_)
      cases h
      exact AW.iret dX8_count_79 rfl
    · rcases ite_or h with ⟨c32, h⟩ | ⟨c32, h⟩
      · refine AW.tIn 2 80 dX8_count_1 (by omega) (by decide) rfl (by decide) ?_
        refine AW.aload_n dX8_count_80 rfl ?_
        refine AW.tgR (k := 28) dX8_count_81 (Nat.le_of_ble_eq_true rfl) (fun _ => rfl) q1568 rfl ia28 ?_
        refine AW.aload_n dX8_count_84 rfl ?_
        refine AW.tgI (k := 18) dX8_count_85 (Nat.le_of_ble_eq_true rfl) (fun _ => rfl) q1558 rfl ?_
        refine AW.tiald (k := 28) dX8_count_88 ia28 (Nat.le_of_ble_eq_true rfl) rfl h (fun v3 h => ?_)
        cases h
        exact AW.iret dX8_count_89 rfl
      · rcases ite_or h with ⟨c31, h⟩ | ⟨c31, h⟩
        · refine AW.tIn 3 90 dX8_count_1 (by omega) (by decide) rfl (by decide) ?_
          refine AW.aload_n dX8_count_90 rfl ?_
          refine AW.tgR (k := 31) dX8_count_91 (Nat.le_of_ble_eq_true rfl) (fun _ => rfl) q1571 rfl ia31 ?_
          refine AW.aload_n dX8_count_94 rfl ?_
          refine AW.tgI (k := 18) dX8_count_95 (Nat.le_of_ble_eq_true rfl) (fun _ => rfl) q1558 rfl ?_
          refine AW.tiald (k := 31) dX8_count_98 ia31 (Nat.le_of_ble_eq_true rfl) rfl h (fun v4 h => ?_)
          cases h
          exact AW.iret dX8_count_99 rfl
        · rcases ite_or h with ⟨c30, h⟩ | ⟨c30, h⟩
          · refine AW.tIn 4 100 dX8_count_1 (by omega) (by decide) rfl (by decide) ?_
            refine AW.aload_n dX8_count_100 rfl ?_
            refine AW.tgI (k := 53) dX8_count_101 (Nat.le_of_ble_eq_true rfl) (fun _ => rfl) q1593 rfl ?_
            cases h
            exact AW.iret dX8_count_104 rfl
          · rcases ite_or h with ⟨c29, h⟩ | ⟨c29, h⟩
            · refine AW.tIn 5 105 dX8_count_1 (by omega) (by decide) rfl (by decide) ?_
              refine AW.iconst dX8_count_105 ?_
              refine AW.istore_n (L' := [some (rV (some b)), some (iV x1), some (iV 0), none]) dX8_count_106 (Nat.le_of_ble_eq_true rfl) rfl rfl ?_
              refine AW.iconst dX8_count_107 ?_
              refine AW.istore_n (L' := [some (rV (some b)), some (iV x1), some (iV 0), some (iV 0)]) dX8_count_108 (Nat.le_of_ble_eq_true rfl) rfl rfl ?_
              refine w_X8_count_L109 _ _ _ _ _ _ h (fun s14 x2 h => ?_)
              refine AW.iload_n dX8_count_164 rfl ?_
              refine AW.nv ?_
              cases h
              exact AW.iret dX8_count_165 rfl
            · rcases ite_or h with ⟨c28, h⟩ | ⟨c28, h⟩
              · refine AW.tIn 6 105 dX8_count_1 (by omega) (by decide) rfl (by decide) ?_
                refine AW.iconst dX8_count_105 ?_
                refine AW.istore_n (L' := [some (rV (some b)), some (iV x1), some (iV 0), none]) dX8_count_106 (Nat.le_of_ble_eq_true rfl) rfl rfl ?_
                refine AW.iconst dX8_count_107 ?_
                refine AW.istore_n (L' := [some (rV (some b)), some (iV x1), some (iV 0), some (iV 0)]) dX8_count_108 (Nat.le_of_ble_eq_true rfl) rfl rfl ?_
                refine w_X8_count_L109 _ _ _ _ _ _ h (fun s15 x2 h => ?_)
                refine AW.iload_n dX8_count_164 rfl ?_
                refine AW.nv ?_
                cases h
                exact AW.iret dX8_count_165 rfl
              · rcases ite_or h with ⟨c27, h⟩ | ⟨c27, h⟩
                · refine AW.tIn 7 166 dX8_count_1 (by omega) (by decide) rfl (by decide) ?_
                  refine AW.aload_n dX8_count_166 rfl ?_
                  refine AW.tgI (k := 2) dX8_count_167 (Nat.le_of_ble_eq_true rfl) (fun _ => rfl) q1542 rfl ?_
                  cases h
                  exact AW.iret dX8_count_170 rfl
                · rcases ite_or h with ⟨c26, h⟩ | ⟨c26, h⟩
                  · refine AW.tIn 8 171 dX8_count_1 (by omega) (by decide) rfl (by decide) ?_
                    refine AW.aload_n dX8_count_171 rfl ?_
                    refine AW.tgI (k := 61) dX8_count_172 (Nat.le_of_ble_eq_true rfl) (fun _ => rfl) q1601 rfl ?_
                    cases h
                    exact AW.iret dX8_count_175 rfl
                  · rcases ite_or h with ⟨c25, h⟩ | ⟨c25, h⟩
                    · refine AW.tIn 9 176 dX8_count_1 (by omega) (by decide) rfl (by decide) ?_
                      refine AW.aload_n dX8_count_176 rfl ?_
                      refine AW.tgI (k := 67) dX8_count_177 (Nat.le_of_ble_eq_true rfl) (fun _ => rfl) q1607 rfl ?_
                      cases h
                      exact AW.iret dX8_count_180 rfl
                    · rcases ite_or h with ⟨c24, h⟩ | ⟨c24, h⟩
                      · refine AW.tIn 10 181 dX8_count_1 (by omega) (by decide) rfl (by decide) ?_
                        refine AW.aload_n dX8_count_181 rfl ?_
                        refine AW.tgR (k := 72) dX8_count_182 (Nat.le_of_ble_eq_true rfl) (fun _ => rfl) q1612 rfl ia72 ?_
                        refine AW.iconst dX8_count_185 ?_
                        refine AW.tzald (k := 72) dX8_count_186 ia72 (Nat.le_of_ble_eq_true rfl) rfl h (fun v16 h => ?_)
                        refine jn_elim h (fun (j : (TW → Int → Option (Int × TW))) => ∀ (s17 : TW) (y0 : Int), j s17 y0 = some w → AW m_X8_count σ0 (tI b σ w) 195 [some (rV (some b)), none, none, none] [iV y0] (insT b s17 σ)) ?_ (fun j195 hj195 h => ?_)
                        · intro s17 y0 h
                          refine AW.aload_n dX8_count_195 rfl ?_
                          refine AW.tgR (k := 72) dX8_count_196 (Nat.le_of_ble_eq_true rfl) (fun _ => rfl) q1612 rfl ia72 ?_
                          refine AW.iconst dX8_count_199 ?_
                          refine AW.tzald (k := 72) dX8_count_200 ia72 (Nat.le_of_ble_eq_true rfl) rfl h (fun v18 h => ?_)
                          refine jn_elim h (fun (j : (TW → Int → Int → Option (Int × TW))) => ∀ (s19 : TW) (y0 : Int) (y1 : Int), j s19 y0 y1 = some w → AW m_X8_count σ0 (tI b σ w) 209 [some (rV (some b)), none, none, none] [iV y1, iV y0] (insT b s19 σ)) ?_ (fun j209 hj209 h => ?_)
                          · intro s19 y0 y1 h
                            refine AW.iadd dX8_count_209 ?_
                            refine AW.aload_n dX8_count_210 rfl ?_
                            refine AW.tgR (k := 72) dX8_count_211 (Nat.le_of_ble_eq_true rfl) (fun _ => rfl) q1612 rfl ia72 ?_
                            refine AW.iconst dX8_count_214 ?_
                            refine AW.tzald (k := 72) dX8_count_215 ia72 (Nat.le_of_ble_eq_true rfl) rfl h (fun v20 h => ?_)
                            refine AW.if_eq 223 dX8_count_216 (by decide) h (fun c21 h => ?_) (fun c21 h => ?_)
                            · refine AW.iconst dX8_count_223 ?_
                              refine AW.iadd dX8_count_224 ?_
                              refine AW.nv ?_
                              cases h
                              exact AW.iret dX8_count_225 rfl
                            · refine AW.iconst dX8_count_219 ?_
                              refine AW.goto (tgt := 224) dX8_count_220 (by decide) ?_
                              refine AW.iadd dX8_count_224 ?_
                              refine AW.nv ?_
                              cases h
                              exact AW.iret dX8_count_225 rfl
                          · refine AW.if_eq 208 dX8_count_201 (by decide) h (fun c22 h => ?_) (fun c22 h => ?_)
                            · refine AW.iconst dX8_count_208 ?_
                              exact hj209 _ _ _ h
                            · refine AW.iconst dX8_count_204 ?_
                              refine AW.goto (tgt := 209) dX8_count_205 (by decide) ?_
                              exact hj209 _ _ _ h
                        · refine AW.if_eq 194 dX8_count_187 (by decide) h (fun c23 h => ?_) (fun c23 h => ?_)
                          · refine AW.iconst dX8_count_194 ?_
                            exact AW.fewer (L' := [some (rV (some b)), none, none, none]) (And.intro rfl trivial) (hj195 _ _ h)
                          · refine AW.iconst dX8_count_190 ?_
                            refine AW.goto (tgt := 195) dX8_count_191 (by decide) ?_
                            exact AW.fewer (L' := [some (rV (some b)), none, none, none]) (And.intro rfl trivial) (hj195 _ _ h)
                      · refine AW.tOut 226 dX8_count_1 (by omega) (by decide) ?_
                        refine AW.iconst dX8_count_226 ?_
                        cases h
                        exact AW.iret dX8_count_227 rfl
theorem c_X8_count {b : Nat} {σ : Hp} {s0 : TW} {x1 : Int} {v : Int} {s1 : TW} (h : f_X8_count s0 x1 = some (v, s1)) : Ct m_X8_count [rV (some b), iV x1] (insT b s0 σ) (.inl (some (iV v)), insT b s1 σ) :=
  Ct.of2 (w_X8_count s0 x1 h) (by decide) rfl rfl rfl
abbrev m_X8_isPast : Mi := (yX8_isPast, cX8_isPast, (some .boolean), 2, 1, 22, [])
theorem n_X8_isPast : nameOk yX8_isPast 1 := ⟨by decide, by decide, by decide +kernel⟩
def f_X8_isPast (s0 : TW) (x1 : Int) : Option (Int × TW) :=
  bt_ (f_X8_in s0 x1 0 (s0.1 53)) fun v2 s1 => if nrm v2 = 0 ∨ nrm v2 = 1 then some (v2, s1) else none
theorem w_X8_isPast {b : Nat} {σ σ0 : Hp} {w : Int × TW} (s0 : TW) (x1 : Int) (h : f_X8_isPast s0 x1 = some w) : AW m_X8_isPast σ0 (tI b σ w) 0 [some (rV (some b)), some (iV x1)] [] (insT b s0 σ) := by
  unfold f_X8_isPast at h
  refine AW.iload_n dX8_isPast_0 rfl ?_
  refine AW.iconst dX8_isPast_1 ?_
  refine AW.aload_n dX8_isPast_2 rfl ?_
  refine AW.tgI (k := 53) dX8_isPast_3 (Nat.le_of_ble_eq_true rfl) (fun _ => rfl) q1593 rfl ?_
  refine AW.tSI (M' := m_X8_in) [iV x1, iV 0, iV (s0.1 53)] [] dX8_isPast_6 q1897 q1898 q139 q1899 n_X8_in rfl rfl rfl (fun _ _ e => c_X8_in e) h (fun v2 s1 h => ?_)
  obtain ⟨hz, h⟩ := pz_elim h
  cases h
  exact AW.zret dX8_isPast_9 rfl hz
theorem c_X8_isPast {b : Nat} {σ : Hp} {s0 : TW} {x1 : Int} {v : Int} {s1 : TW} (h : f_X8_isPast s0 x1 = some (v, s1)) : Ct m_X8_isPast [rV (some b), iV x1] (insT b s0 σ) (.inl (some (iV v)), insT b s1 σ) :=
  Ct.of2 (w_X8_isPast s0 x1 h) (by decide) rfl rfl rfl
abbrev m_X8_crowd : Mi := (yX8_crowd, cX8_crowd, (some .int), 5, 2, 43, [])
theorem n_X8_crowd : nameOk yX8_crowd 2 := ⟨by decide, by decide, by decide +kernel⟩
def f_X8_crowd_L43 : Nat → TW → Int → Int → Int → Int → (TW → Int → Int → Int → Option (Int × TW)) → Option (Int × TW)
  | 0, _, _, _, _, _, _ => none
  | n + 1, s0, x1, x2, x3, x4, k => (ta s0 24 (s0.1 18)).bind fun v7 => (if nrm v7 ≤ nrm x4 then (k s0 x1 x2 x3) else (bt_ (f_X8_menIn s0 x4 x1) fun v9 s8 => bt_ (f_X8_bits s8 v9) fun v11 s10 => bt_ (f_X8_menIn s10 x3 x1) fun v13 s12 => bt_ (f_X8_bits s12 v13) fun v15 s14 => (if nrm v11 ≤ nrm v15 then (f_X8_crowd_L43 n s14 x1 x2 x3 (x4 + 1) k) else (f_X8_crowd_L43 n s14 x1 x2 x4 (x4 + 1) k))))
theorem w_X8_crowd_L43 {b : Nat} {σ σ0 : Hp} {w : Int × TW} : ∀ (n : Nat) (s0 : TW) (x1 : Int) (x2 : Int) (x3 : Int) (x4 : Int) (k : (TW → Int → Int → Int → Option (Int × TW))), f_X8_crowd_L43 n s0 x1 x2 x3 x4 k = some w → (∀ (s1 : TW) (x1 : Int) (x2 : Int) (x3 : Int), k s1 x1 x2 x3 = some w → AW m_X8_crowd σ0 (tI b σ w) 88 [some (rV (some b)), some (iV x1), some (iV x2), some (iV x3), none] [] (insT b s1 σ)) → AW m_X8_crowd σ0 (tI b σ w) 43 [some (rV (some b)), some (iV x1), some (iV x2), some (iV x3), some (iV x4)] [] (insT b s0 σ) := by
  intro n
  induction n with
  | zero =>
    intro s0 x1 x2 x3 x4 k h hk
    rw [f_X8_crowd_L43] at h
    cases h
  | succ n ih =>
    intro s0 x1 x2 x3 x4 k h hk
    rw [f_X8_crowd_L43] at h
    refine AW.iload dX8_crowd_43 rfl ?_
    refine AW.aload_n dX8_crowd_45 rfl ?_
    refine AW.tgR (k := 24) dX8_crowd_46 (Nat.le_of_ble_eq_true rfl) (fun _ => rfl) q1564 rfl ia24 ?_
    refine AW.aload_n dX8_crowd_49 rfl ?_
    refine AW.tgI (k := 18) dX8_crowd_50 (Nat.le_of_ble_eq_true rfl) (fun _ => rfl) q1558 rfl ?_
    refine AW.tiald (k := 24) dX8_crowd_53 ia24 (Nat.le_of_ble_eq_true rfl) rfl h (fun v7 h => ?_)
    refine AW.icmp_ge 88 dX8_crowd_54 (by decide) h (fun c17 h => ?_) (fun c17 h => ?_)
    · exact AW.fewer (L' := [some (rV (some b)), some (iV x1), some (iV x2), some (iV x3), none]) (And.intro rfl (And.intro rfl (And.intro rfl (And.intro rfl trivial)))) (hk _ _ _ _ h)
    · refine AW.aload_n dX8_crowd_57 rfl ?_
      refine AW.iload dX8_crowd_58 rfl ?_
      refine AW.iload_n dX8_crowd_60 rfl ?_
      refine AW.tVI (M' := m_X8_menIn) [iV x4, iV x1] [] dX8_crowd_61 q1522 q1524 qs60 q139 q1525 rfl n_X8_menIn rfl rfl rfl (fun _ _ e => c_X8_menIn e) h (fun v9 s8 h => ?_)
      refine AW.tSI (M' := m_X8_bits) [iV v9] [] dX8_crowd_64 q1526 q1527 q139 q1528 n_X8_bits rfl rfl rfl (fun _ _ e => c_X8_bits e) h (fun v11 s10 h => ?_)
      refine AW.aload_n dX8_crowd_67 rfl ?_
      refine AW.iload_n dX8_crowd_68 rfl ?_
      refine AW.iload_n dX8_crowd_69 rfl ?_
      refine AW.tVI (M' := m_X8_menIn) [iV x3, iV x1] [iV v11] dX8_crowd_70 q1522 q1524 qs60 q139 q1525 rfl n_X8_menIn rfl rfl rfl (fun _ _ e => c_X8_menIn e) h (fun v13 s12 h => ?_)
      refine AW.tSI (M' := m_X8_bits) [iV v13] [iV v11] dX8_crowd_73 q1526 q1527 q139 q1528 n_X8_bits rfl rfl rfl (fun _ _ e => c_X8_bits e) h (fun v15 s14 h => ?_)
      refine AW.icmp_le 82 dX8_crowd_76 (by decide) h (fun c16 h => ?_) (fun c16 h => ?_)
      · refine AW.iinc (L' := [some (rV (some b)), some (iV x1), some (iV x2), some (iV x3), some (iV (x4 + 1))]) dX8_crowd_82 rfl (Nat.le_of_ble_eq_true rfl) rfl rfl ?_
        refine AW.goto (tgt := 43) dX8_crowd_85 (by decide) ?_
        exact ih _ _ _ _ _ _ h hk
      · refine AW.iload dX8_crowd_79 rfl ?_
        refine AW.istore_n (L' := [some (rV (some b)), some (iV x1), some (iV x2), some (iV x4), some (iV x4)]) dX8_crowd_81 (Nat.le_of_ble_eq_true rfl) rfl rfl ?_
        refine AW.iinc (L' := [some (rV (some b)), some (iV x1), some (iV x2), some (iV x4), some (iV (x4 + 1))]) dX8_crowd_82 rfl (Nat.le_of_ble_eq_true rfl) rfl rfl ?_
        refine AW.goto (tgt := 43) dX8_crowd_85 (by decide) ?_
        exact ih _ _ _ _ _ _ h hk
def f_X8_crowd (s0 : TW) (x1 : Int) (x2 : Int) : Option (Int × TW) :=
  bt_ (f_X8_isPast s0 x1) fun v2 s1 => (if nrm v2 = 0 then (some ((-1), s1)) else (bt_ (f_X8_in s1 x2 0 1) fun v4 s3 => (if ¬ nrm v4 = 0 then ((ta s3 24 (s3.1 18)).bind fun v5 => (if ¬ nrm v5 = 0 then (bt_ (f_X8_copies s3) fun _ s6 => f_X8_crowd_L43 FU s6 x1 x2 0 1 (fun s18 x1 x2 x3 => (if ¬ nrm x2 = 0 then (bt_ (f_X8_menIn s18 x3 x1) fun v20 s19 => bt_ (f_X8_bits s19 v20) fun v22 s21 => some (v22, s21)) else (some (nrm x3, s18))))) else (some ((-2), s3)))) else (some ((-1), s3)))))
theorem w_X8_crowd {b : Nat} {σ σ0 : Hp} {w : Int × TW} (s0 : TW) (x1 : Int) (x2 : Int) (h : f_X8_crowd s0 x1 x2 = some w) : AW m_X8_crowd σ0 (tI b σ w) 0 [some (rV (some b)), some (iV x1), some (iV x2), none, none] [] (insT b s0 σ) := by
  unfold f_X8_crowd at h
  refine AW.aload_n dX8_crowd_0 rfl ?_
  refine AW.iload_n dX8_crowd_1 rfl ?_
  refine AW.tVI (M' := m_X8_isPast) [iV x1] [] dX8_crowd_2 q1900 q1902 qs90 q139 q1903 rfl n_X8_isPast rfl rfl rfl (fun _ _ e => c_X8_isPast e) h (fun v2 s1 h => ?_)
  refine AW.if_eq 17 dX8_crowd_5 (by decide) h (fun c26 h => ?_) (fun c26 h => ?_)
  · refine AW.iconst dX8_crowd_17 ?_
    cases h
    exact AW.iret dX8_crowd_18 rfl
  · refine AW.iload_n dX8_crowd_8 rfl ?_
    refine AW.iconst dX8_crowd_9 ?_
    refine AW.iconst dX8_crowd_10 ?_
    refine AW.tSI (M' := m_X8_in) [iV x2, iV 0, iV 1] [] dX8_crowd_11 q1897 q1898 q139 q1899 n_X8_in rfl rfl rfl (fun _ _ e => c_X8_in e) h (fun v4 s3 h => ?_)
    refine AW.if_ne 19 dX8_crowd_14 (by decide) h (fun c25 h => ?_) (fun c25 h => ?_)
    · refine AW.aload_n dX8_crowd_19 rfl ?_
      refine AW.tgR (k := 24) dX8_crowd_20 (Nat.le_of_ble_eq_true rfl) (fun _ => rfl) q1564 rfl ia24 ?_
      refine AW.aload_n dX8_crowd_23 rfl ?_
      refine AW.tgI (k := 18) dX8_crowd_24 (Nat.le_of_ble_eq_true rfl) (fun _ => rfl) q1558 rfl ?_
      refine AW.tiald (k := 24) dX8_crowd_27 ia24 (Nat.le_of_ble_eq_true rfl) rfl h (fun v5 h => ?_)
      refine AW.if_ne 34 dX8_crowd_28 (by decide) h (fun c24 h => ?_) (fun c24 h => ?_)
      · refine AW.aload_n dX8_crowd_34 rfl ?_
        refine AW.tVU (M' := m_X8_copies) [] [] dX8_crowd_35 q1912 q1914 qs92 q139 q1915 rfl n_X8_copies rfl rfl rfl (fun _ _ e => c_X8_copies e) h (fun _ s6 h => ?_)
        refine AW.iconst dX8_crowd_38 ?_
        refine AW.istore_n (L' := [some (rV (some b)), some (iV x1), some (iV x2), some (iV 0), none]) dX8_crowd_39 (Nat.le_of_ble_eq_true rfl) rfl rfl ?_
        refine AW.iconst dX8_crowd_40 ?_
        refine AW.istore (L' := [some (rV (some b)), some (iV x1), some (iV x2), some (iV 0), some (iV 1)]) dX8_crowd_41 (Nat.le_of_ble_eq_true rfl) rfl rfl ?_
        refine w_X8_crowd_L43 _ _ _ _ _ _ _ h (fun s18 x1 x2 x3 h => ?_)
        refine AW.iload_n dX8_crowd_88 rfl ?_
        refine AW.if_ne 96 dX8_crowd_89 (by decide) h (fun c23 h => ?_) (fun c23 h => ?_)
        · refine AW.aload_n dX8_crowd_96 rfl ?_
          refine AW.iload_n dX8_crowd_97 rfl ?_
          refine AW.iload_n dX8_crowd_98 rfl ?_
          refine AW.tVI (M' := m_X8_menIn) [iV x3, iV x1] [] dX8_crowd_99 q1522 q1524 qs60 q139 q1525 rfl n_X8_menIn rfl rfl rfl (fun _ _ e => c_X8_menIn e) h (fun v20 s19 h => ?_)
          refine AW.tSI (M' := m_X8_bits) [iV v20] [] dX8_crowd_102 q1526 q1527 q139 q1528 n_X8_bits rfl rfl rfl (fun _ _ e => c_X8_bits e) h (fun v22 s21 h => ?_)
          cases h
          exact AW.iret dX8_crowd_105 rfl
        · refine AW.iload_n dX8_crowd_92 rfl ?_
          refine AW.goto (tgt := 105) dX8_crowd_93 (by decide) ?_
          refine AW.nv ?_
          cases h
          exact AW.iret dX8_crowd_105 rfl
      · refine AW.bipush dX8_crowd_31 (by decide) ?_
        cases h
        exact AW.iret dX8_crowd_33 rfl
    · refine AW.iconst dX8_crowd_17 ?_
      cases h
      exact AW.iret dX8_crowd_18 rfl
theorem c_X8_crowd {b : Nat} {σ : Hp} {s0 : TW} {x1 : Int} {x2 : Int} {v : Int} {s1 : TW} (h : f_X8_crowd s0 x1 x2 = some (v, s1)) : Ct m_X8_crowd [rV (some b), iV x1, iV x2] (insT b s0 σ) (.inl (some (iV v)), insT b s1 σ) :=
  Ct.of2 (w_X8_crowd s0 x1 x2 h) (by decide) rfl rfl rfl
abbrev m_X8_token : Mi := (yX8_token, cX8_token, none, 6, 0, 0, [])
theorem n_X8_token : nameOk yX8_token 4 := ⟨by decide, by decide, by decide +kernel⟩
def f_X8_token (s0 : TW) (x1 : Int) (x2 : Int) (x3 : Int) (x4 : Int) : Option (Unit × TW) :=
  (ts s0 5 (s0.1 10) (nrm x1)).bind fun s1 => (ts s1 6 (s1.1 10) (nrm x2)).bind fun s2 => (ts s2 7 (s2.1 10) (nrm x3)).bind fun s3 => (ts s3 8 (s3.1 10) x4).bind fun s4 => bd (tp s4 10 (nrm ((s4.1 10) + 1))) fun s5 => some ((), s5)
theorem w_X8_token {b : Nat} {σ σ0 : Hp} {w : Unit × TW} (s0 : TW) (x1 : Int) (x2 : Int) (x3 : Int) (x4 : Int) (h : f_X8_token s0 x1 x2 x3 x4 = some w) : AW m_X8_token σ0 (tU b σ w) 0 [some (rV (some b)), some (iV x1), some (iV x2), some (iV x3), some (jV x4), none] [] (insT b s0 σ) := by
  unfold f_X8_token at h
  refine AW.aload_n dX8_token_0 rfl ?_
  refine AW.tgR (k := 5) dX8_token_1 (Nat.le_of_ble_eq_true rfl) (fun _ => rfl) q1545 rfl ia5 ?_
  refine AW.aload_n dX8_token_4 rfl ?_
  refine AW.tgI (k := 10) dX8_token_5 (Nat.le_of_ble_eq_true rfl) (fun _ => rfl) q1550 rfl ?_
  refine AW.iload_n dX8_token_8 rfl ?_
  refine AW.nv ?_
  refine AW.tiast (k := 5) dX8_token_9 ia5 (Nat.le_of_ble_eq_true rfl) mt5 rfl h (fun s1 h => ?_)
  refine AW.aload_n dX8_token_10 rfl ?_
  refine AW.tgR (k := 6) dX8_token_11 (Nat.le_of_ble_eq_true rfl) (fun _ => rfl) q1546 rfl ia6 ?_
  refine AW.aload_n dX8_token_14 rfl ?_
  refine AW.tgI (k := 10) dX8_token_15 (Nat.le_of_ble_eq_true rfl) (fun _ => rfl) q1550 rfl ?_
  refine AW.iload_n dX8_token_18 rfl ?_
  refine AW.nv ?_
  refine AW.tiast (k := 6) dX8_token_19 ia6 (Nat.le_of_ble_eq_true rfl) mt6 rfl h (fun s2 h => ?_)
  refine AW.aload_n dX8_token_20 rfl ?_
  refine AW.tgR (k := 7) dX8_token_21 (Nat.le_of_ble_eq_true rfl) (fun _ => rfl) q1547 rfl ia7 ?_
  refine AW.aload_n dX8_token_24 rfl ?_
  refine AW.tgI (k := 10) dX8_token_25 (Nat.le_of_ble_eq_true rfl) (fun _ => rfl) q1550 rfl ?_
  refine AW.iload_n dX8_token_28 rfl ?_
  refine AW.nv ?_
  refine AW.tiast (k := 7) dX8_token_29 ia7 (Nat.le_of_ble_eq_true rfl) mt7 rfl h (fun s3 h => ?_)
  refine AW.aload_n dX8_token_30 rfl ?_
  refine AW.tgR (k := 8) dX8_token_31 (Nat.le_of_ble_eq_true rfl) (fun _ => rfl) q1548 rfl ia8 ?_
  refine AW.aload_n dX8_token_34 rfl ?_
  refine AW.tgI (k := 10) dX8_token_35 (Nat.le_of_ble_eq_true rfl) (fun _ => rfl) q1550 rfl ?_
  refine AW.lload dX8_token_38 rfl ?_
  refine AW.tlast (k := 8) dX8_token_40 ia8 (Nat.le_of_ble_eq_true rfl) mt8 rfl h (fun s4 h => ?_)
  refine AW.aload_n dX8_token_41 rfl ?_
  refine AW.dupR dX8_token_42 ?_
  refine AW.tgI (k := 10) dX8_token_43 (Nat.le_of_ble_eq_true rfl) (fun _ => rfl) q1550 rfl ?_
  refine AW.iconst dX8_token_46 ?_
  refine AW.iadd dX8_token_47 ?_
  refine AW.nv ?_
  refine AW.tpB (k := 10) dX8_token_48 (Nat.le_of_ble_eq_true rfl) rfl q1550 rfl rfl h (fun s5 h => ?_)
  cases h
  exact AW.vret dX8_token_51 rfl
theorem c_X8_token {b : Nat} {σ : Hp} {s0 : TW} {x1 : Int} {x2 : Int} {x3 : Int} {x4 : Int} {v : Unit} {s1 : TW} (h : f_X8_token s0 x1 x2 x3 x4 = some (v, s1)) : Ct m_X8_token [rV (some b), iV x1, iV x2, iV x3, jV x4] (insT b s0 σ) (.inl none, insT b s1 σ) :=
  Ct.of2 (w_X8_token s0 x1 x2 x3 x4 h) (by decide) rfl rfl rfl
abbrev m_X8_isLetter : Mi := (yX8_isLetter, cX8_isLetter, (some .boolean), 1, 0, 0, [])
theorem n_X8_isLetter : nameOk yX8_isLetter 1 := ⟨by decide, by decide, by decide +kernel⟩
def f_X8_isLetter (s0 : TW) (x0 : Int) : Option (Int × TW) :=
  (if nrm x0 < nrm 97 then (some (0, s0)) else ((if nrm 122 < nrm x0 then (some (0, s0)) else (some (1, s0)))))
theorem w_X8_isLetter {b : Nat} {σ σ0 : Hp} {w : Int × TW} (s0 : TW) (x0 : Int) (h : f_X8_isLetter s0 x0 = some w) : AW m_X8_isLetter σ0 (tI b σ w) 0 [some (iV x0)] [] (insT b s0 σ) := by
  unfold f_X8_isLetter at h
  refine AW.iload_n dX8_isLetter_0 rfl ?_
  refine AW.bipush dX8_isLetter_1 (by decide) ?_
  refine AW.icmp_lt 16 dX8_isLetter_3 (by decide) h (fun c2 h => ?_) (fun c2 h => ?_)
  · refine AW.iconst dX8_isLetter_16 ?_
    cases h
    exact AW.zret (z := 0) dX8_isLetter_17 rfl zz0
  · refine AW.iload_n dX8_isLetter_6 rfl ?_
    refine AW.bipush dX8_isLetter_7 (by decide) ?_
    refine AW.icmp_gt 16 dX8_isLetter_9 (by decide) h (fun c1 h => ?_) (fun c1 h => ?_)
    · refine AW.iconst dX8_isLetter_16 ?_
      cases h
      exact AW.zret (z := 0) dX8_isLetter_17 rfl zz0
    · refine AW.iconst dX8_isLetter_12 ?_
      refine AW.goto (tgt := 17) dX8_isLetter_13 (by decide) ?_
      cases h
      exact AW.zret (z := 1) dX8_isLetter_17 rfl zz1
theorem c_X8_isLetter {b : Nat} {σ : Hp} {s0 : TW} {x0 : Int} {v : Int} {s1 : TW} (h : f_X8_isLetter s0 x0 = some (v, s1)) : Ct m_X8_isLetter [iV x0] (insT b s0 σ) (.inl (some (iV v)), insT b s1 σ) :=
  Ct.of2 (w_X8_isLetter s0 x0 h) (by decide) rfl rfl rfl
abbrev m_X8_isDigit : Mi := (yX8_isDigit, cX8_isDigit, (some .boolean), 1, 0, 0, [])
theorem n_X8_isDigit : nameOk yX8_isDigit 1 := ⟨by decide, by decide, by decide +kernel⟩
def f_X8_isDigit (s0 : TW) (x0 : Int) : Option (Int × TW) :=
  (if nrm x0 < nrm 48 then (some (0, s0)) else ((if nrm 57 < nrm x0 then (some (0, s0)) else (some (1, s0)))))
theorem w_X8_isDigit {b : Nat} {σ σ0 : Hp} {w : Int × TW} (s0 : TW) (x0 : Int) (h : f_X8_isDigit s0 x0 = some w) : AW m_X8_isDigit σ0 (tI b σ w) 0 [some (iV x0)] [] (insT b s0 σ) := by
  unfold f_X8_isDigit at h
  refine AW.iload_n dX8_isDigit_0 rfl ?_
  refine AW.bipush dX8_isDigit_1 (by decide) ?_
  refine AW.icmp_lt 16 dX8_isDigit_3 (by decide) h (fun c2 h => ?_) (fun c2 h => ?_)
  · refine AW.iconst dX8_isDigit_16 ?_
    cases h
    exact AW.zret (z := 0) dX8_isDigit_17 rfl zz0
  · refine AW.iload_n dX8_isDigit_6 rfl ?_
    refine AW.bipush dX8_isDigit_7 (by decide) ?_
    refine AW.icmp_gt 16 dX8_isDigit_9 (by decide) h (fun c1 h => ?_) (fun c1 h => ?_)
    · refine AW.iconst dX8_isDigit_16 ?_
      cases h
      exact AW.zret (z := 0) dX8_isDigit_17 rfl zz0
    · refine AW.iconst dX8_isDigit_12 ?_
      refine AW.goto (tgt := 17) dX8_isDigit_13 (by decide) ?_
      cases h
      exact AW.zret (z := 1) dX8_isDigit_17 rfl zz1
theorem c_X8_isDigit {b : Nat} {σ : Hp} {s0 : TW} {x0 : Int} {v : Int} {s1 : TW} (h : f_X8_isDigit s0 x0 = some (v, s1)) : Ct m_X8_isDigit [iV x0] (insT b s0 σ) (.inl (some (iV v)), insT b s1 σ) :=
  Ct.of2 (w_X8_isDigit s0 x0 h) (by decide) rfl rfl rfl
abbrev m_X8_sign : Mi := (yX8_sign, cX8_sign, (some .int), 5, 1, 25, [])
theorem n_X8_sign : nameOk yX8_sign 3 := ⟨by decide, by decide, by decide +kernel⟩
def f_X8_sign (s0 : TW) (x1 : Int) (x2 : Int) (x3 : Int) : Option (Int × TW) :=
  jn (fun (s1 : TW) (x1 : Int) (x2 : Int) (y0 : Int) => jn (fun (s2 : TW) (x1 : Int) (x2 : Int) (x4 : Int) => jn (fun (s3 : TW) (x1 : Int) (x2 : Int) (x4 : Int) => jn (fun (s4 : TW) (x1 : Int) (x2 : Int) (x4 : Int) => jn (fun (s5 : TW) (x1 : Int) (x2 : Int) (x4 : Int) => jn (fun (s6 : TW) (x1 : Int) (x4 : Int) => bt_ (f_X8_token s6 x4 x1 0 0) fun _ s7 => some (1, s7)) fun j95 => (if ¬ nrm x2 = nrm 60 then (j95 s5 x1 x4) else (j95 s5 x1 13))) fun j85 => (if ¬ nrm x2 = nrm 47 then (j85 s4 x1 x2 x4) else (j85 s4 x1 x2 15))) fun j75 => (if ¬ nrm x2 = nrm 42 then (j75 s3 x1 x2 x4) else (j75 s3 x1 x2 10))) fun j65 => (if ¬ nrm x2 = nrm 45 then (j65 s2 x1 x2 x4) else (j65 s2 x1 x2 9))) fun j55 => (if ¬ nrm x2 = nrm 43 then (j55 s1 x1 x2 y0) else (j55 s1 x1 x2 8))) fun j43 => (if ¬ nrm x2 = nrm 59 then ((if ¬ nrm x2 = nrm 61 then ((if ¬ nrm x2 = nrm 40 then ((if ¬ nrm x2 = nrm 41 then (j43 s0 x1 x2 3) else (j43 s0 x1 x2 7))) else (j43 s0 x1 x2 6))) else (j43 s0 x1 x2 5))) else (j43 s0 x1 x2 4))
theorem w_X8_sign {b : Nat} {σ σ0 : Hp} {w : Int × TW} (s0 : TW) (x1 : Int) (x2 : Int) (x3 : Int) (h : f_X8_sign s0 x1 x2 x3 = some w) : AW m_X8_sign σ0 (tI b σ w) 0 [some (rV (some b)), some (iV x1), some (iV x2), some (iV x3), none] [] (insT b s0 σ) := by
  unfold f_X8_sign at h
  refine AW.iload_n dX8_sign_0 rfl ?_
  refine AW.bipush dX8_sign_1 (by decide) ?_
  refine jn_elim h (fun (j : (TW → Int → Int → Int → Option (Int × TW))) => ∀ (s1 : TW) (x1 : Int) (x2 : Int) (y0 : Int), j s1 x1 x2 y0 = some w → AW m_X8_sign σ0 (tI b σ w) 43 [some (rV (some b)), some (iV x1), some (iV x2), none, none] [iV y0] (insT b s1 σ)) ?_ (fun j43 hj43 h => ?_)
  · intro s1 x1 x2 y0 h
    refine AW.istore (L' := [some (rV (some b)), some (iV x1), some (iV x2), none, some (iV y0)]) dX8_sign_43 (Nat.le_of_ble_eq_true rfl) rfl rfl ?_
    refine AW.iload_n dX8_sign_45 rfl ?_
    refine AW.bipush dX8_sign_46 (by decide) ?_
    refine jn_elim h (fun (j : (TW → Int → Int → Int → Option (Int × TW))) => ∀ (s2 : TW) (x1 : Int) (x2 : Int) (x4 : Int), j s2 x1 x2 x4 = some w → AW m_X8_sign σ0 (tI b σ w) 55 [some (rV (some b)), some (iV x1), some (iV x2), none, some (iV x4)] [] (insT b s2 σ)) ?_ (fun j55 hj55 h => ?_)
    · intro s2 x1 x2 x4 h
      refine AW.iload_n dX8_sign_55 rfl ?_
      refine AW.bipush dX8_sign_56 (by decide) ?_
      refine jn_elim h (fun (j : (TW → Int → Int → Int → Option (Int × TW))) => ∀ (s3 : TW) (x1 : Int) (x2 : Int) (x4 : Int), j s3 x1 x2 x4 = some w → AW m_X8_sign σ0 (tI b σ w) 65 [some (rV (some b)), some (iV x1), some (iV x2), none, some (iV x4)] [] (insT b s3 σ)) ?_ (fun j65 hj65 h => ?_)
      · intro s3 x1 x2 x4 h
        refine AW.iload_n dX8_sign_65 rfl ?_
        refine AW.bipush dX8_sign_66 (by decide) ?_
        refine jn_elim h (fun (j : (TW → Int → Int → Int → Option (Int × TW))) => ∀ (s4 : TW) (x1 : Int) (x2 : Int) (x4 : Int), j s4 x1 x2 x4 = some w → AW m_X8_sign σ0 (tI b σ w) 75 [some (rV (some b)), some (iV x1), some (iV x2), none, some (iV x4)] [] (insT b s4 σ)) ?_ (fun j75 hj75 h => ?_)
        · intro s4 x1 x2 x4 h
          refine AW.iload_n dX8_sign_75 rfl ?_
          refine AW.bipush dX8_sign_76 (by decide) ?_
          refine jn_elim h (fun (j : (TW → Int → Int → Int → Option (Int × TW))) => ∀ (s5 : TW) (x1 : Int) (x2 : Int) (x4 : Int), j s5 x1 x2 x4 = some w → AW m_X8_sign σ0 (tI b σ w) 85 [some (rV (some b)), some (iV x1), some (iV x2), none, some (iV x4)] [] (insT b s5 σ)) ?_ (fun j85 hj85 h => ?_)
          · intro s5 x1 x2 x4 h
            refine AW.iload_n dX8_sign_85 rfl ?_
            refine AW.bipush dX8_sign_86 (by decide) ?_
            refine jn_elim h (fun (j : (TW → Int → Int → Option (Int × TW))) => ∀ (s6 : TW) (x1 : Int) (x4 : Int), j s6 x1 x4 = some w → AW m_X8_sign σ0 (tI b σ w) 95 [some (rV (some b)), some (iV x1), none, none, some (iV x4)] [] (insT b s6 σ)) ?_ (fun j95 hj95 h => ?_)
            · intro s6 x1 x4 h
              refine AW.aload_n dX8_sign_95 rfl ?_
              refine AW.iload dX8_sign_96 rfl ?_
              refine AW.iload_n dX8_sign_98 rfl ?_
              refine AW.iconst dX8_sign_99 ?_
              refine AW.lconst (z := 0) dX8_sign_100 (by decide) ?_
              refine AW.tVU (M' := m_X8_token) [iV x4, iV x1, iV 0, jV 0] [] dX8_sign_101 q1791 q1793 qs67 q139 q1794 rfl n_X8_token rfl rfl rfl (fun _ _ e => c_X8_token e) h (fun _ s7 h => ?_)
              refine AW.iconst dX8_sign_104 ?_
              cases h
              exact AW.iret dX8_sign_105 rfl
            · refine AW.icmp_ne 95 dX8_sign_88 (by decide) h (fun c8 h => ?_) (fun c8 h => ?_)
              · exact AW.fewer (L' := [some (rV (some b)), some (iV x1), none, none, some (iV x4)]) (And.intro rfl (And.intro rfl (And.intro rfl trivial))) (hj95 _ _ _ h)
              · refine AW.bipush dX8_sign_91 (by decide) ?_
                refine AW.istore (L' := [some (rV (some b)), some (iV x1), some (iV x2), none, some (iV 13)]) dX8_sign_93 (Nat.le_of_ble_eq_true rfl) rfl rfl ?_
                exact AW.fewer (L' := [some (rV (some b)), some (iV x1), none, none, some (iV 13)]) (And.intro rfl (And.intro rfl (And.intro rfl trivial))) (hj95 _ _ _ h)
          · refine AW.icmp_ne 85 dX8_sign_78 (by decide) h (fun c9 h => ?_) (fun c9 h => ?_)
            · exact hj85 _ _ _ _ h
            · refine AW.bipush dX8_sign_81 (by decide) ?_
              refine AW.istore (L' := [some (rV (some b)), some (iV x1), some (iV x2), none, some (iV 15)]) dX8_sign_83 (Nat.le_of_ble_eq_true rfl) rfl rfl ?_
              exact hj85 _ _ _ _ h
        · refine AW.icmp_ne 75 dX8_sign_68 (by decide) h (fun c10 h => ?_) (fun c10 h => ?_)
          · exact hj75 _ _ _ _ h
          · refine AW.bipush dX8_sign_71 (by decide) ?_
            refine AW.istore (L' := [some (rV (some b)), some (iV x1), some (iV x2), none, some (iV 10)]) dX8_sign_73 (Nat.le_of_ble_eq_true rfl) rfl rfl ?_
            exact hj75 _ _ _ _ h
      · refine AW.icmp_ne 65 dX8_sign_58 (by decide) h (fun c11 h => ?_) (fun c11 h => ?_)
        · exact hj65 _ _ _ _ h
        · refine AW.bipush dX8_sign_61 (by decide) ?_
          refine AW.istore (L' := [some (rV (some b)), some (iV x1), some (iV x2), none, some (iV 9)]) dX8_sign_63 (Nat.le_of_ble_eq_true rfl) rfl rfl ?_
          exact hj65 _ _ _ _ h
    · refine AW.icmp_ne 55 dX8_sign_48 (by decide) h (fun c12 h => ?_) (fun c12 h => ?_)
      · exact hj55 _ _ _ _ h
      · refine AW.bipush dX8_sign_51 (by decide) ?_
        refine AW.istore (L' := [some (rV (some b)), some (iV x1), some (iV x2), none, some (iV 8)]) dX8_sign_53 (Nat.le_of_ble_eq_true rfl) rfl rfl ?_
        exact hj55 _ _ _ _ h
  · refine AW.icmp_ne 10 dX8_sign_3 (by decide) h (fun c16 h => ?_) (fun c16 h => ?_)
    · refine AW.iload_n dX8_sign_10 rfl ?_
      refine AW.bipush dX8_sign_11 (by decide) ?_
      refine AW.icmp_ne 20 dX8_sign_13 (by decide) h (fun c15 h => ?_) (fun c15 h => ?_)
      · refine AW.iload_n dX8_sign_20 rfl ?_
        refine AW.bipush dX8_sign_21 (by decide) ?_
        refine AW.icmp_ne 31 dX8_sign_23 (by decide) h (fun c14 h => ?_) (fun c14 h => ?_)
        · refine AW.iload_n dX8_sign_31 rfl ?_
          refine AW.bipush dX8_sign_32 (by decide) ?_
          refine AW.icmp_ne 42 dX8_sign_34 (by decide) h (fun c13 h => ?_) (fun c13 h => ?_)
          · refine AW.iconst dX8_sign_42 ?_
            exact AW.fewer (L' := [some (rV (some b)), some (iV x1), some (iV x2), none, none]) (And.intro rfl (And.intro rfl (And.intro rfl trivial))) (hj43 _ _ _ _ h)
          · refine AW.bipush dX8_sign_37 (by decide) ?_
            refine AW.goto (tgt := 43) dX8_sign_39 (by decide) ?_
            exact AW.fewer (L' := [some (rV (some b)), some (iV x1), some (iV x2), none, none]) (And.intro rfl (And.intro rfl (And.intro rfl trivial))) (hj43 _ _ _ _ h)
        · refine AW.bipush dX8_sign_26 (by decide) ?_
          refine AW.goto (tgt := 43) dX8_sign_28 (by decide) ?_
          exact AW.fewer (L' := [some (rV (some b)), some (iV x1), some (iV x2), none, none]) (And.intro rfl (And.intro rfl (And.intro rfl trivial))) (hj43 _ _ _ _ h)
      · refine AW.iconst dX8_sign_16 ?_
        refine AW.goto (tgt := 43) dX8_sign_17 (by decide) ?_
        exact AW.fewer (L' := [some (rV (some b)), some (iV x1), some (iV x2), none, none]) (And.intro rfl (And.intro rfl (And.intro rfl trivial))) (hj43 _ _ _ _ h)
    · refine AW.iconst dX8_sign_6 ?_
      refine AW.goto (tgt := 43) dX8_sign_7 (by decide) ?_
      exact AW.fewer (L' := [some (rV (some b)), some (iV x1), some (iV x2), none, none]) (And.intro rfl (And.intro rfl (And.intro rfl trivial))) (hj43 _ _ _ _ h)
theorem c_X8_sign {b : Nat} {σ : Hp} {s0 : TW} {x1 : Int} {x2 : Int} {x3 : Int} {v : Int} {s1 : TW} (h : f_X8_sign s0 x1 x2 x3 = some (v, s1)) : Ct m_X8_sign [rV (some b), iV x1, iV x2, iV x3] (insT b s0 σ) (.inl (some (iV v)), insT b s1 σ) :=
  Ct.of2 (w_X8_sign s0 x1 x2 x3 h) (by decide) rfl rfl rfl
abbrev m_X8_cut : Mi := (yX8_cut, cX8_cut, none, 8, 2, 49, [])
theorem n_X8_cut : nameOk yX8_cut 0 := ⟨by decide, by decide, by decide +kernel⟩
def f_X8_cut_L208 : Nat → TW → Int → Int → Int → (TW → Int → Int → Int → Option (Unit × TW)) → Option (Unit × TW)
  | 0, _, _, _, _, _ => none
  | n + 1, s0, x1, x3, x4, k => bt_ (f_X8_byteAt s0 (x1 + x3)) fun v13 s12 => bt_ (f_X8_isDigit s12 v13) fun v15 s14 => (if nrm v15 = 0 then (k s14 x1 x3 x4) else ((if nrm 4 ≤ nrm x3 then (f_X8_cut_L208 n s14 x1 (x3 + 1) x4 k) else (bt_ (f_X8_byteAt s14 (x1 + x3)) fun v17 s16 => f_X8_cut_L208 n s16 x1 (x3 + 1) (((10 * x4) + v17) - 48) k))))
theorem w_X8_cut_L208 {b : Nat} {σ σ0 : Hp} {w : Unit × TW} : ∀ (n : Nat) (s0 : TW) (x1 : Int) (x3 : Int) (x4 : Int) (k : (TW → Int → Int → Int → Option (Unit × TW))), f_X8_cut_L208 n s0 x1 x3 x4 k = some w → (∀ (s1 : TW) (x1 : Int) (x3 : Int) (x4 : Int), k s1 x1 x3 x4 = some w → AW m_X8_cut σ0 (tU b σ w) 250 [some (rV (some b)), some (iV x1), none, some (iV x3), some (iV x4), none, none, none] [] (insT b s1 σ)) → AW m_X8_cut σ0 (tU b σ w) 208 [some (rV (some b)), some (iV x1), none, some (iV x3), some (iV x4), none, none, none] [] (insT b s0 σ) := by
  intro n
  induction n with
  | zero =>
    intro s0 x1 x3 x4 k h hk
    rw [f_X8_cut_L208] at h
    cases h
  | succ n ih =>
    intro s0 x1 x3 x4 k h hk
    rw [f_X8_cut_L208] at h
    refine AW.aload_n dX8_cut_208 rfl ?_
    refine AW.iload_n dX8_cut_209 rfl ?_
    refine AW.iload_n dX8_cut_210 rfl ?_
    refine AW.iadd dX8_cut_211 ?_
    refine AW.tVI (M' := m_X8_byteAt) [iV (x1 + x3)] [] dX8_cut_212 q1787 q1789 qs66 q139 q1790 rfl n_X8_byteAt rfl rfl rfl (fun _ _ e => c_X8_byteAt e) h (fun v13 s12 h => ?_)
    refine AW.tSI (M' := m_X8_isDigit) [iV v13] [] dX8_cut_215 q1798 q1799 q139 q1800 n_X8_isDigit rfl rfl rfl (fun _ _ e => c_X8_isDigit e) h (fun v15 s14 h => ?_)
    refine AW.if_eq 250 dX8_cut_218 (by decide) h (fun c19 h => ?_) (fun c19 h => ?_)
    · exact hk _ _ _ _ h
    · refine AW.iload_n dX8_cut_221 rfl ?_
      refine AW.iconst dX8_cut_222 ?_
      refine AW.icmp_ge 244 dX8_cut_223 (by decide) h (fun c18 h => ?_) (fun c18 h => ?_)
      · refine AW.iinc (L' := [some (rV (some b)), some (iV x1), none, some (iV (x3 + 1)), some (iV x4), none, none, none]) dX8_cut_244 rfl (Nat.le_of_ble_eq_true rfl) rfl rfl ?_
        refine AW.goto (tgt := 208) dX8_cut_247 (by decide) ?_
        exact ih _ _ _ _ _ h hk
      · refine AW.bipush dX8_cut_226 (by decide) ?_
        refine AW.iload dX8_cut_228 rfl ?_
        refine AW.imul dX8_cut_230 ?_
        refine AW.aload_n dX8_cut_231 rfl ?_
        refine AW.iload_n dX8_cut_232 rfl ?_
        refine AW.iload_n dX8_cut_233 rfl ?_
        refine AW.iadd dX8_cut_234 ?_
        refine AW.tVI (M' := m_X8_byteAt) [iV (x1 + x3)] [iV (10 * x4)] dX8_cut_235 q1787 q1789 qs66 q139 q1790 rfl n_X8_byteAt rfl rfl rfl (fun _ _ e => c_X8_byteAt e) h (fun v17 s16 h => ?_)
        refine AW.iadd dX8_cut_238 ?_
        refine AW.bipush dX8_cut_239 (by decide) ?_
        refine AW.isub dX8_cut_241 ?_
        refine AW.istore (L' := [some (rV (some b)), some (iV x1), none, some (iV x3), some (iV (((10 * x4) + v17) - 48)), none, none, none]) dX8_cut_242 (Nat.le_of_ble_eq_true rfl) rfl rfl ?_
        refine AW.iinc (L' := [some (rV (some b)), some (iV x1), none, some (iV (x3 + 1)), some (iV (((10 * x4) + v17) - 48)), none, none, none]) dX8_cut_244 rfl (Nat.le_of_ble_eq_true rfl) rfl rfl ?_
        refine AW.goto (tgt := 208) dX8_cut_247 (by decide) ?_
        exact ih _ _ _ _ _ h hk
def f_X8_cut_L85 : Nat → TW → Int → Int → Int → (TW → Int → Int → Int → Option (Unit × TW)) → Option (Unit × TW)
  | 0, _, _, _, _, _ => none
  | n + 1, s0, x1, x3, x4, k => bt_ (f_X8_byteAt s0 (x1 + x3)) fun v26 s25 => bt_ (f_X8_isLetter s25 v26) fun v28 s27 => (if nrm v28 = 0 then (k s27 x1 x3 x4) else ((if nrm 8 ≤ nrm x3 then (f_X8_cut_L85 n s27 x1 (x3 + 1) x4 k) else (bt_ (f_X8_byteAt s27 (x1 + x3)) fun v30 s29 => bt_ (f_X8_appends s29 x4 v30) fun v32 s31 => f_X8_cut_L85 n s31 x1 (x3 + 1) v32 k))))
theorem w_X8_cut_L85 {b : Nat} {σ σ0 : Hp} {w : Unit × TW} : ∀ (n : Nat) (s0 : TW) (x1 : Int) (x3 : Int) (x4 : Int) (k : (TW → Int → Int → Int → Option (Unit × TW))), f_X8_cut_L85 n s0 x1 x3 x4 k = some w → (∀ (s1 : TW) (x1 : Int) (x3 : Int) (x4 : Int), k s1 x1 x3 x4 = some w → AW m_X8_cut σ0 (tU b σ w) 124 [some (rV (some b)), some (iV x1), none, some (iV x3), some (jV x4), none, none, none] [] (insT b s1 σ)) → AW m_X8_cut σ0 (tU b σ w) 85 [some (rV (some b)), some (iV x1), none, some (iV x3), some (jV x4), none, none, none] [] (insT b s0 σ) := by
  intro n
  induction n with
  | zero =>
    intro s0 x1 x3 x4 k h hk
    rw [f_X8_cut_L85] at h
    cases h
  | succ n ih =>
    intro s0 x1 x3 x4 k h hk
    rw [f_X8_cut_L85] at h
    refine AW.aload_n dX8_cut_85 rfl ?_
    refine AW.iload_n dX8_cut_86 rfl ?_
    refine AW.iload_n dX8_cut_87 rfl ?_
    refine AW.iadd dX8_cut_88 ?_
    refine AW.tVI (M' := m_X8_byteAt) [iV (x1 + x3)] [] dX8_cut_89 q1787 q1789 qs66 q139 q1790 rfl n_X8_byteAt rfl rfl rfl (fun _ _ e => c_X8_byteAt e) h (fun v26 s25 h => ?_)
    refine AW.tSI (M' := m_X8_isLetter) [iV v26] [] dX8_cut_92 q1795 q1796 q139 q1797 n_X8_isLetter rfl rfl rfl (fun _ _ e => c_X8_isLetter e) h (fun v28 s27 h => ?_)
    refine AW.if_eq 124 dX8_cut_95 (by decide) h (fun c34 h => ?_) (fun c34 h => ?_)
    · exact hk _ _ _ _ h
    · refine AW.iload_n dX8_cut_98 rfl ?_
      refine AW.bipush dX8_cut_99 (by decide) ?_
      refine AW.icmp_ge 118 dX8_cut_101 (by decide) h (fun c33 h => ?_) (fun c33 h => ?_)
      · refine AW.iinc (L' := [some (rV (some b)), some (iV x1), none, some (iV (x3 + 1)), some (jV x4), none, none, none]) dX8_cut_118 rfl (Nat.le_of_ble_eq_true rfl) rfl rfl ?_
        refine AW.goto (tgt := 85) dX8_cut_121 (by decide) ?_
        exact ih _ _ _ _ _ h hk
      · refine AW.lload dX8_cut_104 rfl ?_
        refine AW.aload_n dX8_cut_106 rfl ?_
        refine AW.iload_n dX8_cut_107 rfl ?_
        refine AW.iload_n dX8_cut_108 rfl ?_
        refine AW.iadd dX8_cut_109 ?_
        refine AW.tVI (M' := m_X8_byteAt) [iV (x1 + x3)] [jV x4] dX8_cut_110 q1787 q1789 qs66 q139 q1790 rfl n_X8_byteAt rfl rfl rfl (fun _ _ e => c_X8_byteAt e) h (fun v30 s29 h => ?_)
        refine AW.tSJ (M' := m_X8_appends) [jV x4, iV v30] [] dX8_cut_113 q1494 q1495 q139 q1496 n_X8_appends rfl rfl rfl (fun _ _ e => c_X8_appends e) h (fun v32 s31 h => ?_)
        refine AW.lstore (L' := [some (rV (some b)), some (iV x1), none, some (iV x3), some (jV v32), none, none, none]) dX8_cut_116 (Nat.le_of_ble_eq_true rfl) rfl rfl ?_
        refine AW.iinc (L' := [some (rV (some b)), some (iV x1), none, some (iV (x3 + 1)), some (jV v32), none, none, none]) dX8_cut_118 rfl (Nat.le_of_ble_eq_true rfl) rfl rfl ?_
        refine AW.goto (tgt := 85) dX8_cut_121 (by decide) ?_
        exact ih _ _ _ _ _ h hk
def f_X8_cut_L146 : Nat → TW → Int → Int → Int → Int → Int → (TW → Int → Int → Int → Int → Option (Unit × TW)) → Option (Unit × TW)
  | 0, _, _, _, _, _, _, _ => none
  | n + 1, s0, x1, x3, x4, x6, x7, k => (if nrm 17 ≤ nrm x7 then (k s0 x1 x3 x4 x6) else ((ta s0 9 x7).bind fun v39 => (if ¬ nrm (cmJ v39 x4) = 0 then (f_X8_cut_L146 n s0 x1 x3 x4 x6 (x7 + 1) k) else (f_X8_cut_L146 n s0 x1 x3 x4 (20 + x7) (x7 + 1) k))))
theorem w_X8_cut_L146 {b : Nat} {σ σ0 : Hp} {w : Unit × TW} : ∀ (n : Nat) (s0 : TW) (x1 : Int) (x3 : Int) (x4 : Int) (x6 : Int) (x7 : Int) (k : (TW → Int → Int → Int → Int → Option (Unit × TW))), f_X8_cut_L146 n s0 x1 x3 x4 x6 x7 k = some w → (∀ (s1 : TW) (x1 : Int) (x3 : Int) (x4 : Int) (x6 : Int), k s1 x1 x3 x4 x6 = some w → AW m_X8_cut σ0 (tU b σ w) 179 [some (rV (some b)), some (iV x1), none, some (iV x3), some (jV x4), none, some (iV x6), none] [] (insT b s1 σ)) → AW m_X8_cut σ0 (tU b σ w) 146 [some (rV (some b)), some (iV x1), none, some (iV x3), some (jV x4), none, some (iV x6), some (iV x7)] [] (insT b s0 σ) := by
  intro n
  induction n with
  | zero =>
    intro s0 x1 x3 x4 x6 x7 k h hk
    rw [f_X8_cut_L146] at h
    cases h
  | succ n ih =>
    intro s0 x1 x3 x4 x6 x7 k h hk
    rw [f_X8_cut_L146] at h
    refine AW.iload dX8_cut_146 rfl ?_
    refine AW.bipush dX8_cut_148 (by decide) ?_
    refine AW.icmp_ge 179 dX8_cut_150 (by decide) h (fun c41 h => ?_) (fun c41 h => ?_)
    · exact AW.fewer (L' := [some (rV (some b)), some (iV x1), none, some (iV x3), some (jV x4), none, some (iV x6), none]) (And.intro rfl (And.intro rfl (And.intro rfl (And.intro rfl (And.intro rfl trivial))))) (hk _ _ _ _ _ h)
    · refine AW.aload_n dX8_cut_153 rfl ?_
      refine AW.tgR (k := 9) dX8_cut_154 (Nat.le_of_ble_eq_true rfl) (fun _ => rfl) q1549 rfl ia9 ?_
      refine AW.iload dX8_cut_157 rfl ?_
      refine AW.tlald (k := 9) dX8_cut_159 ia9 (Nat.le_of_ble_eq_true rfl) rfl h (fun v39 h => ?_)
      refine AW.lload dX8_cut_160 rfl ?_
      refine AW.lcmp dX8_cut_162 ?_
      refine AW.if_ne 173 dX8_cut_163 (by decide) h (fun c40 h => ?_) (fun c40 h => ?_)
      · refine AW.iinc (L' := [some (rV (some b)), some (iV x1), none, some (iV x3), some (jV x4), none, some (iV x6), some (iV (x7 + 1))]) dX8_cut_173 rfl (Nat.le_of_ble_eq_true rfl) rfl rfl ?_
        refine AW.goto (tgt := 146) dX8_cut_176 (by decide) ?_
        exact ih _ _ _ _ _ _ _ h hk
      · refine AW.bipush dX8_cut_166 (by decide) ?_
        refine AW.iload dX8_cut_168 rfl ?_
        refine AW.iadd dX8_cut_170 ?_
        refine AW.istore (L' := [some (rV (some b)), some (iV x1), none, some (iV x3), some (jV x4), none, some (iV (20 + x7)), some (iV x7)]) dX8_cut_171 (Nat.le_of_ble_eq_true rfl) rfl rfl ?_
        refine AW.iinc (L' := [some (rV (some b)), some (iV x1), none, some (iV x3), some (jV x4), none, some (iV (20 + x7)), some (iV (x7 + 1))]) dX8_cut_173 rfl (Nat.le_of_ble_eq_true rfl) rfl rfl ?_
        refine AW.goto (tgt := 146) dX8_cut_176 (by decide) ?_
        exact ih _ _ _ _ _ _ _ h hk
def f_X8_cut_L7 : Nat → TW → Int → (TW → Option (Unit × TW)) → Option (Unit × TW)
  | 0, _, _, _ => none
  | n + 1, s0, x1, k => (if nrm 400 < nrm (s0.1 10) then (k s0) else (bt_ (f_X8_byteAt s0 x1) fun v3 s2 => (if nrm x1 < nrm (s2.1 4) then ((if nrm v3 = nrm 9 then (f_X8_cut_L7 n s2 (x1 + 1) k) else ((if nrm v3 = nrm 10 then (f_X8_cut_L7 n s2 (x1 + 1) k) else ((if nrm v3 = nrm 13 then (f_X8_cut_L7 n s2 (x1 + 1) k) else ((if ¬ nrm v3 = nrm 32 then (bt_ (f_X8_isLetter s2 v3) fun v5 s4 => (if nrm v5 = 0 then (bt_ (f_X8_isDigit s4 v3) fun v7 s6 => (if nrm v7 = 0 then (bt_ (f_X8_byteAt s6 (x1 + 1)) fun v9 s8 => bt_ (f_X8_sign s8 x1 v3 v9) fun v11 s10 => f_X8_cut_L7 n s10 (x1 + v11) k) else (f_X8_cut_L208 FU s6 x1 0 0 (fun s20 x1 x3 x4 => jn (fun (s21 : TW) (x1 : Int) (x3 : Int) (x4 : Int) (y1 : Int) => bt_ (f_X8_token s21 y1 x1 x4 0) fun _ s22 => f_X8_cut_L7 n s22 (x1 + x3) k) fun j261 => (if nrm x3 ≤ nrm 4 then (j261 s20 x1 x3 x4 2) else (j261 s20 x1 x3 x4 3)))))) else (f_X8_cut_L85 FU s4 x1 0 0 (fun s35 x1 x3 x4 => jn (fun (s36 : TW) (x1 : Int) (x3 : Int) (x4 : Int) (y0 : Int) => jn (fun (s37 : TW) (x1 : Int) (x3 : Int) (x4 : Int) (x6 : Int) => bt_ (f_X8_token s37 x6 x1 0 x4) fun _ s38 => f_X8_cut_L7 n s38 (x1 + x3) k) fun j179 => (if nrm 7 < nrm x3 then (j179 s36 x1 x3 x4 y0) else (f_X8_cut_L146 FU s36 x1 x3 x4 y0 0 (fun s42 x1 x3 x4 x6 => j179 s42 x1 x3 x4 x6)))) fun j135 => (if nrm x3 ≤ nrm 8 then (j135 s35 x1 x3 x4 1) else (j135 s35 x1 x3 x4 3)))))) else (f_X8_cut_L7 n s2 (x1 + 1) k))))))))) else (bt_ (f_X8_token s2 0 (s2.1 4) 0 0) fun _ s50 => some ((), s50)))))
theorem w_X8_cut_L7 {b : Nat} {σ σ0 : Hp} {w : Unit × TW} : ∀ (n : Nat) (s0 : TW) (x1 : Int) (k : (TW → Option (Unit × TW))), f_X8_cut_L7 n s0 x1 k = some w → (∀ (s1 : TW), k s1 = some w → AW m_X8_cut σ0 (tU b σ w) 294 [none, none, none, none, none, none, none, none] [] (insT b s1 σ)) → AW m_X8_cut σ0 (tU b σ w) 7 [some (rV (some b)), some (iV x1), none, none, none, none, none, none] [] (insT b s0 σ) := by
  intro n
  induction n with
  | zero =>
    intro s0 x1 k h hk
    rw [f_X8_cut_L7] at h
    cases h
  | succ n ih =>
    intro s0 x1 k h hk
    rw [f_X8_cut_L7] at h
    refine AW.aload_n dX8_cut_7 rfl ?_
    refine AW.tgI (k := 10) dX8_cut_8 (Nat.le_of_ble_eq_true rfl) (fun _ => rfl) q1550 rfl ?_
    refine AW.sipush dX8_cut_11 (by decide) ?_
    refine AW.icmp_gt 294 dX8_cut_14 (by decide) h (fun c52 h => ?_) (fun c52 h => ?_)
    · exact AW.fewer (L' := [none, none, none, none, none, none, none, none]) (trivial) (hk _ h)
    · refine AW.aload_n dX8_cut_17 rfl ?_
      refine AW.iload_n dX8_cut_18 rfl ?_
      refine AW.tVI (M' := m_X8_byteAt) [iV x1] [] dX8_cut_19 q1787 q1789 qs66 q139 q1790 rfl n_X8_byteAt rfl rfl rfl (fun _ _ e => c_X8_byteAt e) h (fun v3 s2 h => ?_)
      refine AW.istore_n (L' := [some (rV (some b)), some (iV x1), some (iV v3), none, none, none, none, none]) dX8_cut_22 (Nat.le_of_ble_eq_true rfl) rfl rfl ?_
      refine AW.iload_n dX8_cut_23 rfl ?_
      refine AW.aload_n dX8_cut_24 rfl ?_
      refine AW.tgI (k := 4) dX8_cut_25 (Nat.le_of_ble_eq_true rfl) (fun _ => rfl) q1544 rfl ?_
      refine AW.icmp_lt 43 dX8_cut_28 (by decide) h (fun c51 h => ?_) (fun c51 h => ?_)
      · refine AW.iload_n dX8_cut_43 rfl ?_
        refine AW.bipush dX8_cut_44 (by decide) ?_
        refine AW.icmp_eq 67 dX8_cut_46 (by decide) h (fun c49 h => ?_) (fun c49 h => ?_)
        · refine AW.iinc (L' := [some (rV (some b)), some (iV (x1 + 1)), some (iV v3), none, none, none, none, none]) dX8_cut_67 rfl (Nat.le_of_ble_eq_true rfl) rfl rfl ?_
          refine AW.goto (tgt := 291) dX8_cut_70 (by decide) ?_
          refine AW.goto (tgt := 7) dX8_cut_291 (by decide) ?_
          exact AW.fewer (L' := [some (rV (some b)), some (iV (x1 + 1)), none, none, none, none, none, none]) (And.intro rfl (And.intro rfl trivial)) (ih _ _ _ h hk)
        · refine AW.iload_n dX8_cut_49 rfl ?_
          refine AW.bipush dX8_cut_50 (by decide) ?_
          refine AW.icmp_eq 67 dX8_cut_52 (by decide) h (fun c48 h => ?_) (fun c48 h => ?_)
          · refine AW.iinc (L' := [some (rV (some b)), some (iV (x1 + 1)), some (iV v3), none, none, none, none, none]) dX8_cut_67 rfl (Nat.le_of_ble_eq_true rfl) rfl rfl ?_
            refine AW.goto (tgt := 291) dX8_cut_70 (by decide) ?_
            refine AW.goto (tgt := 7) dX8_cut_291 (by decide) ?_
            exact AW.fewer (L' := [some (rV (some b)), some (iV (x1 + 1)), none, none, none, none, none, none]) (And.intro rfl (And.intro rfl trivial)) (ih _ _ _ h hk)
          · refine AW.iload_n dX8_cut_55 rfl ?_
            refine AW.bipush dX8_cut_56 (by decide) ?_
            refine AW.icmp_eq 67 dX8_cut_58 (by decide) h (fun c47 h => ?_) (fun c47 h => ?_)
            · refine AW.iinc (L' := [some (rV (some b)), some (iV (x1 + 1)), some (iV v3), none, none, none, none, none]) dX8_cut_67 rfl (Nat.le_of_ble_eq_true rfl) rfl rfl ?_
              refine AW.goto (tgt := 291) dX8_cut_70 (by decide) ?_
              refine AW.goto (tgt := 7) dX8_cut_291 (by decide) ?_
              exact AW.fewer (L' := [some (rV (some b)), some (iV (x1 + 1)), none, none, none, none, none, none]) (And.intro rfl (And.intro rfl trivial)) (ih _ _ _ h hk)
            · refine AW.iload_n dX8_cut_61 rfl ?_
              refine AW.bipush dX8_cut_62 (by decide) ?_
              refine AW.icmp_ne 73 dX8_cut_64 (by decide) h (fun c46 h => ?_) (fun c46 h => ?_)
              · refine AW.iload_n dX8_cut_73 rfl ?_
                refine AW.tSI (M' := m_X8_isLetter) [iV v3] [] dX8_cut_74 q1795 q1796 q139 q1797 n_X8_isLetter rfl rfl rfl (fun _ _ e => c_X8_isLetter e) h (fun v5 s4 h => ?_)
                refine AW.if_eq 196 dX8_cut_77 (by decide) h (fun c45 h => ?_) (fun c45 h => ?_)
                · refine AW.iload_n dX8_cut_196 rfl ?_
                  refine AW.tSI (M' := m_X8_isDigit) [iV v3] [] dX8_cut_197 q1798 q1799 q139 q1800 n_X8_isDigit rfl rfl rfl (fun _ _ e => c_X8_isDigit e) h (fun v7 s6 h => ?_)
                  refine AW.if_eq 275 dX8_cut_200 (by decide) h (fun c24 h => ?_) (fun c24 h => ?_)
                  · refine AW.iload_n dX8_cut_275 rfl ?_
                    refine AW.aload_n dX8_cut_276 rfl ?_
                    refine AW.iload_n dX8_cut_277 rfl ?_
                    refine AW.iload_n dX8_cut_278 rfl ?_
                    refine AW.aload_n dX8_cut_279 rfl ?_
                    refine AW.iload_n dX8_cut_280 rfl ?_
                    refine AW.iconst dX8_cut_281 ?_
                    refine AW.iadd dX8_cut_282 ?_
                    refine AW.tVI (M' := m_X8_byteAt) [iV (x1 + 1)] [iV v3, iV x1, rV (some b), iV x1] dX8_cut_283 q1787 q1789 qs66 q139 q1790 rfl n_X8_byteAt rfl rfl rfl (fun _ _ e => c_X8_byteAt e) h (fun v9 s8 h => ?_)
                    refine AW.tVI (M' := m_X8_sign) [iV x1, iV v3, iV v9] [iV x1] dX8_cut_286 q1801 q1803 qs68 q139 q1804 rfl n_X8_sign rfl rfl rfl (fun _ _ e => c_X8_sign e) h (fun v11 s10 h => ?_)
                    refine AW.iadd dX8_cut_289 ?_
                    refine AW.istore_n (L' := [some (rV (some b)), some (iV (x1 + v11)), some (iV v3), none, none, none, none, none]) dX8_cut_290 (Nat.le_of_ble_eq_true rfl) rfl rfl ?_
                    refine AW.goto (tgt := 7) dX8_cut_291 (by decide) ?_
                    exact AW.fewer (L' := [some (rV (some b)), some (iV (x1 + v11)), none, none, none, none, none, none]) (And.intro rfl (And.intro rfl trivial)) (ih _ _ _ h hk)
                  · refine AW.iconst dX8_cut_203 ?_
                    refine AW.istore_n (L' := [some (rV (some b)), some (iV x1), some (iV v3), some (iV 0), none, none, none, none]) dX8_cut_204 (Nat.le_of_ble_eq_true rfl) rfl rfl ?_
                    refine AW.iconst dX8_cut_205 ?_
                    refine AW.istore (L' := [some (rV (some b)), some (iV x1), some (iV v3), some (iV 0), some (iV 0), none, none, none]) dX8_cut_206 (Nat.le_of_ble_eq_true rfl) rfl rfl ?_
                    refine AW.fewer (L' := [some (rV (some b)), some (iV x1), none, some (iV 0), some (iV 0), none, none, none]) (And.intro rfl (And.intro rfl (And.intro rfl (And.intro rfl trivial)))) ?_
                    refine w_X8_cut_L208 _ _ _ _ _ _ h (fun s20 x1 x3 x4 h => ?_)
                    refine AW.aload_n dX8_cut_250 rfl ?_
                    refine AW.iload_n dX8_cut_251 rfl ?_
                    refine AW.iconst dX8_cut_252 ?_
                    refine jn_elim h (fun (j : (TW → Int → Int → Int → Int → Option (Unit × TW))) => ∀ (s21 : TW) (x1 : Int) (x3 : Int) (x4 : Int) (y1 : Int), j s21 x1 x3 x4 y1 = some w → AW m_X8_cut σ0 (tU b σ w) 261 [some (rV (some b)), some (iV x1), none, some (iV x3), some (iV x4), none, none, none] [iV y1, rV (some b)] (insT b s21 σ)) ?_ (fun j261 hj261 h => ?_)
                    · intro s21 x1 x3 x4 y1 h
                      refine AW.iload_n dX8_cut_261 rfl ?_
                      refine AW.iload dX8_cut_262 rfl ?_
                      refine AW.lconst (z := 0) dX8_cut_264 (by decide) ?_
                      refine AW.tVU (M' := m_X8_token) [iV y1, iV x1, iV x4, jV 0] [] dX8_cut_265 q1791 q1793 qs67 q139 q1794 rfl n_X8_token rfl rfl rfl (fun _ _ e => c_X8_token e) h (fun _ s22 h => ?_)
                      refine AW.iload_n dX8_cut_268 rfl ?_
                      refine AW.iload_n dX8_cut_269 rfl ?_
                      refine AW.iadd dX8_cut_270 ?_
                      refine AW.istore_n (L' := [some (rV (some b)), some (iV (x1 + x3)), none, some (iV x3), some (iV x4), none, none, none]) dX8_cut_271 (Nat.le_of_ble_eq_true rfl) rfl rfl ?_
                      refine AW.goto (tgt := 291) dX8_cut_272 (by decide) ?_
                      refine AW.goto (tgt := 7) dX8_cut_291 (by decide) ?_
                      exact AW.fewer (L' := [some (rV (some b)), some (iV (x1 + x3)), none, none, none, none, none, none]) (And.intro rfl (And.intro rfl trivial)) (ih _ _ _ h hk)
                    · refine AW.icmp_le 260 dX8_cut_253 (by decide) h (fun c23 h => ?_) (fun c23 h => ?_)
                      · refine AW.iconst dX8_cut_260 ?_
                        exact hj261 _ _ _ _ _ h
                      · refine AW.iconst dX8_cut_256 ?_
                        refine AW.goto (tgt := 261) dX8_cut_257 (by decide) ?_
                        exact hj261 _ _ _ _ _ h
                · refine AW.iconst dX8_cut_80 ?_
                  refine AW.istore_n (L' := [some (rV (some b)), some (iV x1), some (iV v3), some (iV 0), none, none, none, none]) dX8_cut_81 (Nat.le_of_ble_eq_true rfl) rfl rfl ?_
                  refine AW.lconst (z := 0) dX8_cut_82 (by decide) ?_
                  refine AW.lstore (L' := [some (rV (some b)), some (iV x1), some (iV v3), some (iV 0), some (jV 0), none, none, none]) dX8_cut_83 (Nat.le_of_ble_eq_true rfl) rfl rfl ?_
                  refine AW.fewer (L' := [some (rV (some b)), some (iV x1), none, some (iV 0), some (jV 0), none, none, none]) (And.intro rfl (And.intro rfl (And.intro rfl (And.intro rfl trivial)))) ?_
                  refine w_X8_cut_L85 _ _ _ _ _ _ h (fun s35 x1 x3 x4 h => ?_)
                  refine AW.iload_n dX8_cut_124 rfl ?_
                  refine AW.bipush dX8_cut_125 (by decide) ?_
                  refine jn_elim h (fun (j : (TW → Int → Int → Int → Int → Option (Unit × TW))) => ∀ (s36 : TW) (x1 : Int) (x3 : Int) (x4 : Int) (y0 : Int), j s36 x1 x3 x4 y0 = some w → AW m_X8_cut σ0 (tU b σ w) 135 [some (rV (some b)), some (iV x1), none, some (iV x3), some (jV x4), none, none, none] [iV y0] (insT b s36 σ)) ?_ (fun j135 hj135 h => ?_)
                  · intro s36 x1 x3 x4 y0 h
                    refine AW.istore (L' := [some (rV (some b)), some (iV x1), none, some (iV x3), some (jV x4), none, some (iV y0), none]) dX8_cut_135 (Nat.le_of_ble_eq_true rfl) rfl rfl ?_
                    refine AW.iload_n dX8_cut_137 rfl ?_
                    refine AW.bipush dX8_cut_138 (by decide) ?_
                    refine jn_elim h (fun (j : (TW → Int → Int → Int → Int → Option (Unit × TW))) => ∀ (s37 : TW) (x1 : Int) (x3 : Int) (x4 : Int) (x6 : Int), j s37 x1 x3 x4 x6 = some w → AW m_X8_cut σ0 (tU b σ w) 179 [some (rV (some b)), some (iV x1), none, some (iV x3), some (jV x4), none, some (iV x6), none] [] (insT b s37 σ)) ?_ (fun j179 hj179 h => ?_)
                    · intro s37 x1 x3 x4 x6 h
                      refine AW.aload_n dX8_cut_179 rfl ?_
                      refine AW.iload dX8_cut_180 rfl ?_
                      refine AW.iload_n dX8_cut_182 rfl ?_
                      refine AW.iconst dX8_cut_183 ?_
                      refine AW.lload dX8_cut_184 rfl ?_
                      refine AW.tVU (M' := m_X8_token) [iV x6, iV x1, iV 0, jV x4] [] dX8_cut_186 q1791 q1793 qs67 q139 q1794 rfl n_X8_token rfl rfl rfl (fun _ _ e => c_X8_token e) h (fun _ s38 h => ?_)
                      refine AW.iload_n dX8_cut_189 rfl ?_
                      refine AW.iload_n dX8_cut_190 rfl ?_
                      refine AW.iadd dX8_cut_191 ?_
                      refine AW.istore_n (L' := [some (rV (some b)), some (iV (x1 + x3)), none, some (iV x3), some (jV x4), none, some (iV x6), none]) dX8_cut_192 (Nat.le_of_ble_eq_true rfl) rfl rfl ?_
                      refine AW.goto (tgt := 291) dX8_cut_193 (by decide) ?_
                      refine AW.goto (tgt := 7) dX8_cut_291 (by decide) ?_
                      exact AW.fewer (L' := [some (rV (some b)), some (iV (x1 + x3)), none, none, none, none, none, none]) (And.intro rfl (And.intro rfl trivial)) (ih _ _ _ h hk)
                    · refine AW.icmp_gt 179 dX8_cut_140 (by decide) h (fun c43 h => ?_) (fun c43 h => ?_)
                      · exact hj179 _ _ _ _ _ h
                      · refine AW.iconst dX8_cut_143 ?_
                        refine AW.istore (L' := [some (rV (some b)), some (iV x1), none, some (iV x3), some (jV x4), none, some (iV y0), some (iV 0)]) dX8_cut_144 (Nat.le_of_ble_eq_true rfl) rfl rfl ?_
                        refine w_X8_cut_L146 _ _ _ _ _ _ _ _ h (fun s42 x1 x3 x4 x6 h => ?_)
                        exact hj179 _ _ _ _ _ h
                  · refine AW.icmp_le 134 dX8_cut_127 (by decide) h (fun c44 h => ?_) (fun c44 h => ?_)
                    · refine AW.iconst dX8_cut_134 ?_
                      exact hj135 _ _ _ _ _ h
                    · refine AW.iconst dX8_cut_130 ?_
                      refine AW.goto (tgt := 135) dX8_cut_131 (by decide) ?_
                      exact hj135 _ _ _ _ _ h
              · refine AW.iinc (L' := [some (rV (some b)), some (iV (x1 + 1)), some (iV v3), none, none, none, none, none]) dX8_cut_67 rfl (Nat.le_of_ble_eq_true rfl) rfl rfl ?_
                refine AW.goto (tgt := 291) dX8_cut_70 (by decide) ?_
                refine AW.goto (tgt := 7) dX8_cut_291 (by decide) ?_
                exact AW.fewer (L' := [some (rV (some b)), some (iV (x1 + 1)), none, none, none, none, none, none]) (And.intro rfl (And.intro rfl trivial)) (ih _ _ _ h hk)
      · refine AW.aload_n dX8_cut_31 rfl ?_
        refine AW.iconst dX8_cut_32 ?_
        refine AW.aload_n dX8_cut_33 rfl ?_
        refine AW.tgI (k := 4) dX8_cut_34 (Nat.le_of_ble_eq_true rfl) (fun _ => rfl) q1544 rfl ?_
        refine AW.iconst dX8_cut_37 ?_
        refine AW.lconst (z := 0) dX8_cut_38 (by decide) ?_
        refine AW.tVU (M' := m_X8_token) [iV 0, iV (s2.1 4), iV 0, jV 0] [] dX8_cut_39 q1791 q1793 qs67 q139 q1794 rfl n_X8_token rfl rfl rfl (fun _ _ e => c_X8_token e) h (fun _ s50 h => ?_)
        cases h
        exact AW.vret dX8_cut_42 rfl
def f_X8_cut (s0 : TW) : Option (Unit × TW) :=
  bd (tp s0 10 0) fun s1 => f_X8_cut_L7 FU s1 0 (fun s53 => some ((), s53))
theorem w_X8_cut {b : Nat} {σ σ0 : Hp} {w : Unit × TW} (s0 : TW) (h : f_X8_cut s0 = some w) : AW m_X8_cut σ0 (tU b σ w) 0 [some (rV (some b)), none, none, none, none, none, none, none] [] (insT b s0 σ) := by
  unfold f_X8_cut at h
  refine AW.aload_n dX8_cut_0 rfl ?_
  refine AW.iconst dX8_cut_1 ?_
  refine AW.tpB (k := 10) dX8_cut_2 (Nat.le_of_ble_eq_true rfl) rfl q1550 rfl rfl h (fun s1 h => ?_)
  refine AW.iconst dX8_cut_5 ?_
  refine AW.istore_n (L' := [some (rV (some b)), some (iV 0), none, none, none, none, none, none]) dX8_cut_6 (Nat.le_of_ble_eq_true rfl) rfl rfl ?_
  refine w_X8_cut_L7 _ _ _ _ h (fun s53 h => ?_)
  cases h
  exact AW.vret dX8_cut_294 rfl
theorem c_X8_cut {b : Nat} {σ : Hp} {s0 : TW} {v : Unit} {s1 : TW} (h : f_X8_cut s0 = some (v, s1)) : Ct m_X8_cut [rV (some b)] (insT b s0 σ) (.inl none, insT b s1 σ) :=
  Ct.of2 (w_X8_cut s0 h) (by decide) rfl rfl rfl
abbrev m_X8_seenIn : Mi := (yX8_seenIn, cX8_seenIn, (some .int), 4, 2, 45, [])
theorem n_X8_seenIn : nameOk yX8_seenIn 3 := ⟨by decide, by decide, by decide +kernel⟩
def f_X8_seenIn (s0 : TW) (x1 : Int) (x2 : Int) (x3 : Int) : Option (Int × TW) :=
  (if nrm x2 < 0 then (some ((-2), s0)) else ((if nrm x1 = nrm x3 then (some ((-2), s0)) else (bt_ (f_X8_hungIn s0 x3 x2) fun v2 s1 => bt_ (f_X8_hungIn s1 x1 x2) fun v4 s3 => (if nrm v2 = nrm v4 then (bt_ (f_X8_showsAt s3 x3 x2) fun v6 s5 => some (v6, s5)) else (some ((-2), s3)))))))
theorem w_X8_seenIn {b : Nat} {σ σ0 : Hp} {w : Int × TW} (s0 : TW) (x1 : Int) (x2 : Int) (x3 : Int) (h : f_X8_seenIn s0 x1 x2 x3 = some w) : AW m_X8_seenIn σ0 (tI b σ w) 0 [some (rV (some b)), some (iV x1), some (iV x2), some (iV x3)] [] (insT b s0 σ) := by
  unfold f_X8_seenIn at h
  refine AW.iload_n dX8_seenIn_0 rfl ?_
  refine AW.if_lt 24 dX8_seenIn_1 (by decide) h (fun c9 h => ?_) (fun c9 h => ?_)
  · refine AW.bipush dX8_seenIn_24 (by decide) ?_
    refine AW.goto (tgt := 35) dX8_seenIn_26 (by decide) ?_
    cases h
    exact AW.iret dX8_seenIn_35 rfl
  · refine AW.iload_n dX8_seenIn_4 rfl ?_
    refine AW.iload_n dX8_seenIn_5 rfl ?_
    refine AW.icmp_eq 24 dX8_seenIn_6 (by decide) h (fun c8 h => ?_) (fun c8 h => ?_)
    · refine AW.bipush dX8_seenIn_24 (by decide) ?_
      refine AW.goto (tgt := 35) dX8_seenIn_26 (by decide) ?_
      cases h
      exact AW.iret dX8_seenIn_35 rfl
    · refine AW.aload_n dX8_seenIn_9 rfl ?_
      refine AW.iload_n dX8_seenIn_10 rfl ?_
      refine AW.iload_n dX8_seenIn_11 rfl ?_
      refine AW.tVI (M' := m_X8_hungIn) [iV x3, iV x2] [] dX8_seenIn_12 q1924 q1926 qs95 q139 q1927 rfl n_X8_hungIn rfl rfl rfl (fun _ _ e => c_X8_hungIn e) h (fun v2 s1 h => ?_)
      refine AW.aload_n dX8_seenIn_15 rfl ?_
      refine AW.iload_n dX8_seenIn_16 rfl ?_
      refine AW.iload_n dX8_seenIn_17 rfl ?_
      refine AW.tVI (M' := m_X8_hungIn) [iV x1, iV x2] [iV v2] dX8_seenIn_18 q1924 q1926 qs95 q139 q1927 rfl n_X8_hungIn rfl rfl rfl (fun _ _ e => c_X8_hungIn e) h (fun v4 s3 h => ?_)
      refine AW.icmp_eq 29 dX8_seenIn_21 (by decide) h (fun c7 h => ?_) (fun c7 h => ?_)
      · refine AW.aload_n dX8_seenIn_29 rfl ?_
        refine AW.iload_n dX8_seenIn_30 rfl ?_
        refine AW.iload_n dX8_seenIn_31 rfl ?_
        refine AW.tVI (M' := m_X8_showsAt) [iV x3, iV x2] [] dX8_seenIn_32 q1916 q1918 qs93 q139 q1919 rfl n_X8_showsAt rfl rfl rfl (fun _ _ e => c_X8_showsAt e) h (fun v6 s5 h => ?_)
        cases h
        exact AW.iret dX8_seenIn_35 rfl
      · refine AW.bipush dX8_seenIn_24 (by decide) ?_
        refine AW.goto (tgt := 35) dX8_seenIn_26 (by decide) ?_
        cases h
        exact AW.iret dX8_seenIn_35 rfl
theorem c_X8_seenIn {b : Nat} {σ : Hp} {s0 : TW} {x1 : Int} {x2 : Int} {x3 : Int} {v : Int} {s1 : TW} (h : f_X8_seenIn s0 x1 x2 x3 = some (v, s1)) : Ct m_X8_seenIn [rV (some b), iV x1, iV x2, iV x3] (insT b s0 σ) (.inl (some (iV v)), insT b s1 σ) :=
  Ct.of2 (w_X8_seenIn s0 x1 x2 x3 h) (by decide) rfl rfl rfl
abbrev m_X8_deepest : Mi := (yX8_deepest, cX8_deepest, (some .int), 9, 3, 68, [])
theorem n_X8_deepest : nameOk yX8_deepest 2 := ⟨by decide, by decide, by decide +kernel⟩
def f_X8_deepest_L46 : Nat → TW → Int → Int → Int → Int → Int → (TW → Int → Int → Int → Int → Option (Int × TW)) → Option (Int × TW)
  | 0, _, _, _, _, _, _, _ => none
  | n + 1, s0, x1, x2, x3, x4, x5, k => (if nrm 2400 ≤ nrm x5 then (k s0 x1 x2 x3 x4) else ((ts s0 63 x5 (b1I 0)).bind fun s8 => f_X8_deepest_L46 n s8 x1 x2 x3 x4 (x5 + 1) k))
theorem w_X8_deepest_L46 {b : Nat} {σ σ0 : Hp} {w : Int × TW} : ∀ (n : Nat) (s0 : TW) (x1 : Int) (x2 : Int) (x3 : Int) (x4 : Int) (x5 : Int) (k : (TW → Int → Int → Int → Int → Option (Int × TW))), f_X8_deepest_L46 n s0 x1 x2 x3 x4 x5 k = some w → (∀ (s1 : TW) (x1 : Int) (x2 : Int) (x3 : Int) (x4 : Int), k s1 x1 x2 x3 x4 = some w → AW m_X8_deepest σ0 (tI b σ w) 68 [some (rV (some b)), some (iV x1), some (iV x2), some (iV x3), some (iV x4), none, none, none, none] [] (insT b s1 σ)) → AW m_X8_deepest σ0 (tI b σ w) 46 [some (rV (some b)), some (iV x1), some (iV x2), some (iV x3), some (iV x4), some (iV x5), none, none, none] [] (insT b s0 σ) := by
  intro n
  induction n with
  | zero =>
    intro s0 x1 x2 x3 x4 x5 k h hk
    rw [f_X8_deepest_L46] at h
    cases h
  | succ n ih =>
    intro s0 x1 x2 x3 x4 x5 k h hk
    rw [f_X8_deepest_L46] at h
    refine AW.iload dX8_deepest_46 rfl ?_
    refine AW.sipush dX8_deepest_48 (by decide) ?_
    refine AW.icmp_ge 68 dX8_deepest_51 (by decide) h (fun c9 h => ?_) (fun c9 h => ?_)
    · exact AW.fewer (L' := [some (rV (some b)), some (iV x1), some (iV x2), some (iV x3), some (iV x4), none, none, none, none]) (And.intro rfl (And.intro rfl (And.intro rfl (And.intro rfl (And.intro rfl trivial))))) (hk _ _ _ _ _ h)
    · refine AW.aload_n dX8_deepest_54 rfl ?_
      refine AW.tgR (k := 63) dX8_deepest_55 (Nat.le_of_ble_eq_true rfl) (fun _ => rfl) q1603 rfl ia63 ?_
      refine AW.iload dX8_deepest_58 rfl ?_
      refine AW.iconst dX8_deepest_60 ?_
      refine AW.tzast (k := 63) dX8_deepest_61 ia63 (Nat.le_of_ble_eq_true rfl) mt63 rfl h (fun s8 h => ?_)
      refine AW.iinc (L' := [some (rV (some b)), some (iV x1), some (iV x2), some (iV x3), some (iV x4), some (iV (x5 + 1)), none, none, none]) dX8_deepest_62 rfl (Nat.le_of_ble_eq_true rfl) rfl rfl ?_
      refine AW.goto (tgt := 46) dX8_deepest_65 (by decide) ?_
      exact ih _ _ _ _ _ _ _ h hk
def f_X8_deepest_L93 : Nat → TW → Int → Int → Int → Int → Int → (TW → Int → Int → Int → Int → Option (Int × TW)) → Option (Int × TW)
  | 0, _, _, _, _, _, _, _ => none
  | n + 1, s0, x2, x3, x4, x5, x6, k => (if nrm 2400 ≤ nrm x6 then (k s0 x2 x3 x4 x5) else ((ts s0 64 x6 (b1I 0)).bind fun s12 => f_X8_deepest_L93 n s12 x2 x3 x4 x5 (x6 + 1) k))
theorem w_X8_deepest_L93 {b : Nat} {σ σ0 : Hp} {w : Int × TW} : ∀ (n : Nat) (s0 : TW) (x2 : Int) (x3 : Int) (x4 : Int) (x5 : Int) (x6 : Int) (k : (TW → Int → Int → Int → Int → Option (Int × TW))), f_X8_deepest_L93 n s0 x2 x3 x4 x5 x6 k = some w → (∀ (s1 : TW) (x2 : Int) (x3 : Int) (x4 : Int) (x5 : Int), k s1 x2 x3 x4 x5 = some w → AW m_X8_deepest σ0 (tI b σ w) 115 [some (rV (some b)), none, some (iV x2), some (iV x3), some (iV x4), some (iV x5), none, none, none] [] (insT b s1 σ)) → AW m_X8_deepest σ0 (tI b σ w) 93 [some (rV (some b)), none, some (iV x2), some (iV x3), some (iV x4), some (iV x5), some (iV x6), none, none] [] (insT b s0 σ) := by
  intro n
  induction n with
  | zero =>
    intro s0 x2 x3 x4 x5 x6 k h hk
    rw [f_X8_deepest_L93] at h
    cases h
  | succ n ih =>
    intro s0 x2 x3 x4 x5 x6 k h hk
    rw [f_X8_deepest_L93] at h
    refine AW.iload dX8_deepest_93 rfl ?_
    refine AW.sipush dX8_deepest_95 (by decide) ?_
    refine AW.icmp_ge 115 dX8_deepest_98 (by decide) h (fun c13 h => ?_) (fun c13 h => ?_)
    · exact AW.fewer (L' := [some (rV (some b)), none, some (iV x2), some (iV x3), some (iV x4), some (iV x5), none, none, none]) (And.intro rfl (And.intro rfl (And.intro rfl (And.intro rfl (And.intro rfl trivial))))) (hk _ _ _ _ _ h)
    · refine AW.aload_n dX8_deepest_101 rfl ?_
      refine AW.tgR (k := 64) dX8_deepest_102 (Nat.le_of_ble_eq_true rfl) (fun _ => rfl) q1604 rfl ia64 ?_
      refine AW.iload dX8_deepest_105 rfl ?_
      refine AW.iconst dX8_deepest_107 ?_
      refine AW.tzast (k := 64) dX8_deepest_108 ia64 (Nat.le_of_ble_eq_true rfl) mt64 rfl h (fun s12 h => ?_)
      refine AW.iinc (L' := [some (rV (some b)), none, some (iV x2), some (iV x3), some (iV x4), some (iV x5), some (iV (x6 + 1)), none, none]) dX8_deepest_109 rfl (Nat.le_of_ble_eq_true rfl) rfl rfl ?_
      refine AW.goto (tgt := 93) dX8_deepest_112 (by decide) ?_
      exact ih _ _ _ _ _ _ _ h hk
def f_X8_deepest_L142 : Nat → TW → Int → Int → Int → Int → Int → Int → (TW → Int → Int → Int → Int → Int → Option (Int × TW)) → Option (Int × TW)
  | 0, _, _, _, _, _, _, _, _ => none
  | n + 1, s0, x2, x3, x4, x5, x6, x7, k => (ta s0 31 (s0.1 18)).bind fun v16 => (if nrm v16 ≤ nrm x7 then (k s0 x2 x3 x4 x5 x6) else (bt_ (f_X8_seenIn s0 (dvI x6 300) (rmI x6 300) x7) fun v18 s17 => jn (fun (s19 : TW) (x2 : Int) (x3 : Int) (x4 : Int) (x5 : Int) (x6 : Int) (x7 : Int) (x8 : Int) => (if nrm x8 < 0 then (f_X8_deepest_L142 n s19 x2 x3 x4 x5 x6 (x7 + 1) k) else ((if nrm x3 ≤ nrm x8 then (f_X8_deepest_L142 n s19 x2 x3 x4 x5 x6 (x7 + 1) k) else (f_X8_deepest_L142 n s19 x2 x8 x5 x5 x6 (x7 + 1) k))))) fun j196 => (if nrm v18 < 0 then (j196 s17 x2 x3 x4 x5 x6 x7 v18) else ((ts s17 64 ((300 * x7) + v18) (b1I 1)).bind fun s22 => j196 s22 x2 x3 x4 x5 x6 x7 v18))))
theorem w_X8_deepest_L142 {b : Nat} {σ σ0 : Hp} {w : Int × TW} : ∀ (n : Nat) (s0 : TW) (x2 : Int) (x3 : Int) (x4 : Int) (x5 : Int) (x6 : Int) (x7 : Int) (k : (TW → Int → Int → Int → Int → Int → Option (Int × TW))), f_X8_deepest_L142 n s0 x2 x3 x4 x5 x6 x7 k = some w → (∀ (s1 : TW) (x2 : Int) (x3 : Int) (x4 : Int) (x5 : Int) (x6 : Int), k s1 x2 x3 x4 x5 x6 = some w → AW m_X8_deepest σ0 (tI b σ w) 220 [some (rV (some b)), none, some (iV x2), some (iV x3), some (iV x4), some (iV x5), some (iV x6), none, none] [] (insT b s1 σ)) → AW m_X8_deepest σ0 (tI b σ w) 142 [some (rV (some b)), none, some (iV x2), some (iV x3), some (iV x4), some (iV x5), some (iV x6), some (iV x7), none] [] (insT b s0 σ) := by
  intro n
  induction n with
  | zero =>
    intro s0 x2 x3 x4 x5 x6 x7 k h hk
    rw [f_X8_deepest_L142] at h
    cases h
  | succ n ih =>
    intro s0 x2 x3 x4 x5 x6 x7 k h hk
    rw [f_X8_deepest_L142] at h
    refine AW.iload dX8_deepest_142 rfl ?_
    refine AW.aload_n dX8_deepest_144 rfl ?_
    refine AW.tgR (k := 31) dX8_deepest_145 (Nat.le_of_ble_eq_true rfl) (fun _ => rfl) q1571 rfl ia31 ?_
    refine AW.aload_n dX8_deepest_148 rfl ?_
    refine AW.tgI (k := 18) dX8_deepest_149 (Nat.le_of_ble_eq_true rfl) (fun _ => rfl) q1558 rfl ?_
    refine AW.tiald (k := 31) dX8_deepest_152 ia31 (Nat.le_of_ble_eq_true rfl) rfl h (fun v16 h => ?_)
    refine AW.icmp_ge 220 dX8_deepest_153 (by decide) h (fun c24 h => ?_) (fun c24 h => ?_)
    · exact AW.fewer (L' := [some (rV (some b)), none, some (iV x2), some (iV x3), some (iV x4), some (iV x5), some (iV x6), none, none]) (And.intro rfl (And.intro rfl (And.intro rfl (And.intro rfl (And.intro rfl (And.intro rfl trivial)))))) (hk _ _ _ _ _ _ h)
    · refine AW.aload_n dX8_deepest_156 rfl ?_
      refine AW.iload dX8_deepest_157 rfl ?_
      refine AW.sipush dX8_deepest_159 (by decide) ?_
      refine AW.idiv dX8_deepest_162 (by decide) ?_
      refine AW.iload dX8_deepest_163 rfl ?_
      refine AW.sipush dX8_deepest_165 (by decide) ?_
      refine AW.irem dX8_deepest_168 (by decide) ?_
      refine AW.iload dX8_deepest_169 rfl ?_
      refine AW.tVI (M' := m_X8_seenIn) [iV (dvI x6 300), iV (rmI x6 300), iV x7] [] dX8_deepest_171 q2008 q2010 qs107 q139 q2011 rfl n_X8_seenIn rfl rfl rfl (fun _ _ e => c_X8_seenIn e) h (fun v18 s17 h => ?_)
      refine AW.istore (L' := [some (rV (some b)), none, some (iV x2), some (iV x3), some (iV x4), some (iV x5), some (iV x6), some (iV x7), some (iV v18)]) dX8_deepest_174 (Nat.le_of_ble_eq_true rfl) rfl rfl ?_
      refine AW.iload dX8_deepest_176 rfl ?_
      refine jn_elim h (fun (j : (TW → Int → Int → Int → Int → Int → Int → Int → Option (Int × TW))) => ∀ (s19 : TW) (x2 : Int) (x3 : Int) (x4 : Int) (x5 : Int) (x6 : Int) (x7 : Int) (x8 : Int), j s19 x2 x3 x4 x5 x6 x7 x8 = some w → AW m_X8_deepest σ0 (tI b σ w) 196 [some (rV (some b)), none, some (iV x2), some (iV x3), some (iV x4), some (iV x5), some (iV x6), some (iV x7), some (iV x8)] [] (insT b s19 σ)) ?_ (fun j196 hj196 h => ?_)
      · intro s19 x2 x3 x4 x5 x6 x7 x8 h
        refine AW.iload dX8_deepest_196 rfl ?_
        refine AW.if_lt 214 dX8_deepest_198 (by decide) h (fun c21 h => ?_) (fun c21 h => ?_)
        · refine AW.iinc (L' := [some (rV (some b)), none, some (iV x2), some (iV x3), some (iV x4), some (iV x5), some (iV x6), some (iV (x7 + 1)), some (iV x8)]) dX8_deepest_214 rfl (Nat.le_of_ble_eq_true rfl) rfl rfl ?_
          refine AW.goto (tgt := 142) dX8_deepest_217 (by decide) ?_
          exact AW.fewer (L' := [some (rV (some b)), none, some (iV x2), some (iV x3), some (iV x4), some (iV x5), some (iV x6), some (iV (x7 + 1)), none]) (And.intro rfl (And.intro rfl (And.intro rfl (And.intro rfl (And.intro rfl (And.intro rfl (And.intro rfl trivial))))))) (ih _ _ _ _ _ _ _ _ h hk)
        · refine AW.iload dX8_deepest_201 rfl ?_
          refine AW.iload_n dX8_deepest_203 rfl ?_
          refine AW.icmp_ge 214 dX8_deepest_204 (by decide) h (fun c20 h => ?_) (fun c20 h => ?_)
          · refine AW.iinc (L' := [some (rV (some b)), none, some (iV x2), some (iV x3), some (iV x4), some (iV x5), some (iV x6), some (iV (x7 + 1)), some (iV x8)]) dX8_deepest_214 rfl (Nat.le_of_ble_eq_true rfl) rfl rfl ?_
            refine AW.goto (tgt := 142) dX8_deepest_217 (by decide) ?_
            exact AW.fewer (L' := [some (rV (some b)), none, some (iV x2), some (iV x3), some (iV x4), some (iV x5), some (iV x6), some (iV (x7 + 1)), none]) (And.intro rfl (And.intro rfl (And.intro rfl (And.intro rfl (And.intro rfl (And.intro rfl (And.intro rfl trivial))))))) (ih _ _ _ _ _ _ _ _ h hk)
          · refine AW.iload dX8_deepest_207 rfl ?_
            refine AW.istore_n (L' := [some (rV (some b)), none, some (iV x2), some (iV x8), some (iV x4), some (iV x5), some (iV x6), some (iV x7), some (iV x8)]) dX8_deepest_209 (Nat.le_of_ble_eq_true rfl) rfl rfl ?_
            refine AW.iload dX8_deepest_210 rfl ?_
            refine AW.istore (L' := [some (rV (some b)), none, some (iV x2), some (iV x8), some (iV x5), some (iV x5), some (iV x6), some (iV x7), some (iV x8)]) dX8_deepest_212 (Nat.le_of_ble_eq_true rfl) rfl rfl ?_
            refine AW.iinc (L' := [some (rV (some b)), none, some (iV x2), some (iV x8), some (iV x5), some (iV x5), some (iV x6), some (iV (x7 + 1)), some (iV x8)]) dX8_deepest_214 rfl (Nat.le_of_ble_eq_true rfl) rfl rfl ?_
            refine AW.goto (tgt := 142) dX8_deepest_217 (by decide) ?_
            exact AW.fewer (L' := [some (rV (some b)), none, some (iV x2), some (iV x8), some (iV x5), some (iV x5), some (iV x6), some (iV (x7 + 1)), none]) (And.intro rfl (And.intro rfl (And.intro rfl (And.intro rfl (And.intro rfl (And.intro rfl (And.intro rfl trivial))))))) (ih _ _ _ _ _ _ _ _ h hk)
      · refine AW.if_lt 196 dX8_deepest_178 (by decide) h (fun c23 h => ?_) (fun c23 h => ?_)
        · exact hj196 _ _ _ _ _ _ _ _ h
        · refine AW.aload_n dX8_deepest_181 rfl ?_
          refine AW.tgR (k := 64) dX8_deepest_182 (Nat.le_of_ble_eq_true rfl) (fun _ => rfl) q1604 rfl ia64 ?_
          refine AW.sipush dX8_deepest_185 (by decide) ?_
          refine AW.iload dX8_deepest_188 rfl ?_
          refine AW.imul dX8_deepest_190 ?_
          refine AW.iload dX8_deepest_191 rfl ?_
          refine AW.iadd dX8_deepest_193 ?_
          refine AW.iconst dX8_deepest_194 ?_
          refine AW.tzast (k := 64) dX8_deepest_195 ia64 (Nat.le_of_ble_eq_true rfl) mt64 rfl h (fun s22 h => ?_)
          exact hj196 _ _ _ _ _ _ _ _ h
def f_X8_deepest_L118 : Nat → TW → Int → Int → Int → Int → Int → (TW → Int → Int → Int → Int → Option (Int × TW)) → Option (Int × TW)
  | 0, _, _, _, _, _, _, _ => none
  | n + 1, s0, x2, x3, x4, x5, x6, k => (if nrm 2400 ≤ nrm x6 then (k s0 x2 x3 x4 x5) else ((ta s0 63 x6).bind fun v15 => (if ¬ nrm v15 = 0 then (f_X8_deepest_L142 FU s0 x2 x3 x4 x5 x6 0 (fun s25 x2 x3 x4 x5 x6 => f_X8_deepest_L118 n s25 x2 x3 x4 x5 (x6 + 1) k)) else (f_X8_deepest_L118 n s0 x2 x3 x4 x5 (x6 + 1) k))))
theorem w_X8_deepest_L118 {b : Nat} {σ σ0 : Hp} {w : Int × TW} : ∀ (n : Nat) (s0 : TW) (x2 : Int) (x3 : Int) (x4 : Int) (x5 : Int) (x6 : Int) (k : (TW → Int → Int → Int → Int → Option (Int × TW))), f_X8_deepest_L118 n s0 x2 x3 x4 x5 x6 k = some w → (∀ (s1 : TW) (x2 : Int) (x3 : Int) (x4 : Int) (x5 : Int), k s1 x2 x3 x4 x5 = some w → AW m_X8_deepest σ0 (tI b σ w) 226 [some (rV (some b)), none, some (iV x2), some (iV x3), some (iV x4), some (iV x5), none, none, none] [] (insT b s1 σ)) → AW m_X8_deepest σ0 (tI b σ w) 118 [some (rV (some b)), none, some (iV x2), some (iV x3), some (iV x4), some (iV x5), some (iV x6), none, none] [] (insT b s0 σ) := by
  intro n
  induction n with
  | zero =>
    intro s0 x2 x3 x4 x5 x6 k h hk
    rw [f_X8_deepest_L118] at h
    cases h
  | succ n ih =>
    intro s0 x2 x3 x4 x5 x6 k h hk
    rw [f_X8_deepest_L118] at h
    refine AW.iload dX8_deepest_118 rfl ?_
    refine AW.sipush dX8_deepest_120 (by decide) ?_
    refine AW.icmp_ge 226 dX8_deepest_123 (by decide) h (fun c27 h => ?_) (fun c27 h => ?_)
    · exact AW.fewer (L' := [some (rV (some b)), none, some (iV x2), some (iV x3), some (iV x4), some (iV x5), none, none, none]) (And.intro rfl (And.intro rfl (And.intro rfl (And.intro rfl (And.intro rfl trivial))))) (hk _ _ _ _ _ h)
    · refine AW.aload_n dX8_deepest_126 rfl ?_
      refine AW.tgR (k := 63) dX8_deepest_127 (Nat.le_of_ble_eq_true rfl) (fun _ => rfl) q1603 rfl ia63 ?_
      refine AW.iload dX8_deepest_130 rfl ?_
      refine AW.tzald (k := 63) dX8_deepest_132 ia63 (Nat.le_of_ble_eq_true rfl) rfl h (fun v15 h => ?_)
      refine AW.if_ne 139 dX8_deepest_133 (by decide) h (fun c26 h => ?_) (fun c26 h => ?_)
      · refine AW.iconst dX8_deepest_139 ?_
        refine AW.istore (L' := [some (rV (some b)), none, some (iV x2), some (iV x3), some (iV x4), some (iV x5), some (iV x6), some (iV 0), none]) dX8_deepest_140 (Nat.le_of_ble_eq_true rfl) rfl rfl ?_
        refine w_X8_deepest_L142 _ _ _ _ _ _ _ _ _ h (fun s25 x2 x3 x4 x5 x6 h => ?_)
        refine AW.iinc (L' := [some (rV (some b)), none, some (iV x2), some (iV x3), some (iV x4), some (iV x5), some (iV (x6 + 1)), none, none]) dX8_deepest_220 rfl (Nat.le_of_ble_eq_true rfl) rfl rfl ?_
        refine AW.goto (tgt := 118) dX8_deepest_223 (by decide) ?_
        exact ih _ _ _ _ _ _ _ h hk
      · refine AW.goto (tgt := 220) dX8_deepest_136 (by decide) ?_
        refine AW.iinc (L' := [some (rV (some b)), none, some (iV x2), some (iV x3), some (iV x4), some (iV x5), some (iV (x6 + 1)), none, none]) dX8_deepest_220 rfl (Nat.le_of_ble_eq_true rfl) rfl rfl ?_
        refine AW.goto (tgt := 118) dX8_deepest_223 (by decide) ?_
        exact ih _ _ _ _ _ _ _ h hk
def f_X8_deepest_L229 : Nat → TW → Int → Int → Int → Int → Int → (TW → Int → Int → Int → Int → Option (Int × TW)) → Option (Int × TW)
  | 0, _, _, _, _, _, _, _ => none
  | n + 1, s0, x2, x3, x4, x5, x6, k => (if nrm 2400 ≤ nrm x6 then (k s0 x2 x3 x4 x5) else ((ta s0 64 x6).bind fun v29 => (ts s0 63 x6 (b1I v29)).bind fun s30 => f_X8_deepest_L229 n s30 x2 x3 x4 x5 (x6 + 1) k))
theorem w_X8_deepest_L229 {b : Nat} {σ σ0 : Hp} {w : Int × TW} : ∀ (n : Nat) (s0 : TW) (x2 : Int) (x3 : Int) (x4 : Int) (x5 : Int) (x6 : Int) (k : (TW → Int → Int → Int → Int → Option (Int × TW))), f_X8_deepest_L229 n s0 x2 x3 x4 x5 x6 k = some w → (∀ (s1 : TW) (x2 : Int) (x3 : Int) (x4 : Int) (x5 : Int), k s1 x2 x3 x4 x5 = some w → AW m_X8_deepest σ0 (tI b σ w) 257 [some (rV (some b)), none, some (iV x2), some (iV x3), some (iV x4), some (iV x5), none, none, none] [] (insT b s1 σ)) → AW m_X8_deepest σ0 (tI b σ w) 229 [some (rV (some b)), none, some (iV x2), some (iV x3), some (iV x4), some (iV x5), some (iV x6), none, none] [] (insT b s0 σ) := by
  intro n
  induction n with
  | zero =>
    intro s0 x2 x3 x4 x5 x6 k h hk
    rw [f_X8_deepest_L229] at h
    cases h
  | succ n ih =>
    intro s0 x2 x3 x4 x5 x6 k h hk
    rw [f_X8_deepest_L229] at h
    refine AW.iload dX8_deepest_229 rfl ?_
    refine AW.sipush dX8_deepest_231 (by decide) ?_
    refine AW.icmp_ge 257 dX8_deepest_234 (by decide) h (fun c31 h => ?_) (fun c31 h => ?_)
    · exact AW.fewer (L' := [some (rV (some b)), none, some (iV x2), some (iV x3), some (iV x4), some (iV x5), none, none, none]) (And.intro rfl (And.intro rfl (And.intro rfl (And.intro rfl (And.intro rfl trivial))))) (hk _ _ _ _ _ h)
    · refine AW.aload_n dX8_deepest_237 rfl ?_
      refine AW.tgR (k := 63) dX8_deepest_238 (Nat.le_of_ble_eq_true rfl) (fun _ => rfl) q1603 rfl ia63 ?_
      refine AW.iload dX8_deepest_241 rfl ?_
      refine AW.aload_n dX8_deepest_243 rfl ?_
      refine AW.tgR (k := 64) dX8_deepest_244 (Nat.le_of_ble_eq_true rfl) (fun _ => rfl) q1604 rfl ia64 ?_
      refine AW.iload dX8_deepest_247 rfl ?_
      refine AW.tzald (k := 64) dX8_deepest_249 ia64 (Nat.le_of_ble_eq_true rfl) rfl h (fun v29 h => ?_)
      refine AW.tzast (k := 63) dX8_deepest_250 ia63 (Nat.le_of_ble_eq_true rfl) mt63 rfl h (fun s30 h => ?_)
      refine AW.iinc (L' := [some (rV (some b)), none, some (iV x2), some (iV x3), some (iV x4), some (iV x5), some (iV (x6 + 1)), none, none]) dX8_deepest_251 rfl (Nat.le_of_ble_eq_true rfl) rfl rfl ?_
      refine AW.goto (tgt := 229) dX8_deepest_254 (by decide) ?_
      exact ih _ _ _ _ _ _ _ h hk
def f_X8_deepest_L84 : Nat → TW → Int → Int → Int → Int → (TW → Int → Int → Int → Option (Int × TW)) → Option (Int × TW)
  | 0, _, _, _, _, _, _ => none
  | n + 1, s0, x2, x3, x4, x5, k => (if nrm 5 ≤ nrm x5 then (k s0 x2 x3 x4) else (f_X8_deepest_L93 FU s0 x2 x3 x4 x5 0 (fun s14 x2 x3 x4 x5 => f_X8_deepest_L118 FU s14 x2 x3 x4 x5 0 (fun s28 x2 x3 x4 x5 => f_X8_deepest_L229 FU s28 x2 x3 x4 x5 0 (fun s32 x2 x3 x4 x5 => f_X8_deepest_L84 n s32 x2 x3 x4 (x5 + 1) k)))))
theorem w_X8_deepest_L84 {b : Nat} {σ σ0 : Hp} {w : Int × TW} : ∀ (n : Nat) (s0 : TW) (x2 : Int) (x3 : Int) (x4 : Int) (x5 : Int) (k : (TW → Int → Int → Int → Option (Int × TW))), f_X8_deepest_L84 n s0 x2 x3 x4 x5 k = some w → (∀ (s1 : TW) (x2 : Int) (x3 : Int) (x4 : Int), k s1 x2 x3 x4 = some w → AW m_X8_deepest σ0 (tI b σ w) 263 [none, none, some (iV x2), some (iV x3), some (iV x4), none, none, none, none] [] (insT b s1 σ)) → AW m_X8_deepest σ0 (tI b σ w) 84 [some (rV (some b)), none, some (iV x2), some (iV x3), some (iV x4), some (iV x5), none, none, none] [] (insT b s0 σ) := by
  intro n
  induction n with
  | zero =>
    intro s0 x2 x3 x4 x5 k h hk
    rw [f_X8_deepest_L84] at h
    cases h
  | succ n ih =>
    intro s0 x2 x3 x4 x5 k h hk
    rw [f_X8_deepest_L84] at h
    refine AW.iload dX8_deepest_84 rfl ?_
    refine AW.iconst dX8_deepest_86 ?_
    refine AW.icmp_ge 263 dX8_deepest_87 (by decide) h (fun c33 h => ?_) (fun c33 h => ?_)
    · exact AW.fewer (L' := [none, none, some (iV x2), some (iV x3), some (iV x4), none, none, none, none]) (And.intro rfl (And.intro rfl (And.intro rfl trivial))) (hk _ _ _ _ h)
    · refine AW.iconst dX8_deepest_90 ?_
      refine AW.istore (L' := [some (rV (some b)), none, some (iV x2), some (iV x3), some (iV x4), some (iV x5), some (iV 0), none, none]) dX8_deepest_91 (Nat.le_of_ble_eq_true rfl) rfl rfl ?_
      refine w_X8_deepest_L93 _ _ _ _ _ _ _ _ h (fun s14 x2 x3 x4 x5 h => ?_)
      refine AW.iconst dX8_deepest_115 ?_
      refine AW.istore (L' := [some (rV (some b)), none, some (iV x2), some (iV x3), some (iV x4), some (iV x5), some (iV 0), none, none]) dX8_deepest_116 (Nat.le_of_ble_eq_true rfl) rfl rfl ?_
      refine w_X8_deepest_L118 _ _ _ _ _ _ _ _ h (fun s28 x2 x3 x4 x5 h => ?_)
      refine AW.iconst dX8_deepest_226 ?_
      refine AW.istore (L' := [some (rV (some b)), none, some (iV x2), some (iV x3), some (iV x4), some (iV x5), some (iV 0), none, none]) dX8_deepest_227 (Nat.le_of_ble_eq_true rfl) rfl rfl ?_
      refine w_X8_deepest_L229 _ _ _ _ _ _ _ _ h (fun s32 x2 x3 x4 x5 h => ?_)
      refine AW.iinc (L' := [some (rV (some b)), none, some (iV x2), some (iV x3), some (iV x4), some (iV (x5 + 1)), none, none, none]) dX8_deepest_257 rfl (Nat.le_of_ble_eq_true rfl) rfl rfl ?_
      refine AW.goto (tgt := 84) dX8_deepest_260 (by decide) ?_
      exact ih _ _ _ _ _ _ h hk
def f_X8_deepest (s0 : TW) (x1 : Int) (x2 : Int) : Option (Int × TW) :=
  bt_ (f_X8_isMirror s0 x1) fun v2 s1 => (if nrm v2 = 0 then (some ((-1), s1)) else (bt_ (f_X8_in s1 x2 0 1) fun v4 s3 => (if ¬ nrm v4 = 0 then (bt_ (f_X8_copies s3) fun _ s5 => bt_ (f_X8_showsAt s5 x1 (s5.1 57)) fun v7 s6 => (if 0 ≤ nrm v7 then (f_X8_deepest_L46 FU s6 x1 x2 v7 1 0 (fun s10 x1 x2 x3 x4 => (ts s10 63 ((300 * x1) + x3) (b1I 1)).bind fun s11 => f_X8_deepest_L84 FU s11 x2 x3 x4 2 (fun s34 x2 x3 x4 => (if ¬ nrm x2 = 0 then (some (nrm x4, s34)) else (some (nrm x3, s34)))))) else (some ((-2), s6)))) else (some ((-1), s3)))))
theorem w_X8_deepest {b : Nat} {σ σ0 : Hp} {w : Int × TW} (s0 : TW) (x1 : Int) (x2 : Int) (h : f_X8_deepest s0 x1 x2 = some w) : AW m_X8_deepest σ0 (tI b σ w) 0 [some (rV (some b)), some (iV x1), some (iV x2), none, none, none, none, none, none] [] (insT b s0 σ) := by
  unfold f_X8_deepest at h
  refine AW.aload_n dX8_deepest_0 rfl ?_
  refine AW.iload_n dX8_deepest_1 rfl ?_
  refine AW.tVI (M' := m_X8_isMirror) [iV x1] [] dX8_deepest_2 q1908 q1910 qs91 q139 q1911 rfl n_X8_isMirror rfl rfl rfl (fun _ _ e => c_X8_isMirror e) h (fun v2 s1 h => ?_)
  refine AW.if_eq 17 dX8_deepest_5 (by decide) h (fun c38 h => ?_) (fun c38 h => ?_)
  · refine AW.iconst dX8_deepest_17 ?_
    cases h
    exact AW.iret dX8_deepest_18 rfl
  · refine AW.iload_n dX8_deepest_8 rfl ?_
    refine AW.iconst dX8_deepest_9 ?_
    refine AW.iconst dX8_deepest_10 ?_
    refine AW.tSI (M' := m_X8_in) [iV x2, iV 0, iV 1] [] dX8_deepest_11 q1897 q1898 q139 q1899 n_X8_in rfl rfl rfl (fun _ _ e => c_X8_in e) h (fun v4 s3 h => ?_)
    refine AW.if_ne 19 dX8_deepest_14 (by decide) h (fun c37 h => ?_) (fun c37 h => ?_)
    · refine AW.aload_n dX8_deepest_19 rfl ?_
      refine AW.tVU (M' := m_X8_copies) [] [] dX8_deepest_20 q1912 q1914 qs92 q139 q1915 rfl n_X8_copies rfl rfl rfl (fun _ _ e => c_X8_copies e) h (fun _ s5 h => ?_)
      refine AW.aload_n dX8_deepest_23 rfl ?_
      refine AW.iload_n dX8_deepest_24 rfl ?_
      refine AW.aload_n dX8_deepest_25 rfl ?_
      refine AW.tgI (k := 57) dX8_deepest_26 (Nat.le_of_ble_eq_true rfl) (fun _ => rfl) q1597 rfl ?_
      refine AW.tVI (M' := m_X8_showsAt) [iV x1, iV (s5.1 57)] [] dX8_deepest_29 q1916 q1918 qs93 q139 q1919 rfl n_X8_showsAt rfl rfl rfl (fun _ _ e => c_X8_showsAt e) h (fun v7 s6 h => ?_)
      refine AW.istore_n (L' := [some (rV (some b)), some (iV x1), some (iV x2), some (iV v7), none, none, none, none, none]) dX8_deepest_32 (Nat.le_of_ble_eq_true rfl) rfl rfl ?_
      refine AW.iload_n dX8_deepest_33 rfl ?_
      refine AW.if_ge 40 dX8_deepest_34 (by decide) h (fun c36 h => ?_) (fun c36 h => ?_)
      · refine AW.iconst dX8_deepest_40 ?_
        refine AW.istore (L' := [some (rV (some b)), some (iV x1), some (iV x2), some (iV v7), some (iV 1), none, none, none, none]) dX8_deepest_41 (Nat.le_of_ble_eq_true rfl) rfl rfl ?_
        refine AW.iconst dX8_deepest_43 ?_
        refine AW.istore (L' := [some (rV (some b)), some (iV x1), some (iV x2), some (iV v7), some (iV 1), some (iV 0), none, none, none]) dX8_deepest_44 (Nat.le_of_ble_eq_true rfl) rfl rfl ?_
        refine w_X8_deepest_L46 _ _ _ _ _ _ _ _ h (fun s10 x1 x2 x3 x4 h => ?_)
        refine AW.aload_n dX8_deepest_68 rfl ?_
        refine AW.tgR (k := 63) dX8_deepest_69 (Nat.le_of_ble_eq_true rfl) (fun _ => rfl) q1603 rfl ia63 ?_
        refine AW.sipush dX8_deepest_72 (by decide) ?_
        refine AW.iload_n dX8_deepest_75 rfl ?_
        refine AW.imul dX8_deepest_76 ?_
        refine AW.iload_n dX8_deepest_77 rfl ?_
        refine AW.iadd dX8_deepest_78 ?_
        refine AW.iconst dX8_deepest_79 ?_
        refine AW.tzast (k := 63) dX8_deepest_80 ia63 (Nat.le_of_ble_eq_true rfl) mt63 rfl h (fun s11 h => ?_)
        refine AW.iconst dX8_deepest_81 ?_
        refine AW.istore (L' := [some (rV (some b)), some (iV x1), some (iV x2), some (iV x3), some (iV x4), some (iV 2), none, none, none]) dX8_deepest_82 (Nat.le_of_ble_eq_true rfl) rfl rfl ?_
        refine AW.fewer (L' := [some (rV (some b)), none, some (iV x2), some (iV x3), some (iV x4), some (iV 2), none, none, none]) (And.intro rfl (And.intro rfl (And.intro rfl (And.intro rfl (And.intro rfl trivial))))) ?_
        refine w_X8_deepest_L84 _ _ _ _ _ _ _ h (fun s34 x2 x3 x4 h => ?_)
        refine AW.iload_n dX8_deepest_263 rfl ?_
        refine AW.if_ne 271 dX8_deepest_264 (by decide) h (fun c35 h => ?_) (fun c35 h => ?_)
        · refine AW.iload dX8_deepest_271 rfl ?_
          refine AW.nv ?_
          cases h
          exact AW.iret dX8_deepest_273 rfl
        · refine AW.iload_n dX8_deepest_267 rfl ?_
          refine AW.goto (tgt := 273) dX8_deepest_268 (by decide) ?_
          refine AW.nv ?_
          cases h
          exact AW.iret dX8_deepest_273 rfl
      · refine AW.bipush dX8_deepest_37 (by decide) ?_
        cases h
        exact AW.iret dX8_deepest_39 rfl
    · refine AW.iconst dX8_deepest_17 ?_
      cases h
      exact AW.iret dX8_deepest_18 rfl
theorem c_X8_deepest {b : Nat} {σ : Hp} {s0 : TW} {x1 : Int} {x2 : Int} {v : Int} {s1 : TW} (h : f_X8_deepest s0 x1 x2 = some (v, s1)) : Ct m_X8_deepest [rV (some b), iV x1, iV x2] (insT b s0 σ) (.inl (some (iV v)), insT b s1 σ) :=
  Ct.of2 (w_X8_deepest s0 x1 x2 h) (by decide) rfl rfl rfl
abbrev m_X8_unit : Mi := (yX8_unit, cX8_unit, none, 1, 2, 41, [])
theorem n_X8_unit : nameOk yX8_unit 0 := ⟨by decide, by decide, by decide +kernel⟩
def f_X8_unit (s0 : TW) : Option (Unit × TW) :=
  bt_ (f_X8_is s0 2) fun v2 s1 => (if nrm v2 = 0 then (jn (fun (s3 : TW) => bt_ (f_X8_fail s3 1) fun _ s4 => some ((), s4)) fun j88 => (if ¬ nrm (s1.1 13) = 0 then (j88 s1) else ((ta s1 5 (s1.1 11)).bind fun v5 => (if nrm v5 < nrm 31 then (j88 s1) else ((ta s1 5 (s1.1 11)).bind fun v6 => (if nrm 36 < nrm v6 then (j88 s1) else ((ta s1 5 (s1.1 11)).bind fun v7 => bt_ (f_X8_emit s1 1 (v7 - 31)) fun _ s8 => bt_ (f_X8_goesOn s8) fun _ s9 => some ((), s9)))))))) else ((ta s1 7 (s1.1 11)).bind fun v13 => bt_ (f_X8_emit s1 0 v13) fun _ s14 => bt_ (f_X8_goesOn s14) fun _ s15 => some ((), s15)))
theorem w_X8_unit {b : Nat} {σ σ0 : Hp} {w : Unit × TW} (s0 : TW) (h : f_X8_unit s0 = some w) : AW m_X8_unit σ0 (tU b σ w) 0 [some (rV (some b))] [] (insT b s0 σ) := by
  unfold f_X8_unit at h
  refine AW.aload_n dX8_unit_0 rfl ?_
  refine AW.iconst dX8_unit_1 ?_
  refine AW.tVI (M' := m_X8_is) [iV 2] [] dX8_unit_2 q1805 q1807 qs69 q139 q1808 rfl n_X8_is rfl rfl rfl (fun _ _ e => c_X8_is e) h (fun v2 s1 h => ?_)
  refine AW.if_eq 29 dX8_unit_5 (by decide) h (fun c16 h => ?_) (fun c16 h => ?_)
  · refine AW.aload_n dX8_unit_29 rfl ?_
    refine AW.tgI (k := 13) dX8_unit_30 (Nat.le_of_ble_eq_true rfl) (fun _ => rfl) q1553 rfl ?_
    refine jn_elim h (fun (j : (TW → Option (Unit × TW))) => ∀ (s3 : TW), j s3 = some w → AW m_X8_unit σ0 (tU b σ w) 88 [some (rV (some b))] [] (insT b s3 σ)) ?_ (fun j88 hj88 h => ?_)
    · intro s3 h
      refine AW.aload_n dX8_unit_88 rfl ?_
      refine AW.iconst dX8_unit_89 ?_
      refine AW.tVU (M' := m_X8_fail) [iV 1] [] dX8_unit_90 q1817 q1819 qs72 q139 q1820 rfl n_X8_fail rfl rfl rfl (fun _ _ e => c_X8_fail e) h (fun _ s4 h => ?_)
      cases h
      exact AW.vret dX8_unit_93 rfl
    · refine AW.if_ne 88 dX8_unit_33 (by decide) h (fun c12 h => ?_) (fun c12 h => ?_)
      · exact hj88 _ h
      · refine AW.aload_n dX8_unit_36 rfl ?_
        refine AW.tgR (k := 5) dX8_unit_37 (Nat.le_of_ble_eq_true rfl) (fun _ => rfl) q1545 rfl ia5 ?_
        refine AW.aload_n dX8_unit_40 rfl ?_
        refine AW.tgI (k := 11) dX8_unit_41 (Nat.le_of_ble_eq_true rfl) (fun _ => rfl) q1551 rfl ?_
        refine AW.tiald (k := 5) dX8_unit_44 ia5 (Nat.le_of_ble_eq_true rfl) rfl h (fun v5 h => ?_)
        refine AW.bipush dX8_unit_45 (by decide) ?_
        refine AW.icmp_lt 88 dX8_unit_47 (by decide) h (fun c11 h => ?_) (fun c11 h => ?_)
        · exact hj88 _ h
        · refine AW.aload_n dX8_unit_50 rfl ?_
          refine AW.tgR (k := 5) dX8_unit_51 (Nat.le_of_ble_eq_true rfl) (fun _ => rfl) q1545 rfl ia5 ?_
          refine AW.aload_n dX8_unit_54 rfl ?_
          refine AW.tgI (k := 11) dX8_unit_55 (Nat.le_of_ble_eq_true rfl) (fun _ => rfl) q1551 rfl ?_
          refine AW.tiald (k := 5) dX8_unit_58 ia5 (Nat.le_of_ble_eq_true rfl) rfl h (fun v6 h => ?_)
          refine AW.bipush dX8_unit_59 (by decide) ?_
          refine AW.icmp_gt 88 dX8_unit_61 (by decide) h (fun c10 h => ?_) (fun c10 h => ?_)
          · exact hj88 _ h
          · refine AW.aload_n dX8_unit_64 rfl ?_
            refine AW.iconst dX8_unit_65 ?_
            refine AW.aload_n dX8_unit_66 rfl ?_
            refine AW.tgR (k := 5) dX8_unit_67 (Nat.le_of_ble_eq_true rfl) (fun _ => rfl) q1545 rfl ia5 ?_
            refine AW.aload_n dX8_unit_70 rfl ?_
            refine AW.tgI (k := 11) dX8_unit_71 (Nat.le_of_ble_eq_true rfl) (fun _ => rfl) q1551 rfl ?_
            refine AW.tiald (k := 5) dX8_unit_74 ia5 (Nat.le_of_ble_eq_true rfl) rfl h (fun v7 h => ?_)
            refine AW.bipush dX8_unit_75 (by decide) ?_
            refine AW.isub dX8_unit_77 ?_
            refine AW.tVU (M' := m_X8_emit) [iV 1, iV (v7 - 31)] [] dX8_unit_78 q1869 q1871 qs85 q139 q1872 rfl n_X8_emit rfl rfl rfl (fun _ _ e => c_X8_emit e) h (fun _ s8 h => ?_)
            refine AW.aload_n dX8_unit_81 rfl ?_
            refine AW.tVU (M' := m_X8_goesOn) [] [] dX8_unit_82 q1821 q1823 qs73 q139 q1824 rfl n_X8_goesOn rfl rfl rfl (fun _ _ e => c_X8_goesOn e) h (fun _ s9 h => ?_)
            refine AW.goto (tgt := 93) dX8_unit_85 (by decide) ?_
            cases h
            exact AW.vret dX8_unit_93 rfl
  · refine AW.aload_n dX8_unit_8 rfl ?_
    refine AW.iconst dX8_unit_9 ?_
    refine AW.aload_n dX8_unit_10 rfl ?_
    refine AW.tgR (k := 7) dX8_unit_11 (Nat.le_of_ble_eq_true rfl) (fun _ => rfl) q1547 rfl ia7 ?_
    refine AW.aload_n dX8_unit_14 rfl ?_
    refine AW.tgI (k := 11) dX8_unit_15 (Nat.le_of_ble_eq_true rfl) (fun _ => rfl) q1551 rfl ?_
    refine AW.tiald (k := 7) dX8_unit_18 ia7 (Nat.le_of_ble_eq_true rfl) rfl h (fun v13 h => ?_)
    refine AW.tVU (M' := m_X8_emit) [iV 0, iV v13] [] dX8_unit_19 q1869 q1871 qs85 q139 q1872 rfl n_X8_emit rfl rfl rfl (fun _ _ e => c_X8_emit e) h (fun _ s14 h => ?_)
    refine AW.aload_n dX8_unit_22 rfl ?_
    refine AW.tVU (M' := m_X8_goesOn) [] [] dX8_unit_23 q1821 q1823 qs73 q139 q1824 rfl n_X8_goesOn rfl rfl rfl (fun _ _ e => c_X8_goesOn e) h (fun _ s15 h => ?_)
    refine AW.goto (tgt := 93) dX8_unit_26 (by decide) ?_
    cases h
    exact AW.vret dX8_unit_93 rfl
theorem c_X8_unit {b : Nat} {σ : Hp} {s0 : TW} {v : Unit} {s1 : TW} (h : f_X8_unit s0 = some (v, s1)) : Ct m_X8_unit [rV (some b)] (insT b s0 σ) (.inl none, insT b s1 σ) :=
  Ct.of2 (w_X8_unit s0 h) (by decide) rfl rfl rfl
abbrev m_X8_expression : Mi := (yX8_expression, cX8_expression, none, 3, 3, 61, [])
theorem n_X8_expression : nameOk yX8_expression 0 := ⟨by decide, by decide, by decide +kernel⟩
def f_X8_expression_L23 : Nat → TW → Int → (TW → Int → Option (Unit × TW)) → Option (Unit × TW)
  | 0, _, _, _ => none
  | n + 1, s0, x1, k => bt_ (f_X8_is s0 6) fun v3 s2 => (if nrm v3 = 0 then (k s2 x1) else (jn (fun (s4 : TW) (x1 : Int) => bd (tp s4 12 (nrm ((s4.1 12) + 1))) fun s5 => bt_ (f_X8_goesOn s5) fun _ s6 => (ts s6 47 (s6.1 48) 6).bind fun s7 => bd (tp s7 48 (nrm ((s7.1 48) + 1))) fun s8 => f_X8_expression_L23 n s8 x1 k) fun j46 => (if ¬ nrm (s2.1 12) = nrm 6 then (j46 s2 x1) else (bt_ (f_X8_fail s2 2) fun _ s9 => j46 s9 x1))))
theorem w_X8_expression_L23 {b : Nat} {σ σ0 : Hp} {w : Unit × TW} : ∀ (n : Nat) (s0 : TW) (x1 : Int) (k : (TW → Int → Option (Unit × TW))), f_X8_expression_L23 n s0 x1 k = some w → (∀ (s1 : TW) (x1 : Int), k s1 x1 = some w → AW m_X8_expression σ0 (tU b σ w) 84 [some (rV (some b)), some (iV x1), none] [] (insT b s1 σ)) → AW m_X8_expression σ0 (tU b σ w) 23 [some (rV (some b)), some (iV x1), none] [] (insT b s0 σ) := by
  intro n
  induction n with
  | zero =>
    intro s0 x1 k h hk
    rw [f_X8_expression_L23] at h
    cases h
  | succ n ih =>
    intro s0 x1 k h hk
    rw [f_X8_expression_L23] at h
    refine AW.aload_n dX8_expression_23 rfl ?_
    refine AW.bipush dX8_expression_24 (by decide) ?_
    refine AW.tVI (M' := m_X8_is) [iV 6] [] dX8_expression_26 q1805 q1807 qs69 q139 q1808 rfl n_X8_is rfl rfl rfl (fun _ _ e => c_X8_is e) h (fun v3 s2 h => ?_)
    refine AW.if_eq 84 dX8_expression_29 (by decide) h (fun c11 h => ?_) (fun c11 h => ?_)
    · exact hk _ _ h
    · refine AW.aload_n dX8_expression_32 rfl ?_
      refine AW.tgI (k := 12) dX8_expression_33 (Nat.le_of_ble_eq_true rfl) (fun _ => rfl) q1552 rfl ?_
      refine AW.bipush dX8_expression_36 (by decide) ?_
      refine jn_elim h (fun (j : (TW → Int → Option (Unit × TW))) => ∀ (s4 : TW) (x1 : Int), j s4 x1 = some w → AW m_X8_expression σ0 (tU b σ w) 46 [some (rV (some b)), some (iV x1), none] [] (insT b s4 σ)) ?_ (fun j46 hj46 h => ?_)
      · intro s4 x1 h
        refine AW.aload_n dX8_expression_46 rfl ?_
        refine AW.dupR dX8_expression_47 ?_
        refine AW.tgI (k := 12) dX8_expression_48 (Nat.le_of_ble_eq_true rfl) (fun _ => rfl) q1552 rfl ?_
        refine AW.iconst dX8_expression_51 ?_
        refine AW.iadd dX8_expression_52 ?_
        refine AW.nv ?_
        refine AW.tpB (k := 12) dX8_expression_53 (Nat.le_of_ble_eq_true rfl) rfl q1552 rfl rfl h (fun s5 h => ?_)
        refine AW.aload_n dX8_expression_56 rfl ?_
        refine AW.tVU (M' := m_X8_goesOn) [] [] dX8_expression_57 q1821 q1823 qs73 q139 q1824 rfl n_X8_goesOn rfl rfl rfl (fun _ _ e => c_X8_goesOn e) h (fun _ s6 h => ?_)
        refine AW.aload_n dX8_expression_60 rfl ?_
        refine AW.tgR (k := 47) dX8_expression_61 (Nat.le_of_ble_eq_true rfl) (fun _ => rfl) q1587 rfl ia47 ?_
        refine AW.aload_n dX8_expression_64 rfl ?_
        refine AW.tgI (k := 48) dX8_expression_65 (Nat.le_of_ble_eq_true rfl) (fun _ => rfl) q1588 rfl ?_
        refine AW.bipush dX8_expression_68 (by decide) ?_
        refine AW.tiast (k := 47) dX8_expression_70 ia47 (Nat.le_of_ble_eq_true rfl) mt47 rfl h (fun s7 h => ?_)
        refine AW.aload_n dX8_expression_71 rfl ?_
        refine AW.dupR dX8_expression_72 ?_
        refine AW.tgI (k := 48) dX8_expression_73 (Nat.le_of_ble_eq_true rfl) (fun _ => rfl) q1588 rfl ?_
        refine AW.iconst dX8_expression_76 ?_
        refine AW.iadd dX8_expression_77 ?_
        refine AW.nv ?_
        refine AW.tpB (k := 48) dX8_expression_78 (Nat.le_of_ble_eq_true rfl) rfl q1588 rfl rfl h (fun s8 h => ?_)
        refine AW.goto (tgt := 23) dX8_expression_81 (by decide) ?_
        exact ih _ _ _ h hk
      · refine AW.icmp_ne 46 dX8_expression_38 (by decide) h (fun c10 h => ?_) (fun c10 h => ?_)
        · exact hj46 _ _ h
        · refine AW.aload_n dX8_expression_41 rfl ?_
          refine AW.iconst dX8_expression_42 ?_
          refine AW.tVU (M' := m_X8_fail) [iV 2] [] dX8_expression_43 q1817 q1819 qs72 q139 q1820 rfl n_X8_fail rfl rfl rfl (fun _ _ e => c_X8_fail e) h (fun _ s9 h => ?_)
          exact hj46 _ _ h
def f_X8_expression_L96 : Nat → TW → Int → (TW → Int → Option (Unit × TW)) → Option (Unit × TW)
  | 0, _, _, _ => none
  | n + 1, s0, x1, k => bt_ (f_X8_is s0 7) fun v15 s14 => (if nrm v15 = 0 then (k s14 x1) else ((if nrm (s14.1 12) ≤ nrm x1 then (k s14 x1) else (bt_ (f_X8_comesOut s14 0) fun _ s16 => bd (tp s16 48 (nrm ((s16.1 48) - 1))) fun s17 => bd (tp s17 12 (nrm ((s17.1 12) - 1))) fun s18 => bt_ (f_X8_goesOn s18) fun _ s19 => f_X8_expression_L96 n s19 x1 k))))
theorem w_X8_expression_L96 {b : Nat} {σ σ0 : Hp} {w : Unit × TW} : ∀ (n : Nat) (s0 : TW) (x1 : Int) (k : (TW → Int → Option (Unit × TW))), f_X8_expression_L96 n s0 x1 k = some w → (∀ (s1 : TW) (x1 : Int), k s1 x1 = some w → AW m_X8_expression σ0 (tU b σ w) 145 [some (rV (some b)), some (iV x1), none] [] (insT b s1 σ)) → AW m_X8_expression σ0 (tU b σ w) 96 [some (rV (some b)), some (iV x1), none] [] (insT b s0 σ) := by
  intro n
  induction n with
  | zero =>
    intro s0 x1 k h hk
    rw [f_X8_expression_L96] at h
    cases h
  | succ n ih =>
    intro s0 x1 k h hk
    rw [f_X8_expression_L96] at h
    refine AW.aload_n dX8_expression_96 rfl ?_
    refine AW.bipush dX8_expression_97 (by decide) ?_
    refine AW.tVI (M' := m_X8_is) [iV 7] [] dX8_expression_99 q1805 q1807 qs69 q139 q1808 rfl n_X8_is rfl rfl rfl (fun _ _ e => c_X8_is e) h (fun v15 s14 h => ?_)
    refine AW.if_eq 145 dX8_expression_102 (by decide) h (fun c21 h => ?_) (fun c21 h => ?_)
    · exact hk _ _ h
    · refine AW.aload_n dX8_expression_105 rfl ?_
      refine AW.tgI (k := 12) dX8_expression_106 (Nat.le_of_ble_eq_true rfl) (fun _ => rfl) q1552 rfl ?_
      refine AW.iload_n dX8_expression_109 rfl ?_
      refine AW.icmp_le 145 dX8_expression_110 (by decide) h (fun c20 h => ?_) (fun c20 h => ?_)
      · exact hk _ _ h
      · refine AW.aload_n dX8_expression_113 rfl ?_
        refine AW.iconst dX8_expression_114 ?_
        refine AW.tVU (M' := m_X8_comesOut) [iV 0] [] dX8_expression_115 q1873 q1875 qs86 q139 q1876 rfl n_X8_comesOut rfl rfl rfl (fun _ _ e => c_X8_comesOut e) h (fun _ s16 h => ?_)
        refine AW.aload_n dX8_expression_118 rfl ?_
        refine AW.dupR dX8_expression_119 ?_
        refine AW.tgI (k := 48) dX8_expression_120 (Nat.le_of_ble_eq_true rfl) (fun _ => rfl) q1588 rfl ?_
        refine AW.iconst dX8_expression_123 ?_
        refine AW.isub dX8_expression_124 ?_
        refine AW.nv ?_
        refine AW.tpB (k := 48) dX8_expression_125 (Nat.le_of_ble_eq_true rfl) rfl q1588 rfl rfl h (fun s17 h => ?_)
        refine AW.aload_n dX8_expression_128 rfl ?_
        refine AW.dupR dX8_expression_129 ?_
        refine AW.tgI (k := 12) dX8_expression_130 (Nat.le_of_ble_eq_true rfl) (fun _ => rfl) q1552 rfl ?_
        refine AW.iconst dX8_expression_133 ?_
        refine AW.isub dX8_expression_134 ?_
        refine AW.nv ?_
        refine AW.tpB (k := 12) dX8_expression_135 (Nat.le_of_ble_eq_true rfl) rfl q1552 rfl rfl h (fun s18 h => ?_)
        refine AW.aload_n dX8_expression_138 rfl ?_
        refine AW.tVU (M' := m_X8_goesOn) [] [] dX8_expression_139 q1821 q1823 qs73 q139 q1824 rfl n_X8_goesOn rfl rfl rfl (fun _ _ e => c_X8_goesOn e) h (fun _ s19 h => ?_)
        refine AW.goto (tgt := 96) dX8_expression_142 (by decide) ?_
        exact ih _ _ _ h hk
def f_X8_expression_L12 : Nat → TW → Int → Int → (TW → Option (Unit × TW)) → Option (Unit × TW)
  | 0, _, _, _, _ => none
  | n + 1, s0, x1, x2, k => (if nrm x2 = 0 then (k s0) else ((if ¬ nrm (s0.1 13) = 0 then (k s0) else (f_X8_expression_L23 FU s0 x1 (fun s12 x1 => bt_ (f_X8_unit s12) fun _ s13 => (if nrm (s13.1 13) ≤ 0 then (f_X8_expression_L96 FU s13 x1 (fun s22 x1 => bt_ (f_X8_is s22 8) fun v24 s23 => jn (fun (s25 : TW) (x1 : Int) (y0 : Int) => (if ¬ nrm y0 = 0 then (bt_ (f_X8_is s25 10) fun v27 s26 => jn (fun (s28 : TW) (x1 : Int) (x2 : Int) (y1 : Int) => bt_ (f_X8_comesOut s28 y1) fun _ s29 => (ta s29 5 (s29.1 11)).bind fun v30 => (ts s29 47 (s29.1 48) v30).bind fun s31 => bd (tp s31 48 (nrm ((s31.1 48) + 1))) fun s32 => bt_ (f_X8_goesOn s32) fun _ s33 => f_X8_expression_L12 n s33 x1 x2 k) fun j234 => jn (fun (s34 : TW) (x1 : Int) (x2 : Int) => j234 s34 x1 x2 1) fun j229 => (if ¬ nrm v27 = 0 then (j229 s26 x1 y0) else (bt_ (f_X8_is s26 15) fun v36 s35 => (if nrm v36 = 0 then (j234 s35 x1 y0 0) else (j229 s35 x1 y0))))) else (jn (fun (s39 : TW) => bt_ (f_X8_comesOut s39 0) fun _ s40 => some ((), s40)) fun j204 => (if nrm (s25.1 12) ≤ nrm x1 then (j204 s25) else (bt_ (f_X8_fail s25 1) fun _ s41 => j204 s41))))) fun j186 => jn (fun (s44 : TW) (x1 : Int) => j186 s44 x1 1) fun j181 => (if ¬ nrm v24 = 0 then (j181 s23 x1) else (bt_ (f_X8_is s23 9) fun v46 s45 => (if ¬ nrm v46 = 0 then (j181 s45 x1) else (bt_ (f_X8_is s45 10) fun v48 s47 => (if ¬ nrm v48 = 0 then (j181 s47 x1) else (bt_ (f_X8_is s47 15) fun v50 s49 => (if nrm v50 = 0 then (j186 s49 x1 0) else (j181 s49 x1)))))))))) else (some ((), s13))))))))
theorem w_X8_expression_L12 {b : Nat} {σ σ0 : Hp} {w : Unit × TW} : ∀ (n : Nat) (s0 : TW) (x1 : Int) (x2 : Int) (k : (TW → Option (Unit × TW))), f_X8_expression_L12 n s0 x1 x2 k = some w → (∀ (s1 : TW), k s1 = some w → AW m_X8_expression σ0 (tU b σ w) 272 [none, none, none] [] (insT b s1 σ)) → AW m_X8_expression σ0 (tU b σ w) 12 [some (rV (some b)), some (iV x1), some (iV x2)] [] (insT b s0 σ) := by
  intro n
  induction n with
  | zero =>
    intro s0 x1 x2 k h hk
    rw [f_X8_expression_L12] at h
    cases h
  | succ n ih =>
    intro s0 x1 x2 k h hk
    rw [f_X8_expression_L12] at h
    refine AW.iload_n dX8_expression_12 rfl ?_
    refine AW.if_eq 272 dX8_expression_13 (by decide) h (fun c57 h => ?_) (fun c57 h => ?_)
    · exact AW.fewer (L' := [none, none, none]) (trivial) (hk _ h)
    · refine AW.aload_n dX8_expression_16 rfl ?_
      refine AW.tgI (k := 13) dX8_expression_17 (Nat.le_of_ble_eq_true rfl) (fun _ => rfl) q1553 rfl ?_
      refine AW.if_ne 272 dX8_expression_20 (by decide) h (fun c56 h => ?_) (fun c56 h => ?_)
      · exact AW.fewer (L' := [none, none, none]) (trivial) (hk _ h)
      · refine AW.fewer (L' := [some (rV (some b)), some (iV x1), none]) (And.intro rfl (And.intro rfl trivial)) ?_
        refine w_X8_expression_L23 _ _ _ _ h (fun s12 x1 h => ?_)
        refine AW.aload_n dX8_expression_84 rfl ?_
        refine AW.tVU (M' := m_X8_unit) [] [] dX8_expression_85 q1865 q1867 qs84 q139 q1868 rfl n_X8_unit rfl rfl rfl (fun _ _ e => c_X8_unit e) h (fun _ s13 h => ?_)
        refine AW.aload_n dX8_expression_88 rfl ?_
        refine AW.tgI (k := 13) dX8_expression_89 (Nat.le_of_ble_eq_true rfl) (fun _ => rfl) q1553 rfl ?_
        refine AW.if_le 96 dX8_expression_92 (by decide) h (fun c55 h => ?_) (fun c55 h => ?_)
        · refine w_X8_expression_L96 _ _ _ _ h (fun s22 x1 h => ?_)
          refine AW.aload_n dX8_expression_145 rfl ?_
          refine AW.bipush dX8_expression_146 (by decide) ?_
          refine AW.tVI (M' := m_X8_is) [iV 8] [] dX8_expression_148 q1805 q1807 qs69 q139 q1808 rfl n_X8_is rfl rfl rfl (fun _ _ e => c_X8_is e) h (fun v24 s23 h => ?_)
          refine jn_elim h (fun (j : (TW → Int → Int → Option (Unit × TW))) => ∀ (s25 : TW) (x1 : Int) (y0 : Int), j s25 x1 y0 = some w → AW m_X8_expression σ0 (tU b σ w) 186 [some (rV (some b)), some (iV x1), none] [iV y0] (insT b s25 σ)) ?_ (fun j186 hj186 h => ?_)
          · intro s25 x1 y0 h
            refine AW.istore_n (L' := [some (rV (some b)), some (iV x1), some (iV y0)]) dX8_expression_186 (Nat.le_of_ble_eq_true rfl) rfl rfl ?_
            refine AW.iload_n dX8_expression_187 rfl ?_
            refine AW.if_ne 210 dX8_expression_188 (by decide) h (fun c43 h => ?_) (fun c43 h => ?_)
            · refine AW.aload_n dX8_expression_210 rfl ?_
              refine AW.aload_n dX8_expression_211 rfl ?_
              refine AW.bipush dX8_expression_212 (by decide) ?_
              refine AW.tVI (M' := m_X8_is) [iV 10] [rV (some b)] dX8_expression_214 q1805 q1807 qs69 q139 q1808 rfl n_X8_is rfl rfl rfl (fun _ _ e => c_X8_is e) h (fun v27 s26 h => ?_)
              refine jn_elim h (fun (j : (TW → Int → Int → Int → Option (Unit × TW))) => ∀ (s28 : TW) (x1 : Int) (x2 : Int) (y1 : Int), j s28 x1 x2 y1 = some w → AW m_X8_expression σ0 (tU b σ w) 234 [some (rV (some b)), some (iV x1), some (iV x2)] [iV y1, rV (some b)] (insT b s28 σ)) ?_ (fun j234 hj234 h => ?_)
              · intro s28 x1 x2 y1 h
                refine AW.tVU (M' := m_X8_comesOut) [iV y1] [] dX8_expression_234 q1873 q1875 qs86 q139 q1876 rfl n_X8_comesOut rfl rfl rfl (fun _ _ e => c_X8_comesOut e) h (fun _ s29 h => ?_)
                refine AW.aload_n dX8_expression_237 rfl ?_
                refine AW.tgR (k := 47) dX8_expression_238 (Nat.le_of_ble_eq_true rfl) (fun _ => rfl) q1587 rfl ia47 ?_
                refine AW.aload_n dX8_expression_241 rfl ?_
                refine AW.tgI (k := 48) dX8_expression_242 (Nat.le_of_ble_eq_true rfl) (fun _ => rfl) q1588 rfl ?_
                refine AW.aload_n dX8_expression_245 rfl ?_
                refine AW.tgR (k := 5) dX8_expression_246 (Nat.le_of_ble_eq_true rfl) (fun _ => rfl) q1545 rfl ia5 ?_
                refine AW.aload_n dX8_expression_249 rfl ?_
                refine AW.tgI (k := 11) dX8_expression_250 (Nat.le_of_ble_eq_true rfl) (fun _ => rfl) q1551 rfl ?_
                refine AW.tiald (k := 5) dX8_expression_253 ia5 (Nat.le_of_ble_eq_true rfl) rfl h (fun v30 h => ?_)
                refine AW.tiast (k := 47) dX8_expression_254 ia47 (Nat.le_of_ble_eq_true rfl) mt47 rfl h (fun s31 h => ?_)
                refine AW.aload_n dX8_expression_255 rfl ?_
                refine AW.dupR dX8_expression_256 ?_
                refine AW.tgI (k := 48) dX8_expression_257 (Nat.le_of_ble_eq_true rfl) (fun _ => rfl) q1588 rfl ?_
                refine AW.iconst dX8_expression_260 ?_
                refine AW.iadd dX8_expression_261 ?_
                refine AW.nv ?_
                refine AW.tpB (k := 48) dX8_expression_262 (Nat.le_of_ble_eq_true rfl) rfl q1588 rfl rfl h (fun s32 h => ?_)
                refine AW.aload_n dX8_expression_265 rfl ?_
                refine AW.tVU (M' := m_X8_goesOn) [] [] dX8_expression_266 q1821 q1823 qs73 q139 q1824 rfl n_X8_goesOn rfl rfl rfl (fun _ _ e => c_X8_goesOn e) h (fun _ s33 h => ?_)
                refine AW.goto (tgt := 12) dX8_expression_269 (by decide) ?_
                exact ih _ _ _ _ h hk
              · refine jn_elim h (fun (j : (TW → Int → Int → Option (Unit × TW))) => ∀ (s34 : TW) (x1 : Int) (x2 : Int), j s34 x1 x2 = some w → AW m_X8_expression σ0 (tU b σ w) 229 [some (rV (some b)), some (iV x1), some (iV x2)] [rV (some b)] (insT b s34 σ)) ?_ (fun j229 hj229 h => ?_)
                · intro s34 x1 x2 h
                  refine AW.iconst dX8_expression_229 ?_
                  refine AW.goto (tgt := 234) dX8_expression_230 (by decide) ?_
                  exact hj234 _ _ _ _ h
                · refine AW.if_ne 229 dX8_expression_217 (by decide) h (fun c38 h => ?_) (fun c38 h => ?_)
                  · exact hj229 _ _ _ h
                  · refine AW.aload_n dX8_expression_220 rfl ?_
                    refine AW.bipush dX8_expression_221 (by decide) ?_
                    refine AW.tVI (M' := m_X8_is) [iV 15] [rV (some b)] dX8_expression_223 q1805 q1807 qs69 q139 q1808 rfl n_X8_is rfl rfl rfl (fun _ _ e => c_X8_is e) h (fun v36 s35 h => ?_)
                    refine AW.if_eq 233 dX8_expression_226 (by decide) h (fun c37 h => ?_) (fun c37 h => ?_)
                    · refine AW.iconst dX8_expression_233 ?_
                      exact hj234 _ _ _ _ h
                    · exact hj229 _ _ _ h
            · refine AW.aload_n dX8_expression_191 rfl ?_
              refine AW.tgI (k := 12) dX8_expression_192 (Nat.le_of_ble_eq_true rfl) (fun _ => rfl) q1552 rfl ?_
              refine AW.iload_n dX8_expression_195 rfl ?_
              refine jn_elim h (fun (j : (TW → Option (Unit × TW))) => ∀ (s39 : TW), j s39 = some w → AW m_X8_expression σ0 (tU b σ w) 204 [some (rV (some b)), none, none] [] (insT b s39 σ)) ?_ (fun j204 hj204 h => ?_)
              · intro s39 h
                refine AW.aload_n dX8_expression_204 rfl ?_
                refine AW.iconst dX8_expression_205 ?_
                refine AW.tVU (M' := m_X8_comesOut) [iV 0] [] dX8_expression_206 q1873 q1875 qs86 q139 q1876 rfl n_X8_comesOut rfl rfl rfl (fun _ _ e => c_X8_comesOut e) h (fun _ s40 h => ?_)
                cases h
                exact AW.vret dX8_expression_209 rfl
              · refine AW.icmp_le 204 dX8_expression_196 (by decide) h (fun c42 h => ?_) (fun c42 h => ?_)
                · exact AW.fewer (L' := [some (rV (some b)), none, none]) (And.intro rfl trivial) (hj204 _ h)
                · refine AW.aload_n dX8_expression_199 rfl ?_
                  refine AW.iconst dX8_expression_200 ?_
                  refine AW.tVU (M' := m_X8_fail) [iV 1] [] dX8_expression_201 q1817 q1819 qs72 q139 q1820 rfl n_X8_fail rfl rfl rfl (fun _ _ e => c_X8_fail e) h (fun _ s41 h => ?_)
                  exact AW.fewer (L' := [some (rV (some b)), none, none]) (And.intro rfl trivial) (hj204 _ h)
          · refine jn_elim h (fun (j : (TW → Int → Option (Unit × TW))) => ∀ (s44 : TW) (x1 : Int), j s44 x1 = some w → AW m_X8_expression σ0 (tU b σ w) 181 [some (rV (some b)), some (iV x1), none] [] (insT b s44 σ)) ?_ (fun j181 hj181 h => ?_)
            · intro s44 x1 h
              refine AW.iconst dX8_expression_181 ?_
              refine AW.goto (tgt := 186) dX8_expression_182 (by decide) ?_
              exact hj186 _ _ _ h
            · refine AW.if_ne 181 dX8_expression_151 (by decide) h (fun c54 h => ?_) (fun c54 h => ?_)
              · exact hj181 _ _ h
              · refine AW.aload_n dX8_expression_154 rfl ?_
                refine AW.bipush dX8_expression_155 (by decide) ?_
                refine AW.tVI (M' := m_X8_is) [iV 9] [] dX8_expression_157 q1805 q1807 qs69 q139 q1808 rfl n_X8_is rfl rfl rfl (fun _ _ e => c_X8_is e) h (fun v46 s45 h => ?_)
                refine AW.if_ne 181 dX8_expression_160 (by decide) h (fun c53 h => ?_) (fun c53 h => ?_)
                · exact hj181 _ _ h
                · refine AW.aload_n dX8_expression_163 rfl ?_
                  refine AW.bipush dX8_expression_164 (by decide) ?_
                  refine AW.tVI (M' := m_X8_is) [iV 10] [] dX8_expression_166 q1805 q1807 qs69 q139 q1808 rfl n_X8_is rfl rfl rfl (fun _ _ e => c_X8_is e) h (fun v48 s47 h => ?_)
                  refine AW.if_ne 181 dX8_expression_169 (by decide) h (fun c52 h => ?_) (fun c52 h => ?_)
                  · exact hj181 _ _ h
                  · refine AW.aload_n dX8_expression_172 rfl ?_
                    refine AW.bipush dX8_expression_173 (by decide) ?_
                    refine AW.tVI (M' := m_X8_is) [iV 15] [] dX8_expression_175 q1805 q1807 qs69 q139 q1808 rfl n_X8_is rfl rfl rfl (fun _ _ e => c_X8_is e) h (fun v50 s49 h => ?_)
                    refine AW.if_eq 185 dX8_expression_178 (by decide) h (fun c51 h => ?_) (fun c51 h => ?_)
                    · refine AW.iconst dX8_expression_185 ?_
                      exact hj186 _ _ _ h
                    · exact hj181 _ _ h
        · cases h
          exact AW.vret dX8_expression_95 rfl
def f_X8_expression (s0 : TW) : Option (Unit × TW) :=
  bd (tp s0 48 0) fun s1 => f_X8_expression_L12 FU s1 (s1.1 12) 1 (fun s58 => some ((), s58))
theorem w_X8_expression {b : Nat} {σ σ0 : Hp} {w : Unit × TW} (s0 : TW) (h : f_X8_expression s0 = some w) : AW m_X8_expression σ0 (tU b σ w) 0 [some (rV (some b)), none, none] [] (insT b s0 σ) := by
  unfold f_X8_expression at h
  refine AW.aload_n dX8_expression_0 rfl ?_
  refine AW.iconst dX8_expression_1 ?_
  refine AW.tpB (k := 48) dX8_expression_2 (Nat.le_of_ble_eq_true rfl) rfl q1588 rfl rfl h (fun s1 h => ?_)
  refine AW.aload_n dX8_expression_5 rfl ?_
  refine AW.tgI (k := 12) dX8_expression_6 (Nat.le_of_ble_eq_true rfl) (fun _ => rfl) q1552 rfl ?_
  refine AW.istore_n (L' := [some (rV (some b)), some (iV (s1.1 12)), none]) dX8_expression_9 (Nat.le_of_ble_eq_true rfl) rfl rfl ?_
  refine AW.iconst dX8_expression_10 ?_
  refine AW.istore_n (L' := [some (rV (some b)), some (iV (s1.1 12)), some (iV 1)]) dX8_expression_11 (Nat.le_of_ble_eq_true rfl) rfl rfl ?_
  refine w_X8_expression_L12 _ _ _ _ _ h (fun s58 h => ?_)
  cases h
  exact AW.vret dX8_expression_272 rfl
theorem c_X8_expression {b : Nat} {σ : Hp} {s0 : TW} {v : Unit} {s1 : TW} (h : f_X8_expression s0 = some (v, s1)) : Ct m_X8_expression [rV (some b)] (insT b s0 σ) (.inl none, insT b s1 σ) :=
  Ct.of2 (w_X8_expression s0 h) (by decide) rfl rfl rfl
