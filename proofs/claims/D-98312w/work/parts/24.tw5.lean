set_option maxRecDepth 100000
abbrev m_X8_showsRoom : Mi := (yX8_showsRoom, cX8_showsRoom, (some .boolean), 5, 2, 45, [])
theorem n_X8_showsRoom : nameOk yX8_showsRoom 4 := ⟨by decide, by decide, by decide +kernel⟩
def f_X8_showsRoom (s0 : TW) (x1 : Int) (x2 : Int) (x3 : Int) (x4 : Int) : Option (Int × TW) :=
  bt_ (f_X8_showsAt s0 x1 x2) fun v2 s1 => (if ¬ nrm v2 = nrm x4 then (some (0, s1)) else (bt_ (f_X8_hungIn s1 x1 x4) fun v4 s3 => (if ¬ nrm v4 = nrm x3 then (some (0, s3)) else (some (1, s3)))))
theorem w_X8_showsRoom {b : Nat} {σ σ0 : Hp} {w : Int × TW} (s0 : TW) (x1 : Int) (x2 : Int) (x3 : Int) (x4 : Int) (h : f_X8_showsRoom s0 x1 x2 x3 x4 = some w) : AW m_X8_showsRoom σ0 (tI b σ w) 0 [some (rV (some b)), some (iV x1), some (iV x2), some (iV x3), some (iV x4)] [] (insT b s0 σ) := by
  unfold f_X8_showsRoom at h
  refine AW.aload_n dX8_showsRoom_0 rfl ?_
  refine AW.iload_n dX8_showsRoom_1 rfl ?_
  refine AW.iload_n dX8_showsRoom_2 rfl ?_
  refine AW.tVI (M' := m_X8_showsAt) [iV x1, iV x2] [] dX8_showsRoom_3 q1916 q1918 qs93 q139 q1919 rfl n_X8_showsAt rfl rfl rfl (fun _ _ e => c_X8_showsAt e) h (fun v2 s1 h => ?_)
  refine AW.iload dX8_showsRoom_6 rfl ?_
  refine AW.icmp_ne 26 dX8_showsRoom_8 (by decide) h (fun c6 h => ?_) (fun c6 h => ?_)
  · refine AW.iconst dX8_showsRoom_26 ?_
    cases h
    exact AW.zret (z := 0) dX8_showsRoom_27 rfl zz0
  · refine AW.aload_n dX8_showsRoom_11 rfl ?_
    refine AW.iload_n dX8_showsRoom_12 rfl ?_
    refine AW.iload dX8_showsRoom_13 rfl ?_
    refine AW.tVI (M' := m_X8_hungIn) [iV x1, iV x4] [] dX8_showsRoom_15 q1924 q1926 qs95 q139 q1927 rfl n_X8_hungIn rfl rfl rfl (fun _ _ e => c_X8_hungIn e) h (fun v4 s3 h => ?_)
    refine AW.iload_n dX8_showsRoom_18 rfl ?_
    refine AW.icmp_ne 26 dX8_showsRoom_19 (by decide) h (fun c5 h => ?_) (fun c5 h => ?_)
    · refine AW.iconst dX8_showsRoom_26 ?_
      cases h
      exact AW.zret (z := 0) dX8_showsRoom_27 rfl zz0
    · refine AW.iconst dX8_showsRoom_22 ?_
      refine AW.goto (tgt := 27) dX8_showsRoom_23 (by decide) ?_
      cases h
      exact AW.zret (z := 1) dX8_showsRoom_27 rfl zz1
theorem c_X8_showsRoom {b : Nat} {σ : Hp} {s0 : TW} {x1 : Int} {x2 : Int} {x3 : Int} {x4 : Int} {v : Int} {s1 : TW} (h : f_X8_showsRoom s0 x1 x2 x3 x4 = some (v, s1)) : Ct m_X8_showsRoom [rV (some b), iV x1, iV x2, iV x3, iV x4] (insT b s0 σ) (.inl (some (iV v)), insT b s1 σ) :=
  Ct.of2 (w_X8_showsRoom s0 x1 x2 x3 x4 h) (by decide) rfl rfl rfl
abbrev m_X8_smash : Mi := (yX8_smash, cX8_smash, (some .boolean), 2, 3, 66, [])
theorem n_X8_smash : nameOk yX8_smash 1 := ⟨by decide, by decide, by decide +kernel⟩
def f_X8_smash (s0 : TW) (x1 : Int) : Option (Int × TW) :=
  bt_ (f_X8_isMirror s0 x1) fun v2 s1 => (if nrm v2 = 0 then (some (0, s1)) else ((ta s1 54 x1).bind fun v3 => (if nrm v3 = nrm (-1) then (bt_ (f_X8_copies s1) fun _ s4 => bt_ (f_X8_breaksNow s4 x1) fun _ s5 => bt_ (f_X8_keeps s5) fun _ s6 => some (1, s6)) else (some (0, s1)))))
theorem w_X8_smash {b : Nat} {σ σ0 : Hp} {w : Int × TW} (s0 : TW) (x1 : Int) (h : f_X8_smash s0 x1 = some w) : AW m_X8_smash σ0 (tI b σ w) 0 [some (rV (some b)), some (iV x1)] [] (insT b s0 σ) := by
  unfold f_X8_smash at h
  refine AW.aload_n dX8_smash_0 rfl ?_
  refine AW.iload_n dX8_smash_1 rfl ?_
  refine AW.tVI (M' := m_X8_isMirror) [iV x1] [] dX8_smash_2 q1908 q1910 qs91 q139 q1911 rfl n_X8_isMirror rfl rfl rfl (fun _ _ e => c_X8_isMirror e) h (fun v2 s1 h => ?_)
  refine AW.if_eq 18 dX8_smash_5 (by decide) h (fun c8 h => ?_) (fun c8 h => ?_)
  · refine AW.iconst dX8_smash_18 ?_
    cases h
    exact AW.zret (z := 0) dX8_smash_19 rfl zz0
  · refine AW.aload_n dX8_smash_8 rfl ?_
    refine AW.tgR (k := 54) dX8_smash_9 (Nat.le_of_ble_eq_true rfl) (fun _ => rfl) q1594 rfl ia54 ?_
    refine AW.iload_n dX8_smash_12 rfl ?_
    refine AW.tiald (k := 54) dX8_smash_13 ia54 (Nat.le_of_ble_eq_true rfl) rfl h (fun v3 h => ?_)
    refine AW.iconst dX8_smash_14 ?_
    refine AW.icmp_eq 20 dX8_smash_15 (by decide) h (fun c7 h => ?_) (fun c7 h => ?_)
    · refine AW.aload_n dX8_smash_20 rfl ?_
      refine AW.tVU (M' := m_X8_copies) [] [] dX8_smash_21 q1912 q1914 qs92 q139 q1915 rfl n_X8_copies rfl rfl rfl (fun _ _ e => c_X8_copies e) h (fun _ s4 h => ?_)
      refine AW.aload_n dX8_smash_24 rfl ?_
      refine AW.iload_n dX8_smash_25 rfl ?_
      refine AW.tVU (M' := m_X8_breaksNow) [iV x1] [] dX8_smash_26 q1960 q1962 qs102 q139 q1963 rfl n_X8_breaksNow rfl rfl rfl (fun _ _ e => c_X8_breaksNow e) h (fun _ s5 h => ?_)
      refine AW.aload_n dX8_smash_29 rfl ?_
      refine AW.tVU (M' := m_X8_keeps) [] [] dX8_smash_30 q1964 q1966 qs103 q139 q1967 rfl n_X8_keeps rfl rfl rfl (fun _ _ e => c_X8_keeps e) h (fun _ s6 h => ?_)
      refine AW.iconst dX8_smash_33 ?_
      cases h
      exact AW.zret (z := 1) dX8_smash_34 rfl zz1
    · refine AW.iconst dX8_smash_18 ?_
      cases h
      exact AW.zret (z := 0) dX8_smash_19 rfl zz0
theorem c_X8_smash {b : Nat} {σ : Hp} {s0 : TW} {x1 : Int} {v : Int} {s1 : TW} (h : f_X8_smash s0 x1 = some (v, s1)) : Ct m_X8_smash [rV (some b), iV x1] (insT b s0 σ) (.inl (some (iV v)), insT b s1 σ) :=
  Ct.of2 (w_X8_smash s0 x1 h) (by decide) rfl rfl rfl
abbrev m_X8_soonest : Mi := (yX8_soonest, cX8_soonest, (some .int), 6, 7, 162, [])
theorem n_X8_soonest : nameOk yX8_soonest 3 := ⟨by decide, by decide, by decide +kernel⟩
def f_X8_soonest_L48 : Nat → TW → Int → Int → Int → Int → Int → (TW → Int → Int → Int → Int → Option (Int × TW)) → Option (Int × TW)
  | 0, _, _, _, _, _, _, _ => none
  | n + 1, s0, x1, x2, x3, x4, x5, k => (ta s0 31 (s0.1 18)).bind fun v8 => (if nrm v8 ≤ nrm x5 then (k s0 x1 x2 x3 x4) else (bt_ (f_X8_showsRoom s0 x5 x4 x1 x2) fun v10 s9 => (if nrm v10 = 0 then (f_X8_soonest_L48 n s9 x1 x2 x3 x4 (x5 + 1) k) else ((if ¬ nrm x3 = 0 then (some (nrm x5, s9)) else (some (nrm x4, s9)))))))
theorem w_X8_soonest_L48 {b : Nat} {σ σ0 : Hp} {w : Int × TW} : ∀ (n : Nat) (s0 : TW) (x1 : Int) (x2 : Int) (x3 : Int) (x4 : Int) (x5 : Int) (k : (TW → Int → Int → Int → Int → Option (Int × TW))), f_X8_soonest_L48 n s0 x1 x2 x3 x4 x5 k = some w → (∀ (s1 : TW) (x1 : Int) (x2 : Int) (x3 : Int) (x4 : Int), k s1 x1 x2 x3 x4 = some w → AW m_X8_soonest σ0 (tI b σ w) 93 [some (rV (some b)), some (iV x1), some (iV x2), some (iV x3), some (iV x4), none] [] (insT b s1 σ)) → AW m_X8_soonest σ0 (tI b σ w) 48 [some (rV (some b)), some (iV x1), some (iV x2), some (iV x3), some (iV x4), some (iV x5)] [] (insT b s0 σ) := by
  intro n
  induction n with
  | zero =>
    intro s0 x1 x2 x3 x4 x5 k h hk
    rw [f_X8_soonest_L48] at h
    cases h
  | succ n ih =>
    intro s0 x1 x2 x3 x4 x5 k h hk
    rw [f_X8_soonest_L48] at h
    refine AW.iload dX8_soonest_48 rfl ?_
    refine AW.aload_n dX8_soonest_50 rfl ?_
    refine AW.tgR (k := 31) dX8_soonest_51 (Nat.le_of_ble_eq_true rfl) (fun _ => rfl) q1571 rfl ia31 ?_
    refine AW.aload_n dX8_soonest_54 rfl ?_
    refine AW.tgI (k := 18) dX8_soonest_55 (Nat.le_of_ble_eq_true rfl) (fun _ => rfl) q1558 rfl ?_
    refine AW.tiald (k := 31) dX8_soonest_58 ia31 (Nat.le_of_ble_eq_true rfl) rfl h (fun v8 h => ?_)
    refine AW.icmp_ge 93 dX8_soonest_59 (by decide) h (fun c13 h => ?_) (fun c13 h => ?_)
    · exact AW.fewer (L' := [some (rV (some b)), some (iV x1), some (iV x2), some (iV x3), some (iV x4), none]) (And.intro rfl (And.intro rfl (And.intro rfl (And.intro rfl (And.intro rfl trivial))))) (hk _ _ _ _ _ h)
    · refine AW.aload_n dX8_soonest_62 rfl ?_
      refine AW.iload dX8_soonest_63 rfl ?_
      refine AW.iload dX8_soonest_65 rfl ?_
      refine AW.iload_n dX8_soonest_67 rfl ?_
      refine AW.iload_n dX8_soonest_68 rfl ?_
      refine AW.tVI (M' := m_X8_showsRoom) [iV x5, iV x4, iV x1, iV x2] [] dX8_soonest_69 q2084 q2086 qs112 q139 q2087 rfl n_X8_showsRoom rfl rfl rfl (fun _ _ e => c_X8_showsRoom e) h (fun v10 s9 h => ?_)
      refine AW.if_eq 87 dX8_soonest_72 (by decide) h (fun c12 h => ?_) (fun c12 h => ?_)
      · refine AW.iinc (L' := [some (rV (some b)), some (iV x1), some (iV x2), some (iV x3), some (iV x4), some (iV (x5 + 1))]) dX8_soonest_87 rfl (Nat.le_of_ble_eq_true rfl) rfl rfl ?_
        refine AW.goto (tgt := 48) dX8_soonest_90 (by decide) ?_
        exact ih _ _ _ _ _ _ _ h hk
      · refine AW.iload_n dX8_soonest_75 rfl ?_
        refine AW.if_ne 84 dX8_soonest_76 (by decide) h (fun c11 h => ?_) (fun c11 h => ?_)
        · refine AW.iload dX8_soonest_84 rfl ?_
          refine AW.nv ?_
          cases h
          exact AW.iret dX8_soonest_86 rfl
        · refine AW.iload dX8_soonest_79 rfl ?_
          refine AW.goto (tgt := 86) dX8_soonest_81 (by decide) ?_
          refine AW.nv ?_
          cases h
          exact AW.iret dX8_soonest_86 rfl
def f_X8_soonest_L37 : Nat → TW → Int → Int → Int → Int → (TW → Option (Int × TW)) → Option (Int × TW)
  | 0, _, _, _, _, _, _ => none
  | n + 1, s0, x1, x2, x3, x4, k => (if nrm 299 < nrm x4 then (k s0) else (f_X8_soonest_L48 FU s0 x1 x2 x3 x4 0 (fun s14 x1 x2 x3 x4 => f_X8_soonest_L37 n s14 x1 x2 x3 (x4 + 1) k)))
theorem w_X8_soonest_L37 {b : Nat} {σ σ0 : Hp} {w : Int × TW} : ∀ (n : Nat) (s0 : TW) (x1 : Int) (x2 : Int) (x3 : Int) (x4 : Int) (k : (TW → Option (Int × TW))), f_X8_soonest_L37 n s0 x1 x2 x3 x4 k = some w → (∀ (s1 : TW), k s1 = some w → AW m_X8_soonest σ0 (tI b σ w) 99 [none, none, none, none, none, none] [] (insT b s1 σ)) → AW m_X8_soonest σ0 (tI b σ w) 37 [some (rV (some b)), some (iV x1), some (iV x2), some (iV x3), some (iV x4), none] [] (insT b s0 σ) := by
  intro n
  induction n with
  | zero =>
    intro s0 x1 x2 x3 x4 k h hk
    rw [f_X8_soonest_L37] at h
    cases h
  | succ n ih =>
    intro s0 x1 x2 x3 x4 k h hk
    rw [f_X8_soonest_L37] at h
    refine AW.iload dX8_soonest_37 rfl ?_
    refine AW.sipush dX8_soonest_39 (by decide) ?_
    refine AW.icmp_gt 99 dX8_soonest_42 (by decide) h (fun c15 h => ?_) (fun c15 h => ?_)
    · exact AW.fewer (L' := [none, none, none, none, none, none]) (trivial) (hk _ h)
    · refine AW.iconst dX8_soonest_45 ?_
      refine AW.istore (L' := [some (rV (some b)), some (iV x1), some (iV x2), some (iV x3), some (iV x4), some (iV 0)]) dX8_soonest_46 (Nat.le_of_ble_eq_true rfl) rfl rfl ?_
      refine w_X8_soonest_L48 _ _ _ _ _ _ _ _ h (fun s14 x1 x2 x3 x4 h => ?_)
      refine AW.iinc (L' := [some (rV (some b)), some (iV x1), some (iV x2), some (iV x3), some (iV (x4 + 1)), none]) dX8_soonest_93 rfl (Nat.le_of_ble_eq_true rfl) rfl rfl ?_
      refine AW.goto (tgt := 37) dX8_soonest_96 (by decide) ?_
      exact ih _ _ _ _ _ _ h hk
def f_X8_soonest (s0 : TW) (x1 : Int) (x2 : Int) (x3 : Int) : Option (Int × TW) :=
  bt_ (f_X8_isRoom s0 x1) fun v2 s1 => (if nrm v2 = 0 then (some ((-1), s1)) else (bt_ (f_X8_isPast s1 x2) fun v4 s3 => (if nrm v4 = 0 then (some ((-1), s3)) else (bt_ (f_X8_in s3 x3 0 1) fun v6 s5 => (if ¬ nrm v6 = 0 then (bt_ (f_X8_fillsAll s5) fun _ s7 => f_X8_soonest_L37 FU s7 x1 x2 x3 (s7.1 53) (fun s16 => some ((-2), s16))) else (some ((-1), s5)))))))
theorem w_X8_soonest {b : Nat} {σ σ0 : Hp} {w : Int × TW} (s0 : TW) (x1 : Int) (x2 : Int) (x3 : Int) (h : f_X8_soonest s0 x1 x2 x3 = some w) : AW m_X8_soonest σ0 (tI b σ w) 0 [some (rV (some b)), some (iV x1), some (iV x2), some (iV x3), none, none] [] (insT b s0 σ) := by
  unfold f_X8_soonest at h
  refine AW.aload_n dX8_soonest_0 rfl ?_
  refine AW.iload_n dX8_soonest_1 rfl ?_
  refine AW.tVI (M' := m_X8_isRoom) [iV x1] [] dX8_soonest_2 q1988 q1990 qs106 q139 q1991 rfl n_X8_isRoom rfl rfl rfl (fun _ _ e => c_X8_isRoom e) h (fun v2 s1 h => ?_)
  refine AW.if_eq 25 dX8_soonest_5 (by decide) h (fun c19 h => ?_) (fun c19 h => ?_)
  · refine AW.iconst dX8_soonest_25 ?_
    cases h
    exact AW.iret dX8_soonest_26 rfl
  · refine AW.aload_n dX8_soonest_8 rfl ?_
    refine AW.iload_n dX8_soonest_9 rfl ?_
    refine AW.tVI (M' := m_X8_isPast) [iV x2] [] dX8_soonest_10 q1900 q1902 qs90 q139 q1903 rfl n_X8_isPast rfl rfl rfl (fun _ _ e => c_X8_isPast e) h (fun v4 s3 h => ?_)
    refine AW.if_eq 25 dX8_soonest_13 (by decide) h (fun c18 h => ?_) (fun c18 h => ?_)
    · refine AW.iconst dX8_soonest_25 ?_
      cases h
      exact AW.iret dX8_soonest_26 rfl
    · refine AW.iload_n dX8_soonest_16 rfl ?_
      refine AW.iconst dX8_soonest_17 ?_
      refine AW.iconst dX8_soonest_18 ?_
      refine AW.tSI (M' := m_X8_in) [iV x3, iV 0, iV 1] [] dX8_soonest_19 q1897 q1898 q139 q1899 n_X8_in rfl rfl rfl (fun _ _ e => c_X8_in e) h (fun v6 s5 h => ?_)
      refine AW.if_ne 27 dX8_soonest_22 (by decide) h (fun c17 h => ?_) (fun c17 h => ?_)
      · refine AW.aload_n dX8_soonest_27 rfl ?_
        refine AW.tVU (M' := m_X8_fillsAll) [] [] dX8_soonest_28 q2080 q2082 qs111 q139 q2083 rfl n_X8_fillsAll rfl rfl rfl (fun _ _ e => c_X8_fillsAll e) h (fun _ s7 h => ?_)
        refine AW.aload_n dX8_soonest_31 rfl ?_
        refine AW.tgI (k := 53) dX8_soonest_32 (Nat.le_of_ble_eq_true rfl) (fun _ => rfl) q1593 rfl ?_
        refine AW.istore (L' := [some (rV (some b)), some (iV x1), some (iV x2), some (iV x3), some (iV (s7.1 53)), none]) dX8_soonest_35 (Nat.le_of_ble_eq_true rfl) rfl rfl ?_
        refine w_X8_soonest_L37 _ _ _ _ _ _ _ h (fun s16 h => ?_)
        refine AW.bipush dX8_soonest_99 (by decide) ?_
        cases h
        exact AW.iret dX8_soonest_101 rfl
      · refine AW.iconst dX8_soonest_25 ?_
        cases h
        exact AW.iret dX8_soonest_26 rfl
theorem c_X8_soonest {b : Nat} {σ : Hp} {s0 : TW} {x1 : Int} {x2 : Int} {x3 : Int} {v : Int} {s1 : TW} (h : f_X8_soonest s0 x1 x2 x3 = some (v, s1)) : Ct m_X8_soonest [rV (some b), iV x1, iV x2, iV x3] (insT b s0 σ) (.inl (some (iV v)), insT b s1 σ) :=
  Ct.of2 (w_X8_soonest s0 x1 x2 x3 h) (by decide) rfl rfl rfl
abbrev m_X8_stand : Mi := (yX8_stand, cX8_stand, (some .int), 4, 3, 69, [])
theorem n_X8_stand : nameOk yX8_stand 1 := ⟨by decide, by decide, by decide +kernel⟩
def f_X8_stand_L34 : Nat → TW → Int → Int → Int → (TW → Int → Int → Option (Int × TW)) → Option (Int × TW)
  | 0, _, _, _, _, _ => none
  | n + 1, s0, x1, x2, x3, k => (ta s0 24 (s0.1 18)).bind fun v5 => (if nrm v5 ≤ nrm x3 then (k s0 x1 x2) else (bt_ (f_X8_seenFrom s0 x3) fun v7 s6 => bt_ (f_X8_bits s6 v7) fun v9 s8 => bt_ (f_X8_seenFrom s8 x2) fun v11 s10 => bt_ (f_X8_bits s10 v11) fun v13 s12 => (if nrm v9 ≤ nrm v13 then (f_X8_stand_L34 n s12 x1 x2 (x3 + 1) k) else (f_X8_stand_L34 n s12 x1 x3 (x3 + 1) k))))
theorem w_X8_stand_L34 {b : Nat} {σ σ0 : Hp} {w : Int × TW} : ∀ (n : Nat) (s0 : TW) (x1 : Int) (x2 : Int) (x3 : Int) (k : (TW → Int → Int → Option (Int × TW))), f_X8_stand_L34 n s0 x1 x2 x3 k = some w → (∀ (s1 : TW) (x1 : Int) (x2 : Int), k s1 x1 x2 = some w → AW m_X8_stand σ0 (tI b σ w) 74 [some (rV (some b)), some (iV x1), some (iV x2), none] [] (insT b s1 σ)) → AW m_X8_stand σ0 (tI b σ w) 34 [some (rV (some b)), some (iV x1), some (iV x2), some (iV x3)] [] (insT b s0 σ) := by
  intro n
  induction n with
  | zero =>
    intro s0 x1 x2 x3 k h hk
    rw [f_X8_stand_L34] at h
    cases h
  | succ n ih =>
    intro s0 x1 x2 x3 k h hk
    rw [f_X8_stand_L34] at h
    refine AW.iload_n dX8_stand_34 rfl ?_
    refine AW.aload_n dX8_stand_35 rfl ?_
    refine AW.tgR (k := 24) dX8_stand_36 (Nat.le_of_ble_eq_true rfl) (fun _ => rfl) q1564 rfl ia24 ?_
    refine AW.aload_n dX8_stand_39 rfl ?_
    refine AW.tgI (k := 18) dX8_stand_40 (Nat.le_of_ble_eq_true rfl) (fun _ => rfl) q1558 rfl ?_
    refine AW.tiald (k := 24) dX8_stand_43 ia24 (Nat.le_of_ble_eq_true rfl) rfl h (fun v5 h => ?_)
    refine AW.icmp_ge 74 dX8_stand_44 (by decide) h (fun c15 h => ?_) (fun c15 h => ?_)
    · exact AW.fewer (L' := [some (rV (some b)), some (iV x1), some (iV x2), none]) (And.intro rfl (And.intro rfl (And.intro rfl trivial))) (hk _ _ _ h)
    · refine AW.aload_n dX8_stand_47 rfl ?_
      refine AW.iload_n dX8_stand_48 rfl ?_
      refine AW.tVI (M' := m_X8_seenFrom) [iV x3] [] dX8_stand_49 q2135 q2137 qs116 q139 q2138 rfl n_X8_seenFrom rfl rfl rfl (fun _ _ e => c_X8_seenFrom e) h (fun v7 s6 h => ?_)
      refine AW.tSI (M' := m_X8_bits) [iV v7] [] dX8_stand_52 q1526 q1527 q139 q1528 n_X8_bits rfl rfl rfl (fun _ _ e => c_X8_bits e) h (fun v9 s8 h => ?_)
      refine AW.aload_n dX8_stand_55 rfl ?_
      refine AW.iload_n dX8_stand_56 rfl ?_
      refine AW.tVI (M' := m_X8_seenFrom) [iV x2] [iV v9] dX8_stand_57 q2135 q2137 qs116 q139 q2138 rfl n_X8_seenFrom rfl rfl rfl (fun _ _ e => c_X8_seenFrom e) h (fun v11 s10 h => ?_)
      refine AW.tSI (M' := m_X8_bits) [iV v11] [iV v9] dX8_stand_60 q1526 q1527 q139 q1528 n_X8_bits rfl rfl rfl (fun _ _ e => c_X8_bits e) h (fun v13 s12 h => ?_)
      refine AW.icmp_le 68 dX8_stand_63 (by decide) h (fun c14 h => ?_) (fun c14 h => ?_)
      · refine AW.iinc (L' := [some (rV (some b)), some (iV x1), some (iV x2), some (iV (x3 + 1))]) dX8_stand_68 rfl (Nat.le_of_ble_eq_true rfl) rfl rfl ?_
        refine AW.goto (tgt := 34) dX8_stand_71 (by decide) ?_
        exact ih _ _ _ _ _ h hk
      · refine AW.iload_n dX8_stand_66 rfl ?_
        refine AW.istore_n (L' := [some (rV (some b)), some (iV x1), some (iV x3), some (iV x3)]) dX8_stand_67 (Nat.le_of_ble_eq_true rfl) rfl rfl ?_
        refine AW.iinc (L' := [some (rV (some b)), some (iV x1), some (iV x3), some (iV (x3 + 1))]) dX8_stand_68 rfl (Nat.le_of_ble_eq_true rfl) rfl rfl ?_
        refine AW.goto (tgt := 34) dX8_stand_71 (by decide) ?_
        exact ih _ _ _ _ _ h hk
def f_X8_stand (s0 : TW) (x1 : Int) : Option (Int × TW) :=
  bt_ (f_X8_in s0 x1 0 1) fun v2 s1 => (if ¬ nrm v2 = 0 then ((ta s1 24 (s1.1 18)).bind fun v3 => (if ¬ nrm v3 = 0 then (bt_ (f_X8_copies s1) fun _ s4 => f_X8_stand_L34 FU s4 x1 0 1 (fun s16 x1 x2 => (if ¬ nrm x1 = 0 then (bt_ (f_X8_seenFrom s16 x2) fun v18 s17 => bt_ (f_X8_bits s17 v18) fun v20 s19 => some (v20, s19)) else (some (nrm x2, s16))))) else (some ((-2), s1)))) else (some ((-1), s1)))
theorem w_X8_stand {b : Nat} {σ σ0 : Hp} {w : Int × TW} (s0 : TW) (x1 : Int) (h : f_X8_stand s0 x1 = some w) : AW m_X8_stand σ0 (tI b σ w) 0 [some (rV (some b)), some (iV x1), none, none] [] (insT b s0 σ) := by
  unfold f_X8_stand at h
  refine AW.iload_n dX8_stand_0 rfl ?_
  refine AW.iconst dX8_stand_1 ?_
  refine AW.iconst dX8_stand_2 ?_
  refine AW.tSI (M' := m_X8_in) [iV x1, iV 0, iV 1] [] dX8_stand_3 q1897 q1898 q139 q1899 n_X8_in rfl rfl rfl (fun _ _ e => c_X8_in e) h (fun v2 s1 h => ?_)
  refine AW.if_ne 11 dX8_stand_6 (by decide) h (fun c23 h => ?_) (fun c23 h => ?_)
  · refine AW.aload_n dX8_stand_11 rfl ?_
    refine AW.tgR (k := 24) dX8_stand_12 (Nat.le_of_ble_eq_true rfl) (fun _ => rfl) q1564 rfl ia24 ?_
    refine AW.aload_n dX8_stand_15 rfl ?_
    refine AW.tgI (k := 18) dX8_stand_16 (Nat.le_of_ble_eq_true rfl) (fun _ => rfl) q1558 rfl ?_
    refine AW.tiald (k := 24) dX8_stand_19 ia24 (Nat.le_of_ble_eq_true rfl) rfl h (fun v3 h => ?_)
    refine AW.if_ne 26 dX8_stand_20 (by decide) h (fun c22 h => ?_) (fun c22 h => ?_)
    · refine AW.aload_n dX8_stand_26 rfl ?_
      refine AW.tVU (M' := m_X8_copies) [] [] dX8_stand_27 q1912 q1914 qs92 q139 q1915 rfl n_X8_copies rfl rfl rfl (fun _ _ e => c_X8_copies e) h (fun _ s4 h => ?_)
      refine AW.iconst dX8_stand_30 ?_
      refine AW.istore_n (L' := [some (rV (some b)), some (iV x1), some (iV 0), none]) dX8_stand_31 (Nat.le_of_ble_eq_true rfl) rfl rfl ?_
      refine AW.iconst dX8_stand_32 ?_
      refine AW.istore_n (L' := [some (rV (some b)), some (iV x1), some (iV 0), some (iV 1)]) dX8_stand_33 (Nat.le_of_ble_eq_true rfl) rfl rfl ?_
      refine w_X8_stand_L34 _ _ _ _ _ _ h (fun s16 x1 x2 h => ?_)
      refine AW.iload_n dX8_stand_74 rfl ?_
      refine AW.if_ne 82 dX8_stand_75 (by decide) h (fun c21 h => ?_) (fun c21 h => ?_)
      · refine AW.aload_n dX8_stand_82 rfl ?_
        refine AW.iload_n dX8_stand_83 rfl ?_
        refine AW.tVI (M' := m_X8_seenFrom) [iV x2] [] dX8_stand_84 q2135 q2137 qs116 q139 q2138 rfl n_X8_seenFrom rfl rfl rfl (fun _ _ e => c_X8_seenFrom e) h (fun v18 s17 h => ?_)
        refine AW.tSI (M' := m_X8_bits) [iV v18] [] dX8_stand_87 q1526 q1527 q139 q1528 n_X8_bits rfl rfl rfl (fun _ _ e => c_X8_bits e) h (fun v20 s19 h => ?_)
        cases h
        exact AW.iret dX8_stand_90 rfl
      · refine AW.iload_n dX8_stand_78 rfl ?_
        refine AW.goto (tgt := 90) dX8_stand_79 (by decide) ?_
        refine AW.nv ?_
        cases h
        exact AW.iret dX8_stand_90 rfl
    · refine AW.bipush dX8_stand_23 (by decide) ?_
      cases h
      exact AW.iret dX8_stand_25 rfl
  · refine AW.iconst dX8_stand_9 ?_
    cases h
    exact AW.iret dX8_stand_10 rfl
theorem c_X8_stand {b : Nat} {σ : Hp} {s0 : TW} {x1 : Int} {v : Int} {s1 : TW} (h : f_X8_stand s0 x1 = some (v, s1)) : Ct m_X8_stand [rV (some b), iV x1] (insT b s0 σ) (.inl (some (iV v)), insT b s1 σ) :=
  Ct.of2 (w_X8_stand s0 x1 h) (by decide) rfl rfl rfl
abbrev m_X8_still : Mi := (yX8_still, cX8_still, (some .int), 6, 7, 162, [])
theorem n_X8_still : nameOk yX8_still 2 := ⟨by decide, by decide, by decide +kernel⟩
def f_X8_still_L47 : Nat → TW → Int → Int → Int → Int → Int → (TW → Int → Int → Int → Int → Option (Int × TW)) → Option (Int × TW)
  | 0, _, _, _, _, _, _, _ => none
  | n + 1, s0, x1, x2, x3, x4, x5, k => (if nrm 299 < nrm x5 then (k s0 x1 x2 x3 x4) else (bt_ (f_X8_showsRoom s0 x4 x5 x1 x2) fun v8 s7 => (if nrm v8 = 0 then (f_X8_still_L47 n s7 x1 x2 x3 x4 (x5 + 1) k) else (f_X8_still_L47 n s7 x1 x2 (orI x3 (slI 1 x4)) x4 (x5 + 1) k))))
theorem w_X8_still_L47 {b : Nat} {σ σ0 : Hp} {w : Int × TW} : ∀ (n : Nat) (s0 : TW) (x1 : Int) (x2 : Int) (x3 : Int) (x4 : Int) (x5 : Int) (k : (TW → Int → Int → Int → Int → Option (Int × TW))), f_X8_still_L47 n s0 x1 x2 x3 x4 x5 k = some w → (∀ (s1 : TW) (x1 : Int) (x2 : Int) (x3 : Int) (x4 : Int), k s1 x1 x2 x3 x4 = some w → AW m_X8_still σ0 (tI b σ w) 81 [some (rV (some b)), some (iV x1), some (iV x2), some (iV x3), some (iV x4), none] [] (insT b s1 σ)) → AW m_X8_still σ0 (tI b σ w) 47 [some (rV (some b)), some (iV x1), some (iV x2), some (iV x3), some (iV x4), some (iV x5)] [] (insT b s0 σ) := by
  intro n
  induction n with
  | zero =>
    intro s0 x1 x2 x3 x4 x5 k h hk
    rw [f_X8_still_L47] at h
    cases h
  | succ n ih =>
    intro s0 x1 x2 x3 x4 x5 k h hk
    rw [f_X8_still_L47] at h
    refine AW.iload dX8_still_47 rfl ?_
    refine AW.sipush dX8_still_49 (by decide) ?_
    refine AW.icmp_gt 81 dX8_still_52 (by decide) h (fun c10 h => ?_) (fun c10 h => ?_)
    · exact AW.fewer (L' := [some (rV (some b)), some (iV x1), some (iV x2), some (iV x3), some (iV x4), none]) (And.intro rfl (And.intro rfl (And.intro rfl (And.intro rfl (And.intro rfl trivial))))) (hk _ _ _ _ _ h)
    · refine AW.aload_n dX8_still_55 rfl ?_
      refine AW.iload dX8_still_56 rfl ?_
      refine AW.iload dX8_still_58 rfl ?_
      refine AW.iload_n dX8_still_60 rfl ?_
      refine AW.iload_n dX8_still_61 rfl ?_
      refine AW.tVI (M' := m_X8_showsRoom) [iV x4, iV x5, iV x1, iV x2] [] dX8_still_62 q2084 q2086 qs112 q139 q2087 rfl n_X8_showsRoom rfl rfl rfl (fun _ _ e => c_X8_showsRoom e) h (fun v8 s7 h => ?_)
      refine AW.if_eq 75 dX8_still_65 (by decide) h (fun c9 h => ?_) (fun c9 h => ?_)
      · refine AW.iinc (L' := [some (rV (some b)), some (iV x1), some (iV x2), some (iV x3), some (iV x4), some (iV (x5 + 1))]) dX8_still_75 rfl (Nat.le_of_ble_eq_true rfl) rfl rfl ?_
        refine AW.goto (tgt := 47) dX8_still_78 (by decide) ?_
        exact ih _ _ _ _ _ _ _ h hk
      · refine AW.iload_n dX8_still_68 rfl ?_
        refine AW.iconst dX8_still_69 ?_
        refine AW.iload dX8_still_70 rfl ?_
        refine AW.ishl dX8_still_72 ?_
        refine AW.ior dX8_still_73 ?_
        refine AW.istore_n (L' := [some (rV (some b)), some (iV x1), some (iV x2), some (iV (orI x3 (slI 1 x4))), some (iV x4), some (iV x5)]) dX8_still_74 (Nat.le_of_ble_eq_true rfl) rfl rfl ?_
        refine AW.iinc (L' := [some (rV (some b)), some (iV x1), some (iV x2), some (iV (orI x3 (slI 1 x4))), some (iV x4), some (iV (x5 + 1))]) dX8_still_75 rfl (Nat.le_of_ble_eq_true rfl) rfl rfl ?_
        refine AW.goto (tgt := 47) dX8_still_78 (by decide) ?_
        exact ih _ _ _ _ _ _ _ h hk
def f_X8_still_L27 : Nat → TW → Int → Int → Int → Int → (TW → Int → Option (Int × TW)) → Option (Int × TW)
  | 0, _, _, _, _, _, _ => none
  | n + 1, s0, x1, x2, x3, x4, k => (ta s0 31 (s0.1 18)).bind fun v6 => (if nrm v6 ≤ nrm x4 then (k s0 x3) else (f_X8_still_L47 FU s0 x1 x2 x3 x4 (s0.1 53) (fun s11 x1 x2 x3 x4 => f_X8_still_L27 n s11 x1 x2 x3 (x4 + 1) k)))
theorem w_X8_still_L27 {b : Nat} {σ σ0 : Hp} {w : Int × TW} : ∀ (n : Nat) (s0 : TW) (x1 : Int) (x2 : Int) (x3 : Int) (x4 : Int) (k : (TW → Int → Option (Int × TW))), f_X8_still_L27 n s0 x1 x2 x3 x4 k = some w → (∀ (s1 : TW) (x3 : Int), k s1 x3 = some w → AW m_X8_still σ0 (tI b σ w) 87 [none, none, none, some (iV x3), none, none] [] (insT b s1 σ)) → AW m_X8_still σ0 (tI b σ w) 27 [some (rV (some b)), some (iV x1), some (iV x2), some (iV x3), some (iV x4), none] [] (insT b s0 σ) := by
  intro n
  induction n with
  | zero =>
    intro s0 x1 x2 x3 x4 k h hk
    rw [f_X8_still_L27] at h
    cases h
  | succ n ih =>
    intro s0 x1 x2 x3 x4 k h hk
    rw [f_X8_still_L27] at h
    refine AW.iload dX8_still_27 rfl ?_
    refine AW.aload_n dX8_still_29 rfl ?_
    refine AW.tgR (k := 31) dX8_still_30 (Nat.le_of_ble_eq_true rfl) (fun _ => rfl) q1571 rfl ia31 ?_
    refine AW.aload_n dX8_still_33 rfl ?_
    refine AW.tgI (k := 18) dX8_still_34 (Nat.le_of_ble_eq_true rfl) (fun _ => rfl) q1558 rfl ?_
    refine AW.tiald (k := 31) dX8_still_37 ia31 (Nat.le_of_ble_eq_true rfl) rfl h (fun v6 h => ?_)
    refine AW.icmp_ge 87 dX8_still_38 (by decide) h (fun c12 h => ?_) (fun c12 h => ?_)
    · exact AW.fewer (L' := [none, none, none, some (iV x3), none, none]) (And.intro rfl trivial) (hk _ _ h)
    · refine AW.aload_n dX8_still_41 rfl ?_
      refine AW.tgI (k := 53) dX8_still_42 (Nat.le_of_ble_eq_true rfl) (fun _ => rfl) q1593 rfl ?_
      refine AW.istore (L' := [some (rV (some b)), some (iV x1), some (iV x2), some (iV x3), some (iV x4), some (iV (s0.1 53))]) dX8_still_45 (Nat.le_of_ble_eq_true rfl) rfl rfl ?_
      refine w_X8_still_L47 _ _ _ _ _ _ _ _ h (fun s11 x1 x2 x3 x4 h => ?_)
      refine AW.iinc (L' := [some (rV (some b)), some (iV x1), some (iV x2), some (iV x3), some (iV (x4 + 1)), none]) dX8_still_81 rfl (Nat.le_of_ble_eq_true rfl) rfl rfl ?_
      refine AW.goto (tgt := 27) dX8_still_84 (by decide) ?_
      exact ih _ _ _ _ _ _ h hk
def f_X8_still (s0 : TW) (x1 : Int) (x2 : Int) : Option (Int × TW) :=
  bt_ (f_X8_isRoom s0 x1) fun v2 s1 => (if nrm v2 = 0 then (some ((-1), s1)) else (bt_ (f_X8_isPast s1 x2) fun v4 s3 => (if ¬ nrm v4 = 0 then (bt_ (f_X8_fillsAll s3) fun _ s5 => f_X8_still_L27 FU s5 x1 x2 0 0 (fun s13 x3 => some (nrm x3, s13))) else (some ((-1), s3)))))
theorem w_X8_still {b : Nat} {σ σ0 : Hp} {w : Int × TW} (s0 : TW) (x1 : Int) (x2 : Int) (h : f_X8_still s0 x1 x2 = some w) : AW m_X8_still σ0 (tI b σ w) 0 [some (rV (some b)), some (iV x1), some (iV x2), none, none, none] [] (insT b s0 σ) := by
  unfold f_X8_still at h
  refine AW.aload_n dX8_still_0 rfl ?_
  refine AW.iload_n dX8_still_1 rfl ?_
  refine AW.tVI (M' := m_X8_isRoom) [iV x1] [] dX8_still_2 q1988 q1990 qs106 q139 q1991 rfl n_X8_isRoom rfl rfl rfl (fun _ _ e => c_X8_isRoom e) h (fun v2 s1 h => ?_)
  refine AW.if_eq 16 dX8_still_5 (by decide) h (fun c15 h => ?_) (fun c15 h => ?_)
  · refine AW.iconst dX8_still_16 ?_
    cases h
    exact AW.iret dX8_still_17 rfl
  · refine AW.aload_n dX8_still_8 rfl ?_
    refine AW.iload_n dX8_still_9 rfl ?_
    refine AW.tVI (M' := m_X8_isPast) [iV x2] [] dX8_still_10 q1900 q1902 qs90 q139 q1903 rfl n_X8_isPast rfl rfl rfl (fun _ _ e => c_X8_isPast e) h (fun v4 s3 h => ?_)
    refine AW.if_ne 18 dX8_still_13 (by decide) h (fun c14 h => ?_) (fun c14 h => ?_)
    · refine AW.aload_n dX8_still_18 rfl ?_
      refine AW.tVU (M' := m_X8_fillsAll) [] [] dX8_still_19 q2080 q2082 qs111 q139 q2083 rfl n_X8_fillsAll rfl rfl rfl (fun _ _ e => c_X8_fillsAll e) h (fun _ s5 h => ?_)
      refine AW.iconst dX8_still_22 ?_
      refine AW.istore_n (L' := [some (rV (some b)), some (iV x1), some (iV x2), some (iV 0), none, none]) dX8_still_23 (Nat.le_of_ble_eq_true rfl) rfl rfl ?_
      refine AW.iconst dX8_still_24 ?_
      refine AW.istore (L' := [some (rV (some b)), some (iV x1), some (iV x2), some (iV 0), some (iV 0), none]) dX8_still_25 (Nat.le_of_ble_eq_true rfl) rfl rfl ?_
      refine w_X8_still_L27 _ _ _ _ _ _ _ h (fun s13 x3 h => ?_)
      refine AW.iload_n dX8_still_87 rfl ?_
      refine AW.nv ?_
      cases h
      exact AW.iret dX8_still_88 rfl
    · refine AW.iconst dX8_still_16 ?_
      cases h
      exact AW.iret dX8_still_17 rfl
theorem c_X8_still {b : Nat} {σ : Hp} {s0 : TW} {x1 : Int} {x2 : Int} {v : Int} {s1 : TW} (h : f_X8_still s0 x1 x2 = some (v, s1)) : Ct m_X8_still [rV (some b), iV x1, iV x2] (insT b s0 σ) (.inl (some (iV v)), insT b s1 σ) :=
  Ct.of2 (w_X8_still s0 x1 x2 h) (by decide) rfl rfl rfl
abbrev m_X8_tell : Mi := (yX8_tell, cX8_tell, (some .int), 5, 2, 43, [])
theorem n_X8_tell : nameOk yX8_tell 4 := ⟨by decide, by decide, by decide +kernel⟩
def f_X8_tell (s0 : TW) (x1 : Int) (x2 : Int) (x3 : Int) (x4 : Int) : Option (Int × TW) :=
  (if nrm (s0.1 67) = nrm 20 then (some ((-1), s0)) else (bt_ (f_X8_isMirror s0 x1) fun v2 s1 => (if nrm v2 = 0 then (some ((-1), s1)) else (bt_ (f_X8_in s1 x2 0 99) fun v4 s3 => (if nrm v4 = 0 then (some ((-1), s3)) else (bt_ (f_X8_isMan s3 x3) fun v6 s5 => (if ¬ nrm v6 = 0 then ((ts s5 68 (s5.1 67) (nrm x1)).bind fun s7 => (ts s7 69 (s7.1 67) (nrm x2)).bind fun s8 => (ts s8 70 (s8.1 67) (nrm x3)).bind fun s9 => (ts s9 71 (s9.1 67) (b1I x4)).bind fun s10 => bd (tp s10 67 (nrm ((s10.1 67) + 1))) fun s11 => some (nrm ((s11.1 67) - 1), s11)) else (some ((-1), s5)))))))))
theorem w_X8_tell {b : Nat} {σ σ0 : Hp} {w : Int × TW} (s0 : TW) (x1 : Int) (x2 : Int) (x3 : Int) (x4 : Int) (h : f_X8_tell s0 x1 x2 x3 x4 = some w) : AW m_X8_tell σ0 (tI b σ w) 0 [some (rV (some b)), some (iV x1), some (iV x2), some (iV x3), some (iV x4)] [] (insT b s0 σ) := by
  unfold f_X8_tell at h
  refine AW.aload_n dX8_tell_0 rfl ?_
  refine AW.tgI (k := 67) dX8_tell_1 (Nat.le_of_ble_eq_true rfl) (fun _ => rfl) q1607 rfl ?_
  refine AW.bipush dX8_tell_4 (by decide) ?_
  refine AW.icmp_eq 35 dX8_tell_6 (by decide) h (fun c15 h => ?_) (fun c15 h => ?_)
  · refine AW.iconst dX8_tell_35 ?_
    cases h
    exact AW.iret dX8_tell_36 rfl
  · refine AW.aload_n dX8_tell_9 rfl ?_
    refine AW.iload_n dX8_tell_10 rfl ?_
    refine AW.tVI (M' := m_X8_isMirror) [iV x1] [] dX8_tell_11 q1908 q1910 qs91 q139 q1911 rfl n_X8_isMirror rfl rfl rfl (fun _ _ e => c_X8_isMirror e) h (fun v2 s1 h => ?_)
    refine AW.if_eq 35 dX8_tell_14 (by decide) h (fun c14 h => ?_) (fun c14 h => ?_)
    · refine AW.iconst dX8_tell_35 ?_
      cases h
      exact AW.iret dX8_tell_36 rfl
    · refine AW.iload_n dX8_tell_17 rfl ?_
      refine AW.iconst dX8_tell_18 ?_
      refine AW.bipush dX8_tell_19 (by decide) ?_
      refine AW.tSI (M' := m_X8_in) [iV x2, iV 0, iV 99] [] dX8_tell_21 q1897 q1898 q139 q1899 n_X8_in rfl rfl rfl (fun _ _ e => c_X8_in e) h (fun v4 s3 h => ?_)
      refine AW.if_eq 35 dX8_tell_24 (by decide) h (fun c13 h => ?_) (fun c13 h => ?_)
      · refine AW.iconst dX8_tell_35 ?_
        cases h
        exact AW.iret dX8_tell_36 rfl
      · refine AW.aload_n dX8_tell_27 rfl ?_
        refine AW.iload_n dX8_tell_28 rfl ?_
        refine AW.tVI (M' := m_X8_isMan) [iV x3] [] dX8_tell_29 q1893 q1895 qs89 q139 q1896 rfl n_X8_isMan rfl rfl rfl (fun _ _ e => c_X8_isMan e) h (fun v6 s5 h => ?_)
        refine AW.if_ne 37 dX8_tell_32 (by decide) h (fun c12 h => ?_) (fun c12 h => ?_)
        · refine AW.aload_n dX8_tell_37 rfl ?_
          refine AW.tgR (k := 68) dX8_tell_38 (Nat.le_of_ble_eq_true rfl) (fun _ => rfl) q1608 rfl ia68 ?_
          refine AW.aload_n dX8_tell_41 rfl ?_
          refine AW.tgI (k := 67) dX8_tell_42 (Nat.le_of_ble_eq_true rfl) (fun _ => rfl) q1607 rfl ?_
          refine AW.iload_n dX8_tell_45 rfl ?_
          refine AW.nv ?_
          refine AW.tiast (k := 68) dX8_tell_46 ia68 (Nat.le_of_ble_eq_true rfl) mt68 rfl h (fun s7 h => ?_)
          refine AW.aload_n dX8_tell_47 rfl ?_
          refine AW.tgR (k := 69) dX8_tell_48 (Nat.le_of_ble_eq_true rfl) (fun _ => rfl) q1609 rfl ia69 ?_
          refine AW.aload_n dX8_tell_51 rfl ?_
          refine AW.tgI (k := 67) dX8_tell_52 (Nat.le_of_ble_eq_true rfl) (fun _ => rfl) q1607 rfl ?_
          refine AW.iload_n dX8_tell_55 rfl ?_
          refine AW.nv ?_
          refine AW.tiast (k := 69) dX8_tell_56 ia69 (Nat.le_of_ble_eq_true rfl) mt69 rfl h (fun s8 h => ?_)
          refine AW.aload_n dX8_tell_57 rfl ?_
          refine AW.tgR (k := 70) dX8_tell_58 (Nat.le_of_ble_eq_true rfl) (fun _ => rfl) q1610 rfl ia70 ?_
          refine AW.aload_n dX8_tell_61 rfl ?_
          refine AW.tgI (k := 67) dX8_tell_62 (Nat.le_of_ble_eq_true rfl) (fun _ => rfl) q1607 rfl ?_
          refine AW.iload_n dX8_tell_65 rfl ?_
          refine AW.nv ?_
          refine AW.tiast (k := 70) dX8_tell_66 ia70 (Nat.le_of_ble_eq_true rfl) mt70 rfl h (fun s9 h => ?_)
          refine AW.aload_n dX8_tell_67 rfl ?_
          refine AW.tgR (k := 71) dX8_tell_68 (Nat.le_of_ble_eq_true rfl) (fun _ => rfl) q1611 rfl ia71 ?_
          refine AW.aload_n dX8_tell_71 rfl ?_
          refine AW.tgI (k := 67) dX8_tell_72 (Nat.le_of_ble_eq_true rfl) (fun _ => rfl) q1607 rfl ?_
          refine AW.iload dX8_tell_75 rfl ?_
          refine AW.tzast (k := 71) dX8_tell_77 ia71 (Nat.le_of_ble_eq_true rfl) mt71 rfl h (fun s10 h => ?_)
          refine AW.aload_n dX8_tell_78 rfl ?_
          refine AW.dupR dX8_tell_79 ?_
          refine AW.tgI (k := 67) dX8_tell_80 (Nat.le_of_ble_eq_true rfl) (fun _ => rfl) q1607 rfl ?_
          refine AW.iconst dX8_tell_83 ?_
          refine AW.iadd dX8_tell_84 ?_
          refine AW.nv ?_
          refine AW.tpB (k := 67) dX8_tell_85 (Nat.le_of_ble_eq_true rfl) rfl q1607 rfl rfl h (fun s11 h => ?_)
          refine AW.aload_n dX8_tell_88 rfl ?_
          refine AW.tgI (k := 67) dX8_tell_89 (Nat.le_of_ble_eq_true rfl) (fun _ => rfl) q1607 rfl ?_
          refine AW.iconst dX8_tell_92 ?_
          refine AW.isub dX8_tell_93 ?_
          refine AW.nv ?_
          cases h
          exact AW.iret dX8_tell_94 rfl
        · refine AW.iconst dX8_tell_35 ?_
          cases h
          exact AW.iret dX8_tell_36 rfl
theorem c_X8_tell {b : Nat} {σ : Hp} {s0 : TW} {x1 : Int} {x2 : Int} {x3 : Int} {x4 : Int} {v : Int} {s1 : TW} (h : f_X8_tell s0 x1 x2 x3 x4 = some (v, s1)) : Ct m_X8_tell [rV (some b), iV x1, iV x2, iV x3, iV x4] (insT b s0 σ) (.inl (some (iV v)), insT b s1 σ) :=
  Ct.of2 (w_X8_tell s0 x1 x2 x3 x4 h) (by decide) rfl rfl rfl
abbrev m_X8_together : Mi := (yX8_together, cX8_together, (some .int), 7, 2, 43, [])
theorem n_X8_together : nameOk yX8_together 3 := ⟨by decide, by decide, by decide +kernel⟩
def f_X8_together_L42 : Nat → TW → Int → Int → Int → Int → Int → Int → (TW → Int → Int → Int → Option (Int × TW)) → Option (Int × TW)
  | 0, _, _, _, _, _, _, _, _ => none
  | n + 1, s0, x1, x2, x3, x4, x5, x6, k => (if nrm (s0.1 53) < nrm x6 then (k s0 x3 x4 x5) else ((ta s0 52 ((36 * x6) + x1)).bind fun v7 => (ta s0 52 ((36 * x6) + x2)).bind fun v8 => (if nrm v7 = nrm v8 then (f_X8_together_L42 n s0 x1 x2 x3 (x4 + 1) x6 (x6 + 1) k) else (f_X8_together_L42 n s0 x1 x2 x3 x4 x5 (x6 + 1) k))))
theorem w_X8_together_L42 {b : Nat} {σ σ0 : Hp} {w : Int × TW} : ∀ (n : Nat) (s0 : TW) (x1 : Int) (x2 : Int) (x3 : Int) (x4 : Int) (x5 : Int) (x6 : Int) (k : (TW → Int → Int → Int → Option (Int × TW))), f_X8_together_L42 n s0 x1 x2 x3 x4 x5 x6 k = some w → (∀ (s1 : TW) (x3 : Int) (x4 : Int) (x5 : Int), k s1 x3 x4 x5 = some w → AW m_X8_together σ0 (tI b σ w) 94 [none, none, none, some (iV x3), some (iV x4), some (iV x5), none] [] (insT b s1 σ)) → AW m_X8_together σ0 (tI b σ w) 42 [some (rV (some b)), some (iV x1), some (iV x2), some (iV x3), some (iV x4), some (iV x5), some (iV x6)] [] (insT b s0 σ) := by
  intro n
  induction n with
  | zero =>
    intro s0 x1 x2 x3 x4 x5 x6 k h hk
    rw [f_X8_together_L42] at h
    cases h
  | succ n ih =>
    intro s0 x1 x2 x3 x4 x5 x6 k h hk
    rw [f_X8_together_L42] at h
    refine AW.iload dX8_together_42 rfl ?_
    refine AW.aload_n dX8_together_44 rfl ?_
    refine AW.tgI (k := 53) dX8_together_45 (Nat.le_of_ble_eq_true rfl) (fun _ => rfl) q1593 rfl ?_
    refine AW.icmp_gt 94 dX8_together_48 (by decide) h (fun c10 h => ?_) (fun c10 h => ?_)
    · exact AW.fewer (L' := [none, none, none, some (iV x3), some (iV x4), some (iV x5), none]) (And.intro rfl (And.intro rfl (And.intro rfl trivial))) (hk _ _ _ _ h)
    · refine AW.aload_n dX8_together_51 rfl ?_
      refine AW.tgR (k := 52) dX8_together_52 (Nat.le_of_ble_eq_true rfl) (fun _ => rfl) q1592 rfl ia52 ?_
      refine AW.bipush dX8_together_55 (by decide) ?_
      refine AW.iload dX8_together_57 rfl ?_
      refine AW.imul dX8_together_59 ?_
      refine AW.iload_n dX8_together_60 rfl ?_
      refine AW.iadd dX8_together_61 ?_
      refine AW.tiald (k := 52) dX8_together_62 ia52 (Nat.le_of_ble_eq_true rfl) rfl h (fun v7 h => ?_)
      refine AW.aload_n dX8_together_63 rfl ?_
      refine AW.tgR (k := 52) dX8_together_64 (Nat.le_of_ble_eq_true rfl) (fun _ => rfl) q1592 rfl ia52 ?_
      refine AW.bipush dX8_together_67 (by decide) ?_
      refine AW.iload dX8_together_69 rfl ?_
      refine AW.imul dX8_together_71 ?_
      refine AW.iload_n dX8_together_72 rfl ?_
      refine AW.iadd dX8_together_73 ?_
      refine AW.tiald (k := 52) dX8_together_74 ia52 (Nat.le_of_ble_eq_true rfl) rfl h (fun v8 h => ?_)
      refine AW.icmp_eq 81 dX8_together_75 (by decide) h (fun c9 h => ?_) (fun c9 h => ?_)
      · refine AW.iinc (L' := [some (rV (some b)), some (iV x1), some (iV x2), some (iV x3), some (iV (x4 + 1)), some (iV x5), some (iV x6)]) dX8_together_81 rfl (Nat.le_of_ble_eq_true rfl) rfl rfl ?_
        refine AW.iload dX8_together_84 rfl ?_
        refine AW.istore (L' := [some (rV (some b)), some (iV x1), some (iV x2), some (iV x3), some (iV (x4 + 1)), some (iV x6), some (iV x6)]) dX8_together_86 (Nat.le_of_ble_eq_true rfl) rfl rfl ?_
        refine AW.iinc (L' := [some (rV (some b)), some (iV x1), some (iV x2), some (iV x3), some (iV (x4 + 1)), some (iV x6), some (iV (x6 + 1))]) dX8_together_88 rfl (Nat.le_of_ble_eq_true rfl) rfl rfl ?_
        refine AW.goto (tgt := 42) dX8_together_91 (by decide) ?_
        exact ih _ _ _ _ _ _ _ _ h hk
      · refine AW.goto (tgt := 88) dX8_together_78 (by decide) ?_
        refine AW.iinc (L' := [some (rV (some b)), some (iV x1), some (iV x2), some (iV x3), some (iV x4), some (iV x5), some (iV (x6 + 1))]) dX8_together_88 rfl (Nat.le_of_ble_eq_true rfl) rfl rfl ?_
        refine AW.goto (tgt := 42) dX8_together_91 (by decide) ?_
        exact ih _ _ _ _ _ _ _ _ h hk
def f_X8_together (s0 : TW) (x1 : Int) (x2 : Int) (x3 : Int) : Option (Int × TW) :=
  bt_ (f_X8_isMan s0 x1) fun v2 s1 => (if nrm v2 = 0 then (some ((-1), s1)) else (bt_ (f_X8_isMan s1 x2) fun v4 s3 => (if nrm v4 = 0 then (some ((-1), s3)) else ((if nrm x1 = nrm x2 then (some ((-1), s3)) else (bt_ (f_X8_in s3 x3 0 1) fun v6 s5 => (if ¬ nrm v6 = 0 then (f_X8_together_L42 FU s5 x1 x2 x3 0 (-2) 0 (fun s11 x3 x4 x5 => (if ¬ nrm x3 = 0 then (some (nrm x5, s11)) else (some (nrm x4, s11))))) else (some ((-1), s5)))))))))
theorem w_X8_together {b : Nat} {σ σ0 : Hp} {w : Int × TW} (s0 : TW) (x1 : Int) (x2 : Int) (x3 : Int) (h : f_X8_together s0 x1 x2 x3 = some w) : AW m_X8_together σ0 (tI b σ w) 0 [some (rV (some b)), some (iV x1), some (iV x2), some (iV x3), none, none, none] [] (insT b s0 σ) := by
  unfold f_X8_together at h
  refine AW.aload_n dX8_together_0 rfl ?_
  refine AW.iload_n dX8_together_1 rfl ?_
  refine AW.tVI (M' := m_X8_isMan) [iV x1] [] dX8_together_2 q1893 q1895 qs89 q139 q1896 rfl n_X8_isMan rfl rfl rfl (fun _ _ e => c_X8_isMan e) h (fun v2 s1 h => ?_)
  refine AW.if_eq 30 dX8_together_5 (by decide) h (fun c16 h => ?_) (fun c16 h => ?_)
  · refine AW.iconst dX8_together_30 ?_
    cases h
    exact AW.iret dX8_together_31 rfl
  · refine AW.aload_n dX8_together_8 rfl ?_
    refine AW.iload_n dX8_together_9 rfl ?_
    refine AW.tVI (M' := m_X8_isMan) [iV x2] [] dX8_together_10 q1893 q1895 qs89 q139 q1896 rfl n_X8_isMan rfl rfl rfl (fun _ _ e => c_X8_isMan e) h (fun v4 s3 h => ?_)
    refine AW.if_eq 30 dX8_together_13 (by decide) h (fun c15 h => ?_) (fun c15 h => ?_)
    · refine AW.iconst dX8_together_30 ?_
      cases h
      exact AW.iret dX8_together_31 rfl
    · refine AW.iload_n dX8_together_16 rfl ?_
      refine AW.iload_n dX8_together_17 rfl ?_
      refine AW.icmp_eq 30 dX8_together_18 (by decide) h (fun c14 h => ?_) (fun c14 h => ?_)
      · refine AW.iconst dX8_together_30 ?_
        cases h
        exact AW.iret dX8_together_31 rfl
      · refine AW.iload_n dX8_together_21 rfl ?_
        refine AW.iconst dX8_together_22 ?_
        refine AW.iconst dX8_together_23 ?_
        refine AW.tSI (M' := m_X8_in) [iV x3, iV 0, iV 1] [] dX8_together_24 q1897 q1898 q139 q1899 n_X8_in rfl rfl rfl (fun _ _ e => c_X8_in e) h (fun v6 s5 h => ?_)
        refine AW.if_ne 32 dX8_together_27 (by decide) h (fun c13 h => ?_) (fun c13 h => ?_)
        · refine AW.iconst dX8_together_32 ?_
          refine AW.istore (L' := [some (rV (some b)), some (iV x1), some (iV x2), some (iV x3), some (iV 0), none, none]) dX8_together_33 (Nat.le_of_ble_eq_true rfl) rfl rfl ?_
          refine AW.bipush dX8_together_35 (by decide) ?_
          refine AW.istore (L' := [some (rV (some b)), some (iV x1), some (iV x2), some (iV x3), some (iV 0), some (iV (-2)), none]) dX8_together_37 (Nat.le_of_ble_eq_true rfl) rfl rfl ?_
          refine AW.iconst dX8_together_39 ?_
          refine AW.istore (L' := [some (rV (some b)), some (iV x1), some (iV x2), some (iV x3), some (iV 0), some (iV (-2)), some (iV 0)]) dX8_together_40 (Nat.le_of_ble_eq_true rfl) rfl rfl ?_
          refine w_X8_together_L42 _ _ _ _ _ _ _ _ _ h (fun s11 x3 x4 x5 h => ?_)
          refine AW.iload_n dX8_together_94 rfl ?_
          refine AW.if_ne 103 dX8_together_95 (by decide) h (fun c12 h => ?_) (fun c12 h => ?_)
          · refine AW.iload dX8_together_103 rfl ?_
            refine AW.nv ?_
            cases h
            exact AW.iret dX8_together_105 rfl
          · refine AW.iload dX8_together_98 rfl ?_
            refine AW.goto (tgt := 105) dX8_together_100 (by decide) ?_
            refine AW.nv ?_
            cases h
            exact AW.iret dX8_together_105 rfl
        · refine AW.iconst dX8_together_30 ?_
          cases h
          exact AW.iret dX8_together_31 rfl
theorem c_X8_together {b : Nat} {σ : Hp} {s0 : TW} {x1 : Int} {x2 : Int} {x3 : Int} {v : Int} {s1 : TW} (h : f_X8_together s0 x1 x2 x3 = some (v, s1)) : Ct m_X8_together [rV (some b), iV x1, iV x2, iV x3] (insT b s0 σ) (.inl (some (iV v)), insT b s1 σ) :=
  Ct.of2 (w_X8_together s0 x1 x2 x3 h) (by decide) rfl rfl rfl
abbrev m_X8_turn : Mi := (yX8_turn, cX8_turn, (some .boolean), 3, 5, 120, [])
theorem n_X8_turn : nameOk yX8_turn 2 := ⟨by decide, by decide, by decide +kernel⟩
def f_X8_turn (s0 : TW) (x1 : Int) (x2 : Int) : Option (Int × TW) :=
  bt_ (f_X8_isMirror s0 x1) fun v2 s1 => (if nrm v2 = 0 then (some (0, s1)) else (bt_ (f_X8_nowOf s1 (20 + x1)) fun v4 s3 => jn (fun (s5 : TW) (x1 : Int) (x2 : Int) (y0 : Int) => (if ¬ nrm y0 = nrm x2 then (jn (fun (s6 : TW) (y1 : Int) (y2 : Int) => bt_ (f_X8_becomes s6 y1 y2) fun _ s7 => some (1, s7)) fun j45 => (if nrm x2 = 0 then (j45 s5 (20 + x1) 0) else (j45 s5 (20 + x1) 1))) else (some (0, s5)))) fun j25 => (if ¬ nrm v4 = nrm 1 then (j25 s3 x1 x2 0) else (j25 s3 x1 x2 1))))
theorem w_X8_turn {b : Nat} {σ σ0 : Hp} {w : Int × TW} (s0 : TW) (x1 : Int) (x2 : Int) (h : f_X8_turn s0 x1 x2 = some w) : AW m_X8_turn σ0 (tI b σ w) 0 [some (rV (some b)), some (iV x1), some (iV x2)] [] (insT b s0 σ) := by
  unfold f_X8_turn at h
  refine AW.aload_n dX8_turn_0 rfl ?_
  refine AW.iload_n dX8_turn_1 rfl ?_
  refine AW.tVI (M' := m_X8_isMirror) [iV x1] [] dX8_turn_2 q1908 q1910 qs91 q139 q1911 rfl n_X8_isMirror rfl rfl rfl (fun _ _ e => c_X8_isMirror e) h (fun v2 s1 h => ?_)
  refine AW.if_eq 29 dX8_turn_5 (by decide) h (fun c11 h => ?_) (fun c11 h => ?_)
  · refine AW.iconst dX8_turn_29 ?_
    cases h
    exact AW.zret (z := 0) dX8_turn_30 rfl zz0
  · refine AW.aload_n dX8_turn_8 rfl ?_
    refine AW.bipush dX8_turn_9 (by decide) ?_
    refine AW.iload_n dX8_turn_11 rfl ?_
    refine AW.iadd dX8_turn_12 ?_
    refine AW.tVI (M' := m_X8_nowOf) [iV (20 + x1)] [] dX8_turn_13 q1972 q1974 qs104 q139 q1975 rfl n_X8_nowOf rfl rfl rfl (fun _ _ e => c_X8_nowOf e) h (fun v4 s3 h => ?_)
    refine AW.iconst dX8_turn_16 ?_
    refine jn_elim h (fun (j : (TW → Int → Int → Int → Option (Int × TW))) => ∀ (s5 : TW) (x1 : Int) (x2 : Int) (y0 : Int), j s5 x1 x2 y0 = some w → AW m_X8_turn σ0 (tI b σ w) 25 [some (rV (some b)), some (iV x1), some (iV x2)] [iV y0] (insT b s5 σ)) ?_ (fun j25 hj25 h => ?_)
    · intro s5 x1 x2 y0 h
      refine AW.iload_n dX8_turn_25 rfl ?_
      refine AW.icmp_ne 31 dX8_turn_26 (by decide) h (fun c9 h => ?_) (fun c9 h => ?_)
      · refine AW.aload_n dX8_turn_31 rfl ?_
        refine AW.bipush dX8_turn_32 (by decide) ?_
        refine AW.iload_n dX8_turn_34 rfl ?_
        refine AW.iadd dX8_turn_35 ?_
        refine AW.iload_n dX8_turn_36 rfl ?_
        refine jn_elim h (fun (j : (TW → Int → Int → Option (Int × TW))) => ∀ (s6 : TW) (y1 : Int) (y2 : Int), j s6 y1 y2 = some w → AW m_X8_turn σ0 (tI b σ w) 45 [none, none, none] [iV y2, iV y1, rV (some b)] (insT b s6 σ)) ?_ (fun j45 hj45 h => ?_)
        · intro s6 y1 y2 h
          refine AW.tVU (M' := m_X8_becomes) [iV y1, iV y2] [] dX8_turn_45 q1976 q1978 qs105 q139 q1979 rfl n_X8_becomes rfl rfl rfl (fun _ _ e => c_X8_becomes e) h (fun _ s7 h => ?_)
          refine AW.iconst dX8_turn_48 ?_
          cases h
          exact AW.zret (z := 1) dX8_turn_49 rfl zz1
        · refine AW.if_eq 44 dX8_turn_37 (by decide) h (fun c8 h => ?_) (fun c8 h => ?_)
          · refine AW.iconst dX8_turn_44 ?_
            exact AW.fewer (L' := [none, none, none]) (trivial) (hj45 _ _ _ h)
          · refine AW.iconst dX8_turn_40 ?_
            refine AW.goto (tgt := 45) dX8_turn_41 (by decide) ?_
            exact AW.fewer (L' := [none, none, none]) (trivial) (hj45 _ _ _ h)
      · refine AW.iconst dX8_turn_29 ?_
        cases h
        exact AW.zret (z := 0) dX8_turn_30 rfl zz0
    · refine AW.icmp_ne 24 dX8_turn_17 (by decide) h (fun c10 h => ?_) (fun c10 h => ?_)
      · refine AW.iconst dX8_turn_24 ?_
        exact hj25 _ _ _ _ h
      · refine AW.iconst dX8_turn_20 ?_
        refine AW.goto (tgt := 25) dX8_turn_21 (by decide) ?_
        exact hj25 _ _ _ _ h
theorem c_X8_turn {b : Nat} {σ : Hp} {s0 : TW} {x1 : Int} {x2 : Int} {v : Int} {s1 : TW} (h : f_X8_turn s0 x1 x2 = some (v, s1)) : Ct m_X8_turn [rV (some b), iV x1, iV x2] (insT b s0 σ) (.inl (some (iV v)), insT b s1 σ) :=
  Ct.of2 (w_X8_turn s0 x1 x2 h) (by decide) rfl rfl rfl
abbrev m_X8_turned : Mi := (yX8_turned, cX8_turned, (some .int), 6, 7, 162, [])
theorem n_X8_turned : nameOk yX8_turned 2 := ⟨by decide, by decide, by decide +kernel⟩
def f_X8_turned_L48 : Nat → TW → Int → Int → Int → Int → Int → (TW → Int → Int → Int → Int → Option (Int × TW)) → Option (Int × TW)
  | 0, _, _, _, _, _, _, _ => none
  | n + 1, s0, x1, x2, x3, x4, x5, k => (if nrm 299 < nrm x5 then (k s0 x1 x2 x3 x4) else (bt_ (f_X8_isSeenIn s0 x4 x5 x1) fun v8 s7 => (if nrm v8 = 0 then (f_X8_turned_L48 n s7 x1 x2 x3 x4 (x5 + 1) k) else (f_X8_turned_L48 n s7 x1 x2 (orI x3 (slI 1 x4)) x4 (x5 + 1) k))))
theorem w_X8_turned_L48 {b : Nat} {σ σ0 : Hp} {w : Int × TW} : ∀ (n : Nat) (s0 : TW) (x1 : Int) (x2 : Int) (x3 : Int) (x4 : Int) (x5 : Int) (k : (TW → Int → Int → Int → Int → Option (Int × TW))), f_X8_turned_L48 n s0 x1 x2 x3 x4 x5 k = some w → (∀ (s1 : TW) (x1 : Int) (x2 : Int) (x3 : Int) (x4 : Int), k s1 x1 x2 x3 x4 = some w → AW m_X8_turned σ0 (tI b σ w) 81 [some (rV (some b)), some (iV x1), some (iV x2), some (iV x3), some (iV x4), none] [] (insT b s1 σ)) → AW m_X8_turned σ0 (tI b σ w) 48 [some (rV (some b)), some (iV x1), some (iV x2), some (iV x3), some (iV x4), some (iV x5)] [] (insT b s0 σ) := by
  intro n
  induction n with
  | zero =>
    intro s0 x1 x2 x3 x4 x5 k h hk
    rw [f_X8_turned_L48] at h
    cases h
  | succ n ih =>
    intro s0 x1 x2 x3 x4 x5 k h hk
    rw [f_X8_turned_L48] at h
    refine AW.iload dX8_turned_48 rfl ?_
    refine AW.sipush dX8_turned_50 (by decide) ?_
    refine AW.icmp_gt 81 dX8_turned_53 (by decide) h (fun c10 h => ?_) (fun c10 h => ?_)
    · exact AW.fewer (L' := [some (rV (some b)), some (iV x1), some (iV x2), some (iV x3), some (iV x4), none]) (And.intro rfl (And.intro rfl (And.intro rfl (And.intro rfl (And.intro rfl trivial))))) (hk _ _ _ _ _ h)
    · refine AW.aload_n dX8_turned_56 rfl ?_
      refine AW.iload dX8_turned_57 rfl ?_
      refine AW.iload dX8_turned_59 rfl ?_
      refine AW.iload_n dX8_turned_61 rfl ?_
      refine AW.tVI (M' := m_X8_isSeenIn) [iV x4, iV x5, iV x1] [] dX8_turned_62 q2099 q2101 qs113 q139 q2102 rfl n_X8_isSeenIn rfl rfl rfl (fun _ _ e => c_X8_isSeenIn e) h (fun v8 s7 h => ?_)
      refine AW.if_eq 75 dX8_turned_65 (by decide) h (fun c9 h => ?_) (fun c9 h => ?_)
      · refine AW.iinc (L' := [some (rV (some b)), some (iV x1), some (iV x2), some (iV x3), some (iV x4), some (iV (x5 + 1))]) dX8_turned_75 rfl (Nat.le_of_ble_eq_true rfl) rfl rfl ?_
        refine AW.goto (tgt := 48) dX8_turned_78 (by decide) ?_
        exact ih _ _ _ _ _ _ _ h hk
      · refine AW.iload_n dX8_turned_68 rfl ?_
        refine AW.iconst dX8_turned_69 ?_
        refine AW.iload dX8_turned_70 rfl ?_
        refine AW.ishl dX8_turned_72 ?_
        refine AW.ior dX8_turned_73 ?_
        refine AW.istore_n (L' := [some (rV (some b)), some (iV x1), some (iV x2), some (iV (orI x3 (slI 1 x4))), some (iV x4), some (iV x5)]) dX8_turned_74 (Nat.le_of_ble_eq_true rfl) rfl rfl ?_
        refine AW.iinc (L' := [some (rV (some b)), some (iV x1), some (iV x2), some (iV (orI x3 (slI 1 x4))), some (iV x4), some (iV (x5 + 1))]) dX8_turned_75 rfl (Nat.le_of_ble_eq_true rfl) rfl rfl ?_
        refine AW.goto (tgt := 48) dX8_turned_78 (by decide) ?_
        exact ih _ _ _ _ _ _ _ h hk
def f_X8_turned_L28 : Nat → TW → Int → Int → Int → Int → (TW → Int → Int → Option (Int × TW)) → Option (Int × TW)
  | 0, _, _, _, _, _, _ => none
  | n + 1, s0, x1, x2, x3, x4, k => (ta s0 31 (s0.1 18)).bind fun v6 => (if nrm v6 ≤ nrm x4 then (k s0 x2 x3) else (f_X8_turned_L48 FU s0 x1 x2 x3 x4 (s0.1 53) (fun s11 x1 x2 x3 x4 => f_X8_turned_L28 n s11 x1 x2 x3 (x4 + 1) k)))
theorem w_X8_turned_L28 {b : Nat} {σ σ0 : Hp} {w : Int × TW} : ∀ (n : Nat) (s0 : TW) (x1 : Int) (x2 : Int) (x3 : Int) (x4 : Int) (k : (TW → Int → Int → Option (Int × TW))), f_X8_turned_L28 n s0 x1 x2 x3 x4 k = some w → (∀ (s1 : TW) (x2 : Int) (x3 : Int), k s1 x2 x3 = some w → AW m_X8_turned σ0 (tI b σ w) 87 [none, none, some (iV x2), some (iV x3), none, none] [] (insT b s1 σ)) → AW m_X8_turned σ0 (tI b σ w) 28 [some (rV (some b)), some (iV x1), some (iV x2), some (iV x3), some (iV x4), none] [] (insT b s0 σ) := by
  intro n
  induction n with
  | zero =>
    intro s0 x1 x2 x3 x4 k h hk
    rw [f_X8_turned_L28] at h
    cases h
  | succ n ih =>
    intro s0 x1 x2 x3 x4 k h hk
    rw [f_X8_turned_L28] at h
    refine AW.iload dX8_turned_28 rfl ?_
    refine AW.aload_n dX8_turned_30 rfl ?_
    refine AW.tgR (k := 31) dX8_turned_31 (Nat.le_of_ble_eq_true rfl) (fun _ => rfl) q1571 rfl ia31 ?_
    refine AW.aload_n dX8_turned_34 rfl ?_
    refine AW.tgI (k := 18) dX8_turned_35 (Nat.le_of_ble_eq_true rfl) (fun _ => rfl) q1558 rfl ?_
    refine AW.tiald (k := 31) dX8_turned_38 ia31 (Nat.le_of_ble_eq_true rfl) rfl h (fun v6 h => ?_)
    refine AW.icmp_ge 87 dX8_turned_39 (by decide) h (fun c12 h => ?_) (fun c12 h => ?_)
    · exact AW.fewer (L' := [none, none, some (iV x2), some (iV x3), none, none]) (And.intro rfl (And.intro rfl trivial)) (hk _ _ _ h)
    · refine AW.aload_n dX8_turned_42 rfl ?_
      refine AW.tgI (k := 53) dX8_turned_43 (Nat.le_of_ble_eq_true rfl) (fun _ => rfl) q1593 rfl ?_
      refine AW.istore (L' := [some (rV (some b)), some (iV x1), some (iV x2), some (iV x3), some (iV x4), some (iV (s0.1 53))]) dX8_turned_46 (Nat.le_of_ble_eq_true rfl) rfl rfl ?_
      refine w_X8_turned_L48 _ _ _ _ _ _ _ _ h (fun s11 x1 x2 x3 x4 h => ?_)
      refine AW.iinc (L' := [some (rV (some b)), some (iV x1), some (iV x2), some (iV x3), some (iV (x4 + 1)), none]) dX8_turned_81 rfl (Nat.le_of_ble_eq_true rfl) rfl rfl ?_
      refine AW.goto (tgt := 28) dX8_turned_84 (by decide) ?_
      exact ih _ _ _ _ _ _ h hk
def f_X8_turned (s0 : TW) (x1 : Int) (x2 : Int) : Option (Int × TW) :=
  bt_ (f_X8_isMan s0 x1) fun v2 s1 => (if nrm v2 = 0 then (some ((-1), s1)) else (bt_ (f_X8_in s1 x2 0 1) fun v4 s3 => (if ¬ nrm v4 = 0 then (bt_ (f_X8_fillsAll s3) fun _ s5 => f_X8_turned_L28 FU s5 x1 x2 0 0 (fun s13 x2 x3 => (if ¬ nrm x2 = 0 then (some (nrm x3, s13)) else (bt_ (f_X8_bits s13 x3) fun v15 s14 => some (v15, s14))))) else (some ((-1), s3)))))
theorem w_X8_turned {b : Nat} {σ σ0 : Hp} {w : Int × TW} (s0 : TW) (x1 : Int) (x2 : Int) (h : f_X8_turned s0 x1 x2 = some w) : AW m_X8_turned σ0 (tI b σ w) 0 [some (rV (some b)), some (iV x1), some (iV x2), none, none, none] [] (insT b s0 σ) := by
  unfold f_X8_turned at h
  refine AW.aload_n dX8_turned_0 rfl ?_
  refine AW.iload_n dX8_turned_1 rfl ?_
  refine AW.tVI (M' := m_X8_isMan) [iV x1] [] dX8_turned_2 q1893 q1895 qs89 q139 q1896 rfl n_X8_isMan rfl rfl rfl (fun _ _ e => c_X8_isMan e) h (fun v2 s1 h => ?_)
  refine AW.if_eq 17 dX8_turned_5 (by decide) h (fun c18 h => ?_) (fun c18 h => ?_)
  · refine AW.iconst dX8_turned_17 ?_
    cases h
    exact AW.iret dX8_turned_18 rfl
  · refine AW.iload_n dX8_turned_8 rfl ?_
    refine AW.iconst dX8_turned_9 ?_
    refine AW.iconst dX8_turned_10 ?_
    refine AW.tSI (M' := m_X8_in) [iV x2, iV 0, iV 1] [] dX8_turned_11 q1897 q1898 q139 q1899 n_X8_in rfl rfl rfl (fun _ _ e => c_X8_in e) h (fun v4 s3 h => ?_)
    refine AW.if_ne 19 dX8_turned_14 (by decide) h (fun c17 h => ?_) (fun c17 h => ?_)
    · refine AW.aload_n dX8_turned_19 rfl ?_
      refine AW.tVU (M' := m_X8_fillsAll) [] [] dX8_turned_20 q2080 q2082 qs111 q139 q2083 rfl n_X8_fillsAll rfl rfl rfl (fun _ _ e => c_X8_fillsAll e) h (fun _ s5 h => ?_)
      refine AW.iconst dX8_turned_23 ?_
      refine AW.istore_n (L' := [some (rV (some b)), some (iV x1), some (iV x2), some (iV 0), none, none]) dX8_turned_24 (Nat.le_of_ble_eq_true rfl) rfl rfl ?_
      refine AW.iconst dX8_turned_25 ?_
      refine AW.istore (L' := [some (rV (some b)), some (iV x1), some (iV x2), some (iV 0), some (iV 0), none]) dX8_turned_26 (Nat.le_of_ble_eq_true rfl) rfl rfl ?_
      refine w_X8_turned_L28 _ _ _ _ _ _ _ h (fun s13 x2 x3 h => ?_)
      refine AW.iload_n dX8_turned_87 rfl ?_
      refine AW.if_ne 98 dX8_turned_88 (by decide) h (fun c16 h => ?_) (fun c16 h => ?_)
      · refine AW.iload_n dX8_turned_98 rfl ?_
        refine AW.nv ?_
        cases h
        exact AW.iret dX8_turned_99 rfl
      · refine AW.iload_n dX8_turned_91 rfl ?_
        refine AW.tSI (M' := m_X8_bits) [iV x3] [] dX8_turned_92 q1526 q1527 q139 q1528 n_X8_bits rfl rfl rfl (fun _ _ e => c_X8_bits e) h (fun v15 s14 h => ?_)
        refine AW.goto (tgt := 99) dX8_turned_95 (by decide) ?_
        cases h
        exact AW.iret dX8_turned_99 rfl
    · refine AW.iconst dX8_turned_17 ?_
      cases h
      exact AW.iret dX8_turned_18 rfl
theorem c_X8_turned {b : Nat} {σ : Hp} {s0 : TW} {x1 : Int} {x2 : Int} {v : Int} {s1 : TW} (h : f_X8_turned s0 x1 x2 = some (v, s1)) : Ct m_X8_turned [rV (some b), iV x1, iV x2] (insT b s0 σ) (.inl (some (iV v)), insT b s1 σ) :=
  Ct.of2 (w_X8_turned s0 x1 x2 h) (by decide) rfl rfl rfl
abbrev m_X8_undo : Mi := (yX8_undo, cX8_undo, (some .boolean), 3, 0, 0, [])
theorem n_X8_undo : nameOk yX8_undo 0 := ⟨by decide, by decide, by decide +kernel⟩
def f_X8_undo_L39 : Nat → TW → Int → Int → (TW → Int → Option (Int × TW)) → Option (Int × TW)
  | 0, _, _, _, _ => none
  | n + 1, s0, x1, x2, k => (if nrm 36 ≤ nrm x2 then (k s0 x1) else ((ta s0 62 ((x1 + 1) + x2)).bind fun v4 => (ts s0 52 ((36 * (s0.1 53)) + x2) v4).bind fun s5 => f_X8_undo_L39 n s5 x1 (x2 + 1) k))
theorem w_X8_undo_L39 {b : Nat} {σ σ0 : Hp} {w : Int × TW} : ∀ (n : Nat) (s0 : TW) (x1 : Int) (x2 : Int) (k : (TW → Int → Option (Int × TW))), f_X8_undo_L39 n s0 x1 x2 k = some w → (∀ (s1 : TW) (x1 : Int), k s1 x1 = some w → AW m_X8_undo σ0 (tI b σ w) 75 [some (rV (some b)), some (iV x1), none] [] (insT b s1 σ)) → AW m_X8_undo σ0 (tI b σ w) 39 [some (rV (some b)), some (iV x1), some (iV x2)] [] (insT b s0 σ) := by
  intro n
  induction n with
  | zero =>
    intro s0 x1 x2 k h hk
    rw [f_X8_undo_L39] at h
    cases h
  | succ n ih =>
    intro s0 x1 x2 k h hk
    rw [f_X8_undo_L39] at h
    refine AW.iload_n dX8_undo_39 rfl ?_
    refine AW.bipush dX8_undo_40 (by decide) ?_
    refine AW.icmp_ge 75 dX8_undo_42 (by decide) h (fun c6 h => ?_) (fun c6 h => ?_)
    · exact AW.fewer (L' := [some (rV (some b)), some (iV x1), none]) (And.intro rfl (And.intro rfl trivial)) (hk _ _ h)
    · refine AW.aload_n dX8_undo_45 rfl ?_
      refine AW.tgR (k := 52) dX8_undo_46 (Nat.le_of_ble_eq_true rfl) (fun _ => rfl) q1592 rfl ia52 ?_
      refine AW.bipush dX8_undo_49 (by decide) ?_
      refine AW.aload_n dX8_undo_51 rfl ?_
      refine AW.tgI (k := 53) dX8_undo_52 (Nat.le_of_ble_eq_true rfl) (fun _ => rfl) q1593 rfl ?_
      refine AW.imul dX8_undo_55 ?_
      refine AW.iload_n dX8_undo_56 rfl ?_
      refine AW.iadd dX8_undo_57 ?_
      refine AW.aload_n dX8_undo_58 rfl ?_
      refine AW.tgR (k := 62) dX8_undo_59 (Nat.le_of_ble_eq_true rfl) (fun _ => rfl) q1602 rfl ia62 ?_
      refine AW.iload_n dX8_undo_62 rfl ?_
      refine AW.iconst dX8_undo_63 ?_
      refine AW.iadd dX8_undo_64 ?_
      refine AW.iload_n dX8_undo_65 rfl ?_
      refine AW.iadd dX8_undo_66 ?_
      refine AW.tiald (k := 62) dX8_undo_67 ia62 (Nat.le_of_ble_eq_true rfl) rfl h (fun v4 h => ?_)
      refine AW.tiast (k := 52) dX8_undo_68 ia52 (Nat.le_of_ble_eq_true rfl) mt52 rfl h (fun s5 h => ?_)
      refine AW.iinc (L' := [some (rV (some b)), some (iV x1), some (iV (x2 + 1))]) dX8_undo_69 rfl (Nat.le_of_ble_eq_true rfl) rfl rfl ?_
      refine AW.goto (tgt := 39) dX8_undo_72 (by decide) ?_
      exact ih _ _ _ _ h hk
def f_X8_undo_L77 : Nat → TW → Int → Int → (TW → Option (Int × TW)) → Option (Int × TW)
  | 0, _, _, _, _ => none
  | n + 1, s0, x1, x2, k => (if nrm 8 ≤ nrm x2 then (k s0) else ((ta s0 62 ((x1 + 37) + x2)).bind fun v8 => (ts s0 54 x2 v8).bind fun s9 => (ta s9 62 ((x1 + 45) + x2)).bind fun v10 => (ts s9 55 x2 v10).bind fun s11 => f_X8_undo_L77 n s11 x1 (x2 + 1) k))
theorem w_X8_undo_L77 {b : Nat} {σ σ0 : Hp} {w : Int × TW} : ∀ (n : Nat) (s0 : TW) (x1 : Int) (x2 : Int) (k : (TW → Option (Int × TW))), f_X8_undo_L77 n s0 x1 x2 k = some w → (∀ (s1 : TW), k s1 = some w → AW m_X8_undo σ0 (tI b σ w) 123 [none, none, none] [] (insT b s1 σ)) → AW m_X8_undo σ0 (tI b σ w) 77 [some (rV (some b)), some (iV x1), some (iV x2)] [] (insT b s0 σ) := by
  intro n
  induction n with
  | zero =>
    intro s0 x1 x2 k h hk
    rw [f_X8_undo_L77] at h
    cases h
  | succ n ih =>
    intro s0 x1 x2 k h hk
    rw [f_X8_undo_L77] at h
    refine AW.iload_n dX8_undo_77 rfl ?_
    refine AW.bipush dX8_undo_78 (by decide) ?_
    refine AW.icmp_ge 123 dX8_undo_80 (by decide) h (fun c12 h => ?_) (fun c12 h => ?_)
    · exact AW.fewer (L' := [none, none, none]) (trivial) (hk _ h)
    · refine AW.aload_n dX8_undo_83 rfl ?_
      refine AW.tgR (k := 54) dX8_undo_84 (Nat.le_of_ble_eq_true rfl) (fun _ => rfl) q1594 rfl ia54 ?_
      refine AW.iload_n dX8_undo_87 rfl ?_
      refine AW.aload_n dX8_undo_88 rfl ?_
      refine AW.tgR (k := 62) dX8_undo_89 (Nat.le_of_ble_eq_true rfl) (fun _ => rfl) q1602 rfl ia62 ?_
      refine AW.iload_n dX8_undo_92 rfl ?_
      refine AW.bipush dX8_undo_93 (by decide) ?_
      refine AW.iadd dX8_undo_95 ?_
      refine AW.iload_n dX8_undo_96 rfl ?_
      refine AW.iadd dX8_undo_97 ?_
      refine AW.tiald (k := 62) dX8_undo_98 ia62 (Nat.le_of_ble_eq_true rfl) rfl h (fun v8 h => ?_)
      refine AW.tiast (k := 54) dX8_undo_99 ia54 (Nat.le_of_ble_eq_true rfl) mt54 rfl h (fun s9 h => ?_)
      refine AW.aload_n dX8_undo_100 rfl ?_
      refine AW.tgR (k := 55) dX8_undo_101 (Nat.le_of_ble_eq_true rfl) (fun _ => rfl) q1595 rfl ia55 ?_
      refine AW.iload_n dX8_undo_104 rfl ?_
      refine AW.aload_n dX8_undo_105 rfl ?_
      refine AW.tgR (k := 62) dX8_undo_106 (Nat.le_of_ble_eq_true rfl) (fun _ => rfl) q1602 rfl ia62 ?_
      refine AW.iload_n dX8_undo_109 rfl ?_
      refine AW.bipush dX8_undo_110 (by decide) ?_
      refine AW.iadd dX8_undo_112 ?_
      refine AW.iload_n dX8_undo_113 rfl ?_
      refine AW.iadd dX8_undo_114 ?_
      refine AW.tiald (k := 62) dX8_undo_115 ia62 (Nat.le_of_ble_eq_true rfl) rfl h (fun v10 h => ?_)
      refine AW.tiast (k := 55) dX8_undo_116 ia55 (Nat.le_of_ble_eq_true rfl) mt55 rfl h (fun s11 h => ?_)
      refine AW.iinc (L' := [some (rV (some b)), some (iV x1), some (iV (x2 + 1))]) dX8_undo_117 rfl (Nat.le_of_ble_eq_true rfl) rfl rfl ?_
      refine AW.goto (tgt := 77) dX8_undo_120 (by decide) ?_
      exact ih _ _ _ _ h hk
def f_X8_undo (s0 : TW) : Option (Int × TW) :=
  (if ¬ nrm (s0.1 61) = 0 then (bd (tp s0 61 (nrm ((s0.1 61) - 1))) fun s1 => (ta s1 62 (53 * (s1.1 61))).bind fun v2 => bd (tp s1 53 v2) fun s3 => f_X8_undo_L39 FU s3 (53 * (s1.1 61)) 0 (fun s7 x1 => f_X8_undo_L77 FU s7 x1 0 (fun s13 => some (1, s13)))) else (some (0, s0)))
theorem w_X8_undo {b : Nat} {σ σ0 : Hp} {w : Int × TW} (s0 : TW) (h : f_X8_undo s0 = some w) : AW m_X8_undo σ0 (tI b σ w) 0 [some (rV (some b)), none, none] [] (insT b s0 σ) := by
  unfold f_X8_undo at h
  refine AW.aload_n dX8_undo_0 rfl ?_
  refine AW.tgI (k := 61) dX8_undo_1 (Nat.le_of_ble_eq_true rfl) (fun _ => rfl) q1601 rfl ?_
  refine AW.if_ne 9 dX8_undo_4 (by decide) h (fun c14 h => ?_) (fun c14 h => ?_)
  · refine AW.aload_n dX8_undo_9 rfl ?_
    refine AW.dupR dX8_undo_10 ?_
    refine AW.tgI (k := 61) dX8_undo_11 (Nat.le_of_ble_eq_true rfl) (fun _ => rfl) q1601 rfl ?_
    refine AW.iconst dX8_undo_14 ?_
    refine AW.isub dX8_undo_15 ?_
    refine AW.nv ?_
    refine AW.tpB (k := 61) dX8_undo_16 (Nat.le_of_ble_eq_true rfl) rfl q1601 rfl rfl h (fun s1 h => ?_)
    refine AW.bipush dX8_undo_19 (by decide) ?_
    refine AW.aload_n dX8_undo_21 rfl ?_
    refine AW.tgI (k := 61) dX8_undo_22 (Nat.le_of_ble_eq_true rfl) (fun _ => rfl) q1601 rfl ?_
    refine AW.imul dX8_undo_25 ?_
    refine AW.istore_n (L' := [some (rV (some b)), some (iV (53 * (s1.1 61))), none]) dX8_undo_26 (Nat.le_of_ble_eq_true rfl) rfl rfl ?_
    refine AW.aload_n dX8_undo_27 rfl ?_
    refine AW.aload_n dX8_undo_28 rfl ?_
    refine AW.tgR (k := 62) dX8_undo_29 (Nat.le_of_ble_eq_true rfl) (fun _ => rfl) q1602 rfl ia62 ?_
    refine AW.iload_n dX8_undo_32 rfl ?_
    refine AW.tiald (k := 62) dX8_undo_33 ia62 (Nat.le_of_ble_eq_true rfl) rfl h (fun v2 h => ?_)
    refine AW.tpB (k := 53) dX8_undo_34 (Nat.le_of_ble_eq_true rfl) rfl q1593 rfl rfl h (fun s3 h => ?_)
    refine AW.iconst dX8_undo_37 ?_
    refine AW.istore_n (L' := [some (rV (some b)), some (iV (53 * (s1.1 61))), some (iV 0)]) dX8_undo_38 (Nat.le_of_ble_eq_true rfl) rfl rfl ?_
    refine w_X8_undo_L39 _ _ _ _ _ h (fun s7 x1 h => ?_)
    refine AW.iconst dX8_undo_75 ?_
    refine AW.istore_n (L' := [some (rV (some b)), some (iV x1), some (iV 0)]) dX8_undo_76 (Nat.le_of_ble_eq_true rfl) rfl rfl ?_
    refine w_X8_undo_L77 _ _ _ _ _ h (fun s13 h => ?_)
    refine AW.iconst dX8_undo_123 ?_
    cases h
    exact AW.zret (z := 1) dX8_undo_124 rfl zz1
  · refine AW.iconst dX8_undo_7 ?_
    cases h
    exact AW.zret (z := 0) dX8_undo_8 rfl zz0
theorem c_X8_undo {b : Nat} {σ : Hp} {s0 : TW} {v : Int} {s1 : TW} (h : f_X8_undo s0 = some (v, s1)) : Ct m_X8_undo [rV (some b)] (insT b s0 σ) (.inl (some (iV v)), insT b s1 σ) :=
  Ct.of2 (w_X8_undo s0 h) (by decide) rfl rfl rfl
abbrev m_X8_view : Mi := (yX8_view, cX8_view, (some .int), 8, 7, 162, [])
theorem n_X8_view : nameOk yX8_view 4 := ⟨by decide, by decide, by decide +kernel⟩
def f_X8_view_L78 : Nat → TW → Int → Int → Int → Int → Int → (TW → Int → Int → Int → Int → Option (Int × TW)) → Option (Int × TW)
  | 0, _, _, _, _, _, _, _ => none
  | n + 1, s0, x2, x3, x4, x5, x6, k => (ta s0 31 (s0.1 18)).bind fun v12 => (if nrm v12 ≤ nrm x6 then (k s0 x2 x3 x4 x5) else (bt_ (f_X8_hungIn s0 x6 x5) fun v14 s13 => (ta s13 66 v14).bind fun v15 => (if nrm v15 < 0 then (f_X8_view_L78 n s13 x2 x3 x4 x5 (x6 + 1) k) else ((if nrm (x5 - (s13.1 53)) < nrm v15 then (f_X8_view_L78 n s13 x2 x3 x4 x5 (x6 + 1) k) else (bt_ (f_X8_showsRoom s13 x6 x5 x2 x3) fun v17 s16 => (if nrm v17 = 0 then (f_X8_view_L78 n s16 x2 x3 x4 x5 (x6 + 1) k) else ((if ¬ nrm x4 = 0 then (some (nrm x6, s16)) else (some (nrm x5, s16)))))))))))
theorem w_X8_view_L78 {b : Nat} {σ σ0 : Hp} {w : Int × TW} : ∀ (n : Nat) (s0 : TW) (x2 : Int) (x3 : Int) (x4 : Int) (x5 : Int) (x6 : Int) (k : (TW → Int → Int → Int → Int → Option (Int × TW))), f_X8_view_L78 n s0 x2 x3 x4 x5 x6 k = some w → (∀ (s1 : TW) (x2 : Int) (x3 : Int) (x4 : Int) (x5 : Int), k s1 x2 x3 x4 x5 = some w → AW m_X8_view σ0 (tI b σ w) 156 [some (rV (some b)), none, some (iV x2), some (iV x3), some (iV x4), some (iV x5), none, none] [] (insT b s1 σ)) → AW m_X8_view σ0 (tI b σ w) 78 [some (rV (some b)), none, some (iV x2), some (iV x3), some (iV x4), some (iV x5), some (iV x6), none] [] (insT b s0 σ) := by
  intro n
  induction n with
  | zero =>
    intro s0 x2 x3 x4 x5 x6 k h hk
    rw [f_X8_view_L78] at h
    cases h
  | succ n ih =>
    intro s0 x2 x3 x4 x5 x6 k h hk
    rw [f_X8_view_L78] at h
    refine AW.iload dX8_view_78 rfl ?_
    refine AW.aload_n dX8_view_80 rfl ?_
    refine AW.tgR (k := 31) dX8_view_81 (Nat.le_of_ble_eq_true rfl) (fun _ => rfl) q1571 rfl ia31 ?_
    refine AW.aload_n dX8_view_84 rfl ?_
    refine AW.tgI (k := 18) dX8_view_85 (Nat.le_of_ble_eq_true rfl) (fun _ => rfl) q1558 rfl ?_
    refine AW.tiald (k := 31) dX8_view_88 ia31 (Nat.le_of_ble_eq_true rfl) rfl h (fun v12 h => ?_)
    refine AW.icmp_ge 156 dX8_view_89 (by decide) h (fun c22 h => ?_) (fun c22 h => ?_)
    · exact AW.fewer (L' := [some (rV (some b)), none, some (iV x2), some (iV x3), some (iV x4), some (iV x5), none, none]) (And.intro rfl (And.intro rfl (And.intro rfl (And.intro rfl (And.intro rfl trivial))))) (hk _ _ _ _ _ h)
    · refine AW.aload_n dX8_view_92 rfl ?_
      refine AW.tgR (k := 66) dX8_view_93 (Nat.le_of_ble_eq_true rfl) (fun _ => rfl) q1606 rfl ia66 ?_
      refine AW.aload_n dX8_view_96 rfl ?_
      refine AW.iload dX8_view_97 rfl ?_
      refine AW.iload dX8_view_99 rfl ?_
      refine AW.tVI (M' := m_X8_hungIn) [iV x6, iV x5] [rV (some (b + tof 66))] dX8_view_101 q1924 q1926 qs95 q139 q1927 rfl n_X8_hungIn rfl rfl rfl (fun _ _ e => c_X8_hungIn e) h (fun v14 s13 h => ?_)
      refine AW.tiald (k := 66) dX8_view_104 ia66 (Nat.le_of_ble_eq_true rfl) rfl h (fun v15 h => ?_)
      refine AW.istore (L' := [some (rV (some b)), none, some (iV x2), some (iV x3), some (iV x4), some (iV x5), some (iV x6), some (iV v15)]) dX8_view_105 (Nat.le_of_ble_eq_true rfl) rfl rfl ?_
      refine AW.iload dX8_view_107 rfl ?_
      refine AW.if_lt 150 dX8_view_109 (by decide) h (fun c21 h => ?_) (fun c21 h => ?_)
      · refine AW.iinc (L' := [some (rV (some b)), none, some (iV x2), some (iV x3), some (iV x4), some (iV x5), some (iV (x6 + 1)), some (iV v15)]) dX8_view_150 rfl (Nat.le_of_ble_eq_true rfl) rfl rfl ?_
        refine AW.goto (tgt := 78) dX8_view_153 (by decide) ?_
        exact AW.fewer (L' := [some (rV (some b)), none, some (iV x2), some (iV x3), some (iV x4), some (iV x5), some (iV (x6 + 1)), none]) (And.intro rfl (And.intro rfl (And.intro rfl (And.intro rfl (And.intro rfl (And.intro rfl trivial)))))) (ih _ _ _ _ _ _ _ h hk)
      · refine AW.iload dX8_view_112 rfl ?_
        refine AW.iload dX8_view_114 rfl ?_
        refine AW.aload_n dX8_view_116 rfl ?_
        refine AW.tgI (k := 53) dX8_view_117 (Nat.le_of_ble_eq_true rfl) (fun _ => rfl) q1593 rfl ?_
        refine AW.isub dX8_view_120 ?_
        refine AW.icmp_gt 150 dX8_view_121 (by decide) h (fun c20 h => ?_) (fun c20 h => ?_)
        · refine AW.iinc (L' := [some (rV (some b)), none, some (iV x2), some (iV x3), some (iV x4), some (iV x5), some (iV (x6 + 1)), some (iV v15)]) dX8_view_150 rfl (Nat.le_of_ble_eq_true rfl) rfl rfl ?_
          refine AW.goto (tgt := 78) dX8_view_153 (by decide) ?_
          exact AW.fewer (L' := [some (rV (some b)), none, some (iV x2), some (iV x3), some (iV x4), some (iV x5), some (iV (x6 + 1)), none]) (And.intro rfl (And.intro rfl (And.intro rfl (And.intro rfl (And.intro rfl (And.intro rfl trivial)))))) (ih _ _ _ _ _ _ _ h hk)
        · refine AW.aload_n dX8_view_124 rfl ?_
          refine AW.iload dX8_view_125 rfl ?_
          refine AW.iload dX8_view_127 rfl ?_
          refine AW.iload_n dX8_view_129 rfl ?_
          refine AW.iload_n dX8_view_130 rfl ?_
          refine AW.tVI (M' := m_X8_showsRoom) [iV x6, iV x5, iV x2, iV x3] [] dX8_view_131 q2084 q2086 qs112 q139 q2087 rfl n_X8_showsRoom rfl rfl rfl (fun _ _ e => c_X8_showsRoom e) h (fun v17 s16 h => ?_)
          refine AW.if_eq 150 dX8_view_134 (by decide) h (fun c19 h => ?_) (fun c19 h => ?_)
          · refine AW.iinc (L' := [some (rV (some b)), none, some (iV x2), some (iV x3), some (iV x4), some (iV x5), some (iV (x6 + 1)), some (iV v15)]) dX8_view_150 rfl (Nat.le_of_ble_eq_true rfl) rfl rfl ?_
            refine AW.goto (tgt := 78) dX8_view_153 (by decide) ?_
            exact AW.fewer (L' := [some (rV (some b)), none, some (iV x2), some (iV x3), some (iV x4), some (iV x5), some (iV (x6 + 1)), none]) (And.intro rfl (And.intro rfl (And.intro rfl (And.intro rfl (And.intro rfl (And.intro rfl trivial)))))) (ih _ _ _ _ _ _ _ h hk)
          · refine AW.iload dX8_view_137 rfl ?_
            refine AW.if_ne 147 dX8_view_139 (by decide) h (fun c18 h => ?_) (fun c18 h => ?_)
            · refine AW.iload dX8_view_147 rfl ?_
              refine AW.nv ?_
              cases h
              exact AW.iret dX8_view_149 rfl
            · refine AW.iload dX8_view_142 rfl ?_
              refine AW.goto (tgt := 149) dX8_view_144 (by decide) ?_
              refine AW.nv ?_
              cases h
              exact AW.iret dX8_view_149 rfl
def f_X8_view_L67 : Nat → TW → Int → Int → Int → Int → (TW → Option (Int × TW)) → Option (Int × TW)
  | 0, _, _, _, _, _, _ => none
  | n + 1, s0, x2, x3, x4, x5, k => (if nrm 299 < nrm x5 then (k s0) else (f_X8_view_L78 FU s0 x2 x3 x4 x5 0 (fun s23 x2 x3 x4 x5 => f_X8_view_L67 n s23 x2 x3 x4 (x5 + 1) k)))
theorem w_X8_view_L67 {b : Nat} {σ σ0 : Hp} {w : Int × TW} : ∀ (n : Nat) (s0 : TW) (x2 : Int) (x3 : Int) (x4 : Int) (x5 : Int) (k : (TW → Option (Int × TW))), f_X8_view_L67 n s0 x2 x3 x4 x5 k = some w → (∀ (s1 : TW), k s1 = some w → AW m_X8_view σ0 (tI b σ w) 162 [none, none, none, none, none, none, none, none] [] (insT b s1 σ)) → AW m_X8_view σ0 (tI b σ w) 67 [some (rV (some b)), none, some (iV x2), some (iV x3), some (iV x4), some (iV x5), none, none] [] (insT b s0 σ) := by
  intro n
  induction n with
  | zero =>
    intro s0 x2 x3 x4 x5 k h hk
    rw [f_X8_view_L67] at h
    cases h
  | succ n ih =>
    intro s0 x2 x3 x4 x5 k h hk
    rw [f_X8_view_L67] at h
    refine AW.iload dX8_view_67 rfl ?_
    refine AW.sipush dX8_view_69 (by decide) ?_
    refine AW.icmp_gt 162 dX8_view_72 (by decide) h (fun c24 h => ?_) (fun c24 h => ?_)
    · exact AW.fewer (L' := [none, none, none, none, none, none, none, none]) (trivial) (hk _ h)
    · refine AW.iconst dX8_view_75 ?_
      refine AW.istore (L' := [some (rV (some b)), none, some (iV x2), some (iV x3), some (iV x4), some (iV x5), some (iV 0), none]) dX8_view_76 (Nat.le_of_ble_eq_true rfl) rfl rfl ?_
      refine w_X8_view_L78 _ _ _ _ _ _ _ _ h (fun s23 x2 x3 x4 x5 h => ?_)
      refine AW.iinc (L' := [some (rV (some b)), none, some (iV x2), some (iV x3), some (iV x4), some (iV (x5 + 1)), none, none]) dX8_view_156 rfl (Nat.le_of_ble_eq_true rfl) rfl rfl ?_
      refine AW.goto (tgt := 67) dX8_view_159 (by decide) ?_
      exact ih _ _ _ _ _ _ h hk
def f_X8_view (s0 : TW) (x1 : Int) (x2 : Int) (x3 : Int) (x4 : Int) : Option (Int × TW) :=
  bt_ (f_X8_isMan s0 x1) fun v2 s1 => (if nrm v2 = 0 then (some ((-1), s1)) else (bt_ (f_X8_isRoom s1 x2) fun v4 s3 => (if nrm v4 = 0 then (some ((-1), s3)) else (bt_ (f_X8_isPast s3 x3) fun v6 s5 => (if nrm v6 = 0 then (some ((-1), s5)) else (bt_ (f_X8_in s5 x4 0 1) fun v8 s7 => (if ¬ nrm v8 = 0 then (bt_ (f_X8_fillsAll s7) fun _ s9 => (ta s9 56 ((36 * (s9.1 53)) + x1)).bind fun v10 => bt_ (f_X8_fillsFar s9 v10 255) fun _ s11 => f_X8_view_L67 FU s11 x2 x3 x4 (s11.1 53) (fun s25 => some ((-2), s25))) else (some ((-1), s7)))))))))
theorem w_X8_view {b : Nat} {σ σ0 : Hp} {w : Int × TW} (s0 : TW) (x1 : Int) (x2 : Int) (x3 : Int) (x4 : Int) (h : f_X8_view s0 x1 x2 x3 x4 = some w) : AW m_X8_view σ0 (tI b σ w) 0 [some (rV (some b)), some (iV x1), some (iV x2), some (iV x3), some (iV x4), none, none, none] [] (insT b s0 σ) := by
  unfold f_X8_view at h
  refine AW.aload_n dX8_view_0 rfl ?_
  refine AW.iload_n dX8_view_1 rfl ?_
  refine AW.tVI (M' := m_X8_isMan) [iV x1] [] dX8_view_2 q1893 q1895 qs89 q139 q1896 rfl n_X8_isMan rfl rfl rfl (fun _ _ e => c_X8_isMan e) h (fun v2 s1 h => ?_)
  refine AW.if_eq 34 dX8_view_5 (by decide) h (fun c29 h => ?_) (fun c29 h => ?_)
  · refine AW.iconst dX8_view_34 ?_
    cases h
    exact AW.iret dX8_view_35 rfl
  · refine AW.aload_n dX8_view_8 rfl ?_
    refine AW.iload_n dX8_view_9 rfl ?_
    refine AW.tVI (M' := m_X8_isRoom) [iV x2] [] dX8_view_10 q1988 q1990 qs106 q139 q1991 rfl n_X8_isRoom rfl rfl rfl (fun _ _ e => c_X8_isRoom e) h (fun v4 s3 h => ?_)
    refine AW.if_eq 34 dX8_view_13 (by decide) h (fun c28 h => ?_) (fun c28 h => ?_)
    · refine AW.iconst dX8_view_34 ?_
      cases h
      exact AW.iret dX8_view_35 rfl
    · refine AW.aload_n dX8_view_16 rfl ?_
      refine AW.iload_n dX8_view_17 rfl ?_
      refine AW.tVI (M' := m_X8_isPast) [iV x3] [] dX8_view_18 q1900 q1902 qs90 q139 q1903 rfl n_X8_isPast rfl rfl rfl (fun _ _ e => c_X8_isPast e) h (fun v6 s5 h => ?_)
      refine AW.if_eq 34 dX8_view_21 (by decide) h (fun c27 h => ?_) (fun c27 h => ?_)
      · refine AW.iconst dX8_view_34 ?_
        cases h
        exact AW.iret dX8_view_35 rfl
      · refine AW.iload dX8_view_24 rfl ?_
        refine AW.iconst dX8_view_26 ?_
        refine AW.iconst dX8_view_27 ?_
        refine AW.tSI (M' := m_X8_in) [iV x4, iV 0, iV 1] [] dX8_view_28 q1897 q1898 q139 q1899 n_X8_in rfl rfl rfl (fun _ _ e => c_X8_in e) h (fun v8 s7 h => ?_)
        refine AW.if_ne 36 dX8_view_31 (by decide) h (fun c26 h => ?_) (fun c26 h => ?_)
        · refine AW.aload_n dX8_view_36 rfl ?_
          refine AW.tVU (M' := m_X8_fillsAll) [] [] dX8_view_37 q2080 q2082 qs111 q139 q2083 rfl n_X8_fillsAll rfl rfl rfl (fun _ _ e => c_X8_fillsAll e) h (fun _ s9 h => ?_)
          refine AW.aload_n dX8_view_40 rfl ?_
          refine AW.aload_n dX8_view_41 rfl ?_
          refine AW.tgR (k := 56) dX8_view_42 (Nat.le_of_ble_eq_true rfl) (fun _ => rfl) q1596 rfl ia56 ?_
          refine AW.bipush dX8_view_45 (by decide) ?_
          refine AW.aload_n dX8_view_47 rfl ?_
          refine AW.tgI (k := 53) dX8_view_48 (Nat.le_of_ble_eq_true rfl) (fun _ => rfl) q1593 rfl ?_
          refine AW.imul dX8_view_51 ?_
          refine AW.iload_n dX8_view_52 rfl ?_
          refine AW.iadd dX8_view_53 ?_
          refine AW.tiald (k := 56) dX8_view_54 ia56 (Nat.le_of_ble_eq_true rfl) rfl h (fun v10 h => ?_)
          refine AW.sipush dX8_view_55 (by decide) ?_
          refine AW.tVU (M' := m_X8_fillsFar) [iV v10, iV 255] [] dX8_view_58 q2119 q2121 qs114 q139 q2122 rfl n_X8_fillsFar rfl rfl rfl (fun _ _ e => c_X8_fillsFar e) h (fun _ s11 h => ?_)
          refine AW.aload_n dX8_view_61 rfl ?_
          refine AW.tgI (k := 53) dX8_view_62 (Nat.le_of_ble_eq_true rfl) (fun _ => rfl) q1593 rfl ?_
          refine AW.istore (L' := [some (rV (some b)), some (iV x1), some (iV x2), some (iV x3), some (iV x4), some (iV (s11.1 53)), none, none]) dX8_view_65 (Nat.le_of_ble_eq_true rfl) rfl rfl ?_
          refine AW.fewer (L' := [some (rV (some b)), none, some (iV x2), some (iV x3), some (iV x4), some (iV (s11.1 53)), none, none]) (And.intro rfl (And.intro rfl (And.intro rfl (And.intro rfl (And.intro rfl trivial))))) ?_
          refine w_X8_view_L67 _ _ _ _ _ _ _ h (fun s25 h => ?_)
          refine AW.bipush dX8_view_162 (by decide) ?_
          cases h
          exact AW.iret dX8_view_164 rfl
        · refine AW.iconst dX8_view_34 ?_
          cases h
          exact AW.iret dX8_view_35 rfl
theorem c_X8_view {b : Nat} {σ : Hp} {s0 : TW} {x1 : Int} {x2 : Int} {x3 : Int} {x4 : Int} {v : Int} {s1 : TW} (h : f_X8_view s0 x1 x2 x3 x4 = some (v, s1)) : Ct m_X8_view [rV (some b), iV x1, iV x2, iV x3, iV x4] (insT b s0 σ) (.inl (some (iV v)), insT b s1 σ) :=
  Ct.of2 (w_X8_view s0 x1 x2 x3 x4 h) (by decide) rfl rfl rfl
abbrev m_X8_visits : Mi := (yX8_visits, cX8_visits, (some .int), 6, 2, 43, [])
theorem n_X8_visits : nameOk yX8_visits 2 := ⟨by decide, by decide, by decide +kernel⟩
def f_X8_visits_L28 : Nat → TW → Int → Int → Int → Int → (TW → Int → Option (Int × TW)) → Option (Int × TW)
  | 0, _, _, _, _, _, _ => none
  | n + 1, s0, x1, x2, x3, x4, k => (if nrm (s0.1 53) < nrm x4 then (k s0 x3) else ((ta s0 52 ((36 * x4) + x1)).bind fun v4 => (if ¬ nrm x2 = nrm (-1) then ((if ¬ nrm v4 = nrm x2 then (f_X8_visits_L28 n s0 x1 x2 x3 (x4 + 1) k) else (f_X8_visits_L28 n s0 x1 x2 (x3 + 1) (x4 + 1) k))) else ((if nrm x4 ≤ 0 then (f_X8_visits_L28 n s0 x1 x2 x3 (x4 + 1) k) else ((ta s0 52 (((36 * x4) - 36) + x1)).bind fun v6 => (if nrm v6 = nrm v4 then (f_X8_visits_L28 n s0 x1 x2 x3 (x4 + 1) k) else (f_X8_visits_L28 n s0 x1 x2 (x3 + 1) (x4 + 1) k))))))))
theorem w_X8_visits_L28 {b : Nat} {σ σ0 : Hp} {w : Int × TW} : ∀ (n : Nat) (s0 : TW) (x1 : Int) (x2 : Int) (x3 : Int) (x4 : Int) (k : (TW → Int → Option (Int × TW))), f_X8_visits_L28 n s0 x1 x2 x3 x4 k = some w → (∀ (s1 : TW) (x3 : Int), k s1 x3 = some w → AW m_X8_visits σ0 (tI b σ w) 99 [none, none, none, some (iV x3), none, none] [] (insT b s1 σ)) → AW m_X8_visits σ0 (tI b σ w) 28 [some (rV (some b)), some (iV x1), some (iV x2), some (iV x3), some (iV x4), none] [] (insT b s0 σ) := by
  intro n
  induction n with
  | zero =>
    intro s0 x1 x2 x3 x4 k h hk
    rw [f_X8_visits_L28] at h
    cases h
  | succ n ih =>
    intro s0 x1 x2 x3 x4 k h hk
    rw [f_X8_visits_L28] at h
    refine AW.iload dX8_visits_28 rfl ?_
    refine AW.aload_n dX8_visits_30 rfl ?_
    refine AW.tgI (k := 53) dX8_visits_31 (Nat.le_of_ble_eq_true rfl) (fun _ => rfl) q1593 rfl ?_
    refine AW.icmp_gt 99 dX8_visits_34 (by decide) h (fun c10 h => ?_) (fun c10 h => ?_)
    · exact AW.fewer (L' := [none, none, none, some (iV x3), none, none]) (And.intro rfl trivial) (hk _ _ h)
    · refine AW.aload_n dX8_visits_37 rfl ?_
      refine AW.tgR (k := 52) dX8_visits_38 (Nat.le_of_ble_eq_true rfl) (fun _ => rfl) q1592 rfl ia52 ?_
      refine AW.bipush dX8_visits_41 (by decide) ?_
      refine AW.iload dX8_visits_43 rfl ?_
      refine AW.imul dX8_visits_45 ?_
      refine AW.iload_n dX8_visits_46 rfl ?_
      refine AW.iadd dX8_visits_47 ?_
      refine AW.tiald (k := 52) dX8_visits_48 ia52 (Nat.le_of_ble_eq_true rfl) rfl h (fun v4 h => ?_)
      refine AW.istore (L' := [some (rV (some b)), some (iV x1), some (iV x2), some (iV x3), some (iV x4), some (iV v4)]) dX8_visits_49 (Nat.le_of_ble_eq_true rfl) rfl rfl ?_
      refine AW.iload_n dX8_visits_51 rfl ?_
      refine AW.iconst dX8_visits_52 ?_
      refine AW.icmp_ne 84 dX8_visits_53 (by decide) h (fun c9 h => ?_) (fun c9 h => ?_)
      · refine AW.iload dX8_visits_84 rfl ?_
        refine AW.iload_n dX8_visits_86 rfl ?_
        refine AW.icmp_ne 93 dX8_visits_87 (by decide) h (fun c5 h => ?_) (fun c5 h => ?_)
        · refine AW.iinc (L' := [some (rV (some b)), some (iV x1), some (iV x2), some (iV x3), some (iV (x4 + 1)), some (iV v4)]) dX8_visits_93 rfl (Nat.le_of_ble_eq_true rfl) rfl rfl ?_
          refine AW.goto (tgt := 28) dX8_visits_96 (by decide) ?_
          exact AW.fewer (L' := [some (rV (some b)), some (iV x1), some (iV x2), some (iV x3), some (iV (x4 + 1)), none]) (And.intro rfl (And.intro rfl (And.intro rfl (And.intro rfl (And.intro rfl trivial))))) (ih _ _ _ _ _ _ h hk)
        · refine AW.iinc (L' := [some (rV (some b)), some (iV x1), some (iV x2), some (iV (x3 + 1)), some (iV x4), some (iV v4)]) dX8_visits_90 rfl (Nat.le_of_ble_eq_true rfl) rfl rfl ?_
          refine AW.iinc (L' := [some (rV (some b)), some (iV x1), some (iV x2), some (iV (x3 + 1)), some (iV (x4 + 1)), some (iV v4)]) dX8_visits_93 rfl (Nat.le_of_ble_eq_true rfl) rfl rfl ?_
          refine AW.goto (tgt := 28) dX8_visits_96 (by decide) ?_
          exact AW.fewer (L' := [some (rV (some b)), some (iV x1), some (iV x2), some (iV (x3 + 1)), some (iV (x4 + 1)), none]) (And.intro rfl (And.intro rfl (And.intro rfl (And.intro rfl (And.intro rfl trivial))))) (ih _ _ _ _ _ _ h hk)
      · refine AW.iload dX8_visits_56 rfl ?_
        refine AW.if_le 93 dX8_visits_58 (by decide) h (fun c8 h => ?_) (fun c8 h => ?_)
        · refine AW.iinc (L' := [some (rV (some b)), some (iV x1), some (iV x2), some (iV x3), some (iV (x4 + 1)), some (iV v4)]) dX8_visits_93 rfl (Nat.le_of_ble_eq_true rfl) rfl rfl ?_
          refine AW.goto (tgt := 28) dX8_visits_96 (by decide) ?_
          exact AW.fewer (L' := [some (rV (some b)), some (iV x1), some (iV x2), some (iV x3), some (iV (x4 + 1)), none]) (And.intro rfl (And.intro rfl (And.intro rfl (And.intro rfl (And.intro rfl trivial))))) (ih _ _ _ _ _ _ h hk)
        · refine AW.aload_n dX8_visits_61 rfl ?_
          refine AW.tgR (k := 52) dX8_visits_62 (Nat.le_of_ble_eq_true rfl) (fun _ => rfl) q1592 rfl ia52 ?_
          refine AW.bipush dX8_visits_65 (by decide) ?_
          refine AW.iload dX8_visits_67 rfl ?_
          refine AW.imul dX8_visits_69 ?_
          refine AW.bipush dX8_visits_70 (by decide) ?_
          refine AW.isub dX8_visits_72 ?_
          refine AW.iload_n dX8_visits_73 rfl ?_
          refine AW.iadd dX8_visits_74 ?_
          refine AW.tiald (k := 52) dX8_visits_75 ia52 (Nat.le_of_ble_eq_true rfl) rfl h (fun v6 h => ?_)
          refine AW.iload dX8_visits_76 rfl ?_
          refine AW.icmp_eq 93 dX8_visits_78 (by decide) h (fun c7 h => ?_) (fun c7 h => ?_)
          · refine AW.iinc (L' := [some (rV (some b)), some (iV x1), some (iV x2), some (iV x3), some (iV (x4 + 1)), some (iV v4)]) dX8_visits_93 rfl (Nat.le_of_ble_eq_true rfl) rfl rfl ?_
            refine AW.goto (tgt := 28) dX8_visits_96 (by decide) ?_
            exact AW.fewer (L' := [some (rV (some b)), some (iV x1), some (iV x2), some (iV x3), some (iV (x4 + 1)), none]) (And.intro rfl (And.intro rfl (And.intro rfl (And.intro rfl (And.intro rfl trivial))))) (ih _ _ _ _ _ _ h hk)
          · refine AW.goto (tgt := 90) dX8_visits_81 (by decide) ?_
            refine AW.iinc (L' := [some (rV (some b)), some (iV x1), some (iV x2), some (iV (x3 + 1)), some (iV x4), some (iV v4)]) dX8_visits_90 rfl (Nat.le_of_ble_eq_true rfl) rfl rfl ?_
            refine AW.iinc (L' := [some (rV (some b)), some (iV x1), some (iV x2), some (iV (x3 + 1)), some (iV (x4 + 1)), some (iV v4)]) dX8_visits_93 rfl (Nat.le_of_ble_eq_true rfl) rfl rfl ?_
            refine AW.goto (tgt := 28) dX8_visits_96 (by decide) ?_
            exact AW.fewer (L' := [some (rV (some b)), some (iV x1), some (iV x2), some (iV (x3 + 1)), some (iV (x4 + 1)), none]) (And.intro rfl (And.intro rfl (And.intro rfl (And.intro rfl (And.intro rfl trivial))))) (ih _ _ _ _ _ _ h hk)
def f_X8_visits (s0 : TW) (x1 : Int) (x2 : Int) : Option (Int × TW) :=
  bt_ (f_X8_isMan s0 x1) fun v2 s1 => (if nrm v2 = 0 then (some ((-1), s1)) else (jn (fun (s3 : TW) (x1 : Int) (x2 : Int) => f_X8_visits_L28 FU s3 x1 x2 0 0 (fun s11 x3 => some (nrm x3, s11))) fun j23 => (if nrm x2 = nrm (-1) then (j23 s1 x1 x2) else (bt_ (f_X8_isRoom s1 x2) fun v13 s12 => (if ¬ nrm v13 = 0 then (j23 s12 x1 x2) else (some ((-1), s12)))))))
theorem w_X8_visits {b : Nat} {σ σ0 : Hp} {w : Int × TW} (s0 : TW) (x1 : Int) (x2 : Int) (h : f_X8_visits s0 x1 x2 = some w) : AW m_X8_visits σ0 (tI b σ w) 0 [some (rV (some b)), some (iV x1), some (iV x2), none, none, none] [] (insT b s0 σ) := by
  unfold f_X8_visits at h
  refine AW.aload_n dX8_visits_0 rfl ?_
  refine AW.iload_n dX8_visits_1 rfl ?_
  refine AW.tVI (M' := m_X8_isMan) [iV x1] [] dX8_visits_2 q1893 q1895 qs89 q139 q1896 rfl n_X8_isMan rfl rfl rfl (fun _ _ e => c_X8_isMan e) h (fun v2 s1 h => ?_)
  refine AW.if_eq 21 dX8_visits_5 (by decide) h (fun c16 h => ?_) (fun c16 h => ?_)
  · refine AW.iconst dX8_visits_21 ?_
    cases h
    exact AW.iret dX8_visits_22 rfl
  · refine AW.iload_n dX8_visits_8 rfl ?_
    refine AW.iconst dX8_visits_9 ?_
    refine jn_elim h (fun (j : (TW → Int → Int → Option (Int × TW))) => ∀ (s3 : TW) (x1 : Int) (x2 : Int), j s3 x1 x2 = some w → AW m_X8_visits σ0 (tI b σ w) 23 [some (rV (some b)), some (iV x1), some (iV x2), none, none, none] [] (insT b s3 σ)) ?_ (fun j23 hj23 h => ?_)
    · intro s3 x1 x2 h
      refine AW.iconst dX8_visits_23 ?_
      refine AW.istore_n (L' := [some (rV (some b)), some (iV x1), some (iV x2), some (iV 0), none, none]) dX8_visits_24 (Nat.le_of_ble_eq_true rfl) rfl rfl ?_
      refine AW.iconst dX8_visits_25 ?_
      refine AW.istore (L' := [some (rV (some b)), some (iV x1), some (iV x2), some (iV 0), some (iV 0), none]) dX8_visits_26 (Nat.le_of_ble_eq_true rfl) rfl rfl ?_
      refine w_X8_visits_L28 _ _ _ _ _ _ _ h (fun s11 x3 h => ?_)
      refine AW.iload_n dX8_visits_99 rfl ?_
      refine AW.nv ?_
      cases h
      exact AW.iret dX8_visits_100 rfl
    · refine AW.icmp_eq 23 dX8_visits_10 (by decide) h (fun c15 h => ?_) (fun c15 h => ?_)
      · exact hj23 _ _ _ h
      · refine AW.aload_n dX8_visits_13 rfl ?_
        refine AW.iload_n dX8_visits_14 rfl ?_
        refine AW.tVI (M' := m_X8_isRoom) [iV x2] [] dX8_visits_15 q1988 q1990 qs106 q139 q1991 rfl n_X8_isRoom rfl rfl rfl (fun _ _ e => c_X8_isRoom e) h (fun v13 s12 h => ?_)
        refine AW.if_ne 23 dX8_visits_18 (by decide) h (fun c14 h => ?_) (fun c14 h => ?_)
        · exact hj23 _ _ _ h
        · refine AW.iconst dX8_visits_21 ?_
          cases h
          exact AW.iret dX8_visits_22 rfl
theorem c_X8_visits {b : Nat} {σ : Hp} {s0 : TW} {x1 : Int} {x2 : Int} {v : Int} {s1 : TW} (h : f_X8_visits s0 x1 x2 = some (v, s1)) : Ct m_X8_visits [rV (some b), iV x1, iV x2] (insT b s0 σ) (.inl (some (iV v)), insT b s1 σ) :=
  Ct.of2 (w_X8_visits s0 x1 x2 h) (by decide) rfl rfl rfl
abbrev m_X8_willBe : Mi := (yX8_willBe, cX8_willBe, (some .int), 3, 6, 142, [])
theorem n_X8_willBe : nameOk yX8_willBe 2 := ⟨by decide, by decide, by decide +kernel⟩
def f_X8_willBe (s0 : TW) (x1 : Int) (x2 : Int) : Option (Int × TW) :=
  bt_ (f_X8_isMan s0 x1) fun v2 s1 => (if nrm v2 = 0 then (some ((-1), s1)) else (bt_ (f_X8_isLong s1 x2) fun v4 s3 => (if ¬ nrm v4 = 0 then (bt_ (f_X8_copies s3) fun _ s5 => bt_ (f_X8_goesTill s5 ((s5.1 53) + x2)) fun _ s6 => (ta s6 56 ((36 * (s6.1 57)) + x1)).bind fun v7 => some (v7, s6)) else (some ((-1), s3)))))
theorem w_X8_willBe {b : Nat} {σ σ0 : Hp} {w : Int × TW} (s0 : TW) (x1 : Int) (x2 : Int) (h : f_X8_willBe s0 x1 x2 = some w) : AW m_X8_willBe σ0 (tI b σ w) 0 [some (rV (some b)), some (iV x1), some (iV x2)] [] (insT b s0 σ) := by
  unfold f_X8_willBe at h
  refine AW.aload_n dX8_willBe_0 rfl ?_
  refine AW.iload_n dX8_willBe_1 rfl ?_
  refine AW.tVI (M' := m_X8_isMan) [iV x1] [] dX8_willBe_2 q1893 q1895 qs89 q139 q1896 rfl n_X8_isMan rfl rfl rfl (fun _ _ e => c_X8_isMan e) h (fun v2 s1 h => ?_)
  refine AW.if_eq 15 dX8_willBe_5 (by decide) h (fun c9 h => ?_) (fun c9 h => ?_)
  · refine AW.iconst dX8_willBe_15 ?_
    cases h
    exact AW.iret dX8_willBe_16 rfl
  · refine AW.iload_n dX8_willBe_8 rfl ?_
    refine AW.tSI (M' := m_X8_isLong) [iV x2] [] dX8_willBe_9 q2096 q2097 q139 q2098 n_X8_isLong rfl rfl rfl (fun _ _ e => c_X8_isLong e) h (fun v4 s3 h => ?_)
    refine AW.if_ne 17 dX8_willBe_12 (by decide) h (fun c8 h => ?_) (fun c8 h => ?_)
    · refine AW.aload_n dX8_willBe_17 rfl ?_
      refine AW.tVU (M' := m_X8_copies) [] [] dX8_willBe_18 q1912 q1914 qs92 q139 q1915 rfl n_X8_copies rfl rfl rfl (fun _ _ e => c_X8_copies e) h (fun _ s5 h => ?_)
      refine AW.aload_n dX8_willBe_21 rfl ?_
      refine AW.aload_n dX8_willBe_22 rfl ?_
      refine AW.tgI (k := 53) dX8_willBe_23 (Nat.le_of_ble_eq_true rfl) (fun _ => rfl) q1593 rfl ?_
      refine AW.iload_n dX8_willBe_26 rfl ?_
      refine AW.iadd dX8_willBe_27 ?_
      refine AW.tVU (M' := m_X8_goesTill) [iV ((s5.1 53) + x2)] [] dX8_willBe_28 q1936 q1938 qs97 q139 q1939 rfl n_X8_goesTill rfl rfl rfl (fun _ _ e => c_X8_goesTill e) h (fun _ s6 h => ?_)
      refine AW.aload_n dX8_willBe_31 rfl ?_
      refine AW.tgR (k := 56) dX8_willBe_32 (Nat.le_of_ble_eq_true rfl) (fun _ => rfl) q1596 rfl ia56 ?_
      refine AW.bipush dX8_willBe_35 (by decide) ?_
      refine AW.aload_n dX8_willBe_37 rfl ?_
      refine AW.tgI (k := 57) dX8_willBe_38 (Nat.le_of_ble_eq_true rfl) (fun _ => rfl) q1597 rfl ?_
      refine AW.imul dX8_willBe_41 ?_
      refine AW.iload_n dX8_willBe_42 rfl ?_
      refine AW.iadd dX8_willBe_43 ?_
      refine AW.tiald (k := 56) dX8_willBe_44 ia56 (Nat.le_of_ble_eq_true rfl) rfl h (fun v7 h => ?_)
      cases h
      exact AW.iret dX8_willBe_45 rfl
    · refine AW.iconst dX8_willBe_15 ?_
      cases h
      exact AW.iret dX8_willBe_16 rfl
theorem c_X8_willBe {b : Nat} {σ : Hp} {s0 : TW} {x1 : Int} {x2 : Int} {v : Int} {s1 : TW} (h : f_X8_willBe s0 x1 x2 = some (v, s1)) : Ct m_X8_willBe [rV (some b), iV x1, iV x2] (insT b s0 σ) (.inl (some (iV v)), insT b s1 σ) :=
  Ct.of2 (w_X8_willBe s0 x1 x2 h) (by decide) rfl rfl rfl
abbrev m_X8_word : Mi := (yX8_word, cX8_word, (some .long), 7, 1, 22, [])
theorem n_X8_word : nameOk yX8_word 7 := ⟨by decide, by decide, by decide +kernel⟩
def f_X8_word (s0 : TW) (x0 : Int) (x1 : Int) (x2 : Int) (x3 : Int) (x4 : Int) (x5 : Int) (x6 : Int) : Option (Int × TW) :=
  bt_ (f_X8_appends s0 0 x0) fun v2 s1 => bt_ (f_X8_appends s1 v2 x1) fun v4 s3 => bt_ (f_X8_appends s3 v4 x2) fun v6 s5 => bt_ (f_X8_appends s5 v6 x3) fun v8 s7 => bt_ (f_X8_appends s7 v8 x4) fun v10 s9 => bt_ (f_X8_appends s9 v10 x5) fun v12 s11 => bt_ (f_X8_appends s11 v12 x6) fun v14 s13 => some (v14, s13)
theorem w_X8_word {b : Nat} {σ σ0 : Hp} {w : Int × TW} (s0 : TW) (x0 : Int) (x1 : Int) (x2 : Int) (x3 : Int) (x4 : Int) (x5 : Int) (x6 : Int) (h : f_X8_word s0 x0 x1 x2 x3 x4 x5 x6 = some w) : AW m_X8_word σ0 (tJ b σ w) 0 [some (iV x0), some (iV x1), some (iV x2), some (iV x3), some (iV x4), some (iV x5), some (iV x6)] [] (insT b s0 σ) := by
  unfold f_X8_word at h
  refine AW.lconst (z := 0) dX8_word_0 (by decide) ?_
  refine AW.iload_n dX8_word_1 rfl ?_
  refine AW.tSJ (M' := m_X8_appends) [jV 0, iV x0] [] dX8_word_2 q1494 q1495 q139 q1496 n_X8_appends rfl rfl rfl (fun _ _ e => c_X8_appends e) h (fun v2 s1 h => ?_)
  refine AW.iload_n dX8_word_5 rfl ?_
  refine AW.tSJ (M' := m_X8_appends) [jV v2, iV x1] [] dX8_word_6 q1494 q1495 q139 q1496 n_X8_appends rfl rfl rfl (fun _ _ e => c_X8_appends e) h (fun v4 s3 h => ?_)
  refine AW.iload_n dX8_word_9 rfl ?_
  refine AW.tSJ (M' := m_X8_appends) [jV v4, iV x2] [] dX8_word_10 q1494 q1495 q139 q1496 n_X8_appends rfl rfl rfl (fun _ _ e => c_X8_appends e) h (fun v6 s5 h => ?_)
  refine AW.iload_n dX8_word_13 rfl ?_
  refine AW.tSJ (M' := m_X8_appends) [jV v6, iV x3] [] dX8_word_14 q1494 q1495 q139 q1496 n_X8_appends rfl rfl rfl (fun _ _ e => c_X8_appends e) h (fun v8 s7 h => ?_)
  refine AW.iload dX8_word_17 rfl ?_
  refine AW.tSJ (M' := m_X8_appends) [jV v8, iV x4] [] dX8_word_19 q1494 q1495 q139 q1496 n_X8_appends rfl rfl rfl (fun _ _ e => c_X8_appends e) h (fun v10 s9 h => ?_)
  refine AW.iload dX8_word_22 rfl ?_
  refine AW.tSJ (M' := m_X8_appends) [jV v10, iV x5] [] dX8_word_24 q1494 q1495 q139 q1496 n_X8_appends rfl rfl rfl (fun _ _ e => c_X8_appends e) h (fun v12 s11 h => ?_)
  refine AW.iload dX8_word_27 rfl ?_
  refine AW.tSJ (M' := m_X8_appends) [jV v12, iV x6] [] dX8_word_29 q1494 q1495 q139 q1496 n_X8_appends rfl rfl rfl (fun _ _ e => c_X8_appends e) h (fun v14 s13 h => ?_)
  cases h
  exact AW.lret dX8_word_32 rfl
theorem c_X8_word {b : Nat} {σ : Hp} {s0 : TW} {x0 : Int} {x1 : Int} {x2 : Int} {x3 : Int} {x4 : Int} {x5 : Int} {x6 : Int} {v : Int} {s1 : TW} (h : f_X8_word s0 x0 x1 x2 x3 x4 x5 x6 = some (v, s1)) : Ct m_X8_word [iV x0, iV x1, iV x2, iV x3, iV x4, iV x5, iV x6] (insT b s0 σ) (.inl (some (jV v)), insT b s1 σ) :=
  Ct.of2 (w_X8_word s0 x0 x1 x2 x3 x4 x5 x6 h) (by decide) rfl rfl rfl
