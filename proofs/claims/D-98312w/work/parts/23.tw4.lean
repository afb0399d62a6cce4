set_option maxRecDepth 100000
abbrev m_X8_named : Mi := (yX8_named, cX8_named, (some .int), 3, 3, 62, [])
theorem n_X8_named : nameOk yX8_named 0 := ⟨by decide, by decide, by decide +kernel⟩
def f_X8_named_L12 : Nat → TW → Int → Int → (TW → Int → Option (Int × TW)) → Option (Int × TW)
  | 0, _, _, _, _ => none
  | n + 1, s0, x1, x2, k => (if nrm (s0.1 20) ≤ nrm x2 then (k s0 x1) else ((if ¬ nrm (s0.1 13) = 0 then (k s0 x1) else ((ta s0 21 x2).bind fun v2 => (ta s0 8 x1).bind fun v3 => (if ¬ nrm (cmJ v2 v3) = 0 then (f_X8_named_L12 n s0 x1 (x2 + 1) k) else (bt_ (f_X8_wrong s0 3 x1) fun _ s4 => f_X8_named_L12 n s4 x1 (x2 + 1) k))))))
theorem w_X8_named_L12 {b : Nat} {σ σ0 : Hp} {w : Int × TW} : ∀ (n : Nat) (s0 : TW) (x1 : Int) (x2 : Int) (k : (TW → Int → Option (Int × TW))), f_X8_named_L12 n s0 x1 x2 k = some w → (∀ (s1 : TW) (x1 : Int), k s1 x1 = some w → AW m_X8_named σ0 (tI b σ w) 55 [none, some (iV x1), none] [] (insT b s1 σ)) → AW m_X8_named σ0 (tI b σ w) 12 [some (rV (some b)), some (iV x1), some (iV x2)] [] (insT b s0 σ) := by
  intro n
  induction n with
  | zero =>
    intro s0 x1 x2 k h hk
    rw [f_X8_named_L12] at h
    cases h
  | succ n ih =>
    intro s0 x1 x2 k h hk
    rw [f_X8_named_L12] at h
    refine AW.iload_n dX8_named_12 rfl ?_
    refine AW.aload_n dX8_named_13 rfl ?_
    refine AW.tgI (k := 20) dX8_named_14 (Nat.le_of_ble_eq_true rfl) (fun _ => rfl) q1560 rfl ?_
    refine AW.icmp_ge 55 dX8_named_17 (by decide) h (fun c7 h => ?_) (fun c7 h => ?_)
    · exact AW.fewer (L' := [none, some (iV x1), none]) (And.intro rfl trivial) (hk _ _ h)
    · refine AW.aload_n dX8_named_20 rfl ?_
      refine AW.tgI (k := 13) dX8_named_21 (Nat.le_of_ble_eq_true rfl) (fun _ => rfl) q1553 rfl ?_
      refine AW.if_ne 55 dX8_named_24 (by decide) h (fun c6 h => ?_) (fun c6 h => ?_)
      · exact AW.fewer (L' := [none, some (iV x1), none]) (And.intro rfl trivial) (hk _ _ h)
      · refine AW.aload_n dX8_named_27 rfl ?_
        refine AW.tgR (k := 21) dX8_named_28 (Nat.le_of_ble_eq_true rfl) (fun _ => rfl) q1561 rfl ia21 ?_
        refine AW.iload_n dX8_named_31 rfl ?_
        refine AW.tlald (k := 21) dX8_named_32 ia21 (Nat.le_of_ble_eq_true rfl) rfl h (fun v2 h => ?_)
        refine AW.aload_n dX8_named_33 rfl ?_
        refine AW.tgR (k := 8) dX8_named_34 (Nat.le_of_ble_eq_true rfl) (fun _ => rfl) q1548 rfl ia8 ?_
        refine AW.iload_n dX8_named_37 rfl ?_
        refine AW.tlald (k := 8) dX8_named_38 ia8 (Nat.le_of_ble_eq_true rfl) rfl h (fun v3 h => ?_)
        refine AW.lcmp dX8_named_39 ?_
        refine AW.if_ne 49 dX8_named_40 (by decide) h (fun c5 h => ?_) (fun c5 h => ?_)
        · refine AW.iinc (L' := [some (rV (some b)), some (iV x1), some (iV (x2 + 1))]) dX8_named_49 rfl (Nat.le_of_ble_eq_true rfl) rfl rfl ?_
          refine AW.goto (tgt := 12) dX8_named_52 (by decide) ?_
          exact ih _ _ _ _ h hk
        · refine AW.aload_n dX8_named_43 rfl ?_
          refine AW.iconst dX8_named_44 ?_
          refine AW.iload_n dX8_named_45 rfl ?_
          refine AW.tVU (M' := m_X8_wrong) [iV 3, iV x1] [] dX8_named_46 q1833 q1835 qs76 q139 q1836 rfl n_X8_wrong rfl rfl rfl (fun _ _ e => c_X8_wrong e) h (fun _ s4 h => ?_)
          refine AW.iinc (L' := [some (rV (some b)), some (iV x1), some (iV (x2 + 1))]) dX8_named_49 rfl (Nat.le_of_ble_eq_true rfl) rfl rfl ?_
          refine AW.goto (tgt := 12) dX8_named_52 (by decide) ?_
          exact ih _ _ _ _ h hk
def f_X8_named (s0 : TW) : Option (Int × TW) :=
  bt_ (f_X8_must s0 1) fun _ s1 => f_X8_named_L12 FU s1 (s0.1 11) 0 (fun s8 x1 => some (nrm x1, s8))
theorem w_X8_named {b : Nat} {σ σ0 : Hp} {w : Int × TW} (s0 : TW) (h : f_X8_named s0 = some w) : AW m_X8_named σ0 (tI b σ w) 0 [some (rV (some b)), none, none] [] (insT b s0 σ) := by
  unfold f_X8_named at h
  refine AW.aload_n dX8_named_0 rfl ?_
  refine AW.tgI (k := 11) dX8_named_1 (Nat.le_of_ble_eq_true rfl) (fun _ => rfl) q1551 rfl ?_
  refine AW.istore_n (L' := [some (rV (some b)), some (iV (s0.1 11)), none]) dX8_named_4 (Nat.le_of_ble_eq_true rfl) rfl rfl ?_
  refine AW.aload_n dX8_named_5 rfl ?_
  refine AW.iconst dX8_named_6 ?_
  refine AW.tVU (M' := m_X8_must) [iV 1] [] dX8_named_7 q1829 q1831 qs75 q139 q1832 rfl n_X8_must rfl rfl rfl (fun _ _ e => c_X8_must e) h (fun _ s1 h => ?_)
  refine AW.iconst dX8_named_10 ?_
  refine AW.istore_n (L' := [some (rV (some b)), some (iV (s0.1 11)), some (iV 0)]) dX8_named_11 (Nat.le_of_ble_eq_true rfl) rfl rfl ?_
  refine w_X8_named_L12 _ _ _ _ _ h (fun s8 x1 h => ?_)
  refine AW.iload_n dX8_named_55 rfl ?_
  refine AW.nv ?_
  cases h
  exact AW.iret dX8_named_56 rfl
theorem c_X8_named {b : Nat} {σ : Hp} {s0 : TW} {v : Int} {s1 : TW} (h : f_X8_named s0 = some (v, s1)) : Ct m_X8_named [rV (some b)] (insT b s0 σ) (.inl (some (iV v)), insT b s1 σ) :=
  Ct.of2 (w_X8_named s0 h) (by decide) rfl rfl rfl
abbrev m_X8_notes : Mi := (yX8_notes, cX8_notes, none, 4, 0, 0, [])
theorem n_X8_notes : nameOk yX8_notes 3 := ⟨by decide, by decide, by decide +kernel⟩
def f_X8_notes (s0 : TW) (x1 : Int) (x2 : Int) (x3 : Int) : Option (Unit × TW) :=
  (ta s0 8 x1).bind fun v1 => (ts s0 21 (s0.1 20) v1).bind fun s2 => (ts s2 22 (s2.1 20) (nrm x2)).bind fun s3 => (ts s3 23 (s3.1 20) (nrm x3)).bind fun s4 => bd (tp s4 20 (nrm ((s4.1 20) + 1))) fun s5 => some ((), s5)
theorem w_X8_notes {b : Nat} {σ σ0 : Hp} {w : Unit × TW} (s0 : TW) (x1 : Int) (x2 : Int) (x3 : Int) (h : f_X8_notes s0 x1 x2 x3 = some w) : AW m_X8_notes σ0 (tU b σ w) 0 [some (rV (some b)), some (iV x1), some (iV x2), some (iV x3)] [] (insT b s0 σ) := by
  unfold f_X8_notes at h
  refine AW.aload_n dX8_notes_0 rfl ?_
  refine AW.tgR (k := 21) dX8_notes_1 (Nat.le_of_ble_eq_true rfl) (fun _ => rfl) q1561 rfl ia21 ?_
  refine AW.aload_n dX8_notes_4 rfl ?_
  refine AW.tgI (k := 20) dX8_notes_5 (Nat.le_of_ble_eq_true rfl) (fun _ => rfl) q1560 rfl ?_
  refine AW.aload_n dX8_notes_8 rfl ?_
  refine AW.tgR (k := 8) dX8_notes_9 (Nat.le_of_ble_eq_true rfl) (fun _ => rfl) q1548 rfl ia8 ?_
  refine AW.iload_n dX8_notes_12 rfl ?_
  refine AW.tlald (k := 8) dX8_notes_13 ia8 (Nat.le_of_ble_eq_true rfl) rfl h (fun v1 h => ?_)
  refine AW.tlast (k := 21) dX8_notes_14 ia21 (Nat.le_of_ble_eq_true rfl) mt21 rfl h (fun s2 h => ?_)
  refine AW.aload_n dX8_notes_15 rfl ?_
  refine AW.tgR (k := 22) dX8_notes_16 (Nat.le_of_ble_eq_true rfl) (fun _ => rfl) q1562 rfl ia22 ?_
  refine AW.aload_n dX8_notes_19 rfl ?_
  refine AW.tgI (k := 20) dX8_notes_20 (Nat.le_of_ble_eq_true rfl) (fun _ => rfl) q1560 rfl ?_
  refine AW.iload_n dX8_notes_23 rfl ?_
  refine AW.nv ?_
  refine AW.tiast (k := 22) dX8_notes_24 ia22 (Nat.le_of_ble_eq_true rfl) mt22 rfl h (fun s3 h => ?_)
  refine AW.aload_n dX8_notes_25 rfl ?_
  refine AW.tgR (k := 23) dX8_notes_26 (Nat.le_of_ble_eq_true rfl) (fun _ => rfl) q1563 rfl ia23 ?_
  refine AW.aload_n dX8_notes_29 rfl ?_
  refine AW.tgI (k := 20) dX8_notes_30 (Nat.le_of_ble_eq_true rfl) (fun _ => rfl) q1560 rfl ?_
  refine AW.iload_n dX8_notes_33 rfl ?_
  refine AW.nv ?_
  refine AW.tiast (k := 23) dX8_notes_34 ia23 (Nat.le_of_ble_eq_true rfl) mt23 rfl h (fun s4 h => ?_)
  refine AW.aload_n dX8_notes_35 rfl ?_
  refine AW.dupR dX8_notes_36 ?_
  refine AW.tgI (k := 20) dX8_notes_37 (Nat.le_of_ble_eq_true rfl) (fun _ => rfl) q1560 rfl ?_
  refine AW.iconst dX8_notes_40 ?_
  refine AW.iadd dX8_notes_41 ?_
  refine AW.nv ?_
  refine AW.tpB (k := 20) dX8_notes_42 (Nat.le_of_ble_eq_true rfl) rfl q1560 rfl rfl h (fun s5 h => ?_)
  cases h
  exact AW.vret dX8_notes_45 rfl
theorem c_X8_notes {b : Nat} {σ : Hp} {s0 : TW} {x1 : Int} {x2 : Int} {x3 : Int} {v : Unit} {s1 : TW} (h : f_X8_notes s0 x1 x2 x3 = some (v, s1)) : Ct m_X8_notes [rV (some b), iV x1, iV x2, iV x3] (insT b s0 σ) (.inl none, insT b s1 σ) :=
  Ct.of2 (w_X8_notes s0 x1 x2 x3 h) (by decide) rfl rfl rfl
abbrev m_X8_odds : Mi := (yX8_odds, cX8_odds, (some .int), 6, 6, 142, [])
theorem n_X8_odds : nameOk yX8_odds 3 := ⟨by decide, by decide, by decide +kernel⟩
def f_X8_odds_L33 : Nat → TW → Int → Int → Int → Int → Int → (TW → Int → Option (Int × TW)) → Option (Int × TW)
  | 0, _, _, _, _, _, _, _ => none
  | n + 1, s0, x1, x2, x3, x4, x5, k => (if nrm x3 ≤ nrm x5 then (k s0 x4) else (bt_ (f_X8_copies s0) fun _ s7 => bd (tp s7 60 (nrm ((s7.1 60) + x5))) fun s8 => bt_ (f_X8_goesTill s8 ((s8.1 53) + x2)) fun _ s9 => (ta s9 58 x1).bind fun v10 => (if nrm v10 = nrm (-1) then (f_X8_odds_L33 n s9 x1 x2 x3 x4 (x5 + 1) k) else (f_X8_odds_L33 n s9 x1 x2 x3 (x4 + 1) (x5 + 1) k))))
theorem w_X8_odds_L33 {b : Nat} {σ σ0 : Hp} {w : Int × TW} : ∀ (n : Nat) (s0 : TW) (x1 : Int) (x2 : Int) (x3 : Int) (x4 : Int) (x5 : Int) (k : (TW → Int → Option (Int × TW))), f_X8_odds_L33 n s0 x1 x2 x3 x4 x5 k = some w → (∀ (s1 : TW) (x4 : Int), k s1 x4 = some w → AW m_X8_odds σ0 (tI b σ w) 83 [none, none, none, none, some (iV x4), none] [] (insT b s1 σ)) → AW m_X8_odds σ0 (tI b σ w) 33 [some (rV (some b)), some (iV x1), some (iV x2), some (iV x3), some (iV x4), some (iV x5)] [] (insT b s0 σ) := by
  intro n
  induction n with
  | zero =>
    intro s0 x1 x2 x3 x4 x5 k h hk
    rw [f_X8_odds_L33] at h
    cases h
  | succ n ih =>
    intro s0 x1 x2 x3 x4 x5 k h hk
    rw [f_X8_odds_L33] at h
    refine AW.iload dX8_odds_33 rfl ?_
    refine AW.iload_n dX8_odds_35 rfl ?_
    refine AW.icmp_ge 83 dX8_odds_36 (by decide) h (fun c12 h => ?_) (fun c12 h => ?_)
    · exact AW.fewer (L' := [none, none, none, none, some (iV x4), none]) (And.intro rfl trivial) (hk _ _ h)
    · refine AW.aload_n dX8_odds_39 rfl ?_
      refine AW.tVU (M' := m_X8_copies) [] [] dX8_odds_40 q1912 q1914 qs92 q139 q1915 rfl n_X8_copies rfl rfl rfl (fun _ _ e => c_X8_copies e) h (fun _ s7 h => ?_)
      refine AW.aload_n dX8_odds_43 rfl ?_
      refine AW.dupR dX8_odds_44 ?_
      refine AW.tgI (k := 60) dX8_odds_45 (Nat.le_of_ble_eq_true rfl) (fun _ => rfl) q1600 rfl ?_
      refine AW.iload dX8_odds_48 rfl ?_
      refine AW.iadd dX8_odds_50 ?_
      refine AW.nv ?_
      refine AW.tpB (k := 60) dX8_odds_51 (Nat.le_of_ble_eq_true rfl) rfl q1600 rfl rfl h (fun s8 h => ?_)
      refine AW.aload_n dX8_odds_54 rfl ?_
      refine AW.aload_n dX8_odds_55 rfl ?_
      refine AW.tgI (k := 53) dX8_odds_56 (Nat.le_of_ble_eq_true rfl) (fun _ => rfl) q1593 rfl ?_
      refine AW.iload_n dX8_odds_59 rfl ?_
      refine AW.iadd dX8_odds_60 ?_
      refine AW.tVU (M' := m_X8_goesTill) [iV ((s8.1 53) + x2)] [] dX8_odds_61 q1936 q1938 qs97 q139 q1939 rfl n_X8_goesTill rfl rfl rfl (fun _ _ e => c_X8_goesTill e) h (fun _ s9 h => ?_)
      refine AW.aload_n dX8_odds_64 rfl ?_
      refine AW.tgR (k := 58) dX8_odds_65 (Nat.le_of_ble_eq_true rfl) (fun _ => rfl) q1598 rfl ia58 ?_
      refine AW.iload_n dX8_odds_68 rfl ?_
      refine AW.tiald (k := 58) dX8_odds_69 ia58 (Nat.le_of_ble_eq_true rfl) rfl h (fun v10 h => ?_)
      refine AW.iconst dX8_odds_70 ?_
      refine AW.icmp_eq 77 dX8_odds_71 (by decide) h (fun c11 h => ?_) (fun c11 h => ?_)
      · refine AW.iinc (L' := [some (rV (some b)), some (iV x1), some (iV x2), some (iV x3), some (iV x4), some (iV (x5 + 1))]) dX8_odds_77 rfl (Nat.le_of_ble_eq_true rfl) rfl rfl ?_
        refine AW.goto (tgt := 33) dX8_odds_80 (by decide) ?_
        exact ih _ _ _ _ _ _ _ h hk
      · refine AW.iinc (L' := [some (rV (some b)), some (iV x1), some (iV x2), some (iV x3), some (iV (x4 + 1)), some (iV x5)]) dX8_odds_74 rfl (Nat.le_of_ble_eq_true rfl) rfl rfl ?_
        refine AW.iinc (L' := [some (rV (some b)), some (iV x1), some (iV x2), some (iV x3), some (iV (x4 + 1)), some (iV (x5 + 1))]) dX8_odds_77 rfl (Nat.le_of_ble_eq_true rfl) rfl rfl ?_
        refine AW.goto (tgt := 33) dX8_odds_80 (by decide) ?_
        exact ih _ _ _ _ _ _ _ h hk
def f_X8_odds (s0 : TW) (x1 : Int) (x2 : Int) (x3 : Int) : Option (Int × TW) :=
  bt_ (f_X8_isMirror s0 x1) fun v2 s1 => (if nrm v2 = 0 then (some ((-1), s1)) else (bt_ (f_X8_isLong s1 x2) fun v4 s3 => (if nrm v4 = 0 then (some ((-1), s3)) else (bt_ (f_X8_in s3 x3 1 10) fun v6 s5 => (if ¬ nrm v6 = 0 then (f_X8_odds_L33 FU s5 x1 x2 x3 0 0 (fun s13 x4 => some (nrm x4, s13))) else (some ((-1), s5)))))))
theorem w_X8_odds {b : Nat} {σ σ0 : Hp} {w : Int × TW} (s0 : TW) (x1 : Int) (x2 : Int) (x3 : Int) (h : f_X8_odds s0 x1 x2 x3 = some w) : AW m_X8_odds σ0 (tI b σ w) 0 [some (rV (some b)), some (iV x1), some (iV x2), some (iV x3), none, none] [] (insT b s0 σ) := by
  unfold f_X8_odds at h
  refine AW.aload_n dX8_odds_0 rfl ?_
  refine AW.iload_n dX8_odds_1 rfl ?_
  refine AW.tVI (M' := m_X8_isMirror) [iV x1] [] dX8_odds_2 q1908 q1910 qs91 q139 q1911 rfl n_X8_isMirror rfl rfl rfl (fun _ _ e => c_X8_isMirror e) h (fun v2 s1 h => ?_)
  refine AW.if_eq 25 dX8_odds_5 (by decide) h (fun c16 h => ?_) (fun c16 h => ?_)
  · refine AW.iconst dX8_odds_25 ?_
    cases h
    exact AW.iret dX8_odds_26 rfl
  · refine AW.iload_n dX8_odds_8 rfl ?_
    refine AW.tSI (M' := m_X8_isLong) [iV x2] [] dX8_odds_9 q2096 q2097 q139 q2098 n_X8_isLong rfl rfl rfl (fun _ _ e => c_X8_isLong e) h (fun v4 s3 h => ?_)
    refine AW.if_eq 25 dX8_odds_12 (by decide) h (fun c15 h => ?_) (fun c15 h => ?_)
    · refine AW.iconst dX8_odds_25 ?_
      cases h
      exact AW.iret dX8_odds_26 rfl
    · refine AW.iload_n dX8_odds_15 rfl ?_
      refine AW.iconst dX8_odds_16 ?_
      refine AW.bipush dX8_odds_17 (by decide) ?_
      refine AW.tSI (M' := m_X8_in) [iV x3, iV 1, iV 10] [] dX8_odds_19 q1897 q1898 q139 q1899 n_X8_in rfl rfl rfl (fun _ _ e => c_X8_in e) h (fun v6 s5 h => ?_)
      refine AW.if_ne 27 dX8_odds_22 (by decide) h (fun c14 h => ?_) (fun c14 h => ?_)
      · refine AW.iconst dX8_odds_27 ?_
        refine AW.istore (L' := [some (rV (some b)), some (iV x1), some (iV x2), some (iV x3), some (iV 0), none]) dX8_odds_28 (Nat.le_of_ble_eq_true rfl) rfl rfl ?_
        refine AW.iconst dX8_odds_30 ?_
        refine AW.istore (L' := [some (rV (some b)), some (iV x1), some (iV x2), some (iV x3), some (iV 0), some (iV 0)]) dX8_odds_31 (Nat.le_of_ble_eq_true rfl) rfl rfl ?_
        refine w_X8_odds_L33 _ _ _ _ _ _ _ _ h (fun s13 x4 h => ?_)
        refine AW.iload dX8_odds_83 rfl ?_
        refine AW.nv ?_
        cases h
        exact AW.iret dX8_odds_85 rfl
      · refine AW.iconst dX8_odds_25 ?_
        cases h
        exact AW.iret dX8_odds_26 rfl
theorem c_X8_odds {b : Nat} {σ : Hp} {s0 : TW} {x1 : Int} {x2 : Int} {x3 : Int} {v : Int} {s1 : TW} (h : f_X8_odds s0 x1 x2 x3 = some (v, s1)) : Ct m_X8_odds [rV (some b), iV x1, iV x2, iV x3] (insT b s0 σ) (.inl (some (iV v)), insT b s1 σ) :=
  Ct.of2 (w_X8_odds s0 x1 x2 x3 h) (by decide) rfl rfl rfl
abbrev m_X8_oldest : Mi := (yX8_oldest, cX8_oldest, (some .int), 6, 2, 45, [])
theorem n_X8_oldest : nameOk yX8_oldest 1 := ⟨by decide, by decide, by decide +kernel⟩
def f_X8_oldest_L24 : Nat → TW → Int → Int → Int → Int → (TW → Int → Int → Int → Option (Int × TW)) → Option (Int × TW)
  | 0, _, _, _, _, _, _ => none
  | n + 1, s0, x1, x2, x3, x4, k => (ta s0 31 (s0.1 18)).bind fun v4 => (if nrm v4 ≤ nrm x4 then (k s0 x1 x2 x3) else (bt_ (f_X8_showsAt s0 x4 (s0.1 57)) fun v6 s5 => (if nrm v6 < 0 then (f_X8_oldest_L24 n s5 x1 x2 x3 (x4 + 1) k) else (jn (fun (s7 : TW) (x1 : Int) (x4 : Int) (x5 : Int) => f_X8_oldest_L24 n s7 x1 x4 x5 (x4 + 1) k) fun j68 => (if nrm x2 < 0 then (j68 s5 x1 x4 v6) else ((if nrm v6 < nrm x3 then (j68 s5 x1 x4 v6) else (f_X8_oldest_L24 n s5 x1 x2 x3 (x4 + 1) k))))))))
theorem w_X8_oldest_L24 {b : Nat} {σ σ0 : Hp} {w : Int × TW} : ∀ (n : Nat) (s0 : TW) (x1 : Int) (x2 : Int) (x3 : Int) (x4 : Int) (k : (TW → Int → Int → Int → Option (Int × TW))), f_X8_oldest_L24 n s0 x1 x2 x3 x4 k = some w → (∀ (s1 : TW) (x1 : Int) (x2 : Int) (x3 : Int), k s1 x1 x2 x3 = some w → AW m_X8_oldest σ0 (tI b σ w) 80 [none, some (iV x1), some (iV x2), some (iV x3), none, none] [] (insT b s1 σ)) → AW m_X8_oldest σ0 (tI b σ w) 24 [some (rV (some b)), some (iV x1), some (iV x2), some (iV x3), some (iV x4), none] [] (insT b s0 σ) := by
  intro n
  induction n with
  | zero =>
    intro s0 x1 x2 x3 x4 k h hk
    rw [f_X8_oldest_L24] at h
    cases h
  | succ n ih =>
    intro s0 x1 x2 x3 x4 k h hk
    rw [f_X8_oldest_L24] at h
    refine AW.iload dX8_oldest_24 rfl ?_
    refine AW.aload_n dX8_oldest_26 rfl ?_
    refine AW.tgR (k := 31) dX8_oldest_27 (Nat.le_of_ble_eq_true rfl) (fun _ => rfl) q1571 rfl ia31 ?_
    refine AW.aload_n dX8_oldest_30 rfl ?_
    refine AW.tgI (k := 18) dX8_oldest_31 (Nat.le_of_ble_eq_true rfl) (fun _ => rfl) q1558 rfl ?_
    refine AW.tiald (k := 31) dX8_oldest_34 ia31 (Nat.le_of_ble_eq_true rfl) rfl h (fun v4 h => ?_)
    refine AW.icmp_ge 80 dX8_oldest_35 (by decide) h (fun c11 h => ?_) (fun c11 h => ?_)
    · exact AW.fewer (L' := [none, some (iV x1), some (iV x2), some (iV x3), none, none]) (And.intro rfl (And.intro rfl (And.intro rfl trivial))) (hk _ _ _ _ h)
    · refine AW.aload_n dX8_oldest_38 rfl ?_
      refine AW.iload dX8_oldest_39 rfl ?_
      refine AW.aload_n dX8_oldest_41 rfl ?_
      refine AW.tgI (k := 57) dX8_oldest_42 (Nat.le_of_ble_eq_true rfl) (fun _ => rfl) q1597 rfl ?_
      refine AW.tVI (M' := m_X8_showsAt) [iV x4, iV (s0.1 57)] [] dX8_oldest_45 q1916 q1918 qs93 q139 q1919 rfl n_X8_showsAt rfl rfl rfl (fun _ _ e => c_X8_showsAt e) h (fun v6 s5 h => ?_)
      refine AW.istore (L' := [some (rV (some b)), some (iV x1), some (iV x2), some (iV x3), some (iV x4), some (iV v6)]) dX8_oldest_48 (Nat.le_of_ble_eq_true rfl) rfl rfl ?_
      refine AW.iload dX8_oldest_50 rfl ?_
      refine AW.if_lt 74 dX8_oldest_52 (by decide) h (fun c10 h => ?_) (fun c10 h => ?_)
      · refine AW.iinc (L' := [some (rV (some b)), some (iV x1), some (iV x2), some (iV x3), some (iV (x4 + 1)), some (iV v6)]) dX8_oldest_74 rfl (Nat.le_of_ble_eq_true rfl) rfl rfl ?_
        refine AW.goto (tgt := 24) dX8_oldest_77 (by decide) ?_
        exact AW.fewer (L' := [some (rV (some b)), some (iV x1), some (iV x2), some (iV x3), some (iV (x4 + 1)), none]) (And.intro rfl (And.intro rfl (And.intro rfl (And.intro rfl (And.intro rfl trivial))))) (ih _ _ _ _ _ _ h hk)
      · refine AW.iload_n dX8_oldest_55 rfl ?_
        refine jn_elim h (fun (j : (TW → Int → Int → Int → Option (Int × TW))) => ∀ (s7 : TW) (x1 : Int) (x4 : Int) (x5 : Int), j s7 x1 x4 x5 = some w → AW m_X8_oldest σ0 (tI b σ w) 68 [some (rV (some b)), some (iV x1), none, none, some (iV x4), some (iV x5)] [] (insT b s7 σ)) ?_ (fun j68 hj68 h => ?_)
        · intro s7 x1 x4 x5 h
          refine AW.iload dX8_oldest_68 rfl ?_
          refine AW.istore_n (L' := [some (rV (some b)), some (iV x1), some (iV x4), none, some (iV x4), some (iV x5)]) dX8_oldest_70 (Nat.le_of_ble_eq_true rfl) rfl rfl ?_
          refine AW.iload dX8_oldest_71 rfl ?_
          refine AW.istore_n (L' := [some (rV (some b)), some (iV x1), some (iV x4), some (iV x5), some (iV x4), some (iV x5)]) dX8_oldest_73 (Nat.le_of_ble_eq_true rfl) rfl rfl ?_
          refine AW.iinc (L' := [some (rV (some b)), some (iV x1), some (iV x4), some (iV x5), some (iV (x4 + 1)), some (iV x5)]) dX8_oldest_74 rfl (Nat.le_of_ble_eq_true rfl) rfl rfl ?_
          refine AW.goto (tgt := 24) dX8_oldest_77 (by decide) ?_
          exact AW.fewer (L' := [some (rV (some b)), some (iV x1), some (iV x4), some (iV x5), some (iV (x4 + 1)), none]) (And.intro rfl (And.intro rfl (And.intro rfl (And.intro rfl (And.intro rfl trivial))))) (ih _ _ _ _ _ _ h hk)
        · refine AW.if_lt 68 dX8_oldest_56 (by decide) h (fun c9 h => ?_) (fun c9 h => ?_)
          · exact AW.fewer (L' := [some (rV (some b)), some (iV x1), none, none, some (iV x4), some (iV v6)]) (And.intro rfl (And.intro rfl (And.intro rfl (And.intro rfl trivial)))) (hj68 _ _ _ _ h)
          · refine AW.iload dX8_oldest_59 rfl ?_
            refine AW.iload_n dX8_oldest_61 rfl ?_
            refine AW.icmp_lt 68 dX8_oldest_62 (by decide) h (fun c8 h => ?_) (fun c8 h => ?_)
            · exact AW.fewer (L' := [some (rV (some b)), some (iV x1), none, none, some (iV x4), some (iV v6)]) (And.intro rfl (And.intro rfl (And.intro rfl (And.intro rfl trivial)))) (hj68 _ _ _ _ h)
            · refine AW.goto (tgt := 74) dX8_oldest_65 (by decide) ?_
              refine AW.iinc (L' := [some (rV (some b)), some (iV x1), some (iV x2), some (iV x3), some (iV (x4 + 1)), some (iV v6)]) dX8_oldest_74 rfl (Nat.le_of_ble_eq_true rfl) rfl rfl ?_
              refine AW.goto (tgt := 24) dX8_oldest_77 (by decide) ?_
              exact AW.fewer (L' := [some (rV (some b)), some (iV x1), some (iV x2), some (iV x3), some (iV (x4 + 1)), none]) (And.intro rfl (And.intro rfl (And.intro rfl (And.intro rfl (And.intro rfl trivial))))) (ih _ _ _ _ _ _ h hk)
def f_X8_oldest (s0 : TW) (x1 : Int) : Option (Int × TW) :=
  bt_ (f_X8_in s0 x1 0 1) fun v2 s1 => (if ¬ nrm v2 = 0 then (bt_ (f_X8_copies s1) fun _ s3 => f_X8_oldest_L24 FU s3 x1 (-2) (-2) 0 (fun s12 x1 x2 x3 => (if ¬ nrm x1 = 0 then (some (nrm x3, s12)) else (some (nrm x2, s12))))) else (some ((-1), s1)))
theorem w_X8_oldest {b : Nat} {σ σ0 : Hp} {w : Int × TW} (s0 : TW) (x1 : Int) (h : f_X8_oldest s0 x1 = some w) : AW m_X8_oldest σ0 (tI b σ w) 0 [some (rV (some b)), some (iV x1), none, none, none, none] [] (insT b s0 σ) := by
  unfold f_X8_oldest at h
  refine AW.iload_n dX8_oldest_0 rfl ?_
  refine AW.iconst dX8_oldest_1 ?_
  refine AW.iconst dX8_oldest_2 ?_
  refine AW.tSI (M' := m_X8_in) [iV x1, iV 0, iV 1] [] dX8_oldest_3 q1897 q1898 q139 q1899 n_X8_in rfl rfl rfl (fun _ _ e => c_X8_in e) h (fun v2 s1 h => ?_)
  refine AW.if_ne 11 dX8_oldest_6 (by decide) h (fun c14 h => ?_) (fun c14 h => ?_)
  · refine AW.aload_n dX8_oldest_11 rfl ?_
    refine AW.tVU (M' := m_X8_copies) [] [] dX8_oldest_12 q1912 q1914 qs92 q139 q1915 rfl n_X8_copies rfl rfl rfl (fun _ _ e => c_X8_copies e) h (fun _ s3 h => ?_)
    refine AW.bipush dX8_oldest_15 (by decide) ?_
    refine AW.istore_n (L' := [some (rV (some b)), some (iV x1), some (iV (-2)), none, none, none]) dX8_oldest_17 (Nat.le_of_ble_eq_true rfl) rfl rfl ?_
    refine AW.bipush dX8_oldest_18 (by decide) ?_
    refine AW.istore_n (L' := [some (rV (some b)), some (iV x1), some (iV (-2)), some (iV (-2)), none, none]) dX8_oldest_20 (Nat.le_of_ble_eq_true rfl) rfl rfl ?_
    refine AW.iconst dX8_oldest_21 ?_
    refine AW.istore (L' := [some (rV (some b)), some (iV x1), some (iV (-2)), some (iV (-2)), some (iV 0), none]) dX8_oldest_22 (Nat.le_of_ble_eq_true rfl) rfl rfl ?_
    refine w_X8_oldest_L24 _ _ _ _ _ _ _ h (fun s12 x1 x2 x3 h => ?_)
    refine AW.iload_n dX8_oldest_80 rfl ?_
    refine AW.if_ne 88 dX8_oldest_81 (by decide) h (fun c13 h => ?_) (fun c13 h => ?_)
    · refine AW.iload_n dX8_oldest_88 rfl ?_
      refine AW.nv ?_
      cases h
      exact AW.iret dX8_oldest_89 rfl
    · refine AW.iload_n dX8_oldest_84 rfl ?_
      refine AW.goto (tgt := 89) dX8_oldest_85 (by decide) ?_
      refine AW.nv ?_
      cases h
      exact AW.iret dX8_oldest_89 rfl
  · refine AW.iconst dX8_oldest_9 ?_
    cases h
    exact AW.iret dX8_oldest_10 rfl
theorem c_X8_oldest {b : Nat} {σ : Hp} {s0 : TW} {x1 : Int} {v : Int} {s1 : TW} (h : f_X8_oldest s0 x1 = some (v, s1)) : Ct m_X8_oldest [rV (some b), iV x1] (insT b s0 σ) (.inl (some (iV v)), insT b s1 σ) :=
  Ct.of2 (w_X8_oldest s0 x1 h) (by decide) rfl rfl rfl
abbrev m_X8_place : Mi := (yX8_place, cX8_place, (some .int), 1, 0, 0, [])
theorem n_X8_place : nameOk yX8_place 0 := ⟨by decide, by decide, by decide +kernel⟩
def f_X8_place (s0 : TW) : Option (Int × TW) :=
  some (s0.1 17, s0)
theorem w_X8_place {b : Nat} {σ σ0 : Hp} {w : Int × TW} (s0 : TW) (h : f_X8_place s0 = some w) : AW m_X8_place σ0 (tI b σ w) 0 [some (rV (some b))] [] (insT b s0 σ) := by
  unfold f_X8_place at h
  refine AW.aload_n dX8_place_0 rfl ?_
  refine AW.tgI (k := 17) dX8_place_1 (Nat.le_of_ble_eq_true rfl) (fun _ => rfl) q1557 rfl ?_
  cases h
  exact AW.iret dX8_place_4 rfl
theorem c_X8_place {b : Nat} {σ : Hp} {s0 : TW} {v : Int} {s1 : TW} (h : f_X8_place s0 = some (v, s1)) : Ct m_X8_place [rV (some b)] (insT b s0 σ) (.inl (some (iV v)), insT b s1 σ) :=
  Ct.of2 (w_X8_place s0 h) (by decide) rfl rfl rfl
abbrev m_X8_plain : Mi := (yX8_plain, cX8_plain, none, 3, 0, 0, [])
theorem n_X8_plain : nameOk yX8_plain 1 := ⟨by decide, by decide, by decide +kernel⟩
def f_X8_plain_L44 : Nat → TW → Int → Int → (TW → Option (Unit × TW)) → Option (Unit × TW)
  | 0, _, _, _, _ => none
  | n + 1, s0, x1, x2, k => (if nrm 7 ≤ nrm x2 then (k s0) else ((ts s0 36 ((7 * x1) + x2) 0).bind fun s7 => (ts s7 37 ((7 * x1) + x2) 0).bind fun s8 => f_X8_plain_L44 n s8 x1 (x2 + 1) k))
theorem w_X8_plain_L44 {b : Nat} {σ σ0 : Hp} {w : Unit × TW} : ∀ (n : Nat) (s0 : TW) (x1 : Int) (x2 : Int) (k : (TW → Option (Unit × TW))), f_X8_plain_L44 n s0 x1 x2 k = some w → (∀ (s1 : TW), k s1 = some w → AW m_X8_plain σ0 (tU b σ w) 80 [none, none, none] [] (insT b s1 σ)) → AW m_X8_plain σ0 (tU b σ w) 44 [some (rV (some b)), some (iV x1), some (iV x2)] [] (insT b s0 σ) := by
  intro n
  induction n with
  | zero =>
    intro s0 x1 x2 k h hk
    rw [f_X8_plain_L44] at h
    cases h
  | succ n ih =>
    intro s0 x1 x2 k h hk
    rw [f_X8_plain_L44] at h
    refine AW.iload_n dX8_plain_44 rfl ?_
    refine AW.bipush dX8_plain_45 (by decide) ?_
    refine AW.icmp_ge 80 dX8_plain_47 (by decide) h (fun c9 h => ?_) (fun c9 h => ?_)
    · exact AW.fewer (L' := [none, none, none]) (trivial) (hk _ h)
    · refine AW.aload_n dX8_plain_50 rfl ?_
      refine AW.tgR (k := 36) dX8_plain_51 (Nat.le_of_ble_eq_true rfl) (fun _ => rfl) q1576 rfl ia36 ?_
      refine AW.bipush dX8_plain_54 (by decide) ?_
      refine AW.iload_n dX8_plain_56 rfl ?_
      refine AW.imul dX8_plain_57 ?_
      refine AW.iload_n dX8_plain_58 rfl ?_
      refine AW.iadd dX8_plain_59 ?_
      refine AW.iconst dX8_plain_60 ?_
      refine AW.tiast (k := 36) dX8_plain_61 ia36 (Nat.le_of_ble_eq_true rfl) mt36 rfl h (fun s7 h => ?_)
      refine AW.aload_n dX8_plain_62 rfl ?_
      refine AW.tgR (k := 37) dX8_plain_63 (Nat.le_of_ble_eq_true rfl) (fun _ => rfl) q1577 rfl ia37 ?_
      refine AW.bipush dX8_plain_66 (by decide) ?_
      refine AW.iload_n dX8_plain_68 rfl ?_
      refine AW.imul dX8_plain_69 ?_
      refine AW.iload_n dX8_plain_70 rfl ?_
      refine AW.iadd dX8_plain_71 ?_
      refine AW.iconst dX8_plain_72 ?_
      refine AW.tiast (k := 37) dX8_plain_73 ia37 (Nat.le_of_ble_eq_true rfl) mt37 rfl h (fun s8 h => ?_)
      refine AW.iinc (L' := [some (rV (some b)), some (iV x1), some (iV (x2 + 1))]) dX8_plain_74 rfl (Nat.le_of_ble_eq_true rfl) rfl rfl ?_
      refine AW.goto (tgt := 44) dX8_plain_77 (by decide) ?_
      exact ih _ _ _ _ h hk
def f_X8_plain (s0 : TW) (x1 : Int) : Option (Unit × TW) :=
  (ts s0 24 x1 0).bind fun s1 => (ts s1 25 x1 0).bind fun s2 => (ts s2 28 x1 0).bind fun s3 => (ts s3 31 x1 0).bind fun s4 => (ts s4 34 x1 0).bind fun s5 => (ts s5 35 x1 0).bind fun s6 => f_X8_plain_L44 FU s6 x1 0 (fun s10 => some ((), s10))
theorem w_X8_plain {b : Nat} {σ σ0 : Hp} {w : Unit × TW} (s0 : TW) (x1 : Int) (h : f_X8_plain s0 x1 = some w) : AW m_X8_plain σ0 (tU b σ w) 0 [some (rV (some b)), some (iV x1), none] [] (insT b s0 σ) := by
  unfold f_X8_plain at h
  refine AW.aload_n dX8_plain_0 rfl ?_
  refine AW.tgR (k := 24) dX8_plain_1 (Nat.le_of_ble_eq_true rfl) (fun _ => rfl) q1564 rfl ia24 ?_
  refine AW.iload_n dX8_plain_4 rfl ?_
  refine AW.iconst dX8_plain_5 ?_
  refine AW.tiast (k := 24) dX8_plain_6 ia24 (Nat.le_of_ble_eq_true rfl) mt24 rfl h (fun s1 h => ?_)
  refine AW.aload_n dX8_plain_7 rfl ?_
  refine AW.tgR (k := 25) dX8_plain_8 (Nat.le_of_ble_eq_true rfl) (fun _ => rfl) q1565 rfl ia25 ?_
  refine AW.iload_n dX8_plain_11 rfl ?_
  refine AW.iconst dX8_plain_12 ?_
  refine AW.tiast (k := 25) dX8_plain_13 ia25 (Nat.le_of_ble_eq_true rfl) mt25 rfl h (fun s2 h => ?_)
  refine AW.aload_n dX8_plain_14 rfl ?_
  refine AW.tgR (k := 28) dX8_plain_15 (Nat.le_of_ble_eq_true rfl) (fun _ => rfl) q1568 rfl ia28 ?_
  refine AW.iload_n dX8_plain_18 rfl ?_
  refine AW.iconst dX8_plain_19 ?_
  refine AW.tiast (k := 28) dX8_plain_20 ia28 (Nat.le_of_ble_eq_true rfl) mt28 rfl h (fun s3 h => ?_)
  refine AW.aload_n dX8_plain_21 rfl ?_
  refine AW.tgR (k := 31) dX8_plain_22 (Nat.le_of_ble_eq_true rfl) (fun _ => rfl) q1571 rfl ia31 ?_
  refine AW.iload_n dX8_plain_25 rfl ?_
  refine AW.iconst dX8_plain_26 ?_
  refine AW.tiast (k := 31) dX8_plain_27 ia31 (Nat.le_of_ble_eq_true rfl) mt31 rfl h (fun s4 h => ?_)
  refine AW.aload_n dX8_plain_28 rfl ?_
  refine AW.tgR (k := 34) dX8_plain_29 (Nat.le_of_ble_eq_true rfl) (fun _ => rfl) q1574 rfl ia34 ?_
  refine AW.iload_n dX8_plain_32 rfl ?_
  refine AW.iconst dX8_plain_33 ?_
  refine AW.tiast (k := 34) dX8_plain_34 ia34 (Nat.le_of_ble_eq_true rfl) mt34 rfl h (fun s5 h => ?_)
  refine AW.aload_n dX8_plain_35 rfl ?_
  refine AW.tgR (k := 35) dX8_plain_36 (Nat.le_of_ble_eq_true rfl) (fun _ => rfl) q1575 rfl ia35 ?_
  refine AW.iload_n dX8_plain_39 rfl ?_
  refine AW.iconst dX8_plain_40 ?_
  refine AW.tiast (k := 35) dX8_plain_41 ia35 (Nat.le_of_ble_eq_true rfl) mt35 rfl h (fun s6 h => ?_)
  refine AW.iconst dX8_plain_42 ?_
  refine AW.istore_n (L' := [some (rV (some b)), some (iV x1), some (iV 0)]) dX8_plain_43 (Nat.le_of_ble_eq_true rfl) rfl rfl ?_
  refine w_X8_plain_L44 _ _ _ _ _ h (fun s10 h => ?_)
  cases h
  exact AW.vret dX8_plain_80 rfl
theorem c_X8_plain {b : Nat} {σ : Hp} {s0 : TW} {x1 : Int} {v : Unit} {s1 : TW} (h : f_X8_plain s0 x1 = some (v, s1)) : Ct m_X8_plain [rV (some b), iV x1] (insT b s0 σ) (.inl none, insT b s1 σ) :=
  Ct.of2 (w_X8_plain s0 x1 h) (by decide) rfl rfl rfl
abbrev m_X8_raise : Mi := (yX8_raise, cX8_raise, (some .boolean), 3, 5, 120, [])
theorem n_X8_raise : nameOk yX8_raise 2 := ⟨by decide, by decide, by decide +kernel⟩
def f_X8_raise (s0 : TW) (x1 : Int) (x2 : Int) : Option (Int × TW) :=
  bt_ (f_X8_isMan s0 x1) fun v2 s1 => (if nrm v2 = 0 then (some (0, s1)) else (bt_ (f_X8_in s1 x2 0 20) fun v4 s3 => (if nrm v4 = 0 then (some (0, s3)) else (bt_ (f_X8_nowOf s3 (6 + x1)) fun v6 s5 => (if ¬ nrm v6 = nrm x2 then (bt_ (f_X8_becomes s5 (6 + x1) x2) fun _ s7 => some (1, s7)) else (some (0, s5)))))))
theorem w_X8_raise {b : Nat} {σ σ0 : Hp} {w : Int × TW} (s0 : TW) (x1 : Int) (x2 : Int) (h : f_X8_raise s0 x1 x2 = some w) : AW m_X8_raise σ0 (tI b σ w) 0 [some (rV (some b)), some (iV x1), some (iV x2)] [] (insT b s0 σ) := by
  unfold f_X8_raise at h
  refine AW.aload_n dX8_raise_0 rfl ?_
  refine AW.iload_n dX8_raise_1 rfl ?_
  refine AW.tVI (M' := m_X8_isMan) [iV x1] [] dX8_raise_2 q1893 q1895 qs89 q139 q1896 rfl n_X8_isMan rfl rfl rfl (fun _ _ e => c_X8_isMan e) h (fun v2 s1 h => ?_)
  refine AW.if_eq 30 dX8_raise_5 (by decide) h (fun c10 h => ?_) (fun c10 h => ?_)
  · refine AW.iconst dX8_raise_30 ?_
    cases h
    exact AW.zret (z := 0) dX8_raise_31 rfl zz0
  · refine AW.iload_n dX8_raise_8 rfl ?_
    refine AW.iconst dX8_raise_9 ?_
    refine AW.bipush dX8_raise_10 (by decide) ?_
    refine AW.tSI (M' := m_X8_in) [iV x2, iV 0, iV 20] [] dX8_raise_12 q1897 q1898 q139 q1899 n_X8_in rfl rfl rfl (fun _ _ e => c_X8_in e) h (fun v4 s3 h => ?_)
    refine AW.if_eq 30 dX8_raise_15 (by decide) h (fun c9 h => ?_) (fun c9 h => ?_)
    · refine AW.iconst dX8_raise_30 ?_
      cases h
      exact AW.zret (z := 0) dX8_raise_31 rfl zz0
    · refine AW.aload_n dX8_raise_18 rfl ?_
      refine AW.bipush dX8_raise_19 (by decide) ?_
      refine AW.iload_n dX8_raise_21 rfl ?_
      refine AW.iadd dX8_raise_22 ?_
      refine AW.tVI (M' := m_X8_nowOf) [iV (6 + x1)] [] dX8_raise_23 q1972 q1974 qs104 q139 q1975 rfl n_X8_nowOf rfl rfl rfl (fun _ _ e => c_X8_nowOf e) h (fun v6 s5 h => ?_)
      refine AW.iload_n dX8_raise_26 rfl ?_
      refine AW.icmp_ne 32 dX8_raise_27 (by decide) h (fun c8 h => ?_) (fun c8 h => ?_)
      · refine AW.aload_n dX8_raise_32 rfl ?_
        refine AW.bipush dX8_raise_33 (by decide) ?_
        refine AW.iload_n dX8_raise_35 rfl ?_
        refine AW.iadd dX8_raise_36 ?_
        refine AW.iload_n dX8_raise_37 rfl ?_
        refine AW.tVU (M' := m_X8_becomes) [iV (6 + x1), iV x2] [] dX8_raise_38 q1976 q1978 qs105 q139 q1979 rfl n_X8_becomes rfl rfl rfl (fun _ _ e => c_X8_becomes e) h (fun _ s7 h => ?_)
        refine AW.iconst dX8_raise_41 ?_
        cases h
        exact AW.zret (z := 1) dX8_raise_42 rfl zz1
      · refine AW.iconst dX8_raise_30 ?_
        cases h
        exact AW.zret (z := 0) dX8_raise_31 rfl zz0
theorem c_X8_raise {b : Nat} {σ : Hp} {s0 : TW} {x1 : Int} {x2 : Int} {v : Int} {s1 : TW} (h : f_X8_raise s0 x1 x2 = some (v, s1)) : Ct m_X8_raise [rV (some b), iV x1, iV x2] (insT b s0 σ) (.inl (some (iV v)), insT b s1 σ) :=
  Ct.of2 (w_X8_raise s0 x1 x2 h) (by decide) rfl rfl rfl
abbrev m_X8_rankFor : Mi := (yX8_rankFor, cX8_rankFor, (some .int), 4, 3, 77, [])
theorem n_X8_rankFor : nameOk yX8_rankFor 2 := ⟨by decide, by decide, by decide +kernel⟩
def f_X8_rankFor_L58 : Nat → TW → Int → Int → Int → (TW → Option (Int × TW)) → Option (Int × TW)
  | 0, _, _, _, _, _ => none
  | n + 1, s0, x1, x2, x3, k => (if nrm 20 < nrm x3 then (k s0) else ((ta s0 33 ((8 * (s0.1 18)) + x1)).bind fun v11 => (ts s0 56 (((36 * (s0.1 57)) + 6) + v11) (nrm x3)).bind fun s12 => bt_ (f_X8_lateBy s12 x1 x3) fun v14 s13 => (if ¬ nrm ((s12.1 57) - v14) = nrm x2 then (f_X8_rankFor_L58 n s13 x1 x2 (x3 + 1) k) else (some (nrm x3, s13)))))
theorem w_X8_rankFor_L58 {b : Nat} {σ σ0 : Hp} {w : Int × TW} : ∀ (n : Nat) (s0 : TW) (x1 : Int) (x2 : Int) (x3 : Int) (k : (TW → Option (Int × TW))), f_X8_rankFor_L58 n s0 x1 x2 x3 k = some w → (∀ (s1 : TW), k s1 = some w → AW m_X8_rankFor σ0 (tI b σ w) 118 [none, none, none, none] [] (insT b s1 σ)) → AW m_X8_rankFor σ0 (tI b σ w) 58 [some (rV (some b)), some (iV x1), some (iV x2), some (iV x3)] [] (insT b s0 σ) := by
  intro n
  induction n with
  | zero =>
    intro s0 x1 x2 x3 k h hk
    rw [f_X8_rankFor_L58] at h
    cases h
  | succ n ih =>
    intro s0 x1 x2 x3 k h hk
    rw [f_X8_rankFor_L58] at h
    refine AW.iload_n dX8_rankFor_58 rfl ?_
    refine AW.bipush dX8_rankFor_59 (by decide) ?_
    refine AW.icmp_gt 118 dX8_rankFor_61 (by decide) h (fun c16 h => ?_) (fun c16 h => ?_)
    · exact AW.fewer (L' := [none, none, none, none]) (trivial) (hk _ h)
    · refine AW.aload_n dX8_rankFor_64 rfl ?_
      refine AW.tgR (k := 56) dX8_rankFor_65 (Nat.le_of_ble_eq_true rfl) (fun _ => rfl) q1596 rfl ia56 ?_
      refine AW.bipush dX8_rankFor_68 (by decide) ?_
      refine AW.aload_n dX8_rankFor_70 rfl ?_
      refine AW.tgI (k := 57) dX8_rankFor_71 (Nat.le_of_ble_eq_true rfl) (fun _ => rfl) q1597 rfl ?_
      refine AW.imul dX8_rankFor_74 ?_
      refine AW.bipush dX8_rankFor_75 (by decide) ?_
      refine AW.iadd dX8_rankFor_77 ?_
      refine AW.aload_n dX8_rankFor_78 rfl ?_
      refine AW.tgR (k := 33) dX8_rankFor_79 (Nat.le_of_ble_eq_true rfl) (fun _ => rfl) q1573 rfl ia33 ?_
      refine AW.bipush dX8_rankFor_82 (by decide) ?_
      refine AW.aload_n dX8_rankFor_84 rfl ?_
      refine AW.tgI (k := 18) dX8_rankFor_85 (Nat.le_of_ble_eq_true rfl) (fun _ => rfl) q1558 rfl ?_
      refine AW.imul dX8_rankFor_88 ?_
      refine AW.iload_n dX8_rankFor_89 rfl ?_
      refine AW.iadd dX8_rankFor_90 ?_
      refine AW.tiald (k := 33) dX8_rankFor_91 ia33 (Nat.le_of_ble_eq_true rfl) rfl h (fun v11 h => ?_)
      refine AW.iadd dX8_rankFor_92 ?_
      refine AW.iload_n dX8_rankFor_93 rfl ?_
      refine AW.nv ?_
      refine AW.tiast (k := 56) dX8_rankFor_94 ia56 (Nat.le_of_ble_eq_true rfl) mt56 rfl h (fun s12 h => ?_)
      refine AW.aload_n dX8_rankFor_95 rfl ?_
      refine AW.tgI (k := 57) dX8_rankFor_96 (Nat.le_of_ble_eq_true rfl) (fun _ => rfl) q1597 rfl ?_
      refine AW.aload_n dX8_rankFor_99 rfl ?_
      refine AW.iload_n dX8_rankFor_100 rfl ?_
      refine AW.iload_n dX8_rankFor_101 rfl ?_
      refine AW.tVI (M' := m_X8_lateBy) [iV x1, iV x3] [iV (s12.1 57)] dX8_rankFor_102 q1514 q1516 qs58 q139 q1517 rfl n_X8_lateBy rfl rfl rfl (fun _ _ e => c_X8_lateBy e) h (fun v14 s13 h => ?_)
      refine AW.isub dX8_rankFor_105 ?_
      refine AW.iload_n dX8_rankFor_106 rfl ?_
      refine AW.icmp_ne 112 dX8_rankFor_107 (by decide) h (fun c15 h => ?_) (fun c15 h => ?_)
      · refine AW.iinc (L' := [some (rV (some b)), some (iV x1), some (iV x2), some (iV (x3 + 1))]) dX8_rankFor_112 rfl (Nat.le_of_ble_eq_true rfl) rfl rfl ?_
        refine AW.goto (tgt := 58) dX8_rankFor_115 (by decide) ?_
        exact ih _ _ _ _ _ h hk
      · refine AW.iload_n dX8_rankFor_110 rfl ?_
        refine AW.nv ?_
        cases h
        exact AW.iret dX8_rankFor_111 rfl
def f_X8_rankFor (s0 : TW) (x1 : Int) (x2 : Int) : Option (Int × TW) :=
  bt_ (f_X8_isMirror s0 x1) fun v2 s1 => (if nrm v2 = 0 then (some ((-1), s1)) else (bt_ (f_X8_isPast s1 x2) fun v4 s3 => (if ¬ nrm v4 = 0 then (bt_ (f_X8_copies s3) fun _ s5 => (ta s5 58 x1).bind fun v6 => (if ¬ nrm v6 = nrm (-1) then (some ((-2), s5)) else (bt_ (f_X8_isTurned s5 x1 (s5.1 57)) fun v8 s7 => (if ¬ nrm v8 = 0 then (some ((-2), s7)) else (bt_ (f_X8_isTurned s7 x1 x2) fun v10 s9 => (if nrm v10 = 0 then (f_X8_rankFor_L58 FU s9 x1 x2 0 (fun s17 => some ((-2), s17))) else (some ((-2), s9)))))))) else (some ((-1), s3)))))
theorem w_X8_rankFor {b : Nat} {σ σ0 : Hp} {w : Int × TW} (s0 : TW) (x1 : Int) (x2 : Int) (h : f_X8_rankFor s0 x1 x2 = some w) : AW m_X8_rankFor σ0 (tI b σ w) 0 [some (rV (some b)), some (iV x1), some (iV x2), none] [] (insT b s0 σ) := by
  unfold f_X8_rankFor at h
  refine AW.aload_n dX8_rankFor_0 rfl ?_
  refine AW.iload_n dX8_rankFor_1 rfl ?_
  refine AW.tVI (M' := m_X8_isMirror) [iV x1] [] dX8_rankFor_2 q1908 q1910 qs91 q139 q1911 rfl n_X8_isMirror rfl rfl rfl (fun _ _ e => c_X8_isMirror e) h (fun v2 s1 h => ?_)
  refine AW.if_eq 16 dX8_rankFor_5 (by decide) h (fun c22 h => ?_) (fun c22 h => ?_)
  · refine AW.iconst dX8_rankFor_16 ?_
    cases h
    exact AW.iret dX8_rankFor_17 rfl
  · refine AW.aload_n dX8_rankFor_8 rfl ?_
    refine AW.iload_n dX8_rankFor_9 rfl ?_
    refine AW.tVI (M' := m_X8_isPast) [iV x2] [] dX8_rankFor_10 q1900 q1902 qs90 q139 q1903 rfl n_X8_isPast rfl rfl rfl (fun _ _ e => c_X8_isPast e) h (fun v4 s3 h => ?_)
    refine AW.if_ne 18 dX8_rankFor_13 (by decide) h (fun c21 h => ?_) (fun c21 h => ?_)
    · refine AW.aload_n dX8_rankFor_18 rfl ?_
      refine AW.tVU (M' := m_X8_copies) [] [] dX8_rankFor_19 q1912 q1914 qs92 q139 q1915 rfl n_X8_copies rfl rfl rfl (fun _ _ e => c_X8_copies e) h (fun _ s5 h => ?_)
      refine AW.aload_n dX8_rankFor_22 rfl ?_
      refine AW.tgR (k := 58) dX8_rankFor_23 (Nat.le_of_ble_eq_true rfl) (fun _ => rfl) q1598 rfl ia58 ?_
      refine AW.iload_n dX8_rankFor_26 rfl ?_
      refine AW.tiald (k := 58) dX8_rankFor_27 ia58 (Nat.le_of_ble_eq_true rfl) rfl h (fun v6 h => ?_)
      refine AW.iconst dX8_rankFor_28 ?_
      refine AW.icmp_ne 53 dX8_rankFor_29 (by decide) h (fun c20 h => ?_) (fun c20 h => ?_)
      · refine AW.bipush dX8_rankFor_53 (by decide) ?_
        cases h
        exact AW.iret dX8_rankFor_55 rfl
      · refine AW.aload_n dX8_rankFor_32 rfl ?_
        refine AW.iload_n dX8_rankFor_33 rfl ?_
        refine AW.aload_n dX8_rankFor_34 rfl ?_
        refine AW.tgI (k := 57) dX8_rankFor_35 (Nat.le_of_ble_eq_true rfl) (fun _ => rfl) q1597 rfl ?_
        refine AW.tVI (M' := m_X8_isTurned) [iV x1, iV (s5.1 57)] [] dX8_rankFor_38 q1920 q1922 qs94 q139 q1923 rfl n_X8_isTurned rfl rfl rfl (fun _ _ e => c_X8_isTurned e) h (fun v8 s7 h => ?_)
        refine AW.if_ne 53 dX8_rankFor_41 (by decide) h (fun c19 h => ?_) (fun c19 h => ?_)
        · refine AW.bipush dX8_rankFor_53 (by decide) ?_
          cases h
          exact AW.iret dX8_rankFor_55 rfl
        · refine AW.aload_n dX8_rankFor_44 rfl ?_
          refine AW.iload_n dX8_rankFor_45 rfl ?_
          refine AW.iload_n dX8_rankFor_46 rfl ?_
          refine AW.tVI (M' := m_X8_isTurned) [iV x1, iV x2] [] dX8_rankFor_47 q1920 q1922 qs94 q139 q1923 rfl n_X8_isTurned rfl rfl rfl (fun _ _ e => c_X8_isTurned e) h (fun v10 s9 h => ?_)
          refine AW.if_eq 56 dX8_rankFor_50 (by decide) h (fun c18 h => ?_) (fun c18 h => ?_)
          · refine AW.iconst dX8_rankFor_56 ?_
            refine AW.istore_n (L' := [some (rV (some b)), some (iV x1), some (iV x2), some (iV 0)]) dX8_rankFor_57 (Nat.le_of_ble_eq_true rfl) rfl rfl ?_
            refine w_X8_rankFor_L58 _ _ _ _ _ _ h (fun s17 h => ?_)
            refine AW.bipush dX8_rankFor_118 (by decide) ?_
            cases h
            exact AW.iret dX8_rankFor_120 rfl
          · refine AW.bipush dX8_rankFor_53 (by decide) ?_
            cases h
            exact AW.iret dX8_rankFor_55 rfl
    · refine AW.iconst dX8_rankFor_16 ?_
      cases h
      exact AW.iret dX8_rankFor_17 rfl
theorem c_X8_rankFor {b : Nat} {σ : Hp} {s0 : TW} {x1 : Int} {x2 : Int} {v : Int} {s1 : TW} (h : f_X8_rankFor s0 x1 x2 = some (v, s1)) : Ct m_X8_rankFor [rV (some b), iV x1, iV x2] (insT b s0 σ) (.inl (some (iV v)), insT b s1 σ) :=
  Ct.of2 (w_X8_rankFor s0 x1 x2 h) (by decide) rfl rfl rfl
abbrev m_X8_roomFor : Mi := (yX8_roomFor, cX8_roomFor, none, 3, 2, 41, [])
theorem n_X8_roomFor : nameOk yX8_roomFor 2 := ⟨by decide, by decide, by decide +kernel⟩
def f_X8_roomFor (s0 : TW) (x1 : Int) (x2 : Int) : Option (Unit × TW) :=
  jn (fun (s1 : TW) => (if ¬ nrm (s1.1 13) = 0 then (some ((), s1)) else (bt_ (f_X8_goesOn s1) fun _ s2 => some ((), s2)))) fun j10 => (if ¬ nrm x1 = nrm x2 then (j10 s0) else (bt_ (f_X8_fail s0 2) fun _ s4 => j10 s4))
theorem w_X8_roomFor {b : Nat} {σ σ0 : Hp} {w : Unit × TW} (s0 : TW) (x1 : Int) (x2 : Int) (h : f_X8_roomFor s0 x1 x2 = some w) : AW m_X8_roomFor σ0 (tU b σ w) 0 [some (rV (some b)), some (iV x1), some (iV x2)] [] (insT b s0 σ) := by
  unfold f_X8_roomFor at h
  refine AW.iload_n dX8_roomFor_0 rfl ?_
  refine AW.iload_n dX8_roomFor_1 rfl ?_
  refine jn_elim h (fun (j : (TW → Option (Unit × TW))) => ∀ (s1 : TW), j s1 = some w → AW m_X8_roomFor σ0 (tU b σ w) 10 [some (rV (some b)), none, none] [] (insT b s1 σ)) ?_ (fun j10 hj10 h => ?_)
  · intro s1 h
    refine AW.aload_n dX8_roomFor_10 rfl ?_
    refine AW.tgI (k := 13) dX8_roomFor_11 (Nat.le_of_ble_eq_true rfl) (fun _ => rfl) q1553 rfl ?_
    refine AW.if_ne 21 dX8_roomFor_14 (by decide) h (fun c3 h => ?_) (fun c3 h => ?_)
    · cases h
      exact AW.vret dX8_roomFor_21 rfl
    · refine AW.aload_n dX8_roomFor_17 rfl ?_
      refine AW.tVU (M' := m_X8_goesOn) [] [] dX8_roomFor_18 q1821 q1823 qs73 q139 q1824 rfl n_X8_goesOn rfl rfl rfl (fun _ _ e => c_X8_goesOn e) h (fun _ s2 h => ?_)
      cases h
      exact AW.vret dX8_roomFor_21 rfl
  · refine AW.icmp_ne 10 dX8_roomFor_2 (by decide) h (fun c5 h => ?_) (fun c5 h => ?_)
    · exact AW.fewer (L' := [some (rV (some b)), none, none]) (And.intro rfl trivial) (hj10 _ h)
    · refine AW.aload_n dX8_roomFor_5 rfl ?_
      refine AW.iconst dX8_roomFor_6 ?_
      refine AW.tVU (M' := m_X8_fail) [iV 2] [] dX8_roomFor_7 q1817 q1819 qs72 q139 q1820 rfl n_X8_fail rfl rfl rfl (fun _ _ e => c_X8_fail e) h (fun _ s4 h => ?_)
      exact AW.fewer (L' := [some (rV (some b)), none, none]) (And.intro rfl trivial) (hj10 _ h)
theorem c_X8_roomFor {b : Nat} {σ : Hp} {s0 : TW} {x1 : Int} {x2 : Int} {v : Unit} {s1 : TW} (h : f_X8_roomFor s0 x1 x2 = some (v, s1)) : Ct m_X8_roomFor [rV (some b), iV x1, iV x2] (insT b s0 σ) (.inl none, insT b s1 σ) :=
  Ct.of2 (w_X8_roomFor s0 x1 x2 h) (by decide) rfl rfl rfl
abbrev m_X8_tellDoor : Mi := (yX8_tellDoor, cX8_tellDoor, none, 3, 4, 85, [])
theorem n_X8_tellDoor : nameOk yX8_tellDoor 0 := ⟨by decide, by decide, by decide +kernel⟩
def f_X8_tellDoor (s0 : TW) : Option (Unit × TW) :=
  (ta s0 25 (s0.1 19)).bind fun v1 => bt_ (f_X8_known s0 0) fun v3 s2 => (ts s2 26 ((12 * (s0.1 19)) + v1) v3).bind fun s4 => bt_ (f_X8_known s4 0) fun v6 s5 => (ts s5 27 ((12 * (s0.1 19)) + v1) v6).bind fun s7 => jn (fun (s8 : TW) => bt_ (f_X8_must s8 4) fun _ s9 => (if ¬ nrm (s9.1 13) = 0 then (some ((), s9)) else ((ta s9 25 (s9.1 19)).bind fun v10 => (ts s9 25 (s9.1 19) (nrm (v10 + 1))).bind fun s11 => some ((), s11)))) fun j82 => (if ¬ nrm (s7.1 13) = 0 then (j82 s7) else ((ta s7 27 ((12 * (s0.1 19)) + v1)).bind fun v13 => (if nrm v13 < 0 then (j82 s7) else ((ta s7 27 ((12 * (s0.1 19)) + v1)).bind fun v14 => (ta s7 26 ((12 * (s0.1 19)) + v1)).bind fun v15 => (if ¬ nrm v14 = nrm v15 then (j82 s7) else (bt_ (f_X8_wrong s7 3 (s4.1 11)) fun _ s16 => j82 s16))))))
theorem w_X8_tellDoor {b : Nat} {σ σ0 : Hp} {w : Unit × TW} (s0 : TW) (h : f_X8_tellDoor s0 = some w) : AW m_X8_tellDoor σ0 (tU b σ w) 0 [some (rV (some b)), none, none] [] (insT b s0 σ) := by
  unfold f_X8_tellDoor at h
  refine AW.bipush dX8_tellDoor_0 (by decide) ?_
  refine AW.aload_n dX8_tellDoor_2 rfl ?_
  refine AW.tgI (k := 19) dX8_tellDoor_3 (Nat.le_of_ble_eq_true rfl) (fun _ => rfl) q1559 rfl ?_
  refine AW.imul dX8_tellDoor_6 ?_
  refine AW.aload_n dX8_tellDoor_7 rfl ?_
  refine AW.tgR (k := 25) dX8_tellDoor_8 (Nat.le_of_ble_eq_true rfl) (fun _ => rfl) q1565 rfl ia25 ?_
  refine AW.aload_n dX8_tellDoor_11 rfl ?_
  refine AW.tgI (k := 19) dX8_tellDoor_12 (Nat.le_of_ble_eq_true rfl) (fun _ => rfl) q1559 rfl ?_
  refine AW.tiald (k := 25) dX8_tellDoor_15 ia25 (Nat.le_of_ble_eq_true rfl) rfl h (fun v1 h => ?_)
  refine AW.iadd dX8_tellDoor_16 ?_
  refine AW.istore_n (L' := [some (rV (some b)), some (iV ((12 * (s0.1 19)) + v1)), none]) dX8_tellDoor_17 (Nat.le_of_ble_eq_true rfl) rfl rfl ?_
  refine AW.aload_n dX8_tellDoor_18 rfl ?_
  refine AW.tgR (k := 26) dX8_tellDoor_19 (Nat.le_of_ble_eq_true rfl) (fun _ => rfl) q1566 rfl ia26 ?_
  refine AW.iload_n dX8_tellDoor_22 rfl ?_
  refine AW.aload_n dX8_tellDoor_23 rfl ?_
  refine AW.iconst dX8_tellDoor_24 ?_
  refine AW.tVI (M' := m_X8_known) [iV 0] [iV ((12 * (s0.1 19)) + v1), rV (some (b + tof 26))] dX8_tellDoor_25 q1845 q1847 qs79 q139 q1848 rfl n_X8_known rfl rfl rfl (fun _ _ e => c_X8_known e) h (fun v3 s2 h => ?_)
  refine AW.tiast (k := 26) dX8_tellDoor_28 ia26 (Nat.le_of_ble_eq_true rfl) mt26 rfl h (fun s4 h => ?_)
  refine AW.aload_n dX8_tellDoor_29 rfl ?_
  refine AW.tgI (k := 11) dX8_tellDoor_30 (Nat.le_of_ble_eq_true rfl) (fun _ => rfl) q1551 rfl ?_
  refine AW.istore_n (L' := [some (rV (some b)), some (iV ((12 * (s0.1 19)) + v1)), some (iV (s4.1 11))]) dX8_tellDoor_33 (Nat.le_of_ble_eq_true rfl) rfl rfl ?_
  refine AW.aload_n dX8_tellDoor_34 rfl ?_
  refine AW.tgR (k := 27) dX8_tellDoor_35 (Nat.le_of_ble_eq_true rfl) (fun _ => rfl) q1567 rfl ia27 ?_
  refine AW.iload_n dX8_tellDoor_38 rfl ?_
  refine AW.aload_n dX8_tellDoor_39 rfl ?_
  refine AW.iconst dX8_tellDoor_40 ?_
  refine AW.tVI (M' := m_X8_known) [iV 0] [iV ((12 * (s0.1 19)) + v1), rV (some (b + tof 27))] dX8_tellDoor_41 q1845 q1847 qs79 q139 q1848 rfl n_X8_known rfl rfl rfl (fun _ _ e => c_X8_known e) h (fun v6 s5 h => ?_)
  refine AW.tiast (k := 27) dX8_tellDoor_44 ia27 (Nat.le_of_ble_eq_true rfl) mt27 rfl h (fun s7 h => ?_)
  refine AW.aload_n dX8_tellDoor_45 rfl ?_
  refine AW.tgI (k := 13) dX8_tellDoor_46 (Nat.le_of_ble_eq_true rfl) (fun _ => rfl) q1553 rfl ?_
  refine jn_elim h (fun (j : (TW → Option (Unit × TW))) => ∀ (s8 : TW), j s8 = some w → AW m_X8_tellDoor σ0 (tU b σ w) 82 [some (rV (some b)), none, none] [] (insT b s8 σ)) ?_ (fun j82 hj82 h => ?_)
  · intro s8 h
    refine AW.aload_n dX8_tellDoor_82 rfl ?_
    refine AW.iconst dX8_tellDoor_83 ?_
    refine AW.tVU (M' := m_X8_must) [iV 4] [] dX8_tellDoor_84 q1829 q1831 qs75 q139 q1832 rfl n_X8_must rfl rfl rfl (fun _ _ e => c_X8_must e) h (fun _ s9 h => ?_)
    refine AW.aload_n dX8_tellDoor_87 rfl ?_
    refine AW.tgI (k := 13) dX8_tellDoor_88 (Nat.le_of_ble_eq_true rfl) (fun _ => rfl) q1553 rfl ?_
    refine AW.if_ne 107 dX8_tellDoor_91 (by decide) h (fun c12 h => ?_) (fun c12 h => ?_)
    · cases h
      exact AW.vret dX8_tellDoor_107 rfl
    · refine AW.aload_n dX8_tellDoor_94 rfl ?_
      refine AW.tgR (k := 25) dX8_tellDoor_95 (Nat.le_of_ble_eq_true rfl) (fun _ => rfl) q1565 rfl ia25 ?_
      refine AW.aload_n dX8_tellDoor_98 rfl ?_
      refine AW.tgI (k := 19) dX8_tellDoor_99 (Nat.le_of_ble_eq_true rfl) (fun _ => rfl) q1559 rfl ?_
      refine AW.dup2 dX8_tellDoor_102 ?_
      refine AW.tiald (k := 25) dX8_tellDoor_103 ia25 (Nat.le_of_ble_eq_true rfl) rfl h (fun v10 h => ?_)
      refine AW.iconst dX8_tellDoor_104 ?_
      refine AW.iadd dX8_tellDoor_105 ?_
      refine AW.nv ?_
      refine AW.tiast (k := 25) dX8_tellDoor_106 ia25 (Nat.le_of_ble_eq_true rfl) mt25 rfl h (fun s11 h => ?_)
      cases h
      exact AW.vret dX8_tellDoor_107 rfl
  · refine AW.if_ne 82 dX8_tellDoor_49 (by decide) h (fun c19 h => ?_) (fun c19 h => ?_)
    · exact AW.fewer (L' := [some (rV (some b)), none, none]) (And.intro rfl trivial) (hj82 _ h)
    · refine AW.aload_n dX8_tellDoor_52 rfl ?_
      refine AW.tgR (k := 27) dX8_tellDoor_53 (Nat.le_of_ble_eq_true rfl) (fun _ => rfl) q1567 rfl ia27 ?_
      refine AW.iload_n dX8_tellDoor_56 rfl ?_
      refine AW.tiald (k := 27) dX8_tellDoor_57 ia27 (Nat.le_of_ble_eq_true rfl) rfl h (fun v13 h => ?_)
      refine AW.if_lt 82 dX8_tellDoor_58 (by decide) h (fun c18 h => ?_) (fun c18 h => ?_)
      · exact AW.fewer (L' := [some (rV (some b)), none, none]) (And.intro rfl trivial) (hj82 _ h)
      · refine AW.aload_n dX8_tellDoor_61 rfl ?_
        refine AW.tgR (k := 27) dX8_tellDoor_62 (Nat.le_of_ble_eq_true rfl) (fun _ => rfl) q1567 rfl ia27 ?_
        refine AW.iload_n dX8_tellDoor_65 rfl ?_
        refine AW.tiald (k := 27) dX8_tellDoor_66 ia27 (Nat.le_of_ble_eq_true rfl) rfl h (fun v14 h => ?_)
        refine AW.aload_n dX8_tellDoor_67 rfl ?_
        refine AW.tgR (k := 26) dX8_tellDoor_68 (Nat.le_of_ble_eq_true rfl) (fun _ => rfl) q1566 rfl ia26 ?_
        refine AW.iload_n dX8_tellDoor_71 rfl ?_
        refine AW.tiald (k := 26) dX8_tellDoor_72 ia26 (Nat.le_of_ble_eq_true rfl) rfl h (fun v15 h => ?_)
        refine AW.icmp_ne 82 dX8_tellDoor_73 (by decide) h (fun c17 h => ?_) (fun c17 h => ?_)
        · exact AW.fewer (L' := [some (rV (some b)), none, none]) (And.intro rfl trivial) (hj82 _ h)
        · refine AW.aload_n dX8_tellDoor_76 rfl ?_
          refine AW.iconst dX8_tellDoor_77 ?_
          refine AW.iload_n dX8_tellDoor_78 rfl ?_
          refine AW.tVU (M' := m_X8_wrong) [iV 3, iV (s4.1 11)] [] dX8_tellDoor_79 q1833 q1835 qs76 q139 q1836 rfl n_X8_wrong rfl rfl rfl (fun _ _ e => c_X8_wrong e) h (fun _ s16 h => ?_)
          exact AW.fewer (L' := [some (rV (some b)), none, none]) (And.intro rfl trivial) (hj82 _ h)
theorem c_X8_tellDoor {b : Nat} {σ : Hp} {s0 : TW} {v : Unit} {s1 : TW} (h : f_X8_tellDoor s0 = some (v, s1)) : Ct m_X8_tellDoor [rV (some b)] (insT b s0 σ) (.inl none, insT b s1 σ) :=
  Ct.of2 (w_X8_tellDoor s0 h) (by decide) rfl rfl rfl
abbrev m_X8_tellMan : Mi := (yX8_tellMan, cX8_tellMan, none, 3, 4, 85, [])
theorem n_X8_tellMan : nameOk yX8_tellMan 0 := ⟨by decide, by decide, by decide +kernel⟩
def f_X8_tellMan (s0 : TW) : Option (Unit × TW) :=
  (ta s0 28 (s0.1 19)).bind fun v1 => bt_ (f_X8_named s0) fun v3 s2 => bt_ (f_X8_bounded s2 0 20) fun v5 s4 => (ts s4 29 ((6 * (s0.1 19)) + v1) v5).bind fun s6 => bt_ (f_X8_known s6 0) fun v8 s7 => (ts s7 30 ((6 * (s0.1 19)) + v1) v8).bind fun s9 => bt_ (f_X8_must s9 4) fun _ s10 => (if nrm (s10.1 13) ≤ 0 then ((ta s10 28 (s10.1 19)).bind fun v11 => bt_ (f_X8_notes s10 v3 1 v11) fun _ s12 => (ta s12 28 (s12.1 19)).bind fun v13 => (ts s12 28 (s12.1 19) (nrm (v13 + 1))).bind fun s14 => some ((), s14)) else (some ((), s10)))
theorem w_X8_tellMan {b : Nat} {σ σ0 : Hp} {w : Unit × TW} (s0 : TW) (h : f_X8_tellMan s0 = some w) : AW m_X8_tellMan σ0 (tU b σ w) 0 [some (rV (some b)), none, none] [] (insT b s0 σ) := by
  unfold f_X8_tellMan at h
  refine AW.bipush dX8_tellMan_0 (by decide) ?_
  refine AW.aload_n dX8_tellMan_2 rfl ?_
  refine AW.tgI (k := 19) dX8_tellMan_3 (Nat.le_of_ble_eq_true rfl) (fun _ => rfl) q1559 rfl ?_
  refine AW.imul dX8_tellMan_6 ?_
  refine AW.aload_n dX8_tellMan_7 rfl ?_
  refine AW.tgR (k := 28) dX8_tellMan_8 (Nat.le_of_ble_eq_true rfl) (fun _ => rfl) q1568 rfl ia28 ?_
  refine AW.aload_n dX8_tellMan_11 rfl ?_
  refine AW.tgI (k := 19) dX8_tellMan_12 (Nat.le_of_ble_eq_true rfl) (fun _ => rfl) q1559 rfl ?_
  refine AW.tiald (k := 28) dX8_tellMan_15 ia28 (Nat.le_of_ble_eq_true rfl) rfl h (fun v1 h => ?_)
  refine AW.iadd dX8_tellMan_16 ?_
  refine AW.istore_n (L' := [some (rV (some b)), some (iV ((6 * (s0.1 19)) + v1)), none]) dX8_tellMan_17 (Nat.le_of_ble_eq_true rfl) rfl rfl ?_
  refine AW.aload_n dX8_tellMan_18 rfl ?_
  refine AW.tVI (M' := m_X8_named) [] [] dX8_tellMan_19 q1825 q1827 qs74 q139 q1828 rfl n_X8_named rfl rfl rfl (fun _ _ e => c_X8_named e) h (fun v3 s2 h => ?_)
  refine AW.istore_n (L' := [some (rV (some b)), some (iV ((6 * (s0.1 19)) + v1)), some (iV v3)]) dX8_tellMan_22 (Nat.le_of_ble_eq_true rfl) rfl rfl ?_
  refine AW.aload_n dX8_tellMan_23 rfl ?_
  refine AW.tgR (k := 29) dX8_tellMan_24 (Nat.le_of_ble_eq_true rfl) (fun _ => rfl) q1569 rfl ia29 ?_
  refine AW.iload_n dX8_tellMan_27 rfl ?_
  refine AW.aload_n dX8_tellMan_28 rfl ?_
  refine AW.iconst dX8_tellMan_29 ?_
  refine AW.bipush dX8_tellMan_30 (by decide) ?_
  refine AW.tVI (M' := m_X8_bounded) [iV 0, iV 20] [iV ((6 * (s0.1 19)) + v1), rV (some (b + tof 29))] dX8_tellMan_32 q1853 q1855 qs81 q139 q1856 rfl n_X8_bounded rfl rfl rfl (fun _ _ e => c_X8_bounded e) h (fun v5 s4 h => ?_)
  refine AW.tiast (k := 29) dX8_tellMan_35 ia29 (Nat.le_of_ble_eq_true rfl) mt29 rfl h (fun s6 h => ?_)
  refine AW.aload_n dX8_tellMan_36 rfl ?_
  refine AW.tgR (k := 30) dX8_tellMan_37 (Nat.le_of_ble_eq_true rfl) (fun _ => rfl) q1570 rfl ia30 ?_
  refine AW.iload_n dX8_tellMan_40 rfl ?_
  refine AW.aload_n dX8_tellMan_41 rfl ?_
  refine AW.iconst dX8_tellMan_42 ?_
  refine AW.tVI (M' := m_X8_known) [iV 0] [iV ((6 * (s0.1 19)) + v1), rV (some (b + tof 30))] dX8_tellMan_43 q1845 q1847 qs79 q139 q1848 rfl n_X8_known rfl rfl rfl (fun _ _ e => c_X8_known e) h (fun v8 s7 h => ?_)
  refine AW.tiast (k := 30) dX8_tellMan_46 ia30 (Nat.le_of_ble_eq_true rfl) mt30 rfl h (fun s9 h => ?_)
  refine AW.aload_n dX8_tellMan_47 rfl ?_
  refine AW.iconst dX8_tellMan_48 ?_
  refine AW.tVU (M' := m_X8_must) [iV 4] [] dX8_tellMan_49 q1829 q1831 qs75 q139 q1832 rfl n_X8_must rfl rfl rfl (fun _ _ e => c_X8_must e) h (fun _ s10 h => ?_)
  refine AW.aload_n dX8_tellMan_52 rfl ?_
  refine AW.tgI (k := 13) dX8_tellMan_53 (Nat.le_of_ble_eq_true rfl) (fun _ => rfl) q1553 rfl ?_
  refine AW.if_le 60 dX8_tellMan_56 (by decide) h (fun c15 h => ?_) (fun c15 h => ?_)
  · refine AW.aload_n dX8_tellMan_60 rfl ?_
    refine AW.iload_n dX8_tellMan_61 rfl ?_
    refine AW.iconst dX8_tellMan_62 ?_
    refine AW.aload_n dX8_tellMan_63 rfl ?_
    refine AW.tgR (k := 28) dX8_tellMan_64 (Nat.le_of_ble_eq_true rfl) (fun _ => rfl) q1568 rfl ia28 ?_
    refine AW.aload_n dX8_tellMan_67 rfl ?_
    refine AW.tgI (k := 19) dX8_tellMan_68 (Nat.le_of_ble_eq_true rfl) (fun _ => rfl) q1559 rfl ?_
    refine AW.tiald (k := 28) dX8_tellMan_71 ia28 (Nat.le_of_ble_eq_true rfl) rfl h (fun v11 h => ?_)
    refine AW.tVU (M' := m_X8_notes) [iV v3, iV 1, iV v11] [] dX8_tellMan_72 q1837 q1839 qs77 q139 q1840 rfl n_X8_notes rfl rfl rfl (fun _ _ e => c_X8_notes e) h (fun _ s12 h => ?_)
    refine AW.aload_n dX8_tellMan_75 rfl ?_
    refine AW.tgR (k := 28) dX8_tellMan_76 (Nat.le_of_ble_eq_true rfl) (fun _ => rfl) q1568 rfl ia28 ?_
    refine AW.aload_n dX8_tellMan_79 rfl ?_
    refine AW.tgI (k := 19) dX8_tellMan_80 (Nat.le_of_ble_eq_true rfl) (fun _ => rfl) q1559 rfl ?_
    refine AW.dup2 dX8_tellMan_83 ?_
    refine AW.tiald (k := 28) dX8_tellMan_84 ia28 (Nat.le_of_ble_eq_true rfl) rfl h (fun v13 h => ?_)
    refine AW.iconst dX8_tellMan_85 ?_
    refine AW.iadd dX8_tellMan_86 ?_
    refine AW.nv ?_
    refine AW.tiast (k := 28) dX8_tellMan_87 ia28 (Nat.le_of_ble_eq_true rfl) mt28 rfl h (fun s14 h => ?_)
    cases h
    exact AW.vret dX8_tellMan_88 rfl
  · cases h
    exact AW.vret dX8_tellMan_59 rfl
theorem c_X8_tellMan {b : Nat} {σ : Hp} {s0 : TW} {v : Unit} {s1 : TW} (h : f_X8_tellMan s0 = some (v, s1)) : Ct m_X8_tellMan [rV (some b)] (insT b s0 σ) (.inl none, insT b s1 σ) :=
  Ct.of2 (w_X8_tellMan s0 h) (by decide) rfl rfl rfl
abbrev m_X8_term : Mi := (yX8_term, cX8_term, none, 1, 4, 83, [])
theorem n_X8_term : nameOk yX8_term 0 := ⟨by decide, by decide, by decide +kernel⟩
def f_X8_term (s0 : TW) : Option (Unit × TW) :=
  (ts s0 42 (s0.1 38) (s0.1 44)).bind fun s1 => jn (fun (s2 : TW) => (ts s2 43 (s2.1 38) (s2.1 44)).bind fun s3 => bd (tp s3 38 (nrm ((s3.1 38) + 1))) fun s4 => some ((), s4)) fun j24 => (if ¬ nrm (s1.1 13) = 0 then (j24 s1) else (bt_ (f_X8_expression s1) fun _ s5 => j24 s5))
theorem w_X8_term {b : Nat} {σ σ0 : Hp} {w : Unit × TW} (s0 : TW) (h : f_X8_term s0 = some w) : AW m_X8_term σ0 (tU b σ w) 0 [some (rV (some b))] [] (insT b s0 σ) := by
  unfold f_X8_term at h
  refine AW.aload_n dX8_term_0 rfl ?_
  refine AW.tgR (k := 42) dX8_term_1 (Nat.le_of_ble_eq_true rfl) (fun _ => rfl) q1582 rfl ia42 ?_
  refine AW.aload_n dX8_term_4 rfl ?_
  refine AW.tgI (k := 38) dX8_term_5 (Nat.le_of_ble_eq_true rfl) (fun _ => rfl) q1578 rfl ?_
  refine AW.aload_n dX8_term_8 rfl ?_
  refine AW.tgI (k := 44) dX8_term_9 (Nat.le_of_ble_eq_true rfl) (fun _ => rfl) q1584 rfl ?_
  refine AW.tiast (k := 42) dX8_term_12 ia42 (Nat.le_of_ble_eq_true rfl) mt42 rfl h (fun s1 h => ?_)
  refine AW.aload_n dX8_term_13 rfl ?_
  refine AW.tgI (k := 13) dX8_term_14 (Nat.le_of_ble_eq_true rfl) (fun _ => rfl) q1553 rfl ?_
  refine jn_elim h (fun (j : (TW → Option (Unit × TW))) => ∀ (s2 : TW), j s2 = some w → AW m_X8_term σ0 (tU b σ w) 24 [some (rV (some b))] [] (insT b s2 σ)) ?_ (fun j24 hj24 h => ?_)
  · intro s2 h
    refine AW.aload_n dX8_term_24 rfl ?_
    refine AW.tgR (k := 43) dX8_term_25 (Nat.le_of_ble_eq_true rfl) (fun _ => rfl) q1583 rfl ia43 ?_
    refine AW.aload_n dX8_term_28 rfl ?_
    refine AW.tgI (k := 38) dX8_term_29 (Nat.le_of_ble_eq_true rfl) (fun _ => rfl) q1578 rfl ?_
    refine AW.aload_n dX8_term_32 rfl ?_
    refine AW.tgI (k := 44) dX8_term_33 (Nat.le_of_ble_eq_true rfl) (fun _ => rfl) q1584 rfl ?_
    refine AW.tiast (k := 43) dX8_term_36 ia43 (Nat.le_of_ble_eq_true rfl) mt43 rfl h (fun s3 h => ?_)
    refine AW.aload_n dX8_term_37 rfl ?_
    refine AW.dupR dX8_term_38 ?_
    refine AW.tgI (k := 38) dX8_term_39 (Nat.le_of_ble_eq_true rfl) (fun _ => rfl) q1578 rfl ?_
    refine AW.iconst dX8_term_42 ?_
    refine AW.iadd dX8_term_43 ?_
    refine AW.nv ?_
    refine AW.tpB (k := 38) dX8_term_44 (Nat.le_of_ble_eq_true rfl) rfl q1578 rfl rfl h (fun s4 h => ?_)
    cases h
    exact AW.vret dX8_term_47 rfl
  · refine AW.if_ne 24 dX8_term_17 (by decide) h (fun c6 h => ?_) (fun c6 h => ?_)
    · exact hj24 _ h
    · refine AW.aload_n dX8_term_20 rfl ?_
      refine AW.tVU (M' := m_X8_expression) [] [] dX8_term_21 q1861 q1863 qs83 q139 q1864 rfl n_X8_expression rfl rfl rfl (fun _ _ e => c_X8_expression e) h (fun _ s5 h => ?_)
      exact hj24 _ h
theorem c_X8_term {b : Nat} {σ : Hp} {s0 : TW} {v : Unit} {s1 : TW} (h : f_X8_term s0 = some (v, s1)) : Ct m_X8_term [rV (some b)] (insT b s0 σ) (.inl none, insT b s1 σ) :=
  Ct.of2 (w_X8_term s0 h) (by decide) rfl rfl rfl
abbrev m_X8_tellLaw : Mi := (yX8_tellLaw, cX8_tellLaw, none, 4, 5, 103, [])
theorem n_X8_tellLaw : nameOk yX8_tellLaw 1 := ⟨by decide, by decide, by decide +kernel⟩
def f_X8_tellLaw_L12 : Nat → TW → Int → Int → Int → (TW → Int → Int → Option (Unit × TW)) → Option (Unit × TW)
  | 0, _, _, _, _, _ => none
  | n + 1, s0, x1, x2, x3, k => (if ¬ nrm (s0.1 13) = 0 then (k s0 x1 x2) else (bt_ (f_X8_is s0 28) fun v3 s2 => (if nrm v3 = 0 then (k s2 x1 x2) else (jn (fun (s4 : TW) (x1 : Int) (x2 : Int) (x3 : Int) => (if nrm (s4.1 13) ≤ 0 then (bt_ (f_X8_goesOn s4) fun _ s5 => (ts s5 39 (s5.1 38) (b1I 1)).bind fun s6 => (ts s6 40 (s6.1 38) (s6.1 44)).bind fun s7 => bt_ (f_X8_expression s7) fun _ s8 => bt_ (f_X8_must s8 13) fun _ s9 => (ts s9 41 (s9.1 38) (s9.1 44)).bind fun s10 => jn (fun (s11 : TW) (x1 : Int) (x2 : Int) (x3 : Int) => bt_ (f_X8_must s11 29) fun _ s12 => bt_ (f_X8_term s12) fun _ s13 => bt_ (f_X8_must s13 30) fun _ s14 => f_X8_tellLaw_L12 n s14 x1 x2 x3 k) fun j110 => (if ¬ nrm (s10.1 13) = 0 then (j110 s10 x1 x2 (x3 + 1)) else (bt_ (f_X8_expression s10) fun _ s15 => j110 s15 x1 x2 (x3 + 1)))) else (some ((), s4)))) fun j38 => (if ¬ nrm x3 = nrm 4 then (j38 s2 x1 x2 x3) else (bt_ (f_X8_fail s2 2) fun _ s18 => j38 s18 x1 x2 x3))))))
theorem w_X8_tellLaw_L12 {b : Nat} {σ σ0 : Hp} {w : Unit × TW} : ∀ (n : Nat) (s0 : TW) (x1 : Int) (x2 : Int) (x3 : Int) (k : (TW → Int → Int → Option (Unit × TW))), f_X8_tellLaw_L12 n s0 x1 x2 x3 k = some w → (∀ (s1 : TW) (x1 : Int) (x2 : Int), k s1 x1 x2 = some w → AW m_X8_tellLaw σ0 (tU b σ w) 129 [some (rV (some b)), some (iV x1), some (iV x2), none] [] (insT b s1 σ)) → AW m_X8_tellLaw σ0 (tU b σ w) 12 [some (rV (some b)), some (iV x1), some (iV x2), some (iV x3)] [] (insT b s0 σ) := by
  intro n
  induction n with
  | zero =>
    intro s0 x1 x2 x3 k h hk
    rw [f_X8_tellLaw_L12] at h
    cases h
  | succ n ih =>
    intro s0 x1 x2 x3 k h hk
    rw [f_X8_tellLaw_L12] at h
    refine AW.aload_n dX8_tellLaw_12 rfl ?_
    refine AW.tgI (k := 13) dX8_tellLaw_13 (Nat.le_of_ble_eq_true rfl) (fun _ => rfl) q1553 rfl ?_
    refine AW.if_ne 129 dX8_tellLaw_16 (by decide) h (fun c21 h => ?_) (fun c21 h => ?_)
    · exact AW.fewer (L' := [some (rV (some b)), some (iV x1), some (iV x2), none]) (And.intro rfl (And.intro rfl (And.intro rfl trivial))) (hk _ _ _ h)
    · refine AW.aload_n dX8_tellLaw_19 rfl ?_
      refine AW.bipush dX8_tellLaw_20 (by decide) ?_
      refine AW.tVI (M' := m_X8_is) [iV 28] [] dX8_tellLaw_22 q1805 q1807 qs69 q139 q1808 rfl n_X8_is rfl rfl rfl (fun _ _ e => c_X8_is e) h (fun v3 s2 h => ?_)
      refine AW.if_eq 129 dX8_tellLaw_25 (by decide) h (fun c20 h => ?_) (fun c20 h => ?_)
      · exact AW.fewer (L' := [some (rV (some b)), some (iV x1), some (iV x2), none]) (And.intro rfl (And.intro rfl (And.intro rfl trivial))) (hk _ _ _ h)
      · refine AW.iload_n dX8_tellLaw_28 rfl ?_
        refine AW.iconst dX8_tellLaw_29 ?_
        refine jn_elim h (fun (j : (TW → Int → Int → Int → Option (Unit × TW))) => ∀ (s4 : TW) (x1 : Int) (x2 : Int) (x3 : Int), j s4 x1 x2 x3 = some w → AW m_X8_tellLaw σ0 (tU b σ w) 38 [some (rV (some b)), some (iV x1), some (iV x2), some (iV x3)] [] (insT b s4 σ)) ?_ (fun j38 hj38 h => ?_)
        · intro s4 x1 x2 x3 h
          refine AW.aload_n dX8_tellLaw_38 rfl ?_
          refine AW.tgI (k := 13) dX8_tellLaw_39 (Nat.le_of_ble_eq_true rfl) (fun _ => rfl) q1553 rfl ?_
          refine AW.if_le 46 dX8_tellLaw_42 (by decide) h (fun c17 h => ?_) (fun c17 h => ?_)
          · refine AW.iinc (L' := [some (rV (some b)), some (iV x1), some (iV x2), some (iV (x3 + 1))]) dX8_tellLaw_46 rfl (Nat.le_of_ble_eq_true rfl) rfl rfl ?_
            refine AW.aload_n dX8_tellLaw_49 rfl ?_
            refine AW.tVU (M' := m_X8_goesOn) [] [] dX8_tellLaw_50 q1821 q1823 qs73 q139 q1824 rfl n_X8_goesOn rfl rfl rfl (fun _ _ e => c_X8_goesOn e) h (fun _ s5 h => ?_)
            refine AW.aload_n dX8_tellLaw_53 rfl ?_
            refine AW.tgR (k := 39) dX8_tellLaw_54 (Nat.le_of_ble_eq_true rfl) (fun _ => rfl) q1579 rfl ia39 ?_
            refine AW.aload_n dX8_tellLaw_57 rfl ?_
            refine AW.tgI (k := 38) dX8_tellLaw_58 (Nat.le_of_ble_eq_true rfl) (fun _ => rfl) q1578 rfl ?_
            refine AW.iconst dX8_tellLaw_61 ?_
            refine AW.tzast (k := 39) dX8_tellLaw_62 ia39 (Nat.le_of_ble_eq_true rfl) mt39 rfl h (fun s6 h => ?_)
            refine AW.aload_n dX8_tellLaw_63 rfl ?_
            refine AW.tgR (k := 40) dX8_tellLaw_64 (Nat.le_of_ble_eq_true rfl) (fun _ => rfl) q1580 rfl ia40 ?_
            refine AW.aload_n dX8_tellLaw_67 rfl ?_
            refine AW.tgI (k := 38) dX8_tellLaw_68 (Nat.le_of_ble_eq_true rfl) (fun _ => rfl) q1578 rfl ?_
            refine AW.aload_n dX8_tellLaw_71 rfl ?_
            refine AW.tgI (k := 44) dX8_tellLaw_72 (Nat.le_of_ble_eq_true rfl) (fun _ => rfl) q1584 rfl ?_
            refine AW.tiast (k := 40) dX8_tellLaw_75 ia40 (Nat.le_of_ble_eq_true rfl) mt40 rfl h (fun s7 h => ?_)
            refine AW.aload_n dX8_tellLaw_76 rfl ?_
            refine AW.tVU (M' := m_X8_expression) [] [] dX8_tellLaw_77 q1861 q1863 qs83 q139 q1864 rfl n_X8_expression rfl rfl rfl (fun _ _ e => c_X8_expression e) h (fun _ s8 h => ?_)
            refine AW.aload_n dX8_tellLaw_80 rfl ?_
            refine AW.bipush dX8_tellLaw_81 (by decide) ?_
            refine AW.tVU (M' := m_X8_must) [iV 13] [] dX8_tellLaw_83 q1829 q1831 qs75 q139 q1832 rfl n_X8_must rfl rfl rfl (fun _ _ e => c_X8_must e) h (fun _ s9 h => ?_)
            refine AW.aload_n dX8_tellLaw_86 rfl ?_
            refine AW.tgR (k := 41) dX8_tellLaw_87 (Nat.le_of_ble_eq_true rfl) (fun _ => rfl) q1581 rfl ia41 ?_
            refine AW.aload_n dX8_tellLaw_90 rfl ?_
            refine AW.tgI (k := 38) dX8_tellLaw_91 (Nat.le_of_ble_eq_true rfl) (fun _ => rfl) q1578 rfl ?_
            refine AW.aload_n dX8_tellLaw_94 rfl ?_
            refine AW.tgI (k := 44) dX8_tellLaw_95 (Nat.le_of_ble_eq_true rfl) (fun _ => rfl) q1584 rfl ?_
            refine AW.tiast (k := 41) dX8_tellLaw_98 ia41 (Nat.le_of_ble_eq_true rfl) mt41 rfl h (fun s10 h => ?_)
            refine AW.aload_n dX8_tellLaw_99 rfl ?_
            refine AW.tgI (k := 13) dX8_tellLaw_100 (Nat.le_of_ble_eq_true rfl) (fun _ => rfl) q1553 rfl ?_
            refine jn_elim h (fun (j : (TW → Int → Int → Int → Option (Unit × TW))) => ∀ (s11 : TW) (x1 : Int) (x2 : Int) (x3 : Int), j s11 x1 x2 x3 = some w → AW m_X8_tellLaw σ0 (tU b σ w) 110 [some (rV (some b)), some (iV x1), some (iV x2), some (iV x3)] [] (insT b s11 σ)) ?_ (fun j110 hj110 h => ?_)
            · intro s11 x1 x2 x3 h
              refine AW.aload_n dX8_tellLaw_110 rfl ?_
              refine AW.bipush dX8_tellLaw_111 (by decide) ?_
              refine AW.tVU (M' := m_X8_must) [iV 29] [] dX8_tellLaw_113 q1829 q1831 qs75 q139 q1832 rfl n_X8_must rfl rfl rfl (fun _ _ e => c_X8_must e) h (fun _ s12 h => ?_)
              refine AW.aload_n dX8_tellLaw_116 rfl ?_
              refine AW.tVU (M' := m_X8_term) [] [] dX8_tellLaw_117 q1877 q1879 qs87 q139 q1880 rfl n_X8_term rfl rfl rfl (fun _ _ e => c_X8_term e) h (fun _ s13 h => ?_)
              refine AW.aload_n dX8_tellLaw_120 rfl ?_
              refine AW.bipush dX8_tellLaw_121 (by decide) ?_
              refine AW.tVU (M' := m_X8_must) [iV 30] [] dX8_tellLaw_123 q1829 q1831 qs75 q139 q1832 rfl n_X8_must rfl rfl rfl (fun _ _ e => c_X8_must e) h (fun _ s14 h => ?_)
              refine AW.goto (tgt := 12) dX8_tellLaw_126 (by decide) ?_
              exact ih _ _ _ _ _ h hk
            · refine AW.if_ne 110 dX8_tellLaw_103 (by decide) h (fun c16 h => ?_) (fun c16 h => ?_)
              · exact hj110 _ _ _ _ h
              · refine AW.aload_n dX8_tellLaw_106 rfl ?_
                refine AW.tVU (M' := m_X8_expression) [] [] dX8_tellLaw_107 q1861 q1863 qs83 q139 q1864 rfl n_X8_expression rfl rfl rfl (fun _ _ e => c_X8_expression e) h (fun _ s15 h => ?_)
                exact hj110 _ _ _ _ h
          · cases h
            exact AW.vret dX8_tellLaw_45 rfl
        · refine AW.icmp_ne 38 dX8_tellLaw_30 (by decide) h (fun c19 h => ?_) (fun c19 h => ?_)
          · exact hj38 _ _ _ _ h
          · refine AW.aload_n dX8_tellLaw_33 rfl ?_
            refine AW.iconst dX8_tellLaw_34 ?_
            refine AW.tVU (M' := m_X8_fail) [iV 2] [] dX8_tellLaw_35 q1817 q1819 qs72 q139 q1820 rfl n_X8_fail rfl rfl rfl (fun _ _ e => c_X8_fail e) h (fun _ s18 h => ?_)
            exact hj38 _ _ _ _ h
def f_X8_tellLaw (s0 : TW) (x1 : Int) : Option (Unit × TW) :=
  bt_ (f_X8_must s0 5) fun _ s1 => f_X8_tellLaw_L12 FU s1 x1 (s1.1 38) 0 (fun s22 x1 x2 => (ts s22 39 (s22.1 38) (b1I 0)).bind fun s23 => bt_ (f_X8_term s23) fun _ s24 => bt_ (f_X8_must s24 4) fun _ s25 => (if 0 < nrm (s25.1 13) then (some ((), s25)) else ((if 0 ≤ nrm x1 then ((ts s25 36 ((7 * (s25.1 19)) + x1) (nrm x2)).bind fun s26 => (ts s26 37 ((7 * (s26.1 19)) + x1) (s26.1 38)).bind fun s27 => some ((), s27)) else (some ((), s25))))))
theorem w_X8_tellLaw {b : Nat} {σ σ0 : Hp} {w : Unit × TW} (s0 : TW) (x1 : Int) (h : f_X8_tellLaw s0 x1 = some w) : AW m_X8_tellLaw σ0 (tU b σ w) 0 [some (rV (some b)), some (iV x1), none, none] [] (insT b s0 σ) := by
  unfold f_X8_tellLaw at h
  refine AW.aload_n dX8_tellLaw_0 rfl ?_
  refine AW.iconst dX8_tellLaw_1 ?_
  refine AW.tVU (M' := m_X8_must) [iV 5] [] dX8_tellLaw_2 q1829 q1831 qs75 q139 q1832 rfl n_X8_must rfl rfl rfl (fun _ _ e => c_X8_must e) h (fun _ s1 h => ?_)
  refine AW.aload_n dX8_tellLaw_5 rfl ?_
  refine AW.tgI (k := 38) dX8_tellLaw_6 (Nat.le_of_ble_eq_true rfl) (fun _ => rfl) q1578 rfl ?_
  refine AW.istore_n (L' := [some (rV (some b)), some (iV x1), some (iV (s1.1 38)), none]) dX8_tellLaw_9 (Nat.le_of_ble_eq_true rfl) rfl rfl ?_
  refine AW.iconst dX8_tellLaw_10 ?_
  refine AW.istore_n (L' := [some (rV (some b)), some (iV x1), some (iV (s1.1 38)), some (iV 0)]) dX8_tellLaw_11 (Nat.le_of_ble_eq_true rfl) rfl rfl ?_
  refine w_X8_tellLaw_L12 _ _ _ _ _ _ h (fun s22 x1 x2 h => ?_)
  refine AW.aload_n dX8_tellLaw_129 rfl ?_
  refine AW.tgR (k := 39) dX8_tellLaw_130 (Nat.le_of_ble_eq_true rfl) (fun _ => rfl) q1579 rfl ia39 ?_
  refine AW.aload_n dX8_tellLaw_133 rfl ?_
  refine AW.tgI (k := 38) dX8_tellLaw_134 (Nat.le_of_ble_eq_true rfl) (fun _ => rfl) q1578 rfl ?_
  refine AW.iconst dX8_tellLaw_137 ?_
  refine AW.tzast (k := 39) dX8_tellLaw_138 ia39 (Nat.le_of_ble_eq_true rfl) mt39 rfl h (fun s23 h => ?_)
  refine AW.aload_n dX8_tellLaw_139 rfl ?_
  refine AW.tVU (M' := m_X8_term) [] [] dX8_tellLaw_140 q1877 q1879 qs87 q139 q1880 rfl n_X8_term rfl rfl rfl (fun _ _ e => c_X8_term e) h (fun _ s24 h => ?_)
  refine AW.aload_n dX8_tellLaw_143 rfl ?_
  refine AW.iconst dX8_tellLaw_144 ?_
  refine AW.tVU (M' := m_X8_must) [iV 4] [] dX8_tellLaw_145 q1829 q1831 qs75 q139 q1832 rfl n_X8_must rfl rfl rfl (fun _ _ e => c_X8_must e) h (fun _ s25 h => ?_)
  refine AW.aload_n dX8_tellLaw_148 rfl ?_
  refine AW.tgI (k := 13) dX8_tellLaw_149 (Nat.le_of_ble_eq_true rfl) (fun _ => rfl) q1553 rfl ?_
  refine AW.if_gt 159 dX8_tellLaw_152 (by decide) h (fun c29 h => ?_) (fun c29 h => ?_)
  · cases h
    exact AW.vret dX8_tellLaw_159 rfl
  · refine AW.iload_n dX8_tellLaw_155 rfl ?_
    refine AW.if_ge 160 dX8_tellLaw_156 (by decide) h (fun c28 h => ?_) (fun c28 h => ?_)
    · refine AW.aload_n dX8_tellLaw_160 rfl ?_
      refine AW.tgR (k := 36) dX8_tellLaw_161 (Nat.le_of_ble_eq_true rfl) (fun _ => rfl) q1576 rfl ia36 ?_
      refine AW.bipush dX8_tellLaw_164 (by decide) ?_
      refine AW.aload_n dX8_tellLaw_166 rfl ?_
      refine AW.tgI (k := 19) dX8_tellLaw_167 (Nat.le_of_ble_eq_true rfl) (fun _ => rfl) q1559 rfl ?_
      refine AW.imul dX8_tellLaw_170 ?_
      refine AW.iload_n dX8_tellLaw_171 rfl ?_
      refine AW.iadd dX8_tellLaw_172 ?_
      refine AW.iload_n dX8_tellLaw_173 rfl ?_
      refine AW.nv ?_
      refine AW.tiast (k := 36) dX8_tellLaw_174 ia36 (Nat.le_of_ble_eq_true rfl) mt36 rfl h (fun s26 h => ?_)
      refine AW.aload_n dX8_tellLaw_175 rfl ?_
      refine AW.tgR (k := 37) dX8_tellLaw_176 (Nat.le_of_ble_eq_true rfl) (fun _ => rfl) q1577 rfl ia37 ?_
      refine AW.bipush dX8_tellLaw_179 (by decide) ?_
      refine AW.aload_n dX8_tellLaw_181 rfl ?_
      refine AW.tgI (k := 19) dX8_tellLaw_182 (Nat.le_of_ble_eq_true rfl) (fun _ => rfl) q1559 rfl ?_
      refine AW.imul dX8_tellLaw_185 ?_
      refine AW.iload_n dX8_tellLaw_186 rfl ?_
      refine AW.iadd dX8_tellLaw_187 ?_
      refine AW.aload_n dX8_tellLaw_188 rfl ?_
      refine AW.tgI (k := 38) dX8_tellLaw_189 (Nat.le_of_ble_eq_true rfl) (fun _ => rfl) q1578 rfl ?_
      refine AW.tiast (k := 37) dX8_tellLaw_192 ia37 (Nat.le_of_ble_eq_true rfl) mt37 rfl h (fun s27 h => ?_)
      cases h
      exact AW.vret dX8_tellLaw_193 rfl
    · cases h
      exact AW.vret dX8_tellLaw_159 rfl
theorem c_X8_tellLaw {b : Nat} {σ : Hp} {s0 : TW} {x1 : Int} {v : Unit} {s1 : TW} (h : f_X8_tellLaw s0 x1 = some (v, s1)) : Ct m_X8_tellLaw [rV (some b), iV x1] (insT b s0 σ) (.inl none, insT b s1 σ) :=
  Ct.of2 (w_X8_tellLaw s0 x1 h) (by decide) rfl rfl rfl
abbrev m_X8_tellMirror : Mi := (yX8_tellMirror, cX8_tellMirror, none, 3, 4, 85, [])
theorem n_X8_tellMirror : nameOk yX8_tellMirror 0 := ⟨by decide, by decide, by decide +kernel⟩
def f_X8_tellMirror (s0 : TW) : Option (Unit × TW) :=
  (ta s0 31 (s0.1 19)).bind fun v1 => bt_ (f_X8_named s0) fun v3 s2 => bt_ (f_X8_known s2 0) fun v5 s4 => (ts s4 32 ((8 * (s0.1 19)) + v1) v5).bind fun s6 => bt_ (f_X8_known s6 1) fun v8 s7 => (ts s7 33 ((8 * (s0.1 19)) + v1) v8).bind fun s9 => bt_ (f_X8_must s9 4) fun _ s10 => (if nrm (s10.1 13) ≤ 0 then ((ta s10 31 (s10.1 19)).bind fun v11 => bt_ (f_X8_notes s10 v3 2 v11) fun _ s12 => (ta s12 31 (s12.1 19)).bind fun v13 => (ts s12 31 (s12.1 19) (nrm (v13 + 1))).bind fun s14 => some ((), s14)) else (some ((), s10)))
theorem w_X8_tellMirror {b : Nat} {σ σ0 : Hp} {w : Unit × TW} (s0 : TW) (h : f_X8_tellMirror s0 = some w) : AW m_X8_tellMirror σ0 (tU b σ w) 0 [some (rV (some b)), none, none] [] (insT b s0 σ) := by
  unfold f_X8_tellMirror at h
  refine AW.bipush dX8_tellMirror_0 (by decide) ?_
  refine AW.aload_n dX8_tellMirror_2 rfl ?_
  refine AW.tgI (k := 19) dX8_tellMirror_3 (Nat.le_of_ble_eq_true rfl) (fun _ => rfl) q1559 rfl ?_
  refine AW.imul dX8_tellMirror_6 ?_
  refine AW.aload_n dX8_tellMirror_7 rfl ?_
  refine AW.tgR (k := 31) dX8_tellMirror_8 (Nat.le_of_ble_eq_true rfl) (fun _ => rfl) q1571 rfl ia31 ?_
  refine AW.aload_n dX8_tellMirror_11 rfl ?_
  refine AW.tgI (k := 19) dX8_tellMirror_12 (Nat.le_of_ble_eq_true rfl) (fun _ => rfl) q1559 rfl ?_
  refine AW.tiald (k := 31) dX8_tellMirror_15 ia31 (Nat.le_of_ble_eq_true rfl) rfl h (fun v1 h => ?_)
  refine AW.iadd dX8_tellMirror_16 ?_
  refine AW.istore_n (L' := [some (rV (some b)), some (iV ((8 * (s0.1 19)) + v1)), none]) dX8_tellMirror_17 (Nat.le_of_ble_eq_true rfl) rfl rfl ?_
  refine AW.aload_n dX8_tellMirror_18 rfl ?_
  refine AW.tVI (M' := m_X8_named) [] [] dX8_tellMirror_19 q1825 q1827 qs74 q139 q1828 rfl n_X8_named rfl rfl rfl (fun _ _ e => c_X8_named e) h (fun v3 s2 h => ?_)
  refine AW.istore_n (L' := [some (rV (some b)), some (iV ((8 * (s0.1 19)) + v1)), some (iV v3)]) dX8_tellMirror_22 (Nat.le_of_ble_eq_true rfl) rfl rfl ?_
  refine AW.aload_n dX8_tellMirror_23 rfl ?_
  refine AW.tgR (k := 32) dX8_tellMirror_24 (Nat.le_of_ble_eq_true rfl) (fun _ => rfl) q1572 rfl ia32 ?_
  refine AW.iload_n dX8_tellMirror_27 rfl ?_
  refine AW.aload_n dX8_tellMirror_28 rfl ?_
  refine AW.iconst dX8_tellMirror_29 ?_
  refine AW.tVI (M' := m_X8_known) [iV 0] [iV ((8 * (s0.1 19)) + v1), rV (some (b + tof 32))] dX8_tellMirror_30 q1845 q1847 qs79 q139 q1848 rfl n_X8_known rfl rfl rfl (fun _ _ e => c_X8_known e) h (fun v5 s4 h => ?_)
  refine AW.tiast (k := 32) dX8_tellMirror_33 ia32 (Nat.le_of_ble_eq_true rfl) mt32 rfl h (fun s6 h => ?_)
  refine AW.aload_n dX8_tellMirror_34 rfl ?_
  refine AW.tgR (k := 33) dX8_tellMirror_35 (Nat.le_of_ble_eq_true rfl) (fun _ => rfl) q1573 rfl ia33 ?_
  refine AW.iload_n dX8_tellMirror_38 rfl ?_
  refine AW.aload_n dX8_tellMirror_39 rfl ?_
  refine AW.iconst dX8_tellMirror_40 ?_
  refine AW.tVI (M' := m_X8_known) [iV 1] [iV ((8 * (s0.1 19)) + v1), rV (some (b + tof 33))] dX8_tellMirror_41 q1845 q1847 qs79 q139 q1848 rfl n_X8_known rfl rfl rfl (fun _ _ e => c_X8_known e) h (fun v8 s7 h => ?_)
  refine AW.tiast (k := 33) dX8_tellMirror_44 ia33 (Nat.le_of_ble_eq_true rfl) mt33 rfl h (fun s9 h => ?_)
  refine AW.aload_n dX8_tellMirror_45 rfl ?_
  refine AW.iconst dX8_tellMirror_46 ?_
  refine AW.tVU (M' := m_X8_must) [iV 4] [] dX8_tellMirror_47 q1829 q1831 qs75 q139 q1832 rfl n_X8_must rfl rfl rfl (fun _ _ e => c_X8_must e) h (fun _ s10 h => ?_)
  refine AW.aload_n dX8_tellMirror_50 rfl ?_
  refine AW.tgI (k := 13) dX8_tellMirror_51 (Nat.le_of_ble_eq_true rfl) (fun _ => rfl) q1553 rfl ?_
  refine AW.if_le 58 dX8_tellMirror_54 (by decide) h (fun c15 h => ?_) (fun c15 h => ?_)
  · refine AW.aload_n dX8_tellMirror_58 rfl ?_
    refine AW.iload_n dX8_tellMirror_59 rfl ?_
    refine AW.iconst dX8_tellMirror_60 ?_
    refine AW.aload_n dX8_tellMirror_61 rfl ?_
    refine AW.tgR (k := 31) dX8_tellMirror_62 (Nat.le_of_ble_eq_true rfl) (fun _ => rfl) q1571 rfl ia31 ?_
    refine AW.aload_n dX8_tellMirror_65 rfl ?_
    refine AW.tgI (k := 19) dX8_tellMirror_66 (Nat.le_of_ble_eq_true rfl) (fun _ => rfl) q1559 rfl ?_
    refine AW.tiald (k := 31) dX8_tellMirror_69 ia31 (Nat.le_of_ble_eq_true rfl) rfl h (fun v11 h => ?_)
    refine AW.tVU (M' := m_X8_notes) [iV v3, iV 2, iV v11] [] dX8_tellMirror_70 q1837 q1839 qs77 q139 q1840 rfl n_X8_notes rfl rfl rfl (fun _ _ e => c_X8_notes e) h (fun _ s12 h => ?_)
    refine AW.aload_n dX8_tellMirror_73 rfl ?_
    refine AW.tgR (k := 31) dX8_tellMirror_74 (Nat.le_of_ble_eq_true rfl) (fun _ => rfl) q1571 rfl ia31 ?_
    refine AW.aload_n dX8_tellMirror_77 rfl ?_
    refine AW.tgI (k := 19) dX8_tellMirror_78 (Nat.le_of_ble_eq_true rfl) (fun _ => rfl) q1559 rfl ?_
    refine AW.dup2 dX8_tellMirror_81 ?_
    refine AW.tiald (k := 31) dX8_tellMirror_82 ia31 (Nat.le_of_ble_eq_true rfl) rfl h (fun v13 h => ?_)
    refine AW.iconst dX8_tellMirror_83 ?_
    refine AW.iadd dX8_tellMirror_84 ?_
    refine AW.nv ?_
    refine AW.tiast (k := 31) dX8_tellMirror_85 ia31 (Nat.le_of_ble_eq_true rfl) mt31 rfl h (fun s14 h => ?_)
    cases h
    exact AW.vret dX8_tellMirror_86 rfl
  · cases h
    exact AW.vret dX8_tellMirror_57 rfl
theorem c_X8_tellMirror {b : Nat} {σ : Hp} {s0 : TW} {v : Unit} {s1 : TW} (h : f_X8_tellMirror s0 = some (v, s1)) : Ct m_X8_tellMirror [rV (some b)] (insT b s0 σ) (.inl none, insT b s1 σ) :=
  Ct.of2 (w_X8_tellMirror s0 h) (by decide) rfl rfl rfl
abbrev m_X8_tellOne : Mi := (yX8_tellOne, cX8_tellOne, none, 2, 6, 126, [])
theorem n_X8_tellOne : nameOk yX8_tellOne 0 := ⟨by decide, by decide, by decide +kernel⟩
def f_X8_tellOne (s0 : TW) : Option (Unit × TW) :=
  (ta s0 5 (s0.1 11)).bind fun v1 => (if nrm v1 = 20 then ((ta s0 24 (s0.1 19)).bind fun v2 => bt_ (f_X8_roomFor s0 v2 8) fun _ s3 => (if nrm (s3.1 13) ≤ 0 then (bt_ (f_X8_named s3) fun v5 s4 => bt_ (f_X8_must s4 4) fun _ s6 => (if nrm (s6.1 13) ≤ 0 then ((ta s6 24 (s6.1 19)).bind fun v7 => bt_ (f_X8_notes s6 v5 0 v7) fun _ s8 => (ta s8 24 (s8.1 19)).bind fun v9 => (ts s8 24 (s8.1 19) (nrm (v9 + 1))).bind fun s10 => some ((), s10)) else (some ((), s6)))) else (some ((), s3)))) else (if nrm v1 = 21 then ((ta s0 25 (s0.1 19)).bind fun v13 => bt_ (f_X8_roomFor s0 v13 12) fun _ s14 => (if ¬ nrm (s14.1 13) = 0 then (some ((), s14)) else (bt_ (f_X8_tellDoor s14) fun _ s15 => some ((), s15)))) else (if nrm v1 = 22 then ((ta s0 28 (s0.1 19)).bind fun v17 => bt_ (f_X8_roomFor s0 v17 6) fun _ s18 => (if ¬ nrm (s18.1 13) = 0 then (some ((), s18)) else (bt_ (f_X8_tellMan s18) fun _ s19 => some ((), s19)))) else (if nrm v1 = 23 then (bt_ (f_X8_goesOn s0) fun _ s21 => bt_ (f_X8_known s21 1) fun v23 s22 => bt_ (f_X8_tellLaw s22 v23) fun _ s24 => some ((), s24)) else (if nrm v1 = 24 then ((ta s0 31 (s0.1 19)).bind fun v25 => bt_ (f_X8_roomFor s0 v25 8) fun _ s26 => (if ¬ nrm (s26.1 13) = 0 then (some ((), s26)) else (bt_ (f_X8_tellMirror s26) fun _ s27 => some ((), s27)))) else (if nrm v1 = 25 then (bt_ (f_X8_goesOn s0) fun _ s29 => bt_ (f_X8_tellLaw s29 6) fun _ s30 => some ((), s30)) else (if nrm v1 = 26 then (bt_ (f_X8_goesOn s0) fun _ s31 => bt_ (f_X8_bounded s31 0 100) fun v33 s32 => (ts s32 34 (s31.1 19) v33).bind fun s34 => bt_ (f_X8_must s34 4) fun _ s35 => some ((), s35)) else (if nrm v1 = 27 then (bt_ (f_X8_goesOn s0) fun _ s36 => bt_ (f_X8_bounded s36 0 9999) fun v38 s37 => (ts s37 35 (s36.1 19) v38).bind fun s39 => bt_ (f_X8_must s39 4) fun _ s40 => some ((), s40)) else (bt_ (f_X8_fail s0 1) fun _ s41 => some ((), s41))))))))))
theorem w_X8_tellOne {b : Nat} {σ σ0 : Hp} {w : Unit × TW} (s0 : TW) (h : f_X8_tellOne s0 = some w) : AW m_X8_tellOne σ0 (tU b σ w) 0 [some (rV (some b)), none] [] (insT b s0 σ) := by
  unfold f_X8_tellOne at h
  refine AW.aload_n dX8_tellOne_0 rfl ?_
  refine AW.tgR (k := 5) dX8_tellOne_1 (Nat.le_of_ble_eq_true rfl) (fun _ => rfl) q1545 rfl ia5 ?_
  refine AW.aload_n dX8_tellOne_4 rfl ?_
  refine AW.tgI (k := 11) dX8_tellOne_5 (Nat.le_of_ble_eq_true rfl) (fun _ => rfl) q1551 rfl ?_
  refine AW.tiald (k := 5) dX8_tellOne_8 ia5 (Nat.le_of_ble_eq_true rfl) rfl h (fun v1 h => ?_)
  rcases ite_or h with ⟨c49, h⟩ | ⟨c49, h⟩
  · refine AW.tIn 0 56 dX8_tellOne_9 (by omega) (by decide) rfl (by decide) ?_
    refine AW.aload_n dX8_tellOne_56 rfl ?_
    refine AW.aload_n dX8_tellOne_57 rfl ?_
    refine AW.tgR (k := 24) dX8_tellOne_58 (Nat.le_of_ble_eq_true rfl) (fun _ => rfl) q1564 rfl ia24 ?_
    refine AW.aload_n dX8_tellOne_61 rfl ?_
    refine AW.tgI (k := 19) dX8_tellOne_62 (Nat.le_of_ble_eq_true rfl) (fun _ => rfl) q1559 rfl ?_
    refine AW.tiald (k := 24) dX8_tellOne_65 ia24 (Nat.le_of_ble_eq_true rfl) rfl h (fun v2 h => ?_)
    refine AW.bipush dX8_tellOne_66 (by decide) ?_
    refine AW.tVU (M' := m_X8_roomFor) [iV v2, iV 8] [] dX8_tellOne_68 q1813 q1815 qs71 q139 q1816 rfl n_X8_roomFor rfl rfl rfl (fun _ _ e => c_X8_roomFor e) h (fun _ s3 h => ?_)
    refine AW.aload_n dX8_tellOne_71 rfl ?_
    refine AW.tgI (k := 13) dX8_tellOne_72 (Nat.le_of_ble_eq_true rfl) (fun _ => rfl) q1553 rfl ?_
    refine AW.if_le 79 dX8_tellOne_75 (by decide) h (fun c12 h => ?_) (fun c12 h => ?_)
    · refine AW.aload_n dX8_tellOne_79 rfl ?_
      refine AW.tVI (M' := m_X8_named) [] [] dX8_tellOne_80 q1825 q1827 qs74 q139 q1828 rfl n_X8_named rfl rfl rfl (fun _ _ e => c_X8_named e) h (fun v5 s4 h => ?_)
      refine AW.istore_n (L' := [some (rV (some b)), some (iV v5)]) dX8_tellOne_83 (Nat.le_of_ble_eq_true rfl) rfl rfl ?_
      refine AW.aload_n dX8_tellOne_84 rfl ?_
      refine AW.iconst dX8_tellOne_85 ?_
      refine AW.tVU (M' := m_X8_must) [iV 4] [] dX8_tellOne_86 q1829 q1831 qs75 q139 q1832 rfl n_X8_must rfl rfl rfl (fun _ _ e => c_X8_must e) h (fun _ s6 h => ?_)
      refine AW.aload_n dX8_tellOne_89 rfl ?_
      refine AW.tgI (k := 13) dX8_tellOne_90 (Nat.le_of_ble_eq_true rfl) (fun _ => rfl) q1553 rfl ?_
      refine AW.if_le 97 dX8_tellOne_93 (by decide) h (fun c11 h => ?_) (fun c11 h => ?_)
      · refine AW.aload_n dX8_tellOne_97 rfl ?_
        refine AW.iload_n dX8_tellOne_98 rfl ?_
        refine AW.iconst dX8_tellOne_99 ?_
        refine AW.aload_n dX8_tellOne_100 rfl ?_
        refine AW.tgR (k := 24) dX8_tellOne_101 (Nat.le_of_ble_eq_true rfl) (fun _ => rfl) q1564 rfl ia24 ?_
        refine AW.aload_n dX8_tellOne_104 rfl ?_
        refine AW.tgI (k := 19) dX8_tellOne_105 (Nat.le_of_ble_eq_true rfl) (fun _ => rfl) q1559 rfl ?_
        refine AW.tiald (k := 24) dX8_tellOne_108 ia24 (Nat.le_of_ble_eq_true rfl) rfl h (fun v7 h => ?_)
        refine AW.tVU (M' := m_X8_notes) [iV v5, iV 0, iV v7] [] dX8_tellOne_109 q1837 q1839 qs77 q139 q1840 rfl n_X8_notes rfl rfl rfl (fun _ _ e => c_X8_notes e) h (fun _ s8 h => ?_)
        refine AW.aload_n dX8_tellOne_112 rfl ?_
        refine AW.tgR (k := 24) dX8_tellOne_113 (Nat.le_of_ble_eq_true rfl) (fun _ => rfl) q1564 rfl ia24 ?_
        refine AW.aload_n dX8_tellOne_116 rfl ?_
        refine AW.tgI (k := 19) dX8_tellOne_117 (Nat.le_of_ble_eq_true rfl) (fun _ => rfl) q1559 rfl ?_
        refine AW.dup2 dX8_tellOne_120 ?_
        refine AW.tiald (k := 24) dX8_tellOne_121 ia24 (Nat.le_of_ble_eq_true rfl) rfl h (fun v9 h => ?_)
        refine AW.iconst dX8_tellOne_122 ?_
        refine AW.iadd dX8_tellOne_123 ?_
        refine AW.nv ?_
        refine AW.tiast (k := 24) dX8_tellOne_124 ia24 (Nat.le_of_ble_eq_true rfl) mt24 rfl h (fun s10 h => ?_)
        refine AW.goto (tgt := 306) dX8_tellOne_125 (by decide) ?_
        cases h
        exact AW.vret dX8_tellOne_306 rfl
      · cases h
        exact AW.vret dX8_tellOne_96 rfl
    · cases h
      exact AW.vret dX8_tellOne_78 rfl
  · rcases ite_or h with ⟨c48, h⟩ | ⟨c48, h⟩
    · refine AW.tIn 1 128 dX8_tellOne_9 (by omega) (by decide) rfl (by decide) ?_
      refine AW.aload_n dX8_tellOne_128 rfl ?_
      refine AW.aload_n dX8_tellOne_129 rfl ?_
      refine AW.tgR (k := 25) dX8_tellOne_130 (Nat.le_of_ble_eq_true rfl) (fun _ => rfl) q1565 rfl ia25 ?_
      refine AW.aload_n dX8_tellOne_133 rfl ?_
      refine AW.tgI (k := 19) dX8_tellOne_134 (Nat.le_of_ble_eq_true rfl) (fun _ => rfl) q1559 rfl ?_
      refine AW.tiald (k := 25) dX8_tellOne_137 ia25 (Nat.le_of_ble_eq_true rfl) rfl h (fun v13 h => ?_)
      refine AW.bipush dX8_tellOne_138 (by decide) ?_
      refine AW.tVU (M' := m_X8_roomFor) [iV v13, iV 12] [] dX8_tellOne_140 q1813 q1815 qs71 q139 q1816 rfl n_X8_roomFor rfl rfl rfl (fun _ _ e => c_X8_roomFor e) h (fun _ s14 h => ?_)
      refine AW.aload_n dX8_tellOne_143 rfl ?_
      refine AW.tgI (k := 13) dX8_tellOne_144 (Nat.le_of_ble_eq_true rfl) (fun _ => rfl) q1553 rfl ?_
      refine AW.if_ne 306 dX8_tellOne_147 (by decide) h (fun c16 h => ?_) (fun c16 h => ?_)
      · cases h
        exact AW.vret dX8_tellOne_306 rfl
      · refine AW.aload_n dX8_tellOne_150 rfl ?_
        refine AW.tVU (M' := m_X8_tellDoor) [] [] dX8_tellOne_151 q1841 q1843 qs78 q139 q1844 rfl n_X8_tellDoor rfl rfl rfl (fun _ _ e => c_X8_tellDoor e) h (fun _ s15 h => ?_)
        refine AW.goto (tgt := 306) dX8_tellOne_154 (by decide) ?_
        cases h
        exact AW.vret dX8_tellOne_306 rfl
    · rcases ite_or h with ⟨c47, h⟩ | ⟨c47, h⟩
      · refine AW.tIn 2 157 dX8_tellOne_9 (by omega) (by decide) rfl (by decide) ?_
        refine AW.aload_n dX8_tellOne_157 rfl ?_
        refine AW.aload_n dX8_tellOne_158 rfl ?_
        refine AW.tgR (k := 28) dX8_tellOne_159 (Nat.le_of_ble_eq_true rfl) (fun _ => rfl) q1568 rfl ia28 ?_
        refine AW.aload_n dX8_tellOne_162 rfl ?_
        refine AW.tgI (k := 19) dX8_tellOne_163 (Nat.le_of_ble_eq_true rfl) (fun _ => rfl) q1559 rfl ?_
        refine AW.tiald (k := 28) dX8_tellOne_166 ia28 (Nat.le_of_ble_eq_true rfl) rfl h (fun v17 h => ?_)
        refine AW.bipush dX8_tellOne_167 (by decide) ?_
        refine AW.tVU (M' := m_X8_roomFor) [iV v17, iV 6] [] dX8_tellOne_169 q1813 q1815 qs71 q139 q1816 rfl n_X8_roomFor rfl rfl rfl (fun _ _ e => c_X8_roomFor e) h (fun _ s18 h => ?_)
        refine AW.aload_n dX8_tellOne_172 rfl ?_
        refine AW.tgI (k := 13) dX8_tellOne_173 (Nat.le_of_ble_eq_true rfl) (fun _ => rfl) q1553 rfl ?_
        refine AW.if_ne 306 dX8_tellOne_176 (by decide) h (fun c20 h => ?_) (fun c20 h => ?_)
        · cases h
          exact AW.vret dX8_tellOne_306 rfl
        · refine AW.aload_n dX8_tellOne_179 rfl ?_
          refine AW.tVU (M' := m_X8_tellMan) [] [] dX8_tellOne_180 q1849 q1851 qs80 q139 q1852 rfl n_X8_tellMan rfl rfl rfl (fun _ _ e => c_X8_tellMan e) h (fun _ s19 h => ?_)
          refine AW.goto (tgt := 306) dX8_tellOne_183 (by decide) ?_
          cases h
          exact AW.vret dX8_tellOne_306 rfl
      · rcases ite_or h with ⟨c46, h⟩ | ⟨c46, h⟩
        · refine AW.tIn 3 186 dX8_tellOne_9 (by omega) (by decide) rfl (by decide) ?_
          refine AW.aload_n dX8_tellOne_186 rfl ?_
          refine AW.tVU (M' := m_X8_goesOn) [] [] dX8_tellOne_187 q1821 q1823 qs73 q139 q1824 rfl n_X8_goesOn rfl rfl rfl (fun _ _ e => c_X8_goesOn e) h (fun _ s21 h => ?_)
          refine AW.aload_n dX8_tellOne_190 rfl ?_
          refine AW.aload_n dX8_tellOne_191 rfl ?_
          refine AW.iconst dX8_tellOne_192 ?_
          refine AW.tVI (M' := m_X8_known) [iV 1] [rV (some b)] dX8_tellOne_193 q1845 q1847 qs79 q139 q1848 rfl n_X8_known rfl rfl rfl (fun _ _ e => c_X8_known e) h (fun v23 s22 h => ?_)
          refine AW.tVU (M' := m_X8_tellLaw) [iV v23] [] dX8_tellOne_196 q1857 q1859 qs82 q139 q1860 rfl n_X8_tellLaw rfl rfl rfl (fun _ _ e => c_X8_tellLaw e) h (fun _ s24 h => ?_)
          refine AW.goto (tgt := 306) dX8_tellOne_199 (by decide) ?_
          cases h
          exact AW.vret dX8_tellOne_306 rfl
        · rcases ite_or h with ⟨c45, h⟩ | ⟨c45, h⟩
          · refine AW.tIn 4 202 dX8_tellOne_9 (by omega) (by decide) rfl (by decide) ?_
            refine AW.aload_n dX8_tellOne_202 rfl ?_
            refine AW.aload_n dX8_tellOne_203 rfl ?_
            refine AW.tgR (k := 31) dX8_tellOne_204 (Nat.le_of_ble_eq_true rfl) (fun _ => rfl) q1571 rfl ia31 ?_
            refine AW.aload_n dX8_tellOne_207 rfl ?_
            refine AW.tgI (k := 19) dX8_tellOne_208 (Nat.le_of_ble_eq_true rfl) (fun _ => rfl) q1559 rfl ?_
            refine AW.tiald (k := 31) dX8_tellOne_211 ia31 (Nat.le_of_ble_eq_true rfl) rfl h (fun v25 h => ?_)
            refine AW.bipush dX8_tellOne_212 (by decide) ?_
            refine AW.tVU (M' := m_X8_roomFor) [iV v25, iV 8] [] dX8_tellOne_214 q1813 q1815 qs71 q139 q1816 rfl n_X8_roomFor rfl rfl rfl (fun _ _ e => c_X8_roomFor e) h (fun _ s26 h => ?_)
            refine AW.aload_n dX8_tellOne_217 rfl ?_
            refine AW.tgI (k := 13) dX8_tellOne_218 (Nat.le_of_ble_eq_true rfl) (fun _ => rfl) q1553 rfl ?_
            refine AW.if_ne 306 dX8_tellOne_221 (by decide) h (fun c28 h => ?_) (fun c28 h => ?_)
            · cases h
              exact AW.vret dX8_tellOne_306 rfl
            · refine AW.aload_n dX8_tellOne_224 rfl ?_
              refine AW.tVU (M' := m_X8_tellMirror) [] [] dX8_tellOne_225 q1881 q1883 qs88 q139 q1884 rfl n_X8_tellMirror rfl rfl rfl (fun _ _ e => c_X8_tellMirror e) h (fun _ s27 h => ?_)
              refine AW.goto (tgt := 306) dX8_tellOne_228 (by decide) ?_
              cases h
              exact AW.vret dX8_tellOne_306 rfl
          · rcases ite_or h with ⟨c44, h⟩ | ⟨c44, h⟩
            · refine AW.tIn 5 231 dX8_tellOne_9 (by omega) (by decide) rfl (by decide) ?_
              refine AW.aload_n dX8_tellOne_231 rfl ?_
              refine AW.tVU (M' := m_X8_goesOn) [] [] dX8_tellOne_232 q1821 q1823 qs73 q139 q1824 rfl n_X8_goesOn rfl rfl rfl (fun _ _ e => c_X8_goesOn e) h (fun _ s29 h => ?_)
              refine AW.aload_n dX8_tellOne_235 rfl ?_
              refine AW.bipush dX8_tellOne_236 (by decide) ?_
              refine AW.tVU (M' := m_X8_tellLaw) [iV 6] [] dX8_tellOne_238 q1857 q1859 qs82 q139 q1860 rfl n_X8_tellLaw rfl rfl rfl (fun _ _ e => c_X8_tellLaw e) h (fun _ s30 h => ?_)
              refine AW.goto (tgt := 306) dX8_tellOne_241 (by decide) ?_
              cases h
              exact AW.vret dX8_tellOne_306 rfl
            · rcases ite_or h with ⟨c43, h⟩ | ⟨c43, h⟩
              · refine AW.tIn 6 244 dX8_tellOne_9 (by omega) (by decide) rfl (by decide) ?_
                refine AW.aload_n dX8_tellOne_244 rfl ?_
                refine AW.tVU (M' := m_X8_goesOn) [] [] dX8_tellOne_245 q1821 q1823 qs73 q139 q1824 rfl n_X8_goesOn rfl rfl rfl (fun _ _ e => c_X8_goesOn e) h (fun _ s31 h => ?_)
                refine AW.aload_n dX8_tellOne_248 rfl ?_
                refine AW.tgR (k := 34) dX8_tellOne_249 (Nat.le_of_ble_eq_true rfl) (fun _ => rfl) q1574 rfl ia34 ?_
                refine AW.aload_n dX8_tellOne_252 rfl ?_
                refine AW.tgI (k := 19) dX8_tellOne_253 (Nat.le_of_ble_eq_true rfl) (fun _ => rfl) q1559 rfl ?_
                refine AW.aload_n dX8_tellOne_256 rfl ?_
                refine AW.iconst dX8_tellOne_257 ?_
                refine AW.bipush dX8_tellOne_258 (by decide) ?_
                refine AW.tVI (M' := m_X8_bounded) [iV 0, iV 100] [iV (s31.1 19), rV (some (b + tof 34))] dX8_tellOne_260 q1853 q1855 qs81 q139 q1856 rfl n_X8_bounded rfl rfl rfl (fun _ _ e => c_X8_bounded e) h (fun v33 s32 h => ?_)
                refine AW.tiast (k := 34) dX8_tellOne_263 ia34 (Nat.le_of_ble_eq_true rfl) mt34 rfl h (fun s34 h => ?_)
                refine AW.aload_n dX8_tellOne_264 rfl ?_
                refine AW.iconst dX8_tellOne_265 ?_
                refine AW.tVU (M' := m_X8_must) [iV 4] [] dX8_tellOne_266 q1829 q1831 qs75 q139 q1832 rfl n_X8_must rfl rfl rfl (fun _ _ e => c_X8_must e) h (fun _ s35 h => ?_)
                refine AW.goto (tgt := 306) dX8_tellOne_269 (by decide) ?_
                cases h
                exact AW.vret dX8_tellOne_306 rfl
              · rcases ite_or h with ⟨c42, h⟩ | ⟨c42, h⟩
                · refine AW.tIn 7 272 dX8_tellOne_9 (by omega) (by decide) rfl (by decide) ?_
                  refine AW.aload_n dX8_tellOne_272 rfl ?_
                  refine AW.tVU (M' := m_X8_goesOn) [] [] dX8_tellOne_273 q1821 q1823 qs73 q139 q1824 rfl n_X8_goesOn rfl rfl rfl (fun _ _ e => c_X8_goesOn e) h (fun _ s36 h => ?_)
                  refine AW.aload_n dX8_tellOne_276 rfl ?_
                  refine AW.tgR (k := 35) dX8_tellOne_277 (Nat.le_of_ble_eq_true rfl) (fun _ => rfl) q1575 rfl ia35 ?_
                  refine AW.aload_n dX8_tellOne_280 rfl ?_
                  refine AW.tgI (k := 19) dX8_tellOne_281 (Nat.le_of_ble_eq_true rfl) (fun _ => rfl) q1559 rfl ?_
                  refine AW.aload_n dX8_tellOne_284 rfl ?_
                  refine AW.iconst dX8_tellOne_285 ?_
                  refine AW.sipush dX8_tellOne_286 (by decide) ?_
                  refine AW.tVI (M' := m_X8_bounded) [iV 0, iV 9999] [iV (s36.1 19), rV (some (b + tof 35))] dX8_tellOne_289 q1853 q1855 qs81 q139 q1856 rfl n_X8_bounded rfl rfl rfl (fun _ _ e => c_X8_bounded e) h (fun v38 s37 h => ?_)
                  refine AW.tiast (k := 35) dX8_tellOne_292 ia35 (Nat.le_of_ble_eq_true rfl) mt35 rfl h (fun s39 h => ?_)
                  refine AW.aload_n dX8_tellOne_293 rfl ?_
                  refine AW.iconst dX8_tellOne_294 ?_
                  refine AW.tVU (M' := m_X8_must) [iV 4] [] dX8_tellOne_295 q1829 q1831 qs75 q139 q1832 rfl n_X8_must rfl rfl rfl (fun _ _ e => c_X8_must e) h (fun _ s40 h => ?_)
                  refine AW.goto (tgt := 306) dX8_tellOne_298 (by decide) ?_
                  cases h
                  exact AW.vret dX8_tellOne_306 rfl
                · refine AW.tOut 301 dX8_tellOne_9 (by omega) (by decide) ?_
                  refine AW.aload_n dX8_tellOne_301 rfl ?_
                  refine AW.iconst dX8_tellOne_302 ?_
                  refine AW.tVU (M' := m_X8_fail) [iV 1] [] dX8_tellOne_303 q1817 q1819 qs72 q139 q1820 rfl n_X8_fail rfl rfl rfl (fun _ _ e => c_X8_fail e) h (fun _ s41 h => ?_)
                  cases h
                  exact AW.vret dX8_tellOne_306 rfl
theorem c_X8_tellOne {b : Nat} {σ : Hp} {s0 : TW} {v : Unit} {s1 : TW} (h : f_X8_tellOne s0 = some (v, s1)) : Ct m_X8_tellOne [rV (some b)] (insT b s0 σ) (.inl none, insT b s1 σ) :=
  Ct.of2 (w_X8_tellOne s0 h) (by decide) rfl rfl rfl
abbrev m_X8_read : Mi := (yX8_read, cX8_read, (some .int), 2, 7, 147, [])
theorem n_X8_read : nameOk yX8_read 0 := ⟨by decide, by decide, by decide +kernel⟩
def f_X8_read_L10 : Nat → TW → Int → (TW → Option (Int × TW)) → Option (Int × TW)
  | 0, _, _, _ => none
  | n + 1, s0, x1, k => (if nrm (s0.1 4) ≤ nrm x1 then (k s0) else ((ta s0 1 x1).bind fun v2 => (ts s0 3 x1 (i8I v2)).bind fun s3 => f_X8_read_L10 n s3 (x1 + 1) k))
theorem w_X8_read_L10 {b : Nat} {σ σ0 : Hp} {w : Int × TW} : ∀ (n : Nat) (s0 : TW) (x1 : Int) (k : (TW → Option (Int × TW))), f_X8_read_L10 n s0 x1 k = some w → (∀ (s1 : TW), k s1 = some w → AW m_X8_read σ0 (tI b σ w) 36 [some (rV (some b)), none] [] (insT b s1 σ)) → AW m_X8_read σ0 (tI b σ w) 10 [some (rV (some b)), some (iV x1)] [] (insT b s0 σ) := by
  intro n
  induction n with
  | zero =>
    intro s0 x1 k h hk
    rw [f_X8_read_L10] at h
    cases h
  | succ n ih =>
    intro s0 x1 k h hk
    rw [f_X8_read_L10] at h
    refine AW.iload_n dX8_read_10 rfl ?_
    refine AW.aload_n dX8_read_11 rfl ?_
    refine AW.tgI (k := 4) dX8_read_12 (Nat.le_of_ble_eq_true rfl) (fun _ => rfl) q1544 rfl ?_
    refine AW.icmp_ge 36 dX8_read_15 (by decide) h (fun c4 h => ?_) (fun c4 h => ?_)
    · exact AW.fewer (L' := [some (rV (some b)), none]) (And.intro rfl trivial) (hk _ h)
    · refine AW.aload_n dX8_read_18 rfl ?_
      refine AW.tgR (k := 3) dX8_read_19 (Nat.le_of_ble_eq_true rfl) (fun _ => rfl) q1543 rfl ia3 ?_
      refine AW.iload_n dX8_read_22 rfl ?_
      refine AW.aload_n dX8_read_23 rfl ?_
      refine AW.tgR (k := 1) dX8_read_24 (Nat.le_of_ble_eq_true rfl) (fun _ => rfl) q1541 rfl ia1 ?_
      refine AW.iload_n dX8_read_27 rfl ?_
      refine AW.tbald (k := 1) dX8_read_28 ia1 (Nat.le_of_ble_eq_true rfl) rfl h (fun v2 h => ?_)
      refine AW.tbast (k := 3) dX8_read_29 ia3 (Nat.le_of_ble_eq_true rfl) mt3 rfl h (fun s3 h => ?_)
      refine AW.iinc (L' := [some (rV (some b)), some (iV (x1 + 1))]) dX8_read_30 rfl (Nat.le_of_ble_eq_true rfl) rfl rfl ?_
      refine AW.goto (tgt := 10) dX8_read_33 (by decide) ?_
      exact ih _ _ _ h hk
def f_X8_read_L112 : Nat → TW → (TW → Option (Int × TW)) → Option (Int × TW)
  | 0, _, _ => none
  | n + 1, s0, k => (if ¬ nrm (s0.1 13) = 0 then (k s0) else (bt_ (f_X8_is s0 0) fun v18 s17 => (if ¬ nrm v18 = 0 then (k s17) else (bt_ (f_X8_tellOne s17) fun _ s19 => f_X8_read_L112 n s19 k))))
theorem w_X8_read_L112 {b : Nat} {σ σ0 : Hp} {w : Int × TW} : ∀ (n : Nat) (s0 : TW)  (k : (TW → Option (Int × TW))), f_X8_read_L112 n s0 k = some w → (∀ (s1 : TW), k s1 = some w → AW m_X8_read σ0 (tI b σ w) 134 [some (rV (some b)), none] [] (insT b s1 σ)) → AW m_X8_read σ0 (tI b σ w) 112 [some (rV (some b)), none] [] (insT b s0 σ) := by
  intro n
  induction n with
  | zero =>
    intro s0 k h hk
    rw [f_X8_read_L112] at h
    cases h
  | succ n ih =>
    intro s0 k h hk
    rw [f_X8_read_L112] at h
    refine AW.aload_n dX8_read_112 rfl ?_
    refine AW.tgI (k := 13) dX8_read_113 (Nat.le_of_ble_eq_true rfl) (fun _ => rfl) q1553 rfl ?_
    refine AW.if_ne 134 dX8_read_116 (by decide) h (fun c21 h => ?_) (fun c21 h => ?_)
    · exact hk _ h
    · refine AW.aload_n dX8_read_119 rfl ?_
      refine AW.iconst dX8_read_120 ?_
      refine AW.tVI (M' := m_X8_is) [iV 0] [] dX8_read_121 q1805 q1807 qs69 q139 q1808 rfl n_X8_is rfl rfl rfl (fun _ _ e => c_X8_is e) h (fun v18 s17 h => ?_)
      refine AW.if_ne 134 dX8_read_124 (by decide) h (fun c20 h => ?_) (fun c20 h => ?_)
      · exact hk _ h
      · refine AW.aload_n dX8_read_127 rfl ?_
        refine AW.tVU (M' := m_X8_tellOne) [] [] dX8_read_128 q1809 q1811 qs70 q139 q1812 rfl n_X8_tellOne rfl rfl rfl (fun _ _ e => c_X8_tellOne e) h (fun _ s19 h => ?_)
        refine AW.goto (tgt := 112) dX8_read_131 (by decide) ?_
        exact ih _ _ h hk
def f_X8_read_L220 : Nat → TW → Int → (TW → Option (Int × TW)) → Option (Int × TW)
  | 0, _, _, _ => none
  | n + 1, s0, x1, k => (if nrm 3 ≤ nrm x1 then (k s0) else ((ts s0 72 x1 (b1I 0)).bind fun s30 => f_X8_read_L220 n s30 (x1 + 1) k))
theorem w_X8_read_L220 {b : Nat} {σ σ0 : Hp} {w : Int × TW} : ∀ (n : Nat) (s0 : TW) (x1 : Int) (k : (TW → Option (Int × TW))), f_X8_read_L220 n s0 x1 k = some w → (∀ (s1 : TW), k s1 = some w → AW m_X8_read σ0 (tI b σ w) 238 [none, none] [] (insT b s1 σ)) → AW m_X8_read σ0 (tI b σ w) 220 [some (rV (some b)), some (iV x1)] [] (insT b s0 σ) := by
  intro n
  induction n with
  | zero =>
    intro s0 x1 k h hk
    rw [f_X8_read_L220] at h
    cases h
  | succ n ih =>
    intro s0 x1 k h hk
    rw [f_X8_read_L220] at h
    refine AW.iload_n dX8_read_220 rfl ?_
    refine AW.iconst dX8_read_221 ?_
    refine AW.icmp_ge 238 dX8_read_222 (by decide) h (fun c31 h => ?_) (fun c31 h => ?_)
    · exact AW.fewer (L' := [none, none]) (trivial) (hk _ h)
    · refine AW.aload_n dX8_read_225 rfl ?_
      refine AW.tgR (k := 72) dX8_read_226 (Nat.le_of_ble_eq_true rfl) (fun _ => rfl) q1612 rfl ia72 ?_
      refine AW.iload_n dX8_read_229 rfl ?_
      refine AW.iconst dX8_read_230 ?_
      refine AW.tzast (k := 72) dX8_read_231 ia72 (Nat.le_of_ble_eq_true rfl) mt72 rfl h (fun s30 h => ?_)
      refine AW.iinc (L' := [some (rV (some b)), some (iV (x1 + 1))]) dX8_read_232 rfl (Nat.le_of_ble_eq_true rfl) rfl rfl ?_
      refine AW.goto (tgt := 220) dX8_read_235 (by decide) ?_
      exact ih _ _ _ h hk
def f_X8_read (s0 : TW) : Option (Int × TW) :=
  bd (tp s0 4 (s0.1 2)) fun s1 => f_X8_read_L10 FU s1 0 (fun s5 => bd (tp s5 2 0) fun s6 => bt_ (f_X8_cut s6) fun _ s7 => bd (tp s7 11 0) fun s8 => bd (tp s8 12 0) fun s9 => bd (tp s9 13 0) fun s10 => bd (tp s10 15 0) fun s11 => bd (tp s11 19 (nrm (1 - (s11.1 18)))) fun s12 => bd (tp s12 20 0) fun s13 => bt_ (f_X8_plain s13 (s13.1 19)) fun _ s14 => bd (tp s14 38 (nrm (130 * (s14.1 19)))) fun s15 => bd (tp s15 44 (nrm (420 * (s15.1 19)))) fun s16 => f_X8_read_L112 FU s16 (fun s22 => jn (fun (s23 : TW) (y1 : Int) => bd (tp s23 17 (nrm y1)) fun s24 => (if nrm (s24.1 13) ≤ 0 then ((if nrm (s24.1 15) ≤ 0 then (bd (tp s24 18 (s24.1 19)) fun s25 => bt_ (f_X8_begins s25) fun _ s26 => bt_ (f_X8_keepsRows s26 0) fun _ s27 => bd (tp s27 61 0) fun s28 => bd (tp s28 67 0) fun s29 => f_X8_read_L220 FU s29 0 (fun s32 => some (0, s32))) else (some (s24.1 15, s24)))) else (some (s24.1 13, s24)))) fun j164 => (if nrm (s22.1 13) ≤ 0 then ((if nrm (s22.1 15) ≤ 0 then (j164 s22 (-1)) else (j164 s22 (s22.1 16)))) else (j164 s22 (s22.1 14)))))
theorem w_X8_read {b : Nat} {σ σ0 : Hp} {w : Int × TW} (s0 : TW) (h : f_X8_read s0 = some w) : AW m_X8_read σ0 (tI b σ w) 0 [some (rV (some b)), none] [] (insT b s0 σ) := by
  unfold f_X8_read at h
  refine AW.aload_n dX8_read_0 rfl ?_
  refine AW.aload_n dX8_read_1 rfl ?_
  refine AW.tgI (k := 2) dX8_read_2 (Nat.le_of_ble_eq_true rfl) (fun _ => rfl) q1542 rfl ?_
  refine AW.tpB (k := 4) dX8_read_5 (Nat.le_of_ble_eq_true rfl) rfl q1544 rfl rfl h (fun s1 h => ?_)
  refine AW.iconst dX8_read_8 ?_
  refine AW.istore_n (L' := [some (rV (some b)), some (iV 0)]) dX8_read_9 (Nat.le_of_ble_eq_true rfl) rfl rfl ?_
  refine w_X8_read_L10 _ _ _ _ h (fun s5 h => ?_)
  refine AW.aload_n dX8_read_36 rfl ?_
  refine AW.iconst dX8_read_37 ?_
  refine AW.tpB (k := 2) dX8_read_38 (Nat.le_of_ble_eq_true rfl) rfl q1542 rfl rfl h (fun s6 h => ?_)
  refine AW.aload_n dX8_read_41 rfl ?_
  refine AW.tVU (M' := m_X8_cut) [] [] dX8_read_42 q1783 q1785 qs65 q139 q1786 rfl n_X8_cut rfl rfl rfl (fun _ _ e => c_X8_cut e) h (fun _ s7 h => ?_)
  refine AW.aload_n dX8_read_45 rfl ?_
  refine AW.iconst dX8_read_46 ?_
  refine AW.tpB (k := 11) dX8_read_47 (Nat.le_of_ble_eq_true rfl) rfl q1551 rfl rfl h (fun s8 h => ?_)
  refine AW.aload_n dX8_read_50 rfl ?_
  refine AW.iconst dX8_read_51 ?_
  refine AW.tpB (k := 12) dX8_read_52 (Nat.le_of_ble_eq_true rfl) rfl q1552 rfl rfl h (fun s9 h => ?_)
  refine AW.aload_n dX8_read_55 rfl ?_
  refine AW.iconst dX8_read_56 ?_
  refine AW.tpB (k := 13) dX8_read_57 (Nat.le_of_ble_eq_true rfl) rfl q1553 rfl rfl h (fun s10 h => ?_)
  refine AW.aload_n dX8_read_60 rfl ?_
  refine AW.iconst dX8_read_61 ?_
  refine AW.tpB (k := 15) dX8_read_62 (Nat.le_of_ble_eq_true rfl) rfl q1555 rfl rfl h (fun s11 h => ?_)
  refine AW.aload_n dX8_read_65 rfl ?_
  refine AW.iconst dX8_read_66 ?_
  refine AW.aload_n dX8_read_67 rfl ?_
  refine AW.tgI (k := 18) dX8_read_68 (Nat.le_of_ble_eq_true rfl) (fun _ => rfl) q1558 rfl ?_
  refine AW.isub dX8_read_71 ?_
  refine AW.nv ?_
  refine AW.tpB (k := 19) dX8_read_72 (Nat.le_of_ble_eq_true rfl) rfl q1559 rfl rfl h (fun s12 h => ?_)
  refine AW.aload_n dX8_read_75 rfl ?_
  refine AW.iconst dX8_read_76 ?_
  refine AW.tpB (k := 20) dX8_read_77 (Nat.le_of_ble_eq_true rfl) rfl q1560 rfl rfl h (fun s13 h => ?_)
  refine AW.aload_n dX8_read_80 rfl ?_
  refine AW.aload_n dX8_read_81 rfl ?_
  refine AW.tgI (k := 19) dX8_read_82 (Nat.le_of_ble_eq_true rfl) (fun _ => rfl) q1559 rfl ?_
  refine AW.tVU (M' := m_X8_plain) [iV (s13.1 19)] [] dX8_read_85 q1487 q1489 qs53 q139 q1490 rfl n_X8_plain rfl rfl rfl (fun _ _ e => c_X8_plain e) h (fun _ s14 h => ?_)
  refine AW.aload_n dX8_read_88 rfl ?_
  refine AW.sipush dX8_read_89 (by decide) ?_
  refine AW.aload_n dX8_read_92 rfl ?_
  refine AW.tgI (k := 19) dX8_read_93 (Nat.le_of_ble_eq_true rfl) (fun _ => rfl) q1559 rfl ?_
  refine AW.imul dX8_read_96 ?_
  refine AW.nv ?_
  refine AW.tpB (k := 38) dX8_read_97 (Nat.le_of_ble_eq_true rfl) rfl q1578 rfl rfl h (fun s15 h => ?_)
  refine AW.aload_n dX8_read_100 rfl ?_
  refine AW.sipush dX8_read_101 (by decide) ?_
  refine AW.aload_n dX8_read_104 rfl ?_
  refine AW.tgI (k := 19) dX8_read_105 (Nat.le_of_ble_eq_true rfl) (fun _ => rfl) q1559 rfl ?_
  refine AW.imul dX8_read_108 ?_
  refine AW.nv ?_
  refine AW.tpB (k := 44) dX8_read_109 (Nat.le_of_ble_eq_true rfl) rfl q1584 rfl rfl h (fun s16 h => ?_)
  refine w_X8_read_L112 _ _ _ h (fun s22 h => ?_)
  refine AW.aload_n dX8_read_134 rfl ?_
  refine AW.aload_n dX8_read_135 rfl ?_
  refine AW.tgI (k := 13) dX8_read_136 (Nat.le_of_ble_eq_true rfl) (fun _ => rfl) q1553 rfl ?_
  refine jn_elim h (fun (j : (TW → Int → Option (Int × TW))) => ∀ (s23 : TW) (y1 : Int), j s23 y1 = some w → AW m_X8_read σ0 (tI b σ w) 164 [some (rV (some b)), none] [iV y1, rV (some b)] (insT b s23 σ)) ?_ (fun j164 hj164 h => ?_)
  · intro s23 y1 h
    refine AW.nv ?_
    refine AW.tpB (k := 17) dX8_read_164 (Nat.le_of_ble_eq_true rfl) rfl q1557 rfl rfl h (fun s24 h => ?_)
    refine AW.aload_n dX8_read_167 rfl ?_
    refine AW.tgI (k := 13) dX8_read_168 (Nat.le_of_ble_eq_true rfl) (fun _ => rfl) q1553 rfl ?_
    refine AW.if_le 179 dX8_read_171 (by decide) h (fun c34 h => ?_) (fun c34 h => ?_)
    · refine AW.aload_n dX8_read_179 rfl ?_
      refine AW.tgI (k := 15) dX8_read_180 (Nat.le_of_ble_eq_true rfl) (fun _ => rfl) q1555 rfl ?_
      refine AW.if_le 191 dX8_read_183 (by decide) h (fun c33 h => ?_) (fun c33 h => ?_)
      · refine AW.aload_n dX8_read_191 rfl ?_
        refine AW.aload_n dX8_read_192 rfl ?_
        refine AW.tgI (k := 19) dX8_read_193 (Nat.le_of_ble_eq_true rfl) (fun _ => rfl) q1559 rfl ?_
        refine AW.tpB (k := 18) dX8_read_196 (Nat.le_of_ble_eq_true rfl) rfl q1558 rfl rfl h (fun s25 h => ?_)
        refine AW.aload_n dX8_read_199 rfl ?_
        refine AW.tVU (M' := m_X8_begins) [] [] dX8_read_200 q1498 q1500 qs54 q139 q1501 rfl n_X8_begins rfl rfl rfl (fun _ _ e => c_X8_begins e) h (fun _ s26 h => ?_)
        refine AW.aload_n dX8_read_203 rfl ?_
        refine AW.iconst dX8_read_204 ?_
        refine AW.tVU (M' := m_X8_keepsRows) [iV 0] [] dX8_read_205 q1537 q1539 qs63 q139 q1540 rfl n_X8_keepsRows rfl rfl rfl (fun _ _ e => c_X8_keepsRows e) h (fun _ s27 h => ?_)
        refine AW.aload_n dX8_read_208 rfl ?_
        refine AW.iconst dX8_read_209 ?_
        refine AW.tpB (k := 61) dX8_read_210 (Nat.le_of_ble_eq_true rfl) rfl q1601 rfl rfl h (fun s28 h => ?_)
        refine AW.aload_n dX8_read_213 rfl ?_
        refine AW.iconst dX8_read_214 ?_
        refine AW.tpB (k := 67) dX8_read_215 (Nat.le_of_ble_eq_true rfl) rfl q1607 rfl rfl h (fun s29 h => ?_)
        refine AW.iconst dX8_read_218 ?_
        refine AW.istore_n (L' := [some (rV (some b)), some (iV 0)]) dX8_read_219 (Nat.le_of_ble_eq_true rfl) rfl rfl ?_
        refine w_X8_read_L220 _ _ _ _ h (fun s32 h => ?_)
        refine AW.iconst dX8_read_238 ?_
        cases h
        exact AW.iret dX8_read_239 rfl
      · refine AW.aload_n dX8_read_186 rfl ?_
        refine AW.tgI (k := 15) dX8_read_187 (Nat.le_of_ble_eq_true rfl) (fun _ => rfl) q1555 rfl ?_
        cases h
        exact AW.iret dX8_read_190 rfl
    · refine AW.aload_n dX8_read_174 rfl ?_
      refine AW.tgI (k := 13) dX8_read_175 (Nat.le_of_ble_eq_true rfl) (fun _ => rfl) q1553 rfl ?_
      cases h
      exact AW.iret dX8_read_178 rfl
  · refine AW.if_le 149 dX8_read_139 (by decide) h (fun c36 h => ?_) (fun c36 h => ?_)
    · refine AW.aload_n dX8_read_149 rfl ?_
      refine AW.tgI (k := 15) dX8_read_150 (Nat.le_of_ble_eq_true rfl) (fun _ => rfl) q1555 rfl ?_
      refine AW.if_le 163 dX8_read_153 (by decide) h (fun c35 h => ?_) (fun c35 h => ?_)
      · refine AW.iconst dX8_read_163 ?_
        exact hj164 _ _ h
      · refine AW.aload_n dX8_read_156 rfl ?_
        refine AW.tgI (k := 16) dX8_read_157 (Nat.le_of_ble_eq_true rfl) (fun _ => rfl) q1556 rfl ?_
        refine AW.goto (tgt := 164) dX8_read_160 (by decide) ?_
        exact hj164 _ _ h
    · refine AW.aload_n dX8_read_142 rfl ?_
      refine AW.tgI (k := 14) dX8_read_143 (Nat.le_of_ble_eq_true rfl) (fun _ => rfl) q1554 rfl ?_
      refine AW.goto (tgt := 164) dX8_read_146 (by decide) ?_
      exact hj164 _ _ h
theorem c_X8_read {b : Nat} {σ : Hp} {s0 : TW} {v : Int} {s1 : TW} (h : f_X8_read s0 = some (v, s1)) : Ct m_X8_read [rV (some b)] (insT b s0 σ) (.inl (some (iV v)), insT b s1 σ) :=
  Ct.of2 (w_X8_read s0 h) (by decide) rfl rfl rfl
abbrev m_X8_restore : Mi := (yX8_restore, cX8_restore, (some .boolean), 3, 1, 22, [])
theorem n_X8_restore : nameOk yX8_restore 1 := ⟨by decide, by decide, by decide +kernel⟩
def f_X8_restore_L35 : Nat → TW → Int → Int → (TW → Int → Option (Int × TW)) → Option (Int × TW)
  | 0, _, _, _, _ => none
  | n + 1, s0, x1, x2, k => (if nrm ((36 * (s0.1 53)) + 36) ≤ nrm x2 then (k s0 x1) else ((ta s0 73 ((10800 * x1) + x2)).bind fun v6 => (ts s0 52 x2 v6).bind fun s7 => f_X8_restore_L35 n s7 x1 (x2 + 1) k))
theorem w_X8_restore_L35 {b : Nat} {σ σ0 : Hp} {w : Int × TW} : ∀ (n : Nat) (s0 : TW) (x1 : Int) (x2 : Int) (k : (TW → Int → Option (Int × TW))), f_X8_restore_L35 n s0 x1 x2 k = some w → (∀ (s1 : TW) (x1 : Int), k s1 x1 = some w → AW m_X8_restore σ0 (tI b σ w) 73 [some (rV (some b)), some (iV x1), none] [] (insT b s1 σ)) → AW m_X8_restore σ0 (tI b σ w) 35 [some (rV (some b)), some (iV x1), some (iV x2)] [] (insT b s0 σ) := by
  intro n
  induction n with
  | zero =>
    intro s0 x1 x2 k h hk
    rw [f_X8_restore_L35] at h
    cases h
  | succ n ih =>
    intro s0 x1 x2 k h hk
    rw [f_X8_restore_L35] at h
    refine AW.iload_n dX8_restore_35 rfl ?_
    refine AW.bipush dX8_restore_36 (by decide) ?_
    refine AW.aload_n dX8_restore_38 rfl ?_
    refine AW.tgI (k := 53) dX8_restore_39 (Nat.le_of_ble_eq_true rfl) (fun _ => rfl) q1593 rfl ?_
    refine AW.imul dX8_restore_42 ?_
    refine AW.bipush dX8_restore_43 (by decide) ?_
    refine AW.iadd dX8_restore_45 ?_
    refine AW.icmp_ge 73 dX8_restore_46 (by decide) h (fun c8 h => ?_) (fun c8 h => ?_)
    · exact AW.fewer (L' := [some (rV (some b)), some (iV x1), none]) (And.intro rfl (And.intro rfl trivial)) (hk _ _ h)
    · refine AW.aload_n dX8_restore_49 rfl ?_
      refine AW.tgR (k := 52) dX8_restore_50 (Nat.le_of_ble_eq_true rfl) (fun _ => rfl) q1592 rfl ia52 ?_
      refine AW.iload_n dX8_restore_53 rfl ?_
      refine AW.aload_n dX8_restore_54 rfl ?_
      refine AW.tgR (k := 73) dX8_restore_55 (Nat.le_of_ble_eq_true rfl) (fun _ => rfl) q1613 rfl ia73 ?_
      refine AW.sipush dX8_restore_58 (by decide) ?_
      refine AW.iload_n dX8_restore_61 rfl ?_
      refine AW.imul dX8_restore_62 ?_
      refine AW.iload_n dX8_restore_63 rfl ?_
      refine AW.iadd dX8_restore_64 ?_
      refine AW.tiald (k := 73) dX8_restore_65 ia73 (Nat.le_of_ble_eq_true rfl) rfl h (fun v6 h => ?_)
      refine AW.tiast (k := 52) dX8_restore_66 ia52 (Nat.le_of_ble_eq_true rfl) mt52 rfl h (fun s7 h => ?_)
      refine AW.iinc (L' := [some (rV (some b)), some (iV x1), some (iV (x2 + 1))]) dX8_restore_67 rfl (Nat.le_of_ble_eq_true rfl) rfl rfl ?_
      refine AW.goto (tgt := 35) dX8_restore_70 (by decide) ?_
      exact ih _ _ _ _ h hk
def f_X8_restore_L75 : Nat → TW → Int → Int → (TW → Option (Int × TW)) → Option (Int × TW)
  | 0, _, _, _, _ => none
  | n + 1, s0, x1, x2, k => (if nrm 8 ≤ nrm x2 then (k s0) else ((ta s0 74 (((17 * x1) + 1) + x2)).bind fun v10 => (ts s0 54 x2 v10).bind fun s11 => (ta s11 74 (((17 * x1) + 9) + x2)).bind fun v12 => (ts s11 55 x2 v12).bind fun s13 => f_X8_restore_L75 n s13 x1 (x2 + 1) k))
theorem w_X8_restore_L75 {b : Nat} {σ σ0 : Hp} {w : Int × TW} : ∀ (n : Nat) (s0 : TW) (x1 : Int) (x2 : Int) (k : (TW → Option (Int × TW))), f_X8_restore_L75 n s0 x1 x2 k = some w → (∀ (s1 : TW), k s1 = some w → AW m_X8_restore σ0 (tI b σ w) 126 [some (rV (some b)), none, none] [] (insT b s1 σ)) → AW m_X8_restore σ0 (tI b σ w) 75 [some (rV (some b)), some (iV x1), some (iV x2)] [] (insT b s0 σ) := by
  intro n
  induction n with
  | zero =>
    intro s0 x1 x2 k h hk
    rw [f_X8_restore_L75] at h
    cases h
  | succ n ih =>
    intro s0 x1 x2 k h hk
    rw [f_X8_restore_L75] at h
    refine AW.iload_n dX8_restore_75 rfl ?_
    refine AW.bipush dX8_restore_76 (by decide) ?_
    refine AW.icmp_ge 126 dX8_restore_78 (by decide) h (fun c14 h => ?_) (fun c14 h => ?_)
    · exact AW.fewer (L' := [some (rV (some b)), none, none]) (And.intro rfl trivial) (hk _ h)
    · refine AW.aload_n dX8_restore_81 rfl ?_
      refine AW.tgR (k := 54) dX8_restore_82 (Nat.le_of_ble_eq_true rfl) (fun _ => rfl) q1594 rfl ia54 ?_
      refine AW.iload_n dX8_restore_85 rfl ?_
      refine AW.aload_n dX8_restore_86 rfl ?_
      refine AW.tgR (k := 74) dX8_restore_87 (Nat.le_of_ble_eq_true rfl) (fun _ => rfl) q1614 rfl ia74 ?_
      refine AW.bipush dX8_restore_90 (by decide) ?_
      refine AW.iload_n dX8_restore_92 rfl ?_
      refine AW.imul dX8_restore_93 ?_
      refine AW.iconst dX8_restore_94 ?_
      refine AW.iadd dX8_restore_95 ?_
      refine AW.iload_n dX8_restore_96 rfl ?_
      refine AW.iadd dX8_restore_97 ?_
      refine AW.tiald (k := 74) dX8_restore_98 ia74 (Nat.le_of_ble_eq_true rfl) rfl h (fun v10 h => ?_)
      refine AW.tiast (k := 54) dX8_restore_99 ia54 (Nat.le_of_ble_eq_true rfl) mt54 rfl h (fun s11 h => ?_)
      refine AW.aload_n dX8_restore_100 rfl ?_
      refine AW.tgR (k := 55) dX8_restore_101 (Nat.le_of_ble_eq_true rfl) (fun _ => rfl) q1595 rfl ia55 ?_
      refine AW.iload_n dX8_restore_104 rfl ?_
      refine AW.aload_n dX8_restore_105 rfl ?_
      refine AW.tgR (k := 74) dX8_restore_106 (Nat.le_of_ble_eq_true rfl) (fun _ => rfl) q1614 rfl ia74 ?_
      refine AW.bipush dX8_restore_109 (by decide) ?_
      refine AW.iload_n dX8_restore_111 rfl ?_
      refine AW.imul dX8_restore_112 ?_
      refine AW.bipush dX8_restore_113 (by decide) ?_
      refine AW.iadd dX8_restore_115 ?_
      refine AW.iload_n dX8_restore_116 rfl ?_
      refine AW.iadd dX8_restore_117 ?_
      refine AW.tiald (k := 74) dX8_restore_118 ia74 (Nat.le_of_ble_eq_true rfl) rfl h (fun v12 h => ?_)
      refine AW.tiast (k := 55) dX8_restore_119 ia55 (Nat.le_of_ble_eq_true rfl) mt55 rfl h (fun s13 h => ?_)
      refine AW.iinc (L' := [some (rV (some b)), some (iV x1), some (iV (x2 + 1))]) dX8_restore_120 rfl (Nat.le_of_ble_eq_true rfl) rfl rfl ?_
      refine AW.goto (tgt := 75) dX8_restore_123 (by decide) ?_
      exact ih _ _ _ _ h hk
def f_X8_restore (s0 : TW) (x1 : Int) : Option (Int × TW) :=
  bt_ (f_X8_in s0 x1 0 2) fun v2 s1 => (if nrm v2 = 0 then (some (0, s1)) else ((ta s1 72 x1).bind fun v3 => (if ¬ nrm v3 = 0 then ((ta s1 74 (17 * x1)).bind fun v4 => bd (tp s1 53 v4) fun s5 => f_X8_restore_L35 FU s5 x1 0 (fun s9 x1 => f_X8_restore_L75 FU s9 x1 0 (fun s15 => bd (tp s15 61 0) fun s16 => some (1, s16)))) else (some (0, s1)))))
theorem w_X8_restore {b : Nat} {σ σ0 : Hp} {w : Int × TW} (s0 : TW) (x1 : Int) (h : f_X8_restore s0 x1 = some w) : AW m_X8_restore σ0 (tI b σ w) 0 [some (rV (some b)), some (iV x1), none] [] (insT b s0 σ) := by
  unfold f_X8_restore at h
  refine AW.iload_n dX8_restore_0 rfl ?_
  refine AW.iconst dX8_restore_1 ?_
  refine AW.iconst dX8_restore_2 ?_
  refine AW.tSI (M' := m_X8_in) [iV x1, iV 0, iV 2] [] dX8_restore_3 q1897 q1898 q139 q1899 n_X8_in rfl rfl rfl (fun _ _ e => c_X8_in e) h (fun v2 s1 h => ?_)
  refine AW.if_eq 18 dX8_restore_6 (by decide) h (fun c18 h => ?_) (fun c18 h => ?_)
  · refine AW.iconst dX8_restore_18 ?_
    cases h
    exact AW.zret (z := 0) dX8_restore_19 rfl zz0
  · refine AW.aload_n dX8_restore_9 rfl ?_
    refine AW.tgR (k := 72) dX8_restore_10 (Nat.le_of_ble_eq_true rfl) (fun _ => rfl) q1612 rfl ia72 ?_
    refine AW.iload_n dX8_restore_13 rfl ?_
    refine AW.tzald (k := 72) dX8_restore_14 ia72 (Nat.le_of_ble_eq_true rfl) rfl h (fun v3 h => ?_)
    refine AW.if_ne 20 dX8_restore_15 (by decide) h (fun c17 h => ?_) (fun c17 h => ?_)
    · refine AW.aload_n dX8_restore_20 rfl ?_
      refine AW.aload_n dX8_restore_21 rfl ?_
      refine AW.tgR (k := 74) dX8_restore_22 (Nat.le_of_ble_eq_true rfl) (fun _ => rfl) q1614 rfl ia74 ?_
      refine AW.bipush dX8_restore_25 (by decide) ?_
      refine AW.iload_n dX8_restore_27 rfl ?_
      refine AW.imul dX8_restore_28 ?_
      refine AW.tiald (k := 74) dX8_restore_29 ia74 (Nat.le_of_ble_eq_true rfl) rfl h (fun v4 h => ?_)
      refine AW.tpB (k := 53) dX8_restore_30 (Nat.le_of_ble_eq_true rfl) rfl q1593 rfl rfl h (fun s5 h => ?_)
      refine AW.iconst dX8_restore_33 ?_
      refine AW.istore_n (L' := [some (rV (some b)), some (iV x1), some (iV 0)]) dX8_restore_34 (Nat.le_of_ble_eq_true rfl) rfl rfl ?_
      refine w_X8_restore_L35 _ _ _ _ _ h (fun s9 x1 h => ?_)
      refine AW.iconst dX8_restore_73 ?_
      refine AW.istore_n (L' := [some (rV (some b)), some (iV x1), some (iV 0)]) dX8_restore_74 (Nat.le_of_ble_eq_true rfl) rfl rfl ?_
      refine w_X8_restore_L75 _ _ _ _ _ h (fun s15 h => ?_)
      refine AW.aload_n dX8_restore_126 rfl ?_
      refine AW.iconst dX8_restore_127 ?_
      refine AW.tpB (k := 61) dX8_restore_128 (Nat.le_of_ble_eq_true rfl) rfl q1601 rfl rfl h (fun s16 h => ?_)
      refine AW.iconst dX8_restore_131 ?_
      cases h
      exact AW.zret (z := 1) dX8_restore_132 rfl zz1
    · refine AW.iconst dX8_restore_18 ?_
      cases h
      exact AW.zret (z := 0) dX8_restore_19 rfl zz0
theorem c_X8_restore {b : Nat} {σ : Hp} {s0 : TW} {x1 : Int} {v : Int} {s1 : TW} (h : f_X8_restore s0 x1 = some (v, s1)) : Ct m_X8_restore [rV (some b), iV x1] (insT b s0 σ) (.inl (some (iV v)), insT b s1 σ) :=
  Ct.of2 (w_X8_restore s0 x1 h) (by decide) rfl rfl rfl
abbrev m_X8_rests : Mi := (yX8_rests, cX8_rests, (some .int), 7, 5, 116, [])
theorem n_X8_rests : nameOk yX8_rests 3 := ⟨by decide, by decide, by decide +kernel⟩
def f_X8_rests_L55 : Nat → TW → Int → Int → Int → Int → Int → Int → (TW → Int → Int → Int → Int → Int → Option (Int × TW)) → Option (Int × TW)
  | 0, _, _, _, _, _, _, _, _ => none
  | n + 1, s0, x1, x2, x3, x4, x5, x6, k => (ta s0 24 (s0.1 18)).bind fun v7 => (if nrm v7 ≤ nrm x6 then (k s0 x1 x2 x3 x4 x5) else (bt_ (f_X8_isResting s0 x5 x6 (orI (slI 1 x1) (slI 1 x2))) fun v9 s8 => (if ¬ nrm v9 = 0 then ((if ¬ nrm x4 = nrm x3 then (f_X8_rests_L55 n s8 x1 x2 x3 (x4 + 1) x5 (x6 + 1) k) else (some (nrm ((10 * x5) + x6), s8)))) else (f_X8_rests_L55 n s8 x1 x2 x3 x4 x5 (x6 + 1) k))))
theorem w_X8_rests_L55 {b : Nat} {σ σ0 : Hp} {w : Int × TW} : ∀ (n : Nat) (s0 : TW) (x1 : Int) (x2 : Int) (x3 : Int) (x4 : Int) (x5 : Int) (x6 : Int) (k : (TW → Int → Int → Int → Int → Int → Option (Int × TW))), f_X8_rests_L55 n s0 x1 x2 x3 x4 x5 x6 k = some w → (∀ (s1 : TW) (x1 : Int) (x2 : Int) (x3 : Int) (x4 : Int) (x5 : Int), k s1 x1 x2 x3 x4 x5 = some w → AW m_X8_rests σ0 (tI b σ w) 114 [some (rV (some b)), some (iV x1), some (iV x2), some (iV x3), some (iV x4), some (iV x5), none] [] (insT b s1 σ)) → AW m_X8_rests σ0 (tI b σ w) 55 [some (rV (some b)), some (iV x1), some (iV x2), some (iV x3), some (iV x4), some (iV x5), some (iV x6)] [] (insT b s0 σ) := by
  intro n
  induction n with
  | zero =>
    intro s0 x1 x2 x3 x4 x5 x6 k h hk
    rw [f_X8_rests_L55] at h
    cases h
  | succ n ih =>
    intro s0 x1 x2 x3 x4 x5 x6 k h hk
    rw [f_X8_rests_L55] at h
    refine AW.iload dX8_rests_55 rfl ?_
    refine AW.aload_n dX8_rests_57 rfl ?_
    refine AW.tgR (k := 24) dX8_rests_58 (Nat.le_of_ble_eq_true rfl) (fun _ => rfl) q1564 rfl ia24 ?_
    refine AW.aload_n dX8_rests_61 rfl ?_
    refine AW.tgI (k := 18) dX8_rests_62 (Nat.le_of_ble_eq_true rfl) (fun _ => rfl) q1558 rfl ?_
    refine AW.tiald (k := 24) dX8_rests_65 ia24 (Nat.le_of_ble_eq_true rfl) rfl h (fun v7 h => ?_)
    refine AW.icmp_ge 114 dX8_rests_66 (by decide) h (fun c12 h => ?_) (fun c12 h => ?_)
    · exact AW.fewer (L' := [some (rV (some b)), some (iV x1), some (iV x2), some (iV x3), some (iV x4), some (iV x5), none]) (And.intro rfl (And.intro rfl (And.intro rfl (And.intro rfl (And.intro rfl (And.intro rfl trivial)))))) (hk _ _ _ _ _ _ h)
    · refine AW.aload_n dX8_rests_69 rfl ?_
      refine AW.iload dX8_rests_70 rfl ?_
      refine AW.iload dX8_rests_72 rfl ?_
      refine AW.iconst dX8_rests_74 ?_
      refine AW.iload_n dX8_rests_75 rfl ?_
      refine AW.ishl dX8_rests_76 ?_
      refine AW.iconst dX8_rests_77 ?_
      refine AW.iload_n dX8_rests_78 rfl ?_
      refine AW.ishl dX8_rests_79 ?_
      refine AW.ior dX8_rests_80 ?_
      refine AW.tVI (M' := m_X8_isResting) [iV x5, iV x6, iV (orI (slI 1 x1) (slI 1 x2))] [] dX8_rests_81 q2143 q2145 qs117 q139 q2146 rfl n_X8_isResting rfl rfl rfl (fun _ _ e => c_X8_isResting e) h (fun v9 s8 h => ?_)
      refine AW.if_ne 90 dX8_rests_84 (by decide) h (fun c11 h => ?_) (fun c11 h => ?_)
      · refine AW.iload dX8_rests_90 rfl ?_
        refine AW.iload_n dX8_rests_92 rfl ?_
        refine AW.icmp_ne 105 dX8_rests_93 (by decide) h (fun c10 h => ?_) (fun c10 h => ?_)
        · refine AW.iinc (L' := [some (rV (some b)), some (iV x1), some (iV x2), some (iV x3), some (iV (x4 + 1)), some (iV x5), some (iV x6)]) dX8_rests_105 rfl (Nat.le_of_ble_eq_true rfl) rfl rfl ?_
          refine AW.iinc (L' := [some (rV (some b)), some (iV x1), some (iV x2), some (iV x3), some (iV (x4 + 1)), some (iV x5), some (iV (x6 + 1))]) dX8_rests_108 rfl (Nat.le_of_ble_eq_true rfl) rfl rfl ?_
          refine AW.goto (tgt := 55) dX8_rests_111 (by decide) ?_
          exact ih _ _ _ _ _ _ _ _ h hk
        · refine AW.bipush dX8_rests_96 (by decide) ?_
          refine AW.iload dX8_rests_98 rfl ?_
          refine AW.imul dX8_rests_100 ?_
          refine AW.iload dX8_rests_101 rfl ?_
          refine AW.iadd dX8_rests_103 ?_
          refine AW.nv ?_
          cases h
          exact AW.iret dX8_rests_104 rfl
      · refine AW.goto (tgt := 108) dX8_rests_87 (by decide) ?_
        refine AW.iinc (L' := [some (rV (some b)), some (iV x1), some (iV x2), some (iV x3), some (iV x4), some (iV x5), some (iV (x6 + 1))]) dX8_rests_108 rfl (Nat.le_of_ble_eq_true rfl) rfl rfl ?_
        refine AW.goto (tgt := 55) dX8_rests_111 (by decide) ?_
        exact ih _ _ _ _ _ _ _ _ h hk
def f_X8_rests_L38 : Nat → TW → Int → Int → Int → Int → Int → (TW → Int → Int → Option (Int × TW)) → Option (Int × TW)
  | 0, _, _, _, _, _, _, _ => none
  | n + 1, s0, x1, x2, x3, x4, x5, k => (ta s0 24 (s0.1 18)).bind fun v6 => (if nrm v6 ≤ nrm x5 then (k s0 x3 x4) else (f_X8_rests_L55 FU s0 x1 x2 x3 x4 x5 0 (fun s13 x1 x2 x3 x4 x5 => f_X8_rests_L38 n s13 x1 x2 x3 x4 (x5 + 1) k)))
theorem w_X8_rests_L38 {b : Nat} {σ σ0 : Hp} {w : Int × TW} : ∀ (n : Nat) (s0 : TW) (x1 : Int) (x2 : Int) (x3 : Int) (x4 : Int) (x5 : Int) (k : (TW → Int → Int → Option (Int × TW))), f_X8_rests_L38 n s0 x1 x2 x3 x4 x5 k = some w → (∀ (s1 : TW) (x3 : Int) (x4 : Int), k s1 x3 x4 = some w → AW m_X8_rests σ0 (tI b σ w) 120 [none, none, none, some (iV x3), some (iV x4), none, none] [] (insT b s1 σ)) → AW m_X8_rests σ0 (tI b σ w) 38 [some (rV (some b)), some (iV x1), some (iV x2), some (iV x3), some (iV x4), some (iV x5), none] [] (insT b s0 σ) := by
  intro n
  induction n with
  | zero =>
    intro s0 x1 x2 x3 x4 x5 k h hk
    rw [f_X8_rests_L38] at h
    cases h
  | succ n ih =>
    intro s0 x1 x2 x3 x4 x5 k h hk
    rw [f_X8_rests_L38] at h
    refine AW.iload dX8_rests_38 rfl ?_
    refine AW.aload_n dX8_rests_40 rfl ?_
    refine AW.tgR (k := 24) dX8_rests_41 (Nat.le_of_ble_eq_true rfl) (fun _ => rfl) q1564 rfl ia24 ?_
    refine AW.aload_n dX8_rests_44 rfl ?_
    refine AW.tgI (k := 18) dX8_rests_45 (Nat.le_of_ble_eq_true rfl) (fun _ => rfl) q1558 rfl ?_
    refine AW.tiald (k := 24) dX8_rests_48 ia24 (Nat.le_of_ble_eq_true rfl) rfl h (fun v6 h => ?_)
    refine AW.icmp_ge 120 dX8_rests_49 (by decide) h (fun c14 h => ?_) (fun c14 h => ?_)
    · exact AW.fewer (L' := [none, none, none, some (iV x3), some (iV x4), none, none]) (And.intro rfl (And.intro rfl trivial)) (hk _ _ _ h)
    · refine AW.iconst dX8_rests_52 ?_
      refine AW.istore (L' := [some (rV (some b)), some (iV x1), some (iV x2), some (iV x3), some (iV x4), some (iV x5), some (iV 0)]) dX8_rests_53 (Nat.le_of_ble_eq_true rfl) rfl rfl ?_
      refine w_X8_rests_L55 _ _ _ _ _ _ _ _ _ h (fun s13 x1 x2 x3 x4 x5 h => ?_)
      refine AW.iinc (L' := [some (rV (some b)), some (iV x1), some (iV x2), some (iV x3), some (iV x4), some (iV (x5 + 1)), none]) dX8_rests_114 rfl (Nat.le_of_ble_eq_true rfl) rfl rfl ?_
      refine AW.goto (tgt := 38) dX8_rests_117 (by decide) ?_
      exact ih _ _ _ _ _ _ _ h hk
def f_X8_rests (s0 : TW) (x1 : Int) (x2 : Int) (x3 : Int) : Option (Int × TW) :=
  bt_ (f_X8_isMan s0 x1) fun v2 s1 => (if nrm v2 = 0 then (some ((-1), s1)) else (bt_ (f_X8_isMan s1 x2) fun v4 s3 => (if nrm v4 = 0 then (some ((-1), s3)) else ((if nrm x1 = nrm x2 then (some ((-1), s3)) else ((if nrm (-1) ≤ nrm x3 then (bt_ (f_X8_copies s3) fun _ s5 => f_X8_rests_L38 FU s5 x1 x2 x3 0 0 (fun s15 x3 x4 => (if ¬ nrm x3 = nrm (-1) then (some ((-1), s15)) else (some (nrm x4, s15))))) else (some ((-1), s3)))))))))
theorem w_X8_rests {b : Nat} {σ σ0 : Hp} {w : Int × TW} (s0 : TW) (x1 : Int) (x2 : Int) (x3 : Int) (h : f_X8_rests s0 x1 x2 x3 = some w) : AW m_X8_rests σ0 (tI b σ w) 0 [some (rV (some b)), some (iV x1), some (iV x2), some (iV x3), none, none, none] [] (insT b s0 σ) := by
  unfold f_X8_rests at h
  refine AW.aload_n dX8_rests_0 rfl ?_
  refine AW.iload_n dX8_rests_1 rfl ?_
  refine AW.tVI (M' := m_X8_isMan) [iV x1] [] dX8_rests_2 q1893 q1895 qs89 q139 q1896 rfl n_X8_isMan rfl rfl rfl (fun _ _ e => c_X8_isMan e) h (fun v2 s1 h => ?_)
  refine AW.if_eq 26 dX8_rests_5 (by decide) h (fun c20 h => ?_) (fun c20 h => ?_)
  · refine AW.iconst dX8_rests_26 ?_
    cases h
    exact AW.iret dX8_rests_27 rfl
  · refine AW.aload_n dX8_rests_8 rfl ?_
    refine AW.iload_n dX8_rests_9 rfl ?_
    refine AW.tVI (M' := m_X8_isMan) [iV x2] [] dX8_rests_10 q1893 q1895 qs89 q139 q1896 rfl n_X8_isMan rfl rfl rfl (fun _ _ e => c_X8_isMan e) h (fun v4 s3 h => ?_)
    refine AW.if_eq 26 dX8_rests_13 (by decide) h (fun c19 h => ?_) (fun c19 h => ?_)
    · refine AW.iconst dX8_rests_26 ?_
      cases h
      exact AW.iret dX8_rests_27 rfl
    · refine AW.iload_n dX8_rests_16 rfl ?_
      refine AW.iload_n dX8_rests_17 rfl ?_
      refine AW.icmp_eq 26 dX8_rests_18 (by decide) h (fun c18 h => ?_) (fun c18 h => ?_)
      · refine AW.iconst dX8_rests_26 ?_
        cases h
        exact AW.iret dX8_rests_27 rfl
      · refine AW.iload_n dX8_rests_21 rfl ?_
        refine AW.iconst dX8_rests_22 ?_
        refine AW.icmp_ge 28 dX8_rests_23 (by decide) h (fun c17 h => ?_) (fun c17 h => ?_)
        · refine AW.aload_n dX8_rests_28 rfl ?_
          refine AW.tVU (M' := m_X8_copies) [] [] dX8_rests_29 q1912 q1914 qs92 q139 q1915 rfl n_X8_copies rfl rfl rfl (fun _ _ e => c_X8_copies e) h (fun _ s5 h => ?_)
          refine AW.iconst dX8_rests_32 ?_
          refine AW.istore (L' := [some (rV (some b)), some (iV x1), some (iV x2), some (iV x3), some (iV 0), none, none]) dX8_rests_33 (Nat.le_of_ble_eq_true rfl) rfl rfl ?_
          refine AW.iconst dX8_rests_35 ?_
          refine AW.istore (L' := [some (rV (some b)), some (iV x1), some (iV x2), some (iV x3), some (iV 0), some (iV 0), none]) dX8_rests_36 (Nat.le_of_ble_eq_true rfl) rfl rfl ?_
          refine w_X8_rests_L38 _ _ _ _ _ _ _ _ h (fun s15 x3 x4 h => ?_)
          refine AW.iload_n dX8_rests_120 rfl ?_
          refine AW.iconst dX8_rests_121 ?_
          refine AW.icmp_ne 130 dX8_rests_122 (by decide) h (fun c16 h => ?_) (fun c16 h => ?_)
          · refine AW.iconst dX8_rests_130 ?_
            cases h
            exact AW.iret dX8_rests_131 rfl
          · refine AW.iload dX8_rests_125 rfl ?_
            refine AW.goto (tgt := 131) dX8_rests_127 (by decide) ?_
            refine AW.nv ?_
            cases h
            exact AW.iret dX8_rests_131 rfl
        · refine AW.iconst dX8_rests_26 ?_
          cases h
          exact AW.iret dX8_rests_27 rfl
theorem c_X8_rests {b : Nat} {σ : Hp} {s0 : TW} {x1 : Int} {x2 : Int} {x3 : Int} {v : Int} {s1 : TW} (h : f_X8_rests s0 x1 x2 x3 = some (v, s1)) : Ct m_X8_rests [rV (some b), iV x1, iV x2, iV x3] (insT b s0 σ) (.inl (some (iV v)), insT b s1 σ) :=
  Ct.of2 (w_X8_rests s0 x1 x2 x3 h) (by decide) rfl rfl rfl
abbrev m_X8_seen : Mi := (yX8_seen, cX8_seen, (some .int), 6, 6, 142, [])
theorem n_X8_seen : nameOk yX8_seen 2 := ⟨by decide, by decide, by decide +kernel⟩
def f_X8_seen_L51 : Nat → TW → Int → Int → Int → Int → (TW → Int → Int → Int → Option (Int × TW)) → Option (Int × TW)
  | 0, _, _, _, _, _, _ => none
  | n + 1, s0, x1, x3, x4, x5, k => (ta s0 31 (s0.1 18)).bind fun v7 => (if nrm v7 ≤ nrm x5 then (k s0 x1 x3 x4) else (bt_ (f_X8_isSeenIn s0 x5 x4 x1) fun v9 s8 => (if nrm v9 = 0 then (f_X8_seen_L51 n s8 x1 x3 x4 (x5 + 1) k) else (f_X8_seen_L51 n s8 x1 (x3 + 1) x4 (x5 + 1) k))))
theorem w_X8_seen_L51 {b : Nat} {σ σ0 : Hp} {w : Int × TW} : ∀ (n : Nat) (s0 : TW) (x1 : Int) (x3 : Int) (x4 : Int) (x5 : Int) (k : (TW → Int → Int → Int → Option (Int × TW))), f_X8_seen_L51 n s0 x1 x3 x4 x5 k = some w → (∀ (s1 : TW) (x1 : Int) (x3 : Int) (x4 : Int), k s1 x1 x3 x4 = some w → AW m_X8_seen σ0 (tI b σ w) 86 [some (rV (some b)), some (iV x1), none, some (iV x3), some (iV x4), none] [] (insT b s1 σ)) → AW m_X8_seen σ0 (tI b σ w) 51 [some (rV (some b)), some (iV x1), none, some (iV x3), some (iV x4), some (iV x5)] [] (insT b s0 σ) := by
  intro n
  induction n with
  | zero =>
    intro s0 x1 x3 x4 x5 k h hk
    rw [f_X8_seen_L51] at h
    cases h
  | succ n ih =>
    intro s0 x1 x3 x4 x5 k h hk
    rw [f_X8_seen_L51] at h
    refine AW.iload dX8_seen_51 rfl ?_
    refine AW.aload_n dX8_seen_53 rfl ?_
    refine AW.tgR (k := 31) dX8_seen_54 (Nat.le_of_ble_eq_true rfl) (fun _ => rfl) q1571 rfl ia31 ?_
    refine AW.aload_n dX8_seen_57 rfl ?_
    refine AW.tgI (k := 18) dX8_seen_58 (Nat.le_of_ble_eq_true rfl) (fun _ => rfl) q1558 rfl ?_
    refine AW.tiald (k := 31) dX8_seen_61 ia31 (Nat.le_of_ble_eq_true rfl) rfl h (fun v7 h => ?_)
    refine AW.icmp_ge 86 dX8_seen_62 (by decide) h (fun c11 h => ?_) (fun c11 h => ?_)
    · exact AW.fewer (L' := [some (rV (some b)), some (iV x1), none, some (iV x3), some (iV x4), none]) (And.intro rfl (And.intro rfl (And.intro rfl (And.intro rfl trivial)))) (hk _ _ _ _ h)
    · refine AW.aload_n dX8_seen_65 rfl ?_
      refine AW.iload dX8_seen_66 rfl ?_
      refine AW.iload dX8_seen_68 rfl ?_
      refine AW.iload_n dX8_seen_70 rfl ?_
      refine AW.tVI (M' := m_X8_isSeenIn) [iV x5, iV x4, iV x1] [] dX8_seen_71 q2099 q2101 qs113 q139 q2102 rfl n_X8_isSeenIn rfl rfl rfl (fun _ _ e => c_X8_isSeenIn e) h (fun v9 s8 h => ?_)
      refine AW.if_eq 80 dX8_seen_74 (by decide) h (fun c10 h => ?_) (fun c10 h => ?_)
      · refine AW.iinc (L' := [some (rV (some b)), some (iV x1), none, some (iV x3), some (iV x4), some (iV (x5 + 1))]) dX8_seen_80 rfl (Nat.le_of_ble_eq_true rfl) rfl rfl ?_
        refine AW.goto (tgt := 51) dX8_seen_83 (by decide) ?_
        exact ih _ _ _ _ _ _ h hk
      · refine AW.iinc (L' := [some (rV (some b)), some (iV x1), none, some (iV (x3 + 1)), some (iV x4), some (iV x5)]) dX8_seen_77 rfl (Nat.le_of_ble_eq_true rfl) rfl rfl ?_
        refine AW.iinc (L' := [some (rV (some b)), some (iV x1), none, some (iV (x3 + 1)), some (iV x4), some (iV (x5 + 1))]) dX8_seen_80 rfl (Nat.le_of_ble_eq_true rfl) rfl rfl ?_
        refine AW.goto (tgt := 51) dX8_seen_83 (by decide) ?_
        exact ih _ _ _ _ _ _ h hk
def f_X8_seen_L39 : Nat → TW → Int → Int → Int → (TW → Int → Option (Int × TW)) → Option (Int × TW)
  | 0, _, _, _, _, _ => none
  | n + 1, s0, x1, x3, x4, k => (if nrm (s0.1 57) < nrm x4 then (k s0 x3) else (f_X8_seen_L51 FU s0 x1 x3 x4 0 (fun s12 x1 x3 x4 => f_X8_seen_L39 n s12 x1 x3 (x4 + 1) k)))
theorem w_X8_seen_L39 {b : Nat} {σ σ0 : Hp} {w : Int × TW} : ∀ (n : Nat) (s0 : TW) (x1 : Int) (x3 : Int) (x4 : Int) (k : (TW → Int → Option (Int × TW))), f_X8_seen_L39 n s0 x1 x3 x4 k = some w → (∀ (s1 : TW) (x3 : Int), k s1 x3 = some w → AW m_X8_seen σ0 (tI b σ w) 92 [none, none, none, some (iV x3), none, none] [] (insT b s1 σ)) → AW m_X8_seen σ0 (tI b σ w) 39 [some (rV (some b)), some (iV x1), none, some (iV x3), some (iV x4), none] [] (insT b s0 σ) := by
  intro n
  induction n with
  | zero =>
    intro s0 x1 x3 x4 k h hk
    rw [f_X8_seen_L39] at h
    cases h
  | succ n ih =>
    intro s0 x1 x3 x4 k h hk
    rw [f_X8_seen_L39] at h
    refine AW.iload dX8_seen_39 rfl ?_
    refine AW.aload_n dX8_seen_41 rfl ?_
    refine AW.tgI (k := 57) dX8_seen_42 (Nat.le_of_ble_eq_true rfl) (fun _ => rfl) q1597 rfl ?_
    refine AW.icmp_gt 92 dX8_seen_45 (by decide) h (fun c13 h => ?_) (fun c13 h => ?_)
    · exact AW.fewer (L' := [none, none, none, some (iV x3), none, none]) (And.intro rfl trivial) (hk _ _ h)
    · refine AW.iconst dX8_seen_48 ?_
      refine AW.istore (L' := [some (rV (some b)), some (iV x1), none, some (iV x3), some (iV x4), some (iV 0)]) dX8_seen_49 (Nat.le_of_ble_eq_true rfl) rfl rfl ?_
      refine w_X8_seen_L51 _ _ _ _ _ _ _ h (fun s12 x1 x3 x4 h => ?_)
      refine AW.iinc (L' := [some (rV (some b)), some (iV x1), none, some (iV x3), some (iV (x4 + 1)), none]) dX8_seen_86 rfl (Nat.le_of_ble_eq_true rfl) rfl rfl ?_
      refine AW.goto (tgt := 39) dX8_seen_89 (by decide) ?_
      exact ih _ _ _ _ _ h hk
def f_X8_seen (s0 : TW) (x1 : Int) (x2 : Int) : Option (Int × TW) :=
  bt_ (f_X8_isMan s0 x1) fun v2 s1 => (if nrm v2 = 0 then (some ((-1), s1)) else (bt_ (f_X8_isLong s1 x2) fun v4 s3 => (if ¬ nrm v4 = 0 then (bt_ (f_X8_copies s3) fun _ s5 => bt_ (f_X8_goesTill s5 ((s5.1 53) + x2)) fun _ s6 => f_X8_seen_L39 FU s6 x1 0 (s6.1 53) (fun s14 x3 => some (nrm x3, s14))) else (some ((-1), s3)))))
theorem w_X8_seen {b : Nat} {σ σ0 : Hp} {w : Int × TW} (s0 : TW) (x1 : Int) (x2 : Int) (h : f_X8_seen s0 x1 x2 = some w) : AW m_X8_seen σ0 (tI b σ w) 0 [some (rV (some b)), some (iV x1), some (iV x2), none, none, none] [] (insT b s0 σ) := by
  unfold f_X8_seen at h
  refine AW.aload_n dX8_seen_0 rfl ?_
  refine AW.iload_n dX8_seen_1 rfl ?_
  refine AW.tVI (M' := m_X8_isMan) [iV x1] [] dX8_seen_2 q1893 q1895 qs89 q139 q1896 rfl n_X8_isMan rfl rfl rfl (fun _ _ e => c_X8_isMan e) h (fun v2 s1 h => ?_)
  refine AW.if_eq 15 dX8_seen_5 (by decide) h (fun c16 h => ?_) (fun c16 h => ?_)
  · refine AW.iconst dX8_seen_15 ?_
    cases h
    exact AW.iret dX8_seen_16 rfl
  · refine AW.iload_n dX8_seen_8 rfl ?_
    refine AW.tSI (M' := m_X8_isLong) [iV x2] [] dX8_seen_9 q2096 q2097 q139 q2098 n_X8_isLong rfl rfl rfl (fun _ _ e => c_X8_isLong e) h (fun v4 s3 h => ?_)
    refine AW.if_ne 17 dX8_seen_12 (by decide) h (fun c15 h => ?_) (fun c15 h => ?_)
    · refine AW.aload_n dX8_seen_17 rfl ?_
      refine AW.tVU (M' := m_X8_copies) [] [] dX8_seen_18 q1912 q1914 qs92 q139 q1915 rfl n_X8_copies rfl rfl rfl (fun _ _ e => c_X8_copies e) h (fun _ s5 h => ?_)
      refine AW.aload_n dX8_seen_21 rfl ?_
      refine AW.aload_n dX8_seen_22 rfl ?_
      refine AW.tgI (k := 53) dX8_seen_23 (Nat.le_of_ble_eq_true rfl) (fun _ => rfl) q1593 rfl ?_
      refine AW.iload_n dX8_seen_26 rfl ?_
      refine AW.iadd dX8_seen_27 ?_
      refine AW.tVU (M' := m_X8_goesTill) [iV ((s5.1 53) + x2)] [] dX8_seen_28 q1936 q1938 qs97 q139 q1939 rfl n_X8_goesTill rfl rfl rfl (fun _ _ e => c_X8_goesTill e) h (fun _ s6 h => ?_)
      refine AW.iconst dX8_seen_31 ?_
      refine AW.istore_n (L' := [some (rV (some b)), some (iV x1), some (iV x2), some (iV 0), none, none]) dX8_seen_32 (Nat.le_of_ble_eq_true rfl) rfl rfl ?_
      refine AW.aload_n dX8_seen_33 rfl ?_
      refine AW.tgI (k := 53) dX8_seen_34 (Nat.le_of_ble_eq_true rfl) (fun _ => rfl) q1593 rfl ?_
      refine AW.istore (L' := [some (rV (some b)), some (iV x1), some (iV x2), some (iV 0), some (iV (s6.1 53)), none]) dX8_seen_37 (Nat.le_of_ble_eq_true rfl) rfl rfl ?_
      refine AW.fewer (L' := [some (rV (some b)), some (iV x1), none, some (iV 0), some (iV (s6.1 53)), none]) (And.intro rfl (And.intro rfl (And.intro rfl (And.intro rfl trivial)))) ?_
      refine w_X8_seen_L39 _ _ _ _ _ _ h (fun s14 x3 h => ?_)
      refine AW.iload_n dX8_seen_92 rfl ?_
      refine AW.nv ?_
      cases h
      exact AW.iret dX8_seen_93 rfl
    · refine AW.iconst dX8_seen_15 ?_
      cases h
      exact AW.iret dX8_seen_16 rfl
theorem c_X8_seen {b : Nat} {σ : Hp} {s0 : TW} {x1 : Int} {x2 : Int} {v : Int} {s1 : TW} (h : f_X8_seen s0 x1 x2 = some (v, s1)) : Ct m_X8_seen [rV (some b), iV x1, iV x2] (insT b s0 σ) (.inl (some (iV v)), insT b s1 σ) :=
  Ct.of2 (w_X8_seen s0 x1 x2 h) (by decide) rfl rfl rfl
abbrev m_X8_shown : Mi := (yX8_shown, cX8_shown, (some .int), 7, 2, 45, [])
theorem n_X8_shown : nameOk yX8_shown 2 := ⟨by decide, by decide, by decide +kernel⟩
def f_X8_shown_L16 : Nat → TW → Int → Int → Int → (TW → Int → Int → Option (Int × TW)) → Option (Int × TW)
  | 0, _, _, _, _, _ => none
  | n + 1, s0, x1, x2, x3, k => (if nrm 300 ≤ nrm x3 then (k s0 x1 x2) else ((ts s0 65 x3 0).bind fun s4 => f_X8_shown_L16 n s4 x1 x2 (x3 + 1) k))
theorem w_X8_shown_L16 {b : Nat} {σ σ0 : Hp} {w : Int × TW} : ∀ (n : Nat) (s0 : TW) (x1 : Int) (x2 : Int) (x3 : Int) (k : (TW → Int → Int → Option (Int × TW))), f_X8_shown_L16 n s0 x1 x2 x3 k = some w → (∀ (s1 : TW) (x1 : Int) (x2 : Int), k s1 x1 x2 = some w → AW m_X8_shown σ0 (tI b σ w) 36 [some (rV (some b)), some (iV x1), some (iV x2), none, none, none, none] [] (insT b s1 σ)) → AW m_X8_shown σ0 (tI b σ w) 16 [some (rV (some b)), some (iV x1), some (iV x2), some (iV x3), none, none, none] [] (insT b s0 σ) := by
  intro n
  induction n with
  | zero =>
    intro s0 x1 x2 x3 k h hk
    rw [f_X8_shown_L16] at h
    cases h
  | succ n ih =>
    intro s0 x1 x2 x3 k h hk
    rw [f_X8_shown_L16] at h
    refine AW.iload_n dX8_shown_16 rfl ?_
    refine AW.sipush dX8_shown_17 (by decide) ?_
    refine AW.icmp_ge 36 dX8_shown_20 (by decide) h (fun c5 h => ?_) (fun c5 h => ?_)
    · exact AW.fewer (L' := [some (rV (some b)), some (iV x1), some (iV x2), none, none, none, none]) (And.intro rfl (And.intro rfl (And.intro rfl trivial))) (hk _ _ _ h)
    · refine AW.aload_n dX8_shown_23 rfl ?_
      refine AW.tgR (k := 65) dX8_shown_24 (Nat.le_of_ble_eq_true rfl) (fun _ => rfl) q1605 rfl ia65 ?_
      refine AW.iload_n dX8_shown_27 rfl ?_
      refine AW.iconst dX8_shown_28 ?_
      refine AW.tiast (k := 65) dX8_shown_29 ia65 (Nat.le_of_ble_eq_true rfl) mt65 rfl h (fun s4 h => ?_)
      refine AW.iinc (L' := [some (rV (some b)), some (iV x1), some (iV x2), some (iV (x3 + 1)), none, none, none]) dX8_shown_30 rfl (Nat.le_of_ble_eq_true rfl) rfl rfl ?_
      refine AW.goto (tgt := 16) dX8_shown_33 (by decide) ?_
      exact ih _ _ _ _ _ h hk
def f_X8_shown_L46 : Nat → TW → Int → Int → Int → Int → Int → (TW → Int → Int → Int → Option (Int × TW)) → Option (Int × TW)
  | 0, _, _, _, _, _, _, _ => none
  | n + 1, s0, x1, x2, x3, x4, x5, k => (if nrm (s0.1 57) < nrm x5 then (k s0 x2 x3 x4) else (bt_ (f_X8_showsAt s0 x1 x5) fun v8 s7 => (if 0 ≤ nrm v8 then ((ta s7 65 v8).bind fun v9 => (ts s7 65 v8 (nrm (v9 + 1))).bind fun s10 => jn (fun (s11 : TW) (x1 : Int) (x2 : Int) (x3 : Int) (x4 : Int) (x5 : Int) (x6 : Int) => (if nrm x6 ≤ nrm x4 then (f_X8_shown_L46 n s11 x1 x2 x3 x4 (x5 + 1) k) else (f_X8_shown_L46 n s11 x1 x2 x3 x6 (x5 + 1) k))) fun j92 => (if nrm x3 ≤ nrm v8 then (j92 s10 x1 x2 x3 x4 x5 v8) else (j92 s10 x1 x2 v8 x4 x5 v8))) else (f_X8_shown_L46 n s7 x1 x2 x3 x4 (x5 + 1) k))))
theorem w_X8_shown_L46 {b : Nat} {σ σ0 : Hp} {w : Int × TW} : ∀ (n : Nat) (s0 : TW) (x1 : Int) (x2 : Int) (x3 : Int) (x4 : Int) (x5 : Int) (k : (TW → Int → Int → Int → Option (Int × TW))), f_X8_shown_L46 n s0 x1 x2 x3 x4 x5 k = some w → (∀ (s1 : TW) (x2 : Int) (x3 : Int) (x4 : Int), k s1 x2 x3 x4 = some w → AW m_X8_shown σ0 (tI b σ w) 109 [some (rV (some b)), none, some (iV x2), some (iV x3), some (iV x4), none, none] [] (insT b s1 σ)) → AW m_X8_shown σ0 (tI b σ w) 46 [some (rV (some b)), some (iV x1), some (iV x2), some (iV x3), some (iV x4), some (iV x5), none] [] (insT b s0 σ) := by
  intro n
  induction n with
  | zero =>
    intro s0 x1 x2 x3 x4 x5 k h hk
    rw [f_X8_shown_L46] at h
    cases h
  | succ n ih =>
    intro s0 x1 x2 x3 x4 x5 k h hk
    rw [f_X8_shown_L46] at h
    refine AW.iload dX8_shown_46 rfl ?_
    refine AW.aload_n dX8_shown_48 rfl ?_
    refine AW.tgI (k := 57) dX8_shown_49 (Nat.le_of_ble_eq_true rfl) (fun _ => rfl) q1597 rfl ?_
    refine AW.icmp_gt 109 dX8_shown_52 (by decide) h (fun c15 h => ?_) (fun c15 h => ?_)
    · exact AW.fewer (L' := [some (rV (some b)), none, some (iV x2), some (iV x3), some (iV x4), none, none]) (And.intro rfl (And.intro rfl (And.intro rfl (And.intro rfl trivial)))) (hk _ _ _ _ h)
    · refine AW.aload_n dX8_shown_55 rfl ?_
      refine AW.iload_n dX8_shown_56 rfl ?_
      refine AW.iload dX8_shown_57 rfl ?_
      refine AW.tVI (M' := m_X8_showsAt) [iV x1, iV x5] [] dX8_shown_59 q1916 q1918 qs93 q139 q1919 rfl n_X8_showsAt rfl rfl rfl (fun _ _ e => c_X8_showsAt e) h (fun v8 s7 h => ?_)
      refine AW.istore (L' := [some (rV (some b)), some (iV x1), some (iV x2), some (iV x3), some (iV x4), some (iV x5), some (iV v8)]) dX8_shown_62 (Nat.le_of_ble_eq_true rfl) rfl rfl ?_
      refine AW.iload dX8_shown_64 rfl ?_
      refine AW.if_ge 72 dX8_shown_66 (by decide) h (fun c14 h => ?_) (fun c14 h => ?_)
      · refine AW.aload_n dX8_shown_72 rfl ?_
        refine AW.tgR (k := 65) dX8_shown_73 (Nat.le_of_ble_eq_true rfl) (fun _ => rfl) q1605 rfl ia65 ?_
        refine AW.iload dX8_shown_76 rfl ?_
        refine AW.dup2 dX8_shown_78 ?_
        refine AW.tiald (k := 65) dX8_shown_79 ia65 (Nat.le_of_ble_eq_true rfl) rfl h (fun v9 h => ?_)
        refine AW.iconst dX8_shown_80 ?_
        refine AW.iadd dX8_shown_81 ?_
        refine AW.nv ?_
        refine AW.tiast (k := 65) dX8_shown_82 ia65 (Nat.le_of_ble_eq_true rfl) mt65 rfl h (fun s10 h => ?_)
        refine AW.iload dX8_shown_83 rfl ?_
        refine AW.iload_n dX8_shown_85 rfl ?_
        refine jn_elim h (fun (j : (TW → Int → Int → Int → Int → Int → Int → Option (Int × TW))) => ∀ (s11 : TW) (x1 : Int) (x2 : Int) (x3 : Int) (x4 : Int) (x5 : Int) (x6 : Int), j s11 x1 x2 x3 x4 x5 x6 = some w → AW m_X8_shown σ0 (tI b σ w) 92 [some (rV (some b)), some (iV x1), some (iV x2), some (iV x3), some (iV x4), some (iV x5), some (iV x6)] [] (insT b s11 σ)) ?_ (fun j92 hj92 h => ?_)
        · intro s11 x1 x2 x3 x4 x5 x6 h
          refine AW.iload dX8_shown_92 rfl ?_
          refine AW.iload dX8_shown_94 rfl ?_
          refine AW.icmp_le 103 dX8_shown_96 (by decide) h (fun c12 h => ?_) (fun c12 h => ?_)
          · refine AW.iinc (L' := [some (rV (some b)), some (iV x1), some (iV x2), some (iV x3), some (iV x4), some (iV (x5 + 1)), some (iV x6)]) dX8_shown_103 rfl (Nat.le_of_ble_eq_true rfl) rfl rfl ?_
            refine AW.goto (tgt := 46) dX8_shown_106 (by decide) ?_
            exact AW.fewer (L' := [some (rV (some b)), some (iV x1), some (iV x2), some (iV x3), some (iV x4), some (iV (x5 + 1)), none]) (And.intro rfl (And.intro rfl (And.intro rfl (And.intro rfl (And.intro rfl (And.intro rfl trivial)))))) (ih _ _ _ _ _ _ _ h hk)
          · refine AW.iload dX8_shown_99 rfl ?_
            refine AW.istore (L' := [some (rV (some b)), some (iV x1), some (iV x2), some (iV x3), some (iV x6), some (iV x5), some (iV x6)]) dX8_shown_101 (Nat.le_of_ble_eq_true rfl) rfl rfl ?_
            refine AW.iinc (L' := [some (rV (some b)), some (iV x1), some (iV x2), some (iV x3), some (iV x6), some (iV (x5 + 1)), some (iV x6)]) dX8_shown_103 rfl (Nat.le_of_ble_eq_true rfl) rfl rfl ?_
            refine AW.goto (tgt := 46) dX8_shown_106 (by decide) ?_
            exact AW.fewer (L' := [some (rV (some b)), some (iV x1), some (iV x2), some (iV x3), some (iV x6), some (iV (x5 + 1)), none]) (And.intro rfl (And.intro rfl (And.intro rfl (And.intro rfl (And.intro rfl (And.intro rfl trivial)))))) (ih _ _ _ _ _ _ _ h hk)
        · refine AW.icmp_ge 92 dX8_shown_86 (by decide) h (fun c13 h => ?_) (fun c13 h => ?_)
          · exact hj92 _ _ _ _ _ _ _ h
          · refine AW.iload dX8_shown_89 rfl ?_
            refine AW.istore_n (L' := [some (rV (some b)), some (iV x1), some (iV x2), some (iV v8), some (iV x4), some (iV x5), some (iV v8)]) dX8_shown_91 (Nat.le_of_ble_eq_true rfl) rfl rfl ?_
            exact hj92 _ _ _ _ _ _ _ h
      · refine AW.goto (tgt := 103) dX8_shown_69 (by decide) ?_
        refine AW.iinc (L' := [some (rV (some b)), some (iV x1), some (iV x2), some (iV x3), some (iV x4), some (iV (x5 + 1)), some (iV v8)]) dX8_shown_103 rfl (Nat.le_of_ble_eq_true rfl) rfl rfl ?_
        refine AW.goto (tgt := 46) dX8_shown_106 (by decide) ?_
        exact AW.fewer (L' := [some (rV (some b)), some (iV x1), some (iV x2), some (iV x3), some (iV x4), some (iV (x5 + 1)), none]) (And.intro rfl (And.intro rfl (And.intro rfl (And.intro rfl (And.intro rfl (And.intro rfl trivial)))))) (ih _ _ _ _ _ _ _ h hk)
def f_X8_shown_L115 : Nat → TW → Int → Int → Int → Int → (TW → Int → Option (Int × TW)) → Option (Int × TW)
  | 0, _, _, _, _, _, _ => none
  | n + 1, s0, x2, x4, x5, x6, k => (if nrm x4 < nrm x6 then (k s0 x5) else ((if nrm x2 = 0 then ((ta s0 65 x6).bind fun v17 => (if nrm v17 ≤ nrm 1 then (f_X8_shown_L115 n s0 x2 x4 x5 (x6 + 1) k) else (f_X8_shown_L115 n s0 x2 x4 (x5 + 1) (x6 + 1) k))) else ((ta s0 65 x6).bind fun v19 => (if ¬ nrm v19 = 0 then (f_X8_shown_L115 n s0 x2 x4 x5 (x6 + 1) k) else (f_X8_shown_L115 n s0 x2 x4 (x5 + 1) (x6 + 1) k))))))
theorem w_X8_shown_L115 {b : Nat} {σ σ0 : Hp} {w : Int × TW} : ∀ (n : Nat) (s0 : TW) (x2 : Int) (x4 : Int) (x5 : Int) (x6 : Int) (k : (TW → Int → Option (Int × TW))), f_X8_shown_L115 n s0 x2 x4 x5 x6 k = some w → (∀ (s1 : TW) (x5 : Int), k s1 x5 = some w → AW m_X8_shown σ0 (tI b σ w) 159 [none, none, none, none, none, some (iV x5), none] [] (insT b s1 σ)) → AW m_X8_shown σ0 (tI b σ w) 115 [some (rV (some b)), none, some (iV x2), none, some (iV x4), some (iV x5), some (iV x6)] [] (insT b s0 σ) := by
  intro n
  induction n with
  | zero =>
    intro s0 x2 x4 x5 x6 k h hk
    rw [f_X8_shown_L115] at h
    cases h
  | succ n ih =>
    intro s0 x2 x4 x5 x6 k h hk
    rw [f_X8_shown_L115] at h
    refine AW.iload dX8_shown_115 rfl ?_
    refine AW.iload dX8_shown_117 rfl ?_
    refine AW.icmp_gt 159 dX8_shown_119 (by decide) h (fun c22 h => ?_) (fun c22 h => ?_)
    · exact AW.fewer (L' := [none, none, none, none, none, some (iV x5), none]) (And.intro rfl trivial) (hk _ _ h)
    · refine AW.iload_n dX8_shown_122 rfl ?_
      refine AW.if_eq 139 dX8_shown_123 (by decide) h (fun c21 h => ?_) (fun c21 h => ?_)
      · refine AW.aload_n dX8_shown_139 rfl ?_
        refine AW.tgR (k := 65) dX8_shown_140 (Nat.le_of_ble_eq_true rfl) (fun _ => rfl) q1605 rfl ia65 ?_
        refine AW.iload dX8_shown_143 rfl ?_
        refine AW.tiald (k := 65) dX8_shown_145 ia65 (Nat.le_of_ble_eq_true rfl) rfl h (fun v17 h => ?_)
        refine AW.iconst dX8_shown_146 ?_
        refine AW.icmp_le 153 dX8_shown_147 (by decide) h (fun c18 h => ?_) (fun c18 h => ?_)
        · refine AW.iinc (L' := [some (rV (some b)), none, some (iV x2), none, some (iV x4), some (iV x5), some (iV (x6 + 1))]) dX8_shown_153 rfl (Nat.le_of_ble_eq_true rfl) rfl rfl ?_
          refine AW.goto (tgt := 115) dX8_shown_156 (by decide) ?_
          exact ih _ _ _ _ _ _ h hk
        · refine AW.iinc (L' := [some (rV (some b)), none, some (iV x2), none, some (iV x4), some (iV (x5 + 1)), some (iV x6)]) dX8_shown_150 rfl (Nat.le_of_ble_eq_true rfl) rfl rfl ?_
          refine AW.iinc (L' := [some (rV (some b)), none, some (iV x2), none, some (iV x4), some (iV (x5 + 1)), some (iV (x6 + 1))]) dX8_shown_153 rfl (Nat.le_of_ble_eq_true rfl) rfl rfl ?_
          refine AW.goto (tgt := 115) dX8_shown_156 (by decide) ?_
          exact ih _ _ _ _ _ _ h hk
      · refine AW.aload_n dX8_shown_126 rfl ?_
        refine AW.tgR (k := 65) dX8_shown_127 (Nat.le_of_ble_eq_true rfl) (fun _ => rfl) q1605 rfl ia65 ?_
        refine AW.iload dX8_shown_130 rfl ?_
        refine AW.tiald (k := 65) dX8_shown_132 ia65 (Nat.le_of_ble_eq_true rfl) rfl h (fun v19 h => ?_)
        refine AW.if_ne 153 dX8_shown_133 (by decide) h (fun c20 h => ?_) (fun c20 h => ?_)
        · refine AW.iinc (L' := [some (rV (some b)), none, some (iV x2), none, some (iV x4), some (iV x5), some (iV (x6 + 1))]) dX8_shown_153 rfl (Nat.le_of_ble_eq_true rfl) rfl rfl ?_
          refine AW.goto (tgt := 115) dX8_shown_156 (by decide) ?_
          exact ih _ _ _ _ _ _ h hk
        · refine AW.goto (tgt := 150) dX8_shown_136 (by decide) ?_
          refine AW.iinc (L' := [some (rV (some b)), none, some (iV x2), none, some (iV x4), some (iV (x5 + 1)), some (iV x6)]) dX8_shown_150 rfl (Nat.le_of_ble_eq_true rfl) rfl rfl ?_
          refine AW.iinc (L' := [some (rV (some b)), none, some (iV x2), none, some (iV x4), some (iV (x5 + 1)), some (iV (x6 + 1))]) dX8_shown_153 rfl (Nat.le_of_ble_eq_true rfl) rfl rfl ?_
          refine AW.goto (tgt := 115) dX8_shown_156 (by decide) ?_
          exact ih _ _ _ _ _ _ h hk
def f_X8_shown (s0 : TW) (x1 : Int) (x2 : Int) : Option (Int × TW) :=
  bt_ (f_X8_isMirror s0 x1) fun v2 s1 => (if ¬ nrm v2 = 0 then (bt_ (f_X8_copies s1) fun _ s3 => f_X8_shown_L16 FU s3 x1 x2 0 (fun s6 x1 x2 => f_X8_shown_L46 FU s6 x1 x2 300 (-1) 0 (fun s16 x2 x3 x4 => f_X8_shown_L115 FU s16 x2 x4 0 x3 (fun s23 x5 => some (nrm x5, s23))))) else (some ((-1), s1)))
theorem w_X8_shown {b : Nat} {σ σ0 : Hp} {w : Int × TW} (s0 : TW) (x1 : Int) (x2 : Int) (h : f_X8_shown s0 x1 x2 = some w) : AW m_X8_shown σ0 (tI b σ w) 0 [some (rV (some b)), some (iV x1), some (iV x2), none, none, none, none] [] (insT b s0 σ) := by
  unfold f_X8_shown at h
  refine AW.aload_n dX8_shown_0 rfl ?_
  refine AW.iload_n dX8_shown_1 rfl ?_
  refine AW.tVI (M' := m_X8_isMirror) [iV x1] [] dX8_shown_2 q1908 q1910 qs91 q139 q1911 rfl n_X8_isMirror rfl rfl rfl (fun _ _ e => c_X8_isMirror e) h (fun v2 s1 h => ?_)
  refine AW.if_ne 10 dX8_shown_5 (by decide) h (fun c24 h => ?_) (fun c24 h => ?_)
  · refine AW.aload_n dX8_shown_10 rfl ?_
    refine AW.tVU (M' := m_X8_copies) [] [] dX8_shown_11 q1912 q1914 qs92 q139 q1915 rfl n_X8_copies rfl rfl rfl (fun _ _ e => c_X8_copies e) h (fun _ s3 h => ?_)
    refine AW.iconst dX8_shown_14 ?_
    refine AW.istore_n (L' := [some (rV (some b)), some (iV x1), some (iV x2), some (iV 0), none, none, none]) dX8_shown_15 (Nat.le_of_ble_eq_true rfl) rfl rfl ?_
    refine w_X8_shown_L16 _ _ _ _ _ _ h (fun s6 x1 x2 h => ?_)
    refine AW.sipush dX8_shown_36 (by decide) ?_
    refine AW.istore_n (L' := [some (rV (some b)), some (iV x1), some (iV x2), some (iV 300), none, none, none]) dX8_shown_39 (Nat.le_of_ble_eq_true rfl) rfl rfl ?_
    refine AW.iconst dX8_shown_40 ?_
    refine AW.istore (L' := [some (rV (some b)), some (iV x1), some (iV x2), some (iV 300), some (iV (-1)), none, none]) dX8_shown_41 (Nat.le_of_ble_eq_true rfl) rfl rfl ?_
    refine AW.iconst dX8_shown_43 ?_
    refine AW.istore (L' := [some (rV (some b)), some (iV x1), some (iV x2), some (iV 300), some (iV (-1)), some (iV 0), none]) dX8_shown_44 (Nat.le_of_ble_eq_true rfl) rfl rfl ?_
    refine w_X8_shown_L46 _ _ _ _ _ _ _ _ h (fun s16 x2 x3 x4 h => ?_)
    refine AW.iconst dX8_shown_109 ?_
    refine AW.istore (L' := [some (rV (some b)), none, some (iV x2), some (iV x3), some (iV x4), some (iV 0), none]) dX8_shown_110 (Nat.le_of_ble_eq_true rfl) rfl rfl ?_
    refine AW.iload_n dX8_shown_112 rfl ?_
    refine AW.istore (L' := [some (rV (some b)), none, some (iV x2), some (iV x3), some (iV x4), some (iV 0), some (iV x3)]) dX8_shown_113 (Nat.le_of_ble_eq_true rfl) rfl rfl ?_
    refine AW.fewer (L' := [some (rV (some b)), none, some (iV x2), none, some (iV x4), some (iV 0), some (iV x3)]) (And.intro rfl (And.intro rfl (And.intro rfl (And.intro rfl (And.intro rfl trivial))))) ?_
    refine w_X8_shown_L115 _ _ _ _ _ _ _ h (fun s23 x5 h => ?_)
    refine AW.iload dX8_shown_159 rfl ?_
    refine AW.nv ?_
    cases h
    exact AW.iret dX8_shown_161 rfl
  · refine AW.iconst dX8_shown_8 ?_
    cases h
    exact AW.iret dX8_shown_9 rfl
theorem c_X8_shown {b : Nat} {σ : Hp} {s0 : TW} {x1 : Int} {x2 : Int} {v : Int} {s1 : TW} (h : f_X8_shown s0 x1 x2 = some (v, s1)) : Ct m_X8_shown [rV (some b), iV x1, iV x2] (insT b s0 σ) (.inl (some (iV v)), insT b s1 σ) :=
  Ct.of2 (w_X8_shown s0 x1 x2 h) (by decide) rfl rfl rfl
