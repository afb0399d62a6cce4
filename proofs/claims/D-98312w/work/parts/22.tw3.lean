set_option maxRecDepth 100000
abbrev m_X8_facing : Mi := (yX8_facing, cX8_facing, (some .int), 6, 3, 68, [])
theorem n_X8_facing : nameOk yX8_facing 3 := ⟨by decide, by decide, by decide +kernel⟩
def f_X8_facing_L46 : Nat → TW → Int → Int → Int → Int → Int → (TW → Int → Int → Option (Int × TW)) → Option (Int × TW)
  | 0, _, _, _, _, _, _, _ => none
  | n + 1, s0, x1, x2, x3, x4, x5, k => (if nrm 20 ≤ nrm x4 then (k s0 x3 x4) else ((if nrm x5 < 0 then (k s0 x3 x4) else ((if ¬ nrm x4 = nrm x3 then ((if ¬ nrm (rmI (x4 + 1) 2) = nrm 1 then (bt_ (f_X8_seenIn s0 x2 x5 x1) fun v9 s8 => f_X8_facing_L46 n s8 x1 x2 x3 (x4 + 1) v9 k) else (bt_ (f_X8_seenIn s0 x1 x5 x2) fun v11 s10 => f_X8_facing_L46 n s10 x1 x2 x3 (x4 + 1) v11 k))) else (some (nrm x5, s0)))))))
theorem w_X8_facing_L46 {b : Nat} {σ σ0 : Hp} {w : Int × TW} : ∀ (n : Nat) (s0 : TW) (x1 : Int) (x2 : Int) (x3 : Int) (x4 : Int) (x5 : Int) (k : (TW → Int → Int → Option (Int × TW))), f_X8_facing_L46 n s0 x1 x2 x3 x4 x5 k = some w → (∀ (s1 : TW) (x3 : Int) (x4 : Int), k s1 x3 x4 = some w → AW m_X8_facing σ0 (tI b σ w) 102 [none, none, none, some (iV x3), some (iV x4), none] [] (insT b s1 σ)) → AW m_X8_facing σ0 (tI b σ w) 46 [some (rV (some b)), some (iV x1), some (iV x2), some (iV x3), some (iV x4), some (iV x5)] [] (insT b s0 σ) := by
  intro n
  induction n with
  | zero =>
    intro s0 x1 x2 x3 x4 x5 k h hk
    rw [f_X8_facing_L46] at h
    cases h
  | succ n ih =>
    intro s0 x1 x2 x3 x4 x5 k h hk
    rw [f_X8_facing_L46] at h
    refine AW.iload dX8_facing_46 rfl ?_
    refine AW.bipush dX8_facing_48 (by decide) ?_
    refine AW.icmp_ge 102 dX8_facing_50 (by decide) h (fun c15 h => ?_) (fun c15 h => ?_)
    · exact AW.fewer (L' := [none, none, none, some (iV x3), some (iV x4), none]) (And.intro rfl (And.intro rfl trivial)) (hk _ _ _ h)
    · refine AW.iload dX8_facing_53 rfl ?_
      refine AW.if_lt 102 dX8_facing_55 (by decide) h (fun c14 h => ?_) (fun c14 h => ?_)
      · exact AW.fewer (L' := [none, none, none, some (iV x3), some (iV x4), none]) (And.intro rfl (And.intro rfl trivial)) (hk _ _ _ h)
      · refine AW.iload dX8_facing_58 rfl ?_
        refine AW.iload_n dX8_facing_60 rfl ?_
        refine AW.icmp_ne 67 dX8_facing_61 (by decide) h (fun c13 h => ?_) (fun c13 h => ?_)
        · refine AW.iinc (L' := [some (rV (some b)), some (iV x1), some (iV x2), some (iV x3), some (iV (x4 + 1)), some (iV x5)]) dX8_facing_67 rfl (Nat.le_of_ble_eq_true rfl) rfl rfl ?_
          refine AW.iload dX8_facing_70 rfl ?_
          refine AW.iconst dX8_facing_72 ?_
          refine AW.irem dX8_facing_73 (by decide) ?_
          refine AW.iconst dX8_facing_74 ?_
          refine AW.icmp_ne 89 dX8_facing_75 (by decide) h (fun c12 h => ?_) (fun c12 h => ?_)
          · refine AW.aload_n dX8_facing_89 rfl ?_
            refine AW.iload_n dX8_facing_90 rfl ?_
            refine AW.iload dX8_facing_91 rfl ?_
            refine AW.iload_n dX8_facing_93 rfl ?_
            refine AW.tVI (M' := m_X8_seenIn) [iV x2, iV x5, iV x1] [] dX8_facing_94 q2008 q2010 qs107 q139 q2011 rfl n_X8_seenIn rfl rfl rfl (fun _ _ e => c_X8_seenIn e) h (fun v9 s8 h => ?_)
            refine AW.istore (L' := [some (rV (some b)), some (iV x1), some (iV x2), some (iV x3), some (iV (x4 + 1)), some (iV v9)]) dX8_facing_97 (Nat.le_of_ble_eq_true rfl) rfl rfl ?_
            refine AW.goto (tgt := 46) dX8_facing_99 (by decide) ?_
            exact ih _ _ _ _ _ _ _ h hk
          · refine AW.aload_n dX8_facing_78 rfl ?_
            refine AW.iload_n dX8_facing_79 rfl ?_
            refine AW.iload dX8_facing_80 rfl ?_
            refine AW.iload_n dX8_facing_82 rfl ?_
            refine AW.tVI (M' := m_X8_seenIn) [iV x1, iV x5, iV x2] [] dX8_facing_83 q2008 q2010 qs107 q139 q2011 rfl n_X8_seenIn rfl rfl rfl (fun _ _ e => c_X8_seenIn e) h (fun v11 s10 h => ?_)
            refine AW.goto (tgt := 97) dX8_facing_86 (by decide) ?_
            refine AW.istore (L' := [some (rV (some b)), some (iV x1), some (iV x2), some (iV x3), some (iV (x4 + 1)), some (iV v11)]) dX8_facing_97 (Nat.le_of_ble_eq_true rfl) rfl rfl ?_
            refine AW.goto (tgt := 46) dX8_facing_99 (by decide) ?_
            exact ih _ _ _ _ _ _ _ h hk
        · refine AW.iload dX8_facing_64 rfl ?_
          refine AW.nv ?_
          cases h
          exact AW.iret dX8_facing_66 rfl
def f_X8_facing (s0 : TW) (x1 : Int) (x2 : Int) (x3 : Int) : Option (Int × TW) :=
  bt_ (f_X8_isMirror s0 x1) fun v2 s1 => (if nrm v2 = 0 then (some ((-1), s1)) else (bt_ (f_X8_isMirror s1 x2) fun v4 s3 => (if nrm v4 = 0 then (some ((-1), s3)) else ((if nrm x1 = nrm x2 then (some ((-1), s3)) else ((if nrm (-1) ≤ nrm x3 then (bt_ (f_X8_copies s3) fun _ s5 => bt_ (f_X8_showsAt s5 x1 (s5.1 57)) fun v7 s6 => f_X8_facing_L46 FU s6 x1 x2 x3 0 v7 (fun s16 x3 x4 => (if ¬ nrm x3 = nrm (-1) then (some ((-1), s16)) else (some (nrm x4, s16))))) else (some ((-1), s3)))))))))
theorem w_X8_facing {b : Nat} {σ σ0 : Hp} {w : Int × TW} (s0 : TW) (x1 : Int) (x2 : Int) (x3 : Int) (h : f_X8_facing s0 x1 x2 x3 = some w) : AW m_X8_facing σ0 (tI b σ w) 0 [some (rV (some b)), some (iV x1), some (iV x2), some (iV x3), none, none] [] (insT b s0 σ) := by
  unfold f_X8_facing at h
  refine AW.aload_n dX8_facing_0 rfl ?_
  refine AW.iload_n dX8_facing_1 rfl ?_
  refine AW.tVI (M' := m_X8_isMirror) [iV x1] [] dX8_facing_2 q1908 q1910 qs91 q139 q1911 rfl n_X8_isMirror rfl rfl rfl (fun _ _ e => c_X8_isMirror e) h (fun v2 s1 h => ?_)
  refine AW.if_eq 26 dX8_facing_5 (by decide) h (fun c21 h => ?_) (fun c21 h => ?_)
  · refine AW.iconst dX8_facing_26 ?_
    cases h
    exact AW.iret dX8_facing_27 rfl
  · refine AW.aload_n dX8_facing_8 rfl ?_
    refine AW.iload_n dX8_facing_9 rfl ?_
    refine AW.tVI (M' := m_X8_isMirror) [iV x2] [] dX8_facing_10 q1908 q1910 qs91 q139 q1911 rfl n_X8_isMirror rfl rfl rfl (fun _ _ e => c_X8_isMirror e) h (fun v4 s3 h => ?_)
    refine AW.if_eq 26 dX8_facing_13 (by decide) h (fun c20 h => ?_) (fun c20 h => ?_)
    · refine AW.iconst dX8_facing_26 ?_
      cases h
      exact AW.iret dX8_facing_27 rfl
    · refine AW.iload_n dX8_facing_16 rfl ?_
      refine AW.iload_n dX8_facing_17 rfl ?_
      refine AW.icmp_eq 26 dX8_facing_18 (by decide) h (fun c19 h => ?_) (fun c19 h => ?_)
      · refine AW.iconst dX8_facing_26 ?_
        cases h
        exact AW.iret dX8_facing_27 rfl
      · refine AW.iload_n dX8_facing_21 rfl ?_
        refine AW.iconst dX8_facing_22 ?_
        refine AW.icmp_ge 28 dX8_facing_23 (by decide) h (fun c18 h => ?_) (fun c18 h => ?_)
        · refine AW.aload_n dX8_facing_28 rfl ?_
          refine AW.tVU (M' := m_X8_copies) [] [] dX8_facing_29 q1912 q1914 qs92 q139 q1915 rfl n_X8_copies rfl rfl rfl (fun _ _ e => c_X8_copies e) h (fun _ s5 h => ?_)
          refine AW.iconst dX8_facing_32 ?_
          refine AW.istore (L' := [some (rV (some b)), some (iV x1), some (iV x2), some (iV x3), some (iV 0), none]) dX8_facing_33 (Nat.le_of_ble_eq_true rfl) rfl rfl ?_
          refine AW.aload_n dX8_facing_35 rfl ?_
          refine AW.iload_n dX8_facing_36 rfl ?_
          refine AW.aload_n dX8_facing_37 rfl ?_
          refine AW.tgI (k := 57) dX8_facing_38 (Nat.le_of_ble_eq_true rfl) (fun _ => rfl) q1597 rfl ?_
          refine AW.tVI (M' := m_X8_showsAt) [iV x1, iV (s5.1 57)] [] dX8_facing_41 q1916 q1918 qs93 q139 q1919 rfl n_X8_showsAt rfl rfl rfl (fun _ _ e => c_X8_showsAt e) h (fun v7 s6 h => ?_)
          refine AW.istore (L' := [some (rV (some b)), some (iV x1), some (iV x2), some (iV x3), some (iV 0), some (iV v7)]) dX8_facing_44 (Nat.le_of_ble_eq_true rfl) rfl rfl ?_
          refine w_X8_facing_L46 _ _ _ _ _ _ _ _ h (fun s16 x3 x4 h => ?_)
          refine AW.iload_n dX8_facing_102 rfl ?_
          refine AW.iconst dX8_facing_103 ?_
          refine AW.icmp_ne 112 dX8_facing_104 (by decide) h (fun c17 h => ?_) (fun c17 h => ?_)
          · refine AW.iconst dX8_facing_112 ?_
            cases h
            exact AW.iret dX8_facing_113 rfl
          · refine AW.iload dX8_facing_107 rfl ?_
            refine AW.goto (tgt := 113) dX8_facing_109 (by decide) ?_
            refine AW.nv ?_
            cases h
            exact AW.iret dX8_facing_113 rfl
        · refine AW.iconst dX8_facing_26 ?_
          cases h
          exact AW.iret dX8_facing_27 rfl
theorem c_X8_facing {b : Nat} {σ : Hp} {s0 : TW} {x1 : Int} {x2 : Int} {x3 : Int} {v : Int} {s1 : TW} (h : f_X8_facing s0 x1 x2 x3 = some (v, s1)) : Ct m_X8_facing [rV (some b), iV x1, iV x2, iV x3] (insT b s0 σ) (.inl (some (iV v)), insT b s1 σ) :=
  Ct.of2 (w_X8_facing s0 x1 x2 x3 h) (by decide) rfl rfl rfl
abbrev m_X8_put : Mi := (yX8_put, cX8_put, none, 3, 0, 0, [])
theorem n_X8_put : nameOk yX8_put 1 := ⟨by decide, by decide, by decide +kernel⟩
def f_X8_put_L3 : Nat → TW → Int → Int → (TW → Option (Unit × TW)) → Option (Unit × TW)
  | 0, _, _, _, _ => none
  | n + 1, s0, x1, x2, k => (if nrm x2 < 0 then (k s0) else ((ts s0 1 (s0.1 2) (i8I (i8I (srI x1 x2)))).bind fun s1 => bd (tp s1 2 (nrm ((s1.1 2) + 1))) fun s2 => f_X8_put_L3 n s2 x1 (x2 + (-8)) k))
theorem w_X8_put_L3 {b : Nat} {σ σ0 : Hp} {w : Unit × TW} : ∀ (n : Nat) (s0 : TW) (x1 : Int) (x2 : Int) (k : (TW → Option (Unit × TW))), f_X8_put_L3 n s0 x1 x2 k = some w → (∀ (s1 : TW), k s1 = some w → AW m_X8_put σ0 (tU b σ w) 36 [none, none, none] [] (insT b s1 σ)) → AW m_X8_put σ0 (tU b σ w) 3 [some (rV (some b)), some (iV x1), some (iV x2)] [] (insT b s0 σ) := by
  intro n
  induction n with
  | zero =>
    intro s0 x1 x2 k h hk
    rw [f_X8_put_L3] at h
    cases h
  | succ n ih =>
    intro s0 x1 x2 k h hk
    rw [f_X8_put_L3] at h
    refine AW.iload_n dX8_put_3 rfl ?_
    refine AW.if_lt 36 dX8_put_4 (by decide) h (fun c3 h => ?_) (fun c3 h => ?_)
    · exact AW.fewer (L' := [none, none, none]) (trivial) (hk _ h)
    · refine AW.aload_n dX8_put_7 rfl ?_
      refine AW.tgR (k := 1) dX8_put_8 (Nat.le_of_ble_eq_true rfl) (fun _ => rfl) q1541 rfl ia1 ?_
      refine AW.aload_n dX8_put_11 rfl ?_
      refine AW.tgI (k := 2) dX8_put_12 (Nat.le_of_ble_eq_true rfl) (fun _ => rfl) q1542 rfl ?_
      refine AW.iload_n dX8_put_15 rfl ?_
      refine AW.iload_n dX8_put_16 rfl ?_
      refine AW.ishr dX8_put_17 ?_
      refine AW.i2b dX8_put_18 ?_
      refine AW.tbast (k := 1) dX8_put_19 ia1 (Nat.le_of_ble_eq_true rfl) mt1 rfl h (fun s1 h => ?_)
      refine AW.aload_n dX8_put_20 rfl ?_
      refine AW.dupR dX8_put_21 ?_
      refine AW.tgI (k := 2) dX8_put_22 (Nat.le_of_ble_eq_true rfl) (fun _ => rfl) q1542 rfl ?_
      refine AW.iconst dX8_put_25 ?_
      refine AW.iadd dX8_put_26 ?_
      refine AW.nv ?_
      refine AW.tpB (k := 2) dX8_put_27 (Nat.le_of_ble_eq_true rfl) rfl q1542 rfl rfl h (fun s2 h => ?_)
      refine AW.iinc (L' := [some (rV (some b)), some (iV x1), some (iV (x2 + (-8)))]) dX8_put_30 rfl (Nat.le_of_ble_eq_true rfl) rfl rfl ?_
      refine AW.goto (tgt := 3) dX8_put_33 (by decide) ?_
      exact ih _ _ _ _ h hk
def f_X8_put (s0 : TW) (x1 : Int) : Option (Unit × TW) :=
  f_X8_put_L3 FU s0 x1 24 (fun s4 => some ((), s4))
theorem w_X8_put {b : Nat} {σ σ0 : Hp} {w : Unit × TW} (s0 : TW) (x1 : Int) (h : f_X8_put s0 x1 = some w) : AW m_X8_put σ0 (tU b σ w) 0 [some (rV (some b)), some (iV x1), none] [] (insT b s0 σ) := by
  unfold f_X8_put at h
  refine AW.bipush dX8_put_0 (by decide) ?_
  refine AW.istore_n (L' := [some (rV (some b)), some (iV x1), some (iV 24)]) dX8_put_2 (Nat.le_of_ble_eq_true rfl) rfl rfl ?_
  refine w_X8_put_L3 _ _ _ _ _ h (fun s4 h => ?_)
  cases h
  exact AW.vret dX8_put_36 rfl
theorem c_X8_put {b : Nat} {σ : Hp} {s0 : TW} {x1 : Int} {v : Unit} {s1 : TW} (h : f_X8_put s0 x1 = some (v, s1)) : Ct m_X8_put [rV (some b), iV x1] (insT b s0 σ) (.inl none, insT b s1 σ) :=
  Ct.of2 (w_X8_put s0 x1 h) (by decide) rfl rfl rfl
abbrev m_X8_feed : Mi := (yX8_feed, cX8_feed, (some .int), 6, 1, 22, [])
theorem n_X8_feed : nameOk yX8_feed 5 := ⟨by decide, by decide, by decide +kernel⟩
def f_X8_feed (s0 : TW) (x1 : Int) (x2 : Int) (x3 : Int) (x4 : Int) (x5 : Int) : Option (Int × TW) :=
  (if nrm ((s0.1 2) + 20) ≤ nrm 2000 then (bt_ (f_X8_put s0 x1) fun _ s1 => bt_ (f_X8_put s1 x2) fun _ s2 => bt_ (f_X8_put s2 x3) fun _ s3 => bt_ (f_X8_put s3 x4) fun _ s4 => bt_ (f_X8_put s4 x5) fun _ s5 => some (s5.1 2, s5)) else (some ((-1), s0)))
theorem w_X8_feed {b : Nat} {σ σ0 : Hp} {w : Int × TW} (s0 : TW) (x1 : Int) (x2 : Int) (x3 : Int) (x4 : Int) (x5 : Int) (h : f_X8_feed s0 x1 x2 x3 x4 x5 = some w) : AW m_X8_feed σ0 (tI b σ w) 0 [some (rV (some b)), some (iV x1), some (iV x2), some (iV x3), some (iV x4), some (iV x5)] [] (insT b s0 σ) := by
  unfold f_X8_feed at h
  refine AW.aload_n dX8_feed_0 rfl ?_
  refine AW.tgI (k := 2) dX8_feed_1 (Nat.le_of_ble_eq_true rfl) (fun _ => rfl) q1542 rfl ?_
  refine AW.bipush dX8_feed_4 (by decide) ?_
  refine AW.iadd dX8_feed_6 ?_
  refine AW.sipush dX8_feed_7 (by decide) ?_
  refine AW.icmp_le 15 dX8_feed_10 (by decide) h (fun c6 h => ?_) (fun c6 h => ?_)
  · refine AW.aload_n dX8_feed_15 rfl ?_
    refine AW.iload_n dX8_feed_16 rfl ?_
    refine AW.tVU (M' := m_X8_put) [iV x1] [] dX8_feed_17 q1771 q1773 qs64 q139 q1774 rfl n_X8_put rfl rfl rfl (fun _ _ e => c_X8_put e) h (fun _ s1 h => ?_)
    refine AW.aload_n dX8_feed_20 rfl ?_
    refine AW.iload_n dX8_feed_21 rfl ?_
    refine AW.tVU (M' := m_X8_put) [iV x2] [] dX8_feed_22 q1771 q1773 qs64 q139 q1774 rfl n_X8_put rfl rfl rfl (fun _ _ e => c_X8_put e) h (fun _ s2 h => ?_)
    refine AW.aload_n dX8_feed_25 rfl ?_
    refine AW.iload_n dX8_feed_26 rfl ?_
    refine AW.tVU (M' := m_X8_put) [iV x3] [] dX8_feed_27 q1771 q1773 qs64 q139 q1774 rfl n_X8_put rfl rfl rfl (fun _ _ e => c_X8_put e) h (fun _ s3 h => ?_)
    refine AW.aload_n dX8_feed_30 rfl ?_
    refine AW.iload dX8_feed_31 rfl ?_
    refine AW.tVU (M' := m_X8_put) [iV x4] [] dX8_feed_33 q1771 q1773 qs64 q139 q1774 rfl n_X8_put rfl rfl rfl (fun _ _ e => c_X8_put e) h (fun _ s4 h => ?_)
    refine AW.aload_n dX8_feed_36 rfl ?_
    refine AW.iload dX8_feed_37 rfl ?_
    refine AW.tVU (M' := m_X8_put) [iV x5] [] dX8_feed_39 q1771 q1773 qs64 q139 q1774 rfl n_X8_put rfl rfl rfl (fun _ _ e => c_X8_put e) h (fun _ s5 h => ?_)
    refine AW.aload_n dX8_feed_42 rfl ?_
    refine AW.tgI (k := 2) dX8_feed_43 (Nat.le_of_ble_eq_true rfl) (fun _ => rfl) q1542 rfl ?_
    cases h
    exact AW.iret dX8_feed_46 rfl
  · refine AW.iconst dX8_feed_13 ?_
    cases h
    exact AW.iret dX8_feed_14 rfl
theorem c_X8_feed {b : Nat} {σ : Hp} {s0 : TW} {x1 : Int} {x2 : Int} {x3 : Int} {x4 : Int} {x5 : Int} {v : Int} {s1 : TW} (h : f_X8_feed s0 x1 x2 x3 x4 x5 = some (v, s1)) : Ct m_X8_feed [rV (some b), iV x1, iV x2, iV x3, iV x4, iV x5] (insT b s0 σ) (.inl (some (iV v)), insT b s1 σ) :=
  Ct.of2 (w_X8_feed s0 x1 x2 x3 x4 x5 h) (by decide) rfl rfl rfl
abbrev m_X8_fillsAll : Mi := (yX8_fillsAll, cX8_fillsAll, none, 1, 6, 142, [])
theorem n_X8_fillsAll : nameOk yX8_fillsAll 0 := ⟨by decide, by decide, by decide +kernel⟩
def f_X8_fillsAll (s0 : TW) : Option (Unit × TW) :=
  bt_ (f_X8_copies s0) fun _ s1 => bt_ (f_X8_goesTill s1 299) fun _ s2 => some ((), s2)
theorem w_X8_fillsAll {b : Nat} {σ σ0 : Hp} {w : Unit × TW} (s0 : TW) (h : f_X8_fillsAll s0 = some w) : AW m_X8_fillsAll σ0 (tU b σ w) 0 [some (rV (some b))] [] (insT b s0 σ) := by
  unfold f_X8_fillsAll at h
  refine AW.aload_n dX8_fillsAll_0 rfl ?_
  refine AW.tVU (M' := m_X8_copies) [] [] dX8_fillsAll_1 q1912 q1914 qs92 q139 q1915 rfl n_X8_copies rfl rfl rfl (fun _ _ e => c_X8_copies e) h (fun _ s1 h => ?_)
  refine AW.aload_n dX8_fillsAll_4 rfl ?_
  refine AW.sipush dX8_fillsAll_5 (by decide) ?_
  refine AW.tVU (M' := m_X8_goesTill) [iV 299] [] dX8_fillsAll_8 q1936 q1938 qs97 q139 q1939 rfl n_X8_goesTill rfl rfl rfl (fun _ _ e => c_X8_goesTill e) h (fun _ s2 h => ?_)
  cases h
  exact AW.vret dX8_fillsAll_11 rfl
theorem c_X8_fillsAll {b : Nat} {σ : Hp} {s0 : TW} {v : Unit} {s1 : TW} (h : f_X8_fillsAll s0 = some (v, s1)) : Ct m_X8_fillsAll [rV (some b)] (insT b s0 σ) (.inl none, insT b s1 σ) :=
  Ct.of2 (w_X8_fillsAll s0 h) (by decide) rfl rfl rfl
abbrev m_X8_fillsFar : Mi := (yX8_fillsFar, cX8_fillsFar, none, 7, 0, 0, [])
theorem n_X8_fillsFar : nameOk yX8_fillsFar 2 := ⟨by decide, by decide, by decide +kernel⟩
def f_X8_fillsFar_L2 : Nat → TW → Int → Int → Int → (TW → Int → Int → Option (Unit × TW)) → Option (Unit × TW)
  | 0, _, _, _, _, _ => none
  | n + 1, s0, x1, x2, x3, k => (if nrm 8 ≤ nrm x3 then (k s0 x1 x2) else ((ts s0 66 x3 (-1)).bind fun s1 => f_X8_fillsFar_L2 n s1 x1 x2 (x3 + 1) k))
theorem w_X8_fillsFar_L2 {b : Nat} {σ σ0 : Hp} {w : Unit × TW} : ∀ (n : Nat) (s0 : TW) (x1 : Int) (x2 : Int) (x3 : Int) (k : (TW → Int → Int → Option (Unit × TW))), f_X8_fillsFar_L2 n s0 x1 x2 x3 k = some w → (∀ (s1 : TW) (x1 : Int) (x2 : Int), k s1 x1 x2 = some w → AW m_X8_fillsFar σ0 (tU b σ w) 21 [some (rV (some b)), some (iV x1), some (iV x2), none, none, none, none] [] (insT b s1 σ)) → AW m_X8_fillsFar σ0 (tU b σ w) 2 [some (rV (some b)), some (iV x1), some (iV x2), some (iV x3), none, none, none] [] (insT b s0 σ) := by
  intro n
  induction n with
  | zero =>
    intro s0 x1 x2 x3 k h hk
    rw [f_X8_fillsFar_L2] at h
    cases h
  | succ n ih =>
    intro s0 x1 x2 x3 k h hk
    rw [f_X8_fillsFar_L2] at h
    refine AW.iload_n dX8_fillsFar_2 rfl ?_
    refine AW.bipush dX8_fillsFar_3 (by decide) ?_
    refine AW.icmp_ge 21 dX8_fillsFar_5 (by decide) h (fun c2 h => ?_) (fun c2 h => ?_)
    · exact AW.fewer (L' := [some (rV (some b)), some (iV x1), some (iV x2), none, none, none, none]) (And.intro rfl (And.intro rfl (And.intro rfl trivial))) (hk _ _ _ h)
    · refine AW.aload_n dX8_fillsFar_8 rfl ?_
      refine AW.tgR (k := 66) dX8_fillsFar_9 (Nat.le_of_ble_eq_true rfl) (fun _ => rfl) q1606 rfl ia66 ?_
      refine AW.iload_n dX8_fillsFar_12 rfl ?_
      refine AW.iconst dX8_fillsFar_13 ?_
      refine AW.tiast (k := 66) dX8_fillsFar_14 ia66 (Nat.le_of_ble_eq_true rfl) mt66 rfl h (fun s1 h => ?_)
      refine AW.iinc (L' := [some (rV (some b)), some (iV x1), some (iV x2), some (iV (x3 + 1)), none, none, none]) dX8_fillsFar_15 rfl (Nat.le_of_ble_eq_true rfl) rfl rfl ?_
      refine AW.goto (tgt := 2) dX8_fillsFar_18 (by decide) ?_
      exact ih _ _ _ _ _ h hk
def f_X8_fillsFar_L48 : Nat → TW → Int → Int → Int → (TW → Int → Int → Option (Unit × TW)) → Option (Unit × TW)
  | 0, _, _, _, _, _ => none
  | n + 1, s0, x2, x3, x4, k => (ta s0 25 (s0.1 18)).bind fun v5 => (if nrm v5 ≤ nrm x4 then (k s0 x2 x3) else ((ta s0 26 ((12 * (s0.1 18)) + x4)).bind fun v6 => (ta s0 27 ((12 * (s0.1 18)) + x4)).bind fun v7 => (ta s0 66 v6).bind fun v8 => jn (fun (s9 : TW) (x2 : Int) (x3 : Int) (x4 : Int) (x5 : Int) (x6 : Int) => (ta s9 66 x6).bind fun v10 => (if ¬ nrm v10 = nrm x3 then (f_X8_fillsFar_L48 n s9 x2 x3 (x4 + 1) k) else ((ta s9 66 x5).bind fun v11 => (if 0 ≤ nrm v11 then (f_X8_fillsFar_L48 n s9 x2 x3 (x4 + 1) k) else ((if ¬ nrm (anI (srI x2 x5) 1) = nrm 1 then (f_X8_fillsFar_L48 n s9 x2 x3 (x4 + 1) k) else ((ts s9 66 x5 (nrm (x3 + 1))).bind fun s12 => f_X8_fillsFar_L48 n s12 x2 x3 (x4 + 1) k))))))) fun j137 => (if ¬ nrm v8 = nrm x3 then (j137 s0 x2 x3 x4 v6 v7) else ((ta s0 66 v7).bind fun v16 => (if 0 ≤ nrm v16 then (j137 s0 x2 x3 x4 v6 v7) else ((if ¬ nrm (anI (srI x2 v7) 1) = nrm 1 then (j137 s0 x2 x3 x4 v6 v7) else ((ts s0 66 v7 (nrm (x3 + 1))).bind fun s17 => j137 s17 x2 x3 x4 v6 v7))))))))
theorem w_X8_fillsFar_L48 {b : Nat} {σ σ0 : Hp} {w : Unit × TW} : ∀ (n : Nat) (s0 : TW) (x2 : Int) (x3 : Int) (x4 : Int) (k : (TW → Int → Int → Option (Unit × TW))), f_X8_fillsFar_L48 n s0 x2 x3 x4 k = some w → (∀ (s1 : TW) (x2 : Int) (x3 : Int), k s1 x2 x3 = some w → AW m_X8_fillsFar σ0 (tU b σ w) 184 [some (rV (some b)), none, some (iV x2), some (iV x3), none, none, none] [] (insT b s1 σ)) → AW m_X8_fillsFar σ0 (tU b σ w) 48 [some (rV (some b)), none, some (iV x2), some (iV x3), some (iV x4), none, none] [] (insT b s0 σ) := by
  intro n
  induction n with
  | zero =>
    intro s0 x2 x3 x4 k h hk
    rw [f_X8_fillsFar_L48] at h
    cases h
  | succ n ih =>
    intro s0 x2 x3 x4 k h hk
    rw [f_X8_fillsFar_L48] at h
    refine AW.iload dX8_fillsFar_48 rfl ?_
    refine AW.aload_n dX8_fillsFar_50 rfl ?_
    refine AW.tgR (k := 25) dX8_fillsFar_51 (Nat.le_of_ble_eq_true rfl) (fun _ => rfl) q1565 rfl ia25 ?_
    refine AW.aload_n dX8_fillsFar_54 rfl ?_
    refine AW.tgI (k := 18) dX8_fillsFar_55 (Nat.le_of_ble_eq_true rfl) (fun _ => rfl) q1558 rfl ?_
    refine AW.tiald (k := 25) dX8_fillsFar_58 ia25 (Nat.le_of_ble_eq_true rfl) rfl h (fun v5 h => ?_)
    refine AW.icmp_ge 184 dX8_fillsFar_59 (by decide) h (fun c21 h => ?_) (fun c21 h => ?_)
    · exact AW.fewer (L' := [some (rV (some b)), none, some (iV x2), some (iV x3), none, none, none]) (And.intro rfl (And.intro rfl (And.intro rfl trivial))) (hk _ _ _ h)
    · refine AW.aload_n dX8_fillsFar_62 rfl ?_
      refine AW.tgR (k := 26) dX8_fillsFar_63 (Nat.le_of_ble_eq_true rfl) (fun _ => rfl) q1566 rfl ia26 ?_
      refine AW.bipush dX8_fillsFar_66 (by decide) ?_
      refine AW.aload_n dX8_fillsFar_68 rfl ?_
      refine AW.tgI (k := 18) dX8_fillsFar_69 (Nat.le_of_ble_eq_true rfl) (fun _ => rfl) q1558 rfl ?_
      refine AW.imul dX8_fillsFar_72 ?_
      refine AW.iload dX8_fillsFar_73 rfl ?_
      refine AW.iadd dX8_fillsFar_75 ?_
      refine AW.tiald (k := 26) dX8_fillsFar_76 ia26 (Nat.le_of_ble_eq_true rfl) rfl h (fun v6 h => ?_)
      refine AW.istore (L' := [some (rV (some b)), none, some (iV x2), some (iV x3), some (iV x4), some (iV v6), none]) dX8_fillsFar_77 (Nat.le_of_ble_eq_true rfl) rfl rfl ?_
      refine AW.aload_n dX8_fillsFar_79 rfl ?_
      refine AW.tgR (k := 27) dX8_fillsFar_80 (Nat.le_of_ble_eq_true rfl) (fun _ => rfl) q1567 rfl ia27 ?_
      refine AW.bipush dX8_fillsFar_83 (by decide) ?_
      refine AW.aload_n dX8_fillsFar_85 rfl ?_
      refine AW.tgI (k := 18) dX8_fillsFar_86 (Nat.le_of_ble_eq_true rfl) (fun _ => rfl) q1558 rfl ?_
      refine AW.imul dX8_fillsFar_89 ?_
      refine AW.iload dX8_fillsFar_90 rfl ?_
      refine AW.iadd dX8_fillsFar_92 ?_
      refine AW.tiald (k := 27) dX8_fillsFar_93 ia27 (Nat.le_of_ble_eq_true rfl) rfl h (fun v7 h => ?_)
      refine AW.istore (L' := [some (rV (some b)), none, some (iV x2), some (iV x3), some (iV x4), some (iV v6), some (iV v7)]) dX8_fillsFar_94 (Nat.le_of_ble_eq_true rfl) rfl rfl ?_
      refine AW.aload_n dX8_fillsFar_96 rfl ?_
      refine AW.tgR (k := 66) dX8_fillsFar_97 (Nat.le_of_ble_eq_true rfl) (fun _ => rfl) q1606 rfl ia66 ?_
      refine AW.iload dX8_fillsFar_100 rfl ?_
      refine AW.tiald (k := 66) dX8_fillsFar_102 ia66 (Nat.le_of_ble_eq_true rfl) rfl h (fun v8 h => ?_)
      refine AW.iload_n dX8_fillsFar_103 rfl ?_
      refine jn_elim h (fun (j : (TW → Int → Int → Int → Int → Int → Option (Unit × TW))) => ∀ (s9 : TW) (x2 : Int) (x3 : Int) (x4 : Int) (x5 : Int) (x6 : Int), j s9 x2 x3 x4 x5 x6 = some w → AW m_X8_fillsFar σ0 (tU b σ w) 137 [some (rV (some b)), none, some (iV x2), some (iV x3), some (iV x4), some (iV x5), some (iV x6)] [] (insT b s9 σ)) ?_ (fun j137 hj137 h => ?_)
      · intro s9 x2 x3 x4 x5 x6 h
        refine AW.aload_n dX8_fillsFar_137 rfl ?_
        refine AW.tgR (k := 66) dX8_fillsFar_138 (Nat.le_of_ble_eq_true rfl) (fun _ => rfl) q1606 rfl ia66 ?_
        refine AW.iload dX8_fillsFar_141 rfl ?_
        refine AW.tiald (k := 66) dX8_fillsFar_143 ia66 (Nat.le_of_ble_eq_true rfl) rfl h (fun v10 h => ?_)
        refine AW.iload_n dX8_fillsFar_144 rfl ?_
        refine AW.icmp_ne 178 dX8_fillsFar_145 (by decide) h (fun c15 h => ?_) (fun c15 h => ?_)
        · refine AW.iinc (L' := [some (rV (some b)), none, some (iV x2), some (iV x3), some (iV (x4 + 1)), some (iV x5), some (iV x6)]) dX8_fillsFar_178 rfl (Nat.le_of_ble_eq_true rfl) rfl rfl ?_
          refine AW.goto (tgt := 48) dX8_fillsFar_181 (by decide) ?_
          exact AW.fewer (L' := [some (rV (some b)), none, some (iV x2), some (iV x3), some (iV (x4 + 1)), none, none]) (And.intro rfl (And.intro rfl (And.intro rfl (And.intro rfl trivial)))) (ih _ _ _ _ _ h hk)
        · refine AW.aload_n dX8_fillsFar_148 rfl ?_
          refine AW.tgR (k := 66) dX8_fillsFar_149 (Nat.le_of_ble_eq_true rfl) (fun _ => rfl) q1606 rfl ia66 ?_
          refine AW.iload dX8_fillsFar_152 rfl ?_
          refine AW.tiald (k := 66) dX8_fillsFar_154 ia66 (Nat.le_of_ble_eq_true rfl) rfl h (fun v11 h => ?_)
          refine AW.if_ge 178 dX8_fillsFar_155 (by decide) h (fun c14 h => ?_) (fun c14 h => ?_)
          · refine AW.iinc (L' := [some (rV (some b)), none, some (iV x2), some (iV x3), some (iV (x4 + 1)), some (iV x5), some (iV x6)]) dX8_fillsFar_178 rfl (Nat.le_of_ble_eq_true rfl) rfl rfl ?_
            refine AW.goto (tgt := 48) dX8_fillsFar_181 (by decide) ?_
            exact AW.fewer (L' := [some (rV (some b)), none, some (iV x2), some (iV x3), some (iV (x4 + 1)), none, none]) (And.intro rfl (And.intro rfl (And.intro rfl (And.intro rfl trivial)))) (ih _ _ _ _ _ h hk)
          · refine AW.iload_n dX8_fillsFar_158 rfl ?_
            refine AW.iload dX8_fillsFar_159 rfl ?_
            refine AW.ishr dX8_fillsFar_161 ?_
            refine AW.iconst dX8_fillsFar_162 ?_
            refine AW.iand dX8_fillsFar_163 ?_
            refine AW.iconst dX8_fillsFar_164 ?_
            refine AW.icmp_ne 178 dX8_fillsFar_165 (by decide) h (fun c13 h => ?_) (fun c13 h => ?_)
            · refine AW.iinc (L' := [some (rV (some b)), none, some (iV x2), some (iV x3), some (iV (x4 + 1)), some (iV x5), some (iV x6)]) dX8_fillsFar_178 rfl (Nat.le_of_ble_eq_true rfl) rfl rfl ?_
              refine AW.goto (tgt := 48) dX8_fillsFar_181 (by decide) ?_
              exact AW.fewer (L' := [some (rV (some b)), none, some (iV x2), some (iV x3), some (iV (x4 + 1)), none, none]) (And.intro rfl (And.intro rfl (And.intro rfl (And.intro rfl trivial)))) (ih _ _ _ _ _ h hk)
            · refine AW.aload_n dX8_fillsFar_168 rfl ?_
              refine AW.tgR (k := 66) dX8_fillsFar_169 (Nat.le_of_ble_eq_true rfl) (fun _ => rfl) q1606 rfl ia66 ?_
              refine AW.iload dX8_fillsFar_172 rfl ?_
              refine AW.iload_n dX8_fillsFar_174 rfl ?_
              refine AW.iconst dX8_fillsFar_175 ?_
              refine AW.iadd dX8_fillsFar_176 ?_
              refine AW.nv ?_
              refine AW.tiast (k := 66) dX8_fillsFar_177 ia66 (Nat.le_of_ble_eq_true rfl) mt66 rfl h (fun s12 h => ?_)
              refine AW.iinc (L' := [some (rV (some b)), none, some (iV x2), some (iV x3), some (iV (x4 + 1)), some (iV x5), some (iV x6)]) dX8_fillsFar_178 rfl (Nat.le_of_ble_eq_true rfl) rfl rfl ?_
              refine AW.goto (tgt := 48) dX8_fillsFar_181 (by decide) ?_
              exact AW.fewer (L' := [some (rV (some b)), none, some (iV x2), some (iV x3), some (iV (x4 + 1)), none, none]) (And.intro rfl (And.intro rfl (And.intro rfl (And.intro rfl trivial)))) (ih _ _ _ _ _ h hk)
      · refine AW.icmp_ne 137 dX8_fillsFar_104 (by decide) h (fun c20 h => ?_) (fun c20 h => ?_)
        · exact hj137 _ _ _ _ _ _ h
        · refine AW.aload_n dX8_fillsFar_107 rfl ?_
          refine AW.tgR (k := 66) dX8_fillsFar_108 (Nat.le_of_ble_eq_true rfl) (fun _ => rfl) q1606 rfl ia66 ?_
          refine AW.iload dX8_fillsFar_111 rfl ?_
          refine AW.tiald (k := 66) dX8_fillsFar_113 ia66 (Nat.le_of_ble_eq_true rfl) rfl h (fun v16 h => ?_)
          refine AW.if_ge 137 dX8_fillsFar_114 (by decide) h (fun c19 h => ?_) (fun c19 h => ?_)
          · exact hj137 _ _ _ _ _ _ h
          · refine AW.iload_n dX8_fillsFar_117 rfl ?_
            refine AW.iload dX8_fillsFar_118 rfl ?_
            refine AW.ishr dX8_fillsFar_120 ?_
            refine AW.iconst dX8_fillsFar_121 ?_
            refine AW.iand dX8_fillsFar_122 ?_
            refine AW.iconst dX8_fillsFar_123 ?_
            refine AW.icmp_ne 137 dX8_fillsFar_124 (by decide) h (fun c18 h => ?_) (fun c18 h => ?_)
            · exact hj137 _ _ _ _ _ _ h
            · refine AW.aload_n dX8_fillsFar_127 rfl ?_
              refine AW.tgR (k := 66) dX8_fillsFar_128 (Nat.le_of_ble_eq_true rfl) (fun _ => rfl) q1606 rfl ia66 ?_
              refine AW.iload dX8_fillsFar_131 rfl ?_
              refine AW.iload_n dX8_fillsFar_133 rfl ?_
              refine AW.iconst dX8_fillsFar_134 ?_
              refine AW.iadd dX8_fillsFar_135 ?_
              refine AW.nv ?_
              refine AW.tiast (k := 66) dX8_fillsFar_136 ia66 (Nat.le_of_ble_eq_true rfl) mt66 rfl h (fun s17 h => ?_)
              exact hj137 _ _ _ _ _ _ h
def f_X8_fillsFar_L39 : Nat → TW → Int → Int → (TW → Option (Unit × TW)) → Option (Unit × TW)
  | 0, _, _, _, _ => none
  | n + 1, s0, x2, x3, k => (if nrm 8 ≤ nrm x3 then (k s0) else (f_X8_fillsFar_L48 FU s0 x2 x3 0 (fun s22 x2 x3 => f_X8_fillsFar_L39 n s22 x2 (x3 + 1) k)))
theorem w_X8_fillsFar_L39 {b : Nat} {σ σ0 : Hp} {w : Unit × TW} : ∀ (n : Nat) (s0 : TW) (x2 : Int) (x3 : Int) (k : (TW → Option (Unit × TW))), f_X8_fillsFar_L39 n s0 x2 x3 k = some w → (∀ (s1 : TW), k s1 = some w → AW m_X8_fillsFar σ0 (tU b σ w) 190 [none, none, none, none, none, none, none] [] (insT b s1 σ)) → AW m_X8_fillsFar σ0 (tU b σ w) 39 [some (rV (some b)), none, some (iV x2), some (iV x3), none, none, none] [] (insT b s0 σ) := by
  intro n
  induction n with
  | zero =>
    intro s0 x2 x3 k h hk
    rw [f_X8_fillsFar_L39] at h
    cases h
  | succ n ih =>
    intro s0 x2 x3 k h hk
    rw [f_X8_fillsFar_L39] at h
    refine AW.iload_n dX8_fillsFar_39 rfl ?_
    refine AW.bipush dX8_fillsFar_40 (by decide) ?_
    refine AW.icmp_ge 190 dX8_fillsFar_42 (by decide) h (fun c23 h => ?_) (fun c23 h => ?_)
    · exact AW.fewer (L' := [none, none, none, none, none, none, none]) (trivial) (hk _ h)
    · refine AW.iconst dX8_fillsFar_45 ?_
      refine AW.istore (L' := [some (rV (some b)), none, some (iV x2), some (iV x3), some (iV 0), none, none]) dX8_fillsFar_46 (Nat.le_of_ble_eq_true rfl) rfl rfl ?_
      refine w_X8_fillsFar_L48 _ _ _ _ _ _ h (fun s22 x2 x3 h => ?_)
      refine AW.iinc (L' := [some (rV (some b)), none, some (iV x2), some (iV (x3 + 1)), none, none, none]) dX8_fillsFar_184 rfl (Nat.le_of_ble_eq_true rfl) rfl rfl ?_
      refine AW.goto (tgt := 39) dX8_fillsFar_187 (by decide) ?_
      exact ih _ _ _ _ h hk
def f_X8_fillsFar (s0 : TW) (x1 : Int) (x2 : Int) : Option (Unit × TW) :=
  f_X8_fillsFar_L2 FU s0 x1 x2 0 (fun s3 x1 x2 => (if ¬ nrm (anI (srI x2 x1) 1) = 0 then ((ts s3 66 x1 0).bind fun s4 => f_X8_fillsFar_L39 FU s4 x2 0 (fun s24 => some ((), s24))) else (some ((), s3))))
theorem w_X8_fillsFar {b : Nat} {σ σ0 : Hp} {w : Unit × TW} (s0 : TW) (x1 : Int) (x2 : Int) (h : f_X8_fillsFar s0 x1 x2 = some w) : AW m_X8_fillsFar σ0 (tU b σ w) 0 [some (rV (some b)), some (iV x1), some (iV x2), none, none, none, none] [] (insT b s0 σ) := by
  unfold f_X8_fillsFar at h
  refine AW.iconst dX8_fillsFar_0 ?_
  refine AW.istore_n (L' := [some (rV (some b)), some (iV x1), some (iV x2), some (iV 0), none, none, none]) dX8_fillsFar_1 (Nat.le_of_ble_eq_true rfl) rfl rfl ?_
  refine w_X8_fillsFar_L2 _ _ _ _ _ _ h (fun s3 x1 x2 h => ?_)
  refine AW.iload_n dX8_fillsFar_21 rfl ?_
  refine AW.iload_n dX8_fillsFar_22 rfl ?_
  refine AW.ishr dX8_fillsFar_23 ?_
  refine AW.iconst dX8_fillsFar_24 ?_
  refine AW.iand dX8_fillsFar_25 ?_
  refine AW.if_ne 30 dX8_fillsFar_26 (by decide) h (fun c25 h => ?_) (fun c25 h => ?_)
  · refine AW.aload_n dX8_fillsFar_30 rfl ?_
    refine AW.tgR (k := 66) dX8_fillsFar_31 (Nat.le_of_ble_eq_true rfl) (fun _ => rfl) q1606 rfl ia66 ?_
    refine AW.iload_n dX8_fillsFar_34 rfl ?_
    refine AW.iconst dX8_fillsFar_35 ?_
    refine AW.tiast (k := 66) dX8_fillsFar_36 ia66 (Nat.le_of_ble_eq_true rfl) mt66 rfl h (fun s4 h => ?_)
    refine AW.iconst dX8_fillsFar_37 ?_
    refine AW.istore_n (L' := [some (rV (some b)), some (iV x1), some (iV x2), some (iV 0), none, none, none]) dX8_fillsFar_38 (Nat.le_of_ble_eq_true rfl) rfl rfl ?_
    refine AW.fewer (L' := [some (rV (some b)), none, some (iV x2), some (iV 0), none, none, none]) (And.intro rfl (And.intro rfl (And.intro rfl trivial))) ?_
    refine w_X8_fillsFar_L39 _ _ _ _ _ h (fun s24 h => ?_)
    cases h
    exact AW.vret dX8_fillsFar_190 rfl
  · cases h
    exact AW.vret dX8_fillsFar_29 rfl
theorem c_X8_fillsFar {b : Nat} {σ : Hp} {s0 : TW} {x1 : Int} {x2 : Int} {v : Unit} {s1 : TW} (h : f_X8_fillsFar s0 x1 x2 = some (v, s1)) : Ct m_X8_fillsFar [rV (some b), iV x1, iV x2] (insT b s0 σ) (.inl none, insT b s1 σ) :=
  Ct.of2 (w_X8_fillsFar s0 x1 x2 h) (by decide) rfl rfl rfl
abbrev m_X8_forget : Mi := (yX8_forget, cX8_forget, (some .int), 2, 0, 0, [])
theorem n_X8_forget : nameOk yX8_forget 0 := ⟨by decide, by decide, by decide +kernel⟩
def f_X8_forget (s0 : TW) : Option (Int × TW) :=
  bd (tp s0 67 0) fun s1 => some (s0.1 67, s1)
theorem w_X8_forget {b : Nat} {σ σ0 : Hp} {w : Int × TW} (s0 : TW) (h : f_X8_forget s0 = some w) : AW m_X8_forget σ0 (tI b σ w) 0 [some (rV (some b)), none] [] (insT b s0 σ) := by
  unfold f_X8_forget at h
  refine AW.aload_n dX8_forget_0 rfl ?_
  refine AW.tgI (k := 67) dX8_forget_1 (Nat.le_of_ble_eq_true rfl) (fun _ => rfl) q1607 rfl ?_
  refine AW.istore_n (L' := [some (rV (some b)), some (iV (s0.1 67))]) dX8_forget_4 (Nat.le_of_ble_eq_true rfl) rfl rfl ?_
  refine AW.aload_n dX8_forget_5 rfl ?_
  refine AW.iconst dX8_forget_6 ?_
  refine AW.tpB (k := 67) dX8_forget_7 (Nat.le_of_ble_eq_true rfl) rfl q1607 rfl rfl h (fun s1 h => ?_)
  refine AW.iload_n dX8_forget_10 rfl ?_
  cases h
  exact AW.iret dX8_forget_11 rfl
theorem c_X8_forget {b : Nat} {σ : Hp} {s0 : TW} {v : Int} {s1 : TW} (h : f_X8_forget s0 = some (v, s1)) : Ct m_X8_forget [rV (some b)] (insT b s0 σ) (.inl (some (iV v)), insT b s1 σ) :=
  Ct.of2 (w_X8_forget s0 h) (by decide) rfl rfl rfl
abbrev m_X8_ghosts : Mi := (yX8_ghosts, cX8_ghosts, (some .int), 5, 2, 46, [])
theorem n_X8_ghosts : nameOk yX8_ghosts 1 := ⟨by decide, by decide, by decide +kernel⟩
def f_X8_ghosts_L18 : Nat → TW → Int → Int → Int → (TW → Int → Option (Int × TW)) → Option (Int × TW)
  | 0, _, _, _, _, _ => none
  | n + 1, s0, x1, x2, x3, k => (ta s0 31 (s0.1 18)).bind fun v4 => (if nrm v4 ≤ nrm x3 then (k s0 x2) else (bt_ (f_X8_hungIn s0 x3 (s0.1 57)) fun v6 s5 => (if nrm v6 = nrm x1 then (bt_ (f_X8_showsAt s5 x3 (s5.1 57)) fun v8 s7 => (if nrm v8 < 0 then (f_X8_ghosts_L18 n s7 x1 x2 (x3 + 1) k) else (bt_ (f_X8_menShown s7 x3 v8) fun v10 s9 => bt_ (f_X8_hungIn s9 x3 v8) fun v12 s11 => bt_ (f_X8_menIn s11 v12 (s11.1 57)) fun v14 s13 => f_X8_ghosts_L18 n s13 x1 (orI x2 (anI v10 (xoI v14 (-1)))) (x3 + 1) k))) else (f_X8_ghosts_L18 n s5 x1 x2 (x3 + 1) k))))
theorem w_X8_ghosts_L18 {b : Nat} {σ σ0 : Hp} {w : Int × TW} : ∀ (n : Nat) (s0 : TW) (x1 : Int) (x2 : Int) (x3 : Int) (k : (TW → Int → Option (Int × TW))), f_X8_ghosts_L18 n s0 x1 x2 x3 k = some w → (∀ (s1 : TW) (x2 : Int), k s1 x2 = some w → AW m_X8_ghosts σ0 (tI b σ w) 97 [none, none, some (iV x2), none, none] [] (insT b s1 σ)) → AW m_X8_ghosts σ0 (tI b σ w) 18 [some (rV (some b)), some (iV x1), some (iV x2), some (iV x3), none] [] (insT b s0 σ) := by
  intro n
  induction n with
  | zero =>
    intro s0 x1 x2 x3 k h hk
    rw [f_X8_ghosts_L18] at h
    cases h
  | succ n ih =>
    intro s0 x1 x2 x3 k h hk
    rw [f_X8_ghosts_L18] at h
    refine AW.iload_n dX8_ghosts_18 rfl ?_
    refine AW.aload_n dX8_ghosts_19 rfl ?_
    refine AW.tgR (k := 31) dX8_ghosts_20 (Nat.le_of_ble_eq_true rfl) (fun _ => rfl) q1571 rfl ia31 ?_
    refine AW.aload_n dX8_ghosts_23 rfl ?_
    refine AW.tgI (k := 18) dX8_ghosts_24 (Nat.le_of_ble_eq_true rfl) (fun _ => rfl) q1558 rfl ?_
    refine AW.tiald (k := 31) dX8_ghosts_27 ia31 (Nat.le_of_ble_eq_true rfl) rfl h (fun v4 h => ?_)
    refine AW.icmp_ge 97 dX8_ghosts_28 (by decide) h (fun c17 h => ?_) (fun c17 h => ?_)
    · exact AW.fewer (L' := [none, none, some (iV x2), none, none]) (And.intro rfl trivial) (hk _ _ h)
    · refine AW.aload_n dX8_ghosts_31 rfl ?_
      refine AW.iload_n dX8_ghosts_32 rfl ?_
      refine AW.aload_n dX8_ghosts_33 rfl ?_
      refine AW.tgI (k := 57) dX8_ghosts_34 (Nat.le_of_ble_eq_true rfl) (fun _ => rfl) q1597 rfl ?_
      refine AW.tVI (M' := m_X8_hungIn) [iV x3, iV (s0.1 57)] [] dX8_ghosts_37 q1924 q1926 qs95 q139 q1927 rfl n_X8_hungIn rfl rfl rfl (fun _ _ e => c_X8_hungIn e) h (fun v6 s5 h => ?_)
      refine AW.iload_n dX8_ghosts_40 rfl ?_
      refine AW.icmp_eq 47 dX8_ghosts_41 (by decide) h (fun c16 h => ?_) (fun c16 h => ?_)
      · refine AW.aload_n dX8_ghosts_47 rfl ?_
        refine AW.iload_n dX8_ghosts_48 rfl ?_
        refine AW.aload_n dX8_ghosts_49 rfl ?_
        refine AW.tgI (k := 57) dX8_ghosts_50 (Nat.le_of_ble_eq_true rfl) (fun _ => rfl) q1597 rfl ?_
        refine AW.tVI (M' := m_X8_showsAt) [iV x3, iV (s5.1 57)] [] dX8_ghosts_53 q1916 q1918 qs93 q139 q1919 rfl n_X8_showsAt rfl rfl rfl (fun _ _ e => c_X8_showsAt e) h (fun v8 s7 h => ?_)
        refine AW.istore (L' := [some (rV (some b)), some (iV x1), some (iV x2), some (iV x3), some (iV v8)]) dX8_ghosts_56 (Nat.le_of_ble_eq_true rfl) rfl rfl ?_
        refine AW.iload dX8_ghosts_58 rfl ?_
        refine AW.if_lt 91 dX8_ghosts_60 (by decide) h (fun c15 h => ?_) (fun c15 h => ?_)
        · refine AW.iinc (L' := [some (rV (some b)), some (iV x1), some (iV x2), some (iV (x3 + 1)), some (iV v8)]) dX8_ghosts_91 rfl (Nat.le_of_ble_eq_true rfl) rfl rfl ?_
          refine AW.goto (tgt := 18) dX8_ghosts_94 (by decide) ?_
          exact AW.fewer (L' := [some (rV (some b)), some (iV x1), some (iV x2), some (iV (x3 + 1)), none]) (And.intro rfl (And.intro rfl (And.intro rfl (And.intro rfl trivial)))) (ih _ _ _ _ _ h hk)
        · refine AW.iload_n dX8_ghosts_63 rfl ?_
          refine AW.aload_n dX8_ghosts_64 rfl ?_
          refine AW.iload_n dX8_ghosts_65 rfl ?_
          refine AW.iload dX8_ghosts_66 rfl ?_
          refine AW.tVI (M' := m_X8_menShown) [iV x3, iV v8] [iV x2] dX8_ghosts_68 q1928 q1930 qs96 q139 q1931 rfl n_X8_menShown rfl rfl rfl (fun _ _ e => c_X8_menShown e) h (fun v10 s9 h => ?_)
          refine AW.aload_n dX8_ghosts_71 rfl ?_
          refine AW.aload_n dX8_ghosts_72 rfl ?_
          refine AW.iload_n dX8_ghosts_73 rfl ?_
          refine AW.iload dX8_ghosts_74 rfl ?_
          refine AW.tVI (M' := m_X8_hungIn) [iV x3, iV v8] [rV (some b), iV v10, iV x2] dX8_ghosts_76 q1924 q1926 qs95 q139 q1927 rfl n_X8_hungIn rfl rfl rfl (fun _ _ e => c_X8_hungIn e) h (fun v12 s11 h => ?_)
          refine AW.aload_n dX8_ghosts_79 rfl ?_
          refine AW.tgI (k := 57) dX8_ghosts_80 (Nat.le_of_ble_eq_true rfl) (fun _ => rfl) q1597 rfl ?_
          refine AW.tVI (M' := m_X8_menIn) [iV v12, iV (s11.1 57)] [iV v10, iV x2] dX8_ghosts_83 q1522 q1524 qs60 q139 q1525 rfl n_X8_menIn rfl rfl rfl (fun _ _ e => c_X8_menIn e) h (fun v14 s13 h => ?_)
          refine AW.iconst dX8_ghosts_86 ?_
          refine AW.ixor dX8_ghosts_87 ?_
          refine AW.iand dX8_ghosts_88 ?_
          refine AW.ior dX8_ghosts_89 ?_
          refine AW.istore_n (L' := [some (rV (some b)), some (iV x1), some (iV (orI x2 (anI v10 (xoI v14 (-1))))), some (iV x3), some (iV v8)]) dX8_ghosts_90 (Nat.le_of_ble_eq_true rfl) rfl rfl ?_
          refine AW.iinc (L' := [some (rV (some b)), some (iV x1), some (iV (orI x2 (anI v10 (xoI v14 (-1))))), some (iV (x3 + 1)), some (iV v8)]) dX8_ghosts_91 rfl (Nat.le_of_ble_eq_true rfl) rfl rfl ?_
          refine AW.goto (tgt := 18) dX8_ghosts_94 (by decide) ?_
          exact AW.fewer (L' := [some (rV (some b)), some (iV x1), some (iV (orI x2 (anI v10 (xoI v14 (-1))))), some (iV (x3 + 1)), none]) (And.intro rfl (And.intro rfl (And.intro rfl (And.intro rfl trivial)))) (ih _ _ _ _ _ h hk)
      · refine AW.goto (tgt := 91) dX8_ghosts_44 (by decide) ?_
        refine AW.iinc (L' := [some (rV (some b)), some (iV x1), some (iV x2), some (iV (x3 + 1)), none]) dX8_ghosts_91 rfl (Nat.le_of_ble_eq_true rfl) rfl rfl ?_
        refine AW.goto (tgt := 18) dX8_ghosts_94 (by decide) ?_
        exact ih _ _ _ _ _ h hk
def f_X8_ghosts (s0 : TW) (x1 : Int) : Option (Int × TW) :=
  bt_ (f_X8_isRoom s0 x1) fun v2 s1 => (if ¬ nrm v2 = 0 then (bt_ (f_X8_copies s1) fun _ s3 => f_X8_ghosts_L18 FU s3 x1 0 0 (fun s18 x2 => some (nrm x2, s18))) else (some ((-1), s1)))
theorem w_X8_ghosts {b : Nat} {σ σ0 : Hp} {w : Int × TW} (s0 : TW) (x1 : Int) (h : f_X8_ghosts s0 x1 = some w) : AW m_X8_ghosts σ0 (tI b σ w) 0 [some (rV (some b)), some (iV x1), none, none, none] [] (insT b s0 σ) := by
  unfold f_X8_ghosts at h
  refine AW.aload_n dX8_ghosts_0 rfl ?_
  refine AW.iload_n dX8_ghosts_1 rfl ?_
  refine AW.tVI (M' := m_X8_isRoom) [iV x1] [] dX8_ghosts_2 q1988 q1990 qs106 q139 q1991 rfl n_X8_isRoom rfl rfl rfl (fun _ _ e => c_X8_isRoom e) h (fun v2 s1 h => ?_)
  refine AW.if_ne 10 dX8_ghosts_5 (by decide) h (fun c19 h => ?_) (fun c19 h => ?_)
  · refine AW.aload_n dX8_ghosts_10 rfl ?_
    refine AW.tVU (M' := m_X8_copies) [] [] dX8_ghosts_11 q1912 q1914 qs92 q139 q1915 rfl n_X8_copies rfl rfl rfl (fun _ _ e => c_X8_copies e) h (fun _ s3 h => ?_)
    refine AW.iconst dX8_ghosts_14 ?_
    refine AW.istore_n (L' := [some (rV (some b)), some (iV x1), some (iV 0), none, none]) dX8_ghosts_15 (Nat.le_of_ble_eq_true rfl) rfl rfl ?_
    refine AW.iconst dX8_ghosts_16 ?_
    refine AW.istore_n (L' := [some (rV (some b)), some (iV x1), some (iV 0), some (iV 0), none]) dX8_ghosts_17 (Nat.le_of_ble_eq_true rfl) rfl rfl ?_
    refine w_X8_ghosts_L18 _ _ _ _ _ _ h (fun s18 x2 h => ?_)
    refine AW.iload_n dX8_ghosts_97 rfl ?_
    refine AW.nv ?_
    cases h
    exact AW.iret dX8_ghosts_98 rfl
  · refine AW.iconst dX8_ghosts_8 ?_
    cases h
    exact AW.iret dX8_ghosts_9 rfl
theorem c_X8_ghosts {b : Nat} {σ : Hp} {s0 : TW} {x1 : Int} {v : Int} {s1 : TW} (h : f_X8_ghosts s0 x1 = some (v, s1)) : Ct m_X8_ghosts [rV (some b), iV x1] (insT b s0 σ) (.inl (some (iV v)), insT b s1 σ) :=
  Ct.of2 (w_X8_ghosts s0 x1 h) (by decide) rfl rfl rfl
abbrev m_X8_isGlimpsed : Mi := (yX8_isGlimpsed, cX8_isGlimpsed, (some .boolean), 5, 2, 46, [])
theorem n_X8_isGlimpsed : nameOk yX8_isGlimpsed 3 := ⟨by decide, by decide, by decide +kernel⟩
def f_X8_isGlimpsed_L3 : Nat → TW → Int → Int → Int → Int → (TW → Option (Int × TW)) → Option (Int × TW)
  | 0, _, _, _, _, _, _ => none
  | n + 1, s0, x1, x2, x3, x4, k => (ta s0 31 (s0.1 18)).bind fun v1 => (if nrm v1 ≤ nrm x4 then (k s0) else (bt_ (f_X8_hungIn s0 x4 x3) fun v3 s2 => (ta s2 56 ((36 * x3) + x1)).bind fun v4 => (if ¬ nrm v3 = nrm v4 then (f_X8_isGlimpsed_L3 n s2 x1 x2 x3 (x4 + 1) k) else (bt_ (f_X8_showsAt s2 x4 x3) fun v6 s5 => bt_ (f_X8_menShown s5 x4 v6) fun v8 s7 => (if ¬ nrm (anI (srI v8 x2) 1) = nrm 1 then (f_X8_isGlimpsed_L3 n s7 x1 x2 x3 (x4 + 1) k) else (some (1, s7)))))))
theorem w_X8_isGlimpsed_L3 {b : Nat} {σ σ0 : Hp} {w : Int × TW} : ∀ (n : Nat) (s0 : TW) (x1 : Int) (x2 : Int) (x3 : Int) (x4 : Int) (k : (TW → Option (Int × TW))), f_X8_isGlimpsed_L3 n s0 x1 x2 x3 x4 k = some w → (∀ (s1 : TW), k s1 = some w → AW m_X8_isGlimpsed σ0 (tI b σ w) 67 [none, none, none, none, none] [] (insT b s1 σ)) → AW m_X8_isGlimpsed σ0 (tI b σ w) 3 [some (rV (some b)), some (iV x1), some (iV x2), some (iV x3), some (iV x4)] [] (insT b s0 σ) := by
  intro n
  induction n with
  | zero =>
    intro s0 x1 x2 x3 x4 k h hk
    rw [f_X8_isGlimpsed_L3] at h
    cases h
  | succ n ih =>
    intro s0 x1 x2 x3 x4 k h hk
    rw [f_X8_isGlimpsed_L3] at h
    refine AW.iload dX8_isGlimpsed_3 rfl ?_
    refine AW.aload_n dX8_isGlimpsed_5 rfl ?_
    refine AW.tgR (k := 31) dX8_isGlimpsed_6 (Nat.le_of_ble_eq_true rfl) (fun _ => rfl) q1571 rfl ia31 ?_
    refine AW.aload_n dX8_isGlimpsed_9 rfl ?_
    refine AW.tgI (k := 18) dX8_isGlimpsed_10 (Nat.le_of_ble_eq_true rfl) (fun _ => rfl) q1558 rfl ?_
    refine AW.tiald (k := 31) dX8_isGlimpsed_13 ia31 (Nat.le_of_ble_eq_true rfl) rfl h (fun v1 h => ?_)
    refine AW.icmp_ge 67 dX8_isGlimpsed_14 (by decide) h (fun c11 h => ?_) (fun c11 h => ?_)
    · exact AW.fewer (L' := [none, none, none, none, none]) (trivial) (hk _ h)
    · refine AW.aload_n dX8_isGlimpsed_17 rfl ?_
      refine AW.iload dX8_isGlimpsed_18 rfl ?_
      refine AW.iload_n dX8_isGlimpsed_20 rfl ?_
      refine AW.tVI (M' := m_X8_hungIn) [iV x4, iV x3] [] dX8_isGlimpsed_21 q1924 q1926 qs95 q139 q1927 rfl n_X8_hungIn rfl rfl rfl (fun _ _ e => c_X8_hungIn e) h (fun v3 s2 h => ?_)
      refine AW.aload_n dX8_isGlimpsed_24 rfl ?_
      refine AW.tgR (k := 56) dX8_isGlimpsed_25 (Nat.le_of_ble_eq_true rfl) (fun _ => rfl) q1596 rfl ia56 ?_
      refine AW.bipush dX8_isGlimpsed_28 (by decide) ?_
      refine AW.iload_n dX8_isGlimpsed_30 rfl ?_
      refine AW.imul dX8_isGlimpsed_31 ?_
      refine AW.iload_n dX8_isGlimpsed_32 rfl ?_
      refine AW.iadd dX8_isGlimpsed_33 ?_
      refine AW.tiald (k := 56) dX8_isGlimpsed_34 ia56 (Nat.le_of_ble_eq_true rfl) rfl h (fun v4 h => ?_)
      refine AW.icmp_ne 61 dX8_isGlimpsed_35 (by decide) h (fun c10 h => ?_) (fun c10 h => ?_)
      · refine AW.iinc (L' := [some (rV (some b)), some (iV x1), some (iV x2), some (iV x3), some (iV (x4 + 1))]) dX8_isGlimpsed_61 rfl (Nat.le_of_ble_eq_true rfl) rfl rfl ?_
        refine AW.goto (tgt := 3) dX8_isGlimpsed_64 (by decide) ?_
        exact ih _ _ _ _ _ _ h hk
      · refine AW.aload_n dX8_isGlimpsed_38 rfl ?_
        refine AW.iload dX8_isGlimpsed_39 rfl ?_
        refine AW.aload_n dX8_isGlimpsed_41 rfl ?_
        refine AW.iload dX8_isGlimpsed_42 rfl ?_
        refine AW.iload_n dX8_isGlimpsed_44 rfl ?_
        refine AW.tVI (M' := m_X8_showsAt) [iV x4, iV x3] [iV x4, rV (some b)] dX8_isGlimpsed_45 q1916 q1918 qs93 q139 q1919 rfl n_X8_showsAt rfl rfl rfl (fun _ _ e => c_X8_showsAt e) h (fun v6 s5 h => ?_)
        refine AW.tVI (M' := m_X8_menShown) [iV x4, iV v6] [] dX8_isGlimpsed_48 q1928 q1930 qs96 q139 q1931 rfl n_X8_menShown rfl rfl rfl (fun _ _ e => c_X8_menShown e) h (fun v8 s7 h => ?_)
        refine AW.iload_n dX8_isGlimpsed_51 rfl ?_
        refine AW.ishr dX8_isGlimpsed_52 ?_
        refine AW.iconst dX8_isGlimpsed_53 ?_
        refine AW.iand dX8_isGlimpsed_54 ?_
        refine AW.iconst dX8_isGlimpsed_55 ?_
        refine AW.icmp_ne 61 dX8_isGlimpsed_56 (by decide) h (fun c9 h => ?_) (fun c9 h => ?_)
        · refine AW.iinc (L' := [some (rV (some b)), some (iV x1), some (iV x2), some (iV x3), some (iV (x4 + 1))]) dX8_isGlimpsed_61 rfl (Nat.le_of_ble_eq_true rfl) rfl rfl ?_
          refine AW.goto (tgt := 3) dX8_isGlimpsed_64 (by decide) ?_
          exact ih _ _ _ _ _ _ h hk
        · refine AW.iconst dX8_isGlimpsed_59 ?_
          cases h
          exact AW.zret (z := 1) dX8_isGlimpsed_60 rfl zz1
def f_X8_isGlimpsed (s0 : TW) (x1 : Int) (x2 : Int) (x3 : Int) : Option (Int × TW) :=
  f_X8_isGlimpsed_L3 FU s0 x1 x2 x3 0 (fun s12 => some (0, s12))
theorem w_X8_isGlimpsed {b : Nat} {σ σ0 : Hp} {w : Int × TW} (s0 : TW) (x1 : Int) (x2 : Int) (x3 : Int) (h : f_X8_isGlimpsed s0 x1 x2 x3 = some w) : AW m_X8_isGlimpsed σ0 (tI b σ w) 0 [some (rV (some b)), some (iV x1), some (iV x2), some (iV x3), none] [] (insT b s0 σ) := by
  unfold f_X8_isGlimpsed at h
  refine AW.iconst dX8_isGlimpsed_0 ?_
  refine AW.istore (L' := [some (rV (some b)), some (iV x1), some (iV x2), some (iV x3), some (iV 0)]) dX8_isGlimpsed_1 (Nat.le_of_ble_eq_true rfl) rfl rfl ?_
  refine w_X8_isGlimpsed_L3 _ _ _ _ _ _ _ h (fun s12 h => ?_)
  refine AW.iconst dX8_isGlimpsed_67 ?_
  cases h
  exact AW.zret (z := 0) dX8_isGlimpsed_68 rfl zz0
theorem c_X8_isGlimpsed {b : Nat} {σ : Hp} {s0 : TW} {x1 : Int} {x2 : Int} {x3 : Int} {v : Int} {s1 : TW} (h : f_X8_isGlimpsed s0 x1 x2 x3 = some (v, s1)) : Ct m_X8_isGlimpsed [rV (some b), iV x1, iV x2, iV x3] (insT b s0 σ) (.inl (some (iV v)), insT b s1 σ) :=
  Ct.of2 (w_X8_isGlimpsed s0 x1 x2 x3 h) (by decide) rfl rfl rfl
abbrev m_X8_glimpses : Mi := (yX8_glimpses, cX8_glimpses, (some .int), 7, 3, 70, [])
theorem n_X8_glimpses : nameOk yX8_glimpses 3 := ⟨by decide, by decide, by decide +kernel⟩
def f_X8_glimpses_L46 : Nat → TW → Int → Int → Int → Int → Int → Int → (TW → Int → Int → Int → Option (Int × TW)) → Option (Int × TW)
  | 0, _, _, _, _, _, _, _, _ => none
  | n + 1, s0, x1, x2, x3, x4, x5, x6, k => (if nrm (s0.1 57) < nrm x6 then (k s0 x3 x4 x5) else (bt_ (f_X8_isGlimpsed s0 x1 x2 x6) fun v9 s8 => (if ¬ nrm v9 = 0 then ((if ¬ nrm x4 = 0 then (f_X8_glimpses_L46 n s8 x1 x2 x3 (x4 + 1) x5 (x6 + 1) k) else (f_X8_glimpses_L46 n s8 x1 x2 x3 (x4 + 1) x6 (x6 + 1) k))) else (f_X8_glimpses_L46 n s8 x1 x2 x3 x4 x5 (x6 + 1) k))))
theorem w_X8_glimpses_L46 {b : Nat} {σ σ0 : Hp} {w : Int × TW} : ∀ (n : Nat) (s0 : TW) (x1 : Int) (x2 : Int) (x3 : Int) (x4 : Int) (x5 : Int) (x6 : Int) (k : (TW → Int → Int → Int → Option (Int × TW))), f_X8_glimpses_L46 n s0 x1 x2 x3 x4 x5 x6 k = some w → (∀ (s1 : TW) (x3 : Int) (x4 : Int) (x5 : Int), k s1 x3 x4 x5 = some w → AW m_X8_glimpses σ0 (tI b σ w) 87 [none, none, none, some (iV x3), some (iV x4), some (iV x5), none] [] (insT b s1 σ)) → AW m_X8_glimpses σ0 (tI b σ w) 46 [some (rV (some b)), some (iV x1), some (iV x2), some (iV x3), some (iV x4), some (iV x5), some (iV x6)] [] (insT b s0 σ) := by
  intro n
  induction n with
  | zero =>
    intro s0 x1 x2 x3 x4 x5 x6 k h hk
    rw [f_X8_glimpses_L46] at h
    cases h
  | succ n ih =>
    intro s0 x1 x2 x3 x4 x5 x6 k h hk
    rw [f_X8_glimpses_L46] at h
    refine AW.iload dX8_glimpses_46 rfl ?_
    refine AW.aload_n dX8_glimpses_48 rfl ?_
    refine AW.tgI (k := 57) dX8_glimpses_49 (Nat.le_of_ble_eq_true rfl) (fun _ => rfl) q1597 rfl ?_
    refine AW.icmp_gt 87 dX8_glimpses_52 (by decide) h (fun c12 h => ?_) (fun c12 h => ?_)
    · exact AW.fewer (L' := [none, none, none, some (iV x3), some (iV x4), some (iV x5), none]) (And.intro rfl (And.intro rfl (And.intro rfl trivial))) (hk _ _ _ _ h)
    · refine AW.aload_n dX8_glimpses_55 rfl ?_
      refine AW.iload_n dX8_glimpses_56 rfl ?_
      refine AW.iload_n dX8_glimpses_57 rfl ?_
      refine AW.iload dX8_glimpses_58 rfl ?_
      refine AW.tVI (M' := m_X8_isGlimpsed) [iV x1, iV x2, iV x6] [] dX8_glimpses_60 q2052 q2054 qs110 q139 q2055 rfl n_X8_isGlimpsed rfl rfl rfl (fun _ _ e => c_X8_isGlimpsed e) h (fun v9 s8 h => ?_)
      refine AW.if_ne 69 dX8_glimpses_63 (by decide) h (fun c11 h => ?_) (fun c11 h => ?_)
      · refine AW.iload dX8_glimpses_69 rfl ?_
        refine AW.if_ne 78 dX8_glimpses_71 (by decide) h (fun c10 h => ?_) (fun c10 h => ?_)
        · refine AW.iinc (L' := [some (rV (some b)), some (iV x1), some (iV x2), some (iV x3), some (iV (x4 + 1)), some (iV x5), some (iV x6)]) dX8_glimpses_78 rfl (Nat.le_of_ble_eq_true rfl) rfl rfl ?_
          refine AW.iinc (L' := [some (rV (some b)), some (iV x1), some (iV x2), some (iV x3), some (iV (x4 + 1)), some (iV x5), some (iV (x6 + 1))]) dX8_glimpses_81 rfl (Nat.le_of_ble_eq_true rfl) rfl rfl ?_
          refine AW.goto (tgt := 46) dX8_glimpses_84 (by decide) ?_
          exact ih _ _ _ _ _ _ _ _ h hk
        · refine AW.iload dX8_glimpses_74 rfl ?_
          refine AW.istore (L' := [some (rV (some b)), some (iV x1), some (iV x2), some (iV x3), some (iV x4), some (iV x6), some (iV x6)]) dX8_glimpses_76 (Nat.le_of_ble_eq_true rfl) rfl rfl ?_
          refine AW.iinc (L' := [some (rV (some b)), some (iV x1), some (iV x2), some (iV x3), some (iV (x4 + 1)), some (iV x6), some (iV x6)]) dX8_glimpses_78 rfl (Nat.le_of_ble_eq_true rfl) rfl rfl ?_
          refine AW.iinc (L' := [some (rV (some b)), some (iV x1), some (iV x2), some (iV x3), some (iV (x4 + 1)), some (iV x6), some (iV (x6 + 1))]) dX8_glimpses_81 rfl (Nat.le_of_ble_eq_true rfl) rfl rfl ?_
          refine AW.goto (tgt := 46) dX8_glimpses_84 (by decide) ?_
          exact ih _ _ _ _ _ _ _ _ h hk
      · refine AW.goto (tgt := 81) dX8_glimpses_66 (by decide) ?_
        refine AW.iinc (L' := [some (rV (some b)), some (iV x1), some (iV x2), some (iV x3), some (iV x4), some (iV x5), some (iV (x6 + 1))]) dX8_glimpses_81 rfl (Nat.le_of_ble_eq_true rfl) rfl rfl ?_
        refine AW.goto (tgt := 46) dX8_glimpses_84 (by decide) ?_
        exact ih _ _ _ _ _ _ _ _ h hk
def f_X8_glimpses (s0 : TW) (x1 : Int) (x2 : Int) (x3 : Int) : Option (Int × TW) :=
  bt_ (f_X8_isMan s0 x1) fun v2 s1 => (if nrm v2 = 0 then (some ((-1), s1)) else (bt_ (f_X8_isMan s1 x2) fun v4 s3 => (if nrm v4 = 0 then (some ((-1), s3)) else ((if nrm x1 = nrm x2 then (some ((-1), s3)) else (bt_ (f_X8_in s3 x3 0 1) fun v6 s5 => (if ¬ nrm v6 = 0 then (bt_ (f_X8_copies s5) fun _ s7 => f_X8_glimpses_L46 FU s7 x1 x2 x3 0 (-2) 0 (fun s13 x3 x4 x5 => (if ¬ nrm x3 = 0 then (some (nrm x5, s13)) else (some (nrm x4, s13))))) else (some ((-1), s5)))))))))
theorem w_X8_glimpses {b : Nat} {σ σ0 : Hp} {w : Int × TW} (s0 : TW) (x1 : Int) (x2 : Int) (x3 : Int) (h : f_X8_glimpses s0 x1 x2 x3 = some w) : AW m_X8_glimpses σ0 (tI b σ w) 0 [some (rV (some b)), some (iV x1), some (iV x2), some (iV x3), none, none, none] [] (insT b s0 σ) := by
  unfold f_X8_glimpses at h
  refine AW.aload_n dX8_glimpses_0 rfl ?_
  refine AW.iload_n dX8_glimpses_1 rfl ?_
  refine AW.tVI (M' := m_X8_isMan) [iV x1] [] dX8_glimpses_2 q1893 q1895 qs89 q139 q1896 rfl n_X8_isMan rfl rfl rfl (fun _ _ e => c_X8_isMan e) h (fun v2 s1 h => ?_)
  refine AW.if_eq 30 dX8_glimpses_5 (by decide) h (fun c18 h => ?_) (fun c18 h => ?_)
  · refine AW.iconst dX8_glimpses_30 ?_
    cases h
    exact AW.iret dX8_glimpses_31 rfl
  · refine AW.aload_n dX8_glimpses_8 rfl ?_
    refine AW.iload_n dX8_glimpses_9 rfl ?_
    refine AW.tVI (M' := m_X8_isMan) [iV x2] [] dX8_glimpses_10 q1893 q1895 qs89 q139 q1896 rfl n_X8_isMan rfl rfl rfl (fun _ _ e => c_X8_isMan e) h (fun v4 s3 h => ?_)
    refine AW.if_eq 30 dX8_glimpses_13 (by decide) h (fun c17 h => ?_) (fun c17 h => ?_)
    · refine AW.iconst dX8_glimpses_30 ?_
      cases h
      exact AW.iret dX8_glimpses_31 rfl
    · refine AW.iload_n dX8_glimpses_16 rfl ?_
      refine AW.iload_n dX8_glimpses_17 rfl ?_
      refine AW.icmp_eq 30 dX8_glimpses_18 (by decide) h (fun c16 h => ?_) (fun c16 h => ?_)
      · refine AW.iconst dX8_glimpses_30 ?_
        cases h
        exact AW.iret dX8_glimpses_31 rfl
      · refine AW.iload_n dX8_glimpses_21 rfl ?_
        refine AW.iconst dX8_glimpses_22 ?_
        refine AW.iconst dX8_glimpses_23 ?_
        refine AW.tSI (M' := m_X8_in) [iV x3, iV 0, iV 1] [] dX8_glimpses_24 q1897 q1898 q139 q1899 n_X8_in rfl rfl rfl (fun _ _ e => c_X8_in e) h (fun v6 s5 h => ?_)
        refine AW.if_ne 32 dX8_glimpses_27 (by decide) h (fun c15 h => ?_) (fun c15 h => ?_)
        · refine AW.aload_n dX8_glimpses_32 rfl ?_
          refine AW.tVU (M' := m_X8_copies) [] [] dX8_glimpses_33 q1912 q1914 qs92 q139 q1915 rfl n_X8_copies rfl rfl rfl (fun _ _ e => c_X8_copies e) h (fun _ s7 h => ?_)
          refine AW.iconst dX8_glimpses_36 ?_
          refine AW.istore (L' := [some (rV (some b)), some (iV x1), some (iV x2), some (iV x3), some (iV 0), none, none]) dX8_glimpses_37 (Nat.le_of_ble_eq_true rfl) rfl rfl ?_
          refine AW.bipush dX8_glimpses_39 (by decide) ?_
          refine AW.istore (L' := [some (rV (some b)), some (iV x1), some (iV x2), some (iV x3), some (iV 0), some (iV (-2)), none]) dX8_glimpses_41 (Nat.le_of_ble_eq_true rfl) rfl rfl ?_
          refine AW.iconst dX8_glimpses_43 ?_
          refine AW.istore (L' := [some (rV (some b)), some (iV x1), some (iV x2), some (iV x3), some (iV 0), some (iV (-2)), some (iV 0)]) dX8_glimpses_44 (Nat.le_of_ble_eq_true rfl) rfl rfl ?_
          refine w_X8_glimpses_L46 _ _ _ _ _ _ _ _ _ h (fun s13 x3 x4 x5 h => ?_)
          refine AW.iload_n dX8_glimpses_87 rfl ?_
          refine AW.if_ne 96 dX8_glimpses_88 (by decide) h (fun c14 h => ?_) (fun c14 h => ?_)
          · refine AW.iload dX8_glimpses_96 rfl ?_
            refine AW.nv ?_
            cases h
            exact AW.iret dX8_glimpses_98 rfl
          · refine AW.iload dX8_glimpses_91 rfl ?_
            refine AW.goto (tgt := 98) dX8_glimpses_93 (by decide) ?_
            refine AW.nv ?_
            cases h
            exact AW.iret dX8_glimpses_98 rfl
        · refine AW.iconst dX8_glimpses_30 ?_
          cases h
          exact AW.iret dX8_glimpses_31 rfl
theorem c_X8_glimpses {b : Nat} {σ : Hp} {s0 : TW} {x1 : Int} {x2 : Int} {x3 : Int} {v : Int} {s1 : TW} (h : f_X8_glimpses s0 x1 x2 x3 = some (v, s1)) : Ct m_X8_glimpses [rV (some b), iV x1, iV x2, iV x3] (insT b s0 σ) (.inl (some (iV v)), insT b s1 σ) :=
  Ct.of2 (w_X8_glimpses s0 x1 x2 x3 h) (by decide) rfl rfl rfl
abbrev m_X8_go : Mi := (yX8_go, cX8_go, (some .boolean), 3, 5, 120, [])
theorem n_X8_go : nameOk yX8_go 2 := ⟨by decide, by decide, by decide +kernel⟩
def f_X8_go (s0 : TW) (x1 : Int) (x2 : Int) : Option (Int × TW) :=
  bt_ (f_X8_isMan s0 x1) fun v2 s1 => (if nrm v2 = 0 then (some (0, s1)) else ((if nrm x2 < nrm 1 then (some (0, s1)) else (bt_ (f_X8_nowOf s1 x1) fun v4 s3 => bt_ (f_X8_waysOf s3 v4) fun v6 s5 => (if nrm x2 ≤ nrm v6 then (bt_ (f_X8_nowOf s5 x1) fun v8 s7 => bt_ (f_X8_through s7 v8 x2) fun v10 s9 => bt_ (f_X8_becomes s9 x1 v10) fun _ s11 => some (1, s11)) else (some (0, s5)))))))
theorem w_X8_go {b : Nat} {σ σ0 : Hp} {w : Int × TW} (s0 : TW) (x1 : Int) (x2 : Int) (h : f_X8_go s0 x1 x2 = some w) : AW m_X8_go σ0 (tI b σ w) 0 [some (rV (some b)), some (iV x1), some (iV x2)] [] (insT b s0 σ) := by
  unfold f_X8_go at h
  refine AW.aload_n dX8_go_0 rfl ?_
  refine AW.iload_n dX8_go_1 rfl ?_
  refine AW.tVI (M' := m_X8_isMan) [iV x1] [] dX8_go_2 q1893 q1895 qs89 q139 q1896 rfl n_X8_isMan rfl rfl rfl (fun _ _ e => c_X8_isMan e) h (fun v2 s1 h => ?_)
  refine AW.if_eq 26 dX8_go_5 (by decide) h (fun c14 h => ?_) (fun c14 h => ?_)
  · refine AW.iconst dX8_go_26 ?_
    cases h
    exact AW.zret (z := 0) dX8_go_27 rfl zz0
  · refine AW.iload_n dX8_go_8 rfl ?_
    refine AW.iconst dX8_go_9 ?_
    refine AW.icmp_lt 26 dX8_go_10 (by decide) h (fun c13 h => ?_) (fun c13 h => ?_)
    · refine AW.iconst dX8_go_26 ?_
      cases h
      exact AW.zret (z := 0) dX8_go_27 rfl zz0
    · refine AW.iload_n dX8_go_13 rfl ?_
      refine AW.aload_n dX8_go_14 rfl ?_
      refine AW.aload_n dX8_go_15 rfl ?_
      refine AW.iload_n dX8_go_16 rfl ?_
      refine AW.tVI (M' := m_X8_nowOf) [iV x1] [rV (some b), iV x2] dX8_go_17 q1972 q1974 qs104 q139 q1975 rfl n_X8_nowOf rfl rfl rfl (fun _ _ e => c_X8_nowOf e) h (fun v4 s3 h => ?_)
      refine AW.tVI (M' := m_X8_waysOf) [iV v4] [iV x2] dX8_go_20 q1518 q1520 qs59 q139 q1521 rfl n_X8_waysOf rfl rfl rfl (fun _ _ e => c_X8_waysOf e) h (fun v6 s5 h => ?_)
      refine AW.icmp_le 28 dX8_go_23 (by decide) h (fun c12 h => ?_) (fun c12 h => ?_)
      · refine AW.aload_n dX8_go_28 rfl ?_
        refine AW.iload_n dX8_go_29 rfl ?_
        refine AW.aload_n dX8_go_30 rfl ?_
        refine AW.aload_n dX8_go_31 rfl ?_
        refine AW.iload_n dX8_go_32 rfl ?_
        refine AW.tVI (M' := m_X8_nowOf) [iV x1] [rV (some b), iV x1, rV (some b)] dX8_go_33 q1972 q1974 qs104 q139 q1975 rfl n_X8_nowOf rfl rfl rfl (fun _ _ e => c_X8_nowOf e) h (fun v8 s7 h => ?_)
        refine AW.iload_n dX8_go_36 rfl ?_
        refine AW.tVI (M' := m_X8_through) [iV v8, iV x2] [iV x1, rV (some b)] dX8_go_37 q1948 q1950 qs100 q139 q1951 rfl n_X8_through rfl rfl rfl (fun _ _ e => c_X8_through e) h (fun v10 s9 h => ?_)
        refine AW.tVU (M' := m_X8_becomes) [iV x1, iV v10] [] dX8_go_40 q1976 q1978 qs105 q139 q1979 rfl n_X8_becomes rfl rfl rfl (fun _ _ e => c_X8_becomes e) h (fun _ s11 h => ?_)
        refine AW.iconst dX8_go_43 ?_
        cases h
        exact AW.zret (z := 1) dX8_go_44 rfl zz1
      · refine AW.iconst dX8_go_26 ?_
        cases h
        exact AW.zret (z := 0) dX8_go_27 rfl zz0
theorem c_X8_go {b : Nat} {σ : Hp} {s0 : TW} {x1 : Int} {x2 : Int} {v : Int} {s1 : TW} (h : f_X8_go s0 x1 x2 = some (v, s1)) : Ct m_X8_go [rV (some b), iV x1, iV x2] (insT b s0 σ) (.inl (some (iV v)), insT b s1 σ) :=
  Ct.of2 (w_X8_go s0 x1 x2 h) (by decide) rfl rfl rfl
abbrev m_X8_seenFrom : Mi := (yX8_seenFrom, cX8_seenFrom, (some .int), 4, 2, 46, [])
theorem n_X8_seenFrom : nameOk yX8_seenFrom 1 := ⟨by decide, by decide, by decide +kernel⟩
def f_X8_seenFrom_L4 : Nat → TW → Int → Int → Int → (TW → Int → Option (Int × TW)) → Option (Int × TW)
  | 0, _, _, _, _, _ => none
  | n + 1, s0, x1, x2, x3, k => (ta s0 31 (s0.1 18)).bind fun v1 => (if nrm v1 ≤ nrm x3 then (k s0 x2) else (bt_ (f_X8_hungIn s0 x3 (s0.1 57)) fun v3 s2 => (if ¬ nrm v3 = nrm x1 then (f_X8_seenFrom_L4 n s2 x1 x2 (x3 + 1) k) else (bt_ (f_X8_showsAt s2 x3 (s2.1 57)) fun v5 s4 => bt_ (f_X8_menShown s4 x3 v5) fun v7 s6 => f_X8_seenFrom_L4 n s6 x1 (orI x2 v7) (x3 + 1) k))))
theorem w_X8_seenFrom_L4 {b : Nat} {σ σ0 : Hp} {w : Int × TW} : ∀ (n : Nat) (s0 : TW) (x1 : Int) (x2 : Int) (x3 : Int) (k : (TW → Int → Option (Int × TW))), f_X8_seenFrom_L4 n s0 x1 x2 x3 k = some w → (∀ (s1 : TW) (x2 : Int), k s1 x2 = some w → AW m_X8_seenFrom σ0 (tI b σ w) 53 [none, none, some (iV x2), none] [] (insT b s1 σ)) → AW m_X8_seenFrom σ0 (tI b σ w) 4 [some (rV (some b)), some (iV x1), some (iV x2), some (iV x3)] [] (insT b s0 σ) := by
  intro n
  induction n with
  | zero =>
    intro s0 x1 x2 x3 k h hk
    rw [f_X8_seenFrom_L4] at h
    cases h
  | succ n ih =>
    intro s0 x1 x2 x3 k h hk
    rw [f_X8_seenFrom_L4] at h
    refine AW.iload_n dX8_seenFrom_4 rfl ?_
    refine AW.aload_n dX8_seenFrom_5 rfl ?_
    refine AW.tgR (k := 31) dX8_seenFrom_6 (Nat.le_of_ble_eq_true rfl) (fun _ => rfl) q1571 rfl ia31 ?_
    refine AW.aload_n dX8_seenFrom_9 rfl ?_
    refine AW.tgI (k := 18) dX8_seenFrom_10 (Nat.le_of_ble_eq_true rfl) (fun _ => rfl) q1558 rfl ?_
    refine AW.tiald (k := 31) dX8_seenFrom_13 ia31 (Nat.le_of_ble_eq_true rfl) rfl h (fun v1 h => ?_)
    refine AW.icmp_ge 53 dX8_seenFrom_14 (by decide) h (fun c9 h => ?_) (fun c9 h => ?_)
    · exact AW.fewer (L' := [none, none, some (iV x2), none]) (And.intro rfl trivial) (hk _ _ h)
    · refine AW.aload_n dX8_seenFrom_17 rfl ?_
      refine AW.iload_n dX8_seenFrom_18 rfl ?_
      refine AW.aload_n dX8_seenFrom_19 rfl ?_
      refine AW.tgI (k := 57) dX8_seenFrom_20 (Nat.le_of_ble_eq_true rfl) (fun _ => rfl) q1597 rfl ?_
      refine AW.tVI (M' := m_X8_hungIn) [iV x3, iV (s0.1 57)] [] dX8_seenFrom_23 q1924 q1926 qs95 q139 q1927 rfl n_X8_hungIn rfl rfl rfl (fun _ _ e => c_X8_hungIn e) h (fun v3 s2 h => ?_)
      refine AW.iload_n dX8_seenFrom_26 rfl ?_
      refine AW.icmp_ne 47 dX8_seenFrom_27 (by decide) h (fun c8 h => ?_) (fun c8 h => ?_)
      · refine AW.iinc (L' := [some (rV (some b)), some (iV x1), some (iV x2), some (iV (x3 + 1))]) dX8_seenFrom_47 rfl (Nat.le_of_ble_eq_true rfl) rfl rfl ?_
        refine AW.goto (tgt := 4) dX8_seenFrom_50 (by decide) ?_
        exact ih _ _ _ _ _ h hk
      · refine AW.iload_n dX8_seenFrom_30 rfl ?_
        refine AW.aload_n dX8_seenFrom_31 rfl ?_
        refine AW.iload_n dX8_seenFrom_32 rfl ?_
        refine AW.aload_n dX8_seenFrom_33 rfl ?_
        refine AW.iload_n dX8_seenFrom_34 rfl ?_
        refine AW.aload_n dX8_seenFrom_35 rfl ?_
        refine AW.tgI (k := 57) dX8_seenFrom_36 (Nat.le_of_ble_eq_true rfl) (fun _ => rfl) q1597 rfl ?_
        refine AW.tVI (M' := m_X8_showsAt) [iV x3, iV (s2.1 57)] [iV x3, rV (some b), iV x2] dX8_seenFrom_39 q1916 q1918 qs93 q139 q1919 rfl n_X8_showsAt rfl rfl rfl (fun _ _ e => c_X8_showsAt e) h (fun v5 s4 h => ?_)
        refine AW.tVI (M' := m_X8_menShown) [iV x3, iV v5] [iV x2] dX8_seenFrom_42 q1928 q1930 qs96 q139 q1931 rfl n_X8_menShown rfl rfl rfl (fun _ _ e => c_X8_menShown e) h (fun v7 s6 h => ?_)
        refine AW.ior dX8_seenFrom_45 ?_
        refine AW.istore_n (L' := [some (rV (some b)), some (iV x1), some (iV (orI x2 v7)), some (iV x3)]) dX8_seenFrom_46 (Nat.le_of_ble_eq_true rfl) rfl rfl ?_
        refine AW.iinc (L' := [some (rV (some b)), some (iV x1), some (iV (orI x2 v7)), some (iV (x3 + 1))]) dX8_seenFrom_47 rfl (Nat.le_of_ble_eq_true rfl) rfl rfl ?_
        refine AW.goto (tgt := 4) dX8_seenFrom_50 (by decide) ?_
        exact ih _ _ _ _ _ h hk
def f_X8_seenFrom (s0 : TW) (x1 : Int) : Option (Int × TW) :=
  f_X8_seenFrom_L4 FU s0 x1 0 0 (fun s10 x2 => some (nrm x2, s10))
theorem w_X8_seenFrom {b : Nat} {σ σ0 : Hp} {w : Int × TW} (s0 : TW) (x1 : Int) (h : f_X8_seenFrom s0 x1 = some w) : AW m_X8_seenFrom σ0 (tI b σ w) 0 [some (rV (some b)), some (iV x1), none, none] [] (insT b s0 σ) := by
  unfold f_X8_seenFrom at h
  refine AW.iconst dX8_seenFrom_0 ?_
  refine AW.istore_n (L' := [some (rV (some b)), some (iV x1), some (iV 0), none]) dX8_seenFrom_1 (Nat.le_of_ble_eq_true rfl) rfl rfl ?_
  refine AW.iconst dX8_seenFrom_2 ?_
  refine AW.istore_n (L' := [some (rV (some b)), some (iV x1), some (iV 0), some (iV 0)]) dX8_seenFrom_3 (Nat.le_of_ble_eq_true rfl) rfl rfl ?_
  refine w_X8_seenFrom_L4 _ _ _ _ _ _ h (fun s10 x2 h => ?_)
  refine AW.iload_n dX8_seenFrom_53 rfl ?_
  refine AW.nv ?_
  cases h
  exact AW.iret dX8_seenFrom_54 rfl
theorem c_X8_seenFrom {b : Nat} {σ : Hp} {s0 : TW} {x1 : Int} {v : Int} {s1 : TW} (h : f_X8_seenFrom s0 x1 = some (v, s1)) : Ct m_X8_seenFrom [rV (some b), iV x1] (insT b s0 σ) (.inl (some (iV v)), insT b s1 σ) :=
  Ct.of2 (w_X8_seenFrom s0 x1 h) (by decide) rfl rfl rfl
abbrev m_X8_hasIn : Mi := (yX8_hasIn, cX8_hasIn, (some .int), 4, 3, 69, [])
theorem n_X8_hasIn : nameOk yX8_hasIn 3 := ⟨by decide, by decide, by decide +kernel⟩
def f_X8_hasIn (s0 : TW) (x1 : Int) (x2 : Int) (x3 : Int) : Option (Int × TW) :=
  bt_ (f_X8_seenFrom s0 x1) fun v2 s1 => bt_ (f_X8_bits s1 (anI v2 (xoI x3 (-1)))) fun v4 s3 => (if ¬ nrm x1 = nrm x2 then (some (nrm (v4 - 0), s3)) else (some (nrm (v4 - 2), s3)))
theorem w_X8_hasIn {b : Nat} {σ σ0 : Hp} {w : Int × TW} (s0 : TW) (x1 : Int) (x2 : Int) (x3 : Int) (h : f_X8_hasIn s0 x1 x2 x3 = some w) : AW m_X8_hasIn σ0 (tI b σ w) 0 [some (rV (some b)), some (iV x1), some (iV x2), some (iV x3)] [] (insT b s0 σ) := by
  unfold f_X8_hasIn at h
  refine AW.aload_n dX8_hasIn_0 rfl ?_
  refine AW.iload_n dX8_hasIn_1 rfl ?_
  refine AW.tVI (M' := m_X8_seenFrom) [iV x1] [] dX8_hasIn_2 q2135 q2137 qs116 q139 q2138 rfl n_X8_seenFrom rfl rfl rfl (fun _ _ e => c_X8_seenFrom e) h (fun v2 s1 h => ?_)
  refine AW.iload_n dX8_hasIn_5 rfl ?_
  refine AW.iconst dX8_hasIn_6 ?_
  refine AW.ixor dX8_hasIn_7 ?_
  refine AW.iand dX8_hasIn_8 ?_
  refine AW.tSI (M' := m_X8_bits) [iV (anI v2 (xoI x3 (-1)))] [] dX8_hasIn_9 q1526 q1527 q139 q1528 n_X8_bits rfl rfl rfl (fun _ _ e => c_X8_bits e) h (fun v4 s3 h => ?_)
  refine AW.iload_n dX8_hasIn_12 rfl ?_
  refine AW.iload_n dX8_hasIn_13 rfl ?_
  refine AW.icmp_ne 21 dX8_hasIn_14 (by decide) h (fun c5 h => ?_) (fun c5 h => ?_)
  · refine AW.iconst dX8_hasIn_21 ?_
    refine AW.isub dX8_hasIn_22 ?_
    refine AW.nv ?_
    cases h
    exact AW.iret dX8_hasIn_23 rfl
  · refine AW.iconst dX8_hasIn_17 ?_
    refine AW.goto (tgt := 22) dX8_hasIn_18 (by decide) ?_
    refine AW.isub dX8_hasIn_22 ?_
    refine AW.nv ?_
    cases h
    exact AW.iret dX8_hasIn_23 rfl
theorem c_X8_hasIn {b : Nat} {σ : Hp} {s0 : TW} {x1 : Int} {x2 : Int} {x3 : Int} {v : Int} {s1 : TW} (h : f_X8_hasIn s0 x1 x2 x3 = some (v, s1)) : Ct m_X8_hasIn [rV (some b), iV x1, iV x2, iV x3] (insT b s0 σ) (.inl (some (iV v)), insT b s1 σ) :=
  Ct.of2 (w_X8_hasIn s0 x1 x2 x3 h) (by decide) rfl rfl rfl
abbrev m_X8_watched : Mi := (yX8_watched, cX8_watched, (some .int), 3, 1, 22, [])
theorem n_X8_watched : nameOk yX8_watched 0 := ⟨by decide, by decide, by decide +kernel⟩
def f_X8_watched_L4 : Nat → TW → Int → Int → (TW → Int → Option (Int × TW)) → Option (Int × TW)
  | 0, _, _, _, _ => none
  | n + 1, s0, x1, x2, k => (ta s0 31 (s0.1 18)).bind fun v1 => (if nrm v1 ≤ nrm x2 then (k s0 x1) else (bt_ (f_X8_isTurned s0 x2 (s0.1 57)) fun v3 s2 => (if ¬ nrm v3 = 0 then (f_X8_watched_L4 n s2 x1 (x2 + 1) k) else ((ta s2 58 x2).bind fun v4 => (if ¬ nrm v4 = nrm (-1) then (f_X8_watched_L4 n s2 x1 (x2 + 1) k) else (bt_ (f_X8_hungIn s2 x2 (s2.1 57)) fun v6 s5 => f_X8_watched_L4 n s5 (orI x1 (slI 1 v6)) (x2 + 1) k))))))
theorem w_X8_watched_L4 {b : Nat} {σ σ0 : Hp} {w : Int × TW} : ∀ (n : Nat) (s0 : TW) (x1 : Int) (x2 : Int) (k : (TW → Int → Option (Int × TW))), f_X8_watched_L4 n s0 x1 x2 k = some w → (∀ (s1 : TW) (x1 : Int), k s1 x1 = some w → AW m_X8_watched σ0 (tI b σ w) 59 [none, some (iV x1), none] [] (insT b s1 σ)) → AW m_X8_watched σ0 (tI b σ w) 4 [some (rV (some b)), some (iV x1), some (iV x2)] [] (insT b s0 σ) := by
  intro n
  induction n with
  | zero =>
    intro s0 x1 x2 k h hk
    rw [f_X8_watched_L4] at h
    cases h
  | succ n ih =>
    intro s0 x1 x2 k h hk
    rw [f_X8_watched_L4] at h
    refine AW.iload_n dX8_watched_4 rfl ?_
    refine AW.aload_n dX8_watched_5 rfl ?_
    refine AW.tgR (k := 31) dX8_watched_6 (Nat.le_of_ble_eq_true rfl) (fun _ => rfl) q1571 rfl ia31 ?_
    refine AW.aload_n dX8_watched_9 rfl ?_
    refine AW.tgI (k := 18) dX8_watched_10 (Nat.le_of_ble_eq_true rfl) (fun _ => rfl) q1558 rfl ?_
    refine AW.tiald (k := 31) dX8_watched_13 ia31 (Nat.le_of_ble_eq_true rfl) rfl h (fun v1 h => ?_)
    refine AW.icmp_ge 59 dX8_watched_14 (by decide) h (fun c9 h => ?_) (fun c9 h => ?_)
    · exact AW.fewer (L' := [none, some (iV x1), none]) (And.intro rfl trivial) (hk _ _ h)
    · refine AW.aload_n dX8_watched_17 rfl ?_
      refine AW.iload_n dX8_watched_18 rfl ?_
      refine AW.aload_n dX8_watched_19 rfl ?_
      refine AW.tgI (k := 57) dX8_watched_20 (Nat.le_of_ble_eq_true rfl) (fun _ => rfl) q1597 rfl ?_
      refine AW.tVI (M' := m_X8_isTurned) [iV x2, iV (s0.1 57)] [] dX8_watched_23 q1920 q1922 qs94 q139 q1923 rfl n_X8_isTurned rfl rfl rfl (fun _ _ e => c_X8_isTurned e) h (fun v3 s2 h => ?_)
      refine AW.if_ne 53 dX8_watched_26 (by decide) h (fun c8 h => ?_) (fun c8 h => ?_)
      · refine AW.iinc (L' := [some (rV (some b)), some (iV x1), some (iV (x2 + 1))]) dX8_watched_53 rfl (Nat.le_of_ble_eq_true rfl) rfl rfl ?_
        refine AW.goto (tgt := 4) dX8_watched_56 (by decide) ?_
        exact ih _ _ _ _ h hk
      · refine AW.aload_n dX8_watched_29 rfl ?_
        refine AW.tgR (k := 58) dX8_watched_30 (Nat.le_of_ble_eq_true rfl) (fun _ => rfl) q1598 rfl ia58 ?_
        refine AW.iload_n dX8_watched_33 rfl ?_
        refine AW.tiald (k := 58) dX8_watched_34 ia58 (Nat.le_of_ble_eq_true rfl) rfl h (fun v4 h => ?_)
        refine AW.iconst dX8_watched_35 ?_
        refine AW.icmp_ne 53 dX8_watched_36 (by decide) h (fun c7 h => ?_) (fun c7 h => ?_)
        · refine AW.iinc (L' := [some (rV (some b)), some (iV x1), some (iV (x2 + 1))]) dX8_watched_53 rfl (Nat.le_of_ble_eq_true rfl) rfl rfl ?_
          refine AW.goto (tgt := 4) dX8_watched_56 (by decide) ?_
          exact ih _ _ _ _ h hk
        · refine AW.iload_n dX8_watched_39 rfl ?_
          refine AW.iconst dX8_watched_40 ?_
          refine AW.aload_n dX8_watched_41 rfl ?_
          refine AW.iload_n dX8_watched_42 rfl ?_
          refine AW.aload_n dX8_watched_43 rfl ?_
          refine AW.tgI (k := 57) dX8_watched_44 (Nat.le_of_ble_eq_true rfl) (fun _ => rfl) q1597 rfl ?_
          refine AW.tVI (M' := m_X8_hungIn) [iV x2, iV (s2.1 57)] [iV 1, iV x1] dX8_watched_47 q1924 q1926 qs95 q139 q1927 rfl n_X8_hungIn rfl rfl rfl (fun _ _ e => c_X8_hungIn e) h (fun v6 s5 h => ?_)
          refine AW.ishl dX8_watched_50 ?_
          refine AW.ior dX8_watched_51 ?_
          refine AW.istore_n (L' := [some (rV (some b)), some (iV (orI x1 (slI 1 v6))), some (iV x2)]) dX8_watched_52 (Nat.le_of_ble_eq_true rfl) rfl rfl ?_
          refine AW.iinc (L' := [some (rV (some b)), some (iV (orI x1 (slI 1 v6))), some (iV (x2 + 1))]) dX8_watched_53 rfl (Nat.le_of_ble_eq_true rfl) rfl rfl ?_
          refine AW.goto (tgt := 4) dX8_watched_56 (by decide) ?_
          exact ih _ _ _ _ h hk
def f_X8_watched (s0 : TW) : Option (Int × TW) :=
  f_X8_watched_L4 FU s0 0 0 (fun s10 x1 => some (nrm x1, s10))
theorem w_X8_watched {b : Nat} {σ σ0 : Hp} {w : Int × TW} (s0 : TW) (h : f_X8_watched s0 = some w) : AW m_X8_watched σ0 (tI b σ w) 0 [some (rV (some b)), none, none] [] (insT b s0 σ) := by
  unfold f_X8_watched at h
  refine AW.iconst dX8_watched_0 ?_
  refine AW.istore_n (L' := [some (rV (some b)), some (iV 0), none]) dX8_watched_1 (Nat.le_of_ble_eq_true rfl) rfl rfl ?_
  refine AW.iconst dX8_watched_2 ?_
  refine AW.istore_n (L' := [some (rV (some b)), some (iV 0), some (iV 0)]) dX8_watched_3 (Nat.le_of_ble_eq_true rfl) rfl rfl ?_
  refine w_X8_watched_L4 _ _ _ _ _ h (fun s10 x1 h => ?_)
  refine AW.iload_n dX8_watched_59 rfl ?_
  refine AW.nv ?_
  cases h
  exact AW.iret dX8_watched_60 rfl
theorem c_X8_watched {b : Nat} {σ : Hp} {s0 : TW} {v : Int} {s1 : TW} (h : f_X8_watched s0 = some (v, s1)) : Ct m_X8_watched [rV (some b)] (insT b s0 σ) (.inl (some (iV v)), insT b s1 σ) :=
  Ct.of2 (w_X8_watched s0 h) (by decide) rfl rfl rfl
abbrev m_X8_hidden : Mi := (yX8_hidden, cX8_hidden, (some .int), 6, 2, 44, [])
theorem n_X8_hidden : nameOk yX8_hidden 3 := ⟨by decide, by decide, by decide +kernel⟩
def f_X8_hidden_L83 : Nat → TW → Int → Int → (TW → Int → Int → Option (Int × TW)) → Option (Int × TW)
  | 0, _, _, _, _ => none
  | n + 1, s0, x1, x5, k => bt_ (f_X8_through s0 x1 x5) fun v13 s12 => (ta s12 66 v13).bind fun v14 => (ta s12 66 x1).bind fun v15 => (if nrm v14 = nrm (v15 - 1) then (k s12 x1 x5) else (f_X8_hidden_L83 n s12 x1 (x5 + 1) k))
theorem w_X8_hidden_L83 {b : Nat} {σ σ0 : Hp} {w : Int × TW} : ∀ (n : Nat) (s0 : TW) (x1 : Int) (x5 : Int) (k : (TW → Int → Int → Option (Int × TW))), f_X8_hidden_L83 n s0 x1 x5 k = some w → (∀ (s1 : TW) (x1 : Int) (x5 : Int), k s1 x1 x5 = some w → AW m_X8_hidden σ0 (tI b σ w) 112 [some (rV (some b)), some (iV x1), none, none, none, some (iV x5)] [] (insT b s1 σ)) → AW m_X8_hidden σ0 (tI b σ w) 83 [some (rV (some b)), some (iV x1), none, none, none, some (iV x5)] [] (insT b s0 σ) := by
  intro n
  induction n with
  | zero =>
    intro s0 x1 x5 k h hk
    rw [f_X8_hidden_L83] at h
    cases h
  | succ n ih =>
    intro s0 x1 x5 k h hk
    rw [f_X8_hidden_L83] at h
    refine AW.aload_n dX8_hidden_83 rfl ?_
    refine AW.tgR (k := 66) dX8_hidden_84 (Nat.le_of_ble_eq_true rfl) (fun _ => rfl) q1606 rfl ia66 ?_
    refine AW.aload_n dX8_hidden_87 rfl ?_
    refine AW.iload_n dX8_hidden_88 rfl ?_
    refine AW.iload dX8_hidden_89 rfl ?_
    refine AW.tVI (M' := m_X8_through) [iV x1, iV x5] [rV (some (b + tof 66))] dX8_hidden_91 q1948 q1950 qs100 q139 q1951 rfl n_X8_through rfl rfl rfl (fun _ _ e => c_X8_through e) h (fun v13 s12 h => ?_)
    refine AW.tiald (k := 66) dX8_hidden_94 ia66 (Nat.le_of_ble_eq_true rfl) rfl h (fun v14 h => ?_)
    refine AW.aload_n dX8_hidden_95 rfl ?_
    refine AW.tgR (k := 66) dX8_hidden_96 (Nat.le_of_ble_eq_true rfl) (fun _ => rfl) q1606 rfl ia66 ?_
    refine AW.iload_n dX8_hidden_99 rfl ?_
    refine AW.tiald (k := 66) dX8_hidden_100 ia66 (Nat.le_of_ble_eq_true rfl) rfl h (fun v15 h => ?_)
    refine AW.iconst dX8_hidden_101 ?_
    refine AW.isub dX8_hidden_102 ?_
    refine AW.icmp_eq 112 dX8_hidden_103 (by decide) h (fun c16 h => ?_) (fun c16 h => ?_)
    · exact hk _ _ _ h
    · refine AW.iinc (L' := [some (rV (some b)), some (iV x1), none, none, none, some (iV (x5 + 1))]) dX8_hidden_106 rfl (Nat.le_of_ble_eq_true rfl) rfl rfl ?_
      refine AW.goto (tgt := 83) dX8_hidden_109 (by decide) ?_
      exact ih _ _ _ _ h hk
def f_X8_hidden (s0 : TW) (x1 : Int) (x2 : Int) (x3 : Int) : Option (Int × TW) :=
  bt_ (f_X8_isRoom s0 x1) fun v2 s1 => (if nrm v2 = 0 then (some ((-1), s1)) else (bt_ (f_X8_isRoom s1 x2) fun v4 s3 => (if nrm v4 = 0 then (some ((-1), s3)) else (bt_ (f_X8_in s3 x3 0 1) fun v6 s5 => (if ¬ nrm v6 = 0 then (bt_ (f_X8_copies s5) fun _ s7 => bt_ (f_X8_watched s7) fun v9 s8 => bt_ (f_X8_fillsFar s8 x2 (anI 255 (xoI v9 (-1)))) fun _ s10 => (ta s10 66 x1).bind fun v11 => (if 0 ≤ nrm v11 then ((if ¬ nrm x3 = 0 then ((if ¬ nrm x1 = nrm x2 then (f_X8_hidden_L83 FU s10 x1 1 (fun s17 x1 x5 => bt_ (f_X8_through s17 x1 x5) fun v19 s18 => some (v19, s18))) else (some (nrm x1, s10)))) else ((ta s10 66 x1).bind fun v21 => some (v21, s10)))) else (some ((-2), s10)))) else (some ((-1), s5)))))))
theorem w_X8_hidden {b : Nat} {σ σ0 : Hp} {w : Int × TW} (s0 : TW) (x1 : Int) (x2 : Int) (x3 : Int) (h : f_X8_hidden s0 x1 x2 x3 = some w) : AW m_X8_hidden σ0 (tI b σ w) 0 [some (rV (some b)), some (iV x1), some (iV x2), some (iV x3), none, none] [] (insT b s0 σ) := by
  unfold f_X8_hidden at h
  refine AW.aload_n dX8_hidden_0 rfl ?_
  refine AW.iload_n dX8_hidden_1 rfl ?_
  refine AW.tVI (M' := m_X8_isRoom) [iV x1] [] dX8_hidden_2 q1988 q1990 qs106 q139 q1991 rfl n_X8_isRoom rfl rfl rfl (fun _ _ e => c_X8_isRoom e) h (fun v2 s1 h => ?_)
  refine AW.if_eq 25 dX8_hidden_5 (by decide) h (fun c26 h => ?_) (fun c26 h => ?_)
  · refine AW.iconst dX8_hidden_25 ?_
    cases h
    exact AW.iret dX8_hidden_26 rfl
  · refine AW.aload_n dX8_hidden_8 rfl ?_
    refine AW.iload_n dX8_hidden_9 rfl ?_
    refine AW.tVI (M' := m_X8_isRoom) [iV x2] [] dX8_hidden_10 q1988 q1990 qs106 q139 q1991 rfl n_X8_isRoom rfl rfl rfl (fun _ _ e => c_X8_isRoom e) h (fun v4 s3 h => ?_)
    refine AW.if_eq 25 dX8_hidden_13 (by decide) h (fun c25 h => ?_) (fun c25 h => ?_)
    · refine AW.iconst dX8_hidden_25 ?_
      cases h
      exact AW.iret dX8_hidden_26 rfl
    · refine AW.iload_n dX8_hidden_16 rfl ?_
      refine AW.iconst dX8_hidden_17 ?_
      refine AW.iconst dX8_hidden_18 ?_
      refine AW.tSI (M' := m_X8_in) [iV x3, iV 0, iV 1] [] dX8_hidden_19 q1897 q1898 q139 q1899 n_X8_in rfl rfl rfl (fun _ _ e => c_X8_in e) h (fun v6 s5 h => ?_)
      refine AW.if_ne 27 dX8_hidden_22 (by decide) h (fun c24 h => ?_) (fun c24 h => ?_)
      · refine AW.aload_n dX8_hidden_27 rfl ?_
        refine AW.tVU (M' := m_X8_copies) [] [] dX8_hidden_28 q1912 q1914 qs92 q139 q1915 rfl n_X8_copies rfl rfl rfl (fun _ _ e => c_X8_copies e) h (fun _ s7 h => ?_)
        refine AW.sipush dX8_hidden_31 (by decide) ?_
        refine AW.aload_n dX8_hidden_34 rfl ?_
        refine AW.tVI (M' := m_X8_watched) [] [iV 255] dX8_hidden_35 q2127 q2129 qs115 q139 q2130 rfl n_X8_watched rfl rfl rfl (fun _ _ e => c_X8_watched e) h (fun v9 s8 h => ?_)
        refine AW.iconst dX8_hidden_38 ?_
        refine AW.ixor dX8_hidden_39 ?_
        refine AW.iand dX8_hidden_40 ?_
        refine AW.istore (L' := [some (rV (some b)), some (iV x1), some (iV x2), some (iV x3), some (iV (anI 255 (xoI v9 (-1)))), none]) dX8_hidden_41 (Nat.le_of_ble_eq_true rfl) rfl rfl ?_
        refine AW.aload_n dX8_hidden_43 rfl ?_
        refine AW.iload_n dX8_hidden_44 rfl ?_
        refine AW.iload dX8_hidden_45 rfl ?_
        refine AW.tVU (M' := m_X8_fillsFar) [iV x2, iV (anI 255 (xoI v9 (-1)))] [] dX8_hidden_47 q2119 q2121 qs114 q139 q2122 rfl n_X8_fillsFar rfl rfl rfl (fun _ _ e => c_X8_fillsFar e) h (fun _ s10 h => ?_)
        refine AW.aload_n dX8_hidden_50 rfl ?_
        refine AW.tgR (k := 66) dX8_hidden_51 (Nat.le_of_ble_eq_true rfl) (fun _ => rfl) q1606 rfl ia66 ?_
        refine AW.iload_n dX8_hidden_54 rfl ?_
        refine AW.tiald (k := 66) dX8_hidden_55 ia66 (Nat.le_of_ble_eq_true rfl) rfl h (fun v11 h => ?_)
        refine AW.if_ge 62 dX8_hidden_56 (by decide) h (fun c23 h => ?_) (fun c23 h => ?_)
        · refine AW.iload_n dX8_hidden_62 rfl ?_
          refine AW.if_ne 73 dX8_hidden_63 (by decide) h (fun c22 h => ?_) (fun c22 h => ?_)
          · refine AW.iload_n dX8_hidden_73 rfl ?_
            refine AW.iload_n dX8_hidden_74 rfl ?_
            refine AW.icmp_ne 80 dX8_hidden_75 (by decide) h (fun c20 h => ?_) (fun c20 h => ?_)
            · refine AW.iconst dX8_hidden_80 ?_
              refine AW.istore (L' := [some (rV (some b)), some (iV x1), some (iV x2), some (iV x3), some (iV (anI 255 (xoI v9 (-1)))), some (iV 1)]) dX8_hidden_81 (Nat.le_of_ble_eq_true rfl) rfl rfl ?_
              refine AW.fewer (L' := [some (rV (some b)), some (iV x1), none, none, none, some (iV 1)]) (And.intro rfl (And.intro rfl (And.intro rfl trivial))) ?_
              refine w_X8_hidden_L83 _ _ _ _ _ h (fun s17 x1 x5 h => ?_)
              refine AW.aload_n dX8_hidden_112 rfl ?_
              refine AW.iload_n dX8_hidden_113 rfl ?_
              refine AW.iload dX8_hidden_114 rfl ?_
              refine AW.tVI (M' := m_X8_through) [iV x1, iV x5] [] dX8_hidden_116 q1948 q1950 qs100 q139 q1951 rfl n_X8_through rfl rfl rfl (fun _ _ e => c_X8_through e) h (fun v19 s18 h => ?_)
              cases h
              exact AW.iret dX8_hidden_119 rfl
            · refine AW.iload_n dX8_hidden_78 rfl ?_
              refine AW.nv ?_
              cases h
              exact AW.iret dX8_hidden_79 rfl
          · refine AW.aload_n dX8_hidden_66 rfl ?_
            refine AW.tgR (k := 66) dX8_hidden_67 (Nat.le_of_ble_eq_true rfl) (fun _ => rfl) q1606 rfl ia66 ?_
            refine AW.iload_n dX8_hidden_70 rfl ?_
            refine AW.tiald (k := 66) dX8_hidden_71 ia66 (Nat.le_of_ble_eq_true rfl) rfl h (fun v21 h => ?_)
            cases h
            exact AW.iret dX8_hidden_72 rfl
        · refine AW.bipush dX8_hidden_59 (by decide) ?_
          cases h
          exact AW.iret dX8_hidden_61 rfl
      · refine AW.iconst dX8_hidden_25 ?_
        cases h
        exact AW.iret dX8_hidden_26 rfl
theorem c_X8_hidden {b : Nat} {σ : Hp} {s0 : TW} {x1 : Int} {x2 : Int} {x3 : Int} {v : Int} {s1 : TW} (h : f_X8_hidden s0 x1 x2 x3 = some (v, s1)) : Ct m_X8_hidden [rV (some b), iV x1, iV x2, iV x3] (insT b s0 σ) (.inl (some (iV v)), insT b s1 σ) :=
  Ct.of2 (w_X8_hidden s0 x1 x2 x3 h) (by decide) rfl rfl rfl
abbrev m_X8_hold : Mi := (yX8_hold, cX8_hold, (some .boolean), 3, 1, 22, [])
theorem n_X8_hold : nameOk yX8_hold 1 := ⟨by decide, by decide, by decide +kernel⟩
def f_X8_hold_L20 : Nat → TW → Int → Int → (TW → Int → Option (Int × TW)) → Option (Int × TW)
  | 0, _, _, _, _ => none
  | n + 1, s0, x1, x2, k => (if nrm ((36 * (s0.1 53)) + 36) ≤ nrm x2 then (k s0 x1) else ((ta s0 52 x2).bind fun v4 => (ts s0 73 ((10800 * x1) + x2) v4).bind fun s5 => f_X8_hold_L20 n s5 x1 (x2 + 1) k))
theorem w_X8_hold_L20 {b : Nat} {σ σ0 : Hp} {w : Int × TW} : ∀ (n : Nat) (s0 : TW) (x1 : Int) (x2 : Int) (k : (TW → Int → Option (Int × TW))), f_X8_hold_L20 n s0 x1 x2 k = some w → (∀ (s1 : TW) (x1 : Int), k s1 x1 = some w → AW m_X8_hold σ0 (tI b σ w) 58 [some (rV (some b)), some (iV x1), none] [] (insT b s1 σ)) → AW m_X8_hold σ0 (tI b σ w) 20 [some (rV (some b)), some (iV x1), some (iV x2)] [] (insT b s0 σ) := by
  intro n
  induction n with
  | zero =>
    intro s0 x1 x2 k h hk
    rw [f_X8_hold_L20] at h
    cases h
  | succ n ih =>
    intro s0 x1 x2 k h hk
    rw [f_X8_hold_L20] at h
    refine AW.iload_n dX8_hold_20 rfl ?_
    refine AW.bipush dX8_hold_21 (by decide) ?_
    refine AW.aload_n dX8_hold_23 rfl ?_
    refine AW.tgI (k := 53) dX8_hold_24 (Nat.le_of_ble_eq_true rfl) (fun _ => rfl) q1593 rfl ?_
    refine AW.imul dX8_hold_27 ?_
    refine AW.bipush dX8_hold_28 (by decide) ?_
    refine AW.iadd dX8_hold_30 ?_
    refine AW.icmp_ge 58 dX8_hold_31 (by decide) h (fun c6 h => ?_) (fun c6 h => ?_)
    · exact AW.fewer (L' := [some (rV (some b)), some (iV x1), none]) (And.intro rfl (And.intro rfl trivial)) (hk _ _ h)
    · refine AW.aload_n dX8_hold_34 rfl ?_
      refine AW.tgR (k := 73) dX8_hold_35 (Nat.le_of_ble_eq_true rfl) (fun _ => rfl) q1613 rfl ia73 ?_
      refine AW.sipush dX8_hold_38 (by decide) ?_
      refine AW.iload_n dX8_hold_41 rfl ?_
      refine AW.imul dX8_hold_42 ?_
      refine AW.iload_n dX8_hold_43 rfl ?_
      refine AW.iadd dX8_hold_44 ?_
      refine AW.aload_n dX8_hold_45 rfl ?_
      refine AW.tgR (k := 52) dX8_hold_46 (Nat.le_of_ble_eq_true rfl) (fun _ => rfl) q1592 rfl ia52 ?_
      refine AW.iload_n dX8_hold_49 rfl ?_
      refine AW.tiald (k := 52) dX8_hold_50 ia52 (Nat.le_of_ble_eq_true rfl) rfl h (fun v4 h => ?_)
      refine AW.tiast (k := 73) dX8_hold_51 ia73 (Nat.le_of_ble_eq_true rfl) mt73 rfl h (fun s5 h => ?_)
      refine AW.iinc (L' := [some (rV (some b)), some (iV x1), some (iV (x2 + 1))]) dX8_hold_52 rfl (Nat.le_of_ble_eq_true rfl) rfl rfl ?_
      refine AW.goto (tgt := 20) dX8_hold_55 (by decide) ?_
      exact ih _ _ _ _ h hk
def f_X8_hold_L73 : Nat → TW → Int → Int → (TW → Option (Int × TW)) → Option (Int × TW)
  | 0, _, _, _, _ => none
  | n + 1, s0, x1, x2, k => (if nrm 8 ≤ nrm x2 then (k s0) else ((ta s0 54 x2).bind fun v9 => (ts s0 74 (((17 * x1) + 1) + x2) v9).bind fun s10 => (ta s10 55 x2).bind fun v11 => (ts s10 74 (((17 * x1) + 9) + x2) v11).bind fun s12 => f_X8_hold_L73 n s12 x1 (x2 + 1) k))
theorem w_X8_hold_L73 {b : Nat} {σ σ0 : Hp} {w : Int × TW} : ∀ (n : Nat) (s0 : TW) (x1 : Int) (x2 : Int) (k : (TW → Option (Int × TW))), f_X8_hold_L73 n s0 x1 x2 k = some w → (∀ (s1 : TW), k s1 = some w → AW m_X8_hold σ0 (tI b σ w) 124 [none, none, none] [] (insT b s1 σ)) → AW m_X8_hold σ0 (tI b σ w) 73 [some (rV (some b)), some (iV x1), some (iV x2)] [] (insT b s0 σ) := by
  intro n
  induction n with
  | zero =>
    intro s0 x1 x2 k h hk
    rw [f_X8_hold_L73] at h
    cases h
  | succ n ih =>
    intro s0 x1 x2 k h hk
    rw [f_X8_hold_L73] at h
    refine AW.iload_n dX8_hold_73 rfl ?_
    refine AW.bipush dX8_hold_74 (by decide) ?_
    refine AW.icmp_ge 124 dX8_hold_76 (by decide) h (fun c13 h => ?_) (fun c13 h => ?_)
    · exact AW.fewer (L' := [none, none, none]) (trivial) (hk _ h)
    · refine AW.aload_n dX8_hold_79 rfl ?_
      refine AW.tgR (k := 74) dX8_hold_80 (Nat.le_of_ble_eq_true rfl) (fun _ => rfl) q1614 rfl ia74 ?_
      refine AW.bipush dX8_hold_83 (by decide) ?_
      refine AW.iload_n dX8_hold_85 rfl ?_
      refine AW.imul dX8_hold_86 ?_
      refine AW.iconst dX8_hold_87 ?_
      refine AW.iadd dX8_hold_88 ?_
      refine AW.iload_n dX8_hold_89 rfl ?_
      refine AW.iadd dX8_hold_90 ?_
      refine AW.aload_n dX8_hold_91 rfl ?_
      refine AW.tgR (k := 54) dX8_hold_92 (Nat.le_of_ble_eq_true rfl) (fun _ => rfl) q1594 rfl ia54 ?_
      refine AW.iload_n dX8_hold_95 rfl ?_
      refine AW.tiald (k := 54) dX8_hold_96 ia54 (Nat.le_of_ble_eq_true rfl) rfl h (fun v9 h => ?_)
      refine AW.tiast (k := 74) dX8_hold_97 ia74 (Nat.le_of_ble_eq_true rfl) mt74 rfl h (fun s10 h => ?_)
      refine AW.aload_n dX8_hold_98 rfl ?_
      refine AW.tgR (k := 74) dX8_hold_99 (Nat.le_of_ble_eq_true rfl) (fun _ => rfl) q1614 rfl ia74 ?_
      refine AW.bipush dX8_hold_102 (by decide) ?_
      refine AW.iload_n dX8_hold_104 rfl ?_
      refine AW.imul dX8_hold_105 ?_
      refine AW.bipush dX8_hold_106 (by decide) ?_
      refine AW.iadd dX8_hold_108 ?_
      refine AW.iload_n dX8_hold_109 rfl ?_
      refine AW.iadd dX8_hold_110 ?_
      refine AW.aload_n dX8_hold_111 rfl ?_
      refine AW.tgR (k := 55) dX8_hold_112 (Nat.le_of_ble_eq_true rfl) (fun _ => rfl) q1595 rfl ia55 ?_
      refine AW.iload_n dX8_hold_115 rfl ?_
      refine AW.tiald (k := 55) dX8_hold_116 ia55 (Nat.le_of_ble_eq_true rfl) rfl h (fun v11 h => ?_)
      refine AW.tiast (k := 74) dX8_hold_117 ia74 (Nat.le_of_ble_eq_true rfl) mt74 rfl h (fun s12 h => ?_)
      refine AW.iinc (L' := [some (rV (some b)), some (iV x1), some (iV (x2 + 1))]) dX8_hold_118 rfl (Nat.le_of_ble_eq_true rfl) rfl rfl ?_
      refine AW.goto (tgt := 73) dX8_hold_121 (by decide) ?_
      exact ih _ _ _ _ h hk
def f_X8_hold (s0 : TW) (x1 : Int) : Option (Int × TW) :=
  bt_ (f_X8_in s0 x1 0 2) fun v2 s1 => (if ¬ nrm v2 = 0 then ((ts s1 72 x1 (b1I 1)).bind fun s3 => f_X8_hold_L20 FU s3 x1 0 (fun s7 x1 => (ts s7 74 (17 * x1) (s7.1 53)).bind fun s8 => f_X8_hold_L73 FU s8 x1 0 (fun s14 => some (1, s14)))) else (some (0, s1)))
theorem w_X8_hold {b : Nat} {σ σ0 : Hp} {w : Int × TW} (s0 : TW) (x1 : Int) (h : f_X8_hold s0 x1 = some w) : AW m_X8_hold σ0 (tI b σ w) 0 [some (rV (some b)), some (iV x1), none] [] (insT b s0 σ) := by
  unfold f_X8_hold at h
  refine AW.iload_n dX8_hold_0 rfl ?_
  refine AW.iconst dX8_hold_1 ?_
  refine AW.iconst dX8_hold_2 ?_
  refine AW.tSI (M' := m_X8_in) [iV x1, iV 0, iV 2] [] dX8_hold_3 q1897 q1898 q139 q1899 n_X8_in rfl rfl rfl (fun _ _ e => c_X8_in e) h (fun v2 s1 h => ?_)
  refine AW.if_ne 11 dX8_hold_6 (by decide) h (fun c15 h => ?_) (fun c15 h => ?_)
  · refine AW.aload_n dX8_hold_11 rfl ?_
    refine AW.tgR (k := 72) dX8_hold_12 (Nat.le_of_ble_eq_true rfl) (fun _ => rfl) q1612 rfl ia72 ?_
    refine AW.iload_n dX8_hold_15 rfl ?_
    refine AW.iconst dX8_hold_16 ?_
    refine AW.tzast (k := 72) dX8_hold_17 ia72 (Nat.le_of_ble_eq_true rfl) mt72 rfl h (fun s3 h => ?_)
    refine AW.iconst dX8_hold_18 ?_
    refine AW.istore_n (L' := [some (rV (some b)), some (iV x1), some (iV 0)]) dX8_hold_19 (Nat.le_of_ble_eq_true rfl) rfl rfl ?_
    refine w_X8_hold_L20 _ _ _ _ _ h (fun s7 x1 h => ?_)
    refine AW.aload_n dX8_hold_58 rfl ?_
    refine AW.tgR (k := 74) dX8_hold_59 (Nat.le_of_ble_eq_true rfl) (fun _ => rfl) q1614 rfl ia74 ?_
    refine AW.bipush dX8_hold_62 (by decide) ?_
    refine AW.iload_n dX8_hold_64 rfl ?_
    refine AW.imul dX8_hold_65 ?_
    refine AW.aload_n dX8_hold_66 rfl ?_
    refine AW.tgI (k := 53) dX8_hold_67 (Nat.le_of_ble_eq_true rfl) (fun _ => rfl) q1593 rfl ?_
    refine AW.tiast (k := 74) dX8_hold_70 ia74 (Nat.le_of_ble_eq_true rfl) mt74 rfl h (fun s8 h => ?_)
    refine AW.iconst dX8_hold_71 ?_
    refine AW.istore_n (L' := [some (rV (some b)), some (iV x1), some (iV 0)]) dX8_hold_72 (Nat.le_of_ble_eq_true rfl) rfl rfl ?_
    refine w_X8_hold_L73 _ _ _ _ _ h (fun s14 h => ?_)
    refine AW.iconst dX8_hold_124 ?_
    cases h
    exact AW.zret (z := 1) dX8_hold_125 rfl zz1
  · refine AW.iconst dX8_hold_9 ?_
    cases h
    exact AW.zret (z := 0) dX8_hold_10 rfl zz0
theorem c_X8_hold {b : Nat} {σ : Hp} {s0 : TW} {x1 : Int} {v : Int} {s1 : TW} (h : f_X8_hold s0 x1 = some (v, s1)) : Ct m_X8_hold [rV (some b), iV x1] (insT b s0 σ) (.inl (some (iV v)), insT b s1 σ) :=
  Ct.of2 (w_X8_hold s0 x1 h) (by decide) rfl rfl rfl
abbrev m_X8_isLong : Mi := (yX8_isLong, cX8_isLong, (some .boolean), 1, 1, 22, [])
theorem n_X8_isLong : nameOk yX8_isLong 1 := ⟨by decide, by decide, by decide +kernel⟩
def f_X8_isLong (s0 : TW) (x0 : Int) : Option (Int × TW) :=
  bt_ (f_X8_in s0 x0 0 299) fun v2 s1 => if nrm v2 = 0 ∨ nrm v2 = 1 then some (v2, s1) else none
theorem w_X8_isLong {b : Nat} {σ σ0 : Hp} {w : Int × TW} (s0 : TW) (x0 : Int) (h : f_X8_isLong s0 x0 = some w) : AW m_X8_isLong σ0 (tI b σ w) 0 [some (iV x0)] [] (insT b s0 σ) := by
  unfold f_X8_isLong at h
  refine AW.iload_n dX8_isLong_0 rfl ?_
  refine AW.iconst dX8_isLong_1 ?_
  refine AW.sipush dX8_isLong_2 (by decide) ?_
  refine AW.tSI (M' := m_X8_in) [iV x0, iV 0, iV 299] [] dX8_isLong_5 q1897 q1898 q139 q1899 n_X8_in rfl rfl rfl (fun _ _ e => c_X8_in e) h (fun v2 s1 h => ?_)
  obtain ⟨hz, h⟩ := pz_elim h
  cases h
  exact AW.zret dX8_isLong_8 rfl hz
theorem c_X8_isLong {b : Nat} {σ : Hp} {s0 : TW} {x0 : Int} {v : Int} {s1 : TW} (h : f_X8_isLong s0 x0 = some (v, s1)) : Ct m_X8_isLong [iV x0] (insT b s0 σ) (.inl (some (iV v)), insT b s1 σ) :=
  Ct.of2 (w_X8_isLong s0 x0 h) (by decide) rfl rfl rfl
abbrev m_X8_isResting : Mi := (yX8_isResting, cX8_isResting, (some .boolean), 5, 4, 92, [])
theorem n_X8_isResting : nameOk yX8_isResting 3 := ⟨by decide, by decide, by decide +kernel⟩
def f_X8_isResting_L3 : Nat → TW → Int → Int → Int → Int → (TW → Option (Int × TW)) → Option (Int × TW)
  | 0, _, _, _, _, _, _ => none
  | n + 1, s0, x1, x2, x3, x4, k => (ta s0 24 (s0.1 18)).bind fun v1 => (if nrm v1 ≤ nrm x4 then (k s0) else (bt_ (f_X8_hasIn s0 x4 x2 x3) fun v3 s2 => bt_ (f_X8_hasIn s2 x1 x2 x3) fun v5 s4 => (if nrm v5 < nrm v3 then (some (0, s4)) else (bt_ (f_X8_hasIn s4 x4 x1 x3) fun v7 s6 => bt_ (f_X8_hasIn s6 x2 x1 x3) fun v9 s8 => (if nrm v7 ≤ nrm v9 then (f_X8_isResting_L3 n s8 x1 x2 x3 (x4 + 1) k) else (some (0, s8)))))))
theorem w_X8_isResting_L3 {b : Nat} {σ σ0 : Hp} {w : Int × TW} : ∀ (n : Nat) (s0 : TW) (x1 : Int) (x2 : Int) (x3 : Int) (x4 : Int) (k : (TW → Option (Int × TW))), f_X8_isResting_L3 n s0 x1 x2 x3 x4 k = some w → (∀ (s1 : TW), k s1 = some w → AW m_X8_isResting σ0 (tI b σ w) 61 [none, none, none, none, none] [] (insT b s1 σ)) → AW m_X8_isResting σ0 (tI b σ w) 3 [some (rV (some b)), some (iV x1), some (iV x2), some (iV x3), some (iV x4)] [] (insT b s0 σ) := by
  intro n
  induction n with
  | zero =>
    intro s0 x1 x2 x3 x4 k h hk
    rw [f_X8_isResting_L3] at h
    cases h
  | succ n ih =>
    intro s0 x1 x2 x3 x4 k h hk
    rw [f_X8_isResting_L3] at h
    refine AW.iload dX8_isResting_3 rfl ?_
    refine AW.aload_n dX8_isResting_5 rfl ?_
    refine AW.tgR (k := 24) dX8_isResting_6 (Nat.le_of_ble_eq_true rfl) (fun _ => rfl) q1564 rfl ia24 ?_
    refine AW.aload_n dX8_isResting_9 rfl ?_
    refine AW.tgI (k := 18) dX8_isResting_10 (Nat.le_of_ble_eq_true rfl) (fun _ => rfl) q1558 rfl ?_
    refine AW.tiald (k := 24) dX8_isResting_13 ia24 (Nat.le_of_ble_eq_true rfl) rfl h (fun v1 h => ?_)
    refine AW.icmp_ge 61 dX8_isResting_14 (by decide) h (fun c12 h => ?_) (fun c12 h => ?_)
    · exact AW.fewer (L' := [none, none, none, none, none]) (trivial) (hk _ h)
    · refine AW.aload_n dX8_isResting_17 rfl ?_
      refine AW.iload dX8_isResting_18 rfl ?_
      refine AW.iload_n dX8_isResting_20 rfl ?_
      refine AW.iload_n dX8_isResting_21 rfl ?_
      refine AW.tVI (M' := m_X8_hasIn) [iV x4, iV x2, iV x3] [] dX8_isResting_22 q2147 q2149 qs118 q139 q2150 rfl n_X8_hasIn rfl rfl rfl (fun _ _ e => c_X8_hasIn e) h (fun v3 s2 h => ?_)
      refine AW.aload_n dX8_isResting_25 rfl ?_
      refine AW.iload_n dX8_isResting_26 rfl ?_
      refine AW.iload_n dX8_isResting_27 rfl ?_
      refine AW.iload_n dX8_isResting_28 rfl ?_
      refine AW.tVI (M' := m_X8_hasIn) [iV x1, iV x2, iV x3] [iV v3] dX8_isResting_29 q2147 q2149 qs118 q139 q2150 rfl n_X8_hasIn rfl rfl rfl (fun _ _ e => c_X8_hasIn e) h (fun v5 s4 h => ?_)
      refine AW.icmp_gt 53 dX8_isResting_32 (by decide) h (fun c11 h => ?_) (fun c11 h => ?_)
      · refine AW.iconst dX8_isResting_53 ?_
        cases h
        exact AW.zret (z := 0) dX8_isResting_54 rfl zz0
      · refine AW.aload_n dX8_isResting_35 rfl ?_
        refine AW.iload dX8_isResting_36 rfl ?_
        refine AW.iload_n dX8_isResting_38 rfl ?_
        refine AW.iload_n dX8_isResting_39 rfl ?_
        refine AW.tVI (M' := m_X8_hasIn) [iV x4, iV x1, iV x3] [] dX8_isResting_40 q2147 q2149 qs118 q139 q2150 rfl n_X8_hasIn rfl rfl rfl (fun _ _ e => c_X8_hasIn e) h (fun v7 s6 h => ?_)
        refine AW.aload_n dX8_isResting_43 rfl ?_
        refine AW.iload_n dX8_isResting_44 rfl ?_
        refine AW.iload_n dX8_isResting_45 rfl ?_
        refine AW.iload_n dX8_isResting_46 rfl ?_
        refine AW.tVI (M' := m_X8_hasIn) [iV x2, iV x1, iV x3] [iV v7] dX8_isResting_47 q2147 q2149 qs118 q139 q2150 rfl n_X8_hasIn rfl rfl rfl (fun _ _ e => c_X8_hasIn e) h (fun v9 s8 h => ?_)
        refine AW.icmp_le 55 dX8_isResting_50 (by decide) h (fun c10 h => ?_) (fun c10 h => ?_)
        · refine AW.iinc (L' := [some (rV (some b)), some (iV x1), some (iV x2), some (iV x3), some (iV (x4 + 1))]) dX8_isResting_55 rfl (Nat.le_of_ble_eq_true rfl) rfl rfl ?_
          refine AW.goto (tgt := 3) dX8_isResting_58 (by decide) ?_
          exact ih _ _ _ _ _ _ h hk
        · refine AW.iconst dX8_isResting_53 ?_
          cases h
          exact AW.zret (z := 0) dX8_isResting_54 rfl zz0
def f_X8_isResting (s0 : TW) (x1 : Int) (x2 : Int) (x3 : Int) : Option (Int × TW) :=
  f_X8_isResting_L3 FU s0 x1 x2 x3 0 (fun s13 => some (1, s13))
theorem w_X8_isResting {b : Nat} {σ σ0 : Hp} {w : Int × TW} (s0 : TW) (x1 : Int) (x2 : Int) (x3 : Int) (h : f_X8_isResting s0 x1 x2 x3 = some w) : AW m_X8_isResting σ0 (tI b σ w) 0 [some (rV (some b)), some (iV x1), some (iV x2), some (iV x3), none] [] (insT b s0 σ) := by
  unfold f_X8_isResting at h
  refine AW.iconst dX8_isResting_0 ?_
  refine AW.istore (L' := [some (rV (some b)), some (iV x1), some (iV x2), some (iV x3), some (iV 0)]) dX8_isResting_1 (Nat.le_of_ble_eq_true rfl) rfl rfl ?_
  refine w_X8_isResting_L3 _ _ _ _ _ _ _ h (fun s13 h => ?_)
  refine AW.iconst dX8_isResting_61 ?_
  cases h
  exact AW.zret (z := 1) dX8_isResting_62 rfl zz1
theorem c_X8_isResting {b : Nat} {σ : Hp} {s0 : TW} {x1 : Int} {x2 : Int} {x3 : Int} {v : Int} {s1 : TW} (h : f_X8_isResting s0 x1 x2 x3 = some (v, s1)) : Ct m_X8_isResting [rV (some b), iV x1, iV x2, iV x3] (insT b s0 σ) (.inl (some (iV v)), insT b s1 σ) :=
  Ct.of2 (w_X8_isResting s0 x1 x2 x3 h) (by decide) rfl rfl rfl
abbrev m_X8_jolt : Mi := (yX8_jolt, cX8_jolt, (some .int), 10, 3, 77, [])
theorem n_X8_jolt : nameOk yX8_jolt 3 := ⟨by decide, by decide, by decide +kernel⟩
def f_X8_jolt_L50 : Nat → TW → Int → Int → Int → Int → Int → Int → Int → Int → (TW → Int → Int → Int → Int → Option (Int × TW)) → Option (Int × TW)
  | 0, _, _, _, _, _, _, _, _, _, _ => none
  | n + 1, s0, x1, x2, x3, x4, x5, x6, x7, x8, k => (ta s0 31 (s0.1 18)).bind fun v8 => (if nrm v8 ≤ nrm x8 then (k s0 x3 x5 x6 x7) else ((ta s0 33 ((8 * (s0.1 18)) + x8)).bind fun v9 => (if ¬ nrm v9 = nrm x1 then (f_X8_jolt_L50 n s0 x1 x2 x3 x4 x5 x6 x7 (x8 + 1) k) else ((ta s0 58 x8).bind fun v10 => (if nrm v10 = nrm (-1) then (bt_ (f_X8_lateBy s0 x8 x2) fun v12 s11 => (ta s11 56 (((36 * (s11.1 57)) + 28) + x8)).bind fun v13 => jn (fun (s14 : TW) (x1 : Int) (x2 : Int) (x3 : Int) (x5 : Int) (x6 : Int) (x7 : Int) (x8 : Int) (x9 : Int) => (if nrm x9 ≤ 0 then (f_X8_jolt_L50 n s14 x1 x2 x3 1 x5 x6 (x7 - x9) (x8 + 1) k) else (f_X8_jolt_L50 n s14 x1 x2 x3 1 x5 (x6 + x9) x7 (x8 + 1) k))) fun j141 => jn (fun (s16 : TW) (x1 : Int) (x2 : Int) (x3 : Int) (x6 : Int) (x7 : Int) (x8 : Int) (x9 : Int) => j141 s16 x1 x2 x3 x9 x6 x7 x8 x9) fun j137 => (if nrm x4 = 0 then (j137 s11 x1 x2 x3 x6 x7 x8 (v12 - v13)) else ((if nrm (v12 - v13) ≤ nrm x5 then (j141 s11 x1 x2 x3 x5 x6 x7 x8 (v12 - v13)) else (j137 s11 x1 x2 x3 x6 x7 x8 (v12 - v13)))))) else (f_X8_jolt_L50 n s0 x1 x2 x3 x4 x5 x6 x7 (x8 + 1) k))))))
theorem w_X8_jolt_L50 {b : Nat} {σ σ0 : Hp} {w : Int × TW} : ∀ (n : Nat) (s0 : TW) (x1 : Int) (x2 : Int) (x3 : Int) (x4 : Int) (x5 : Int) (x6 : Int) (x7 : Int) (x8 : Int) (k : (TW → Int → Int → Int → Int → Option (Int × TW))), f_X8_jolt_L50 n s0 x1 x2 x3 x4 x5 x6 x7 x8 k = some w → (∀ (s1 : TW) (x3 : Int) (x5 : Int) (x6 : Int) (x7 : Int), k s1 x3 x5 x6 x7 = some w → AW m_X8_jolt σ0 (tI b σ w) 172 [none, none, none, some (iV x3), none, some (iV x5), some (iV x6), some (iV x7), none, none] [] (insT b s1 σ)) → AW m_X8_jolt σ0 (tI b σ w) 50 [some (rV (some b)), some (iV x1), some (iV x2), some (iV x3), some (iV x4), some (iV x5), some (iV x6), some (iV x7), some (iV x8), none] [] (insT b s0 σ) := by
  intro n
  induction n with
  | zero =>
    intro s0 x1 x2 x3 x4 x5 x6 x7 x8 k h hk
    rw [f_X8_jolt_L50] at h
    cases h
  | succ n ih =>
    intro s0 x1 x2 x3 x4 x5 x6 x7 x8 k h hk
    rw [f_X8_jolt_L50] at h
    refine AW.iload dX8_jolt_50 rfl ?_
    refine AW.aload_n dX8_jolt_52 rfl ?_
    refine AW.tgR (k := 31) dX8_jolt_53 (Nat.le_of_ble_eq_true rfl) (fun _ => rfl) q1571 rfl ia31 ?_
    refine AW.aload_n dX8_jolt_56 rfl ?_
    refine AW.tgI (k := 18) dX8_jolt_57 (Nat.le_of_ble_eq_true rfl) (fun _ => rfl) q1558 rfl ?_
    refine AW.tiald (k := 31) dX8_jolt_60 ia31 (Nat.le_of_ble_eq_true rfl) rfl h (fun v8 h => ?_)
    refine AW.icmp_ge 172 dX8_jolt_61 (by decide) h (fun c21 h => ?_) (fun c21 h => ?_)
    · exact AW.fewer (L' := [none, none, none, some (iV x3), none, some (iV x5), some (iV x6), some (iV x7), none, none]) (And.intro rfl (And.intro rfl (And.intro rfl (And.intro rfl trivial)))) (hk _ _ _ _ _ h)
    · refine AW.aload_n dX8_jolt_64 rfl ?_
      refine AW.tgR (k := 33) dX8_jolt_65 (Nat.le_of_ble_eq_true rfl) (fun _ => rfl) q1573 rfl ia33 ?_
      refine AW.bipush dX8_jolt_68 (by decide) ?_
      refine AW.aload_n dX8_jolt_70 rfl ?_
      refine AW.tgI (k := 18) dX8_jolt_71 (Nat.le_of_ble_eq_true rfl) (fun _ => rfl) q1558 rfl ?_
      refine AW.imul dX8_jolt_74 ?_
      refine AW.iload dX8_jolt_75 rfl ?_
      refine AW.iadd dX8_jolt_77 ?_
      refine AW.tiald (k := 33) dX8_jolt_78 ia33 (Nat.le_of_ble_eq_true rfl) rfl h (fun v9 h => ?_)
      refine AW.iload_n dX8_jolt_79 rfl ?_
      refine AW.icmp_ne 166 dX8_jolt_80 (by decide) h (fun c20 h => ?_) (fun c20 h => ?_)
      · refine AW.iinc (L' := [some (rV (some b)), some (iV x1), some (iV x2), some (iV x3), some (iV x4), some (iV x5), some (iV x6), some (iV x7), some (iV (x8 + 1)), none]) dX8_jolt_166 rfl (Nat.le_of_ble_eq_true rfl) rfl rfl ?_
        refine AW.goto (tgt := 50) dX8_jolt_169 (by decide) ?_
        exact ih _ _ _ _ _ _ _ _ _ _ h hk
      · refine AW.aload_n dX8_jolt_83 rfl ?_
        refine AW.tgR (k := 58) dX8_jolt_84 (Nat.le_of_ble_eq_true rfl) (fun _ => rfl) q1598 rfl ia58 ?_
        refine AW.iload dX8_jolt_87 rfl ?_
        refine AW.tiald (k := 58) dX8_jolt_89 ia58 (Nat.le_of_ble_eq_true rfl) rfl h (fun v10 h => ?_)
        refine AW.iconst dX8_jolt_90 ?_
        refine AW.icmp_eq 97 dX8_jolt_91 (by decide) h (fun c19 h => ?_) (fun c19 h => ?_)
        · refine AW.aload_n dX8_jolt_97 rfl ?_
          refine AW.iload dX8_jolt_98 rfl ?_
          refine AW.iload_n dX8_jolt_100 rfl ?_
          refine AW.tVI (M' := m_X8_lateBy) [iV x8, iV x2] [] dX8_jolt_101 q1514 q1516 qs58 q139 q1517 rfl n_X8_lateBy rfl rfl rfl (fun _ _ e => c_X8_lateBy e) h (fun v12 s11 h => ?_)
          refine AW.aload_n dX8_jolt_104 rfl ?_
          refine AW.tgR (k := 56) dX8_jolt_105 (Nat.le_of_ble_eq_true rfl) (fun _ => rfl) q1596 rfl ia56 ?_
          refine AW.bipush dX8_jolt_108 (by decide) ?_
          refine AW.aload_n dX8_jolt_110 rfl ?_
          refine AW.tgI (k := 57) dX8_jolt_111 (Nat.le_of_ble_eq_true rfl) (fun _ => rfl) q1597 rfl ?_
          refine AW.imul dX8_jolt_114 ?_
          refine AW.bipush dX8_jolt_115 (by decide) ?_
          refine AW.iadd dX8_jolt_117 ?_
          refine AW.iload dX8_jolt_118 rfl ?_
          refine AW.iadd dX8_jolt_120 ?_
          refine AW.tiald (k := 56) dX8_jolt_121 ia56 (Nat.le_of_ble_eq_true rfl) rfl h (fun v13 h => ?_)
          refine AW.isub dX8_jolt_122 ?_
          refine AW.istore (L' := [some (rV (some b)), some (iV x1), some (iV x2), some (iV x3), some (iV x4), some (iV x5), some (iV x6), some (iV x7), some (iV x8), some (iV (v12 - v13))]) dX8_jolt_123 (Nat.le_of_ble_eq_true rfl) rfl rfl ?_
          refine AW.iload dX8_jolt_125 rfl ?_
          refine jn_elim h (fun (j : (TW → Int → Int → Int → Int → Int → Int → Int → Int → Option (Int × TW))) => ∀ (s14 : TW) (x1 : Int) (x2 : Int) (x3 : Int) (x5 : Int) (x6 : Int) (x7 : Int) (x8 : Int) (x9 : Int), j s14 x1 x2 x3 x5 x6 x7 x8 x9 = some w → AW m_X8_jolt σ0 (tI b σ w) 141 [some (rV (some b)), some (iV x1), some (iV x2), some (iV x3), none, some (iV x5), some (iV x6), some (iV x7), some (iV x8), some (iV x9)] [] (insT b s14 σ)) ?_ (fun j141 hj141 h => ?_)
          · intro s14 x1 x2 x3 x5 x6 x7 x8 x9 h
            refine AW.iconst dX8_jolt_141 ?_
            refine AW.istore (L' := [some (rV (some b)), some (iV x1), some (iV x2), some (iV x3), some (iV 1), some (iV x5), some (iV x6), some (iV x7), some (iV x8), some (iV x9)]) dX8_jolt_142 (Nat.le_of_ble_eq_true rfl) rfl rfl ?_
            refine AW.iload dX8_jolt_144 rfl ?_
            refine AW.if_le 159 dX8_jolt_146 (by decide) h (fun c15 h => ?_) (fun c15 h => ?_)
            · refine AW.iload dX8_jolt_159 rfl ?_
              refine AW.iload dX8_jolt_161 rfl ?_
              refine AW.isub dX8_jolt_163 ?_
              refine AW.istore (L' := [some (rV (some b)), some (iV x1), some (iV x2), some (iV x3), some (iV 1), some (iV x5), some (iV x6), some (iV (x7 - x9)), some (iV x8), some (iV x9)]) dX8_jolt_164 (Nat.le_of_ble_eq_true rfl) rfl rfl ?_
              refine AW.iinc (L' := [some (rV (some b)), some (iV x1), some (iV x2), some (iV x3), some (iV 1), some (iV x5), some (iV x6), some (iV (x7 - x9)), some (iV (x8 + 1)), some (iV x9)]) dX8_jolt_166 rfl (Nat.le_of_ble_eq_true rfl) rfl rfl ?_
              refine AW.goto (tgt := 50) dX8_jolt_169 (by decide) ?_
              exact AW.fewer (L' := [some (rV (some b)), some (iV x1), some (iV x2), some (iV x3), some (iV 1), some (iV x5), some (iV x6), some (iV (x7 - x9)), some (iV (x8 + 1)), none]) (And.intro rfl (And.intro rfl (And.intro rfl (And.intro rfl (And.intro rfl (And.intro rfl (And.intro rfl (And.intro rfl (And.intro rfl trivial))))))))) (ih _ _ _ _ _ _ _ _ _ _ h hk)
            · refine AW.iload dX8_jolt_149 rfl ?_
              refine AW.iload dX8_jolt_151 rfl ?_
              refine AW.iadd dX8_jolt_153 ?_
              refine AW.istore (L' := [some (rV (some b)), some (iV x1), some (iV x2), some (iV x3), some (iV 1), some (iV x5), some (iV (x6 + x9)), some (iV x7), some (iV x8), some (iV x9)]) dX8_jolt_154 (Nat.le_of_ble_eq_true rfl) rfl rfl ?_
              refine AW.goto (tgt := 166) dX8_jolt_156 (by decide) ?_
              refine AW.iinc (L' := [some (rV (some b)), some (iV x1), some (iV x2), some (iV x3), some (iV 1), some (iV x5), some (iV (x6 + x9)), some (iV x7), some (iV (x8 + 1)), some (iV x9)]) dX8_jolt_166 rfl (Nat.le_of_ble_eq_true rfl) rfl rfl ?_
              refine AW.goto (tgt := 50) dX8_jolt_169 (by decide) ?_
              exact AW.fewer (L' := [some (rV (some b)), some (iV x1), some (iV x2), some (iV x3), some (iV 1), some (iV x5), some (iV (x6 + x9)), some (iV x7), some (iV (x8 + 1)), none]) (And.intro rfl (And.intro rfl (And.intro rfl (And.intro rfl (And.intro rfl (And.intro rfl (And.intro rfl (And.intro rfl (And.intro rfl trivial))))))))) (ih _ _ _ _ _ _ _ _ _ _ h hk)
          · refine jn_elim h (fun (j : (TW → Int → Int → Int → Int → Int → Int → Int → Option (Int × TW))) => ∀ (s16 : TW) (x1 : Int) (x2 : Int) (x3 : Int) (x6 : Int) (x7 : Int) (x8 : Int) (x9 : Int), j s16 x1 x2 x3 x6 x7 x8 x9 = some w → AW m_X8_jolt σ0 (tI b σ w) 137 [some (rV (some b)), some (iV x1), some (iV x2), some (iV x3), none, none, some (iV x6), some (iV x7), some (iV x8), some (iV x9)] [] (insT b s16 σ)) ?_ (fun j137 hj137 h => ?_)
            · intro s16 x1 x2 x3 x6 x7 x8 x9 h
              refine AW.iload dX8_jolt_137 rfl ?_
              refine AW.istore (L' := [some (rV (some b)), some (iV x1), some (iV x2), some (iV x3), none, some (iV x9), some (iV x6), some (iV x7), some (iV x8), some (iV x9)]) dX8_jolt_139 (Nat.le_of_ble_eq_true rfl) rfl rfl ?_
              exact hj141 _ _ _ _ _ _ _ _ _ h
            · refine AW.if_eq 137 dX8_jolt_127 (by decide) h (fun c18 h => ?_) (fun c18 h => ?_)
              · exact AW.fewer (L' := [some (rV (some b)), some (iV x1), some (iV x2), some (iV x3), none, none, some (iV x6), some (iV x7), some (iV x8), some (iV (v12 - v13))]) (And.intro rfl (And.intro rfl (And.intro rfl (And.intro rfl (And.intro rfl (And.intro rfl (And.intro rfl (And.intro rfl trivial)))))))) (hj137 _ _ _ _ _ _ _ _ h)
              · refine AW.iload dX8_jolt_130 rfl ?_
                refine AW.iload dX8_jolt_132 rfl ?_
                refine AW.icmp_le 141 dX8_jolt_134 (by decide) h (fun c17 h => ?_) (fun c17 h => ?_)
                · exact AW.fewer (L' := [some (rV (some b)), some (iV x1), some (iV x2), some (iV x3), none, some (iV x5), some (iV x6), some (iV x7), some (iV x8), some (iV (v12 - v13))]) (And.intro rfl (And.intro rfl (And.intro rfl (And.intro rfl (And.intro rfl (And.intro rfl (And.intro rfl (And.intro rfl (And.intro rfl trivial))))))))) (hj141 _ _ _ _ _ _ _ _ _ h)
                · exact AW.fewer (L' := [some (rV (some b)), some (iV x1), some (iV x2), some (iV x3), none, none, some (iV x6), some (iV x7), some (iV x8), some (iV (v12 - v13))]) (And.intro rfl (And.intro rfl (And.intro rfl (And.intro rfl (And.intro rfl (And.intro rfl (And.intro rfl (And.intro rfl trivial)))))))) (hj137 _ _ _ _ _ _ _ _ h)
        · refine AW.goto (tgt := 166) dX8_jolt_94 (by decide) ?_
          refine AW.iinc (L' := [some (rV (some b)), some (iV x1), some (iV x2), some (iV x3), some (iV x4), some (iV x5), some (iV x6), some (iV x7), some (iV (x8 + 1)), none]) dX8_jolt_166 rfl (Nat.le_of_ble_eq_true rfl) rfl rfl ?_
          refine AW.goto (tgt := 50) dX8_jolt_169 (by decide) ?_
          exact ih _ _ _ _ _ _ _ _ _ _ h hk
def f_X8_jolt (s0 : TW) (x1 : Int) (x2 : Int) (x3 : Int) : Option (Int × TW) :=
  bt_ (f_X8_isMan s0 x1) fun v2 s1 => (if nrm v2 = 0 then (some ((-1000), s1)) else (bt_ (f_X8_in s1 x2 0 20) fun v4 s3 => (if nrm v4 = 0 then (some ((-1000), s3)) else (bt_ (f_X8_in s3 x3 0 2) fun v6 s5 => (if ¬ nrm v6 = 0 then (bt_ (f_X8_copies s5) fun _ s7 => f_X8_jolt_L50 FU s7 x1 x2 x3 0 0 0 0 0 (fun s22 x3 x5 x6 x7 => (if ¬ nrm x3 = 0 then ((if ¬ nrm x3 = nrm 1 then (some (nrm x7, s22)) else (some (nrm x6, s22)))) else (some (nrm x5, s22))))) else (some ((-1000), s5)))))))
theorem w_X8_jolt {b : Nat} {σ σ0 : Hp} {w : Int × TW} (s0 : TW) (x1 : Int) (x2 : Int) (x3 : Int) (h : f_X8_jolt s0 x1 x2 x3 = some w) : AW m_X8_jolt σ0 (tI b σ w) 0 [some (rV (some b)), some (iV x1), some (iV x2), some (iV x3), none, none, none, none, none, none] [] (insT b s0 σ) := by
  unfold f_X8_jolt at h
  refine AW.aload_n dX8_jolt_0 rfl ?_
  refine AW.iload_n dX8_jolt_1 rfl ?_
  refine AW.tVI (M' := m_X8_isMan) [iV x1] [] dX8_jolt_2 q1893 q1895 qs89 q139 q1896 rfl n_X8_isMan rfl rfl rfl (fun _ _ e => c_X8_isMan e) h (fun v2 s1 h => ?_)
  refine AW.if_eq 27 dX8_jolt_5 (by decide) h (fun c27 h => ?_) (fun c27 h => ?_)
  · refine AW.sipush dX8_jolt_27 (by decide) ?_
    cases h
    exact AW.iret dX8_jolt_30 rfl
  · refine AW.iload_n dX8_jolt_8 rfl ?_
    refine AW.iconst dX8_jolt_9 ?_
    refine AW.bipush dX8_jolt_10 (by decide) ?_
    refine AW.tSI (M' := m_X8_in) [iV x2, iV 0, iV 20] [] dX8_jolt_12 q1897 q1898 q139 q1899 n_X8_in rfl rfl rfl (fun _ _ e => c_X8_in e) h (fun v4 s3 h => ?_)
    refine AW.if_eq 27 dX8_jolt_15 (by decide) h (fun c26 h => ?_) (fun c26 h => ?_)
    · refine AW.sipush dX8_jolt_27 (by decide) ?_
      cases h
      exact AW.iret dX8_jolt_30 rfl
    · refine AW.iload_n dX8_jolt_18 rfl ?_
      refine AW.iconst dX8_jolt_19 ?_
      refine AW.iconst dX8_jolt_20 ?_
      refine AW.tSI (M' := m_X8_in) [iV x3, iV 0, iV 2] [] dX8_jolt_21 q1897 q1898 q139 q1899 n_X8_in rfl rfl rfl (fun _ _ e => c_X8_in e) h (fun v6 s5 h => ?_)
      refine AW.if_ne 31 dX8_jolt_24 (by decide) h (fun c25 h => ?_) (fun c25 h => ?_)
      · refine AW.aload_n dX8_jolt_31 rfl ?_
        refine AW.tVU (M' := m_X8_copies) [] [] dX8_jolt_32 q1912 q1914 qs92 q139 q1915 rfl n_X8_copies rfl rfl rfl (fun _ _ e => c_X8_copies e) h (fun _ s7 h => ?_)
        refine AW.iconst dX8_jolt_35 ?_
        refine AW.istore (L' := [some (rV (some b)), some (iV x1), some (iV x2), some (iV x3), some (iV 0), none, none, none, none, none]) dX8_jolt_36 (Nat.le_of_ble_eq_true rfl) rfl rfl ?_
        refine AW.iconst dX8_jolt_38 ?_
        refine AW.istore (L' := [some (rV (some b)), some (iV x1), some (iV x2), some (iV x3), some (iV 0), some (iV 0), none, none, none, none]) dX8_jolt_39 (Nat.le_of_ble_eq_true rfl) rfl rfl ?_
        refine AW.iconst dX8_jolt_41 ?_
        refine AW.istore (L' := [some (rV (some b)), some (iV x1), some (iV x2), some (iV x3), some (iV 0), some (iV 0), some (iV 0), none, none, none]) dX8_jolt_42 (Nat.le_of_ble_eq_true rfl) rfl rfl ?_
        refine AW.iconst dX8_jolt_44 ?_
        refine AW.istore (L' := [some (rV (some b)), some (iV x1), some (iV x2), some (iV x3), some (iV 0), some (iV 0), some (iV 0), some (iV 0), none, none]) dX8_jolt_45 (Nat.le_of_ble_eq_true rfl) rfl rfl ?_
        refine AW.iconst dX8_jolt_47 ?_
        refine AW.istore (L' := [some (rV (some b)), some (iV x1), some (iV x2), some (iV x3), some (iV 0), some (iV 0), some (iV 0), some (iV 0), some (iV 0), none]) dX8_jolt_48 (Nat.le_of_ble_eq_true rfl) rfl rfl ?_
        refine w_X8_jolt_L50 _ _ _ _ _ _ _ _ _ _ _ h (fun s22 x3 x5 x6 x7 h => ?_)
        refine AW.iload_n dX8_jolt_172 rfl ?_
        refine AW.if_ne 181 dX8_jolt_173 (by decide) h (fun c24 h => ?_) (fun c24 h => ?_)
        · refine AW.iload_n dX8_jolt_181 rfl ?_
          refine AW.iconst dX8_jolt_182 ?_
          refine AW.icmp_ne 191 dX8_jolt_183 (by decide) h (fun c23 h => ?_) (fun c23 h => ?_)
          · refine AW.iload dX8_jolt_191 rfl ?_
            refine AW.nv ?_
            cases h
            exact AW.iret dX8_jolt_193 rfl
          · refine AW.iload dX8_jolt_186 rfl ?_
            refine AW.goto (tgt := 193) dX8_jolt_188 (by decide) ?_
            refine AW.nv ?_
            cases h
            exact AW.iret dX8_jolt_193 rfl
        · refine AW.iload dX8_jolt_176 rfl ?_
          refine AW.goto (tgt := 193) dX8_jolt_178 (by decide) ?_
          refine AW.nv ?_
          cases h
          exact AW.iret dX8_jolt_193 rfl
      · refine AW.sipush dX8_jolt_27 (by decide) ?_
        cases h
        exact AW.iret dX8_jolt_30 rfl
theorem c_X8_jolt {b : Nat} {σ : Hp} {s0 : TW} {x1 : Int} {x2 : Int} {x3 : Int} {v : Int} {s1 : TW} (h : f_X8_jolt s0 x1 x2 x3 = some (v, s1)) : Ct m_X8_jolt [rV (some b), iV x1, iV x2, iV x3] (insT b s0 σ) (.inl (some (iV v)), insT b s1 σ) :=
  Ct.of2 (w_X8_jolt s0 x1 x2 x3 h) (by decide) rfl rfl rfl
abbrev m_X8_must : Mi := (yX8_must, cX8_must, none, 2, 2, 41, [])
theorem n_X8_must : nameOk yX8_must 1 := ⟨by decide, by decide, by decide +kernel⟩
def f_X8_must (s0 : TW) (x1 : Int) : Option (Unit × TW) :=
  bt_ (f_X8_is s0 x1) fun v2 s1 => (if nrm v2 = 0 then (bt_ (f_X8_fail s1 1) fun _ s3 => some ((), s3)) else (bt_ (f_X8_goesOn s1) fun _ s4 => some ((), s4)))
theorem w_X8_must {b : Nat} {σ σ0 : Hp} {w : Unit × TW} (s0 : TW) (x1 : Int) (h : f_X8_must s0 x1 = some w) : AW m_X8_must σ0 (tU b σ w) 0 [some (rV (some b)), some (iV x1)] [] (insT b s0 σ) := by
  unfold f_X8_must at h
  refine AW.aload_n dX8_must_0 rfl ?_
  refine AW.iload_n dX8_must_1 rfl ?_
  refine AW.tVI (M' := m_X8_is) [iV x1] [] dX8_must_2 q1805 q1807 qs69 q139 q1808 rfl n_X8_is rfl rfl rfl (fun _ _ e => c_X8_is e) h (fun v2 s1 h => ?_)
  refine AW.if_eq 15 dX8_must_5 (by decide) h (fun c5 h => ?_) (fun c5 h => ?_)
  · refine AW.aload_n dX8_must_15 rfl ?_
    refine AW.iconst dX8_must_16 ?_
    refine AW.tVU (M' := m_X8_fail) [iV 1] [] dX8_must_17 q1817 q1819 qs72 q139 q1820 rfl n_X8_fail rfl rfl rfl (fun _ _ e => c_X8_fail e) h (fun _ s3 h => ?_)
    cases h
    exact AW.vret dX8_must_20 rfl
  · refine AW.aload_n dX8_must_8 rfl ?_
    refine AW.tVU (M' := m_X8_goesOn) [] [] dX8_must_9 q1821 q1823 qs73 q139 q1824 rfl n_X8_goesOn rfl rfl rfl (fun _ _ e => c_X8_goesOn e) h (fun _ s4 h => ?_)
    refine AW.goto (tgt := 20) dX8_must_12 (by decide) ?_
    cases h
    exact AW.vret dX8_must_20 rfl
theorem c_X8_must {b : Nat} {σ : Hp} {s0 : TW} {x1 : Int} {v : Unit} {s1 : TW} (h : f_X8_must s0 x1 = some (v, s1)) : Ct m_X8_must [rV (some b), iV x1] (insT b s0 σ) (.inl none, insT b s1 σ) :=
  Ct.of2 (w_X8_must s0 x1 h) (by decide) rfl rfl rfl
abbrev m_X8_known : Mi := (yX8_known, cX8_known, (some .int), 4, 3, 62, [])
theorem n_X8_known : nameOk yX8_known 1 := ⟨by decide, by decide, by decide +kernel⟩
def f_X8_known_L21 : Nat → TW → Int → Int → Int → (TW → Int → Option (Int × TW)) → Option (Int × TW)
  | 0, _, _, _, _, _ => none
  | n + 1, s0, x1, x2, x3, k => (if nrm (s0.1 20) ≤ nrm x3 then (k s0 x2) else ((ta s0 21 x3).bind fun v2 => (ta s0 8 x2).bind fun v3 => (if ¬ nrm (cmJ v2 v3) = 0 then (f_X8_known_L21 n s0 x1 x2 (x3 + 1) k) else ((ta s0 22 x3).bind fun v4 => (if ¬ nrm v4 = nrm x1 then (f_X8_known_L21 n s0 x1 x2 (x3 + 1) k) else ((ta s0 23 x3).bind fun v5 => some (v5, s0)))))))
theorem w_X8_known_L21 {b : Nat} {σ σ0 : Hp} {w : Int × TW} : ∀ (n : Nat) (s0 : TW) (x1 : Int) (x2 : Int) (x3 : Int) (k : (TW → Int → Option (Int × TW))), f_X8_known_L21 n s0 x1 x2 x3 k = some w → (∀ (s1 : TW) (x2 : Int), k s1 x2 = some w → AW m_X8_known σ0 (tI b σ w) 68 [some (rV (some b)), none, some (iV x2), none] [] (insT b s1 σ)) → AW m_X8_known σ0 (tI b σ w) 21 [some (rV (some b)), some (iV x1), some (iV x2), some (iV x3)] [] (insT b s0 σ) := by
  intro n
  induction n with
  | zero =>
    intro s0 x1 x2 x3 k h hk
    rw [f_X8_known_L21] at h
    cases h
  | succ n ih =>
    intro s0 x1 x2 x3 k h hk
    rw [f_X8_known_L21] at h
    refine AW.iload_n dX8_known_21 rfl ?_
    refine AW.aload_n dX8_known_22 rfl ?_
    refine AW.tgI (k := 20) dX8_known_23 (Nat.le_of_ble_eq_true rfl) (fun _ => rfl) q1560 rfl ?_
    refine AW.icmp_ge 68 dX8_known_26 (by decide) h (fun c8 h => ?_) (fun c8 h => ?_)
    · exact AW.fewer (L' := [some (rV (some b)), none, some (iV x2), none]) (And.intro rfl (And.intro rfl trivial)) (hk _ _ h)
    · refine AW.aload_n dX8_known_29 rfl ?_
      refine AW.tgR (k := 21) dX8_known_30 (Nat.le_of_ble_eq_true rfl) (fun _ => rfl) q1561 rfl ia21 ?_
      refine AW.iload_n dX8_known_33 rfl ?_
      refine AW.tlald (k := 21) dX8_known_34 ia21 (Nat.le_of_ble_eq_true rfl) rfl h (fun v2 h => ?_)
      refine AW.aload_n dX8_known_35 rfl ?_
      refine AW.tgR (k := 8) dX8_known_36 (Nat.le_of_ble_eq_true rfl) (fun _ => rfl) q1548 rfl ia8 ?_
      refine AW.iload_n dX8_known_39 rfl ?_
      refine AW.tlald (k := 8) dX8_known_40 ia8 (Nat.le_of_ble_eq_true rfl) rfl h (fun v3 h => ?_)
      refine AW.lcmp dX8_known_41 ?_
      refine AW.if_ne 62 dX8_known_42 (by decide) h (fun c7 h => ?_) (fun c7 h => ?_)
      · refine AW.iinc (L' := [some (rV (some b)), some (iV x1), some (iV x2), some (iV (x3 + 1))]) dX8_known_62 rfl (Nat.le_of_ble_eq_true rfl) rfl rfl ?_
        refine AW.goto (tgt := 21) dX8_known_65 (by decide) ?_
        exact ih _ _ _ _ _ h hk
      · refine AW.aload_n dX8_known_45 rfl ?_
        refine AW.tgR (k := 22) dX8_known_46 (Nat.le_of_ble_eq_true rfl) (fun _ => rfl) q1562 rfl ia22 ?_
        refine AW.iload_n dX8_known_49 rfl ?_
        refine AW.tiald (k := 22) dX8_known_50 ia22 (Nat.le_of_ble_eq_true rfl) rfl h (fun v4 h => ?_)
        refine AW.iload_n dX8_known_51 rfl ?_
        refine AW.icmp_ne 62 dX8_known_52 (by decide) h (fun c6 h => ?_) (fun c6 h => ?_)
        · refine AW.iinc (L' := [some (rV (some b)), some (iV x1), some (iV x2), some (iV (x3 + 1))]) dX8_known_62 rfl (Nat.le_of_ble_eq_true rfl) rfl rfl ?_
          refine AW.goto (tgt := 21) dX8_known_65 (by decide) ?_
          exact ih _ _ _ _ _ h hk
        · refine AW.aload_n dX8_known_55 rfl ?_
          refine AW.tgR (k := 23) dX8_known_56 (Nat.le_of_ble_eq_true rfl) (fun _ => rfl) q1563 rfl ia23 ?_
          refine AW.iload_n dX8_known_59 rfl ?_
          refine AW.tiald (k := 23) dX8_known_60 ia23 (Nat.le_of_ble_eq_true rfl) rfl h (fun v5 h => ?_)
          cases h
          exact AW.iret dX8_known_61 rfl
def f_X8_known (s0 : TW) (x1 : Int) : Option (Int × TW) :=
  bt_ (f_X8_must s0 1) fun _ s1 => (if nrm (s1.1 13) ≤ 0 then (f_X8_known_L21 FU s1 x1 (s0.1 11) 0 (fun s9 x2 => bt_ (f_X8_wrong s9 4 x2) fun _ s10 => some ((-1), s10))) else (some ((-1), s1)))
theorem w_X8_known {b : Nat} {σ σ0 : Hp} {w : Int × TW} (s0 : TW) (x1 : Int) (h : f_X8_known s0 x1 = some w) : AW m_X8_known σ0 (tI b σ w) 0 [some (rV (some b)), some (iV x1), none, none] [] (insT b s0 σ) := by
  unfold f_X8_known at h
  refine AW.aload_n dX8_known_0 rfl ?_
  refine AW.tgI (k := 11) dX8_known_1 (Nat.le_of_ble_eq_true rfl) (fun _ => rfl) q1551 rfl ?_
  refine AW.istore_n (L' := [some (rV (some b)), some (iV x1), some (iV (s0.1 11)), none]) dX8_known_4 (Nat.le_of_ble_eq_true rfl) rfl rfl ?_
  refine AW.aload_n dX8_known_5 rfl ?_
  refine AW.iconst dX8_known_6 ?_
  refine AW.tVU (M' := m_X8_must) [iV 1] [] dX8_known_7 q1829 q1831 qs75 q139 q1832 rfl n_X8_must rfl rfl rfl (fun _ _ e => c_X8_must e) h (fun _ s1 h => ?_)
  refine AW.aload_n dX8_known_10 rfl ?_
  refine AW.tgI (k := 13) dX8_known_11 (Nat.le_of_ble_eq_true rfl) (fun _ => rfl) q1553 rfl ?_
  refine AW.if_le 19 dX8_known_14 (by decide) h (fun c11 h => ?_) (fun c11 h => ?_)
  · refine AW.iconst dX8_known_19 ?_
    refine AW.istore_n (L' := [some (rV (some b)), some (iV x1), some (iV (s0.1 11)), some (iV 0)]) dX8_known_20 (Nat.le_of_ble_eq_true rfl) rfl rfl ?_
    refine w_X8_known_L21 _ _ _ _ _ _ h (fun s9 x2 h => ?_)
    refine AW.aload_n dX8_known_68 rfl ?_
    refine AW.iconst dX8_known_69 ?_
    refine AW.iload_n dX8_known_70 rfl ?_
    refine AW.tVU (M' := m_X8_wrong) [iV 4, iV x2] [] dX8_known_71 q1833 q1835 qs76 q139 q1836 rfl n_X8_wrong rfl rfl rfl (fun _ _ e => c_X8_wrong e) h (fun _ s10 h => ?_)
    refine AW.iconst dX8_known_74 ?_
    cases h
    exact AW.iret dX8_known_75 rfl
  · refine AW.iconst dX8_known_17 ?_
    cases h
    exact AW.iret dX8_known_18 rfl
theorem c_X8_known {b : Nat} {σ : Hp} {s0 : TW} {x1 : Int} {v : Int} {s1 : TW} (h : f_X8_known s0 x1 = some (v, s1)) : Ct m_X8_known [rV (some b), iV x1] (insT b s0 σ) (.inl (some (iV v)), insT b s1 σ) :=
  Ct.of2 (w_X8_known s0 x1 h) (by decide) rfl rfl rfl
abbrev m_X8_last : Mi := (yX8_last, cX8_last, (some .int), 4, 2, 43, [])
theorem n_X8_last : nameOk yX8_last 2 := ⟨by decide, by decide, by decide +kernel⟩
def f_X8_last_L23 : Nat → TW → Int → Int → Int → (TW → Option (Int × TW)) → Option (Int × TW)
  | 0, _, _, _, _, _ => none
  | n + 1, s0, x1, x2, x3, k => (if nrm x3 < 0 then (k s0) else ((ta s0 52 ((36 * x3) + x1)).bind fun v5 => (if ¬ nrm v5 = nrm x2 then (f_X8_last_L23 n s0 x1 x2 (x3 + (-1)) k) else (some (nrm x3, s0)))))
theorem w_X8_last_L23 {b : Nat} {σ σ0 : Hp} {w : Int × TW} : ∀ (n : Nat) (s0 : TW) (x1 : Int) (x2 : Int) (x3 : Int) (k : (TW → Option (Int × TW))), f_X8_last_L23 n s0 x1 x2 x3 k = some w → (∀ (s1 : TW), k s1 = some w → AW m_X8_last σ0 (tI b σ w) 50 [none, none, none, none] [] (insT b s1 σ)) → AW m_X8_last σ0 (tI b σ w) 23 [some (rV (some b)), some (iV x1), some (iV x2), some (iV x3)] [] (insT b s0 σ) := by
  intro n
  induction n with
  | zero =>
    intro s0 x1 x2 x3 k h hk
    rw [f_X8_last_L23] at h
    cases h
  | succ n ih =>
    intro s0 x1 x2 x3 k h hk
    rw [f_X8_last_L23] at h
    refine AW.iload_n dX8_last_23 rfl ?_
    refine AW.if_lt 50 dX8_last_24 (by decide) h (fun c7 h => ?_) (fun c7 h => ?_)
    · exact AW.fewer (L' := [none, none, none, none]) (trivial) (hk _ h)
    · refine AW.aload_n dX8_last_27 rfl ?_
      refine AW.tgR (k := 52) dX8_last_28 (Nat.le_of_ble_eq_true rfl) (fun _ => rfl) q1592 rfl ia52 ?_
      refine AW.bipush dX8_last_31 (by decide) ?_
      refine AW.iload_n dX8_last_33 rfl ?_
      refine AW.imul dX8_last_34 ?_
      refine AW.iload_n dX8_last_35 rfl ?_
      refine AW.iadd dX8_last_36 ?_
      refine AW.tiald (k := 52) dX8_last_37 ia52 (Nat.le_of_ble_eq_true rfl) rfl h (fun v5 h => ?_)
      refine AW.iload_n dX8_last_38 rfl ?_
      refine AW.icmp_ne 44 dX8_last_39 (by decide) h (fun c6 h => ?_) (fun c6 h => ?_)
      · refine AW.iinc (L' := [some (rV (some b)), some (iV x1), some (iV x2), some (iV (x3 + (-1)))]) dX8_last_44 rfl (Nat.le_of_ble_eq_true rfl) rfl rfl ?_
        refine AW.goto (tgt := 23) dX8_last_47 (by decide) ?_
        exact ih _ _ _ _ _ h hk
      · refine AW.iload_n dX8_last_42 rfl ?_
        refine AW.nv ?_
        cases h
        exact AW.iret dX8_last_43 rfl
def f_X8_last (s0 : TW) (x1 : Int) (x2 : Int) : Option (Int × TW) :=
  bt_ (f_X8_isMan s0 x1) fun v2 s1 => (if nrm v2 = 0 then (some ((-1), s1)) else (bt_ (f_X8_isRoom s1 x2) fun v4 s3 => (if ¬ nrm v4 = 0 then (f_X8_last_L23 FU s3 x1 x2 (s3.1 53) (fun s8 => some ((-2), s8))) else (some ((-1), s3)))))
theorem w_X8_last {b : Nat} {σ σ0 : Hp} {w : Int × TW} (s0 : TW) (x1 : Int) (x2 : Int) (h : f_X8_last s0 x1 x2 = some w) : AW m_X8_last σ0 (tI b σ w) 0 [some (rV (some b)), some (iV x1), some (iV x2), none] [] (insT b s0 σ) := by
  unfold f_X8_last at h
  refine AW.aload_n dX8_last_0 rfl ?_
  refine AW.iload_n dX8_last_1 rfl ?_
  refine AW.tVI (M' := m_X8_isMan) [iV x1] [] dX8_last_2 q1893 q1895 qs89 q139 q1896 rfl n_X8_isMan rfl rfl rfl (fun _ _ e => c_X8_isMan e) h (fun v2 s1 h => ?_)
  refine AW.if_eq 16 dX8_last_5 (by decide) h (fun c10 h => ?_) (fun c10 h => ?_)
  · refine AW.iconst dX8_last_16 ?_
    cases h
    exact AW.iret dX8_last_17 rfl
  · refine AW.aload_n dX8_last_8 rfl ?_
    refine AW.iload_n dX8_last_9 rfl ?_
    refine AW.tVI (M' := m_X8_isRoom) [iV x2] [] dX8_last_10 q1988 q1990 qs106 q139 q1991 rfl n_X8_isRoom rfl rfl rfl (fun _ _ e => c_X8_isRoom e) h (fun v4 s3 h => ?_)
    refine AW.if_ne 18 dX8_last_13 (by decide) h (fun c9 h => ?_) (fun c9 h => ?_)
    · refine AW.aload_n dX8_last_18 rfl ?_
      refine AW.tgI (k := 53) dX8_last_19 (Nat.le_of_ble_eq_true rfl) (fun _ => rfl) q1593 rfl ?_
      refine AW.istore_n (L' := [some (rV (some b)), some (iV x1), some (iV x2), some (iV (s3.1 53))]) dX8_last_22 (Nat.le_of_ble_eq_true rfl) rfl rfl ?_
      refine w_X8_last_L23 _ _ _ _ _ _ h (fun s8 h => ?_)
      refine AW.bipush dX8_last_50 (by decide) ?_
      cases h
      exact AW.iret dX8_last_52 rfl
    · refine AW.iconst dX8_last_16 ?_
      cases h
      exact AW.iret dX8_last_17 rfl
theorem c_X8_last {b : Nat} {σ : Hp} {s0 : TW} {x1 : Int} {x2 : Int} {v : Int} {s1 : TW} (h : f_X8_last s0 x1 x2 = some (v, s1)) : Ct m_X8_last [rV (some b), iV x1, iV x2] (insT b s0 σ) (.inl (some (iV v)), insT b s1 σ) :=
  Ct.of2 (w_X8_last s0 x1 x2 h) (by decide) rfl rfl rfl
abbrev m_X8_lonely : Mi := (yX8_lonely, cX8_lonely, (some .int), 3, 3, 69, [])
theorem n_X8_lonely : nameOk yX8_lonely 0 := ⟨by decide, by decide, by decide +kernel⟩
def f_X8_lonely_L23 : Nat → TW → Int → Int → (TW → Int → Option (Int × TW)) → Option (Int × TW)
  | 0, _, _, _, _ => none
  | n + 1, s0, x1, x2, k => (ta s0 28 (s0.1 18)).bind fun v3 => (if nrm v3 ≤ nrm x2 then (k s0 x1) else (bt_ (f_X8_aloneOf s0 x2) fun v5 s4 => bt_ (f_X8_aloneOf s4 x1) fun v7 s6 => (if nrm v5 ≤ nrm v7 then (f_X8_lonely_L23 n s6 x1 (x2 + 1) k) else (f_X8_lonely_L23 n s6 x2 (x2 + 1) k))))
theorem w_X8_lonely_L23 {b : Nat} {σ σ0 : Hp} {w : Int × TW} : ∀ (n : Nat) (s0 : TW) (x1 : Int) (x2 : Int) (k : (TW → Int → Option (Int × TW))), f_X8_lonely_L23 n s0 x1 x2 k = some w → (∀ (s1 : TW) (x1 : Int), k s1 x1 = some w → AW m_X8_lonely σ0 (tI b σ w) 57 [none, some (iV x1), none] [] (insT b s1 σ)) → AW m_X8_lonely σ0 (tI b σ w) 23 [some (rV (some b)), some (iV x1), some (iV x2)] [] (insT b s0 σ) := by
  intro n
  induction n with
  | zero =>
    intro s0 x1 x2 k h hk
    rw [f_X8_lonely_L23] at h
    cases h
  | succ n ih =>
    intro s0 x1 x2 k h hk
    rw [f_X8_lonely_L23] at h
    refine AW.iload_n dX8_lonely_23 rfl ?_
    refine AW.aload_n dX8_lonely_24 rfl ?_
    refine AW.tgR (k := 28) dX8_lonely_25 (Nat.le_of_ble_eq_true rfl) (fun _ => rfl) q1568 rfl ia28 ?_
    refine AW.aload_n dX8_lonely_28 rfl ?_
    refine AW.tgI (k := 18) dX8_lonely_29 (Nat.le_of_ble_eq_true rfl) (fun _ => rfl) q1558 rfl ?_
    refine AW.tiald (k := 28) dX8_lonely_32 ia28 (Nat.le_of_ble_eq_true rfl) rfl h (fun v3 h => ?_)
    refine AW.icmp_ge 57 dX8_lonely_33 (by decide) h (fun c9 h => ?_) (fun c9 h => ?_)
    · exact AW.fewer (L' := [none, some (iV x1), none]) (And.intro rfl trivial) (hk _ _ h)
    · refine AW.aload_n dX8_lonely_36 rfl ?_
      refine AW.iload_n dX8_lonely_37 rfl ?_
      refine AW.tVI (M' := m_X8_aloneOf) [iV x2] [] dX8_lonely_38 q2032 q2034 qs108 q139 q2035 rfl n_X8_aloneOf rfl rfl rfl (fun _ _ e => c_X8_aloneOf e) h (fun v5 s4 h => ?_)
      refine AW.aload_n dX8_lonely_41 rfl ?_
      refine AW.iload_n dX8_lonely_42 rfl ?_
      refine AW.tVI (M' := m_X8_aloneOf) [iV x1] [iV v5] dX8_lonely_43 q2032 q2034 qs108 q139 q2035 rfl n_X8_aloneOf rfl rfl rfl (fun _ _ e => c_X8_aloneOf e) h (fun v7 s6 h => ?_)
      refine AW.icmp_le 51 dX8_lonely_46 (by decide) h (fun c8 h => ?_) (fun c8 h => ?_)
      · refine AW.iinc (L' := [some (rV (some b)), some (iV x1), some (iV (x2 + 1))]) dX8_lonely_51 rfl (Nat.le_of_ble_eq_true rfl) rfl rfl ?_
        refine AW.goto (tgt := 23) dX8_lonely_54 (by decide) ?_
        exact ih _ _ _ _ h hk
      · refine AW.iload_n dX8_lonely_49 rfl ?_
        refine AW.istore_n (L' := [some (rV (some b)), some (iV x2), some (iV x2)]) dX8_lonely_50 (Nat.le_of_ble_eq_true rfl) rfl rfl ?_
        refine AW.iinc (L' := [some (rV (some b)), some (iV x2), some (iV (x2 + 1))]) dX8_lonely_51 rfl (Nat.le_of_ble_eq_true rfl) rfl rfl ?_
        refine AW.goto (tgt := 23) dX8_lonely_54 (by decide) ?_
        exact ih _ _ _ _ h hk
def f_X8_lonely (s0 : TW) : Option (Int × TW) :=
  (ta s0 28 (s0.1 18)).bind fun v1 => (if ¬ nrm v1 = 0 then (bt_ (f_X8_copies s0) fun _ s2 => f_X8_lonely_L23 FU s2 0 1 (fun s10 x1 => some (nrm x1, s10))) else (some ((-2), s0)))
theorem w_X8_lonely {b : Nat} {σ σ0 : Hp} {w : Int × TW} (s0 : TW) (h : f_X8_lonely s0 = some w) : AW m_X8_lonely σ0 (tI b σ w) 0 [some (rV (some b)), none, none] [] (insT b s0 σ) := by
  unfold f_X8_lonely at h
  refine AW.aload_n dX8_lonely_0 rfl ?_
  refine AW.tgR (k := 28) dX8_lonely_1 (Nat.le_of_ble_eq_true rfl) (fun _ => rfl) q1568 rfl ia28 ?_
  refine AW.aload_n dX8_lonely_4 rfl ?_
  refine AW.tgI (k := 18) dX8_lonely_5 (Nat.le_of_ble_eq_true rfl) (fun _ => rfl) q1558 rfl ?_
  refine AW.tiald (k := 28) dX8_lonely_8 ia28 (Nat.le_of_ble_eq_true rfl) rfl h (fun v1 h => ?_)
  refine AW.if_ne 15 dX8_lonely_9 (by decide) h (fun c11 h => ?_) (fun c11 h => ?_)
  · refine AW.aload_n dX8_lonely_15 rfl ?_
    refine AW.tVU (M' := m_X8_copies) [] [] dX8_lonely_16 q1912 q1914 qs92 q139 q1915 rfl n_X8_copies rfl rfl rfl (fun _ _ e => c_X8_copies e) h (fun _ s2 h => ?_)
    refine AW.iconst dX8_lonely_19 ?_
    refine AW.istore_n (L' := [some (rV (some b)), some (iV 0), none]) dX8_lonely_20 (Nat.le_of_ble_eq_true rfl) rfl rfl ?_
    refine AW.iconst dX8_lonely_21 ?_
    refine AW.istore_n (L' := [some (rV (some b)), some (iV 0), some (iV 1)]) dX8_lonely_22 (Nat.le_of_ble_eq_true rfl) rfl rfl ?_
    refine w_X8_lonely_L23 _ _ _ _ _ h (fun s10 x1 h => ?_)
    refine AW.iload_n dX8_lonely_57 rfl ?_
    refine AW.nv ?_
    cases h
    exact AW.iret dX8_lonely_58 rfl
  · refine AW.bipush dX8_lonely_12 (by decide) ?_
    cases h
    exact AW.iret dX8_lonely_14 rfl
theorem c_X8_lonely {b : Nat} {σ : Hp} {s0 : TW} {v : Int} {s1 : TW} (h : f_X8_lonely s0 = some (v, s1)) : Ct m_X8_lonely [rV (some b)] (insT b s0 σ) (.inl (some (iV v)), insT b s1 σ) :=
  Ct.of2 (w_X8_lonely s0 h) (by decide) rfl rfl rfl
abbrev m_X8_look : Mi := (yX8_look, cX8_look, (some .int), 7, 3, 68, [])
theorem n_X8_look : nameOk yX8_look 4 := ⟨by decide, by decide, by decide +kernel⟩
def f_X8_look (s0 : TW) (x1 : Int) (x2 : Int) (x3 : Int) (x4 : Int) : Option (Int × TW) :=
  bt_ (f_X8_isMirror s0 x1) fun v2 s1 => (if nrm v2 = 0 then (some ((-1), s1)) else (bt_ (f_X8_isMirror s1 x2) fun v4 s3 => (if nrm v4 = 0 then (some ((-1), s3)) else (jn (fun (s5 : TW) (x1 : Int) (x2 : Int) (x3 : Int) (x4 : Int) => bt_ (f_X8_in s5 x4 0 2) fun v7 s6 => (if ¬ nrm v7 = 0 then (bt_ (f_X8_copies s6) fun _ s8 => jn (fun (s9 : TW) (x1 : Int) (x2 : Int) (x3 : Int) (x4 : Int) (y0 : Int) => bt_ (f_X8_showsAt s9 x1 (s9.1 57)) fun v11 s10 => bt_ (f_X8_seenIn s10 x1 v11 x2) fun v13 s12 => jn (fun (s14 : TW) (x4 : Int) (x5 : Int) (x6 : Int) => (if 0 ≤ nrm x6 then ((if ¬ nrm x4 = 0 then ((if ¬ nrm x4 = nrm 1 then (bt_ (f_X8_menShown s14 x5 x6) fun v16 s15 => some (v16, s15)) else (bt_ (f_X8_hungIn s14 x5 x6) fun v18 s17 => some (v18, s17)))) else (some (nrm x6, s14)))) else (some ((-2), s14)))) fun j89 => (if nrm x3 = nrm (-1) then (j89 s12 x4 y0 v13) else (bt_ (f_X8_seenIn s12 x2 v13 x3) fun v23 s22 => j89 s22 x4 y0 v23))) fun j55 => (if ¬ nrm x3 = nrm (-1) then (j55 s8 x1 x2 x3 x4 x3) else (j55 s8 x1 x2 x3 x4 x2))) else (some ((-1), s6)))) fun j29 => (if nrm x3 = nrm (-1) then (j29 s3 x1 x2 x3 x4) else (bt_ (f_X8_isMirror s3 x3) fun v28 s27 => (if nrm v28 = 0 then (some ((-1), s27)) else (j29 s27 x1 x2 x3 x4))))))))
theorem w_X8_look {b : Nat} {σ σ0 : Hp} {w : Int × TW} (s0 : TW) (x1 : Int) (x2 : Int) (x3 : Int) (x4 : Int) (h : f_X8_look s0 x1 x2 x3 x4 = some w) : AW m_X8_look σ0 (tI b σ w) 0 [some (rV (some b)), some (iV x1), some (iV x2), some (iV x3), some (iV x4), none, none] [] (insT b s0 σ) := by
  unfold f_X8_look at h
  refine AW.aload_n dX8_look_0 rfl ?_
  refine AW.iload_n dX8_look_1 rfl ?_
  refine AW.tVI (M' := m_X8_isMirror) [iV x1] [] dX8_look_2 q1908 q1910 qs91 q139 q1911 rfl n_X8_isMirror rfl rfl rfl (fun _ _ e => c_X8_isMirror e) h (fun v2 s1 h => ?_)
  refine AW.if_eq 39 dX8_look_5 (by decide) h (fun c32 h => ?_) (fun c32 h => ?_)
  · refine AW.iconst dX8_look_39 ?_
    cases h
    exact AW.iret dX8_look_40 rfl
  · refine AW.aload_n dX8_look_8 rfl ?_
    refine AW.iload_n dX8_look_9 rfl ?_
    refine AW.tVI (M' := m_X8_isMirror) [iV x2] [] dX8_look_10 q1908 q1910 qs91 q139 q1911 rfl n_X8_isMirror rfl rfl rfl (fun _ _ e => c_X8_isMirror e) h (fun v4 s3 h => ?_)
    refine AW.if_eq 39 dX8_look_13 (by decide) h (fun c31 h => ?_) (fun c31 h => ?_)
    · refine AW.iconst dX8_look_39 ?_
      cases h
      exact AW.iret dX8_look_40 rfl
    · refine AW.iload_n dX8_look_16 rfl ?_
      refine AW.iconst dX8_look_17 ?_
      refine jn_elim h (fun (j : (TW → Int → Int → Int → Int → Option (Int × TW))) => ∀ (s5 : TW) (x1 : Int) (x2 : Int) (x3 : Int) (x4 : Int), j s5 x1 x2 x3 x4 = some w → AW m_X8_look σ0 (tI b σ w) 29 [some (rV (some b)), some (iV x1), some (iV x2), some (iV x3), some (iV x4), none, none] [] (insT b s5 σ)) ?_ (fun j29 hj29 h => ?_)
      · intro s5 x1 x2 x3 x4 h
        refine AW.iload dX8_look_29 rfl ?_
        refine AW.iconst dX8_look_31 ?_
        refine AW.iconst dX8_look_32 ?_
        refine AW.tSI (M' := m_X8_in) [iV x4, iV 0, iV 2] [] dX8_look_33 q1897 q1898 q139 q1899 n_X8_in rfl rfl rfl (fun _ _ e => c_X8_in e) h (fun v7 s6 h => ?_)
        refine AW.if_ne 41 dX8_look_36 (by decide) h (fun c26 h => ?_) (fun c26 h => ?_)
        · refine AW.aload_n dX8_look_41 rfl ?_
          refine AW.tVU (M' := m_X8_copies) [] [] dX8_look_42 q1912 q1914 qs92 q139 q1915 rfl n_X8_copies rfl rfl rfl (fun _ _ e => c_X8_copies e) h (fun _ s8 h => ?_)
          refine AW.iload_n dX8_look_45 rfl ?_
          refine AW.iconst dX8_look_46 ?_
          refine jn_elim h (fun (j : (TW → Int → Int → Int → Int → Int → Option (Int × TW))) => ∀ (s9 : TW) (x1 : Int) (x2 : Int) (x3 : Int) (x4 : Int) (y0 : Int), j s9 x1 x2 x3 x4 y0 = some w → AW m_X8_look σ0 (tI b σ w) 55 [some (rV (some b)), some (iV x1), some (iV x2), some (iV x3), some (iV x4), none, none] [iV y0] (insT b s9 σ)) ?_ (fun j55 hj55 h => ?_)
          · intro s9 x1 x2 x3 x4 y0 h
            refine AW.istore (L' := [some (rV (some b)), some (iV x1), some (iV x2), some (iV x3), some (iV x4), some (iV y0), none]) dX8_look_55 (Nat.le_of_ble_eq_true rfl) rfl rfl ?_
            refine AW.aload_n dX8_look_57 rfl ?_
            refine AW.iload_n dX8_look_58 rfl ?_
            refine AW.aload_n dX8_look_59 rfl ?_
            refine AW.iload_n dX8_look_60 rfl ?_
            refine AW.aload_n dX8_look_61 rfl ?_
            refine AW.tgI (k := 57) dX8_look_62 (Nat.le_of_ble_eq_true rfl) (fun _ => rfl) q1597 rfl ?_
            refine AW.tVI (M' := m_X8_showsAt) [iV x1, iV (s9.1 57)] [iV x1, rV (some b)] dX8_look_65 q1916 q1918 qs93 q139 q1919 rfl n_X8_showsAt rfl rfl rfl (fun _ _ e => c_X8_showsAt e) h (fun v11 s10 h => ?_)
            refine AW.iload_n dX8_look_68 rfl ?_
            refine AW.tVI (M' := m_X8_seenIn) [iV x1, iV v11, iV x2] [] dX8_look_69 q2008 q2010 qs107 q139 q2011 rfl n_X8_seenIn rfl rfl rfl (fun _ _ e => c_X8_seenIn e) h (fun v13 s12 h => ?_)
            refine AW.istore (L' := [some (rV (some b)), some (iV x1), some (iV x2), some (iV x3), some (iV x4), some (iV y0), some (iV v13)]) dX8_look_72 (Nat.le_of_ble_eq_true rfl) rfl rfl ?_
            refine AW.iload_n dX8_look_74 rfl ?_
            refine AW.iconst dX8_look_75 ?_
            refine jn_elim h (fun (j : (TW → Int → Int → Int → Option (Int × TW))) => ∀ (s14 : TW) (x4 : Int) (x5 : Int) (x6 : Int), j s14 x4 x5 x6 = some w → AW m_X8_look σ0 (tI b σ w) 89 [some (rV (some b)), none, none, none, some (iV x4), some (iV x5), some (iV x6)] [] (insT b s14 σ)) ?_ (fun j89 hj89 h => ?_)
            · intro s14 x4 x5 x6 h
              refine AW.iload dX8_look_89 rfl ?_
              refine AW.if_ge 97 dX8_look_91 (by decide) h (fun c21 h => ?_) (fun c21 h => ?_)
              · refine AW.iload dX8_look_97 rfl ?_
                refine AW.if_ne 107 dX8_look_99 (by decide) h (fun c20 h => ?_) (fun c20 h => ?_)
                · refine AW.iload dX8_look_107 rfl ?_
                  refine AW.iconst dX8_look_109 ?_
                  refine AW.icmp_ne 124 dX8_look_110 (by decide) h (fun c19 h => ?_) (fun c19 h => ?_)
                  · refine AW.aload_n dX8_look_124 rfl ?_
                    refine AW.iload dX8_look_125 rfl ?_
                    refine AW.iload dX8_look_127 rfl ?_
                    refine AW.tVI (M' := m_X8_menShown) [iV x5, iV x6] [] dX8_look_129 q1928 q1930 qs96 q139 q1931 rfl n_X8_menShown rfl rfl rfl (fun _ _ e => c_X8_menShown e) h (fun v16 s15 h => ?_)
                    cases h
                    exact AW.iret dX8_look_132 rfl
                  · refine AW.aload_n dX8_look_113 rfl ?_
                    refine AW.iload dX8_look_114 rfl ?_
                    refine AW.iload dX8_look_116 rfl ?_
                    refine AW.tVI (M' := m_X8_hungIn) [iV x5, iV x6] [] dX8_look_118 q1924 q1926 qs95 q139 q1927 rfl n_X8_hungIn rfl rfl rfl (fun _ _ e => c_X8_hungIn e) h (fun v18 s17 h => ?_)
                    refine AW.goto (tgt := 132) dX8_look_121 (by decide) ?_
                    cases h
                    exact AW.iret dX8_look_132 rfl
                · refine AW.iload dX8_look_102 rfl ?_
                  refine AW.goto (tgt := 132) dX8_look_104 (by decide) ?_
                  refine AW.nv ?_
                  cases h
                  exact AW.iret dX8_look_132 rfl
              · refine AW.bipush dX8_look_94 (by decide) ?_
                cases h
                exact AW.iret dX8_look_96 rfl
            · refine AW.icmp_eq 89 dX8_look_76 (by decide) h (fun c24 h => ?_) (fun c24 h => ?_)
              · exact AW.fewer (L' := [some (rV (some b)), none, none, none, some (iV x4), some (iV y0), some (iV v13)]) (And.intro rfl (And.intro rfl (And.intro rfl (And.intro rfl trivial)))) (hj89 _ _ _ _ h)
              · refine AW.aload_n dX8_look_79 rfl ?_
                refine AW.iload_n dX8_look_80 rfl ?_
                refine AW.iload dX8_look_81 rfl ?_
                refine AW.iload_n dX8_look_83 rfl ?_
                refine AW.tVI (M' := m_X8_seenIn) [iV x2, iV v13, iV x3] [] dX8_look_84 q2008 q2010 qs107 q139 q2011 rfl n_X8_seenIn rfl rfl rfl (fun _ _ e => c_X8_seenIn e) h (fun v23 s22 h => ?_)
                refine AW.istore (L' := [some (rV (some b)), some (iV x1), some (iV x2), some (iV x3), some (iV x4), some (iV y0), some (iV v23)]) dX8_look_87 (Nat.le_of_ble_eq_true rfl) rfl rfl ?_
                exact AW.fewer (L' := [some (rV (some b)), none, none, none, some (iV x4), some (iV y0), some (iV v23)]) (And.intro rfl (And.intro rfl (And.intro rfl (And.intro rfl trivial)))) (hj89 _ _ _ _ h)
          · refine AW.icmp_ne 54 dX8_look_47 (by decide) h (fun c25 h => ?_) (fun c25 h => ?_)
            · refine AW.iload_n dX8_look_54 rfl ?_
              exact hj55 _ _ _ _ _ _ h
            · refine AW.iload_n dX8_look_50 rfl ?_
              refine AW.goto (tgt := 55) dX8_look_51 (by decide) ?_
              exact hj55 _ _ _ _ _ _ h
        · refine AW.iconst dX8_look_39 ?_
          cases h
          exact AW.iret dX8_look_40 rfl
      · refine AW.icmp_eq 29 dX8_look_18 (by decide) h (fun c30 h => ?_) (fun c30 h => ?_)
        · exact hj29 _ _ _ _ _ h
        · refine AW.aload_n dX8_look_21 rfl ?_
          refine AW.iload_n dX8_look_22 rfl ?_
          refine AW.tVI (M' := m_X8_isMirror) [iV x3] [] dX8_look_23 q1908 q1910 qs91 q139 q1911 rfl n_X8_isMirror rfl rfl rfl (fun _ _ e => c_X8_isMirror e) h (fun v28 s27 h => ?_)
          refine AW.if_eq 39 dX8_look_26 (by decide) h (fun c29 h => ?_) (fun c29 h => ?_)
          · refine AW.iconst dX8_look_39 ?_
            cases h
            exact AW.iret dX8_look_40 rfl
          · exact hj29 _ _ _ _ _ h
theorem c_X8_look {b : Nat} {σ : Hp} {s0 : TW} {x1 : Int} {x2 : Int} {x3 : Int} {x4 : Int} {v : Int} {s1 : TW} (h : f_X8_look s0 x1 x2 x3 x4 = some (v, s1)) : Ct m_X8_look [rV (some b), iV x1, iV x2, iV x3, iV x4] (insT b s0 σ) (.inl (some (iV v)), insT b s1 σ) :=
  Ct.of2 (w_X8_look s0 x1 x2 x3 x4 h) (by decide) rfl rfl rfl
abbrev m_X8_man : Mi := (yX8_man, cX8_man, (some .int), 4, 2, 43, [])
theorem n_X8_man : nameOk yX8_man 3 := ⟨by decide, by decide, by decide +kernel⟩
def f_X8_man (s0 : TW) (x1 : Int) (x2 : Int) (x3 : Int) : Option (Int × TW) :=
  bt_ (f_X8_isMan s0 x1) fun v2 s1 => (if nrm v2 = 0 then (some ((-1), s1)) else (bt_ (f_X8_isPast s1 x2) fun v4 s3 => (if nrm v4 = 0 then (some ((-1), s3)) else (bt_ (f_X8_in s3 x3 0 1) fun v6 s5 => (if ¬ nrm v6 = 0 then ((ta s5 52 (((36 * x2) + (6 * x3)) + x1)).bind fun v7 => some (v7, s5)) else (some ((-1), s5)))))))
theorem w_X8_man {b : Nat} {σ σ0 : Hp} {w : Int × TW} (s0 : TW) (x1 : Int) (x2 : Int) (x3 : Int) (h : f_X8_man s0 x1 x2 x3 = some w) : AW m_X8_man σ0 (tI b σ w) 0 [some (rV (some b)), some (iV x1), some (iV x2), some (iV x3)] [] (insT b s0 σ) := by
  unfold f_X8_man at h
  refine AW.aload_n dX8_man_0 rfl ?_
  refine AW.iload_n dX8_man_1 rfl ?_
  refine AW.tVI (M' := m_X8_isMan) [iV x1] [] dX8_man_2 q1893 q1895 qs89 q139 q1896 rfl n_X8_isMan rfl rfl rfl (fun _ _ e => c_X8_isMan e) h (fun v2 s1 h => ?_)
  refine AW.if_eq 25 dX8_man_5 (by decide) h (fun c10 h => ?_) (fun c10 h => ?_)
  · refine AW.iconst dX8_man_25 ?_
    cases h
    exact AW.iret dX8_man_26 rfl
  · refine AW.aload_n dX8_man_8 rfl ?_
    refine AW.iload_n dX8_man_9 rfl ?_
    refine AW.tVI (M' := m_X8_isPast) [iV x2] [] dX8_man_10 q1900 q1902 qs90 q139 q1903 rfl n_X8_isPast rfl rfl rfl (fun _ _ e => c_X8_isPast e) h (fun v4 s3 h => ?_)
    refine AW.if_eq 25 dX8_man_13 (by decide) h (fun c9 h => ?_) (fun c9 h => ?_)
    · refine AW.iconst dX8_man_25 ?_
      cases h
      exact AW.iret dX8_man_26 rfl
    · refine AW.iload_n dX8_man_16 rfl ?_
      refine AW.iconst dX8_man_17 ?_
      refine AW.iconst dX8_man_18 ?_
      refine AW.tSI (M' := m_X8_in) [iV x3, iV 0, iV 1] [] dX8_man_19 q1897 q1898 q139 q1899 n_X8_in rfl rfl rfl (fun _ _ e => c_X8_in e) h (fun v6 s5 h => ?_)
      refine AW.if_ne 27 dX8_man_22 (by decide) h (fun c8 h => ?_) (fun c8 h => ?_)
      · refine AW.aload_n dX8_man_27 rfl ?_
        refine AW.tgR (k := 52) dX8_man_28 (Nat.le_of_ble_eq_true rfl) (fun _ => rfl) q1592 rfl ia52 ?_
        refine AW.bipush dX8_man_31 (by decide) ?_
        refine AW.iload_n dX8_man_33 rfl ?_
        refine AW.imul dX8_man_34 ?_
        refine AW.bipush dX8_man_35 (by decide) ?_
        refine AW.iload_n dX8_man_37 rfl ?_
        refine AW.imul dX8_man_38 ?_
        refine AW.iadd dX8_man_39 ?_
        refine AW.iload_n dX8_man_40 rfl ?_
        refine AW.iadd dX8_man_41 ?_
        refine AW.tiald (k := 52) dX8_man_42 ia52 (Nat.le_of_ble_eq_true rfl) rfl h (fun v7 h => ?_)
        cases h
        exact AW.iret dX8_man_43 rfl
      · refine AW.iconst dX8_man_25 ?_
        cases h
        exact AW.iret dX8_man_26 rfl
theorem c_X8_man {b : Nat} {σ : Hp} {s0 : TW} {x1 : Int} {x2 : Int} {x3 : Int} {v : Int} {s1 : TW} (h : f_X8_man s0 x1 x2 x3 = some (v, s1)) : Ct m_X8_man [rV (some b), iV x1, iV x2, iV x3] (insT b s0 σ) (.inl (some (iV v)), insT b s1 σ) :=
  Ct.of2 (w_X8_man s0 x1 x2 x3 h) (by decide) rfl rfl rfl
abbrev m_X8_minutes : Mi := (yX8_minutes, cX8_minutes, (some .int), 2, 6, 142, [])
theorem n_X8_minutes : nameOk yX8_minutes 1 := ⟨by decide, by decide, by decide +kernel⟩
def f_X8_minutes (s0 : TW) (x1 : Int) : Option (Int × TW) :=
  bt_ (f_X8_in s0 x1 0 299) fun v2 s1 => (if nrm v2 = 0 then (some ((-1), s1)) else ((if nrm ((s1.1 53) + x1) ≤ nrm 299 then ((if ¬ nrm x1 = 0 then (bt_ (f_X8_copies s1) fun _ s3 => bt_ (f_X8_goesTill s3 ((s3.1 53) + x1)) fun _ s4 => bt_ (f_X8_keeps s4) fun _ s5 => some (s5.1 53, s5)) else (some (s1.1 53, s1)))) else (some ((-1), s1)))))
theorem w_X8_minutes {b : Nat} {σ σ0 : Hp} {w : Int × TW} (s0 : TW) (x1 : Int) (h : f_X8_minutes s0 x1 = some w) : AW m_X8_minutes σ0 (tI b σ w) 0 [some (rV (some b)), some (iV x1)] [] (insT b s0 σ) := by
  unfold f_X8_minutes at h
  refine AW.iload_n dX8_minutes_0 rfl ?_
  refine AW.iconst dX8_minutes_1 ?_
  refine AW.sipush dX8_minutes_2 (by decide) ?_
  refine AW.tSI (M' := m_X8_in) [iV x1, iV 0, iV 299] [] dX8_minutes_5 q1897 q1898 q139 q1899 n_X8_in rfl rfl rfl (fun _ _ e => c_X8_in e) h (fun v2 s1 h => ?_)
  refine AW.if_eq 23 dX8_minutes_8 (by decide) h (fun c8 h => ?_) (fun c8 h => ?_)
  · refine AW.iconst dX8_minutes_23 ?_
    cases h
    exact AW.iret dX8_minutes_24 rfl
  · refine AW.aload_n dX8_minutes_11 rfl ?_
    refine AW.tgI (k := 53) dX8_minutes_12 (Nat.le_of_ble_eq_true rfl) (fun _ => rfl) q1593 rfl ?_
    refine AW.iload_n dX8_minutes_15 rfl ?_
    refine AW.iadd dX8_minutes_16 ?_
    refine AW.sipush dX8_minutes_17 (by decide) ?_
    refine AW.icmp_le 25 dX8_minutes_20 (by decide) h (fun c7 h => ?_) (fun c7 h => ?_)
    · refine AW.iload_n dX8_minutes_25 rfl ?_
      refine AW.if_ne 34 dX8_minutes_26 (by decide) h (fun c6 h => ?_) (fun c6 h => ?_)
      · refine AW.aload_n dX8_minutes_34 rfl ?_
        refine AW.tVU (M' := m_X8_copies) [] [] dX8_minutes_35 q1912 q1914 qs92 q139 q1915 rfl n_X8_copies rfl rfl rfl (fun _ _ e => c_X8_copies e) h (fun _ s3 h => ?_)
        refine AW.aload_n dX8_minutes_38 rfl ?_
        refine AW.aload_n dX8_minutes_39 rfl ?_
        refine AW.tgI (k := 53) dX8_minutes_40 (Nat.le_of_ble_eq_true rfl) (fun _ => rfl) q1593 rfl ?_
        refine AW.iload_n dX8_minutes_43 rfl ?_
        refine AW.iadd dX8_minutes_44 ?_
        refine AW.tVU (M' := m_X8_goesTill) [iV ((s3.1 53) + x1)] [] dX8_minutes_45 q1936 q1938 qs97 q139 q1939 rfl n_X8_goesTill rfl rfl rfl (fun _ _ e => c_X8_goesTill e) h (fun _ s4 h => ?_)
        refine AW.aload_n dX8_minutes_48 rfl ?_
        refine AW.tVU (M' := m_X8_keeps) [] [] dX8_minutes_49 q1964 q1966 qs103 q139 q1967 rfl n_X8_keeps rfl rfl rfl (fun _ _ e => c_X8_keeps e) h (fun _ s5 h => ?_)
        refine AW.aload_n dX8_minutes_52 rfl ?_
        refine AW.tgI (k := 53) dX8_minutes_53 (Nat.le_of_ble_eq_true rfl) (fun _ => rfl) q1593 rfl ?_
        cases h
        exact AW.iret dX8_minutes_56 rfl
      · refine AW.aload_n dX8_minutes_29 rfl ?_
        refine AW.tgI (k := 53) dX8_minutes_30 (Nat.le_of_ble_eq_true rfl) (fun _ => rfl) q1593 rfl ?_
        cases h
        exact AW.iret dX8_minutes_33 rfl
    · refine AW.iconst dX8_minutes_23 ?_
      cases h
      exact AW.iret dX8_minutes_24 rfl
theorem c_X8_minutes {b : Nat} {σ : Hp} {s0 : TW} {x1 : Int} {v : Int} {s1 : TW} (h : f_X8_minutes s0 x1 = some (v, s1)) : Ct m_X8_minutes [rV (some b), iV x1] (insT b s0 σ) (.inl (some (iV v)), insT b s1 σ) :=
  Ct.of2 (w_X8_minutes s0 x1 h) (by decide) rfl rfl rfl
abbrev m_X8_mirror : Mi := (yX8_mirror, cX8_mirror, (some .int), 5, 2, 46, [])
theorem n_X8_mirror : nameOk yX8_mirror 3 := ⟨by decide, by decide, by decide +kernel⟩
def f_X8_mirror (s0 : TW) (x1 : Int) (x2 : Int) (x3 : Int) : Option (Int × TW) :=
  bt_ (f_X8_isMirror s0 x1) fun v2 s1 => (if nrm v2 = 0 then (some ((-1), s1)) else (bt_ (f_X8_isPast s1 x2) fun v4 s3 => (if ¬ nrm v4 = 0 then (bt_ (f_X8_copies s3) fun _ s5 => bt_ (f_X8_showsAt s5 x1 x2) fun v7 s6 => (if nrm x3 = 0 then (bt_ (f_X8_hungIn s6 x1 x2) fun v9 s8 => some (v9, s8)) else (if nrm x3 = 1 then ((ta s6 56 (((36 * x2) + 28) + x1)).bind fun v10 => some (v10, s6)) else (if nrm x3 = 2 then (bt_ (f_X8_isTurned s6 x1 x2) fun v12 s11 => (if nrm v12 = 0 then (some (0, s11)) else (some (1, s11)))) else (if nrm x3 = 3 then ((ta s6 58 x1).bind fun v14 => (if nrm v14 = nrm (-1) then (some (0, s6)) else ((ta s6 58 x1).bind fun v15 => (if nrm x2 < nrm v15 then (some (0, s6)) else (some (1, s6)))))) else (if nrm x3 = 4 then (some (v7, s6)) else (if nrm x3 = 5 then ((if 0 ≤ nrm v7 then (bt_ (f_X8_hungIn s6 x1 v7) fun v19 s18 => some (v19, s18)) else (some ((-2), s6)))) else (if nrm x3 = 6 then (bt_ (f_X8_menShown s6 x1 v7) fun v22 s21 => some (v22, s21)) else (some ((-1), s6)))))))))) else (some ((-1), s3)))))
theorem w_X8_mirror {b : Nat} {σ σ0 : Hp} {w : Int × TW} (s0 : TW) (x1 : Int) (x2 : Int) (x3 : Int) (h : f_X8_mirror s0 x1 x2 x3 = some w) : AW m_X8_mirror σ0 (tI b σ w) 0 [some (rV (some b)), some (iV x1), some (iV x2), some (iV x3), none] [] (insT b s0 σ) := by
  unfold f_X8_mirror at h
  refine AW.aload_n dX8_mirror_0 rfl ?_
  refine AW.iload_n dX8_mirror_1 rfl ?_
  refine AW.tVI (M' := m_X8_isMirror) [iV x1] [] dX8_mirror_2 q1908 q1910 qs91 q139 q1911 rfl n_X8_isMirror rfl rfl rfl (fun _ _ e => c_X8_isMirror e) h (fun v2 s1 h => ?_)
  refine AW.if_eq 16 dX8_mirror_5 (by decide) h (fun c31 h => ?_) (fun c31 h => ?_)
  · refine AW.iconst dX8_mirror_16 ?_
    cases h
    exact AW.iret dX8_mirror_17 rfl
  · refine AW.aload_n dX8_mirror_8 rfl ?_
    refine AW.iload_n dX8_mirror_9 rfl ?_
    refine AW.tVI (M' := m_X8_isPast) [iV x2] [] dX8_mirror_10 q1900 q1902 qs90 q139 q1903 rfl n_X8_isPast rfl rfl rfl (fun _ _ e => c_X8_isPast e) h (fun v4 s3 h => ?_)
    refine AW.if_ne 18 dX8_mirror_13 (by decide) h (fun c30 h => ?_) (fun c30 h => ?_)
    · refine AW.aload_n dX8_mirror_18 rfl ?_
      refine AW.tVU (M' := m_X8_copies) [] [] dX8_mirror_19 q1912 q1914 qs92 q139 q1915 rfl n_X8_copies rfl rfl rfl (fun _ _ e => c_X8_copies e) h (fun _ s5 h => ?_)
      refine AW.aload_n dX8_mirror_22 rfl ?_
      refine AW.iload_n dX8_mirror_23 rfl ?_
      refine AW.iload_n dX8_mirror_24 rfl ?_
      refine AW.tVI (M' := m_X8_showsAt) [iV x1, iV x2] [] dX8_mirror_25 q1916 q1918 qs93 q139 q1919 rfl n_X8_showsAt rfl rfl rfl (fun _ _ e => c_X8_showsAt e) h (fun v7 s6 h => ?_)
      refine AW.istore (L' := [some (rV (some b)), some (iV x1), some (iV x2), some (iV x3), some (iV v7)]) dX8_mirror_28 (Nat.le_of_ble_eq_true rfl) rfl rfl ?_
      refine AW.iload_n dX8_mirror_30 rfl ?_
      rcases ite_or h with ⟨c29, h⟩ | ⟨c29, h⟩
      · refine AW.tIn 0 72 dX8_mirror_31 (by omega) (by decide) rfl (by decide) ?_
        refine AW.aload_n dX8_mirror_72 rfl ?_
        refine AW.iload_n dX8_mirror_73 rfl ?_
        refine AW.iload_n dX8_mirror_74 rfl ?_
        refine AW.tVI (M' := m_X8_hungIn) [iV x1, iV x2] [] dX8_mirror_75 q1924 q1926 qs95 q139 q1927 rfl n_X8_hungIn rfl rfl rfl (fun _ _ e => c_X8_hungIn e) h (fun v9 s8 h => ?_)
        cases h
        exact AW.iret dX8_mirror_78 rfl
      · rcases ite_or h with ⟨c28, h⟩ | ⟨c28, h⟩
        · refine AW.tIn 1 79 dX8_mirror_31 (by omega) (by decide) rfl (by decide) ?_
          refine AW.aload_n dX8_mirror_79 rfl ?_
          refine AW.tgR (k := 56) dX8_mirror_80 (Nat.le_of_ble_eq_true rfl) (fun _ => rfl) q1596 rfl ia56 ?_
          refine AW.bipush dX8_mirror_83 (by decide) ?_
          refine AW.iload_n dX8_mirror_85 rfl ?_
          refine AW.imul dX8_mirror_86 ?_
          refine AW.bipush dX8_mirror_87 (by decide) ?_
          refine AW.iadd dX8_mirror_89 ?_
          refine AW.iload_n dX8_mirror_90 rfl ?_
          refine AW.iadd dX8_mirror_91 ?_
          refine AW.tiald (k := 56) dX8_mirror_92 ia56 (Nat.le_of_ble_eq_true rfl) rfl h (fun v10 h => ?_)
          cases h
          exact AW.iret dX8_mirror_93 rfl
        · rcases ite_or h with ⟨c27, h⟩ | ⟨c27, h⟩
          · refine AW.tIn 2 94 dX8_mirror_31 (by omega) (by decide) rfl (by decide) ?_
            refine AW.aload_n dX8_mirror_94 rfl ?_
            refine AW.iload_n dX8_mirror_95 rfl ?_
            refine AW.iload_n dX8_mirror_96 rfl ?_
            refine AW.tVI (M' := m_X8_isTurned) [iV x1, iV x2] [] dX8_mirror_97 q1920 q1922 qs94 q139 q1923 rfl n_X8_isTurned rfl rfl rfl (fun _ _ e => c_X8_isTurned e) h (fun v12 s11 h => ?_)
            refine AW.if_eq 107 dX8_mirror_100 (by decide) h (fun c13 h => ?_) (fun c13 h => ?_)
            · refine AW.iconst dX8_mirror_107 ?_
              cases h
              exact AW.iret dX8_mirror_108 rfl
            · refine AW.iconst dX8_mirror_103 ?_
              refine AW.goto (tgt := 108) dX8_mirror_104 (by decide) ?_
              cases h
              exact AW.iret dX8_mirror_108 rfl
          · rcases ite_or h with ⟨c26, h⟩ | ⟨c26, h⟩
            · refine AW.tIn 3 109 dX8_mirror_31 (by omega) (by decide) rfl (by decide) ?_
              refine AW.aload_n dX8_mirror_109 rfl ?_
              refine AW.tgR (k := 58) dX8_mirror_110 (Nat.le_of_ble_eq_true rfl) (fun _ => rfl) q1598 rfl ia58 ?_
              refine AW.iload_n dX8_mirror_113 rfl ?_
              refine AW.tiald (k := 58) dX8_mirror_114 ia58 (Nat.le_of_ble_eq_true rfl) rfl h (fun v14 h => ?_)
              refine AW.iconst dX8_mirror_115 ?_
              refine AW.icmp_eq 133 dX8_mirror_116 (by decide) h (fun c17 h => ?_) (fun c17 h => ?_)
              · refine AW.iconst dX8_mirror_133 ?_
                cases h
                exact AW.iret dX8_mirror_134 rfl
              · refine AW.aload_n dX8_mirror_119 rfl ?_
                refine AW.tgR (k := 58) dX8_mirror_120 (Nat.le_of_ble_eq_true rfl) (fun _ => rfl) q1598 rfl ia58 ?_
                refine AW.iload_n dX8_mirror_123 rfl ?_
                refine AW.tiald (k := 58) dX8_mirror_124 ia58 (Nat.le_of_ble_eq_true rfl) rfl h (fun v15 h => ?_)
                refine AW.iload_n dX8_mirror_125 rfl ?_
                refine AW.icmp_gt 133 dX8_mirror_126 (by decide) h (fun c16 h => ?_) (fun c16 h => ?_)
                · refine AW.iconst dX8_mirror_133 ?_
                  cases h
                  exact AW.iret dX8_mirror_134 rfl
                · refine AW.iconst dX8_mirror_129 ?_
                  refine AW.goto (tgt := 134) dX8_mirror_130 (by decide) ?_
                  cases h
                  exact AW.iret dX8_mirror_134 rfl
            · rcases ite_or h with ⟨c25, h⟩ | ⟨c25, h⟩
              · refine AW.tIn 4 135 dX8_mirror_31 (by omega) (by decide) rfl (by decide) ?_
                refine AW.iload dX8_mirror_135 rfl ?_
                cases h
                exact AW.iret dX8_mirror_137 rfl
              · rcases ite_or h with ⟨c24, h⟩ | ⟨c24, h⟩
                · refine AW.tIn 5 138 dX8_mirror_31 (by omega) (by decide) rfl (by decide) ?_
                  refine AW.iload dX8_mirror_138 rfl ?_
                  refine AW.if_ge 148 dX8_mirror_140 (by decide) h (fun c20 h => ?_) (fun c20 h => ?_)
                  · refine AW.aload_n dX8_mirror_148 rfl ?_
                    refine AW.iload_n dX8_mirror_149 rfl ?_
                    refine AW.iload dX8_mirror_150 rfl ?_
                    refine AW.tVI (M' := m_X8_hungIn) [iV x1, iV v7] [] dX8_mirror_152 q1924 q1926 qs95 q139 q1927 rfl n_X8_hungIn rfl rfl rfl (fun _ _ e => c_X8_hungIn e) h (fun v19 s18 h => ?_)
                    cases h
                    exact AW.iret dX8_mirror_155 rfl
                  · refine AW.bipush dX8_mirror_143 (by decide) ?_
                    refine AW.goto (tgt := 155) dX8_mirror_145 (by decide) ?_
                    cases h
                    exact AW.iret dX8_mirror_155 rfl
                · rcases ite_or h with ⟨c23, h⟩ | ⟨c23, h⟩
                  · refine AW.tIn 6 156 dX8_mirror_31 (by omega) (by decide) rfl (by decide) ?_
                    refine AW.aload_n dX8_mirror_156 rfl ?_
                    refine AW.iload_n dX8_mirror_157 rfl ?_
                    refine AW.iload dX8_mirror_158 rfl ?_
                    refine AW.tVI (M' := m_X8_menShown) [iV x1, iV v7] [] dX8_mirror_160 q1928 q1930 qs96 q139 q1931 rfl n_X8_menShown rfl rfl rfl (fun _ _ e => c_X8_menShown e) h (fun v22 s21 h => ?_)
                    cases h
                    exact AW.iret dX8_mirror_163 rfl
                  · refine AW.tOut 164 dX8_mirror_31 (by omega) (by decide) ?_
                    refine AW.iconst dX8_mirror_164 ?_
                    cases h
                    exact AW.iret dX8_mirror_165 rfl
    · refine AW.iconst dX8_mirror_16 ?_
      cases h
      exact AW.iret dX8_mirror_17 rfl
theorem c_X8_mirror {b : Nat} {σ : Hp} {s0 : TW} {x1 : Int} {x2 : Int} {x3 : Int} {v : Int} {s1 : TW} (h : f_X8_mirror s0 x1 x2 x3 = some (v, s1)) : Ct m_X8_mirror [rV (some b), iV x1, iV x2, iV x3] (insT b s0 σ) (.inl (some (iV v)), insT b s1 σ) :=
  Ct.of2 (w_X8_mirror s0 x1 x2 x3 h) (by decide) rfl rfl rfl
