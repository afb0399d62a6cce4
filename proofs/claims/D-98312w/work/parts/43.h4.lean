set_option maxRecDepth 100000
abbrev m_J11_equals : Mi := (yJ11_equals, cJ11_equals, (some .boolean), 3, 0, 0, [])
theorem n_J11_equals : nameOk yJ11_equals 2 := ⟨by decide, by decide, by decide +kernel⟩
def f_J11_equals_L9 : Nat → Hp → Option Nat → Option Nat → Int → (Hp → Option (Int × Hp)) → Option (Int × Hp)
  | 0, _, _, _, _, _ => none
  | n + 1, s0, x0, x1, x2, k => (aL s0 101 x0).bind fun v3 => (if nrm v3 ≤ nrm x2 then (k s0) else ((aI s0 101 x0 x2).bind fun v4 => (aI s0 101 x1 x2).bind fun v5 => (if nrm v4 = nrm v5 then (f_J11_equals_L9 n s0 x0 x1 (x2 + 1) k) else (some (0, s0)))))
theorem w_J11_equals_L9 {σ0 : Hp} {w : Int × Hp} : ∀ (n : Nat) (s0 : Hp) (x0 : Option Nat) (x1 : Option Nat) (x2 : Int) (k : (Hp → Option (Int × Hp))), f_J11_equals_L9 n s0 x0 x1 x2 k = some w → (∀ (s1 : Hp), k s1 = some w → AW m_J11_equals σ0 (oI w) 32 [none, none, none] [] s1) → AW m_J11_equals σ0 (oI w) 9 [some (rV x0), some (rV x1), some (iV x2)] [] s0 := by
  intro n
  induction n with
  | zero =>
    intro s0 x0 x1 x2 k h hk
    rw [f_J11_equals_L9] at h
    cases h
  | succ n ih =>
    intro s0 x0 x1 x2 k h hk
    rw [f_J11_equals_L9] at h
    refine AW.iload_n dJ11_equals_9 rfl ?_
    refine AW.aload_n dJ11_equals_10 rfl ?_
    refine AW.alen (t := 101) dJ11_equals_11 (Nat.le_of_ble_eq_true rfl) h (fun v3 h => ?_)
    refine AW.icmp_ge 32 dJ11_equals_12 (by decide) h (fun c7 h => ?_) (fun c7 h => ?_)
    · exact AW.fewer (L' := [none, none, none]) (trivial) (hk _ h)
    · refine AW.aload_n dJ11_equals_15 rfl ?_
      refine AW.iload_n dJ11_equals_16 rfl ?_
      refine AW.bald (t := 101) dJ11_equals_17 (Nat.le_of_ble_eq_true rfl) rfl h (fun v4 h => ?_)
      refine AW.aload_n dJ11_equals_18 rfl ?_
      refine AW.iload_n dJ11_equals_19 rfl ?_
      refine AW.bald (t := 101) dJ11_equals_20 (Nat.le_of_ble_eq_true rfl) rfl h (fun v5 h => ?_)
      refine AW.icmp_eq 26 dJ11_equals_21 (by decide) h (fun c6 h => ?_) (fun c6 h => ?_)
      · refine AW.iinc (L' := [some (rV x0), some (rV x1), some (iV (x2 + 1))]) dJ11_equals_26 rfl (Nat.le_of_ble_eq_true rfl) rfl rfl ?_
        refine AW.goto (tgt := 9) dJ11_equals_29 (by decide) ?_
        exact ih _ _ _ _ _ h hk
      · refine AW.iconst dJ11_equals_24 ?_
        cases h
        exact AW.zret (z := 0) dJ11_equals_25 rfl zz0
def f_J11_equals (s0 : Hp) (x0 : Option Nat) (x1 : Option Nat) : Option (Int × Hp) :=
  (aL s0 101 x0).bind fun v1 => (aL s0 101 x1).bind fun v2 => (if ¬ nrm v1 = nrm v2 then (some (0, s0)) else (f_J11_equals_L9 FU s0 x0 x1 0 (fun s8 => some (1, s8))))
theorem w_J11_equals {σ0 : Hp} {w : Int × Hp} (s0 : Hp) (x0 : Option Nat) (x1 : Option Nat) (h : f_J11_equals s0 x0 x1 = some w) : AW m_J11_equals σ0 (oI w) 0 [some (rV x0), some (rV x1), none] [] s0 := by
  unfold f_J11_equals at h
  refine AW.aload_n dJ11_equals_0 rfl ?_
  refine AW.alen (t := 101) dJ11_equals_1 (Nat.le_of_ble_eq_true rfl) h (fun v1 h => ?_)
  refine AW.aload_n dJ11_equals_2 rfl ?_
  refine AW.alen (t := 101) dJ11_equals_3 (Nat.le_of_ble_eq_true rfl) h (fun v2 h => ?_)
  refine AW.icmp_ne 34 dJ11_equals_4 (by decide) h (fun c9 h => ?_) (fun c9 h => ?_)
  · refine AW.iconst dJ11_equals_34 ?_
    cases h
    exact AW.zret (z := 0) dJ11_equals_35 rfl zz0
  · refine AW.iconst dJ11_equals_7 ?_
    refine AW.istore_n (L' := [some (rV x0), some (rV x1), some (iV 0)]) dJ11_equals_8 (Nat.le_of_ble_eq_true rfl) rfl rfl ?_
    refine w_J11_equals_L9 _ _ _ _ _ _ h (fun s8 h => ?_)
    refine AW.iconst dJ11_equals_32 ?_
    cases h
    exact AW.zret (z := 1) dJ11_equals_33 rfl zz1
theorem c_J11_equals {s0 : Hp} {x0 : Option Nat} {x1 : Option Nat} {v : Int} {s1 : Hp} (h : f_J11_equals s0 x0 x1 = some (v, s1)) : Ct m_J11_equals [rV x0, rV x1] s0 (.inl (some (iV v)), s1) :=
  Ct.of2 (w_J11_equals s0 x0 x1 h) (show plainName yJ11_equals.cls = true by decide) rfl rfl rfl
abbrev m_J10_equals : Mi := (yJ10_equals, cJ10_equals, (some .boolean), 3, 1, 22, [])
theorem n_J10_equals : nameOk yJ10_equals 1 := ⟨by decide, by decide, by decide +kernel⟩
def f_J10_equals (s0 : Hp) (x0 : Nat) (x1 : Option Nat) : Option (Int × Hp) :=
  (if ¬ (some x0) = x1 then ((kst s0 [20] x1).bind fun v1 => (if nrm 1 = 0 then (some (0, s0)) else ((kst s0 [20] x1).bind fun v2 => jn (fun (s3 : Hp) (x2 : Option Nat) => (gR s3 20 (some x0) 0).bind fun v4 => (gR s3 20 x2 0).bind fun v5 => bn (f_J11_equals s3 v4 v5) fun v6 s7 => (if nrm v6 = 0 then (some (0, s7)) else (some (1, s7)))) fun j36 => (if nrm 1 = 0 then (j36 s0 v2) else ((gI s0 20 (some x0) 1).bind fun v9 => (gI s0 20 v2 1).bind fun v10 => (if ¬ nrm v9 = nrm v10 then (some (0, s0)) else (j36 s0 v2))))))) else (some (1, s0)))
theorem w_J10_equals {σ0 : Hp} {w : Int × Hp} (s0 : Hp) (x0 : Nat) (x1 : Option Nat) (h : f_J10_equals s0 x0 x1 = some w) : AW m_J10_equals σ0 (oI w) 0 [some (rV (some x0)), some (rV x1), none] [] s0 := by
  unfold f_J10_equals at h
  refine AW.aload_n dJ10_equals_0 rfl ?_
  refine AW.aload_n dJ10_equals_1 rfl ?_
  refine AW.acmp_ne 7 dJ10_equals_2 (by decide) h (fun c14 h => ?_) (fun c14 h => ?_)
  · refine AW.aload_n dJ10_equals_7 rfl ?_
    refine AW.inst (ts := [20]) dJ10_equals_8 q927 is20 h (fun v1 h => ?_)
    refine AW.if_eq 54 dJ10_equals_11 (by decide) h (fun c13 h => ?_) (fun c13 h => ?_)
    · refine AW.iconst dJ10_equals_54 ?_
      cases h
      exact AW.zret (z := 0) dJ10_equals_55 rfl zz0
    · refine AW.aload_n dJ10_equals_14 rfl ?_
      refine AW.cast (ts := [20]) dJ10_equals_15 q927 ca20 h (fun v2 h => ?_)
      refine AW.astore_n (L' := [some (rV (some x0)), some (rV x1), some (rV v2)]) dJ10_equals_18 (Nat.le_of_ble_eq_true rfl) rfl rfl ?_
      refine AW.getsI dJ10_equals_19 q660 ?_
      refine jn_elim h (fun (j : (Hp → Option Nat → Option (Int × Hp))) => ∀ (s3 : Hp) (x2 : Option Nat), j s3 x2 = some w → AW m_J10_equals σ0 (oI w) 36 [some (rV (some x0)), none, some (rV x2)] [] s3) ?_ (fun j36 hj36 h => ?_)
      · intro s3 x2 h
        refine AW.aload_n dJ10_equals_36 rfl ?_
        refine AW.getR (t := 20) (k := 0) dJ10_equals_37 ck20 (Nat.le_of_ble_eq_true rfl) (fun _ => rfl) q902 (Or.inl rfl) h (fun v4 h => ?_)
        refine AW.aload_n dJ10_equals_40 rfl ?_
        refine AW.getR (t := 20) (k := 0) dJ10_equals_41 ck20 (Nat.le_of_ble_eq_true rfl) (fun _ => rfl) q902 (Or.inl rfl) h (fun v5 h => ?_)
        refine AW.SI (M' := m_J11_equals) [rV v4, rV v5] [] dJ10_equals_44 q928 q929 q141 q930 n_J11_equals rfl rfl rfl (fun _ _ e => c_J11_equals e) h (fun v6 s7 h => ?_)
        refine AW.if_eq 54 dJ10_equals_47 (by decide) h (fun c8 h => ?_) (fun c8 h => ?_)
        · refine AW.iconst dJ10_equals_54 ?_
          cases h
          exact AW.zret (z := 0) dJ10_equals_55 rfl zz0
        · refine AW.iconst dJ10_equals_50 ?_
          refine AW.goto (tgt := 55) dJ10_equals_51 (by decide) ?_
          cases h
          exact AW.zret (z := 1) dJ10_equals_55 rfl zz1
      · refine AW.if_eq 36 dJ10_equals_22 (by decide) h (fun c12 h => ?_) (fun c12 h => ?_)
        · exact AW.fewer (L' := [some (rV (some x0)), none, some (rV v2)]) (And.intro rfl (And.intro rfl trivial)) (hj36 _ _ h)
        · refine AW.aload_n dJ10_equals_25 rfl ?_
          refine AW.getI (t := 20) (k := 1) dJ10_equals_26 ck20 (Nat.le_of_ble_eq_true rfl) (fun _ => rfl) q903 (Or.inl rfl) h (fun v9 h => ?_)
          refine AW.aload_n dJ10_equals_29 rfl ?_
          refine AW.getI (t := 20) (k := 1) dJ10_equals_30 ck20 (Nat.le_of_ble_eq_true rfl) (fun _ => rfl) q903 (Or.inl rfl) h (fun v10 h => ?_)
          refine AW.icmp_ne 54 dJ10_equals_33 (by decide) h (fun c11 h => ?_) (fun c11 h => ?_)
          · refine AW.iconst dJ10_equals_54 ?_
            cases h
            exact AW.zret (z := 0) dJ10_equals_55 rfl zz0
          · exact AW.fewer (L' := [some (rV (some x0)), none, some (rV v2)]) (And.intro rfl (And.intro rfl trivial)) (hj36 _ _ h)
  · refine AW.iconst dJ10_equals_5 ?_
    cases h
    exact AW.zret (z := 1) dJ10_equals_6 rfl zz1
theorem c_J10_equals {s0 : Hp} {x0 : Nat} {x1 : Option Nat} {v : Int} {s1 : Hp} (h : f_J10_equals s0 x0 x1 = some (v, s1)) : Ct m_J10_equals [rV (some x0), rV x1] s0 (.inl (some (iV v)), s1) :=
  Ct.of2 (w_J10_equals s0 x0 x1 h) (show plainName yJ10_equals.cls = true by decide) rfl rfl rfl
abbrev m_X4_at : Mi := (yX4_at, cX4_at, (some .int), 3, 3, 64, [])
theorem n_X4_at : nameOk yX4_at 2 := ⟨by decide, by decide, by decide +kernel⟩
def f_X4_at_L2 : Nat → Hp → Option Nat → Option Nat → Int → (Hp → Option (Int × Hp)) → Option (Int × Hp)
  | 0, _, _, _, _, _ => none
  | n + 1, s0, x0, x1, x2, k => (rcv s0 18 x0).bind fun b3 => bn (f_J5_size s0 b3) fun v1 s2 => (if nrm v1 ≤ nrm x2 then (k s2) else ((rcv s2 18 x0).bind fun b6 => bn (f_J5_get s2 b6 x2) fun v4 s5 => (kst s5 [10, 11, 17] v4).bind fun v7 => (gN s5 v7).bind fun v8 => (rcv s5 20 v8).bind fun b11 => bn (f_J10_equals s5 b11 x1) fun v9 s10 => (if nrm v9 = 0 then (f_X4_at_L2 n s10 x0 x1 (x2 + 1) k) else (some (nrm x2, s10)))))
theorem w_X4_at_L2 {σ0 : Hp} {w : Int × Hp} : ∀ (n : Nat) (s0 : Hp) (x0 : Option Nat) (x1 : Option Nat) (x2 : Int) (k : (Hp → Option (Int × Hp))), f_X4_at_L2 n s0 x0 x1 x2 k = some w → (∀ (s1 : Hp), k s1 = some w → AW m_X4_at σ0 (oI w) 36 [none, none, none] [] s1) → AW m_X4_at σ0 (oI w) 2 [some (rV x0), some (rV x1), some (iV x2)] [] s0 := by
  intro n
  induction n with
  | zero =>
    intro s0 x0 x1 x2 k h hk
    rw [f_X4_at_L2] at h
    cases h
  | succ n ih =>
    intro s0 x0 x1 x2 k h hk
    rw [f_X4_at_L2] at h
    refine AW.iload_n dX4_at_2 rfl ?_
    refine AW.aload_n dX4_at_3 rfl ?_
    refine AW.VI (M' := m_J5_size) (t := 18) [] [iV x2] dX4_at_4 q920 q485 q486 q131 q487 ck18 rfl n_J5_size rfl rfl rfl (fun _ _ _ e => c_J5_size e) h (fun v1 s2 h => ?_)
    refine AW.icmp_ge 36 dX4_at_7 (by decide) h (fun c13 h => ?_) (fun c13 h => ?_)
    · exact AW.fewer (L' := [none, none, none]) (trivial) (hk _ h)
    · refine AW.aload_n dX4_at_10 rfl ?_
      refine AW.iload_n dX4_at_11 rfl ?_
      refine AW.VR (M' := m_J5_get) (t := 18) [iV x2] [] dX4_at_12 q921 q489 q490 q131 q491 ck18 rfl n_J5_get rfl rfl rfl (fun _ _ _ e => c_J5_get e) h (fun v4 s5 h => ?_)
      refine AW.cast (ts := [10, 11, 17]) dX4_at_15 q922 caN h (fun v7 h => ?_)
      refine AW.getN dX4_at_18 q949 h (fun v8 h => ?_)
      refine AW.aload_n dX4_at_21 rfl ?_
      refine AW.VI (M' := m_J10_equals) (t := 20) [rV x1] [] dX4_at_22 q923 q924 q925 q140 q926 ck20 rfl n_J10_equals rfl rfl rfl (fun _ _ _ e => c_J10_equals e) h (fun v9 s10 h => ?_)
      refine AW.if_eq 30 dX4_at_25 (by decide) h (fun c12 h => ?_) (fun c12 h => ?_)
      · refine AW.iinc (L' := [some (rV x0), some (rV x1), some (iV (x2 + 1))]) dX4_at_30 rfl (Nat.le_of_ble_eq_true rfl) rfl rfl ?_
        refine AW.goto (tgt := 2) dX4_at_33 (by decide) ?_
        exact ih _ _ _ _ _ h hk
      · refine AW.iload_n dX4_at_28 rfl ?_
        refine AW.nv ?_
        cases h
        exact AW.iret dX4_at_29 rfl
def f_X4_at (s0 : Hp) (x0 : Option Nat) (x1 : Option Nat) : Option (Int × Hp) :=
  f_X4_at_L2 FU s0 x0 x1 0 (fun s14 => some ((-1), s14))
theorem w_X4_at {σ0 : Hp} {w : Int × Hp} (s0 : Hp) (x0 : Option Nat) (x1 : Option Nat) (h : f_X4_at s0 x0 x1 = some w) : AW m_X4_at σ0 (oI w) 0 [some (rV x0), some (rV x1), none] [] s0 := by
  unfold f_X4_at at h
  refine AW.iconst dX4_at_0 ?_
  refine AW.istore_n (L' := [some (rV x0), some (rV x1), some (iV 0)]) dX4_at_1 (Nat.le_of_ble_eq_true rfl) rfl rfl ?_
  refine w_X4_at_L2 _ _ _ _ _ _ h (fun s14 h => ?_)
  refine AW.iconst dX4_at_36 ?_
  cases h
  exact AW.iret dX4_at_37 rfl
theorem c_X4_at {s0 : Hp} {x0 : Option Nat} {x1 : Option Nat} {v : Int} {s1 : Hp} (h : f_X4_at s0 x0 x1 = some (v, s1)) : Ct m_X4_at [rV x0, rV x1] s0 (.inl (some (iV v)), s1) :=
  Ct.of2 (w_X4_at s0 x0 x1 h) (show plainName yX4_at.cls = true by decide) rfl rfl rfl
abbrev m_J13_init : Mi := (yJ13_init, cJ13_init, none, 2, 1, 20, [])
theorem n_J13_init : nameOk yJ13_init 1 := ⟨by decide, by decide, by decide +kernel⟩
def f_J13_init (s0 : Hp) (x0 : Nat) (x1 : Int) : Option (Unit × Hp) :=
  (some x0).bind fun _ => (if nrm 1 = 0 then (none) else (nwA s0 101 x1 fun v1 s2 => (pR s2 19 (some x0) 0 v1).bind fun s3 => (pB s3 19 (some x0) 1 0).bind fun s4 => some ((), s4)))
theorem w_J13_init {σ0 : Hp} {w : Unit × Hp} (s0 : Hp) (x0 : Nat) (x1 : Int) (h : f_J13_init s0 x0 x1 = some w) : AW m_J13_init σ0 (oU w) 0 [some (rV (some x0)), some (iV x1)] [] s0 := by
  unfold f_J13_init at h
  refine AW.aload_n dJ13_init_0 rfl ?_
  refine AW.objI dJ13_init_1 q763 rfl rfl h (fun _ h => ?_)
  refine AW.getsI dJ13_init_4 q764 ?_
  refine AW.if_eq 25 dJ13_init_7 (by decide) h (fun c5 h => ?_) (fun c5 h => ?_)
  · cases h
  · refine AW.aload_n dJ13_init_10 rfl ?_
    refine AW.iload_n dJ13_init_11 rfl ?_
    refine AW.newa (t := 101) (atype := .byte) dJ13_init_12 (Nat.le_of_ble_eq_true rfl) mu101 rfl (by decide) (fun _ h => by cases h) ⟨(fun h => by cases h), (fun h => by cases h)⟩ (by decide) q238 h (fun v1 s2 h => ?_)
    refine AW.putR (t := 19) (k := 0) dJ13_init_14 ck19 mu19 (Nat.le_of_ble_eq_true rfl) (Or.inr ⟨_, rfl⟩) q772 (Or.inl rfl) (Or.inl rfl) h (fun s3 h => ?_)
    refine AW.aload_n dJ13_init_17 rfl ?_
    refine AW.iconst dJ13_init_18 ?_
    refine AW.putB (t := 19) (k := 1) dJ13_init_19 ck19 mu19 (Nat.le_of_ble_eq_true rfl) rfl q773 (Or.inl rfl) (Or.inl rfl) h (fun s4 h => ?_)
    refine AW.goto (tgt := 38) dJ13_init_22 (by decide) ?_
    cases h
    exact AW.vret dJ13_init_38 rfl
theorem c_J13_init {s0 : Hp} {x0 : Nat} {x1 : Int} {v : Unit} {s1 : Hp} (h : f_J13_init s0 x0 x1 = some (v, s1)) : Ct m_J13_init [rV (some x0), iV x1] s0 (.inl none, s1) :=
  Ct.of2 (w_J13_init s0 x0 x1 h) (show plainName yJ13_init.cls = true by decide) rfl rfl rfl
abbrev m_J14_init : Mi := (yJ14_init, cJ14_init, none, 1, 2, 41, [])
theorem n_J14_init : nameOk yJ14_init 0 := ⟨by decide, by decide, by decide +kernel⟩
def f_J14_init (s0 : Hp) (x0 : Nat) : Option (Unit × Hp) :=
  (rcv s0 19 (some x0)).bind fun b2 => bn (f_J13_init s0 b2 16) fun _ s1 => some ((), s1)
theorem w_J14_init {σ0 : Hp} {w : Unit × Hp} (s0 : Hp) (x0 : Nat) (h : f_J14_init s0 x0 = some w) : AW m_J14_init σ0 (oU w) 0 [some (rV (some x0))] [] s0 := by
  unfold f_J14_init at h
  refine AW.aload_n dJ14_init_0 rfl ?_
  refine AW.bipush dJ14_init_1 (by decide) ?_
  refine AW.IU (M' := m_J13_init) (t := 19) [iV 16] [] dJ14_init_3 q760 q761 q145 q762 rfl rfl n_J13_init rfl rfl rfl (fun _ _ _ e => c_J13_init e) h (fun _ s1 h => ?_)
  cases h
  exact AW.vret dJ14_init_6 rfl
theorem c_J14_init {s0 : Hp} {x0 : Nat} {v : Unit} {s1 : Hp} (h : f_J14_init s0 x0 = some (v, s1)) : Ct m_J14_init [rV (some x0)] s0 (.inl none, s1) :=
  Ct.of2 (w_J14_init s0 x0 h) (show plainName yJ14_init.cls = true by decide) rfl rfl rfl
abbrev m_J13_ensureCapacityInternal : Mi := (yJ13_ensureCapacityInternal, cJ13_ensureCapacityInternal, none, 3, 0, 0, [])
theorem n_J13_ensureCapacityInternal : nameOk yJ13_ensureCapacityInternal 1 := ⟨by decide, by decide, by decide +kernel⟩
def f_J13_ensureCapacityInternal (s0 : Hp) (x0 : Nat) (x1 : Int) : Option (Unit × Hp) :=
  (gR s0 19 (some x0) 0).bind fun v1 => (aL s0 101 v1).bind fun v2 => (gI s0 19 (some x0) 1).bind fun v3 => (if nrm (x1 - (srI v2 v3)) ≤ 0 then (some ((), s0)) else (none))
theorem w_J13_ensureCapacityInternal {σ0 : Hp} {w : Unit × Hp} (s0 : Hp) (x0 : Nat) (x1 : Int) (h : f_J13_ensureCapacityInternal s0 x0 x1 = some w) : AW m_J13_ensureCapacityInternal σ0 (oU w) 0 [some (rV (some x0)), some (iV x1), none] [] s0 := by
  unfold f_J13_ensureCapacityInternal at h
  refine AW.aload_n dJ13_ensureCapacityInternal_0 rfl ?_
  refine AW.getR (t := 19) (k := 0) dJ13_ensureCapacityInternal_1 ck19 (Nat.le_of_ble_eq_true rfl) (fun _ => rfl) q772 (Or.inl rfl) h (fun v1 h => ?_)
  refine AW.alen (t := 101) dJ13_ensureCapacityInternal_4 (Nat.le_of_ble_eq_true rfl) h (fun v2 h => ?_)
  refine AW.aload_n dJ13_ensureCapacityInternal_5 rfl ?_
  refine AW.getI (t := 19) (k := 1) dJ13_ensureCapacityInternal_6 ck19 (Nat.le_of_ble_eq_true rfl) (fun _ => rfl) q773 (Or.inl rfl) h (fun v3 h => ?_)
  refine AW.ishr dJ13_ensureCapacityInternal_9 ?_
  refine AW.istore_n (L' := [some (rV (some x0)), some (iV x1), some (iV (srI v2 v3))]) dJ13_ensureCapacityInternal_10 (Nat.le_of_ble_eq_true rfl) rfl rfl ?_
  refine AW.iload_n dJ13_ensureCapacityInternal_11 rfl ?_
  refine AW.iload_n dJ13_ensureCapacityInternal_12 rfl ?_
  refine AW.isub dJ13_ensureCapacityInternal_13 ?_
  refine AW.if_le 38 dJ13_ensureCapacityInternal_14 (by decide) h (fun c4 h => ?_) (fun c4 h => ?_)
  · cases h
    exact AW.vret dJ13_ensureCapacityInternal_38 rfl
  · cases h
theorem c_J13_ensureCapacityInternal {s0 : Hp} {x0 : Nat} {x1 : Int} {v : Unit} {s1 : Hp} (h : f_J13_ensureCapacityInternal s0 x0 x1 = some (v, s1)) : Ct m_J13_ensureCapacityInternal [rV (some x0), iV x1] s0 (.inl none, s1) :=
  Ct.of2 (w_J13_ensureCapacityInternal s0 x0 x1 h) (show plainName yJ13_ensureCapacityInternal.cls = true by decide) rfl rfl rfl
abbrev m_J13_isLatin1 : Mi := (yJ13_isLatin1, cJ13_isLatin1, (some .boolean), 1, 0, 0, [])
theorem n_J13_isLatin1 : nameOk yJ13_isLatin1 0 := ⟨by decide, by decide, by decide +kernel⟩
def f_J13_isLatin1 (s0 : Hp) (x0 : Nat) : Option (Int × Hp) :=
  (if nrm 1 = 0 then (some (0, s0)) else ((gI s0 19 (some x0) 1).bind fun v1 => (if ¬ nrm v1 = 0 then (some (0, s0)) else (some (1, s0)))))
theorem w_J13_isLatin1 {σ0 : Hp} {w : Int × Hp} (s0 : Hp) (x0 : Nat) (h : f_J13_isLatin1 s0 x0 = some w) : AW m_J13_isLatin1 σ0 (oI w) 0 [some (rV (some x0))] [] s0 := by
  unfold f_J13_isLatin1 at h
  refine AW.getsI dJ13_isLatin1_0 q764 ?_
  refine AW.if_eq 17 dJ13_isLatin1_3 (by decide) h (fun c3 h => ?_) (fun c3 h => ?_)
  · refine AW.iconst dJ13_isLatin1_17 ?_
    cases h
    exact AW.zret (z := 0) dJ13_isLatin1_18 rfl zz0
  · refine AW.aload_n dJ13_isLatin1_6 rfl ?_
    refine AW.getI (t := 19) (k := 1) dJ13_isLatin1_7 ck19 (Nat.le_of_ble_eq_true rfl) (fun _ => rfl) q773 (Or.inl rfl) h (fun v1 h => ?_)
    refine AW.if_ne 17 dJ13_isLatin1_10 (by decide) h (fun c2 h => ?_) (fun c2 h => ?_)
    · refine AW.iconst dJ13_isLatin1_17 ?_
      cases h
      exact AW.zret (z := 0) dJ13_isLatin1_18 rfl zz0
    · refine AW.iconst dJ13_isLatin1_13 ?_
      refine AW.goto (tgt := 18) dJ13_isLatin1_14 (by decide) ?_
      cases h
      exact AW.zret (z := 1) dJ13_isLatin1_18 rfl zz1
theorem c_J13_isLatin1 {s0 : Hp} {x0 : Nat} {v : Int} {s1 : Hp} (h : f_J13_isLatin1 s0 x0 = some (v, s1)) : Ct m_J13_isLatin1 [rV (some x0)] s0 (.inl (some (iV v)), s1) :=
  Ct.of2 (w_J13_isLatin1 s0 x0 h) (show plainName yJ13_isLatin1.cls = true by decide) rfl rfl rfl
abbrev m_J11_canEncode : Mi := (yJ11_canEncode, cJ11_canEncode, (some .boolean), 1, 0, 0, [])
theorem n_J11_canEncode : nameOk yJ11_canEncode 1 := ⟨by decide, by decide, by decide +kernel⟩
def f_J11_canEncode (s0 : Hp) (x0 : Int) : Option (Int × Hp) :=
  (if nrm 255 < nrm x0 then (some (0, s0)) else (some (1, s0)))
theorem w_J11_canEncode {σ0 : Hp} {w : Int × Hp} (s0 : Hp) (x0 : Int) (h : f_J11_canEncode s0 x0 = some w) : AW m_J11_canEncode σ0 (oI w) 0 [some (iV x0)] [] s0 := by
  unfold f_J11_canEncode at h
  refine AW.iload_n dJ11_canEncode_0 rfl ?_
  refine AW.sipush dJ11_canEncode_1 (by decide) ?_
  refine AW.icmp_gt 11 dJ11_canEncode_4 (by decide) h (fun c1 h => ?_) (fun c1 h => ?_)
  · refine AW.iconst dJ11_canEncode_11 ?_
    cases h
    exact AW.zret (z := 0) dJ11_canEncode_12 rfl zz0
  · refine AW.iconst dJ11_canEncode_7 ?_
    refine AW.goto (tgt := 12) dJ11_canEncode_8 (by decide) ?_
    cases h
    exact AW.zret (z := 1) dJ11_canEncode_12 rfl zz1
theorem c_J11_canEncode {s0 : Hp} {x0 : Int} {v : Int} {s1 : Hp} (h : f_J11_canEncode s0 x0 = some (v, s1)) : Ct m_J11_canEncode [iV x0] s0 (.inl (some (iV v)), s1) :=
  Ct.of2 (w_J11_canEncode s0 x0 h) (show plainName yJ11_canEncode.cls = true by decide) rfl rfl rfl
abbrev m_J13_append : Mi := (yJ13_append, cJ13_append, (some (FieldType.object "java/lang/AbstractStringBuilder")), 2, 1, 22, [])
theorem n_J13_append : nameOk yJ13_append 1 := ⟨by decide, by decide, by decide +kernel⟩
def f_J13_append (s0 : Hp) (x0 : Nat) (x1 : Int) : Option ((Option Nat) × Hp) :=
  (gI s0 19 (some x0) 3).bind fun v1 => (rcv s0 19 (some x0)).bind fun b3 => bn (f_J13_ensureCapacityInternal s0 b3 (v1 + 1)) fun _ s2 => (rcv s2 19 (some x0)).bind fun b6 => bn (f_J13_isLatin1 s2 b6) fun v4 s5 => jn (fun (s7 : Hp) (x1 : Int) => none) fun j45 => (if nrm v4 = 0 then (j45 s5 x1) else (bn (f_J11_canEncode s5 x1) fun v8 s9 => (if nrm v8 = 0 then (j45 s9 x1) else ((gR s9 19 (some x0) 0).bind fun v10 => (gI s9 19 (some x0) 3).bind fun v11 => (pI s9 19 (some x0) 3 (nrm (v11 + 1))).bind fun s12 => (sI s12 101 v10 v11 (i8I (i8I x1))).bind fun s13 => some ((some x0), s13)))))
theorem w_J13_append {σ0 : Hp} {w : (Option Nat) × Hp} (s0 : Hp) (x0 : Nat) (x1 : Int) (h : f_J13_append s0 x0 x1 = some w) : AW m_J13_append σ0 (oR w) 0 [some (rV (some x0)), some (iV x1)] [] s0 := by
  unfold f_J13_append at h
  refine AW.aload_n dJ13_append_0 rfl ?_
  refine AW.aload_n dJ13_append_1 rfl ?_
  refine AW.getI (t := 19) (k := 3) dJ13_append_2 ck19 (Nat.le_of_ble_eq_true rfl) (fun _ => rfl) q775 (Or.inl rfl) h (fun v1 h => ?_)
  refine AW.iconst dJ13_append_5 ?_
  refine AW.iadd dJ13_append_6 ?_
  refine AW.UU (M' := m_J13_ensureCapacityInternal) (x := yJ13_ensureCapacityInternal) (t := 19) [iV (v1 + 1)] [] dJ13_append_7 q792 q2185 (Or.inr ⟨rfl, by decide⟩) q794 q145 q795 (Or.inr (Or.inl rfl)) ck19 n_J13_ensureCapacityInternal rfl rfl rfl (fun _ _ _ e => c_J13_ensureCapacityInternal e) h (fun _ s2 h => ?_)
  refine AW.aload_n dJ13_append_10 rfl ?_
  refine AW.UI (M' := m_J13_isLatin1) (x := yJ13_isLatin1) (t := 19) [] [] dJ13_append_11 q823 q825 (Or.inl q826) q824 q145 q827 (Or.inr (Or.inl rfl)) ck19 n_J13_isLatin1 rfl rfl rfl (fun _ _ _ e => c_J13_isLatin1 e) h (fun v4 s5 h => ?_)
  refine jn_elim h (fun (j : (Hp → Int → Option ((Option Nat) × Hp))) => ∀ (s7 : Hp) (x1 : Int), j s7 x1 = some w → AW m_J13_append σ0 (oR w) 45 [some (rV (some x0)), some (iV x1)] [] s7) ?_ (fun j45 hj45 h => ?_)
  · intro s7 x1 h
    cases h
  · refine AW.if_eq 45 dJ13_append_14 (by decide) h (fun c15 h => ?_) (fun c15 h => ?_)
    · exact hj45 _ _ h
    · refine AW.iload_n dJ13_append_17 rfl ?_
      refine AW.SI (M' := m_J11_canEncode) [iV x1] [] dJ13_append_18 q828 q829 q141 q830 n_J11_canEncode rfl rfl rfl (fun _ _ e => c_J11_canEncode e) h (fun v8 s9 h => ?_)
      refine AW.if_eq 45 dJ13_append_21 (by decide) h (fun c14 h => ?_) (fun c14 h => ?_)
      · exact hj45 _ _ h
      · refine AW.aload_n dJ13_append_24 rfl ?_
        refine AW.getR (t := 19) (k := 0) dJ13_append_25 ck19 (Nat.le_of_ble_eq_true rfl) (fun _ => rfl) q772 (Or.inl rfl) h (fun v10 h => ?_)
        refine AW.aload_n dJ13_append_28 rfl ?_
        refine AW.dupR dJ13_append_29 ?_
        refine AW.getI (t := 19) (k := 3) dJ13_append_30 ck19 (Nat.le_of_ble_eq_true rfl) (fun _ => rfl) q775 (Or.inl rfl) h (fun v11 h => ?_)
        refine AW.dup_x1IR dJ13_append_33 ?_
        refine AW.iconst dJ13_append_34 ?_
        refine AW.iadd dJ13_append_35 ?_
        refine AW.nv ?_
        refine AW.putI (t := 19) (k := 3) dJ13_append_36 ck19 mu19 (Nat.le_of_ble_eq_true rfl) rfl q775 (Or.inl rfl) (Or.inl rfl) h (fun s12 h => ?_)
        refine AW.iload_n dJ13_append_39 rfl ?_
        refine AW.i2b dJ13_append_40 ?_
        refine AW.bast (t := 101) dJ13_append_41 (Nat.le_of_ble_eq_true rfl) mu101 rfl h (fun s13 h => ?_)
        refine AW.goto (tgt := 75) dJ13_append_42 (by decide) ?_
        refine AW.aload_n dJ13_append_75 rfl ?_
        cases h
        exact AW.aret dJ13_append_76 rfl (Or.inl ⟨_, rfl⟩)
theorem c_J13_append {s0 : Hp} {x0 : Nat} {x1 : Int} {v : Option Nat} {s1 : Hp} (h : f_J13_append s0 x0 x1 = some (v, s1)) : Ct m_J13_append [rV (some x0), iV x1] s0 (.inl (some (rV v)), s1) :=
  Ct.of2 (w_J13_append s0 x0 x1 h) (show plainName yJ13_append.cls = true by decide) rfl rfl rfl
abbrev m_J14_append : Mi := (yJ14_append, cJ14_append, (some (FieldType.object "java/lang/StringBuilder")), 2, 2, 43, [])
theorem n_J14_append : nameOk yJ14_append 1 := ⟨by decide, by decide, by decide +kernel⟩
def f_J14_append (s0 : Hp) (x0 : Nat) (x1 : Int) : Option ((Option Nat) × Hp) :=
  (rcv s0 19 (some x0)).bind fun b3 => bn (f_J13_append s0 b3 x1) fun v1 s2 => some ((some x0), s2)
theorem w_J14_append {σ0 : Hp} {w : (Option Nat) × Hp} (s0 : Hp) (x0 : Nat) (x1 : Int) (h : f_J14_append s0 x0 x1 = some w) : AW m_J14_append σ0 (oR w) 0 [some (rV (some x0)), some (iV x1)] [] s0 := by
  unfold f_J14_append at h
  refine AW.aload_n dJ14_append_0 rfl ?_
  refine AW.iload_n dJ14_append_1 rfl ?_
  refine AW.PR (M' := m_J13_append) (t := 19) [iV x1] [] dJ14_append_2 q789 q2184 q784 q790 q145 q791 (by decide) ck19 n_J13_append rfl rfl rfl (fun _ _ _ e => c_J13_append e) h (fun v1 s2 h => ?_)
  refine AW.popR dJ14_append_5 ?_
  refine AW.aload_n dJ14_append_6 rfl ?_
  cases h
  exact AW.aret dJ14_append_7 rfl (Or.inl ⟨_, rfl⟩)
theorem c_J14_append {s0 : Hp} {x0 : Nat} {x1 : Int} {v : Option Nat} {s1 : Hp} (h : f_J14_append s0 x0 x1 = some (v, s1)) : Ct m_J14_append [rV (some x0), iV x1] s0 (.inl (some (rV v)), s1) :=
  Ct.of2 (w_J14_append s0 x0 x1 h) (show plainName yJ14_append.cls = true by decide) rfl rfl rfl
abbrev m_J13_getValue : Mi := (yJ13_getValue, cJ13_getValue, (some (FieldType.array FieldType.byte)), 1, 0, 0, [])
theorem n_J13_getValue : nameOk yJ13_getValue 0 := ⟨by decide, by decide, by decide +kernel⟩
def f_J13_getValue (s0 : Hp) (x0 : Nat) : Option ((Option Nat) × Hp) :=
  (gR s0 19 (some x0) 0).bind fun v1 => some (v1, s0)
theorem w_J13_getValue {σ0 : Hp} {w : (Option Nat) × Hp} (s0 : Hp) (x0 : Nat) (h : f_J13_getValue s0 x0 = some w) : AW m_J13_getValue σ0 (oR w) 0 [some (rV (some x0))] [] s0 := by
  unfold f_J13_getValue at h
  refine AW.aload_n dJ13_getValue_0 rfl ?_
  refine AW.getR (t := 19) (k := 0) dJ13_getValue_1 ck19 (Nat.le_of_ble_eq_true rfl) (fun _ => rfl) q772 (Or.inl rfl) h (fun v1 h => ?_)
  cases h
  exact AW.aret dJ13_getValue_4 rfl (Or.inr ⟨_, rfl⟩)
theorem c_J13_getValue {s0 : Hp} {x0 : Nat} {v : Option Nat} {s1 : Hp} (h : f_J13_getValue s0 x0 = some (v, s1)) : Ct m_J13_getValue [rV (some x0)] s0 (.inl (some (rV v)), s1) :=
  Ct.of2 (w_J13_getValue s0 x0 h) (show plainName yJ13_getValue.cls = true by decide) rfl rfl rfl
abbrev m_J13_length : Mi := (yJ13_length, cJ13_length, (some .int), 1, 0, 0, [])
theorem n_J13_length : nameOk yJ13_length 0 := ⟨by decide, by decide, by decide +kernel⟩
def f_J13_length (s0 : Hp) (x0 : Nat) : Option (Int × Hp) :=
  (gI s0 19 (some x0) 3).bind fun v1 => some (v1, s0)
theorem w_J13_length {σ0 : Hp} {w : Int × Hp} (s0 : Hp) (x0 : Nat) (h : f_J13_length s0 x0 = some w) : AW m_J13_length σ0 (oI w) 0 [some (rV (some x0))] [] s0 := by
  unfold f_J13_length at h
  refine AW.aload_n dJ13_length_0 rfl ?_
  refine AW.getI (t := 19) (k := 3) dJ13_length_1 ck19 (Nat.le_of_ble_eq_true rfl) (fun _ => rfl) q775 (Or.inl rfl) h (fun v1 h => ?_)
  cases h
  exact AW.iret dJ13_length_4 rfl
theorem c_J13_length {s0 : Hp} {x0 : Nat} {v : Int} {s1 : Hp} (h : f_J13_length s0 x0 = some (v, s1)) : Ct m_J13_length [rV (some x0)] s0 (.inl (some (iV v)), s1) :=
  Ct.of2 (w_J13_length s0 x0 h) (show plainName yJ13_length.cls = true by decide) rfl rfl rfl
abbrev m_J14_length : Mi := (yJ14_length, cJ14_length, (some .int), 1, 1, 20, [])
theorem n_J14_length : nameOk yJ14_length 0 := ⟨by decide, by decide, by decide +kernel⟩
def f_J14_length (s0 : Hp) (x0 : Nat) : Option (Int × Hp) :=
  (rcv s0 19 (some x0)).bind fun b3 => bn (f_J13_length s0 b3) fun v1 s2 => some (v1, s2)
theorem w_J14_length {σ0 : Hp} {w : Int × Hp} (s0 : Hp) (x0 : Nat) (h : f_J14_length s0 x0 = some w) : AW m_J14_length σ0 (oI w) 0 [some (rV (some x0))] [] s0 := by
  unfold f_J14_length at h
  refine AW.aload_n dJ14_length_0 rfl ?_
  refine AW.PI (M' := m_J13_length) (t := 19) [] [] dJ14_length_1 q880 q876 q784 q875 q145 q881 (by decide) ck19 n_J13_length rfl rfl rfl (fun _ _ _ e => c_J13_length e) h (fun v1 s2 h => ?_)
  cases h
  exact AW.iret dJ14_length_4 rfl
theorem c_J14_length {s0 : Hp} {x0 : Nat} {v : Int} {s1 : Hp} (h : f_J14_length s0 x0 = some (v, s1)) : Ct m_J14_length [rV (some x0)] s0 (.inl (some (iV v)), s1) :=
  Ct.of2 (w_J14_length s0 x0 h) (show plainName yJ14_length.cls = true by decide) rfl rfl rfl
abbrev m_J16_checkLength : Mi := (yJ16_checkLength, cJ16_checkLength, none, 2, 0, 0, [])
theorem n_J16_checkLength : nameOk yJ16_checkLength 2 := ⟨by decide, by decide, by decide +kernel⟩
def f_J16_checkLength (s0 : Hp) (x0 : Int) (x1 : Int) : Option (Unit × Hp) :=
  (if nrm x0 ≤ nrm x1 then (some ((), s0)) else (none))
theorem w_J16_checkLength {σ0 : Hp} {w : Unit × Hp} (s0 : Hp) (x0 : Int) (x1 : Int) (h : f_J16_checkLength s0 x0 x1 = some w) : AW m_J16_checkLength σ0 (oU w) 0 [some (iV x0), some (iV x1)] [] s0 := by
  unfold f_J16_checkLength at h
  refine AW.iload_n dJ16_checkLength_0 rfl ?_
  refine AW.iload_n dJ16_checkLength_1 rfl ?_
  refine AW.icmp_ge 37 dJ16_checkLength_2 (by decide) h (fun c1 h => ?_) (fun c1 h => ?_)
  · cases h
    exact AW.vret dJ16_checkLength_37 rfl
  · cases h
theorem c_J16_checkLength {s0 : Hp} {x0 : Int} {x1 : Int} {v : Unit} {s1 : Hp} (h : f_J16_checkLength s0 x0 x1 = some (v, s1)) : Ct m_J16_checkLength [iV x0, iV x1] s0 (.inl none, s1) :=
  Ct.of2 (w_J16_checkLength s0 x0 x1 h) (show plainName yJ16_checkLength.cls = true by decide) rfl rfl rfl
abbrev m_J16_copyOfRangeByte : Mi := (yJ16_copyOfRangeByte, cJ16_copyOfRangeByte, (some (FieldType.array FieldType.byte)), 5, 1, 80, [])
theorem n_J16_copyOfRangeByte : nameOk yJ16_copyOfRangeByte 3 := ⟨by decide, by decide, by decide +kernel⟩
def f_J16_copyOfRangeByte (s0 : Hp) (x0 : Option Nat) (x1 : Int) (x2 : Int) : Option ((Option Nat) × Hp) :=
  bn (f_J16_checkLength s0 x1 x2) fun _ s1 => nwA s1 101 (x2 - x1) fun v2 s3 => (aL s3 101 x0).bind fun v4 => (acI s3 101 x0 x1 v2 0 (mnI (v4 - x1) (x2 - x1))).bind fun s5 => some (v2, s5)
theorem w_J16_copyOfRangeByte {σ0 : Hp} {w : (Option Nat) × Hp} (s0 : Hp) (x0 : Option Nat) (x1 : Int) (x2 : Int) (h : f_J16_copyOfRangeByte s0 x0 x1 x2 = some w) : AW m_J16_copyOfRangeByte σ0 (oR w) 0 [some (rV x0), some (iV x1), some (iV x2), none, none] [] s0 := by
  unfold f_J16_copyOfRangeByte at h
  refine AW.iload_n dJ16_copyOfRangeByte_0 rfl ?_
  refine AW.iload_n dJ16_copyOfRangeByte_1 rfl ?_
  refine AW.SU (M' := m_J16_checkLength) [iV x1, iV x2] [] dJ16_copyOfRangeByte_2 q889 q890 q148 q891 n_J16_checkLength rfl rfl rfl (fun _ _ e => c_J16_checkLength e) h (fun _ s1 h => ?_)
  refine AW.iload_n dJ16_copyOfRangeByte_5 rfl ?_
  refine AW.iload_n dJ16_copyOfRangeByte_6 rfl ?_
  refine AW.isub dJ16_copyOfRangeByte_7 ?_
  refine AW.istore_n (L' := [some (rV x0), some (iV x1), some (iV x2), some (iV (x2 - x1)), none]) dJ16_copyOfRangeByte_8 (Nat.le_of_ble_eq_true rfl) rfl rfl ?_
  refine AW.iload_n dJ16_copyOfRangeByte_9 rfl ?_
  refine AW.newa (t := 101) (atype := .byte) dJ16_copyOfRangeByte_10 (Nat.le_of_ble_eq_true rfl) mu101 rfl (by decide) (fun _ h => by cases h) ⟨(fun h => by cases h), (fun h => by cases h)⟩ (by decide) q238 h (fun v2 s3 h => ?_)
  refine AW.astore (L' := [some (rV x0), some (iV x1), some (iV x2), some (iV (x2 - x1)), some (rV v2)]) dJ16_copyOfRangeByte_12 (Nat.le_of_ble_eq_true rfl) rfl rfl ?_
  refine AW.aload_n dJ16_copyOfRangeByte_14 rfl ?_
  refine AW.iload_n dJ16_copyOfRangeByte_15 rfl ?_
  refine AW.aload dJ16_copyOfRangeByte_16 rfl ?_
  refine AW.iconst dJ16_copyOfRangeByte_18 ?_
  refine AW.aload_n dJ16_copyOfRangeByte_19 rfl ?_
  refine AW.alen (t := 101) dJ16_copyOfRangeByte_20 (Nat.le_of_ble_eq_true rfl) h (fun v4 h => ?_)
  refine AW.iload_n dJ16_copyOfRangeByte_21 rfl ?_
  refine AW.isub dJ16_copyOfRangeByte_22 ?_
  refine AW.iload_n dJ16_copyOfRangeByte_23 rfl ?_
  refine AW.mmin dJ16_copyOfRangeByte_24 q819 rfl rfl ?_
  refine AW.acpy (t := 101) dJ16_copyOfRangeByte_27 q820 (Nat.le_of_ble_eq_true rfl) mu101 rfl rfl rfl h (fun s5 h => ?_)
  refine AW.aload dJ16_copyOfRangeByte_30 rfl ?_
  cases h
  exact AW.aret dJ16_copyOfRangeByte_32 rfl (Or.inr ⟨_, rfl⟩)
theorem c_J16_copyOfRangeByte {s0 : Hp} {x0 : Option Nat} {x1 : Int} {x2 : Int} {v : Option Nat} {s1 : Hp} (h : f_J16_copyOfRangeByte s0 x0 x1 x2 = some (v, s1)) : Ct m_J16_copyOfRangeByte [rV x0, iV x1, iV x2] s0 (.inl (some (rV v)), s1) :=
  Ct.of2 (w_J16_copyOfRangeByte s0 x0 x1 x2 h) (show plainName yJ16_copyOfRangeByte.cls = true by decide) rfl rfl rfl
abbrev m_J16_copyOfRange : Mi := (yJ16_copyOfRange, cJ16_copyOfRange, (some (FieldType.array FieldType.byte)), 3, 2, 104, [])
theorem n_J16_copyOfRange : nameOk yJ16_copyOfRange 3 := ⟨by decide, by decide, by decide +kernel⟩
def f_J16_copyOfRange (s0 : Hp) (x0 : Option Nat) (x1 : Int) (x2 : Int) : Option ((Option Nat) × Hp) :=
  jn (fun (s1 : Hp) (x0 : Option Nat) (x1 : Int) (x2 : Int) => bn (f_J16_copyOfRangeByte s1 x0 x1 x2) fun v2 s3 => some (v2, s3)) fun j10 => (if ¬ nrm x1 = 0 then (j10 s0 x0 x1 x2) else ((aL s0 101 x0).bind fun v4 => (if nrm x2 = nrm v4 then (none) else (j10 s0 x0 x1 x2))))
theorem w_J16_copyOfRange {σ0 : Hp} {w : (Option Nat) × Hp} (s0 : Hp) (x0 : Option Nat) (x1 : Int) (x2 : Int) (h : f_J16_copyOfRange s0 x0 x1 x2 = some w) : AW m_J16_copyOfRange σ0 (oR w) 0 [some (rV x0), some (iV x1), some (iV x2)] [] s0 := by
  unfold f_J16_copyOfRange at h
  refine AW.iload_n dJ16_copyOfRange_0 rfl ?_
  refine jn_elim h (fun (j : (Hp → Option Nat → Int → Int → Option ((Option Nat) × Hp))) => ∀ (s1 : Hp) (x0 : Option Nat) (x1 : Int) (x2 : Int), j s1 x0 x1 x2 = some w → AW m_J16_copyOfRange σ0 (oR w) 10 [some (rV x0), some (iV x1), some (iV x2)] [] s1) ?_ (fun j10 hj10 h => ?_)
  · intro s1 x0 x1 x2 h
    refine AW.aload_n dJ16_copyOfRange_10 rfl ?_
    refine AW.iload_n dJ16_copyOfRange_11 rfl ?_
    refine AW.iload_n dJ16_copyOfRange_12 rfl ?_
    refine AW.SR (M' := m_J16_copyOfRangeByte) [rV x0, iV x1, iV x2] [] dJ16_copyOfRange_13 q886 q887 q148 q888 n_J16_copyOfRangeByte rfl rfl rfl (fun _ _ e => c_J16_copyOfRangeByte e) h (fun v2 s3 h => ?_)
    cases h
    exact AW.aret dJ16_copyOfRange_16 rfl (Or.inr ⟨_, rfl⟩)
  · refine AW.if_ne 10 dJ16_copyOfRange_1 (by decide) h (fun c6 h => ?_) (fun c6 h => ?_)
    · exact hj10 _ _ _ _ h
    · refine AW.iload_n dJ16_copyOfRange_4 rfl ?_
      refine AW.aload_n dJ16_copyOfRange_5 rfl ?_
      refine AW.alen (t := 101) dJ16_copyOfRange_6 (Nat.le_of_ble_eq_true rfl) h (fun v4 h => ?_)
      refine AW.icmp_eq 17 dJ16_copyOfRange_7 (by decide) h (fun c5 h => ?_) (fun c5 h => ?_)
      · refine AW.aload_n dJ16_copyOfRange_17 rfl ?_
        cases h
      · exact hj10 _ _ _ _ h
theorem c_J16_copyOfRange {s0 : Hp} {x0 : Option Nat} {x1 : Int} {x2 : Int} {v : Option Nat} {s1 : Hp} (h : f_J16_copyOfRange s0 x0 x1 x2 = some (v, s1)) : Ct m_J16_copyOfRange [rV x0, iV x1, iV x2] s0 (.inl (some (rV v)), s1) :=
  Ct.of2 (w_J16_copyOfRange s0 x0 x1 x2 h) (show plainName yJ16_copyOfRange.cls = true by decide) rfl rfl rfl
abbrev m_J10_init_2 : Mi := (yJ10_init_2, cJ10_init_2, none, 5, 3, 126, [])
theorem n_J10_init_2 : nameOk yJ10_init_2 2 := ⟨by decide, by decide, by decide +kernel⟩
def f_J10_init_2 (s0 : Hp) (x0 : Nat) (x1 : Option Nat) (x2 : Option Nat) : Option (Unit × Hp) :=
  (some x0).bind fun _ => (rcv s0 19 x1).bind fun b3 => bn (f_J13_getValue s0 b3) fun v1 s2 => (rcv s2 19 x1).bind fun b6 => bn (f_J14_length s2 b6) fun v4 s5 => (rcv s5 19 x1).bind fun b9 => bn (f_J13_isLatin1 s5 b9) fun v7 s8 => (if nrm v7 = 0 then (none) else ((pB s8 20 (some x0) 1 0).bind fun s10 => bn (f_J16_copyOfRange s10 v1 0 v4) fun v11 s12 => (pR s12 20 (some x0) 0 v11).bind fun s13 => some ((), s13)))
theorem w_J10_init_2 {σ0 : Hp} {w : Unit × Hp} (s0 : Hp) (x0 : Nat) (x1 : Option Nat) (x2 : Option Nat) (h : f_J10_init_2 s0 x0 x1 x2 = some w) : AW m_J10_init_2 σ0 (oU w) 0 [some (rV (some x0)), some (rV x1), some (rV x2), none, none] [] s0 := by
  unfold f_J10_init_2 at h
  refine AW.aload_n dJ10_init_2_0 rfl ?_
  refine AW.objI dJ10_init_2_1 q868 rfl rfl h (fun _ h => ?_)
  refine AW.aload_n dJ10_init_2_4 rfl ?_
  refine AW.UR (M' := m_J13_getValue) (x := yJ13_getValue) (t := 19) [] [] dJ10_init_2_5 q869 q871 (Or.inl q872) q870 q145 q873 (Or.inr (Or.inl rfl)) ck19 n_J13_getValue rfl rfl rfl (fun _ _ _ e => c_J13_getValue e) h (fun v1 s2 h => ?_)
  refine AW.astore_n (L' := [some (rV (some x0)), some (rV x1), some (rV x2), some (rV v1), none]) dJ10_init_2_8 (Nat.le_of_ble_eq_true rfl) rfl rfl ?_
  refine AW.aload_n dJ10_init_2_9 rfl ?_
  refine AW.UI (M' := m_J14_length) (x := yJ13_length) (t := 19) [] [] dJ10_init_2_10 q874 q876 (Or.inl q877) q878 q146 q879 (Or.inr (Or.inr ⟨_, _, _, q875, q881⟩)) ck19 n_J13_length rfl rfl rfl (fun _ _ _ e => c_J14_length e) h (fun v4 s5 h => ?_)
  refine AW.istore (L' := [some (rV (some x0)), some (rV x1), some (rV x2), some (rV v1), some (iV v4)]) dJ10_init_2_13 (Nat.le_of_ble_eq_true rfl) rfl rfl ?_
  refine AW.aload_n dJ10_init_2_15 rfl ?_
  refine AW.UI (M' := m_J13_isLatin1) (x := yJ13_isLatin1) (t := 19) [] [] dJ10_init_2_16 q882 q825 (Or.inl q826) q824 q145 q827 (Or.inr (Or.inl rfl)) ck19 n_J13_isLatin1 rfl rfl rfl (fun _ _ _ e => c_J13_isLatin1 e) h (fun v7 s8 h => ?_)
  refine AW.if_eq 41 dJ10_init_2_19 (by decide) h (fun c14 h => ?_) (fun c14 h => ?_)
  · cases h
  · refine AW.aload_n dJ10_init_2_22 rfl ?_
    refine AW.iconst dJ10_init_2_23 ?_
    refine AW.putB (t := 20) (k := 1) dJ10_init_2_24 ck20 mu20 (Nat.le_of_ble_eq_true rfl) rfl q903 (Or.inl rfl) (Or.inr ⟨rfl, rfl⟩) h (fun s10 h => ?_)
    refine AW.aload_n dJ10_init_2_27 rfl ?_
    refine AW.aload_n dJ10_init_2_28 rfl ?_
    refine AW.iconst dJ10_init_2_29 ?_
    refine AW.iload dJ10_init_2_30 rfl ?_
    refine AW.SR (M' := m_J16_copyOfRange) [rV v1, iV 0, iV v4] [rV (some x0)] dJ10_init_2_32 q883 q884 q148 q885 n_J16_copyOfRange rfl rfl rfl (fun _ _ e => c_J16_copyOfRange e) h (fun v11 s12 h => ?_)
    refine AW.putR (t := 20) (k := 0) dJ10_init_2_35 ck20 mu20 (Nat.le_of_ble_eq_true rfl) (Or.inr ⟨_, rfl⟩) q902 (Or.inl rfl) (Or.inr ⟨rfl, rfl⟩) h (fun s13 h => ?_)
    refine AW.goto (tgt := 97) dJ10_init_2_38 (by decide) ?_
    cases h
    exact AW.vret dJ10_init_2_97 rfl
theorem c_J10_init_2 {s0 : Hp} {x0 : Nat} {x1 : Option Nat} {x2 : Option Nat} {v : Unit} {s1 : Hp} (h : f_J10_init_2 s0 x0 x1 x2 = some (v, s1)) : Ct m_J10_init_2 [rV (some x0), rV x1, rV x2] s0 (.inl none, s1) :=
  Ct.of2 (w_J10_init_2 s0 x0 x1 x2 h) (show plainName yJ10_init_2.cls = true by decide) rfl rfl rfl
abbrev m_J10_init : Mi := (yJ10_init, cJ10_init, none, 2, 4, 150, [])
theorem n_J10_init : nameOk yJ10_init 1 := ⟨by decide, by decide, by decide +kernel⟩
def f_J10_init (s0 : Hp) (x0 : Nat) (x1 : Option Nat) : Option (Unit × Hp) :=
  (rcv s0 20 (some x0)).bind fun b2 => bn (f_J10_init_2 s0 b2 x1 none) fun _ s1 => some ((), s1)
theorem w_J10_init {σ0 : Hp} {w : Unit × Hp} (s0 : Hp) (x0 : Nat) (x1 : Option Nat) (h : f_J10_init s0 x0 x1 = some w) : AW m_J10_init σ0 (oU w) 0 [some (rV (some x0)), some (rV x1)] [] s0 := by
  unfold f_J10_init at h
  refine AW.aload_n dJ10_init_0 rfl ?_
  refine AW.aload_n dJ10_init_1 rfl ?_
  refine AW.null dJ10_init_2 ?_
  refine AW.IU (M' := m_J10_init_2) (t := 20) [rV x1, rV none] [] dJ10_init_3 q865 q866 q140 q867 rfl rfl n_J10_init_2 rfl rfl rfl (fun _ _ _ e => c_J10_init_2 e) h (fun _ s1 h => ?_)
  cases h
  exact AW.vret dJ10_init_6 rfl
theorem c_J10_init {s0 : Hp} {x0 : Nat} {x1 : Option Nat} {v : Unit} {s1 : Hp} (h : f_J10_init s0 x0 x1 = some (v, s1)) : Ct m_J10_init [rV (some x0), rV x1] s0 (.inl none, s1) :=
  Ct.of2 (w_J10_init s0 x0 x1 h) (show plainName yJ10_init.cls = true by decide) rfl rfl rfl
abbrev m_J14_toString : Mi := (yJ14_toString, cJ14_toString, (some (FieldType.object "java/lang/String")), 1, 5, 171, [])
theorem n_J14_toString : nameOk yJ14_toString 0 := ⟨by decide, by decide, by decide +kernel⟩
def f_J14_toString (s0 : Hp) (x0 : Nat) : Option ((Option Nat) × Hp) :=
  nw s0 20 4 fun v1 s2 => (rcv s2 20 v1).bind fun b4 => bn (f_J10_init s2 b4 (some x0)) fun _ s3 => some (v1, s3)
theorem w_J14_toString {σ0 : Hp} {w : (Option Nat) × Hp} (s0 : Hp) (x0 : Nat) (h : f_J14_toString s0 x0 = some w) : AW m_J14_toString σ0 (oR w) 0 [some (rV (some x0))] [] s0 := by
  unfold f_J14_toString at h
  refine AW.new (t := 20) (n := 4) dJ14_toString_0 ck20 mu20 nf20 q860 q861 q140 h (fun v1 s2 h => ?_)
  refine AW.dupR dJ14_toString_3 ?_
  refine AW.aload_n dJ14_toString_4 rfl ?_
  refine AW.IU (M' := m_J10_init) (t := 20) [rV (some x0)] [rV v1] dJ14_toString_5 q862 q863 q140 q864 rfl rfl n_J10_init rfl rfl rfl (fun _ _ _ e => c_J10_init e) h (fun _ s3 h => ?_)
  cases h
  exact AW.aret dJ14_toString_8 rfl (Or.inl ⟨_, rfl⟩)
theorem c_J14_toString {s0 : Hp} {x0 : Nat} {v : Option Nat} {s1 : Hp} (h : f_J14_toString s0 x0 = some (v, s1)) : Ct m_J14_toString [rV (some x0)] s0 (.inl (some (rV v)), s1) :=
  Ct.of2 (w_J14_toString s0 x0 h) (show plainName yJ14_toString.cls = true by decide) rfl rfl rfl
abbrev m_X2_text : Mi := (yX2_text, cX2_text, (some (FieldType.object "java/lang/String")), 4, 6, 191, [])
theorem n_X2_text : nameOk yX2_text 1 := ⟨by decide, by decide, by decide +kernel⟩
def f_X2_text_L15 (x0 : Nat) : Nat → Hp → Int → Option Nat → Int → (Hp → Option Nat → Option ((Option Nat) × Hp)) → Option ((Option Nat) × Hp)
  | 0, _, _, _, _, _ => none
  | n + 1, s0, x1, x2, x3, k => (gR s0 2 (some x0) 5).bind fun v7 => (aI s0 103 v7 x1).bind fun v8 => (if nrm v8 ≤ nrm x3 then (k s0 x2) else ((gR s0 2 (some x0) 1).bind fun v9 => (aI s0 101 v9 x3).bind fun v10 => (rcv s0 19 x2).bind fun b13 => bn (f_J14_append s0 b13 (chI v10)) fun v11 s12 => f_X2_text_L15 x0 n s12 x1 x2 (x3 + 1) k))
theorem w_X2_text_L15 {σ0 : Hp} {w : (Option Nat) × Hp} {x0 : Nat} : ∀ (n : Nat) (s0 : Hp) (x1 : Int) (x2 : Option Nat) (x3 : Int) (k : (Hp → Option Nat → Option ((Option Nat) × Hp))), f_X2_text_L15 x0 n s0 x1 x2 x3 k = some w → (∀ (s1 : Hp) (x2 : Option Nat), k s1 x2 = some w → AW m_X2_text σ0 (oR w) 43 [none, none, some (rV x2), none] [] s1) → AW m_X2_text σ0 (oR w) 15 [some (rV (some x0)), some (iV x1), some (rV x2), some (iV x3)] [] s0 := by
  intro n
  induction n with
  | zero =>
    intro s0 x1 x2 x3 k h hk
    rw [f_X2_text_L15] at h
    cases h
  | succ n ih =>
    intro s0 x1 x2 x3 k h hk
    rw [f_X2_text_L15] at h
    refine AW.iload_n dX2_text_15 rfl ?_
    refine AW.aload_n dX2_text_16 rfl ?_
    refine AW.getR (t := 2) (k := 5) dX2_text_17 ck2 (Nat.le_of_ble_eq_true rfl) (fun _ => rfl) q273 (Or.inl rfl) h (fun v7 h => ?_)
    refine AW.iload_n dX2_text_20 rfl ?_
    refine AW.sald (t := 103) dX2_text_21 (Nat.le_of_ble_eq_true rfl) rfl h (fun v8 h => ?_)
    refine AW.icmp_ge 43 dX2_text_22 (by decide) h (fun c14 h => ?_) (fun c14 h => ?_)
    · exact AW.fewer (L' := [none, none, some (rV x2), none]) (And.intro rfl trivial) (hk _ _ h)
    · refine AW.aload_n dX2_text_25 rfl ?_
      refine AW.aload_n dX2_text_26 rfl ?_
      refine AW.getR (t := 2) (k := 1) dX2_text_27 ck2 (Nat.le_of_ble_eq_true rfl) (fun _ => rfl) q265 (Or.inl rfl) h (fun v9 h => ?_)
      refine AW.iload_n dX2_text_30 rfl ?_
      refine AW.bald (t := 101) dX2_text_31 (Nat.le_of_ble_eq_true rfl) rfl h (fun v10 h => ?_)
      refine AW.i2c dX2_text_32 ?_
      refine AW.VR (M' := m_J14_append) (t := 19) [iV (chI v10)] [] dX2_text_33 q785 q786 q787 q146 q788 ck19 rfl n_J14_append rfl rfl rfl (fun _ _ _ e => c_J14_append e) h (fun v11 s12 h => ?_)
      refine AW.popR dX2_text_36 ?_
      refine AW.iinc (L' := [some (rV (some x0)), some (iV x1), some (rV x2), some (iV (x3 + 1))]) dX2_text_37 rfl (Nat.le_of_ble_eq_true rfl) rfl rfl ?_
      refine AW.goto (tgt := 15) dX2_text_40 (by decide) ?_
      exact ih _ _ _ _ _ h hk
def f_X2_text (s0 : Hp) (x0 : Nat) (x1 : Int) : Option ((Option Nat) × Hp) :=
  nw s0 19 4 fun v1 s2 => (rcv s2 19 v1).bind fun b4 => bn (f_J14_init s2 b4) fun _ s3 => (gR s3 2 (some x0) 4).bind fun v5 => (aI s3 103 v5 x1).bind fun v6 => f_X2_text_L15 x0 FU s3 x1 v1 v6 (fun s15 x2 => (rcv s15 19 x2).bind fun b18 => bn (f_J14_toString s15 b18) fun v16 s17 => some (v16, s17))
theorem w_X2_text {σ0 : Hp} {w : (Option Nat) × Hp} (s0 : Hp) (x0 : Nat) (x1 : Int) (h : f_X2_text s0 x0 x1 = some w) : AW m_X2_text σ0 (oR w) 0 [some (rV (some x0)), some (iV x1), none, none] [] s0 := by
  unfold f_X2_text at h
  refine AW.new (t := 19) (n := 4) dX2_text_0 ck19 mu19 nf19 q755 q756 q146 h (fun v1 s2 h => ?_)
  refine AW.dupR dX2_text_3 ?_
  refine AW.IU (M' := m_J14_init) (t := 19) [] [rV v1] dX2_text_4 q757 q758 q146 q759 rfl rfl n_J14_init rfl rfl rfl (fun _ _ _ e => c_J14_init e) h (fun _ s3 h => ?_)
  refine AW.astore_n (L' := [some (rV (some x0)), some (iV x1), some (rV v1), none]) dX2_text_7 (Nat.le_of_ble_eq_true rfl) rfl rfl ?_
  refine AW.aload_n dX2_text_8 rfl ?_
  refine AW.getR (t := 2) (k := 4) dX2_text_9 ck2 (Nat.le_of_ble_eq_true rfl) (fun _ => rfl) q271 (Or.inl rfl) h (fun v5 h => ?_)
  refine AW.iload_n dX2_text_12 rfl ?_
  refine AW.sald (t := 103) dX2_text_13 (Nat.le_of_ble_eq_true rfl) rfl h (fun v6 h => ?_)
  refine AW.istore_n (L' := [some (rV (some x0)), some (iV x1), some (rV v1), some (iV v6)]) dX2_text_14 (Nat.le_of_ble_eq_true rfl) rfl rfl ?_
  refine w_X2_text_L15 _ _ _ _ _ _ h (fun s15 x2 h => ?_)
  refine AW.aload_n dX2_text_43 rfl ?_
  refine AW.VR (M' := m_J14_toString) (t := 19) [] [] dX2_text_44 q856 q857 q858 q146 q859 ck19 rfl n_J14_toString rfl rfl rfl (fun _ _ _ e => c_J14_toString e) h (fun v16 s17 h => ?_)
  cases h
  exact AW.aret dX2_text_47 rfl (Or.inl ⟨_, rfl⟩)
theorem c_X2_text {s0 : Hp} {x0 : Nat} {x1 : Int} {v : Option Nat} {s1 : Hp} (h : f_X2_text s0 x0 x1 = some (v, s1)) : Ct m_X2_text [rV (some x0), iV x1] s0 (.inl (some (rV v)), s1) :=
  Ct.of2 (w_X2_text s0 x0 x1 h) (show plainName yX2_text.cls = true by decide) rfl rfl rfl
abbrev m_X3_known : Mi := (yX3_known, cX3_known, (some .int), 4, 7, 214, [])
theorem n_X3_known : nameOk yX3_known 1 := ⟨by decide, by decide, by decide +kernel⟩
def f_X3_known (s0 : Hp) (x0 : Nat) (x1 : Option Nat) : Option ((Int ⊕ Nat) × Hp) :=
  (rcv s0 3 (some x0)).bind fun b3 => bx (f_X3_take s0 b3 0) fun v1 s2 => (gR s2 3 (some x0) 0).bind fun v4 => (rcv s2 2 v4).bind fun b7 => bn (f_X2_text s2 b7 v1) fun v5 s6 => bn (f_X4_at s6 x1 v5) fun v8 s9 => (if 0 ≤ nrm v8 then (some (.inl v8, s9)) else ((rcv s9 3 (some x0)).bind fun b11 => bn (f_X3_tell s9 b11 4 v1) fun _ s10 => some (.inl v8, s10)))
theorem w_X3_known {σ0 : Hp} {w : (Int ⊕ Nat) × Hp} (s0 : Hp) (x0 : Nat) (x1 : Option Nat) (h : f_X3_known s0 x0 x1 = some w) : AW m_X3_known σ0 (xo vI w) 0 [some (rV (some x0)), some (rV x1), none, none] [] s0 := by
  unfold f_X3_known at h
  refine AW.aload_n dX3_known_0 rfl ?_
  refine AW.iconst dX3_known_1 ?_
  refine AW.xVI (M' := m_X3_take) (t := 3) [iV 0] [] dX3_known_2 q747 q749 qs15 q127 q750 ck3 rfl n_X3_take rfl rfl rfl rfl (fun _ _ e => c_X3_take e) h (fun v1 s2 h => ?_)
  refine AW.istore_n (L' := [some (rV (some x0)), some (rV x1), some (iV v1), none]) dX3_known_5 (Nat.le_of_ble_eq_true rfl) rfl rfl ?_
  refine AW.aload_n dX3_known_6 rfl ?_
  refine AW.aload_n dX3_known_7 rfl ?_
  refine AW.getR (t := 3) (k := 0) dX3_known_8 ck3 (Nat.le_of_ble_eq_true rfl) (fun _ => rfl) q301 (Or.inl rfl) h (fun v4 h => ?_)
  refine AW.iload_n dX3_known_11 rfl ?_
  refine AW.VR (M' := m_X2_text) (t := 2) [iV v1] [rV x1] dX3_known_12 q751 q752 q753 q126 q754 ck2 rfl n_X2_text rfl rfl rfl (fun _ _ _ e => c_X2_text e) h (fun v5 s6 h => ?_)
  refine AW.SI (M' := m_X4_at) [rV x1, rV v5] [] dX3_known_15 q1016 q918 q128 q919 n_X4_at rfl rfl rfl (fun _ _ e => c_X4_at e) h (fun v8 s9 h => ?_)
  refine AW.istore_n (L' := [some (rV (some x0)), some (rV x1), some (iV v1), some (iV v8)]) dX3_known_18 (Nat.le_of_ble_eq_true rfl) rfl rfl ?_
  refine AW.iload_n dX3_known_19 rfl ?_
  refine AW.if_ge 29 dX3_known_20 (by decide) h (fun c12 h => ?_) (fun c12 h => ?_)
  · refine AW.iload_n dX3_known_29 rfl ?_
    cases h
    exact AW.iret dX3_known_30 rfl
  · refine AW.aload_n dX3_known_23 rfl ?_
    refine AW.iconst dX3_known_24 ?_
    refine AW.iload_n dX3_known_25 rfl ?_
    refine AW.VU (M' := m_X3_tell) (t := 3) [iV 4, iV v1] [] dX3_known_26 q931 q933 qs16 q127 q934 ck3 rfl n_X3_tell rfl rfl rfl (fun _ _ _ e => c_X3_tell e) h (fun _ s10 h => ?_)
    refine AW.iload_n dX3_known_29 rfl ?_
    cases h
    exact AW.iret dX3_known_30 rfl
theorem c_X3_known {s0 : Hp} {x0 : Nat} {x1 : Option Nat} {w1 : (Int ⊕ Nat) × Hp} (h : f_X3_known s0 x0 x1 = some w1) : Ct m_X3_known [rV (some x0), rV x1] s0 (xo vI w1) :=
  Ct.of2 (w_X3_known s0 x0 x1 h) (show plainName yX3_known.cls = true by decide) rfl rfl rfl
abbrev m_X10_leads : Mi := (yX10_leads, cX10_leads, none, 2, 0, 0, [])
theorem n_X10_leads : nameOk yX10_leads 1 := ⟨by decide, by decide, by decide +kernel⟩
def f_X10_leads (s0 : Hp) (x0 : Nat) (x1 : Int) : Option (Unit × Hp) :=
  (gR s0 10 (some x0) 1).bind fun v1 => (gI s0 10 (some x0) 2).bind fun v2 => (sI s0 100 v1 v2 (nrm x1)).bind fun s3 => (gI s3 10 (some x0) 2).bind fun v4 => (pI s3 10 (some x0) 2 (nrm (v4 + 1))).bind fun s5 => some ((), s5)
theorem w_X10_leads {σ0 : Hp} {w : Unit × Hp} (s0 : Hp) (x0 : Nat) (x1 : Int) (h : f_X10_leads s0 x0 x1 = some w) : AW m_X10_leads σ0 (oU w) 0 [some (rV (some x0)), some (iV x1)] [] s0 := by
  unfold f_X10_leads at h
  refine AW.aload_n dX10_leads_0 rfl ?_
  refine AW.getR (t := 10) (k := 1) dX10_leads_1 ck10 (Nat.le_of_ble_eq_true rfl) (fun _ => rfl) q942 (Or.inl rfl) h (fun v1 h => ?_)
  refine AW.aload_n dX10_leads_4 rfl ?_
  refine AW.getI (t := 10) (k := 2) dX10_leads_5 ck10 (Nat.le_of_ble_eq_true rfl) (fun _ => rfl) q945 (Or.inl rfl) h (fun v2 h => ?_)
  refine AW.iload_n dX10_leads_8 rfl ?_
  refine AW.nv ?_
  refine AW.iast (t := 100) dX10_leads_9 (Nat.le_of_ble_eq_true rfl) mu100 rfl h (fun s3 h => ?_)
  refine AW.aload_n dX10_leads_10 rfl ?_
  refine AW.dupR dX10_leads_11 ?_
  refine AW.getI (t := 10) (k := 2) dX10_leads_12 ck10 (Nat.le_of_ble_eq_true rfl) (fun _ => rfl) q945 (Or.inl rfl) h (fun v4 h => ?_)
  refine AW.iconst dX10_leads_15 ?_
  refine AW.iadd dX10_leads_16 ?_
  refine AW.nv ?_
  refine AW.putI (t := 10) (k := 2) dX10_leads_17 ck10 mu10 (Nat.le_of_ble_eq_true rfl) rfl q945 (Or.inl rfl) (Or.inl rfl) h (fun s5 h => ?_)
  cases h
  exact AW.vret dX10_leads_20 rfl
theorem c_X10_leads {s0 : Hp} {x0 : Nat} {x1 : Int} {v : Unit} {s1 : Hp} (h : f_X10_leads s0 x0 x1 = some (v, s1)) : Ct m_X10_leads [rV (some x0), iV x1] s0 (.inl none, s1) :=
  Ct.of2 (w_X10_leads s0 x0 x1 h) (show plainName yX10_leads.cls = true by decide) rfl rfl rfl
abbrev m_X3_doorTold : Mi := (yX3_doorTold, cX3_doorTold, none, 4, 8, 237, [])
theorem n_X3_doorTold : nameOk yX3_doorTold 0 := ⟨by decide, by decide, by decide +kernel⟩
def f_X3_doorTold (s0 : Hp) (x0 : Nat) : Option ((Unit ⊕ Nat) × Hp) :=
  (gR s0 3 (some x0) 2).bind fun v1 => (gI s0 4 v1 3).bind fun v2 => (rcv s0 3 (some x0)).bind fun b4 => bx (f_X3_begins s0 b4 v2 12) fun _ s3 => (gR s3 3 (some x0) 2).bind fun v5 => (gR s3 4 v5 0).bind fun v6 => (rcv s3 3 (some x0)).bind fun b9 => bx (f_X3_known s3 b9 v6) fun v7 s8 => (gI s8 3 (some x0) 3).bind fun v10 => (gR s8 3 (some x0) 2).bind fun v11 => (gR s8 4 v11 0).bind fun v12 => (rcv s8 3 (some x0)).bind fun b15 => bx (f_X3_known s8 b15 v12) fun v13 s14 => jn (fun (s16 : Hp) (x1 : Int) (x3 : Int) => jn (fun (s17 : Hp) => (gR s17 3 (some x0) 2).bind fun v18 => (gI s17 4 v18 3).bind fun v19 => (pI s17 4 v18 3 (nrm (v19 + 1))).bind fun s20 => some (.inl (), s20)) fun j101 => (if nrm x1 < 0 then (j101 s16) else ((if nrm x3 < 0 then (j101 s16) else ((gR s16 3 (some x0) 2).bind fun v21 => (gR s16 4 v21 0).bind fun v22 => (rcv s16 18 v22).bind fun b25 => bn (f_J5_get s16 b25 x1) fun v23 s24 => (kst s24 [10] v23).bind fun v26 => (rcv s24 10 v26).bind fun b28 => bn (f_X10_leads s24 b28 x3) fun _ s27 => (gR s27 3 (some x0) 2).bind fun v29 => (gR s27 4 v29 0).bind fun v30 => (rcv s27 18 v30).bind fun b33 => bn (f_J5_get s27 b33 x3) fun v31 s32 => (kst s32 [10] v31).bind fun v34 => (rcv s32 10 v34).bind fun b36 => bn (f_X10_leads s32 b36 x1) fun _ s35 => j101 s35))))) fun j57 => (if nrm v7 < 0 then (j57 s14 v7 v13) else ((if ¬ nrm v7 = nrm v13 then (j57 s14 v7 v13) else ((rcv s14 3 (some x0)).bind fun b40 => bn (f_X3_tell s14 b40 3 v10) fun _ s39 => j57 s39 v7 v13))))
theorem w_X3_doorTold {σ0 : Hp} {w : (Unit ⊕ Nat) × Hp} (s0 : Hp) (x0 : Nat) (h : f_X3_doorTold s0 x0 = some w) : AW m_X3_doorTold σ0 (xo vU w) 0 [some (rV (some x0)), none, none, none] [] s0 := by
  unfold f_X3_doorTold at h
  refine AW.aload_n dX3_doorTold_0 rfl ?_
  refine AW.aload_n dX3_doorTold_1 rfl ?_
  refine AW.getR (t := 3) (k := 2) dX3_doorTold_2 ck3 (Nat.le_of_ble_eq_true rfl) (fun _ => rfl) q303 (Or.inl rfl) h (fun v1 h => ?_)
  refine AW.getI (t := 4) (k := 3) dX3_doorTold_5 ck4 (Nat.le_of_ble_eq_true rfl) (fun _ => rfl) q367 (Or.inl rfl) h (fun v2 h => ?_)
  refine AW.bipush dX3_doorTold_8 (by decide) ?_
  refine AW.xVU (M' := m_X3_begins) (t := 3) [iV v2, iV 12] [] dX3_doorTold_10 q733 q735 qs12 q127 q736 ck3 rfl n_X3_begins rfl rfl rfl rfl (fun _ _ e => c_X3_begins e) h (fun _ s3 h => ?_)
  refine AW.aload_n dX3_doorTold_13 rfl ?_
  refine AW.aload_n dX3_doorTold_14 rfl ?_
  refine AW.getR (t := 3) (k := 2) dX3_doorTold_15 ck3 (Nat.le_of_ble_eq_true rfl) (fun _ => rfl) q303 (Or.inl rfl) h (fun v5 h => ?_)
  refine AW.getR (t := 4) (k := 0) dX3_doorTold_18 ck4 (Nat.le_of_ble_eq_true rfl) (fun _ => rfl) q358 (Or.inl rfl) h (fun v6 h => ?_)
  refine AW.xVI (M' := m_X3_known) (t := 3) [rV v6] [] dX3_doorTold_21 q1012 q1014 qs21 q127 q1015 ck3 rfl n_X3_known rfl rfl rfl rfl (fun _ _ e => c_X3_known e) h (fun v7 s8 h => ?_)
  refine AW.istore_n (L' := [some (rV (some x0)), some (iV v7), none, none]) dX3_doorTold_24 (Nat.le_of_ble_eq_true rfl) rfl rfl ?_
  refine AW.aload_n dX3_doorTold_25 rfl ?_
  refine AW.getI (t := 3) (k := 3) dX3_doorTold_26 ck3 (Nat.le_of_ble_eq_true rfl) (fun _ => rfl) q304 (Or.inl rfl) h (fun v10 h => ?_)
  refine AW.istore_n (L' := [some (rV (some x0)), some (iV v7), some (iV v10), none]) dX3_doorTold_29 (Nat.le_of_ble_eq_true rfl) rfl rfl ?_
  refine AW.aload_n dX3_doorTold_30 rfl ?_
  refine AW.aload_n dX3_doorTold_31 rfl ?_
  refine AW.getR (t := 3) (k := 2) dX3_doorTold_32 ck3 (Nat.le_of_ble_eq_true rfl) (fun _ => rfl) q303 (Or.inl rfl) h (fun v11 h => ?_)
  refine AW.getR (t := 4) (k := 0) dX3_doorTold_35 ck4 (Nat.le_of_ble_eq_true rfl) (fun _ => rfl) q358 (Or.inl rfl) h (fun v12 h => ?_)
  refine AW.xVI (M' := m_X3_known) (t := 3) [rV v12] [] dX3_doorTold_38 q1012 q1014 qs21 q127 q1015 ck3 rfl n_X3_known rfl rfl rfl rfl (fun _ _ e => c_X3_known e) h (fun v13 s14 h => ?_)
  refine AW.istore_n (L' := [some (rV (some x0)), some (iV v7), some (iV v10), some (iV v13)]) dX3_doorTold_41 (Nat.le_of_ble_eq_true rfl) rfl rfl ?_
  refine AW.iload_n dX3_doorTold_42 rfl ?_
  refine jn_elim h (fun (j : (Hp → Int → Int → Option ((Unit ⊕ Nat) × Hp))) => ∀ (s16 : Hp) (x1 : Int) (x3 : Int), j s16 x1 x3 = some w → AW m_X3_doorTold σ0 (xo vU w) 57 [some (rV (some x0)), some (iV x1), none, some (iV x3)] [] s16) ?_ (fun j57 hj57 h => ?_)
  · intro s16 x1 x3 h
    refine AW.iload_n dX3_doorTold_57 rfl ?_
    refine jn_elim h (fun (j : (Hp → Option ((Unit ⊕ Nat) × Hp))) => ∀ (s17 : Hp), j s17 = some w → AW m_X3_doorTold σ0 (xo vU w) 101 [some (rV (some x0)), none, none, none] [] s17) ?_ (fun j101 hj101 h => ?_)
    · intro s17 h
      refine AW.aload_n dX3_doorTold_101 rfl ?_
      refine AW.getR (t := 3) (k := 2) dX3_doorTold_102 ck3 (Nat.le_of_ble_eq_true rfl) (fun _ => rfl) q303 (Or.inl rfl) h (fun v18 h => ?_)
      refine AW.dupR dX3_doorTold_105 ?_
      refine AW.getI (t := 4) (k := 3) dX3_doorTold_106 ck4 (Nat.le_of_ble_eq_true rfl) (fun _ => rfl) q367 (Or.inl rfl) h (fun v19 h => ?_)
      refine AW.iconst dX3_doorTold_109 ?_
      refine AW.iadd dX3_doorTold_110 ?_
      refine AW.nv ?_
      refine AW.putI (t := 4) (k := 3) dX3_doorTold_111 ck4 mu4 (Nat.le_of_ble_eq_true rfl) rfl q367 (Or.inl rfl) (Or.inl rfl) h (fun s20 h => ?_)
      cases h
      exact AW.vret dX3_doorTold_114 rfl
    · refine AW.if_lt 101 dX3_doorTold_58 (by decide) h (fun c38 h => ?_) (fun c38 h => ?_)
      · exact AW.fewer (L' := [some (rV (some x0)), none, none, none]) (And.intro rfl trivial) (hj101 _ h)
      · refine AW.iload_n dX3_doorTold_61 rfl ?_
        refine AW.if_lt 101 dX3_doorTold_62 (by decide) h (fun c37 h => ?_) (fun c37 h => ?_)
        · exact AW.fewer (L' := [some (rV (some x0)), none, none, none]) (And.intro rfl trivial) (hj101 _ h)
        · refine AW.aload_n dX3_doorTold_65 rfl ?_
          refine AW.getR (t := 3) (k := 2) dX3_doorTold_66 ck3 (Nat.le_of_ble_eq_true rfl) (fun _ => rfl) q303 (Or.inl rfl) h (fun v21 h => ?_)
          refine AW.getR (t := 4) (k := 0) dX3_doorTold_69 ck4 (Nat.le_of_ble_eq_true rfl) (fun _ => rfl) q358 (Or.inl rfl) h (fun v22 h => ?_)
          refine AW.iload_n dX3_doorTold_72 rfl ?_
          refine AW.VR (M' := m_J5_get) (t := 18) [iV x1] [] dX3_doorTold_73 q1017 q489 q490 q131 q491 ck18 rfl n_J5_get rfl rfl rfl (fun _ _ _ e => c_J5_get e) h (fun v23 s24 h => ?_)
          refine AW.cast (ts := [10]) dX3_doorTold_76 q741 ca10 h (fun v26 h => ?_)
          refine AW.iload_n dX3_doorTold_79 rfl ?_
          refine AW.VU (M' := m_X10_leads) (t := 10) [iV x3] [] dX3_doorTold_80 q1018 q1019 q1020 q144 q1021 ck10 rfl n_X10_leads rfl rfl rfl (fun _ _ _ e => c_X10_leads e) h (fun _ s27 h => ?_)
          refine AW.aload_n dX3_doorTold_83 rfl ?_
          refine AW.getR (t := 3) (k := 2) dX3_doorTold_84 ck3 (Nat.le_of_ble_eq_true rfl) (fun _ => rfl) q303 (Or.inl rfl) h (fun v29 h => ?_)
          refine AW.getR (t := 4) (k := 0) dX3_doorTold_87 ck4 (Nat.le_of_ble_eq_true rfl) (fun _ => rfl) q358 (Or.inl rfl) h (fun v30 h => ?_)
          refine AW.iload_n dX3_doorTold_90 rfl ?_
          refine AW.VR (M' := m_J5_get) (t := 18) [iV x3] [] dX3_doorTold_91 q1017 q489 q490 q131 q491 ck18 rfl n_J5_get rfl rfl rfl (fun _ _ _ e => c_J5_get e) h (fun v31 s32 h => ?_)
          refine AW.cast (ts := [10]) dX3_doorTold_94 q741 ca10 h (fun v34 h => ?_)
          refine AW.iload_n dX3_doorTold_97 rfl ?_
          refine AW.VU (M' := m_X10_leads) (t := 10) [iV x1] [] dX3_doorTold_98 q1018 q1019 q1020 q144 q1021 ck10 rfl n_X10_leads rfl rfl rfl (fun _ _ _ e => c_X10_leads e) h (fun _ s35 h => ?_)
          exact AW.fewer (L' := [some (rV (some x0)), none, none, none]) (And.intro rfl trivial) (hj101 _ h)
  · refine AW.if_lt 57 dX3_doorTold_43 (by decide) h (fun c42 h => ?_) (fun c42 h => ?_)
    · exact AW.fewer (L' := [some (rV (some x0)), some (iV v7), none, some (iV v13)]) (And.intro rfl (And.intro rfl (And.intro rfl trivial))) (hj57 _ _ _ h)
    · refine AW.iload_n dX3_doorTold_46 rfl ?_
      refine AW.iload_n dX3_doorTold_47 rfl ?_
      refine AW.icmp_ne 57 dX3_doorTold_48 (by decide) h (fun c41 h => ?_) (fun c41 h => ?_)
      · exact AW.fewer (L' := [some (rV (some x0)), some (iV v7), none, some (iV v13)]) (And.intro rfl (And.intro rfl (And.intro rfl trivial))) (hj57 _ _ _ h)
      · refine AW.aload_n dX3_doorTold_51 rfl ?_
        refine AW.iconst dX3_doorTold_52 ?_
        refine AW.iload_n dX3_doorTold_53 rfl ?_
        refine AW.VU (M' := m_X3_tell) (t := 3) [iV 3, iV v10] [] dX3_doorTold_54 q931 q933 qs16 q127 q934 ck3 rfl n_X3_tell rfl rfl rfl (fun _ _ _ e => c_X3_tell e) h (fun _ s39 h => ?_)
        exact AW.fewer (L' := [some (rV (some x0)), some (iV v7), none, some (iV v13)]) (And.intro rfl (And.intro rfl (And.intro rfl trivial))) (hj57 _ _ _ h)
theorem c_X3_doorTold {s0 : Hp} {x0 : Nat} {w1 : (Unit ⊕ Nat) × Hp} (h : f_X3_doorTold s0 x0 = some w1) : Ct m_X3_doorTold [rV (some x0)] s0 (xo vU w1) :=
  Ct.of2 (w_X3_doorTold s0 x0 h) (show plainName yX3_doorTold.cls = true by decide) rfl rfl rfl
abbrev m_X12_init : Mi := (yX12_init, cX12_init, none, 1, 1, 20, [])
theorem n_X12_init : nameOk yX12_init 0 := ⟨by decide, by decide, by decide +kernel⟩
def f_X12_init (s0 : Hp) (x0 : Nat) : Option (Unit × Hp) :=
  (some x0).bind fun _ => nwA s0 111 4 fun v1 s2 => (pR s2 12 (some x0) 0 v1).bind fun s3 => nwA s3 111 4 fun v4 s5 => (pR s5 12 (some x0) 1 v4).bind fun s6 => nwA s6 111 5 fun v7 s8 => (pR s8 12 (some x0) 2 v7).bind fun s9 => some ((), s9)
theorem w_X12_init {σ0 : Hp} {w : Unit × Hp} (s0 : Hp) (x0 : Nat) (h : f_X12_init s0 x0 = some w) : AW m_X12_init σ0 (oU w) 0 [some (rV (some x0))] [] s0 := by
  unfold f_X12_init at h
  refine AW.aload_n dX12_init_0 rfl ?_
  refine AW.objI dX12_init_1 q1059 rfl rfl h (fun _ h => ?_)
  refine AW.aload_n dX12_init_4 rfl ?_
  refine AW.iconst dX12_init_5 ?_
  refine AW.anewa (t := 111) dX12_init_6 (Nat.le_of_ble_eq_true rfl) mu111 rfl q1060 (by decide) h (fun v1 s2 h => ?_)
  refine AW.putR (t := 12) (k := 0) dX12_init_9 ck12 mu12 (Nat.le_of_ble_eq_true rfl) (Or.inr ⟨_, rfl⟩) q1062 (Or.inl rfl) (Or.inr ⟨rfl, rfl⟩) h (fun s3 h => ?_)
  refine AW.aload_n dX12_init_12 rfl ?_
  refine AW.iconst dX12_init_13 ?_
  refine AW.anewa (t := 111) dX12_init_14 (Nat.le_of_ble_eq_true rfl) mu111 rfl q1060 (by decide) h (fun v4 s5 h => ?_)
  refine AW.putR (t := 12) (k := 1) dX12_init_17 ck12 mu12 (Nat.le_of_ble_eq_true rfl) (Or.inr ⟨_, rfl⟩) q1064 (Or.inl rfl) (Or.inr ⟨rfl, rfl⟩) h (fun s6 h => ?_)
  refine AW.aload_n dX12_init_20 rfl ?_
  refine AW.iconst dX12_init_21 ?_
  refine AW.anewa (t := 111) dX12_init_22 (Nat.le_of_ble_eq_true rfl) mu111 rfl q1060 (by decide) h (fun v7 s8 h => ?_)
  refine AW.putR (t := 12) (k := 2) dX12_init_25 ck12 mu12 (Nat.le_of_ble_eq_true rfl) (Or.inr ⟨_, rfl⟩) q1066 (Or.inl rfl) (Or.inr ⟨rfl, rfl⟩) h (fun s9 h => ?_)
  cases h
  exact AW.vret dX12_init_28 rfl
theorem c_X12_init {s0 : Hp} {x0 : Nat} {v : Unit} {s1 : Hp} (h : f_X12_init s0 x0 = some (v, s1)) : Ct m_X12_init [rV (some x0)] s0 (.inl none, s1) :=
  Ct.of2 (w_X12_init s0 x0 h) (show plainName yX12_init.cls = true by decide) rfl rfl rfl
abbrev m_X3_isWord : Mi := (yX3_isWord, cX3_isWord, (some .boolean), 2, 0, 0, [])
theorem n_X3_isWord : nameOk yX3_isWord 1 := ⟨by decide, by decide, by decide +kernel⟩
def f_X3_isWord (s0 : Hp) (x0 : Nat) (x1 : Int) : Option (Int × Hp) :=
  (gR s0 3 (some x0) 0).bind fun v1 => (gR s0 2 v1 3).bind fun v2 => (gI s0 3 (some x0) 3).bind fun v3 => (aI s0 101 v2 v3).bind fun v4 => (if ¬ nrm v4 = nrm 3 then (some (0, s0)) else ((gR s0 3 (some x0) 0).bind fun v5 => (gR s0 2 v5 6).bind fun v6 => (gI s0 3 (some x0) 3).bind fun v7 => (aI s0 103 v6 v7).bind fun v8 => (if ¬ nrm v8 = nrm x1 then (some (0, s0)) else (some (1, s0)))))
theorem w_X3_isWord {σ0 : Hp} {w : Int × Hp} (s0 : Hp) (x0 : Nat) (x1 : Int) (h : f_X3_isWord s0 x0 x1 = some w) : AW m_X3_isWord σ0 (oI w) 0 [some (rV (some x0)), some (iV x1)] [] s0 := by
  unfold f_X3_isWord at h
  refine AW.aload_n dX3_isWord_0 rfl ?_
  refine AW.getR (t := 3) (k := 0) dX3_isWord_1 ck3 (Nat.le_of_ble_eq_true rfl) (fun _ => rfl) q301 (Or.inl rfl) h (fun v1 h => ?_)
  refine AW.getR (t := 2) (k := 3) dX3_isWord_4 ck2 (Nat.le_of_ble_eq_true rfl) (fun _ => rfl) q270 (Or.inl rfl) h (fun v2 h => ?_)
  refine AW.aload_n dX3_isWord_7 rfl ?_
  refine AW.getI (t := 3) (k := 3) dX3_isWord_8 ck3 (Nat.le_of_ble_eq_true rfl) (fun _ => rfl) q304 (Or.inl rfl) h (fun v3 h => ?_)
  refine AW.bald (t := 101) dX3_isWord_11 (Nat.le_of_ble_eq_true rfl) rfl h (fun v4 h => ?_)
  refine AW.iconst dX3_isWord_12 ?_
  refine AW.icmp_ne 36 dX3_isWord_13 (by decide) h (fun c10 h => ?_) (fun c10 h => ?_)
  · refine AW.iconst dX3_isWord_36 ?_
    cases h
    exact AW.zret (z := 0) dX3_isWord_37 rfl zz0
  · refine AW.aload_n dX3_isWord_16 rfl ?_
    refine AW.getR (t := 3) (k := 0) dX3_isWord_17 ck3 (Nat.le_of_ble_eq_true rfl) (fun _ => rfl) q301 (Or.inl rfl) h (fun v5 h => ?_)
    refine AW.getR (t := 2) (k := 6) dX3_isWord_20 ck2 (Nat.le_of_ble_eq_true rfl) (fun _ => rfl) q275 (Or.inl rfl) h (fun v6 h => ?_)
    refine AW.aload_n dX3_isWord_23 rfl ?_
    refine AW.getI (t := 3) (k := 3) dX3_isWord_24 ck3 (Nat.le_of_ble_eq_true rfl) (fun _ => rfl) q304 (Or.inl rfl) h (fun v7 h => ?_)
    refine AW.sald (t := 103) dX3_isWord_27 (Nat.le_of_ble_eq_true rfl) rfl h (fun v8 h => ?_)
    refine AW.iload_n dX3_isWord_28 rfl ?_
    refine AW.icmp_ne 36 dX3_isWord_29 (by decide) h (fun c9 h => ?_) (fun c9 h => ?_)
    · refine AW.iconst dX3_isWord_36 ?_
      cases h
      exact AW.zret (z := 0) dX3_isWord_37 rfl zz0
    · refine AW.iconst dX3_isWord_32 ?_
      refine AW.goto (tgt := 37) dX3_isWord_33 (by decide) ?_
      cases h
      exact AW.zret (z := 1) dX3_isWord_37 rfl zz1
theorem c_X3_isWord {s0 : Hp} {x0 : Nat} {x1 : Int} {v : Int} {s1 : Hp} (h : f_X3_isWord s0 x0 x1 = some (v, s1)) : Ct m_X3_isWord [rV (some x0), iV x1] s0 (.inl (some (iV v)), s1) :=
  Ct.of2 (w_X3_isWord s0 x0 x1 h) (show plainName yX3_isWord.cls = true by decide) rfl rfl rfl
abbrev m_X3_unit (d : Nat) : Mi := (yX3_unit, cX3_unit, (some (FieldType.object "LateMirrors$Sum")), 2, 3 * d + 20, 300 * d + 1000, [])
abbrev m_X3_part (d : Nat) : Mi := (yX3_part, cX3_part, (some (FieldType.object "LateMirrors$Sum")), 3, 3 * d + 21, 300 * d + 1100, [])
abbrev m_X3_sum (d : Nat) : Mi := (yX3_sum, cX3_sum, (some (FieldType.object "LateMirrors$Sum")), 3, 3 * d + 22, 300 * d + 1200, [])
theorem n_X3_sum : nameOk yX3_sum 0 := ⟨by decide, by decide, by decide +kernel⟩


abbrev m_X13_init : Mi := (yX13_init, cX13_init, none, 1, 1, 20, [])
theorem n_X13_init : nameOk yX13_init 0 := ⟨by decide, by decide, by decide +kernel⟩
def f_X13_init (s0 : Hp) (x0 : Nat) : Option (Unit × Hp) :=
  (some x0).bind fun _ => some ((), s0)
theorem w_X13_init {σ0 : Hp} {w : Unit × Hp} (s0 : Hp) (x0 : Nat) (h : f_X13_init s0 x0 = some w) : AW m_X13_init σ0 (oU w) 0 [some (rV (some x0))] [] s0 := by
  unfold f_X13_init at h
  refine AW.aload_n dX13_init_0 rfl ?_
  refine AW.objI dX13_init_1 q1111 rfl rfl h (fun _ h => ?_)
  cases h
  exact AW.vret dX13_init_4 rfl
theorem c_X13_init {s0 : Hp} {x0 : Nat} {v : Unit} {s1 : Hp} (h : f_X13_init s0 x0 = some (v, s1)) : Ct m_X13_init [rV (some x0)] s0 (.inl none, s1) :=
  Ct.of2 (w_X13_init s0 x0 h) (show plainName yX13_init.cls = true by decide) rfl rfl rfl
abbrev m_X14_init : Mi := (yX14_init, cX14_init, none, 2, 2, 40, [])
theorem n_X14_init : nameOk yX14_init 1 := ⟨by decide, by decide, by decide +kernel⟩
def f_X14_init (s0 : Hp) (x0 : Nat) (x1 : Int) : Option (Unit × Hp) :=
  (rcv s0 14 (some x0)).bind fun b2 => bn (f_X13_init s0 b2) fun _ s1 => (pI s1 14 (some x0) 0 (nrm x1)).bind fun s3 => some ((), s3)
theorem w_X14_init {σ0 : Hp} {w : Unit × Hp} (s0 : Hp) (x0 : Nat) (x1 : Int) (h : f_X14_init s0 x0 x1 = some w) : AW m_X14_init σ0 (oU w) 0 [some (rV (some x0)), some (iV x1)] [] s0 := by
  unfold f_X14_init at h
  refine AW.aload_n dX14_init_0 rfl ?_
  refine AW.NU (M' := m_X13_init) (t := 14) [] [] dX14_init_1 (by decide) q1109 q152 q1110 rfl rfl n_X13_init rfl rfl rfl (fun _ _ _ e => c_X13_init e) h (fun _ s1 h => ?_)
  refine AW.aload_n dX14_init_4 rfl ?_
  refine AW.iload_n dX14_init_5 rfl ?_
  refine AW.nv ?_
  refine AW.putI (t := 14) (k := 0) dX14_init_6 ck14 mu14 (Nat.le_of_ble_eq_true rfl) rfl q1112 (Or.inl rfl) (Or.inr ⟨rfl, rfl⟩) h (fun s3 h => ?_)
  cases h
  exact AW.vret dX14_init_9 rfl
theorem c_X14_init {s0 : Hp} {x0 : Nat} {x1 : Int} {v : Unit} {s1 : Hp} (h : f_X14_init s0 x0 x1 = some (v, s1)) : Ct m_X14_init [rV (some x0), iV x1] s0 (.inl none, s1) :=
  Ct.of2 (w_X14_init s0 x0 x1 h) (show plainName yX14_init.cls = true by decide) rfl rfl rfl
abbrev m_X2_number : Mi := (yX2_number, cX2_number, (some .int), 4, 0, 0, [])
theorem n_X2_number : nameOk yX2_number 1 := ⟨by decide, by decide, by decide +kernel⟩
def f_X2_number_L9 (x0 : Nat) : Nat → Hp → Int → Int → Int → (Hp → Int → Option (Int × Hp)) → Option (Int × Hp)
  | 0, _, _, _, _, _ => none
  | n + 1, s0, x1, x2, x3, k => (gR s0 2 (some x0) 5).bind fun v3 => (aI s0 103 v3 x1).bind fun v4 => (if nrm v4 ≤ nrm x3 then (k s0 x2) else ((gR s0 2 (some x0) 1).bind fun v5 => (aI s0 101 v5 x3).bind fun v6 => f_X2_number_L9 x0 n s0 x1 (((10 * x2) + v6) - 48) (x3 + 1) k))
theorem w_X2_number_L9 {σ0 : Hp} {w : Int × Hp} {x0 : Nat} : ∀ (n : Nat) (s0 : Hp) (x1 : Int) (x2 : Int) (x3 : Int) (k : (Hp → Int → Option (Int × Hp))), f_X2_number_L9 x0 n s0 x1 x2 x3 k = some w → (∀ (s1 : Hp) (x2 : Int), k s1 x2 = some w → AW m_X2_number σ0 (oI w) 40 [none, none, some (iV x2), none] [] s1) → AW m_X2_number σ0 (oI w) 9 [some (rV (some x0)), some (iV x1), some (iV x2), some (iV x3)] [] s0 := by
  intro n
  induction n with
  | zero =>
    intro s0 x1 x2 x3 k h hk
    rw [f_X2_number_L9] at h
    cases h
  | succ n ih =>
    intro s0 x1 x2 x3 k h hk
    rw [f_X2_number_L9] at h
    refine AW.iload_n dX2_number_9 rfl ?_
    refine AW.aload_n dX2_number_10 rfl ?_
    refine AW.getR (t := 2) (k := 5) dX2_number_11 ck2 (Nat.le_of_ble_eq_true rfl) (fun _ => rfl) q273 (Or.inl rfl) h (fun v3 h => ?_)
    refine AW.iload_n dX2_number_14 rfl ?_
    refine AW.sald (t := 103) dX2_number_15 (Nat.le_of_ble_eq_true rfl) rfl h (fun v4 h => ?_)
    refine AW.icmp_ge 40 dX2_number_16 (by decide) h (fun c7 h => ?_) (fun c7 h => ?_)
    · exact AW.fewer (L' := [none, none, some (iV x2), none]) (And.intro rfl trivial) (hk _ _ h)
    · refine AW.bipush dX2_number_19 (by decide) ?_
      refine AW.iload_n dX2_number_21 rfl ?_
      refine AW.imul dX2_number_22 ?_
      refine AW.aload_n dX2_number_23 rfl ?_
      refine AW.getR (t := 2) (k := 1) dX2_number_24 ck2 (Nat.le_of_ble_eq_true rfl) (fun _ => rfl) q265 (Or.inl rfl) h (fun v5 h => ?_)
      refine AW.iload_n dX2_number_27 rfl ?_
      refine AW.bald (t := 101) dX2_number_28 (Nat.le_of_ble_eq_true rfl) rfl h (fun v6 h => ?_)
      refine AW.iadd dX2_number_29 ?_
      refine AW.bipush dX2_number_30 (by decide) ?_
      refine AW.isub dX2_number_32 ?_
      refine AW.istore_n (L' := [some (rV (some x0)), some (iV x1), some (iV (((10 * x2) + v6) - 48)), some (iV x3)]) dX2_number_33 (Nat.le_of_ble_eq_true rfl) rfl rfl ?_
      refine AW.iinc (L' := [some (rV (some x0)), some (iV x1), some (iV (((10 * x2) + v6) - 48)), some (iV (x3 + 1))]) dX2_number_34 rfl (Nat.le_of_ble_eq_true rfl) rfl rfl ?_
      refine AW.goto (tgt := 9) dX2_number_37 (by decide) ?_
      exact ih _ _ _ _ _ h hk
def f_X2_number (s0 : Hp) (x0 : Nat) (x1 : Int) : Option (Int × Hp) :=
  (gR s0 2 (some x0) 4).bind fun v1 => (aI s0 103 v1 x1).bind fun v2 => f_X2_number_L9 x0 FU s0 x1 0 v2 (fun s8 x2 => some (nrm x2, s8))
theorem w_X2_number {σ0 : Hp} {w : Int × Hp} (s0 : Hp) (x0 : Nat) (x1 : Int) (h : f_X2_number s0 x0 x1 = some w) : AW m_X2_number σ0 (oI w) 0 [some (rV (some x0)), some (iV x1), none, none] [] s0 := by
  unfold f_X2_number at h
  refine AW.iconst dX2_number_0 ?_
  refine AW.istore_n (L' := [some (rV (some x0)), some (iV x1), some (iV 0), none]) dX2_number_1 (Nat.le_of_ble_eq_true rfl) rfl rfl ?_
  refine AW.aload_n dX2_number_2 rfl ?_
  refine AW.getR (t := 2) (k := 4) dX2_number_3 ck2 (Nat.le_of_ble_eq_true rfl) (fun _ => rfl) q271 (Or.inl rfl) h (fun v1 h => ?_)
  refine AW.iload_n dX2_number_6 rfl ?_
  refine AW.sald (t := 103) dX2_number_7 (Nat.le_of_ble_eq_true rfl) rfl h (fun v2 h => ?_)
  refine AW.istore_n (L' := [some (rV (some x0)), some (iV x1), some (iV 0), some (iV v2)]) dX2_number_8 (Nat.le_of_ble_eq_true rfl) rfl rfl ?_
  refine w_X2_number_L9 _ _ _ _ _ _ h (fun s8 x2 h => ?_)
  refine AW.iload_n dX2_number_40 rfl ?_
  refine AW.nv ?_
  cases h
  exact AW.iret dX2_number_41 rfl
theorem c_X2_number {s0 : Hp} {x0 : Nat} {x1 : Int} {v : Int} {s1 : Hp} (h : f_X2_number s0 x0 x1 = some (v, s1)) : Ct m_X2_number [rV (some x0), iV x1] s0 (.inl (some (iV v)), s1) :=
  Ct.of2 (w_X2_number s0 x0 x1 h) (show plainName yX2_number.cls = true by decide) rfl rfl rfl
abbrev m_X15_init : Mi := (yX15_init, cX15_init, none, 2, 2, 40, [])
theorem n_X15_init : nameOk yX15_init 1 := ⟨by decide, by decide, by decide +kernel⟩
def f_X15_init (s0 : Hp) (x0 : Nat) (x1 : Int) : Option (Unit × Hp) :=
  (rcv s0 15 (some x0)).bind fun b2 => bn (f_X13_init s0 b2) fun _ s1 => (pI s1 15 (some x0) 0 (nrm x1)).bind fun s3 => some ((), s3)
theorem w_X15_init {σ0 : Hp} {w : Unit × Hp} (s0 : Hp) (x0 : Nat) (x1 : Int) (h : f_X15_init s0 x0 x1 = some w) : AW m_X15_init σ0 (oU w) 0 [some (rV (some x0)), some (iV x1)] [] s0 := by
  unfold f_X15_init at h
  refine AW.aload_n dX15_init_0 rfl ?_
  refine AW.NU (M' := m_X13_init) (t := 15) [] [] dX15_init_1 (by decide) q1109 q152 q1110 rfl rfl n_X13_init rfl rfl rfl (fun _ _ _ e => c_X13_init e) h (fun _ s1 h => ?_)
  refine AW.aload_n dX15_init_4 rfl ?_
  refine AW.iload_n dX15_init_5 rfl ?_
  refine AW.nv ?_
  refine AW.putI (t := 15) (k := 0) dX15_init_6 ck15 mu15 (Nat.le_of_ble_eq_true rfl) rfl q1122 (Or.inl rfl) (Or.inr ⟨rfl, rfl⟩) h (fun s3 h => ?_)
  cases h
  exact AW.vret dX15_init_9 rfl
theorem c_X15_init {s0 : Hp} {x0 : Nat} {x1 : Int} {v : Unit} {s1 : Hp} (h : f_X15_init s0 x0 x1 = some (v, s1)) : Ct m_X15_init [rV (some x0), iV x1] s0 (.inl none, s1) :=
  Ct.of2 (w_X15_init s0 x0 x1 h) (show plainName yX15_init.cls = true by decide) rfl rfl rfl
theorem n_X3_unit : nameOk yX3_unit 0 := ⟨by decide, by decide, by decide +kernel⟩
def f_X3_unit (O : Hp → Nat → Option ((Option Nat ⊕ Nat) × Hp)) (s0 : Hp) (x0 : Nat) : Option ((Option Nat ⊕ Nat) × Hp) :=
  (rcv s0 3 (some x0)).bind fun b3 => bx (f_X3_sort s0 b3) fun v1 s2 => (if ¬ nrm v1 = nrm 1 then ((rcv s2 3 (some x0)).bind fun b6 => bx (f_X3_sort s2 b6) fun v4 s5 => jn (fun (s7 : Hp) => (rcv s7 3 (some x0)).bind fun b10 => bn (f_X3_isSign s7 b10 40) fun v8 s9 => (if ¬ nrm v8 = 0 then ((gI s9 3 (some x0) 4).bind fun v11 => (if ¬ nrm v11 = nrm 6 then ((gI s9 3 (some x0) 4).bind fun v12 => (pI s9 3 (some x0) 4 (nrm (v12 + 1))).bind fun s13 => (rcv s13 3 (some x0)).bind fun b15 => bx (f_X3_pass s13 b15) fun _ s14 => (rcv s14 3 (some x0)).bind fun b18 => bx (O s14 b18) fun v16 s17 => (rcv s17 3 (some x0)).bind fun b20 => bx (f_X3_sign s17 b20 41) fun _ s19 => (gI s19 3 (some x0) 4).bind fun v21 => (pI s19 3 (some x0) 4 (nrm (v21 - 1))).bind fun s22 => some (.inl v16, s22)) else ((rcv s9 3 (some x0)).bind fun b25 => bn (f_X3_wrong s9 b25 2) fun v23 s24 => thr s24 v23))) else ((rcv s9 3 (some x0)).bind fun b29 => bn (f_X3_wrong s9 b29 1) fun v27 s28 => thr s28 v27))) fun j87 => (if ¬ nrm v4 = nrm 3 then (j87 s5) else ((gR s5 3 (some x0) 0).bind fun v31 => (gR s5 2 v31 6).bind fun v32 => (gI s5 3 (some x0) 3).bind fun v33 => (aI s5 103 v32 v33).bind fun v34 => (if nrm v34 < nrm 11 then (j87 s5) else ((rcv s5 3 (some x0)).bind fun b36 => bx (f_X3_pass s5 b36) fun _ s35 => nw s35 15 1 fun v37 s38 => (gR s38 3 (some x0) 0).bind fun v39 => (gR s38 2 v39 6).bind fun v40 => (gI s38 3 (some x0) 3).bind fun v41 => (aI s38 103 v40 (v41 - 1)).bind fun v42 => (rcv s38 15 v37).bind fun b44 => bn (f_X15_init s38 b44 (v42 - 11)) fun _ s43 => some (.inl v37, s43)))))) else ((rcv s2 3 (some x0)).bind fun b48 => bx (f_X3_pass s2 b48) fun _ s47 => nw s47 14 1 fun v49 s50 => (gR s50 3 (some x0) 0).bind fun v51 => (gI s50 3 (some x0) 3).bind fun v52 => (rcv s50 2 v51).bind fun b55 => bn (f_X2_number s50 b55 (v52 - 1)) fun v53 s54 => (rcv s54 14 v49).bind fun b57 => bn (f_X14_init s54 b57 v53) fun _ s56 => some (.inl v49, s56)))
theorem w_X3_unit {σ0 : Hp} {w : (Option Nat ⊕ Nat) × Hp} {d : Nat} {O : Hp → Nat → Option ((Option Nat ⊕ Nat) × Hp)} (hO : ∀ (s : Hp) (b : Nat) (w1 : (Option Nat ⊕ Nat) × Hp), O s b = some w1 → Ct (m_X3_sum d) [rV (some b)] s (xo vR w1)) (s0 : Hp) (x0 : Nat) (h : f_X3_unit O s0 x0 = some w) : AW (m_X3_unit (d + 1)) σ0 (xo vR w) 0 [some (rV (some x0)), none] [] s0 := by
  unfold f_X3_unit at h
  refine AW.aload_n dX3_unit_0 rfl ?_
  refine AW.xVI (M' := m_X3_sort) (t := 3) [] [] dX3_unit_1 q712 q714 qs8 q127 q715 ck3 rfl n_X3_sort (fitM_of (show 3 + 1 ≤ (3 * (d + 1) + 20) by omega) (show 8 + (1 + 11) + 65 ≤ (300 * (d + 1) + 1000) by omega)) rfl rfl rfl (fun _ _ e => c_X3_sort e) h (fun v1 s2 h => ?_)
  refine AW.iconst dX3_unit_4 ?_
  refine AW.icmp_ne 33 dX3_unit_5 (by decide) h (fun c58 h => ?_) (fun c58 h => ?_)
  · refine AW.aload_n dX3_unit_33 rfl ?_
    refine AW.xVI (M' := m_X3_sort) (t := 3) [] [] dX3_unit_34 q712 q714 qs8 q127 q715 ck3 rfl n_X3_sort (fitM_of (show 3 + 1 ≤ (3 * (d + 1) + 20) by omega) (show 8 + (1 + 11) + 65 ≤ (300 * (d + 1) + 1000) by omega)) rfl rfl rfl (fun _ _ e => c_X3_sort e) h (fun v4 s5 h => ?_)
    refine AW.iconst dX3_unit_37 ?_
    refine jn_elim h (fun (j : (Hp → Option ((Option Nat ⊕ Nat) × Hp))) => ∀ (s7 : Hp), j s7 = some w → AW (m_X3_unit (d + 1)) σ0 (xo vR w) 87 [some (rV (some x0)), none] [] s7) ?_ (fun j87 hj87 h => ?_)
    · intro s7 h
      refine AW.aload_n dX3_unit_87 rfl ?_
      refine AW.bipush dX3_unit_88 (by decide) ?_
      refine AW.VI (M' := m_X3_isSign) (t := 3) [iV 40] [] dX3_unit_90 q1083 q1085 qs25 q127 q1086 ck3 rfl n_X3_isSign (fitM_of (show 0 + 1 ≤ (3 * (d + 1) + 20) by omega) (show 8 + (2 + 11) + 0 ≤ (300 * (d + 1) + 1000) by omega)) rfl rfl (fun _ _ _ e => c_X3_isSign e) h (fun v8 s9 h => ?_)
      refine AW.if_ne 102 dX3_unit_93 (by decide) h (fun c30 h => ?_) (fun c30 h => ?_)
      · refine AW.aload_n dX3_unit_102 rfl ?_
        refine AW.getI (t := 3) (k := 4) dX3_unit_103 ck3 (Nat.le_of_ble_eq_true rfl) (fun _ => rfl) q305 (Or.inl rfl) h (fun v11 h => ?_)
        refine AW.bipush dX3_unit_106 (by decide) ?_
        refine AW.icmp_ne 117 dX3_unit_108 (by decide) h (fun c26 h => ?_) (fun c26 h => ?_)
        · refine AW.aload_n dX3_unit_117 rfl ?_
          refine AW.dupR dX3_unit_118 ?_
          refine AW.getI (t := 3) (k := 4) dX3_unit_119 ck3 (Nat.le_of_ble_eq_true rfl) (fun _ => rfl) q305 (Or.inl rfl) h (fun v12 h => ?_)
          refine AW.iconst dX3_unit_122 ?_
          refine AW.iadd dX3_unit_123 ?_
          refine AW.nv ?_
          refine AW.putI (t := 3) (k := 4) dX3_unit_124 ck3 mu3 (Nat.le_of_ble_eq_true rfl) rfl q305 (Or.inl rfl) (Or.inl rfl) h (fun s13 h => ?_)
          refine AW.aload_n dX3_unit_127 rfl ?_
          refine AW.xVU (M' := m_X3_pass) (t := 3) [] [] dX3_unit_128 q737 q739 qs13 q127 q740 ck3 rfl n_X3_pass (fitM_of (show 3 + 1 ≤ (3 * (d + 1) + 20) by omega) (show 8 + (1 + 11) + 65 ≤ (300 * (d + 1) + 1000) by omega)) rfl rfl rfl (fun _ _ e => c_X3_pass e) h (fun _ s14 h => ?_)
          refine AW.aload_n dX3_unit_131 rfl ?_
          refine AW.xVR (M' := (m_X3_sum d)) (t := 3) [] [] dX3_unit_132 q1091 q1093 qs27 q127 q1094 ck3 rfl n_X3_sum (fitM_of (show (3 * d + 22) + 1 ≤ (3 * (d + 1) + 20) by omega) (show 8 + (3 + 11) + (300 * d + 1200) ≤ (300 * (d + 1) + 1000) by omega)) rfl rfl rfl (fun b w1 e => hO _ b w1 e) h (fun v16 s17 h => ?_)
          refine AW.astore_n (L' := [some (rV (some x0)), some (rV v16)]) dX3_unit_135 (Nat.le_of_ble_eq_true rfl) rfl rfl ?_
          refine AW.aload_n dX3_unit_136 rfl ?_
          refine AW.bipush dX3_unit_137 (by decide) ?_
          refine AW.xVU (M' := m_X3_sign) (t := 3) [iV 41] [] dX3_unit_139 q1079 q1081 qs24 q127 q1082 ck3 rfl n_X3_sign (fitM_of (show 4 + 1 ≤ (3 * (d + 1) + 20) by omega) (show 8 + (2 + 11) + 85 ≤ (300 * (d + 1) + 1000) by omega)) rfl rfl rfl (fun _ _ e => c_X3_sign e) h (fun _ s19 h => ?_)
          refine AW.aload_n dX3_unit_142 rfl ?_
          refine AW.dupR dX3_unit_143 ?_
          refine AW.getI (t := 3) (k := 4) dX3_unit_144 ck3 (Nat.le_of_ble_eq_true rfl) (fun _ => rfl) q305 (Or.inl rfl) h (fun v21 h => ?_)
          refine AW.iconst dX3_unit_147 ?_
          refine AW.isub dX3_unit_148 ?_
          refine AW.nv ?_
          refine AW.putI (t := 3) (k := 4) dX3_unit_149 ck3 mu3 (Nat.le_of_ble_eq_true rfl) rfl q305 (Or.inl rfl) (Or.inl rfl) h (fun s22 h => ?_)
          refine AW.aload_n dX3_unit_152 rfl ?_
          cases h
          exact AW.aret dX3_unit_153 rfl (Or.inl ⟨_, rfl⟩)
        · refine AW.aload_n dX3_unit_111 rfl ?_
          refine AW.iconst dX3_unit_112 ?_
          refine AW.VR (M' := m_X3_wrong) (t := 3) [iV 2] [] dX3_unit_113 q716 q718 qs9 q127 q719 ck3 rfl n_X3_wrong (fitM_of (show 2 + 1 ≤ (3 * (d + 1) + 20) by omega) (show 8 + (2 + 11) + 44 ≤ (300 * (d + 1) + 1000) by omega)) rfl rfl (fun _ _ _ e => c_X3_wrong e) h (fun v23 s24 h => ?_)
          exact AW.athrow dX3_unit_116 rfl h
      · refine AW.aload_n dX3_unit_96 rfl ?_
        refine AW.iconst dX3_unit_97 ?_
        refine AW.VR (M' := m_X3_wrong) (t := 3) [iV 1] [] dX3_unit_98 q716 q718 qs9 q127 q719 ck3 rfl n_X3_wrong (fitM_of (show 2 + 1 ≤ (3 * (d + 1) + 20) by omega) (show 8 + (2 + 11) + 44 ≤ (300 * (d + 1) + 1000) by omega)) rfl rfl (fun _ _ _ e => c_X3_wrong e) h (fun v27 s28 h => ?_)
        exact AW.athrow dX3_unit_101 rfl h
    · refine AW.icmp_ne 87 dX3_unit_38 (by decide) h (fun c46 h => ?_) (fun c46 h => ?_)
      · exact hj87 _ h
      · refine AW.aload_n dX3_unit_41 rfl ?_
        refine AW.getR (t := 3) (k := 0) dX3_unit_42 ck3 (Nat.le_of_ble_eq_true rfl) (fun _ => rfl) q301 (Or.inl rfl) h (fun v31 h => ?_)
        refine AW.getR (t := 2) (k := 6) dX3_unit_45 ck2 (Nat.le_of_ble_eq_true rfl) (fun _ => rfl) q275 (Or.inl rfl) h (fun v32 h => ?_)
        refine AW.aload_n dX3_unit_48 rfl ?_
        refine AW.getI (t := 3) (k := 3) dX3_unit_49 ck3 (Nat.le_of_ble_eq_true rfl) (fun _ => rfl) q304 (Or.inl rfl) h (fun v33 h => ?_)
        refine AW.sald (t := 103) dX3_unit_52 (Nat.le_of_ble_eq_true rfl) rfl h (fun v34 h => ?_)
        refine AW.bipush dX3_unit_53 (by decide) ?_
        refine AW.icmp_lt 87 dX3_unit_55 (by decide) h (fun c45 h => ?_) (fun c45 h => ?_)
        · exact hj87 _ h
        · refine AW.aload_n dX3_unit_58 rfl ?_
          refine AW.xVU (M' := m_X3_pass) (t := 3) [] [] dX3_unit_59 q737 q739 qs13 q127 q740 ck3 rfl n_X3_pass (fitM_of (show 3 + 1 ≤ (3 * (d + 1) + 20) by omega) (show 8 + (1 + 11) + 65 ≤ (300 * (d + 1) + 1000) by omega)) rfl rfl rfl (fun _ _ e => c_X3_pass e) h (fun _ s35 h => ?_)
          refine AW.new (t := 15) (n := 1) dX3_unit_62 ck15 mu15 nf15 q1116 q1117 q154 h (fun v37 s38 h => ?_)
          refine AW.dupR dX3_unit_65 ?_
          refine AW.aload_n dX3_unit_66 rfl ?_
          refine AW.getR (t := 3) (k := 0) dX3_unit_67 ck3 (Nat.le_of_ble_eq_true rfl) (fun _ => rfl) q301 (Or.inl rfl) h (fun v39 h => ?_)
          refine AW.getR (t := 2) (k := 6) dX3_unit_70 ck2 (Nat.le_of_ble_eq_true rfl) (fun _ => rfl) q275 (Or.inl rfl) h (fun v40 h => ?_)
          refine AW.aload_n dX3_unit_73 rfl ?_
          refine AW.getI (t := 3) (k := 3) dX3_unit_74 ck3 (Nat.le_of_ble_eq_true rfl) (fun _ => rfl) q304 (Or.inl rfl) h (fun v41 h => ?_)
          refine AW.iconst dX3_unit_77 ?_
          refine AW.isub dX3_unit_78 ?_
          refine AW.sald (t := 103) dX3_unit_79 (Nat.le_of_ble_eq_true rfl) rfl h (fun v42 h => ?_)
          refine AW.bipush dX3_unit_80 (by decide) ?_
          refine AW.isub dX3_unit_82 ?_
          refine AW.IU (M' := m_X15_init) (t := 15) [iV (v42 - 11)] [rV v37] dX3_unit_83 q1118 q1119 q154 q1120 rfl rfl n_X15_init (fitM_of (show 2 + 1 ≤ (3 * (d + 1) + 20) by omega) (show 8 + (2 + 11) + 40 ≤ (300 * (d + 1) + 1000) by omega)) rfl rfl (fun _ _ _ e => c_X15_init e) h (fun _ s43 h => ?_)
          cases h
          exact AW.aret dX3_unit_86 rfl (Or.inl ⟨_, rfl⟩)
  · refine AW.aload_n dX3_unit_8 rfl ?_
    refine AW.xVU (M' := m_X3_pass) (t := 3) [] [] dX3_unit_9 q737 q739 qs13 q127 q740 ck3 rfl n_X3_pass (fitM_of (show 3 + 1 ≤ (3 * (d + 1) + 20) by omega) (show 8 + (1 + 11) + 65 ≤ (300 * (d + 1) + 1000) by omega)) rfl rfl rfl (fun _ _ e => c_X3_pass e) h (fun _ s47 h => ?_)
    refine AW.new (t := 14) (n := 1) dX3_unit_12 ck14 mu14 nf14 q1103 q1104 q153 h (fun v49 s50 h => ?_)
    refine AW.dupR dX3_unit_15 ?_
    refine AW.aload_n dX3_unit_16 rfl ?_
    refine AW.getR (t := 3) (k := 0) dX3_unit_17 ck3 (Nat.le_of_ble_eq_true rfl) (fun _ => rfl) q301 (Or.inl rfl) h (fun v51 h => ?_)
    refine AW.aload_n dX3_unit_20 rfl ?_
    refine AW.getI (t := 3) (k := 3) dX3_unit_21 ck3 (Nat.le_of_ble_eq_true rfl) (fun _ => rfl) q304 (Or.inl rfl) h (fun v52 h => ?_)
    refine AW.iconst dX3_unit_24 ?_
    refine AW.isub dX3_unit_25 ?_
    refine AW.VI (M' := m_X2_number) (t := 2) [iV (v52 - 1)] [rV v49, rV v49] dX3_unit_26 q1046 q1047 q1048 q126 q1049 ck2 rfl n_X2_number (fitM_of (show 0 + 1 ≤ (3 * (d + 1) + 20) by omega) (show 8 + (4 + 11) + 0 ≤ (300 * (d + 1) + 1000) by omega)) rfl rfl (fun _ _ _ e => c_X2_number e) h (fun v53 s54 h => ?_)
    refine AW.IU (M' := m_X14_init) (t := 14) [iV v53] [rV v49] dX3_unit_29 q1105 q1106 q153 q1107 rfl rfl n_X14_init (fitM_of (show 2 + 1 ≤ (3 * (d + 1) + 20) by omega) (show 8 + (2 + 11) + 40 ≤ (300 * (d + 1) + 1000) by omega)) rfl rfl (fun _ _ _ e => c_X14_init e) h (fun _ s56 h => ?_)
    cases h
    exact AW.aret dX3_unit_32 rfl (Or.inl ⟨_, rfl⟩)
theorem c_X3_unit {d : Nat} {O : Hp → Nat → Option ((Option Nat ⊕ Nat) × Hp)} (hO : ∀ (s : Hp) (b : Nat) (w1 : (Option Nat ⊕ Nat) × Hp), O s b = some w1 → Ct (m_X3_sum d) [rV (some b)] s (xo vR w1)) {s0 : Hp} {x0 : Nat} {w1 : (Option Nat ⊕ Nat) × Hp} (h : f_X3_unit O s0 x0 = some w1) : Ct (m_X3_unit (d + 1)) [rV (some x0)] s0 (xo vR w1) :=
  Ct.of2 (w_X3_unit hO s0 x0 h) (show plainName yX3_unit.cls = true by decide) rfl rfl rfl
abbrev m_X16_init : Mi := (yX16_init, cX16_init, none, 4, 2, 40, [])
theorem n_X16_init : nameOk yX16_init 3 := ⟨by decide, by decide, by decide +kernel⟩
def f_X16_init (s0 : Hp) (x0 : Nat) (x1 : Int) (x2 : Option Nat) (x3 : Option Nat) : Option (Unit × Hp) :=
  (rcv s0 16 (some x0)).bind fun b2 => bn (f_X13_init s0 b2) fun _ s1 => (pI s1 16 (some x0) 0 (nrm x1)).bind fun s3 => (pR s3 16 (some x0) 1 x2).bind fun s4 => (pR s4 16 (some x0) 2 x3).bind fun s5 => some ((), s5)
theorem w_X16_init {σ0 : Hp} {w : Unit × Hp} (s0 : Hp) (x0 : Nat) (x1 : Int) (x2 : Option Nat) (x3 : Option Nat) (h : f_X16_init s0 x0 x1 x2 x3 = some w) : AW m_X16_init σ0 (oU w) 0 [some (rV (some x0)), some (iV x1), some (rV x2), some (rV x3)] [] s0 := by
  unfold f_X16_init at h
  refine AW.aload_n dX16_init_0 rfl ?_
  refine AW.NU (M' := m_X13_init) (t := 16) [] [] dX16_init_1 (by decide) q1109 q152 q1110 rfl rfl n_X13_init rfl rfl rfl (fun _ _ _ e => c_X13_init e) h (fun _ s1 h => ?_)
  refine AW.aload_n dX16_init_4 rfl ?_
  refine AW.iload_n dX16_init_5 rfl ?_
  refine AW.nv ?_
  refine AW.putI (t := 16) (k := 0) dX16_init_6 ck16 mu16 (Nat.le_of_ble_eq_true rfl) rfl q1132 (Or.inl rfl) (Or.inr ⟨rfl, rfl⟩) h (fun s3 h => ?_)
  refine AW.aload_n dX16_init_9 rfl ?_
  refine AW.aload_n dX16_init_10 rfl ?_
  refine AW.putR (t := 16) (k := 1) dX16_init_11 ck16 mu16 (Nat.le_of_ble_eq_true rfl) (Or.inl ⟨_, rfl⟩) q1133 (Or.inl rfl) (Or.inr ⟨rfl, rfl⟩) h (fun s4 h => ?_)
  refine AW.aload_n dX16_init_14 rfl ?_
  refine AW.aload_n dX16_init_15 rfl ?_
  refine AW.putR (t := 16) (k := 2) dX16_init_16 ck16 mu16 (Nat.le_of_ble_eq_true rfl) (Or.inl ⟨_, rfl⟩) q1134 (Or.inl rfl) (Or.inr ⟨rfl, rfl⟩) h (fun s5 h => ?_)
  cases h
  exact AW.vret dX16_init_19 rfl
theorem c_X16_init {s0 : Hp} {x0 : Nat} {x1 : Int} {x2 : Option Nat} {x3 : Option Nat} {v : Unit} {s1 : Hp} (h : f_X16_init s0 x0 x1 x2 x3 = some (v, s1)) : Ct m_X16_init [rV (some x0), iV x1, rV x2, rV x3] s0 (.inl none, s1) :=
  Ct.of2 (w_X16_init s0 x0 x1 x2 x3 h) (show plainName yX16_init.cls = true by decide) rfl rfl rfl
theorem n_X3_part : nameOk yX3_part 0 := ⟨by decide, by decide, by decide +kernel⟩
def f_X3_part_L5 (O : Hp → Nat → Option ((Option Nat ⊕ Nat) × Hp)) (x0 : Nat) : Nat → Hp → Option Nat → (Hp → Option Nat → Option ((Option Nat ⊕ Nat) × Hp)) → Option ((Option Nat ⊕ Nat) × Hp)
  | 0, _, _, _ => none
  | n + 1, s0, x1, k => (rcv s0 3 (some x0)).bind fun b6 => bn (f_X3_isSign s0 b6 42) fun v4 s5 => jn (fun (s7 : Hp) (x1 : Option Nat) => (gR s7 3 (some x0) 0).bind fun v8 => (gR s7 2 v8 6).bind fun v9 => (gI s7 3 (some x0) 3).bind fun v10 => (aI s7 103 v9 v10).bind fun v11 => (rcv s7 3 (some x0)).bind fun b13 => bx (f_X3_pass s7 b13) fun _ s12 => nw s12 16 3 fun v14 s15 => (rcv s15 3 (some x0)).bind fun b18 => bx (f_X3_unit O s15 b18) fun v16 s17 => (rcv s17 16 v14).bind fun b20 => bn (f_X16_init s17 b20 v11 x1 v16) fun _ s19 => f_X3_part_L5 O x0 n s19 v14 k) fun j23 => (if ¬ nrm v4 = 0 then (j23 s5 x1) else ((rcv s5 3 (some x0)).bind fun b23 => bn (f_X3_isSign s5 b23 47) fun v21 s22 => (if nrm v21 = 0 then (k s22 x1) else (j23 s22 x1))))
theorem w_X3_part_L5 {σ0 : Hp} {w : (Option Nat ⊕ Nat) × Hp} {d : Nat} {O : Hp → Nat → Option ((Option Nat ⊕ Nat) × Hp)} (hO : ∀ (s : Hp) (b : Nat) (w1 : (Option Nat ⊕ Nat) × Hp), O s b = some w1 → Ct (m_X3_sum d) [rV (some b)] s (xo vR w1)) {x0 : Nat} : ∀ (n : Nat) (s0 : Hp) (x1 : Option Nat) (k : (Hp → Option Nat → Option ((Option Nat ⊕ Nat) × Hp))), f_X3_part_L5 O x0 n s0 x1 k = some w → (∀ (s1 : Hp) (x1 : Option Nat), k s1 x1 = some w → AW (m_X3_part (d + 1)) σ0 (xo vR w) 57 [none, some (rV x1), none] [] s1) → AW (m_X3_part (d + 1)) σ0 (xo vR w) 5 [some (rV (some x0)), some (rV x1), none] [] s0 := by
  intro n
  induction n with
  | zero =>
    intro s0 x1 k h hk
    rw [f_X3_part_L5] at h
    cases h
  | succ n ih =>
    intro s0 x1 k h hk
    rw [f_X3_part_L5] at h
    refine AW.aload_n dX3_part_5 rfl ?_
    refine AW.bipush dX3_part_6 (by decide) ?_
    refine AW.VI (M' := m_X3_isSign) (t := 3) [iV 42] [] dX3_part_8 q1083 q1085 qs25 q127 q1086 ck3 rfl n_X3_isSign (fitM_of (show 0 + 1 ≤ (3 * (d + 1) + 21) by omega) (show 8 + (2 + 11) + 0 ≤ (300 * (d + 1) + 1100) by omega)) rfl rfl (fun _ _ _ e => c_X3_isSign e) h (fun v4 s5 h => ?_)
    refine jn_elim h (fun (j : (Hp → Option Nat → Option ((Option Nat ⊕ Nat) × Hp))) => ∀ (s7 : Hp) (x1 : Option Nat), j s7 x1 = some w → AW (m_X3_part (d + 1)) σ0 (xo vR w) 23 [some (rV (some x0)), some (rV x1), none] [] s7) ?_ (fun j23 hj23 h => ?_)
    · intro s7 x1 h
      refine AW.aload_n dX3_part_23 rfl ?_
      refine AW.getR (t := 3) (k := 0) dX3_part_24 ck3 (Nat.le_of_ble_eq_true rfl) (fun _ => rfl) q301 (Or.inl rfl) h (fun v8 h => ?_)
      refine AW.getR (t := 2) (k := 6) dX3_part_27 ck2 (Nat.le_of_ble_eq_true rfl) (fun _ => rfl) q275 (Or.inl rfl) h (fun v9 h => ?_)
      refine AW.aload_n dX3_part_30 rfl ?_
      refine AW.getI (t := 3) (k := 3) dX3_part_31 ck3 (Nat.le_of_ble_eq_true rfl) (fun _ => rfl) q304 (Or.inl rfl) h (fun v10 h => ?_)
      refine AW.sald (t := 103) dX3_part_34 (Nat.le_of_ble_eq_true rfl) rfl h (fun v11 h => ?_)
      refine AW.istore_n (L' := [some (rV (some x0)), some (rV x1), some (iV v11)]) dX3_part_35 (Nat.le_of_ble_eq_true rfl) rfl rfl ?_
      refine AW.aload_n dX3_part_36 rfl ?_
      refine AW.xVU (M' := m_X3_pass) (t := 3) [] [] dX3_part_37 q737 q739 qs13 q127 q740 ck3 rfl n_X3_pass (fitM_of (show 3 + 1 ≤ (3 * (d + 1) + 21) by omega) (show 8 + (1 + 11) + 65 ≤ (300 * (d + 1) + 1100) by omega)) rfl rfl rfl (fun _ _ e => c_X3_pass e) h (fun _ s12 h => ?_)
      refine AW.new (t := 16) (n := 3) dX3_part_40 ck16 mu16 nf16 q1126 q1127 q155 h (fun v14 s15 h => ?_)
      refine AW.dupR dX3_part_43 ?_
      refine AW.iload_n dX3_part_44 rfl ?_
      refine AW.aload_n dX3_part_45 rfl ?_
      refine AW.aload_n dX3_part_46 rfl ?_
      refine AW.xVR (M' := (m_X3_unit (d + 1))) (t := 3) [] [rV x1, iV v11, rV v14, rV v14] dX3_part_47 q1099 q1101 qs29 q127 q1102 ck3 rfl n_X3_unit (fitM_of (show (3 * (d + 1) + 20) + 1 ≤ (3 * (d + 1) + 21) by omega) (show 8 + (2 + 11) + (300 * (d + 1) + 1000) ≤ (300 * (d + 1) + 1100) by omega)) rfl rfl rfl (fun _ _ e => c_X3_unit hO e) h (fun v16 s17 h => ?_)
      refine AW.IU (M' := m_X16_init) (t := 16) [iV v11, rV x1, rV v16] [rV v14] dX3_part_50 q1128 q1129 q155 q1130 rfl rfl n_X16_init (fitM_of (show 2 + 1 ≤ (3 * (d + 1) + 21) by omega) (show 8 + (4 + 11) + 40 ≤ (300 * (d + 1) + 1100) by omega)) rfl rfl (fun _ _ _ e => c_X16_init e) h (fun _ s19 h => ?_)
      refine AW.astore_n (L' := [some (rV (some x0)), some (rV v14), some (iV v11)]) dX3_part_53 (Nat.le_of_ble_eq_true rfl) rfl rfl ?_
      refine AW.goto (tgt := 5) dX3_part_54 (by decide) ?_
      exact AW.fewer (L' := [some (rV (some x0)), some (rV v14), none]) (And.intro rfl (And.intro rfl trivial)) (ih _ _ _ h hk)
    · refine AW.if_ne 23 dX3_part_11 (by decide) h (fun c25 h => ?_) (fun c25 h => ?_)
      · exact hj23 _ _ h
      · refine AW.aload_n dX3_part_14 rfl ?_
        refine AW.bipush dX3_part_15 (by decide) ?_
        refine AW.VI (M' := m_X3_isSign) (t := 3) [iV 47] [] dX3_part_17 q1083 q1085 qs25 q127 q1086 ck3 rfl n_X3_isSign (fitM_of (show 0 + 1 ≤ (3 * (d + 1) + 21) by omega) (show 8 + (2 + 11) + 0 ≤ (300 * (d + 1) + 1100) by omega)) rfl rfl (fun _ _ _ e => c_X3_isSign e) h (fun v21 s22 h => ?_)
        refine AW.if_eq 57 dX3_part_20 (by decide) h (fun c24 h => ?_) (fun c24 h => ?_)
        · exact AW.fewer (L' := [none, some (rV x1), none]) (And.intro rfl trivial) (hk _ _ h)
        · exact hj23 _ _ h
def f_X3_part (O : Hp → Nat → Option ((Option Nat ⊕ Nat) × Hp)) (s0 : Hp) (x0 : Nat) : Option ((Option Nat ⊕ Nat) × Hp) :=
  (rcv s0 3 (some x0)).bind fun b3 => bx (f_X3_unit O s0 b3) fun v1 s2 => f_X3_part_L5 O x0 FU s2 v1 (fun s26 x1 => some (.inl x1, s26))
theorem w_X3_part {σ0 : Hp} {w : (Option Nat ⊕ Nat) × Hp} {d : Nat} {O : Hp → Nat → Option ((Option Nat ⊕ Nat) × Hp)} (hO : ∀ (s : Hp) (b : Nat) (w1 : (Option Nat ⊕ Nat) × Hp), O s b = some w1 → Ct (m_X3_sum d) [rV (some b)] s (xo vR w1)) (s0 : Hp) (x0 : Nat) (h : f_X3_part O s0 x0 = some w) : AW (m_X3_part (d + 1)) σ0 (xo vR w) 0 [some (rV (some x0)), none, none] [] s0 := by
  unfold f_X3_part at h
  refine AW.aload_n dX3_part_0 rfl ?_
  refine AW.xVR (M' := (m_X3_unit (d + 1))) (t := 3) [] [] dX3_part_1 q1099 q1101 qs29 q127 q1102 ck3 rfl n_X3_unit (fitM_of (show (3 * (d + 1) + 20) + 1 ≤ (3 * (d + 1) + 21) by omega) (show 8 + (2 + 11) + (300 * (d + 1) + 1000) ≤ (300 * (d + 1) + 1100) by omega)) rfl rfl rfl (fun _ _ e => c_X3_unit hO e) h (fun v1 s2 h => ?_)
  refine AW.astore_n (L' := [some (rV (some x0)), some (rV v1), none]) dX3_part_4 (Nat.le_of_ble_eq_true rfl) rfl rfl ?_
  refine w_X3_part_L5 hO _ _ _ _ h (fun s26 x1 h => ?_)
  refine AW.aload_n dX3_part_57 rfl ?_
  cases h
  exact AW.aret dX3_part_58 rfl (Or.inl ⟨_, rfl⟩)
theorem c_X3_part {d : Nat} {O : Hp → Nat → Option ((Option Nat ⊕ Nat) × Hp)} (hO : ∀ (s : Hp) (b : Nat) (w1 : (Option Nat ⊕ Nat) × Hp), O s b = some w1 → Ct (m_X3_sum d) [rV (some b)] s (xo vR w1)) {s0 : Hp} {x0 : Nat} {w1 : (Option Nat ⊕ Nat) × Hp} (h : f_X3_part O s0 x0 = some w1) : Ct (m_X3_part (d + 1)) [rV (some x0)] s0 (xo vR w1) :=
  Ct.of2 (w_X3_part hO s0 x0 h) (show plainName yX3_part.cls = true by decide) rfl rfl rfl
def f_X3_sum_L5 (O : Hp → Nat → Option ((Option Nat ⊕ Nat) × Hp)) (x0 : Nat) : Nat → Hp → Option Nat → (Hp → Option Nat → Option ((Option Nat ⊕ Nat) × Hp)) → Option ((Option Nat ⊕ Nat) × Hp)
  | 0, _, _, _ => none
  | n + 1, s0, x1, k => (rcv s0 3 (some x0)).bind fun b6 => bn (f_X3_isSign s0 b6 43) fun v4 s5 => jn (fun (s7 : Hp) (x1 : Option Nat) => (gR s7 3 (some x0) 0).bind fun v8 => (gR s7 2 v8 6).bind fun v9 => (gI s7 3 (some x0) 3).bind fun v10 => (aI s7 103 v9 v10).bind fun v11 => (rcv s7 3 (some x0)).bind fun b13 => bx (f_X3_pass s7 b13) fun _ s12 => nw s12 16 3 fun v14 s15 => (rcv s15 3 (some x0)).bind fun b18 => bx (f_X3_part O s15 b18) fun v16 s17 => (rcv s17 16 v14).bind fun b20 => bn (f_X16_init s17 b20 v11 x1 v16) fun _ s19 => f_X3_sum_L5 O x0 n s19 v14 k) fun j23 => (if ¬ nrm v4 = 0 then (j23 s5 x1) else ((rcv s5 3 (some x0)).bind fun b23 => bn (f_X3_isSign s5 b23 45) fun v21 s22 => (if nrm v21 = 0 then (k s22 x1) else (j23 s22 x1))))
theorem w_X3_sum_L5 {σ0 : Hp} {w : (Option Nat ⊕ Nat) × Hp} {d : Nat} {O : Hp → Nat → Option ((Option Nat ⊕ Nat) × Hp)} (hO : ∀ (s : Hp) (b : Nat) (w1 : (Option Nat ⊕ Nat) × Hp), O s b = some w1 → Ct (m_X3_sum d) [rV (some b)] s (xo vR w1)) {x0 : Nat} : ∀ (n : Nat) (s0 : Hp) (x1 : Option Nat) (k : (Hp → Option Nat → Option ((Option Nat ⊕ Nat) × Hp))), f_X3_sum_L5 O x0 n s0 x1 k = some w → (∀ (s1 : Hp) (x1 : Option Nat), k s1 x1 = some w → AW (m_X3_sum (d + 1)) σ0 (xo vR w) 57 [none, some (rV x1), none] [] s1) → AW (m_X3_sum (d + 1)) σ0 (xo vR w) 5 [some (rV (some x0)), some (rV x1), none] [] s0 := by
  intro n
  induction n with
  | zero =>
    intro s0 x1 k h hk
    rw [f_X3_sum_L5] at h
    cases h
  | succ n ih =>
    intro s0 x1 k h hk
    rw [f_X3_sum_L5] at h
    refine AW.aload_n dX3_sum_5 rfl ?_
    refine AW.bipush dX3_sum_6 (by decide) ?_
    refine AW.VI (M' := m_X3_isSign) (t := 3) [iV 43] [] dX3_sum_8 q1083 q1085 qs25 q127 q1086 ck3 rfl n_X3_isSign (fitM_of (show 0 + 1 ≤ (3 * (d + 1) + 22) by omega) (show 8 + (2 + 11) + 0 ≤ (300 * (d + 1) + 1200) by omega)) rfl rfl (fun _ _ _ e => c_X3_isSign e) h (fun v4 s5 h => ?_)
    refine jn_elim h (fun (j : (Hp → Option Nat → Option ((Option Nat ⊕ Nat) × Hp))) => ∀ (s7 : Hp) (x1 : Option Nat), j s7 x1 = some w → AW (m_X3_sum (d + 1)) σ0 (xo vR w) 23 [some (rV (some x0)), some (rV x1), none] [] s7) ?_ (fun j23 hj23 h => ?_)
    · intro s7 x1 h
      refine AW.aload_n dX3_sum_23 rfl ?_
      refine AW.getR (t := 3) (k := 0) dX3_sum_24 ck3 (Nat.le_of_ble_eq_true rfl) (fun _ => rfl) q301 (Or.inl rfl) h (fun v8 h => ?_)
      refine AW.getR (t := 2) (k := 6) dX3_sum_27 ck2 (Nat.le_of_ble_eq_true rfl) (fun _ => rfl) q275 (Or.inl rfl) h (fun v9 h => ?_)
      refine AW.aload_n dX3_sum_30 rfl ?_
      refine AW.getI (t := 3) (k := 3) dX3_sum_31 ck3 (Nat.le_of_ble_eq_true rfl) (fun _ => rfl) q304 (Or.inl rfl) h (fun v10 h => ?_)
      refine AW.sald (t := 103) dX3_sum_34 (Nat.le_of_ble_eq_true rfl) rfl h (fun v11 h => ?_)
      refine AW.istore_n (L' := [some (rV (some x0)), some (rV x1), some (iV v11)]) dX3_sum_35 (Nat.le_of_ble_eq_true rfl) rfl rfl ?_
      refine AW.aload_n dX3_sum_36 rfl ?_
      refine AW.xVU (M' := m_X3_pass) (t := 3) [] [] dX3_sum_37 q737 q739 qs13 q127 q740 ck3 rfl n_X3_pass (fitM_of (show 3 + 1 ≤ (3 * (d + 1) + 22) by omega) (show 8 + (1 + 11) + 65 ≤ (300 * (d + 1) + 1200) by omega)) rfl rfl rfl (fun _ _ e => c_X3_pass e) h (fun _ s12 h => ?_)
      refine AW.new (t := 16) (n := 3) dX3_sum_40 ck16 mu16 nf16 q1126 q1127 q155 h (fun v14 s15 h => ?_)
      refine AW.dupR dX3_sum_43 ?_
      refine AW.iload_n dX3_sum_44 rfl ?_
      refine AW.aload_n dX3_sum_45 rfl ?_
      refine AW.aload_n dX3_sum_46 rfl ?_
      refine AW.xVR (M' := (m_X3_part (d + 1))) (t := 3) [] [rV x1, iV v11, rV v14, rV v14] dX3_sum_47 q1095 q1097 qs28 q127 q1098 ck3 rfl n_X3_part (fitM_of (show (3 * (d + 1) + 21) + 1 ≤ (3 * (d + 1) + 22) by omega) (show 8 + (3 + 11) + (300 * (d + 1) + 1100) ≤ (300 * (d + 1) + 1200) by omega)) rfl rfl rfl (fun _ _ e => c_X3_part hO e) h (fun v16 s17 h => ?_)
      refine AW.IU (M' := m_X16_init) (t := 16) [iV v11, rV x1, rV v16] [rV v14] dX3_sum_50 q1128 q1129 q155 q1130 rfl rfl n_X16_init (fitM_of (show 2 + 1 ≤ (3 * (d + 1) + 22) by omega) (show 8 + (4 + 11) + 40 ≤ (300 * (d + 1) + 1200) by omega)) rfl rfl (fun _ _ _ e => c_X16_init e) h (fun _ s19 h => ?_)
      refine AW.astore_n (L' := [some (rV (some x0)), some (rV v14), some (iV v11)]) dX3_sum_53 (Nat.le_of_ble_eq_true rfl) rfl rfl ?_
      refine AW.goto (tgt := 5) dX3_sum_54 (by decide) ?_
      exact AW.fewer (L' := [some (rV (some x0)), some (rV v14), none]) (And.intro rfl (And.intro rfl trivial)) (ih _ _ _ h hk)
    · refine AW.if_ne 23 dX3_sum_11 (by decide) h (fun c25 h => ?_) (fun c25 h => ?_)
      · exact hj23 _ _ h
      · refine AW.aload_n dX3_sum_14 rfl ?_
        refine AW.bipush dX3_sum_15 (by decide) ?_
        refine AW.VI (M' := m_X3_isSign) (t := 3) [iV 45] [] dX3_sum_17 q1083 q1085 qs25 q127 q1086 ck3 rfl n_X3_isSign (fitM_of (show 0 + 1 ≤ (3 * (d + 1) + 22) by omega) (show 8 + (2 + 11) + 0 ≤ (300 * (d + 1) + 1200) by omega)) rfl rfl (fun _ _ _ e => c_X3_isSign e) h (fun v21 s22 h => ?_)
        refine AW.if_eq 57 dX3_sum_20 (by decide) h (fun c24 h => ?_) (fun c24 h => ?_)
        · exact AW.fewer (L' := [none, some (rV x1), none]) (And.intro rfl trivial) (hk _ _ h)
        · exact hj23 _ _ h
def f_X3_sum (O : Hp → Nat → Option ((Option Nat ⊕ Nat) × Hp)) (s0 : Hp) (x0 : Nat) : Option ((Option Nat ⊕ Nat) × Hp) :=
  (rcv s0 3 (some x0)).bind fun b3 => bx (f_X3_part O s0 b3) fun v1 s2 => f_X3_sum_L5 O x0 FU s2 v1 (fun s26 x1 => some (.inl x1, s26))
theorem w_X3_sum {σ0 : Hp} {w : (Option Nat ⊕ Nat) × Hp} {d : Nat} {O : Hp → Nat → Option ((Option Nat ⊕ Nat) × Hp)} (hO : ∀ (s : Hp) (b : Nat) (w1 : (Option Nat ⊕ Nat) × Hp), O s b = some w1 → Ct (m_X3_sum d) [rV (some b)] s (xo vR w1)) (s0 : Hp) (x0 : Nat) (h : f_X3_sum O s0 x0 = some w) : AW (m_X3_sum (d + 1)) σ0 (xo vR w) 0 [some (rV (some x0)), none, none] [] s0 := by
  unfold f_X3_sum at h
  refine AW.aload_n dX3_sum_0 rfl ?_
  refine AW.xVR (M' := (m_X3_part (d + 1))) (t := 3) [] [] dX3_sum_1 q1095 q1097 qs28 q127 q1098 ck3 rfl n_X3_part (fitM_of (show (3 * (d + 1) + 21) + 1 ≤ (3 * (d + 1) + 22) by omega) (show 8 + (3 + 11) + (300 * (d + 1) + 1100) ≤ (300 * (d + 1) + 1200) by omega)) rfl rfl rfl (fun _ _ e => c_X3_part hO e) h (fun v1 s2 h => ?_)
  refine AW.astore_n (L' := [some (rV (some x0)), some (rV v1), none]) dX3_sum_4 (Nat.le_of_ble_eq_true rfl) rfl rfl ?_
  refine w_X3_sum_L5 hO _ _ _ _ h (fun s26 x1 h => ?_)
  refine AW.aload_n dX3_sum_57 rfl ?_
  cases h
  exact AW.aret dX3_sum_58 rfl (Or.inl ⟨_, rfl⟩)
theorem c_X3_sum {d : Nat} {O : Hp → Nat → Option ((Option Nat ⊕ Nat) × Hp)} (hO : ∀ (s : Hp) (b : Nat) (w1 : (Option Nat ⊕ Nat) × Hp), O s b = some w1 → Ct (m_X3_sum d) [rV (some b)] s (xo vR w1)) {s0 : Hp} {x0 : Nat} {w1 : (Option Nat ⊕ Nat) × Hp} (h : f_X3_sum O s0 x0 = some w1) : Ct (m_X3_sum (d + 1)) [rV (some x0)] s0 (xo vR w1) :=
  Ct.of2 (w_X3_sum hO s0 x0 h) (show plainName yX3_sum.cls = true by decide) rfl rfl rfl

def f_X3_sumD : Nat → Hp → Nat → Option ((Option Nat ⊕ Nat) × Hp)
  | 0, _, _ => none
  | d + 1, s, b => f_X3_sum (f_X3_sumD d) s b
theorem c_X3_sumD : ∀ (d : Nat) (s : Hp) (b : Nat) (w1 : (Option Nat ⊕ Nat) × Hp), f_X3_sumD d s b = some w1 → Ct (m_X3_sum d) [rV (some b)] s (xo vR w1) := by
  intro d
  induction d with
  | zero => intro s b w1 h; rw [f_X3_sumD] at h; cases h
  | succ d ih =>
    intro s b w1 h
    rw [f_X3_sumD] at h
    exact c_X3_sum ih h

abbrev m_X3_word : Mi := (yX3_word, cX3_word, none, 2, 4, 85, [])
theorem n_X3_word : nameOk yX3_word 1 := ⟨by decide, by decide, by decide +kernel⟩
def f_X3_word (s0 : Hp) (x0 : Nat) (x1 : Int) : Option ((Unit ⊕ Nat) × Hp) :=
  (rcv s0 3 (some x0)).bind fun b3 => bn (f_X3_isWord s0 b3 x1) fun v1 s2 => (if ¬ nrm v1 = 0 then ((rcv s2 3 (some x0)).bind fun b5 => bx (f_X3_pass s2 b5) fun _ s4 => some (.inl (), s4)) else ((rcv s2 3 (some x0)).bind fun b8 => bn (f_X3_wrong s2 b8 1) fun v6 s7 => thr s7 v6))
theorem w_X3_word {σ0 : Hp} {w : (Unit ⊕ Nat) × Hp} (s0 : Hp) (x0 : Nat) (x1 : Int) (h : f_X3_word s0 x0 x1 = some w) : AW m_X3_word σ0 (xo vU w) 0 [some (rV (some x0)), some (iV x1)] [] s0 := by
  unfold f_X3_word at h
  refine AW.aload_n dX3_word_0 rfl ?_
  refine AW.iload_n dX3_word_1 rfl ?_
  refine AW.VI (M' := m_X3_isWord) (t := 3) [iV x1] [] dX3_word_2 q1087 q1089 qs26 q127 q1090 ck3 rfl n_X3_isWord rfl rfl rfl (fun _ _ _ e => c_X3_isWord e) h (fun v1 s2 h => ?_)
  refine AW.if_ne 14 dX3_word_5 (by decide) h (fun c9 h => ?_) (fun c9 h => ?_)
  · refine AW.aload_n dX3_word_14 rfl ?_
    refine AW.xVU (M' := m_X3_pass) (t := 3) [] [] dX3_word_15 q737 q739 qs13 q127 q740 ck3 rfl n_X3_pass rfl rfl rfl rfl (fun _ _ e => c_X3_pass e) h (fun _ s4 h => ?_)
    cases h
    exact AW.vret dX3_word_18 rfl
  · refine AW.aload_n dX3_word_8 rfl ?_
    refine AW.iconst dX3_word_9 ?_
    refine AW.VR (M' := m_X3_wrong) (t := 3) [iV 1] [] dX3_word_10 q716 q718 qs9 q127 q719 ck3 rfl n_X3_wrong rfl rfl rfl (fun _ _ _ e => c_X3_wrong e) h (fun v6 s7 h => ?_)
    exact AW.athrow dX3_word_13 rfl h
theorem c_X3_word {s0 : Hp} {x0 : Nat} {x1 : Int} {w1 : (Unit ⊕ Nat) × Hp} (h : f_X3_word s0 x0 x1 = some w1) : Ct m_X3_word [rV (some x0), iV x1] s0 (xo vU w1) :=
  Ct.of2 (w_X3_word s0 x0 x1 h) (show plainName yX3_word.cls = true by decide) rfl rfl rfl
abbrev m_X3_law : Mi := (yX3_law, cX3_law, (some (FieldType.object "LateMirrors$Law")), 2, 47, 3622, [])
theorem n_X3_law : nameOk yX3_law 0 := ⟨by decide, by decide, by decide +kernel⟩
def f_X3_law_L14 (x0 : Nat) : Nat → Hp → Option Nat → (Hp → Option Nat → Option ((Option Nat ⊕ Nat) × Hp)) → Option ((Option Nat ⊕ Nat) × Hp)
  | 0, _, _, _ => none
  | n + 1, s0, x1, k => (rcv s0 3 (some x0)).bind fun b9 => bn (f_X3_isWord s0 b9 8) fun v7 s8 => (if nrm v7 = 0 then (k s8 x1) else ((gI s8 12 x1 3).bind fun v10 => (rcv s8 3 (some x0)).bind fun b12 => bx (f_X3_begins s8 b12 v10 4) fun _ s11 => (gR s11 12 x1 0).bind fun v13 => (gI s11 12 x1 3).bind fun v14 => (rcv s11 3 (some x0)).bind fun b17 => bx (f_X3_sumD 8 s11 b17) fun v15 s16 => (sE s16 111 v13 v14 v15).bind fun s18 => (rcv s18 3 (some x0)).bind fun b20 => bx (f_X3_sign s18 b20 60) fun _ s19 => (gR s19 12 x1 1).bind fun v21 => (gI s19 12 x1 3).bind fun v22 => (rcv s19 3 (some x0)).bind fun b25 => bx (f_X3_sumD 8 s19 b25) fun v23 s24 => (sE s24 111 v21 v22 v23).bind fun s26 => (rcv s26 3 (some x0)).bind fun b28 => bx (f_X3_word s26 b28 9) fun _ s27 => (gR s27 12 x1 2).bind fun v29 => (gI s27 12 x1 3).bind fun v30 => (rcv s27 3 (some x0)).bind fun b33 => bx (f_X3_sumD 8 s27 b33) fun v31 s32 => (sE s32 111 v29 v30 v31).bind fun s34 => (rcv s34 3 (some x0)).bind fun b36 => bx (f_X3_word s34 b36 10) fun _ s35 => (gI s35 12 x1 3).bind fun v37 => (pI s35 12 x1 3 (nrm (v37 + 1))).bind fun s38 => f_X3_law_L14 x0 n s38 x1 k))
theorem w_X3_law_L14 {σ0 : Hp} {w : (Option Nat ⊕ Nat) × Hp} {x0 : Nat} : ∀ (n : Nat) (s0 : Hp) (x1 : Option Nat) (k : (Hp → Option Nat → Option ((Option Nat ⊕ Nat) × Hp))), f_X3_law_L14 x0 n s0 x1 k = some w → (∀ (s1 : Hp) (x1 : Option Nat), k s1 x1 = some w → AW m_X3_law σ0 (xo vR w) 102 [some (rV (some x0)), some (rV x1)] [] s1) → AW m_X3_law σ0 (xo vR w) 14 [some (rV (some x0)), some (rV x1)] [] s0 := by
  intro n
  induction n with
  | zero =>
    intro s0 x1 k h hk
    rw [f_X3_law_L14] at h
    cases h
  | succ n ih =>
    intro s0 x1 k h hk
    rw [f_X3_law_L14] at h
    refine AW.aload_n dX3_law_14 rfl ?_
    refine AW.bipush dX3_law_15 (by decide) ?_
    refine AW.VI (M' := m_X3_isWord) (t := 3) [iV 8] [] dX3_law_17 q1087 q1089 qs26 q127 q1090 ck3 rfl n_X3_isWord rfl rfl rfl (fun _ _ _ e => c_X3_isWord e) h (fun v7 s8 h => ?_)
    refine AW.if_eq 102 dX3_law_20 (by decide) h (fun c39 h => ?_) (fun c39 h => ?_)
    · exact hk _ _ h
    · refine AW.aload_n dX3_law_23 rfl ?_
      refine AW.aload_n dX3_law_24 rfl ?_
      refine AW.getI (t := 12) (k := 3) dX3_law_25 ck12 (Nat.le_of_ble_eq_true rfl) (fun _ => rfl) q1069 (Or.inl rfl) h (fun v10 h => ?_)
      refine AW.iconst dX3_law_28 ?_
      refine AW.xVU (M' := m_X3_begins) (t := 3) [iV v10, iV 4] [] dX3_law_29 q733 q735 qs12 q127 q736 ck3 rfl n_X3_begins rfl rfl rfl rfl (fun _ _ e => c_X3_begins e) h (fun _ s11 h => ?_)
      refine AW.aload_n dX3_law_32 rfl ?_
      refine AW.getR (t := 12) (k := 0) dX3_law_33 ck12 (Nat.le_of_ble_eq_true rfl) (fun _ => rfl) q1063 (Or.inl rfl) h (fun v13 h => ?_)
      refine AW.aload_n dX3_law_36 rfl ?_
      refine AW.getI (t := 12) (k := 3) dX3_law_37 ck12 (Nat.le_of_ble_eq_true rfl) (fun _ => rfl) q1069 (Or.inl rfl) h (fun v14 h => ?_)
      refine AW.aload_n dX3_law_40 rfl ?_
      refine AW.xVR (M' := (m_X3_sum 8)) (t := 3) [] [iV v14, rV v13] dX3_law_41 q1091 q1093 qs27 q127 q1094 ck3 rfl n_X3_sum rfl rfl rfl rfl (fun b w1 e => c_X3_sumD 8 _ b w1 e) h (fun v15 s16 h => ?_)
      refine AW.aast (t := 111) dX3_law_44 (by decide) (Nat.le_of_ble_eq_true rfl) mu111 rfl h (fun s18 h => ?_)
      refine AW.aload_n dX3_law_45 rfl ?_
      refine AW.bipush dX3_law_46 (by decide) ?_
      refine AW.xVU (M' := m_X3_sign) (t := 3) [iV 60] [] dX3_law_48 q1079 q1081 qs24 q127 q1082 ck3 rfl n_X3_sign rfl rfl rfl rfl (fun _ _ e => c_X3_sign e) h (fun _ s19 h => ?_)
      refine AW.aload_n dX3_law_51 rfl ?_
      refine AW.getR (t := 12) (k := 1) dX3_law_52 ck12 (Nat.le_of_ble_eq_true rfl) (fun _ => rfl) q1065 (Or.inl rfl) h (fun v21 h => ?_)
      refine AW.aload_n dX3_law_55 rfl ?_
      refine AW.getI (t := 12) (k := 3) dX3_law_56 ck12 (Nat.le_of_ble_eq_true rfl) (fun _ => rfl) q1069 (Or.inl rfl) h (fun v22 h => ?_)
      refine AW.aload_n dX3_law_59 rfl ?_
      refine AW.xVR (M' := (m_X3_sum 8)) (t := 3) [] [iV v22, rV v21] dX3_law_60 q1091 q1093 qs27 q127 q1094 ck3 rfl n_X3_sum rfl rfl rfl rfl (fun b w1 e => c_X3_sumD 8 _ b w1 e) h (fun v23 s24 h => ?_)
      refine AW.aast (t := 111) dX3_law_63 (by decide) (Nat.le_of_ble_eq_true rfl) mu111 rfl h (fun s26 h => ?_)
      refine AW.aload_n dX3_law_64 rfl ?_
      refine AW.bipush dX3_law_65 (by decide) ?_
      refine AW.xVU (M' := m_X3_word) (t := 3) [iV 9] [] dX3_law_67 q1142 q1144 qs30 q127 q1145 ck3 rfl n_X3_word rfl rfl rfl rfl (fun _ _ e => c_X3_word e) h (fun _ s27 h => ?_)
      refine AW.aload_n dX3_law_70 rfl ?_
      refine AW.getR (t := 12) (k := 2) dX3_law_71 ck12 (Nat.le_of_ble_eq_true rfl) (fun _ => rfl) q1067 (Or.inl rfl) h (fun v29 h => ?_)
      refine AW.aload_n dX3_law_74 rfl ?_
      refine AW.getI (t := 12) (k := 3) dX3_law_75 ck12 (Nat.le_of_ble_eq_true rfl) (fun _ => rfl) q1069 (Or.inl rfl) h (fun v30 h => ?_)
      refine AW.aload_n dX3_law_78 rfl ?_
      refine AW.xVR (M' := (m_X3_sum 8)) (t := 3) [] [iV v30, rV v29] dX3_law_79 q1091 q1093 qs27 q127 q1094 ck3 rfl n_X3_sum rfl rfl rfl rfl (fun b w1 e => c_X3_sumD 8 _ b w1 e) h (fun v31 s32 h => ?_)
      refine AW.aast (t := 111) dX3_law_82 (by decide) (Nat.le_of_ble_eq_true rfl) mu111 rfl h (fun s34 h => ?_)
      refine AW.aload_n dX3_law_83 rfl ?_
      refine AW.bipush dX3_law_84 (by decide) ?_
      refine AW.xVU (M' := m_X3_word) (t := 3) [iV 10] [] dX3_law_86 q1142 q1144 qs30 q127 q1145 ck3 rfl n_X3_word rfl rfl rfl rfl (fun _ _ e => c_X3_word e) h (fun _ s35 h => ?_)
      refine AW.aload_n dX3_law_89 rfl ?_
      refine AW.dupR dX3_law_90 ?_
      refine AW.getI (t := 12) (k := 3) dX3_law_91 ck12 (Nat.le_of_ble_eq_true rfl) (fun _ => rfl) q1069 (Or.inl rfl) h (fun v37 h => ?_)
      refine AW.iconst dX3_law_94 ?_
      refine AW.iadd dX3_law_95 ?_
      refine AW.nv ?_
      refine AW.putI (t := 12) (k := 3) dX3_law_96 ck12 mu12 (Nat.le_of_ble_eq_true rfl) rfl q1069 (Or.inl rfl) (Or.inl rfl) h (fun s38 h => ?_)
      refine AW.goto (tgt := 14) dX3_law_99 (by decide) ?_
      exact ih _ _ _ h hk
def f_X3_law (s0 : Hp) (x0 : Nat) : Option ((Option Nat ⊕ Nat) × Hp) :=
  nw s0 12 4 fun v1 s2 => (rcv s2 12 v1).bind fun b4 => bn (f_X12_init s2 b4) fun _ s3 => (rcv s3 3 (some x0)).bind fun b6 => bx (f_X3_sign s3 b6 61) fun _ s5 => f_X3_law_L14 x0 FU s5 v1 (fun s40 x1 => (gR s40 12 x1 2).bind fun v41 => (gI s40 12 x1 3).bind fun v42 => (rcv s40 3 (some x0)).bind fun b45 => bx (f_X3_sumD 8 s40 b45) fun v43 s44 => (sE s44 111 v41 v42 v43).bind fun s46 => some (.inl x1, s46))
theorem w_X3_law {σ0 : Hp} {w : (Option Nat ⊕ Nat) × Hp} (s0 : Hp) (x0 : Nat) (h : f_X3_law s0 x0 = some w) : AW m_X3_law σ0 (xo vR w) 0 [some (rV (some x0)), none] [] s0 := by
  unfold f_X3_law at h
  refine AW.new (t := 12) (n := 4) dX3_law_0 ck12 mu12 nf12 q1054 q1055 q151 h (fun v1 s2 h => ?_)
  refine AW.dupR dX3_law_3 ?_
  refine AW.NU (M' := m_X12_init) (t := 12) [] [rV v1] dX3_law_4 (by decide) q1057 q151 q1058 rfl rfl n_X12_init rfl rfl rfl (fun _ _ _ e => c_X12_init e) h (fun _ s3 h => ?_)
  refine AW.astore_n (L' := [some (rV (some x0)), some (rV v1)]) dX3_law_7 (Nat.le_of_ble_eq_true rfl) rfl rfl ?_
  refine AW.aload_n dX3_law_8 rfl ?_
  refine AW.bipush dX3_law_9 (by decide) ?_
  refine AW.xVU (M' := m_X3_sign) (t := 3) [iV 61] [] dX3_law_11 q1079 q1081 qs24 q127 q1082 ck3 rfl n_X3_sign rfl rfl rfl rfl (fun _ _ e => c_X3_sign e) h (fun _ s5 h => ?_)
  refine w_X3_law_L14 _ _ _ _ h (fun s40 x1 h => ?_)
  refine AW.aload_n dX3_law_102 rfl ?_
  refine AW.getR (t := 12) (k := 2) dX3_law_103 ck12 (Nat.le_of_ble_eq_true rfl) (fun _ => rfl) q1067 (Or.inl rfl) h (fun v41 h => ?_)
  refine AW.aload_n dX3_law_106 rfl ?_
  refine AW.getI (t := 12) (k := 3) dX3_law_107 ck12 (Nat.le_of_ble_eq_true rfl) (fun _ => rfl) q1069 (Or.inl rfl) h (fun v42 h => ?_)
  refine AW.aload_n dX3_law_110 rfl ?_
  refine AW.xVR (M' := (m_X3_sum 8)) (t := 3) [] [iV v42, rV v41] dX3_law_111 q1091 q1093 qs27 q127 q1094 ck3 rfl n_X3_sum rfl rfl rfl rfl (fun b w1 e => c_X3_sumD 8 _ b w1 e) h (fun v43 s44 h => ?_)
  refine AW.aast (t := 111) dX3_law_114 (by decide) (Nat.le_of_ble_eq_true rfl) mu111 rfl h (fun s46 h => ?_)
  refine AW.aload_n dX3_law_115 rfl ?_
  cases h
  exact AW.aret dX3_law_116 rfl (Or.inl ⟨_, rfl⟩)
theorem c_X3_law {s0 : Hp} {x0 : Nat} {w1 : (Option Nat ⊕ Nat) × Hp} (h : f_X3_law s0 x0 = some w1) : Ct m_X3_law [rV (some x0)] s0 (xo vR w1) :=
  Ct.of2 (w_X3_law s0 x0 h) (show plainName yX3_law.cls = true by decide) rfl rfl rfl
abbrev m_X4_has : Mi := (yX4_has, cX4_has, (some .boolean), 2, 4, 86, [])
theorem n_X4_has : nameOk yX4_has 1 := ⟨by decide, by decide, by decide +kernel⟩
def f_X4_has (s0 : Hp) (x0 : Nat) (x1 : Option Nat) : Option (Int × Hp) :=
  (gR s0 4 (some x0) 0).bind fun v1 => bn (f_X4_at s0 v1 x1) fun v2 s3 => (if 0 ≤ nrm v2 then (some (1, s3)) else ((gR s3 4 (some x0) 1).bind fun v4 => bn (f_X4_at s3 v4 x1) fun v5 s6 => (if 0 ≤ nrm v5 then (some (1, s6)) else ((gR s6 4 (some x0) 2).bind fun v7 => bn (f_X4_at s6 v7 x1) fun v8 s9 => (if nrm v8 < 0 then (some (0, s9)) else (some (1, s9)))))))
theorem w_X4_has {σ0 : Hp} {w : Int × Hp} (s0 : Hp) (x0 : Nat) (x1 : Option Nat) (h : f_X4_has s0 x0 x1 = some w) : AW m_X4_has σ0 (oI w) 0 [some (rV (some x0)), some (rV x1)] [] s0 := by
  unfold f_X4_has at h
  refine AW.aload_n dX4_has_0 rfl ?_
  refine AW.getR (t := 4) (k := 0) dX4_has_1 ck4 (Nat.le_of_ble_eq_true rfl) (fun _ => rfl) q355 (Or.inl rfl) h (fun v1 h => ?_)
  refine AW.aload_n dX4_has_4 rfl ?_
  refine AW.SI (M' := m_X4_at) [rV v1, rV x1] [] dX4_has_5 q917 q918 q128 q919 n_X4_at rfl rfl rfl (fun _ _ e => c_X4_at e) h (fun v2 s3 h => ?_)
  refine AW.if_ge 33 dX4_has_8 (by decide) h (fun c12 h => ?_) (fun c12 h => ?_)
  · refine AW.iconst dX4_has_33 ?_
    refine AW.goto (tgt := 38) dX4_has_34 (by decide) ?_
    cases h
    exact AW.zret (z := 1) dX4_has_38 rfl zz1
  · refine AW.aload_n dX4_has_11 rfl ?_
    refine AW.getR (t := 4) (k := 1) dX4_has_12 ck4 (Nat.le_of_ble_eq_true rfl) (fun _ => rfl) q359 (Or.inl rfl) h (fun v4 h => ?_)
    refine AW.aload_n dX4_has_15 rfl ?_
    refine AW.SI (M' := m_X4_at) [rV v4, rV x1] [] dX4_has_16 q917 q918 q128 q919 n_X4_at rfl rfl rfl (fun _ _ e => c_X4_at e) h (fun v5 s6 h => ?_)
    refine AW.if_ge 33 dX4_has_19 (by decide) h (fun c11 h => ?_) (fun c11 h => ?_)
    · refine AW.iconst dX4_has_33 ?_
      refine AW.goto (tgt := 38) dX4_has_34 (by decide) ?_
      cases h
      exact AW.zret (z := 1) dX4_has_38 rfl zz1
    · refine AW.aload_n dX4_has_22 rfl ?_
      refine AW.getR (t := 4) (k := 2) dX4_has_23 ck4 (Nat.le_of_ble_eq_true rfl) (fun _ => rfl) q363 (Or.inl rfl) h (fun v7 h => ?_)
      refine AW.aload_n dX4_has_26 rfl ?_
      refine AW.SI (M' := m_X4_at) [rV v7, rV x1] [] dX4_has_27 q917 q918 q128 q919 n_X4_at rfl rfl rfl (fun _ _ e => c_X4_at e) h (fun v8 s9 h => ?_)
      refine AW.if_lt 37 dX4_has_30 (by decide) h (fun c10 h => ?_) (fun c10 h => ?_)
      · refine AW.iconst dX4_has_37 ?_
        cases h
        exact AW.zret (z := 0) dX4_has_38 rfl zz0
      · refine AW.iconst dX4_has_33 ?_
        refine AW.goto (tgt := 38) dX4_has_34 (by decide) ?_
        cases h
        exact AW.zret (z := 1) dX4_has_38 rfl zz1
theorem c_X4_has {s0 : Hp} {x0 : Nat} {x1 : Option Nat} {v : Int} {s1 : Hp} (h : f_X4_has s0 x0 x1 = some (v, s1)) : Ct m_X4_has [rV (some x0), rV x1] s0 (.inl (some (iV v)), s1) :=
  Ct.of2 (w_X4_has s0 x0 x1 h) (show plainName yX4_has.cls = true by decide) rfl rfl rfl
abbrev m_X3_name : Mi := (yX3_name, cX3_name, (some (FieldType.object "java/lang/String")), 3, 7, 214, [])
theorem n_X3_name : nameOk yX3_name 0 := ⟨by decide, by decide, by decide +kernel⟩
def f_X3_name (s0 : Hp) (x0 : Nat) : Option ((Option Nat ⊕ Nat) × Hp) :=
  (rcv s0 3 (some x0)).bind fun b3 => bx (f_X3_take s0 b3 0) fun v1 s2 => (gR s2 3 (some x0) 0).bind fun v4 => (rcv s2 2 v4).bind fun b7 => bn (f_X2_text s2 b7 v1) fun v5 s6 => (gR s6 3 (some x0) 2).bind fun v8 => (rcv s6 4 v8).bind fun b11 => bn (f_X4_has s6 b11 v5) fun v9 s10 => (if nrm v9 = 0 then (some (.inl v5, s10)) else ((rcv s10 3 (some x0)).bind fun b13 => bn (f_X3_tell s10 b13 3 v1) fun _ s12 => some (.inl v5, s12)))
theorem w_X3_name {σ0 : Hp} {w : (Option Nat ⊕ Nat) × Hp} (s0 : Hp) (x0 : Nat) (h : f_X3_name s0 x0 = some w) : AW m_X3_name σ0 (xo vR w) 0 [some (rV (some x0)), none, none] [] s0 := by
  unfold f_X3_name at h
  refine AW.aload_n dX3_name_0 rfl ?_
  refine AW.iconst dX3_name_1 ?_
  refine AW.xVI (M' := m_X3_take) (t := 3) [iV 0] [] dX3_name_2 q747 q749 qs15 q127 q750 ck3 rfl n_X3_take rfl rfl rfl rfl (fun _ _ e => c_X3_take e) h (fun v1 s2 h => ?_)
  refine AW.istore_n (L' := [some (rV (some x0)), some (iV v1), none]) dX3_name_5 (Nat.le_of_ble_eq_true rfl) rfl rfl ?_
  refine AW.aload_n dX3_name_6 rfl ?_
  refine AW.getR (t := 3) (k := 0) dX3_name_7 ck3 (Nat.le_of_ble_eq_true rfl) (fun _ => rfl) q301 (Or.inl rfl) h (fun v4 h => ?_)
  refine AW.iload_n dX3_name_10 rfl ?_
  refine AW.VR (M' := m_X2_text) (t := 2) [iV v1] [] dX3_name_11 q751 q752 q753 q126 q754 ck2 rfl n_X2_text rfl rfl rfl (fun _ _ _ e => c_X2_text e) h (fun v5 s6 h => ?_)
  refine AW.astore_n (L' := [some (rV (some x0)), some (iV v1), some (rV v5)]) dX3_name_14 (Nat.le_of_ble_eq_true rfl) rfl rfl ?_
  refine AW.aload_n dX3_name_15 rfl ?_
  refine AW.getR (t := 3) (k := 2) dX3_name_16 ck3 (Nat.le_of_ble_eq_true rfl) (fun _ => rfl) q303 (Or.inl rfl) h (fun v8 h => ?_)
  refine AW.aload_n dX3_name_19 rfl ?_
  refine AW.VI (M' := m_X4_has) (t := 4) [rV v5] [] dX3_name_20 q913 q914 q915 q128 q916 ck4 rfl n_X4_has rfl rfl rfl (fun _ _ _ e => c_X4_has e) h (fun v9 s10 h => ?_)
  refine AW.if_eq 32 dX3_name_23 (by decide) h (fun c14 h => ?_) (fun c14 h => ?_)
  · refine AW.aload_n dX3_name_32 rfl ?_
    cases h
    exact AW.aret dX3_name_33 rfl (Or.inl ⟨_, rfl⟩)
  · refine AW.aload_n dX3_name_26 rfl ?_
    refine AW.iconst dX3_name_27 ?_
    refine AW.iload_n dX3_name_28 rfl ?_
    refine AW.VU (M' := m_X3_tell) (t := 3) [iV 3, iV v1] [] dX3_name_29 q931 q933 qs16 q127 q934 ck3 rfl n_X3_tell rfl rfl rfl (fun _ _ _ e => c_X3_tell e) h (fun _ s12 h => ?_)
    refine AW.aload_n dX3_name_32 rfl ?_
    cases h
    exact AW.aret dX3_name_33 rfl (Or.inl ⟨_, rfl⟩)
theorem c_X3_name {s0 : Hp} {x0 : Nat} {w1 : (Option Nat ⊕ Nat) × Hp} (h : f_X3_name s0 x0 = some w1) : Ct m_X3_name [rV (some x0)] s0 (xo vR w1) :=
  Ct.of2 (w_X3_name s0 x0 h) (show plainName yX3_name.cls = true by decide) rfl rfl rfl
abbrev m_X3_number : Mi := (yX3_number, cX3_number, (some .int), 5, 5, 106, [])
theorem n_X3_number : nameOk yX3_number 2 := ⟨by decide, by decide, by decide +kernel⟩
def f_X3_number (s0 : Hp) (x0 : Nat) (x1 : Int) (x2 : Int) : Option ((Int ⊕ Nat) × Hp) :=
  (rcv s0 3 (some x0)).bind fun b3 => bx (f_X3_take s0 b3 1) fun v1 s2 => (gR s2 3 (some x0) 0).bind fun v4 => (rcv s2 2 v4).bind fun b7 => bn (f_X2_number s2 b7 v1) fun v5 s6 => jn (fun (s8 : Hp) (x3 : Int) (x4 : Int) => (rcv s8 3 (some x0)).bind fun b10 => bn (f_X3_tell s8 b10 5 x3) fun _ s9 => some (.inl (nrm x4), s9)) fun j28 => (if nrm v5 < nrm x1 then (j28 s6 v1 v5) else ((if nrm v5 ≤ nrm x2 then (some (.inl v5, s6)) else (j28 s6 v1 v5))))
theorem w_X3_number {σ0 : Hp} {w : (Int ⊕ Nat) × Hp} (s0 : Hp) (x0 : Nat) (x1 : Int) (x2 : Int) (h : f_X3_number s0 x0 x1 x2 = some w) : AW m_X3_number σ0 (xo vI w) 0 [some (rV (some x0)), some (iV x1), some (iV x2), none, none] [] s0 := by
  unfold f_X3_number at h
  refine AW.aload_n dX3_number_0 rfl ?_
  refine AW.iconst dX3_number_1 ?_
  refine AW.xVI (M' := m_X3_take) (t := 3) [iV 1] [] dX3_number_2 q747 q749 qs15 q127 q750 ck3 rfl n_X3_take rfl rfl rfl rfl (fun _ _ e => c_X3_take e) h (fun v1 s2 h => ?_)
  refine AW.istore_n (L' := [some (rV (some x0)), some (iV x1), some (iV x2), some (iV v1), none]) dX3_number_5 (Nat.le_of_ble_eq_true rfl) rfl rfl ?_
  refine AW.aload_n dX3_number_6 rfl ?_
  refine AW.getR (t := 3) (k := 0) dX3_number_7 ck3 (Nat.le_of_ble_eq_true rfl) (fun _ => rfl) q301 (Or.inl rfl) h (fun v4 h => ?_)
  refine AW.iload_n dX3_number_10 rfl ?_
  refine AW.VI (M' := m_X2_number) (t := 2) [iV v1] [] dX3_number_11 q1046 q1047 q1048 q126 q1049 ck2 rfl n_X2_number rfl rfl rfl (fun _ _ _ e => c_X2_number e) h (fun v5 s6 h => ?_)
  refine AW.istore (L' := [some (rV (some x0)), some (iV x1), some (iV x2), some (iV v1), some (iV v5)]) dX3_number_14 (Nat.le_of_ble_eq_true rfl) rfl rfl ?_
  refine AW.iload dX3_number_16 rfl ?_
  refine AW.iload_n dX3_number_18 rfl ?_
  refine jn_elim h (fun (j : (Hp → Int → Int → Option ((Int ⊕ Nat) × Hp))) => ∀ (s8 : Hp) (x3 : Int) (x4 : Int), j s8 x3 x4 = some w → AW m_X3_number σ0 (xo vI w) 28 [some (rV (some x0)), none, none, some (iV x3), some (iV x4)] [] s8) ?_ (fun j28 hj28 h => ?_)
  · intro s8 x3 x4 h
    refine AW.aload_n dX3_number_28 rfl ?_
    refine AW.iconst dX3_number_29 ?_
    refine AW.iload_n dX3_number_30 rfl ?_
    refine AW.VU (M' := m_X3_tell) (t := 3) [iV 5, iV x3] [] dX3_number_31 q931 q933 qs16 q127 q934 ck3 rfl n_X3_tell rfl rfl rfl (fun _ _ _ e => c_X3_tell e) h (fun _ s9 h => ?_)
    refine AW.iload dX3_number_34 rfl ?_
    refine AW.nv ?_
    cases h
    exact AW.iret dX3_number_36 rfl
  · refine AW.icmp_lt 28 dX3_number_19 (by decide) h (fun c12 h => ?_) (fun c12 h => ?_)
    · exact AW.fewer (L' := [some (rV (some x0)), none, none, some (iV v1), some (iV v5)]) (And.intro rfl (And.intro rfl (And.intro rfl trivial))) (hj28 _ _ _ h)
    · refine AW.iload dX3_number_22 rfl ?_
      refine AW.iload_n dX3_number_24 rfl ?_
      refine AW.icmp_le 34 dX3_number_25 (by decide) h (fun c11 h => ?_) (fun c11 h => ?_)
      · refine AW.iload dX3_number_34 rfl ?_
        cases h
        exact AW.iret dX3_number_36 rfl
      · exact AW.fewer (L' := [some (rV (some x0)), none, none, some (iV v1), some (iV v5)]) (And.intro rfl (And.intro rfl (And.intro rfl trivial))) (hj28 _ _ _ h)
theorem c_X3_number {s0 : Hp} {x0 : Nat} {x1 : Int} {x2 : Int} {w1 : (Int ⊕ Nat) × Hp} (h : f_X3_number s0 x0 x1 x2 = some w1) : Ct m_X3_number [rV (some x0), iV x1, iV x2] s0 (xo vI w1) :=
  Ct.of2 (w_X3_number s0 x0 x1 x2 h) (show plainName yX3_number.cls = true by decide) rfl rfl rfl
abbrev m_X10_init : Mi := (yX10_init, cX10_init, none, 2, 2, 41, [])
theorem n_X10_init : nameOk yX10_init 1 := ⟨by decide, by decide, by decide +kernel⟩
def f_X10_init (s0 : Hp) (x0 : Nat) (x1 : Option Nat) : Option (Unit × Hp) :=
  (rcv s0 10 (some x0)).bind fun b2 => bn (f_X9_init s0 b2 x1) fun _ s1 => nwA s1 100 24 fun v3 s4 => (pR s4 10 (some x0) 1 v3).bind fun s5 => some ((), s5)
theorem w_X10_init {σ0 : Hp} {w : Unit × Hp} (s0 : Hp) (x0 : Nat) (x1 : Option Nat) (h : f_X10_init s0 x0 x1 = some w) : AW m_X10_init σ0 (oU w) 0 [some (rV (some x0)), some (rV x1)] [] s0 := by
  unfold f_X10_init at h
  refine AW.aload_n dX10_init_0 rfl ?_
  refine AW.aload_n dX10_init_1 rfl ?_
  refine AW.IU (M' := m_X9_init) (t := 10) [rV x1] [] dX10_init_2 q938 q939 q143 q940 rfl rfl n_X9_init rfl rfl rfl (fun _ _ _ e => c_X9_init e) h (fun _ s1 h => ?_)
  refine AW.aload_n dX10_init_5 rfl ?_
  refine AW.bipush dX10_init_6 (by decide) ?_
  refine AW.newa (t := 100) (atype := .int) dX10_init_8 (Nat.le_of_ble_eq_true rfl) mu100 rfl (by decide) (fun _ h => by cases h) ⟨(fun h => by cases h), (fun h => by cases h)⟩ (by decide) q420 h (fun v3 s4 h => ?_)
  refine AW.putR (t := 10) (k := 1) dX10_init_10 ck10 mu10 (Nat.le_of_ble_eq_true rfl) (Or.inr ⟨_, rfl⟩) q942 (Or.inl rfl) (Or.inr ⟨rfl, rfl⟩) h (fun s5 h => ?_)
  cases h
  exact AW.vret dX10_init_13 rfl
theorem c_X10_init {s0 : Hp} {x0 : Nat} {x1 : Option Nat} {v : Unit} {s1 : Hp} (h : f_X10_init s0 x0 x1 = some (v, s1)) : Ct m_X10_init [rV (some x0), rV x1] s0 (.inl none, s1) :=
  Ct.of2 (w_X10_init s0 x0 x1 h) (show plainName yX10_init.cls = true by decide) rfl rfl rfl
abbrev m_J5_grow_2 : Mi := (yJ5_grow_2, cJ5_grow_2, (some (FieldType.array (FieldType.object "java/lang/Object"))), 4, 1, 30, [])
theorem n_J5_grow_2 : nameOk yJ5_grow_2 1 := ⟨by decide, by decide, by decide +kernel⟩
def f_J5_grow_2 (s0 : Hp) (x0 : Nat) (x1 : Int) : Option ((Option Nat) × Hp) :=
  (gR s0 18 (some x0) 1).bind fun v1 => (aLk s0 [109, 159] v1).bind fun v2 => jn (fun (s3 : Hp) (x1 : Int) (x2 : Int) => none) fun j20 => (if 0 < nrm v2 then (j20 s0 x1 v2) else ((gR s0 18 (some x0) 1).bind fun v4 => (if v4 = (cR s0.2.2.2 (0 + 1)) then (nwA s0 109 (mxI 10 x1) fun v5 s6 => (pR s6 18 (some x0) 1 v5).bind fun s7 => some (v5, s7)) else (j20 s0 x1 v2))))
theorem w_J5_grow_2 {σ0 : Hp} {w : (Option Nat) × Hp} (s0 : Hp) (x0 : Nat) (x1 : Int) (h : f_J5_grow_2 s0 x0 x1 = some w) : AW m_J5_grow_2 σ0 (oR w) 0 [some (rV (some x0)), some (iV x1), none, none] [] s0 := by
  unfold f_J5_grow_2 at h
  refine AW.aload_n dJ5_grow_2_0 rfl ?_
  refine AW.getR (t := 18) (k := 1) dJ5_grow_2_1 ck18 (Nat.le_of_ble_eq_true rfl) (fun _ => rfl) q343 (Or.inl rfl) h (fun v1 h => ?_)
  refine AW.alenK (ts := [109, 159]) dJ5_grow_2_4 (by decide) h (fun v2 h => ?_)
  refine AW.istore_n (L' := [some (rV (some x0)), some (iV x1), some (iV v2), none]) dJ5_grow_2_5 (Nat.le_of_ble_eq_true rfl) rfl rfl ?_
  refine AW.iload_n dJ5_grow_2_6 rfl ?_
  refine jn_elim h (fun (j : (Hp → Int → Int → Option ((Option Nat) × Hp))) => ∀ (s3 : Hp) (x1 : Int) (x2 : Int), j s3 x1 x2 = some w → AW m_J5_grow_2 σ0 (oR w) 20 [some (rV (some x0)), some (iV x1), some (iV x2), none] [] s3) ?_ (fun j20 hj20 h => ?_)
  · intro s3 x1 x2 h
    cases h
  · refine AW.if_gt 20 dJ5_grow_2_7 (by decide) h (fun c9 h => ?_) (fun c9 h => ?_)
    · exact hj20 _ _ _ h
    · refine AW.aload_n dJ5_grow_2_10 rfl ?_
      refine AW.getR (t := 18) (k := 1) dJ5_grow_2_11 ck18 (Nat.le_of_ble_eq_true rfl) (fun _ => rfl) q343 (Or.inl rfl) h (fun v4 h => ?_)
      refine AW.getsR 0 dJ5_grow_2_14 rfl q341 ?_
      refine AW.acmp_eq 45 dJ5_grow_2_17 (by decide) h (fun c8 h => ?_) (fun c8 h => ?_)
      · refine AW.aload_n dJ5_grow_2_45 rfl ?_
        refine AW.bipush dJ5_grow_2_46 (by decide) ?_
        refine AW.iload_n dJ5_grow_2_48 rfl ?_
        refine AW.mmax dJ5_grow_2_49 q1006 rfl rfl ?_
        refine AW.anewa (t := 109) dJ5_grow_2_52 (Nat.le_of_ble_eq_true rfl) mu109 rfl q1007 (by decide) h (fun v5 s6 h => ?_)
        refine AW.dup_x1RR dJ5_grow_2_55 ?_
        refine AW.putR (t := 18) (k := 1) dJ5_grow_2_56 ck18 mu18 (Nat.le_of_ble_eq_true rfl) (Or.inr ⟨_, rfl⟩) q343 (Or.inl rfl) (Or.inl rfl) h (fun s7 h => ?_)
        cases h
        exact AW.aret dJ5_grow_2_59 rfl (Or.inr ⟨_, rfl⟩)
      · exact hj20 _ _ _ h
theorem c_J5_grow_2 {s0 : Hp} {x0 : Nat} {x1 : Int} {v : Option Nat} {s1 : Hp} (h : f_J5_grow_2 s0 x0 x1 = some (v, s1)) : Ct m_J5_grow_2 [rV (some x0), iV x1] s0 (.inl (some (rV v)), s1) :=
  Ct.of2 (w_J5_grow_2 s0 x0 x1 h) (show plainName yJ5_grow_2.cls = true by decide) rfl rfl rfl
abbrev m_J5_grow : Mi := (yJ5_grow, cJ5_grow, (some (FieldType.array (FieldType.object "java/lang/Object"))), 1, 2, 53, [])
theorem n_J5_grow : nameOk yJ5_grow 0 := ⟨by decide, by decide, by decide +kernel⟩
def f_J5_grow (s0 : Hp) (x0 : Nat) : Option ((Option Nat) × Hp) :=
  (gI s0 18 (some x0) 2).bind fun v1 => (rcv s0 18 (some x0)).bind fun b4 => bn (f_J5_grow_2 s0 b4 (v1 + 1)) fun v2 s3 => some (v2, s3)
theorem w_J5_grow {σ0 : Hp} {w : (Option Nat) × Hp} (s0 : Hp) (x0 : Nat) (h : f_J5_grow s0 x0 = some w) : AW m_J5_grow σ0 (oR w) 0 [some (rV (some x0))] [] s0 := by
  unfold f_J5_grow at h
  refine AW.aload_n dJ5_grow_0 rfl ?_
  refine AW.aload_n dJ5_grow_1 rfl ?_
  refine AW.getI (t := 18) (k := 2) dJ5_grow_2 ck18 (Nat.le_of_ble_eq_true rfl) (fun _ => rfl) q344 (Or.inl rfl) h (fun v1 h => ?_)
  refine AW.iconst dJ5_grow_5 ?_
  refine AW.iadd dJ5_grow_6 ?_
  refine AW.VR (M' := m_J5_grow_2) (t := 18) [iV (v1 + 1)] [] dJ5_grow_7 q969 q971 qs19 q131 q972 ck18 rfl n_J5_grow_2 rfl rfl rfl (fun _ _ _ e => c_J5_grow_2 e) h (fun v2 s3 h => ?_)
  cases h
  exact AW.aret dJ5_grow_10 rfl (Or.inr ⟨_, rfl⟩)
theorem c_J5_grow {s0 : Hp} {x0 : Nat} {v : Option Nat} {s1 : Hp} (h : f_J5_grow s0 x0 = some (v, s1)) : Ct m_J5_grow [rV (some x0)] s0 (.inl (some (rV v)), s1) :=
  Ct.of2 (w_J5_grow s0 x0 h) (show plainName yJ5_grow.cls = true by decide) rfl rfl rfl
abbrev m_J5_add_2 : Mi := (yJ5_add_2, cJ5_add_2, none, 4, 3, 73, [])
theorem n_J5_add_2 : nameOk yJ5_add_2 3 := ⟨by decide, by decide, by decide +kernel⟩
def f_J5_add_2 (s0 : Hp) (x0 : Nat) (x1 : Option Nat) (x2 : Option Nat) (x3 : Int) : Option (Unit × Hp) :=
  (aLk s0 [109, 159] x2).bind fun v1 => jn (fun (s2 : Hp) (x1 : Option Nat) (x2 : Option Nat) (x3 : Int) => (sE s2 109 x2 x3 x1).bind fun s3 => (pI s3 18 (some x0) 2 (nrm (x3 + 1))).bind fun s4 => some ((), s4)) fun j11 => (if ¬ nrm x3 = nrm v1 then (j11 s0 x1 x2 x3) else ((rcv s0 18 (some x0)).bind fun b7 => bn (f_J5_grow s0 b7) fun v5 s6 => j11 s6 x1 v5 x3))
theorem w_J5_add_2 {σ0 : Hp} {w : Unit × Hp} (s0 : Hp) (x0 : Nat) (x1 : Option Nat) (x2 : Option Nat) (x3 : Int) (h : f_J5_add_2 s0 x0 x1 x2 x3 = some w) : AW m_J5_add_2 σ0 (oU w) 0 [some (rV (some x0)), some (rV x1), some (rV x2), some (iV x3)] [] s0 := by
  unfold f_J5_add_2 at h
  refine AW.iload_n dJ5_add_2_0 rfl ?_
  refine AW.aload_n dJ5_add_2_1 rfl ?_
  refine AW.alenK (ts := [109, 159]) dJ5_add_2_2 (by decide) h (fun v1 h => ?_)
  refine jn_elim h (fun (j : (Hp → Option Nat → Option Nat → Int → Option (Unit × Hp))) => ∀ (s2 : Hp) (x1 : Option Nat) (x2 : Option Nat) (x3 : Int), j s2 x1 x2 x3 = some w → AW m_J5_add_2 σ0 (oU w) 11 [some (rV (some x0)), some (rV x1), some (rV x2), some (iV x3)] [] s2) ?_ (fun j11 hj11 h => ?_)
  · intro s2 x1 x2 x3 h
    refine AW.aload_n dJ5_add_2_11 rfl ?_
    refine AW.iload_n dJ5_add_2_12 rfl ?_
    refine AW.aload_n dJ5_add_2_13 rfl ?_
    refine AW.aast (t := 109) dJ5_add_2_14 (by decide) (Nat.le_of_ble_eq_true rfl) mu109 rfl h (fun s3 h => ?_)
    refine AW.aload_n dJ5_add_2_15 rfl ?_
    refine AW.iload_n dJ5_add_2_16 rfl ?_
    refine AW.iconst dJ5_add_2_17 ?_
    refine AW.iadd dJ5_add_2_18 ?_
    refine AW.nv ?_
    refine AW.putI (t := 18) (k := 2) dJ5_add_2_19 ck18 mu18 (Nat.le_of_ble_eq_true rfl) rfl q344 (Or.inl rfl) (Or.inl rfl) h (fun s4 h => ?_)
    cases h
    exact AW.vret dJ5_add_2_22 rfl
  · refine AW.icmp_ne 11 dJ5_add_2_3 (by decide) h (fun c8 h => ?_) (fun c8 h => ?_)
    · exact hj11 _ _ _ _ h
    · refine AW.aload_n dJ5_add_2_6 rfl ?_
      refine AW.VR (M' := m_J5_grow) (t := 18) [] [] dJ5_add_2_7 q965 q967 qs18 q131 q968 ck18 rfl n_J5_grow rfl rfl rfl (fun _ _ _ e => c_J5_grow e) h (fun v5 s6 h => ?_)
      refine AW.astore_n (L' := [some (rV (some x0)), some (rV x1), some (rV v5), some (iV x3)]) dJ5_add_2_10 (Nat.le_of_ble_eq_true rfl) rfl rfl ?_
      exact hj11 _ _ _ _ h
theorem c_J5_add_2 {s0 : Hp} {x0 : Nat} {x1 : Option Nat} {x2 : Option Nat} {x3 : Int} {v : Unit} {s1 : Hp} (h : f_J5_add_2 s0 x0 x1 x2 x3 = some (v, s1)) : Ct m_J5_add_2 [rV (some x0), rV x1, rV x2, iV x3] s0 (.inl none, s1) :=
  Ct.of2 (w_J5_add_2 s0 x0 x1 x2 x3 h) (show plainName yJ5_add_2.cls = true by decide) rfl rfl rfl
abbrev m_J5_add : Mi := (yJ5_add, cJ5_add, (some .boolean), 2, 4, 96, [])
theorem n_J5_add : nameOk yJ5_add 1 := ⟨by decide, by decide, by decide +kernel⟩
def f_J5_add (s0 : Hp) (x0 : Nat) (x1 : Option Nat) : Option (Int × Hp) :=
  (gI s0 18 (some x0) 0).bind fun v1 => (pI s0 18 (some x0) 0 (nrm (v1 + 1))).bind fun s2 => (gR s2 18 (some x0) 1).bind fun v3 => (gI s2 18 (some x0) 2).bind fun v4 => (rcv s2 18 (some x0)).bind fun b6 => bn (f_J5_add_2 s2 b6 x1 v3 v4) fun _ s5 => some (1, s5)
theorem w_J5_add {σ0 : Hp} {w : Int × Hp} (s0 : Hp) (x0 : Nat) (x1 : Option Nat) (h : f_J5_add s0 x0 x1 = some w) : AW m_J5_add σ0 (oI w) 0 [some (rV (some x0)), some (rV x1)] [] s0 := by
  unfold f_J5_add at h
  refine AW.aload_n dJ5_add_0 rfl ?_
  refine AW.dupR dJ5_add_1 ?_
  refine AW.getI (t := 18) (k := 0) dJ5_add_2 ck18 (Nat.le_of_ble_eq_true rfl) (fun _ => rfl) q346 (Or.inr q347) h (fun v1 h => ?_)
  refine AW.iconst dJ5_add_5 ?_
  refine AW.iadd dJ5_add_6 ?_
  refine AW.nv ?_
  refine AW.putI (t := 18) (k := 0) dJ5_add_7 ck18 mu18 (Nat.le_of_ble_eq_true rfl) rfl q346 (Or.inr q347) (Or.inl rfl) h (fun s2 h => ?_)
  refine AW.aload_n dJ5_add_10 rfl ?_
  refine AW.aload_n dJ5_add_11 rfl ?_
  refine AW.aload_n dJ5_add_12 rfl ?_
  refine AW.getR (t := 18) (k := 1) dJ5_add_13 ck18 (Nat.le_of_ble_eq_true rfl) (fun _ => rfl) q343 (Or.inl rfl) h (fun v3 h => ?_)
  refine AW.aload_n dJ5_add_16 rfl ?_
  refine AW.getI (t := 18) (k := 2) dJ5_add_17 ck18 (Nat.le_of_ble_eq_true rfl) (fun _ => rfl) q344 (Or.inl rfl) h (fun v4 h => ?_)
  refine AW.VU (M' := m_J5_add_2) (t := 18) [rV x1, rV v3, iV v4] [] dJ5_add_20 q961 q963 qs17 q131 q964 ck18 rfl n_J5_add_2 rfl rfl rfl (fun _ _ _ e => c_J5_add_2 e) h (fun _ s5 h => ?_)
  refine AW.iconst dJ5_add_23 ?_
  cases h
  exact AW.zret (z := 1) dJ5_add_24 rfl zz1
theorem c_J5_add {s0 : Hp} {x0 : Nat} {x1 : Option Nat} {v : Int} {s1 : Hp} (h : f_J5_add s0 x0 x1 = some (v, s1)) : Ct m_J5_add [rV (some x0), rV x1] s0 (.inl (some (iV v)), s1) :=
  Ct.of2 (w_J5_add s0 x0 x1 h) (show plainName yJ5_add.cls = true by decide) rfl rfl rfl
abbrev m_X3_told : Mi := (yX3_told, cX3_told, none, 4, 48, 3643, [])
theorem n_X3_told : nameOk yX3_told 0 := ⟨by decide, by decide, by decide +kernel⟩
def f_X3_told (s0 : Hp) (x0 : Nat) : Option ((Unit ⊕ Nat) × Hp) :=
  (rcv s0 3 (some x0)).bind fun b3 => bx (f_X3_sort s0 b3) fun v1 s2 => jn (fun (s4 : Hp) (y0 : Int) => (if nrm y0 = 0 then ((gR s4 3 (some x0) 2).bind fun v5 => (gR s4 4 v5 0).bind fun v6 => (rcv s4 18 v6).bind fun b9 => bn (f_J5_size s4 b9) fun v7 s8 => (rcv s8 3 (some x0)).bind fun b11 => bx (f_X3_begins s8 b11 v7 8) fun _ s10 => (gR s10 3 (some x0) 2).bind fun v12 => (gR s10 4 v12 0).bind fun v13 => nw s10 10 3 fun v14 s15 => (rcv s15 3 (some x0)).bind fun b18 => bx (f_X3_name s15 b18) fun v16 s17 => (rcv s17 10 v14).bind fun b20 => bn (f_X10_init s17 b20 v16) fun _ s19 => (rcv s19 18 v13).bind fun b23 => bn (f_J5_add s19 b23 v14) fun v21 s22 => some (.inl (), s22)) else (if nrm y0 = 1 then ((rcv s4 3 (some x0)).bind fun b25 => bx (f_X3_doorTold s4 b25) fun _ s24 => some (.inl (), s24)) else (if nrm y0 = 2 then ((gR s4 3 (some x0) 2).bind fun v26 => (gR s4 4 v26 1).bind fun v27 => (rcv s4 18 v27).bind fun b30 => bn (f_J5_size s4 b30) fun v28 s29 => (rcv s29 3 (some x0)).bind fun b32 => bx (f_X3_begins s29 b32 v28 6) fun _ s31 => nw s31 11 4 fun v33 s34 => (rcv s34 3 (some x0)).bind fun b37 => bx (f_X3_name s34 b37) fun v35 s36 => (rcv s36 11 v33).bind fun b39 => bn (f_X11_init s36 b39 v35) fun _ s38 => (rcv s38 3 (some x0)).bind fun b42 => bx (f_X3_number s38 b42 0 20) fun v40 s41 => (pI s41 11 v33 1 v40).bind fun s43 => (gR s43 3 (some x0) 2).bind fun v44 => (gR s43 4 v44 0).bind fun v45 => (rcv s43 3 (some x0)).bind fun b48 => bx (f_X3_known s43 b48 v45) fun v46 s47 => (pI s47 11 v33 2 v46).bind fun s49 => (gR s49 3 (some x0) 2).bind fun v50 => (gR s49 4 v50 1).bind fun v51 => (rcv s49 18 v51).bind fun b54 => bn (f_J5_add s49 b54 v33) fun v52 s53 => some (.inl (), s53)) else (if nrm y0 = 3 then ((rcv s4 3 (some x0)).bind fun b56 => bx (f_X3_pass s4 b56) fun _ s55 => (gR s55 3 (some x0) 2).bind fun v57 => (gR s55 4 v57 1).bind fun v58 => (rcv s55 3 (some x0)).bind fun b61 => bx (f_X3_known s55 b61 v58) fun v59 s60 => (rcv s60 3 (some x0)).bind fun b64 => bx (f_X3_law s60 b64) fun v62 s63 => (if nrm v59 < 0 then (some (.inl (), s63)) else ((gR s63 3 (some x0) 2).bind fun v65 => (gR s63 4 v65 1).bind fun v66 => (rcv s63 18 v66).bind fun b69 => bn (f_J5_get s63 b69 v59) fun v67 s68 => (kst s68 [11] v67).bind fun v70 => (pR s68 11 v70 3 v62).bind fun s71 => some (.inl (), s71)))) else (if nrm y0 = 4 then ((gR s4 3 (some x0) 2).bind fun v73 => (gR s4 4 v73 2).bind fun v74 => (rcv s4 18 v74).bind fun b77 => bn (f_J5_size s4 b77) fun v75 s76 => (rcv s76 3 (some x0)).bind fun b79 => bx (f_X3_begins s76 b79 v75 8) fun _ s78 => nw s78 17 3 fun v80 s81 => (rcv s81 3 (some x0)).bind fun b84 => bx (f_X3_name s81 b84) fun v82 s83 => (rcv s83 17 v80).bind fun b86 => bn (f_X17_init s83 b86 v82) fun _ s85 => (gR s85 3 (some x0) 2).bind fun v87 => (gR s85 4 v87 0).bind fun v88 => (rcv s85 3 (some x0)).bind fun b91 => bx (f_X3_known s85 b91 v88) fun v89 s90 => (pI s90 17 v80 1 v89).bind fun s92 => (gR s92 3 (some x0) 2).bind fun v93 => (gR s92 4 v93 1).bind fun v94 => (rcv s92 3 (some x0)).bind fun b97 => bx (f_X3_known s92 b97 v94) fun v95 s96 => (pI s96 17 v80 2 v95).bind fun s98 => (gR s98 3 (some x0) 2).bind fun v99 => (gR s98 4 v99 2).bind fun v100 => (rcv s98 18 v100).bind fun b103 => bn (f_J5_add s98 b103 v80) fun v101 s102 => some (.inl (), s102)) else (if nrm y0 = 5 then ((rcv s4 3 (some x0)).bind fun b105 => bx (f_X3_pass s4 b105) fun _ s104 => (gR s104 3 (some x0) 2).bind fun v106 => (rcv s104 3 (some x0)).bind fun b109 => bx (f_X3_law s104 b109) fun v107 s108 => (pR s108 4 v106 6 v107).bind fun s110 => some (.inl (), s110)) else (if nrm y0 = 6 then ((rcv s4 3 (some x0)).bind fun b112 => bx (f_X3_pass s4 b112) fun _ s111 => (gR s111 3 (some x0) 2).bind fun v113 => (rcv s111 3 (some x0)).bind fun b116 => bx (f_X3_number s111 b116 0 100) fun v114 s115 => (pI s115 4 v113 4 v114).bind fun s117 => some (.inl (), s117)) else (if nrm y0 = 7 then ((rcv s4 3 (some x0)).bind fun b119 => bx (f_X3_pass s4 b119) fun _ s118 => (gR s118 3 (some x0) 2).bind fun v120 => (rcv s118 3 (some x0)).bind fun b123 => bx (f_X3_number s118 b123 0 9999) fun v121 s122 => (pI s122 4 v120 5 v121).bind fun s124 => some (.inl (), s124)) else ((rcv s4 3 (some x0)).bind fun b127 => bn (f_X3_wrong s4 b127 1) fun v125 s126 => thr s126 v125)))))))))) fun j24 => (if ¬ nrm v1 = nrm 3 then (j24 s2 (-1)) else ((gR s2 3 (some x0) 0).bind fun v136 => (gR s2 2 v136 6).bind fun v137 => (gI s2 3 (some x0) 3).bind fun v138 => (aI s2 103 v137 v138).bind fun v139 => j24 s2 v139))
theorem w_X3_told {σ0 : Hp} {w : (Unit ⊕ Nat) × Hp} (s0 : Hp) (x0 : Nat) (h : f_X3_told s0 x0 = some w) : AW m_X3_told σ0 (xo vU w) 0 [some (rV (some x0)), none, none, none] [] s0 := by
  unfold f_X3_told at h
  refine AW.aload_n dX3_told_0 rfl ?_
  refine AW.xVI (M' := m_X3_sort) (t := 3) [] [] dX3_told_1 q712 q714 qs8 q127 q715 ck3 rfl n_X3_sort rfl rfl rfl rfl (fun _ _ e => c_X3_sort e) h (fun v1 s2 h => ?_)
  refine AW.iconst dX3_told_4 ?_
  refine jn_elim h (fun (j : (Hp → Int → Option ((Unit ⊕ Nat) × Hp))) => ∀ (s4 : Hp) (y0 : Int), j s4 y0 = some w → AW m_X3_told σ0 (xo vU w) 24 [some (rV (some x0)), none, none, none] [iV y0] s4) ?_ (fun j24 hj24 h => ?_)
  · intro s4 y0 h
    refine AW.istore_n (L' := [some (rV (some x0)), some (iV y0), none, none]) dX3_told_24 (Nat.le_of_ble_eq_true rfl) rfl rfl ?_
    refine AW.iload_n dX3_told_25 rfl ?_
    rcases ite_or h with ⟨c135, h⟩ | ⟨c135, h⟩
    · refine AW.tIn 0 72 dX3_told_26 (by omega) (by decide) rfl (by decide) ?_
      refine AW.aload_n dX3_told_72 rfl ?_
      refine AW.aload_n dX3_told_73 rfl ?_
      refine AW.getR (t := 3) (k := 2) dX3_told_74 ck3 (Nat.le_of_ble_eq_true rfl) (fun _ => rfl) q303 (Or.inl rfl) h (fun v5 h => ?_)
      refine AW.getR (t := 4) (k := 0) dX3_told_77 ck4 (Nat.le_of_ble_eq_true rfl) (fun _ => rfl) q358 (Or.inl rfl) h (fun v6 h => ?_)
      refine AW.VI (M' := m_J5_size) (t := 18) [] [rV (some x0)] dX3_told_80 q732 q485 q486 q131 q487 ck18 rfl n_J5_size rfl rfl rfl (fun _ _ _ e => c_J5_size e) h (fun v7 s8 h => ?_)
      refine AW.bipush dX3_told_83 (by decide) ?_
      refine AW.xVU (M' := m_X3_begins) (t := 3) [iV v7, iV 8] [] dX3_told_85 q733 q735 qs12 q127 q736 ck3 rfl n_X3_begins rfl rfl rfl rfl (fun _ _ e => c_X3_begins e) h (fun _ s10 h => ?_)
      refine AW.aload_n dX3_told_88 rfl ?_
      refine AW.getR (t := 3) (k := 2) dX3_told_89 ck3 (Nat.le_of_ble_eq_true rfl) (fun _ => rfl) q303 (Or.inl rfl) h (fun v12 h => ?_)
      refine AW.getR (t := 4) (k := 0) dX3_told_92 ck4 (Nat.le_of_ble_eq_true rfl) (fun _ => rfl) q358 (Or.inl rfl) h (fun v13 h => ?_)
      refine AW.new (t := 10) (n := 3) dX3_told_95 ck10 mu10 nf10 q741 q742 q144 h (fun v14 s15 h => ?_)
      refine AW.dupR dX3_told_98 ?_
      refine AW.aload_n dX3_told_99 rfl ?_
      refine AW.xVR (M' := m_X3_name) (t := 3) [] [rV v14, rV v14, rV v13] dX3_told_100 q743 q745 qs14 q127 q746 ck3 rfl n_X3_name rfl rfl rfl rfl (fun _ _ e => c_X3_name e) h (fun v16 s17 h => ?_)
      refine AW.IU (M' := m_X10_init) (t := 10) [rV v16] [rV v14, rV v13] dX3_told_103 q935 q936 q144 q937 rfl rfl n_X10_init rfl rfl rfl (fun _ _ _ e => c_X10_init e) h (fun _ s19 h => ?_)
      refine AW.VI (M' := m_J5_add) (t := 18) [rV v14] [] dX3_told_106 q957 q958 q959 q131 q960 ck18 rfl n_J5_add rfl rfl rfl (fun _ _ _ e => c_J5_add e) h (fun v21 s22 h => ?_)
      refine AW.popI dX3_told_109 ?_
      refine AW.goto (tgt := 375) dX3_told_110 (by decide) ?_
      cases h
      exact AW.vret dX3_told_375 rfl
    · rcases ite_or h with ⟨c134, h⟩ | ⟨c134, h⟩
      · refine AW.tIn 1 113 dX3_told_26 (by omega) (by decide) rfl (by decide) ?_
        refine AW.aload_n dX3_told_113 rfl ?_
        refine AW.xVU (M' := m_X3_doorTold) (t := 3) [] [] dX3_told_114 q1008 q1010 qs20 q127 q1011 ck3 rfl n_X3_doorTold rfl rfl rfl rfl (fun _ _ e => c_X3_doorTold e) h (fun _ s24 h => ?_)
        refine AW.goto (tgt := 375) dX3_told_117 (by decide) ?_
        cases h
        exact AW.vret dX3_told_375 rfl
      · rcases ite_or h with ⟨c133, h⟩ | ⟨c133, h⟩
        · refine AW.tIn 2 120 dX3_told_26 (by omega) (by decide) rfl (by decide) ?_
          refine AW.aload_n dX3_told_120 rfl ?_
          refine AW.aload_n dX3_told_121 rfl ?_
          refine AW.getR (t := 3) (k := 2) dX3_told_122 ck3 (Nat.le_of_ble_eq_true rfl) (fun _ => rfl) q303 (Or.inl rfl) h (fun v26 h => ?_)
          refine AW.getR (t := 4) (k := 1) dX3_told_125 ck4 (Nat.le_of_ble_eq_true rfl) (fun _ => rfl) q362 (Or.inl rfl) h (fun v27 h => ?_)
          refine AW.VI (M' := m_J5_size) (t := 18) [] [rV (some x0)] dX3_told_128 q732 q485 q486 q131 q487 ck18 rfl n_J5_size rfl rfl rfl (fun _ _ _ e => c_J5_size e) h (fun v28 s29 h => ?_)
          refine AW.bipush dX3_told_131 (by decide) ?_
          refine AW.xVU (M' := m_X3_begins) (t := 3) [iV v28, iV 6] [] dX3_told_133 q733 q735 qs12 q127 q736 ck3 rfl n_X3_begins rfl rfl rfl rfl (fun _ _ e => c_X3_begins e) h (fun _ s31 h => ?_)
          refine AW.new (t := 11) (n := 4) dX3_told_136 ck11 mu11 nf11 q1022 q1023 q150 h (fun v33 s34 h => ?_)
          refine AW.dupR dX3_told_139 ?_
          refine AW.aload_n dX3_told_140 rfl ?_
          refine AW.xVR (M' := m_X3_name) (t := 3) [] [rV v33, rV v33] dX3_told_141 q743 q745 qs14 q127 q746 ck3 rfl n_X3_name rfl rfl rfl rfl (fun _ _ e => c_X3_name e) h (fun v35 s36 h => ?_)
          refine AW.IU (M' := m_X11_init) (t := 11) [rV v35] [rV v33] dX3_told_144 q1024 q1025 q150 q1026 rfl rfl n_X11_init rfl rfl rfl (fun _ _ _ e => c_X11_init e) h (fun _ s38 h => ?_)
          refine AW.astore_n (L' := [some (rV (some x0)), some (iV y0), some (rV v33), none]) dX3_told_147 (Nat.le_of_ble_eq_true rfl) rfl rfl ?_
          refine AW.aload_n dX3_told_148 rfl ?_
          refine AW.aload_n dX3_told_149 rfl ?_
          refine AW.iconst dX3_told_150 ?_
          refine AW.bipush dX3_told_151 (by decide) ?_
          refine AW.xVI (M' := m_X3_number) (t := 3) [iV 0, iV 20] [rV v33] dX3_told_153 q1042 q1044 qs22 q127 q1045 ck3 rfl n_X3_number rfl rfl rfl rfl (fun _ _ e => c_X3_number e) h (fun v40 s41 h => ?_)
          refine AW.putI (t := 11) (k := 1) dX3_told_156 ck11 mu11 (Nat.le_of_ble_eq_true rfl) rfl q1029 (Or.inl rfl) (Or.inl rfl) h (fun s43 h => ?_)
          refine AW.aload_n dX3_told_159 rfl ?_
          refine AW.aload_n dX3_told_160 rfl ?_
          refine AW.aload_n dX3_told_161 rfl ?_
          refine AW.getR (t := 3) (k := 2) dX3_told_162 ck3 (Nat.le_of_ble_eq_true rfl) (fun _ => rfl) q303 (Or.inl rfl) h (fun v44 h => ?_)
          refine AW.getR (t := 4) (k := 0) dX3_told_165 ck4 (Nat.le_of_ble_eq_true rfl) (fun _ => rfl) q358 (Or.inl rfl) h (fun v45 h => ?_)
          refine AW.xVI (M' := m_X3_known) (t := 3) [rV v45] [rV v33] dX3_told_168 q1012 q1014 qs21 q127 q1015 ck3 rfl n_X3_known rfl rfl rfl rfl (fun _ _ e => c_X3_known e) h (fun v46 s47 h => ?_)
          refine AW.putI (t := 11) (k := 2) dX3_told_171 ck11 mu11 (Nat.le_of_ble_eq_true rfl) rfl q1031 (Or.inl rfl) (Or.inl rfl) h (fun s49 h => ?_)
          refine AW.aload_n dX3_told_174 rfl ?_
          refine AW.getR (t := 3) (k := 2) dX3_told_175 ck3 (Nat.le_of_ble_eq_true rfl) (fun _ => rfl) q303 (Or.inl rfl) h (fun v50 h => ?_)
          refine AW.getR (t := 4) (k := 1) dX3_told_178 ck4 (Nat.le_of_ble_eq_true rfl) (fun _ => rfl) q362 (Or.inl rfl) h (fun v51 h => ?_)
          refine AW.aload_n dX3_told_181 rfl ?_
          refine AW.VI (M' := m_J5_add) (t := 18) [rV v33] [] dX3_told_182 q957 q958 q959 q131 q960 ck18 rfl n_J5_add rfl rfl rfl (fun _ _ _ e => c_J5_add e) h (fun v52 s53 h => ?_)
          refine AW.popI dX3_told_185 ?_
          refine AW.goto (tgt := 375) dX3_told_186 (by decide) ?_
          cases h
          exact AW.vret dX3_told_375 rfl
        · rcases ite_or h with ⟨c132, h⟩ | ⟨c132, h⟩
          · refine AW.tIn 3 189 dX3_told_26 (by omega) (by decide) rfl (by decide) ?_
            refine AW.aload_n dX3_told_189 rfl ?_
            refine AW.xVU (M' := m_X3_pass) (t := 3) [] [] dX3_told_190 q737 q739 qs13 q127 q740 ck3 rfl n_X3_pass rfl rfl rfl rfl (fun _ _ e => c_X3_pass e) h (fun _ s55 h => ?_)
            refine AW.aload_n dX3_told_193 rfl ?_
            refine AW.aload_n dX3_told_194 rfl ?_
            refine AW.getR (t := 3) (k := 2) dX3_told_195 ck3 (Nat.le_of_ble_eq_true rfl) (fun _ => rfl) q303 (Or.inl rfl) h (fun v57 h => ?_)
            refine AW.getR (t := 4) (k := 1) dX3_told_198 ck4 (Nat.le_of_ble_eq_true rfl) (fun _ => rfl) q362 (Or.inl rfl) h (fun v58 h => ?_)
            refine AW.xVI (M' := m_X3_known) (t := 3) [rV v58] [] dX3_told_201 q1012 q1014 qs21 q127 q1015 ck3 rfl n_X3_known rfl rfl rfl rfl (fun _ _ e => c_X3_known e) h (fun v59 s60 h => ?_)
            refine AW.istore_n (L' := [some (rV (some x0)), some (iV y0), some (iV v59), none]) dX3_told_204 (Nat.le_of_ble_eq_true rfl) rfl rfl ?_
            refine AW.aload_n dX3_told_205 rfl ?_
            refine AW.xVR (M' := m_X3_law) (t := 3) [] [] dX3_told_206 q1050 q1052 qs23 q127 q1053 ck3 rfl n_X3_law rfl rfl rfl rfl (fun _ _ e => c_X3_law e) h (fun v62 s63 h => ?_)
            refine AW.astore_n (L' := [some (rV (some x0)), some (iV y0), some (iV v59), some (rV v62)]) dX3_told_209 (Nat.le_of_ble_eq_true rfl) rfl rfl ?_
            refine AW.iload_n dX3_told_210 rfl ?_
            refine AW.if_lt 375 dX3_told_211 (by decide) h (fun c72 h => ?_) (fun c72 h => ?_)
            · cases h
              exact AW.vret dX3_told_375 rfl
            · refine AW.aload_n dX3_told_214 rfl ?_
              refine AW.getR (t := 3) (k := 2) dX3_told_215 ck3 (Nat.le_of_ble_eq_true rfl) (fun _ => rfl) q303 (Or.inl rfl) h (fun v65 h => ?_)
              refine AW.getR (t := 4) (k := 1) dX3_told_218 ck4 (Nat.le_of_ble_eq_true rfl) (fun _ => rfl) q362 (Or.inl rfl) h (fun v66 h => ?_)
              refine AW.iload_n dX3_told_221 rfl ?_
              refine AW.VR (M' := m_J5_get) (t := 18) [iV v59] [] dX3_told_222 q1017 q489 q490 q131 q491 ck18 rfl n_J5_get rfl rfl rfl (fun _ _ _ e => c_J5_get e) h (fun v67 s68 h => ?_)
              refine AW.cast (ts := [11]) dX3_told_225 q1022 ca11 h (fun v70 h => ?_)
              refine AW.aload_n dX3_told_228 rfl ?_
              refine AW.putR (t := 11) (k := 3) dX3_told_229 ck11 mu11 (Nat.le_of_ble_eq_true rfl) (Or.inl ⟨_, rfl⟩) q1033 (Or.inl rfl) (Or.inl rfl) h (fun s71 h => ?_)
              refine AW.goto (tgt := 375) dX3_told_232 (by decide) ?_
              cases h
              exact AW.vret dX3_told_375 rfl
          · rcases ite_or h with ⟨c131, h⟩ | ⟨c131, h⟩
            · refine AW.tIn 4 235 dX3_told_26 (by omega) (by decide) rfl (by decide) ?_
              refine AW.aload_n dX3_told_235 rfl ?_
              refine AW.aload_n dX3_told_236 rfl ?_
              refine AW.getR (t := 3) (k := 2) dX3_told_237 ck3 (Nat.le_of_ble_eq_true rfl) (fun _ => rfl) q303 (Or.inl rfl) h (fun v73 h => ?_)
              refine AW.getR (t := 4) (k := 2) dX3_told_240 ck4 (Nat.le_of_ble_eq_true rfl) (fun _ => rfl) q366 (Or.inl rfl) h (fun v74 h => ?_)
              refine AW.VI (M' := m_J5_size) (t := 18) [] [rV (some x0)] dX3_told_243 q732 q485 q486 q131 q487 ck18 rfl n_J5_size rfl rfl rfl (fun _ _ _ e => c_J5_size e) h (fun v75 s76 h => ?_)
              refine AW.bipush dX3_told_246 (by decide) ?_
              refine AW.xVU (M' := m_X3_begins) (t := 3) [iV v75, iV 8] [] dX3_told_248 q733 q735 qs12 q127 q736 ck3 rfl n_X3_begins rfl rfl rfl rfl (fun _ _ e => c_X3_begins e) h (fun _ s78 h => ?_)
              refine AW.new (t := 17) (n := 3) dX3_told_251 ck17 mu17 nf17 q1146 q1147 q156 h (fun v80 s81 h => ?_)
              refine AW.dupR dX3_told_254 ?_
              refine AW.aload_n dX3_told_255 rfl ?_
              refine AW.xVR (M' := m_X3_name) (t := 3) [] [rV v80, rV v80] dX3_told_256 q743 q745 qs14 q127 q746 ck3 rfl n_X3_name rfl rfl rfl rfl (fun _ _ e => c_X3_name e) h (fun v82 s83 h => ?_)
              refine AW.IU (M' := m_X17_init) (t := 17) [rV v82] [rV v80] dX3_told_259 q1148 q1149 q156 q1150 rfl rfl n_X17_init rfl rfl rfl (fun _ _ _ e => c_X17_init e) h (fun _ s85 h => ?_)
              refine AW.astore_n (L' := [some (rV (some x0)), some (iV y0), some (rV v80), none]) dX3_told_262 (Nat.le_of_ble_eq_true rfl) rfl rfl ?_
              refine AW.aload_n dX3_told_263 rfl ?_
              refine AW.aload_n dX3_told_264 rfl ?_
              refine AW.aload_n dX3_told_265 rfl ?_
              refine AW.getR (t := 3) (k := 2) dX3_told_266 ck3 (Nat.le_of_ble_eq_true rfl) (fun _ => rfl) q303 (Or.inl rfl) h (fun v87 h => ?_)
              refine AW.getR (t := 4) (k := 0) dX3_told_269 ck4 (Nat.le_of_ble_eq_true rfl) (fun _ => rfl) q358 (Or.inl rfl) h (fun v88 h => ?_)
              refine AW.xVI (M' := m_X3_known) (t := 3) [rV v88] [rV v80] dX3_told_272 q1012 q1014 qs21 q127 q1015 ck3 rfl n_X3_known rfl rfl rfl rfl (fun _ _ e => c_X3_known e) h (fun v89 s90 h => ?_)
              refine AW.putI (t := 17) (k := 1) dX3_told_275 ck17 mu17 (Nat.le_of_ble_eq_true rfl) rfl q1153 (Or.inl rfl) (Or.inl rfl) h (fun s92 h => ?_)
              refine AW.aload_n dX3_told_278 rfl ?_
              refine AW.aload_n dX3_told_279 rfl ?_
              refine AW.aload_n dX3_told_280 rfl ?_
              refine AW.getR (t := 3) (k := 2) dX3_told_281 ck3 (Nat.le_of_ble_eq_true rfl) (fun _ => rfl) q303 (Or.inl rfl) h (fun v93 h => ?_)
              refine AW.getR (t := 4) (k := 1) dX3_told_284 ck4 (Nat.le_of_ble_eq_true rfl) (fun _ => rfl) q362 (Or.inl rfl) h (fun v94 h => ?_)
              refine AW.xVI (M' := m_X3_known) (t := 3) [rV v94] [rV v80] dX3_told_287 q1012 q1014 qs21 q127 q1015 ck3 rfl n_X3_known rfl rfl rfl rfl (fun _ _ e => c_X3_known e) h (fun v95 s96 h => ?_)
              refine AW.putI (t := 17) (k := 2) dX3_told_290 ck17 mu17 (Nat.le_of_ble_eq_true rfl) rfl q1155 (Or.inl rfl) (Or.inl rfl) h (fun s98 h => ?_)
              refine AW.aload_n dX3_told_293 rfl ?_
              refine AW.getR (t := 3) (k := 2) dX3_told_294 ck3 (Nat.le_of_ble_eq_true rfl) (fun _ => rfl) q303 (Or.inl rfl) h (fun v99 h => ?_)
              refine AW.getR (t := 4) (k := 2) dX3_told_297 ck4 (Nat.le_of_ble_eq_true rfl) (fun _ => rfl) q366 (Or.inl rfl) h (fun v100 h => ?_)
              refine AW.aload_n dX3_told_300 rfl ?_
              refine AW.VI (M' := m_J5_add) (t := 18) [rV v80] [] dX3_told_301 q957 q958 q959 q131 q960 ck18 rfl n_J5_add rfl rfl rfl (fun _ _ _ e => c_J5_add e) h (fun v101 s102 h => ?_)
              refine AW.popI dX3_told_304 ?_
              refine AW.goto (tgt := 375) dX3_told_305 (by decide) ?_
              cases h
              exact AW.vret dX3_told_375 rfl
            · rcases ite_or h with ⟨c130, h⟩ | ⟨c130, h⟩
              · refine AW.tIn 5 308 dX3_told_26 (by omega) (by decide) rfl (by decide) ?_
                refine AW.aload_n dX3_told_308 rfl ?_
                refine AW.xVU (M' := m_X3_pass) (t := 3) [] [] dX3_told_309 q737 q739 qs13 q127 q740 ck3 rfl n_X3_pass rfl rfl rfl rfl (fun _ _ e => c_X3_pass e) h (fun _ s104 h => ?_)
                refine AW.aload_n dX3_told_312 rfl ?_
                refine AW.getR (t := 3) (k := 2) dX3_told_313 ck3 (Nat.le_of_ble_eq_true rfl) (fun _ => rfl) q303 (Or.inl rfl) h (fun v106 h => ?_)
                refine AW.aload_n dX3_told_316 rfl ?_
                refine AW.xVR (M' := m_X3_law) (t := 3) [] [rV v106] dX3_told_317 q1050 q1052 qs23 q127 q1053 ck3 rfl n_X3_law rfl rfl rfl rfl (fun _ _ e => c_X3_law e) h (fun v107 s108 h => ?_)
                refine AW.putR (t := 4) (k := 6) dX3_told_320 ck4 mu4 (Nat.le_of_ble_eq_true rfl) (Or.inl ⟨_, rfl⟩) q375 (Or.inl rfl) (Or.inl rfl) h (fun s110 h => ?_)
                refine AW.goto (tgt := 375) dX3_told_323 (by decide) ?_
                cases h
                exact AW.vret dX3_told_375 rfl
              · rcases ite_or h with ⟨c129, h⟩ | ⟨c129, h⟩
                · refine AW.tIn 6 326 dX3_told_26 (by omega) (by decide) rfl (by decide) ?_
                  refine AW.aload_n dX3_told_326 rfl ?_
                  refine AW.xVU (M' := m_X3_pass) (t := 3) [] [] dX3_told_327 q737 q739 qs13 q127 q740 ck3 rfl n_X3_pass rfl rfl rfl rfl (fun _ _ e => c_X3_pass e) h (fun _ s111 h => ?_)
                  refine AW.aload_n dX3_told_330 rfl ?_
                  refine AW.getR (t := 3) (k := 2) dX3_told_331 ck3 (Nat.le_of_ble_eq_true rfl) (fun _ => rfl) q303 (Or.inl rfl) h (fun v113 h => ?_)
                  refine AW.aload_n dX3_told_334 rfl ?_
                  refine AW.iconst dX3_told_335 ?_
                  refine AW.bipush dX3_told_336 (by decide) ?_
                  refine AW.xVI (M' := m_X3_number) (t := 3) [iV 0, iV 100] [rV v113] dX3_told_338 q1042 q1044 qs22 q127 q1045 ck3 rfl n_X3_number rfl rfl rfl rfl (fun _ _ e => c_X3_number e) h (fun v114 s115 h => ?_)
                  refine AW.putI (t := 4) (k := 4) dX3_told_341 ck4 mu4 (Nat.le_of_ble_eq_true rfl) rfl q370 (Or.inl rfl) (Or.inl rfl) h (fun s117 h => ?_)
                  refine AW.goto (tgt := 375) dX3_told_344 (by decide) ?_
                  cases h
                  exact AW.vret dX3_told_375 rfl
                · rcases ite_or h with ⟨c128, h⟩ | ⟨c128, h⟩
                  · refine AW.tIn 7 347 dX3_told_26 (by omega) (by decide) rfl (by decide) ?_
                    refine AW.aload_n dX3_told_347 rfl ?_
                    refine AW.xVU (M' := m_X3_pass) (t := 3) [] [] dX3_told_348 q737 q739 qs13 q127 q740 ck3 rfl n_X3_pass rfl rfl rfl rfl (fun _ _ e => c_X3_pass e) h (fun _ s118 h => ?_)
                    refine AW.aload_n dX3_told_351 rfl ?_
                    refine AW.getR (t := 3) (k := 2) dX3_told_352 ck3 (Nat.le_of_ble_eq_true rfl) (fun _ => rfl) q303 (Or.inl rfl) h (fun v120 h => ?_)
                    refine AW.aload_n dX3_told_355 rfl ?_
                    refine AW.iconst dX3_told_356 ?_
                    refine AW.sipush dX3_told_357 (by decide) ?_
                    refine AW.xVI (M' := m_X3_number) (t := 3) [iV 0, iV 9999] [rV v120] dX3_told_360 q1042 q1044 qs22 q127 q1045 ck3 rfl n_X3_number rfl rfl rfl rfl (fun _ _ e => c_X3_number e) h (fun v121 s122 h => ?_)
                    refine AW.putI (t := 4) (k := 5) dX3_told_363 ck4 mu4 (Nat.le_of_ble_eq_true rfl) rfl q372 (Or.inl rfl) (Or.inl rfl) h (fun s124 h => ?_)
                    refine AW.goto (tgt := 375) dX3_told_366 (by decide) ?_
                    cases h
                    exact AW.vret dX3_told_375 rfl
                  · refine AW.tOut 369 dX3_told_26 (by omega) (by decide) ?_
                    refine AW.aload_n dX3_told_369 rfl ?_
                    refine AW.iconst dX3_told_370 ?_
                    refine AW.VR (M' := m_X3_wrong) (t := 3) [iV 1] [] dX3_told_371 q716 q718 qs9 q127 q719 ck3 rfl n_X3_wrong rfl rfl rfl (fun _ _ _ e => c_X3_wrong e) h (fun v125 s126 h => ?_)
                    exact AW.athrow dX3_told_374 rfl h
  · refine AW.icmp_ne 23 dX3_told_5 (by decide) h (fun c140 h => ?_) (fun c140 h => ?_)
    · refine AW.iconst dX3_told_23 ?_
      exact hj24 _ _ h
    · refine AW.aload_n dX3_told_8 rfl ?_
      refine AW.getR (t := 3) (k := 0) dX3_told_9 ck3 (Nat.le_of_ble_eq_true rfl) (fun _ => rfl) q301 (Or.inl rfl) h (fun v136 h => ?_)
      refine AW.getR (t := 2) (k := 6) dX3_told_12 ck2 (Nat.le_of_ble_eq_true rfl) (fun _ => rfl) q275 (Or.inl rfl) h (fun v137 h => ?_)
      refine AW.aload_n dX3_told_15 rfl ?_
      refine AW.getI (t := 3) (k := 3) dX3_told_16 ck3 (Nat.le_of_ble_eq_true rfl) (fun _ => rfl) q304 (Or.inl rfl) h (fun v138 h => ?_)
      refine AW.sald (t := 103) dX3_told_19 (Nat.le_of_ble_eq_true rfl) rfl h (fun v139 h => ?_)
      refine AW.goto (tgt := 24) dX3_told_20 (by decide) ?_
      exact hj24 _ _ h
theorem c_X3_told {s0 : Hp} {x0 : Nat} {w1 : (Unit ⊕ Nat) × Hp} (h : f_X3_told s0 x0 = some w1) : Ct m_X3_told [rV (some x0)] s0 (xo vU w1) :=
  Ct.of2 (w_X3_told s0 x0 h) (show plainName yX3_told.cls = true by decide) rfl rfl rfl
abbrev m_X2_add : Mi := (yX2_add, cX2_add, none, 5, 0, 0, [])
theorem n_X2_add : nameOk yX2_add 4 := ⟨by decide, by decide, by decide +kernel⟩
def f_X2_add (s0 : Hp) (x0 : Nat) (x1 : Int) (x2 : Int) (x3 : Int) (x4 : Int) : Option (Unit × Hp) :=
  (gR s0 2 (some x0) 3).bind fun v1 => (gI s0 2 (some x0) 7).bind fun v2 => (sI s0 101 v1 v2 (i8I (i8I x1))).bind fun s3 => (gR s3 2 (some x0) 4).bind fun v4 => (gI s3 2 (some x0) 7).bind fun v5 => (sI s3 103 v4 v5 (i16I (i16I x2))).bind fun s6 => (gR s6 2 (some x0) 5).bind fun v7 => (gI s6 2 (some x0) 7).bind fun v8 => (sI s6 103 v7 v8 (i16I (i16I x3))).bind fun s9 => (gR s9 2 (some x0) 6).bind fun v10 => (gI s9 2 (some x0) 7).bind fun v11 => (sI s9 103 v10 v11 (i16I (i16I x4))).bind fun s12 => (gI s12 2 (some x0) 7).bind fun v13 => (pI s12 2 (some x0) 7 (nrm (v13 + 1))).bind fun s14 => some ((), s14)
theorem w_X2_add {σ0 : Hp} {w : Unit × Hp} (s0 : Hp) (x0 : Nat) (x1 : Int) (x2 : Int) (x3 : Int) (x4 : Int) (h : f_X2_add s0 x0 x1 x2 x3 x4 = some w) : AW m_X2_add σ0 (oU w) 0 [some (rV (some x0)), some (iV x1), some (iV x2), some (iV x3), some (iV x4)] [] s0 := by
  unfold f_X2_add at h
  refine AW.aload_n dX2_add_0 rfl ?_
  refine AW.getR (t := 2) (k := 3) dX2_add_1 ck2 (Nat.le_of_ble_eq_true rfl) (fun _ => rfl) q269 (Or.inl rfl) h (fun v1 h => ?_)
  refine AW.aload_n dX2_add_4 rfl ?_
  refine AW.getI (t := 2) (k := 7) dX2_add_5 ck2 (Nat.le_of_ble_eq_true rfl) (fun _ => rfl) q276 (Or.inl rfl) h (fun v2 h => ?_)
  refine AW.iload_n dX2_add_8 rfl ?_
  refine AW.i2b dX2_add_9 ?_
  refine AW.bast (t := 101) dX2_add_10 (Nat.le_of_ble_eq_true rfl) mu101 rfl h (fun s3 h => ?_)
  refine AW.aload_n dX2_add_11 rfl ?_
  refine AW.getR (t := 2) (k := 4) dX2_add_12 ck2 (Nat.le_of_ble_eq_true rfl) (fun _ => rfl) q271 (Or.inl rfl) h (fun v4 h => ?_)
  refine AW.aload_n dX2_add_15 rfl ?_
  refine AW.getI (t := 2) (k := 7) dX2_add_16 ck2 (Nat.le_of_ble_eq_true rfl) (fun _ => rfl) q276 (Or.inl rfl) h (fun v5 h => ?_)
  refine AW.iload_n dX2_add_19 rfl ?_
  refine AW.i2s dX2_add_20 ?_
  refine AW.sast (t := 103) dX2_add_21 (Nat.le_of_ble_eq_true rfl) mu103 rfl h (fun s6 h => ?_)
  refine AW.aload_n dX2_add_22 rfl ?_
  refine AW.getR (t := 2) (k := 5) dX2_add_23 ck2 (Nat.le_of_ble_eq_true rfl) (fun _ => rfl) q273 (Or.inl rfl) h (fun v7 h => ?_)
  refine AW.aload_n dX2_add_26 rfl ?_
  refine AW.getI (t := 2) (k := 7) dX2_add_27 ck2 (Nat.le_of_ble_eq_true rfl) (fun _ => rfl) q276 (Or.inl rfl) h (fun v8 h => ?_)
  refine AW.iload_n dX2_add_30 rfl ?_
  refine AW.i2s dX2_add_31 ?_
  refine AW.sast (t := 103) dX2_add_32 (Nat.le_of_ble_eq_true rfl) mu103 rfl h (fun s9 h => ?_)
  refine AW.aload_n dX2_add_33 rfl ?_
  refine AW.getR (t := 2) (k := 6) dX2_add_34 ck2 (Nat.le_of_ble_eq_true rfl) (fun _ => rfl) q274 (Or.inl rfl) h (fun v10 h => ?_)
  refine AW.aload_n dX2_add_37 rfl ?_
  refine AW.getI (t := 2) (k := 7) dX2_add_38 ck2 (Nat.le_of_ble_eq_true rfl) (fun _ => rfl) q276 (Or.inl rfl) h (fun v11 h => ?_)
  refine AW.iload dX2_add_41 rfl ?_
  refine AW.i2s dX2_add_43 ?_
  refine AW.sast (t := 103) dX2_add_44 (Nat.le_of_ble_eq_true rfl) mu103 rfl h (fun s12 h => ?_)
  refine AW.aload_n dX2_add_45 rfl ?_
  refine AW.dupR dX2_add_46 ?_
  refine AW.getI (t := 2) (k := 7) dX2_add_47 ck2 (Nat.le_of_ble_eq_true rfl) (fun _ => rfl) q276 (Or.inl rfl) h (fun v13 h => ?_)
  refine AW.iconst dX2_add_50 ?_
  refine AW.iadd dX2_add_51 ?_
  refine AW.nv ?_
  refine AW.putI (t := 2) (k := 7) dX2_add_52 ck2 mu2 (Nat.le_of_ble_eq_true rfl) rfl q276 (Or.inl rfl) (Or.inl rfl) h (fun s14 h => ?_)
  cases h
  exact AW.vret dX2_add_55 rfl
theorem c_X2_add {s0 : Hp} {x0 : Nat} {x1 : Int} {x2 : Int} {x3 : Int} {x4 : Int} {v : Unit} {s1 : Hp} (h : f_X2_add s0 x0 x1 x2 x3 x4 = some (v, s1)) : Ct m_X2_add [rV (some x0), iV x1, iV x2, iV x3, iV x4] s0 (.inl none, s1) :=
  Ct.of2 (w_X2_add s0 x0 x1 x2 x3 x4 h) (show plainName yX2_add.cls = true by decide) rfl rfl rfl
abbrev m_X2_at : Mi := (yX2_at, cX2_at, (some .int), 2, 0, 0, [])
theorem n_X2_at : nameOk yX2_at 1 := ⟨by decide, by decide, by decide +kernel⟩
def f_X2_at (s0 : Hp) (x0 : Nat) (x1 : Int) : Option (Int × Hp) :=
  (gI s0 2 (some x0) 2).bind fun v1 => (if nrm v1 ≤ nrm x1 then (some (0, s0)) else ((gR s0 2 (some x0) 1).bind fun v2 => (aI s0 101 v2 x1).bind fun v3 => some (v3, s0)))
theorem w_X2_at {σ0 : Hp} {w : Int × Hp} (s0 : Hp) (x0 : Nat) (x1 : Int) (h : f_X2_at s0 x0 x1 = some w) : AW m_X2_at σ0 (oI w) 0 [some (rV (some x0)), some (iV x1)] [] s0 := by
  unfold f_X2_at at h
  refine AW.iload_n dX2_at_0 rfl ?_
  refine AW.aload_n dX2_at_1 rfl ?_
  refine AW.getI (t := 2) (k := 2) dX2_at_2 ck2 (Nat.le_of_ble_eq_true rfl) (fun _ => rfl) q267 (Or.inl rfl) h (fun v1 h => ?_)
  refine AW.icmp_ge 17 dX2_at_5 (by decide) h (fun c4 h => ?_) (fun c4 h => ?_)
  · refine AW.iconst dX2_at_17 ?_
    cases h
    exact AW.iret dX2_at_18 rfl
  · refine AW.aload_n dX2_at_8 rfl ?_
    refine AW.getR (t := 2) (k := 1) dX2_at_9 ck2 (Nat.le_of_ble_eq_true rfl) (fun _ => rfl) q265 (Or.inl rfl) h (fun v2 h => ?_)
    refine AW.iload_n dX2_at_12 rfl ?_
    refine AW.bald (t := 101) dX2_at_13 (Nat.le_of_ble_eq_true rfl) rfl h (fun v3 h => ?_)
    refine AW.goto (tgt := 18) dX2_at_14 (by decide) ?_
    cases h
    exact AW.iret dX2_at_18 rfl
theorem c_X2_at {s0 : Hp} {x0 : Nat} {x1 : Int} {v : Int} {s1 : Hp} (h : f_X2_at s0 x0 x1 = some (v, s1)) : Ct m_X2_at [rV (some x0), iV x1] s0 (.inl (some (iV v)), s1) :=
  Ct.of2 (w_X2_at s0 x0 x1 h) (show plainName yX2_at.cls = true by decide) rfl rfl rfl
abbrev m_X2_isDigit : Mi := (yX2_isDigit, cX2_isDigit, (some .boolean), 2, 1, 21, [])
theorem n_X2_isDigit : nameOk yX2_isDigit 1 := ⟨by decide, by decide, by decide +kernel⟩
def f_X2_isDigit (s0 : Hp) (x0 : Nat) (x1 : Int) : Option (Int × Hp) :=
  (rcv s0 2 (some x0)).bind fun b3 => bn (f_X2_at s0 b3 x1) fun v1 s2 => (if nrm v1 < nrm 48 then (some (0, s2)) else ((rcv s2 2 (some x0)).bind fun b6 => bn (f_X2_at s2 b6 x1) fun v4 s5 => (if nrm 57 < nrm v4 then (some (0, s5)) else (some (1, s5)))))
theorem w_X2_isDigit {σ0 : Hp} {w : Int × Hp} (s0 : Hp) (x0 : Nat) (x1 : Int) (h : f_X2_isDigit s0 x0 x1 = some w) : AW m_X2_isDigit σ0 (oI w) 0 [some (rV (some x0)), some (iV x1)] [] s0 := by
  unfold f_X2_isDigit at h
  refine AW.aload_n dX2_isDigit_0 rfl ?_
  refine AW.iload_n dX2_isDigit_1 rfl ?_
  refine AW.VI (M' := m_X2_at) (t := 2) [iV x1] [] dX2_isDigit_2 q644 q646 qs3 q126 q647 ck2 rfl n_X2_at rfl rfl rfl (fun _ _ _ e => c_X2_at e) h (fun v1 s2 h => ?_)
  refine AW.bipush dX2_isDigit_5 (by decide) ?_
  refine AW.icmp_lt 24 dX2_isDigit_7 (by decide) h (fun c8 h => ?_) (fun c8 h => ?_)
  · refine AW.iconst dX2_isDigit_24 ?_
    cases h
    exact AW.zret (z := 0) dX2_isDigit_25 rfl zz0
  · refine AW.aload_n dX2_isDigit_10 rfl ?_
    refine AW.iload_n dX2_isDigit_11 rfl ?_
    refine AW.VI (M' := m_X2_at) (t := 2) [iV x1] [] dX2_isDigit_12 q644 q646 qs3 q126 q647 ck2 rfl n_X2_at rfl rfl rfl (fun _ _ _ e => c_X2_at e) h (fun v4 s5 h => ?_)
    refine AW.bipush dX2_isDigit_15 (by decide) ?_
    refine AW.icmp_gt 24 dX2_isDigit_17 (by decide) h (fun c7 h => ?_) (fun c7 h => ?_)
    · refine AW.iconst dX2_isDigit_24 ?_
      cases h
      exact AW.zret (z := 0) dX2_isDigit_25 rfl zz0
    · refine AW.iconst dX2_isDigit_20 ?_
      refine AW.goto (tgt := 25) dX2_isDigit_21 (by decide) ?_
      cases h
      exact AW.zret (z := 1) dX2_isDigit_25 rfl zz1
theorem c_X2_isDigit {s0 : Hp} {x0 : Nat} {x1 : Int} {v : Int} {s1 : Hp} (h : f_X2_isDigit s0 x0 x1 = some (v, s1)) : Ct m_X2_isDigit [rV (some x0), iV x1] s0 (.inl (some (iV v)), s1) :=
  Ct.of2 (w_X2_isDigit s0 x0 x1 h) (show plainName yX2_isDigit.cls = true by decide) rfl rfl rfl
abbrev m_X2_isLetter : Mi := (yX2_isLetter, cX2_isLetter, (some .boolean), 2, 1, 21, [])
theorem n_X2_isLetter : nameOk yX2_isLetter 1 := ⟨by decide, by decide, by decide +kernel⟩
def f_X2_isLetter (s0 : Hp) (x0 : Nat) (x1 : Int) : Option (Int × Hp) :=
  (rcv s0 2 (some x0)).bind fun b3 => bn (f_X2_at s0 b3 x1) fun v1 s2 => (if nrm v1 < nrm 97 then (some (0, s2)) else ((rcv s2 2 (some x0)).bind fun b6 => bn (f_X2_at s2 b6 x1) fun v4 s5 => (if nrm 122 < nrm v4 then (some (0, s5)) else (some (1, s5)))))
theorem w_X2_isLetter {σ0 : Hp} {w : Int × Hp} (s0 : Hp) (x0 : Nat) (x1 : Int) (h : f_X2_isLetter s0 x0 x1 = some w) : AW m_X2_isLetter σ0 (oI w) 0 [some (rV (some x0)), some (iV x1)] [] s0 := by
  unfold f_X2_isLetter at h
  refine AW.aload_n dX2_isLetter_0 rfl ?_
  refine AW.iload_n dX2_isLetter_1 rfl ?_
  refine AW.VI (M' := m_X2_at) (t := 2) [iV x1] [] dX2_isLetter_2 q644 q646 qs3 q126 q647 ck2 rfl n_X2_at rfl rfl rfl (fun _ _ _ e => c_X2_at e) h (fun v1 s2 h => ?_)
  refine AW.bipush dX2_isLetter_5 (by decide) ?_
  refine AW.icmp_lt 24 dX2_isLetter_7 (by decide) h (fun c8 h => ?_) (fun c8 h => ?_)
  · refine AW.iconst dX2_isLetter_24 ?_
    cases h
    exact AW.zret (z := 0) dX2_isLetter_25 rfl zz0
  · refine AW.aload_n dX2_isLetter_10 rfl ?_
    refine AW.iload_n dX2_isLetter_11 rfl ?_
    refine AW.VI (M' := m_X2_at) (t := 2) [iV x1] [] dX2_isLetter_12 q644 q646 qs3 q126 q647 ck2 rfl n_X2_at rfl rfl rfl (fun _ _ _ e => c_X2_at e) h (fun v4 s5 h => ?_)
    refine AW.bipush dX2_isLetter_15 (by decide) ?_
    refine AW.icmp_gt 24 dX2_isLetter_17 (by decide) h (fun c7 h => ?_) (fun c7 h => ?_)
    · refine AW.iconst dX2_isLetter_24 ?_
      cases h
      exact AW.zret (z := 0) dX2_isLetter_25 rfl zz0
    · refine AW.iconst dX2_isLetter_20 ?_
      refine AW.goto (tgt := 25) dX2_isLetter_21 (by decide) ?_
      cases h
      exact AW.zret (z := 1) dX2_isLetter_25 rfl zz1
theorem c_X2_isLetter {s0 : Hp} {x0 : Nat} {x1 : Int} {v : Int} {s1 : Hp} (h : f_X2_isLetter s0 x0 x1 = some (v, s1)) : Ct m_X2_isLetter [rV (some x0), iV x1] s0 (.inl (some (iV v)), s1) :=
  Ct.of2 (w_X2_isLetter s0 x0 x1 h) (show plainName yX2_isLetter.cls = true by decide) rfl rfl rfl
abbrev m_X2_sign : Mi := (yX2_sign, cX2_sign, (some .int), 3, 1, 21, [])
theorem n_X2_sign : nameOk yX2_sign 1 := ⟨by decide, by decide, by decide +kernel⟩
def f_X2_sign (s0 : Hp) (x0 : Nat) (x1 : Int) : Option (Int × Hp) :=
  (rcv s0 2 (some x0)).bind fun b3 => bn (f_X2_at s0 b3 x1) fun v1 s2 => (if nrm v1 = 40 then (some (v1, s2)) else (if nrm v1 = 41 then (some (v1, s2)) else (if nrm v1 = 42 then (some (v1, s2)) else (if nrm v1 = 43 then (some (v1, s2)) else (if nrm v1 = 44 then (some (0, s2)) else (if nrm v1 = 45 then (some (v1, s2)) else (if nrm v1 = 46 then (some (0, s2)) else (if nrm v1 = 47 then (some (v1, s2)) else (if nrm v1 = 48 then (some (0, s2)) else (if nrm v1 = 49 then (some (0, s2)) else (if nrm v1 = 50 then (some (0, s2)) else (if nrm v1 = 51 then (some (0, s2)) else (if nrm v1 = 52 then (some (0, s2)) else (if nrm v1 = 53 then (some (0, s2)) else (if nrm v1 = 54 then (some (0, s2)) else (if nrm v1 = 55 then (some (0, s2)) else (if nrm v1 = 56 then (some (0, s2)) else (if nrm v1 = 57 then (some (0, s2)) else (if nrm v1 = 58 then (some (0, s2)) else (if nrm v1 = 59 then (some (v1, s2)) else (if nrm v1 = 60 then (some (v1, s2)) else (if nrm v1 = 61 then (some (v1, s2)) else (some (0, s2))))))))))))))))))))))))
theorem w_X2_sign {σ0 : Hp} {w : Int × Hp} (s0 : Hp) (x0 : Nat) (x1 : Int) (h : f_X2_sign s0 x0 x1 = some w) : AW m_X2_sign σ0 (oI w) 0 [some (rV (some x0)), some (iV x1), none] [] s0 := by
  unfold f_X2_sign at h
  refine AW.aload_n dX2_sign_0 rfl ?_
  refine AW.iload_n dX2_sign_1 rfl ?_
  refine AW.VI (M' := m_X2_at) (t := 2) [iV x1] [] dX2_sign_2 q644 q646 qs3 q126 q647 ck2 rfl n_X2_at rfl rfl rfl (fun _ _ _ e => c_X2_at e) h (fun v1 s2 h => ?_)
  refine AW.istore_n (L' := [some (rV (some x0)), some (iV x1), some (iV v1)]) dX2_sign_5 (Nat.le_of_ble_eq_true rfl) rfl rfl ?_
  refine AW.iload_n dX2_sign_6 rfl ?_
  rcases ite_or h with ⟨c25, h⟩ | ⟨c25, h⟩
  · refine AW.tIn 0 108 dX2_sign_7 (by omega) (by decide) rfl (by decide) ?_
    refine AW.iload_n dX2_sign_108 rfl ?_
    cases h
    exact AW.iret dX2_sign_109 rfl
  · rcases ite_or h with ⟨c24, h⟩ | ⟨c24, h⟩
    · refine AW.tIn 1 108 dX2_sign_7 (by omega) (by decide) rfl (by decide) ?_
      refine AW.iload_n dX2_sign_108 rfl ?_
      cases h
      exact AW.iret dX2_sign_109 rfl
    · rcases ite_or h with ⟨c23, h⟩ | ⟨c23, h⟩
      · refine AW.tIn 2 108 dX2_sign_7 (by omega) (by decide) rfl (by decide) ?_
        refine AW.iload_n dX2_sign_108 rfl ?_
        cases h
        exact AW.iret dX2_sign_109 rfl
      · rcases ite_or h with ⟨c22, h⟩ | ⟨c22, h⟩
        · refine AW.tIn 3 108 dX2_sign_7 (by omega) (by decide) rfl (by decide) ?_
          refine AW.iload_n dX2_sign_108 rfl ?_
          cases h
          exact AW.iret dX2_sign_109 rfl
        · rcases ite_or h with ⟨c21, h⟩ | ⟨c21, h⟩
          · refine AW.tIn 4 110 dX2_sign_7 (by omega) (by decide) rfl (by decide) ?_
            refine AW.iconst dX2_sign_110 ?_
            cases h
            exact AW.iret dX2_sign_111 rfl
          · rcases ite_or h with ⟨c20, h⟩ | ⟨c20, h⟩
            · refine AW.tIn 5 108 dX2_sign_7 (by omega) (by decide) rfl (by decide) ?_
              refine AW.iload_n dX2_sign_108 rfl ?_
              cases h
              exact AW.iret dX2_sign_109 rfl
            · rcases ite_or h with ⟨c19, h⟩ | ⟨c19, h⟩
              · refine AW.tIn 6 110 dX2_sign_7 (by omega) (by decide) rfl (by decide) ?_
                refine AW.iconst dX2_sign_110 ?_
                cases h
                exact AW.iret dX2_sign_111 rfl
              · rcases ite_or h with ⟨c18, h⟩ | ⟨c18, h⟩
                · refine AW.tIn 7 108 dX2_sign_7 (by omega) (by decide) rfl (by decide) ?_
                  refine AW.iload_n dX2_sign_108 rfl ?_
                  cases h
                  exact AW.iret dX2_sign_109 rfl
                · rcases ite_or h with ⟨c17, h⟩ | ⟨c17, h⟩
                  · refine AW.tIn 8 110 dX2_sign_7 (by omega) (by decide) rfl (by decide) ?_
                    refine AW.iconst dX2_sign_110 ?_
                    cases h
                    exact AW.iret dX2_sign_111 rfl
                  · rcases ite_or h with ⟨c16, h⟩ | ⟨c16, h⟩
                    · refine AW.tIn 9 110 dX2_sign_7 (by omega) (by decide) rfl (by decide) ?_
                      refine AW.iconst dX2_sign_110 ?_
                      cases h
                      exact AW.iret dX2_sign_111 rfl
                    · rcases ite_or h with ⟨c15, h⟩ | ⟨c15, h⟩
                      · refine AW.tIn 10 110 dX2_sign_7 (by omega) (by decide) rfl (by decide) ?_
                        refine AW.iconst dX2_sign_110 ?_
                        cases h
                        exact AW.iret dX2_sign_111 rfl
                      · rcases ite_or h with ⟨c14, h⟩ | ⟨c14, h⟩
                        · refine AW.tIn 11 110 dX2_sign_7 (by omega) (by decide) rfl (by decide) ?_
                          refine AW.iconst dX2_sign_110 ?_
                          cases h
                          exact AW.iret dX2_sign_111 rfl
                        · rcases ite_or h with ⟨c13, h⟩ | ⟨c13, h⟩
                          · refine AW.tIn 12 110 dX2_sign_7 (by omega) (by decide) rfl (by decide) ?_
                            refine AW.iconst dX2_sign_110 ?_
                            cases h
                            exact AW.iret dX2_sign_111 rfl
                          · rcases ite_or h with ⟨c12, h⟩ | ⟨c12, h⟩
                            · refine AW.tIn 13 110 dX2_sign_7 (by omega) (by decide) rfl (by decide) ?_
                              refine AW.iconst dX2_sign_110 ?_
                              cases h
                              exact AW.iret dX2_sign_111 rfl
                            · rcases ite_or h with ⟨c11, h⟩ | ⟨c11, h⟩
                              · refine AW.tIn 14 110 dX2_sign_7 (by omega) (by decide) rfl (by decide) ?_
                                refine AW.iconst dX2_sign_110 ?_
                                cases h
                                exact AW.iret dX2_sign_111 rfl
                              · rcases ite_or h with ⟨c10, h⟩ | ⟨c10, h⟩
                                · refine AW.tIn 15 110 dX2_sign_7 (by omega) (by decide) rfl (by decide) ?_
                                  refine AW.iconst dX2_sign_110 ?_
                                  cases h
                                  exact AW.iret dX2_sign_111 rfl
                                · rcases ite_or h with ⟨c9, h⟩ | ⟨c9, h⟩
                                  · refine AW.tIn 16 110 dX2_sign_7 (by omega) (by decide) rfl (by decide) ?_
                                    refine AW.iconst dX2_sign_110 ?_
                                    cases h
                                    exact AW.iret dX2_sign_111 rfl
                                  · rcases ite_or h with ⟨c8, h⟩ | ⟨c8, h⟩
                                    · refine AW.tIn 17 110 dX2_sign_7 (by omega) (by decide) rfl (by decide) ?_
                                      refine AW.iconst dX2_sign_110 ?_
                                      cases h
                                      exact AW.iret dX2_sign_111 rfl
                                    · rcases ite_or h with ⟨c7, h⟩ | ⟨c7, h⟩
                                      · refine AW.tIn 18 110 dX2_sign_7 (by omega) (by decide) rfl (by decide) ?_
                                        refine AW.iconst dX2_sign_110 ?_
                                        cases h
                                        exact AW.iret dX2_sign_111 rfl
                                      · rcases ite_or h with ⟨c6, h⟩ | ⟨c6, h⟩
                                        · refine AW.tIn 19 108 dX2_sign_7 (by omega) (by decide) rfl (by decide) ?_
                                          refine AW.iload_n dX2_sign_108 rfl ?_
                                          cases h
                                          exact AW.iret dX2_sign_109 rfl
                                        · rcases ite_or h with ⟨c5, h⟩ | ⟨c5, h⟩
                                          · refine AW.tIn 20 108 dX2_sign_7 (by omega) (by decide) rfl (by decide) ?_
                                            refine AW.iload_n dX2_sign_108 rfl ?_
                                            cases h
                                            exact AW.iret dX2_sign_109 rfl
                                          · rcases ite_or h with ⟨c4, h⟩ | ⟨c4, h⟩
                                            · refine AW.tIn 21 108 dX2_sign_7 (by omega) (by decide) rfl (by decide) ?_
                                              refine AW.iload_n dX2_sign_108 rfl ?_
                                              cases h
                                              exact AW.iret dX2_sign_109 rfl
                                            · refine AW.tOut 110 dX2_sign_7 (by omega) (by decide) ?_
                                              refine AW.iconst dX2_sign_110 ?_
                                              cases h
                                              exact AW.iret dX2_sign_111 rfl
theorem c_X2_sign {s0 : Hp} {x0 : Nat} {x1 : Int} {v : Int} {s1 : Hp} (h : f_X2_sign s0 x0 x1 = some (v, s1)) : Ct m_X2_sign [rV (some x0), iV x1] s0 (.inl (some (iV v)), s1) :=
  Ct.of2 (w_X2_sign s0 x0 x1 h) (show plainName yX2_sign.cls = true by decide) rfl rfl rfl
abbrev m_J10_isLatin1 : Mi := (yJ10_isLatin1, cJ10_isLatin1, (some .boolean), 1, 0, 0, [])
theorem n_J10_isLatin1 : nameOk yJ10_isLatin1 0 := ⟨by decide, by decide, by decide +kernel⟩
def f_J10_isLatin1 (s0 : Hp) (x0 : Nat) : Option (Int × Hp) :=
  (if nrm 1 = 0 then (some (0, s0)) else ((gI s0 50 (some x0) 1).bind fun v1 => (if ¬ nrm v1 = 0 then (some (0, s0)) else (some (1, s0)))))
theorem w_J10_isLatin1 {σ0 : Hp} {w : Int × Hp} (s0 : Hp) (x0 : Nat) (h : f_J10_isLatin1 s0 x0 = some w) : AW m_J10_isLatin1 σ0 (oI w) 0 [some (rV (some x0))] [] s0 := by
  unfold f_J10_isLatin1 at h
  refine AW.getsI dJ10_isLatin1_0 q660 ?_
  refine AW.if_eq 17 dJ10_isLatin1_3 (by decide) h (fun c3 h => ?_) (fun c3 h => ?_)
  · refine AW.iconst dJ10_isLatin1_17 ?_
    cases h
    exact AW.zret (z := 0) dJ10_isLatin1_18 rfl zz0
  · refine AW.aload_n dJ10_isLatin1_6 rfl ?_
    refine AW.getI (t := 50) (k := 1) dJ10_isLatin1_7 ck50 (Nat.le_of_ble_eq_true rfl) (fun _ => rfl) q903 (Or.inl rfl) h (fun v1 h => ?_)
    refine AW.if_ne 17 dJ10_isLatin1_10 (by decide) h (fun c2 h => ?_) (fun c2 h => ?_)
    · refine AW.iconst dJ10_isLatin1_17 ?_
      cases h
      exact AW.zret (z := 0) dJ10_isLatin1_18 rfl zz0
    · refine AW.iconst dJ10_isLatin1_13 ?_
      refine AW.goto (tgt := 18) dJ10_isLatin1_14 (by decide) ?_
      cases h
      exact AW.zret (z := 1) dJ10_isLatin1_18 rfl zz1
theorem c_J10_isLatin1 {s0 : Hp} {x0 : Nat} {v : Int} {s1 : Hp} (h : f_J10_isLatin1 s0 x0 = some (v, s1)) : Ct m_J10_isLatin1 [rV (some x0)] s0 (.inl (some (iV v)), s1) :=
  Ct.of2 (w_J10_isLatin1 s0 x0 h) (show plainName yJ10_isLatin1.cls = true by decide) rfl rfl rfl
abbrev m_J10_checkIndex : Mi := (yJ10_checkIndex, cJ10_checkIndex, none, 2, 1, 22, [])
theorem n_J10_checkIndex : nameOk yJ10_checkIndex 2 := ⟨by decide, by decide, by decide +kernel⟩
def f_J10_checkIndex (s0 : Hp) (x0 : Int) (x1 : Int) : Option (Unit × Hp) :=
  bn (f_J7_checkIndex s0 x0 x1 (cR s0.2.2.2 (1 + 1))) fun v1 s2 => some ((), s2)
theorem w_J10_checkIndex {σ0 : Hp} {w : Unit × Hp} (s0 : Hp) (x0 : Int) (x1 : Int) (h : f_J10_checkIndex s0 x0 x1 = some w) : AW m_J10_checkIndex σ0 (oU w) 0 [some (iV x0), some (iV x1)] [] s0 := by
  unfold f_J10_checkIndex at h
  refine AW.iload_n dJ10_checkIndex_0 rfl ?_
  refine AW.iload_n dJ10_checkIndex_1 rfl ?_
  refine AW.getsR 1 dJ10_checkIndex_2 rfl q676 ?_
  refine AW.SI (M' := m_J7_checkIndex) [iV x0, iV x1, rV (cR s0.2.2.2 (1 + 1))] [] dJ10_checkIndex_5 q678 q496 q136 q497 n_J7_checkIndex rfl rfl rfl (fun _ _ e => c_J7_checkIndex e) h (fun v1 s2 h => ?_)
  refine AW.popI dJ10_checkIndex_8 ?_
  cases h
  exact AW.vret dJ10_checkIndex_9 rfl
theorem c_J10_checkIndex {s0 : Hp} {x0 : Int} {x1 : Int} {v : Unit} {s1 : Hp} (h : f_J10_checkIndex s0 x0 x1 = some (v, s1)) : Ct m_J10_checkIndex [iV x0, iV x1] s0 (.inl none, s1) :=
  Ct.of2 (w_J10_checkIndex s0 x0 x1 h) (show plainName yJ10_checkIndex.cls = true by decide) rfl rfl rfl
abbrev m_J11_charAt : Mi := (yJ11_charAt, cJ11_charAt, (some .char), 2, 2, 43, [])
theorem n_J11_charAt : nameOk yJ11_charAt 2 := ⟨by decide, by decide, by decide +kernel⟩
def f_J11_charAt (s0 : Hp) (x0 : Option Nat) (x1 : Int) : Option (Int × Hp) :=
  (aL s0 150 x0).bind fun v1 => bn (f_J10_checkIndex s0 x1 v1) fun _ s2 => (aI s2 150 x0 x1).bind fun v3 => if 0 ≤ nrm (chI (anI v3 255)) ∧ nrm (chI (anI v3 255)) ≤ 255 then some (chI (anI v3 255), s2) else none
theorem w_J11_charAt {σ0 : Hp} {w : Int × Hp} (s0 : Hp) (x0 : Option Nat) (x1 : Int) (h : f_J11_charAt s0 x0 x1 = some w) : AW m_J11_charAt σ0 (oI w) 0 [some (rV x0), some (iV x1)] [] s0 := by
  unfold f_J11_charAt at h
  refine AW.iload_n dJ11_charAt_0 rfl ?_
  refine AW.aload_n dJ11_charAt_1 rfl ?_
  refine AW.alen (t := 150) dJ11_charAt_2 (Nat.le_of_ble_eq_true rfl) h (fun v1 h => ?_)
  refine AW.SU (M' := m_J10_checkIndex) [iV x1, iV v1] [] dJ11_charAt_3 q673 q674 q140 q675 n_J10_checkIndex rfl rfl rfl (fun _ _ e => c_J10_checkIndex e) h (fun _ s2 h => ?_)
  refine AW.aload_n dJ11_charAt_6 rfl ?_
  refine AW.iload_n dJ11_charAt_7 rfl ?_
  refine AW.bald (t := 150) dJ11_charAt_8 (Nat.le_of_ble_eq_true rfl) rfl h (fun v3 h => ?_)
  refine AW.sipush dJ11_charAt_9 (by decide) ?_
  refine AW.iand dJ11_charAt_12 ?_
  refine AW.i2c dJ11_charAt_13 ?_
  obtain ⟨hz, h⟩ := pz_elim h
  cases h
  exact AW.cret dJ11_charAt_14 rfl hz
theorem c_J11_charAt {s0 : Hp} {x0 : Option Nat} {x1 : Int} {v : Int} {s1 : Hp} (h : f_J11_charAt s0 x0 x1 = some (v, s1)) : Ct m_J11_charAt [rV x0, iV x1] s0 (.inl (some (iV v)), s1) :=
  Ct.of2 (w_J11_charAt s0 x0 x1 h) (show plainName yJ11_charAt.cls = true by decide) rfl rfl rfl
abbrev m_J10_charAt : Mi := (yJ10_charAt, cJ10_charAt, (some .char), 2, 3, 64, [])
theorem n_J10_charAt : nameOk yJ10_charAt 1 := ⟨by decide, by decide, by decide +kernel⟩
def f_J10_charAt (s0 : Hp) (x0 : Nat) (x1 : Int) : Option (Int × Hp) :=
  (rcv s0 50 (some x0)).bind fun b3 => bn (f_J10_isLatin1 s0 b3) fun v1 s2 => (if nrm v1 = 0 then (none) else ((gR s2 50 (some x0) 0).bind fun v4 => bn (f_J11_charAt s2 v4 x1) fun v5 s6 => if 0 ≤ nrm v5 ∧ nrm v5 ≤ 255 then some (v5, s6) else none))
theorem w_J10_charAt {σ0 : Hp} {w : Int × Hp} (s0 : Hp) (x0 : Nat) (x1 : Int) (h : f_J10_charAt s0 x0 x1 = some w) : AW m_J10_charAt σ0 (oI w) 0 [some (rV (some x0)), some (iV x1)] [] s0 := by
  unfold f_J10_charAt at h
  refine AW.aload_n dJ10_charAt_0 rfl ?_
  refine AW.VI (M' := m_J10_isLatin1) (t := 50) [] [] dJ10_charAt_1 q666 q667 q668 q140 q669 ck50 rfl n_J10_isLatin1 rfl rfl rfl (fun _ _ _ e => c_J10_isLatin1 e) h (fun v1 s2 h => ?_)
  refine AW.if_eq 16 dJ10_charAt_4 (by decide) h (fun c7 h => ?_) (fun c7 h => ?_)
  · cases h
  · refine AW.aload_n dJ10_charAt_7 rfl ?_
    refine AW.getR (t := 50) (k := 0) dJ10_charAt_8 ck50 (Nat.le_of_ble_eq_true rfl) (fun _ => rfl) q902 (Or.inl rfl) h (fun v4 h => ?_)
    refine AW.iload_n dJ10_charAt_11 rfl ?_
    refine AW.SI (M' := m_J11_charAt) [rV v4, iV x1] [] dJ10_charAt_12 q670 q671 q141 q672 n_J11_charAt rfl rfl rfl (fun _ _ e => c_J11_charAt e) h (fun v5 s6 h => ?_)
    obtain ⟨hz, h⟩ := pz_elim h
    cases h
    exact AW.cret dJ10_charAt_15 rfl hz
theorem c_J10_charAt {s0 : Hp} {x0 : Nat} {x1 : Int} {v : Int} {s1 : Hp} (h : f_J10_charAt s0 x0 x1 = some (v, s1)) : Ct m_J10_charAt [rV (some x0), iV x1] s0 (.inl (some (iV v)), s1) :=
  Ct.of2 (w_J10_charAt s0 x0 x1 h) (show plainName yJ10_charAt.cls = true by decide) rfl rfl rfl
abbrev m_J10_coder : Mi := (yJ10_coder, cJ10_coder, (some .byte), 1, 0, 0, [])
theorem n_J10_coder : nameOk yJ10_coder 0 := ⟨by decide, by decide, by decide +kernel⟩
def f_J10_coder (s0 : Hp) (x0 : Nat) : Option (Int × Hp) :=
  (if nrm 1 = 0 then (if -128 ≤ nrm 1 ∧ nrm 1 ≤ 127 then some (1, s0) else none) else ((gI s0 50 (some x0) 1).bind fun v1 => if -128 ≤ nrm v1 ∧ nrm v1 ≤ 127 then some (v1, s0) else none))
theorem w_J10_coder {σ0 : Hp} {w : Int × Hp} (s0 : Hp) (x0 : Nat) (h : f_J10_coder s0 x0 = some w) : AW m_J10_coder σ0 (oI w) 0 [some (rV (some x0))] [] s0 := by
  unfold f_J10_coder at h
  refine AW.getsI dJ10_coder_0 q660 ?_
  refine AW.if_eq 13 dJ10_coder_3 (by decide) h (fun c2 h => ?_) (fun c2 h => ?_)
  · refine AW.iconst dJ10_coder_13 ?_
    obtain ⟨hz, h⟩ := pz_elim h
    cases h
    exact AW.bret dJ10_coder_14 rfl hz
  · refine AW.aload_n dJ10_coder_6 rfl ?_
    refine AW.getI (t := 50) (k := 1) dJ10_coder_7 ck50 (Nat.le_of_ble_eq_true rfl) (fun _ => rfl) q903 (Or.inl rfl) h (fun v1 h => ?_)
    refine AW.goto (tgt := 14) dJ10_coder_10 (by decide) ?_
    obtain ⟨hz, h⟩ := pz_elim h
    cases h
    exact AW.bret dJ10_coder_14 rfl hz
theorem c_J10_coder {s0 : Hp} {x0 : Nat} {v : Int} {s1 : Hp} (h : f_J10_coder s0 x0 = some (v, s1)) : Ct m_J10_coder [rV (some x0)] s0 (.inl (some (iV v)), s1) :=
  Ct.of2 (w_J10_coder s0 x0 h) (show plainName yJ10_coder.cls = true by decide) rfl rfl rfl
abbrev m_J10_length : Mi := (yJ10_length, cJ10_length, (some .int), 1, 1, 20, [])
theorem n_J10_length : nameOk yJ10_length 0 := ⟨by decide, by decide, by decide +kernel⟩
def f_J10_length (s0 : Hp) (x0 : Nat) : Option (Int × Hp) :=
  (gR s0 50 (some x0) 0).bind fun v1 => (aL s0 150 v1).bind fun v2 => (rcv s0 50 (some x0)).bind fun b5 => bn (f_J10_coder s0 b5) fun v3 s4 => some (srI v2 v3, s4)
theorem w_J10_length {σ0 : Hp} {w : Int × Hp} (s0 : Hp) (x0 : Nat) (h : f_J10_length s0 x0 = some w) : AW m_J10_length σ0 (oI w) 0 [some (rV (some x0))] [] s0 := by
  unfold f_J10_length at h
  refine AW.aload_n dJ10_length_0 rfl ?_
  refine AW.getR (t := 50) (k := 0) dJ10_length_1 ck50 (Nat.le_of_ble_eq_true rfl) (fun _ => rfl) q902 (Or.inl rfl) h (fun v1 h => ?_)
  refine AW.alen (t := 150) dJ10_length_4 (Nat.le_of_ble_eq_true rfl) h (fun v2 h => ?_)
  refine AW.aload_n dJ10_length_5 rfl ?_
  refine AW.VI (M' := m_J10_coder) (t := 50) [] [iV v2] dJ10_length_6 q656 q657 q658 q140 q659 ck50 rfl n_J10_coder rfl rfl rfl (fun _ _ _ e => c_J10_coder e) h (fun v3 s4 h => ?_)
  refine AW.ishr dJ10_length_9 ?_
  cases h
  exact AW.iret dJ10_length_10 rfl
theorem c_J10_length {s0 : Hp} {x0 : Nat} {v : Int} {s1 : Hp} (h : f_J10_length s0 x0 = some (v, s1)) : Ct m_J10_length [rV (some x0)] s0 (.inl (some (iV v)), s1) :=
  Ct.of2 (w_J10_length s0 x0 h) (show plainName yJ10_length.cls = true by decide) rfl rfl rfl
abbrev m_X2_word : Mi := (yX2_word, cX2_word, (some .int), 6, 4, 85, [])
theorem n_X2_word : nameOk yX2_word 2 := ⟨by decide, by decide, by decide +kernel⟩
def f_X2_word_L36 (x0 : Nat) : Nat → Hp → Int → Int → Int → Int → Int → (Hp → Int → Int → Int → Int → Option (Int × Hp)) → Option (Int × Hp)
  | 0, _, _, _, _, _, _, _ => none
  | n + 1, s0, x1, x2, x3, x4, x5, k => (if nrm x2 ≤ nrm x5 then (k s0 x1 x2 x3 x4) else ((if nrm x4 = 0 then (k s0 x1 x2 x3 x4) else ((gR s0 2 (some x0) 0).bind fun v9 => (aR s0 108 v9 x3).bind fun v10 => (rcv s0 50 v10).bind fun b13 => bn (f_J10_charAt s0 b13 (x5 - x1)) fun v11 s12 => (gR s12 2 (some x0) 1).bind fun v14 => (aI s12 101 v14 x5).bind fun v15 => (if ¬ nrm v11 = nrm v15 then (f_X2_word_L36 x0 n s12 x1 x2 x3 0 (x5 + 1) k) else (f_X2_word_L36 x0 n s12 x1 x2 x3 1 (x5 + 1) k))))))
theorem w_X2_word_L36 {σ0 : Hp} {w : Int × Hp} {x0 : Nat} : ∀ (n : Nat) (s0 : Hp) (x1 : Int) (x2 : Int) (x3 : Int) (x4 : Int) (x5 : Int) (k : (Hp → Int → Int → Int → Int → Option (Int × Hp))), f_X2_word_L36 x0 n s0 x1 x2 x3 x4 x5 k = some w → (∀ (s1 : Hp) (x1 : Int) (x2 : Int) (x3 : Int) (x4 : Int), k s1 x1 x2 x3 x4 = some w → AW m_X2_word σ0 (oI w) 83 [some (rV (some x0)), some (iV x1), some (iV x2), some (iV x3), some (iV x4), none] [] s1) → AW m_X2_word σ0 (oI w) 36 [some (rV (some x0)), some (iV x1), some (iV x2), some (iV x3), some (iV x4), some (iV x5)] [] s0 := by
  intro n
  induction n with
  | zero =>
    intro s0 x1 x2 x3 x4 x5 k h hk
    rw [f_X2_word_L36] at h
    cases h
  | succ n ih =>
    intro s0 x1 x2 x3 x4 x5 k h hk
    rw [f_X2_word_L36] at h
    refine AW.iload dX2_word_36 rfl ?_
    refine AW.iload_n dX2_word_38 rfl ?_
    refine AW.icmp_ge 83 dX2_word_39 (by decide) h (fun c18 h => ?_) (fun c18 h => ?_)
    · exact AW.fewer (L' := [some (rV (some x0)), some (iV x1), some (iV x2), some (iV x3), some (iV x4), none]) (And.intro rfl (And.intro rfl (And.intro rfl (And.intro rfl (And.intro rfl trivial))))) (hk _ _ _ _ _ h)
    · refine AW.iload dX2_word_42 rfl ?_
      refine AW.if_eq 83 dX2_word_44 (by decide) h (fun c17 h => ?_) (fun c17 h => ?_)
      · exact AW.fewer (L' := [some (rV (some x0)), some (iV x1), some (iV x2), some (iV x3), some (iV x4), none]) (And.intro rfl (And.intro rfl (And.intro rfl (And.intro rfl (And.intro rfl trivial))))) (hk _ _ _ _ _ h)
      · refine AW.aload_n dX2_word_47 rfl ?_
        refine AW.getR (t := 2) (k := 0) dX2_word_48 ck2 (Nat.le_of_ble_eq_true rfl) (fun _ => rfl) q264 (Or.inl rfl) h (fun v9 h => ?_)
        refine AW.iload_n dX2_word_51 rfl ?_
        refine AW.aald (t := 108) dX2_word_52 (Nat.le_of_ble_eq_true rfl) rfl (fun _ _ => rfl) h (fun v10 h => ?_)
        refine AW.iload dX2_word_53 rfl ?_
        refine AW.iload_n dX2_word_55 rfl ?_
        refine AW.isub dX2_word_56 ?_
        refine AW.VI (M' := m_J10_charAt) (t := 50) [iV (x5 - x1)] [] dX2_word_57 q662 q663 q664 q140 q665 ck50 rfl n_J10_charAt rfl rfl rfl (fun _ _ _ e => c_J10_charAt e) h (fun v11 s12 h => ?_)
        refine AW.aload_n dX2_word_60 rfl ?_
        refine AW.getR (t := 2) (k := 1) dX2_word_61 ck2 (Nat.le_of_ble_eq_true rfl) (fun _ => rfl) q265 (Or.inl rfl) h (fun v14 h => ?_)
        refine AW.iload dX2_word_64 rfl ?_
        refine AW.bald (t := 101) dX2_word_66 (Nat.le_of_ble_eq_true rfl) rfl h (fun v15 h => ?_)
        refine AW.icmp_ne 74 dX2_word_67 (by decide) h (fun c16 h => ?_) (fun c16 h => ?_)
        · refine AW.iconst dX2_word_74 ?_
          refine AW.istore (L' := [some (rV (some x0)), some (iV x1), some (iV x2), some (iV x3), some (iV 0), some (iV x5)]) dX2_word_75 (Nat.le_of_ble_eq_true rfl) rfl rfl ?_
          refine AW.iinc (L' := [some (rV (some x0)), some (iV x1), some (iV x2), some (iV x3), some (iV 0), some (iV (x5 + 1))]) dX2_word_77 rfl (Nat.le_of_ble_eq_true rfl) rfl rfl ?_
          refine AW.goto (tgt := 36) dX2_word_80 (by decide) ?_
          exact ih _ _ _ _ _ _ _ h hk
        · refine AW.iconst dX2_word_70 ?_
          refine AW.goto (tgt := 75) dX2_word_71 (by decide) ?_
          refine AW.istore (L' := [some (rV (some x0)), some (iV x1), some (iV x2), some (iV x3), some (iV 1), some (iV x5)]) dX2_word_75 (Nat.le_of_ble_eq_true rfl) rfl rfl ?_
          refine AW.iinc (L' := [some (rV (some x0)), some (iV x1), some (iV x2), some (iV x3), some (iV 1), some (iV (x5 + 1))]) dX2_word_77 rfl (Nat.le_of_ble_eq_true rfl) rfl rfl ?_
          refine AW.goto (tgt := 36) dX2_word_80 (by decide) ?_
          exact ih _ _ _ _ _ _ _ h hk
def f_X2_word_L2 (x0 : Nat) : Nat → Hp → Int → Int → Int → (Hp → Option (Int × Hp)) → Option (Int × Hp)
  | 0, _, _, _, _, _ => none
  | n + 1, s0, x1, x2, x3, k => (gR s0 2 (some x0) 0).bind fun v1 => (aL s0 108 v1).bind fun v2 => (if nrm v2 ≤ nrm x3 then (k s0) else ((gR s0 2 (some x0) 0).bind fun v3 => (aR s0 108 v3 x3).bind fun v4 => (rcv s0 50 v4).bind fun b7 => bn (f_J10_length s0 b7) fun v5 s6 => jn (fun (s8 : Hp) (x1 : Int) (x2 : Int) (x3 : Int) (y0 : Int) => f_X2_word_L36 x0 FU s8 x1 x2 x3 y0 x1 (fun s19 x1 x2 x3 x4 => (if nrm x4 = 0 then (f_X2_word_L2 x0 n s19 x1 x2 (x3 + 1) k) else (some (nrm x3, s19))))) fun j31 => (if ¬ nrm v5 = nrm (x2 - x1) then (j31 s6 x1 x2 x3 0) else (j31 s6 x1 x2 x3 1))))
theorem w_X2_word_L2 {σ0 : Hp} {w : Int × Hp} {x0 : Nat} : ∀ (n : Nat) (s0 : Hp) (x1 : Int) (x2 : Int) (x3 : Int) (k : (Hp → Option (Int × Hp))), f_X2_word_L2 x0 n s0 x1 x2 x3 k = some w → (∀ (s1 : Hp), k s1 = some w → AW m_X2_word σ0 (oI w) 96 [none, none, none, none, none, none] [] s1) → AW m_X2_word σ0 (oI w) 2 [some (rV (some x0)), some (iV x1), some (iV x2), some (iV x3), none, none] [] s0 := by
  intro n
  induction n with
  | zero =>
    intro s0 x1 x2 x3 k h hk
    rw [f_X2_word_L2] at h
    cases h
  | succ n ih =>
    intro s0 x1 x2 x3 k h hk
    rw [f_X2_word_L2] at h
    refine AW.iload_n dX2_word_2 rfl ?_
    refine AW.aload_n dX2_word_3 rfl ?_
    refine AW.getR (t := 2) (k := 0) dX2_word_4 ck2 (Nat.le_of_ble_eq_true rfl) (fun _ => rfl) q264 (Or.inl rfl) h (fun v1 h => ?_)
    refine AW.alen (t := 108) dX2_word_7 (Nat.le_of_ble_eq_true rfl) h (fun v2 h => ?_)
    refine AW.icmp_ge 96 dX2_word_8 (by decide) h (fun c22 h => ?_) (fun c22 h => ?_)
    · exact AW.fewer (L' := [none, none, none, none, none, none]) (trivial) (hk _ h)
    · refine AW.aload_n dX2_word_11 rfl ?_
      refine AW.getR (t := 2) (k := 0) dX2_word_12 ck2 (Nat.le_of_ble_eq_true rfl) (fun _ => rfl) q264 (Or.inl rfl) h (fun v3 h => ?_)
      refine AW.iload_n dX2_word_15 rfl ?_
      refine AW.aald (t := 108) dX2_word_16 (Nat.le_of_ble_eq_true rfl) rfl (fun _ _ => rfl) h (fun v4 h => ?_)
      refine AW.VI (M' := m_J10_length) (t := 50) [] [] dX2_word_17 q652 q653 q654 q140 q655 ck50 rfl n_J10_length rfl rfl rfl (fun _ _ _ e => c_J10_length e) h (fun v5 s6 h => ?_)
      refine AW.iload_n dX2_word_20 rfl ?_
      refine AW.iload_n dX2_word_21 rfl ?_
      refine AW.isub dX2_word_22 ?_
      refine jn_elim h (fun (j : (Hp → Int → Int → Int → Int → Option (Int × Hp))) => ∀ (s8 : Hp) (x1 : Int) (x2 : Int) (x3 : Int) (y0 : Int), j s8 x1 x2 x3 y0 = some w → AW m_X2_word σ0 (oI w) 31 [some (rV (some x0)), some (iV x1), some (iV x2), some (iV x3), none, none] [iV y0] s8) ?_ (fun j31 hj31 h => ?_)
      · intro s8 x1 x2 x3 y0 h
        refine AW.istore (L' := [some (rV (some x0)), some (iV x1), some (iV x2), some (iV x3), some (iV y0), none]) dX2_word_31 (Nat.le_of_ble_eq_true rfl) rfl rfl ?_
        refine AW.iload_n dX2_word_33 rfl ?_
        refine AW.istore (L' := [some (rV (some x0)), some (iV x1), some (iV x2), some (iV x3), some (iV y0), some (iV x1)]) dX2_word_34 (Nat.le_of_ble_eq_true rfl) rfl rfl ?_
        refine w_X2_word_L36 _ _ _ _ _ _ _ _ h (fun s19 x1 x2 x3 x4 h => ?_)
        refine AW.iload dX2_word_83 rfl ?_
        refine AW.if_eq 90 dX2_word_85 (by decide) h (fun c20 h => ?_) (fun c20 h => ?_)
        · refine AW.iinc (L' := [some (rV (some x0)), some (iV x1), some (iV x2), some (iV (x3 + 1)), some (iV x4), none]) dX2_word_90 rfl (Nat.le_of_ble_eq_true rfl) rfl rfl ?_
          refine AW.goto (tgt := 2) dX2_word_93 (by decide) ?_
          exact AW.fewer (L' := [some (rV (some x0)), some (iV x1), some (iV x2), some (iV (x3 + 1)), none, none]) (And.intro rfl (And.intro rfl (And.intro rfl (And.intro rfl trivial)))) (ih _ _ _ _ _ h hk)
        · refine AW.iload_n dX2_word_88 rfl ?_
          refine AW.nv ?_
          cases h
          exact AW.iret dX2_word_89 rfl
      · refine AW.icmp_ne 30 dX2_word_23 (by decide) h (fun c21 h => ?_) (fun c21 h => ?_)
        · refine AW.iconst dX2_word_30 ?_
          exact hj31 _ _ _ _ _ h
        · refine AW.iconst dX2_word_26 ?_
          refine AW.goto (tgt := 31) dX2_word_27 (by decide) ?_
          exact hj31 _ _ _ _ _ h
def f_X2_word (s0 : Hp) (x0 : Nat) (x1 : Int) (x2 : Int) : Option (Int × Hp) :=
  f_X2_word_L2 x0 FU s0 x1 x2 0 (fun s23 => some ((-1), s23))
theorem w_X2_word {σ0 : Hp} {w : Int × Hp} (s0 : Hp) (x0 : Nat) (x1 : Int) (x2 : Int) (h : f_X2_word s0 x0 x1 x2 = some w) : AW m_X2_word σ0 (oI w) 0 [some (rV (some x0)), some (iV x1), some (iV x2), none, none, none] [] s0 := by
  unfold f_X2_word at h
  refine AW.iconst dX2_word_0 ?_
  refine AW.istore_n (L' := [some (rV (some x0)), some (iV x1), some (iV x2), some (iV 0), none, none]) dX2_word_1 (Nat.le_of_ble_eq_true rfl) rfl rfl ?_
  refine w_X2_word_L2 _ _ _ _ _ _ h (fun s23 h => ?_)
  refine AW.iconst dX2_word_96 ?_
  cases h
  exact AW.iret dX2_word_97 rfl
theorem c_X2_word {s0 : Hp} {x0 : Nat} {x1 : Int} {x2 : Int} {v : Int} {s1 : Hp} (h : f_X2_word s0 x0 x1 x2 = some (v, s1)) : Ct m_X2_word [rV (some x0), iV x1, iV x2] s0 (.inl (some (iV v)), s1) :=
  Ct.of2 (w_X2_word s0 x0 x1 x2 h) (show plainName yX2_word.cls = true by decide) rfl rfl rfl
