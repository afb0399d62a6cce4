set_option maxRecDepth 100000
abbrev m_X6_init : Mi := (yX6_init, cX6_init, none, 1, 1, 20, [])
theorem n_X6_init : nameOk yX6_init 0 := ⟨by decide, by decide, by decide +kernel⟩
def f_X6_init (s0 : Hp) (x0 : Nat) : Option (Unit × Hp) :=
  (some x0).bind fun _ => nwA s0 100 6 fun v1 s2 => (pR s2 6 (some x0) 0 v1).bind fun s3 => some ((), s3)
theorem w_X6_init {σ0 : Hp} {w : Unit × Hp} (s0 : Hp) (x0 : Nat) (h : f_X6_init s0 x0 = some w) : AW m_X6_init σ0 (oU w) 0 [some (rV (some x0))] [] s0 := by
  unfold f_X6_init at h
  refine AW.aload_n dX6_init_0 rfl ?_
  refine AW.objI dX6_init_1 q408 rfl rfl h (fun _ h => ?_)
  refine AW.aload_n dX6_init_4 rfl ?_
  refine AW.bipush dX6_init_5 (by decide) ?_
  refine AW.newa (t := 100) (atype := .int) dX6_init_7 (Nat.le_of_ble_eq_true rfl) mu100 rfl (by decide) (fun _ h => by cases h) ⟨(fun h => by cases h), (fun h => by cases h)⟩ (by decide) q420 h (fun v1 s2 h => ?_)
  refine AW.putR (t := 6) (k := 0) dX6_init_9 ck6 mu6 (Nat.le_of_ble_eq_true rfl) (Or.inr ⟨_, rfl⟩) q409 (Or.inl rfl) (Or.inr ⟨rfl, rfl⟩) h (fun s3 h => ?_)
  cases h
  exact AW.vret dX6_init_12 rfl
theorem c_X6_init {s0 : Hp} {x0 : Nat} {v : Unit} {s1 : Hp} (h : f_X6_init s0 x0 = some (v, s1)) : Ct m_X6_init [rV (some x0)] s0 (.inl none, s1) :=
  Ct.of2 (w_X6_init s0 x0 h) (show plainName yX6_init.cls = true by decide) rfl rfl rfl
abbrev m_X5_init : Mi := (yX5_init, cX5_init, none, 1, 2, 40, [])
theorem n_X5_init : nameOk yX5_init 0 := ⟨by decide, by decide, by decide +kernel⟩
def f_X5_init (s0 : Hp) (x0 : Nat) : Option (Unit × Hp) :=
  (some x0).bind fun _ => nwM s0 105 101 6 300 fun v1 s2 => (pR s2 5 (some x0) 0 v1).bind fun s3 => nwM s3 105 101 6 300 fun v4 s5 => (pR s5 5 (some x0) 1 v4).bind fun s6 => nwM s6 105 101 8 300 fun v7 s8 => (pR s8 5 (some x0) 2 v7).bind fun s9 => nwM s9 106 102 8 300 fun v10 s11 => (pR s11 5 (some x0) 3 v10).bind fun s12 => nwM s12 107 103 8 300 fun v13 s14 => (pR s14 5 (some x0) 4 v13).bind fun s15 => nwA s15 100 8 fun v16 s17 => (pR s17 5 (some x0) 5 v16).bind fun s18 => nwA s18 100 8 fun v19 s20 => (pR s20 5 (some x0) 6 v19).bind fun s21 => nwA s21 100 6 fun v22 s23 => (pR s23 5 (some x0) 7 v22).bind fun s24 => nw s24 6 2 fun v25 s26 => (rcv s26 6 v25).bind fun b28 => bn (f_X6_init s26 b28) fun _ s27 => (pR s27 5 (some x0) 8 v25).bind fun s29 => some ((), s29)
theorem w_X5_init {σ0 : Hp} {w : Unit × Hp} (s0 : Hp) (x0 : Nat) (h : f_X5_init s0 x0 = some w) : AW m_X5_init σ0 (oU w) 0 [some (rV (some x0))] [] s0 := by
  unfold f_X5_init at h
  refine AW.aload_n dX5_init_0 rfl ?_
  refine AW.objI dX5_init_1 q396 rfl rfl h (fun _ h => ?_)
  refine AW.aload_n dX5_init_4 rfl ?_
  refine AW.bipush dX5_init_5 (by decide) ?_
  refine AW.sipush dX5_init_7 (by decide) ?_
  refine AW.mnew (t := 105) (te := 101) (n := 6) (k := 300) (ty := .byte) dX5_init_10 (Nat.le_of_ble_eq_true rfl) (Nat.le_of_ble_eq_true rfl) (Nat.le_of_ble_eq_true rfl) (Nat.le_of_ble_eq_true rfl) mu105 mu101 rfl rfl (by decide) (fun _ h => by cases h) ⟨(fun h => by cases h), (fun h => by cases h)⟩ (by decide) (by decide) q397 (by decide) q238 h (fun v1 s2 h => ?_)
  refine AW.putR (t := 5) (k := 0) dX5_init_14 ck5 mu5 (Nat.le_of_ble_eq_true rfl) (Or.inr ⟨_, rfl⟩) q421 (Or.inl rfl) (Or.inr ⟨rfl, rfl⟩) h (fun s3 h => ?_)
  refine AW.aload_n dX5_init_17 rfl ?_
  refine AW.bipush dX5_init_18 (by decide) ?_
  refine AW.sipush dX5_init_20 (by decide) ?_
  refine AW.mnew (t := 105) (te := 101) (n := 6) (k := 300) (ty := .byte) dX5_init_23 (Nat.le_of_ble_eq_true rfl) (Nat.le_of_ble_eq_true rfl) (Nat.le_of_ble_eq_true rfl) (Nat.le_of_ble_eq_true rfl) mu105 mu101 rfl rfl (by decide) (fun _ h => by cases h) ⟨(fun h => by cases h), (fun h => by cases h)⟩ (by decide) (by decide) q397 (by decide) q238 h (fun v4 s5 h => ?_)
  refine AW.putR (t := 5) (k := 1) dX5_init_27 ck5 mu5 (Nat.le_of_ble_eq_true rfl) (Or.inr ⟨_, rfl⟩) q423 (Or.inl rfl) (Or.inr ⟨rfl, rfl⟩) h (fun s6 h => ?_)
  refine AW.aload_n dX5_init_30 rfl ?_
  refine AW.bipush dX5_init_31 (by decide) ?_
  refine AW.sipush dX5_init_33 (by decide) ?_
  refine AW.mnew (t := 105) (te := 101) (n := 8) (k := 300) (ty := .byte) dX5_init_36 (Nat.le_of_ble_eq_true rfl) (Nat.le_of_ble_eq_true rfl) (Nat.le_of_ble_eq_true rfl) (Nat.le_of_ble_eq_true rfl) mu105 mu101 rfl rfl (by decide) (fun _ h => by cases h) ⟨(fun h => by cases h), (fun h => by cases h)⟩ (by decide) (by decide) q397 (by decide) q238 h (fun v7 s8 h => ?_)
  refine AW.putR (t := 5) (k := 2) dX5_init_40 ck5 mu5 (Nat.le_of_ble_eq_true rfl) (Or.inr ⟨_, rfl⟩) q425 (Or.inl rfl) (Or.inr ⟨rfl, rfl⟩) h (fun s9 h => ?_)
  refine AW.aload_n dX5_init_43 rfl ?_
  refine AW.bipush dX5_init_44 (by decide) ?_
  refine AW.sipush dX5_init_46 (by decide) ?_
  refine AW.mnew (t := 106) (te := 102) (n := 8) (k := 300) (ty := .boolean) dX5_init_49 (Nat.le_of_ble_eq_true rfl) (Nat.le_of_ble_eq_true rfl) (Nat.le_of_ble_eq_true rfl) (Nat.le_of_ble_eq_true rfl) mu106 mu102 rfl rfl (by decide) (fun _ h => by cases h) ⟨(fun h => by cases h), (fun h => by cases h)⟩ (by decide) (by decide) q399 (by decide) q419 h (fun v10 s11 h => ?_)
  refine AW.putR (t := 5) (k := 3) dX5_init_53 ck5 mu5 (Nat.le_of_ble_eq_true rfl) (Or.inr ⟨_, rfl⟩) q428 (Or.inl rfl) (Or.inr ⟨rfl, rfl⟩) h (fun s12 h => ?_)
  refine AW.aload_n dX5_init_56 rfl ?_
  refine AW.bipush dX5_init_57 (by decide) ?_
  refine AW.sipush dX5_init_59 (by decide) ?_
  refine AW.mnew (t := 107) (te := 103) (n := 8) (k := 300) (ty := .short) dX5_init_62 (Nat.le_of_ble_eq_true rfl) (Nat.le_of_ble_eq_true rfl) (Nat.le_of_ble_eq_true rfl) (Nat.le_of_ble_eq_true rfl) mu107 mu103 rfl rfl (by decide) (fun _ h => by cases h) ⟨(fun h => by cases h), (fun h => by cases h)⟩ (by decide) (by decide) q401 (by decide) q294 h (fun v13 s14 h => ?_)
  refine AW.putR (t := 5) (k := 4) dX5_init_66 ck5 mu5 (Nat.le_of_ble_eq_true rfl) (Or.inr ⟨_, rfl⟩) q430 (Or.inl rfl) (Or.inr ⟨rfl, rfl⟩) h (fun s15 h => ?_)
  refine AW.aload_n dX5_init_69 rfl ?_
  refine AW.bipush dX5_init_70 (by decide) ?_
  refine AW.newa (t := 100) (atype := .int) dX5_init_72 (Nat.le_of_ble_eq_true rfl) mu100 rfl (by decide) (fun _ h => by cases h) ⟨(fun h => by cases h), (fun h => by cases h)⟩ (by decide) q420 h (fun v16 s17 h => ?_)
  refine AW.putR (t := 5) (k := 5) dX5_init_74 ck5 mu5 (Nat.le_of_ble_eq_true rfl) (Or.inr ⟨_, rfl⟩) q432 (Or.inl rfl) (Or.inr ⟨rfl, rfl⟩) h (fun s18 h => ?_)
  refine AW.aload_n dX5_init_77 rfl ?_
  refine AW.bipush dX5_init_78 (by decide) ?_
  refine AW.newa (t := 100) (atype := .int) dX5_init_80 (Nat.le_of_ble_eq_true rfl) mu100 rfl (by decide) (fun _ h => by cases h) ⟨(fun h => by cases h), (fun h => by cases h)⟩ (by decide) q420 h (fun v19 s20 h => ?_)
  refine AW.putR (t := 5) (k := 6) dX5_init_82 ck5 mu5 (Nat.le_of_ble_eq_true rfl) (Or.inr ⟨_, rfl⟩) q433 (Or.inl rfl) (Or.inr ⟨rfl, rfl⟩) h (fun s21 h => ?_)
  refine AW.aload_n dX5_init_85 rfl ?_
  refine AW.bipush dX5_init_86 (by decide) ?_
  refine AW.newa (t := 100) (atype := .int) dX5_init_88 (Nat.le_of_ble_eq_true rfl) mu100 rfl (by decide) (fun _ h => by cases h) ⟨(fun h => by cases h), (fun h => by cases h)⟩ (by decide) q420 h (fun v22 s23 h => ?_)
  refine AW.putR (t := 5) (k := 7) dX5_init_90 ck5 mu5 (Nat.le_of_ble_eq_true rfl) (Or.inr ⟨_, rfl⟩) q434 (Or.inl rfl) (Or.inr ⟨rfl, rfl⟩) h (fun s24 h => ?_)
  refine AW.aload_n dX5_init_93 rfl ?_
  refine AW.new (t := 6) (n := 2) dX5_init_94 ck6 mu6 nf6 q403 q404 q133 h (fun v25 s26 h => ?_)
  refine AW.dupR dX5_init_97 ?_
  refine AW.NU (M' := m_X6_init) (t := 6) [] [rV v25, rV (some x0)] dX5_init_98 (by decide) q406 q133 q407 rfl rfl n_X6_init rfl rfl rfl (fun _ _ _ e => c_X6_init e) h (fun _ s27 h => ?_)
  refine AW.putR (t := 5) (k := 8) dX5_init_101 ck5 mu5 (Nat.le_of_ble_eq_true rfl) (Or.inl ⟨_, rfl⟩) q435 (Or.inl rfl) (Or.inr ⟨rfl, rfl⟩) h (fun s29 h => ?_)
  cases h
  exact AW.vret dX5_init_104 rfl
theorem c_X5_init {s0 : Hp} {x0 : Nat} {v : Unit} {s1 : Hp} (h : f_X5_init s0 x0 = some (v, s1)) : Ct m_X5_init [rV (some x0)] s0 (.inl none, s1) :=
  Ct.of2 (w_X5_init s0 x0 h) (show plainName yX5_init.cls = true by decide) rfl rfl rfl
abbrev m_J5_size : Mi := (yJ5_size, cJ5_size, (some .int), 1, 0, 0, [])
theorem n_J5_size : nameOk yJ5_size 0 := ⟨by decide, by decide, by decide +kernel⟩
def f_J5_size (s0 : Hp) (x0 : Nat) : Option (Int × Hp) :=
  (gI s0 18 (some x0) 2).bind fun v1 => some (v1, s0)
theorem w_J5_size {σ0 : Hp} {w : Int × Hp} (s0 : Hp) (x0 : Nat) (h : f_J5_size s0 x0 = some w) : AW m_J5_size σ0 (oI w) 0 [some (rV (some x0))] [] s0 := by
  unfold f_J5_size at h
  refine AW.aload_n dJ5_size_0 rfl ?_
  refine AW.getI (t := 18) (k := 2) dJ5_size_1 ck18 (Nat.le_of_ble_eq_true rfl) (fun _ => rfl) q344 (Or.inl rfl) h (fun v1 h => ?_)
  cases h
  exact AW.iret dJ5_size_4 rfl
theorem c_J5_size {s0 : Hp} {x0 : Nat} {v : Int} {s1 : Hp} (h : f_J5_size s0 x0 = some (v, s1)) : Ct m_J5_size [rV (some x0)] s0 (.inl (some (iV v)), s1) :=
  Ct.of2 (w_J5_size s0 x0 h) (show plainName yJ5_size.cls = true by decide) rfl rfl rfl
abbrev m_X5_menIn : Mi := (yX5_menIn, cX5_menIn, (some .int), 6, 1, 20, [])
theorem n_X5_menIn : nameOk yX5_menIn 3 := ⟨by decide, by decide, by decide +kernel⟩
def f_X5_menIn_L6 (x0 : Nat) : Nat → Hp → Option Nat → Int → Int → Int → Int → (Hp → Int → Option (Int × Hp)) → Option (Int × Hp)
  | 0, _, _, _, _, _, _, _ => none
  | n + 1, s0, x1, x2, x3, x4, x5, k => (gR s0 4 x1 1).bind fun v1 => (rcv s0 18 v1).bind fun b4 => bn (f_J5_size s0 b4) fun v2 s3 => (if nrm v2 ≤ nrm x5 then (k s3 x4) else ((gR s3 5 (some x0) 0).bind fun v5 => (aR s3 105 v5 x5).bind fun v6 => (aI s3 101 v6 x3).bind fun v7 => (if ¬ nrm v7 = nrm x2 then (f_X5_menIn_L6 x0 n s3 x1 x2 x3 (orI x4 0) (x5 + 1) k) else (f_X5_menIn_L6 x0 n s3 x1 x2 x3 (orI x4 (slI 1 x5)) (x5 + 1) k))))
theorem w_X5_menIn_L6 {σ0 : Hp} {w : Int × Hp} {x0 : Nat} : ∀ (n : Nat) (s0 : Hp) (x1 : Option Nat) (x2 : Int) (x3 : Int) (x4 : Int) (x5 : Int) (k : (Hp → Int → Option (Int × Hp))), f_X5_menIn_L6 x0 n s0 x1 x2 x3 x4 x5 k = some w → (∀ (s1 : Hp) (x4 : Int), k s1 x4 = some w → AW m_X5_menIn σ0 (oI w) 50 [none, none, none, none, some (iV x4), none] [] s1) → AW m_X5_menIn σ0 (oI w) 6 [some (rV (some x0)), some (rV x1), some (iV x2), some (iV x3), some (iV x4), some (iV x5)] [] s0 := by
  intro n
  induction n with
  | zero =>
    intro s0 x1 x2 x3 x4 x5 k h hk
    rw [f_X5_menIn_L6] at h
    cases h
  | succ n ih =>
    intro s0 x1 x2 x3 x4 x5 k h hk
    rw [f_X5_menIn_L6] at h
    refine AW.iload dX5_menIn_6 rfl ?_
    refine AW.aload_n dX5_menIn_8 rfl ?_
    refine AW.getR (t := 4) (k := 1) dX5_menIn_9 ck4 (Nat.le_of_ble_eq_true rfl) (fun _ => rfl) q360 (Or.inl rfl) h (fun v1 h => ?_)
    refine AW.VI (M' := m_J5_size) (t := 18) [] [iV x5] dX5_menIn_12 q484 q485 q486 q131 q487 ck18 rfl n_J5_size rfl rfl rfl (fun _ _ _ e => c_J5_size e) h (fun v2 s3 h => ?_)
    refine AW.icmp_ge 50 dX5_menIn_15 (by decide) h (fun c9 h => ?_) (fun c9 h => ?_)
    · exact AW.fewer (L' := [none, none, none, none, some (iV x4), none]) (And.intro rfl trivial) (hk _ _ h)
    · refine AW.iload dX5_menIn_18 rfl ?_
      refine AW.aload_n dX5_menIn_20 rfl ?_
      refine AW.getR (t := 5) (k := 0) dX5_menIn_21 ck5 (Nat.le_of_ble_eq_true rfl) (fun _ => rfl) q421 (Or.inl rfl) h (fun v5 h => ?_)
      refine AW.iload dX5_menIn_24 rfl ?_
      refine AW.aald (t := 105) dX5_menIn_26 (Nat.le_of_ble_eq_true rfl) rfl (fun _ _ => rfl) h (fun v6 h => ?_)
      refine AW.iload_n dX5_menIn_27 rfl ?_
      refine AW.bald (t := 101) dX5_menIn_28 (Nat.le_of_ble_eq_true rfl) rfl h (fun v7 h => ?_)
      refine AW.iload_n dX5_menIn_29 rfl ?_
      refine AW.icmp_ne 40 dX5_menIn_30 (by decide) h (fun c8 h => ?_) (fun c8 h => ?_)
      · refine AW.iconst dX5_menIn_40 ?_
        refine AW.ior dX5_menIn_41 ?_
        refine AW.istore (L' := [some (rV (some x0)), some (rV x1), some (iV x2), some (iV x3), some (iV (orI x4 0)), some (iV x5)]) dX5_menIn_42 (Nat.le_of_ble_eq_true rfl) rfl rfl ?_
        refine AW.iinc (L' := [some (rV (some x0)), some (rV x1), some (iV x2), some (iV x3), some (iV (orI x4 0)), some (iV (x5 + 1))]) dX5_menIn_44 rfl (Nat.le_of_ble_eq_true rfl) rfl rfl ?_
        refine AW.goto (tgt := 6) dX5_menIn_47 (by decide) ?_
        exact ih _ _ _ _ _ _ _ h hk
      · refine AW.iconst dX5_menIn_33 ?_
        refine AW.iload dX5_menIn_34 rfl ?_
        refine AW.ishl dX5_menIn_36 ?_
        refine AW.goto (tgt := 41) dX5_menIn_37 (by decide) ?_
        refine AW.ior dX5_menIn_41 ?_
        refine AW.istore (L' := [some (rV (some x0)), some (rV x1), some (iV x2), some (iV x3), some (iV (orI x4 (slI 1 x5))), some (iV x5)]) dX5_menIn_42 (Nat.le_of_ble_eq_true rfl) rfl rfl ?_
        refine AW.iinc (L' := [some (rV (some x0)), some (rV x1), some (iV x2), some (iV x3), some (iV (orI x4 (slI 1 x5))), some (iV (x5 + 1))]) dX5_menIn_44 rfl (Nat.le_of_ble_eq_true rfl) rfl rfl ?_
        refine AW.goto (tgt := 6) dX5_menIn_47 (by decide) ?_
        exact ih _ _ _ _ _ _ _ h hk
def f_X5_menIn (s0 : Hp) (x0 : Nat) (x1 : Option Nat) (x2 : Int) (x3 : Int) : Option (Int × Hp) :=
  f_X5_menIn_L6 x0 FU s0 x1 x2 x3 0 0 (fun s10 x4 => some (nrm x4, s10))
theorem w_X5_menIn {σ0 : Hp} {w : Int × Hp} (s0 : Hp) (x0 : Nat) (x1 : Option Nat) (x2 : Int) (x3 : Int) (h : f_X5_menIn s0 x0 x1 x2 x3 = some w) : AW m_X5_menIn σ0 (oI w) 0 [some (rV (some x0)), some (rV x1), some (iV x2), some (iV x3), none, none] [] s0 := by
  unfold f_X5_menIn at h
  refine AW.iconst dX5_menIn_0 ?_
  refine AW.istore (L' := [some (rV (some x0)), some (rV x1), some (iV x2), some (iV x3), some (iV 0), none]) dX5_menIn_1 (Nat.le_of_ble_eq_true rfl) rfl rfl ?_
  refine AW.iconst dX5_menIn_3 ?_
  refine AW.istore (L' := [some (rV (some x0)), some (rV x1), some (iV x2), some (iV x3), some (iV 0), some (iV 0)]) dX5_menIn_4 (Nat.le_of_ble_eq_true rfl) rfl rfl ?_
  refine w_X5_menIn_L6 _ _ _ _ _ _ _ _ h (fun s10 x4 h => ?_)
  refine AW.iload dX5_menIn_50 rfl ?_
  refine AW.nv ?_
  cases h
  exact AW.iret dX5_menIn_52 rfl
theorem c_X5_menIn {s0 : Hp} {x0 : Nat} {x1 : Option Nat} {x2 : Int} {x3 : Int} {v : Int} {s1 : Hp} (h : f_X5_menIn s0 x0 x1 x2 x3 = some (v, s1)) : Ct m_X5_menIn [rV (some x0), rV x1, iV x2, iV x3] s0 (.inl (some (iV v)), s1) :=
  Ct.of2 (w_X5_menIn s0 x0 x1 x2 x3 h) (show plainName yX5_menIn.cls = true by decide) rfl rfl rfl
abbrev m_X14_of : Mi := (yX14_of, cX14_of, (some .int), 2, 0, 0, [])
theorem n_X14_of : nameOk yX14_of 1 := ⟨by decide, by decide, by decide +kernel⟩
def f_X14_of (s0 : Hp) (x0 : Nat) (x1 : Option Nat) : Option (Int × Hp) :=
  (gI s0 14 (some x0) 0).bind fun v1 => some (v1, s0)
theorem w_X14_of {σ0 : Hp} {w : Int × Hp} (s0 : Hp) (x0 : Nat) (x1 : Option Nat) (h : f_X14_of s0 x0 x1 = some w) : AW m_X14_of σ0 (oI w) 0 [some (rV (some x0)), some (rV x1)] [] s0 := by
  unfold f_X14_of at h
  refine AW.aload_n dX14_of_0 rfl ?_
  refine AW.getI (t := 14) (k := 0) dX14_of_1 ck14 (Nat.le_of_ble_eq_true rfl) (fun _ => rfl) q1112 (Or.inl rfl) h (fun v1 h => ?_)
  cases h
  exact AW.iret dX14_of_4 rfl
theorem c_X14_of {s0 : Hp} {x0 : Nat} {x1 : Option Nat} {v : Int} {s1 : Hp} (h : f_X14_of s0 x0 x1 = some (v, s1)) : Ct m_X14_of [rV (some x0), rV x1] s0 (.inl (some (iV v)), s1) :=
  Ct.of2 (w_X14_of s0 x0 x1 h) (show plainName yX14_of.cls = true by decide) rfl rfl rfl
abbrev m_X15_of : Mi := (yX15_of, cX15_of, (some .int), 2, 0, 0, [])
theorem n_X15_of : nameOk yX15_of 1 := ⟨by decide, by decide, by decide +kernel⟩
def f_X15_of (s0 : Hp) (x0 : Nat) (x1 : Option Nat) : Option (Int × Hp) :=
  (gR s0 6 x1 0).bind fun v1 => (gI s0 15 (some x0) 0).bind fun v2 => (aI s0 100 v1 v2).bind fun v3 => some (v3, s0)
theorem w_X15_of {σ0 : Hp} {w : Int × Hp} (s0 : Hp) (x0 : Nat) (x1 : Option Nat) (h : f_X15_of s0 x0 x1 = some w) : AW m_X15_of σ0 (oI w) 0 [some (rV (some x0)), some (rV x1)] [] s0 := by
  unfold f_X15_of at h
  refine AW.aload_n dX15_of_0 rfl ?_
  refine AW.getR (t := 6) (k := 0) dX15_of_1 ck6 (Nat.le_of_ble_eq_true rfl) (fun _ => rfl) q410 (Or.inl rfl) h (fun v1 h => ?_)
  refine AW.aload_n dX15_of_4 rfl ?_
  refine AW.getI (t := 15) (k := 0) dX15_of_5 ck15 (Nat.le_of_ble_eq_true rfl) (fun _ => rfl) q1122 (Or.inl rfl) h (fun v2 h => ?_)
  refine AW.iald (t := 100) dX15_of_8 (Nat.le_of_ble_eq_true rfl) rfl h (fun v3 h => ?_)
  cases h
  exact AW.iret dX15_of_9 rfl
theorem c_X15_of {s0 : Hp} {x0 : Nat} {x1 : Option Nat} {v : Int} {s1 : Hp} (h : f_X15_of s0 x0 x1 = some (v, s1)) : Ct m_X15_of [rV (some x0), rV x1] s0 (.inl (some (iV v)), s1) :=
  Ct.of2 (w_X15_of s0 x0 x1 h) (show plainName yX15_of.cls = true by decide) rfl rfl rfl
abbrev m_X16_of (d : Nat) : Mi := (yX16_of, cX16_of, (some .int), 4, d + 2, 60 * d + 100, [])
/-- a call of Sum.of on a Number, a Var or a Joined -/
def OfC (d : Nat) (σ : Hp) (r x : Option Nat) (v : Int) (σ1 : Hp) : Prop :=
  ∃ b : Nat, (rcv σ 14 r = some b ∧ Ct m_X14_of [rV (some b), rV x] σ (.inl (some (iV v)), σ1)) ∨ (rcv σ 15 r = some b ∧ Ct m_X15_of [rV (some b), rV x] σ (.inl (some (iV v)), σ1)) ∨ (rcv σ 16 r = some b ∧ Ct (m_X16_of d) [rV (some b), rV x] σ (.inl (some (iV v)), σ1))
theorem n_X13_of : nameOk ⟨"LateMirrors$Sum", "of", "(LLateMirrors$Asked;)I"⟩ 1 := ⟨by decide, by decide, by decide +kernel⟩
theorem AW.ofC {M : Mi} {σ0 : Hp} {out : Ot} {pc : Nat} {L : List (Option AV)} {st : List AV} {σ : Hp} {β : Type} {Y : Option (Int × Hp)} {F : Int → Hp → Option β} {w : β} {d index : Nat} {r x : Option Nat} (rest : List AV) (dd : decode M.2.1 pc = .ok (.invokevirtual index, 3))
    (q1 : Cond.methodLink M.1.cls index ⟨"LateMirrors$Sum", "of", "(LLateMirrors$Asked;)I"⟩ ∈ lw_all) (f1 : fitM M m_X14_of = true) (f2 : fitM M m_X15_of = true) (f3 : fitM M (m_X16_of d) = true) (h8 : Nat.ble (catS rest) 8 = true) (hst : st = rV x :: rV r :: rest)
    (hC : ∀ (v : Int) (σ1 : Hp), Y = some (v, σ1) → OfC d σ r x v σ1)
    (h : bn Y F = some w) (kk : ∀ (v : Int) (σ1 : Hp), F v σ1 = some w → AW M σ0 out (pc + 3) L (iV v :: rest) σ1) : AW M σ0 out pc L st σ := by
  unfold bn at h
  obtain ⟨⟨v, σ1⟩, hv, h7⟩ := ob_some h
  obtain ⟨b, hb⟩ := hC v σ1 hv
  have hd : (⟨"LateMirrors$Sum", "of", "(LLateMirrors$Asked;)I"⟩ : MethodName) ∈ aw_dc := by decide
  rcases hb with ⟨hb, hc⟩ | ⟨hb, hc⟩ | ⟨hb, hc⟩
  · refine AW.UI (Y := fun b1 => if b1 = b then some (v, σ1) else none) (F := F) (w := w) (M' := m_X14_of) (t := 14) (r := r) [rV x] rest dd q1 q529 (Or.inl q538) q534 q153 q535 (Or.inl hd) ck14 n_X13_of f1 h8 hst (fun b1 v1 σ2 e => ?_) ?_ kk
    · obtain ⟨e1, e2⟩ := pz_elim e
      cases e2
      rw [e1]
      exact hc
    · rw [hb, Option.bind_some, if_pos rfl]
      exact h7
  · refine AW.UI (Y := fun b1 => if b1 = b then some (v, σ1) else none) (F := F) (w := w) (M' := m_X15_of) (t := 15) (r := r) [rV x] rest dd q1 q529 (Or.inl q539) q536 q154 q537 (Or.inl hd) ck15 n_X13_of f2 h8 hst (fun b1 v1 σ2 e => ?_) ?_ kk
    · obtain ⟨e1, e2⟩ := pz_elim e
      cases e2
      rw [e1]
      exact hc
    · rw [hb, Option.bind_some, if_pos rfl]
      exact h7
  · refine AW.UI (Y := fun b1 => if b1 = b then some (v, σ1) else none) (F := F) (w := w) (M' := m_X16_of d) (t := 16) (r := r) [rV x] rest dd q1 q529 (Or.inl q530) q531 q155 q532 (Or.inl hd) ck16 n_X13_of f3 h8 hst (fun b1 v1 σ2 e => ?_) ?_ kk
    · obtain ⟨e1, e2⟩ := pz_elim e
      cases e2
      rw [e1]
      exact hc
    · rw [hb, Option.bind_some, if_pos rfl]
      exact h7

theorem n_X16_of : nameOk yX16_of 1 := ⟨by decide, by decide, by decide +kernel⟩
def f_X16_of (O : Hp → Option Nat → Option Nat → Option (Int × Hp)) (s0 : Hp) (x0 : Nat) (x1 : Option Nat) : Option (Int × Hp) :=
  (gR s0 16 (some x0) 1).bind fun v1 => bn (O s0 v1 x1) fun v2 s3 => (gR s3 16 (some x0) 2).bind fun v4 => bn (O s3 v4 x1) fun v5 s6 => (gI s6 16 (some x0) 0).bind fun v7 => (if nrm v7 = 42 then (some (nrm (v2 * v5), s6)) else (if nrm v7 = 43 then (some (nrm (v2 + v5), s6)) else (if nrm v7 = 44 then ((if nrm v5 = 0 then ((pZ s6 6 x1 1 1).bind fun s8 => some (0, s8)) else (if nrm v5 = 0 then none else some (dvI v2 v5, s6)))) else (if nrm v7 = 45 then (some (nrm (v2 - v5), s6)) else ((if nrm v5 = 0 then ((pZ s6 6 x1 1 1).bind fun s11 => some (0, s11)) else (if nrm v5 = 0 then none else some (dvI v2 v5, s6))))))))
theorem w_X16_of {σ0 : Hp} {w : Int × Hp} {d : Nat} {O : Hp → Option Nat → Option Nat → Option (Int × Hp)} (hO : ∀ (s : Hp) (r x : Option Nat) (v : Int) (s1 : Hp), O s r x = some (v, s1) → OfC d s r x v s1) (s0 : Hp) (x0 : Nat) (x1 : Option Nat) (h : f_X16_of O s0 x0 x1 = some w) : AW (m_X16_of (d + 1)) σ0 (oI w) 0 [some (rV (some x0)), some (rV x1), none, none] [] s0 := by
  unfold f_X16_of at h
  refine AW.aload_n dX16_of_0 rfl ?_
  refine AW.getR (t := 16) (k := 1) dX16_of_1 ck16 (Nat.le_of_ble_eq_true rfl) (fun _ => rfl) q1133 (Or.inl rfl) h (fun v1 h => ?_)
  refine AW.aload_n dX16_of_4 rfl ?_
  refine AW.ofC (d := d) [] dX16_of_5 q533 (fitM_of (show 0 + 1 ≤ d + 1 + 2 by omega) (show 8 + (2 + 11) + 0 ≤ 60 * (d + 1) + 100 by omega)) (fitM_of (show 0 + 1 ≤ d + 1 + 2 by omega) (show 8 + (2 + 11) + 0 ≤ 60 * (d + 1) + 100 by omega)) (fitM_of (show d + 2 + 1 ≤ d + 1 + 2 by omega) (show 8 + (4 + 11) + (60 * d + 100) ≤ 60 * (d + 1) + 100 by omega)) rfl rfl (fun v s1 e => hO _ _ _ v s1 e) h (fun v2 s3 h => ?_)
  refine AW.istore_n (L' := [some (rV (some x0)), some (rV x1), some (iV v2), none]) dX16_of_8 (Nat.le_of_ble_eq_true rfl) rfl rfl ?_
  refine AW.aload_n dX16_of_9 rfl ?_
  refine AW.getR (t := 16) (k := 2) dX16_of_10 ck16 (Nat.le_of_ble_eq_true rfl) (fun _ => rfl) q1134 (Or.inl rfl) h (fun v4 h => ?_)
  refine AW.aload_n dX16_of_13 rfl ?_
  refine AW.ofC (d := d) [] dX16_of_14 q533 (fitM_of (show 0 + 1 ≤ d + 1 + 2 by omega) (show 8 + (2 + 11) + 0 ≤ 60 * (d + 1) + 100 by omega)) (fitM_of (show 0 + 1 ≤ d + 1 + 2 by omega) (show 8 + (2 + 11) + 0 ≤ 60 * (d + 1) + 100 by omega)) (fitM_of (show d + 2 + 1 ≤ d + 1 + 2 by omega) (show 8 + (4 + 11) + (60 * d + 100) ≤ 60 * (d + 1) + 100 by omega)) rfl rfl (fun v s1 e => hO _ _ _ v s1 e) h (fun v5 s6 h => ?_)
  refine AW.istore_n (L' := [some (rV (some x0)), some (rV x1), some (iV v2), some (iV v5)]) dX16_of_17 (Nat.le_of_ble_eq_true rfl) rfl rfl ?_
  refine AW.aload_n dX16_of_18 rfl ?_
  refine AW.getI (t := 16) (k := 0) dX16_of_19 ck16 (Nat.le_of_ble_eq_true rfl) (fun _ => rfl) q1132 (Or.inl rfl) h (fun v7 h => ?_)
  rcases ite_or h with ⟨c17, h⟩ | ⟨c17, h⟩
  · refine AW.tIn 0 60 dX16_of_22 (by omega) (by decide) rfl (by decide) ?_
    refine AW.iload_n dX16_of_60 rfl ?_
    refine AW.iload_n dX16_of_61 rfl ?_
    refine AW.imul dX16_of_62 ?_
    refine AW.nv ?_
    cases h
    exact AW.iret dX16_of_63 rfl
  · rcases ite_or h with ⟨c16, h⟩ | ⟨c16, h⟩
    · refine AW.tIn 1 52 dX16_of_22 (by omega) (by decide) rfl (by decide) ?_
      refine AW.iload_n dX16_of_52 rfl ?_
      refine AW.iload_n dX16_of_53 rfl ?_
      refine AW.iadd dX16_of_54 ?_
      refine AW.nv ?_
      cases h
      exact AW.iret dX16_of_55 rfl
    · rcases ite_or h with ⟨c15, h⟩ | ⟨c15, h⟩
      · refine AW.tIn 2 64 dX16_of_22 (by omega) (by decide) rfl (by decide) ?_
        refine AW.iload_n dX16_of_64 rfl ?_
        refine AW.if_eq 72 dX16_of_65 (by decide) h (fun c10 h => ?_) (fun c10 h => ?_)
        · refine AW.aload_n dX16_of_72 rfl ?_
          refine AW.iconst dX16_of_73 ?_
          refine AW.putZ (t := 6) (k := 1) dX16_of_74 ck6 mu6 (Nat.le_of_ble_eq_true rfl) rfl q413 (Or.inl rfl) (Or.inl rfl) h (fun s8 h => ?_)
          refine AW.iconst dX16_of_77 ?_
          cases h
          exact AW.iret dX16_of_78 rfl
        · refine AW.iload_n dX16_of_68 rfl ?_
          refine AW.iload_n dX16_of_69 rfl ?_
          obtain ⟨hz9, h⟩ := nz_elim h
          refine AW.idiv dX16_of_70 hz9 ?_
          cases h
          exact AW.iret dX16_of_71 rfl
      · rcases ite_or h with ⟨c14, h⟩ | ⟨c14, h⟩
        · refine AW.tIn 3 56 dX16_of_22 (by omega) (by decide) rfl (by decide) ?_
          refine AW.iload_n dX16_of_56 rfl ?_
          refine AW.iload_n dX16_of_57 rfl ?_
          refine AW.isub dX16_of_58 ?_
          refine AW.nv ?_
          cases h
          exact AW.iret dX16_of_59 rfl
        · refine AW.tOut 64 dX16_of_22 (by omega) (by decide) ?_
          refine AW.iload_n dX16_of_64 rfl ?_
          refine AW.if_eq 72 dX16_of_65 (by decide) h (fun c13 h => ?_) (fun c13 h => ?_)
          · refine AW.aload_n dX16_of_72 rfl ?_
            refine AW.iconst dX16_of_73 ?_
            refine AW.putZ (t := 6) (k := 1) dX16_of_74 ck6 mu6 (Nat.le_of_ble_eq_true rfl) rfl q413 (Or.inl rfl) (Or.inl rfl) h (fun s11 h => ?_)
            refine AW.iconst dX16_of_77 ?_
            cases h
            exact AW.iret dX16_of_78 rfl
          · refine AW.iload_n dX16_of_68 rfl ?_
            refine AW.iload_n dX16_of_69 rfl ?_
            obtain ⟨hz12, h⟩ := nz_elim h
            refine AW.idiv dX16_of_70 hz12 ?_
            cases h
            exact AW.iret dX16_of_71 rfl
theorem c_X16_of {d : Nat} {O : Hp → Option Nat → Option Nat → Option (Int × Hp)} (hO : ∀ (s : Hp) (r x : Option Nat) (v : Int) (s1 : Hp), O s r x = some (v, s1) → OfC d s r x v s1) {s0 : Hp} {x0 : Nat} {x1 : Option Nat} {v : Int} {s1 : Hp} (h : f_X16_of O s0 x0 x1 = some (v, s1)) : Ct (m_X16_of (d + 1)) [rV (some x0), rV x1] s0 (.inl (some (iV v)), s1) :=
  Ct.of2 (w_X16_of hO s0 x0 x1 h) (show plainName yX16_of.cls = true by decide) rfl rfl rfl

def f_of : Nat → Hp → Option Nat → Option Nat → Option (Int × Hp)
  | 0, _, _, _ => none
  | d + 1, σ, r, x => r.bind fun a => (σ.1 a).bind fun c => if c.1 = 14 then f_X14_of σ a x else if c.1 = 15 then f_X15_of σ a x else if c.1 = 16 then f_X16_of (f_of d) σ a x else none
theorem rcv_of {σ : Hp} {t a : Nat} {c : Ce} (hc : σ.1 a = some c) (ht : c.1 = t) : rcv σ t (some a) = some a := by
  unfold rcv cel
  rw [Option.bind_some, hc, Option.bind_some, if_pos ht]
  rfl
theorem c_of : ∀ (d : Nat) (σ : Hp) (r x : Option Nat) (v : Int) (σ1 : Hp), f_of d σ r x = some (v, σ1) → OfC d σ r x v σ1 := by
  intro d
  induction d with
  | zero => intro σ r x v σ1 h; rw [f_of] at h; cases h
  | succ d ih =>
    intro σ r x v σ1 h
    rw [f_of] at h
    obtain ⟨a, rfl, h9⟩ := ob_some h
    clear h
    obtain ⟨c, hc, h⟩ := ob_some h9
    refine ⟨a, ?_⟩
    rcases ite_or h with ⟨ht, h⟩ | ⟨-, h⟩
    · exact Or.inl ⟨rcv_of hc ht, c_X14_of h⟩
    · rcases ite_or h with ⟨ht, h⟩ | ⟨-, h⟩
      · exact Or.inr (Or.inl ⟨rcv_of hc ht, c_X15_of h⟩)
      · rcases ite_or h with ⟨ht, h⟩ | ⟨-, h⟩
        · exact Or.inr (Or.inr ⟨rcv_of hc ht, c_X16_of ih h⟩)
        · cases h

abbrev m_X12_of : Mi := (yX12_of, cX12_of, (some .int), 4, 413, 24723, [])
theorem n_X12_of : nameOk yX12_of 1 := ⟨by decide, by decide, by decide +kernel⟩
def f_X12_of_L7 (x0 : Nat) : Nat → Hp → Option Nat → Int → (Hp → Option Nat → Int → Option (Int × Hp)) → Option (Int × Hp)
  | 0, _, _, _, _ => none
  | n + 1, s0, x1, x2, k => (gI s0 12 (some x0) 3).bind fun v2 => (if nrm v2 ≤ nrm x2 then (k s0 x1 x2) else ((gR s0 12 (some x0) 0).bind fun v3 => (aR s0 111 v3 x2).bind fun v4 => bn (f_of 410 s0 v4 x1) fun v5 s6 => (gR s6 12 (some x0) 1).bind fun v7 => (aR s6 111 v7 x2).bind fun v8 => bn (f_of 410 s6 v8 x1) fun v9 s10 => (if nrm v5 < nrm v9 then (k s10 x1 x2) else (f_X12_of_L7 x0 n s10 x1 (x2 + 1) k))))
theorem w_X12_of_L7 {σ0 : Hp} {w : Int × Hp} {x0 : Nat} : ∀ (n : Nat) (s0 : Hp) (x1 : Option Nat) (x2 : Int) (k : (Hp → Option Nat → Int → Option (Int × Hp))), f_X12_of_L7 x0 n s0 x1 x2 k = some w → (∀ (s1 : Hp) (x1 : Option Nat) (x2 : Int), k s1 x1 x2 = some w → AW m_X12_of σ0 (oI w) 44 [some (rV (some x0)), some (rV x1), some (iV x2), none] [] s1) → AW m_X12_of σ0 (oI w) 7 [some (rV (some x0)), some (rV x1), some (iV x2), none] [] s0 := by
  intro n
  induction n with
  | zero =>
    intro s0 x1 x2 k h hk
    rw [f_X12_of_L7] at h
    cases h
  | succ n ih =>
    intro s0 x1 x2 k h hk
    rw [f_X12_of_L7] at h
    refine AW.iload_n dX12_of_7 rfl ?_
    refine AW.aload_n dX12_of_8 rfl ?_
    refine AW.getI (t := 12) (k := 3) dX12_of_9 ck12 (Nat.le_of_ble_eq_true rfl) (fun _ => rfl) q1068 (Or.inl rfl) h (fun v2 h => ?_)
    refine AW.icmp_ge 44 dX12_of_12 (by decide) h (fun c12 h => ?_) (fun c12 h => ?_)
    · exact hk _ _ _ h
    · refine AW.aload_n dX12_of_15 rfl ?_
      refine AW.getR (t := 12) (k := 0) dX12_of_16 ck12 (Nat.le_of_ble_eq_true rfl) (fun _ => rfl) q1062 (Or.inl rfl) h (fun v3 h => ?_)
      refine AW.iload_n dX12_of_19 rfl ?_
      refine AW.aald (t := 111) dX12_of_20 (Nat.le_of_ble_eq_true rfl) rfl (fun _ _ => rfl) h (fun v4 h => ?_)
      refine AW.aload_n dX12_of_21 rfl ?_
      refine AW.ofC (d := 410) [] dX12_of_22 q527 rfl rfl rfl rfl rfl (fun v s1 e => c_of 410 _ _ _ v s1 e) h (fun v5 s6 h => ?_)
      refine AW.aload_n dX12_of_25 rfl ?_
      refine AW.getR (t := 12) (k := 1) dX12_of_26 ck12 (Nat.le_of_ble_eq_true rfl) (fun _ => rfl) q1064 (Or.inl rfl) h (fun v7 h => ?_)
      refine AW.iload_n dX12_of_29 rfl ?_
      refine AW.aald (t := 111) dX12_of_30 (Nat.le_of_ble_eq_true rfl) rfl (fun _ _ => rfl) h (fun v8 h => ?_)
      refine AW.aload_n dX12_of_31 rfl ?_
      refine AW.ofC (d := 410) [iV v5] dX12_of_32 q527 rfl rfl rfl rfl rfl (fun v s1 e => c_of 410 _ _ _ v s1 e) h (fun v9 s10 h => ?_)
      refine AW.icmp_lt 44 dX12_of_35 (by decide) h (fun c11 h => ?_) (fun c11 h => ?_)
      · exact hk _ _ _ h
      · refine AW.iinc (L' := [some (rV (some x0)), some (rV x1), some (iV (x2 + 1)), none]) dX12_of_38 rfl (Nat.le_of_ble_eq_true rfl) rfl rfl ?_
        refine AW.goto (tgt := 7) dX12_of_41 (by decide) ?_
        exact ih _ _ _ _ h hk
def f_X12_of (s0 : Hp) (x0 : Nat) (x1 : Option Nat) : Option (Int × Hp) :=
  (pZ s0 6 x1 1 0).bind fun s1 => f_X12_of_L7 x0 FU s1 x1 0 (fun s13 x1 x2 => (gR s13 12 (some x0) 2).bind fun v14 => (aR s13 111 v14 x2).bind fun v15 => bn (f_of 410 s13 v15 x1) fun v16 s17 => (gI s17 6 x1 1).bind fun v18 => (if nrm v18 = 0 then (some (v16, s17)) else (some (0, s17))))
theorem w_X12_of {σ0 : Hp} {w : Int × Hp} (s0 : Hp) (x0 : Nat) (x1 : Option Nat) (h : f_X12_of s0 x0 x1 = some w) : AW m_X12_of σ0 (oI w) 0 [some (rV (some x0)), some (rV x1), none, none] [] s0 := by
  unfold f_X12_of at h
  refine AW.aload_n dX12_of_0 rfl ?_
  refine AW.iconst dX12_of_1 ?_
  refine AW.putZ (t := 6) (k := 1) dX12_of_2 ck6 mu6 (Nat.le_of_ble_eq_true rfl) rfl q412 (Or.inl rfl) (Or.inl rfl) h (fun s1 h => ?_)
  refine AW.iconst dX12_of_5 ?_
  refine AW.istore_n (L' := [some (rV (some x0)), some (rV x1), some (iV 0), none]) dX12_of_6 (Nat.le_of_ble_eq_true rfl) rfl rfl ?_
  refine w_X12_of_L7 _ _ _ _ _ h (fun s13 x1 x2 h => ?_)
  refine AW.aload_n dX12_of_44 rfl ?_
  refine AW.getR (t := 12) (k := 2) dX12_of_45 ck12 (Nat.le_of_ble_eq_true rfl) (fun _ => rfl) q1066 (Or.inl rfl) h (fun v14 h => ?_)
  refine AW.iload_n dX12_of_48 rfl ?_
  refine AW.aald (t := 111) dX12_of_49 (Nat.le_of_ble_eq_true rfl) rfl (fun _ _ => rfl) h (fun v15 h => ?_)
  refine AW.aload_n dX12_of_50 rfl ?_
  refine AW.ofC (d := 410) [] dX12_of_51 q527 rfl rfl rfl rfl rfl (fun v s1 e => c_of 410 _ _ _ v s1 e) h (fun v16 s17 h => ?_)
  refine AW.istore_n (L' := [some (rV (some x0)), some (rV x1), some (iV x2), some (iV v16)]) dX12_of_54 (Nat.le_of_ble_eq_true rfl) rfl rfl ?_
  refine AW.aload_n dX12_of_55 rfl ?_
  refine AW.getI (t := 6) (k := 1) dX12_of_56 ck6 (Nat.le_of_ble_eq_true rfl) (fun _ => rfl) q412 (Or.inl rfl) h (fun v18 h => ?_)
  refine AW.if_eq 66 dX12_of_59 (by decide) h (fun c19 h => ?_) (fun c19 h => ?_)
  · refine AW.iload_n dX12_of_66 rfl ?_
    cases h
    exact AW.iret dX12_of_67 rfl
  · refine AW.iconst dX12_of_62 ?_
    refine AW.goto (tgt := 67) dX12_of_63 (by decide) ?_
    cases h
    exact AW.iret dX12_of_67 rfl
theorem c_X12_of {s0 : Hp} {x0 : Nat} {x1 : Option Nat} {v : Int} {s1 : Hp} (h : f_X12_of s0 x0 x1 = some (v, s1)) : Ct m_X12_of [rV (some x0), rV x1] s0 (.inl (some (iV v)), s1) :=
  Ct.of2 (w_X12_of s0 x0 x1 h) (show plainName yX12_of.cls = true by decide) rfl rfl rfl
abbrev m_J8_bitCount : Mi := (yJ8_bitCount, cJ8_bitCount, (some .int), 1, 0, 0, [])
theorem n_J8_bitCount : nameOk yJ8_bitCount 1 := ⟨by decide, by decide, by decide +kernel⟩
def f_J8_bitCount (s0 : Hp) (x0 : Int) : Option (Int × Hp) :=
  some (anI (((anI (((anI (x0 - (anI (suI x0 1) 1431655765)) 858993459) + (anI (suI (x0 - (anI (suI x0 1) 1431655765)) 2) 858993459)) + (suI ((anI (x0 - (anI (suI x0 1) 1431655765)) 858993459) + (anI (suI (x0 - (anI (suI x0 1) 1431655765)) 2) 858993459)) 4)) 252645135) + (suI (anI (((anI (x0 - (anI (suI x0 1) 1431655765)) 858993459) + (anI (suI (x0 - (anI (suI x0 1) 1431655765)) 2) 858993459)) + (suI ((anI (x0 - (anI (suI x0 1) 1431655765)) 858993459) + (anI (suI (x0 - (anI (suI x0 1) 1431655765)) 2) 858993459)) 4)) 252645135) 8)) + (suI ((anI (((anI (x0 - (anI (suI x0 1) 1431655765)) 858993459) + (anI (suI (x0 - (anI (suI x0 1) 1431655765)) 2) 858993459)) + (suI ((anI (x0 - (anI (suI x0 1) 1431655765)) 858993459) + (anI (suI (x0 - (anI (suI x0 1) 1431655765)) 2) 858993459)) 4)) 252645135) + (suI (anI (((anI (x0 - (anI (suI x0 1) 1431655765)) 858993459) + (anI (suI (x0 - (anI (suI x0 1) 1431655765)) 2) 858993459)) + (suI ((anI (x0 - (anI (suI x0 1) 1431655765)) 858993459) + (anI (suI (x0 - (anI (suI x0 1) 1431655765)) 2) 858993459)) 4)) 252645135) 8)) 16)) 63, s0)
theorem w_J8_bitCount {σ0 : Hp} {w : Int × Hp} (s0 : Hp) (x0 : Int) (h : f_J8_bitCount s0 x0 = some w) : AW m_J8_bitCount σ0 (oI w) 0 [some (iV x0)] [] s0 := by
  unfold f_J8_bitCount at h
  refine AW.iload_n dJ8_bitCount_0 rfl ?_
  refine AW.iload_n dJ8_bitCount_1 rfl ?_
  refine AW.iconst dJ8_bitCount_2 ?_
  refine AW.iushr dJ8_bitCount_3 ?_
  refine AW.ldcw (z := 1431655765) dJ8_bitCount_4 q520 (by decide) ?_
  refine AW.iand dJ8_bitCount_7 ?_
  refine AW.isub dJ8_bitCount_8 ?_
  refine AW.istore_n (L' := [some (iV (x0 - (anI (suI x0 1) 1431655765)))]) dJ8_bitCount_9 (Nat.le_of_ble_eq_true rfl) rfl rfl ?_
  refine AW.iload_n dJ8_bitCount_10 rfl ?_
  refine AW.ldcw (z := 858993459) dJ8_bitCount_11 q521 (by decide) ?_
  refine AW.iand dJ8_bitCount_14 ?_
  refine AW.iload_n dJ8_bitCount_15 rfl ?_
  refine AW.iconst dJ8_bitCount_16 ?_
  refine AW.iushr dJ8_bitCount_17 ?_
  refine AW.ldcw (z := 858993459) dJ8_bitCount_18 q521 (by decide) ?_
  refine AW.iand dJ8_bitCount_21 ?_
  refine AW.iadd dJ8_bitCount_22 ?_
  refine AW.istore_n (L' := [some (iV ((anI (x0 - (anI (suI x0 1) 1431655765)) 858993459) + (anI (suI (x0 - (anI (suI x0 1) 1431655765)) 2) 858993459)))]) dJ8_bitCount_23 (Nat.le_of_ble_eq_true rfl) rfl rfl ?_
  refine AW.iload_n dJ8_bitCount_24 rfl ?_
  refine AW.iload_n dJ8_bitCount_25 rfl ?_
  refine AW.iconst dJ8_bitCount_26 ?_
  refine AW.iushr dJ8_bitCount_27 ?_
  refine AW.iadd dJ8_bitCount_28 ?_
  refine AW.ldcw (z := 252645135) dJ8_bitCount_29 q522 (by decide) ?_
  refine AW.iand dJ8_bitCount_32 ?_
  refine AW.istore_n (L' := [some (iV (anI (((anI (x0 - (anI (suI x0 1) 1431655765)) 858993459) + (anI (suI (x0 - (anI (suI x0 1) 1431655765)) 2) 858993459)) + (suI ((anI (x0 - (anI (suI x0 1) 1431655765)) 858993459) + (anI (suI (x0 - (anI (suI x0 1) 1431655765)) 2) 858993459)) 4)) 252645135))]) dJ8_bitCount_33 (Nat.le_of_ble_eq_true rfl) rfl rfl ?_
  refine AW.iload_n dJ8_bitCount_34 rfl ?_
  refine AW.iload_n dJ8_bitCount_35 rfl ?_
  refine AW.bipush dJ8_bitCount_36 (by decide) ?_
  refine AW.iushr dJ8_bitCount_38 ?_
  refine AW.iadd dJ8_bitCount_39 ?_
  refine AW.istore_n (L' := [some (iV ((anI (((anI (x0 - (anI (suI x0 1) 1431655765)) 858993459) + (anI (suI (x0 - (anI (suI x0 1) 1431655765)) 2) 858993459)) + (suI ((anI (x0 - (anI (suI x0 1) 1431655765)) 858993459) + (anI (suI (x0 - (anI (suI x0 1) 1431655765)) 2) 858993459)) 4)) 252645135) + (suI (anI (((anI (x0 - (anI (suI x0 1) 1431655765)) 858993459) + (anI (suI (x0 - (anI (suI x0 1) 1431655765)) 2) 858993459)) + (suI ((anI (x0 - (anI (suI x0 1) 1431655765)) 858993459) + (anI (suI (x0 - (anI (suI x0 1) 1431655765)) 2) 858993459)) 4)) 252645135) 8)))]) dJ8_bitCount_40 (Nat.le_of_ble_eq_true rfl) rfl rfl ?_
  refine AW.iload_n dJ8_bitCount_41 rfl ?_
  refine AW.iload_n dJ8_bitCount_42 rfl ?_
  refine AW.bipush dJ8_bitCount_43 (by decide) ?_
  refine AW.iushr dJ8_bitCount_45 ?_
  refine AW.iadd dJ8_bitCount_46 ?_
  refine AW.istore_n (L' := [some (iV (((anI (((anI (x0 - (anI (suI x0 1) 1431655765)) 858993459) + (anI (suI (x0 - (anI (suI x0 1) 1431655765)) 2) 858993459)) + (suI ((anI (x0 - (anI (suI x0 1) 1431655765)) 858993459) + (anI (suI (x0 - (anI (suI x0 1) 1431655765)) 2) 858993459)) 4)) 252645135) + (suI (anI (((anI (x0 - (anI (suI x0 1) 1431655765)) 858993459) + (anI (suI (x0 - (anI (suI x0 1) 1431655765)) 2) 858993459)) + (suI ((anI (x0 - (anI (suI x0 1) 1431655765)) 858993459) + (anI (suI (x0 - (anI (suI x0 1) 1431655765)) 2) 858993459)) 4)) 252645135) 8)) + (suI ((anI (((anI (x0 - (anI (suI x0 1) 1431655765)) 858993459) + (anI (suI (x0 - (anI (suI x0 1) 1431655765)) 2) 858993459)) + (suI ((anI (x0 - (anI (suI x0 1) 1431655765)) 858993459) + (anI (suI (x0 - (anI (suI x0 1) 1431655765)) 2) 858993459)) 4)) 252645135) + (suI (anI (((anI (x0 - (anI (suI x0 1) 1431655765)) 858993459) + (anI (suI (x0 - (anI (suI x0 1) 1431655765)) 2) 858993459)) + (suI ((anI (x0 - (anI (suI x0 1) 1431655765)) 858993459) + (anI (suI (x0 - (anI (suI x0 1) 1431655765)) 2) 858993459)) 4)) 252645135) 8)) 16)))]) dJ8_bitCount_47 (Nat.le_of_ble_eq_true rfl) rfl rfl ?_
  refine AW.iload_n dJ8_bitCount_48 rfl ?_
  refine AW.bipush dJ8_bitCount_49 (by decide) ?_
  refine AW.iand dJ8_bitCount_51 ?_
  cases h
  exact AW.iret dJ8_bitCount_52 rfl
theorem c_J8_bitCount {s0 : Hp} {x0 : Int} {v : Int} {s1 : Hp} (h : f_J8_bitCount s0 x0 = some (v, s1)) : Ct m_J8_bitCount [iV x0] s0 (.inl (some (iV v)), s1) :=
  Ct.of2 (w_J8_bitCount s0 x0 h) (show plainName yJ8_bitCount.cls = true by decide) rfl rfl rfl
abbrev m_J5_elementData : Mi := (yJ5_elementData, cJ5_elementData, (some (FieldType.object "java/lang/Object")), 2, 0, 0, [])
theorem n_J5_elementData : nameOk yJ5_elementData 1 := ⟨by decide, by decide, by decide +kernel⟩
def f_J5_elementData (s0 : Hp) (x0 : Nat) (x1 : Int) : Option ((Option Nat) × Hp) :=
  (gR s0 18 (some x0) 1).bind fun v1 => (aR s0 109 v1 x1).bind fun v2 => some (v2, s0)
theorem w_J5_elementData {σ0 : Hp} {w : (Option Nat) × Hp} (s0 : Hp) (x0 : Nat) (x1 : Int) (h : f_J5_elementData s0 x0 x1 = some w) : AW m_J5_elementData σ0 (oR w) 0 [some (rV (some x0)), some (iV x1)] [] s0 := by
  unfold f_J5_elementData at h
  refine AW.aload_n dJ5_elementData_0 rfl ?_
  refine AW.getR (t := 18) (k := 1) dJ5_elementData_1 ck18 (Nat.le_of_ble_eq_true rfl) (fun _ => rfl) q343 (Or.inl rfl) h (fun v1 h => ?_)
  refine AW.iload_n dJ5_elementData_4 rfl ?_
  refine AW.aald (t := 109) dJ5_elementData_5 (Nat.le_of_ble_eq_true rfl) rfl (fun _ _ => rfl) h (fun v2 h => ?_)
  cases h
  exact AW.aret dJ5_elementData_6 rfl (Or.inl ⟨_, rfl⟩)
theorem c_J5_elementData {s0 : Hp} {x0 : Nat} {x1 : Int} {v : Option Nat} {s1 : Hp} (h : f_J5_elementData s0 x0 x1 = some (v, s1)) : Ct m_J5_elementData [rV (some x0), iV x1] s0 (.inl (some (rV v)), s1) :=
  Ct.of2 (w_J5_elementData s0 x0 x1 h) (show plainName yJ5_elementData.cls = true by decide) rfl rfl rfl
abbrev m_J7_checkIndex : Mi := (yJ7_checkIndex, cJ7_checkIndex, (some .int), 3, 0, 0, [])
theorem n_J7_checkIndex : nameOk yJ7_checkIndex 3 := ⟨by decide, by decide, by decide +kernel⟩
def f_J7_checkIndex (s0 : Hp) (x0 : Int) (x1 : Int) (x2 : Option Nat) : Option (Int × Hp) :=
  jn (fun (s1 : Hp) (x0 : Int) (x1 : Int) (x2 : Option Nat) => none) fun j9 => (if nrm x0 < 0 then (j9 s0 x0 x1 x2) else ((if nrm x0 < nrm x1 then (some (nrm x0, s0)) else (j9 s0 x0 x1 x2))))
theorem w_J7_checkIndex {σ0 : Hp} {w : Int × Hp} (s0 : Hp) (x0 : Int) (x1 : Int) (x2 : Option Nat) (h : f_J7_checkIndex s0 x0 x1 x2 = some w) : AW m_J7_checkIndex σ0 (oI w) 0 [some (iV x0), some (iV x1), some (rV x2)] [] s0 := by
  unfold f_J7_checkIndex at h
  refine AW.iload_n dJ7_checkIndex_0 rfl ?_
  refine jn_elim h (fun (j : (Hp → Int → Int → Option Nat → Option (Int × Hp))) => ∀ (s1 : Hp) (x0 : Int) (x1 : Int) (x2 : Option Nat), j s1 x0 x1 x2 = some w → AW m_J7_checkIndex σ0 (oI w) 9 [some (iV x0), some (iV x1), some (rV x2)] [] s1) ?_ (fun j9 hj9 h => ?_)
  · intro s1 x0 x1 x2 h
    cases h
  · refine AW.if_lt 9 dJ7_checkIndex_1 (by decide) h (fun c3 h => ?_) (fun c3 h => ?_)
    · exact hj9 _ _ _ _ h
    · refine AW.iload_n dJ7_checkIndex_4 rfl ?_
      refine AW.iload_n dJ7_checkIndex_5 rfl ?_
      refine AW.icmp_lt 16 dJ7_checkIndex_6 (by decide) h (fun c2 h => ?_) (fun c2 h => ?_)
      · refine AW.iload_n dJ7_checkIndex_16 rfl ?_
        refine AW.nv ?_
        cases h
        exact AW.iret dJ7_checkIndex_17 rfl
      · exact hj9 _ _ _ _ h
theorem c_J7_checkIndex {s0 : Hp} {x0 : Int} {x1 : Int} {x2 : Option Nat} {v : Int} {s1 : Hp} (h : f_J7_checkIndex s0 x0 x1 x2 = some (v, s1)) : Ct m_J7_checkIndex [iV x0, iV x1, rV x2] s0 (.inl (some (iV v)), s1) :=
  Ct.of2 (w_J7_checkIndex s0 x0 x1 x2 h) (show plainName yJ7_checkIndex.cls = true by decide) rfl rfl rfl
abbrev m_J6_checkIndex : Mi := (yJ6_checkIndex, cJ6_checkIndex, (some .int), 2, 1, 22, [])
theorem n_J6_checkIndex : nameOk yJ6_checkIndex 2 := ⟨by decide, by decide, by decide +kernel⟩
def f_J6_checkIndex (s0 : Hp) (x0 : Int) (x1 : Int) : Option (Int × Hp) :=
  bn (f_J7_checkIndex s0 x0 x1 none) fun v1 s2 => some (v1, s2)
theorem w_J6_checkIndex {σ0 : Hp} {w : Int × Hp} (s0 : Hp) (x0 : Int) (x1 : Int) (h : f_J6_checkIndex s0 x0 x1 = some w) : AW m_J6_checkIndex σ0 (oI w) 0 [some (iV x0), some (iV x1)] [] s0 := by
  unfold f_J6_checkIndex at h
  refine AW.iload_n dJ6_checkIndex_0 rfl ?_
  refine AW.iload_n dJ6_checkIndex_1 rfl ?_
  refine AW.null dJ6_checkIndex_2 ?_
  refine AW.SI (M' := m_J7_checkIndex) [iV x0, iV x1, rV none] [] dJ6_checkIndex_3 q495 q496 q136 q497 n_J7_checkIndex rfl rfl rfl (fun _ _ e => c_J7_checkIndex e) h (fun v1 s2 h => ?_)
  cases h
  exact AW.iret dJ6_checkIndex_6 rfl
theorem c_J6_checkIndex {s0 : Hp} {x0 : Int} {x1 : Int} {v : Int} {s1 : Hp} (h : f_J6_checkIndex s0 x0 x1 = some (v, s1)) : Ct m_J6_checkIndex [iV x0, iV x1] s0 (.inl (some (iV v)), s1) :=
  Ct.of2 (w_J6_checkIndex s0 x0 x1 h) (show plainName yJ6_checkIndex.cls = true by decide) rfl rfl rfl
abbrev m_J5_get : Mi := (yJ5_get, cJ5_get, (some (FieldType.object "java/lang/Object")), 2, 2, 43, [])
theorem n_J5_get : nameOk yJ5_get 1 := ⟨by decide, by decide, by decide +kernel⟩
def f_J5_get (s0 : Hp) (x0 : Nat) (x1 : Int) : Option ((Option Nat) × Hp) :=
  (gI s0 18 (some x0) 2).bind fun v1 => bn (f_J6_checkIndex s0 x1 v1) fun v2 s3 => (rcv s3 18 (some x0)).bind fun b6 => bn (f_J5_elementData s3 b6 x1) fun v4 s5 => some (v4, s5)
theorem w_J5_get {σ0 : Hp} {w : (Option Nat) × Hp} (s0 : Hp) (x0 : Nat) (x1 : Int) (h : f_J5_get s0 x0 x1 = some w) : AW m_J5_get σ0 (oR w) 0 [some (rV (some x0)), some (iV x1)] [] s0 := by
  unfold f_J5_get at h
  refine AW.iload_n dJ5_get_0 rfl ?_
  refine AW.aload_n dJ5_get_1 rfl ?_
  refine AW.getI (t := 18) (k := 2) dJ5_get_2 ck18 (Nat.le_of_ble_eq_true rfl) (fun _ => rfl) q344 (Or.inl rfl) h (fun v1 h => ?_)
  refine AW.SI (M' := m_J6_checkIndex) [iV x1, iV v1] [] dJ5_get_5 q492 q493 q135 q494 n_J6_checkIndex rfl rfl rfl (fun _ _ e => c_J6_checkIndex e) h (fun v2 s3 h => ?_)
  refine AW.popI dJ5_get_8 ?_
  refine AW.aload_n dJ5_get_9 rfl ?_
  refine AW.iload_n dJ5_get_10 rfl ?_
  refine AW.VR (M' := m_J5_elementData) (t := 18) [iV x1] [] dJ5_get_11 q498 q499 q500 q131 q501 ck18 rfl n_J5_elementData rfl rfl rfl (fun _ _ _ e => c_J5_elementData e) h (fun v4 s5 h => ?_)
  cases h
  exact AW.aret dJ5_get_14 rfl (Or.inl ⟨_, rfl⟩)
theorem c_J5_get {s0 : Hp} {x0 : Nat} {x1 : Int} {v : Option Nat} {s1 : Hp} (h : f_J5_get s0 x0 x1 = some (v, s1)) : Ct m_J5_get [rV (some x0), iV x1] s0 (.inl (some (rV v)), s1) :=
  Ct.of2 (w_J5_get s0 x0 x1 h) (show plainName yJ5_get.cls = true by decide) rfl rfl rfl
abbrev m_X5_lateBy : Mi := (yX5_lateBy, cX5_lateBy, (some .int), 5, 414, 24746, [])
theorem n_X5_lateBy : nameOk yX5_lateBy 3 := ⟨by decide, by decide, by decide +kernel⟩
def f_X5_lateBy (s0 : Hp) (x0 : Nat) (x1 : Option Nat) (x2 : Int) (x3 : Int) : Option (Int × Hp) :=
  (gR s0 4 x1 6).bind fun v1 => (if ¬ v1 = none then ((gR s0 5 (some x0) 2).bind fun v2 => (aR s0 105 v2 x2).bind fun v3 => (gI s0 5 (some x0) 9).bind fun v4 => (aI s0 101 v3 v4).bind fun v5 => (gR s0 5 (some x0) 8).bind fun v6 => (gR s0 6 v6 0).bind fun v7 => (gI s0 5 (some x0) 9).bind fun v8 => (sI s0 100 v7 0 v8).bind fun s9 => (gR s9 5 (some x0) 8).bind fun v10 => (gR s9 6 v10 0).bind fun v11 => (sI s9 100 v11 1 v5).bind fun s12 => (gR s12 5 (some x0) 8).bind fun v13 => (gR s12 6 v13 0).bind fun v14 => (sI s12 100 v14 2 (nrm x3)).bind fun s15 => (gR s15 5 (some x0) 8).bind fun v16 => (gR s15 6 v16 0).bind fun v17 => (sI s15 100 v17 3 (nrm x2)).bind fun s18 => (gR s18 5 (some x0) 8).bind fun v19 => (gR s18 6 v19 0).bind fun v20 => (gR s18 4 x1 0).bind fun v21 => (rcv s18 18 v21).bind fun b24 => bn (f_J5_get s18 b24 v5) fun v22 s23 => (kst s23 [10] v22).bind fun v25 => (gI s23 10 v25 2).bind fun v26 => (sI s23 100 v20 4 v26).bind fun s27 => (gR s27 5 (some x0) 8).bind fun v28 => (gR s27 6 v28 0).bind fun v29 => (gI s27 5 (some x0) 9).bind fun v30 => (rcv s27 5 (some x0)).bind fun b33 => bn (f_X5_menIn s27 b33 x1 v5 v30) fun v31 s32 => bn (f_J8_bitCount s32 v31) fun v34 s35 => (sI s35 100 v29 5 v34).bind fun s36 => (gR s36 4 x1 6).bind fun v37 => (gR s36 5 (some x0) 8).bind fun v38 => (rcv s36 12 v37).bind fun b41 => bn (f_X12_of s36 b41 v38) fun v39 s40 => some (nrm (mxI 0 (mnI 240 v39)), s40)) else (some (nrm x3, s0)))
theorem w_X5_lateBy {σ0 : Hp} {w : Int × Hp} (s0 : Hp) (x0 : Nat) (x1 : Option Nat) (x2 : Int) (x3 : Int) (h : f_X5_lateBy s0 x0 x1 x2 x3 = some w) : AW m_X5_lateBy σ0 (oI w) 0 [some (rV (some x0)), some (rV x1), some (iV x2), some (iV x3), none] [] s0 := by
  unfold f_X5_lateBy at h
  refine AW.aload_n dX5_lateBy_0 rfl ?_
  refine AW.getR (t := 4) (k := 6) dX5_lateBy_1 ck4 (Nat.le_of_ble_eq_true rfl) (fun _ => rfl) q374 (Or.inl rfl) h (fun v1 h => ?_)
  refine AW.ifnonnull 9 dX5_lateBy_4 (by decide) h (fun c42 h => ?_) (fun c42 h => ?_)
  · refine AW.aload_n dX5_lateBy_9 rfl ?_
    refine AW.getR (t := 5) (k := 2) dX5_lateBy_10 ck5 (Nat.le_of_ble_eq_true rfl) (fun _ => rfl) q425 (Or.inl rfl) h (fun v2 h => ?_)
    refine AW.iload_n dX5_lateBy_13 rfl ?_
    refine AW.aald (t := 105) dX5_lateBy_14 (Nat.le_of_ble_eq_true rfl) rfl (fun _ _ => rfl) h (fun v3 h => ?_)
    refine AW.aload_n dX5_lateBy_15 rfl ?_
    refine AW.getI (t := 5) (k := 9) dX5_lateBy_16 ck5 (Nat.le_of_ble_eq_true rfl) (fun _ => rfl) q436 (Or.inl rfl) h (fun v4 h => ?_)
    refine AW.bald (t := 101) dX5_lateBy_19 (Nat.le_of_ble_eq_true rfl) rfl h (fun v5 h => ?_)
    refine AW.istore (L' := [some (rV (some x0)), some (rV x1), some (iV x2), some (iV x3), some (iV v5)]) dX5_lateBy_20 (Nat.le_of_ble_eq_true rfl) rfl rfl ?_
    refine AW.aload_n dX5_lateBy_22 rfl ?_
    refine AW.getR (t := 5) (k := 8) dX5_lateBy_23 ck5 (Nat.le_of_ble_eq_true rfl) (fun _ => rfl) q435 (Or.inl rfl) h (fun v6 h => ?_)
    refine AW.getR (t := 6) (k := 0) dX5_lateBy_26 ck6 (Nat.le_of_ble_eq_true rfl) (fun _ => rfl) q411 (Or.inl rfl) h (fun v7 h => ?_)
    refine AW.iconst dX5_lateBy_29 ?_
    refine AW.aload_n dX5_lateBy_30 rfl ?_
    refine AW.getI (t := 5) (k := 9) dX5_lateBy_31 ck5 (Nat.le_of_ble_eq_true rfl) (fun _ => rfl) q436 (Or.inl rfl) h (fun v8 h => ?_)
    refine AW.iast (t := 100) dX5_lateBy_34 (Nat.le_of_ble_eq_true rfl) mu100 rfl h (fun s9 h => ?_)
    refine AW.aload_n dX5_lateBy_35 rfl ?_
    refine AW.getR (t := 5) (k := 8) dX5_lateBy_36 ck5 (Nat.le_of_ble_eq_true rfl) (fun _ => rfl) q435 (Or.inl rfl) h (fun v10 h => ?_)
    refine AW.getR (t := 6) (k := 0) dX5_lateBy_39 ck6 (Nat.le_of_ble_eq_true rfl) (fun _ => rfl) q411 (Or.inl rfl) h (fun v11 h => ?_)
    refine AW.iconst dX5_lateBy_42 ?_
    refine AW.iload dX5_lateBy_43 rfl ?_
    refine AW.iast (t := 100) dX5_lateBy_45 (Nat.le_of_ble_eq_true rfl) mu100 rfl h (fun s12 h => ?_)
    refine AW.aload_n dX5_lateBy_46 rfl ?_
    refine AW.getR (t := 5) (k := 8) dX5_lateBy_47 ck5 (Nat.le_of_ble_eq_true rfl) (fun _ => rfl) q435 (Or.inl rfl) h (fun v13 h => ?_)
    refine AW.getR (t := 6) (k := 0) dX5_lateBy_50 ck6 (Nat.le_of_ble_eq_true rfl) (fun _ => rfl) q411 (Or.inl rfl) h (fun v14 h => ?_)
    refine AW.iconst dX5_lateBy_53 ?_
    refine AW.iload_n dX5_lateBy_54 rfl ?_
    refine AW.nv ?_
    refine AW.iast (t := 100) dX5_lateBy_55 (Nat.le_of_ble_eq_true rfl) mu100 rfl h (fun s15 h => ?_)
    refine AW.aload_n dX5_lateBy_56 rfl ?_
    refine AW.getR (t := 5) (k := 8) dX5_lateBy_57 ck5 (Nat.le_of_ble_eq_true rfl) (fun _ => rfl) q435 (Or.inl rfl) h (fun v16 h => ?_)
    refine AW.getR (t := 6) (k := 0) dX5_lateBy_60 ck6 (Nat.le_of_ble_eq_true rfl) (fun _ => rfl) q411 (Or.inl rfl) h (fun v17 h => ?_)
    refine AW.iconst dX5_lateBy_63 ?_
    refine AW.iload_n dX5_lateBy_64 rfl ?_
    refine AW.nv ?_
    refine AW.iast (t := 100) dX5_lateBy_65 (Nat.le_of_ble_eq_true rfl) mu100 rfl h (fun s18 h => ?_)
    refine AW.aload_n dX5_lateBy_66 rfl ?_
    refine AW.getR (t := 5) (k := 8) dX5_lateBy_67 ck5 (Nat.le_of_ble_eq_true rfl) (fun _ => rfl) q435 (Or.inl rfl) h (fun v19 h => ?_)
    refine AW.getR (t := 6) (k := 0) dX5_lateBy_70 ck6 (Nat.le_of_ble_eq_true rfl) (fun _ => rfl) q411 (Or.inl rfl) h (fun v20 h => ?_)
    refine AW.iconst dX5_lateBy_73 ?_
    refine AW.aload_n dX5_lateBy_74 rfl ?_
    refine AW.getR (t := 4) (k := 0) dX5_lateBy_75 ck4 (Nat.le_of_ble_eq_true rfl) (fun _ => rfl) q356 (Or.inl rfl) h (fun v21 h => ?_)
    refine AW.iload dX5_lateBy_78 rfl ?_
    refine AW.VR (M' := m_J5_get) (t := 18) [iV v5] [iV 4, rV v20] dX5_lateBy_80 q488 q489 q490 q131 q491 ck18 rfl n_J5_get rfl rfl rfl (fun _ _ _ e => c_J5_get e) h (fun v22 s23 h => ?_)
    refine AW.cast (ts := [10]) dX5_lateBy_83 q512 ca10 h (fun v25 h => ?_)
    refine AW.getI (t := 10) (k := 2) dX5_lateBy_86 ck10 (Nat.le_of_ble_eq_true rfl) (fun _ => rfl) q946 (Or.inl rfl) h (fun v26 h => ?_)
    refine AW.iast (t := 100) dX5_lateBy_89 (Nat.le_of_ble_eq_true rfl) mu100 rfl h (fun s27 h => ?_)
    refine AW.aload_n dX5_lateBy_90 rfl ?_
    refine AW.getR (t := 5) (k := 8) dX5_lateBy_91 ck5 (Nat.le_of_ble_eq_true rfl) (fun _ => rfl) q435 (Or.inl rfl) h (fun v28 h => ?_)
    refine AW.getR (t := 6) (k := 0) dX5_lateBy_94 ck6 (Nat.le_of_ble_eq_true rfl) (fun _ => rfl) q411 (Or.inl rfl) h (fun v29 h => ?_)
    refine AW.iconst dX5_lateBy_97 ?_
    refine AW.aload_n dX5_lateBy_98 rfl ?_
    refine AW.aload_n dX5_lateBy_99 rfl ?_
    refine AW.iload dX5_lateBy_100 rfl ?_
    refine AW.aload_n dX5_lateBy_102 rfl ?_
    refine AW.getI (t := 5) (k := 9) dX5_lateBy_103 ck5 (Nat.le_of_ble_eq_true rfl) (fun _ => rfl) q436 (Or.inl rfl) h (fun v30 h => ?_)
    refine AW.VI (M' := m_X5_menIn) (t := 5) [rV x1, iV v5, iV v30] [iV 5, rV v29] dX5_lateBy_106 q513 q514 q515 q132 q516 ck5 rfl n_X5_menIn rfl rfl rfl (fun _ _ _ e => c_X5_menIn e) h (fun v31 s32 h => ?_)
    refine AW.SI (M' := m_J8_bitCount) [iV v31] [iV 5, rV v29] dX5_lateBy_109 q517 q518 q137 q519 n_J8_bitCount rfl rfl rfl (fun _ _ e => c_J8_bitCount e) h (fun v34 s35 h => ?_)
    refine AW.iast (t := 100) dX5_lateBy_112 (Nat.le_of_ble_eq_true rfl) mu100 rfl h (fun s36 h => ?_)
    refine AW.iconst dX5_lateBy_113 ?_
    refine AW.sipush dX5_lateBy_114 (by decide) ?_
    refine AW.aload_n dX5_lateBy_117 rfl ?_
    refine AW.getR (t := 4) (k := 6) dX5_lateBy_118 ck4 (Nat.le_of_ble_eq_true rfl) (fun _ => rfl) q374 (Or.inl rfl) h (fun v37 h => ?_)
    refine AW.aload_n dX5_lateBy_121 rfl ?_
    refine AW.getR (t := 5) (k := 8) dX5_lateBy_122 ck5 (Nat.le_of_ble_eq_true rfl) (fun _ => rfl) q435 (Or.inl rfl) h (fun v38 h => ?_)
    refine AW.VI (M' := m_X12_of) (t := 12) [rV v38] [iV 240, iV 0] dX5_lateBy_125 q523 q524 q525 q151 q526 ck12 rfl n_X12_of rfl rfl rfl (fun _ _ _ e => c_X12_of e) h (fun v39 s40 h => ?_)
    refine AW.mmin dX5_lateBy_128 q540 rfl rfl ?_
    refine AW.mmax dX5_lateBy_131 q543 rfl rfl ?_
    refine AW.nv ?_
    cases h
    exact AW.iret dX5_lateBy_134 rfl
  · refine AW.iload_n dX5_lateBy_7 rfl ?_
    refine AW.nv ?_
    cases h
    exact AW.iret dX5_lateBy_8 rfl
theorem c_X5_lateBy {s0 : Hp} {x0 : Nat} {x1 : Option Nat} {x2 : Int} {x3 : Int} {v : Int} {s1 : Hp} (h : f_X5_lateBy s0 x0 x1 x2 x3 = some (v, s1)) : Ct m_X5_lateBy [rV (some x0), rV x1, iV x2, iV x3] s0 (.inl (some (iV v)), s1) :=
  Ct.of2 (w_X5_lateBy s0 x0 x1 x2 x3 h) (show plainName yX5_lateBy.cls = true by decide) rfl rfl rfl
abbrev m_X5_looks : Mi := (yX5_looks, cX5_looks, none, 3, 415, 24770, [])
theorem n_X5_looks : nameOk yX5_looks 1 := ⟨by decide, by decide, by decide +kernel⟩
def f_X5_looks_L2 (x0 : Nat) : Nat → Hp → Option Nat → Int → (Hp → Option (Unit × Hp)) → Option (Unit × Hp)
  | 0, _, _, _, _ => none
  | n + 1, s0, x1, x2, k => (gR s0 4 x1 2).bind fun v1 => (rcv s0 18 v1).bind fun b4 => bn (f_J5_size s0 b4) fun v2 s3 => (if nrm v2 ≤ nrm x2 then (k s3) else ((gR s3 5 (some x0) 4).bind fun v5 => (aR s3 107 v5 x2).bind fun v6 => (gI s3 5 (some x0) 9).bind fun v7 => (gR s3 5 (some x0) 1).bind fun v8 => (gR s3 4 x1 2).bind fun v9 => (rcv s3 18 v9).bind fun b12 => bn (f_J5_get s3 b12 x2) fun v10 s11 => (kst s11 [17] v10).bind fun v13 => (gI s11 17 v13 2).bind fun v14 => (aR s11 105 v8 v14).bind fun v15 => (gI s11 5 (some x0) 9).bind fun v16 => (aI s11 101 v15 v16).bind fun v17 => (rcv s11 5 (some x0)).bind fun b20 => bn (f_X5_lateBy s11 b20 x1 x2 v17) fun v18 s19 => (sI s19 103 v6 v7 (i16I (i16I v18))).bind fun s21 => f_X5_looks_L2 x0 n s21 x1 (x2 + 1) k))
theorem w_X5_looks_L2 {σ0 : Hp} {w : Unit × Hp} {x0 : Nat} : ∀ (n : Nat) (s0 : Hp) (x1 : Option Nat) (x2 : Int) (k : (Hp → Option (Unit × Hp))), f_X5_looks_L2 x0 n s0 x1 x2 k = some w → (∀ (s1 : Hp), k s1 = some w → AW m_X5_looks σ0 (oU w) 61 [none, none, none] [] s1) → AW m_X5_looks σ0 (oU w) 2 [some (rV (some x0)), some (rV x1), some (iV x2)] [] s0 := by
  intro n
  induction n with
  | zero =>
    intro s0 x1 x2 k h hk
    rw [f_X5_looks_L2] at h
    cases h
  | succ n ih =>
    intro s0 x1 x2 k h hk
    rw [f_X5_looks_L2] at h
    refine AW.iload_n dX5_looks_2 rfl ?_
    refine AW.aload_n dX5_looks_3 rfl ?_
    refine AW.getR (t := 4) (k := 2) dX5_looks_4 ck4 (Nat.le_of_ble_eq_true rfl) (fun _ => rfl) q364 (Or.inl rfl) h (fun v1 h => ?_)
    refine AW.VI (M' := m_J5_size) (t := 18) [] [iV x2] dX5_looks_7 q484 q485 q486 q131 q487 ck18 rfl n_J5_size rfl rfl rfl (fun _ _ _ e => c_J5_size e) h (fun v2 s3 h => ?_)
    refine AW.icmp_ge 61 dX5_looks_10 (by decide) h (fun c22 h => ?_) (fun c22 h => ?_)
    · exact AW.fewer (L' := [none, none, none]) (trivial) (hk _ h)
    · refine AW.aload_n dX5_looks_13 rfl ?_
      refine AW.getR (t := 5) (k := 4) dX5_looks_14 ck5 (Nat.le_of_ble_eq_true rfl) (fun _ => rfl) q430 (Or.inl rfl) h (fun v5 h => ?_)
      refine AW.iload_n dX5_looks_17 rfl ?_
      refine AW.aald (t := 107) dX5_looks_18 (Nat.le_of_ble_eq_true rfl) rfl (fun _ _ => rfl) h (fun v6 h => ?_)
      refine AW.aload_n dX5_looks_19 rfl ?_
      refine AW.getI (t := 5) (k := 9) dX5_looks_20 ck5 (Nat.le_of_ble_eq_true rfl) (fun _ => rfl) q436 (Or.inl rfl) h (fun v7 h => ?_)
      refine AW.aload_n dX5_looks_23 rfl ?_
      refine AW.aload_n dX5_looks_24 rfl ?_
      refine AW.iload_n dX5_looks_25 rfl ?_
      refine AW.aload_n dX5_looks_26 rfl ?_
      refine AW.getR (t := 5) (k := 1) dX5_looks_27 ck5 (Nat.le_of_ble_eq_true rfl) (fun _ => rfl) q423 (Or.inl rfl) h (fun v8 h => ?_)
      refine AW.aload_n dX5_looks_30 rfl ?_
      refine AW.getR (t := 4) (k := 2) dX5_looks_31 ck4 (Nat.le_of_ble_eq_true rfl) (fun _ => rfl) q364 (Or.inl rfl) h (fun v9 h => ?_)
      refine AW.iload_n dX5_looks_34 rfl ?_
      refine AW.VR (M' := m_J5_get) (t := 18) [iV x2] [rV v8, iV x2, rV x1, rV (some x0), iV v7, rV v6] dX5_looks_35 q488 q489 q490 q131 q491 ck18 rfl n_J5_get rfl rfl rfl (fun _ _ _ e => c_J5_get e) h (fun v10 s11 h => ?_)
      refine AW.cast (ts := [17]) dX5_looks_38 q503 ca17 h (fun v13 h => ?_)
      refine AW.getI (t := 17) (k := 2) dX5_looks_41 ck17 (Nat.le_of_ble_eq_true rfl) (fun _ => rfl) q1154 (Or.inl rfl) h (fun v14 h => ?_)
      refine AW.aald (t := 105) dX5_looks_44 (Nat.le_of_ble_eq_true rfl) rfl (fun _ _ => rfl) h (fun v15 h => ?_)
      refine AW.aload_n dX5_looks_45 rfl ?_
      refine AW.getI (t := 5) (k := 9) dX5_looks_46 ck5 (Nat.le_of_ble_eq_true rfl) (fun _ => rfl) q436 (Or.inl rfl) h (fun v16 h => ?_)
      refine AW.bald (t := 101) dX5_looks_49 (Nat.le_of_ble_eq_true rfl) rfl h (fun v17 h => ?_)
      refine AW.VI (M' := m_X5_lateBy) (t := 5) [rV x1, iV x2, iV v17] [iV v7, rV v6] dX5_looks_50 q508 q509 q510 q132 q511 ck5 rfl n_X5_lateBy rfl rfl rfl (fun _ _ _ e => c_X5_lateBy e) h (fun v18 s19 h => ?_)
      refine AW.i2s dX5_looks_53 ?_
      refine AW.sast (t := 103) dX5_looks_54 (Nat.le_of_ble_eq_true rfl) mu103 rfl h (fun s21 h => ?_)
      refine AW.iinc (L' := [some (rV (some x0)), some (rV x1), some (iV (x2 + 1))]) dX5_looks_55 rfl (Nat.le_of_ble_eq_true rfl) rfl rfl ?_
      refine AW.goto (tgt := 2) dX5_looks_58 (by decide) ?_
      exact ih _ _ _ _ h hk
def f_X5_looks (s0 : Hp) (x0 : Nat) (x1 : Option Nat) : Option (Unit × Hp) :=
  f_X5_looks_L2 x0 FU s0 x1 0 (fun s23 => some ((), s23))
theorem w_X5_looks {σ0 : Hp} {w : Unit × Hp} (s0 : Hp) (x0 : Nat) (x1 : Option Nat) (h : f_X5_looks s0 x0 x1 = some w) : AW m_X5_looks σ0 (oU w) 0 [some (rV (some x0)), some (rV x1), none] [] s0 := by
  unfold f_X5_looks at h
  refine AW.iconst dX5_looks_0 ?_
  refine AW.istore_n (L' := [some (rV (some x0)), some (rV x1), some (iV 0)]) dX5_looks_1 (Nat.le_of_ble_eq_true rfl) rfl rfl ?_
  refine w_X5_looks_L2 _ _ _ _ _ h (fun s23 h => ?_)
  cases h
  exact AW.vret dX5_looks_61 rfl
theorem c_X5_looks {s0 : Hp} {x0 : Nat} {x1 : Option Nat} {v : Unit} {s1 : Hp} (h : f_X5_looks s0 x0 x1 = some (v, s1)) : Ct m_X5_looks [rV (some x0), rV x1] s0 (.inl none, s1) :=
  Ct.of2 (w_X5_looks s0 x0 x1 h) (show plainName yX5_looks.cls = true by decide) rfl rfl rfl
abbrev m_X5_begins : Mi := (yX5_begins, cX5_begins, none, 3, 416, 24792, [])
theorem n_X5_begins : nameOk yX5_begins 1 := ⟨by decide, by decide, by decide +kernel⟩
def f_X5_begins_L15 (x0 : Nat) : Nat → Hp → Option Nat → Int → (Hp → Option Nat → Option (Unit × Hp)) → Option (Unit × Hp)
  | 0, _, _, _, _ => none
  | n + 1, s0, x1, x2, k => (gR s0 4 x1 1).bind fun v4 => (rcv s0 18 v4).bind fun b7 => bn (f_J5_size s0 b7) fun v5 s6 => (if nrm v5 ≤ nrm x2 then (k s6 x1) else ((gR s6 5 (some x0) 0).bind fun v8 => (aR s6 105 v8 x2).bind fun v9 => (gR s6 4 x1 1).bind fun v10 => (rcv s6 18 v10).bind fun b13 => bn (f_J5_get s6 b13 x2) fun v11 s12 => (kst s12 [11] v11).bind fun v14 => (gI s12 11 v14 2).bind fun v15 => (sI s12 101 v9 0 (i8I (i8I v15))).bind fun s16 => (gR s16 5 (some x0) 1).bind fun v17 => (aR s16 105 v17 x2).bind fun v18 => (gR s16 4 x1 1).bind fun v19 => (rcv s16 18 v19).bind fun b22 => bn (f_J5_get s16 b22 x2) fun v20 s21 => (kst s21 [11] v20).bind fun v23 => (gI s21 11 v23 1).bind fun v24 => (sI s21 101 v18 0 (i8I (i8I v24))).bind fun s25 => f_X5_begins_L15 x0 n s25 x1 (x2 + 1) k))
theorem w_X5_begins_L15 {σ0 : Hp} {w : Unit × Hp} {x0 : Nat} : ∀ (n : Nat) (s0 : Hp) (x1 : Option Nat) (x2 : Int) (k : (Hp → Option Nat → Option (Unit × Hp))), f_X5_begins_L15 x0 n s0 x1 x2 k = some w → (∀ (s1 : Hp) (x1 : Option Nat), k s1 x1 = some w → AW m_X5_begins σ0 (oU w) 78 [some (rV (some x0)), some (rV x1), none] [] s1) → AW m_X5_begins σ0 (oU w) 15 [some (rV (some x0)), some (rV x1), some (iV x2)] [] s0 := by
  intro n
  induction n with
  | zero =>
    intro s0 x1 x2 k h hk
    rw [f_X5_begins_L15] at h
    cases h
  | succ n ih =>
    intro s0 x1 x2 k h hk
    rw [f_X5_begins_L15] at h
    refine AW.iload_n dX5_begins_15 rfl ?_
    refine AW.aload_n dX5_begins_16 rfl ?_
    refine AW.getR (t := 4) (k := 1) dX5_begins_17 ck4 (Nat.le_of_ble_eq_true rfl) (fun _ => rfl) q360 (Or.inl rfl) h (fun v4 h => ?_)
    refine AW.VI (M' := m_J5_size) (t := 18) [] [iV x2] dX5_begins_20 q484 q485 q486 q131 q487 ck18 rfl n_J5_size rfl rfl rfl (fun _ _ _ e => c_J5_size e) h (fun v5 s6 h => ?_)
    refine AW.icmp_ge 78 dX5_begins_23 (by decide) h (fun c26 h => ?_) (fun c26 h => ?_)
    · exact AW.fewer (L' := [some (rV (some x0)), some (rV x1), none]) (And.intro rfl (And.intro rfl trivial)) (hk _ _ h)
    · refine AW.aload_n dX5_begins_26 rfl ?_
      refine AW.getR (t := 5) (k := 0) dX5_begins_27 ck5 (Nat.le_of_ble_eq_true rfl) (fun _ => rfl) q421 (Or.inl rfl) h (fun v8 h => ?_)
      refine AW.iload_n dX5_begins_30 rfl ?_
      refine AW.aald (t := 105) dX5_begins_31 (Nat.le_of_ble_eq_true rfl) rfl (fun _ _ => rfl) h (fun v9 h => ?_)
      refine AW.iconst dX5_begins_32 ?_
      refine AW.aload_n dX5_begins_33 rfl ?_
      refine AW.getR (t := 4) (k := 1) dX5_begins_34 ck4 (Nat.le_of_ble_eq_true rfl) (fun _ => rfl) q360 (Or.inl rfl) h (fun v10 h => ?_)
      refine AW.iload_n dX5_begins_37 rfl ?_
      refine AW.VR (M' := m_J5_get) (t := 18) [iV x2] [iV 0, rV v9] dX5_begins_38 q488 q489 q490 q131 q491 ck18 rfl n_J5_get rfl rfl rfl (fun _ _ _ e => c_J5_get e) h (fun v11 s12 h => ?_)
      refine AW.cast (ts := [11]) dX5_begins_41 q502 ca11 h (fun v14 h => ?_)
      refine AW.getI (t := 11) (k := 2) dX5_begins_44 ck11 (Nat.le_of_ble_eq_true rfl) (fun _ => rfl) q1030 (Or.inl rfl) h (fun v15 h => ?_)
      refine AW.i2b dX5_begins_47 ?_
      refine AW.bast (t := 101) dX5_begins_48 (Nat.le_of_ble_eq_true rfl) mu101 rfl h (fun s16 h => ?_)
      refine AW.aload_n dX5_begins_49 rfl ?_
      refine AW.getR (t := 5) (k := 1) dX5_begins_50 ck5 (Nat.le_of_ble_eq_true rfl) (fun _ => rfl) q423 (Or.inl rfl) h (fun v17 h => ?_)
      refine AW.iload_n dX5_begins_53 rfl ?_
      refine AW.aald (t := 105) dX5_begins_54 (Nat.le_of_ble_eq_true rfl) rfl (fun _ _ => rfl) h (fun v18 h => ?_)
      refine AW.iconst dX5_begins_55 ?_
      refine AW.aload_n dX5_begins_56 rfl ?_
      refine AW.getR (t := 4) (k := 1) dX5_begins_57 ck4 (Nat.le_of_ble_eq_true rfl) (fun _ => rfl) q360 (Or.inl rfl) h (fun v19 h => ?_)
      refine AW.iload_n dX5_begins_60 rfl ?_
      refine AW.VR (M' := m_J5_get) (t := 18) [iV x2] [iV 0, rV v18] dX5_begins_61 q488 q489 q490 q131 q491 ck18 rfl n_J5_get rfl rfl rfl (fun _ _ _ e => c_J5_get e) h (fun v20 s21 h => ?_)
      refine AW.cast (ts := [11]) dX5_begins_64 q502 ca11 h (fun v23 h => ?_)
      refine AW.getI (t := 11) (k := 1) dX5_begins_67 ck11 (Nat.le_of_ble_eq_true rfl) (fun _ => rfl) q1028 (Or.inl rfl) h (fun v24 h => ?_)
      refine AW.i2b dX5_begins_70 ?_
      refine AW.bast (t := 101) dX5_begins_71 (Nat.le_of_ble_eq_true rfl) mu101 rfl h (fun s25 h => ?_)
      refine AW.iinc (L' := [some (rV (some x0)), some (rV x1), some (iV (x2 + 1))]) dX5_begins_72 rfl (Nat.le_of_ble_eq_true rfl) rfl rfl ?_
      refine AW.goto (tgt := 15) dX5_begins_75 (by decide) ?_
      exact ih _ _ _ _ h hk
def f_X5_begins_L80 (x0 : Nat) : Nat → Hp → Option Nat → Int → (Hp → Option Nat → Option (Unit × Hp)) → Option (Unit × Hp)
  | 0, _, _, _, _ => none
  | n + 1, s0, x1, x2, k => (gR s0 4 x1 2).bind fun v28 => (rcv s0 18 v28).bind fun b31 => bn (f_J5_size s0 b31) fun v29 s30 => (if nrm v29 ≤ nrm x2 then (k s30 x1) else ((gR s30 5 (some x0) 2).bind fun v32 => (aR s30 105 v32 x2).bind fun v33 => (gR s30 4 x1 2).bind fun v34 => (rcv s30 18 v34).bind fun b37 => bn (f_J5_get s30 b37 x2) fun v35 s36 => (kst s36 [17] v35).bind fun v38 => (gI s36 17 v38 1).bind fun v39 => (sI s36 101 v33 0 (i8I (i8I v39))).bind fun s40 => (gR s40 5 (some x0) 3).bind fun v41 => (aR s40 106 v41 x2).bind fun v42 => (sI s40 102 v42 0 (b1I 0)).bind fun s43 => (gR s43 5 (some x0) 5).bind fun v44 => (sI s43 100 v44 x2 300).bind fun s45 => (gR s45 5 (some x0) 6).bind fun v46 => (sI s45 100 v46 x2 (-2)).bind fun s47 => f_X5_begins_L80 x0 n s47 x1 (x2 + 1) k))
theorem w_X5_begins_L80 {σ0 : Hp} {w : Unit × Hp} {x0 : Nat} : ∀ (n : Nat) (s0 : Hp) (x1 : Option Nat) (x2 : Int) (k : (Hp → Option Nat → Option (Unit × Hp))), f_X5_begins_L80 x0 n s0 x1 x2 k = some w → (∀ (s1 : Hp) (x1 : Option Nat), k s1 x1 = some w → AW m_X5_begins σ0 (oU w) 146 [some (rV (some x0)), some (rV x1), none] [] s1) → AW m_X5_begins σ0 (oU w) 80 [some (rV (some x0)), some (rV x1), some (iV x2)] [] s0 := by
  intro n
  induction n with
  | zero =>
    intro s0 x1 x2 k h hk
    rw [f_X5_begins_L80] at h
    cases h
  | succ n ih =>
    intro s0 x1 x2 k h hk
    rw [f_X5_begins_L80] at h
    refine AW.iload_n dX5_begins_80 rfl ?_
    refine AW.aload_n dX5_begins_81 rfl ?_
    refine AW.getR (t := 4) (k := 2) dX5_begins_82 ck4 (Nat.le_of_ble_eq_true rfl) (fun _ => rfl) q364 (Or.inl rfl) h (fun v28 h => ?_)
    refine AW.VI (M' := m_J5_size) (t := 18) [] [iV x2] dX5_begins_85 q484 q485 q486 q131 q487 ck18 rfl n_J5_size rfl rfl rfl (fun _ _ _ e => c_J5_size e) h (fun v29 s30 h => ?_)
    refine AW.icmp_ge 146 dX5_begins_88 (by decide) h (fun c48 h => ?_) (fun c48 h => ?_)
    · exact AW.fewer (L' := [some (rV (some x0)), some (rV x1), none]) (And.intro rfl (And.intro rfl trivial)) (hk _ _ h)
    · refine AW.aload_n dX5_begins_91 rfl ?_
      refine AW.getR (t := 5) (k := 2) dX5_begins_92 ck5 (Nat.le_of_ble_eq_true rfl) (fun _ => rfl) q425 (Or.inl rfl) h (fun v32 h => ?_)
      refine AW.iload_n dX5_begins_95 rfl ?_
      refine AW.aald (t := 105) dX5_begins_96 (Nat.le_of_ble_eq_true rfl) rfl (fun _ _ => rfl) h (fun v33 h => ?_)
      refine AW.iconst dX5_begins_97 ?_
      refine AW.aload_n dX5_begins_98 rfl ?_
      refine AW.getR (t := 4) (k := 2) dX5_begins_99 ck4 (Nat.le_of_ble_eq_true rfl) (fun _ => rfl) q364 (Or.inl rfl) h (fun v34 h => ?_)
      refine AW.iload_n dX5_begins_102 rfl ?_
      refine AW.VR (M' := m_J5_get) (t := 18) [iV x2] [iV 0, rV v33] dX5_begins_103 q488 q489 q490 q131 q491 ck18 rfl n_J5_get rfl rfl rfl (fun _ _ _ e => c_J5_get e) h (fun v35 s36 h => ?_)
      refine AW.cast (ts := [17]) dX5_begins_106 q503 ca17 h (fun v38 h => ?_)
      refine AW.getI (t := 17) (k := 1) dX5_begins_109 ck17 (Nat.le_of_ble_eq_true rfl) (fun _ => rfl) q1152 (Or.inl rfl) h (fun v39 h => ?_)
      refine AW.i2b dX5_begins_112 ?_
      refine AW.bast (t := 101) dX5_begins_113 (Nat.le_of_ble_eq_true rfl) mu101 rfl h (fun s40 h => ?_)
      refine AW.aload_n dX5_begins_114 rfl ?_
      refine AW.getR (t := 5) (k := 3) dX5_begins_115 ck5 (Nat.le_of_ble_eq_true rfl) (fun _ => rfl) q428 (Or.inl rfl) h (fun v41 h => ?_)
      refine AW.iload_n dX5_begins_118 rfl ?_
      refine AW.aald (t := 106) dX5_begins_119 (Nat.le_of_ble_eq_true rfl) rfl (fun _ _ => rfl) h (fun v42 h => ?_)
      refine AW.iconst dX5_begins_120 ?_
      refine AW.iconst dX5_begins_121 ?_
      refine AW.zast (t := 102) dX5_begins_122 (Nat.le_of_ble_eq_true rfl) mu102 rfl h (fun s43 h => ?_)
      refine AW.aload_n dX5_begins_123 rfl ?_
      refine AW.getR (t := 5) (k := 5) dX5_begins_124 ck5 (Nat.le_of_ble_eq_true rfl) (fun _ => rfl) q432 (Or.inl rfl) h (fun v44 h => ?_)
      refine AW.iload_n dX5_begins_127 rfl ?_
      refine AW.sipush dX5_begins_128 (by decide) ?_
      refine AW.iast (t := 100) dX5_begins_131 (Nat.le_of_ble_eq_true rfl) mu100 rfl h (fun s45 h => ?_)
      refine AW.aload_n dX5_begins_132 rfl ?_
      refine AW.getR (t := 5) (k := 6) dX5_begins_133 ck5 (Nat.le_of_ble_eq_true rfl) (fun _ => rfl) q433 (Or.inl rfl) h (fun v46 h => ?_)
      refine AW.iload_n dX5_begins_136 rfl ?_
      refine AW.bipush dX5_begins_137 (by decide) ?_
      refine AW.iast (t := 100) dX5_begins_139 (Nat.le_of_ble_eq_true rfl) mu100 rfl h (fun s47 h => ?_)
      refine AW.iinc (L' := [some (rV (some x0)), some (rV x1), some (iV (x2 + 1))]) dX5_begins_140 rfl (Nat.le_of_ble_eq_true rfl) rfl rfl ?_
      refine AW.goto (tgt := 80) dX5_begins_143 (by decide) ?_
      exact ih _ _ _ _ h hk
def f_X5_begins (s0 : Hp) (x0 : Nat) (x1 : Option Nat) : Option (Unit × Hp) :=
  (pI s0 5 (some x0) 9 0).bind fun s1 => (gI s1 4 x1 5).bind fun v2 => (pI s1 5 (some x0) 10 v2).bind fun s3 => f_X5_begins_L15 x0 FU s3 x1 0 (fun s27 x1 => f_X5_begins_L80 x0 FU s27 x1 0 (fun s49 x1 => (rcv s49 5 (some x0)).bind fun b51 => bn (f_X5_looks s49 b51 x1) fun _ s50 => some ((), s50)))
theorem w_X5_begins {σ0 : Hp} {w : Unit × Hp} (s0 : Hp) (x0 : Nat) (x1 : Option Nat) (h : f_X5_begins s0 x0 x1 = some w) : AW m_X5_begins σ0 (oU w) 0 [some (rV (some x0)), some (rV x1), none] [] s0 := by
  unfold f_X5_begins at h
  refine AW.aload_n dX5_begins_0 rfl ?_
  refine AW.iconst dX5_begins_1 ?_
  refine AW.putI (t := 5) (k := 9) dX5_begins_2 ck5 mu5 (Nat.le_of_ble_eq_true rfl) rfl q436 (Or.inl rfl) (Or.inl rfl) h (fun s1 h => ?_)
  refine AW.aload_n dX5_begins_5 rfl ?_
  refine AW.aload_n dX5_begins_6 rfl ?_
  refine AW.getI (t := 4) (k := 5) dX5_begins_7 ck4 (Nat.le_of_ble_eq_true rfl) (fun _ => rfl) q371 (Or.inl rfl) h (fun v2 h => ?_)
  refine AW.putI (t := 5) (k := 10) dX5_begins_10 ck5 mu5 (Nat.le_of_ble_eq_true rfl) rfl q438 (Or.inl rfl) (Or.inl rfl) h (fun s3 h => ?_)
  refine AW.iconst dX5_begins_13 ?_
  refine AW.istore_n (L' := [some (rV (some x0)), some (rV x1), some (iV 0)]) dX5_begins_14 (Nat.le_of_ble_eq_true rfl) rfl rfl ?_
  refine w_X5_begins_L15 _ _ _ _ _ h (fun s27 x1 h => ?_)
  refine AW.iconst dX5_begins_78 ?_
  refine AW.istore_n (L' := [some (rV (some x0)), some (rV x1), some (iV 0)]) dX5_begins_79 (Nat.le_of_ble_eq_true rfl) rfl rfl ?_
  refine w_X5_begins_L80 _ _ _ _ _ h (fun s49 x1 h => ?_)
  refine AW.aload_n dX5_begins_146 rfl ?_
  refine AW.aload_n dX5_begins_147 rfl ?_
  refine AW.VU (M' := m_X5_looks) (t := 5) [rV x1] [] dX5_begins_148 q504 q505 q506 q132 q507 ck5 rfl n_X5_looks rfl rfl rfl (fun _ _ _ e => c_X5_looks e) h (fun _ s50 h => ?_)
  cases h
  exact AW.vret dX5_begins_151 rfl
theorem c_X5_begins {s0 : Hp} {x0 : Nat} {x1 : Option Nat} {v : Unit} {s1 : Hp} (h : f_X5_begins s0 x0 x1 = some (v, s1)) : Ct m_X5_begins [rV (some x0), rV x1] s0 (.inl none, s1) :=
  Ct.of2 (w_X5_begins s0 x0 x1 h) (show plainName yX5_begins.cls = true by decide) rfl rfl rfl
abbrev m_J0_init_2 : Mi := (yJ0_init_2, cJ0_init_2, none, 5, 1, 20, [])
theorem n_J0_init_2 : nameOk yJ0_init_2 4 := ⟨by decide, by decide, by decide +kernel⟩
def f_J0_init_2 (s0 : Hp) (x0 : Nat) (x1 : Option Nat) (x2 : Option Nat) (x3 : Int) (x4 : Int) : Option (Unit × Hp) :=
  (some x0).bind fun _ => (pR s0 1 (some x0) 0 (some x0)).bind fun s1 => (pR s1 1 (some x0) 1 (cR s1.2.2.2 (2 + 1))).bind fun s2 => (pR s2 1 (some x0) 2 (cR s2.2.2.2 (3 + 1))).bind fun s3 => jn (fun (s4 : Hp) (x1 : Option Nat) (x2 : Option Nat) (x3 : Int) => (pR s4 1 (some x0) 3 x1).bind fun s5 => (pR s5 1 (some x0) 0 x2).bind fun s6 => (if ¬ nrm x3 = 0 then (some ((), s6)) else ((pR s6 1 (some x0) 2 none).bind fun s7 => some ((), s7)))) fun j41 => (if nrm x4 = 0 then ((pR s3 1 (some x0) 1 none).bind fun s9 => j41 s9 x1 x2 x3) else (none))
theorem w_J0_init_2 {σ0 : Hp} {w : Unit × Hp} (s0 : Hp) (x0 : Nat) (x1 : Option Nat) (x2 : Option Nat) (x3 : Int) (x4 : Int) (h : f_J0_init_2 s0 x0 x1 x2 x3 x4 = some w) : AW m_J0_init_2 σ0 (oU w) 0 [some (rV (some x0)), some (rV x1), some (rV x2), some (iV x3), some (iV x4)] [] s0 := by
  unfold f_J0_init_2 at h
  refine AW.aload_n dJ0_init_2_0 rfl ?_
  refine AW.objI dJ0_init_2_1 q190 rfl rfl h (fun _ h => ?_)
  refine AW.aload_n dJ0_init_2_4 rfl ?_
  refine AW.aload_n dJ0_init_2_5 rfl ?_
  refine AW.putR (t := 1) (k := 0) dJ0_init_2_6 ck1 mu1 (Nat.le_of_ble_eq_true rfl) (Or.inl ⟨_, rfl⟩) q223 (Or.inl rfl) (Or.inl rfl) h (fun s1 h => ?_)
  refine AW.aload_n dJ0_init_2_9 rfl ?_
  refine AW.getsR 2 dJ0_init_2_10 rfl q191 ?_
  refine AW.putR (t := 1) (k := 1) dJ0_init_2_13 ck1 mu1 (Nat.le_of_ble_eq_true rfl) (Or.inr ⟨_, rfl⟩) q224 (Or.inl rfl) (Or.inl rfl) h (fun s2 h => ?_)
  refine AW.aload_n dJ0_init_2_16 rfl ?_
  refine AW.getsR 3 dJ0_init_2_17 rfl q193 ?_
  refine AW.putR (t := 1) (k := 2) dJ0_init_2_20 ck1 mu1 (Nat.le_of_ble_eq_true rfl) (Or.inl ⟨_, rfl⟩) q225 (Or.inl rfl) (Or.inl rfl) h (fun s3 h => ?_)
  refine AW.iload dJ0_init_2_23 rfl ?_
  refine jn_elim h (fun (j : (Hp → Option Nat → Option Nat → Int → Option (Unit × Hp))) => ∀ (s4 : Hp) (x1 : Option Nat) (x2 : Option Nat) (x3 : Int), j s4 x1 x2 x3 = some w → AW m_J0_init_2 σ0 (oU w) 41 [some (rV (some x0)), some (rV x1), some (rV x2), some (iV x3), none] [] s4) ?_ (fun j41 hj41 h => ?_)
  · intro s4 x1 x2 x3 h
    refine AW.aload_n dJ0_init_2_41 rfl ?_
    refine AW.aload_n dJ0_init_2_42 rfl ?_
    refine AW.putR (t := 1) (k := 3) dJ0_init_2_43 ck1 mu1 (Nat.le_of_ble_eq_true rfl) (Or.inl ⟨_, rfl⟩) q222 (Or.inl rfl) (Or.inl rfl) h (fun s5 h => ?_)
    refine AW.aload_n dJ0_init_2_46 rfl ?_
    refine AW.aload_n dJ0_init_2_47 rfl ?_
    refine AW.putR (t := 1) (k := 0) dJ0_init_2_48 ck1 mu1 (Nat.le_of_ble_eq_true rfl) (Or.inl ⟨_, rfl⟩) q223 (Or.inl rfl) (Or.inl rfl) h (fun s6 h => ?_)
    refine AW.iload_n dJ0_init_2_51 rfl ?_
    refine AW.if_ne 60 dJ0_init_2_52 (by decide) h (fun c8 h => ?_) (fun c8 h => ?_)
    · cases h
      exact AW.vret dJ0_init_2_60 rfl
    · refine AW.aload_n dJ0_init_2_55 rfl ?_
      refine AW.null dJ0_init_2_56 ?_
      refine AW.putR (t := 1) (k := 2) dJ0_init_2_57 ck1 mu1 (Nat.le_of_ble_eq_true rfl) (Or.inl ⟨_, rfl⟩) q225 (Or.inl rfl) (Or.inl rfl) h (fun s7 h => ?_)
      cases h
      exact AW.vret dJ0_init_2_60 rfl
  · refine AW.if_eq 36 dJ0_init_2_25 (by decide) h (fun c10 h => ?_) (fun c10 h => ?_)
    · refine AW.aload_n dJ0_init_2_36 rfl ?_
      refine AW.null dJ0_init_2_37 ?_
      refine AW.putR (t := 1) (k := 1) dJ0_init_2_38 ck1 mu1 (Nat.le_of_ble_eq_true rfl) (Or.inr ⟨_, rfl⟩) q224 (Or.inl rfl) (Or.inl rfl) h (fun s9 h => ?_)
      exact AW.fewer (L' := [some (rV (some x0)), some (rV x1), some (rV x2), some (iV x3), none]) (And.intro rfl (And.intro rfl (And.intro rfl (And.intro rfl trivial)))) (hj41 _ _ _ _ h)
    · cases h
theorem c_J0_init_2 {s0 : Hp} {x0 : Nat} {x1 : Option Nat} {x2 : Option Nat} {x3 : Int} {x4 : Int} {v : Unit} {s1 : Hp} (h : f_J0_init_2 s0 x0 x1 x2 x3 x4 = some (v, s1)) : Ct m_J0_init_2 [rV (some x0), rV x1, rV x2, iV x3, iV x4] s0 (.inl none, s1) :=
  Ct.of2 (w_J0_init_2 s0 x0 x1 x2 x3 x4 h) (show plainName yJ0_init_2.cls = true by decide) rfl rfl rfl
abbrev m_J1_init : Mi := (yJ1_init, cJ1_init, none, 5, 2, 44, [])
theorem n_J1_init : nameOk yJ1_init 4 := ⟨by decide, by decide, by decide +kernel⟩
def f_J1_init (s0 : Hp) (x0 : Nat) (x1 : Option Nat) (x2 : Option Nat) (x3 : Int) (x4 : Int) : Option (Unit × Hp) :=
  (rcv s0 1 (some x0)).bind fun b2 => bn (f_J0_init_2 s0 b2 x1 x2 x3 x4) fun _ s1 => some ((), s1)
theorem w_J1_init {σ0 : Hp} {w : Unit × Hp} (s0 : Hp) (x0 : Nat) (x1 : Option Nat) (x2 : Option Nat) (x3 : Int) (x4 : Int) (h : f_J1_init s0 x0 x1 x2 x3 x4 = some w) : AW m_J1_init σ0 (oU w) 0 [some (rV (some x0)), some (rV x1), some (rV x2), some (iV x3), some (iV x4)] [] s0 := by
  unfold f_J1_init at h
  refine AW.aload_n dJ1_init_0 rfl ?_
  refine AW.aload_n dJ1_init_1 rfl ?_
  refine AW.aload_n dJ1_init_2 rfl ?_
  refine AW.iload_n dJ1_init_3 rfl ?_
  refine AW.iload dJ1_init_4 rfl ?_
  refine AW.IU (M' := m_J0_init_2) (t := 1) [rV x1, rV x2, iV x3, iV x4] [] dJ1_init_6 q214 q215 q122 q216 rfl rfl n_J0_init_2 rfl rfl rfl (fun _ _ _ e => c_J0_init_2 e) h (fun _ s1 h => ?_)
  cases h
  exact AW.vret dJ1_init_9 rfl
theorem c_J1_init {s0 : Hp} {x0 : Nat} {x1 : Option Nat} {x2 : Option Nat} {x3 : Int} {x4 : Int} {v : Unit} {s1 : Hp} (h : f_J1_init s0 x0 x1 x2 x3 x4 = some (v, s1)) : Ct m_J1_init [rV (some x0), rV x1, rV x2, iV x3, iV x4] s0 (.inl none, s1) :=
  Ct.of2 (w_J1_init s0 x0 x1 x2 x3 x4 h) (show plainName yJ1_init.cls = true by decide) rfl rfl rfl
abbrev m_J2_init : Mi := (yJ2_init, cJ2_init, none, 5, 3, 68, [])
theorem n_J2_init : nameOk yJ2_init 4 := ⟨by decide, by decide, by decide +kernel⟩
def f_J2_init (s0 : Hp) (x0 : Nat) (x1 : Option Nat) (x2 : Option Nat) (x3 : Int) (x4 : Int) : Option (Unit × Hp) :=
  (rcv s0 1 (some x0)).bind fun b2 => bn (f_J1_init s0 b2 x1 x2 x3 x4) fun _ s1 => some ((), s1)
theorem w_J2_init {σ0 : Hp} {w : Unit × Hp} (s0 : Hp) (x0 : Nat) (x1 : Option Nat) (x2 : Option Nat) (x3 : Int) (x4 : Int) (h : f_J2_init s0 x0 x1 x2 x3 x4 = some w) : AW m_J2_init σ0 (oU w) 0 [some (rV (some x0)), some (rV x1), some (rV x2), some (iV x3), some (iV x4)] [] s0 := by
  unfold f_J2_init at h
  refine AW.aload_n dJ2_init_0 rfl ?_
  refine AW.aload_n dJ2_init_1 rfl ?_
  refine AW.aload_n dJ2_init_2 rfl ?_
  refine AW.iload_n dJ2_init_3 rfl ?_
  refine AW.iload dJ2_init_4 rfl ?_
  refine AW.IU (M' := m_J1_init) (t := 1) [rV x1, rV x2, iV x3, iV x4] [] dJ2_init_6 q211 q212 q123 q213 rfl rfl n_J1_init rfl rfl rfl (fun _ _ _ e => c_J1_init e) h (fun _ s1 h => ?_)
  cases h
  exact AW.vret dJ2_init_9 rfl
theorem c_J2_init {s0 : Hp} {x0 : Nat} {x1 : Option Nat} {x2 : Option Nat} {x3 : Int} {x4 : Int} {v : Unit} {s1 : Hp} (h : f_J2_init s0 x0 x1 x2 x3 x4 = some (v, s1)) : Ct m_J2_init [rV (some x0), rV x1, rV x2, iV x3, iV x4] s0 (.inl none, s1) :=
  Ct.of2 (w_J2_init s0 x0 x1 x2 x3 x4 h) (show plainName yJ2_init.cls = true by decide) rfl rfl rfl
abbrev m_X1_init : Mi := (yX1_init, cX1_init, none, 1, 4, 92, [])
theorem n_X1_init : nameOk yX1_init 0 := ⟨by decide, by decide, by decide +kernel⟩
def f_X1_init (s0 : Hp) (x0 : Nat) : Option (Unit × Hp) :=
  (rcv s0 1 (some x0)).bind fun b2 => bn (f_J2_init s0 b2 (some (s0.2.2.2 17)) none 0 0) fun _ s1 => some ((), s1)
theorem w_X1_init {σ0 : Hp} {w : Unit × Hp} (s0 : Hp) (x0 : Nat) (h : f_X1_init s0 x0 = some w) : AW m_X1_init σ0 (oU w) 0 [some (rV (some x0))] [] s0 := by
  unfold f_X1_init at h
  refine AW.aload_n dX1_init_0 rfl ?_
  refine AW.ldcS 17 dX1_init_1 rfl ?_
  refine AW.null dX1_init_3 ?_
  refine AW.iconst dX1_init_4 ?_
  refine AW.iconst dX1_init_5 ?_
  refine AW.IU (M' := m_J2_init) (t := 1) [rV (some (s0.2.2.2 17)), rV none, iV 0, iV 0] [] dX1_init_6 q208 q209 q124 q210 rfl rfl n_J2_init rfl rfl rfl (fun _ _ _ e => c_J2_init e) h (fun _ s1 h => ?_)
  cases h
  exact AW.vret dX1_init_9 rfl
theorem c_X1_init {s0 : Hp} {x0 : Nat} {v : Unit} {s1 : Hp} (h : f_X1_init s0 x0 = some (v, s1)) : Ct m_X1_init [rV (some x0)] s0 (.inl none, s1) :=
  Ct.of2 (w_X1_init s0 x0 h) (show plainName yX1_init.cls = true by decide) rfl rfl rfl
abbrev m_X7_init : Mi := (yX7_init, cX7_init, none, 1, 1, 20, [])
theorem n_X7_init : nameOk yX7_init 0 := ⟨by decide, by decide, by decide +kernel⟩
def f_X7_init (s0 : Hp) (x0 : Nat) : Option (Unit × Hp) :=
  (some x0).bind fun _ => some ((), s0)
theorem w_X7_init {σ0 : Hp} {w : Unit × Hp} (s0 : Hp) (x0 : Nat) (h : f_X7_init s0 x0 = some w) : AW m_X7_init σ0 (oU w) 0 [some (rV (some x0))] [] s0 := by
  unfold f_X7_init at h
  refine AW.aload_n dX7_init_0 rfl ?_
  refine AW.objI dX7_init_1 q469 rfl rfl h (fun _ h => ?_)
  cases h
  exact AW.vret dX7_init_4 rfl
theorem c_X7_init {s0 : Hp} {x0 : Nat} {v : Unit} {s1 : Hp} (h : f_X7_init s0 x0 = some (v, s1)) : Ct m_X7_init [rV (some x0)] s0 (.inl none, s1) :=
  Ct.of2 (w_X7_init s0 x0 h) (show plainName yX7_init.cls = true by decide) rfl rfl rfl
abbrev m_X3_init : Mi := (yX3_init, cX3_init, none, 3, 1, 20, [])
theorem n_X3_init : nameOk yX3_init 2 := ⟨by decide, by decide, by decide +kernel⟩
def f_X3_init (s0 : Hp) (x0 : Nat) (x1 : Option Nat) (x2 : Option Nat) : Option (Unit × Hp) :=
  (some x0).bind fun _ => (pR s0 3 (some x0) 0 x1).bind fun s1 => (pR s1 3 (some x0) 1 x2).bind fun s2 => some ((), s2)
theorem w_X3_init {σ0 : Hp} {w : Unit × Hp} (s0 : Hp) (x0 : Nat) (x1 : Option Nat) (x2 : Option Nat) (h : f_X3_init s0 x0 x1 x2 = some w) : AW m_X3_init σ0 (oU w) 0 [some (rV (some x0)), some (rV x1), some (rV x2)] [] s0 := by
  unfold f_X3_init at h
  refine AW.aload_n dX3_init_0 rfl ?_
  refine AW.objI dX3_init_1 q300 rfl rfl h (fun _ h => ?_)
  refine AW.aload_n dX3_init_4 rfl ?_
  refine AW.aload_n dX3_init_5 rfl ?_
  refine AW.putR (t := 3) (k := 0) dX3_init_6 ck3 mu3 (Nat.le_of_ble_eq_true rfl) (Or.inl ⟨_, rfl⟩) q301 (Or.inl rfl) (Or.inr ⟨rfl, rfl⟩) h (fun s1 h => ?_)
  refine AW.aload_n dX3_init_9 rfl ?_
  refine AW.aload_n dX3_init_10 rfl ?_
  refine AW.putR (t := 3) (k := 1) dX3_init_11 ck3 mu3 (Nat.le_of_ble_eq_true rfl) (Or.inl ⟨_, rfl⟩) q302 (Or.inl rfl) (Or.inr ⟨rfl, rfl⟩) h (fun s2 h => ?_)
  cases h
  exact AW.vret dX3_init_14 rfl
theorem c_X3_init {s0 : Hp} {x0 : Nat} {x1 : Option Nat} {x2 : Option Nat} {v : Unit} {s1 : Hp} (h : f_X3_init s0 x0 x1 x2 = some (v, s1)) : Ct m_X3_init [rV (some x0), rV x1, rV x2] s0 (.inl none, s1) :=
  Ct.of2 (w_X3_init s0 x0 x1 x2 h) (show plainName yX3_init.cls = true by decide) rfl rfl rfl
abbrev m_J3_init : Mi := (yJ3_init, cJ3_init, none, 1, 1, 20, [])
theorem n_J3_init : nameOk yJ3_init 0 := ⟨by decide, by decide, by decide +kernel⟩
def f_J3_init (s0 : Hp) (x0 : Nat) : Option (Unit × Hp) :=
  (some x0).bind fun _ => some ((), s0)
theorem w_J3_init {σ0 : Hp} {w : Unit × Hp} (s0 : Hp) (x0 : Nat) (h : f_J3_init s0 x0 = some w) : AW m_J3_init σ0 (oU w) 0 [some (rV (some x0))] [] s0 := by
  unfold f_J3_init at h
  refine AW.aload_n dJ3_init_0 rfl ?_
  refine AW.objI dJ3_init_1 q340 rfl rfl h (fun _ h => ?_)
  cases h
  exact AW.vret dJ3_init_4 rfl
theorem c_J3_init {s0 : Hp} {x0 : Nat} {v : Unit} {s1 : Hp} (h : f_J3_init s0 x0 = some (v, s1)) : Ct m_J3_init [rV (some x0)] s0 (.inl none, s1) :=
  Ct.of2 (w_J3_init s0 x0 h) (show plainName yJ3_init.cls = true by decide) rfl rfl rfl
abbrev m_J4_init : Mi := (yJ4_init, cJ4_init, none, 1, 2, 40, [])
theorem n_J4_init : nameOk yJ4_init 0 := ⟨by decide, by decide, by decide +kernel⟩
def f_J4_init (s0 : Hp) (x0 : Nat) : Option (Unit × Hp) :=
  (rcv s0 18 (some x0)).bind fun b2 => bn (f_J3_init s0 b2) fun _ s1 => (pI s1 18 (some x0) 0 0).bind fun s3 => some ((), s3)
theorem w_J4_init {σ0 : Hp} {w : Unit × Hp} (s0 : Hp) (x0 : Nat) (h : f_J4_init s0 x0 = some w) : AW m_J4_init σ0 (oU w) 0 [some (rV (some x0))] [] s0 := by
  unfold f_J4_init at h
  refine AW.aload_n dJ4_init_0 rfl ?_
  refine AW.IU (M' := m_J3_init) (t := 18) [] [] dJ4_init_1 q337 q338 q129 q339 rfl rfl n_J3_init rfl rfl rfl (fun _ _ _ e => c_J3_init e) h (fun _ s1 h => ?_)
  refine AW.aload_n dJ4_init_4 rfl ?_
  refine AW.iconst dJ4_init_5 ?_
  refine AW.putI (t := 18) (k := 0) dJ4_init_6 ck18 mu18 (Nat.le_of_ble_eq_true rfl) rfl q345 (Or.inl rfl) (Or.inl rfl) h (fun s3 h => ?_)
  cases h
  exact AW.vret dJ4_init_9 rfl
theorem c_J4_init {s0 : Hp} {x0 : Nat} {v : Unit} {s1 : Hp} (h : f_J4_init s0 x0 = some (v, s1)) : Ct m_J4_init [rV (some x0)] s0 (.inl none, s1) :=
  Ct.of2 (w_J4_init s0 x0 h) (show plainName yJ4_init.cls = true by decide) rfl rfl rfl
abbrev m_J5_init : Mi := (yJ5_init, cJ5_init, none, 1, 3, 60, [])
theorem n_J5_init : nameOk yJ5_init 0 := ⟨by decide, by decide, by decide +kernel⟩
def f_J5_init (s0 : Hp) (x0 : Nat) : Option (Unit × Hp) :=
  (rcv s0 18 (some x0)).bind fun b2 => bn (f_J4_init s0 b2) fun _ s1 => (pR s1 18 (some x0) 1 (cR s1.2.2.2 (0 + 1))).bind fun s3 => some ((), s3)
theorem w_J5_init {σ0 : Hp} {w : Unit × Hp} (s0 : Hp) (x0 : Nat) (h : f_J5_init s0 x0 = some w) : AW m_J5_init σ0 (oU w) 0 [some (rV (some x0))] [] s0 := by
  unfold f_J5_init at h
  refine AW.aload_n dJ5_init_0 rfl ?_
  refine AW.IU (M' := m_J4_init) (t := 18) [] [] dJ5_init_1 q334 q335 q130 q336 rfl rfl n_J4_init rfl rfl rfl (fun _ _ _ e => c_J4_init e) h (fun _ s1 h => ?_)
  refine AW.aload_n dJ5_init_4 rfl ?_
  refine AW.getsR 0 dJ5_init_5 rfl q341 ?_
  refine AW.putR (t := 18) (k := 1) dJ5_init_8 ck18 mu18 (Nat.le_of_ble_eq_true rfl) (Or.inr ⟨_, rfl⟩) q343 (Or.inl rfl) (Or.inl rfl) h (fun s3 h => ?_)
  cases h
  exact AW.vret dJ5_init_11 rfl
theorem c_J5_init {s0 : Hp} {x0 : Nat} {v : Unit} {s1 : Hp} (h : f_J5_init s0 x0 = some (v, s1)) : Ct m_J5_init [rV (some x0)] s0 (.inl none, s1) :=
  Ct.of2 (w_J5_init s0 x0 h) (show plainName yJ5_init.cls = true by decide) rfl rfl rfl
abbrev m_X4_init : Mi := (yX4_init, cX4_init, none, 1, 4, 80, [])
theorem n_X4_init : nameOk yX4_init 0 := ⟨by decide, by decide, by decide +kernel⟩
def f_X4_init (s0 : Hp) (x0 : Nat) : Option (Unit × Hp) :=
  (some x0).bind fun _ => nw s0 18 3 fun v1 s2 => (rcv s2 18 v1).bind fun b4 => bn (f_J5_init s2 b4) fun _ s3 => (pR s3 4 (some x0) 0 v1).bind fun s5 => nw s5 18 3 fun v6 s7 => (rcv s7 18 v6).bind fun b9 => bn (f_J5_init s7 b9) fun _ s8 => (pR s8 4 (some x0) 1 v6).bind fun s10 => nw s10 18 3 fun v11 s12 => (rcv s12 18 v11).bind fun b14 => bn (f_J5_init s12 b14) fun _ s13 => (pR s13 4 (some x0) 2 v11).bind fun s15 => some ((), s15)
theorem w_X4_init {σ0 : Hp} {w : Unit × Hp} (s0 : Hp) (x0 : Nat) (h : f_X4_init s0 x0 = some w) : AW m_X4_init σ0 (oU w) 0 [some (rV (some x0))] [] s0 := by
  unfold f_X4_init at h
  refine AW.aload_n dX4_init_0 rfl ?_
  refine AW.objI dX4_init_1 q328 rfl rfl h (fun _ h => ?_)
  refine AW.aload_n dX4_init_4 rfl ?_
  refine AW.new (t := 18) (n := 3) dX4_init_5 ck18 mu18 nf18 q329 q330 q131 h (fun v1 s2 h => ?_)
  refine AW.dupR dX4_init_8 ?_
  refine AW.IU (M' := m_J5_init) (t := 18) [] [rV v1, rV (some x0)] dX4_init_9 q331 q332 q131 q333 rfl rfl n_J5_init rfl rfl rfl (fun _ _ _ e => c_J5_init e) h (fun _ s3 h => ?_)
  refine AW.putR (t := 4) (k := 0) dX4_init_12 ck4 mu4 (Nat.le_of_ble_eq_true rfl) (Or.inl ⟨_, rfl⟩) q355 (Or.inl rfl) (Or.inr ⟨rfl, rfl⟩) h (fun s5 h => ?_)
  refine AW.aload_n dX4_init_15 rfl ?_
  refine AW.new (t := 18) (n := 3) dX4_init_16 ck18 mu18 nf18 q329 q330 q131 h (fun v6 s7 h => ?_)
  refine AW.dupR dX4_init_19 ?_
  refine AW.IU (M' := m_J5_init) (t := 18) [] [rV v6, rV (some x0)] dX4_init_20 q331 q332 q131 q333 rfl rfl n_J5_init rfl rfl rfl (fun _ _ _ e => c_J5_init e) h (fun _ s8 h => ?_)
  refine AW.putR (t := 4) (k := 1) dX4_init_23 ck4 mu4 (Nat.le_of_ble_eq_true rfl) (Or.inl ⟨_, rfl⟩) q359 (Or.inl rfl) (Or.inr ⟨rfl, rfl⟩) h (fun s10 h => ?_)
  refine AW.aload_n dX4_init_26 rfl ?_
  refine AW.new (t := 18) (n := 3) dX4_init_27 ck18 mu18 nf18 q329 q330 q131 h (fun v11 s12 h => ?_)
  refine AW.dupR dX4_init_30 ?_
  refine AW.IU (M' := m_J5_init) (t := 18) [] [rV v11, rV (some x0)] dX4_init_31 q331 q332 q131 q333 rfl rfl n_J5_init rfl rfl rfl (fun _ _ _ e => c_J5_init e) h (fun _ s13 h => ?_)
  refine AW.putR (t := 4) (k := 2) dX4_init_34 ck4 mu4 (Nat.le_of_ble_eq_true rfl) (Or.inl ⟨_, rfl⟩) q363 (Or.inl rfl) (Or.inr ⟨rfl, rfl⟩) h (fun s15 h => ?_)
  cases h
  exact AW.vret dX4_init_37 rfl
theorem c_X4_init {s0 : Hp} {x0 : Nat} {v : Unit} {s1 : Hp} (h : f_X4_init s0 x0 = some (v, s1)) : Ct m_X4_init [rV (some x0)] s0 (.inl none, s1) :=
  Ct.of2 (w_X4_init s0 x0 h) (show plainName yX4_init.cls = true by decide) rfl rfl rfl
abbrev m_X2_init : Mi := (yX2_init, cX2_init, none, 1, 1, 20, [])
theorem n_X2_init : nameOk yX2_init 0 := ⟨by decide, by decide, by decide +kernel⟩
def f_X2_init (s0 : Hp) (x0 : Nat) : Option (Unit × Hp) :=
  (some x0).bind fun _ => nwA s0 108 17 fun v1 s2 => (sE s2 108 v1 0 (some (s2.2.2.2 0))).bind fun s3 => (sE s3 108 v1 1 (some (s3.2.2.2 1))).bind fun s4 => (sE s4 108 v1 2 (some (s4.2.2.2 2))).bind fun s5 => (sE s5 108 v1 3 (some (s5.2.2.2 3))).bind fun s6 => (sE s6 108 v1 4 (some (s6.2.2.2 4))).bind fun s7 => (sE s7 108 v1 5 (some (s7.2.2.2 5))).bind fun s8 => (sE s8 108 v1 6 (some (s8.2.2.2 6))).bind fun s9 => (sE s9 108 v1 7 (some (s9.2.2.2 7))).bind fun s10 => (sE s10 108 v1 8 (some (s10.2.2.2 8))).bind fun s11 => (sE s11 108 v1 9 (some (s11.2.2.2 9))).bind fun s12 => (sE s12 108 v1 10 (some (s12.2.2.2 10))).bind fun s13 => (sE s13 108 v1 11 (some (s13.2.2.2 11))).bind fun s14 => (sE s14 108 v1 12 (some (s14.2.2.2 12))).bind fun s15 => (sE s15 108 v1 13 (some (s15.2.2.2 13))).bind fun s16 => (sE s16 108 v1 14 (some (s16.2.2.2 14))).bind fun s17 => (sE s17 108 v1 15 (some (s17.2.2.2 15))).bind fun s18 => (sE s18 108 v1 16 (some (s18.2.2.2 16))).bind fun s19 => (pR s19 2 (some x0) 0 v1).bind fun s20 => nwA s20 101 2000 fun v21 s22 => (pR s22 2 (some x0) 1 v21).bind fun s23 => nwA s23 101 2001 fun v24 s25 => (pR s25 2 (some x0) 3 v24).bind fun s26 => nwA s26 103 2001 fun v27 s28 => (pR s28 2 (some x0) 4 v27).bind fun s29 => nwA s29 103 2001 fun v30 s31 => (pR s31 2 (some x0) 5 v30).bind fun s32 => nwA s32 103 2001 fun v33 s34 => (pR s34 2 (some x0) 6 v33).bind fun s35 => some ((), s35)
theorem w_X2_init {σ0 : Hp} {w : Unit × Hp} (s0 : Hp) (x0 : Nat) (h : f_X2_init s0 x0 = some w) : AW m_X2_init σ0 (oU w) 0 [some (rV (some x0))] [] s0 := by
  unfold f_X2_init at h
  refine AW.aload_n dX2_init_0 rfl ?_
  refine AW.objI dX2_init_1 q244 rfl rfl h (fun _ h => ?_)
  refine AW.aload_n dX2_init_4 rfl ?_
  refine AW.bipush dX2_init_5 (by decide) ?_
  refine AW.anewa (t := 108) dX2_init_7 (Nat.le_of_ble_eq_true rfl) mu108 rfl q245 (by decide) h (fun v1 s2 h => ?_)
  refine AW.dupR dX2_init_10 ?_
  refine AW.iconst dX2_init_11 ?_
  refine AW.ldcS 0 dX2_init_12 rfl ?_
  refine AW.aast (t := 108) dX2_init_14 (by decide) (Nat.le_of_ble_eq_true rfl) mu108 rfl h (fun s3 h => ?_)
  refine AW.dupR dX2_init_15 ?_
  refine AW.iconst dX2_init_16 ?_
  refine AW.ldcS 1 dX2_init_17 rfl ?_
  refine AW.aast (t := 108) dX2_init_19 (by decide) (Nat.le_of_ble_eq_true rfl) mu108 rfl h (fun s4 h => ?_)
  refine AW.dupR dX2_init_20 ?_
  refine AW.iconst dX2_init_21 ?_
  refine AW.ldcS 2 dX2_init_22 rfl ?_
  refine AW.aast (t := 108) dX2_init_24 (by decide) (Nat.le_of_ble_eq_true rfl) mu108 rfl h (fun s5 h => ?_)
  refine AW.dupR dX2_init_25 ?_
  refine AW.iconst dX2_init_26 ?_
  refine AW.ldcS 3 dX2_init_27 rfl ?_
  refine AW.aast (t := 108) dX2_init_29 (by decide) (Nat.le_of_ble_eq_true rfl) mu108 rfl h (fun s6 h => ?_)
  refine AW.dupR dX2_init_30 ?_
  refine AW.iconst dX2_init_31 ?_
  refine AW.ldcS 4 dX2_init_32 rfl ?_
  refine AW.aast (t := 108) dX2_init_34 (by decide) (Nat.le_of_ble_eq_true rfl) mu108 rfl h (fun s7 h => ?_)
  refine AW.dupR dX2_init_35 ?_
  refine AW.iconst dX2_init_36 ?_
  refine AW.ldcS 5 dX2_init_37 rfl ?_
  refine AW.aast (t := 108) dX2_init_39 (by decide) (Nat.le_of_ble_eq_true rfl) mu108 rfl h (fun s8 h => ?_)
  refine AW.dupR dX2_init_40 ?_
  refine AW.bipush dX2_init_41 (by decide) ?_
  refine AW.ldcS 6 dX2_init_43 rfl ?_
  refine AW.aast (t := 108) dX2_init_45 (by decide) (Nat.le_of_ble_eq_true rfl) mu108 rfl h (fun s9 h => ?_)
  refine AW.dupR dX2_init_46 ?_
  refine AW.bipush dX2_init_47 (by decide) ?_
  refine AW.ldcS 7 dX2_init_49 rfl ?_
  refine AW.aast (t := 108) dX2_init_51 (by decide) (Nat.le_of_ble_eq_true rfl) mu108 rfl h (fun s10 h => ?_)
  refine AW.dupR dX2_init_52 ?_
  refine AW.bipush dX2_init_53 (by decide) ?_
  refine AW.ldcS 8 dX2_init_55 rfl ?_
  refine AW.aast (t := 108) dX2_init_57 (by decide) (Nat.le_of_ble_eq_true rfl) mu108 rfl h (fun s11 h => ?_)
  refine AW.dupR dX2_init_58 ?_
  refine AW.bipush dX2_init_59 (by decide) ?_
  refine AW.ldcS 9 dX2_init_61 rfl ?_
  refine AW.aast (t := 108) dX2_init_63 (by decide) (Nat.le_of_ble_eq_true rfl) mu108 rfl h (fun s12 h => ?_)
  refine AW.dupR dX2_init_64 ?_
  refine AW.bipush dX2_init_65 (by decide) ?_
  refine AW.ldcS 10 dX2_init_67 rfl ?_
  refine AW.aast (t := 108) dX2_init_69 (by decide) (Nat.le_of_ble_eq_true rfl) mu108 rfl h (fun s13 h => ?_)
  refine AW.dupR dX2_init_70 ?_
  refine AW.bipush dX2_init_71 (by decide) ?_
  refine AW.ldcS 11 dX2_init_73 rfl ?_
  refine AW.aast (t := 108) dX2_init_75 (by decide) (Nat.le_of_ble_eq_true rfl) mu108 rfl h (fun s14 h => ?_)
  refine AW.dupR dX2_init_76 ?_
  refine AW.bipush dX2_init_77 (by decide) ?_
  refine AW.ldcS 12 dX2_init_79 rfl ?_
  refine AW.aast (t := 108) dX2_init_81 (by decide) (Nat.le_of_ble_eq_true rfl) mu108 rfl h (fun s15 h => ?_)
  refine AW.dupR dX2_init_82 ?_
  refine AW.bipush dX2_init_83 (by decide) ?_
  refine AW.ldcS 13 dX2_init_85 rfl ?_
  refine AW.aast (t := 108) dX2_init_87 (by decide) (Nat.le_of_ble_eq_true rfl) mu108 rfl h (fun s16 h => ?_)
  refine AW.dupR dX2_init_88 ?_
  refine AW.bipush dX2_init_89 (by decide) ?_
  refine AW.ldcS 14 dX2_init_91 rfl ?_
  refine AW.aast (t := 108) dX2_init_93 (by decide) (Nat.le_of_ble_eq_true rfl) mu108 rfl h (fun s17 h => ?_)
  refine AW.dupR dX2_init_94 ?_
  refine AW.bipush dX2_init_95 (by decide) ?_
  refine AW.ldcS 15 dX2_init_97 rfl ?_
  refine AW.aast (t := 108) dX2_init_99 (by decide) (Nat.le_of_ble_eq_true rfl) mu108 rfl h (fun s18 h => ?_)
  refine AW.dupR dX2_init_100 ?_
  refine AW.bipush dX2_init_101 (by decide) ?_
  refine AW.ldcS 16 dX2_init_103 rfl ?_
  refine AW.aast (t := 108) dX2_init_105 (by decide) (Nat.le_of_ble_eq_true rfl) mu108 rfl h (fun s19 h => ?_)
  refine AW.putR (t := 2) (k := 0) dX2_init_106 ck2 mu2 (Nat.le_of_ble_eq_true rfl) (Or.inr ⟨_, rfl⟩) q264 (Or.inl rfl) (Or.inr ⟨rfl, rfl⟩) h (fun s20 h => ?_)
  refine AW.aload_n dX2_init_109 rfl ?_
  refine AW.sipush dX2_init_110 (by decide) ?_
  refine AW.newa (t := 101) (atype := .byte) dX2_init_113 (Nat.le_of_ble_eq_true rfl) mu101 rfl (by decide) (fun _ h => by cases h) ⟨(fun h => by cases h), (fun h => by cases h)⟩ (by decide) q238 h (fun v21 s22 h => ?_)
  refine AW.putR (t := 2) (k := 1) dX2_init_115 ck2 mu2 (Nat.le_of_ble_eq_true rfl) (Or.inr ⟨_, rfl⟩) q265 (Or.inl rfl) (Or.inr ⟨rfl, rfl⟩) h (fun s23 h => ?_)
  refine AW.aload_n dX2_init_118 rfl ?_
  refine AW.sipush dX2_init_119 (by decide) ?_
  refine AW.newa (t := 101) (atype := .byte) dX2_init_122 (Nat.le_of_ble_eq_true rfl) mu101 rfl (by decide) (fun _ h => by cases h) ⟨(fun h => by cases h), (fun h => by cases h)⟩ (by decide) q238 h (fun v24 s25 h => ?_)
  refine AW.putR (t := 2) (k := 3) dX2_init_124 ck2 mu2 (Nat.le_of_ble_eq_true rfl) (Or.inr ⟨_, rfl⟩) q269 (Or.inl rfl) (Or.inr ⟨rfl, rfl⟩) h (fun s26 h => ?_)
  refine AW.aload_n dX2_init_127 rfl ?_
  refine AW.sipush dX2_init_128 (by decide) ?_
  refine AW.newa (t := 103) (atype := .short) dX2_init_131 (Nat.le_of_ble_eq_true rfl) mu103 rfl (by decide) (fun _ h => by cases h) ⟨(fun h => by cases h), (fun h => by cases h)⟩ (by decide) q294 h (fun v27 s28 h => ?_)
  refine AW.putR (t := 2) (k := 4) dX2_init_133 ck2 mu2 (Nat.le_of_ble_eq_true rfl) (Or.inr ⟨_, rfl⟩) q271 (Or.inl rfl) (Or.inr ⟨rfl, rfl⟩) h (fun s29 h => ?_)
  refine AW.aload_n dX2_init_136 rfl ?_
  refine AW.sipush dX2_init_137 (by decide) ?_
  refine AW.newa (t := 103) (atype := .short) dX2_init_140 (Nat.le_of_ble_eq_true rfl) mu103 rfl (by decide) (fun _ h => by cases h) ⟨(fun h => by cases h), (fun h => by cases h)⟩ (by decide) q294 h (fun v30 s31 h => ?_)
  refine AW.putR (t := 2) (k := 5) dX2_init_142 ck2 mu2 (Nat.le_of_ble_eq_true rfl) (Or.inr ⟨_, rfl⟩) q273 (Or.inl rfl) (Or.inr ⟨rfl, rfl⟩) h (fun s32 h => ?_)
  refine AW.aload_n dX2_init_145 rfl ?_
  refine AW.sipush dX2_init_146 (by decide) ?_
  refine AW.newa (t := 103) (atype := .short) dX2_init_149 (Nat.le_of_ble_eq_true rfl) mu103 rfl (by decide) (fun _ h => by cases h) ⟨(fun h => by cases h), (fun h => by cases h)⟩ (by decide) q294 h (fun v33 s34 h => ?_)
  refine AW.putR (t := 2) (k := 6) dX2_init_151 ck2 mu2 (Nat.le_of_ble_eq_true rfl) (Or.inr ⟨_, rfl⟩) q274 (Or.inl rfl) (Or.inr ⟨rfl, rfl⟩) h (fun s35 h => ?_)
  cases h
  exact AW.vret dX2_init_154 rfl
theorem c_X2_init {s0 : Hp} {x0 : Nat} {v : Unit} {s1 : Hp} (h : f_X2_init s0 x0 = some (v, s1)) : Ct m_X2_init [rV (some x0)] s0 (.inl none, s1) :=
  Ct.of2 (w_X2_init s0 x0 h) (show plainName yX2_init.cls = true by decide) rfl rfl rfl
abbrev m_X0_init : Mi := (yX0_init, cX0_init, none, 2, 417, 24814, [])
theorem n_X0_init : nameOk yX0_init 0 := ⟨by decide, by decide, by decide +kernel⟩
def f_X0_init_L225 (x0 : Nat) : Nat → Hp → Int → (Hp → Option (Unit × Hp)) → Option (Unit × Hp)
  | 0, _, _, _ => none
  | n + 1, s0, x1, k => (if nrm 20 ≤ nrm x1 then (k s0) else ((gR s0 0 (some x0) 9).bind fun v87 => nw s0 5 11 fun v88 s89 => (rcv s89 5 v88).bind fun b91 => bn (f_X5_init s89 b91) fun _ s90 => (sE s90 110 v87 x1 v88).bind fun s92 => f_X0_init_L225 x0 n s92 (x1 + 1) k))
theorem w_X0_init_L225 {σ0 : Hp} {w : Unit × Hp} {x0 : Nat} : ∀ (n : Nat) (s0 : Hp) (x1 : Int) (k : (Hp → Option (Unit × Hp))), f_X0_init_L225 x0 n s0 x1 k = some w → (∀ (s1 : Hp), k s1 = some w → AW m_X0_init σ0 (oU w) 250 [some (rV (some x0)), none] [] s1) → AW m_X0_init σ0 (oU w) 225 [some (rV (some x0)), some (iV x1)] [] s0 := by
  intro n
  induction n with
  | zero =>
    intro s0 x1 k h hk
    rw [f_X0_init_L225] at h
    cases h
  | succ n ih =>
    intro s0 x1 k h hk
    rw [f_X0_init_L225] at h
    refine AW.iload_n dX0_init_225 rfl ?_
    refine AW.bipush dX0_init_226 (by decide) ?_
    refine AW.icmp_ge 250 dX0_init_228 (by decide) h (fun c93 h => ?_) (fun c93 h => ?_)
    · exact AW.fewer (L' := [some (rV (some x0)), none]) (And.intro rfl trivial) (hk _ h)
    · refine AW.aload_n dX0_init_231 rfl ?_
      refine AW.getR (t := 0) (k := 9) dX0_init_232 ck0 (Nat.le_of_ble_eq_true rfl) (fun _ => rfl) q555 (Or.inl rfl) h (fun v87 h => ?_)
      refine AW.iload_n dX0_init_235 rfl ?_
      refine AW.new (t := 5) (n := 11) dX0_init_236 ck5 mu5 nf5 q391 q392 q132 h (fun v88 s89 h => ?_)
      refine AW.dupR dX0_init_239 ?_
      refine AW.NU (M' := m_X5_init) (t := 5) [] [rV v88, iV x1, rV v87] dX0_init_240 (by decide) q394 q132 q395 rfl rfl n_X5_init rfl rfl rfl (fun _ _ _ e => c_X5_init e) h (fun _ s90 h => ?_)
      refine AW.aast (t := 110) dX0_init_243 (by decide) (Nat.le_of_ble_eq_true rfl) mu110 rfl h (fun s92 h => ?_)
      refine AW.iinc (L' := [some (rV (some x0)), some (iV (x1 + 1))]) dX0_init_244 rfl (Nat.le_of_ble_eq_true rfl) rfl rfl ?_
      refine AW.goto (tgt := 225) dX0_init_247 (by decide) ?_
      exact ih _ _ _ h hk
def f_X0_init (s0 : Hp) (x0 : Nat) : Option (Unit × Hp) :=
  (some x0).bind fun _ => nw s0 1 8 fun v1 s2 => (rcv s2 1 v1).bind fun b4 => bn (f_X1_init s2 b4) fun _ s3 => (pR s3 0 (some x0) 0 v1).bind fun s5 => nw s5 2 8 fun v6 s7 => (rcv s7 2 v6).bind fun b9 => bn (f_X2_init s7 b9) fun _ s8 => (pR s8 0 (some x0) 1 v6).bind fun s10 => nw s10 3 7 fun v11 s12 => (gR s12 0 (some x0) 1).bind fun v13 => (gR s12 0 (some x0) 0).bind fun v14 => (rcv s12 3 v11).bind fun b16 => bn (f_X3_init s12 b16 v13 v14) fun _ s15 => (pR s15 0 (some x0) 2 v11).bind fun s17 => nw s17 4 7 fun v18 s19 => (rcv s19 4 v18).bind fun b21 => bn (f_X4_init s19 b21) fun _ s20 => (pR s20 0 (some x0) 3 v18).bind fun s22 => (pI s22 0 (some x0) 4 (-1)).bind fun s23 => nw s23 5 11 fun v24 s25 => (rcv s25 5 v24).bind fun b27 => bn (f_X5_init s25 b27) fun _ s26 => (pR s26 0 (some x0) 7 v24).bind fun s28 => nw s28 5 11 fun v29 s30 => (rcv s30 5 v29).bind fun b32 => bn (f_X5_init s30 b32) fun _ s31 => (pR s31 0 (some x0) 8 v29).bind fun s33 => nwA s33 110 20 fun v34 s35 => (pR s35 0 (some x0) 9 v34).bind fun s36 => nwA s36 110 3 fun v37 s38 => nw s38 5 11 fun v39 s40 => (rcv s40 5 v39).bind fun b42 => bn (f_X5_init s40 b42) fun _ s41 => (sE s41 110 v37 0 v39).bind fun s43 => nw s43 5 11 fun v44 s45 => (rcv s45 5 v44).bind fun b47 => bn (f_X5_init s45 b47) fun _ s46 => (sE s46 110 v37 1 v44).bind fun s48 => nw s48 5 11 fun v49 s50 => (rcv s50 5 v49).bind fun b52 => bn (f_X5_init s50 b52) fun _ s51 => (sE s51 110 v37 2 v49).bind fun s53 => (pR s53 0 (some x0) 10 v37).bind fun s54 => nwA s54 102 3 fun v55 s56 => (pR s56 0 (some x0) 11 v55).bind fun s57 => nw s57 7 2 fun v58 s59 => (rcv s59 7 v58).bind fun b61 => bn (f_X7_init s59 b61) fun _ s60 => (pR s60 0 (some x0) 12 v58).bind fun s62 => nwA s62 100 300 fun v63 s64 => (pR s64 0 (some x0) 13 v63).bind fun s65 => nwM s65 106 102 8 300 fun v66 s67 => (pR s67 0 (some x0) 14 v66).bind fun s68 => nwM s68 106 102 8 300 fun v69 s70 => (pR s70 0 (some x0) 15 v69).bind fun s71 => nwA s71 100 8 fun v72 s73 => (pR s73 0 (some x0) 17 v72).bind fun s74 => nwA s74 100 20 fun v75 s76 => (pR s76 0 (some x0) 19 v75).bind fun s77 => nwA s77 100 20 fun v78 s79 => (pR s79 0 (some x0) 20 v78).bind fun s80 => nwA s80 100 20 fun v81 s82 => (pR s82 0 (some x0) 21 v81).bind fun s83 => nwA s83 102 20 fun v84 s85 => (pR s85 0 (some x0) 22 v84).bind fun s86 => f_X0_init_L225 x0 FU s86 0 (fun s94 => (gR s94 0 (some x0) 7).bind fun v95 => (gR s94 0 (some x0) 3).bind fun v96 => (rcv s94 5 v95).bind fun b98 => bn (f_X5_begins s94 b98 v96) fun _ s97 => some ((), s97))
theorem w_X0_init {σ0 : Hp} {w : Unit × Hp} (s0 : Hp) (x0 : Nat) (h : f_X0_init s0 x0 = some w) : AW m_X0_init σ0 (oU w) 0 [some (rV (some x0)), none] [] s0 := by
  unfold f_X0_init at h
  refine AW.aload_n dX0_init_0 rfl ?_
  refine AW.objI dX0_init_1 q162 rfl rfl h (fun _ h => ?_)
  refine AW.aload_n dX0_init_4 rfl ?_
  refine AW.new (t := 1) (n := 8) dX0_init_5 ck1 mu1 nf1 q165 q166 q125 h (fun v1 s2 h => ?_)
  refine AW.dupR dX0_init_8 ?_
  refine AW.IU (M' := m_X1_init) (t := 1) [] [rV v1, rV (some x0)] dX0_init_9 q204 q205 q125 q206 rfl rfl n_X1_init rfl rfl rfl (fun _ _ _ e => c_X1_init e) h (fun _ s3 h => ?_)
  refine AW.putR (t := 0) (k := 0) dX0_init_12 ck0 mu0 (Nat.le_of_ble_eq_true rfl) (Or.inl ⟨_, rfl⟩) q546 (Or.inl rfl) (Or.inr ⟨rfl, rfl⟩) h (fun s5 h => ?_)
  refine AW.aload_n dX0_init_15 rfl ?_
  refine AW.new (t := 2) (n := 8) dX0_init_16 ck2 mu2 nf2 q239 q240 q126 h (fun v6 s7 h => ?_)
  refine AW.dupR dX0_init_19 ?_
  refine AW.NU (M' := m_X2_init) (t := 2) [] [rV v6, rV (some x0)] dX0_init_20 (by decide) q242 q126 q243 rfl rfl n_X2_init rfl rfl rfl (fun _ _ _ e => c_X2_init e) h (fun _ s8 h => ?_)
  refine AW.putR (t := 0) (k := 1) dX0_init_23 ck0 mu0 (Nat.le_of_ble_eq_true rfl) (Or.inl ⟨_, rfl⟩) q547 (Or.inl rfl) (Or.inr ⟨rfl, rfl⟩) h (fun s10 h => ?_)
  refine AW.aload_n dX0_init_26 rfl ?_
  refine AW.new (t := 3) (n := 7) dX0_init_27 ck3 mu3 nf3 q295 q296 q127 h (fun v11 s12 h => ?_)
  refine AW.dupR dX0_init_30 ?_
  refine AW.aload_n dX0_init_31 rfl ?_
  refine AW.getR (t := 0) (k := 1) dX0_init_32 ck0 (Nat.le_of_ble_eq_true rfl) (fun _ => rfl) q547 (Or.inl rfl) h (fun v13 h => ?_)
  refine AW.aload_n dX0_init_35 rfl ?_
  refine AW.getR (t := 0) (k := 0) dX0_init_36 ck0 (Nat.le_of_ble_eq_true rfl) (fun _ => rfl) q546 (Or.inl rfl) h (fun v14 h => ?_)
  refine AW.IU (M' := m_X3_init) (t := 3) [rV v13, rV v14] [rV v11, rV (some x0)] dX0_init_39 q297 q298 q127 q299 rfl rfl n_X3_init rfl rfl rfl (fun _ _ _ e => c_X3_init e) h (fun _ s15 h => ?_)
  refine AW.putR (t := 0) (k := 2) dX0_init_42 ck0 mu0 (Nat.le_of_ble_eq_true rfl) (Or.inl ⟨_, rfl⟩) q548 (Or.inl rfl) (Or.inr ⟨rfl, rfl⟩) h (fun s17 h => ?_)
  refine AW.aload_n dX0_init_45 rfl ?_
  refine AW.new (t := 4) (n := 7) dX0_init_46 ck4 mu4 nf4 q323 q324 q128 h (fun v18 s19 h => ?_)
  refine AW.dupR dX0_init_49 ?_
  refine AW.NU (M' := m_X4_init) (t := 4) [] [rV v18, rV (some x0)] dX0_init_50 (by decide) q326 q128 q327 rfl rfl n_X4_init rfl rfl rfl (fun _ _ _ e => c_X4_init e) h (fun _ s20 h => ?_)
  refine AW.putR (t := 0) (k := 3) dX0_init_53 ck0 mu0 (Nat.le_of_ble_eq_true rfl) (Or.inl ⟨_, rfl⟩) q549 (Or.inl rfl) (Or.inl rfl) h (fun s22 h => ?_)
  refine AW.aload_n dX0_init_56 rfl ?_
  refine AW.iconst dX0_init_57 ?_
  refine AW.putI (t := 0) (k := 4) dX0_init_58 ck0 mu0 (Nat.le_of_ble_eq_true rfl) rfl q550 (Or.inl rfl) (Or.inl rfl) h (fun s23 h => ?_)
  refine AW.aload_n dX0_init_61 rfl ?_
  refine AW.new (t := 5) (n := 11) dX0_init_62 ck5 mu5 nf5 q391 q392 q132 h (fun v24 s25 h => ?_)
  refine AW.dupR dX0_init_65 ?_
  refine AW.NU (M' := m_X5_init) (t := 5) [] [rV v24, rV (some x0)] dX0_init_66 (by decide) q394 q132 q395 rfl rfl n_X5_init rfl rfl rfl (fun _ _ _ e => c_X5_init e) h (fun _ s26 h => ?_)
  refine AW.putR (t := 0) (k := 7) dX0_init_69 ck0 mu0 (Nat.le_of_ble_eq_true rfl) (Or.inl ⟨_, rfl⟩) q553 (Or.inl rfl) (Or.inr ⟨rfl, rfl⟩) h (fun s28 h => ?_)
  refine AW.aload_n dX0_init_72 rfl ?_
  refine AW.new (t := 5) (n := 11) dX0_init_73 ck5 mu5 nf5 q391 q392 q132 h (fun v29 s30 h => ?_)
  refine AW.dupR dX0_init_76 ?_
  refine AW.NU (M' := m_X5_init) (t := 5) [] [rV v29, rV (some x0)] dX0_init_77 (by decide) q394 q132 q395 rfl rfl n_X5_init rfl rfl rfl (fun _ _ _ e => c_X5_init e) h (fun _ s31 h => ?_)
  refine AW.putR (t := 0) (k := 8) dX0_init_80 ck0 mu0 (Nat.le_of_ble_eq_true rfl) (Or.inl ⟨_, rfl⟩) q554 (Or.inl rfl) (Or.inr ⟨rfl, rfl⟩) h (fun s33 h => ?_)
  refine AW.aload_n dX0_init_83 rfl ?_
  refine AW.bipush dX0_init_84 (by decide) ?_
  refine AW.anewa (t := 110) dX0_init_86 (Nat.le_of_ble_eq_true rfl) mu110 rfl q391 (by decide) h (fun v34 s35 h => ?_)
  refine AW.putR (t := 0) (k := 9) dX0_init_89 ck0 mu0 (Nat.le_of_ble_eq_true rfl) (Or.inr ⟨_, rfl⟩) q555 (Or.inl rfl) (Or.inr ⟨rfl, rfl⟩) h (fun s36 h => ?_)
  refine AW.aload_n dX0_init_92 rfl ?_
  refine AW.iconst dX0_init_93 ?_
  refine AW.anewa (t := 110) dX0_init_94 (Nat.le_of_ble_eq_true rfl) mu110 rfl q391 (by decide) h (fun v37 s38 h => ?_)
  refine AW.dupR dX0_init_97 ?_
  refine AW.iconst dX0_init_98 ?_
  refine AW.new (t := 5) (n := 11) dX0_init_99 ck5 mu5 nf5 q391 q392 q132 h (fun v39 s40 h => ?_)
  refine AW.dupR dX0_init_102 ?_
  refine AW.NU (M' := m_X5_init) (t := 5) [] [rV v39, iV 0, rV v37, rV v37, rV (some x0)] dX0_init_103 (by decide) q394 q132 q395 rfl rfl n_X5_init rfl rfl rfl (fun _ _ _ e => c_X5_init e) h (fun _ s41 h => ?_)
  refine AW.aast (t := 110) dX0_init_106 (by decide) (Nat.le_of_ble_eq_true rfl) mu110 rfl h (fun s43 h => ?_)
  refine AW.dupR dX0_init_107 ?_
  refine AW.iconst dX0_init_108 ?_
  refine AW.new (t := 5) (n := 11) dX0_init_109 ck5 mu5 nf5 q391 q392 q132 h (fun v44 s45 h => ?_)
  refine AW.dupR dX0_init_112 ?_
  refine AW.NU (M' := m_X5_init) (t := 5) [] [rV v44, iV 1, rV v37, rV v37, rV (some x0)] dX0_init_113 (by decide) q394 q132 q395 rfl rfl n_X5_init rfl rfl rfl (fun _ _ _ e => c_X5_init e) h (fun _ s46 h => ?_)
  refine AW.aast (t := 110) dX0_init_116 (by decide) (Nat.le_of_ble_eq_true rfl) mu110 rfl h (fun s48 h => ?_)
  refine AW.dupR dX0_init_117 ?_
  refine AW.iconst dX0_init_118 ?_
  refine AW.new (t := 5) (n := 11) dX0_init_119 ck5 mu5 nf5 q391 q392 q132 h (fun v49 s50 h => ?_)
  refine AW.dupR dX0_init_122 ?_
  refine AW.NU (M' := m_X5_init) (t := 5) [] [rV v49, iV 2, rV v37, rV v37, rV (some x0)] dX0_init_123 (by decide) q394 q132 q395 rfl rfl n_X5_init rfl rfl rfl (fun _ _ _ e => c_X5_init e) h (fun _ s51 h => ?_)
  refine AW.aast (t := 110) dX0_init_126 (by decide) (Nat.le_of_ble_eq_true rfl) mu110 rfl h (fun s53 h => ?_)
  refine AW.putR (t := 0) (k := 10) dX0_init_127 ck0 mu0 (Nat.le_of_ble_eq_true rfl) (Or.inr ⟨_, rfl⟩) q556 (Or.inl rfl) (Or.inr ⟨rfl, rfl⟩) h (fun s54 h => ?_)
  refine AW.aload_n dX0_init_130 rfl ?_
  refine AW.iconst dX0_init_131 ?_
  refine AW.newa (t := 102) (atype := .boolean) dX0_init_132 (Nat.le_of_ble_eq_true rfl) mu102 rfl (by decide) (fun _ h => by cases h) ⟨(fun h => by cases h), (fun h => by cases h)⟩ (by decide) q419 h (fun v55 s56 h => ?_)
  refine AW.putR (t := 0) (k := 11) dX0_init_134 ck0 mu0 (Nat.le_of_ble_eq_true rfl) (Or.inr ⟨_, rfl⟩) q557 (Or.inl rfl) (Or.inr ⟨rfl, rfl⟩) h (fun s57 h => ?_)
  refine AW.aload_n dX0_init_137 rfl ?_
  refine AW.new (t := 7) (n := 2) dX0_init_138 ck7 mu7 nf7 q464 q465 q134 h (fun v58 s59 h => ?_)
  refine AW.dupR dX0_init_141 ?_
  refine AW.NU (M' := m_X7_init) (t := 7) [] [rV v58, rV (some x0)] dX0_init_142 (by decide) q467 q134 q468 rfl rfl n_X7_init rfl rfl rfl (fun _ _ _ e => c_X7_init e) h (fun _ s60 h => ?_)
  refine AW.putR (t := 0) (k := 12) dX0_init_145 ck0 mu0 (Nat.le_of_ble_eq_true rfl) (Or.inl ⟨_, rfl⟩) q558 (Or.inl rfl) (Or.inr ⟨rfl, rfl⟩) h (fun s62 h => ?_)
  refine AW.aload_n dX0_init_148 rfl ?_
  refine AW.sipush dX0_init_149 (by decide) ?_
  refine AW.newa (t := 100) (atype := .int) dX0_init_152 (Nat.le_of_ble_eq_true rfl) mu100 rfl (by decide) (fun _ h => by cases h) ⟨(fun h => by cases h), (fun h => by cases h)⟩ (by decide) q420 h (fun v63 s64 h => ?_)
  refine AW.putR (t := 0) (k := 13) dX0_init_154 ck0 mu0 (Nat.le_of_ble_eq_true rfl) (Or.inr ⟨_, rfl⟩) q559 (Or.inl rfl) (Or.inr ⟨rfl, rfl⟩) h (fun s65 h => ?_)
  refine AW.aload_n dX0_init_157 rfl ?_
  refine AW.bipush dX0_init_158 (by decide) ?_
  refine AW.sipush dX0_init_160 (by decide) ?_
  refine AW.mnew (t := 106) (te := 102) (n := 8) (k := 300) (ty := .boolean) dX0_init_163 (Nat.le_of_ble_eq_true rfl) (Nat.le_of_ble_eq_true rfl) (Nat.le_of_ble_eq_true rfl) (Nat.le_of_ble_eq_true rfl) mu106 mu102 rfl rfl (by decide) (fun _ h => by cases h) ⟨(fun h => by cases h), (fun h => by cases h)⟩ (by decide) (by decide) q479 (by decide) q419 h (fun v66 s67 h => ?_)
  refine AW.putR (t := 0) (k := 14) dX0_init_167 ck0 mu0 (Nat.le_of_ble_eq_true rfl) (Or.inr ⟨_, rfl⟩) q560 (Or.inl rfl) (Or.inr ⟨rfl, rfl⟩) h (fun s68 h => ?_)
  refine AW.aload_n dX0_init_170 rfl ?_
  refine AW.bipush dX0_init_171 (by decide) ?_
  refine AW.sipush dX0_init_173 (by decide) ?_
  refine AW.mnew (t := 106) (te := 102) (n := 8) (k := 300) (ty := .boolean) dX0_init_176 (Nat.le_of_ble_eq_true rfl) (Nat.le_of_ble_eq_true rfl) (Nat.le_of_ble_eq_true rfl) (Nat.le_of_ble_eq_true rfl) mu106 mu102 rfl rfl (by decide) (fun _ h => by cases h) ⟨(fun h => by cases h), (fun h => by cases h)⟩ (by decide) (by decide) q479 (by decide) q419 h (fun v69 s70 h => ?_)
  refine AW.putR (t := 0) (k := 15) dX0_init_180 ck0 mu0 (Nat.le_of_ble_eq_true rfl) (Or.inr ⟨_, rfl⟩) q561 (Or.inl rfl) (Or.inr ⟨rfl, rfl⟩) h (fun s71 h => ?_)
  refine AW.aload_n dX0_init_183 rfl ?_
  refine AW.bipush dX0_init_184 (by decide) ?_
  refine AW.newa (t := 100) (atype := .int) dX0_init_186 (Nat.le_of_ble_eq_true rfl) mu100 rfl (by decide) (fun _ h => by cases h) ⟨(fun h => by cases h), (fun h => by cases h)⟩ (by decide) q420 h (fun v72 s73 h => ?_)
  refine AW.putR (t := 0) (k := 17) dX0_init_188 ck0 mu0 (Nat.le_of_ble_eq_true rfl) (Or.inr ⟨_, rfl⟩) q563 (Or.inl rfl) (Or.inr ⟨rfl, rfl⟩) h (fun s74 h => ?_)
  refine AW.aload_n dX0_init_191 rfl ?_
  refine AW.bipush dX0_init_192 (by decide) ?_
  refine AW.newa (t := 100) (atype := .int) dX0_init_194 (Nat.le_of_ble_eq_true rfl) mu100 rfl (by decide) (fun _ h => by cases h) ⟨(fun h => by cases h), (fun h => by cases h)⟩ (by decide) q420 h (fun v75 s76 h => ?_)
  refine AW.putR (t := 0) (k := 19) dX0_init_196 ck0 mu0 (Nat.le_of_ble_eq_true rfl) (Or.inr ⟨_, rfl⟩) q565 (Or.inl rfl) (Or.inr ⟨rfl, rfl⟩) h (fun s77 h => ?_)
  refine AW.aload_n dX0_init_199 rfl ?_
  refine AW.bipush dX0_init_200 (by decide) ?_
  refine AW.newa (t := 100) (atype := .int) dX0_init_202 (Nat.le_of_ble_eq_true rfl) mu100 rfl (by decide) (fun _ h => by cases h) ⟨(fun h => by cases h), (fun h => by cases h)⟩ (by decide) q420 h (fun v78 s79 h => ?_)
  refine AW.putR (t := 0) (k := 20) dX0_init_204 ck0 mu0 (Nat.le_of_ble_eq_true rfl) (Or.inr ⟨_, rfl⟩) q566 (Or.inl rfl) (Or.inr ⟨rfl, rfl⟩) h (fun s80 h => ?_)
  refine AW.aload_n dX0_init_207 rfl ?_
  refine AW.bipush dX0_init_208 (by decide) ?_
  refine AW.newa (t := 100) (atype := .int) dX0_init_210 (Nat.le_of_ble_eq_true rfl) mu100 rfl (by decide) (fun _ h => by cases h) ⟨(fun h => by cases h), (fun h => by cases h)⟩ (by decide) q420 h (fun v81 s82 h => ?_)
  refine AW.putR (t := 0) (k := 21) dX0_init_212 ck0 mu0 (Nat.le_of_ble_eq_true rfl) (Or.inr ⟨_, rfl⟩) q567 (Or.inl rfl) (Or.inr ⟨rfl, rfl⟩) h (fun s83 h => ?_)
  refine AW.aload_n dX0_init_215 rfl ?_
  refine AW.bipush dX0_init_216 (by decide) ?_
  refine AW.newa (t := 102) (atype := .boolean) dX0_init_218 (Nat.le_of_ble_eq_true rfl) mu102 rfl (by decide) (fun _ h => by cases h) ⟨(fun h => by cases h), (fun h => by cases h)⟩ (by decide) q419 h (fun v84 s85 h => ?_)
  refine AW.putR (t := 0) (k := 22) dX0_init_220 ck0 mu0 (Nat.le_of_ble_eq_true rfl) (Or.inr ⟨_, rfl⟩) q568 (Or.inl rfl) (Or.inr ⟨rfl, rfl⟩) h (fun s86 h => ?_)
  refine AW.iconst dX0_init_223 ?_
  refine AW.istore_n (L' := [some (rV (some x0)), some (iV 0)]) dX0_init_224 (Nat.le_of_ble_eq_true rfl) rfl rfl ?_
  refine w_X0_init_L225 _ _ _ _ h (fun s94 h => ?_)
  refine AW.aload_n dX0_init_250 rfl ?_
  refine AW.getR (t := 0) (k := 7) dX0_init_251 ck0 (Nat.le_of_ble_eq_true rfl) (fun _ => rfl) q553 (Or.inl rfl) h (fun v95 h => ?_)
  refine AW.aload_n dX0_init_254 rfl ?_
  refine AW.getR (t := 0) (k := 3) dX0_init_255 ck0 (Nat.le_of_ble_eq_true rfl) (fun _ => rfl) q549 (Or.inl rfl) h (fun v96 h => ?_)
  refine AW.VU (M' := m_X5_begins) (t := 5) [rV v96] [] dX0_init_258 q480 q481 q482 q132 q483 ck5 rfl n_X5_begins rfl rfl rfl (fun _ _ _ e => c_X5_begins e) h (fun _ s97 h => ?_)
  cases h
  exact AW.vret dX0_init_261 rfl
theorem c_X0_init {s0 : Hp} {x0 : Nat} {v : Unit} {s1 : Hp} (h : f_X0_init s0 x0 = some (v, s1)) : Ct m_X0_init [rV (some x0)] s0 (.inl none, s1) :=
  Ct.of2 (w_X0_init s0 x0 h) (show plainName yX0_init.cls = true by decide) rfl rfl rfl
abbrev m_X0_isAlone : Mi := (yX0_isAlone, cX0_isAlone, (some .boolean), 3, 2, 45, [])
theorem n_X0_isAlone : nameOk yX0_isAlone 2 := ⟨by decide, by decide, by decide +kernel⟩
def f_X0_isAlone (s0 : Hp) (x0 : Nat) (x1 : Int) (x2 : Int) : Option (Int × Hp) :=
  (gR s0 0 (some x0) 7).bind fun v1 => (gR s0 0 (some x0) 3).bind fun v2 => (gR s0 0 (some x0) 7).bind fun v3 => (gR s0 5 v3 0).bind fun v4 => (aR s0 105 v4 x1).bind fun v5 => (aI s0 101 v5 x2).bind fun v6 => (rcv s0 5 v1).bind fun b9 => bn (f_X5_menIn s0 b9 v2 v6 x2) fun v7 s8 => (if ¬ nrm v7 = nrm (slI 1 x1) then (some (0, s8)) else (some (1, s8)))
theorem w_X0_isAlone {σ0 : Hp} {w : Int × Hp} (s0 : Hp) (x0 : Nat) (x1 : Int) (x2 : Int) (h : f_X0_isAlone s0 x0 x1 x2 = some w) : AW m_X0_isAlone σ0 (oI w) 0 [some (rV (some x0)), some (iV x1), some (iV x2)] [] s0 := by
  unfold f_X0_isAlone at h
  refine AW.aload_n dX0_isAlone_0 rfl ?_
  refine AW.getR (t := 0) (k := 7) dX0_isAlone_1 ck0 (Nat.le_of_ble_eq_true rfl) (fun _ => rfl) q553 (Or.inl rfl) h (fun v1 h => ?_)
  refine AW.aload_n dX0_isAlone_4 rfl ?_
  refine AW.getR (t := 0) (k := 3) dX0_isAlone_5 ck0 (Nat.le_of_ble_eq_true rfl) (fun _ => rfl) q549 (Or.inl rfl) h (fun v2 h => ?_)
  refine AW.aload_n dX0_isAlone_8 rfl ?_
  refine AW.getR (t := 0) (k := 7) dX0_isAlone_9 ck0 (Nat.le_of_ble_eq_true rfl) (fun _ => rfl) q553 (Or.inl rfl) h (fun v3 h => ?_)
  refine AW.getR (t := 5) (k := 0) dX0_isAlone_12 ck5 (Nat.le_of_ble_eq_true rfl) (fun _ => rfl) q422 (Or.inl rfl) h (fun v4 h => ?_)
  refine AW.iload_n dX0_isAlone_15 rfl ?_
  refine AW.aald (t := 105) dX0_isAlone_16 (Nat.le_of_ble_eq_true rfl) rfl (fun _ _ => rfl) h (fun v5 h => ?_)
  refine AW.iload_n dX0_isAlone_17 rfl ?_
  refine AW.bald (t := 101) dX0_isAlone_18 (Nat.le_of_ble_eq_true rfl) rfl h (fun v6 h => ?_)
  refine AW.iload_n dX0_isAlone_19 rfl ?_
  refine AW.VI (M' := m_X5_menIn) (t := 5) [rV v2, iV v6, iV x2] [] dX0_isAlone_20 q1304 q514 q515 q132 q516 ck5 rfl n_X5_menIn rfl rfl rfl (fun _ _ _ e => c_X5_menIn e) h (fun v7 s8 h => ?_)
  refine AW.iconst dX0_isAlone_23 ?_
  refine AW.iload_n dX0_isAlone_24 rfl ?_
  refine AW.ishl dX0_isAlone_25 ?_
  refine AW.icmp_ne 33 dX0_isAlone_26 (by decide) h (fun c10 h => ?_) (fun c10 h => ?_)
  · refine AW.iconst dX0_isAlone_33 ?_
    cases h
    exact AW.zret (z := 0) dX0_isAlone_34 rfl zz0
  · refine AW.iconst dX0_isAlone_29 ?_
    refine AW.goto (tgt := 34) dX0_isAlone_30 (by decide) ?_
    cases h
    exact AW.zret (z := 1) dX0_isAlone_34 rfl zz1
theorem c_X0_isAlone {s0 : Hp} {x0 : Nat} {x1 : Int} {x2 : Int} {v : Int} {s1 : Hp} (h : f_X0_isAlone s0 x0 x1 x2 = some (v, s1)) : Ct m_X0_isAlone [rV (some x0), iV x1, iV x2] s0 (.inl (some (iV v)), s1) :=
  Ct.of2 (w_X0_isAlone s0 x0 x1 x2 h) (show plainName yX0_isAlone.cls = true by decide) rfl rfl rfl
abbrev m_X0_isIn : Mi := (yX0_isIn, cX0_isIn, (some .boolean), 3, 0, 0, [])
theorem n_X0_isIn : nameOk yX0_isIn 3 := ⟨by decide, by decide, by decide +kernel⟩
def f_X0_isIn (s0 : Hp) (x0 : Int) (x1 : Int) (x2 : Int) : Option (Int × Hp) :=
  (if nrm x0 < nrm x1 then (some (0, s0)) else ((if nrm x2 < nrm x0 then (some (0, s0)) else (some (1, s0)))))
theorem w_X0_isIn {σ0 : Hp} {w : Int × Hp} (s0 : Hp) (x0 : Int) (x1 : Int) (x2 : Int) (h : f_X0_isIn s0 x0 x1 x2 = some w) : AW m_X0_isIn σ0 (oI w) 0 [some (iV x0), some (iV x1), some (iV x2)] [] s0 := by
  unfold f_X0_isIn at h
  refine AW.iload_n dX0_isIn_0 rfl ?_
  refine AW.iload_n dX0_isIn_1 rfl ?_
  refine AW.icmp_lt 14 dX0_isIn_2 (by decide) h (fun c2 h => ?_) (fun c2 h => ?_)
  · refine AW.iconst dX0_isIn_14 ?_
    cases h
    exact AW.zret (z := 0) dX0_isIn_15 rfl zz0
  · refine AW.iload_n dX0_isIn_5 rfl ?_
    refine AW.iload_n dX0_isIn_6 rfl ?_
    refine AW.icmp_gt 14 dX0_isIn_7 (by decide) h (fun c1 h => ?_) (fun c1 h => ?_)
    · refine AW.iconst dX0_isIn_14 ?_
      cases h
      exact AW.zret (z := 0) dX0_isIn_15 rfl zz0
    · refine AW.iconst dX0_isIn_10 ?_
      refine AW.goto (tgt := 15) dX0_isIn_11 (by decide) ?_
      cases h
      exact AW.zret (z := 1) dX0_isIn_15 rfl zz1
theorem c_X0_isIn {s0 : Hp} {x0 : Int} {x1 : Int} {x2 : Int} {v : Int} {s1 : Hp} (h : f_X0_isIn s0 x0 x1 x2 = some (v, s1)) : Ct m_X0_isIn [iV x0, iV x1, iV x2] s0 (.inl (some (iV v)), s1) :=
  Ct.of2 (w_X0_isIn s0 x0 x1 x2 h) (show plainName yX0_isIn.cls = true by decide) rfl rfl rfl
abbrev m_X0_men : Mi := (yX0_men, cX0_men, (some .int), 1, 1, 20, [])
theorem n_X0_men : nameOk yX0_men 0 := ⟨by decide, by decide, by decide +kernel⟩
def f_X0_men (s0 : Hp) (x0 : Nat) : Option (Int × Hp) :=
  (gR s0 0 (some x0) 3).bind fun v1 => (gR s0 4 v1 1).bind fun v2 => (rcv s0 18 v2).bind fun b5 => bn (f_J5_size s0 b5) fun v3 s4 => some (v3, s4)
theorem w_X0_men {σ0 : Hp} {w : Int × Hp} (s0 : Hp) (x0 : Nat) (h : f_X0_men s0 x0 = some w) : AW m_X0_men σ0 (oI w) 0 [some (rV (some x0))] [] s0 := by
  unfold f_X0_men at h
  refine AW.aload_n dX0_men_0 rfl ?_
  refine AW.getR (t := 0) (k := 3) dX0_men_1 ck0 (Nat.le_of_ble_eq_true rfl) (fun _ => rfl) q549 (Or.inl rfl) h (fun v1 h => ?_)
  refine AW.getR (t := 4) (k := 1) dX0_men_4 ck4 (Nat.le_of_ble_eq_true rfl) (fun _ => rfl) q361 (Or.inl rfl) h (fun v2 h => ?_)
  refine AW.VI (M' := m_J5_size) (t := 18) [] [] dX0_men_7 q1179 q485 q486 q131 q487 ck18 rfl n_J5_size rfl rfl rfl (fun _ _ _ e => c_J5_size e) h (fun v3 s4 h => ?_)
  cases h
  exact AW.iret dX0_men_10 rfl
theorem c_X0_men {s0 : Hp} {x0 : Nat} {v : Int} {s1 : Hp} (h : f_X0_men s0 x0 = some (v, s1)) : Ct m_X0_men [rV (some x0)] s0 (.inl (some (iV v)), s1) :=
  Ct.of2 (w_X0_men s0 x0 h) (show plainName yX0_men.cls = true by decide) rfl rfl rfl
abbrev m_X0_isMan : Mi := (yX0_isMan, cX0_isMan, (some .boolean), 2, 2, 40, [])
theorem n_X0_isMan : nameOk yX0_isMan 1 := ⟨by decide, by decide, by decide +kernel⟩
def f_X0_isMan (s0 : Hp) (x0 : Nat) (x1 : Int) : Option (Int × Hp) :=
  (rcv s0 0 (some x0)).bind fun b3 => bn (f_X0_men s0 b3) fun v1 s2 => bn (f_X0_isIn s2 x1 0 (v1 - 1)) fun v4 s5 => if nrm v4 = 0 ∨ nrm v4 = 1 then some (v4, s5) else none
theorem w_X0_isMan {σ0 : Hp} {w : Int × Hp} (s0 : Hp) (x0 : Nat) (x1 : Int) (h : f_X0_isMan s0 x0 x1 = some w) : AW m_X0_isMan σ0 (oI w) 0 [some (rV (some x0)), some (iV x1)] [] s0 := by
  unfold f_X0_isMan at h
  refine AW.iload_n dX0_isMan_0 rfl ?_
  refine AW.iconst dX0_isMan_1 ?_
  refine AW.aload_n dX0_isMan_2 rfl ?_
  refine AW.VI (M' := m_X0_men) (t := 0) [] [iV 0, iV x1] dX0_isMan_3 q1175 q1177 qs32 q121 q1178 ck0 rfl n_X0_men rfl rfl rfl (fun _ _ _ e => c_X0_men e) h (fun v1 s2 h => ?_)
  refine AW.iconst dX0_isMan_6 ?_
  refine AW.isub dX0_isMan_7 ?_
  refine AW.SI (M' := m_X0_isIn) [iV x1, iV 0, iV (v1 - 1)] [] dX0_isMan_8 q1180 q1181 q121 q1182 n_X0_isIn rfl rfl rfl (fun _ _ e => c_X0_isIn e) h (fun v4 s5 h => ?_)
  obtain ⟨hz, h⟩ := pz_elim h
  cases h
  exact AW.zret dX0_isMan_11 rfl hz
theorem c_X0_isMan {s0 : Hp} {x0 : Nat} {x1 : Int} {v : Int} {s1 : Hp} (h : f_X0_isMan s0 x0 x1 = some (v, s1)) : Ct m_X0_isMan [rV (some x0), iV x1] s0 (.inl (some (iV v)), s1) :=
  Ct.of2 (w_X0_isMan s0 x0 x1 h) (show plainName yX0_isMan.cls = true by decide) rfl rfl rfl
abbrev m_X0_alone : Mi := (yX0_alone, cX0_alone, (some .int), 8, 3, 67, [])
theorem n_X0_alone : nameOk yX0_alone 2 := ⟨by decide, by decide, by decide +kernel⟩
def f_X0_alone_L21 (x0 : Nat) : Nat → Hp → Int → Int → Int → Int → Int → Int → (Hp → Int → Int → Int → Option (Int × Hp)) → Option (Int × Hp)
  | 0, _, _, _, _, _, _, _, _ => none
  | n + 1, s0, x1, x2, x3, x4, x5, x6, k => (gR s0 0 (some x0) 7).bind fun v4 => (gI s0 5 v4 9).bind fun v5 => (if nrm v5 < nrm x6 then (k s0 x2 x3 x5) else ((rcv s0 0 (some x0)).bind fun b8 => bn (f_X0_isAlone s0 b8 x1 x6) fun v6 s7 => jn (fun (s9 : Hp) (x1 : Int) (x2 : Int) (x4 : Int) (x5 : Int) (x6 : Int) (x7 : Int) (y0 : Int) (y1 : Int) => jn (fun (s10 : Hp) (x1 : Int) (x2 : Int) (x3 : Int) (x5 : Int) (x6 : Int) (y0 : Int) => f_X0_alone_L21 x0 n s10 x1 x2 x3 y0 (mxI x5 y0) (x6 + 1) k) fun j68 => (if nrm x7 = 0 then (j68 s9 x1 x2 (y0 + y1) x5 x6 0) else (j68 s9 x1 x2 (y0 + y1) x5 x6 (x4 + 1)))) fun j53 => (if nrm v6 = 0 then (j53 s7 x1 x2 x4 x5 x6 v6 x3 0) else (j53 s7 x1 x2 x4 x5 x6 v6 x3 1))))
theorem w_X0_alone_L21 {σ0 : Hp} {w : Int × Hp} {x0 : Nat} : ∀ (n : Nat) (s0 : Hp) (x1 : Int) (x2 : Int) (x3 : Int) (x4 : Int) (x5 : Int) (x6 : Int) (k : (Hp → Int → Int → Int → Option (Int × Hp))), f_X0_alone_L21 x0 n s0 x1 x2 x3 x4 x5 x6 k = some w → (∀ (s1 : Hp) (x2 : Int) (x3 : Int) (x5 : Int), k s1 x2 x3 x5 = some w → AW m_X0_alone σ0 (oI w) 85 [none, none, some (iV x2), some (iV x3), none, some (iV x5), none, none] [] s1) → AW m_X0_alone σ0 (oI w) 21 [some (rV (some x0)), some (iV x1), some (iV x2), some (iV x3), some (iV x4), some (iV x5), some (iV x6), none] [] s0 := by
  intro n
  induction n with
  | zero =>
    intro s0 x1 x2 x3 x4 x5 x6 k h hk
    rw [f_X0_alone_L21] at h
    cases h
  | succ n ih =>
    intro s0 x1 x2 x3 x4 x5 x6 k h hk
    rw [f_X0_alone_L21] at h
    refine AW.iload dX0_alone_21 rfl ?_
    refine AW.aload_n dX0_alone_23 rfl ?_
    refine AW.getR (t := 0) (k := 7) dX0_alone_24 ck0 (Nat.le_of_ble_eq_true rfl) (fun _ => rfl) q553 (Or.inl rfl) h (fun v4 h => ?_)
    refine AW.getI (t := 5) (k := 9) dX0_alone_27 ck5 (Nat.le_of_ble_eq_true rfl) (fun _ => rfl) q437 (Or.inl rfl) h (fun v5 h => ?_)
    refine AW.icmp_gt 85 dX0_alone_30 (by decide) h (fun c13 h => ?_) (fun c13 h => ?_)
    · exact AW.fewer (L' := [none, none, some (iV x2), some (iV x3), none, some (iV x5), none, none]) (And.intro rfl (And.intro rfl (And.intro rfl trivial))) (hk _ _ _ _ h)
    · refine AW.aload_n dX0_alone_33 rfl ?_
      refine AW.iload_n dX0_alone_34 rfl ?_
      refine AW.iload dX0_alone_35 rfl ?_
      refine AW.VI (M' := m_X0_isAlone) (t := 0) [iV x1, iV x6] [] dX0_alone_37 q1321 q1323 qs41 q121 q1324 ck0 rfl n_X0_isAlone rfl rfl rfl (fun _ _ _ e => c_X0_isAlone e) h (fun v6 s7 h => ?_)
      refine AW.istore (L' := [some (rV (some x0)), some (iV x1), some (iV x2), some (iV x3), some (iV x4), some (iV x5), some (iV x6), some (iV v6)]) dX0_alone_40 (Nat.le_of_ble_eq_true rfl) rfl rfl ?_
      refine AW.iload_n dX0_alone_42 rfl ?_
      refine AW.iload dX0_alone_43 rfl ?_
      refine jn_elim h (fun (j : (Hp → Int → Int → Int → Int → Int → Int → Int → Int → Option (Int × Hp))) => ∀ (s9 : Hp) (x1 : Int) (x2 : Int) (x4 : Int) (x5 : Int) (x6 : Int) (x7 : Int) (y0 : Int) (y1 : Int), j s9 x1 x2 x4 x5 x6 x7 y0 y1 = some w → AW m_X0_alone σ0 (oI w) 53 [some (rV (some x0)), some (iV x1), some (iV x2), none, some (iV x4), some (iV x5), some (iV x6), some (iV x7)] [iV y1, iV y0] s9) ?_ (fun j53 hj53 h => ?_)
      · intro s9 x1 x2 x4 x5 x6 x7 y0 y1 h
        refine AW.iadd dX0_alone_53 ?_
        refine AW.istore_n (L' := [some (rV (some x0)), some (iV x1), some (iV x2), some (iV (y0 + y1)), some (iV x4), some (iV x5), some (iV x6), some (iV x7)]) dX0_alone_54 (Nat.le_of_ble_eq_true rfl) rfl rfl ?_
        refine AW.iload dX0_alone_55 rfl ?_
        refine jn_elim h (fun (j : (Hp → Int → Int → Int → Int → Int → Int → Option (Int × Hp))) => ∀ (s10 : Hp) (x1 : Int) (x2 : Int) (x3 : Int) (x5 : Int) (x6 : Int) (y0 : Int), j s10 x1 x2 x3 x5 x6 y0 = some w → AW m_X0_alone σ0 (oI w) 68 [some (rV (some x0)), some (iV x1), some (iV x2), some (iV x3), none, some (iV x5), some (iV x6), none] [iV y0] s10) ?_ (fun j68 hj68 h => ?_)
        · intro s10 x1 x2 x3 x5 x6 y0 h
          refine AW.istore (L' := [some (rV (some x0)), some (iV x1), some (iV x2), some (iV x3), some (iV y0), some (iV x5), some (iV x6), none]) dX0_alone_68 (Nat.le_of_ble_eq_true rfl) rfl rfl ?_
          refine AW.iload dX0_alone_70 rfl ?_
          refine AW.iload dX0_alone_72 rfl ?_
          refine AW.mmax dX0_alone_74 q1325 rfl rfl ?_
          refine AW.istore (L' := [some (rV (some x0)), some (iV x1), some (iV x2), some (iV x3), some (iV y0), some (iV (mxI x5 y0)), some (iV x6), none]) dX0_alone_77 (Nat.le_of_ble_eq_true rfl) rfl rfl ?_
          refine AW.iinc (L' := [some (rV (some x0)), some (iV x1), some (iV x2), some (iV x3), some (iV y0), some (iV (mxI x5 y0)), some (iV (x6 + 1)), none]) dX0_alone_79 rfl (Nat.le_of_ble_eq_true rfl) rfl rfl ?_
          refine AW.goto (tgt := 21) dX0_alone_82 (by decide) ?_
          exact ih _ _ _ _ _ _ _ _ h hk
        · refine AW.if_eq 67 dX0_alone_57 (by decide) h (fun c11 h => ?_) (fun c11 h => ?_)
          · refine AW.iconst dX0_alone_67 ?_
            exact AW.fewer (L' := [some (rV (some x0)), some (iV x1), some (iV x2), some (iV (y0 + y1)), none, some (iV x5), some (iV x6), none]) (And.intro rfl (And.intro rfl (And.intro rfl (And.intro rfl (And.intro rfl (And.intro rfl trivial)))))) (hj68 _ _ _ _ _ _ _ h)
          · refine AW.iload dX0_alone_60 rfl ?_
            refine AW.iconst dX0_alone_62 ?_
            refine AW.iadd dX0_alone_63 ?_
            refine AW.goto (tgt := 68) dX0_alone_64 (by decide) ?_
            exact AW.fewer (L' := [some (rV (some x0)), some (iV x1), some (iV x2), some (iV (y0 + y1)), none, some (iV x5), some (iV x6), none]) (And.intro rfl (And.intro rfl (And.intro rfl (And.intro rfl (And.intro rfl (And.intro rfl trivial)))))) (hj68 _ _ _ _ _ _ _ h)
      · refine AW.if_eq 52 dX0_alone_45 (by decide) h (fun c12 h => ?_) (fun c12 h => ?_)
        · refine AW.iconst dX0_alone_52 ?_
          exact AW.fewer (L' := [some (rV (some x0)), some (iV x1), some (iV x2), none, some (iV x4), some (iV x5), some (iV x6), some (iV v6)]) (And.intro rfl (And.intro rfl (And.intro rfl (And.intro rfl (And.intro rfl (And.intro rfl (And.intro rfl trivial))))))) (hj53 _ _ _ _ _ _ _ _ _ h)
        · refine AW.iconst dX0_alone_48 ?_
          refine AW.goto (tgt := 53) dX0_alone_49 (by decide) ?_
          exact AW.fewer (L' := [some (rV (some x0)), some (iV x1), some (iV x2), none, some (iV x4), some (iV x5), some (iV x6), some (iV v6)]) (And.intro rfl (And.intro rfl (And.intro rfl (And.intro rfl (And.intro rfl (And.intro rfl (And.intro rfl trivial))))))) (hj53 _ _ _ _ _ _ _ _ _ h)
def f_X0_alone (s0 : Hp) (x0 : Nat) (x1 : Int) (x2 : Int) : Option (Int × Hp) :=
  (rcv s0 0 (some x0)).bind fun b3 => bn (f_X0_isMan s0 b3 x1) fun v1 s2 => (if ¬ nrm v1 = 0 then (f_X0_alone_L21 x0 FU s2 x1 x2 0 0 0 0 (fun s14 x2 x3 x5 => (if nrm x2 = 0 then (some (nrm x3, s14)) else (some (nrm x5, s14))))) else (some ((-1), s2)))
theorem w_X0_alone {σ0 : Hp} {w : Int × Hp} (s0 : Hp) (x0 : Nat) (x1 : Int) (x2 : Int) (h : f_X0_alone s0 x0 x1 x2 = some w) : AW m_X0_alone σ0 (oI w) 0 [some (rV (some x0)), some (iV x1), some (iV x2), none, none, none, none, none] [] s0 := by
  unfold f_X0_alone at h
  refine AW.aload_n dX0_alone_0 rfl ?_
  refine AW.iload_n dX0_alone_1 rfl ?_
  refine AW.VI (M' := m_X0_isMan) (t := 0) [iV x1] [] dX0_alone_2 q1171 q1173 qs31 q121 q1174 ck0 rfl n_X0_isMan rfl rfl rfl (fun _ _ _ e => c_X0_isMan e) h (fun v1 s2 h => ?_)
  refine AW.if_ne 10 dX0_alone_5 (by decide) h (fun c16 h => ?_) (fun c16 h => ?_)
  · refine AW.iconst dX0_alone_10 ?_
    refine AW.istore_n (L' := [some (rV (some x0)), some (iV x1), some (iV x2), some (iV 0), none, none, none, none]) dX0_alone_11 (Nat.le_of_ble_eq_true rfl) rfl rfl ?_
    refine AW.iconst dX0_alone_12 ?_
    refine AW.istore (L' := [some (rV (some x0)), some (iV x1), some (iV x2), some (iV 0), some (iV 0), none, none, none]) dX0_alone_13 (Nat.le_of_ble_eq_true rfl) rfl rfl ?_
    refine AW.iconst dX0_alone_15 ?_
    refine AW.istore (L' := [some (rV (some x0)), some (iV x1), some (iV x2), some (iV 0), some (iV 0), some (iV 0), none, none]) dX0_alone_16 (Nat.le_of_ble_eq_true rfl) rfl rfl ?_
    refine AW.iconst dX0_alone_18 ?_
    refine AW.istore (L' := [some (rV (some x0)), some (iV x1), some (iV x2), some (iV 0), some (iV 0), some (iV 0), some (iV 0), none]) dX0_alone_19 (Nat.le_of_ble_eq_true rfl) rfl rfl ?_
    refine w_X0_alone_L21 _ _ _ _ _ _ _ _ _ h (fun s14 x2 x3 x5 h => ?_)
    refine AW.iload_n dX0_alone_85 rfl ?_
    refine AW.if_eq 94 dX0_alone_86 (by decide) h (fun c15 h => ?_) (fun c15 h => ?_)
    · refine AW.iload_n dX0_alone_94 rfl ?_
      refine AW.nv ?_
      cases h
      exact AW.iret dX0_alone_95 rfl
    · refine AW.iload dX0_alone_89 rfl ?_
      refine AW.goto (tgt := 95) dX0_alone_91 (by decide) ?_
      refine AW.nv ?_
      cases h
      exact AW.iret dX0_alone_95 rfl
  · refine AW.iconst dX0_alone_8 ?_
    cases h
    exact AW.iret dX0_alone_9 rfl
theorem c_X0_alone {s0 : Hp} {x0 : Nat} {x1 : Int} {x2 : Int} {v : Int} {s1 : Hp} (h : f_X0_alone s0 x0 x1 x2 = some (v, s1)) : Ct m_X0_alone [rV (some x0), iV x1, iV x2] s0 (.inl (some (iV v)), s1) :=
  Ct.of2 (w_X0_alone s0 x0 x1 x2 h) (show plainName yX0_alone.cls = true by decide) rfl rfl rfl
abbrev m_X0_back : Mi := (yX0_back, cX0_back, (some .int), 2, 0, 0, [])
theorem n_X0_back : nameOk yX0_back 1 := ⟨by decide, by decide, by decide +kernel⟩
def f_X0_back (s0 : Hp) (x0 : Nat) (x1 : Int) : Option (Int × Hp) :=
  (if nrm x1 < 0 then (some ((-1), s0)) else ((gR s0 0 (some x0) 1).bind fun v1 => (gI s0 2 v1 2).bind fun v2 => (if nrm x1 ≤ nrm v2 then ((gR s0 0 (some x0) 1).bind fun v3 => (gI s0 2 v3 2).bind fun v4 => (pI s0 2 v3 2 (nrm (v4 - x1))).bind fun s5 => (gR s5 0 (some x0) 1).bind fun v6 => (gI s5 2 v6 2).bind fun v7 => some (v7, s5)) else (some ((-1), s0)))))
theorem w_X0_back {σ0 : Hp} {w : Int × Hp} (s0 : Hp) (x0 : Nat) (x1 : Int) (h : f_X0_back s0 x0 x1 = some w) : AW m_X0_back σ0 (oI w) 0 [some (rV (some x0)), some (iV x1)] [] s0 := by
  unfold f_X0_back at h
  refine AW.iload_n dX0_back_0 rfl ?_
  refine AW.if_lt 15 dX0_back_1 (by decide) h (fun c9 h => ?_) (fun c9 h => ?_)
  · refine AW.iconst dX0_back_15 ?_
    cases h
    exact AW.iret dX0_back_16 rfl
  · refine AW.iload_n dX0_back_4 rfl ?_
    refine AW.aload_n dX0_back_5 rfl ?_
    refine AW.getR (t := 0) (k := 1) dX0_back_6 ck0 (Nat.le_of_ble_eq_true rfl) (fun _ => rfl) q547 (Or.inl rfl) h (fun v1 h => ?_)
    refine AW.getI (t := 2) (k := 2) dX0_back_9 ck2 (Nat.le_of_ble_eq_true rfl) (fun _ => rfl) q268 (Or.inl rfl) h (fun v2 h => ?_)
    refine AW.icmp_le 17 dX0_back_12 (by decide) h (fun c8 h => ?_) (fun c8 h => ?_)
    · refine AW.aload_n dX0_back_17 rfl ?_
      refine AW.getR (t := 0) (k := 1) dX0_back_18 ck0 (Nat.le_of_ble_eq_true rfl) (fun _ => rfl) q547 (Or.inl rfl) h (fun v3 h => ?_)
      refine AW.dupR dX0_back_21 ?_
      refine AW.getI (t := 2) (k := 2) dX0_back_22 ck2 (Nat.le_of_ble_eq_true rfl) (fun _ => rfl) q268 (Or.inl rfl) h (fun v4 h => ?_)
      refine AW.iload_n dX0_back_25 rfl ?_
      refine AW.isub dX0_back_26 ?_
      refine AW.nv ?_
      refine AW.putI (t := 2) (k := 2) dX0_back_27 ck2 mu2 (Nat.le_of_ble_eq_true rfl) rfl q268 (Or.inl rfl) (Or.inl rfl) h (fun s5 h => ?_)
      refine AW.aload_n dX0_back_30 rfl ?_
      refine AW.getR (t := 0) (k := 1) dX0_back_31 ck0 (Nat.le_of_ble_eq_true rfl) (fun _ => rfl) q547 (Or.inl rfl) h (fun v6 h => ?_)
      refine AW.getI (t := 2) (k := 2) dX0_back_34 ck2 (Nat.le_of_ble_eq_true rfl) (fun _ => rfl) q268 (Or.inl rfl) h (fun v7 h => ?_)
      cases h
      exact AW.iret dX0_back_37 rfl
    · refine AW.iconst dX0_back_15 ?_
      cases h
      exact AW.iret dX0_back_16 rfl
theorem c_X0_back {s0 : Hp} {x0 : Nat} {x1 : Int} {v : Int} {s1 : Hp} (h : f_X0_back s0 x0 x1 = some (v, s1)) : Ct m_X0_back [rV (some x0), iV x1] s0 (.inl (some (iV v)), s1) :=
  Ct.of2 (w_X0_back s0 x0 x1 h) (show plainName yX0_back.cls = true by decide) rfl rfl rfl
abbrev m_X0_mixed : Mi := (yX0_mixed, cX0_mixed, (some .int), 3, 0, 0, [])
theorem n_X0_mixed : nameOk yX0_mixed 2 := ⟨by decide, by decide, by decide +kernel⟩
def f_X0_mixed (s0 : Hp) (x0 : Int) (x1 : Int) : Option (Int × Hp) :=
  some (xoI (((xoI x0 x1) * 1103515245) + 12345) (suI (((xoI x0 x1) * 1103515245) + 12345) 15), s0)
theorem w_X0_mixed {σ0 : Hp} {w : Int × Hp} (s0 : Hp) (x0 : Int) (x1 : Int) (h : f_X0_mixed s0 x0 x1 = some w) : AW m_X0_mixed σ0 (oI w) 0 [some (iV x0), some (iV x1), none] [] s0 := by
  unfold f_X0_mixed at h
  refine AW.iload_n dX0_mixed_0 rfl ?_
  refine AW.iload_n dX0_mixed_1 rfl ?_
  refine AW.ixor dX0_mixed_2 ?_
  refine AW.ldc (z := 1103515245) dX0_mixed_3 q1245 (by decide) ?_
  refine AW.imul dX0_mixed_5 ?_
  refine AW.sipush dX0_mixed_6 (by decide) ?_
  refine AW.iadd dX0_mixed_9 ?_
  refine AW.istore_n (L' := [some (iV x0), some (iV x1), some (iV (((xoI x0 x1) * 1103515245) + 12345))]) dX0_mixed_10 (Nat.le_of_ble_eq_true rfl) rfl rfl ?_
  refine AW.iload_n dX0_mixed_11 rfl ?_
  refine AW.iload_n dX0_mixed_12 rfl ?_
  refine AW.bipush dX0_mixed_13 (by decide) ?_
  refine AW.iushr dX0_mixed_15 ?_
  refine AW.ixor dX0_mixed_16 ?_
  cases h
  exact AW.iret dX0_mixed_17 rfl
theorem c_X0_mixed {s0 : Hp} {x0 : Int} {x1 : Int} {v : Int} {s1 : Hp} (h : f_X0_mixed s0 x0 x1 = some (v, s1)) : Ct m_X0_mixed [iV x0, iV x1] s0 (.inl (some (iV v)), s1) :=
  Ct.of2 (w_X0_mixed s0 x0 x1 h) (show plainName yX0_mixed.cls = true by decide) rfl rfl rfl
abbrev m_X0_lot : Mi := (yX0_lot, cX0_lot, (some .int), 3, 1, 22, [])
theorem n_X0_lot : nameOk yX0_lot 3 := ⟨by decide, by decide, by decide +kernel⟩
def f_X0_lot (s0 : Hp) (x0 : Int) (x1 : Int) (x2 : Int) : Option (Int × Hp) :=
  bn (f_X0_mixed s0 x0 43) fun v1 s2 => bn (f_X0_mixed s2 v1 x1) fun v3 s4 => if nrm x2 = 0 then none else some (rmI (suI v3 1) x2, s4)
theorem w_X0_lot {σ0 : Hp} {w : Int × Hp} (s0 : Hp) (x0 : Int) (x1 : Int) (x2 : Int) (h : f_X0_lot s0 x0 x1 x2 = some w) : AW m_X0_lot σ0 (oI w) 0 [some (iV x0), some (iV x1), some (iV x2)] [] s0 := by
  unfold f_X0_lot at h
  refine AW.iload_n dX0_lot_0 rfl ?_
  refine AW.bipush dX0_lot_1 (by decide) ?_
  refine AW.SI (M' := m_X0_mixed) [iV x0, iV 43] [] dX0_lot_3 q1242 q1243 q121 q1244 n_X0_mixed rfl rfl rfl (fun _ _ e => c_X0_mixed e) h (fun v1 s2 h => ?_)
  refine AW.iload_n dX0_lot_6 rfl ?_
  refine AW.SI (M' := m_X0_mixed) [iV v1, iV x1] [] dX0_lot_7 q1242 q1243 q121 q1244 n_X0_mixed rfl rfl rfl (fun _ _ e => c_X0_mixed e) h (fun v3 s4 h => ?_)
  refine AW.iconst dX0_lot_10 ?_
  refine AW.iushr dX0_lot_11 ?_
  refine AW.iload_n dX0_lot_12 rfl ?_
  obtain ⟨hz5, h⟩ := nz_elim h
  refine AW.irem dX0_lot_13 hz5 ?_
  cases h
  exact AW.iret dX0_lot_14 rfl
theorem c_X0_lot {s0 : Hp} {x0 : Int} {x1 : Int} {x2 : Int} {v : Int} {s1 : Hp} (h : f_X0_lot s0 x0 x1 x2 = some (v, s1)) : Ct m_X0_lot [iV x0, iV x1, iV x2] s0 (.inl (some (iV v)), s1) :=
  Ct.of2 (w_X0_lot s0 x0 x1 x2 h) (show plainName yX0_lot.cls = true by decide) rfl rfl rfl
abbrev m_X5_isBroken : Mi := (yX5_isBroken, cX5_isBroken, (some .boolean), 3, 0, 0, [])
theorem n_X5_isBroken : nameOk yX5_isBroken 2 := ⟨by decide, by decide, by decide +kernel⟩
def f_X5_isBroken (s0 : Hp) (x0 : Nat) (x1 : Int) (x2 : Int) : Option (Int × Hp) :=
  (gR s0 5 (some x0) 5).bind fun v1 => (aI s0 100 v1 x1).bind fun v2 => (if nrm x2 < nrm v2 then (some (0, s0)) else (some (1, s0)))
theorem w_X5_isBroken {σ0 : Hp} {w : Int × Hp} (s0 : Hp) (x0 : Nat) (x1 : Int) (x2 : Int) (h : f_X5_isBroken s0 x0 x1 x2 = some w) : AW m_X5_isBroken σ0 (oI w) 0 [some (rV (some x0)), some (iV x1), some (iV x2)] [] s0 := by
  unfold f_X5_isBroken at h
  refine AW.aload_n dX5_isBroken_0 rfl ?_
  refine AW.getR (t := 5) (k := 5) dX5_isBroken_1 ck5 (Nat.le_of_ble_eq_true rfl) (fun _ => rfl) q432 (Or.inl rfl) h (fun v1 h => ?_)
  refine AW.iload_n dX5_isBroken_4 rfl ?_
  refine AW.iald (t := 100) dX5_isBroken_5 (Nat.le_of_ble_eq_true rfl) rfl h (fun v2 h => ?_)
  refine AW.iload_n dX5_isBroken_6 rfl ?_
  refine AW.icmp_gt 14 dX5_isBroken_7 (by decide) h (fun c3 h => ?_) (fun c3 h => ?_)
  · refine AW.iconst dX5_isBroken_14 ?_
    cases h
    exact AW.zret (z := 0) dX5_isBroken_15 rfl zz0
  · refine AW.iconst dX5_isBroken_10 ?_
    refine AW.goto (tgt := 15) dX5_isBroken_11 (by decide) ?_
    cases h
    exact AW.zret (z := 1) dX5_isBroken_15 rfl zz1
theorem c_X5_isBroken {s0 : Hp} {x0 : Nat} {x1 : Int} {x2 : Int} {v : Int} {s1 : Hp} (h : f_X5_isBroken s0 x0 x1 x2 = some (v, s1)) : Ct m_X5_isBroken [rV (some x0), iV x1, iV x2] s0 (.inl (some (iV v)), s1) :=
  Ct.of2 (w_X5_isBroken s0 x0 x1 x2 h) (show plainName yX5_isBroken.cls = true by decide) rfl rfl rfl
abbrev m_X5_shows : Mi := (yX5_shows, cX5_shows, (some .int), 4, 1, 22, [])
theorem n_X5_shows : nameOk yX5_shows 2 := ⟨by decide, by decide, by decide +kernel⟩
def f_X5_shows (s0 : Hp) (x0 : Nat) (x1 : Int) (x2 : Int) : Option (Int × Hp) :=
  (gR s0 5 (some x0) 3).bind fun v1 => (aR s0 106 v1 x1).bind fun v2 => (aI s0 102 v2 x2).bind fun v3 => (if nrm v3 = 0 then ((rcv s0 5 (some x0)).bind fun b6 => bn (f_X5_isBroken s0 b6 x1 x2) fun v4 s5 => jn (fun (s7 : Hp) (x1 : Int) (y0 : Int) => (if nrm y0 < 0 then (some ((-2), s7)) else ((gR s7 5 (some x0) 3).bind fun v8 => (aR s7 106 v8 x1).bind fun v9 => (aI s7 102 v9 y0).bind fun v10 => (if nrm v10 = 0 then (some (nrm y0, s7)) else (some ((-2), s7)))))) fun j42 => (if nrm v4 = 0 then ((gR s5 5 (some x0) 4).bind fun v13 => (aR s5 107 v13 x1).bind fun v14 => (aI s5 103 v14 x2).bind fun v15 => j42 s5 x1 (x2 - v15)) else ((gR s5 5 (some x0) 6).bind fun v16 => (aI s5 100 v16 x1).bind fun v17 => j42 s5 x1 v17))) else (some ((-2), s0)))
theorem w_X5_shows {σ0 : Hp} {w : Int × Hp} (s0 : Hp) (x0 : Nat) (x1 : Int) (x2 : Int) (h : f_X5_shows s0 x0 x1 x2 = some w) : AW m_X5_shows σ0 (oI w) 0 [some (rV (some x0)), some (iV x1), some (iV x2), none] [] s0 := by
  unfold f_X5_shows at h
  refine AW.aload_n dX5_shows_0 rfl ?_
  refine AW.getR (t := 5) (k := 3) dX5_shows_1 ck5 (Nat.le_of_ble_eq_true rfl) (fun _ => rfl) q428 (Or.inl rfl) h (fun v1 h => ?_)
  refine AW.iload_n dX5_shows_4 rfl ?_
  refine AW.aald (t := 106) dX5_shows_5 (Nat.le_of_ble_eq_true rfl) rfl (fun _ _ => rfl) h (fun v2 h => ?_)
  refine AW.iload_n dX5_shows_6 rfl ?_
  refine AW.zald (t := 102) dX5_shows_7 (Nat.le_of_ble_eq_true rfl) rfl h (fun v3 h => ?_)
  refine AW.if_eq 14 dX5_shows_8 (by decide) h (fun c19 h => ?_) (fun c19 h => ?_)
  · refine AW.aload_n dX5_shows_14 rfl ?_
    refine AW.iload_n dX5_shows_15 rfl ?_
    refine AW.iload_n dX5_shows_16 rfl ?_
    refine AW.VI (M' := m_X5_isBroken) (t := 5) [iV x1, iV x2] [] dX5_shows_17 q1203 q1204 q1205 q132 q1206 ck5 rfl n_X5_isBroken rfl rfl rfl (fun _ _ _ e => c_X5_isBroken e) h (fun v4 s5 h => ?_)
    refine jn_elim h (fun (j : (Hp → Int → Int → Option (Int × Hp))) => ∀ (s7 : Hp) (x1 : Int) (y0 : Int), j s7 x1 y0 = some w → AW m_X5_shows σ0 (oI w) 42 [some (rV (some x0)), some (iV x1), none, none] [iV y0] s7) ?_ (fun j42 hj42 h => ?_)
    · intro s7 x1 y0 h
      refine AW.istore_n (L' := [some (rV (some x0)), some (iV x1), none, some (iV y0)]) dX5_shows_42 (Nat.le_of_ble_eq_true rfl) rfl rfl ?_
      refine AW.iload_n dX5_shows_43 rfl ?_
      refine AW.if_lt 58 dX5_shows_44 (by decide) h (fun c12 h => ?_) (fun c12 h => ?_)
      · refine AW.bipush dX5_shows_58 (by decide) ?_
        refine AW.goto (tgt := 64) dX5_shows_60 (by decide) ?_
        cases h
        exact AW.iret dX5_shows_64 rfl
      · refine AW.aload_n dX5_shows_47 rfl ?_
        refine AW.getR (t := 5) (k := 3) dX5_shows_48 ck5 (Nat.le_of_ble_eq_true rfl) (fun _ => rfl) q428 (Or.inl rfl) h (fun v8 h => ?_)
        refine AW.iload_n dX5_shows_51 rfl ?_
        refine AW.aald (t := 106) dX5_shows_52 (Nat.le_of_ble_eq_true rfl) rfl (fun _ _ => rfl) h (fun v9 h => ?_)
        refine AW.iload_n dX5_shows_53 rfl ?_
        refine AW.zald (t := 102) dX5_shows_54 (Nat.le_of_ble_eq_true rfl) rfl h (fun v10 h => ?_)
        refine AW.if_eq 63 dX5_shows_55 (by decide) h (fun c11 h => ?_) (fun c11 h => ?_)
        · refine AW.iload_n dX5_shows_63 rfl ?_
          refine AW.nv ?_
          cases h
          exact AW.iret dX5_shows_64 rfl
        · refine AW.bipush dX5_shows_58 (by decide) ?_
          refine AW.goto (tgt := 64) dX5_shows_60 (by decide) ?_
          cases h
          exact AW.iret dX5_shows_64 rfl
    · refine AW.if_eq 32 dX5_shows_20 (by decide) h (fun c18 h => ?_) (fun c18 h => ?_)
      · refine AW.iload_n dX5_shows_32 rfl ?_
        refine AW.aload_n dX5_shows_33 rfl ?_
        refine AW.getR (t := 5) (k := 4) dX5_shows_34 ck5 (Nat.le_of_ble_eq_true rfl) (fun _ => rfl) q430 (Or.inl rfl) h (fun v13 h => ?_)
        refine AW.iload_n dX5_shows_37 rfl ?_
        refine AW.aald (t := 107) dX5_shows_38 (Nat.le_of_ble_eq_true rfl) rfl (fun _ _ => rfl) h (fun v14 h => ?_)
        refine AW.iload_n dX5_shows_39 rfl ?_
        refine AW.sald (t := 103) dX5_shows_40 (Nat.le_of_ble_eq_true rfl) rfl h (fun v15 h => ?_)
        refine AW.isub dX5_shows_41 ?_
        exact AW.fewer (L' := [some (rV (some x0)), some (iV x1), none, none]) (And.intro rfl (And.intro rfl trivial)) (hj42 _ _ _ h)
      · refine AW.aload_n dX5_shows_23 rfl ?_
        refine AW.getR (t := 5) (k := 6) dX5_shows_24 ck5 (Nat.le_of_ble_eq_true rfl) (fun _ => rfl) q433 (Or.inl rfl) h (fun v16 h => ?_)
        refine AW.iload_n dX5_shows_27 rfl ?_
        refine AW.iald (t := 100) dX5_shows_28 (Nat.le_of_ble_eq_true rfl) rfl h (fun v17 h => ?_)
        refine AW.goto (tgt := 42) dX5_shows_29 (by decide) ?_
        exact AW.fewer (L' := [some (rV (some x0)), some (iV x1), none, none]) (And.intro rfl (And.intro rfl trivial)) (hj42 _ _ _ h)
  · refine AW.bipush dX5_shows_11 (by decide) ?_
    cases h
    exact AW.iret dX5_shows_13 rfl
theorem c_X5_shows {s0 : Hp} {x0 : Nat} {x1 : Int} {x2 : Int} {v : Int} {s1 : Hp} (h : f_X5_shows s0 x0 x1 x2 = some (v, s1)) : Ct m_X5_shows [rV (some x0), iV x1, iV x2] s0 (.inl (some (iV v)), s1) :=
  Ct.of2 (w_X5_shows s0 x0 x1 x2 h) (show plainName yX5_shows.cls = true by decide) rfl rfl rfl
abbrev m_X5_breaks : Mi := (yX5_breaks, cX5_breaks, none, 2, 2, 45, [])
theorem n_X5_breaks : nameOk yX5_breaks 1 := ⟨by decide, by decide, by decide +kernel⟩
def f_X5_breaks (s0 : Hp) (x0 : Nat) (x1 : Int) : Option (Unit × Hp) :=
  (gR s0 5 (some x0) 6).bind fun v1 => (gI s0 5 (some x0) 9).bind fun v2 => (rcv s0 5 (some x0)).bind fun b5 => bn (f_X5_shows s0 b5 x1 v2) fun v3 s4 => (sI s4 100 v1 x1 v3).bind fun s6 => (gR s6 5 (some x0) 5).bind fun v7 => (gI s6 5 (some x0) 9).bind fun v8 => (sI s6 100 v7 x1 v8).bind fun s9 => some ((), s9)
theorem w_X5_breaks {σ0 : Hp} {w : Unit × Hp} (s0 : Hp) (x0 : Nat) (x1 : Int) (h : f_X5_breaks s0 x0 x1 = some w) : AW m_X5_breaks σ0 (oU w) 0 [some (rV (some x0)), some (iV x1)] [] s0 := by
  unfold f_X5_breaks at h
  refine AW.aload_n dX5_breaks_0 rfl ?_
  refine AW.getR (t := 5) (k := 6) dX5_breaks_1 ck5 (Nat.le_of_ble_eq_true rfl) (fun _ => rfl) q433 (Or.inl rfl) h (fun v1 h => ?_)
  refine AW.iload_n dX5_breaks_4 rfl ?_
  refine AW.aload_n dX5_breaks_5 rfl ?_
  refine AW.iload_n dX5_breaks_6 rfl ?_
  refine AW.aload_n dX5_breaks_7 rfl ?_
  refine AW.getI (t := 5) (k := 9) dX5_breaks_8 ck5 (Nat.le_of_ble_eq_true rfl) (fun _ => rfl) q436 (Or.inl rfl) h (fun v2 h => ?_)
  refine AW.VI (M' := m_X5_shows) (t := 5) [iV x1, iV v2] [iV x1, rV v1] dX5_breaks_11 q1212 q1200 q1201 q132 q1202 ck5 rfl n_X5_shows rfl rfl rfl (fun _ _ _ e => c_X5_shows e) h (fun v3 s4 h => ?_)
  refine AW.iast (t := 100) dX5_breaks_14 (Nat.le_of_ble_eq_true rfl) mu100 rfl h (fun s6 h => ?_)
  refine AW.aload_n dX5_breaks_15 rfl ?_
  refine AW.getR (t := 5) (k := 5) dX5_breaks_16 ck5 (Nat.le_of_ble_eq_true rfl) (fun _ => rfl) q432 (Or.inl rfl) h (fun v7 h => ?_)
  refine AW.iload_n dX5_breaks_19 rfl ?_
  refine AW.aload_n dX5_breaks_20 rfl ?_
  refine AW.getI (t := 5) (k := 9) dX5_breaks_21 ck5 (Nat.le_of_ble_eq_true rfl) (fun _ => rfl) q436 (Or.inl rfl) h (fun v8 h => ?_)
  refine AW.iast (t := 100) dX5_breaks_24 (Nat.le_of_ble_eq_true rfl) mu100 rfl h (fun s9 h => ?_)
  cases h
  exact AW.vret dX5_breaks_25 rfl
theorem c_X5_breaks {s0 : Hp} {x0 : Nat} {x1 : Int} {v : Unit} {s1 : Hp} (h : f_X5_breaks s0 x0 x1 = some (v, s1)) : Ct m_X5_breaks [rV (some x0), iV x1] s0 (.inl none, s1) :=
  Ct.of2 (w_X5_breaks s0 x0 x1 h) (show plainName yX5_breaks.cls = true by decide) rfl rfl rfl
abbrev m_X5_goes : Mi := (yX5_goes, cX5_goes, (some .int), 8, 414, 24746, [])
theorem n_X5_goes : nameOk yX5_goes 2 := ⟨by decide, by decide, by decide +kernel⟩
def f_X5_goes (s0 : Hp) (x0 : Nat) (x1 : Option Nat) (x2 : Int) : Option (Int × Hp) :=
  (gR s0 4 x1 1).bind fun v1 => (rcv s0 18 v1).bind fun b4 => bn (f_J5_get s0 b4 x2) fun v2 s3 => (kst s3 [11] v2).bind fun v5 => (gR s3 11 v5 3).bind fun v6 => (gR s3 5 (some x0) 0).bind fun v7 => (aR s3 105 v7 x2).bind fun v8 => (gI s3 5 (some x0) 9).bind fun v9 => (aI s3 101 v8 v9).bind fun v10 => (gR s3 4 x1 0).bind fun v11 => (rcv s3 18 v11).bind fun b14 => bn (f_J5_get s3 b14 v10) fun v12 s13 => (kst s13 [10] v12).bind fun v15 => (gI s13 10 v15 2).bind fun v16 => (if ¬ v6 = none then ((gR s13 5 (some x0) 8).bind fun v17 => (gR s13 6 v17 0).bind fun v18 => (gI s13 5 (some x0) 9).bind fun v19 => (sI s13 100 v18 0 v19).bind fun s20 => (gR s20 5 (some x0) 8).bind fun v21 => (gR s20 6 v21 0).bind fun v22 => (sI s20 100 v22 1 v10).bind fun s23 => (gR s23 5 (some x0) 8).bind fun v24 => (gR s23 6 v24 0).bind fun v25 => (gR s23 5 (some x0) 1).bind fun v26 => (aR s23 105 v26 x2).bind fun v27 => (gI s23 5 (some x0) 9).bind fun v28 => (aI s23 101 v27 v28).bind fun v29 => (sI s23 100 v25 2 v29).bind fun s30 => (gR s30 5 (some x0) 8).bind fun v31 => (gR s30 6 v31 0).bind fun v32 => (sI s30 100 v32 3 (nrm x2)).bind fun s33 => (gR s33 5 (some x0) 8).bind fun v34 => (gR s33 6 v34 0).bind fun v35 => (sI s33 100 v35 4 v16).bind fun s36 => (gR s36 5 (some x0) 8).bind fun v37 => (gR s36 6 v37 0).bind fun v38 => (gI s36 5 (some x0) 9).bind fun v39 => (rcv s36 5 (some x0)).bind fun b42 => bn (f_X5_menIn s36 b42 x1 v10 v39) fun v40 s41 => bn (f_J8_bitCount s41 v40) fun v43 s44 => (sI s44 100 v38 5 (nrm (v43 - 1))).bind fun s45 => (gR s45 5 (some x0) 8).bind fun v46 => (rcv s45 12 v6).bind fun b49 => bn (f_X12_of s45 b49 v46) fun v47 s48 => jn (fun (s50 : Hp) (x1 : Option Nat) (x4 : Int) (y0 : Int) => (if ¬ nrm y0 = 0 then ((gR s50 4 x1 0).bind fun v51 => (rcv s50 18 v51).bind fun b54 => bn (f_J5_get s50 b54 x4) fun v52 s53 => (kst s53 [10] v52).bind fun v55 => (gR s53 10 v55 1).bind fun v56 => (aI s53 100 v56 (y0 - 1)).bind fun v57 => some (v57, s53)) else (some (nrm x4, s50)))) fun j168 => (if 0 ≤ nrm v47 then (if nrm (v16 + 1) = 0 then none else j168 s48 x1 v10 (rmI v47 (v16 + 1))) else (j168 s48 x1 v10 0))) else (some (v10, s13)))
theorem w_X5_goes {σ0 : Hp} {w : Int × Hp} (s0 : Hp) (x0 : Nat) (x1 : Option Nat) (x2 : Int) (h : f_X5_goes s0 x0 x1 x2 = some w) : AW m_X5_goes σ0 (oI w) 0 [some (rV (some x0)), some (rV x1), some (iV x2), none, none, none, none, none] [] s0 := by
  unfold f_X5_goes at h
  refine AW.aload_n dX5_goes_0 rfl ?_
  refine AW.getR (t := 4) (k := 1) dX5_goes_1 ck4 (Nat.le_of_ble_eq_true rfl) (fun _ => rfl) q360 (Or.inl rfl) h (fun v1 h => ?_)
  refine AW.iload_n dX5_goes_4 rfl ?_
  refine AW.VR (M' := m_J5_get) (t := 18) [iV x2] [] dX5_goes_5 q488 q489 q490 q131 q491 ck18 rfl n_J5_get rfl rfl rfl (fun _ _ _ e => c_J5_get e) h (fun v2 s3 h => ?_)
  refine AW.cast (ts := [11]) dX5_goes_8 q502 ca11 h (fun v5 h => ?_)
  refine AW.getR (t := 11) (k := 3) dX5_goes_11 ck11 (Nat.le_of_ble_eq_true rfl) (fun _ => rfl) q1032 (Or.inl rfl) h (fun v6 h => ?_)
  refine AW.astore_n (L' := [some (rV (some x0)), some (rV x1), some (iV x2), some (rV v6), none, none, none, none]) dX5_goes_14 (Nat.le_of_ble_eq_true rfl) rfl rfl ?_
  refine AW.aload_n dX5_goes_15 rfl ?_
  refine AW.getR (t := 5) (k := 0) dX5_goes_16 ck5 (Nat.le_of_ble_eq_true rfl) (fun _ => rfl) q421 (Or.inl rfl) h (fun v7 h => ?_)
  refine AW.iload_n dX5_goes_19 rfl ?_
  refine AW.aald (t := 105) dX5_goes_20 (Nat.le_of_ble_eq_true rfl) rfl (fun _ _ => rfl) h (fun v8 h => ?_)
  refine AW.aload_n dX5_goes_21 rfl ?_
  refine AW.getI (t := 5) (k := 9) dX5_goes_22 ck5 (Nat.le_of_ble_eq_true rfl) (fun _ => rfl) q436 (Or.inl rfl) h (fun v9 h => ?_)
  refine AW.bald (t := 101) dX5_goes_25 (Nat.le_of_ble_eq_true rfl) rfl h (fun v10 h => ?_)
  refine AW.istore (L' := [some (rV (some x0)), some (rV x1), some (iV x2), some (rV v6), some (iV v10), none, none, none]) dX5_goes_26 (Nat.le_of_ble_eq_true rfl) rfl rfl ?_
  refine AW.aload_n dX5_goes_28 rfl ?_
  refine AW.getR (t := 4) (k := 0) dX5_goes_29 ck4 (Nat.le_of_ble_eq_true rfl) (fun _ => rfl) q356 (Or.inl rfl) h (fun v11 h => ?_)
  refine AW.iload dX5_goes_32 rfl ?_
  refine AW.VR (M' := m_J5_get) (t := 18) [iV v10] [] dX5_goes_34 q488 q489 q490 q131 q491 ck18 rfl n_J5_get rfl rfl rfl (fun _ _ _ e => c_J5_get e) h (fun v12 s13 h => ?_)
  refine AW.cast (ts := [10]) dX5_goes_37 q512 ca10 h (fun v15 h => ?_)
  refine AW.getI (t := 10) (k := 2) dX5_goes_40 ck10 (Nat.le_of_ble_eq_true rfl) (fun _ => rfl) q946 (Or.inl rfl) h (fun v16 h => ?_)
  refine AW.istore (L' := [some (rV (some x0)), some (rV x1), some (iV x2), some (rV v6), some (iV v10), some (iV v16), none, none]) dX5_goes_43 (Nat.le_of_ble_eq_true rfl) rfl rfl ?_
  refine AW.aload_n dX5_goes_45 rfl ?_
  refine AW.ifnonnull 52 dX5_goes_46 (by decide) h (fun c61 h => ?_) (fun c61 h => ?_)
  · refine AW.aload_n dX5_goes_52 rfl ?_
    refine AW.getR (t := 5) (k := 8) dX5_goes_53 ck5 (Nat.le_of_ble_eq_true rfl) (fun _ => rfl) q435 (Or.inl rfl) h (fun v17 h => ?_)
    refine AW.getR (t := 6) (k := 0) dX5_goes_56 ck6 (Nat.le_of_ble_eq_true rfl) (fun _ => rfl) q411 (Or.inl rfl) h (fun v18 h => ?_)
    refine AW.iconst dX5_goes_59 ?_
    refine AW.aload_n dX5_goes_60 rfl ?_
    refine AW.getI (t := 5) (k := 9) dX5_goes_61 ck5 (Nat.le_of_ble_eq_true rfl) (fun _ => rfl) q436 (Or.inl rfl) h (fun v19 h => ?_)
    refine AW.iast (t := 100) dX5_goes_64 (Nat.le_of_ble_eq_true rfl) mu100 rfl h (fun s20 h => ?_)
    refine AW.aload_n dX5_goes_65 rfl ?_
    refine AW.getR (t := 5) (k := 8) dX5_goes_66 ck5 (Nat.le_of_ble_eq_true rfl) (fun _ => rfl) q435 (Or.inl rfl) h (fun v21 h => ?_)
    refine AW.getR (t := 6) (k := 0) dX5_goes_69 ck6 (Nat.le_of_ble_eq_true rfl) (fun _ => rfl) q411 (Or.inl rfl) h (fun v22 h => ?_)
    refine AW.iconst dX5_goes_72 ?_
    refine AW.iload dX5_goes_73 rfl ?_
    refine AW.iast (t := 100) dX5_goes_75 (Nat.le_of_ble_eq_true rfl) mu100 rfl h (fun s23 h => ?_)
    refine AW.aload_n dX5_goes_76 rfl ?_
    refine AW.getR (t := 5) (k := 8) dX5_goes_77 ck5 (Nat.le_of_ble_eq_true rfl) (fun _ => rfl) q435 (Or.inl rfl) h (fun v24 h => ?_)
    refine AW.getR (t := 6) (k := 0) dX5_goes_80 ck6 (Nat.le_of_ble_eq_true rfl) (fun _ => rfl) q411 (Or.inl rfl) h (fun v25 h => ?_)
    refine AW.iconst dX5_goes_83 ?_
    refine AW.aload_n dX5_goes_84 rfl ?_
    refine AW.getR (t := 5) (k := 1) dX5_goes_85 ck5 (Nat.le_of_ble_eq_true rfl) (fun _ => rfl) q423 (Or.inl rfl) h (fun v26 h => ?_)
    refine AW.iload_n dX5_goes_88 rfl ?_
    refine AW.aald (t := 105) dX5_goes_89 (Nat.le_of_ble_eq_true rfl) rfl (fun _ _ => rfl) h (fun v27 h => ?_)
    refine AW.aload_n dX5_goes_90 rfl ?_
    refine AW.getI (t := 5) (k := 9) dX5_goes_91 ck5 (Nat.le_of_ble_eq_true rfl) (fun _ => rfl) q436 (Or.inl rfl) h (fun v28 h => ?_)
    refine AW.bald (t := 101) dX5_goes_94 (Nat.le_of_ble_eq_true rfl) rfl h (fun v29 h => ?_)
    refine AW.iast (t := 100) dX5_goes_95 (Nat.le_of_ble_eq_true rfl) mu100 rfl h (fun s30 h => ?_)
    refine AW.aload_n dX5_goes_96 rfl ?_
    refine AW.getR (t := 5) (k := 8) dX5_goes_97 ck5 (Nat.le_of_ble_eq_true rfl) (fun _ => rfl) q435 (Or.inl rfl) h (fun v31 h => ?_)
    refine AW.getR (t := 6) (k := 0) dX5_goes_100 ck6 (Nat.le_of_ble_eq_true rfl) (fun _ => rfl) q411 (Or.inl rfl) h (fun v32 h => ?_)
    refine AW.iconst dX5_goes_103 ?_
    refine AW.iload_n dX5_goes_104 rfl ?_
    refine AW.nv ?_
    refine AW.iast (t := 100) dX5_goes_105 (Nat.le_of_ble_eq_true rfl) mu100 rfl h (fun s33 h => ?_)
    refine AW.aload_n dX5_goes_106 rfl ?_
    refine AW.getR (t := 5) (k := 8) dX5_goes_107 ck5 (Nat.le_of_ble_eq_true rfl) (fun _ => rfl) q435 (Or.inl rfl) h (fun v34 h => ?_)
    refine AW.getR (t := 6) (k := 0) dX5_goes_110 ck6 (Nat.le_of_ble_eq_true rfl) (fun _ => rfl) q411 (Or.inl rfl) h (fun v35 h => ?_)
    refine AW.iconst dX5_goes_113 ?_
    refine AW.iload dX5_goes_114 rfl ?_
    refine AW.iast (t := 100) dX5_goes_116 (Nat.le_of_ble_eq_true rfl) mu100 rfl h (fun s36 h => ?_)
    refine AW.aload_n dX5_goes_117 rfl ?_
    refine AW.getR (t := 5) (k := 8) dX5_goes_118 ck5 (Nat.le_of_ble_eq_true rfl) (fun _ => rfl) q435 (Or.inl rfl) h (fun v37 h => ?_)
    refine AW.getR (t := 6) (k := 0) dX5_goes_121 ck6 (Nat.le_of_ble_eq_true rfl) (fun _ => rfl) q411 (Or.inl rfl) h (fun v38 h => ?_)
    refine AW.iconst dX5_goes_124 ?_
    refine AW.aload_n dX5_goes_125 rfl ?_
    refine AW.aload_n dX5_goes_126 rfl ?_
    refine AW.iload dX5_goes_127 rfl ?_
    refine AW.aload_n dX5_goes_129 rfl ?_
    refine AW.getI (t := 5) (k := 9) dX5_goes_130 ck5 (Nat.le_of_ble_eq_true rfl) (fun _ => rfl) q436 (Or.inl rfl) h (fun v39 h => ?_)
    refine AW.VI (M' := m_X5_menIn) (t := 5) [rV x1, iV v10, iV v39] [iV 5, rV v38] dX5_goes_133 q513 q514 q515 q132 q516 ck5 rfl n_X5_menIn rfl rfl rfl (fun _ _ _ e => c_X5_menIn e) h (fun v40 s41 h => ?_)
    refine AW.SI (M' := m_J8_bitCount) [iV v40] [iV 5, rV v38] dX5_goes_136 q517 q518 q137 q519 n_J8_bitCount rfl rfl rfl (fun _ _ e => c_J8_bitCount e) h (fun v43 s44 h => ?_)
    refine AW.iconst dX5_goes_139 ?_
    refine AW.isub dX5_goes_140 ?_
    refine AW.nv ?_
    refine AW.iast (t := 100) dX5_goes_141 (Nat.le_of_ble_eq_true rfl) mu100 rfl h (fun s45 h => ?_)
    refine AW.aload_n dX5_goes_142 rfl ?_
    refine AW.aload_n dX5_goes_143 rfl ?_
    refine AW.getR (t := 5) (k := 8) dX5_goes_144 ck5 (Nat.le_of_ble_eq_true rfl) (fun _ => rfl) q435 (Or.inl rfl) h (fun v46 h => ?_)
    refine AW.VI (M' := m_X12_of) (t := 12) [rV v46] [] dX5_goes_147 q523 q524 q525 q151 q526 ck12 rfl n_X12_of rfl rfl rfl (fun _ _ _ e => c_X12_of e) h (fun v47 s48 h => ?_)
    refine AW.istore (L' := [some (rV (some x0)), some (rV x1), some (iV x2), some (rV v6), some (iV v10), some (iV v16), some (iV v47), none]) dX5_goes_150 (Nat.le_of_ble_eq_true rfl) rfl rfl ?_
    refine AW.iload dX5_goes_152 rfl ?_
    refine jn_elim h (fun (j : (Hp → Option Nat → Int → Int → Option (Int × Hp))) => ∀ (s50 : Hp) (x1 : Option Nat) (x4 : Int) (y0 : Int), j s50 x1 x4 y0 = some w → AW m_X5_goes σ0 (oI w) 168 [none, some (rV x1), none, none, some (iV x4), none, none, none] [iV y0] s50) ?_ (fun j168 hj168 h => ?_)
    · intro s50 x1 x4 y0 h
      refine AW.istore (L' := [none, some (rV x1), none, none, some (iV x4), none, none, some (iV y0)]) dX5_goes_168 (Nat.le_of_ble_eq_true rfl) rfl rfl ?_
      refine AW.iload dX5_goes_170 rfl ?_
      refine AW.if_ne 180 dX5_goes_172 (by decide) h (fun c58 h => ?_) (fun c58 h => ?_)
      · refine AW.aload_n dX5_goes_180 rfl ?_
        refine AW.getR (t := 4) (k := 0) dX5_goes_181 ck4 (Nat.le_of_ble_eq_true rfl) (fun _ => rfl) q356 (Or.inl rfl) h (fun v51 h => ?_)
        refine AW.iload dX5_goes_184 rfl ?_
        refine AW.VR (M' := m_J5_get) (t := 18) [iV x4] [] dX5_goes_186 q488 q489 q490 q131 q491 ck18 rfl n_J5_get rfl rfl rfl (fun _ _ _ e => c_J5_get e) h (fun v52 s53 h => ?_)
        refine AW.cast (ts := [10]) dX5_goes_189 q512 ca10 h (fun v55 h => ?_)
        refine AW.getR (t := 10) (k := 1) dX5_goes_192 ck10 (Nat.le_of_ble_eq_true rfl) (fun _ => rfl) q943 (Or.inl rfl) h (fun v56 h => ?_)
        refine AW.iload dX5_goes_195 rfl ?_
        refine AW.iconst dX5_goes_197 ?_
        refine AW.isub dX5_goes_198 ?_
        refine AW.iald (t := 100) dX5_goes_199 (Nat.le_of_ble_eq_true rfl) rfl h (fun v57 h => ?_)
        cases h
        exact AW.iret dX5_goes_200 rfl
      · refine AW.iload dX5_goes_175 rfl ?_
        refine AW.goto (tgt := 200) dX5_goes_177 (by decide) ?_
        refine AW.nv ?_
        cases h
        exact AW.iret dX5_goes_200 rfl
    · refine AW.if_ge 161 dX5_goes_154 (by decide) h (fun c60 h => ?_) (fun c60 h => ?_)
      · refine AW.iload dX5_goes_161 rfl ?_
        refine AW.iload dX5_goes_163 rfl ?_
        refine AW.iconst dX5_goes_165 ?_
        refine AW.iadd dX5_goes_166 ?_
        obtain ⟨hz59, h⟩ := nz_elim h
        refine AW.irem dX5_goes_167 hz59 ?_
        exact AW.fewer (L' := [none, some (rV x1), none, none, some (iV v10), none, none, none]) (And.intro rfl (And.intro rfl trivial)) (hj168 _ _ _ _ h)
      · refine AW.iconst dX5_goes_157 ?_
        refine AW.goto (tgt := 168) dX5_goes_158 (by decide) ?_
        exact AW.fewer (L' := [none, some (rV x1), none, none, some (iV v10), none, none, none]) (And.intro rfl (And.intro rfl trivial)) (hj168 _ _ _ _ h)
  · refine AW.iload dX5_goes_49 rfl ?_
    cases h
    exact AW.iret dX5_goes_51 rfl
theorem c_X5_goes {s0 : Hp} {x0 : Nat} {x1 : Option Nat} {x2 : Int} {v : Int} {s1 : Hp} (h : f_X5_goes s0 x0 x1 x2 = some (v, s1)) : Ct m_X5_goes [rV (some x0), rV x1, iV x2] s0 (.inl (some (iV v)), s1) :=
  Ct.of2 (w_X5_goes s0 x0 x1 x2 h) (show plainName yX5_goes.cls = true by decide) rfl rfl rfl
abbrev m_X5_goesBy : Mi := (yX5_goesBy, cX5_goesBy, none, 4, 416, 24792, [])
theorem n_X5_goesBy : nameOk yX5_goesBy 1 := ⟨by decide, by decide, by decide +kernel⟩
def f_X5_goesBy_L9 (x0 : Nat) : Nat → Hp → Option Nat → Int → Int → (Hp → Option Nat → Int → Option (Unit × Hp)) → Option (Unit × Hp)
  | 0, _, _, _, _, _ => none
  | n + 1, s0, x1, x2, x3, k => (gR s0 4 x1 1).bind fun v2 => (rcv s0 18 v2).bind fun b5 => bn (f_J5_size s0 b5) fun v3 s4 => (if nrm v3 ≤ nrm x3 then (k s4 x1 x2) else ((gR s4 5 (some x0) 7).bind fun v6 => (rcv s4 5 (some x0)).bind fun b9 => bn (f_X5_goes s4 b9 x1 x3) fun v7 s8 => (sI s8 100 v6 x3 v7).bind fun s10 => f_X5_goesBy_L9 x0 n s10 x1 x2 (x3 + 1) k))
theorem w_X5_goesBy_L9 {σ0 : Hp} {w : Unit × Hp} {x0 : Nat} : ∀ (n : Nat) (s0 : Hp) (x1 : Option Nat) (x2 : Int) (x3 : Int) (k : (Hp → Option Nat → Int → Option (Unit × Hp))), f_X5_goesBy_L9 x0 n s0 x1 x2 x3 k = some w → (∀ (s1 : Hp) (x1 : Option Nat) (x2 : Int), k s1 x1 x2 = some w → AW m_X5_goesBy σ0 (oU w) 38 [some (rV (some x0)), some (rV x1), some (iV x2), none] [] s1) → AW m_X5_goesBy σ0 (oU w) 9 [some (rV (some x0)), some (rV x1), some (iV x2), some (iV x3)] [] s0 := by
  intro n
  induction n with
  | zero =>
    intro s0 x1 x2 x3 k h hk
    rw [f_X5_goesBy_L9] at h
    cases h
  | succ n ih =>
    intro s0 x1 x2 x3 k h hk
    rw [f_X5_goesBy_L9] at h
    refine AW.iload_n dX5_goesBy_9 rfl ?_
    refine AW.aload_n dX5_goesBy_10 rfl ?_
    refine AW.getR (t := 4) (k := 1) dX5_goesBy_11 ck4 (Nat.le_of_ble_eq_true rfl) (fun _ => rfl) q360 (Or.inl rfl) h (fun v2 h => ?_)
    refine AW.VI (M' := m_J5_size) (t := 18) [] [iV x3] dX5_goesBy_14 q484 q485 q486 q131 q487 ck18 rfl n_J5_size rfl rfl rfl (fun _ _ _ e => c_J5_size e) h (fun v3 s4 h => ?_)
    refine AW.icmp_ge 38 dX5_goesBy_17 (by decide) h (fun c11 h => ?_) (fun c11 h => ?_)
    · exact AW.fewer (L' := [some (rV (some x0)), some (rV x1), some (iV x2), none]) (And.intro rfl (And.intro rfl (And.intro rfl trivial))) (hk _ _ _ h)
    · refine AW.aload_n dX5_goesBy_20 rfl ?_
      refine AW.getR (t := 5) (k := 7) dX5_goesBy_21 ck5 (Nat.le_of_ble_eq_true rfl) (fun _ => rfl) q434 (Or.inl rfl) h (fun v6 h => ?_)
      refine AW.iload_n dX5_goesBy_24 rfl ?_
      refine AW.aload_n dX5_goesBy_25 rfl ?_
      refine AW.aload_n dX5_goesBy_26 rfl ?_
      refine AW.iload_n dX5_goesBy_27 rfl ?_
      refine AW.VI (M' := m_X5_goes) (t := 5) [rV x1, iV x3] [iV x3, rV v6] dX5_goesBy_28 q1235 q1237 qs38 q132 q1238 ck5 rfl n_X5_goes rfl rfl rfl (fun _ _ _ e => c_X5_goes e) h (fun v7 s8 h => ?_)
      refine AW.iast (t := 100) dX5_goesBy_31 (Nat.le_of_ble_eq_true rfl) mu100 rfl h (fun s10 h => ?_)
      refine AW.iinc (L' := [some (rV (some x0)), some (rV x1), some (iV x2), some (iV (x3 + 1))]) dX5_goesBy_32 rfl (Nat.le_of_ble_eq_true rfl) rfl rfl ?_
      refine AW.goto (tgt := 9) dX5_goesBy_35 (by decide) ?_
      exact ih _ _ _ _ _ h hk
def f_X5_goesBy_L40 (x0 : Nat) : Nat → Hp → Option Nat → Int → Int → (Hp → Option Nat → Int → Option (Unit × Hp)) → Option (Unit × Hp)
  | 0, _, _, _, _, _ => none
  | n + 1, s0, x1, x2, x3, k => (gR s0 4 x1 1).bind fun v13 => (rcv s0 18 v13).bind fun b16 => bn (f_J5_size s0 b16) fun v14 s15 => (if nrm v14 ≤ nrm x3 then (k s15 x1 x2) else ((gR s15 5 (some x0) 0).bind fun v17 => (aR s15 105 v17 x3).bind fun v18 => (gR s15 5 (some x0) 7).bind fun v19 => (aI s15 100 v19 x3).bind fun v20 => (sI s15 101 v18 x2 (i8I (i8I v20))).bind fun s21 => (gR s21 5 (some x0) 1).bind fun v22 => (aR s21 105 v22 x3).bind fun v23 => (gR s21 5 (some x0) 1).bind fun v24 => (aR s21 105 v24 x3).bind fun v25 => (gI s21 5 (some x0) 9).bind fun v26 => (aI s21 101 v25 v26).bind fun v27 => (sI s21 101 v23 x2 (i8I v27)).bind fun s28 => f_X5_goesBy_L40 x0 n s28 x1 x2 (x3 + 1) k))
theorem w_X5_goesBy_L40 {σ0 : Hp} {w : Unit × Hp} {x0 : Nat} : ∀ (n : Nat) (s0 : Hp) (x1 : Option Nat) (x2 : Int) (x3 : Int) (k : (Hp → Option Nat → Int → Option (Unit × Hp))), f_X5_goesBy_L40 x0 n s0 x1 x2 x3 k = some w → (∀ (s1 : Hp) (x1 : Option Nat) (x2 : Int), k s1 x1 x2 = some w → AW m_X5_goesBy σ0 (oU w) 91 [some (rV (some x0)), some (rV x1), some (iV x2), none] [] s1) → AW m_X5_goesBy σ0 (oU w) 40 [some (rV (some x0)), some (rV x1), some (iV x2), some (iV x3)] [] s0 := by
  intro n
  induction n with
  | zero =>
    intro s0 x1 x2 x3 k h hk
    rw [f_X5_goesBy_L40] at h
    cases h
  | succ n ih =>
    intro s0 x1 x2 x3 k h hk
    rw [f_X5_goesBy_L40] at h
    refine AW.iload_n dX5_goesBy_40 rfl ?_
    refine AW.aload_n dX5_goesBy_41 rfl ?_
    refine AW.getR (t := 4) (k := 1) dX5_goesBy_42 ck4 (Nat.le_of_ble_eq_true rfl) (fun _ => rfl) q360 (Or.inl rfl) h (fun v13 h => ?_)
    refine AW.VI (M' := m_J5_size) (t := 18) [] [iV x3] dX5_goesBy_45 q484 q485 q486 q131 q487 ck18 rfl n_J5_size rfl rfl rfl (fun _ _ _ e => c_J5_size e) h (fun v14 s15 h => ?_)
    refine AW.icmp_ge 91 dX5_goesBy_48 (by decide) h (fun c29 h => ?_) (fun c29 h => ?_)
    · exact AW.fewer (L' := [some (rV (some x0)), some (rV x1), some (iV x2), none]) (And.intro rfl (And.intro rfl (And.intro rfl trivial))) (hk _ _ _ h)
    · refine AW.aload_n dX5_goesBy_51 rfl ?_
      refine AW.getR (t := 5) (k := 0) dX5_goesBy_52 ck5 (Nat.le_of_ble_eq_true rfl) (fun _ => rfl) q421 (Or.inl rfl) h (fun v17 h => ?_)
      refine AW.iload_n dX5_goesBy_55 rfl ?_
      refine AW.aald (t := 105) dX5_goesBy_56 (Nat.le_of_ble_eq_true rfl) rfl (fun _ _ => rfl) h (fun v18 h => ?_)
      refine AW.iload_n dX5_goesBy_57 rfl ?_
      refine AW.aload_n dX5_goesBy_58 rfl ?_
      refine AW.getR (t := 5) (k := 7) dX5_goesBy_59 ck5 (Nat.le_of_ble_eq_true rfl) (fun _ => rfl) q434 (Or.inl rfl) h (fun v19 h => ?_)
      refine AW.iload_n dX5_goesBy_62 rfl ?_
      refine AW.iald (t := 100) dX5_goesBy_63 (Nat.le_of_ble_eq_true rfl) rfl h (fun v20 h => ?_)
      refine AW.i2b dX5_goesBy_64 ?_
      refine AW.bast (t := 101) dX5_goesBy_65 (Nat.le_of_ble_eq_true rfl) mu101 rfl h (fun s21 h => ?_)
      refine AW.aload_n dX5_goesBy_66 rfl ?_
      refine AW.getR (t := 5) (k := 1) dX5_goesBy_67 ck5 (Nat.le_of_ble_eq_true rfl) (fun _ => rfl) q423 (Or.inl rfl) h (fun v22 h => ?_)
      refine AW.iload_n dX5_goesBy_70 rfl ?_
      refine AW.aald (t := 105) dX5_goesBy_71 (Nat.le_of_ble_eq_true rfl) rfl (fun _ _ => rfl) h (fun v23 h => ?_)
      refine AW.iload_n dX5_goesBy_72 rfl ?_
      refine AW.aload_n dX5_goesBy_73 rfl ?_
      refine AW.getR (t := 5) (k := 1) dX5_goesBy_74 ck5 (Nat.le_of_ble_eq_true rfl) (fun _ => rfl) q423 (Or.inl rfl) h (fun v24 h => ?_)
      refine AW.iload_n dX5_goesBy_77 rfl ?_
      refine AW.aald (t := 105) dX5_goesBy_78 (Nat.le_of_ble_eq_true rfl) rfl (fun _ _ => rfl) h (fun v25 h => ?_)
      refine AW.aload_n dX5_goesBy_79 rfl ?_
      refine AW.getI (t := 5) (k := 9) dX5_goesBy_80 ck5 (Nat.le_of_ble_eq_true rfl) (fun _ => rfl) q436 (Or.inl rfl) h (fun v26 h => ?_)
      refine AW.bald (t := 101) dX5_goesBy_83 (Nat.le_of_ble_eq_true rfl) rfl h (fun v27 h => ?_)
      refine AW.bast (t := 101) dX5_goesBy_84 (Nat.le_of_ble_eq_true rfl) mu101 rfl h (fun s28 h => ?_)
      refine AW.iinc (L' := [some (rV (some x0)), some (rV x1), some (iV x2), some (iV (x3 + 1))]) dX5_goesBy_85 rfl (Nat.le_of_ble_eq_true rfl) rfl rfl ?_
      refine AW.goto (tgt := 40) dX5_goesBy_88 (by decide) ?_
      exact ih _ _ _ _ _ h hk
def f_X5_goesBy_L93 (x0 : Nat) : Nat → Hp → Option Nat → Int → Int → (Hp → Option Nat → Int → Option (Unit × Hp)) → Option (Unit × Hp)
  | 0, _, _, _, _, _ => none
  | n + 1, s0, x1, x2, x3, k => (gR s0 4 x1 2).bind fun v31 => (rcv s0 18 v31).bind fun b34 => bn (f_J5_size s0 b34) fun v32 s33 => (if nrm v32 ≤ nrm x3 then (k s33 x1 x2) else ((gR s33 5 (some x0) 2).bind fun v35 => (aR s33 105 v35 x3).bind fun v36 => (gR s33 5 (some x0) 2).bind fun v37 => (aR s33 105 v37 x3).bind fun v38 => (gI s33 5 (some x0) 9).bind fun v39 => (aI s33 101 v38 v39).bind fun v40 => (sI s33 101 v36 x2 (i8I v40)).bind fun s41 => (gR s41 5 (some x0) 3).bind fun v42 => (aR s41 106 v42 x3).bind fun v43 => (gR s41 5 (some x0) 3).bind fun v44 => (aR s41 106 v44 x3).bind fun v45 => (gI s41 5 (some x0) 9).bind fun v46 => (aI s41 102 v45 v46).bind fun v47 => (sI s41 102 v43 x2 (b1I v47)).bind fun s48 => f_X5_goesBy_L93 x0 n s48 x1 x2 (x3 + 1) k))
theorem w_X5_goesBy_L93 {σ0 : Hp} {w : Unit × Hp} {x0 : Nat} : ∀ (n : Nat) (s0 : Hp) (x1 : Option Nat) (x2 : Int) (x3 : Int) (k : (Hp → Option Nat → Int → Option (Unit × Hp))), f_X5_goesBy_L93 x0 n s0 x1 x2 x3 k = some w → (∀ (s1 : Hp) (x1 : Option Nat) (x2 : Int), k s1 x1 x2 = some w → AW m_X5_goesBy σ0 (oU w) 148 [some (rV (some x0)), some (rV x1), some (iV x2), none] [] s1) → AW m_X5_goesBy σ0 (oU w) 93 [some (rV (some x0)), some (rV x1), some (iV x2), some (iV x3)] [] s0 := by
  intro n
  induction n with
  | zero =>
    intro s0 x1 x2 x3 k h hk
    rw [f_X5_goesBy_L93] at h
    cases h
  | succ n ih =>
    intro s0 x1 x2 x3 k h hk
    rw [f_X5_goesBy_L93] at h
    refine AW.iload_n dX5_goesBy_93 rfl ?_
    refine AW.aload_n dX5_goesBy_94 rfl ?_
    refine AW.getR (t := 4) (k := 2) dX5_goesBy_95 ck4 (Nat.le_of_ble_eq_true rfl) (fun _ => rfl) q364 (Or.inl rfl) h (fun v31 h => ?_)
    refine AW.VI (M' := m_J5_size) (t := 18) [] [iV x3] dX5_goesBy_98 q484 q485 q486 q131 q487 ck18 rfl n_J5_size rfl rfl rfl (fun _ _ _ e => c_J5_size e) h (fun v32 s33 h => ?_)
    refine AW.icmp_ge 148 dX5_goesBy_101 (by decide) h (fun c49 h => ?_) (fun c49 h => ?_)
    · exact AW.fewer (L' := [some (rV (some x0)), some (rV x1), some (iV x2), none]) (And.intro rfl (And.intro rfl (And.intro rfl trivial))) (hk _ _ _ h)
    · refine AW.aload_n dX5_goesBy_104 rfl ?_
      refine AW.getR (t := 5) (k := 2) dX5_goesBy_105 ck5 (Nat.le_of_ble_eq_true rfl) (fun _ => rfl) q425 (Or.inl rfl) h (fun v35 h => ?_)
      refine AW.iload_n dX5_goesBy_108 rfl ?_
      refine AW.aald (t := 105) dX5_goesBy_109 (Nat.le_of_ble_eq_true rfl) rfl (fun _ _ => rfl) h (fun v36 h => ?_)
      refine AW.iload_n dX5_goesBy_110 rfl ?_
      refine AW.aload_n dX5_goesBy_111 rfl ?_
      refine AW.getR (t := 5) (k := 2) dX5_goesBy_112 ck5 (Nat.le_of_ble_eq_true rfl) (fun _ => rfl) q425 (Or.inl rfl) h (fun v37 h => ?_)
      refine AW.iload_n dX5_goesBy_115 rfl ?_
      refine AW.aald (t := 105) dX5_goesBy_116 (Nat.le_of_ble_eq_true rfl) rfl (fun _ _ => rfl) h (fun v38 h => ?_)
      refine AW.aload_n dX5_goesBy_117 rfl ?_
      refine AW.getI (t := 5) (k := 9) dX5_goesBy_118 ck5 (Nat.le_of_ble_eq_true rfl) (fun _ => rfl) q436 (Or.inl rfl) h (fun v39 h => ?_)
      refine AW.bald (t := 101) dX5_goesBy_121 (Nat.le_of_ble_eq_true rfl) rfl h (fun v40 h => ?_)
      refine AW.bast (t := 101) dX5_goesBy_122 (Nat.le_of_ble_eq_true rfl) mu101 rfl h (fun s41 h => ?_)
      refine AW.aload_n dX5_goesBy_123 rfl ?_
      refine AW.getR (t := 5) (k := 3) dX5_goesBy_124 ck5 (Nat.le_of_ble_eq_true rfl) (fun _ => rfl) q428 (Or.inl rfl) h (fun v42 h => ?_)
      refine AW.iload_n dX5_goesBy_127 rfl ?_
      refine AW.aald (t := 106) dX5_goesBy_128 (Nat.le_of_ble_eq_true rfl) rfl (fun _ _ => rfl) h (fun v43 h => ?_)
      refine AW.iload_n dX5_goesBy_129 rfl ?_
      refine AW.aload_n dX5_goesBy_130 rfl ?_
      refine AW.getR (t := 5) (k := 3) dX5_goesBy_131 ck5 (Nat.le_of_ble_eq_true rfl) (fun _ => rfl) q428 (Or.inl rfl) h (fun v44 h => ?_)
      refine AW.iload_n dX5_goesBy_134 rfl ?_
      refine AW.aald (t := 106) dX5_goesBy_135 (Nat.le_of_ble_eq_true rfl) rfl (fun _ _ => rfl) h (fun v45 h => ?_)
      refine AW.aload_n dX5_goesBy_136 rfl ?_
      refine AW.getI (t := 5) (k := 9) dX5_goesBy_137 ck5 (Nat.le_of_ble_eq_true rfl) (fun _ => rfl) q436 (Or.inl rfl) h (fun v46 h => ?_)
      refine AW.zald (t := 102) dX5_goesBy_140 (Nat.le_of_ble_eq_true rfl) rfl h (fun v47 h => ?_)
      refine AW.zast (t := 102) dX5_goesBy_141 (Nat.le_of_ble_eq_true rfl) mu102 rfl h (fun s48 h => ?_)
      refine AW.iinc (L' := [some (rV (some x0)), some (rV x1), some (iV x2), some (iV (x3 + 1))]) dX5_goesBy_142 rfl (Nat.le_of_ble_eq_true rfl) rfl rfl ?_
      refine AW.goto (tgt := 93) dX5_goesBy_145 (by decide) ?_
      exact ih _ _ _ _ _ h hk
def f_X5_goesBy_L160 (x0 : Nat) : Nat → Hp → Option Nat → Int → (Hp → Option (Unit × Hp)) → Option (Unit × Hp)
  | 0, _, _, _, _ => none
  | n + 1, s0, x1, x3, k => (gR s0 4 x1 2).bind fun v54 => (rcv s0 18 v54).bind fun b57 => bn (f_J5_size s0 b57) fun v55 s56 => (if nrm v55 ≤ nrm x3 then (k s56) else ((gI s56 5 (some x0) 9).bind fun v58 => (rcv s56 5 (some x0)).bind fun b61 => bn (f_X5_isBroken s56 b61 x3 v58) fun v59 s60 => (if ¬ nrm v59 = 0 then (f_X5_goesBy_L160 x0 n s60 x1 (x3 + 1) k) else ((gI s60 5 (some x0) 10).bind fun v62 => (gI s60 5 (some x0) 9).bind fun v63 => bn (f_X0_lot s60 v62 ((8 * v63) + x3) 100) fun v64 s65 => (gI s65 4 x1 4).bind fun v66 => (if nrm v66 ≤ nrm v64 then (f_X5_goesBy_L160 x0 n s65 x1 (x3 + 1) k) else ((rcv s65 5 (some x0)).bind fun b68 => bn (f_X5_breaks s65 b68 x3) fun _ s67 => f_X5_goesBy_L160 x0 n s67 x1 (x3 + 1) k))))))
theorem w_X5_goesBy_L160 {σ0 : Hp} {w : Unit × Hp} {x0 : Nat} : ∀ (n : Nat) (s0 : Hp) (x1 : Option Nat) (x3 : Int) (k : (Hp → Option (Unit × Hp))), f_X5_goesBy_L160 x0 n s0 x1 x3 k = some w → (∀ (s1 : Hp), k s1 = some w → AW m_X5_goesBy σ0 (oU w) 219 [none, none, none, none] [] s1) → AW m_X5_goesBy σ0 (oU w) 160 [some (rV (some x0)), some (rV x1), none, some (iV x3)] [] s0 := by
  intro n
  induction n with
  | zero =>
    intro s0 x1 x3 k h hk
    rw [f_X5_goesBy_L160] at h
    cases h
  | succ n ih =>
    intro s0 x1 x3 k h hk
    rw [f_X5_goesBy_L160] at h
    refine AW.iload_n dX5_goesBy_160 rfl ?_
    refine AW.aload_n dX5_goesBy_161 rfl ?_
    refine AW.getR (t := 4) (k := 2) dX5_goesBy_162 ck4 (Nat.le_of_ble_eq_true rfl) (fun _ => rfl) q364 (Or.inl rfl) h (fun v54 h => ?_)
    refine AW.VI (M' := m_J5_size) (t := 18) [] [iV x3] dX5_goesBy_165 q484 q485 q486 q131 q487 ck18 rfl n_J5_size rfl rfl rfl (fun _ _ _ e => c_J5_size e) h (fun v55 s56 h => ?_)
    refine AW.icmp_ge 219 dX5_goesBy_168 (by decide) h (fun c71 h => ?_) (fun c71 h => ?_)
    · exact AW.fewer (L' := [none, none, none, none]) (trivial) (hk _ h)
    · refine AW.aload_n dX5_goesBy_171 rfl ?_
      refine AW.iload_n dX5_goesBy_172 rfl ?_
      refine AW.aload_n dX5_goesBy_173 rfl ?_
      refine AW.getI (t := 5) (k := 9) dX5_goesBy_174 ck5 (Nat.le_of_ble_eq_true rfl) (fun _ => rfl) q436 (Or.inl rfl) h (fun v58 h => ?_)
      refine AW.VI (M' := m_X5_isBroken) (t := 5) [iV x3, iV v58] [] dX5_goesBy_177 q1203 q1204 q1205 q132 q1206 ck5 rfl n_X5_isBroken rfl rfl rfl (fun _ _ _ e => c_X5_isBroken e) h (fun v59 s60 h => ?_)
      refine AW.if_ne 213 dX5_goesBy_180 (by decide) h (fun c70 h => ?_) (fun c70 h => ?_)
      · refine AW.iinc (L' := [some (rV (some x0)), some (rV x1), none, some (iV (x3 + 1))]) dX5_goesBy_213 rfl (Nat.le_of_ble_eq_true rfl) rfl rfl ?_
        refine AW.goto (tgt := 160) dX5_goesBy_216 (by decide) ?_
        exact ih _ _ _ _ h hk
      · refine AW.aload_n dX5_goesBy_183 rfl ?_
        refine AW.getI (t := 5) (k := 10) dX5_goesBy_184 ck5 (Nat.le_of_ble_eq_true rfl) (fun _ => rfl) q438 (Or.inl rfl) h (fun v62 h => ?_)
        refine AW.bipush dX5_goesBy_187 (by decide) ?_
        refine AW.aload_n dX5_goesBy_189 rfl ?_
        refine AW.getI (t := 5) (k := 9) dX5_goesBy_190 ck5 (Nat.le_of_ble_eq_true rfl) (fun _ => rfl) q436 (Or.inl rfl) h (fun v63 h => ?_)
        refine AW.imul dX5_goesBy_193 ?_
        refine AW.iload_n dX5_goesBy_194 rfl ?_
        refine AW.iadd dX5_goesBy_195 ?_
        refine AW.bipush dX5_goesBy_196 (by decide) ?_
        refine AW.NS (M' := m_X0_lot) [iV v62, iV ((8 * v63) + x3), iV 100] [] dX5_goesBy_198 (by decide) q1240 q121 q1241 n_X0_lot rfl rfl rfl (fun _ _ e => c_X0_lot e) h (fun v64 s65 h => ?_)
        refine AW.aload_n dX5_goesBy_201 rfl ?_
        refine AW.getI (t := 4) (k := 4) dX5_goesBy_202 ck4 (Nat.le_of_ble_eq_true rfl) (fun _ => rfl) q369 (Or.inl rfl) h (fun v66 h => ?_)
        refine AW.icmp_ge 213 dX5_goesBy_205 (by decide) h (fun c69 h => ?_) (fun c69 h => ?_)
        · refine AW.iinc (L' := [some (rV (some x0)), some (rV x1), none, some (iV (x3 + 1))]) dX5_goesBy_213 rfl (Nat.le_of_ble_eq_true rfl) rfl rfl ?_
          refine AW.goto (tgt := 160) dX5_goesBy_216 (by decide) ?_
          exact ih _ _ _ _ h hk
        · refine AW.aload_n dX5_goesBy_208 rfl ?_
          refine AW.iload_n dX5_goesBy_209 rfl ?_
          refine AW.VU (M' := m_X5_breaks) (t := 5) [iV x3] [] dX5_goesBy_210 q1246 q1247 q1248 q132 q1249 ck5 rfl n_X5_breaks rfl rfl rfl (fun _ _ _ e => c_X5_breaks e) h (fun _ s67 h => ?_)
          refine AW.iinc (L' := [some (rV (some x0)), some (rV x1), none, some (iV (x3 + 1))]) dX5_goesBy_213 rfl (Nat.le_of_ble_eq_true rfl) rfl rfl ?_
          refine AW.goto (tgt := 160) dX5_goesBy_216 (by decide) ?_
          exact ih _ _ _ _ h hk
def f_X5_goesBy (s0 : Hp) (x0 : Nat) (x1 : Option Nat) : Option (Unit × Hp) :=
  (gI s0 5 (some x0) 9).bind fun v1 => f_X5_goesBy_L9 x0 FU s0 x1 (v1 + 1) 0 (fun s12 x1 x2 => f_X5_goesBy_L40 x0 FU s12 x1 x2 0 (fun s30 x1 x2 => f_X5_goesBy_L93 x0 FU s30 x1 x2 0 (fun s50 x1 x2 => (pI s50 5 (some x0) 9 (nrm x2)).bind fun s51 => (rcv s51 5 (some x0)).bind fun b53 => bn (f_X5_looks s51 b53 x1) fun _ s52 => f_X5_goesBy_L160 x0 FU s52 x1 0 (fun s72 => some ((), s72)))))
theorem w_X5_goesBy {σ0 : Hp} {w : Unit × Hp} (s0 : Hp) (x0 : Nat) (x1 : Option Nat) (h : f_X5_goesBy s0 x0 x1 = some w) : AW m_X5_goesBy σ0 (oU w) 0 [some (rV (some x0)), some (rV x1), none, none] [] s0 := by
  unfold f_X5_goesBy at h
  refine AW.aload_n dX5_goesBy_0 rfl ?_
  refine AW.getI (t := 5) (k := 9) dX5_goesBy_1 ck5 (Nat.le_of_ble_eq_true rfl) (fun _ => rfl) q436 (Or.inl rfl) h (fun v1 h => ?_)
  refine AW.iconst dX5_goesBy_4 ?_
  refine AW.iadd dX5_goesBy_5 ?_
  refine AW.istore_n (L' := [some (rV (some x0)), some (rV x1), some (iV (v1 + 1)), none]) dX5_goesBy_6 (Nat.le_of_ble_eq_true rfl) rfl rfl ?_
  refine AW.iconst dX5_goesBy_7 ?_
  refine AW.istore_n (L' := [some (rV (some x0)), some (rV x1), some (iV (v1 + 1)), some (iV 0)]) dX5_goesBy_8 (Nat.le_of_ble_eq_true rfl) rfl rfl ?_
  refine w_X5_goesBy_L9 _ _ _ _ _ _ h (fun s12 x1 x2 h => ?_)
  refine AW.iconst dX5_goesBy_38 ?_
  refine AW.istore_n (L' := [some (rV (some x0)), some (rV x1), some (iV x2), some (iV 0)]) dX5_goesBy_39 (Nat.le_of_ble_eq_true rfl) rfl rfl ?_
  refine w_X5_goesBy_L40 _ _ _ _ _ _ h (fun s30 x1 x2 h => ?_)
  refine AW.iconst dX5_goesBy_91 ?_
  refine AW.istore_n (L' := [some (rV (some x0)), some (rV x1), some (iV x2), some (iV 0)]) dX5_goesBy_92 (Nat.le_of_ble_eq_true rfl) rfl rfl ?_
  refine w_X5_goesBy_L93 _ _ _ _ _ _ h (fun s50 x1 x2 h => ?_)
  refine AW.aload_n dX5_goesBy_148 rfl ?_
  refine AW.iload_n dX5_goesBy_149 rfl ?_
  refine AW.nv ?_
  refine AW.putI (t := 5) (k := 9) dX5_goesBy_150 ck5 mu5 (Nat.le_of_ble_eq_true rfl) rfl q436 (Or.inl rfl) (Or.inl rfl) h (fun s51 h => ?_)
  refine AW.aload_n dX5_goesBy_153 rfl ?_
  refine AW.aload_n dX5_goesBy_154 rfl ?_
  refine AW.VU (M' := m_X5_looks) (t := 5) [rV x1] [] dX5_goesBy_155 q504 q505 q506 q132 q507 ck5 rfl n_X5_looks rfl rfl rfl (fun _ _ _ e => c_X5_looks e) h (fun _ s52 h => ?_)
  refine AW.iconst dX5_goesBy_158 ?_
  refine AW.istore_n (L' := [some (rV (some x0)), some (rV x1), some (iV x2), some (iV 0)]) dX5_goesBy_159 (Nat.le_of_ble_eq_true rfl) rfl rfl ?_
  refine AW.fewer (L' := [some (rV (some x0)), some (rV x1), none, some (iV 0)]) (And.intro rfl (And.intro rfl (And.intro rfl trivial))) ?_
  refine w_X5_goesBy_L160 _ _ _ _ _ h (fun s72 h => ?_)
  cases h
  exact AW.vret dX5_goesBy_219 rfl
theorem c_X5_goesBy {s0 : Hp} {x0 : Nat} {x1 : Option Nat} {v : Unit} {s1 : Hp} (h : f_X5_goesBy s0 x0 x1 = some (v, s1)) : Ct m_X5_goesBy [rV (some x0), rV x1] s0 (.inl none, s1) :=
  Ct.of2 (w_X5_goesBy s0 x0 x1 h) (show plainName yX5_goesBy.cls = true by decide) rfl rfl rfl
