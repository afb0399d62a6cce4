set_option maxRecDepth 100000
abbrev m_X0_goesToEnd : Mi := (yX0_goesToEnd, cX0_goesToEnd, none, 1, 418, 24838, [])
theorem n_X0_goesToEnd : nameOk yX0_goesToEnd 0 := ⟨by decide, by decide, by decide +kernel⟩
def f_X0_goesToEnd (s0 : Hp) (x0 : Nat) : Option (Unit × Hp) :=
  (gR s0 0 (some x0) 8).bind fun v1 => (gR s0 0 (some x0) 7).bind fun v2 => (rcv s0 5 v1).bind fun b4 => bn (f_X5_takes s0 b4 v2) fun _ s3 => (gR s3 0 (some x0) 8).bind fun v5 => (rcv s3 0 (some x0)).bind fun b7 => bn (f_X0_runs s3 b7 v5 300) fun _ s6 => some ((), s6)
theorem w_X0_goesToEnd {σ0 : Hp} {w : Unit × Hp} (s0 : Hp) (x0 : Nat) (h : f_X0_goesToEnd s0 x0 = some w) : AW m_X0_goesToEnd σ0 (oU w) 0 [some (rV (some x0))] [] s0 := by
  unfold f_X0_goesToEnd at h
  refine AW.aload_n dX0_goesToEnd_0 rfl ?_
  refine AW.getR (t := 0) (k := 8) dX0_goesToEnd_1 ck0 (Nat.le_of_ble_eq_true rfl) (fun _ => rfl) q554 (Or.inl rfl) h (fun v1 h => ?_)
  refine AW.aload_n dX0_goesToEnd_4 rfl ?_
  refine AW.getR (t := 0) (k := 7) dX0_goesToEnd_5 ck0 (Nat.le_of_ble_eq_true rfl) (fun _ => rfl) q553 (Or.inl rfl) h (fun v2 h => ?_)
  refine AW.VU (M' := m_X5_takes) (t := 5) [rV v2] [] dX0_goesToEnd_8 q1221 q1222 q1223 q132 q1224 ck5 rfl n_X5_takes rfl rfl rfl (fun _ _ _ e => c_X5_takes e) h (fun _ s3 h => ?_)
  refine AW.aload_n dX0_goesToEnd_11 rfl ?_
  refine AW.aload_n dX0_goesToEnd_12 rfl ?_
  refine AW.getR (t := 0) (k := 8) dX0_goesToEnd_13 ck0 (Nat.le_of_ble_eq_true rfl) (fun _ => rfl) q554 (Or.inl rfl) h (fun v5 h => ?_)
  refine AW.sipush dX0_goesToEnd_16 (by decide) ?_
  refine AW.VU (M' := m_X0_runs) (t := 0) [rV v5, iV 300] [] dX0_goesToEnd_19 q1227 q1229 qs37 q121 q1230 ck0 rfl n_X0_runs rfl rfl rfl (fun _ _ _ e => c_X0_runs e) h (fun _ s6 h => ?_)
  cases h
  exact AW.vret dX0_goesToEnd_22 rfl
theorem c_X0_goesToEnd {s0 : Hp} {x0 : Nat} {v : Unit} {s1 : Hp} (h : f_X0_goesToEnd s0 x0 = some (v, s1)) : Ct m_X0_goesToEnd [rV (some x0)] s0 (.inl none, s1) :=
  Ct.of2 (w_X0_goesToEnd s0 x0 h) (show plainName yX0_goesToEnd.cls = true by decide) rfl rfl rfl
abbrev m_X0_has : Mi := (yX0_has, cX0_has, (some .int), 4, 4, 93, [])
theorem n_X0_has : nameOk yX0_has 3 := ⟨by decide, by decide, by decide +kernel⟩
def f_X0_has (s0 : Hp) (x0 : Nat) (x1 : Int) (x2 : Int) (x3 : Int) : Option (Int × Hp) :=
  (gR s0 0 (some x0) 7).bind fun v1 => (gI s0 5 v1 9).bind fun v2 => (rcv s0 0 (some x0)).bind fun b5 => bn (f_X0_menFrom s0 b5 x1 v2) fun v3 s4 => bn (f_J8_bitCount s4 (anI v3 x2)) fun v6 s7 => (if nrm x3 = 0 then (some (nrm (v6 - 0), s7)) else (some (nrm (v6 - 2), s7)))
theorem w_X0_has {σ0 : Hp} {w : Int × Hp} (s0 : Hp) (x0 : Nat) (x1 : Int) (x2 : Int) (x3 : Int) (h : f_X0_has s0 x0 x1 x2 x3 = some w) : AW m_X0_has σ0 (oI w) 0 [some (rV (some x0)), some (iV x1), some (iV x2), some (iV x3)] [] s0 := by
  unfold f_X0_has at h
  refine AW.aload_n dX0_has_0 rfl ?_
  refine AW.iload_n dX0_has_1 rfl ?_
  refine AW.aload_n dX0_has_2 rfl ?_
  refine AW.getR (t := 0) (k := 7) dX0_has_3 ck0 (Nat.le_of_ble_eq_true rfl) (fun _ => rfl) q553 (Or.inl rfl) h (fun v1 h => ?_)
  refine AW.getI (t := 5) (k := 9) dX0_has_6 ck5 (Nat.le_of_ble_eq_true rfl) (fun _ => rfl) q437 (Or.inl rfl) h (fun v2 h => ?_)
  refine AW.VI (M' := m_X0_menFrom) (t := 0) [iV x1, iV v2] [] dX0_has_9 q1339 q1341 qs42 q121 q1342 ck0 rfl n_X0_menFrom rfl rfl rfl (fun _ _ _ e => c_X0_menFrom e) h (fun v3 s4 h => ?_)
  refine AW.iload_n dX0_has_12 rfl ?_
  refine AW.iand dX0_has_13 ?_
  refine AW.SI (M' := m_J8_bitCount) [iV (anI v3 x2)] [] dX0_has_14 q1368 q518 q137 q519 n_J8_bitCount rfl rfl rfl (fun _ _ e => c_J8_bitCount e) h (fun v6 s7 h => ?_)
  refine AW.iload_n dX0_has_17 rfl ?_
  refine AW.if_eq 25 dX0_has_18 (by decide) h (fun c8 h => ?_) (fun c8 h => ?_)
  · refine AW.iconst dX0_has_25 ?_
    refine AW.isub dX0_has_26 ?_
    refine AW.nv ?_
    cases h
    exact AW.iret dX0_has_27 rfl
  · refine AW.iconst dX0_has_21 ?_
    refine AW.goto (tgt := 26) dX0_has_22 (by decide) ?_
    refine AW.isub dX0_has_26 ?_
    refine AW.nv ?_
    cases h
    exact AW.iret dX0_has_27 rfl
theorem c_X0_has {s0 : Hp} {x0 : Nat} {x1 : Int} {x2 : Int} {x3 : Int} {v : Int} {s1 : Hp} (h : f_X0_has s0 x0 x1 x2 x3 = some (v, s1)) : Ct m_X0_has [rV (some x0), iV x1, iV x2, iV x3] s0 (.inl (some (iV v)), s1) :=
  Ct.of2 (w_X0_has s0 x0 x1 x2 x3 h) (show plainName yX0_has.cls = true by decide) rfl rfl rfl
abbrev m_X0_isWatched : Mi := (yX0_isWatched, cX0_isWatched, (some .boolean), 3, 2, 40, [])
theorem n_X0_isWatched : nameOk yX0_isWatched 1 := ⟨by decide, by decide, by decide +kernel⟩
def f_X0_isWatched_L2 (x0 : Nat) : Nat → Hp → Int → Int → (Hp → Option (Int × Hp)) → Option (Int × Hp)
  | 0, _, _, _, _ => none
  | n + 1, s0, x1, x2, k => (rcv s0 0 (some x0)).bind fun b3 => bn (f_X0_mirrors s0 b3) fun v1 s2 => (if nrm v1 ≤ nrm x2 then (k s2) else ((gR s2 0 (some x0) 7).bind fun v4 => (gR s2 5 v4 2).bind fun v5 => (aR s2 105 v5 x2).bind fun v6 => (gR s2 0 (some x0) 7).bind fun v7 => (gI s2 5 v7 9).bind fun v8 => (aI s2 101 v6 v8).bind fun v9 => (if ¬ nrm v9 = nrm x1 then (f_X0_isWatched_L2 x0 n s2 x1 (x2 + 1) k) else ((gR s2 0 (some x0) 7).bind fun v10 => (gR s2 5 v10 3).bind fun v11 => (aR s2 106 v11 x2).bind fun v12 => (gR s2 0 (some x0) 7).bind fun v13 => (gI s2 5 v13 9).bind fun v14 => (aI s2 102 v12 v14).bind fun v15 => (if ¬ nrm v15 = 0 then (f_X0_isWatched_L2 x0 n s2 x1 (x2 + 1) k) else ((gR s2 0 (some x0) 7).bind fun v16 => (gR s2 0 (some x0) 7).bind fun v17 => (gI s2 5 v17 9).bind fun v18 => (rcv s2 5 v16).bind fun b21 => bn (f_X5_isBroken s2 b21 x2 v18) fun v19 s20 => (if ¬ nrm v19 = 0 then (f_X0_isWatched_L2 x0 n s20 x1 (x2 + 1) k) else (some (1, s20)))))))))
theorem w_X0_isWatched_L2 {σ0 : Hp} {w : Int × Hp} {x0 : Nat} : ∀ (n : Nat) (s0 : Hp) (x1 : Int) (x2 : Int) (k : (Hp → Option (Int × Hp))), f_X0_isWatched_L2 x0 n s0 x1 x2 k = some w → (∀ (s1 : Hp), k s1 = some w → AW m_X0_isWatched σ0 (oI w) 77 [none, none, none] [] s1) → AW m_X0_isWatched σ0 (oI w) 2 [some (rV (some x0)), some (iV x1), some (iV x2)] [] s0 := by
  intro n
  induction n with
  | zero =>
    intro s0 x1 x2 k h hk
    rw [f_X0_isWatched_L2] at h
    cases h
  | succ n ih =>
    intro s0 x1 x2 k h hk
    rw [f_X0_isWatched_L2] at h
    refine AW.iload_n dX0_isWatched_2 rfl ?_
    refine AW.aload_n dX0_isWatched_3 rfl ?_
    refine AW.VI (M' := m_X0_mirrors) (t := 0) [] [iV x2] dX0_isWatched_4 q1195 q1197 qs35 q121 q1198 ck0 rfl n_X0_mirrors rfl rfl rfl (fun _ _ _ e => c_X0_mirrors e) h (fun v1 s2 h => ?_)
    refine AW.icmp_ge 77 dX0_isWatched_7 (by decide) h (fun c25 h => ?_) (fun c25 h => ?_)
    · exact AW.fewer (L' := [none, none, none]) (trivial) (hk _ h)
    · refine AW.aload_n dX0_isWatched_10 rfl ?_
      refine AW.getR (t := 0) (k := 7) dX0_isWatched_11 ck0 (Nat.le_of_ble_eq_true rfl) (fun _ => rfl) q553 (Or.inl rfl) h (fun v4 h => ?_)
      refine AW.getR (t := 5) (k := 2) dX0_isWatched_14 ck5 (Nat.le_of_ble_eq_true rfl) (fun _ => rfl) q427 (Or.inl rfl) h (fun v5 h => ?_)
      refine AW.iload_n dX0_isWatched_17 rfl ?_
      refine AW.aald (t := 105) dX0_isWatched_18 (Nat.le_of_ble_eq_true rfl) rfl (fun _ _ => rfl) h (fun v6 h => ?_)
      refine AW.aload_n dX0_isWatched_19 rfl ?_
      refine AW.getR (t := 0) (k := 7) dX0_isWatched_20 ck0 (Nat.le_of_ble_eq_true rfl) (fun _ => rfl) q553 (Or.inl rfl) h (fun v7 h => ?_)
      refine AW.getI (t := 5) (k := 9) dX0_isWatched_23 ck5 (Nat.le_of_ble_eq_true rfl) (fun _ => rfl) q437 (Or.inl rfl) h (fun v8 h => ?_)
      refine AW.bald (t := 101) dX0_isWatched_26 (Nat.le_of_ble_eq_true rfl) rfl h (fun v9 h => ?_)
      refine AW.iload_n dX0_isWatched_27 rfl ?_
      refine AW.icmp_ne 71 dX0_isWatched_28 (by decide) h (fun c24 h => ?_) (fun c24 h => ?_)
      · refine AW.iinc (L' := [some (rV (some x0)), some (iV x1), some (iV (x2 + 1))]) dX0_isWatched_71 rfl (Nat.le_of_ble_eq_true rfl) rfl rfl ?_
        refine AW.goto (tgt := 2) dX0_isWatched_74 (by decide) ?_
        exact ih _ _ _ _ h hk
      · refine AW.aload_n dX0_isWatched_31 rfl ?_
        refine AW.getR (t := 0) (k := 7) dX0_isWatched_32 ck0 (Nat.le_of_ble_eq_true rfl) (fun _ => rfl) q553 (Or.inl rfl) h (fun v10 h => ?_)
        refine AW.getR (t := 5) (k := 3) dX0_isWatched_35 ck5 (Nat.le_of_ble_eq_true rfl) (fun _ => rfl) q429 (Or.inl rfl) h (fun v11 h => ?_)
        refine AW.iload_n dX0_isWatched_38 rfl ?_
        refine AW.aald (t := 106) dX0_isWatched_39 (Nat.le_of_ble_eq_true rfl) rfl (fun _ _ => rfl) h (fun v12 h => ?_)
        refine AW.aload_n dX0_isWatched_40 rfl ?_
        refine AW.getR (t := 0) (k := 7) dX0_isWatched_41 ck0 (Nat.le_of_ble_eq_true rfl) (fun _ => rfl) q553 (Or.inl rfl) h (fun v13 h => ?_)
        refine AW.getI (t := 5) (k := 9) dX0_isWatched_44 ck5 (Nat.le_of_ble_eq_true rfl) (fun _ => rfl) q437 (Or.inl rfl) h (fun v14 h => ?_)
        refine AW.zald (t := 102) dX0_isWatched_47 (Nat.le_of_ble_eq_true rfl) rfl h (fun v15 h => ?_)
        refine AW.if_ne 71 dX0_isWatched_48 (by decide) h (fun c23 h => ?_) (fun c23 h => ?_)
        · refine AW.iinc (L' := [some (rV (some x0)), some (iV x1), some (iV (x2 + 1))]) dX0_isWatched_71 rfl (Nat.le_of_ble_eq_true rfl) rfl rfl ?_
          refine AW.goto (tgt := 2) dX0_isWatched_74 (by decide) ?_
          exact ih _ _ _ _ h hk
        · refine AW.aload_n dX0_isWatched_51 rfl ?_
          refine AW.getR (t := 0) (k := 7) dX0_isWatched_52 ck0 (Nat.le_of_ble_eq_true rfl) (fun _ => rfl) q553 (Or.inl rfl) h (fun v16 h => ?_)
          refine AW.iload_n dX0_isWatched_55 rfl ?_
          refine AW.aload_n dX0_isWatched_56 rfl ?_
          refine AW.getR (t := 0) (k := 7) dX0_isWatched_57 ck0 (Nat.le_of_ble_eq_true rfl) (fun _ => rfl) q553 (Or.inl rfl) h (fun v17 h => ?_)
          refine AW.getI (t := 5) (k := 9) dX0_isWatched_60 ck5 (Nat.le_of_ble_eq_true rfl) (fun _ => rfl) q437 (Or.inl rfl) h (fun v18 h => ?_)
          refine AW.VI (M' := m_X5_isBroken) (t := 5) [iV x2, iV v18] [] dX0_isWatched_63 q1207 q1204 q1205 q132 q1206 ck5 rfl n_X5_isBroken rfl rfl rfl (fun _ _ _ e => c_X5_isBroken e) h (fun v19 s20 h => ?_)
          refine AW.if_ne 71 dX0_isWatched_66 (by decide) h (fun c22 h => ?_) (fun c22 h => ?_)
          · refine AW.iinc (L' := [some (rV (some x0)), some (iV x1), some (iV (x2 + 1))]) dX0_isWatched_71 rfl (Nat.le_of_ble_eq_true rfl) rfl rfl ?_
            refine AW.goto (tgt := 2) dX0_isWatched_74 (by decide) ?_
            exact ih _ _ _ _ h hk
          · refine AW.iconst dX0_isWatched_69 ?_
            cases h
            exact AW.zret (z := 1) dX0_isWatched_70 rfl zz1
def f_X0_isWatched (s0 : Hp) (x0 : Nat) (x1 : Int) : Option (Int × Hp) :=
  f_X0_isWatched_L2 x0 FU s0 x1 0 (fun s26 => some (0, s26))
theorem w_X0_isWatched {σ0 : Hp} {w : Int × Hp} (s0 : Hp) (x0 : Nat) (x1 : Int) (h : f_X0_isWatched s0 x0 x1 = some w) : AW m_X0_isWatched σ0 (oI w) 0 [some (rV (some x0)), some (iV x1), none] [] s0 := by
  unfold f_X0_isWatched at h
  refine AW.iconst dX0_isWatched_0 ?_
  refine AW.istore_n (L' := [some (rV (some x0)), some (iV x1), some (iV 0)]) dX0_isWatched_1 (Nat.le_of_ble_eq_true rfl) rfl rfl ?_
  refine w_X0_isWatched_L2 _ _ _ _ _ h (fun s26 h => ?_)
  refine AW.iconst dX0_isWatched_77 ?_
  cases h
  exact AW.zret (z := 0) dX0_isWatched_78 rfl zz0
theorem c_X0_isWatched {s0 : Hp} {x0 : Nat} {x1 : Int} {v : Int} {s1 : Hp} (h : f_X0_isWatched s0 x0 x1 = some (v, s1)) : Ct m_X0_isWatched [rV (some x0), iV x1] s0 (.inl (some (iV v)), s1) :=
  Ct.of2 (w_X0_isWatched s0 x0 x1 h) (show plainName yX0_isWatched.cls = true by decide) rfl rfl rfl
abbrev m_X0_laysFar : Mi := (yX0_laysFar, cX0_laysFar, none, 6, 3, 64, [])
theorem n_X0_laysFar : nameOk yX0_laysFar 1 := ⟨by decide, by decide, by decide +kernel⟩
def f_X0_laysFar_L2 (x0 : Nat) : Nat → Hp → Int → Int → (Hp → Option (Unit × Hp)) → Option (Unit × Hp)
  | 0, _, _, _, _ => none
  | n + 1, s0, x1, x2, k => (rcv s0 0 (some x0)).bind fun b3 => bn (f_X0_rooms s0 b3) fun v1 s2 => (if nrm v1 ≤ nrm x2 then (k s2) else ((gR s2 0 (some x0) 17).bind fun v4 => (if ¬ nrm x2 = nrm x1 then ((sI s2 100 v4 x2 1000000).bind fun s5 => f_X0_laysFar_L2 x0 n s5 x1 (x2 + 1) k) else ((rcv s2 0 (some x0)).bind fun b8 => bn (f_X0_isWatched s2 b8 x2) fun v6 s7 => (if ¬ nrm v6 = 0 then ((sI s7 100 v4 x2 1000000).bind fun s9 => f_X0_laysFar_L2 x0 n s9 x1 (x2 + 1) k) else ((sI s7 100 v4 x2 0).bind fun s10 => f_X0_laysFar_L2 x0 n s10 x1 (x2 + 1) k))))))
theorem w_X0_laysFar_L2 {σ0 : Hp} {w : Unit × Hp} {x0 : Nat} : ∀ (n : Nat) (s0 : Hp) (x1 : Int) (x2 : Int) (k : (Hp → Option (Unit × Hp))), f_X0_laysFar_L2 x0 n s0 x1 x2 k = some w → (∀ (s1 : Hp), k s1 = some w → AW m_X0_laysFar σ0 (oU w) 42 [some (rV (some x0)), none, none, none, none, none] [] s1) → AW m_X0_laysFar σ0 (oU w) 2 [some (rV (some x0)), some (iV x1), some (iV x2), none, none, none] [] s0 := by
  intro n
  induction n with
  | zero =>
    intro s0 x1 x2 k h hk
    rw [f_X0_laysFar_L2] at h
    cases h
  | succ n ih =>
    intro s0 x1 x2 k h hk
    rw [f_X0_laysFar_L2] at h
    refine AW.iload_n dX0_laysFar_2 rfl ?_
    refine AW.aload_n dX0_laysFar_3 rfl ?_
    refine AW.VI (M' := m_X0_rooms) (t := 0) [] [iV x2] dX0_laysFar_4 q1269 q1271 qs40 q121 q1272 ck0 rfl n_X0_rooms rfl rfl rfl (fun _ _ _ e => c_X0_rooms e) h (fun v1 s2 h => ?_)
    refine AW.icmp_ge 42 dX0_laysFar_7 (by decide) h (fun c13 h => ?_) (fun c13 h => ?_)
    · exact AW.fewer (L' := [some (rV (some x0)), none, none, none, none, none]) (And.intro rfl trivial) (hk _ h)
    · refine AW.aload_n dX0_laysFar_10 rfl ?_
      refine AW.getR (t := 0) (k := 17) dX0_laysFar_11 ck0 (Nat.le_of_ble_eq_true rfl) (fun _ => rfl) q563 (Or.inl rfl) h (fun v4 h => ?_)
      refine AW.iload_n dX0_laysFar_14 rfl ?_
      refine AW.iload_n dX0_laysFar_15 rfl ?_
      refine AW.iload_n dX0_laysFar_16 rfl ?_
      refine AW.icmp_ne 32 dX0_laysFar_17 (by decide) h (fun c12 h => ?_) (fun c12 h => ?_)
      · refine AW.ldcw (z := 1000000) dX0_laysFar_32 q1424 (by decide) ?_
        refine AW.iast (t := 100) dX0_laysFar_35 (Nat.le_of_ble_eq_true rfl) mu100 rfl h (fun s5 h => ?_)
        refine AW.iinc (L' := [some (rV (some x0)), some (iV x1), some (iV (x2 + 1)), none, none, none]) dX0_laysFar_36 rfl (Nat.le_of_ble_eq_true rfl) rfl rfl ?_
        refine AW.goto (tgt := 2) dX0_laysFar_39 (by decide) ?_
        exact ih _ _ _ _ h hk
      · refine AW.aload_n dX0_laysFar_20 rfl ?_
        refine AW.iload_n dX0_laysFar_21 rfl ?_
        refine AW.VI (M' := m_X0_isWatched) (t := 0) [iV x2] [iV x2, rV v4] dX0_laysFar_22 q1420 q1422 qs48 q121 q1423 ck0 rfl n_X0_isWatched rfl rfl rfl (fun _ _ _ e => c_X0_isWatched e) h (fun v6 s7 h => ?_)
        refine AW.if_ne 32 dX0_laysFar_25 (by decide) h (fun c11 h => ?_) (fun c11 h => ?_)
        · refine AW.ldcw (z := 1000000) dX0_laysFar_32 q1424 (by decide) ?_
          refine AW.iast (t := 100) dX0_laysFar_35 (Nat.le_of_ble_eq_true rfl) mu100 rfl h (fun s9 h => ?_)
          refine AW.iinc (L' := [some (rV (some x0)), some (iV x1), some (iV (x2 + 1)), none, none, none]) dX0_laysFar_36 rfl (Nat.le_of_ble_eq_true rfl) rfl rfl ?_
          refine AW.goto (tgt := 2) dX0_laysFar_39 (by decide) ?_
          exact ih _ _ _ _ h hk
        · refine AW.iconst dX0_laysFar_28 ?_
          refine AW.goto (tgt := 35) dX0_laysFar_29 (by decide) ?_
          refine AW.iast (t := 100) dX0_laysFar_35 (Nat.le_of_ble_eq_true rfl) mu100 rfl h (fun s10 h => ?_)
          refine AW.iinc (L' := [some (rV (some x0)), some (iV x1), some (iV (x2 + 1)), none, none, none]) dX0_laysFar_36 rfl (Nat.le_of_ble_eq_true rfl) rfl rfl ?_
          refine AW.goto (tgt := 2) dX0_laysFar_39 (by decide) ?_
          exact ih _ _ _ _ h hk
def f_X0_laysFar_L81 (x0 : Nat) : Nat → Hp → Int → Int → Option Nat → Int → (Hp → Int → Int → Option (Unit × Hp)) → Option (Unit × Hp)
  | 0, _, _, _, _, _, _ => none
  | n + 1, s0, x2, x3, x4, x5, k => (gI s0 10 x4 2).bind fun v27 => (if nrm v27 ≤ nrm x5 then (k s0 x2 x3) else ((gR s0 0 (some x0) 17).bind fun v28 => (aI s0 100 v28 x3).bind fun v29 => (if nrm 1000000 ≤ nrm v29 then (k s0 x2 x3) else ((gR s0 10 x4 1).bind fun v30 => (aI s0 100 v30 x5).bind fun v31 => (rcv s0 0 (some x0)).bind fun b34 => bn (f_X0_isWatched s0 b34 v31) fun v32 s33 => (if ¬ nrm v32 = 0 then (f_X0_laysFar_L81 x0 n s33 x2 x3 x4 (x5 + 1) k) else ((gR s33 0 (some x0) 17).bind fun v35 => (gR s33 10 x4 1).bind fun v36 => (aI s33 100 v36 x5).bind fun v37 => (gR s33 0 (some x0) 17).bind fun v38 => (gR s33 10 x4 1).bind fun v39 => (aI s33 100 v39 x5).bind fun v40 => (aI s33 100 v38 v40).bind fun v41 => (gR s33 0 (some x0) 17).bind fun v42 => (aI s33 100 v42 x3).bind fun v43 => (sI s33 100 v35 v37 (nrm (mnI v41 (v43 + 1)))).bind fun s44 => f_X0_laysFar_L81 x0 n s44 x2 x3 x4 (x5 + 1) k))))))
theorem w_X0_laysFar_L81 {σ0 : Hp} {w : Unit × Hp} {x0 : Nat} : ∀ (n : Nat) (s0 : Hp) (x2 : Int) (x3 : Int) (x4 : Option Nat) (x5 : Int) (k : (Hp → Int → Int → Option (Unit × Hp))), f_X0_laysFar_L81 x0 n s0 x2 x3 x4 x5 k = some w → (∀ (s1 : Hp) (x2 : Int) (x3 : Int), k s1 x2 x3 = some w → AW m_X0_laysFar σ0 (oU w) 161 [some (rV (some x0)), none, some (iV x2), some (iV x3), none, none] [] s1) → AW m_X0_laysFar σ0 (oU w) 81 [some (rV (some x0)), none, some (iV x2), some (iV x3), some (rV x4), some (iV x5)] [] s0 := by
  intro n
  induction n with
  | zero =>
    intro s0 x2 x3 x4 x5 k h hk
    rw [f_X0_laysFar_L81] at h
    cases h
  | succ n ih =>
    intro s0 x2 x3 x4 x5 k h hk
    rw [f_X0_laysFar_L81] at h
    refine AW.iload dX0_laysFar_81 rfl ?_
    refine AW.aload dX0_laysFar_83 rfl ?_
    refine AW.getI (t := 10) (k := 2) dX0_laysFar_85 ck10 (Nat.le_of_ble_eq_true rfl) (fun _ => rfl) q947 (Or.inl rfl) h (fun v27 h => ?_)
    refine AW.icmp_ge 161 dX0_laysFar_88 (by decide) h (fun c47 h => ?_) (fun c47 h => ?_)
    · exact AW.fewer (L' := [some (rV (some x0)), none, some (iV x2), some (iV x3), none, none]) (And.intro rfl (And.intro rfl (And.intro rfl trivial))) (hk _ _ _ h)
    · refine AW.aload_n dX0_laysFar_91 rfl ?_
      refine AW.getR (t := 0) (k := 17) dX0_laysFar_92 ck0 (Nat.le_of_ble_eq_true rfl) (fun _ => rfl) q563 (Or.inl rfl) h (fun v28 h => ?_)
      refine AW.iload_n dX0_laysFar_95 rfl ?_
      refine AW.iald (t := 100) dX0_laysFar_96 (Nat.le_of_ble_eq_true rfl) rfl h (fun v29 h => ?_)
      refine AW.ldcw (z := 1000000) dX0_laysFar_97 q1424 (by decide) ?_
      refine AW.icmp_ge 161 dX0_laysFar_100 (by decide) h (fun c46 h => ?_) (fun c46 h => ?_)
      · exact AW.fewer (L' := [some (rV (some x0)), none, some (iV x2), some (iV x3), none, none]) (And.intro rfl (And.intro rfl (And.intro rfl trivial))) (hk _ _ _ h)
      · refine AW.aload_n dX0_laysFar_103 rfl ?_
        refine AW.aload dX0_laysFar_104 rfl ?_
        refine AW.getR (t := 10) (k := 1) dX0_laysFar_106 ck10 (Nat.le_of_ble_eq_true rfl) (fun _ => rfl) q944 (Or.inl rfl) h (fun v30 h => ?_)
        refine AW.iload dX0_laysFar_109 rfl ?_
        refine AW.iald (t := 100) dX0_laysFar_111 (Nat.le_of_ble_eq_true rfl) rfl h (fun v31 h => ?_)
        refine AW.VI (M' := m_X0_isWatched) (t := 0) [iV v31] [] dX0_laysFar_112 q1420 q1422 qs48 q121 q1423 ck0 rfl n_X0_isWatched rfl rfl rfl (fun _ _ _ e => c_X0_isWatched e) h (fun v32 s33 h => ?_)
        refine AW.if_ne 155 dX0_laysFar_115 (by decide) h (fun c45 h => ?_) (fun c45 h => ?_)
        · refine AW.iinc (L' := [some (rV (some x0)), none, some (iV x2), some (iV x3), some (rV x4), some (iV (x5 + 1))]) dX0_laysFar_155 rfl (Nat.le_of_ble_eq_true rfl) rfl rfl ?_
          refine AW.goto (tgt := 81) dX0_laysFar_158 (by decide) ?_
          exact ih _ _ _ _ _ _ h hk
        · refine AW.aload_n dX0_laysFar_118 rfl ?_
          refine AW.getR (t := 0) (k := 17) dX0_laysFar_119 ck0 (Nat.le_of_ble_eq_true rfl) (fun _ => rfl) q563 (Or.inl rfl) h (fun v35 h => ?_)
          refine AW.aload dX0_laysFar_122 rfl ?_
          refine AW.getR (t := 10) (k := 1) dX0_laysFar_124 ck10 (Nat.le_of_ble_eq_true rfl) (fun _ => rfl) q944 (Or.inl rfl) h (fun v36 h => ?_)
          refine AW.iload dX0_laysFar_127 rfl ?_
          refine AW.iald (t := 100) dX0_laysFar_129 (Nat.le_of_ble_eq_true rfl) rfl h (fun v37 h => ?_)
          refine AW.aload_n dX0_laysFar_130 rfl ?_
          refine AW.getR (t := 0) (k := 17) dX0_laysFar_131 ck0 (Nat.le_of_ble_eq_true rfl) (fun _ => rfl) q563 (Or.inl rfl) h (fun v38 h => ?_)
          refine AW.aload dX0_laysFar_134 rfl ?_
          refine AW.getR (t := 10) (k := 1) dX0_laysFar_136 ck10 (Nat.le_of_ble_eq_true rfl) (fun _ => rfl) q944 (Or.inl rfl) h (fun v39 h => ?_)
          refine AW.iload dX0_laysFar_139 rfl ?_
          refine AW.iald (t := 100) dX0_laysFar_141 (Nat.le_of_ble_eq_true rfl) rfl h (fun v40 h => ?_)
          refine AW.iald (t := 100) dX0_laysFar_142 (Nat.le_of_ble_eq_true rfl) rfl h (fun v41 h => ?_)
          refine AW.aload_n dX0_laysFar_143 rfl ?_
          refine AW.getR (t := 0) (k := 17) dX0_laysFar_144 ck0 (Nat.le_of_ble_eq_true rfl) (fun _ => rfl) q563 (Or.inl rfl) h (fun v42 h => ?_)
          refine AW.iload_n dX0_laysFar_147 rfl ?_
          refine AW.iald (t := 100) dX0_laysFar_148 (Nat.le_of_ble_eq_true rfl) rfl h (fun v43 h => ?_)
          refine AW.iconst dX0_laysFar_149 ?_
          refine AW.iadd dX0_laysFar_150 ?_
          refine AW.mmin dX0_laysFar_151 q1226 rfl rfl ?_
          refine AW.nv ?_
          refine AW.iast (t := 100) dX0_laysFar_154 (Nat.le_of_ble_eq_true rfl) mu100 rfl h (fun s44 h => ?_)
          refine AW.iinc (L' := [some (rV (some x0)), none, some (iV x2), some (iV x3), some (rV x4), some (iV (x5 + 1))]) dX0_laysFar_155 rfl (Nat.le_of_ble_eq_true rfl) rfl rfl ?_
          refine AW.goto (tgt := 81) dX0_laysFar_158 (by decide) ?_
          exact ih _ _ _ _ _ _ h hk
def f_X0_laysFar_L54 (x0 : Nat) : Nat → Hp → Int → Int → (Hp → Int → Option (Unit × Hp)) → Option (Unit × Hp)
  | 0, _, _, _, _ => none
  | n + 1, s0, x2, x3, k => (rcv s0 0 (some x0)).bind fun b20 => bn (f_X0_rooms s0 b20) fun v18 s19 => (if nrm v18 ≤ nrm x3 then (k s19 x2) else ((gR s19 0 (some x0) 3).bind fun v21 => (gR s19 4 v21 0).bind fun v22 => (rcv s19 18 v22).bind fun b25 => bn (f_J5_get s19 b25 x3) fun v23 s24 => (kst s24 [10] v23).bind fun v26 => f_X0_laysFar_L81 x0 FU s24 x2 x3 v26 0 (fun s48 x2 x3 => f_X0_laysFar_L54 x0 n s48 x2 (x3 + 1) k)))
theorem w_X0_laysFar_L54 {σ0 : Hp} {w : Unit × Hp} {x0 : Nat} : ∀ (n : Nat) (s0 : Hp) (x2 : Int) (x3 : Int) (k : (Hp → Int → Option (Unit × Hp))), f_X0_laysFar_L54 x0 n s0 x2 x3 k = some w → (∀ (s1 : Hp) (x2 : Int), k s1 x2 = some w → AW m_X0_laysFar σ0 (oU w) 167 [some (rV (some x0)), none, some (iV x2), none, none, none] [] s1) → AW m_X0_laysFar σ0 (oU w) 54 [some (rV (some x0)), none, some (iV x2), some (iV x3), none, none] [] s0 := by
  intro n
  induction n with
  | zero =>
    intro s0 x2 x3 k h hk
    rw [f_X0_laysFar_L54] at h
    cases h
  | succ n ih =>
    intro s0 x2 x3 k h hk
    rw [f_X0_laysFar_L54] at h
    refine AW.iload_n dX0_laysFar_54 rfl ?_
    refine AW.aload_n dX0_laysFar_55 rfl ?_
    refine AW.VI (M' := m_X0_rooms) (t := 0) [] [iV x3] dX0_laysFar_56 q1269 q1271 qs40 q121 q1272 ck0 rfl n_X0_rooms rfl rfl rfl (fun _ _ _ e => c_X0_rooms e) h (fun v18 s19 h => ?_)
    refine AW.icmp_ge 167 dX0_laysFar_59 (by decide) h (fun c49 h => ?_) (fun c49 h => ?_)
    · exact AW.fewer (L' := [some (rV (some x0)), none, some (iV x2), none, none, none]) (And.intro rfl (And.intro rfl trivial)) (hk _ _ h)
    · refine AW.aload_n dX0_laysFar_62 rfl ?_
      refine AW.getR (t := 0) (k := 3) dX0_laysFar_63 ck0 (Nat.le_of_ble_eq_true rfl) (fun _ => rfl) q549 (Or.inl rfl) h (fun v21 h => ?_)
      refine AW.getR (t := 4) (k := 0) dX0_laysFar_66 ck4 (Nat.le_of_ble_eq_true rfl) (fun _ => rfl) q357 (Or.inl rfl) h (fun v22 h => ?_)
      refine AW.iload_n dX0_laysFar_69 rfl ?_
      refine AW.VR (M' := m_J5_get) (t := 18) [iV x3] [] dX0_laysFar_70 q1254 q489 q490 q131 q491 ck18 rfl n_J5_get rfl rfl rfl (fun _ _ _ e => c_J5_get e) h (fun v23 s24 h => ?_)
      refine AW.cast (ts := [10]) dX0_laysFar_73 q1255 ca10 h (fun v26 h => ?_)
      refine AW.astore (L' := [some (rV (some x0)), none, some (iV x2), some (iV x3), some (rV v26), none]) dX0_laysFar_76 (Nat.le_of_ble_eq_true rfl) rfl rfl ?_
      refine AW.iconst dX0_laysFar_78 ?_
      refine AW.istore (L' := [some (rV (some x0)), none, some (iV x2), some (iV x3), some (rV v26), some (iV 0)]) dX0_laysFar_79 (Nat.le_of_ble_eq_true rfl) rfl rfl ?_
      refine w_X0_laysFar_L81 _ _ _ _ _ _ _ h (fun s48 x2 x3 h => ?_)
      refine AW.iinc (L' := [some (rV (some x0)), none, some (iV x2), some (iV (x3 + 1)), none, none]) dX0_laysFar_161 rfl (Nat.le_of_ble_eq_true rfl) rfl rfl ?_
      refine AW.goto (tgt := 54) dX0_laysFar_164 (by decide) ?_
      exact ih _ _ _ _ h hk
def f_X0_laysFar_L44 (x0 : Nat) : Nat → Hp → Int → (Hp → Option (Unit × Hp)) → Option (Unit × Hp)
  | 0, _, _, _ => none
  | n + 1, s0, x2, k => (rcv s0 0 (some x0)).bind fun b17 => bn (f_X0_rooms s0 b17) fun v15 s16 => (if nrm v15 ≤ nrm x2 then (k s16) else (f_X0_laysFar_L54 x0 FU s16 x2 0 (fun s50 x2 => f_X0_laysFar_L44 x0 n s50 (x2 + 1) k)))
theorem w_X0_laysFar_L44 {σ0 : Hp} {w : Unit × Hp} {x0 : Nat} : ∀ (n : Nat) (s0 : Hp) (x2 : Int) (k : (Hp → Option (Unit × Hp))), f_X0_laysFar_L44 x0 n s0 x2 k = some w → (∀ (s1 : Hp), k s1 = some w → AW m_X0_laysFar σ0 (oU w) 173 [none, none, none, none, none, none] [] s1) → AW m_X0_laysFar σ0 (oU w) 44 [some (rV (some x0)), none, some (iV x2), none, none, none] [] s0 := by
  intro n
  induction n with
  | zero =>
    intro s0 x2 k h hk
    rw [f_X0_laysFar_L44] at h
    cases h
  | succ n ih =>
    intro s0 x2 k h hk
    rw [f_X0_laysFar_L44] at h
    refine AW.iload_n dX0_laysFar_44 rfl ?_
    refine AW.aload_n dX0_laysFar_45 rfl ?_
    refine AW.VI (M' := m_X0_rooms) (t := 0) [] [iV x2] dX0_laysFar_46 q1269 q1271 qs40 q121 q1272 ck0 rfl n_X0_rooms rfl rfl rfl (fun _ _ _ e => c_X0_rooms e) h (fun v15 s16 h => ?_)
    refine AW.icmp_ge 173 dX0_laysFar_49 (by decide) h (fun c51 h => ?_) (fun c51 h => ?_)
    · exact AW.fewer (L' := [none, none, none, none, none, none]) (trivial) (hk _ h)
    · refine AW.iconst dX0_laysFar_52 ?_
      refine AW.istore_n (L' := [some (rV (some x0)), none, some (iV x2), some (iV 0), none, none]) dX0_laysFar_53 (Nat.le_of_ble_eq_true rfl) rfl rfl ?_
      refine w_X0_laysFar_L54 _ _ _ _ _ h (fun s50 x2 h => ?_)
      refine AW.iinc (L' := [some (rV (some x0)), none, some (iV (x2 + 1)), none, none, none]) dX0_laysFar_167 rfl (Nat.le_of_ble_eq_true rfl) rfl rfl ?_
      refine AW.goto (tgt := 44) dX0_laysFar_170 (by decide) ?_
      exact ih _ _ _ h hk
def f_X0_laysFar (s0 : Hp) (x0 : Nat) (x1 : Int) : Option (Unit × Hp) :=
  f_X0_laysFar_L2 x0 FU s0 x1 0 (fun s14 => f_X0_laysFar_L44 x0 FU s14 0 (fun s52 => some ((), s52)))
theorem w_X0_laysFar {σ0 : Hp} {w : Unit × Hp} (s0 : Hp) (x0 : Nat) (x1 : Int) (h : f_X0_laysFar s0 x0 x1 = some w) : AW m_X0_laysFar σ0 (oU w) 0 [some (rV (some x0)), some (iV x1), none, none, none, none] [] s0 := by
  unfold f_X0_laysFar at h
  refine AW.iconst dX0_laysFar_0 ?_
  refine AW.istore_n (L' := [some (rV (some x0)), some (iV x1), some (iV 0), none, none, none]) dX0_laysFar_1 (Nat.le_of_ble_eq_true rfl) rfl rfl ?_
  refine w_X0_laysFar_L2 _ _ _ _ _ h (fun s14 h => ?_)
  refine AW.iconst dX0_laysFar_42 ?_
  refine AW.istore_n (L' := [some (rV (some x0)), none, some (iV 0), none, none, none]) dX0_laysFar_43 (Nat.le_of_ble_eq_true rfl) rfl rfl ?_
  refine w_X0_laysFar_L44 _ _ _ _ h (fun s52 h => ?_)
  cases h
  exact AW.vret dX0_laysFar_173 rfl
theorem c_X0_laysFar {s0 : Hp} {x0 : Nat} {x1 : Int} {v : Unit} {s1 : Hp} (h : f_X0_laysFar s0 x0 x1 = some (v, s1)) : Ct m_X0_laysFar [rV (some x0), iV x1] s0 (.inl none, s1) :=
  Ct.of2 (w_X0_laysFar s0 x0 x1 h) (show plainName yX0_laysFar.cls = true by decide) rfl rfl rfl
abbrev m_X0_hidden : Mi := (yX0_hidden, cX0_hidden, (some .int), 6, 4, 89, [])
theorem n_X0_hidden : nameOk yX0_hidden 3 := ⟨by decide, by decide, by decide +kernel⟩
def f_X0_hidden_L94 (x0 : Nat) : Nat → Hp → Int → Option Nat → Int → (Hp → Option Nat → Int → Option (Int × Hp)) → Option (Int × Hp)
  | 0, _, _, _, _, _ => none
  | n + 1, s0, x1, x4, x5, k => (gR s0 0 (some x0) 17).bind fun v25 => (gR s0 10 x4 1).bind fun v26 => (aI s0 100 v26 x5).bind fun v27 => (aI s0 100 v25 v27).bind fun v28 => (gR s0 0 (some x0) 17).bind fun v29 => (aI s0 100 v29 x1).bind fun v30 => (if nrm v28 = nrm (v30 - 1) then (k s0 x4 x5) else (f_X0_hidden_L94 x0 n s0 x1 x4 (x5 + 1) k))
theorem w_X0_hidden_L94 {σ0 : Hp} {w : Int × Hp} {x0 : Nat} : ∀ (n : Nat) (s0 : Hp) (x1 : Int) (x4 : Option Nat) (x5 : Int) (k : (Hp → Option Nat → Int → Option (Int × Hp))), f_X0_hidden_L94 x0 n s0 x1 x4 x5 k = some w → (∀ (s1 : Hp) (x4 : Option Nat) (x5 : Int), k s1 x4 x5 = some w → AW m_X0_hidden σ0 (oI w) 124 [none, none, none, none, some (rV x4), some (iV x5)] [] s1) → AW m_X0_hidden σ0 (oI w) 94 [some (rV (some x0)), some (iV x1), none, none, some (rV x4), some (iV x5)] [] s0 := by
  intro n
  induction n with
  | zero =>
    intro s0 x1 x4 x5 k h hk
    rw [f_X0_hidden_L94] at h
    cases h
  | succ n ih =>
    intro s0 x1 x4 x5 k h hk
    rw [f_X0_hidden_L94] at h
    refine AW.aload_n dX0_hidden_94 rfl ?_
    refine AW.getR (t := 0) (k := 17) dX0_hidden_95 ck0 (Nat.le_of_ble_eq_true rfl) (fun _ => rfl) q563 (Or.inl rfl) h (fun v25 h => ?_)
    refine AW.aload dX0_hidden_98 rfl ?_
    refine AW.getR (t := 10) (k := 1) dX0_hidden_100 ck10 (Nat.le_of_ble_eq_true rfl) (fun _ => rfl) q944 (Or.inl rfl) h (fun v26 h => ?_)
    refine AW.iload dX0_hidden_103 rfl ?_
    refine AW.iald (t := 100) dX0_hidden_105 (Nat.le_of_ble_eq_true rfl) rfl h (fun v27 h => ?_)
    refine AW.iald (t := 100) dX0_hidden_106 (Nat.le_of_ble_eq_true rfl) rfl h (fun v28 h => ?_)
    refine AW.aload_n dX0_hidden_107 rfl ?_
    refine AW.getR (t := 0) (k := 17) dX0_hidden_108 ck0 (Nat.le_of_ble_eq_true rfl) (fun _ => rfl) q563 (Or.inl rfl) h (fun v29 h => ?_)
    refine AW.iload_n dX0_hidden_111 rfl ?_
    refine AW.iald (t := 100) dX0_hidden_112 (Nat.le_of_ble_eq_true rfl) rfl h (fun v30 h => ?_)
    refine AW.iconst dX0_hidden_113 ?_
    refine AW.isub dX0_hidden_114 ?_
    refine AW.icmp_eq 124 dX0_hidden_115 (by decide) h (fun c31 h => ?_) (fun c31 h => ?_)
    · exact AW.fewer (L' := [none, none, none, none, some (rV x4), some (iV x5)]) (And.intro rfl (And.intro rfl trivial)) (hk _ _ _ h)
    · refine AW.iinc (L' := [some (rV (some x0)), some (iV x1), none, none, some (rV x4), some (iV (x5 + 1))]) dX0_hidden_118 rfl (Nat.le_of_ble_eq_true rfl) rfl rfl ?_
      refine AW.goto (tgt := 94) dX0_hidden_121 (by decide) ?_
      exact ih _ _ _ _ _ h hk
def f_X0_hidden (s0 : Hp) (x0 : Nat) (x1 : Int) (x2 : Int) (x3 : Int) : Option (Int × Hp) :=
  (rcv s0 0 (some x0)).bind fun b3 => bn (f_X0_isRoom s0 b3 x1) fun v1 s2 => (if nrm v1 = 0 then (some ((-1), s2)) else ((rcv s2 0 (some x0)).bind fun b6 => bn (f_X0_isRoom s2 b6 x2) fun v4 s5 => (if nrm v4 = 0 then (some ((-1), s5)) else (bn (f_X0_isIn s5 x3 0 1) fun v7 s8 => (if ¬ nrm v7 = 0 then ((rcv s8 0 (some x0)).bind fun b10 => bn (f_X0_laysFar s8 b10 x2) fun _ s9 => (gR s9 0 (some x0) 17).bind fun v11 => (aI s9 100 v11 x1).bind fun v12 => (if ¬ nrm v12 = nrm 1000000 then (jn (fun (s13 : Hp) (x1 : Int) (x3 : Int) => (if ¬ nrm x3 = 0 then (some (nrm x1, s13)) else ((gR s13 0 (some x0) 17).bind fun v14 => (aI s13 100 v14 x1).bind fun v15 => some (v15, s13)))) fun j60 => (if nrm x3 = 0 then (j60 s9 x1 x3) else ((gR s9 0 (some x0) 17).bind fun v17 => (aI s9 100 v17 x1).bind fun v18 => (if ¬ nrm v18 = 0 then ((gR s9 0 (some x0) 3).bind fun v19 => (gR s9 4 v19 0).bind fun v20 => (rcv s9 18 v20).bind fun b23 => bn (f_J5_get s9 b23 x1) fun v21 s22 => (kst s22 [10] v21).bind fun v24 => f_X0_hidden_L94 x0 FU s22 x1 v24 0 (fun s32 x4 x5 => (gR s32 10 x4 1).bind fun v33 => (aI s32 100 v33 x5).bind fun v34 => some (v34, s32))) else (j60 s9 x1 x3))))) else (some ((-2), s9)))) else (some ((-1), s8)))))))
theorem w_X0_hidden {σ0 : Hp} {w : Int × Hp} (s0 : Hp) (x0 : Nat) (x1 : Int) (x2 : Int) (x3 : Int) (h : f_X0_hidden s0 x0 x1 x2 x3 = some w) : AW m_X0_hidden σ0 (oI w) 0 [some (rV (some x0)), some (iV x1), some (iV x2), some (iV x3), none, none] [] s0 := by
  unfold f_X0_hidden at h
  refine AW.aload_n dX0_hidden_0 rfl ?_
  refine AW.iload_n dX0_hidden_1 rfl ?_
  refine AW.VI (M' := m_X0_isRoom) (t := 0) [iV x1] [] dX0_hidden_2 q1265 q1267 qs39 q121 q1268 ck0 rfl n_X0_isRoom rfl rfl rfl (fun _ _ _ e => c_X0_isRoom e) h (fun v1 s2 h => ?_)
  refine AW.if_eq 25 dX0_hidden_5 (by decide) h (fun c40 h => ?_) (fun c40 h => ?_)
  · refine AW.iconst dX0_hidden_25 ?_
    cases h
    exact AW.iret dX0_hidden_26 rfl
  · refine AW.aload_n dX0_hidden_8 rfl ?_
    refine AW.iload_n dX0_hidden_9 rfl ?_
    refine AW.VI (M' := m_X0_isRoom) (t := 0) [iV x2] [] dX0_hidden_10 q1265 q1267 qs39 q121 q1268 ck0 rfl n_X0_isRoom rfl rfl rfl (fun _ _ _ e => c_X0_isRoom e) h (fun v4 s5 h => ?_)
    refine AW.if_eq 25 dX0_hidden_13 (by decide) h (fun c39 h => ?_) (fun c39 h => ?_)
    · refine AW.iconst dX0_hidden_25 ?_
      cases h
      exact AW.iret dX0_hidden_26 rfl
    · refine AW.iload_n dX0_hidden_16 rfl ?_
      refine AW.iconst dX0_hidden_17 ?_
      refine AW.iconst dX0_hidden_18 ?_
      refine AW.SI (M' := m_X0_isIn) [iV x3, iV 0, iV 1] [] dX0_hidden_19 q1180 q1181 q121 q1182 n_X0_isIn rfl rfl rfl (fun _ _ e => c_X0_isIn e) h (fun v7 s8 h => ?_)
      refine AW.if_ne 27 dX0_hidden_22 (by decide) h (fun c38 h => ?_) (fun c38 h => ?_)
      · refine AW.aload_n dX0_hidden_27 rfl ?_
        refine AW.iload_n dX0_hidden_28 rfl ?_
        refine AW.VU (M' := m_X0_laysFar) (t := 0) [iV x2] [] dX0_hidden_29 q1416 q1418 qs47 q121 q1419 ck0 rfl n_X0_laysFar rfl rfl rfl (fun _ _ _ e => c_X0_laysFar e) h (fun _ s9 h => ?_)
        refine AW.aload_n dX0_hidden_32 rfl ?_
        refine AW.getR (t := 0) (k := 17) dX0_hidden_33 ck0 (Nat.le_of_ble_eq_true rfl) (fun _ => rfl) q563 (Or.inl rfl) h (fun v11 h => ?_)
        refine AW.iload_n dX0_hidden_36 rfl ?_
        refine AW.iald (t := 100) dX0_hidden_37 (Nat.le_of_ble_eq_true rfl) rfl h (fun v12 h => ?_)
        refine AW.ldcw (z := 1000000) dX0_hidden_38 q1424 (by decide) ?_
        refine AW.icmp_ne 47 dX0_hidden_41 (by decide) h (fun c37 h => ?_) (fun c37 h => ?_)
        · refine AW.iload_n dX0_hidden_47 rfl ?_
          refine jn_elim h (fun (j : (Hp → Int → Int → Option (Int × Hp))) => ∀ (s13 : Hp) (x1 : Int) (x3 : Int), j s13 x1 x3 = some w → AW m_X0_hidden σ0 (oI w) 60 [some (rV (some x0)), some (iV x1), none, some (iV x3), none, none] [] s13) ?_ (fun j60 hj60 h => ?_)
          · intro s13 x1 x3 h
            refine AW.iload_n dX0_hidden_60 rfl ?_
            refine AW.if_ne 73 dX0_hidden_61 (by decide) h (fun c16 h => ?_) (fun c16 h => ?_)
            · refine AW.iload_n dX0_hidden_73 rfl ?_
              refine AW.nv ?_
              cases h
              exact AW.iret dX0_hidden_74 rfl
            · refine AW.aload_n dX0_hidden_64 rfl ?_
              refine AW.getR (t := 0) (k := 17) dX0_hidden_65 ck0 (Nat.le_of_ble_eq_true rfl) (fun _ => rfl) q563 (Or.inl rfl) h (fun v14 h => ?_)
              refine AW.iload_n dX0_hidden_68 rfl ?_
              refine AW.iald (t := 100) dX0_hidden_69 (Nat.le_of_ble_eq_true rfl) rfl h (fun v15 h => ?_)
              refine AW.goto (tgt := 74) dX0_hidden_70 (by decide) ?_
              cases h
              exact AW.iret dX0_hidden_74 rfl
          · refine AW.if_eq 60 dX0_hidden_48 (by decide) h (fun c36 h => ?_) (fun c36 h => ?_)
            · exact AW.fewer (L' := [some (rV (some x0)), some (iV x1), none, some (iV x3), none, none]) (And.intro rfl (And.intro rfl (And.intro rfl trivial))) (hj60 _ _ _ h)
            · refine AW.aload_n dX0_hidden_51 rfl ?_
              refine AW.getR (t := 0) (k := 17) dX0_hidden_52 ck0 (Nat.le_of_ble_eq_true rfl) (fun _ => rfl) q563 (Or.inl rfl) h (fun v17 h => ?_)
              refine AW.iload_n dX0_hidden_55 rfl ?_
              refine AW.iald (t := 100) dX0_hidden_56 (Nat.le_of_ble_eq_true rfl) rfl h (fun v18 h => ?_)
              refine AW.if_ne 75 dX0_hidden_57 (by decide) h (fun c35 h => ?_) (fun c35 h => ?_)
              · refine AW.aload_n dX0_hidden_75 rfl ?_
                refine AW.getR (t := 0) (k := 3) dX0_hidden_76 ck0 (Nat.le_of_ble_eq_true rfl) (fun _ => rfl) q549 (Or.inl rfl) h (fun v19 h => ?_)
                refine AW.getR (t := 4) (k := 0) dX0_hidden_79 ck4 (Nat.le_of_ble_eq_true rfl) (fun _ => rfl) q357 (Or.inl rfl) h (fun v20 h => ?_)
                refine AW.iload_n dX0_hidden_82 rfl ?_
                refine AW.VR (M' := m_J5_get) (t := 18) [iV x1] [] dX0_hidden_83 q1254 q489 q490 q131 q491 ck18 rfl n_J5_get rfl rfl rfl (fun _ _ _ e => c_J5_get e) h (fun v21 s22 h => ?_)
                refine AW.cast (ts := [10]) dX0_hidden_86 q1255 ca10 h (fun v24 h => ?_)
                refine AW.astore (L' := [some (rV (some x0)), some (iV x1), some (iV x2), some (iV x3), some (rV v24), none]) dX0_hidden_89 (Nat.le_of_ble_eq_true rfl) rfl rfl ?_
                refine AW.iconst dX0_hidden_91 ?_
                refine AW.istore (L' := [some (rV (some x0)), some (iV x1), some (iV x2), some (iV x3), some (rV v24), some (iV 0)]) dX0_hidden_92 (Nat.le_of_ble_eq_true rfl) rfl rfl ?_
                refine AW.fewer (L' := [some (rV (some x0)), some (iV x1), none, none, some (rV v24), some (iV 0)]) (And.intro rfl (And.intro rfl (And.intro rfl (And.intro rfl trivial)))) ?_
                refine w_X0_hidden_L94 _ _ _ _ _ _ h (fun s32 x4 x5 h => ?_)
                refine AW.aload dX0_hidden_124 rfl ?_
                refine AW.getR (t := 10) (k := 1) dX0_hidden_126 ck10 (Nat.le_of_ble_eq_true rfl) (fun _ => rfl) q944 (Or.inl rfl) h (fun v33 h => ?_)
                refine AW.iload dX0_hidden_129 rfl ?_
                refine AW.iald (t := 100) dX0_hidden_131 (Nat.le_of_ble_eq_true rfl) rfl h (fun v34 h => ?_)
                cases h
                exact AW.iret dX0_hidden_132 rfl
              · exact AW.fewer (L' := [some (rV (some x0)), some (iV x1), none, some (iV x3), none, none]) (And.intro rfl (And.intro rfl (And.intro rfl trivial))) (hj60 _ _ _ h)
        · refine AW.bipush dX0_hidden_44 (by decide) ?_
          cases h
          exact AW.iret dX0_hidden_46 rfl
      · refine AW.iconst dX0_hidden_25 ?_
        cases h
        exact AW.iret dX0_hidden_26 rfl
theorem c_X0_hidden {s0 : Hp} {x0 : Nat} {x1 : Int} {x2 : Int} {x3 : Int} {v : Int} {s1 : Hp} (h : f_X0_hidden s0 x0 x1 x2 x3 = some (v, s1)) : Ct m_X0_hidden [rV (some x0), iV x1, iV x2, iV x3] s0 (.inl (some (iV v)), s1) :=
  Ct.of2 (w_X0_hidden s0 x0 x1 x2 x3 h) (show plainName yX0_hidden.cls = true by decide) rfl rfl rfl
abbrev m_X0_hold : Mi := (yX0_hold, cX0_hold, (some .boolean), 2, 2, 102, [])
theorem n_X0_hold : nameOk yX0_hold 1 := ⟨by decide, by decide, by decide +kernel⟩
def f_X0_hold (s0 : Hp) (x0 : Nat) (x1 : Int) : Option (Int × Hp) :=
  bn (f_X0_isIn s0 x1 0 2) fun v1 s2 => (if ¬ nrm v1 = 0 then ((gR s2 0 (some x0) 10).bind fun v3 => (aR s2 110 v3 x1).bind fun v4 => (gR s2 0 (some x0) 7).bind fun v5 => (rcv s2 5 v4).bind fun b7 => bn (f_X5_takes s2 b7 v5) fun _ s6 => (gR s6 0 (some x0) 11).bind fun v8 => (sI s6 102 v8 x1 (b1I 1)).bind fun s9 => some (1, s9)) else (some (0, s2)))
theorem w_X0_hold {σ0 : Hp} {w : Int × Hp} (s0 : Hp) (x0 : Nat) (x1 : Int) (h : f_X0_hold s0 x0 x1 = some w) : AW m_X0_hold σ0 (oI w) 0 [some (rV (some x0)), some (iV x1)] [] s0 := by
  unfold f_X0_hold at h
  refine AW.iload_n dX0_hold_0 rfl ?_
  refine AW.iconst dX0_hold_1 ?_
  refine AW.iconst dX0_hold_2 ?_
  refine AW.SI (M' := m_X0_isIn) [iV x1, iV 0, iV 2] [] dX0_hold_3 q1180 q1181 q121 q1182 n_X0_isIn rfl rfl rfl (fun _ _ e => c_X0_isIn e) h (fun v1 s2 h => ?_)
  refine AW.if_ne 11 dX0_hold_6 (by decide) h (fun c10 h => ?_) (fun c10 h => ?_)
  · refine AW.aload_n dX0_hold_11 rfl ?_
    refine AW.getR (t := 0) (k := 10) dX0_hold_12 ck0 (Nat.le_of_ble_eq_true rfl) (fun _ => rfl) q556 (Or.inl rfl) h (fun v3 h => ?_)
    refine AW.iload_n dX0_hold_15 rfl ?_
    refine AW.aald (t := 110) dX0_hold_16 (Nat.le_of_ble_eq_true rfl) rfl (fun _ _ => rfl) h (fun v4 h => ?_)
    refine AW.aload_n dX0_hold_17 rfl ?_
    refine AW.getR (t := 0) (k := 7) dX0_hold_18 ck0 (Nat.le_of_ble_eq_true rfl) (fun _ => rfl) q553 (Or.inl rfl) h (fun v5 h => ?_)
    refine AW.VU (M' := m_X5_takes) (t := 5) [rV v5] [] dX0_hold_21 q1221 q1222 q1223 q132 q1224 ck5 rfl n_X5_takes rfl rfl rfl (fun _ _ _ e => c_X5_takes e) h (fun _ s6 h => ?_)
    refine AW.aload_n dX0_hold_24 rfl ?_
    refine AW.getR (t := 0) (k := 11) dX0_hold_25 ck0 (Nat.le_of_ble_eq_true rfl) (fun _ => rfl) q557 (Or.inl rfl) h (fun v8 h => ?_)
    refine AW.iload_n dX0_hold_28 rfl ?_
    refine AW.iconst dX0_hold_29 ?_
    refine AW.zast (t := 102) dX0_hold_30 (Nat.le_of_ble_eq_true rfl) mu102 rfl h (fun s9 h => ?_)
    refine AW.iconst dX0_hold_31 ?_
    cases h
    exact AW.zret (z := 1) dX0_hold_32 rfl zz1
  · refine AW.iconst dX0_hold_9 ?_
    cases h
    exact AW.zret (z := 0) dX0_hold_10 rfl zz0
theorem c_X0_hold {s0 : Hp} {x0 : Nat} {x1 : Int} {v : Int} {s1 : Hp} (h : f_X0_hold s0 x0 x1 = some (v, s1)) : Ct m_X0_hold [rV (some x0), iV x1] s0 (.inl (some (iV v)), s1) :=
  Ct.of2 (w_X0_hold s0 x0 x1 h) (show plainName yX0_hold.cls = true by decide) rfl rfl rfl
abbrev m_X0_isRest : Mi := (yX0_isRest, cX0_isRest, (some .boolean), 7, 5, 116, [])
theorem n_X0_isRest : nameOk yX0_isRest 3 := ⟨by decide, by decide, by decide +kernel⟩
def f_X0_isRest_L39 (x0 : Nat) : Nat → Hp → Int → Int → Int → Int → Int → Int → (Hp → Option (Int × Hp)) → Option (Int × Hp)
  | 0, _, _, _, _, _, _, _, _ => none
  | n + 1, s0, x1, x2, x3, x4, x5, x6, k => (rcv s0 0 (some x0)).bind fun b11 => bn (f_X0_rooms s0 b11) fun v9 s10 => (if nrm v9 ≤ nrm x6 then (k s10) else (jn (fun (s12 : Hp) (x1 : Int) (x2 : Int) (x3 : Int) (x4 : Int) (x5 : Int) (x6 : Int) (y1 : Int) (y2 : Int) (y3 : Int) => (rcv s12 0 (some x0)).bind fun b15 => bn (f_X0_has s12 b15 y1 y2 y3) fun v13 s14 => (if nrm x4 < nrm v13 then (some (0, s14)) else (jn (fun (s16 : Hp) (x1 : Int) (x2 : Int) (x3 : Int) (x4 : Int) (x5 : Int) (x6 : Int) (y1 : Int) (y2 : Int) (y3 : Int) => (rcv s16 0 (some x0)).bind fun b19 => bn (f_X0_has s16 b19 y1 y2 y3) fun v17 s18 => (if nrm v17 ≤ nrm x5 then (f_X0_isRest_L39 x0 n s18 x1 x2 x3 x4 x5 (x6 + 1) k) else (some (0, s18)))) fun j86 => (if ¬ nrm x6 = nrm x1 then (j86 s14 x1 x2 x3 x4 x5 x6 x6 x3 0) else (j86 s14 x1 x2 x3 x4 x5 x6 x6 x3 1))))) fun j63 => (if ¬ nrm x6 = nrm x2 then (j63 s10 x1 x2 x3 x4 x5 x6 x6 x3 0) else (j63 s10 x1 x2 x3 x4 x5 x6 x6 x3 1))))
theorem w_X0_isRest_L39 {σ0 : Hp} {w : Int × Hp} {x0 : Nat} : ∀ (n : Nat) (s0 : Hp) (x1 : Int) (x2 : Int) (x3 : Int) (x4 : Int) (x5 : Int) (x6 : Int) (k : (Hp → Option (Int × Hp))), f_X0_isRest_L39 x0 n s0 x1 x2 x3 x4 x5 x6 k = some w → (∀ (s1 : Hp), k s1 = some w → AW m_X0_isRest σ0 (oI w) 102 [none, none, none, none, none, none, none] [] s1) → AW m_X0_isRest σ0 (oI w) 39 [some (rV (some x0)), some (iV x1), some (iV x2), some (iV x3), some (iV x4), some (iV x5), some (iV x6)] [] s0 := by
  intro n
  induction n with
  | zero =>
    intro s0 x1 x2 x3 x4 x5 x6 k h hk
    rw [f_X0_isRest_L39] at h
    cases h
  | succ n ih =>
    intro s0 x1 x2 x3 x4 x5 x6 k h hk
    rw [f_X0_isRest_L39] at h
    refine AW.iload dX0_isRest_39 rfl ?_
    refine AW.aload_n dX0_isRest_41 rfl ?_
    refine AW.VI (M' := m_X0_rooms) (t := 0) [] [iV x6] dX0_isRest_42 q1269 q1271 qs40 q121 q1272 ck0 rfl n_X0_rooms rfl rfl rfl (fun _ _ _ e => c_X0_rooms e) h (fun v9 s10 h => ?_)
    refine AW.icmp_ge 102 dX0_isRest_45 (by decide) h (fun c24 h => ?_) (fun c24 h => ?_)
    · exact AW.fewer (L' := [none, none, none, none, none, none, none]) (trivial) (hk _ h)
    · refine AW.aload_n dX0_isRest_48 rfl ?_
      refine AW.iload dX0_isRest_49 rfl ?_
      refine AW.iload_n dX0_isRest_51 rfl ?_
      refine AW.iload dX0_isRest_52 rfl ?_
      refine AW.iload_n dX0_isRest_54 rfl ?_
      refine jn_elim h (fun (j : (Hp → Int → Int → Int → Int → Int → Int → Int → Int → Int → Option (Int × Hp))) => ∀ (s12 : Hp) (x1 : Int) (x2 : Int) (x3 : Int) (x4 : Int) (x5 : Int) (x6 : Int) (y1 : Int) (y2 : Int) (y3 : Int), j s12 x1 x2 x3 x4 x5 x6 y1 y2 y3 = some w → AW m_X0_isRest σ0 (oI w) 63 [some (rV (some x0)), some (iV x1), some (iV x2), some (iV x3), some (iV x4), some (iV x5), some (iV x6)] [iV y3, iV y2, iV y1, rV (some x0)] s12) ?_ (fun j63 hj63 h => ?_)
      · intro s12 x1 x2 x3 x4 x5 x6 y1 y2 y3 h
        refine AW.VI (M' := m_X0_has) (t := 0) [iV y1, iV y2, iV y3] [] dX0_isRest_63 q1445 q1447 qs51 q121 q1448 ck0 rfl n_X0_has rfl rfl rfl (fun _ _ _ e => c_X0_has e) h (fun v13 s14 h => ?_)
        refine AW.iload dX0_isRest_66 rfl ?_
        refine AW.icmp_gt 94 dX0_isRest_68 (by decide) h (fun c22 h => ?_) (fun c22 h => ?_)
        · refine AW.iconst dX0_isRest_94 ?_
          cases h
          exact AW.zret (z := 0) dX0_isRest_95 rfl zz0
        · refine AW.aload_n dX0_isRest_71 rfl ?_
          refine AW.iload dX0_isRest_72 rfl ?_
          refine AW.iload_n dX0_isRest_74 rfl ?_
          refine AW.iload dX0_isRest_75 rfl ?_
          refine AW.iload_n dX0_isRest_77 rfl ?_
          refine jn_elim h (fun (j : (Hp → Int → Int → Int → Int → Int → Int → Int → Int → Int → Option (Int × Hp))) => ∀ (s16 : Hp) (x1 : Int) (x2 : Int) (x3 : Int) (x4 : Int) (x5 : Int) (x6 : Int) (y1 : Int) (y2 : Int) (y3 : Int), j s16 x1 x2 x3 x4 x5 x6 y1 y2 y3 = some w → AW m_X0_isRest σ0 (oI w) 86 [some (rV (some x0)), some (iV x1), some (iV x2), some (iV x3), some (iV x4), some (iV x5), some (iV x6)] [iV y3, iV y2, iV y1, rV (some x0)] s16) ?_ (fun j86 hj86 h => ?_)
          · intro s16 x1 x2 x3 x4 x5 x6 y1 y2 y3 h
            refine AW.VI (M' := m_X0_has) (t := 0) [iV y1, iV y2, iV y3] [] dX0_isRest_86 q1445 q1447 qs51 q121 q1448 ck0 rfl n_X0_has rfl rfl rfl (fun _ _ _ e => c_X0_has e) h (fun v17 s18 h => ?_)
            refine AW.iload dX0_isRest_89 rfl ?_
            refine AW.icmp_le 96 dX0_isRest_91 (by decide) h (fun c20 h => ?_) (fun c20 h => ?_)
            · refine AW.iinc (L' := [some (rV (some x0)), some (iV x1), some (iV x2), some (iV x3), some (iV x4), some (iV x5), some (iV (x6 + 1))]) dX0_isRest_96 rfl (Nat.le_of_ble_eq_true rfl) rfl rfl ?_
              refine AW.goto (tgt := 39) dX0_isRest_99 (by decide) ?_
              exact ih _ _ _ _ _ _ _ _ h hk
            · refine AW.iconst dX0_isRest_94 ?_
              cases h
              exact AW.zret (z := 0) dX0_isRest_95 rfl zz0
          · refine AW.icmp_ne 85 dX0_isRest_78 (by decide) h (fun c21 h => ?_) (fun c21 h => ?_)
            · refine AW.iconst dX0_isRest_85 ?_
              exact hj86 _ _ _ _ _ _ _ _ _ _ h
            · refine AW.iconst dX0_isRest_81 ?_
              refine AW.goto (tgt := 86) dX0_isRest_82 (by decide) ?_
              exact hj86 _ _ _ _ _ _ _ _ _ _ h
      · refine AW.icmp_ne 62 dX0_isRest_55 (by decide) h (fun c23 h => ?_) (fun c23 h => ?_)
        · refine AW.iconst dX0_isRest_62 ?_
          exact hj63 _ _ _ _ _ _ _ _ _ _ h
        · refine AW.iconst dX0_isRest_58 ?_
          refine AW.goto (tgt := 63) dX0_isRest_59 (by decide) ?_
          exact hj63 _ _ _ _ _ _ _ _ _ _ h
def f_X0_isRest (s0 : Hp) (x0 : Nat) (x1 : Int) (x2 : Int) (x3 : Int) : Option (Int × Hp) :=
  jn (fun (s1 : Hp) (x1 : Int) (x2 : Int) (x3 : Int) (y1 : Int) (y2 : Int) (y3 : Int) => (rcv s1 0 (some x0)).bind fun b4 => bn (f_X0_has s1 b4 y1 y2 y3) fun v2 s3 => jn (fun (s5 : Hp) (x1 : Int) (x2 : Int) (x3 : Int) (x4 : Int) (y1 : Int) (y2 : Int) (y3 : Int) => (rcv s5 0 (some x0)).bind fun b8 => bn (f_X0_has s5 b8 y1 y2 y3) fun v6 s7 => f_X0_isRest_L39 x0 FU s7 x1 x2 x3 x4 v6 0 (fun s25 => some (1, s25))) fun j31 => (if ¬ nrm x1 = nrm x2 then (j31 s3 x1 x2 x3 v2 x2 x3 0) else (j31 s3 x1 x2 x3 v2 x2 x3 1))) fun j13 => (if ¬ nrm x1 = nrm x2 then (j13 s0 x1 x2 x3 x1 x3 0) else (j13 s0 x1 x2 x3 x1 x3 1))
theorem w_X0_isRest {σ0 : Hp} {w : Int × Hp} (s0 : Hp) (x0 : Nat) (x1 : Int) (x2 : Int) (x3 : Int) (h : f_X0_isRest s0 x0 x1 x2 x3 = some w) : AW m_X0_isRest σ0 (oI w) 0 [some (rV (some x0)), some (iV x1), some (iV x2), some (iV x3), none, none, none] [] s0 := by
  unfold f_X0_isRest at h
  refine AW.aload_n dX0_isRest_0 rfl ?_
  refine AW.iload_n dX0_isRest_1 rfl ?_
  refine AW.iload_n dX0_isRest_2 rfl ?_
  refine AW.iload_n dX0_isRest_3 rfl ?_
  refine AW.iload_n dX0_isRest_4 rfl ?_
  refine jn_elim h (fun (j : (Hp → Int → Int → Int → Int → Int → Int → Option (Int × Hp))) => ∀ (s1 : Hp) (x1 : Int) (x2 : Int) (x3 : Int) (y1 : Int) (y2 : Int) (y3 : Int), j s1 x1 x2 x3 y1 y2 y3 = some w → AW m_X0_isRest σ0 (oI w) 13 [some (rV (some x0)), some (iV x1), some (iV x2), some (iV x3), none, none, none] [iV y3, iV y2, iV y1, rV (some x0)] s1) ?_ (fun j13 hj13 h => ?_)
  · intro s1 x1 x2 x3 y1 y2 y3 h
    refine AW.VI (M' := m_X0_has) (t := 0) [iV y1, iV y2, iV y3] [] dX0_isRest_13 q1445 q1447 qs51 q121 q1448 ck0 rfl n_X0_has rfl rfl rfl (fun _ _ _ e => c_X0_has e) h (fun v2 s3 h => ?_)
    refine AW.istore (L' := [some (rV (some x0)), some (iV x1), some (iV x2), some (iV x3), some (iV v2), none, none]) dX0_isRest_16 (Nat.le_of_ble_eq_true rfl) rfl rfl ?_
    refine AW.aload_n dX0_isRest_18 rfl ?_
    refine AW.iload_n dX0_isRest_19 rfl ?_
    refine AW.iload_n dX0_isRest_20 rfl ?_
    refine AW.iload_n dX0_isRest_21 rfl ?_
    refine AW.iload_n dX0_isRest_22 rfl ?_
    refine jn_elim h (fun (j : (Hp → Int → Int → Int → Int → Int → Int → Int → Option (Int × Hp))) => ∀ (s5 : Hp) (x1 : Int) (x2 : Int) (x3 : Int) (x4 : Int) (y1 : Int) (y2 : Int) (y3 : Int), j s5 x1 x2 x3 x4 y1 y2 y3 = some w → AW m_X0_isRest σ0 (oI w) 31 [some (rV (some x0)), some (iV x1), some (iV x2), some (iV x3), some (iV x4), none, none] [iV y3, iV y2, iV y1, rV (some x0)] s5) ?_ (fun j31 hj31 h => ?_)
    · intro s5 x1 x2 x3 x4 y1 y2 y3 h
      refine AW.VI (M' := m_X0_has) (t := 0) [iV y1, iV y2, iV y3] [] dX0_isRest_31 q1445 q1447 qs51 q121 q1448 ck0 rfl n_X0_has rfl rfl rfl (fun _ _ _ e => c_X0_has e) h (fun v6 s7 h => ?_)
      refine AW.istore (L' := [some (rV (some x0)), some (iV x1), some (iV x2), some (iV x3), some (iV x4), some (iV v6), none]) dX0_isRest_34 (Nat.le_of_ble_eq_true rfl) rfl rfl ?_
      refine AW.iconst dX0_isRest_36 ?_
      refine AW.istore (L' := [some (rV (some x0)), some (iV x1), some (iV x2), some (iV x3), some (iV x4), some (iV v6), some (iV 0)]) dX0_isRest_37 (Nat.le_of_ble_eq_true rfl) rfl rfl ?_
      refine w_X0_isRest_L39 _ _ _ _ _ _ _ _ _ h (fun s25 h => ?_)
      refine AW.iconst dX0_isRest_102 ?_
      cases h
      exact AW.zret (z := 1) dX0_isRest_103 rfl zz1
    · refine AW.icmp_ne 30 dX0_isRest_23 (by decide) h (fun c26 h => ?_) (fun c26 h => ?_)
      · refine AW.iconst dX0_isRest_30 ?_
        exact hj31 _ _ _ _ _ _ _ _ h
      · refine AW.iconst dX0_isRest_26 ?_
        refine AW.goto (tgt := 31) dX0_isRest_27 (by decide) ?_
        exact hj31 _ _ _ _ _ _ _ _ h
  · refine AW.icmp_ne 12 dX0_isRest_5 (by decide) h (fun c27 h => ?_) (fun c27 h => ?_)
    · refine AW.iconst dX0_isRest_12 ?_
      exact hj13 _ _ _ _ _ _ _ h
    · refine AW.iconst dX0_isRest_8 ?_
      refine AW.goto (tgt := 13) dX0_isRest_9 (by decide) ?_
      exact hj13 _ _ _ _ _ _ _ h
theorem c_X0_isRest {s0 : Hp} {x0 : Nat} {x1 : Int} {x2 : Int} {x3 : Int} {v : Int} {s1 : Hp} (h : f_X0_isRest s0 x0 x1 x2 x3 = some (v, s1)) : Ct m_X0_isRest [rV (some x0), iV x1, iV x2, iV x3] s0 (.inl (some (iV v)), s1) :=
  Ct.of2 (w_X0_isRest s0 x0 x1 x2 x3 h) (show plainName yX0_isRest.cls = true by decide) rfl rfl rfl
abbrev m_X0_jolt : Mi := (yX0_jolt, cX0_jolt, (some .int), 9, 415, 24770, [])
theorem n_X0_jolt : nameOk yX0_jolt 3 := ⟨by decide, by decide, by decide +kernel⟩
def f_X0_jolt_L45 (x0 : Nat) : Nat → Hp → Int → Int → Int → Int → Int → Int → Int → (Hp → Int → Int → Int → Int → Option (Int × Hp)) → Option (Int × Hp)
  | 0, _, _, _, _, _, _, _, _, _ => none
  | n + 1, s0, x1, x2, x3, x4, x5, x6, x7, k => (rcv s0 0 (some x0)).bind fun b10 => bn (f_X0_mirrors s0 b10) fun v8 s9 => (if nrm v8 ≤ nrm x7 then (k s9 x3 x4 x5 x6) else ((gR s9 0 (some x0) 3).bind fun v11 => (gR s9 4 v11 2).bind fun v12 => (rcv s9 18 v12).bind fun b15 => bn (f_J5_get s9 b15 x7) fun v13 s14 => (kst s14 [17] v13).bind fun v16 => (gI s14 17 v16 2).bind fun v17 => (if ¬ nrm v17 = nrm x1 then (f_X0_jolt_L45 x0 n s14 x1 x2 x3 x4 x5 x6 (x7 + 1) k) else ((gR s14 0 (some x0) 7).bind fun v18 => (gR s14 0 (some x0) 7).bind fun v19 => (gI s14 5 v19 9).bind fun v20 => (rcv s14 5 v18).bind fun b23 => bn (f_X5_isBroken s14 b23 x7 v20) fun v21 s22 => (if nrm v21 = 0 then ((gR s22 0 (some x0) 7).bind fun v24 => (gR s22 0 (some x0) 3).bind fun v25 => (rcv s22 5 v24).bind fun b28 => bn (f_X5_lateBy s22 b28 v25 x7 x2) fun v26 s27 => (gR s27 0 (some x0) 7).bind fun v29 => (gR s27 5 v29 4).bind fun v30 => (aR s27 107 v30 x7).bind fun v31 => (gR s27 0 (some x0) 7).bind fun v32 => (gI s27 5 v32 9).bind fun v33 => (aI s27 103 v31 v33).bind fun v34 => f_X0_jolt_L45 x0 n s27 x1 x2 x3 (mxI x4 (v26 - v34)) (x5 + (mxI 0 (v26 - v34))) (x6 + (mxI 0 (-(v26 - v34)))) (x7 + 1) k) else (f_X0_jolt_L45 x0 n s22 x1 x2 x3 x4 x5 x6 (x7 + 1) k))))))
theorem w_X0_jolt_L45 {σ0 : Hp} {w : Int × Hp} {x0 : Nat} : ∀ (n : Nat) (s0 : Hp) (x1 : Int) (x2 : Int) (x3 : Int) (x4 : Int) (x5 : Int) (x6 : Int) (x7 : Int) (k : (Hp → Int → Int → Int → Int → Option (Int × Hp))), f_X0_jolt_L45 x0 n s0 x1 x2 x3 x4 x5 x6 x7 k = some w → (∀ (s1 : Hp) (x3 : Int) (x4 : Int) (x5 : Int) (x6 : Int), k s1 x3 x4 x5 x6 = some w → AW m_X0_jolt σ0 (oI w) 171 [none, none, none, some (iV x3), some (iV x4), some (iV x5), some (iV x6), none, none] [] s1) → AW m_X0_jolt σ0 (oI w) 45 [some (rV (some x0)), some (iV x1), some (iV x2), some (iV x3), some (iV x4), some (iV x5), some (iV x6), some (iV x7), none] [] s0 := by
  intro n
  induction n with
  | zero =>
    intro s0 x1 x2 x3 x4 x5 x6 x7 k h hk
    rw [f_X0_jolt_L45] at h
    cases h
  | succ n ih =>
    intro s0 x1 x2 x3 x4 x5 x6 x7 k h hk
    rw [f_X0_jolt_L45] at h
    refine AW.iload dX0_jolt_45 rfl ?_
    refine AW.aload_n dX0_jolt_47 rfl ?_
    refine AW.VI (M' := m_X0_mirrors) (t := 0) [] [iV x7] dX0_jolt_48 q1195 q1197 qs35 q121 q1198 ck0 rfl n_X0_mirrors rfl rfl rfl (fun _ _ _ e => c_X0_mirrors e) h (fun v8 s9 h => ?_)
    refine AW.icmp_ge 171 dX0_jolt_51 (by decide) h (fun c37 h => ?_) (fun c37 h => ?_)
    · exact AW.fewer (L' := [none, none, none, some (iV x3), some (iV x4), some (iV x5), some (iV x6), none, none]) (And.intro rfl (And.intro rfl (And.intro rfl (And.intro rfl trivial)))) (hk _ _ _ _ _ h)
    · refine AW.aload_n dX0_jolt_54 rfl ?_
      refine AW.getR (t := 0) (k := 3) dX0_jolt_55 ck0 (Nat.le_of_ble_eq_true rfl) (fun _ => rfl) q549 (Or.inl rfl) h (fun v11 h => ?_)
      refine AW.getR (t := 4) (k := 2) dX0_jolt_58 ck4 (Nat.le_of_ble_eq_true rfl) (fun _ => rfl) q365 (Or.inl rfl) h (fun v12 h => ?_)
      refine AW.iload dX0_jolt_61 rfl ?_
      refine AW.VR (M' := m_J5_get) (t := 18) [iV x7] [] dX0_jolt_63 q1254 q489 q490 q131 q491 ck18 rfl n_J5_get rfl rfl rfl (fun _ _ _ e => c_J5_get e) h (fun v13 s14 h => ?_)
      refine AW.cast (ts := [17]) dX0_jolt_66 q1407 ca17 h (fun v16 h => ?_)
      refine AW.getI (t := 17) (k := 2) dX0_jolt_69 ck17 (Nat.le_of_ble_eq_true rfl) (fun _ => rfl) q1156 (Or.inl rfl) h (fun v17 h => ?_)
      refine AW.iload_n dX0_jolt_72 rfl ?_
      refine AW.icmp_ne 165 dX0_jolt_73 (by decide) h (fun c36 h => ?_) (fun c36 h => ?_)
      · refine AW.iinc (L' := [some (rV (some x0)), some (iV x1), some (iV x2), some (iV x3), some (iV x4), some (iV x5), some (iV x6), some (iV (x7 + 1)), none]) dX0_jolt_165 rfl (Nat.le_of_ble_eq_true rfl) rfl rfl ?_
        refine AW.goto (tgt := 45) dX0_jolt_168 (by decide) ?_
        exact ih _ _ _ _ _ _ _ _ _ h hk
      · refine AW.aload_n dX0_jolt_76 rfl ?_
        refine AW.getR (t := 0) (k := 7) dX0_jolt_77 ck0 (Nat.le_of_ble_eq_true rfl) (fun _ => rfl) q553 (Or.inl rfl) h (fun v18 h => ?_)
        refine AW.iload dX0_jolt_80 rfl ?_
        refine AW.aload_n dX0_jolt_82 rfl ?_
        refine AW.getR (t := 0) (k := 7) dX0_jolt_83 ck0 (Nat.le_of_ble_eq_true rfl) (fun _ => rfl) q553 (Or.inl rfl) h (fun v19 h => ?_)
        refine AW.getI (t := 5) (k := 9) dX0_jolt_86 ck5 (Nat.le_of_ble_eq_true rfl) (fun _ => rfl) q437 (Or.inl rfl) h (fun v20 h => ?_)
        refine AW.VI (M' := m_X5_isBroken) (t := 5) [iV x7, iV v20] [] dX0_jolt_89 q1207 q1204 q1205 q132 q1206 ck5 rfl n_X5_isBroken rfl rfl rfl (fun _ _ _ e => c_X5_isBroken e) h (fun v21 s22 h => ?_)
        refine AW.if_eq 98 dX0_jolt_92 (by decide) h (fun c35 h => ?_) (fun c35 h => ?_)
        · refine AW.aload_n dX0_jolt_98 rfl ?_
          refine AW.getR (t := 0) (k := 7) dX0_jolt_99 ck0 (Nat.le_of_ble_eq_true rfl) (fun _ => rfl) q553 (Or.inl rfl) h (fun v24 h => ?_)
          refine AW.aload_n dX0_jolt_102 rfl ?_
          refine AW.getR (t := 0) (k := 3) dX0_jolt_103 ck0 (Nat.le_of_ble_eq_true rfl) (fun _ => rfl) q549 (Or.inl rfl) h (fun v25 h => ?_)
          refine AW.iload dX0_jolt_106 rfl ?_
          refine AW.iload_n dX0_jolt_108 rfl ?_
          refine AW.VI (M' := m_X5_lateBy) (t := 5) [rV v25, iV x7, iV x2] [] dX0_jolt_109 q1373 q509 q510 q132 q511 ck5 rfl n_X5_lateBy rfl rfl rfl (fun _ _ _ e => c_X5_lateBy e) h (fun v26 s27 h => ?_)
          refine AW.aload_n dX0_jolt_112 rfl ?_
          refine AW.getR (t := 0) (k := 7) dX0_jolt_113 ck0 (Nat.le_of_ble_eq_true rfl) (fun _ => rfl) q553 (Or.inl rfl) h (fun v29 h => ?_)
          refine AW.getR (t := 5) (k := 4) dX0_jolt_116 ck5 (Nat.le_of_ble_eq_true rfl) (fun _ => rfl) q431 (Or.inl rfl) h (fun v30 h => ?_)
          refine AW.iload dX0_jolt_119 rfl ?_
          refine AW.aald (t := 107) dX0_jolt_121 (Nat.le_of_ble_eq_true rfl) rfl (fun _ _ => rfl) h (fun v31 h => ?_)
          refine AW.aload_n dX0_jolt_122 rfl ?_
          refine AW.getR (t := 0) (k := 7) dX0_jolt_123 ck0 (Nat.le_of_ble_eq_true rfl) (fun _ => rfl) q553 (Or.inl rfl) h (fun v32 h => ?_)
          refine AW.getI (t := 5) (k := 9) dX0_jolt_126 ck5 (Nat.le_of_ble_eq_true rfl) (fun _ => rfl) q437 (Or.inl rfl) h (fun v33 h => ?_)
          refine AW.sald (t := 103) dX0_jolt_129 (Nat.le_of_ble_eq_true rfl) rfl h (fun v34 h => ?_)
          refine AW.isub dX0_jolt_130 ?_
          refine AW.istore (L' := [some (rV (some x0)), some (iV x1), some (iV x2), some (iV x3), some (iV x4), some (iV x5), some (iV x6), some (iV x7), some (iV (v26 - v34))]) dX0_jolt_131 (Nat.le_of_ble_eq_true rfl) rfl rfl ?_
          refine AW.iload dX0_jolt_133 rfl ?_
          refine AW.iload dX0_jolt_135 rfl ?_
          refine AW.mmax dX0_jolt_137 q1325 rfl rfl ?_
          refine AW.istore (L' := [some (rV (some x0)), some (iV x1), some (iV x2), some (iV x3), some (iV (mxI x4 (v26 - v34))), some (iV x5), some (iV x6), some (iV x7), some (iV (v26 - v34))]) dX0_jolt_140 (Nat.le_of_ble_eq_true rfl) rfl rfl ?_
          refine AW.iload dX0_jolt_142 rfl ?_
          refine AW.iconst dX0_jolt_144 ?_
          refine AW.iload dX0_jolt_145 rfl ?_
          refine AW.mmax dX0_jolt_147 q1325 rfl rfl ?_
          refine AW.iadd dX0_jolt_150 ?_
          refine AW.istore (L' := [some (rV (some x0)), some (iV x1), some (iV x2), some (iV x3), some (iV (mxI x4 (v26 - v34))), some (iV (x5 + (mxI 0 (v26 - v34)))), some (iV x6), some (iV x7), some (iV (v26 - v34))]) dX0_jolt_151 (Nat.le_of_ble_eq_true rfl) rfl rfl ?_
          refine AW.iload dX0_jolt_153 rfl ?_
          refine AW.iconst dX0_jolt_155 ?_
          refine AW.iload dX0_jolt_156 rfl ?_
          refine AW.ineg dX0_jolt_158 ?_
          refine AW.mmax dX0_jolt_159 q1325 rfl rfl ?_
          refine AW.iadd dX0_jolt_162 ?_
          refine AW.istore (L' := [some (rV (some x0)), some (iV x1), some (iV x2), some (iV x3), some (iV (mxI x4 (v26 - v34))), some (iV (x5 + (mxI 0 (v26 - v34)))), some (iV (x6 + (mxI 0 (-(v26 - v34))))), some (iV x7), some (iV (v26 - v34))]) dX0_jolt_163 (Nat.le_of_ble_eq_true rfl) rfl rfl ?_
          refine AW.iinc (L' := [some (rV (some x0)), some (iV x1), some (iV x2), some (iV x3), some (iV (mxI x4 (v26 - v34))), some (iV (x5 + (mxI 0 (v26 - v34)))), some (iV (x6 + (mxI 0 (-(v26 - v34))))), some (iV (x7 + 1)), some (iV (v26 - v34))]) dX0_jolt_165 rfl (Nat.le_of_ble_eq_true rfl) rfl rfl ?_
          refine AW.goto (tgt := 45) dX0_jolt_168 (by decide) ?_
          exact AW.fewer (L' := [some (rV (some x0)), some (iV x1), some (iV x2), some (iV x3), some (iV (mxI x4 (v26 - v34))), some (iV (x5 + (mxI 0 (v26 - v34)))), some (iV (x6 + (mxI 0 (-(v26 - v34))))), some (iV (x7 + 1)), none]) (And.intro rfl (And.intro rfl (And.intro rfl (And.intro rfl (And.intro rfl (And.intro rfl (And.intro rfl (And.intro rfl trivial)))))))) (ih _ _ _ _ _ _ _ _ _ h hk)
        · refine AW.goto (tgt := 165) dX0_jolt_95 (by decide) ?_
          refine AW.iinc (L' := [some (rV (some x0)), some (iV x1), some (iV x2), some (iV x3), some (iV x4), some (iV x5), some (iV x6), some (iV (x7 + 1)), none]) dX0_jolt_165 rfl (Nat.le_of_ble_eq_true rfl) rfl rfl ?_
          refine AW.goto (tgt := 45) dX0_jolt_168 (by decide) ?_
          exact ih _ _ _ _ _ _ _ _ _ h hk
def f_X0_jolt (s0 : Hp) (x0 : Nat) (x1 : Int) (x2 : Int) (x3 : Int) : Option (Int × Hp) :=
  (rcv s0 0 (some x0)).bind fun b3 => bn (f_X0_isMan s0 b3 x1) fun v1 s2 => (if nrm v1 = 0 then (some ((-1000), s2)) else (bn (f_X0_isIn s2 x2 0 20) fun v4 s5 => (if nrm v4 = 0 then (some ((-1000), s5)) else (bn (f_X0_isIn s5 x3 0 2) fun v6 s7 => (if ¬ nrm v6 = 0 then (f_X0_jolt_L45 x0 FU s7 x1 x2 x3 (-1000000) 0 0 0 (fun s38 x3 x4 x5 x6 => (if ¬ nrm x3 = nrm 1 then ((if ¬ nrm x3 = nrm 2 then ((if ¬ nrm x4 = nrm (-1000000) then (some (nrm x4, s38)) else (some (0, s38)))) else (some (nrm x6, s38)))) else (some (nrm x5, s38))))) else (some ((-1000), s7)))))))
theorem w_X0_jolt {σ0 : Hp} {w : Int × Hp} (s0 : Hp) (x0 : Nat) (x1 : Int) (x2 : Int) (x3 : Int) (h : f_X0_jolt s0 x0 x1 x2 x3 = some w) : AW m_X0_jolt σ0 (oI w) 0 [some (rV (some x0)), some (iV x1), some (iV x2), some (iV x3), none, none, none, none, none] [] s0 := by
  unfold f_X0_jolt at h
  refine AW.aload_n dX0_jolt_0 rfl ?_
  refine AW.iload_n dX0_jolt_1 rfl ?_
  refine AW.VI (M' := m_X0_isMan) (t := 0) [iV x1] [] dX0_jolt_2 q1171 q1173 qs31 q121 q1174 ck0 rfl n_X0_isMan rfl rfl rfl (fun _ _ _ e => c_X0_isMan e) h (fun v1 s2 h => ?_)
  refine AW.if_eq 27 dX0_jolt_5 (by decide) h (fun c44 h => ?_) (fun c44 h => ?_)
  · refine AW.sipush dX0_jolt_27 (by decide) ?_
    cases h
    exact AW.iret dX0_jolt_30 rfl
  · refine AW.iload_n dX0_jolt_8 rfl ?_
    refine AW.iconst dX0_jolt_9 ?_
    refine AW.bipush dX0_jolt_10 (by decide) ?_
    refine AW.SI (M' := m_X0_isIn) [iV x2, iV 0, iV 20] [] dX0_jolt_12 q1180 q1181 q121 q1182 n_X0_isIn rfl rfl rfl (fun _ _ e => c_X0_isIn e) h (fun v4 s5 h => ?_)
    refine AW.if_eq 27 dX0_jolt_15 (by decide) h (fun c43 h => ?_) (fun c43 h => ?_)
    · refine AW.sipush dX0_jolt_27 (by decide) ?_
      cases h
      exact AW.iret dX0_jolt_30 rfl
    · refine AW.iload_n dX0_jolt_18 rfl ?_
      refine AW.iconst dX0_jolt_19 ?_
      refine AW.iconst dX0_jolt_20 ?_
      refine AW.SI (M' := m_X0_isIn) [iV x3, iV 0, iV 2] [] dX0_jolt_21 q1180 q1181 q121 q1182 n_X0_isIn rfl rfl rfl (fun _ _ e => c_X0_isIn e) h (fun v6 s7 h => ?_)
      refine AW.if_ne 31 dX0_jolt_24 (by decide) h (fun c42 h => ?_) (fun c42 h => ?_)
      · refine AW.ldcw (z := -1000000) dX0_jolt_31 q1406 (by decide) ?_
        refine AW.istore (L' := [some (rV (some x0)), some (iV x1), some (iV x2), some (iV x3), some (iV (-1000000)), none, none, none, none]) dX0_jolt_34 (Nat.le_of_ble_eq_true rfl) rfl rfl ?_
        refine AW.iconst dX0_jolt_36 ?_
        refine AW.istore (L' := [some (rV (some x0)), some (iV x1), some (iV x2), some (iV x3), some (iV (-1000000)), some (iV 0), none, none, none]) dX0_jolt_37 (Nat.le_of_ble_eq_true rfl) rfl rfl ?_
        refine AW.iconst dX0_jolt_39 ?_
        refine AW.istore (L' := [some (rV (some x0)), some (iV x1), some (iV x2), some (iV x3), some (iV (-1000000)), some (iV 0), some (iV 0), none, none]) dX0_jolt_40 (Nat.le_of_ble_eq_true rfl) rfl rfl ?_
        refine AW.iconst dX0_jolt_42 ?_
        refine AW.istore (L' := [some (rV (some x0)), some (iV x1), some (iV x2), some (iV x3), some (iV (-1000000)), some (iV 0), some (iV 0), some (iV 0), none]) dX0_jolt_43 (Nat.le_of_ble_eq_true rfl) rfl rfl ?_
        refine w_X0_jolt_L45 _ _ _ _ _ _ _ _ _ _ h (fun s38 x3 x4 x5 x6 h => ?_)
        refine AW.iload_n dX0_jolt_171 rfl ?_
        refine AW.iconst dX0_jolt_172 ?_
        refine AW.icmp_ne 181 dX0_jolt_173 (by decide) h (fun c41 h => ?_) (fun c41 h => ?_)
        · refine AW.iload_n dX0_jolt_181 rfl ?_
          refine AW.iconst dX0_jolt_182 ?_
          refine AW.icmp_ne 191 dX0_jolt_183 (by decide) h (fun c40 h => ?_) (fun c40 h => ?_)
          · refine AW.iload dX0_jolt_191 rfl ?_
            refine AW.ldcw (z := -1000000) dX0_jolt_193 q1406 (by decide) ?_
            refine AW.icmp_ne 203 dX0_jolt_196 (by decide) h (fun c39 h => ?_) (fun c39 h => ?_)
            · refine AW.iload dX0_jolt_203 rfl ?_
              refine AW.nv ?_
              cases h
              exact AW.iret dX0_jolt_205 rfl
            · refine AW.iconst dX0_jolt_199 ?_
              refine AW.goto (tgt := 205) dX0_jolt_200 (by decide) ?_
              cases h
              exact AW.iret dX0_jolt_205 rfl
          · refine AW.iload dX0_jolt_186 rfl ?_
            refine AW.goto (tgt := 205) dX0_jolt_188 (by decide) ?_
            refine AW.nv ?_
            cases h
            exact AW.iret dX0_jolt_205 rfl
        · refine AW.iload dX0_jolt_176 rfl ?_
          refine AW.goto (tgt := 205) dX0_jolt_178 (by decide) ?_
          refine AW.nv ?_
          cases h
          exact AW.iret dX0_jolt_205 rfl
      · refine AW.sipush dX0_jolt_27 (by decide) ?_
        cases h
        exact AW.iret dX0_jolt_30 rfl
theorem c_X0_jolt {s0 : Hp} {x0 : Nat} {x1 : Int} {x2 : Int} {x3 : Int} {v : Int} {s1 : Hp} (h : f_X0_jolt s0 x0 x1 x2 x3 = some (v, s1)) : Ct m_X0_jolt [rV (some x0), iV x1, iV x2, iV x3] s0 (.inl (some (iV v)), s1) :=
  Ct.of2 (w_X0_jolt s0 x0 x1 x2 x3 h) (show plainName yX0_jolt.cls = true by decide) rfl rfl rfl
abbrev m_X0_last : Mi := (yX0_last, cX0_last, (some .int), 4, 3, 61, [])
theorem n_X0_last : nameOk yX0_last 2 := ⟨by decide, by decide, by decide +kernel⟩
def f_X0_last_L26 (x0 : Nat) : Nat → Hp → Int → Int → Int → (Hp → Int → Option (Int × Hp)) → Option (Int × Hp)
  | 0, _, _, _, _, _ => none
  | n + 1, s0, x1, x2, x3, k => (if nrm x3 < 0 then (k s0 x3) else ((gR s0 0 (some x0) 7).bind fun v9 => (gR s0 5 v9 0).bind fun v10 => (aR s0 105 v10 x1).bind fun v11 => (aI s0 101 v11 x3).bind fun v12 => (if nrm v12 = nrm x2 then (k s0 x3) else (f_X0_last_L26 x0 n s0 x1 x2 (x3 + (-1)) k))))
theorem w_X0_last_L26 {σ0 : Hp} {w : Int × Hp} {x0 : Nat} : ∀ (n : Nat) (s0 : Hp) (x1 : Int) (x2 : Int) (x3 : Int) (k : (Hp → Int → Option (Int × Hp))), f_X0_last_L26 x0 n s0 x1 x2 x3 k = some w → (∀ (s1 : Hp) (x3 : Int), k s1 x3 = some w → AW m_X0_last σ0 (oI w) 51 [none, none, none, some (iV x3)] [] s1) → AW m_X0_last σ0 (oI w) 26 [some (rV (some x0)), some (iV x1), some (iV x2), some (iV x3)] [] s0 := by
  intro n
  induction n with
  | zero =>
    intro s0 x1 x2 x3 k h hk
    rw [f_X0_last_L26] at h
    cases h
  | succ n ih =>
    intro s0 x1 x2 x3 k h hk
    rw [f_X0_last_L26] at h
    refine AW.iload_n dX0_last_26 rfl ?_
    refine AW.if_lt 51 dX0_last_27 (by decide) h (fun c14 h => ?_) (fun c14 h => ?_)
    · exact AW.fewer (L' := [none, none, none, some (iV x3)]) (And.intro rfl trivial) (hk _ _ h)
    · refine AW.aload_n dX0_last_30 rfl ?_
      refine AW.getR (t := 0) (k := 7) dX0_last_31 ck0 (Nat.le_of_ble_eq_true rfl) (fun _ => rfl) q553 (Or.inl rfl) h (fun v9 h => ?_)
      refine AW.getR (t := 5) (k := 0) dX0_last_34 ck5 (Nat.le_of_ble_eq_true rfl) (fun _ => rfl) q422 (Or.inl rfl) h (fun v10 h => ?_)
      refine AW.iload_n dX0_last_37 rfl ?_
      refine AW.aald (t := 105) dX0_last_38 (Nat.le_of_ble_eq_true rfl) rfl (fun _ _ => rfl) h (fun v11 h => ?_)
      refine AW.iload_n dX0_last_39 rfl ?_
      refine AW.bald (t := 101) dX0_last_40 (Nat.le_of_ble_eq_true rfl) rfl h (fun v12 h => ?_)
      refine AW.iload_n dX0_last_41 rfl ?_
      refine AW.icmp_eq 51 dX0_last_42 (by decide) h (fun c13 h => ?_) (fun c13 h => ?_)
      · exact AW.fewer (L' := [none, none, none, some (iV x3)]) (And.intro rfl trivial) (hk _ _ h)
      · refine AW.iinc (L' := [some (rV (some x0)), some (iV x1), some (iV x2), some (iV (x3 + (-1)))]) dX0_last_45 rfl (Nat.le_of_ble_eq_true rfl) rfl rfl ?_
        refine AW.goto (tgt := 26) dX0_last_48 (by decide) ?_
        exact ih _ _ _ _ _ h hk
def f_X0_last (s0 : Hp) (x0 : Nat) (x1 : Int) (x2 : Int) : Option (Int × Hp) :=
  (rcv s0 0 (some x0)).bind fun b3 => bn (f_X0_isMan s0 b3 x1) fun v1 s2 => (if nrm v1 = 0 then (some ((-1), s2)) else ((rcv s2 0 (some x0)).bind fun b6 => bn (f_X0_isRoom s2 b6 x2) fun v4 s5 => (if ¬ nrm v4 = 0 then ((gR s5 0 (some x0) 7).bind fun v7 => (gI s5 5 v7 9).bind fun v8 => f_X0_last_L26 x0 FU s5 x1 x2 v8 (fun s15 x3 => (if 0 ≤ nrm x3 then (some (nrm x3, s15)) else (some ((-2), s15))))) else (some ((-1), s5)))))
theorem w_X0_last {σ0 : Hp} {w : Int × Hp} (s0 : Hp) (x0 : Nat) (x1 : Int) (x2 : Int) (h : f_X0_last s0 x0 x1 x2 = some w) : AW m_X0_last σ0 (oI w) 0 [some (rV (some x0)), some (iV x1), some (iV x2), none] [] s0 := by
  unfold f_X0_last at h
  refine AW.aload_n dX0_last_0 rfl ?_
  refine AW.iload_n dX0_last_1 rfl ?_
  refine AW.VI (M' := m_X0_isMan) (t := 0) [iV x1] [] dX0_last_2 q1171 q1173 qs31 q121 q1174 ck0 rfl n_X0_isMan rfl rfl rfl (fun _ _ _ e => c_X0_isMan e) h (fun v1 s2 h => ?_)
  refine AW.if_eq 16 dX0_last_5 (by decide) h (fun c18 h => ?_) (fun c18 h => ?_)
  · refine AW.iconst dX0_last_16 ?_
    cases h
    exact AW.iret dX0_last_17 rfl
  · refine AW.aload_n dX0_last_8 rfl ?_
    refine AW.iload_n dX0_last_9 rfl ?_
    refine AW.VI (M' := m_X0_isRoom) (t := 0) [iV x2] [] dX0_last_10 q1265 q1267 qs39 q121 q1268 ck0 rfl n_X0_isRoom rfl rfl rfl (fun _ _ _ e => c_X0_isRoom e) h (fun v4 s5 h => ?_)
    refine AW.if_ne 18 dX0_last_13 (by decide) h (fun c17 h => ?_) (fun c17 h => ?_)
    · refine AW.aload_n dX0_last_18 rfl ?_
      refine AW.getR (t := 0) (k := 7) dX0_last_19 ck0 (Nat.le_of_ble_eq_true rfl) (fun _ => rfl) q553 (Or.inl rfl) h (fun v7 h => ?_)
      refine AW.getI (t := 5) (k := 9) dX0_last_22 ck5 (Nat.le_of_ble_eq_true rfl) (fun _ => rfl) q437 (Or.inl rfl) h (fun v8 h => ?_)
      refine AW.istore_n (L' := [some (rV (some x0)), some (iV x1), some (iV x2), some (iV v8)]) dX0_last_25 (Nat.le_of_ble_eq_true rfl) rfl rfl ?_
      refine w_X0_last_L26 _ _ _ _ _ _ h (fun s15 x3 h => ?_)
      refine AW.iload_n dX0_last_51 rfl ?_
      refine AW.if_ge 60 dX0_last_52 (by decide) h (fun c16 h => ?_) (fun c16 h => ?_)
      · refine AW.iload_n dX0_last_60 rfl ?_
        refine AW.nv ?_
        cases h
        exact AW.iret dX0_last_61 rfl
      · refine AW.bipush dX0_last_55 (by decide) ?_
        refine AW.goto (tgt := 61) dX0_last_57 (by decide) ?_
        cases h
        exact AW.iret dX0_last_61 rfl
    · refine AW.iconst dX0_last_16 ?_
      cases h
      exact AW.iret dX0_last_17 rfl
theorem c_X0_last {s0 : Hp} {x0 : Nat} {x1 : Int} {x2 : Int} {v : Int} {s1 : Hp} (h : f_X0_last s0 x0 x1 x2 = some (v, s1)) : Ct m_X0_last [rV (some x0), iV x1, iV x2] s0 (.inl (some (iV v)), s1) :=
  Ct.of2 (w_X0_last s0 x0 x1 x2 h) (show plainName yX0_last.cls = true by decide) rfl rfl rfl
abbrev m_X0_laysWays : Mi := (yX0_laysWays, cX0_laysWays, none, 6, 3, 64, [])
theorem n_X0_laysWays : nameOk yX0_laysWays 1 := ⟨by decide, by decide, by decide +kernel⟩
def f_X0_laysWays_L2 (x0 : Nat) : Nat → Hp → Int → Int → (Hp → Option (Unit × Hp)) → Option (Unit × Hp)
  | 0, _, _, _, _ => none
  | n + 1, s0, x1, x2, k => (rcv s0 0 (some x0)).bind fun b3 => bn (f_X0_rooms s0 b3) fun v1 s2 => (if nrm v1 ≤ nrm x2 then (k s2) else ((gR s2 0 (some x0) 17).bind fun v4 => (if ¬ nrm x2 = nrm x1 then ((sI s2 100 v4 x2 1000000).bind fun s5 => f_X0_laysWays_L2 x0 n s5 x1 (x2 + 1) k) else ((sI s2 100 v4 x2 0).bind fun s6 => f_X0_laysWays_L2 x0 n s6 x1 (x2 + 1) k))))
theorem w_X0_laysWays_L2 {σ0 : Hp} {w : Unit × Hp} {x0 : Nat} : ∀ (n : Nat) (s0 : Hp) (x1 : Int) (x2 : Int) (k : (Hp → Option (Unit × Hp))), f_X0_laysWays_L2 x0 n s0 x1 x2 k = some w → (∀ (s1 : Hp), k s1 = some w → AW m_X0_laysWays σ0 (oU w) 34 [some (rV (some x0)), none, none, none, none, none] [] s1) → AW m_X0_laysWays σ0 (oU w) 2 [some (rV (some x0)), some (iV x1), some (iV x2), none, none, none] [] s0 := by
  intro n
  induction n with
  | zero =>
    intro s0 x1 x2 k h hk
    rw [f_X0_laysWays_L2] at h
    cases h
  | succ n ih =>
    intro s0 x1 x2 k h hk
    rw [f_X0_laysWays_L2] at h
    refine AW.iload_n dX0_laysWays_2 rfl ?_
    refine AW.aload_n dX0_laysWays_3 rfl ?_
    refine AW.VI (M' := m_X0_rooms) (t := 0) [] [iV x2] dX0_laysWays_4 q1269 q1271 qs40 q121 q1272 ck0 rfl n_X0_rooms rfl rfl rfl (fun _ _ _ e => c_X0_rooms e) h (fun v1 s2 h => ?_)
    refine AW.icmp_ge 34 dX0_laysWays_7 (by decide) h (fun c8 h => ?_) (fun c8 h => ?_)
    · exact AW.fewer (L' := [some (rV (some x0)), none, none, none, none, none]) (And.intro rfl trivial) (hk _ h)
    · refine AW.aload_n dX0_laysWays_10 rfl ?_
      refine AW.getR (t := 0) (k := 17) dX0_laysWays_11 ck0 (Nat.le_of_ble_eq_true rfl) (fun _ => rfl) q563 (Or.inl rfl) h (fun v4 h => ?_)
      refine AW.iload_n dX0_laysWays_14 rfl ?_
      refine AW.iload_n dX0_laysWays_15 rfl ?_
      refine AW.iload_n dX0_laysWays_16 rfl ?_
      refine AW.icmp_ne 24 dX0_laysWays_17 (by decide) h (fun c7 h => ?_) (fun c7 h => ?_)
      · refine AW.ldcw (z := 1000000) dX0_laysWays_24 q1424 (by decide) ?_
        refine AW.iast (t := 100) dX0_laysWays_27 (Nat.le_of_ble_eq_true rfl) mu100 rfl h (fun s5 h => ?_)
        refine AW.iinc (L' := [some (rV (some x0)), some (iV x1), some (iV (x2 + 1)), none, none, none]) dX0_laysWays_28 rfl (Nat.le_of_ble_eq_true rfl) rfl rfl ?_
        refine AW.goto (tgt := 2) dX0_laysWays_31 (by decide) ?_
        exact ih _ _ _ _ h hk
      · refine AW.iconst dX0_laysWays_20 ?_
        refine AW.goto (tgt := 27) dX0_laysWays_21 (by decide) ?_
        refine AW.iast (t := 100) dX0_laysWays_27 (Nat.le_of_ble_eq_true rfl) mu100 rfl h (fun s6 h => ?_)
        refine AW.iinc (L' := [some (rV (some x0)), some (iV x1), some (iV (x2 + 1)), none, none, none]) dX0_laysWays_28 rfl (Nat.le_of_ble_eq_true rfl) rfl rfl ?_
        refine AW.goto (tgt := 2) dX0_laysWays_31 (by decide) ?_
        exact ih _ _ _ _ h hk
def f_X0_laysWays_L73 (x0 : Nat) : Nat → Hp → Int → Int → Option Nat → Int → (Hp → Int → Int → Option (Unit × Hp)) → Option (Unit × Hp)
  | 0, _, _, _, _, _, _ => none
  | n + 1, s0, x2, x3, x4, x5, k => (gI s0 10 x4 2).bind fun v22 => (if nrm v22 ≤ nrm x5 then (k s0 x2 x3) else ((gR s0 0 (some x0) 17).bind fun v23 => (aI s0 100 v23 x3).bind fun v24 => (if nrm 1000000 ≤ nrm v24 then (k s0 x2 x3) else ((gR s0 0 (some x0) 17).bind fun v25 => (gR s0 10 x4 1).bind fun v26 => (aI s0 100 v26 x5).bind fun v27 => (gR s0 0 (some x0) 17).bind fun v28 => (gR s0 10 x4 1).bind fun v29 => (aI s0 100 v29 x5).bind fun v30 => (aI s0 100 v28 v30).bind fun v31 => (gR s0 0 (some x0) 17).bind fun v32 => (aI s0 100 v32 x3).bind fun v33 => (sI s0 100 v25 v27 (nrm (mnI v31 (v33 + 1)))).bind fun s34 => f_X0_laysWays_L73 x0 n s34 x2 x3 x4 (x5 + 1) k))))
theorem w_X0_laysWays_L73 {σ0 : Hp} {w : Unit × Hp} {x0 : Nat} : ∀ (n : Nat) (s0 : Hp) (x2 : Int) (x3 : Int) (x4 : Option Nat) (x5 : Int) (k : (Hp → Int → Int → Option (Unit × Hp))), f_X0_laysWays_L73 x0 n s0 x2 x3 x4 x5 k = some w → (∀ (s1 : Hp) (x2 : Int) (x3 : Int), k s1 x2 x3 = some w → AW m_X0_laysWays σ0 (oU w) 138 [some (rV (some x0)), none, some (iV x2), some (iV x3), none, none] [] s1) → AW m_X0_laysWays σ0 (oU w) 73 [some (rV (some x0)), none, some (iV x2), some (iV x3), some (rV x4), some (iV x5)] [] s0 := by
  intro n
  induction n with
  | zero =>
    intro s0 x2 x3 x4 x5 k h hk
    rw [f_X0_laysWays_L73] at h
    cases h
  | succ n ih =>
    intro s0 x2 x3 x4 x5 k h hk
    rw [f_X0_laysWays_L73] at h
    refine AW.iload dX0_laysWays_73 rfl ?_
    refine AW.aload dX0_laysWays_75 rfl ?_
    refine AW.getI (t := 10) (k := 2) dX0_laysWays_77 ck10 (Nat.le_of_ble_eq_true rfl) (fun _ => rfl) q947 (Or.inl rfl) h (fun v22 h => ?_)
    refine AW.icmp_ge 138 dX0_laysWays_80 (by decide) h (fun c36 h => ?_) (fun c36 h => ?_)
    · exact AW.fewer (L' := [some (rV (some x0)), none, some (iV x2), some (iV x3), none, none]) (And.intro rfl (And.intro rfl (And.intro rfl trivial))) (hk _ _ _ h)
    · refine AW.aload_n dX0_laysWays_83 rfl ?_
      refine AW.getR (t := 0) (k := 17) dX0_laysWays_84 ck0 (Nat.le_of_ble_eq_true rfl) (fun _ => rfl) q563 (Or.inl rfl) h (fun v23 h => ?_)
      refine AW.iload_n dX0_laysWays_87 rfl ?_
      refine AW.iald (t := 100) dX0_laysWays_88 (Nat.le_of_ble_eq_true rfl) rfl h (fun v24 h => ?_)
      refine AW.ldcw (z := 1000000) dX0_laysWays_89 q1424 (by decide) ?_
      refine AW.icmp_ge 138 dX0_laysWays_92 (by decide) h (fun c35 h => ?_) (fun c35 h => ?_)
      · exact AW.fewer (L' := [some (rV (some x0)), none, some (iV x2), some (iV x3), none, none]) (And.intro rfl (And.intro rfl (And.intro rfl trivial))) (hk _ _ _ h)
      · refine AW.aload_n dX0_laysWays_95 rfl ?_
        refine AW.getR (t := 0) (k := 17) dX0_laysWays_96 ck0 (Nat.le_of_ble_eq_true rfl) (fun _ => rfl) q563 (Or.inl rfl) h (fun v25 h => ?_)
        refine AW.aload dX0_laysWays_99 rfl ?_
        refine AW.getR (t := 10) (k := 1) dX0_laysWays_101 ck10 (Nat.le_of_ble_eq_true rfl) (fun _ => rfl) q944 (Or.inl rfl) h (fun v26 h => ?_)
        refine AW.iload dX0_laysWays_104 rfl ?_
        refine AW.iald (t := 100) dX0_laysWays_106 (Nat.le_of_ble_eq_true rfl) rfl h (fun v27 h => ?_)
        refine AW.aload_n dX0_laysWays_107 rfl ?_
        refine AW.getR (t := 0) (k := 17) dX0_laysWays_108 ck0 (Nat.le_of_ble_eq_true rfl) (fun _ => rfl) q563 (Or.inl rfl) h (fun v28 h => ?_)
        refine AW.aload dX0_laysWays_111 rfl ?_
        refine AW.getR (t := 10) (k := 1) dX0_laysWays_113 ck10 (Nat.le_of_ble_eq_true rfl) (fun _ => rfl) q944 (Or.inl rfl) h (fun v29 h => ?_)
        refine AW.iload dX0_laysWays_116 rfl ?_
        refine AW.iald (t := 100) dX0_laysWays_118 (Nat.le_of_ble_eq_true rfl) rfl h (fun v30 h => ?_)
        refine AW.iald (t := 100) dX0_laysWays_119 (Nat.le_of_ble_eq_true rfl) rfl h (fun v31 h => ?_)
        refine AW.aload_n dX0_laysWays_120 rfl ?_
        refine AW.getR (t := 0) (k := 17) dX0_laysWays_121 ck0 (Nat.le_of_ble_eq_true rfl) (fun _ => rfl) q563 (Or.inl rfl) h (fun v32 h => ?_)
        refine AW.iload_n dX0_laysWays_124 rfl ?_
        refine AW.iald (t := 100) dX0_laysWays_125 (Nat.le_of_ble_eq_true rfl) rfl h (fun v33 h => ?_)
        refine AW.iconst dX0_laysWays_126 ?_
        refine AW.iadd dX0_laysWays_127 ?_
        refine AW.mmin dX0_laysWays_128 q1226 rfl rfl ?_
        refine AW.nv ?_
        refine AW.iast (t := 100) dX0_laysWays_131 (Nat.le_of_ble_eq_true rfl) mu100 rfl h (fun s34 h => ?_)
        refine AW.iinc (L' := [some (rV (some x0)), none, some (iV x2), some (iV x3), some (rV x4), some (iV (x5 + 1))]) dX0_laysWays_132 rfl (Nat.le_of_ble_eq_true rfl) rfl rfl ?_
        refine AW.goto (tgt := 73) dX0_laysWays_135 (by decide) ?_
        exact ih _ _ _ _ _ _ h hk
def f_X0_laysWays_L46 (x0 : Nat) : Nat → Hp → Int → Int → (Hp → Int → Option (Unit × Hp)) → Option (Unit × Hp)
  | 0, _, _, _, _ => none
  | n + 1, s0, x2, x3, k => (rcv s0 0 (some x0)).bind fun b15 => bn (f_X0_rooms s0 b15) fun v13 s14 => (if nrm v13 ≤ nrm x3 then (k s14 x2) else ((gR s14 0 (some x0) 3).bind fun v16 => (gR s14 4 v16 0).bind fun v17 => (rcv s14 18 v17).bind fun b20 => bn (f_J5_get s14 b20 x3) fun v18 s19 => (kst s19 [10] v18).bind fun v21 => f_X0_laysWays_L73 x0 FU s19 x2 x3 v21 0 (fun s37 x2 x3 => f_X0_laysWays_L46 x0 n s37 x2 (x3 + 1) k)))
theorem w_X0_laysWays_L46 {σ0 : Hp} {w : Unit × Hp} {x0 : Nat} : ∀ (n : Nat) (s0 : Hp) (x2 : Int) (x3 : Int) (k : (Hp → Int → Option (Unit × Hp))), f_X0_laysWays_L46 x0 n s0 x2 x3 k = some w → (∀ (s1 : Hp) (x2 : Int), k s1 x2 = some w → AW m_X0_laysWays σ0 (oU w) 144 [some (rV (some x0)), none, some (iV x2), none, none, none] [] s1) → AW m_X0_laysWays σ0 (oU w) 46 [some (rV (some x0)), none, some (iV x2), some (iV x3), none, none] [] s0 := by
  intro n
  induction n with
  | zero =>
    intro s0 x2 x3 k h hk
    rw [f_X0_laysWays_L46] at h
    cases h
  | succ n ih =>
    intro s0 x2 x3 k h hk
    rw [f_X0_laysWays_L46] at h
    refine AW.iload_n dX0_laysWays_46 rfl ?_
    refine AW.aload_n dX0_laysWays_47 rfl ?_
    refine AW.VI (M' := m_X0_rooms) (t := 0) [] [iV x3] dX0_laysWays_48 q1269 q1271 qs40 q121 q1272 ck0 rfl n_X0_rooms rfl rfl rfl (fun _ _ _ e => c_X0_rooms e) h (fun v13 s14 h => ?_)
    refine AW.icmp_ge 144 dX0_laysWays_51 (by decide) h (fun c38 h => ?_) (fun c38 h => ?_)
    · exact AW.fewer (L' := [some (rV (some x0)), none, some (iV x2), none, none, none]) (And.intro rfl (And.intro rfl trivial)) (hk _ _ h)
    · refine AW.aload_n dX0_laysWays_54 rfl ?_
      refine AW.getR (t := 0) (k := 3) dX0_laysWays_55 ck0 (Nat.le_of_ble_eq_true rfl) (fun _ => rfl) q549 (Or.inl rfl) h (fun v16 h => ?_)
      refine AW.getR (t := 4) (k := 0) dX0_laysWays_58 ck4 (Nat.le_of_ble_eq_true rfl) (fun _ => rfl) q357 (Or.inl rfl) h (fun v17 h => ?_)
      refine AW.iload_n dX0_laysWays_61 rfl ?_
      refine AW.VR (M' := m_J5_get) (t := 18) [iV x3] [] dX0_laysWays_62 q1254 q489 q490 q131 q491 ck18 rfl n_J5_get rfl rfl rfl (fun _ _ _ e => c_J5_get e) h (fun v18 s19 h => ?_)
      refine AW.cast (ts := [10]) dX0_laysWays_65 q1255 ca10 h (fun v21 h => ?_)
      refine AW.astore (L' := [some (rV (some x0)), none, some (iV x2), some (iV x3), some (rV v21), none]) dX0_laysWays_68 (Nat.le_of_ble_eq_true rfl) rfl rfl ?_
      refine AW.iconst dX0_laysWays_70 ?_
      refine AW.istore (L' := [some (rV (some x0)), none, some (iV x2), some (iV x3), some (rV v21), some (iV 0)]) dX0_laysWays_71 (Nat.le_of_ble_eq_true rfl) rfl rfl ?_
      refine w_X0_laysWays_L73 _ _ _ _ _ _ _ h (fun s37 x2 x3 h => ?_)
      refine AW.iinc (L' := [some (rV (some x0)), none, some (iV x2), some (iV (x3 + 1)), none, none]) dX0_laysWays_138 rfl (Nat.le_of_ble_eq_true rfl) rfl rfl ?_
      refine AW.goto (tgt := 46) dX0_laysWays_141 (by decide) ?_
      exact ih _ _ _ _ h hk
def f_X0_laysWays_L36 (x0 : Nat) : Nat → Hp → Int → (Hp → Option (Unit × Hp)) → Option (Unit × Hp)
  | 0, _, _, _ => none
  | n + 1, s0, x2, k => (rcv s0 0 (some x0)).bind fun b12 => bn (f_X0_rooms s0 b12) fun v10 s11 => (if nrm v10 ≤ nrm x2 then (k s11) else (f_X0_laysWays_L46 x0 FU s11 x2 0 (fun s39 x2 => f_X0_laysWays_L36 x0 n s39 (x2 + 1) k)))
theorem w_X0_laysWays_L36 {σ0 : Hp} {w : Unit × Hp} {x0 : Nat} : ∀ (n : Nat) (s0 : Hp) (x2 : Int) (k : (Hp → Option (Unit × Hp))), f_X0_laysWays_L36 x0 n s0 x2 k = some w → (∀ (s1 : Hp), k s1 = some w → AW m_X0_laysWays σ0 (oU w) 150 [none, none, none, none, none, none] [] s1) → AW m_X0_laysWays σ0 (oU w) 36 [some (rV (some x0)), none, some (iV x2), none, none, none] [] s0 := by
  intro n
  induction n with
  | zero =>
    intro s0 x2 k h hk
    rw [f_X0_laysWays_L36] at h
    cases h
  | succ n ih =>
    intro s0 x2 k h hk
    rw [f_X0_laysWays_L36] at h
    refine AW.iload_n dX0_laysWays_36 rfl ?_
    refine AW.aload_n dX0_laysWays_37 rfl ?_
    refine AW.VI (M' := m_X0_rooms) (t := 0) [] [iV x2] dX0_laysWays_38 q1269 q1271 qs40 q121 q1272 ck0 rfl n_X0_rooms rfl rfl rfl (fun _ _ _ e => c_X0_rooms e) h (fun v10 s11 h => ?_)
    refine AW.icmp_ge 150 dX0_laysWays_41 (by decide) h (fun c40 h => ?_) (fun c40 h => ?_)
    · exact AW.fewer (L' := [none, none, none, none, none, none]) (trivial) (hk _ h)
    · refine AW.iconst dX0_laysWays_44 ?_
      refine AW.istore_n (L' := [some (rV (some x0)), none, some (iV x2), some (iV 0), none, none]) dX0_laysWays_45 (Nat.le_of_ble_eq_true rfl) rfl rfl ?_
      refine w_X0_laysWays_L46 _ _ _ _ _ h (fun s39 x2 h => ?_)
      refine AW.iinc (L' := [some (rV (some x0)), none, some (iV (x2 + 1)), none, none, none]) dX0_laysWays_144 rfl (Nat.le_of_ble_eq_true rfl) rfl rfl ?_
      refine AW.goto (tgt := 36) dX0_laysWays_147 (by decide) ?_
      exact ih _ _ _ h hk
def f_X0_laysWays (s0 : Hp) (x0 : Nat) (x1 : Int) : Option (Unit × Hp) :=
  f_X0_laysWays_L2 x0 FU s0 x1 0 (fun s9 => f_X0_laysWays_L36 x0 FU s9 0 (fun s41 => some ((), s41)))
theorem w_X0_laysWays {σ0 : Hp} {w : Unit × Hp} (s0 : Hp) (x0 : Nat) (x1 : Int) (h : f_X0_laysWays s0 x0 x1 = some w) : AW m_X0_laysWays σ0 (oU w) 0 [some (rV (some x0)), some (iV x1), none, none, none, none] [] s0 := by
  unfold f_X0_laysWays at h
  refine AW.iconst dX0_laysWays_0 ?_
  refine AW.istore_n (L' := [some (rV (some x0)), some (iV x1), some (iV 0), none, none, none]) dX0_laysWays_1 (Nat.le_of_ble_eq_true rfl) rfl rfl ?_
  refine w_X0_laysWays_L2 _ _ _ _ _ h (fun s9 h => ?_)
  refine AW.iconst dX0_laysWays_34 ?_
  refine AW.istore_n (L' := [some (rV (some x0)), none, some (iV 0), none, none, none]) dX0_laysWays_35 (Nat.le_of_ble_eq_true rfl) rfl rfl ?_
  refine w_X0_laysWays_L36 _ _ _ _ h (fun s41 h => ?_)
  cases h
  exact AW.vret dX0_laysWays_150 rfl
theorem c_X0_laysWays {s0 : Hp} {x0 : Nat} {x1 : Int} {v : Unit} {s1 : Hp} (h : f_X0_laysWays s0 x0 x1 = some (v, s1)) : Ct m_X0_laysWays [rV (some x0), iV x1] s0 (.inl none, s1) :=
  Ct.of2 (w_X0_laysWays s0 x0 x1 h) (show plainName yX0_laysWays.cls = true by decide) rfl rfl rfl
abbrev m_X0_lonely : Mi := (yX0_lonely, cX0_lonely, (some .int), 3, 4, 94, [])
theorem n_X0_lonely : nameOk yX0_lonely 0 := ⟨by decide, by decide, by decide +kernel⟩
def f_X0_lonely_L5 (x0 : Nat) : Nat → Hp → Int → Int → (Hp → Int → Option (Int × Hp)) → Option (Int × Hp)
  | 0, _, _, _, _ => none
  | n + 1, s0, x1, x2, k => (rcv s0 0 (some x0)).bind fun b3 => bn (f_X0_men s0 b3) fun v1 s2 => (if nrm v1 ≤ nrm x2 then (k s2 x1) else ((if nrm x1 < 0 then (f_X0_lonely_L5 x0 n s2 x2 (x2 + 1) k) else ((rcv s2 0 (some x0)).bind fun b6 => bn (f_X0_alone s2 b6 x2 0) fun v4 s5 => (rcv s5 0 (some x0)).bind fun b9 => bn (f_X0_alone s5 b9 x1 0) fun v7 s8 => (if nrm v4 ≤ nrm v7 then (f_X0_lonely_L5 x0 n s8 x1 (x2 + 1) k) else (f_X0_lonely_L5 x0 n s8 x2 (x2 + 1) k))))))
theorem w_X0_lonely_L5 {σ0 : Hp} {w : Int × Hp} {x0 : Nat} : ∀ (n : Nat) (s0 : Hp) (x1 : Int) (x2 : Int) (k : (Hp → Int → Option (Int × Hp))), f_X0_lonely_L5 x0 n s0 x1 x2 k = some w → (∀ (s1 : Hp) (x1 : Int), k s1 x1 = some w → AW m_X0_lonely σ0 (oI w) 40 [none, some (iV x1), none] [] s1) → AW m_X0_lonely σ0 (oI w) 5 [some (rV (some x0)), some (iV x1), some (iV x2)] [] s0 := by
  intro n
  induction n with
  | zero =>
    intro s0 x1 x2 k h hk
    rw [f_X0_lonely_L5] at h
    cases h
  | succ n ih =>
    intro s0 x1 x2 k h hk
    rw [f_X0_lonely_L5] at h
    refine AW.iload_n dX0_lonely_5 rfl ?_
    refine AW.aload_n dX0_lonely_6 rfl ?_
    refine AW.VI (M' := m_X0_men) (t := 0) [] [iV x2] dX0_lonely_7 q1175 q1177 qs32 q121 q1178 ck0 rfl n_X0_men rfl rfl rfl (fun _ _ _ e => c_X0_men e) h (fun v1 s2 h => ?_)
    refine AW.icmp_ge 40 dX0_lonely_10 (by decide) h (fun c12 h => ?_) (fun c12 h => ?_)
    · exact AW.fewer (L' := [none, some (iV x1), none]) (And.intro rfl trivial) (hk _ _ h)
    · refine AW.iload_n dX0_lonely_13 rfl ?_
      refine AW.if_lt 32 dX0_lonely_14 (by decide) h (fun c11 h => ?_) (fun c11 h => ?_)
      · refine AW.iload_n dX0_lonely_32 rfl ?_
        refine AW.istore_n (L' := [some (rV (some x0)), some (iV x2), some (iV x2)]) dX0_lonely_33 (Nat.le_of_ble_eq_true rfl) rfl rfl ?_
        refine AW.iinc (L' := [some (rV (some x0)), some (iV x2), some (iV (x2 + 1))]) dX0_lonely_34 rfl (Nat.le_of_ble_eq_true rfl) rfl rfl ?_
        refine AW.goto (tgt := 5) dX0_lonely_37 (by decide) ?_
        exact ih _ _ _ _ h hk
      · refine AW.aload_n dX0_lonely_17 rfl ?_
        refine AW.iload_n dX0_lonely_18 rfl ?_
        refine AW.iconst dX0_lonely_19 ?_
        refine AW.VI (M' := m_X0_alone) (t := 0) [iV x2, iV 0] [] dX0_lonely_20 q1330 q1318 q1319 q121 q1320 ck0 rfl n_X0_alone rfl rfl rfl (fun _ _ _ e => c_X0_alone e) h (fun v4 s5 h => ?_)
        refine AW.aload_n dX0_lonely_23 rfl ?_
        refine AW.iload_n dX0_lonely_24 rfl ?_
        refine AW.iconst dX0_lonely_25 ?_
        refine AW.VI (M' := m_X0_alone) (t := 0) [iV x1, iV 0] [iV v4] dX0_lonely_26 q1330 q1318 q1319 q121 q1320 ck0 rfl n_X0_alone rfl rfl rfl (fun _ _ _ e => c_X0_alone e) h (fun v7 s8 h => ?_)
        refine AW.icmp_le 34 dX0_lonely_29 (by decide) h (fun c10 h => ?_) (fun c10 h => ?_)
        · refine AW.iinc (L' := [some (rV (some x0)), some (iV x1), some (iV (x2 + 1))]) dX0_lonely_34 rfl (Nat.le_of_ble_eq_true rfl) rfl rfl ?_
          refine AW.goto (tgt := 5) dX0_lonely_37 (by decide) ?_
          exact ih _ _ _ _ h hk
        · refine AW.iload_n dX0_lonely_32 rfl ?_
          refine AW.istore_n (L' := [some (rV (some x0)), some (iV x2), some (iV x2)]) dX0_lonely_33 (Nat.le_of_ble_eq_true rfl) rfl rfl ?_
          refine AW.iinc (L' := [some (rV (some x0)), some (iV x2), some (iV (x2 + 1))]) dX0_lonely_34 rfl (Nat.le_of_ble_eq_true rfl) rfl rfl ?_
          refine AW.goto (tgt := 5) dX0_lonely_37 (by decide) ?_
          exact ih _ _ _ _ h hk
def f_X0_lonely (s0 : Hp) (x0 : Nat) : Option (Int × Hp) :=
  f_X0_lonely_L5 x0 FU s0 (-2) 0 (fun s13 x1 => some (nrm x1, s13))
theorem w_X0_lonely {σ0 : Hp} {w : Int × Hp} (s0 : Hp) (x0 : Nat) (h : f_X0_lonely s0 x0 = some w) : AW m_X0_lonely σ0 (oI w) 0 [some (rV (some x0)), none, none] [] s0 := by
  unfold f_X0_lonely at h
  refine AW.bipush dX0_lonely_0 (by decide) ?_
  refine AW.istore_n (L' := [some (rV (some x0)), some (iV (-2)), none]) dX0_lonely_2 (Nat.le_of_ble_eq_true rfl) rfl rfl ?_
  refine AW.iconst dX0_lonely_3 ?_
  refine AW.istore_n (L' := [some (rV (some x0)), some (iV (-2)), some (iV 0)]) dX0_lonely_4 (Nat.le_of_ble_eq_true rfl) rfl rfl ?_
  refine w_X0_lonely_L5 _ _ _ _ _ h (fun s13 x1 h => ?_)
  refine AW.iload_n dX0_lonely_40 rfl ?_
  refine AW.nv ?_
  cases h
  exact AW.iret dX0_lonely_41 rfl
theorem c_X0_lonely {s0 : Hp} {x0 : Nat} {v : Int} {s1 : Hp} (h : f_X0_lonely s0 x0 = some (v, s1)) : Ct m_X0_lonely [rV (some x0)] s0 (.inl (some (iV v)), s1) :=
  Ct.of2 (w_X0_lonely s0 x0 h) (show plainName yX0_lonely.cls = true by decide) rfl rfl rfl
abbrev m_X0_look : Mi := (yX0_look, cX0_look, (some .int), 7, 4, 89, [])
theorem n_X0_look : nameOk yX0_look 4 := ⟨by decide, by decide, by decide +kernel⟩
def f_X0_look (s0 : Hp) (x0 : Nat) (x1 : Int) (x2 : Int) (x3 : Int) (x4 : Int) : Option (Int × Hp) :=
  (rcv s0 0 (some x0)).bind fun b3 => bn (f_X0_isMirror s0 b3 x1) fun v1 s2 => (if nrm v1 = 0 then (some ((-1), s2)) else ((rcv s2 0 (some x0)).bind fun b6 => bn (f_X0_isMirror s2 b6 x2) fun v4 s5 => (if nrm v4 = 0 then (some ((-1), s5)) else ((rcv s5 0 (some x0)).bind fun b9 => bn (f_X0_mirrors s5 b9) fun v7 s8 => bn (f_X0_isIn s8 x3 (-1) (v7 - 1)) fun v10 s11 => (if nrm v10 = 0 then (some ((-1), s11)) else (bn (f_X0_isIn s11 x4 0 2) fun v12 s13 => (if ¬ nrm v12 = 0 then ((gR s13 0 (some x0) 12).bind fun v14 => (gR s13 0 (some x0) 7).bind fun v15 => (gI s13 5 v15 9).bind fun v16 => (rcv s13 7 v14).bind fun b18 => bn (f_X7_begins s13 b18 x1 v16) fun _ s17 => (gR s17 0 (some x0) 12).bind fun v19 => (gR s17 0 (some x0) 7).bind fun v20 => (rcv s17 7 v19).bind fun b23 => bn (f_X7_goesTo s17 b23 v20 x2) fun v21 s22 => (if nrm v21 = 0 then (some ((-2), s22)) else (jn (fun (s24 : Hp) (x4 : Int) => (gR s24 0 (some x0) 12).bind fun v25 => (gR s24 0 (some x0) 7).bind fun v26 => (rcv s24 7 v25).bind fun b29 => bn (f_X7_shows s24 b29 v26) fun v27 s28 => (if 0 ≤ nrm v27 then ((gR s28 0 (some x0) 7).bind fun v30 => (gR s28 5 v30 2).bind fun v31 => (gR s28 0 (some x0) 12).bind fun v32 => (gI s28 7 v32 0).bind fun v33 => (aR s28 105 v31 v33).bind fun v34 => (aI s28 101 v34 v27).bind fun v35 => (if ¬ nrm x4 = 0 then ((if ¬ nrm x4 = nrm 1 then ((gR s28 0 (some x0) 7).bind fun v36 => (gR s28 0 (some x0) 3).bind fun v37 => (rcv s28 5 v36).bind fun b40 => bn (f_X5_menIn s28 b40 v37 v35 v27) fun v38 s39 => some (v38, s39)) else (some (v35, s28)))) else (some (v27, s28)))) else (some ((-2), s28)))) fun j94 => (if nrm x3 < 0 then (j94 s22 x4) else ((gR s22 0 (some x0) 12).bind fun v44 => (gR s22 0 (some x0) 7).bind fun v45 => (rcv s22 7 v44).bind fun b48 => bn (f_X7_goesTo s22 b48 v45 x3) fun v46 s47 => (if ¬ nrm v46 = 0 then (j94 s47 x4) else (some ((-2), s47)))))))) else (some ((-1), s13)))))))))
theorem w_X0_look {σ0 : Hp} {w : Int × Hp} (s0 : Hp) (x0 : Nat) (x1 : Int) (x2 : Int) (x3 : Int) (x4 : Int) (h : f_X0_look s0 x0 x1 x2 x3 x4 = some w) : AW m_X0_look σ0 (oI w) 0 [some (rV (some x0)), some (iV x1), some (iV x2), some (iV x3), some (iV x4), none, none] [] s0 := by
  unfold f_X0_look at h
  refine AW.aload_n dX0_look_0 rfl ?_
  refine AW.iload_n dX0_look_1 rfl ?_
  refine AW.VI (M' := m_X0_isMirror) (t := 0) [iV x1] [] dX0_look_2 q1191 q1193 qs34 q121 q1194 ck0 rfl n_X0_isMirror rfl rfl rfl (fun _ _ _ e => c_X0_isMirror e) h (fun v1 s2 h => ?_)
  refine AW.if_eq 40 dX0_look_5 (by decide) h (fun c55 h => ?_) (fun c55 h => ?_)
  · refine AW.iconst dX0_look_40 ?_
    cases h
    exact AW.iret dX0_look_41 rfl
  · refine AW.aload_n dX0_look_8 rfl ?_
    refine AW.iload_n dX0_look_9 rfl ?_
    refine AW.VI (M' := m_X0_isMirror) (t := 0) [iV x2] [] dX0_look_10 q1191 q1193 qs34 q121 q1194 ck0 rfl n_X0_isMirror rfl rfl rfl (fun _ _ _ e => c_X0_isMirror e) h (fun v4 s5 h => ?_)
    refine AW.if_eq 40 dX0_look_13 (by decide) h (fun c54 h => ?_) (fun c54 h => ?_)
    · refine AW.iconst dX0_look_40 ?_
      cases h
      exact AW.iret dX0_look_41 rfl
    · refine AW.iload_n dX0_look_16 rfl ?_
      refine AW.iconst dX0_look_17 ?_
      refine AW.aload_n dX0_look_18 rfl ?_
      refine AW.VI (M' := m_X0_mirrors) (t := 0) [] [iV (-1), iV x3] dX0_look_19 q1195 q1197 qs35 q121 q1198 ck0 rfl n_X0_mirrors rfl rfl rfl (fun _ _ _ e => c_X0_mirrors e) h (fun v7 s8 h => ?_)
      refine AW.iconst dX0_look_22 ?_
      refine AW.isub dX0_look_23 ?_
      refine AW.SI (M' := m_X0_isIn) [iV x3, iV (-1), iV (v7 - 1)] [] dX0_look_24 q1180 q1181 q121 q1182 n_X0_isIn rfl rfl rfl (fun _ _ e => c_X0_isIn e) h (fun v10 s11 h => ?_)
      refine AW.if_eq 40 dX0_look_27 (by decide) h (fun c53 h => ?_) (fun c53 h => ?_)
      · refine AW.iconst dX0_look_40 ?_
        cases h
        exact AW.iret dX0_look_41 rfl
      · refine AW.iload dX0_look_30 rfl ?_
        refine AW.iconst dX0_look_32 ?_
        refine AW.iconst dX0_look_33 ?_
        refine AW.SI (M' := m_X0_isIn) [iV x4, iV 0, iV 2] [] dX0_look_34 q1180 q1181 q121 q1182 n_X0_isIn rfl rfl rfl (fun _ _ e => c_X0_isIn e) h (fun v12 s13 h => ?_)
        refine AW.if_ne 42 dX0_look_37 (by decide) h (fun c52 h => ?_) (fun c52 h => ?_)
        · refine AW.aload_n dX0_look_42 rfl ?_
          refine AW.getR (t := 0) (k := 12) dX0_look_43 ck0 (Nat.le_of_ble_eq_true rfl) (fun _ => rfl) q558 (Or.inl rfl) h (fun v14 h => ?_)
          refine AW.iload_n dX0_look_46 rfl ?_
          refine AW.aload_n dX0_look_47 rfl ?_
          refine AW.getR (t := 0) (k := 7) dX0_look_48 ck0 (Nat.le_of_ble_eq_true rfl) (fun _ => rfl) q553 (Or.inl rfl) h (fun v15 h => ?_)
          refine AW.getI (t := 5) (k := 9) dX0_look_51 ck5 (Nat.le_of_ble_eq_true rfl) (fun _ => rfl) q437 (Or.inl rfl) h (fun v16 h => ?_)
          refine AW.VU (M' := m_X7_begins) (t := 7) [iV x1, iV v16] [] dX0_look_54 q1290 q1291 q1292 q134 q1293 ck7 rfl n_X7_begins rfl rfl rfl (fun _ _ _ e => c_X7_begins e) h (fun _ s17 h => ?_)
          refine AW.aload_n dX0_look_57 rfl ?_
          refine AW.getR (t := 0) (k := 12) dX0_look_58 ck0 (Nat.le_of_ble_eq_true rfl) (fun _ => rfl) q558 (Or.inl rfl) h (fun v19 h => ?_)
          refine AW.aload_n dX0_look_61 rfl ?_
          refine AW.getR (t := 0) (k := 7) dX0_look_62 ck0 (Nat.le_of_ble_eq_true rfl) (fun _ => rfl) q553 (Or.inl rfl) h (fun v20 h => ?_)
          refine AW.iload_n dX0_look_65 rfl ?_
          refine AW.VI (M' := m_X7_goesTo) (t := 7) [rV v20, iV x2] [] dX0_look_66 q1294 q1295 q1296 q134 q1297 ck7 rfl n_X7_goesTo rfl rfl rfl (fun _ _ _ e => c_X7_goesTo e) h (fun v21 s22 h => ?_)
          refine AW.if_eq 91 dX0_look_69 (by decide) h (fun c51 h => ?_) (fun c51 h => ?_)
          · refine AW.bipush dX0_look_91 (by decide) ?_
            cases h
            exact AW.iret dX0_look_93 rfl
          · refine AW.iload_n dX0_look_72 rfl ?_
            refine jn_elim h (fun (j : (Hp → Int → Option (Int × Hp))) => ∀ (s24 : Hp) (x4 : Int), j s24 x4 = some w → AW m_X0_look σ0 (oI w) 94 [some (rV (some x0)), none, none, none, some (iV x4), none, none] [] s24) ?_ (fun j94 hj94 h => ?_)
            · intro s24 x4 h
              refine AW.aload_n dX0_look_94 rfl ?_
              refine AW.getR (t := 0) (k := 12) dX0_look_95 ck0 (Nat.le_of_ble_eq_true rfl) (fun _ => rfl) q558 (Or.inl rfl) h (fun v25 h => ?_)
              refine AW.aload_n dX0_look_98 rfl ?_
              refine AW.getR (t := 0) (k := 7) dX0_look_99 ck0 (Nat.le_of_ble_eq_true rfl) (fun _ => rfl) q553 (Or.inl rfl) h (fun v26 h => ?_)
              refine AW.VI (M' := m_X7_shows) (t := 7) [rV v26] [] dX0_look_102 q1303 q1299 q1300 q134 q1301 ck7 rfl n_X7_shows rfl rfl rfl (fun _ _ _ e => c_X7_shows e) h (fun v27 s28 h => ?_)
              refine AW.istore (L' := [some (rV (some x0)), none, none, none, some (iV x4), some (iV v27), none]) dX0_look_105 (Nat.le_of_ble_eq_true rfl) rfl rfl ?_
              refine AW.iload dX0_look_107 rfl ?_
              refine AW.if_ge 115 dX0_look_109 (by decide) h (fun c43 h => ?_) (fun c43 h => ?_)
              · refine AW.aload_n dX0_look_115 rfl ?_
                refine AW.getR (t := 0) (k := 7) dX0_look_116 ck0 (Nat.le_of_ble_eq_true rfl) (fun _ => rfl) q553 (Or.inl rfl) h (fun v30 h => ?_)
                refine AW.getR (t := 5) (k := 2) dX0_look_119 ck5 (Nat.le_of_ble_eq_true rfl) (fun _ => rfl) q427 (Or.inl rfl) h (fun v31 h => ?_)
                refine AW.aload_n dX0_look_122 rfl ?_
                refine AW.getR (t := 0) (k := 12) dX0_look_123 ck0 (Nat.le_of_ble_eq_true rfl) (fun _ => rfl) q558 (Or.inl rfl) h (fun v32 h => ?_)
                refine AW.getI (t := 7) (k := 0) dX0_look_126 ck7 (Nat.le_of_ble_eq_true rfl) (fun _ => rfl) q471 (Or.inl rfl) h (fun v33 h => ?_)
                refine AW.aald (t := 105) dX0_look_129 (Nat.le_of_ble_eq_true rfl) rfl (fun _ _ => rfl) h (fun v34 h => ?_)
                refine AW.iload dX0_look_130 rfl ?_
                refine AW.bald (t := 101) dX0_look_132 (Nat.le_of_ble_eq_true rfl) rfl h (fun v35 h => ?_)
                refine AW.istore (L' := [some (rV (some x0)), none, none, none, some (iV x4), some (iV v27), some (iV v35)]) dX0_look_133 (Nat.le_of_ble_eq_true rfl) rfl rfl ?_
                refine AW.iload dX0_look_135 rfl ?_
                refine AW.if_ne 145 dX0_look_137 (by decide) h (fun c42 h => ?_) (fun c42 h => ?_)
                · refine AW.iload dX0_look_145 rfl ?_
                  refine AW.iconst dX0_look_147 ?_
                  refine AW.icmp_ne 156 dX0_look_148 (by decide) h (fun c41 h => ?_) (fun c41 h => ?_)
                  · refine AW.aload_n dX0_look_156 rfl ?_
                    refine AW.getR (t := 0) (k := 7) dX0_look_157 ck0 (Nat.le_of_ble_eq_true rfl) (fun _ => rfl) q553 (Or.inl rfl) h (fun v36 h => ?_)
                    refine AW.aload_n dX0_look_160 rfl ?_
                    refine AW.getR (t := 0) (k := 3) dX0_look_161 ck0 (Nat.le_of_ble_eq_true rfl) (fun _ => rfl) q549 (Or.inl rfl) h (fun v37 h => ?_)
                    refine AW.iload dX0_look_164 rfl ?_
                    refine AW.iload dX0_look_166 rfl ?_
                    refine AW.VI (M' := m_X5_menIn) (t := 5) [rV v37, iV v35, iV v27] [] dX0_look_168 q1304 q514 q515 q132 q516 ck5 rfl n_X5_menIn rfl rfl rfl (fun _ _ _ e => c_X5_menIn e) h (fun v38 s39 h => ?_)
                    cases h
                    exact AW.iret dX0_look_171 rfl
                  · refine AW.iload dX0_look_151 rfl ?_
                    refine AW.goto (tgt := 171) dX0_look_153 (by decide) ?_
                    cases h
                    exact AW.iret dX0_look_171 rfl
                · refine AW.iload dX0_look_140 rfl ?_
                  refine AW.goto (tgt := 171) dX0_look_142 (by decide) ?_
                  cases h
                  exact AW.iret dX0_look_171 rfl
              · refine AW.bipush dX0_look_112 (by decide) ?_
                cases h
                exact AW.iret dX0_look_114 rfl
            · refine AW.if_lt 94 dX0_look_73 (by decide) h (fun c50 h => ?_) (fun c50 h => ?_)
              · exact AW.fewer (L' := [some (rV (some x0)), none, none, none, some (iV x4), none, none]) (And.intro rfl (And.intro rfl trivial)) (hj94 _ _ h)
              · refine AW.aload_n dX0_look_76 rfl ?_
                refine AW.getR (t := 0) (k := 12) dX0_look_77 ck0 (Nat.le_of_ble_eq_true rfl) (fun _ => rfl) q558 (Or.inl rfl) h (fun v44 h => ?_)
                refine AW.aload_n dX0_look_80 rfl ?_
                refine AW.getR (t := 0) (k := 7) dX0_look_81 ck0 (Nat.le_of_ble_eq_true rfl) (fun _ => rfl) q553 (Or.inl rfl) h (fun v45 h => ?_)
                refine AW.iload_n dX0_look_84 rfl ?_
                refine AW.VI (M' := m_X7_goesTo) (t := 7) [rV v45, iV x3] [] dX0_look_85 q1294 q1295 q1296 q134 q1297 ck7 rfl n_X7_goesTo rfl rfl rfl (fun _ _ _ e => c_X7_goesTo e) h (fun v46 s47 h => ?_)
                refine AW.if_ne 94 dX0_look_88 (by decide) h (fun c49 h => ?_) (fun c49 h => ?_)
                · exact AW.fewer (L' := [some (rV (some x0)), none, none, none, some (iV x4), none, none]) (And.intro rfl (And.intro rfl trivial)) (hj94 _ _ h)
                · refine AW.bipush dX0_look_91 (by decide) ?_
                  cases h
                  exact AW.iret dX0_look_93 rfl
        · refine AW.iconst dX0_look_40 ?_
          cases h
          exact AW.iret dX0_look_41 rfl
theorem c_X0_look {s0 : Hp} {x0 : Nat} {x1 : Int} {x2 : Int} {x3 : Int} {x4 : Int} {v : Int} {s1 : Hp} (h : f_X0_look s0 x0 x1 x2 x3 x4 = some (v, s1)) : Ct m_X0_look [rV (some x0), iV x1, iV x2, iV x3, iV x4] s0 (.inl (some (iV v)), s1) :=
  Ct.of2 (w_X0_look s0 x0 x1 x2 x3 x4 h) (show plainName yX0_look.cls = true by decide) rfl rfl rfl
abbrev m_X0_man : Mi := (yX0_man, cX0_man, (some .int), 4, 3, 61, [])
theorem n_X0_man : nameOk yX0_man 3 := ⟨by decide, by decide, by decide +kernel⟩
def f_X0_man (s0 : Hp) (x0 : Nat) (x1 : Int) (x2 : Int) (x3 : Int) : Option (Int × Hp) :=
  (rcv s0 0 (some x0)).bind fun b3 => bn (f_X0_isMan s0 b3 x1) fun v1 s2 => (if nrm v1 = 0 then (some ((-1), s2)) else ((rcv s2 0 (some x0)).bind fun b6 => bn (f_X0_isPast s2 b6 x2) fun v4 s5 => (if nrm v4 = 0 then (some ((-1), s5)) else (bn (f_X0_isIn s5 x3 0 1) fun v7 s8 => (if ¬ nrm v7 = 0 then ((if ¬ nrm x3 = 0 then ((gR s8 0 (some x0) 7).bind fun v9 => (gR s8 5 v9 1).bind fun v10 => (aR s8 105 v10 x1).bind fun v11 => (aI s8 101 v11 x2).bind fun v12 => some (v12, s8)) else ((gR s8 0 (some x0) 7).bind fun v13 => (gR s8 5 v13 0).bind fun v14 => (aR s8 105 v14 x1).bind fun v15 => (aI s8 101 v15 x2).bind fun v16 => some (v16, s8)))) else (some ((-1), s8)))))))
theorem w_X0_man {σ0 : Hp} {w : Int × Hp} (s0 : Hp) (x0 : Nat) (x1 : Int) (x2 : Int) (x3 : Int) (h : f_X0_man s0 x0 x1 x2 x3 = some w) : AW m_X0_man σ0 (oI w) 0 [some (rV (some x0)), some (iV x1), some (iV x2), some (iV x3)] [] s0 := by
  unfold f_X0_man at h
  refine AW.aload_n dX0_man_0 rfl ?_
  refine AW.iload_n dX0_man_1 rfl ?_
  refine AW.VI (M' := m_X0_isMan) (t := 0) [iV x1] [] dX0_man_2 q1171 q1173 qs31 q121 q1174 ck0 rfl n_X0_isMan rfl rfl rfl (fun _ _ _ e => c_X0_isMan e) h (fun v1 s2 h => ?_)
  refine AW.if_eq 25 dX0_man_5 (by decide) h (fun c20 h => ?_) (fun c20 h => ?_)
  · refine AW.iconst dX0_man_25 ?_
    cases h
    exact AW.iret dX0_man_26 rfl
  · refine AW.aload_n dX0_man_8 rfl ?_
    refine AW.iload_n dX0_man_9 rfl ?_
    refine AW.VI (M' := m_X0_isPast) (t := 0) [iV x2] [] dX0_man_10 q1183 q1185 qs33 q121 q1186 ck0 rfl n_X0_isPast rfl rfl rfl (fun _ _ _ e => c_X0_isPast e) h (fun v4 s5 h => ?_)
    refine AW.if_eq 25 dX0_man_13 (by decide) h (fun c19 h => ?_) (fun c19 h => ?_)
    · refine AW.iconst dX0_man_25 ?_
      cases h
      exact AW.iret dX0_man_26 rfl
    · refine AW.iload_n dX0_man_16 rfl ?_
      refine AW.iconst dX0_man_17 ?_
      refine AW.iconst dX0_man_18 ?_
      refine AW.SI (M' := m_X0_isIn) [iV x3, iV 0, iV 1] [] dX0_man_19 q1180 q1181 q121 q1182 n_X0_isIn rfl rfl rfl (fun _ _ e => c_X0_isIn e) h (fun v7 s8 h => ?_)
      refine AW.if_ne 27 dX0_man_22 (by decide) h (fun c18 h => ?_) (fun c18 h => ?_)
      · refine AW.iload_n dX0_man_27 rfl ?_
        refine AW.if_ne 45 dX0_man_28 (by decide) h (fun c17 h => ?_) (fun c17 h => ?_)
        · refine AW.aload_n dX0_man_45 rfl ?_
          refine AW.getR (t := 0) (k := 7) dX0_man_46 ck0 (Nat.le_of_ble_eq_true rfl) (fun _ => rfl) q553 (Or.inl rfl) h (fun v9 h => ?_)
          refine AW.getR (t := 5) (k := 1) dX0_man_49 ck5 (Nat.le_of_ble_eq_true rfl) (fun _ => rfl) q424 (Or.inl rfl) h (fun v10 h => ?_)
          refine AW.iload_n dX0_man_52 rfl ?_
          refine AW.aald (t := 105) dX0_man_53 (Nat.le_of_ble_eq_true rfl) rfl (fun _ _ => rfl) h (fun v11 h => ?_)
          refine AW.iload_n dX0_man_54 rfl ?_
          refine AW.bald (t := 101) dX0_man_55 (Nat.le_of_ble_eq_true rfl) rfl h (fun v12 h => ?_)
          cases h
          exact AW.iret dX0_man_56 rfl
        · refine AW.aload_n dX0_man_31 rfl ?_
          refine AW.getR (t := 0) (k := 7) dX0_man_32 ck0 (Nat.le_of_ble_eq_true rfl) (fun _ => rfl) q553 (Or.inl rfl) h (fun v13 h => ?_)
          refine AW.getR (t := 5) (k := 0) dX0_man_35 ck5 (Nat.le_of_ble_eq_true rfl) (fun _ => rfl) q422 (Or.inl rfl) h (fun v14 h => ?_)
          refine AW.iload_n dX0_man_38 rfl ?_
          refine AW.aald (t := 105) dX0_man_39 (Nat.le_of_ble_eq_true rfl) rfl (fun _ _ => rfl) h (fun v15 h => ?_)
          refine AW.iload_n dX0_man_40 rfl ?_
          refine AW.bald (t := 101) dX0_man_41 (Nat.le_of_ble_eq_true rfl) rfl h (fun v16 h => ?_)
          refine AW.goto (tgt := 56) dX0_man_42 (by decide) ?_
          cases h
          exact AW.iret dX0_man_56 rfl
      · refine AW.iconst dX0_man_25 ?_
        cases h
        exact AW.iret dX0_man_26 rfl
theorem c_X0_man {s0 : Hp} {x0 : Nat} {x1 : Int} {x2 : Int} {x3 : Int} {v : Int} {s1 : Hp} (h : f_X0_man s0 x0 x1 x2 x3 = some (v, s1)) : Ct m_X0_man [rV (some x0), iV x1, iV x2, iV x3] s0 (.inl (some (iV v)), s1) :=
  Ct.of2 (w_X0_man s0 x0 x1 x2 x3 h) (show plainName yX0_man.cls = true by decide) rfl rfl rfl
abbrev m_X0_minutes : Mi := (yX0_minutes, cX0_minutes, (some .int), 2, 418, 24838, [])
theorem n_X0_minutes : nameOk yX0_minutes 1 := ⟨by decide, by decide, by decide +kernel⟩
def f_X0_minutes (s0 : Hp) (x0 : Nat) (x1 : Int) : Option (Int × Hp) :=
  (gR s0 0 (some x0) 7).bind fun v1 => (gI s0 5 v1 9).bind fun v2 => bn (f_X0_isIn s0 x1 0 (299 - v2)) fun v3 s4 => (if ¬ nrm v3 = 0 then (jn (fun (s5 : Hp) (x1 : Int) => (gR s5 0 (some x0) 7).bind fun v6 => (rcv s5 0 (some x0)).bind fun b8 => bn (f_X0_runs s5 b8 v6 x1) fun _ s7 => (gR s7 0 (some x0) 7).bind fun v9 => (gI s7 5 v9 9).bind fun v10 => some (v10, s7)) fun j29 => (if nrm x1 ≤ 0 then (j29 s4 x1) else ((rcv s4 0 (some x0)).bind fun b12 => bn (f_X0_keeps s4 b12) fun _ s11 => j29 s11 x1))) else (some ((-1), s4)))
theorem w_X0_minutes {σ0 : Hp} {w : Int × Hp} (s0 : Hp) (x0 : Nat) (x1 : Int) (h : f_X0_minutes s0 x0 x1 = some w) : AW m_X0_minutes σ0 (oI w) 0 [some (rV (some x0)), some (iV x1)] [] s0 := by
  unfold f_X0_minutes at h
  refine AW.iload_n dX0_minutes_0 rfl ?_
  refine AW.iconst dX0_minutes_1 ?_
  refine AW.sipush dX0_minutes_2 (by decide) ?_
  refine AW.aload_n dX0_minutes_5 rfl ?_
  refine AW.getR (t := 0) (k := 7) dX0_minutes_6 ck0 (Nat.le_of_ble_eq_true rfl) (fun _ => rfl) q553 (Or.inl rfl) h (fun v1 h => ?_)
  refine AW.getI (t := 5) (k := 9) dX0_minutes_9 ck5 (Nat.le_of_ble_eq_true rfl) (fun _ => rfl) q437 (Or.inl rfl) h (fun v2 h => ?_)
  refine AW.isub dX0_minutes_12 ?_
  refine AW.SI (M' := m_X0_isIn) [iV x1, iV 0, iV (299 - v2)] [] dX0_minutes_13 q1180 q1181 q121 q1182 n_X0_isIn rfl rfl rfl (fun _ _ e => c_X0_isIn e) h (fun v3 s4 h => ?_)
  refine AW.if_ne 21 dX0_minutes_16 (by decide) h (fun c14 h => ?_) (fun c14 h => ?_)
  · refine AW.iload_n dX0_minutes_21 rfl ?_
    refine jn_elim h (fun (j : (Hp → Int → Option (Int × Hp))) => ∀ (s5 : Hp) (x1 : Int), j s5 x1 = some w → AW m_X0_minutes σ0 (oI w) 29 [some (rV (some x0)), some (iV x1)] [] s5) ?_ (fun j29 hj29 h => ?_)
    · intro s5 x1 h
      refine AW.aload_n dX0_minutes_29 rfl ?_
      refine AW.aload_n dX0_minutes_30 rfl ?_
      refine AW.getR (t := 0) (k := 7) dX0_minutes_31 ck0 (Nat.le_of_ble_eq_true rfl) (fun _ => rfl) q553 (Or.inl rfl) h (fun v6 h => ?_)
      refine AW.iload_n dX0_minutes_34 rfl ?_
      refine AW.VU (M' := m_X0_runs) (t := 0) [rV v6, iV x1] [] dX0_minutes_35 q1227 q1229 qs37 q121 q1230 ck0 rfl n_X0_runs rfl rfl rfl (fun _ _ _ e => c_X0_runs e) h (fun _ s7 h => ?_)
      refine AW.aload_n dX0_minutes_38 rfl ?_
      refine AW.getR (t := 0) (k := 7) dX0_minutes_39 ck0 (Nat.le_of_ble_eq_true rfl) (fun _ => rfl) q553 (Or.inl rfl) h (fun v9 h => ?_)
      refine AW.getI (t := 5) (k := 9) dX0_minutes_42 ck5 (Nat.le_of_ble_eq_true rfl) (fun _ => rfl) q437 (Or.inl rfl) h (fun v10 h => ?_)
      cases h
      exact AW.iret dX0_minutes_45 rfl
    · refine AW.if_le 29 dX0_minutes_22 (by decide) h (fun c13 h => ?_) (fun c13 h => ?_)
      · exact hj29 _ _ h
      · refine AW.aload_n dX0_minutes_25 rfl ?_
        refine AW.VU (M' := m_X0_keeps) (t := 0) [] [] dX0_minutes_26 q1217 q1219 qs36 q121 q1220 ck0 rfl n_X0_keeps rfl rfl rfl (fun _ _ _ e => c_X0_keeps e) h (fun _ s11 h => ?_)
        exact hj29 _ _ h
  · refine AW.iconst dX0_minutes_19 ?_
    cases h
    exact AW.iret dX0_minutes_20 rfl
theorem c_X0_minutes {s0 : Hp} {x0 : Nat} {x1 : Int} {v : Int} {s1 : Hp} (h : f_X0_minutes s0 x0 x1 = some (v, s1)) : Ct m_X0_minutes [rV (some x0), iV x1] s0 (.inl (some (iV v)), s1) :=
  Ct.of2 (w_X0_minutes s0 x0 x1 h) (show plainName yX0_minutes.cls = true by decide) rfl rfl rfl
abbrev m_X0_mirror : Mi := (yX0_mirror, cX0_mirror, (some .int), 5, 3, 69, [])
theorem n_X0_mirror : nameOk yX0_mirror 3 := ⟨by decide, by decide, by decide +kernel⟩
def f_X0_mirror (s0 : Hp) (x0 : Nat) (x1 : Int) (x2 : Int) (x3 : Int) : Option (Int × Hp) :=
  (rcv s0 0 (some x0)).bind fun b3 => bn (f_X0_isMirror s0 b3 x1) fun v1 s2 => (if nrm v1 = 0 then (some ((-1), s2)) else ((rcv s2 0 (some x0)).bind fun b6 => bn (f_X0_isPast s2 b6 x2) fun v4 s5 => (if nrm v4 = 0 then (some ((-1), s5)) else (bn (f_X0_isIn s5 x3 0 6) fun v7 s8 => (if ¬ nrm v7 = 0 then ((gR s8 0 (some x0) 7).bind fun v9 => (rcv s8 5 v9).bind fun b12 => bn (f_X5_shows s8 b12 x1 x2) fun v10 s11 => (if nrm x3 = 0 then ((gR s11 0 (some x0) 7).bind fun v13 => (gR s11 5 v13 2).bind fun v14 => (aR s11 105 v14 x1).bind fun v15 => (aI s11 101 v15 x2).bind fun v16 => some (v16, s11)) else (if nrm x3 = 1 then ((gR s11 0 (some x0) 7).bind fun v17 => (gR s11 5 v17 4).bind fun v18 => (aR s11 107 v18 x1).bind fun v19 => (aI s11 103 v19 x2).bind fun v20 => some (v20, s11)) else (if nrm x3 = 2 then ((gR s11 0 (some x0) 7).bind fun v21 => (gR s11 5 v21 3).bind fun v22 => (aR s11 106 v22 x1).bind fun v23 => (aI s11 102 v23 x2).bind fun v24 => (if nrm v24 = 0 then (some (0, s11)) else (some (1, s11)))) else (if nrm x3 = 3 then ((gR s11 0 (some x0) 7).bind fun v26 => (rcv s11 5 v26).bind fun b29 => bn (f_X5_isBroken s11 b29 x1 x2) fun v27 s28 => (if nrm v27 = 0 then (some (0, s28)) else (some (1, s28)))) else (if nrm x3 = 4 then (some (v10, s11)) else (if nrm x3 = 5 then ((if 0 ≤ nrm v10 then ((gR s11 0 (some x0) 7).bind fun v31 => (gR s11 5 v31 2).bind fun v32 => (aR s11 105 v32 x1).bind fun v33 => (aI s11 101 v33 v10).bind fun v34 => some (v34, s11)) else (some ((-2), s11)))) else ((gR s11 0 (some x0) 7).bind fun v36 => (gR s11 0 (some x0) 3).bind fun v37 => (rcv s11 5 v36).bind fun b40 => bn (f_X5_menShown s11 b40 v37 x1 x2) fun v38 s39 => some (v38, s39))))))))) else (some ((-1), s8)))))))
theorem w_X0_mirror {σ0 : Hp} {w : Int × Hp} (s0 : Hp) (x0 : Nat) (x1 : Int) (x2 : Int) (x3 : Int) (h : f_X0_mirror s0 x0 x1 x2 x3 = some w) : AW m_X0_mirror σ0 (oI w) 0 [some (rV (some x0)), some (iV x1), some (iV x2), some (iV x3), none] [] s0 := by
  unfold f_X0_mirror at h
  refine AW.aload_n dX0_mirror_0 rfl ?_
  refine AW.iload_n dX0_mirror_1 rfl ?_
  refine AW.VI (M' := m_X0_isMirror) (t := 0) [iV x1] [] dX0_mirror_2 q1191 q1193 qs34 q121 q1194 ck0 rfl n_X0_isMirror rfl rfl rfl (fun _ _ _ e => c_X0_isMirror e) h (fun v1 s2 h => ?_)
  refine AW.if_eq 26 dX0_mirror_5 (by decide) h (fun c49 h => ?_) (fun c49 h => ?_)
  · refine AW.iconst dX0_mirror_26 ?_
    cases h
    exact AW.iret dX0_mirror_27 rfl
  · refine AW.aload_n dX0_mirror_8 rfl ?_
    refine AW.iload_n dX0_mirror_9 rfl ?_
    refine AW.VI (M' := m_X0_isPast) (t := 0) [iV x2] [] dX0_mirror_10 q1183 q1185 qs33 q121 q1186 ck0 rfl n_X0_isPast rfl rfl rfl (fun _ _ _ e => c_X0_isPast e) h (fun v4 s5 h => ?_)
    refine AW.if_eq 26 dX0_mirror_13 (by decide) h (fun c48 h => ?_) (fun c48 h => ?_)
    · refine AW.iconst dX0_mirror_26 ?_
      cases h
      exact AW.iret dX0_mirror_27 rfl
    · refine AW.iload_n dX0_mirror_16 rfl ?_
      refine AW.iconst dX0_mirror_17 ?_
      refine AW.bipush dX0_mirror_18 (by decide) ?_
      refine AW.SI (M' := m_X0_isIn) [iV x3, iV 0, iV 6] [] dX0_mirror_20 q1180 q1181 q121 q1182 n_X0_isIn rfl rfl rfl (fun _ _ e => c_X0_isIn e) h (fun v7 s8 h => ?_)
      refine AW.if_ne 28 dX0_mirror_23 (by decide) h (fun c47 h => ?_) (fun c47 h => ?_)
      · refine AW.aload_n dX0_mirror_28 rfl ?_
        refine AW.getR (t := 0) (k := 7) dX0_mirror_29 ck0 (Nat.le_of_ble_eq_true rfl) (fun _ => rfl) q553 (Or.inl rfl) h (fun v9 h => ?_)
        refine AW.iload_n dX0_mirror_32 rfl ?_
        refine AW.iload_n dX0_mirror_33 rfl ?_
        refine AW.VI (M' := m_X5_shows) (t := 5) [iV x1, iV x2] [] dX0_mirror_34 q1199 q1200 q1201 q132 q1202 ck5 rfl n_X5_shows rfl rfl rfl (fun _ _ _ e => c_X5_shows e) h (fun v10 s11 h => ?_)
        refine AW.istore (L' := [some (rV (some x0)), some (iV x1), some (iV x2), some (iV x3), some (iV v10)]) dX0_mirror_37 (Nat.le_of_ble_eq_true rfl) rfl rfl ?_
        refine AW.iload_n dX0_mirror_39 rfl ?_
        rcases ite_or h with ⟨c46, h⟩ | ⟨c46, h⟩
        · refine AW.tIn 0 80 dX0_mirror_40 (by omega) (by decide) rfl (by decide) ?_
          refine AW.aload_n dX0_mirror_80 rfl ?_
          refine AW.getR (t := 0) (k := 7) dX0_mirror_81 ck0 (Nat.le_of_ble_eq_true rfl) (fun _ => rfl) q553 (Or.inl rfl) h (fun v13 h => ?_)
          refine AW.getR (t := 5) (k := 2) dX0_mirror_84 ck5 (Nat.le_of_ble_eq_true rfl) (fun _ => rfl) q427 (Or.inl rfl) h (fun v14 h => ?_)
          refine AW.iload_n dX0_mirror_87 rfl ?_
          refine AW.aald (t := 105) dX0_mirror_88 (Nat.le_of_ble_eq_true rfl) rfl (fun _ _ => rfl) h (fun v15 h => ?_)
          refine AW.iload_n dX0_mirror_89 rfl ?_
          refine AW.bald (t := 101) dX0_mirror_90 (Nat.le_of_ble_eq_true rfl) rfl h (fun v16 h => ?_)
          cases h
          exact AW.iret dX0_mirror_91 rfl
        · rcases ite_or h with ⟨c45, h⟩ | ⟨c45, h⟩
          · refine AW.tIn 1 92 dX0_mirror_40 (by omega) (by decide) rfl (by decide) ?_
            refine AW.aload_n dX0_mirror_92 rfl ?_
            refine AW.getR (t := 0) (k := 7) dX0_mirror_93 ck0 (Nat.le_of_ble_eq_true rfl) (fun _ => rfl) q553 (Or.inl rfl) h (fun v17 h => ?_)
            refine AW.getR (t := 5) (k := 4) dX0_mirror_96 ck5 (Nat.le_of_ble_eq_true rfl) (fun _ => rfl) q431 (Or.inl rfl) h (fun v18 h => ?_)
            refine AW.iload_n dX0_mirror_99 rfl ?_
            refine AW.aald (t := 107) dX0_mirror_100 (Nat.le_of_ble_eq_true rfl) rfl (fun _ _ => rfl) h (fun v19 h => ?_)
            refine AW.iload_n dX0_mirror_101 rfl ?_
            refine AW.sald (t := 103) dX0_mirror_102 (Nat.le_of_ble_eq_true rfl) rfl h (fun v20 h => ?_)
            cases h
            exact AW.iret dX0_mirror_103 rfl
          · rcases ite_or h with ⟨c44, h⟩ | ⟨c44, h⟩
            · refine AW.tIn 2 104 dX0_mirror_40 (by omega) (by decide) rfl (by decide) ?_
              refine AW.aload_n dX0_mirror_104 rfl ?_
              refine AW.getR (t := 0) (k := 7) dX0_mirror_105 ck0 (Nat.le_of_ble_eq_true rfl) (fun _ => rfl) q553 (Or.inl rfl) h (fun v21 h => ?_)
              refine AW.getR (t := 5) (k := 3) dX0_mirror_108 ck5 (Nat.le_of_ble_eq_true rfl) (fun _ => rfl) q429 (Or.inl rfl) h (fun v22 h => ?_)
              refine AW.iload_n dX0_mirror_111 rfl ?_
              refine AW.aald (t := 106) dX0_mirror_112 (Nat.le_of_ble_eq_true rfl) rfl (fun _ _ => rfl) h (fun v23 h => ?_)
              refine AW.iload_n dX0_mirror_113 rfl ?_
              refine AW.zald (t := 102) dX0_mirror_114 (Nat.le_of_ble_eq_true rfl) rfl h (fun v24 h => ?_)
              refine AW.if_eq 122 dX0_mirror_115 (by decide) h (fun c25 h => ?_) (fun c25 h => ?_)
              · refine AW.iconst dX0_mirror_122 ?_
                cases h
                exact AW.iret dX0_mirror_123 rfl
              · refine AW.iconst dX0_mirror_118 ?_
                refine AW.goto (tgt := 123) dX0_mirror_119 (by decide) ?_
                cases h
                exact AW.iret dX0_mirror_123 rfl
            · rcases ite_or h with ⟨c43, h⟩ | ⟨c43, h⟩
              · refine AW.tIn 3 124 dX0_mirror_40 (by omega) (by decide) rfl (by decide) ?_
                refine AW.aload_n dX0_mirror_124 rfl ?_
                refine AW.getR (t := 0) (k := 7) dX0_mirror_125 ck0 (Nat.le_of_ble_eq_true rfl) (fun _ => rfl) q553 (Or.inl rfl) h (fun v26 h => ?_)
                refine AW.iload_n dX0_mirror_128 rfl ?_
                refine AW.iload_n dX0_mirror_129 rfl ?_
                refine AW.VI (M' := m_X5_isBroken) (t := 5) [iV x1, iV x2] [] dX0_mirror_130 q1207 q1204 q1205 q132 q1206 ck5 rfl n_X5_isBroken rfl rfl rfl (fun _ _ _ e => c_X5_isBroken e) h (fun v27 s28 h => ?_)
                refine AW.if_eq 140 dX0_mirror_133 (by decide) h (fun c30 h => ?_) (fun c30 h => ?_)
                · refine AW.iconst dX0_mirror_140 ?_
                  cases h
                  exact AW.iret dX0_mirror_141 rfl
                · refine AW.iconst dX0_mirror_136 ?_
                  refine AW.goto (tgt := 141) dX0_mirror_137 (by decide) ?_
                  cases h
                  exact AW.iret dX0_mirror_141 rfl
              · rcases ite_or h with ⟨c42, h⟩ | ⟨c42, h⟩
                · refine AW.tIn 4 142 dX0_mirror_40 (by omega) (by decide) rfl (by decide) ?_
                  refine AW.iload dX0_mirror_142 rfl ?_
                  cases h
                  exact AW.iret dX0_mirror_144 rfl
                · rcases ite_or h with ⟨c41, h⟩ | ⟨c41, h⟩
                  · refine AW.tIn 5 145 dX0_mirror_40 (by omega) (by decide) rfl (by decide) ?_
                    refine AW.iload dX0_mirror_145 rfl ?_
                    refine AW.if_ge 155 dX0_mirror_147 (by decide) h (fun c35 h => ?_) (fun c35 h => ?_)
                    · refine AW.aload_n dX0_mirror_155 rfl ?_
                      refine AW.getR (t := 0) (k := 7) dX0_mirror_156 ck0 (Nat.le_of_ble_eq_true rfl) (fun _ => rfl) q553 (Or.inl rfl) h (fun v31 h => ?_)
                      refine AW.getR (t := 5) (k := 2) dX0_mirror_159 ck5 (Nat.le_of_ble_eq_true rfl) (fun _ => rfl) q427 (Or.inl rfl) h (fun v32 h => ?_)
                      refine AW.iload_n dX0_mirror_162 rfl ?_
                      refine AW.aald (t := 105) dX0_mirror_163 (Nat.le_of_ble_eq_true rfl) rfl (fun _ _ => rfl) h (fun v33 h => ?_)
                      refine AW.iload dX0_mirror_164 rfl ?_
                      refine AW.bald (t := 101) dX0_mirror_166 (Nat.le_of_ble_eq_true rfl) rfl h (fun v34 h => ?_)
                      cases h
                      exact AW.iret dX0_mirror_167 rfl
                    · refine AW.bipush dX0_mirror_150 (by decide) ?_
                      refine AW.goto (tgt := 167) dX0_mirror_152 (by decide) ?_
                      cases h
                      exact AW.iret dX0_mirror_167 rfl
                  · refine AW.tOut 168 dX0_mirror_40 (by omega) (by decide) ?_
                    refine AW.aload_n dX0_mirror_168 rfl ?_
                    refine AW.getR (t := 0) (k := 7) dX0_mirror_169 ck0 (Nat.le_of_ble_eq_true rfl) (fun _ => rfl) q553 (Or.inl rfl) h (fun v36 h => ?_)
                    refine AW.aload_n dX0_mirror_172 rfl ?_
                    refine AW.getR (t := 0) (k := 3) dX0_mirror_173 ck0 (Nat.le_of_ble_eq_true rfl) (fun _ => rfl) q549 (Or.inl rfl) h (fun v37 h => ?_)
                    refine AW.iload_n dX0_mirror_176 rfl ?_
                    refine AW.iload_n dX0_mirror_177 rfl ?_
                    refine AW.VI (M' := m_X5_menShown) (t := 5) [rV v37, iV x1, iV x2] [] dX0_mirror_178 q1208 q1209 q1210 q132 q1211 ck5 rfl n_X5_menShown rfl rfl rfl (fun _ _ _ e => c_X5_menShown e) h (fun v38 s39 h => ?_)
                    cases h
                    exact AW.iret dX0_mirror_181 rfl
      · refine AW.iconst dX0_mirror_26 ?_
        cases h
        exact AW.iret dX0_mirror_27 rfl
theorem c_X0_mirror {s0 : Hp} {x0 : Nat} {x1 : Int} {x2 : Int} {x3 : Int} {v : Int} {s1 : Hp} (h : f_X0_mirror s0 x0 x1 x2 x3 = some (v, s1)) : Ct m_X0_mirror [rV (some x0), iV x1, iV x2, iV x3] s0 (.inl (some (iV v)), s1) :=
  Ct.of2 (w_X0_mirror s0 x0 x1 x2 x3 h) (show plainName yX0_mirror.cls = true by decide) rfl rfl rfl
abbrev m_X0_odds : Mi := (yX0_odds, cX0_odds, (some .int), 6, 418, 24838, [])
theorem n_X0_odds : nameOk yX0_odds 3 := ⟨by decide, by decide, by decide +kernel⟩
def f_X0_odds_L37 (x0 : Nat) : Nat → Hp → Int → Int → Int → Int → Int → (Hp → Int → Option (Int × Hp)) → Option (Int × Hp)
  | 0, _, _, _, _, _, _, _ => none
  | n + 1, s0, x1, x2, x3, x4, x5, k => (if nrm x3 ≤ nrm x5 then (k s0 x4) else ((gR s0 0 (some x0) 8).bind fun v8 => (gR s0 0 (some x0) 7).bind fun v9 => (rcv s0 5 v8).bind fun b11 => bn (f_X5_takes s0 b11 v9) fun _ s10 => (gR s10 0 (some x0) 8).bind fun v12 => (gR s10 0 (some x0) 3).bind fun v13 => (gI s10 4 v13 5).bind fun v14 => (pI s10 5 v12 10 (nrm (v14 + x5))).bind fun s15 => (gR s15 0 (some x0) 8).bind fun v16 => (rcv s15 0 (some x0)).bind fun b18 => bn (f_X0_runs s15 b18 v16 x2) fun _ s17 => (gR s17 0 (some x0) 8).bind fun v19 => (gR s17 0 (some x0) 8).bind fun v20 => (gI s17 5 v20 9).bind fun v21 => (rcv s17 5 v19).bind fun b24 => bn (f_X5_isBroken s17 b24 x1 v21) fun v22 s23 => (if nrm v22 = 0 then (f_X0_odds_L37 x0 n s23 x1 x2 x3 (x4 + 0) (x5 + 1) k) else (f_X0_odds_L37 x0 n s23 x1 x2 x3 (x4 + 1) (x5 + 1) k))))
theorem w_X0_odds_L37 {σ0 : Hp} {w : Int × Hp} {x0 : Nat} : ∀ (n : Nat) (s0 : Hp) (x1 : Int) (x2 : Int) (x3 : Int) (x4 : Int) (x5 : Int) (k : (Hp → Int → Option (Int × Hp))), f_X0_odds_L37 x0 n s0 x1 x2 x3 x4 x5 k = some w → (∀ (s1 : Hp) (x4 : Int), k s1 x4 = some w → AW m_X0_odds σ0 (oI w) 114 [none, none, none, none, some (iV x4), none] [] s1) → AW m_X0_odds σ0 (oI w) 37 [some (rV (some x0)), some (iV x1), some (iV x2), some (iV x3), some (iV x4), some (iV x5)] [] s0 := by
  intro n
  induction n with
  | zero =>
    intro s0 x1 x2 x3 x4 x5 k h hk
    rw [f_X0_odds_L37] at h
    cases h
  | succ n ih =>
    intro s0 x1 x2 x3 x4 x5 k h hk
    rw [f_X0_odds_L37] at h
    refine AW.iload dX0_odds_37 rfl ?_
    refine AW.iload_n dX0_odds_39 rfl ?_
    refine AW.icmp_ge 114 dX0_odds_40 (by decide) h (fun c26 h => ?_) (fun c26 h => ?_)
    · exact AW.fewer (L' := [none, none, none, none, some (iV x4), none]) (And.intro rfl trivial) (hk _ _ h)
    · refine AW.aload_n dX0_odds_43 rfl ?_
      refine AW.getR (t := 0) (k := 8) dX0_odds_44 ck0 (Nat.le_of_ble_eq_true rfl) (fun _ => rfl) q554 (Or.inl rfl) h (fun v8 h => ?_)
      refine AW.aload_n dX0_odds_47 rfl ?_
      refine AW.getR (t := 0) (k := 7) dX0_odds_48 ck0 (Nat.le_of_ble_eq_true rfl) (fun _ => rfl) q553 (Or.inl rfl) h (fun v9 h => ?_)
      refine AW.VU (M' := m_X5_takes) (t := 5) [rV v9] [] dX0_odds_51 q1221 q1222 q1223 q132 q1224 ck5 rfl n_X5_takes rfl rfl rfl (fun _ _ _ e => c_X5_takes e) h (fun _ s10 h => ?_)
      refine AW.aload_n dX0_odds_54 rfl ?_
      refine AW.getR (t := 0) (k := 8) dX0_odds_55 ck0 (Nat.le_of_ble_eq_true rfl) (fun _ => rfl) q554 (Or.inl rfl) h (fun v12 h => ?_)
      refine AW.aload_n dX0_odds_58 rfl ?_
      refine AW.getR (t := 0) (k := 3) dX0_odds_59 ck0 (Nat.le_of_ble_eq_true rfl) (fun _ => rfl) q549 (Or.inl rfl) h (fun v13 h => ?_)
      refine AW.getI (t := 4) (k := 5) dX0_odds_62 ck4 (Nat.le_of_ble_eq_true rfl) (fun _ => rfl) q373 (Or.inl rfl) h (fun v14 h => ?_)
      refine AW.iload dX0_odds_65 rfl ?_
      refine AW.iadd dX0_odds_67 ?_
      refine AW.nv ?_
      refine AW.putI (t := 5) (k := 10) dX0_odds_68 ck5 mu5 (Nat.le_of_ble_eq_true rfl) rfl q439 (Or.inl rfl) (Or.inl rfl) h (fun s15 h => ?_)
      refine AW.aload_n dX0_odds_71 rfl ?_
      refine AW.aload_n dX0_odds_72 rfl ?_
      refine AW.getR (t := 0) (k := 8) dX0_odds_73 ck0 (Nat.le_of_ble_eq_true rfl) (fun _ => rfl) q554 (Or.inl rfl) h (fun v16 h => ?_)
      refine AW.iload_n dX0_odds_76 rfl ?_
      refine AW.VU (M' := m_X0_runs) (t := 0) [rV v16, iV x2] [] dX0_odds_77 q1227 q1229 qs37 q121 q1230 ck0 rfl n_X0_runs rfl rfl rfl (fun _ _ _ e => c_X0_runs e) h (fun _ s17 h => ?_)
      refine AW.iload dX0_odds_80 rfl ?_
      refine AW.aload_n dX0_odds_82 rfl ?_
      refine AW.getR (t := 0) (k := 8) dX0_odds_83 ck0 (Nat.le_of_ble_eq_true rfl) (fun _ => rfl) q554 (Or.inl rfl) h (fun v19 h => ?_)
      refine AW.iload_n dX0_odds_86 rfl ?_
      refine AW.aload_n dX0_odds_87 rfl ?_
      refine AW.getR (t := 0) (k := 8) dX0_odds_88 ck0 (Nat.le_of_ble_eq_true rfl) (fun _ => rfl) q554 (Or.inl rfl) h (fun v20 h => ?_)
      refine AW.getI (t := 5) (k := 9) dX0_odds_91 ck5 (Nat.le_of_ble_eq_true rfl) (fun _ => rfl) q437 (Or.inl rfl) h (fun v21 h => ?_)
      refine AW.VI (M' := m_X5_isBroken) (t := 5) [iV x1, iV v21] [iV x4] dX0_odds_94 q1207 q1204 q1205 q132 q1206 ck5 rfl n_X5_isBroken rfl rfl rfl (fun _ _ _ e => c_X5_isBroken e) h (fun v22 s23 h => ?_)
      refine AW.if_eq 104 dX0_odds_97 (by decide) h (fun c25 h => ?_) (fun c25 h => ?_)
      · refine AW.iconst dX0_odds_104 ?_
        refine AW.iadd dX0_odds_105 ?_
        refine AW.istore (L' := [some (rV (some x0)), some (iV x1), some (iV x2), some (iV x3), some (iV (x4 + 0)), some (iV x5)]) dX0_odds_106 (Nat.le_of_ble_eq_true rfl) rfl rfl ?_
        refine AW.iinc (L' := [some (rV (some x0)), some (iV x1), some (iV x2), some (iV x3), some (iV (x4 + 0)), some (iV (x5 + 1))]) dX0_odds_108 rfl (Nat.le_of_ble_eq_true rfl) rfl rfl ?_
        refine AW.goto (tgt := 37) dX0_odds_111 (by decide) ?_
        exact ih _ _ _ _ _ _ _ h hk
      · refine AW.iconst dX0_odds_100 ?_
        refine AW.goto (tgt := 105) dX0_odds_101 (by decide) ?_
        refine AW.iadd dX0_odds_105 ?_
        refine AW.istore (L' := [some (rV (some x0)), some (iV x1), some (iV x2), some (iV x3), some (iV (x4 + 1)), some (iV x5)]) dX0_odds_106 (Nat.le_of_ble_eq_true rfl) rfl rfl ?_
        refine AW.iinc (L' := [some (rV (some x0)), some (iV x1), some (iV x2), some (iV x3), some (iV (x4 + 1)), some (iV (x5 + 1))]) dX0_odds_108 rfl (Nat.le_of_ble_eq_true rfl) rfl rfl ?_
        refine AW.goto (tgt := 37) dX0_odds_111 (by decide) ?_
        exact ih _ _ _ _ _ _ _ h hk
def f_X0_odds (s0 : Hp) (x0 : Nat) (x1 : Int) (x2 : Int) (x3 : Int) : Option (Int × Hp) :=
  (rcv s0 0 (some x0)).bind fun b3 => bn (f_X0_isMirror s0 b3 x1) fun v1 s2 => (if nrm v1 = 0 then (some ((-1), s2)) else (bn (f_X0_isIn s2 x2 0 299) fun v4 s5 => (if nrm v4 = 0 then (some ((-1), s5)) else (bn (f_X0_isIn s5 x3 1 10) fun v6 s7 => (if ¬ nrm v6 = 0 then (f_X0_odds_L37 x0 FU s7 x1 x2 x3 0 0 (fun s27 x4 => some (nrm x4, s27))) else (some ((-1), s7)))))))
theorem w_X0_odds {σ0 : Hp} {w : Int × Hp} (s0 : Hp) (x0 : Nat) (x1 : Int) (x2 : Int) (x3 : Int) (h : f_X0_odds s0 x0 x1 x2 x3 = some w) : AW m_X0_odds σ0 (oI w) 0 [some (rV (some x0)), some (iV x1), some (iV x2), some (iV x3), none, none] [] s0 := by
  unfold f_X0_odds at h
  refine AW.aload_n dX0_odds_0 rfl ?_
  refine AW.iload_n dX0_odds_1 rfl ?_
  refine AW.VI (M' := m_X0_isMirror) (t := 0) [iV x1] [] dX0_odds_2 q1191 q1193 qs34 q121 q1194 ck0 rfl n_X0_isMirror rfl rfl rfl (fun _ _ _ e => c_X0_isMirror e) h (fun v1 s2 h => ?_)
  refine AW.if_eq 29 dX0_odds_5 (by decide) h (fun c30 h => ?_) (fun c30 h => ?_)
  · refine AW.iconst dX0_odds_29 ?_
    cases h
    exact AW.iret dX0_odds_30 rfl
  · refine AW.iload_n dX0_odds_8 rfl ?_
    refine AW.iconst dX0_odds_9 ?_
    refine AW.sipush dX0_odds_10 (by decide) ?_
    refine AW.SI (M' := m_X0_isIn) [iV x2, iV 0, iV 299] [] dX0_odds_13 q1180 q1181 q121 q1182 n_X0_isIn rfl rfl rfl (fun _ _ e => c_X0_isIn e) h (fun v4 s5 h => ?_)
    refine AW.if_eq 29 dX0_odds_16 (by decide) h (fun c29 h => ?_) (fun c29 h => ?_)
    · refine AW.iconst dX0_odds_29 ?_
      cases h
      exact AW.iret dX0_odds_30 rfl
    · refine AW.iload_n dX0_odds_19 rfl ?_
      refine AW.iconst dX0_odds_20 ?_
      refine AW.bipush dX0_odds_21 (by decide) ?_
      refine AW.SI (M' := m_X0_isIn) [iV x3, iV 1, iV 10] [] dX0_odds_23 q1180 q1181 q121 q1182 n_X0_isIn rfl rfl rfl (fun _ _ e => c_X0_isIn e) h (fun v6 s7 h => ?_)
      refine AW.if_ne 31 dX0_odds_26 (by decide) h (fun c28 h => ?_) (fun c28 h => ?_)
      · refine AW.iconst dX0_odds_31 ?_
        refine AW.istore (L' := [some (rV (some x0)), some (iV x1), some (iV x2), some (iV x3), some (iV 0), none]) dX0_odds_32 (Nat.le_of_ble_eq_true rfl) rfl rfl ?_
        refine AW.iconst dX0_odds_34 ?_
        refine AW.istore (L' := [some (rV (some x0)), some (iV x1), some (iV x2), some (iV x3), some (iV 0), some (iV 0)]) dX0_odds_35 (Nat.le_of_ble_eq_true rfl) rfl rfl ?_
        refine w_X0_odds_L37 _ _ _ _ _ _ _ _ h (fun s27 x4 h => ?_)
        refine AW.iload dX0_odds_114 rfl ?_
        refine AW.nv ?_
        cases h
        exact AW.iret dX0_odds_116 rfl
      · refine AW.iconst dX0_odds_29 ?_
        cases h
        exact AW.iret dX0_odds_30 rfl
theorem c_X0_odds {s0 : Hp} {x0 : Nat} {x1 : Int} {x2 : Int} {x3 : Int} {v : Int} {s1 : Hp} (h : f_X0_odds s0 x0 x1 x2 x3 = some (v, s1)) : Ct m_X0_odds [rV (some x0), iV x1, iV x2, iV x3] s0 (.inl (some (iV v)), s1) :=
  Ct.of2 (w_X0_odds s0 x0 x1 x2 x3 h) (show plainName yX0_odds.cls = true by decide) rfl rfl rfl
abbrev m_X0_oldest : Mi := (yX0_oldest, cX0_oldest, (some .int), 6, 2, 45, [])
theorem n_X0_oldest : nameOk yX0_oldest 1 := ⟨by decide, by decide, by decide +kernel⟩
def f_X0_oldest_L20 (x0 : Nat) : Nat → Hp → Int → Int → Int → Int → (Hp → Int → Int → Int → Option (Int × Hp)) → Option (Int × Hp)
  | 0, _, _, _, _, _, _ => none
  | n + 1, s0, x1, x2, x3, x4, k => (rcv s0 0 (some x0)).bind fun b5 => bn (f_X0_mirrors s0 b5) fun v3 s4 => (if nrm v3 ≤ nrm x4 then (k s4 x1 x2 x3) else ((gR s4 0 (some x0) 7).bind fun v6 => (gR s4 0 (some x0) 7).bind fun v7 => (gI s4 5 v7 9).bind fun v8 => (rcv s4 5 v6).bind fun b11 => bn (f_X5_shows s4 b11 x4 v8) fun v9 s10 => (if nrm v9 < 0 then (f_X0_oldest_L20 x0 n s10 x1 x2 x3 (x4 + 1) k) else (jn (fun (s12 : Hp) (x1 : Int) (x4 : Int) (x5 : Int) => f_X0_oldest_L20 x0 n s12 x1 x4 x5 (x4 + 1) k) fun j65 => (if nrm x2 < 0 then (j65 s10 x1 x4 v9) else ((if nrm v9 < nrm x3 then (j65 s10 x1 x4 v9) else (f_X0_oldest_L20 x0 n s10 x1 x2 x3 (x4 + 1) k))))))))
theorem w_X0_oldest_L20 {σ0 : Hp} {w : Int × Hp} {x0 : Nat} : ∀ (n : Nat) (s0 : Hp) (x1 : Int) (x2 : Int) (x3 : Int) (x4 : Int) (k : (Hp → Int → Int → Int → Option (Int × Hp))), f_X0_oldest_L20 x0 n s0 x1 x2 x3 x4 k = some w → (∀ (s1 : Hp) (x1 : Int) (x2 : Int) (x3 : Int), k s1 x1 x2 x3 = some w → AW m_X0_oldest σ0 (oI w) 77 [none, some (iV x1), some (iV x2), some (iV x3), none, none] [] s1) → AW m_X0_oldest σ0 (oI w) 20 [some (rV (some x0)), some (iV x1), some (iV x2), some (iV x3), some (iV x4), none] [] s0 := by
  intro n
  induction n with
  | zero =>
    intro s0 x1 x2 x3 x4 k h hk
    rw [f_X0_oldest_L20] at h
    cases h
  | succ n ih =>
    intro s0 x1 x2 x3 x4 k h hk
    rw [f_X0_oldest_L20] at h
    refine AW.iload dX0_oldest_20 rfl ?_
    refine AW.aload_n dX0_oldest_22 rfl ?_
    refine AW.VI (M' := m_X0_mirrors) (t := 0) [] [iV x4] dX0_oldest_23 q1195 q1197 qs35 q121 q1198 ck0 rfl n_X0_mirrors rfl rfl rfl (fun _ _ _ e => c_X0_mirrors e) h (fun v3 s4 h => ?_)
    refine AW.icmp_ge 77 dX0_oldest_26 (by decide) h (fun c16 h => ?_) (fun c16 h => ?_)
    · exact AW.fewer (L' := [none, some (iV x1), some (iV x2), some (iV x3), none, none]) (And.intro rfl (And.intro rfl (And.intro rfl trivial))) (hk _ _ _ _ h)
    · refine AW.aload_n dX0_oldest_29 rfl ?_
      refine AW.getR (t := 0) (k := 7) dX0_oldest_30 ck0 (Nat.le_of_ble_eq_true rfl) (fun _ => rfl) q553 (Or.inl rfl) h (fun v6 h => ?_)
      refine AW.iload dX0_oldest_33 rfl ?_
      refine AW.aload_n dX0_oldest_35 rfl ?_
      refine AW.getR (t := 0) (k := 7) dX0_oldest_36 ck0 (Nat.le_of_ble_eq_true rfl) (fun _ => rfl) q553 (Or.inl rfl) h (fun v7 h => ?_)
      refine AW.getI (t := 5) (k := 9) dX0_oldest_39 ck5 (Nat.le_of_ble_eq_true rfl) (fun _ => rfl) q437 (Or.inl rfl) h (fun v8 h => ?_)
      refine AW.VI (M' := m_X5_shows) (t := 5) [iV x4, iV v8] [] dX0_oldest_42 q1199 q1200 q1201 q132 q1202 ck5 rfl n_X5_shows rfl rfl rfl (fun _ _ _ e => c_X5_shows e) h (fun v9 s10 h => ?_)
      refine AW.istore (L' := [some (rV (some x0)), some (iV x1), some (iV x2), some (iV x3), some (iV x4), some (iV v9)]) dX0_oldest_45 (Nat.le_of_ble_eq_true rfl) rfl rfl ?_
      refine AW.iload dX0_oldest_47 rfl ?_
      refine AW.if_lt 71 dX0_oldest_49 (by decide) h (fun c15 h => ?_) (fun c15 h => ?_)
      · refine AW.iinc (L' := [some (rV (some x0)), some (iV x1), some (iV x2), some (iV x3), some (iV (x4 + 1)), some (iV v9)]) dX0_oldest_71 rfl (Nat.le_of_ble_eq_true rfl) rfl rfl ?_
        refine AW.goto (tgt := 20) dX0_oldest_74 (by decide) ?_
        exact AW.fewer (L' := [some (rV (some x0)), some (iV x1), some (iV x2), some (iV x3), some (iV (x4 + 1)), none]) (And.intro rfl (And.intro rfl (And.intro rfl (And.intro rfl (And.intro rfl trivial))))) (ih _ _ _ _ _ _ h hk)
      · refine AW.iload_n dX0_oldest_52 rfl ?_
        refine jn_elim h (fun (j : (Hp → Int → Int → Int → Option (Int × Hp))) => ∀ (s12 : Hp) (x1 : Int) (x4 : Int) (x5 : Int), j s12 x1 x4 x5 = some w → AW m_X0_oldest σ0 (oI w) 65 [some (rV (some x0)), some (iV x1), none, none, some (iV x4), some (iV x5)] [] s12) ?_ (fun j65 hj65 h => ?_)
        · intro s12 x1 x4 x5 h
          refine AW.iload dX0_oldest_65 rfl ?_
          refine AW.istore_n (L' := [some (rV (some x0)), some (iV x1), some (iV x4), none, some (iV x4), some (iV x5)]) dX0_oldest_67 (Nat.le_of_ble_eq_true rfl) rfl rfl ?_
          refine AW.iload dX0_oldest_68 rfl ?_
          refine AW.istore_n (L' := [some (rV (some x0)), some (iV x1), some (iV x4), some (iV x5), some (iV x4), some (iV x5)]) dX0_oldest_70 (Nat.le_of_ble_eq_true rfl) rfl rfl ?_
          refine AW.iinc (L' := [some (rV (some x0)), some (iV x1), some (iV x4), some (iV x5), some (iV (x4 + 1)), some (iV x5)]) dX0_oldest_71 rfl (Nat.le_of_ble_eq_true rfl) rfl rfl ?_
          refine AW.goto (tgt := 20) dX0_oldest_74 (by decide) ?_
          exact AW.fewer (L' := [some (rV (some x0)), some (iV x1), some (iV x4), some (iV x5), some (iV (x4 + 1)), none]) (And.intro rfl (And.intro rfl (And.intro rfl (And.intro rfl (And.intro rfl trivial))))) (ih _ _ _ _ _ _ h hk)
        · refine AW.if_lt 65 dX0_oldest_53 (by decide) h (fun c14 h => ?_) (fun c14 h => ?_)
          · exact AW.fewer (L' := [some (rV (some x0)), some (iV x1), none, none, some (iV x4), some (iV v9)]) (And.intro rfl (And.intro rfl (And.intro rfl (And.intro rfl trivial)))) (hj65 _ _ _ _ h)
          · refine AW.iload dX0_oldest_56 rfl ?_
            refine AW.iload_n dX0_oldest_58 rfl ?_
            refine AW.icmp_lt 65 dX0_oldest_59 (by decide) h (fun c13 h => ?_) (fun c13 h => ?_)
            · exact AW.fewer (L' := [some (rV (some x0)), some (iV x1), none, none, some (iV x4), some (iV v9)]) (And.intro rfl (And.intro rfl (And.intro rfl (And.intro rfl trivial)))) (hj65 _ _ _ _ h)
            · refine AW.goto (tgt := 71) dX0_oldest_62 (by decide) ?_
              refine AW.iinc (L' := [some (rV (some x0)), some (iV x1), some (iV x2), some (iV x3), some (iV (x4 + 1)), some (iV v9)]) dX0_oldest_71 rfl (Nat.le_of_ble_eq_true rfl) rfl rfl ?_
              refine AW.goto (tgt := 20) dX0_oldest_74 (by decide) ?_
              exact AW.fewer (L' := [some (rV (some x0)), some (iV x1), some (iV x2), some (iV x3), some (iV (x4 + 1)), none]) (And.intro rfl (And.intro rfl (And.intro rfl (And.intro rfl (And.intro rfl trivial))))) (ih _ _ _ _ _ _ h hk)
def f_X0_oldest (s0 : Hp) (x0 : Nat) (x1 : Int) : Option (Int × Hp) :=
  bn (f_X0_isIn s0 x1 0 1) fun v1 s2 => (if ¬ nrm v1 = 0 then (f_X0_oldest_L20 x0 FU s2 x1 (-2) (-2) 0 (fun s17 x1 x2 x3 => (if ¬ nrm x1 = 0 then (some (nrm x3, s17)) else (some (nrm x2, s17))))) else (some ((-1), s2)))
theorem w_X0_oldest {σ0 : Hp} {w : Int × Hp} (s0 : Hp) (x0 : Nat) (x1 : Int) (h : f_X0_oldest s0 x0 x1 = some w) : AW m_X0_oldest σ0 (oI w) 0 [some (rV (some x0)), some (iV x1), none, none, none, none] [] s0 := by
  unfold f_X0_oldest at h
  refine AW.iload_n dX0_oldest_0 rfl ?_
  refine AW.iconst dX0_oldest_1 ?_
  refine AW.iconst dX0_oldest_2 ?_
  refine AW.SI (M' := m_X0_isIn) [iV x1, iV 0, iV 1] [] dX0_oldest_3 q1180 q1181 q121 q1182 n_X0_isIn rfl rfl rfl (fun _ _ e => c_X0_isIn e) h (fun v1 s2 h => ?_)
  refine AW.if_ne 11 dX0_oldest_6 (by decide) h (fun c19 h => ?_) (fun c19 h => ?_)
  · refine AW.bipush dX0_oldest_11 (by decide) ?_
    refine AW.istore_n (L' := [some (rV (some x0)), some (iV x1), some (iV (-2)), none, none, none]) dX0_oldest_13 (Nat.le_of_ble_eq_true rfl) rfl rfl ?_
    refine AW.bipush dX0_oldest_14 (by decide) ?_
    refine AW.istore_n (L' := [some (rV (some x0)), some (iV x1), some (iV (-2)), some (iV (-2)), none, none]) dX0_oldest_16 (Nat.le_of_ble_eq_true rfl) rfl rfl ?_
    refine AW.iconst dX0_oldest_17 ?_
    refine AW.istore (L' := [some (rV (some x0)), some (iV x1), some (iV (-2)), some (iV (-2)), some (iV 0), none]) dX0_oldest_18 (Nat.le_of_ble_eq_true rfl) rfl rfl ?_
    refine w_X0_oldest_L20 _ _ _ _ _ _ _ h (fun s17 x1 x2 x3 h => ?_)
    refine AW.iload_n dX0_oldest_77 rfl ?_
    refine AW.if_ne 85 dX0_oldest_78 (by decide) h (fun c18 h => ?_) (fun c18 h => ?_)
    · refine AW.iload_n dX0_oldest_85 rfl ?_
      refine AW.nv ?_
      cases h
      exact AW.iret dX0_oldest_86 rfl
    · refine AW.iload_n dX0_oldest_81 rfl ?_
      refine AW.goto (tgt := 86) dX0_oldest_82 (by decide) ?_
      refine AW.nv ?_
      cases h
      exact AW.iret dX0_oldest_86 rfl
  · refine AW.iconst dX0_oldest_9 ?_
    cases h
    exact AW.iret dX0_oldest_10 rfl
theorem c_X0_oldest {s0 : Hp} {x0 : Nat} {x1 : Int} {v : Int} {s1 : Hp} (h : f_X0_oldest s0 x0 x1 = some (v, s1)) : Ct m_X0_oldest [rV (some x0), iV x1] s0 (.inl (some (iV v)), s1) :=
  Ct.of2 (w_X0_oldest s0 x0 x1 h) (show plainName yX0_oldest.cls = true by decide) rfl rfl rfl
abbrev m_X0_place : Mi := (yX0_place, cX0_place, (some .int), 1, 0, 0, [])
theorem n_X0_place : nameOk yX0_place 0 := ⟨by decide, by decide, by decide +kernel⟩
def f_X0_place (s0 : Hp) (x0 : Nat) : Option (Int × Hp) :=
  (gI s0 0 (some x0) 4).bind fun v1 => some (v1, s0)
theorem w_X0_place {σ0 : Hp} {w : Int × Hp} (s0 : Hp) (x0 : Nat) (h : f_X0_place s0 x0 = some w) : AW m_X0_place σ0 (oI w) 0 [some (rV (some x0))] [] s0 := by
  unfold f_X0_place at h
  refine AW.aload_n dX0_place_0 rfl ?_
  refine AW.getI (t := 0) (k := 4) dX0_place_1 ck0 (Nat.le_of_ble_eq_true rfl) (fun _ => rfl) q550 (Or.inl rfl) h (fun v1 h => ?_)
  cases h
  exact AW.iret dX0_place_4 rfl
theorem c_X0_place {s0 : Hp} {x0 : Nat} {v : Int} {s1 : Hp} (h : f_X0_place s0 x0 = some (v, s1)) : Ct m_X0_place [rV (some x0)] s0 (.inl (some (iV v)), s1) :=
  Ct.of2 (w_X0_place s0 x0 h) (show plainName yX0_place.cls = true by decide) rfl rfl rfl
abbrev m_X0_raise : Mi := (yX0_raise, cX0_raise, (some .boolean), 3, 416, 24792, [])
theorem n_X0_raise : nameOk yX0_raise 2 := ⟨by decide, by decide, by decide +kernel⟩
def f_X0_raise (s0 : Hp) (x0 : Nat) (x1 : Int) (x2 : Int) : Option (Int × Hp) :=
  (rcv s0 0 (some x0)).bind fun b3 => bn (f_X0_isMan s0 b3 x1) fun v1 s2 => (if nrm v1 = 0 then (some (0, s2)) else (bn (f_X0_isIn s2 x2 0 20) fun v4 s5 => (if nrm v4 = 0 then (some (0, s5)) else ((gR s5 0 (some x0) 7).bind fun v6 => (gR s5 5 v6 1).bind fun v7 => (aR s5 105 v7 x1).bind fun v8 => (gR s5 0 (some x0) 7).bind fun v9 => (gI s5 5 v9 9).bind fun v10 => (aI s5 101 v8 v10).bind fun v11 => (if ¬ nrm v11 = nrm x2 then ((rcv s5 0 (some x0)).bind fun b13 => bn (f_X0_keeps s5 b13) fun _ s12 => (gR s12 0 (some x0) 7).bind fun v14 => (gR s12 5 v14 1).bind fun v15 => (aR s12 105 v15 x1).bind fun v16 => (gR s12 0 (some x0) 7).bind fun v17 => (gI s12 5 v17 9).bind fun v18 => (sI s12 101 v16 v18 (i8I (i8I x2))).bind fun s19 => (gR s19 0 (some x0) 7).bind fun v20 => (gR s19 0 (some x0) 3).bind fun v21 => (rcv s19 5 v20).bind fun b23 => bn (f_X5_looks s19 b23 v21) fun _ s22 => some (1, s22)) else (some (0, s5)))))))
theorem w_X0_raise {σ0 : Hp} {w : Int × Hp} (s0 : Hp) (x0 : Nat) (x1 : Int) (x2 : Int) (h : f_X0_raise s0 x0 x1 x2 = some w) : AW m_X0_raise σ0 (oI w) 0 [some (rV (some x0)), some (iV x1), some (iV x2)] [] s0 := by
  unfold f_X0_raise at h
  refine AW.aload_n dX0_raise_0 rfl ?_
  refine AW.iload_n dX0_raise_1 rfl ?_
  refine AW.VI (M' := m_X0_isMan) (t := 0) [iV x1] [] dX0_raise_2 q1171 q1173 qs31 q121 q1174 ck0 rfl n_X0_isMan rfl rfl rfl (fun _ _ _ e => c_X0_isMan e) h (fun v1 s2 h => ?_)
  refine AW.if_eq 39 dX0_raise_5 (by decide) h (fun c26 h => ?_) (fun c26 h => ?_)
  · refine AW.iconst dX0_raise_39 ?_
    cases h
    exact AW.zret (z := 0) dX0_raise_40 rfl zz0
  · refine AW.iload_n dX0_raise_8 rfl ?_
    refine AW.iconst dX0_raise_9 ?_
    refine AW.bipush dX0_raise_10 (by decide) ?_
    refine AW.SI (M' := m_X0_isIn) [iV x2, iV 0, iV 20] [] dX0_raise_12 q1180 q1181 q121 q1182 n_X0_isIn rfl rfl rfl (fun _ _ e => c_X0_isIn e) h (fun v4 s5 h => ?_)
    refine AW.if_eq 39 dX0_raise_15 (by decide) h (fun c25 h => ?_) (fun c25 h => ?_)
    · refine AW.iconst dX0_raise_39 ?_
      cases h
      exact AW.zret (z := 0) dX0_raise_40 rfl zz0
    · refine AW.aload_n dX0_raise_18 rfl ?_
      refine AW.getR (t := 0) (k := 7) dX0_raise_19 ck0 (Nat.le_of_ble_eq_true rfl) (fun _ => rfl) q553 (Or.inl rfl) h (fun v6 h => ?_)
      refine AW.getR (t := 5) (k := 1) dX0_raise_22 ck5 (Nat.le_of_ble_eq_true rfl) (fun _ => rfl) q424 (Or.inl rfl) h (fun v7 h => ?_)
      refine AW.iload_n dX0_raise_25 rfl ?_
      refine AW.aald (t := 105) dX0_raise_26 (Nat.le_of_ble_eq_true rfl) rfl (fun _ _ => rfl) h (fun v8 h => ?_)
      refine AW.aload_n dX0_raise_27 rfl ?_
      refine AW.getR (t := 0) (k := 7) dX0_raise_28 ck0 (Nat.le_of_ble_eq_true rfl) (fun _ => rfl) q553 (Or.inl rfl) h (fun v9 h => ?_)
      refine AW.getI (t := 5) (k := 9) dX0_raise_31 ck5 (Nat.le_of_ble_eq_true rfl) (fun _ => rfl) q437 (Or.inl rfl) h (fun v10 h => ?_)
      refine AW.bald (t := 101) dX0_raise_34 (Nat.le_of_ble_eq_true rfl) rfl h (fun v11 h => ?_)
      refine AW.iload_n dX0_raise_35 rfl ?_
      refine AW.icmp_ne 41 dX0_raise_36 (by decide) h (fun c24 h => ?_) (fun c24 h => ?_)
      · refine AW.aload_n dX0_raise_41 rfl ?_
        refine AW.VU (M' := m_X0_keeps) (t := 0) [] [] dX0_raise_42 q1217 q1219 qs36 q121 q1220 ck0 rfl n_X0_keeps rfl rfl rfl (fun _ _ _ e => c_X0_keeps e) h (fun _ s12 h => ?_)
        refine AW.aload_n dX0_raise_45 rfl ?_
        refine AW.getR (t := 0) (k := 7) dX0_raise_46 ck0 (Nat.le_of_ble_eq_true rfl) (fun _ => rfl) q553 (Or.inl rfl) h (fun v14 h => ?_)
        refine AW.getR (t := 5) (k := 1) dX0_raise_49 ck5 (Nat.le_of_ble_eq_true rfl) (fun _ => rfl) q424 (Or.inl rfl) h (fun v15 h => ?_)
        refine AW.iload_n dX0_raise_52 rfl ?_
        refine AW.aald (t := 105) dX0_raise_53 (Nat.le_of_ble_eq_true rfl) rfl (fun _ _ => rfl) h (fun v16 h => ?_)
        refine AW.aload_n dX0_raise_54 rfl ?_
        refine AW.getR (t := 0) (k := 7) dX0_raise_55 ck0 (Nat.le_of_ble_eq_true rfl) (fun _ => rfl) q553 (Or.inl rfl) h (fun v17 h => ?_)
        refine AW.getI (t := 5) (k := 9) dX0_raise_58 ck5 (Nat.le_of_ble_eq_true rfl) (fun _ => rfl) q437 (Or.inl rfl) h (fun v18 h => ?_)
        refine AW.iload_n dX0_raise_61 rfl ?_
        refine AW.i2b dX0_raise_62 ?_
        refine AW.bast (t := 101) dX0_raise_63 (Nat.le_of_ble_eq_true rfl) mu101 rfl h (fun s19 h => ?_)
        refine AW.aload_n dX0_raise_64 rfl ?_
        refine AW.getR (t := 0) (k := 7) dX0_raise_65 ck0 (Nat.le_of_ble_eq_true rfl) (fun _ => rfl) q553 (Or.inl rfl) h (fun v20 h => ?_)
        refine AW.aload_n dX0_raise_68 rfl ?_
        refine AW.getR (t := 0) (k := 3) dX0_raise_69 ck0 (Nat.le_of_ble_eq_true rfl) (fun _ => rfl) q549 (Or.inl rfl) h (fun v21 h => ?_)
        refine AW.VU (M' := m_X5_looks) (t := 5) [rV v21] [] dX0_raise_72 q1256 q505 q506 q132 q507 ck5 rfl n_X5_looks rfl rfl rfl (fun _ _ _ e => c_X5_looks e) h (fun _ s22 h => ?_)
        refine AW.iconst dX0_raise_75 ?_
        cases h
        exact AW.zret (z := 1) dX0_raise_76 rfl zz1
      · refine AW.iconst dX0_raise_39 ?_
        cases h
        exact AW.zret (z := 0) dX0_raise_40 rfl zz0
theorem c_X0_raise {s0 : Hp} {x0 : Nat} {x1 : Int} {x2 : Int} {v : Int} {s1 : Hp} (h : f_X0_raise s0 x0 x1 x2 = some (v, s1)) : Ct m_X0_raise [rV (some x0), iV x1, iV x2] s0 (.inl (some (iV v)), s1) :=
  Ct.of2 (w_X0_raise s0 x0 x1 x2 h) (show plainName yX0_raise.cls = true by decide) rfl rfl rfl
abbrev m_X0_rankFor : Mi := (yX0_rankFor, cX0_rankFor, (some .int), 5, 415, 24770, [])
theorem n_X0_rankFor : nameOk yX0_rankFor 2 := ⟨by decide, by decide, by decide +kernel⟩
def f_X0_rankFor_L72 (x0 : Nat) : Nat → Hp → Int → Int → Int → Int → (Hp → Option (Int × Hp)) → Option (Int × Hp)
  | 0, _, _, _, _, _, _ => none
  | n + 1, s0, x1, x2, x3, x4, k => (if nrm 20 < nrm x4 then (k s0) else ((gR s0 0 (some x0) 7).bind fun v21 => (gR s0 0 (some x0) 3).bind fun v22 => (rcv s0 5 v21).bind fun b25 => bn (f_X5_lateBy s0 b25 v22 x1 x4) fun v23 s24 => (if ¬ nrm (x3 - v23) = nrm x2 then (f_X0_rankFor_L72 x0 n s24 x1 x2 x3 (x4 + 1) k) else (some (nrm x4, s24)))))
theorem w_X0_rankFor_L72 {σ0 : Hp} {w : Int × Hp} {x0 : Nat} : ∀ (n : Nat) (s0 : Hp) (x1 : Int) (x2 : Int) (x3 : Int) (x4 : Int) (k : (Hp → Option (Int × Hp))), f_X0_rankFor_L72 x0 n s0 x1 x2 x3 x4 k = some w → (∀ (s1 : Hp), k s1 = some w → AW m_X0_rankFor σ0 (oI w) 108 [none, none, none, none, none] [] s1) → AW m_X0_rankFor σ0 (oI w) 72 [some (rV (some x0)), some (iV x1), some (iV x2), some (iV x3), some (iV x4)] [] s0 := by
  intro n
  induction n with
  | zero =>
    intro s0 x1 x2 x3 x4 k h hk
    rw [f_X0_rankFor_L72] at h
    cases h
  | succ n ih =>
    intro s0 x1 x2 x3 x4 k h hk
    rw [f_X0_rankFor_L72] at h
    refine AW.iload dX0_rankFor_72 rfl ?_
    refine AW.bipush dX0_rankFor_74 (by decide) ?_
    refine AW.icmp_gt 108 dX0_rankFor_76 (by decide) h (fun c27 h => ?_) (fun c27 h => ?_)
    · exact AW.fewer (L' := [none, none, none, none, none]) (trivial) (hk _ h)
    · refine AW.iload_n dX0_rankFor_79 rfl ?_
      refine AW.aload_n dX0_rankFor_80 rfl ?_
      refine AW.getR (t := 0) (k := 7) dX0_rankFor_81 ck0 (Nat.le_of_ble_eq_true rfl) (fun _ => rfl) q553 (Or.inl rfl) h (fun v21 h => ?_)
      refine AW.aload_n dX0_rankFor_84 rfl ?_
      refine AW.getR (t := 0) (k := 3) dX0_rankFor_85 ck0 (Nat.le_of_ble_eq_true rfl) (fun _ => rfl) q549 (Or.inl rfl) h (fun v22 h => ?_)
      refine AW.iload_n dX0_rankFor_88 rfl ?_
      refine AW.iload dX0_rankFor_89 rfl ?_
      refine AW.VI (M' := m_X5_lateBy) (t := 5) [rV v22, iV x1, iV x4] [iV x3] dX0_rankFor_91 q1373 q509 q510 q132 q511 ck5 rfl n_X5_lateBy rfl rfl rfl (fun _ _ _ e => c_X5_lateBy e) h (fun v23 s24 h => ?_)
      refine AW.isub dX0_rankFor_94 ?_
      refine AW.iload_n dX0_rankFor_95 rfl ?_
      refine AW.icmp_ne 102 dX0_rankFor_96 (by decide) h (fun c26 h => ?_) (fun c26 h => ?_)
      · refine AW.iinc (L' := [some (rV (some x0)), some (iV x1), some (iV x2), some (iV x3), some (iV (x4 + 1))]) dX0_rankFor_102 rfl (Nat.le_of_ble_eq_true rfl) rfl rfl ?_
        refine AW.goto (tgt := 72) dX0_rankFor_105 (by decide) ?_
        exact ih _ _ _ _ _ _ h hk
      · refine AW.iload dX0_rankFor_99 rfl ?_
        refine AW.nv ?_
        cases h
        exact AW.iret dX0_rankFor_101 rfl
def f_X0_rankFor (s0 : Hp) (x0 : Nat) (x1 : Int) (x2 : Int) : Option (Int × Hp) :=
  (rcv s0 0 (some x0)).bind fun b3 => bn (f_X0_isMirror s0 b3 x1) fun v1 s2 => (if nrm v1 = 0 then (some ((-1), s2)) else ((rcv s2 0 (some x0)).bind fun b6 => bn (f_X0_isPast s2 b6 x2) fun v4 s5 => (if ¬ nrm v4 = 0 then ((gR s5 0 (some x0) 7).bind fun v7 => (gI s5 5 v7 9).bind fun v8 => (gR s5 0 (some x0) 7).bind fun v9 => (rcv s5 5 v9).bind fun b12 => bn (f_X5_isBroken s5 b12 x1 v8) fun v10 s11 => (if ¬ nrm v10 = 0 then (some ((-2), s11)) else ((gR s11 0 (some x0) 7).bind fun v13 => (gR s11 5 v13 3).bind fun v14 => (aR s11 106 v14 x1).bind fun v15 => (aI s11 102 v15 v8).bind fun v16 => (if ¬ nrm v16 = 0 then (some ((-2), s11)) else ((gR s11 0 (some x0) 7).bind fun v17 => (gR s11 5 v17 3).bind fun v18 => (aR s11 106 v18 x1).bind fun v19 => (aI s11 102 v19 x2).bind fun v20 => (if nrm v20 = 0 then (f_X0_rankFor_L72 x0 FU s11 x1 x2 v8 0 (fun s28 => some ((-2), s28))) else (some ((-2), s11)))))))) else (some ((-1), s5)))))
theorem w_X0_rankFor {σ0 : Hp} {w : Int × Hp} (s0 : Hp) (x0 : Nat) (x1 : Int) (x2 : Int) (h : f_X0_rankFor s0 x0 x1 x2 = some w) : AW m_X0_rankFor σ0 (oI w) 0 [some (rV (some x0)), some (iV x1), some (iV x2), none, none] [] s0 := by
  unfold f_X0_rankFor at h
  refine AW.aload_n dX0_rankFor_0 rfl ?_
  refine AW.iload_n dX0_rankFor_1 rfl ?_
  refine AW.VI (M' := m_X0_isMirror) (t := 0) [iV x1] [] dX0_rankFor_2 q1191 q1193 qs34 q121 q1194 ck0 rfl n_X0_isMirror rfl rfl rfl (fun _ _ _ e => c_X0_isMirror e) h (fun v1 s2 h => ?_)
  refine AW.if_eq 16 dX0_rankFor_5 (by decide) h (fun c33 h => ?_) (fun c33 h => ?_)
  · refine AW.iconst dX0_rankFor_16 ?_
    cases h
    exact AW.iret dX0_rankFor_17 rfl
  · refine AW.aload_n dX0_rankFor_8 rfl ?_
    refine AW.iload_n dX0_rankFor_9 rfl ?_
    refine AW.VI (M' := m_X0_isPast) (t := 0) [iV x2] [] dX0_rankFor_10 q1183 q1185 qs33 q121 q1186 ck0 rfl n_X0_isPast rfl rfl rfl (fun _ _ _ e => c_X0_isPast e) h (fun v4 s5 h => ?_)
    refine AW.if_ne 18 dX0_rankFor_13 (by decide) h (fun c32 h => ?_) (fun c32 h => ?_)
    · refine AW.aload_n dX0_rankFor_18 rfl ?_
      refine AW.getR (t := 0) (k := 7) dX0_rankFor_19 ck0 (Nat.le_of_ble_eq_true rfl) (fun _ => rfl) q553 (Or.inl rfl) h (fun v7 h => ?_)
      refine AW.getI (t := 5) (k := 9) dX0_rankFor_22 ck5 (Nat.le_of_ble_eq_true rfl) (fun _ => rfl) q437 (Or.inl rfl) h (fun v8 h => ?_)
      refine AW.istore_n (L' := [some (rV (some x0)), some (iV x1), some (iV x2), some (iV v8), none]) dX0_rankFor_25 (Nat.le_of_ble_eq_true rfl) rfl rfl ?_
      refine AW.aload_n dX0_rankFor_26 rfl ?_
      refine AW.getR (t := 0) (k := 7) dX0_rankFor_27 ck0 (Nat.le_of_ble_eq_true rfl) (fun _ => rfl) q553 (Or.inl rfl) h (fun v9 h => ?_)
      refine AW.iload_n dX0_rankFor_30 rfl ?_
      refine AW.iload_n dX0_rankFor_31 rfl ?_
      refine AW.VI (M' := m_X5_isBroken) (t := 5) [iV x1, iV v8] [] dX0_rankFor_32 q1207 q1204 q1205 q132 q1206 ck5 rfl n_X5_isBroken rfl rfl rfl (fun _ _ _ e => c_X5_isBroken e) h (fun v10 s11 h => ?_)
      refine AW.if_ne 66 dX0_rankFor_35 (by decide) h (fun c31 h => ?_) (fun c31 h => ?_)
      · refine AW.bipush dX0_rankFor_66 (by decide) ?_
        cases h
        exact AW.iret dX0_rankFor_68 rfl
      · refine AW.aload_n dX0_rankFor_38 rfl ?_
        refine AW.getR (t := 0) (k := 7) dX0_rankFor_39 ck0 (Nat.le_of_ble_eq_true rfl) (fun _ => rfl) q553 (Or.inl rfl) h (fun v13 h => ?_)
        refine AW.getR (t := 5) (k := 3) dX0_rankFor_42 ck5 (Nat.le_of_ble_eq_true rfl) (fun _ => rfl) q429 (Or.inl rfl) h (fun v14 h => ?_)
        refine AW.iload_n dX0_rankFor_45 rfl ?_
        refine AW.aald (t := 106) dX0_rankFor_46 (Nat.le_of_ble_eq_true rfl) rfl (fun _ _ => rfl) h (fun v15 h => ?_)
        refine AW.iload_n dX0_rankFor_47 rfl ?_
        refine AW.zald (t := 102) dX0_rankFor_48 (Nat.le_of_ble_eq_true rfl) rfl h (fun v16 h => ?_)
        refine AW.if_ne 66 dX0_rankFor_49 (by decide) h (fun c30 h => ?_) (fun c30 h => ?_)
        · refine AW.bipush dX0_rankFor_66 (by decide) ?_
          cases h
          exact AW.iret dX0_rankFor_68 rfl
        · refine AW.aload_n dX0_rankFor_52 rfl ?_
          refine AW.getR (t := 0) (k := 7) dX0_rankFor_53 ck0 (Nat.le_of_ble_eq_true rfl) (fun _ => rfl) q553 (Or.inl rfl) h (fun v17 h => ?_)
          refine AW.getR (t := 5) (k := 3) dX0_rankFor_56 ck5 (Nat.le_of_ble_eq_true rfl) (fun _ => rfl) q429 (Or.inl rfl) h (fun v18 h => ?_)
          refine AW.iload_n dX0_rankFor_59 rfl ?_
          refine AW.aald (t := 106) dX0_rankFor_60 (Nat.le_of_ble_eq_true rfl) rfl (fun _ _ => rfl) h (fun v19 h => ?_)
          refine AW.iload_n dX0_rankFor_61 rfl ?_
          refine AW.zald (t := 102) dX0_rankFor_62 (Nat.le_of_ble_eq_true rfl) rfl h (fun v20 h => ?_)
          refine AW.if_eq 69 dX0_rankFor_63 (by decide) h (fun c29 h => ?_) (fun c29 h => ?_)
          · refine AW.iconst dX0_rankFor_69 ?_
            refine AW.istore (L' := [some (rV (some x0)), some (iV x1), some (iV x2), some (iV v8), some (iV 0)]) dX0_rankFor_70 (Nat.le_of_ble_eq_true rfl) rfl rfl ?_
            refine w_X0_rankFor_L72 _ _ _ _ _ _ _ h (fun s28 h => ?_)
            refine AW.bipush dX0_rankFor_108 (by decide) ?_
            cases h
            exact AW.iret dX0_rankFor_110 rfl
          · refine AW.bipush dX0_rankFor_66 (by decide) ?_
            cases h
            exact AW.iret dX0_rankFor_68 rfl
    · refine AW.iconst dX0_rankFor_16 ?_
      cases h
      exact AW.iret dX0_rankFor_17 rfl
theorem c_X0_rankFor {s0 : Hp} {x0 : Nat} {x1 : Int} {x2 : Int} {v : Int} {s1 : Hp} (h : f_X0_rankFor s0 x0 x1 x2 = some (v, s1)) : Ct m_X0_rankFor [rV (some x0), iV x1, iV x2] s0 (.inl (some (iV v)), s1) :=
  Ct.of2 (w_X0_rankFor s0 x0 x1 x2 h) (show plainName yX0_rankFor.cls = true by decide) rfl rfl rfl
abbrev m_X3_isSign : Mi := (yX3_isSign, cX3_isSign, (some .boolean), 2, 0, 0, [])
theorem n_X3_isSign : nameOk yX3_isSign 1 := ⟨by decide, by decide, by decide +kernel⟩
def f_X3_isSign (s0 : Hp) (x0 : Nat) (x1 : Int) : Option (Int × Hp) :=
  (gR s0 3 (some x0) 0).bind fun v1 => (gR s0 2 v1 3).bind fun v2 => (gI s0 3 (some x0) 3).bind fun v3 => (aI s0 101 v2 v3).bind fun v4 => (if ¬ nrm v4 = nrm 2 then (some (0, s0)) else ((gR s0 3 (some x0) 0).bind fun v5 => (gR s0 2 v5 6).bind fun v6 => (gI s0 3 (some x0) 3).bind fun v7 => (aI s0 103 v6 v7).bind fun v8 => (if ¬ nrm v8 = nrm x1 then (some (0, s0)) else (some (1, s0)))))
theorem w_X3_isSign {σ0 : Hp} {w : Int × Hp} (s0 : Hp) (x0 : Nat) (x1 : Int) (h : f_X3_isSign s0 x0 x1 = some w) : AW m_X3_isSign σ0 (oI w) 0 [some (rV (some x0)), some (iV x1)] [] s0 := by
  unfold f_X3_isSign at h
  refine AW.aload_n dX3_isSign_0 rfl ?_
  refine AW.getR (t := 3) (k := 0) dX3_isSign_1 ck3 (Nat.le_of_ble_eq_true rfl) (fun _ => rfl) q301 (Or.inl rfl) h (fun v1 h => ?_)
  refine AW.getR (t := 2) (k := 3) dX3_isSign_4 ck2 (Nat.le_of_ble_eq_true rfl) (fun _ => rfl) q270 (Or.inl rfl) h (fun v2 h => ?_)
  refine AW.aload_n dX3_isSign_7 rfl ?_
  refine AW.getI (t := 3) (k := 3) dX3_isSign_8 ck3 (Nat.le_of_ble_eq_true rfl) (fun _ => rfl) q304 (Or.inl rfl) h (fun v3 h => ?_)
  refine AW.bald (t := 101) dX3_isSign_11 (Nat.le_of_ble_eq_true rfl) rfl h (fun v4 h => ?_)
  refine AW.iconst dX3_isSign_12 ?_
  refine AW.icmp_ne 36 dX3_isSign_13 (by decide) h (fun c10 h => ?_) (fun c10 h => ?_)
  · refine AW.iconst dX3_isSign_36 ?_
    cases h
    exact AW.zret (z := 0) dX3_isSign_37 rfl zz0
  · refine AW.aload_n dX3_isSign_16 rfl ?_
    refine AW.getR (t := 3) (k := 0) dX3_isSign_17 ck3 (Nat.le_of_ble_eq_true rfl) (fun _ => rfl) q301 (Or.inl rfl) h (fun v5 h => ?_)
    refine AW.getR (t := 2) (k := 6) dX3_isSign_20 ck2 (Nat.le_of_ble_eq_true rfl) (fun _ => rfl) q275 (Or.inl rfl) h (fun v6 h => ?_)
    refine AW.aload_n dX3_isSign_23 rfl ?_
    refine AW.getI (t := 3) (k := 3) dX3_isSign_24 ck3 (Nat.le_of_ble_eq_true rfl) (fun _ => rfl) q304 (Or.inl rfl) h (fun v7 h => ?_)
    refine AW.sald (t := 103) dX3_isSign_27 (Nat.le_of_ble_eq_true rfl) rfl h (fun v8 h => ?_)
    refine AW.iload_n dX3_isSign_28 rfl ?_
    refine AW.icmp_ne 36 dX3_isSign_29 (by decide) h (fun c9 h => ?_) (fun c9 h => ?_)
    · refine AW.iconst dX3_isSign_36 ?_
      cases h
      exact AW.zret (z := 0) dX3_isSign_37 rfl zz0
    · refine AW.iconst dX3_isSign_32 ?_
      refine AW.goto (tgt := 37) dX3_isSign_33 (by decide) ?_
      cases h
      exact AW.zret (z := 1) dX3_isSign_37 rfl zz1
theorem c_X3_isSign {s0 : Hp} {x0 : Nat} {x1 : Int} {v : Int} {s1 : Hp} (h : f_X3_isSign s0 x0 x1 = some (v, s1)) : Ct m_X3_isSign [rV (some x0), iV x1] s0 (.inl (some (iV v)), s1) :=
  Ct.of2 (w_X3_isSign s0 x0 x1 h) (show plainName yX3_isSign.cls = true by decide) rfl rfl rfl
abbrev m_X1_of : Mi := (yX1_of, cX1_of, (some (FieldType.object "LateMirrors$Fault")), 3, 0, 0, [])
theorem n_X1_of : nameOk yX1_of 2 := ⟨by decide, by decide, by decide +kernel⟩
def f_X1_of (s0 : Hp) (x0 : Nat) (x1 : Int) (x2 : Int) : Option ((Option Nat) × Hp) :=
  (pI s0 1 (some x0) 6 (nrm x1)).bind fun s1 => (pI s1 1 (some x0) 7 (nrm x2)).bind fun s2 => some ((some x0), s2)
theorem w_X1_of {σ0 : Hp} {w : (Option Nat) × Hp} (s0 : Hp) (x0 : Nat) (x1 : Int) (x2 : Int) (h : f_X1_of s0 x0 x1 x2 = some w) : AW m_X1_of σ0 (oR w) 0 [some (rV (some x0)), some (iV x1), some (iV x2)] [] s0 := by
  unfold f_X1_of at h
  refine AW.aload_n dX1_of_0 rfl ?_
  refine AW.iload_n dX1_of_1 rfl ?_
  refine AW.nv ?_
  refine AW.putI (t := 1) (k := 6) dX1_of_2 ck1 mu1 (Nat.le_of_ble_eq_true rfl) rfl q217 (Or.inl rfl) (Or.inl rfl) h (fun s1 h => ?_)
  refine AW.aload_n dX1_of_5 rfl ?_
  refine AW.iload_n dX1_of_6 rfl ?_
  refine AW.nv ?_
  refine AW.putI (t := 1) (k := 7) dX1_of_7 ck1 mu1 (Nat.le_of_ble_eq_true rfl) rfl q219 (Or.inl rfl) (Or.inl rfl) h (fun s2 h => ?_)
  refine AW.aload_n dX1_of_10 rfl ?_
  cases h
  exact AW.aret dX1_of_11 rfl (Or.inl ⟨_, rfl⟩)
theorem c_X1_of {s0 : Hp} {x0 : Nat} {x1 : Int} {x2 : Int} {v : Option Nat} {s1 : Hp} (h : f_X1_of s0 x0 x1 x2 = some (v, s1)) : Ct m_X1_of [rV (some x0), iV x1, iV x2] s0 (.inl (some (rV v)), s1) :=
  Ct.of2 (w_X1_of s0 x0 x1 x2 h) (show plainName yX1_of.cls = true by decide) rfl rfl rfl
abbrev m_X3_wrongAt : Mi := (yX3_wrongAt, cX3_wrongAt, (some (FieldType.object "LateMirrors$Fault")), 3, 1, 22, [])
theorem n_X3_wrongAt : nameOk yX3_wrongAt 2 := ⟨by decide, by decide, by decide +kernel⟩
def f_X3_wrongAt (s0 : Hp) (x0 : Nat) (x1 : Int) (x2 : Int) : Option ((Option Nat) × Hp) :=
  (gR s0 3 (some x0) 1).bind fun v1 => (gR s0 3 (some x0) 0).bind fun v2 => (gR s0 2 v2 4).bind fun v3 => (aI s0 103 v3 x2).bind fun v4 => (rcv s0 1 v1).bind fun b7 => bn (f_X1_of s0 b7 x1 v4) fun v5 s6 => some (v5, s6)
theorem w_X3_wrongAt {σ0 : Hp} {w : (Option Nat) × Hp} (s0 : Hp) (x0 : Nat) (x1 : Int) (x2 : Int) (h : f_X3_wrongAt s0 x0 x1 x2 = some w) : AW m_X3_wrongAt σ0 (oR w) 0 [some (rV (some x0)), some (iV x1), some (iV x2)] [] s0 := by
  unfold f_X3_wrongAt at h
  refine AW.aload_n dX3_wrongAt_0 rfl ?_
  refine AW.getR (t := 3) (k := 1) dX3_wrongAt_1 ck3 (Nat.le_of_ble_eq_true rfl) (fun _ => rfl) q302 (Or.inl rfl) h (fun v1 h => ?_)
  refine AW.iload_n dX3_wrongAt_4 rfl ?_
  refine AW.aload_n dX3_wrongAt_5 rfl ?_
  refine AW.getR (t := 3) (k := 0) dX3_wrongAt_6 ck3 (Nat.le_of_ble_eq_true rfl) (fun _ => rfl) q301 (Or.inl rfl) h (fun v2 h => ?_)
  refine AW.getR (t := 2) (k := 4) dX3_wrongAt_9 ck2 (Nat.le_of_ble_eq_true rfl) (fun _ => rfl) q272 (Or.inl rfl) h (fun v3 h => ?_)
  refine AW.iload_n dX3_wrongAt_12 rfl ?_
  refine AW.sald (t := 103) dX3_wrongAt_13 (Nat.le_of_ble_eq_true rfl) rfl h (fun v4 h => ?_)
  refine AW.VR (M' := m_X1_of) (t := 1) [iV x1, iV v4] [] dX3_wrongAt_14 q724 q725 q726 q125 q727 ck1 rfl n_X1_of rfl rfl rfl (fun _ _ _ e => c_X1_of e) h (fun v5 s6 h => ?_)
  cases h
  exact AW.aret dX3_wrongAt_17 rfl (Or.inl ⟨_, rfl⟩)
theorem c_X3_wrongAt {s0 : Hp} {x0 : Nat} {x1 : Int} {x2 : Int} {v : Option Nat} {s1 : Hp} (h : f_X3_wrongAt s0 x0 x1 x2 = some (v, s1)) : Ct m_X3_wrongAt [rV (some x0), iV x1, iV x2] s0 (.inl (some (rV v)), s1) :=
  Ct.of2 (w_X3_wrongAt s0 x0 x1 x2 h) (show plainName yX3_wrongAt.cls = true by decide) rfl rfl rfl
abbrev m_X3_wrong : Mi := (yX3_wrong, cX3_wrong, (some (FieldType.object "LateMirrors$Fault")), 2, 2, 44, [])
theorem n_X3_wrong : nameOk yX3_wrong 1 := ⟨by decide, by decide, by decide +kernel⟩
def f_X3_wrong (s0 : Hp) (x0 : Nat) (x1 : Int) : Option ((Option Nat) × Hp) :=
  (gI s0 3 (some x0) 3).bind fun v1 => (rcv s0 3 (some x0)).bind fun b4 => bn (f_X3_wrongAt s0 b4 x1 v1) fun v2 s3 => some (v2, s3)
theorem w_X3_wrong {σ0 : Hp} {w : (Option Nat) × Hp} (s0 : Hp) (x0 : Nat) (x1 : Int) (h : f_X3_wrong s0 x0 x1 = some w) : AW m_X3_wrong σ0 (oR w) 0 [some (rV (some x0)), some (iV x1)] [] s0 := by
  unfold f_X3_wrong at h
  refine AW.aload_n dX3_wrong_0 rfl ?_
  refine AW.iload_n dX3_wrong_1 rfl ?_
  refine AW.aload_n dX3_wrong_2 rfl ?_
  refine AW.getI (t := 3) (k := 3) dX3_wrong_3 ck3 (Nat.le_of_ble_eq_true rfl) (fun _ => rfl) q304 (Or.inl rfl) h (fun v1 h => ?_)
  refine AW.VR (M' := m_X3_wrongAt) (t := 3) [iV x1, iV v1] [] dX3_wrong_6 q720 q722 qs10 q127 q723 ck3 rfl n_X3_wrongAt rfl rfl rfl (fun _ _ _ e => c_X3_wrongAt e) h (fun v2 s3 h => ?_)
  cases h
  exact AW.aret dX3_wrong_9 rfl (Or.inl ⟨_, rfl⟩)
theorem c_X3_wrong {s0 : Hp} {x0 : Nat} {x1 : Int} {v : Option Nat} {s1 : Hp} (h : f_X3_wrong s0 x0 x1 = some (v, s1)) : Ct m_X3_wrong [rV (some x0), iV x1] s0 (.inl (some (rV v)), s1) :=
  Ct.of2 (w_X3_wrong s0 x0 x1 h) (show plainName yX3_wrong.cls = true by decide) rfl rfl rfl
abbrev m_X3_pass : Mi := (yX3_pass, cX3_pass, none, 1, 3, 65, [])
theorem n_X3_pass : nameOk yX3_pass 0 := ⟨by decide, by decide, by decide +kernel⟩
def f_X3_pass (s0 : Hp) (x0 : Nat) : Option ((Unit ⊕ Nat) × Hp) :=
  (gI s0 3 (some x0) 3).bind fun v1 => (if nrm v1 < nrm 400 then ((gI s0 3 (some x0) 3).bind fun v2 => (pI s0 3 (some x0) 3 (nrm (v2 + 1))).bind fun s3 => some (.inl (), s3)) else ((rcv s0 3 (some x0)).bind fun b6 => bn (f_X3_wrong s0 b6 2) fun v4 s5 => thr s5 v4))
theorem w_X3_pass {σ0 : Hp} {w : (Unit ⊕ Nat) × Hp} (s0 : Hp) (x0 : Nat) (h : f_X3_pass s0 x0 = some w) : AW m_X3_pass σ0 (xo vU w) 0 [some (rV (some x0))] [] s0 := by
  unfold f_X3_pass at h
  refine AW.aload_n dX3_pass_0 rfl ?_
  refine AW.getI (t := 3) (k := 3) dX3_pass_1 ck3 (Nat.le_of_ble_eq_true rfl) (fun _ => rfl) q304 (Or.inl rfl) h (fun v1 h => ?_)
  refine AW.sipush dX3_pass_4 (by decide) ?_
  refine AW.icmp_lt 16 dX3_pass_7 (by decide) h (fun c7 h => ?_) (fun c7 h => ?_)
  · refine AW.aload_n dX3_pass_16 rfl ?_
    refine AW.dupR dX3_pass_17 ?_
    refine AW.getI (t := 3) (k := 3) dX3_pass_18 ck3 (Nat.le_of_ble_eq_true rfl) (fun _ => rfl) q304 (Or.inl rfl) h (fun v2 h => ?_)
    refine AW.iconst dX3_pass_21 ?_
    refine AW.iadd dX3_pass_22 ?_
    refine AW.nv ?_
    refine AW.putI (t := 3) (k := 3) dX3_pass_23 ck3 mu3 (Nat.le_of_ble_eq_true rfl) rfl q304 (Or.inl rfl) (Or.inl rfl) h (fun s3 h => ?_)
    cases h
    exact AW.vret dX3_pass_26 rfl
  · refine AW.aload_n dX3_pass_10 rfl ?_
    refine AW.iconst dX3_pass_11 ?_
    refine AW.VR (M' := m_X3_wrong) (t := 3) [iV 2] [] dX3_pass_12 q716 q718 qs9 q127 q719 ck3 rfl n_X3_wrong rfl rfl rfl (fun _ _ _ e => c_X3_wrong e) h (fun v4 s5 h => ?_)
    exact AW.athrow dX3_pass_15 rfl h
theorem c_X3_pass {s0 : Hp} {x0 : Nat} {w1 : (Unit ⊕ Nat) × Hp} (h : f_X3_pass s0 x0 = some w1) : Ct m_X3_pass [rV (some x0)] s0 (xo vU w1) :=
  Ct.of2 (w_X3_pass s0 x0 h) (show plainName yX3_pass.cls = true by decide) rfl rfl rfl
abbrev m_X3_sign : Mi := (yX3_sign, cX3_sign, none, 2, 4, 85, [])
theorem n_X3_sign : nameOk yX3_sign 1 := ⟨by decide, by decide, by decide +kernel⟩
def f_X3_sign (s0 : Hp) (x0 : Nat) (x1 : Int) : Option ((Unit ⊕ Nat) × Hp) :=
  (rcv s0 3 (some x0)).bind fun b3 => bn (f_X3_isSign s0 b3 x1) fun v1 s2 => (if ¬ nrm v1 = 0 then ((rcv s2 3 (some x0)).bind fun b5 => bx (f_X3_pass s2 b5) fun _ s4 => some (.inl (), s4)) else ((rcv s2 3 (some x0)).bind fun b8 => bn (f_X3_wrong s2 b8 1) fun v6 s7 => thr s7 v6))
theorem w_X3_sign {σ0 : Hp} {w : (Unit ⊕ Nat) × Hp} (s0 : Hp) (x0 : Nat) (x1 : Int) (h : f_X3_sign s0 x0 x1 = some w) : AW m_X3_sign σ0 (xo vU w) 0 [some (rV (some x0)), some (iV x1)] [] s0 := by
  unfold f_X3_sign at h
  refine AW.aload_n dX3_sign_0 rfl ?_
  refine AW.iload_n dX3_sign_1 rfl ?_
  refine AW.VI (M' := m_X3_isSign) (t := 3) [iV x1] [] dX3_sign_2 q1083 q1085 qs25 q127 q1086 ck3 rfl n_X3_isSign rfl rfl rfl (fun _ _ _ e => c_X3_isSign e) h (fun v1 s2 h => ?_)
  refine AW.if_ne 14 dX3_sign_5 (by decide) h (fun c9 h => ?_) (fun c9 h => ?_)
  · refine AW.aload_n dX3_sign_14 rfl ?_
    refine AW.xVU (M' := m_X3_pass) (t := 3) [] [] dX3_sign_15 q737 q739 qs13 q127 q740 ck3 rfl n_X3_pass rfl rfl rfl rfl (fun _ _ e => c_X3_pass e) h (fun _ s4 h => ?_)
    cases h
    exact AW.vret dX3_sign_18 rfl
  · refine AW.aload_n dX3_sign_8 rfl ?_
    refine AW.iconst dX3_sign_9 ?_
    refine AW.VR (M' := m_X3_wrong) (t := 3) [iV 1] [] dX3_sign_10 q716 q718 qs9 q127 q719 ck3 rfl n_X3_wrong rfl rfl rfl (fun _ _ _ e => c_X3_wrong e) h (fun v6 s7 h => ?_)
    exact AW.athrow dX3_sign_13 rfl h
theorem c_X3_sign {s0 : Hp} {x0 : Nat} {x1 : Int} {w1 : (Unit ⊕ Nat) × Hp} (h : f_X3_sign s0 x0 x1 = some w1) : Ct m_X3_sign [rV (some x0), iV x1] s0 (xo vU w1) :=
  Ct.of2 (w_X3_sign s0 x0 x1 h) (show plainName yX3_sign.cls = true by decide) rfl rfl rfl
abbrev m_X3_sort : Mi := (yX3_sort, cX3_sort, (some .int), 1, 3, 65, [])
theorem n_X3_sort : nameOk yX3_sort 0 := ⟨by decide, by decide, by decide +kernel⟩
def f_X3_sort (s0 : Hp) (x0 : Nat) : Option ((Int ⊕ Nat) × Hp) :=
  (gR s0 3 (some x0) 0).bind fun v1 => (gR s0 2 v1 3).bind fun v2 => (gI s0 3 (some x0) 3).bind fun v3 => (aI s0 101 v2 v3).bind fun v4 => (if ¬ nrm v4 = nrm 5 then ((gR s0 3 (some x0) 0).bind fun v5 => (gR s0 2 v5 3).bind fun v6 => (gI s0 3 (some x0) 3).bind fun v7 => (aI s0 101 v6 v7).bind fun v8 => some (.inl v8, s0)) else ((rcv s0 3 (some x0)).bind fun b11 => bn (f_X3_wrong s0 b11 1) fun v9 s10 => thr s10 v9))
theorem w_X3_sort {σ0 : Hp} {w : (Int ⊕ Nat) × Hp} (s0 : Hp) (x0 : Nat) (h : f_X3_sort s0 x0 = some w) : AW m_X3_sort σ0 (xo vI w) 0 [some (rV (some x0))] [] s0 := by
  unfold f_X3_sort at h
  refine AW.aload_n dX3_sort_0 rfl ?_
  refine AW.getR (t := 3) (k := 0) dX3_sort_1 ck3 (Nat.le_of_ble_eq_true rfl) (fun _ => rfl) q301 (Or.inl rfl) h (fun v1 h => ?_)
  refine AW.getR (t := 2) (k := 3) dX3_sort_4 ck2 (Nat.le_of_ble_eq_true rfl) (fun _ => rfl) q270 (Or.inl rfl) h (fun v2 h => ?_)
  refine AW.aload_n dX3_sort_7 rfl ?_
  refine AW.getI (t := 3) (k := 3) dX3_sort_8 ck3 (Nat.le_of_ble_eq_true rfl) (fun _ => rfl) q304 (Or.inl rfl) h (fun v3 h => ?_)
  refine AW.bald (t := 101) dX3_sort_11 (Nat.le_of_ble_eq_true rfl) rfl h (fun v4 h => ?_)
  refine AW.iconst dX3_sort_12 ?_
  refine AW.icmp_ne 22 dX3_sort_13 (by decide) h (fun c12 h => ?_) (fun c12 h => ?_)
  · refine AW.aload_n dX3_sort_22 rfl ?_
    refine AW.getR (t := 3) (k := 0) dX3_sort_23 ck3 (Nat.le_of_ble_eq_true rfl) (fun _ => rfl) q301 (Or.inl rfl) h (fun v5 h => ?_)
    refine AW.getR (t := 2) (k := 3) dX3_sort_26 ck2 (Nat.le_of_ble_eq_true rfl) (fun _ => rfl) q270 (Or.inl rfl) h (fun v6 h => ?_)
    refine AW.aload_n dX3_sort_29 rfl ?_
    refine AW.getI (t := 3) (k := 3) dX3_sort_30 ck3 (Nat.le_of_ble_eq_true rfl) (fun _ => rfl) q304 (Or.inl rfl) h (fun v7 h => ?_)
    refine AW.bald (t := 101) dX3_sort_33 (Nat.le_of_ble_eq_true rfl) rfl h (fun v8 h => ?_)
    cases h
    exact AW.iret dX3_sort_34 rfl
  · refine AW.aload_n dX3_sort_16 rfl ?_
    refine AW.iconst dX3_sort_17 ?_
    refine AW.VR (M' := m_X3_wrong) (t := 3) [iV 1] [] dX3_sort_18 q716 q718 qs9 q127 q719 ck3 rfl n_X3_wrong rfl rfl rfl (fun _ _ _ e => c_X3_wrong e) h (fun v9 s10 h => ?_)
    exact AW.athrow dX3_sort_21 rfl h
theorem c_X3_sort {s0 : Hp} {x0 : Nat} {w1 : (Int ⊕ Nat) × Hp} (h : f_X3_sort s0 x0 = some w1) : Ct m_X3_sort [rV (some x0)] s0 (xo vI w1) :=
  Ct.of2 (w_X3_sort s0 x0 h) (show plainName yX3_sort.cls = true by decide) rfl rfl rfl
abbrev m_X9_init : Mi := (yX9_init, cX9_init, none, 2, 1, 20, [])
theorem n_X9_init : nameOk yX9_init 1 := ⟨by decide, by decide, by decide +kernel⟩
def f_X9_init (s0 : Hp) (x0 : Nat) (x1 : Option Nat) : Option (Unit × Hp) :=
  (some x0).bind fun _ => (pN s0 (some x0) x1).bind fun s1 => some ((), s1)
theorem w_X9_init {σ0 : Hp} {w : Unit × Hp} (s0 : Hp) (x0 : Nat) (x1 : Option Nat) (h : f_X9_init s0 x0 x1 = some w) : AW m_X9_init σ0 (oU w) 0 [some (rV (some x0)), some (rV x1)] [] s0 := by
  unfold f_X9_init at h
  refine AW.aload_n dX9_init_0 rfl ?_
  refine AW.objI dX9_init_1 q941 rfl rfl h (fun _ h => ?_)
  refine AW.aload_n dX9_init_4 rfl ?_
  refine AW.aload_n dX9_init_5 rfl ?_
  refine AW.putN dX9_init_6 q948 rfl rfl h (fun s1 h => ?_)
  cases h
  exact AW.vret dX9_init_9 rfl
theorem c_X9_init {s0 : Hp} {x0 : Nat} {x1 : Option Nat} {v : Unit} {s1 : Hp} (h : f_X9_init s0 x0 x1 = some (v, s1)) : Ct m_X9_init [rV (some x0), rV x1] s0 (.inl none, s1) :=
  Ct.of2 (w_X9_init s0 x0 x1 h) (show plainName yX9_init.cls = true by decide) rfl rfl rfl
abbrev m_X11_init : Mi := (yX11_init, cX11_init, none, 2, 2, 41, [])
theorem n_X11_init : nameOk yX11_init 1 := ⟨by decide, by decide, by decide +kernel⟩
def f_X11_init (s0 : Hp) (x0 : Nat) (x1 : Option Nat) : Option (Unit × Hp) :=
  (rcv s0 11 (some x0)).bind fun b2 => bn (f_X9_init s0 b2 x1) fun _ s1 => some ((), s1)
theorem w_X11_init {σ0 : Hp} {w : Unit × Hp} (s0 : Hp) (x0 : Nat) (x1 : Option Nat) (h : f_X11_init s0 x0 x1 = some w) : AW m_X11_init σ0 (oU w) 0 [some (rV (some x0)), some (rV x1)] [] s0 := by
  unfold f_X11_init at h
  refine AW.aload_n dX11_init_0 rfl ?_
  refine AW.aload_n dX11_init_1 rfl ?_
  refine AW.IU (M' := m_X9_init) (t := 11) [rV x1] [] dX11_init_2 q1027 q939 q143 q940 rfl rfl n_X9_init rfl rfl rfl (fun _ _ _ e => c_X9_init e) h (fun _ s1 h => ?_)
  cases h
  exact AW.vret dX11_init_5 rfl
theorem c_X11_init {s0 : Hp} {x0 : Nat} {x1 : Option Nat} {v : Unit} {s1 : Hp} (h : f_X11_init s0 x0 x1 = some (v, s1)) : Ct m_X11_init [rV (some x0), rV x1] s0 (.inl none, s1) :=
  Ct.of2 (w_X11_init s0 x0 x1 h) (show plainName yX11_init.cls = true by decide) rfl rfl rfl
abbrev m_X17_init : Mi := (yX17_init, cX17_init, none, 2, 2, 41, [])
theorem n_X17_init : nameOk yX17_init 1 := ⟨by decide, by decide, by decide +kernel⟩
def f_X17_init (s0 : Hp) (x0 : Nat) (x1 : Option Nat) : Option (Unit × Hp) :=
  (rcv s0 17 (some x0)).bind fun b2 => bn (f_X9_init s0 b2 x1) fun _ s1 => some ((), s1)
theorem w_X17_init {σ0 : Hp} {w : Unit × Hp} (s0 : Hp) (x0 : Nat) (x1 : Option Nat) (h : f_X17_init s0 x0 x1 = some w) : AW m_X17_init σ0 (oU w) 0 [some (rV (some x0)), some (rV x1)] [] s0 := by
  unfold f_X17_init at h
  refine AW.aload_n dX17_init_0 rfl ?_
  refine AW.aload_n dX17_init_1 rfl ?_
  refine AW.IU (M' := m_X9_init) (t := 17) [rV x1] [] dX17_init_2 q1151 q939 q143 q940 rfl rfl n_X9_init rfl rfl rfl (fun _ _ _ e => c_X9_init e) h (fun _ s1 h => ?_)
  cases h
  exact AW.vret dX17_init_5 rfl
theorem c_X17_init {s0 : Hp} {x0 : Nat} {x1 : Option Nat} {v : Unit} {s1 : Hp} (h : f_X17_init s0 x0 x1 = some (v, s1)) : Ct m_X17_init [rV (some x0), rV x1] s0 (.inl none, s1) :=
  Ct.of2 (w_X17_init s0 x0 x1 h) (show plainName yX17_init.cls = true by decide) rfl rfl rfl
abbrev m_X3_begins : Mi := (yX3_begins, cX3_begins, none, 3, 4, 85, [])
theorem n_X3_begins : nameOk yX3_begins 2 := ⟨by decide, by decide, by decide +kernel⟩
def f_X3_begins (s0 : Hp) (x0 : Nat) (x1 : Int) (x2 : Int) : Option ((Unit ⊕ Nat) × Hp) :=
  (if ¬ nrm x1 = nrm x2 then ((rcv s0 3 (some x0)).bind fun b2 => bx (f_X3_pass s0 b2) fun _ s1 => some (.inl (), s1)) else ((rcv s0 3 (some x0)).bind fun b5 => bn (f_X3_wrong s0 b5 2) fun v3 s4 => thr s4 v3))
theorem w_X3_begins {σ0 : Hp} {w : (Unit ⊕ Nat) × Hp} (s0 : Hp) (x0 : Nat) (x1 : Int) (x2 : Int) (h : f_X3_begins s0 x0 x1 x2 = some w) : AW m_X3_begins σ0 (xo vU w) 0 [some (rV (some x0)), some (iV x1), some (iV x2)] [] s0 := by
  unfold f_X3_begins at h
  refine AW.iload_n dX3_begins_0 rfl ?_
  refine AW.iload_n dX3_begins_1 rfl ?_
  refine AW.icmp_ne 11 dX3_begins_2 (by decide) h (fun c6 h => ?_) (fun c6 h => ?_)
  · refine AW.aload_n dX3_begins_11 rfl ?_
    refine AW.xVU (M' := m_X3_pass) (t := 3) [] [] dX3_begins_12 q737 q739 qs13 q127 q740 ck3 rfl n_X3_pass rfl rfl rfl rfl (fun _ _ e => c_X3_pass e) h (fun _ s1 h => ?_)
    cases h
    exact AW.vret dX3_begins_15 rfl
  · refine AW.aload_n dX3_begins_5 rfl ?_
    refine AW.iconst dX3_begins_6 ?_
    refine AW.VR (M' := m_X3_wrong) (t := 3) [iV 2] [] dX3_begins_7 q716 q718 qs9 q127 q719 ck3 rfl n_X3_wrong rfl rfl rfl (fun _ _ _ e => c_X3_wrong e) h (fun v3 s4 h => ?_)
    exact AW.athrow dX3_begins_10 rfl h
theorem c_X3_begins {s0 : Hp} {x0 : Nat} {x1 : Int} {x2 : Int} {w1 : (Unit ⊕ Nat) × Hp} (h : f_X3_begins s0 x0 x1 x2 = some w1) : Ct m_X3_begins [rV (some x0), iV x1, iV x2] s0 (xo vU w1) :=
  Ct.of2 (w_X3_begins s0 x0 x1 x2 h) (show plainName yX3_begins.cls = true by decide) rfl rfl rfl
abbrev m_X3_take : Mi := (yX3_take, cX3_take, (some .int), 2, 4, 85, [])
theorem n_X3_take : nameOk yX3_take 1 := ⟨by decide, by decide, by decide +kernel⟩
def f_X3_take (s0 : Hp) (x0 : Nat) (x1 : Int) : Option ((Int ⊕ Nat) × Hp) :=
  (rcv s0 3 (some x0)).bind fun b3 => bx (f_X3_sort s0 b3) fun v1 s2 => (if nrm v1 = nrm x1 then ((rcv s2 3 (some x0)).bind fun b5 => bx (f_X3_pass s2 b5) fun _ s4 => (gI s4 3 (some x0) 3).bind fun v6 => some (.inl (nrm (v6 - 1)), s4)) else ((rcv s2 3 (some x0)).bind fun b9 => bn (f_X3_wrong s2 b9 1) fun v7 s8 => thr s8 v7))
theorem w_X3_take {σ0 : Hp} {w : (Int ⊕ Nat) × Hp} (s0 : Hp) (x0 : Nat) (x1 : Int) (h : f_X3_take s0 x0 x1 = some w) : AW m_X3_take σ0 (xo vI w) 0 [some (rV (some x0)), some (iV x1)] [] s0 := by
  unfold f_X3_take at h
  refine AW.aload_n dX3_take_0 rfl ?_
  refine AW.xVI (M' := m_X3_sort) (t := 3) [] [] dX3_take_1 q712 q714 qs8 q127 q715 ck3 rfl n_X3_sort rfl rfl rfl rfl (fun _ _ e => c_X3_sort e) h (fun v1 s2 h => ?_)
  refine AW.iload_n dX3_take_4 rfl ?_
  refine AW.icmp_eq 14 dX3_take_5 (by decide) h (fun c10 h => ?_) (fun c10 h => ?_)
  · refine AW.aload_n dX3_take_14 rfl ?_
    refine AW.xVU (M' := m_X3_pass) (t := 3) [] [] dX3_take_15 q737 q739 qs13 q127 q740 ck3 rfl n_X3_pass rfl rfl rfl rfl (fun _ _ e => c_X3_pass e) h (fun _ s4 h => ?_)
    refine AW.aload_n dX3_take_18 rfl ?_
    refine AW.getI (t := 3) (k := 3) dX3_take_19 ck3 (Nat.le_of_ble_eq_true rfl) (fun _ => rfl) q304 (Or.inl rfl) h (fun v6 h => ?_)
    refine AW.iconst dX3_take_22 ?_
    refine AW.isub dX3_take_23 ?_
    refine AW.nv ?_
    cases h
    exact AW.iret dX3_take_24 rfl
  · refine AW.aload_n dX3_take_8 rfl ?_
    refine AW.iconst dX3_take_9 ?_
    refine AW.VR (M' := m_X3_wrong) (t := 3) [iV 1] [] dX3_take_10 q716 q718 qs9 q127 q719 ck3 rfl n_X3_wrong rfl rfl rfl (fun _ _ _ e => c_X3_wrong e) h (fun v7 s8 h => ?_)
    exact AW.athrow dX3_take_13 rfl h
theorem c_X3_take {s0 : Hp} {x0 : Nat} {x1 : Int} {w1 : (Int ⊕ Nat) × Hp} (h : f_X3_take s0 x0 x1 = some w1) : Ct m_X3_take [rV (some x0), iV x1] s0 (xo vI w1) :=
  Ct.of2 (w_X3_take s0 x0 x1 h) (show plainName yX3_take.cls = true by decide) rfl rfl rfl
abbrev m_X3_tell : Mi := (yX3_tell, cX3_tell, none, 3, 0, 0, [])
theorem n_X3_tell : nameOk yX3_tell 2 := ⟨by decide, by decide, by decide +kernel⟩
def f_X3_tell (s0 : Hp) (x0 : Nat) (x1 : Int) (x2 : Int) : Option (Unit × Hp) :=
  (gI s0 3 (some x0) 5).bind fun v1 => jn (fun (s2 : Hp) (x1 : Int) (x2 : Int) => (pI s2 3 (some x0) 5 (nrm x1)).bind fun s3 => (pI s3 3 (some x0) 6 (nrm x2)).bind fun s4 => some ((), s4)) fun j32 => (if nrm v1 = 0 then (j32 s0 x1 x2) else ((gI s0 3 (some x0) 6).bind fun v5 => (if nrm v5 < nrm x2 then (some ((), s0)) else ((gI s0 3 (some x0) 6).bind fun v6 => (if ¬ nrm x2 = nrm v6 then (j32 s0 x1 x2) else ((gI s0 3 (some x0) 5).bind fun v7 => (if nrm x1 < nrm v7 then (j32 s0 x1 x2) else (some ((), s0)))))))))
theorem w_X3_tell {σ0 : Hp} {w : Unit × Hp} (s0 : Hp) (x0 : Nat) (x1 : Int) (x2 : Int) (h : f_X3_tell s0 x0 x1 x2 = some w) : AW m_X3_tell σ0 (oU w) 0 [some (rV (some x0)), some (iV x1), some (iV x2)] [] s0 := by
  unfold f_X3_tell at h
  refine AW.aload_n dX3_tell_0 rfl ?_
  refine AW.getI (t := 3) (k := 5) dX3_tell_1 ck3 (Nat.le_of_ble_eq_true rfl) (fun _ => rfl) q306 (Or.inl rfl) h (fun v1 h => ?_)
  refine jn_elim h (fun (j : (Hp → Int → Int → Option (Unit × Hp))) => ∀ (s2 : Hp) (x1 : Int) (x2 : Int), j s2 x1 x2 = some w → AW m_X3_tell σ0 (oU w) 32 [some (rV (some x0)), some (iV x1), some (iV x2)] [] s2) ?_ (fun j32 hj32 h => ?_)
  · intro s2 x1 x2 h
    refine AW.aload_n dX3_tell_32 rfl ?_
    refine AW.iload_n dX3_tell_33 rfl ?_
    refine AW.nv ?_
    refine AW.putI (t := 3) (k := 5) dX3_tell_34 ck3 mu3 (Nat.le_of_ble_eq_true rfl) rfl q306 (Or.inl rfl) (Or.inl rfl) h (fun s3 h => ?_)
    refine AW.aload_n dX3_tell_37 rfl ?_
    refine AW.iload_n dX3_tell_38 rfl ?_
    refine AW.nv ?_
    refine AW.putI (t := 3) (k := 6) dX3_tell_39 ck3 mu3 (Nat.le_of_ble_eq_true rfl) rfl q307 (Or.inl rfl) (Or.inl rfl) h (fun s4 h => ?_)
    cases h
    exact AW.vret dX3_tell_42 rfl
  · refine AW.if_eq 32 dX3_tell_4 (by decide) h (fun c11 h => ?_) (fun c11 h => ?_)
    · exact hj32 _ _ _ h
    · refine AW.iload_n dX3_tell_7 rfl ?_
      refine AW.aload_n dX3_tell_8 rfl ?_
      refine AW.getI (t := 3) (k := 6) dX3_tell_9 ck3 (Nat.le_of_ble_eq_true rfl) (fun _ => rfl) q307 (Or.inl rfl) h (fun v5 h => ?_)
      refine AW.icmp_gt 31 dX3_tell_12 (by decide) h (fun c10 h => ?_) (fun c10 h => ?_)
      · cases h
        exact AW.vret dX3_tell_31 rfl
      · refine AW.iload_n dX3_tell_15 rfl ?_
        refine AW.aload_n dX3_tell_16 rfl ?_
        refine AW.getI (t := 3) (k := 6) dX3_tell_17 ck3 (Nat.le_of_ble_eq_true rfl) (fun _ => rfl) q307 (Or.inl rfl) h (fun v6 h => ?_)
        refine AW.icmp_ne 32 dX3_tell_20 (by decide) h (fun c9 h => ?_) (fun c9 h => ?_)
        · exact hj32 _ _ _ h
        · refine AW.iload_n dX3_tell_23 rfl ?_
          refine AW.aload_n dX3_tell_24 rfl ?_
          refine AW.getI (t := 3) (k := 5) dX3_tell_25 ck3 (Nat.le_of_ble_eq_true rfl) (fun _ => rfl) q306 (Or.inl rfl) h (fun v7 h => ?_)
          refine AW.icmp_lt 32 dX3_tell_28 (by decide) h (fun c8 h => ?_) (fun c8 h => ?_)
          · exact hj32 _ _ _ h
          · cases h
            exact AW.vret dX3_tell_31 rfl
theorem c_X3_tell {s0 : Hp} {x0 : Nat} {x1 : Int} {x2 : Int} {v : Unit} {s1 : Hp} (h : f_X3_tell s0 x0 x1 x2 = some (v, s1)) : Ct m_X3_tell [rV (some x0), iV x1, iV x2] s0 (.inl none, s1) :=
  Ct.of2 (w_X3_tell s0 x0 x1 x2 h) (show plainName yX3_tell.cls = true by decide) rfl rfl rfl
