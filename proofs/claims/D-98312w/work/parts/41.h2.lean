set_option maxRecDepth 100000
abbrev m_X0_runs : Mi := (yX0_runs, cX0_runs, none, 4, 417, 24815, [])
theorem n_X0_runs : nameOk yX0_runs 2 := ⟨by decide, by decide, by decide +kernel⟩
def f_X0_runs_L2 (x0 : Nat) : Nat → Hp → Option Nat → Int → Int → (Hp → Option (Unit × Hp)) → Option (Unit × Hp)
  | 0, _, _, _, _, _ => none
  | n + 1, s0, x1, x2, x3, k => (if nrm x2 ≤ nrm x3 then (k s0) else ((gI s0 5 x1 9).bind fun v1 => (if nrm 300 ≤ nrm (v1 + 1) then (k s0) else ((gR s0 0 (some x0) 3).bind fun v2 => (rcv s0 5 x1).bind fun b4 => bn (f_X5_goesBy s0 b4 v2) fun _ s3 => f_X0_runs_L2 x0 n s3 x1 x2 (x3 + 1) k))))
theorem w_X0_runs_L2 {σ0 : Hp} {w : Unit × Hp} {x0 : Nat} : ∀ (n : Nat) (s0 : Hp) (x1 : Option Nat) (x2 : Int) (x3 : Int) (k : (Hp → Option (Unit × Hp))), f_X0_runs_L2 x0 n s0 x1 x2 x3 k = some w → (∀ (s1 : Hp), k s1 = some w → AW m_X0_runs σ0 (oU w) 33 [none, none, none, none] [] s1) → AW m_X0_runs σ0 (oU w) 2 [some (rV (some x0)), some (rV x1), some (iV x2), some (iV x3)] [] s0 := by
  intro n
  induction n with
  | zero =>
    intro s0 x1 x2 x3 k h hk
    rw [f_X0_runs_L2] at h
    cases h
  | succ n ih =>
    intro s0 x1 x2 x3 k h hk
    rw [f_X0_runs_L2] at h
    refine AW.iload_n dX0_runs_2 rfl ?_
    refine AW.iload_n dX0_runs_3 rfl ?_
    refine AW.icmp_ge 33 dX0_runs_4 (by decide) h (fun c6 h => ?_) (fun c6 h => ?_)
    · exact AW.fewer (L' := [none, none, none, none]) (trivial) (hk _ h)
    · refine AW.aload_n dX0_runs_7 rfl ?_
      refine AW.getI (t := 5) (k := 9) dX0_runs_8 ck5 (Nat.le_of_ble_eq_true rfl) (fun _ => rfl) q437 (Or.inl rfl) h (fun v1 h => ?_)
      refine AW.iconst dX0_runs_11 ?_
      refine AW.iadd dX0_runs_12 ?_
      refine AW.sipush dX0_runs_13 (by decide) ?_
      refine AW.icmp_ge 33 dX0_runs_16 (by decide) h (fun c5 h => ?_) (fun c5 h => ?_)
      · exact AW.fewer (L' := [none, none, none, none]) (trivial) (hk _ h)
      · refine AW.aload_n dX0_runs_19 rfl ?_
        refine AW.aload_n dX0_runs_20 rfl ?_
        refine AW.getR (t := 0) (k := 3) dX0_runs_21 ck0 (Nat.le_of_ble_eq_true rfl) (fun _ => rfl) q549 (Or.inl rfl) h (fun v2 h => ?_)
        refine AW.VU (M' := m_X5_goesBy) (t := 5) [rV v2] [] dX0_runs_24 q1231 q1232 q1233 q132 q1234 ck5 rfl n_X5_goesBy rfl rfl rfl (fun _ _ _ e => c_X5_goesBy e) h (fun _ s3 h => ?_)
        refine AW.iinc (L' := [some (rV (some x0)), some (rV x1), some (iV x2), some (iV (x3 + 1))]) dX0_runs_27 rfl (Nat.le_of_ble_eq_true rfl) rfl rfl ?_
        refine AW.goto (tgt := 2) dX0_runs_30 (by decide) ?_
        exact ih _ _ _ _ _ h hk
def f_X0_runs (s0 : Hp) (x0 : Nat) (x1 : Option Nat) (x2 : Int) : Option (Unit × Hp) :=
  f_X0_runs_L2 x0 FU s0 x1 x2 0 (fun s7 => some ((), s7))
theorem w_X0_runs {σ0 : Hp} {w : Unit × Hp} (s0 : Hp) (x0 : Nat) (x1 : Option Nat) (x2 : Int) (h : f_X0_runs s0 x0 x1 x2 = some w) : AW m_X0_runs σ0 (oU w) 0 [some (rV (some x0)), some (rV x1), some (iV x2), none] [] s0 := by
  unfold f_X0_runs at h
  refine AW.iconst dX0_runs_0 ?_
  refine AW.istore_n (L' := [some (rV (some x0)), some (rV x1), some (iV x2), some (iV 0)]) dX0_runs_1 (Nat.le_of_ble_eq_true rfl) rfl rfl ?_
  refine w_X0_runs_L2 _ _ _ _ _ _ h (fun s7 h => ?_)
  cases h
  exact AW.vret dX0_runs_33 rfl
theorem c_X0_runs {s0 : Hp} {x0 : Nat} {x1 : Option Nat} {x2 : Int} {v : Unit} {s1 : Hp} (h : f_X0_runs s0 x0 x1 x2 = some (v, s1)) : Ct m_X0_runs [rV (some x0), rV x1, iV x2] s0 (.inl none, s1) :=
  Ct.of2 (w_X0_runs s0 x0 x1 x2 h) (show plainName yX0_runs.cls = true by decide) rfl rfl rfl
abbrev m_X5_menShown : Mi := (yX5_menShown, cX5_menShown, (some .int), 5, 2, 45, [])
theorem n_X5_menShown : nameOk yX5_menShown 3 := ⟨by decide, by decide, by decide +kernel⟩
def f_X5_menShown (s0 : Hp) (x0 : Nat) (x1 : Option Nat) (x2 : Int) (x3 : Int) : Option (Int × Hp) :=
  (rcv s0 5 (some x0)).bind fun b3 => bn (f_X5_shows s0 b3 x2 x3) fun v1 s2 => (if 0 ≤ nrm v1 then ((gR s2 5 (some x0) 2).bind fun v4 => (aR s2 105 v4 x2).bind fun v5 => (aI s2 101 v5 v1).bind fun v6 => (rcv s2 5 (some x0)).bind fun b9 => bn (f_X5_menIn s2 b9 x1 v6 v1) fun v7 s8 => some (v7, s8)) else (some (0, s2)))
theorem w_X5_menShown {σ0 : Hp} {w : Int × Hp} (s0 : Hp) (x0 : Nat) (x1 : Option Nat) (x2 : Int) (x3 : Int) (h : f_X5_menShown s0 x0 x1 x2 x3 = some w) : AW m_X5_menShown σ0 (oI w) 0 [some (rV (some x0)), some (rV x1), some (iV x2), some (iV x3), none] [] s0 := by
  unfold f_X5_menShown at h
  refine AW.aload_n dX5_menShown_0 rfl ?_
  refine AW.iload_n dX5_menShown_1 rfl ?_
  refine AW.iload_n dX5_menShown_2 rfl ?_
  refine AW.VI (M' := m_X5_shows) (t := 5) [iV x2, iV x3] [] dX5_menShown_3 q1212 q1200 q1201 q132 q1202 ck5 rfl n_X5_shows rfl rfl rfl (fun _ _ _ e => c_X5_shows e) h (fun v1 s2 h => ?_)
  refine AW.istore (L' := [some (rV (some x0)), some (rV x1), some (iV x2), some (iV x3), some (iV v1)]) dX5_menShown_6 (Nat.le_of_ble_eq_true rfl) rfl rfl ?_
  refine AW.iload dX5_menShown_8 rfl ?_
  refine AW.if_ge 17 dX5_menShown_10 (by decide) h (fun c10 h => ?_) (fun c10 h => ?_)
  · refine AW.aload_n dX5_menShown_17 rfl ?_
    refine AW.aload_n dX5_menShown_18 rfl ?_
    refine AW.aload_n dX5_menShown_19 rfl ?_
    refine AW.getR (t := 5) (k := 2) dX5_menShown_20 ck5 (Nat.le_of_ble_eq_true rfl) (fun _ => rfl) q425 (Or.inl rfl) h (fun v4 h => ?_)
    refine AW.iload_n dX5_menShown_23 rfl ?_
    refine AW.aald (t := 105) dX5_menShown_24 (Nat.le_of_ble_eq_true rfl) rfl (fun _ _ => rfl) h (fun v5 h => ?_)
    refine AW.iload dX5_menShown_25 rfl ?_
    refine AW.bald (t := 101) dX5_menShown_27 (Nat.le_of_ble_eq_true rfl) rfl h (fun v6 h => ?_)
    refine AW.iload dX5_menShown_28 rfl ?_
    refine AW.VI (M' := m_X5_menIn) (t := 5) [rV x1, iV v6, iV v1] [] dX5_menShown_30 q513 q514 q515 q132 q516 ck5 rfl n_X5_menIn rfl rfl rfl (fun _ _ _ e => c_X5_menIn e) h (fun v7 s8 h => ?_)
    cases h
    exact AW.iret dX5_menShown_33 rfl
  · refine AW.iconst dX5_menShown_13 ?_
    refine AW.goto (tgt := 33) dX5_menShown_14 (by decide) ?_
    cases h
    exact AW.iret dX5_menShown_33 rfl
theorem c_X5_menShown {s0 : Hp} {x0 : Nat} {x1 : Option Nat} {x2 : Int} {x3 : Int} {v : Int} {s1 : Hp} (h : f_X5_menShown s0 x0 x1 x2 x3 = some (v, s1)) : Ct m_X5_menShown [rV (some x0), rV x1, iV x2, iV x3] s0 (.inl (some (iV v)), s1) :=
  Ct.of2 (w_X5_menShown s0 x0 x1 x2 x3 h) (show plainName yX5_menShown.cls = true by decide) rfl rfl rfl
abbrev m_X0_isSo : Mi := (yX0_isSo, cX0_isSo, (some .boolean), 6, 418, 24838, [])
theorem n_X0_isSo : nameOk yX0_isSo 3 := ⟨by decide, by decide, by decide +kernel⟩
def f_X0_isSo_L6 (x0 : Nat) : Nat → Hp → Int → Int → Int → Int → Int → (Hp → Int → Int → Int → Int → Option (Int × Hp)) → Option (Int × Hp)
  | 0, _, _, _, _, _, _, _ => none
  | n + 1, s0, x1, x2, x3, x4, x5, k => (if nrm x3 ≤ nrm x5 then (k s0 x1 x2 x3 x4) else ((gR s0 0 (some x0) 20).bind fun v1 => (aI s0 100 v1 x5).bind fun v2 => f_X0_isSo_L6 x0 n s0 x1 x2 x3 (mxI x4 v2) (x5 + 1) k))
theorem w_X0_isSo_L6 {σ0 : Hp} {w : Int × Hp} {x0 : Nat} : ∀ (n : Nat) (s0 : Hp) (x1 : Int) (x2 : Int) (x3 : Int) (x4 : Int) (x5 : Int) (k : (Hp → Int → Int → Int → Int → Option (Int × Hp))), f_X0_isSo_L6 x0 n s0 x1 x2 x3 x4 x5 k = some w → (∀ (s1 : Hp) (x1 : Int) (x2 : Int) (x3 : Int) (x4 : Int), k s1 x1 x2 x3 x4 = some w → AW m_X0_isSo σ0 (oI w) 32 [some (rV (some x0)), some (iV x1), some (iV x2), some (iV x3), some (iV x4), none] [] s1) → AW m_X0_isSo σ0 (oI w) 6 [some (rV (some x0)), some (iV x1), some (iV x2), some (iV x3), some (iV x4), some (iV x5)] [] s0 := by
  intro n
  induction n with
  | zero =>
    intro s0 x1 x2 x3 x4 x5 k h hk
    rw [f_X0_isSo_L6] at h
    cases h
  | succ n ih =>
    intro s0 x1 x2 x3 x4 x5 k h hk
    rw [f_X0_isSo_L6] at h
    refine AW.iload dX0_isSo_6 rfl ?_
    refine AW.iload_n dX0_isSo_8 rfl ?_
    refine AW.icmp_ge 32 dX0_isSo_9 (by decide) h (fun c3 h => ?_) (fun c3 h => ?_)
    · exact AW.fewer (L' := [some (rV (some x0)), some (iV x1), some (iV x2), some (iV x3), some (iV x4), none]) (And.intro rfl (And.intro rfl (And.intro rfl (And.intro rfl (And.intro rfl trivial))))) (hk _ _ _ _ _ h)
    · refine AW.iload dX0_isSo_12 rfl ?_
      refine AW.aload_n dX0_isSo_14 rfl ?_
      refine AW.getR (t := 0) (k := 20) dX0_isSo_15 ck0 (Nat.le_of_ble_eq_true rfl) (fun _ => rfl) q566 (Or.inl rfl) h (fun v1 h => ?_)
      refine AW.iload dX0_isSo_18 rfl ?_
      refine AW.iald (t := 100) dX0_isSo_20 (Nat.le_of_ble_eq_true rfl) rfl h (fun v2 h => ?_)
      refine AW.mmax dX0_isSo_21 q1325 rfl rfl ?_
      refine AW.istore (L' := [some (rV (some x0)), some (iV x1), some (iV x2), some (iV x3), some (iV (mxI x4 v2)), some (iV x5)]) dX0_isSo_24 (Nat.le_of_ble_eq_true rfl) rfl rfl ?_
      refine AW.iinc (L' := [some (rV (some x0)), some (iV x1), some (iV x2), some (iV x3), some (iV (mxI x4 v2)), some (iV (x5 + 1))]) dX0_isSo_26 rfl (Nat.le_of_ble_eq_true rfl) rfl rfl ?_
      refine AW.goto (tgt := 6) dX0_isSo_29 (by decide) ?_
      exact ih _ _ _ _ _ _ _ h hk
def f_X0_isSo_L80 (x0 : Nat) : Nat → Hp → Int → Int → (Hp → Option (Int × Hp)) → Option (Int × Hp)
  | 0, _, _, _, _ => none
  | n + 1, s0, x3, x5, k => (if nrm x3 ≤ nrm x5 then (k s0) else ((gR s0 0 (some x0) 8).bind fun v20 => (gR s0 0 (some x0) 3).bind fun v21 => (gR s0 0 (some x0) 19).bind fun v22 => (aI s0 100 v22 x5).bind fun v23 => (gR s0 0 (some x0) 20).bind fun v24 => (aI s0 100 v24 x5).bind fun v25 => (rcv s0 5 v20).bind fun b28 => bn (f_X5_menShown s0 b28 v21 v23 v25) fun v26 s27 => (gR s27 0 (some x0) 21).bind fun v29 => (aI s27 100 v29 x5).bind fun v30 => jn (fun (s31 : Hp) (x3 : Int) (x5 : Int) (y0 : Int) => (gR s31 0 (some x0) 22).bind fun v32 => (aI s31 102 v32 x5).bind fun v33 => (if nrm y0 = nrm v33 then (f_X0_isSo_L80 x0 n s31 x3 (x5 + 1) k) else (some (0, s31)))) fun j130 => (if ¬ nrm (anI (srI v26 v30) 1) = nrm 1 then (j130 s27 x3 x5 0) else (j130 s27 x3 x5 1))))
theorem w_X0_isSo_L80 {σ0 : Hp} {w : Int × Hp} {x0 : Nat} : ∀ (n : Nat) (s0 : Hp) (x3 : Int) (x5 : Int) (k : (Hp → Option (Int × Hp))), f_X0_isSo_L80 x0 n s0 x3 x5 k = some w → (∀ (s1 : Hp), k s1 = some w → AW m_X0_isSo σ0 (oI w) 148 [none, none, none, none, none, none] [] s1) → AW m_X0_isSo σ0 (oI w) 80 [some (rV (some x0)), none, none, some (iV x3), none, some (iV x5)] [] s0 := by
  intro n
  induction n with
  | zero =>
    intro s0 x3 x5 k h hk
    rw [f_X0_isSo_L80] at h
    cases h
  | succ n ih =>
    intro s0 x3 x5 k h hk
    rw [f_X0_isSo_L80] at h
    refine AW.iload dX0_isSo_80 rfl ?_
    refine AW.iload_n dX0_isSo_82 rfl ?_
    refine AW.icmp_ge 148 dX0_isSo_83 (by decide) h (fun c36 h => ?_) (fun c36 h => ?_)
    · exact AW.fewer (L' := [none, none, none, none, none, none]) (trivial) (hk _ h)
    · refine AW.aload_n dX0_isSo_86 rfl ?_
      refine AW.getR (t := 0) (k := 8) dX0_isSo_87 ck0 (Nat.le_of_ble_eq_true rfl) (fun _ => rfl) q554 (Or.inl rfl) h (fun v20 h => ?_)
      refine AW.aload_n dX0_isSo_90 rfl ?_
      refine AW.getR (t := 0) (k := 3) dX0_isSo_91 ck0 (Nat.le_of_ble_eq_true rfl) (fun _ => rfl) q549 (Or.inl rfl) h (fun v21 h => ?_)
      refine AW.aload_n dX0_isSo_94 rfl ?_
      refine AW.getR (t := 0) (k := 19) dX0_isSo_95 ck0 (Nat.le_of_ble_eq_true rfl) (fun _ => rfl) q565 (Or.inl rfl) h (fun v22 h => ?_)
      refine AW.iload dX0_isSo_98 rfl ?_
      refine AW.iald (t := 100) dX0_isSo_100 (Nat.le_of_ble_eq_true rfl) rfl h (fun v23 h => ?_)
      refine AW.aload_n dX0_isSo_101 rfl ?_
      refine AW.getR (t := 0) (k := 20) dX0_isSo_102 ck0 (Nat.le_of_ble_eq_true rfl) (fun _ => rfl) q566 (Or.inl rfl) h (fun v24 h => ?_)
      refine AW.iload dX0_isSo_105 rfl ?_
      refine AW.iald (t := 100) dX0_isSo_107 (Nat.le_of_ble_eq_true rfl) rfl h (fun v25 h => ?_)
      refine AW.VI (M' := m_X5_menShown) (t := 5) [rV v21, iV v23, iV v25] [] dX0_isSo_108 q1208 q1209 q1210 q132 q1211 ck5 rfl n_X5_menShown rfl rfl rfl (fun _ _ _ e => c_X5_menShown e) h (fun v26 s27 h => ?_)
      refine AW.aload_n dX0_isSo_111 rfl ?_
      refine AW.getR (t := 0) (k := 21) dX0_isSo_112 ck0 (Nat.le_of_ble_eq_true rfl) (fun _ => rfl) q567 (Or.inl rfl) h (fun v29 h => ?_)
      refine AW.iload dX0_isSo_115 rfl ?_
      refine AW.iald (t := 100) dX0_isSo_117 (Nat.le_of_ble_eq_true rfl) rfl h (fun v30 h => ?_)
      refine AW.ishr dX0_isSo_118 ?_
      refine AW.iconst dX0_isSo_119 ?_
      refine AW.iand dX0_isSo_120 ?_
      refine AW.iconst dX0_isSo_121 ?_
      refine jn_elim h (fun (j : (Hp → Int → Int → Int → Option (Int × Hp))) => ∀ (s31 : Hp) (x3 : Int) (x5 : Int) (y0 : Int), j s31 x3 x5 y0 = some w → AW m_X0_isSo σ0 (oI w) 130 [some (rV (some x0)), none, none, some (iV x3), none, some (iV x5)] [iV y0] s31) ?_ (fun j130 hj130 h => ?_)
      · intro s31 x3 x5 y0 h
        refine AW.aload_n dX0_isSo_130 rfl ?_
        refine AW.getR (t := 0) (k := 22) dX0_isSo_131 ck0 (Nat.le_of_ble_eq_true rfl) (fun _ => rfl) q568 (Or.inl rfl) h (fun v32 h => ?_)
        refine AW.iload dX0_isSo_134 rfl ?_
        refine AW.zald (t := 102) dX0_isSo_136 (Nat.le_of_ble_eq_true rfl) rfl h (fun v33 h => ?_)
        refine AW.icmp_eq 142 dX0_isSo_137 (by decide) h (fun c34 h => ?_) (fun c34 h => ?_)
        · refine AW.iinc (L' := [some (rV (some x0)), none, none, some (iV x3), none, some (iV (x5 + 1))]) dX0_isSo_142 rfl (Nat.le_of_ble_eq_true rfl) rfl rfl ?_
          refine AW.goto (tgt := 80) dX0_isSo_145 (by decide) ?_
          exact ih _ _ _ _ h hk
        · refine AW.iconst dX0_isSo_140 ?_
          cases h
          exact AW.zret (z := 0) dX0_isSo_141 rfl zz0
      · refine AW.icmp_ne 129 dX0_isSo_122 (by decide) h (fun c35 h => ?_) (fun c35 h => ?_)
        · refine AW.iconst dX0_isSo_129 ?_
          exact hj130 _ _ _ _ h
        · refine AW.iconst dX0_isSo_125 ?_
          refine AW.goto (tgt := 130) dX0_isSo_126 (by decide) ?_
          exact hj130 _ _ _ _ h
def f_X0_isSo (s0 : Hp) (x0 : Nat) (x1 : Int) (x2 : Int) (x3 : Int) : Option (Int × Hp) :=
  f_X0_isSo_L6 x0 FU s0 x1 x2 x3 0 0 (fun s4 x1 x2 x3 x4 => (gR s4 0 (some x0) 8).bind fun v5 => (gR s4 0 (some x0) 3).bind fun v6 => (rcv s4 5 v5).bind fun b8 => bn (f_X5_begins s4 b8 v6) fun _ s7 => (gR s7 0 (some x0) 8).bind fun v9 => (gR s7 5 v9 0).bind fun v10 => (aR s7 105 v10 x1).bind fun v11 => (sI s7 101 v11 0 (i8I (i8I x2))).bind fun s12 => (gR s12 0 (some x0) 8).bind fun v13 => (gR s12 0 (some x0) 3).bind fun v14 => (rcv s12 5 v13).bind fun b16 => bn (f_X5_looks s12 b16 v14) fun _ s15 => (gR s15 0 (some x0) 8).bind fun v17 => (rcv s15 0 (some x0)).bind fun b19 => bn (f_X0_runs s15 b19 v17 x4) fun _ s18 => f_X0_isSo_L80 x0 FU s18 x3 0 (fun s37 => some (1, s37)))
theorem w_X0_isSo {σ0 : Hp} {w : Int × Hp} (s0 : Hp) (x0 : Nat) (x1 : Int) (x2 : Int) (x3 : Int) (h : f_X0_isSo s0 x0 x1 x2 x3 = some w) : AW m_X0_isSo σ0 (oI w) 0 [some (rV (some x0)), some (iV x1), some (iV x2), some (iV x3), none, none] [] s0 := by
  unfold f_X0_isSo at h
  refine AW.iconst dX0_isSo_0 ?_
  refine AW.istore (L' := [some (rV (some x0)), some (iV x1), some (iV x2), some (iV x3), some (iV 0), none]) dX0_isSo_1 (Nat.le_of_ble_eq_true rfl) rfl rfl ?_
  refine AW.iconst dX0_isSo_3 ?_
  refine AW.istore (L' := [some (rV (some x0)), some (iV x1), some (iV x2), some (iV x3), some (iV 0), some (iV 0)]) dX0_isSo_4 (Nat.le_of_ble_eq_true rfl) rfl rfl ?_
  refine w_X0_isSo_L6 _ _ _ _ _ _ _ _ h (fun s4 x1 x2 x3 x4 h => ?_)
  refine AW.aload_n dX0_isSo_32 rfl ?_
  refine AW.getR (t := 0) (k := 8) dX0_isSo_33 ck0 (Nat.le_of_ble_eq_true rfl) (fun _ => rfl) q554 (Or.inl rfl) h (fun v5 h => ?_)
  refine AW.aload_n dX0_isSo_36 rfl ?_
  refine AW.getR (t := 0) (k := 3) dX0_isSo_37 ck0 (Nat.le_of_ble_eq_true rfl) (fun _ => rfl) q549 (Or.inl rfl) h (fun v6 h => ?_)
  refine AW.VU (M' := m_X5_begins) (t := 5) [rV v6] [] dX0_isSo_40 q480 q481 q482 q132 q483 ck5 rfl n_X5_begins rfl rfl rfl (fun _ _ _ e => c_X5_begins e) h (fun _ s7 h => ?_)
  refine AW.aload_n dX0_isSo_43 rfl ?_
  refine AW.getR (t := 0) (k := 8) dX0_isSo_44 ck0 (Nat.le_of_ble_eq_true rfl) (fun _ => rfl) q554 (Or.inl rfl) h (fun v9 h => ?_)
  refine AW.getR (t := 5) (k := 0) dX0_isSo_47 ck5 (Nat.le_of_ble_eq_true rfl) (fun _ => rfl) q422 (Or.inl rfl) h (fun v10 h => ?_)
  refine AW.iload_n dX0_isSo_50 rfl ?_
  refine AW.aald (t := 105) dX0_isSo_51 (Nat.le_of_ble_eq_true rfl) rfl (fun _ _ => rfl) h (fun v11 h => ?_)
  refine AW.iconst dX0_isSo_52 ?_
  refine AW.iload_n dX0_isSo_53 rfl ?_
  refine AW.i2b dX0_isSo_54 ?_
  refine AW.bast (t := 101) dX0_isSo_55 (Nat.le_of_ble_eq_true rfl) mu101 rfl h (fun s12 h => ?_)
  refine AW.aload_n dX0_isSo_56 rfl ?_
  refine AW.getR (t := 0) (k := 8) dX0_isSo_57 ck0 (Nat.le_of_ble_eq_true rfl) (fun _ => rfl) q554 (Or.inl rfl) h (fun v13 h => ?_)
  refine AW.aload_n dX0_isSo_60 rfl ?_
  refine AW.getR (t := 0) (k := 3) dX0_isSo_61 ck0 (Nat.le_of_ble_eq_true rfl) (fun _ => rfl) q549 (Or.inl rfl) h (fun v14 h => ?_)
  refine AW.VU (M' := m_X5_looks) (t := 5) [rV v14] [] dX0_isSo_64 q1256 q505 q506 q132 q507 ck5 rfl n_X5_looks rfl rfl rfl (fun _ _ _ e => c_X5_looks e) h (fun _ s15 h => ?_)
  refine AW.aload_n dX0_isSo_67 rfl ?_
  refine AW.aload_n dX0_isSo_68 rfl ?_
  refine AW.getR (t := 0) (k := 8) dX0_isSo_69 ck0 (Nat.le_of_ble_eq_true rfl) (fun _ => rfl) q554 (Or.inl rfl) h (fun v17 h => ?_)
  refine AW.iload dX0_isSo_72 rfl ?_
  refine AW.VU (M' := m_X0_runs) (t := 0) [rV v17, iV x4] [] dX0_isSo_74 q1227 q1229 qs37 q121 q1230 ck0 rfl n_X0_runs rfl rfl rfl (fun _ _ _ e => c_X0_runs e) h (fun _ s18 h => ?_)
  refine AW.iconst dX0_isSo_77 ?_
  refine AW.istore (L' := [some (rV (some x0)), some (iV x1), some (iV x2), some (iV x3), some (iV x4), some (iV 0)]) dX0_isSo_78 (Nat.le_of_ble_eq_true rfl) rfl rfl ?_
  refine AW.fewer (L' := [some (rV (some x0)), none, none, some (iV x3), none, some (iV 0)]) (And.intro rfl (And.intro rfl (And.intro rfl trivial))) ?_
  refine w_X0_isSo_L80 _ _ _ _ _ h (fun s37 h => ?_)
  refine AW.iconst dX0_isSo_148 ?_
  cases h
  exact AW.zret (z := 1) dX0_isSo_149 rfl zz1
theorem c_X0_isSo {s0 : Hp} {x0 : Nat} {x1 : Int} {x2 : Int} {x3 : Int} {v : Int} {s1 : Hp} (h : f_X0_isSo s0 x0 x1 x2 x3 = some (v, s1)) : Ct m_X0_isSo [rV (some x0), iV x1, iV x2, iV x3] s0 (.inl (some (iV v)), s1) :=
  Ct.of2 (w_X0_isSo s0 x0 x1 x2 x3 h) (show plainName yX0_isSo.cls = true by decide) rfl rfl rfl
abbrev m_X0_rooms : Mi := (yX0_rooms, cX0_rooms, (some .int), 1, 1, 20, [])
theorem n_X0_rooms : nameOk yX0_rooms 0 := ⟨by decide, by decide, by decide +kernel⟩
def f_X0_rooms (s0 : Hp) (x0 : Nat) : Option (Int × Hp) :=
  (gR s0 0 (some x0) 3).bind fun v1 => (gR s0 4 v1 0).bind fun v2 => (rcv s0 18 v2).bind fun b5 => bn (f_J5_size s0 b5) fun v3 s4 => some (v3, s4)
theorem w_X0_rooms {σ0 : Hp} {w : Int × Hp} (s0 : Hp) (x0 : Nat) (h : f_X0_rooms s0 x0 = some w) : AW m_X0_rooms σ0 (oI w) 0 [some (rV (some x0))] [] s0 := by
  unfold f_X0_rooms at h
  refine AW.aload_n dX0_rooms_0 rfl ?_
  refine AW.getR (t := 0) (k := 3) dX0_rooms_1 ck0 (Nat.le_of_ble_eq_true rfl) (fun _ => rfl) q549 (Or.inl rfl) h (fun v1 h => ?_)
  refine AW.getR (t := 4) (k := 0) dX0_rooms_4 ck4 (Nat.le_of_ble_eq_true rfl) (fun _ => rfl) q357 (Or.inl rfl) h (fun v2 h => ?_)
  refine AW.VI (M' := m_J5_size) (t := 18) [] [] dX0_rooms_7 q1179 q485 q486 q131 q487 ck18 rfl n_J5_size rfl rfl rfl (fun _ _ _ e => c_J5_size e) h (fun v3 s4 h => ?_)
  cases h
  exact AW.iret dX0_rooms_10 rfl
theorem c_X0_rooms {s0 : Hp} {x0 : Nat} {v : Int} {s1 : Hp} (h : f_X0_rooms s0 x0 = some (v, s1)) : Ct m_X0_rooms [rV (some x0)] s0 (.inl (some (iV v)), s1) :=
  Ct.of2 (w_X0_rooms s0 x0 h) (show plainName yX0_rooms.cls = true by decide) rfl rfl rfl
abbrev m_X0_began : Mi := (yX0_began, cX0_began, (some .int), 6, 419, 24863, [])
theorem n_X0_began : nameOk yX0_began 3 := ⟨by decide, by decide, by decide +kernel⟩
def f_X0_began_L33 (x0 : Nat) : Nat → Hp → Int → Int → Int → Int → Int → (Hp → Int → Int → Option (Int × Hp)) → Option (Int × Hp)
  | 0, _, _, _, _, _, _, _ => none
  | n + 1, s0, x1, x2, x3, x4, x5, k => (rcv s0 0 (some x0)).bind fun b9 => bn (f_X0_rooms s0 b9) fun v7 s8 => (if nrm v7 ≤ nrm x5 then (k s8 x3 x4) else ((rcv s8 0 (some x0)).bind fun b12 => bn (f_X0_isSo s8 b12 x1 x5 x2) fun v10 s11 => (if ¬ nrm v10 = 0 then ((if ¬ nrm x4 = nrm x3 then (f_X0_began_L33 x0 n s11 x1 x2 x3 (x4 + 1) (x5 + 1) k) else (some (nrm x5, s11)))) else (f_X0_began_L33 x0 n s11 x1 x2 x3 x4 (x5 + 1) k))))
theorem w_X0_began_L33 {σ0 : Hp} {w : Int × Hp} {x0 : Nat} : ∀ (n : Nat) (s0 : Hp) (x1 : Int) (x2 : Int) (x3 : Int) (x4 : Int) (x5 : Int) (k : (Hp → Int → Int → Option (Int × Hp))), f_X0_began_L33 x0 n s0 x1 x2 x3 x4 x5 k = some w → (∀ (s1 : Hp) (x3 : Int) (x4 : Int), k s1 x3 x4 = some w → AW m_X0_began σ0 (oI w) 74 [none, none, none, some (iV x3), some (iV x4), none] [] s1) → AW m_X0_began σ0 (oI w) 33 [some (rV (some x0)), some (iV x1), some (iV x2), some (iV x3), some (iV x4), some (iV x5)] [] s0 := by
  intro n
  induction n with
  | zero =>
    intro s0 x1 x2 x3 x4 x5 k h hk
    rw [f_X0_began_L33] at h
    cases h
  | succ n ih =>
    intro s0 x1 x2 x3 x4 x5 k h hk
    rw [f_X0_began_L33] at h
    refine AW.iload dX0_began_33 rfl ?_
    refine AW.aload_n dX0_began_35 rfl ?_
    refine AW.VI (M' := m_X0_rooms) (t := 0) [] [iV x5] dX0_began_36 q1269 q1271 qs40 q121 q1272 ck0 rfl n_X0_rooms rfl rfl rfl (fun _ _ _ e => c_X0_rooms e) h (fun v7 s8 h => ?_)
    refine AW.icmp_ge 74 dX0_began_39 (by decide) h (fun c15 h => ?_) (fun c15 h => ?_)
    · exact AW.fewer (L' := [none, none, none, some (iV x3), some (iV x4), none]) (And.intro rfl (And.intro rfl trivial)) (hk _ _ _ h)
    · refine AW.aload_n dX0_began_42 rfl ?_
      refine AW.iload_n dX0_began_43 rfl ?_
      refine AW.iload dX0_began_44 rfl ?_
      refine AW.iload_n dX0_began_46 rfl ?_
      refine AW.VI (M' := m_X0_isSo) (t := 0) [iV x1, iV x5, iV x2] [] dX0_began_47 q1465 q1467 qs52 q121 q1468 ck0 rfl n_X0_isSo rfl rfl rfl (fun _ _ _ e => c_X0_isSo e) h (fun v10 s11 h => ?_)
      refine AW.if_ne 56 dX0_began_50 (by decide) h (fun c14 h => ?_) (fun c14 h => ?_)
      · refine AW.iload dX0_began_56 rfl ?_
        refine AW.iload_n dX0_began_58 rfl ?_
        refine AW.icmp_ne 65 dX0_began_59 (by decide) h (fun c13 h => ?_) (fun c13 h => ?_)
        · refine AW.iinc (L' := [some (rV (some x0)), some (iV x1), some (iV x2), some (iV x3), some (iV (x4 + 1)), some (iV x5)]) dX0_began_65 rfl (Nat.le_of_ble_eq_true rfl) rfl rfl ?_
          refine AW.iinc (L' := [some (rV (some x0)), some (iV x1), some (iV x2), some (iV x3), some (iV (x4 + 1)), some (iV (x5 + 1))]) dX0_began_68 rfl (Nat.le_of_ble_eq_true rfl) rfl rfl ?_
          refine AW.goto (tgt := 33) dX0_began_71 (by decide) ?_
          exact ih _ _ _ _ _ _ _ h hk
        · refine AW.iload dX0_began_62 rfl ?_
          refine AW.nv ?_
          cases h
          exact AW.iret dX0_began_64 rfl
      · refine AW.goto (tgt := 68) dX0_began_53 (by decide) ?_
        refine AW.iinc (L' := [some (rV (some x0)), some (iV x1), some (iV x2), some (iV x3), some (iV x4), some (iV (x5 + 1))]) dX0_began_68 rfl (Nat.le_of_ble_eq_true rfl) rfl rfl ?_
        refine AW.goto (tgt := 33) dX0_began_71 (by decide) ?_
        exact ih _ _ _ _ _ _ _ h hk
def f_X0_began (s0 : Hp) (x0 : Nat) (x1 : Int) (x2 : Int) (x3 : Int) : Option (Int × Hp) :=
  (rcv s0 0 (some x0)).bind fun b3 => bn (f_X0_isMan s0 b3 x1) fun v1 s2 => (if nrm v1 = 0 then (some ((-1), s2)) else ((gI s2 0 (some x0) 18).bind fun v4 => bn (f_X0_isIn s2 x2 0 v4) fun v5 s6 => (if nrm v5 = 0 then (some ((-1), s6)) else ((if nrm (-1) ≤ nrm x3 then (f_X0_began_L33 x0 FU s6 x1 x2 x3 0 0 (fun s16 x3 x4 => (if ¬ nrm x3 = nrm (-1) then (some ((-1), s16)) else (some (nrm x4, s16))))) else (some ((-1), s6)))))))
theorem w_X0_began {σ0 : Hp} {w : Int × Hp} (s0 : Hp) (x0 : Nat) (x1 : Int) (x2 : Int) (x3 : Int) (h : f_X0_began s0 x0 x1 x2 x3 = some w) : AW m_X0_began σ0 (oI w) 0 [some (rV (some x0)), some (iV x1), some (iV x2), some (iV x3), none, none] [] s0 := by
  unfold f_X0_began at h
  refine AW.aload_n dX0_began_0 rfl ?_
  refine AW.iload_n dX0_began_1 rfl ?_
  refine AW.VI (M' := m_X0_isMan) (t := 0) [iV x1] [] dX0_began_2 q1171 q1173 qs31 q121 q1174 ck0 rfl n_X0_isMan rfl rfl rfl (fun _ _ _ e => c_X0_isMan e) h (fun v1 s2 h => ?_)
  refine AW.if_eq 25 dX0_began_5 (by decide) h (fun c20 h => ?_) (fun c20 h => ?_)
  · refine AW.iconst dX0_began_25 ?_
    cases h
    exact AW.iret dX0_began_26 rfl
  · refine AW.iload_n dX0_began_8 rfl ?_
    refine AW.iconst dX0_began_9 ?_
    refine AW.aload_n dX0_began_10 rfl ?_
    refine AW.getI (t := 0) (k := 18) dX0_began_11 ck0 (Nat.le_of_ble_eq_true rfl) (fun _ => rfl) q564 (Or.inl rfl) h (fun v4 h => ?_)
    refine AW.SI (M' := m_X0_isIn) [iV x2, iV 0, iV v4] [] dX0_began_14 q1180 q1181 q121 q1182 n_X0_isIn rfl rfl rfl (fun _ _ e => c_X0_isIn e) h (fun v5 s6 h => ?_)
    refine AW.if_eq 25 dX0_began_17 (by decide) h (fun c19 h => ?_) (fun c19 h => ?_)
    · refine AW.iconst dX0_began_25 ?_
      cases h
      exact AW.iret dX0_began_26 rfl
    · refine AW.iload_n dX0_began_20 rfl ?_
      refine AW.iconst dX0_began_21 ?_
      refine AW.icmp_ge 27 dX0_began_22 (by decide) h (fun c18 h => ?_) (fun c18 h => ?_)
      · refine AW.iconst dX0_began_27 ?_
        refine AW.istore (L' := [some (rV (some x0)), some (iV x1), some (iV x2), some (iV x3), some (iV 0), none]) dX0_began_28 (Nat.le_of_ble_eq_true rfl) rfl rfl ?_
        refine AW.iconst dX0_began_30 ?_
        refine AW.istore (L' := [some (rV (some x0)), some (iV x1), some (iV x2), some (iV x3), some (iV 0), some (iV 0)]) dX0_began_31 (Nat.le_of_ble_eq_true rfl) rfl rfl ?_
        refine w_X0_began_L33 _ _ _ _ _ _ _ _ h (fun s16 x3 x4 h => ?_)
        refine AW.iload_n dX0_began_74 rfl ?_
        refine AW.iconst dX0_began_75 ?_
        refine AW.icmp_ne 84 dX0_began_76 (by decide) h (fun c17 h => ?_) (fun c17 h => ?_)
        · refine AW.iconst dX0_began_84 ?_
          cases h
          exact AW.iret dX0_began_85 rfl
        · refine AW.iload dX0_began_79 rfl ?_
          refine AW.goto (tgt := 85) dX0_began_81 (by decide) ?_
          refine AW.nv ?_
          cases h
          exact AW.iret dX0_began_85 rfl
      · refine AW.iconst dX0_began_25 ?_
        cases h
        exact AW.iret dX0_began_26 rfl
theorem c_X0_began {s0 : Hp} {x0 : Nat} {x1 : Int} {x2 : Int} {x3 : Int} {v : Int} {s1 : Hp} (h : f_X0_began s0 x0 x1 x2 x3 = some (v, s1)) : Ct m_X0_began [rV (some x0), iV x1, iV x2, iV x3] s0 (.inl (some (iV v)), s1) :=
  Ct.of2 (w_X0_began s0 x0 x1 x2 x3 h) (show plainName yX0_began.cls = true by decide) rfl rfl rfl
abbrev m_X0_mirrors : Mi := (yX0_mirrors, cX0_mirrors, (some .int), 1, 1, 20, [])
theorem n_X0_mirrors : nameOk yX0_mirrors 0 := ⟨by decide, by decide, by decide +kernel⟩
def f_X0_mirrors (s0 : Hp) (x0 : Nat) : Option (Int × Hp) :=
  (gR s0 0 (some x0) 3).bind fun v1 => (gR s0 4 v1 2).bind fun v2 => (rcv s0 18 v2).bind fun b5 => bn (f_J5_size s0 b5) fun v3 s4 => some (v3, s4)
theorem w_X0_mirrors {σ0 : Hp} {w : Int × Hp} (s0 : Hp) (x0 : Nat) (h : f_X0_mirrors s0 x0 = some w) : AW m_X0_mirrors σ0 (oI w) 0 [some (rV (some x0))] [] s0 := by
  unfold f_X0_mirrors at h
  refine AW.aload_n dX0_mirrors_0 rfl ?_
  refine AW.getR (t := 0) (k := 3) dX0_mirrors_1 ck0 (Nat.le_of_ble_eq_true rfl) (fun _ => rfl) q549 (Or.inl rfl) h (fun v1 h => ?_)
  refine AW.getR (t := 4) (k := 2) dX0_mirrors_4 ck4 (Nat.le_of_ble_eq_true rfl) (fun _ => rfl) q365 (Or.inl rfl) h (fun v2 h => ?_)
  refine AW.VI (M' := m_J5_size) (t := 18) [] [] dX0_mirrors_7 q1179 q485 q486 q131 q487 ck18 rfl n_J5_size rfl rfl rfl (fun _ _ _ e => c_J5_size e) h (fun v3 s4 h => ?_)
  cases h
  exact AW.iret dX0_mirrors_10 rfl
theorem c_X0_mirrors {s0 : Hp} {x0 : Nat} {v : Int} {s1 : Hp} (h : f_X0_mirrors s0 x0 = some (v, s1)) : Ct m_X0_mirrors [rV (some x0)] s0 (.inl (some (iV v)), s1) :=
  Ct.of2 (w_X0_mirrors s0 x0 h) (show plainName yX0_mirrors.cls = true by decide) rfl rfl rfl
abbrev m_X0_isMirror : Mi := (yX0_isMirror, cX0_isMirror, (some .boolean), 2, 2, 40, [])
theorem n_X0_isMirror : nameOk yX0_isMirror 1 := ⟨by decide, by decide, by decide +kernel⟩
def f_X0_isMirror (s0 : Hp) (x0 : Nat) (x1 : Int) : Option (Int × Hp) :=
  (rcv s0 0 (some x0)).bind fun b3 => bn (f_X0_mirrors s0 b3) fun v1 s2 => bn (f_X0_isIn s2 x1 0 (v1 - 1)) fun v4 s5 => if nrm v4 = 0 ∨ nrm v4 = 1 then some (v4, s5) else none
theorem w_X0_isMirror {σ0 : Hp} {w : Int × Hp} (s0 : Hp) (x0 : Nat) (x1 : Int) (h : f_X0_isMirror s0 x0 x1 = some w) : AW m_X0_isMirror σ0 (oI w) 0 [some (rV (some x0)), some (iV x1)] [] s0 := by
  unfold f_X0_isMirror at h
  refine AW.iload_n dX0_isMirror_0 rfl ?_
  refine AW.iconst dX0_isMirror_1 ?_
  refine AW.aload_n dX0_isMirror_2 rfl ?_
  refine AW.VI (M' := m_X0_mirrors) (t := 0) [] [iV 0, iV x1] dX0_isMirror_3 q1195 q1197 qs35 q121 q1198 ck0 rfl n_X0_mirrors rfl rfl rfl (fun _ _ _ e => c_X0_mirrors e) h (fun v1 s2 h => ?_)
  refine AW.iconst dX0_isMirror_6 ?_
  refine AW.isub dX0_isMirror_7 ?_
  refine AW.SI (M' := m_X0_isIn) [iV x1, iV 0, iV (v1 - 1)] [] dX0_isMirror_8 q1180 q1181 q121 q1182 n_X0_isIn rfl rfl rfl (fun _ _ e => c_X0_isIn e) h (fun v4 s5 h => ?_)
  obtain ⟨hz, h⟩ := pz_elim h
  cases h
  exact AW.zret dX0_isMirror_11 rfl hz
theorem c_X0_isMirror {s0 : Hp} {x0 : Nat} {x1 : Int} {v : Int} {s1 : Hp} (h : f_X0_isMirror s0 x0 x1 = some (v, s1)) : Ct m_X0_isMirror [rV (some x0), iV x1] s0 (.inl (some (iV v)), s1) :=
  Ct.of2 (w_X0_isMirror s0 x0 x1 h) (show plainName yX0_isMirror.cls = true by decide) rfl rfl rfl
abbrev m_X0_isRoom : Mi := (yX0_isRoom, cX0_isRoom, (some .boolean), 2, 2, 40, [])
theorem n_X0_isRoom : nameOk yX0_isRoom 1 := ⟨by decide, by decide, by decide +kernel⟩
def f_X0_isRoom (s0 : Hp) (x0 : Nat) (x1 : Int) : Option (Int × Hp) :=
  (rcv s0 0 (some x0)).bind fun b3 => bn (f_X0_rooms s0 b3) fun v1 s2 => bn (f_X0_isIn s2 x1 0 (v1 - 1)) fun v4 s5 => if nrm v4 = 0 ∨ nrm v4 = 1 then some (v4, s5) else none
theorem w_X0_isRoom {σ0 : Hp} {w : Int × Hp} (s0 : Hp) (x0 : Nat) (x1 : Int) (h : f_X0_isRoom s0 x0 x1 = some w) : AW m_X0_isRoom σ0 (oI w) 0 [some (rV (some x0)), some (iV x1)] [] s0 := by
  unfold f_X0_isRoom at h
  refine AW.iload_n dX0_isRoom_0 rfl ?_
  refine AW.iconst dX0_isRoom_1 ?_
  refine AW.aload_n dX0_isRoom_2 rfl ?_
  refine AW.VI (M' := m_X0_rooms) (t := 0) [] [iV 0, iV x1] dX0_isRoom_3 q1269 q1271 qs40 q121 q1272 ck0 rfl n_X0_rooms rfl rfl rfl (fun _ _ _ e => c_X0_rooms e) h (fun v1 s2 h => ?_)
  refine AW.iconst dX0_isRoom_6 ?_
  refine AW.isub dX0_isRoom_7 ?_
  refine AW.SI (M' := m_X0_isIn) [iV x1, iV 0, iV (v1 - 1)] [] dX0_isRoom_8 q1180 q1181 q121 q1182 n_X0_isIn rfl rfl rfl (fun _ _ e => c_X0_isIn e) h (fun v4 s5 h => ?_)
  obtain ⟨hz, h⟩ := pz_elim h
  cases h
  exact AW.zret dX0_isRoom_11 rfl hz
theorem c_X0_isRoom {s0 : Hp} {x0 : Nat} {x1 : Int} {v : Int} {s1 : Hp} (h : f_X0_isRoom s0 x0 x1 = some (v, s1)) : Ct m_X0_isRoom [rV (some x0), iV x1] s0 (.inl (some (iV v)), s1) :=
  Ct.of2 (w_X0_isRoom s0 x0 x1 h) (show plainName yX0_isRoom.cls = true by decide) rfl rfl rfl
abbrev m_X5_takes : Mi := (yX5_takes, cX5_takes, none, 3, 1, 80, [])
theorem n_X5_takes : nameOk yX5_takes 1 := ⟨by decide, by decide, by decide +kernel⟩
def f_X5_takes_L18 (x0 : Nat) : Nat → Hp → Option Nat → Int → (Hp → Option Nat → Option (Unit × Hp)) → Option (Unit × Hp)
  | 0, _, _, _, _ => none
  | n + 1, s0, x1, x2, k => (if nrm 6 ≤ nrm x2 then (k s0 x1) else ((gR s0 5 x1 0).bind fun v5 => (aR s0 105 v5 x2).bind fun v6 => (gR s0 5 (some x0) 0).bind fun v7 => (aR s0 105 v7 x2).bind fun v8 => (gI s0 5 x1 9).bind fun v9 => (acI s0 101 v6 0 v8 0 (v9 + 1)).bind fun s10 => (gR s10 5 x1 1).bind fun v11 => (aR s10 105 v11 x2).bind fun v12 => (gR s10 5 (some x0) 1).bind fun v13 => (aR s10 105 v13 x2).bind fun v14 => (gI s10 5 x1 9).bind fun v15 => (acI s10 101 v12 0 v14 0 (v15 + 1)).bind fun s16 => f_X5_takes_L18 x0 n s16 x1 (x2 + 1) k))
theorem w_X5_takes_L18 {σ0 : Hp} {w : Unit × Hp} {x0 : Nat} : ∀ (n : Nat) (s0 : Hp) (x1 : Option Nat) (x2 : Int) (k : (Hp → Option Nat → Option (Unit × Hp))), f_X5_takes_L18 x0 n s0 x1 x2 k = some w → (∀ (s1 : Hp) (x1 : Option Nat), k s1 x1 = some w → AW m_X5_takes σ0 (oU w) 76 [some (rV (some x0)), some (rV x1), none] [] s1) → AW m_X5_takes σ0 (oU w) 18 [some (rV (some x0)), some (rV x1), some (iV x2)] [] s0 := by
  intro n
  induction n with
  | zero =>
    intro s0 x1 x2 k h hk
    rw [f_X5_takes_L18] at h
    cases h
  | succ n ih =>
    intro s0 x1 x2 k h hk
    rw [f_X5_takes_L18] at h
    refine AW.iload_n dX5_takes_18 rfl ?_
    refine AW.bipush dX5_takes_19 (by decide) ?_
    refine AW.icmp_ge 76 dX5_takes_21 (by decide) h (fun c17 h => ?_) (fun c17 h => ?_)
    · exact AW.fewer (L' := [some (rV (some x0)), some (rV x1), none]) (And.intro rfl (And.intro rfl trivial)) (hk _ _ h)
    · refine AW.aload_n dX5_takes_24 rfl ?_
      refine AW.getR (t := 5) (k := 0) dX5_takes_25 ck5 (Nat.le_of_ble_eq_true rfl) (fun _ => rfl) q421 (Or.inl rfl) h (fun v5 h => ?_)
      refine AW.iload_n dX5_takes_28 rfl ?_
      refine AW.aald (t := 105) dX5_takes_29 (Nat.le_of_ble_eq_true rfl) rfl (fun _ _ => rfl) h (fun v6 h => ?_)
      refine AW.iconst dX5_takes_30 ?_
      refine AW.aload_n dX5_takes_31 rfl ?_
      refine AW.getR (t := 5) (k := 0) dX5_takes_32 ck5 (Nat.le_of_ble_eq_true rfl) (fun _ => rfl) q421 (Or.inl rfl) h (fun v7 h => ?_)
      refine AW.iload_n dX5_takes_35 rfl ?_
      refine AW.aald (t := 105) dX5_takes_36 (Nat.le_of_ble_eq_true rfl) rfl (fun _ _ => rfl) h (fun v8 h => ?_)
      refine AW.iconst dX5_takes_37 ?_
      refine AW.aload_n dX5_takes_38 rfl ?_
      refine AW.getI (t := 5) (k := 9) dX5_takes_39 ck5 (Nat.le_of_ble_eq_true rfl) (fun _ => rfl) q436 (Or.inl rfl) h (fun v9 h => ?_)
      refine AW.iconst dX5_takes_42 ?_
      refine AW.iadd dX5_takes_43 ?_
      refine AW.acpy (t := 101) dX5_takes_44 q1225 (Nat.le_of_ble_eq_true rfl) mu101 rfl rfl rfl h (fun s10 h => ?_)
      refine AW.aload_n dX5_takes_47 rfl ?_
      refine AW.getR (t := 5) (k := 1) dX5_takes_48 ck5 (Nat.le_of_ble_eq_true rfl) (fun _ => rfl) q423 (Or.inl rfl) h (fun v11 h => ?_)
      refine AW.iload_n dX5_takes_51 rfl ?_
      refine AW.aald (t := 105) dX5_takes_52 (Nat.le_of_ble_eq_true rfl) rfl (fun _ _ => rfl) h (fun v12 h => ?_)
      refine AW.iconst dX5_takes_53 ?_
      refine AW.aload_n dX5_takes_54 rfl ?_
      refine AW.getR (t := 5) (k := 1) dX5_takes_55 ck5 (Nat.le_of_ble_eq_true rfl) (fun _ => rfl) q423 (Or.inl rfl) h (fun v13 h => ?_)
      refine AW.iload_n dX5_takes_58 rfl ?_
      refine AW.aald (t := 105) dX5_takes_59 (Nat.le_of_ble_eq_true rfl) rfl (fun _ _ => rfl) h (fun v14 h => ?_)
      refine AW.iconst dX5_takes_60 ?_
      refine AW.aload_n dX5_takes_61 rfl ?_
      refine AW.getI (t := 5) (k := 9) dX5_takes_62 ck5 (Nat.le_of_ble_eq_true rfl) (fun _ => rfl) q436 (Or.inl rfl) h (fun v15 h => ?_)
      refine AW.iconst dX5_takes_65 ?_
      refine AW.iadd dX5_takes_66 ?_
      refine AW.acpy (t := 101) dX5_takes_67 q1225 (Nat.le_of_ble_eq_true rfl) mu101 rfl rfl rfl h (fun s16 h => ?_)
      refine AW.iinc (L' := [some (rV (some x0)), some (rV x1), some (iV (x2 + 1))]) dX5_takes_70 rfl (Nat.le_of_ble_eq_true rfl) rfl rfl ?_
      refine AW.goto (tgt := 18) dX5_takes_73 (by decide) ?_
      exact ih _ _ _ _ h hk
def f_X5_takes_L78 (x0 : Nat) : Nat → Hp → Option Nat → Int → (Hp → Option (Unit × Hp)) → Option (Unit × Hp)
  | 0, _, _, _, _ => none
  | n + 1, s0, x1, x2, k => (if nrm 8 ≤ nrm x2 then (k s0) else ((gR s0 5 x1 2).bind fun v19 => (aR s0 105 v19 x2).bind fun v20 => (gR s0 5 (some x0) 2).bind fun v21 => (aR s0 105 v21 x2).bind fun v22 => (gI s0 5 x1 9).bind fun v23 => (acI s0 101 v20 0 v22 0 (v23 + 1)).bind fun s24 => (gR s24 5 x1 3).bind fun v25 => (aR s24 106 v25 x2).bind fun v26 => (gR s24 5 (some x0) 3).bind fun v27 => (aR s24 106 v27 x2).bind fun v28 => (gI s24 5 x1 9).bind fun v29 => (acI s24 102 v26 0 v28 0 (v29 + 1)).bind fun s30 => (gR s30 5 x1 4).bind fun v31 => (aR s30 107 v31 x2).bind fun v32 => (gR s30 5 (some x0) 4).bind fun v33 => (aR s30 107 v33 x2).bind fun v34 => (gI s30 5 x1 9).bind fun v35 => (acI s30 103 v32 0 v34 0 (v35 + 1)).bind fun s36 => (gR s36 5 (some x0) 5).bind fun v37 => (gR s36 5 x1 5).bind fun v38 => (aI s36 100 v38 x2).bind fun v39 => (sI s36 100 v37 x2 v39).bind fun s40 => (gR s40 5 (some x0) 6).bind fun v41 => (gR s40 5 x1 6).bind fun v42 => (aI s40 100 v42 x2).bind fun v43 => (sI s40 100 v41 x2 v43).bind fun s44 => f_X5_takes_L78 x0 n s44 x1 (x2 + 1) k))
theorem w_X5_takes_L78 {σ0 : Hp} {w : Unit × Hp} {x0 : Nat} : ∀ (n : Nat) (s0 : Hp) (x1 : Option Nat) (x2 : Int) (k : (Hp → Option (Unit × Hp))), f_X5_takes_L78 x0 n s0 x1 x2 k = some w → (∀ (s1 : Hp), k s1 = some w → AW m_X5_takes σ0 (oU w) 183 [none, none, none] [] s1) → AW m_X5_takes σ0 (oU w) 78 [some (rV (some x0)), some (rV x1), some (iV x2)] [] s0 := by
  intro n
  induction n with
  | zero =>
    intro s0 x1 x2 k h hk
    rw [f_X5_takes_L78] at h
    cases h
  | succ n ih =>
    intro s0 x1 x2 k h hk
    rw [f_X5_takes_L78] at h
    refine AW.iload_n dX5_takes_78 rfl ?_
    refine AW.bipush dX5_takes_79 (by decide) ?_
    refine AW.icmp_ge 183 dX5_takes_81 (by decide) h (fun c45 h => ?_) (fun c45 h => ?_)
    · exact AW.fewer (L' := [none, none, none]) (trivial) (hk _ h)
    · refine AW.aload_n dX5_takes_84 rfl ?_
      refine AW.getR (t := 5) (k := 2) dX5_takes_85 ck5 (Nat.le_of_ble_eq_true rfl) (fun _ => rfl) q425 (Or.inl rfl) h (fun v19 h => ?_)
      refine AW.iload_n dX5_takes_88 rfl ?_
      refine AW.aald (t := 105) dX5_takes_89 (Nat.le_of_ble_eq_true rfl) rfl (fun _ _ => rfl) h (fun v20 h => ?_)
      refine AW.iconst dX5_takes_90 ?_
      refine AW.aload_n dX5_takes_91 rfl ?_
      refine AW.getR (t := 5) (k := 2) dX5_takes_92 ck5 (Nat.le_of_ble_eq_true rfl) (fun _ => rfl) q425 (Or.inl rfl) h (fun v21 h => ?_)
      refine AW.iload_n dX5_takes_95 rfl ?_
      refine AW.aald (t := 105) dX5_takes_96 (Nat.le_of_ble_eq_true rfl) rfl (fun _ _ => rfl) h (fun v22 h => ?_)
      refine AW.iconst dX5_takes_97 ?_
      refine AW.aload_n dX5_takes_98 rfl ?_
      refine AW.getI (t := 5) (k := 9) dX5_takes_99 ck5 (Nat.le_of_ble_eq_true rfl) (fun _ => rfl) q436 (Or.inl rfl) h (fun v23 h => ?_)
      refine AW.iconst dX5_takes_102 ?_
      refine AW.iadd dX5_takes_103 ?_
      refine AW.acpy (t := 101) dX5_takes_104 q1225 (Nat.le_of_ble_eq_true rfl) mu101 rfl rfl rfl h (fun s24 h => ?_)
      refine AW.aload_n dX5_takes_107 rfl ?_
      refine AW.getR (t := 5) (k := 3) dX5_takes_108 ck5 (Nat.le_of_ble_eq_true rfl) (fun _ => rfl) q428 (Or.inl rfl) h (fun v25 h => ?_)
      refine AW.iload_n dX5_takes_111 rfl ?_
      refine AW.aald (t := 106) dX5_takes_112 (Nat.le_of_ble_eq_true rfl) rfl (fun _ _ => rfl) h (fun v26 h => ?_)
      refine AW.iconst dX5_takes_113 ?_
      refine AW.aload_n dX5_takes_114 rfl ?_
      refine AW.getR (t := 5) (k := 3) dX5_takes_115 ck5 (Nat.le_of_ble_eq_true rfl) (fun _ => rfl) q428 (Or.inl rfl) h (fun v27 h => ?_)
      refine AW.iload_n dX5_takes_118 rfl ?_
      refine AW.aald (t := 106) dX5_takes_119 (Nat.le_of_ble_eq_true rfl) rfl (fun _ _ => rfl) h (fun v28 h => ?_)
      refine AW.iconst dX5_takes_120 ?_
      refine AW.aload_n dX5_takes_121 rfl ?_
      refine AW.getI (t := 5) (k := 9) dX5_takes_122 ck5 (Nat.le_of_ble_eq_true rfl) (fun _ => rfl) q436 (Or.inl rfl) h (fun v29 h => ?_)
      refine AW.iconst dX5_takes_125 ?_
      refine AW.iadd dX5_takes_126 ?_
      refine AW.acpy (t := 102) dX5_takes_127 q1225 (Nat.le_of_ble_eq_true rfl) mu102 rfl rfl rfl h (fun s30 h => ?_)
      refine AW.aload_n dX5_takes_130 rfl ?_
      refine AW.getR (t := 5) (k := 4) dX5_takes_131 ck5 (Nat.le_of_ble_eq_true rfl) (fun _ => rfl) q430 (Or.inl rfl) h (fun v31 h => ?_)
      refine AW.iload_n dX5_takes_134 rfl ?_
      refine AW.aald (t := 107) dX5_takes_135 (Nat.le_of_ble_eq_true rfl) rfl (fun _ _ => rfl) h (fun v32 h => ?_)
      refine AW.iconst dX5_takes_136 ?_
      refine AW.aload_n dX5_takes_137 rfl ?_
      refine AW.getR (t := 5) (k := 4) dX5_takes_138 ck5 (Nat.le_of_ble_eq_true rfl) (fun _ => rfl) q430 (Or.inl rfl) h (fun v33 h => ?_)
      refine AW.iload_n dX5_takes_141 rfl ?_
      refine AW.aald (t := 107) dX5_takes_142 (Nat.le_of_ble_eq_true rfl) rfl (fun _ _ => rfl) h (fun v34 h => ?_)
      refine AW.iconst dX5_takes_143 ?_
      refine AW.aload_n dX5_takes_144 rfl ?_
      refine AW.getI (t := 5) (k := 9) dX5_takes_145 ck5 (Nat.le_of_ble_eq_true rfl) (fun _ => rfl) q436 (Or.inl rfl) h (fun v35 h => ?_)
      refine AW.iconst dX5_takes_148 ?_
      refine AW.iadd dX5_takes_149 ?_
      refine AW.acpy (t := 103) dX5_takes_150 q1225 (Nat.le_of_ble_eq_true rfl) mu103 rfl rfl rfl h (fun s36 h => ?_)
      refine AW.aload_n dX5_takes_153 rfl ?_
      refine AW.getR (t := 5) (k := 5) dX5_takes_154 ck5 (Nat.le_of_ble_eq_true rfl) (fun _ => rfl) q432 (Or.inl rfl) h (fun v37 h => ?_)
      refine AW.iload_n dX5_takes_157 rfl ?_
      refine AW.aload_n dX5_takes_158 rfl ?_
      refine AW.getR (t := 5) (k := 5) dX5_takes_159 ck5 (Nat.le_of_ble_eq_true rfl) (fun _ => rfl) q432 (Or.inl rfl) h (fun v38 h => ?_)
      refine AW.iload_n dX5_takes_162 rfl ?_
      refine AW.iald (t := 100) dX5_takes_163 (Nat.le_of_ble_eq_true rfl) rfl h (fun v39 h => ?_)
      refine AW.iast (t := 100) dX5_takes_164 (Nat.le_of_ble_eq_true rfl) mu100 rfl h (fun s40 h => ?_)
      refine AW.aload_n dX5_takes_165 rfl ?_
      refine AW.getR (t := 5) (k := 6) dX5_takes_166 ck5 (Nat.le_of_ble_eq_true rfl) (fun _ => rfl) q433 (Or.inl rfl) h (fun v41 h => ?_)
      refine AW.iload_n dX5_takes_169 rfl ?_
      refine AW.aload_n dX5_takes_170 rfl ?_
      refine AW.getR (t := 5) (k := 6) dX5_takes_171 ck5 (Nat.le_of_ble_eq_true rfl) (fun _ => rfl) q433 (Or.inl rfl) h (fun v42 h => ?_)
      refine AW.iload_n dX5_takes_174 rfl ?_
      refine AW.iald (t := 100) dX5_takes_175 (Nat.le_of_ble_eq_true rfl) rfl h (fun v43 h => ?_)
      refine AW.iast (t := 100) dX5_takes_176 (Nat.le_of_ble_eq_true rfl) mu100 rfl h (fun s44 h => ?_)
      refine AW.iinc (L' := [some (rV (some x0)), some (rV x1), some (iV (x2 + 1))]) dX5_takes_177 rfl (Nat.le_of_ble_eq_true rfl) rfl rfl ?_
      refine AW.goto (tgt := 78) dX5_takes_180 (by decide) ?_
      exact ih _ _ _ _ h hk
def f_X5_takes (s0 : Hp) (x0 : Nat) (x1 : Option Nat) : Option (Unit × Hp) :=
  (gI s0 5 x1 9).bind fun v1 => (pI s0 5 (some x0) 9 v1).bind fun s2 => (gI s2 5 x1 10).bind fun v3 => (pI s2 5 (some x0) 10 v3).bind fun s4 => f_X5_takes_L18 x0 FU s4 x1 0 (fun s18 x1 => f_X5_takes_L78 x0 FU s18 x1 0 (fun s46 => some ((), s46)))
theorem w_X5_takes {σ0 : Hp} {w : Unit × Hp} (s0 : Hp) (x0 : Nat) (x1 : Option Nat) (h : f_X5_takes s0 x0 x1 = some w) : AW m_X5_takes σ0 (oU w) 0 [some (rV (some x0)), some (rV x1), none] [] s0 := by
  unfold f_X5_takes at h
  refine AW.aload_n dX5_takes_0 rfl ?_
  refine AW.aload_n dX5_takes_1 rfl ?_
  refine AW.getI (t := 5) (k := 9) dX5_takes_2 ck5 (Nat.le_of_ble_eq_true rfl) (fun _ => rfl) q436 (Or.inl rfl) h (fun v1 h => ?_)
  refine AW.putI (t := 5) (k := 9) dX5_takes_5 ck5 mu5 (Nat.le_of_ble_eq_true rfl) rfl q436 (Or.inl rfl) (Or.inl rfl) h (fun s2 h => ?_)
  refine AW.aload_n dX5_takes_8 rfl ?_
  refine AW.aload_n dX5_takes_9 rfl ?_
  refine AW.getI (t := 5) (k := 10) dX5_takes_10 ck5 (Nat.le_of_ble_eq_true rfl) (fun _ => rfl) q438 (Or.inl rfl) h (fun v3 h => ?_)
  refine AW.putI (t := 5) (k := 10) dX5_takes_13 ck5 mu5 (Nat.le_of_ble_eq_true rfl) rfl q438 (Or.inl rfl) (Or.inl rfl) h (fun s4 h => ?_)
  refine AW.iconst dX5_takes_16 ?_
  refine AW.istore_n (L' := [some (rV (some x0)), some (rV x1), some (iV 0)]) dX5_takes_17 (Nat.le_of_ble_eq_true rfl) rfl rfl ?_
  refine w_X5_takes_L18 _ _ _ _ _ h (fun s18 x1 h => ?_)
  refine AW.iconst dX5_takes_76 ?_
  refine AW.istore_n (L' := [some (rV (some x0)), some (rV x1), some (iV 0)]) dX5_takes_77 (Nat.le_of_ble_eq_true rfl) rfl rfl ?_
  refine w_X5_takes_L78 _ _ _ _ _ h (fun s46 h => ?_)
  cases h
  exact AW.vret dX5_takes_183 rfl
theorem c_X5_takes {s0 : Hp} {x0 : Nat} {x1 : Option Nat} {v : Unit} {s1 : Hp} (h : f_X5_takes s0 x0 x1 = some (v, s1)) : Ct m_X5_takes [rV (some x0), rV x1] s0 (.inl none, s1) :=
  Ct.of2 (w_X5_takes s0 x0 x1 h) (show plainName yX5_takes.cls = true by decide) rfl rfl rfl
abbrev m_X0_keeps : Mi := (yX0_keeps, cX0_keeps, none, 1, 2, 102, [])
theorem n_X0_keeps : nameOk yX0_keeps 0 := ⟨by decide, by decide, by decide +kernel⟩
def f_X0_keeps (s0 : Hp) (x0 : Nat) : Option (Unit × Hp) :=
  (gR s0 0 (some x0) 9).bind fun v1 => (gI s0 0 (some x0) 6).bind fun v2 => (aR s0 110 v1 v2).bind fun v3 => (gR s0 0 (some x0) 7).bind fun v4 => (rcv s0 5 v3).bind fun b6 => bn (f_X5_takes s0 b6 v4) fun _ s5 => (gI s5 0 (some x0) 6).bind fun v7 => (pI s5 0 (some x0) 6 (rmI (v7 + 1) 20)).bind fun s8 => (gI s8 0 (some x0) 5).bind fun v9 => (pI s8 0 (some x0) 5 (nrm (mnI 20 (v9 + 1)))).bind fun s10 => some ((), s10)
theorem w_X0_keeps {σ0 : Hp} {w : Unit × Hp} (s0 : Hp) (x0 : Nat) (h : f_X0_keeps s0 x0 = some w) : AW m_X0_keeps σ0 (oU w) 0 [some (rV (some x0))] [] s0 := by
  unfold f_X0_keeps at h
  refine AW.aload_n dX0_keeps_0 rfl ?_
  refine AW.getR (t := 0) (k := 9) dX0_keeps_1 ck0 (Nat.le_of_ble_eq_true rfl) (fun _ => rfl) q555 (Or.inl rfl) h (fun v1 h => ?_)
  refine AW.aload_n dX0_keeps_4 rfl ?_
  refine AW.getI (t := 0) (k := 6) dX0_keeps_5 ck0 (Nat.le_of_ble_eq_true rfl) (fun _ => rfl) q552 (Or.inl rfl) h (fun v2 h => ?_)
  refine AW.aald (t := 110) dX0_keeps_8 (Nat.le_of_ble_eq_true rfl) rfl (fun _ _ => rfl) h (fun v3 h => ?_)
  refine AW.aload_n dX0_keeps_9 rfl ?_
  refine AW.getR (t := 0) (k := 7) dX0_keeps_10 ck0 (Nat.le_of_ble_eq_true rfl) (fun _ => rfl) q553 (Or.inl rfl) h (fun v4 h => ?_)
  refine AW.VU (M' := m_X5_takes) (t := 5) [rV v4] [] dX0_keeps_13 q1221 q1222 q1223 q132 q1224 ck5 rfl n_X5_takes rfl rfl rfl (fun _ _ _ e => c_X5_takes e) h (fun _ s5 h => ?_)
  refine AW.aload_n dX0_keeps_16 rfl ?_
  refine AW.aload_n dX0_keeps_17 rfl ?_
  refine AW.getI (t := 0) (k := 6) dX0_keeps_18 ck0 (Nat.le_of_ble_eq_true rfl) (fun _ => rfl) q552 (Or.inl rfl) h (fun v7 h => ?_)
  refine AW.iconst dX0_keeps_21 ?_
  refine AW.iadd dX0_keeps_22 ?_
  refine AW.bipush dX0_keeps_23 (by decide) ?_
  refine AW.irem dX0_keeps_25 (by decide) ?_
  refine AW.putI (t := 0) (k := 6) dX0_keeps_26 ck0 mu0 (Nat.le_of_ble_eq_true rfl) rfl q552 (Or.inl rfl) (Or.inl rfl) h (fun s8 h => ?_)
  refine AW.aload_n dX0_keeps_29 rfl ?_
  refine AW.bipush dX0_keeps_30 (by decide) ?_
  refine AW.aload_n dX0_keeps_32 rfl ?_
  refine AW.getI (t := 0) (k := 5) dX0_keeps_33 ck0 (Nat.le_of_ble_eq_true rfl) (fun _ => rfl) q551 (Or.inl rfl) h (fun v9 h => ?_)
  refine AW.iconst dX0_keeps_36 ?_
  refine AW.iadd dX0_keeps_37 ?_
  refine AW.mmin dX0_keeps_38 q1226 rfl rfl ?_
  refine AW.nv ?_
  refine AW.putI (t := 0) (k := 5) dX0_keeps_41 ck0 mu0 (Nat.le_of_ble_eq_true rfl) rfl q551 (Or.inl rfl) (Or.inl rfl) h (fun s10 h => ?_)
  cases h
  exact AW.vret dX0_keeps_44 rfl
theorem c_X0_keeps {s0 : Hp} {x0 : Nat} {v : Unit} {s1 : Hp} (h : f_X0_keeps s0 x0 = some (v, s1)) : Ct m_X0_keeps [rV (some x0)] s0 (.inl none, s1) :=
  Ct.of2 (w_X0_keeps s0 x0 h) (show plainName yX0_keeps.cls = true by decide) rfl rfl rfl
abbrev m_X0_carry : Mi := (yX0_carry, cX0_carry, (some .boolean), 3, 416, 24792, [])
theorem n_X0_carry : nameOk yX0_carry 2 := ⟨by decide, by decide, by decide +kernel⟩
def f_X0_carry (s0 : Hp) (x0 : Nat) (x1 : Int) (x2 : Int) : Option (Int × Hp) :=
  (rcv s0 0 (some x0)).bind fun b3 => bn (f_X0_isMirror s0 b3 x1) fun v1 s2 => (if nrm v1 = 0 then (some (0, s2)) else ((rcv s2 0 (some x0)).bind fun b6 => bn (f_X0_isRoom s2 b6 x2) fun v4 s5 => (if nrm v4 = 0 then (some (0, s5)) else ((gR s5 0 (some x0) 7).bind fun v7 => (gR s5 5 v7 2).bind fun v8 => (aR s5 105 v8 x1).bind fun v9 => (gR s5 0 (some x0) 7).bind fun v10 => (gI s5 5 v10 9).bind fun v11 => (aI s5 101 v9 v11).bind fun v12 => (if ¬ nrm v12 = nrm x2 then ((rcv s5 0 (some x0)).bind fun b14 => bn (f_X0_keeps s5 b14) fun _ s13 => (gR s13 0 (some x0) 7).bind fun v15 => (gR s13 5 v15 2).bind fun v16 => (aR s13 105 v16 x1).bind fun v17 => (gR s13 0 (some x0) 7).bind fun v18 => (gI s13 5 v18 9).bind fun v19 => (sI s13 101 v17 v19 (i8I (i8I x2))).bind fun s20 => (gR s20 0 (some x0) 7).bind fun v21 => (gR s20 0 (some x0) 3).bind fun v22 => (rcv s20 5 v21).bind fun b24 => bn (f_X5_looks s20 b24 v22) fun _ s23 => some (1, s23)) else (some (0, s5)))))))
theorem w_X0_carry {σ0 : Hp} {w : Int × Hp} (s0 : Hp) (x0 : Nat) (x1 : Int) (x2 : Int) (h : f_X0_carry s0 x0 x1 x2 = some w) : AW m_X0_carry σ0 (oI w) 0 [some (rV (some x0)), some (iV x1), some (iV x2)] [] s0 := by
  unfold f_X0_carry at h
  refine AW.aload_n dX0_carry_0 rfl ?_
  refine AW.iload_n dX0_carry_1 rfl ?_
  refine AW.VI (M' := m_X0_isMirror) (t := 0) [iV x1] [] dX0_carry_2 q1191 q1193 qs34 q121 q1194 ck0 rfl n_X0_isMirror rfl rfl rfl (fun _ _ _ e => c_X0_isMirror e) h (fun v1 s2 h => ?_)
  refine AW.if_eq 37 dX0_carry_5 (by decide) h (fun c27 h => ?_) (fun c27 h => ?_)
  · refine AW.iconst dX0_carry_37 ?_
    cases h
    exact AW.zret (z := 0) dX0_carry_38 rfl zz0
  · refine AW.aload_n dX0_carry_8 rfl ?_
    refine AW.iload_n dX0_carry_9 rfl ?_
    refine AW.VI (M' := m_X0_isRoom) (t := 0) [iV x2] [] dX0_carry_10 q1265 q1267 qs39 q121 q1268 ck0 rfl n_X0_isRoom rfl rfl rfl (fun _ _ _ e => c_X0_isRoom e) h (fun v4 s5 h => ?_)
    refine AW.if_eq 37 dX0_carry_13 (by decide) h (fun c26 h => ?_) (fun c26 h => ?_)
    · refine AW.iconst dX0_carry_37 ?_
      cases h
      exact AW.zret (z := 0) dX0_carry_38 rfl zz0
    · refine AW.aload_n dX0_carry_16 rfl ?_
      refine AW.getR (t := 0) (k := 7) dX0_carry_17 ck0 (Nat.le_of_ble_eq_true rfl) (fun _ => rfl) q553 (Or.inl rfl) h (fun v7 h => ?_)
      refine AW.getR (t := 5) (k := 2) dX0_carry_20 ck5 (Nat.le_of_ble_eq_true rfl) (fun _ => rfl) q427 (Or.inl rfl) h (fun v8 h => ?_)
      refine AW.iload_n dX0_carry_23 rfl ?_
      refine AW.aald (t := 105) dX0_carry_24 (Nat.le_of_ble_eq_true rfl) rfl (fun _ _ => rfl) h (fun v9 h => ?_)
      refine AW.aload_n dX0_carry_25 rfl ?_
      refine AW.getR (t := 0) (k := 7) dX0_carry_26 ck0 (Nat.le_of_ble_eq_true rfl) (fun _ => rfl) q553 (Or.inl rfl) h (fun v10 h => ?_)
      refine AW.getI (t := 5) (k := 9) dX0_carry_29 ck5 (Nat.le_of_ble_eq_true rfl) (fun _ => rfl) q437 (Or.inl rfl) h (fun v11 h => ?_)
      refine AW.bald (t := 101) dX0_carry_32 (Nat.le_of_ble_eq_true rfl) rfl h (fun v12 h => ?_)
      refine AW.iload_n dX0_carry_33 rfl ?_
      refine AW.icmp_ne 39 dX0_carry_34 (by decide) h (fun c25 h => ?_) (fun c25 h => ?_)
      · refine AW.aload_n dX0_carry_39 rfl ?_
        refine AW.VU (M' := m_X0_keeps) (t := 0) [] [] dX0_carry_40 q1217 q1219 qs36 q121 q1220 ck0 rfl n_X0_keeps rfl rfl rfl (fun _ _ _ e => c_X0_keeps e) h (fun _ s13 h => ?_)
        refine AW.aload_n dX0_carry_43 rfl ?_
        refine AW.getR (t := 0) (k := 7) dX0_carry_44 ck0 (Nat.le_of_ble_eq_true rfl) (fun _ => rfl) q553 (Or.inl rfl) h (fun v15 h => ?_)
        refine AW.getR (t := 5) (k := 2) dX0_carry_47 ck5 (Nat.le_of_ble_eq_true rfl) (fun _ => rfl) q427 (Or.inl rfl) h (fun v16 h => ?_)
        refine AW.iload_n dX0_carry_50 rfl ?_
        refine AW.aald (t := 105) dX0_carry_51 (Nat.le_of_ble_eq_true rfl) rfl (fun _ _ => rfl) h (fun v17 h => ?_)
        refine AW.aload_n dX0_carry_52 rfl ?_
        refine AW.getR (t := 0) (k := 7) dX0_carry_53 ck0 (Nat.le_of_ble_eq_true rfl) (fun _ => rfl) q553 (Or.inl rfl) h (fun v18 h => ?_)
        refine AW.getI (t := 5) (k := 9) dX0_carry_56 ck5 (Nat.le_of_ble_eq_true rfl) (fun _ => rfl) q437 (Or.inl rfl) h (fun v19 h => ?_)
        refine AW.iload_n dX0_carry_59 rfl ?_
        refine AW.i2b dX0_carry_60 ?_
        refine AW.bast (t := 101) dX0_carry_61 (Nat.le_of_ble_eq_true rfl) mu101 rfl h (fun s20 h => ?_)
        refine AW.aload_n dX0_carry_62 rfl ?_
        refine AW.getR (t := 0) (k := 7) dX0_carry_63 ck0 (Nat.le_of_ble_eq_true rfl) (fun _ => rfl) q553 (Or.inl rfl) h (fun v21 h => ?_)
        refine AW.aload_n dX0_carry_66 rfl ?_
        refine AW.getR (t := 0) (k := 3) dX0_carry_67 ck0 (Nat.le_of_ble_eq_true rfl) (fun _ => rfl) q549 (Or.inl rfl) h (fun v22 h => ?_)
        refine AW.VU (M' := m_X5_looks) (t := 5) [rV v22] [] dX0_carry_70 q1256 q505 q506 q132 q507 ck5 rfl n_X5_looks rfl rfl rfl (fun _ _ _ e => c_X5_looks e) h (fun _ s23 h => ?_)
        refine AW.iconst dX0_carry_73 ?_
        cases h
        exact AW.zret (z := 1) dX0_carry_74 rfl zz1
      · refine AW.iconst dX0_carry_37 ?_
        cases h
        exact AW.zret (z := 0) dX0_carry_38 rfl zz0
theorem c_X0_carry {s0 : Hp} {x0 : Nat} {x1 : Int} {x2 : Int} {v : Int} {s1 : Hp} (h : f_X0_carry s0 x0 x1 x2 = some (v, s1)) : Ct m_X0_carry [rV (some x0), iV x1, iV x2] s0 (.inl (some (iV v)), s1) :=
  Ct.of2 (w_X0_carry s0 x0 x1 x2 h) (show plainName yX0_carry.cls = true by decide) rfl rfl rfl
abbrev m_X0_count : Mi := (yX0_count, cX0_count, (some .int), 4, 2, 40, [])
theorem n_X0_count : nameOk yX0_count 1 := ⟨by decide, by decide, by decide +kernel⟩
def f_X0_count_L93 (x0 : Nat) : Nat → Hp → Int → Int → (Hp → Int → Option (Int × Hp)) → Option (Int × Hp)
  | 0, _, _, _, _ => none
  | n + 1, s0, x2, x3, k => (rcv s0 0 (some x0)).bind fun b16 => bn (f_X0_mirrors s0 b16) fun v14 s15 => (if nrm v14 ≤ nrm x3 then (k s15 x2) else ((gR s15 0 (some x0) 7).bind fun v17 => (gR s15 0 (some x0) 7).bind fun v18 => (gI s15 5 v18 9).bind fun v19 => (rcv s15 5 v17).bind fun b22 => bn (f_X5_isBroken s15 b22 x3 v19) fun v20 s21 => (if nrm v20 = 0 then (f_X0_count_L93 x0 n s21 (orI x2 0) (x3 + 1) k) else (f_X0_count_L93 x0 n s21 (orI x2 (slI 1 x3)) (x3 + 1) k))))
theorem w_X0_count_L93 {σ0 : Hp} {w : Int × Hp} {x0 : Nat} : ∀ (n : Nat) (s0 : Hp) (x2 : Int) (x3 : Int) (k : (Hp → Int → Option (Int × Hp))), f_X0_count_L93 x0 n s0 x2 x3 k = some w → (∀ (s1 : Hp) (x2 : Int), k s1 x2 = some w → AW m_X0_count σ0 (oI w) 135 [none, none, some (iV x2), none] [] s1) → AW m_X0_count σ0 (oI w) 93 [some (rV (some x0)), none, some (iV x2), some (iV x3)] [] s0 := by
  intro n
  induction n with
  | zero =>
    intro s0 x2 x3 k h hk
    rw [f_X0_count_L93] at h
    cases h
  | succ n ih =>
    intro s0 x2 x3 k h hk
    rw [f_X0_count_L93] at h
    refine AW.iload_n dX0_count_93 rfl ?_
    refine AW.aload_n dX0_count_94 rfl ?_
    refine AW.VI (M' := m_X0_mirrors) (t := 0) [] [iV x3] dX0_count_95 q1195 q1197 qs35 q121 q1198 ck0 rfl n_X0_mirrors rfl rfl rfl (fun _ _ _ e => c_X0_mirrors e) h (fun v14 s15 h => ?_)
    refine AW.icmp_ge 135 dX0_count_98 (by decide) h (fun c24 h => ?_) (fun c24 h => ?_)
    · exact AW.fewer (L' := [none, none, some (iV x2), none]) (And.intro rfl trivial) (hk _ _ h)
    · refine AW.iload_n dX0_count_101 rfl ?_
      refine AW.aload_n dX0_count_102 rfl ?_
      refine AW.getR (t := 0) (k := 7) dX0_count_103 ck0 (Nat.le_of_ble_eq_true rfl) (fun _ => rfl) q553 (Or.inl rfl) h (fun v17 h => ?_)
      refine AW.iload_n dX0_count_106 rfl ?_
      refine AW.aload_n dX0_count_107 rfl ?_
      refine AW.getR (t := 0) (k := 7) dX0_count_108 ck0 (Nat.le_of_ble_eq_true rfl) (fun _ => rfl) q553 (Or.inl rfl) h (fun v18 h => ?_)
      refine AW.getI (t := 5) (k := 9) dX0_count_111 ck5 (Nat.le_of_ble_eq_true rfl) (fun _ => rfl) q437 (Or.inl rfl) h (fun v19 h => ?_)
      refine AW.VI (M' := m_X5_isBroken) (t := 5) [iV x3, iV v19] [iV x2] dX0_count_114 q1207 q1204 q1205 q132 q1206 ck5 rfl n_X5_isBroken rfl rfl rfl (fun _ _ _ e => c_X5_isBroken e) h (fun v20 s21 h => ?_)
      refine AW.if_eq 126 dX0_count_117 (by decide) h (fun c23 h => ?_) (fun c23 h => ?_)
      · refine AW.iconst dX0_count_126 ?_
        refine AW.ior dX0_count_127 ?_
        refine AW.istore_n (L' := [some (rV (some x0)), none, some (iV (orI x2 0)), some (iV x3)]) dX0_count_128 (Nat.le_of_ble_eq_true rfl) rfl rfl ?_
        refine AW.iinc (L' := [some (rV (some x0)), none, some (iV (orI x2 0)), some (iV (x3 + 1))]) dX0_count_129 rfl (Nat.le_of_ble_eq_true rfl) rfl rfl ?_
        refine AW.goto (tgt := 93) dX0_count_132 (by decide) ?_
        exact ih _ _ _ _ h hk
      · refine AW.iconst dX0_count_120 ?_
        refine AW.iload_n dX0_count_121 rfl ?_
        refine AW.ishl dX0_count_122 ?_
        refine AW.goto (tgt := 127) dX0_count_123 (by decide) ?_
        refine AW.ior dX0_count_127 ?_
        refine AW.istore_n (L' := [some (rV (some x0)), none, some (iV (orI x2 (slI 1 x3))), some (iV x3)]) dX0_count_128 (Nat.le_of_ble_eq_true rfl) rfl rfl ?_
        refine AW.iinc (L' := [some (rV (some x0)), none, some (iV (orI x2 (slI 1 x3))), some (iV (x3 + 1))]) dX0_count_129 rfl (Nat.le_of_ble_eq_true rfl) rfl rfl ?_
        refine AW.goto (tgt := 93) dX0_count_132 (by decide) ?_
        exact ih _ _ _ _ h hk
def f_X0_count_L139 (x0 : Nat) : Nat → Hp → Int → Int → (Hp → Int → Option (Int × Hp)) → Option (Int × Hp)
  | 0, _, _, _, _ => none
  | n + 1, s0, x2, x3, k => (rcv s0 0 (some x0)).bind fun b28 => bn (f_X0_mirrors s0 b28) fun v26 s27 => (if nrm v26 ≤ nrm x3 then (k s27 x2) else ((gR s27 0 (some x0) 7).bind fun v29 => (gR s27 5 v29 3).bind fun v30 => (aR s27 106 v30 x3).bind fun v31 => (gR s27 0 (some x0) 7).bind fun v32 => (gI s27 5 v32 9).bind fun v33 => (aI s27 102 v31 v33).bind fun v34 => (if nrm v34 = 0 then (f_X0_count_L139 x0 n s27 (orI x2 0) (x3 + 1) k) else (f_X0_count_L139 x0 n s27 (orI x2 (slI 1 x3)) (x3 + 1) k))))
theorem w_X0_count_L139 {σ0 : Hp} {w : Int × Hp} {x0 : Nat} : ∀ (n : Nat) (s0 : Hp) (x2 : Int) (x3 : Int) (k : (Hp → Int → Option (Int × Hp))), f_X0_count_L139 x0 n s0 x2 x3 k = some w → (∀ (s1 : Hp) (x2 : Int), k s1 x2 = some w → AW m_X0_count σ0 (oI w) 183 [none, none, some (iV x2), none] [] s1) → AW m_X0_count σ0 (oI w) 139 [some (rV (some x0)), none, some (iV x2), some (iV x3)] [] s0 := by
  intro n
  induction n with
  | zero =>
    intro s0 x2 x3 k h hk
    rw [f_X0_count_L139] at h
    cases h
  | succ n ih =>
    intro s0 x2 x3 k h hk
    rw [f_X0_count_L139] at h
    refine AW.iload_n dX0_count_139 rfl ?_
    refine AW.aload_n dX0_count_140 rfl ?_
    refine AW.VI (M' := m_X0_mirrors) (t := 0) [] [iV x3] dX0_count_141 q1195 q1197 qs35 q121 q1198 ck0 rfl n_X0_mirrors rfl rfl rfl (fun _ _ _ e => c_X0_mirrors e) h (fun v26 s27 h => ?_)
    refine AW.icmp_ge 183 dX0_count_144 (by decide) h (fun c36 h => ?_) (fun c36 h => ?_)
    · exact AW.fewer (L' := [none, none, some (iV x2), none]) (And.intro rfl trivial) (hk _ _ h)
    · refine AW.iload_n dX0_count_147 rfl ?_
      refine AW.aload_n dX0_count_148 rfl ?_
      refine AW.getR (t := 0) (k := 7) dX0_count_149 ck0 (Nat.le_of_ble_eq_true rfl) (fun _ => rfl) q553 (Or.inl rfl) h (fun v29 h => ?_)
      refine AW.getR (t := 5) (k := 3) dX0_count_152 ck5 (Nat.le_of_ble_eq_true rfl) (fun _ => rfl) q429 (Or.inl rfl) h (fun v30 h => ?_)
      refine AW.iload_n dX0_count_155 rfl ?_
      refine AW.aald (t := 106) dX0_count_156 (Nat.le_of_ble_eq_true rfl) rfl (fun _ _ => rfl) h (fun v31 h => ?_)
      refine AW.aload_n dX0_count_157 rfl ?_
      refine AW.getR (t := 0) (k := 7) dX0_count_158 ck0 (Nat.le_of_ble_eq_true rfl) (fun _ => rfl) q553 (Or.inl rfl) h (fun v32 h => ?_)
      refine AW.getI (t := 5) (k := 9) dX0_count_161 ck5 (Nat.le_of_ble_eq_true rfl) (fun _ => rfl) q437 (Or.inl rfl) h (fun v33 h => ?_)
      refine AW.zald (t := 102) dX0_count_164 (Nat.le_of_ble_eq_true rfl) rfl h (fun v34 h => ?_)
      refine AW.if_eq 174 dX0_count_165 (by decide) h (fun c35 h => ?_) (fun c35 h => ?_)
      · refine AW.iconst dX0_count_174 ?_
        refine AW.ior dX0_count_175 ?_
        refine AW.istore_n (L' := [some (rV (some x0)), none, some (iV (orI x2 0)), some (iV x3)]) dX0_count_176 (Nat.le_of_ble_eq_true rfl) rfl rfl ?_
        refine AW.iinc (L' := [some (rV (some x0)), none, some (iV (orI x2 0)), some (iV (x3 + 1))]) dX0_count_177 rfl (Nat.le_of_ble_eq_true rfl) rfl rfl ?_
        refine AW.goto (tgt := 139) dX0_count_180 (by decide) ?_
        exact ih _ _ _ _ h hk
      · refine AW.iconst dX0_count_168 ?_
        refine AW.iload_n dX0_count_169 rfl ?_
        refine AW.ishl dX0_count_170 ?_
        refine AW.goto (tgt := 175) dX0_count_171 (by decide) ?_
        refine AW.ior dX0_count_175 ?_
        refine AW.istore_n (L' := [some (rV (some x0)), none, some (iV (orI x2 (slI 1 x3))), some (iV x3)]) dX0_count_176 (Nat.le_of_ble_eq_true rfl) rfl rfl ?_
        refine AW.iinc (L' := [some (rV (some x0)), none, some (iV (orI x2 (slI 1 x3))), some (iV (x3 + 1))]) dX0_count_177 rfl (Nat.le_of_ble_eq_true rfl) rfl rfl ?_
        refine AW.goto (tgt := 139) dX0_count_180 (by decide) ?_
        exact ih _ _ _ _ h hk
def f_X0_count (s0 : Hp) (x0 : Nat) (x1 : Int) : Option (Int × Hp) :=
  (if nrm x1 = 0 then ((rcv s0 0 (some x0)).bind fun b3 => bn (f_X0_rooms s0 b3) fun v1 s2 => some (v1, s2)) else (if nrm x1 = 1 then ((gR s0 0 (some x0) 3).bind fun v4 => (gI s0 4 v4 3).bind fun v5 => some (v5, s0)) else (if nrm x1 = 2 then ((rcv s0 0 (some x0)).bind fun b8 => bn (f_X0_men s0 b8) fun v6 s7 => some (v6, s7)) else (if nrm x1 = 3 then ((rcv s0 0 (some x0)).bind fun b11 => bn (f_X0_mirrors s0 b11) fun v9 s10 => some (v9, s10)) else (if nrm x1 = 4 then ((gR s0 0 (some x0) 7).bind fun v12 => (gI s0 5 v12 9).bind fun v13 => some (v13, s0)) else (if nrm x1 = 5 then (f_X0_count_L93 x0 FU s0 0 0 (fun s25 x2 => some (nrm x2, s25))) else (if nrm x1 = 6 then (f_X0_count_L139 x0 FU s0 0 0 (fun s37 x2 => some (nrm x2, s37))) else (if nrm x1 = 7 then ((gR s0 0 (some x0) 1).bind fun v38 => (gI s0 2 v38 2).bind fun v39 => some (v39, s0)) else (if nrm x1 = 8 then ((gI s0 0 (some x0) 5).bind fun v40 => some (v40, s0)) else (if nrm x1 = 9 then ((gI s0 0 (some x0) 18).bind fun v41 => some (v41, s0)) else (if nrm x1 = 10 then ((gR s0 0 (some x0) 11).bind fun v42 => (aI s0 102 v42 0).bind fun v43 => jn (fun (s44 : Hp) (y0 : Int) => (gR s44 0 (some x0) 11).bind fun v45 => (aI s44 102 v45 1).bind fun v46 => jn (fun (s47 : Hp) (y0 : Int) (y1 : Int) => (gR s47 0 (some x0) 11).bind fun v48 => (aI s47 102 v48 2).bind fun v49 => (if nrm v49 = 0 then (some (nrm ((y0 + y1) + 0), s47)) else (some (nrm ((y0 + y1) + 1), s47)))) fun j231 => (if nrm v46 = 0 then (j231 s44 y0 0) else (j231 s44 y0 1))) fun j217 => (if nrm v43 = 0 then (j217 s0 0) else (j217 s0 1))) else (some ((-1), s0)))))))))))))
theorem w_X0_count {σ0 : Hp} {w : Int × Hp} (s0 : Hp) (x0 : Nat) (x1 : Int) (h : f_X0_count s0 x0 x1 = some w) : AW m_X0_count σ0 (oI w) 0 [some (rV (some x0)), some (iV x1), none, none] [] s0 := by
  unfold f_X0_count at h
  refine AW.iconst dX0_count_0 ?_
  refine AW.istore_n (L' := [some (rV (some x0)), some (iV x1), some (iV 0), none]) dX0_count_1 (Nat.le_of_ble_eq_true rfl) rfl rfl ?_
  refine AW.iload_n dX0_count_2 rfl ?_
  rcases ite_or h with ⟨c63, h⟩ | ⟨c63, h⟩
  · refine AW.tIn 0 60 dX0_count_3 (by omega) (by decide) rfl (by decide) ?_
    refine AW.aload_n dX0_count_60 rfl ?_
    refine AW.VI (M' := m_X0_rooms) (t := 0) [] [] dX0_count_61 q1269 q1271 qs40 q121 q1272 ck0 rfl n_X0_rooms rfl rfl rfl (fun _ _ _ e => c_X0_rooms e) h (fun v1 s2 h => ?_)
    cases h
    exact AW.iret dX0_count_64 rfl
  · rcases ite_or h with ⟨c62, h⟩ | ⟨c62, h⟩
    · refine AW.tIn 1 65 dX0_count_3 (by omega) (by decide) rfl (by decide) ?_
      refine AW.aload_n dX0_count_65 rfl ?_
      refine AW.getR (t := 0) (k := 3) dX0_count_66 ck0 (Nat.le_of_ble_eq_true rfl) (fun _ => rfl) q549 (Or.inl rfl) h (fun v4 h => ?_)
      refine AW.getI (t := 4) (k := 3) dX0_count_69 ck4 (Nat.le_of_ble_eq_true rfl) (fun _ => rfl) q368 (Or.inl rfl) h (fun v5 h => ?_)
      cases h
      exact AW.iret dX0_count_72 rfl
    · rcases ite_or h with ⟨c61, h⟩ | ⟨c61, h⟩
      · refine AW.tIn 2 73 dX0_count_3 (by omega) (by decide) rfl (by decide) ?_
        refine AW.aload_n dX0_count_73 rfl ?_
        refine AW.VI (M' := m_X0_men) (t := 0) [] [] dX0_count_74 q1175 q1177 qs32 q121 q1178 ck0 rfl n_X0_men rfl rfl rfl (fun _ _ _ e => c_X0_men e) h (fun v6 s7 h => ?_)
        cases h
        exact AW.iret dX0_count_77 rfl
      · rcases ite_or h with ⟨c60, h⟩ | ⟨c60, h⟩
        · refine AW.tIn 3 78 dX0_count_3 (by omega) (by decide) rfl (by decide) ?_
          refine AW.aload_n dX0_count_78 rfl ?_
          refine AW.VI (M' := m_X0_mirrors) (t := 0) [] [] dX0_count_79 q1195 q1197 qs35 q121 q1198 ck0 rfl n_X0_mirrors rfl rfl rfl (fun _ _ _ e => c_X0_mirrors e) h (fun v9 s10 h => ?_)
          cases h
          exact AW.iret dX0_count_82 rfl
        · rcases ite_or h with ⟨c59, h⟩ | ⟨c59, h⟩
          · refine AW.tIn 4 83 dX0_count_3 (by omega) (by decide) rfl (by decide) ?_
            refine AW.aload_n dX0_count_83 rfl ?_
            refine AW.getR (t := 0) (k := 7) dX0_count_84 ck0 (Nat.le_of_ble_eq_true rfl) (fun _ => rfl) q553 (Or.inl rfl) h (fun v12 h => ?_)
            refine AW.getI (t := 5) (k := 9) dX0_count_87 ck5 (Nat.le_of_ble_eq_true rfl) (fun _ => rfl) q437 (Or.inl rfl) h (fun v13 h => ?_)
            cases h
            exact AW.iret dX0_count_90 rfl
          · rcases ite_or h with ⟨c58, h⟩ | ⟨c58, h⟩
            · refine AW.tIn 5 91 dX0_count_3 (by omega) (by decide) rfl (by decide) ?_
              refine AW.iconst dX0_count_91 ?_
              refine AW.istore_n (L' := [some (rV (some x0)), some (iV x1), some (iV 0), some (iV 0)]) dX0_count_92 (Nat.le_of_ble_eq_true rfl) rfl rfl ?_
              refine AW.fewer (L' := [some (rV (some x0)), none, some (iV 0), some (iV 0)]) (And.intro rfl (And.intro rfl (And.intro rfl trivial))) ?_
              refine w_X0_count_L93 _ _ _ _ _ h (fun s25 x2 h => ?_)
              refine AW.iload_n dX0_count_135 rfl ?_
              refine AW.nv ?_
              cases h
              exact AW.iret dX0_count_136 rfl
            · rcases ite_or h with ⟨c57, h⟩ | ⟨c57, h⟩
              · refine AW.tIn 6 137 dX0_count_3 (by omega) (by decide) rfl (by decide) ?_
                refine AW.iconst dX0_count_137 ?_
                refine AW.istore_n (L' := [some (rV (some x0)), some (iV x1), some (iV 0), some (iV 0)]) dX0_count_138 (Nat.le_of_ble_eq_true rfl) rfl rfl ?_
                refine AW.fewer (L' := [some (rV (some x0)), none, some (iV 0), some (iV 0)]) (And.intro rfl (And.intro rfl (And.intro rfl trivial))) ?_
                refine w_X0_count_L139 _ _ _ _ _ h (fun s37 x2 h => ?_)
                refine AW.iload_n dX0_count_183 rfl ?_
                refine AW.nv ?_
                cases h
                exact AW.iret dX0_count_184 rfl
              · rcases ite_or h with ⟨c56, h⟩ | ⟨c56, h⟩
                · refine AW.tIn 7 185 dX0_count_3 (by omega) (by decide) rfl (by decide) ?_
                  refine AW.aload_n dX0_count_185 rfl ?_
                  refine AW.getR (t := 0) (k := 1) dX0_count_186 ck0 (Nat.le_of_ble_eq_true rfl) (fun _ => rfl) q547 (Or.inl rfl) h (fun v38 h => ?_)
                  refine AW.getI (t := 2) (k := 2) dX0_count_189 ck2 (Nat.le_of_ble_eq_true rfl) (fun _ => rfl) q268 (Or.inl rfl) h (fun v39 h => ?_)
                  cases h
                  exact AW.iret dX0_count_192 rfl
                · rcases ite_or h with ⟨c55, h⟩ | ⟨c55, h⟩
                  · refine AW.tIn 8 193 dX0_count_3 (by omega) (by decide) rfl (by decide) ?_
                    refine AW.aload_n dX0_count_193 rfl ?_
                    refine AW.getI (t := 0) (k := 5) dX0_count_194 ck0 (Nat.le_of_ble_eq_true rfl) (fun _ => rfl) q551 (Or.inl rfl) h (fun v40 h => ?_)
                    cases h
                    exact AW.iret dX0_count_197 rfl
                  · rcases ite_or h with ⟨c54, h⟩ | ⟨c54, h⟩
                    · refine AW.tIn 9 198 dX0_count_3 (by omega) (by decide) rfl (by decide) ?_
                      refine AW.aload_n dX0_count_198 rfl ?_
                      refine AW.getI (t := 0) (k := 18) dX0_count_199 ck0 (Nat.le_of_ble_eq_true rfl) (fun _ => rfl) q564 (Or.inl rfl) h (fun v41 h => ?_)
                      cases h
                      exact AW.iret dX0_count_202 rfl
                    · rcases ite_or h with ⟨c53, h⟩ | ⟨c53, h⟩
                      · refine AW.tIn 10 203 dX0_count_3 (by omega) (by decide) rfl (by decide) ?_
                        refine AW.aload_n dX0_count_203 rfl ?_
                        refine AW.getR (t := 0) (k := 11) dX0_count_204 ck0 (Nat.le_of_ble_eq_true rfl) (fun _ => rfl) q557 (Or.inl rfl) h (fun v42 h => ?_)
                        refine AW.iconst dX0_count_207 ?_
                        refine AW.zald (t := 102) dX0_count_208 (Nat.le_of_ble_eq_true rfl) rfl h (fun v43 h => ?_)
                        refine jn_elim h (fun (j : (Hp → Int → Option (Int × Hp))) => ∀ (s44 : Hp) (y0 : Int), j s44 y0 = some w → AW m_X0_count σ0 (oI w) 217 [some (rV (some x0)), none, none, none] [iV y0] s44) ?_ (fun j217 hj217 h => ?_)
                        · intro s44 y0 h
                          refine AW.aload_n dX0_count_217 rfl ?_
                          refine AW.getR (t := 0) (k := 11) dX0_count_218 ck0 (Nat.le_of_ble_eq_true rfl) (fun _ => rfl) q557 (Or.inl rfl) h (fun v45 h => ?_)
                          refine AW.iconst dX0_count_221 ?_
                          refine AW.zald (t := 102) dX0_count_222 (Nat.le_of_ble_eq_true rfl) rfl h (fun v46 h => ?_)
                          refine jn_elim h (fun (j : (Hp → Int → Int → Option (Int × Hp))) => ∀ (s47 : Hp) (y0 : Int) (y1 : Int), j s47 y0 y1 = some w → AW m_X0_count σ0 (oI w) 231 [some (rV (some x0)), none, none, none] [iV y1, iV y0] s47) ?_ (fun j231 hj231 h => ?_)
                          · intro s47 y0 y1 h
                            refine AW.iadd dX0_count_231 ?_
                            refine AW.aload_n dX0_count_232 rfl ?_
                            refine AW.getR (t := 0) (k := 11) dX0_count_233 ck0 (Nat.le_of_ble_eq_true rfl) (fun _ => rfl) q557 (Or.inl rfl) h (fun v48 h => ?_)
                            refine AW.iconst dX0_count_236 ?_
                            refine AW.zald (t := 102) dX0_count_237 (Nat.le_of_ble_eq_true rfl) rfl h (fun v49 h => ?_)
                            refine AW.if_eq 245 dX0_count_238 (by decide) h (fun c50 h => ?_) (fun c50 h => ?_)
                            · refine AW.iconst dX0_count_245 ?_
                              refine AW.iadd dX0_count_246 ?_
                              refine AW.nv ?_
                              cases h
                              exact AW.iret dX0_count_247 rfl
                            · refine AW.iconst dX0_count_241 ?_
                              refine AW.goto (tgt := 246) dX0_count_242 (by decide) ?_
                              refine AW.iadd dX0_count_246 ?_
                              refine AW.nv ?_
                              cases h
                              exact AW.iret dX0_count_247 rfl
                          · refine AW.if_eq 230 dX0_count_223 (by decide) h (fun c51 h => ?_) (fun c51 h => ?_)
                            · refine AW.iconst dX0_count_230 ?_
                              exact hj231 _ _ _ h
                            · refine AW.iconst dX0_count_226 ?_
                              refine AW.goto (tgt := 231) dX0_count_227 (by decide) ?_
                              exact hj231 _ _ _ h
                        · refine AW.if_eq 216 dX0_count_209 (by decide) h (fun c52 h => ?_) (fun c52 h => ?_)
                          · refine AW.iconst dX0_count_216 ?_
                            exact AW.fewer (L' := [some (rV (some x0)), none, none, none]) (And.intro rfl trivial) (hj217 _ _ h)
                          · refine AW.iconst dX0_count_212 ?_
                            refine AW.goto (tgt := 217) dX0_count_213 (by decide) ?_
                            exact AW.fewer (L' := [some (rV (some x0)), none, none, none]) (And.intro rfl trivial) (hj217 _ _ h)
                      · refine AW.tOut 248 dX0_count_3 (by omega) (by decide) ?_
                        refine AW.iconst dX0_count_248 ?_
                        cases h
                        exact AW.iret dX0_count_249 rfl
theorem c_X0_count {s0 : Hp} {x0 : Nat} {x1 : Int} {v : Int} {s1 : Hp} (h : f_X0_count s0 x0 x1 = some (v, s1)) : Ct m_X0_count [rV (some x0), iV x1] s0 (.inl (some (iV v)), s1) :=
  Ct.of2 (w_X0_count s0 x0 x1 h) (show plainName yX0_count.cls = true by decide) rfl rfl rfl
abbrev m_X0_isPast : Mi := (yX0_isPast, cX0_isPast, (some .boolean), 2, 1, 22, [])
theorem n_X0_isPast : nameOk yX0_isPast 1 := ⟨by decide, by decide, by decide +kernel⟩
def f_X0_isPast (s0 : Hp) (x0 : Nat) (x1 : Int) : Option (Int × Hp) :=
  (gR s0 0 (some x0) 7).bind fun v1 => (gI s0 5 v1 9).bind fun v2 => bn (f_X0_isIn s0 x1 0 v2) fun v3 s4 => if nrm v3 = 0 ∨ nrm v3 = 1 then some (v3, s4) else none
theorem w_X0_isPast {σ0 : Hp} {w : Int × Hp} (s0 : Hp) (x0 : Nat) (x1 : Int) (h : f_X0_isPast s0 x0 x1 = some w) : AW m_X0_isPast σ0 (oI w) 0 [some (rV (some x0)), some (iV x1)] [] s0 := by
  unfold f_X0_isPast at h
  refine AW.iload_n dX0_isPast_0 rfl ?_
  refine AW.iconst dX0_isPast_1 ?_
  refine AW.aload_n dX0_isPast_2 rfl ?_
  refine AW.getR (t := 0) (k := 7) dX0_isPast_3 ck0 (Nat.le_of_ble_eq_true rfl) (fun _ => rfl) q553 (Or.inl rfl) h (fun v1 h => ?_)
  refine AW.getI (t := 5) (k := 9) dX0_isPast_6 ck5 (Nat.le_of_ble_eq_true rfl) (fun _ => rfl) q437 (Or.inl rfl) h (fun v2 h => ?_)
  refine AW.SI (M' := m_X0_isIn) [iV x1, iV 0, iV v2] [] dX0_isPast_9 q1180 q1181 q121 q1182 n_X0_isIn rfl rfl rfl (fun _ _ e => c_X0_isIn e) h (fun v3 s4 h => ?_)
  obtain ⟨hz, h⟩ := pz_elim h
  cases h
  exact AW.zret dX0_isPast_12 rfl hz
theorem c_X0_isPast {s0 : Hp} {x0 : Nat} {x1 : Int} {v : Int} {s1 : Hp} (h : f_X0_isPast s0 x0 x1 = some (v, s1)) : Ct m_X0_isPast [rV (some x0), iV x1] s0 (.inl (some (iV v)), s1) :=
  Ct.of2 (w_X0_isPast s0 x0 x1 h) (show plainName yX0_isPast.cls = true by decide) rfl rfl rfl
abbrev m_X0_crowd : Mi := (yX0_crowd, cX0_crowd, (some .int), 7, 2, 45, [])
theorem n_X0_crowd : nameOk yX0_crowd 2 := ⟨by decide, by decide, by decide +kernel⟩
def f_X0_crowd_L28 (x0 : Nat) : Nat → Hp → Int → Int → Int → Int → Int → (Hp → Int → Int → Int → Option (Int × Hp)) → Option (Int × Hp)
  | 0, _, _, _, _, _, _, _ => none
  | n + 1, s0, x1, x2, x3, x4, x5, k => (rcv s0 0 (some x0)).bind fun b8 => bn (f_X0_rooms s0 b8) fun v6 s7 => (if nrm v6 ≤ nrm x5 then (k s7 x2 x3 x4) else ((gR s7 0 (some x0) 7).bind fun v9 => (gR s7 0 (some x0) 3).bind fun v10 => (rcv s7 5 v9).bind fun b13 => bn (f_X5_menIn s7 b13 v10 x5 x1) fun v11 s12 => bn (f_J8_bitCount s12 v11) fun v14 s15 => (if nrm x4 < nrm v14 then (f_X0_crowd_L28 x0 n s15 x1 x2 x5 v14 (x5 + 1) k) else (f_X0_crowd_L28 x0 n s15 x1 x2 x3 x4 (x5 + 1) k))))
theorem w_X0_crowd_L28 {σ0 : Hp} {w : Int × Hp} {x0 : Nat} : ∀ (n : Nat) (s0 : Hp) (x1 : Int) (x2 : Int) (x3 : Int) (x4 : Int) (x5 : Int) (k : (Hp → Int → Int → Int → Option (Int × Hp))), f_X0_crowd_L28 x0 n s0 x1 x2 x3 x4 x5 k = some w → (∀ (s1 : Hp) (x2 : Int) (x3 : Int) (x4 : Int), k s1 x2 x3 x4 = some w → AW m_X0_crowd σ0 (oI w) 79 [none, none, some (iV x2), some (iV x3), some (iV x4), none, none] [] s1) → AW m_X0_crowd σ0 (oI w) 28 [some (rV (some x0)), some (iV x1), some (iV x2), some (iV x3), some (iV x4), some (iV x5), none] [] s0 := by
  intro n
  induction n with
  | zero =>
    intro s0 x1 x2 x3 x4 x5 k h hk
    rw [f_X0_crowd_L28] at h
    cases h
  | succ n ih =>
    intro s0 x1 x2 x3 x4 x5 k h hk
    rw [f_X0_crowd_L28] at h
    refine AW.iload dX0_crowd_28 rfl ?_
    refine AW.aload_n dX0_crowd_30 rfl ?_
    refine AW.VI (M' := m_X0_rooms) (t := 0) [] [iV x5] dX0_crowd_31 q1269 q1271 qs40 q121 q1272 ck0 rfl n_X0_rooms rfl rfl rfl (fun _ _ _ e => c_X0_rooms e) h (fun v6 s7 h => ?_)
    refine AW.icmp_ge 79 dX0_crowd_34 (by decide) h (fun c17 h => ?_) (fun c17 h => ?_)
    · exact AW.fewer (L' := [none, none, some (iV x2), some (iV x3), some (iV x4), none, none]) (And.intro rfl (And.intro rfl (And.intro rfl trivial))) (hk _ _ _ _ h)
    · refine AW.aload_n dX0_crowd_37 rfl ?_
      refine AW.getR (t := 0) (k := 7) dX0_crowd_38 ck0 (Nat.le_of_ble_eq_true rfl) (fun _ => rfl) q553 (Or.inl rfl) h (fun v9 h => ?_)
      refine AW.aload_n dX0_crowd_41 rfl ?_
      refine AW.getR (t := 0) (k := 3) dX0_crowd_42 ck0 (Nat.le_of_ble_eq_true rfl) (fun _ => rfl) q549 (Or.inl rfl) h (fun v10 h => ?_)
      refine AW.iload dX0_crowd_45 rfl ?_
      refine AW.iload_n dX0_crowd_47 rfl ?_
      refine AW.VI (M' := m_X5_menIn) (t := 5) [rV v10, iV x5, iV x1] [] dX0_crowd_48 q1304 q514 q515 q132 q516 ck5 rfl n_X5_menIn rfl rfl rfl (fun _ _ _ e => c_X5_menIn e) h (fun v11 s12 h => ?_)
      refine AW.SI (M' := m_J8_bitCount) [iV v11] [] dX0_crowd_51 q1368 q518 q137 q519 n_J8_bitCount rfl rfl rfl (fun _ _ e => c_J8_bitCount e) h (fun v14 s15 h => ?_)
      refine AW.istore (L' := [some (rV (some x0)), some (iV x1), some (iV x2), some (iV x3), some (iV x4), some (iV x5), some (iV v14)]) dX0_crowd_54 (Nat.le_of_ble_eq_true rfl) rfl rfl ?_
      refine AW.iload dX0_crowd_56 rfl ?_
      refine AW.iload dX0_crowd_58 rfl ?_
      refine AW.icmp_gt 66 dX0_crowd_60 (by decide) h (fun c16 h => ?_) (fun c16 h => ?_)
      · refine AW.iload dX0_crowd_66 rfl ?_
        refine AW.istore_n (L' := [some (rV (some x0)), some (iV x1), some (iV x2), some (iV x5), some (iV x4), some (iV x5), some (iV v14)]) dX0_crowd_68 (Nat.le_of_ble_eq_true rfl) rfl rfl ?_
        refine AW.iload dX0_crowd_69 rfl ?_
        refine AW.istore (L' := [some (rV (some x0)), some (iV x1), some (iV x2), some (iV x5), some (iV v14), some (iV x5), some (iV v14)]) dX0_crowd_71 (Nat.le_of_ble_eq_true rfl) rfl rfl ?_
        refine AW.iinc (L' := [some (rV (some x0)), some (iV x1), some (iV x2), some (iV x5), some (iV v14), some (iV (x5 + 1)), some (iV v14)]) dX0_crowd_73 rfl (Nat.le_of_ble_eq_true rfl) rfl rfl ?_
        refine AW.goto (tgt := 28) dX0_crowd_76 (by decide) ?_
        exact AW.fewer (L' := [some (rV (some x0)), some (iV x1), some (iV x2), some (iV x5), some (iV v14), some (iV (x5 + 1)), none]) (And.intro rfl (And.intro rfl (And.intro rfl (And.intro rfl (And.intro rfl (And.intro rfl trivial)))))) (ih _ _ _ _ _ _ _ h hk)
      · refine AW.goto (tgt := 73) dX0_crowd_63 (by decide) ?_
        refine AW.iinc (L' := [some (rV (some x0)), some (iV x1), some (iV x2), some (iV x3), some (iV x4), some (iV (x5 + 1)), some (iV v14)]) dX0_crowd_73 rfl (Nat.le_of_ble_eq_true rfl) rfl rfl ?_
        refine AW.goto (tgt := 28) dX0_crowd_76 (by decide) ?_
        exact AW.fewer (L' := [some (rV (some x0)), some (iV x1), some (iV x2), some (iV x3), some (iV x4), some (iV (x5 + 1)), none]) (And.intro rfl (And.intro rfl (And.intro rfl (And.intro rfl (And.intro rfl (And.intro rfl trivial)))))) (ih _ _ _ _ _ _ _ h hk)
def f_X0_crowd (s0 : Hp) (x0 : Nat) (x1 : Int) (x2 : Int) : Option (Int × Hp) :=
  (rcv s0 0 (some x0)).bind fun b3 => bn (f_X0_isPast s0 b3 x1) fun v1 s2 => (if nrm v1 = 0 then (some ((-1), s2)) else (bn (f_X0_isIn s2 x2 0 1) fun v4 s5 => (if ¬ nrm v4 = 0 then (f_X0_crowd_L28 x0 FU s5 x1 x2 (-2) (-1) 0 (fun s18 x2 x3 x4 => (if nrm x2 = 0 then (some (nrm x3, s18)) else ((if 0 ≤ nrm x3 then (some (nrm x4, s18)) else (some (nrm x3, s18))))))) else (some ((-1), s5)))))
theorem w_X0_crowd {σ0 : Hp} {w : Int × Hp} (s0 : Hp) (x0 : Nat) (x1 : Int) (x2 : Int) (h : f_X0_crowd s0 x0 x1 x2 = some w) : AW m_X0_crowd σ0 (oI w) 0 [some (rV (some x0)), some (iV x1), some (iV x2), none, none, none, none] [] s0 := by
  unfold f_X0_crowd at h
  refine AW.aload_n dX0_crowd_0 rfl ?_
  refine AW.iload_n dX0_crowd_1 rfl ?_
  refine AW.VI (M' := m_X0_isPast) (t := 0) [iV x1] [] dX0_crowd_2 q1183 q1185 qs33 q121 q1186 ck0 rfl n_X0_isPast rfl rfl rfl (fun _ _ _ e => c_X0_isPast e) h (fun v1 s2 h => ?_)
  refine AW.if_eq 17 dX0_crowd_5 (by decide) h (fun c22 h => ?_) (fun c22 h => ?_)
  · refine AW.iconst dX0_crowd_17 ?_
    cases h
    exact AW.iret dX0_crowd_18 rfl
  · refine AW.iload_n dX0_crowd_8 rfl ?_
    refine AW.iconst dX0_crowd_9 ?_
    refine AW.iconst dX0_crowd_10 ?_
    refine AW.SI (M' := m_X0_isIn) [iV x2, iV 0, iV 1] [] dX0_crowd_11 q1180 q1181 q121 q1182 n_X0_isIn rfl rfl rfl (fun _ _ e => c_X0_isIn e) h (fun v4 s5 h => ?_)
    refine AW.if_ne 19 dX0_crowd_14 (by decide) h (fun c21 h => ?_) (fun c21 h => ?_)
    · refine AW.bipush dX0_crowd_19 (by decide) ?_
      refine AW.istore_n (L' := [some (rV (some x0)), some (iV x1), some (iV x2), some (iV (-2)), none, none, none]) dX0_crowd_21 (Nat.le_of_ble_eq_true rfl) rfl rfl ?_
      refine AW.iconst dX0_crowd_22 ?_
      refine AW.istore (L' := [some (rV (some x0)), some (iV x1), some (iV x2), some (iV (-2)), some (iV (-1)), none, none]) dX0_crowd_23 (Nat.le_of_ble_eq_true rfl) rfl rfl ?_
      refine AW.iconst dX0_crowd_25 ?_
      refine AW.istore (L' := [some (rV (some x0)), some (iV x1), some (iV x2), some (iV (-2)), some (iV (-1)), some (iV 0), none]) dX0_crowd_26 (Nat.le_of_ble_eq_true rfl) rfl rfl ?_
      refine w_X0_crowd_L28 _ _ _ _ _ _ _ _ h (fun s18 x2 x3 x4 h => ?_)
      refine AW.iload_n dX0_crowd_79 rfl ?_
      refine AW.if_eq 87 dX0_crowd_80 (by decide) h (fun c20 h => ?_) (fun c20 h => ?_)
      · refine AW.iload_n dX0_crowd_87 rfl ?_
        refine AW.goto (tgt := 93) dX0_crowd_88 (by decide) ?_
        refine AW.nv ?_
        cases h
        exact AW.iret dX0_crowd_93 rfl
      · refine AW.iload_n dX0_crowd_83 rfl ?_
        refine AW.if_ge 91 dX0_crowd_84 (by decide) h (fun c19 h => ?_) (fun c19 h => ?_)
        · refine AW.iload dX0_crowd_91 rfl ?_
          refine AW.nv ?_
          cases h
          exact AW.iret dX0_crowd_93 rfl
        · refine AW.iload_n dX0_crowd_87 rfl ?_
          refine AW.goto (tgt := 93) dX0_crowd_88 (by decide) ?_
          refine AW.nv ?_
          cases h
          exact AW.iret dX0_crowd_93 rfl
    · refine AW.iconst dX0_crowd_17 ?_
      cases h
      exact AW.iret dX0_crowd_18 rfl
theorem c_X0_crowd {s0 : Hp} {x0 : Nat} {x1 : Int} {x2 : Int} {v : Int} {s1 : Hp} (h : f_X0_crowd s0 x0 x1 x2 = some (v, s1)) : Ct m_X0_crowd [rV (some x0), iV x1, iV x2] s0 (.inl (some (iV v)), s1) :=
  Ct.of2 (w_X0_crowd s0 x0 x1 x2 h) (show plainName yX0_crowd.cls = true by decide) rfl rfl rfl
abbrev m_X7_begins : Mi := (yX7_begins, cX7_begins, none, 3, 0, 0, [])
theorem n_X7_begins : nameOk yX7_begins 2 := ⟨by decide, by decide, by decide +kernel⟩
def f_X7_begins (s0 : Hp) (x0 : Nat) (x1 : Int) (x2 : Int) : Option (Unit × Hp) :=
  (pI s0 7 (some x0) 0 (nrm x1)).bind fun s1 => (pI s1 7 (some x0) 1 (nrm x2)).bind fun s2 => some ((), s2)
theorem w_X7_begins {σ0 : Hp} {w : Unit × Hp} (s0 : Hp) (x0 : Nat) (x1 : Int) (x2 : Int) (h : f_X7_begins s0 x0 x1 x2 = some w) : AW m_X7_begins σ0 (oU w) 0 [some (rV (some x0)), some (iV x1), some (iV x2)] [] s0 := by
  unfold f_X7_begins at h
  refine AW.aload_n dX7_begins_0 rfl ?_
  refine AW.iload_n dX7_begins_1 rfl ?_
  refine AW.nv ?_
  refine AW.putI (t := 7) (k := 0) dX7_begins_2 ck7 mu7 (Nat.le_of_ble_eq_true rfl) rfl q470 (Or.inl rfl) (Or.inl rfl) h (fun s1 h => ?_)
  refine AW.aload_n dX7_begins_5 rfl ?_
  refine AW.iload_n dX7_begins_6 rfl ?_
  refine AW.nv ?_
  refine AW.putI (t := 7) (k := 1) dX7_begins_7 ck7 mu7 (Nat.le_of_ble_eq_true rfl) rfl q472 (Or.inl rfl) (Or.inl rfl) h (fun s2 h => ?_)
  cases h
  exact AW.vret dX7_begins_10 rfl
theorem c_X7_begins {s0 : Hp} {x0 : Nat} {x1 : Int} {x2 : Int} {v : Unit} {s1 : Hp} (h : f_X7_begins s0 x0 x1 x2 = some (v, s1)) : Ct m_X7_begins [rV (some x0), iV x1, iV x2] s0 (.inl none, s1) :=
  Ct.of2 (w_X7_begins s0 x0 x1 x2 h) (show plainName yX7_begins.cls = true by decide) rfl rfl rfl
abbrev m_X7_shows : Mi := (yX7_shows, cX7_shows, (some .int), 2, 2, 45, [])
theorem n_X7_shows : nameOk yX7_shows 1 := ⟨by decide, by decide, by decide +kernel⟩
def f_X7_shows (s0 : Hp) (x0 : Nat) (x1 : Option Nat) : Option (Int × Hp) :=
  (gI s0 7 (some x0) 0).bind fun v1 => (gI s0 7 (some x0) 1).bind fun v2 => (rcv s0 5 x1).bind fun b5 => bn (f_X5_shows s0 b5 v1 v2) fun v3 s4 => some (v3, s4)
theorem w_X7_shows {σ0 : Hp} {w : Int × Hp} (s0 : Hp) (x0 : Nat) (x1 : Option Nat) (h : f_X7_shows s0 x0 x1 = some w) : AW m_X7_shows σ0 (oI w) 0 [some (rV (some x0)), some (rV x1)] [] s0 := by
  unfold f_X7_shows at h
  refine AW.aload_n dX7_shows_0 rfl ?_
  refine AW.aload_n dX7_shows_1 rfl ?_
  refine AW.getI (t := 7) (k := 0) dX7_shows_2 ck7 (Nat.le_of_ble_eq_true rfl) (fun _ => rfl) q470 (Or.inl rfl) h (fun v1 h => ?_)
  refine AW.aload_n dX7_shows_5 rfl ?_
  refine AW.getI (t := 7) (k := 1) dX7_shows_6 ck7 (Nat.le_of_ble_eq_true rfl) (fun _ => rfl) q472 (Or.inl rfl) h (fun v2 h => ?_)
  refine AW.VI (M' := m_X5_shows) (t := 5) [iV v1, iV v2] [] dX7_shows_9 q1302 q1200 q1201 q132 q1202 ck5 rfl n_X5_shows rfl rfl rfl (fun _ _ _ e => c_X5_shows e) h (fun v3 s4 h => ?_)
  cases h
  exact AW.iret dX7_shows_12 rfl
theorem c_X7_shows {s0 : Hp} {x0 : Nat} {x1 : Option Nat} {v : Int} {s1 : Hp} (h : f_X7_shows s0 x0 x1 = some (v, s1)) : Ct m_X7_shows [rV (some x0), rV x1] s0 (.inl (some (iV v)), s1) :=
  Ct.of2 (w_X7_shows s0 x0 x1 h) (show plainName yX7_shows.cls = true by decide) rfl rfl rfl
abbrev m_X7_goesTo : Mi := (yX7_goesTo, cX7_goesTo, (some .boolean), 4, 3, 66, [])
theorem n_X7_goesTo : nameOk yX7_goesTo 2 := ⟨by decide, by decide, by decide +kernel⟩
def f_X7_goesTo (s0 : Hp) (x0 : Nat) (x1 : Option Nat) (x2 : Int) : Option (Int × Hp) :=
  (rcv s0 7 (some x0)).bind fun b3 => bn (f_X7_shows s0 b3 x1) fun v1 s2 => (if nrm v1 < 0 then (some (0, s2)) else ((gI s2 7 (some x0) 0).bind fun v4 => (if nrm x2 = nrm v4 then (some (0, s2)) else ((gR s2 5 x1 2).bind fun v5 => (aR s2 105 v5 x2).bind fun v6 => (aI s2 101 v6 v1).bind fun v7 => (gR s2 5 x1 2).bind fun v8 => (gI s2 7 (some x0) 0).bind fun v9 => (aR s2 105 v8 v9).bind fun v10 => (aI s2 101 v10 v1).bind fun v11 => (if nrm v7 = nrm v11 then ((pI s2 7 (some x0) 0 (nrm x2)).bind fun s12 => (pI s12 7 (some x0) 1 v1).bind fun s13 => some (1, s13)) else (some (0, s2)))))))
theorem w_X7_goesTo {σ0 : Hp} {w : Int × Hp} (s0 : Hp) (x0 : Nat) (x1 : Option Nat) (x2 : Int) (h : f_X7_goesTo s0 x0 x1 x2 = some w) : AW m_X7_goesTo σ0 (oI w) 0 [some (rV (some x0)), some (rV x1), some (iV x2), none] [] s0 := by
  unfold f_X7_goesTo at h
  refine AW.aload_n dX7_goesTo_0 rfl ?_
  refine AW.aload_n dX7_goesTo_1 rfl ?_
  refine AW.VI (M' := m_X7_shows) (t := 7) [rV x1] [] dX7_goesTo_2 q1298 q1299 q1300 q134 q1301 ck7 rfl n_X7_shows rfl rfl rfl (fun _ _ _ e => c_X7_shows e) h (fun v1 s2 h => ?_)
  refine AW.istore_n (L' := [some (rV (some x0)), some (rV x1), some (iV x2), some (iV v1)]) dX7_goesTo_5 (Nat.le_of_ble_eq_true rfl) rfl rfl ?_
  refine AW.iload_n dX7_goesTo_6 rfl ?_
  refine AW.if_lt 40 dX7_goesTo_7 (by decide) h (fun c16 h => ?_) (fun c16 h => ?_)
  · refine AW.iconst dX7_goesTo_40 ?_
    cases h
    exact AW.zret (z := 0) dX7_goesTo_41 rfl zz0
  · refine AW.iload_n dX7_goesTo_10 rfl ?_
    refine AW.aload_n dX7_goesTo_11 rfl ?_
    refine AW.getI (t := 7) (k := 0) dX7_goesTo_12 ck7 (Nat.le_of_ble_eq_true rfl) (fun _ => rfl) q470 (Or.inl rfl) h (fun v4 h => ?_)
    refine AW.icmp_eq 40 dX7_goesTo_15 (by decide) h (fun c15 h => ?_) (fun c15 h => ?_)
    · refine AW.iconst dX7_goesTo_40 ?_
      cases h
      exact AW.zret (z := 0) dX7_goesTo_41 rfl zz0
    · refine AW.aload_n dX7_goesTo_18 rfl ?_
      refine AW.getR (t := 5) (k := 2) dX7_goesTo_19 ck5 (Nat.le_of_ble_eq_true rfl) (fun _ => rfl) q426 (Or.inl rfl) h (fun v5 h => ?_)
      refine AW.iload_n dX7_goesTo_22 rfl ?_
      refine AW.aald (t := 105) dX7_goesTo_23 (Nat.le_of_ble_eq_true rfl) rfl (fun _ _ => rfl) h (fun v6 h => ?_)
      refine AW.iload_n dX7_goesTo_24 rfl ?_
      refine AW.bald (t := 101) dX7_goesTo_25 (Nat.le_of_ble_eq_true rfl) rfl h (fun v7 h => ?_)
      refine AW.aload_n dX7_goesTo_26 rfl ?_
      refine AW.getR (t := 5) (k := 2) dX7_goesTo_27 ck5 (Nat.le_of_ble_eq_true rfl) (fun _ => rfl) q426 (Or.inl rfl) h (fun v8 h => ?_)
      refine AW.aload_n dX7_goesTo_30 rfl ?_
      refine AW.getI (t := 7) (k := 0) dX7_goesTo_31 ck7 (Nat.le_of_ble_eq_true rfl) (fun _ => rfl) q470 (Or.inl rfl) h (fun v9 h => ?_)
      refine AW.aald (t := 105) dX7_goesTo_34 (Nat.le_of_ble_eq_true rfl) rfl (fun _ _ => rfl) h (fun v10 h => ?_)
      refine AW.iload_n dX7_goesTo_35 rfl ?_
      refine AW.bald (t := 101) dX7_goesTo_36 (Nat.le_of_ble_eq_true rfl) rfl h (fun v11 h => ?_)
      refine AW.icmp_eq 42 dX7_goesTo_37 (by decide) h (fun c14 h => ?_) (fun c14 h => ?_)
      · refine AW.aload_n dX7_goesTo_42 rfl ?_
        refine AW.iload_n dX7_goesTo_43 rfl ?_
        refine AW.nv ?_
        refine AW.putI (t := 7) (k := 0) dX7_goesTo_44 ck7 mu7 (Nat.le_of_ble_eq_true rfl) rfl q470 (Or.inl rfl) (Or.inl rfl) h (fun s12 h => ?_)
        refine AW.aload_n dX7_goesTo_47 rfl ?_
        refine AW.iload_n dX7_goesTo_48 rfl ?_
        refine AW.putI (t := 7) (k := 1) dX7_goesTo_49 ck7 mu7 (Nat.le_of_ble_eq_true rfl) rfl q472 (Or.inl rfl) (Or.inl rfl) h (fun s13 h => ?_)
        refine AW.iconst dX7_goesTo_52 ?_
        cases h
        exact AW.zret (z := 1) dX7_goesTo_53 rfl zz1
      · refine AW.iconst dX7_goesTo_40 ?_
        cases h
        exact AW.zret (z := 0) dX7_goesTo_41 rfl zz0
theorem c_X7_goesTo {s0 : Hp} {x0 : Nat} {x1 : Option Nat} {x2 : Int} {v : Int} {s1 : Hp} (h : f_X7_goesTo s0 x0 x1 x2 = some (v, s1)) : Ct m_X7_goesTo [rV (some x0), rV x1, iV x2] s0 (.inl (some (iV v)), s1) :=
  Ct.of2 (w_X7_goesTo s0 x0 x1 x2 h) (show plainName yX7_goesTo.cls = true by decide) rfl rfl rfl
abbrev m_X0_goesDeeper : Mi := (yX0_goesDeeper, cX0_goesDeeper, none, 4, 4, 89, [])
theorem n_X0_goesDeeper : nameOk yX0_goesDeeper 0 := ⟨by decide, by decide, by decide +kernel⟩
def f_X0_goesDeeper_L12 (x0 : Nat) : Nat → Hp → Int → Int → (Hp → Int → Option (Unit × Hp)) → Option (Unit × Hp)
  | 0, _, _, _, _ => none
  | n + 1, s0, x1, x2, k => (gR s0 0 (some x0) 7).bind fun v4 => (gI s0 5 v4 9).bind fun v5 => (if nrm v5 < nrm x2 then (k s0 x1) else ((gR s0 0 (some x0) 15).bind fun v6 => (aR s0 106 v6 x1).bind fun v7 => (sI s0 102 v7 x2 (b1I 0)).bind fun s8 => f_X0_goesDeeper_L12 x0 n s8 x1 (x2 + 1) k))
theorem w_X0_goesDeeper_L12 {σ0 : Hp} {w : Unit × Hp} {x0 : Nat} : ∀ (n : Nat) (s0 : Hp) (x1 : Int) (x2 : Int) (k : (Hp → Int → Option (Unit × Hp))), f_X0_goesDeeper_L12 x0 n s0 x1 x2 k = some w → (∀ (s1 : Hp) (x1 : Int), k s1 x1 = some w → AW m_X0_goesDeeper σ0 (oU w) 38 [some (rV (some x0)), some (iV x1), none, none] [] s1) → AW m_X0_goesDeeper σ0 (oU w) 12 [some (rV (some x0)), some (iV x1), some (iV x2), none] [] s0 := by
  intro n
  induction n with
  | zero =>
    intro s0 x1 x2 k h hk
    rw [f_X0_goesDeeper_L12] at h
    cases h
  | succ n ih =>
    intro s0 x1 x2 k h hk
    rw [f_X0_goesDeeper_L12] at h
    refine AW.iload_n dX0_goesDeeper_12 rfl ?_
    refine AW.aload_n dX0_goesDeeper_13 rfl ?_
    refine AW.getR (t := 0) (k := 7) dX0_goesDeeper_14 ck0 (Nat.le_of_ble_eq_true rfl) (fun _ => rfl) q553 (Or.inl rfl) h (fun v4 h => ?_)
    refine AW.getI (t := 5) (k := 9) dX0_goesDeeper_17 ck5 (Nat.le_of_ble_eq_true rfl) (fun _ => rfl) q437 (Or.inl rfl) h (fun v5 h => ?_)
    refine AW.icmp_gt 38 dX0_goesDeeper_20 (by decide) h (fun c9 h => ?_) (fun c9 h => ?_)
    · exact AW.fewer (L' := [some (rV (some x0)), some (iV x1), none, none]) (And.intro rfl (And.intro rfl trivial)) (hk _ _ h)
    · refine AW.aload_n dX0_goesDeeper_23 rfl ?_
      refine AW.getR (t := 0) (k := 15) dX0_goesDeeper_24 ck0 (Nat.le_of_ble_eq_true rfl) (fun _ => rfl) q561 (Or.inl rfl) h (fun v6 h => ?_)
      refine AW.iload_n dX0_goesDeeper_27 rfl ?_
      refine AW.aald (t := 106) dX0_goesDeeper_28 (Nat.le_of_ble_eq_true rfl) rfl (fun _ _ => rfl) h (fun v7 h => ?_)
      refine AW.iload_n dX0_goesDeeper_29 rfl ?_
      refine AW.iconst dX0_goesDeeper_30 ?_
      refine AW.zast (t := 102) dX0_goesDeeper_31 (Nat.le_of_ble_eq_true rfl) mu102 rfl h (fun s8 h => ?_)
      refine AW.iinc (L' := [some (rV (some x0)), some (iV x1), some (iV (x2 + 1)), none]) dX0_goesDeeper_32 rfl (Nat.le_of_ble_eq_true rfl) rfl rfl ?_
      refine AW.goto (tgt := 12) dX0_goesDeeper_35 (by decide) ?_
      exact ih _ _ _ _ h hk
def f_X0_goesDeeper_L2 (x0 : Nat) : Nat → Hp → Int → (Hp → Option (Unit × Hp)) → Option (Unit × Hp)
  | 0, _, _, _ => none
  | n + 1, s0, x1, k => (rcv s0 0 (some x0)).bind fun b3 => bn (f_X0_mirrors s0 b3) fun v1 s2 => (if nrm v1 ≤ nrm x1 then (k s2) else (f_X0_goesDeeper_L12 x0 FU s2 x1 0 (fun s10 x1 => f_X0_goesDeeper_L2 x0 n s10 (x1 + 1) k)))
theorem w_X0_goesDeeper_L2 {σ0 : Hp} {w : Unit × Hp} {x0 : Nat} : ∀ (n : Nat) (s0 : Hp) (x1 : Int) (k : (Hp → Option (Unit × Hp))), f_X0_goesDeeper_L2 x0 n s0 x1 k = some w → (∀ (s1 : Hp), k s1 = some w → AW m_X0_goesDeeper σ0 (oU w) 44 [some (rV (some x0)), none, none, none] [] s1) → AW m_X0_goesDeeper σ0 (oU w) 2 [some (rV (some x0)), some (iV x1), none, none] [] s0 := by
  intro n
  induction n with
  | zero =>
    intro s0 x1 k h hk
    rw [f_X0_goesDeeper_L2] at h
    cases h
  | succ n ih =>
    intro s0 x1 k h hk
    rw [f_X0_goesDeeper_L2] at h
    refine AW.iload_n dX0_goesDeeper_2 rfl ?_
    refine AW.aload_n dX0_goesDeeper_3 rfl ?_
    refine AW.VI (M' := m_X0_mirrors) (t := 0) [] [iV x1] dX0_goesDeeper_4 q1195 q1197 qs35 q121 q1198 ck0 rfl n_X0_mirrors rfl rfl rfl (fun _ _ _ e => c_X0_mirrors e) h (fun v1 s2 h => ?_)
    refine AW.icmp_ge 44 dX0_goesDeeper_7 (by decide) h (fun c11 h => ?_) (fun c11 h => ?_)
    · exact AW.fewer (L' := [some (rV (some x0)), none, none, none]) (And.intro rfl trivial) (hk _ h)
    · refine AW.iconst dX0_goesDeeper_10 ?_
      refine AW.istore_n (L' := [some (rV (some x0)), some (iV x1), some (iV 0), none]) dX0_goesDeeper_11 (Nat.le_of_ble_eq_true rfl) rfl rfl ?_
      refine w_X0_goesDeeper_L12 _ _ _ _ _ h (fun s10 x1 h => ?_)
      refine AW.iinc (L' := [some (rV (some x0)), some (iV (x1 + 1)), none, none]) dX0_goesDeeper_38 rfl (Nat.le_of_ble_eq_true rfl) rfl rfl ?_
      refine AW.goto (tgt := 2) dX0_goesDeeper_41 (by decide) ?_
      exact ih _ _ _ h hk
def f_X0_goesDeeper_L83 (x0 : Nat) : Nat → Hp → Int → Int → Int → (Hp → Int → Int → Option (Unit × Hp)) → Option (Unit × Hp)
  | 0, _, _, _, _, _ => none
  | n + 1, s0, x1, x2, x3, k => (rcv s0 0 (some x0)).bind fun b23 => bn (f_X0_mirrors s0 b23) fun v21 s22 => (if nrm v21 ≤ nrm x3 then (k s22 x1 x2) else ((gR s22 0 (some x0) 12).bind fun v24 => (rcv s22 7 v24).bind fun b26 => bn (f_X7_begins s22 b26 x1 x2) fun _ s25 => (gR s25 0 (some x0) 12).bind fun v27 => (gR s25 0 (some x0) 7).bind fun v28 => (rcv s25 7 v27).bind fun b31 => bn (f_X7_goesTo s25 b31 v28 x3) fun v29 s30 => (if nrm v29 = 0 then (f_X0_goesDeeper_L83 x0 n s30 x1 x2 (x3 + 1) k) else ((gR s30 0 (some x0) 15).bind fun v32 => (aR s30 106 v32 x3).bind fun v33 => (gR s30 0 (some x0) 12).bind fun v34 => (gI s30 7 v34 1).bind fun v35 => (sI s30 102 v33 v35 (b1I 1)).bind fun s36 => f_X0_goesDeeper_L83 x0 n s36 x1 x2 (x3 + 1) k))))
theorem w_X0_goesDeeper_L83 {σ0 : Hp} {w : Unit × Hp} {x0 : Nat} : ∀ (n : Nat) (s0 : Hp) (x1 : Int) (x2 : Int) (x3 : Int) (k : (Hp → Int → Int → Option (Unit × Hp))), f_X0_goesDeeper_L83 x0 n s0 x1 x2 x3 k = some w → (∀ (s1 : Hp) (x1 : Int) (x2 : Int), k s1 x1 x2 = some w → AW m_X0_goesDeeper σ0 (oU w) 136 [some (rV (some x0)), some (iV x1), some (iV x2), none] [] s1) → AW m_X0_goesDeeper σ0 (oU w) 83 [some (rV (some x0)), some (iV x1), some (iV x2), some (iV x3)] [] s0 := by
  intro n
  induction n with
  | zero =>
    intro s0 x1 x2 x3 k h hk
    rw [f_X0_goesDeeper_L83] at h
    cases h
  | succ n ih =>
    intro s0 x1 x2 x3 k h hk
    rw [f_X0_goesDeeper_L83] at h
    refine AW.iload_n dX0_goesDeeper_83 rfl ?_
    refine AW.aload_n dX0_goesDeeper_84 rfl ?_
    refine AW.VI (M' := m_X0_mirrors) (t := 0) [] [iV x3] dX0_goesDeeper_85 q1195 q1197 qs35 q121 q1198 ck0 rfl n_X0_mirrors rfl rfl rfl (fun _ _ _ e => c_X0_mirrors e) h (fun v21 s22 h => ?_)
    refine AW.icmp_ge 136 dX0_goesDeeper_88 (by decide) h (fun c38 h => ?_) (fun c38 h => ?_)
    · exact AW.fewer (L' := [some (rV (some x0)), some (iV x1), some (iV x2), none]) (And.intro rfl (And.intro rfl (And.intro rfl trivial))) (hk _ _ _ h)
    · refine AW.aload_n dX0_goesDeeper_91 rfl ?_
      refine AW.getR (t := 0) (k := 12) dX0_goesDeeper_92 ck0 (Nat.le_of_ble_eq_true rfl) (fun _ => rfl) q558 (Or.inl rfl) h (fun v24 h => ?_)
      refine AW.iload_n dX0_goesDeeper_95 rfl ?_
      refine AW.iload_n dX0_goesDeeper_96 rfl ?_
      refine AW.VU (M' := m_X7_begins) (t := 7) [iV x1, iV x2] [] dX0_goesDeeper_97 q1290 q1291 q1292 q134 q1293 ck7 rfl n_X7_begins rfl rfl rfl (fun _ _ _ e => c_X7_begins e) h (fun _ s25 h => ?_)
      refine AW.aload_n dX0_goesDeeper_100 rfl ?_
      refine AW.getR (t := 0) (k := 12) dX0_goesDeeper_101 ck0 (Nat.le_of_ble_eq_true rfl) (fun _ => rfl) q558 (Or.inl rfl) h (fun v27 h => ?_)
      refine AW.aload_n dX0_goesDeeper_104 rfl ?_
      refine AW.getR (t := 0) (k := 7) dX0_goesDeeper_105 ck0 (Nat.le_of_ble_eq_true rfl) (fun _ => rfl) q553 (Or.inl rfl) h (fun v28 h => ?_)
      refine AW.iload_n dX0_goesDeeper_108 rfl ?_
      refine AW.VI (M' := m_X7_goesTo) (t := 7) [rV v28, iV x3] [] dX0_goesDeeper_109 q1294 q1295 q1296 q134 q1297 ck7 rfl n_X7_goesTo rfl rfl rfl (fun _ _ _ e => c_X7_goesTo e) h (fun v29 s30 h => ?_)
      refine AW.if_eq 130 dX0_goesDeeper_112 (by decide) h (fun c37 h => ?_) (fun c37 h => ?_)
      · refine AW.iinc (L' := [some (rV (some x0)), some (iV x1), some (iV x2), some (iV (x3 + 1))]) dX0_goesDeeper_130 rfl (Nat.le_of_ble_eq_true rfl) rfl rfl ?_
        refine AW.goto (tgt := 83) dX0_goesDeeper_133 (by decide) ?_
        exact ih _ _ _ _ _ h hk
      · refine AW.aload_n dX0_goesDeeper_115 rfl ?_
        refine AW.getR (t := 0) (k := 15) dX0_goesDeeper_116 ck0 (Nat.le_of_ble_eq_true rfl) (fun _ => rfl) q561 (Or.inl rfl) h (fun v32 h => ?_)
        refine AW.iload_n dX0_goesDeeper_119 rfl ?_
        refine AW.aald (t := 106) dX0_goesDeeper_120 (Nat.le_of_ble_eq_true rfl) rfl (fun _ _ => rfl) h (fun v33 h => ?_)
        refine AW.aload_n dX0_goesDeeper_121 rfl ?_
        refine AW.getR (t := 0) (k := 12) dX0_goesDeeper_122 ck0 (Nat.le_of_ble_eq_true rfl) (fun _ => rfl) q558 (Or.inl rfl) h (fun v34 h => ?_)
        refine AW.getI (t := 7) (k := 1) dX0_goesDeeper_125 ck7 (Nat.le_of_ble_eq_true rfl) (fun _ => rfl) q473 (Or.inl rfl) h (fun v35 h => ?_)
        refine AW.iconst dX0_goesDeeper_128 ?_
        refine AW.zast (t := 102) dX0_goesDeeper_129 (Nat.le_of_ble_eq_true rfl) mu102 rfl h (fun s36 h => ?_)
        refine AW.iinc (L' := [some (rV (some x0)), some (iV x1), some (iV x2), some (iV (x3 + 1))]) dX0_goesDeeper_130 rfl (Nat.le_of_ble_eq_true rfl) rfl rfl ?_
        refine AW.goto (tgt := 83) dX0_goesDeeper_133 (by decide) ?_
        exact ih _ _ _ _ _ h hk
def f_X0_goesDeeper_L56 (x0 : Nat) : Nat → Hp → Int → Int → (Hp → Int → Option (Unit × Hp)) → Option (Unit × Hp)
  | 0, _, _, _, _ => none
  | n + 1, s0, x1, x2, k => (gR s0 0 (some x0) 7).bind fun v16 => (gI s0 5 v16 9).bind fun v17 => (if nrm v17 < nrm x2 then (k s0 x1) else ((gR s0 0 (some x0) 14).bind fun v18 => (aR s0 106 v18 x1).bind fun v19 => (aI s0 102 v19 x2).bind fun v20 => (if ¬ nrm v20 = 0 then (f_X0_goesDeeper_L83 x0 FU s0 x1 x2 0 (fun s39 x1 x2 => f_X0_goesDeeper_L56 x0 n s39 x1 (x2 + 1) k)) else (f_X0_goesDeeper_L56 x0 n s0 x1 (x2 + 1) k))))
theorem w_X0_goesDeeper_L56 {σ0 : Hp} {w : Unit × Hp} {x0 : Nat} : ∀ (n : Nat) (s0 : Hp) (x1 : Int) (x2 : Int) (k : (Hp → Int → Option (Unit × Hp))), f_X0_goesDeeper_L56 x0 n s0 x1 x2 k = some w → (∀ (s1 : Hp) (x1 : Int), k s1 x1 = some w → AW m_X0_goesDeeper σ0 (oU w) 142 [some (rV (some x0)), some (iV x1), none, none] [] s1) → AW m_X0_goesDeeper σ0 (oU w) 56 [some (rV (some x0)), some (iV x1), some (iV x2), none] [] s0 := by
  intro n
  induction n with
  | zero =>
    intro s0 x1 x2 k h hk
    rw [f_X0_goesDeeper_L56] at h
    cases h
  | succ n ih =>
    intro s0 x1 x2 k h hk
    rw [f_X0_goesDeeper_L56] at h
    refine AW.iload_n dX0_goesDeeper_56 rfl ?_
    refine AW.aload_n dX0_goesDeeper_57 rfl ?_
    refine AW.getR (t := 0) (k := 7) dX0_goesDeeper_58 ck0 (Nat.le_of_ble_eq_true rfl) (fun _ => rfl) q553 (Or.inl rfl) h (fun v16 h => ?_)
    refine AW.getI (t := 5) (k := 9) dX0_goesDeeper_61 ck5 (Nat.le_of_ble_eq_true rfl) (fun _ => rfl) q437 (Or.inl rfl) h (fun v17 h => ?_)
    refine AW.icmp_gt 142 dX0_goesDeeper_64 (by decide) h (fun c41 h => ?_) (fun c41 h => ?_)
    · exact AW.fewer (L' := [some (rV (some x0)), some (iV x1), none, none]) (And.intro rfl (And.intro rfl trivial)) (hk _ _ h)
    · refine AW.aload_n dX0_goesDeeper_67 rfl ?_
      refine AW.getR (t := 0) (k := 14) dX0_goesDeeper_68 ck0 (Nat.le_of_ble_eq_true rfl) (fun _ => rfl) q560 (Or.inl rfl) h (fun v18 h => ?_)
      refine AW.iload_n dX0_goesDeeper_71 rfl ?_
      refine AW.aald (t := 106) dX0_goesDeeper_72 (Nat.le_of_ble_eq_true rfl) rfl (fun _ _ => rfl) h (fun v19 h => ?_)
      refine AW.iload_n dX0_goesDeeper_73 rfl ?_
      refine AW.zald (t := 102) dX0_goesDeeper_74 (Nat.le_of_ble_eq_true rfl) rfl h (fun v20 h => ?_)
      refine AW.if_ne 81 dX0_goesDeeper_75 (by decide) h (fun c40 h => ?_) (fun c40 h => ?_)
      · refine AW.iconst dX0_goesDeeper_81 ?_
        refine AW.istore_n (L' := [some (rV (some x0)), some (iV x1), some (iV x2), some (iV 0)]) dX0_goesDeeper_82 (Nat.le_of_ble_eq_true rfl) rfl rfl ?_
        refine w_X0_goesDeeper_L83 _ _ _ _ _ _ h (fun s39 x1 x2 h => ?_)
        refine AW.iinc (L' := [some (rV (some x0)), some (iV x1), some (iV (x2 + 1)), none]) dX0_goesDeeper_136 rfl (Nat.le_of_ble_eq_true rfl) rfl rfl ?_
        refine AW.goto (tgt := 56) dX0_goesDeeper_139 (by decide) ?_
        exact ih _ _ _ _ h hk
      · refine AW.goto (tgt := 136) dX0_goesDeeper_78 (by decide) ?_
        refine AW.iinc (L' := [some (rV (some x0)), some (iV x1), some (iV (x2 + 1)), none]) dX0_goesDeeper_136 rfl (Nat.le_of_ble_eq_true rfl) rfl rfl ?_
        refine AW.goto (tgt := 56) dX0_goesDeeper_139 (by decide) ?_
        exact ih _ _ _ _ h hk
def f_X0_goesDeeper_L46 (x0 : Nat) : Nat → Hp → Int → (Hp → Option (Unit × Hp)) → Option (Unit × Hp)
  | 0, _, _, _ => none
  | n + 1, s0, x1, k => (rcv s0 0 (some x0)).bind fun b15 => bn (f_X0_mirrors s0 b15) fun v13 s14 => (if nrm v13 ≤ nrm x1 then (k s14) else (f_X0_goesDeeper_L56 x0 FU s14 x1 0 (fun s42 x1 => f_X0_goesDeeper_L46 x0 n s42 (x1 + 1) k)))
theorem w_X0_goesDeeper_L46 {σ0 : Hp} {w : Unit × Hp} {x0 : Nat} : ∀ (n : Nat) (s0 : Hp) (x1 : Int) (k : (Hp → Option (Unit × Hp))), f_X0_goesDeeper_L46 x0 n s0 x1 k = some w → (∀ (s1 : Hp), k s1 = some w → AW m_X0_goesDeeper σ0 (oU w) 148 [some (rV (some x0)), none, none, none] [] s1) → AW m_X0_goesDeeper σ0 (oU w) 46 [some (rV (some x0)), some (iV x1), none, none] [] s0 := by
  intro n
  induction n with
  | zero =>
    intro s0 x1 k h hk
    rw [f_X0_goesDeeper_L46] at h
    cases h
  | succ n ih =>
    intro s0 x1 k h hk
    rw [f_X0_goesDeeper_L46] at h
    refine AW.iload_n dX0_goesDeeper_46 rfl ?_
    refine AW.aload_n dX0_goesDeeper_47 rfl ?_
    refine AW.VI (M' := m_X0_mirrors) (t := 0) [] [iV x1] dX0_goesDeeper_48 q1195 q1197 qs35 q121 q1198 ck0 rfl n_X0_mirrors rfl rfl rfl (fun _ _ _ e => c_X0_mirrors e) h (fun v13 s14 h => ?_)
    refine AW.icmp_ge 148 dX0_goesDeeper_51 (by decide) h (fun c43 h => ?_) (fun c43 h => ?_)
    · exact AW.fewer (L' := [some (rV (some x0)), none, none, none]) (And.intro rfl trivial) (hk _ h)
    · refine AW.iconst dX0_goesDeeper_54 ?_
      refine AW.istore_n (L' := [some (rV (some x0)), some (iV x1), some (iV 0), none]) dX0_goesDeeper_55 (Nat.le_of_ble_eq_true rfl) rfl rfl ?_
      refine w_X0_goesDeeper_L56 _ _ _ _ _ h (fun s42 x1 h => ?_)
      refine AW.iinc (L' := [some (rV (some x0)), some (iV (x1 + 1)), none, none]) dX0_goesDeeper_142 rfl (Nat.le_of_ble_eq_true rfl) rfl rfl ?_
      refine AW.goto (tgt := 46) dX0_goesDeeper_145 (by decide) ?_
      exact ih _ _ _ h hk
def f_X0_goesDeeper_L150 (x0 : Nat) : Nat → Hp → Int → (Hp → Option (Unit × Hp)) → Option (Unit × Hp)
  | 0, _, _, _ => none
  | n + 1, s0, x1, k => (rcv s0 0 (some x0)).bind fun b47 => bn (f_X0_mirrors s0 b47) fun v45 s46 => (if nrm v45 ≤ nrm x1 then (k s46) else ((gR s46 0 (some x0) 15).bind fun v48 => (aR s46 106 v48 x1).bind fun v49 => (gR s46 0 (some x0) 14).bind fun v50 => (aR s46 106 v50 x1).bind fun v51 => (gR s46 0 (some x0) 7).bind fun v52 => (gI s46 5 v52 9).bind fun v53 => (acI s46 102 v49 0 v51 0 (v53 + 1)).bind fun s54 => f_X0_goesDeeper_L150 x0 n s54 (x1 + 1) k))
theorem w_X0_goesDeeper_L150 {σ0 : Hp} {w : Unit × Hp} {x0 : Nat} : ∀ (n : Nat) (s0 : Hp) (x1 : Int) (k : (Hp → Option (Unit × Hp))), f_X0_goesDeeper_L150 x0 n s0 x1 k = some w → (∀ (s1 : Hp), k s1 = some w → AW m_X0_goesDeeper σ0 (oU w) 190 [none, none, none, none] [] s1) → AW m_X0_goesDeeper σ0 (oU w) 150 [some (rV (some x0)), some (iV x1), none, none] [] s0 := by
  intro n
  induction n with
  | zero =>
    intro s0 x1 k h hk
    rw [f_X0_goesDeeper_L150] at h
    cases h
  | succ n ih =>
    intro s0 x1 k h hk
    rw [f_X0_goesDeeper_L150] at h
    refine AW.iload_n dX0_goesDeeper_150 rfl ?_
    refine AW.aload_n dX0_goesDeeper_151 rfl ?_
    refine AW.VI (M' := m_X0_mirrors) (t := 0) [] [iV x1] dX0_goesDeeper_152 q1195 q1197 qs35 q121 q1198 ck0 rfl n_X0_mirrors rfl rfl rfl (fun _ _ _ e => c_X0_mirrors e) h (fun v45 s46 h => ?_)
    refine AW.icmp_ge 190 dX0_goesDeeper_155 (by decide) h (fun c55 h => ?_) (fun c55 h => ?_)
    · exact AW.fewer (L' := [none, none, none, none]) (trivial) (hk _ h)
    · refine AW.aload_n dX0_goesDeeper_158 rfl ?_
      refine AW.getR (t := 0) (k := 15) dX0_goesDeeper_159 ck0 (Nat.le_of_ble_eq_true rfl) (fun _ => rfl) q561 (Or.inl rfl) h (fun v48 h => ?_)
      refine AW.iload_n dX0_goesDeeper_162 rfl ?_
      refine AW.aald (t := 106) dX0_goesDeeper_163 (Nat.le_of_ble_eq_true rfl) rfl (fun _ _ => rfl) h (fun v49 h => ?_)
      refine AW.iconst dX0_goesDeeper_164 ?_
      refine AW.aload_n dX0_goesDeeper_165 rfl ?_
      refine AW.getR (t := 0) (k := 14) dX0_goesDeeper_166 ck0 (Nat.le_of_ble_eq_true rfl) (fun _ => rfl) q560 (Or.inl rfl) h (fun v50 h => ?_)
      refine AW.iload_n dX0_goesDeeper_169 rfl ?_
      refine AW.aald (t := 106) dX0_goesDeeper_170 (Nat.le_of_ble_eq_true rfl) rfl (fun _ _ => rfl) h (fun v51 h => ?_)
      refine AW.iconst dX0_goesDeeper_171 ?_
      refine AW.aload_n dX0_goesDeeper_172 rfl ?_
      refine AW.getR (t := 0) (k := 7) dX0_goesDeeper_173 ck0 (Nat.le_of_ble_eq_true rfl) (fun _ => rfl) q553 (Or.inl rfl) h (fun v52 h => ?_)
      refine AW.getI (t := 5) (k := 9) dX0_goesDeeper_176 ck5 (Nat.le_of_ble_eq_true rfl) (fun _ => rfl) q437 (Or.inl rfl) h (fun v53 h => ?_)
      refine AW.iconst dX0_goesDeeper_179 ?_
      refine AW.iadd dX0_goesDeeper_180 ?_
      refine AW.acpy (t := 102) dX0_goesDeeper_181 q1363 (Nat.le_of_ble_eq_true rfl) mu102 rfl rfl rfl h (fun s54 h => ?_)
      refine AW.iinc (L' := [some (rV (some x0)), some (iV (x1 + 1)), none, none]) dX0_goesDeeper_184 rfl (Nat.le_of_ble_eq_true rfl) rfl rfl ?_
      refine AW.goto (tgt := 150) dX0_goesDeeper_187 (by decide) ?_
      exact ih _ _ _ h hk
def f_X0_goesDeeper (s0 : Hp) (x0 : Nat) : Option (Unit × Hp) :=
  f_X0_goesDeeper_L2 x0 FU s0 0 (fun s12 => f_X0_goesDeeper_L46 x0 FU s12 0 (fun s44 => f_X0_goesDeeper_L150 x0 FU s44 0 (fun s56 => some ((), s56))))
theorem w_X0_goesDeeper {σ0 : Hp} {w : Unit × Hp} (s0 : Hp) (x0 : Nat) (h : f_X0_goesDeeper s0 x0 = some w) : AW m_X0_goesDeeper σ0 (oU w) 0 [some (rV (some x0)), none, none, none] [] s0 := by
  unfold f_X0_goesDeeper at h
  refine AW.iconst dX0_goesDeeper_0 ?_
  refine AW.istore_n (L' := [some (rV (some x0)), some (iV 0), none, none]) dX0_goesDeeper_1 (Nat.le_of_ble_eq_true rfl) rfl rfl ?_
  refine w_X0_goesDeeper_L2 _ _ _ _ h (fun s12 h => ?_)
  refine AW.iconst dX0_goesDeeper_44 ?_
  refine AW.istore_n (L' := [some (rV (some x0)), some (iV 0), none, none]) dX0_goesDeeper_45 (Nat.le_of_ble_eq_true rfl) rfl rfl ?_
  refine w_X0_goesDeeper_L46 _ _ _ _ h (fun s44 h => ?_)
  refine AW.iconst dX0_goesDeeper_148 ?_
  refine AW.istore_n (L' := [some (rV (some x0)), some (iV 0), none, none]) dX0_goesDeeper_149 (Nat.le_of_ble_eq_true rfl) rfl rfl ?_
  refine w_X0_goesDeeper_L150 _ _ _ _ h (fun s56 h => ?_)
  cases h
  exact AW.vret dX0_goesDeeper_190 rfl
theorem c_X0_goesDeeper {s0 : Hp} {x0 : Nat} {v : Unit} {s1 : Hp} (h : f_X0_goesDeeper s0 x0 = some (v, s1)) : Ct m_X0_goesDeeper [rV (some x0)] s0 (.inl none, s1) :=
  Ct.of2 (w_X0_goesDeeper s0 x0 h) (show plainName yX0_goesDeeper.cls = true by decide) rfl rfl rfl
abbrev m_X0_deepest : Mi := (yX0_deepest, cX0_deepest, (some .int), 9, 5, 112, [])
theorem n_X0_deepest : nameOk yX0_deepest 2 := ⟨by decide, by decide, by decide +kernel⟩
def f_X0_deepest_L41 (x0 : Nat) : Nat → Hp → Int → Int → Int → Int → Int → Int → (Hp → Int → Int → Int → Int → Int → Option (Int × Hp)) → Option (Int × Hp)
  | 0, _, _, _, _, _, _, _, _ => none
  | n + 1, s0, x1, x2, x3, x4, x5, x6, k => (gR s0 0 (some x0) 7).bind fun v9 => (gI s0 5 v9 9).bind fun v10 => (if nrm v10 < nrm x6 then (k s0 x1 x2 x3 x4 x5) else ((gR s0 0 (some x0) 14).bind fun v11 => (aR s0 106 v11 x5).bind fun v12 => (if ¬ nrm x5 = nrm x1 then ((sI s0 102 v12 x6 (b1I 0)).bind fun s13 => f_X0_deepest_L41 x0 n s13 x1 x2 x3 x4 x5 (x6 + 1) k) else ((gR s0 0 (some x0) 7).bind fun v14 => (gI s0 5 v14 9).bind fun v15 => (if ¬ nrm x6 = nrm v15 then ((sI s0 102 v12 x6 (b1I 0)).bind fun s16 => f_X0_deepest_L41 x0 n s16 x1 x2 x3 x4 x5 (x6 + 1) k) else ((sI s0 102 v12 x6 (b1I 1)).bind fun s17 => f_X0_deepest_L41 x0 n s17 x1 x2 x3 x4 x5 (x6 + 1) k))))))
theorem w_X0_deepest_L41 {σ0 : Hp} {w : Int × Hp} {x0 : Nat} : ∀ (n : Nat) (s0 : Hp) (x1 : Int) (x2 : Int) (x3 : Int) (x4 : Int) (x5 : Int) (x6 : Int) (k : (Hp → Int → Int → Int → Int → Int → Option (Int × Hp))), f_X0_deepest_L41 x0 n s0 x1 x2 x3 x4 x5 x6 k = some w → (∀ (s1 : Hp) (x1 : Int) (x2 : Int) (x3 : Int) (x4 : Int) (x5 : Int), k s1 x1 x2 x3 x4 x5 = some w → AW m_X0_deepest σ0 (oI w) 92 [some (rV (some x0)), some (iV x1), some (iV x2), some (iV x3), some (iV x4), some (iV x5), none, none, none] [] s1) → AW m_X0_deepest σ0 (oI w) 41 [some (rV (some x0)), some (iV x1), some (iV x2), some (iV x3), some (iV x4), some (iV x5), some (iV x6), none, none] [] s0 := by
  intro n
  induction n with
  | zero =>
    intro s0 x1 x2 x3 x4 x5 x6 k h hk
    rw [f_X0_deepest_L41] at h
    cases h
  | succ n ih =>
    intro s0 x1 x2 x3 x4 x5 x6 k h hk
    rw [f_X0_deepest_L41] at h
    refine AW.iload dX0_deepest_41 rfl ?_
    refine AW.aload_n dX0_deepest_43 rfl ?_
    refine AW.getR (t := 0) (k := 7) dX0_deepest_44 ck0 (Nat.le_of_ble_eq_true rfl) (fun _ => rfl) q553 (Or.inl rfl) h (fun v9 h => ?_)
    refine AW.getI (t := 5) (k := 9) dX0_deepest_47 ck5 (Nat.le_of_ble_eq_true rfl) (fun _ => rfl) q437 (Or.inl rfl) h (fun v10 h => ?_)
    refine AW.icmp_gt 92 dX0_deepest_50 (by decide) h (fun c20 h => ?_) (fun c20 h => ?_)
    · exact AW.fewer (L' := [some (rV (some x0)), some (iV x1), some (iV x2), some (iV x3), some (iV x4), some (iV x5), none, none, none]) (And.intro rfl (And.intro rfl (And.intro rfl (And.intro rfl (And.intro rfl (And.intro rfl trivial)))))) (hk _ _ _ _ _ _ h)
    · refine AW.aload_n dX0_deepest_53 rfl ?_
      refine AW.getR (t := 0) (k := 14) dX0_deepest_54 ck0 (Nat.le_of_ble_eq_true rfl) (fun _ => rfl) q560 (Or.inl rfl) h (fun v11 h => ?_)
      refine AW.iload dX0_deepest_57 rfl ?_
      refine AW.aald (t := 106) dX0_deepest_59 (Nat.le_of_ble_eq_true rfl) rfl (fun _ _ => rfl) h (fun v12 h => ?_)
      refine AW.iload dX0_deepest_60 rfl ?_
      refine AW.iload dX0_deepest_62 rfl ?_
      refine AW.iload_n dX0_deepest_64 rfl ?_
      refine AW.icmp_ne 84 dX0_deepest_65 (by decide) h (fun c19 h => ?_) (fun c19 h => ?_)
      · refine AW.iconst dX0_deepest_84 ?_
        refine AW.zast (t := 102) dX0_deepest_85 (Nat.le_of_ble_eq_true rfl) mu102 rfl h (fun s13 h => ?_)
        refine AW.iinc (L' := [some (rV (some x0)), some (iV x1), some (iV x2), some (iV x3), some (iV x4), some (iV x5), some (iV (x6 + 1)), none, none]) dX0_deepest_86 rfl (Nat.le_of_ble_eq_true rfl) rfl rfl ?_
        refine AW.goto (tgt := 41) dX0_deepest_89 (by decide) ?_
        exact ih _ _ _ _ _ _ _ _ h hk
      · refine AW.iload dX0_deepest_68 rfl ?_
        refine AW.aload_n dX0_deepest_70 rfl ?_
        refine AW.getR (t := 0) (k := 7) dX0_deepest_71 ck0 (Nat.le_of_ble_eq_true rfl) (fun _ => rfl) q553 (Or.inl rfl) h (fun v14 h => ?_)
        refine AW.getI (t := 5) (k := 9) dX0_deepest_74 ck5 (Nat.le_of_ble_eq_true rfl) (fun _ => rfl) q437 (Or.inl rfl) h (fun v15 h => ?_)
        refine AW.icmp_ne 84 dX0_deepest_77 (by decide) h (fun c18 h => ?_) (fun c18 h => ?_)
        · refine AW.iconst dX0_deepest_84 ?_
          refine AW.zast (t := 102) dX0_deepest_85 (Nat.le_of_ble_eq_true rfl) mu102 rfl h (fun s16 h => ?_)
          refine AW.iinc (L' := [some (rV (some x0)), some (iV x1), some (iV x2), some (iV x3), some (iV x4), some (iV x5), some (iV (x6 + 1)), none, none]) dX0_deepest_86 rfl (Nat.le_of_ble_eq_true rfl) rfl rfl ?_
          refine AW.goto (tgt := 41) dX0_deepest_89 (by decide) ?_
          exact ih _ _ _ _ _ _ _ _ h hk
        · refine AW.iconst dX0_deepest_80 ?_
          refine AW.goto (tgt := 85) dX0_deepest_81 (by decide) ?_
          refine AW.zast (t := 102) dX0_deepest_85 (Nat.le_of_ble_eq_true rfl) mu102 rfl h (fun s17 h => ?_)
          refine AW.iinc (L' := [some (rV (some x0)), some (iV x1), some (iV x2), some (iV x3), some (iV x4), some (iV x5), some (iV (x6 + 1)), none, none]) dX0_deepest_86 rfl (Nat.le_of_ble_eq_true rfl) rfl rfl ?_
          refine AW.goto (tgt := 41) dX0_deepest_89 (by decide) ?_
          exact ih _ _ _ _ _ _ _ _ h hk
def f_X0_deepest_L29 (x0 : Nat) : Nat → Hp → Int → Int → Int → Int → Int → (Hp → Int → Int → Int → Option (Int × Hp)) → Option (Int × Hp)
  | 0, _, _, _, _, _, _, _ => none
  | n + 1, s0, x1, x2, x3, x4, x5, k => (rcv s0 0 (some x0)).bind fun b8 => bn (f_X0_mirrors s0 b8) fun v6 s7 => (if nrm v6 ≤ nrm x5 then (k s7 x2 x3 x4) else (f_X0_deepest_L41 x0 FU s7 x1 x2 x3 x4 x5 0 (fun s21 x1 x2 x3 x4 x5 => f_X0_deepest_L29 x0 n s21 x1 x2 x3 x4 (x5 + 1) k)))
theorem w_X0_deepest_L29 {σ0 : Hp} {w : Int × Hp} {x0 : Nat} : ∀ (n : Nat) (s0 : Hp) (x1 : Int) (x2 : Int) (x3 : Int) (x4 : Int) (x5 : Int) (k : (Hp → Int → Int → Int → Option (Int × Hp))), f_X0_deepest_L29 x0 n s0 x1 x2 x3 x4 x5 k = some w → (∀ (s1 : Hp) (x2 : Int) (x3 : Int) (x4 : Int), k s1 x2 x3 x4 = some w → AW m_X0_deepest σ0 (oI w) 98 [some (rV (some x0)), none, some (iV x2), some (iV x3), some (iV x4), none, none, none, none] [] s1) → AW m_X0_deepest σ0 (oI w) 29 [some (rV (some x0)), some (iV x1), some (iV x2), some (iV x3), some (iV x4), some (iV x5), none, none, none] [] s0 := by
  intro n
  induction n with
  | zero =>
    intro s0 x1 x2 x3 x4 x5 k h hk
    rw [f_X0_deepest_L29] at h
    cases h
  | succ n ih =>
    intro s0 x1 x2 x3 x4 x5 k h hk
    rw [f_X0_deepest_L29] at h
    refine AW.iload dX0_deepest_29 rfl ?_
    refine AW.aload_n dX0_deepest_31 rfl ?_
    refine AW.VI (M' := m_X0_mirrors) (t := 0) [] [iV x5] dX0_deepest_32 q1195 q1197 qs35 q121 q1198 ck0 rfl n_X0_mirrors rfl rfl rfl (fun _ _ _ e => c_X0_mirrors e) h (fun v6 s7 h => ?_)
    refine AW.icmp_ge 98 dX0_deepest_35 (by decide) h (fun c22 h => ?_) (fun c22 h => ?_)
    · exact AW.fewer (L' := [some (rV (some x0)), none, some (iV x2), some (iV x3), some (iV x4), none, none, none, none]) (And.intro rfl (And.intro rfl (And.intro rfl (And.intro rfl trivial)))) (hk _ _ _ _ h)
    · refine AW.iconst dX0_deepest_38 ?_
      refine AW.istore (L' := [some (rV (some x0)), some (iV x1), some (iV x2), some (iV x3), some (iV x4), some (iV x5), some (iV 0), none, none]) dX0_deepest_39 (Nat.le_of_ble_eq_true rfl) rfl rfl ?_
      refine w_X0_deepest_L41 _ _ _ _ _ _ _ _ _ h (fun s21 x1 x2 x3 x4 x5 h => ?_)
      refine AW.iinc (L' := [some (rV (some x0)), some (iV x1), some (iV x2), some (iV x3), some (iV x4), some (iV (x5 + 1)), none, none, none]) dX0_deepest_92 rfl (Nat.le_of_ble_eq_true rfl) rfl rfl ?_
      refine AW.goto (tgt := 29) dX0_deepest_95 (by decide) ?_
      exact ih _ _ _ _ _ _ _ h hk
def f_X0_deepest_L122 (x0 : Nat) : Nat → Hp → Int → Int → Int → Int → Int → Int → (Hp → Int → Int → Int → Int → Int → Option (Int × Hp)) → Option (Int × Hp)
  | 0, _, _, _, _, _, _, _, _ => none
  | n + 1, s0, x2, x3, x4, x5, x6, x7, k => (gR s0 0 (some x0) 7).bind fun v27 => (gI s0 5 v27 9).bind fun v28 => (if nrm v28 < nrm x7 then (k s0 x2 x3 x4 x5 x6) else ((gR s0 0 (some x0) 14).bind fun v29 => (aR s0 106 v29 x6).bind fun v30 => (aI s0 102 v30 x7).bind fun v31 => jn (fun (s32 : Hp) (x2 : Int) (x3 : Int) (x4 : Int) (x5 : Int) (x6 : Int) (x7 : Int) (y0 : Int) => (if nrm y0 < 0 then (f_X0_deepest_L122 x0 n s32 x2 x3 x4 x5 x6 (x7 + 1) k) else ((if nrm y0 < nrm x3 then (f_X0_deepest_L122 x0 n s32 x2 y0 x5 x5 x6 (x7 + 1) k) else (f_X0_deepest_L122 x0 n s32 x2 x3 x4 x5 x6 (x7 + 1) k))))) fun j163 => (if nrm v31 = 0 then (j163 s0 x2 x3 x4 x5 x6 x7 (-2)) else ((gR s0 0 (some x0) 7).bind fun v35 => (rcv s0 5 v35).bind fun b38 => bn (f_X5_shows s0 b38 x6 x7) fun v36 s37 => j163 s37 x2 x3 x4 x5 x6 x7 v36))))
theorem w_X0_deepest_L122 {σ0 : Hp} {w : Int × Hp} {x0 : Nat} : ∀ (n : Nat) (s0 : Hp) (x2 : Int) (x3 : Int) (x4 : Int) (x5 : Int) (x6 : Int) (x7 : Int) (k : (Hp → Int → Int → Int → Int → Int → Option (Int × Hp))), f_X0_deepest_L122 x0 n s0 x2 x3 x4 x5 x6 x7 k = some w → (∀ (s1 : Hp) (x2 : Int) (x3 : Int) (x4 : Int) (x5 : Int) (x6 : Int), k s1 x2 x3 x4 x5 x6 = some w → AW m_X0_deepest σ0 (oI w) 192 [some (rV (some x0)), none, some (iV x2), some (iV x3), some (iV x4), some (iV x5), some (iV x6), none, none] [] s1) → AW m_X0_deepest σ0 (oI w) 122 [some (rV (some x0)), none, some (iV x2), some (iV x3), some (iV x4), some (iV x5), some (iV x6), some (iV x7), none] [] s0 := by
  intro n
  induction n with
  | zero =>
    intro s0 x2 x3 x4 x5 x6 x7 k h hk
    rw [f_X0_deepest_L122] at h
    cases h
  | succ n ih =>
    intro s0 x2 x3 x4 x5 x6 x7 k h hk
    rw [f_X0_deepest_L122] at h
    refine AW.iload dX0_deepest_122 rfl ?_
    refine AW.aload_n dX0_deepest_124 rfl ?_
    refine AW.getR (t := 0) (k := 7) dX0_deepest_125 ck0 (Nat.le_of_ble_eq_true rfl) (fun _ => rfl) q553 (Or.inl rfl) h (fun v27 h => ?_)
    refine AW.getI (t := 5) (k := 9) dX0_deepest_128 ck5 (Nat.le_of_ble_eq_true rfl) (fun _ => rfl) q437 (Or.inl rfl) h (fun v28 h => ?_)
    refine AW.icmp_gt 192 dX0_deepest_131 (by decide) h (fun c40 h => ?_) (fun c40 h => ?_)
    · exact AW.fewer (L' := [some (rV (some x0)), none, some (iV x2), some (iV x3), some (iV x4), some (iV x5), some (iV x6), none, none]) (And.intro rfl (And.intro rfl (And.intro rfl (And.intro rfl (And.intro rfl (And.intro rfl trivial)))))) (hk _ _ _ _ _ _ h)
    · refine AW.aload_n dX0_deepest_134 rfl ?_
      refine AW.getR (t := 0) (k := 14) dX0_deepest_135 ck0 (Nat.le_of_ble_eq_true rfl) (fun _ => rfl) q560 (Or.inl rfl) h (fun v29 h => ?_)
      refine AW.iload dX0_deepest_138 rfl ?_
      refine AW.aald (t := 106) dX0_deepest_140 (Nat.le_of_ble_eq_true rfl) rfl (fun _ _ => rfl) h (fun v30 h => ?_)
      refine AW.iload dX0_deepest_141 rfl ?_
      refine AW.zald (t := 102) dX0_deepest_143 (Nat.le_of_ble_eq_true rfl) rfl h (fun v31 h => ?_)
      refine jn_elim h (fun (j : (Hp → Int → Int → Int → Int → Int → Int → Int → Option (Int × Hp))) => ∀ (s32 : Hp) (x2 : Int) (x3 : Int) (x4 : Int) (x5 : Int) (x6 : Int) (x7 : Int) (y0 : Int), j s32 x2 x3 x4 x5 x6 x7 y0 = some w → AW m_X0_deepest σ0 (oI w) 163 [some (rV (some x0)), none, some (iV x2), some (iV x3), some (iV x4), some (iV x5), some (iV x6), some (iV x7), none] [iV y0] s32) ?_ (fun j163 hj163 h => ?_)
      · intro s32 x2 x3 x4 x5 x6 x7 y0 h
        refine AW.istore (L' := [some (rV (some x0)), none, some (iV x2), some (iV x3), some (iV x4), some (iV x5), some (iV x6), some (iV x7), some (iV y0)]) dX0_deepest_163 (Nat.le_of_ble_eq_true rfl) rfl rfl ?_
        refine AW.iload dX0_deepest_165 rfl ?_
        refine AW.if_lt 186 dX0_deepest_167 (by decide) h (fun c34 h => ?_) (fun c34 h => ?_)
        · refine AW.iinc (L' := [some (rV (some x0)), none, some (iV x2), some (iV x3), some (iV x4), some (iV x5), some (iV x6), some (iV (x7 + 1)), some (iV y0)]) dX0_deepest_186 rfl (Nat.le_of_ble_eq_true rfl) rfl rfl ?_
          refine AW.goto (tgt := 122) dX0_deepest_189 (by decide) ?_
          exact AW.fewer (L' := [some (rV (some x0)), none, some (iV x2), some (iV x3), some (iV x4), some (iV x5), some (iV x6), some (iV (x7 + 1)), none]) (And.intro rfl (And.intro rfl (And.intro rfl (And.intro rfl (And.intro rfl (And.intro rfl (And.intro rfl trivial))))))) (ih _ _ _ _ _ _ _ _ h hk)
        · refine AW.iload dX0_deepest_170 rfl ?_
          refine AW.iload_n dX0_deepest_172 rfl ?_
          refine AW.icmp_lt 179 dX0_deepest_173 (by decide) h (fun c33 h => ?_) (fun c33 h => ?_)
          · refine AW.iload dX0_deepest_179 rfl ?_
            refine AW.istore_n (L' := [some (rV (some x0)), none, some (iV x2), some (iV y0), some (iV x4), some (iV x5), some (iV x6), some (iV x7), some (iV y0)]) dX0_deepest_181 (Nat.le_of_ble_eq_true rfl) rfl rfl ?_
            refine AW.iload dX0_deepest_182 rfl ?_
            refine AW.istore (L' := [some (rV (some x0)), none, some (iV x2), some (iV y0), some (iV x5), some (iV x5), some (iV x6), some (iV x7), some (iV y0)]) dX0_deepest_184 (Nat.le_of_ble_eq_true rfl) rfl rfl ?_
            refine AW.iinc (L' := [some (rV (some x0)), none, some (iV x2), some (iV y0), some (iV x5), some (iV x5), some (iV x6), some (iV (x7 + 1)), some (iV y0)]) dX0_deepest_186 rfl (Nat.le_of_ble_eq_true rfl) rfl rfl ?_
            refine AW.goto (tgt := 122) dX0_deepest_189 (by decide) ?_
            exact AW.fewer (L' := [some (rV (some x0)), none, some (iV x2), some (iV y0), some (iV x5), some (iV x5), some (iV x6), some (iV (x7 + 1)), none]) (And.intro rfl (And.intro rfl (And.intro rfl (And.intro rfl (And.intro rfl (And.intro rfl (And.intro rfl trivial))))))) (ih _ _ _ _ _ _ _ _ h hk)
          · refine AW.goto (tgt := 186) dX0_deepest_176 (by decide) ?_
            refine AW.iinc (L' := [some (rV (some x0)), none, some (iV x2), some (iV x3), some (iV x4), some (iV x5), some (iV x6), some (iV (x7 + 1)), some (iV y0)]) dX0_deepest_186 rfl (Nat.le_of_ble_eq_true rfl) rfl rfl ?_
            refine AW.goto (tgt := 122) dX0_deepest_189 (by decide) ?_
            exact AW.fewer (L' := [some (rV (some x0)), none, some (iV x2), some (iV x3), some (iV x4), some (iV x5), some (iV x6), some (iV (x7 + 1)), none]) (And.intro rfl (And.intro rfl (And.intro rfl (And.intro rfl (And.intro rfl (And.intro rfl (And.intro rfl trivial))))))) (ih _ _ _ _ _ _ _ _ h hk)
      · refine AW.if_eq 161 dX0_deepest_144 (by decide) h (fun c39 h => ?_) (fun c39 h => ?_)
        · refine AW.bipush dX0_deepest_161 (by decide) ?_
          exact hj163 _ _ _ _ _ _ _ _ h
        · refine AW.aload_n dX0_deepest_147 rfl ?_
          refine AW.getR (t := 0) (k := 7) dX0_deepest_148 ck0 (Nat.le_of_ble_eq_true rfl) (fun _ => rfl) q553 (Or.inl rfl) h (fun v35 h => ?_)
          refine AW.iload dX0_deepest_151 rfl ?_
          refine AW.iload dX0_deepest_153 rfl ?_
          refine AW.VI (M' := m_X5_shows) (t := 5) [iV x6, iV x7] [] dX0_deepest_155 q1199 q1200 q1201 q132 q1202 ck5 rfl n_X5_shows rfl rfl rfl (fun _ _ _ e => c_X5_shows e) h (fun v36 s37 h => ?_)
          refine AW.goto (tgt := 163) dX0_deepest_158 (by decide) ?_
          exact hj163 _ _ _ _ _ _ _ _ h
def f_X0_deepest_L110 (x0 : Nat) : Nat → Hp → Int → Int → Int → Int → Int → (Hp → Int → Int → Int → Int → Option (Int × Hp)) → Option (Int × Hp)
  | 0, _, _, _, _, _, _, _ => none
  | n + 1, s0, x2, x3, x4, x5, x6, k => (rcv s0 0 (some x0)).bind fun b26 => bn (f_X0_mirrors s0 b26) fun v24 s25 => (if nrm v24 ≤ nrm x6 then (k s25 x2 x3 x4 x5) else (f_X0_deepest_L122 x0 FU s25 x2 x3 x4 x5 x6 0 (fun s41 x2 x3 x4 x5 x6 => f_X0_deepest_L110 x0 n s41 x2 x3 x4 x5 (x6 + 1) k)))
theorem w_X0_deepest_L110 {σ0 : Hp} {w : Int × Hp} {x0 : Nat} : ∀ (n : Nat) (s0 : Hp) (x2 : Int) (x3 : Int) (x4 : Int) (x5 : Int) (x6 : Int) (k : (Hp → Int → Int → Int → Int → Option (Int × Hp))), f_X0_deepest_L110 x0 n s0 x2 x3 x4 x5 x6 k = some w → (∀ (s1 : Hp) (x2 : Int) (x3 : Int) (x4 : Int) (x5 : Int), k s1 x2 x3 x4 x5 = some w → AW m_X0_deepest σ0 (oI w) 198 [some (rV (some x0)), none, some (iV x2), some (iV x3), some (iV x4), some (iV x5), none, none, none] [] s1) → AW m_X0_deepest σ0 (oI w) 110 [some (rV (some x0)), none, some (iV x2), some (iV x3), some (iV x4), some (iV x5), some (iV x6), none, none] [] s0 := by
  intro n
  induction n with
  | zero =>
    intro s0 x2 x3 x4 x5 x6 k h hk
    rw [f_X0_deepest_L110] at h
    cases h
  | succ n ih =>
    intro s0 x2 x3 x4 x5 x6 k h hk
    rw [f_X0_deepest_L110] at h
    refine AW.iload dX0_deepest_110 rfl ?_
    refine AW.aload_n dX0_deepest_112 rfl ?_
    refine AW.VI (M' := m_X0_mirrors) (t := 0) [] [iV x6] dX0_deepest_113 q1195 q1197 qs35 q121 q1198 ck0 rfl n_X0_mirrors rfl rfl rfl (fun _ _ _ e => c_X0_mirrors e) h (fun v24 s25 h => ?_)
    refine AW.icmp_ge 198 dX0_deepest_116 (by decide) h (fun c42 h => ?_) (fun c42 h => ?_)
    · exact AW.fewer (L' := [some (rV (some x0)), none, some (iV x2), some (iV x3), some (iV x4), some (iV x5), none, none, none]) (And.intro rfl (And.intro rfl (And.intro rfl (And.intro rfl (And.intro rfl trivial))))) (hk _ _ _ _ _ h)
    · refine AW.iconst dX0_deepest_119 ?_
      refine AW.istore (L' := [some (rV (some x0)), none, some (iV x2), some (iV x3), some (iV x4), some (iV x5), some (iV x6), some (iV 0), none]) dX0_deepest_120 (Nat.le_of_ble_eq_true rfl) rfl rfl ?_
      refine w_X0_deepest_L122 _ _ _ _ _ _ _ _ _ h (fun s41 x2 x3 x4 x5 x6 h => ?_)
      refine AW.iinc (L' := [some (rV (some x0)), none, some (iV x2), some (iV x3), some (iV x4), some (iV x5), some (iV (x6 + 1)), none, none]) dX0_deepest_192 rfl (Nat.le_of_ble_eq_true rfl) rfl rfl ?_
      refine AW.goto (tgt := 110) dX0_deepest_195 (by decide) ?_
      exact ih _ _ _ _ _ _ _ h hk
def f_X0_deepest_L101 (x0 : Nat) : Nat → Hp → Int → Int → Int → Int → (Hp → Int → Int → Int → Option (Int × Hp)) → Option (Int × Hp)
  | 0, _, _, _, _, _, _ => none
  | n + 1, s0, x2, x3, x4, x5, k => (if nrm 4 < nrm x5 then (k s0 x2 x3 x4) else (f_X0_deepest_L110 x0 FU s0 x2 x3 x4 x5 0 (fun s43 x2 x3 x4 x5 => (rcv s43 0 (some x0)).bind fun b45 => bn (f_X0_goesDeeper s43 b45) fun _ s44 => f_X0_deepest_L101 x0 n s44 x2 x3 x4 (x5 + 1) k)))
theorem w_X0_deepest_L101 {σ0 : Hp} {w : Int × Hp} {x0 : Nat} : ∀ (n : Nat) (s0 : Hp) (x2 : Int) (x3 : Int) (x4 : Int) (x5 : Int) (k : (Hp → Int → Int → Int → Option (Int × Hp))), f_X0_deepest_L101 x0 n s0 x2 x3 x4 x5 k = some w → (∀ (s1 : Hp) (x2 : Int) (x3 : Int) (x4 : Int), k s1 x2 x3 x4 = some w → AW m_X0_deepest σ0 (oI w) 208 [none, none, some (iV x2), some (iV x3), some (iV x4), none, none, none, none] [] s1) → AW m_X0_deepest σ0 (oI w) 101 [some (rV (some x0)), none, some (iV x2), some (iV x3), some (iV x4), some (iV x5), none, none, none] [] s0 := by
  intro n
  induction n with
  | zero =>
    intro s0 x2 x3 x4 x5 k h hk
    rw [f_X0_deepest_L101] at h
    cases h
  | succ n ih =>
    intro s0 x2 x3 x4 x5 k h hk
    rw [f_X0_deepest_L101] at h
    refine AW.iload dX0_deepest_101 rfl ?_
    refine AW.iconst dX0_deepest_103 ?_
    refine AW.icmp_gt 208 dX0_deepest_104 (by decide) h (fun c46 h => ?_) (fun c46 h => ?_)
    · exact AW.fewer (L' := [none, none, some (iV x2), some (iV x3), some (iV x4), none, none, none, none]) (And.intro rfl (And.intro rfl (And.intro rfl trivial))) (hk _ _ _ _ h)
    · refine AW.iconst dX0_deepest_107 ?_
      refine AW.istore (L' := [some (rV (some x0)), none, some (iV x2), some (iV x3), some (iV x4), some (iV x5), some (iV 0), none, none]) dX0_deepest_108 (Nat.le_of_ble_eq_true rfl) rfl rfl ?_
      refine w_X0_deepest_L110 _ _ _ _ _ _ _ _ h (fun s43 x2 x3 x4 x5 h => ?_)
      refine AW.aload_n dX0_deepest_198 rfl ?_
      refine AW.VU (M' := m_X0_goesDeeper) (t := 0) [] [] dX0_deepest_199 q1359 q1361 qs43 q121 q1362 ck0 rfl n_X0_goesDeeper rfl rfl rfl (fun _ _ _ e => c_X0_goesDeeper e) h (fun _ s44 h => ?_)
      refine AW.iinc (L' := [some (rV (some x0)), none, some (iV x2), some (iV x3), some (iV x4), some (iV (x5 + 1)), none, none, none]) dX0_deepest_202 rfl (Nat.le_of_ble_eq_true rfl) rfl rfl ?_
      refine AW.goto (tgt := 101) dX0_deepest_205 (by decide) ?_
      exact ih _ _ _ _ _ _ h hk
def f_X0_deepest (s0 : Hp) (x0 : Nat) (x1 : Int) (x2 : Int) : Option (Int × Hp) :=
  (rcv s0 0 (some x0)).bind fun b3 => bn (f_X0_isMirror s0 b3 x1) fun v1 s2 => (if nrm v1 = 0 then (some ((-1), s2)) else (bn (f_X0_isIn s2 x2 0 1) fun v4 s5 => (if ¬ nrm v4 = 0 then (f_X0_deepest_L29 x0 FU s5 x1 x2 300 0 0 (fun s23 x2 x3 x4 => f_X0_deepest_L101 x0 FU s23 x2 x3 x4 1 (fun s47 x2 x3 x4 => (if ¬ nrm x3 = nrm 300 then ((if ¬ nrm x2 = 0 then (some (nrm x4, s47)) else (some (nrm x3, s47)))) else (some ((-2), s47)))))) else (some ((-1), s5)))))
theorem w_X0_deepest {σ0 : Hp} {w : Int × Hp} (s0 : Hp) (x0 : Nat) (x1 : Int) (x2 : Int) (h : f_X0_deepest s0 x0 x1 x2 = some w) : AW m_X0_deepest σ0 (oI w) 0 [some (rV (some x0)), some (iV x1), some (iV x2), none, none, none, none, none, none] [] s0 := by
  unfold f_X0_deepest at h
  refine AW.aload_n dX0_deepest_0 rfl ?_
  refine AW.iload_n dX0_deepest_1 rfl ?_
  refine AW.VI (M' := m_X0_isMirror) (t := 0) [iV x1] [] dX0_deepest_2 q1191 q1193 qs34 q121 q1194 ck0 rfl n_X0_isMirror rfl rfl rfl (fun _ _ _ e => c_X0_isMirror e) h (fun v1 s2 h => ?_)
  refine AW.if_eq 17 dX0_deepest_5 (by decide) h (fun c51 h => ?_) (fun c51 h => ?_)
  · refine AW.iconst dX0_deepest_17 ?_
    cases h
    exact AW.iret dX0_deepest_18 rfl
  · refine AW.iload_n dX0_deepest_8 rfl ?_
    refine AW.iconst dX0_deepest_9 ?_
    refine AW.iconst dX0_deepest_10 ?_
    refine AW.SI (M' := m_X0_isIn) [iV x2, iV 0, iV 1] [] dX0_deepest_11 q1180 q1181 q121 q1182 n_X0_isIn rfl rfl rfl (fun _ _ e => c_X0_isIn e) h (fun v4 s5 h => ?_)
    refine AW.if_ne 19 dX0_deepest_14 (by decide) h (fun c50 h => ?_) (fun c50 h => ?_)
    · refine AW.sipush dX0_deepest_19 (by decide) ?_
      refine AW.istore_n (L' := [some (rV (some x0)), some (iV x1), some (iV x2), some (iV 300), none, none, none, none, none]) dX0_deepest_22 (Nat.le_of_ble_eq_true rfl) rfl rfl ?_
      refine AW.iconst dX0_deepest_23 ?_
      refine AW.istore (L' := [some (rV (some x0)), some (iV x1), some (iV x2), some (iV 300), some (iV 0), none, none, none, none]) dX0_deepest_24 (Nat.le_of_ble_eq_true rfl) rfl rfl ?_
      refine AW.iconst dX0_deepest_26 ?_
      refine AW.istore (L' := [some (rV (some x0)), some (iV x1), some (iV x2), some (iV 300), some (iV 0), some (iV 0), none, none, none]) dX0_deepest_27 (Nat.le_of_ble_eq_true rfl) rfl rfl ?_
      refine w_X0_deepest_L29 _ _ _ _ _ _ _ _ h (fun s23 x2 x3 x4 h => ?_)
      refine AW.iconst dX0_deepest_98 ?_
      refine AW.istore (L' := [some (rV (some x0)), none, some (iV x2), some (iV x3), some (iV x4), some (iV 1), none, none, none]) dX0_deepest_99 (Nat.le_of_ble_eq_true rfl) rfl rfl ?_
      refine w_X0_deepest_L101 _ _ _ _ _ _ _ h (fun s47 x2 x3 x4 h => ?_)
      refine AW.iload_n dX0_deepest_208 rfl ?_
      refine AW.sipush dX0_deepest_209 (by decide) ?_
      refine AW.icmp_ne 220 dX0_deepest_212 (by decide) h (fun c49 h => ?_) (fun c49 h => ?_)
      · refine AW.iload_n dX0_deepest_220 rfl ?_
        refine AW.if_ne 228 dX0_deepest_221 (by decide) h (fun c48 h => ?_) (fun c48 h => ?_)
        · refine AW.iload dX0_deepest_228 rfl ?_
          refine AW.nv ?_
          cases h
          exact AW.iret dX0_deepest_230 rfl
        · refine AW.iload_n dX0_deepest_224 rfl ?_
          refine AW.goto (tgt := 230) dX0_deepest_225 (by decide) ?_
          refine AW.nv ?_
          cases h
          exact AW.iret dX0_deepest_230 rfl
      · refine AW.bipush dX0_deepest_215 (by decide) ?_
        refine AW.goto (tgt := 230) dX0_deepest_217 (by decide) ?_
        cases h
        exact AW.iret dX0_deepest_230 rfl
    · refine AW.iconst dX0_deepest_17 ?_
      cases h
      exact AW.iret dX0_deepest_18 rfl
theorem c_X0_deepest {s0 : Hp} {x0 : Nat} {x1 : Int} {x2 : Int} {v : Int} {s1 : Hp} (h : f_X0_deepest s0 x0 x1 x2 = some (v, s1)) : Ct m_X0_deepest [rV (some x0), iV x1, iV x2] s0 (.inl (some (iV v)), s1) :=
  Ct.of2 (w_X0_deepest s0 x0 x1 x2 h) (show plainName yX0_deepest.cls = true by decide) rfl rfl rfl
abbrev m_X0_facing : Mi := (yX0_facing, cX0_facing, (some .int), 6, 4, 89, [])
theorem n_X0_facing : nameOk yX0_facing 3 := ⟨by decide, by decide, by decide +kernel⟩
def f_X0_facing_L49 (x0 : Nat) : Nat → Hp → Int → Int → Int → Int → Int → (Hp → Int → Int → Option (Int × Hp)) → Option (Int × Hp)
  | 0, _, _, _, _, _, _, _ => none
  | n + 1, s0, x1, x2, x3, x4, x5, k => (if nrm x5 = 0 then (k s0 x3 x4) else ((if nrm 20 ≤ nrm x4 then (k s0 x3 x4) else ((gR s0 0 (some x0) 12).bind fun v12 => (gR s0 0 (some x0) 7).bind fun v13 => (rcv s0 7 v12).bind fun b16 => bn (f_X7_shows s0 b16 v13) fun v14 s15 => (if nrm v14 < 0 then (k s15 x3 x4) else ((if ¬ nrm x4 = nrm x3 then ((gR s15 0 (some x0) 12).bind fun v17 => (gR s15 0 (some x0) 7).bind fun v18 => (gR s15 0 (some x0) 12).bind fun v19 => (gI s15 7 v19 0).bind fun v20 => jn (fun (s21 : Hp) (x1 : Int) (x2 : Int) (x3 : Int) (x4 : Int) (y0 : Option Nat) (y1 : Option Nat) (y2 : Int) => (rcv s21 7 y0).bind fun b24 => bn (f_X7_goesTo s21 b24 y1 y2) fun v22 s23 => f_X0_facing_L49 x0 n s23 x1 x2 x3 x4 v22 k) fun j120 => (if ¬ nrm v20 = nrm x1 then (j120 s15 x1 x2 x3 (x4 + 1) v17 v18 x1) else (j120 s15 x1 x2 x3 (x4 + 1) v17 v18 x2))) else ((gR s15 0 (some x0) 12).bind fun v26 => (gR s15 0 (some x0) 7).bind fun v27 => (rcv s15 7 v26).bind fun b30 => bn (f_X7_shows s15 b30 v27) fun v28 s29 => some (v28, s29)))))))))
theorem w_X0_facing_L49 {σ0 : Hp} {w : Int × Hp} {x0 : Nat} : ∀ (n : Nat) (s0 : Hp) (x1 : Int) (x2 : Int) (x3 : Int) (x4 : Int) (x5 : Int) (k : (Hp → Int → Int → Option (Int × Hp))), f_X0_facing_L49 x0 n s0 x1 x2 x3 x4 x5 k = some w → (∀ (s1 : Hp) (x3 : Int) (x4 : Int), k s1 x3 x4 = some w → AW m_X0_facing σ0 (oI w) 128 [none, none, none, some (iV x3), some (iV x4), none] [] s1) → AW m_X0_facing σ0 (oI w) 49 [some (rV (some x0)), some (iV x1), some (iV x2), some (iV x3), some (iV x4), some (iV x5)] [] s0 := by
  intro n
  induction n with
  | zero =>
    intro s0 x1 x2 x3 x4 x5 k h hk
    rw [f_X0_facing_L49] at h
    cases h
  | succ n ih =>
    intro s0 x1 x2 x3 x4 x5 k h hk
    rw [f_X0_facing_L49] at h
    refine AW.iload dX0_facing_49 rfl ?_
    refine AW.if_eq 128 dX0_facing_51 (by decide) h (fun c34 h => ?_) (fun c34 h => ?_)
    · exact AW.fewer (L' := [none, none, none, some (iV x3), some (iV x4), none]) (And.intro rfl (And.intro rfl trivial)) (hk _ _ _ h)
    · refine AW.iload dX0_facing_54 rfl ?_
      refine AW.bipush dX0_facing_56 (by decide) ?_
      refine AW.icmp_ge 128 dX0_facing_58 (by decide) h (fun c33 h => ?_) (fun c33 h => ?_)
      · exact AW.fewer (L' := [none, none, none, some (iV x3), some (iV x4), none]) (And.intro rfl (And.intro rfl trivial)) (hk _ _ _ h)
      · refine AW.aload_n dX0_facing_61 rfl ?_
        refine AW.getR (t := 0) (k := 12) dX0_facing_62 ck0 (Nat.le_of_ble_eq_true rfl) (fun _ => rfl) q558 (Or.inl rfl) h (fun v12 h => ?_)
        refine AW.aload_n dX0_facing_65 rfl ?_
        refine AW.getR (t := 0) (k := 7) dX0_facing_66 ck0 (Nat.le_of_ble_eq_true rfl) (fun _ => rfl) q553 (Or.inl rfl) h (fun v13 h => ?_)
        refine AW.VI (M' := m_X7_shows) (t := 7) [rV v13] [] dX0_facing_69 q1303 q1299 q1300 q134 q1301 ck7 rfl n_X7_shows rfl rfl rfl (fun _ _ _ e => c_X7_shows e) h (fun v14 s15 h => ?_)
        refine AW.if_lt 128 dX0_facing_72 (by decide) h (fun c32 h => ?_) (fun c32 h => ?_)
        · exact AW.fewer (L' := [none, none, none, some (iV x3), some (iV x4), none]) (And.intro rfl (And.intro rfl trivial)) (hk _ _ _ h)
        · refine AW.iload dX0_facing_75 rfl ?_
          refine AW.iload_n dX0_facing_77 rfl ?_
          refine AW.icmp_ne 93 dX0_facing_78 (by decide) h (fun c31 h => ?_) (fun c31 h => ?_)
          · refine AW.iinc (L' := [some (rV (some x0)), some (iV x1), some (iV x2), some (iV x3), some (iV (x4 + 1)), some (iV x5)]) dX0_facing_93 rfl (Nat.le_of_ble_eq_true rfl) rfl rfl ?_
            refine AW.aload_n dX0_facing_96 rfl ?_
            refine AW.getR (t := 0) (k := 12) dX0_facing_97 ck0 (Nat.le_of_ble_eq_true rfl) (fun _ => rfl) q558 (Or.inl rfl) h (fun v17 h => ?_)
            refine AW.aload_n dX0_facing_100 rfl ?_
            refine AW.getR (t := 0) (k := 7) dX0_facing_101 ck0 (Nat.le_of_ble_eq_true rfl) (fun _ => rfl) q553 (Or.inl rfl) h (fun v18 h => ?_)
            refine AW.aload_n dX0_facing_104 rfl ?_
            refine AW.getR (t := 0) (k := 12) dX0_facing_105 ck0 (Nat.le_of_ble_eq_true rfl) (fun _ => rfl) q558 (Or.inl rfl) h (fun v19 h => ?_)
            refine AW.getI (t := 7) (k := 0) dX0_facing_108 ck7 (Nat.le_of_ble_eq_true rfl) (fun _ => rfl) q471 (Or.inl rfl) h (fun v20 h => ?_)
            refine AW.iload_n dX0_facing_111 rfl ?_
            refine jn_elim h (fun (j : (Hp → Int → Int → Int → Int → Option Nat → Option Nat → Int → Option (Int × Hp))) => ∀ (s21 : Hp) (x1 : Int) (x2 : Int) (x3 : Int) (x4 : Int) (y0 : Option Nat) (y1 : Option Nat) (y2 : Int), j s21 x1 x2 x3 x4 y0 y1 y2 = some w → AW m_X0_facing σ0 (oI w) 120 [some (rV (some x0)), some (iV x1), some (iV x2), some (iV x3), some (iV x4), none] [iV y2, rV y1, rV y0] s21) ?_ (fun j120 hj120 h => ?_)
            · intro s21 x1 x2 x3 x4 y0 y1 y2 h
              refine AW.VI (M' := m_X7_goesTo) (t := 7) [rV y1, iV y2] [] dX0_facing_120 q1294 q1295 q1296 q134 q1297 ck7 rfl n_X7_goesTo rfl rfl rfl (fun _ _ _ e => c_X7_goesTo e) h (fun v22 s23 h => ?_)
              refine AW.istore (L' := [some (rV (some x0)), some (iV x1), some (iV x2), some (iV x3), some (iV x4), some (iV v22)]) dX0_facing_123 (Nat.le_of_ble_eq_true rfl) rfl rfl ?_
              refine AW.goto (tgt := 49) dX0_facing_125 (by decide) ?_
              exact ih _ _ _ _ _ _ _ h hk
            · refine AW.icmp_ne 119 dX0_facing_112 (by decide) h (fun c25 h => ?_) (fun c25 h => ?_)
              · refine AW.iload_n dX0_facing_119 rfl ?_
                exact AW.fewer (L' := [some (rV (some x0)), some (iV x1), some (iV x2), some (iV x3), some (iV (x4 + 1)), none]) (And.intro rfl (And.intro rfl (And.intro rfl (And.intro rfl (And.intro rfl trivial))))) (hj120 _ _ _ _ _ _ _ _ h)
              · refine AW.iload_n dX0_facing_115 rfl ?_
                refine AW.goto (tgt := 120) dX0_facing_116 (by decide) ?_
                exact AW.fewer (L' := [some (rV (some x0)), some (iV x1), some (iV x2), some (iV x3), some (iV (x4 + 1)), none]) (And.intro rfl (And.intro rfl (And.intro rfl (And.intro rfl (And.intro rfl trivial))))) (hj120 _ _ _ _ _ _ _ _ h)
          · refine AW.aload_n dX0_facing_81 rfl ?_
            refine AW.getR (t := 0) (k := 12) dX0_facing_82 ck0 (Nat.le_of_ble_eq_true rfl) (fun _ => rfl) q558 (Or.inl rfl) h (fun v26 h => ?_)
            refine AW.aload_n dX0_facing_85 rfl ?_
            refine AW.getR (t := 0) (k := 7) dX0_facing_86 ck0 (Nat.le_of_ble_eq_true rfl) (fun _ => rfl) q553 (Or.inl rfl) h (fun v27 h => ?_)
            refine AW.VI (M' := m_X7_shows) (t := 7) [rV v27] [] dX0_facing_89 q1303 q1299 q1300 q134 q1301 ck7 rfl n_X7_shows rfl rfl rfl (fun _ _ _ e => c_X7_shows e) h (fun v28 s29 h => ?_)
            cases h
            exact AW.iret dX0_facing_92 rfl
def f_X0_facing (s0 : Hp) (x0 : Nat) (x1 : Int) (x2 : Int) (x3 : Int) : Option (Int × Hp) :=
  (rcv s0 0 (some x0)).bind fun b3 => bn (f_X0_isMirror s0 b3 x1) fun v1 s2 => (if nrm v1 = 0 then (some ((-1), s2)) else ((rcv s2 0 (some x0)).bind fun b6 => bn (f_X0_isMirror s2 b6 x2) fun v4 s5 => (if nrm v4 = 0 then (some ((-1), s5)) else ((if nrm x1 = nrm x2 then (some ((-1), s5)) else ((if nrm (-1) ≤ nrm x3 then ((gR s5 0 (some x0) 12).bind fun v7 => (gR s5 0 (some x0) 7).bind fun v8 => (gI s5 5 v8 9).bind fun v9 => (rcv s5 7 v7).bind fun b11 => bn (f_X7_begins s5 b11 x1 v9) fun _ s10 => f_X0_facing_L49 x0 FU s10 x1 x2 x3 0 1 (fun s35 x3 x4 => (if ¬ nrm x3 = nrm (-1) then (some ((-1), s35)) else (some (nrm x4, s35))))) else (some ((-1), s5)))))))))
theorem w_X0_facing {σ0 : Hp} {w : Int × Hp} (s0 : Hp) (x0 : Nat) (x1 : Int) (x2 : Int) (x3 : Int) (h : f_X0_facing s0 x0 x1 x2 x3 = some w) : AW m_X0_facing σ0 (oI w) 0 [some (rV (some x0)), some (iV x1), some (iV x2), some (iV x3), none, none] [] s0 := by
  unfold f_X0_facing at h
  refine AW.aload_n dX0_facing_0 rfl ?_
  refine AW.iload_n dX0_facing_1 rfl ?_
  refine AW.VI (M' := m_X0_isMirror) (t := 0) [iV x1] [] dX0_facing_2 q1191 q1193 qs34 q121 q1194 ck0 rfl n_X0_isMirror rfl rfl rfl (fun _ _ _ e => c_X0_isMirror e) h (fun v1 s2 h => ?_)
  refine AW.if_eq 26 dX0_facing_5 (by decide) h (fun c40 h => ?_) (fun c40 h => ?_)
  · refine AW.iconst dX0_facing_26 ?_
    cases h
    exact AW.iret dX0_facing_27 rfl
  · refine AW.aload_n dX0_facing_8 rfl ?_
    refine AW.iload_n dX0_facing_9 rfl ?_
    refine AW.VI (M' := m_X0_isMirror) (t := 0) [iV x2] [] dX0_facing_10 q1191 q1193 qs34 q121 q1194 ck0 rfl n_X0_isMirror rfl rfl rfl (fun _ _ _ e => c_X0_isMirror e) h (fun v4 s5 h => ?_)
    refine AW.if_eq 26 dX0_facing_13 (by decide) h (fun c39 h => ?_) (fun c39 h => ?_)
    · refine AW.iconst dX0_facing_26 ?_
      cases h
      exact AW.iret dX0_facing_27 rfl
    · refine AW.iload_n dX0_facing_16 rfl ?_
      refine AW.iload_n dX0_facing_17 rfl ?_
      refine AW.icmp_eq 26 dX0_facing_18 (by decide) h (fun c38 h => ?_) (fun c38 h => ?_)
      · refine AW.iconst dX0_facing_26 ?_
        cases h
        exact AW.iret dX0_facing_27 rfl
      · refine AW.iload_n dX0_facing_21 rfl ?_
        refine AW.iconst dX0_facing_22 ?_
        refine AW.icmp_ge 28 dX0_facing_23 (by decide) h (fun c37 h => ?_) (fun c37 h => ?_)
        · refine AW.iconst dX0_facing_28 ?_
          refine AW.istore (L' := [some (rV (some x0)), some (iV x1), some (iV x2), some (iV x3), some (iV 0), none]) dX0_facing_29 (Nat.le_of_ble_eq_true rfl) rfl rfl ?_
          refine AW.iconst dX0_facing_31 ?_
          refine AW.istore (L' := [some (rV (some x0)), some (iV x1), some (iV x2), some (iV x3), some (iV 0), some (iV 1)]) dX0_facing_32 (Nat.le_of_ble_eq_true rfl) rfl rfl ?_
          refine AW.aload_n dX0_facing_34 rfl ?_
          refine AW.getR (t := 0) (k := 12) dX0_facing_35 ck0 (Nat.le_of_ble_eq_true rfl) (fun _ => rfl) q558 (Or.inl rfl) h (fun v7 h => ?_)
          refine AW.iload_n dX0_facing_38 rfl ?_
          refine AW.aload_n dX0_facing_39 rfl ?_
          refine AW.getR (t := 0) (k := 7) dX0_facing_40 ck0 (Nat.le_of_ble_eq_true rfl) (fun _ => rfl) q553 (Or.inl rfl) h (fun v8 h => ?_)
          refine AW.getI (t := 5) (k := 9) dX0_facing_43 ck5 (Nat.le_of_ble_eq_true rfl) (fun _ => rfl) q437 (Or.inl rfl) h (fun v9 h => ?_)
          refine AW.VU (M' := m_X7_begins) (t := 7) [iV x1, iV v9] [] dX0_facing_46 q1290 q1291 q1292 q134 q1293 ck7 rfl n_X7_begins rfl rfl rfl (fun _ _ _ e => c_X7_begins e) h (fun _ s10 h => ?_)
          refine w_X0_facing_L49 _ _ _ _ _ _ _ _ h (fun s35 x3 x4 h => ?_)
          refine AW.iload_n dX0_facing_128 rfl ?_
          refine AW.iconst dX0_facing_129 ?_
          refine AW.icmp_ne 138 dX0_facing_130 (by decide) h (fun c36 h => ?_) (fun c36 h => ?_)
          · refine AW.iconst dX0_facing_138 ?_
            cases h
            exact AW.iret dX0_facing_139 rfl
          · refine AW.iload dX0_facing_133 rfl ?_
            refine AW.goto (tgt := 139) dX0_facing_135 (by decide) ?_
            refine AW.nv ?_
            cases h
            exact AW.iret dX0_facing_139 rfl
        · refine AW.iconst dX0_facing_26 ?_
          cases h
          exact AW.iret dX0_facing_27 rfl
theorem c_X0_facing {s0 : Hp} {x0 : Nat} {x1 : Int} {x2 : Int} {x3 : Int} {v : Int} {s1 : Hp} (h : f_X0_facing s0 x0 x1 x2 x3 = some (v, s1)) : Ct m_X0_facing [rV (some x0), iV x1, iV x2, iV x3] s0 (.inl (some (iV v)), s1) :=
  Ct.of2 (w_X0_facing s0 x0 x1 x2 x3 h) (show plainName yX0_facing.cls = true by decide) rfl rfl rfl
abbrev m_X0_typed : Mi := (yX0_typed, cX0_typed, none, 3, 0, 0, [])
theorem n_X0_typed : nameOk yX0_typed 1 := ⟨by decide, by decide, by decide +kernel⟩
def f_X0_typed_L3 (x0 : Nat) : Nat → Hp → Int → Int → (Hp → Option (Unit × Hp)) → Option (Unit × Hp)
  | 0, _, _, _, _ => none
  | n + 1, s0, x1, x2, k => (if nrm x2 < 0 then (k s0) else ((gR s0 0 (some x0) 1).bind fun v1 => (gR s0 2 v1 1).bind fun v2 => (gR s0 0 (some x0) 1).bind fun v3 => (gI s0 2 v3 2).bind fun v4 => (sI s0 101 v2 v4 (i8I (i8I (srI x1 x2)))).bind fun s5 => (gR s5 0 (some x0) 1).bind fun v6 => (gI s5 2 v6 2).bind fun v7 => (pI s5 2 v6 2 (nrm (v7 + 1))).bind fun s8 => f_X0_typed_L3 x0 n s8 x1 (x2 + (-8)) k))
theorem w_X0_typed_L3 {σ0 : Hp} {w : Unit × Hp} {x0 : Nat} : ∀ (n : Nat) (s0 : Hp) (x1 : Int) (x2 : Int) (k : (Hp → Option (Unit × Hp))), f_X0_typed_L3 x0 n s0 x1 x2 k = some w → (∀ (s1 : Hp), k s1 = some w → AW m_X0_typed σ0 (oU w) 45 [none, none, none] [] s1) → AW m_X0_typed σ0 (oU w) 3 [some (rV (some x0)), some (iV x1), some (iV x2)] [] s0 := by
  intro n
  induction n with
  | zero =>
    intro s0 x1 x2 k h hk
    rw [f_X0_typed_L3] at h
    cases h
  | succ n ih =>
    intro s0 x1 x2 k h hk
    rw [f_X0_typed_L3] at h
    refine AW.iload_n dX0_typed_3 rfl ?_
    refine AW.if_lt 45 dX0_typed_4 (by decide) h (fun c9 h => ?_) (fun c9 h => ?_)
    · exact AW.fewer (L' := [none, none, none]) (trivial) (hk _ h)
    · refine AW.aload_n dX0_typed_7 rfl ?_
      refine AW.getR (t := 0) (k := 1) dX0_typed_8 ck0 (Nat.le_of_ble_eq_true rfl) (fun _ => rfl) q547 (Or.inl rfl) h (fun v1 h => ?_)
      refine AW.getR (t := 2) (k := 1) dX0_typed_11 ck2 (Nat.le_of_ble_eq_true rfl) (fun _ => rfl) q266 (Or.inl rfl) h (fun v2 h => ?_)
      refine AW.aload_n dX0_typed_14 rfl ?_
      refine AW.getR (t := 0) (k := 1) dX0_typed_15 ck0 (Nat.le_of_ble_eq_true rfl) (fun _ => rfl) q547 (Or.inl rfl) h (fun v3 h => ?_)
      refine AW.getI (t := 2) (k := 2) dX0_typed_18 ck2 (Nat.le_of_ble_eq_true rfl) (fun _ => rfl) q268 (Or.inl rfl) h (fun v4 h => ?_)
      refine AW.iload_n dX0_typed_21 rfl ?_
      refine AW.iload_n dX0_typed_22 rfl ?_
      refine AW.ishr dX0_typed_23 ?_
      refine AW.i2b dX0_typed_24 ?_
      refine AW.bast (t := 101) dX0_typed_25 (Nat.le_of_ble_eq_true rfl) mu101 rfl h (fun s5 h => ?_)
      refine AW.aload_n dX0_typed_26 rfl ?_
      refine AW.getR (t := 0) (k := 1) dX0_typed_27 ck0 (Nat.le_of_ble_eq_true rfl) (fun _ => rfl) q547 (Or.inl rfl) h (fun v6 h => ?_)
      refine AW.dupR dX0_typed_30 ?_
      refine AW.getI (t := 2) (k := 2) dX0_typed_31 ck2 (Nat.le_of_ble_eq_true rfl) (fun _ => rfl) q268 (Or.inl rfl) h (fun v7 h => ?_)
      refine AW.iconst dX0_typed_34 ?_
      refine AW.iadd dX0_typed_35 ?_
      refine AW.nv ?_
      refine AW.putI (t := 2) (k := 2) dX0_typed_36 ck2 mu2 (Nat.le_of_ble_eq_true rfl) rfl q268 (Or.inl rfl) (Or.inl rfl) h (fun s8 h => ?_)
      refine AW.iinc (L' := [some (rV (some x0)), some (iV x1), some (iV (x2 + (-8)))]) dX0_typed_39 rfl (Nat.le_of_ble_eq_true rfl) rfl rfl ?_
      refine AW.goto (tgt := 3) dX0_typed_42 (by decide) ?_
      exact ih _ _ _ _ h hk
def f_X0_typed (s0 : Hp) (x0 : Nat) (x1 : Int) : Option (Unit × Hp) :=
  f_X0_typed_L3 x0 FU s0 x1 24 (fun s10 => some ((), s10))
theorem w_X0_typed {σ0 : Hp} {w : Unit × Hp} (s0 : Hp) (x0 : Nat) (x1 : Int) (h : f_X0_typed s0 x0 x1 = some w) : AW m_X0_typed σ0 (oU w) 0 [some (rV (some x0)), some (iV x1), none] [] s0 := by
  unfold f_X0_typed at h
  refine AW.bipush dX0_typed_0 (by decide) ?_
  refine AW.istore_n (L' := [some (rV (some x0)), some (iV x1), some (iV 24)]) dX0_typed_2 (Nat.le_of_ble_eq_true rfl) rfl rfl ?_
  refine w_X0_typed_L3 _ _ _ _ _ h (fun s10 h => ?_)
  cases h
  exact AW.vret dX0_typed_45 rfl
theorem c_X0_typed {s0 : Hp} {x0 : Nat} {x1 : Int} {v : Unit} {s1 : Hp} (h : f_X0_typed s0 x0 x1 = some (v, s1)) : Ct m_X0_typed [rV (some x0), iV x1] s0 (.inl none, s1) :=
  Ct.of2 (w_X0_typed s0 x0 x1 h) (show plainName yX0_typed.cls = true by decide) rfl rfl rfl
abbrev m_X0_feed : Mi := (yX0_feed, cX0_feed, (some .int), 6, 1, 22, [])
theorem n_X0_feed : nameOk yX0_feed 5 := ⟨by decide, by decide, by decide +kernel⟩
def f_X0_feed (s0 : Hp) (x0 : Nat) (x1 : Int) (x2 : Int) (x3 : Int) (x4 : Int) (x5 : Int) : Option (Int × Hp) :=
  (gR s0 0 (some x0) 1).bind fun v1 => (gI s0 2 v1 2).bind fun v2 => (if nrm (v2 + 20) ≤ nrm 2000 then ((rcv s0 0 (some x0)).bind fun b4 => bn (f_X0_typed s0 b4 x1) fun _ s3 => (rcv s3 0 (some x0)).bind fun b6 => bn (f_X0_typed s3 b6 x2) fun _ s5 => (rcv s5 0 (some x0)).bind fun b8 => bn (f_X0_typed s5 b8 x3) fun _ s7 => (rcv s7 0 (some x0)).bind fun b10 => bn (f_X0_typed s7 b10 x4) fun _ s9 => (rcv s9 0 (some x0)).bind fun b12 => bn (f_X0_typed s9 b12 x5) fun _ s11 => (gR s11 0 (some x0) 1).bind fun v13 => (gI s11 2 v13 2).bind fun v14 => some (v14, s11)) else (some ((-1), s0)))
theorem w_X0_feed {σ0 : Hp} {w : Int × Hp} (s0 : Hp) (x0 : Nat) (x1 : Int) (x2 : Int) (x3 : Int) (x4 : Int) (x5 : Int) (h : f_X0_feed s0 x0 x1 x2 x3 x4 x5 = some w) : AW m_X0_feed σ0 (oI w) 0 [some (rV (some x0)), some (iV x1), some (iV x2), some (iV x3), some (iV x4), some (iV x5)] [] s0 := by
  unfold f_X0_feed at h
  refine AW.aload_n dX0_feed_0 rfl ?_
  refine AW.getR (t := 0) (k := 1) dX0_feed_1 ck0 (Nat.le_of_ble_eq_true rfl) (fun _ => rfl) q547 (Or.inl rfl) h (fun v1 h => ?_)
  refine AW.getI (t := 2) (k := 2) dX0_feed_4 ck2 (Nat.le_of_ble_eq_true rfl) (fun _ => rfl) q268 (Or.inl rfl) h (fun v2 h => ?_)
  refine AW.bipush dX0_feed_7 (by decide) ?_
  refine AW.iadd dX0_feed_9 ?_
  refine AW.sipush dX0_feed_10 (by decide) ?_
  refine AW.icmp_le 18 dX0_feed_13 (by decide) h (fun c15 h => ?_) (fun c15 h => ?_)
  · refine AW.aload_n dX0_feed_18 rfl ?_
    refine AW.iload_n dX0_feed_19 rfl ?_
    refine AW.VU (M' := m_X0_typed) (t := 0) [iV x1] [] dX0_feed_20 q620 q622 qs1 q121 q623 ck0 rfl n_X0_typed rfl rfl rfl (fun _ _ _ e => c_X0_typed e) h (fun _ s3 h => ?_)
    refine AW.aload_n dX0_feed_23 rfl ?_
    refine AW.iload_n dX0_feed_24 rfl ?_
    refine AW.VU (M' := m_X0_typed) (t := 0) [iV x2] [] dX0_feed_25 q620 q622 qs1 q121 q623 ck0 rfl n_X0_typed rfl rfl rfl (fun _ _ _ e => c_X0_typed e) h (fun _ s5 h => ?_)
    refine AW.aload_n dX0_feed_28 rfl ?_
    refine AW.iload_n dX0_feed_29 rfl ?_
    refine AW.VU (M' := m_X0_typed) (t := 0) [iV x3] [] dX0_feed_30 q620 q622 qs1 q121 q623 ck0 rfl n_X0_typed rfl rfl rfl (fun _ _ _ e => c_X0_typed e) h (fun _ s7 h => ?_)
    refine AW.aload_n dX0_feed_33 rfl ?_
    refine AW.iload dX0_feed_34 rfl ?_
    refine AW.VU (M' := m_X0_typed) (t := 0) [iV x4] [] dX0_feed_36 q620 q622 qs1 q121 q623 ck0 rfl n_X0_typed rfl rfl rfl (fun _ _ _ e => c_X0_typed e) h (fun _ s9 h => ?_)
    refine AW.aload_n dX0_feed_39 rfl ?_
    refine AW.iload dX0_feed_40 rfl ?_
    refine AW.VU (M' := m_X0_typed) (t := 0) [iV x5] [] dX0_feed_42 q620 q622 qs1 q121 q623 ck0 rfl n_X0_typed rfl rfl rfl (fun _ _ _ e => c_X0_typed e) h (fun _ s11 h => ?_)
    refine AW.aload_n dX0_feed_45 rfl ?_
    refine AW.getR (t := 0) (k := 1) dX0_feed_46 ck0 (Nat.le_of_ble_eq_true rfl) (fun _ => rfl) q547 (Or.inl rfl) h (fun v13 h => ?_)
    refine AW.getI (t := 2) (k := 2) dX0_feed_49 ck2 (Nat.le_of_ble_eq_true rfl) (fun _ => rfl) q268 (Or.inl rfl) h (fun v14 h => ?_)
    cases h
    exact AW.iret dX0_feed_52 rfl
  · refine AW.iconst dX0_feed_16 ?_
    cases h
    exact AW.iret dX0_feed_17 rfl
theorem c_X0_feed {s0 : Hp} {x0 : Nat} {x1 : Int} {x2 : Int} {x3 : Int} {x4 : Int} {x5 : Int} {v : Int} {s1 : Hp} (h : f_X0_feed s0 x0 x1 x2 x3 x4 x5 = some (v, s1)) : Ct m_X0_feed [rV (some x0), iV x1, iV x2, iV x3, iV x4, iV x5] s0 (.inl (some (iV v)), s1) :=
  Ct.of2 (w_X0_feed s0 x0 x1 x2 x3 x4 x5 h) (show plainName yX0_feed.cls = true by decide) rfl rfl rfl
abbrev m_X0_forget : Mi := (yX0_forget, cX0_forget, (some .int), 2, 0, 0, [])
theorem n_X0_forget : nameOk yX0_forget 0 := ⟨by decide, by decide, by decide +kernel⟩
def f_X0_forget (s0 : Hp) (x0 : Nat) : Option (Int × Hp) :=
  (gI s0 0 (some x0) 18).bind fun v1 => (pI s0 0 (some x0) 18 0).bind fun s2 => some (v1, s2)
theorem w_X0_forget {σ0 : Hp} {w : Int × Hp} (s0 : Hp) (x0 : Nat) (h : f_X0_forget s0 x0 = some w) : AW m_X0_forget σ0 (oI w) 0 [some (rV (some x0)), none] [] s0 := by
  unfold f_X0_forget at h
  refine AW.aload_n dX0_forget_0 rfl ?_
  refine AW.getI (t := 0) (k := 18) dX0_forget_1 ck0 (Nat.le_of_ble_eq_true rfl) (fun _ => rfl) q564 (Or.inl rfl) h (fun v1 h => ?_)
  refine AW.istore_n (L' := [some (rV (some x0)), some (iV v1)]) dX0_forget_4 (Nat.le_of_ble_eq_true rfl) rfl rfl ?_
  refine AW.aload_n dX0_forget_5 rfl ?_
  refine AW.iconst dX0_forget_6 ?_
  refine AW.putI (t := 0) (k := 18) dX0_forget_7 ck0 mu0 (Nat.le_of_ble_eq_true rfl) rfl q564 (Or.inl rfl) (Or.inl rfl) h (fun s2 h => ?_)
  refine AW.iload_n dX0_forget_10 rfl ?_
  cases h
  exact AW.iret dX0_forget_11 rfl
theorem c_X0_forget {s0 : Hp} {x0 : Nat} {v : Int} {s1 : Hp} (h : f_X0_forget s0 x0 = some (v, s1)) : Ct m_X0_forget [rV (some x0)] s0 (.inl (some (iV v)), s1) :=
  Ct.of2 (w_X0_forget s0 x0 h) (show plainName yX0_forget.cls = true by decide) rfl rfl rfl
abbrev m_X0_ghosts : Mi := (yX0_ghosts, cX0_ghosts, (some .int), 6, 3, 61, [])
theorem n_X0_ghosts : nameOk yX0_ghosts 1 := ⟨by decide, by decide, by decide +kernel⟩
def f_X0_ghosts_L23 (x0 : Nat) : Nat → Hp → Int → Int → Int → Int → (Hp → Int → Option (Int × Hp)) → Option (Int × Hp)
  | 0, _, _, _, _, _, _ => none
  | n + 1, s0, x1, x2, x3, x4, k => (rcv s0 0 (some x0)).bind fun b8 => bn (f_X0_mirrors s0 b8) fun v6 s7 => (if nrm v6 ≤ nrm x4 then (k s7 x2) else ((gR s7 0 (some x0) 7).bind fun v9 => (rcv s7 5 v9).bind fun b12 => bn (f_X5_shows s7 b12 x4 x3) fun v10 s11 => (gR s11 0 (some x0) 7).bind fun v13 => (gR s11 5 v13 2).bind fun v14 => (aR s11 105 v14 x4).bind fun v15 => (aI s11 101 v15 x3).bind fun v16 => (if ¬ nrm v16 = nrm x1 then (f_X0_ghosts_L23 x0 n s11 x1 x2 x3 (x4 + 1) k) else ((if 0 ≤ nrm v10 then ((gR s11 0 (some x0) 7).bind fun v17 => (gR s11 0 (some x0) 3).bind fun v18 => (gR s11 0 (some x0) 7).bind fun v19 => (gR s11 5 v19 2).bind fun v20 => (aR s11 105 v20 x4).bind fun v21 => (aI s11 101 v21 v10).bind fun v22 => (rcv s11 5 v17).bind fun b25 => bn (f_X5_menIn s11 b25 v18 v22 v10) fun v23 s24 => (gR s24 0 (some x0) 7).bind fun v26 => (gR s24 0 (some x0) 3).bind fun v27 => (gR s24 0 (some x0) 7).bind fun v28 => (gR s24 5 v28 2).bind fun v29 => (aR s24 105 v29 x4).bind fun v30 => (aI s24 101 v30 v10).bind fun v31 => (rcv s24 5 v26).bind fun b34 => bn (f_X5_menIn s24 b34 v27 v31 x3) fun v32 s33 => f_X0_ghosts_L23 x0 n s33 x1 (orI x2 (anI v23 (xoI v32 (-1)))) x3 (x4 + 1) k) else (f_X0_ghosts_L23 x0 n s11 x1 x2 x3 (x4 + 1) k))))))
theorem w_X0_ghosts_L23 {σ0 : Hp} {w : Int × Hp} {x0 : Nat} : ∀ (n : Nat) (s0 : Hp) (x1 : Int) (x2 : Int) (x3 : Int) (x4 : Int) (k : (Hp → Int → Option (Int × Hp))), f_X0_ghosts_L23 x0 n s0 x1 x2 x3 x4 k = some w → (∀ (s1 : Hp) (x2 : Int), k s1 x2 = some w → AW m_X0_ghosts σ0 (oI w) 131 [none, none, some (iV x2), none, none, none] [] s1) → AW m_X0_ghosts σ0 (oI w) 23 [some (rV (some x0)), some (iV x1), some (iV x2), some (iV x3), some (iV x4), none] [] s0 := by
  intro n
  induction n with
  | zero =>
    intro s0 x1 x2 x3 x4 k h hk
    rw [f_X0_ghosts_L23] at h
    cases h
  | succ n ih =>
    intro s0 x1 x2 x3 x4 k h hk
    rw [f_X0_ghosts_L23] at h
    refine AW.iload dX0_ghosts_23 rfl ?_
    refine AW.aload_n dX0_ghosts_25 rfl ?_
    refine AW.VI (M' := m_X0_mirrors) (t := 0) [] [iV x4] dX0_ghosts_26 q1195 q1197 qs35 q121 q1198 ck0 rfl n_X0_mirrors rfl rfl rfl (fun _ _ _ e => c_X0_mirrors e) h (fun v6 s7 h => ?_)
    refine AW.icmp_ge 131 dX0_ghosts_29 (by decide) h (fun c37 h => ?_) (fun c37 h => ?_)
    · exact AW.fewer (L' := [none, none, some (iV x2), none, none, none]) (And.intro rfl trivial) (hk _ _ h)
    · refine AW.aload_n dX0_ghosts_32 rfl ?_
      refine AW.getR (t := 0) (k := 7) dX0_ghosts_33 ck0 (Nat.le_of_ble_eq_true rfl) (fun _ => rfl) q553 (Or.inl rfl) h (fun v9 h => ?_)
      refine AW.iload dX0_ghosts_36 rfl ?_
      refine AW.iload_n dX0_ghosts_38 rfl ?_
      refine AW.VI (M' := m_X5_shows) (t := 5) [iV x4, iV x3] [] dX0_ghosts_39 q1199 q1200 q1201 q132 q1202 ck5 rfl n_X5_shows rfl rfl rfl (fun _ _ _ e => c_X5_shows e) h (fun v10 s11 h => ?_)
      refine AW.istore (L' := [some (rV (some x0)), some (iV x1), some (iV x2), some (iV x3), some (iV x4), some (iV v10)]) dX0_ghosts_42 (Nat.le_of_ble_eq_true rfl) rfl rfl ?_
      refine AW.aload_n dX0_ghosts_44 rfl ?_
      refine AW.getR (t := 0) (k := 7) dX0_ghosts_45 ck0 (Nat.le_of_ble_eq_true rfl) (fun _ => rfl) q553 (Or.inl rfl) h (fun v13 h => ?_)
      refine AW.getR (t := 5) (k := 2) dX0_ghosts_48 ck5 (Nat.le_of_ble_eq_true rfl) (fun _ => rfl) q427 (Or.inl rfl) h (fun v14 h => ?_)
      refine AW.iload dX0_ghosts_51 rfl ?_
      refine AW.aald (t := 105) dX0_ghosts_53 (Nat.le_of_ble_eq_true rfl) rfl (fun _ _ => rfl) h (fun v15 h => ?_)
      refine AW.iload_n dX0_ghosts_54 rfl ?_
      refine AW.bald (t := 101) dX0_ghosts_55 (Nat.le_of_ble_eq_true rfl) rfl h (fun v16 h => ?_)
      refine AW.iload_n dX0_ghosts_56 rfl ?_
      refine AW.icmp_ne 125 dX0_ghosts_57 (by decide) h (fun c36 h => ?_) (fun c36 h => ?_)
      · refine AW.iinc (L' := [some (rV (some x0)), some (iV x1), some (iV x2), some (iV x3), some (iV (x4 + 1)), some (iV v10)]) dX0_ghosts_125 rfl (Nat.le_of_ble_eq_true rfl) rfl rfl ?_
        refine AW.goto (tgt := 23) dX0_ghosts_128 (by decide) ?_
        exact AW.fewer (L' := [some (rV (some x0)), some (iV x1), some (iV x2), some (iV x3), some (iV (x4 + 1)), none]) (And.intro rfl (And.intro rfl (And.intro rfl (And.intro rfl (And.intro rfl trivial))))) (ih _ _ _ _ _ _ h hk)
      · refine AW.iload dX0_ghosts_60 rfl ?_
        refine AW.if_ge 68 dX0_ghosts_62 (by decide) h (fun c35 h => ?_) (fun c35 h => ?_)
        · refine AW.iload_n dX0_ghosts_68 rfl ?_
          refine AW.aload_n dX0_ghosts_69 rfl ?_
          refine AW.getR (t := 0) (k := 7) dX0_ghosts_70 ck0 (Nat.le_of_ble_eq_true rfl) (fun _ => rfl) q553 (Or.inl rfl) h (fun v17 h => ?_)
          refine AW.aload_n dX0_ghosts_73 rfl ?_
          refine AW.getR (t := 0) (k := 3) dX0_ghosts_74 ck0 (Nat.le_of_ble_eq_true rfl) (fun _ => rfl) q549 (Or.inl rfl) h (fun v18 h => ?_)
          refine AW.aload_n dX0_ghosts_77 rfl ?_
          refine AW.getR (t := 0) (k := 7) dX0_ghosts_78 ck0 (Nat.le_of_ble_eq_true rfl) (fun _ => rfl) q553 (Or.inl rfl) h (fun v19 h => ?_)
          refine AW.getR (t := 5) (k := 2) dX0_ghosts_81 ck5 (Nat.le_of_ble_eq_true rfl) (fun _ => rfl) q427 (Or.inl rfl) h (fun v20 h => ?_)
          refine AW.iload dX0_ghosts_84 rfl ?_
          refine AW.aald (t := 105) dX0_ghosts_86 (Nat.le_of_ble_eq_true rfl) rfl (fun _ _ => rfl) h (fun v21 h => ?_)
          refine AW.iload dX0_ghosts_87 rfl ?_
          refine AW.bald (t := 101) dX0_ghosts_89 (Nat.le_of_ble_eq_true rfl) rfl h (fun v22 h => ?_)
          refine AW.iload dX0_ghosts_90 rfl ?_
          refine AW.VI (M' := m_X5_menIn) (t := 5) [rV v18, iV v22, iV v10] [iV x2] dX0_ghosts_92 q1304 q514 q515 q132 q516 ck5 rfl n_X5_menIn rfl rfl rfl (fun _ _ _ e => c_X5_menIn e) h (fun v23 s24 h => ?_)
          refine AW.aload_n dX0_ghosts_95 rfl ?_
          refine AW.getR (t := 0) (k := 7) dX0_ghosts_96 ck0 (Nat.le_of_ble_eq_true rfl) (fun _ => rfl) q553 (Or.inl rfl) h (fun v26 h => ?_)
          refine AW.aload_n dX0_ghosts_99 rfl ?_
          refine AW.getR (t := 0) (k := 3) dX0_ghosts_100 ck0 (Nat.le_of_ble_eq_true rfl) (fun _ => rfl) q549 (Or.inl rfl) h (fun v27 h => ?_)
          refine AW.aload_n dX0_ghosts_103 rfl ?_
          refine AW.getR (t := 0) (k := 7) dX0_ghosts_104 ck0 (Nat.le_of_ble_eq_true rfl) (fun _ => rfl) q553 (Or.inl rfl) h (fun v28 h => ?_)
          refine AW.getR (t := 5) (k := 2) dX0_ghosts_107 ck5 (Nat.le_of_ble_eq_true rfl) (fun _ => rfl) q427 (Or.inl rfl) h (fun v29 h => ?_)
          refine AW.iload dX0_ghosts_110 rfl ?_
          refine AW.aald (t := 105) dX0_ghosts_112 (Nat.le_of_ble_eq_true rfl) rfl (fun _ _ => rfl) h (fun v30 h => ?_)
          refine AW.iload dX0_ghosts_113 rfl ?_
          refine AW.bald (t := 101) dX0_ghosts_115 (Nat.le_of_ble_eq_true rfl) rfl h (fun v31 h => ?_)
          refine AW.iload_n dX0_ghosts_116 rfl ?_
          refine AW.VI (M' := m_X5_menIn) (t := 5) [rV v27, iV v31, iV x3] [iV v23, iV x2] dX0_ghosts_117 q1304 q514 q515 q132 q516 ck5 rfl n_X5_menIn rfl rfl rfl (fun _ _ _ e => c_X5_menIn e) h (fun v32 s33 h => ?_)
          refine AW.iconst dX0_ghosts_120 ?_
          refine AW.ixor dX0_ghosts_121 ?_
          refine AW.iand dX0_ghosts_122 ?_
          refine AW.ior dX0_ghosts_123 ?_
          refine AW.istore_n (L' := [some (rV (some x0)), some (iV x1), some (iV (orI x2 (anI v23 (xoI v32 (-1))))), some (iV x3), some (iV x4), some (iV v10)]) dX0_ghosts_124 (Nat.le_of_ble_eq_true rfl) rfl rfl ?_
          refine AW.iinc (L' := [some (rV (some x0)), some (iV x1), some (iV (orI x2 (anI v23 (xoI v32 (-1))))), some (iV x3), some (iV (x4 + 1)), some (iV v10)]) dX0_ghosts_125 rfl (Nat.le_of_ble_eq_true rfl) rfl rfl ?_
          refine AW.goto (tgt := 23) dX0_ghosts_128 (by decide) ?_
          exact AW.fewer (L' := [some (rV (some x0)), some (iV x1), some (iV (orI x2 (anI v23 (xoI v32 (-1))))), some (iV x3), some (iV (x4 + 1)), none]) (And.intro rfl (And.intro rfl (And.intro rfl (And.intro rfl (And.intro rfl trivial))))) (ih _ _ _ _ _ _ h hk)
        · refine AW.goto (tgt := 125) dX0_ghosts_65 (by decide) ?_
          refine AW.iinc (L' := [some (rV (some x0)), some (iV x1), some (iV x2), some (iV x3), some (iV (x4 + 1)), some (iV v10)]) dX0_ghosts_125 rfl (Nat.le_of_ble_eq_true rfl) rfl rfl ?_
          refine AW.goto (tgt := 23) dX0_ghosts_128 (by decide) ?_
          exact AW.fewer (L' := [some (rV (some x0)), some (iV x1), some (iV x2), some (iV x3), some (iV (x4 + 1)), none]) (And.intro rfl (And.intro rfl (And.intro rfl (And.intro rfl (And.intro rfl trivial))))) (ih _ _ _ _ _ _ h hk)
def f_X0_ghosts (s0 : Hp) (x0 : Nat) (x1 : Int) : Option (Int × Hp) :=
  (rcv s0 0 (some x0)).bind fun b3 => bn (f_X0_isRoom s0 b3 x1) fun v1 s2 => (if ¬ nrm v1 = 0 then ((gR s2 0 (some x0) 7).bind fun v4 => (gI s2 5 v4 9).bind fun v5 => f_X0_ghosts_L23 x0 FU s2 x1 0 v5 0 (fun s38 x2 => some (nrm x2, s38))) else (some ((-1), s2)))
theorem w_X0_ghosts {σ0 : Hp} {w : Int × Hp} (s0 : Hp) (x0 : Nat) (x1 : Int) (h : f_X0_ghosts s0 x0 x1 = some w) : AW m_X0_ghosts σ0 (oI w) 0 [some (rV (some x0)), some (iV x1), none, none, none, none] [] s0 := by
  unfold f_X0_ghosts at h
  refine AW.aload_n dX0_ghosts_0 rfl ?_
  refine AW.iload_n dX0_ghosts_1 rfl ?_
  refine AW.VI (M' := m_X0_isRoom) (t := 0) [iV x1] [] dX0_ghosts_2 q1265 q1267 qs39 q121 q1268 ck0 rfl n_X0_isRoom rfl rfl rfl (fun _ _ _ e => c_X0_isRoom e) h (fun v1 s2 h => ?_)
  refine AW.if_ne 10 dX0_ghosts_5 (by decide) h (fun c39 h => ?_) (fun c39 h => ?_)
  · refine AW.iconst dX0_ghosts_10 ?_
    refine AW.istore_n (L' := [some (rV (some x0)), some (iV x1), some (iV 0), none, none, none]) dX0_ghosts_11 (Nat.le_of_ble_eq_true rfl) rfl rfl ?_
    refine AW.aload_n dX0_ghosts_12 rfl ?_
    refine AW.getR (t := 0) (k := 7) dX0_ghosts_13 ck0 (Nat.le_of_ble_eq_true rfl) (fun _ => rfl) q553 (Or.inl rfl) h (fun v4 h => ?_)
    refine AW.getI (t := 5) (k := 9) dX0_ghosts_16 ck5 (Nat.le_of_ble_eq_true rfl) (fun _ => rfl) q437 (Or.inl rfl) h (fun v5 h => ?_)
    refine AW.istore_n (L' := [some (rV (some x0)), some (iV x1), some (iV 0), some (iV v5), none, none]) dX0_ghosts_19 (Nat.le_of_ble_eq_true rfl) rfl rfl ?_
    refine AW.iconst dX0_ghosts_20 ?_
    refine AW.istore (L' := [some (rV (some x0)), some (iV x1), some (iV 0), some (iV v5), some (iV 0), none]) dX0_ghosts_21 (Nat.le_of_ble_eq_true rfl) rfl rfl ?_
    refine w_X0_ghosts_L23 _ _ _ _ _ _ _ h (fun s38 x2 h => ?_)
    refine AW.iload_n dX0_ghosts_131 rfl ?_
    refine AW.nv ?_
    cases h
    exact AW.iret dX0_ghosts_132 rfl
  · refine AW.iconst dX0_ghosts_8 ?_
    cases h
    exact AW.iret dX0_ghosts_9 rfl
theorem c_X0_ghosts {s0 : Hp} {x0 : Nat} {x1 : Int} {v : Int} {s1 : Hp} (h : f_X0_ghosts s0 x0 x1 = some (v, s1)) : Ct m_X0_ghosts [rV (some x0), iV x1] s0 (.inl (some (iV v)), s1) :=
  Ct.of2 (w_X0_ghosts s0 x0 x1 h) (show plainName yX0_ghosts.cls = true by decide) rfl rfl rfl
abbrev m_X0_menFrom : Mi := (yX0_menFrom, cX0_menFrom, (some .int), 5, 3, 69, [])
theorem n_X0_menFrom : nameOk yX0_menFrom 2 := ⟨by decide, by decide, by decide +kernel⟩
def f_X0_menFrom_L5 (x0 : Nat) : Nat → Hp → Int → Int → Int → Int → (Hp → Int → Option (Int × Hp)) → Option (Int × Hp)
  | 0, _, _, _, _, _, _ => none
  | n + 1, s0, x1, x2, x3, x4, k => (rcv s0 0 (some x0)).bind fun b3 => bn (f_X0_mirrors s0 b3) fun v1 s2 => (if nrm v1 ≤ nrm x4 then (k s2 x3) else ((gR s2 0 (some x0) 7).bind fun v4 => (gR s2 5 v4 2).bind fun v5 => (aR s2 105 v5 x4).bind fun v6 => (aI s2 101 v6 x2).bind fun v7 => (if ¬ nrm v7 = nrm x1 then (f_X0_menFrom_L5 x0 n s2 x1 x2 (orI x3 0) (x4 + 1) k) else ((gR s2 0 (some x0) 7).bind fun v8 => (gR s2 0 (some x0) 3).bind fun v9 => (rcv s2 5 v8).bind fun b12 => bn (f_X5_menShown s2 b12 v9 x4 x2) fun v10 s11 => f_X0_menFrom_L5 x0 n s11 x1 x2 (orI x3 v10) (x4 + 1) k))))
theorem w_X0_menFrom_L5 {σ0 : Hp} {w : Int × Hp} {x0 : Nat} : ∀ (n : Nat) (s0 : Hp) (x1 : Int) (x2 : Int) (x3 : Int) (x4 : Int) (k : (Hp → Int → Option (Int × Hp))), f_X0_menFrom_L5 x0 n s0 x1 x2 x3 x4 k = some w → (∀ (s1 : Hp) (x3 : Int), k s1 x3 = some w → AW m_X0_menFrom σ0 (oI w) 57 [none, none, none, some (iV x3), none] [] s1) → AW m_X0_menFrom σ0 (oI w) 5 [some (rV (some x0)), some (iV x1), some (iV x2), some (iV x3), some (iV x4)] [] s0 := by
  intro n
  induction n with
  | zero =>
    intro s0 x1 x2 x3 x4 k h hk
    rw [f_X0_menFrom_L5] at h
    cases h
  | succ n ih =>
    intro s0 x1 x2 x3 x4 k h hk
    rw [f_X0_menFrom_L5] at h
    refine AW.iload dX0_menFrom_5 rfl ?_
    refine AW.aload_n dX0_menFrom_7 rfl ?_
    refine AW.VI (M' := m_X0_mirrors) (t := 0) [] [iV x4] dX0_menFrom_8 q1195 q1197 qs35 q121 q1198 ck0 rfl n_X0_mirrors rfl rfl rfl (fun _ _ _ e => c_X0_mirrors e) h (fun v1 s2 h => ?_)
    refine AW.icmp_ge 57 dX0_menFrom_11 (by decide) h (fun c14 h => ?_) (fun c14 h => ?_)
    · exact AW.fewer (L' := [none, none, none, some (iV x3), none]) (And.intro rfl trivial) (hk _ _ h)
    · refine AW.iload_n dX0_menFrom_14 rfl ?_
      refine AW.aload_n dX0_menFrom_15 rfl ?_
      refine AW.getR (t := 0) (k := 7) dX0_menFrom_16 ck0 (Nat.le_of_ble_eq_true rfl) (fun _ => rfl) q553 (Or.inl rfl) h (fun v4 h => ?_)
      refine AW.getR (t := 5) (k := 2) dX0_menFrom_19 ck5 (Nat.le_of_ble_eq_true rfl) (fun _ => rfl) q427 (Or.inl rfl) h (fun v5 h => ?_)
      refine AW.iload dX0_menFrom_22 rfl ?_
      refine AW.aald (t := 105) dX0_menFrom_24 (Nat.le_of_ble_eq_true rfl) rfl (fun _ _ => rfl) h (fun v6 h => ?_)
      refine AW.iload_n dX0_menFrom_25 rfl ?_
      refine AW.bald (t := 101) dX0_menFrom_26 (Nat.le_of_ble_eq_true rfl) rfl h (fun v7 h => ?_)
      refine AW.iload_n dX0_menFrom_27 rfl ?_
      refine AW.icmp_ne 48 dX0_menFrom_28 (by decide) h (fun c13 h => ?_) (fun c13 h => ?_)
      · refine AW.iconst dX0_menFrom_48 ?_
        refine AW.ior dX0_menFrom_49 ?_
        refine AW.istore_n (L' := [some (rV (some x0)), some (iV x1), some (iV x2), some (iV (orI x3 0)), some (iV x4)]) dX0_menFrom_50 (Nat.le_of_ble_eq_true rfl) rfl rfl ?_
        refine AW.iinc (L' := [some (rV (some x0)), some (iV x1), some (iV x2), some (iV (orI x3 0)), some (iV (x4 + 1))]) dX0_menFrom_51 rfl (Nat.le_of_ble_eq_true rfl) rfl rfl ?_
        refine AW.goto (tgt := 5) dX0_menFrom_54 (by decide) ?_
        exact ih _ _ _ _ _ _ h hk
      · refine AW.aload_n dX0_menFrom_31 rfl ?_
        refine AW.getR (t := 0) (k := 7) dX0_menFrom_32 ck0 (Nat.le_of_ble_eq_true rfl) (fun _ => rfl) q553 (Or.inl rfl) h (fun v8 h => ?_)
        refine AW.aload_n dX0_menFrom_35 rfl ?_
        refine AW.getR (t := 0) (k := 3) dX0_menFrom_36 ck0 (Nat.le_of_ble_eq_true rfl) (fun _ => rfl) q549 (Or.inl rfl) h (fun v9 h => ?_)
        refine AW.iload dX0_menFrom_39 rfl ?_
        refine AW.iload_n dX0_menFrom_41 rfl ?_
        refine AW.VI (M' := m_X5_menShown) (t := 5) [rV v9, iV x4, iV x2] [iV x3] dX0_menFrom_42 q1208 q1209 q1210 q132 q1211 ck5 rfl n_X5_menShown rfl rfl rfl (fun _ _ _ e => c_X5_menShown e) h (fun v10 s11 h => ?_)
        refine AW.goto (tgt := 49) dX0_menFrom_45 (by decide) ?_
        refine AW.ior dX0_menFrom_49 ?_
        refine AW.istore_n (L' := [some (rV (some x0)), some (iV x1), some (iV x2), some (iV (orI x3 v10)), some (iV x4)]) dX0_menFrom_50 (Nat.le_of_ble_eq_true rfl) rfl rfl ?_
        refine AW.iinc (L' := [some (rV (some x0)), some (iV x1), some (iV x2), some (iV (orI x3 v10)), some (iV (x4 + 1))]) dX0_menFrom_51 rfl (Nat.le_of_ble_eq_true rfl) rfl rfl ?_
        refine AW.goto (tgt := 5) dX0_menFrom_54 (by decide) ?_
        exact ih _ _ _ _ _ _ h hk
def f_X0_menFrom (s0 : Hp) (x0 : Nat) (x1 : Int) (x2 : Int) : Option (Int × Hp) :=
  f_X0_menFrom_L5 x0 FU s0 x1 x2 0 0 (fun s15 x3 => some (nrm x3, s15))
theorem w_X0_menFrom {σ0 : Hp} {w : Int × Hp} (s0 : Hp) (x0 : Nat) (x1 : Int) (x2 : Int) (h : f_X0_menFrom s0 x0 x1 x2 = some w) : AW m_X0_menFrom σ0 (oI w) 0 [some (rV (some x0)), some (iV x1), some (iV x2), none, none] [] s0 := by
  unfold f_X0_menFrom at h
  refine AW.iconst dX0_menFrom_0 ?_
  refine AW.istore_n (L' := [some (rV (some x0)), some (iV x1), some (iV x2), some (iV 0), none]) dX0_menFrom_1 (Nat.le_of_ble_eq_true rfl) rfl rfl ?_
  refine AW.iconst dX0_menFrom_2 ?_
  refine AW.istore (L' := [some (rV (some x0)), some (iV x1), some (iV x2), some (iV 0), some (iV 0)]) dX0_menFrom_3 (Nat.le_of_ble_eq_true rfl) rfl rfl ?_
  refine w_X0_menFrom_L5 _ _ _ _ _ _ _ h (fun s15 x3 h => ?_)
  refine AW.iload_n dX0_menFrom_57 rfl ?_
  refine AW.nv ?_
  cases h
  exact AW.iret dX0_menFrom_58 rfl
theorem c_X0_menFrom {s0 : Hp} {x0 : Nat} {x1 : Int} {x2 : Int} {v : Int} {s1 : Hp} (h : f_X0_menFrom s0 x0 x1 x2 = some (v, s1)) : Ct m_X0_menFrom [rV (some x0), iV x1, iV x2] s0 (.inl (some (iV v)), s1) :=
  Ct.of2 (w_X0_menFrom s0 x0 x1 x2 h) (show plainName yX0_menFrom.cls = true by decide) rfl rfl rfl
abbrev m_X0_glimpses : Mi := (yX0_glimpses, cX0_glimpses, (some .int), 7, 4, 93, [])
theorem n_X0_glimpses : nameOk yX0_glimpses 3 := ⟨by decide, by decide, by decide +kernel⟩
def f_X0_glimpses_L42 (x0 : Nat) : Nat → Hp → Int → Int → Int → Int → Int → Int → (Hp → Int → Int → Int → Option (Int × Hp)) → Option (Int × Hp)
  | 0, _, _, _, _, _, _, _, _ => none
  | n + 1, s0, x1, x2, x3, x4, x5, x6, k => (gR s0 0 (some x0) 7).bind fun v9 => (gI s0 5 v9 9).bind fun v10 => (if nrm v10 < nrm x6 then (k s0 x3 x4 x5) else ((gR s0 0 (some x0) 7).bind fun v11 => (gR s0 5 v11 0).bind fun v12 => (aR s0 105 v12 x1).bind fun v13 => (aI s0 101 v13 x6).bind fun v14 => (rcv s0 0 (some x0)).bind fun b17 => bn (f_X0_menFrom s0 b17 v14 x6) fun v15 s16 => (if ¬ nrm (anI (srI v15 x2) 1) = 0 then ((if 0 ≤ nrm x5 then (f_X0_glimpses_L42 x0 n s16 x1 x2 x3 (x4 + 1) x5 (x6 + 1) k) else (f_X0_glimpses_L42 x0 n s16 x1 x2 x3 (x4 + 1) x6 (x6 + 1) k))) else (f_X0_glimpses_L42 x0 n s16 x1 x2 x3 x4 x5 (x6 + 1) k))))
theorem w_X0_glimpses_L42 {σ0 : Hp} {w : Int × Hp} {x0 : Nat} : ∀ (n : Nat) (s0 : Hp) (x1 : Int) (x2 : Int) (x3 : Int) (x4 : Int) (x5 : Int) (x6 : Int) (k : (Hp → Int → Int → Int → Option (Int × Hp))), f_X0_glimpses_L42 x0 n s0 x1 x2 x3 x4 x5 x6 k = some w → (∀ (s1 : Hp) (x3 : Int) (x4 : Int) (x5 : Int), k s1 x3 x4 x5 = some w → AW m_X0_glimpses σ0 (oI w) 100 [none, none, none, some (iV x3), some (iV x4), some (iV x5), none] [] s1) → AW m_X0_glimpses σ0 (oI w) 42 [some (rV (some x0)), some (iV x1), some (iV x2), some (iV x3), some (iV x4), some (iV x5), some (iV x6)] [] s0 := by
  intro n
  induction n with
  | zero =>
    intro s0 x1 x2 x3 x4 x5 x6 k h hk
    rw [f_X0_glimpses_L42] at h
    cases h
  | succ n ih =>
    intro s0 x1 x2 x3 x4 x5 x6 k h hk
    rw [f_X0_glimpses_L42] at h
    refine AW.iload dX0_glimpses_42 rfl ?_
    refine AW.aload_n dX0_glimpses_44 rfl ?_
    refine AW.getR (t := 0) (k := 7) dX0_glimpses_45 ck0 (Nat.le_of_ble_eq_true rfl) (fun _ => rfl) q553 (Or.inl rfl) h (fun v9 h => ?_)
    refine AW.getI (t := 5) (k := 9) dX0_glimpses_48 ck5 (Nat.le_of_ble_eq_true rfl) (fun _ => rfl) q437 (Or.inl rfl) h (fun v10 h => ?_)
    refine AW.icmp_gt 100 dX0_glimpses_51 (by decide) h (fun c20 h => ?_) (fun c20 h => ?_)
    · exact AW.fewer (L' := [none, none, none, some (iV x3), some (iV x4), some (iV x5), none]) (And.intro rfl (And.intro rfl (And.intro rfl trivial))) (hk _ _ _ _ h)
    · refine AW.aload_n dX0_glimpses_54 rfl ?_
      refine AW.aload_n dX0_glimpses_55 rfl ?_
      refine AW.getR (t := 0) (k := 7) dX0_glimpses_56 ck0 (Nat.le_of_ble_eq_true rfl) (fun _ => rfl) q553 (Or.inl rfl) h (fun v11 h => ?_)
      refine AW.getR (t := 5) (k := 0) dX0_glimpses_59 ck5 (Nat.le_of_ble_eq_true rfl) (fun _ => rfl) q422 (Or.inl rfl) h (fun v12 h => ?_)
      refine AW.iload_n dX0_glimpses_62 rfl ?_
      refine AW.aald (t := 105) dX0_glimpses_63 (Nat.le_of_ble_eq_true rfl) rfl (fun _ _ => rfl) h (fun v13 h => ?_)
      refine AW.iload dX0_glimpses_64 rfl ?_
      refine AW.bald (t := 101) dX0_glimpses_66 (Nat.le_of_ble_eq_true rfl) rfl h (fun v14 h => ?_)
      refine AW.iload dX0_glimpses_67 rfl ?_
      refine AW.VI (M' := m_X0_menFrom) (t := 0) [iV v14, iV x6] [] dX0_glimpses_69 q1339 q1341 qs42 q121 q1342 ck0 rfl n_X0_menFrom rfl rfl rfl (fun _ _ _ e => c_X0_menFrom e) h (fun v15 s16 h => ?_)
      refine AW.iload_n dX0_glimpses_72 rfl ?_
      refine AW.ishr dX0_glimpses_73 ?_
      refine AW.iconst dX0_glimpses_74 ?_
      refine AW.iand dX0_glimpses_75 ?_
      refine AW.if_ne 82 dX0_glimpses_76 (by decide) h (fun c19 h => ?_) (fun c19 h => ?_)
      · refine AW.iinc (L' := [some (rV (some x0)), some (iV x1), some (iV x2), some (iV x3), some (iV (x4 + 1)), some (iV x5), some (iV x6)]) dX0_glimpses_82 rfl (Nat.le_of_ble_eq_true rfl) rfl rfl ?_
        refine AW.iload dX0_glimpses_85 rfl ?_
        refine AW.if_ge 94 dX0_glimpses_87 (by decide) h (fun c18 h => ?_) (fun c18 h => ?_)
        · refine AW.iinc (L' := [some (rV (some x0)), some (iV x1), some (iV x2), some (iV x3), some (iV (x4 + 1)), some (iV x5), some (iV (x6 + 1))]) dX0_glimpses_94 rfl (Nat.le_of_ble_eq_true rfl) rfl rfl ?_
          refine AW.goto (tgt := 42) dX0_glimpses_97 (by decide) ?_
          exact ih _ _ _ _ _ _ _ _ h hk
        · refine AW.iload dX0_glimpses_90 rfl ?_
          refine AW.istore (L' := [some (rV (some x0)), some (iV x1), some (iV x2), some (iV x3), some (iV (x4 + 1)), some (iV x6), some (iV x6)]) dX0_glimpses_92 (Nat.le_of_ble_eq_true rfl) rfl rfl ?_
          refine AW.iinc (L' := [some (rV (some x0)), some (iV x1), some (iV x2), some (iV x3), some (iV (x4 + 1)), some (iV x6), some (iV (x6 + 1))]) dX0_glimpses_94 rfl (Nat.le_of_ble_eq_true rfl) rfl rfl ?_
          refine AW.goto (tgt := 42) dX0_glimpses_97 (by decide) ?_
          exact ih _ _ _ _ _ _ _ _ h hk
      · refine AW.goto (tgt := 94) dX0_glimpses_79 (by decide) ?_
        refine AW.iinc (L' := [some (rV (some x0)), some (iV x1), some (iV x2), some (iV x3), some (iV x4), some (iV x5), some (iV (x6 + 1))]) dX0_glimpses_94 rfl (Nat.le_of_ble_eq_true rfl) rfl rfl ?_
        refine AW.goto (tgt := 42) dX0_glimpses_97 (by decide) ?_
        exact ih _ _ _ _ _ _ _ _ h hk
def f_X0_glimpses (s0 : Hp) (x0 : Nat) (x1 : Int) (x2 : Int) (x3 : Int) : Option (Int × Hp) :=
  (rcv s0 0 (some x0)).bind fun b3 => bn (f_X0_isMan s0 b3 x1) fun v1 s2 => (if nrm v1 = 0 then (some ((-1), s2)) else ((rcv s2 0 (some x0)).bind fun b6 => bn (f_X0_isMan s2 b6 x2) fun v4 s5 => (if nrm v4 = 0 then (some ((-1), s5)) else ((if nrm x1 = nrm x2 then (some ((-1), s5)) else (bn (f_X0_isIn s5 x3 0 1) fun v7 s8 => (if ¬ nrm v7 = 0 then (f_X0_glimpses_L42 x0 FU s8 x1 x2 x3 0 (-2) 0 (fun s21 x3 x4 x5 => (if ¬ nrm x3 = 0 then (some (nrm x5, s21)) else (some (nrm x4, s21))))) else (some ((-1), s8)))))))))
theorem w_X0_glimpses {σ0 : Hp} {w : Int × Hp} (s0 : Hp) (x0 : Nat) (x1 : Int) (x2 : Int) (x3 : Int) (h : f_X0_glimpses s0 x0 x1 x2 x3 = some w) : AW m_X0_glimpses σ0 (oI w) 0 [some (rV (some x0)), some (iV x1), some (iV x2), some (iV x3), none, none, none] [] s0 := by
  unfold f_X0_glimpses at h
  refine AW.aload_n dX0_glimpses_0 rfl ?_
  refine AW.iload_n dX0_glimpses_1 rfl ?_
  refine AW.VI (M' := m_X0_isMan) (t := 0) [iV x1] [] dX0_glimpses_2 q1171 q1173 qs31 q121 q1174 ck0 rfl n_X0_isMan rfl rfl rfl (fun _ _ _ e => c_X0_isMan e) h (fun v1 s2 h => ?_)
  refine AW.if_eq 30 dX0_glimpses_5 (by decide) h (fun c26 h => ?_) (fun c26 h => ?_)
  · refine AW.iconst dX0_glimpses_30 ?_
    cases h
    exact AW.iret dX0_glimpses_31 rfl
  · refine AW.aload_n dX0_glimpses_8 rfl ?_
    refine AW.iload_n dX0_glimpses_9 rfl ?_
    refine AW.VI (M' := m_X0_isMan) (t := 0) [iV x2] [] dX0_glimpses_10 q1171 q1173 qs31 q121 q1174 ck0 rfl n_X0_isMan rfl rfl rfl (fun _ _ _ e => c_X0_isMan e) h (fun v4 s5 h => ?_)
    refine AW.if_eq 30 dX0_glimpses_13 (by decide) h (fun c25 h => ?_) (fun c25 h => ?_)
    · refine AW.iconst dX0_glimpses_30 ?_
      cases h
      exact AW.iret dX0_glimpses_31 rfl
    · refine AW.iload_n dX0_glimpses_16 rfl ?_
      refine AW.iload_n dX0_glimpses_17 rfl ?_
      refine AW.icmp_eq 30 dX0_glimpses_18 (by decide) h (fun c24 h => ?_) (fun c24 h => ?_)
      · refine AW.iconst dX0_glimpses_30 ?_
        cases h
        exact AW.iret dX0_glimpses_31 rfl
      · refine AW.iload_n dX0_glimpses_21 rfl ?_
        refine AW.iconst dX0_glimpses_22 ?_
        refine AW.iconst dX0_glimpses_23 ?_
        refine AW.SI (M' := m_X0_isIn) [iV x3, iV 0, iV 1] [] dX0_glimpses_24 q1180 q1181 q121 q1182 n_X0_isIn rfl rfl rfl (fun _ _ e => c_X0_isIn e) h (fun v7 s8 h => ?_)
        refine AW.if_ne 32 dX0_glimpses_27 (by decide) h (fun c23 h => ?_) (fun c23 h => ?_)
        · refine AW.iconst dX0_glimpses_32 ?_
          refine AW.istore (L' := [some (rV (some x0)), some (iV x1), some (iV x2), some (iV x3), some (iV 0), none, none]) dX0_glimpses_33 (Nat.le_of_ble_eq_true rfl) rfl rfl ?_
          refine AW.bipush dX0_glimpses_35 (by decide) ?_
          refine AW.istore (L' := [some (rV (some x0)), some (iV x1), some (iV x2), some (iV x3), some (iV 0), some (iV (-2)), none]) dX0_glimpses_37 (Nat.le_of_ble_eq_true rfl) rfl rfl ?_
          refine AW.iconst dX0_glimpses_39 ?_
          refine AW.istore (L' := [some (rV (some x0)), some (iV x1), some (iV x2), some (iV x3), some (iV 0), some (iV (-2)), some (iV 0)]) dX0_glimpses_40 (Nat.le_of_ble_eq_true rfl) rfl rfl ?_
          refine w_X0_glimpses_L42 _ _ _ _ _ _ _ _ _ h (fun s21 x3 x4 x5 h => ?_)
          refine AW.iload_n dX0_glimpses_100 rfl ?_
          refine AW.if_ne 109 dX0_glimpses_101 (by decide) h (fun c22 h => ?_) (fun c22 h => ?_)
          · refine AW.iload dX0_glimpses_109 rfl ?_
            refine AW.nv ?_
            cases h
            exact AW.iret dX0_glimpses_111 rfl
          · refine AW.iload dX0_glimpses_104 rfl ?_
            refine AW.goto (tgt := 111) dX0_glimpses_106 (by decide) ?_
            refine AW.nv ?_
            cases h
            exact AW.iret dX0_glimpses_111 rfl
        · refine AW.iconst dX0_glimpses_30 ?_
          cases h
          exact AW.iret dX0_glimpses_31 rfl
theorem c_X0_glimpses {s0 : Hp} {x0 : Nat} {x1 : Int} {x2 : Int} {x3 : Int} {v : Int} {s1 : Hp} (h : f_X0_glimpses s0 x0 x1 x2 x3 = some (v, s1)) : Ct m_X0_glimpses [rV (some x0), iV x1, iV x2, iV x3] s0 (.inl (some (iV v)), s1) :=
  Ct.of2 (w_X0_glimpses s0 x0 x1 x2 x3 h) (show plainName yX0_glimpses.cls = true by decide) rfl rfl rfl
abbrev m_X0_go : Mi := (yX0_go, cX0_go, (some .boolean), 4, 416, 24792, [])
theorem n_X0_go : nameOk yX0_go 2 := ⟨by decide, by decide, by decide +kernel⟩
def f_X0_go (s0 : Hp) (x0 : Nat) (x1 : Int) (x2 : Int) : Option (Int × Hp) :=
  (rcv s0 0 (some x0)).bind fun b3 => bn (f_X0_isMan s0 b3 x1) fun v1 s2 => (if ¬ nrm v1 = 0 then ((gR s2 0 (some x0) 3).bind fun v4 => (gR s2 4 v4 0).bind fun v5 => (gR s2 0 (some x0) 7).bind fun v6 => (gR s2 5 v6 0).bind fun v7 => (aR s2 105 v7 x1).bind fun v8 => (gR s2 0 (some x0) 7).bind fun v9 => (gI s2 5 v9 9).bind fun v10 => (aI s2 101 v8 v10).bind fun v11 => (rcv s2 18 v5).bind fun b14 => bn (f_J5_get s2 b14 v11) fun v12 s13 => (kst s13 [10] v12).bind fun v15 => (gI s13 10 v15 2).bind fun v16 => bn (f_X0_isIn s13 x2 1 v16) fun v17 s18 => (if ¬ nrm v17 = 0 then ((rcv s18 0 (some x0)).bind fun b20 => bn (f_X0_keeps s18 b20) fun _ s19 => (gR s19 0 (some x0) 7).bind fun v21 => (gR s19 5 v21 0).bind fun v22 => (aR s19 105 v22 x1).bind fun v23 => (gR s19 0 (some x0) 7).bind fun v24 => (gI s19 5 v24 9).bind fun v25 => (gR s19 10 v15 1).bind fun v26 => (aI s19 100 v26 (x2 - 1)).bind fun v27 => (sI s19 101 v23 v25 (i8I (i8I v27))).bind fun s28 => (gR s28 0 (some x0) 7).bind fun v29 => (gR s28 0 (some x0) 3).bind fun v30 => (rcv s28 5 v29).bind fun b32 => bn (f_X5_looks s28 b32 v30) fun _ s31 => some (1, s31)) else (some (0, s18)))) else (some (0, s2)))
theorem w_X0_go {σ0 : Hp} {w : Int × Hp} (s0 : Hp) (x0 : Nat) (x1 : Int) (x2 : Int) (h : f_X0_go s0 x0 x1 x2 = some w) : AW m_X0_go σ0 (oI w) 0 [some (rV (some x0)), some (iV x1), some (iV x2), none] [] s0 := by
  unfold f_X0_go at h
  refine AW.aload_n dX0_go_0 rfl ?_
  refine AW.iload_n dX0_go_1 rfl ?_
  refine AW.VI (M' := m_X0_isMan) (t := 0) [iV x1] [] dX0_go_2 q1171 q1173 qs31 q121 q1174 ck0 rfl n_X0_isMan rfl rfl rfl (fun _ _ _ e => c_X0_isMan e) h (fun v1 s2 h => ?_)
  refine AW.if_ne 10 dX0_go_5 (by decide) h (fun c34 h => ?_) (fun c34 h => ?_)
  · refine AW.aload_n dX0_go_10 rfl ?_
    refine AW.getR (t := 0) (k := 3) dX0_go_11 ck0 (Nat.le_of_ble_eq_true rfl) (fun _ => rfl) q549 (Or.inl rfl) h (fun v4 h => ?_)
    refine AW.getR (t := 4) (k := 0) dX0_go_14 ck4 (Nat.le_of_ble_eq_true rfl) (fun _ => rfl) q357 (Or.inl rfl) h (fun v5 h => ?_)
    refine AW.aload_n dX0_go_17 rfl ?_
    refine AW.getR (t := 0) (k := 7) dX0_go_18 ck0 (Nat.le_of_ble_eq_true rfl) (fun _ => rfl) q553 (Or.inl rfl) h (fun v6 h => ?_)
    refine AW.getR (t := 5) (k := 0) dX0_go_21 ck5 (Nat.le_of_ble_eq_true rfl) (fun _ => rfl) q422 (Or.inl rfl) h (fun v7 h => ?_)
    refine AW.iload_n dX0_go_24 rfl ?_
    refine AW.aald (t := 105) dX0_go_25 (Nat.le_of_ble_eq_true rfl) rfl (fun _ _ => rfl) h (fun v8 h => ?_)
    refine AW.aload_n dX0_go_26 rfl ?_
    refine AW.getR (t := 0) (k := 7) dX0_go_27 ck0 (Nat.le_of_ble_eq_true rfl) (fun _ => rfl) q553 (Or.inl rfl) h (fun v9 h => ?_)
    refine AW.getI (t := 5) (k := 9) dX0_go_30 ck5 (Nat.le_of_ble_eq_true rfl) (fun _ => rfl) q437 (Or.inl rfl) h (fun v10 h => ?_)
    refine AW.bald (t := 101) dX0_go_33 (Nat.le_of_ble_eq_true rfl) rfl h (fun v11 h => ?_)
    refine AW.VR (M' := m_J5_get) (t := 18) [iV v11] [] dX0_go_34 q1254 q489 q490 q131 q491 ck18 rfl n_J5_get rfl rfl rfl (fun _ _ _ e => c_J5_get e) h (fun v12 s13 h => ?_)
    refine AW.cast (ts := [10]) dX0_go_37 q1255 ca10 h (fun v15 h => ?_)
    refine AW.astore_n (L' := [some (rV (some x0)), some (iV x1), some (iV x2), some (rV v15)]) dX0_go_40 (Nat.le_of_ble_eq_true rfl) rfl rfl ?_
    refine AW.iload_n dX0_go_41 rfl ?_
    refine AW.iconst dX0_go_42 ?_
    refine AW.aload_n dX0_go_43 rfl ?_
    refine AW.getI (t := 10) (k := 2) dX0_go_44 ck10 (Nat.le_of_ble_eq_true rfl) (fun _ => rfl) q947 (Or.inl rfl) h (fun v16 h => ?_)
    refine AW.SI (M' := m_X0_isIn) [iV x2, iV 1, iV v16] [] dX0_go_47 q1180 q1181 q121 q1182 n_X0_isIn rfl rfl rfl (fun _ _ e => c_X0_isIn e) h (fun v17 s18 h => ?_)
    refine AW.if_ne 55 dX0_go_50 (by decide) h (fun c33 h => ?_) (fun c33 h => ?_)
    · refine AW.aload_n dX0_go_55 rfl ?_
      refine AW.VU (M' := m_X0_keeps) (t := 0) [] [] dX0_go_56 q1217 q1219 qs36 q121 q1220 ck0 rfl n_X0_keeps rfl rfl rfl (fun _ _ _ e => c_X0_keeps e) h (fun _ s19 h => ?_)
      refine AW.aload_n dX0_go_59 rfl ?_
      refine AW.getR (t := 0) (k := 7) dX0_go_60 ck0 (Nat.le_of_ble_eq_true rfl) (fun _ => rfl) q553 (Or.inl rfl) h (fun v21 h => ?_)
      refine AW.getR (t := 5) (k := 0) dX0_go_63 ck5 (Nat.le_of_ble_eq_true rfl) (fun _ => rfl) q422 (Or.inl rfl) h (fun v22 h => ?_)
      refine AW.iload_n dX0_go_66 rfl ?_
      refine AW.aald (t := 105) dX0_go_67 (Nat.le_of_ble_eq_true rfl) rfl (fun _ _ => rfl) h (fun v23 h => ?_)
      refine AW.aload_n dX0_go_68 rfl ?_
      refine AW.getR (t := 0) (k := 7) dX0_go_69 ck0 (Nat.le_of_ble_eq_true rfl) (fun _ => rfl) q553 (Or.inl rfl) h (fun v24 h => ?_)
      refine AW.getI (t := 5) (k := 9) dX0_go_72 ck5 (Nat.le_of_ble_eq_true rfl) (fun _ => rfl) q437 (Or.inl rfl) h (fun v25 h => ?_)
      refine AW.aload_n dX0_go_75 rfl ?_
      refine AW.getR (t := 10) (k := 1) dX0_go_76 ck10 (Nat.le_of_ble_eq_true rfl) (fun _ => rfl) q944 (Or.inl rfl) h (fun v26 h => ?_)
      refine AW.iload_n dX0_go_79 rfl ?_
      refine AW.iconst dX0_go_80 ?_
      refine AW.isub dX0_go_81 ?_
      refine AW.iald (t := 100) dX0_go_82 (Nat.le_of_ble_eq_true rfl) rfl h (fun v27 h => ?_)
      refine AW.i2b dX0_go_83 ?_
      refine AW.bast (t := 101) dX0_go_84 (Nat.le_of_ble_eq_true rfl) mu101 rfl h (fun s28 h => ?_)
      refine AW.aload_n dX0_go_85 rfl ?_
      refine AW.getR (t := 0) (k := 7) dX0_go_86 ck0 (Nat.le_of_ble_eq_true rfl) (fun _ => rfl) q553 (Or.inl rfl) h (fun v29 h => ?_)
      refine AW.aload_n dX0_go_89 rfl ?_
      refine AW.getR (t := 0) (k := 3) dX0_go_90 ck0 (Nat.le_of_ble_eq_true rfl) (fun _ => rfl) q549 (Or.inl rfl) h (fun v30 h => ?_)
      refine AW.VU (M' := m_X5_looks) (t := 5) [rV v30] [] dX0_go_93 q1256 q505 q506 q132 q507 ck5 rfl n_X5_looks rfl rfl rfl (fun _ _ _ e => c_X5_looks e) h (fun _ s31 h => ?_)
      refine AW.iconst dX0_go_96 ?_
      cases h
      exact AW.zret (z := 1) dX0_go_97 rfl zz1
    · refine AW.iconst dX0_go_53 ?_
      cases h
      exact AW.zret (z := 0) dX0_go_54 rfl zz0
  · refine AW.iconst dX0_go_8 ?_
    cases h
    exact AW.zret (z := 0) dX0_go_9 rfl zz0
theorem c_X0_go {s0 : Hp} {x0 : Nat} {x1 : Int} {x2 : Int} {v : Int} {s1 : Hp} (h : f_X0_go s0 x0 x1 x2 = some (v, s1)) : Ct m_X0_go [rV (some x0), iV x1, iV x2] s0 (.inl (some (iV v)), s1) :=
  Ct.of2 (w_X0_go s0 x0 x1 x2 h) (show plainName yX0_go.cls = true by decide) rfl rfl rfl
