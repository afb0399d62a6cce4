set_option maxRecDepth 100000
abbrev m_X2_read : Mi := (yX2_read, cX2_read, none, 7, 5, 110, [])
theorem n_X2_read : nameOk yX2_read 0 := ⟨by decide, by decide, by decide +kernel⟩
def f_X2_read_L134 (x0 : Nat) : Nat → Hp → Int → Int → Int → (Hp → Int → Int → Int → Option (Unit × Hp)) → Option (Unit × Hp)
  | 0, _, _, _, _, _ => none
  | n + 1, s0, x1, x4, x6, k => (rcv s0 2 (some x0)).bind fun b22 => bn (f_X2_isDigit s0 b22 x4) fun v20 s21 => (if nrm v20 = 0 then (k s21 x1 x4 x6) else (f_X2_read_L134 x0 n s21 x1 (x4 + 1) x6 k))
theorem w_X2_read_L134 {σ0 : Hp} {w : Unit × Hp} {x0 : Nat} : ∀ (n : Nat) (s0 : Hp) (x1 : Int) (x4 : Int) (x6 : Int) (k : (Hp → Int → Int → Int → Option (Unit × Hp))), f_X2_read_L134 x0 n s0 x1 x4 x6 k = some w → (∀ (s1 : Hp) (x1 : Int) (x4 : Int) (x6 : Int), k s1 x1 x4 x6 = some w → AW m_X2_read σ0 (oU w) 149 [some (rV (some x0)), some (iV x1), none, none, some (iV x4), none, some (iV x6)] [] s1) → AW m_X2_read σ0 (oU w) 134 [some (rV (some x0)), some (iV x1), none, none, some (iV x4), none, some (iV x6)] [] s0 := by
  intro n
  induction n with
  | zero =>
    intro s0 x1 x4 x6 k h hk
    rw [f_X2_read_L134] at h
    cases h
  | succ n ih =>
    intro s0 x1 x4 x6 k h hk
    rw [f_X2_read_L134] at h
    refine AW.aload_n dX2_read_134 rfl ?_
    refine AW.iload dX2_read_135 rfl ?_
    refine AW.VI (M' := m_X2_isDigit) (t := 2) [iV x4] [] dX2_read_137 q698 q700 qs5 q126 q701 ck2 rfl n_X2_isDigit rfl rfl rfl (fun _ _ _ e => c_X2_isDigit e) h (fun v20 s21 h => ?_)
    refine AW.if_eq 149 dX2_read_140 (by decide) h (fun c23 h => ?_) (fun c23 h => ?_)
    · exact hk _ _ _ _ h
    · refine AW.iinc (L' := [some (rV (some x0)), some (iV x1), none, none, some (iV (x4 + 1)), none, some (iV x6)]) dX2_read_143 rfl (Nat.le_of_ble_eq_true rfl) rfl rfl ?_
      refine AW.goto (tgt := 134) dX2_read_146 (by decide) ?_
      exact ih _ _ _ _ _ h hk
def f_X2_read_L74 (x0 : Nat) : Nat → Hp → Int → Int → (Hp → Int → Int → Option (Unit × Hp)) → Option (Unit × Hp)
  | 0, _, _, _, _ => none
  | n + 1, s0, x1, x4, k => (rcv s0 2 (some x0)).bind fun b30 => bn (f_X2_isLetter s0 b30 x4) fun v28 s29 => (if nrm v28 = 0 then (k s29 x1 x4) else (f_X2_read_L74 x0 n s29 x1 (x4 + 1) k))
theorem w_X2_read_L74 {σ0 : Hp} {w : Unit × Hp} {x0 : Nat} : ∀ (n : Nat) (s0 : Hp) (x1 : Int) (x4 : Int) (k : (Hp → Int → Int → Option (Unit × Hp))), f_X2_read_L74 x0 n s0 x1 x4 k = some w → (∀ (s1 : Hp) (x1 : Int) (x4 : Int), k s1 x1 x4 = some w → AW m_X2_read σ0 (oU w) 89 [some (rV (some x0)), some (iV x1), none, none, some (iV x4), none, none] [] s1) → AW m_X2_read σ0 (oU w) 74 [some (rV (some x0)), some (iV x1), none, none, some (iV x4), none, none] [] s0 := by
  intro n
  induction n with
  | zero =>
    intro s0 x1 x4 k h hk
    rw [f_X2_read_L74] at h
    cases h
  | succ n ih =>
    intro s0 x1 x4 k h hk
    rw [f_X2_read_L74] at h
    refine AW.aload_n dX2_read_74 rfl ?_
    refine AW.iload dX2_read_75 rfl ?_
    refine AW.VI (M' := m_X2_isLetter) (t := 2) [iV x4] [] dX2_read_77 q640 q642 qs2 q126 q643 ck2 rfl n_X2_isLetter rfl rfl rfl (fun _ _ _ e => c_X2_isLetter e) h (fun v28 s29 h => ?_)
    refine AW.if_eq 89 dX2_read_80 (by decide) h (fun c31 h => ?_) (fun c31 h => ?_)
    · exact hk _ _ _ h
    · refine AW.iinc (L' := [some (rV (some x0)), some (iV x1), none, none, some (iV (x4 + 1)), none, none]) dX2_read_83 rfl (Nat.le_of_ble_eq_true rfl) rfl rfl ?_
      refine AW.goto (tgt := 74) dX2_read_86 (by decide) ?_
      exact ih _ _ _ _ h hk
def f_X2_read_L9 (x0 : Nat) : Nat → Hp → Int → Int → (Hp → Int → Int → Option (Unit × Hp)) → Option (Unit × Hp)
  | 0, _, _, _, _ => none
  | n + 1, s0, x1, x2, k => (gI s0 2 (some x0) 2).bind fun v2 => (if nrm v2 ≤ nrm x1 then (k s0 x1 x2) else ((if nrm x2 = 0 then (k s0 x1 x2) else ((gR s0 2 (some x0) 1).bind fun v3 => (aI s0 101 v3 x1).bind fun v4 => (if nrm v4 = nrm 32 then (f_X2_read_L9 x0 n s0 (x1 + 1) x2 k) else ((if nrm v4 = nrm 9 then (f_X2_read_L9 x0 n s0 (x1 + 1) x2 k) else ((if nrm v4 = nrm 10 then (f_X2_read_L9 x0 n s0 (x1 + 1) x2 k) else ((if ¬ nrm v4 = nrm 13 then ((rcv s0 2 (some x0)).bind fun b7 => bn (f_X2_isLetter s0 b7 x1) fun v5 s6 => jn (fun (s8 : Hp) (x1 : Int) (x4 : Int) (x5 : Int) (x6 : Int) => (rcv s8 2 (some x0)).bind fun b10 => bn (f_X2_add s8 b10 x5 x1 x4 x6) fun _ s9 => (if nrm x5 = nrm 5 then (f_X2_read_L9 x0 n s9 x4 0 k) else (f_X2_read_L9 x0 n s9 x4 1 k))) fun j186 => (if nrm v5 = 0 then ((rcv s6 2 (some x0)).bind fun b14 => bn (f_X2_isDigit s6 b14 x1) fun v12 s13 => (if nrm v12 = 0 then ((rcv s13 2 (some x0)).bind fun b17 => bn (f_X2_sign s13 b17 x1) fun v15 s16 => jn (fun (s18 : Hp) (x1 : Int) (x4 : Int) (x6 : Int) (y0 : Int) => j186 s18 x1 x4 y0 x6) fun j184 => (if ¬ nrm v15 = 0 then (j184 s16 x1 (x1 + 1) v15 2) else (j184 s16 x1 (x1 + 1) v15 5))) else (f_X2_read_L134 x0 FU s13 x1 (x1 + 1) 0 (fun s24 x1 x4 x6 => jn (fun (s25 : Hp) (x1 : Int) (x4 : Int) (x6 : Int) (y0 : Int) => j186 s25 x1 x4 y0 x6) fun j162 => (if nrm (x4 - x1) ≤ nrm 4 then (j162 s24 x1 x4 x6 1) else (j162 s24 x1 x4 x6 5)))))) else (f_X2_read_L74 x0 FU s6 x1 (x1 + 1) (fun s32 x1 x4 => (rcv s32 2 (some x0)).bind fun b35 => bn (f_X2_word s32 b35 x1 x4) fun v33 s34 => jn (fun (s36 : Hp) (x1 : Int) (x4 : Int) (x6 : Int) (y0 : Int) => j186 s36 x1 x4 y0 x6) fun j121 => (if nrm v33 < 0 then ((if nrm (x4 - x1) ≤ nrm 8 then (j121 s34 x1 x4 v33 0) else (j121 s34 x1 x4 v33 5))) else (j121 s34 x1 x4 v33 3)))))) else (f_X2_read_L9 x0 n s0 (x1 + 1) x2 k))))))))))))
theorem w_X2_read_L9 {σ0 : Hp} {w : Unit × Hp} {x0 : Nat} : ∀ (n : Nat) (s0 : Hp) (x1 : Int) (x2 : Int) (k : (Hp → Int → Int → Option (Unit × Hp))), f_X2_read_L9 x0 n s0 x1 x2 k = some w → (∀ (s1 : Hp) (x1 : Int) (x2 : Int), k s1 x1 x2 = some w → AW m_X2_read σ0 (oU w) 215 [some (rV (some x0)), some (iV x1), some (iV x2), none, none, none, none] [] s1) → AW m_X2_read σ0 (oU w) 9 [some (rV (some x0)), some (iV x1), some (iV x2), none, none, none, none] [] s0 := by
  intro n
  induction n with
  | zero =>
    intro s0 x1 x2 k h hk
    rw [f_X2_read_L9] at h
    cases h
  | succ n ih =>
    intro s0 x1 x2 k h hk
    rw [f_X2_read_L9] at h
    refine AW.iload_n dX2_read_9 rfl ?_
    refine AW.aload_n dX2_read_10 rfl ?_
    refine AW.getI (t := 2) (k := 2) dX2_read_11 ck2 (Nat.le_of_ble_eq_true rfl) (fun _ => rfl) q267 (Or.inl rfl) h (fun v2 h => ?_)
    refine AW.icmp_ge 215 dX2_read_14 (by decide) h (fun c45 h => ?_) (fun c45 h => ?_)
    · exact hk _ _ _ h
    · refine AW.iload_n dX2_read_17 rfl ?_
      refine AW.if_eq 215 dX2_read_18 (by decide) h (fun c44 h => ?_) (fun c44 h => ?_)
      · exact hk _ _ _ h
      · refine AW.aload_n dX2_read_21 rfl ?_
        refine AW.getR (t := 2) (k := 1) dX2_read_22 ck2 (Nat.le_of_ble_eq_true rfl) (fun _ => rfl) q265 (Or.inl rfl) h (fun v3 h => ?_)
        refine AW.iload_n dX2_read_25 rfl ?_
        refine AW.bald (t := 101) dX2_read_26 (Nat.le_of_ble_eq_true rfl) rfl h (fun v4 h => ?_)
        refine AW.istore_n (L' := [some (rV (some x0)), some (iV x1), some (iV x2), some (iV v4), none, none, none]) dX2_read_27 (Nat.le_of_ble_eq_true rfl) rfl rfl ?_
        refine AW.iload_n dX2_read_28 rfl ?_
        refine AW.iconst dX2_read_29 ?_
        refine AW.iadd dX2_read_30 ?_
        refine AW.istore (L' := [some (rV (some x0)), some (iV x1), some (iV x2), some (iV v4), some (iV (x1 + 1)), none, none]) dX2_read_31 (Nat.le_of_ble_eq_true rfl) rfl rfl ?_
        refine AW.iload_n dX2_read_33 rfl ?_
        refine AW.bipush dX2_read_34 (by decide) ?_
        refine AW.icmp_eq 57 dX2_read_36 (by decide) h (fun c43 h => ?_) (fun c43 h => ?_)
        · refine AW.iinc (L' := [some (rV (some x0)), some (iV (x1 + 1)), some (iV x2), some (iV v4), some (iV (x1 + 1)), none, none]) dX2_read_57 rfl (Nat.le_of_ble_eq_true rfl) rfl rfl ?_
          refine AW.goto (tgt := 9) dX2_read_60 (by decide) ?_
          exact AW.fewer (L' := [some (rV (some x0)), some (iV (x1 + 1)), some (iV x2), none, none, none, none]) (And.intro rfl (And.intro rfl (And.intro rfl trivial))) (ih _ _ _ _ h hk)
        · refine AW.iload_n dX2_read_39 rfl ?_
          refine AW.bipush dX2_read_40 (by decide) ?_
          refine AW.icmp_eq 57 dX2_read_42 (by decide) h (fun c42 h => ?_) (fun c42 h => ?_)
          · refine AW.iinc (L' := [some (rV (some x0)), some (iV (x1 + 1)), some (iV x2), some (iV v4), some (iV (x1 + 1)), none, none]) dX2_read_57 rfl (Nat.le_of_ble_eq_true rfl) rfl rfl ?_
            refine AW.goto (tgt := 9) dX2_read_60 (by decide) ?_
            exact AW.fewer (L' := [some (rV (some x0)), some (iV (x1 + 1)), some (iV x2), none, none, none, none]) (And.intro rfl (And.intro rfl (And.intro rfl trivial))) (ih _ _ _ _ h hk)
          · refine AW.iload_n dX2_read_45 rfl ?_
            refine AW.bipush dX2_read_46 (by decide) ?_
            refine AW.icmp_eq 57 dX2_read_48 (by decide) h (fun c41 h => ?_) (fun c41 h => ?_)
            · refine AW.iinc (L' := [some (rV (some x0)), some (iV (x1 + 1)), some (iV x2), some (iV v4), some (iV (x1 + 1)), none, none]) dX2_read_57 rfl (Nat.le_of_ble_eq_true rfl) rfl rfl ?_
              refine AW.goto (tgt := 9) dX2_read_60 (by decide) ?_
              exact AW.fewer (L' := [some (rV (some x0)), some (iV (x1 + 1)), some (iV x2), none, none, none, none]) (And.intro rfl (And.intro rfl (And.intro rfl trivial))) (ih _ _ _ _ h hk)
            · refine AW.iload_n dX2_read_51 rfl ?_
              refine AW.bipush dX2_read_52 (by decide) ?_
              refine AW.icmp_ne 63 dX2_read_54 (by decide) h (fun c40 h => ?_) (fun c40 h => ?_)
              · refine AW.iconst dX2_read_63 ?_
                refine AW.istore (L' := [some (rV (some x0)), some (iV x1), some (iV x2), some (iV v4), some (iV (x1 + 1)), none, some (iV 0)]) dX2_read_64 (Nat.le_of_ble_eq_true rfl) rfl rfl ?_
                refine AW.aload_n dX2_read_66 rfl ?_
                refine AW.iload_n dX2_read_67 rfl ?_
                refine AW.VI (M' := m_X2_isLetter) (t := 2) [iV x1] [] dX2_read_68 q640 q642 qs2 q126 q643 ck2 rfl n_X2_isLetter rfl rfl rfl (fun _ _ _ e => c_X2_isLetter e) h (fun v5 s6 h => ?_)
                refine jn_elim h (fun (j : (Hp → Int → Int → Int → Int → Option (Unit × Hp))) => ∀ (s8 : Hp) (x1 : Int) (x4 : Int) (x5 : Int) (x6 : Int), j s8 x1 x4 x5 x6 = some w → AW m_X2_read σ0 (oU w) 186 [some (rV (some x0)), some (iV x1), none, none, some (iV x4), some (iV x5), some (iV x6)] [] s8) ?_ (fun j186 hj186 h => ?_)
                · intro s8 x1 x4 x5 x6 h
                  refine AW.aload_n dX2_read_186 rfl ?_
                  refine AW.iload dX2_read_187 rfl ?_
                  refine AW.iload_n dX2_read_189 rfl ?_
                  refine AW.iload dX2_read_190 rfl ?_
                  refine AW.iload dX2_read_192 rfl ?_
                  refine AW.VU (M' := m_X2_add) (t := 2) [iV x5, iV x1, iV x4, iV x6] [] dX2_read_194 q706 q708 qs7 q126 q709 ck2 rfl n_X2_add rfl rfl rfl (fun _ _ _ e => c_X2_add e) h (fun _ s9 h => ?_)
                  refine AW.iload dX2_read_197 rfl ?_
                  refine AW.iconst dX2_read_199 ?_
                  refine AW.icmp_eq 207 dX2_read_200 (by decide) h (fun c11 h => ?_) (fun c11 h => ?_)
                  · refine AW.iconst dX2_read_207 ?_
                    refine AW.istore_n (L' := [some (rV (some x0)), some (iV x1), some (iV 0), none, some (iV x4), some (iV x5), some (iV x6)]) dX2_read_208 (Nat.le_of_ble_eq_true rfl) rfl rfl ?_
                    refine AW.iload dX2_read_209 rfl ?_
                    refine AW.istore_n (L' := [some (rV (some x0)), some (iV x4), some (iV 0), none, some (iV x4), some (iV x5), some (iV x6)]) dX2_read_211 (Nat.le_of_ble_eq_true rfl) rfl rfl ?_
                    refine AW.goto (tgt := 9) dX2_read_212 (by decide) ?_
                    exact AW.fewer (L' := [some (rV (some x0)), some (iV x4), some (iV 0), none, none, none, none]) (And.intro rfl (And.intro rfl (And.intro rfl trivial))) (ih _ _ _ _ h hk)
                  · refine AW.iconst dX2_read_203 ?_
                    refine AW.goto (tgt := 208) dX2_read_204 (by decide) ?_
                    refine AW.istore_n (L' := [some (rV (some x0)), some (iV x1), some (iV 1), none, some (iV x4), some (iV x5), some (iV x6)]) dX2_read_208 (Nat.le_of_ble_eq_true rfl) rfl rfl ?_
                    refine AW.iload dX2_read_209 rfl ?_
                    refine AW.istore_n (L' := [some (rV (some x0)), some (iV x4), some (iV 1), none, some (iV x4), some (iV x5), some (iV x6)]) dX2_read_211 (Nat.le_of_ble_eq_true rfl) rfl rfl ?_
                    refine AW.goto (tgt := 9) dX2_read_212 (by decide) ?_
                    exact AW.fewer (L' := [some (rV (some x0)), some (iV x4), some (iV 1), none, none, none, none]) (And.intro rfl (And.intro rfl (And.intro rfl trivial))) (ih _ _ _ _ h hk)
                · refine AW.if_eq 126 dX2_read_71 (by decide) h (fun c39 h => ?_) (fun c39 h => ?_)
                  · refine AW.aload_n dX2_read_126 rfl ?_
                    refine AW.iload_n dX2_read_127 rfl ?_
                    refine AW.VI (M' := m_X2_isDigit) (t := 2) [iV x1] [] dX2_read_128 q698 q700 qs5 q126 q701 ck2 rfl n_X2_isDigit rfl rfl rfl (fun _ _ _ e => c_X2_isDigit e) h (fun v12 s13 h => ?_)
                    refine AW.if_eq 167 dX2_read_131 (by decide) h (fun c27 h => ?_) (fun c27 h => ?_)
                    · refine AW.aload_n dX2_read_167 rfl ?_
                      refine AW.iload_n dX2_read_168 rfl ?_
                      refine AW.VI (M' := m_X2_sign) (t := 2) [iV x1] [] dX2_read_169 q702 q704 qs6 q126 q705 ck2 rfl n_X2_sign rfl rfl rfl (fun _ _ _ e => c_X2_sign e) h (fun v15 s16 h => ?_)
                      refine AW.istore (L' := [some (rV (some x0)), some (iV x1), some (iV x2), some (iV v4), some (iV (x1 + 1)), none, some (iV v15)]) dX2_read_172 (Nat.le_of_ble_eq_true rfl) rfl rfl ?_
                      refine AW.iload dX2_read_174 rfl ?_
                      refine jn_elim h (fun (j : (Hp → Int → Int → Int → Int → Option (Unit × Hp))) => ∀ (s18 : Hp) (x1 : Int) (x4 : Int) (x6 : Int) (y0 : Int), j s18 x1 x4 x6 y0 = some w → AW m_X2_read σ0 (oU w) 184 [some (rV (some x0)), some (iV x1), none, none, some (iV x4), none, some (iV x6)] [iV y0] s18) ?_ (fun j184 hj184 h => ?_)
                      · intro s18 x1 x4 x6 y0 h
                        refine AW.istore (L' := [some (rV (some x0)), some (iV x1), none, none, some (iV x4), some (iV y0), some (iV x6)]) dX2_read_184 (Nat.le_of_ble_eq_true rfl) rfl rfl ?_
                        exact hj186 _ _ _ _ _ h
                      · refine AW.if_ne 183 dX2_read_176 (by decide) h (fun c19 h => ?_) (fun c19 h => ?_)
                        · refine AW.iconst dX2_read_183 ?_
                          exact AW.fewer (L' := [some (rV (some x0)), some (iV x1), none, none, some (iV (x1 + 1)), none, some (iV v15)]) (And.intro rfl (And.intro rfl (And.intro rfl (And.intro rfl trivial)))) (hj184 _ _ _ _ _ h)
                        · refine AW.iconst dX2_read_179 ?_
                          refine AW.goto (tgt := 184) dX2_read_180 (by decide) ?_
                          exact AW.fewer (L' := [some (rV (some x0)), some (iV x1), none, none, some (iV (x1 + 1)), none, some (iV v15)]) (And.intro rfl (And.intro rfl (And.intro rfl (And.intro rfl trivial)))) (hj184 _ _ _ _ _ h)
                    · refine AW.fewer (L' := [some (rV (some x0)), some (iV x1), none, none, some (iV (x1 + 1)), none, some (iV 0)]) (And.intro rfl (And.intro rfl (And.intro rfl (And.intro rfl trivial)))) ?_
                      refine w_X2_read_L134 _ _ _ _ _ _ h (fun s24 x1 x4 x6 h => ?_)
                      refine AW.iload dX2_read_149 rfl ?_
                      refine AW.iload_n dX2_read_151 rfl ?_
                      refine AW.isub dX2_read_152 ?_
                      refine AW.iconst dX2_read_153 ?_
                      refine jn_elim h (fun (j : (Hp → Int → Int → Int → Int → Option (Unit × Hp))) => ∀ (s25 : Hp) (x1 : Int) (x4 : Int) (x6 : Int) (y0 : Int), j s25 x1 x4 x6 y0 = some w → AW m_X2_read σ0 (oU w) 162 [some (rV (some x0)), some (iV x1), none, none, some (iV x4), none, some (iV x6)] [iV y0] s25) ?_ (fun j162 hj162 h => ?_)
                      · intro s25 x1 x4 x6 y0 h
                        refine AW.istore (L' := [some (rV (some x0)), some (iV x1), none, none, some (iV x4), some (iV y0), some (iV x6)]) dX2_read_162 (Nat.le_of_ble_eq_true rfl) rfl rfl ?_
                        refine AW.goto (tgt := 186) dX2_read_164 (by decide) ?_
                        exact hj186 _ _ _ _ _ h
                      · refine AW.icmp_le 161 dX2_read_154 (by decide) h (fun c26 h => ?_) (fun c26 h => ?_)
                        · refine AW.iconst dX2_read_161 ?_
                          exact hj162 _ _ _ _ _ h
                        · refine AW.iconst dX2_read_157 ?_
                          refine AW.goto (tgt := 162) dX2_read_158 (by decide) ?_
                          exact hj162 _ _ _ _ _ h
                  · refine AW.fewer (L' := [some (rV (some x0)), some (iV x1), none, none, some (iV (x1 + 1)), none, none]) (And.intro rfl (And.intro rfl (And.intro rfl trivial))) ?_
                    refine w_X2_read_L74 _ _ _ _ _ h (fun s32 x1 x4 h => ?_)
                    refine AW.aload_n dX2_read_89 rfl ?_
                    refine AW.iload_n dX2_read_90 rfl ?_
                    refine AW.iload dX2_read_91 rfl ?_
                    refine AW.VI (M' := m_X2_word) (t := 2) [iV x1, iV x4] [] dX2_read_93 q648 q650 qs4 q126 q651 ck2 rfl n_X2_word rfl rfl rfl (fun _ _ _ e => c_X2_word e) h (fun v33 s34 h => ?_)
                    refine AW.istore (L' := [some (rV (some x0)), some (iV x1), none, none, some (iV x4), none, some (iV v33)]) dX2_read_96 (Nat.le_of_ble_eq_true rfl) rfl rfl ?_
                    refine AW.iload dX2_read_98 rfl ?_
                    refine jn_elim h (fun (j : (Hp → Int → Int → Int → Int → Option (Unit × Hp))) => ∀ (s36 : Hp) (x1 : Int) (x4 : Int) (x6 : Int) (y0 : Int), j s36 x1 x4 x6 y0 = some w → AW m_X2_read σ0 (oU w) 121 [some (rV (some x0)), some (iV x1), none, none, some (iV x4), none, some (iV x6)] [iV y0] s36) ?_ (fun j121 hj121 h => ?_)
                    · intro s36 x1 x4 x6 y0 h
                      refine AW.istore (L' := [some (rV (some x0)), some (iV x1), none, none, some (iV x4), some (iV y0), some (iV x6)]) dX2_read_121 (Nat.le_of_ble_eq_true rfl) rfl rfl ?_
                      refine AW.goto (tgt := 186) dX2_read_123 (by decide) ?_
                      exact hj186 _ _ _ _ _ h
                    · refine AW.if_lt 107 dX2_read_100 (by decide) h (fun c38 h => ?_) (fun c38 h => ?_)
                      · refine AW.iload dX2_read_107 rfl ?_
                        refine AW.iload_n dX2_read_109 rfl ?_
                        refine AW.isub dX2_read_110 ?_
                        refine AW.bipush dX2_read_111 (by decide) ?_
                        refine AW.icmp_le 120 dX2_read_113 (by decide) h (fun c37 h => ?_) (fun c37 h => ?_)
                        · refine AW.iconst dX2_read_120 ?_
                          exact hj121 _ _ _ _ _ h
                        · refine AW.iconst dX2_read_116 ?_
                          refine AW.goto (tgt := 121) dX2_read_117 (by decide) ?_
                          exact hj121 _ _ _ _ _ h
                      · refine AW.iconst dX2_read_103 ?_
                        refine AW.goto (tgt := 121) dX2_read_104 (by decide) ?_
                        exact hj121 _ _ _ _ _ h
              · refine AW.iinc (L' := [some (rV (some x0)), some (iV (x1 + 1)), some (iV x2), some (iV v4), some (iV (x1 + 1)), none, none]) dX2_read_57 rfl (Nat.le_of_ble_eq_true rfl) rfl rfl ?_
                refine AW.goto (tgt := 9) dX2_read_60 (by decide) ?_
                exact AW.fewer (L' := [some (rV (some x0)), some (iV (x1 + 1)), some (iV x2), none, none, none, none]) (And.intro rfl (And.intro rfl (And.intro rfl trivial))) (ih _ _ _ _ h hk)
def f_X2_read (s0 : Hp) (x0 : Nat) : Option (Unit × Hp) :=
  (pI s0 2 (some x0) 7 0).bind fun s1 => f_X2_read_L9 x0 FU s1 0 1 (fun s46 x1 x2 => (if nrm x2 = 0 then (some ((), s46)) else ((rcv s46 2 (some x0)).bind fun b48 => bn (f_X2_add s46 b48 4 x1 x1 0) fun _ s47 => some ((), s47))))
theorem w_X2_read {σ0 : Hp} {w : Unit × Hp} (s0 : Hp) (x0 : Nat) (h : f_X2_read s0 x0 = some w) : AW m_X2_read σ0 (oU w) 0 [some (rV (some x0)), none, none, none, none, none, none] [] s0 := by
  unfold f_X2_read at h
  refine AW.aload_n dX2_read_0 rfl ?_
  refine AW.iconst dX2_read_1 ?_
  refine AW.putI (t := 2) (k := 7) dX2_read_2 ck2 mu2 (Nat.le_of_ble_eq_true rfl) rfl q276 (Or.inl rfl) (Or.inl rfl) h (fun s1 h => ?_)
  refine AW.iconst dX2_read_5 ?_
  refine AW.istore_n (L' := [some (rV (some x0)), some (iV 0), none, none, none, none, none]) dX2_read_6 (Nat.le_of_ble_eq_true rfl) rfl rfl ?_
  refine AW.iconst dX2_read_7 ?_
  refine AW.istore_n (L' := [some (rV (some x0)), some (iV 0), some (iV 1), none, none, none, none]) dX2_read_8 (Nat.le_of_ble_eq_true rfl) rfl rfl ?_
  refine w_X2_read_L9 _ _ _ _ _ h (fun s46 x1 x2 h => ?_)
  refine AW.iload_n dX2_read_215 rfl ?_
  refine AW.if_eq 227 dX2_read_216 (by decide) h (fun c49 h => ?_) (fun c49 h => ?_)
  · cases h
    exact AW.vret dX2_read_227 rfl
  · refine AW.aload_n dX2_read_219 rfl ?_
    refine AW.iconst dX2_read_220 ?_
    refine AW.iload_n dX2_read_221 rfl ?_
    refine AW.iload_n dX2_read_222 rfl ?_
    refine AW.iconst dX2_read_223 ?_
    refine AW.VU (M' := m_X2_add) (t := 2) [iV 4, iV x1, iV x1, iV 0] [] dX2_read_224 q706 q708 qs7 q126 q709 ck2 rfl n_X2_add rfl rfl rfl (fun _ _ _ e => c_X2_add e) h (fun _ s47 h => ?_)
    cases h
    exact AW.vret dX2_read_227 rfl
theorem c_X2_read {s0 : Hp} {x0 : Nat} {v : Unit} {s1 : Hp} (h : f_X2_read s0 x0 = some (v, s1)) : Ct m_X2_read [rV (some x0)] s0 (.inl none, s1) :=
  Ct.of2 (w_X2_read s0 x0 h) (show plainName yX2_read.cls = true by decide) rfl rfl rfl
abbrev m_X3_read : Mi := (yX3_read, cX3_read, (some (FieldType.object "LateMirrors$Text")), 1, 49, 3666, [])
theorem n_X3_read : nameOk yX3_read 0 := ⟨by decide, by decide, by decide +kernel⟩
def f_X3_read_L33 (x0 : Nat) : Nat → Hp → (Hp → Option ((Option Nat ⊕ Nat) × Hp)) → Option ((Option Nat ⊕ Nat) × Hp)
  | 0, _, _ => none
  | n + 1, s0, k => (rcv s0 3 (some x0)).bind fun b14 => bx (f_X3_sort s0 b14) fun v12 s13 => (if nrm v12 = nrm 4 then (k s13) else ((rcv s13 3 (some x0)).bind fun b16 => bx (f_X3_told s13 b16) fun _ s15 => (rcv s15 3 (some x0)).bind fun b18 => bx (f_X3_sign s15 b18 59) fun _ s17 => f_X3_read_L33 x0 n s17 k))
theorem w_X3_read_L33 {σ0 : Hp} {w : (Option Nat ⊕ Nat) × Hp} {x0 : Nat} : ∀ (n : Nat) (s0 : Hp)  (k : (Hp → Option ((Option Nat ⊕ Nat) × Hp))), f_X3_read_L33 x0 n s0 k = some w → (∀ (s1 : Hp), k s1 = some w → AW m_X3_read σ0 (xo vR w) 54 [some (rV (some x0))] [] s1) → AW m_X3_read σ0 (xo vR w) 33 [some (rV (some x0))] [] s0 := by
  intro n
  induction n with
  | zero =>
    intro s0 k h hk
    rw [f_X3_read_L33] at h
    cases h
  | succ n ih =>
    intro s0 k h hk
    rw [f_X3_read_L33] at h
    refine AW.aload_n dX3_read_33 rfl ?_
    refine AW.xVI (M' := m_X3_sort) (t := 3) [] [] dX3_read_34 q712 q714 qs8 q127 q715 ck3 rfl n_X3_sort rfl rfl rfl rfl (fun _ _ e => c_X3_sort e) h (fun v12 s13 h => ?_)
    refine AW.iconst dX3_read_37 ?_
    refine AW.icmp_eq 54 dX3_read_38 (by decide) h (fun c19 h => ?_) (fun c19 h => ?_)
    · exact hk _ h
    · refine AW.aload_n dX3_read_41 rfl ?_
      refine AW.xVU (M' := m_X3_told) (t := 3) [] [] dX3_read_42 q728 q730 qs11 q127 q731 ck3 rfl n_X3_told rfl rfl rfl rfl (fun _ _ e => c_X3_told e) h (fun _ s15 h => ?_)
      refine AW.aload_n dX3_read_45 rfl ?_
      refine AW.bipush dX3_read_46 (by decide) ?_
      refine AW.xVU (M' := m_X3_sign) (t := 3) [iV 59] [] dX3_read_48 q1079 q1081 qs24 q127 q1082 ck3 rfl n_X3_sign rfl rfl rfl rfl (fun _ _ e => c_X3_sign e) h (fun _ s17 h => ?_)
      refine AW.goto (tgt := 33) dX3_read_51 (by decide) ?_
      exact ih _ _ h hk
def f_X3_read (s0 : Hp) (x0 : Nat) : Option ((Option Nat ⊕ Nat) × Hp) :=
  (gR s0 3 (some x0) 0).bind fun v1 => (rcv s0 2 v1).bind fun b3 => bn (f_X2_read s0 b3) fun _ s2 => nw s2 4 7 fun v4 s5 => (rcv s5 4 v4).bind fun b7 => bn (f_X4_init s5 b7) fun _ s6 => (pR s6 3 (some x0) 2 v4).bind fun s8 => (pI s8 3 (some x0) 3 0).bind fun s9 => (pI s9 3 (some x0) 4 0).bind fun s10 => (pI s10 3 (some x0) 5 0).bind fun s11 => f_X3_read_L33 x0 FU s11 (fun s20 => (gI s20 3 (some x0) 5).bind fun v21 => (if nrm v21 = 0 then ((gR s20 3 (some x0) 2).bind fun v22 => some (.inl v22, s20)) else ((gI s20 3 (some x0) 5).bind fun v23 => (gI s20 3 (some x0) 6).bind fun v24 => (rcv s20 3 (some x0)).bind fun b27 => bn (f_X3_wrongAt s20 b27 v23 v24) fun v25 s26 => thr s26 v25)))
theorem w_X3_read {σ0 : Hp} {w : (Option Nat ⊕ Nat) × Hp} (s0 : Hp) (x0 : Nat) (h : f_X3_read s0 x0 = some w) : AW m_X3_read σ0 (xo vR w) 0 [some (rV (some x0))] [] s0 := by
  unfold f_X3_read at h
  refine AW.aload_n dX3_read_0 rfl ?_
  refine AW.getR (t := 3) (k := 0) dX3_read_1 ck3 (Nat.le_of_ble_eq_true rfl) (fun _ => rfl) q301 (Or.inl rfl) h (fun v1 h => ?_)
  refine AW.VU (M' := m_X2_read) (t := 2) [] [] dX3_read_4 q636 q637 q638 q126 q639 ck2 rfl n_X2_read rfl rfl rfl (fun _ _ _ e => c_X2_read e) h (fun _ s2 h => ?_)
  refine AW.aload_n dX3_read_7 rfl ?_
  refine AW.new (t := 4) (n := 7) dX3_read_8 ck4 mu4 nf4 q710 q324 q128 h (fun v4 s5 h => ?_)
  refine AW.dupR dX3_read_11 ?_
  refine AW.NU (M' := m_X4_init) (t := 4) [] [rV v4, rV (some x0)] dX3_read_12 (by decide) q326 q128 q327 rfl rfl n_X4_init rfl rfl rfl (fun _ _ _ e => c_X4_init e) h (fun _ s6 h => ?_)
  refine AW.putR (t := 3) (k := 2) dX3_read_15 ck3 mu3 (Nat.le_of_ble_eq_true rfl) (Or.inl ⟨_, rfl⟩) q303 (Or.inl rfl) (Or.inl rfl) h (fun s8 h => ?_)
  refine AW.aload_n dX3_read_18 rfl ?_
  refine AW.iconst dX3_read_19 ?_
  refine AW.putI (t := 3) (k := 3) dX3_read_20 ck3 mu3 (Nat.le_of_ble_eq_true rfl) rfl q304 (Or.inl rfl) (Or.inl rfl) h (fun s9 h => ?_)
  refine AW.aload_n dX3_read_23 rfl ?_
  refine AW.iconst dX3_read_24 ?_
  refine AW.putI (t := 3) (k := 4) dX3_read_25 ck3 mu3 (Nat.le_of_ble_eq_true rfl) rfl q305 (Or.inl rfl) (Or.inl rfl) h (fun s10 h => ?_)
  refine AW.aload_n dX3_read_28 rfl ?_
  refine AW.iconst dX3_read_29 ?_
  refine AW.putI (t := 3) (k := 5) dX3_read_30 ck3 mu3 (Nat.le_of_ble_eq_true rfl) rfl q306 (Or.inl rfl) (Or.inl rfl) h (fun s11 h => ?_)
  refine w_X3_read_L33 _ _ _ h (fun s20 h => ?_)
  refine AW.aload_n dX3_read_54 rfl ?_
  refine AW.getI (t := 3) (k := 5) dX3_read_55 ck3 (Nat.le_of_ble_eq_true rfl) (fun _ => rfl) q306 (Or.inl rfl) h (fun v21 h => ?_)
  refine AW.if_eq 74 dX3_read_58 (by decide) h (fun c28 h => ?_) (fun c28 h => ?_)
  · refine AW.aload_n dX3_read_74 rfl ?_
    refine AW.getR (t := 3) (k := 2) dX3_read_75 ck3 (Nat.le_of_ble_eq_true rfl) (fun _ => rfl) q303 (Or.inl rfl) h (fun v22 h => ?_)
    cases h
    exact AW.aret dX3_read_78 rfl (Or.inl ⟨_, rfl⟩)
  · refine AW.aload_n dX3_read_61 rfl ?_
    refine AW.aload_n dX3_read_62 rfl ?_
    refine AW.getI (t := 3) (k := 5) dX3_read_63 ck3 (Nat.le_of_ble_eq_true rfl) (fun _ => rfl) q306 (Or.inl rfl) h (fun v23 h => ?_)
    refine AW.aload_n dX3_read_66 rfl ?_
    refine AW.getI (t := 3) (k := 6) dX3_read_67 ck3 (Nat.le_of_ble_eq_true rfl) (fun _ => rfl) q307 (Or.inl rfl) h (fun v24 h => ?_)
    refine AW.VR (M' := m_X3_wrongAt) (t := 3) [iV v23, iV v24] [] dX3_read_70 q720 q722 qs10 q127 q723 ck3 rfl n_X3_wrongAt rfl rfl rfl (fun _ _ _ e => c_X3_wrongAt e) h (fun v25 s26 h => ?_)
    exact AW.athrow dX3_read_73 rfl h
theorem c_X3_read {s0 : Hp} {x0 : Nat} {w1 : (Option Nat ⊕ Nat) × Hp} (h : f_X3_read s0 x0 = some w1) : Ct m_X3_read [rV (some x0)] s0 (xo vR w1) :=
  Ct.of2 (w_X3_read s0 x0 h) (show plainName yX3_read.cls = true by decide) rfl rfl rfl
abbrev m_X0_read : Mi := (yX0_read, cX0_read, (some .int), 3, 417, 24814, [(7, 59, 62, 14)])
theorem n_X0_read : nameOk yX0_read 0 := ⟨by decide, by decide, by decide +kernel⟩
def f_X0_read_L41 (x0 : Nat) : Nat → Hp → Int → Int → (Hp → Int → Option (Int × Hp)) → Option (Int × Hp)
  | 0, _, _, _, _ => none
  | n + 1, s0, x1, x2, k => (if nrm 3 ≤ nrm x2 then (k s0 x1) else ((gR s0 0 (some x0) 11).bind fun v18 => (sI s0 102 v18 x2 (b1I 0)).bind fun s19 => f_X0_read_L41 x0 n s19 x1 (x2 + 1) k))
theorem w_X0_read_L41 {σ0 : Hp} {w : Int × Hp} {x0 : Nat} : ∀ (n : Nat) (s0 : Hp) (x1 : Int) (x2 : Int) (k : (Hp → Int → Option (Int × Hp))), f_X0_read_L41 x0 n s0 x1 x2 k = some w → (∀ (s1 : Hp) (x1 : Int), k s1 x1 = some w → AW m_X0_read σ0 (oI w) 59 [some (rV (some x0)), some (iV x1), none] [] s1) → AW m_X0_read σ0 (oI w) 41 [some (rV (some x0)), some (iV x1), some (iV x2)] [] s0 := by
  intro n
  induction n with
  | zero =>
    intro s0 x1 x2 k h hk
    rw [f_X0_read_L41] at h
    cases h
  | succ n ih =>
    intro s0 x1 x2 k h hk
    rw [f_X0_read_L41] at h
    refine AW.iload_n dX0_read_41 rfl ?_
    refine AW.iconst dX0_read_42 ?_
    refine AW.icmp_ge 59 dX0_read_43 (by decide) h (fun c20 h => ?_) (fun c20 h => ?_)
    · exact AW.fewer (L' := [some (rV (some x0)), some (iV x1), none]) (And.intro rfl (And.intro rfl trivial)) (hk _ _ h)
    · refine AW.aload_n dX0_read_46 rfl ?_
      refine AW.getR (t := 0) (k := 11) dX0_read_47 ck0 (Nat.le_of_ble_eq_true rfl) (fun _ => rfl) q557 (Or.inl rfl) h (fun v18 h => ?_)
      refine AW.iload_n dX0_read_50 rfl ?_
      refine AW.iconst dX0_read_51 ?_
      refine AW.zast (t := 102) dX0_read_52 (Nat.le_of_ble_eq_true rfl) mu102 rfl h (fun s19 h => ?_)
      refine AW.iinc (L' := [some (rV (some x0)), some (iV x1), some (iV (x2 + 1))]) dX0_read_53 rfl (Nat.le_of_ble_eq_true rfl) rfl rfl ?_
      refine AW.goto (tgt := 41) dX0_read_56 (by decide) ?_
      exact ih _ _ _ _ h hk
def f_X0_read (s0 : Hp) (x0 : Nat) : Option (Int × Hp) :=
  (pI s0 0 (some x0) 4 (-1)).bind fun s1 => (gR s1 0 (some x0) 2).bind fun v2 => jn (fun (s8 : Hp) (x1 : Int) => (gR s8 0 (some x0) 1).bind fun v9 => (pI s8 2 v9 2 0).bind fun s10 => some (nrm x1, s10)) fun j76 => (rcv s1 3 v2).bind fun b3 => cx (f_X3_read s1 b3) (fun v4 s5 => (pR s5 0 (some x0) 3 v4).bind fun s11 => (gR s11 0 (some x0) 7).bind fun v12 => (gR s11 0 (some x0) 3).bind fun v13 => (rcv s11 5 v12).bind fun b15 => bn (f_X5_begins s11 b15 v13) fun _ s14 => (pI s14 0 (some x0) 5 0).bind fun s16 => (pI s16 0 (some x0) 18 0).bind fun s17 => f_X0_read_L41 x0 FU s17 0 0 (fun s21 x1 => j76 s21 x1)) (fun q6 s7 => (gI s7 1 (some q6) 6).bind fun v22 => (gI s7 1 (some q6) 7).bind fun v23 => (pI s7 0 (some x0) 4 v23).bind fun s24 => j76 s24 v22)
theorem w_X0_read {σ0 : Hp} {w : Int × Hp} (s0 : Hp) (x0 : Nat) (h : f_X0_read s0 x0 = some w) : AW m_X0_read σ0 (oI w) 0 [some (rV (some x0)), none, none] [] s0 := by
  unfold f_X0_read at h
  refine AW.iconst dX0_read_0 ?_
  refine AW.istore_n (L' := [some (rV (some x0)), some (iV 0), none]) dX0_read_1 (Nat.le_of_ble_eq_true rfl) rfl rfl ?_
  refine AW.aload_n dX0_read_2 rfl ?_
  refine AW.iconst dX0_read_3 ?_
  refine AW.putI (t := 0) (k := 4) dX0_read_4 ck0 mu0 (Nat.le_of_ble_eq_true rfl) rfl q550 (Or.inl rfl) (Or.inl rfl) h (fun s1 h => ?_)
  refine AW.aload_n dX0_read_7 rfl ?_
  refine AW.aload_n dX0_read_8 rfl ?_
  refine AW.getR (t := 0) (k := 2) dX0_read_9 ck0 (Nat.le_of_ble_eq_true rfl) (fun _ => rfl) q548 (Or.inl rfl) h (fun v2 h => ?_)
  refine jn_elim h (fun (j : (Hp → Int → Option (Int × Hp))) => ∀ (s8 : Hp) (x1 : Int), j s8 x1 = some w → AW m_X0_read σ0 (oI w) 76 [some (rV (some x0)), some (iV x1), none] [] s8) ?_ (fun j76 hj76 h => ?_)
  · intro s8 x1 h
    refine AW.aload_n dX0_read_76 rfl ?_
    refine AW.getR (t := 0) (k := 1) dX0_read_77 ck0 (Nat.le_of_ble_eq_true rfl) (fun _ => rfl) q547 (Or.inl rfl) h (fun v9 h => ?_)
    refine AW.iconst dX0_read_80 ?_
    refine AW.putI (t := 2) (k := 2) dX0_read_81 ck2 mu2 (Nat.le_of_ble_eq_true rfl) rfl q268 (Or.inl rfl) (Or.inl rfl) h (fun s10 h => ?_)
    refine AW.iload_n dX0_read_84 rfl ?_
    refine AW.nv ?_
    cases h
    exact AW.iret dX0_read_85 rfl
  · refine AW.cVR (M' := m_X3_read) (t := 3) [] [rV (some x0)] dX0_read_12 q632 q633 q634 q127 q635 ck3 rfl n_X3_read rfl rfl rfl rfl ⟨Nat.le_of_ble_eq_true rfl, Nat.le_of_ble_eq_true rfl⟩ (by decide) q165 (fun _ _ e => c_X3_read e) h (fun v4 s5 h => ?_) (fun q6 s7 h => ?_)
    · refine AW.putR (t := 0) (k := 3) dX0_read_15 ck0 mu0 (Nat.le_of_ble_eq_true rfl) (Or.inl ⟨_, rfl⟩) q549 (Or.inl rfl) (Or.inl rfl) h (fun s11 h => ?_)
      refine AW.aload_n dX0_read_18 rfl ?_
      refine AW.getR (t := 0) (k := 7) dX0_read_19 ck0 (Nat.le_of_ble_eq_true rfl) (fun _ => rfl) q553 (Or.inl rfl) h (fun v12 h => ?_)
      refine AW.aload_n dX0_read_22 rfl ?_
      refine AW.getR (t := 0) (k := 3) dX0_read_23 ck0 (Nat.le_of_ble_eq_true rfl) (fun _ => rfl) q549 (Or.inl rfl) h (fun v13 h => ?_)
      refine AW.VU (M' := m_X5_begins) (t := 5) [rV v13] [] dX0_read_26 q480 q481 q482 q132 q483 ck5 rfl n_X5_begins rfl rfl rfl (fun _ _ _ e => c_X5_begins e) h (fun _ s14 h => ?_)
      refine AW.aload_n dX0_read_29 rfl ?_
      refine AW.iconst dX0_read_30 ?_
      refine AW.putI (t := 0) (k := 5) dX0_read_31 ck0 mu0 (Nat.le_of_ble_eq_true rfl) rfl q551 (Or.inl rfl) (Or.inl rfl) h (fun s16 h => ?_)
      refine AW.aload_n dX0_read_34 rfl ?_
      refine AW.iconst dX0_read_35 ?_
      refine AW.putI (t := 0) (k := 18) dX0_read_36 ck0 mu0 (Nat.le_of_ble_eq_true rfl) rfl q564 (Or.inl rfl) (Or.inl rfl) h (fun s17 h => ?_)
      refine AW.iconst dX0_read_39 ?_
      refine AW.istore_n (L' := [some (rV (some x0)), some (iV 0), some (iV 0)]) dX0_read_40 (Nat.le_of_ble_eq_true rfl) rfl rfl ?_
      refine w_X0_read_L41 _ _ _ _ _ h (fun s21 x1 h => ?_)
      refine AW.goto (tgt := 76) dX0_read_59 (by decide) ?_
      exact hj76 _ _ h
    · refine AW.astore_n (L' := [some (rV (some x0)), some (iV 0), some (rV (some q6))]) dX0_read_62 (Nat.le_of_ble_eq_true rfl) rfl rfl ?_
      refine AW.aload_n dX0_read_63 rfl ?_
      refine AW.getI (t := 1) (k := 6) dX0_read_64 ck1 (Nat.le_of_ble_eq_true rfl) (fun _ => rfl) q218 (Or.inl rfl) h (fun v22 h => ?_)
      refine AW.istore_n (L' := [some (rV (some x0)), some (iV v22), some (rV (some q6))]) dX0_read_67 (Nat.le_of_ble_eq_true rfl) rfl rfl ?_
      refine AW.aload_n dX0_read_68 rfl ?_
      refine AW.aload_n dX0_read_69 rfl ?_
      refine AW.getI (t := 1) (k := 7) dX0_read_70 ck1 (Nat.le_of_ble_eq_true rfl) (fun _ => rfl) q220 (Or.inl rfl) h (fun v23 h => ?_)
      refine AW.putI (t := 0) (k := 4) dX0_read_73 ck0 mu0 (Nat.le_of_ble_eq_true rfl) rfl q550 (Or.inl rfl) (Or.inl rfl) h (fun s24 h => ?_)
      exact AW.fewer (L' := [some (rV (some x0)), some (iV v22), none]) (And.intro rfl (And.intro rfl trivial)) (hj76 _ _ h)
theorem c_X0_read {s0 : Hp} {x0 : Nat} {v : Int} {s1 : Hp} (h : f_X0_read s0 x0 = some (v, s1)) : CtH m_X0_read [rV (some x0)] s0 (some (iV v)) s1 :=
  CtH.of (by decide) (Nat.le_of_ble_eq_true rfl) rfl (w_X0_read s0 x0 h)
abbrev m_X0_restore : Mi := (yX0_restore, cX0_restore, (some .boolean), 2, 2, 102, [])
theorem n_X0_restore : nameOk yX0_restore 1 := ⟨by decide, by decide, by decide +kernel⟩
def f_X0_restore (s0 : Hp) (x0 : Nat) (x1 : Int) : Option (Int × Hp) :=
  bn (f_X0_isIn s0 x1 0 2) fun v1 s2 => (if nrm v1 = 0 then (some (0, s2)) else ((gR s2 0 (some x0) 11).bind fun v3 => (aI s2 102 v3 x1).bind fun v4 => (if ¬ nrm v4 = 0 then ((gR s2 0 (some x0) 7).bind fun v5 => (gR s2 0 (some x0) 10).bind fun v6 => (aR s2 110 v6 x1).bind fun v7 => (rcv s2 5 v5).bind fun b9 => bn (f_X5_takes s2 b9 v7) fun _ s8 => (pI s8 0 (some x0) 5 0).bind fun s10 => some (1, s10)) else (some (0, s2)))))
theorem w_X0_restore {σ0 : Hp} {w : Int × Hp} (s0 : Hp) (x0 : Nat) (x1 : Int) (h : f_X0_restore s0 x0 x1 = some w) : AW m_X0_restore σ0 (oI w) 0 [some (rV (some x0)), some (iV x1)] [] s0 := by
  unfold f_X0_restore at h
  refine AW.iload_n dX0_restore_0 rfl ?_
  refine AW.iconst dX0_restore_1 ?_
  refine AW.iconst dX0_restore_2 ?_
  refine AW.SI (M' := m_X0_isIn) [iV x1, iV 0, iV 2] [] dX0_restore_3 q1180 q1181 q121 q1182 n_X0_isIn rfl rfl rfl (fun _ _ e => c_X0_isIn e) h (fun v1 s2 h => ?_)
  refine AW.if_eq 18 dX0_restore_6 (by decide) h (fun c12 h => ?_) (fun c12 h => ?_)
  · refine AW.iconst dX0_restore_18 ?_
    cases h
    exact AW.zret (z := 0) dX0_restore_19 rfl zz0
  · refine AW.aload_n dX0_restore_9 rfl ?_
    refine AW.getR (t := 0) (k := 11) dX0_restore_10 ck0 (Nat.le_of_ble_eq_true rfl) (fun _ => rfl) q557 (Or.inl rfl) h (fun v3 h => ?_)
    refine AW.iload_n dX0_restore_13 rfl ?_
    refine AW.zald (t := 102) dX0_restore_14 (Nat.le_of_ble_eq_true rfl) rfl h (fun v4 h => ?_)
    refine AW.if_ne 20 dX0_restore_15 (by decide) h (fun c11 h => ?_) (fun c11 h => ?_)
    · refine AW.aload_n dX0_restore_20 rfl ?_
      refine AW.getR (t := 0) (k := 7) dX0_restore_21 ck0 (Nat.le_of_ble_eq_true rfl) (fun _ => rfl) q553 (Or.inl rfl) h (fun v5 h => ?_)
      refine AW.aload_n dX0_restore_24 rfl ?_
      refine AW.getR (t := 0) (k := 10) dX0_restore_25 ck0 (Nat.le_of_ble_eq_true rfl) (fun _ => rfl) q556 (Or.inl rfl) h (fun v6 h => ?_)
      refine AW.iload_n dX0_restore_28 rfl ?_
      refine AW.aald (t := 110) dX0_restore_29 (Nat.le_of_ble_eq_true rfl) rfl (fun _ _ => rfl) h (fun v7 h => ?_)
      refine AW.VU (M' := m_X5_takes) (t := 5) [rV v7] [] dX0_restore_30 q1221 q1222 q1223 q132 q1224 ck5 rfl n_X5_takes rfl rfl rfl (fun _ _ _ e => c_X5_takes e) h (fun _ s8 h => ?_)
      refine AW.aload_n dX0_restore_33 rfl ?_
      refine AW.iconst dX0_restore_34 ?_
      refine AW.putI (t := 0) (k := 5) dX0_restore_35 ck0 mu0 (Nat.le_of_ble_eq_true rfl) rfl q551 (Or.inl rfl) (Or.inl rfl) h (fun s10 h => ?_)
      refine AW.iconst dX0_restore_38 ?_
      cases h
      exact AW.zret (z := 1) dX0_restore_39 rfl zz1
    · refine AW.iconst dX0_restore_18 ?_
      cases h
      exact AW.zret (z := 0) dX0_restore_19 rfl zz0
theorem c_X0_restore {s0 : Hp} {x0 : Nat} {x1 : Int} {v : Int} {s1 : Hp} (h : f_X0_restore s0 x0 x1 = some (v, s1)) : Ct m_X0_restore [rV (some x0), iV x1] s0 (.inl (some (iV v)), s1) :=
  Ct.of2 (w_X0_restore s0 x0 x1 h) (show plainName yX0_restore.cls = true by decide) rfl rfl rfl
abbrev m_X0_rests : Mi := (yX0_rests, cX0_rests, (some .int), 8, 6, 142, [])
theorem n_X0_rests : nameOk yX0_rests 3 := ⟨by decide, by decide, by decide +kernel⟩
def f_X0_rests_L68 (x0 : Nat) : Nat → Hp → Int → Int → Int → Int → Int → (Hp → Int → Int → Int → Int → Option (Int × Hp)) → Option (Int × Hp)
  | 0, _, _, _, _, _, _, _ => none
  | n + 1, s0, x3, x4, x5, x6, x7, k => (rcv s0 0 (some x0)).bind fun b15 => bn (f_X0_rooms s0 b15) fun v13 s14 => (if nrm v13 ≤ nrm x7 then (k s14 x3 x4 x5 x6) else ((rcv s14 0 (some x0)).bind fun b18 => bn (f_X0_isRest s14 b18 x6 x7 x5) fun v16 s17 => (if ¬ nrm v16 = 0 then ((if ¬ nrm x4 = nrm x3 then (f_X0_rests_L68 x0 n s17 x3 (x4 + 1) x5 x6 (x7 + 1) k) else (some (nrm ((10 * x6) + x7), s17)))) else (f_X0_rests_L68 x0 n s17 x3 x4 x5 x6 (x7 + 1) k))))
theorem w_X0_rests_L68 {σ0 : Hp} {w : Int × Hp} {x0 : Nat} : ∀ (n : Nat) (s0 : Hp) (x3 : Int) (x4 : Int) (x5 : Int) (x6 : Int) (x7 : Int) (k : (Hp → Int → Int → Int → Int → Option (Int × Hp))), f_X0_rests_L68 x0 n s0 x3 x4 x5 x6 x7 k = some w → (∀ (s1 : Hp) (x3 : Int) (x4 : Int) (x5 : Int) (x6 : Int), k s1 x3 x4 x5 x6 = some w → AW m_X0_rests σ0 (oI w) 117 [some (rV (some x0)), none, none, some (iV x3), some (iV x4), some (iV x5), some (iV x6), none] [] s1) → AW m_X0_rests σ0 (oI w) 68 [some (rV (some x0)), none, none, some (iV x3), some (iV x4), some (iV x5), some (iV x6), some (iV x7)] [] s0 := by
  intro n
  induction n with
  | zero =>
    intro s0 x3 x4 x5 x6 x7 k h hk
    rw [f_X0_rests_L68] at h
    cases h
  | succ n ih =>
    intro s0 x3 x4 x5 x6 x7 k h hk
    rw [f_X0_rests_L68] at h
    refine AW.iload dX0_rests_68 rfl ?_
    refine AW.aload_n dX0_rests_70 rfl ?_
    refine AW.VI (M' := m_X0_rooms) (t := 0) [] [iV x7] dX0_rests_71 q1269 q1271 qs40 q121 q1272 ck0 rfl n_X0_rooms rfl rfl rfl (fun _ _ _ e => c_X0_rooms e) h (fun v13 s14 h => ?_)
    refine AW.icmp_ge 117 dX0_rests_74 (by decide) h (fun c21 h => ?_) (fun c21 h => ?_)
    · exact AW.fewer (L' := [some (rV (some x0)), none, none, some (iV x3), some (iV x4), some (iV x5), some (iV x6), none]) (And.intro rfl (And.intro rfl (And.intro rfl (And.intro rfl (And.intro rfl trivial))))) (hk _ _ _ _ _ h)
    · refine AW.aload_n dX0_rests_77 rfl ?_
      refine AW.iload dX0_rests_78 rfl ?_
      refine AW.iload dX0_rests_80 rfl ?_
      refine AW.iload dX0_rests_82 rfl ?_
      refine AW.VI (M' := m_X0_isRest) (t := 0) [iV x6, iV x7, iV x5] [] dX0_rests_84 q1441 q1443 qs50 q121 q1444 ck0 rfl n_X0_isRest rfl rfl rfl (fun _ _ _ e => c_X0_isRest e) h (fun v16 s17 h => ?_)
      refine AW.if_ne 93 dX0_rests_87 (by decide) h (fun c20 h => ?_) (fun c20 h => ?_)
      · refine AW.iload dX0_rests_93 rfl ?_
        refine AW.iload_n dX0_rests_95 rfl ?_
        refine AW.icmp_ne 108 dX0_rests_96 (by decide) h (fun c19 h => ?_) (fun c19 h => ?_)
        · refine AW.iinc (L' := [some (rV (some x0)), none, none, some (iV x3), some (iV (x4 + 1)), some (iV x5), some (iV x6), some (iV x7)]) dX0_rests_108 rfl (Nat.le_of_ble_eq_true rfl) rfl rfl ?_
          refine AW.iinc (L' := [some (rV (some x0)), none, none, some (iV x3), some (iV (x4 + 1)), some (iV x5), some (iV x6), some (iV (x7 + 1))]) dX0_rests_111 rfl (Nat.le_of_ble_eq_true rfl) rfl rfl ?_
          refine AW.goto (tgt := 68) dX0_rests_114 (by decide) ?_
          exact ih _ _ _ _ _ _ _ h hk
        · refine AW.bipush dX0_rests_99 (by decide) ?_
          refine AW.iload dX0_rests_101 rfl ?_
          refine AW.imul dX0_rests_103 ?_
          refine AW.iload dX0_rests_104 rfl ?_
          refine AW.iadd dX0_rests_106 ?_
          refine AW.nv ?_
          cases h
          exact AW.iret dX0_rests_107 rfl
      · refine AW.goto (tgt := 111) dX0_rests_90 (by decide) ?_
        refine AW.iinc (L' := [some (rV (some x0)), none, none, some (iV x3), some (iV x4), some (iV x5), some (iV x6), some (iV (x7 + 1))]) dX0_rests_111 rfl (Nat.le_of_ble_eq_true rfl) rfl rfl ?_
        refine AW.goto (tgt := 68) dX0_rests_114 (by decide) ?_
        exact ih _ _ _ _ _ _ _ h hk
def f_X0_rests_L56 (x0 : Nat) : Nat → Hp → Int → Int → Int → Int → (Hp → Int → Int → Option (Int × Hp)) → Option (Int × Hp)
  | 0, _, _, _, _, _, _ => none
  | n + 1, s0, x3, x4, x5, x6, k => (rcv s0 0 (some x0)).bind fun b12 => bn (f_X0_rooms s0 b12) fun v10 s11 => (if nrm v10 ≤ nrm x6 then (k s11 x3 x4) else (f_X0_rests_L68 x0 FU s11 x3 x4 x5 x6 0 (fun s22 x3 x4 x5 x6 => f_X0_rests_L56 x0 n s22 x3 x4 x5 (x6 + 1) k)))
theorem w_X0_rests_L56 {σ0 : Hp} {w : Int × Hp} {x0 : Nat} : ∀ (n : Nat) (s0 : Hp) (x3 : Int) (x4 : Int) (x5 : Int) (x6 : Int) (k : (Hp → Int → Int → Option (Int × Hp))), f_X0_rests_L56 x0 n s0 x3 x4 x5 x6 k = some w → (∀ (s1 : Hp) (x3 : Int) (x4 : Int), k s1 x3 x4 = some w → AW m_X0_rests σ0 (oI w) 123 [none, none, none, some (iV x3), some (iV x4), none, none, none] [] s1) → AW m_X0_rests σ0 (oI w) 56 [some (rV (some x0)), none, none, some (iV x3), some (iV x4), some (iV x5), some (iV x6), none] [] s0 := by
  intro n
  induction n with
  | zero =>
    intro s0 x3 x4 x5 x6 k h hk
    rw [f_X0_rests_L56] at h
    cases h
  | succ n ih =>
    intro s0 x3 x4 x5 x6 k h hk
    rw [f_X0_rests_L56] at h
    refine AW.iload dX0_rests_56 rfl ?_
    refine AW.aload_n dX0_rests_58 rfl ?_
    refine AW.VI (M' := m_X0_rooms) (t := 0) [] [iV x6] dX0_rests_59 q1269 q1271 qs40 q121 q1272 ck0 rfl n_X0_rooms rfl rfl rfl (fun _ _ _ e => c_X0_rooms e) h (fun v10 s11 h => ?_)
    refine AW.icmp_ge 123 dX0_rests_62 (by decide) h (fun c23 h => ?_) (fun c23 h => ?_)
    · exact AW.fewer (L' := [none, none, none, some (iV x3), some (iV x4), none, none, none]) (And.intro rfl (And.intro rfl trivial)) (hk _ _ _ h)
    · refine AW.iconst dX0_rests_65 ?_
      refine AW.istore (L' := [some (rV (some x0)), none, none, some (iV x3), some (iV x4), some (iV x5), some (iV x6), some (iV 0)]) dX0_rests_66 (Nat.le_of_ble_eq_true rfl) rfl rfl ?_
      refine w_X0_rests_L68 _ _ _ _ _ _ _ _ h (fun s22 x3 x4 x5 x6 h => ?_)
      refine AW.iinc (L' := [some (rV (some x0)), none, none, some (iV x3), some (iV x4), some (iV x5), some (iV (x6 + 1)), none]) dX0_rests_117 rfl (Nat.le_of_ble_eq_true rfl) rfl rfl ?_
      refine AW.goto (tgt := 56) dX0_rests_120 (by decide) ?_
      exact ih _ _ _ _ _ _ h hk
def f_X0_rests (s0 : Hp) (x0 : Nat) (x1 : Int) (x2 : Int) (x3 : Int) : Option (Int × Hp) :=
  (rcv s0 0 (some x0)).bind fun b3 => bn (f_X0_isMan s0 b3 x1) fun v1 s2 => (if nrm v1 = 0 then (some ((-1), s2)) else ((rcv s2 0 (some x0)).bind fun b6 => bn (f_X0_isMan s2 b6 x2) fun v4 s5 => (if nrm v4 = 0 then (some ((-1), s5)) else ((if nrm x1 = nrm x2 then (some ((-1), s5)) else ((if nrm (-1) ≤ nrm x3 then ((rcv s5 0 (some x0)).bind fun b9 => bn (f_X0_men s5 b9) fun v7 s8 => f_X0_rests_L56 x0 FU s8 x3 0 (anI (anI ((slI 1 v7) - 1) (xoI (slI 1 x1) (-1))) (xoI (slI 1 x2) (-1))) 0 (fun s24 x3 x4 => (if ¬ nrm x3 = nrm (-1) then (some ((-1), s24)) else (some (nrm x4, s24))))) else (some ((-1), s5)))))))))
theorem w_X0_rests {σ0 : Hp} {w : Int × Hp} (s0 : Hp) (x0 : Nat) (x1 : Int) (x2 : Int) (x3 : Int) (h : f_X0_rests s0 x0 x1 x2 x3 = some w) : AW m_X0_rests σ0 (oI w) 0 [some (rV (some x0)), some (iV x1), some (iV x2), some (iV x3), none, none, none, none] [] s0 := by
  unfold f_X0_rests at h
  refine AW.aload_n dX0_rests_0 rfl ?_
  refine AW.iload_n dX0_rests_1 rfl ?_
  refine AW.VI (M' := m_X0_isMan) (t := 0) [iV x1] [] dX0_rests_2 q1171 q1173 qs31 q121 q1174 ck0 rfl n_X0_isMan rfl rfl rfl (fun _ _ _ e => c_X0_isMan e) h (fun v1 s2 h => ?_)
  refine AW.if_eq 26 dX0_rests_5 (by decide) h (fun c29 h => ?_) (fun c29 h => ?_)
  · refine AW.iconst dX0_rests_26 ?_
    cases h
    exact AW.iret dX0_rests_27 rfl
  · refine AW.aload_n dX0_rests_8 rfl ?_
    refine AW.iload_n dX0_rests_9 rfl ?_
    refine AW.VI (M' := m_X0_isMan) (t := 0) [iV x2] [] dX0_rests_10 q1171 q1173 qs31 q121 q1174 ck0 rfl n_X0_isMan rfl rfl rfl (fun _ _ _ e => c_X0_isMan e) h (fun v4 s5 h => ?_)
    refine AW.if_eq 26 dX0_rests_13 (by decide) h (fun c28 h => ?_) (fun c28 h => ?_)
    · refine AW.iconst dX0_rests_26 ?_
      cases h
      exact AW.iret dX0_rests_27 rfl
    · refine AW.iload_n dX0_rests_16 rfl ?_
      refine AW.iload_n dX0_rests_17 rfl ?_
      refine AW.icmp_eq 26 dX0_rests_18 (by decide) h (fun c27 h => ?_) (fun c27 h => ?_)
      · refine AW.iconst dX0_rests_26 ?_
        cases h
        exact AW.iret dX0_rests_27 rfl
      · refine AW.iload_n dX0_rests_21 rfl ?_
        refine AW.iconst dX0_rests_22 ?_
        refine AW.icmp_ge 28 dX0_rests_23 (by decide) h (fun c26 h => ?_) (fun c26 h => ?_)
        · refine AW.iconst dX0_rests_28 ?_
          refine AW.istore (L' := [some (rV (some x0)), some (iV x1), some (iV x2), some (iV x3), some (iV 0), none, none, none]) dX0_rests_29 (Nat.le_of_ble_eq_true rfl) rfl rfl ?_
          refine AW.iconst dX0_rests_31 ?_
          refine AW.aload_n dX0_rests_32 rfl ?_
          refine AW.VI (M' := m_X0_men) (t := 0) [] [iV 1] dX0_rests_33 q1175 q1177 qs32 q121 q1178 ck0 rfl n_X0_men rfl rfl rfl (fun _ _ _ e => c_X0_men e) h (fun v7 s8 h => ?_)
          refine AW.ishl dX0_rests_36 ?_
          refine AW.iconst dX0_rests_37 ?_
          refine AW.isub dX0_rests_38 ?_
          refine AW.iconst dX0_rests_39 ?_
          refine AW.iload_n dX0_rests_40 rfl ?_
          refine AW.ishl dX0_rests_41 ?_
          refine AW.iconst dX0_rests_42 ?_
          refine AW.ixor dX0_rests_43 ?_
          refine AW.iand dX0_rests_44 ?_
          refine AW.iconst dX0_rests_45 ?_
          refine AW.iload_n dX0_rests_46 rfl ?_
          refine AW.ishl dX0_rests_47 ?_
          refine AW.iconst dX0_rests_48 ?_
          refine AW.ixor dX0_rests_49 ?_
          refine AW.iand dX0_rests_50 ?_
          refine AW.istore (L' := [some (rV (some x0)), some (iV x1), some (iV x2), some (iV x3), some (iV 0), some (iV (anI (anI ((slI 1 v7) - 1) (xoI (slI 1 x1) (-1))) (xoI (slI 1 x2) (-1)))), none, none]) dX0_rests_51 (Nat.le_of_ble_eq_true rfl) rfl rfl ?_
          refine AW.iconst dX0_rests_53 ?_
          refine AW.istore (L' := [some (rV (some x0)), some (iV x1), some (iV x2), some (iV x3), some (iV 0), some (iV (anI (anI ((slI 1 v7) - 1) (xoI (slI 1 x1) (-1))) (xoI (slI 1 x2) (-1)))), some (iV 0), none]) dX0_rests_54 (Nat.le_of_ble_eq_true rfl) rfl rfl ?_
          refine AW.fewer (L' := [some (rV (some x0)), none, none, some (iV x3), some (iV 0), some (iV (anI (anI ((slI 1 v7) - 1) (xoI (slI 1 x1) (-1))) (xoI (slI 1 x2) (-1)))), some (iV 0), none]) (And.intro rfl (And.intro rfl (And.intro rfl (And.intro rfl (And.intro rfl trivial))))) ?_
          refine w_X0_rests_L56 _ _ _ _ _ _ _ h (fun s24 x3 x4 h => ?_)
          refine AW.iload_n dX0_rests_123 rfl ?_
          refine AW.iconst dX0_rests_124 ?_
          refine AW.icmp_ne 133 dX0_rests_125 (by decide) h (fun c25 h => ?_) (fun c25 h => ?_)
          · refine AW.iconst dX0_rests_133 ?_
            cases h
            exact AW.iret dX0_rests_134 rfl
          · refine AW.iload dX0_rests_128 rfl ?_
            refine AW.goto (tgt := 134) dX0_rests_130 (by decide) ?_
            refine AW.nv ?_
            cases h
            exact AW.iret dX0_rests_134 rfl
        · refine AW.iconst dX0_rests_26 ?_
          cases h
          exact AW.iret dX0_rests_27 rfl
theorem c_X0_rests {s0 : Hp} {x0 : Nat} {x1 : Int} {x2 : Int} {x3 : Int} {v : Int} {s1 : Hp} (h : f_X0_rests s0 x0 x1 x2 x3 = some (v, s1)) : Ct m_X0_rests [rV (some x0), iV x1, iV x2, iV x3] s0 (.inl (some (iV v)), s1) :=
  Ct.of2 (w_X0_rests s0 x0 x1 x2 x3 h) (show plainName yX0_rests.cls = true by decide) rfl rfl rfl
abbrev m_X0_shownIn : Mi := (yX0_shownIn, cX0_shownIn, (some .int), 6, 3, 69, [])
theorem n_X0_shownIn : nameOk yX0_shownIn 3 := ⟨by decide, by decide, by decide +kernel⟩
def f_X0_shownIn_L12 (x0 : Nat) : Nat → Hp → Int → Int → Int → Int → Int → (Hp → Int → Option (Int × Hp)) → Option (Int × Hp)
  | 0, _, _, _, _, _, _, _ => none
  | n + 1, s0, x1, x2, x3, x4, x5, k => (if nrm x3 < nrm x5 then (k s0 x4) else ((if nrm 300 ≤ nrm x5 then (k s0 x4) else ((gR s0 0 (some x0) 8).bind fun v3 => (gR s0 0 (some x0) 3).bind fun v4 => (rcv s0 5 v3).bind fun b7 => bn (f_X5_menShown s0 b7 v4 x1 x5) fun v5 s6 => f_X0_shownIn_L12 x0 n s6 x1 x2 x3 (x4 + (anI (srI v5 x2) 1)) (x5 + 1) k))))
theorem w_X0_shownIn_L12 {σ0 : Hp} {w : Int × Hp} {x0 : Nat} : ∀ (n : Nat) (s0 : Hp) (x1 : Int) (x2 : Int) (x3 : Int) (x4 : Int) (x5 : Int) (k : (Hp → Int → Option (Int × Hp))), f_X0_shownIn_L12 x0 n s0 x1 x2 x3 x4 x5 k = some w → (∀ (s1 : Hp) (x4 : Int), k s1 x4 = some w → AW m_X0_shownIn σ0 (oI w) 55 [none, none, none, none, some (iV x4), none] [] s1) → AW m_X0_shownIn σ0 (oI w) 12 [some (rV (some x0)), some (iV x1), some (iV x2), some (iV x3), some (iV x4), some (iV x5)] [] s0 := by
  intro n
  induction n with
  | zero =>
    intro s0 x1 x2 x3 x4 x5 k h hk
    rw [f_X0_shownIn_L12] at h
    cases h
  | succ n ih =>
    intro s0 x1 x2 x3 x4 x5 k h hk
    rw [f_X0_shownIn_L12] at h
    refine AW.iload dX0_shownIn_12 rfl ?_
    refine AW.iload_n dX0_shownIn_14 rfl ?_
    refine AW.icmp_gt 55 dX0_shownIn_15 (by decide) h (fun c9 h => ?_) (fun c9 h => ?_)
    · exact AW.fewer (L' := [none, none, none, none, some (iV x4), none]) (And.intro rfl trivial) (hk _ _ h)
    · refine AW.iload dX0_shownIn_18 rfl ?_
      refine AW.sipush dX0_shownIn_20 (by decide) ?_
      refine AW.icmp_ge 55 dX0_shownIn_23 (by decide) h (fun c8 h => ?_) (fun c8 h => ?_)
      · exact AW.fewer (L' := [none, none, none, none, some (iV x4), none]) (And.intro rfl trivial) (hk _ _ h)
      · refine AW.iload dX0_shownIn_26 rfl ?_
        refine AW.aload_n dX0_shownIn_28 rfl ?_
        refine AW.getR (t := 0) (k := 8) dX0_shownIn_29 ck0 (Nat.le_of_ble_eq_true rfl) (fun _ => rfl) q554 (Or.inl rfl) h (fun v3 h => ?_)
        refine AW.aload_n dX0_shownIn_32 rfl ?_
        refine AW.getR (t := 0) (k := 3) dX0_shownIn_33 ck0 (Nat.le_of_ble_eq_true rfl) (fun _ => rfl) q549 (Or.inl rfl) h (fun v4 h => ?_)
        refine AW.iload_n dX0_shownIn_36 rfl ?_
        refine AW.iload dX0_shownIn_37 rfl ?_
        refine AW.VI (M' := m_X5_menShown) (t := 5) [rV v4, iV x1, iV x5] [iV x4] dX0_shownIn_39 q1208 q1209 q1210 q132 q1211 ck5 rfl n_X5_menShown rfl rfl rfl (fun _ _ _ e => c_X5_menShown e) h (fun v5 s6 h => ?_)
        refine AW.iload_n dX0_shownIn_42 rfl ?_
        refine AW.ishr dX0_shownIn_43 ?_
        refine AW.iconst dX0_shownIn_44 ?_
        refine AW.iand dX0_shownIn_45 ?_
        refine AW.iadd dX0_shownIn_46 ?_
        refine AW.istore (L' := [some (rV (some x0)), some (iV x1), some (iV x2), some (iV x3), some (iV (x4 + (anI (srI v5 x2) 1))), some (iV x5)]) dX0_shownIn_47 (Nat.le_of_ble_eq_true rfl) rfl rfl ?_
        refine AW.iinc (L' := [some (rV (some x0)), some (iV x1), some (iV x2), some (iV x3), some (iV (x4 + (anI (srI v5 x2) 1))), some (iV (x5 + 1))]) dX0_shownIn_49 rfl (Nat.le_of_ble_eq_true rfl) rfl rfl ?_
        refine AW.goto (tgt := 12) dX0_shownIn_52 (by decide) ?_
        exact ih _ _ _ _ _ _ _ h hk
def f_X0_shownIn (s0 : Hp) (x0 : Nat) (x1 : Int) (x2 : Int) (x3 : Int) : Option (Int × Hp) :=
  (gR s0 0 (some x0) 7).bind fun v1 => (gI s0 5 v1 9).bind fun v2 => f_X0_shownIn_L12 x0 FU s0 x1 x2 x3 0 v2 (fun s10 x4 => some (nrm x4, s10))
theorem w_X0_shownIn {σ0 : Hp} {w : Int × Hp} (s0 : Hp) (x0 : Nat) (x1 : Int) (x2 : Int) (x3 : Int) (h : f_X0_shownIn s0 x0 x1 x2 x3 = some w) : AW m_X0_shownIn σ0 (oI w) 0 [some (rV (some x0)), some (iV x1), some (iV x2), some (iV x3), none, none] [] s0 := by
  unfold f_X0_shownIn at h
  refine AW.iconst dX0_shownIn_0 ?_
  refine AW.istore (L' := [some (rV (some x0)), some (iV x1), some (iV x2), some (iV x3), some (iV 0), none]) dX0_shownIn_1 (Nat.le_of_ble_eq_true rfl) rfl rfl ?_
  refine AW.aload_n dX0_shownIn_3 rfl ?_
  refine AW.getR (t := 0) (k := 7) dX0_shownIn_4 ck0 (Nat.le_of_ble_eq_true rfl) (fun _ => rfl) q553 (Or.inl rfl) h (fun v1 h => ?_)
  refine AW.getI (t := 5) (k := 9) dX0_shownIn_7 ck5 (Nat.le_of_ble_eq_true rfl) (fun _ => rfl) q437 (Or.inl rfl) h (fun v2 h => ?_)
  refine AW.istore (L' := [some (rV (some x0)), some (iV x1), some (iV x2), some (iV x3), some (iV 0), some (iV v2)]) dX0_shownIn_10 (Nat.le_of_ble_eq_true rfl) rfl rfl ?_
  refine w_X0_shownIn_L12 _ _ _ _ _ _ _ _ h (fun s10 x4 h => ?_)
  refine AW.iload dX0_shownIn_55 rfl ?_
  refine AW.nv ?_
  cases h
  exact AW.iret dX0_shownIn_57 rfl
theorem c_X0_shownIn {s0 : Hp} {x0 : Nat} {x1 : Int} {x2 : Int} {x3 : Int} {v : Int} {s1 : Hp} (h : f_X0_shownIn s0 x0 x1 x2 x3 = some (v, s1)) : Ct m_X0_shownIn [rV (some x0), iV x1, iV x2, iV x3] s0 (.inl (some (iV v)), s1) :=
  Ct.of2 (w_X0_shownIn s0 x0 x1 x2 x3 h) (show plainName yX0_shownIn.cls = true by decide) rfl rfl rfl
abbrev m_X0_seen : Mi := (yX0_seen, cX0_seen, (some .int), 5, 419, 24858, [])
theorem n_X0_seen : nameOk yX0_seen 2 := ⟨by decide, by decide, by decide +kernel⟩
def f_X0_seen_L30 (x0 : Nat) : Nat → Hp → Int → Int → Int → Int → (Hp → Int → Option (Int × Hp)) → Option (Int × Hp)
  | 0, _, _, _, _, _, _ => none
  | n + 1, s0, x1, x2, x3, x4, k => (rcv s0 0 (some x0)).bind fun b10 => bn (f_X0_mirrors s0 b10) fun v8 s9 => (if nrm v8 ≤ nrm x4 then (k s9 x3) else ((gR s9 0 (some x0) 7).bind fun v11 => (gI s9 5 v11 9).bind fun v12 => (rcv s9 0 (some x0)).bind fun b15 => bn (f_X0_shownIn s9 b15 x4 x1 (v12 + x2)) fun v13 s14 => f_X0_seen_L30 x0 n s14 x1 x2 (x3 + v13) (x4 + 1) k))
theorem w_X0_seen_L30 {σ0 : Hp} {w : Int × Hp} {x0 : Nat} : ∀ (n : Nat) (s0 : Hp) (x1 : Int) (x2 : Int) (x3 : Int) (x4 : Int) (k : (Hp → Int → Option (Int × Hp))), f_X0_seen_L30 x0 n s0 x1 x2 x3 x4 k = some w → (∀ (s1 : Hp) (x3 : Int), k s1 x3 = some w → AW m_X0_seen σ0 (oI w) 64 [none, none, none, some (iV x3), none] [] s1) → AW m_X0_seen σ0 (oI w) 30 [some (rV (some x0)), some (iV x1), some (iV x2), some (iV x3), some (iV x4)] [] s0 := by
  intro n
  induction n with
  | zero =>
    intro s0 x1 x2 x3 x4 k h hk
    rw [f_X0_seen_L30] at h
    cases h
  | succ n ih =>
    intro s0 x1 x2 x3 x4 k h hk
    rw [f_X0_seen_L30] at h
    refine AW.iload dX0_seen_30 rfl ?_
    refine AW.aload_n dX0_seen_32 rfl ?_
    refine AW.VI (M' := m_X0_mirrors) (t := 0) [] [iV x4] dX0_seen_33 q1195 q1197 qs35 q121 q1198 ck0 rfl n_X0_mirrors rfl rfl rfl (fun _ _ _ e => c_X0_mirrors e) h (fun v8 s9 h => ?_)
    refine AW.icmp_ge 64 dX0_seen_36 (by decide) h (fun c16 h => ?_) (fun c16 h => ?_)
    · exact AW.fewer (L' := [none, none, none, some (iV x3), none]) (And.intro rfl trivial) (hk _ _ h)
    · refine AW.iload_n dX0_seen_39 rfl ?_
      refine AW.aload_n dX0_seen_40 rfl ?_
      refine AW.iload dX0_seen_41 rfl ?_
      refine AW.iload_n dX0_seen_43 rfl ?_
      refine AW.aload_n dX0_seen_44 rfl ?_
      refine AW.getR (t := 0) (k := 7) dX0_seen_45 ck0 (Nat.le_of_ble_eq_true rfl) (fun _ => rfl) q553 (Or.inl rfl) h (fun v11 h => ?_)
      refine AW.getI (t := 5) (k := 9) dX0_seen_48 ck5 (Nat.le_of_ble_eq_true rfl) (fun _ => rfl) q437 (Or.inl rfl) h (fun v12 h => ?_)
      refine AW.iload_n dX0_seen_51 rfl ?_
      refine AW.iadd dX0_seen_52 ?_
      refine AW.VI (M' := m_X0_shownIn) (t := 0) [iV x4, iV x1, iV (v12 + x2)] [iV x3] dX0_seen_53 q1394 q1396 qs46 q121 q1397 ck0 rfl n_X0_shownIn rfl rfl rfl (fun _ _ _ e => c_X0_shownIn e) h (fun v13 s14 h => ?_)
      refine AW.iadd dX0_seen_56 ?_
      refine AW.istore_n (L' := [some (rV (some x0)), some (iV x1), some (iV x2), some (iV (x3 + v13)), some (iV x4)]) dX0_seen_57 (Nat.le_of_ble_eq_true rfl) rfl rfl ?_
      refine AW.iinc (L' := [some (rV (some x0)), some (iV x1), some (iV x2), some (iV (x3 + v13)), some (iV (x4 + 1))]) dX0_seen_58 rfl (Nat.le_of_ble_eq_true rfl) rfl rfl ?_
      refine AW.goto (tgt := 30) dX0_seen_61 (by decide) ?_
      exact ih _ _ _ _ _ _ h hk
def f_X0_seen (s0 : Hp) (x0 : Nat) (x1 : Int) (x2 : Int) : Option (Int × Hp) :=
  (rcv s0 0 (some x0)).bind fun b3 => bn (f_X0_isMan s0 b3 x1) fun v1 s2 => (if nrm v1 = 0 then (some ((-1), s2)) else (bn (f_X0_isIn s2 x2 0 299) fun v4 s5 => (if ¬ nrm v4 = 0 then ((rcv s5 0 (some x0)).bind fun b7 => bn (f_X0_goesToEnd s5 b7) fun _ s6 => f_X0_seen_L30 x0 FU s6 x1 x2 0 0 (fun s17 x3 => some (nrm x3, s17))) else (some ((-1), s5)))))
theorem w_X0_seen {σ0 : Hp} {w : Int × Hp} (s0 : Hp) (x0 : Nat) (x1 : Int) (x2 : Int) (h : f_X0_seen s0 x0 x1 x2 = some w) : AW m_X0_seen σ0 (oI w) 0 [some (rV (some x0)), some (iV x1), some (iV x2), none, none] [] s0 := by
  unfold f_X0_seen at h
  refine AW.aload_n dX0_seen_0 rfl ?_
  refine AW.iload_n dX0_seen_1 rfl ?_
  refine AW.VI (M' := m_X0_isMan) (t := 0) [iV x1] [] dX0_seen_2 q1171 q1173 qs31 q121 q1174 ck0 rfl n_X0_isMan rfl rfl rfl (fun _ _ _ e => c_X0_isMan e) h (fun v1 s2 h => ?_)
  refine AW.if_eq 19 dX0_seen_5 (by decide) h (fun c19 h => ?_) (fun c19 h => ?_)
  · refine AW.iconst dX0_seen_19 ?_
    cases h
    exact AW.iret dX0_seen_20 rfl
  · refine AW.iload_n dX0_seen_8 rfl ?_
    refine AW.iconst dX0_seen_9 ?_
    refine AW.sipush dX0_seen_10 (by decide) ?_
    refine AW.SI (M' := m_X0_isIn) [iV x2, iV 0, iV 299] [] dX0_seen_13 q1180 q1181 q121 q1182 n_X0_isIn rfl rfl rfl (fun _ _ e => c_X0_isIn e) h (fun v4 s5 h => ?_)
    refine AW.if_ne 21 dX0_seen_16 (by decide) h (fun c18 h => ?_) (fun c18 h => ?_)
    · refine AW.iconst dX0_seen_21 ?_
      refine AW.istore_n (L' := [some (rV (some x0)), some (iV x1), some (iV x2), some (iV 0), none]) dX0_seen_22 (Nat.le_of_ble_eq_true rfl) rfl rfl ?_
      refine AW.aload_n dX0_seen_23 rfl ?_
      refine AW.VU (M' := m_X0_goesToEnd) (t := 0) [] [] dX0_seen_24 q1378 q1380 qs44 q121 q1381 ck0 rfl n_X0_goesToEnd rfl rfl rfl (fun _ _ _ e => c_X0_goesToEnd e) h (fun _ s6 h => ?_)
      refine AW.iconst dX0_seen_27 ?_
      refine AW.istore (L' := [some (rV (some x0)), some (iV x1), some (iV x2), some (iV 0), some (iV 0)]) dX0_seen_28 (Nat.le_of_ble_eq_true rfl) rfl rfl ?_
      refine w_X0_seen_L30 _ _ _ _ _ _ _ h (fun s17 x3 h => ?_)
      refine AW.iload_n dX0_seen_64 rfl ?_
      refine AW.nv ?_
      cases h
      exact AW.iret dX0_seen_65 rfl
    · refine AW.iconst dX0_seen_19 ?_
      cases h
      exact AW.iret dX0_seen_20 rfl
theorem c_X0_seen {s0 : Hp} {x0 : Nat} {x1 : Int} {x2 : Int} {v : Int} {s1 : Hp} (h : f_X0_seen s0 x0 x1 x2 = some (v, s1)) : Ct m_X0_seen [rV (some x0), iV x1, iV x2] s0 (.inl (some (iV v)), s1) :=
  Ct.of2 (w_X0_seen s0 x0 x1 x2 h) (show plainName yX0_seen.cls = true by decide) rfl rfl rfl
abbrev m_X0_shown : Mi := (yX0_shown, cX0_shown, (some .int), 8, 3, 61, [])
theorem n_X0_shown : nameOk yX0_shown 2 := ⟨by decide, by decide, by decide +kernel⟩
def f_X0_shown_L23 (x0 : Nat) : Nat → Hp → Int → Int → Int → Int → Int → Int → (Hp → Int → Int → Int → Int → Int → Option (Int × Hp)) → Option (Int × Hp)
  | 0, _, _, _, _, _, _, _, _ => none
  | n + 1, s0, x1, x2, x3, x4, x5, x6, k => (if nrm 300 ≤ nrm x6 then (k s0 x1 x2 x3 x4 x5) else ((gR s0 0 (some x0) 13).bind fun v4 => (sI s0 100 v4 x6 0).bind fun s5 => f_X0_shown_L23 x0 n s5 x1 x2 x3 x4 x5 (x6 + 1) k))
theorem w_X0_shown_L23 {σ0 : Hp} {w : Int × Hp} {x0 : Nat} : ∀ (n : Nat) (s0 : Hp) (x1 : Int) (x2 : Int) (x3 : Int) (x4 : Int) (x5 : Int) (x6 : Int) (k : (Hp → Int → Int → Int → Int → Int → Option (Int × Hp))), f_X0_shown_L23 x0 n s0 x1 x2 x3 x4 x5 x6 k = some w → (∀ (s1 : Hp) (x1 : Int) (x2 : Int) (x3 : Int) (x4 : Int) (x5 : Int), k s1 x1 x2 x3 x4 x5 = some w → AW m_X0_shown σ0 (oI w) 45 [some (rV (some x0)), some (iV x1), some (iV x2), some (iV x3), some (iV x4), some (iV x5), none, none] [] s1) → AW m_X0_shown σ0 (oI w) 23 [some (rV (some x0)), some (iV x1), some (iV x2), some (iV x3), some (iV x4), some (iV x5), some (iV x6), none] [] s0 := by
  intro n
  induction n with
  | zero =>
    intro s0 x1 x2 x3 x4 x5 x6 k h hk
    rw [f_X0_shown_L23] at h
    cases h
  | succ n ih =>
    intro s0 x1 x2 x3 x4 x5 x6 k h hk
    rw [f_X0_shown_L23] at h
    refine AW.iload dX0_shown_23 rfl ?_
    refine AW.sipush dX0_shown_25 (by decide) ?_
    refine AW.icmp_ge 45 dX0_shown_28 (by decide) h (fun c6 h => ?_) (fun c6 h => ?_)
    · exact AW.fewer (L' := [some (rV (some x0)), some (iV x1), some (iV x2), some (iV x3), some (iV x4), some (iV x5), none, none]) (And.intro rfl (And.intro rfl (And.intro rfl (And.intro rfl (And.intro rfl (And.intro rfl trivial)))))) (hk _ _ _ _ _ _ h)
    · refine AW.aload_n dX0_shown_31 rfl ?_
      refine AW.getR (t := 0) (k := 13) dX0_shown_32 ck0 (Nat.le_of_ble_eq_true rfl) (fun _ => rfl) q559 (Or.inl rfl) h (fun v4 h => ?_)
      refine AW.iload dX0_shown_35 rfl ?_
      refine AW.iconst dX0_shown_37 ?_
      refine AW.iast (t := 100) dX0_shown_38 (Nat.le_of_ble_eq_true rfl) mu100 rfl h (fun s5 h => ?_)
      refine AW.iinc (L' := [some (rV (some x0)), some (iV x1), some (iV x2), some (iV x3), some (iV x4), some (iV x5), some (iV (x6 + 1)), none]) dX0_shown_39 rfl (Nat.le_of_ble_eq_true rfl) rfl rfl ?_
      refine AW.goto (tgt := 23) dX0_shown_42 (by decide) ?_
      exact ih _ _ _ _ _ _ _ _ h hk
def f_X0_shown_L48 (x0 : Nat) : Nat → Hp → Int → Int → Int → Int → Int → Int → (Hp → Int → Int → Int → Int → Option (Int × Hp)) → Option (Int × Hp)
  | 0, _, _, _, _, _, _, _, _ => none
  | n + 1, s0, x1, x2, x3, x4, x5, x6, k => (gR s0 0 (some x0) 7).bind fun v8 => (gI s0 5 v8 9).bind fun v9 => (if nrm v9 < nrm x6 then (k s0 x2 x3 x4 x5) else ((gR s0 0 (some x0) 7).bind fun v10 => (rcv s0 5 v10).bind fun b13 => bn (f_X5_shows s0 b13 x1 x6) fun v11 s12 => (if 0 ≤ nrm v11 then ((gR s12 0 (some x0) 13).bind fun v14 => (aI s12 100 v14 v11).bind fun v15 => (sI s12 100 v14 v11 (nrm (v15 + 1))).bind fun s16 => f_X0_shown_L48 x0 n s16 x1 x2 x3 (mnI x4 v11) (mxI x5 v11) (x6 + 1) k) else (f_X0_shown_L48 x0 n s12 x1 x2 x3 x4 x5 (x6 + 1) k))))
theorem w_X0_shown_L48 {σ0 : Hp} {w : Int × Hp} {x0 : Nat} : ∀ (n : Nat) (s0 : Hp) (x1 : Int) (x2 : Int) (x3 : Int) (x4 : Int) (x5 : Int) (x6 : Int) (k : (Hp → Int → Int → Int → Int → Option (Int × Hp))), f_X0_shown_L48 x0 n s0 x1 x2 x3 x4 x5 x6 k = some w → (∀ (s1 : Hp) (x2 : Int) (x3 : Int) (x4 : Int) (x5 : Int), k s1 x2 x3 x4 x5 = some w → AW m_X0_shown σ0 (oI w) 115 [some (rV (some x0)), none, some (iV x2), some (iV x3), some (iV x4), some (iV x5), none, none] [] s1) → AW m_X0_shown σ0 (oI w) 48 [some (rV (some x0)), some (iV x1), some (iV x2), some (iV x3), some (iV x4), some (iV x5), some (iV x6), none] [] s0 := by
  intro n
  induction n with
  | zero =>
    intro s0 x1 x2 x3 x4 x5 x6 k h hk
    rw [f_X0_shown_L48] at h
    cases h
  | succ n ih =>
    intro s0 x1 x2 x3 x4 x5 x6 k h hk
    rw [f_X0_shown_L48] at h
    refine AW.iload dX0_shown_48 rfl ?_
    refine AW.aload_n dX0_shown_50 rfl ?_
    refine AW.getR (t := 0) (k := 7) dX0_shown_51 ck0 (Nat.le_of_ble_eq_true rfl) (fun _ => rfl) q553 (Or.inl rfl) h (fun v8 h => ?_)
    refine AW.getI (t := 5) (k := 9) dX0_shown_54 ck5 (Nat.le_of_ble_eq_true rfl) (fun _ => rfl) q437 (Or.inl rfl) h (fun v9 h => ?_)
    refine AW.icmp_gt 115 dX0_shown_57 (by decide) h (fun c18 h => ?_) (fun c18 h => ?_)
    · exact AW.fewer (L' := [some (rV (some x0)), none, some (iV x2), some (iV x3), some (iV x4), some (iV x5), none, none]) (And.intro rfl (And.intro rfl (And.intro rfl (And.intro rfl (And.intro rfl trivial))))) (hk _ _ _ _ _ h)
    · refine AW.aload_n dX0_shown_60 rfl ?_
      refine AW.getR (t := 0) (k := 7) dX0_shown_61 ck0 (Nat.le_of_ble_eq_true rfl) (fun _ => rfl) q553 (Or.inl rfl) h (fun v10 h => ?_)
      refine AW.iload_n dX0_shown_64 rfl ?_
      refine AW.iload dX0_shown_65 rfl ?_
      refine AW.VI (M' := m_X5_shows) (t := 5) [iV x1, iV x6] [] dX0_shown_67 q1199 q1200 q1201 q132 q1202 ck5 rfl n_X5_shows rfl rfl rfl (fun _ _ _ e => c_X5_shows e) h (fun v11 s12 h => ?_)
      refine AW.istore (L' := [some (rV (some x0)), some (iV x1), some (iV x2), some (iV x3), some (iV x4), some (iV x5), some (iV x6), some (iV v11)]) dX0_shown_70 (Nat.le_of_ble_eq_true rfl) rfl rfl ?_
      refine AW.iload dX0_shown_72 rfl ?_
      refine AW.if_ge 80 dX0_shown_74 (by decide) h (fun c17 h => ?_) (fun c17 h => ?_)
      · refine AW.aload_n dX0_shown_80 rfl ?_
        refine AW.getR (t := 0) (k := 13) dX0_shown_81 ck0 (Nat.le_of_ble_eq_true rfl) (fun _ => rfl) q559 (Or.inl rfl) h (fun v14 h => ?_)
        refine AW.iload dX0_shown_84 rfl ?_
        refine AW.dup2 dX0_shown_86 ?_
        refine AW.iald (t := 100) dX0_shown_87 (Nat.le_of_ble_eq_true rfl) rfl h (fun v15 h => ?_)
        refine AW.iconst dX0_shown_88 ?_
        refine AW.iadd dX0_shown_89 ?_
        refine AW.nv ?_
        refine AW.iast (t := 100) dX0_shown_90 (Nat.le_of_ble_eq_true rfl) mu100 rfl h (fun s16 h => ?_)
        refine AW.iload dX0_shown_91 rfl ?_
        refine AW.iload dX0_shown_93 rfl ?_
        refine AW.mmin dX0_shown_95 q1226 rfl rfl ?_
        refine AW.istore (L' := [some (rV (some x0)), some (iV x1), some (iV x2), some (iV x3), some (iV (mnI x4 v11)), some (iV x5), some (iV x6), some (iV v11)]) dX0_shown_98 (Nat.le_of_ble_eq_true rfl) rfl rfl ?_
        refine AW.iload dX0_shown_100 rfl ?_
        refine AW.iload dX0_shown_102 rfl ?_
        refine AW.mmax dX0_shown_104 q1325 rfl rfl ?_
        refine AW.istore (L' := [some (rV (some x0)), some (iV x1), some (iV x2), some (iV x3), some (iV (mnI x4 v11)), some (iV (mxI x5 v11)), some (iV x6), some (iV v11)]) dX0_shown_107 (Nat.le_of_ble_eq_true rfl) rfl rfl ?_
        refine AW.iinc (L' := [some (rV (some x0)), some (iV x1), some (iV x2), some (iV x3), some (iV (mnI x4 v11)), some (iV (mxI x5 v11)), some (iV (x6 + 1)), some (iV v11)]) dX0_shown_109 rfl (Nat.le_of_ble_eq_true rfl) rfl rfl ?_
        refine AW.goto (tgt := 48) dX0_shown_112 (by decide) ?_
        exact AW.fewer (L' := [some (rV (some x0)), some (iV x1), some (iV x2), some (iV x3), some (iV (mnI x4 v11)), some (iV (mxI x5 v11)), some (iV (x6 + 1)), none]) (And.intro rfl (And.intro rfl (And.intro rfl (And.intro rfl (And.intro rfl (And.intro rfl (And.intro rfl trivial))))))) (ih _ _ _ _ _ _ _ _ h hk)
      · refine AW.goto (tgt := 109) dX0_shown_77 (by decide) ?_
        refine AW.iinc (L' := [some (rV (some x0)), some (iV x1), some (iV x2), some (iV x3), some (iV x4), some (iV x5), some (iV (x6 + 1)), some (iV v11)]) dX0_shown_109 rfl (Nat.le_of_ble_eq_true rfl) rfl rfl ?_
        refine AW.goto (tgt := 48) dX0_shown_112 (by decide) ?_
        exact AW.fewer (L' := [some (rV (some x0)), some (iV x1), some (iV x2), some (iV x3), some (iV x4), some (iV x5), some (iV (x6 + 1)), none]) (And.intro rfl (And.intro rfl (And.intro rfl (And.intro rfl (And.intro rfl (And.intro rfl (And.intro rfl trivial))))))) (ih _ _ _ _ _ _ _ _ h hk)
def f_X0_shown_L119 (x0 : Nat) : Nat → Hp → Int → Int → Int → Int → (Hp → Int → Option (Int × Hp)) → Option (Int × Hp)
  | 0, _, _, _, _, _, _ => none
  | n + 1, s0, x2, x3, x5, x6, k => (if nrm x5 < nrm x6 then (k s0 x3) else (jn (fun (s20 : Hp) (x2 : Int) (x5 : Int) (x6 : Int) (y0 : Int) => f_X0_shown_L119 x0 n s20 x2 (y0 + 0) x5 (x6 + 1) k) fun j159 => jn (fun (s21 : Hp) (x2 : Int) (x5 : Int) (x6 : Int) (y0 : Int) => f_X0_shown_L119 x0 n s21 x2 (y0 + 1) x5 (x6 + 1) k) fun j155 => (if nrm x2 = 0 then ((gR s0 0 (some x0) 13).bind fun v22 => (aI s0 100 v22 x6).bind fun v23 => (if nrm v23 ≤ nrm 1 then (j159 s0 x2 x5 x6 x3) else (j155 s0 x2 x5 x6 x3))) else ((gR s0 0 (some x0) 13).bind fun v25 => (aI s0 100 v25 x6).bind fun v26 => (if ¬ nrm v26 = 0 then (j159 s0 x2 x5 x6 x3) else (j155 s0 x2 x5 x6 x3))))))
theorem w_X0_shown_L119 {σ0 : Hp} {w : Int × Hp} {x0 : Nat} : ∀ (n : Nat) (s0 : Hp) (x2 : Int) (x3 : Int) (x5 : Int) (x6 : Int) (k : (Hp → Int → Option (Int × Hp))), f_X0_shown_L119 x0 n s0 x2 x3 x5 x6 k = some w → (∀ (s1 : Hp) (x3 : Int), k s1 x3 = some w → AW m_X0_shown σ0 (oI w) 168 [none, none, none, some (iV x3), none, none, none, none] [] s1) → AW m_X0_shown σ0 (oI w) 119 [some (rV (some x0)), none, some (iV x2), some (iV x3), none, some (iV x5), some (iV x6), none] [] s0 := by
  intro n
  induction n with
  | zero =>
    intro s0 x2 x3 x5 x6 k h hk
    rw [f_X0_shown_L119] at h
    cases h
  | succ n ih =>
    intro s0 x2 x3 x5 x6 k h hk
    rw [f_X0_shown_L119] at h
    refine AW.iload dX0_shown_119 rfl ?_
    refine AW.iload dX0_shown_121 rfl ?_
    refine AW.icmp_gt 168 dX0_shown_123 (by decide) h (fun c29 h => ?_) (fun c29 h => ?_)
    · exact AW.fewer (L' := [none, none, none, some (iV x3), none, none, none, none]) (And.intro rfl trivial) (hk _ _ h)
    · refine AW.iload_n dX0_shown_126 rfl ?_
      refine AW.iload_n dX0_shown_127 rfl ?_
      refine jn_elim h (fun (j : (Hp → Int → Int → Int → Int → Option (Int × Hp))) => ∀ (s20 : Hp) (x2 : Int) (x5 : Int) (x6 : Int) (y0 : Int), j s20 x2 x5 x6 y0 = some w → AW m_X0_shown σ0 (oI w) 159 [some (rV (some x0)), none, some (iV x2), none, none, some (iV x5), some (iV x6), none] [iV y0] s20) ?_ (fun j159 hj159 h => ?_)
      · intro s20 x2 x5 x6 y0 h
        refine AW.iconst dX0_shown_159 ?_
        refine AW.iadd dX0_shown_160 ?_
        refine AW.istore_n (L' := [some (rV (some x0)), none, some (iV x2), some (iV (y0 + 0)), none, some (iV x5), some (iV x6), none]) dX0_shown_161 (Nat.le_of_ble_eq_true rfl) rfl rfl ?_
        refine AW.iinc (L' := [some (rV (some x0)), none, some (iV x2), some (iV (y0 + 0)), none, some (iV x5), some (iV (x6 + 1)), none]) dX0_shown_162 rfl (Nat.le_of_ble_eq_true rfl) rfl rfl ?_
        refine AW.goto (tgt := 119) dX0_shown_165 (by decide) ?_
        exact ih _ _ _ _ _ _ h hk
      · refine jn_elim h (fun (j : (Hp → Int → Int → Int → Int → Option (Int × Hp))) => ∀ (s21 : Hp) (x2 : Int) (x5 : Int) (x6 : Int) (y0 : Int), j s21 x2 x5 x6 y0 = some w → AW m_X0_shown σ0 (oI w) 155 [some (rV (some x0)), none, some (iV x2), none, none, some (iV x5), some (iV x6), none] [iV y0] s21) ?_ (fun j155 hj155 h => ?_)
        · intro s21 x2 x5 x6 y0 h
          refine AW.iconst dX0_shown_155 ?_
          refine AW.goto (tgt := 160) dX0_shown_156 (by decide) ?_
          refine AW.iadd dX0_shown_160 ?_
          refine AW.istore_n (L' := [some (rV (some x0)), none, some (iV x2), some (iV (y0 + 1)), none, some (iV x5), some (iV x6), none]) dX0_shown_161 (Nat.le_of_ble_eq_true rfl) rfl rfl ?_
          refine AW.iinc (L' := [some (rV (some x0)), none, some (iV x2), some (iV (y0 + 1)), none, some (iV x5), some (iV (x6 + 1)), none]) dX0_shown_162 rfl (Nat.le_of_ble_eq_true rfl) rfl rfl ?_
          refine AW.goto (tgt := 119) dX0_shown_165 (by decide) ?_
          exact ih _ _ _ _ _ _ h hk
        · refine AW.if_eq 144 dX0_shown_128 (by decide) h (fun c28 h => ?_) (fun c28 h => ?_)
          · refine AW.aload_n dX0_shown_144 rfl ?_
            refine AW.getR (t := 0) (k := 13) dX0_shown_145 ck0 (Nat.le_of_ble_eq_true rfl) (fun _ => rfl) q559 (Or.inl rfl) h (fun v22 h => ?_)
            refine AW.iload dX0_shown_148 rfl ?_
            refine AW.iald (t := 100) dX0_shown_150 (Nat.le_of_ble_eq_true rfl) rfl h (fun v23 h => ?_)
            refine AW.iconst dX0_shown_151 ?_
            refine AW.icmp_le 159 dX0_shown_152 (by decide) h (fun c24 h => ?_) (fun c24 h => ?_)
            · exact AW.fewer (L' := [some (rV (some x0)), none, some (iV x2), none, none, some (iV x5), some (iV x6), none]) (And.intro rfl (And.intro rfl (And.intro rfl (And.intro rfl trivial)))) (hj159 _ _ _ _ _ h)
            · exact AW.fewer (L' := [some (rV (some x0)), none, some (iV x2), none, none, some (iV x5), some (iV x6), none]) (And.intro rfl (And.intro rfl (And.intro rfl (And.intro rfl trivial)))) (hj155 _ _ _ _ _ h)
          · refine AW.aload_n dX0_shown_131 rfl ?_
            refine AW.getR (t := 0) (k := 13) dX0_shown_132 ck0 (Nat.le_of_ble_eq_true rfl) (fun _ => rfl) q559 (Or.inl rfl) h (fun v25 h => ?_)
            refine AW.iload dX0_shown_135 rfl ?_
            refine AW.iald (t := 100) dX0_shown_137 (Nat.le_of_ble_eq_true rfl) rfl h (fun v26 h => ?_)
            refine AW.if_ne 159 dX0_shown_138 (by decide) h (fun c27 h => ?_) (fun c27 h => ?_)
            · exact AW.fewer (L' := [some (rV (some x0)), none, some (iV x2), none, none, some (iV x5), some (iV x6), none]) (And.intro rfl (And.intro rfl (And.intro rfl (And.intro rfl trivial)))) (hj159 _ _ _ _ _ h)
            · refine AW.goto (tgt := 155) dX0_shown_141 (by decide) ?_
              exact AW.fewer (L' := [some (rV (some x0)), none, some (iV x2), none, none, some (iV x5), some (iV x6), none]) (And.intro rfl (And.intro rfl (And.intro rfl (And.intro rfl trivial)))) (hj155 _ _ _ _ _ h)
def f_X0_shown (s0 : Hp) (x0 : Nat) (x1 : Int) (x2 : Int) : Option (Int × Hp) :=
  (rcv s0 0 (some x0)).bind fun b3 => bn (f_X0_isMirror s0 b3 x1) fun v1 s2 => (if ¬ nrm v1 = 0 then (f_X0_shown_L23 x0 FU s2 x1 x2 0 300 (-1) 0 (fun s7 x1 x2 x3 x4 x5 => f_X0_shown_L48 x0 FU s7 x1 x2 x3 x4 x5 0 (fun s19 x2 x3 x4 x5 => f_X0_shown_L119 x0 FU s19 x2 x3 x5 x4 (fun s30 x3 => some (nrm x3, s30))))) else (some ((-1), s2)))
theorem w_X0_shown {σ0 : Hp} {w : Int × Hp} (s0 : Hp) (x0 : Nat) (x1 : Int) (x2 : Int) (h : f_X0_shown s0 x0 x1 x2 = some w) : AW m_X0_shown σ0 (oI w) 0 [some (rV (some x0)), some (iV x1), some (iV x2), none, none, none, none, none] [] s0 := by
  unfold f_X0_shown at h
  refine AW.aload_n dX0_shown_0 rfl ?_
  refine AW.iload_n dX0_shown_1 rfl ?_
  refine AW.VI (M' := m_X0_isMirror) (t := 0) [iV x1] [] dX0_shown_2 q1191 q1193 qs34 q121 q1194 ck0 rfl n_X0_isMirror rfl rfl rfl (fun _ _ _ e => c_X0_isMirror e) h (fun v1 s2 h => ?_)
  refine AW.if_ne 10 dX0_shown_5 (by decide) h (fun c31 h => ?_) (fun c31 h => ?_)
  · refine AW.iconst dX0_shown_10 ?_
    refine AW.istore_n (L' := [some (rV (some x0)), some (iV x1), some (iV x2), some (iV 0), none, none, none, none]) dX0_shown_11 (Nat.le_of_ble_eq_true rfl) rfl rfl ?_
    refine AW.sipush dX0_shown_12 (by decide) ?_
    refine AW.istore (L' := [some (rV (some x0)), some (iV x1), some (iV x2), some (iV 0), some (iV 300), none, none, none]) dX0_shown_15 (Nat.le_of_ble_eq_true rfl) rfl rfl ?_
    refine AW.iconst dX0_shown_17 ?_
    refine AW.istore (L' := [some (rV (some x0)), some (iV x1), some (iV x2), some (iV 0), some (iV 300), some (iV (-1)), none, none]) dX0_shown_18 (Nat.le_of_ble_eq_true rfl) rfl rfl ?_
    refine AW.iconst dX0_shown_20 ?_
    refine AW.istore (L' := [some (rV (some x0)), some (iV x1), some (iV x2), some (iV 0), some (iV 300), some (iV (-1)), some (iV 0), none]) dX0_shown_21 (Nat.le_of_ble_eq_true rfl) rfl rfl ?_
    refine w_X0_shown_L23 _ _ _ _ _ _ _ _ _ h (fun s7 x1 x2 x3 x4 x5 h => ?_)
    refine AW.iconst dX0_shown_45 ?_
    refine AW.istore (L' := [some (rV (some x0)), some (iV x1), some (iV x2), some (iV x3), some (iV x4), some (iV x5), some (iV 0), none]) dX0_shown_46 (Nat.le_of_ble_eq_true rfl) rfl rfl ?_
    refine w_X0_shown_L48 _ _ _ _ _ _ _ _ _ h (fun s19 x2 x3 x4 x5 h => ?_)
    refine AW.iload dX0_shown_115 rfl ?_
    refine AW.istore (L' := [some (rV (some x0)), none, some (iV x2), some (iV x3), some (iV x4), some (iV x5), some (iV x4), none]) dX0_shown_117 (Nat.le_of_ble_eq_true rfl) rfl rfl ?_
    refine AW.fewer (L' := [some (rV (some x0)), none, some (iV x2), some (iV x3), none, some (iV x5), some (iV x4), none]) (And.intro rfl (And.intro rfl (And.intro rfl (And.intro rfl (And.intro rfl trivial))))) ?_
    refine w_X0_shown_L119 _ _ _ _ _ _ _ h (fun s30 x3 h => ?_)
    refine AW.iload_n dX0_shown_168 rfl ?_
    refine AW.nv ?_
    cases h
    exact AW.iret dX0_shown_169 rfl
  · refine AW.iconst dX0_shown_8 ?_
    cases h
    exact AW.iret dX0_shown_9 rfl
theorem c_X0_shown {s0 : Hp} {x0 : Nat} {x1 : Int} {x2 : Int} {v : Int} {s1 : Hp} (h : f_X0_shown s0 x0 x1 x2 = some (v, s1)) : Ct m_X0_shown [rV (some x0), iV x1, iV x2] s0 (.inl (some (iV v)), s1) :=
  Ct.of2 (w_X0_shown s0 x0 x1 x2 h) (show plainName yX0_shown.cls = true by decide) rfl rfl rfl
abbrev m_X0_smash : Mi := (yX0_smash, cX0_smash, (some .boolean), 2, 3, 122, [])
theorem n_X0_smash : nameOk yX0_smash 1 := ⟨by decide, by decide, by decide +kernel⟩
def f_X0_smash (s0 : Hp) (x0 : Nat) (x1 : Int) : Option (Int × Hp) :=
  (rcv s0 0 (some x0)).bind fun b3 => bn (f_X0_isMirror s0 b3 x1) fun v1 s2 => (if nrm v1 = 0 then (some (0, s2)) else ((gR s2 0 (some x0) 7).bind fun v4 => (gR s2 0 (some x0) 7).bind fun v5 => (gI s2 5 v5 9).bind fun v6 => (rcv s2 5 v4).bind fun b9 => bn (f_X5_isBroken s2 b9 x1 v6) fun v7 s8 => (if nrm v7 = 0 then ((rcv s8 0 (some x0)).bind fun b11 => bn (f_X0_keeps s8 b11) fun _ s10 => (gR s10 0 (some x0) 7).bind fun v12 => (rcv s10 5 v12).bind fun b14 => bn (f_X5_breaks s10 b14 x1) fun _ s13 => some (1, s13)) else (some (0, s8)))))
theorem w_X0_smash {σ0 : Hp} {w : Int × Hp} (s0 : Hp) (x0 : Nat) (x1 : Int) (h : f_X0_smash s0 x0 x1 = some w) : AW m_X0_smash σ0 (oI w) 0 [some (rV (some x0)), some (iV x1)] [] s0 := by
  unfold f_X0_smash at h
  refine AW.aload_n dX0_smash_0 rfl ?_
  refine AW.iload_n dX0_smash_1 rfl ?_
  refine AW.VI (M' := m_X0_isMirror) (t := 0) [iV x1] [] dX0_smash_2 q1191 q1193 qs34 q121 q1194 ck0 rfl n_X0_isMirror rfl rfl rfl (fun _ _ _ e => c_X0_isMirror e) h (fun v1 s2 h => ?_)
  refine AW.if_eq 26 dX0_smash_5 (by decide) h (fun c16 h => ?_) (fun c16 h => ?_)
  · refine AW.iconst dX0_smash_26 ?_
    cases h
    exact AW.zret (z := 0) dX0_smash_27 rfl zz0
  · refine AW.aload_n dX0_smash_8 rfl ?_
    refine AW.getR (t := 0) (k := 7) dX0_smash_9 ck0 (Nat.le_of_ble_eq_true rfl) (fun _ => rfl) q553 (Or.inl rfl) h (fun v4 h => ?_)
    refine AW.iload_n dX0_smash_12 rfl ?_
    refine AW.aload_n dX0_smash_13 rfl ?_
    refine AW.getR (t := 0) (k := 7) dX0_smash_14 ck0 (Nat.le_of_ble_eq_true rfl) (fun _ => rfl) q553 (Or.inl rfl) h (fun v5 h => ?_)
    refine AW.getI (t := 5) (k := 9) dX0_smash_17 ck5 (Nat.le_of_ble_eq_true rfl) (fun _ => rfl) q437 (Or.inl rfl) h (fun v6 h => ?_)
    refine AW.VI (M' := m_X5_isBroken) (t := 5) [iV x1, iV v6] [] dX0_smash_20 q1207 q1204 q1205 q132 q1206 ck5 rfl n_X5_isBroken rfl rfl rfl (fun _ _ _ e => c_X5_isBroken e) h (fun v7 s8 h => ?_)
    refine AW.if_eq 28 dX0_smash_23 (by decide) h (fun c15 h => ?_) (fun c15 h => ?_)
    · refine AW.aload_n dX0_smash_28 rfl ?_
      refine AW.VU (M' := m_X0_keeps) (t := 0) [] [] dX0_smash_29 q1217 q1219 qs36 q121 q1220 ck0 rfl n_X0_keeps rfl rfl rfl (fun _ _ _ e => c_X0_keeps e) h (fun _ s10 h => ?_)
      refine AW.aload_n dX0_smash_32 rfl ?_
      refine AW.getR (t := 0) (k := 7) dX0_smash_33 ck0 (Nat.le_of_ble_eq_true rfl) (fun _ => rfl) q553 (Or.inl rfl) h (fun v12 h => ?_)
      refine AW.iload_n dX0_smash_36 rfl ?_
      refine AW.VU (M' := m_X5_breaks) (t := 5) [iV x1] [] dX0_smash_37 q1281 q1247 q1248 q132 q1249 ck5 rfl n_X5_breaks rfl rfl rfl (fun _ _ _ e => c_X5_breaks e) h (fun _ s13 h => ?_)
      refine AW.iconst dX0_smash_40 ?_
      cases h
      exact AW.zret (z := 1) dX0_smash_41 rfl zz1
    · refine AW.iconst dX0_smash_26 ?_
      cases h
      exact AW.zret (z := 0) dX0_smash_27 rfl zz0
theorem c_X0_smash {s0 : Hp} {x0 : Nat} {x1 : Int} {v : Int} {s1 : Hp} (h : f_X0_smash s0 x0 x1 = some (v, s1)) : Ct m_X0_smash [rV (some x0), iV x1] s0 (.inl (some (iV v)), s1) :=
  Ct.of2 (w_X0_smash s0 x0 x1 h) (show plainName yX0_smash.cls = true by decide) rfl rfl rfl
abbrev m_X0_willShow : Mi := (yX0_willShow, cX0_willShow, (some .boolean), 6, 2, 45, [])
theorem n_X0_willShow : nameOk yX0_willShow 3 := ⟨by decide, by decide, by decide +kernel⟩
def f_X0_willShow_L9 (x0 : Nat) : Nat → Hp → Int → Int → Int → Int → (Hp → Option (Int × Hp)) → Option (Int × Hp)
  | 0, _, _, _, _, _, _ => none
  | n + 1, s0, x1, x2, x3, x4, k => (if nrm 300 ≤ nrm x4 then (k s0) else ((gR s0 0 (some x0) 8).bind fun v3 => (rcv s0 5 v3).bind fun b6 => bn (f_X5_shows s0 b6 x1 x4) fun v4 s5 => (if ¬ nrm v4 = nrm x3 then (f_X0_willShow_L9 x0 n s5 x1 x2 x3 (x4 + 1) k) else ((gR s5 0 (some x0) 8).bind fun v7 => (gR s5 5 v7 2).bind fun v8 => (aR s5 105 v8 x1).bind fun v9 => (aI s5 101 v9 v4).bind fun v10 => (if nrm v10 = nrm x2 then ((pI s5 0 (some x0) 16 (nrm x4)).bind fun s11 => some (1, s11)) else (f_X0_willShow_L9 x0 n s5 x1 x2 x3 (x4 + 1) k))))))
theorem w_X0_willShow_L9 {σ0 : Hp} {w : Int × Hp} {x0 : Nat} : ∀ (n : Nat) (s0 : Hp) (x1 : Int) (x2 : Int) (x3 : Int) (x4 : Int) (k : (Hp → Option (Int × Hp))), f_X0_willShow_L9 x0 n s0 x1 x2 x3 x4 k = some w → (∀ (s1 : Hp), k s1 = some w → AW m_X0_willShow σ0 (oI w) 68 [none, none, none, none, none, none] [] s1) → AW m_X0_willShow σ0 (oI w) 9 [some (rV (some x0)), some (iV x1), some (iV x2), some (iV x3), some (iV x4), none] [] s0 := by
  intro n
  induction n with
  | zero =>
    intro s0 x1 x2 x3 x4 k h hk
    rw [f_X0_willShow_L9] at h
    cases h
  | succ n ih =>
    intro s0 x1 x2 x3 x4 k h hk
    rw [f_X0_willShow_L9] at h
    refine AW.iload dX0_willShow_9 rfl ?_
    refine AW.sipush dX0_willShow_11 (by decide) ?_
    refine AW.icmp_ge 68 dX0_willShow_14 (by decide) h (fun c14 h => ?_) (fun c14 h => ?_)
    · exact AW.fewer (L' := [none, none, none, none, none, none]) (trivial) (hk _ h)
    · refine AW.aload_n dX0_willShow_17 rfl ?_
      refine AW.getR (t := 0) (k := 8) dX0_willShow_18 ck0 (Nat.le_of_ble_eq_true rfl) (fun _ => rfl) q554 (Or.inl rfl) h (fun v3 h => ?_)
      refine AW.iload_n dX0_willShow_21 rfl ?_
      refine AW.iload dX0_willShow_22 rfl ?_
      refine AW.VI (M' := m_X5_shows) (t := 5) [iV x1, iV x4] [] dX0_willShow_24 q1199 q1200 q1201 q132 q1202 ck5 rfl n_X5_shows rfl rfl rfl (fun _ _ _ e => c_X5_shows e) h (fun v4 s5 h => ?_)
      refine AW.istore (L' := [some (rV (some x0)), some (iV x1), some (iV x2), some (iV x3), some (iV x4), some (iV v4)]) dX0_willShow_27 (Nat.le_of_ble_eq_true rfl) rfl rfl ?_
      refine AW.iload dX0_willShow_29 rfl ?_
      refine AW.iload_n dX0_willShow_31 rfl ?_
      refine AW.icmp_ne 62 dX0_willShow_32 (by decide) h (fun c13 h => ?_) (fun c13 h => ?_)
      · refine AW.iinc (L' := [some (rV (some x0)), some (iV x1), some (iV x2), some (iV x3), some (iV (x4 + 1)), some (iV v4)]) dX0_willShow_62 rfl (Nat.le_of_ble_eq_true rfl) rfl rfl ?_
        refine AW.goto (tgt := 9) dX0_willShow_65 (by decide) ?_
        exact AW.fewer (L' := [some (rV (some x0)), some (iV x1), some (iV x2), some (iV x3), some (iV (x4 + 1)), none]) (And.intro rfl (And.intro rfl (And.intro rfl (And.intro rfl (And.intro rfl trivial))))) (ih _ _ _ _ _ _ h hk)
      · refine AW.aload_n dX0_willShow_35 rfl ?_
        refine AW.getR (t := 0) (k := 8) dX0_willShow_36 ck0 (Nat.le_of_ble_eq_true rfl) (fun _ => rfl) q554 (Or.inl rfl) h (fun v7 h => ?_)
        refine AW.getR (t := 5) (k := 2) dX0_willShow_39 ck5 (Nat.le_of_ble_eq_true rfl) (fun _ => rfl) q427 (Or.inl rfl) h (fun v8 h => ?_)
        refine AW.iload_n dX0_willShow_42 rfl ?_
        refine AW.aald (t := 105) dX0_willShow_43 (Nat.le_of_ble_eq_true rfl) rfl (fun _ _ => rfl) h (fun v9 h => ?_)
        refine AW.iload dX0_willShow_44 rfl ?_
        refine AW.bald (t := 101) dX0_willShow_46 (Nat.le_of_ble_eq_true rfl) rfl h (fun v10 h => ?_)
        refine AW.iload_n dX0_willShow_47 rfl ?_
        refine AW.icmp_eq 54 dX0_willShow_48 (by decide) h (fun c12 h => ?_) (fun c12 h => ?_)
        · refine AW.aload_n dX0_willShow_54 rfl ?_
          refine AW.iload dX0_willShow_55 rfl ?_
          refine AW.nv ?_
          refine AW.putI (t := 0) (k := 16) dX0_willShow_57 ck0 mu0 (Nat.le_of_ble_eq_true rfl) rfl q562 (Or.inl rfl) (Or.inl rfl) h (fun s11 h => ?_)
          refine AW.iconst dX0_willShow_60 ?_
          cases h
          exact AW.zret (z := 1) dX0_willShow_61 rfl zz1
        · refine AW.goto (tgt := 62) dX0_willShow_51 (by decide) ?_
          refine AW.iinc (L' := [some (rV (some x0)), some (iV x1), some (iV x2), some (iV x3), some (iV (x4 + 1)), some (iV v4)]) dX0_willShow_62 rfl (Nat.le_of_ble_eq_true rfl) rfl rfl ?_
          refine AW.goto (tgt := 9) dX0_willShow_65 (by decide) ?_
          exact AW.fewer (L' := [some (rV (some x0)), some (iV x1), some (iV x2), some (iV x3), some (iV (x4 + 1)), none]) (And.intro rfl (And.intro rfl (And.intro rfl (And.intro rfl (And.intro rfl trivial))))) (ih _ _ _ _ _ _ h hk)
def f_X0_willShow (s0 : Hp) (x0 : Nat) (x1 : Int) (x2 : Int) (x3 : Int) : Option (Int × Hp) :=
  (gR s0 0 (some x0) 7).bind fun v1 => (gI s0 5 v1 9).bind fun v2 => f_X0_willShow_L9 x0 FU s0 x1 x2 x3 v2 (fun s15 => some (0, s15))
theorem w_X0_willShow {σ0 : Hp} {w : Int × Hp} (s0 : Hp) (x0 : Nat) (x1 : Int) (x2 : Int) (x3 : Int) (h : f_X0_willShow s0 x0 x1 x2 x3 = some w) : AW m_X0_willShow σ0 (oI w) 0 [some (rV (some x0)), some (iV x1), some (iV x2), some (iV x3), none, none] [] s0 := by
  unfold f_X0_willShow at h
  refine AW.aload_n dX0_willShow_0 rfl ?_
  refine AW.getR (t := 0) (k := 7) dX0_willShow_1 ck0 (Nat.le_of_ble_eq_true rfl) (fun _ => rfl) q553 (Or.inl rfl) h (fun v1 h => ?_)
  refine AW.getI (t := 5) (k := 9) dX0_willShow_4 ck5 (Nat.le_of_ble_eq_true rfl) (fun _ => rfl) q437 (Or.inl rfl) h (fun v2 h => ?_)
  refine AW.istore (L' := [some (rV (some x0)), some (iV x1), some (iV x2), some (iV x3), some (iV v2), none]) dX0_willShow_7 (Nat.le_of_ble_eq_true rfl) rfl rfl ?_
  refine w_X0_willShow_L9 _ _ _ _ _ _ _ h (fun s15 h => ?_)
  refine AW.iconst dX0_willShow_68 ?_
  cases h
  exact AW.zret (z := 0) dX0_willShow_69 rfl zz0
theorem c_X0_willShow {s0 : Hp} {x0 : Nat} {x1 : Int} {x2 : Int} {x3 : Int} {v : Int} {s1 : Hp} (h : f_X0_willShow s0 x0 x1 x2 x3 = some (v, s1)) : Ct m_X0_willShow [rV (some x0), iV x1, iV x2, iV x3] s0 (.inl (some (iV v)), s1) :=
  Ct.of2 (w_X0_willShow s0 x0 x1 x2 x3 h) (show plainName yX0_willShow.cls = true by decide) rfl rfl rfl
abbrev m_X0_soonest : Mi := (yX0_soonest, cX0_soonest, (some .int), 7, 419, 24858, [])
theorem n_X0_soonest : nameOk yX0_soonest 3 := ⟨by decide, by decide, by decide +kernel⟩
def f_X0_soonest_L43 (x0 : Nat) : Nat → Hp → Int → Int → Int → Int → Int → Int → (Hp → Int → Int → Int → Option (Int × Hp)) → Option (Int × Hp)
  | 0, _, _, _, _, _, _, _, _ => none
  | n + 1, s0, x1, x2, x3, x4, x5, x6, k => (rcv s0 0 (some x0)).bind fun b13 => bn (f_X0_mirrors s0 b13) fun v11 s12 => (if nrm v11 ≤ nrm x6 then (k s12 x3 x4 x5) else ((rcv s12 0 (some x0)).bind fun b16 => bn (f_X0_willShow s12 b16 x6 x1 x2) fun v14 s15 => (if nrm v14 = 0 then (f_X0_soonest_L43 x0 n s15 x1 x2 x3 x4 x5 (x6 + 1) k) else ((gI s15 0 (some x0) 16).bind fun v17 => (if nrm v17 < nrm x5 then ((gI s15 0 (some x0) 16).bind fun v18 => f_X0_soonest_L43 x0 n s15 x1 x2 x3 x6 v18 (x6 + 1) k) else (f_X0_soonest_L43 x0 n s15 x1 x2 x3 x4 x5 (x6 + 1) k))))))
theorem w_X0_soonest_L43 {σ0 : Hp} {w : Int × Hp} {x0 : Nat} : ∀ (n : Nat) (s0 : Hp) (x1 : Int) (x2 : Int) (x3 : Int) (x4 : Int) (x5 : Int) (x6 : Int) (k : (Hp → Int → Int → Int → Option (Int × Hp))), f_X0_soonest_L43 x0 n s0 x1 x2 x3 x4 x5 x6 k = some w → (∀ (s1 : Hp) (x3 : Int) (x4 : Int) (x5 : Int), k s1 x3 x4 x5 = some w → AW m_X0_soonest σ0 (oI w) 91 [none, none, none, some (iV x3), some (iV x4), some (iV x5), none] [] s1) → AW m_X0_soonest σ0 (oI w) 43 [some (rV (some x0)), some (iV x1), some (iV x2), some (iV x3), some (iV x4), some (iV x5), some (iV x6)] [] s0 := by
  intro n
  induction n with
  | zero =>
    intro s0 x1 x2 x3 x4 x5 x6 k h hk
    rw [f_X0_soonest_L43] at h
    cases h
  | succ n ih =>
    intro s0 x1 x2 x3 x4 x5 x6 k h hk
    rw [f_X0_soonest_L43] at h
    refine AW.iload dX0_soonest_43 rfl ?_
    refine AW.aload_n dX0_soonest_45 rfl ?_
    refine AW.VI (M' := m_X0_mirrors) (t := 0) [] [iV x6] dX0_soonest_46 q1195 q1197 qs35 q121 q1198 ck0 rfl n_X0_mirrors rfl rfl rfl (fun _ _ _ e => c_X0_mirrors e) h (fun v11 s12 h => ?_)
    refine AW.icmp_ge 91 dX0_soonest_49 (by decide) h (fun c21 h => ?_) (fun c21 h => ?_)
    · exact AW.fewer (L' := [none, none, none, some (iV x3), some (iV x4), some (iV x5), none]) (And.intro rfl (And.intro rfl (And.intro rfl trivial))) (hk _ _ _ _ h)
    · refine AW.aload_n dX0_soonest_52 rfl ?_
      refine AW.iload dX0_soonest_53 rfl ?_
      refine AW.iload_n dX0_soonest_55 rfl ?_
      refine AW.iload_n dX0_soonest_56 rfl ?_
      refine AW.VI (M' := m_X0_willShow) (t := 0) [iV x6, iV x1, iV x2] [] dX0_soonest_57 q1382 q1384 qs45 q121 q1385 ck0 rfl n_X0_willShow rfl rfl rfl (fun _ _ _ e => c_X0_willShow e) h (fun v14 s15 h => ?_)
      refine AW.if_eq 85 dX0_soonest_60 (by decide) h (fun c20 h => ?_) (fun c20 h => ?_)
      · refine AW.iinc (L' := [some (rV (some x0)), some (iV x1), some (iV x2), some (iV x3), some (iV x4), some (iV x5), some (iV (x6 + 1))]) dX0_soonest_85 rfl (Nat.le_of_ble_eq_true rfl) rfl rfl ?_
        refine AW.goto (tgt := 43) dX0_soonest_88 (by decide) ?_
        exact ih _ _ _ _ _ _ _ _ h hk
      · refine AW.aload_n dX0_soonest_63 rfl ?_
        refine AW.getI (t := 0) (k := 16) dX0_soonest_64 ck0 (Nat.le_of_ble_eq_true rfl) (fun _ => rfl) q562 (Or.inl rfl) h (fun v17 h => ?_)
        refine AW.iload dX0_soonest_67 rfl ?_
        refine AW.icmp_lt 75 dX0_soonest_69 (by decide) h (fun c19 h => ?_) (fun c19 h => ?_)
        · refine AW.iload dX0_soonest_75 rfl ?_
          refine AW.istore (L' := [some (rV (some x0)), some (iV x1), some (iV x2), some (iV x3), some (iV x6), some (iV x5), some (iV x6)]) dX0_soonest_77 (Nat.le_of_ble_eq_true rfl) rfl rfl ?_
          refine AW.aload_n dX0_soonest_79 rfl ?_
          refine AW.getI (t := 0) (k := 16) dX0_soonest_80 ck0 (Nat.le_of_ble_eq_true rfl) (fun _ => rfl) q562 (Or.inl rfl) h (fun v18 h => ?_)
          refine AW.istore (L' := [some (rV (some x0)), some (iV x1), some (iV x2), some (iV x3), some (iV x6), some (iV v18), some (iV x6)]) dX0_soonest_83 (Nat.le_of_ble_eq_true rfl) rfl rfl ?_
          refine AW.iinc (L' := [some (rV (some x0)), some (iV x1), some (iV x2), some (iV x3), some (iV x6), some (iV v18), some (iV (x6 + 1))]) dX0_soonest_85 rfl (Nat.le_of_ble_eq_true rfl) rfl rfl ?_
          refine AW.goto (tgt := 43) dX0_soonest_88 (by decide) ?_
          exact ih _ _ _ _ _ _ _ _ h hk
        · refine AW.goto (tgt := 85) dX0_soonest_72 (by decide) ?_
          refine AW.iinc (L' := [some (rV (some x0)), some (iV x1), some (iV x2), some (iV x3), some (iV x4), some (iV x5), some (iV (x6 + 1))]) dX0_soonest_85 rfl (Nat.le_of_ble_eq_true rfl) rfl rfl ?_
          refine AW.goto (tgt := 43) dX0_soonest_88 (by decide) ?_
          exact ih _ _ _ _ _ _ _ _ h hk
def f_X0_soonest (s0 : Hp) (x0 : Nat) (x1 : Int) (x2 : Int) (x3 : Int) : Option (Int × Hp) :=
  (rcv s0 0 (some x0)).bind fun b3 => bn (f_X0_isRoom s0 b3 x1) fun v1 s2 => (if nrm v1 = 0 then (some ((-1), s2)) else ((rcv s2 0 (some x0)).bind fun b6 => bn (f_X0_isPast s2 b6 x2) fun v4 s5 => (if nrm v4 = 0 then (some ((-1), s5)) else (bn (f_X0_isIn s5 x3 0 1) fun v7 s8 => (if ¬ nrm v7 = 0 then ((rcv s8 0 (some x0)).bind fun b10 => bn (f_X0_goesToEnd s8 b10) fun _ s9 => f_X0_soonest_L43 x0 FU s9 x1 x2 x3 (-2) 300 0 (fun s22 x3 x4 x5 => (if nrm x4 < 0 then (some (nrm x4, s22)) else ((if ¬ nrm x3 = nrm 1 then (some (nrm x5, s22)) else (some (nrm x4, s22))))))) else (some ((-1), s8)))))))
theorem w_X0_soonest {σ0 : Hp} {w : Int × Hp} (s0 : Hp) (x0 : Nat) (x1 : Int) (x2 : Int) (x3 : Int) (h : f_X0_soonest s0 x0 x1 x2 x3 = some w) : AW m_X0_soonest σ0 (oI w) 0 [some (rV (some x0)), some (iV x1), some (iV x2), some (iV x3), none, none, none] [] s0 := by
  unfold f_X0_soonest at h
  refine AW.aload_n dX0_soonest_0 rfl ?_
  refine AW.iload_n dX0_soonest_1 rfl ?_
  refine AW.VI (M' := m_X0_isRoom) (t := 0) [iV x1] [] dX0_soonest_2 q1265 q1267 qs39 q121 q1268 ck0 rfl n_X0_isRoom rfl rfl rfl (fun _ _ _ e => c_X0_isRoom e) h (fun v1 s2 h => ?_)
  refine AW.if_eq 25 dX0_soonest_5 (by decide) h (fun c27 h => ?_) (fun c27 h => ?_)
  · refine AW.iconst dX0_soonest_25 ?_
    cases h
    exact AW.iret dX0_soonest_26 rfl
  · refine AW.aload_n dX0_soonest_8 rfl ?_
    refine AW.iload_n dX0_soonest_9 rfl ?_
    refine AW.VI (M' := m_X0_isPast) (t := 0) [iV x2] [] dX0_soonest_10 q1183 q1185 qs33 q121 q1186 ck0 rfl n_X0_isPast rfl rfl rfl (fun _ _ _ e => c_X0_isPast e) h (fun v4 s5 h => ?_)
    refine AW.if_eq 25 dX0_soonest_13 (by decide) h (fun c26 h => ?_) (fun c26 h => ?_)
    · refine AW.iconst dX0_soonest_25 ?_
      cases h
      exact AW.iret dX0_soonest_26 rfl
    · refine AW.iload_n dX0_soonest_16 rfl ?_
      refine AW.iconst dX0_soonest_17 ?_
      refine AW.iconst dX0_soonest_18 ?_
      refine AW.SI (M' := m_X0_isIn) [iV x3, iV 0, iV 1] [] dX0_soonest_19 q1180 q1181 q121 q1182 n_X0_isIn rfl rfl rfl (fun _ _ e => c_X0_isIn e) h (fun v7 s8 h => ?_)
      refine AW.if_ne 27 dX0_soonest_22 (by decide) h (fun c25 h => ?_) (fun c25 h => ?_)
      · refine AW.bipush dX0_soonest_27 (by decide) ?_
        refine AW.istore (L' := [some (rV (some x0)), some (iV x1), some (iV x2), some (iV x3), some (iV (-2)), none, none]) dX0_soonest_29 (Nat.le_of_ble_eq_true rfl) rfl rfl ?_
        refine AW.sipush dX0_soonest_31 (by decide) ?_
        refine AW.istore (L' := [some (rV (some x0)), some (iV x1), some (iV x2), some (iV x3), some (iV (-2)), some (iV 300), none]) dX0_soonest_34 (Nat.le_of_ble_eq_true rfl) rfl rfl ?_
        refine AW.aload_n dX0_soonest_36 rfl ?_
        refine AW.VU (M' := m_X0_goesToEnd) (t := 0) [] [] dX0_soonest_37 q1378 q1380 qs44 q121 q1381 ck0 rfl n_X0_goesToEnd rfl rfl rfl (fun _ _ _ e => c_X0_goesToEnd e) h (fun _ s9 h => ?_)
        refine AW.iconst dX0_soonest_40 ?_
        refine AW.istore (L' := [some (rV (some x0)), some (iV x1), some (iV x2), some (iV x3), some (iV (-2)), some (iV 300), some (iV 0)]) dX0_soonest_41 (Nat.le_of_ble_eq_true rfl) rfl rfl ?_
        refine w_X0_soonest_L43 _ _ _ _ _ _ _ _ _ h (fun s22 x3 x4 x5 h => ?_)
        refine AW.iload dX0_soonest_91 rfl ?_
        refine AW.if_lt 101 dX0_soonest_93 (by decide) h (fun c24 h => ?_) (fun c24 h => ?_)
        · refine AW.iload dX0_soonest_101 rfl ?_
          refine AW.goto (tgt := 108) dX0_soonest_103 (by decide) ?_
          refine AW.nv ?_
          cases h
          exact AW.iret dX0_soonest_108 rfl
        · refine AW.iload_n dX0_soonest_96 rfl ?_
          refine AW.iconst dX0_soonest_97 ?_
          refine AW.icmp_ne 106 dX0_soonest_98 (by decide) h (fun c23 h => ?_) (fun c23 h => ?_)
          · refine AW.iload dX0_soonest_106 rfl ?_
            refine AW.nv ?_
            cases h
            exact AW.iret dX0_soonest_108 rfl
          · refine AW.iload dX0_soonest_101 rfl ?_
            refine AW.goto (tgt := 108) dX0_soonest_103 (by decide) ?_
            refine AW.nv ?_
            cases h
            exact AW.iret dX0_soonest_108 rfl
      · refine AW.iconst dX0_soonest_25 ?_
        cases h
        exact AW.iret dX0_soonest_26 rfl
theorem c_X0_soonest {s0 : Hp} {x0 : Nat} {x1 : Int} {x2 : Int} {x3 : Int} {v : Int} {s1 : Hp} (h : f_X0_soonest s0 x0 x1 x2 x3 = some (v, s1)) : Ct m_X0_soonest [rV (some x0), iV x1, iV x2, iV x3] s0 (.inl (some (iV v)), s1) :=
  Ct.of2 (w_X0_soonest s0 x0 x1 x2 x3 h) (show plainName yX0_soonest.cls = true by decide) rfl rfl rfl
abbrev m_X0_stand : Mi := (yX0_stand, cX0_stand, (some .int), 6, 4, 93, [])
theorem n_X0_stand : nameOk yX0_stand 1 := ⟨by decide, by decide, by decide +kernel⟩
def f_X0_stand_L19 (x0 : Nat) : Nat → Hp → Int → Int → Int → Int → (Hp → Int → Int → Int → Option (Int × Hp)) → Option (Int × Hp)
  | 0, _, _, _, _, _, _ => none
  | n + 1, s0, x1, x2, x3, x4, k => (rcv s0 0 (some x0)).bind fun b5 => bn (f_X0_rooms s0 b5) fun v3 s4 => (if nrm v3 ≤ nrm x4 then (k s4 x1 x2 x3) else ((gR s4 0 (some x0) 7).bind fun v6 => (gI s4 5 v6 9).bind fun v7 => (rcv s4 0 (some x0)).bind fun b10 => bn (f_X0_menFrom s4 b10 x4 v7) fun v8 s9 => bn (f_J8_bitCount s9 v8) fun v11 s12 => (if nrm x3 < nrm v11 then (bn (f_J8_bitCount s12 v8) fun v13 s14 => f_X0_stand_L19 x0 n s14 x1 x4 v13 (x4 + 1) k) else (f_X0_stand_L19 x0 n s12 x1 x2 x3 (x4 + 1) k))))
theorem w_X0_stand_L19 {σ0 : Hp} {w : Int × Hp} {x0 : Nat} : ∀ (n : Nat) (s0 : Hp) (x1 : Int) (x2 : Int) (x3 : Int) (x4 : Int) (k : (Hp → Int → Int → Int → Option (Int × Hp))), f_X0_stand_L19 x0 n s0 x1 x2 x3 x4 k = some w → (∀ (s1 : Hp) (x1 : Int) (x2 : Int) (x3 : Int), k s1 x1 x2 x3 = some w → AW m_X0_stand σ0 (oI w) 70 [none, some (iV x1), some (iV x2), some (iV x3), none, none] [] s1) → AW m_X0_stand σ0 (oI w) 19 [some (rV (some x0)), some (iV x1), some (iV x2), some (iV x3), some (iV x4), none] [] s0 := by
  intro n
  induction n with
  | zero =>
    intro s0 x1 x2 x3 x4 k h hk
    rw [f_X0_stand_L19] at h
    cases h
  | succ n ih =>
    intro s0 x1 x2 x3 x4 k h hk
    rw [f_X0_stand_L19] at h
    refine AW.iload dX0_stand_19 rfl ?_
    refine AW.aload_n dX0_stand_21 rfl ?_
    refine AW.VI (M' := m_X0_rooms) (t := 0) [] [iV x4] dX0_stand_22 q1269 q1271 qs40 q121 q1272 ck0 rfl n_X0_rooms rfl rfl rfl (fun _ _ _ e => c_X0_rooms e) h (fun v3 s4 h => ?_)
    refine AW.icmp_ge 70 dX0_stand_25 (by decide) h (fun c16 h => ?_) (fun c16 h => ?_)
    · exact AW.fewer (L' := [none, some (iV x1), some (iV x2), some (iV x3), none, none]) (And.intro rfl (And.intro rfl (And.intro rfl trivial))) (hk _ _ _ _ h)
    · refine AW.aload_n dX0_stand_28 rfl ?_
      refine AW.iload dX0_stand_29 rfl ?_
      refine AW.aload_n dX0_stand_31 rfl ?_
      refine AW.getR (t := 0) (k := 7) dX0_stand_32 ck0 (Nat.le_of_ble_eq_true rfl) (fun _ => rfl) q553 (Or.inl rfl) h (fun v6 h => ?_)
      refine AW.getI (t := 5) (k := 9) dX0_stand_35 ck5 (Nat.le_of_ble_eq_true rfl) (fun _ => rfl) q437 (Or.inl rfl) h (fun v7 h => ?_)
      refine AW.VI (M' := m_X0_menFrom) (t := 0) [iV x4, iV v7] [] dX0_stand_38 q1339 q1341 qs42 q121 q1342 ck0 rfl n_X0_menFrom rfl rfl rfl (fun _ _ _ e => c_X0_menFrom e) h (fun v8 s9 h => ?_)
      refine AW.istore (L' := [some (rV (some x0)), some (iV x1), some (iV x2), some (iV x3), some (iV x4), some (iV v8)]) dX0_stand_41 (Nat.le_of_ble_eq_true rfl) rfl rfl ?_
      refine AW.iload dX0_stand_43 rfl ?_
      refine AW.SI (M' := m_J8_bitCount) [iV v8] [] dX0_stand_45 q1368 q518 q137 q519 n_J8_bitCount rfl rfl rfl (fun _ _ e => c_J8_bitCount e) h (fun v11 s12 h => ?_)
      refine AW.iload_n dX0_stand_48 rfl ?_
      refine AW.icmp_gt 55 dX0_stand_49 (by decide) h (fun c15 h => ?_) (fun c15 h => ?_)
      · refine AW.iload dX0_stand_55 rfl ?_
        refine AW.istore_n (L' := [some (rV (some x0)), some (iV x1), some (iV x4), some (iV x3), some (iV x4), some (iV v8)]) dX0_stand_57 (Nat.le_of_ble_eq_true rfl) rfl rfl ?_
        refine AW.iload dX0_stand_58 rfl ?_
        refine AW.SI (M' := m_J8_bitCount) [iV v8] [] dX0_stand_60 q1368 q518 q137 q519 n_J8_bitCount rfl rfl rfl (fun _ _ e => c_J8_bitCount e) h (fun v13 s14 h => ?_)
        refine AW.istore_n (L' := [some (rV (some x0)), some (iV x1), some (iV x4), some (iV v13), some (iV x4), some (iV v8)]) dX0_stand_63 (Nat.le_of_ble_eq_true rfl) rfl rfl ?_
        refine AW.iinc (L' := [some (rV (some x0)), some (iV x1), some (iV x4), some (iV v13), some (iV (x4 + 1)), some (iV v8)]) dX0_stand_64 rfl (Nat.le_of_ble_eq_true rfl) rfl rfl ?_
        refine AW.goto (tgt := 19) dX0_stand_67 (by decide) ?_
        exact AW.fewer (L' := [some (rV (some x0)), some (iV x1), some (iV x4), some (iV v13), some (iV (x4 + 1)), none]) (And.intro rfl (And.intro rfl (And.intro rfl (And.intro rfl (And.intro rfl trivial))))) (ih _ _ _ _ _ _ h hk)
      · refine AW.goto (tgt := 64) dX0_stand_52 (by decide) ?_
        refine AW.iinc (L' := [some (rV (some x0)), some (iV x1), some (iV x2), some (iV x3), some (iV (x4 + 1)), some (iV v8)]) dX0_stand_64 rfl (Nat.le_of_ble_eq_true rfl) rfl rfl ?_
        refine AW.goto (tgt := 19) dX0_stand_67 (by decide) ?_
        exact AW.fewer (L' := [some (rV (some x0)), some (iV x1), some (iV x2), some (iV x3), some (iV (x4 + 1)), none]) (And.intro rfl (And.intro rfl (And.intro rfl (And.intro rfl (And.intro rfl trivial))))) (ih _ _ _ _ _ _ h hk)
def f_X0_stand (s0 : Hp) (x0 : Nat) (x1 : Int) : Option (Int × Hp) :=
  bn (f_X0_isIn s0 x1 0 1) fun v1 s2 => (if ¬ nrm v1 = 0 then (f_X0_stand_L19 x0 FU s2 x1 (-2) (-1) 0 (fun s17 x1 x2 x3 => (if nrm x1 = 0 then (some (nrm x2, s17)) else ((if 0 ≤ nrm x2 then (some (nrm x3, s17)) else (some (nrm x2, s17))))))) else (some ((-1), s2)))
theorem w_X0_stand {σ0 : Hp} {w : Int × Hp} (s0 : Hp) (x0 : Nat) (x1 : Int) (h : f_X0_stand s0 x0 x1 = some w) : AW m_X0_stand σ0 (oI w) 0 [some (rV (some x0)), some (iV x1), none, none, none, none] [] s0 := by
  unfold f_X0_stand at h
  refine AW.iload_n dX0_stand_0 rfl ?_
  refine AW.iconst dX0_stand_1 ?_
  refine AW.iconst dX0_stand_2 ?_
  refine AW.SI (M' := m_X0_isIn) [iV x1, iV 0, iV 1] [] dX0_stand_3 q1180 q1181 q121 q1182 n_X0_isIn rfl rfl rfl (fun _ _ e => c_X0_isIn e) h (fun v1 s2 h => ?_)
  refine AW.if_ne 11 dX0_stand_6 (by decide) h (fun c20 h => ?_) (fun c20 h => ?_)
  · refine AW.bipush dX0_stand_11 (by decide) ?_
    refine AW.istore_n (L' := [some (rV (some x0)), some (iV x1), some (iV (-2)), none, none, none]) dX0_stand_13 (Nat.le_of_ble_eq_true rfl) rfl rfl ?_
    refine AW.iconst dX0_stand_14 ?_
    refine AW.istore_n (L' := [some (rV (some x0)), some (iV x1), some (iV (-2)), some (iV (-1)), none, none]) dX0_stand_15 (Nat.le_of_ble_eq_true rfl) rfl rfl ?_
    refine AW.iconst dX0_stand_16 ?_
    refine AW.istore (L' := [some (rV (some x0)), some (iV x1), some (iV (-2)), some (iV (-1)), some (iV 0), none]) dX0_stand_17 (Nat.le_of_ble_eq_true rfl) rfl rfl ?_
    refine w_X0_stand_L19 _ _ _ _ _ _ _ h (fun s17 x1 x2 x3 h => ?_)
    refine AW.iload_n dX0_stand_70 rfl ?_
    refine AW.if_eq 78 dX0_stand_71 (by decide) h (fun c19 h => ?_) (fun c19 h => ?_)
    · refine AW.iload_n dX0_stand_78 rfl ?_
      refine AW.goto (tgt := 83) dX0_stand_79 (by decide) ?_
      refine AW.nv ?_
      cases h
      exact AW.iret dX0_stand_83 rfl
    · refine AW.iload_n dX0_stand_74 rfl ?_
      refine AW.if_ge 82 dX0_stand_75 (by decide) h (fun c18 h => ?_) (fun c18 h => ?_)
      · refine AW.iload_n dX0_stand_82 rfl ?_
        refine AW.nv ?_
        cases h
        exact AW.iret dX0_stand_83 rfl
      · refine AW.iload_n dX0_stand_78 rfl ?_
        refine AW.goto (tgt := 83) dX0_stand_79 (by decide) ?_
        refine AW.nv ?_
        cases h
        exact AW.iret dX0_stand_83 rfl
  · refine AW.iconst dX0_stand_9 ?_
    cases h
    exact AW.iret dX0_stand_10 rfl
theorem c_X0_stand {s0 : Hp} {x0 : Nat} {x1 : Int} {v : Int} {s1 : Hp} (h : f_X0_stand s0 x0 x1 = some (v, s1)) : Ct m_X0_stand [rV (some x0), iV x1] s0 (.inl (some (iV v)), s1) :=
  Ct.of2 (w_X0_stand s0 x0 x1 h) (show plainName yX0_stand.cls = true by decide) rfl rfl rfl
abbrev m_X0_still : Mi := (yX0_still, cX0_still, (some .int), 5, 419, 24858, [])
theorem n_X0_still : nameOk yX0_still 2 := ⟨by decide, by decide, by decide +kernel⟩
def f_X0_still_L27 (x0 : Nat) : Nat → Hp → Int → Int → Int → Int → (Hp → Int → Option (Int × Hp)) → Option (Int × Hp)
  | 0, _, _, _, _, _, _ => none
  | n + 1, s0, x1, x2, x3, x4, k => (rcv s0 0 (some x0)).bind fun b11 => bn (f_X0_mirrors s0 b11) fun v9 s10 => (if nrm v9 ≤ nrm x4 then (k s10 x3) else ((rcv s10 0 (some x0)).bind fun b14 => bn (f_X0_willShow s10 b14 x4 x1 x2) fun v12 s13 => (if nrm v12 = 0 then (f_X0_still_L27 x0 n s13 x1 x2 (orI x3 0) (x4 + 1) k) else (f_X0_still_L27 x0 n s13 x1 x2 (orI x3 (slI 1 x4)) (x4 + 1) k))))
theorem w_X0_still_L27 {σ0 : Hp} {w : Int × Hp} {x0 : Nat} : ∀ (n : Nat) (s0 : Hp) (x1 : Int) (x2 : Int) (x3 : Int) (x4 : Int) (k : (Hp → Int → Option (Int × Hp))), f_X0_still_L27 x0 n s0 x1 x2 x3 x4 k = some w → (∀ (s1 : Hp) (x3 : Int), k s1 x3 = some w → AW m_X0_still σ0 (oI w) 64 [none, none, none, some (iV x3), none] [] s1) → AW m_X0_still σ0 (oI w) 27 [some (rV (some x0)), some (iV x1), some (iV x2), some (iV x3), some (iV x4)] [] s0 := by
  intro n
  induction n with
  | zero =>
    intro s0 x1 x2 x3 x4 k h hk
    rw [f_X0_still_L27] at h
    cases h
  | succ n ih =>
    intro s0 x1 x2 x3 x4 k h hk
    rw [f_X0_still_L27] at h
    refine AW.iload dX0_still_27 rfl ?_
    refine AW.aload_n dX0_still_29 rfl ?_
    refine AW.VI (M' := m_X0_mirrors) (t := 0) [] [iV x4] dX0_still_30 q1195 q1197 qs35 q121 q1198 ck0 rfl n_X0_mirrors rfl rfl rfl (fun _ _ _ e => c_X0_mirrors e) h (fun v9 s10 h => ?_)
    refine AW.icmp_ge 64 dX0_still_33 (by decide) h (fun c16 h => ?_) (fun c16 h => ?_)
    · exact AW.fewer (L' := [none, none, none, some (iV x3), none]) (And.intro rfl trivial) (hk _ _ h)
    · refine AW.iload_n dX0_still_36 rfl ?_
      refine AW.aload_n dX0_still_37 rfl ?_
      refine AW.iload dX0_still_38 rfl ?_
      refine AW.iload_n dX0_still_40 rfl ?_
      refine AW.iload_n dX0_still_41 rfl ?_
      refine AW.VI (M' := m_X0_willShow) (t := 0) [iV x4, iV x1, iV x2] [iV x3] dX0_still_42 q1382 q1384 qs45 q121 q1385 ck0 rfl n_X0_willShow rfl rfl rfl (fun _ _ _ e => c_X0_willShow e) h (fun v12 s13 h => ?_)
      refine AW.if_eq 55 dX0_still_45 (by decide) h (fun c15 h => ?_) (fun c15 h => ?_)
      · refine AW.iconst dX0_still_55 ?_
        refine AW.ior dX0_still_56 ?_
        refine AW.istore_n (L' := [some (rV (some x0)), some (iV x1), some (iV x2), some (iV (orI x3 0)), some (iV x4)]) dX0_still_57 (Nat.le_of_ble_eq_true rfl) rfl rfl ?_
        refine AW.iinc (L' := [some (rV (some x0)), some (iV x1), some (iV x2), some (iV (orI x3 0)), some (iV (x4 + 1))]) dX0_still_58 rfl (Nat.le_of_ble_eq_true rfl) rfl rfl ?_
        refine AW.goto (tgt := 27) dX0_still_61 (by decide) ?_
        exact ih _ _ _ _ _ _ h hk
      · refine AW.iconst dX0_still_48 ?_
        refine AW.iload dX0_still_49 rfl ?_
        refine AW.ishl dX0_still_51 ?_
        refine AW.goto (tgt := 56) dX0_still_52 (by decide) ?_
        refine AW.ior dX0_still_56 ?_
        refine AW.istore_n (L' := [some (rV (some x0)), some (iV x1), some (iV x2), some (iV (orI x3 (slI 1 x4))), some (iV x4)]) dX0_still_57 (Nat.le_of_ble_eq_true rfl) rfl rfl ?_
        refine AW.iinc (L' := [some (rV (some x0)), some (iV x1), some (iV x2), some (iV (orI x3 (slI 1 x4))), some (iV (x4 + 1))]) dX0_still_58 rfl (Nat.le_of_ble_eq_true rfl) rfl rfl ?_
        refine AW.goto (tgt := 27) dX0_still_61 (by decide) ?_
        exact ih _ _ _ _ _ _ h hk
def f_X0_still (s0 : Hp) (x0 : Nat) (x1 : Int) (x2 : Int) : Option (Int × Hp) :=
  (rcv s0 0 (some x0)).bind fun b3 => bn (f_X0_isRoom s0 b3 x1) fun v1 s2 => (if nrm v1 = 0 then (some ((-1), s2)) else ((rcv s2 0 (some x0)).bind fun b6 => bn (f_X0_isPast s2 b6 x2) fun v4 s5 => (if ¬ nrm v4 = 0 then ((rcv s5 0 (some x0)).bind fun b8 => bn (f_X0_goesToEnd s5 b8) fun _ s7 => f_X0_still_L27 x0 FU s7 x1 x2 0 0 (fun s17 x3 => some (nrm x3, s17))) else (some ((-1), s5)))))
theorem w_X0_still {σ0 : Hp} {w : Int × Hp} (s0 : Hp) (x0 : Nat) (x1 : Int) (x2 : Int) (h : f_X0_still s0 x0 x1 x2 = some w) : AW m_X0_still σ0 (oI w) 0 [some (rV (some x0)), some (iV x1), some (iV x2), none, none] [] s0 := by
  unfold f_X0_still at h
  refine AW.aload_n dX0_still_0 rfl ?_
  refine AW.iload_n dX0_still_1 rfl ?_
  refine AW.VI (M' := m_X0_isRoom) (t := 0) [iV x1] [] dX0_still_2 q1265 q1267 qs39 q121 q1268 ck0 rfl n_X0_isRoom rfl rfl rfl (fun _ _ _ e => c_X0_isRoom e) h (fun v1 s2 h => ?_)
  refine AW.if_eq 16 dX0_still_5 (by decide) h (fun c19 h => ?_) (fun c19 h => ?_)
  · refine AW.iconst dX0_still_16 ?_
    cases h
    exact AW.iret dX0_still_17 rfl
  · refine AW.aload_n dX0_still_8 rfl ?_
    refine AW.iload_n dX0_still_9 rfl ?_
    refine AW.VI (M' := m_X0_isPast) (t := 0) [iV x2] [] dX0_still_10 q1183 q1185 qs33 q121 q1186 ck0 rfl n_X0_isPast rfl rfl rfl (fun _ _ _ e => c_X0_isPast e) h (fun v4 s5 h => ?_)
    refine AW.if_ne 18 dX0_still_13 (by decide) h (fun c18 h => ?_) (fun c18 h => ?_)
    · refine AW.iconst dX0_still_18 ?_
      refine AW.istore_n (L' := [some (rV (some x0)), some (iV x1), some (iV x2), some (iV 0), none]) dX0_still_19 (Nat.le_of_ble_eq_true rfl) rfl rfl ?_
      refine AW.aload_n dX0_still_20 rfl ?_
      refine AW.VU (M' := m_X0_goesToEnd) (t := 0) [] [] dX0_still_21 q1378 q1380 qs44 q121 q1381 ck0 rfl n_X0_goesToEnd rfl rfl rfl (fun _ _ _ e => c_X0_goesToEnd e) h (fun _ s7 h => ?_)
      refine AW.iconst dX0_still_24 ?_
      refine AW.istore (L' := [some (rV (some x0)), some (iV x1), some (iV x2), some (iV 0), some (iV 0)]) dX0_still_25 (Nat.le_of_ble_eq_true rfl) rfl rfl ?_
      refine w_X0_still_L27 _ _ _ _ _ _ _ h (fun s17 x3 h => ?_)
      refine AW.iload_n dX0_still_64 rfl ?_
      refine AW.nv ?_
      cases h
      exact AW.iret dX0_still_65 rfl
    · refine AW.iconst dX0_still_16 ?_
      cases h
      exact AW.iret dX0_still_17 rfl
theorem c_X0_still {s0 : Hp} {x0 : Nat} {x1 : Int} {x2 : Int} {v : Int} {s1 : Hp} (h : f_X0_still s0 x0 x1 x2 = some (v, s1)) : Ct m_X0_still [rV (some x0), iV x1, iV x2] s0 (.inl (some (iV v)), s1) :=
  Ct.of2 (w_X0_still s0 x0 x1 x2 h) (show plainName yX0_still.cls = true by decide) rfl rfl rfl
abbrev m_X0_tell : Mi := (yX0_tell, cX0_tell, (some .int), 5, 3, 61, [])
theorem n_X0_tell : nameOk yX0_tell 4 := ⟨by decide, by decide, by decide +kernel⟩
def f_X0_tell (s0 : Hp) (x0 : Nat) (x1 : Int) (x2 : Int) (x3 : Int) (x4 : Int) : Option (Int × Hp) :=
  (rcv s0 0 (some x0)).bind fun b3 => bn (f_X0_isMirror s0 b3 x1) fun v1 s2 => (if nrm v1 = 0 then (some ((-1), s2)) else (bn (f_X0_isIn s2 x2 0 99) fun v4 s5 => (if nrm v4 = 0 then (some ((-1), s5)) else ((rcv s5 0 (some x0)).bind fun b8 => bn (f_X0_isMan s5 b8 x3) fun v6 s7 => (if nrm v6 = 0 then (some ((-1), s7)) else ((gI s7 0 (some x0) 18).bind fun v9 => (if ¬ nrm v9 = nrm 20 then ((gR s7 0 (some x0) 19).bind fun v10 => (gI s7 0 (some x0) 18).bind fun v11 => (sI s7 100 v10 v11 (nrm x1)).bind fun s12 => (gR s12 0 (some x0) 20).bind fun v13 => (gI s12 0 (some x0) 18).bind fun v14 => (sI s12 100 v13 v14 (nrm x2)).bind fun s15 => (gR s15 0 (some x0) 21).bind fun v16 => (gI s15 0 (some x0) 18).bind fun v17 => (sI s15 100 v16 v17 (nrm x3)).bind fun s18 => (gR s18 0 (some x0) 22).bind fun v19 => (gI s18 0 (some x0) 18).bind fun v20 => (sI s18 102 v19 v20 (b1I x4)).bind fun s21 => (gI s21 0 (some x0) 18).bind fun v22 => (pI s21 0 (some x0) 18 (nrm (v22 + 1))).bind fun s23 => (gI s23 0 (some x0) 18).bind fun v24 => some (nrm (v24 - 1), s23)) else (some ((-1), s7)))))))))
theorem w_X0_tell {σ0 : Hp} {w : Int × Hp} (s0 : Hp) (x0 : Nat) (x1 : Int) (x2 : Int) (x3 : Int) (x4 : Int) (h : f_X0_tell s0 x0 x1 x2 x3 x4 = some w) : AW m_X0_tell σ0 (oI w) 0 [some (rV (some x0)), some (iV x1), some (iV x2), some (iV x3), some (iV x4)] [] s0 := by
  unfold f_X0_tell at h
  refine AW.aload_n dX0_tell_0 rfl ?_
  refine AW.iload_n dX0_tell_1 rfl ?_
  refine AW.VI (M' := m_X0_isMirror) (t := 0) [iV x1] [] dX0_tell_2 q1191 q1193 qs34 q121 q1194 ck0 rfl n_X0_isMirror rfl rfl rfl (fun _ _ _ e => c_X0_isMirror e) h (fun v1 s2 h => ?_)
  refine AW.if_eq 35 dX0_tell_5 (by decide) h (fun c28 h => ?_) (fun c28 h => ?_)
  · refine AW.iconst dX0_tell_35 ?_
    cases h
    exact AW.iret dX0_tell_36 rfl
  · refine AW.iload_n dX0_tell_8 rfl ?_
    refine AW.iconst dX0_tell_9 ?_
    refine AW.bipush dX0_tell_10 (by decide) ?_
    refine AW.SI (M' := m_X0_isIn) [iV x2, iV 0, iV 99] [] dX0_tell_12 q1180 q1181 q121 q1182 n_X0_isIn rfl rfl rfl (fun _ _ e => c_X0_isIn e) h (fun v4 s5 h => ?_)
    refine AW.if_eq 35 dX0_tell_15 (by decide) h (fun c27 h => ?_) (fun c27 h => ?_)
    · refine AW.iconst dX0_tell_35 ?_
      cases h
      exact AW.iret dX0_tell_36 rfl
    · refine AW.aload_n dX0_tell_18 rfl ?_
      refine AW.iload_n dX0_tell_19 rfl ?_
      refine AW.VI (M' := m_X0_isMan) (t := 0) [iV x3] [] dX0_tell_20 q1171 q1173 qs31 q121 q1174 ck0 rfl n_X0_isMan rfl rfl rfl (fun _ _ _ e => c_X0_isMan e) h (fun v6 s7 h => ?_)
      refine AW.if_eq 35 dX0_tell_23 (by decide) h (fun c26 h => ?_) (fun c26 h => ?_)
      · refine AW.iconst dX0_tell_35 ?_
        cases h
        exact AW.iret dX0_tell_36 rfl
      · refine AW.aload_n dX0_tell_26 rfl ?_
        refine AW.getI (t := 0) (k := 18) dX0_tell_27 ck0 (Nat.le_of_ble_eq_true rfl) (fun _ => rfl) q564 (Or.inl rfl) h (fun v9 h => ?_)
        refine AW.bipush dX0_tell_30 (by decide) ?_
        refine AW.icmp_ne 37 dX0_tell_32 (by decide) h (fun c25 h => ?_) (fun c25 h => ?_)
        · refine AW.aload_n dX0_tell_37 rfl ?_
          refine AW.getR (t := 0) (k := 19) dX0_tell_38 ck0 (Nat.le_of_ble_eq_true rfl) (fun _ => rfl) q565 (Or.inl rfl) h (fun v10 h => ?_)
          refine AW.aload_n dX0_tell_41 rfl ?_
          refine AW.getI (t := 0) (k := 18) dX0_tell_42 ck0 (Nat.le_of_ble_eq_true rfl) (fun _ => rfl) q564 (Or.inl rfl) h (fun v11 h => ?_)
          refine AW.iload_n dX0_tell_45 rfl ?_
          refine AW.nv ?_
          refine AW.iast (t := 100) dX0_tell_46 (Nat.le_of_ble_eq_true rfl) mu100 rfl h (fun s12 h => ?_)
          refine AW.aload_n dX0_tell_47 rfl ?_
          refine AW.getR (t := 0) (k := 20) dX0_tell_48 ck0 (Nat.le_of_ble_eq_true rfl) (fun _ => rfl) q566 (Or.inl rfl) h (fun v13 h => ?_)
          refine AW.aload_n dX0_tell_51 rfl ?_
          refine AW.getI (t := 0) (k := 18) dX0_tell_52 ck0 (Nat.le_of_ble_eq_true rfl) (fun _ => rfl) q564 (Or.inl rfl) h (fun v14 h => ?_)
          refine AW.iload_n dX0_tell_55 rfl ?_
          refine AW.nv ?_
          refine AW.iast (t := 100) dX0_tell_56 (Nat.le_of_ble_eq_true rfl) mu100 rfl h (fun s15 h => ?_)
          refine AW.aload_n dX0_tell_57 rfl ?_
          refine AW.getR (t := 0) (k := 21) dX0_tell_58 ck0 (Nat.le_of_ble_eq_true rfl) (fun _ => rfl) q567 (Or.inl rfl) h (fun v16 h => ?_)
          refine AW.aload_n dX0_tell_61 rfl ?_
          refine AW.getI (t := 0) (k := 18) dX0_tell_62 ck0 (Nat.le_of_ble_eq_true rfl) (fun _ => rfl) q564 (Or.inl rfl) h (fun v17 h => ?_)
          refine AW.iload_n dX0_tell_65 rfl ?_
          refine AW.nv ?_
          refine AW.iast (t := 100) dX0_tell_66 (Nat.le_of_ble_eq_true rfl) mu100 rfl h (fun s18 h => ?_)
          refine AW.aload_n dX0_tell_67 rfl ?_
          refine AW.getR (t := 0) (k := 22) dX0_tell_68 ck0 (Nat.le_of_ble_eq_true rfl) (fun _ => rfl) q568 (Or.inl rfl) h (fun v19 h => ?_)
          refine AW.aload_n dX0_tell_71 rfl ?_
          refine AW.getI (t := 0) (k := 18) dX0_tell_72 ck0 (Nat.le_of_ble_eq_true rfl) (fun _ => rfl) q564 (Or.inl rfl) h (fun v20 h => ?_)
          refine AW.iload dX0_tell_75 rfl ?_
          refine AW.zast (t := 102) dX0_tell_77 (Nat.le_of_ble_eq_true rfl) mu102 rfl h (fun s21 h => ?_)
          refine AW.aload_n dX0_tell_78 rfl ?_
          refine AW.dupR dX0_tell_79 ?_
          refine AW.getI (t := 0) (k := 18) dX0_tell_80 ck0 (Nat.le_of_ble_eq_true rfl) (fun _ => rfl) q564 (Or.inl rfl) h (fun v22 h => ?_)
          refine AW.iconst dX0_tell_83 ?_
          refine AW.iadd dX0_tell_84 ?_
          refine AW.nv ?_
          refine AW.putI (t := 0) (k := 18) dX0_tell_85 ck0 mu0 (Nat.le_of_ble_eq_true rfl) rfl q564 (Or.inl rfl) (Or.inl rfl) h (fun s23 h => ?_)
          refine AW.aload_n dX0_tell_88 rfl ?_
          refine AW.getI (t := 0) (k := 18) dX0_tell_89 ck0 (Nat.le_of_ble_eq_true rfl) (fun _ => rfl) q564 (Or.inl rfl) h (fun v24 h => ?_)
          refine AW.iconst dX0_tell_92 ?_
          refine AW.isub dX0_tell_93 ?_
          refine AW.nv ?_
          cases h
          exact AW.iret dX0_tell_94 rfl
        · refine AW.iconst dX0_tell_35 ?_
          cases h
          exact AW.iret dX0_tell_36 rfl
theorem c_X0_tell {s0 : Hp} {x0 : Nat} {x1 : Int} {x2 : Int} {x3 : Int} {x4 : Int} {v : Int} {s1 : Hp} (h : f_X0_tell s0 x0 x1 x2 x3 x4 = some (v, s1)) : Ct m_X0_tell [rV (some x0), iV x1, iV x2, iV x3, iV x4] s0 (.inl (some (iV v)), s1) :=
  Ct.of2 (w_X0_tell s0 x0 x1 x2 x3 x4 h) (show plainName yX0_tell.cls = true by decide) rfl rfl rfl
abbrev m_X0_together : Mi := (yX0_together, cX0_together, (some .int), 7, 3, 61, [])
theorem n_X0_together : nameOk yX0_together 3 := ⟨by decide, by decide, by decide +kernel⟩
def f_X0_together_L42 (x0 : Nat) : Nat → Hp → Int → Int → Int → Int → Int → Int → (Hp → Int → Int → Int → Option (Int × Hp)) → Option (Int × Hp)
  | 0, _, _, _, _, _, _, _, _ => none
  | n + 1, s0, x1, x2, x3, x4, x5, x6, k => (gR s0 0 (some x0) 7).bind fun v9 => (gI s0 5 v9 9).bind fun v10 => (if nrm v10 < nrm x6 then (k s0 x3 x4 x5) else ((gR s0 0 (some x0) 7).bind fun v11 => (gR s0 5 v11 0).bind fun v12 => (aR s0 105 v12 x1).bind fun v13 => (aI s0 101 v13 x6).bind fun v14 => (gR s0 0 (some x0) 7).bind fun v15 => (gR s0 5 v15 0).bind fun v16 => (aR s0 105 v16 x2).bind fun v17 => (aI s0 101 v17 x6).bind fun v18 => (if nrm v14 = nrm v18 then (f_X0_together_L42 x0 n s0 x1 x2 x3 (x4 + 1) x6 (x6 + 1) k) else (f_X0_together_L42 x0 n s0 x1 x2 x3 x4 x5 (x6 + 1) k))))
theorem w_X0_together_L42 {σ0 : Hp} {w : Int × Hp} {x0 : Nat} : ∀ (n : Nat) (s0 : Hp) (x1 : Int) (x2 : Int) (x3 : Int) (x4 : Int) (x5 : Int) (x6 : Int) (k : (Hp → Int → Int → Int → Option (Int × Hp))), f_X0_together_L42 x0 n s0 x1 x2 x3 x4 x5 x6 k = some w → (∀ (s1 : Hp) (x3 : Int) (x4 : Int) (x5 : Int), k s1 x3 x4 x5 = some w → AW m_X0_together σ0 (oI w) 97 [none, none, none, some (iV x3), some (iV x4), some (iV x5), none] [] s1) → AW m_X0_together σ0 (oI w) 42 [some (rV (some x0)), some (iV x1), some (iV x2), some (iV x3), some (iV x4), some (iV x5), some (iV x6)] [] s0 := by
  intro n
  induction n with
  | zero =>
    intro s0 x1 x2 x3 x4 x5 x6 k h hk
    rw [f_X0_together_L42] at h
    cases h
  | succ n ih =>
    intro s0 x1 x2 x3 x4 x5 x6 k h hk
    rw [f_X0_together_L42] at h
    refine AW.iload dX0_together_42 rfl ?_
    refine AW.aload_n dX0_together_44 rfl ?_
    refine AW.getR (t := 0) (k := 7) dX0_together_45 ck0 (Nat.le_of_ble_eq_true rfl) (fun _ => rfl) q553 (Or.inl rfl) h (fun v9 h => ?_)
    refine AW.getI (t := 5) (k := 9) dX0_together_48 ck5 (Nat.le_of_ble_eq_true rfl) (fun _ => rfl) q437 (Or.inl rfl) h (fun v10 h => ?_)
    refine AW.icmp_gt 97 dX0_together_51 (by decide) h (fun c20 h => ?_) (fun c20 h => ?_)
    · exact AW.fewer (L' := [none, none, none, some (iV x3), some (iV x4), some (iV x5), none]) (And.intro rfl (And.intro rfl (And.intro rfl trivial))) (hk _ _ _ _ h)
    · refine AW.aload_n dX0_together_54 rfl ?_
      refine AW.getR (t := 0) (k := 7) dX0_together_55 ck0 (Nat.le_of_ble_eq_true rfl) (fun _ => rfl) q553 (Or.inl rfl) h (fun v11 h => ?_)
      refine AW.getR (t := 5) (k := 0) dX0_together_58 ck5 (Nat.le_of_ble_eq_true rfl) (fun _ => rfl) q422 (Or.inl rfl) h (fun v12 h => ?_)
      refine AW.iload_n dX0_together_61 rfl ?_
      refine AW.aald (t := 105) dX0_together_62 (Nat.le_of_ble_eq_true rfl) rfl (fun _ _ => rfl) h (fun v13 h => ?_)
      refine AW.iload dX0_together_63 rfl ?_
      refine AW.bald (t := 101) dX0_together_65 (Nat.le_of_ble_eq_true rfl) rfl h (fun v14 h => ?_)
      refine AW.aload_n dX0_together_66 rfl ?_
      refine AW.getR (t := 0) (k := 7) dX0_together_67 ck0 (Nat.le_of_ble_eq_true rfl) (fun _ => rfl) q553 (Or.inl rfl) h (fun v15 h => ?_)
      refine AW.getR (t := 5) (k := 0) dX0_together_70 ck5 (Nat.le_of_ble_eq_true rfl) (fun _ => rfl) q422 (Or.inl rfl) h (fun v16 h => ?_)
      refine AW.iload_n dX0_together_73 rfl ?_
      refine AW.aald (t := 105) dX0_together_74 (Nat.le_of_ble_eq_true rfl) rfl (fun _ _ => rfl) h (fun v17 h => ?_)
      refine AW.iload dX0_together_75 rfl ?_
      refine AW.bald (t := 101) dX0_together_77 (Nat.le_of_ble_eq_true rfl) rfl h (fun v18 h => ?_)
      refine AW.icmp_eq 84 dX0_together_78 (by decide) h (fun c19 h => ?_) (fun c19 h => ?_)
      · refine AW.iinc (L' := [some (rV (some x0)), some (iV x1), some (iV x2), some (iV x3), some (iV (x4 + 1)), some (iV x5), some (iV x6)]) dX0_together_84 rfl (Nat.le_of_ble_eq_true rfl) rfl rfl ?_
        refine AW.iload dX0_together_87 rfl ?_
        refine AW.istore (L' := [some (rV (some x0)), some (iV x1), some (iV x2), some (iV x3), some (iV (x4 + 1)), some (iV x6), some (iV x6)]) dX0_together_89 (Nat.le_of_ble_eq_true rfl) rfl rfl ?_
        refine AW.iinc (L' := [some (rV (some x0)), some (iV x1), some (iV x2), some (iV x3), some (iV (x4 + 1)), some (iV x6), some (iV (x6 + 1))]) dX0_together_91 rfl (Nat.le_of_ble_eq_true rfl) rfl rfl ?_
        refine AW.goto (tgt := 42) dX0_together_94 (by decide) ?_
        exact ih _ _ _ _ _ _ _ _ h hk
      · refine AW.goto (tgt := 91) dX0_together_81 (by decide) ?_
        refine AW.iinc (L' := [some (rV (some x0)), some (iV x1), some (iV x2), some (iV x3), some (iV x4), some (iV x5), some (iV (x6 + 1))]) dX0_together_91 rfl (Nat.le_of_ble_eq_true rfl) rfl rfl ?_
        refine AW.goto (tgt := 42) dX0_together_94 (by decide) ?_
        exact ih _ _ _ _ _ _ _ _ h hk
def f_X0_together (s0 : Hp) (x0 : Nat) (x1 : Int) (x2 : Int) (x3 : Int) : Option (Int × Hp) :=
  (rcv s0 0 (some x0)).bind fun b3 => bn (f_X0_isMan s0 b3 x1) fun v1 s2 => (if nrm v1 = 0 then (some ((-1), s2)) else ((rcv s2 0 (some x0)).bind fun b6 => bn (f_X0_isMan s2 b6 x2) fun v4 s5 => (if nrm v4 = 0 then (some ((-1), s5)) else ((if nrm x1 = nrm x2 then (some ((-1), s5)) else (bn (f_X0_isIn s5 x3 0 1) fun v7 s8 => (if ¬ nrm v7 = 0 then (f_X0_together_L42 x0 FU s8 x1 x2 x3 0 (-2) 0 (fun s21 x3 x4 x5 => (if ¬ nrm x3 = 0 then (some (nrm x5, s21)) else (some (nrm x4, s21))))) else (some ((-1), s8)))))))))
theorem w_X0_together {σ0 : Hp} {w : Int × Hp} (s0 : Hp) (x0 : Nat) (x1 : Int) (x2 : Int) (x3 : Int) (h : f_X0_together s0 x0 x1 x2 x3 = some w) : AW m_X0_together σ0 (oI w) 0 [some (rV (some x0)), some (iV x1), some (iV x2), some (iV x3), none, none, none] [] s0 := by
  unfold f_X0_together at h
  refine AW.aload_n dX0_together_0 rfl ?_
  refine AW.iload_n dX0_together_1 rfl ?_
  refine AW.VI (M' := m_X0_isMan) (t := 0) [iV x1] [] dX0_together_2 q1171 q1173 qs31 q121 q1174 ck0 rfl n_X0_isMan rfl rfl rfl (fun _ _ _ e => c_X0_isMan e) h (fun v1 s2 h => ?_)
  refine AW.if_eq 30 dX0_together_5 (by decide) h (fun c26 h => ?_) (fun c26 h => ?_)
  · refine AW.iconst dX0_together_30 ?_
    cases h
    exact AW.iret dX0_together_31 rfl
  · refine AW.aload_n dX0_together_8 rfl ?_
    refine AW.iload_n dX0_together_9 rfl ?_
    refine AW.VI (M' := m_X0_isMan) (t := 0) [iV x2] [] dX0_together_10 q1171 q1173 qs31 q121 q1174 ck0 rfl n_X0_isMan rfl rfl rfl (fun _ _ _ e => c_X0_isMan e) h (fun v4 s5 h => ?_)
    refine AW.if_eq 30 dX0_together_13 (by decide) h (fun c25 h => ?_) (fun c25 h => ?_)
    · refine AW.iconst dX0_together_30 ?_
      cases h
      exact AW.iret dX0_together_31 rfl
    · refine AW.iload_n dX0_together_16 rfl ?_
      refine AW.iload_n dX0_together_17 rfl ?_
      refine AW.icmp_eq 30 dX0_together_18 (by decide) h (fun c24 h => ?_) (fun c24 h => ?_)
      · refine AW.iconst dX0_together_30 ?_
        cases h
        exact AW.iret dX0_together_31 rfl
      · refine AW.iload_n dX0_together_21 rfl ?_
        refine AW.iconst dX0_together_22 ?_
        refine AW.iconst dX0_together_23 ?_
        refine AW.SI (M' := m_X0_isIn) [iV x3, iV 0, iV 1] [] dX0_together_24 q1180 q1181 q121 q1182 n_X0_isIn rfl rfl rfl (fun _ _ e => c_X0_isIn e) h (fun v7 s8 h => ?_)
        refine AW.if_ne 32 dX0_together_27 (by decide) h (fun c23 h => ?_) (fun c23 h => ?_)
        · refine AW.iconst dX0_together_32 ?_
          refine AW.istore (L' := [some (rV (some x0)), some (iV x1), some (iV x2), some (iV x3), some (iV 0), none, none]) dX0_together_33 (Nat.le_of_ble_eq_true rfl) rfl rfl ?_
          refine AW.bipush dX0_together_35 (by decide) ?_
          refine AW.istore (L' := [some (rV (some x0)), some (iV x1), some (iV x2), some (iV x3), some (iV 0), some (iV (-2)), none]) dX0_together_37 (Nat.le_of_ble_eq_true rfl) rfl rfl ?_
          refine AW.iconst dX0_together_39 ?_
          refine AW.istore (L' := [some (rV (some x0)), some (iV x1), some (iV x2), some (iV x3), some (iV 0), some (iV (-2)), some (iV 0)]) dX0_together_40 (Nat.le_of_ble_eq_true rfl) rfl rfl ?_
          refine w_X0_together_L42 _ _ _ _ _ _ _ _ _ h (fun s21 x3 x4 x5 h => ?_)
          refine AW.iload_n dX0_together_97 rfl ?_
          refine AW.if_ne 106 dX0_together_98 (by decide) h (fun c22 h => ?_) (fun c22 h => ?_)
          · refine AW.iload dX0_together_106 rfl ?_
            refine AW.nv ?_
            cases h
            exact AW.iret dX0_together_108 rfl
          · refine AW.iload dX0_together_101 rfl ?_
            refine AW.goto (tgt := 108) dX0_together_103 (by decide) ?_
            refine AW.nv ?_
            cases h
            exact AW.iret dX0_together_108 rfl
        · refine AW.iconst dX0_together_30 ?_
          cases h
          exact AW.iret dX0_together_31 rfl
theorem c_X0_together {s0 : Hp} {x0 : Nat} {x1 : Int} {x2 : Int} {x3 : Int} {v : Int} {s1 : Hp} (h : f_X0_together s0 x0 x1 x2 x3 = some (v, s1)) : Ct m_X0_together [rV (some x0), iV x1, iV x2, iV x3] s0 (.inl (some (iV v)), s1) :=
  Ct.of2 (w_X0_together s0 x0 x1 x2 x3 h) (show plainName yX0_together.cls = true by decide) rfl rfl rfl
abbrev m_X0_turn : Mi := (yX0_turn, cX0_turn, (some .boolean), 3, 3, 122, [])
theorem n_X0_turn : nameOk yX0_turn 2 := ⟨by decide, by decide, by decide +kernel⟩
def f_X0_turn (s0 : Hp) (x0 : Nat) (x1 : Int) (x2 : Int) : Option (Int × Hp) :=
  (rcv s0 0 (some x0)).bind fun b3 => bn (f_X0_isMirror s0 b3 x1) fun v1 s2 => (if nrm v1 = 0 then (some (0, s2)) else ((gR s2 0 (some x0) 7).bind fun v4 => (gR s2 5 v4 3).bind fun v5 => (aR s2 106 v5 x1).bind fun v6 => (gR s2 0 (some x0) 7).bind fun v7 => (gI s2 5 v7 9).bind fun v8 => (aI s2 102 v6 v8).bind fun v9 => (if ¬ nrm v9 = nrm x2 then ((rcv s2 0 (some x0)).bind fun b11 => bn (f_X0_keeps s2 b11) fun _ s10 => (gR s10 0 (some x0) 7).bind fun v12 => (gR s10 5 v12 3).bind fun v13 => (aR s10 106 v13 x1).bind fun v14 => (gR s10 0 (some x0) 7).bind fun v15 => (gI s10 5 v15 9).bind fun v16 => (sI s10 102 v14 v16 (b1I x2)).bind fun s17 => some (1, s17)) else (some (0, s2)))))
theorem w_X0_turn {σ0 : Hp} {w : Int × Hp} (s0 : Hp) (x0 : Nat) (x1 : Int) (x2 : Int) (h : f_X0_turn s0 x0 x1 x2 = some w) : AW m_X0_turn σ0 (oI w) 0 [some (rV (some x0)), some (iV x1), some (iV x2)] [] s0 := by
  unfold f_X0_turn at h
  refine AW.aload_n dX0_turn_0 rfl ?_
  refine AW.iload_n dX0_turn_1 rfl ?_
  refine AW.VI (M' := m_X0_isMirror) (t := 0) [iV x1] [] dX0_turn_2 q1191 q1193 qs34 q121 q1194 ck0 rfl n_X0_isMirror rfl rfl rfl (fun _ _ _ e => c_X0_isMirror e) h (fun v1 s2 h => ?_)
  refine AW.if_eq 29 dX0_turn_5 (by decide) h (fun c19 h => ?_) (fun c19 h => ?_)
  · refine AW.iconst dX0_turn_29 ?_
    cases h
    exact AW.zret (z := 0) dX0_turn_30 rfl zz0
  · refine AW.aload_n dX0_turn_8 rfl ?_
    refine AW.getR (t := 0) (k := 7) dX0_turn_9 ck0 (Nat.le_of_ble_eq_true rfl) (fun _ => rfl) q553 (Or.inl rfl) h (fun v4 h => ?_)
    refine AW.getR (t := 5) (k := 3) dX0_turn_12 ck5 (Nat.le_of_ble_eq_true rfl) (fun _ => rfl) q429 (Or.inl rfl) h (fun v5 h => ?_)
    refine AW.iload_n dX0_turn_15 rfl ?_
    refine AW.aald (t := 106) dX0_turn_16 (Nat.le_of_ble_eq_true rfl) rfl (fun _ _ => rfl) h (fun v6 h => ?_)
    refine AW.aload_n dX0_turn_17 rfl ?_
    refine AW.getR (t := 0) (k := 7) dX0_turn_18 ck0 (Nat.le_of_ble_eq_true rfl) (fun _ => rfl) q553 (Or.inl rfl) h (fun v7 h => ?_)
    refine AW.getI (t := 5) (k := 9) dX0_turn_21 ck5 (Nat.le_of_ble_eq_true rfl) (fun _ => rfl) q437 (Or.inl rfl) h (fun v8 h => ?_)
    refine AW.zald (t := 102) dX0_turn_24 (Nat.le_of_ble_eq_true rfl) rfl h (fun v9 h => ?_)
    refine AW.iload_n dX0_turn_25 rfl ?_
    refine AW.icmp_ne 31 dX0_turn_26 (by decide) h (fun c18 h => ?_) (fun c18 h => ?_)
    · refine AW.aload_n dX0_turn_31 rfl ?_
      refine AW.VU (M' := m_X0_keeps) (t := 0) [] [] dX0_turn_32 q1217 q1219 qs36 q121 q1220 ck0 rfl n_X0_keeps rfl rfl rfl (fun _ _ _ e => c_X0_keeps e) h (fun _ s10 h => ?_)
      refine AW.aload_n dX0_turn_35 rfl ?_
      refine AW.getR (t := 0) (k := 7) dX0_turn_36 ck0 (Nat.le_of_ble_eq_true rfl) (fun _ => rfl) q553 (Or.inl rfl) h (fun v12 h => ?_)
      refine AW.getR (t := 5) (k := 3) dX0_turn_39 ck5 (Nat.le_of_ble_eq_true rfl) (fun _ => rfl) q429 (Or.inl rfl) h (fun v13 h => ?_)
      refine AW.iload_n dX0_turn_42 rfl ?_
      refine AW.aald (t := 106) dX0_turn_43 (Nat.le_of_ble_eq_true rfl) rfl (fun _ _ => rfl) h (fun v14 h => ?_)
      refine AW.aload_n dX0_turn_44 rfl ?_
      refine AW.getR (t := 0) (k := 7) dX0_turn_45 ck0 (Nat.le_of_ble_eq_true rfl) (fun _ => rfl) q553 (Or.inl rfl) h (fun v15 h => ?_)
      refine AW.getI (t := 5) (k := 9) dX0_turn_48 ck5 (Nat.le_of_ble_eq_true rfl) (fun _ => rfl) q437 (Or.inl rfl) h (fun v16 h => ?_)
      refine AW.iload_n dX0_turn_51 rfl ?_
      refine AW.zast (t := 102) dX0_turn_52 (Nat.le_of_ble_eq_true rfl) mu102 rfl h (fun s17 h => ?_)
      refine AW.iconst dX0_turn_53 ?_
      cases h
      exact AW.zret (z := 1) dX0_turn_54 rfl zz1
    · refine AW.iconst dX0_turn_29 ?_
      cases h
      exact AW.zret (z := 0) dX0_turn_30 rfl zz0
theorem c_X0_turn {s0 : Hp} {x0 : Nat} {x1 : Int} {x2 : Int} {v : Int} {s1 : Hp} (h : f_X0_turn s0 x0 x1 x2 = some (v, s1)) : Ct m_X0_turn [rV (some x0), iV x1, iV x2] s0 (.inl (some (iV v)), s1) :=
  Ct.of2 (w_X0_turn s0 x0 x1 x2 h) (show plainName yX0_turn.cls = true by decide) rfl rfl rfl
abbrev m_X0_turned : Mi := (yX0_turned, cX0_turned, (some .int), 5, 419, 24858, [])
theorem n_X0_turned : nameOk yX0_turned 2 := ⟨by decide, by decide, by decide +kernel⟩
def f_X0_turned_L28 (x0 : Nat) : Nat → Hp → Int → Int → Int → Int → (Hp → Int → Int → Option (Int × Hp)) → Option (Int × Hp)
  | 0, _, _, _, _, _, _ => none
  | n + 1, s0, x1, x2, x3, x4, k => (rcv s0 0 (some x0)).bind fun b10 => bn (f_X0_mirrors s0 b10) fun v8 s9 => (if nrm v8 ≤ nrm x4 then (k s9 x2 x3) else ((rcv s9 0 (some x0)).bind fun b13 => bn (f_X0_shownIn s9 b13 x4 x1 300) fun v11 s12 => (if nrm v11 ≤ 0 then (f_X0_turned_L28 x0 n s12 x1 x2 (orI x3 0) (x4 + 1) k) else (f_X0_turned_L28 x0 n s12 x1 x2 (orI x3 (slI 1 x4)) (x4 + 1) k))))
theorem w_X0_turned_L28 {σ0 : Hp} {w : Int × Hp} {x0 : Nat} : ∀ (n : Nat) (s0 : Hp) (x1 : Int) (x2 : Int) (x3 : Int) (x4 : Int) (k : (Hp → Int → Int → Option (Int × Hp))), f_X0_turned_L28 x0 n s0 x1 x2 x3 x4 k = some w → (∀ (s1 : Hp) (x2 : Int) (x3 : Int), k s1 x2 x3 = some w → AW m_X0_turned σ0 (oI w) 67 [none, none, some (iV x2), some (iV x3), none] [] s1) → AW m_X0_turned σ0 (oI w) 28 [some (rV (some x0)), some (iV x1), some (iV x2), some (iV x3), some (iV x4)] [] s0 := by
  intro n
  induction n with
  | zero =>
    intro s0 x1 x2 x3 x4 k h hk
    rw [f_X0_turned_L28] at h
    cases h
  | succ n ih =>
    intro s0 x1 x2 x3 x4 k h hk
    rw [f_X0_turned_L28] at h
    refine AW.iload dX0_turned_28 rfl ?_
    refine AW.aload_n dX0_turned_30 rfl ?_
    refine AW.VI (M' := m_X0_mirrors) (t := 0) [] [iV x4] dX0_turned_31 q1195 q1197 qs35 q121 q1198 ck0 rfl n_X0_mirrors rfl rfl rfl (fun _ _ _ e => c_X0_mirrors e) h (fun v8 s9 h => ?_)
    refine AW.icmp_ge 67 dX0_turned_34 (by decide) h (fun c15 h => ?_) (fun c15 h => ?_)
    · exact AW.fewer (L' := [none, none, some (iV x2), some (iV x3), none]) (And.intro rfl (And.intro rfl trivial)) (hk _ _ _ h)
    · refine AW.iload_n dX0_turned_37 rfl ?_
      refine AW.aload_n dX0_turned_38 rfl ?_
      refine AW.iload dX0_turned_39 rfl ?_
      refine AW.iload_n dX0_turned_41 rfl ?_
      refine AW.sipush dX0_turned_42 (by decide) ?_
      refine AW.VI (M' := m_X0_shownIn) (t := 0) [iV x4, iV x1, iV 300] [iV x3] dX0_turned_45 q1394 q1396 qs46 q121 q1397 ck0 rfl n_X0_shownIn rfl rfl rfl (fun _ _ _ e => c_X0_shownIn e) h (fun v11 s12 h => ?_)
      refine AW.if_le 58 dX0_turned_48 (by decide) h (fun c14 h => ?_) (fun c14 h => ?_)
      · refine AW.iconst dX0_turned_58 ?_
        refine AW.ior dX0_turned_59 ?_
        refine AW.istore_n (L' := [some (rV (some x0)), some (iV x1), some (iV x2), some (iV (orI x3 0)), some (iV x4)]) dX0_turned_60 (Nat.le_of_ble_eq_true rfl) rfl rfl ?_
        refine AW.iinc (L' := [some (rV (some x0)), some (iV x1), some (iV x2), some (iV (orI x3 0)), some (iV (x4 + 1))]) dX0_turned_61 rfl (Nat.le_of_ble_eq_true rfl) rfl rfl ?_
        refine AW.goto (tgt := 28) dX0_turned_64 (by decide) ?_
        exact ih _ _ _ _ _ _ h hk
      · refine AW.iconst dX0_turned_51 ?_
        refine AW.iload dX0_turned_52 rfl ?_
        refine AW.ishl dX0_turned_54 ?_
        refine AW.goto (tgt := 59) dX0_turned_55 (by decide) ?_
        refine AW.ior dX0_turned_59 ?_
        refine AW.istore_n (L' := [some (rV (some x0)), some (iV x1), some (iV x2), some (iV (orI x3 (slI 1 x4))), some (iV x4)]) dX0_turned_60 (Nat.le_of_ble_eq_true rfl) rfl rfl ?_
        refine AW.iinc (L' := [some (rV (some x0)), some (iV x1), some (iV x2), some (iV (orI x3 (slI 1 x4))), some (iV (x4 + 1))]) dX0_turned_61 rfl (Nat.le_of_ble_eq_true rfl) rfl rfl ?_
        refine AW.goto (tgt := 28) dX0_turned_64 (by decide) ?_
        exact ih _ _ _ _ _ _ h hk
def f_X0_turned (s0 : Hp) (x0 : Nat) (x1 : Int) (x2 : Int) : Option (Int × Hp) :=
  (rcv s0 0 (some x0)).bind fun b3 => bn (f_X0_isMan s0 b3 x1) fun v1 s2 => (if nrm v1 = 0 then (some ((-1), s2)) else (bn (f_X0_isIn s2 x2 0 1) fun v4 s5 => (if ¬ nrm v4 = 0 then ((rcv s5 0 (some x0)).bind fun b7 => bn (f_X0_goesToEnd s5 b7) fun _ s6 => f_X0_turned_L28 x0 FU s6 x1 x2 0 0 (fun s16 x2 x3 => (if ¬ nrm x2 = 0 then (some (nrm x3, s16)) else (bn (f_J8_bitCount s16 x3) fun v17 s18 => some (v17, s18))))) else (some ((-1), s5)))))
theorem w_X0_turned {σ0 : Hp} {w : Int × Hp} (s0 : Hp) (x0 : Nat) (x1 : Int) (x2 : Int) (h : f_X0_turned s0 x0 x1 x2 = some w) : AW m_X0_turned σ0 (oI w) 0 [some (rV (some x0)), some (iV x1), some (iV x2), none, none] [] s0 := by
  unfold f_X0_turned at h
  refine AW.aload_n dX0_turned_0 rfl ?_
  refine AW.iload_n dX0_turned_1 rfl ?_
  refine AW.VI (M' := m_X0_isMan) (t := 0) [iV x1] [] dX0_turned_2 q1171 q1173 qs31 q121 q1174 ck0 rfl n_X0_isMan rfl rfl rfl (fun _ _ _ e => c_X0_isMan e) h (fun v1 s2 h => ?_)
  refine AW.if_eq 17 dX0_turned_5 (by decide) h (fun c21 h => ?_) (fun c21 h => ?_)
  · refine AW.iconst dX0_turned_17 ?_
    cases h
    exact AW.iret dX0_turned_18 rfl
  · refine AW.iload_n dX0_turned_8 rfl ?_
    refine AW.iconst dX0_turned_9 ?_
    refine AW.iconst dX0_turned_10 ?_
    refine AW.SI (M' := m_X0_isIn) [iV x2, iV 0, iV 1] [] dX0_turned_11 q1180 q1181 q121 q1182 n_X0_isIn rfl rfl rfl (fun _ _ e => c_X0_isIn e) h (fun v4 s5 h => ?_)
    refine AW.if_ne 19 dX0_turned_14 (by decide) h (fun c20 h => ?_) (fun c20 h => ?_)
    · refine AW.iconst dX0_turned_19 ?_
      refine AW.istore_n (L' := [some (rV (some x0)), some (iV x1), some (iV x2), some (iV 0), none]) dX0_turned_20 (Nat.le_of_ble_eq_true rfl) rfl rfl ?_
      refine AW.aload_n dX0_turned_21 rfl ?_
      refine AW.VU (M' := m_X0_goesToEnd) (t := 0) [] [] dX0_turned_22 q1378 q1380 qs44 q121 q1381 ck0 rfl n_X0_goesToEnd rfl rfl rfl (fun _ _ _ e => c_X0_goesToEnd e) h (fun _ s6 h => ?_)
      refine AW.iconst dX0_turned_25 ?_
      refine AW.istore (L' := [some (rV (some x0)), some (iV x1), some (iV x2), some (iV 0), some (iV 0)]) dX0_turned_26 (Nat.le_of_ble_eq_true rfl) rfl rfl ?_
      refine w_X0_turned_L28 _ _ _ _ _ _ _ h (fun s16 x2 x3 h => ?_)
      refine AW.iload_n dX0_turned_67 rfl ?_
      refine AW.if_ne 78 dX0_turned_68 (by decide) h (fun c19 h => ?_) (fun c19 h => ?_)
      · refine AW.iload_n dX0_turned_78 rfl ?_
        refine AW.nv ?_
        cases h
        exact AW.iret dX0_turned_79 rfl
      · refine AW.iload_n dX0_turned_71 rfl ?_
        refine AW.SI (M' := m_J8_bitCount) [iV x3] [] dX0_turned_72 q1368 q518 q137 q519 n_J8_bitCount rfl rfl rfl (fun _ _ e => c_J8_bitCount e) h (fun v17 s18 h => ?_)
        refine AW.goto (tgt := 79) dX0_turned_75 (by decide) ?_
        cases h
        exact AW.iret dX0_turned_79 rfl
    · refine AW.iconst dX0_turned_17 ?_
      cases h
      exact AW.iret dX0_turned_18 rfl
theorem c_X0_turned {s0 : Hp} {x0 : Nat} {x1 : Int} {x2 : Int} {v : Int} {s1 : Hp} (h : f_X0_turned s0 x0 x1 x2 = some (v, s1)) : Ct m_X0_turned [rV (some x0), iV x1, iV x2] s0 (.inl (some (iV v)), s1) :=
  Ct.of2 (w_X0_turned s0 x0 x1 x2 h) (show plainName yX0_turned.cls = true by decide) rfl rfl rfl
abbrev m_X0_undo : Mi := (yX0_undo, cX0_undo, (some .boolean), 1, 2, 102, [])
theorem n_X0_undo : nameOk yX0_undo 0 := ⟨by decide, by decide, by decide +kernel⟩
def f_X0_undo (s0 : Hp) (x0 : Nat) : Option (Int × Hp) :=
  (gI s0 0 (some x0) 5).bind fun v1 => (if ¬ nrm v1 = 0 then ((gI s0 0 (some x0) 5).bind fun v2 => (pI s0 0 (some x0) 5 (nrm (v2 - 1))).bind fun s3 => (gI s3 0 (some x0) 6).bind fun v4 => (pI s3 0 (some x0) 6 (rmI ((v4 + 20) - 1) 20)).bind fun s5 => (gR s5 0 (some x0) 7).bind fun v6 => (gR s5 0 (some x0) 9).bind fun v7 => (gI s5 0 (some x0) 6).bind fun v8 => (aR s5 110 v7 v8).bind fun v9 => (rcv s5 5 v6).bind fun b11 => bn (f_X5_takes s5 b11 v9) fun _ s10 => some (1, s10)) else (some (0, s0)))
theorem w_X0_undo {σ0 : Hp} {w : Int × Hp} (s0 : Hp) (x0 : Nat) (h : f_X0_undo s0 x0 = some w) : AW m_X0_undo σ0 (oI w) 0 [some (rV (some x0))] [] s0 := by
  unfold f_X0_undo at h
  refine AW.aload_n dX0_undo_0 rfl ?_
  refine AW.getI (t := 0) (k := 5) dX0_undo_1 ck0 (Nat.le_of_ble_eq_true rfl) (fun _ => rfl) q551 (Or.inl rfl) h (fun v1 h => ?_)
  refine AW.if_ne 9 dX0_undo_4 (by decide) h (fun c12 h => ?_) (fun c12 h => ?_)
  · refine AW.aload_n dX0_undo_9 rfl ?_
    refine AW.dupR dX0_undo_10 ?_
    refine AW.getI (t := 0) (k := 5) dX0_undo_11 ck0 (Nat.le_of_ble_eq_true rfl) (fun _ => rfl) q551 (Or.inl rfl) h (fun v2 h => ?_)
    refine AW.iconst dX0_undo_14 ?_
    refine AW.isub dX0_undo_15 ?_
    refine AW.nv ?_
    refine AW.putI (t := 0) (k := 5) dX0_undo_16 ck0 mu0 (Nat.le_of_ble_eq_true rfl) rfl q551 (Or.inl rfl) (Or.inl rfl) h (fun s3 h => ?_)
    refine AW.aload_n dX0_undo_19 rfl ?_
    refine AW.aload_n dX0_undo_20 rfl ?_
    refine AW.getI (t := 0) (k := 6) dX0_undo_21 ck0 (Nat.le_of_ble_eq_true rfl) (fun _ => rfl) q552 (Or.inl rfl) h (fun v4 h => ?_)
    refine AW.bipush dX0_undo_24 (by decide) ?_
    refine AW.iadd dX0_undo_26 ?_
    refine AW.iconst dX0_undo_27 ?_
    refine AW.isub dX0_undo_28 ?_
    refine AW.bipush dX0_undo_29 (by decide) ?_
    refine AW.irem dX0_undo_31 (by decide) ?_
    refine AW.putI (t := 0) (k := 6) dX0_undo_32 ck0 mu0 (Nat.le_of_ble_eq_true rfl) rfl q552 (Or.inl rfl) (Or.inl rfl) h (fun s5 h => ?_)
    refine AW.aload_n dX0_undo_35 rfl ?_
    refine AW.getR (t := 0) (k := 7) dX0_undo_36 ck0 (Nat.le_of_ble_eq_true rfl) (fun _ => rfl) q553 (Or.inl rfl) h (fun v6 h => ?_)
    refine AW.aload_n dX0_undo_39 rfl ?_
    refine AW.getR (t := 0) (k := 9) dX0_undo_40 ck0 (Nat.le_of_ble_eq_true rfl) (fun _ => rfl) q555 (Or.inl rfl) h (fun v7 h => ?_)
    refine AW.aload_n dX0_undo_43 rfl ?_
    refine AW.getI (t := 0) (k := 6) dX0_undo_44 ck0 (Nat.le_of_ble_eq_true rfl) (fun _ => rfl) q552 (Or.inl rfl) h (fun v8 h => ?_)
    refine AW.aald (t := 110) dX0_undo_47 (Nat.le_of_ble_eq_true rfl) rfl (fun _ _ => rfl) h (fun v9 h => ?_)
    refine AW.VU (M' := m_X5_takes) (t := 5) [rV v9] [] dX0_undo_48 q1221 q1222 q1223 q132 q1224 ck5 rfl n_X5_takes rfl rfl rfl (fun _ _ _ e => c_X5_takes e) h (fun _ s10 h => ?_)
    refine AW.iconst dX0_undo_51 ?_
    cases h
    exact AW.zret (z := 1) dX0_undo_52 rfl zz1
  · refine AW.iconst dX0_undo_7 ?_
    cases h
    exact AW.zret (z := 0) dX0_undo_8 rfl zz0
theorem c_X0_undo {s0 : Hp} {x0 : Nat} {v : Int} {s1 : Hp} (h : f_X0_undo s0 x0 = some (v, s1)) : Ct m_X0_undo [rV (some x0)] s0 (.inl (some (iV v)), s1) :=
  Ct.of2 (w_X0_undo s0 x0 h) (show plainName yX0_undo.cls = true by decide) rfl rfl rfl
abbrev m_X0_view : Mi := (yX0_view, cX0_view, (some .int), 8, 419, 24858, [])
theorem n_X0_view : nameOk yX0_view 4 := ⟨by decide, by decide, by decide +kernel⟩
def f_X0_view_L81 (x0 : Nat) : Nat → Hp → Int → Int → Int → Int → Int → (Hp → Int → Int → Int → Int → Option (Int × Hp)) → Option (Int × Hp)
  | 0, _, _, _, _, _, _, _ => none
  | n + 1, s0, x2, x3, x4, x5, x6, k => (rcv s0 0 (some x0)).bind fun b26 => bn (f_X0_mirrors s0 b26) fun v24 s25 => (if nrm v24 ≤ nrm x6 then (k s25 x2 x3 x4 x5) else ((gR s25 0 (some x0) 8).bind fun v27 => (rcv s25 5 v27).bind fun b30 => bn (f_X5_shows s25 b30 x6 x5) fun v28 s29 => (if ¬ nrm v28 = nrm x3 then (f_X0_view_L81 x0 n s29 x2 x3 x4 x5 (x6 + 1) k) else ((gR s29 0 (some x0) 8).bind fun v31 => (gR s29 5 v31 2).bind fun v32 => (aR s29 105 v32 x6).bind fun v33 => (aI s29 101 v33 v28).bind fun v34 => (if ¬ nrm v34 = nrm x2 then (f_X0_view_L81 x0 n s29 x2 x3 x4 x5 (x6 + 1) k) else ((gR s29 0 (some x0) 17).bind fun v35 => (gR s29 0 (some x0) 8).bind fun v36 => (gR s29 5 v36 2).bind fun v37 => (aR s29 105 v37 x6).bind fun v38 => (aI s29 101 v38 x5).bind fun v39 => (aI s29 100 v35 v39).bind fun v40 => (gR s29 0 (some x0) 7).bind fun v41 => (gI s29 5 v41 9).bind fun v42 => (if nrm (x5 - v42) < nrm v40 then (f_X0_view_L81 x0 n s29 x2 x3 x4 x5 (x6 + 1) k) else ((if ¬ nrm x4 = 0 then (some (nrm x6, s29)) else (some (nrm x5, s29)))))))))))
theorem w_X0_view_L81 {σ0 : Hp} {w : Int × Hp} {x0 : Nat} : ∀ (n : Nat) (s0 : Hp) (x2 : Int) (x3 : Int) (x4 : Int) (x5 : Int) (x6 : Int) (k : (Hp → Int → Int → Int → Int → Option (Int × Hp))), f_X0_view_L81 x0 n s0 x2 x3 x4 x5 x6 k = some w → (∀ (s1 : Hp) (x2 : Int) (x3 : Int) (x4 : Int) (x5 : Int), k s1 x2 x3 x4 x5 = some w → AW m_X0_view σ0 (oI w) 176 [some (rV (some x0)), none, some (iV x2), some (iV x3), some (iV x4), some (iV x5), none, none] [] s1) → AW m_X0_view σ0 (oI w) 81 [some (rV (some x0)), none, some (iV x2), some (iV x3), some (iV x4), some (iV x5), some (iV x6), none] [] s0 := by
  intro n
  induction n with
  | zero =>
    intro s0 x2 x3 x4 x5 x6 k h hk
    rw [f_X0_view_L81] at h
    cases h
  | succ n ih =>
    intro s0 x2 x3 x4 x5 x6 k h hk
    rw [f_X0_view_L81] at h
    refine AW.iload dX0_view_81 rfl ?_
    refine AW.aload_n dX0_view_83 rfl ?_
    refine AW.VI (M' := m_X0_mirrors) (t := 0) [] [iV x6] dX0_view_84 q1195 q1197 qs35 q121 q1198 ck0 rfl n_X0_mirrors rfl rfl rfl (fun _ _ _ e => c_X0_mirrors e) h (fun v24 s25 h => ?_)
    refine AW.icmp_ge 176 dX0_view_87 (by decide) h (fun c47 h => ?_) (fun c47 h => ?_)
    · exact AW.fewer (L' := [some (rV (some x0)), none, some (iV x2), some (iV x3), some (iV x4), some (iV x5), none, none]) (And.intro rfl (And.intro rfl (And.intro rfl (And.intro rfl (And.intro rfl trivial))))) (hk _ _ _ _ _ h)
    · refine AW.aload_n dX0_view_90 rfl ?_
      refine AW.getR (t := 0) (k := 8) dX0_view_91 ck0 (Nat.le_of_ble_eq_true rfl) (fun _ => rfl) q554 (Or.inl rfl) h (fun v27 h => ?_)
      refine AW.iload dX0_view_94 rfl ?_
      refine AW.iload dX0_view_96 rfl ?_
      refine AW.VI (M' := m_X5_shows) (t := 5) [iV x6, iV x5] [] dX0_view_98 q1199 q1200 q1201 q132 q1202 ck5 rfl n_X5_shows rfl rfl rfl (fun _ _ _ e => c_X5_shows e) h (fun v28 s29 h => ?_)
      refine AW.istore (L' := [some (rV (some x0)), none, some (iV x2), some (iV x3), some (iV x4), some (iV x5), some (iV x6), some (iV v28)]) dX0_view_101 (Nat.le_of_ble_eq_true rfl) rfl rfl ?_
      refine AW.iload dX0_view_103 rfl ?_
      refine AW.iload_n dX0_view_105 rfl ?_
      refine AW.icmp_ne 170 dX0_view_106 (by decide) h (fun c46 h => ?_) (fun c46 h => ?_)
      · refine AW.iinc (L' := [some (rV (some x0)), none, some (iV x2), some (iV x3), some (iV x4), some (iV x5), some (iV (x6 + 1)), some (iV v28)]) dX0_view_170 rfl (Nat.le_of_ble_eq_true rfl) rfl rfl ?_
        refine AW.goto (tgt := 81) dX0_view_173 (by decide) ?_
        exact AW.fewer (L' := [some (rV (some x0)), none, some (iV x2), some (iV x3), some (iV x4), some (iV x5), some (iV (x6 + 1)), none]) (And.intro rfl (And.intro rfl (And.intro rfl (And.intro rfl (And.intro rfl (And.intro rfl trivial)))))) (ih _ _ _ _ _ _ _ h hk)
      · refine AW.aload_n dX0_view_109 rfl ?_
        refine AW.getR (t := 0) (k := 8) dX0_view_110 ck0 (Nat.le_of_ble_eq_true rfl) (fun _ => rfl) q554 (Or.inl rfl) h (fun v31 h => ?_)
        refine AW.getR (t := 5) (k := 2) dX0_view_113 ck5 (Nat.le_of_ble_eq_true rfl) (fun _ => rfl) q427 (Or.inl rfl) h (fun v32 h => ?_)
        refine AW.iload dX0_view_116 rfl ?_
        refine AW.aald (t := 105) dX0_view_118 (Nat.le_of_ble_eq_true rfl) rfl (fun _ _ => rfl) h (fun v33 h => ?_)
        refine AW.iload dX0_view_119 rfl ?_
        refine AW.bald (t := 101) dX0_view_121 (Nat.le_of_ble_eq_true rfl) rfl h (fun v34 h => ?_)
        refine AW.iload_n dX0_view_122 rfl ?_
        refine AW.icmp_ne 170 dX0_view_123 (by decide) h (fun c45 h => ?_) (fun c45 h => ?_)
        · refine AW.iinc (L' := [some (rV (some x0)), none, some (iV x2), some (iV x3), some (iV x4), some (iV x5), some (iV (x6 + 1)), some (iV v28)]) dX0_view_170 rfl (Nat.le_of_ble_eq_true rfl) rfl rfl ?_
          refine AW.goto (tgt := 81) dX0_view_173 (by decide) ?_
          exact AW.fewer (L' := [some (rV (some x0)), none, some (iV x2), some (iV x3), some (iV x4), some (iV x5), some (iV (x6 + 1)), none]) (And.intro rfl (And.intro rfl (And.intro rfl (And.intro rfl (And.intro rfl (And.intro rfl trivial)))))) (ih _ _ _ _ _ _ _ h hk)
        · refine AW.aload_n dX0_view_126 rfl ?_
          refine AW.getR (t := 0) (k := 17) dX0_view_127 ck0 (Nat.le_of_ble_eq_true rfl) (fun _ => rfl) q563 (Or.inl rfl) h (fun v35 h => ?_)
          refine AW.aload_n dX0_view_130 rfl ?_
          refine AW.getR (t := 0) (k := 8) dX0_view_131 ck0 (Nat.le_of_ble_eq_true rfl) (fun _ => rfl) q554 (Or.inl rfl) h (fun v36 h => ?_)
          refine AW.getR (t := 5) (k := 2) dX0_view_134 ck5 (Nat.le_of_ble_eq_true rfl) (fun _ => rfl) q427 (Or.inl rfl) h (fun v37 h => ?_)
          refine AW.iload dX0_view_137 rfl ?_
          refine AW.aald (t := 105) dX0_view_139 (Nat.le_of_ble_eq_true rfl) rfl (fun _ _ => rfl) h (fun v38 h => ?_)
          refine AW.iload dX0_view_140 rfl ?_
          refine AW.bald (t := 101) dX0_view_142 (Nat.le_of_ble_eq_true rfl) rfl h (fun v39 h => ?_)
          refine AW.iald (t := 100) dX0_view_143 (Nat.le_of_ble_eq_true rfl) rfl h (fun v40 h => ?_)
          refine AW.iload dX0_view_144 rfl ?_
          refine AW.aload_n dX0_view_146 rfl ?_
          refine AW.getR (t := 0) (k := 7) dX0_view_147 ck0 (Nat.le_of_ble_eq_true rfl) (fun _ => rfl) q553 (Or.inl rfl) h (fun v41 h => ?_)
          refine AW.getI (t := 5) (k := 9) dX0_view_150 ck5 (Nat.le_of_ble_eq_true rfl) (fun _ => rfl) q437 (Or.inl rfl) h (fun v42 h => ?_)
          refine AW.isub dX0_view_153 ?_
          refine AW.icmp_gt 170 dX0_view_154 (by decide) h (fun c44 h => ?_) (fun c44 h => ?_)
          · refine AW.iinc (L' := [some (rV (some x0)), none, some (iV x2), some (iV x3), some (iV x4), some (iV x5), some (iV (x6 + 1)), some (iV v28)]) dX0_view_170 rfl (Nat.le_of_ble_eq_true rfl) rfl rfl ?_
            refine AW.goto (tgt := 81) dX0_view_173 (by decide) ?_
            exact AW.fewer (L' := [some (rV (some x0)), none, some (iV x2), some (iV x3), some (iV x4), some (iV x5), some (iV (x6 + 1)), none]) (And.intro rfl (And.intro rfl (And.intro rfl (And.intro rfl (And.intro rfl (And.intro rfl trivial)))))) (ih _ _ _ _ _ _ _ h hk)
          · refine AW.iload dX0_view_157 rfl ?_
            refine AW.if_ne 167 dX0_view_159 (by decide) h (fun c43 h => ?_) (fun c43 h => ?_)
            · refine AW.iload dX0_view_167 rfl ?_
              refine AW.nv ?_
              cases h
              exact AW.iret dX0_view_169 rfl
            · refine AW.iload dX0_view_162 rfl ?_
              refine AW.goto (tgt := 169) dX0_view_164 (by decide) ?_
              refine AW.nv ?_
              cases h
              exact AW.iret dX0_view_169 rfl
def f_X0_view_L70 (x0 : Nat) : Nat → Hp → Int → Int → Int → Int → (Hp → Option (Int × Hp)) → Option (Int × Hp)
  | 0, _, _, _, _, _, _ => none
  | n + 1, s0, x2, x3, x4, x5, k => (if nrm 300 ≤ nrm x5 then (k s0) else (f_X0_view_L81 x0 FU s0 x2 x3 x4 x5 0 (fun s48 x2 x3 x4 x5 => f_X0_view_L70 x0 n s48 x2 x3 x4 (x5 + 1) k)))
theorem w_X0_view_L70 {σ0 : Hp} {w : Int × Hp} {x0 : Nat} : ∀ (n : Nat) (s0 : Hp) (x2 : Int) (x3 : Int) (x4 : Int) (x5 : Int) (k : (Hp → Option (Int × Hp))), f_X0_view_L70 x0 n s0 x2 x3 x4 x5 k = some w → (∀ (s1 : Hp), k s1 = some w → AW m_X0_view σ0 (oI w) 182 [none, none, none, none, none, none, none, none] [] s1) → AW m_X0_view σ0 (oI w) 70 [some (rV (some x0)), none, some (iV x2), some (iV x3), some (iV x4), some (iV x5), none, none] [] s0 := by
  intro n
  induction n with
  | zero =>
    intro s0 x2 x3 x4 x5 k h hk
    rw [f_X0_view_L70] at h
    cases h
  | succ n ih =>
    intro s0 x2 x3 x4 x5 k h hk
    rw [f_X0_view_L70] at h
    refine AW.iload dX0_view_70 rfl ?_
    refine AW.sipush dX0_view_72 (by decide) ?_
    refine AW.icmp_ge 182 dX0_view_75 (by decide) h (fun c49 h => ?_) (fun c49 h => ?_)
    · exact AW.fewer (L' := [none, none, none, none, none, none, none, none]) (trivial) (hk _ h)
    · refine AW.iconst dX0_view_78 ?_
      refine AW.istore (L' := [some (rV (some x0)), none, some (iV x2), some (iV x3), some (iV x4), some (iV x5), some (iV 0), none]) dX0_view_79 (Nat.le_of_ble_eq_true rfl) rfl rfl ?_
      refine w_X0_view_L81 _ _ _ _ _ _ _ _ h (fun s48 x2 x3 x4 x5 h => ?_)
      refine AW.iinc (L' := [some (rV (some x0)), none, some (iV x2), some (iV x3), some (iV x4), some (iV (x5 + 1)), none, none]) dX0_view_176 rfl (Nat.le_of_ble_eq_true rfl) rfl rfl ?_
      refine AW.goto (tgt := 70) dX0_view_179 (by decide) ?_
      exact ih _ _ _ _ _ _ h hk
def f_X0_view (s0 : Hp) (x0 : Nat) (x1 : Int) (x2 : Int) (x3 : Int) (x4 : Int) : Option (Int × Hp) :=
  (rcv s0 0 (some x0)).bind fun b3 => bn (f_X0_isMan s0 b3 x1) fun v1 s2 => (if nrm v1 = 0 then (some ((-1), s2)) else ((rcv s2 0 (some x0)).bind fun b6 => bn (f_X0_isRoom s2 b6 x2) fun v4 s5 => (if nrm v4 = 0 then (some ((-1), s5)) else ((rcv s5 0 (some x0)).bind fun b9 => bn (f_X0_isPast s5 b9 x3) fun v7 s8 => (if nrm v7 = 0 then (some ((-1), s8)) else (bn (f_X0_isIn s8 x4 0 1) fun v10 s11 => (if ¬ nrm v10 = 0 then ((rcv s11 0 (some x0)).bind fun b13 => bn (f_X0_goesToEnd s11 b13) fun _ s12 => (gR s12 0 (some x0) 7).bind fun v14 => (gR s12 5 v14 0).bind fun v15 => (aR s12 105 v15 x1).bind fun v16 => (gR s12 0 (some x0) 7).bind fun v17 => (gI s12 5 v17 9).bind fun v18 => (aI s12 101 v16 v18).bind fun v19 => (rcv s12 0 (some x0)).bind fun b21 => bn (f_X0_laysWays s12 b21 v19) fun _ s20 => (gR s20 0 (some x0) 7).bind fun v22 => (gI s20 5 v22 9).bind fun v23 => f_X0_view_L70 x0 FU s20 x2 x3 x4 v23 (fun s50 => some ((-2), s50))) else (some ((-1), s11)))))))))
theorem w_X0_view {σ0 : Hp} {w : Int × Hp} (s0 : Hp) (x0 : Nat) (x1 : Int) (x2 : Int) (x3 : Int) (x4 : Int) (h : f_X0_view s0 x0 x1 x2 x3 x4 = some w) : AW m_X0_view σ0 (oI w) 0 [some (rV (some x0)), some (iV x1), some (iV x2), some (iV x3), some (iV x4), none, none, none] [] s0 := by
  unfold f_X0_view at h
  refine AW.aload_n dX0_view_0 rfl ?_
  refine AW.iload_n dX0_view_1 rfl ?_
  refine AW.VI (M' := m_X0_isMan) (t := 0) [iV x1] [] dX0_view_2 q1171 q1173 qs31 q121 q1174 ck0 rfl n_X0_isMan rfl rfl rfl (fun _ _ _ e => c_X0_isMan e) h (fun v1 s2 h => ?_)
  refine AW.if_eq 34 dX0_view_5 (by decide) h (fun c54 h => ?_) (fun c54 h => ?_)
  · refine AW.iconst dX0_view_34 ?_
    cases h
    exact AW.iret dX0_view_35 rfl
  · refine AW.aload_n dX0_view_8 rfl ?_
    refine AW.iload_n dX0_view_9 rfl ?_
    refine AW.VI (M' := m_X0_isRoom) (t := 0) [iV x2] [] dX0_view_10 q1265 q1267 qs39 q121 q1268 ck0 rfl n_X0_isRoom rfl rfl rfl (fun _ _ _ e => c_X0_isRoom e) h (fun v4 s5 h => ?_)
    refine AW.if_eq 34 dX0_view_13 (by decide) h (fun c53 h => ?_) (fun c53 h => ?_)
    · refine AW.iconst dX0_view_34 ?_
      cases h
      exact AW.iret dX0_view_35 rfl
    · refine AW.aload_n dX0_view_16 rfl ?_
      refine AW.iload_n dX0_view_17 rfl ?_
      refine AW.VI (M' := m_X0_isPast) (t := 0) [iV x3] [] dX0_view_18 q1183 q1185 qs33 q121 q1186 ck0 rfl n_X0_isPast rfl rfl rfl (fun _ _ _ e => c_X0_isPast e) h (fun v7 s8 h => ?_)
      refine AW.if_eq 34 dX0_view_21 (by decide) h (fun c52 h => ?_) (fun c52 h => ?_)
      · refine AW.iconst dX0_view_34 ?_
        cases h
        exact AW.iret dX0_view_35 rfl
      · refine AW.iload dX0_view_24 rfl ?_
        refine AW.iconst dX0_view_26 ?_
        refine AW.iconst dX0_view_27 ?_
        refine AW.SI (M' := m_X0_isIn) [iV x4, iV 0, iV 1] [] dX0_view_28 q1180 q1181 q121 q1182 n_X0_isIn rfl rfl rfl (fun _ _ e => c_X0_isIn e) h (fun v10 s11 h => ?_)
        refine AW.if_ne 36 dX0_view_31 (by decide) h (fun c51 h => ?_) (fun c51 h => ?_)
        · refine AW.aload_n dX0_view_36 rfl ?_
          refine AW.VU (M' := m_X0_goesToEnd) (t := 0) [] [] dX0_view_37 q1378 q1380 qs44 q121 q1381 ck0 rfl n_X0_goesToEnd rfl rfl rfl (fun _ _ _ e => c_X0_goesToEnd e) h (fun _ s12 h => ?_)
          refine AW.aload_n dX0_view_40 rfl ?_
          refine AW.aload_n dX0_view_41 rfl ?_
          refine AW.getR (t := 0) (k := 7) dX0_view_42 ck0 (Nat.le_of_ble_eq_true rfl) (fun _ => rfl) q553 (Or.inl rfl) h (fun v14 h => ?_)
          refine AW.getR (t := 5) (k := 0) dX0_view_45 ck5 (Nat.le_of_ble_eq_true rfl) (fun _ => rfl) q422 (Or.inl rfl) h (fun v15 h => ?_)
          refine AW.iload_n dX0_view_48 rfl ?_
          refine AW.aald (t := 105) dX0_view_49 (Nat.le_of_ble_eq_true rfl) rfl (fun _ _ => rfl) h (fun v16 h => ?_)
          refine AW.aload_n dX0_view_50 rfl ?_
          refine AW.getR (t := 0) (k := 7) dX0_view_51 ck0 (Nat.le_of_ble_eq_true rfl) (fun _ => rfl) q553 (Or.inl rfl) h (fun v17 h => ?_)
          refine AW.getI (t := 5) (k := 9) dX0_view_54 ck5 (Nat.le_of_ble_eq_true rfl) (fun _ => rfl) q437 (Or.inl rfl) h (fun v18 h => ?_)
          refine AW.bald (t := 101) dX0_view_57 (Nat.le_of_ble_eq_true rfl) rfl h (fun v19 h => ?_)
          refine AW.VU (M' := m_X0_laysWays) (t := 0) [iV v19] [] dX0_view_58 q1429 q1431 qs49 q121 q1432 ck0 rfl n_X0_laysWays rfl rfl rfl (fun _ _ _ e => c_X0_laysWays e) h (fun _ s20 h => ?_)
          refine AW.aload_n dX0_view_61 rfl ?_
          refine AW.getR (t := 0) (k := 7) dX0_view_62 ck0 (Nat.le_of_ble_eq_true rfl) (fun _ => rfl) q553 (Or.inl rfl) h (fun v22 h => ?_)
          refine AW.getI (t := 5) (k := 9) dX0_view_65 ck5 (Nat.le_of_ble_eq_true rfl) (fun _ => rfl) q437 (Or.inl rfl) h (fun v23 h => ?_)
          refine AW.istore (L' := [some (rV (some x0)), some (iV x1), some (iV x2), some (iV x3), some (iV x4), some (iV v23), none, none]) dX0_view_68 (Nat.le_of_ble_eq_true rfl) rfl rfl ?_
          refine AW.fewer (L' := [some (rV (some x0)), none, some (iV x2), some (iV x3), some (iV x4), some (iV v23), none, none]) (And.intro rfl (And.intro rfl (And.intro rfl (And.intro rfl (And.intro rfl trivial))))) ?_
          refine w_X0_view_L70 _ _ _ _ _ _ _ h (fun s50 h => ?_)
          refine AW.bipush dX0_view_182 (by decide) ?_
          cases h
          exact AW.iret dX0_view_184 rfl
        · refine AW.iconst dX0_view_34 ?_
          cases h
          exact AW.iret dX0_view_35 rfl
theorem c_X0_view {s0 : Hp} {x0 : Nat} {x1 : Int} {x2 : Int} {x3 : Int} {x4 : Int} {v : Int} {s1 : Hp} (h : f_X0_view s0 x0 x1 x2 x3 x4 = some (v, s1)) : Ct m_X0_view [rV (some x0), iV x1, iV x2, iV x3, iV x4] s0 (.inl (some (iV v)), s1) :=
  Ct.of2 (w_X0_view s0 x0 x1 x2 x3 x4 h) (show plainName yX0_view.cls = true by decide) rfl rfl rfl
abbrev m_X0_visits : Mi := (yX0_visits, cX0_visits, (some .int), 5, 3, 61, [])
theorem n_X0_visits : nameOk yX0_visits 2 := ⟨by decide, by decide, by decide +kernel⟩
def f_X0_visits_L29 (x0 : Nat) : Nat → Hp → Int → Int → Int → Int → (Hp → Int → Option (Int × Hp)) → Option (Int × Hp)
  | 0, _, _, _, _, _, _ => none
  | n + 1, s0, x1, x2, x3, x4, k => (gR s0 0 (some x0) 7).bind fun v9 => (gI s0 5 v9 9).bind fun v10 => (if nrm v10 < nrm x4 then (k s0 x3) else ((if nrm x2 < 0 then ((if nrm x4 ≤ 0 then (f_X0_visits_L29 x0 n s0 x1 x2 x3 (x4 + 1) k) else ((gR s0 0 (some x0) 7).bind fun v11 => (gR s0 5 v11 0).bind fun v12 => (aR s0 105 v12 x1).bind fun v13 => (aI s0 101 v13 x4).bind fun v14 => (gR s0 0 (some x0) 7).bind fun v15 => (gR s0 5 v15 0).bind fun v16 => (aR s0 105 v16 x1).bind fun v17 => (aI s0 101 v17 (x4 - 1)).bind fun v18 => (if nrm v14 = nrm v18 then (f_X0_visits_L29 x0 n s0 x1 x2 (x3 + 0) (x4 + 1) k) else (f_X0_visits_L29 x0 n s0 x1 x2 (x3 + 1) (x4 + 1) k))))) else ((gR s0 0 (some x0) 7).bind fun v21 => (gR s0 5 v21 0).bind fun v22 => (aR s0 105 v22 x1).bind fun v23 => (aI s0 101 v23 x4).bind fun v24 => jn (fun (s25 : Hp) (x1 : Int) (x2 : Int) (x4 : Int) (y0 : Int) (y1 : Int) => f_X0_visits_L29 x0 n s25 x1 x2 (y0 + y1) (x4 + 1) k) fun j67 => (if ¬ nrm v24 = nrm x2 then (j67 s0 x1 x2 x4 x3 0) else (j67 s0 x1 x2 x4 x3 1))))))
theorem w_X0_visits_L29 {σ0 : Hp} {w : Int × Hp} {x0 : Nat} : ∀ (n : Nat) (s0 : Hp) (x1 : Int) (x2 : Int) (x3 : Int) (x4 : Int) (k : (Hp → Int → Option (Int × Hp))), f_X0_visits_L29 x0 n s0 x1 x2 x3 x4 k = some w → (∀ (s1 : Hp) (x3 : Int), k s1 x3 = some w → AW m_X0_visits σ0 (oI w) 120 [none, none, none, some (iV x3), none] [] s1) → AW m_X0_visits σ0 (oI w) 29 [some (rV (some x0)), some (iV x1), some (iV x2), some (iV x3), some (iV x4)] [] s0 := by
  intro n
  induction n with
  | zero =>
    intro s0 x1 x2 x3 x4 k h hk
    rw [f_X0_visits_L29] at h
    cases h
  | succ n ih =>
    intro s0 x1 x2 x3 x4 k h hk
    rw [f_X0_visits_L29] at h
    refine AW.iload dX0_visits_29 rfl ?_
    refine AW.aload_n dX0_visits_31 rfl ?_
    refine AW.getR (t := 0) (k := 7) dX0_visits_32 ck0 (Nat.le_of_ble_eq_true rfl) (fun _ => rfl) q553 (Or.inl rfl) h (fun v9 h => ?_)
    refine AW.getI (t := 5) (k := 9) dX0_visits_35 ck5 (Nat.le_of_ble_eq_true rfl) (fun _ => rfl) q437 (Or.inl rfl) h (fun v10 h => ?_)
    refine AW.icmp_gt 120 dX0_visits_38 (by decide) h (fun c28 h => ?_) (fun c28 h => ?_)
    · exact AW.fewer (L' := [none, none, none, some (iV x3), none]) (And.intro rfl trivial) (hk _ _ h)
    · refine AW.iload_n dX0_visits_41 rfl ?_
      refine AW.if_lt 72 dX0_visits_42 (by decide) h (fun c27 h => ?_) (fun c27 h => ?_)
      · refine AW.iload dX0_visits_72 rfl ?_
        refine AW.if_le 114 dX0_visits_74 (by decide) h (fun c20 h => ?_) (fun c20 h => ?_)
        · refine AW.iinc (L' := [some (rV (some x0)), some (iV x1), some (iV x2), some (iV x3), some (iV (x4 + 1))]) dX0_visits_114 rfl (Nat.le_of_ble_eq_true rfl) rfl rfl ?_
          refine AW.goto (tgt := 29) dX0_visits_117 (by decide) ?_
          exact ih _ _ _ _ _ _ h hk
        · refine AW.iload_n dX0_visits_77 rfl ?_
          refine AW.aload_n dX0_visits_78 rfl ?_
          refine AW.getR (t := 0) (k := 7) dX0_visits_79 ck0 (Nat.le_of_ble_eq_true rfl) (fun _ => rfl) q553 (Or.inl rfl) h (fun v11 h => ?_)
          refine AW.getR (t := 5) (k := 0) dX0_visits_82 ck5 (Nat.le_of_ble_eq_true rfl) (fun _ => rfl) q422 (Or.inl rfl) h (fun v12 h => ?_)
          refine AW.iload_n dX0_visits_85 rfl ?_
          refine AW.aald (t := 105) dX0_visits_86 (Nat.le_of_ble_eq_true rfl) rfl (fun _ _ => rfl) h (fun v13 h => ?_)
          refine AW.iload dX0_visits_87 rfl ?_
          refine AW.bald (t := 101) dX0_visits_89 (Nat.le_of_ble_eq_true rfl) rfl h (fun v14 h => ?_)
          refine AW.aload_n dX0_visits_90 rfl ?_
          refine AW.getR (t := 0) (k := 7) dX0_visits_91 ck0 (Nat.le_of_ble_eq_true rfl) (fun _ => rfl) q553 (Or.inl rfl) h (fun v15 h => ?_)
          refine AW.getR (t := 5) (k := 0) dX0_visits_94 ck5 (Nat.le_of_ble_eq_true rfl) (fun _ => rfl) q422 (Or.inl rfl) h (fun v16 h => ?_)
          refine AW.iload_n dX0_visits_97 rfl ?_
          refine AW.aald (t := 105) dX0_visits_98 (Nat.le_of_ble_eq_true rfl) rfl (fun _ _ => rfl) h (fun v17 h => ?_)
          refine AW.iload dX0_visits_99 rfl ?_
          refine AW.iconst dX0_visits_101 ?_
          refine AW.isub dX0_visits_102 ?_
          refine AW.bald (t := 101) dX0_visits_103 (Nat.le_of_ble_eq_true rfl) rfl h (fun v18 h => ?_)
          refine AW.icmp_eq 111 dX0_visits_104 (by decide) h (fun c19 h => ?_) (fun c19 h => ?_)
          · refine AW.iconst dX0_visits_111 ?_
            refine AW.iadd dX0_visits_112 ?_
            refine AW.istore_n (L' := [some (rV (some x0)), some (iV x1), some (iV x2), some (iV (x3 + 0)), some (iV x4)]) dX0_visits_113 (Nat.le_of_ble_eq_true rfl) rfl rfl ?_
            refine AW.iinc (L' := [some (rV (some x0)), some (iV x1), some (iV x2), some (iV (x3 + 0)), some (iV (x4 + 1))]) dX0_visits_114 rfl (Nat.le_of_ble_eq_true rfl) rfl rfl ?_
            refine AW.goto (tgt := 29) dX0_visits_117 (by decide) ?_
            exact ih _ _ _ _ _ _ h hk
          · refine AW.iconst dX0_visits_107 ?_
            refine AW.goto (tgt := 112) dX0_visits_108 (by decide) ?_
            refine AW.iadd dX0_visits_112 ?_
            refine AW.istore_n (L' := [some (rV (some x0)), some (iV x1), some (iV x2), some (iV (x3 + 1)), some (iV x4)]) dX0_visits_113 (Nat.le_of_ble_eq_true rfl) rfl rfl ?_
            refine AW.iinc (L' := [some (rV (some x0)), some (iV x1), some (iV x2), some (iV (x3 + 1)), some (iV (x4 + 1))]) dX0_visits_114 rfl (Nat.le_of_ble_eq_true rfl) rfl rfl ?_
            refine AW.goto (tgt := 29) dX0_visits_117 (by decide) ?_
            exact ih _ _ _ _ _ _ h hk
      · refine AW.iload_n dX0_visits_45 rfl ?_
        refine AW.aload_n dX0_visits_46 rfl ?_
        refine AW.getR (t := 0) (k := 7) dX0_visits_47 ck0 (Nat.le_of_ble_eq_true rfl) (fun _ => rfl) q553 (Or.inl rfl) h (fun v21 h => ?_)
        refine AW.getR (t := 5) (k := 0) dX0_visits_50 ck5 (Nat.le_of_ble_eq_true rfl) (fun _ => rfl) q422 (Or.inl rfl) h (fun v22 h => ?_)
        refine AW.iload_n dX0_visits_53 rfl ?_
        refine AW.aald (t := 105) dX0_visits_54 (Nat.le_of_ble_eq_true rfl) rfl (fun _ _ => rfl) h (fun v23 h => ?_)
        refine AW.iload dX0_visits_55 rfl ?_
        refine AW.bald (t := 101) dX0_visits_57 (Nat.le_of_ble_eq_true rfl) rfl h (fun v24 h => ?_)
        refine AW.iload_n dX0_visits_58 rfl ?_
        refine jn_elim h (fun (j : (Hp → Int → Int → Int → Int → Int → Option (Int × Hp))) => ∀ (s25 : Hp) (x1 : Int) (x2 : Int) (x4 : Int) (y0 : Int) (y1 : Int), j s25 x1 x2 x4 y0 y1 = some w → AW m_X0_visits σ0 (oI w) 67 [some (rV (some x0)), some (iV x1), some (iV x2), none, some (iV x4)] [iV y1, iV y0] s25) ?_ (fun j67 hj67 h => ?_)
        · intro s25 x1 x2 x4 y0 y1 h
          refine AW.iadd dX0_visits_67 ?_
          refine AW.istore_n (L' := [some (rV (some x0)), some (iV x1), some (iV x2), some (iV (y0 + y1)), some (iV x4)]) dX0_visits_68 (Nat.le_of_ble_eq_true rfl) rfl rfl ?_
          refine AW.goto (tgt := 114) dX0_visits_69 (by decide) ?_
          refine AW.iinc (L' := [some (rV (some x0)), some (iV x1), some (iV x2), some (iV (y0 + y1)), some (iV (x4 + 1))]) dX0_visits_114 rfl (Nat.le_of_ble_eq_true rfl) rfl rfl ?_
          refine AW.goto (tgt := 29) dX0_visits_117 (by decide) ?_
          exact ih _ _ _ _ _ _ h hk
        · refine AW.icmp_ne 66 dX0_visits_59 (by decide) h (fun c26 h => ?_) (fun c26 h => ?_)
          · refine AW.iconst dX0_visits_66 ?_
            exact AW.fewer (L' := [some (rV (some x0)), some (iV x1), some (iV x2), none, some (iV x4)]) (And.intro rfl (And.intro rfl (And.intro rfl (And.intro rfl trivial)))) (hj67 _ _ _ _ _ _ h)
          · refine AW.iconst dX0_visits_62 ?_
            refine AW.goto (tgt := 67) dX0_visits_63 (by decide) ?_
            exact AW.fewer (L' := [some (rV (some x0)), some (iV x1), some (iV x2), none, some (iV x4)]) (And.intro rfl (And.intro rfl (And.intro rfl (And.intro rfl trivial)))) (hj67 _ _ _ _ _ _ h)
def f_X0_visits (s0 : Hp) (x0 : Nat) (x1 : Int) (x2 : Int) : Option (Int × Hp) :=
  (rcv s0 0 (some x0)).bind fun b3 => bn (f_X0_isMan s0 b3 x1) fun v1 s2 => (if nrm v1 = 0 then (some ((-1), s2)) else ((rcv s2 0 (some x0)).bind fun b6 => bn (f_X0_rooms s2 b6) fun v4 s5 => bn (f_X0_isIn s5 x2 (-1) (v4 - 1)) fun v7 s8 => (if ¬ nrm v7 = 0 then (f_X0_visits_L29 x0 FU s8 x1 x2 0 0 (fun s29 x3 => some (nrm x3, s29))) else (some ((-1), s8)))))
theorem w_X0_visits {σ0 : Hp} {w : Int × Hp} (s0 : Hp) (x0 : Nat) (x1 : Int) (x2 : Int) (h : f_X0_visits s0 x0 x1 x2 = some w) : AW m_X0_visits σ0 (oI w) 0 [some (rV (some x0)), some (iV x1), some (iV x2), none, none] [] s0 := by
  unfold f_X0_visits at h
  refine AW.aload_n dX0_visits_0 rfl ?_
  refine AW.iload_n dX0_visits_1 rfl ?_
  refine AW.VI (M' := m_X0_isMan) (t := 0) [iV x1] [] dX0_visits_2 q1171 q1173 qs31 q121 q1174 ck0 rfl n_X0_isMan rfl rfl rfl (fun _ _ _ e => c_X0_isMan e) h (fun v1 s2 h => ?_)
  refine AW.if_eq 22 dX0_visits_5 (by decide) h (fun c31 h => ?_) (fun c31 h => ?_)
  · refine AW.iconst dX0_visits_22 ?_
    cases h
    exact AW.iret dX0_visits_23 rfl
  · refine AW.iload_n dX0_visits_8 rfl ?_
    refine AW.iconst dX0_visits_9 ?_
    refine AW.aload_n dX0_visits_10 rfl ?_
    refine AW.VI (M' := m_X0_rooms) (t := 0) [] [iV (-1), iV x2] dX0_visits_11 q1269 q1271 qs40 q121 q1272 ck0 rfl n_X0_rooms rfl rfl rfl (fun _ _ _ e => c_X0_rooms e) h (fun v4 s5 h => ?_)
    refine AW.iconst dX0_visits_14 ?_
    refine AW.isub dX0_visits_15 ?_
    refine AW.SI (M' := m_X0_isIn) [iV x2, iV (-1), iV (v4 - 1)] [] dX0_visits_16 q1180 q1181 q121 q1182 n_X0_isIn rfl rfl rfl (fun _ _ e => c_X0_isIn e) h (fun v7 s8 h => ?_)
    refine AW.if_ne 24 dX0_visits_19 (by decide) h (fun c30 h => ?_) (fun c30 h => ?_)
    · refine AW.iconst dX0_visits_24 ?_
      refine AW.istore_n (L' := [some (rV (some x0)), some (iV x1), some (iV x2), some (iV 0), none]) dX0_visits_25 (Nat.le_of_ble_eq_true rfl) rfl rfl ?_
      refine AW.iconst dX0_visits_26 ?_
      refine AW.istore (L' := [some (rV (some x0)), some (iV x1), some (iV x2), some (iV 0), some (iV 0)]) dX0_visits_27 (Nat.le_of_ble_eq_true rfl) rfl rfl ?_
      refine w_X0_visits_L29 _ _ _ _ _ _ _ h (fun s29 x3 h => ?_)
      refine AW.iload_n dX0_visits_120 rfl ?_
      refine AW.nv ?_
      cases h
      exact AW.iret dX0_visits_121 rfl
    · refine AW.iconst dX0_visits_22 ?_
      cases h
      exact AW.iret dX0_visits_23 rfl
theorem c_X0_visits {s0 : Hp} {x0 : Nat} {x1 : Int} {x2 : Int} {v : Int} {s1 : Hp} (h : f_X0_visits s0 x0 x1 x2 = some (v, s1)) : Ct m_X0_visits [rV (some x0), iV x1, iV x2] s0 (.inl (some (iV v)), s1) :=
  Ct.of2 (w_X0_visits s0 x0 x1 x2 h) (show plainName yX0_visits.cls = true by decide) rfl rfl rfl
abbrev m_X0_willBe : Mi := (yX0_willBe, cX0_willBe, (some .int), 3, 418, 24838, [])
theorem n_X0_willBe : nameOk yX0_willBe 2 := ⟨by decide, by decide, by decide +kernel⟩
def f_X0_willBe (s0 : Hp) (x0 : Nat) (x1 : Int) (x2 : Int) : Option (Int × Hp) :=
  (rcv s0 0 (some x0)).bind fun b3 => bn (f_X0_isMan s0 b3 x1) fun v1 s2 => (if nrm v1 = 0 then (some ((-1), s2)) else (bn (f_X0_isIn s2 x2 0 299) fun v4 s5 => (if ¬ nrm v4 = 0 then ((gR s5 0 (some x0) 8).bind fun v6 => (gR s5 0 (some x0) 7).bind fun v7 => (rcv s5 5 v6).bind fun b9 => bn (f_X5_takes s5 b9 v7) fun _ s8 => (gR s8 0 (some x0) 8).bind fun v10 => (rcv s8 0 (some x0)).bind fun b12 => bn (f_X0_runs s8 b12 v10 x2) fun _ s11 => (gR s11 0 (some x0) 8).bind fun v13 => (gR s11 5 v13 0).bind fun v14 => (aR s11 105 v14 x1).bind fun v15 => (gR s11 0 (some x0) 8).bind fun v16 => (gI s11 5 v16 9).bind fun v17 => (aI s11 101 v15 v17).bind fun v18 => some (v18, s11)) else (some ((-1), s5)))))
theorem w_X0_willBe {σ0 : Hp} {w : Int × Hp} (s0 : Hp) (x0 : Nat) (x1 : Int) (x2 : Int) (h : f_X0_willBe s0 x0 x1 x2 = some w) : AW m_X0_willBe σ0 (oI w) 0 [some (rV (some x0)), some (iV x1), some (iV x2)] [] s0 := by
  unfold f_X0_willBe at h
  refine AW.aload_n dX0_willBe_0 rfl ?_
  refine AW.iload_n dX0_willBe_1 rfl ?_
  refine AW.VI (M' := m_X0_isMan) (t := 0) [iV x1] [] dX0_willBe_2 q1171 q1173 qs31 q121 q1174 ck0 rfl n_X0_isMan rfl rfl rfl (fun _ _ _ e => c_X0_isMan e) h (fun v1 s2 h => ?_)
  refine AW.if_eq 19 dX0_willBe_5 (by decide) h (fun c20 h => ?_) (fun c20 h => ?_)
  · refine AW.iconst dX0_willBe_19 ?_
    cases h
    exact AW.iret dX0_willBe_20 rfl
  · refine AW.iload_n dX0_willBe_8 rfl ?_
    refine AW.iconst dX0_willBe_9 ?_
    refine AW.sipush dX0_willBe_10 (by decide) ?_
    refine AW.SI (M' := m_X0_isIn) [iV x2, iV 0, iV 299] [] dX0_willBe_13 q1180 q1181 q121 q1182 n_X0_isIn rfl rfl rfl (fun _ _ e => c_X0_isIn e) h (fun v4 s5 h => ?_)
    refine AW.if_ne 21 dX0_willBe_16 (by decide) h (fun c19 h => ?_) (fun c19 h => ?_)
    · refine AW.aload_n dX0_willBe_21 rfl ?_
      refine AW.getR (t := 0) (k := 8) dX0_willBe_22 ck0 (Nat.le_of_ble_eq_true rfl) (fun _ => rfl) q554 (Or.inl rfl) h (fun v6 h => ?_)
      refine AW.aload_n dX0_willBe_25 rfl ?_
      refine AW.getR (t := 0) (k := 7) dX0_willBe_26 ck0 (Nat.le_of_ble_eq_true rfl) (fun _ => rfl) q553 (Or.inl rfl) h (fun v7 h => ?_)
      refine AW.VU (M' := m_X5_takes) (t := 5) [rV v7] [] dX0_willBe_29 q1221 q1222 q1223 q132 q1224 ck5 rfl n_X5_takes rfl rfl rfl (fun _ _ _ e => c_X5_takes e) h (fun _ s8 h => ?_)
      refine AW.aload_n dX0_willBe_32 rfl ?_
      refine AW.aload_n dX0_willBe_33 rfl ?_
      refine AW.getR (t := 0) (k := 8) dX0_willBe_34 ck0 (Nat.le_of_ble_eq_true rfl) (fun _ => rfl) q554 (Or.inl rfl) h (fun v10 h => ?_)
      refine AW.iload_n dX0_willBe_37 rfl ?_
      refine AW.VU (M' := m_X0_runs) (t := 0) [rV v10, iV x2] [] dX0_willBe_38 q1227 q1229 qs37 q121 q1230 ck0 rfl n_X0_runs rfl rfl rfl (fun _ _ _ e => c_X0_runs e) h (fun _ s11 h => ?_)
      refine AW.aload_n dX0_willBe_41 rfl ?_
      refine AW.getR (t := 0) (k := 8) dX0_willBe_42 ck0 (Nat.le_of_ble_eq_true rfl) (fun _ => rfl) q554 (Or.inl rfl) h (fun v13 h => ?_)
      refine AW.getR (t := 5) (k := 0) dX0_willBe_45 ck5 (Nat.le_of_ble_eq_true rfl) (fun _ => rfl) q422 (Or.inl rfl) h (fun v14 h => ?_)
      refine AW.iload_n dX0_willBe_48 rfl ?_
      refine AW.aald (t := 105) dX0_willBe_49 (Nat.le_of_ble_eq_true rfl) rfl (fun _ _ => rfl) h (fun v15 h => ?_)
      refine AW.aload_n dX0_willBe_50 rfl ?_
      refine AW.getR (t := 0) (k := 8) dX0_willBe_51 ck0 (Nat.le_of_ble_eq_true rfl) (fun _ => rfl) q554 (Or.inl rfl) h (fun v16 h => ?_)
      refine AW.getI (t := 5) (k := 9) dX0_willBe_54 ck5 (Nat.le_of_ble_eq_true rfl) (fun _ => rfl) q437 (Or.inl rfl) h (fun v17 h => ?_)
      refine AW.bald (t := 101) dX0_willBe_57 (Nat.le_of_ble_eq_true rfl) rfl h (fun v18 h => ?_)
      cases h
      exact AW.iret dX0_willBe_58 rfl
    · refine AW.iconst dX0_willBe_19 ?_
      cases h
      exact AW.iret dX0_willBe_20 rfl
theorem c_X0_willBe {s0 : Hp} {x0 : Nat} {x1 : Int} {x2 : Int} {v : Int} {s1 : Hp} (h : f_X0_willBe s0 x0 x1 x2 = some (v, s1)) : Ct m_X0_willBe [rV (some x0), iV x1, iV x2] s0 (.inl (some (iV v)), s1) :=
  Ct.of2 (w_X0_willBe s0 x0 x1 x2 h) (show plainName yX0_willBe.cls = true by decide) rfl rfl rfl
