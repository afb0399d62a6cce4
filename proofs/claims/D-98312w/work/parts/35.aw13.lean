set_option maxRecDepth 100000
/-! ===== Math.max, Math.min ===== -/
def mxI (x y : Int) : Int := if nrm x < nrm y then y else x
def mnI (x y : Int) : Int := if nrm y < nrm x then y else x
section
variable {M : Mi} {σ0 : Hp} {out : Ot} {pc : Nat} {L : List (Option AV)} {st : List AV} {σ : Hp}
theorem AW.mmax {x y : Int} {index : Nat} (d : decode M.2.1 pc = .ok (.invokestatic index, 3)) (q : Cond.methodLink M.1.cls index ⟨"java/lang/Math", "max", "(II)I"⟩ ∈ lw_all) (hF : Nat.ble 1 M.2.2.2.2.1 = true) (hL : Nat.ble (catS st + 13) M.2.2.2.2.2.1 = true) (k : AW M σ0 out (pc + 3) L (iV (mxI x y) :: st) σ) : AW M σ0 out pc L (iV y :: iV x :: st) σ := by
  refine ⟨k.1, fun p l e R s m args below meth c D A O H locs ls h0 hR hS hLv => ?_⟩
  have hts := O.1.2.2.2.2.2
  have w := k.2 p l e R s m args below meth c D A O H locs ls h0 hR hS hLv
  have e1 : (Value.int (if iI x < iI y then iI y else iI x)) = tv (iV (mxI x y)) := by
    show _ = Value.int (iI (mxI x y))
    unfold mxI
    by_cases hc : nrm x < nrm y
    · rw [if_pos hc, if_pos ((iI_lt x y).mpr hc)]
    · rw [if_neg hc, if_neg (fun z => hc ((iI_lt x y).mp z))]
  refine va_mmax (x := iI x) (y := iI y) O.1.1 O.1.2.1 (by rw [O.1.2.2.2.1]; exact hLv.1.symm) O.1.2.2.2.2.1 (hts _ q) (hts _ q544) (hts _ q138) (hts _ q545) (by rw [O.2.2.1.2.2.1]; exact Nat.le_of_ble_eq_true hF) ?_ ?_ ?_ d ?_
  · rw [O.2.2.1.2.2.2.1, catS_ok]
    exact Nat.le_of_ble_eq_true hL
  · have := O.2.2.1.2.2.2.2.1; have := k.1.1; have := h0.1; omega
  · have := O.2.2.1.2.2.2.2.2; have := k.1.2.1; have := h0.2.1; omega
  · rw [e1]; exact w
theorem AW.mmin {x y : Int} {index : Nat} (d : decode M.2.1 pc = .ok (.invokestatic index, 3)) (q : Cond.methodLink M.1.cls index ⟨"java/lang/Math", "min", "(II)I"⟩ ∈ lw_all) (hF : Nat.ble 1 M.2.2.2.2.1 = true) (hL : Nat.ble (catS st + 13) M.2.2.2.2.2.1 = true) (k : AW M σ0 out (pc + 3) L (iV (mnI x y) :: st) σ) : AW M σ0 out pc L (iV y :: iV x :: st) σ := by
  refine ⟨k.1, fun p l e R s m args below meth c D A O H locs ls h0 hR hS hLv => ?_⟩
  have hts := O.1.2.2.2.2.2
  have w := k.2 p l e R s m args below meth c D A O H locs ls h0 hR hS hLv
  have e1 : (Value.int (if iI y < iI x then iI y else iI x)) = tv (iV (mnI x y)) := by
    show _ = Value.int (iI (mnI x y))
    unfold mnI
    by_cases hc : nrm y < nrm x
    · rw [if_pos hc, if_pos ((iI_lt y x).mpr hc)]
    · rw [if_neg hc, if_neg (fun z => hc ((iI_lt y x).mp z))]
  refine va_mmin (x := iI x) (y := iI y) O.1.1 O.1.2.1 (by rw [O.1.2.2.2.1]; exact hLv.1.symm) O.1.2.2.2.2.1 (hts _ q) (hts _ q541) (hts _ q138) (hts _ q542) (by rw [O.2.2.1.2.2.1]; exact Nat.le_of_ble_eq_true hF) ?_ ?_ ?_ d ?_
  · rw [O.2.2.1.2.2.2.1, catS_ok]
    exact Nat.le_of_ble_eq_true hL
  · have := O.2.2.1.2.2.2.2.1; have := k.1.1; have := h0.1; omega
  · have := O.2.2.1.2.2.2.2.2; have := k.1.2.1; have := h0.2.1; omega
  · rw [e1]; exact w
end
