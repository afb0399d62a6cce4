set_option maxRecDepth 100000
/-! ===== rows of arrays ===== -/
theorem ar_in {N : Nat} {i n : Int} (hz : (N : Int) = n) (h : 0 ≤ nrm i ∧ nrm i < n) : ¬ (iI i < 0 ∨ N ≤ (iI i).toNatClampNeg) ∧ (((iI i).toNatClampNeg : Nat) : Int) = nrm i ∧ (iI i).toNatClampNeg < N := by
  have e : (iI i).toNatClampNeg = (nrm i).toNat := rfl
  rw [e, iI_lt0]
  omega
theorem ar_set {D : va_G} {A : Nat → Prop} {U : State} {H1 : Heap} {a : Nat} {x x' : Ce} {cell : Cell} {j : Nat} {nv : Value} (h2 : cell.vm.isStatics = false) (h3 : cell.vm ≠ .unknown) (h4 : mutT x.1 → A a ∧ cell.vm = .none) (hx : x'.1 = x.1) (h100 : 100 ≤ x.1)
    (h6 : U.isArrayOf cell (aw_el x.1) ∧ (∀ C : String, aw_el x.1 = .object C → mutT x.1 → va_RA U cell.cls (.object C)) ∧ (cell.slots.size : Int) = x.2.1 ∧ ∀ j : Nat, j < cell.slots.size → cell.slots[j]? = some (mv (aw_el x.1) x j) ∧ fits (aw_el x.1) (mv (aw_el x.1) x j) = true)
    (hn : x'.2.1 = x.2.1) (hj : j < cell.slots.size) (hv : mv (aw_el x.1) x' j = nv) (hf : fits (aw_el x.1) nv = true) (ho : ∀ i : Nat, i ≠ j → mv (aw_el x.1) x' i = mv (aw_el x.1) x i) (e : H1[a]? = some (cell.setSlot j nv)) : hld D A U H1 a x' := by
  obtain ⟨g1, g2, g3, g4⟩ := h6
  refine ⟨_, e, h2, h3, fun q => h4 (by rw [← hx]; exact q), fun q => ?_, fun _ => ?_⟩
  · rw [hx] at q; omega
  · rw [hx]
    have hs : (cell.setSlot j nv).slots = cell.slots.setIfInBounds j nv := rfl
    refine ⟨g1, g2, ?_, fun i hi => ?_⟩
    · rw [hs, Array.size_setIfInBounds, hn]; exact g3
    · rw [hs, Array.size_setIfInBounds] at hi
      rw [hs]
      by_cases q : i = j
      · subst q
        rw [Array.getElem?_setIfInBounds_self_of_lt hi, hv]
        exact ⟨rfl, hf⟩
      · rw [Array.getElem?_setIfInBounds_ne (Ne.symm q), ho i q]
        exact g4 i hi
theorem fit_b (x : Int32) : fits .byte (narrow .byte (.int x)) = true := pk_fb x
theorem fit_s (x : Int32) : fits .short (narrow .short (.int x)) = true := pk_fs x
theorem fit_z (x : Int32) : fits .boolean (narrow .boolean (.int x)) = true := by
  show ((x &&& 1) == 0 || (x &&& 1) == 1) = true
  have e : (1 : Int32).toBitVec.toNat = 2 ^ 1 - 1 := by decide
  obtain ⟨j, hj, h⟩ := pk_andE x 1 e
  rw [h]
  rcases (show j = 0 ∨ j = 1 by omega) with rfl | rfl <;> decide
section
variable {M : Mi} {σ0 : Hp} {out : Ot} {pc : Nat} {L : List (Option AV)} {st : List AV} {σ : Hp}
theorem AW.iald {β : Type} {F : Int → Option β} {w : β} {t : Nat} {r : Option Nat} {i : Int} (d : decode M.2.1 pc = .ok (.iaload, 1)) (ht : 100 ≤ t) (hty : aw_el t = .int)
    (h : (aI σ t r i).bind F = some w) (kk : ∀ v : Int, F v = some w → AW M σ0 out (pc + 1) L (iV v :: st) σ) : AW M σ0 out pc L (iV i :: rV r :: st) σ := by
  obtain ⟨v, hv, h9⟩ := ob_some h
  unfold aI at hv
  obtain ⟨x, hx, hw⟩ := ob_some hv
  obtain ⟨rfl, h2, h3⟩ := cel_some hx
  by_cases hi : 0 ≤ nrm i ∧ nrm i < x.2.2.1
  · rw [if_pos hi] at hw
    cases hw
    refine AW.sim (kk _ h9) fun p l e R s m args below meth c D A O H locs ls cells slots Q h0 hR hS hL w => ?_
    obtain ⟨cell, g1, g2, g3, g4, -, g6⟩ := hR.2 _ _ h2
    obtain ⟨g6, g7, g8, g9⟩ := g6 (by rw [h3]; exact ht)
    rw [h3, hty] at g6
    obtain ⟨i1, i2, i3⟩ := ar_in g8 hi
    refine W.iald O.1.1 O.1.2.1 g1 g6 g3 i1 (g9 _ i3).1 rfl rfl d ?_
    rw [h3, hty, i2]
    exact w
  · rw [if_neg hi] at hw
    cases hw
theorem AW.bald {β : Type} {F : Int → Option β} {w : β} {t : Nat} {r : Option Nat} {i : Int} (d : decode M.2.1 pc = .ok (.baload, 1)) (ht : 100 ≤ t) (hty : aw_el t = .byte)
    (h : (aI σ t r i).bind F = some w) (kk : ∀ v : Int, F v = some w → AW M σ0 out (pc + 1) L (iV v :: st) σ) : AW M σ0 out pc L (iV i :: rV r :: st) σ := by
  obtain ⟨v, hv, h9⟩ := ob_some h
  unfold aI at hv
  obtain ⟨x, hx, hw⟩ := ob_some hv
  obtain ⟨rfl, h2, h3⟩ := cel_some hx
  by_cases hi : 0 ≤ nrm i ∧ nrm i < x.2.2.1
  · rw [if_pos hi] at hw
    cases hw
    refine AW.sim (kk _ h9) fun p l e R s m args below meth c D A O H locs ls cells slots Q h0 hR hS hL w => ?_
    obtain ⟨cell, g1, g2, g3, g4, -, g6⟩ := hR.2 _ _ h2
    obtain ⟨g6, g7, g8, g9⟩ := g6 (by rw [h3]; exact ht)
    rw [h3, hty] at g6
    obtain ⟨i1, i2, i3⟩ := ar_in g8 hi
    refine W.bald O.1.1 O.1.2.1 g1 g6 g3 i1 (g9 _ i3).1 rfl rfl d ?_
    rw [h3, hty, i2]
    exact w
  · rw [if_neg hi] at hw
    cases hw
theorem AW.zald {β : Type} {F : Int → Option β} {w : β} {t : Nat} {r : Option Nat} {i : Int} (d : decode M.2.1 pc = .ok (.baload, 1)) (ht : 100 ≤ t) (hty : aw_el t = .boolean)
    (h : (aI σ t r i).bind F = some w) (kk : ∀ v : Int, F v = some w → AW M σ0 out (pc + 1) L (iV v :: st) σ) : AW M σ0 out pc L (iV i :: rV r :: st) σ := by
  obtain ⟨v, hv, h9⟩ := ob_some h
  unfold aI at hv
  obtain ⟨x, hx, hw⟩ := ob_some hv
  obtain ⟨rfl, h2, h3⟩ := cel_some hx
  by_cases hi : 0 ≤ nrm i ∧ nrm i < x.2.2.1
  · rw [if_pos hi] at hw
    cases hw
    refine AW.sim (kk _ h9) fun p l e R s m args below meth c D A O H locs ls cells slots Q h0 hR hS hL w => ?_
    obtain ⟨cell, g1, g2, g3, g4, -, g6⟩ := hR.2 _ _ h2
    obtain ⟨g6, g7, g8, g9⟩ := g6 (by rw [h3]; exact ht)
    rw [h3, hty] at g6
    obtain ⟨i1, i2, i3⟩ := ar_in g8 hi
    refine W.zald O.1.1 O.1.2.1 g1 g6 g3 i1 (g9 _ i3).1 rfl rfl d ?_
    rw [h3, hty, i2]
    exact w
  · rw [if_neg hi] at hw
    cases hw
theorem AW.sald {β : Type} {F : Int → Option β} {w : β} {t : Nat} {r : Option Nat} {i : Int} (d : decode M.2.1 pc = .ok (.saload, 1)) (ht : 100 ≤ t) (hty : aw_el t = .short)
    (h : (aI σ t r i).bind F = some w) (kk : ∀ v : Int, F v = some w → AW M σ0 out (pc + 1) L (iV v :: st) σ) : AW M σ0 out pc L (iV i :: rV r :: st) σ := by
  obtain ⟨v, hv, h9⟩ := ob_some h
  unfold aI at hv
  obtain ⟨x, hx, hw⟩ := ob_some hv
  obtain ⟨rfl, h2, h3⟩ := cel_some hx
  by_cases hi : 0 ≤ nrm i ∧ nrm i < x.2.2.1
  · rw [if_pos hi] at hw
    cases hw
    refine AW.sim (kk _ h9) fun p l e R s m args below meth c D A O H locs ls cells slots Q h0 hR hS hL w => ?_
    obtain ⟨cell, g1, g2, g3, g4, -, g6⟩ := hR.2 _ _ h2
    obtain ⟨g6, g7, g8, g9⟩ := g6 (by rw [h3]; exact ht)
    rw [h3, hty] at g6
    obtain ⟨i1, i2, i3⟩ := ar_in g8 hi
    refine W.sald O.1.1 O.1.2.1 g1 g6 g3 i1 (g9 _ i3).1 rfl rfl d ?_
    rw [h3, hty, i2]
    exact w
  · rw [if_neg hi] at hw
    cases hw
theorem AW.lald {β : Type} {F : Int → Option β} {w : β} {t : Nat} {r : Option Nat} {i : Int} (d : decode M.2.1 pc = .ok (.laload, 1)) (ht : 100 ≤ t) (hty : aw_el t = .long)
    (h : (aI σ t r i).bind F = some w) (kk : ∀ v : Int, F v = some w → AW M σ0 out (pc + 1) L (jV v :: st) σ) : AW M σ0 out pc L (iV i :: rV r :: st) σ := by
  obtain ⟨v, hv, h9⟩ := ob_some h
  unfold aI at hv
  obtain ⟨x, hx, hw⟩ := ob_some hv
  obtain ⟨rfl, h2, h3⟩ := cel_some hx
  by_cases hi : 0 ≤ nrm i ∧ nrm i < x.2.2.1
  · rw [if_pos hi] at hw
    cases hw
    refine AW.sim (kk _ h9) fun p l e R s m args below meth c D A O H locs ls cells slots Q h0 hR hS hL w => ?_
    obtain ⟨cell, g1, g2, g3, g4, -, g6⟩ := hR.2 _ _ h2
    obtain ⟨g6, g7, g8, g9⟩ := g6 (by rw [h3]; exact ht)
    rw [h3, hty] at g6
    obtain ⟨i1, i2, i3⟩ := ar_in g8 hi
    refine W.lald O.1.1 O.1.2.1 g1 g6 g3 i1 (g9 _ i3).1 rfl rfl d ?_
    rw [h3, hty, i2]
    exact w
  · rw [if_neg hi] at hw
    cases hw
theorem AW.aald {β : Type} {F : Option Nat → Option β} {w : β} {t : Nat} {r : Option Nat} {i : Int} (d : decode M.2.1 pc = .ok (.aaload, 1)) (ht : 100 ≤ t) (hty : (aw_el t).isReference = true) (hm : ∀ (c : Ce) (k : Int), mv (aw_el t) c k = va_rf (c.2.2.2 k))
    (h : (aR σ t r i).bind F = some w) (kk : ∀ v : Option Nat, F v = some w → AW M σ0 out (pc + 1) L (rV v :: st) σ) : AW M σ0 out pc L (iV i :: rV r :: st) σ := by
  obtain ⟨v, hv, h9⟩ := ob_some h
  unfold aR at hv
  obtain ⟨x, hx, hw⟩ := ob_some hv
  obtain ⟨rfl, h2, h3⟩ := cel_some hx
  by_cases hi : 0 ≤ nrm i ∧ nrm i < x.2.2.1
  · rw [if_pos hi] at hw
    cases hw
    refine AW.sim (kk _ h9) fun p l e R s m args below meth c D A O H locs ls cells slots Q h0 hR hS hL w => ?_
    obtain ⟨cell, g1, g2, g3, g4, -, g6⟩ := hR.2 _ _ h2
    obtain ⟨g6, g7, g8, g9⟩ := g6 (by rw [h3]; exact ht)
    rw [h3] at g6
    obtain ⟨i1, i2, i3⟩ := ar_in g8 hi
    refine W.aald O.1.1 O.1.2.1 g1 g6 hty g3 i1 (g9 _ i3).1 rfl rfl d ?_
    rw [h3, hm, i2]
    exact w
  · rw [if_neg hi] at hw
    cases hw
theorem AW.alen {β : Type} {F : Int → Option β} {w : β} {t : Nat} {r : Option Nat} (d : decode M.2.1 pc = .ok (.arraylength, 1)) (ht : 100 ≤ t)
    (h : (aL σ t r).bind F = some w) (kk : ∀ v : Int, F v = some w → AW M σ0 out (pc + 1) L (iV v :: st) σ) : AW M σ0 out pc L (rV r :: st) σ := by
  obtain ⟨v, hv, h9⟩ := ob_some h
  unfold aL at hv
  obtain ⟨x, hx, hw⟩ := ob_some hv
  obtain ⟨rfl, h2, h3⟩ := cel_some hx
  cases hw
  refine AW.sim (kk _ h9) fun p l e R s m args below meth c D A O H locs ls cells slots Q h0 hR hS hL w => ?_
  obtain ⟨cell, g1, g2, g3, g4, -, g6⟩ := hR.2 _ _ h2
  obtain ⟨g6, g7, g8, g9⟩ := g6 (by rw [h3]; exact ht)
  refine W.alen O.1.1 O.1.2.1 g1 g6 (n := iI x.2.2.1) ?_ rfl rfl d w
  rw [← g8]
  rfl
theorem AW.iast {β : Type} {F : Hp → Option β} {w : β} {t : Nat} {r : Option Nat} {i v : Int} (d : decode M.2.1 pc = .ok (.iastore, 1)) (ht : 100 ≤ t) (hmu : mutT t) (hty : aw_el t = .int)
    (h : (sI σ t r i v).bind F = some w) (kk : ∀ σ1 : Hp, F σ1 = some w → AW M σ0 out (pc + 1) L st σ1) : AW M σ0 out pc L (iV v :: iV i :: rV r :: st) σ := by
  obtain ⟨σ1, hv, h9⟩ := ob_some h
  unfold sI at hv
  obtain ⟨x, hx, hw⟩ := ob_some hv
  obtain ⟨rfl, h2, h3⟩ := cel_some hx
  by_cases hi : 0 ≤ nrm i ∧ nrm i < x.2.2.1
  · rw [if_pos hi] at hw
    cases hw
    obtain ⟨a, x1, n, f, g⟩ := x
    have h3 : x1 = t := h3
    subst h3
    refine AW.wrt (kk _ h9) (fun p l e R s m args below meth c D A O H locs ls cells slots Q hR hA w => ?_) h2 hmu
    obtain ⟨cell, g1, g2, g3, g4, -, g6⟩ := hR.2 _ _ h2
    have g6 := g6 ht
    obtain ⟨i1, i2, i3⟩ := ar_in g6.2.2.1 hi
    refine W.iast O.1.1 O.1.2.1 g1 (by rw [← hty]; exact g6.1) g3 i1 rfl rfl d fun H1 e1 e2 e3 => ?_
    refine w H1 _ e2 e3 (ar_set g2 g3 g4 rfl ht g6 rfl i3 ?_ (by rw [hty]; rfl) (fun j hj => mv_fuI (by omega)) e1)
    rw [i2]
    show mv (aw_el x1) (x1, n, fu f (nrm i) v, g) (nrm i) = _
    rw [hty]
    show Value.int (iI (fu f (nrm i) v (nrm i))) = _
    rw [fu_self]
    try rfl
  · rw [if_neg hi] at hw
    cases hw
theorem AW.bast {β : Type} {F : Hp → Option β} {w : β} {t : Nat} {r : Option Nat} {i v : Int} (d : decode M.2.1 pc = .ok (.bastore, 1)) (ht : 100 ≤ t) (hmu : mutT t) (hty : aw_el t = .byte)
    (h : (sI σ t r i (i8I v)).bind F = some w) (kk : ∀ σ1 : Hp, F σ1 = some w → AW M σ0 out (pc + 1) L st σ1) : AW M σ0 out pc L (iV v :: iV i :: rV r :: st) σ := by
  obtain ⟨σ1, hv, h9⟩ := ob_some h
  unfold sI at hv
  obtain ⟨x, hx, hw⟩ := ob_some hv
  obtain ⟨rfl, h2, h3⟩ := cel_some hx
  by_cases hi : 0 ≤ nrm i ∧ nrm i < x.2.2.1
  · rw [if_pos hi] at hw
    cases hw
    obtain ⟨a, x1, n, f, g⟩ := x
    have h3 : x1 = t := h3
    subst h3
    refine AW.wrt (kk _ h9) (fun p l e R s m args below meth c D A O H locs ls cells slots Q hR hA w => ?_) h2 hmu
    obtain ⟨cell, g1, g2, g3, g4, -, g6⟩ := hR.2 _ _ h2
    have g6 := g6 ht
    obtain ⟨i1, i2, i3⟩ := ar_in g6.2.2.1 hi
    refine W.bast O.1.1 O.1.2.1 g1 (by rw [← hty]; exact g6.1) g3 i1 rfl rfl d fun H1 e1 e2 e3 => ?_
    refine w H1 _ e2 e3 (ar_set g2 g3 g4 rfl ht g6 rfl i3 ?_ (by rw [hty]; exact fit_b _) (fun j hj => mv_fuI (by omega)) e1)
    rw [i2]
    show mv (aw_el x1) (x1, n, fu f (nrm i) (i8I v), g) (nrm i) = _
    rw [hty]
    show Value.int (iI (fu f (nrm i) (i8I v) (nrm i))) = _
    rw [fu_self]
    exact congrArg Value.int (iI_of _)
  · rw [if_neg hi] at hw
    cases hw
theorem AW.zast {β : Type} {F : Hp → Option β} {w : β} {t : Nat} {r : Option Nat} {i v : Int} (d : decode M.2.1 pc = .ok (.bastore, 1)) (ht : 100 ≤ t) (hmu : mutT t) (hty : aw_el t = .boolean)
    (h : (sI σ t r i (b1I v)).bind F = some w) (kk : ∀ σ1 : Hp, F σ1 = some w → AW M σ0 out (pc + 1) L st σ1) : AW M σ0 out pc L (iV v :: iV i :: rV r :: st) σ := by
  obtain ⟨σ1, hv, h9⟩ := ob_some h
  unfold sI at hv
  obtain ⟨x, hx, hw⟩ := ob_some hv
  obtain ⟨rfl, h2, h3⟩ := cel_some hx
  by_cases hi : 0 ≤ nrm i ∧ nrm i < x.2.2.1
  · rw [if_pos hi] at hw
    cases hw
    obtain ⟨a, x1, n, f, g⟩ := x
    have h3 : x1 = t := h3
    subst h3
    refine AW.wrt (kk _ h9) (fun p l e R s m args below meth c D A O H locs ls cells slots Q hR hA w => ?_) h2 hmu
    obtain ⟨cell, g1, g2, g3, g4, -, g6⟩ := hR.2 _ _ h2
    have g6 := g6 ht
    obtain ⟨i1, i2, i3⟩ := ar_in g6.2.2.1 hi
    refine W.zast O.1.1 O.1.2.1 g1 (by rw [← hty]; exact g6.1) g3 i1 rfl rfl d fun H1 e1 e2 e3 => ?_
    refine w H1 _ e2 e3 (ar_set g2 g3 g4 rfl ht g6 rfl i3 ?_ (by rw [hty]; exact fit_z _) (fun j hj => mv_fuI (by omega)) e1)
    rw [i2]
    show mv (aw_el x1) (x1, n, fu f (nrm i) (b1I v), g) (nrm i) = _
    rw [hty]
    show Value.int (iI (fu f (nrm i) (b1I v) (nrm i))) = _
    rw [fu_self]
    exact congrArg Value.int (iI_of _)
  · rw [if_neg hi] at hw
    cases hw
theorem AW.sast {β : Type} {F : Hp → Option β} {w : β} {t : Nat} {r : Option Nat} {i v : Int} (d : decode M.2.1 pc = .ok (.sastore, 1)) (ht : 100 ≤ t) (hmu : mutT t) (hty : aw_el t = .short)
    (h : (sI σ t r i (i16I v)).bind F = some w) (kk : ∀ σ1 : Hp, F σ1 = some w → AW M σ0 out (pc + 1) L st σ1) : AW M σ0 out pc L (iV v :: iV i :: rV r :: st) σ := by
  obtain ⟨σ1, hv, h9⟩ := ob_some h
  unfold sI at hv
  obtain ⟨x, hx, hw⟩ := ob_some hv
  obtain ⟨rfl, h2, h3⟩ := cel_some hx
  by_cases hi : 0 ≤ nrm i ∧ nrm i < x.2.2.1
  · rw [if_pos hi] at hw
    cases hw
    obtain ⟨a, x1, n, f, g⟩ := x
    have h3 : x1 = t := h3
    subst h3
    refine AW.wrt (kk _ h9) (fun p l e R s m args below meth c D A O H locs ls cells slots Q hR hA w => ?_) h2 hmu
    obtain ⟨cell, g1, g2, g3, g4, -, g6⟩ := hR.2 _ _ h2
    have g6 := g6 ht
    obtain ⟨i1, i2, i3⟩ := ar_in g6.2.2.1 hi
    refine W.sast O.1.1 O.1.2.1 g1 (by rw [← hty]; exact g6.1) g3 i1 rfl rfl d fun H1 e1 e2 e3 => ?_
    refine w H1 _ e2 e3 (ar_set g2 g3 g4 rfl ht g6 rfl i3 ?_ (by rw [hty]; exact fit_s _) (fun j hj => mv_fuI (by omega)) e1)
    rw [i2]
    show mv (aw_el x1) (x1, n, fu f (nrm i) (i16I v), g) (nrm i) = _
    rw [hty]
    show Value.int (iI (fu f (nrm i) (i16I v) (nrm i))) = _
    rw [fu_self]
    exact congrArg Value.int (iI_of _)
  · rw [if_neg hi] at hw
    cases hw
theorem AW.last {β : Type} {F : Hp → Option β} {w : β} {t : Nat} {r : Option Nat} {i v : Int} (d : decode M.2.1 pc = .ok (.lastore, 1)) (ht : 100 ≤ t) (hmu : mutT t) (hty : aw_el t = .long)
    (h : (sI σ t r i v).bind F = some w) (kk : ∀ σ1 : Hp, F σ1 = some w → AW M σ0 out (pc + 1) L st σ1) : AW M σ0 out pc L (jV v :: iV i :: rV r :: st) σ := by
  obtain ⟨σ1, hv, h9⟩ := ob_some h
  unfold sI at hv
  obtain ⟨x, hx, hw⟩ := ob_some hv
  obtain ⟨rfl, h2, h3⟩ := cel_some hx
  by_cases hi : 0 ≤ nrm i ∧ nrm i < x.2.2.1
  · rw [if_pos hi] at hw
    cases hw
    obtain ⟨a, x1, n, f, g⟩ := x
    have h3 : x1 = t := h3
    subst h3
    refine AW.wrt (kk _ h9) (fun p l e R s m args below meth c D A O H locs ls cells slots Q hR hA w => ?_) h2 hmu
    obtain ⟨cell, g1, g2, g3, g4, -, g6⟩ := hR.2 _ _ h2
    have g6 := g6 ht
    obtain ⟨i1, i2, i3⟩ := ar_in g6.2.2.1 hi
    refine W.last O.1.1 O.1.2.1 g1 (by rw [← hty]; exact g6.1) g3 i1 rfl rfl d fun H1 e1 e2 e3 => ?_
    refine w H1 _ e2 e3 (ar_set g2 g3 g4 rfl ht g6 rfl i3 ?_ (by rw [hty]; rfl) (fun j hj => mv_fuI (by omega)) e1)
    rw [i2]
    show mv (aw_el x1) (x1, n, fu f (nrm i) v, g) (nrm i) = _
    rw [hty]
    show Value.long (jJ (fu f (nrm i) v (nrm i))) = _
    rw [fu_self]
    try rfl
  · rw [if_neg hi] at hw
    cases hw
end
