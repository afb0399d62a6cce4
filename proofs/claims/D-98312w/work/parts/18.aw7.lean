set_option maxRecDepth 100000
/-! ===== what the printed walks use ===== -/
theorem zz0 : nrm 0 = 0 ∨ nrm 0 = 1 := by decide
theorem zz1 : nrm 1 = 0 ∨ nrm 1 = 1 := by decide
def FU : Nat := 20000
def bd {α β : Type} (x : α) (f : α → β) : β := f x
theorem ite_or {β : Type} {c : Prop} [Decidable c] {X Y : Option β} {w : β} (h : (if c then X else Y) = some w) : (c ∧ X = some w) ∨ (¬ c ∧ Y = some w) := by
  by_cases q : c
  · rw [if_pos q] at h; exact Or.inl ⟨q, h⟩
  · rw [if_neg q] at h; exact Or.inr ⟨q, h⟩
theorem nz_elim {β : Type} {c : Prop} [Decidable c] {X : Option β} {w : β} (h : (if c then none else X) = some w) : ¬ c ∧ X = some w := by
  rcases ite_or h with ⟨_, h⟩ | h
  · cases h
  · exact h
theorem pz_elim {β : Type} {c : Prop} [Decidable c] {X : Option β} {w : β} (h : (if c then X else none) = some w) : c ∧ X = some w := by
  rcases ite_or h with h | ⟨_, h⟩
  · exact h
  · cases h
theorem lg_len (as : List AV) : (lg_sl (as.map tv)).length = catS as := by
  induction as with
  | nil => rfl
  | cons v as ih =>
    have e1 : lg_sl ((v :: as).map tv) = (if (tv v).category = 2 then [.val (tv v), .second] else [.val (tv v)]) ++ lg_sl (as.map tv) := rfl
    rw [e1, List.length_append, ih]
    rcases v with z | r | z
    · rfl
    · have hc : (tv (.inr (.inl r))).category = 1 := rf_cat r
      rw [hc]
      rfl
    · rfl
theorem Ct.of2 {M : Mi} {as : List AV} {σ : Hp} {out : Ot} {L : List (Option AV)} (k : AW M σ out 0 L [] σ) (hy : plainName M.1.cls = true) (hh : M.2.2.2.2.2.2 = []) (hn : Nat.ble (catS as) M.2.2.2.1 = true) (hL : entL as ++ List.replicate (M.2.2.2.1 - (entL as).length) none = L) : Ct M as σ out :=
  Ct.of hy hh (by rw [lg_len]; exact Nat.le_of_ble_eq_true hn) hL k
abbrev tI (b : Nat) (σ : Hp) (w : Int × TW) : Ot := (.inl (some (iV w.1)), insT b w.2 σ)
abbrev tU (b : Nat) (σ : Hp) (w : Unit × TW) : Ot := (.inl none, insT b w.2 σ)
abbrev tJ (b : Nat) (σ : Hp) (w : Int × TW) : Ot := (.inl (some (jV w.1)), insT b w.2 σ)
section
variable {M : Mi} {σ0 : Hp} {out : Ot} {pc : Nat} {L : List (Option AV)} {st : List AV} {σ : Hp} {b : Nat} {τ : TW}
theorem lg_cmJ (x y : Int) : lg_cmp (jJ x) (jJ y) = iI (cmJ x y) := by
  unfold lg_cmp cmJ
  simp only [Int64.lt_iff_toInt_lt, ← Int64.toInt_inj]
  show (if nrj y < nrj x then _ else if nrj x = nrj y then _ else _) = _
  split
  · rfl
  · split <;> rfl
theorem AW.lcmp {x y : Int} (d : decode M.2.1 pc = .ok (.lcmp, 1)) (k : AW M σ0 out (pc + 1) L (iV (cmJ x y) :: st) σ) : AW M σ0 out pc L (jV y :: jV x :: st) σ :=
  AW.sim k fun p l e R s m args below meth c D A O H locs ls cells slots Q h0 hR hS hL w => W.lcmp O.1.1 O.1.2.1 d (by rw [lg_cmJ]; exact w)
theorem AW.tIn {x : Int} {dflt lo hi off : Int} {offs : Array Int} {len : Nat} (j : Nat) (tgt : Nat) (d : decode M.2.1 pc = .ok (.tableswitch dflt lo hi offs, len)) (c : nrm x = lo + j) (hj : lo + j ≤ hi) (ho : offs[j]? = some off) (ht : (pc : Int) + off = (tgt : Int)) (k : AW M σ0 out tgt L st σ) : AW M σ0 out pc L (iV x :: st) σ :=
  AW.sim k fun p l e R s m args below meth c1 D A O H locs ls cells slots Q h0 hR hS hL w => by
    have e1 : (iI x).toInt = lo + j := c
    refine lv_tableIn O.1.1 O.1.2.1 d (by rw [e1]; omega) (by rw [e1]; omega) (off := off) ?_ ht w
    rw [e1, show (lo + (j : Int) - lo).toNat = j by omega]
    exact ho
theorem AW.tOut {x : Int} {dflt lo hi : Int} {offs : Array Int} {len : Nat} (tgt : Nat) (d : decode M.2.1 pc = .ok (.tableswitch dflt lo hi offs, len)) (c : nrm x < lo ∨ hi < nrm x) (ht : (pc : Int) + dflt = (tgt : Int)) (k : AW M σ0 out tgt L st σ) : AW M σ0 out pc L (iV x :: st) σ :=
  AW.sim k fun p l e R s m args below meth c1 D A O H locs ls cells slots Q h0 hR hS hL w => lv_tableOut O.1.1 O.1.2.1 d c ht w
theorem AW.tpB {β : Type} {F : TW → Option β} {w : β} {index k : Nat} {v : Int} (d : decode M.2.1 pc = .ok (.putfield index, 3)) (hk : k < 75) (hty : aw_ty 8 k = .int) (q : Cond.fieldLink M.1.cls index RX8 (TX8 k).2.1 (TX8 k).2.2.1 ∈ lw_all) (hs : RX8 = (TX8 k).1) (hfin : (TX8 k).2.2.2 = false)
    (h : bd (tp τ k v) F = some w) (kk : ∀ τ1 : TW, F τ1 = some w → AW M σ0 out (pc + 3) L st (insT b τ1 σ)) : AW M σ0 out pc L (iV v :: rV (some b) :: st) (insT b τ σ) :=
  AW.tpI d hk hty q hs hfin (kk _ h)
end
section
variable {M : Mi} {σ0 : Hp} {out : Ot} {pc : Nat} {L : List (Option AV)} {st : List AV} {σ : Hp} {b : Nat} {τ : TW}
theorem AW.tVI {β : Type} {Y : Option (Int × TW)} {F : Int → TW → Option β} {w : β} {M' : Mi} {index : Nat} (As rest : List AV) (d : decode M.2.1 pc = .ok (.invokevirtual index, 3)) (q1 : Cond.methodLink M.1.cls index M'.1 ∈ lw_all) (q2 : Cond.instanceMethod M'.1 ∈ lw_all) (q3 : Cond.selects M'.1.cls M'.1 M'.1 ∈ lw_all) (q4 : Cond.initialized M'.1.cls ∈ lw_all) (q5 : Cond.code M'.1 M'.2.1 M'.2.2.2.1 M'.2.2.1 ∈ lw_all)
    (hcl : RX8 = M'.1.cls) (hnm : nameOk M'.1 As.length) (hfit : fitM M M' = true) (h8 : Nat.ble (catS rest) 8 = true) (hst : st = As.reverse ++ rV (some b) :: rest)
    (hY : ∀ (v : Int) (τ1 : TW), Y = some (v, τ1) → Ct M' (rV (some b) :: As) (insT b τ σ) (.inl (some (iV v)), insT b τ1 σ))
    (h : bt_ Y F = some w) (kk : ∀ (v : Int) (τ1 : TW), F v τ1 = some w → AW M σ0 out (pc + 3) L (iV v :: rest) (insT b τ1 σ)) : AW M σ0 out pc L st (insT b τ σ) :=
  AW.tinvV (fun v => some (iV v)) As rest d q1 q2 q3 q4 q5 hcl hnm hfit h8 hst hY h kk
theorem AW.tSI {β : Type} {Y : Option (Int × TW)} {F : Int → TW → Option β} {w : β} {M' : Mi} {index : Nat} (As rest : List AV) (d : decode M.2.1 pc = .ok (.invokestatic index, 3)) (q1 : Cond.methodLink M.1.cls index M'.1 ∈ lw_all) (q2 : Cond.static M'.1 ∈ lw_all) (q3 : Cond.initialized M'.1.cls ∈ lw_all) (q4 : Cond.code M'.1 M'.2.1 M'.2.2.2.1 M'.2.2.1 ∈ lw_all)
    (hnm : nameOk M'.1 As.length) (hfit : fitM M M' = true) (h8 : Nat.ble (catS rest) 8 = true) (hst : st = As.reverse ++ rest)
    (hY : ∀ (v : Int) (τ1 : TW), Y = some (v, τ1) → Ct M' As (insT b τ σ) (.inl (some (iV v)), insT b τ1 σ))
    (h : bt_ Y F = some w) (kk : ∀ (v : Int) (τ1 : TW), F v τ1 = some w → AW M σ0 out (pc + 3) L (iV v :: rest) (insT b τ1 σ)) : AW M σ0 out pc L st (insT b τ σ) :=
  AW.tinvS (fun v => some (iV v)) As rest d q1 q2 q3 q4 hnm hfit h8 hst hY h kk
theorem AW.VI {β : Type} {Y : Nat → Option (Int × Hp)} {F : Int → Hp → Option β} {w : β} {M' : Mi} {index t : Nat} {r : Option Nat} (As rest : List AV) (d : decode M.2.1 pc = .ok (.invokevirtual index, 3)) (q1 : Cond.methodLink M.1.cls index M'.1 ∈ lw_all) (q2 : Cond.instanceMethod M'.1 ∈ lw_all) (q3 : Cond.selects M'.1.cls M'.1 M'.1 ∈ lw_all) (q4 : Cond.initialized M'.1.cls ∈ lw_all) (q5 : Cond.code M'.1 M'.2.1 M'.2.2.2.1 M'.2.2.1 ∈ lw_all)
    (ck : clsOk t) (hcl : (aw_c t).1 = M'.1.cls) (hnm : nameOk M'.1 As.length) (hfit : fitM M M' = true) (h8 : Nat.ble (catS rest) 8 = true) (hst : st = As.reverse ++ rV r :: rest)
    (hY : ∀ (b : Nat) (v : Int) (σ1 : Hp), Y b = some (v, σ1) → Ct M' (rV (some b) :: As) σ (.inl (some (iV v)), σ1))
    (h : (rcv σ t r).bind (fun b => bn (Y b) F) = some w) (kk : ∀ (v : Int) (σ1 : Hp), F v σ1 = some w → AW M σ0 out (pc + 3) L (iV v :: rest) σ1) : AW M σ0 out pc L st σ :=
  AW.invV (fun v => some (iV v)) As rest d q1 q2 q3 q4 q5 ck.1 ck.2.1 hcl hnm hfit h8 hst hY h kk
theorem AW.SI {β : Type} {Y : Option (Int × Hp)} {F : Int → Hp → Option β} {w : β} {M' : Mi} {index : Nat} (As rest : List AV) (d : decode M.2.1 pc = .ok (.invokestatic index, 3)) (q1 : Cond.methodLink M.1.cls index M'.1 ∈ lw_all) (q2 : Cond.static M'.1 ∈ lw_all) (q3 : Cond.initialized M'.1.cls ∈ lw_all) (q4 : Cond.code M'.1 M'.2.1 M'.2.2.2.1 M'.2.2.1 ∈ lw_all)
    (hnm : nameOk M'.1 As.length) (hfit : fitM M M' = true) (h8 : Nat.ble (catS rest) 8 = true) (hst : st = As.reverse ++ rest)
    (hY : ∀ (v : Int) (σ1 : Hp), Y = some (v, σ1) → Ct M' As σ (.inl (some (iV v)), σ1))
    (h : bn Y F = some w) (kk : ∀ (v : Int) (σ1 : Hp), F v σ1 = some w → AW M σ0 out (pc + 3) L (iV v :: rest) σ1) : AW M σ0 out pc L st σ :=
  AW.invS (fun v => some (iV v)) As rest d q1 q2 q3 q4 hnm hfit h8 hst hY h kk
theorem AW.tVU {β : Type} {Y : Option (Unit × TW)} {F : Unit → TW → Option β} {w : β} {M' : Mi} {index : Nat} (As rest : List AV) (d : decode M.2.1 pc = .ok (.invokevirtual index, 3)) (q1 : Cond.methodLink M.1.cls index M'.1 ∈ lw_all) (q2 : Cond.instanceMethod M'.1 ∈ lw_all) (q3 : Cond.selects M'.1.cls M'.1 M'.1 ∈ lw_all) (q4 : Cond.initialized M'.1.cls ∈ lw_all) (q5 : Cond.code M'.1 M'.2.1 M'.2.2.2.1 M'.2.2.1 ∈ lw_all)
    (hcl : RX8 = M'.1.cls) (hnm : nameOk M'.1 As.length) (hfit : fitM M M' = true) (h8 : Nat.ble (catS rest) 8 = true) (hst : st = As.reverse ++ rV (some b) :: rest)
    (hY : ∀ (v : Unit) (τ1 : TW), Y = some (v, τ1) → Ct M' (rV (some b) :: As) (insT b τ σ) (.inl none, insT b τ1 σ))
    (h : bt_ Y F = some w) (kk : ∀ (v : Unit) (τ1 : TW), F v τ1 = some w → AW M σ0 out (pc + 3) L rest (insT b τ1 σ)) : AW M σ0 out pc L st (insT b τ σ) :=
  AW.tinvV (fun _ => none) As rest d q1 q2 q3 q4 q5 hcl hnm hfit h8 hst hY h kk
theorem AW.tSU {β : Type} {Y : Option (Unit × TW)} {F : Unit → TW → Option β} {w : β} {M' : Mi} {index : Nat} (As rest : List AV) (d : decode M.2.1 pc = .ok (.invokestatic index, 3)) (q1 : Cond.methodLink M.1.cls index M'.1 ∈ lw_all) (q2 : Cond.static M'.1 ∈ lw_all) (q3 : Cond.initialized M'.1.cls ∈ lw_all) (q4 : Cond.code M'.1 M'.2.1 M'.2.2.2.1 M'.2.2.1 ∈ lw_all)
    (hnm : nameOk M'.1 As.length) (hfit : fitM M M' = true) (h8 : Nat.ble (catS rest) 8 = true) (hst : st = As.reverse ++ rest)
    (hY : ∀ (v : Unit) (τ1 : TW), Y = some (v, τ1) → Ct M' As (insT b τ σ) (.inl none, insT b τ1 σ))
    (h : bt_ Y F = some w) (kk : ∀ (v : Unit) (τ1 : TW), F v τ1 = some w → AW M σ0 out (pc + 3) L rest (insT b τ1 σ)) : AW M σ0 out pc L st (insT b τ σ) :=
  AW.tinvS (fun _ => none) As rest d q1 q2 q3 q4 hnm hfit h8 hst hY h kk
theorem AW.VU {β : Type} {Y : Nat → Option (Unit × Hp)} {F : Unit → Hp → Option β} {w : β} {M' : Mi} {index t : Nat} {r : Option Nat} (As rest : List AV) (d : decode M.2.1 pc = .ok (.invokevirtual index, 3)) (q1 : Cond.methodLink M.1.cls index M'.1 ∈ lw_all) (q2 : Cond.instanceMethod M'.1 ∈ lw_all) (q3 : Cond.selects M'.1.cls M'.1 M'.1 ∈ lw_all) (q4 : Cond.initialized M'.1.cls ∈ lw_all) (q5 : Cond.code M'.1 M'.2.1 M'.2.2.2.1 M'.2.2.1 ∈ lw_all)
    (ck : clsOk t) (hcl : (aw_c t).1 = M'.1.cls) (hnm : nameOk M'.1 As.length) (hfit : fitM M M' = true) (h8 : Nat.ble (catS rest) 8 = true) (hst : st = As.reverse ++ rV r :: rest)
    (hY : ∀ (b : Nat) (v : Unit) (σ1 : Hp), Y b = some (v, σ1) → Ct M' (rV (some b) :: As) σ (.inl none, σ1))
    (h : (rcv σ t r).bind (fun b => bn (Y b) F) = some w) (kk : ∀ (v : Unit) (σ1 : Hp), F v σ1 = some w → AW M σ0 out (pc + 3) L rest σ1) : AW M σ0 out pc L st σ :=
  AW.invV (fun _ => none) As rest d q1 q2 q3 q4 q5 ck.1 ck.2.1 hcl hnm hfit h8 hst hY h kk
theorem AW.SU {β : Type} {Y : Option (Unit × Hp)} {F : Unit → Hp → Option β} {w : β} {M' : Mi} {index : Nat} (As rest : List AV) (d : decode M.2.1 pc = .ok (.invokestatic index, 3)) (q1 : Cond.methodLink M.1.cls index M'.1 ∈ lw_all) (q2 : Cond.static M'.1 ∈ lw_all) (q3 : Cond.initialized M'.1.cls ∈ lw_all) (q4 : Cond.code M'.1 M'.2.1 M'.2.2.2.1 M'.2.2.1 ∈ lw_all)
    (hnm : nameOk M'.1 As.length) (hfit : fitM M M' = true) (h8 : Nat.ble (catS rest) 8 = true) (hst : st = As.reverse ++ rest)
    (hY : ∀ (v : Unit) (σ1 : Hp), Y = some (v, σ1) → Ct M' As σ (.inl none, σ1))
    (h : bn Y F = some w) (kk : ∀ (v : Unit) (σ1 : Hp), F v σ1 = some w → AW M σ0 out (pc + 3) L rest σ1) : AW M σ0 out pc L st σ :=
  AW.invS (fun _ => none) As rest d q1 q2 q3 q4 hnm hfit h8 hst hY h kk
theorem AW.tVJ {β : Type} {Y : Option (Int × TW)} {F : Int → TW → Option β} {w : β} {M' : Mi} {index : Nat} (As rest : List AV) (d : decode M.2.1 pc = .ok (.invokevirtual index, 3)) (q1 : Cond.methodLink M.1.cls index M'.1 ∈ lw_all) (q2 : Cond.instanceMethod M'.1 ∈ lw_all) (q3 : Cond.selects M'.1.cls M'.1 M'.1 ∈ lw_all) (q4 : Cond.initialized M'.1.cls ∈ lw_all) (q5 : Cond.code M'.1 M'.2.1 M'.2.2.2.1 M'.2.2.1 ∈ lw_all)
    (hcl : RX8 = M'.1.cls) (hnm : nameOk M'.1 As.length) (hfit : fitM M M' = true) (h8 : Nat.ble (catS rest) 8 = true) (hst : st = As.reverse ++ rV (some b) :: rest)
    (hY : ∀ (v : Int) (τ1 : TW), Y = some (v, τ1) → Ct M' (rV (some b) :: As) (insT b τ σ) (.inl (some (jV v)), insT b τ1 σ))
    (h : bt_ Y F = some w) (kk : ∀ (v : Int) (τ1 : TW), F v τ1 = some w → AW M σ0 out (pc + 3) L (jV v :: rest) (insT b τ1 σ)) : AW M σ0 out pc L st (insT b τ σ) :=
  AW.tinvV (fun v => some (jV v)) As rest d q1 q2 q3 q4 q5 hcl hnm hfit h8 hst hY h kk
theorem AW.tSJ {β : Type} {Y : Option (Int × TW)} {F : Int → TW → Option β} {w : β} {M' : Mi} {index : Nat} (As rest : List AV) (d : decode M.2.1 pc = .ok (.invokestatic index, 3)) (q1 : Cond.methodLink M.1.cls index M'.1 ∈ lw_all) (q2 : Cond.static M'.1 ∈ lw_all) (q3 : Cond.initialized M'.1.cls ∈ lw_all) (q4 : Cond.code M'.1 M'.2.1 M'.2.2.2.1 M'.2.2.1 ∈ lw_all)
    (hnm : nameOk M'.1 As.length) (hfit : fitM M M' = true) (h8 : Nat.ble (catS rest) 8 = true) (hst : st = As.reverse ++ rest)
    (hY : ∀ (v : Int) (τ1 : TW), Y = some (v, τ1) → Ct M' As (insT b τ σ) (.inl (some (jV v)), insT b τ1 σ))
    (h : bt_ Y F = some w) (kk : ∀ (v : Int) (τ1 : TW), F v τ1 = some w → AW M σ0 out (pc + 3) L (jV v :: rest) (insT b τ1 σ)) : AW M σ0 out pc L st (insT b τ σ) :=
  AW.tinvS (fun v => some (jV v)) As rest d q1 q2 q3 q4 hnm hfit h8 hst hY h kk
theorem AW.VJ {β : Type} {Y : Nat → Option (Int × Hp)} {F : Int → Hp → Option β} {w : β} {M' : Mi} {index t : Nat} {r : Option Nat} (As rest : List AV) (d : decode M.2.1 pc = .ok (.invokevirtual index, 3)) (q1 : Cond.methodLink M.1.cls index M'.1 ∈ lw_all) (q2 : Cond.instanceMethod M'.1 ∈ lw_all) (q3 : Cond.selects M'.1.cls M'.1 M'.1 ∈ lw_all) (q4 : Cond.initialized M'.1.cls ∈ lw_all) (q5 : Cond.code M'.1 M'.2.1 M'.2.2.2.1 M'.2.2.1 ∈ lw_all)
    (ck : clsOk t) (hcl : (aw_c t).1 = M'.1.cls) (hnm : nameOk M'.1 As.length) (hfit : fitM M M' = true) (h8 : Nat.ble (catS rest) 8 = true) (hst : st = As.reverse ++ rV r :: rest)
    (hY : ∀ (b : Nat) (v : Int) (σ1 : Hp), Y b = some (v, σ1) → Ct M' (rV (some b) :: As) σ (.inl (some (jV v)), σ1))
    (h : (rcv σ t r).bind (fun b => bn (Y b) F) = some w) (kk : ∀ (v : Int) (σ1 : Hp), F v σ1 = some w → AW M σ0 out (pc + 3) L (jV v :: rest) σ1) : AW M σ0 out pc L st σ :=
  AW.invV (fun v => some (jV v)) As rest d q1 q2 q3 q4 q5 ck.1 ck.2.1 hcl hnm hfit h8 hst hY h kk
theorem AW.SJ {β : Type} {Y : Option (Int × Hp)} {F : Int → Hp → Option β} {w : β} {M' : Mi} {index : Nat} (As rest : List AV) (d : decode M.2.1 pc = .ok (.invokestatic index, 3)) (q1 : Cond.methodLink M.1.cls index M'.1 ∈ lw_all) (q2 : Cond.static M'.1 ∈ lw_all) (q3 : Cond.initialized M'.1.cls ∈ lw_all) (q4 : Cond.code M'.1 M'.2.1 M'.2.2.2.1 M'.2.2.1 ∈ lw_all)
    (hnm : nameOk M'.1 As.length) (hfit : fitM M M' = true) (h8 : Nat.ble (catS rest) 8 = true) (hst : st = As.reverse ++ rest)
    (hY : ∀ (v : Int) (σ1 : Hp), Y = some (v, σ1) → Ct M' As σ (.inl (some (jV v)), σ1))
    (h : bn Y F = some w) (kk : ∀ (v : Int) (σ1 : Hp), F v σ1 = some w → AW M σ0 out (pc + 3) L (jV v :: rest) σ1) : AW M σ0 out pc L st σ :=
  AW.invS (fun v => some (jV v)) As rest d q1 q2 q3 q4 hnm hfit h8 hst hY h kk
theorem AW.VR {β : Type} {Y : Nat → Option ((Option Nat) × Hp)} {F : (Option Nat) → Hp → Option β} {w : β} {M' : Mi} {index t : Nat} {r : Option Nat} (As rest : List AV) (d : decode M.2.1 pc = .ok (.invokevirtual index, 3)) (q1 : Cond.methodLink M.1.cls index M'.1 ∈ lw_all) (q2 : Cond.instanceMethod M'.1 ∈ lw_all) (q3 : Cond.selects M'.1.cls M'.1 M'.1 ∈ lw_all) (q4 : Cond.initialized M'.1.cls ∈ lw_all) (q5 : Cond.code M'.1 M'.2.1 M'.2.2.2.1 M'.2.2.1 ∈ lw_all)
    (ck : clsOk t) (hcl : (aw_c t).1 = M'.1.cls) (hnm : nameOk M'.1 As.length) (hfit : fitM M M' = true) (h8 : Nat.ble (catS rest) 8 = true) (hst : st = As.reverse ++ rV r :: rest)
    (hY : ∀ (b : Nat) (v : (Option Nat)) (σ1 : Hp), Y b = some (v, σ1) → Ct M' (rV (some b) :: As) σ (.inl (some (rV v)), σ1))
    (h : (rcv σ t r).bind (fun b => bn (Y b) F) = some w) (kk : ∀ (v : (Option Nat)) (σ1 : Hp), F v σ1 = some w → AW M σ0 out (pc + 3) L (rV v :: rest) σ1) : AW M σ0 out pc L st σ :=
  AW.invV (fun v => some (rV v)) As rest d q1 q2 q3 q4 q5 ck.1 ck.2.1 hcl hnm hfit h8 hst hY h kk
theorem AW.SR {β : Type} {Y : Option ((Option Nat) × Hp)} {F : (Option Nat) → Hp → Option β} {w : β} {M' : Mi} {index : Nat} (As rest : List AV) (d : decode M.2.1 pc = .ok (.invokestatic index, 3)) (q1 : Cond.methodLink M.1.cls index M'.1 ∈ lw_all) (q2 : Cond.static M'.1 ∈ lw_all) (q3 : Cond.initialized M'.1.cls ∈ lw_all) (q4 : Cond.code M'.1 M'.2.1 M'.2.2.2.1 M'.2.2.1 ∈ lw_all)
    (hnm : nameOk M'.1 As.length) (hfit : fitM M M' = true) (h8 : Nat.ble (catS rest) 8 = true) (hst : st = As.reverse ++ rest)
    (hY : ∀ (v : (Option Nat)) (σ1 : Hp), Y = some (v, σ1) → Ct M' As σ (.inl (some (rV v)), σ1))
    (h : bn Y F = some w) (kk : ∀ (v : (Option Nat)) (σ1 : Hp), F v σ1 = some w → AW M σ0 out (pc + 3) L (rV v :: rest) σ1) : AW M σ0 out pc L st σ :=
  AW.invS (fun v => some (rV v)) As rest d q1 q2 q3 q4 hnm hfit h8 hst hY h kk
end
/-- an int on the stack is its word -/
theorem AW.nv {M : Mi} {σ0 : Hp} {out : Ot} {pc : Nat} {L : List (Option AV)} {st : List AV} {σ : Hp} {v : Int} (k : AW M σ0 out pc L (iV (nrm v) :: st) σ) : AW M σ0 out pc L (iV v :: st) σ := by
  have e : (iV (nrm v) :: st).map tv = (iV v :: st).map tv := by
    show tv (iV (nrm v)) :: st.map tv = tv (iV v) :: st.map tv
    rw [show tv (iV (nrm v)) = tv (iV v) from congrArg Value.int (iI_nrm v)]
  refine ⟨k.1, fun p l e1 R s m args below meth c D A O H locs ls h0 hR hS hL => ?_⟩
  have w := k.2 p l e1 R s m args below meth c D A O H locs ls h0 hR hS hL
  rw [e] at w
  exact w
