set_option maxRecDepth 100000
/-! ===== the law's own state: the twin's pure state and the rest of the heap ===== -/
abbrev LSt : Type := TW × Hp
abbrev hLS (b : Nat) (s : LSt) : Hp := insT b s.1 s.2
/-- a call of the component: behind it the twin's cells are as they were (dT: who decides that) -/
def bl {α β : Type} (dT : TW → Nat → Hp → Bool) (b : Nat) (t : TW) (x : Option (α × Hp)) (f : α → LSt → Option β) : Option β := x.bind fun q => if dT t b q.2 = true then f q.1 (t, q.2) else none
/-- a call of the twin -/
def bm {α β : Type} (s : LSt) (x : Option (α × TW)) (f : α → LSt → Option β) : Option β := x.bind fun q => f q.1 (q.2, s.2)
abbrev lI (b : Nat) (w : Int × LSt) : Ot := (.inl (some (iV w.1)), insT b w.2.1 w.2.2)
def okT (dT : TW → Nat → Hp → Bool) : Prop := ∀ (t : TW) (b : Nat) (σ : Hp), dT t b σ = true → insT b t σ = σ
theorem bn_bl {α β : Type} (dT : TW → Nat → Hp → Bool) (b : Nat) (t : TW) (x : Option (α × Hp)) (f : α → LSt → Option β) : bn x (fun v σ1 => if dT t b σ1 = true then f v (t, σ1) else none) = bl dT b t x f := rfl
theorem bt_bm {α β : Type} (s : LSt) (x : Option (α × TW)) (f : α → LSt → Option β) : bt_ x (fun v t => f v (t, s.2)) = bm s x f := rfl
section
variable {M : Mi} {σ0 : Hp} {out : Ot} {pc : Nat} {L : List (Option AV)} {st : List AV} {b : Nat} {s : LSt} {dT : TW → Nat → Hp → Bool}
theorem AW.lVI {β : Type} {Y : Nat → Option (Int × Hp)} {F : Int → LSt → Option β} {w : β} {M' : Mi} {index t : Nat} {r : Option Nat} (hd : okT dT) (As rest : List AV) (d : decode M.2.1 pc = .ok (.invokevirtual index, 3)) (q1 : Cond.methodLink M.1.cls index M'.1 ∈ lw_all) (q2 : Cond.instanceMethod M'.1 ∈ lw_all) (q3 : Cond.selects M'.1.cls M'.1 M'.1 ∈ lw_all) (q4 : Cond.initialized M'.1.cls ∈ lw_all) (q5 : Cond.code M'.1 M'.2.1 M'.2.2.2.1 M'.2.2.1 ∈ lw_all)
    (ck : clsOk t) (hcl : (aw_c t).1 = M'.1.cls) (hnm : nameOk M'.1 As.length) (hfit : fitM M M' = true) (h8 : Nat.ble (catS rest) 8 = true) (hst : st = As.reverse ++ rV r :: rest)
    (hY : ∀ (b1 : Nat) (v : Int) (σ1 : Hp), Y b1 = some (v, σ1) → Ct M' (rV (some b1) :: As) (insT b s.1 s.2) (.inl (some (iV v)), σ1))
    (h : (rcv (insT b s.1 s.2) t r).bind (fun b1 => bl dT b s.1 (Y b1) F) = some w) (kk : ∀ (v : Int) (s1 : LSt), F v s1 = some w → AW M σ0 out (pc + 3) L (iV v :: rest) (insT b s1.1 s1.2)) : AW M σ0 out pc L st (insT b s.1 s.2) :=
  AW.VI As rest d q1 q2 q3 q4 q5 ck hcl hnm hfit h8 hst hY (F := fun v σ1 => if dT s.1 b σ1 = true then F v (s.1, σ1) else none) h (fun v σ1 h => by
    obtain ⟨e1, e2⟩ := pz_elim h
    have := kk v _ e2
    rw [show insT b (s.1, σ1).1 (s.1, σ1).2 = σ1 from hd _ _ _ e1] at this
    exact this)
theorem AW.lHI {β : Type} {Y : Nat → Option (Int × Hp)} {F : Int → LSt → Option β} {w : β} {M' : Mi} {index t : Nat} {r : Option Nat} (hd : okT dT) (As rest : List AV) (d : decode M.2.1 pc = .ok (.invokevirtual index, 3)) (q1 : Cond.methodLink M.1.cls index M'.1 ∈ lw_all) (q2 : Cond.instanceMethod M'.1 ∈ lw_all) (q3 : Cond.selects M'.1.cls M'.1 M'.1 ∈ lw_all) (q4 : Cond.initialized M'.1.cls ∈ lw_all) (q5 : Cond.codeWith M'.1 M'.2.1 M'.2.2.2.1 M'.2.2.1 M'.2.2.2.2.2.2 ∈ lw_all)
    (ck : clsOk t) (hcl : (aw_c t).1 = M'.1.cls) (hnm : nameOk M'.1 As.length) (hfit : fitM M M' = true) (h8 : Nat.ble (catS rest) 8 = true) (hst : st = As.reverse ++ rV r :: rest)
    (hY : ∀ (b1 : Nat) (v : Int) (σ1 : Hp), Y b1 = some (v, σ1) → CtH M' (rV (some b1) :: As) (insT b s.1 s.2) (some (iV v)) σ1)
    (h : (rcv (insT b s.1 s.2) t r).bind (fun b1 => bl dT b s.1 (Y b1) F) = some w) (kk : ∀ (v : Int) (s1 : LSt), F v s1 = some w → AW M σ0 out (pc + 3) L (iV v :: rest) (insT b s1.1 s1.2)) : AW M σ0 out pc L st (insT b s.1 s.2) :=
  AW.HI As rest d q1 q2 q3 q4 q5 ck hcl hnm hfit h8 hst hY (F := fun v σ1 => if dT s.1 b σ1 = true then F v (s.1, σ1) else none) h (fun v σ1 h => by
    obtain ⟨e1, e2⟩ := pz_elim h
    have := kk v _ e2
    rw [show insT b (s.1, σ1).1 (s.1, σ1).2 = σ1 from hd _ _ _ e1] at this
    exact this)
theorem AW.mVI {β : Type} {Y : Option (Int × TW)} {F : Int → LSt → Option β} {w : β} {M' : Mi} {index : Nat} (As rest : List AV) (d : decode M.2.1 pc = .ok (.invokevirtual index, 3)) (q1 : Cond.methodLink M.1.cls index M'.1 ∈ lw_all) (q2 : Cond.instanceMethod M'.1 ∈ lw_all) (q3 : Cond.selects M'.1.cls M'.1 M'.1 ∈ lw_all) (q4 : Cond.initialized M'.1.cls ∈ lw_all) (q5 : Cond.code M'.1 M'.2.1 M'.2.2.2.1 M'.2.2.1 ∈ lw_all)
    (hcl : RX8 = M'.1.cls) (hnm : nameOk M'.1 As.length) (hfit : fitM M M' = true) (h8 : Nat.ble (catS rest) 8 = true) (hst : st = As.reverse ++ rV (some b) :: rest)
    (hY : ∀ (v : Int) (t1 : TW), Y = some (v, t1) → Ct M' (rV (some b) :: As) (insT b s.1 s.2) (.inl (some (iV v)), insT b t1 s.2))
    (h : bm s Y F = some w) (kk : ∀ (v : Int) (s1 : LSt), F v s1 = some w → AW M σ0 out (pc + 3) L (iV v :: rest) (insT b s1.1 s1.2)) : AW M σ0 out pc L st (insT b s.1 s.2) :=
  AW.tVI As rest d q1 q2 q3 q4 q5 hcl hnm hfit h8 hst hY (F := fun v t => F v (t, s.2)) h (fun v t1 h => kk v (t1, s.2) h)
end
