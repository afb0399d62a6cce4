set_option maxRecDepth 100000
/-! ===== the twin (LateMirrorsModel) as one pure state: its fields, its arrays (by the numbers of their fields) ===== -/
abbrev TW : Type := (Int → Int) × (Int → Int → Int)
def tln (k : Nat) : Int := match k with
  | 1 => 2000
  | 3 => 2000
  | 5 => 403
  | 6 => 403
  | 7 => 403
  | 8 => 403
  | 9 => 17
  | 21 => 22
  | 22 => 22
  | 23 => 22
  | 24 => 2
  | 25 => 2
  | 26 => 24
  | 27 => 24
  | 28 => 2
  | 29 => 12
  | 30 => 12
  | 31 => 2
  | 32 => 16
  | 33 => 16
  | 34 => 2
  | 35 => 2
  | 36 => 14
  | 37 => 14
  | 39 => 260
  | 40 => 260
  | 41 => 260
  | 42 => 260
  | 43 => 260
  | 45 => 840
  | 46 => 840
  | 47 => 64
  | 49 => 6
  | 50 => 400
  | 52 => 10800
  | 54 => 8
  | 55 => 8
  | 56 => 10800
  | 58 => 8
  | 59 => 8
  | 62 => 1060
  | 63 => 2400
  | 64 => 2400
  | 65 => 300
  | 66 => 8
  | 68 => 20
  | 69 => 20
  | 70 => 20
  | 71 => 20
  | 72 => 3
  | 73 => 32400
  | 74 => 51
  | _ => 0
def ttg (k : Nat) : Nat := match k with
  | 1 => 101
  | 3 => 101
  | 5 => 100
  | 6 => 100
  | 7 => 100
  | 8 => 104
  | 9 => 104
  | 21 => 104
  | 22 => 100
  | 23 => 100
  | 24 => 100
  | 25 => 100
  | 26 => 100
  | 27 => 100
  | 28 => 100
  | 29 => 100
  | 30 => 100
  | 31 => 100
  | 32 => 100
  | 33 => 100
  | 34 => 100
  | 35 => 100
  | 36 => 100
  | 37 => 100
  | 39 => 102
  | 40 => 100
  | 41 => 100
  | 42 => 100
  | 43 => 100
  | 45 => 100
  | 46 => 100
  | 47 => 100
  | 49 => 100
  | 50 => 100
  | 52 => 100
  | 54 => 100
  | 55 => 100
  | 56 => 100
  | 58 => 100
  | 59 => 100
  | 62 => 100
  | 63 => 102
  | 64 => 102
  | 65 => 100
  | 66 => 100
  | 68 => 100
  | 69 => 100
  | 70 => 100
  | 71 => 102
  | 72 => 102
  | 73 => 100
  | 74 => 100
  | _ => 100
def tof (k : Nat) : Nat := match k with
  | 1 => 1
  | 3 => 2
  | 5 => 3
  | 6 => 4
  | 7 => 5
  | 8 => 6
  | 9 => 7
  | 21 => 8
  | 22 => 9
  | 23 => 10
  | 24 => 11
  | 25 => 12
  | 26 => 13
  | 27 => 14
  | 28 => 15
  | 29 => 16
  | 30 => 17
  | 31 => 18
  | 32 => 19
  | 33 => 20
  | 34 => 21
  | 35 => 22
  | 36 => 23
  | 37 => 24
  | 39 => 25
  | 40 => 26
  | 41 => 27
  | 42 => 28
  | 43 => 29
  | 45 => 30
  | 46 => 31
  | 47 => 32
  | 49 => 33
  | 50 => 34
  | 52 => 35
  | 54 => 36
  | 55 => 37
  | 56 => 38
  | 58 => 39
  | 59 => 40
  | 62 => 41
  | 63 => 42
  | 64 => 43
  | 65 => 44
  | 66 => 45
  | 68 => 46
  | 69 => 47
  | 70 => 48
  | 71 => 49
  | 72 => 50
  | 73 => 51
  | 74 => 52
  | _ => 0
def tfd (j : Nat) : Nat := match j with
  | 1 => 1
  | 2 => 3
  | 3 => 5
  | 4 => 6
  | 5 => 7
  | 6 => 8
  | 7 => 9
  | 8 => 21
  | 9 => 22
  | 10 => 23
  | 11 => 24
  | 12 => 25
  | 13 => 26
  | 14 => 27
  | 15 => 28
  | 16 => 29
  | 17 => 30
  | 18 => 31
  | 19 => 32
  | 20 => 33
  | 21 => 34
  | 22 => 35
  | 23 => 36
  | 24 => 37
  | 25 => 39
  | 26 => 40
  | 27 => 41
  | 28 => 42
  | 29 => 43
  | 30 => 45
  | 31 => 46
  | 32 => 47
  | 33 => 49
  | 34 => 50
  | 35 => 52
  | 36 => 54
  | 37 => 55
  | 38 => 56
  | 39 => 58
  | 40 => 59
  | 41 => 62
  | 42 => 63
  | 43 => 64
  | 44 => 65
  | 45 => 66
  | 46 => 68
  | 47 => 69
  | 48 => 70
  | 49 => 71
  | 50 => 72
  | 51 => 73
  | 52 => 74
  | _ => 0
abbrev tNA : Nat := 52
theorem tfd_inj : ∀ i j : Nat, 1 ≤ i → i ≤ tNA → 1 ≤ j → j ≤ tNA → tfd i = tfd j → i = j := by
  have key : ∀ i j : Fin (tNA + 1), 1 ≤ i.val → 1 ≤ j.val → tfd i.val = tfd j.val → i.val = j.val := by decide +kernel
  intro i j h1 h2 h3 h4 h
  exact key ⟨i, by omega⟩ ⟨j, by omega⟩ h1 h3 h
def trf (b : Nat) (j : Int) : Option Nat := if 1 ≤ tof j.toNat then some (b + tof j.toNat) else none
def insT (b : Nat) (τ : TW) (σ : Hp) : Hp := (fun a => if a = b then some (8, 75, τ.1, trf b) else if b < a ∧ a ≤ b + tNA then some (ttg (tfd (a - b)), tln (tfd (a - b)), τ.2 (tfd (a - b)), fun _ => none) else σ.1 a, σ.2)
def isA (k : Nat) : Prop := tfd (tof k) = k ∧ 1 ≤ tof k ∧ tof k ≤ tNA
theorem ins_b (b : Nat) (τ : TW) (σ : Hp) : (insT b τ σ).1 b = some (8, 75, τ.1, trf b) := by simp [insT]
theorem ins_a (b : Nat) (τ : TW) (σ : Hp) {k : Nat} (h : isA k) : (insT b τ σ).1 (b + tof k) = some (ttg k, tln k, τ.2 k, fun _ => none) := by
  obtain ⟨h1, h2, h3⟩ := h
  have e1 : ¬ b + tof k = b := by omega
  have e2 : b < b + tof k ∧ b + tof k ≤ b + tNA := by omega
  show (if b + tof k = b then _ else if b < b + tof k ∧ b + tof k ≤ b + tNA then _ else _) = _
  rw [if_neg e1, if_pos e2, Nat.add_sub_cancel_left, h1]
theorem ins_o {b a : Nat} (τ : TW) (σ : Hp) (h : a < b ∨ b + tNA < a) : (insT b τ σ).1 a = σ.1 a := by
  have e1 : ¬ a = b := by omega
  have e2 : ¬ (b < a ∧ a ≤ b + tNA) := by omega
  show (if a = b then _ else if b < a ∧ a ≤ b + tNA then _ else _) = _
  rw [if_neg e1, if_neg e2]
def tp (τ : TW) (k v : Int) : TW := (fu τ.1 k v, τ.2)
def ta (τ : TW) (k : Nat) (i : Int) : Option Int := if 0 ≤ nrm i ∧ nrm i < tln k then some (τ.2 k (nrm i)) else none
def tst (τ : TW) (k i v : Int) : TW := (τ.1, fu τ.2 k (fu (τ.2 k) i v))
def ts (τ : TW) (k : Nat) (i v : Int) : Option TW := if 0 ≤ nrm i ∧ nrm i < tln k then some (tst τ k (nrm i) v) else none
def tz (τ : TW) (k v : Int) : Option TW := if nrm v = 0 ∨ nrm v = 1 then some (tp τ k v) else none
theorem ins_p (b : Nat) (τ : TW) (σ : Hp) (k v : Int) : upc (insT b τ σ) b (8, 75, fu τ.1 k v, trf b) = insT b (tp τ k v) σ := by
  refine Prod.ext (funext fun a => ?_) rfl
  show (if a = b then _ else (insT b τ σ).1 a) = (if a = b then _ else _)
  by_cases e : a = b
  · rw [if_pos e, if_pos e]; rfl
  · rw [if_neg e, if_neg e]
    show (if a = b then _ else _) = _
    rw [if_neg e]
    rfl
theorem ins_s (b : Nat) (τ : TW) (σ : Hp) {k : Nat} (h : isA k) (i v : Int) : upc (insT b τ σ) (b + tof k) (ttg k, tln k, fu (τ.2 k) i v, fun _ => none) = insT b (tst τ k i v) σ := by
  obtain ⟨h1, h2, h3⟩ := h
  refine Prod.ext (funext fun a => ?_) rfl
  show (if a = b + tof k then _ else if a = b then _ else if b < a ∧ a ≤ b + tNA then _ else _) = (if a = b then _ else if b < a ∧ a ≤ b + tNA then _ else _)
  by_cases e0 : a = b
  · rw [if_neg (by omega), if_pos e0, if_pos e0]; rfl
  · rw [if_neg e0, if_neg e0]
    by_cases e : a = b + tof k
    · subst e
      have e2 : b < b + tof k ∧ b + tof k ≤ b + tNA := by omega
      rw [if_pos rfl, if_pos e2, Nat.add_sub_cancel_left, h1]
      show _ = some (ttg k, tln k, fu τ.2 k (fu (τ.2 k) i v) k, _)
      rw [fu_self]
    · rw [if_neg e]
      by_cases e2 : b < a ∧ a ≤ b + tNA
      · rw [if_pos e2, if_pos e2]
        have hne : ((tfd (a - b) : Nat) : Int) ≠ (k : Int) := by
          intro q
          have q2 : tfd (a - b) = tfd (tof k) := by rw [h1]; exact Int.ofNat.inj q
          have := tfd_inj (a - b) (tof k) (by omega) (by omega) h2 h3 q2
          omega
        show _ = some (_, _, fu τ.2 k (fu (τ.2 k) i v) (tfd (a - b) : Nat), _)
        rw [fu_ne _ _ hne]
      · rw [if_neg e2, if_neg e2]
theorem cel_at {σ : Hp} {t a : Nat} {c : Ce} (h : σ.1 a = some c) (ht : c.1 = t) : cel σ t (some a) = some (a, c) := by
  unfold cel
  rw [Option.bind_some, h, Option.bind_some, if_pos ht]
theorem tw_gI (b : Nat) (τ : TW) (σ : Hp) (k : Nat) : gI (insT b τ σ) 8 (some b) k = some (τ.1 k) := by
  unfold gI
  rw [cel_at (ins_b b τ σ) rfl]; rfl
theorem tw_gR (b : Nat) (τ : TW) (σ : Hp) {k : Nat} (h : isA k) : gR (insT b τ σ) 8 (some b) k = some (some (b + tof k)) := by
  unfold gR
  rw [cel_at (ins_b b τ σ) rfl]
  show some (trf b k) = _
  unfold trf
  rw [Int.toNat_natCast, if_pos h.2.1]
theorem tw_pI (b : Nat) (τ : TW) (σ : Hp) (k : Nat) (v : Int) : pI (insT b τ σ) 8 (some b) k v = some (insT b (tp τ k v) σ) := by
  unfold pI
  rw [cel_at (ins_b b τ σ) rfl]
  exact congrArg some (ins_p b τ σ k v)
theorem tw_aI (b : Nat) (τ : TW) (σ : Hp) {k : Nat} (h : isA k) (i : Int) : aI (insT b τ σ) (ttg k) (some (b + tof k)) i = ta τ k i := by
  unfold aI
  rw [cel_at (ins_a b τ σ h) rfl]; rfl
theorem tw_sI (b : Nat) (τ : TW) (σ : Hp) {k : Nat} (h : isA k) (i v : Int) : sI (insT b τ σ) (ttg k) (some (b + tof k)) i v = (ts τ k i v).map (fun τ' => insT b τ' σ) := by
  unfold sI ts
  rw [cel_at (ins_a b τ σ h) rfl]
  show (if 0 ≤ nrm i ∧ nrm i < tln k then _ else _) = _
  by_cases hi : 0 ≤ nrm i ∧ nrm i < tln k
  · rw [if_pos hi, if_pos hi]
    exact congrArg some (ins_s b τ σ h (nrm i) v)
  · rw [if_neg hi, if_neg hi]; rfl
theorem tw_rcv (b : Nat) (τ : TW) (σ : Hp) : rcv (insT b τ σ) 8 (some b) = some b := by
  unfold rcv
  rw [cel_at (ins_b b τ σ) rfl]; rfl
def bt_ {α β : Type} (x : Option (α × TW)) (f : α → TW → Option β) : Option β := x.bind fun q => f q.1 q.2
section
variable {M : Mi} {σ0 : Hp} {out : Ot} {pc : Nat} {L : List (Option AV)} {st : List AV} {σ : Hp} {b : Nat} {τ : TW}
theorem AW.tgI {index k : Nat} (d : decode M.2.1 pc = .ok (.getfield index, 3)) (hk : k < 75) (hm : ∀ c : Ce, mv (aw_ty 8 k) c k = .int (iI (c.2.2.1 k))) (q : Cond.fieldLink M.1.cls index RX8 (TX8 k).2.1 (TX8 k).2.2.1 ∈ lw_all) (hs : RX8 = (TX8 k).1)
    (kk : AW M σ0 out (pc + 3) L (iV (τ.1 k) :: st) (insT b τ σ)) : AW M σ0 out pc L (rV (some b) :: st) (insT b τ σ) :=
  AW.getI (F := some) (w := τ.1 k) d ck8 hk hm q (Or.inl hs) (by rw [tw_gI]; rfl) (fun v hv => by cases hv; exact kk)
theorem AW.tgR {index k : Nat} (d : decode M.2.1 pc = .ok (.getfield index, 3)) (hk : k < 75) (hm : ∀ c : Ce, mv (aw_ty 8 k) c k = va_rf (c.2.2.2 k)) (q : Cond.fieldLink M.1.cls index RX8 (TX8 k).2.1 (TX8 k).2.2.1 ∈ lw_all) (hs : RX8 = (TX8 k).1) (hA : isA k)
    (kk : AW M σ0 out (pc + 3) L (rV (some (b + tof k)) :: st) (insT b τ σ)) : AW M σ0 out pc L (rV (some b) :: st) (insT b τ σ) :=
  AW.getR (F := some) (w := some (b + tof k)) d ck8 hk hm q (Or.inl hs) (by rw [tw_gR b τ σ hA]; rfl) (fun v hv => by cases hv; exact kk)
theorem AW.tpI {index k : Nat} {v : Int} (d : decode M.2.1 pc = .ok (.putfield index, 3)) (hk : k < 75) (hty : aw_ty 8 k = .int) (q : Cond.fieldLink M.1.cls index RX8 (TX8 k).2.1 (TX8 k).2.2.1 ∈ lw_all) (hs : RX8 = (TX8 k).1) (hfin : (TX8 k).2.2.2 = false)
    (kk : AW M σ0 out (pc + 3) L st (insT b (tp τ k v) σ)) : AW M σ0 out pc L (iV v :: rV (some b) :: st) (insT b τ σ) :=
  AW.putI (F := some) (w := insT b (tp τ k v) σ) d ck8 ⟨by decide, by decide⟩ hk hty q (Or.inl hs) (Or.inl hfin) (by rw [tw_pI]; rfl) (fun v hv => by cases hv; exact kk)
theorem AW.tpZ {β : Type} {F : TW → Option β} {w : β} {index k : Nat} {v : Int} (d : decode M.2.1 pc = .ok (.putfield index, 3)) (hk : k < 75) (hty : aw_ty 8 k = .boolean) (q : Cond.fieldLink M.1.cls index RX8 (TX8 k).2.1 (TX8 k).2.2.1 ∈ lw_all) (hs : RX8 = (TX8 k).1) (hfin : (TX8 k).2.2.2 = false)
    (h : (tz τ k v).bind F = some w) (kk : ∀ τ1 : TW, F τ1 = some w → AW M σ0 out (pc + 3) L st (insT b τ1 σ)) : AW M σ0 out pc L (iV v :: rV (some b) :: st) (insT b τ σ) := by
  obtain ⟨τ1, h1, h2⟩ := ob_some h
  refine AW.putZ (F := some) (w := insT b τ1 σ) d ck8 ⟨by decide, by decide⟩ hk hty q (Or.inl hs) (Or.inl hfin) ?_ (fun v hv => by cases hv; exact kk τ1 h2)
  unfold tz at h1
  unfold pZ
  by_cases hz : nrm v = 0 ∨ nrm v = 1
  · rw [if_pos hz] at h1 ⊢
    cases h1
    rw [tw_pI]; rfl
  · rw [if_neg hz] at h1
    cases h1
theorem AW.tiald {β : Type} {F : Int → Option β} {w : β} {k : Nat} {i : Int} (d : decode M.2.1 pc = .ok (.iaload, 1)) (hA : isA k) (ht : 100 ≤ ttg k) (hty : aw_el (ttg k) = .int)
    (h : (ta τ k i).bind F = some w) (kk : ∀ v : Int, F v = some w → AW M σ0 out (pc + 1) L (iV v :: st) (insT b τ σ)) : AW M σ0 out pc L (iV i :: rV (some (b + tof k)) :: st) (insT b τ σ) :=
  AW.iald d ht hty (by rw [tw_aI b τ σ hA]; exact h) kk
theorem AW.tbald {β : Type} {F : Int → Option β} {w : β} {k : Nat} {i : Int} (d : decode M.2.1 pc = .ok (.baload, 1)) (hA : isA k) (ht : 100 ≤ ttg k) (hty : aw_el (ttg k) = .byte)
    (h : (ta τ k i).bind F = some w) (kk : ∀ v : Int, F v = some w → AW M σ0 out (pc + 1) L (iV v :: st) (insT b τ σ)) : AW M σ0 out pc L (iV i :: rV (some (b + tof k)) :: st) (insT b τ σ) :=
  AW.bald d ht hty (by rw [tw_aI b τ σ hA]; exact h) kk
theorem AW.tzald {β : Type} {F : Int → Option β} {w : β} {k : Nat} {i : Int} (d : decode M.2.1 pc = .ok (.baload, 1)) (hA : isA k) (ht : 100 ≤ ttg k) (hty : aw_el (ttg k) = .boolean)
    (h : (ta τ k i).bind F = some w) (kk : ∀ v : Int, F v = some w → AW M σ0 out (pc + 1) L (iV v :: st) (insT b τ σ)) : AW M σ0 out pc L (iV i :: rV (some (b + tof k)) :: st) (insT b τ σ) :=
  AW.zald d ht hty (by rw [tw_aI b τ σ hA]; exact h) kk
theorem AW.tlald {β : Type} {F : Int → Option β} {w : β} {k : Nat} {i : Int} (d : decode M.2.1 pc = .ok (.laload, 1)) (hA : isA k) (ht : 100 ≤ ttg k) (hty : aw_el (ttg k) = .long)
    (h : (ta τ k i).bind F = some w) (kk : ∀ v : Int, F v = some w → AW M σ0 out (pc + 1) L (jV v :: st) (insT b τ σ)) : AW M σ0 out pc L (iV i :: rV (some (b + tof k)) :: st) (insT b τ σ) :=
  AW.lald d ht hty (by rw [tw_aI b τ σ hA]; exact h) kk
theorem AW.tiast {β : Type} {F : TW → Option β} {w : β} {k : Nat} {i v : Int} (d : decode M.2.1 pc = .ok (.iastore, 1)) (hA : isA k) (ht : 100 ≤ ttg k) (hmu : mutT (ttg k)) (hty : aw_el (ttg k) = .int)
    (h : (ts τ k i v).bind F = some w) (kk : ∀ τ1 : TW, F τ1 = some w → AW M σ0 out (pc + 1) L st (insT b τ1 σ)) : AW M σ0 out pc L (iV v :: iV i :: rV (some (b + tof k)) :: st) (insT b τ σ) := by
  obtain ⟨τ1, h1, h2⟩ := ob_some h
  exact AW.iast (F := some) (w := insT b τ1 σ) d ht hmu hty (by rw [tw_sI b τ σ hA, h1]; rfl) (fun v hv => by cases hv; exact kk τ1 h2)
theorem AW.tbast {β : Type} {F : TW → Option β} {w : β} {k : Nat} {i v : Int} (d : decode M.2.1 pc = .ok (.bastore, 1)) (hA : isA k) (ht : 100 ≤ ttg k) (hmu : mutT (ttg k)) (hty : aw_el (ttg k) = .byte)
    (h : (ts τ k i (i8I v)).bind F = some w) (kk : ∀ τ1 : TW, F τ1 = some w → AW M σ0 out (pc + 1) L st (insT b τ1 σ)) : AW M σ0 out pc L (iV v :: iV i :: rV (some (b + tof k)) :: st) (insT b τ σ) := by
  obtain ⟨τ1, h1, h2⟩ := ob_some h
  exact AW.bast (F := some) (w := insT b τ1 σ) d ht hmu hty (by rw [tw_sI b τ σ hA, h1]; rfl) (fun v hv => by cases hv; exact kk τ1 h2)
theorem AW.tzast {β : Type} {F : TW → Option β} {w : β} {k : Nat} {i v : Int} (d : decode M.2.1 pc = .ok (.bastore, 1)) (hA : isA k) (ht : 100 ≤ ttg k) (hmu : mutT (ttg k)) (hty : aw_el (ttg k) = .boolean)
    (h : (ts τ k i (b1I v)).bind F = some w) (kk : ∀ τ1 : TW, F τ1 = some w → AW M σ0 out (pc + 1) L st (insT b τ1 σ)) : AW M σ0 out pc L (iV v :: iV i :: rV (some (b + tof k)) :: st) (insT b τ σ) := by
  obtain ⟨τ1, h1, h2⟩ := ob_some h
  exact AW.zast (F := some) (w := insT b τ1 σ) d ht hmu hty (by rw [tw_sI b τ σ hA, h1]; rfl) (fun v hv => by cases hv; exact kk τ1 h2)
theorem AW.tlast {β : Type} {F : TW → Option β} {w : β} {k : Nat} {i v : Int} (d : decode M.2.1 pc = .ok (.lastore, 1)) (hA : isA k) (ht : 100 ≤ ttg k) (hmu : mutT (ttg k)) (hty : aw_el (ttg k) = .long)
    (h : (ts τ k i v).bind F = some w) (kk : ∀ τ1 : TW, F τ1 = some w → AW M σ0 out (pc + 1) L st (insT b τ1 σ)) : AW M σ0 out pc L (jV v :: iV i :: rV (some (b + tof k)) :: st) (insT b τ σ) := by
  obtain ⟨τ1, h1, h2⟩ := ob_some h
  exact AW.last (F := some) (w := insT b τ1 σ) d ht hmu hty (by rw [tw_sI b τ σ hA, h1]; rfl) (fun v hv => by cases hv; exact kk τ1 h2)
theorem AW.tinvV {α β : Type} {Y : Option (α × TW)} {F : α → TW → Option β} {w : β} {M' : Mi} {index : Nat} (vl : α → Option AV) (As rest : List AV) (d : decode M.2.1 pc = .ok (.invokevirtual index, 3))
    (q1 : Cond.methodLink M.1.cls index M'.1 ∈ lw_all) (q2 : Cond.instanceMethod M'.1 ∈ lw_all) (q3 : Cond.selects M'.1.cls M'.1 M'.1 ∈ lw_all) (q4 : Cond.initialized M'.1.cls ∈ lw_all) (q5 : Cond.code M'.1 M'.2.1 M'.2.2.2.1 M'.2.2.1 ∈ lw_all)
    (hcl : RX8 = M'.1.cls) (hnm : nameOk M'.1 As.length) (hfit : fitM M M' = true) (h8 : Nat.ble (catS rest) 8 = true) (hst : st = As.reverse ++ rV (some b) :: rest)
    (hY : ∀ (v : α) (τ1 : TW), Y = some (v, τ1) → Ct M' (rV (some b) :: As) (insT b τ σ) (.inl (vl v), insT b τ1 σ))
    (h : bt_ Y F = some w) (kk : ∀ (v : α) (τ1 : TW), F v τ1 = some w → AW M σ0 out (pc + 3) L ((vl v).toList ++ rest) (insT b τ1 σ)) : AW M σ0 out pc L st (insT b τ σ) := by
  unfold bt_ at h
  obtain ⟨⟨v, τ1⟩, h1, h2⟩ := ob_some h
  refine AW.invV (t := 8) (r := some b) (Y := fun b' => if b' = b then some (v, insT b τ1 σ) else none) (F := fun v s => some (v, s)) (w := (v, insT b τ1 σ)) vl As rest d q1 q2 q3 q4 q5 (by decide) (by decide) hcl hnm hfit h8 hst ?_ ?_ ?_
  · intro b' v' σ1 e
    by_cases hb : b' = b
    · subst hb
      rw [if_pos rfl] at e
      cases e
      exact hY v τ1 h1
    · rw [if_neg hb] at e
      cases e
  · rw [tw_rcv, Option.bind_some]
    show bn (if b = b then some (v, insT b τ1 σ) else none) _ = _
    rw [if_pos rfl]; rfl
  · intro v' σ1 e
    cases e
    exact kk v τ1 h2
theorem AW.tinvS {α β : Type} {Y : Option (α × TW)} {F : α → TW → Option β} {w : β} {M' : Mi} {index : Nat} (vl : α → Option AV) (As rest : List AV) (d : decode M.2.1 pc = .ok (.invokestatic index, 3))
    (q1 : Cond.methodLink M.1.cls index M'.1 ∈ lw_all) (q2 : Cond.static M'.1 ∈ lw_all) (q3 : Cond.initialized M'.1.cls ∈ lw_all) (q4 : Cond.code M'.1 M'.2.1 M'.2.2.2.1 M'.2.2.1 ∈ lw_all)
    (hnm : nameOk M'.1 As.length) (hfit : fitM M M' = true) (h8 : Nat.ble (catS rest) 8 = true) (hst : st = As.reverse ++ rest)
    (hY : ∀ (v : α) (τ1 : TW), Y = some (v, τ1) → Ct M' As (insT b τ σ) (.inl (vl v), insT b τ1 σ))
    (h : bt_ Y F = some w) (kk : ∀ (v : α) (τ1 : TW), F v τ1 = some w → AW M σ0 out (pc + 3) L ((vl v).toList ++ rest) (insT b τ1 σ)) : AW M σ0 out pc L st (insT b τ σ) := by
  unfold bt_ at h
  obtain ⟨⟨v, τ1⟩, h1, h2⟩ := ob_some h
  refine AW.invS (Y := some (v, insT b τ1 σ)) (F := fun v s => some (v, s)) (w := (v, insT b τ1 σ)) vl As rest d q1 q2 q3 q4 hnm hfit h8 hst ?_ rfl ?_
  · intro v' σ1 e
    cases e
    exact hY v τ1 h1
  · intro v' σ1 e
    cases e
    exact kk v τ1 h2
end
