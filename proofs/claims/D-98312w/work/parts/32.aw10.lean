set_option maxRecDepth 100000
/-! ===== calls: constructors, nest mates, methods of a class above ===== -/
section
variable {M : Mi} {σ0 : Hp} {out : Ot} {pc : Nat} {L : List (Option AV)} {st : List AV} {σ : Hp}
theorem AW.IU {β : Type} {Y : Nat → Option (Unit × Hp)} {F : Unit → Hp → Option β} {w : β} {M' : Mi} {index t : Nat} {r : Option Nat} (As rest : List AV) (d : decode M.2.1 pc = .ok (.invokespecial index, 3))
    (q1 : Cond.methodLink M.1.cls index M'.1 ∈ lw_all) (q2 : Cond.instanceMethod M'.1 ∈ lw_all) (q4 : Cond.initialized M'.1.cls ∈ lw_all) (q5 : Cond.code M'.1 M'.2.1 M'.2.2.2.1 none ∈ lw_all) (hret : M'.2.2.1 = none) (hin : M'.1.name = "<init>")
    (hnm : nameOk M'.1 As.length) (hfit : fitM M M' = true) (h8 : Nat.ble (catS rest) 8 = true) (hst : st = As.reverse ++ rV r :: rest)
    (hY : ∀ (b : Nat) (v : Unit) (σ1 : Hp), Y b = some (v, σ1) → Ct M' (rV (some b) :: As) σ (.inl none, σ1))
    (h : (rcv σ t r).bind (fun b => bn (Y b) F) = some w) (kk : ∀ (v : Unit) (σ1 : Hp), F v σ1 = some w → AW M σ0 out (pc + 3) L rest σ1) : AW M σ0 out pc L st σ :=
  AW.invI (fun _ => none) As rest d q1 q2 q4 q5 hret hin hnm hfit h8 hst hY h kk
theorem AW.NU {β : Type} {Y : Nat → Option (Unit × Hp)} {F : Unit → Hp → Option β} {w : β} {M' : Mi} {index t : Nat} {r : Option Nat} (As rest : List AV) (d : decode M.2.1 pc = .ok (.invokespecial index, 3))
    (q1 : (M.1.cls, index, M'.1, "LateMirrors") ∈ aw_nl) (q2 : Cond.instanceMethod M'.1 ∈ lw_all) (q4 : Cond.initialized M'.1.cls ∈ lw_all) (q5 : Cond.code M'.1 M'.2.1 M'.2.2.2.1 none ∈ lw_all) (hret : M'.2.2.1 = none) (hin : M'.1.name = "<init>")
    (hnm : nameOk M'.1 As.length) (hfit : fitM M M' = true) (h8 : Nat.ble (catS rest) 8 = true) (hst : st = As.reverse ++ rV r :: rest)
    (hY : ∀ (b : Nat) (v : Unit) (σ1 : Hp), Y b = some (v, σ1) → Ct M' (rV (some b) :: As) σ (.inl none, σ1))
    (h : (rcv σ t r).bind (fun b => bn (Y b) F) = some w) (kk : ∀ (v : Unit) (σ1 : Hp), F v σ1 = some w → AW M σ0 out (pc + 3) L rest σ1) : AW M σ0 out pc L st σ := by
  obtain ⟨b, hb, h9⟩ := ob_some h
  obtain ⟨rfl, x, hx, hxt⟩ := rcv_some hb
  unfold bn at h9
  obtain ⟨⟨v, σ1⟩, hv, h7⟩ := ob_some h9
  refine AW.after (rv := none) (hY b v σ1 hv) (kk v σ1 h7) fun p l e R s m args below meth c D A O H locs ls cells slots hR hL hS hp hM hf => ?_
  have hts := O.1.2.2.2.2.2
  have hf2 := fitM_ok hfit
  rw [hret] at hM
  refine ⟨_, va_runIN (As := As.map tv) (rest := rest.map tv) (n := As.length) (cc := M.2.1) (nL := M.2.2.2.1) (Ts := lw_all) (own := M.1.cls) ⟨O.1.1, O.1.2.1, O.1.2.2.2.1, O.1.2.2.2.2.1, hts⟩ hM ⟨va_cnB As.length hts (lw_meth q5) rfl rfl rfl (O.2.2.2.2.1 _ q1) (hts _ q4) hnm ⟨by rw [O.2.2.1.2.2.1]; exact hf2.1, by rw [O.2.2.1.2.2.2.1]; exact hf2.2⟩, hin, hts _ q2⟩ hp rfl (by simp) hL.1 ?_ (room8 h8) d hf⟩
  show st.map tv = _
  rw [hst]
  simp [tv, va_rf]
theorem AW.NS {β : Type} {Y : Option (Int × Hp)} {F : Int → Hp → Option β} {w : β} {M' : Mi} {index : Nat} (As rest : List AV) (d : decode M.2.1 pc = .ok (.invokestatic index, 3))
    (q1 : (M.1.cls, index, M'.1, "LateMirrors") ∈ aw_nl) (q2 : Cond.static M'.1 ∈ lw_all) (q3 : Cond.initialized M'.1.cls ∈ lw_all) (q4 : Cond.code M'.1 M'.2.1 M'.2.2.2.1 M'.2.2.1 ∈ lw_all)
    (hnm : nameOk M'.1 As.length) (hfit : fitM M M' = true) (h8 : Nat.ble (catS rest) 8 = true) (hst : st = As.reverse ++ rest)
    (hY : ∀ (v : Int) (σ1 : Hp), Y = some (v, σ1) → Ct M' As σ (.inl (some (iV v)), σ1))
    (h : bn Y F = some w) (kk : ∀ (v : Int) (σ1 : Hp), F v σ1 = some w → AW M σ0 out (pc + 3) L (iV v :: rest) σ1) : AW M σ0 out pc L st σ := by
  unfold bn at h
  obtain ⟨⟨v, σ1⟩, hv, h7⟩ := ob_some h
  refine AW.after (rv := some (iV v)) (hY v σ1 hv) (kk v σ1 h7) fun p l e R s m args below meth c D A O H locs ls cells slots hR hL hS hp hM hf => ?_
  have hts := O.1.2.2.2.2.2
  have hf2 := fitM_ok hfit
  refine ⟨_, va_runSN (As := As.map tv) (rest := rest.map tv) (n := As.length) (cc := M.2.1) (nL := M.2.2.2.1) (Ts := lw_all) (own := M.1.cls) ⟨O.1.1, O.1.2.1, O.1.2.2.2.1, O.1.2.2.2.2.1, hts⟩ hM ⟨va_cnB As.length hts (lw_meth q4) rfl rfl rfl (O.2.2.2.2.1 _ q1) (hts _ q3) hnm ⟨by rw [O.2.2.1.2.2.1]; exact hf2.1, by rw [O.2.2.1.2.2.2.1]; exact hf2.2⟩, hts _ q2, trivial⟩ hp rfl (by simp) hL.1 ?_ (room8 h8) d hf⟩
  show st.map tv = _
  rw [hst]
  simp
/-- a call through an object of a class below: x as the code names it, y what it selects -/
theorem AW.invU {α β : Type} {Y : Nat → Option (α × Hp)} {F : α → Hp → Option β} {w : β} {M' : Mi} {index t : Nat} {r : Option Nat} {x : MethodName} (vl : α → Option AV) (As rest : List AV) (d : decode M.2.1 pc = .ok (.invokevirtual index, 3))
    (q1 : Cond.methodLink M.1.cls index x ∈ lw_all) (q2 : Cond.sameMethod x.cls x.cls x.name x.desc ∈ lw_all) (q3 : Cond.selects (aw_c t).1 x M'.1 ∈ lw_all ∨ (x = M'.1 ∧ ((aw_c t).1, x) ∈ aw_sl)) (q4 : Cond.instanceMethod M'.1 ∈ lw_all) (q5 : Cond.initialized M'.1.cls ∈ lw_all) (q6 : Cond.code M'.1 M'.2.1 M'.2.2.2.1 M'.2.2.1 ∈ lw_all)
    (hdecl : x ∈ aw_dc ∨ (x = M'.1 ∨ ∃ (bb : ByteArray) (n : Nat) (rr : Option FieldType), Cond.instanceMethod x ∈ lw_all ∧ Cond.code x bb n rr ∈ lw_all))
    (ck : clsOk t) (hnm : nameOk x As.length) (hfit : fitM M M' = true) (h8 : Nat.ble (catS rest) 8 = true) (hst : st = As.reverse ++ rV r :: rest)
    (hY : ∀ (b : Nat) (v : α) (σ1 : Hp), Y b = some (v, σ1) → Ct M' (rV (some b) :: As) σ (.inl (vl v), σ1))
    (h : (rcv σ t r).bind (fun b => bn (Y b) F) = some w) (kk : ∀ (v : α) (σ1 : Hp), F v σ1 = some w → AW M σ0 out (pc + 3) L ((vl v).toList ++ rest) σ1) : AW M σ0 out pc L st σ := by
  obtain ⟨b, hb, h9⟩ := ob_some h
  obtain ⟨rfl, y, hy, hyt⟩ := rcv_some hb
  subst hyt
  unfold bn at h9
  obtain ⟨⟨v, σ1⟩, hv, h7⟩ := ob_some h9
  refine AW.after (hY b v σ1 hv) (kk v σ1 h7) fun p l e R s m args below meth c D A O H locs ls cells slots hR hL hS hp hM hf => ?_
  have hts := O.1.2.2.2.2.2
  have hf2 := fitM_ok hfit
  have hd : va_Decl s x := by
    rcases hdecl with hd | hd | ⟨bb, n, rr, d1, d2⟩
    · exact va_Decl.abs (O.2.2.2.2.2.2.1 _ hd)
    · rw [hd]; exact va_Decl.of (hts _ q4) (hts _ q6)
    · exact va_Decl.of (hts _ d1) (hts _ d2)
  have hsel : (Cond.selects (aw_c y.1).1 x M'.1).before args s = true := by
    rcases q3 with q3 | ⟨q3, q9⟩
    · exact hts _ q3
    · have := O.2.2.2.2.2.2.2.2.2.2.2 _ q9
      rw [← q3]
      exact va_Nw.use (by first | rfl | simp [Cond.onTables]) this
  have hG := lw_meth q6
  have cw : va_CU R s args M.1.cls (aw_c y.1).1 x.cls index x M'.1 M'.2.1 M'.2.2.2.1 M'.2.2.1 (ws_ M'.1 M'.2.1 M'.2.2.2.1 M'.2.2.1) (cRm M' σ σ1) (σ1.2.1 - σ.2.1) (σ1.2.2.1 - σ.2.2.1) As.length := by
    refine ⟨⟨rfl, rfl, by rw [O.2.2.1.2.2.1]; exact hf2.1, by rw [O.2.2.1.2.2.2.1]; exact hf2.2, pay_in hts hG, List.mem_cons_self⟩, hts _ q6, hts _ q5, ⟨hnm.1, hnm.2.1⟩, fun sig hsig => ?_, hts _ q1, hts _ q2, hd, hsel, hts _ q4⟩
    have h2 := hnm.2.2
    rw [hsig] at h2
    exact (Option.some.inj h2).symm
  refine ⟨_, va_runU (As := As.map tv) (rest := rest.map tv) (n := As.length) (cc := M.2.1) (nL := M.2.2.2.1) (Ts := lw_all) (own := M.1.cls) ⟨O.1.1, O.1.2.1, O.1.2.2.2.1, O.1.2.2.2.2.1, hts⟩ hM cw ⟨hp.1, cls_at O (hR.2 b y hy) ck, hp.2⟩ rfl (by simp) hL.1 ?_ (room8 h8) d hf⟩
  show st.map tv = _
  rw [hst]
  simp [tv, va_rf]
/-- super.m(..) -/
theorem AW.invSU {α β : Type} {Y : Nat → Option (α × Hp)} {F : α → Hp → Option β} {w : β} {M' : Mi} {index t : Nat} {r : Option Nat} (vl : α → Option AV) (As rest : List AV) (d : decode M.2.1 pc = .ok (.invokespecial index, 3))
    (q1 : Cond.methodLink M.1.cls index M'.1 ∈ lw_all) (q2 : Cond.sameMethod M'.1.cls M'.1.cls M'.1.name M'.1.desc ∈ lw_all) (q3 : Cond.superclass M.1.cls M'.1.cls ∈ lw_all) (q4 : Cond.instanceMethod M'.1 ∈ lw_all) (q5 : Cond.initialized M'.1.cls ∈ lw_all) (q6 : Cond.code M'.1 M'.2.1 M'.2.2.2.1 M'.2.2.1 ∈ lw_all)
    (hne : M'.1.name ≠ "<init>") (ck : clsOk t) (hnm : nameOk M'.1 As.length) (hfit : fitM M M' = true) (h8 : Nat.ble (catS rest) 8 = true) (hst : st = As.reverse ++ rV r :: rest)
    (hY : ∀ (b : Nat) (v : α) (σ1 : Hp), Y b = some (v, σ1) → Ct M' (rV (some b) :: As) σ (.inl (vl v), σ1))
    (h : (rcv σ t r).bind (fun b => bn (Y b) F) = some w) (kk : ∀ (v : α) (σ1 : Hp), F v σ1 = some w → AW M σ0 out (pc + 3) L ((vl v).toList ++ rest) σ1) : AW M σ0 out pc L st σ := by
  obtain ⟨b, hb, h9⟩ := ob_some h
  obtain ⟨rfl, y, hy, hyt⟩ := rcv_some hb
  subst hyt
  unfold bn at h9
  obtain ⟨⟨v, σ1⟩, hv, h7⟩ := ob_some h9
  refine AW.after (hY b v σ1 hv) (kk v σ1 h7) fun p l e R s m args below meth c D A O H locs ls cells slots hR hL hS hp hM hf => ?_
  have hts := O.1.2.2.2.2.2
  have hf2 := fitM_ok hfit
  have hG := lw_meth q6
  have cw : va_CS R s args M.1.cls index M'.1 M'.2.1 M'.2.2.2.1 M'.2.2.1 (ws_ M'.1 M'.2.1 M'.2.2.2.1 M'.2.2.1) (cRm M' σ σ1) (σ1.2.1 - σ.2.1) (σ1.2.2.1 - σ.2.2.1) As.length := by
    refine ⟨⟨rfl, rfl, by rw [O.2.2.1.2.2.1]; exact hf2.1, by rw [O.2.2.1.2.2.2.1]; exact hf2.2, pay_in hts hG, List.mem_cons_self⟩, hts _ q1, hts _ q2, hts _ q3, hts _ q4, hts _ q5, hts _ q6, hne, fun sig hsig => ?_⟩
    have h2 := hnm.2.2
    rw [hsig] at h2
    exact (Option.some.inj h2).symm
  have hKn := O.2.2.2.1 _ ck.1
  refine ⟨_, va_runSU (C := (aw_c y.1).1) (cC := D.1 y.1) hKn.2 (As := As.map tv) (rest := rest.map tv) (n := As.length) (cc := M.2.1) (nL := M.2.2.2.1) (Ts := lw_all) (own := M.1.cls) ⟨O.1.1, O.1.2.1, O.1.2.2.2.1, O.1.2.2.2.2.1, hts⟩ hM cw ⟨hp.1, cls_at O (hR.2 b y hy) ck, hp.2⟩ rfl (by simp) hL.1 ?_ (room8 h8) d hf⟩
  show st.map tv = _
  rw [hst]
  simp [tv, va_rf]
end
section
variable {M : Mi} {σ0 : Hp} {out : Ot} {pc : Nat} {L : List (Option AV)} {st : List AV} {σ : Hp}
theorem AW.UI {β : Type} {Y : Nat → Option (Int × Hp)} {F : Int → Hp → Option β} {w : β} {M' : Mi} {index t : Nat} {r : Option Nat} {x : MethodName} (As rest : List AV) (d : decode M.2.1 pc = .ok (.invokevirtual index, 3))
    (q1 : Cond.methodLink M.1.cls index x ∈ lw_all) (q2 : Cond.sameMethod x.cls x.cls x.name x.desc ∈ lw_all) (q3 : Cond.selects (aw_c t).1 x M'.1 ∈ lw_all ∨ (x = M'.1 ∧ ((aw_c t).1, x) ∈ aw_sl)) (q4 : Cond.instanceMethod M'.1 ∈ lw_all) (q5 : Cond.initialized M'.1.cls ∈ lw_all) (q6 : Cond.code M'.1 M'.2.1 M'.2.2.2.1 M'.2.2.1 ∈ lw_all)
    (hdecl : x ∈ aw_dc ∨ (x = M'.1 ∨ ∃ (bb : ByteArray) (n : Nat) (rr : Option FieldType), Cond.instanceMethod x ∈ lw_all ∧ Cond.code x bb n rr ∈ lw_all))
    (ck : clsOk t) (hnm : nameOk x As.length) (hfit : fitM M M' = true) (h8 : Nat.ble (catS rest) 8 = true) (hst : st = As.reverse ++ rV r :: rest)
    (hY : ∀ (b : Nat) (v : Int) (σ1 : Hp), Y b = some (v, σ1) → Ct M' (rV (some b) :: As) σ (.inl (some (iV v)), σ1))
    (h : (rcv σ t r).bind (fun b => bn (Y b) F) = some w) (kk : ∀ (v : Int) (σ1 : Hp), F v σ1 = some w → AW M σ0 out (pc + 3) L (iV v :: rest) σ1) : AW M σ0 out pc L st σ :=
  AW.invU (fun v => some (iV v)) As rest d q1 q2 q3 q4 q5 q6 hdecl ck hnm hfit h8 hst hY h kk
theorem AW.PI {β : Type} {Y : Nat → Option (Int × Hp)} {F : Int → Hp → Option β} {w : β} {M' : Mi} {index t : Nat} {r : Option Nat} (As rest : List AV) (d : decode M.2.1 pc = .ok (.invokespecial index, 3))
    (q1 : Cond.methodLink M.1.cls index M'.1 ∈ lw_all) (q2 : Cond.sameMethod M'.1.cls M'.1.cls M'.1.name M'.1.desc ∈ lw_all) (q3 : Cond.superclass M.1.cls M'.1.cls ∈ lw_all) (q4 : Cond.instanceMethod M'.1 ∈ lw_all) (q5 : Cond.initialized M'.1.cls ∈ lw_all) (q6 : Cond.code M'.1 M'.2.1 M'.2.2.2.1 M'.2.2.1 ∈ lw_all)
    (hne : M'.1.name ≠ "<init>") (ck : clsOk t) (hnm : nameOk M'.1 As.length) (hfit : fitM M M' = true) (h8 : Nat.ble (catS rest) 8 = true) (hst : st = As.reverse ++ rV r :: rest)
    (hY : ∀ (b : Nat) (v : Int) (σ1 : Hp), Y b = some (v, σ1) → Ct M' (rV (some b) :: As) σ (.inl (some (iV v)), σ1))
    (h : (rcv σ t r).bind (fun b => bn (Y b) F) = some w) (kk : ∀ (v : Int) (σ1 : Hp), F v σ1 = some w → AW M σ0 out (pc + 3) L (iV v :: rest) σ1) : AW M σ0 out pc L st σ :=
  AW.invSU (fun v => some (iV v)) As rest d q1 q2 q3 q4 q5 q6 hne ck hnm hfit h8 hst hY h kk
theorem AW.UU {β : Type} {Y : Nat → Option (Unit × Hp)} {F : Unit → Hp → Option β} {w : β} {M' : Mi} {index t : Nat} {r : Option Nat} {x : MethodName} (As rest : List AV) (d : decode M.2.1 pc = .ok (.invokevirtual index, 3))
    (q1 : Cond.methodLink M.1.cls index x ∈ lw_all) (q2 : Cond.sameMethod x.cls x.cls x.name x.desc ∈ lw_all) (q3 : Cond.selects (aw_c t).1 x M'.1 ∈ lw_all ∨ (x = M'.1 ∧ ((aw_c t).1, x) ∈ aw_sl)) (q4 : Cond.instanceMethod M'.1 ∈ lw_all) (q5 : Cond.initialized M'.1.cls ∈ lw_all) (q6 : Cond.code M'.1 M'.2.1 M'.2.2.2.1 M'.2.2.1 ∈ lw_all)
    (hdecl : x ∈ aw_dc ∨ (x = M'.1 ∨ ∃ (bb : ByteArray) (n : Nat) (rr : Option FieldType), Cond.instanceMethod x ∈ lw_all ∧ Cond.code x bb n rr ∈ lw_all))
    (ck : clsOk t) (hnm : nameOk x As.length) (hfit : fitM M M' = true) (h8 : Nat.ble (catS rest) 8 = true) (hst : st = As.reverse ++ rV r :: rest)
    (hY : ∀ (b : Nat) (v : Unit) (σ1 : Hp), Y b = some (v, σ1) → Ct M' (rV (some b) :: As) σ (.inl none, σ1))
    (h : (rcv σ t r).bind (fun b => bn (Y b) F) = some w) (kk : ∀ (v : Unit) (σ1 : Hp), F v σ1 = some w → AW M σ0 out (pc + 3) L rest σ1) : AW M σ0 out pc L st σ :=
  AW.invU (fun _ => none) As rest d q1 q2 q3 q4 q5 q6 hdecl ck hnm hfit h8 hst hY h kk
theorem AW.PU {β : Type} {Y : Nat → Option (Unit × Hp)} {F : Unit → Hp → Option β} {w : β} {M' : Mi} {index t : Nat} {r : Option Nat} (As rest : List AV) (d : decode M.2.1 pc = .ok (.invokespecial index, 3))
    (q1 : Cond.methodLink M.1.cls index M'.1 ∈ lw_all) (q2 : Cond.sameMethod M'.1.cls M'.1.cls M'.1.name M'.1.desc ∈ lw_all) (q3 : Cond.superclass M.1.cls M'.1.cls ∈ lw_all) (q4 : Cond.instanceMethod M'.1 ∈ lw_all) (q5 : Cond.initialized M'.1.cls ∈ lw_all) (q6 : Cond.code M'.1 M'.2.1 M'.2.2.2.1 M'.2.2.1 ∈ lw_all)
    (hne : M'.1.name ≠ "<init>") (ck : clsOk t) (hnm : nameOk M'.1 As.length) (hfit : fitM M M' = true) (h8 : Nat.ble (catS rest) 8 = true) (hst : st = As.reverse ++ rV r :: rest)
    (hY : ∀ (b : Nat) (v : Unit) (σ1 : Hp), Y b = some (v, σ1) → Ct M' (rV (some b) :: As) σ (.inl none, σ1))
    (h : (rcv σ t r).bind (fun b => bn (Y b) F) = some w) (kk : ∀ (v : Unit) (σ1 : Hp), F v σ1 = some w → AW M σ0 out (pc + 3) L rest σ1) : AW M σ0 out pc L st σ :=
  AW.invSU (fun _ => none) As rest d q1 q2 q3 q4 q5 q6 hne ck hnm hfit h8 hst hY h kk
theorem AW.UR {β : Type} {Y : Nat → Option ((Option Nat) × Hp)} {F : (Option Nat) → Hp → Option β} {w : β} {M' : Mi} {index t : Nat} {r : Option Nat} {x : MethodName} (As rest : List AV) (d : decode M.2.1 pc = .ok (.invokevirtual index, 3))
    (q1 : Cond.methodLink M.1.cls index x ∈ lw_all) (q2 : Cond.sameMethod x.cls x.cls x.name x.desc ∈ lw_all) (q3 : Cond.selects (aw_c t).1 x M'.1 ∈ lw_all ∨ (x = M'.1 ∧ ((aw_c t).1, x) ∈ aw_sl)) (q4 : Cond.instanceMethod M'.1 ∈ lw_all) (q5 : Cond.initialized M'.1.cls ∈ lw_all) (q6 : Cond.code M'.1 M'.2.1 M'.2.2.2.1 M'.2.2.1 ∈ lw_all)
    (hdecl : x ∈ aw_dc ∨ (x = M'.1 ∨ ∃ (bb : ByteArray) (n : Nat) (rr : Option FieldType), Cond.instanceMethod x ∈ lw_all ∧ Cond.code x bb n rr ∈ lw_all))
    (ck : clsOk t) (hnm : nameOk x As.length) (hfit : fitM M M' = true) (h8 : Nat.ble (catS rest) 8 = true) (hst : st = As.reverse ++ rV r :: rest)
    (hY : ∀ (b : Nat) (v : (Option Nat)) (σ1 : Hp), Y b = some (v, σ1) → Ct M' (rV (some b) :: As) σ (.inl (some (rV v)), σ1))
    (h : (rcv σ t r).bind (fun b => bn (Y b) F) = some w) (kk : ∀ (v : (Option Nat)) (σ1 : Hp), F v σ1 = some w → AW M σ0 out (pc + 3) L (rV v :: rest) σ1) : AW M σ0 out pc L st σ :=
  AW.invU (fun v => some (rV v)) As rest d q1 q2 q3 q4 q5 q6 hdecl ck hnm hfit h8 hst hY h kk
theorem AW.PR {β : Type} {Y : Nat → Option ((Option Nat) × Hp)} {F : (Option Nat) → Hp → Option β} {w : β} {M' : Mi} {index t : Nat} {r : Option Nat} (As rest : List AV) (d : decode M.2.1 pc = .ok (.invokespecial index, 3))
    (q1 : Cond.methodLink M.1.cls index M'.1 ∈ lw_all) (q2 : Cond.sameMethod M'.1.cls M'.1.cls M'.1.name M'.1.desc ∈ lw_all) (q3 : Cond.superclass M.1.cls M'.1.cls ∈ lw_all) (q4 : Cond.instanceMethod M'.1 ∈ lw_all) (q5 : Cond.initialized M'.1.cls ∈ lw_all) (q6 : Cond.code M'.1 M'.2.1 M'.2.2.2.1 M'.2.2.1 ∈ lw_all)
    (hne : M'.1.name ≠ "<init>") (ck : clsOk t) (hnm : nameOk M'.1 As.length) (hfit : fitM M M' = true) (h8 : Nat.ble (catS rest) 8 = true) (hst : st = As.reverse ++ rV r :: rest)
    (hY : ∀ (b : Nat) (v : (Option Nat)) (σ1 : Hp), Y b = some (v, σ1) → Ct M' (rV (some b) :: As) σ (.inl (some (rV v)), σ1))
    (h : (rcv σ t r).bind (fun b => bn (Y b) F) = some w) (kk : ∀ (v : (Option Nat)) (σ1 : Hp), F v σ1 = some w → AW M σ0 out (pc + 3) L (rV v :: rest) σ1) : AW M σ0 out pc L st σ :=
  AW.invSU (fun v => some (rV v)) As rest d q1 q2 q3 q4 q5 q6 hne ck hnm hfit h8 hst hY h kk
end
