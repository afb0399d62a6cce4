set_option maxRecDepth 100000
/-! ===== a method's end, its contract, calls ===== -/
section
variable {M : Mi} {σ0 : Hp} {out : Ot} {pc : Nat} {L : List (Option AV)} {st : List AV} {σ : Hp}
theorem Qn_of {D : va_G} {A : Nat → Prop} {s : State} {H : Heap} {locs : List Loc} {args : Array Value} (rv : Option Value) (hR : RH D A s H σ) (hS : va_S A s.heap H locs) : ∀ t : State, t.heap = H → s.WarmedH t.vm → Qn D A rv σ args s (.returned rv) t :=
  fun t ht hW => ⟨rfl, by rw [ht]; exact hR.moved hW.alike, hS.F ht⟩
theorem AW.iret {z : Int} (d : decode M.2.1 pc = .ok (.ireturn, 1)) (hr : M.2.2.1 = some .int) : AW M σ0 (.inl (some (iV z)), σ) pc L [iV z] σ :=
  ⟨leH.rf _, fun p l e R s m args below meth c D A O H locs ls h0 hR hS hL => W.iret O.1.1 O.1.2.1 (O.1.2.2.1.trans hr) (Qn_of _ hR hS) hS.2.2 d O.2.1.1⟩
theorem AW.zret {z : Int} (d : decode M.2.1 pc = .ok (.ireturn, 1)) (hr : M.2.2.1 = some .boolean) (hz : nrm z = 0 ∨ nrm z = 1) : AW M σ0 (.inl (some (iV z)), σ) pc L [iV z] σ :=
  ⟨leH.rf _, fun p l e R s m args below meth c D A O H locs ls h0 hR hS hL => W.zret O.1.1 O.1.2.1 (O.1.2.2.1.trans hr) (nar_Z hz).1 (Qn_of _ hR hS) hS.2.2 d O.2.1.1⟩
theorem AW.bret {z : Int} (d : decode M.2.1 pc = .ok (.ireturn, 1)) (hr : M.2.2.1 = some .byte) (hz : -128 ≤ nrm z ∧ nrm z ≤ 127) : AW M σ0 (.inl (some (iV z)), σ) pc L [iV z] σ :=
  ⟨leH.rf _, fun p l e R s m args below meth c D A O H locs ls h0 hR hS hL => W.zret O.1.1 O.1.2.1 (O.1.2.2.1.trans hr) (nar_B hz).1 (Qn_of _ hR hS) hS.2.2 d O.2.1.1⟩
theorem nar_C {v : Int} (h : 0 ≤ nrm v ∧ nrm v ≤ 255) : narrow .char (.int (iI v)) = .int (iI v) := by
  rw [← iI_nrm v]
  obtain ⟨h1, h2⟩ := h
  generalize nrm v = z at h1 h2
  obtain ⟨n, rfl⟩ : ∃ n : Nat, z = (n : Int) := ⟨z.toNat, by omega⟩
  have hn : n < 256 := by omega
  have key : ∀ n : Fin 256, narrow .char (.int (iI (n.val : Int))) = .int (iI (n.val : Int)) := by decide +kernel
  exact key ⟨n, hn⟩
theorem AW.cret {z : Int} (d : decode M.2.1 pc = .ok (.ireturn, 1)) (hr : M.2.2.1 = some .char) (hz : 0 ≤ nrm z ∧ nrm z ≤ 255) : AW M σ0 (.inl (some (iV z)), σ) pc L [iV z] σ :=
  ⟨leH.rf _, fun p l e R s m args below meth c D A O H locs ls h0 hR hS hL => W.zret O.1.1 O.1.2.1 (O.1.2.2.1.trans hr) (nar_C hz) (Qn_of _ hR hS) hS.2.2 d O.2.1.1⟩
theorem AW.vret (d : decode M.2.1 pc = .ok (.return_, 1)) (hr : M.2.2.1 = none) : AW M σ0 (.inl none, σ) pc L [] σ :=
  ⟨leH.rf _, fun p l e R s m args below meth c D A O H locs ls h0 hR hS hL => W.vret O.1.1 O.1.2.1 (O.1.2.2.1.trans hr) (Qn_of _ hR hS) hS.2.2 d O.2.1.1⟩
theorem AW.aret {r : Option Nat} (d : decode M.2.1 pc = .ok (.areturn, 1)) {rt : FieldType} (hr : M.2.2.1 = some rt) (hrt : (∃ n, rt = .object n) ∨ ∃ t, rt = .array t) : AW M σ0 (.inl (some (rV r)), σ) pc L [rV r] σ :=
  ⟨leH.rf _, fun p l e R s m args below meth c D A O H locs ls h0 hR hS hL => W.aret O.1.1 O.1.2.1 (O.1.2.2.1.trans hr) hrt (by cases r with | none => exact Or.inl rfl | some a => exact Or.inr ⟨a, rfl⟩) (Qn_of _ hR hS) hS.2.2 d O.2.1.1⟩
theorem AW.lret {z : Int} (d : decode M.2.1 pc = .ok (.lreturn, 1)) (hr : M.2.2.1 = some .long) : AW M σ0 (.inl (some (jV z)), σ) pc L [jV z] σ :=
  ⟨leH.rf _, fun p l e R s m args below meth c D A O H locs ls h0 hR hS hL => W.lret O.1.1 O.1.2.1 (O.1.2.2.1.trans hr) (Qn_of _ hR hS) hS.2.2 d O.2.1.1⟩
end
def cRm (M : Mi) (σ σ1 : Hp) : Room := ⟨M.2.2.2.2.1, σ1.2.1 - σ.2.1, σ1.2.2.1 - σ.2.2.1, M.2.2.2.2.2.1⟩
def cPc (D : va_G) (A : Nat → Prop) (as : List AV) (σ : Hp) : Array Value → State → Prop := va_Pc (as.map tv) (fun U => RH D A U U.heap σ ∧ RK D A U U.heap σ.2.2.2)
/-- the contract that a method ends with 'out' -/
def Ct (M : Mi) (as : List AV) (σ : Hp) (out : Ot) : Prop :=
  leH σ out.2 ∧ ∀ (l : Launch) (D : va_G) (A : Nat → Prop), l.flags = flags0 → (∀ q : Nat, σ.2.1 ≤ q → A q) → match out.1 with
    | .inl rv => Met l M.1 (ws_ M.1 M.2.1 M.2.2.2.1 M.2.2.1) (cRm M σ out.2) (cPc D A as σ) (Qn D A (rv.map tv) out.2) (out.2.2.1 - σ.2.1) (out.2.2.2.1 - σ.2.2.1) A
    | .inr q => vy_Met l M.1 (ws_ M.1 M.2.1 M.2.2.2.1 M.2.2.1) (cRm M σ out.2) (cPc D A as σ) (fun _ _ _ _ => False) (Xn D A q out.2) (out.2.2.1 - σ.2.1) (out.2.2.2.1 - σ.2.2.1) A
def entL : List AV → List (Option AV)
  | [] => []
  | .inl z :: as => some (iV z) :: entL as
  | .inr (.inl r) :: as => some (rV r) :: entL as
  | .inr (.inr z) :: as => some (jV z) :: none :: entL as
theorem entL_in : ∀ (as : List AV) (i : Nat), ∀ q ∈ prs i (entL as), q ∈ lv_args i (as.map tv) := by
  intro as
  induction as with
  | nil => intro i q h; cases h
  | cons v as ih =>
    intro i q h
    rcases v with z | r | z
    · show q ∈ (i, tv (iV z)) :: lv_args (i + 1) (as.map tv)
      rcases List.mem_cons.mp h with e | e
      · rw [e]; exact List.mem_cons_self
      · exact List.mem_cons_of_mem _ (ih _ q e)
    · have hc : (tv (rV r)).category = 1 := rf_cat r
      show q ∈ (i, tv (rV r)) :: lv_args (if (tv (rV r)).category = 2 then i + 2 else i + 1) (as.map tv)
      rw [hc]
      rcases List.mem_cons.mp h with e | e
      · rw [e]; exact List.mem_cons_self
      · exact List.mem_cons_of_mem _ (ih _ q e)
    · show q ∈ (i, tv (jV z)) :: lv_args (i + 2) (as.map tv)
      rcases List.mem_cons.mp h with e | e
      · rw [e]; exact List.mem_cons_self
      · exact List.mem_cons_of_mem _ (ih _ q e)
theorem prs_pad (L : List (Option AV)) (n i : Nat) : ∀ q ∈ prs i (L ++ List.replicate n none), q ∈ prs i L := by
  rintro ⟨j, w⟩ h
  obtain ⟨v, h1, h2, h3⟩ := (prs_mem _ i j w).mp h
  refine (prs_mem L i j w).mpr ⟨v, h1, ?_, h3⟩
  by_cases hl : j - i < L.length
  · rw [List.getElem?_append_left hl] at h2
    exact h2
  · rw [List.getElem?_append_right (by omega)] at h2
    have := List.mem_of_getElem? h2
    rw [List.mem_replicate] at this
    cases this.2
theorem LV_entry {as : List AV} {n : Nat} {L : List (Option AV)} (hn : (lg_sl (as.map tv)).length ≤ n) (hL : entL as ++ List.replicate (n - (entL as).length) none = L) : LV ((lg_sl (as.map tv) ++ List.replicate (n - (lg_sl (as.map tv)).length) Slot.unset).toArray) n L := by
  have h := lv_entry (as.map tv) hn
  refine ⟨h.1, h.2.1, fun q hq => h.2.2 q ?_⟩
  rw [← hL] at hq
  exact entL_in as 0 q (prs_pad _ _ _ q hq)
theorem cPc_blind (D : va_G) (A : Nat → Prop) (as : List AV) (σ : Hp) : FrameBlind (cPc D A as σ) := by
  rintro a U g mk ⟨h1, h2, h3⟩
  exact ⟨h1, RH.moved (u := U) (U := U.calling g mk a) (Vm.Alike.refl U.vm) h2, RK.same (u := U) (U := U.calling g mk a) rfl h3⟩
theorem Ct.of {M : Mi} {as : List AV} {σ : Hp} {out : Ot} {L : List (Option AV)} (hy : plainName M.1.cls = true) (hh : M.2.2.2.2.2.2 = []) (hn : (lg_sl (as.map tv)).length ≤ M.2.2.2.1) (hL : entL as ++ List.replicate (M.2.2.2.1 - (entL as).length) none = L) (k : AW M σ out 0 L [] σ) : Ct M as σ out := by
  refine ⟨k.1, fun l D A hf hA => ?_⟩
  have core : ∀ p e s m args below meth c s₁, BodyLoose p l M.1 (headSpec (ws_ M.1 M.2.1 M.2.2.2.1 M.2.2.1) (cRm M σ out.2)) M.2.1 M.2.2.2.1 M.2.2.1 e s m args below meth c s₁ → c.maxLocals = M.2.2.2.1 → (∀ x ∈ c.exceptionTable.toList, False) → cPc D A as σ args s →
      W p l e (headSpec (ws_ M.1 M.2.1 M.2.2.2.1 M.2.2.1) (cRm M σ out.2)).room s m args below meth c s.heap [] 0 0 (Qo out.1 σ out.2 below args s D A) (entryFrame m args M.2.2.2.1) := by
    intro p e s m args below meth c s₁ B hml ht hP
    obtain ⟨rfl, hR, hK⟩ := hP
    have hts := atoms_spec (ws := ws_ M.1 M.2.1 M.2.2.2.1 M.2.2.1) B.pre
    have hts : ∀ w ∈ lw_all, w.before _ s = true := fun w h => hts w (List.mem_cons_of_mem _ h)
    have O : Ok M σ out.2 p l e (headSpec (ws_ M.1 M.2.1 M.2.2.2.1 M.2.2.1) (cRm M σ out.2)).room s m (as.map tv).toArray below meth c D A := by
      refine ⟨⟨B.exec, B.bytes, B.returns, hml, findClass_of_methodNamed B.named, hts⟩, ⟨B.notSynchronized, (name_of_methodNamed B.named B.method).1, hf, ?_⟩, ⟨fun q hq => hA q (by rw [← hR.1]; exact hq), hR.1, rfl, rfl, Nat.le_refl _, Nat.le_refl _⟩, hK⟩
      rw [hh]
      cases he : c.exceptionTable.toList with
      | nil => rfl
      | cons x l => exact (ht x (by rw [he]; exact List.mem_cons_self)).elim
    have w := k.2 p l e _ s m (as.map tv).toArray below meth c D A O s.heap [] _ (leH.rf _) hR va_S.rf (LV_entry hn hL)
    rw [Nat.sub_self, Nat.sub_self] at w
    rw [lg_entry_eq]
    exact w
  obtain ⟨ou, σf⟩ := out
  cases ou with
  | inl rv =>
    refine Met.ofW (cc := M.2.1) (maxL := M.2.2.2.1) (ret := M.2.2.1) hy rfl ?_
    intro p e s m args below meth c s₁ B hml hP
    refine core p e s m args below meth c s₁ B hml ?_ hP
    obtain ⟨meth9, c9, h1, h2, -, -, -, -, h7, -⟩ := Cond.code_spec B.named (atoms_spec (ws := ws_ M.1 M.2.1 M.2.2.2.1 M.2.2.1) B.pre _ List.mem_cons_self)
    cases Option.some.inj (h1.symm.trans B.method)
    cases Option.some.inj (h2.symm.trans (Stand.of_body B).code)
    intro x hx
    rw [Array.isEmpty_iff.mp h7] at hx
    cases hx
  | inr q =>
    exact vy_ofW (cc := M.2.1) (maxL := M.2.2.2.1) (ret := M.2.2.1) hy rfl core
def rcv (σ : Hp) (t : Nat) (r : Option Nat) : Option Nat := (cel σ t r).bind fun q => some q.1
theorem rcv_some {σ : Hp} {t b : Nat} {r : Option Nat} (h : rcv σ t r = some b) : r = some b ∧ ∃ c : Ce, σ.1 b = some c ∧ c.1 = t := by
  unfold rcv at h
  obtain ⟨x, hx, hv⟩ := ob_some h
  obtain ⟨h1, h2, h3⟩ := cel_some hx
  cases hv
  exact ⟨h1, _, h2, h3⟩
section
variable {p : Program} {l : Launch} {e : Env} {R : Room} {s : State} {m : MethodId} {args : Array Value} {below : List Frame} {meth : Method} {c : Code} {H : Heap} {locs : List Loc} {cells slots : Nat} {Q : State → Prop}
variable {pc : Nat} {ls : Array Slot} {rest st0 : List Value} {a : Array Value} {A : Nat → Prop} {D : va_G} {mc ms : Nat}
theorem run_k {rv : Option Value} {σ1 : Hp} (hr : va_Run p l e R s m args below meth c H locs cells slots mc ms (F0 m pc ls st0) rest (Qn D A rv σ1 a) A) (hS : va_S A s.heap H locs)
    (kk : ∀ (H1 : Heap) (locs1 : List Loc), RH D A s H1 σ1 → va_S A s.heap H1 locs1 → W p l e R s m args below meth c H1 locs1 (cells + mc) (slots + ms) Q (F0 m (pc + 3) ls (rv.toList ++ rest))) : W p l e R s m args below meth c H locs cells slots Q (F0 m pc ls st0) := by
  intro T hT X
  obtain ⟨v, st₀, t, T', L, h0, X', hL, e1, e2, ⟨hv, hR, hz, hk⟩, st⟩ := hr T hT X
  cases hv
  rw [h0] at hz hk
  obtain ⟨t2, a1, b1⟩ := kk T'.heap (locs ++ L) (by rw [e1]; exact hR.moved (by rw [← e2]; exact X'.warmed.alike.symm))
    ⟨Nat.le_trans hS.1 (by rw [e1]; exact hz), fun q h1 h2 => by rw [e1, hk q (Nat.lt_of_lt_of_le h1 hS.1) h2]; exact hS.2.1 q h1 h2, fun q hq => by
      rcases List.mem_append.mp hq with h | h
      · exact hS.2.2 q h
      · exact hL q h⟩ T' rfl X'
  exact ⟨t2, st t2 a1, b1⟩
theorem cPc_pre {as : List AV} {σ : Hp} {cst : Nat → Nat} (hR : RH D A s H σ) (hK : RK D A s s.heap cst) (hc : σ.2.2.2 = cst) (hS : va_S A s.heap H locs) : PreS s H (cPc D A as σ) (as.map tv) :=
  ⟨cPc_blind D A as σ, fun U hU hW => ⟨rfl, by rw [hU]; exact hR.moved hW.alike, by rw [hU, hc]; exact hK.warm hW hS.2.1⟩⟩
end
/-- the sizes of a call fit -/
def fitM (M M' : Mi) : Bool := Nat.ble (M'.2.2.2.2.1 + 1) M.2.2.2.2.1 && Nat.ble (8 + (M'.2.2.2.1 + 11) + M'.2.2.2.2.2.1) M.2.2.2.2.2.1
theorem fitM_ok {M M' : Mi} (h : fitM M M' = true) : M'.2.2.2.2.1 + 1 ≤ M.2.2.2.2.1 ∧ 8 + (M'.2.2.2.1 + 11) + M'.2.2.2.2.2.1 ≤ M.2.2.2.2.2.1 := by
  unfold fitM at h
  rw [Bool.and_eq_true] at h
  exact ⟨Nat.le_of_ble_eq_true h.1, Nat.le_of_ble_eq_true h.2⟩
def catS (st : List AV) : Nat := (st.map fun v => match v with | .inr (.inr _) => 2 | _ => 1).sum
theorem catS_ok (st : List AV) : ((st.map tv).map fun v => v.category).sum = catS st := by
  unfold catS
  rw [List.map_map]
  congr 1
  apply List.map_congr_left
  intro v _
  rcases v with z | r | z
  · rfl
  · exact rf_cat r
  · rfl
theorem room8 {m : MethodId} {pc : Nat} {ls : Array Slot} {rest : List Value} {st : List AV} (h : Nat.ble (catS st) 8 = true) : 2 * (F0 m pc ls rest).monitorRoom + ((st.map tv).map fun v => v.category).sum ≤ 8 := lv_room (by rw [catS_ok]; exact Nat.le_of_ble_eq_true h)
section
variable {M : Mi} {σ0 : Hp} {out : Ot} {pc : Nat} {L : List (Option AV)} {st : List AV} {σ : Hp}
/-- behind a call -/
theorem AW.after {M' : Mi} {as : List AV} {σ1 : Hp} {rv : Option AV} {rest : List AV} (hc : Ct M' as σ (.inl rv, σ1)) (k : AW M σ0 out (pc + 3) L (rv.toList ++ rest) σ1)
    (f : ∀ (p : Program) (l : Launch) (e : Env) (R : Room) (s : State) (m : MethodId) (args : Array Value) (below : List Frame) (meth : Method) (c : Code) (D : va_G) (A : Nat → Prop), Ok M σ0 out.2 p l e R s m args below meth c D A →
      ∀ (H : Heap) (locs : List Loc) (ls : Array Slot) (cells slots : Nat), RH D A s H σ → LV ls M.2.2.2.1 L → va_S A s.heap H locs → PreS s H (cPc D A as σ) (as.map tv) →
        Met l M'.1 (ws_ M'.1 M'.2.1 M'.2.2.2.1 M'.2.2.1) (cRm M' σ σ1) (cPc D A as σ) (Qn D A (rv.map tv) σ1) (σ1.2.1 - σ.2.1) (σ1.2.2.1 - σ.2.2.1) A →
        (cells + (σ1.2.1 - σ.2.1) ≤ R.cells ∧ slots + (σ1.2.2.1 - σ.2.2.1) ≤ R.slots) →
        ∃ a, va_Run p l e R s m args below meth c H locs cells slots (σ1.2.1 - σ.2.1) (σ1.2.2.1 - σ.2.2.1) (F0 m pc ls (st.map tv)) (rest.map tv) (Qn D A (rv.map tv) σ1 a) A) : AW M σ0 out pc L st σ := by
  refine ⟨hc.1.tr k.1, fun p l e R s m args below meth c D A O H locs ls h0 hR hS hL => ?_⟩
  have h1 : leH σ σ1 := hc.1
  have h2 : leH σ1 out.2 := k.1
  have hA : ∀ q : Nat, σ.2.1 ≤ q → A q := fun q hq => O.2.2.1.1 q (by have := hR.1; have := hS.1; omega)
  have hM := hc.2 l D A O.2.1.2.2.1 hA
  have ec : σ.2.1 - σ0.2.1 + (σ1.2.1 - σ.2.1) = σ1.2.1 - σ0.2.1 := by have := h0.1; have := h1.1; omega
  have es : σ.2.2.1 - σ0.2.2.1 + (σ1.2.2.1 - σ.2.2.1) = σ1.2.2.1 - σ0.2.2.1 := by have := h0.2.1; have := h1.2.1; omega
  obtain ⟨a, hr⟩ := f p l e R s m args below meth c D A O H locs ls (σ.2.1 - σ0.2.1) (σ.2.2.1 - σ0.2.2.1) hR hL hS (cPc_pre hR O.2.2.2 h0.2.2.symm hS) hM
    ⟨by rw [ec]; have := O.2.2.1.2.2.2.2.1; have := h2.1; omega, by rw [es]; have := O.2.2.1.2.2.2.2.2; have := h2.2.1; omega⟩
  refine run_k hr hS fun H1 locs1 hR1 hS1 => ?_
  have w := k.2 p l e R s m args below meth c D A O H1 locs1 ls (h0.tr h1) hR1 hS1 hL
  rw [ec, es]
  have e9 : (rv.map tv).toList ++ rest.map tv = (rv.toList ++ rest).map tv := by
    rw [List.map_append]
    cases rv <;> rfl
  rw [e9]
  exact w
/-- what a call's words say of its name and its number of arguments -/
def nameOk (y : MethodName) (n : Nat) : Prop := y.cls ≠ "java/lang/invoke/MethodHandle" ∧ y.cls ≠ "java/lang/invoke/VarHandle" ∧ (parseMethodDescriptor y.desc).map (fun d => d.parameters.length) = some n
theorem AW.invV {α β : Type} {Y : Nat → Option (α × Hp)} {F : α → Hp → Option β} {w : β} {M' : Mi} {index t : Nat} {r : Option Nat} (vl : α → Option AV) (As rest : List AV) (d : decode M.2.1 pc = .ok (.invokevirtual index, 3))
    (q1 : Cond.methodLink M.1.cls index M'.1 ∈ lw_all) (q2 : Cond.instanceMethod M'.1 ∈ lw_all) (q3 : Cond.selects M'.1.cls M'.1 M'.1 ∈ lw_all) (q4 : Cond.initialized M'.1.cls ∈ lw_all) (q5 : Cond.code M'.1 M'.2.1 M'.2.2.2.1 M'.2.2.1 ∈ lw_all)
    (ht : t ∈ aw_tags) (ht1 : t < 100) (hcl : (aw_c t).1 = M'.1.cls) (hnm : nameOk M'.1 As.length) (hfit : fitM M M' = true) (h8 : Nat.ble (catS rest) 8 = true) (hst : st = As.reverse ++ rV r :: rest)
    (hY : ∀ (b : Nat) (v : α) (σ1 : Hp), Y b = some (v, σ1) → Ct M' (rV (some b) :: As) σ (.inl (vl v), σ1))
    (h : (rcv σ t r).bind (fun b => bn (Y b) F) = some w) (kk : ∀ (v : α) (σ1 : Hp), F v σ1 = some w → AW M σ0 out (pc + 3) L ((vl v).toList ++ rest) σ1) : AW M σ0 out pc L st σ := by
  obtain ⟨b, hb, h9⟩ := ob_some h
  obtain ⟨rfl, x, hx, hxt⟩ := rcv_some hb
  unfold bn at h9
  obtain ⟨⟨v, σ1⟩, hv, h7⟩ := ob_some h9
  refine AW.after (hY b v σ1 hv) (kk v σ1 h7) fun p l e R s m args below meth c D A O H locs ls cells slots hR hL hS hp hM hf => ?_
  have hts := O.1.2.2.2.2.2
  have hrecv : ∃ cell : Cell, H[b]? = some cell ∧ cell.vm.isStatics = false ∧ s.vm.findClass M'.1.cls = some cell.cls := by
    obtain ⟨cell, g1, g2, g3, g4, g5, -⟩ := hR.2 b x hx
    refine ⟨cell, g1, g2, ?_⟩
    rw [(g5 (by rw [hxt]; exact ht1)).1, ← hcl, ← hxt]
    rw [← hxt] at ht
    exact (O.2.2.2.1 _ ht).2.1
  have hf2 := fitM_ok hfit
  refine ⟨_, va_runV (As := As.map tv) (rest := rest.map tv) (n := As.length) (cc := M.2.1) (nL := M.2.2.2.1) (Ts := lw_all) (own := M.1.cls) (C := M'.1.cls) ⟨O.1.1, O.1.2.1, O.1.2.2.2.1, O.1.2.2.2.2.1, hts⟩ hM (cwV As.length hts (lw_V q1 q2 q3 q4 q5) rfl rfl rfl ⟨rfl, hnm⟩ ⟨by rw [O.2.2.1.2.2.1]; exact hf2.1, by rw [O.2.2.1.2.2.2.1]; exact hf2.2⟩) ⟨hp.1, hrecv, hp.2⟩ rfl (by simp) hL.1 ?_ (room8 h8) d hf⟩
  show st.map tv = _
  rw [hst]
  simp [tv, va_rf]
theorem AW.invS {α β : Type} {Y : Option (α × Hp)} {F : α → Hp → Option β} {w : β} {M' : Mi} {index : Nat} (vl : α → Option AV) (As rest : List AV) (d : decode M.2.1 pc = .ok (.invokestatic index, 3))
    (q1 : Cond.methodLink M.1.cls index M'.1 ∈ lw_all) (q2 : Cond.static M'.1 ∈ lw_all) (q3 : Cond.initialized M'.1.cls ∈ lw_all) (q4 : Cond.code M'.1 M'.2.1 M'.2.2.2.1 M'.2.2.1 ∈ lw_all)
    (hnm : nameOk M'.1 As.length) (hfit : fitM M M' = true) (h8 : Nat.ble (catS rest) 8 = true) (hst : st = As.reverse ++ rest)
    (hY : ∀ (v : α) (σ1 : Hp), Y = some (v, σ1) → Ct M' As σ (.inl (vl v), σ1))
    (h : bn Y F = some w) (kk : ∀ (v : α) (σ1 : Hp), F v σ1 = some w → AW M σ0 out (pc + 3) L ((vl v).toList ++ rest) σ1) : AW M σ0 out pc L st σ := by
  unfold bn at h
  obtain ⟨⟨v, σ1⟩, hv, h7⟩ := ob_some h
  refine AW.after (hY v σ1 hv) (kk v σ1 h7) fun p l e R s m args below meth c D A O H locs ls cells slots hR hL hS hp hM hf => ?_
  have hts := O.1.2.2.2.2.2
  have hf2 := fitM_ok hfit
  refine ⟨_, va_runS (As := As.map tv) (rest := rest.map tv) (n := As.length) (cc := M.2.1) (nL := M.2.2.2.1) (Ts := lw_all) (own := M.1.cls) ⟨O.1.1, O.1.2.1, O.1.2.2.2.1, O.1.2.2.2.2.1, hts⟩ hM (va_cwS As.length hts (lw_S q1 q2 q3 q4) rfl rfl rfl hnm ⟨by rw [O.2.2.1.2.2.1]; exact hf2.1, by rw [O.2.2.1.2.2.2.1]; exact hf2.2⟩) hp rfl (by simp) hL.1 ?_ (room8 h8) d hf⟩
  show st.map tv = _
  rw [hst]
  simp
theorem AW.invI {α β : Type} {Y : Nat → Option (α × Hp)} {F : α → Hp → Option β} {w : β} {M' : Mi} {index t : Nat} {r : Option Nat} (vl : α → Option AV) (As rest : List AV) (d : decode M.2.1 pc = .ok (.invokespecial index, 3))
    (q1 : Cond.methodLink M.1.cls index M'.1 ∈ lw_all) (q2 : Cond.instanceMethod M'.1 ∈ lw_all) (q4 : Cond.initialized M'.1.cls ∈ lw_all) (q5 : Cond.code M'.1 M'.2.1 M'.2.2.2.1 none ∈ lw_all) (hret : M'.2.2.1 = none) (hin : M'.1.name = "<init>")
    (hnm : nameOk M'.1 As.length) (hfit : fitM M M' = true) (h8 : Nat.ble (catS rest) 8 = true) (hst : st = As.reverse ++ rV r :: rest)
    (hY : ∀ (b : Nat) (v : α) (σ1 : Hp), Y b = some (v, σ1) → Ct M' (rV (some b) :: As) σ (.inl (vl v), σ1))
    (h : (rcv σ t r).bind (fun b => bn (Y b) F) = some w) (kk : ∀ (v : α) (σ1 : Hp), F v σ1 = some w → AW M σ0 out (pc + 3) L ((vl v).toList ++ rest) σ1) : AW M σ0 out pc L st σ := by
  obtain ⟨b, hb, h9⟩ := ob_some h
  obtain ⟨rfl, x, hx, hxt⟩ := rcv_some hb
  unfold bn at h9
  obtain ⟨⟨v, σ1⟩, hv, h7⟩ := ob_some h9
  refine AW.after (hY b v σ1 hv) (kk v σ1 h7) fun p l e R s m args below meth c D A O H locs ls cells slots hR hL hS hp hM hf => ?_
  have hts := O.1.2.2.2.2.2
  have hf2 := fitM_ok hfit
  rw [hret] at hM
  refine ⟨_, va_runI (As := As.map tv) (rest := rest.map tv) (n := As.length) (cc := M.2.1) (nL := M.2.2.2.1) (Ts := lw_all) (own := M.1.cls) ⟨O.1.1, O.1.2.1, O.1.2.2.2.1, O.1.2.2.2.2.1, hts⟩ hM (cwI As.length hts (lw_meth q5) rfl rfl rfl (hts _ q4) (hts _ q1) (hts _ q2) hin hnm ⟨by rw [O.2.2.1.2.2.1]; exact hf2.1, by rw [O.2.2.1.2.2.2.1]; exact hf2.2⟩) hp rfl (by simp) hL.1 ?_ (room8 h8) d hf⟩
  show st.map tv = _
  rw [hst]
  simp [tv, va_rf]
end
