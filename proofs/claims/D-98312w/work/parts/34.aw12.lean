set_option maxRecDepth 100000
/-! ===== methods that throw, and their catching, over the abstract heap ===== -/
section VXH2
variable {p : Program} {l : Launch} {e : Env} {R : Room} {s : State} {m : MethodId} {args : Array Value} {below : List Frame} {meth : Method} {c : Code} {T : State} {H : Heap} {locs : List Loc} {cells slots : Nat}
theorem vy_callVW (X : Stand p l e R s m args below meth c T locs cells slots) (hexec : p.tables.exec = Jvm.exec) {own C : String} {index : Nat} {y : MethodName} {bytes : ByteArray} {maxL : Nat} {ret : Option FieldType} {hh : List (Nat × Nat × Nat × Nat)}
    (hown : s.vm.findClass own = some m.cls) (hlink : (Cond.methodLink own index y).before args s = true) (hinst : (Cond.instanceMethod y).before args s = true) (hsel : (Cond.selects C y y).before args s = true)
    (hcode : (Cond.codeWith y bytes maxL ret hh).before args s = true) (hy : y.cls ≠ "java/lang/invoke/MethodHandle" ∧ y.cls ≠ "java/lang/invoke/VarHandle")
    {W9 : Nat} {Pre : Pt → Array Value → Prop} {Post : Pt → Array Value → Option Value → Pt → Prop} (hK : Back l R p e below s args y 3 W9 Pre Post)
    {b : Addr} {cellB : Cell} (hcell : T.heap[b]? = some cellB) (hobj : cellB.vm.isStatics = false) (hcls : s.vm.findClass C = some cellB.cls)
    {g : JFrame} (hg : g.method = m) (hsize : g.locals.size = c.maxLocals) {argsL rest : List Value} (hlen : ∀ sig, parseMethodDescriptor y.desc = some sig → argsL.length = sig.parameters.length)
    (hstack : g.stack = argsL.reverse ++ .ref b :: rest) (hW : 2 * g.monitorRoom + (rest.map fun v => v.category).sum ≤ W9) (hdg : decode c.code g.pc = .ok (.invokevirtual index, 3))
    (hpre : ∀ vm₁, s.WarmedH vm₁ → Pre ⟨T.setVm vm₁, locs, cells, slots⟩ (Value.ref b :: argsL).toArray) :
    ∃ (v : Option Value) (vm₁ : Vm) (B : Pt), s.WarmedH vm₁ ∧ Stand p l e R s m args below meth c B.U B.locs B.cells B.slots ∧ Post ⟨T.setVm vm₁, locs, cells, slots⟩ (Value.ref b :: argsL).toArray v B ∧
      ∀ target, Steps p.tables e below (B.U.setTop { g with pc := g.pc + 3, stack := v.toList ++ rest }) target → Steps p.tables e below (T.setTop g) target := by
  obtain ⟨mk, methM, hnamed, hmethM, hstM, habM⟩ := Cond.instanceMethod_spec hinst
  obtain ⟨m8, methM', cM, hn8, hmethM', -, -, -, -, -, -, hsigM⟩ := Cond.codeWith_spec hcode
  cases Option.some.inj (hn8.symm.trans hnamed)
  cases hmethM.symm.trans hmethM'
  obtain ⟨c2, r2, m2, q1, q2, q3, q4, kP, hkP, hkPi⟩ := Cond.selects_spec hsel
  cases hcls.symm.trans q1
  cases (State.methodFound?_of_named hnamed hy).symm.trans q2
  cases hnamed.symm.trans q3
  have hselP : selectMethod e.platform s.vm cellB.cls mk = .method mk := by rw [Launch.admits_selectMethod X.admits]; exact q4
  obtain ⟨vm₁, X₁, hstep₁⟩ := X.invokevirtual hexec hown hlink hnamed hmethM hstM hkP hkPi hy (a := b) (cell := cellB) hcell
    (fun z h => by rw [h] at hobj; cases hobj) hselP hmethM habM hkP hkPi (g := g) hg (argsL := argsL) (rest := rest) (hlen _ hsigM) hstack hdg
  obtain ⟨v, B, X', hpost, hsteps⟩ := hK m meth c ⟨T.setVm vm₁, locs, cells, slots⟩ { g with stack := rest } (.invokevirtual index) mk (Value.ref b :: argsL).toArray X₁ hg hsize hdg hW (X₁.named hnamed) (hpre vm₁ X₁.warmed)
  exact ⟨v, vm₁, B, X₁.warmed, X', hpost, fun target h => hstep₁ _ fun acts => by rw [doInvoke_state]; exact hsteps.trans h⟩
abbrev vy_CVW (R : Room) (s : State) (args : Array Value) (own C : String) (index : Nat) (y : MethodName) (bytes : ByteArray) (maxL : Nat) (ret : Option FieldType) (hh : List (Nat × Nat × Nat × Nat)) (ws : List Cond) (rm : Room) (mc ms n : Nat) : Prop :=
  (rm.cells = mc ∧ rm.slots = ms ∧ rm.frames + 1 ≤ R.frames ∧ 8 + (maxL + 11) + rm.locals ≤ R.locals ∧ (∀ w ∈ ws, ∀ (a' : Array Value) (U : State), s.WarmedH U.vm → w.before a' U = true) ∧ Cond.codeWith y bytes maxL ret hh ∈ ws) ∧
  (Cond.codeWith y bytes maxL ret hh).before args s = true ∧ (Cond.initialized y.cls).before args s = true ∧ (y.cls ≠ "java/lang/invoke/MethodHandle" ∧ y.cls ≠ "java/lang/invoke/VarHandle") ∧
  (∀ sig, parseMethodDescriptor y.desc = some sig → n = sig.parameters.length) ∧ (Cond.methodLink own index y).before args s = true ∧ (Cond.instanceMethod y).before args s = true ∧ (Cond.selects C y y).before args s = true
theorem vy_cwVW {own C : String} {index maxL mc ms : Nat} {y : MethodName} {bytes : ByteArray} {ret : Option FieldType} {hh : List (Nat × Nat × Nat × Nat)} {Ts ws ws' : List Cond} {rm : Room} (n : Nat) (ht : ∀ w ∈ Ts, w.before args s = true) (hT : GoodIn Ts (wsV own index C y ws)) (hw : ws = Cond.codeWith y bytes maxL ret hh :: ws') (hrc : rm.cells = mc) (hrs : rm.slots = ms)
    (hd : y.cls = C ∧ y.cls ≠ "java/lang/invoke/MethodHandle" ∧ y.cls ≠ "java/lang/invoke/VarHandle" ∧ (parseMethodDescriptor y.desc).map (fun d => d.parameters.length) = some n) (hR : rm.frames + 1 ≤ R.frames ∧ 8 + (maxL + 11) + rm.locals ≤ R.locals) :
    vy_CVW R s args own C index y bytes maxL ret hh ws rm mc ms n := by
  obtain ⟨hC, hd⟩ := hd
  subst hC
  have ok : ∀ w ∈ wsV own index y.cls y ws, w.before args s = true := fun w h => ht w (hT w h).1
  have hG : GoodIn Ts ws := fun w h => hT w (by unfold wsV; exact List.mem_append_right _ h)
  have hc : Cond.codeWith y bytes maxL ret hh ∈ ws := by rw [hw]; exact List.mem_cons_self
  refine ⟨⟨hrc, hrs, hR.1, hR.2, pay_in ht hG, hc⟩, ht _ (hG _ hc).1, ok _ (by simp [wsV]), ⟨hd.1, hd.2.1⟩, fun sig h => ?_, ok _ (by simp [wsV]), ok _ (by simp [wsV]), ok _ (by simp [wsV])⟩
  have h2 := hd.2.2
  rw [h] at h2
  exact (Option.some.inj h2).symm
theorem vy_runVW {y : MethodName} {bytes cc : ByteArray} {maxL nL mc ms n index : Nat} {ret : Option FieldType} {hh : List (Nat × Nat × Nat × Nat)} {ws : List Cond} {rm : Room} {Pc : Array Value → State → Prop} {Qc : Array Value → State → Outcome → State → Prop} {free : Addr → Prop} {Ts : List Cond} {own C : String} {b : Addr} {As rest : List Value} {g : JFrame}
    (S : CallFix p m c cc nL s args Ts own) (hM : Met l y ws rm Pc Qc mc ms free) (cw : vy_CVW R s args own C index y bytes maxL ret hh ws rm mc ms n) (hp : PreV s H C b Pc As)
    (hg : g.method = m) (hn : As.length = n) (hsize : g.locals.size = nL) (hstack : g.stack = As.reverse ++ .ref b :: rest) (hW : 2 * g.monitorRoom + (rest.map fun v => v.category).sum ≤ 8) (hdg : decode cc g.pc = .ok (.invokevirtual index, 3)) (hf : cells + mc ≤ R.cells ∧ slots + ms ≤ R.slots) :
    va_Run p l e R s m args below meth c H locs cells slots mc ms g rest (Qc (Value.ref b :: As).toArray) free := by
  obtain ⟨⟨hrc, hrs, hfr, hlo, hws, hcw⟩, hcode, hini, hy, hlen, hl, hin, hse⟩ := cw
  have hK : Back l R p e below s args y 3 8 (PreOf R mc ms Pc) (PostOf Qc mc ms free) := va_backW (hh := hh) (bytes := bytes) (maxL := maxL) (ret := ret) hM hp.1 hrc hrs hfr hlo hws hcw (fun a' U hW => word_at hW (Or.inl (by first | rfl | simp [Cond.onTables, Cond.keeps, Cond.steady])) hini)
  obtain ⟨hx, hb, hml, ho, -⟩ := S
  obtain ⟨-, ⟨cellB, hcB, hoB, hclB⟩, hPc⟩ := hp
  intro T hT X
  obtain ⟨v, vm₁, ⟨U', l2, c2, s2⟩, hW₁, X', ⟨g', mk, t, L, e1, e2, hq, h1, hL, h2, h3⟩, st⟩ := vy_callVW X hx (C := C) (hh := hh) (bytes := bytes) (maxL := maxL) (ret := ret) ho hl hin hse hcode hy hK (by rw [hT]; exact hcB) hoB hclB hg (hsize.trans hml.symm) (argsL := As) (rest := rest) (fun sig h => hn.trans (hlen sig h)) hstack hW (by rw [hb]; exact hdg)
    (fun vm₁ hW₁ => ⟨hf.1, hf.2, hPc (T.setVm vm₁) hT hW₁⟩)
  dsimp only [Pt.U, Pt.locs, Pt.cells, Pt.slots] at X' e1 e2 h1 h2 h3 st
  subst h1; subst h2; subst h3
  exact ⟨v, (T.setVm vm₁).calling g' mk (Value.ref b :: As).toArray, t, U', L, hT, X', hL, e1, e2, hq, st⟩
end VXH2
section VXK3
variable {p : Program} {l : Launch} {e : Env} {R : Room} {s : State} {m : MethodId} {args : Array Value} {below : List Frame} {meth : Method} {c : Code} {H : Heap} {locs : List Loc} {cells slots : Nat} {Q : State → Prop} {ls : Array Slot} {rest : List Value}
theorem vy_athrow {cc : ByteArray} {pc : Nat} (hexec : p.tables.exec = Jvm.exec) (hb : c.code = cc) {q : Addr} (hdg : decode cc pc = .ok (.athrow, 1)) (k : vy_W p l e R s m args below meth c H locs cells slots Q (F0 m pc ls rest) q) : W p l e R s m args below meth c H locs cells slots Q (F0 m pc ls (.ref q :: rest)) := by
  intro T hT X
  obtain ⟨t, st, hq⟩ := k T hT X
  refine ⟨t, ?_, hq⟩
  have hdg' : decode c.code pc = .ok (.athrow, 1) := by rw [hb]; exact hdg
  jvm_step X.here [X.here.top, hexec, hdg', athrow.wp_sem]
  exact st
end VXK3
theorem vy_MetWH {l : Launch} {y : MethodName} {ws ws' : List Cond} {rm : Room} {Pc : Array Value → State → Prop} {Qc : Array Value → State → Outcome → State → Prop} {mc ms : Nat} {free : Addr → Prop} {cc : ByteArray} {maxL : Nat} {ret : Option FieldType} {hh : List (Nat × Nat × Nat × Nat)}
    (hy : plainName y.cls = true) (hw : ws = Cond.codeWith y cc maxL ret hh :: ws')
    (body : ∀ p e s m args below meth c s₁, BodyLoose p l y (headSpec ws rm) cc maxL ret e s m args below meth c s₁ → c.maxLocals = maxL → Pc args s →
      W p l e (headSpec ws rm).room s m args below meth c s.heap [] 0 0 (MQ below Qc args s mc ms free) (entryFrame m args maxL)) : Met l y ws rm Pc Qc mc ms free := by
  refine MetFree.of_bodyS (code := cc) (maxLocals := maxL) (ret := ret) hy ?_ ?_
  · intro args s m h hn
    obtain ⟨m9, meth, c, hn9, h1, h2, h3, h4, -, h5, h6, -⟩ := Cond.codeWith_spec (atoms_spec (ws := ws) h _ (by rw [hw]; exact List.mem_cons_self))
    cases hn.symm.trans hn9
    exact ⟨meth, c, h1, h2, h3, h4, h5, h6⟩
  · intro p e s m args below meth c s₁ B hml hP _
    have hh0 : s₁.heap = s.heap := by rw [B.state]; rfl
    obtain ⟨t, a1, o, b1, b2, b3⟩ := body p e s m args below meth c s₁ B hml hP s₁ hh0 (Stand.of_body B)
    exact ⟨t, o, a1, b1, b2, ⟨b3.1, b3.2⟩⟩
def cx {α β : Type} (x : Option ((α ⊕ Nat) × Hp)) (f : α → Hp → Option β) (g : Nat → Hp → Option β) : Option β := x.bind fun q => match q.1 with
  | .inl v => f v q.2
  | .inr e => g e q.2
def bx {α β : Type} (x : Option ((α ⊕ Nat) × Hp)) (f : α → Hp → Option ((β ⊕ Nat) × Hp)) : Option ((β ⊕ Nat) × Hp) := cx x f (fun e s => some (.inr e, s))
def thr {β : Type} (σ : Hp) (r : Option Nat) : Option ((β ⊕ Nat) × Hp) := (rcv σ 1 r).bind fun a => some (.inr a, σ)
abbrev vI (v : Int) : Option AV := some (iV v)
abbrev vU (_ : Unit) : Option AV := none
abbrev vR (v : Option Nat) : Option AV := some (rV v)
abbrev xo {β : Type} (vo : β → Option AV) (w : (β ⊕ Nat) × Hp) : Ot := (match w.1 with | .inl v => .inl (vo v) | .inr q => .inr q, w.2)
theorem cx_some {α β : Type} {x : Option ((α ⊕ Nat) × Hp)} {f : α → Hp → Option β} {g : Nat → Hp → Option β} {w : β} (h : cx x f g = some w) : (∃ (v : α) (σ1 : Hp), x = some (.inl v, σ1) ∧ f v σ1 = some w) ∨ ∃ (q : Nat) (σ1 : Hp), x = some (.inr q, σ1) ∧ g q σ1 = some w := by
  unfold cx at h
  obtain ⟨⟨v, σ1⟩, hv, h7⟩ := ob_some h
  cases v with
  | inl v => exact Or.inl ⟨v, σ1, hv, h7⟩
  | inr q => exact Or.inr ⟨q, σ1, hv, h7⟩
theorem fitM_of {M M' : Mi} (h1 : M'.2.2.2.2.1 + 1 ≤ M.2.2.2.2.1) (h2 : 8 + (M'.2.2.2.1 + 11) + M'.2.2.2.2.2.1 ≤ M.2.2.2.2.2.1) : fitM M M' = true := by
  unfold fitM
  rw [Nat.ble_eq_true_of_le h1, Nat.ble_eq_true_of_le h2]
  rfl
section
variable {M : Mi} {σ0 : Hp} {out : Ot} {pc : Nat} {L : List (Option AV)} {st : List AV} {σ : Hp}
/-- a Fault is thrown out of the method -/
theorem AW.athrow {β : Type} {vo : β → Option AV} {w : (β ⊕ Nat) × Hp} {r : Option Nat} (d : decode M.2.1 pc = .ok (.athrow, 1)) (hh : M.2.2.2.2.2.2 = []) (h : thr σ r = some w) : AW M σ0 (xo vo w) pc L (rV r :: st) σ := by
  unfold thr at h
  obtain ⟨a, ha, h9⟩ := ob_some h
  obtain ⟨rfl, x, hx, hxt⟩ := rcv_some ha
  cases h9
  refine ⟨leH.rf _, fun p l e R s m args below meth c D A O H locs ls h0 hR hS hL => ?_⟩
  obtain ⟨cell, g1, g2, g3, g4, g5, -⟩ := hR.2 a x hx
  obtain ⟨hA, hv⟩ := g4 (by rw [hxt]; exact ⟨by decide, by decide⟩)
  refine vy_athrow O.1.1 O.1.2.1 d ?_
  refine vy_out (E := RX1) (ce := cell) (fun y hy => ?_) O.2.1.1 g1 hv ?_ (fun t ht hal => ⟨rfl, rfl, by rw [ht]; exact hR.moved hal, hS.F ht⟩) hS.2.2 (Nat.le_refl _) (Nat.le_refl _)
  · rw [O.2.1.2.2.2, hh] at hy
    cases hy
  · rw [(g5 (by rw [hxt]; decide)).1, hxt]
    exact (O.2.2.2.1 1 (by decide)).2.1
/-- a call that throws: out of the method, or to its handler -/
theorem AW.afterX {M' : Mi} {as : List AV} {σ1 : Hp} {q : Nat} {rest : List AV} (hc : Ct M' as σ (.inr q, σ1)) (hle : leH σ1 out.2)
    (k : ∀ (p : Program) (l : Launch) (e : Env) (R : Room) (s : State) (m : MethodId) (args : Array Value) (below : List Frame) (meth : Method) (c : Code) (D : va_G) (A : Nat → Prop), Ok M σ0 out.2 p l e R s m args below meth c D A → ∀ (H : Heap) (locs : List Loc) (ls : Array Slot) (ce : Cell), leH σ0 σ1 → RH D A s H σ1 → va_S A s.heap H locs → LV ls M.2.2.2.1 L → H[q]? = some ce → ce.vm = .none → s.vm.findClass RX1 = some ce.cls →
      vy_W p l e R s m args below meth c H locs (σ1.2.1 - σ0.2.1) (σ1.2.2.1 - σ0.2.2.1) (Qo out.1 σ0 out.2 below args s D A) (F0 m pc ls (rest.map tv)) q)
    (f : ∀ (p : Program) (l : Launch) (e : Env) (R : Room) (s : State) (m : MethodId) (args : Array Value) (below : List Frame) (meth : Method) (c : Code) (D : va_G) (A : Nat → Prop), Ok M σ0 out.2 p l e R s m args below meth c D A →
      ∀ (H : Heap) (locs : List Loc) (ls : Array Slot) (cells slots : Nat), RH D A s H σ → LV ls M.2.2.2.1 L → va_S A s.heap H locs → PreS s H (cPc D A as σ) (as.map tv) →
        vy_Met l M'.1 (ws_ M'.1 M'.2.1 M'.2.2.2.1 M'.2.2.1) (cRm M' σ σ1) (cPc D A as σ) (fun _ _ _ _ => False) (Xn D A q σ1) (σ1.2.1 - σ.2.1) (σ1.2.2.1 - σ.2.2.1) A →
        (cells + (σ1.2.1 - σ.2.1) ≤ R.cells ∧ slots + (σ1.2.2.1 - σ.2.2.1) ≤ R.slots) →
        vy_Run p l e R s m args below meth c H locs cells slots (σ1.2.1 - σ.2.1) (σ1.2.2.1 - σ.2.2.1) (F0 m pc ls (st.map tv)) (rest.map tv) (fun _ _ _ => False) (Xn D A q σ1) A) : AW M σ0 out pc L st σ := by
  refine ⟨hc.1.tr hle, fun p l e R s m args below meth c D A O H locs ls h0 hR hS hL => ?_⟩
  have h1 : leH σ σ1 := hc.1
  have hA : ∀ q : Nat, σ.2.1 ≤ q → A q := fun q hq => O.2.2.1.1 q (by have := hR.1; have := hS.1; omega)
  have hM := hc.2 l D A O.2.1.2.2.1 hA
  have ec : σ.2.1 - σ0.2.1 + (σ1.2.1 - σ.2.1) = σ1.2.1 - σ0.2.1 := by have := h0.1; have := h1.1; omega
  have es : σ.2.2.1 - σ0.2.2.1 + (σ1.2.2.1 - σ.2.2.1) = σ1.2.2.1 - σ0.2.2.1 := by have := h0.2.1; have := h1.2.1; omega
  have hr := f p l e R s m args below meth c D A O H locs ls (σ.2.1 - σ0.2.1) (σ.2.2.1 - σ0.2.2.1) hR hL hS (cPc_pre hR O.2.2.2 h0.2.2.symm hS) hM
    ⟨by rw [ec]; have := O.2.2.1.2.2.2.2.1; have := hle.1; omega, by rw [es]; have := O.2.2.1.2.2.2.2.2; have := hle.2.1; omega⟩
  intro T hT X
  rcases hr T hT X with ⟨v, st₀, t, T', Lx, z0, X', hLx, e1, e2, hq, stp⟩ | ⟨q1, st₀, t, T', Lx, E, ce, z0, X', hLx, e1, e2, ⟨rfl, rfl, hRt, hF⟩, hce, hcv, hcl, stp⟩
  · exact hq.elim
  · obtain ⟨hz, hk⟩ := hF
    rw [z0] at hz hk
    rw [ec, es] at X'
    have hS1 : va_S A s.heap T'.heap (locs ++ Lx) := ⟨Nat.le_trans hS.1 (by rw [e1]; exact hz), fun q h1 h2 => by rw [e1, hk q (Nat.lt_of_lt_of_le h1 hS.1) h2]; exact hS.2.1 q h1 h2, fun q hq => by
      rcases List.mem_append.mp hq with h | h
      · exact hS.2.2 q h
      · exact hLx q h⟩
    obtain ⟨t2, a1, b1⟩ := k p l e R s m args below meth c D A O T'.heap (locs ++ Lx) ls ce (h0.tr h1) (by rw [e1]; exact hRt.moved (by rw [← e2]; exact X'.warmed.alike.symm)) hS1 hL (by rw [e1]; exact hce) hcv hcl T' rfl X'
    exact ⟨t2, stp.trans a1, b1⟩
/-- it goes on to the caller -/
theorem AW.outX {β : Type} {vo : β → Option AV} {σ1 : Hp} {q : Nat} {rest : List AV} (hh : M.2.2.2.2.2.2 = []) :
    ∀ (p : Program) (l : Launch) (e : Env) (R : Room) (s : State) (m : MethodId) (args : Array Value) (below : List Frame) (meth : Method) (c : Code) (D : va_G) (A : Nat → Prop), Ok M σ0 (xo vo (.inr q, σ1)).2 p l e R s m args below meth c D A → ∀ (H : Heap) (locs : List Loc) (ls : Array Slot) (ce : Cell), leH σ0 σ1 → RH D A s H σ1 → va_S A s.heap H locs → LV ls M.2.2.2.1 L → H[q]? = some ce → ce.vm = .none → s.vm.findClass RX1 = some ce.cls →
      vy_W p l e R s m args below meth c H locs (σ1.2.1 - σ0.2.1) (σ1.2.2.1 - σ0.2.2.1) (Qo (xo vo (.inr q, σ1)).1 σ0 (xo vo (.inr q, σ1)).2 below args s D A) (F0 m pc ls (rest.map tv)) q := by
  intro p l e R s m args below meth c D A O H locs ls ce h0 hR hS hL hce hcv hcl
  refine vy_out (E := RX1) (ce := ce) (fun y hy => ?_) O.2.1.1 hce hcv hcl (fun t ht hal => ⟨rfl, rfl, by rw [ht]; exact hR.moved hal, hS.F ht⟩) hS.2.2 (Nat.le_refl _) (Nat.le_refl _)
  rw [O.2.1.2.2.2, hh] at hy
  cases hy
theorem AW.catX {σ1 : Hp} {q : Nat} {rest : List AV} {a1 a2 a3 a4 : Nat} (hh : M.2.2.2.2.2.2 = [(a1, a2, a3, a4)]) (hcv : a1 ≤ pc ∧ pc < a2) (h4 : a4 ≠ 0) (ql : Cond.classLink M.1.cls a4 "LateMirrors$Fault" ∈ lw_all) (kk : AW M σ0 out a3 L [rV (some q)] σ1) :
    ∀ (p : Program) (l : Launch) (e : Env) (R : Room) (s : State) (m : MethodId) (args : Array Value) (below : List Frame) (meth : Method) (c : Code) (D : va_G) (A : Nat → Prop), Ok M σ0 out.2 p l e R s m args below meth c D A → ∀ (H : Heap) (locs : List Loc) (ls : Array Slot) (ce : Cell), leH σ0 σ1 → RH D A s H σ1 → va_S A s.heap H locs → LV ls M.2.2.2.1 L → H[q]? = some ce → ce.vm = .none → s.vm.findClass RX1 = some ce.cls →
      vy_W p l e R s m args below meth c H locs (σ1.2.1 - σ0.2.1) (σ1.2.2.1 - σ0.2.2.1) (Qo out.1 σ0 out.2 below args s D A) (F0 m pc ls (rest.map tv)) q := by
  intro p l e R s m args below meth c D A O H locs ls ce h0 hR hS hL hce hcv2 hcl
  have htab := O.2.1.2.2.2
  rw [hh] at htab
  have w := kk.2 p l e R s m args below meth c D A O H locs ls h0 hR hS hL
  refine vy_catch (own := M.1.cls) (name := "LateMirrors$Fault") (E := RX1) (ce := ce) O.1.2.2.2.2.1 [] _ [] htab (fun z hz => nomatch hz) ?_ h4 (O.1.2.2.2.2.2 _ ql) (va_Nw.use (by first | rfl | simp [Cond.onTables]) (O.2.2.2.2.2.1 (RX1, "LateMirrors$Fault") (by decide))) hce hcv2 hcl w
  simp [covers, hcv.1, hcv.2]
theorem xrunV {p : Program} {l : Launch} {e : Env} {R : Room} {s : State} {m : MethodId} {args : Array Value} {below : List Frame} {meth : Method} {c : Code} {D : va_G} {A : Nat → Prop} {H : Heap} {locs : List Loc} {ls : Array Slot} {cells slots : Nat} {M' : Mi} {As rest : List AV} {σ1 : Hp} {q b t index : Nat}
    (O : Ok M σ0 out.2 p l e R s m args below meth c D A) (d : decode M.2.1 pc = .ok (.invokevirtual index, 3)) (q1 : Cond.methodLink M.1.cls index M'.1 ∈ lw_all) (q2 : Cond.instanceMethod M'.1 ∈ lw_all) (q3 : Cond.selects M'.1.cls M'.1 M'.1 ∈ lw_all) (q4 : Cond.initialized M'.1.cls ∈ lw_all) (q5 : Cond.code M'.1 M'.2.1 M'.2.2.2.1 M'.2.2.1 ∈ lw_all)
    (ck : clsOk t) (hcl : (aw_c t).1 = M'.1.cls) (hnm : nameOk M'.1 As.length) (hfit : fitM M M' = true) (h8 : Nat.ble (catS rest) 8 = true) (hst : st = As.reverse ++ rV (some b) :: rest) {x : Ce} (hx : σ.1 b = some x) (hxt : x.1 = t)
    (hR : RH D A s H σ) (hL : LV ls M.2.2.2.1 L) (hp : PreS s H (cPc D A (rV (some b) :: As) σ) ((rV (some b) :: As).map tv)) (hM : vy_Met l M'.1 (ws_ M'.1 M'.2.1 M'.2.2.2.1 M'.2.2.1) (cRm M' σ σ1) (cPc D A (rV (some b) :: As) σ) (fun _ _ _ _ => False) (Xn D A q σ1) (σ1.2.1 - σ.2.1) (σ1.2.2.1 - σ.2.2.1) A)
    (hf : cells + (σ1.2.1 - σ.2.1) ≤ R.cells ∧ slots + (σ1.2.2.1 - σ.2.2.1) ≤ R.slots) :
    vy_Run p l e R s m args below meth c H locs cells slots (σ1.2.1 - σ.2.1) (σ1.2.2.1 - σ.2.2.1) (F0 m pc ls (st.map tv)) (rest.map tv) (fun _ _ _ => False) (Xn D A q σ1) A := by
  have hts := O.1.2.2.2.2.2
  have hrecv : ∃ cell : Cell, H[b]? = some cell ∧ cell.vm.isStatics = false ∧ s.vm.findClass M'.1.cls = some cell.cls := by
    obtain ⟨cell, g1, g2, g3⟩ := cls_at (M := M) (σ0 := σ0) (out := out) O (hR.2 b x hx) (by rw [hxt]; exact ck)
    refine ⟨cell, g1, g2, ?_⟩
    rw [← hcl, ← hxt]
    exact g3
  have hf2 := fitM_ok hfit
  refine vy_runV (As := As.map tv) (rest := rest.map tv) (n := As.length) (cc := M.2.1) (nL := M.2.2.2.1) (Ts := lw_all) (own := M.1.cls) (C := M'.1.cls) ⟨O.1.1, O.1.2.1, O.1.2.2.2.1, O.1.2.2.2.2.1, hts⟩ hM (cwV As.length hts (lw_V q1 q2 q3 q4 q5) rfl rfl rfl ⟨rfl, hnm⟩ ⟨by rw [O.2.2.1.2.2.1]; exact hf2.1, by rw [O.2.2.1.2.2.2.1]; exact hf2.2⟩) ⟨hp.1, hrecv, hp.2⟩ rfl (by simp) hL.1 ?_ (room8 h8) d hf
  show st.map tv = _
  rw [hst]
  simp [tv, va_rf]
theorem AW.xinvV {α β : Type} {Y : Nat → Option ((α ⊕ Nat) × Hp)} {F : α → Hp → Option ((β ⊕ Nat) × Hp)} {w : (β ⊕ Nat) × Hp} {vo : β → Option AV} {M' : Mi} {index t : Nat} {r : Option Nat} (vl : α → Option AV) (As rest : List AV) (d : decode M.2.1 pc = .ok (.invokevirtual index, 3))
    (q1 : Cond.methodLink M.1.cls index M'.1 ∈ lw_all) (q2 : Cond.instanceMethod M'.1 ∈ lw_all) (q3 : Cond.selects M'.1.cls M'.1 M'.1 ∈ lw_all) (q4 : Cond.initialized M'.1.cls ∈ lw_all) (q5 : Cond.code M'.1 M'.2.1 M'.2.2.2.1 M'.2.2.1 ∈ lw_all)
    (ck : clsOk t) (hcl : (aw_c t).1 = M'.1.cls) (hnm : nameOk M'.1 As.length) (hfit : fitM M M' = true) (h8 : Nat.ble (catS rest) 8 = true) (hst : st = As.reverse ++ rV r :: rest) (hh : M.2.2.2.2.2.2 = [])
    (hY : ∀ (b : Nat) (w1 : (α ⊕ Nat) × Hp), Y b = some w1 → Ct M' (rV (some b) :: As) σ (xo vl w1))
    (h : (rcv σ t r).bind (fun b => bx (Y b) F) = some w) (kk : ∀ (v : α) (σ1 : Hp), F v σ1 = some w → AW M σ0 (xo vo w) (pc + 3) L ((vl v).toList ++ rest) σ1) : AW M σ0 (xo vo w) pc L st σ := by
  obtain ⟨b, hb, h9⟩ := ob_some h
  unfold bx at h9
  rcases cx_some h9 with ⟨v, σ1, hv, h7⟩ | ⟨q, σ1, hv, h7⟩
  · refine AW.invV (Y := fun b1 => if b1 = b then some (v, σ1) else none) vl As rest d q1 q2 q3 q4 q5 ck.1 ck.2.1 hcl hnm hfit h8 hst (fun b1 v1 σ2 e => ?_) (F := F) (w := w) ?_ kk
    · obtain ⟨e1, e2⟩ := pz_elim e
      cases e2
      rw [e1]
      exact hY b _ hv
    · rw [hb, Option.bind_some, if_pos rfl]
      exact h7
  · cases h7
    obtain ⟨rfl, x, hx, hxt⟩ := rcv_some hb
    have hc : Ct M' (rV (some b) :: As) σ (.inr q, σ1) := hY b _ hv
    exact AW.afterX (rest := rest) hc (leH.rf _) (AW.outX hh) fun p l e R s m args below meth c D A O H locs ls cells slots hR hL hS hp hM hf => xrunV (out := xo vo (.inr q, σ1)) O d q1 q2 q3 q4 q5 ck hcl hnm hfit h8 hst hx hxt hR hL hp hM hf
/-- a call whose throwing is caught here -/
theorem AW.cinvV {α β : Type} {Y : Nat → Option ((α ⊕ Nat) × Hp)} {F : α → Hp → Option β} {G : Nat → Hp → Option β} {w : β} {M' : Mi} {index t a1 a2 a3 a4 : Nat} {r : Option Nat} (vl : α → Option AV) (As rest : List AV) (d : decode M.2.1 pc = .ok (.invokevirtual index, 3))
    (q1 : Cond.methodLink M.1.cls index M'.1 ∈ lw_all) (q2 : Cond.instanceMethod M'.1 ∈ lw_all) (q3 : Cond.selects M'.1.cls M'.1 M'.1 ∈ lw_all) (q4 : Cond.initialized M'.1.cls ∈ lw_all) (q5 : Cond.code M'.1 M'.2.1 M'.2.2.2.1 M'.2.2.1 ∈ lw_all)
    (ck : clsOk t) (hcl : (aw_c t).1 = M'.1.cls) (hnm : nameOk M'.1 As.length) (hfit : fitM M M' = true) (h8 : Nat.ble (catS rest) 8 = true) (hst : st = As.reverse ++ rV r :: rest) (hh : M.2.2.2.2.2.2 = [(a1, a2, a3, a4)]) (hcv : a1 ≤ pc ∧ pc < a2) (h4 : a4 ≠ 0) (ql : Cond.classLink M.1.cls a4 "LateMirrors$Fault" ∈ lw_all)
    (hY : ∀ (b : Nat) (w1 : (α ⊕ Nat) × Hp), Y b = some w1 → Ct M' (rV (some b) :: As) σ (xo vl w1))
    (h : (rcv σ t r).bind (fun b => cx (Y b) F G) = some w) (kk : ∀ (v : α) (σ1 : Hp), F v σ1 = some w → AW M σ0 out (pc + 3) L ((vl v).toList ++ rest) σ1) (kg : ∀ (q : Nat) (σ1 : Hp), G q σ1 = some w → AW M σ0 out a3 L [rV (some q)] σ1) : AW M σ0 out pc L st σ := by
  obtain ⟨b, hb, h9⟩ := ob_some h
  rcases cx_some h9 with ⟨v, σ1, hv, h7⟩ | ⟨q, σ1, hv, h7⟩
  · refine AW.invV (Y := fun b1 => if b1 = b then some (v, σ1) else none) vl As rest d q1 q2 q3 q4 q5 ck.1 ck.2.1 hcl hnm hfit h8 hst (fun b1 v1 σ2 e => ?_) (F := F) (w := w) ?_ kk
    · obtain ⟨e1, e2⟩ := pz_elim e
      cases e2
      rw [e1]
      exact hY b _ hv
    · rw [hb, Option.bind_some, if_pos rfl]
      exact h7
  · obtain ⟨rfl, x, hx, hxt⟩ := rcv_some hb
    have hc : Ct M' (rV (some b) :: As) σ (.inr q, σ1) := hY b _ hv
    have k9 := kg q σ1 h7
    exact AW.afterX (rest := rest) hc k9.1 (AW.catX hh hcv h4 ql k9) fun p l e R s m args below meth c D A O H locs ls cells slots hR hL hS hp hM hf => xrunV O d q1 q2 q3 q4 q5 ck hcl hnm hfit h8 hst hx hxt hR hL hp hM hf
/-- the contract of a method with handlers that returns -/
def CtH (M : Mi) (as : List AV) (σ : Hp) (rv : Option AV) (σ1 : Hp) : Prop :=
  leH σ σ1 ∧ ∀ (l : Launch) (D : va_G) (A : Nat → Prop), l.flags = flags0 → (∀ q : Nat, σ.2.1 ≤ q → A q) →
    Met l M.1 (wsW_ M.1 M.2.1 M.2.2.2.1 M.2.2.1 M.2.2.2.2.2.2) (cRm M σ σ1) (cPc D A as σ) (Qn D A (rv.map tv) σ1) (σ1.2.1 - σ.2.1) (σ1.2.2.1 - σ.2.2.1) A
theorem CtH.of {M : Mi} {as : List AV} {σ σ1 : Hp} {rv : Option AV} {L : List (Option AV)} (hy : plainName M.1.cls = true) (hn : (lg_sl (as.map tv)).length ≤ M.2.2.2.1) (hL : entL as ++ List.replicate (M.2.2.2.1 - (entL as).length) none = L) (k : AW M σ (.inl rv, σ1) 0 L [] σ) : CtH M as σ rv σ1 := by
  refine ⟨k.1, fun l D A hf hA => ?_⟩
  refine vy_MetWH (cc := M.2.1) (maxL := M.2.2.2.1) (ret := M.2.2.1) hy rfl ?_
  intro p e s m args below meth c s₁ B hml hP
  obtain ⟨rfl, hR, hK⟩ := hP
  have hts0 := atoms_spec (ws := wsW_ M.1 M.2.1 M.2.2.2.1 M.2.2.1 M.2.2.2.2.2.2) B.pre
  have hts : ∀ w ∈ lw_all, w.before _ s = true := fun w h => hts0 w (List.mem_cons_of_mem _ h)
  have O : Ok M σ σ1 p l e (headSpec (wsW_ M.1 M.2.1 M.2.2.2.1 M.2.2.1 M.2.2.2.2.2.2) (cRm M σ σ1)).room s m (as.map tv).toArray below meth c D A :=
    ⟨⟨B.exec, B.bytes, B.returns, hml, findClass_of_methodNamed B.named, hts⟩, ⟨B.notSynchronized, (name_of_methodNamed B.named B.method).1, hf, vy_table (x := M.1) B (hts0 _ List.mem_cons_self)⟩, ⟨fun q hq => hA q (by rw [← hR.1]; exact hq), hR.1, rfl, rfl, Nat.le_refl _, Nat.le_refl _⟩, hK⟩
  have w := k.2 p l e _ s m (as.map tv).toArray below meth c D A O s.heap [] _ (leH.rf _) hR va_S.rf (LV_entry hn hL)
  rw [Nat.sub_self, Nat.sub_self] at w
  rw [lg_entry_eq]
  exact w
end
section
variable {M : Mi} {σ0 : Hp} {out : Ot} {pc : Nat} {L : List (Option AV)} {st : List AV} {σ : Hp}
theorem AW.xVI {β : Type} {Y : Nat → Option ((Int ⊕ Nat) × Hp)} {F : Int → Hp → Option ((β ⊕ Nat) × Hp)} {w : (β ⊕ Nat) × Hp} {vo : β → Option AV} {M' : Mi} {index t : Nat} {r : Option Nat} (As rest : List AV) (d : decode M.2.1 pc = .ok (.invokevirtual index, 3))
    (q1 : Cond.methodLink M.1.cls index M'.1 ∈ lw_all) (q2 : Cond.instanceMethod M'.1 ∈ lw_all) (q3 : Cond.selects M'.1.cls M'.1 M'.1 ∈ lw_all) (q4 : Cond.initialized M'.1.cls ∈ lw_all) (q5 : Cond.code M'.1 M'.2.1 M'.2.2.2.1 M'.2.2.1 ∈ lw_all)
    (ck : clsOk t) (hcl : (aw_c t).1 = M'.1.cls) (hnm : nameOk M'.1 As.length) (hfit : fitM M M' = true) (h8 : Nat.ble (catS rest) 8 = true) (hst : st = As.reverse ++ rV r :: rest) (hh : M.2.2.2.2.2.2 = [])
    (hY : ∀ (b : Nat) (w1 : (Int ⊕ Nat) × Hp), Y b = some w1 → Ct M' (rV (some b) :: As) σ (xo vI w1))
    (h : (rcv σ t r).bind (fun b => bx (Y b) F) = some w) (kk : ∀ (v : Int) (σ1 : Hp), F v σ1 = some w → AW M σ0 (xo vo w) (pc + 3) L (iV v :: rest) σ1) : AW M σ0 (xo vo w) pc L st σ :=
  AW.xinvV vI As rest d q1 q2 q3 q4 q5 ck hcl hnm hfit h8 hst hh hY h kk
theorem AW.xVU {β : Type} {Y : Nat → Option ((Unit ⊕ Nat) × Hp)} {F : Unit → Hp → Option ((β ⊕ Nat) × Hp)} {w : (β ⊕ Nat) × Hp} {vo : β → Option AV} {M' : Mi} {index t : Nat} {r : Option Nat} (As rest : List AV) (d : decode M.2.1 pc = .ok (.invokevirtual index, 3))
    (q1 : Cond.methodLink M.1.cls index M'.1 ∈ lw_all) (q2 : Cond.instanceMethod M'.1 ∈ lw_all) (q3 : Cond.selects M'.1.cls M'.1 M'.1 ∈ lw_all) (q4 : Cond.initialized M'.1.cls ∈ lw_all) (q5 : Cond.code M'.1 M'.2.1 M'.2.2.2.1 M'.2.2.1 ∈ lw_all)
    (ck : clsOk t) (hcl : (aw_c t).1 = M'.1.cls) (hnm : nameOk M'.1 As.length) (hfit : fitM M M' = true) (h8 : Nat.ble (catS rest) 8 = true) (hst : st = As.reverse ++ rV r :: rest) (hh : M.2.2.2.2.2.2 = [])
    (hY : ∀ (b : Nat) (w1 : (Unit ⊕ Nat) × Hp), Y b = some w1 → Ct M' (rV (some b) :: As) σ (xo vU w1))
    (h : (rcv σ t r).bind (fun b => bx (Y b) F) = some w) (kk : ∀ (v : Unit) (σ1 : Hp), F v σ1 = some w → AW M σ0 (xo vo w) (pc + 3) L (rest) σ1) : AW M σ0 (xo vo w) pc L st σ :=
  AW.xinvV vU As rest d q1 q2 q3 q4 q5 ck hcl hnm hfit h8 hst hh hY h kk
theorem AW.xVR {β : Type} {Y : Nat → Option (((Option Nat) ⊕ Nat) × Hp)} {F : (Option Nat) → Hp → Option ((β ⊕ Nat) × Hp)} {w : (β ⊕ Nat) × Hp} {vo : β → Option AV} {M' : Mi} {index t : Nat} {r : Option Nat} (As rest : List AV) (d : decode M.2.1 pc = .ok (.invokevirtual index, 3))
    (q1 : Cond.methodLink M.1.cls index M'.1 ∈ lw_all) (q2 : Cond.instanceMethod M'.1 ∈ lw_all) (q3 : Cond.selects M'.1.cls M'.1 M'.1 ∈ lw_all) (q4 : Cond.initialized M'.1.cls ∈ lw_all) (q5 : Cond.code M'.1 M'.2.1 M'.2.2.2.1 M'.2.2.1 ∈ lw_all)
    (ck : clsOk t) (hcl : (aw_c t).1 = M'.1.cls) (hnm : nameOk M'.1 As.length) (hfit : fitM M M' = true) (h8 : Nat.ble (catS rest) 8 = true) (hst : st = As.reverse ++ rV r :: rest) (hh : M.2.2.2.2.2.2 = [])
    (hY : ∀ (b : Nat) (w1 : ((Option Nat) ⊕ Nat) × Hp), Y b = some w1 → Ct M' (rV (some b) :: As) σ (xo vR w1))
    (h : (rcv σ t r).bind (fun b => bx (Y b) F) = some w) (kk : ∀ (v : (Option Nat)) (σ1 : Hp), F v σ1 = some w → AW M σ0 (xo vo w) (pc + 3) L (rV v :: rest) σ1) : AW M σ0 (xo vo w) pc L st σ :=
  AW.xinvV vR As rest d q1 q2 q3 q4 q5 ck hcl hnm hfit h8 hst hh hY h kk
theorem AW.cVR {β : Type} {Y : Nat → Option ((Option Nat ⊕ Nat) × Hp)} {F : Option Nat → Hp → Option β} {G : Nat → Hp → Option β} {w : β} {M' : Mi} {index t a1 a2 a3 a4 : Nat} {r : Option Nat} (As rest : List AV) (d : decode M.2.1 pc = .ok (.invokevirtual index, 3))
    (q1 : Cond.methodLink M.1.cls index M'.1 ∈ lw_all) (q2 : Cond.instanceMethod M'.1 ∈ lw_all) (q3 : Cond.selects M'.1.cls M'.1 M'.1 ∈ lw_all) (q4 : Cond.initialized M'.1.cls ∈ lw_all) (q5 : Cond.code M'.1 M'.2.1 M'.2.2.2.1 M'.2.2.1 ∈ lw_all)
    (ck : clsOk t) (hcl : (aw_c t).1 = M'.1.cls) (hnm : nameOk M'.1 As.length) (hfit : fitM M M' = true) (h8 : Nat.ble (catS rest) 8 = true) (hst : st = As.reverse ++ rV r :: rest) (hh : M.2.2.2.2.2.2 = [(a1, a2, a3, a4)]) (hcv : a1 ≤ pc ∧ pc < a2) (h4 : a4 ≠ 0) (ql : Cond.classLink M.1.cls a4 "LateMirrors$Fault" ∈ lw_all)
    (hY : ∀ (b : Nat) (w1 : (Option Nat ⊕ Nat) × Hp), Y b = some w1 → Ct M' (rV (some b) :: As) σ (xo vR w1))
    (h : (rcv σ t r).bind (fun b => cx (Y b) F G) = some w) (kk : ∀ (v : Option Nat) (σ1 : Hp), F v σ1 = some w → AW M σ0 out (pc + 3) L (rV v :: rest) σ1) (kg : ∀ (q : Nat) (σ1 : Hp), G q σ1 = some w → AW M σ0 out a3 L [rV (some q)] σ1) : AW M σ0 out pc L st σ :=
  AW.cinvV vR As rest d q1 q2 q3 q4 q5 ck hcl hnm hfit h8 hst hh hcv h4 ql hY h kk kg
/-- a call of a method with handlers -/
theorem AW.HI {β : Type} {Y : Nat → Option (Int × Hp)} {F : Int → Hp → Option β} {w : β} {M' : Mi} {index t : Nat} {r : Option Nat} (As rest : List AV) (d : decode M.2.1 pc = .ok (.invokevirtual index, 3))
    (q1 : Cond.methodLink M.1.cls index M'.1 ∈ lw_all) (q2 : Cond.instanceMethod M'.1 ∈ lw_all) (q3 : Cond.selects M'.1.cls M'.1 M'.1 ∈ lw_all) (q4 : Cond.initialized M'.1.cls ∈ lw_all) (q5 : Cond.codeWith M'.1 M'.2.1 M'.2.2.2.1 M'.2.2.1 M'.2.2.2.2.2.2 ∈ lw_all)
    (ck : clsOk t) (hcl : (aw_c t).1 = M'.1.cls) (hnm : nameOk M'.1 As.length) (hfit : fitM M M' = true) (h8 : Nat.ble (catS rest) 8 = true) (hst : st = As.reverse ++ rV r :: rest)
    (hY : ∀ (b : Nat) (v : Int) (σ1 : Hp), Y b = some (v, σ1) → CtH M' (rV (some b) :: As) σ (some (iV v)) σ1)
    (h : (rcv σ t r).bind (fun b => bn (Y b) F) = some w) (kk : ∀ (v : Int) (σ1 : Hp), F v σ1 = some w → AW M σ0 out (pc + 3) L (iV v :: rest) σ1) : AW M σ0 out pc L st σ := by
  obtain ⟨b, hb, h9⟩ := ob_some h
  obtain ⟨rfl, x, hx, hxt⟩ := rcv_some hb
  unfold bn at h9
  obtain ⟨⟨v, σ1⟩, hv, h7⟩ := ob_some h9
  have hc := hY b v σ1 hv
  have k := kk v σ1 h7
  refine ⟨hc.1.tr k.1, fun p l e R s m args below meth c D A O H locs ls h0 hR hS hL => ?_⟩
  have h1 : leH σ σ1 := hc.1
  have h2 : leH σ1 out.2 := k.1
  have hA : ∀ q : Nat, σ.2.1 ≤ q → A q := fun q hq => O.2.2.1.1 q (by have := hR.1; have := hS.1; omega)
  have hM := hc.2 l D A O.2.1.2.2.1 hA
  have ec : σ.2.1 - σ0.2.1 + (σ1.2.1 - σ.2.1) = σ1.2.1 - σ0.2.1 := by have := h0.1; have := h1.1; omega
  have es : σ.2.2.1 - σ0.2.2.1 + (σ1.2.2.1 - σ.2.2.1) = σ1.2.2.1 - σ0.2.2.1 := by have := h0.2.1; have := h1.2.1; omega
  have hts := O.1.2.2.2.2.2
  have hf2 := fitM_ok hfit
  have hp := cPc_pre (as := rV (some b) :: As) hR O.2.2.2 h0.2.2.symm hS
  have hrecv : ∃ cell : Cell, H[b]? = some cell ∧ cell.vm.isStatics = false ∧ s.vm.findClass M'.1.cls = some cell.cls := by
    obtain ⟨cell, g1, g2, g3⟩ := cls_at (M := M) (σ0 := σ0) (out := out) O (hR.2 b x hx) (by rw [hxt]; exact ck)
    refine ⟨cell, g1, g2, ?_⟩
    rw [← hcl, ← hxt]
    exact g3
  have hr := vy_runVW (locs := locs) (cells := σ.2.1 - σ0.2.1) (slots := σ.2.2.1 - σ0.2.2.1) (g := F0 m pc ls (st.map tv)) (As := As.map tv) (rest := rest.map tv) (n := As.length) (cc := M.2.1) (nL := M.2.2.2.1) (Ts := lw_all) (own := M.1.cls) (C := M'.1.cls) (hh := M'.2.2.2.2.2.2) (p := p) (l := l) (e := e) (R := R) (below := below) (meth := meth) ⟨O.1.1, O.1.2.1, O.1.2.2.2.1, O.1.2.2.2.2.1, hts⟩ hM (vy_cwVW As.length hts (lw_VW q1 q2 q3 q4 q5) rfl rfl rfl ⟨rfl, hnm⟩ ⟨by rw [O.2.2.1.2.2.1]; exact hf2.1, by rw [O.2.2.1.2.2.2.1]; exact hf2.2⟩) ⟨hp.1, hrecv, hp.2⟩ rfl (by simp) hL.1 (by show st.map tv = _; rw [hst]; simp [tv, va_rf]) (room8 h8) d
    ⟨by rw [ec]; have := O.2.2.1.2.2.2.2.1; have := h2.1; omega, by rw [es]; have := O.2.2.1.2.2.2.2.2; have := h2.2.1; omega⟩
  refine run_k hr hS fun H1 locs1 hR1 hS1 => ?_
  have w := k.2 p l e R s m args below meth c D A O H1 locs1 ls (h0.tr h1) hR1 hS1 hL
  rw [ec, es]
  exact w
end
