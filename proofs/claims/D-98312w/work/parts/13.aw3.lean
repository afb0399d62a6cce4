set_option maxRecDepth 100000
/-! ===== the judgement AW: from here the machine comes to the method's end with 'out' ===== -/
abbrev Mi : Type := MethodName × ByteArray × Option FieldType × Nat × Nat × Nat × List (Nat × Nat × Nat × Nat)
abbrev Ot : Type := (Option AV ⊕ Nat) × Hp
def leH (σ σ' : Hp) : Prop := σ.2.1 ≤ σ'.2.1 ∧ σ.2.2.1 ≤ σ'.2.2.1 ∧ σ.2.2.2 = σ'.2.2.2
theorem leH.rf (σ : Hp) : leH σ σ := ⟨Nat.le_refl _, Nat.le_refl _, rfl⟩
theorem leH.tr {a b c : Hp} (h : leH a b) (g : leH b c) : leH a c := ⟨Nat.le_trans h.1 g.1, Nat.le_trans h.2.1 g.2.1, h.2.2.trans g.2.2⟩
def Ok (M : Mi) (σ0 σf : Hp) (p : Program) (l : Launch) (e : Env) (R : Room) (s : State) (m : MethodId) (args : Array Value) (below : List Frame) (meth : Method) (c : Code) (D : va_G) (A : Nat → Prop) : Prop :=
  (p.tables.exec = Jvm.exec ∧ c.code = M.2.1 ∧ meth.sig.returnType = M.2.2.1 ∧ c.maxLocals = M.2.2.2.1 ∧ s.vm.findClass M.1.cls = some m.cls ∧ (∀ w ∈ lw_all, w.before args s = true)) ∧
  (meth.locks = false ∧ meth.name = M.1.name ∧ l.flags = flags0 ∧ c.exceptionTable.toList = tableOf M.2.2.2.2.2.2) ∧
  ((∀ q : Nat, s.heap.size ≤ q → A q) ∧ s.heap.size = σ0.2.1 ∧ R.frames = M.2.2.2.2.1 ∧ R.locals = M.2.2.2.2.2.1 ∧ σf.2.1 - σ0.2.1 ≤ R.cells ∧ σf.2.2.1 - σ0.2.2.1 ≤ R.slots) ∧
  RK D A s s.heap σ0.2.2.2
def Qn (D : va_G) (A : Nat → Prop) (rv : Option Value) (σf : Hp) : Array Value → State → Outcome → State → Prop := fun _ st o t => o = .returned rv ∧ RH D A t t.heap σf ∧ va_F A st t
def Xn (D : va_G) (A : Nat → Prop) (q : Nat) (σf : Hp) : Addr → String → State → State → Prop := fun q1 E st t => q1 = q ∧ E = RX1 ∧ RH D A t t.heap σf ∧ va_F A st t
def Qo (ou : Option AV ⊕ Nat) (σ0 σf : Hp) (below : List Frame) (args : Array Value) (s : State) (D : va_G) (A : Nat → Prop) : State → Prop := match ou with
  | .inl rv => MQ below (Qn D A (rv.map tv) σf) args s (σf.2.1 - σ0.2.1) (σf.2.2.1 - σ0.2.2.1) A
  | .inr q => vy_MQ below (fun _ _ _ _ => False) (Xn D A q σf) args s (σf.2.1 - σ0.2.1) (σf.2.2.1 - σ0.2.2.1) A
def AW (M : Mi) (σ0 : Hp) (out : Ot) (pc : Nat) (L : List (Option AV)) (st : List AV) (σ : Hp) : Prop :=
  leH σ out.2 ∧ ∀ (p : Program) (l : Launch) (e : Env) (R : Room) (s : State) (m : MethodId) (args : Array Value) (below : List Frame) (meth : Method) (c : Code) (D : va_G) (A : Nat → Prop),
    Ok M σ0 out.2 p l e R s m args below meth c D A → ∀ (H : Heap) (locs : List Loc) (ls : Array Slot), leH σ0 σ → RH D A s H σ → va_S A s.heap H locs → LV ls M.2.2.2.1 L →
      W p l e R s m args below meth c H locs (σ.2.1 - σ0.2.1) (σ.2.2.1 - σ0.2.2.1) (Qo out.1 σ0 out.2 below args s D A) (F0 m pc ls (st.map tv))
section
variable {M : Mi} {σ0 : Hp} {out : Ot} {pc : Nat} {L : List (Option AV)} {st : List AV} {σ : Hp}
/-- a step that leaves heap and locals -/
theorem AW.sim {pc' : Nat} {st' : List AV} (k : AW M σ0 out pc' L st' σ)
    (f : ∀ (p : Program) (l : Launch) (e : Env) (R : Room) (s : State) (m : MethodId) (args : Array Value) (below : List Frame) (meth : Method) (c : Code) (D : va_G) (A : Nat → Prop), Ok M σ0 out.2 p l e R s m args below meth c D A →
      ∀ (H : Heap) (locs : List Loc) (ls : Array Slot) (cells slots : Nat) (Q : State → Prop), leH σ0 σ → RH D A s H σ → va_S A s.heap H locs → LV ls M.2.2.2.1 L →
        W p l e R s m args below meth c H locs cells slots Q (F0 m pc' ls (st'.map tv)) → W p l e R s m args below meth c H locs cells slots Q (F0 m pc ls (st.map tv))) : AW M σ0 out pc L st σ :=
  ⟨k.1, fun p l e R s m args below meth c D A O H locs ls h0 hR hS hL => f p l e R s m args below meth c D A O H locs ls _ _ _ h0 hR hS hL (k.2 p l e R s m args below meth c D A O H locs ls h0 hR hS hL)⟩
/-- a branch -/
theorem AW.br {c0 : Prop} [Decidable c0] {p1 p2 : Nat} {st' : List AV} (k1 : c0 → AW M σ0 out p1 L st' σ) (k2 : ¬ c0 → AW M σ0 out p2 L st' σ)
    (f : ∀ (p : Program) (l : Launch) (e : Env) (R : Room) (s : State) (m : MethodId) (args : Array Value) (below : List Frame) (meth : Method) (c : Code) (D : va_G) (A : Nat → Prop), Ok M σ0 out.2 p l e R s m args below meth c D A →
      ∀ (H : Heap) (locs : List Loc) (ls : Array Slot) (cells slots : Nat) (Q : State → Prop),
        (c0 → W p l e R s m args below meth c H locs cells slots Q (F0 m p1 ls (st'.map tv))) → (¬ c0 → W p l e R s m args below meth c H locs cells slots Q (F0 m p2 ls (st'.map tv))) → W p l e R s m args below meth c H locs cells slots Q (F0 m pc ls (st.map tv))) : AW M σ0 out pc L st σ := by
  refine ⟨?_, fun p l e R s m args below meth c D A O H locs ls h0 hR hS hL => f p l e R s m args below meth c D A O H locs ls _ _ _ (fun q => (k1 q).2 p l e R s m args below meth c D A O H locs ls h0 hR hS hL) (fun q => (k2 q).2 p l e R s m args below meth c D A O H locs ls h0 hR hS hL)⟩
  by_cases q : c0
  · exact (k1 q).1
  · exact (k2 q).1
theorem AW.fewer {L' : List (Option AV)} (hs : subL L' L) (k : AW M σ0 out pc L' st σ) : AW M σ0 out pc L st σ :=
  ⟨k.1, fun p l e R s m args below meth c D A O H locs ls h0 hR hS hL => k.2 p l e R s m args below meth c D A O H locs ls h0 hR hS (hL.sub hs)⟩
theorem AW.iconst {n : Int} (d : decode M.2.1 pc = .ok (.iconst n, 1)) (k : AW M σ0 out (pc + 1) L (iV n :: st) σ) : AW M σ0 out pc L st σ :=
  AW.sim k fun p l e R s m args below meth c D A O H locs ls cells slots Q h0 hR hS hL w => lv_iconst O.1.1 O.1.2.1 d rfl w
theorem AW.bipush {n : Int} (d : decode M.2.1 pc = .ok (.bipush n, 2)) (hn : (Int8.ofInt n).toInt32 = iI n) (k : AW M σ0 out (pc + 2) L (iV n :: st) σ) : AW M σ0 out pc L st σ :=
  AW.sim k fun p l e R s m args below meth c D A O H locs ls cells slots Q h0 hR hS hL w => lv_bipush O.1.1 O.1.2.1 d hn w
theorem AW.sipush {n : Int} (d : decode M.2.1 pc = .ok (.sipush n, 3)) (hn : (Int16.ofInt n).toInt32 = iI n) (k : AW M σ0 out (pc + 3) L (iV n :: st) σ) : AW M σ0 out pc L st σ :=
  AW.sim k fun p l e R s m args below meth c D A O H locs ls cells slots Q h0 hR hS hL w => lv_sipush O.1.1 O.1.2.1 d hn w
theorem AW.lconst {n : Fin 2} {z : Int} (d : decode M.2.1 pc = .ok (.lconst n, 1)) (hn : Int64.ofNat (n : Nat) = jJ z) (k : AW M σ0 out (pc + 1) L (jV z :: st) σ) : AW M σ0 out pc L st σ :=
  AW.sim k fun p l e R s m args below meth c D A O H locs ls cells slots Q h0 hR hS hL w => lv_lconst O.1.1 O.1.2.1 d hn w
theorem AW.ldc {index : Nat} {v : Int32} {z : Int} (d : decode M.2.1 pc = .ok (.ldc index, 2)) (q : Cond.constant M.1.cls index v ∈ lw_all) (hv : v = iI z) (k : AW M σ0 out (pc + 2) L (iV z :: st) σ) : AW M σ0 out pc L st σ :=
  AW.sim k fun p l e R s m args below meth c D A O H locs ls cells slots Q h0 hR hS hL w => lv_ldc O.1.1 O.1.2.1 O.1.2.2.2.2.1 (O.1.2.2.2.2.2 _ q) d (by rw [hv]; exact w)
theorem AW.ldcw {index : Nat} {v : Int32} {z : Int} (d : decode M.2.1 pc = .ok (.ldc_w index, 3)) (q : Cond.constant M.1.cls index v ∈ lw_all) (hv : v = iI z) (k : AW M σ0 out (pc + 3) L (iV z :: st) σ) : AW M σ0 out pc L st σ :=
  AW.sim k fun p l e R s m args below meth c D A O H locs ls cells slots Q h0 hR hS hL w => lv_ldcw O.1.1 O.1.2.1 O.1.2.2.2.2.1 (O.1.2.2.2.2.2 _ q) d (by rw [hv]; exact w)
theorem AW.ldc2 {index : Nat} {v : Int64} {z : Int} (d : decode M.2.1 pc = .ok (.ldc2_w index, 3)) (q : Cond.constantLong M.1.cls index v ∈ lw_all) (hv : v = jJ z) (k : AW M σ0 out (pc + 3) L (jV z :: st) σ) : AW M σ0 out pc L st σ :=
  AW.sim k fun p l e R s m args below meth c D A O H locs ls cells slots Q h0 hR hS hL w => lv_ldc2 O.1.1 O.1.2.1 O.1.2.2.2.2.1 (O.1.2.2.2.2.2 _ q) d (by rw [hv]; exact w)
theorem AW.iload_n {j : Fin 4} {x : Int} (d : decode M.2.1 pc = .ok (.iload_n j, 1)) (h : L[(j : Nat)]? = some (some (iV x))) (k : AW M σ0 out (pc + 1) L (iV x :: st) σ) : AW M σ0 out pc L st σ :=
  AW.sim k fun p l e R s m args below meth c D A O H locs ls cells slots Q h0 hR hS hL w => lv_iload_n O.1.1 O.1.2.1 d rfl (hL.at h) w
theorem AW.iload {i : Nat} {x : Int} (d : decode M.2.1 pc = .ok (.iload i, 2)) (h : L[i]? = some (some (iV x))) (k : AW M σ0 out (pc + 2) L (iV x :: st) σ) : AW M σ0 out pc L st σ :=
  AW.sim k fun p l e R s m args below meth c D A O H locs ls cells slots Q h0 hR hS hL w => lv_iload O.1.1 O.1.2.1 d (hL.at h) w
theorem AW.lload_n {j : Fin 4} {x : Int} (d : decode M.2.1 pc = .ok (.lload_n j, 1)) (h : L[(j : Nat)]? = some (some (jV x))) (k : AW M σ0 out (pc + 1) L (jV x :: st) σ) : AW M σ0 out pc L st σ :=
  AW.sim k fun p l e R s m args below meth c D A O H locs ls cells slots Q h0 hR hS hL w => lv_lload_n O.1.1 O.1.2.1 d rfl (hL.at h) w
theorem AW.lload {i : Nat} {x : Int} (d : decode M.2.1 pc = .ok (.lload i, 2)) (h : L[i]? = some (some (jV x))) (k : AW M σ0 out (pc + 2) L (jV x :: st) σ) : AW M σ0 out pc L st σ :=
  AW.sim k fun p l e R s m args below meth c D A O H locs ls cells slots Q h0 hR hS hL w => lv_lload O.1.1 O.1.2.1 d (hL.at h) w
theorem AW.aload_n {j : Fin 4} {r : Option Nat} (d : decode M.2.1 pc = .ok (.aload_n j, 1)) (h : L[(j : Nat)]? = some (some (rV r))) (k : AW M σ0 out (pc + 1) L (rV r :: st) σ) : AW M σ0 out pc L st σ :=
  AW.sim k fun p l e R s m args below meth c D A O H locs ls cells slots Q h0 hR hS hL w => by
    have h9 := hL.at h
    cases r with
    | none => exact lv_aload_nN O.1.1 O.1.2.1 d rfl h9 w
    | some a => exact lv_aload_n O.1.1 O.1.2.1 d rfl h9 w
theorem AW.aload {i : Nat} {r : Option Nat} (d : decode M.2.1 pc = .ok (.aload i, 2)) (h : L[i]? = some (some (rV r))) (k : AW M σ0 out (pc + 2) L (rV r :: st) σ) : AW M σ0 out pc L st σ :=
  AW.sim k fun p l e R s m args below meth c D A O H locs ls cells slots Q h0 hR hS hL w => by
    have h9 := hL.at h
    cases r with
    | none => exact lv_aloadN O.1.1 O.1.2.1 d h9 w
    | some a => exact lv_aload O.1.1 O.1.2.1 d h9 w
theorem AW.null (d : decode M.2.1 pc = .ok (.aconst_null, 1)) (k : AW M σ0 out (pc + 1) L (rV none :: st) σ) : AW M σ0 out pc L st σ :=
  AW.sim k fun p l e R s m args below meth c D A O H locs ls cells slots Q h0 hR hS hL w => lv_null O.1.1 O.1.2.1 d w
/-- a step that writes a local -/
theorem AW.loc {pc' : Nat} {st' : List AV} {L' : List (Option AV)} (k : AW M σ0 out pc' L' st' σ)
    (f : ∀ (p : Program) (l : Launch) (e : Env) (R : Room) (s : State) (m : MethodId) (args : Array Value) (below : List Frame) (meth : Method) (c : Code) (D : va_G) (A : Nat → Prop), Ok M σ0 out.2 p l e R s m args below meth c D A →
      ∀ (H : Heap) (locs : List Loc) (ls : Array Slot) (cells slots : Nat) (Q : State → Prop), LV ls M.2.2.2.1 L →
        (∀ ls' : Array Slot, LV ls' M.2.2.2.1 L' → W p l e R s m args below meth c H locs cells slots Q (F0 m pc' ls' (st'.map tv))) → W p l e R s m args below meth c H locs cells slots Q (F0 m pc ls (st.map tv))) : AW M σ0 out pc L st σ :=
  ⟨k.1, fun p l e R s m args below meth c D A O H locs ls h0 hR hS hL => f p l e R s m args below meth c D A O H locs ls _ _ _ hL (fun ls' hL' => k.2 p l e R s m args below meth c D A O H locs ls' h0 hR hS hL')⟩
theorem AW.istore_n {j : Fin 4} {x : Int} {L' : List (Option AV)} (d : decode M.2.1 pc = .ok (.istore_n j, 1)) (hn : (j : Nat) < M.2.2.2.1) (hs : okS L j = true) (hL' : L.set j (some (iV x)) = L') (k : AW M σ0 out (pc + 1) L' st σ) : AW M σ0 out pc L (iV x :: st) σ :=
  AW.loc k fun p l e R s m args below meth c D A O H locs ls cells slots Q hL w => lv_istore_n O.1.1 O.1.2.1 d rfl hL hn rfl (fun ls' h' => w ls' (by rw [← hL']; exact LV.store (v := iV x) hs h'))
theorem AW.istore {i : Nat} {x : Int} {L' : List (Option AV)} (d : decode M.2.1 pc = .ok (.istore i, 2)) (hn : i < M.2.2.2.1) (hs : okS L i = true) (hL' : L.set i (some (iV x)) = L') (k : AW M σ0 out (pc + 2) L' st σ) : AW M σ0 out pc L (iV x :: st) σ :=
  AW.loc k fun p l e R s m args below meth c D A O H locs ls cells slots Q hL w => lv_istore O.1.1 O.1.2.1 d hL hn rfl (fun ls' h' => w ls' (by rw [← hL']; exact LV.store (v := iV x) hs h'))
theorem AW.lstore_n {j : Fin 4} {x : Int} {L' : List (Option AV)} (d : decode M.2.1 pc = .ok (.lstore_n j, 1)) (hn : (j : Nat) + 1 < M.2.2.2.1) (hs : okS L j = true) (hL' : (L.set j (some (jV x))).set (j + 1) none = L') (k : AW M σ0 out (pc + 1) L' st σ) : AW M σ0 out pc L (jV x :: st) σ :=
  AW.loc k fun p l e R s m args below meth c D A O H locs ls cells slots Q hL w => lv_lstore_n O.1.1 O.1.2.1 d rfl hL hn rfl (fun ls' h' => w ls' (by rw [← hL']; exact LV.store2 (v := jV x) hs h'))
theorem AW.lstore {i : Nat} {x : Int} {L' : List (Option AV)} (d : decode M.2.1 pc = .ok (.lstore i, 2)) (hn : i + 1 < M.2.2.2.1) (hs : okS L i = true) (hL' : (L.set i (some (jV x))).set (i + 1) none = L') (k : AW M σ0 out (pc + 2) L' st σ) : AW M σ0 out pc L (jV x :: st) σ :=
  AW.loc k fun p l e R s m args below meth c D A O H locs ls cells slots Q hL w => lv_lstore O.1.1 O.1.2.1 d hL hn rfl (fun ls' h' => w ls' (by rw [← hL']; exact LV.store2 (v := jV x) hs h'))
theorem AW.astore_n {j : Fin 4} {r : Option Nat} {L' : List (Option AV)} (d : decode M.2.1 pc = .ok (.astore_n j, 1)) (hn : (j : Nat) < M.2.2.2.1) (hs : okS L j = true) (hL' : L.set j (some (rV r)) = L') (k : AW M σ0 out (pc + 1) L' st σ) : AW M σ0 out pc L (rV r :: st) σ :=
  AW.loc k fun p l e R s m args below meth c D A O H locs ls cells slots Q hL w => by
    cases r with
    | none => exact lv_astore_nN O.1.1 O.1.2.1 d rfl hL hn rfl (fun ls' h' => w ls' (by rw [← hL']; exact LV.store (v := rV none) hs h'))
    | some a => exact lv_astore_n O.1.1 O.1.2.1 d rfl hL hn rfl (fun ls' h' => w ls' (by rw [← hL']; exact LV.store (v := rV (some a)) hs h'))
theorem AW.astore {i : Nat} {r : Option Nat} {L' : List (Option AV)} (d : decode M.2.1 pc = .ok (.astore i, 2)) (hn : i < M.2.2.2.1) (hs : okS L i = true) (hL' : L.set i (some (rV r)) = L') (k : AW M σ0 out (pc + 2) L' st σ) : AW M σ0 out pc L (rV r :: st) σ :=
  AW.loc k fun p l e R s m args below meth c D A O H locs ls cells slots Q hL w => by
    cases r with
    | none => exact lv_astoreN O.1.1 O.1.2.1 d hL hn rfl (fun ls' h' => w ls' (by rw [← hL']; exact LV.store (v := rV none) hs h'))
    | some a => exact lv_astore O.1.1 O.1.2.1 d hL hn rfl (fun ls' h' => w ls' (by rw [← hL']; exact LV.store (v := rV (some a)) hs h'))
theorem prs_at {L : List (Option AV)} {i : Nat} {v : AV} (h : L[i]? = some (some v)) : ∃ k : Nat, (prs 0 L)[k]? = some (i, tv v) :=
  List.getElem?_of_mem ((prs_mem L 0 i (tv v)).mpr ⟨v, Nat.zero_le _, by simpa using h, rfl⟩)
theorem AW.iinc {i : Nat} {n x : Int} {L' : List (Option AV)} (d : decode M.2.1 pc = .ok (.iinc i n, 3)) (h : L[i]? = some (some (iV x))) (hn : i < M.2.2.2.1) (hs : okS L i = true) (hL' : L.set i (some (iV (x + n))) = L') (k : AW M σ0 out (pc + 3) L' st σ) : AW M σ0 out pc L st σ :=
  AW.loc k fun p l e R s m args below meth c D A O H locs ls cells slots Q hL w => by
    obtain ⟨j, hj⟩ := prs_at h
    exact lv_iinc O.1.1 O.1.2.1 d hL hj (iI_add x n) hn rfl (fun ls' h' => w ls' (by rw [← hL']; exact LV.store (v := iV (x + n)) hs h'))
theorem AW.iadd {x y : Int} (d : decode M.2.1 pc = .ok (.iadd, 1)) (k : AW M σ0 out (pc + 1) L (iV (x + y) :: st) σ) : AW M σ0 out pc L (iV y :: iV x :: st) σ :=
  AW.sim k fun p l e R s m args below meth c D A O H locs ls cells slots Q h0 hR hS hL w => lv_iadd O.1.1 O.1.2.1 d (by rw [iI_add]; exact w)
theorem AW.isub {x y : Int} (d : decode M.2.1 pc = .ok (.isub, 1)) (k : AW M σ0 out (pc + 1) L (iV (x - y) :: st) σ) : AW M σ0 out pc L (iV y :: iV x :: st) σ :=
  AW.sim k fun p l e R s m args below meth c D A O H locs ls cells slots Q h0 hR hS hL w => lv_isub O.1.1 O.1.2.1 d (by rw [iI_sub]; exact w)
theorem AW.imul {x y : Int} (d : decode M.2.1 pc = .ok (.imul, 1)) (k : AW M σ0 out (pc + 1) L (iV (x * y) :: st) σ) : AW M σ0 out pc L (iV y :: iV x :: st) σ :=
  AW.sim k fun p l e R s m args below meth c D A O H locs ls cells slots Q h0 hR hS hL w => lv_imul O.1.1 O.1.2.1 d (by rw [iI_mul]; exact w)
theorem AW.ineg {x : Int} (d : decode M.2.1 pc = .ok (.ineg, 1)) (k : AW M σ0 out (pc + 1) L (iV (-x) :: st) σ) : AW M σ0 out pc L (iV x :: st) σ :=
  AW.sim k fun p l e R s m args below meth c D A O H locs ls cells slots Q h0 hR hS hL w => lv_ineg O.1.1 O.1.2.1 d (by rw [iI_neg]; exact w)
theorem AW.iand {x y : Int} (d : decode M.2.1 pc = .ok (.iand, 1)) (k : AW M σ0 out (pc + 1) L (iV (anI x y) :: st) σ) : AW M σ0 out pc L (iV y :: iV x :: st) σ :=
  AW.sim k fun p l e R s m args below meth c D A O H locs ls cells slots Q h0 hR hS hL w => lv_iand O.1.1 O.1.2.1 d (by rw [← iI_of (iI x &&& iI y)]; exact w)
theorem AW.ior {x y : Int} (d : decode M.2.1 pc = .ok (.ior, 1)) (k : AW M σ0 out (pc + 1) L (iV (orI x y) :: st) σ) : AW M σ0 out pc L (iV y :: iV x :: st) σ :=
  AW.sim k fun p l e R s m args below meth c D A O H locs ls cells slots Q h0 hR hS hL w => lv_ior O.1.1 O.1.2.1 d (by rw [← iI_of (iI x ||| iI y)]; exact w)
theorem AW.ixor {x y : Int} (d : decode M.2.1 pc = .ok (.ixor, 1)) (k : AW M σ0 out (pc + 1) L (iV (xoI x y) :: st) σ) : AW M σ0 out pc L (iV y :: iV x :: st) σ :=
  AW.sim k fun p l e R s m args below meth c D A O H locs ls cells slots Q h0 hR hS hL w => lv_ixor O.1.1 O.1.2.1 d (by rw [← iI_of (iI x ^^^ iI y)]; exact w)
theorem AW.ishl {x y : Int} (d : decode M.2.1 pc = .ok (.ishl, 1)) (k : AW M σ0 out (pc + 1) L (iV (slI x y) :: st) σ) : AW M σ0 out pc L (iV y :: iV x :: st) σ :=
  AW.sim k fun p l e R s m args below meth c D A O H locs ls cells slots Q h0 hR hS hL w => lv_ishl O.1.1 O.1.2.1 d (by rw [← iI_of (iI x <<< (iI y &&& 31))]; exact w)
theorem AW.ishr {x y : Int} (d : decode M.2.1 pc = .ok (.ishr, 1)) (k : AW M σ0 out (pc + 1) L (iV (srI x y) :: st) σ) : AW M σ0 out pc L (iV y :: iV x :: st) σ :=
  AW.sim k fun p l e R s m args below meth c D A O H locs ls cells slots Q h0 hR hS hL w => lv_ishr O.1.1 O.1.2.1 d (by rw [← iI_of (iI x >>> (iI y &&& 31))]; exact w)
theorem AW.iushr {x y : Int} (d : decode M.2.1 pc = .ok (.iushr, 1)) (k : AW M σ0 out (pc + 1) L (iV (suI x y) :: st) σ) : AW M σ0 out pc L (iV y :: iV x :: st) σ :=
  AW.sim k fun p l e R s m args below meth c D A O H locs ls cells slots Q h0 hR hS hL w => lv_iushr O.1.1 O.1.2.1 d (iI_of _).symm w
theorem AW.idiv {x y : Int} (d : decode M.2.1 pc = .ok (.idiv, 1)) (hy : ¬ nrm y = 0) (k : AW M σ0 out (pc + 1) L (iV (dvI x y) :: st) σ) : AW M σ0 out pc L (iV y :: iV x :: st) σ :=
  AW.sim k fun p l e R s m args below meth c D A O H locs ls cells slots Q h0 hR hS hL w => lv_idiv O.1.1 O.1.2.1 d (fun h => hy ((iI_eq0 y).mp h)) (by rw [← iI_of (iI x / iI y)]; exact w)
theorem AW.irem {x y : Int} (d : decode M.2.1 pc = .ok (.irem, 1)) (hy : ¬ nrm y = 0) (k : AW M σ0 out (pc + 1) L (iV (rmI x y) :: st) σ) : AW M σ0 out pc L (iV y :: iV x :: st) σ :=
  AW.sim k fun p l e R s m args below meth c D A O H locs ls cells slots Q h0 hR hS hL w => lv_irem O.1.1 O.1.2.1 d (fun h => hy ((iI_eq0 y).mp h)) (by rw [← iI_of (iI x - iI x / iI y * iI y)]; exact w)
theorem AW.i2b {x : Int} (d : decode M.2.1 pc = .ok (.i2b, 1)) (k : AW M σ0 out (pc + 1) L (iV (i8I x) :: st) σ) : AW M σ0 out pc L (iV x :: st) σ :=
  AW.sim k fun p l e R s m args below meth c D A O H locs ls cells slots Q h0 hR hS hL w => lv_i2b O.1.1 O.1.2.1 d (iI_of _).symm w
theorem AW.i2s {x : Int} (d : decode M.2.1 pc = .ok (.i2s, 1)) (k : AW M σ0 out (pc + 1) L (iV (i16I x) :: st) σ) : AW M σ0 out pc L (iV x :: st) σ :=
  AW.sim k fun p l e R s m args below meth c D A O H locs ls cells slots Q h0 hR hS hL w => lv_i2s O.1.1 O.1.2.1 d (iI_of _).symm w
theorem AW.i2c {x : Int} (d : decode M.2.1 pc = .ok (.i2c, 1)) (k : AW M σ0 out (pc + 1) L (iV (chI x) :: st) σ) : AW M σ0 out pc L (iV x :: st) σ :=
  AW.sim k fun p l e R s m args below meth c D A O H locs ls cells slots Q h0 hR hS hL w => lv_i2c O.1.1 O.1.2.1 d (iI_of _).symm w
theorem i2l_eq (x : Int) : (iI x).toInt64 = jJ (nrm x) := by
  rw [← jJ_of (iI x).toInt64]
  congr 1
  exact Int32.toInt_toInt64 _
theorem AW.i2l {x : Int} (d : decode M.2.1 pc = .ok (.i2l, 1)) (k : AW M σ0 out (pc + 1) L (jV (nrm x) :: st) σ) : AW M σ0 out pc L (iV x :: st) σ :=
  AW.sim k fun p l e R s m args below meth c D A O H locs ls cells slots Q h0 hR hS hL w => lv_i2l O.1.1 O.1.2.1 d (i2l_eq x) w
theorem AW.ladd {x y : Int} (d : decode M.2.1 pc = .ok (.ladd, 1)) (k : AW M σ0 out (pc + 1) L (jV (x + y) :: st) σ) : AW M σ0 out pc L (jV y :: jV x :: st) σ :=
  AW.sim k fun p l e R s m args below meth c D A O H locs ls cells slots Q h0 hR hS hL w => lv_ladd O.1.1 O.1.2.1 d (by rw [jJ_add]; exact w)
theorem AW.lmul {x y : Int} (d : decode M.2.1 pc = .ok (.lmul, 1)) (k : AW M σ0 out (pc + 1) L (jV (x * y) :: st) σ) : AW M σ0 out pc L (jV y :: jV x :: st) σ :=
  AW.sim k fun p l e R s m args below meth c D A O H locs ls cells slots Q h0 hR hS hL w => lv_lmul O.1.1 O.1.2.1 d (by rw [jJ_mul]; exact w)
theorem AW.dupI {x : Int} (d : decode M.2.1 pc = .ok (.dup, 1)) (k : AW M σ0 out (pc + 1) L (iV x :: iV x :: st) σ) : AW M σ0 out pc L (iV x :: st) σ :=
  AW.sim k fun p l e R s m args below meth c D A O H locs ls cells slots Q h0 hR hS hL w => lv_dup O.1.1 O.1.2.1 d rfl w
theorem rf_cat (r : Option Nat) : (va_rf r).category = 1 := by cases r <;> rfl
theorem AW.dupR {r : Option Nat} (d : decode M.2.1 pc = .ok (.dup, 1)) (k : AW M σ0 out (pc + 1) L (rV r :: rV r :: st) σ) : AW M σ0 out pc L (rV r :: st) σ :=
  AW.sim k fun p l e R s m args below meth c D A O H locs ls cells slots Q h0 hR hS hL w => lv_dup O.1.1 O.1.2.1 d (rf_cat r) w
theorem AW.popI {x : Int} (d : decode M.2.1 pc = .ok (.pop, 1)) (k : AW M σ0 out (pc + 1) L st σ) : AW M σ0 out pc L (iV x :: st) σ :=
  AW.sim k fun p l e R s m args below meth c D A O H locs ls cells slots Q h0 hR hS hL w => lv_pop O.1.1 O.1.2.1 d rfl w
theorem AW.popR {r : Option Nat} (d : decode M.2.1 pc = .ok (.pop, 1)) (k : AW M σ0 out (pc + 1) L st σ) : AW M σ0 out pc L (rV r :: st) σ :=
  AW.sim k fun p l e R s m args below meth c D A O H locs ls cells slots Q h0 hR hS hL w => lv_pop O.1.1 O.1.2.1 d (rf_cat r) w
theorem AW.dup_x1IR {x : Int} {r : Option Nat} (d : decode M.2.1 pc = .ok (.dup_x1, 1)) (k : AW M σ0 out (pc + 1) L (iV x :: rV r :: iV x :: st) σ) : AW M σ0 out pc L (iV x :: rV r :: st) σ :=
  AW.sim k fun p l e R s m args below meth c D A O H locs ls cells slots Q h0 hR hS hL w => lv_dup_x1 O.1.1 O.1.2.1 d rfl (rf_cat r) w
theorem AW.dup_x1RR {x r : Option Nat} (d : decode M.2.1 pc = .ok (.dup_x1, 1)) (k : AW M σ0 out (pc + 1) L (rV x :: rV r :: rV x :: st) σ) : AW M σ0 out pc L (rV x :: rV r :: st) σ :=
  AW.sim k fun p l e R s m args below meth c D A O H locs ls cells slots Q h0 hR hS hL w => lv_dup_x1 O.1.1 O.1.2.1 d (rf_cat x) (rf_cat r) w
theorem AW.dup2 {x : Int} {r : Option Nat} (d : decode M.2.1 pc = .ok (.dup2, 1)) (k : AW M σ0 out (pc + 1) L (iV x :: rV r :: iV x :: rV r :: st) σ) : AW M σ0 out pc L (iV x :: rV r :: st) σ :=
  AW.sim k fun p l e R s m args below meth c D A O H locs ls cells slots Q h0 hR hS hL w => lv_dup2_11 O.1.1 O.1.2.1 d rfl (rf_cat r) w
theorem AW.goto {off : Int} {tgt : Nat} (d : decode M.2.1 pc = .ok (.goto off, 3)) (ht : (pc : Int) + off = (tgt : Int)) (k : AW M σ0 out tgt L st σ) : AW M σ0 out pc L st σ :=
  AW.sim k fun p l e R s m args below meth c D A O H locs ls cells slots Q h0 hR hS hL w => lv_goto O.1.1 O.1.2.1 d ht w
theorem AW.icmp_eq {x y : Int} {β : Type} {X Y : Option β} {w : β} {off : Int} (tgt : Nat) (d : decode M.2.1 pc = .ok (.if_icmp .eq off, 3)) (ht : (pc : Int) + off = (tgt : Int)) (h : (if nrm x = nrm y then X else Y) = some w) (k1 : nrm x = nrm y → X = some w → AW M σ0 out tgt L st σ) (k2 : ¬ (nrm x = nrm y) → Y = some w → AW M σ0 out (pc + 3) L st σ) : AW M σ0 out pc L (iV y :: iV x :: st) σ :=
  AW.br (c0 := nrm x = nrm y) (fun q => k1 q (by rw [if_pos q] at h; exact h)) (fun q => k2 q (by rw [if_neg q] at h; exact h)) fun p l e R s m args below meth c D A O H locs ls cells slots Q w1 w2 => lv_icmp_eq O.1.1 O.1.2.1 d ht (fun q => w1 ((iI_eq x y).mp q)) (fun q => w2 (fun z => q ((iI_eq x y).mpr z)))
theorem AW.if_eq {x : Int} {β : Type} {X Y : Option β} {w : β} {off : Int} (tgt : Nat) (d : decode M.2.1 pc = .ok (.ifCond .eq off, 3)) (ht : (pc : Int) + off = (tgt : Int)) (h : (if nrm x = 0 then X else Y) = some w) (k1 : nrm x = 0 → X = some w → AW M σ0 out tgt L st σ) (k2 : ¬ (nrm x = 0) → Y = some w → AW M σ0 out (pc + 3) L st σ) : AW M σ0 out pc L (iV x :: st) σ :=
  AW.br (c0 := nrm x = 0) (fun q => k1 q (by rw [if_pos q] at h; exact h)) (fun q => k2 q (by rw [if_neg q] at h; exact h)) fun p l e R s m args below meth c D A O H locs ls cells slots Q w1 w2 => lv_if_eq O.1.1 O.1.2.1 d ht (fun q => w1 ((iI_eq0 x).mp q)) (fun q => w2 (fun z => q ((iI_eq0 x).mpr z)))
theorem AW.icmp_ne {x y : Int} {β : Type} {X Y : Option β} {w : β} {off : Int} (tgt : Nat) (d : decode M.2.1 pc = .ok (.if_icmp .ne off, 3)) (ht : (pc : Int) + off = (tgt : Int)) (h : (if ¬ nrm x = nrm y then X else Y) = some w) (k1 : ¬ nrm x = nrm y → X = some w → AW M σ0 out tgt L st σ) (k2 : ¬ (¬ nrm x = nrm y) → Y = some w → AW M σ0 out (pc + 3) L st σ) : AW M σ0 out pc L (iV y :: iV x :: st) σ :=
  AW.br (c0 := ¬ nrm x = nrm y) (fun q => k1 q (by rw [if_pos q] at h; exact h)) (fun q => k2 q (by rw [if_neg q] at h; exact h)) fun p l e R s m args below meth c D A O H locs ls cells slots Q w1 w2 => lv_icmp_ne O.1.1 O.1.2.1 d ht (fun q => w1 ((not_congr (iI_eq x y)).mp q)) (fun q => w2 (fun z => z ((iI_eq x y).mp q)))
theorem AW.if_ne {x : Int} {β : Type} {X Y : Option β} {w : β} {off : Int} (tgt : Nat) (d : decode M.2.1 pc = .ok (.ifCond .ne off, 3)) (ht : (pc : Int) + off = (tgt : Int)) (h : (if ¬ nrm x = 0 then X else Y) = some w) (k1 : ¬ nrm x = 0 → X = some w → AW M σ0 out tgt L st σ) (k2 : ¬ (¬ nrm x = 0) → Y = some w → AW M σ0 out (pc + 3) L st σ) : AW M σ0 out pc L (iV x :: st) σ :=
  AW.br (c0 := ¬ nrm x = 0) (fun q => k1 q (by rw [if_pos q] at h; exact h)) (fun q => k2 q (by rw [if_neg q] at h; exact h)) fun p l e R s m args below meth c D A O H locs ls cells slots Q w1 w2 => lv_if_ne O.1.1 O.1.2.1 d ht (fun q => w1 ((not_congr (iI_eq0 x)).mp q)) (fun q => w2 (fun z => z ((iI_eq0 x).mp q)))
theorem AW.icmp_lt {x y : Int} {β : Type} {X Y : Option β} {w : β} {off : Int} (tgt : Nat) (d : decode M.2.1 pc = .ok (.if_icmp .lt off, 3)) (ht : (pc : Int) + off = (tgt : Int)) (h : (if nrm x < nrm y then X else Y) = some w) (k1 : nrm x < nrm y → X = some w → AW M σ0 out tgt L st σ) (k2 : ¬ (nrm x < nrm y) → Y = some w → AW M σ0 out (pc + 3) L st σ) : AW M σ0 out pc L (iV y :: iV x :: st) σ :=
  AW.br (c0 := nrm x < nrm y) (fun q => k1 q (by rw [if_pos q] at h; exact h)) (fun q => k2 q (by rw [if_neg q] at h; exact h)) fun p l e R s m args below meth c D A O H locs ls cells slots Q w1 w2 => lv_icmp_lt O.1.1 O.1.2.1 d ht (fun q => w1 ((iI_lt x y).mp q)) (fun q => w2 (fun z => q ((iI_lt x y).mpr z)))
theorem AW.if_lt {x : Int} {β : Type} {X Y : Option β} {w : β} {off : Int} (tgt : Nat) (d : decode M.2.1 pc = .ok (.ifCond .lt off, 3)) (ht : (pc : Int) + off = (tgt : Int)) (h : (if nrm x < 0 then X else Y) = some w) (k1 : nrm x < 0 → X = some w → AW M σ0 out tgt L st σ) (k2 : ¬ (nrm x < 0) → Y = some w → AW M σ0 out (pc + 3) L st σ) : AW M σ0 out pc L (iV x :: st) σ :=
  AW.br (c0 := nrm x < 0) (fun q => k1 q (by rw [if_pos q] at h; exact h)) (fun q => k2 q (by rw [if_neg q] at h; exact h)) fun p l e R s m args below meth c D A O H locs ls cells slots Q w1 w2 => lv_if_lt O.1.1 O.1.2.1 d ht (fun q => w1 ((iI_lt0 x).mp q)) (fun q => w2 (fun z => q ((iI_lt0 x).mpr z)))
theorem AW.icmp_ge {x y : Int} {β : Type} {X Y : Option β} {w : β} {off : Int} (tgt : Nat) (d : decode M.2.1 pc = .ok (.if_icmp .ge off, 3)) (ht : (pc : Int) + off = (tgt : Int)) (h : (if nrm y ≤ nrm x then X else Y) = some w) (k1 : nrm y ≤ nrm x → X = some w → AW M σ0 out tgt L st σ) (k2 : ¬ (nrm y ≤ nrm x) → Y = some w → AW M σ0 out (pc + 3) L st σ) : AW M σ0 out pc L (iV y :: iV x :: st) σ :=
  AW.br (c0 := nrm y ≤ nrm x) (fun q => k1 q (by rw [if_pos q] at h; exact h)) (fun q => k2 q (by rw [if_neg q] at h; exact h)) fun p l e R s m args below meth c D A O H locs ls cells slots Q w1 w2 => lv_icmp_ge O.1.1 O.1.2.1 d ht (fun q => w1 ((iI_le y x).mp q)) (fun q => w2 (fun z => q ((iI_le y x).mpr z)))
theorem AW.if_ge {x : Int} {β : Type} {X Y : Option β} {w : β} {off : Int} (tgt : Nat) (d : decode M.2.1 pc = .ok (.ifCond .ge off, 3)) (ht : (pc : Int) + off = (tgt : Int)) (h : (if 0 ≤ nrm x then X else Y) = some w) (k1 : 0 ≤ nrm x → X = some w → AW M σ0 out tgt L st σ) (k2 : ¬ (0 ≤ nrm x) → Y = some w → AW M σ0 out (pc + 3) L st σ) : AW M σ0 out pc L (iV x :: st) σ :=
  AW.br (c0 := 0 ≤ nrm x) (fun q => k1 q (by rw [if_pos q] at h; exact h)) (fun q => k2 q (by rw [if_neg q] at h; exact h)) fun p l e R s m args below meth c D A O H locs ls cells slots Q w1 w2 => lv_if_ge O.1.1 O.1.2.1 d ht (fun q => w1 ((iI_0le x).mp q)) (fun q => w2 (fun z => q ((iI_0le x).mpr z)))
theorem AW.icmp_gt {x y : Int} {β : Type} {X Y : Option β} {w : β} {off : Int} (tgt : Nat) (d : decode M.2.1 pc = .ok (.if_icmp .gt off, 3)) (ht : (pc : Int) + off = (tgt : Int)) (h : (if nrm y < nrm x then X else Y) = some w) (k1 : nrm y < nrm x → X = some w → AW M σ0 out tgt L st σ) (k2 : ¬ (nrm y < nrm x) → Y = some w → AW M σ0 out (pc + 3) L st σ) : AW M σ0 out pc L (iV y :: iV x :: st) σ :=
  AW.br (c0 := nrm y < nrm x) (fun q => k1 q (by rw [if_pos q] at h; exact h)) (fun q => k2 q (by rw [if_neg q] at h; exact h)) fun p l e R s m args below meth c D A O H locs ls cells slots Q w1 w2 => lv_icmp_gt O.1.1 O.1.2.1 d ht (fun q => w1 ((iI_lt y x).mp q)) (fun q => w2 (fun z => q ((iI_lt y x).mpr z)))
theorem AW.if_gt {x : Int} {β : Type} {X Y : Option β} {w : β} {off : Int} (tgt : Nat) (d : decode M.2.1 pc = .ok (.ifCond .gt off, 3)) (ht : (pc : Int) + off = (tgt : Int)) (h : (if 0 < nrm x then X else Y) = some w) (k1 : 0 < nrm x → X = some w → AW M σ0 out tgt L st σ) (k2 : ¬ (0 < nrm x) → Y = some w → AW M σ0 out (pc + 3) L st σ) : AW M σ0 out pc L (iV x :: st) σ :=
  AW.br (c0 := 0 < nrm x) (fun q => k1 q (by rw [if_pos q] at h; exact h)) (fun q => k2 q (by rw [if_neg q] at h; exact h)) fun p l e R s m args below meth c D A O H locs ls cells slots Q w1 w2 => lv_if_gt O.1.1 O.1.2.1 d ht (fun q => w1 ((iI_0lt x).mp q)) (fun q => w2 (fun z => q ((iI_0lt x).mpr z)))
theorem AW.icmp_le {x y : Int} {β : Type} {X Y : Option β} {w : β} {off : Int} (tgt : Nat) (d : decode M.2.1 pc = .ok (.if_icmp .le off, 3)) (ht : (pc : Int) + off = (tgt : Int)) (h : (if nrm x ≤ nrm y then X else Y) = some w) (k1 : nrm x ≤ nrm y → X = some w → AW M σ0 out tgt L st σ) (k2 : ¬ (nrm x ≤ nrm y) → Y = some w → AW M σ0 out (pc + 3) L st σ) : AW M σ0 out pc L (iV y :: iV x :: st) σ :=
  AW.br (c0 := nrm x ≤ nrm y) (fun q => k1 q (by rw [if_pos q] at h; exact h)) (fun q => k2 q (by rw [if_neg q] at h; exact h)) fun p l e R s m args below meth c D A O H locs ls cells slots Q w1 w2 => lv_icmp_le O.1.1 O.1.2.1 d ht (fun q => w1 ((iI_le x y).mp q)) (fun q => w2 (fun z => q ((iI_le x y).mpr z)))
theorem AW.if_le {x : Int} {β : Type} {X Y : Option β} {w : β} {off : Int} (tgt : Nat) (d : decode M.2.1 pc = .ok (.ifCond .le off, 3)) (ht : (pc : Int) + off = (tgt : Int)) (h : (if nrm x ≤ 0 then X else Y) = some w) (k1 : nrm x ≤ 0 → X = some w → AW M σ0 out tgt L st σ) (k2 : ¬ (nrm x ≤ 0) → Y = some w → AW M σ0 out (pc + 3) L st σ) : AW M σ0 out pc L (iV x :: st) σ :=
  AW.br (c0 := nrm x ≤ 0) (fun q => k1 q (by rw [if_pos q] at h; exact h)) (fun q => k2 q (by rw [if_neg q] at h; exact h)) fun p l e R s m args below meth c D A O H locs ls cells slots Q w1 w2 => lv_if_le O.1.1 O.1.2.1 d ht (fun q => w1 ((iI_le0 x).mp q)) (fun q => w2 (fun z => q ((iI_le0 x).mpr z)))
end
