set_option maxRecDepth 100000
/-! ===== the classes by their numbers; a heap cell is what the abstract heap says ===== -/
def aw_c (t : Nat) : vw_C := match t with
  | 0 => (RX0, TX0, 23)
  | 1 => (RX1, TX1, 8)
  | 2 => (RX2, TX2, 8)
  | 3 => (RX3, TX3, 7)
  | 4 => (RX4, TX4, 7)
  | 5 => (RX5, TX5, 11)
  | 6 => (RX6, TX6, 2)
  | 7 => (RX7, TX7, 2)
  | 8 => (RX8, TX8, 75)
  | 10 => (RX10, TX10, 3)
  | 11 => (RX11, TX11, 4)
  | 12 => (RX12, TX12, 4)
  | 14 => (RX14, TX14, 1)
  | 15 => (RX15, TX15, 1)
  | 16 => (RX16, TX16, 3)
  | 17 => (RX17, TX17, 3)
  | 18 => (RJ5, TJ5, 3)
  | 19 => (RJ14, TJ14, 4)
  | 20 => (RJ10, TJ10, 4)
  | 50 => (RJ10, TJ10, 2)
  | _ => (RX0, TX0, 0)
def aw_ty (t : Nat) : Nat → FieldType := match t with
  | 0 => tyX0
  | 1 => tyX1
  | 2 => tyX2
  | 3 => tyX3
  | 4 => tyX4
  | 5 => tyX5
  | 6 => tyX6
  | 7 => tyX7
  | 8 => tyX8
  | 10 => tyX10
  | 11 => tyX11
  | 12 => tyX12
  | 14 => tyX14
  | 15 => tyX15
  | 16 => tyX16
  | 17 => tyX17
  | 18 => tyJ5
  | 19 => tyJ14
  | 20 => tyJ10
  | 50 => tyJ10
  | _ => tyX0
def aw_el (t : Nat) : FieldType := match t with
  | 100 => .int
  | 101 => .byte
  | 102 => .boolean
  | 103 => .short
  | 104 => .long
  | 105 => .array .byte
  | 106 => .array .boolean
  | 107 => .array .short
  | 108 => .object "java/lang/String"
  | 109 => .object "java/lang/Object"
  | 110 => .object "LateMirrors$Court"
  | 111 => .object "LateMirrors$Sum"
  | 150 => .byte
  | 151 => .int
  | 159 => .object "java/lang/Object"
  | _ => .int
def aw_tags : List Nat := [0, 1, 2, 3, 4, 5, 6, 7, 8, 10, 11, 12, 14, 15, 16, 17, 18, 19, 20, 50]
def aw_nl : List (String × Nat × MethodName × String) := [("LateMirrors", 23, ⟨"LateMirrors$Tokens", "<init>", "()V"⟩, "LateMirrors"), ("LateMirrors", 39, ⟨"LateMirrors$Text", "<init>", "()V"⟩, "LateMirrors"), ("LateMirrors", 50, ⟨"LateMirrors$Court", "<init>", "()V"⟩, "LateMirrors"), ("LateMirrors", 71, ⟨"LateMirrors$Glance", "<init>", "()V"⟩, "LateMirrors"), ("LateMirrors$Number", 1, ⟨"LateMirrors$Sum", "<init>", "()V"⟩, "LateMirrors"), ("LateMirrors$Var", 1, ⟨"LateMirrors$Sum", "<init>", "()V"⟩, "LateMirrors"), ("LateMirrors$Joined", 1, ⟨"LateMirrors$Sum", "<init>", "()V"⟩, "LateMirrors"), ("LateMirrors$Parser", 98, ⟨"LateMirrors$Text", "<init>", "()V"⟩, "LateMirrors"), ("LateMirrors$Parser", 195, ⟨"LateMirrors$Law", "<init>", "()V"⟩, "LateMirrors"), ("LateMirrors$Court", 44, ⟨"LateMirrors$Asked", "<init>", "()V"⟩, "LateMirrors"), ("LateMirrors$Court", 157, ⟨"LateMirrors", "lot", "(III)I"⟩, "LateMirrors")]
def aw_cs : List (String × String) := [("LateMirrors$Room", "LateMirrors$Named"), ("LateMirrors$Man", "LateMirrors$Named"), ("LateMirrors$Mirror", "LateMirrors$Named"), ("LateMirrors$Room", "java/lang/Object"), ("LateMirrors$Man", "java/lang/Object"), ("LateMirrors$Mirror", "java/lang/Object"), ("LateMirrors$Number", "LateMirrors$Sum"), ("LateMirrors$Var", "LateMirrors$Sum"), ("LateMirrors$Joined", "LateMirrors$Sum"), ("java/lang/String", "java/lang/Object"), ("LateMirrors$Fault", "LateMirrors$Fault")]
def aw_dc : List MethodName := [⟨"LateMirrors$Sum", "of", "(LLateMirrors$Asked;)I"⟩]
def aw_ao : List String := ["java/lang/String", "LateMirrors$Court", "java/lang/Object", "LateMirrors$Sum"]
def aw_aa : List FieldType := [.byte, .boolean, .short]
theorem ao_spec {args : Array Value} {first s : State} {o : Option Outcome} {idx : List Nat} {t : FieldType} (h : (Cond.arrayOver (.array t)).holds args first o s idx = true) :
    ∃ comp c k, s.vm.findClass (FieldType.array t).toString = some comp ∧ (s.vm.classes.findIdx? fun x => match x.kind with | .array component _ => component == comp | _ => false) = some c ∧ s.vm.classes[c]? = some k ∧ k.kind = .array comp (.array t) ∧ s.vm.findClass ("[" ++ (FieldType.array t).toString) = some c := by
  simp only [Cond.holds, Cond.value, beq_iff_eq] at h
  cases hc : s.vm.findClass (FieldType.array t).toString with
  | none => simp [hc] at h
  | some comp =>
    simp only [hc, Option.bind_some, Option.bind_eq_some_iff, Option.map_eq_some_iff] at h
    obtain ⟨c, hi, k, hk, hb⟩ := h
    obtain ⟨hlt, hp, -⟩ := Array.findIdx?_eq_some_iff_getElem.mp hi
    have hkk : s.vm.classes[c] = k := (Array.getElem?_eq_some_iff.mp hk).2
    rw [hkk] at hp
    cases hkind : k.kind with
    | array component ty =>
      rw [hkind] at hb hp
      simp at hb hp
      exact ⟨comp, c, k, rfl, hi, hk, by rw [hkind, hp, hb.1], hb.2⟩
    | _ => rw [hkind] at hb; simp at hb
def aoA (t : FieldType) (U : State) : Prop := (Cond.arrayOver (.array t)).before #[] U = true
theorem aoA.moved {t : FieldType} {u U : State} (hvm : u.vm.Alike U.vm) (h : aoA t u) : aoA t U := by
  obtain ⟨comp, c, k, h1, h2, h3, h4, h5⟩ := ao_spec h
  obtain ⟨k', hk', he⟩ := hvm.2.2 _ _ h3
  have hi : (U.vm.classes.findIdx? fun (x : Class) => match x.kind with | .array component _ => component == comp | _ => false) = some c := by
    first
      | exact (hvm.findIdx?_eqK _ (fun _ => rfl)).trans h2
      | exact ((va_idx_bare U.vm comp).symm.trans ((congrArg _ (by first | exact hvm.bare_eq | exact hvm.bare_eq.symm)).trans (va_idx_bare u.vm comp))).trans h2
  have hkind : k'.kind = .array comp (.array t) := by rw [he]; exact h4
  have f1 : U.vm.findClass (FieldType.array t).toString = some comp := by rw [hvm.findClass]; exact h1
  have f2 : U.vm.findClass ("[" ++ (FieldType.array t).toString) = some c := by rw [hvm.findClass]; exact h5
  unfold aoA Cond.before Cond.holds
  simp only [Cond.value]
  rw [f1, Option.bind_some]
  refine (congrArg (fun o : Option Nat => (o.bind (fun c => (U.vm.classes[c]?).map fun (k : Class) => match k.kind with | .array _ ty => decide (ty = FieldType.array t) && decide (U.vm.findClass ("[" ++ (FieldType.array t).toString) = some c) | _ => false) == some true)) hi).trans ?_
  simp [hk', hkind, f2]
def aw_str : List (String × Nat × String) := [("LateMirrors$Tokens", 11, "room"), ("LateMirrors$Tokens", 13, "door"), ("LateMirrors$Tokens", 15, "man"), ("LateMirrors$Tokens", 17, "goes"), ("LateMirrors$Tokens", 19, "mirror"), ("LateMirrors$Tokens", 21, "late"), ("LateMirrors$Tokens", 23, "breaks"), ("LateMirrors$Tokens", 25, "seed"), ("LateMirrors$Tokens", 27, "if"), ("LateMirrors$Tokens", 29, "then"), ("LateMirrors$Tokens", 31, "else"), ("LateMirrors$Tokens", 33, "minute"), ("LateMirrors$Tokens", 35, "here"), ("LateMirrors$Tokens", 37, "rank"), ("LateMirrors$Tokens", 39, "number"), ("LateMirrors$Tokens", 41, "ways"), ("LateMirrors$Tokens", 43, "with"), ("LateMirrors$Fault", 1, "")]
def aw_sl : List (String × MethodName) := [("java/lang/StringBuilder", ⟨"java/lang/AbstractStringBuilder", "ensureCapacityInternal", "(I)V"⟩)]
def aw_st : List (String × String × String) := [("java/lang/String", "COMPACT_STRINGS", "Z"), ("java/util/ArrayList", "DEFAULTCAPACITY_EMPTY_ELEMENTDATA", "[Ljava/lang/Object;"), ("jdk/internal/util/Preconditions", "SIOOBE_FORMATTER", "Ljava/util/function/BiFunction;"), ("java/lang/Throwable", "UNASSIGNED_STACK", "[Ljava/lang/StackTraceElement;"), ("java/lang/Throwable", "SUPPRESSED_SENTINEL", "Ljava/util/List;")]
/-- a static reference: null or an address -/
def cR (cst : Nat → Nat) (i : Nat) : Option Nat := if cst (200 + i) = 1 then none else some (cst (100 + i))
def stv (cst : Nat → Nat) (i : Nat) : AV := match i with
  | 0 => iV 1
  | i => rV (cR cst i)
def mv (ty : FieldType) (c : Ce) (k : Int) : Value := match ty with
  | .long => .long (jJ (c.2.2.1 k))
  | .object _ => va_rf (c.2.2.2 k)
  | .array _ => va_rf (c.2.2.2 k)
  | _ => .int (iI (c.2.2.1 k))
def mutT (t : Nat) : Prop := t ≠ 50 ∧ ¬ (t = 150 ∨ t = 151 ∨ t = 159)
def hld (D : va_G) (A : Nat → Prop) (U : State) (H : Heap) (a : Nat) (c : Ce) : Prop :=
  ∃ cell : Cell, H[a]? = some cell ∧ cell.vm.isStatics = false ∧ cell.vm ≠ .unknown ∧ (mutT c.1 → A a ∧ cell.vm = .none) ∧
    (c.1 < 100 → cell.cls = D.1 c.1 ∧ ∀ k : Nat, k < (aw_c c.1).2.2 → cell.slots[D.2 c.1 k]? = some (mv (aw_ty c.1 k) c k)) ∧
    (100 ≤ c.1 → U.isArrayOf cell (aw_el c.1) ∧ (∀ C : String, aw_el c.1 = .object C → mutT c.1 → va_RA U cell.cls (.object C)) ∧ (cell.slots.size : Int) = c.2.1 ∧ ∀ j : Nat, j < cell.slots.size → cell.slots[j]? = some (mv (aw_el c.1) c j) ∧ fits (aw_el c.1) (mv (aw_el c.1) c j) = true)
theorem hld.moved {D : va_G} {A : Nat → Prop} {u U : State} {H : Heap} {a : Nat} {c : Ce} (hvm : u.vm.Alike U.vm) (h : hld D A u H a c) : hld D A U H a c := by
  obtain ⟨cell, h1, h2, h3, h4, h5, h6⟩ := h
  exact ⟨cell, h1, h2, h3, h4, h5, fun q => ⟨State.isArrayOf_alike hvm (h6 q).1, fun C hC hm => ((h6 q).2.1 C hC hm).moved hvm, (h6 q).2.2⟩⟩
theorem hld.kept {D : va_G} {A : Nat → Prop} {U : State} {H H1 : Heap} {a : Nat} {c : Ce} (h : hld D A U H a c) (hq : H1[a]? = H[a]?) : hld D A U H1 a c := by
  obtain ⟨cell, h1, h2⟩ := h
  exact ⟨cell, hq.trans h1, h2⟩
theorem hld.lt {D : va_G} {A : Nat → Prop} {U : State} {H : Heap} {a : Nat} {c : Ce} (h : hld D A U H a c) : a < H.size := by
  obtain ⟨cell, h1, h2⟩ := h
  exact (Array.getElem?_eq_some_iff.mp h1).1
def RH (D : va_G) (A : Nat → Prop) (U : State) (H : Heap) (σ : Hp) : Prop := H.size = σ.2.1 ∧ ∀ (a : Nat) (c : Ce), σ.1 a = some c → hld D A U H a c
theorem RH.moved {D : va_G} {A : Nat → Prop} {u U : State} {H : Heap} {σ : Hp} (hvm : u.vm.Alike U.vm) (h : RH D A u H σ) : RH D A U H σ := ⟨h.1, fun a c hc => (h.2 a c hc).moved hvm⟩
theorem RH.upd {D : va_G} {A : Nat → Prop} {U : State} {H H1 : Heap} {σ : Hp} {a : Nat} {c : Ce} (h : RH D A U H σ) (hz : H1.size = H.size) (oq : ∀ q : Nat, q ≠ a → H1[q]? = H[q]?) (hc : hld D A U H1 a c) : RH D A U H1 (upc σ a c) := by
  refine ⟨hz.trans h.1, fun b x hb => ?_⟩
  by_cases e : b = a
  · subst e
    have : (upc σ b c).1 b = some c := by simp [upc]
    rw [this] at hb
    cases hb
    exact hc
  · have : (upc σ a c).1 b = σ.1 b := by simp [upc, e]
    rw [this] at hb
    exact (h.2 b x hb).kept (oq b e)
theorem RH.new {D : va_G} {A : Nat → Prop} {U : State} {H H1 : Heap} {σ : Hp} {c : Ce} {n : Nat} (h : RH D A U H σ) (hz : H1.size = H.size + 1) (oq : ∀ q : Nat, q < H.size → H1[q]? = H[q]?) (hc : hld D A U H1 H.size c) : RH D A U H1 (nC σ c n) := by
  refine ⟨?_, fun b x hb => ?_⟩
  · rw [hz, h.1]; rfl
  · by_cases e : b = σ.2.1
    · subst e
      have : (nC σ c n).1 σ.2.1 = some c := by simp [nC]
      rw [this] at hb
      cases hb
      rw [← h.1]
      exact hc
    · have : (nC σ c n).1 b = σ.1 b := by simp [nC, e]
      rw [this] at hb
      exact (h.2 b x hb).kept (oq b (h.2 b x hb).lt)
/-- what the tables say all through -/
def RK (D : va_G) (A : Nat → Prop) (U : State) (H : Heap) (cst : Nat → Nat) : Prop :=
  (∀ t ∈ aw_tags, u_Kn U (aw_c t).1 (aw_c t).2.1 (aw_c t).2.2 (D.1 t) (D.2 t)) ∧
  (∀ q ∈ aw_nl, va_Nw (.methodLinkNest q.1 q.2.1 q.2.2.1 q.2.2.2) U) ∧ (∀ q ∈ aw_cs, va_Nw (.castable q.1 q.2) U) ∧ (∀ q ∈ aw_dc, va_Nw (.declares q) U) ∧ (∀ q ∈ aw_ao, va_AO q U) ∧ (∀ q ∈ aw_aa, aoA q U) ∧
  (∀ (i : Nat) (q : String × Nat × String), aw_str[i]? = some q → vk_R q.1 q.2.1 q.2.2 (cst i) U) ∧ (∀ (i : Nat) (q : String × String × String), aw_st[i]? = some q → va_Z q.1 q.2.1 q.2.2 (tv (stv cst i)) A U H) ∧ (∀ q ∈ aw_sl, va_Nw (.selects q.1 q.2 q.2) U)
theorem RK.warm {D : va_G} {A : Nat → Prop} {s U : State} {H H1 : Heap} {cst : Nat → Nat} (hW : s.WarmedH U.vm) (hq : ∀ a : Nat, a < H.size → ¬ A a → H1[a]? = H[a]?) (h : RK D A s H cst) : RK D A U H1 cst := by
  obtain ⟨h1, h2, h3, h4, h5, h5a, h6, h7, h8⟩ := h
  exact ⟨fun t ht => u_Kn_moved hW.alike (h1 t ht), fun q hq => (h2 q hq).warmM hW, fun q hq => (h3 q hq).warmC hW, fun q hq => (h4 q hq).warmD hW, fun q hq => (h5 q hq).moved hW.alike, fun q hq => (h5a q hq).moved hW.alike, fun i q hi => (h6 i q hi).warm hW, fun i q hi => ((h7 i q hi).moved hW.alike).kept hq, fun q hq => word_at hW (Or.inl (by first | rfl | simp [Cond.onTables, Cond.keeps, Cond.steady])) (h8 q hq)⟩
theorem RK.same {D : va_G} {A : Nat → Prop} {u U : State} {H : Heap} {cst : Nat → Nat} (hv : u.vm = U.vm) (h : RK D A u H cst) : RK D A U H cst := by
  obtain ⟨h1, h2, h3, h4, h5, h5a, h6, h7, h8⟩ := h
  have hA : u.vm.Alike U.vm := by rw [hv]; exact Vm.Alike.refl _
  exact ⟨fun t ht => u_Kn_moved hA (h1 t ht), fun q hq => (h2 q hq).same rfl hv, fun q hq => (h3 q hq).same rfl hv, fun q hq => (h4 q hq).same rfl hv, fun q hq => (h5 q hq).moved hA, fun q hq => (h5a q hq).moved hA, fun i q hi => (h6 i q hi).same hv.symm, fun i q hi => (h7 i q hi).moved hA, fun q hq => (h8 q hq).same (by first | rfl | simp [Cond.onTables]) hv⟩
/-! ===== locals ===== -/
def prs : Nat → List (Option AV) → List (Nat × Value)
  | _, [] => []
  | i, none :: L => prs (i + 1) L
  | i, some v :: L => (i, tv v) :: prs (i + 1) L
theorem prs_mem : ∀ (L : List (Option AV)) (i j : Nat) (w : Value), (j, w) ∈ prs i L ↔ ∃ v : AV, i ≤ j ∧ L[j - i]? = some (some v) ∧ w = tv v := by
  intro L
  induction L with
  | nil => intro i j w; simp [prs]
  | cons x L ih =>
    intro i j w
    have key : (∃ v : AV, i + 1 ≤ j ∧ L[j - (i + 1)]? = some (some v) ∧ w = tv v) ↔ (∃ v : AV, i ≤ j ∧ j ≠ i ∧ (x :: L)[j - i]? = some (some v) ∧ w = tv v) := by
      constructor
      · rintro ⟨v, h1, h2, h3⟩
        refine ⟨v, by omega, by omega, ?_, h3⟩
        rw [show j - i = (j - (i + 1)) + 1 by omega, List.getElem?_cons_succ]
        exact h2
      · rintro ⟨v, h1, h0, h2, h3⟩
        refine ⟨v, by omega, ?_, h3⟩
        rw [show j - i = (j - (i + 1)) + 1 by omega, List.getElem?_cons_succ] at h2
        exact h2
    cases x with
    | none =>
      show (j, w) ∈ prs (i + 1) L ↔ _
      rw [ih, key]
      constructor
      · rintro ⟨v, h1, h0, h2, h3⟩
        exact ⟨v, h1, h2, h3⟩
      · rintro ⟨v, h1, h2, h3⟩
        refine ⟨v, h1, ?_, h2, h3⟩
        rintro rfl
        simp at h2
    | some u =>
      show (j, w) ∈ (i, tv u) :: prs (i + 1) L ↔ _
      rw [List.mem_cons, ih, key]
      constructor
      · rintro (h | ⟨v, h1, h0, h2, h3⟩)
        · cases h
          exact ⟨u, Nat.le_refl _, by simp, rfl⟩
        · exact ⟨v, h1, h2, h3⟩
      · rintro ⟨v, h1, h2, h3⟩
        by_cases e : j = i
        · subst e
          simp at h2
          subst h2
          exact Or.inl (by rw [h3])
        · exact Or.inr ⟨v, h1, e, h2, h3⟩
def LV (ls : Array Slot) (nL : Nat) (L : List (Option AV)) : Prop := lv_has ls nL (prs 0 L)
theorem LV.at {ls : Array Slot} {nL : Nat} {L : List (Option AV)} (h : LV ls nL L) {i : Nat} {v : AV} (hi : L[i]? = some (some v)) : ls[i]? = some (.val (tv v)) :=
  h.2.2 (i, tv v) ((prs_mem L 0 i (tv v)).mpr ⟨v, Nat.zero_le _, by simpa using hi, rfl⟩)
def noJ (x : Option (Option AV)) : Bool := match x with
  | some (some (.inr (.inr _))) => false
  | _ => true
/-- the place below isn't a long (whose second half would be overwritten) -/
def okS (L : List (Option AV)) (i : Nat) : Bool := match i with
  | 0 => true
  | j + 1 => noJ L[j]?
theorem tv_cat {x : Option (Option AV)} {v : AV} (h : noJ x = true) (hx : x = some (some v)) : (tv v).category = 1 := by
  subst hx
  rcases v with z | r | z
  · rfl
  · cases r <;> rfl
  · cases h
theorem LV.store {ls' : Array Slot} {nL : Nat} {L : List (Option AV)} {i : Nat} {v : AV} (hs : okS L i = true) (h' : lv_has ls' nL ((i, tv v) :: (prs 0 L).filter (fun q => !(q.1 == i) && !(q.1 + 1 == i && q.2.category == 2)))) : LV ls' nL (L.set i (some v)) := by
  refine ⟨h'.1, h'.2.1, fun q hq => h'.2.2 q ?_⟩
  obtain ⟨j, w⟩ := q
  obtain ⟨u, -, h2, h3⟩ := (prs_mem _ 0 j w).mp hq
  rw [Nat.sub_zero] at h2
  by_cases e : j = i
  · subst e
    have hl : j < (L.set j (some v)).length := (List.getElem?_eq_some_iff.mp h2).1
    rw [List.length_set] at hl
    rw [List.getElem?_set_self hl] at h2
    cases h2
    rw [h3]
    exact List.mem_cons_self
  · rw [List.getElem?_set_ne (Ne.symm e)] at h2
    refine List.mem_cons_of_mem _ (List.mem_filter.mpr ⟨(prs_mem L 0 j w).mpr ⟨u, Nat.zero_le _, by simpa using h2, h3⟩, ?_⟩)
    simp only [Bool.and_eq_true, Bool.not_eq_true', beq_eq_false_iff_ne, ne_eq, Bool.and_eq_false_iff]
    refine ⟨e, ?_⟩
    by_cases e2 : j + 1 = i
    · right
      subst e2
      rw [h3, tv_cat hs h2]
      decide
    · left
      exact e2
theorem LV.store2 {ls' : Array Slot} {nL : Nat} {L : List (Option AV)} {i : Nat} {v : AV} (hs : okS L i = true) (h' : lv_has ls' nL ((i, tv v) :: (prs 0 L).filter (fun q => !(q.1 == i) && (!(q.1 == i + 1) && !(q.1 + 1 == i && q.2.category == 2))))) : LV ls' nL ((L.set i (some v)).set (i + 1) none) := by
  refine ⟨h'.1, h'.2.1, fun q hq => h'.2.2 q ?_⟩
  obtain ⟨j, w⟩ := q
  obtain ⟨u, -, h2, h3⟩ := (prs_mem _ 0 j w).mp hq
  rw [Nat.sub_zero] at h2
  by_cases e1 : j = i + 1
  · subst e1
    have hl : i + 1 < ((L.set i (some v)).set (i + 1) none).length := (List.getElem?_eq_some_iff.mp h2).1
    rw [List.length_set] at hl
    rw [List.getElem?_set_self hl] at h2
    cases h2
  · rw [List.getElem?_set_ne (Ne.symm e1)] at h2
    by_cases e : j = i
    · subst e
      have hl : j < (L.set j (some v)).length := (List.getElem?_eq_some_iff.mp h2).1
      rw [List.length_set] at hl
      rw [List.getElem?_set_self hl] at h2
      cases h2
      rw [h3]
      exact List.mem_cons_self
    · rw [List.getElem?_set_ne (Ne.symm e)] at h2
      refine List.mem_cons_of_mem _ (List.mem_filter.mpr ⟨(prs_mem L 0 j w).mpr ⟨u, Nat.zero_le _, by simpa using h2, h3⟩, ?_⟩)
      simp only [Bool.and_eq_true, Bool.not_eq_true', beq_eq_false_iff_ne, ne_eq, Bool.and_eq_false_iff]
      refine ⟨e, e1, ?_⟩
      by_cases e2 : j + 1 = i
      · right
        subst e2
        rw [h3, tv_cat hs h2]
        decide
      · left
        exact e2
/-- fewer locals -/
def subL : List (Option AV) → List (Option AV) → Prop
  | [], _ => True
  | none :: L', _ :: L => subL L' L
  | some v :: L', some w :: L => v = w ∧ subL L' L
  | none :: L', [] => subL L' []
  | some _ :: _, _ => False
theorem subL.at : ∀ (L' L : List (Option AV)), subL L' L → ∀ (i : Nat) (v : AV), L'[i]? = some (some v) → L[i]? = some (some v) := by
  intro L'
  induction L' with
  | nil => intro L _ i v h; simp at h
  | cons x L' ih =>
    intro L hs i v h
    cases x with
    | none =>
      cases L with
      | nil =>
        cases i with
        | zero => simp at h
        | succ i =>
          have := ih [] hs i v (by simpa using h)
          simp at this
      | cons y L =>
        cases i with
        | zero => simp at h
        | succ i => simpa using ih L hs i v (by simpa using h)
    | some u =>
      cases L with
      | nil => cases hs
      | cons y L =>
        cases y with
        | none => cases hs
        | some w =>
          obtain ⟨e, hs⟩ := hs
          subst e
          cases i with
          | zero => simpa using h
          | succ i => simpa using ih L hs i v (by simpa using h)
theorem LV.sub {ls : Array Slot} {nL : Nat} {L L' : List (Option AV)} (h : LV ls nL L) (hs : subL L' L) : LV ls nL L' := by
  refine ⟨h.1, h.2.1, fun q hq => ?_⟩
  obtain ⟨j, w⟩ := q
  obtain ⟨u, -, h2, h3⟩ := (prs_mem _ 0 j w).mp hq
  rw [Nat.sub_zero] at h2
  rw [h3]
  exact h.at (subL.at L' L hs j u h2)
