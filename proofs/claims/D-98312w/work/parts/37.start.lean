set_option maxRecDepth 100000
/-! ===== the start: its abstract heap (the script, the literals, ArrayList's empty array) and what the tables say ===== -/
def aw_byt : List (List Int32) := [[114, 111, 111, 109], [100, 111, 111, 114], [109, 97, 110], [103, 111, 101, 115], [109, 105, 114, 114, 111, 114], [108, 97, 116, 101], [98, 114, 101, 97, 107, 115], [115, 101, 101, 100], [105, 102], [116, 104, 101, 110], [101, 108, 115, 101], [109, 105, 110, 117, 116, 101], [104, 101, 114, 101], [114, 97, 110, 107], [110, 117, 109, 98, 101, 114], [119, 97, 121, 115], [119, 105, 116, 104], []]
def aw_tm (i : Nat) : Term := .string (aw_str.getD i ("", 0, "")).1 (aw_str.getD i ("", 0, "")).2.1
def aw_len : List Nat := aw_byt.map List.length
def rdC (D : va_G) (cell : Cell) (t : Nat) : Ce := (t, (cell.slots.size : Int), fun k => match cell.slots[if t < 100 then D.2 t k.toNat else k.toNat]? with
    | some (.int v) => v.toInt
    | _ => 0, fun k => match cell.slots[if t < 100 then D.2 t k.toNat else k.toNat]? with
    | some (.ref a) => some a
    | _ => none)
def rdH (D : va_G) (H : Heap) (t a : Nat) : Option Ce := (H[a]?).map fun cell => rdC D cell t
theorem rdH_some {D : va_G} {H : Heap} {t a : Nat} {c : Ce} (h : rdH D H t a = some c) : ∃ cell : Cell, H[a]? = some cell ∧ c = rdC D cell t := by
  unfold rdH at h
  cases hc : H[a]? with
  | none => rw [hc] at h; cases h
  | some cell =>
    rw [hc] at h
    exact ⟨cell, rfl, (Option.some.inj h).symm⟩
def kdO (s : State) (H : Heap) (a : Nat) : Option FieldType := (H[a]?).bind fun c => (s.vm.classes[c.cls]?).bind fun k => match k.kind with
  | .array _ ty => some ty
  | _ => none
theorem kd_arr {s : State} {H : Heap} {a : Nat} {c : Cell} {ty : FieldType} (hc : H[a]? = some c) (h : s.isArrayOf c ty) : kdO s H a = some ty := by
  obtain ⟨-, k, hk, comp, hkind⟩ := h
  simp [kdO, hc, hk, hkind]
theorem kd_ord {s : State} {H : Heap} {a : Nat} {c : Cell} {k : Class} (hc : H[a]? = some c) (hk : s.vm.classes[c.cls]? = some k) (ho : k.kind = .ordinary) : kdO s H a = none := by
  simp [kdO, hc, hk, ho]
theorem notSt {s : State} {c : Cell} {ty : FieldType} (h : s.isArrayOf c ty) : c.vm.isStatics = false := by
  have h1 := h.1
  cases hv : c.vm <;> first | rfl | exact absurd hv (h1 _)
/-- an array of the start that is read alone -/
theorem rd_arr {D : va_G} {A : Nat → Prop} {s : State} {H : Heap} {a t : Nat} {cell : Cell} (hc : H[a]? = some cell) (h : s.isArrayOf cell (aw_el t)) (hu : cell.vm ≠ .unknown) (ht : 100 ≤ t) (hm : ¬ mutT t) (hel : ∀ j : Nat, j < cell.slots.size → ∃ v : Int32, cell.slots[j]? = some (.int v) ∧ mv (aw_el t) (rdC D cell t) j = .int v ∧ fits (aw_el t) (.int v) = true) : hld D A s H a (rdC D cell t) := by
  refine ⟨cell, hc, notSt h, hu, fun q => absurd q hm, fun q => absurd q (by have q : t < 100 := q; omega), fun _ => ⟨h, fun C _ q => absurd q hm, rfl, fun j hj => ?_⟩⟩
  obtain ⟨v, h1, h2, h3⟩ := hel j hj
  show cell.slots[j]? = some (mv (aw_el t) (rdC D cell t) j) ∧ fits (aw_el t) (mv (aw_el t) (rdC D cell t) j) = true
  rw [h2]
  exact ⟨h1, h3⟩
theorem rdC_int {D : va_G} {cell : Cell} {t j : Nat} {v : Int32} (ht : 100 ≤ t) (h : cell.slots[j]? = some (.int v)) : (rdC D cell t).2.2.1 (j : Int) = v.toInt := by
  show (match cell.slots[if t < 100 then D.2 t (j : Int).toNat else (j : Int).toNat]? with | some (.int v) => v.toInt | _ => 0) = _
  rw [if_neg (by omega), Int.toNat_natCast, h]
theorem len_size {args : Array Value} {s : State} {tm : Term} {N t : Nat} {cell : Cell} (hN : N < 2 ^ 31) (hlen : (Term.length tm).eval args s none [] s = some (.int (Int32.ofNat N))) (ht : tm.eval args s none [] s = some (.ref t)) (hc : s.heap[t]? = some cell) : cell.slots.size = N := by
  cases hat : s.arrayAt? t with
  | none => simp [Term.eval, ht, hat] at hlen
  | some c2 =>
    have e := (State.arrayAt?_spec hat).1
    cases Option.some.inj (e.symm.trans hc)
    by_cases hn : cell.slots.size < 2 ^ 31
    · have h9 : cell.slots.size.toInt32 = Int32.ofNat N := by simpa [Term.eval, ht, hat, hn] using hlen
      have h8 : (Int32.ofNat cell.slots.size).toNatClampNeg = (Int32.ofNat N).toNatClampNeg := congrArg Int32.toNatClampNeg h9
      rwa [Int32.toNatClampNeg_ofNat_of_lt hn, Int32.toNatClampNeg_ofNat_of_lt hN] at h8
    · simp [Term.eval, ht, hat, hn] at hlen
theorem st_D {args : Array Value} {s : State} (hts : ∀ w ∈ lw_all, w.before args s = true) : ∃ D : va_G, ∀ t ∈ aw_tags, u_Kn s (aw_c t).1 (aw_c t).2.1 (aw_c t).2.2 (D.1 t) (D.2 t) := by
  have h0 : ∀ t : Nat, ∃ q : ClassId × (Nat → Nat), t ∈ aw_tags → u_Kn s (aw_c t).1 (aw_c t).2.1 (aw_c t).2.2 q.1 q.2 := by
    intro t
    by_cases ht : t ∈ aw_tags
    · have : ∃ (cC : ClassId) (iS : Nat → Nat), u_Kn s (aw_c t).1 (aw_c t).2.1 (aw_c t).2.2 cC iS := by
        simp only [aw_tags, List.mem_cons, List.not_mem_nil, or_false] at ht
        rcases ht with rfl | rfl | rfl | rfl | rfl | rfl | rfl | rfl | rfl | rfl | rfl | rfl | rfl | rfl | rfl | rfl | rfl | rfl | rfl | rfl
        · exact u_known (n := 23) hts ck0.2.2.1 (hts _ q158)
        · exact u_known (n := 8) hts ck1.2.2.1 (hts _ q166)
        · exact u_known (n := 8) hts ck2.2.2.1 (hts _ q240)
        · exact u_known (n := 7) hts ck3.2.2.1 (hts _ q296)
        · exact u_known (n := 7) hts ck4.2.2.1 (hts _ q324)
        · exact u_known (n := 11) hts ck5.2.2.1 (hts _ q392)
        · exact u_known (n := 2) hts ck6.2.2.1 (hts _ q404)
        · exact u_known (n := 2) hts ck7.2.2.1 (hts _ q465)
        · exact u_known (n := 75) hts ck8.2.2.1 (hts _ q1482)
        · exact u_known (n := 3) hts ck10.2.2.1 (hts _ q742)
        · exact u_known (n := 4) hts ck11.2.2.1 (hts _ q1023)
        · exact u_known (n := 4) hts ck12.2.2.1 (hts _ q1055)
        · exact u_known (n := 1) hts ck14.2.2.1 (hts _ q1104)
        · exact u_known (n := 1) hts ck15.2.2.1 (hts _ q1117)
        · exact u_known (n := 3) hts ck16.2.2.1 (hts _ q1127)
        · exact u_known (n := 3) hts ck17.2.2.1 (hts _ q1147)
        · exact u_known (n := 3) hts ck18.2.2.1 (hts _ q330)
        · exact u_known (n := 4) hts ck19.2.2.1 (hts _ q756)
        · exact u_known (n := 4) hts ck20.2.2.1 (hts _ q861)
        · exact u_known (n := 4) hts ck50.2.2.1 (hts _ q861)
      obtain ⟨cC, iS, h⟩ := this
      exact ⟨(cC, iS), fun _ => h⟩
    · exact ⟨(0, fun _ => 0), fun h => absurd h ht⟩
  obtain ⟨D, hD⟩ := Classical.axiomOfChoice h0
  exact ⟨(fun t => (D t).1, fun t => (D t).2), hD⟩
/-- what the pure part knows of the start -/
def St0 (σ : Hp) (b L : Nat) (xs : Nat → Int32) : Prop :=
  (∃ c : Ce, σ.1 b = some c ∧ c.1 = 151 ∧ c.2.1 = L ∧ ∀ j : Nat, j < L → c.2.2.1 j = (xs j).toInt) ∧
  (∃ c : Ce, σ.1 (σ.2.2.2 101) = some c ∧ c.1 = 159 ∧ c.2.1 = 0) ∧ cR σ.2.2.2 1 = some (σ.2.2.2 101) ∧
  (∀ i : Nat, i < 18 → ∃ (c : Ce) (v : Nat) (cv : Ce), σ.1 (σ.2.2.2 i) = some c ∧ c.1 = 50 ∧ c.2.2.1 1 = 0 ∧ c.2.2.2 0 = some v ∧ σ.1 v = some cv ∧ cv.1 = 150 ∧ cv.2.1 = (aw_len.getD i 0 : Nat) ∧ ∀ j : Nat, j < aw_len.getD i 0 → cv.2.2.1 j = ((aw_byt.getD i []).getD j 0).toInt) ∧
  ∀ (a : Nat) (c : Ce), σ.1 a = some c → a < σ.2.1
theorem sel_priv {C : String} {y : MethodName} {s : State} {args : Array Value} {n : Nat} (hy : y.cls ≠ "java/lang/invoke/MethodHandle" ∧ y.cls ≠ "java/lang/invoke/VarHandle")
    (hins : (Cond.instantiable C n).before args s = true) (hpriv : (Cond.privateMethod y).before args s = true) (hinst : (Cond.instanceMethod y).before args s = true) (hni : ∀ mk : MethodId, s.methodNamed? y = some mk → ∀ k : Class, s.vm.classes[mk.cls]? = some k → k.isInterface = false) :
    (Cond.selects C y y).before args s = true := by
  obtain ⟨c, k, hc, hk, -, hniab, -, -⟩ := Cond.instantiable_spec hins
  obtain ⟨mk, methM, hnamed, hmethM, -, -⟩ := Cond.instanceMethod_spec hinst
  have hfound : s.methodFound? y.cls y.name y.desc = some mk := State.methodFound?_of_named hnamed hy
  obtain ⟨k2, hk2, -⟩ := className_of_methodNamed hnamed
  have hsel : selectMethod {} s.vm c mk = .method mk := selectMethod_private hmethM (Cond.privateMethod_at hpriv mk methM hnamed hmethM)
  simp only [Cond.before, Cond.holds, Cond.value, hc, hfound, hnamed, hsel, hk2]
  simp; exact hni mk hnamed k2 hk2
theorem all_in {s : State} {args : Array Value} (hts : ∀ w ∈ lw_tbl, w.before args s = true) : ∀ w ∈ lw_all, w.before args s = true := fun w hw => hts w (List.mem_filter.mp hw).1
theorem sl_ok {s : State} {args : Array Value} (htb : ∀ w ∈ lw_tbl, w.before args s = true) : ∀ q ∈ aw_sl, va_Nw (.selects q.1 q.2 q.2) s := by
  intro q hq
  rcases List.mem_singleton.mp hq with rfl
  have hts := all_in htb
  refine va_Nw.of (by first | rfl | simp [Cond.onTables]) (A := args) (sel_priv (n := 4) ⟨by decide, by decide⟩ (hts _ q756) (htb _ q793) (hts _ q794) fun mk hmk k hk => ?_)
  obtain ⟨c2, r2, m2, q1, q2, q3, q4, kP, hkP, hkPi⟩ := Cond.selects_spec (hts _ q826)
  have e1 := findClass_of_methodNamed q3
  have e2 := findClass_of_methodNamed hmk
  have e3 : m2.cls = mk.cls := Option.some.inj (e1.symm.trans e2)
  rw [e3] at hkP
  cases Option.some.inj (hkP.symm.trans hk)
  exact hkPi
/-- the literals -/
def strAt (A : Nat → Prop) (s : State) (adK adV : Nat → Nat) (i : Nat) : Prop :=
  va_O "java/lang/String" (adK i) A s s.heap ∧ va_OF "java/lang/String" "coder" "B" (.int 0) (adK i) A s s.heap ∧ va_OF "java/lang/String" "value" "[B" (.ref (adV i)) (adK i) A s s.heap ∧
    ∃ cell : Cell, s.heap[adV i]? = some cell ∧ s.isArrayOf cell .byte ∧ cell.vm ≠ .unknown ∧ cell.slots.size = aw_len.getD i 0 ∧ ∀ j : Nat, j < aw_len.getD i 0 → cell.slots[j]? = some (.int ((aw_byt.getD i []).getD j 0))
theorem st_str {s : State} {b : Nat} {A : Nat → Prop} (hgv : (Jvm.Cond.and given_1 narrow_1).before #[Value.ref b] s = true) (hA : ∀ a : Nat, a < s.heap.size → ¬ A a) :
    ∃ adK adV : Nat → Nat, ∀ i : Nat, i < 18 → (aw_tm i).eval #[Value.ref b] s none [] s = some (.ref (adK i)) ∧ strAt A s adK adV i := by
  have hs := flat_of_before _ hgv
  have w1 : ∀ i : Nat, i < 18 → Cond.exactly (aw_tm i) "java/lang/String" ∈ flatC (Jvm.Cond.and given_1 narrow_1) := by decide +kernel
  have w2 : ∀ i : Nat, i < 18 → Cond.eq (.field (aw_tm i) "java/lang/String" "coder" "B") (.int 0) ∈ flatC (Jvm.Cond.and given_1 narrow_1) := by decide +kernel
  have w3 : ∀ i : Nat, i < 18 → Cond.arrayOf (.field (aw_tm i) "java/lang/String" "value" "[B") .byte ∈ flatC (Jvm.Cond.and given_1 narrow_1) := by decide +kernel
  have w4 : ∀ i : Nat, i < 18 → Cond.eq (.length (.field (aw_tm i) "java/lang/String" "value" "[B")) (.int (Int32.ofNat (aw_len.getD i 0))) ∈ flatC (Jvm.Cond.and given_1 narrow_1) := by decide +kernel
  have w5 : ∀ i : Nat, i < 18 → ∀ j : Nat, j < aw_len.getD i 0 → Cond.eq (.elem (.field (aw_tm i) "java/lang/String" "value" "[B") (.int (Int32.ofNat j))) (.int ((aw_byt.getD i []).getD j 0)) ∈ flatC (Jvm.Cond.and given_1 narrow_1) := by decide +kernel
  have w6 : ∀ i : Nat, i < 18 → aw_len.getD i 0 < 2 ^ 31 := by decide +kernel
  have h0 : ∀ i : Nat, ∃ q : Nat × Nat, i < 18 → (aw_tm i).eval #[Value.ref b] s none [] s = some (.ref q.1) ∧ strAt A s (fun _ => q.1) (fun _ => q.2) i := by
    intro i
    by_cases hi : i < 18
    · obtain ⟨a, c, cA, kA, q1, q2, q3, q4, q5, q6, -⟩ := Cond.exactly_spec (args := #[Value.ref b]) (first := s) (o := none) (s := s) (idx := []) (t := aw_tm i) (cls := "java/lang/String") (hs _ (w1 i hi))
      have hlen := va_eqt (hs _ (w4 i hi))
      obtain ⟨t, ht, cell, g1, g2, g3, g4, g5, g6, g7⟩ := va_Tof (f := fun j => .int ((aw_byt.getD i []).getD j 0)) (A := A) (w6 i hi) (hs _ (w3 i hi)) hlen (fun j hj => va_eqt (hs _ (w5 i hi j hj))) hA
      exact ⟨(a, t), fun _ => ⟨q1, ⟨cA, q3, q5, by rw [q6]; exact q2, hA a (Array.getElem?_eq_some_iff.mp q3).1⟩, vk_OFof q1 (va_eqt (hs _ (w2 i hi))) hA, vk_OFof q1 ht hA, cell, g1, g2, g3, len_size (w6 i hi) hlen ht g1, g6⟩⟩
    · exact ⟨(0, 0), fun h => absurd h hi⟩
  obtain ⟨ad, had⟩ := Classical.axiomOfChoice h0
  exact ⟨fun i => (ad i).1, fun i => (ad i).2, fun i hi => had i hi⟩
theorem st_null {s : State} {b : Nat} {A : Nat → Prop} {C n d : String} (hl : (Cond.laysStatic C n d).before #[Value.ref b] s = true) (hini : (Cond.initialized C).before #[Value.ref b] s = true) (h : (Cond.isRef (.static C n d)).before #[Value.ref b] s = true) (hA : ∀ a : Nat, a < s.heap.size → ¬ A a) : ∃ z : Nat × Nat, va_Z C n d (va_rf (if z.2 = 1 then none else some z.1)) A s s.heap := by
  rcases va_Zqof hl hini h hA with h | ⟨t, h⟩
  · exact ⟨(0, 1), h⟩
  · exact ⟨(t, 0), h⟩
def stA (b : Nat) (em : Nat) (adK adV : Nat → Nat) (D : va_G) (H : Heap) (a : Nat) : Option Ce :=
  if a = b then rdH D H 151 a else if a = em then rdH D H 159 a else if (List.range 18).any (fun i => adK i == a) = true then rdH D H 50 a else if (List.range 18).any (fun i => adV i == a) = true then rdH D H 150 a else none
theorem any_ex {f : Nat → Nat} {a : Nat} (h : (List.range 18).any (fun i => f i == a) = true) : ∃ i : Nat, i < 18 ∧ f i = a := by
  obtain ⟨i, h1, h2⟩ := List.any_eq_true.mp h
  exact ⟨i, List.mem_range.mp h1, beq_iff_eq.mp h2⟩
theorem any_of {f : Nat → Nat} {i : Nat} (h : i < 18) : (List.range 18).any (fun j => f j == f i) = true :=
  List.any_eq_true.mpr ⟨i, List.mem_range.mpr h, beq_self_eq_true _⟩
theorem fit_by : ∀ i : Nat, i < 18 → ∀ j : Nat, j < aw_len.getD i 0 → fits .byte (.int ((aw_byt.getD i []).getD j 0)) = true := by decide +kernel
theorem st_all {s : State} {b L : Nat} {xs : Nat → Int32} (htb : ∀ w ∈ lw_tbl, w.before #[Value.ref b] s = true) (hX : va_X b L xs s s.heap) (hgv : (Jvm.Cond.and given_1 narrow_1).before #[Value.ref b] s = true) :
    ∃ (D : va_G) (σ : Hp), RH D (fun q => s.heap.size ≤ q) s s.heap σ ∧ RK D (fun q => s.heap.size ≤ q) s s.heap σ.2.2.2 ∧ St0 σ b L xs ∧ σ.2.2.1 = 0 := by
  have hts := all_in htb
  have hA : ∀ a : Nat, a < s.heap.size → ¬ (fun q => s.heap.size ≤ q) a := fun a h => Nat.not_le.mpr h
  have hs := flat_of_before _ hgv
  obtain ⟨D, hD⟩ := st_D hts
  obtain ⟨adK, adV, hst⟩ := st_str hgv hA
  obtain ⟨em, hem, ecell, e1, e2, e3, -⟩ := va_Tof (args := #[Value.ref b]) (tm := .static "java/util/ArrayList" "DEFAULTCAPACITY_EMPTY_ELEMENTDATA" "[Ljava/lang/Object;") (ty := .object "java/lang/Object") (N := 0) (f := fun _ => .null) (by decide) (hs _ (by decide +kernel)) (va_eqt (hs _ (by decide +kernel))) (fun j hj => absurd hj (Nat.not_lt_zero j)) hA
  have e5 : ecell.slots.size = 0 := len_size (by decide) (va_eqt (hs _ (by decide +kernel))) hem e1
  obtain ⟨z2, hz2⟩ := st_null (htb _ q677) (hts _ q136) (hs _ (by decide +kernel)) hA
  obtain ⟨z3, hz3⟩ := st_null (htb _ q192) (hts _ q122) (hs _ (by decide +kernel)) hA
  obtain ⟨z4, hz4⟩ := st_null (htb _ q194) (hts _ q122) (hs _ (by decide +kernel)) hA
  have hz0 : va_Z "java/lang/String" "COMPACT_STRINGS" "Z" (.int 1) (fun q => s.heap.size ≤ q) s s.heap := va_Zof (htb _ q661) (hts _ q140) (va_eqt (hs _ (by decide +kernel))) hA
  have hz1 : va_Z "java/util/ArrayList" "DEFAULTCAPACITY_EMPTY_ELEMENTDATA" "[Ljava/lang/Object;" (.ref em) (fun q => s.heap.size ≤ q) s s.heap := va_Zref (htb _ q342) (hts _ q131) hem hA
  let cst : Nat → Nat := fun i => if i < 18 then adK i else match i with
    | 101 => em
    | 102 => z2.1
    | 103 => z3.1
    | 104 => z4.1
    | 202 => z2.2
    | 203 => z3.2
    | 204 => z4.2
    | _ => 0
  have hcK : ∀ i : Nat, i < 18 → cst i = adK i := fun i hi => if_pos hi
  obtain ⟨scr, x1, x2, x3, x4, x5⟩ := hX
  -- kinds
  have kb : kdO s s.heap b = some .int := kd_arr x1 x2
  have ke : kdO s s.heap em = some (.object "java/lang/Object") := kd_arr e1 e2
  have hK50 := hD 50 (by decide)
  have kK : ∀ i : Nat, i < 18 → kdO s s.heap (adK i) = none := by
    intro i hi
    obtain ⟨-, ⟨cell, g1, g2, g3, -⟩, -⟩ := hst i hi
    obtain ⟨-, hfc, kC, hkC, ho⟩ := hK50
    have : D.1 50 = cell.cls := Option.some.inj (hfc.symm.trans g3)
    rw [this] at hkC
    exact kd_ord g1 hkC ho
  have kV : ∀ i : Nat, i < 18 → kdO s s.heap (adV i) = some .byte := by
    intro i hi
    obtain ⟨-, -, -, -, cell, g1, g2, -⟩ := hst i hi
    exact kd_arr g1 g2
  have hb51 : stA b em adK adV D s.heap b = some (rdC D scr 151) := by simp [stA, rdH, x1]
  have hem59 : stA b em adK adV D s.heap em = some (rdC D ecell 159) := by
    have n1 : ¬ em = b := fun h => by rw [h, kb] at ke; cases ke
    simp [stA, n1, rdH, e1]
  have hK : ∀ i : Nat, i < 18 → ∀ cell : Cell, s.heap[adK i]? = some cell → stA b em adK adV D s.heap (adK i) = some (rdC D cell 50) := by
    intro i hi cell hc
    have n1 : ¬ adK i = b := fun h => by have := kK i hi; rw [h, kb] at this; cases this
    have n2 : ¬ adK i = em := fun h => by have := kK i hi; rw [h, ke] at this; cases this
    unfold stA
    rw [if_neg n1, if_neg n2, if_pos (any_of hi)]
    simp [rdH, hc]
  have hV : ∀ i : Nat, i < 18 → ∀ cell : Cell, s.heap[adV i]? = some cell → stA b em adK adV D s.heap (adV i) = some (rdC D cell 150) := by
    intro i hi cell hc
    have n1 : ¬ adV i = b := fun h => by have := kV i hi; rw [h, kb] at this; cases this
    have n2 : ¬ adV i = em := fun h => by have := kV i hi; rw [h, ke] at this; cases this
    have n3 : ¬ (List.range 18).any (fun j => adK j == adV i) = true := fun h => by
      obtain ⟨j, hj, e⟩ := any_ex h
      have h1 := kK j hj
      rw [e, kV i hi] at h1
      cases h1
    unfold stA
    rw [if_neg n1, if_neg n2, if_neg n3, if_pos (any_of hi)]
    simp [rdH, hc]
  -- the fields of a literal
  have hfld : ∀ i : Nat, i < 18 → ∃ cell : Cell, s.heap[adK i]? = some cell ∧ cell.vm.isStatics = false ∧ cell.vm ≠ .unknown ∧ cell.cls = D.1 50 ∧ cell.slots[D.2 50 0]? = some (.ref (adV i)) ∧ cell.slots[D.2 50 1]? = some (.int 0) := by
    intro i hi
    obtain ⟨-, ⟨cell, g1, g2, g3, -⟩, ⟨cf1, k1, i1, f1, c1, p1, p2, p3, p4, p5, -⟩, ⟨cf2, k2, i2, f2, c2, r1, r2, r3, r4, r5, -⟩, -⟩ := hst i hi
    cases Option.some.inj (g1.symm.trans p3)
    cases Option.some.inj (g1.symm.trans r3)
    obtain ⟨cfa, kfa, fia, fda, ha, hsa⟩ := hK50.1 0 (by decide)
    obtain ⟨cfb, kfb, fib, fdb, hb, hsb⟩ := hK50.1 1 (by decide)
    have ea := Option.some.inj ((show s.fieldFound? "java/lang/String" "value" "[B" = _ from ha).symm.trans r1)
    have eb := Option.some.inj ((show s.fieldFound? "java/lang/String" "coder" "B" = _ from hb).symm.trans p1)
    cases ea
    cases eb
    refine ⟨cell, g1, g2, p4, ?_, by rw [← hsa]; exact r5, by rw [← hsb]; exact p5⟩
    exact Option.some.inj (g3.symm.trans hK50.2.1)
  refine ⟨D, (stA b em adK adV D s.heap, s.heap.size, 0, cst), ⟨rfl, ?_⟩, ?_, ?_, rfl⟩
  · intro a c hc0
    have hc : stA b em adK adV D s.heap a = some c := hc0
    clear hc0
    unfold stA at hc
    split at hc
    · next h =>
      subst h
      obtain ⟨cell, h1, rfl⟩ := rdH_some hc
      have ec : scr = cell := Option.some.inj (x1.symm.trans h1)
      subst ec
      refine rd_arr x1 x2 x3 (by decide) (by unfold mutT; omega) fun j hj => ?_
      have hj' : j < L := by omega
      refine ⟨xs j, x5 j hj', ?_, rfl⟩
      show Value.int (iI ((rdC D scr 151).2.2.1 (j : Int))) = _
      rw [rdC_int (by decide) (x5 j hj'), iI_of]
    · split at hc
      · next h =>
        subst h
        obtain ⟨cell, h1, rfl⟩ := rdH_some hc
        have ec : ecell = cell := Option.some.inj (e1.symm.trans h1)
        subst ec
        exact rd_arr e1 e2 e3 (by decide) (by unfold mutT; omega) fun j hj => by omega
      · split at hc
        · next h =>
          obtain ⟨i, hi, rfl⟩ := any_ex h
          obtain ⟨cell, h1, rfl⟩ := rdH_some hc
          obtain ⟨cell2, g1, g2, g3, g4, g5, g6⟩ := hfld i hi
          have ec : cell2 = cell := Option.some.inj (g1.symm.trans h1)
          subst ec
          refine ⟨cell2, g1, g2, g3, fun q => absurd q (by show ¬ mutT 50; unfold mutT; omega), fun _ => ⟨g4, fun k hk => ?_⟩, fun q => absurd (show 100 ≤ 50 from q) (by decide)⟩
          have hk : k < 2 := hk
          rcases (show k = 0 ∨ k = 1 by omega) with rfl | rfl
          · show cell2.slots[D.2 50 0]? = some (va_rf ((rdC D cell2 50).2.2.2 0))
            have : (rdC D cell2 50).2.2.2 0 = some (adV i) := by
              show (match cell2.slots[if 50 < 100 then D.2 50 (0 : Int).toNat else (0 : Int).toNat]? with | some (.ref a) => some a | _ => none) = _
              rw [if_pos (by decide)]
              show (match cell2.slots[D.2 50 0]? with | some (.ref a) => some a | _ => none) = _
              rw [g5]
            rw [this]
            exact g5
          · show cell2.slots[D.2 50 1]? = some (.int (iI ((rdC D cell2 50).2.2.1 1)))
            have : (rdC D cell2 50).2.2.1 1 = 0 := by
              show (match cell2.slots[if 50 < 100 then D.2 50 (1 : Int).toNat else (1 : Int).toNat]? with | some (.int v) => v.toInt | _ => 0) = _
              rw [if_pos (by decide)]
              show (match cell2.slots[D.2 50 1]? with | some (.int v) => v.toInt | _ => 0) = _
              rw [g6]
              rfl
            rw [this, iI_0]
            exact g6
        · split at hc
          · next h =>
            obtain ⟨i, hi, rfl⟩ := any_ex h
            obtain ⟨cell, h1, rfl⟩ := rdH_some hc
            obtain ⟨-, -, -, -, cell2, g1, g2, g3, g4, g5⟩ := hst i hi
            have ec : cell2 = cell := Option.some.inj (g1.symm.trans h1)
            subst ec
            refine rd_arr g1 g2 g3 (by decide) (by unfold mutT; omega) fun j hj => ?_
            have hj' : j < aw_len.getD i 0 := by omega
            refine ⟨_, g5 j hj', ?_, fit_by i hi j hj'⟩
            show Value.int (iI ((rdC D cell2 150).2.2.1 (j : Int))) = _
            rw [rdC_int (by decide) (g5 j hj'), iI_of]
          · cases hc
  · refine ⟨hD, ?_, ?_, ?_, ?_, ?_, ?_, ?_, sl_ok htb⟩
    · intro q hq
      exact va_Nw.of rfl (htb _ ((show ∀ q ∈ aw_nl, Cond.methodLinkNest q.1 q.2.1 q.2.2.1 q.2.2.2 ∈ lw_tbl by decide +kernel) q hq))
    · intro q hq
      exact va_Nw.of rfl (htb _ ((show ∀ q ∈ aw_cs, Cond.castable q.1 q.2 ∈ lw_tbl by decide +kernel) q hq))
    · intro q hq
      exact va_Nw.of rfl (htb _ ((show ∀ q ∈ aw_dc, Cond.declares q ∈ lw_tbl by decide +kernel) q hq))
    · intro q hq
      exact va_AO.of (htb _ ((show ∀ q ∈ aw_ao, Cond.arrayOver (.object q) ∈ lw_tbl by decide +kernel) q hq))
    · intro q hq
      exact htb _ ((show ∀ q ∈ aw_aa, Cond.arrayOver (.array q) ∈ lw_tbl by decide +kernel) q hq)
    · intro i q hi
      have hlt : i < 18 := (List.getElem?_eq_some_iff.mp hi).1
      have e9 : aw_str.getD i ("", 0, "") = q := by rw [List.getD_eq_getElem?_getD, hi]; rfl
      have w1 := htb _ ((show ∀ i : Nat, i < 18 → Cond.stringRef (aw_str.getD i ("", 0, "")).1 (aw_str.getD i ("", 0, "")).2.1 (aw_str.getD i ("", 0, "")).2.2 ∈ lw_tbl by decide +kernel) i hlt)
      have w2 := (hst i hlt).1
      unfold aw_tm at w2
      rw [e9] at w1 w2
      show vk_R q.1 q.2.1 q.2.2 (cst i) s
      rw [hcK i hlt]
      exact vk_R.of w1 w2
    · intro i q hi
      have hlt : i < 5 := (List.getElem?_eq_some_iff.mp hi).1
      rcases (show i = 0 ∨ i = 1 ∨ i = 2 ∨ i = 3 ∨ i = 4 by omega) with rfl | rfl | rfl | rfl | rfl
      · cases hi; exact hz0
      · cases hi; exact hz1
      · cases hi; exact hz2
      · cases hi; exact hz3
      · cases hi; exact hz4
  · refine ⟨⟨_, hb51, rfl, ?_, fun j hj => rdC_int (by decide) (x5 j hj)⟩, ⟨_, hem59, rfl, ?_⟩, rfl, ?_, ?_⟩
    · show (scr.slots.size : Int) = L
      rw [x4]
    · show (ecell.slots.size : Int) = 0
      rw [e5]; rfl
    · intro i hi
      obtain ⟨cell, g1, g2, g3, g4, g5, g6⟩ := hfld i hi
      obtain ⟨-, -, -, -, cell2, h1, h2, h3, h4, h5⟩ := hst i hi
      refine ⟨_, adV i, rdC D cell2 150, by show stA b em adK adV D s.heap (cst i) = _; rw [hcK i hi]; exact hK i hi cell g1, rfl, ?_, ?_, hV i hi cell2 h1, rfl, ?_, fun j hj => rdC_int (by decide) (h5 j hj)⟩
      · show (match cell.slots[if 50 < 100 then D.2 50 (1 : Int).toNat else (1 : Int).toNat]? with | some (.int v) => v.toInt | _ => 0) = _
        rw [if_pos (by decide)]
        show (match cell.slots[D.2 50 1]? with | some (.int v) => v.toInt | _ => 0) = _
        rw [g6]
        rfl
      · show (match cell.slots[if 50 < 100 then D.2 50 (0 : Int).toNat else (0 : Int).toNat]? with | some (.ref a) => some a | _ => none) = _
        rw [if_pos (by decide)]
        show (match cell.slots[D.2 50 0]? with | some (.ref a) => some a | _ => none) = _
        rw [g5]
      · show (cell2.slots.size : Int) = _
        rw [h4]
    · intro a c hc
      have hc : stA b em adK adV D s.heap a = some c := hc
      show a < s.heap.size
      have key : ∃ t, rdH D s.heap t a = some c := by
        unfold stA at hc
        split at hc
        · exact ⟨_, hc⟩
        · split at hc
          · exact ⟨_, hc⟩
          · split at hc
            · exact ⟨_, hc⟩
            · split at hc
              · exact ⟨_, hc⟩
              · cases hc
      obtain ⟨t, hk⟩ := key
      obtain ⟨cell, h1, -⟩ := rdH_some hk
      exact (Array.getElem?_eq_some_iff.mp h1).1
