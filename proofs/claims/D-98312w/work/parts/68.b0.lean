set_option maxRecDepth 100000
/-! ===== PURE: rows for evaluation by simp (bind forms) ===== -/
theorem obP {α β : Type} {x : Option α} {v : α} (h : x = some v) (f : α → Option β) : x.bind f = f v := by rw [h]; rfl
theorem btP {α β : Type} {x : Option (α × TW)} {v : α} {s : TW} (h : x = some (v, s)) (f : α → TW → Option β) : bt_ x f = f v s := by rw [h]; rfl
theorem bnP {α β : Type} {x : Option (α × Hp)} {v : α} {s : Hp} (h : x = some (v, s)) (f : α → Hp → Option β) : bn x f = f v s := by rw [h]; rfl
theorem ltT {a b : Int} (h : a < b) : (a < b) = True := eq_true h
theorem ltF {a b : Int} (h : b ≤ a) : (a < b) = False := eq_false (by omega)
theorem leT {a b : Int} (h : a ≤ b) : (a ≤ b) = True := eq_true h
theorem leF {a b : Int} (h : b < a) : (a ≤ b) = False := eq_false (by omega)
theorem eqT {a b : Int} (h : a = b) : (a = b) = True := eq_true h
theorem eqF {a b : Int} (h : a < b ∨ b < a) : (a = b) = False := eq_false (by omega)
theorem swap0 {α : Type} (c : Prop) {_ : Decidable c} (x y : α) : (if ¬ c then x else y) = if c then y else x := by by_cases h : c <;> simp [h]
theorem tb1 {β : Type} {s : TW} {i : Int} (h0 : 0 ≤ i) (h1 : i < 2000) (f : Int → Option β) : (ta s 1 i).bind f = f (s.2 1 i) := obP (ta1 h0 h1) f
theorem sb1 {β : Type} {s : TW} {i v : Int} (h0 : 0 ≤ i) (h1 : i < 2000) (f : TW → Option β) : (ts s 1 i v).bind f = f (tst s 1 i v) := obP (ts1 h0 h1) f
theorem tb3 {β : Type} {s : TW} {i : Int} (h0 : 0 ≤ i) (h1 : i < 2000) (f : Int → Option β) : (ta s 3 i).bind f = f (s.2 3 i) := obP (ta3 h0 h1) f
theorem sb3 {β : Type} {s : TW} {i v : Int} (h0 : 0 ≤ i) (h1 : i < 2000) (f : TW → Option β) : (ts s 3 i v).bind f = f (tst s 3 i v) := obP (ts3 h0 h1) f
theorem tb5 {β : Type} {s : TW} {i : Int} (h0 : 0 ≤ i) (h1 : i < 403) (f : Int → Option β) : (ta s 5 i).bind f = f (s.2 5 i) := obP (ta5 h0 h1) f
theorem sb5 {β : Type} {s : TW} {i v : Int} (h0 : 0 ≤ i) (h1 : i < 403) (f : TW → Option β) : (ts s 5 i v).bind f = f (tst s 5 i v) := obP (ts5 h0 h1) f
theorem tb6 {β : Type} {s : TW} {i : Int} (h0 : 0 ≤ i) (h1 : i < 403) (f : Int → Option β) : (ta s 6 i).bind f = f (s.2 6 i) := obP (ta6 h0 h1) f
theorem sb6 {β : Type} {s : TW} {i v : Int} (h0 : 0 ≤ i) (h1 : i < 403) (f : TW → Option β) : (ts s 6 i v).bind f = f (tst s 6 i v) := obP (ts6 h0 h1) f
theorem tb7 {β : Type} {s : TW} {i : Int} (h0 : 0 ≤ i) (h1 : i < 403) (f : Int → Option β) : (ta s 7 i).bind f = f (s.2 7 i) := obP (ta7 h0 h1) f
theorem sb7 {β : Type} {s : TW} {i v : Int} (h0 : 0 ≤ i) (h1 : i < 403) (f : TW → Option β) : (ts s 7 i v).bind f = f (tst s 7 i v) := obP (ts7 h0 h1) f
theorem tb8 {β : Type} {s : TW} {i : Int} (h0 : 0 ≤ i) (h1 : i < 403) (f : Int → Option β) : (ta s 8 i).bind f = f (s.2 8 i) := obP (ta8 h0 h1) f
theorem sb8 {β : Type} {s : TW} {i v : Int} (h0 : 0 ≤ i) (h1 : i < 403) (f : TW → Option β) : (ts s 8 i v).bind f = f (tst s 8 i v) := obP (ts8 h0 h1) f
theorem tb9 {β : Type} {s : TW} {i : Int} (h0 : 0 ≤ i) (h1 : i < 17) (f : Int → Option β) : (ta s 9 i).bind f = f (s.2 9 i) := obP (ta9 h0 h1) f
theorem sb9 {β : Type} {s : TW} {i v : Int} (h0 : 0 ≤ i) (h1 : i < 17) (f : TW → Option β) : (ts s 9 i v).bind f = f (tst s 9 i v) := obP (ts9 h0 h1) f
theorem tb21 {β : Type} {s : TW} {i : Int} (h0 : 0 ≤ i) (h1 : i < 22) (f : Int → Option β) : (ta s 21 i).bind f = f (s.2 21 i) := obP (ta21 h0 h1) f
theorem sb21 {β : Type} {s : TW} {i v : Int} (h0 : 0 ≤ i) (h1 : i < 22) (f : TW → Option β) : (ts s 21 i v).bind f = f (tst s 21 i v) := obP (ts21 h0 h1) f
theorem tb22 {β : Type} {s : TW} {i : Int} (h0 : 0 ≤ i) (h1 : i < 22) (f : Int → Option β) : (ta s 22 i).bind f = f (s.2 22 i) := obP (ta22 h0 h1) f
theorem sb22 {β : Type} {s : TW} {i v : Int} (h0 : 0 ≤ i) (h1 : i < 22) (f : TW → Option β) : (ts s 22 i v).bind f = f (tst s 22 i v) := obP (ts22 h0 h1) f
theorem tb23 {β : Type} {s : TW} {i : Int} (h0 : 0 ≤ i) (h1 : i < 22) (f : Int → Option β) : (ta s 23 i).bind f = f (s.2 23 i) := obP (ta23 h0 h1) f
theorem sb23 {β : Type} {s : TW} {i v : Int} (h0 : 0 ≤ i) (h1 : i < 22) (f : TW → Option β) : (ts s 23 i v).bind f = f (tst s 23 i v) := obP (ts23 h0 h1) f
theorem tb24 {β : Type} {s : TW} {i : Int} (h0 : 0 ≤ i) (h1 : i < 2) (f : Int → Option β) : (ta s 24 i).bind f = f (s.2 24 i) := obP (ta24 h0 h1) f
theorem sb24 {β : Type} {s : TW} {i v : Int} (h0 : 0 ≤ i) (h1 : i < 2) (f : TW → Option β) : (ts s 24 i v).bind f = f (tst s 24 i v) := obP (ts24 h0 h1) f
theorem tb25 {β : Type} {s : TW} {i : Int} (h0 : 0 ≤ i) (h1 : i < 2) (f : Int → Option β) : (ta s 25 i).bind f = f (s.2 25 i) := obP (ta25 h0 h1) f
theorem sb25 {β : Type} {s : TW} {i v : Int} (h0 : 0 ≤ i) (h1 : i < 2) (f : TW → Option β) : (ts s 25 i v).bind f = f (tst s 25 i v) := obP (ts25 h0 h1) f
theorem tb26 {β : Type} {s : TW} {i : Int} (h0 : 0 ≤ i) (h1 : i < 24) (f : Int → Option β) : (ta s 26 i).bind f = f (s.2 26 i) := obP (ta26 h0 h1) f
theorem sb26 {β : Type} {s : TW} {i v : Int} (h0 : 0 ≤ i) (h1 : i < 24) (f : TW → Option β) : (ts s 26 i v).bind f = f (tst s 26 i v) := obP (ts26 h0 h1) f
theorem tb27 {β : Type} {s : TW} {i : Int} (h0 : 0 ≤ i) (h1 : i < 24) (f : Int → Option β) : (ta s 27 i).bind f = f (s.2 27 i) := obP (ta27 h0 h1) f
theorem sb27 {β : Type} {s : TW} {i v : Int} (h0 : 0 ≤ i) (h1 : i < 24) (f : TW → Option β) : (ts s 27 i v).bind f = f (tst s 27 i v) := obP (ts27 h0 h1) f
theorem tb28 {β : Type} {s : TW} {i : Int} (h0 : 0 ≤ i) (h1 : i < 2) (f : Int → Option β) : (ta s 28 i).bind f = f (s.2 28 i) := obP (ta28 h0 h1) f
theorem sb28 {β : Type} {s : TW} {i v : Int} (h0 : 0 ≤ i) (h1 : i < 2) (f : TW → Option β) : (ts s 28 i v).bind f = f (tst s 28 i v) := obP (ts28 h0 h1) f
theorem tb29 {β : Type} {s : TW} {i : Int} (h0 : 0 ≤ i) (h1 : i < 12) (f : Int → Option β) : (ta s 29 i).bind f = f (s.2 29 i) := obP (ta29 h0 h1) f
theorem sb29 {β : Type} {s : TW} {i v : Int} (h0 : 0 ≤ i) (h1 : i < 12) (f : TW → Option β) : (ts s 29 i v).bind f = f (tst s 29 i v) := obP (ts29 h0 h1) f
theorem tb30 {β : Type} {s : TW} {i : Int} (h0 : 0 ≤ i) (h1 : i < 12) (f : Int → Option β) : (ta s 30 i).bind f = f (s.2 30 i) := obP (ta30 h0 h1) f
theorem sb30 {β : Type} {s : TW} {i v : Int} (h0 : 0 ≤ i) (h1 : i < 12) (f : TW → Option β) : (ts s 30 i v).bind f = f (tst s 30 i v) := obP (ts30 h0 h1) f
theorem tb31 {β : Type} {s : TW} {i : Int} (h0 : 0 ≤ i) (h1 : i < 2) (f : Int → Option β) : (ta s 31 i).bind f = f (s.2 31 i) := obP (ta31 h0 h1) f
theorem sb31 {β : Type} {s : TW} {i v : Int} (h0 : 0 ≤ i) (h1 : i < 2) (f : TW → Option β) : (ts s 31 i v).bind f = f (tst s 31 i v) := obP (ts31 h0 h1) f
theorem tb32 {β : Type} {s : TW} {i : Int} (h0 : 0 ≤ i) (h1 : i < 16) (f : Int → Option β) : (ta s 32 i).bind f = f (s.2 32 i) := obP (ta32 h0 h1) f
theorem sb32 {β : Type} {s : TW} {i v : Int} (h0 : 0 ≤ i) (h1 : i < 16) (f : TW → Option β) : (ts s 32 i v).bind f = f (tst s 32 i v) := obP (ts32 h0 h1) f
theorem tb33 {β : Type} {s : TW} {i : Int} (h0 : 0 ≤ i) (h1 : i < 16) (f : Int → Option β) : (ta s 33 i).bind f = f (s.2 33 i) := obP (ta33 h0 h1) f
theorem sb33 {β : Type} {s : TW} {i v : Int} (h0 : 0 ≤ i) (h1 : i < 16) (f : TW → Option β) : (ts s 33 i v).bind f = f (tst s 33 i v) := obP (ts33 h0 h1) f
theorem tb34 {β : Type} {s : TW} {i : Int} (h0 : 0 ≤ i) (h1 : i < 2) (f : Int → Option β) : (ta s 34 i).bind f = f (s.2 34 i) := obP (ta34 h0 h1) f
theorem sb34 {β : Type} {s : TW} {i v : Int} (h0 : 0 ≤ i) (h1 : i < 2) (f : TW → Option β) : (ts s 34 i v).bind f = f (tst s 34 i v) := obP (ts34 h0 h1) f
theorem tb35 {β : Type} {s : TW} {i : Int} (h0 : 0 ≤ i) (h1 : i < 2) (f : Int → Option β) : (ta s 35 i).bind f = f (s.2 35 i) := obP (ta35 h0 h1) f
theorem sb35 {β : Type} {s : TW} {i v : Int} (h0 : 0 ≤ i) (h1 : i < 2) (f : TW → Option β) : (ts s 35 i v).bind f = f (tst s 35 i v) := obP (ts35 h0 h1) f
theorem tb36 {β : Type} {s : TW} {i : Int} (h0 : 0 ≤ i) (h1 : i < 14) (f : Int → Option β) : (ta s 36 i).bind f = f (s.2 36 i) := obP (ta36 h0 h1) f
theorem sb36 {β : Type} {s : TW} {i v : Int} (h0 : 0 ≤ i) (h1 : i < 14) (f : TW → Option β) : (ts s 36 i v).bind f = f (tst s 36 i v) := obP (ts36 h0 h1) f
theorem tb37 {β : Type} {s : TW} {i : Int} (h0 : 0 ≤ i) (h1 : i < 14) (f : Int → Option β) : (ta s 37 i).bind f = f (s.2 37 i) := obP (ta37 h0 h1) f
theorem sb37 {β : Type} {s : TW} {i v : Int} (h0 : 0 ≤ i) (h1 : i < 14) (f : TW → Option β) : (ts s 37 i v).bind f = f (tst s 37 i v) := obP (ts37 h0 h1) f
theorem tb39 {β : Type} {s : TW} {i : Int} (h0 : 0 ≤ i) (h1 : i < 260) (f : Int → Option β) : (ta s 39 i).bind f = f (s.2 39 i) := obP (ta39 h0 h1) f
theorem sb39 {β : Type} {s : TW} {i v : Int} (h0 : 0 ≤ i) (h1 : i < 260) (f : TW → Option β) : (ts s 39 i v).bind f = f (tst s 39 i v) := obP (ts39 h0 h1) f
theorem tb40 {β : Type} {s : TW} {i : Int} (h0 : 0 ≤ i) (h1 : i < 260) (f : Int → Option β) : (ta s 40 i).bind f = f (s.2 40 i) := obP (ta40 h0 h1) f
theorem sb40 {β : Type} {s : TW} {i v : Int} (h0 : 0 ≤ i) (h1 : i < 260) (f : TW → Option β) : (ts s 40 i v).bind f = f (tst s 40 i v) := obP (ts40 h0 h1) f
theorem tb41 {β : Type} {s : TW} {i : Int} (h0 : 0 ≤ i) (h1 : i < 260) (f : Int → Option β) : (ta s 41 i).bind f = f (s.2 41 i) := obP (ta41 h0 h1) f
theorem sb41 {β : Type} {s : TW} {i v : Int} (h0 : 0 ≤ i) (h1 : i < 260) (f : TW → Option β) : (ts s 41 i v).bind f = f (tst s 41 i v) := obP (ts41 h0 h1) f
theorem tb42 {β : Type} {s : TW} {i : Int} (h0 : 0 ≤ i) (h1 : i < 260) (f : Int → Option β) : (ta s 42 i).bind f = f (s.2 42 i) := obP (ta42 h0 h1) f
theorem sb42 {β : Type} {s : TW} {i v : Int} (h0 : 0 ≤ i) (h1 : i < 260) (f : TW → Option β) : (ts s 42 i v).bind f = f (tst s 42 i v) := obP (ts42 h0 h1) f
theorem tb43 {β : Type} {s : TW} {i : Int} (h0 : 0 ≤ i) (h1 : i < 260) (f : Int → Option β) : (ta s 43 i).bind f = f (s.2 43 i) := obP (ta43 h0 h1) f
theorem sb43 {β : Type} {s : TW} {i v : Int} (h0 : 0 ≤ i) (h1 : i < 260) (f : TW → Option β) : (ts s 43 i v).bind f = f (tst s 43 i v) := obP (ts43 h0 h1) f
theorem tb45 {β : Type} {s : TW} {i : Int} (h0 : 0 ≤ i) (h1 : i < 840) (f : Int → Option β) : (ta s 45 i).bind f = f (s.2 45 i) := obP (ta45 h0 h1) f
theorem sb45 {β : Type} {s : TW} {i v : Int} (h0 : 0 ≤ i) (h1 : i < 840) (f : TW → Option β) : (ts s 45 i v).bind f = f (tst s 45 i v) := obP (ts45 h0 h1) f
theorem tb46 {β : Type} {s : TW} {i : Int} (h0 : 0 ≤ i) (h1 : i < 840) (f : Int → Option β) : (ta s 46 i).bind f = f (s.2 46 i) := obP (ta46 h0 h1) f
theorem sb46 {β : Type} {s : TW} {i v : Int} (h0 : 0 ≤ i) (h1 : i < 840) (f : TW → Option β) : (ts s 46 i v).bind f = f (tst s 46 i v) := obP (ts46 h0 h1) f
theorem tb47 {β : Type} {s : TW} {i : Int} (h0 : 0 ≤ i) (h1 : i < 64) (f : Int → Option β) : (ta s 47 i).bind f = f (s.2 47 i) := obP (ta47 h0 h1) f
theorem sb47 {β : Type} {s : TW} {i v : Int} (h0 : 0 ≤ i) (h1 : i < 64) (f : TW → Option β) : (ts s 47 i v).bind f = f (tst s 47 i v) := obP (ts47 h0 h1) f
theorem tb49 {β : Type} {s : TW} {i : Int} (h0 : 0 ≤ i) (h1 : i < 6) (f : Int → Option β) : (ta s 49 i).bind f = f (s.2 49 i) := obP (ta49 h0 h1) f
theorem sb49 {β : Type} {s : TW} {i v : Int} (h0 : 0 ≤ i) (h1 : i < 6) (f : TW → Option β) : (ts s 49 i v).bind f = f (tst s 49 i v) := obP (ts49 h0 h1) f
theorem tb50 {β : Type} {s : TW} {i : Int} (h0 : 0 ≤ i) (h1 : i < 400) (f : Int → Option β) : (ta s 50 i).bind f = f (s.2 50 i) := obP (ta50 h0 h1) f
theorem sb50 {β : Type} {s : TW} {i v : Int} (h0 : 0 ≤ i) (h1 : i < 400) (f : TW → Option β) : (ts s 50 i v).bind f = f (tst s 50 i v) := obP (ts50 h0 h1) f
theorem tb52 {β : Type} {s : TW} {i : Int} (h0 : 0 ≤ i) (h1 : i < 10800) (f : Int → Option β) : (ta s 52 i).bind f = f (s.2 52 i) := obP (ta52 h0 h1) f
theorem sb52 {β : Type} {s : TW} {i v : Int} (h0 : 0 ≤ i) (h1 : i < 10800) (f : TW → Option β) : (ts s 52 i v).bind f = f (tst s 52 i v) := obP (ts52 h0 h1) f
theorem tb54 {β : Type} {s : TW} {i : Int} (h0 : 0 ≤ i) (h1 : i < 8) (f : Int → Option β) : (ta s 54 i).bind f = f (s.2 54 i) := obP (ta54 h0 h1) f
theorem sb54 {β : Type} {s : TW} {i v : Int} (h0 : 0 ≤ i) (h1 : i < 8) (f : TW → Option β) : (ts s 54 i v).bind f = f (tst s 54 i v) := obP (ts54 h0 h1) f
theorem tb55 {β : Type} {s : TW} {i : Int} (h0 : 0 ≤ i) (h1 : i < 8) (f : Int → Option β) : (ta s 55 i).bind f = f (s.2 55 i) := obP (ta55 h0 h1) f
theorem sb55 {β : Type} {s : TW} {i v : Int} (h0 : 0 ≤ i) (h1 : i < 8) (f : TW → Option β) : (ts s 55 i v).bind f = f (tst s 55 i v) := obP (ts55 h0 h1) f
theorem tb56 {β : Type} {s : TW} {i : Int} (h0 : 0 ≤ i) (h1 : i < 10800) (f : Int → Option β) : (ta s 56 i).bind f = f (s.2 56 i) := obP (ta56 h0 h1) f
theorem sb56 {β : Type} {s : TW} {i v : Int} (h0 : 0 ≤ i) (h1 : i < 10800) (f : TW → Option β) : (ts s 56 i v).bind f = f (tst s 56 i v) := obP (ts56 h0 h1) f
theorem tb58 {β : Type} {s : TW} {i : Int} (h0 : 0 ≤ i) (h1 : i < 8) (f : Int → Option β) : (ta s 58 i).bind f = f (s.2 58 i) := obP (ta58 h0 h1) f
theorem sb58 {β : Type} {s : TW} {i v : Int} (h0 : 0 ≤ i) (h1 : i < 8) (f : TW → Option β) : (ts s 58 i v).bind f = f (tst s 58 i v) := obP (ts58 h0 h1) f
theorem tb59 {β : Type} {s : TW} {i : Int} (h0 : 0 ≤ i) (h1 : i < 8) (f : Int → Option β) : (ta s 59 i).bind f = f (s.2 59 i) := obP (ta59 h0 h1) f
theorem sb59 {β : Type} {s : TW} {i v : Int} (h0 : 0 ≤ i) (h1 : i < 8) (f : TW → Option β) : (ts s 59 i v).bind f = f (tst s 59 i v) := obP (ts59 h0 h1) f
theorem tb62 {β : Type} {s : TW} {i : Int} (h0 : 0 ≤ i) (h1 : i < 1060) (f : Int → Option β) : (ta s 62 i).bind f = f (s.2 62 i) := obP (ta62 h0 h1) f
theorem sb62 {β : Type} {s : TW} {i v : Int} (h0 : 0 ≤ i) (h1 : i < 1060) (f : TW → Option β) : (ts s 62 i v).bind f = f (tst s 62 i v) := obP (ts62 h0 h1) f
theorem tb63 {β : Type} {s : TW} {i : Int} (h0 : 0 ≤ i) (h1 : i < 2400) (f : Int → Option β) : (ta s 63 i).bind f = f (s.2 63 i) := obP (ta63 h0 h1) f
theorem sb63 {β : Type} {s : TW} {i v : Int} (h0 : 0 ≤ i) (h1 : i < 2400) (f : TW → Option β) : (ts s 63 i v).bind f = f (tst s 63 i v) := obP (ts63 h0 h1) f
theorem tb64 {β : Type} {s : TW} {i : Int} (h0 : 0 ≤ i) (h1 : i < 2400) (f : Int → Option β) : (ta s 64 i).bind f = f (s.2 64 i) := obP (ta64 h0 h1) f
theorem sb64 {β : Type} {s : TW} {i v : Int} (h0 : 0 ≤ i) (h1 : i < 2400) (f : TW → Option β) : (ts s 64 i v).bind f = f (tst s 64 i v) := obP (ts64 h0 h1) f
theorem tb65 {β : Type} {s : TW} {i : Int} (h0 : 0 ≤ i) (h1 : i < 300) (f : Int → Option β) : (ta s 65 i).bind f = f (s.2 65 i) := obP (ta65 h0 h1) f
theorem sb65 {β : Type} {s : TW} {i v : Int} (h0 : 0 ≤ i) (h1 : i < 300) (f : TW → Option β) : (ts s 65 i v).bind f = f (tst s 65 i v) := obP (ts65 h0 h1) f
theorem tb66 {β : Type} {s : TW} {i : Int} (h0 : 0 ≤ i) (h1 : i < 8) (f : Int → Option β) : (ta s 66 i).bind f = f (s.2 66 i) := obP (ta66 h0 h1) f
theorem sb66 {β : Type} {s : TW} {i v : Int} (h0 : 0 ≤ i) (h1 : i < 8) (f : TW → Option β) : (ts s 66 i v).bind f = f (tst s 66 i v) := obP (ts66 h0 h1) f
theorem tb68 {β : Type} {s : TW} {i : Int} (h0 : 0 ≤ i) (h1 : i < 20) (f : Int → Option β) : (ta s 68 i).bind f = f (s.2 68 i) := obP (ta68 h0 h1) f
theorem sb68 {β : Type} {s : TW} {i v : Int} (h0 : 0 ≤ i) (h1 : i < 20) (f : TW → Option β) : (ts s 68 i v).bind f = f (tst s 68 i v) := obP (ts68 h0 h1) f
theorem tb69 {β : Type} {s : TW} {i : Int} (h0 : 0 ≤ i) (h1 : i < 20) (f : Int → Option β) : (ta s 69 i).bind f = f (s.2 69 i) := obP (ta69 h0 h1) f
theorem sb69 {β : Type} {s : TW} {i v : Int} (h0 : 0 ≤ i) (h1 : i < 20) (f : TW → Option β) : (ts s 69 i v).bind f = f (tst s 69 i v) := obP (ts69 h0 h1) f
theorem tb70 {β : Type} {s : TW} {i : Int} (h0 : 0 ≤ i) (h1 : i < 20) (f : Int → Option β) : (ta s 70 i).bind f = f (s.2 70 i) := obP (ta70 h0 h1) f
theorem sb70 {β : Type} {s : TW} {i v : Int} (h0 : 0 ≤ i) (h1 : i < 20) (f : TW → Option β) : (ts s 70 i v).bind f = f (tst s 70 i v) := obP (ts70 h0 h1) f
theorem tb71 {β : Type} {s : TW} {i : Int} (h0 : 0 ≤ i) (h1 : i < 20) (f : Int → Option β) : (ta s 71 i).bind f = f (s.2 71 i) := obP (ta71 h0 h1) f
theorem sb71 {β : Type} {s : TW} {i v : Int} (h0 : 0 ≤ i) (h1 : i < 20) (f : TW → Option β) : (ts s 71 i v).bind f = f (tst s 71 i v) := obP (ts71 h0 h1) f
theorem tb72 {β : Type} {s : TW} {i : Int} (h0 : 0 ≤ i) (h1 : i < 3) (f : Int → Option β) : (ta s 72 i).bind f = f (s.2 72 i) := obP (ta72 h0 h1) f
theorem sb72 {β : Type} {s : TW} {i v : Int} (h0 : 0 ≤ i) (h1 : i < 3) (f : TW → Option β) : (ts s 72 i v).bind f = f (tst s 72 i v) := obP (ts72 h0 h1) f
theorem tb73 {β : Type} {s : TW} {i : Int} (h0 : 0 ≤ i) (h1 : i < 32400) (f : Int → Option β) : (ta s 73 i).bind f = f (s.2 73 i) := obP (ta73 h0 h1) f
theorem sb73 {β : Type} {s : TW} {i v : Int} (h0 : 0 ≤ i) (h1 : i < 32400) (f : TW → Option β) : (ts s 73 i v).bind f = f (tst s 73 i v) := obP (ts73 h0 h1) f
theorem tb74 {β : Type} {s : TW} {i : Int} (h0 : 0 ≤ i) (h1 : i < 51) (f : Int → Option β) : (ta s 74 i).bind f = f (s.2 74 i) := obP (ta74 h0 h1) f
theorem sb74 {β : Type} {s : TW} {i v : Int} (h0 : 0 ≤ i) (h1 : i < 51) (f : TW → Option β) : (ts s 74 i v).bind f = f (tst s 74 i v) := obP (ts74 h0 h1) f
section
variable {σ : Hp} {a : Nat}
theorem c_ob {β : Type} (h : Csh σ a) (f : Nat → Option β) : (rcv σ 5 (some a)).bind f = f (a) := obP (c_o h ) f
theorem c_gb {β : Type} (h : Csh σ a) (k : Int) (f : Int → Option β) : (gI σ 5 (some a) k).bind f = f ((ci σ a k)) := obP (c_g h k) f
theorem c_pb {β : Type} (h : Csh σ a) (k v : Int) (f : Hp → Option β) : (pI σ 5 (some a) k v).bind f = f ((wr σ a k v)) := obP (c_p h k v) f
theorem c_g0b {β : Type} (h : Csh σ a) (f : Option Nat → Option β) : (gR σ 5 (some a) 0).bind f = f ((some (a + 1))) := obP (c_g0 h ) f
theorem c_g1b {β : Type} (h : Csh σ a) (f : Option Nat → Option β) : (gR σ 5 (some a) 1).bind f = f ((some (a + 8))) := obP (c_g1 h ) f
theorem c_g2b {β : Type} (h : Csh σ a) (f : Option Nat → Option β) : (gR σ 5 (some a) 2).bind f = f ((some (a + 15))) := obP (c_g2 h ) f
theorem c_g3b {β : Type} (h : Csh σ a) (f : Option Nat → Option β) : (gR σ 5 (some a) 3).bind f = f ((some (a + 24))) := obP (c_g3 h ) f
theorem c_g4b {β : Type} (h : Csh σ a) (f : Option Nat → Option β) : (gR σ 5 (some a) 4).bind f = f ((some (a + 33))) := obP (c_g4 h ) f
theorem c_g5b {β : Type} (h : Csh σ a) (f : Option Nat → Option β) : (gR σ 5 (some a) 5).bind f = f ((some (a + 42))) := obP (c_g5 h ) f
theorem c_g6b {β : Type} (h : Csh σ a) (f : Option Nat → Option β) : (gR σ 5 (some a) 6).bind f = f ((some (a + 43))) := obP (c_g6 h ) f
theorem c_g7b {β : Type} (h : Csh σ a) (f : Option Nat → Option β) : (gR σ 5 (some a) 7).bind f = f ((some (a + 44))) := obP (c_g7 h ) f
theorem c_g8b {β : Type} (h : Csh σ a) (f : Option Nat → Option β) : (gR σ 5 (some a) 8).bind f = f ((some (a + 45))) := obP (c_g8 h ) f
theorem c_r0b {β : Type} (h : Csh σ a) {m : Int} (h0 : 0 ≤ m) (h1 : m < 6) (f : Option Nat → Option β) : (aR σ 105 (some (a + 1)) m).bind f = f ((some (a + 2 + m.toNat))) := obP (c_r0 h h0 h1) f
theorem c_r1b {β : Type} (h : Csh σ a) {m : Int} (h0 : 0 ≤ m) (h1 : m < 6) (f : Option Nat → Option β) : (aR σ 105 (some (a + 8)) m).bind f = f ((some (a + 9 + m.toNat))) := obP (c_r1 h h0 h1) f
theorem c_r2b {β : Type} (h : Csh σ a) {m : Int} (h0 : 0 ≤ m) (h1 : m < 8) (f : Option Nat → Option β) : (aR σ 105 (some (a + 15)) m).bind f = f ((some (a + 16 + m.toNat))) := obP (c_r2 h h0 h1) f
theorem c_r3b {β : Type} (h : Csh σ a) {m : Int} (h0 : 0 ≤ m) (h1 : m < 8) (f : Option Nat → Option β) : (aR σ 106 (some (a + 24)) m).bind f = f ((some (a + 25 + m.toNat))) := obP (c_r3 h h0 h1) f
theorem c_r4b {β : Type} (h : Csh σ a) {m : Int} (h0 : 0 ≤ m) (h1 : m < 8) (f : Option Nat → Option β) : (aR σ 107 (some (a + 33)) m).bind f = f ((some (a + 34 + m.toNat))) := obP (c_r4 h h0 h1) f
theorem c_a0b {β : Type} (h : Csh σ a) {m t : Int} (h0 : 0 ≤ m) (h1 : m < 6) (t0 : 0 ≤ t) (t1 : t < 300) (f : Int → Option β) : (aI σ 101 (some (a + 2 + m.toNat)) t).bind f = f ((ci σ (a + 2 + m.toNat) t)) := obP (c_a0 h h0 h1 t0 t1) f
theorem c_a1b {β : Type} (h : Csh σ a) {m t : Int} (h0 : 0 ≤ m) (h1 : m < 6) (t0 : 0 ≤ t) (t1 : t < 300) (f : Int → Option β) : (aI σ 101 (some (a + 9 + m.toNat)) t).bind f = f ((ci σ (a + 9 + m.toNat) t)) := obP (c_a1 h h0 h1 t0 t1) f
theorem c_a2b {β : Type} (h : Csh σ a) {m t : Int} (h0 : 0 ≤ m) (h1 : m < 8) (t0 : 0 ≤ t) (t1 : t < 300) (f : Int → Option β) : (aI σ 101 (some (a + 16 + m.toNat)) t).bind f = f ((ci σ (a + 16 + m.toNat) t)) := obP (c_a2 h h0 h1 t0 t1) f
theorem c_a3b {β : Type} (h : Csh σ a) {m t : Int} (h0 : 0 ≤ m) (h1 : m < 8) (t0 : 0 ≤ t) (t1 : t < 300) (f : Int → Option β) : (aI σ 102 (some (a + 25 + m.toNat)) t).bind f = f ((ci σ (a + 25 + m.toNat) t)) := obP (c_a3 h h0 h1 t0 t1) f
theorem c_a4b {β : Type} (h : Csh σ a) {m t : Int} (h0 : 0 ≤ m) (h1 : m < 8) (t0 : 0 ≤ t) (t1 : t < 300) (f : Int → Option β) : (aI σ 103 (some (a + 34 + m.toNat)) t).bind f = f ((ci σ (a + 34 + m.toNat) t)) := obP (c_a4 h h0 h1 t0 t1) f
theorem c_s0b {β : Type} (h : Csh σ a) {m t : Int} (v : Int) (h0 : 0 ≤ m) (h1 : m < 6) (t0 : 0 ≤ t) (t1 : t < 300) (f : Hp → Option β) : (sI σ 101 (some (a + 2 + m.toNat)) t v).bind f = f ((wr σ (a + 2 + m.toNat) t v)) := obP (c_s0 h v h0 h1 t0 t1) f
theorem c_s1b {β : Type} (h : Csh σ a) {m t : Int} (v : Int) (h0 : 0 ≤ m) (h1 : m < 6) (t0 : 0 ≤ t) (t1 : t < 300) (f : Hp → Option β) : (sI σ 101 (some (a + 9 + m.toNat)) t v).bind f = f ((wr σ (a + 9 + m.toNat) t v)) := obP (c_s1 h v h0 h1 t0 t1) f
theorem c_s2b {β : Type} (h : Csh σ a) {m t : Int} (v : Int) (h0 : 0 ≤ m) (h1 : m < 8) (t0 : 0 ≤ t) (t1 : t < 300) (f : Hp → Option β) : (sI σ 101 (some (a + 16 + m.toNat)) t v).bind f = f ((wr σ (a + 16 + m.toNat) t v)) := obP (c_s2 h v h0 h1 t0 t1) f
theorem c_s3b {β : Type} (h : Csh σ a) {m t : Int} (v : Int) (h0 : 0 ≤ m) (h1 : m < 8) (t0 : 0 ≤ t) (t1 : t < 300) (f : Hp → Option β) : (sI σ 102 (some (a + 25 + m.toNat)) t v).bind f = f ((wr σ (a + 25 + m.toNat) t v)) := obP (c_s3 h v h0 h1 t0 t1) f
theorem c_s4b {β : Type} (h : Csh σ a) {m t : Int} (v : Int) (h0 : 0 ≤ m) (h1 : m < 8) (t0 : 0 ≤ t) (t1 : t < 300) (f : Hp → Option β) : (sI σ 103 (some (a + 34 + m.toNat)) t v).bind f = f ((wr σ (a + 34 + m.toNat) t v)) := obP (c_s4 h v h0 h1 t0 t1) f
theorem c_bb {β : Type} (h : Csh σ a) {m : Int} (h0 : 0 ≤ m) (h1 : m < 8) (f : Int → Option β) : (aI σ 100 (some (a + 42)) m).bind f = f ((ci σ (a + 42) m)) := obP (c_b h h0 h1) f
theorem c_fb {β : Type} (h : Csh σ a) {m : Int} (h0 : 0 ≤ m) (h1 : m < 8) (f : Int → Option β) : (aI σ 100 (some (a + 43)) m).bind f = f ((ci σ (a + 43) m)) := obP (c_f h h0 h1) f
theorem c_tob {β : Type} (h : Csh σ a) {m : Int} (h0 : 0 ≤ m) (h1 : m < 6) (f : Int → Option β) : (aI σ 100 (some (a + 44)) m).bind f = f ((ci σ (a + 44) m)) := obP (c_to h h0 h1) f
theorem c_sbb {β : Type} (h : Csh σ a) {m : Int} (v : Int) (h0 : 0 ≤ m) (h1 : m < 8) (f : Hp → Option β) : (sI σ 100 (some (a + 42)) m v).bind f = f ((wr σ (a + 42) m v)) := obP (c_sb h v h0 h1) f
theorem c_sfb {β : Type} (h : Csh σ a) {m : Int} (v : Int) (h0 : 0 ≤ m) (h1 : m < 8) (f : Hp → Option β) : (sI σ 100 (some (a + 43)) m v).bind f = f ((wr σ (a + 43) m v)) := obP (c_sf h v h0 h1) f
theorem c_stob {β : Type} (h : Csh σ a) {m : Int} (v : Int) (h0 : 0 ≤ m) (h1 : m < 6) (f : Hp → Option β) : (sI σ 100 (some (a + 44)) m v).bind f = f ((wr σ (a + 44) m v)) := obP (c_sto h v h0 h1) f
theorem c_asb {β : Type} (h : Csh σ a) (f : Option Nat → Option β) : (gR σ 6 (some (a + 45)) 0).bind f = f ((some (a + 46))) := obP (c_as h ) f
theorem c_svb {β : Type} (h : Csh σ a) {m : Int} (v : Int) (h0 : 0 ≤ m) (h1 : m < 6) (f : Hp → Option β) : (sI σ 100 (some (a + 46)) m v).bind f = f ((wr σ (a + 46) m v)) := obP (c_sv h v h0 h1) f
end
section
variable {σ : Hp} {a t : Nat} {n : Int} {g : Int → Option Nat} {β : Type}
theorem gI_b (h : shp σ a = some (t, n, g)) (k : Int) (f : Int → Option β) : (gI σ t (some a) k).bind f = f (ci σ a k) := obP (gI_s h k) f
theorem gR_b (h : shp σ a = some (t, n, g)) (k : Int) (f : Option Nat → Option β) : (gR σ t (some a) k).bind f = f (g k) := obP (gR_s h k) f
theorem rcv_b (h : shp σ a = some (t, n, g)) (f : Nat → Option β) : (rcv σ t (some a)).bind f = f a := obP (rcv_s h) f
theorem aL_b (h : shp σ a = some (t, n, g)) (f : Int → Option β) : (aL σ t (some a)).bind f = f n := obP (aL_s h) f
theorem aI_b (h : shp σ a = some (t, n, g)) {i : Int} (h0 : 0 ≤ i) (h1 : i < n) (h2 : i ≤ 2147483647) (f : Int → Option β) : (aI σ t (some a) i).bind f = f (ci σ a i) := obP (aI_s h h0 h1 h2) f
theorem aR_b (h : shp σ a = some (t, n, g)) {i : Int} (h0 : 0 ≤ i) (h1 : i < n) (h2 : i ≤ 2147483647) (f : Option Nat → Option β) : (aR σ t (some a) i).bind f = f (g i) := obP (aR_s h h0 h1 h2) f
theorem pI_b (h : shp σ a = some (t, n, g)) (k v : Int) (f : Hp → Option β) : (pI σ t (some a) k v).bind f = f (wr σ a k v) := obP (pI_s h k v) f
theorem sI_b (h : shp σ a = some (t, n, g)) {i : Int} (v : Int) (h0 : 0 ≤ i) (h1 : i < n) (h2 : i ≤ 2147483647) (f : Hp → Option β) : (sI σ t (some a) i v).bind f = f (wr σ a i v) := obP (sI_s h v h0 h1 h2) f
theorem kst_1 (h : shp σ a = some (t, n, g)) (f : Option Nat → Option β) : (kst σ [t] (some a)).bind f = f (some a) := obP (kst_s h (List.mem_singleton.mpr rfl)) f
theorem kst_b (h : shp σ a = some (t, n, g)) {ts : List Nat} (ht : t ∈ ts) (f : Option Nat → Option β) : (kst σ ts (some a)).bind f = f (some a) := obP (kst_s h ht) f
end
section
variable {σ : Hp} {a : Nat} {n : Int} {el : Int → Nat} {β : Type}
theorem l_sizeb (h : LstAt σ a n el) (f : Int → Hp → Option β) : bn (f_J5_size σ a) f = f n σ := bnP (l_size h) f
theorem l_rcvb (h : LstAt σ a n el) (f : Nat → Option β) : (rcv σ 18 (some a)).bind f = f a := obP (l_rcv h) f
theorem l_getb (h : LstAt σ a n el) {i : Int} (i0 : 0 ≤ i) (i1 : i < n) (f : Option Nat → Hp → Option β) : bn (f_J5_get σ a i) f = f (some (el i)) σ := bnP (l_get h i0 i1) f
end
