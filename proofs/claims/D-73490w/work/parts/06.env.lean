/-! THE WORLD ROUND THE WALKS: the classes by number, what the start gives and every method hands on -/
set_option maxRecDepth 100000
/-- the classes, by tag - 1 -/
def clT : List vw_C := [(RX1, TX1, 16), (RX2, TX2, 6), (RX3, TX3, 7), (RX4, TX4, 14), (RX5, TX5, 3), (RX6, TX6, 58), (RX8, TX8, 10), (RX9, TX9, 8), (RX10, TX10, 4), (RX11, TX11, 2), (RX13, TX13, 3), (RX14, TX14, 2), (RX15, TX15, 2), (RX16, TX16, 1), (RX17, TX17, 11), (RX18, TX18, 12), (RX20, TX20, 1), (RX21, TX21, 1), (RX22, TX22, 1), (RX23, TX23, 3), (RX24, TX24, 3), (RJ10, TJ10, 12), (RJ11, TJ11, 4), (RJ15, TJ15, 6), (RJ2, TJ2, 3), (RJ21, TJ21, 2), (RJ26, TJ26, 5), (RJ27, TJ27, 4), (RJ33, TJ33, 4), (RJ34, TJ34, 4), (RJ35, TJ35, 6), (RJ36, TJ36, 11), (RJ4, TJ4, 8), (RJ6, TJ6, 1), (RJ9, TJ9, 1)]
/-- their fields: 0 an int, 1 a reference, 2 a long, 3 a float -/
def ftT : List (List Nat) := [[1, 0, 0, 1, 1, 1, 1, 1, 1, 1, 0, 0, 0, 1, 1, 1], [0, 0, 1, 1, 1, 1], [1, 1, 1, 1, 1, 1, 0], [1, 0, 0, 0, 0, 0, 0, 0, 1, 1, 1, 1, 0, 0], [1, 1, 1], [0, 1, 0, 0, 0, 0, 1, 1, 1, 1, 1, 1, 0, 0, 0, 0, 0, 0, 2, 0, 0, 1, 1, 1, 1, 1, 0, 0, 0, 0, 0, 0, 0, 0, 0, 1, 1, 1, 0, 0, 0, 0, 1, 0, 0, 0, 1, 0, 1, 0, 0, 0, 0, 0, 1, 1, 1, 1], [1, 0, 0, 0, 1, 0, 0, 0, 0, 1], [1, 1, 1, 1, 1, 0, 0, 0], [0, 0, 0, 0], [0, 0], [0, 0, 0], [0, 1], [0, 0], [0], [1, 0, 0, 0, 1, 0, 0, 0, 0, 1, 1], [1, 0, 0, 0, 1, 0, 0, 0, 0, 1, 0, 0], [1], [0], [0], [0, 0, 0], [1, 1, 0], [1, 1, 1, 1, 0, 0, 0, 3, 1, 1, 0, 0], [0, 0, 0, 1], [1, 1, 1, 1, 1, 0], [0, 1, 0], [0, 1], [1, 1, 0, 0, 1], [1, 0, 0, 0], [1, 0, 0, 0], [0, 1, 1, 1], [0, 1, 1, 1, 1, 1], [0, 1, 1, 1, 1, 1, 1, 1, 1, 1, 0], [1, 1, 1, 1, 0, 0, 0, 3], [1], [0]]
def ftN (t : Nat) : List Nat := ftT.getD (t - 1) []
/-- a pure cell: its tag (a class's number, or 200 + the kind of an array; from 500 on: the same, never written), length, ints, references, longs -/
abbrev PC : Type := Nat × Nat × (Nat → Int32) × (Nat → Nat) × (Nat → Int64)
/-- a pure heap: the next number, what it may have cost, the cells by number (0: null) -/
abbrev Hp : Type := Nat × Nat × (Nat → PC)
/-- the classes' numbers in the machine, their fields' slots, nothing yet, the constants' addresses, where new cells begin, the slots at the start -/
abbrev Gx : Type := (Nat → ClassId) × (Nat → Nat → Nat) × Nat × (Nat → Nat) × Nat × Nat
abbrev gB (G : Gx) : Nat := G.2.2.2.2.1
abbrev gT (G : Gx) : Nat := G.2.2.2.2.2
abbrev gC (G : Gx) : Nat → Nat := G.2.2.2.1
/-- what may be written: what is new since the law's start -/
def gA (G : Gx) : Nat → Prop := fun q => gB G ≤ q
/-- a reference by its number (0: null) -/
abbrev vr (r : Nat) : Value := .ref r
def rfo (mp : Nat → Nat) (r : Nat) : Option Nat := if r = 0 then none else some (mp r)
def rfv (mp : Nat → Nat) (r : Nat) : Value := va_rf (rfo mp r)
/-- a value as the machine has it -/
def rv (mp : Nat → Nat) (v : Value) : Value := match v with
  | .ref i => rfv mp i
  | v => v
theorem rv_int (mp : Nat → Nat) (x : Int32) : rv mp (.int x) = .int x := rfl
theorem rv_vr (mp : Nat → Nat) (r : Nat) : rv mp (vr r) = rfv mp r := rfl
theorem rv_cat (mp : Nat → Nat) (v : Value) : (rv mp v).category = v.category := by
  cases v <;> first | rfl | skip
  rename_i i
  show (rfv mp i).category = 1
  unfold rfv rfo
  split <;> rfl
theorem rfv_0 (mp : Nat → Nat) : rfv mp 0 = .null := rfl
theorem rfv_p (mp : Nat → Nat) {r : Nat} (h : r ≠ 0) : rfv mp r = .ref (mp r) := by
  unfold rfv rfo
  rw [if_neg h]
  rfl
/-- the slots of a heap, all told -/
def totS (H : Heap) : Nat := H.foldl (fun n c => n + c.slots.size) 0
/-- the components' types of the kinds of arrays -/
def tyA (k : Nat) : FieldType := match k with
  | 0 => .int
  | 1 => .byte
  | 2 => .boolean
  | 3 => .long
  | 4 => .char
  | 5 => .object "java/lang/Object"
  | 6 => .object "java/util/HashMap$Node"
  | 7 => .object "FinalLinks$Tree"
  | 8 => .object "FinalLinks$Kept"
  | _ => .object "java/lang/Integer"
/-- what a field holds -/
def fval (mp : Nat → Nat) (c : PC) (kd k : Nat) : Value := match kd with
  | 0 => .int (c.2.2.1 k)
  | 1 => rfv mp (c.2.2.2.1 k)
  | 2 => .long (c.2.2.2.2 k)
  | _ => .float (c.2.2.1 k).toUInt32
/-- what an array's place holds -/
def aval (mp : Nat → Nat) (c : PC) (kd j : Nat) : Value := if kd = 3 then .long (c.2.2.2.2 j) else if kd < 5 then .int (c.2.2.1 j) else rfv mp (c.2.2.2.1 j)
/-- an array's class: its component's class is that of the name -/
def aCl (U : State) (cell : Cell) (ty : FieldType) : Prop := ∀ C : String, ty = .object C → ∃ (kA : Class) (comp : ClassId), U.vm.classes[cell.cls]? = some kA ∧ kA.kind = .array comp (.object C) ∧ U.vm.findClass C = some comp ∧ U.vm.findClass ("[" ++ (FieldType.object C).toString) = some cell.cls
/-- the machine's heap has the cell at q -/
def AtC (G : Gx) (mp : Nat → Nat) (c : PC) (q : Nat) (U : State) (H : Heap) : Prop := ∃ cell : Cell, H[q]? = some cell ∧ cell.vm ≠ .unknown ∧ cell.vm.isStatics = false ∧ (c.1 < 500 → cell.vm = .none) ∧
  (c.1 % 500 < 200 → cell.cls = G.1 (c.1 % 500 - 1) ∧ ∀ k kd, (ftN (c.1 % 500))[k]? = some kd → cell.slots[G.2.1 (c.1 % 500 - 1) k]? = some (fval mp c kd k)) ∧
  (200 ≤ c.1 % 500 → U.isArrayOf cell (tyA (c.1 % 500 - 200)) ∧ cell.slots.size = c.2.1 ∧ c.2.1 < 2 ^ 31 ∧ (∀ j, j < c.2.1 → cell.slots[j]? = some (aval mp c (c.1 % 500 - 200) j)) ∧ (c.1 < 500 → aCl U cell (tyA (c.1 % 500 - 200))))
theorem AtC.kept {G : Gx} {mp : Nat → Nat} {c : PC} {q : Nat} {U : State} {H H1 : Heap} (h : AtC G mp c q U H) (hq : H1[q]? = H[q]?) : AtC G mp c q U H1 := by
  obtain ⟨cell, h1, h2⟩ := h
  exact ⟨cell, by rw [hq]; exact h1, h2⟩
theorem aCl.moved {u U : State} {cell : Cell} {ty : FieldType} (hvm : u.vm.Alike U.vm) (h : aCl u cell ty) : aCl U cell ty := by
  intro C hC
  obtain ⟨kA, comp, h1, h2, h3, h4⟩ := h C hC
  obtain ⟨k', hk', he⟩ := hvm.2.2 _ _ h1
  exact ⟨k', comp, hk', by rw [he]; exact h2, by rw [hvm.findClass]; exact h3, by rw [hvm.findClass]; exact h4⟩
theorem AtC.moved {G : Gx} {mp : Nat → Nat} {c : PC} {q : Nat} {u U : State} {H : Heap} (hvm : u.vm.Alike U.vm) (h : AtC G mp c q u H) : AtC G mp c q U H := by
  obtain ⟨cell, h1, h2, h3, h4, h5, h6⟩ := h
  exact ⟨cell, h1, h2, h3, h4, h5, fun hk => ⟨State.isArrayOf_alike hvm (h6 hk).1, (h6 hk).2.1, (h6 hk).2.2.1, (h6 hk).2.2.2.1, fun hc => ((h6 hk).2.2.2.2 hc).moved hvm⟩⟩
theorem AtC.lt {G : Gx} {mp : Nat → Nat} {c : PC} {q : Nat} {U : State} {H : Heap} (h : AtC G mp c q U H) : q < H.size := by
  obtain ⟨cell, h1, -⟩ := h
  exact (Array.getElem?_eq_some_iff.mp h1).1
theorem fval_xt {mp mp' : Nat → Nat} {c : PC} {kd k : Nat} (h : ∀ k, c.2.2.2.1 k ≠ 0 → mp' (c.2.2.2.1 k) = mp (c.2.2.2.1 k)) : fval mp' c kd k = fval mp c kd k := by
  unfold fval
  split <;> first | rfl | skip
  unfold rfv rfo
  by_cases h0 : c.2.2.2.1 k = 0
  · rw [if_pos h0, if_pos h0]
  · rw [if_neg h0, if_neg h0, h k h0]
theorem aval_xt {mp mp' : Nat → Nat} {c : PC} {kd k : Nat} (h : ∀ k, c.2.2.2.1 k ≠ 0 → mp' (c.2.2.2.1 k) = mp (c.2.2.2.1 k)) : aval mp' c kd k = aval mp c kd k := by
  unfold aval
  split
  · rfl
  · split
    · rfl
    · unfold rfv rfo
      by_cases h0 : c.2.2.2.1 k = 0
      · rw [if_pos h0, if_pos h0]
      · rw [if_neg h0, if_neg h0, h k h0]
theorem AtC.xt {G : Gx} {mp mp' : Nat → Nat} {c : PC} {q : Nat} {U : State} {H : Heap} (hx : ∀ k, c.2.2.2.1 k ≠ 0 → mp' (c.2.2.2.1 k) = mp (c.2.2.2.1 k)) (h : AtC G mp c q U H) : AtC G mp' c q U H := by
  obtain ⟨cell, h1, h2, h3, h4, h5, h6⟩ := h
  exact ⟨cell, h1, h2, h3, h4, fun hk => ⟨(h5 hk).1, fun k kd hkd => by rw [fval_xt hx]; exact (h5 hk).2 k kd hkd⟩, fun hk => ⟨(h6 hk).1, (h6 hk).2.1, (h6 hk).2.2.1, fun j hj => by rw [aval_xt hx]; exact (h6 hk).2.2.2.1 j hj, (h6 hk).2.2.2.2⟩⟩
/-- statics that hold known things -/
def stL : List (String × String × String × (Gx → Value)) := [("java/lang/String", "COMPACT_STRINGS", "Z", fun _ => .int 1), ("java/lang/Integer$IntegerCache", "high", "I", fun _ => .int 127), ("java/util/HashMap$TreeNode", "$assertionsDisabled", "Z", fun _ => .int 1), ("java/util/ArrayList", "DEFAULTCAPACITY_EMPTY_ELEMENTDATA", "[Ljava/lang/Object;", fun G => .ref (gC G 1)), ("java/util/HashSet", "PRESENT", "Ljava/lang/Object;", fun G => .ref (gC G 2)), ("java/lang/Integer$IntegerCache", "cache", "[Ljava/lang/Integer;", fun G => .ref (gC G 3)), ("java/lang/Integer", "DigitTens", "[B", fun G => .ref (gC G 4)), ("java/lang/Integer", "DigitOnes", "[B", fun G => .ref (gC G 5))]
/-- statics that hold a reference or null -/
def suL : List (String × String × String) := [("java/lang/Throwable", "UNASSIGNED_STACK", "[Ljava/lang/StackTraceElement;"), ("java/lang/Throwable", "SUPPRESSED_SENTINEL", "Ljava/util/List;"), ("jdk/internal/util/Preconditions", "SIOOBE_FORMATTER", "Ljava/util/function/BiFunction;")]
/-- the constant texts: class, entry, text, number -/
def strL : List (String × Nat × String × Nat) := [("FinalLinks", 66, "", 10), ("FinalLinks$Reader", 9, "", 10), ("FinalLinks$ChainReader", 36, "epoch", 11), ("FinalLinks$ChainReader", 52, "voter", 12), ("FinalLinks$Reader", 80, " epoch voter block on change vote look grow or and not leaf point just final chosen under height level heft number ", 13), ("FinalLinks$Reader", 82, " ", 14), ("FinalLinks$ChainReader", 81, "block", 15), ("FinalLinks$ChainReader", 113, "on", 16), ("FinalLinks$ChainReader", 117, "change", 17), ("FinalLinks", 390, " from ", 18), ("FinalLinks", 395, " to ", 19), ("FinalLinks$BookReader", 38, "vote", 20), ("FinalLinks$BookReader", 44, "look", 21), ("FinalLinks$BookReader", 46, "grow", 22), ("FinalLinks$SentenceReader", 65, "not", 23), ("FinalLinks$SentenceReader", 67, "under", 24), ("FinalLinks$SentenceReader", 44, "leaf", 25), ("FinalLinks$SentenceReader", 46, "point", 26), ("FinalLinks$SentenceReader", 48, "just", 27), ("FinalLinks$SentenceReader", 50, "final", 28), ("FinalLinks$SentenceReader", 52, "chosen", 29), ("FinalLinks$SentenceReader", 54, "height", 30), ("FinalLinks$SentenceReader", 56, "level", 31), ("FinalLinks$SentenceReader", 58, "heft", 32), ("FinalLinks$SentenceReader", 60, "number", 33), ("FinalLinks$SentenceReader", 43, "and", 34), ("FinalLinks$SentenceReader", 30, "or", 35)]
/-- private methods that are called on things of a lower class -/
def selX : List (String × MethodName) := [("FinalLinks$ChainReader", ⟨"FinalLinks$Reader", "byteAt", "(I)I"⟩), ("FinalLinks$ChainReader", ⟨"FinalLinks$Reader", "named", "(I)I"⟩), ("FinalLinks$BookReader", ⟨"FinalLinks$Reader", "byteAt", "(I)I"⟩), ("FinalLinks$BookReader", ⟨"FinalLinks$Reader", "named", "(I)I"⟩), ("FinalLinks$SentenceReader", ⟨"FinalLinks$Reader", "byteAt", "(I)I"⟩), ("FinalLinks$SentenceReader", ⟨"FinalLinks$Reader", "named", "(I)I"⟩), ("java/lang/StringBuilder", ⟨"java/lang/AbstractStringBuilder", "ensureCapacityInternal", "(I)V"⟩), ("java/lang/StringBuilder", ⟨"java/lang/AbstractStringBuilder", "newCapacity", "(I)I"⟩), ("java/lang/StringBuilder", ⟨"java/lang/AbstractStringBuilder", "putStringAt", "(ILjava/lang/String;)V"⟩), ("java/lang/StringBuilder", ⟨"java/lang/AbstractStringBuilder", "inflateIfNeededFor", "(Ljava/lang/String;)V"⟩)]
theorem selects_priv {C : String} {x y : MethodName} {s : State} {args : Array Value} {n : Nat} (hy : y.cls ≠ "java/lang/invoke/MethodHandle" ∧ y.cls ≠ "java/lang/invoke/VarHandle") (hins : (Cond.instantiable C n).before args s = true) (hpriv : (Cond.privateMethod y).before args s = true) (hinst : (Cond.instanceMethod y).before args s = true)
    (hx : (Cond.selects C x x).before args s = true) (hxy : x.cls = y.cls) : (Cond.selects C y y).before args s = true := by
  obtain ⟨c, k, hc, hk, -, hniab, -, -⟩ := Cond.instantiable_spec hins
  have hni : k.isInterface = false := (Bool.or_eq_false_iff.mp hniab).1
  obtain ⟨mk, methM, hnamed, hmethM, -, -⟩ := Cond.instanceMethod_spec hinst
  have hfound : s.methodFound? y.cls y.name y.desc = some mk := State.methodFound?_of_named hnamed hy
  have hsel : selectMethod {} s.vm c mk = .method mk := selectMethod_private hmethM (Cond.privateMethod_at hpriv mk methM hnamed hmethM)
  obtain ⟨c2, r2, m2, q1, q2, q3, q4, kP, hkP, hkPi⟩ := Cond.selects_spec hx
  have e1 : r2 = m2 := Option.some.inj (q2.symm.trans (State.methodFound?_of_named q3 (by rw [hxy]; exact hy)))
  subst e1
  have e2 : r2.cls = mk.cls := Option.some.inj ((findClass_of_methodNamed q3).symm.trans (by rw [hxy]; exact findClass_of_methodNamed hnamed))
  rw [e2] at hkP
  simp only [Cond.before, Cond.holds, Cond.value, hc, hfound, hnamed, hsel, hkP]
  simp
  exact hkPi
/-- where a static field lies, its class's statics cell in H -/
def vx_L (C n d : String) (A : Nat → Prop) (U : State) (H : Heap) : Prop := ∃ (c : ClassId) (k : Class) (i : Nat) (f : Field) (a : Nat) (cell : Cell), U.vm.findClass C = some c ∧ U.fieldFound? C n d = some (c, k, i, f) ∧ f.isStatic = true ∧ k.statics = some a ∧ H[a]? = some cell ∧ cell.vm.isStatics = true ∧ cell.cls = c ∧ f.slot < cell.slots.size ∧ k.staticTypes[f.slot]? = some f.type ∧ ¬ A a
theorem vx_L.moved {C n d : String} {A : Nat → Prop} {u U : State} {H : Heap} (hvm : u.vm.Alike U.vm) (h : vx_L C n d A u H) : vx_L C n d A U H := by
  obtain ⟨c, k, i, f, a, cell, h1, h2, h3, h4, h5, h6, h7, h8, h9, h10⟩ := h
  obtain ⟨k', hi', he⟩ := State.fieldFound?_setVm hvm h2
  exact ⟨c, k', i, f, a, cell, by rw [hvm.findClass]; exact h1, hi', h3, by rw [he]; exact h4, h5, h6, h7, h8, by rw [he]; exact h9, h10⟩
theorem vx_L.kept {C n d : String} {A : Nat → Prop} {U : State} {H H1 : Heap} (h : vx_L C n d A U H) (hq : ∀ a : Nat, a < H.size → ¬ A a → H1[a]? = H[a]?) : vx_L C n d A U H1 := by
  obtain ⟨c, k, i, f, a, cell, h1, h2, h3, h4, h5, h6, h7, h8, h9, h10⟩ := h
  exact ⟨c, k, i, f, a, cell, h1, h2, h3, h4, by rw [hq a (Array.getElem?_eq_some_iff.mp h5).1 h10]; exact h5, h6, h7, h8, h9, h10⟩
theorem vx_L.narrow {C n d : String} {A B : Nat → Prop} {U : State} {H : Heap} (h : vx_L C n d A U H) (hAB : ∀ q, B q → A q) : vx_L C n d B U H := by
  obtain ⟨c, k, i, f, a, cell, h1, h2, h3, h4, h5, h6, h7, h8, h9, h10⟩ := h
  exact ⟨c, k, i, f, a, cell, h1, h2, h3, h4, h5, h6, h7, h8, h9, fun z => h10 (hAB _ z)⟩
theorem vx_L.word {C n d : String} {A : Nat → Prop} {s : State} {args : Array Value} (h : vx_L C n d A s s.heap) : (Cond.laysStatic C n d).before args s = true := by
  obtain ⟨c, k, i, f, a, cell, h1, h2, h3, h4, h5, h6, h7, h8, h9, -⟩ := h
  show (Cond.laysStatic C n d).holds args s none s [] = true
  exact Cond.laysStatic_of h1 h2 h3 h4 h5 h6 h7 h8 h9
/-- .. and what it holds: null or some reference -/
def vx_Zq (C n d : String) (A : Nat → Prop) (U : State) (H : Heap) : Prop := va_Zq C n d A U H ∧ vx_L C n d A U H
theorem vx_Zq.moved {C n d : String} {A : Nat → Prop} {u U : State} {H : Heap} (hvm : u.vm.Alike U.vm) (h : vx_Zq C n d A u H) : vx_Zq C n d A U H := ⟨va_Zq.moved hvm h.1, vx_L.moved hvm h.2⟩
theorem vx_Zq.kept {C n d : String} {A : Nat → Prop} {U : State} {H H1 : Heap} (h : vx_Zq C n d A U H) (hq : ∀ a : Nat, a < H.size → ¬ A a → H1[a]? = H[a]?) : vx_Zq C n d A U H1 := ⟨va_Zq.kept h.1 hq, vx_L.kept h.2 hq⟩
theorem vx_Zq.narrow {C n d : String} {A B : Nat → Prop} {U : State} {H : Heap} (h : vx_Zq C n d A U H) (hAB : ∀ q, B q → A q) : vx_Zq C n d B U H := ⟨va_Zq.narrow h.1 hAB, vx_L.narrow h.2 hAB⟩
theorem vx_Zqof {args : Array Value} {s : State} {C n d : String} {A : Nat → Prop} (hl : (Cond.laysStatic C n d).before args s = true) (hini : (Cond.initialized C).before args s = true) (h : (Cond.isRef (.static C n d)).before args s = true) (hA : ∀ a : Nat, a < s.heap.size → ¬ A a) : vx_Zq C n d A s s.heap := by
  refine ⟨va_Zqof hl hini h hA, ?_⟩
  obtain ⟨c, k, i, f, a, cell, h1, h2, h3, h4, h5, h6, h7, h8, h9⟩ := Cond.laysStatic_spec hl
  exact ⟨c, k, i, f, a, cell, h1, h2, h3, h4, h5, h6, h7, h8, h9, hA a (Array.getElem?_eq_some_iff.mp h5).1⟩
/-- what every method is handed on of the tables and the start -/
def En (G : Gx) (U : State) : Prop :=
  (∀ (c : Nat) (q : vw_C), clT[c]? = some q → u_Kn U q.1 q.2.1 q.2.2 (G.1 c) (G.2.1 c)) ∧
  (∀ (a : String) (i : Nat) (b n d h : String), Cond.fieldLinkNest a i b n d h ∈ lw_tbl → va_Nw (.fieldLinkNest a i b n d h) U) ∧
  (∀ (a : String) (i : Nat) (x : MethodName) (h : String), Cond.methodLinkNest a i x h ∈ lw_tbl → va_Nw (.methodLinkNest a i x h) U) ∧
  (∀ (C T : String), Cond.castable C T ∈ lw_tbl → va_Nw (.castable C T) U) ∧
  (∀ (C : String) (x y : MethodName), (Cond.declares x ∈ lw_tbl ∧ Cond.interfaceMethod x.cls x.cls x.name x.desc ∈ lw_tbl ∧ Cond.publicMethod y ∈ lw_tbl ∧ Cond.unhidden C x.name x.desc ∈ lw_tbl ∧ Cond.castable C x.cls ∈ lw_tbl ∧ (x.cls ≠ "java/lang/invoke/MethodHandle" ∧ x.cls ≠ "java/lang/invoke/VarHandle")) → va_Fw C x y U) ∧
  (∀ (C : String), Cond.arrayOver (.object C) ∈ lw_tbl → va_AO C U) ∧
  (∀ (x : MethodName), Cond.declares x ∈ lw_tbl → va_Nw (.declares x) U) ∧
  gB G ≤ U.heap.size ∧
  (∀ q ∈ stL, va_Z q.1 q.2.1 q.2.2.1 (q.2.2.2 G) (gA G) U U.heap) ∧
  (∀ q ∈ suL, vx_Zq q.1 q.2.1 q.2.2 (gA G) U U.heap) ∧
  (∀ q ∈ strL, vk_R q.1 q.2.1 q.2.2.1 (gC G q.2.2.2) U) ∧
  (va_Mi "[Ljava/lang/Object;" (gC G 70) U ∧ va_Mi "java/lang/String" (gC G 71) U) ∧
  (∀ (C T : String), Cond.not (.castable C T) ∈ flatC (Cond.and given_1 narrow_1) → va_Nc C T U) ∧
  (∀ q ∈ selX, (Cond.selects q.1 q.2 q.2).before #[] U = true)
theorem En.calling {G : Gx} {U : State} (h : En G U) (g : JFrame) (mk : MethodId) (a : Array Value) : En G (U.calling g mk a) := by
  obtain ⟨h1, h2, h3, h4, h5, h6, h7, h8, h9, h10, h11, h12, h13, h14⟩ := h
  have hv : U.vm.Alike (U.calling g mk a).vm := Vm.Alike.refl U.vm
  exact ⟨fun c q hq => u_Kn_moved hv (h1 c q hq), h2, h3, h4, h5, h6, h7, h8, fun q hq => (h9 q hq).moved hv, fun q hq => (h10 q hq).moved hv, fun q hq => (h11 q hq).same rfl, ⟨h12.1.moved hv, h12.2.moved hv⟩, fun C T hx => (h13 C T hx).moved hv, h14⟩
theorem En.warm {G : Gx} {s U : State} (h : En G s) (hW : s.WarmedH U.vm) (hz : s.heap.size ≤ U.heap.size) (hq : ∀ a : Nat, a < s.heap.size → ¬ gA G a → U.heap[a]? = s.heap[a]?) : En G U := by
  obtain ⟨h1, h2, h3, h4, h5, h6, h7, h8, h9, h10, h11, h12, h13, h14⟩ := h
  have hv := hW.alike
  exact ⟨fun c q hq => u_Kn_moved hv (h1 c q hq), fun a i b n d x hx => va_Nw.warmF hW (h2 a i b n d x hx), fun a i x y hx => va_Nw.warmM hW (h3 a i x y hx), fun C T hx => va_Nw.warmC hW (h4 C T hx), fun C x y hx => va_Fw.moved hx.2.2.2.2.2 hv (h5 C x y hx), fun C hx => va_AO.moved hv (h6 C hx), fun x hx => va_Nw.warmD hW (h7 x hx), Nat.le_trans h8 hz,
    fun q hx => ((h9 q hx).moved hv).kept hq, fun q hx => ((h10 q hx).moved hv).kept hq, fun q hx => (h11 q hx).warm hW, ⟨h12.1.moved hv, h12.2.moved hv⟩, fun C T hx => (h13 C T hx).moved hv, fun q hx => word_at hW (Or.inl rfl) (h14 q hx)⟩

