/-! OPERATIONS ON PURE HEAPS and their rows -/
set_option maxRecDepth 100000
/-- the fields' types, by class and place -/
def tyL : List (Nat → FieldType) := [tyX1, tyX2, tyX3, tyX4, tyX5, tyX6, tyX8, tyX9, tyX10, tyX11, tyX13, tyX14, tyX15, tyX16, tyX17, tyX18, tyX20, tyX21, tyX22, tyX23, tyX24, tyJ10, tyJ11, tyJ15, tyJ2, tyJ21, tyJ26, tyJ27, tyJ33, tyJ34, tyJ35, tyJ36, tyJ4, tyJ6, tyJ9]
def tyF (t : Nat) : Nat → FieldType := tyL.getD (t - 1) (fun _ => .int)
def kdT (ty : FieldType) : Nat := match ty with
  | .object _ => 1
  | .array _ => 1
  | .long => 2
  | .float => 3
  | _ => 0
/-- what a class's tables say -/
def CO (t : Nat) (q : vw_C) : Prop := (∀ w ∈ u_ws q.1 q.2.1 q.2.2, w ∈ lw_all) ∧ (∀ k, k < q.2.2 → parseFieldDescriptor (q.2.1 k).2.2.1 = some (tyF t k)) ∧ (∀ a, a < q.2.2 → ∀ b, b < q.2.2 → a ≠ b → (q.2.1 a).2.1 ≠ (q.2.1 b).2.1) ∧ (ftN t).length = q.2.2 ∧ (∀ k, k < q.2.2 → (ftN t)[k]? = some (kdT (tyF t k))) ∧ (∀ k, k < q.2.2 → tyF t k ≠ .double)
theorem cok_1 : CO 1 (RX1, TX1, 16) := ⟨in_X1, tyX1_ok, nmX1, rfl, by decide +kernel, by decide +kernel⟩
theorem cok_2 : CO 2 (RX2, TX2, 6) := ⟨in_X2, tyX2_ok, nmX2, rfl, by decide +kernel, by decide +kernel⟩
theorem cok_3 : CO 3 (RX3, TX3, 7) := ⟨in_X3, tyX3_ok, nmX3, rfl, by decide +kernel, by decide +kernel⟩
theorem cok_4 : CO 4 (RX4, TX4, 14) := ⟨in_X4, tyX4_ok, nmX4, rfl, by decide +kernel, by decide +kernel⟩
theorem cok_5 : CO 5 (RX5, TX5, 3) := ⟨in_X5, tyX5_ok, nmX5, rfl, by decide +kernel, by decide +kernel⟩
theorem cok_6 : CO 6 (RX6, TX6, 58) := ⟨in_X6, tyX6_ok, nmX6, rfl, by decide +kernel, by decide +kernel⟩
theorem cok_7 : CO 7 (RX8, TX8, 10) := ⟨in_X8, tyX8_ok, nmX8, rfl, by decide +kernel, by decide +kernel⟩
theorem cok_8 : CO 8 (RX9, TX9, 8) := ⟨in_X9, tyX9_ok, nmX9, rfl, by decide +kernel, by decide +kernel⟩
theorem cok_9 : CO 9 (RX10, TX10, 4) := ⟨in_X10, tyX10_ok, nmX10, rfl, by decide +kernel, by decide +kernel⟩
theorem cok_10 : CO 10 (RX11, TX11, 2) := ⟨in_X11, tyX11_ok, nmX11, rfl, by decide +kernel, by decide +kernel⟩
theorem cok_11 : CO 11 (RX13, TX13, 3) := ⟨in_X13, tyX13_ok, nmX13, rfl, by decide +kernel, by decide +kernel⟩
theorem cok_12 : CO 12 (RX14, TX14, 2) := ⟨in_X14, tyX14_ok, nmX14, rfl, by decide +kernel, by decide +kernel⟩
theorem cok_13 : CO 13 (RX15, TX15, 2) := ⟨in_X15, tyX15_ok, nmX15, rfl, by decide +kernel, by decide +kernel⟩
theorem cok_14 : CO 14 (RX16, TX16, 1) := ⟨in_X16, tyX16_ok, nmX16, rfl, by decide +kernel, by decide +kernel⟩
theorem cok_15 : CO 15 (RX17, TX17, 11) := ⟨in_X17, tyX17_ok, nmX17, rfl, by decide +kernel, by decide +kernel⟩
theorem cok_16 : CO 16 (RX18, TX18, 12) := ⟨in_X18, tyX18_ok, nmX18, rfl, by decide +kernel, by decide +kernel⟩
theorem cok_17 : CO 17 (RX20, TX20, 1) := ⟨in_X20, tyX20_ok, nmX20, rfl, by decide +kernel, by decide +kernel⟩
theorem cok_18 : CO 18 (RX21, TX21, 1) := ⟨in_X21, tyX21_ok, nmX21, rfl, by decide +kernel, by decide +kernel⟩
theorem cok_19 : CO 19 (RX22, TX22, 1) := ⟨in_X22, tyX22_ok, nmX22, rfl, by decide +kernel, by decide +kernel⟩
theorem cok_20 : CO 20 (RX23, TX23, 3) := ⟨in_X23, tyX23_ok, nmX23, rfl, by decide +kernel, by decide +kernel⟩
theorem cok_21 : CO 21 (RX24, TX24, 3) := ⟨in_X24, tyX24_ok, nmX24, rfl, by decide +kernel, by decide +kernel⟩
theorem cok_22 : CO 22 (RJ10, TJ10, 12) := ⟨in_J10, tyJ10_ok, nmJ10, rfl, by decide +kernel, by decide +kernel⟩
theorem cok_23 : CO 23 (RJ11, TJ11, 4) := ⟨in_J11, tyJ11_ok, nmJ11, rfl, by decide +kernel, by decide +kernel⟩
theorem cok_24 : CO 24 (RJ15, TJ15, 6) := ⟨in_J15, tyJ15_ok, nmJ15, rfl, by decide +kernel, by decide +kernel⟩
theorem cok_25 : CO 25 (RJ2, TJ2, 3) := ⟨in_J2, tyJ2_ok, nmJ2, rfl, by decide +kernel, by decide +kernel⟩
theorem cok_26 : CO 26 (RJ21, TJ21, 2) := ⟨in_J21, tyJ21_ok, nmJ21, rfl, by decide +kernel, by decide +kernel⟩
theorem cok_27 : CO 27 (RJ26, TJ26, 5) := ⟨in_J26, tyJ26_ok, nmJ26, rfl, by decide +kernel, by decide +kernel⟩
theorem cok_28 : CO 28 (RJ27, TJ27, 4) := ⟨in_J27, tyJ27_ok, nmJ27, rfl, by decide +kernel, by decide +kernel⟩
theorem cok_29 : CO 29 (RJ33, TJ33, 4) := ⟨in_J33, tyJ33_ok, nmJ33, rfl, by decide +kernel, by decide +kernel⟩
theorem cok_30 : CO 30 (RJ34, TJ34, 4) := ⟨in_J34, tyJ34_ok, nmJ34, rfl, by decide +kernel, by decide +kernel⟩
theorem cok_31 : CO 31 (RJ35, TJ35, 6) := ⟨in_J35, tyJ35_ok, nmJ35, rfl, by decide +kernel, by decide +kernel⟩
theorem cok_32 : CO 32 (RJ36, TJ36, 11) := ⟨in_J36, tyJ36_ok, nmJ36, rfl, by decide +kernel, by decide +kernel⟩
theorem cok_33 : CO 33 (RJ4, TJ4, 8) := ⟨in_J4, tyJ4_ok, nmJ4, rfl, by decide +kernel, by decide +kernel⟩
theorem cok_34 : CO 34 (RJ6, TJ6, 1) := ⟨in_J6, tyJ6_ok, nmJ6, rfl, by decide +kernel, by decide +kernel⟩
theorem cok_35 : CO 35 (RJ9, TJ9, 1) := ⟨in_J9, tyJ9_ok, nmJ9, rfl, by decide +kernel, by decide +kernel⟩
theorem cok_all : ∀ (i : Nat) (q : vw_C), clT[i]? = some q → CO (i + 1) q := by
  intro i q hq
  have hi : i < 35 := (List.getElem?_eq_some_iff.mp hq).1
  match i, hi, hq with
  | 0, _, hq => cases hq; exact cok_1
  | 1, _, hq => cases hq; exact cok_2
  | 2, _, hq => cases hq; exact cok_3
  | 3, _, hq => cases hq; exact cok_4
  | 4, _, hq => cases hq; exact cok_5
  | 5, _, hq => cases hq; exact cok_6
  | 6, _, hq => cases hq; exact cok_7
  | 7, _, hq => cases hq; exact cok_8
  | 8, _, hq => cases hq; exact cok_9
  | 9, _, hq => cases hq; exact cok_10
  | 10, _, hq => cases hq; exact cok_11
  | 11, _, hq => cases hq; exact cok_12
  | 12, _, hq => cases hq; exact cok_13
  | 13, _, hq => cases hq; exact cok_14
  | 14, _, hq => cases hq; exact cok_15
  | 15, _, hq => cases hq; exact cok_16
  | 16, _, hq => cases hq; exact cok_17
  | 17, _, hq => cases hq; exact cok_18
  | 18, _, hq => cases hq; exact cok_19
  | 19, _, hq => cases hq; exact cok_20
  | 20, _, hq => cases hq; exact cok_21
  | 21, _, hq => cases hq; exact cok_22
  | 22, _, hq => cases hq; exact cok_23
  | 23, _, hq => cases hq; exact cok_24
  | 24, _, hq => cases hq; exact cok_25
  | 25, _, hq => cases hq; exact cok_26
  | 26, _, hq => cases hq; exact cok_27
  | 27, _, hq => cases hq; exact cok_28
  | 28, _, hq => cases hq; exact cok_29
  | 29, _, hq => cases hq; exact cok_30
  | 30, _, hq => cases hq; exact cok_31
  | 31, _, hq => cases hq; exact cok_32
  | 32, _, hq => cases hq; exact cok_33
  | 33, _, hq => cases hq; exact cok_34
  | 34, _, hq => cases hq; exact cok_35
/-- the code of a class names a field: place k of tag t -/
def FO (own : String) (idx t k : Nat) : Prop := t ≠ 0 ∧ t < 200 ∧ ∃ (q : vw_C) (ref : String), clT[t - 1]? = some q ∧ k < q.2.2 ∧
  (Cond.fieldLink own idx ref (q.2.1 k).2.1 (q.2.1 k).2.2.1 ∈ lw_all ∨ ∃ host, Cond.fieldLinkNest own idx ref (q.2.1 k).2.1 (q.2.1 k).2.2.1 host ∈ lw_tbl) ∧
  (ref = (q.2.1 k).1 ∨ Cond.sameField ref (q.2.1 k).1 (q.2.1 k).2.1 (q.2.1 k).2.2.1 ∈ lw_all)
theorem fl1 {P : Nat → Prop} {a : Nat} (h : P a) : ∀ t ∈ [a], P t := fun t ht => by
  rw [List.mem_singleton] at ht
  rw [ht]; exact h
theorem flc {P : Nat → Prop} {a : Nat} {l : List Nat} (h : P a) (h2 : ∀ t ∈ l, P t) : ∀ t ∈ a :: l, P t := fun t ht => by
  rcases List.mem_cons.mp ht with e | e
  · rw [e]; exact h
  · exact h2 t e
def getI (cs : List Nat) (k i : Nat) (h : Hp) : Option Int32 := if tg h i ∈ cs then some ((h.2.2 i).2.2.1 k) else none
def getR (cs : List Nat) (k i : Nat) (h : Hp) : Option Nat := if tg h i ∈ cs then some ((h.2.2 i).2.2.2.1 k) else none
def getL (cs : List Nat) (k i : Nat) (h : Hp) : Option Int64 := if tg h i ∈ cs then some ((h.2.2 i).2.2.2.2 k) else none
def upI (c : PC) (k : Nat) (v : Int32) : PC := (c.1, c.2.1, fun j => if j = k then v else c.2.2.1 j, c.2.2.2.1, c.2.2.2.2)
def upR (c : PC) (k : Nat) (v : Nat) : PC := (c.1, c.2.1, c.2.2.1, fun j => if j = k then v else c.2.2.2.1 j, c.2.2.2.2)
def upL (c : PC) (k : Nat) (v : Int64) : PC := (c.1, c.2.1, c.2.2.1, c.2.2.2.1, fun j => if j = k then v else c.2.2.2.2 j)
def putI (cs : List Nat) (tk k i : Nat) (v : Int32) (h : Hp) : Option Hp := if tg h i ∈ cs ∧ nrw tk v = v then some (hset h i (upI (h.2.2 i) k v)) else none
def putR (cs : List Nat) (k i : Nat) (v : Nat) (h : Hp) : Option Hp := if tg h i ∈ cs then some (hset h i (upR (h.2.2 i) k v)) else none
def putL (cs : List Nat) (k i : Nat) (v : Int64) (h : Hp) : Option Hp := if tg h i ∈ cs then some (hset h i (upL (h.2.2 i) k v)) else none
/-- an array's length -/
def alen (cs : List Nat) (i : Nat) (h : Hp) : Option Int32 := if tg h i ∈ cs then some (Int32.ofNat (h.2.2 i).2.1) else none
def inA (h : Hp) (a : Nat) (i : Int32) : Prop := ¬ i < 0 ∧ i.toNatClampNeg < (h.2.2 a).2.1
def aldI (cs : List Nat) (a : Nat) (i : Int32) (h : Hp) : Option Int32 := if tg h a ∈ cs ∧ ¬ i < 0 ∧ i.toNatClampNeg < (h.2.2 a).2.1 then some ((h.2.2 a).2.2.1 i.toNatClampNeg) else none
def aldR (cs : List Nat) (a : Nat) (i : Int32) (h : Hp) : Option Nat := if tg h a ∈ cs ∧ ¬ i < 0 ∧ i.toNatClampNeg < (h.2.2 a).2.1 then some ((h.2.2 a).2.2.2.1 i.toNatClampNeg) else none
def aldL (cs : List Nat) (a : Nat) (i : Int32) (h : Hp) : Option Int64 := if tg h a ∈ cs ∧ ¬ i < 0 ∧ i.toNatClampNeg < (h.2.2 a).2.1 then some ((h.2.2 a).2.2.2.2 i.toNatClampNeg) else none
def astI (cs : List Nat) (tk : Nat) (a : Nat) (i : Int32) (v : Int32) (h : Hp) : Option Hp := if tg h a ∈ cs ∧ ¬ i < 0 ∧ i.toNatClampNeg < (h.2.2 a).2.1 then some (hset h a (upI (h.2.2 a) i.toNatClampNeg (nrw tk v))) else none
def astL (cs : List Nat) (a : Nat) (i : Int32) (v : Int64) (h : Hp) : Option Hp := if tg h a ∈ cs ∧ ¬ i < 0 ∧ i.toNatClampNeg < (h.2.2 a).2.1 then some (hset h a (upL (h.2.2 a) i.toNatClampNeg v)) else none
def astR (cs vs : List Nat) (a : Nat) (i : Int32) (v : Nat) (h : Hp) : Option Hp := if tg h a ∈ cs ∧ (¬ i < 0 ∧ i.toNatClampNeg < (h.2.2 a).2.1) ∧ (v = 0 ∨ tg h v % 500 ∈ vs) then some (hset h a (upR (h.2.2 a) i.toNatClampNeg v)) else none
def newO (t n : Nat) (h : Hp) : Option (Nat × Hp) := if h.2.1 + (n + 1) ≤ LIM then some (h.1, hnew h n (t, 0, fun _ => 0, fun _ => 0, fun _ => 0)) else none
def newA (t : Nat) (n : Int32) (h : Hp) : Option (Nat × Hp) := if ¬ n < 0 ∧ h.2.1 + (n.toNatClampNeg + 1) ≤ LIM then some (h.1, hnew h n.toNatClampNeg (t, n.toNatClampNeg, fun _ => 0, fun _ => 0, fun _ => 0)) else none
/-- a cast that must hold -/
def cst (cs : List Nat) (r : Nat) (h : Hp) : Option Unit := if r = 0 ∨ tg h r % 500 ∈ cs then some () else none
def ins (ys ns : List Nat) (r : Nat) (h : Hp) : Option Int32 := if r = 0 then some 0 else if tg h r % 500 ∈ ys then some 1 else if tg h r % 500 ∈ ns then some 0 else none
theorem totS_eq (H : Heap) : totS H = (H.toList.map fun c => c.slots.size).sum := by
  unfold totS
  rw [← Array.foldl_toList]
  generalize H.toList = l
  have : ∀ (l : List Cell) (n : Nat), l.foldl (fun n c => n + c.slots.size) n = n + (l.map fun c => c.slots.size).sum := by
    intro l
    induction l with
    | nil => intro n; simp
    | cons c t ih => intro n; simp only [List.foldl_cons, ih, List.map_cons, List.sum_cons]; omega
  rw [this]; simp
theorem totS_set {H H1 : Heap} {a : Nat} {c c1 : Cell} (hz : H1.size = H.size) (ho : ∀ q : Nat, q ≠ a → H1[q]? = H[q]?) (h : H[a]? = some c) (h1 : H1[a]? = some c1) (he : c1.slots.size = c.slots.size) : totS H1 = totS H := by
  rw [totS_eq, totS_eq]
  congr 1
  apply List.ext_getElem?
  intro q
  rw [List.getElem?_map, List.getElem?_map, Array.getElem?_toList, Array.getElem?_toList]
  by_cases hq : q = a
  · subst hq; rw [h, h1]; simp [he]
  · rw [ho q hq]
theorem totS_push {H H1 : Heap} {c : Cell} (hz : H1.size = H.size + 1) (ho : ∀ q : Nat, q < H.size → H1[q]? = H[q]?) (h1 : H1[H.size]? = some c) : totS H1 = totS H + c.slots.size := by
  have e : H1.toList = H.toList ++ [c] := by
    apply List.ext_getElem?
    intro q
    rw [Array.getElem?_toList]
    by_cases hq : q < H.size
    · rw [List.getElem?_append_left (by simpa using hq), Array.getElem?_toList, ho q hq]
    · by_cases hq2 : q = H.size
      · subst hq2; rw [h1, List.getElem?_append_right (by simp)]; simp
      · rw [Array.getElem?_eq_none (by omega), List.getElem?_eq_none (by simp; omega)]
  rw [totS_eq, totS_eq, e]
  simp
section Heap
variable {β : Type} {E : Ex} {QF : β → Hp → State → Prop} {h : Hp} {pc : Nat} {la : List (Nat × Value)} {sa : List Value} {cc : ByteArray} {ret : Option FieldType} {own : String}
theorem Ok.more {mp mp' : Nat → Nat} {h' : Hp} {H H' : Heap} {locs locs' : List Loc} {ls : Array Slot} {sa' : List Value} (ok : Ok E h mp H locs ls la sa) (hx : Xt h.1 mp mp') (hn : h.1 ≤ h'.1) (hR : eRL E h' mp' (eS E) H') (hS : va_S (gA (eG E)) (eS E).heap H' locs') (hs : ∀ v ∈ sa', vOk h'.1 v) : Ok E h' mp' H' locs' ls la sa' := by
  obtain ⟨o1, o2, o3, o4, o5, o6, o7⟩ := ok
  exact ⟨o1.trans hx o2, Nat.le_trans o2 hn, hR, hS, by rw [xt_rvl hx o6]; exact o5, fun q hq => (o6 q hq).mono hn, hs⟩
/-- a field read: the place in the machine's cell -/
theorem fo_at {mp : Nat → Nat} {H : Heap} {idx t k kd i : Nat} (C : Cx E cc ret own) (hR : eRL E h mp (eS E) H) (hp : ePl E (tg h i) = true) (ht : tg h i % 500 = t) (hF : FO own idx t k) (hkd : (ftN t)[k]? = some kd) :
    i ≠ 0 ∧ ∃ (q : vw_C) (ref : String) (cell : Cell) (cf : ClassId) (kf : Class) (fi : Nat) (f : Field), clT[t - 1]? = some q ∧ k < q.2.2 ∧ (Cond.fieldLink own idx ref (q.2.1 k).2.1 (q.2.1 k).2.2.1 ∈ lw_all ∨ ∃ host, Cond.fieldLinkNest own idx ref (q.2.1 k).2.1 (q.2.1 k).2.2.1 host ∈ lw_tbl) ∧ H[mp i]? = some cell ∧ cell.vm ≠ .unknown ∧ (tg h i < 500 → cell.vm = .none) ∧ cell.cls = (eG E).1 (t - 1) ∧ (∀ k kd, (ftN t)[k]? = some kd → cell.slots[(eG E).2.1 (t - 1) k]? = some (fval mp (h.2.2 i) kd k)) ∧
      (eS E).fieldFound? (q.2.1 k).1 (q.2.1 k).2.1 (q.2.1 k).2.2.1 = some (cf, kf, fi, f) ∧ (eS E).fieldFound? ref (q.2.1 k).2.1 (q.2.1 k).2.2.1 = some (cf, kf, fi, f) ∧ f.isStatic = false ∧ f.slot = (eG E).2.1 (t - 1) k := by
  obtain ⟨f0, f1, q, ref, f2, f3, f4, f5⟩ := hF
  obtain ⟨g0, cell, g1, g2, g3, g4, g5, -⟩ := C.lv.2.2.2.2.1 _ _ _ _ hR i hp
  have hi := (C.lv.2.2.1 _ _ _ _ hR i g0).1
  obtain ⟨g6, g7⟩ := g5 (by rw [show (h.2.2 i).1 % 500 = t from ht]; exact f1)
  rw [ht] at g6 g7
  obtain ⟨hS, hfc, kC, hkC, hkind⟩ := C.en.1 _ _ f2
  obtain ⟨cf, kf, fi, f, hf, hsl⟩ := hS k f3
  have hco := cok_all _ _ f2
  have hst := (u_facts hfc hkC (u_lays C.ws hco.1 f3) hf).1
  refine ⟨hi, q, ref, cell, cf, kf, fi, f, f2, f3, f4, g1, g2, g4, g6, g7, hf, ?_, hst, hsl⟩
  rcases f5 with e | e
  · rw [e]; exact hf
  · exact u_same (C.ws _ e) _ hf
/-- reading a field -/
theorem Sim.get {α : Type} {idx k kd i : Nat} {cs : List Nat} {F : Option α} {val : α} (mk : α → Value) {cont : α → Option (β × Hp)} (C : Cx E cc ret own) (hcs : ∀ t ∈ cs, FO own idx (t % 500) k ∧ (ftN (t % 500))[k]? = some kd) (hp : cs.all (ePl E) = true)
    (hF : F = if tg h i ∈ cs then some val else none) (hval : ∀ mp, fval mp (h.2.2 i) kd k = rv mp (mk val)) (hok : i < h.1 → (∀ k, (h.2.2 i).2.2.2.1 k < h.1) → vOk h.1 (mk val))
    (hd : decode cc pc = .ok (.getfield idx, 3)) (kk : ∀ v, Sim id E QF h (pc + 3) la (mk v :: sa) (cont v)) : Sim id E QF h pc la (vr i :: sa) (F.bind cont) := by
  intro r h9 hx mp H locs ls ok
  replace ok : Ok E h mp H locs ls la _ := ok
  obtain ⟨v, hv, hx⟩ := Option.bind_eq_some_iff.mp hx
  rw [hF] at hv
  split at hv
  · rename_i hm
    cases hv
    obtain ⟨hFO, hkd⟩ := hcs _ hm
    have hpl := List.all_eq_true.mp hp _ hm
    obtain ⟨hi, q, ref, cell, cf, kf, fi, f, f2, f3, f4, g1, g2, g4, g6, g7, hf, hf2, hst, hsl⟩ := fo_at C ok.2.2.1 hpl rfl hFO hkd
    have hlt := (C.lv.2.2.1 _ _ _ _ ok.2.2.1 i (C.lv.2.2.2.2.1 _ _ _ _ ok.2.2.1 i hpl).1).2.1
    have hsv : cell.slots[f.slot]? = some (rv mp (mk val)) := by rw [hsl, g7 k kd hkd, hval]
    have ok' : Ok E h mp H locs ls la (mk val :: sa) := by
      obtain ⟨o1, o2, o3, o4, o5, o6, o7⟩ := ok
      exact ⟨o1, o2, o3, o4, o5, o6, vk1 (hok hlt (C.lv.2.2.2.1 _ _ _ _ o3 i hlt)) (vkd o7)⟩
    have hk := kk val r h9 hx mp H locs ls ok'
    intro kx nx
    rw [List.map_cons, rv_vr, rfv_p mp hi]
    rcases f4 with e | ⟨host, e⟩
    · exact W.getf C.1 C.2.1 C.ow (C.ws _ e) hf2 hst g1 g2 hsv rfl rfl hd (hk kx nx)
    · exact va_Wgetf C.1 C.2.1 C.ow (va_Nw.use rfl (C.en.2.1 _ _ _ _ _ _ e)) hf2 hst g1 g2 hsv rfl rfl hd (hk kx nx)
  · cases hv
theorem s_getI {idx k i : Nat} (cs : List Nat) {cont : Int32 → Option (β × Hp)} (C : Cx E cc ret own) (hcs : ∀ t ∈ cs, FO own idx (t % 500) k ∧ (ftN (t % 500))[k]? = some 0) (hp : cs.all (ePl E) = true) (hd : decode cc pc = .ok (.getfield idx, 3)) (kk : ∀ v, Sim id E QF h (pc + 3) la (.int v :: sa) (cont v)) : Sim id E QF h pc la (vr i :: sa) ((getI cs k i h).bind cont) :=
  Sim.get (val := (h.2.2 i).2.2.1 k) Value.int C hcs hp rfl (fun _ => rfl) (fun _ _ => trivial) hd kk
theorem s_getL {idx k i : Nat} (cs : List Nat) {cont : Int64 → Option (β × Hp)} (C : Cx E cc ret own) (hcs : ∀ t ∈ cs, FO own idx (t % 500) k ∧ (ftN (t % 500))[k]? = some 2) (hp : cs.all (ePl E) = true) (hd : decode cc pc = .ok (.getfield idx, 3)) (kk : ∀ v, Sim id E QF h (pc + 3) la (.long v :: sa) (cont v)) : Sim id E QF h pc la (vr i :: sa) ((getL cs k i h).bind cont) :=
  Sim.get (val := (h.2.2 i).2.2.2.2 k) Value.long C hcs hp rfl (fun _ => rfl) (fun _ _ => trivial) hd kk
theorem s_getF {idx k i : Nat} (cs : List Nat) {cont : Int32 → Option (β × Hp)} (C : Cx E cc ret own) (hcs : ∀ t ∈ cs, FO own idx (t % 500) k ∧ (ftN (t % 500))[k]? = some 3) (hp : cs.all (ePl E) = true) (hd : decode cc pc = .ok (.getfield idx, 3)) (kk : ∀ v : Int32, Sim id E QF h (pc + 3) la (.float v.toUInt32 :: sa) (cont v)) : Sim id E QF h pc la (vr i :: sa) ((getI cs k i h).bind cont) :=
  Sim.get (val := (h.2.2 i).2.2.1 k) (fun v : Int32 => Value.float v.toUInt32) C hcs hp rfl (fun _ => rfl) (fun _ _ => trivial) hd kk
theorem s_getR {idx k i : Nat} (cs : List Nat) {cont : Nat → Option (β × Hp)} (C : Cx E cc ret own) (hcs : ∀ t ∈ cs, FO own idx (t % 500) k ∧ (ftN (t % 500))[k]? = some 1) (hp : cs.all (ePl E) = true) (hd : decode cc pc = .ok (.getfield idx, 3)) (kk : ∀ v, Sim id E QF h (pc + 3) la (vr v :: sa) (cont v)) : Sim id E QF h pc la (vr i :: sa) ((getR cs k i h).bind cont) :=
  Sim.get (val := (h.2.2 i).2.2.2.1 k) vr C hcs hp rfl (fun mp => (rv_vr mp _).symm) (fun _ hr => vOk_vr (hr k)) hd kk
theorem fval_set {mp : Nat → Nat} {c c1 : PC} {kd k j : Nat} (h : j ≠ k → c1.2.2.1 j = c.2.2.1 j ∧ c1.2.2.2.1 j = c.2.2.2.1 j ∧ c1.2.2.2.2 j = c.2.2.2.2 j) (hj : j ≠ k) : fval mp c1 kd j = fval mp c kd j := by
  obtain ⟨e1, e2, e3⟩ := h hj
  unfold fval
  rw [e1, e2, e3]
/-- writing a field -/
theorem Sim.put {idx k kd i : Nat} {cs : List Nat} {F : Option Hp} {v : Value} {c1 : PC} {P : Prop} [Decidable P] {cont : Hp → Option (β × Hp)} (C : Cx E cc ret own) (hcs : ∀ t ∈ cs, t < 500 ∧ FO own idx t k ∧ (ftN t)[k]? = some kd) (hp : cs.all (ePl E) = true)
    (hF : F = if tg h i ∈ cs ∧ P then some (hset h i c1) else none) (hc1 : c1.1 = tg h i) (hc2 : c1.2.1 = (h.2.2 i).2.1)
    (hc3 : ∀ j, j ≠ k → c1.2.2.1 j = (h.2.2 i).2.2.1 j ∧ c1.2.2.2.1 j = (h.2.2 i).2.2.2.1 j ∧ c1.2.2.2.2 j = (h.2.2 i).2.2.2.2 j) (hval : ∀ mp, fval mp c1 kd k = rv mp v) (hrk : i < h.1 → vOk h.1 v → (∀ k, (h.2.2 i).2.2.2.1 k < h.1) → ∀ j, c1.2.2.2.1 j < h.1)
    (hfit : P → ∀ t ∈ cs, ∀ (q : vw_C), clT[t - 1]? = some q → k < q.2.2 → ∀ mp, narrow (tyF t k) (rv mp v) = rv mp v ∧ fits (tyF t k) (rv mp v) = true)
    (hfin : ∀ t ∈ cs, ∀ (q : vw_C), clT[t - 1]? = some q → (q.2.1 k).2.2.2 = false ∨ ((q.2.1 k).2.2.2 = true ∧ (eMe E).name = "<init>" ∧ (q.2.1 k).1 = own ∧ Cond.fieldLink own idx own (q.2.1 k).2.1 (q.2.1 k).2.2.1 ∈ lw_all))
    (hd : decode cc pc = .ok (.putfield idx, 3)) (kk : ∀ h1, Sim id E QF h1 (pc + 3) la sa (cont h1)) : Sim id E QF h pc la (v :: vr i :: sa) (F.bind cont) := by
  intro r h9 hx mp H locs ls ok
  replace ok : Ok E h mp H locs ls la _ := ok
  obtain ⟨h1, hv, hx⟩ := Option.bind_eq_some_iff.mp hx
  rw [hF] at hv
  split at hv
  · rename_i hm
    cases hv
    obtain ⟨hm, hP⟩ := hm
    obtain ⟨h500, hFO, hkd⟩ := hcs _ hm
    have hpl := List.all_eq_true.mp hp _ hm
    obtain ⟨hi, q, ref, cell, cf, kf, fi, f, f2, f3, f4, g1, g2, g4, g6, g7, hf, hf2, hst, hsl⟩ := fo_at (t := tg h i) C ok.2.2.1 hpl (Nat.mod_eq_of_lt h500) hFO hkd
    have ht0 := (C.lv.2.2.2.2.1 _ _ _ _ ok.2.2.1 i hpl).1
    obtain ⟨-, hlt, hA, -⟩ := C.lv.2.2.1 _ _ _ _ ok.2.2.1 i ht0
    obtain ⟨-, cell', r1, r2, r3, -, r5, -⟩ := C.lv.2.2.2.2.1 _ _ _ _ ok.2.2.1 i hpl
    cases g1.symm.trans r1
    have hco := cok_all _ _ f2
    have e1 : tg h i - 1 + 1 = tg h i := by omega
    rw [e1] at hco
    obtain ⟨c1a, c1b, c1c, c1d, c1e, -⟩ := hco
    obtain ⟨hS, hfc, kC, hkC, hkind⟩ := C.en.1 _ _ f2
    have hap : ∀ x y, x < q.2.2 → y < q.2.2 → x ≠ y → (eG E).2.1 (tg h i - 1) x ≠ (eG E).2.1 (tg h i - 1) y := fun x y hx hy hne =>
      va_apart (D := ((eG E).1, (eG E).2.1)) (cl := clT) (tys := []) (own := own) C.ws c1a (tyF (tg h i)) c1b c1c ⟨fun c q hq => C.en.1 c q hq, fun k q hq => by simp at hq⟩ f2 x y hx hy hne
    have hvmn := g4 h500
    obtain ⟨fit1, fit2⟩ := hfit hP _ hm q f2 f3 mp
    have hslot : f.slot < cell.slots.size := by rw [hsl]; exact k2_hasslot (g7 k kd hkd)
    have ov := vkh ok.2.2.2.2.2.2
    have osa := vkd (vkd ok.2.2.2.2.2.2)
    have hgo : ∀ H1 : Heap, H1[mp i]? = some (cell.setSlot f.slot (rv mp v)) → H1.size = H.size → (∀ q : Nat, q ≠ mp i → H1[q]? = H[q]?) → ∀ kx nx, W (eP E) (eL E) (eE E) (eR E) (eS E) (eM E) (eA E) (eB E) (eMe E) (eC E) H1 (locs ++ [⟨mp i, f.slot⟩]) kx nx (QF r h9) (F0 (eM E) (pc + 3) ls (sa.map (rv mp))) := by
      intro H1 q1 q2 q3
      have hsz : (cell.setSlot f.slot (rv mp v)).slots.size = cell.slots.size := by simp [Cell.setSlot]
      refine kk _ r h9 hx mp H1 _ ls (ok.more Xt.rf (Nat.le_refl _) ?_ (ok.2.2.2.1.put q2 q3 (hA h500)) osa)
      refine C.lv.2.2.2.2.2.2.1 _ _ _ _ ok.2.2.1 i c1 H1 hpl h500 hc1 hc2 (hrk hlt ov (C.lv.2.2.2.1 _ _ _ _ ok.2.2.1 i hlt)) q2 (totS_set q2 q3 g1 q1 hsz) q3 ?_
      refine ⟨_, q1, g2, r3, fun _ => hvmn, fun _ => ?_, fun hk => ?_⟩
      · rw [hc1, Nat.mod_eq_of_lt h500]
        refine ⟨g6, fun j kj hj => ?_⟩
        have hjl : j < q.2.2 := by rw [← c1d]; exact (List.getElem?_eq_some_iff.mp hj).1
        by_cases hjk : j = k
        · subst hjk
          cases hj.symm.trans hkd
          rw [hval, ← hsl]
          simp [Cell.setSlot, hslot]
        · rw [fval_set (fun _ => hc3 j hjk) hjk, ← g7 j kj hj, hsl]
          have := hap k j f3 hjl (fun e => hjk e.symm)
          simp [Cell.setSlot, this]
      · rw [hc1, Nat.mod_eq_of_lt h500] at hk
        have := hFO.2.1
        omega
    intro kx nx
    rw [List.map_cons, List.map_cons, rv_vr, rfv_p mp hi]
    rcases hfin _ hm q f2 with hf0 | ⟨hf0, hnm, hown, hlink⟩
    · have hlay := C.ws _ (c1a _ (u_in_lay f3))
      unfold u_lay at hlay
      rw [if_neg (by rw [hf0]; decide)] at hlay
      have h6 := u_store hfc hkC hkind hlay hf (c1b k f3) fit1 fit2
      rcases f4 with e | ⟨host, e⟩
      · exact W.putK C.1 C.2.1 (f := f) ⟨C.ow, C.ws _ e, ⟨_, _, _, hf2⟩, hst⟩ (by rw [g6]; exact h6) g1 hvmn hslot rfl rfl hd fun H1 q1 q2 q3 => hgo H1 q1 q2 q3 kx nx
      · exact va_WputK C.1 C.2.1 (f := f) C.ow (va_Nw.use rfl (C.en.2.1 _ _ _ _ _ _ e)) hf2 hst (by rw [g6]; exact h6) g1 hvmn hslot rfl rfl hd fun H1 q1 q2 q3 => hgo H1 q1 q2 q3 kx nx
    · have hlay := C.ws _ (c1a _ (u_in_lay f3))
      unfold u_lay at hlay
      rw [if_pos hf0] at hlay
      have hcf : (eM E).cls = cf := by
        obtain ⟨_, _, c', _, _, _, -, -, hf', -, -, -, ho2, -⟩ := Cond.laysFinal_spec hlay
        have e2 := hf.symm.trans hf'
        simp at e2
        rw [hown] at ho2
        rw [e2.1]
        exact Option.some.inj (C.ow.symm.trans ho2)
      have h6 := u_fits hfc hkC hkind (Or.inr hlay) hf (c1b k f3) fit1 fit2
      exact W.putFinK C.1 C.2.1 C.ow (C.ws _ hlink) (by rw [← hown]; exact hf) hst hcf hnm (by rw [g6]; exact h6) g1 hvmn hslot rfl rfl hd fun H1 q1 q2 q3 => hgo H1 q1 q2 q3 kx nx
  · cases hv

theorem nrw_fits {tk : Nat} {v : Int32} (h : nrw tk v = v) (hk : tk < 5) (h3 : tk ≠ 3) : narrow (tyA tk) (.int v) = .int v ∧ fits (tyA tk) (.int v) = true := by
  refine ⟨by rw [nrw_ok v hk h3, h], ?_⟩
  match tk, hk, h with
  | 0, _, _ => rfl
  | 1, _, h =>
    have h : v.toInt8.toInt32 = v := h
    have h1 : -128 ≤ v.toInt8.toInt ∧ v.toInt8.toInt ≤ 127 := ⟨Int8.le_toInt _, by have := Int8.toInt_lt v.toInt8; omega⟩
    have h2 : v.toInt = v.toInt8.toInt := by rw [← Int8.toInt_toInt32, h]
    simp only [tyA, fits, Bool.and_eq_true, decide_eq_true_eq, Int32.le_iff_toInt_le]
    rw [h2]
    exact h1
  | 2, _, h =>
    have h : v &&& 1 = v := h
    have h2 : v.toBitVec &&& 1#32 = v.toBitVec := congrArg Int32.toBitVec h
    rw [BitVec.and_one_eq_setWidth_ofBool_getLsbD] at h2
    have : v = 0 ∨ v = 1 := by
      cases hb : v.toBitVec.getLsbD 0 with
      | false => rw [hb] at h2; exact Or.inl (Int32.toBitVec_inj.mp (by rw [← h2]; rfl))
      | true => rw [hb] at h2; exact Or.inr (Int32.toBitVec_inj.mp (by rw [← h2]; rfl))
    rcases this with e | e <;> subst e <;> rfl
  | 3, _, _ => exact absurd rfl h3
  | 4, _, h =>
    have h : v.toUInt32.toUInt16.toUInt32.toInt32 = v := h
    simp only [tyA, fits, Bool.and_eq_true, decide_eq_true_eq]
    rw [← h]
    generalize v.toUInt32.toUInt16 = u
    have h2 : u.toUInt32.toInt32.toInt = (u.toNat : Int) := by
      show (u.toBitVec.setWidth 32).toInt = _
      have h3 : (u.toBitVec.setWidth 32).toNat = u.toNat := by
        rw [BitVec.toNat_setWidth]
        exact Nat.mod_eq_of_lt (Nat.lt_of_lt_of_le u.toNat_lt (by decide))
      rw [BitVec.toInt_eq_toNat_of_lt (by rw [h3]; have := u.toNat_lt; omega), h3]
    have := u.toNat_lt
    rw [Int32.le_iff_toInt_le, Int32.le_iff_toInt_le, h2]
    exact ⟨Int.natCast_nonneg _, by show (u.toNat : Int) ≤ 65535; omega⟩
/-- the last word on a field: is it final, whose is it -/
def FI (t k : Nat) : Bool := match clT[t - 1]? with
  | some q => (q.2.1 k).2.2.2
  | none => false
theorem FI.no {t k : Nat} {q : vw_C} (h : FI t k = false) (hq : clT[t - 1]? = some q) : (q.2.1 k).2.2.2 = false := by
  unfold FI at h
  rw [hq] at h
  exact h
/-- a final field, written by its own class's constructor -/
def FX (own : String) (idx t k : Nat) : Prop := ∃ q : vw_C, clT[t - 1]? = some q ∧ (q.2.1 k).2.2.2 = true ∧ (q.2.1 k).1 = own ∧ Cond.fieldLink own idx own (q.2.1 k).2.1 (q.2.1 k).2.2.1 ∈ lw_all
theorem hfin_of {idx k : Nat} {cs : List Nat} (h : ∀ t ∈ cs, FI t k = false ∨ ((eMe E).name = "<init>" ∧ FX own idx t k)) : ∀ t ∈ cs, ∀ (q : vw_C), clT[t - 1]? = some q → (q.2.1 k).2.2.2 = false ∨ ((q.2.1 k).2.2.2 = true ∧ (eMe E).name = "<init>" ∧ (q.2.1 k).1 = own ∧ Cond.fieldLink own idx own (q.2.1 k).2.1 (q.2.1 k).2.2.1 ∈ lw_all) := by
  intro t ht q hq
  rcases h t ht with e | ⟨e, q', h1, h2, h3, h4⟩
  · exact Or.inl (FI.no e hq)
  · cases hq.symm.trans h1
    exact Or.inr ⟨h2, e, h3, h4⟩
theorem s_putI {idx k i : Nat} (cs : List Nat) (tk : Nat) {v : Int32} {cont : Hp → Option (β × Hp)} (C : Cx E cc ret own) (hk : tk < 5) (h3 : tk ≠ 3) (hcs : ∀ t ∈ cs, (t < 500 ∧ FO own idx t k ∧ (ftN t)[k]? = some 0) ∧ tyF t k = tyA tk) (hp : cs.all (ePl E) = true)
    (hfin : ∀ t ∈ cs, FI t k = false ∨ ((eMe E).name = "<init>" ∧ FX own idx t k)) (hd : decode cc pc = .ok (.putfield idx, 3)) (kk : ∀ h1, Sim id E QF h1 (pc + 3) la sa (cont h1)) : Sim id E QF h pc la (.int v :: vr i :: sa) ((putI cs tk k i v h).bind cont) :=
  Sim.put (kd := 0) (v := .int v) (c1 := upI (h.2.2 i) k v) C (fun t ht => (hcs t ht).1) hp rfl rfl rfl (fun j hj => ⟨if_neg hj, rfl, rfl⟩) (fun _ => by simp [fval, upI, rv]) (fun _ _ hr j => hr j) (fun hP t ht q hq hk' mp => by rw [(hcs t ht).2]; exact nrw_fits hP hk h3) (hfin_of hfin) hd kk
theorem s_putR {idx k i : Nat} (cs : List Nat) {v : Nat} {cont : Hp → Option (β × Hp)} (C : Cx E cc ret own) (hcs : ∀ t ∈ cs, t < 500 ∧ FO own idx t k ∧ (ftN t)[k]? = some 1) (hp : cs.all (ePl E) = true)
    (hfin : ∀ t ∈ cs, FI t k = false ∨ ((eMe E).name = "<init>" ∧ FX own idx t k)) (hd : decode cc pc = .ok (.putfield idx, 3)) (kk : ∀ h1, Sim id E QF h1 (pc + 3) la sa (cont h1)) : Sim id E QF h pc la (vr v :: vr i :: sa) ((putR cs k i v h).bind cont) :=
  Sim.put (P := True) (kd := 1) (v := vr v) (c1 := upR (h.2.2 i) k v) C hcs hp (by unfold putR; simp) rfl rfl (fun j hj => ⟨rfl, if_neg hj, rfl⟩) (fun mp => by rw [rv_vr]; simp [fval, upR]) (fun hi hv hr j => by
      show (if j = k then v else _) < h.1
      split
      · exact vOk_of_vr hv (by omega)
      · exact hr j) (fun _ t ht q hq hk' mp => by
      have h1 := hcs t ht
      have hco := cok_all _ _ hq
      have ht0 : t ≠ 0 := h1.2.1.1
      have e1 : t - 1 + 1 = t := by omega
      rw [e1] at hco
      have h2 := hco.2.2.2.2.1 k hk'
      have h3 : kdT (tyF t k) = 1 := Option.some.inj (h2.symm.trans h1.2.2)
      rw [rv_vr]
      generalize tyF t k = ty at h3
      cases ty <;> simp only [kdT] at h3 <;> first | omega | (unfold rfv rfo; split <;> exact ⟨rfl, rfl⟩)) (hfin_of hfin) hd kk
theorem s_putL {idx k i : Nat} (cs : List Nat) {v : Int64} {cont : Hp → Option (β × Hp)} (C : Cx E cc ret own) (hcs : ∀ t ∈ cs, (t < 500 ∧ FO own idx t k ∧ (ftN t)[k]? = some 2) ∧ tyF t k = .long) (hp : cs.all (ePl E) = true)
    (hfin : ∀ t ∈ cs, FI t k = false ∨ ((eMe E).name = "<init>" ∧ FX own idx t k)) (hd : decode cc pc = .ok (.putfield idx, 3)) (kk : ∀ h1, Sim id E QF h1 (pc + 3) la sa (cont h1)) : Sim id E QF h pc la (.long v :: vr i :: sa) ((putL cs k i v h).bind cont) :=
  Sim.put (P := True) (kd := 2) (v := .long v) (c1 := upL (h.2.2 i) k v) C (fun t ht => (hcs t ht).1) hp (by unfold putL; simp) rfl rfl (fun j hj => ⟨rfl, rfl, if_neg hj⟩) (fun mp => by simp [fval, upL, rv]) (fun _ _ hr j => hr j) (fun _ t ht q hq hk' mp => by rw [(hcs t ht).2]; exact ⟨rfl, rfl⟩) (hfin_of hfin) hd kk
end Heap
