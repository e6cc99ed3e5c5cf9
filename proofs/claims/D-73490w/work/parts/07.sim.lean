/-! WALKS: a method's bytecode is shown to do what a pure function says (Sim); its contract (Ct) -/
set_option maxRecDepth 100000
abbrev Lv : Type := Hp → (Nat → Nat) → State → Heap → Prop
abbrev Kx : Type := Program × Launch × Env × Room × State × MethodId × Array Value × List Frame × Method × Code
/-- what stays all through a walk: the machine's, the numbers of the start, the heap's relation, the renaming and the next number at the method's start, the number of locals, which tags are plain -/
abbrev Ex : Type := Kx × Gx × Lv × (Nat → Nat) × Nat × Nat × (Nat → Bool)
abbrev eG (E : Ex) : Gx := E.2.1
abbrev eRL (E : Ex) : Lv := E.2.2.1
abbrev eMp (E : Ex) : Nat → Nat := E.2.2.2.1
abbrev eN0 (E : Ex) : Nat := E.2.2.2.2.1
abbrev eNL (E : Ex) : Nat := E.2.2.2.2.2.1
abbrev ePl (E : Ex) : Nat → Bool := E.2.2.2.2.2.2
abbrev eP (E : Ex) : Program := E.1.1
abbrev eL (E : Ex) : Launch := E.1.2.1
abbrev eE (E : Ex) : Env := E.1.2.2.1
abbrev eR (E : Ex) : Room := E.1.2.2.2.1
abbrev eS (E : Ex) : State := E.1.2.2.2.2.1
abbrev eM (E : Ex) : MethodId := E.1.2.2.2.2.2.1
abbrev eA (E : Ex) : Array Value := E.1.2.2.2.2.2.2.1
abbrev eB (E : Ex) : List Frame := E.1.2.2.2.2.2.2.2.1
abbrev eMe (E : Ex) : Method := E.1.2.2.2.2.2.2.2.2.1
abbrev eC (E : Ex) : Code := E.1.2.2.2.2.2.2.2.2.2
/-- a value's reference is a number in use -/
def vOk (n : Nat) (v : Value) : Prop := match v with
  | .ref i => i = 0 ∨ i < n
  | _ => True
theorem vOk_vr {n r : Nat} (h : r < n) : vOk n (vr r) := Or.inr h
theorem vOk_of_vr {n r : Nat} (h : vOk n (vr r)) (h0 : 0 < n) : r < n := h.elim (fun e => e ▸ h0) id
theorem vOk.mono {n n' : Nat} {v : Value} (h : vOk n v) (hn : n ≤ n') : vOk n' v := by
  cases v <;> first | trivial | exact h.imp id (fun h => Nat.lt_of_lt_of_le h hn)
/-- a renaming goes on -/
def Xt (n : Nat) (mp mp' : Nat → Nat) : Prop := ∀ i, i < n → mp' i = mp i
theorem Xt.rf {n : Nat} {mp : Nat → Nat} : Xt n mp mp := fun _ _ => rfl
theorem Xt.trans {n n' : Nat} {a b c : Nat → Nat} (h : Xt n a b) (h2 : Xt n' b c) (hn : n ≤ n') : Xt n a c := fun i hi => (h2 i (Nat.lt_of_lt_of_le hi hn)).trans (h i hi)
theorem xt_rv {n : Nat} {mp mp' : Nat → Nat} (h : Xt n mp mp') {v : Value} (hv : vOk n v) : rv mp' v = rv mp v := by
  cases v <;> first | rfl | skip
  rename_i i
  show rfv mp' i = rfv mp i
  unfold rfv rfo
  by_cases h0 : i = 0
  · rw [if_pos h0, if_pos h0]
  · rw [if_neg h0, if_neg h0, h i (hv.resolve_left h0)]
theorem xt_rvs {n : Nat} {mp mp' : Nat → Nat} (h : Xt n mp mp') {vs : List Value} (hv : ∀ v ∈ vs, vOk n v) : vs.map (rv mp') = vs.map (rv mp) := List.map_congr_left fun v hm => xt_rv h (hv v hm)
abbrev rvl (mp : Nat → Nat) (la : List (Nat × Value)) : List (Nat × Value) := la.map (fun q => (q.1, rv mp q.2))
theorem xt_rvl {n : Nat} {mp mp' : Nat → Nat} (h : Xt n mp mp') {la : List (Nat × Value)} (hv : ∀ q ∈ la, vOk n q.2) : rvl mp' la = rvl mp la := List.map_congr_left fun q hm => by rw [xt_rv h (hv q hm)]
/-- a cell's tag -/
abbrev tg (h : Hp) (i : Nat) : Nat := (h.2.2 i).1
/-- the cell i becomes c -/
def hset (h : Hp) (i : Nat) (c : PC) : Hp := (h.1, h.2.1, fun x => if x = i then c else h.2.2 x)
/-- a new cell c, with n slots -/
def hnew (h : Hp) (n : Nat) (c : PC) : Hp := (h.1 + 1, h.2.1 + (n + 1), fun x => if x = h.1 then c else h.2.2 x)
/-- what the whole run may cost: cells and slots together -/
def LIM : Nat := 1200000
/-- WHAT A HEAP'S RELATION MUST GIVE: it is kept by what resolution notes; what it costs is paid; what a cell is; references are in use; plain cells are read and written as the machine does; new cells come -/
def LvA (G : Gx) (RL : Lv) (Pl : Nat → Bool) : Prop :=
  (∀ h mp u U H, u.vm.Alike U.vm → RL h mp u H → RL h mp U H) ∧
  (∀ h mp U H, RL h mp U H → H.size ≤ gB G + h.2.1 ∧ totS H ≤ gT G + h.2.1 ∧ gB G ≤ H.size ∧ 0 < h.1 ∧ h.2.1 ≤ LIM) ∧
  (∀ h mp U H, RL h mp U H → ∀ i, tg h i ≠ 0 → i ≠ 0 ∧ i < h.1 ∧ (tg h i < 500 → gB G ≤ mp i) ∧ ∃ cell : Cell, H[mp i]? = some cell ∧ cell.vm.isStatics = false ∧ (tg h i % 500 < 200 → cell.cls = G.1 (tg h i % 500 - 1))) ∧
  (∀ h mp U H, RL h mp U H → ∀ i, i < h.1 → ∀ k, (h.2.2 i).2.2.2.1 k < h.1) ∧
  (∀ h mp U H, RL h mp U H → ∀ i, Pl (tg h i) = true → tg h i ≠ 0 ∧ AtC G mp (h.2.2 i) (mp i) U H) ∧
  (∀ h mp U H, RL h mp U H → ∀ i j, i ≠ 0 → j ≠ 0 → i < h.1 → j < h.1 → mp i = mp j → i = j) ∧
  (∀ h mp U H, RL h mp U H → ∀ i c H1, Pl (tg h i) = true → tg h i < 500 → c.1 = tg h i → c.2.1 = (h.2.2 i).2.1 → (∀ k, c.2.2.2.1 k < h.1) → H1.size = H.size → totS H1 = totS H → (∀ q : Nat, q ≠ mp i → H1[q]? = H[q]?) → AtC G mp c (mp i) U H1 → RL (hset h i c) mp U H1) ∧
  (∀ h mp U H, RL h mp U H → ∀ n c H1, Pl c.1 = true → c.1 < 500 → (∀ k, c.2.2.2.1 k = 0) → h.2.1 + (n + 1) ≤ LIM → H1.size = H.size + 1 → totS H1 = totS H + n → (∀ q : Nat, q < H.size → H1[q]? = H[q]?) → AtC G mp c H.size U H1 → ∃ mp', Xt h.1 mp mp' ∧ mp' h.1 = H.size ∧ RL (hnew h n c) mp' U H1) ∧
  (∀ h mp U H, RL h mp U H → 400 ≤ h.1 ∧ ∀ i, i ≠ 0 → i < 400 → mp i = gC G i)
/-- W, however much it is said to have made -/
def WE (E : Ex) (H : Heap) (locs : List Loc) (Q : State → Prop) (g : JFrame) : Prop := ∀ k n : Nat, W (eP E) (eL E) (eE E) (eR E) (eS E) (eM E) (eA E) (eB E) (eMe E) (eC E) H locs k n Q g
/-- what has been made is what the heap shows -/
theorem WE.tight {E : Ex} {H : Heap} {locs : List Loc} {Q : State → Prop} {g : JFrame} {k n : Nat} (h : W (eP E) (eL E) (eE E) (eR E) (eS E) (eM E) (eA E) (eB E) (eMe E) (eC E) H locs (H.size - (eS E).heap.size) (totS H - totS (eS E).heap) Q g) : W (eP E) (eL E) (eE E) (eR E) (eS E) (eM E) (eA E) (eB E) (eMe E) (eC E) H locs k n Q g := by
  intro T hT X
  refine h T hT { X with same := ?_ }
  have hb := X.book
  have hr : (eS E).slotsTrue = true := by
    have h1 := X.room
    simp only [State.hasRoom, Bool.and_eq_true] at h1
    exact h1.2
  obtain ⟨h1, h2, h3, h4, h5, h6⟩ := X.same
  have hT' : (T.setVm (eS E).vm).heap = H := hT
  have e1 : T.slotsUsed = totS H := by
    have h7 : T.slotsUsed = totS T.heap := by simpa [State.slotsTrue, totS] using hb
    rw [h7, hT]
  have e2 : (eS E).slotsUsed = totS (eS E).heap := by simpa [State.slotsTrue, totS] using hr
  have e3 : (T.setVm (eS E).vm).slotsUsed = T.slotsUsed := rfl
  rw [hT'] at h2 h3 h4 h5 h6
  refine ⟨h1, by rw [hT']; exact h2, by rw [hT']; omega, by rw [hT']; exact h4, ?_, by rw [hT']; exact h6⟩
  rw [hT']
  rw [e3, e1, e2] at h4
  omega
theorem WE.of {E : Ex} {H : Heap} {locs : List Loc} {Q : State → Prop} {g : JFrame} (h : W (eP E) (eL E) (eE E) (eR E) (eS E) (eM E) (eA E) (eB E) (eMe E) (eC E) H locs (H.size - (eS E).heap.size) (totS H - totS (eS E).heap) Q g) : WE E H locs Q g := fun _ _ => WE.tight h
/-- the room does for what the run may cost -/
def Rm (E : Ex) : Prop := LIM + gB (eG E) ≤ (eR E).cells + (eS E).heap.size ∧ LIM + gT (eG E) ≤ (eR E).slots + totS (eS E).heap
/-- what holds at a place of a walk -/
def Ok (E : Ex) (h : Hp) (mp : Nat → Nat) (H : Heap) (locs : List Loc) (ls : Array Slot) (la : List (Nat × Value)) (sa : List Value) : Prop :=
  Xt (eN0 E) (eMp E) mp ∧ eN0 E ≤ h.1 ∧ eRL E h mp (eS E) H ∧ va_S (gA (eG E)) (eS E).heap H locs ∧ lv_has ls (eNL E) (rvl mp la) ∧ (∀ q ∈ la, vOk h.1 q.2) ∧ (∀ v ∈ sa, vOk h.1 v)
/-- THE WALK: from this place on the code does what x says -/
def Sim {σ β : Type} (V : σ → Hp) (E : Ex) (QF : β → σ → State → Prop) (h : σ) (pc : Nat) (la : List (Nat × Value)) (sa : List Value) (x : Option (β × σ)) : Prop :=
  ∀ (r : β) (h9 : σ), x = some (r, h9) → ∀ (mp : Nat → Nat) (H : Heap) (locs : List Loc) (ls : Array Slot), Ok E (V h) mp H locs ls la sa → WE E H locs (QF r h9) (F0 (eM E) pc ls (sa.map (rv mp)))
/-- what a walk's rows take of the method -/
def Cx (E : Ex) (cc : ByteArray) (ret : Option FieldType) (own : String) : Prop :=
  (eP E).tables.exec = Jvm.exec ∧ (eC E).code = cc ∧ (eMe E).sig.returnType = ret ∧ (eC E).maxLocals = eNL E ∧ (eS E).vm.findClass own = some (eM E).cls ∧ (∀ w ∈ lw_all, w.before (eA E) (eS E) = true) ∧ (eMe E).locks = false ∧ En (eG E) (eS E) ∧ LvA (eG E) (eRL E) (ePl E) ∧ Rm E
theorem Cx.lv {E : Ex} {cc : ByteArray} {ret : Option FieldType} {own : String} (C : Cx E cc ret own) : LvA (eG E) (eRL E) (ePl E) := C.2.2.2.2.2.2.2.2.1
theorem Cx.en {E : Ex} {cc : ByteArray} {ret : Option FieldType} {own : String} (C : Cx E cc ret own) : En (eG E) (eS E) := C.2.2.2.2.2.2.2.1
theorem Cx.ws {E : Ex} {cc : ByteArray} {ret : Option FieldType} {own : String} (C : Cx E cc ret own) : ∀ w ∈ lw_all, w.before (eA E) (eS E) = true := C.2.2.2.2.2.1
theorem Cx.ow {E : Ex} {cc : ByteArray} {ret : Option FieldType} {own : String} (C : Cx E cc ret own) : (eS E).vm.findClass own = some (eM E).cls := C.2.2.2.2.1
theorem Cx.nl {E : Ex} {cc : ByteArray} {ret : Option FieldType} {own : String} (C : Cx E cc ret own) : (eC E).maxLocals = eNL E := C.2.2.2.1
theorem Cx.lk {E : Ex} {cc : ByteArray} {ret : Option FieldType} {own : String} (C : Cx E cc ret own) : (eMe E).locks = false := C.2.2.2.2.2.2.1
theorem sim_none {σ β : Type} {V : σ → Hp} {E : Ex} {QF : β → σ → State → Prop} {h : σ} {pc : Nat} {la : List (Nat × Value)} {sa : List Value} : Sim V E QF h pc la sa none := fun _ _ hx => by cases hx
theorem Sim.eq {σ β : Type} {V : σ → Hp} {E : Ex} {QF : β → σ → State → Prop} {h : σ} {pc : Nat} {la : List (Nat × Value)} {sa : List Value} {x y : Option (β × σ)} (e : x = y) (k : Sim V E QF h pc la sa y) : Sim V E QF h pc la sa x := e ▸ k
/-- only some locals are looked at from here -/
theorem Sim.keep {σ β : Type} {V : σ → Hp} {E : Ex} {QF : β → σ → State → Prop} {h : σ} {pc : Nat} {la la' : List (Nat × Value)} {sa : List Value} {x : Option (β × σ)} (is : List Nat) (hs : is.filterMap (fun i => la[i]?) = la') (k : Sim V E QF h pc la' sa x) : Sim V E QF h pc la sa x := by
  intro r h9 hx mp H locs ls ok
  refine k r h9 hx mp H locs ls ?_
  obtain ⟨o1, o2, o3, o4, o5, o6, o7⟩ := ok
  refine ⟨o1, o2, o3, o4, lv_sub o5 is ?_, fun q hq => ?_, o7⟩
  · rw [← hs]
    simp only [rvl, lv_pick, List.map_filterMap, List.getElem?_map]
  · rw [← hs] at hq
    obtain ⟨i, -, hi⟩ := List.mem_filterMap.mp hq
    exact o6 q (List.mem_of_getElem? hi)
/-- a loop: the pure one is a fold over its fuel -/
def lp {σ β ρ : Type} : Nat → ((β → σ → Option ρ) → β → σ → Option ρ) → β → σ → Option ρ
  | 0, _, _, _ => none
  | n + 1, B, v, h => B (lp n B) v h
theorem Sim.loop {σ β ν : Type} {V : σ → Hp} {E : Ex} {QF : β → σ → State → Prop} {pc : Nat} (la : ν → List (Nat × Value)) (sa : ν → List Value) {B : (ν → σ → Option (β × σ)) → ν → σ → Option (β × σ)}
    (hs : ∀ rec : ν → σ → Option (β × σ), (∀ v h, Sim V E QF h pc (la v) (sa v) (rec v h)) → ∀ v h, Sim V E QF h pc (la v) (sa v) (B rec v h)) (n : Nat) (v : ν) (h : σ) : Sim V E QF h pc (la v) (sa v) (lp n B v h) := by
  induction n generalizing v h with
  | zero => exact sim_none
  | succ n ih => exact hs (lp n B) (fun v h => ih v h) v h
section Rows
variable {σ β : Type} {V : σ → Hp} {E : Ex} {QF : β → σ → State → Prop} {h : σ} {pc : Nat} {la la' : List (Nat × Value)} {sa : List Value} {x X Y : Option (β × σ)} {cc : ByteArray} {ret : Option FieldType} {own : String}
/-- a row that leaves heap and locals alone -/
theorem Sim.step (pc' : Nat) (sa' : List Value) (hv : ∀ (n : Nat), (∀ q ∈ la, vOk n q.2) → (∀ v ∈ sa, vOk n v) → ∀ v ∈ sa', vOk n v)
    (hw : ∀ (mp : Nat → Nat) (H : Heap) (locs : List Loc) (ls : Array Slot) (Q : State → Prop) (k n : Nat), lv_has ls (eNL E) (rvl mp la) → WE E H locs Q (F0 (eM E) pc' ls (sa'.map (rv mp))) → W (eP E) (eL E) (eE E) (eR E) (eS E) (eM E) (eA E) (eB E) (eMe E) (eC E) H locs k n Q (F0 (eM E) pc ls (sa.map (rv mp))))
    (kk : Sim V E QF h pc' la sa' x) : Sim V E QF h pc la sa x := by
  intro r h9 hx mp H locs ls ok k n
  refine hw mp H locs ls _ k n ok.2.2.2.2.1 (kk r h9 hx mp H locs ls ?_)
  obtain ⟨o1, o2, o3, o4, o5, o6, o7⟩ := ok
  exact ⟨o1, o2, o3, o4, o5, o6, hv _ o6 o7⟩
theorem lv_get {ls : Array Slot} {nL : Nat} {mp : Nat → Nat} (hl : lv_has ls nL (rvl mp la)) (i : Nat) {k : Nat} {v : Value} (hi : la[i]? = some (k, v)) : ls[k]? = some (.val (rv mp v)) :=
  lv_at hl i (by simp only [rvl, List.getElem?_map, hi]; rfl)
theorem vk1 {n : Nat} {v : Value} (h : vOk n v) (hs : ∀ v ∈ sa, vOk n v) : ∀ u ∈ v :: sa, vOk n u := fun u hu => (List.mem_cons.mp hu).elim (fun e => by rw [e]; exact h) (hs u)
theorem vkd {n : Nat} {v : Value} (hs : ∀ u ∈ v :: sa, vOk n u) : ∀ u ∈ sa, vOk n u := fun u hu => hs u (List.mem_cons_of_mem _ hu)
theorem vkl {n i k : Nat} {v : Value} (hl : ∀ q ∈ la, vOk n q.2) (hi : la[i]? = some (k, v)) : vOk n v := hl _ (List.mem_of_getElem? hi)
theorem vkh {n : Nat} {v : Value} (hs : ∀ u ∈ v :: sa, vOk n u) : vOk n v := hs v List.mem_cons_self

theorem s_iconst (C : Cx E cc ret own) {n : Int} (v : Int32) (hd : decode cc pc = .ok (.iconst n, 1)) (hv : Int32.ofInt n = v) (kk : Sim V E QF h (pc + 1) la (.int v :: sa) x) : Sim V E QF h pc la sa x :=
  Sim.step (pc + 1) (.int v :: sa) (fun _ _ hs => vk1 trivial hs) (fun mp H locs ls Q k n hl kk => lv_iconst C.1 C.2.1 hd hv (kk k n)) kk
theorem s_lconst (C : Cx E cc ret own) {n : Fin 2} (v : Int64) (hd : decode cc pc = .ok (.lconst n, 1)) (hv : Int64.ofNat (n : Nat) = v) (kk : Sim V E QF h (pc + 1) la (.long v :: sa) x) : Sim V E QF h pc la sa x :=
  Sim.step (pc + 1) (.long v :: sa) (fun _ _ hs => vk1 trivial hs) (fun mp H locs ls Q k n hl kk => lv_lconst C.1 C.2.1 hd hv (kk k n)) kk
theorem s_bipush (C : Cx E cc ret own) {n : Int} (v : Int32) (hd : decode cc pc = .ok (.bipush n, 2)) (hv : (Int8.ofInt n).toInt32 = v) (kk : Sim V E QF h (pc + 2) la (.int v :: sa) x) : Sim V E QF h pc la sa x :=
  Sim.step (pc + 2) (.int v :: sa) (fun _ _ hs => vk1 trivial hs) (fun mp H locs ls Q k n hl kk => lv_bipush C.1 C.2.1 hd hv (kk k n)) kk
theorem s_sipush (C : Cx E cc ret own) {n : Int} (v : Int32) (hd : decode cc pc = .ok (.sipush n, 3)) (hv : (Int16.ofInt n).toInt32 = v) (kk : Sim V E QF h (pc + 3) la (.int v :: sa) x) : Sim V E QF h pc la sa x :=
  Sim.step (pc + 3) (.int v :: sa) (fun _ _ hs => vk1 trivial hs) (fun mp H locs ls Q k n hl kk => lv_sipush C.1 C.2.1 hd hv (kk k n)) kk
theorem s_null (C : Cx E cc ret own) (hd : decode cc pc = .ok (.aconst_null, 1)) (kk : Sim V E QF h (pc + 1) la (vr 0 :: sa) x) : Sim V E QF h pc la sa x :=
  Sim.step (pc + 1) (vr 0 :: sa) (fun _ _ hs => vk1 (Or.inl rfl) hs) (fun mp H locs ls Q k n hl kk => lv_null C.1 C.2.1 hd (kk k n)) kk
theorem s_ldci (C : Cx E cc ret own) {idx : Nat} {v : Int32} (hw : Cond.constant own idx v ∈ lw_all) (hd : decode cc pc = .ok (.ldc idx, 2)) (kk : Sim V E QF h (pc + 2) la (.int v :: sa) x) : Sim V E QF h pc la sa x :=
  Sim.step (pc + 2) (.int v :: sa) (fun _ _ hs => vk1 trivial hs) (fun mp H locs ls Q k n hl kk => lv_ldc C.1 C.2.1 C.2.2.2.2.1 (C.2.2.2.2.2.1 _ hw) hd (kk k n)) kk
theorem s_ldcwi (C : Cx E cc ret own) {idx : Nat} {v : Int32} (hw : Cond.constant own idx v ∈ lw_all) (hd : decode cc pc = .ok (.ldc_w idx, 3)) (kk : Sim V E QF h (pc + 3) la (.int v :: sa) x) : Sim V E QF h pc la sa x :=
  Sim.step (pc + 3) (.int v :: sa) (fun _ _ hs => vk1 trivial hs) (fun mp H locs ls Q k n hl kk => lv_ldcw C.1 C.2.1 C.2.2.2.2.1 (C.2.2.2.2.2.1 _ hw) hd (kk k n)) kk
theorem s_ldc2 (C : Cx E cc ret own) {idx : Nat} {v : Int64} (hw : Cond.constantLong own idx v ∈ lw_all) (hd : decode cc pc = .ok (.ldc2_w idx, 3)) (kk : Sim V E QF h (pc + 3) la (.long v :: sa) x) : Sim V E QF h pc la sa x :=
  Sim.step (pc + 3) (.long v :: sa) (fun _ _ hs => vk1 trivial hs) (fun mp H locs ls Q k n hl kk => lv_ldc2 C.1 C.2.1 C.2.2.2.2.1 (C.2.2.2.2.2.1 _ hw) hd (kk k n)) kk
theorem s_iload_n (C : Cx E cc ret own) {kf : Fin 4} {j : Nat} {a : Int32} (hd : decode cc pc = .ok (.iload_n kf, 1)) (i : Nat) (hi : la[i]? = some (j, .int a)) (hj : (kf : Nat) = j) (kk : Sim V E QF h (pc + 1) la (.int a :: sa) x) : Sim V E QF h pc la sa x :=
  Sim.step (pc + 1) (.int a :: sa) (fun _ _ hs => vk1 trivial hs) (fun mp H locs ls Q k n hl kk => lv_iload_n C.1 C.2.1 hd hj (lv_get hl i hi) (kk k n)) kk
theorem s_iload (C : Cx E cc ret own) {j : Nat} {a : Int32} (hd : decode cc pc = .ok (.iload j, 2)) (i : Nat) (hi : la[i]? = some (j, .int a)) (kk : Sim V E QF h (pc + 2) la (.int a :: sa) x) : Sim V E QF h pc la sa x :=
  Sim.step (pc + 2) (.int a :: sa) (fun _ _ hs => vk1 trivial hs) (fun mp H locs ls Q k n hl kk => lv_iload C.1 C.2.1 hd (lv_get hl i hi) (kk k n)) kk
theorem s_lload_n (C : Cx E cc ret own) {kf : Fin 4} {j : Nat} {a : Int64} (hd : decode cc pc = .ok (.lload_n kf, 1)) (i : Nat) (hi : la[i]? = some (j, .long a)) (hj : (kf : Nat) = j) (kk : Sim V E QF h (pc + 1) la (.long a :: sa) x) : Sim V E QF h pc la sa x :=
  Sim.step (pc + 1) (.long a :: sa) (fun _ _ hs => vk1 trivial hs) (fun mp H locs ls Q k n hl kk => lv_lload_n C.1 C.2.1 hd hj (lv_get hl i hi) (kk k n)) kk
theorem s_lload (C : Cx E cc ret own) {j : Nat} {a : Int64} (hd : decode cc pc = .ok (.lload j, 2)) (i : Nat) (hi : la[i]? = some (j, .long a)) (kk : Sim V E QF h (pc + 2) la (.long a :: sa) x) : Sim V E QF h pc la sa x :=
  Sim.step (pc + 2) (.long a :: sa) (fun _ _ hs => vk1 trivial hs) (fun mp H locs ls Q k n hl kk => lv_lload C.1 C.2.1 hd (lv_get hl i hi) (kk k n)) kk
theorem s_aload_n (C : Cx E cc ret own) {kf : Fin 4} {j : Nat} {a : Nat} (hd : decode cc pc = .ok (.aload_n kf, 1)) (i : Nat) (hi : la[i]? = some (j, vr a)) (hj : (kf : Nat) = j) (kk : Sim V E QF h (pc + 1) la (vr a :: sa) x) : Sim V E QF h pc la sa x :=
  Sim.step (pc + 1) (vr a :: sa) (fun _ hl hs => vk1 (vkl hl hi) hs) (fun mp H locs ls Q k n hl kk => by
    have h1 := lv_get hl i hi
    have h2 := kk k n
    rw [List.map_cons] at h2
    by_cases h0 : a = 0
    · subst h0; exact lv_aload_nN C.1 C.2.1 hd hj h1 h2
    · rw [rv_vr, rfv_p mp h0] at h1 h2
      exact lv_aload_n C.1 C.2.1 hd hj h1 h2) kk
theorem s_aload (C : Cx E cc ret own) {j : Nat} {a : Nat} (hd : decode cc pc = .ok (.aload j, 2)) (i : Nat) (hi : la[i]? = some (j, vr a)) (kk : Sim V E QF h (pc + 2) la (vr a :: sa) x) : Sim V E QF h pc la sa x :=
  Sim.step (pc + 2) (vr a :: sa) (fun _ hl hs => vk1 (vkl hl hi) hs) (fun mp H locs ls Q k n hl kk => by
    have h1 := lv_get hl i hi
    have h2 := kk k n
    rw [List.map_cons] at h2
    by_cases h0 : a = 0
    · subst h0; exact lv_aloadN C.1 C.2.1 hd h1 h2
    · rw [rv_vr, rfv_p mp h0] at h1 h2
      exact lv_aload C.1 C.2.1 hd h1 h2) kk
/-- a row that stores a local -/
def lst (i : Nat) (v : Value) (la : List (Nat × Value)) : List (Nat × Value) := (i, v) :: la.filter (fun q => !(q.1 == i) && !(q.1 + 1 == i && q.2.category == 2))
def lst2 (i : Nat) (v : Value) (la : List (Nat × Value)) : List (Nat × Value) := (i, v) :: la.filter (fun q => !(q.1 == i) && (!(q.1 == i + 1) && !(q.1 + 1 == i && q.2.category == 2)))
theorem lst_rv (mp : Nat → Nat) (i : Nat) (v : Value) : (i, rv mp v) :: (rvl mp la).filter (fun q => !(q.1 == i) && !(q.1 + 1 == i && q.2.category == 2)) = rvl mp (lst i v la) := by
  simp only [rvl, lst, List.map_cons, List.filter_map]
  congr 2
  refine List.filter_congr fun q _ => ?_
  simp [rv_cat]
theorem lst2_rv (mp : Nat → Nat) (i : Nat) (v : Value) : (i, rv mp v) :: (rvl mp la).filter (fun q => !(q.1 == i) && (!(q.1 == i + 1) && !(q.1 + 1 == i && q.2.category == 2))) = rvl mp (lst2 i v la) := by
  simp only [rvl, lst2, List.map_cons, List.filter_map]
  congr 2
  refine List.filter_congr fun q _ => ?_
  simp [rv_cat]
theorem Sim.store {v : Value} (pc' : Nat) (la' : List (Nat × Value)) (hv : ∀ (n : Nat), (∀ q ∈ la, vOk n q.2) → vOk n v → ∀ q ∈ la', vOk n q.2)
    (hw : ∀ (mp : Nat → Nat) (H : Heap) (locs : List Loc) (ls : Array Slot) (Q : State → Prop) (k n : Nat), lv_has ls (eNL E) (rvl mp la) → (∀ ls' : Array Slot, lv_has ls' (eNL E) (rvl mp la') → WE E H locs Q (F0 (eM E) pc' ls' (sa.map (rv mp)))) → W (eP E) (eL E) (eE E) (eR E) (eS E) (eM E) (eA E) (eB E) (eMe E) (eC E) H locs k n Q (F0 (eM E) pc ls ((v :: sa).map (rv mp))))
    (kk : Sim V E QF h pc' la' sa x) : Sim V E QF h pc la (v :: sa) x := by
  intro r h9 hx mp H locs ls ok k n
  refine hw mp H locs ls _ k n ok.2.2.2.2.1 (fun ls' hl' => kk r h9 hx mp H locs ls' ?_)
  obtain ⟨o1, o2, o3, o4, o5, o6, o7⟩ := ok
  exact ⟨o1, o2, o3, o4, hl', hv _ o6 (vkh o7), vkd o7⟩
theorem lst_ok {n i : Nat} {v : Value} (hl : ∀ q ∈ la, vOk n q.2) (hv : vOk n v) : ∀ q ∈ lst i v la, vOk n q.2 := by
  intro q hq
  rcases List.mem_cons.mp hq with rfl | hq
  · exact hv
  · exact hl q (List.mem_filter.mp hq).1
theorem lst2_ok {n i : Nat} {v : Value} (hl : ∀ q ∈ la, vOk n q.2) (hv : vOk n v) : ∀ q ∈ lst2 i v la, vOk n q.2 := by
  intro q hq
  rcases List.mem_cons.mp hq with rfl | hq
  · exact hv
  · exact hl q (List.mem_filter.mp hq).1
theorem s_istore_n (C : Cx E cc ret own) {kf : Fin 4} {a : Int32} (j : Nat) (hd : decode cc pc = .ok (.istore_n kf, 1)) (hj : (kf : Nat) = j) (hn : j < eNL E) (hl' : lst j (.int a) la = la') (kk : Sim V E QF h (pc + 1) la' sa x) : Sim V E QF h pc la (.int a :: sa) x := by
  subst hl'
  exact Sim.store (pc + 1) _ (fun _ hl hv => lst_ok hl hv) (fun mp H locs ls Q k n hl kk => lv_istore_n C.1 C.2.1 hd hj hl hn (lst_rv mp j (.int a)) (fun ls' h' => kk ls' h' k n)) kk
theorem s_istore (C : Cx E cc ret own) {a : Int32} {j : Nat} (hd : decode cc pc = .ok (.istore j, 2)) (hn : j < eNL E) (hl' : lst j (.int a) la = la') (kk : Sim V E QF h (pc + 2) la' sa x) : Sim V E QF h pc la (.int a :: sa) x := by
  subst hl'
  exact Sim.store (pc + 2) _ (fun _ hl hv => lst_ok hl hv) (fun mp H locs ls Q k n hl kk => lv_istore C.1 C.2.1 hd hl hn (lst_rv mp j (.int a)) (fun ls' h' => kk ls' h' k n)) kk
theorem s_lstore_n (C : Cx E cc ret own) {kf : Fin 4} {a : Int64} (j : Nat) (hd : decode cc pc = .ok (.lstore_n kf, 1)) (hj : (kf : Nat) = j) (hn : j + 1 < eNL E) (hl' : lst2 j (.long a) la = la') (kk : Sim V E QF h (pc + 1) la' sa x) : Sim V E QF h pc la (.long a :: sa) x := by
  subst hl'
  exact Sim.store (pc + 1) _ (fun _ hl hv => lst2_ok hl hv) (fun mp H locs ls Q k n hl kk => lv_lstore_n C.1 C.2.1 hd hj hl hn (lst2_rv mp j (.long a)) (fun ls' h' => kk ls' h' k n)) kk
theorem s_lstore (C : Cx E cc ret own) {a : Int64} {j : Nat} (hd : decode cc pc = .ok (.lstore j, 2)) (hn : j + 1 < eNL E) (hl' : lst2 j (.long a) la = la') (kk : Sim V E QF h (pc + 2) la' sa x) : Sim V E QF h pc la (.long a :: sa) x := by
  subst hl'
  exact Sim.store (pc + 2) _ (fun _ hl hv => lst2_ok hl hv) (fun mp H locs ls Q k n hl kk => lv_lstore C.1 C.2.1 hd hl hn (lst2_rv mp j (.long a)) (fun ls' h' => kk ls' h' k n)) kk
theorem s_astore_n (C : Cx E cc ret own) {kf : Fin 4} {a : Nat} (j : Nat) (hd : decode cc pc = .ok (.astore_n kf, 1)) (hj : (kf : Nat) = j) (hn : j < eNL E) (hl' : lst j (vr a) la = la') (kk : Sim V E QF h (pc + 1) la' sa x) : Sim V E QF h pc la (vr a :: sa) x := by
  subst hl'
  refine Sim.store (pc + 1) _ (fun _ hl hv => lst_ok hl hv) (fun mp H locs ls Q k n hl kk => ?_) kk
  have e := lst_rv (la := la) mp j (vr a)
  rw [List.map_cons]
  by_cases h0 : a = 0
  · subst h0
    exact lv_astore_nN C.1 C.2.1 hd hj hl hn e (fun ls' h' => kk ls' h' k n)
  · rw [rv_vr, rfv_p mp h0] at e ⊢
    exact lv_astore_n C.1 C.2.1 hd hj hl hn e (fun ls' h' => kk ls' h' k n)
theorem s_astore (C : Cx E cc ret own) {a : Nat} {j : Nat} (hd : decode cc pc = .ok (.astore j, 2)) (hn : j < eNL E) (hl' : lst j (vr a) la = la') (kk : Sim V E QF h (pc + 2) la' sa x) : Sim V E QF h pc la (vr a :: sa) x := by
  subst hl'
  refine Sim.store (pc + 2) _ (fun _ hl hv => lst_ok hl hv) (fun mp H locs ls Q k n hl kk => ?_) kk
  have e := lst_rv (la := la) mp j (vr a)
  rw [List.map_cons]
  by_cases h0 : a = 0
  · subst h0
    exact lv_astoreN C.1 C.2.1 hd hl hn e (fun ls' h' => kk ls' h' k n)
  · rw [rv_vr, rfv_p mp h0] at e ⊢
    exact lv_astore C.1 C.2.1 hd hl hn e (fun ls' h' => kk ls' h' k n)
theorem s_iinc (C : Cx E cc ret own) {j : Nat} {n : Int} {a v : Int32} (i : Nat) (hd : decode cc pc = .ok (.iinc j n, 3)) (hi : la[i]? = some (j, .int a)) (hv : a + Int32.ofInt n = v) (hn : j < eNL E) (hl' : lst j (.int v) la = la') (kk : Sim V E QF h (pc + 3) la' sa x) : Sim V E QF h pc la sa x := by
  subst hl'
  intro r h9 hx mp H locs ls ok k n
  obtain ⟨o1, o2, o3, o4, o5, o6, o7⟩ := ok
  refine lv_iinc C.1 C.2.1 hd o5 (k := i) (x := a) (v := v) (by simp only [rvl, List.getElem?_map, hi]; rfl) hv hn (lst_rv mp j (.int v)) (fun ls' h' => kk r h9 hx mp H locs ls' ⟨o1, o2, o3, o4, h', lst_ok o6 trivial, o7⟩ k n)

theorem s_iadd (C : Cx E cc ret own) {x0 y0 : Int32} (hd : decode cc pc = .ok (.iadd, 1)) (kk : Sim V E QF h (pc + 1) la (.int (x0 + y0) :: sa) x) : Sim V E QF h pc la (.int y0 :: .int x0 :: sa) x :=
  Sim.step (pc + 1) (.int (x0 + y0) :: sa) (fun _ _ hs => vk1 trivial (vkd (vkd hs))) (fun mp H locs ls Q k n hl kk => lv_iadd C.1 C.2.1 hd (kk k n)) kk
theorem s_isub (C : Cx E cc ret own) {x0 y0 : Int32} (hd : decode cc pc = .ok (.isub, 1)) (kk : Sim V E QF h (pc + 1) la (.int (x0 - y0) :: sa) x) : Sim V E QF h pc la (.int y0 :: .int x0 :: sa) x :=
  Sim.step (pc + 1) (.int (x0 - y0) :: sa) (fun _ _ hs => vk1 trivial (vkd (vkd hs))) (fun mp H locs ls Q k n hl kk => lv_isub C.1 C.2.1 hd (kk k n)) kk
theorem s_imul (C : Cx E cc ret own) {x0 y0 : Int32} (hd : decode cc pc = .ok (.imul, 1)) (kk : Sim V E QF h (pc + 1) la (.int (x0 * y0) :: sa) x) : Sim V E QF h pc la (.int y0 :: .int x0 :: sa) x :=
  Sim.step (pc + 1) (.int (x0 * y0) :: sa) (fun _ _ hs => vk1 trivial (vkd (vkd hs))) (fun mp H locs ls Q k n hl kk => lv_imul C.1 C.2.1 hd (kk k n)) kk
theorem s_iand (C : Cx E cc ret own) {x0 y0 : Int32} (hd : decode cc pc = .ok (.iand, 1)) (kk : Sim V E QF h (pc + 1) la (.int (x0 &&& y0) :: sa) x) : Sim V E QF h pc la (.int y0 :: .int x0 :: sa) x :=
  Sim.step (pc + 1) (.int (x0 &&& y0) :: sa) (fun _ _ hs => vk1 trivial (vkd (vkd hs))) (fun mp H locs ls Q k n hl kk => lv_iand C.1 C.2.1 hd (kk k n)) kk
theorem s_ior (C : Cx E cc ret own) {x0 y0 : Int32} (hd : decode cc pc = .ok (.ior, 1)) (kk : Sim V E QF h (pc + 1) la (.int (x0 ||| y0) :: sa) x) : Sim V E QF h pc la (.int y0 :: .int x0 :: sa) x :=
  Sim.step (pc + 1) (.int (x0 ||| y0) :: sa) (fun _ _ hs => vk1 trivial (vkd (vkd hs))) (fun mp H locs ls Q k n hl kk => lv_ior C.1 C.2.1 hd (kk k n)) kk
theorem s_ixor (C : Cx E cc ret own) {x0 y0 : Int32} (hd : decode cc pc = .ok (.ixor, 1)) (kk : Sim V E QF h (pc + 1) la (.int (x0 ^^^ y0) :: sa) x) : Sim V E QF h pc la (.int y0 :: .int x0 :: sa) x :=
  Sim.step (pc + 1) (.int (x0 ^^^ y0) :: sa) (fun _ _ hs => vk1 trivial (vkd (vkd hs))) (fun mp H locs ls Q k n hl kk => lv_ixor C.1 C.2.1 hd (kk k n)) kk
theorem s_ladd (C : Cx E cc ret own) {x0 y0 : Int64} (hd : decode cc pc = .ok (.ladd, 1)) (kk : Sim V E QF h (pc + 1) la (.long (x0 + y0) :: sa) x) : Sim V E QF h pc la (.long y0 :: .long x0 :: sa) x :=
  Sim.step (pc + 1) (.long (x0 + y0) :: sa) (fun _ _ hs => vk1 trivial (vkd (vkd hs))) (fun mp H locs ls Q k n hl kk => lv_ladd C.1 C.2.1 hd (kk k n)) kk
theorem s_land (C : Cx E cc ret own) {x0 y0 : Int64} (hd : decode cc pc = .ok (.land, 1)) (kk : Sim V E QF h (pc + 1) la (.long (x0 &&& y0) :: sa) x) : Sim V E QF h pc la (.long y0 :: .long x0 :: sa) x :=
  Sim.step (pc + 1) (.long (x0 &&& y0) :: sa) (fun _ _ hs => vk1 trivial (vkd (vkd hs))) (fun mp H locs ls Q k n hl kk => lv_land C.1 C.2.1 hd (kk k n)) kk
theorem s_lor (C : Cx E cc ret own) {x0 y0 : Int64} (hd : decode cc pc = .ok (.lor, 1)) (kk : Sim V E QF h (pc + 1) la (.long (x0 ||| y0) :: sa) x) : Sim V E QF h pc la (.long y0 :: .long x0 :: sa) x :=
  Sim.step (pc + 1) (.long (x0 ||| y0) :: sa) (fun _ _ hs => vk1 trivial (vkd (vkd hs))) (fun mp H locs ls Q k n hl kk => lv_lor C.1 C.2.1 hd (kk k n)) kk
theorem s_lxor (C : Cx E cc ret own) {x0 y0 : Int64} (hd : decode cc pc = .ok (.lxor, 1)) (kk : Sim V E QF h (pc + 1) la (.long (x0 ^^^ y0) :: sa) x) : Sim V E QF h pc la (.long y0 :: .long x0 :: sa) x :=
  Sim.step (pc + 1) (.long (x0 ^^^ y0) :: sa) (fun _ _ hs => vk1 trivial (vkd (vkd hs))) (fun mp H locs ls Q k n hl kk => lv_lxor C.1 C.2.1 hd (kk k n)) kk
theorem s_ishl (C : Cx E cc ret own) {x0 y0 : Int32} (z : Int32) (hd : decode cc pc = .ok (.ishl, 1)) (hz : y0 &&& 31 = z) (kk : Sim V E QF h (pc + 1) la (.int (x0 <<< z) :: sa) x) : Sim V E QF h pc la (.int y0 :: .int x0 :: sa) x := by
  subst hz
  exact Sim.step (pc + 1) (.int (x0 <<< (y0 &&& 31)) :: sa) (fun _ _ hs => vk1 trivial (vkd (vkd hs))) (fun mp H locs ls Q k n hl kk => lv_ishl C.1 C.2.1 hd (kk k n)) kk
theorem s_ishr (C : Cx E cc ret own) {x0 y0 : Int32} (z : Int32) (hd : decode cc pc = .ok (.ishr, 1)) (hz : y0 &&& 31 = z) (kk : Sim V E QF h (pc + 1) la (.int (x0 >>> z) :: sa) x) : Sim V E QF h pc la (.int y0 :: .int x0 :: sa) x := by
  subst hz
  exact Sim.step (pc + 1) (.int (x0 >>> (y0 &&& 31)) :: sa) (fun _ _ hs => vk1 trivial (vkd (vkd hs))) (fun mp H locs ls Q k n hl kk => lv_ishr C.1 C.2.1 hd (kk k n)) kk
theorem s_iushr (C : Cx E cc ret own) {x0 y0 : Int32} (z : UInt32) (hd : decode cc pc = .ok (.iushr, 1)) (hz : y0.toUInt32 &&& Int32.toUInt32 31 = z) (kk : Sim V E QF h (pc + 1) la (.int (x0.toUInt32 >>> z).toInt32 :: sa) x) : Sim V E QF h pc la (.int y0 :: .int x0 :: sa) x := by
  subst hz
  exact Sim.step (pc + 1) (.int (x0.toUInt32 >>> (y0.toUInt32 &&& Int32.toUInt32 31)).toInt32 :: sa) (fun _ _ hs => vk1 trivial (vkd (vkd hs))) (fun mp H locs ls Q k n hl kk => lv_iushr C.1 C.2.1 hd rfl (kk k n)) kk
theorem s_lshl (C : Cx E cc ret own) {x0 : Int64} {y0 : Int32} (z : Int64) (hd : decode cc pc = .ok (.lshl, 1)) (hz : y0.toInt64 &&& 63 = z) (kk : Sim V E QF h (pc + 1) la (.long (x0 <<< z) :: sa) x) : Sim V E QF h pc la (.int y0 :: .long x0 :: sa) x := by
  subst hz
  exact Sim.step (pc + 1) (.long (x0 <<< (y0.toInt64 &&& 63)) :: sa) (fun _ _ hs => vk1 trivial (vkd (vkd hs))) (fun mp H locs ls Q k n hl kk => lv_lshl C.1 C.2.1 hd rfl (kk k n)) kk
theorem s_lshr (C : Cx E cc ret own) {x0 : Int64} {y0 : Int32} (z : Int64) (hd : decode cc pc = .ok (.lshr, 1)) (hz : y0.toInt64 &&& 63 = z) (kk : Sim V E QF h (pc + 1) la (.long (x0 >>> z) :: sa) x) : Sim V E QF h pc la (.int y0 :: .long x0 :: sa) x := by
  subst hz
  exact Sim.step (pc + 1) (.long (x0 >>> (y0.toInt64 &&& 63)) :: sa) (fun _ _ hs => vk1 trivial (vkd (vkd hs))) (fun mp H locs ls Q k n hl kk => lv_lshr C.1 C.2.1 hd rfl (kk k n)) kk
theorem s_ineg (C : Cx E cc ret own) {x0 : Int32} (hd : decode cc pc = .ok (.ineg, 1)) (kk : Sim V E QF h (pc + 1) la (.int (-x0) :: sa) x) : Sim V E QF h pc la (.int x0 :: sa) x :=
  Sim.step (pc + 1) (.int (-x0) :: sa) (fun _ _ hs => vk1 trivial (vkd hs)) (fun mp H locs ls Q k n hl kk => lv_ineg C.1 C.2.1 hd (kk k n)) kk
theorem s_i2l (C : Cx E cc ret own) {x0 : Int32} (hd : decode cc pc = .ok (.i2l, 1)) (kk : Sim V E QF h (pc + 1) la (.long (x0.toInt64) :: sa) x) : Sim V E QF h pc la (.int x0 :: sa) x :=
  Sim.step (pc + 1) (.long (x0.toInt64) :: sa) (fun _ _ hs => vk1 trivial (vkd hs)) (fun mp H locs ls Q k n hl kk => lv_i2l C.1 C.2.1 hd rfl (kk k n)) kk
theorem s_l2i (C : Cx E cc ret own) {x0 : Int64} (hd : decode cc pc = .ok (.l2i, 1)) (kk : Sim V E QF h (pc + 1) la (.int (x0.toInt32) :: sa) x) : Sim V E QF h pc la (.long x0 :: sa) x :=
  Sim.step (pc + 1) (.int (x0.toInt32) :: sa) (fun _ _ hs => vk1 trivial (vkd hs)) (fun mp H locs ls Q k n hl kk => lv_l2i C.1 C.2.1 hd rfl (kk k n)) kk
theorem s_i2b (C : Cx E cc ret own) {x0 : Int32} (hd : decode cc pc = .ok (.i2b, 1)) (kk : Sim V E QF h (pc + 1) la (.int (x0.toInt8.toInt32) :: sa) x) : Sim V E QF h pc la (.int x0 :: sa) x :=
  Sim.step (pc + 1) (.int (x0.toInt8.toInt32) :: sa) (fun _ _ hs => vk1 trivial (vkd hs)) (fun mp H locs ls Q k n hl kk => lv_i2b C.1 C.2.1 hd rfl (kk k n)) kk
theorem s_i2c (C : Cx E cc ret own) {x0 : Int32} (hd : decode cc pc = .ok (.i2c, 1)) (kk : Sim V E QF h (pc + 1) la (.int ((x0.toUInt32 % 65536).toInt32) :: sa) x) : Sim V E QF h pc la (.int x0 :: sa) x :=
  Sim.step (pc + 1) (.int ((x0.toUInt32 % 65536).toInt32) :: sa) (fun _ _ hs => vk1 trivial (vkd hs)) (fun mp H locs ls Q k n hl kk => lv_i2c C.1 C.2.1 hd rfl (kk k n)) kk
theorem s_lcmp (C : Cx E cc ret own) {x0 y0 : Int64} (hd : decode cc pc = .ok (.lcmp, 1)) (kk : Sim V E QF h (pc + 1) la (.int (lg_cmp x0 y0) :: sa) x) : Sim V E QF h pc la (.long y0 :: .long x0 :: sa) x :=
  Sim.step (pc + 1) (.int (lg_cmp x0 y0) :: sa) (fun _ _ hs => vk1 trivial (vkd (vkd hs))) (fun mp H locs ls Q k n hl kk => W.lcmp C.1 C.2.1 hd (kk k n)) kk
theorem vr_cat (r : Nat) : (vr r).category = 1 := rfl
theorem rvc {mp : Nat → Nat} {v : Value} (h : v.category = 1) : (rv mp v).category = 1 := (rv_cat mp v).trans h
theorem s_dup (C : Cx E cc ret own) {v : Value} (hd : decode cc pc = .ok (.dup, 1)) (hv : v.category = 1) (kk : Sim V E QF h (pc + 1) la (v :: v :: sa) x) : Sim V E QF h pc la (v :: sa) x :=
  Sim.step (pc + 1) (v :: v :: sa) (fun _ _ hs => vk1 (vkh hs) hs) (fun mp H locs ls Q k n hl kk => lv_dup C.1 C.2.1 hd (rvc hv) (kk k n)) kk
theorem s_pop (C : Cx E cc ret own) {v : Value} (hd : decode cc pc = .ok (.pop, 1)) (hv : v.category = 1) (kk : Sim V E QF h (pc + 1) la sa x) : Sim V E QF h pc la (v :: sa) x :=
  Sim.step (pc + 1) sa (fun _ _ hs => vkd hs) (fun mp H locs ls Q k n hl kk => lv_pop C.1 C.2.1 hd (rvc hv) (kk k n)) kk
theorem s_dup_x1 (C : Cx E cc ret own) {v u : Value} (hd : decode cc pc = .ok (.dup_x1, 1)) (hv : v.category = 1) (hu : u.category = 1) (kk : Sim V E QF h (pc + 1) la (v :: u :: v :: sa) x) : Sim V E QF h pc la (v :: u :: sa) x :=
  Sim.step (pc + 1) (v :: u :: v :: sa) (fun _ _ hs => vk1 (vkh hs) (vk1 (vkh (vkd hs)) (vk1 (vkh hs) (vkd (vkd hs))))) (fun mp H locs ls Q k n hl kk => lv_dup_x1 C.1 C.2.1 hd (rvc hv) (rvc hu) (kk k n)) kk
theorem s_dup_x2 (C : Cx E cc ret own) {v u t : Value} (hd : decode cc pc = .ok (.dup_x2, 1)) (hv : v.category = 1) (hu : u.category = 1) (ht : t.category = 1) (kk : Sim V E QF h (pc + 1) la (v :: u :: t :: v :: sa) x) : Sim V E QF h pc la (v :: u :: t :: sa) x :=
  Sim.step (pc + 1) (v :: u :: t :: v :: sa) (fun _ _ hs => vk1 (vkh hs) (vk1 (vkh (vkd hs)) (vk1 (vkh (vkd (vkd hs))) (vk1 (vkh hs) (vkd (vkd (vkd hs))))))) (fun mp H locs ls Q k n hl kk => lv_dup_x2 C.1 C.2.1 hd (rvc hv) (rvc hu) (rvc ht) (kk k n)) kk
theorem s_dup2 (C : Cx E cc ret own) {v u : Value} (hd : decode cc pc = .ok (.dup2, 1)) (hv : v.category = 1) (hu : u.category = 1) (kk : Sim V E QF h (pc + 1) la (v :: u :: v :: u :: sa) x) : Sim V E QF h pc la (v :: u :: sa) x :=
  Sim.step (pc + 1) (v :: u :: v :: u :: sa) (fun _ _ hs => vk1 (vkh hs) (vk1 (vkh (vkd hs)) hs)) (fun mp H locs ls Q k n hl kk => lv_dup2_11 C.1 C.2.1 hd (rvc hv) (rvc hu) (kk k n)) kk
theorem s_goto (C : Cx E cc ret own) {off : Int} (tgt : Nat) (hd : decode cc pc = .ok (.goto off, 3)) (ht : (pc : Int) + off = (tgt : Int)) (kk : Sim V E QF h tgt la sa x) : Sim V E QF h pc la sa x :=
  Sim.step tgt sa (fun _ _ hs => hs) (fun mp H locs ls Q k n hl kk => lv_goto C.1 C.2.1 hd ht (kk k n)) kk
/-- division: none by 0 -/
theorem s_idiv (C : Cx E cc ret own) {x0 y0 : Int32} (hd : decode cc pc = .ok (.idiv, 1)) (kk : Sim V E QF h (pc + 1) la (.int (x0 / y0) :: sa) x) : Sim V E QF h pc la (.int y0 :: .int x0 :: sa) (if y0 = 0 then none else x) := by
  by_cases h0 : y0 = 0
  · rw [if_pos h0]; exact sim_none
  · rw [if_neg h0]
    exact Sim.step (pc + 1) (.int (x0 / y0) :: sa) (fun _ _ hs => vk1 trivial (vkd (vkd hs))) (fun mp H locs ls Q k n hl kk => lv_idiv C.1 C.2.1 hd h0 (kk k n)) kk
theorem s_irem (C : Cx E cc ret own) {x0 y0 : Int32} (hd : decode cc pc = .ok (.irem, 1)) (kk : Sim V E QF h (pc + 1) la (.int (x0 - x0 / y0 * y0) :: sa) x) : Sim V E QF h pc la (.int y0 :: .int x0 :: sa) (if y0 = 0 then none else x) := by
  by_cases h0 : y0 = 0
  · rw [if_pos h0]; exact sim_none
  · rw [if_neg h0]
    exact Sim.step (pc + 1) (.int (x0 - x0 / y0 * y0) :: sa) (fun _ _ hs => vk1 trivial (vkd (vkd hs))) (fun mp H locs ls Q k n hl kk => lv_irem C.1 C.2.1 hd h0 (kk k n)) kk
theorem s_icmp_eq (C : Cx E cc ret own) {x0 y0 : Int32} {off : Int} (tgt : Nat) (hd : decode cc pc = .ok (.if_icmp .eq off, 3)) (ht : (pc : Int) + off = (tgt : Int)) (kt : Sim V E QF h tgt la sa X) (kf : Sim V E QF h (pc + 3) la sa Y) : Sim V E QF h pc la (.int y0 :: .int x0 :: sa) (if x0 = y0 then X else Y) := by
  by_cases c : x0 = y0
  · rw [if_pos c]
    exact Sim.step _ sa (fun _ _ hs => vkd (vkd hs)) (fun mp H locs ls Q k n hl kk => lv_icmp_eq C.1 C.2.1 hd ht (fun _ => kk k n) (fun c2 => absurd c c2)) kt
  · rw [if_neg c]
    exact Sim.step _ sa (fun _ _ hs => vkd (vkd hs)) (fun mp H locs ls Q k n hl kk => lv_icmp_eq C.1 C.2.1 hd ht (fun c2 => absurd c2 c) (fun _ => kk k n)) kf
theorem s_if_eq (C : Cx E cc ret own) {x0 : Int32} {off : Int} (tgt : Nat) (hd : decode cc pc = .ok (.ifCond .eq off, 3)) (ht : (pc : Int) + off = (tgt : Int)) (kt : Sim V E QF h tgt la sa X) (kf : Sim V E QF h (pc + 3) la sa Y) : Sim V E QF h pc la (.int x0 :: sa) (if x0 = 0 then X else Y) := by
  by_cases c : x0 = 0
  · rw [if_pos c]
    exact Sim.step _ sa (fun _ _ hs => vkd hs) (fun mp H locs ls Q k n hl kk => lv_if_eq C.1 C.2.1 hd ht (fun _ => kk k n) (fun c2 => absurd c c2)) kt
  · rw [if_neg c]
    exact Sim.step _ sa (fun _ _ hs => vkd hs) (fun mp H locs ls Q k n hl kk => lv_if_eq C.1 C.2.1 hd ht (fun c2 => absurd c2 c) (fun _ => kk k n)) kf
theorem s_icmp_ne (C : Cx E cc ret own) {x0 y0 : Int32} {off : Int} (tgt : Nat) (hd : decode cc pc = .ok (.if_icmp .ne off, 3)) (ht : (pc : Int) + off = (tgt : Int)) (kt : Sim V E QF h tgt la sa X) (kf : Sim V E QF h (pc + 3) la sa Y) : Sim V E QF h pc la (.int y0 :: .int x0 :: sa) (if x0 = y0 then Y else X) := by
  by_cases c : x0 = y0
  · rw [if_pos c]
    exact Sim.step _ sa (fun _ _ hs => vkd (vkd hs)) (fun mp H locs ls Q k n hl kk => lv_icmp_ne C.1 C.2.1 hd ht (fun c2 => absurd c c2) (fun _ => kk k n)) kf
  · rw [if_neg c]
    exact Sim.step _ sa (fun _ _ hs => vkd (vkd hs)) (fun mp H locs ls Q k n hl kk => lv_icmp_ne C.1 C.2.1 hd ht (fun _ => kk k n) (fun c2 => absurd c2 c)) kt
theorem s_if_ne (C : Cx E cc ret own) {x0 : Int32} {off : Int} (tgt : Nat) (hd : decode cc pc = .ok (.ifCond .ne off, 3)) (ht : (pc : Int) + off = (tgt : Int)) (kt : Sim V E QF h tgt la sa X) (kf : Sim V E QF h (pc + 3) la sa Y) : Sim V E QF h pc la (.int x0 :: sa) (if x0 = 0 then Y else X) := by
  by_cases c : x0 = 0
  · rw [if_pos c]
    exact Sim.step _ sa (fun _ _ hs => vkd hs) (fun mp H locs ls Q k n hl kk => lv_if_ne C.1 C.2.1 hd ht (fun c2 => absurd c c2) (fun _ => kk k n)) kf
  · rw [if_neg c]
    exact Sim.step _ sa (fun _ _ hs => vkd hs) (fun mp H locs ls Q k n hl kk => lv_if_ne C.1 C.2.1 hd ht (fun _ => kk k n) (fun c2 => absurd c2 c)) kt
theorem s_icmp_lt (C : Cx E cc ret own) {x0 y0 : Int32} {off : Int} (tgt : Nat) (hd : decode cc pc = .ok (.if_icmp .lt off, 3)) (ht : (pc : Int) + off = (tgt : Int)) (kt : Sim V E QF h tgt la sa X) (kf : Sim V E QF h (pc + 3) la sa Y) : Sim V E QF h pc la (.int y0 :: .int x0 :: sa) (if x0 < y0 then X else Y) := by
  by_cases c : x0 < y0
  · rw [if_pos c]
    exact Sim.step _ sa (fun _ _ hs => vkd (vkd hs)) (fun mp H locs ls Q k n hl kk => lv_icmp_lt C.1 C.2.1 hd ht (fun _ => kk k n) (fun c2 => absurd c c2)) kt
  · rw [if_neg c]
    exact Sim.step _ sa (fun _ _ hs => vkd (vkd hs)) (fun mp H locs ls Q k n hl kk => lv_icmp_lt C.1 C.2.1 hd ht (fun c2 => absurd c2 c) (fun _ => kk k n)) kf
theorem s_if_lt (C : Cx E cc ret own) {x0 : Int32} {off : Int} (tgt : Nat) (hd : decode cc pc = .ok (.ifCond .lt off, 3)) (ht : (pc : Int) + off = (tgt : Int)) (kt : Sim V E QF h tgt la sa X) (kf : Sim V E QF h (pc + 3) la sa Y) : Sim V E QF h pc la (.int x0 :: sa) (if x0 < 0 then X else Y) := by
  by_cases c : x0 < 0
  · rw [if_pos c]
    exact Sim.step _ sa (fun _ _ hs => vkd hs) (fun mp H locs ls Q k n hl kk => lv_if_lt C.1 C.2.1 hd ht (fun _ => kk k n) (fun c2 => absurd c c2)) kt
  · rw [if_neg c]
    exact Sim.step _ sa (fun _ _ hs => vkd hs) (fun mp H locs ls Q k n hl kk => lv_if_lt C.1 C.2.1 hd ht (fun c2 => absurd c2 c) (fun _ => kk k n)) kf
theorem s_icmp_ge (C : Cx E cc ret own) {x0 y0 : Int32} {off : Int} (tgt : Nat) (hd : decode cc pc = .ok (.if_icmp .ge off, 3)) (ht : (pc : Int) + off = (tgt : Int)) (kt : Sim V E QF h tgt la sa X) (kf : Sim V E QF h (pc + 3) la sa Y) : Sim V E QF h pc la (.int y0 :: .int x0 :: sa) (if y0 ≤ x0 then X else Y) := by
  by_cases c : y0 ≤ x0
  · rw [if_pos c]
    exact Sim.step _ sa (fun _ _ hs => vkd (vkd hs)) (fun mp H locs ls Q k n hl kk => lv_icmp_ge C.1 C.2.1 hd ht (fun _ => kk k n) (fun c2 => absurd c c2)) kt
  · rw [if_neg c]
    exact Sim.step _ sa (fun _ _ hs => vkd (vkd hs)) (fun mp H locs ls Q k n hl kk => lv_icmp_ge C.1 C.2.1 hd ht (fun c2 => absurd c2 c) (fun _ => kk k n)) kf
theorem s_if_ge (C : Cx E cc ret own) {x0 : Int32} {off : Int} (tgt : Nat) (hd : decode cc pc = .ok (.ifCond .ge off, 3)) (ht : (pc : Int) + off = (tgt : Int)) (kt : Sim V E QF h tgt la sa X) (kf : Sim V E QF h (pc + 3) la sa Y) : Sim V E QF h pc la (.int x0 :: sa) (if 0 ≤ x0 then X else Y) := by
  by_cases c : 0 ≤ x0
  · rw [if_pos c]
    exact Sim.step _ sa (fun _ _ hs => vkd hs) (fun mp H locs ls Q k n hl kk => lv_if_ge C.1 C.2.1 hd ht (fun _ => kk k n) (fun c2 => absurd c c2)) kt
  · rw [if_neg c]
    exact Sim.step _ sa (fun _ _ hs => vkd hs) (fun mp H locs ls Q k n hl kk => lv_if_ge C.1 C.2.1 hd ht (fun c2 => absurd c2 c) (fun _ => kk k n)) kf
theorem s_icmp_gt (C : Cx E cc ret own) {x0 y0 : Int32} {off : Int} (tgt : Nat) (hd : decode cc pc = .ok (.if_icmp .gt off, 3)) (ht : (pc : Int) + off = (tgt : Int)) (kt : Sim V E QF h tgt la sa X) (kf : Sim V E QF h (pc + 3) la sa Y) : Sim V E QF h pc la (.int y0 :: .int x0 :: sa) (if y0 < x0 then X else Y) := by
  by_cases c : y0 < x0
  · rw [if_pos c]
    exact Sim.step _ sa (fun _ _ hs => vkd (vkd hs)) (fun mp H locs ls Q k n hl kk => lv_icmp_gt C.1 C.2.1 hd ht (fun _ => kk k n) (fun c2 => absurd c c2)) kt
  · rw [if_neg c]
    exact Sim.step _ sa (fun _ _ hs => vkd (vkd hs)) (fun mp H locs ls Q k n hl kk => lv_icmp_gt C.1 C.2.1 hd ht (fun c2 => absurd c2 c) (fun _ => kk k n)) kf
theorem s_if_gt (C : Cx E cc ret own) {x0 : Int32} {off : Int} (tgt : Nat) (hd : decode cc pc = .ok (.ifCond .gt off, 3)) (ht : (pc : Int) + off = (tgt : Int)) (kt : Sim V E QF h tgt la sa X) (kf : Sim V E QF h (pc + 3) la sa Y) : Sim V E QF h pc la (.int x0 :: sa) (if 0 < x0 then X else Y) := by
  by_cases c : 0 < x0
  · rw [if_pos c]
    exact Sim.step _ sa (fun _ _ hs => vkd hs) (fun mp H locs ls Q k n hl kk => lv_if_gt C.1 C.2.1 hd ht (fun _ => kk k n) (fun c2 => absurd c c2)) kt
  · rw [if_neg c]
    exact Sim.step _ sa (fun _ _ hs => vkd hs) (fun mp H locs ls Q k n hl kk => lv_if_gt C.1 C.2.1 hd ht (fun c2 => absurd c2 c) (fun _ => kk k n)) kf
theorem s_icmp_le (C : Cx E cc ret own) {x0 y0 : Int32} {off : Int} (tgt : Nat) (hd : decode cc pc = .ok (.if_icmp .le off, 3)) (ht : (pc : Int) + off = (tgt : Int)) (kt : Sim V E QF h tgt la sa X) (kf : Sim V E QF h (pc + 3) la sa Y) : Sim V E QF h pc la (.int y0 :: .int x0 :: sa) (if x0 ≤ y0 then X else Y) := by
  by_cases c : x0 ≤ y0
  · rw [if_pos c]
    exact Sim.step _ sa (fun _ _ hs => vkd (vkd hs)) (fun mp H locs ls Q k n hl kk => lv_icmp_le C.1 C.2.1 hd ht (fun _ => kk k n) (fun c2 => absurd c c2)) kt
  · rw [if_neg c]
    exact Sim.step _ sa (fun _ _ hs => vkd (vkd hs)) (fun mp H locs ls Q k n hl kk => lv_icmp_le C.1 C.2.1 hd ht (fun c2 => absurd c2 c) (fun _ => kk k n)) kf
theorem s_if_le (C : Cx E cc ret own) {x0 : Int32} {off : Int} (tgt : Nat) (hd : decode cc pc = .ok (.ifCond .le off, 3)) (ht : (pc : Int) + off = (tgt : Int)) (kt : Sim V E QF h tgt la sa X) (kf : Sim V E QF h (pc + 3) la sa Y) : Sim V E QF h pc la (.int x0 :: sa) (if x0 ≤ 0 then X else Y) := by
  by_cases c : x0 ≤ 0
  · rw [if_pos c]
    exact Sim.step _ sa (fun _ _ hs => vkd hs) (fun mp H locs ls Q k n hl kk => lv_if_le C.1 C.2.1 hd ht (fun _ => kk k n) (fun c2 => absurd c c2)) kt
  · rw [if_neg c]
    exact Sim.step _ sa (fun _ _ hs => vkd hs) (fun mp H locs ls Q k n hl kk => lv_if_le C.1 C.2.1 hd ht (fun c2 => absurd c2 c) (fun _ => kk k n)) kf
theorem s_ifnull (C : Cx E cc ret own) {r : Nat} {off : Int} (tgt : Nat) (hd : decode cc pc = .ok (.ifnull off, 3)) (ht : (pc : Int) + off = (tgt : Int)) (kt : Sim V E QF h tgt la sa X) (kf : Sim V E QF h (pc + 3) la sa Y) : Sim V E QF h pc la (vr r :: sa) (if r = 0 then X else Y) := by
  by_cases c : r = 0
  · rw [if_pos c]
    subst c
    exact Sim.step _ sa (fun _ _ hs => vkd hs) (fun mp H locs ls Q k n hl kk => lv_ifnullN C.1 C.2.1 hd ht (kk k n)) kt
  · rw [if_neg c]
    refine Sim.step _ sa (fun _ _ hs => vkd hs) (fun mp H locs ls Q k n hl kk => ?_) kf
    rw [List.map_cons, rv_vr, rfv_p mp c]
    exact lv_ifnull C.1 C.2.1 hd (kk k n)
theorem s_ifnonnull (C : Cx E cc ret own) {r : Nat} {off : Int} (tgt : Nat) (hd : decode cc pc = .ok (.ifnonnull off, 3)) (ht : (pc : Int) + off = (tgt : Int)) (kt : Sim V E QF h tgt la sa X) (kf : Sim V E QF h (pc + 3) la sa Y) : Sim V E QF h pc la (vr r :: sa) (if r = 0 then Y else X) := by
  by_cases c : r = 0
  · rw [if_pos c]
    subst c
    exact Sim.step _ sa (fun _ _ hs => vkd hs) (fun mp H locs ls Q k n hl kk => lv_ifnonnullN C.1 C.2.1 hd (kk k n)) kf
  · rw [if_neg c]
    refine Sim.step _ sa (fun _ _ hs => vkd hs) (fun mp H locs ls Q k n hl kk => ?_) kt
    rw [List.map_cons, rv_vr, rfv_p mp c]
    exact lv_ifnonnull C.1 C.2.1 hd ht (kk k n)
/-- a value by a name -/
def bd {α γ : Type} (e : α) (K : α → γ) : γ := K e
theorem s_bdi {e : Int32} {K : Int32 → Option (β × σ)} (kk : ∀ v, Sim V E QF h pc la (.int v :: sa) (K v)) : Sim V E QF h pc la (.int e :: sa) (bd e K) := kk e
theorem s_bdl {e : Int64} {K : Int64 → Option (β × σ)} (kk : ∀ v, Sim V E QF h pc la (.long v :: sa) (K v)) : Sim V E QF h pc la (.long e :: sa) (bd e K) := kk e
theorem s_bdh {K : σ → Option (β × σ)} (kk : ∀ h1, Sim V E QF h1 pc la sa (K h1)) : Sim V E QF h pc la sa (bd h K) := kk h
/-- an answer and a heap by names -/
def bn {α σ γ : Type} (f : Option (α × σ)) (K : α → σ → Option γ) : Option γ := f.bind fun p => K p.1 p.2
theorem bn_some {α σ γ : Type} (a : α) (s : σ) (K : α → σ → Option γ) : bn (some (a, s)) K = K a s := rfl
theorem bn_none {α σ γ : Type} (K : α → σ → Option γ) : bn none K = none := rfl
theorem s_nz {b : Nat} (kk : b ≠ 0 → Sim V E QF h pc la sa x) : Sim V E QF h pc la sa (if b = 0 then none else x) := by
  by_cases c : b = 0
  · rw [if_pos c]; exact sim_none
  · rw [if_neg c]; exact kk c
theorem s_objI (C : Cx E cc ret own) {b idx : Nat} (hb : b ≠ 0) (hm : Cond.methodLink own idx objectInit ∈ lw_all) (hi : Cond.instanceMethod objectInit ∈ lw_all) (hc : Cond.code objectInit ⟨#[0xb1]⟩ 1 none ∈ lw_all) (hfr : 1 ≤ (eR E).frames) (hlo : 20 ≤ (eR E).locals) (hsum : sa.length ≤ 4) (hd : decode cc pc = .ok (.invokespecial idx, 3)) (kk : Sim V E QF h (pc + 3) la sa x) : Sim V E QF h pc la (vr b :: sa) x := by
  intro r h9 hx mp H locs ls ok k n
  have ok' : Ok E (V h) mp H locs ls la sa := ⟨ok.1, ok.2.1, ok.2.2.1, ok.2.2.2.1, ok.2.2.2.2.1, ok.2.2.2.2.2.1, vkd ok.2.2.2.2.2.2⟩
  rw [List.map_cons, rv_vr, rfv_p mp hb]
  refine W.objInit C.1 C.2.1 C.2.2.2.2.1 (C.2.2.2.2.2.1 _ hm) (C.2.2.2.2.2.1 _ hi) (C.2.2.2.2.2.1 _ hc) rfl (ok.2.2.2.2.1.1.trans C.2.2.2.1.symm) rfl hd hfr ?_ (kk r h9 hx mp H locs ls ok' k n)
  have h1 : ∀ vs : List Value, (vs.map fun v => v.category).sum ≤ 2 * vs.length := by
    intro vs
    induction vs with
    | nil => exact Nat.le_refl _
    | cons v t ih =>
      simp only [List.map_cons, List.sum_cons, List.length_cons]
      have : v.category ≤ 2 := by cases v <;> simp [Value.category]
      omega
  have h2 := h1 (sa.map (rv mp))
  rw [List.length_map] at h2
  show 2 * 0 + _ + 12 ≤ _
  omega
theorem le_fr {a b c : Nat} (h : a = b) (h2 : Nat.ble c b = true) : c ≤ a := h ▸ Nat.le_of_ble_eq_true h2
theorem lt_nl {a b c : Nat} (h : a = b) (h2 : Nat.ble (c + 1) b = true) : c < a := h ▸ Nat.le_of_ble_eq_true h2
end Rows
/-- what a loop may go round -/
def FU : Nat := 2048
/-- a switch, as a chain of cases -/
def swi {α : Type} (v : Int32) (d : α) : List (Int32 × α) → α
  | [] => d
  | (c, X) :: t => if v = c then X else swi v d t
theorem swi_at {α : Type} {v : Int32} {d : α} {cs : List (Int32 × α)} {i : Nat} {X : α} (hi : cs[i]? = some (v, X)) (hn : ∀ j Y, j < i → cs[j]? ≠ some (v, Y)) : swi v d cs = X := by
  induction cs generalizing i with
  | nil => simp at hi
  | cons q t ih =>
    obtain ⟨c, Z⟩ := q
    cases i with
    | zero =>
      simp only [List.getElem?_cons_zero, Option.some.injEq, Prod.mk.injEq] at hi
      simp [swi, hi.1, hi.2]
    | succ i =>
      have h0 : ¬ v = c := fun e => hn 0 Z (Nat.succ_pos i) (by simp [e])
      simp only [swi, if_neg h0]
      exact ih (by simpa using hi) (fun j Y hj => by simpa using hn (j + 1) Y (Nat.succ_lt_succ hj))
theorem swi_no {α : Type} {v : Int32} {d : α} {cs : List (Int32 × α)} (hn : ∀ q ∈ cs, v ≠ q.1) : swi v d cs = d := by
  induction cs with
  | nil => rfl
  | cons q t ih =>
    obtain ⟨c, Z⟩ := q
    have h0 : ¬ v = c := hn (c, Z) List.mem_cons_self
    simp only [swi, if_neg h0]
    exact ih fun q hq => hn q (List.mem_cons_of_mem _ hq)
section Rows2
variable {σ β : Type} {V : σ → Hp} {E : Ex} {QF : β → σ → State → Prop} {h : σ} {pc : Nat} {la : List (Nat × Value)} {sa : List Value} {x : Option (β × σ)} {cc : ByteArray} {ret : Option FieldType} {own : String}
/-- the goals of a table's cases -/
def SwL (V : σ → Hp) (E : Ex) (QF : β → σ → State → Prop) (h : σ) (pc : Nat) (la : List (Nat × Value)) (sa : List Value) : List Int → List (Int32 × Option (β × σ)) → Prop
  | [], [] => True
  | off :: os, (_, X) :: t => (∃ tgt : Nat, (pc : Int) + off = (tgt : Int) ∧ Sim V E QF h tgt la sa X) ∧ SwL V E QF h pc la sa os t
  | _, _ => False
theorem SwL.at {os : List Int} {cs : List (Int32 × Option (β × σ))} (hL : SwL V E QF h pc la sa os cs) : os.length = cs.length ∧ ∀ (i : Nat) (c : Int32) (X : Option (β × σ)), cs[i]? = some (c, X) → ∃ (off : Int) (tgt : Nat), os[i]? = some off ∧ (pc : Int) + off = (tgt : Int) ∧ Sim V E QF h tgt la sa X := by
  induction os generalizing cs with
  | nil =>
    cases cs with
    | nil => exact ⟨rfl, fun i c X hi => by simp at hi⟩
    | cons q t => exact hL.elim
  | cons o os ih =>
    cases cs with
    | nil => exact hL.elim
    | cons q t =>
      obtain ⟨⟨tgt, h1, h2⟩, h3⟩ := hL
      obtain ⟨i1, i2⟩ := ih h3
      refine ⟨by simp [i1], fun i c X hi => ?_⟩
      cases i with
      | zero =>
        simp only [List.getElem?_cons_zero, Option.some.injEq] at hi
        subst hi
        exact ⟨o, tgt, by simp, h1, h2⟩
      | succ i => simpa using i2 i c X (by simpa using hi)
theorem s_tsw (C : Cx E cc ret own) {x0 : Int32} {dflt lo hi : Int} {offs : Array Int} {len : Nat} (dt : Nat) {D : Option (β × σ)} {cs : List (Int32 × Option (β × σ))} (hd : decode cc pc = .ok (.tableswitch dflt lo hi offs, len))
    (ks : List Int32) (hcs : cs.map Prod.fst = ks) (hks0 : ks.map Int32.toInt = (List.range offs.size).map (fun i : Nat => lo + (i : Int))) (hsz : hi = lo + (offs.size : Int) - 1) (hdt : (pc : Int) + dflt = (dt : Int)) (hL : SwL V E QF h pc la sa offs.toList cs) (kd : Sim V E QF h dt la sa D) : Sim V E QF h pc la (.int x0 :: sa) (swi x0 D cs) := by
  have hks : cs.map (fun q => q.1.toInt) = (List.range offs.size).map (fun i : Nat => lo + (i : Int)) := by
    rw [← hks0, ← hcs, List.map_map]; rfl
  obtain ⟨hlen, hat⟩ := hL.at
  have hlen : offs.size = cs.length := by simpa using hlen
  have hkey : ∀ (i : Nat) (c : Int32) (X : Option (β × σ)), cs[i]? = some (c, X) → c.toInt = lo + (i : Int) := by
    intro i c X hi
    have h1 : (cs.map (fun q => q.1.toInt))[i]? = some c.toInt := by simp [hi]
    have hl : i < cs.length := (List.getElem?_eq_some_iff.mp hi).1
    rw [hks, List.getElem?_map, List.getElem?_range (by omega)] at h1
    exact (Option.some.inj h1).symm
  by_cases hin : x0.toInt < lo ∨ hi < x0.toInt
  · rw [swi_no (fun q hq e => by
      obtain ⟨i, hi'⟩ := List.getElem?_of_mem hq
      have h2 := hkey i q.1 q.2 hi'
      have hl : i < cs.length := (List.getElem?_eq_some_iff.mp hi').1
      rw [← e] at h2
      omega)]
    exact Sim.step dt sa (fun _ _ hs => vkd hs) (fun mp H locs ls Q k n hl kk => lv_tableOut C.1 C.2.1 hd hin hdt (kk k n)) kd
  · have hi2 : (x0.toInt - lo).toNat < cs.length := by omega
    have hg := List.getElem?_eq_getElem hi2
    obtain ⟨c, X, hcX⟩ : ∃ c X, cs[(x0.toInt - lo).toNat] = (c, X) := ⟨_, _, rfl⟩
    rw [hcX] at hg
    obtain ⟨off, tgt, h1, h2, h3⟩ := hat _ c X hg
    have hc : c = x0 := Int32.toInt_inj.mp (by rw [hkey _ c X hg]; omega)
    subst hc
    rw [swi_at hg (fun j Y hj e => by
      have h4 := hkey j _ Y e
      have h5 := hkey _ _ X hg
      omega)]
    exact Sim.step tgt sa (fun _ _ hs => vkd hs) (fun mp H locs ls Q k n hl kk => lv_tableIn C.1 C.2.1 hd (by omega) (by omega) (by rw [← Array.getElem?_toList]; exact h1) h2 (kk k n)) h3
end Rows2

