/-! CONTRACTS: a method that does what a pure function says; its calls -/
set_option maxRecDepth 100000
/-- how a method ends: it has returned, the heap is the pure one's, old cells that aren't ours stand -/
def CQ (G : Gx) (RL : Lv) (mp : Nat → Nat) (n0 : Nat) (h9 : Hp) (res : Option Value) : Array Value → State → Outcome → State → Prop := fun _ st o t =>
  (∃ mp' : Nat → Nat, Xt n0 mp mp' ∧ n0 ≤ h9.1 ∧ o = .returned (res.map (rv mp')) ∧ (∀ v, res = some v → vOk h9.1 v) ∧ RL h9 mp' t t.heap) ∧ va_F (gA G) st t
def QM {σ β : Type} (V : σ → Hp) (E : Ex) (fin : β → Option Value) (r : β) (h9 : σ) : State → Prop :=
  MQ (eB E) (CQ (eG E) (eRL E) (eMp E) (eN0 E) (V h9) (fin r)) (eA E) (eS E) (LIM + gB (eG E) - (eS E).heap.size) (LIM + gT (eG E) - totS (eS E).heap) (gA (eG E))
/-- how a method begins -/
def PQ (G : Gx) (RL : Lv) (h : Hp) (av : List Value) (mp : Nat → Nat) (sz st : Nat) : Array Value → State → Prop :=
  va_Pc (av.map (rv mp)) (fun U => U.heap.size = sz ∧ totS U.heap = st ∧ En G U ∧ RL h mp U U.heap ∧ ∀ v ∈ av, vOk h.1 v)
/-- A CONTRACT: the method, called with av over the heap h, does what x says -/
def Ct {σ β : Type} (V : σ → Hp) (G : Gx) (RL : Lv) (l : Launch) (y : MethodName) (ws : List Cond) (fr lo : Nat) (fin : β → Option Value) (av : List Value) (h : σ) (x : Option (β × σ)) : Prop :=
  ∀ (r : β) (h9 : σ), x = some (r, h9) → ∀ (mp : Nat → Nat) (sz st : Nat),
    Met l y ws { frames := fr, cells := LIM + gB G - sz, slots := LIM + gT G - st, locals := lo } (PQ G RL (V h) av mp sz st) (CQ G RL mp (V h).1 (V h9) (fin r)) (LIM + gB G - sz) (LIM + gT G - st) (gA G)
abbrev finI : Int32 → Option Value := fun v => some (.int v)
abbrev finL : Int64 → Option Value := fun v => some (.long v)
abbrev finR : Nat → Option Value := fun r => some (vr r)
abbrev finV : Unit → Option Value := fun _ => none
theorem lg_sl_len (vs : List Value) : (lg_sl vs).length = (vs.map fun v => if v.category = 2 then 2 else 1).sum := by
  induction vs with
  | nil => rfl
  | cons v t ih =>
    simp only [lg_sl, List.flatMap_cons, List.length_append, List.map_cons, List.sum_cons] at ih ⊢
    rw [ih]
    split <;> rfl
theorem lg_sl_rv (mp : Nat → Nat) (vs : List Value) : (lg_sl (vs.map (rv mp))).length = (lg_sl vs).length := by
  rw [lg_sl_len, lg_sl_len]
  simp only [List.map_map]
  congr 1
  exact List.map_congr_left fun v _ => by simp [rv_cat]
theorem lv_args_rv (mp : Nat → Nat) (vs : List Value) : ∀ i, lv_args i (vs.map (rv mp)) = rvl mp (lv_args i vs) := by
  induction vs with
  | nil => exact fun _ => rfl
  | cons v t ih =>
    intro i
    simp only [List.map_cons, lv_args, rvl, rv_cat]
    rw [ih]
theorem lv_args_ok {n : Nat} {vs : List Value} (h : ∀ v ∈ vs, vOk n v) : ∀ i, ∀ q ∈ lv_args i vs, vOk n q.2 := by
  induction vs with
  | nil => exact fun _ q hq => by cases hq
  | cons v t ih =>
    intro i q hq
    rcases List.mem_cons.mp hq with rfl | hq
    · exact h v List.mem_cons_self
    · exact ih (fun u hu => h u (List.mem_cons_of_mem _ hu)) _ q hq
/-- a contract out of a walk from the method's first instruction -/
theorem Ct.of {σ β : Type} {V : σ → Hp} {G : Gx} {RL : Lv} {Pl : Nat → Bool} {l : Launch} {y : MethodName} {cc : ByteArray} {maxL fr lo : Nat} {ret : Option FieldType} {fin : β → Option Value} {av : List Value} {h : σ} {x : Option (β × σ)} (la0 : List (Nat × Value))
    (hy : plainName y.cls = true) (hLv : LvA G RL Pl) (hla : lv_args 0 av = la0) (hlen : (av.map fun v => if v.category = 2 then 2 else 1).sum ≤ maxL)
    (body : ∀ E : Ex, Cx E cc ret y.cls → (eMe E).name = y.name → (eR E).frames = fr → (eR E).locals = lo → eL E = l → eG E = G → eRL E = RL → ePl E = Pl → eNL E = maxL → Sim V E (QM V E fin) h 0 la0 [] x) :
    Ct V G RL l y (ws_ y cc maxL ret) fr lo fin av h x := by
  intro r h9 hx mp sz st
  refine Met.ofW (cc := cc) (maxL := maxL) (ret := ret) hy rfl ?_
  intro p e s m args below meth c s₁ B hml hv
  obtain ⟨rfl, hsz, hst, hEn, hRL, hok⟩ := hv
  have hts := atoms_spec (ws := ws_ y cc maxL ret) B.pre
  have hnm := name_of_methodNamed B.named B.method
  subst hsz; subst hst; subst hla
  have hR : Rm ((p, l, e, (headSpec (ws_ y cc maxL ret) { frames := fr, cells := LIM + gB G - s.heap.size, slots := LIM + gT G - totS s.heap, locals := lo }).room, s, m, (av.map (rv mp)).toArray, below, meth, c), G, RL, mp, (V h).1, maxL, Pl) := by
    refine ⟨?_, ?_⟩
    · show LIM + gB G ≤ (LIM + gB G - s.heap.size) + s.heap.size
      omega
    · show LIM + gT G ≤ (LIM + gT G - totS s.heap) + totS s.heap
      omega
  have hk := body ((p, l, e, (headSpec (ws_ y cc maxL ret) { frames := fr, cells := LIM + gB G - s.heap.size, slots := LIM + gT G - totS s.heap, locals := lo }).room, s, m, (av.map (rv mp)).toArray, below, meth, c), G, RL, mp, (V h).1, maxL, Pl)
    ⟨B.exec, B.bytes, B.returns, hml, findClass_of_methodNamed B.named, fun w h => hts w (List.mem_cons_of_mem _ h), B.notSynchronized, hEn, hLv, hR⟩ hnm.1 rfl rfl rfl rfl rfl rfl rfl r h9 hx
  have hl := lv_entry (av.map (rv mp)) (n := maxL) (by rw [lg_sl_rv, lg_sl_len]; exact hlen)
  rw [lv_args_rv] at hl
  rw [lg_entry_eq]
  exact hk mp s.heap [] _ ⟨Xt.rf, Nat.le_refl _, hRL, va_S.rf, hl, lv_args_ok hok 0, fun v hv => by cases hv⟩ 0 0

section Ends
variable {σ β : Type} {V : σ → Hp} {E : Ex} {h : σ} {pc : Nat} {la : List (Nat × Value)} {cc : ByteArray} {ret : Option FieldType} {own : String} {fin : β → Option Value}
/-- an end: the row that the machine has for it, the room rounded up, what the contract says -/
theorem Sim.ends {r : β} {v : Option Value} {sa : List Value} (C : Cx E cc ret own) (hv : fin r = v) (hsa : ∀ n, (∀ u ∈ sa, vOk n u) → ∀ u, v = some u → vOk n u)
    (hw : ∀ (mp : Nat → Nat) (H : Heap) (locs : List Loc) (ls : Array Slot) (Qc : Array Value → State → Outcome → State → Prop) (k n : Nat), (∀ t : State, t.heap = H → (eS E).WarmedH t.vm → Qc (eA E) (eS E) (.returned (v.map (rv mp))) t) → (∀ q ∈ locs, gA (eG E) q.base) → W (eP E) (eL E) (eE E) (eR E) (eS E) (eM E) (eA E) (eB E) (eMe E) (eC E) H locs k n (MQ (eB E) Qc (eA E) (eS E) k n (gA (eG E))) (F0 (eM E) pc ls (sa.map (rv mp)))) :
    Sim V E (QM V E fin) h pc la sa (some (r, h)) := by
  intro r' h9 hx mp H locs ls ok
  cases hx
  refine WE.of ?_
  obtain ⟨o1, o2, o3, o4, o5, o6, o7⟩ := ok
  have hc := C.lv.2.1 _ _ _ _ o3
  refine W.widen (k := LIM + gB (eG E) - (eS E).heap.size) (n := LIM + gT (eG E) - totS (eS E).heap) (by omega) (by omega) ?_
  refine hw mp H locs ls _ _ _ (fun t ht hW => ⟨⟨mp, o1, o2, by rw [hv], fun u hu => hsa _ o7 u (hv ▸ hu), ?_⟩, o4.F ht⟩) o4.2.2
  rw [ht]
  exact C.lv.1 _ _ _ _ _ hW.alike o3
theorem s_iret (C : Cx E cc (some .int) own) {v : Int32} {r : β} (hv : fin r = some (.int v)) (hd : decode cc pc = .ok (.ireturn, 1)) : Sim V E (QM V E fin) h pc la [.int v] (some (r, h)) :=
  Sim.ends (v := some (.int v)) C hv (fun _ _ u hu => by cases hu; trivial) (fun mp H locs ls Qc k n hq hf => W.iret C.1 C.2.1 C.2.2.1 hq hf hd C.lk)
/-- what a result of a small type keeps of an int -/
def nrw (k : Nat) (v : Int32) : Int32 := match k with
  | 1 => v.toInt8.toInt32
  | 2 => v &&& 1
  | 4 => v.toUInt32.toUInt16.toUInt32.toInt32
  | _ => v
theorem nrw_ok {k : Nat} (v : Int32) (hk : k < 5) (h3 : k ≠ 3) : narrow (tyA k) (.int v) = .int (nrw k v) := by
  match k, hk with
  | 0, _ => rfl
  | 1, _ => rfl
  | 2, _ => rfl
  | 3, _ => exact absurd rfl h3
  | 4, _ => rfl
/-- an answer of a small type: it must fit -/
theorem s_zret (k : Nat) (C : Cx E cc (some (tyA k)) own) {v : Int32} {r : β} (hk : k < 5) (h3 : k ≠ 3) (hv : fin r = some (.int v)) (hd : decode cc pc = .ok (.ireturn, 1)) : Sim V E (QM V E fin) h pc la [.int v] (if nrw k v = v then some (r, h) else none) := by
  by_cases c : nrw k v = v
  · rw [if_pos c]
    exact Sim.ends (v := some (.int v)) C hv (fun _ _ u hu => by cases hu; trivial) (fun mp H locs ls Qc k' n hq hf => W.zret C.1 C.2.1 C.2.2.1 (by rw [nrw_ok v hk h3, c]) hq hf hd C.lk)
  · rw [if_neg c]; exact sim_none
theorem s_lret (C : Cx E cc (some .long) own) {v : Int64} {r : β} (hv : fin r = some (.long v)) (hd : decode cc pc = .ok (.lreturn, 1)) : Sim V E (QM V E fin) h pc la [.long v] (some (r, h)) :=
  Sim.ends (v := some (.long v)) C hv (fun _ _ u hu => by cases hu; trivial) (fun mp H locs ls Qc k n hq hf => W.lret C.1 C.2.1 C.2.2.1 hq hf hd C.lk)
theorem s_vret (C : Cx E cc none own) {r : β} (hv : fin r = none) (hd : decode cc pc = .ok (.return_, 1)) : Sim V E (QM V E fin) h pc la [] (some (r, h)) :=
  Sim.ends (v := none) C hv (fun _ _ u hu => by cases hu) (fun mp H locs ls Qc k n hq hf => W.vret C.1 C.2.1 C.2.2.1 hq hf hd C.lk)
theorem s_aret {rt : FieldType} (C : Cx E cc (some rt) own) {a : Nat} {r : β} (hrt : (∃ n, rt = .object n) ∨ ∃ t, rt = .array t) (hv : fin r = some (vr a)) (hd : decode cc pc = .ok (.areturn, 1)) : Sim V E (QM V E fin) h pc la [vr a] (some (r, h)) :=
  Sim.ends (v := some (vr a)) C hv (fun _ hs u hu => by cases hu; exact hs _ List.mem_cons_self) (fun mp H locs ls Qc k n hq hf => W.aret C.1 C.2.1 C.2.2.1 hrt (by
    rw [rv_vr]
    by_cases h0 : a = 0
    · subst h0; exact Or.inl rfl
    · rw [rfv_p mp h0]; exact Or.inr ⟨_, rfl⟩) hq hf hd C.lk)
end Ends
section Calls
variable {σ β : Type} {V : σ → Hp} {E : Ex} {QF : β → σ → State → Prop} {h : σ} {pc : Nat} {la : List (Nat × Value)} {sa : List Value} {cc : ByteArray} {ret : Option FieldType} {own : String}
variable {β1 : Type} {f : Option (β1 × σ)} {cont : β1 × σ → Option (β × σ)} {fin1 : β1 → Option Value} {As sar : List Value} {y : MethodName} {idx maxL fr1 lo1 : Nat} {bytes : ByteArray} {ret1 : Option FieldType} {ws : List Cond}
/-- a call: what the machine does, and the walk behind it -/
theorem Sim.callK (C : Cx E cc ret own) (fin1 : β1 → Option Value) (pcn : Nat) (sar : List Value) (hsar : ∀ n, (∀ v ∈ sa, vOk n v) → ∀ v ∈ sar, vOk n v)
    (hrun : ∀ r1 h1, f = some (r1, h1) → ∀ (mp : Nat → Nat) (H : Heap) (locs : List Loc) (ls : Array Slot), Ok E (V h) mp H locs ls la sa → (H.size - (eS E).heap.size) + (LIM + gB (eG E) - H.size) ≤ (eR E).cells → (totS H - totS (eS E).heap) + (LIM + gT (eG E) - totS H) ≤ (eR E).slots → ∃ (mc ms : Nat) (a : Array Value), ∀ T : State, T.heap = H → Stand (eP E) (eL E) (eE E) (eR E) (eS E) (eM E) (eA E) (eB E) (eMe E) (eC E) T locs (H.size - (eS E).heap.size) (totS H - totS (eS E).heap) →
      ∃ (v : Option Value) (st₀ t T' : State) (L : List Loc), st₀.heap = H ∧ Stand (eP E) (eL E) (eE E) (eR E) (eS E) (eM E) (eA E) (eB E) (eMe E) (eC E) T' (locs ++ L) (H.size - (eS E).heap.size + mc) (totS H - totS (eS E).heap + ms) ∧ (∀ q ∈ L, gA (eG E) q.base) ∧ T'.heap = t.heap ∧ T'.vm = t.vm ∧ CQ (eG E) (eRL E) mp (V h).1 (V h1) (fin1 r1) a st₀ (.returned v) t ∧
        Goes (eP E) (eE E) (eB E) T (F0 (eM E) pc ls (sa.map (rv mp))) T' (F0 (eM E) pcn ls (v.toList ++ sar.map (rv mp))))
    (kk : ∀ r1 h1, Sim V E QF h1 pcn la ((fin1 r1).toList ++ sar) (cont (r1, h1))) : Sim V E QF h pc la sa (f.bind cont) := by
  intro r h9 hx mp H locs ls ok
  obtain ⟨⟨r1, h1⟩, hf, hx⟩ := Option.bind_eq_some_iff.mp hx
  obtain ⟨o1, o2, o3, o4, o5, o6, o7⟩ := ok
  have hc := C.lv.2.1 _ _ _ _ o3
  have hR := C.2.2.2.2.2.2.2.2.2
  have hs1 : (eS E).heap.size ≤ H.size := o4.1
  have hs2 : totS (eS E).heap ≤ totS H ∨ totS H < totS (eS E).heap := by omega
  refine WE.of ?_
  intro T hT X
  have hs3 : totS (eS E).heap ≤ totS H := by
    have hb := X.book
    have hr : (eS E).slotsTrue = true := by
      have h1 := X.room
      simp only [State.hasRoom, Bool.and_eq_true] at h1
      exact h1.2
    have e1 : T.slotsUsed = totS T.heap := by simpa [State.slotsTrue, totS] using hb
    have e2 : (eS E).slotsUsed = totS (eS E).heap := by simpa [State.slotsTrue, totS] using hr
    have e3 : T.slotsUsed = (eS E).slotsUsed + _ := X.same.2.2.2.1
    rw [hT] at e1
    omega
  obtain ⟨hR1, hR2⟩ := hR
  obtain ⟨mc, ms, a, go⟩ := hrun r1 h1 hf mp H locs ls ⟨o1, o2, o3, o4, o5, o6, o7⟩ (by omega) (by omega)
  obtain ⟨v, st₀, t, T', L, h0, X', hL, e1, e2, ⟨⟨mp', q1, q2, q3, q4, q5⟩, hF⟩, st⟩ := go T hT X
  cases q3
  have hz := hF.1
  have hk := hF.2
  rw [h0] at hz hk
  have hRL : eRL E (V h1) mp' (eS E) T'.heap := by
    rw [e1]
    exact C.lv.1 _ _ _ _ _ (by rw [← e2]; exact X'.warmed.alike.symm) q5
  have hS : va_S (gA (eG E)) (eS E).heap T'.heap (locs ++ L) := ⟨Nat.le_trans o4.1 (by rw [e1]; exact hz), fun q g1 g2 => by
      rw [e1, hk q (Nat.lt_of_lt_of_le g1 o4.1) g2]
      exact o4.2.1 q g1 g2, fun q hq => by
      rcases List.mem_append.mp hq with g | g
      · exact o4.2.2 q g
      · exact hL q g⟩
  have hst : ((fin1 r1).map (rv mp')).toList ++ sar.map (rv mp) = ((fin1 r1).toList ++ sar).map (rv mp') := by
    rw [List.map_append, xt_rvs q1 (hsar _ o7)]
    cases fin1 r1 <;> rfl
  rw [hst] at st
  have hrest := hsar _ o7
  obtain ⟨t2, a1, b1⟩ := kk r1 h1 r h9 hx mp' T'.heap (locs ++ L) ls ⟨o1.trans q1 o2, Nat.le_trans o2 q2, hRL, hS, by rw [xt_rvl q1 o6]; exact o5, fun q hq => (o6 q hq).mono q2, fun u hu => by
      rcases List.mem_append.mp hu with g | g
      · exact q4 u (Option.mem_toList.mp g)
      · exact (hrest u g).mono q2⟩ _ _ T' rfl X'
  exact ⟨t2, st t2 a1, b1⟩
theorem PQ.blind {G : Gx} {RL : Lv} {Pl : Nat → Bool} {h : Hp} {av : List Value} {mp : Nat → Nat} {sz st : Nat} (hL : LvA G RL Pl) : FrameBlind (PQ G RL h av mp sz st) := by
  intro a U g mk ⟨q0, q1, q2, q3, q4, q5⟩
  exact ⟨q0, q1, q2, q3.calling g mk a, hL.1 _ _ U (U.calling g mk a) _ (Vm.Alike.refl U.vm) q4, q5⟩
theorem PQ.pays {h : Hp} {mp : Nat → Nat} {H : Heap} {locs : List Loc} {ls : Array Slot} (C : Cx E cc ret own) (ok : Ok E h mp H locs ls la sa) {av : List Value} (hav : ∀ v ∈ av, vOk h.1 v) : ∀ U : State, U.heap = H → (eS E).WarmedH U.vm → PQ (eG E) (eRL E) h av mp H.size (totS H) (av.map (rv mp)).toArray U := by
  intro U hU hW
  refine ⟨rfl, by rw [hU], by rw [hU], C.en.warm hW (by rw [hU]; exact ok.2.2.2.1.1) (fun a h1 h2 => by rw [hU]; exact ok.2.2.2.1.2.1 a h1 h2), ?_, hav⟩
  rw [hU]
  exact C.lv.1 _ _ _ _ _ hW.alike ok.2.2.1
theorem rv_sum (mp : Nat → Nat) (vs : List Value) : ((vs.map (rv mp)).map fun v => v.category).sum = (vs.map fun v => v.category).sum := by
  simp only [List.map_map]
  congr 1
  exact List.map_congr_left fun v _ => rv_cat mp v
theorem cat_le (vs : List Value) : (vs.map fun v => v.category).sum ≤ 2 * vs.length := by
  induction vs with
  | nil => exact Nat.le_refl _
  | cons v t ih =>
    simp only [List.map_cons, List.sum_cons, List.length_cons]
    have : v.category ≤ 2 := by cases v <;> simp [Value.category]
    omega
/-- the receiver: a cell of that class -/
theorem recv_at {h : Hp} {mp : Nat → Nat} {H : Heap} {locs : List Loc} {ls : Array Slot} {b t : Nat} {q : vw_C} (C : Cx E cc ret own) (ok : Ok E h mp H locs ls la sa) (ht : tg h b % 500 = t) (h0 : t ≠ 0) (h2 : t < 200) (hq : clT[t - 1]? = some q) : b ≠ 0 ∧ ∃ cellB : Cell, H[mp b]? = some cellB ∧ cellB.vm.isStatics = false ∧ (eS E).vm.findClass q.1 = some cellB.cls := by
  obtain ⟨g1, -, -, cell, g2, g3, g4⟩ := C.lv.2.2.1 _ _ _ _ ok.2.2.1 b (by omega)
  refine ⟨g1, cell, g2, g3, ?_⟩
  rw [g4 (by omega), ht]
  exact (C.en.1 _ _ hq).2.1
theorem s_callV (C : Cx E cc ret own) {b : Nat} (n : Nat) (sar : List Value) (t : Nat) (q : vw_C) (ht : tg (V h) b % 500 = t) (h0 : t ≠ 0 ∧ t < 200 ∧ clT[t - 1]? = some q) (hC : Ct V (eG E) (eRL E) (eL E) y (ws_ y bytes maxL ret1) fr1 lo1 fin1 (vr b :: As) h f)
    (hw : GoodIn lw_all (wsV own idx q.1 y (ws_ y bytes maxL ret1))) (hd2 : y.cls = q.1 ∧ y.cls ≠ "java/lang/invoke/MethodHandle" ∧ y.cls ≠ "java/lang/invoke/VarHandle" ∧ (parseMethodDescriptor y.desc).map (fun d => d.parameters.length) = some n) (hn : As.length = n)
    (hfr : fr1 + 1 ≤ (eR E).frames ∧ 8 + (maxL + 11) + lo1 ≤ (eR E).locals) (hst : As.reverse ++ vr b :: sar = sa) (hsum : (sar.map fun v => v.category).sum ≤ 8) (hd : decode cc pc = .ok (.invokevirtual idx, 3))
    (kk : ∀ r1 h1, Sim V E QF h1 (pc + 3) la ((fin1 r1).toList ++ sar) (cont (r1, h1))) : Sim V E QF h pc la sa (f.bind cont) := by
  subst hst
  refine Sim.callK C fin1 (pc + 3) sar (fun _ hs v hv => hs v (List.mem_append_right _ (List.mem_cons_of_mem _ hv))) (fun r1 h1 hf mp H locs ls ok hr1 hr2 => ?_) kk
  obtain ⟨hb, hrc⟩ := recv_at C ok ht h0.1 h0.2.1 h0.2.2
  have hav : ∀ v ∈ vr b :: As, vOk (V h).1 v := fun v hv => by
    rcases List.mem_cons.mp hv with e | g
    · rw [e]; exact ok.2.2.2.2.2.2 _ (List.mem_append_right _ List.mem_cons_self)
    · exact ok.2.2.2.2.2.2 _ (List.mem_append_left _ (List.mem_reverse.mpr g))
  have hpay := PQ.pays C ok hav
  simp only [List.map_cons, rv_vr, rfv_p mp hb] at hpay
  refine ⟨_, _, _, va_runV (As := As.map (rv mp)) (rest := sar.map (rv mp)) (mc := LIM + gB (eG E) - H.size) (ms := LIM + gT (eG E) - totS H) ⟨C.1, C.2.1, C.nl, C.ow, C.ws⟩ (hC r1 h1 hf mp H.size (totS H)) (cwV n C.ws hw rfl rfl rfl hd2 hfr) ⟨PQ.blind C.lv, hrc, hpay⟩ rfl (by simp [hn]) ok.2.2.2.2.1.1 ?_ ?_ hd ⟨hr1, hr2⟩⟩
  · simp [rv_vr, rfv_p mp hb]
  · rw [rv_sum]
    have := cat_le sar
    show 2 * 0 + _ ≤ 8
    omega
theorem s_callS (C : Cx E cc ret own) (n : Nat) (sar : List Value) (hC : Ct V (eG E) (eRL E) (eL E) y (ws_ y bytes maxL ret1) fr1 lo1 fin1 As h f)
    (hw : GoodIn lw_all (va_wsS own idx y (ws_ y bytes maxL ret1))) (hd2 : y.cls ≠ "java/lang/invoke/MethodHandle" ∧ y.cls ≠ "java/lang/invoke/VarHandle" ∧ (parseMethodDescriptor y.desc).map (fun d => d.parameters.length) = some n) (hn : As.length = n)
    (hfr : fr1 + 1 ≤ (eR E).frames ∧ 8 + (maxL + 11) + lo1 ≤ (eR E).locals) (hst : As.reverse ++ sar = sa) (hsum : (sar.map fun v => v.category).sum ≤ 8) (hd : decode cc pc = .ok (.invokestatic idx, 3))
    (kk : ∀ r1 h1, Sim V E QF h1 (pc + 3) la ((fin1 r1).toList ++ sar) (cont (r1, h1))) : Sim V E QF h pc la sa (f.bind cont) := by
  subst hst
  refine Sim.callK C fin1 (pc + 3) sar (fun _ hs v hv => hs v (List.mem_append_right _ hv)) (fun r1 h1 hf mp H locs ls ok hr1 hr2 => ?_) kk
  have hav : ∀ v ∈ As, vOk (V h).1 v := fun v hv => ok.2.2.2.2.2.2 _ (List.mem_append_left _ (List.mem_reverse.mpr hv))
  refine ⟨_, _, _, va_runS (As := As.map (rv mp)) (rest := sar.map (rv mp)) (mc := LIM + gB (eG E) - H.size) (ms := LIM + gT (eG E) - totS H) ⟨C.1, C.2.1, C.nl, C.ow, C.ws⟩ (hC r1 h1 hf mp H.size (totS H)) (va_cwS n C.ws hw rfl rfl rfl hd2 hfr) ⟨PQ.blind C.lv, PQ.pays C ok hav⟩ rfl (by simp [hn]) ok.2.2.2.2.1.1 ?_ ?_ hd ⟨hr1, hr2⟩⟩
  · simp
  · rw [rv_sum]
    have := cat_le sar
    show 2 * 0 + _ ≤ 8
    omega
theorem s_callI (C : Cx E cc ret own) {b : Nat} (n : Nat) (sar : List Value) (hb : b ≠ 0) (hC : Ct V (eG E) (eRL E) (eL E) y (ws_ y bytes maxL none) fr1 lo1 fin1 (vr b :: As) h f)
    (hw : GoodIn lw_all (ws_ y bytes maxL none)) (hi : Cond.initialized y.cls ∈ lw_all) (hm : Cond.methodLink own idx y ∈ lw_all) (him : Cond.instanceMethod y ∈ lw_all) (hnm : y.name = "<init>") (hd2 : y.cls ≠ "java/lang/invoke/MethodHandle" ∧ y.cls ≠ "java/lang/invoke/VarHandle" ∧ (parseMethodDescriptor y.desc).map (fun d => d.parameters.length) = some n) (hn : As.length = n)
    (hfr : fr1 + 1 ≤ (eR E).frames ∧ 8 + (maxL + 11) + lo1 ≤ (eR E).locals) (hst : As.reverse ++ vr b :: sar = sa) (hsum : (sar.map fun v => v.category).sum ≤ 8) (hd : decode cc pc = .ok (.invokespecial idx, 3))
    (kk : ∀ r1 h1, Sim V E QF h1 (pc + 3) la ((fin1 r1).toList ++ sar) (cont (r1, h1))) : Sim V E QF h pc la sa (f.bind cont) := by
  subst hst
  refine Sim.callK C fin1 (pc + 3) sar (fun _ hs v hv => hs v (List.mem_append_right _ (List.mem_cons_of_mem _ hv))) (fun r1 h1 hf mp H locs ls ok hr1 hr2 => ?_) kk
  have hav : ∀ v ∈ vr b :: As, vOk (V h).1 v := fun v hv => by
    rcases List.mem_cons.mp hv with e | g
    · rw [e]; exact ok.2.2.2.2.2.2 _ (List.mem_append_right _ List.mem_cons_self)
    · exact ok.2.2.2.2.2.2 _ (List.mem_append_left _ (List.mem_reverse.mpr g))
  have hpay := PQ.pays C ok hav
  simp only [List.map_cons, rv_vr, rfv_p mp hb] at hpay
  refine ⟨_, _, _, va_runI (As := As.map (rv mp)) (rest := sar.map (rv mp)) (b := mp b) (mc := LIM + gB (eG E) - H.size) (ms := LIM + gT (eG E) - totS H) ⟨C.1, C.2.1, C.nl, C.ow, C.ws⟩ (hC r1 h1 hf mp H.size (totS H)) (cwI n C.ws hw rfl rfl rfl (C.ws _ hi) (C.ws _ hm) (C.ws _ him) hnm hd2 hfr) ⟨PQ.blind C.lv, hpay⟩ rfl (by simp [hn]) ok.2.2.2.2.1.1 ?_ ?_ hd ⟨hr1, hr2⟩⟩
  · simp [rv_vr, rfv_p mp hb]
  · rw [rv_sum]
    have := cat_le sar
    show 2 * 0 + _ ≤ 8
    omega
end Calls
