/-! CONTRACTS of methods that may throw; their calls -/
set_option maxRecDepth 100000
def cxName (p : Nat) : String := if p = 0 then "java/util/NoSuchElementException" else "FinalLinks$Fault"
def CQX {β : Type} (G : Gx) (RL : Lv) (mp : Nat → Nat) (n0 : Nat) (h9 : Hp) (fin : β → Option Value) (r : Except Nat β) : Array Value → State → Outcome → State → Prop := fun a st o t => ∃ b, r = .ok b ∧ CQ G RL mp n0 h9 (fin b) a st o t
/-- how a throw ends: 0 is a NoSuchElementException that nobody looks at, else the number of a Fault -/
def XQX {β : Type} (G : Gx) (RL : Lv) (mp : Nat → Nat) (n0 : Nat) (h9 : Hp) (r : Except Nat β) : String → Addr → State → State → Prop := fun E q st t =>
  (∃ p, r = .error p ∧ E = cxName p ∧ ∃ mp' : Nat → Nat, Xt n0 mp mp' ∧ n0 ≤ h9.1 ∧ RL h9 mp' t t.heap ∧ (p ≠ 0 → p < h9.1 ∧ q = mp' p ∧ tg h9 p = 8)) ∧ va_F (gA G) st t
def QMX {β : Type} (E : Ex) (fin : β → Option Value) (r : Except Nat β) (h9 : Hp) : State → Prop :=
  vx_MQ (eB E) (CQX (eG E) (eRL E) (eMp E) (eN0 E) h9 fin r) (XQX (eG E) (eRL E) (eMp E) (eN0 E) h9 r) (eA E) (eS E) (LIM + gB (eG E) - (eS E).heap.size) (LIM + gT (eG E) - totS (eS E).heap) (gA (eG E))
def CtX {β : Type} (G : Gx) (RL : Lv) (l : Launch) (y : MethodName) (ws : List Cond) (fr lo : Nat) (fin : β → Option Value) (av : List Value) (h : Hp) (x : Option (Except Nat β × Hp)) : Prop :=
  ∀ (r : Except Nat β) (h9 : Hp), x = some (r, h9) → ∀ (mp : Nat → Nat) (sz st : Nat),
    vx_Met l y ws { frames := fr, cells := LIM + gB G - sz, slots := LIM + gT G - st, locals := lo } (PQ G RL h av mp sz st) (CQX G RL mp h.1 h9 fin r) (XQX G RL mp h.1 h9 r) (LIM + gB G - sz) (LIM + gT G - st) (gA G)
/-- no handler in this body -/
def NT (E : Ex) : Prop := ∀ x ∈ (eC E).exceptionTable.toList, False
theorem CtX.of {β : Type} {G : Gx} {RL : Lv} {Pl : Nat → Bool} {l : Launch} {y : MethodName} {cc : ByteArray} {maxL fr lo : Nat} {ret : Option FieldType} {fin : β → Option Value} {av : List Value} {h : Hp} {x : Option (Except Nat β × Hp)} (la0 : List (Nat × Value))
    (hy : plainName y.cls = true) (hLv : LvA G RL Pl) (hla : lv_args 0 av = la0) (hlen : (av.map fun v => if v.category = 2 then 2 else 1).sum ≤ maxL)
    (body : ∀ E : Ex, Cx E cc ret y.cls → (eMe E).name = y.name → (eR E).frames = fr → (eR E).locals = lo → eL E = l → eG E = G → eRL E = RL → ePl E = Pl → eNL E = maxL → NT E → Sim id E (QMX E fin) h 0 la0 [] x) :
    CtX G RL l y (ws_ y cc maxL ret) fr lo fin av h x := by
  intro r h9 hx mp sz st
  refine vx_ofW (cc := cc) (maxL := maxL) (ret := ret) hy rfl ?_
  intro p e s m args below meth c s₁ B hml hnt hv
  obtain ⟨rfl, hsz, hst, hEn, hRL, hok⟩ := hv
  have hts := atoms_spec (ws := ws_ y cc maxL ret) B.pre
  have hnm := name_of_methodNamed B.named B.method
  subst hsz; subst hst; subst hla
  have hR : Rm ((p, l, e, (headSpec (ws_ y cc maxL ret) { frames := fr, cells := LIM + gB G - s.heap.size, slots := LIM + gT G - totS s.heap, locals := lo }).room, s, m, (av.map (rv mp)).toArray, below, meth, c), G, RL, mp, h.1, maxL, Pl) := by
    refine ⟨?_, ?_⟩
    · show LIM + gB G ≤ (LIM + gB G - s.heap.size) + s.heap.size
      omega
    · show LIM + gT G ≤ (LIM + gT G - totS s.heap) + totS s.heap
      omega
  have hk := body ((p, l, e, (headSpec (ws_ y cc maxL ret) { frames := fr, cells := LIM + gB G - s.heap.size, slots := LIM + gT G - totS s.heap, locals := lo }).room, s, m, (av.map (rv mp)).toArray, below, meth, c), G, RL, mp, h.1, maxL, Pl)
    ⟨B.exec, B.bytes, B.returns, hml, findClass_of_methodNamed B.named, fun w h => hts w (List.mem_cons_of_mem _ h), B.notSynchronized, hEn, hLv, hR⟩ hnm.1 rfl rfl rfl rfl rfl rfl rfl hnt r h9 hx
  have hl := lv_entry (av.map (rv mp)) (n := maxL) (by rw [lg_sl_rv, lg_sl_len]; exact hlen)
  rw [lv_args_rv] at hl
  rw [lg_entry_eq]
  exact hk mp s.heap [] _ ⟨Xt.rf, Nat.le_refl _, hRL, va_S.rf, hl, lv_args_ok hok 0, fun v hv => by cases hv⟩ 0 0
/-- what is called may throw: if it does, X; else K -/
def bh {β1 β : Type} (f : Option (Except Nat β1 × Hp)) (X : Nat → Hp → Option (β × Hp)) (K : β1 → Hp → Option (β × Hp)) : Option (β × Hp) := f.bind fun p => match p.1 with
  | .ok v => K v p.2
  | .error q => X q p.2
abbrev bx {β1 β : Type} (f : Option (Except Nat β1 × Hp)) (K : β1 → Hp → Option (Except Nat β × Hp)) : Option (Except Nat β × Hp) := bh f (fun q h => some (.error q, h)) K
section CX
variable {β : Type} {E : Ex} {h : Hp} {pc : Nat} {la : List (Nat × Value)} {sa : List Value} {cc : ByteArray} {ret : Option FieldType} {own : String} {fin : β → Option Value}
theorem Sim.okR {r : β} {h' : Hp} (k : Sim id E (QM id E fin) h pc la sa (some (r, h'))) : Sim id E (QMX E fin) h pc la sa (some (.ok r, h')) := by
  intro r9 h9 hx mp H locs ls ok
  cases hx
  intro kx nx
  refine vx_ret ?_
  have hk := k r h' rfl mp H locs ls ok kx nx
  intro T hT X
  obtain ⟨t, a1, o, b1, b2, b3, b4⟩ := hk T hT X
  exact ⟨t, a1, o, b1, b2, ⟨r, rfl, b3⟩, b4⟩
theorem stand_tight {H : Heap} {locs : List Loc} {k n : Nat} {T : State} (hT : T.heap = H) (X : Stand (eP E) (eL E) (eE E) (eR E) (eS E) (eM E) (eA E) (eB E) (eMe E) (eC E) T locs k n) : Stand (eP E) (eL E) (eE E) (eR E) (eS E) (eM E) (eA E) (eB E) (eMe E) (eC E) T locs (H.size - (eS E).heap.size) (totS H - totS (eS E).heap) := by
  refine { X with same := ?_ }
  have hb := X.book
  have hr : (eS E).slotsTrue = true := by
    have h1 := X.room
    simp only [State.hasRoom, Bool.and_eq_true] at h1
    exact h1.2
  obtain ⟨h1, h2, h3, h4, h5, h6⟩ := X.same
  have hT' : (T.setVm (eS E).vm).heap = H := hT
  have e1 : T.slotsUsed = totS H := by
    have h7 : T.slotsUsed = totS T.heap := by simpa [State.slotsTrue, totS] using hb
    rw [h7, hT]
  have e2 : (eS E).slotsUsed = totS (eS E).heap := by simpa [State.slotsTrue, totS] using hr
  have e3 : (T.setVm (eS E).vm).slotsUsed = T.slotsUsed := rfl
  rw [hT'] at h2 h3 h4 h5 h6
  refine ⟨h1, by rw [hT']; exact h2, by rw [hT']; omega, by rw [hT']; exact h4, ?_, by rw [hT']; exact h6⟩
  rw [hT']
  rw [e3, e1, e2] at h4
  omega
/-- with q thrown over a frame here: the exception p of the heap h1 -/
def XOk (E : Ex) (h1 : Hp) (p : Nat) (mp : Nat → Nat) (H : Heap) (q : Addr) : Prop := ∃ ce : Cell, H[q]? = some ce ∧ ce.vm = .none ∧ (eS E).vm.findClass (cxName p) = some ce.cls ∧ (p ≠ 0 → p < h1.1 ∧ q = mp p ∧ tg h1 p = 8)
def SimX {β : Type} (E : Ex) (QF : β → Hp → State → Prop) (h : Hp) (p pc : Nat) (la : List (Nat × Value)) (x : Option (β × Hp)) : Prop :=
  ∀ (r : β) (h9 : Hp), x = some (r, h9) → ∀ (mp : Nat → Nat) (H : Heap) (locs : List Loc) (ls : Array Slot) (sa : List Value) (q : Addr), Ok E h mp H locs ls la [] → XOk E h p mp H q →
    vx_W (eP E) (eL E) (eE E) (eR E) (eS E) (eM E) (eA E) (eB E) (eMe E) (eC E) H locs (H.size - (eS E).heap.size) (totS H - totS (eS E).heap) (QF r h9) (F0 (eM E) pc ls sa) q
/-- not caught: it goes on -/
theorem SimX.out {p : Nat} (C : Cx E cc ret own) (hnt : NT E) : SimX E (QMX E fin) h p pc la (some (.error p, h)) := by
  intro r h9 hx mp H locs ls sa q ok ⟨ce, c1, c2, c3, c4⟩
  cases hx
  obtain ⟨o1, o2, o3, o4, o5, o6, o7⟩ := ok
  have hc := C.lv.2.1 _ _ _ _ o3
  refine vx_out (E := cxName p) (fun x hx => (hnt x hx).elim) C.lk c1 c2 c3 (fun t ht hW => ⟨⟨p, rfl, rfl, mp, o1, o2, ?_, c4⟩, o4.F ht⟩) o4.2.2 (by omega) (by omega)
  rw [ht]
  exact C.lv.1 _ _ _ _ _ hW o3
/-- 'throw x' of a Fault -/
theorem s_athrow {p : Nat} (C : Cx E cc ret own) (hnt : NT E) (hp : ePl E 8 = true) (hd : decode cc pc = .ok (.athrow, 1)) : Sim id E (QMX E fin) h pc la (vr p :: sa) (if tg h p = 8 then some (.error p, h) else none) := by
  intro r h9 hx mp H locs ls ok
  replace ok : Ok E h mp H locs ls la _ := ok
  split at hx
  · rename_i ht
    refine WE.of ?_
    obtain ⟨o1, o2, o3, o4, o5, o6, o7⟩ := ok
    obtain ⟨g1, g2, -, cell, g3, -, g4⟩ := C.lv.2.2.1 _ _ _ _ o3 p (by rw [ht]; decide)
    obtain ⟨-, cell', r1, -, -, r2, -⟩ := C.lv.2.2.2.2.1 _ _ _ _ o3 p (by rw [ht]; exact hp)
    cases g3.symm.trans r1
    have hcl := g4 (by rw [ht]; decide)
    have hk := (C.en.1 7 (RX9, TX9, 8) rfl).2.1
    rw [List.map_cons, rv_vr, rfv_p mp g1]
    have hv : cell.vm = .none := r2 (by show tg h p < 500; rw [ht]; decide)
    have hcx : (eS E).vm.findClass (cxName p) = some cell.cls := by
      unfold cxName
      rw [if_neg g1, hcl, ht]
      exact hk
    exact vx_athrow C.1 C.2.1 hd (SimX.out C hnt r h9 hx mp H locs ls _ (mp p) ⟨o1, o2, o3, o4, o5, o6, fun v hv => by cases hv⟩ ⟨cell, g3, hv, hcx, fun _ => ⟨g2, rfl, ht⟩⟩)
  · cases hx
end CX
section CXCalls
variable {β β1 : Type} {E : Ex} {QF : β → Hp → State → Prop} {h : Hp} {pc : Nat} {la : List (Nat × Value)} {sa : List Value} {cc : ByteArray} {ret : Option FieldType} {own : String} {fin1 : β1 → Option Value} {f : Option (Except Nat β1 × Hp)} {X : Nat → Hp → Option (β × Hp)} {K : β1 → Hp → Option (β × Hp)}
theorem Sim.callX (C : Cx E cc ret own) (fin1 : β1 → Option Value) (pcn : Nat) (sar : List Value) (hsar : ∀ n, (∀ v ∈ sa, vOk n v) → ∀ v ∈ sar, vOk n v)
    (hrun : ∀ r1 h1, f = some (r1, h1) → ∀ (mp : Nat → Nat) (H : Heap) (locs : List Loc) (ls : Array Slot), Ok E h mp H locs ls la sa → (H.size - (eS E).heap.size) + (LIM + gB (eG E) - H.size) ≤ (eR E).cells → (totS H - totS (eS E).heap) + (LIM + gT (eG E) - totS H) ≤ (eR E).slots → ∃ (mc ms : Nat) (a : Array Value), ∀ T : State, T.heap = H → Stand (eP E) (eL E) (eE E) (eR E) (eS E) (eM E) (eA E) (eB E) (eMe E) (eC E) T locs (H.size - (eS E).heap.size) (totS H - totS (eS E).heap) →
      (∃ (v : Option Value) (st₀ t T' : State) (L : List Loc), st₀.heap = H ∧ Stand (eP E) (eL E) (eE E) (eR E) (eS E) (eM E) (eA E) (eB E) (eMe E) (eC E) T' (locs ++ L) (H.size - (eS E).heap.size + mc) (totS H - totS (eS E).heap + ms) ∧ (∀ q ∈ L, gA (eG E) q.base) ∧ T'.heap = t.heap ∧ T'.vm = t.vm ∧ CQX (eG E) (eRL E) mp h.1 h1 fin1 r1 a st₀ (.returned v) t ∧
        Goes (eP E) (eE E) (eB E) T (F0 (eM E) pc ls (sa.map (rv mp))) T' (F0 (eM E) pcn ls (v.toList ++ sar.map (rv mp)))) ∨
      (∃ (q : Addr) (st₀ t T' : State) (L : List Loc) (En : String) (ce : Cell), st₀.heap = H ∧ Stand (eP E) (eL E) (eE E) (eR E) (eS E) (eM E) (eA E) (eB E) (eMe E) (eC E) T' (locs ++ L) (H.size - (eS E).heap.size + mc) (totS H - totS (eS E).heap + ms) ∧ (∀ z ∈ L, gA (eG E) z.base) ∧ T'.heap = t.heap ∧ T'.vm = t.vm ∧ XQX (eG E) (eRL E) mp h.1 h1 r1 En q st₀ t ∧ t.heap[q]? = some ce ∧ ce.vm = .none ∧ (eS E).vm.findClass En = some ce.cls ∧
        Steps (eP E).tables (eE E) (eB E) (T.setTop (F0 (eM E) pc ls (sa.map (rv mp)))) ((T'.setTop (F0 (eM E) pc ls (sar.map (rv mp)))).pushFrame (.throwing q))))
    (kx : ∀ p h1, SimX E QF h1 p pc la (X p h1)) (kk : ∀ r1 h1, Sim id E QF h1 pcn la ((fin1 r1).toList ++ sar) (K r1 h1)) : Sim id E QF h pc la sa (bh f X K) := by
  intro r h9 hx mp H locs ls ok
  replace ok : Ok E h mp H locs ls la sa := ok
  obtain ⟨⟨r1, h1⟩, hf, hx⟩ := Option.bind_eq_some_iff.mp hx
  obtain ⟨o1, o2, o3, o4, o5, o6, o7⟩ := ok
  have hc := C.lv.2.1 _ _ _ _ o3
  have hR := C.2.2.2.2.2.2.2.2.2
  have hs1 : (eS E).heap.size ≤ H.size := o4.1
  refine WE.of ?_
  intro T hT X0
  have hs3 : totS (eS E).heap ≤ totS H := by
    have hb := X0.book
    have hr : (eS E).slotsTrue = true := by
      have h1 := X0.room
      simp only [State.hasRoom, Bool.and_eq_true] at h1
      exact h1.2
    have e1 : T.slotsUsed = totS T.heap := by simpa [State.slotsTrue, totS] using hb
    have e2 : (eS E).slotsUsed = totS (eS E).heap := by simpa [State.slotsTrue, totS] using hr
    have e3 : T.slotsUsed = (eS E).slotsUsed + _ := X0.same.2.2.2.1
    rw [hT] at e1
    omega
  obtain ⟨hR1, hR2⟩ := hR
  obtain ⟨mc, ms, a, go⟩ := hrun r1 h1 hf mp H locs ls ⟨o1, o2, o3, o4, o5, o6, o7⟩ (by omega) (by omega)
  rcases go T hT X0 with ⟨v, st₀, t, T', L, h0, X', hL, e1, e2, ⟨b, hb, ⟨mp', q1, q2, q3, q4, q5⟩, hF⟩, st⟩ | ⟨q, st₀, t, T', L, En, ce, h0, X', hL, e1, e2, ⟨⟨p, hp, hE, mp', q1, q2, q5, q6⟩, hF⟩, c1, c2, c3, st⟩
  · subst hb
    cases q3
    have hz := hF.1
    have hk := hF.2
    rw [h0] at hz hk
    have hRL : eRL E h1 mp' (eS E) T'.heap := by
      rw [e1]
      exact C.lv.1 _ _ _ _ _ (by rw [← e2]; exact X'.warmed.alike.symm) q5
    have hS : va_S (gA (eG E)) (eS E).heap T'.heap (locs ++ L) := ⟨Nat.le_trans o4.1 (by rw [e1]; exact hz), fun q g1 g2 => by
        rw [e1, hk q (Nat.lt_of_lt_of_le g1 o4.1) g2]
        exact o4.2.1 q g1 g2, fun q hq => by
        rcases List.mem_append.mp hq with g | g
        · exact o4.2.2 q g
        · exact hL q g⟩
    have hst : ((fin1 b).map (rv mp')).toList ++ sar.map (rv mp) = ((fin1 b).toList ++ sar).map (rv mp') := by
      rw [List.map_append, xt_rvs q1 (hsar _ o7)]
      cases fin1 b <;> rfl
    rw [hst] at st
    have hrest := hsar _ o7
    obtain ⟨t2, a1, b1⟩ := kk b h1 r h9 hx mp' T'.heap (locs ++ L) ls ⟨o1.trans q1 o2, Nat.le_trans o2 q2, hRL, hS, by rw [xt_rvl q1 o6]; exact o5, fun q hq => (o6 q hq).mono q2, fun u hu => by
        rcases List.mem_append.mp hu with g | g
        · exact q4 u (Option.mem_toList.mp g)
        · exact (hrest u g).mono q2⟩ _ _ T' rfl X'
    exact ⟨t2, st t2 a1, b1⟩
  · subst hp
    subst hE
    have hz := hF.1
    have hk := hF.2
    rw [h0] at hz hk
    have hRL : eRL E h1 mp' (eS E) T'.heap := by
      rw [e1]
      exact C.lv.1 _ _ _ _ _ (by rw [← e2]; exact X'.warmed.alike.symm) q5
    have hS : va_S (gA (eG E)) (eS E).heap T'.heap (locs ++ L) := ⟨Nat.le_trans o4.1 (by rw [e1]; exact hz), fun q g1 g2 => by
        rw [e1, hk q (Nat.lt_of_lt_of_le g1 o4.1) g2]
        exact o4.2.1 q g1 g2, fun q hq => by
        rcases List.mem_append.mp hq with g | g
        · exact o4.2.2 q g
        · exact hL q g⟩
    obtain ⟨t2, a1, b1⟩ := kx p h1 r h9 hx mp' T'.heap (locs ++ L) ls (sar.map (rv mp)) q ⟨o1.trans q1 o2, Nat.le_trans o2 q2, hRL, hS, by rw [xt_rvl q1 o6]; exact o5, fun q hq => (o6 q hq).mono q2, fun u hu => by cases hu⟩ ⟨ce, by rw [e1]; exact c1, c2, c3, q6⟩ T' rfl (stand_tight rfl X')
    exact ⟨t2, st.trans a1, b1⟩
variable {As sar : List Value} {x y : MethodName} {idx maxL fr1 lo1 b : Nat} {bytes : ByteArray} {ret1 : Option FieldType}
/-- a static method that may throw -/
theorem x_S (C : Cx E cc ret own) (n : Nat) (sar : List Value) (hC : CtX (eG E) (eRL E) (eL E) y (ws_ y bytes maxL ret1) fr1 lo1 fin1 As h f) (hw : GoodIn lw_all (va_wsS own idx y (ws_ y bytes maxL ret1))) (hd2 : y.cls ≠ "java/lang/invoke/MethodHandle" ∧ y.cls ≠ "java/lang/invoke/VarHandle" ∧ (parseMethodDescriptor y.desc).map (fun d => d.parameters.length) = some n)
    (hn : As.length = n) (hfr : fr1 + 1 ≤ (eR E).frames) (hlo : 8 + (maxL + 11) + lo1 ≤ (eR E).locals) (hst : As.reverse ++ sar = sa) (hsum : (sar.map fun v => v.category).sum ≤ 8) (hd : decode cc pc = .ok (.invokestatic idx, 3)) (kx : ∀ p h1, SimX E QF h1 p pc la (X p h1)) (kk : ∀ r1 h1, Sim id E QF h1 (pc + 3) la ((fin1 r1).toList ++ sar) (K r1 h1)) : Sim id E QF h pc la sa (bh f X K) := by
  subst hst
  refine Sim.callX C fin1 (pc + 3) sar (fun _ hs v hv => hs v (List.mem_append_right _ hv)) (fun r1 h1 hf mp H locs ls ok hr1 hr2 => ?_) kx kk
  have hav : ∀ v ∈ As, vOk h.1 v := fun v hv => ok.2.2.2.2.2.2 _ (List.mem_append_left _ (List.mem_reverse.mpr hv))
  refine ⟨_, _, _, vx_runS (g := F0 (eM E) pc ls ((As.reverse ++ sar).map (rv mp))) (As := As.map (rv mp)) (rest := sar.map (rv mp)) (mc := LIM + gB (eG E) - H.size) (ms := LIM + gT (eG E) - totS H) ⟨C.1, C.2.1, C.nl, C.ow, C.ws⟩ (hC r1 h1 hf mp H.size (totS H)) (va_cwS n C.ws hw rfl rfl rfl hd2 ⟨hfr, hlo⟩) ⟨PQ.blind C.lv, PQ.pays C ok hav⟩ rfl (by simp [hn]) ok.2.2.2.2.1.1 ?_ ?_ hd ⟨hr1, hr2⟩⟩
  · simp
  · rw [rv_sum]
    show 2 * 0 + _ ≤ 8
    omega
theorem Sim.virtX (C : Cx E cc ret own) (n : Nat) (sar : List Value) (t : Nat) (Cn : String) (pcn : Nat) (ht : tg h b % 500 = t) (hr : RO t Cn) (hC : CtX (eG E) (eRL E) (eL E) y (ws_ y bytes maxL ret1) fr1 lo1 fin1 (vr b :: As) h f) (hn : As.length = n) (hst : As.reverse ++ vr b :: sar = sa) (hsum : (sar.map fun v => v.category).sum ≤ 8)
    (hw : ∀ (mp : Nat → Nat) (H : Heap) (locs : List Loc) (ls : Array Slot) (mc ms kx nx : Nat) (Pc : Array Value → State → Prop) (Qc : Array Value → State → Outcome → State → Prop) (XC : String → Addr → State → State → Prop), vx_Met (eL E) y (ws_ y bytes maxL ret1) { frames := fr1, cells := mc, slots := ms, locals := lo1 } Pc Qc XC mc ms (gA (eG E)) → PreV (eS E) H Cn (mp b) Pc (As.map (rv mp)) → (As.map (rv mp)).length = n → ls.size = eNL E → ((As.reverse ++ vr b :: sar).map (rv mp)) = (As.map (rv mp)).reverse ++ .ref (mp b) :: sar.map (rv mp) → 2 * 0 + ((sar.map (rv mp)).map fun v => v.category).sum ≤ 8 → kx + mc ≤ (eR E).cells ∧ nx + ms ≤ (eR E).slots →
      vx_Run (eP E) (eL E) (eE E) (eR E) (eS E) (eM E) (eA E) (eB E) (eMe E) (eC E) H locs kx nx mc ms (F0 (eM E) pc ls ((As.reverse ++ vr b :: sar).map (rv mp))) (sar.map (rv mp)) (Qc (Value.ref (mp b) :: As.map (rv mp)).toArray) XC (gA (eG E)))
    (hpcn : pcn = pc + 3) (kx : ∀ p h1, SimX E QF h1 p pc la (X p h1)) (kk : ∀ r1 h1, Sim id E QF h1 pcn la ((fin1 r1).toList ++ sar) (K r1 h1)) : Sim id E QF h pc la sa (bh f X K) := by
  subst hst; subst hpcn
  refine Sim.callX C fin1 (pc + 3) sar (fun _ hs v hv => hs v (List.mem_append_right _ (List.mem_cons_of_mem _ hv))) (fun r1 h1 hf mp H locs ls ok hr1 hr2 => ?_) kx kk
  obtain ⟨hb, hrc⟩ := ro_at C ok ht hr
  have hav : ∀ v ∈ vr b :: As, vOk h.1 v := fun v hv => by
    rcases List.mem_cons.mp hv with e | g
    · rw [e]; exact ok.2.2.2.2.2.2 _ (List.mem_append_right _ List.mem_cons_self)
    · exact ok.2.2.2.2.2.2 _ (List.mem_append_left _ (List.mem_reverse.mpr g))
  have hpay := PQ.pays C ok hav
  simp only [List.map_cons, rv_vr, rfv_p mp hb] at hpay
  refine ⟨_, _, _, hw mp H locs ls (LIM + gB (eG E) - H.size) (LIM + gT (eG E) - totS H) _ _ _ _ _ (hC r1 h1 hf mp H.size (totS H)) ⟨PQ.blind C.lv, hrc, hpay⟩ (by simp [hn]) ok.2.2.2.2.1.1 ?_ ?_ ⟨hr1, hr2⟩⟩
  · simp [rv_vr, rfv_p mp hb]
  · rw [rv_sum]
    omega
theorem x_V (C : Cx E cc ret own) (n : Nat) (sar : List Value) (t : Nat) (Cn : String) (hr : RO t Cn) (hC : CtX (eG E) (eRL E) (eL E) y (ws_ y bytes maxL ret1) fr1 lo1 fin1 (vr b :: As) h f) (hw : GoodIn lw_all (wsV own idx Cn y (ws_ y bytes maxL ret1))) (hd2 : y.cls = Cn ∧ y.cls ≠ "java/lang/invoke/MethodHandle" ∧ y.cls ≠ "java/lang/invoke/VarHandle" ∧ (parseMethodDescriptor y.desc).map (fun d => d.parameters.length) = some n)
    (hn : As.length = n) (hfr : fr1 + 1 ≤ (eR E).frames) (hlo : 8 + (maxL + 11) + lo1 ≤ (eR E).locals) (hst : As.reverse ++ vr b :: sar = sa) (hsum : (sar.map fun v => v.category).sum ≤ 8) (hd : decode cc pc = .ok (.invokevirtual idx, 3)) (kx : ∀ p h1, SimX E QF h1 p pc la (X p h1)) (kk : ∀ r1 h1, Sim id E QF h1 (pc + 3) la ((fin1 r1).toList ++ sar) (K r1 h1)) (ht : tg h b % 500 = t) : Sim id E QF h pc la sa (bh f X K) :=
  Sim.virtX C n sar t Cn (pc + 3) ht hr hC hn hst hsum (fun mp H locs ls mc ms kx nx Pc Qc XC hM hp hn hsz hstk hsum hf => vx_runV ⟨C.1, C.2.1, C.nl, C.ow, C.ws⟩ hM (cwV n C.ws hw rfl rfl rfl hd2 ⟨hfr, hlo⟩) hp rfl hn hsz hstk hsum hd hf) rfl kx kk
theorem x_U (C : Cx E cc ret own) (n : Nat) (sar : List Value) (t : Nat) (Cn owner : String) (hr : RO t Cn) (hC : CtX (eG E) (eRL E) (eL E) y (ws_ y bytes maxL ret1) fr1 lo1 fin1 (vr b :: As) h f) (hw : GoodIn lw_all (va_wsU own idx Cn owner x y (ws_ y bytes maxL ret1))) (hyx : y = ⟨owner, x.name, x.desc⟩) (hd2 : owner ≠ "java/lang/invoke/MethodHandle" ∧ owner ≠ "java/lang/invoke/VarHandle" ∧ (parseMethodDescriptor x.desc).map (fun d => d.parameters.length) = some n)
    (hn : As.length = n) (hfr : fr1 + 1 ≤ (eR E).frames) (hlo : 8 + (maxL + 11) + lo1 ≤ (eR E).locals) (hst : As.reverse ++ vr b :: sar = sa) (hsum : (sar.map fun v => v.category).sum ≤ 8) (hd : decode cc pc = .ok (.invokevirtual idx, 3)) (kx : ∀ p h1, SimX E QF h1 p pc la (X p h1)) (kk : ∀ r1 h1, Sim id E QF h1 (pc + 3) la ((fin1 r1).toList ++ sar) (K r1 h1)) (ht : tg h b % 500 = t) : Sim id E QF h pc la sa (bh f X K) :=
  Sim.virtX C n sar t Cn (pc + 3) ht hr hC hn hst hsum (fun mp H locs ls mc ms kx nx Pc Qc XC hM hp hn hsz hstk hsum hf => vx_runU ⟨C.1, C.2.1, C.nl, C.ow, C.ws⟩ hM (va_cwU n C.ws hw rfl rfl rfl hyx hd2 ⟨hfr, hlo⟩) hp rfl hn hsz hstk hsum hd hf) rfl kx kk
theorem x_P (C : Cx E cc ret own) (n : Nat) (sar : List Value) (t : Nat) (Cn : String) (hr : RO t Cn) (hC : CtX (eG E) (eRL E) (eL E) y (ws_ y bytes maxL ret1) fr1 lo1 fin1 (vr b :: As) h f) (hw : GoodIn lw_all (ws_ y bytes maxL ret1)) (hi : Cond.initialized y.cls ∈ lw_all) (hm : Cond.methodLink own idx y ∈ lw_all) (him : Cond.instanceMethod y ∈ lw_all) (hx : (Cn, y) ∈ selX) (hd2 : y.cls ≠ "java/lang/invoke/MethodHandle" ∧ y.cls ≠ "java/lang/invoke/VarHandle" ∧ (parseMethodDescriptor y.desc).map (fun d => d.parameters.length) = some n)
    (hn : As.length = n) (hfr : fr1 + 1 ≤ (eR E).frames) (hlo : 8 + (maxL + 11) + lo1 ≤ (eR E).locals) (hst : As.reverse ++ vr b :: sar = sa) (hsum : (sar.map fun v => v.category).sum ≤ 8) (hd : decode cc pc = .ok (.invokevirtual idx, 3)) (kx : ∀ p h1, SimX E QF h1 p pc la (X p h1)) (kk : ∀ r1 h1, Sim id E QF h1 (pc + 3) la ((fin1 r1).toList ++ sar) (K r1 h1)) (ht : tg h b % 500 = t) : Sim id E QF h pc la sa (bh f X K) :=
  Sim.virtX C n sar t Cn (pc + 3) ht hr hC hn hst hsum (fun mp H locs ls mc ms kx nx Pc Qc XC hM hp hn hsz hstk hsum hf => vx_runV ⟨C.1, C.2.1, C.nl, C.ow, C.ws⟩ hM ⟨callB_of n C.ws hw rfl rfl rfl (C.ws _ hi) (C.ws _ hm) hd2 ⟨hfr, hlo⟩, C.ws _ him, word_at (State.WarmedH.refl _) (Or.inl rfl) (C.en.2.2.2.2.2.2.2.2.2.2.2.2.2 _ hx)⟩ hp rfl hn hsz hstk hsum hd hf) rfl kx kk
end CXCalls
