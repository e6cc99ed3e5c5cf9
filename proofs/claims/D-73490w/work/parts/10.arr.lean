/-! ROWS of arrays, of what is new, of casts, of comparisons of references, of statics and constants -/
set_option maxRecDepth 100000
section Arr
variable {β : Type} {E : Ex} {QF : β → Hp → State → Prop} {h : Hp} {pc : Nat} {la : List (Nat × Value)} {sa : List Value} {cc : ByteArray} {ret : Option FieldType} {own : String}
theorem arr_at {mp : Nat → Nat} {H : Heap} {kd i : Nat} (C : Cx E cc ret own) (hR : eRL E h mp (eS E) H) (hp : ePl E (tg h i) = true) (ht : tg h i % 500 = 200 + kd) :
    i ≠ 0 ∧ i < h.1 ∧ (tg h i < 500 → gB (eG E) ≤ mp i) ∧ ∃ cell : Cell, H[mp i]? = some cell ∧ cell.vm ≠ .unknown ∧ cell.vm.isStatics = false ∧ (tg h i < 500 → cell.vm = .none) ∧ (eS E).isArrayOf cell (tyA kd) ∧ cell.slots.size = (h.2.2 i).2.1 ∧ (h.2.2 i).2.1 < 2 ^ 31 ∧ (∀ j, j < (h.2.2 i).2.1 → cell.slots[j]? = some (aval mp (h.2.2 i) kd j)) ∧ (tg h i < 500 → aCl (eS E) cell (tyA kd)) := by
  obtain ⟨g0, cell, g1, g2, g3, g4, -, g6⟩ := C.lv.2.2.2.2.1 _ _ _ _ hR i hp
  obtain ⟨q1, q2, q3, -⟩ := C.lv.2.2.1 _ _ _ _ hR i g0
  have hk : (h.2.2 i).1 % 500 = 200 + kd := ht
  obtain ⟨r1, r2, r3, r4, r5⟩ := g6 (by omega)
  have e : (h.2.2 i).1 % 500 - 200 = kd := by omega
  rw [e] at r1 r4 r5
  exact ⟨q1, q2, q3, cell, g1, g2, g3, g4, r1, r2, r3, r4, r5⟩
theorem s_alen (cs : List Nat) (kd : Nat) {i : Nat} {cont : Int32 → Option (β × Hp)} (C : Cx E cc ret own) (hcs : ∀ t ∈ cs, t % 500 = 200 + kd) (hp : cs.all (ePl E) = true) (hd : decode cc pc = .ok (.arraylength, 1)) (kk : ∀ v, Sim id E QF h (pc + 1) la (.int v :: sa) (cont v)) : Sim id E QF h pc la (vr i :: sa) ((alen cs i h).bind cont) := by
  intro r h9 hx mp H locs ls ok
  replace ok : Ok E h mp H locs ls la _ := ok
  obtain ⟨v, hv, hx⟩ := Option.bind_eq_some_iff.mp hx
  unfold alen at hv
  split at hv
  · rename_i hm
    cases hv
    obtain ⟨hi, hlt, -, cell, g1, g2, g3, -, g5, g6, g7, -⟩ := arr_at C ok.2.2.1 (List.all_eq_true.mp hp _ hm) (hcs _ hm)
    intro kx nx
    rw [List.map_cons, rv_vr, rfv_p mp hi]
    obtain ⟨o1, o2, o3, o4, o5, o6, o7⟩ := ok
    exact W.alen C.1 C.2.1 g1 g5 (n := Int32.ofNat (h.2.2 i).2.1) (congrArg Int32.ofNat g6) rfl rfl hd (kk _ r h9 hx mp H locs ls ⟨o1, o2, o3, o4, o5, o6, vk1 trivial (vkd o7)⟩ kx nx)
  · cases hv
/-- reading a place -/
theorem Sim.ald {α : Type} {i : Nat} {j : Int32} {cs : List Nat} {F : Option α} {val : α} (kd : Nat) (mk : α → Value) {cont : α → Option (β × Hp)} (C : Cx E cc ret own) (hcs : ∀ t ∈ cs, t % 500 = 200 + kd) (hp : cs.all (ePl E) = true)
    (hF : F = if tg h i ∈ cs ∧ ¬ j < 0 ∧ j.toNatClampNeg < (h.2.2 i).2.1 then some val else none) (hval : ∀ mp, aval mp (h.2.2 i) kd j.toNatClampNeg = rv mp (mk val)) (hok : (∀ k, (h.2.2 i).2.2.2.1 k < h.1) → vOk h.1 (mk val))
    (hw : ∀ (H : Heap) (locs : List Loc) (ls : Array Slot) (Q : State → Prop) (kx nx a : Nat) (cell : Cell) (v : Value) (rest : List Value), H[a]? = some cell → (eS E).isArrayOf cell (tyA kd) → cell.vm ≠ .unknown → ¬ (j < 0 ∨ cell.slots.size ≤ j.toNatClampNeg) → cell.slots[j.toNatClampNeg]? = some v → WE E H locs Q (F0 (eM E) (pc + 1) ls (v :: rest)) → W (eP E) (eL E) (eE E) (eR E) (eS E) (eM E) (eA E) (eB E) (eMe E) (eC E) H locs kx nx Q (F0 (eM E) pc ls (.int j :: .ref a :: rest)))
    (kk : ∀ v, Sim id E QF h (pc + 1) la (mk v :: sa) (cont v)) : Sim id E QF h pc la (.int j :: vr i :: sa) (F.bind cont) := by
  intro r h9 hx mp H locs ls ok
  replace ok : Ok E h mp H locs ls la _ := ok
  obtain ⟨v, hv, hx⟩ := Option.bind_eq_some_iff.mp hx
  rw [hF] at hv
  split at hv
  · rename_i hm
    cases hv
    obtain ⟨hm, hin⟩ := hm
    obtain ⟨hi, hlt, -, cell, g1, g2, g3, -, g5, g6, g7, g8, -⟩ := arr_at C ok.2.2.1 (List.all_eq_true.mp hp _ hm) (hcs _ hm)
    intro kx nx
    rw [List.map_cons, List.map_cons, rv_vr, rfv_p mp hi]
    refine hw H locs ls _ kx nx (mp i) cell _ (sa.map (rv mp)) g1 g5 g2 (fun e => e.elim hin.1 (fun e => by rw [g6] at e; omega)) ((g8 _ hin.2).trans (by rw [hval])) ?_
    obtain ⟨o1, o2, o3, o4, o5, o6, o7⟩ := ok
    exact kk _ r h9 hx mp H locs ls ⟨o1, o2, o3, o4, o5, o6, vk1 (hok (C.lv.2.2.2.1 _ _ _ _ o3 i hlt)) (vkd (vkd o7))⟩
  · cases hv
theorem tyA_ref {kd : Nat} (h : 5 ≤ kd) : (tyA kd).isReference = true := by
  unfold tyA
  split <;> first | omega | rfl
theorem s_iald (cs : List Nat) {i : Nat} {j : Int32} {cont : Int32 → Option (β × Hp)} (C : Cx E cc ret own) (hcs : ∀ t ∈ cs, t % 500 = 200) (hp : cs.all (ePl E) = true) (hd : decode cc pc = .ok (.iaload, 1)) (kk : ∀ v, Sim id E QF h (pc + 1) la (.int v :: sa) (cont v)) : Sim id E QF h pc la (.int j :: vr i :: sa) ((aldI cs i j h).bind cont) :=
  Sim.ald 0 Value.int C hcs hp rfl (fun _ => rfl) (fun _ => trivial) (fun H locs ls Q kx nx a cell v rest h1 h2 h3 h4 h5 kk => W.iald C.1 C.2.1 h1 h2 h3 h4 h5 rfl rfl hd (kk kx nx)) kk
theorem s_bald (cs : List Nat) {i : Nat} {j : Int32} {cont : Int32 → Option (β × Hp)} (C : Cx E cc ret own) (hcs : ∀ t ∈ cs, t % 500 = 201) (hp : cs.all (ePl E) = true) (hd : decode cc pc = .ok (.baload, 1)) (kk : ∀ v, Sim id E QF h (pc + 1) la (.int v :: sa) (cont v)) : Sim id E QF h pc la (.int j :: vr i :: sa) ((aldI cs i j h).bind cont) :=
  Sim.ald 1 Value.int C hcs hp rfl (fun _ => rfl) (fun _ => trivial) (fun H locs ls Q kx nx a cell v rest h1 h2 h3 h4 h5 kk => W.bald C.1 C.2.1 h1 h2 h3 h4 h5 rfl rfl hd (kk kx nx)) kk
theorem s_zald (cs : List Nat) {i : Nat} {j : Int32} {cont : Int32 → Option (β × Hp)} (C : Cx E cc ret own) (hcs : ∀ t ∈ cs, t % 500 = 202) (hp : cs.all (ePl E) = true) (hd : decode cc pc = .ok (.baload, 1)) (kk : ∀ v, Sim id E QF h (pc + 1) la (.int v :: sa) (cont v)) : Sim id E QF h pc la (.int j :: vr i :: sa) ((aldI cs i j h).bind cont) :=
  Sim.ald 2 Value.int C hcs hp rfl (fun _ => rfl) (fun _ => trivial) (fun H locs ls Q kx nx a cell v rest h1 h2 h3 h4 h5 kk => W.zald C.1 C.2.1 h1 h2 h3 h4 h5 rfl rfl hd (kk kx nx)) kk
theorem s_cald (cs : List Nat) {i : Nat} {j : Int32} {cont : Int32 → Option (β × Hp)} (C : Cx E cc ret own) (hcs : ∀ t ∈ cs, t % 500 = 204) (hp : cs.all (ePl E) = true) (hd : decode cc pc = .ok (.caload, 1)) (kk : ∀ v, Sim id E QF h (pc + 1) la (.int v :: sa) (cont v)) : Sim id E QF h pc la (.int j :: vr i :: sa) ((aldI cs i j h).bind cont) :=
  Sim.ald 4 Value.int C hcs hp rfl (fun _ => rfl) (fun _ => trivial) (fun H locs ls Q kx nx a cell v rest h1 h2 h3 h4 h5 kk => W.cald C.1 C.2.1 h1 h2 h3 h4 h5 rfl rfl hd (kk kx nx)) kk
theorem s_lald (cs : List Nat) {i : Nat} {j : Int32} {cont : Int64 → Option (β × Hp)} (C : Cx E cc ret own) (hcs : ∀ t ∈ cs, t % 500 = 203) (hp : cs.all (ePl E) = true) (hd : decode cc pc = .ok (.laload, 1)) (kk : ∀ v, Sim id E QF h (pc + 1) la (.long v :: sa) (cont v)) : Sim id E QF h pc la (.int j :: vr i :: sa) ((aldL cs i j h).bind cont) :=
  Sim.ald 3 Value.long C hcs hp rfl (fun _ => rfl) (fun _ => trivial) (fun H locs ls Q kx nx a cell v rest h1 h2 h3 h4 h5 kk => W.lald C.1 C.2.1 h1 h2 h3 h4 h5 rfl rfl hd (kk kx nx)) kk
theorem s_aald (cs : List Nat) (kd : Nat) {i : Nat} {j : Int32} {cont : Nat → Option (β × Hp)} (C : Cx E cc ret own) (hkd : 5 ≤ kd) (hcs : ∀ t ∈ cs, t % 500 = 200 + kd) (hp : cs.all (ePl E) = true) (hd : decode cc pc = .ok (.aaload, 1)) (kk : ∀ v, Sim id E QF h (pc + 1) la (vr v :: sa) (cont v)) : Sim id E QF h pc la (.int j :: vr i :: sa) ((aldR cs i j h).bind cont) :=
  Sim.ald kd vr C hcs hp rfl (fun mp => by rw [rv_vr]; unfold aval; rw [if_neg (by omega), if_neg (by omega)]) (fun hr => vOk_vr (hr _)) (fun H locs ls Q kx nx a cell v rest h1 h2 h3 h4 h5 kk => W.aald C.1 C.2.1 h1 h2 (tyA_ref hkd) h3 h4 h5 rfl rfl hd (kk kx nx)) kk
theorem aval_set {mp : Nat → Nat} {c c1 : PC} {kd k j : Nat} (h : j ≠ k → c1.2.2.1 j = c.2.2.1 j ∧ c1.2.2.2.1 j = c.2.2.2.1 j ∧ c1.2.2.2.2 j = c.2.2.2.2 j) (hj : j ≠ k) : aval mp c1 kd j = aval mp c kd j := by
  obtain ⟨e1, e2, e3⟩ := h hj
  unfold aval
  rw [e1, e2, e3]
theorem isArr_set {U : State} {cell : Cell} {ty : FieldType} {k : Nat} {v : Value} (h : U.isArrayOf cell ty) : U.isArrayOf (cell.setSlot k v) ty := h
/-- writing a place -/
theorem Sim.ast {i : Nat} {j : Int32} {cs : List Nat} {F : Option Hp} {v : Value} {c1 : PC} {P : Prop} [Decidable P] (kd : Nat) {cont : Hp → Option (β × Hp)} (C : Cx E cc ret own) (hcs : ∀ t ∈ cs, t < 500 ∧ t % 500 = 200 + kd) (hp : cs.all (ePl E) = true)
    (hF : F = if tg h i ∈ cs ∧ (¬ j < 0 ∧ j.toNatClampNeg < (h.2.2 i).2.1) ∧ P then some (hset h i c1) else none) (hc1 : c1.1 = tg h i) (hc2 : c1.2.1 = (h.2.2 i).2.1)
    (hc3 : ∀ k, k ≠ j.toNatClampNeg → c1.2.2.1 k = (h.2.2 i).2.2.1 k ∧ c1.2.2.2.1 k = (h.2.2 i).2.2.2.1 k ∧ c1.2.2.2.2 k = (h.2.2 i).2.2.2.2 k) (hrk : i < h.1 → vOk h.1 v → (∀ k, (h.2.2 i).2.2.2.1 k < h.1) → ∀ k, c1.2.2.2.1 k < h.1)
    (hw : P → ∀ (mp : Nat → Nat) (H : Heap) (locs : List Loc) (ls : Array Slot) (Q : State → Prop) (kx nx a : Nat) (cell : Cell) (rest : List Value), Ok E h mp H locs ls la (v :: .int j :: vr i :: sa) → H[a]? = some cell → (eS E).isArrayOf cell (tyA kd) → cell.vm = .none → aCl (eS E) cell (tyA kd) → ¬ (j < 0 ∨ cell.slots.size ≤ j.toNatClampNeg) → (∀ H' : Heap, H'[a]? = some (cell.setSlot j.toNatClampNeg (aval mp c1 kd j.toNatClampNeg)) → H'.size = H.size → (∀ q, q ≠ a → H'[q]? = H[q]?) → WE E H' (locs ++ [⟨a, j.toNatClampNeg⟩]) Q (F0 (eM E) (pc + 1) ls rest)) → W (eP E) (eL E) (eE E) (eR E) (eS E) (eM E) (eA E) (eB E) (eMe E) (eC E) H locs kx nx Q (F0 (eM E) pc ls (rv mp v :: .int j :: .ref a :: rest)))
    (kk : ∀ h1, Sim id E QF h1 (pc + 1) la sa (cont h1)) : Sim id E QF h pc la (v :: .int j :: vr i :: sa) (F.bind cont) := by
  intro r h9 hx mp H locs ls ok
  replace ok : Ok E h mp H locs ls la _ := ok
  obtain ⟨h1, hv, hx⟩ := Option.bind_eq_some_iff.mp hx
  rw [hF] at hv
  split at hv
  · rename_i hm
    cases hv
    obtain ⟨hm, hin, hP⟩ := hm
    obtain ⟨h500, hkd⟩ := hcs _ hm
    have hpl := List.all_eq_true.mp hp _ hm
    obtain ⟨hi, hlt, hA, cell, g1, g2, g3, g4, g5, g6, g7, g8, g9⟩ := arr_at C ok.2.2.1 hpl hkd
    intro kx nx
    rw [List.map_cons, List.map_cons, List.map_cons, rv_vr, rfv_p mp hi]
    refine hw hP mp H locs ls _ kx nx (mp i) cell (sa.map (rv mp)) ok g1 g5 (g4 h500) (g9 h500) (fun e => e.elim hin.1 (fun e => by rw [g6] at e; omega)) fun H1 q1 q2 q3 => ?_
    have ov := vkh ok.2.2.2.2.2.2
    have osa := vkd (vkd (vkd ok.2.2.2.2.2.2))
    have hsz : (cell.setSlot j.toNatClampNeg (aval mp c1 kd j.toNatClampNeg)).slots.size = cell.slots.size := by simp [Cell.setSlot]
    refine kk _ r h9 hx mp H1 _ ls (ok.more Xt.rf (Nat.le_refl _) ?_ (ok.2.2.2.1.put q2 q3 (hA h500)) osa)
    refine C.lv.2.2.2.2.2.2.1 _ _ _ _ ok.2.2.1 i c1 H1 hpl h500 hc1 hc2 (hrk hlt ov (C.lv.2.2.2.1 _ _ _ _ ok.2.2.1 i hlt)) q2 (totS_set q2 q3 g1 q1 hsz) q3 ?_
    refine ⟨_, q1, g2, g3, fun _ => g4 h500, fun hk => ?_, fun hk => ?_⟩
    · rw [hc1, hkd] at hk
      omega
    · rw [hc1, hkd, hc2]
      have e : 200 + kd - 200 = kd := by omega
      rw [e]
      refine ⟨g5, hsz.trans g6, g7, fun k hk => ?_, fun _ => g9 h500⟩
      by_cases hkj : k = j.toNatClampNeg
      · subst hkj
        simp [Cell.setSlot, g6, hk]
      · rw [aval_set (fun _ => hc3 k hkj) hkj, ← g8 k hk]
        simp [Cell.setSlot, Ne.symm hkj]
  · cases hv
theorem s_iast (cs : List Nat) {i : Nat} {j v : Int32} {cont : Hp → Option (β × Hp)} (C : Cx E cc ret own) (hcs : ∀ t ∈ cs, t < 500 ∧ t % 500 = 200) (hp : cs.all (ePl E) = true) (hd : decode cc pc = .ok (.iastore, 1)) (kk : ∀ h1, Sim id E QF h1 (pc + 1) la sa (cont h1)) : Sim id E QF h pc la (.int v :: .int j :: vr i :: sa) ((astI cs 0 i j v h).bind cont) :=
  Sim.ast (P := True) (v := .int v) (c1 := upI (h.2.2 i) j.toNatClampNeg v) 0 C hcs hp (by unfold astI; simp [nrw]) rfl rfl (fun k hk => ⟨if_neg hk, rfl, rfl⟩) (fun _ _ hr => hr)
    (fun _ mp H locs ls Q kx nx a cell rest ok h1 h2 h3 h4 h5 kk => W.iast C.1 C.2.1 h1 h2 (by rw [h3]; exact fun e => by cases e) h5 rfl rfl hd (fun H' q1 q2 q3 => kk H' (by simpa [aval, upI] using q1) q2 q3 kx nx)) kk
theorem s_bast (cs : List Nat) {i : Nat} {j v : Int32} {cont : Hp → Option (β × Hp)} (C : Cx E cc ret own) (hcs : ∀ t ∈ cs, t < 500 ∧ t % 500 = 201) (hp : cs.all (ePl E) = true) (hd : decode cc pc = .ok (.bastore, 1)) (kk : ∀ h1, Sim id E QF h1 (pc + 1) la sa (cont h1)) : Sim id E QF h pc la (.int v :: .int j :: vr i :: sa) ((astI cs 1 i j v h).bind cont) :=
  Sim.ast (P := True) (v := .int v) (c1 := upI (h.2.2 i) j.toNatClampNeg (nrw 1 v)) 1 C hcs hp (by unfold astI; simp) rfl rfl (fun k hk => ⟨if_neg hk, rfl, rfl⟩) (fun _ _ hr => hr)
    (fun _ mp H locs ls Q kx nx a cell rest ok h1 h2 h3 h4 h5 kk => W.bast C.1 C.2.1 h1 h2 (by rw [h3]; exact fun e => by cases e) h5 rfl rfl hd (fun H' q1 q2 q3 => kk H' (by rw [narrow_byte] at q1; simpa [aval, upI, nrw] using q1) q2 q3 kx nx)) kk
theorem s_zast (cs : List Nat) {i : Nat} {j v : Int32} {cont : Hp → Option (β × Hp)} (C : Cx E cc ret own) (hcs : ∀ t ∈ cs, t < 500 ∧ t % 500 = 202) (hp : cs.all (ePl E) = true) (hd : decode cc pc = .ok (.bastore, 1)) (kk : ∀ h1, Sim id E QF h1 (pc + 1) la sa (cont h1)) : Sim id E QF h pc la (.int v :: .int j :: vr i :: sa) ((astI cs 2 i j v h).bind cont) :=
  Sim.ast (P := True) (v := .int v) (c1 := upI (h.2.2 i) j.toNatClampNeg (nrw 2 v)) 2 C hcs hp (by unfold astI; simp) rfl rfl (fun k hk => ⟨if_neg hk, rfl, rfl⟩) (fun _ _ hr => hr)
    (fun _ mp H locs ls Q kx nx a cell rest ok h1 h2 h3 h4 h5 kk => W.zast C.1 C.2.1 h1 h2 (by rw [h3]; exact fun e => by cases e) h5 rfl rfl hd (fun H' q1 q2 q3 => kk H' (by rw [show narrow .boolean (.int v) = .int (v &&& 1) from rfl] at q1; simpa [aval, upI, nrw] using q1) q2 q3 kx nx)) kk
theorem s_last (cs : List Nat) {i : Nat} {j : Int32} {v : Int64} {cont : Hp → Option (β × Hp)} (C : Cx E cc ret own) (hcs : ∀ t ∈ cs, t < 500 ∧ t % 500 = 203) (hp : cs.all (ePl E) = true) (hd : decode cc pc = .ok (.lastore, 1)) (kk : ∀ h1, Sim id E QF h1 (pc + 1) la sa (cont h1)) : Sim id E QF h pc la (.long v :: .int j :: vr i :: sa) ((astL cs i j v h).bind cont) :=
  Sim.ast (P := True) (v := .long v) (c1 := upL (h.2.2 i) j.toNatClampNeg v) 3 C hcs hp (by unfold astL; simp) rfl rfl (fun k hk => ⟨rfl, rfl, if_neg hk⟩) (fun _ _ hr => hr)
    (fun _ mp H locs ls Q kx nx a cell rest ok h1 h2 h3 h4 h5 kk => W.last C.1 C.2.1 h1 h2 (by rw [h3]; exact fun e => by cases e) h5 rfl rfl hd (fun H' q1 q2 q3 => kk H' (by simpa [aval, upL] using q1) q2 q3 kx nx)) kk
/-- a cell of tag t may lie in an array over nm, may be cast to nm -/
def AO (nm : String) (t : Nat) : Prop := t ≠ 0 ∧ t < 200 ∧ ∃ q : vw_C, clT[t - 1]? = some q ∧ (q.1 = nm ∨ Cond.castable q.1 nm ∈ lw_tbl)
theorem ao_at {mp : Nat → Nat} {H : Heap} {nm : String} {t i : Nat} (C : Cx E cc ret own) (hR : eRL E h mp (eS E) H) (hA : AO nm t) (ht : tg h i % 500 = t) :
    i ≠ 0 ∧ ∃ (cell : Cell) (C0 : String), H[mp i]? = some cell ∧ cell.vm.isStatics = false ∧ (eS E).vm.findClass C0 = some cell.cls ∧ ClassAt (eS E) C0 cell.cls ∧ (C0 = nm ∨ va_Nw (.castable C0 nm) (eS E)) := by
  obtain ⟨a1, a2, q, a3, a4⟩ := hA
  obtain ⟨g1, -, -, cell, g2, g3, g4⟩ := C.lv.2.2.1 _ _ _ _ hR i (fun e => a1 (by rw [← ht, e]))
  have hcls : cell.cls = (eG E).1 (t - 1) := by rw [g4 (by omega), ht]
  have hat := (C.en.1 _ _ a3).2
  rw [← hcls] at hat
  exact ⟨g1, cell, q.1, g2, g3, hat.1, hat, a4.imp id (fun e => C.en.2.2.2.1 _ _ e)⟩
theorem s_aast (cs vs : List Nat) (kd : Nat) (nm : String) {i v : Nat} {j : Int32} {cont : Hp → Option (β × Hp)} (C : Cx E cc ret own) (hkd : 5 ≤ kd) (hnm : tyA kd = .object nm) (hcs : ∀ t ∈ cs, t < 500 ∧ t % 500 = 200 + kd) (hp : cs.all (ePl E) = true) (hvs : ∀ t ∈ vs, AO nm t) (hd : decode cc pc = .ok (.aastore, 1)) (kk : ∀ h1, Sim id E QF h1 (pc + 1) la sa (cont h1)) : Sim id E QF h pc la (vr v :: .int j :: vr i :: sa) ((astR cs vs i j v h).bind cont) :=
  Sim.ast (P := v = 0 ∨ tg h v % 500 ∈ vs) (v := vr v) (c1 := upR (h.2.2 i) j.toNatClampNeg v) kd C hcs hp rfl rfl rfl (fun k hk => ⟨rfl, if_neg hk, rfl⟩) (fun hi hv hr k => by
      show (if k = _ then v else _) < h.1
      split
      · exact vOk_of_vr hv (by omega)
      · exact hr k)
    (fun hP mp H locs ls Q kx nx a cell rest ok h1 h2 h3 h4 h5 kk => by
      have eav : aval mp (upR (h.2.2 i) j.toNatClampNeg v) kd j.toNatClampNeg = rfv mp v := by
        unfold aval
        rw [if_neg (by omega), if_neg (by omega)]
        simp [upR]
      rw [eav] at kk
      by_cases h0 : v = 0
      · subst h0
        rw [hnm] at h2
        exact va_WaastN C.1 C.2.1 h1 h2 (by rw [h3]; exact fun e => by cases e) h5 rfl rfl hd (fun H' q1 q2 q3 => kk H' q1 q2 q3 kx nx)
      · obtain ⟨-, cv, C0, q1, q2, q3, q4, q5⟩ := ao_at C ok.2.2.1 (hvs _ (hP.resolve_left h0)) rfl
        obtain ⟨kA, comp, k1, k2, k3, -⟩ := h4 nm hnm
        obtain ⟨kv, hkv, -⟩ := q4.2
        have hcomp : ∃ kc : Class, (eS E).vm.classes[comp]? = some kc := (Vm.findClass_spec k3).imp fun k h => h.1
        obtain ⟨kc, hkc⟩ := hcomp
        have hasg : (eS E).vm.assignable cv.cls comp = true := by
          rcases q5 with e | e
          · have : comp = cv.cls := Option.some.inj (k3.symm.trans (e ▸ q3))
            rw [this]; exact va_assign q4
          · exact vb_asgC e comp cv.cls k3 q3
        rw [rv_vr, rfv_p mp h0]
        rw [rfv_p mp h0] at kk
        exact W.aast C.1 C.2.1 h1 (fun q e => by rw [h3] at e; cases e) (by rw [h3]; exact fun e => by cases e) k1 k2 rfl hkc ⟨fun e => h5 (Or.inl e), Nat.not_le.mp fun e => h5 (Or.inr e)⟩ q1 (fun q e => by rw [e] at q2; cases q2) hkv hasg rfl rfl hd (fun H' q1 q2 q3 => kk H' q1 q2 q3 kx nx)) kk
/-- what is new -/
theorem Sim.new {t n pcn : Nat} {ln : Nat} {cont : Nat × Hp → Option (β × Hp)} {F : Option (Nat × Hp)} {P : Prop} [Decidable P] {st : List Value} (C : Cx E cc ret own) (hp : ePl E t = true) (h500 : t < 500)
    (hF : F = if P ∧ h.2.1 + (n + 1) ≤ LIM then some (h.1, hnew h n (t, ln, fun _ => 0, fun _ => 0, fun _ => 0)) else none)
    (hst : ∀ m, (∀ v ∈ st, vOk m v) → ∀ v ∈ sa, vOk m v)
    (hw : P → n < LIM → ∀ (mp : Nat → Nat) (H : Heap) (locs : List Loc) (ls : Array Slot) (Q : State → Prop) (kx nx : Nat), kx + 1 ≤ (eR E).cells → nx + n ≤ (eR E).slots → (∀ (H' : Heap) (cell : Cell), H'[H.size]? = some cell → cell.slots.size = n → H'.size = H.size + 1 → (∀ q : Nat, q < H.size → H'[q]? = H[q]?) → AtC (eG E) mp (t, ln, fun _ => 0, fun _ => 0, fun _ => 0) H.size (eS E) H' → WE E H' locs Q (F0 (eM E) pcn ls (.ref H.size :: sa.map (rv mp)))) → W (eP E) (eL E) (eE E) (eR E) (eS E) (eM E) (eA E) (eB E) (eMe E) (eC E) H locs kx nx Q (F0 (eM E) pc ls (st.map (rv mp))))
    (kk : ∀ v h1, v ≠ 0 → Sim id E QF h1 pcn la (vr v :: sa) (cont (v, h1))) : Sim id E QF h pc la st (F.bind cont) := by
  intro r h9 hx mp H locs ls ok
  replace ok : Ok E h mp H locs ls la _ := ok
  obtain ⟨v, hv, hx⟩ := Option.bind_eq_some_iff.mp hx
  rw [hF] at hv
  split at hv
  · rename_i hm
    cases hv
    obtain ⟨hP, hlim⟩ := hm
    have hc := C.lv.2.1 _ _ _ _ ok.2.2.1
    have hR := C.2.2.2.2.2.2.2.2.2
    have hz := ok.2.2.2.1.1
    obtain ⟨hR1, hR2⟩ := hR
    refine WE.of ?_
    intro T hT X
    have hs3 : totS (eS E).heap ≤ totS H := by
      have hb := X.book
      have hr : (eS E).slotsTrue = true := by
        have h1 := X.room
        simp only [State.hasRoom, Bool.and_eq_true] at h1
        exact h1.2
      have e1 : T.slotsUsed = totS T.heap := by simpa [State.slotsTrue, totS] using hb
      have e2 : (eS E).slotsUsed = totS (eS E).heap := by simpa [State.slotsTrue, totS] using hr
      have e3 : T.slotsUsed = (eS E).slotsUsed + _ := X.same.2.2.2.1
      rw [hT] at e1
      omega
    refine hw hP (by omega) mp H locs ls _ _ _ (by omega) (by omega) (fun H1 cell q1 q2 q3 q4 q5 => ?_) T hT X
    obtain ⟨mp', p1, p2, p3⟩ := C.lv.2.2.2.2.2.2.2.1 _ _ _ _ ok.2.2.1 n (t, ln, fun _ => 0, fun _ => 0, fun _ => 0) H1 hp h500 (fun _ => rfl) hlim q3 (by rw [totS_push q3 q4 q1, q2]) q4 q5
    have h1 : h.1 ≠ 0 := by omega
    have hS : va_S (gA (eG E)) (eS E).heap H1 locs := ⟨by omega, fun q g1 g2 => by rw [q4 q (by omega)]; exact ok.2.2.2.1.2.1 q g1 g2, ok.2.2.2.1.2.2⟩
    have osa := hst _ ok.2.2.2.2.2.2
    have ok2 := ok.more (sa' := vr h.1 :: sa) p1 (h' := hnew h n (t, ln, fun _ => 0, fun _ => 0, fun _ => 0)) (Nat.le_succ _) p3 hS (vk1 (vOk_vr (Nat.lt_succ_self _)) (fun v hv => (osa v hv).mono (Nat.le_succ _)))
    have := kk h.1 _ h1 r h9 hx mp' H1 locs ls ok2
    rw [List.map_cons, rv_vr, rfv_p mp' h1, p2, xt_rvs p1 osa] at this
    exact this
  · cases hv
/-- the code makes an object of tag t with n slots -/
def NO (own : String) (idx t n : Nat) : Prop := t ≠ 0 ∧ t < 200 ∧ ∃ q : vw_C, clT[t - 1]? = some q ∧ Cond.classLink own idx q.1 ∈ lw_all ∧ Cond.instantiable q.1 n ∈ lw_all ∧ Cond.initialized q.1 ∈ lw_all
theorem s_new (t n : Nat) {idx : Nat} {cont : Nat × Hp → Option (β × Hp)} (C : Cx E cc ret own) (hN : NO own idx t n) (hp : ePl E t = true) (hd : decode cc pc = .ok (.new idx, 3)) (kk : ∀ v h1, v ≠ 0 → Sim id E QF h1 (pc + 3) la (vr v :: sa) (cont (v, h1))) : Sim id E QF h pc la sa ((newO t n h).bind cont) := by
  obtain ⟨t0, t2, q, hq, w1, w2, w3⟩ := hN
  refine Sim.new (P := True) (t := t) (n := n) (ln := 0) (F := newO t n h) C hp (by omega) (by unfold newO; simp) (fun m h => h) (fun _ _ mp H locs ls Q kx nx h1 h2 kk => ?_) kk
  have hKn := C.en.1 _ _ hq
  have hco := cok_all _ _ hq
  have e1 : t - 1 + 1 = t := by omega
  rw [e1] at hco
  obtain ⟨c1, c2, c3, c4, c5, c6⟩ := hco
  obtain ⟨cC, kC0, i1, i2, i3, i4⟩ := Cond.instantiable_spec (C.ws _ w2)
  refine W.newcK C.1 C.2.1 C.ow (C.ws _ w1) (C.ws _ w2) (C.ws _ w3) rfl hd h1 h2 hKn.2.1 rfl fun H1 kC hkC q1 q2 q3 => ?_
  have hcC : cC = (eG E).1 (t - 1) := Option.some.inj (i1.symm.trans hKn.2.1)
  subst hcC
  cases i2.symm.trans hkC
  obtain ⟨cell, p1, p2, p3, p4⟩ := u_born (tyF t) C.ws c1 hKn hkC q1 c2
  cases q1.symm.trans p1
  refine kk H1 _ q1 ?_ q2 q3 ⟨_, q1, by rw [p3]; exact (fun e => by cases e), by rw [p3]; rfl, fun _ => p3, fun _ => ?_, fun hk => ?_⟩ _ _
  · show (kC0.instanceTypes.map defaultValue).size = n
    rw [Array.size_map]
    exact i4.2.2
  · show (blank _ kC0).cls = (eG E).1 (t % 500 - 1) ∧ _
    have em : t % 500 = t := Nat.mod_eq_of_lt (by omega)
    rw [em]
    refine ⟨p2, fun k kd hkd => ?_⟩
    have hk : k < q.2.2 := by rw [← c4]; exact (List.getElem?_eq_some_iff.mp hkd).1
    rw [p4 k hk]
    have h5 := c5 k hk
    have h6 := c6 k hk
    cases hkd.symm.trans h5
    dsimp only
    generalize tyF t k = ty at h6
    cases ty <;> first | rfl | exact absurd rfl h6
  · have em : t % 500 = t := Nat.mod_eq_of_lt (by omega)
    have hk : 200 ≤ t % 500 := hk
    omega
end Arr
