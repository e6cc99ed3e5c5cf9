/-! WORDS of calls, by kind; calls by the receiver's tag -/
set_option maxRecDepth 100000
theorem lw_U {own C owner : String} {idx : Nat} {x y : MethodName} {b : ByteArray} {L : Nat} {r : Option FieldType} (h1 : Cond.methodLink own idx x ∈ lw_all) (h2 : Cond.sameMethod x.cls owner x.name x.desc ∈ lw_all) (h3 : Cond.selects C x y ∈ lw_all) (h4 : Cond.instanceMethod y ∈ lw_all) (h5 : Cond.initialized y.cls ∈ lw_all) (h6 : Cond.code y b L r ∈ lw_all) : GoodIn lw_all (va_wsU own idx C owner x y (ws_ y b L r)) := by
  refine lw_app ?_ (lw_meth h6)
  intro w hw
  simp only [List.mem_cons, List.not_mem_nil, or_false] at hw
  rcases hw with e | e | e | e | e <;> rw [e] <;> assumption
theorem lw_O {own C owner : String} {idx : Nat} {x y : MethodName} {b : ByteArray} {L : Nat} {r : Option FieldType} (h1 : Cond.methodLink own idx x ∈ lw_all) (h2 : Cond.sameMethod x.cls owner x.name x.desc ∈ lw_all) (h0 : Cond.instanceMethod ⟨owner, x.name, x.desc⟩ ∈ lw_all) (h3 : Cond.selects C x y ∈ lw_all) (h4 : Cond.instanceMethod y ∈ lw_all) (h5 : Cond.initialized y.cls ∈ lw_all) (h6 : Cond.code y b L r ∈ lw_all) : GoodIn lw_all (va_wsO own idx C owner x y (ws_ y b L r)) := by
  refine lw_app ?_ (lw_meth h6)
  intro w hw
  simp only [List.mem_cons, List.not_mem_nil, or_false] at hw
  rcases hw with e | e | e | e | e | e <;> rw [e] <;> assumption
theorem lw_F {own C : String} {idx : Nat} {x y : MethodName} {b : ByteArray} {L : Nat} {r : Option FieldType} (h1 : Cond.methodLink own idx x ∈ lw_all) (h3 : Cond.selects C x y ∈ lw_all) (h4 : Cond.instanceMethod y ∈ lw_all) (h5 : Cond.initialized y.cls ∈ lw_all) (h6 : Cond.code y b L r ∈ lw_all) : GoodIn lw_all (va_wsF own idx C x y (ws_ y b L r)) := by
  refine lw_app ?_ (lw_meth h6)
  intro w hw
  simp only [List.mem_cons, List.not_mem_nil, or_false] at hw
  rcases hw with e | e | e | e <;> rw [e] <;> assumption
theorem lw_SU {own : String} {idx : Nat} {y : MethodName} {b : ByteArray} {L : Nat} {r : Option FieldType} (h1 : Cond.methodLink own idx y ∈ lw_all) (h2 : Cond.sameMethod y.cls y.cls y.name y.desc ∈ lw_all) (h3 : Cond.superclass own y.cls ∈ lw_all) (h4 : Cond.instanceMethod y ∈ lw_all) (h5 : Cond.initialized y.cls ∈ lw_all) (h6 : Cond.code y b L r ∈ lw_all) : GoodIn lw_all (va_wsSU own idx y (ws_ y b L r)) := by
  refine lw_app ?_ (lw_meth h6)
  intro w hw
  simp only [List.mem_cons, List.not_mem_nil, or_false] at hw
  rcases hw with e | e | e | e | e <;> rw [e] <;> assumption
/-- cells that nobody knows may come to the heap, at their cost -/
def LvF (RL : Lv) : Prop := ∀ (h : Hp) (mp : Nat → Nat) (U : State) (H : Heap), RL h mp U H → h.2.1 + 7 ≤ LIM → ∀ H1 : Heap, H.size ≤ H1.size → H1.size ≤ H.size + 1 → totS H1 ≤ totS H + 6 → (∀ q : Nat, q < H.size → H1[q]? = H[q]?) → RL (h.1, h.2.1 + 7, h.2.2) mp U H1
section Calls3
variable {β : Type} {E : Ex} {QF : β → Hp → State → Prop} {h : Hp} {pc : Nat} {la : List (Nat × Value)} {sa : List Value} {cc : ByteArray} {ret : Option FieldType} {own : String}
variable {β1 : Type} {f f2 : Option (β1 × Hp)} {K : β1 → Hp → Option (β × Hp)} {fin1 : β1 → Option Value} {As sar : List Value} {x y : MethodName} {idx maxL fr1 lo1 b : Nat} {bytes : ByteArray} {ret1 : Option FieldType}
/-- a method named by an abstract class, had by the receiver's -/
theorem c_A (C : Cx E cc ret own) (n : Nat) (sar : List Value) (t : Nat) (Cn owner : String) (hr : RO t Cn) (hC : Ct id (eG E) (eRL E) (eL E) y (ws_ y bytes maxL ret1) fr1 lo1 fin1 (vr b :: As) h f) (hw : GoodIn lw_all (va_wsU own idx Cn owner x y (ws_ y bytes maxL ret1))) (hz : Cond.declares ⟨owner, x.name, x.desc⟩ ∈ lw_tbl) (hd2 : owner ≠ "java/lang/invoke/MethodHandle" ∧ owner ≠ "java/lang/invoke/VarHandle" ∧ (parseMethodDescriptor x.desc).map (fun d => d.parameters.length) = some n)
    (hn : As.length = n) (hfr : fr1 + 1 ≤ (eR E).frames) (hlo : 8 + (maxL + 11) + lo1 ≤ (eR E).locals) (hst : As.reverse ++ vr b :: sar = sa) (hsum : (sar.map fun v => v.category).sum ≤ 8) (hd : decode cc pc = .ok (.invokevirtual idx, 3)) (kk : ∀ r1 h1, Sim id E QF h1 (pc + 3) la ((fin1 r1).toList ++ sar) (K r1 h1)) (ht : tg h b % 500 = t) : Sim id E QF h pc la sa (bn f K) :=
  Sim.virt C n sar t Cn (pc + 3) ht hr hC hn hst hsum (fun mp H locs ls mc ms kx nx Pc Qc hM hp hn hsz hstk hsum hf => va_runU ⟨C.1, C.2.1, C.nl, C.ow, C.ws⟩ hM (va_cwA n C.ws hw rfl rfl rfl (C.en.2.2.2.2.2.2.1 _ hz) hd2 ⟨hfr, hlo⟩) hp rfl hn hsz hstk hsum hd hf) kk
/-- by the receiver's tag: what comes after is shown once -/
theorem s_dk {F : Option (β1 × Hp)} (pcn : Nat) (fin1 : β1 → Option Value) (sar : List Value) (hk : ∀ r1 h1, Sim id E QF h1 pcn la ((fin1 r1).toList ++ sar) (K r1 h1)) (hd : (∀ r1 h1, Sim id E QF h1 pcn la ((fin1 r1).toList ++ sar) (K r1 h1)) → Sim id E QF h pc la sa (bn F K)) : Sim id E QF h pc la sa (bn F K) := hd hk
theorem s_mmin {X : Option (β × Hp)} (C : Cx E cc ret own) {x y : Int32} (hl : Cond.methodLink own idx Lib.Math.min.name ∈ lw_all) (hs : Cond.static Lib.Math.min.name ∈ lw_all) (hi : Cond.initialized "java/lang/Math" ∈ lw_all) (hc : Cond.code Lib.Math.min.name Lib.Math.min.code 2 (some .int) ∈ lw_all) (hfr : 1 ≤ (eR E).frames) (hlo : 29 ≤ (eR E).locals) (hsum : (sa.map fun v => v.category).sum ≤ 8) (hd : decode cc pc = .ok (.invokestatic idx, 3)) (kk : Sim id E QF h (pc + 3) la (.int (if y < x then y else x) :: sa) X) : Sim id E QF h pc la (.int y :: .int x :: sa) X := by
  intro r h9 hx mp H locs ls ok
  replace ok : Ok E h mp H locs ls la _ := ok
  have ok' : Ok E h mp H locs ls la (.int (if y < x then y else x) :: sa) := ⟨ok.1, ok.2.1, ok.2.2.1, ok.2.2.2.1, ok.2.2.2.2.1, ok.2.2.2.2.2.1, vk1 trivial (vkd (vkd ok.2.2.2.2.2.2))⟩
  have hb := C.lv.2.1 _ _ _ _ ok.2.2.1
  obtain ⟨hR1, hR2⟩ := C.2.2.2.2.2.2.2.2.2
  refine WE.of ?_
  have hk := kk r h9 hx mp H locs ls ok' (H.size - (eS E).heap.size) (totS H - totS (eS E).heap)
  refine va_mmin C.1 C.2.1 (C.nl.trans ok.2.2.2.2.1.1.symm) C.ow (C.ws _ hl) (C.ws _ hs) (C.ws _ hi) (C.ws _ hc) hfr ?_ (by omega) (by omega) hd hk
  rw [rv_sum]
  omega
theorem s_mmax {X : Option (β × Hp)} (C : Cx E cc ret own) {x y : Int32} (hl : Cond.methodLink own idx Lib.Math.max.name ∈ lw_all) (hs : Cond.static Lib.Math.max.name ∈ lw_all) (hi : Cond.initialized "java/lang/Math" ∈ lw_all) (hc : Cond.code Lib.Math.max.name Lib.Math.max.code 2 (some .int) ∈ lw_all) (hfr : 1 ≤ (eR E).frames) (hlo : 29 ≤ (eR E).locals) (hsum : (sa.map fun v => v.category).sum ≤ 8) (hd : decode cc pc = .ok (.invokestatic idx, 3)) (kk : Sim id E QF h (pc + 3) la (.int (if x < y then y else x) :: sa) X) : Sim id E QF h pc la (.int y :: .int x :: sa) X := by
  intro r h9 hx mp H locs ls ok
  replace ok : Ok E h mp H locs ls la _ := ok
  have ok' : Ok E h mp H locs ls la (.int (if x < y then y else x) :: sa) := ⟨ok.1, ok.2.1, ok.2.2.1, ok.2.2.2.1, ok.2.2.2.2.1, ok.2.2.2.2.2.1, vk1 trivial (vkd (vkd ok.2.2.2.2.2.2))⟩
  have hb := C.lv.2.1 _ _ _ _ ok.2.2.1
  obtain ⟨hR1, hR2⟩ := C.2.2.2.2.2.2.2.2.2
  refine WE.of ?_
  have hk := kk r h9 hx mp H locs ls ok' (H.size - (eS E).heap.size) (totS H - totS (eS E).heap)
  refine va_mmax C.1 C.2.1 (C.nl.trans ok.2.2.2.2.1.1.symm) C.ow (C.ws _ hl) (C.ws _ hs) (C.ws _ hi) (C.ws _ hc) hfr ?_ (by omega) (by omega) hd hk
  rw [rv_sum]
  omega
/-- a text constant, by a wide index -/
theorem s_ldcSw {x : Option (β × Hp)} {idx i : Nat} {tx : String} (C : Cx E cc ret own) (hq : (own, idx, tx, i) ∈ strL) (h0 : i ≠ 0) (hi : i < 400) (hd : decode cc pc = .ok (.ldc_w idx, 3)) (kk : Sim id E QF h (pc + 3) la (vr i :: sa) x) : Sim id E QF h pc la sa x := by
  intro r9 h9 hx mp H locs ls ok k n
  replace ok : Ok E h mp H locs ls la _ := ok
  obtain ⟨e1, e2⟩ := st_ref C h0 hi _ _ _ ok.2.2.1
  have ok' : Ok E h mp H locs ls la (vr i :: sa) := ⟨ok.1, ok.2.1, ok.2.2.1, ok.2.2.2.1, ok.2.2.2.2.1, ok.2.2.2.2.2.1, vk1 e2 ok.2.2.2.2.2.2⟩
  have hk := kk r9 h9 hx mp H locs ls ok' k n
  rw [List.map_cons, ← e1] at hk
  have hZ := C.en.2.2.2.2.2.2.2.2.2.2.1 _ hq
  intro T hT X
  obtain ⟨t, a1, b1⟩ := hk T hT X
  exact ⟨t, X.ldcStringW C.1 C.ow (text := tx) (a := gC (eG E) i) hZ.1 hZ.2 (g := F0 (eM E) pc ls (sa.map (rv mp))) rfl (by rw [C.2.1]; exact hd) t a1, b1⟩
end Calls3
