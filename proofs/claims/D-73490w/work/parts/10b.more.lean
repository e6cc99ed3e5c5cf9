/-! MORE ROWS: arrays that are made, casts, references compared, statics, texts, the other kinds of calls -/
set_option maxRecDepth 100000
section More
variable {β : Type} {E : Ex} {QF : β → Hp → State → Prop} {h : Hp} {pc : Nat} {la : List (Nat × Value)} {sa : List Value} {cc : ByteArray} {ret : Option FieldType} {own : String}
theorem s_newO (t n : Nat) {idx : Nat} {K : Nat → Hp → Option (β × Hp)} (C : Cx E cc ret own) (hN : NO own idx t n) (hp : ePl E t = true) (hd : decode cc pc = .ok (.new idx, 3)) (kk : ∀ v h1, v ≠ 0 → Sim id E QF h1 (pc + 3) la (vr v :: sa) (K v h1)) : Sim id E QF h pc la sa (bn (newO t n h) K) :=
  s_new (cont := fun p => K p.1 p.2) t n C hN hp hd kk
theorem s_newa (kd : Nat) (aty : ArrayType) {n : Int32} {K : Nat → Hp → Option (β × Hp)} (C : Cx E cc ret own) (hw : Cond.arrayClass (newarray.typeOf aty) ∈ lw_all) (hk : newarray.typeOf aty = tyA kd) (hk5 : kd < 5) (hp : ePl E (200 + kd) = true) (hd : decode cc pc = .ok (.newarray aty, 2)) (kk : ∀ v h1, v ≠ 0 → Sim id E QF h1 (pc + 2) la (vr v :: sa) (K v h1)) : Sim id E QF h pc la (.int n :: sa) (bn (newA (200 + kd) n h) K) := by
  refine Sim.new (cont := fun p => K p.1 p.2) (P := ¬ n < 0) (t := 200 + kd) (n := n.toNatClampNeg) (ln := n.toNatClampNeg) (F := newA (200 + kd) n h) C hp (by omega) rfl (fun m h => vkd h) (fun hn hL mp H locs ls Q kx nx h1 h2 kk => ?_) kk
  have eL : LIM = 1200000 := rfl
  have hb : componentBytes (newarray.typeOf aty) ≤ 8 := by cases aty <;> decide
  have hbb : n.toNatClampNeg * componentBytes (newarray.typeOf aty) ≤ n.toNatClampNeg * 8 := Nat.mul_le_mul_left _ hb
  refine W.newaK C.1 C.2.1 (C.ws _ hw) rfl hd rfl hn rfl (by omega) h1 h2 rfl fun H1 cA q1 q2 q3 q4 => ?_
  have hm : (200 + kd) % 500 = 200 + kd := Nat.mod_eq_of_lt (by omega)
  refine kk H1 _ q1 (arrV_size _ _ _) q2 q3 ⟨_, q1, (fun e => by cases e), rfl, fun _ => rfl, fun hk => ?_, fun _ => ?_⟩ _ _
  · have hk : (200 + kd) % 500 < 200 := hk
    omega
  · show (eS E).isArrayOf _ (tyA ((200 + kd) % 500 - 200)) ∧ _
    rw [hm, show 200 + kd - 200 = kd by omega, ← hk]
    refine ⟨q4 _ _, arrV_size _ _ _, by show n.toNatClampNeg < _; omega, fun j hj => ?_, fun _ C hC => ?_⟩
    · rw [arrV_read _ _ hj]
      congr 1
      generalize hty : newarray.typeOf aty = ty at hk
      match kd, hk5 with
      | 0, _ => rw [hk]; rfl
      | 1, _ => rw [hk]; rfl
      | 2, _ => rw [hk]; rfl
      | 3, _ => rw [hk]; rfl
      | 4, _ => rw [hk]; rfl
    · rw [hk] at hC
      match kd, hk5 with
      | 0, _ => cases hC
      | 1, _ => cases hC
      | 2, _ => cases hC
      | 3, _ => cases hC
      | 4, _ => cases hC
theorem s_anew (kd : Nat) (nm : String) {idx : Nat} {n : Int32} {K : Nat → Hp → Option (β × Hp)} (C : Cx E cc ret own) (hw : Cond.classLink own idx nm ∈ lw_all) (ho : Cond.arrayOver (.object nm) ∈ lw_tbl) (hk5 : 5 ≤ kd ∧ kd < 200) (hk : tyA kd = .object nm) (hp : ePl E (200 + kd) = true) (hd : decode cc pc = .ok (.anewarray idx, 3)) (kk : ∀ v h1, v ≠ 0 → Sim id E QF h1 (pc + 3) la (vr v :: sa) (K v h1)) : Sim id E QF h pc la (.int n :: sa) (bn (newA (200 + kd) n h) K) := by
  refine Sim.new (cont := fun p => K p.1 p.2) (P := ¬ n < 0) (t := 200 + kd) (n := n.toNatClampNeg) (ln := n.toNatClampNeg) (F := newA (200 + kd) n h) C hp (by omega) rfl (fun m h => vkd h) (fun hn hL mp H locs ls Q kx nx h1 h2 kk => ?_) kk
  have eL : LIM = 1200000 := rfl
  refine W.anew C.1 C.2.1 C.ow (C.ws _ hw) (va_AO.use (C.en.2.2.2.2.2.1 _ ho)) rfl hd rfl hn (by omega) h1 h2 fun cA kA comp q1 q2 q3 q4 => ?_
  have hm : (200 + kd) % 500 = 200 + kd := Nat.mod_eq_of_lt (by omega)
  have hg : (H.push { cls := cA, slots := Array.replicate n.toNatClampNeg .null, vm := .none })[H.size]? = some ({ cls := cA, slots := Array.replicate n.toNatClampNeg .null, vm := .none } : Cell) := by simp
  refine kk _ _ hg (by simp) (by simp) (fun q hq => by simp [Array.getElem?_push, Nat.ne_of_lt hq]) ⟨_, hg, (fun e => by cases e), rfl, fun _ => rfl, fun hk => ?_, fun _ => ?_⟩ _ _
  · have hk : (200 + kd) % 500 < 200 := hk
    omega
  · show (eS E).isArrayOf _ (tyA ((200 + kd) % 500 - 200)) ∧ _
    rw [hm, show 200 + kd - 200 = kd by omega, hk]
    refine ⟨⟨(fun k e => by cases e), kA, q2, comp, q3⟩, by simp, by show n.toNatClampNeg < _; omega, fun j hj => ?_, fun _ C0 hC => ?_⟩
    · have hj : j < n.toNatClampNeg := hj
      show (Array.replicate n.toNatClampNeg Value.null)[j]? = some (aval _ _ kd j)
      unfold aval
      rw [if_neg (by omega), if_neg (by omega)]
      simp [hj, rfv, rfo, va_rf]
    · cases hC
      exact ⟨kA, comp, q2, q3, q4, q1⟩
/-- a cast that holds -/
theorem s_cast (cs : List Nat) (nm : String) {idx r : Nat} {cont : Unit → Option (β × Hp)} (C : Cx E cc ret own) (hw : Cond.classLink own idx nm ∈ lw_all) (hcs : ∀ t ∈ cs, AO nm t) (hd : decode cc pc = .ok (.checkcast idx, 3)) (kk : Sim id E QF h (pc + 3) la (vr r :: sa) (cont ())) : Sim id E QF h pc la (vr r :: sa) ((cst cs r h).bind cont) := by
  intro r9 h9 hx mp H locs ls ok k n
  replace ok : Ok E h mp H locs ls la _ := ok
  obtain ⟨u, hu, hx⟩ := Option.bind_eq_some_iff.mp hx
  have hk := kk r9 h9 hx mp H locs ls ok k n
  unfold cst at hu
  split at hu
  · rename_i hc
    rw [List.map_cons] at hk ⊢
    by_cases h0 : r = 0
    · subst h0
      exact lv_castN C.1 C.2.1 hd hk
    · rw [rv_vr, rfv_p mp h0] at hk ⊢
      obtain ⟨-, cell, C0, g1, g2, g3, g4, g5⟩ := ao_at C ok.2.2.1 (hcs _ (hc.resolve_left h0)) rfl
      rcases g5 with e | e
      · subst e
        exact va_castS C.1 C.2.1 C.ow (C.ws _ hw) g4 ⟨cell, g1, g2, g3⟩ hd hk
      · exact va_castY C.1 C.2.1 C.ow (C.ws _ hw) e ⟨cell, g1, g2, g3⟩ hd hk
  · cases hu
/-- a cell of tag t is no nm -/
def AN (nm : String) (t : Nat) : Prop := t ≠ 0 ∧ t < 200 ∧ ∃ q : vw_C, clT[t - 1]? = some q ∧ Cond.not (.castable q.1 nm) ∈ flatC (Cond.and given_1 narrow_1)
theorem s_ins (ys ns : List Nat) (nm : String) {idx r : Nat} {cont : Int32 → Option (β × Hp)} (C : Cx E cc ret own) (hw : Cond.classLink own idx nm ∈ lw_all) (hys : ∀ t ∈ ys, AO nm t) (hns : ∀ t ∈ ns, AN nm t) (hd : decode cc pc = .ok (.instanceof idx, 3)) (kk : ∀ v, Sim id E QF h (pc + 3) la (.int v :: sa) (cont v)) : Sim id E QF h pc la (vr r :: sa) ((ins ys ns r h).bind cont) := by
  intro r9 h9 hx mp H locs ls ok k n
  replace ok : Ok E h mp H locs ls la _ := ok
  obtain ⟨v, hu, hx⟩ := Option.bind_eq_some_iff.mp hx
  obtain ⟨o1, o2, o3, o4, o5, o6, o7⟩ := ok
  have hk := kk v r9 h9 hx mp H locs ls ⟨o1, o2, o3, o4, o5, o6, vk1 trivial (vkd o7)⟩ k n
  have ok : Ok E h mp H locs ls la _ := ⟨o1, o2, o3, o4, o5, o6, o7⟩
  unfold ins at hu
  split at hu
  · rename_i h0
    cases hu
    subst h0
    exact lv_instN C.1 C.2.1 hd hk
  · rename_i h0
    rw [List.map_cons, rv_vr, rfv_p mp h0]
    split at hu
    · rename_i hc
      cases hu
      obtain ⟨-, cell, C0, g1, g2, g3, g4, g5⟩ := ao_at C ok.2.2.1 (hys _ hc) rfl
      rcases g5 with e | e
      · subst e
        exact va_instS C.1 C.2.1 C.ow (C.ws _ hw) g4 ⟨cell, g1, g2, g3⟩ hd hk
      · exact va_instY C.1 C.2.1 C.ow (C.ws _ hw) e ⟨cell, g1, g2, g3⟩ hd hk
    · split at hu
      · rename_i hc
        cases hu
        obtain ⟨a1, a2, q, a3, a4⟩ := hns _ hc
        obtain ⟨-, cell, g1, g2, g3⟩ := recv_at (t := tg h r % 500) C ok rfl a1 a2 a3
        exact va_instNo C.1 C.2.1 C.ow (C.ws _ hw) (C.en.2.2.2.2.2.2.2.2.2.2.2.2.1 _ _ a4) ⟨cell, g1, g2, g3⟩ hd hk
      · cases hu
theorem rfo_inj {mp : Nat → Nat} {H : Heap} {a b : Nat} (C : Cx E cc ret own) (hR : eRL E h mp (eS E) H) (ha : vOk h.1 (vr a)) (hb : vOk h.1 (vr b)) (he : rfo mp a = rfo mp b) : a = b := by
  unfold rfo at he
  by_cases h0 : a = 0
  · by_cases h1 : b = 0
    · rw [h0, h1]
    · rw [if_pos h0, if_neg h1] at he; cases he
  · by_cases h1 : b = 0
    · rw [if_neg h0, if_pos h1] at he; cases he
    · rw [if_neg h0, if_neg h1] at he
      exact C.lv.2.2.2.2.2.1 _ _ _ _ hR a b h0 h1 (ha.resolve_left h0) (hb.resolve_left h1) (Option.some.inj he)
theorem s_acmp_eq {a b : Nat} {off : Int} (tgt : Nat) {X Y : Option (β × Hp)} (C : Cx E cc ret own) (hd : decode cc pc = .ok (.if_acmp .eq off, 3)) (ht : (pc : Int) + off = (tgt : Int)) (kt : Sim id E QF h tgt la sa X) (kf : Sim id E QF h (pc + 3) la sa Y) : Sim id E QF h pc la (vr b :: vr a :: sa) (if a = b then X else Y) := by
  intro r9 h9 hx mp H locs ls ok k n
  replace ok : Ok E h mp H locs ls la _ := ok
  obtain ⟨o1, o2, o3, o4, o5, o6, o7⟩ := ok
  have ok' : Ok E h mp H locs ls la sa := ⟨o1, o2, o3, o4, o5, o6, vkd (vkd o7)⟩
  refine lv_acmp_eq (rx := rfo mp a) (ry := rfo mp b) C.1 C.2.1 hd ht (fun he => ?_) (fun he => ?_)
  · have := rfo_inj C o3 (vkh (vkd o7)) (vkh o7) he
    rw [if_pos this] at hx
    exact kt r9 h9 hx mp H locs ls ok' k n
  · have : ¬ a = b := fun e => he (by rw [e])
    rw [if_neg this] at hx
    exact kf r9 h9 hx mp H locs ls ok' k n
theorem s_acmp_ne {a b : Nat} {off : Int} (tgt : Nat) {X Y : Option (β × Hp)} (C : Cx E cc ret own) (hd : decode cc pc = .ok (.if_acmp .ne off, 3)) (ht : (pc : Int) + off = (tgt : Int)) (kt : Sim id E QF h tgt la sa X) (kf : Sim id E QF h (pc + 3) la sa Y) : Sim id E QF h pc la (vr b :: vr a :: sa) (if a = b then Y else X) := by
  intro r9 h9 hx mp H locs ls ok k n
  replace ok : Ok E h mp H locs ls la _ := ok
  obtain ⟨o1, o2, o3, o4, o5, o6, o7⟩ := ok
  have ok' : Ok E h mp H locs ls la sa := ⟨o1, o2, o3, o4, o5, o6, vkd (vkd o7)⟩
  refine lv_acmp_ne (rx := rfo mp a) (ry := rfo mp b) C.1 C.2.1 hd ht (fun he => ?_) (fun he => ?_)
  · have : ¬ a = b := fun e => he (by rw [e])
    rw [if_neg this] at hx
    exact kt r9 h9 hx mp H locs ls ok' k n
  · have := rfo_inj C o3 (vkh (vkd o7)) (vkh o7) he
    rw [if_pos this] at hx
    exact kf r9 h9 hx mp H locs ls ok' k n
/-- the code names a static whose value the start gives -/
def SO (own : String) (idx : Nat) (q : String × String × String × (Gx → Value)) : Prop := q ∈ stL ∧ ∃ ref, Cond.fieldLink own idx ref q.2.1 q.2.2.1 ∈ lw_all ∧ (ref = q.1 ∨ Cond.sameField ref q.1 q.2.1 q.2.2.1 ∈ lw_all)
theorem s_gets {x : Option (β × Hp)} {idx : Nat} {q : String × String × String × (Gx → Value)} (v : Value) (C : Cx E cc ret own) (hS : SO own idx q) (hv : ∀ h mp H, eRL E h mp (eS E) H → q.2.2.2 (eG E) = rv mp v ∧ vOk h.1 v) (hd : decode cc pc = .ok (.getstatic idx, 3)) (kk : Sim id E QF h (pc + 3) la (v :: sa) x) : Sim id E QF h pc la sa x := by
  obtain ⟨hq, ref, hl, hs⟩ := hS
  intro r9 h9 hx mp H locs ls ok k n
  replace ok : Ok E h mp H locs ls la _ := ok
  obtain ⟨e1, e2⟩ := hv _ _ _ ok.2.2.1
  have ok' : Ok E h mp H locs ls la (v :: sa) := ⟨ok.1, ok.2.1, ok.2.2.1, ok.2.2.2.1, ok.2.2.2.2.1, ok.2.2.2.2.2.1, vk1 e2 ok.2.2.2.2.2.2⟩
  have hk := kk r9 h9 hx mp H locs ls ok' k n
  rw [List.map_cons, ← e1] at hk
  exact va_gets C.1 C.2.1 (C.en.2.2.2.2.2.2.2.2.1 q hq) ok.2.2.2.1 C.ow (C.ws _ hl) (fun z hz => hs.elim (fun e => by rw [e]; exact hz) (fun e => u_same (C.ws _ e) z hz)) hd hk
theorem st_int {E : Ex} {v : Int32} : ∀ (h : Hp) (mp : Nat → Nat) (H : Heap), eRL E h mp (eS E) H → Value.int v = rv mp (.int v) ∧ vOk h.1 (.int v) := fun _ _ _ _ => ⟨rfl, trivial⟩
theorem st_ref {i : Nat} (C : Cx E cc ret own) (h0 : i ≠ 0) (hi : i < 400) : ∀ (h : Hp) (mp : Nat → Nat) (H : Heap), eRL E h mp (eS E) H → Value.ref (gC (eG E) i) = rv mp (vr i) ∧ vOk h.1 (vr i) := fun h mp H hR => by
  obtain ⟨q1, q2⟩ := C.lv.2.2.2.2.2.2.2.2 _ _ _ _ hR
  exact ⟨by rw [rv_vr, rfv_p mp h0, q2 i h0 hi], vOk_vr (Nat.lt_of_lt_of_le hi q1)⟩
/-- a text constant -/
theorem s_ldcS {x : Option (β × Hp)} {idx i : Nat} {tx : String} (C : Cx E cc ret own) (hq : (own, idx, tx, i) ∈ strL) (h0 : i ≠ 0) (hi : i < 400) (hd : decode cc pc = .ok (.ldc idx, 2)) (kk : Sim id E QF h (pc + 2) la (vr i :: sa) x) : Sim id E QF h pc la sa x := by
  intro r9 h9 hx mp H locs ls ok k n
  replace ok : Ok E h mp H locs ls la _ := ok
  obtain ⟨e1, e2⟩ := st_ref C h0 hi _ _ _ ok.2.2.1
  have ok' : Ok E h mp H locs ls la (vr i :: sa) := ⟨ok.1, ok.2.1, ok.2.2.1, ok.2.2.2.1, ok.2.2.2.2.1, ok.2.2.2.2.2.1, vk1 e2 ok.2.2.2.2.2.2⟩
  have hk := kk r9 h9 hx mp H locs ls ok' k n
  rw [List.map_cons, ← e1] at hk
  exact va_ldcS C.1 C.2.1 C.ow (C.en.2.2.2.2.2.2.2.2.2.2.1 _ hq) hd hk
/-- a class constant -/
theorem s_ldcM {x : Option (β × Hp)} {idx i : Nat} {nm : String} (C : Cx E cc ret own) (hw : Cond.classLink own idx nm ∈ lw_all) (hi : (nm, i) = ("[Ljava/lang/Object;", 70) ∨ (nm, i) = ("java/lang/String", 71)) (hd : decode cc pc = .ok (.ldc idx, 2)) (kk : Sim id E QF h (pc + 2) la (vr i :: sa) x) : Sim id E QF h pc la sa x := by
  intro r9 h9 hx mp H locs ls ok k n
  replace ok : Ok E h mp H locs ls la _ := ok
  have h0 : i ≠ 0 ∧ i < 400 := by rcases hi with e | e <;> cases e <;> decide
  have hM : va_Mi nm (gC (eG E) i) (eS E) := by
    rcases hi with e | e <;> cases e
    · exact C.en.2.2.2.2.2.2.2.2.2.2.2.1.1
    · exact C.en.2.2.2.2.2.2.2.2.2.2.2.1.2
  obtain ⟨e1, e2⟩ := st_ref C h0.1 h0.2 _ _ _ ok.2.2.1
  have ok' : Ok E h mp H locs ls la (vr i :: sa) := ⟨ok.1, ok.2.1, ok.2.2.1, ok.2.2.2.1, ok.2.2.2.2.1, ok.2.2.2.2.2.1, vk1 e2 ok.2.2.2.2.2.2⟩
  have hk := kk r9 h9 hx mp H locs ls ok' k n
  rw [List.map_cons, ← e1] at hk
  exact va_ldcM C.1 C.2.1 C.ow (C.ws _ hw) hM hd hk
end More
section Calls2
variable {β : Type} {E : Ex} {QF : β → Hp → State → Prop} {h : Hp} {pc : Nat} {la : List (Nat × Value)} {sa : List Value} {cc : ByteArray} {ret : Option FieldType} {own : String}
variable {β1 : Type} {f f2 : Option (β1 × Hp)} {K : β1 → Hp → Option (β × Hp)} {fin1 : β1 → Option Value} {As sar : List Value} {x y : MethodName} {idx maxL fr1 lo1 b : Nat} {bytes : ByteArray} {ret1 : Option FieldType}
/-- a receiver of tag t, or another -/
def dsp {γ : Type} (t : Nat) (d : Option γ) : List (Nat × Option γ) → Option γ
  | [] => d
  | (c, X) :: l => if t = c then X else dsp t d l
theorem s_dsp {t : Nat} {l : List (Nat × Option (β1 × Hp))} (c : Nat) (kt : t = c → Sim id E QF h pc la sa (bn f K)) (kf : Sim id E QF h pc la sa (bn (dsp t f2 l) K)) : Sim id E QF h pc la sa (bn (dsp t f2 ((c, f) :: l)) K) := by
  unfold dsp
  by_cases hc : t = c
  · rw [if_pos hc]; exact kt hc
  · rw [if_neg hc]; exact kf
theorem s_dsp0 {t : Nat} : Sim id E QF h pc la sa (bn (dsp t (none : Option (β1 × Hp)) []) K) := sim_none
/-- what a call's receiver class is -/
def RO (t : Nat) (Cn : String) : Prop := t ≠ 0 ∧ t < 200 ∧ ∃ q : vw_C, clT[t - 1]? = some q ∧ q.1 = Cn
theorem ro_at {mp : Nat → Nat} {H : Heap} {locs : List Loc} {ls : Array Slot} {t : Nat} {Cn : String} (C : Cx E cc ret own) (ok : Ok E h mp H locs ls la sa) (ht : tg h b % 500 = t) (hr : RO t Cn) : b ≠ 0 ∧ ∃ cellB : Cell, H[mp b]? = some cellB ∧ cellB.vm.isStatics = false ∧ (eS E).vm.findClass Cn = some cellB.cls := by
  obtain ⟨h0, h2, q, hq, hn⟩ := hr
  rw [← hn]
  exact recv_at C ok ht h0 h2 hq
theorem Sim.virt (C : Cx E cc ret own) (n : Nat) (sar : List Value) (t : Nat) (Cn : String) (pcn : Nat) (ht : tg h b % 500 = t) (hr : RO t Cn) (hC : Ct id (eG E) (eRL E) (eL E) y (ws_ y bytes maxL ret1) fr1 lo1 fin1 (vr b :: As) h f) (hn : As.length = n) (hst : As.reverse ++ vr b :: sar = sa) (hsum : (sar.map fun v => v.category).sum ≤ 8)
    (hw : ∀ (mp : Nat → Nat) (H : Heap) (locs : List Loc) (ls : Array Slot) (mc ms kx nx : Nat) (Pc : Array Value → State → Prop) (Qc : Array Value → State → Outcome → State → Prop), Met (eL E) y (ws_ y bytes maxL ret1) { frames := fr1, cells := mc, slots := ms, locals := lo1 } Pc Qc mc ms (gA (eG E)) → PreV (eS E) H Cn (mp b) Pc (As.map (rv mp)) → (As.map (rv mp)).length = n → ls.size = eNL E → ((As.reverse ++ vr b :: sar).map (rv mp)) = (As.map (rv mp)).reverse ++ .ref (mp b) :: sar.map (rv mp) → 2 * 0 + ((sar.map (rv mp)).map fun v => v.category).sum ≤ 8 → kx + mc ≤ (eR E).cells ∧ nx + ms ≤ (eR E).slots →
      ∀ T : State, T.heap = H → Stand (eP E) (eL E) (eE E) (eR E) (eS E) (eM E) (eA E) (eB E) (eMe E) (eC E) T locs kx nx → ∃ (v : Option Value) (st₀ t T' : State) (L : List Loc), st₀.heap = H ∧ Stand (eP E) (eL E) (eE E) (eR E) (eS E) (eM E) (eA E) (eB E) (eMe E) (eC E) T' (locs ++ L) (kx + mc) (nx + ms) ∧ (∀ q ∈ L, gA (eG E) q.base) ∧ T'.heap = t.heap ∧ T'.vm = t.vm ∧ Qc (Value.ref (mp b) :: As.map (rv mp)).toArray st₀ (.returned v) t ∧ Goes (eP E) (eE E) (eB E) T (F0 (eM E) pc ls ((As.reverse ++ vr b :: sar).map (rv mp))) T' (F0 (eM E) pcn ls (v.toList ++ sar.map (rv mp))))
    (kk : ∀ r1 h1, Sim id E QF h1 pcn la ((fin1 r1).toList ++ sar) (K r1 h1)) : Sim id E QF h pc la sa (bn f K) := by
  subst hst
  refine Sim.callK (V := id) (cont := fun p => K p.1 p.2) C fin1 pcn sar (fun _ hs v hv => hs v (List.mem_append_right _ (List.mem_cons_of_mem _ hv))) (fun r1 h1 hf mp H locs ls ok hr1 hr2 => ?_) kk
  replace ok : Ok E h mp H locs ls la _ := ok
  obtain ⟨hb, hrc⟩ := ro_at C ok ht hr
  have hav : ∀ v ∈ vr b :: As, vOk h.1 v := fun v hv => by
    rcases List.mem_cons.mp hv with e | g
    · rw [e]; exact ok.2.2.2.2.2.2 _ (List.mem_append_right _ List.mem_cons_self)
    · exact ok.2.2.2.2.2.2 _ (List.mem_append_left _ (List.mem_reverse.mpr g))
  have hpay := PQ.pays C ok hav
  simp only [List.map_cons, rv_vr, rfv_p mp hb] at hpay
  refine ⟨_, _, _, hw mp H locs ls (LIM + gB (eG E) - H.size) (LIM + gT (eG E) - totS H) _ _ _ _ (hC r1 h1 hf mp H.size (totS H)) ⟨PQ.blind C.lv, hrc, hpay⟩ (by simp [hn]) ok.2.2.2.2.1.1 ?_ ?_ ⟨hr1, hr2⟩⟩
  · simp [rv_vr, rfv_p mp hb]
  · rw [rv_sum]
    have := cat_le sar
    omega
/-- a method of the receiver's own class -/
theorem c_V (C : Cx E cc ret own) (n : Nat) (sar : List Value) (t : Nat) (Cn : String) (hr : RO t Cn) (hC : Ct id (eG E) (eRL E) (eL E) y (ws_ y bytes maxL ret1) fr1 lo1 fin1 (vr b :: As) h f) (hw : GoodIn lw_all (wsV own idx Cn y (ws_ y bytes maxL ret1))) (hd2 : y.cls = Cn ∧ y.cls ≠ "java/lang/invoke/MethodHandle" ∧ y.cls ≠ "java/lang/invoke/VarHandle" ∧ (parseMethodDescriptor y.desc).map (fun d => d.parameters.length) = some n)
    (hn : As.length = n) (hfr : fr1 + 1 ≤ (eR E).frames) (hlo : 8 + (maxL + 11) + lo1 ≤ (eR E).locals) (hst : As.reverse ++ vr b :: sar = sa) (hsum : (sar.map fun v => v.category).sum ≤ 8) (hd : decode cc pc = .ok (.invokevirtual idx, 3)) (kk : ∀ r1 h1, Sim id E QF h1 (pc + 3) la ((fin1 r1).toList ++ sar) (K r1 h1)) (ht : tg h b % 500 = t) : Sim id E QF h pc la sa (bn f K) :=
  Sim.virt C n sar t Cn (pc + 3) ht hr hC hn hst hsum (fun mp H locs ls mc ms kx nx Pc Qc hM hp hn hsz hstk hsum hf => va_runV ⟨C.1, C.2.1, C.nl, C.ow, C.ws⟩ hM (cwV n C.ws hw rfl rfl rfl hd2 ⟨hfr, hlo⟩) hp rfl hn hsz hstk hsum hd hf) kk
/-- a method named by another class, inherited by the receiver's -/
theorem c_U (C : Cx E cc ret own) (n : Nat) (sar : List Value) (t : Nat) (Cn owner : String) (hr : RO t Cn) (hC : Ct id (eG E) (eRL E) (eL E) y (ws_ y bytes maxL ret1) fr1 lo1 fin1 (vr b :: As) h f) (hw : GoodIn lw_all (va_wsU own idx Cn owner x y (ws_ y bytes maxL ret1))) (hyx : y = ⟨owner, x.name, x.desc⟩) (hd2 : owner ≠ "java/lang/invoke/MethodHandle" ∧ owner ≠ "java/lang/invoke/VarHandle" ∧ (parseMethodDescriptor x.desc).map (fun d => d.parameters.length) = some n)
    (hn : As.length = n) (hfr : fr1 + 1 ≤ (eR E).frames) (hlo : 8 + (maxL + 11) + lo1 ≤ (eR E).locals) (hst : As.reverse ++ vr b :: sar = sa) (hsum : (sar.map fun v => v.category).sum ≤ 8) (hd : decode cc pc = .ok (.invokevirtual idx, 3)) (kk : ∀ r1 h1, Sim id E QF h1 (pc + 3) la ((fin1 r1).toList ++ sar) (K r1 h1)) (ht : tg h b % 500 = t) : Sim id E QF h pc la sa (bn f K) :=
  Sim.virt C n sar t Cn (pc + 3) ht hr hC hn hst hsum (fun mp H locs ls mc ms kx nx Pc Qc hM hp hn hsz hstk hsum hf => va_runU ⟨C.1, C.2.1, C.nl, C.ow, C.ws⟩ hM (va_cwU n C.ws hw rfl rfl rfl hyx hd2 ⟨hfr, hlo⟩) hp rfl hn hsz hstk hsum hd hf) kk
/-- a method that overrides the one named, which has code -/
theorem c_O (C : Cx E cc ret own) (n : Nat) (sar : List Value) (t : Nat) (Cn owner : String) (hr : RO t Cn) (hC : Ct id (eG E) (eRL E) (eL E) y (ws_ y bytes maxL ret1) fr1 lo1 fin1 (vr b :: As) h f) (hw : GoodIn lw_all (va_wsO own idx Cn owner x y (ws_ y bytes maxL ret1))) {b0 : ByteArray} {m0 : Nat} {r0 : Option FieldType} (h0 : Cond.code ⟨owner, x.name, x.desc⟩ b0 m0 r0 ∈ lw_all) (hd2 : owner ≠ "java/lang/invoke/MethodHandle" ∧ owner ≠ "java/lang/invoke/VarHandle" ∧ (parseMethodDescriptor x.desc).map (fun d => d.parameters.length) = some n)
    (hn : As.length = n) (hfr : fr1 + 1 ≤ (eR E).frames) (hlo : 8 + (maxL + 11) + lo1 ≤ (eR E).locals) (hst : As.reverse ++ vr b :: sar = sa) (hsum : (sar.map fun v => v.category).sum ≤ 8) (hd : decode cc pc = .ok (.invokevirtual idx, 3)) (kk : ∀ r1 h1, Sim id E QF h1 (pc + 3) la ((fin1 r1).toList ++ sar) (K r1 h1)) (ht : tg h b % 500 = t) : Sim id E QF h pc la sa (bn f K) :=
  Sim.virt C n sar t Cn (pc + 3) ht hr hC hn hst hsum (fun mp H locs ls mc ms kx nx Pc Qc hM hp hn hsz hstk hsum hf => va_runU ⟨C.1, C.2.1, C.nl, C.ow, C.ws⟩ hM (va_cwO n C.ws hw rfl rfl rfl h0 hd2 ⟨hfr, hlo⟩) hp rfl hn hsz hstk hsum hd hf) kk
/-- a private method, the receiver of a lower class -/
theorem c_P (C : Cx E cc ret own) (n : Nat) (sar : List Value) (t : Nat) (Cn : String) (hr : RO t Cn) (hC : Ct id (eG E) (eRL E) (eL E) y (ws_ y bytes maxL ret1) fr1 lo1 fin1 (vr b :: As) h f) (hw : GoodIn lw_all (ws_ y bytes maxL ret1)) (hi : Cond.initialized y.cls ∈ lw_all) (hm : Cond.methodLink own idx y ∈ lw_all) (him : Cond.instanceMethod y ∈ lw_all) (hx : (Cn, y) ∈ selX) (hd2 : y.cls ≠ "java/lang/invoke/MethodHandle" ∧ y.cls ≠ "java/lang/invoke/VarHandle" ∧ (parseMethodDescriptor y.desc).map (fun d => d.parameters.length) = some n)
    (hn : As.length = n) (hfr : fr1 + 1 ≤ (eR E).frames) (hlo : 8 + (maxL + 11) + lo1 ≤ (eR E).locals) (hst : As.reverse ++ vr b :: sar = sa) (hsum : (sar.map fun v => v.category).sum ≤ 8) (hd : decode cc pc = .ok (.invokevirtual idx, 3)) (kk : ∀ r1 h1, Sim id E QF h1 (pc + 3) la ((fin1 r1).toList ++ sar) (K r1 h1)) (ht : tg h b % 500 = t) : Sim id E QF h pc la sa (bn f K) :=
  Sim.virt C n sar t Cn (pc + 3) ht hr hC hn hst hsum (fun mp H locs ls mc ms kx nx Pc Qc hM hp hn hsz hstk hsum hf => va_runV ⟨C.1, C.2.1, C.nl, C.ow, C.ws⟩ hM ⟨callB_of n C.ws hw rfl rfl rfl (C.ws _ hi) (C.ws _ hm) hd2 ⟨hfr, hlo⟩, C.ws _ him, word_at (State.WarmedH.refl _) (Or.inl rfl) (C.en.2.2.2.2.2.2.2.2.2.2.2.2.2 _ hx)⟩ hp rfl hn hsz hstk hsum hd hf) kk
/-- a nest mate's private method -/
theorem c_VN (C : Cx E cc ret own) (n : Nat) (sar : List Value) (t : Nat) (Cn host : String) (hr : RO t Cn) (hC : Ct id (eG E) (eRL E) (eL E) y (ws_ y bytes maxL ret1) fr1 lo1 fin1 (vr b :: As) h f) (hw : GoodIn lw_all (ws_ y bytes maxL ret1)) (hi : Cond.initialized y.cls ∈ lw_all) (hm : Cond.methodLinkNest own idx y host ∈ lw_tbl) (him : Cond.instanceMethod y ∈ lw_all) (hse : Cond.selects Cn y y ∈ lw_all) (hd2 : y.cls ≠ "java/lang/invoke/MethodHandle" ∧ y.cls ≠ "java/lang/invoke/VarHandle" ∧ (parseMethodDescriptor y.desc).map (fun d => d.parameters.length) = some n)
    (hn : As.length = n) (hfr : fr1 + 1 ≤ (eR E).frames) (hlo : 8 + (maxL + 11) + lo1 ≤ (eR E).locals) (hst : As.reverse ++ vr b :: sar = sa) (hsum : (sar.map fun v => v.category).sum ≤ 8) (hd : decode cc pc = .ok (.invokevirtual idx, 3)) (kk : ∀ r1 h1, Sim id E QF h1 (pc + 3) la ((fin1 r1).toList ++ sar) (K r1 h1)) (ht : tg h b % 500 = t) : Sim id E QF h pc la sa (bn f K) :=
  Sim.virt C n sar t Cn (pc + 3) ht hr hC hn hst hsum (fun mp H locs ls mc ms kx nx Pc Qc hM hp hn hsz hstk hsum hf => va_runVN ⟨C.1, C.2.1, C.nl, C.ow, C.ws⟩ hM ⟨va_cnB n C.ws hw rfl rfl rfl (C.en.2.2.1 _ _ _ _ hm) (C.ws _ hi) hd2 ⟨hfr, hlo⟩, C.ws _ him, C.ws _ hse⟩ hp rfl hn hsz hstk hsum hd hf) kk
/-- an interface's method -/
theorem c_F (C : Cx E cc ret own) {count : Nat} (n : Nat) (sar : List Value) (t : Nat) (Cn : String) (hr : RO t Cn) (hC : Ct id (eG E) (eRL E) (eL E) y (ws_ y bytes maxL ret1) fr1 lo1 fin1 (vr b :: As) h f) (hw : GoodIn lw_all (va_wsF own idx Cn x y (ws_ y bytes maxL ret1))) (hF : Cond.declares x ∈ lw_tbl ∧ Cond.interfaceMethod x.cls x.cls x.name x.desc ∈ lw_tbl ∧ Cond.publicMethod y ∈ lw_tbl ∧ Cond.unhidden Cn x.name x.desc ∈ lw_tbl ∧ Cond.castable Cn x.cls ∈ lw_tbl ∧ (x.cls ≠ "java/lang/invoke/MethodHandle" ∧ x.cls ≠ "java/lang/invoke/VarHandle")) (hnp : (parseMethodDescriptor x.desc).map (fun d => d.parameters.length) = some n)
    (hn : As.length = n) (hfr : fr1 + 1 ≤ (eR E).frames) (hlo : 8 + (maxL + 11) + lo1 ≤ (eR E).locals) (hst : As.reverse ++ vr b :: sar = sa) (hsum : (sar.map fun v => v.category).sum ≤ 8) (hd : decode cc pc = .ok (.invokeinterface idx count, 5)) (kk : ∀ r1 h1, Sim id E QF h1 (pc + 5) la ((fin1 r1).toList ++ sar) (K r1 h1)) (ht : tg h b % 500 = t) : Sim id E QF h pc la sa (bn f K) :=
  Sim.virt C n sar t Cn (pc + 5) ht hr hC hn hst hsum (fun mp H locs ls mc ms kx nx Pc Qc hM hp hn hsz hstk hsum hf => by
    obtain ⟨h0, h2, q, hq, hqn⟩ := hr
    have hat := (C.en.1 _ _ hq).2
    rw [hqn] at hat
    exact va_runF hat ⟨C.1, C.2.1, C.nl, C.ow, C.ws⟩ hM (va_cwF n C.ws hw rfl rfl rfl (C.en.2.2.2.2.1 _ _ _ hF) ⟨hF.2.2.2.2.2.1, hF.2.2.2.2.2.2, hnp⟩ ⟨hfr, hlo⟩) hp rfl hn hsz hstk hsum hd hf) kk
/-- super.m() -/
theorem c_SU (C : Cx E cc ret own) (n : Nat) (sar : List Value) (t : Nat) (Cn : String) (hr : RO t Cn) (hC : Ct id (eG E) (eRL E) (eL E) y (ws_ y bytes maxL ret1) fr1 lo1 fin1 (vr b :: As) h f) (hw : GoodIn lw_all (va_wsSU own idx y (ws_ y bytes maxL ret1))) (hd2 : y.name ≠ "<init>" ∧ (parseMethodDescriptor y.desc).map (fun d => d.parameters.length) = some n)
    (hn : As.length = n) (hfr : fr1 + 1 ≤ (eR E).frames) (hlo : 8 + (maxL + 11) + lo1 ≤ (eR E).locals) (hst : As.reverse ++ vr b :: sar = sa) (hsum : (sar.map fun v => v.category).sum ≤ 8) (hd : decode cc pc = .ok (.invokespecial idx, 3)) (hown : Cn = own) (kk : ∀ r1 h1, Sim id E QF h1 (pc + 3) la ((fin1 r1).toList ++ sar) (K r1 h1)) (ht : tg h b % 500 = t) : Sim id E QF h pc la sa (bn f K) :=
  Sim.virt C n sar t Cn (pc + 3) ht hr hC hn hst hsum (fun mp H locs ls mc ms kx nx Pc Qc hM hp hn hsz hstk hsum hf => by
    obtain ⟨h0, h2, q, hq, hqn⟩ := hr
    have hat := (C.en.1 _ _ hq).2
    rw [hqn] at hat
    exact va_runSU (C := Cn) hat ⟨C.1, C.2.1, C.nl, C.ow, C.ws⟩ hM (va_cwSU n C.ws hw rfl rfl rfl hd2 ⟨hfr, hlo⟩) hp rfl hn hsz hstk hsum hd hf) kk
theorem c_S (C : Cx E cc ret own) (n : Nat) (sar : List Value) (hC : Ct id (eG E) (eRL E) (eL E) y (ws_ y bytes maxL ret1) fr1 lo1 fin1 As h f) (hw : GoodIn lw_all (va_wsS own idx y (ws_ y bytes maxL ret1))) (hd2 : y.cls ≠ "java/lang/invoke/MethodHandle" ∧ y.cls ≠ "java/lang/invoke/VarHandle" ∧ (parseMethodDescriptor y.desc).map (fun d => d.parameters.length) = some n)
    (hn : As.length = n) (hfr : fr1 + 1 ≤ (eR E).frames) (hlo : 8 + (maxL + 11) + lo1 ≤ (eR E).locals) (hst : As.reverse ++ sar = sa) (hsum : (sar.map fun v => v.category).sum ≤ 8) (hd : decode cc pc = .ok (.invokestatic idx, 3)) (kk : ∀ r1 h1, Sim id E QF h1 (pc + 3) la ((fin1 r1).toList ++ sar) (K r1 h1)) : Sim id E QF h pc la sa (bn f K) :=
  s_callS (V := id) (cont := fun p => K p.1 p.2) C n sar hC hw hd2 hn ⟨hfr, hlo⟩ hst hsum hd kk
/-- a nest mate's private static method -/
theorem c_SN (C : Cx E cc ret own) (n : Nat) (sar : List Value) (host : String) (hC : Ct id (eG E) (eRL E) (eL E) y (ws_ y bytes maxL ret1) fr1 lo1 fin1 As h f) (hw : GoodIn lw_all (ws_ y bytes maxL ret1)) (hi : Cond.initialized y.cls ∈ lw_all) (hm : Cond.methodLinkNest own idx y host ∈ lw_tbl) (hs : Cond.static y ∈ lw_all) (hd2 : y.cls ≠ "java/lang/invoke/MethodHandle" ∧ y.cls ≠ "java/lang/invoke/VarHandle" ∧ (parseMethodDescriptor y.desc).map (fun d => d.parameters.length) = some n)
    (hn : As.length = n) (hfr : fr1 + 1 ≤ (eR E).frames) (hlo : 8 + (maxL + 11) + lo1 ≤ (eR E).locals) (hst : As.reverse ++ sar = sa) (hsum : (sar.map fun v => v.category).sum ≤ 8) (hd : decode cc pc = .ok (.invokestatic idx, 3)) (kk : ∀ r1 h1, Sim id E QF h1 (pc + 3) la ((fin1 r1).toList ++ sar) (K r1 h1)) : Sim id E QF h pc la sa (bn f K) := by
  subst hst
  refine Sim.callK (V := id) (cont := fun p => K p.1 p.2) C fin1 (pc + 3) sar (fun _ hs v hv => hs v (List.mem_append_right _ hv)) (fun r1 h1 hf mp H locs ls ok hr1 hr2 => ?_) kk
  replace ok : Ok E h mp H locs ls la _ := ok
  have hav : ∀ v ∈ As, vOk h.1 v := fun v hv => ok.2.2.2.2.2.2 _ (List.mem_append_left _ (List.mem_reverse.mpr hv))
  refine ⟨_, _, _, va_runSN (As := As.map (rv mp)) (rest := sar.map (rv mp)) (mc := LIM + gB (eG E) - H.size) (ms := LIM + gT (eG E) - totS H) ⟨C.1, C.2.1, C.nl, C.ow, C.ws⟩ (hC r1 h1 hf mp H.size (totS H)) ⟨va_cnB n C.ws hw rfl rfl rfl (C.en.2.2.1 _ _ _ _ hm) (C.ws _ hi) hd2 ⟨hfr, hlo⟩, C.ws _ hs, trivial⟩ ⟨PQ.blind C.lv, PQ.pays C ok hav⟩ rfl (by simp [hn]) ok.2.2.2.2.1.1 ?_ ?_ hd ⟨hr1, hr2⟩⟩
  · simp
  · rw [rv_sum]
    have := cat_le sar
    show 2 * 0 + _ ≤ 8
    omega
theorem c_I (C : Cx E cc ret own) (n : Nat) (sar : List Value) (hb : b ≠ 0) (hC : Ct id (eG E) (eRL E) (eL E) y (ws_ y bytes maxL none) fr1 lo1 fin1 (vr b :: As) h f) (hw : GoodIn lw_all (ws_ y bytes maxL none)) (hi : Cond.initialized y.cls ∈ lw_all) (hm : Cond.methodLink own idx y ∈ lw_all) (him : Cond.instanceMethod y ∈ lw_all) (hnm : y.name = "<init>") (hd2 : y.cls ≠ "java/lang/invoke/MethodHandle" ∧ y.cls ≠ "java/lang/invoke/VarHandle" ∧ (parseMethodDescriptor y.desc).map (fun d => d.parameters.length) = some n)
    (hn : As.length = n) (hfr : fr1 + 1 ≤ (eR E).frames) (hlo : 8 + (maxL + 11) + lo1 ≤ (eR E).locals) (hst : As.reverse ++ vr b :: sar = sa) (hsum : (sar.map fun v => v.category).sum ≤ 8) (hd : decode cc pc = .ok (.invokespecial idx, 3)) (kk : ∀ r1 h1, Sim id E QF h1 (pc + 3) la ((fin1 r1).toList ++ sar) (K r1 h1)) : Sim id E QF h pc la sa (bn f K) :=
  s_callI (V := id) (cont := fun p => K p.1 p.2) C n sar hb hC hw hi hm him hnm hd2 hn ⟨hfr, hlo⟩ hst hsum hd kk
/-- a nest mate's private constructor -/
theorem c_IN (C : Cx E cc ret own) (n : Nat) (sar : List Value) (host : String) (hb : b ≠ 0) (hC : Ct id (eG E) (eRL E) (eL E) y (ws_ y bytes maxL none) fr1 lo1 fin1 (vr b :: As) h f) (hw : GoodIn lw_all (ws_ y bytes maxL none)) (hi : Cond.initialized y.cls ∈ lw_all) (hm : Cond.methodLinkNest own idx y host ∈ lw_tbl) (him : Cond.instanceMethod y ∈ lw_all) (hnm : y.name = "<init>") (hd2 : y.cls ≠ "java/lang/invoke/MethodHandle" ∧ y.cls ≠ "java/lang/invoke/VarHandle" ∧ (parseMethodDescriptor y.desc).map (fun d => d.parameters.length) = some n)
    (hn : As.length = n) (hfr : fr1 + 1 ≤ (eR E).frames) (hlo : 8 + (maxL + 11) + lo1 ≤ (eR E).locals) (hst : As.reverse ++ vr b :: sar = sa) (hsum : (sar.map fun v => v.category).sum ≤ 8) (hd : decode cc pc = .ok (.invokespecial idx, 3)) (kk : ∀ r1 h1, Sim id E QF h1 (pc + 3) la ((fin1 r1).toList ++ sar) (K r1 h1)) : Sim id E QF h pc la sa (bn f K) := by
  subst hst
  refine Sim.callK (V := id) (cont := fun p => K p.1 p.2) C fin1 (pc + 3) sar (fun _ hs v hv => hs v (List.mem_append_right _ (List.mem_cons_of_mem _ hv))) (fun r1 h1 hf mp H locs ls ok hr1 hr2 => ?_) kk
  replace ok : Ok E h mp H locs ls la _ := ok
  have hav : ∀ v ∈ vr b :: As, vOk h.1 v := fun v hv => by
    rcases List.mem_cons.mp hv with e | g
    · rw [e]; exact ok.2.2.2.2.2.2 _ (List.mem_append_right _ List.mem_cons_self)
    · exact ok.2.2.2.2.2.2 _ (List.mem_append_left _ (List.mem_reverse.mpr g))
  have hpay := PQ.pays C ok hav
  simp only [List.map_cons, rv_vr, rfv_p mp hb] at hpay
  refine ⟨_, _, _, va_runIN (As := As.map (rv mp)) (rest := sar.map (rv mp)) (b := mp b) (mc := LIM + gB (eG E) - H.size) (ms := LIM + gT (eG E) - totS H) ⟨C.1, C.2.1, C.nl, C.ow, C.ws⟩ (hC r1 h1 hf mp H.size (totS H)) ⟨va_cnB n C.ws hw rfl rfl rfl (C.en.2.2.1 _ _ _ _ hm) (C.ws _ hi) hd2 ⟨hfr, hlo⟩, hnm, C.ws _ him⟩ ⟨PQ.blind C.lv, hpay⟩ rfl (by simp [hn]) ok.2.2.2.2.1.1 ?_ ?_ hd ⟨hr1, hr2⟩⟩
  · simp [rv_vr, rfv_p mp hb]
  · rw [rv_sum]
    have := cat_le sar
    show 2 * 0 + _ ≤ 8
    omega
end Calls2
