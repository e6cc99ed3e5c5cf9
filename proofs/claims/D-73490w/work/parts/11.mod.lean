/-! THE MODEL's OBJECT: its fields and arrays as one value (ints by place, the word, the arrays of ints and of longs by the place of their field); it lies in a heap at mo, its arrays behind it -/
set_option maxRecDepth 100000
abbrev Ms : Type := (Nat → Int32) × Int64 × (Nat → Nat → Int32) × (Nat → Nat → Int64)
/-- the kinds of the arrays, by the place of their field (9: no array) -/
def kdM (k : Nat) : Nat := match k with
  | 1 => 1 | 6 => 0 | 7 => 0 | 8 => 0 | 9 => 0 | 10 => 3 | 11 => 3 | 21 => 0 | 22 => 0 | 23 => 0 | 24 => 0 | 25 => 0 | 35 => 0 | 36 => 0 | 37 => 0 | 42 => 1 | 46 => 0 | 48 => 0 | 54 => 2 | 55 => 0 | 56 => 3 | 57 => 2
  | _ => 9
def lnM (k : Nat) : Nat := match k with
  | 1 => 940 | 6 => 360 | 7 => 72 | 8 => 135 | 9 => 164 | 10 => 56 | 11 => 21 | 21 => 20 | 22 => 20 | 23 => 400 | 24 => 20 | 25 => 20 | 35 => 1776 | 36 => 222 | 37 => 222 | 42 => 30 | 46 => 4 | 48 => 45 | 54 => 45 | 55 => 720 | 56 => 56 | 57 => 2
  | _ => 0
def qkM : List Nat := [1, 6, 7, 8, 9, 10, 11, 21, 22, 23, 24, 25, 35, 36, 37, 42, 46, 48, 54, 55, 56, 57]
def qpM (k : Nat) : Nat := match k with
  | 1 => 0 | 6 => 1 | 7 => 2 | 8 => 3 | 9 => 4 | 10 => 5 | 11 => 6 | 21 => 7 | 22 => 8 | 23 => 9 | 24 => 10 | 25 => 11 | 35 => 12 | 36 => 13 | 37 => 14 | 42 => 15 | 46 => 16 | 48 => 17 | 54 => 18 | 55 => 19 | 56 => 20 | 57 => 21
  | _ => 22
/-- the number of the array of field k -/
def aid (mo k : Nat) : Nat := mo + 1 + qpM k
def celM (mo : Nat) (M : Ms) : PC := (6, 0, M.1, fun k => if kdM k < 9 then aid mo k else 0, fun k => if k = 18 then M.2.1 else 0)
def arrM (M : Ms) (k : Nat) : PC := (200 + kdM k, lnM k, M.2.2.1 k, fun _ => 0, M.2.2.2 k)
/-- the heap h0 with the model's state M at mo -/
def plug (h0 : Hp) (mo : Nat) (M : Ms) : Hp := (h0.1, h0.2.1, fun x => if x = mo then celM mo M else if mo < x ∧ x < mo + 23 then arrM M (qkM.getD (x - mo - 1) 0) else h0.2.2 x)
def mI (k : Nat) (v : Int32) (M : Ms) : Ms := (fun j => if j = k then v else M.1 j, M.2.1, M.2.2.1, M.2.2.2)
def mW (v : Int64) (M : Ms) : Ms := (M.1, v, M.2.2.1, M.2.2.2)
def mA (k i : Nat) (v : Int32) (M : Ms) : Ms := (M.1, M.2.1, fun k' => if k' = k then fun j => if j = i then v else M.2.2.1 k' j else M.2.2.1 k', M.2.2.2)
def mB (k i : Nat) (v : Int64) (M : Ms) : Ms := (M.1, M.2.1, M.2.2.1, fun k' => if k' = k then fun j => if j = i then v else M.2.2.2 k' j else M.2.2.2 k')
def pZ (k : Nat) (v : Int32) (M : Ms) : Option Ms := if nrw 2 v = v then some (mI k v M) else none
def aI (kd k : Nat) (j : Int32) (M : Ms) : Option Int32 := if kdM k = kd ∧ ¬ j < 0 ∧ j.toNatClampNeg < lnM k then some (M.2.2.1 k j.toNatClampNeg) else none
def aL (k : Nat) (j : Int32) (M : Ms) : Option Int64 := if kdM k = 3 ∧ ¬ j < 0 ∧ j.toNatClampNeg < lnM k then some (M.2.2.2 k j.toNatClampNeg) else none
def sI (kd k : Nat) (j v : Int32) (M : Ms) : Option Ms := if kdM k = kd ∧ ¬ j < 0 ∧ j.toNatClampNeg < lnM k then some (mA k j.toNatClampNeg (nrw kd v) M) else none
def sL (k : Nat) (j : Int32) (v : Int64) (M : Ms) : Option Ms := if kdM k = 3 ∧ ¬ j < 0 ∧ j.toNatClampNeg < lnM k then some (mB k j.toNatClampNeg v M) else none
theorem qp_lt {k : Nat} (h : kdM k < 9) : qpM k < 22 ∧ qkM.getD (qpM k) 0 = k := by
  unfold kdM at h
  split at h <;> first | exact ⟨by decide, rfl⟩ | omega
theorem plug_at (h0 : Hp) (mo : Nat) (M : Ms) : (plug h0 mo M).2.2 mo = celM mo M := if_pos rfl
theorem plug_arr (h0 : Hp) (mo : Nat) (M : Ms) {k : Nat} (h : kdM k < 9) : (plug h0 mo M).2.2 (aid mo k) = arrM M k := by
  obtain ⟨h1, h2⟩ := qp_lt h
  unfold plug aid
  have e1 : ¬ mo + 1 + qpM k = mo := by omega
  have e2 : mo < mo + 1 + qpM k ∧ mo + 1 + qpM k < mo + 23 := by omega
  have e3 : mo + 1 + qpM k - mo - 1 = qpM k := by omega
  simp only [if_neg e1, if_pos e2, e3, h2]
theorem qk_inj {x k : Nat} (hx : x < 22) (h : qkM.getD x 0 = k) : x = qpM k := by
  subst h
  have : ∀ x, x < 22 → x = qpM (qkM.getD x 0) := by decide
  exact this x hx
theorem plug_mI (h0 : Hp) (mo : Nat) (M : Ms) (k : Nat) (v : Int32) : hset (plug h0 mo M) mo (upI (celM mo M) k v) = plug h0 mo (mI k v M) := by
  unfold hset plug
  refine congrArg (fun z => (h0.1, h0.2.1, z)) (funext fun x => ?_)
  by_cases hx : x = mo
  · simp only [if_pos hx]; rfl
  · simp only [if_neg hx]
    split <;> rfl
theorem plug_mW (h0 : Hp) (mo : Nat) (M : Ms) (v : Int64) : hset (plug h0 mo M) mo (upL (celM mo M) 18 v) = plug h0 mo (mW v M) := by
  unfold hset plug
  refine congrArg (fun z => (h0.1, h0.2.1, z)) (funext fun x => ?_)
  by_cases hx : x = mo
  · simp only [if_pos hx]
    unfold upL celM mW
    refine congrArg (fun z => (6, 0, M.1, _, z)) (funext fun j => ?_)
    by_cases hj : j = 18
    · simp [hj]
    · simp [hj]
  · simp only [if_neg hx]
    split <;> rfl
theorem plug_mA (h0 : Hp) (mo : Nat) (M : Ms) {k : Nat} (i : Nat) (v : Int32) (h : kdM k < 9) : hset (plug h0 mo M) (aid mo k) (upI (arrM M k) i v) = plug h0 mo (mA k i v M) := by
  obtain ⟨h1, h2⟩ := qp_lt h
  unfold hset plug
  refine congrArg (fun z => (h0.1, h0.2.1, z)) (funext fun x => ?_)
  by_cases hx : x = aid mo k
  · have e1 : ¬ x = mo := by unfold aid at hx; omega
    have e2 : mo < x ∧ x < mo + 23 := by unfold aid at hx; omega
    have e3 : x - mo - 1 = qpM k := by unfold aid at hx; omega
    simp only [if_pos hx, if_neg e1, if_pos e2, e3, h2]
    simp only [upI, arrM, mA, if_true]
  · simp only [if_neg hx]
    by_cases e1 : x = mo
    · simp only [if_pos e1]; rfl
    · simp only [if_neg e1]
      by_cases e2 : mo < x ∧ x < mo + 23
      · simp only [if_pos e2]
        have e4 : ¬ qkM.getD (x - mo - 1) 0 = k := fun e => hx (by have := qk_inj (by omega) e; unfold aid; omega)
        simp only [arrM, mA, if_neg e4]
      · simp only [if_neg e2]
theorem plug_mB (h0 : Hp) (mo : Nat) (M : Ms) {k : Nat} (i : Nat) (v : Int64) (h : kdM k < 9) : hset (plug h0 mo M) (aid mo k) (upL (arrM M k) i v) = plug h0 mo (mB k i v M) := by
  obtain ⟨h1, h2⟩ := qp_lt h
  unfold hset plug
  refine congrArg (fun z => (h0.1, h0.2.1, z)) (funext fun x => ?_)
  by_cases hx : x = aid mo k
  · have e1 : ¬ x = mo := by unfold aid at hx; omega
    have e2 : mo < x ∧ x < mo + 23 := by unfold aid at hx; omega
    have e3 : x - mo - 1 = qpM k := by unfold aid at hx; omega
    simp only [if_pos hx, if_neg e1, if_pos e2, e3, h2]
    simp only [upL, arrM, mB, if_true]
  · simp only [if_neg hx]
    by_cases e1 : x = mo
    · simp only [if_pos e1]; rfl
    · simp only [if_neg e1]
      by_cases e2 : mo < x ∧ x < mo + 23
      · simp only [if_pos e2]
        have e4 : ¬ qkM.getD (x - mo - 1) 0 = k := fun e => hx (by have := qk_inj (by omega) e; unfold aid; omega)
        simp only [arrM, mB, if_neg e4]
      · simp only [if_neg e2]
theorem tg_mo (h0 : Hp) (mo : Nat) (M : Ms) : tg (plug h0 mo M) mo = 6 := by rw [tg, plug_at]; rfl
section MRows
variable {β : Type} {h0 : Hp} {mo : Nat} {E : Ex} {QF : β → Ms → State → Prop} {M : Ms} {pc : Nat} {la : List (Nat × Value)} {sa : List Value} {cc : ByteArray} {ret : Option FieldType} {own : String} {x : Option (β × Ms)}
/-- a row of the heap's, taken over -/
theorem Sim.down {M1 : Ms} {pc1 : Nat} {sa1 : List Value} (kk : Sim (plug h0 mo) E QF M1 pc1 la sa1 x)
    (hr : ∀ Q : State → Prop, Sim id E (fun (_ : Unit) (_ : Hp) => Q) (plug h0 mo M1) pc1 la sa1 (some ((), plug h0 mo M1)) → ∃ z, Sim id E (fun (_ : Unit) (_ : Hp) => Q) (plug h0 mo M) pc la sa (some ((), z))) : Sim (plug h0 mo) E QF M pc la sa x := by
  intro r h9 hx
  have k1 := kk r h9 hx
  obtain ⟨z, hz⟩ := hr (QF r h9) (fun _ _ _ => k1)
  exact hz () z rfl
/-- what the level must know of the model's object -/
def MP (Pl : Nat → Bool) (mo : Nat) : Prop := mo ≠ 0 ∧ Pl 6 = true ∧ Pl 200 = true ∧ Pl 201 = true ∧ Pl 202 = true ∧ Pl 203 = true
abbrev MOk (E : Ex) (mo : Nat) : Prop := MP (ePl E) mo
theorem mok_arr {E : Ex} {mo k : Nat} (h : MOk E mo) (hk : kdM k < 9) : ePl E (200 + kdM k) = true := by
  have : kdM k = 0 ∨ kdM k = 1 ∨ kdM k = 2 ∨ kdM k = 3 := by
    unfold kdM at hk ⊢
    split at hk <;> simp_all
  rcases this with e | e | e | e <;> rw [e]
  · exact h.2.2.1
  · exact h.2.2.2.1
  · exact h.2.2.2.2.1
  · exact h.2.2.2.2.2
theorem sm_getI (k : Nat) {idx : Nat} (C : Cx E cc ret own) (hM : MOk E mo) (hF : FO own idx 6 k) (hk : (ftN 6)[k]? = some 0) (hd : decode cc pc = .ok (.getfield idx, 3)) (kk : Sim (plug h0 mo) E QF M (pc + 3) la (.int (M.1 k) :: sa) x) : Sim (plug h0 mo) E QF M pc la (vr mo :: sa) x :=
  kk.down fun Q hq => ⟨plug h0 mo M, by
    classical
    have h1 := s_getI (QF := fun (_ : Unit) (_ : Hp) => Q) (h := plug h0 mo M) (i := mo) [6] (cont := fun v => if v = M.1 k then some ((), plug h0 mo M) else none) C (fl1 ⟨hF, hk⟩) (by simp [hM.2.1]) hd (fun v => by
      by_cases hv : v = M.1 k
      · rw [if_pos hv, hv]; exact hq
      · rw [if_neg hv]; exact sim_none)
    simpa [getI, tg_mo, plug_at, celM] using h1⟩
theorem sm_getL {idx : Nat} (C : Cx E cc ret own) (hM : MOk E mo) (hF : FO own idx 6 18) (hk : (ftN 6)[18]? = some 2) (hd : decode cc pc = .ok (.getfield idx, 3)) (kk : Sim (plug h0 mo) E QF M (pc + 3) la (.long M.2.1 :: sa) x) : Sim (plug h0 mo) E QF M pc la (vr mo :: sa) x :=
  kk.down fun Q hq => ⟨plug h0 mo M, by
    classical
    have h1 := s_getL (QF := fun (_ : Unit) (_ : Hp) => Q) (h := plug h0 mo M) (i := mo) [6] (cont := fun v => if v = M.2.1 then some ((), plug h0 mo M) else none) C (fl1 ⟨hF, hk⟩) (by simp [hM.2.1]) hd (fun v => by
      by_cases hv : v = M.2.1
      · rw [if_pos hv, hv]; exact hq
      · rw [if_neg hv]; exact sim_none)
    simpa [getL, tg_mo, plug_at, celM] using h1⟩
theorem sm_getA (k : Nat) {idx : Nat} (C : Cx E cc ret own) (hM : MOk E mo) (hF : FO own idx 6 k) (hk : (ftN 6)[k]? = some 1) (hkd : kdM k < 9) (hd : decode cc pc = .ok (.getfield idx, 3)) (kk : Sim (plug h0 mo) E QF M (pc + 3) la (vr (aid mo k) :: sa) x) : Sim (plug h0 mo) E QF M pc la (vr mo :: sa) x :=
  kk.down fun Q hq => ⟨plug h0 mo M, by
    classical
    have h1 := s_getR (QF := fun (_ : Unit) (_ : Hp) => Q) (h := plug h0 mo M) (i := mo) [6] (cont := fun v => if v = aid mo k then some ((), plug h0 mo M) else none) C (fl1 ⟨hF, hk⟩) (by simp [hM.2.1]) hd (fun v => by
      by_cases hv : v = aid mo k
      · rw [if_pos hv, hv]; exact hq
      · rw [if_neg hv]; exact sim_none)
    simpa [getR, tg_mo, plug_at, celM, hkd] using h1⟩
theorem sm_putI (k tk : Nat) {idx : Nat} {v : Int32} (C : Cx E cc ret own) (hM : MOk E mo) (hF : FO own idx 6 k) (hk : (ftN 6)[k]? = some 0) (htk : tk < 5 ∧ tk ≠ 3 ∧ tyF 6 k = tyA tk) (hfin : FI 6 k = false) (hn : nrw tk v = v) (hd : decode cc pc = .ok (.putfield idx, 3)) (kk : Sim (plug h0 mo) E QF (mI k v M) (pc + 3) la sa x) : Sim (plug h0 mo) E QF M pc la (.int v :: vr mo :: sa) x :=
  kk.down fun Q hq => ⟨plug h0 mo (mI k v M), by
    classical
    have h1 := s_putI (QF := fun (_ : Unit) (_ : Hp) => Q) (h := plug h0 mo M) (sa := sa) (i := mo) (v := v) [6] tk (cont := fun h1 => if h1 = plug h0 mo (mI k v M) then some ((), plug h0 mo (mI k v M)) else none) C htk.1 htk.2.1 (fl1 ⟨⟨by decide, hF, hk⟩, htk.2.2⟩) (by simp [hM.2.1]) (fl1 (Or.inl hfin)) hd (fun h1 => by
      by_cases hv : h1 = plug h0 mo (mI k v M)
      · rw [if_pos hv, hv]; exact hq
      · rw [if_neg hv]; exact sim_none)
    simpa [putI, plug_at, hn, tg_mo, plug_mI] using h1⟩
theorem sm_putZ (k : Nat) {idx : Nat} {v : Int32} {cont : Ms → Option (β × Ms)} (C : Cx E cc ret own) (hM : MOk E mo) (hF : FO own idx 6 k) (hk : (ftN 6)[k]? = some 0) (hty : tyF 6 k = tyA 2) (hfin : FI 6 k = false) (hd : decode cc pc = .ok (.putfield idx, 3)) (kk : ∀ M1, Sim (plug h0 mo) E QF M1 (pc + 3) la sa (cont M1)) : Sim (plug h0 mo) E QF M pc la (.int v :: vr mo :: sa) ((pZ k v M).bind cont) := by
  unfold pZ
  by_cases hn : nrw 2 v = v
  · rw [if_pos hn]; exact sm_putI k 2 C hM hF hk ⟨by decide, by decide, hty⟩ hfin hn hd (kk _)
  · rw [if_neg hn]; exact sim_none
theorem sm_putL {idx : Nat} {v : Int64} (C : Cx E cc ret own) (hM : MOk E mo) (hF : FO own idx 6 18) (hk : (ftN 6)[18]? = some 2) (hty : tyF 6 18 = .long) (hfin : FI 6 18 = false) (hd : decode cc pc = .ok (.putfield idx, 3)) (kk : Sim (plug h0 mo) E QF (mW v M) (pc + 3) la sa x) : Sim (plug h0 mo) E QF M pc la (.long v :: vr mo :: sa) x :=
  kk.down fun Q hq => ⟨plug h0 mo (mW v M), by
    classical
    have h1 := s_putL (QF := fun (_ : Unit) (_ : Hp) => Q) (h := plug h0 mo M) (sa := sa) (i := mo) (v := v) [6] (cont := fun h1 => if h1 = plug h0 mo (mW v M) then some ((), plug h0 mo (mW v M)) else none) C (fl1 ⟨⟨by decide, hF, hk⟩, hty⟩) (by simp [hM.2.1]) (fl1 (Or.inl hfin)) hd (fun h1 => by
      by_cases hv : h1 = plug h0 mo (mW v M)
      · rw [if_pos hv, hv]; exact hq
      · rw [if_neg hv]; exact sim_none)
    simpa [putL, plug_at, tg_mo, plug_mW] using h1⟩
theorem tg_arr (k : Nat) (hk : kdM k < 9) : tg (plug h0 mo M) (aid mo k) = 200 + kdM k := by rw [tg, plug_arr _ _ _ hk]; rfl
theorem Sim.downB {α : Type} {F : Option α} {pc1 : Nat} {sa1 : α → List Value} {cont : α → Option (β × Ms)} (kk : ∀ v, Sim (plug h0 mo) E QF M pc1 la (sa1 v) (cont v))
    (hr : ∀ v, F = some v → ∀ Q : State → Prop, Sim id E (fun (_ : Unit) (_ : Hp) => Q) (plug h0 mo M) pc1 la (sa1 v) (some ((), plug h0 mo M)) → ∃ z, Sim id E (fun (_ : Unit) (_ : Hp) => Q) (plug h0 mo M) pc la sa (some ((), z))) : Sim (plug h0 mo) E QF M pc la sa (F.bind cont) := by
  intro r h9 hx
  obtain ⟨v, hv, hx⟩ := Option.bind_eq_some_iff.mp hx
  have k1 := kk v r h9 hx
  obtain ⟨z, hz⟩ := hr v hv (QF r h9) (fun _ _ _ => k1)
  exact hz () z rfl
theorem sm_iald {k : Nat} {j : Int32} {cont : Int32 → Option (β × Ms)} (C : Cx E cc ret own) (hM : MOk E mo) (hd : decode cc pc = .ok (.iaload, 1)) (kk : ∀ v, Sim (plug h0 mo) E QF M (pc + 1) la (.int v :: sa) (cont v)) : Sim (plug h0 mo) E QF M pc la (.int j :: vr (aid mo k) :: sa) ((aI 0 k j M).bind cont) :=
  Sim.downB kk fun v hv Q hq => ⟨plug h0 mo M, by
    classical
    unfold aI at hv
    split at hv
    · rename_i hm
      obtain ⟨hk, hin⟩ := hm
      cases hv
      have hk9 : kdM k < 9 := by omega
      have h1 := s_iald (QF := fun (_ : Unit) (_ : Hp) => Q) (h := plug h0 mo M) (i := aid mo k) (j := j) [200] (cont := fun v => if v = M.2.2.1 k j.toNatClampNeg then some ((), plug h0 mo M) else none) C (fl1 rfl) (by simp [hM.2.2.1]) hd (fun v => by
        by_cases hv : v = M.2.2.1 k j.toNatClampNeg
        · rw [if_pos hv, hv]; exact hq
        · rw [if_neg hv]; exact sim_none)
      simpa [aldI, tg_arr k hk9, hk, plug_arr h0 mo M hk9, arrM, hin] using h1
    · cases hv⟩
theorem sm_bald {k : Nat} {j : Int32} {cont : Int32 → Option (β × Ms)} (C : Cx E cc ret own) (hM : MOk E mo) (hd : decode cc pc = .ok (.baload, 1)) (kk : ∀ v, Sim (plug h0 mo) E QF M (pc + 1) la (.int v :: sa) (cont v)) : Sim (plug h0 mo) E QF M pc la (.int j :: vr (aid mo k) :: sa) ((aI 1 k j M).bind cont) :=
  Sim.downB kk fun v hv Q hq => ⟨plug h0 mo M, by
    classical
    unfold aI at hv
    split at hv
    · rename_i hm
      obtain ⟨hk, hin⟩ := hm
      cases hv
      have hk9 : kdM k < 9 := by omega
      have h1 := s_bald (QF := fun (_ : Unit) (_ : Hp) => Q) (h := plug h0 mo M) (i := aid mo k) (j := j) [201] (cont := fun v => if v = M.2.2.1 k j.toNatClampNeg then some ((), plug h0 mo M) else none) C (fl1 rfl) (by simp [hM.2.2.2.1]) hd (fun v => by
        by_cases hv : v = M.2.2.1 k j.toNatClampNeg
        · rw [if_pos hv, hv]; exact hq
        · rw [if_neg hv]; exact sim_none)
      simpa [aldI, tg_arr k hk9, hk, plug_arr h0 mo M hk9, arrM, hin] using h1
    · cases hv⟩
theorem sm_zald {k : Nat} {j : Int32} {cont : Int32 → Option (β × Ms)} (C : Cx E cc ret own) (hM : MOk E mo) (hd : decode cc pc = .ok (.baload, 1)) (kk : ∀ v, Sim (plug h0 mo) E QF M (pc + 1) la (.int v :: sa) (cont v)) : Sim (plug h0 mo) E QF M pc la (.int j :: vr (aid mo k) :: sa) ((aI 2 k j M).bind cont) :=
  Sim.downB kk fun v hv Q hq => ⟨plug h0 mo M, by
    classical
    unfold aI at hv
    split at hv
    · rename_i hm
      obtain ⟨hk, hin⟩ := hm
      cases hv
      have hk9 : kdM k < 9 := by omega
      have h1 := s_zald (QF := fun (_ : Unit) (_ : Hp) => Q) (h := plug h0 mo M) (i := aid mo k) (j := j) [202] (cont := fun v => if v = M.2.2.1 k j.toNatClampNeg then some ((), plug h0 mo M) else none) C (fl1 rfl) (by simp [hM.2.2.2.2.1]) hd (fun v => by
        by_cases hv : v = M.2.2.1 k j.toNatClampNeg
        · rw [if_pos hv, hv]; exact hq
        · rw [if_neg hv]; exact sim_none)
      simpa [aldI, tg_arr k hk9, hk, plug_arr h0 mo M hk9, arrM, hin] using h1
    · cases hv⟩
theorem sm_lald {k : Nat} {j : Int32} {cont : Int64 → Option (β × Ms)} (C : Cx E cc ret own) (hM : MOk E mo) (hd : decode cc pc = .ok (.laload, 1)) (kk : ∀ v, Sim (plug h0 mo) E QF M (pc + 1) la (.long v :: sa) (cont v)) : Sim (plug h0 mo) E QF M pc la (.int j :: vr (aid mo k) :: sa) ((aL k j M).bind cont) :=
  Sim.downB kk fun v hv Q hq => ⟨plug h0 mo M, by
    classical
    unfold aL at hv
    split at hv
    · rename_i hm
      obtain ⟨hk, hin⟩ := hm
      cases hv
      have hk9 : kdM k < 9 := by omega
      have h1 := s_lald (QF := fun (_ : Unit) (_ : Hp) => Q) (h := plug h0 mo M) (i := aid mo k) (j := j) [203] (cont := fun v => if v = M.2.2.2 k j.toNatClampNeg then some ((), plug h0 mo M) else none) C (fl1 rfl) (by simp [hM.2.2.2.2.2]) hd (fun v => by
        by_cases hv : v = M.2.2.2 k j.toNatClampNeg
        · rw [if_pos hv, hv]; exact hq
        · rw [if_neg hv]; exact sim_none)
      simpa [aldL, tg_arr k hk9, hk, plug_arr h0 mo M hk9, arrM, hin] using h1
    · cases hv⟩
theorem Sim.downS {F : Option Ms} {pc1 : Nat} {sa1 : List Value} {cont : Ms → Option (β × Ms)} (kk : ∀ M1, Sim (plug h0 mo) E QF M1 pc1 la sa1 (cont M1))
    (hr : ∀ M1, F = some M1 → ∀ Q : State → Prop, Sim id E (fun (_ : Unit) (_ : Hp) => Q) (plug h0 mo M1) pc1 la sa1 (some ((), plug h0 mo M1)) → ∃ z, Sim id E (fun (_ : Unit) (_ : Hp) => Q) (plug h0 mo M) pc la sa (some ((), z))) : Sim (plug h0 mo) E QF M pc la sa (F.bind cont) := by
  intro r h9 hx
  obtain ⟨v, hv, hx⟩ := Option.bind_eq_some_iff.mp hx
  have k1 := kk v r h9 hx
  obtain ⟨z, hz⟩ := hr v hv (QF r h9) (fun _ _ _ => k1)
  exact hz () z rfl
theorem sm_iast {k : Nat} {j v : Int32} {cont : Ms → Option (β × Ms)} (C : Cx E cc ret own) (hM : MOk E mo) (hd : decode cc pc = .ok (.iastore, 1)) (kk : ∀ M1, Sim (plug h0 mo) E QF M1 (pc + 1) la sa (cont M1)) : Sim (plug h0 mo) E QF M pc la (.int v :: .int j :: vr (aid mo k) :: sa) ((sI 0 k j v M).bind cont) :=
  Sim.downS kk fun M1 hv Q hq => ⟨plug h0 mo M1, by
    classical
    unfold sI at hv
    split at hv
    · rename_i hm
      obtain ⟨hk, hin⟩ := hm
      cases hv
      have hk9 : kdM k < 9 := by omega
      have h1 := s_iast (QF := fun (_ : Unit) (_ : Hp) => Q) (h := plug h0 mo M) (sa := sa) (i := aid mo k) (j := j) (v := v) [200] (cont := fun h1 => if h1 = plug h0 mo (mA k j.toNatClampNeg (nrw 0 v) M) then some ((), plug h0 mo (mA k j.toNatClampNeg (nrw 0 v) M)) else none) C (fl1 ⟨by decide, rfl⟩) (by simp [hM.2.2.1]) hd (fun h1 => by
        by_cases hv : h1 = plug h0 mo (mA k j.toNatClampNeg (nrw 0 v) M)
        · rw [if_pos hv, hv]; exact hq
        · rw [if_neg hv]; exact sim_none)
      simpa [astI, tg_arr k hk9, hk, plug_arr h0 mo M hk9, plug_mA h0 mo M _ _ hk9, show (arrM M k).2.1 = lnM k from rfl, hin] using h1
    · cases hv⟩
theorem sm_bast {k : Nat} {j v : Int32} {cont : Ms → Option (β × Ms)} (C : Cx E cc ret own) (hM : MOk E mo) (hd : decode cc pc = .ok (.bastore, 1)) (kk : ∀ M1, Sim (plug h0 mo) E QF M1 (pc + 1) la sa (cont M1)) : Sim (plug h0 mo) E QF M pc la (.int v :: .int j :: vr (aid mo k) :: sa) ((sI 1 k j v M).bind cont) :=
  Sim.downS kk fun M1 hv Q hq => ⟨plug h0 mo M1, by
    classical
    unfold sI at hv
    split at hv
    · rename_i hm
      obtain ⟨hk, hin⟩ := hm
      cases hv
      have hk9 : kdM k < 9 := by omega
      have h1 := s_bast (QF := fun (_ : Unit) (_ : Hp) => Q) (h := plug h0 mo M) (sa := sa) (i := aid mo k) (j := j) (v := v) [201] (cont := fun h1 => if h1 = plug h0 mo (mA k j.toNatClampNeg (nrw 1 v) M) then some ((), plug h0 mo (mA k j.toNatClampNeg (nrw 1 v) M)) else none) C (fl1 ⟨by decide, rfl⟩) (by simp [hM.2.2.2.1]) hd (fun h1 => by
        by_cases hv : h1 = plug h0 mo (mA k j.toNatClampNeg (nrw 1 v) M)
        · rw [if_pos hv, hv]; exact hq
        · rw [if_neg hv]; exact sim_none)
      simpa [astI, tg_arr k hk9, hk, plug_arr h0 mo M hk9, plug_mA h0 mo M _ _ hk9, show (arrM M k).2.1 = lnM k from rfl, hin] using h1
    · cases hv⟩
theorem sm_zast {k : Nat} {j v : Int32} {cont : Ms → Option (β × Ms)} (C : Cx E cc ret own) (hM : MOk E mo) (hd : decode cc pc = .ok (.bastore, 1)) (kk : ∀ M1, Sim (plug h0 mo) E QF M1 (pc + 1) la sa (cont M1)) : Sim (plug h0 mo) E QF M pc la (.int v :: .int j :: vr (aid mo k) :: sa) ((sI 2 k j v M).bind cont) :=
  Sim.downS kk fun M1 hv Q hq => ⟨plug h0 mo M1, by
    classical
    unfold sI at hv
    split at hv
    · rename_i hm
      obtain ⟨hk, hin⟩ := hm
      cases hv
      have hk9 : kdM k < 9 := by omega
      have h1 := s_zast (QF := fun (_ : Unit) (_ : Hp) => Q) (h := plug h0 mo M) (sa := sa) (i := aid mo k) (j := j) (v := v) [202] (cont := fun h1 => if h1 = plug h0 mo (mA k j.toNatClampNeg (nrw 2 v) M) then some ((), plug h0 mo (mA k j.toNatClampNeg (nrw 2 v) M)) else none) C (fl1 ⟨by decide, rfl⟩) (by simp [hM.2.2.2.2.1]) hd (fun h1 => by
        by_cases hv : h1 = plug h0 mo (mA k j.toNatClampNeg (nrw 2 v) M)
        · rw [if_pos hv, hv]; exact hq
        · rw [if_neg hv]; exact sim_none)
      simpa [astI, tg_arr k hk9, hk, plug_arr h0 mo M hk9, plug_mA h0 mo M _ _ hk9, show (arrM M k).2.1 = lnM k from rfl, hin] using h1
    · cases hv⟩
theorem sm_last {k : Nat} {j : Int32} {v : Int64} {cont : Ms → Option (β × Ms)} (C : Cx E cc ret own) (hM : MOk E mo) (hd : decode cc pc = .ok (.lastore, 1)) (kk : ∀ M1, Sim (plug h0 mo) E QF M1 (pc + 1) la sa (cont M1)) : Sim (plug h0 mo) E QF M pc la (.long v :: .int j :: vr (aid mo k) :: sa) ((sL k j v M).bind cont) :=
  Sim.downS kk fun M1 hv Q hq => ⟨plug h0 mo M1, by
    classical
    unfold sL at hv
    split at hv
    · rename_i hm
      obtain ⟨hk, hin⟩ := hm
      cases hv
      have hk9 : kdM k < 9 := by omega
      have h1 := s_last (QF := fun (_ : Unit) (_ : Hp) => Q) (h := plug h0 mo M) (sa := sa) (i := aid mo k) (j := j) (v := v) [203] (cont := fun h1 => if h1 = plug h0 mo (mB k j.toNatClampNeg v M) then some ((), plug h0 mo (mB k j.toNatClampNeg v M)) else none) C (fl1 ⟨by decide, rfl⟩) (by simp [hM.2.2.2.2.2]) hd (fun h1 => by
        by_cases hv : h1 = plug h0 mo (mB k j.toNatClampNeg v M)
        · rw [if_pos hv, hv]; exact hq
        · rw [if_neg hv]; exact sim_none)
      simpa [astL, tg_arr k hk9, hk, plug_arr h0 mo M hk9, plug_mB h0 mo M _ _ hk9, show (arrM M k).2.1 = lnM k from rfl, hin] using h1
    · cases hv⟩
/-- a call of the model's own method -/
theorem sm_call {β1 : Type} {f : Option (β1 × Ms)} {K : β1 → Ms → Option (β × Ms)} {fin1 : β1 → Option Value} {As : List Value} {y : MethodName} {idx maxL fr1 lo1 : Nat} {bytes : ByteArray} {ret1 : Option FieldType} (C : Cx E cc ret own) (n : Nat) (sar : List Value)
    (hC : Ct (plug h0 mo) (eG E) (eRL E) (eL E) y (ws_ y bytes maxL ret1) fr1 lo1 fin1 (vr mo :: As) M f) (hw : GoodIn lw_all (wsV own idx RX6 y (ws_ y bytes maxL ret1))) (hd2 : y.cls = RX6 ∧ y.cls ≠ "java/lang/invoke/MethodHandle" ∧ y.cls ≠ "java/lang/invoke/VarHandle" ∧ (parseMethodDescriptor y.desc).map (fun d => d.parameters.length) = some n) (hn : As.length = n)
    (hfr : fr1 + 1 ≤ (eR E).frames) (hlo : 8 + (maxL + 11) + lo1 ≤ (eR E).locals) (hst : As.reverse ++ vr mo :: sar = sa) (hsum : (sar.map fun v => v.category).sum ≤ 8) (hd : decode cc pc = .ok (.invokevirtual idx, 3))
    (kk : ∀ r1 M1, Sim (plug h0 mo) E QF M1 (pc + 3) la ((fin1 r1).toList ++ sar) (K r1 M1)) : Sim (plug h0 mo) E QF M pc la sa (bn f K) :=
  s_callV (cont := fun p => K p.1 p.2) C n sar 6 (RX6, TX6, 58) (by rw [tg_mo]) ⟨by decide, by decide, rfl⟩ hC hw hd2 hn ⟨hfr, hlo⟩ hst hsum hd kk
theorem sm_callS {β1 : Type} {f : Option (β1 × Ms)} {K : β1 → Ms → Option (β × Ms)} {fin1 : β1 → Option Value} {As : List Value} {y : MethodName} {idx maxL fr1 lo1 : Nat} {bytes : ByteArray} {ret1 : Option FieldType} (C : Cx E cc ret own) (n : Nat) (sar : List Value)
    (hC : Ct (plug h0 mo) (eG E) (eRL E) (eL E) y (ws_ y bytes maxL ret1) fr1 lo1 fin1 As M f) (hw : GoodIn lw_all (va_wsS own idx y (ws_ y bytes maxL ret1))) (hd2 : y.cls = RX6 ∧ y.cls ≠ "java/lang/invoke/MethodHandle" ∧ y.cls ≠ "java/lang/invoke/VarHandle" ∧ (parseMethodDescriptor y.desc).map (fun d => d.parameters.length) = some n) (hn : As.length = n)
    (hfr : fr1 + 1 ≤ (eR E).frames) (hlo : 8 + (maxL + 11) + lo1 ≤ (eR E).locals) (hst : As.reverse ++ sar = sa) (hsum : (sar.map fun v => v.category).sum ≤ 8) (hd : decode cc pc = .ok (.invokestatic idx, 3))
    (kk : ∀ r1 M1, Sim (plug h0 mo) E QF M1 (pc + 3) la ((fin1 r1).toList ++ sar) (K r1 M1)) : Sim (plug h0 mo) E QF M pc la sa (bn f K) :=
  s_callS (cont := fun p => K p.1 p.2) C n sar hC hw hd2.2 hn ⟨hfr, hlo⟩ hst hsum hd kk
section MCalls
variable {f : Option (Int32 × Ms)} {fv : Option (Unit × Ms)} {fl : Option (Int64 × Ms)} {K : Int32 → Ms → Option (β × Ms)} {Kv : Unit → Ms → Option (β × Ms)} {As : List Value} {y : MethodName} {idx maxL fr1 lo1 : Nat} {bytes : ByteArray} {ret1 : Option FieldType}
theorem sm_callI (C : Cx E cc ret own) (n : Nat) (sar : List Value) (hC : Ct (plug h0 mo) (eG E) (eRL E) (eL E) y (ws_ y bytes maxL ret1) fr1 lo1 finI (vr mo :: As) M f) (hw : GoodIn lw_all (wsV own idx RX6 y (ws_ y bytes maxL ret1))) (hd2 : y.cls = RX6 ∧ y.cls ≠ "java/lang/invoke/MethodHandle" ∧ y.cls ≠ "java/lang/invoke/VarHandle" ∧ (parseMethodDescriptor y.desc).map (fun d => d.parameters.length) = some n) (hn : As.length = n)
    (hfr : fr1 + 1 ≤ (eR E).frames) (hlo : 8 + (maxL + 11) + lo1 ≤ (eR E).locals) (hst : As.reverse ++ vr mo :: sar = sa) (hsum : (sar.map fun v => v.category).sum ≤ 8) (hd : decode cc pc = .ok (.invokevirtual idx, 3)) (kk : ∀ r1 M1, Sim (plug h0 mo) E QF M1 (pc + 3) la (.int r1 :: sar) (K r1 M1)) : Sim (plug h0 mo) E QF M pc la sa (bn f K) := sm_call C n sar hC hw hd2 hn hfr hlo hst hsum hd kk
theorem sm_callV (C : Cx E cc ret own) (n : Nat) (sar : List Value) (hC : Ct (plug h0 mo) (eG E) (eRL E) (eL E) y (ws_ y bytes maxL ret1) fr1 lo1 finV (vr mo :: As) M fv) (hw : GoodIn lw_all (wsV own idx RX6 y (ws_ y bytes maxL ret1))) (hd2 : y.cls = RX6 ∧ y.cls ≠ "java/lang/invoke/MethodHandle" ∧ y.cls ≠ "java/lang/invoke/VarHandle" ∧ (parseMethodDescriptor y.desc).map (fun d => d.parameters.length) = some n) (hn : As.length = n)
    (hfr : fr1 + 1 ≤ (eR E).frames) (hlo : 8 + (maxL + 11) + lo1 ≤ (eR E).locals) (hst : As.reverse ++ vr mo :: sar = sa) (hsum : (sar.map fun v => v.category).sum ≤ 8) (hd : decode cc pc = .ok (.invokevirtual idx, 3)) (kk : ∀ r1 M1, Sim (plug h0 mo) E QF M1 (pc + 3) la sar (Kv r1 M1)) : Sim (plug h0 mo) E QF M pc la sa (bn fv Kv) := sm_call C n sar hC hw hd2 hn hfr hlo hst hsum hd kk
theorem sm_callSI (C : Cx E cc ret own) (n : Nat) (sar : List Value) (hC : Ct (plug h0 mo) (eG E) (eRL E) (eL E) y (ws_ y bytes maxL ret1) fr1 lo1 finI As M f) (hw : GoodIn lw_all (va_wsS own idx y (ws_ y bytes maxL ret1))) (hd2 : y.cls = RX6 ∧ y.cls ≠ "java/lang/invoke/MethodHandle" ∧ y.cls ≠ "java/lang/invoke/VarHandle" ∧ (parseMethodDescriptor y.desc).map (fun d => d.parameters.length) = some n) (hn : As.length = n)
    (hfr : fr1 + 1 ≤ (eR E).frames) (hlo : 8 + (maxL + 11) + lo1 ≤ (eR E).locals) (hst : As.reverse ++ sar = sa) (hsum : (sar.map fun v => v.category).sum ≤ 8) (hd : decode cc pc = .ok (.invokestatic idx, 3)) (kk : ∀ r1 M1, Sim (plug h0 mo) E QF M1 (pc + 3) la (.int r1 :: sar) (K r1 M1)) : Sim (plug h0 mo) E QF M pc la sa (bn f K) := sm_callS C n sar hC hw hd2 hn hfr hlo hst hsum hd kk
end MCalls
end MRows
