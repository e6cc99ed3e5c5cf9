/-! ROWS that only the law takes: the model's methods on a heap that holds its state; methods with handlers; the catch of a NoSuchElementException -/
set_option maxRecDepth 100000
/-- the model's state that a heap holds at mo -/
def rdM (mo : Nat) (h : Hp) : Ms := ((h.2.2 mo).2.2.1, (h.2.2 mo).2.2.2.2 18, fun k => if kdM k < 9 then (h.2.2 (aid mo k)).2.2.1 else fun _ => 0, fun k => if kdM k < 9 then (h.2.2 (aid mo k)).2.2.2.2 else fun _ => 0)
/-- what the model's method f does on a heap that holds the model at mo -/
noncomputable def onM {β : Type} (mo : Nat) (f : Ms → Option (β × Ms)) (h : Hp) : Option (β × Hp) := @ite _ (plug h mo (rdM mo h) = h) (Classical.propDecidable _) ((f (rdM mo h)).map fun p => (p.1, plug h mo p.2)) none
theorem ct_onM {β : Type} {G : Gx} {RL : Lv} {l : Launch} {y : MethodName} {ws : List Cond} {fr lo mo : Nat} {fin : β → Option Value} {av : List Value} {f : Ms → Option (β × Ms)} (k : ∀ (h : Hp) (M : Ms), Ct (plug h mo) G RL l y ws fr lo fin av M (f M)) (h : Hp) : Ct id G RL l y ws fr lo fin av h (onM mo f h) := by
  intro r h9 hx mp sz st
  unfold onM at hx
  split at hx
  · rename_i e
    obtain ⟨⟨r1, M1⟩, h1, h2⟩ := Option.map_eq_some_iff.mp hx
    cases h2
    have hk := k h (rdM mo h) r1 M1 h1 mp sz st
    rw [e] at hk
    exact hk
  · cases hx
section LawRows
variable {β β1 : Type} {E : Ex} {QF : β → Hp → State → Prop} {h : Hp} {pc : Nat} {la : List (Nat × Value)} {sa : List Value} {cc : ByteArray} {ret : Option FieldType} {own : String}
variable {f : Option (β1 × Hp)} {K : β1 → Hp → Option (β × Hp)} {fin1 : β1 → Option Value} {As sar : List Value} {x y : MethodName} {idx maxL fr1 lo1 b : Nat} {bytes : ByteArray} {ret1 : Option FieldType} {hh : List (Nat × Nat × Nat × Nat)}
/-- a method with handlers, of the receiver's own class -/
theorem c_VW (C : Cx E cc ret own) (n : Nat) (sar : List Value) (t : Nat) (Cn : String) (hr : RO t Cn) (hC : Ct id (eG E) (eRL E) (eL E) y (wsW_ y bytes maxL ret1 hh) fr1 lo1 fin1 (vr b :: As) h f) (hw : GoodIn lw_all (wsV own idx Cn y (wsW_ y bytes maxL ret1 hh))) (hd2 : y.cls = Cn ∧ y.cls ≠ "java/lang/invoke/MethodHandle" ∧ y.cls ≠ "java/lang/invoke/VarHandle" ∧ (parseMethodDescriptor y.desc).map (fun d => d.parameters.length) = some n)
    (hn : As.length = n) (hfr : fr1 + 1 ≤ (eR E).frames) (hlo : 8 + (maxL + 11) + lo1 ≤ (eR E).locals) (hst : As.reverse ++ vr b :: sar = sa) (hsum : (sar.map fun v => v.category).sum ≤ 8) (hd : decode cc pc = .ok (.invokevirtual idx, 3)) (kk : ∀ r1 h1, Sim id E QF h1 (pc + 3) la ((fin1 r1).toList ++ sar) (K r1 h1)) (ht : tg h b % 500 = t) : Sim id E QF h pc la sa (bn f K) := by
  subst hst
  refine Sim.callK (V := id) (cont := fun p => K p.1 p.2) C fin1 (pc + 3) sar (fun _ hs v hv => hs v (List.mem_append_right _ (List.mem_cons_of_mem _ hv))) (fun r1 h1 hf mp H locs ls ok hr1 hr2 => ?_) kk
  replace ok : Ok E h mp H locs ls la _ := ok
  obtain ⟨hb, hrc⟩ := ro_at C ok ht hr
  have hav : ∀ v ∈ vr b :: As, vOk h.1 v := fun v hv => by
    rcases List.mem_cons.mp hv with e | g
    · rw [e]; exact ok.2.2.2.2.2.2 _ (List.mem_append_right _ List.mem_cons_self)
    · exact ok.2.2.2.2.2.2 _ (List.mem_append_left _ (List.mem_reverse.mpr g))
  have hpay := PQ.pays C ok hav
  simp only [List.map_cons, rv_vr, rfv_p mp hb] at hpay
  refine ⟨_, _, _, vx_runVW (g := F0 (eM E) pc ls ((As.reverse ++ vr b :: sar).map (rv mp))) (As := As.map (rv mp)) (rest := sar.map (rv mp)) (mc := LIM + gB (eG E) - H.size) (ms := LIM + gT (eG E) - totS H) ⟨C.1, C.2.1, C.nl, C.ow, C.ws⟩ (hC r1 h1 hf mp H.size (totS H)) (vx_cwVW n C.ws hw rfl rfl rfl hd2 ⟨hfr, hlo⟩) ⟨PQ.blind C.lv, hrc, hpay⟩ rfl (by simp [hn]) ok.2.2.2.2.1.1 ?_ ?_ hd ⟨hr1, hr2⟩⟩
  · simp [rv_vr, rfv_p mp hb]
  · rw [rv_sum]
    show 2 * 0 + _ ≤ 8
    omega
/-- a static method with handlers -/
theorem c_SW (C : Cx E cc ret own) (n : Nat) (sar : List Value) (hC : Ct id (eG E) (eRL E) (eL E) y (wsW_ y bytes maxL ret1 hh) fr1 lo1 fin1 As h f) (hw : GoodIn lw_all (va_wsS own idx y (wsW_ y bytes maxL ret1 hh))) (hd2 : y.cls ≠ "java/lang/invoke/MethodHandle" ∧ y.cls ≠ "java/lang/invoke/VarHandle" ∧ (parseMethodDescriptor y.desc).map (fun d => d.parameters.length) = some n)
    (hn : As.length = n) (hfr : fr1 + 1 ≤ (eR E).frames) (hlo : 8 + (maxL + 11) + lo1 ≤ (eR E).locals) (hst : As.reverse ++ sar = sa) (hsum : (sar.map fun v => v.category).sum ≤ 8) (hd : decode cc pc = .ok (.invokestatic idx, 3)) (kk : ∀ r1 h1, Sim id E QF h1 (pc + 3) la ((fin1 r1).toList ++ sar) (K r1 h1)) : Sim id E QF h pc la sa (bn f K) := by
  subst hst
  refine Sim.callK (V := id) (cont := fun p => K p.1 p.2) C fin1 (pc + 3) sar (fun _ hs v hv => hs v (List.mem_append_right _ hv)) (fun r1 h1 hf mp H locs ls ok hr1 hr2 => ?_) kk
  replace ok : Ok E h mp H locs ls la _ := ok
  have hav : ∀ v ∈ As, vOk h.1 v := fun v hv => ok.2.2.2.2.2.2 _ (List.mem_append_left _ (List.mem_reverse.mpr hv))
  refine ⟨_, _, _, vx_runSW (g := F0 (eM E) pc ls ((As.reverse ++ sar).map (rv mp))) (As := As.map (rv mp)) (rest := sar.map (rv mp)) (mc := LIM + gB (eG E) - H.size) (ms := LIM + gT (eG E) - totS H) ⟨C.1, C.2.1, C.nl, C.ow, C.ws⟩ (hC r1 h1 hf mp H.size (totS H)) (vx_cwSW n C.ws hw rfl rfl rfl hd2 ⟨hfr, hlo⟩) ⟨PQ.blind C.lv, PQ.pays C ok hav⟩ rfl (by simp [hn]) ok.2.2.2.2.1.1 ?_ ?_ hd ⟨hr1, hr2⟩⟩
  · simp
  · rw [rv_sum]
    show 2 * 0 + _ ≤ 8
    omega
end LawRows
section CatchN
variable {E : Ex} {h : Hp} {pc : Nat} {la : List (Nat × Value)} {cc : ByteArray} {own : String}
/-- 'catch (NoSuchElementException e) { return 1; }' -/
theorem SimX.catchN {p hp ct j pcn : Nat} (C : Cx E cc (some .int) own) (x : ExceptionTableEntry) (hsplit : (eC E).exceptionTable.toList = [x]) (hcov : covers x pc = true) (hct : x.catchType = ct) (h0 : ct ≠ 0) (hhp : x.handlerPc = hp) (hlink : Cond.classLink own ct "java/util/NoSuchElementException" ∈ lw_all) (hcast : Cond.castable "java/util/NoSuchElementException" "java/util/NoSuchElementException" ∈ lw_tbl)
    (hj : j < eNL E) (ha : (decode cc hp = .ok (.astore j, 2) ∧ pcn = hp + 2) ∨ ∃ kf : Fin 4, decode cc hp = .ok (.astore_n kf, 1) ∧ (kf : Nat) = j ∧ pcn = hp + 1) (d1 : decode cc pcn = .ok (.iconst 1, 1)) (d2 : decode cc (pcn + 1) = .ok (.ireturn, 1)) : SimX E (QM id E finI) h p pc la (if p = 0 then some (1, h) else none) := by
  intro r h9 hx mp H locs ls sa q ok ⟨ce, c1, c2, c3, c4⟩
  split at hx
  · rename_i hp0
    subst hct; subst hhp
    unfold cxName at c3
    rw [if_pos hp0] at c3
    refine vx_catch (E := "java/util/NoSuchElementException") (name := "java/util/NoSuchElementException") C.ow [] x [] hsplit (fun z hz => by cases hz) hcov h0 (C.ws _ hlink) (va_Nw.use rfl (C.en.2.2.2.1 _ _ hcast)) c1 c2 c3 ?_
    have hend : ∀ (ls' : Array Slot), lv_has ls' (eNL E) [] → WE E H locs (QM id E finI r h9) (F0 (eM E) pcn ls' []) := by
      intro ls' hl'
      have hs : Sim id E (QM id E finI) h pcn [] [] (some ((1 : Int32), h)) := s_iconst C 1 d1 (by decide) (s_iret C rfl d2)
      obtain ⟨o1, o2, o3, o4, o5, o6, o7⟩ := ok
      exact hs r h9 hx mp H locs ls' ⟨o1, o2, o3, o4, hl', (fun q hq => by cases hq), (fun v hv => by cases hv)⟩
    have hl0 : lv_has ls (eNL E) [] := ⟨ok.2.2.2.2.1.1, ok.2.2.2.2.1.2.1, fun q hq => by cases hq⟩
    rcases ha with ⟨da, rfl⟩ | ⟨kf, da, hk, rfl⟩
    · exact lv_astore C.1 C.2.1 da hl0 hj rfl fun ls' hl' => hend ls' ⟨hl'.1, hl'.2.1, fun q hq => by cases hq⟩ _ _
    · exact lv_astore_n C.1 C.2.1 da hk hl0 hj rfl fun ls' hl' => hend ls' ⟨hl'.1, hl'.2.1, fun q hq => by cases hq⟩ _ _
  · cases hx
end CatchN
