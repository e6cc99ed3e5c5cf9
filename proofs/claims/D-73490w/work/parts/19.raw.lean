/-! ROWS that only the library's own code takes: floats, statics, tables of cases -/
set_option maxRecDepth 100000
section RawRows
variable {β : Type} {E : Ex} {QF : β → Hp → State → Prop} {h : Hp} {pc : Nat} {la la' : List (Nat × Value)} {sa : List Value} {x : Option (β × Hp)} {cc : ByteArray} {ret : Option FieldType} {own : String}
theorem s_ldcf (C : Cx E cc ret own) {idx : Nat} {v : UInt32} (hw : Cond.constantFloat own idx v ∈ lw_all) (hd : decode cc pc = .ok (.ldc idx, 2)) (kk : Sim id E QF h (pc + 2) la (.float v :: sa) x) : Sim id E QF h pc la sa x :=
  Sim.step (pc + 2) (.float v :: sa) (fun _ _ hs => vk1 trivial hs) (fun mp H locs ls Q k n hl kk => lv_ldcf C.1 C.2.1 C.ow (C.ws _ hw) hd (kk k n)) kk
theorem s_fconst0 (C : Cx E cc ret own) (hd : decode cc pc = .ok (.fconst 0, 1)) (kk : Sim id E QF h (pc + 1) la (.float FP.fconst0 :: sa) x) : Sim id E QF h pc la sa x :=
  Sim.step (pc + 1) (.float FP.fconst0 :: sa) (fun _ _ hs => vk1 trivial hs) (fun mp H locs ls Q k n hl kk => lv_fconst0 C.1 C.2.1 hd (kk k n)) kk
theorem s_i2f (C : Cx E cc ret own) {a : Int32} (hd : decode cc pc = .ok (.i2f, 1)) (kk : Sim id E QF h (pc + 1) la (.float (FP.i2f a) :: sa) x) : Sim id E QF h pc la (.int a :: sa) x :=
  Sim.step (pc + 1) (.float (FP.i2f a) :: sa) (fun _ _ hs => vk1 trivial (vkd hs)) (fun mp H locs ls Q k n hl kk => lv_i2f C.1 C.2.1 hd (kk k n)) kk
theorem s_f2i (C : Cx E cc ret own) {a : UInt32} (hd : decode cc pc = .ok (.f2i, 1)) (kk : Sim id E QF h (pc + 1) la (.int (FP.f2i a) :: sa) x) : Sim id E QF h pc la (.float a :: sa) x :=
  Sim.step (pc + 1) (.int (FP.f2i a) :: sa) (fun _ _ hs => vk1 trivial (vkd hs)) (fun mp H locs ls Q k n hl kk => lv_f2i C.1 C.2.1 hd (kk k n)) kk
theorem s_fcmp (C : Cx E cc ret own) {a b : UInt32} {op : CmpOp} (hd : decode cc pc = .ok (.fcmp op, 1)) (kk : Sim id E QF h (pc + 1) la (.int (Op.cmpValue (FP.fcmp a b) op) :: sa) x) : Sim id E QF h pc la (.float b :: .float a :: sa) x :=
  Sim.step (pc + 1) (.int (Op.cmpValue (FP.fcmp a b) op) :: sa) (fun _ _ hs => vk1 trivial (vkd (vkd hs))) (fun mp H locs ls Q k n hl kk => lv_fcmp C.1 C.2.1 hd (kk k n)) kk
theorem s_fmul (C : Cx E cc ret own) {a b : UInt32} (hd : decode cc pc = .ok (.fmul, 1)) (kk : Sim id E QF h (pc + 1) la (.float (FP.fmul a b) :: sa) x) : Sim id E QF h pc la (.float b :: .float a :: sa) (if FP.fmul a b &&& 0x7fffffff ≤ 0x7f800000 then x else none) := by
  by_cases c : FP.fmul a b &&& 0x7fffffff ≤ 0x7f800000
  · rw [if_pos c]
    exact Sim.step (pc + 1) (.float (FP.fmul a b) :: sa) (fun _ _ hs => vk1 trivial (vkd (vkd hs))) (fun mp H locs ls Q k n hl kk => lv_fmul C.1 C.2.1 hd c (kk k n)) kk
  · rw [if_neg c]; exact sim_none
theorem s_fload_n (C : Cx E cc ret own) {kf : Fin 4} {j : Nat} {a : UInt32} (hd : decode cc pc = .ok (.fload_n kf, 1)) (i : Nat) (hi : la[i]? = some (j, .float a)) (hj : (kf : Nat) = j) (kk : Sim id E QF h (pc + 1) la (.float a :: sa) x) : Sim id E QF h pc la sa x :=
  Sim.step (pc + 1) (.float a :: sa) (fun _ _ hs => vk1 trivial hs) (fun mp H locs ls Q k n hl kk => lv_fload_n C.1 C.2.1 hd hj (lv_get hl i hi) (kk k n)) kk
theorem s_fload (C : Cx E cc ret own) {j : Nat} {a : UInt32} (hd : decode cc pc = .ok (.fload j, 2)) (i : Nat) (hi : la[i]? = some (j, .float a)) (kk : Sim id E QF h (pc + 2) la (.float a :: sa) x) : Sim id E QF h pc la sa x :=
  Sim.step (pc + 2) (.float a :: sa) (fun _ _ hs => vk1 trivial hs) (fun mp H locs ls Q k n hl kk => lv_fload C.1 C.2.1 hd (lv_get hl i hi) (kk k n)) kk
theorem s_fstore (C : Cx E cc ret own) {a : UInt32} {j : Nat} (hd : decode cc pc = .ok (.fstore j, 2)) (hn : j < eNL E) (hl' : lst j (.float a) la = la') (kk : Sim id E QF h (pc + 2) la' sa x) : Sim id E QF h pc la (.float a :: sa) x := by
  subst hl'
  exact Sim.store (pc + 2) _ (fun _ hl hv => lst_ok hl hv) (fun mp H locs ls Q k n hl kk => lv_fstore C.1 C.2.1 hd hl hn (lst_rv mp j (.float a)) (fun ls' h' => kk ls' h' k n)) kk
theorem s_putF {idx k i : Nat} (cs : List Nat) {v : UInt32} {cont : Hp → Option (β × Hp)} (C : Cx E cc ret own) (hcs : ∀ t ∈ cs, (t < 500 ∧ FO own idx t k ∧ (ftN t)[k]? = some 3) ∧ tyF t k = .float) (hp : cs.all (ePl E) = true)
    (hfin : ∀ t ∈ cs, FI t k = false ∨ ((eMe E).name = "<init>" ∧ FX own idx t k)) (hd : decode cc pc = .ok (.putfield idx, 3)) (kk : ∀ h1, Sim id E QF h1 (pc + 3) la sa (cont h1)) : Sim id E QF h pc la (.float v :: vr i :: sa) ((putI cs 0 k i v.toInt32 h).bind cont) :=
  Sim.put (P := True) (kd := 3) (v := .float v) (c1 := upI (h.2.2 i) k v.toInt32) C (fun t ht => (hcs t ht).1) hp (by unfold putI; simp [nrw]) rfl rfl (fun j hj => ⟨if_neg hj, rfl, rfl⟩) (fun mp => by simp [fval, upI, rv]) (fun _ _ hr j => hr j) (fun _ t ht q hq hk' mp => by rw [(hcs t ht).2]; exact ⟨rfl, rfl⟩) (hfin_of hfin) hd kk
/-- a table of cases -/
theorem s_lsw1 {v : Int32} {X Y : Option (β × Hp)} {dflt o1 : Int} {k1 : Int32} {len : Nat} (t1 td : Nat) (C : Cx E cc ret own) (hd : decode cc pc = .ok (.lookupswitch dflt #[(k1.toInt, o1)], len)) (h1 : (pc : Int) + o1 = (t1 : Int)) (h2 : (pc : Int) + dflt = (td : Int)) (ka : Sim id E QF h t1 la sa X) (kd : Sim id E QF h td la sa Y) : Sim id E QF h pc la (.int v :: sa) (if v = k1 then X else Y) := by
  by_cases c : v = k1
  · rw [if_pos c]
    exact Sim.step t1 sa (fun _ _ hs => vkd hs) (fun mp H locs ls Q k n hl kk => lv_lookup C.1 C.2.1 hd rfl (off := o1) (by subst c; simp [Op.lookupswitch.offset_cons]) h1 (kk k n)) ka
  · rw [if_neg c]
    exact Sim.step td sa (fun _ _ hs => vkd hs) (fun mp H locs ls Q k n hl kk => lv_lookup C.1 C.2.1 hd rfl (off := dflt) (by rw [lv_osw c rfl]; rfl) h2 (kk k n)) kd
theorem s_lsw2 {v : Int32} {X Y Z : Option (β × Hp)} {dflt o1 o2 : Int} {k1 k2 : Int32} {len : Nat} (t1 t2 td : Nat) (C : Cx E cc ret own) (hd : decode cc pc = .ok (.lookupswitch dflt #[(k1.toInt, o1), (k2.toInt, o2)], len)) (hs : k1.toInt < k2.toInt) (h1 : (pc : Int) + o1 = (t1 : Int)) (h2 : (pc : Int) + o2 = (t2 : Int)) (h3 : (pc : Int) + dflt = (td : Int)) (ka : Sim id E QF h t1 la sa X) (kb : Sim id E QF h t2 la sa Y) (kd : Sim id E QF h td la sa Z) : Sim id E QF h pc la (.int v :: sa) (if v = k1 then X else if v = k2 then Y else Z) := by
  have hz : ((#[(k1.toInt, o1), (k2.toInt, o2)] : Array (Int × Int)).toList.zip ((#[(k1.toInt, o1), (k2.toInt, o2)] : Array (Int × Int)).toList.drop 1)).all (fun (a, next) => a.1 < next.1) = true := by simp [hs]
  by_cases c : v = k1
  · rw [if_pos c]
    exact Sim.step t1 sa (fun _ _ hs => vkd hs) (fun mp H locs ls Q k n hl kk => lv_lookup C.1 C.2.1 hd hz (off := o1) (by subst c; simp [Op.lookupswitch.offset_cons]) h1 (kk k n)) ka
  · rw [if_neg c]
    by_cases c2 : v = k2
    · rw [if_pos c2]
      exact Sim.step t2 sa (fun _ _ hs => vkd hs) (fun mp H locs ls Q k n hl kk => lv_lookup C.1 C.2.1 hd hz (off := o2) (by rw [lv_osw c rfl]; subst c2; simp [Op.lookupswitch.offset_cons]) h2 (kk k n)) kb
    · rw [if_neg c2]
      exact Sim.step td sa (fun _ _ hs => vkd hs) (fun mp H locs ls Q k n hl kk => lv_lookup C.1 C.2.1 hd hz (off := dflt) (by rw [lv_osw c rfl, lv_osw c2 rfl]; rfl) h3 (kk k n)) kd
end RawRows
/-- a contract of a method whose class has entries that stand in for code, but not for this one -/
theorem Ct.ofF {β : Type} {G : Gx} {RL : Lv} {Pl : Nat → Bool} {l : Launch} {y : MethodName} {cc : ByteArray} {maxL fr lo : Nat} {ret : Option FieldType} {fin : β → Option Value} {av : List Value} {h : Hp} {x : Option (β × Hp)} (la0 : List (Nat × Value))
    (hy : plainFor y = true) (hLv : LvA G RL Pl) (hla : lv_args 0 av = la0) (hlen : (av.map fun v => if v.category = 2 then 2 else 1).sum ≤ maxL)
    (body : ∀ E : Ex, Cx E cc ret y.cls → (eMe E).name = y.name → (eR E).frames = fr → (eR E).locals = lo → eL E = l → eG E = G → eRL E = RL → ePl E = Pl → eNL E = maxL → Sim id E (QM id E fin) h 0 la0 [] x) :
    Ct id G RL l y (ws_ y cc maxL ret) fr lo fin av h x := by
  intro r h9 hx mp sz st
  refine MetFree.of_bodySF (code := cc) (maxLocals := maxL) (ret := ret) hy ?_ ?_
  · intro args s m h hn
    obtain ⟨meth, c, h1, h2, h3, h4, h5, h6, -, -⟩ := Cond.code_spec hn (atoms_spec (ws := ws_ y cc maxL ret) h _ List.mem_cons_self)
    exact ⟨meth, c, h1, h2, h3, h4, h5, h6⟩
  · intro p e s m args below meth c s₁ B hml hv _
    have hh0 : s₁.heap = s.heap := by rw [B.state]; rfl
    have hts := atoms_spec (ws := ws_ y cc maxL ret) B.pre
    obtain ⟨rfl, hsz, hst, hEn, hRL, hok⟩ := hv
    have hnm := name_of_methodNamed B.named B.method
    subst hsz; subst hst; subst hla
    have hR : Rm ((p, l, e, (headSpec (ws_ y cc maxL ret) { frames := fr, cells := LIM + gB G - s.heap.size, slots := LIM + gT G - totS s.heap, locals := lo }).room, s, m, (av.map (rv mp)).toArray, below, meth, c), G, RL, mp, h.1, maxL, Pl) := by
      refine ⟨?_, ?_⟩
      · show LIM + gB G ≤ (LIM + gB G - s.heap.size) + s.heap.size
        omega
      · show LIM + gT G ≤ (LIM + gT G - totS s.heap) + totS s.heap
        omega
    have hk := body ((p, l, e, (headSpec (ws_ y cc maxL ret) { frames := fr, cells := LIM + gB G - s.heap.size, slots := LIM + gT G - totS s.heap, locals := lo }).room, s, m, (av.map (rv mp)).toArray, below, meth, c), G, RL, mp, h.1, maxL, Pl)
      ⟨B.exec, B.bytes, B.returns, hml, findClass_of_methodNamed B.named, fun w h => hts w (List.mem_cons_of_mem _ h), B.notSynchronized, hEn, hLv, hR⟩ hnm.1 rfl rfl rfl rfl rfl rfl rfl r h9 hx
    have hl := lv_entry (av.map (rv mp)) (n := maxL) (by rw [lg_sl_rv, lg_sl_len]; exact hlen)
    rw [lv_args_rv] at hl
    have hk2 := hk mp s.heap [] _ ⟨Xt.rf, Nat.le_refl _, hRL, va_S.rf, hl, lv_args_ok hok 0, fun v hv => by cases hv⟩ 0 0
    rw [lg_entry_eq]
    obtain ⟨t, a1, o, b1, b2, b3⟩ := hk2 s₁ hh0 (Stand.of_body B)
    exact ⟨t, o, a1, b1, b2, ⟨b3.1, b3.2⟩⟩
