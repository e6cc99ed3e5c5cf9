/-! THE THROW of NoSuchElementException; what is caught; methods with handlers -/
set_option maxRecDepth 100000
abbrev nseN : List String := ["java/lang/RuntimeException", "java/lang/Exception"]
def isCw (w : Cond) : Bool := match w with
  | .castable _ _ => true
  | .declares _ => true
  | _ => false
theorem nse_pl : vx_at0 RX1 3 "java/util/NoSuchElementException" nseN = [122, 494, 503, 506, 509, 511, 495, 496, 177, 178, 497, 502, 507, 524, 484, 525, 486, 526, 488, 498, 500, 490, 513, 514, 515, 516, 475, 516, 517, 518, 519, 477, 519, 520, 521, 495, 479, 2838, 473, 474, 481, 482, 483, 485, 487, 489, 493, 492, 491].filterMap (fun i => lw_tbl[i]?) := by decide +kernel
theorem nse_ok : (vx_at0 RX1 3 "java/util/NoSuchElementException" nseN).all (fun w => goodWord w || isCw w) = true := by decide +kernel
theorem nse_ot : (vx_at0 RX1 3 "java/util/NoSuchElementException" nseN).all vx_ot = true := by decide +kernel
theorem tb_of {ws : List Cond} {ps : List Nat} (h : ws = ps.filterMap (fun i => lw_tbl[i]?)) : ∀ w ∈ ws, w ∈ lw_tbl := by
  intro w hw
  rw [h] at hw
  obtain ⟨i, -, hi⟩ := List.mem_filterMap.mp hw
  exact List.mem_of_getElem? hi
section NSE
variable {β : Type} {E : Ex} {h : Hp} {pc : Nat} {la : List (Nat × Value)} {sa : List Value} {cc : ByteArray} {ret : Option FieldType} {own : String} {fin : β → Option Value} {QF : β → Hp → State → Prop}
theorem nse_at {own0 : String} (C : Cx E cc ret own0) : ∀ w ∈ vx_at0 RX1 3 "java/util/NoSuchElementException" nseN, w.before (eA E) (eS E) = true := by
  intro w hw
  have h1 := tb_of nse_pl w hw
  have h2 := List.all_eq_true.mp nse_ok w hw
  rcases Bool.or_eq_true_iff.mp h2 with g | g
  · exact C.ws _ (lw_g h1 g)
  · unfold isCw at g
    split at g
    · exact va_Nw.use rfl (C.en.2.2.2.1 _ _ h1)
    · exact va_Nw.use rfl (C.en.2.2.2.2.2.2.1 _ h1)
    · cases g
theorem s_nse (C : Cx E cc ret RX1) (hnt : NT E) (hl : (eL E).stackTraces = false) (hF : LvF (eRL E)) (hk : Cond.classLink RX1 1 "java/util/NoSuchElementException" ∈ lw_all) (hi : Cond.initialized "java/util/NoSuchElementException" ∈ lw_all) (hfr : 5 < (eR E).frames) (hlo : 89 ≤ (eR E).locals) (hsum : (sa.map fun v => v.category).sum ≤ 8)
    (d0 : decode cc pc = .ok (.new 1, 3)) (d3 : decode cc (pc + 3) = .ok (.dup, 1)) (d4 : decode cc (pc + 4) = .ok (.invokespecial 3, 3)) (d7 : decode cc (pc + 7) = .ok (.athrow, 1)) : Sim id E (QMX E fin) h pc la sa (if h.2.1 + 7 ≤ LIM then some (.error 0, (h.1, h.2.1 + 7, h.2.2)) else none) := by
  intro r h9 hx mp H locs ls ok
  replace ok : Ok E h mp H locs ls la sa := ok
  split at hx
  · rename_i hg
    cases hx
    refine WE.of ?_
    obtain ⟨o1, o2, o3, o4, o5, o6, o7⟩ := ok
    have hc := C.lv.2.1 _ _ _ _ o3
    obtain ⟨hR1, hR2⟩ := C.2.2.2.2.2.2.2.2.2
    have hs1 : (eS E).heap.size ≤ H.size := o4.1
    intro T hT X0
    have hs3 : totS (eS E).heap ≤ totS H := by
      have hb := X0.book
      have hr : (eS E).slotsTrue = true := by
        have h1 := X0.room
        simp only [State.hasRoom, Bool.and_eq_true] at h1
        exact h1.2
      have e1 : T.slotsUsed = totS T.heap := by simpa [State.slotsTrue, totS] using hb
      have e2 : (eS E).slotsUsed = totS (eS E).heap := by simpa [State.slotsTrue, totS] using hr
      have e3 : T.slotsUsed = (eS E).slotsUsed + _ := X0.same.2.2.2.1
      rw [hT] at e1
      omega
    refine (?_ : W (eP E) (eL E) (eE E) (eR E) (eS E) (eM E) (eA E) (eB E) (eMe E) (eC E) H locs (H.size - (eS E).heap.size) (totS H - totS (eS E).heap) _ _) T hT X0
    have hsu := C.en.2.2.2.2.2.2.2.2.2.1
    refine vx_throw0 C.1 C.2.1 hl (names := nseN) C.ow (by decide +kernel) (by decide +kernel) (C.ws _ hk) (C.ws _ hi) (nse_at C) (fun w hw => ?_) (hsu ("java/lang/Throwable", "UNASSIGNED_STACK", "[Ljava/lang/StackTraceElement;") List.mem_cons_self) (hsu ("java/lang/Throwable", "SUPPRESSED_SENTINEL", "Ljava/util/List;") (List.mem_cons_of_mem _ List.mem_cons_self)) o4 (o5.1.trans C.nl.symm) d0 d3 d4 d7 (fun x hx => (hnt x hx).elim) hfr ?_ (by omega) (by omega) C.lk (fun t hW g1 g2 g3 g4 => ⟨⟨0, rfl, rfl, mp, o1, o2, ?_, fun h0 => absurd rfl h0⟩, Nat.le_trans o4.1 g1, fun q q1 q2 => (g4 q (Nat.lt_of_lt_of_le q1 o4.1)).trans (o4.2.1 q q1 q2)⟩) o4.2.2 (by omega) (by omega)
    · rcases List.mem_cons.mp hw with e | hw
      · rw [e]; rfl
      · rcases List.mem_cons.mp hw with e | hw
        · rw [e]; rfl
        · exact List.all_eq_true.mp nse_ot w hw
    · rw [rv_sum]
      show _ + (13 * (2 + 1) + 42) ≤ _
      omega
    · exact hF _ _ _ _ (C.lv.1 _ _ _ _ _ hW o3) hg _ g1 g2 g3 g4
  · cases hx
/-- a Fault is caught by the only row of the table -/
theorem SimX.catch8 {p hp ct : Nat} {Y : Option (β × Hp)} (C : Cx E cc ret own) (x : ExceptionTableEntry) (hsplit : (eC E).exceptionTable.toList = [x]) (hcov : covers x pc = true) (hct : x.catchType = ct) (h0 : ct ≠ 0) (hhp : x.handlerPc = hp) (hlink : Cond.classLink own ct "FinalLinks$Fault" ∈ lw_all) (hcast : Cond.castable "FinalLinks$Fault" "FinalLinks$Fault" ∈ lw_tbl)
    (kk : p ≠ 0 → Sim id E QF h hp la [vr p] Y) : SimX E QF h p pc la (if p = 0 then none else Y) := by
  intro r h9 hx mp H locs ls sa q ok ⟨ce, c1, c2, c3, c4⟩
  split at hx
  · cases hx
  · rename_i hp0
    subst hct; subst hhp
    obtain ⟨e1, e2, e3⟩ := c4 hp0
    unfold cxName at c3
    rw [if_neg hp0] at c3
    refine vx_catch (E := "FinalLinks$Fault") (name := "FinalLinks$Fault") C.ow [] x [] hsplit (fun z hz => by cases hz) hcov h0 (C.ws _ hlink) (va_Nw.use rfl (C.en.2.2.2.1 _ _ hcast)) c1 c2 c3 ?_
    obtain ⟨o1, o2, o3, o4, o5, o6, o7⟩ := ok
    have hk := kk hp0 r h9 hx mp H locs ls ⟨o1, o2, o3, o4, o5, o6, fun v hv => by
      rcases List.mem_cons.mp hv with e | g
      · rw [e]; exact vOk_vr e1
      · cases g⟩ (H.size - (eS E).heap.size) (totS H - totS (eS E).heap)
    rw [List.map_cons, rv_vr, rfv_p mp hp0, ← e2] at hk
    exact hk
variable {β1 : Type} {f : Option (Except Nat β1 × Hp)} {f2 : Option (Except Nat β1 × Hp)} {X : Nat → Hp → Option (β × Hp)} {K : β1 → Hp → Option (β × Hp)}
theorem s_dspX {t : Nat} {l : List (Nat × Option (Except Nat β1 × Hp))} (c : Nat) (kt : t = c → Sim id E QF h pc la sa (bh f X K)) (kf : Sim id E QF h pc la sa (bh (dsp t f2 l) X K)) : Sim id E QF h pc la sa (bh (dsp t f2 ((c, f) :: l)) X K) := by
  unfold dsp
  by_cases hc : t = c
  · rw [if_pos hc]; exact kt hc
  · rw [if_neg hc]; exact kf
theorem s_dspX0 {t : Nat} : Sim id E QF h pc la sa (bh (dsp t (none : Option (Except Nat β1 × Hp)) []) X K) := sim_none
theorem s_dkX (pcn : Nat) (fin1 : β1 → Option Value) (sar : List Value) (kx : ∀ p h1, SimX E QF h1 p pc la (X p h1)) (hk : ∀ r1 h1, Sim id E QF h1 pcn la ((fin1 r1).toList ++ sar) (K r1 h1)) (hd : (∀ p h1, SimX E QF h1 p pc la (X p h1)) → (∀ r1 h1, Sim id E QF h1 pcn la ((fin1 r1).toList ++ sar) (K r1 h1)) → Sim id E QF h pc la sa (bh f X K)) : Sim id E QF h pc la sa (bh f X K) := hd kx hk
end NSE
/-- a contract of a method with handlers, out of a walk -/
theorem Ct.ofH {β : Type} {G : Gx} {RL : Lv} {Pl : Nat → Bool} {l : Launch} {y : MethodName} {cc : ByteArray} {maxL fr lo : Nat} {ret : Option FieldType} {hh : List (Nat × Nat × Nat × Nat)} {fin : β → Option Value} {av : List Value} {h : Hp} {x : Option (β × Hp)} (la0 : List (Nat × Value))
    (hy : plainName y.cls = true) (hLv : LvA G RL Pl) (hla : lv_args 0 av = la0) (hlen : (av.map fun v => if v.category = 2 then 2 else 1).sum ≤ maxL)
    (body : ∀ E : Ex, Cx E cc ret y.cls → (eMe E).name = y.name → (eR E).frames = fr → (eR E).locals = lo → eL E = l → eG E = G → eRL E = RL → ePl E = Pl → eNL E = maxL → (eC E).exceptionTable.toList = tableOf hh → Sim id E (QM id E fin) h 0 la0 [] x) :
    Ct id G RL l y (wsW_ y cc maxL ret hh) fr lo fin av h x := by
  intro r h9 hx mp sz st
  refine MetFree.of_bodyS (code := cc) (maxLocals := maxL) (ret := ret) hy ?_ ?_
  · intro args s m h hn
    obtain ⟨m9, meth, c, hn9, h1, h2, h3, h4, -, h5, h6, -⟩ := Cond.codeWith_spec (atoms_spec (ws := wsW_ y cc maxL ret hh) h _ List.mem_cons_self)
    cases hn.symm.trans hn9
    exact ⟨meth, c, h1, h2, h3, h4, h5, h6⟩
  · intro p e s m args below meth c s₁ B hml hv _
    have hh0 : s₁.heap = s.heap := by rw [B.state]; rfl
    have hts := atoms_spec (ws := wsW_ y cc maxL ret hh) B.pre
    have htab := vx_table (x := y) B (hts _ List.mem_cons_self)
    obtain ⟨rfl, hsz, hst, hEn, hRL, hok⟩ := hv
    have hnm := name_of_methodNamed B.named B.method
    subst hsz; subst hst; subst hla
    have hR : Rm ((p, l, e, (headSpec (wsW_ y cc maxL ret hh) { frames := fr, cells := LIM + gB G - s.heap.size, slots := LIM + gT G - totS s.heap, locals := lo }).room, s, m, (av.map (rv mp)).toArray, below, meth, c), G, RL, mp, h.1, maxL, Pl) := by
      refine ⟨?_, ?_⟩
      · show LIM + gB G ≤ (LIM + gB G - s.heap.size) + s.heap.size
        omega
      · show LIM + gT G ≤ (LIM + gT G - totS s.heap) + totS s.heap
        omega
    have hk := body ((p, l, e, (headSpec (wsW_ y cc maxL ret hh) { frames := fr, cells := LIM + gB G - s.heap.size, slots := LIM + gT G - totS s.heap, locals := lo }).room, s, m, (av.map (rv mp)).toArray, below, meth, c), G, RL, mp, h.1, maxL, Pl)
      ⟨B.exec, B.bytes, B.returns, hml, findClass_of_methodNamed B.named, fun w h => hts w (List.mem_cons_of_mem _ h), B.notSynchronized, hEn, hLv, hR⟩ hnm.1 rfl rfl rfl rfl rfl rfl rfl htab r h9 hx
    have hl := lv_entry (av.map (rv mp)) (n := maxL) (by rw [lg_sl_rv, lg_sl_len]; exact hlen)
    rw [lv_args_rv] at hl
    have hk2 := hk mp s.heap [] _ ⟨Xt.rf, Nat.le_refl _, hRL, va_S.rf, hl, lv_args_ok hok 0, fun v hv => by cases hv⟩ 0 0
    rw [lg_entry_eq]
    obtain ⟨t, a1, o, b1, b2, b3⟩ := hk2 s₁ hh0 (Stand.of_body B)
    exact ⟨t, o, a1, b1, b2, ⟨b3.1, b3.2⟩⟩
