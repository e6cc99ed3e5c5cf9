/-! THE LIBRARY'S METHODS ON THE RAW HEAP (printed by hgenraw.py) -/
set_option maxRecDepth 100000
def g_HashMap_tableSizeFor_j31 (y0 : Int32) (h4 : Hp) : Option (Int32 × Hp) :=
  some (y0, h4)
def g_HashMap_tableSizeFor (x0 : Int32) (h : Hp) : Option (Int32 × Hp) :=
  bn (g_Integer_numberOfLeadingZeros (x0 - (1 : Int32)) h) fun r1 h2 =>
  bd (((-1 : Int32).toUInt32 >>> (r1.toUInt32 &&& Int32.toUInt32 31)).toInt32) fun a3 =>
  if 0 ≤ a3 then
    if a3 < (1073741824 : Int32) then
      g_HashMap_tableSizeFor_j31 (a3 + (1 : Int32)) h2
    else
      g_HashMap_tableSizeFor_j31 (1073741824 : Int32) h2
  else
    g_HashMap_tableSizeFor_j31 (1 : Int32) h2
theorem ct_g_HashMap_tableSizeFor {G : Gx} {RL : Lv} {l : Launch} (hL : LvA G RL plR) (x0 : Int32) (h : Hp) : Ct id G RL l yJ4_tableSizeFor (ws_ yJ4_tableSizeFor cJ4_tableSizeFor 2 (some .int)) 1 21 finI [.int x0] h (g_HashMap_tableSizeFor x0 h) := by
  refine Ct.of (Pl := plR) [(0, .int x0)] (by decide) hL rfl (Nat.le_of_ble_eq_true rfl) ?_
  intro E C e6 hf hlo e1 e2 e3 e4 e5
  subst e1; subst e2; subst e3
  replace C : Cx E cJ4_tableSizeFor (some .int) RJ4 := C
  replace e6 : (eMe E).name = "tableSizeFor" := e6
  unfold g_HashMap_tableSizeFor
  refine s_iconst C (-1 : Int32) dJ4_tableSizeFor_0 (by decide) ?_
  refine s_iload_n C dJ4_tableSizeFor_1 0 rfl rfl ?_
  refine s_iconst C (1 : Int32) dJ4_tableSizeFor_2 (by decide) ?_
  refine s_isub C dJ4_tableSizeFor_3 ?_
  refine c_S C 1 [.int (-1 : Int32)] (ct_g_Integer_numberOfLeadingZeros hL (x0 - (1 : Int32)) h) (lw_S q319 q320 q119 q321) nd_J9_numberOfLeadingZeros.2 rfl (le_fr hf rfl) (le_fr hlo rfl) rfl (Nat.le_of_ble_eq_true rfl) dJ4_tableSizeFor_4 fun r1 h2 => ?_
  refine s_iushr C (r1.toUInt32 &&& Int32.toUInt32 31) dJ4_tableSizeFor_7 rfl ?_
  refine s_bdi fun a3 => ?_
  refine s_istore_n (la' := [(1, .int a3), (0, .int x0)]) C 1 dJ4_tableSizeFor_8 rfl (lt_nl e5 rfl) rfl ?_
  refine s_iload_n C dJ4_tableSizeFor_9 0 rfl rfl ?_
  have hj31 : ∀ (y0 : Int32) (h4 : Hp), Sim id E (QM id E finI) h4 31 [] [.int y0] (g_HashMap_tableSizeFor_j31 y0 h4) := by
    intro y0 h4
    exact s_iret C rfl dJ4_tableSizeFor_31
  refine s_if_ge C 17 dJ4_tableSizeFor_10 (by decide) ?_ ?_
  · refine s_iload_n C dJ4_tableSizeFor_17 0 rfl rfl ?_
    refine s_ldci C q312 dJ4_tableSizeFor_18 ?_
    refine s_icmp_lt C 28 dJ4_tableSizeFor_20 (by decide) ?_ ?_
    · refine s_iload_n C dJ4_tableSizeFor_28 0 rfl rfl ?_
      refine s_iconst C (1 : Int32) dJ4_tableSizeFor_29 (by decide) ?_
      refine s_iadd C dJ4_tableSizeFor_30 ?_
      refine Sim.keep [] rfl ?_
      exact hj31 _ _
    · refine s_ldci C q312 dJ4_tableSizeFor_23 ?_
      refine s_goto C 31 dJ4_tableSizeFor_25 (by decide) ?_
      refine Sim.keep [] rfl ?_
      exact hj31 _ _
  · refine s_iconst C (1 : Int32) dJ4_tableSizeFor_13 (by decide) ?_
    refine s_goto C 31 dJ4_tableSizeFor_14 (by decide) ?_
    refine Sim.keep [] rfl ?_
    exact hj31 _ _

def g_HashMap_init2_j57  (h4 : Hp) : Option (Unit × Hp) :=
  none
def g_HashMap_init2_j44 (x0 : Nat) (x1 : Int32) (x2 : UInt32) (h3 : Hp) : Option (Unit × Hp) :=
  if (Op.cmpValue (FP.fcmp x2 FP.fconst0) .g) ≤ 0 then
    g_HashMap_init2_j57 h3
  else
    bn (g_Float_isNaN x2 h3) fun r5 h6 =>
    if r5 = 0 then
      (putI [22, 33] 0 7 x0 x2.toInt32 h6).bind fun h7 =>
      bn (g_HashMap_tableSizeFor x1 h7) fun r8 h9 =>
      (putI [22, 33] 0 6 x0 r8 h9).bind fun h10 =>
      some ((), h10)
    else
      g_HashMap_init2_j57 h6
def g_HashMap_init2 (x0 : Nat) (x1 : Int32) (x2 : UInt32) (h : Hp) : Option (Unit × Hp) :=
  if x0 = 0 then none else
  bn (g_AbstractMap_init x0 h) fun _ h1 =>
  if 0 ≤ x1 then
    if x1 ≤ (1073741824 : Int32) then
      g_HashMap_init2_j44 x0 x1 x2 h1
    else
      g_HashMap_init2_j44 x0 (1073741824 : Int32) x2 h1
  else
    none
theorem ct_g_HashMap_init2 {G : Gx} {RL : Lv} {l : Launch} (hL : LvA G RL plR) (x0 : Nat) (x1 : Int32) (x2 : UInt32) (h : Hp) : Ct id G RL l yJ4_init_3 (ws_ yJ4_init_3 cJ4_init_3 3 none) 2 42 finV [vr x0, .int x1, .float x2] h (g_HashMap_init2 x0 x1 x2 h) := by
  refine Ct.of (Pl := plR) [(0, vr x0), (1, .int x1), (2, .float x2)] (by decide) hL rfl (Nat.le_of_ble_eq_true rfl) ?_
  intro E C e6 hf hlo e1 e2 e3 e4 e5
  subst e1; subst e2; subst e3
  replace C : Cx E cJ4_init_3 none RJ4 := C
  replace e6 : (eMe E).name = "<init>" := e6
  unfold g_HashMap_init2
  refine s_aload_n C dJ4_init_3_0 0 rfl rfl ?_
  refine s_nz fun z2 => ?_
  refine c_I C 0 [] z2 (ct_g_AbstractMap_init hL x0 h) (lw_meth q222) q112 q220 q221 rfl nd_J3_init.2 rfl (le_fr hf rfl) (le_fr hlo rfl) rfl (Nat.le_of_ble_eq_true rfl) dJ4_init_3_1 fun _ h1 => ?_
  refine s_iload_n C dJ4_init_3_4 1 rfl rfl ?_
  refine s_if_ge C 35 dJ4_init_3_5 (by decide) ?_ ?_
  · refine s_iload_n C dJ4_init_3_35 1 rfl rfl ?_
    refine s_ldci C q312 dJ4_init_3_36 ?_
    have hj44 : ∀ (x0 : Nat) (x1 : Int32) (x2 : UInt32) (h3 : Hp), Sim id E (QM id E finV) h3 44 [(0, vr x0), (1, .int x1), (2, .float x2)] [] (g_HashMap_init2_j44 x0 x1 x2 h3) := by
      intro x0 x1 x2 h3
      refine s_fload_n C dJ4_init_3_44 2 rfl rfl ?_
      refine s_fconst0 C dJ4_init_3_45 ?_
      refine s_fcmp C dJ4_init_3_46 ?_
      have hj57 : ∀  (h4 : Hp), Sim id E (QM id E finV) h4 57 [] [] (g_HashMap_init2_j57 h4) := by
        intro h4
        exact sim_none
      refine s_if_le C 57 dJ4_init_3_47 (by decide) ?_ ?_
      · refine Sim.keep [] rfl ?_
        exact hj57 _
      · refine s_fload_n C dJ4_init_3_50 2 rfl rfl ?_
        refine c_S C 1 [] (ct_g_Float_isNaN hL x2 h3) (lw_S q313 q314 q118 q315) nd_J8_isNaN.2 rfl (le_fr hf rfl) (le_fr hlo rfl) rfl (Nat.le_of_ble_eq_true rfl) dJ4_init_3_51 fun r5 h6 => ?_
        refine s_if_eq C 84 dJ4_init_3_54 (by decide) ?_ ?_
        · refine s_aload_n C dJ4_init_3_84 0 rfl rfl ?_
          refine s_fload_n C dJ4_init_3_85 2 rfl rfl ?_
          refine s_putF [22, 33] C (flc ⟨⟨by decide, fo_J4_81_22, rfl⟩, rfl⟩ (fl1 ⟨⟨by decide, fo_J4_81_33, rfl⟩, rfl⟩)) (pl_of e4 rfl) (flc (Or.inr ⟨e6, fx_J4_81_22⟩) (fl1 (Or.inr ⟨e6, fx_J4_81_33⟩))) dJ4_init_3_86 fun h7 => ?_
          refine s_aload_n C dJ4_init_3_89 0 rfl rfl ?_
          refine s_iload_n C dJ4_init_3_90 1 rfl rfl ?_
          refine c_S C 1 [vr x0] (ct_g_HashMap_tableSizeFor hL x1 h7) (lw_S q316 q317 q113 q318) nd_J4_tableSizeFor.2 rfl (le_fr hf rfl) (le_fr hlo rfl) rfl (Nat.le_of_ble_eq_true rfl) dJ4_init_3_91 fun r8 h9 => ?_
          refine s_putI [22, 33] 0 C (by decide) (by decide) (flc ⟨⟨by decide, fo_J4_88_22, rfl⟩, rfl⟩ (fl1 ⟨⟨by decide, fo_J4_88_33, rfl⟩, rfl⟩)) (pl_of e4 rfl) (flc (Or.inl rfl) (fl1 (Or.inl rfl))) dJ4_init_3_94 fun h10 => ?_
          exact s_vret C rfl dJ4_init_3_97
        · refine Sim.keep [] rfl ?_
          exact hj57 _
    refine s_icmp_le C 44 dJ4_init_3_38 (by decide) ?_ ?_
    · exact hj44 _ _ _ _
    · refine s_ldci C q312 dJ4_init_3_41 ?_
      refine s_istore_n (la' := [(1, .int (1073741824 : Int32)), (0, vr x0), (2, .float x2)]) C 1 dJ4_init_3_43 rfl (lt_nl e5 rfl) rfl ?_
      refine Sim.keep [1, 0, 2] rfl ?_
      exact hj44 _ _ _ _
  · exact sim_none

def g_HashMap_init3 (x0 : Nat) (x1 : Int32) (h : Hp) : Option (Unit × Hp) :=
  if x0 = 0 then none else
  bn (g_HashMap_init2 x0 x1 (1061158912 : UInt32) h) fun _ h1 =>
  some ((), h1)
theorem ct_g_HashMap_init3 {G : Gx} {RL : Lv} {l : Launch} (hL : LvA G RL plR) (x0 : Nat) (x1 : Int32) (h : Hp) : Ct id G RL l yJ4_init_2 (ws_ yJ4_init_2 cJ4_init_2 2 none) 3 64 finV [vr x0, .int x1] h (g_HashMap_init3 x0 x1 h) := by
  refine Ct.of (Pl := plR) [(0, vr x0), (1, .int x1)] (by decide) hL rfl (Nat.le_of_ble_eq_true rfl) ?_
  intro E C e6 hf hlo e1 e2 e3 e4 e5
  subst e1; subst e2; subst e3
  replace C : Cx E cJ4_init_2 none RJ4 := C
  replace e6 : (eMe E).name = "<init>" := e6
  unfold g_HashMap_init3
  refine s_aload_n C dJ4_init_2_0 0 rfl rfl ?_
  refine s_iload_n C dJ4_init_2_1 1 rfl rfl ?_
  refine s_ldcf C q224 dJ4_init_2_2 ?_
  refine s_nz fun z2 => ?_
  refine c_I C 2 [] z2 (ct_g_HashMap_init2 hL x0 x1 (1061158912 : UInt32) h) (lw_meth q311) q113 q309 q310 rfl nd_J4_init_3.2 rfl (le_fr hf rfl) (le_fr hlo rfl) rfl (Nat.le_of_ble_eq_true rfl) dJ4_init_2_4 fun _ h1 => ?_
  exact s_vret C rfl dJ4_init_2_7

def g_HashMap_afterNodeAccess (x0 : Nat) (x1 : Nat) (h : Hp) : Option (Unit × Hp) :=
  some ((), h)
theorem ct_g_HashMap_afterNodeAccess {G : Gx} {RL : Lv} {l : Launch} (hL : LvA G RL plR) (x0 : Nat) (x1 : Nat) (h : Hp) : Ct id G RL l yJ4_afterNodeAccess (ws_ yJ4_afterNodeAccess cJ4_afterNodeAccess 2 none) 0 0 finV [vr x0, vr x1] h (g_HashMap_afterNodeAccess x0 x1 h) := by
  refine Ct.of (Pl := plR) [(0, vr x0), (1, vr x1)] (by decide) hL rfl (Nat.le_of_ble_eq_true rfl) ?_
  intro E C e6 hf hlo e1 e2 e3 e4 e5
  subst e1; subst e2; subst e3
  replace C : Cx E cJ4_afterNodeAccess none RJ4 := C
  replace e6 : (eMe E).name = "afterNodeAccess" := e6
  unfold g_HashMap_afterNodeAccess
  exact s_vret C rfl dJ4_afterNodeAccess_0

def g_HashMap_afterNodeInsertion (x0 : Nat) (x1 : Int32) (h : Hp) : Option (Unit × Hp) :=
  some ((), h)
theorem ct_g_HashMap_afterNodeInsertion {G : Gx} {RL : Lv} {l : Launch} (hL : LvA G RL plR) (x0 : Nat) (x1 : Int32) (h : Hp) : Ct id G RL l yJ4_afterNodeInsertion (ws_ yJ4_afterNodeInsertion cJ4_afterNodeInsertion 2 none) 0 0 finV [vr x0, .int x1] h (g_HashMap_afterNodeInsertion x0 x1 h) := by
  refine Ct.of (Pl := plR) [(0, vr x0), (1, .int x1)] (by decide) hL rfl (Nat.le_of_ble_eq_true rfl) ?_
  intro E C e6 hf hlo e1 e2 e3 e4 e5
  subst e1; subst e2; subst e3
  replace C : Cx E cJ4_afterNodeInsertion none RJ4 := C
  replace e6 : (eMe E).name = "afterNodeInsertion" := e6
  unfold g_HashMap_afterNodeInsertion
  exact s_vret C rfl dJ4_afterNodeInsertion_0

def g_HashMap_clear_j49  (h4 : Hp) : Option (Unit × Hp) :=
  some ((), h4)
def g_HashMap_clear_L33 (x1 : Nat) : Int32 → Hp → Option (Unit × Hp) :=
  lp FU fun rec33 v33 h7 =>
    (alen [206] x1 h7).bind fun a8 =>
    if a8 ≤ v33 then
      g_HashMap_clear_j49 h7
    else
      (astR [206] [30, 31, 32] x1 v33 0 h7).bind fun h9 =>
      rec33 (v33 + (1 : Int32)) h9
def g_HashMap_clear (x0 : Nat) (h : Hp) : Option (Unit × Hp) :=
  (getI [22, 33] 5 x0 h).bind fun a1 =>
  (putI [22, 33] 0 5 x0 (a1 + (1 : Int32)) h).bind fun h2 =>
  (getR [22, 33] 2 x0 h2).bind fun a3 =>
  if a3 = 0 then
    g_HashMap_clear_j49 h2
  else
    (getI [22, 33] 4 x0 h2).bind fun a5 =>
    if a5 ≤ 0 then
      g_HashMap_clear_j49 h2
    else
      (putI [22, 33] 0 4 x0 (0 : Int32) h2).bind fun h6 =>
      g_HashMap_clear_L33 a3 (0 : Int32) h6
theorem ct_g_HashMap_clear {G : Gx} {RL : Lv} {l : Launch} (hL : LvA G RL plR) (x0 : Nat) (h : Hp) : Ct id G RL l yJ4_clear (ws_ yJ4_clear cJ4_clear 3 none) 0 0 finV [vr x0] h (g_HashMap_clear x0 h) := by
  refine Ct.of (Pl := plR) [(0, vr x0)] (by decide) hL rfl (Nat.le_of_ble_eq_true rfl) ?_
  intro E C e6 hf hlo e1 e2 e3 e4 e5
  subst e1; subst e2; subst e3
  replace C : Cx E cJ4_clear none RJ4 := C
  replace e6 : (eMe E).name = "clear" := e6
  unfold g_HashMap_clear
  refine s_aload_n C dJ4_clear_0 0 rfl rfl ?_
  refine s_dup C dJ4_clear_1 rfl ?_
  refine s_getI [22, 33] C (flc ⟨fo_J4_202_22, rfl⟩ (fl1 ⟨fo_J4_202_33, rfl⟩)) (pl_of e4 rfl) dJ4_clear_2 fun a1 => ?_
  refine s_iconst C (1 : Int32) dJ4_clear_5 (by decide) ?_
  refine s_iadd C dJ4_clear_6 ?_
  refine s_putI [22, 33] 0 C (by decide) (by decide) (flc ⟨⟨by decide, fo_J4_202_22, rfl⟩, rfl⟩ (fl1 ⟨⟨by decide, fo_J4_202_33, rfl⟩, rfl⟩)) (pl_of e4 rfl) (flc (Or.inl rfl) (fl1 (Or.inl rfl))) dJ4_clear_7 fun h2 => ?_
  refine s_aload_n C dJ4_clear_10 0 rfl rfl ?_
  refine s_getR [22, 33] C (flc ⟨fo_J4_105_22, rfl⟩ (fl1 ⟨fo_J4_105_33, rfl⟩)) (pl_of e4 rfl) dJ4_clear_11 fun a3 => ?_
  refine s_dup C dJ4_clear_14 rfl ?_
  refine s_astore_n (la' := [(1, vr a3), (0, vr x0)]) C 1 dJ4_clear_15 rfl (lt_nl e5 rfl) rfl ?_
  have hj49 : ∀  (h4 : Hp), Sim id E (QM id E finV) h4 49 [] [] (g_HashMap_clear_j49 h4) := by
    intro h4
    exact s_vret C rfl dJ4_clear_49
  refine s_ifnull C 49 dJ4_clear_16 (by decide) ?_ ?_
  · refine Sim.keep [] rfl ?_
    exact hj49 _
  · refine s_aload_n C dJ4_clear_19 1 rfl rfl ?_
    refine s_getI [22, 33] C (flc ⟨fo_J4_156_22, rfl⟩ (fl1 ⟨fo_J4_156_33, rfl⟩)) (pl_of e4 rfl) dJ4_clear_20 fun a5 => ?_
    refine s_if_le C 49 dJ4_clear_23 (by decide) ?_ ?_
    · refine Sim.keep [] rfl ?_
      exact hj49 _
    · refine s_aload_n C dJ4_clear_26 1 rfl rfl ?_
      refine s_iconst C (0 : Int32) dJ4_clear_27 (by decide) ?_
      refine s_putI [22, 33] 0 C (by decide) (by decide) (flc ⟨⟨by decide, fo_J4_156_22, rfl⟩, rfl⟩ (fl1 ⟨⟨by decide, fo_J4_156_33, rfl⟩, rfl⟩)) (pl_of e4 rfl) (flc (Or.inl rfl) (fl1 (Or.inl rfl))) dJ4_clear_28 fun h6 => ?_
      refine s_iconst C (0 : Int32) dJ4_clear_31 (by decide) ?_
      have hL33 : ∀ (x1 : Nat) (v33 : Int32) (h7 : Hp), Sim id E (QM id E finV) h7 33 [(1, vr x1), (2, .int v33)] [] (g_HashMap_clear_L33 x1 v33 h7) := by
        intro x1 v33 h7
        refine Sim.loop (fun v33 => [(1, vr x1), (2, .int v33)]) (fun _ => []) (fun rec33 hr33 v33 h7 => ?_) FU v33 h7
        refine s_iload_n C dJ4_clear_33 1 rfl rfl ?_
        refine s_aload_n C dJ4_clear_34 0 rfl rfl ?_
        refine s_alen [206] 6 C (fl1 rfl) (pl_of e4 rfl) dJ4_clear_35 fun a8 => ?_
        refine s_icmp_ge C 49 dJ4_clear_36 (by decide) ?_ ?_
        · refine Sim.keep [] rfl ?_
          exact hj49 _
        · refine s_aload_n C dJ4_clear_39 0 rfl rfl ?_
          refine s_iload_n C dJ4_clear_40 1 rfl rfl ?_
          refine s_null C dJ4_clear_41 ?_
          refine s_aast [206] [30, 31, 32] 6 "java/util/HashMap$Node" C (by decide) rfl (fl1 ⟨by decide, rfl⟩) (pl_of e4 rfl) (flc ao_java_util_HashMap_Node_30 (flc ao_java_util_HashMap_Node_31 (fl1 ao_java_util_HashMap_Node_32))) dJ4_clear_42 fun h9 => ?_
          refine s_iinc (la' := [(2, .int (v33 + (1 : Int32))), (1, vr x1)]) C 1 dJ4_clear_43 rfl rfl (lt_nl e5 rfl) rfl ?_
          refine s_goto C 33 dJ4_clear_46 (by decide) ?_
          refine Sim.keep [1, 0] rfl ?_
          exact hr33 _ _
      refine s_istore_n (la' := [(2, .int (0 : Int32)), (1, vr a3), (0, vr x0)]) C 2 dJ4_clear_32 rfl (lt_nl e5 rfl) rfl ?_
      refine Sim.keep [1, 0] rfl ?_
      exact hL33 _ _ _

def g_HashMap_comparableClassFor (x0 : Nat) (h : Hp) : Option (Nat × Hp) :=
  (ins [28, 29, 35] [] x0 h).bind fun a1 =>
  if a1 = 0 then
    some (0, h)
  else
    none
theorem ct_g_HashMap_comparableClassFor {G : Gx} {RL : Lv} {l : Launch} (hL : LvA G RL plR) (x0 : Nat) (h : Hp) : Ct id G RL l yJ4_comparableClassFor (ws_ yJ4_comparableClassFor cJ4_comparableClassFor 9 (some (.object "java/lang/Class"))) 0 0 finR [vr x0] h (g_HashMap_comparableClassFor x0 h) := by
  refine Ct.of (Pl := plR) [(0, vr x0)] (by decide) hL rfl (Nat.le_of_ble_eq_true rfl) ?_
  intro E C e6 hf hlo e1 e2 e3 e4 e5
  subst e1; subst e2; subst e3
  replace C : Cx E cJ4_comparableClassFor (some (.object "java/lang/Class")) RJ4 := C
  replace e6 : (eMe E).name = "comparableClassFor" := e6
  unfold g_HashMap_comparableClassFor
  refine s_aload_n C dJ4_comparableClassFor_0 0 rfl rfl ?_
  refine s_ins [28, 29, 35] [] "java/lang/Comparable" C q1084 (flc ao_java_lang_Comparable_28 (flc ao_java_lang_Comparable_29 (fl1 ao_java_lang_Comparable_35))) (fun _ h => by cases h) dJ4_comparableClassFor_1 fun a1 => ?_
  refine s_if_eq C 113 dJ4_comparableClassFor_4 (by decide) ?_ ?_
  · refine s_null C dJ4_comparableClassFor_113 ?_
    exact s_aret C (Or.inl ⟨_, rfl⟩) rfl dJ4_comparableClassFor_114
  · refine s_aload_n C dJ4_comparableClassFor_7 0 rfl rfl ?_
    exact sim_none

def g_HashMap_compareComparables (x0 : Nat) (x1 : Nat) (x2 : Nat) (h : Hp) : Option (Int32 × Hp) :=
  if x2 = 0 then
    some ((0 : Int32), h)
  else
    none
theorem ct_g_HashMap_compareComparables {G : Gx} {RL : Lv} {l : Launch} (hL : LvA G RL plR) (x0 : Nat) (x1 : Nat) (x2 : Nat) (h : Hp) : Ct id G RL l yJ4_compareComparables (ws_ yJ4_compareComparables cJ4_compareComparables 3 (some .int)) 0 0 finI [vr x0, vr x1, vr x2] h (g_HashMap_compareComparables x0 x1 x2 h) := by
  refine Ct.of (Pl := plR) [(0, vr x0), (1, vr x1), (2, vr x2)] (by decide) hL rfl (Nat.le_of_ble_eq_true rfl) ?_
  intro E C e6 hf hlo e1 e2 e3 e4 e5
  subst e1; subst e2; subst e3
  replace C : Cx E cJ4_compareComparables (some .int) RJ4 := C
  replace e6 : (eMe E).name = "compareComparables" := e6
  unfold g_HashMap_compareComparables
  refine s_aload_n C dJ4_compareComparables_0 2 rfl rfl ?_
  refine s_ifnull C 12 dJ4_compareComparables_1 (by decide) ?_ ?_
  · refine s_iconst C (0 : Int32) dJ4_compareComparables_12 (by decide) ?_
    refine s_goto C 26 dJ4_compareComparables_13 (by decide) ?_
    exact s_iret C rfl dJ4_compareComparables_26
  · refine s_aload_n C dJ4_compareComparables_4 2 rfl rfl ?_
    exact sim_none

def g_HashMap_hash_j19 (y0 : Int32) (h1 : Hp) : Option (Int32 × Hp) :=
  some (y0, h1)
def g_HashMap_hash (x0 : Nat) (h : Hp) : Option (Int32 × Hp) :=
  if x0 = 0 then
    g_HashMap_hash_j19 (0 : Int32) h
  else
    bn (dsp (tg h x0 % 500) none [(10, g_Link_hashCode x0 h), (12, g_Vote_hashCode x0 h), (28, g_String_hashCode x0 h), (35, g_Integer_hashCode2 x0 h)]) fun r2 h3 =>
    g_HashMap_hash_j19 (r2 ^^^ (r2.toUInt32 >>> (16 : UInt32)).toInt32) h3
theorem ct_g_HashMap_hash {G : Gx} {RL : Lv} {l : Launch} (hL : LvA G RL plR) (x0 : Nat) (h : Hp) : Ct id G RL l yJ4_hash (ws_ yJ4_hash cJ4_hash 2 (some .int)) 3 65 finI [vr x0] h (g_HashMap_hash x0 h) := by
  refine Ct.of (Pl := plR) [(0, vr x0)] (by decide) hL rfl (Nat.le_of_ble_eq_true rfl) ?_
  intro E C e6 hf hlo e1 e2 e3 e4 e5
  subst e1; subst e2; subst e3
  replace C : Cx E cJ4_hash (some .int) RJ4 := C
  replace e6 : (eMe E).name = "hash" := e6
  unfold g_HashMap_hash
  refine s_aload_n C dJ4_hash_0 0 rfl rfl ?_
  have hj19 : ∀ (y0 : Int32) (h1 : Hp), Sim id E (QM id E finI) h1 19 [] [.int y0] (g_HashMap_hash_j19 y0 h1) := by
    intro y0 h1
    exact s_iret C rfl dJ4_hash_19
  refine s_ifnonnull C 8 dJ4_hash_1 (by decide) ?_ ?_
  · refine s_aload_n C dJ4_hash_8 0 rfl rfl ?_
    refine s_dk 12 finI [] (fun r2 h3 => ?_) (fun hk => s_dsp 10 (fun ht => c_A C 0 [] 10 RX11 "java/lang/Object" ro_10 (ct_g_Link_hashCode hL x0 h) (lw_U q906 q908 q919 q920 q157 q921) q905 ⟨by decide +kernel, by decide +kernel, by decide +kernel⟩ rfl (le_fr hf rfl) (le_fr hlo rfl) rfl (Nat.le_of_ble_eq_true rfl) dJ4_hash_9 hk ht) (s_dsp 12 (fun ht => c_A C 0 [] 12 RX14 "java/lang/Object" ro_12 (ct_g_Vote_hashCode hL x0 h) (lw_U q906 q908 q929 q930 q160 q931) q905 ⟨by decide +kernel, by decide +kernel, by decide +kernel⟩ rfl (le_fr hf rfl) (le_fr hlo rfl) rfl (Nat.le_of_ble_eq_true rfl) dJ4_hash_9 hk ht) (s_dsp 28 (fun ht => c_A C 0 [] 28 RJ27 "java/lang/Object" ro_28 (ct_g_String_hashCode hL x0 h) (lw_U q906 q908 q941 q942 q139 q943) q905 ⟨by decide +kernel, by decide +kernel, by decide +kernel⟩ rfl (le_fr hf rfl) (le_fr hlo rfl) rfl (Nat.le_of_ble_eq_true rfl) dJ4_hash_9 hk ht) (s_dsp 35 (fun ht => c_A C 0 [] 35 RJ9 "java/lang/Object" ro_35 (ct_g_Integer_hashCode2 hL x0 h) (lw_U q906 q908 q935 q936 q119 q937) q905 ⟨by decide +kernel, by decide +kernel, by decide +kernel⟩ rfl (le_fr hf rfl) (le_fr hlo rfl) rfl (Nat.le_of_ble_eq_true rfl) dJ4_hash_9 hk ht) s_dsp0))))
    refine s_dup C dJ4_hash_12 rfl ?_
    refine s_istore_n (la' := [(1, .int r2), (0, vr x0)]) C 1 dJ4_hash_13 rfl (lt_nl e5 rfl) rfl ?_
    refine s_iload_n C dJ4_hash_14 0 rfl rfl ?_
    refine s_bipush C (16 : Int32) dJ4_hash_15 (by decide) ?_
    refine s_iushr C (16 : UInt32) dJ4_hash_17 (by decide) ?_
    refine s_ixor C dJ4_hash_18 ?_
    refine Sim.keep [] rfl ?_
    exact hj19 _ _
  · refine s_iconst C (0 : Int32) dJ4_hash_4 (by decide) ?_
    refine s_goto C 19 dJ4_hash_5 (by decide) ?_
    refine Sim.keep [] rfl ?_
    exact hj19 _ _

def g_HashMapTreeNode_find_j165 (rec3 : (Nat × Nat) → Hp → Option (Nat × Hp)) (x1 : Int32) (x2 : Nat) (x3 : Nat) (x4 : Nat) (h5 : Hp) : Option (Nat × Hp) :=
  if x4 = 0 then
    some (0, h5)
  else
    rec3 (x3, x4) h5
def g_HashMapTreeNode_find_j74 (x4 : Nat) (h7 : Hp) : Option (Nat × Hp) :=
  some (x4, h7)
def g_HashMapTreeNode_find_j144 (x1 : Int32) (x2 : Nat) (x3 : Nat) (x9 : Nat) (h9 : Hp) : Option (Nat × Hp) :=
  none
def g_HashMapTreeNode_find_j139 (rec3 : (Nat × Nat) → Hp → Option (Nat × Hp)) (x1 : Int32) (x2 : Nat) (x3 : Nat) (y0 : Nat) (h13 : Hp) : Option (Nat × Hp) :=
  g_HashMapTreeNode_find_j165 rec3 x1 x2 x3 y0 h13
def g_HashMapTreeNode_find_j114 (rec3 : (Nat × Nat) → Hp → Option (Nat × Hp)) (x1 : Int32) (x2 : Nat) (x3 : Nat) (x7 : Nat) (x8 : Nat) (x9 : Nat) (h10 : Hp) : Option (Nat × Hp) :=
  bn (g_HashMap_compareComparables x3 x2 x7 h10) fun r11 h12 =>
  if r11 = 0 then
    g_HashMapTreeNode_find_j144 x1 x2 x3 x9 h12
  else
    if 0 ≤ r11 then
      g_HashMapTreeNode_find_j139 rec3 x1 x2 x3 x9 h12
    else
      g_HashMapTreeNode_find_j139 rec3 x1 x2 x3 x8 h12
def g_HashMapTreeNode_find_j77 (rec3 : (Nat × Nat) → Hp → Option (Nat × Hp)) (x1 : Int32) (x2 : Nat) (x3 : Nat) (x7 : Nat) (x8 : Nat) (x9 : Nat) (h8 : Hp) : Option (Nat × Hp) :=
  if x8 = 0 then
    g_HashMapTreeNode_find_j165 rec3 x1 x2 x3 x9 h8
  else
    if x9 = 0 then
      g_HashMapTreeNode_find_j165 rec3 x1 x2 x3 x8 h8
    else
      if x3 = 0 then
        bn (g_HashMap_comparableClassFor x2 h8) fun r14 h15 =>
        if r14 = 0 then
          g_HashMapTreeNode_find_j144 x1 x2 r14 x9 h15
        else
          g_HashMapTreeNode_find_j114 rec3 x1 x2 r14 x7 x8 x9 h15
      else
        g_HashMapTreeNode_find_j114 rec3 x1 x2 x3 x7 x8 x9 h8
def g_HashMapTreeNode_find_L3 (x1 : Int32) (x2 : Nat) : (Nat × Nat) → Hp → Option (Nat × Hp) :=
  lp FU fun rec3 v3 h1 =>
    (getR [32] 7 v3.2 h1).bind fun a2 =>
    (getR [32] 8 v3.2 h1).bind fun a3 =>
    (getI [30, 31, 32] 0 v3.2 h1).bind fun a4 =>
    if a4 ≤ x1 then
      if x1 ≤ a4 then
        (getR [30, 31, 32] 1 v3.2 h1).bind fun a6 =>
        if a6 = x2 then
          g_HashMapTreeNode_find_j74 v3.2 h1
        else
          if x2 = 0 then
            g_HashMapTreeNode_find_j77 rec3 x1 x2 v3.1 a6 a2 a3 h1
          else
            bn (dsp (tg h1 x2 % 500) none [(10, g_Link_equals x2 a6 h1), (12, g_Vote_equals x2 a6 h1), (28, g_String_equals x2 a6 h1), (35, g_Integer_equals x2 a6 h1)]) fun r16 h17 =>
            if r16 = 0 then
              g_HashMapTreeNode_find_j77 rec3 x1 x2 v3.1 a6 a2 a3 h17
            else
              g_HashMapTreeNode_find_j74 v3.2 h17
      else
        g_HashMapTreeNode_find_j165 rec3 x1 x2 v3.1 a3 h1
    else
      g_HashMapTreeNode_find_j165 rec3 x1 x2 v3.1 a2 h1
def g_HashMapTreeNode_find (x0 : Nat) (x1 : Int32) (x2 : Nat) (x3 : Nat) (h : Hp) : Option (Nat × Hp) :=
  g_HashMapTreeNode_find_L3 x1 x2 (x3, x0) h
theorem ct_g_HashMapTreeNode_find {G : Gx} {RL : Lv} {l : Launch} (hL : LvA G RL plR) (x0 : Nat) (x1 : Int32) (x2 : Nat) (x3 : Nat) (h : Hp) : Ct id G RL l yJ36_find (ws_ yJ36_find cJ36_find 11 (some (.object "java/util/HashMap$TreeNode"))) 3 64 finR [vr x0, .int x1, vr x2, vr x3] h (g_HashMapTreeNode_find x0 x1 x2 x3 h) := by
  refine Ct.of (Pl := plR) [(0, vr x0), (1, .int x1), (2, vr x2), (3, vr x3)] (by decide) hL rfl (Nat.le_of_ble_eq_true rfl) ?_
  intro E C e6 hf hlo e1 e2 e3 e4 e5
  subst e1; subst e2; subst e3
  replace C : Cx E cJ36_find (some (.object "java/util/HashMap$TreeNode")) RJ36 := C
  replace e6 : (eMe E).name = "find" := e6
  unfold g_HashMapTreeNode_find
  refine s_aload_n C dJ36_find_0 0 rfl rfl ?_
  have hL3 : ∀ (x1 : Int32) (x2 : Nat) (v3 : (Nat × Nat)) (h1 : Hp), Sim id E (QM id E finR) h1 3 [(1, .int x1), (2, vr x2), (3, vr v3.1), (4, vr v3.2)] [] (g_HashMapTreeNode_find_L3 x1 x2 v3 h1) := by
    intro x1 x2 v3 h1
    refine Sim.loop (fun v3 => [(1, .int x1), (2, vr x2), (3, vr v3.1), (4, vr v3.2)]) (fun _ => []) (fun rec3 hr3 v3 h1 => ?_) FU v3 h1
    refine s_aload C dJ36_find_3 3 rfl ?_
    refine s_getR [32] C (fl1 ⟨fo_J36_39_32, rfl⟩) (pl_of e4 rfl) dJ36_find_5 fun a2 => ?_
    refine s_astore (la' := [(8, vr a2), (1, .int x1), (2, vr x2), (3, vr v3.1), (4, vr v3.2)]) C dJ36_find_8 (lt_nl e5 rfl) rfl ?_
    refine s_aload C dJ36_find_10 4 rfl ?_
    refine s_getR [32] C (fl1 ⟨fo_J36_42_32, rfl⟩) (pl_of e4 rfl) dJ36_find_12 fun a3 => ?_
    refine s_astore (la' := [(9, vr a3), (8, vr a2), (1, .int x1), (2, vr x2), (3, vr v3.1), (4, vr v3.2)]) C dJ36_find_15 (lt_nl e5 rfl) rfl ?_
    refine s_aload C dJ36_find_17 5 rfl ?_
    refine s_getI [30, 31, 32] C (flc ⟨fo_J36_15_30, rfl⟩ (flc ⟨fo_J36_15_31, rfl⟩ (fl1 ⟨fo_J36_15_32, rfl⟩))) (pl_of e4 rfl) dJ36_find_19 fun a4 => ?_
    refine s_dup C dJ36_find_22 rfl ?_
    refine s_istore (la' := [(5, .int a4), (9, vr a3), (8, vr a2), (1, .int x1), (2, vr x2), (3, vr v3.1), (4, vr v3.2)]) C dJ36_find_23 (lt_nl e5 rfl) rfl ?_
    refine s_iload_n C dJ36_find_25 3 rfl rfl ?_
    have hj165 : ∀ (x3 : Nat) (x4 : Nat) (h5 : Hp), Sim id E (QM id E finR) h5 165 [(1, .int x1), (2, vr x2), (3, vr x3), (4, vr x4)] [] (g_HashMapTreeNode_find_j165 rec3 x1 x2 x3 x4 h5) := by
      intro x3 x4 h5
      refine s_aload C dJ36_find_165 3 rfl ?_
      refine s_ifnonnull C 3 dJ36_find_167 (by decide) ?_ ?_
      · exact hr3 _ _
      · refine s_null C dJ36_find_170 ?_
        exact s_aret C (Or.inl ⟨_, rfl⟩) rfl dJ36_find_171
    refine s_icmp_le C 36 dJ36_find_26 (by decide) ?_ ?_
    · refine s_iload C dJ36_find_36 0 rfl ?_
      refine s_iload_n C dJ36_find_38 3 rfl rfl ?_
      refine s_icmp_ge C 49 dJ36_find_39 (by decide) ?_ ?_
      · refine s_aload C dJ36_find_49 6 rfl ?_
        refine s_getR [30, 31, 32] C (flc ⟨fo_J36_45_30, rfl⟩ (flc ⟨fo_J36_45_31, rfl⟩ (fl1 ⟨fo_J36_45_32, rfl⟩))) (pl_of e4 rfl) dJ36_find_51 fun a6 => ?_
        refine s_dup C dJ36_find_54 rfl ?_
        refine s_astore (la' := [(7, vr a6), (5, .int a4), (9, vr a3), (8, vr a2), (1, .int x1), (2, vr x2), (3, vr v3.1), (4, vr v3.2)]) C dJ36_find_55 (lt_nl e5 rfl) rfl ?_
        refine s_aload_n C dJ36_find_57 5 rfl rfl ?_
        have hj74 : ∀ (x4 : Nat) (h7 : Hp), Sim id E (QM id E finR) h7 74 [(4, vr x4)] [] (g_HashMapTreeNode_find_j74 x4 h7) := by
          intro x4 h7
          refine s_aload C dJ36_find_74 0 rfl ?_
          exact s_aret C (Or.inl ⟨_, rfl⟩) rfl dJ36_find_76
        refine s_acmp_eq 74 C dJ36_find_58 (by decide) ?_ ?_
        · refine Sim.keep [7] rfl ?_
          exact hj74 _ _
        · refine s_aload_n C dJ36_find_61 5 rfl rfl ?_
          have hj77 : ∀ (x3 : Nat) (x7 : Nat) (x8 : Nat) (x9 : Nat) (h8 : Hp), Sim id E (QM id E finR) h8 77 [(1, .int x1), (2, vr x2), (3, vr x3), (7, vr x7), (8, vr x8), (9, vr x9)] [] (g_HashMapTreeNode_find_j77 rec3 x1 x2 x3 x7 x8 x9 h8) := by
            intro x3 x7 x8 x9 h8
            refine s_aload C dJ36_find_77 4 rfl ?_
            refine s_ifnonnull C 89 dJ36_find_79 (by decide) ?_ ?_
            · refine s_aload C dJ36_find_89 5 rfl ?_
              refine s_ifnonnull C 101 dJ36_find_91 (by decide) ?_ ?_
              · refine s_aload_n C dJ36_find_101 2 rfl rfl ?_
                have hj144 : ∀ (x1 : Int32) (x2 : Nat) (x3 : Nat) (x9 : Nat) (h9 : Hp), Sim id E (QM id E finR) h9 144 [(1, .int x1), (2, vr x2), (3, vr x3), (9, vr x9)] [] (g_HashMapTreeNode_find_j144 x1 x2 x3 x9 h9) := by
                  intro x1 x2 x3 x9 h9
                  refine s_aload C dJ36_find_144 3 rfl ?_
                  refine s_iload_n C dJ36_find_146 0 rfl rfl ?_
                  refine s_aload_n C dJ36_find_147 1 rfl rfl ?_
                  refine s_aload_n C dJ36_find_148 2 rfl rfl ?_
                  exact sim_none
                have hj114 : ∀ (x3 : Nat) (x7 : Nat) (x8 : Nat) (x9 : Nat) (h10 : Hp), Sim id E (QM id E finR) h10 114 [(1, .int x1), (2, vr x2), (3, vr x3), (7, vr x7), (8, vr x8), (9, vr x9)] [] (g_HashMapTreeNode_find_j114 rec3 x1 x2 x3 x7 x8 x9 h10) := by
                  intro x3 x7 x8 x9 h10
                  refine s_aload_n C dJ36_find_114 2 rfl rfl ?_
                  refine s_aload_n C dJ36_find_115 1 rfl rfl ?_
                  refine s_aload C dJ36_find_116 3 rfl ?_
                  refine c_S C 3 [] (ct_g_HashMap_compareComparables hL x3 x2 x7 h10) (lw_S q1087 q1088 q113 q1089) nd_J4_compareComparables.2 rfl (le_fr hf rfl) (le_fr hlo rfl) rfl (Nat.le_of_ble_eq_true rfl) dJ36_find_118 fun r11 h12 => ?_
                  refine s_dup C dJ36_find_121 rfl ?_
                  refine s_istore (la' := [(6, .int r11), (1, .int x1), (2, vr x2), (3, vr x3), (7, vr x7), (8, vr x8), (9, vr x9)]) C dJ36_find_122 (lt_nl e5 rfl) rfl ?_
                  refine s_if_eq C 144 dJ36_find_124 (by decide) ?_ ?_
                  · refine Sim.keep [1, 2, 3, 6] rfl ?_
                    exact hj144 _ _ _ _ _
                  · refine s_iload C dJ36_find_127 0 rfl ?_
                    have hj139 : ∀ (x3 : Nat) (y0 : Nat) (h13 : Hp), Sim id E (QM id E finR) h13 139 [(1, .int x1), (2, vr x2), (3, vr x3)] [vr y0] (g_HashMapTreeNode_find_j139 rec3 x1 x2 x3 y0 h13) := by
                      intro x3 y0 h13
                      refine s_astore (la' := [(4, vr y0), (1, .int x1), (2, vr x2), (3, vr x3)]) C dJ36_find_139 (lt_nl e5 rfl) rfl ?_
                      refine s_goto C 165 dJ36_find_141 (by decide) ?_
                      refine Sim.keep [1, 2, 3, 0] rfl ?_
                      exact hj165 _ _ _
                    refine s_if_ge C 137 dJ36_find_129 (by decide) ?_ ?_
                    · refine s_aload C dJ36_find_137 6 rfl ?_
                      refine Sim.keep [1, 2, 3] rfl ?_
                      exact hj139 _ _ _
                    · refine s_aload C dJ36_find_132 5 rfl ?_
                      refine s_goto C 139 dJ36_find_134 (by decide) ?_
                      refine Sim.keep [1, 2, 3] rfl ?_
                      exact hj139 _ _ _
                refine s_ifnonnull C 114 dJ36_find_102 (by decide) ?_ ?_
                · exact hj114 _ _ _ _ _
                · refine s_aload_n C dJ36_find_105 1 rfl rfl ?_
                  refine c_S C 1 [] (ct_g_HashMap_comparableClassFor hL x2 h8) (lw_S q1081 q1082 q113 q1083) nd_J4_comparableClassFor.2 rfl (le_fr hf rfl) (le_fr hlo rfl) rfl (Nat.le_of_ble_eq_true rfl) dJ36_find_106 fun r14 h15 => ?_
                  refine s_dup C dJ36_find_109 rfl ?_
                  refine s_astore_n (la' := [(3, vr r14), (1, .int x1), (2, vr x2), (7, vr x7), (8, vr x8), (9, vr x9)]) C 3 dJ36_find_110 rfl (lt_nl e5 rfl) rfl ?_
                  refine s_ifnull C 144 dJ36_find_111 (by decide) ?_ ?_
                  · refine Sim.keep [1, 2, 0, 5] rfl ?_
                    exact hj144 _ _ _ _ _
                  · refine Sim.keep [1, 2, 0, 3, 4, 5] rfl ?_
                    exact hj114 _ _ _ _ _
              · refine s_aload C dJ36_find_94 4 rfl ?_
                refine s_astore (la' := [(4, vr x8), (1, .int x1), (2, vr x2), (3, vr x3), (7, vr x7), (8, vr x8), (9, vr x9)]) C dJ36_find_96 (lt_nl e5 rfl) rfl ?_
                refine s_goto C 165 dJ36_find_98 (by decide) ?_
                refine Sim.keep [1, 2, 3, 0] rfl ?_
                exact hj165 _ _ _
            · refine s_aload C dJ36_find_82 5 rfl ?_
              refine s_astore (la' := [(4, vr x9), (1, .int x1), (2, vr x2), (3, vr x3), (7, vr x7), (8, vr x8), (9, vr x9)]) C dJ36_find_84 (lt_nl e5 rfl) rfl ?_
              refine s_goto C 165 dJ36_find_86 (by decide) ?_
              refine Sim.keep [1, 2, 3, 0] rfl ?_
              exact hj165 _ _ _
          refine s_ifnull C 77 dJ36_find_62 (by decide) ?_ ?_
          · refine Sim.keep [4, 5, 6, 0, 3, 2] rfl ?_
            exact hj77 _ _ _ _ _
          · refine s_aload_n C dJ36_find_65 5 rfl rfl ?_
            refine s_aload C dJ36_find_66 0 rfl ?_
            refine s_dk 71 finI [] (fun r16 h17 => ?_) (fun hk => s_dsp 10 (fun ht => c_O C 1 [] 10 RX11 _ ro_10 (ct_g_Link_equals hL x2 a6 h1) (lw_O q1080 q1014 q1013 q1025 q1026 q157 q1027) q1066 ⟨by decide +kernel, by decide +kernel, by decide +kernel⟩ rfl (le_fr hf rfl) (le_fr hlo rfl) rfl (Nat.le_of_ble_eq_true rfl) dJ36_find_68 hk ht) (s_dsp 12 (fun ht => c_O C 1 [] 12 RX14 _ ro_12 (ct_g_Vote_equals hL x2 a6 h1) (lw_O q1080 q1014 q1013 q1041 q1042 q160 q1043) q1066 ⟨by decide +kernel, by decide +kernel, by decide +kernel⟩ rfl (le_fr hf rfl) (le_fr hlo rfl) rfl (Nat.le_of_ble_eq_true rfl) dJ36_find_68 hk ht) (s_dsp 28 (fun ht => c_O C 1 [] 28 RJ27 _ ro_28 (ct_g_String_equals hL x2 a6 h1) (lw_O q1080 q1014 q1013 q1056 q1057 q139 q1058) q1066 ⟨by decide +kernel, by decide +kernel, by decide +kernel⟩ rfl (le_fr hf rfl) (le_fr hlo rfl) rfl (Nat.le_of_ble_eq_true rfl) dJ36_find_68 hk ht) (s_dsp 35 (fun ht => c_O C 1 [] 35 RJ9 _ ro_35 (ct_g_Integer_equals hL x2 a6 h1) (lw_O q1080 q1014 q1013 q1048 q1049 q119 q1050) q1066 ⟨by decide +kernel, by decide +kernel, by decide +kernel⟩ rfl (le_fr hf rfl) (le_fr hlo rfl) rfl (Nat.le_of_ble_eq_true rfl) dJ36_find_68 hk ht) s_dsp0))))
            refine s_if_eq C 77 dJ36_find_71 (by decide) ?_ ?_
            · refine Sim.keep [4, 5, 6, 0, 3, 2] rfl ?_
              exact hj77 _ _ _ _ _
            · refine Sim.keep [7] rfl ?_
              exact hj74 _ _
      · refine s_aload C dJ36_find_42 1 rfl ?_
        refine s_astore (la' := [(4, vr a3), (5, .int a4), (9, vr a3), (8, vr a2), (1, .int x1), (2, vr x2), (3, vr v3.1)]) C dJ36_find_44 (lt_nl e5 rfl) rfl ?_
        refine s_goto C 165 dJ36_find_46 (by decide) ?_
        refine Sim.keep [4, 5, 6, 0] rfl ?_
        exact hj165 _ _ _
    · refine s_aload C dJ36_find_29 2 rfl ?_
      refine s_astore (la' := [(4, vr a2), (5, .int a4), (9, vr a3), (8, vr a2), (1, .int x1), (2, vr x2), (3, vr v3.1)]) C dJ36_find_31 (lt_nl e5 rfl) rfl ?_
      refine s_goto C 165 dJ36_find_33 (by decide) ?_
      refine Sim.keep [4, 5, 6, 0] rfl ?_
      exact hj165 _ _ _
  refine s_astore (la' := [(4, vr x0), (0, vr x0), (1, .int x1), (2, vr x2), (3, vr x3)]) C dJ36_find_1 (lt_nl e5 rfl) rfl ?_
  refine Sim.keep [2, 3, 4, 0] rfl ?_
  exact hL3 _ _ _ _

def g_HashMapTreeNode_root_L2  : Nat → Hp → Option (Nat × Hp) :=
  lp FU fun rec2 v2 h1 =>
    (getR [32] 6 v2 h1).bind fun a2 =>
    if a2 = 0 then
      some (v2, h1)
    else
      rec2 a2 h1
def g_HashMapTreeNode_root (x0 : Nat) (h : Hp) : Option (Nat × Hp) :=
  g_HashMapTreeNode_root_L2 x0 h
theorem ct_g_HashMapTreeNode_root {G : Gx} {RL : Lv} {l : Launch} (hL : LvA G RL plR) (x0 : Nat) (h : Hp) : Ct id G RL l yJ36_root (ws_ yJ36_root cJ36_root 3 (some (.object "java/util/HashMap$TreeNode"))) 0 0 finR [vr x0] h (g_HashMapTreeNode_root x0 h) := by
  refine Ct.of (Pl := plR) [(0, vr x0)] (by decide) hL rfl (Nat.le_of_ble_eq_true rfl) ?_
  intro E C e6 hf hlo e1 e2 e3 e4 e5
  subst e1; subst e2; subst e3
  replace C : Cx E cJ36_root (some (.object "java/util/HashMap$TreeNode")) RJ36 := C
  replace e6 : (eMe E).name = "root" := e6
  unfold g_HashMapTreeNode_root
  refine s_aload_n C dJ36_root_0 0 rfl rfl ?_
  have hL2 : ∀  (v2 : Nat) (h1 : Hp), Sim id E (QM id E finR) h1 2 [(1, vr v2)] [] (g_HashMapTreeNode_root_L2  v2 h1) := by
    intro v2 h1
    refine Sim.loop (fun v2 => [(1, vr v2)]) (fun _ => []) (fun rec2 hr2 v2 h1 => ?_) FU v2 h1
    refine s_aload_n C dJ36_root_2 0 rfl rfl ?_
    refine s_getR [32] C (fl1 ⟨fo_J36_9_32, rfl⟩) (pl_of e4 rfl) dJ36_root_3 fun a2 => ?_
    refine s_dup C dJ36_root_6 rfl ?_
    refine s_astore_n (la' := [(2, vr a2), (1, vr v2)]) C 2 dJ36_root_7 rfl (lt_nl e5 rfl) rfl ?_
    refine s_ifnonnull C 13 dJ36_root_8 (by decide) ?_ ?_
    · refine s_aload_n C dJ36_root_13 0 rfl rfl ?_
      refine s_astore_n (la' := [(1, vr a2), (2, vr a2)]) C 1 dJ36_root_14 rfl (lt_nl e5 rfl) rfl ?_
      refine s_goto C 2 dJ36_root_15 (by decide) ?_
      refine Sim.keep [0] rfl ?_
      exact hr2 _ _
    · refine s_aload_n C dJ36_root_11 1 rfl rfl ?_
      exact s_aret C (Or.inl ⟨_, rfl⟩) rfl dJ36_root_12
  refine s_astore_n (la' := [(1, vr x0), (0, vr x0)]) C 1 dJ36_root_1 rfl (lt_nl e5 rfl) rfl ?_
  refine Sim.keep [0] rfl ?_
  exact hL2  _ _

def g_HashMapTreeNode_getTreeNode_j15 (x1 : Int32) (x2 : Nat) (y0 : Nat) (h2 : Hp) : Option (Nat × Hp) :=
  bn (dsp (tg h2 y0 % 500) none [(32, g_HashMapTreeNode_find y0 x1 x2 0 h2)]) fun r3 h4 =>
  some (r3, h4)
def g_HashMapTreeNode_getTreeNode (x0 : Nat) (x1 : Int32) (x2 : Nat) (h : Hp) : Option (Nat × Hp) :=
  (getR [32] 6 x0 h).bind fun a1 =>
  if a1 = 0 then
    g_HashMapTreeNode_getTreeNode_j15 x1 x2 x0 h
  else
    bn (dsp (tg h x0 % 500) none [(32, g_HashMapTreeNode_root x0 h)]) fun r5 h6 =>
    g_HashMapTreeNode_getTreeNode_j15 x1 x2 r5 h6
theorem ct_g_HashMapTreeNode_getTreeNode {G : Gx} {RL : Lv} {l : Launch} (hL : LvA G RL plR) (x0 : Nat) (x1 : Int32) (x2 : Nat) (h : Hp) : Ct id G RL l yJ36_getTreeNode (ws_ yJ36_getTreeNode cJ36_getTreeNode 3 (some (.object "java/util/HashMap$TreeNode"))) 4 94 finR [vr x0, .int x1, vr x2] h (g_HashMapTreeNode_getTreeNode x0 x1 x2 h) := by
  refine Ct.of (Pl := plR) [(0, vr x0), (1, .int x1), (2, vr x2)] (by decide) hL rfl (Nat.le_of_ble_eq_true rfl) ?_
  intro E C e6 hf hlo e1 e2 e3 e4 e5
  subst e1; subst e2; subst e3
  replace C : Cx E cJ36_getTreeNode (some (.object "java/util/HashMap$TreeNode")) RJ36 := C
  replace e6 : (eMe E).name = "getTreeNode" := e6
  unfold g_HashMapTreeNode_getTreeNode
  refine s_aload_n C dJ36_getTreeNode_0 0 rfl rfl ?_
  refine s_getR [32] C (fl1 ⟨fo_J36_9_32, rfl⟩) (pl_of e4 rfl) dJ36_getTreeNode_1 fun a1 => ?_
  have hj15 : ∀ (x1 : Int32) (x2 : Nat) (y0 : Nat) (h2 : Hp), Sim id E (QM id E finR) h2 15 [(1, .int x1), (2, vr x2)] [vr y0] (g_HashMapTreeNode_getTreeNode_j15 x1 x2 y0 h2) := by
    intro x1 x2 y0 h2
    refine s_iload_n C dJ36_getTreeNode_15 0 rfl rfl ?_
    refine s_aload_n C dJ36_getTreeNode_16 1 rfl rfl ?_
    refine s_null C dJ36_getTreeNode_17 ?_
    refine s_dk 21 finR [] (fun r3 h4 => ?_) (fun hk => s_dsp 32 (fun ht => c_V C 3 [] 32 RJ36 ro_32 (ct_g_HashMapTreeNode_find hL y0 x1 x2 0 h2) (lw_V q1076 q1077 q1078 q155 q1079) nd_J36_find rfl (le_fr hf rfl) (le_fr hlo rfl) rfl (Nat.le_of_ble_eq_true rfl) dJ36_getTreeNode_18 hk ht) s_dsp0)
    exact s_aret C (Or.inl ⟨_, rfl⟩) rfl dJ36_getTreeNode_21
  refine s_ifnull C 14 dJ36_getTreeNode_4 (by decide) ?_ ?_
  · refine s_aload_n C dJ36_getTreeNode_14 0 rfl rfl ?_
    refine Sim.keep [1, 2] rfl ?_
    exact hj15 _ _ _ _
  · refine s_aload_n C dJ36_getTreeNode_7 0 rfl rfl ?_
    refine s_dk 11 finR [] (fun r5 h6 => ?_) (fun hk => s_dsp 32 (fun ht => c_V C 0 [] 32 RJ36 ro_32 (ct_g_HashMapTreeNode_root hL x0 h) (lw_V q1072 q1073 q1074 q155 q1075) nd_J36_root rfl (le_fr hf rfl) (le_fr hlo rfl) rfl (Nat.le_of_ble_eq_true rfl) dJ36_getTreeNode_8 hk ht) s_dsp0)
    refine s_goto C 15 dJ36_getTreeNode_11 (by decide) ?_
    refine Sim.keep [1, 2] rfl ?_
    exact hj15 _ _ _ _

def g_HashMap_getNode_j148  (h2 : Hp) : Option (Nat × Hp) :=
  some (0, h2)
def g_HashMap_getNode_j137 (rec99 : Nat → Hp → Option (Nat × Hp)) (x1 : Nat) (x4 : Nat) (x6 : Int32) (h13 : Hp) : Option (Nat × Hp) :=
  (getR [30, 31, 32] 3 x4 h13).bind fun a14 =>
  if a14 = 0 then
    g_HashMap_getNode_j148 h13
  else
    rec99 a14 h13
def g_HashMap_getNode_j134 (x4 : Nat) (h16 : Hp) : Option (Nat × Hp) :=
  some (x4, h16)
def g_HashMap_getNode_L99 (x1 : Nat) (x6 : Int32) : Nat → Hp → Option (Nat × Hp) :=
  lp FU fun rec99 v99 h11 =>
    (getI [30, 31, 32] 0 v99 h11).bind fun a12 =>
    if a12 = x6 then
      (getR [30, 31, 32] 1 v99 h11).bind fun a15 =>
      if a15 = x1 then
        g_HashMap_getNode_j134 v99 h11
      else
        if x1 = 0 then
          g_HashMap_getNode_j137 rec99 x1 v99 x6 h11
        else
          bn (dsp (tg h11 x1 % 500) none [(10, g_Link_equals x1 a15 h11), (12, g_Vote_equals x1 a15 h11), (28, g_String_equals x1 a15 h11), (35, g_Integer_equals x1 a15 h11)]) fun r17 h18 =>
          if r17 = 0 then
            g_HashMap_getNode_j137 rec99 x1 v99 x6 h18
          else
            g_HashMap_getNode_j134 v99 h18
    else
      g_HashMap_getNode_j137 rec99 x1 v99 x6 h11
def g_HashMap_getNode_j71 (x1 : Nat) (x3 : Nat) (x6 : Int32) (h8 : Hp) : Option (Nat × Hp) :=
  (getR [30, 31, 32] 3 x3 h8).bind fun a9 =>
  if a9 = 0 then
    g_HashMap_getNode_j148 h8
  else
    (ins [32] [] x3 h8).bind fun a10 =>
    if a10 = 0 then
      g_HashMap_getNode_L99 x1 x6 a9 h8
    else
      (cst [32] x3 h8).bind fun _ =>
      bn (dsp (tg h8 x3 % 500) none [(32, g_HashMapTreeNode_getTreeNode x3 x6 x1 h8)]) fun r19 h20 =>
      some (r19, h20)
def g_HashMap_getNode_j69 (x3 : Nat) (h22 : Hp) : Option (Nat × Hp) :=
  some (x3, h22)
def g_HashMap_getNode (x0 : Nat) (x1 : Nat) (h : Hp) : Option (Nat × Hp) :=
  (getR [22, 33] 2 x0 h).bind fun a1 =>
  if a1 = 0 then
    g_HashMap_getNode_j148 h
  else
    (alen [206] a1 h).bind fun a3 =>
    if a3 ≤ 0 then
      g_HashMap_getNode_j148 h
    else
      bn (g_HashMap_hash x1 h) fun r4 h5 =>
      (aldR [206] a1 ((a3 - (1 : Int32)) &&& r4) h5).bind fun a6 =>
      if a6 = 0 then
        g_HashMap_getNode_j148 h5
      else
        (getI [30, 31, 32] 0 a6 h5).bind fun a7 =>
        if a7 = r4 then
          (getR [30, 31, 32] 1 a6 h5).bind fun a21 =>
          if a21 = x1 then
            g_HashMap_getNode_j69 a6 h5
          else
            if x1 = 0 then
              g_HashMap_getNode_j71 x1 a6 r4 h5
            else
              bn (dsp (tg h5 x1 % 500) none [(10, g_Link_equals x1 a21 h5), (12, g_Vote_equals x1 a21 h5), (28, g_String_equals x1 a21 h5), (35, g_Integer_equals x1 a21 h5)]) fun r23 h24 =>
              if r23 = 0 then
                g_HashMap_getNode_j71 x1 a6 r4 h24
              else
                g_HashMap_getNode_j69 a6 h24
        else
          g_HashMap_getNode_j71 x1 a6 r4 h5
theorem ct_g_HashMap_getNode {G : Gx} {RL : Lv} {l : Launch} (hL : LvA G RL plR) (x0 : Nat) (x1 : Nat) (h : Hp) : Ct id G RL l yJ4_getNode (ws_ yJ4_getNode cJ4_getNode 8 (some (.object "java/util/HashMap$Node"))) 5 116 finR [vr x0, vr x1] h (g_HashMap_getNode x0 x1 h) := by
  refine Ct.of (Pl := plR) [(0, vr x0), (1, vr x1)] (by decide) hL rfl (Nat.le_of_ble_eq_true rfl) ?_
  intro E C e6 hf hlo e1 e2 e3 e4 e5
  subst e1; subst e2; subst e3
  replace C : Cx E cJ4_getNode (some (.object "java/util/HashMap$Node")) RJ4 := C
  replace e6 : (eMe E).name = "getNode" := e6
  unfold g_HashMap_getNode
  refine s_aload_n C dJ4_getNode_0 0 rfl rfl ?_
  refine s_getR [22, 33] C (flc ⟨fo_J4_105_22, rfl⟩ (fl1 ⟨fo_J4_105_33, rfl⟩)) (pl_of e4 rfl) dJ4_getNode_1 fun a1 => ?_
  refine s_dup C dJ4_getNode_4 rfl ?_
  refine s_astore_n (la' := [(2, vr a1), (0, vr x0), (1, vr x1)]) C 2 dJ4_getNode_5 rfl (lt_nl e5 rfl) rfl ?_
  have hj148 : ∀  (h2 : Hp), Sim id E (QM id E finR) h2 148 [] [] (g_HashMap_getNode_j148 h2) := by
    intro h2
    refine s_null C dJ4_getNode_148 ?_
    exact s_aret C (Or.inl ⟨_, rfl⟩) rfl dJ4_getNode_149
  refine s_ifnull C 148 dJ4_getNode_6 (by decide) ?_ ?_
  · refine Sim.keep [] rfl ?_
    exact hj148 _
  · refine s_aload_n C dJ4_getNode_9 0 rfl rfl ?_
    refine s_alen [206] 6 C (fl1 rfl) (pl_of e4 rfl) dJ4_getNode_10 fun a3 => ?_
    refine s_dup C dJ4_getNode_11 rfl ?_
    refine s_istore (la' := [(5, .int a3), (2, vr a1), (0, vr x0), (1, vr x1)]) C dJ4_getNode_12 (lt_nl e5 rfl) rfl ?_
    refine s_if_le C 148 dJ4_getNode_14 (by decide) ?_ ?_
    · refine Sim.keep [] rfl ?_
      exact hj148 _
    · refine s_aload_n C dJ4_getNode_17 1 rfl rfl ?_
      refine s_iload C dJ4_getNode_18 0 rfl ?_
      refine s_iconst C (1 : Int32) dJ4_getNode_20 (by decide) ?_
      refine s_isub C dJ4_getNode_21 ?_
      refine s_aload_n C dJ4_getNode_22 3 rfl rfl ?_
      refine c_S C 1 [.int (a3 - (1 : Int32)), vr a1] (ct_g_HashMap_hash hL x1 h) (lw_S q902 q903 q113 q904) nd_J4_hash.2 rfl (le_fr hf rfl) (le_fr hlo rfl) rfl (Nat.le_of_ble_eq_true rfl) dJ4_getNode_23 fun r4 h5 => ?_
      refine s_dup C dJ4_getNode_26 rfl ?_
      refine s_istore (la' := [(6, .int r4), (5, .int a3), (2, vr a1), (0, vr x0), (1, vr x1)]) C dJ4_getNode_27 (lt_nl e5 rfl) rfl ?_
      refine s_iand C dJ4_getNode_29 ?_
      refine s_aald [206] 6 C (by decide) (fl1 rfl) (pl_of e4 rfl) dJ4_getNode_30 fun a6 => ?_
      refine s_dup C dJ4_getNode_31 rfl ?_
      refine s_astore_n (la' := [(3, vr a6), (6, .int r4), (5, .int a3), (2, vr a1), (0, vr x0), (1, vr x1)]) C 3 dJ4_getNode_32 rfl (lt_nl e5 rfl) rfl ?_
      refine s_ifnull C 148 dJ4_getNode_33 (by decide) ?_ ?_
      · refine Sim.keep [] rfl ?_
        exact hj148 _
      · refine s_aload_n C dJ4_getNode_36 0 rfl rfl ?_
        refine s_getI [30, 31, 32] C (flc ⟨fo_J4_168_30, rfl⟩ (flc ⟨fo_J4_168_31, rfl⟩ (fl1 ⟨fo_J4_168_32, rfl⟩))) (pl_of e4 rfl) dJ4_getNode_37 fun a7 => ?_
        refine s_iload C dJ4_getNode_40 1 rfl ?_
        have hj71 : ∀ (x1 : Nat) (x3 : Nat) (x6 : Int32) (h8 : Hp), Sim id E (QM id E finR) h8 71 [(1, vr x1), (3, vr x3), (6, .int x6)] [] (g_HashMap_getNode_j71 x1 x3 x6 h8) := by
          intro x1 x3 x6 h8
          refine s_aload_n C dJ4_getNode_71 1 rfl rfl ?_
          refine s_getR [30, 31, 32] C (flc ⟨fo_J4_177_30, rfl⟩ (flc ⟨fo_J4_177_31, rfl⟩ (fl1 ⟨fo_J4_177_32, rfl⟩))) (pl_of e4 rfl) dJ4_getNode_72 fun a9 => ?_
          refine s_dup C dJ4_getNode_75 rfl ?_
          refine s_astore (la' := [(4, vr a9), (1, vr x1), (3, vr x3), (6, .int x6)]) C dJ4_getNode_76 (lt_nl e5 rfl) rfl ?_
          refine s_ifnull C 148 dJ4_getNode_78 (by decide) ?_ ?_
          · refine Sim.keep [] rfl ?_
            exact hj148 _
          · refine s_aload_n C dJ4_getNode_81 2 rfl rfl ?_
            refine s_ins [32] [] "java/util/HashMap$TreeNode" C q1067 (fl1 ao_java_util_HashMap_TreeNode_32) (fun _ h => by cases h) dJ4_getNode_82 fun a10 => ?_
            have hL99 : ∀ (x1 : Nat) (x6 : Int32) (v99 : Nat) (h11 : Hp), Sim id E (QM id E finR) h11 99 [(1, vr x1), (4, vr v99), (6, .int x6)] [] (g_HashMap_getNode_L99 x1 x6 v99 h11) := by
              intro x1 x6 v99 h11
              refine Sim.loop (fun v99 => [(1, vr x1), (4, vr v99), (6, .int x6)]) (fun _ => []) (fun rec99 hr99 v99 h11 => ?_) FU v99 h11
              refine s_aload C dJ4_getNode_99 1 rfl ?_
              refine s_getI [30, 31, 32] C (flc ⟨fo_J4_168_30, rfl⟩ (flc ⟨fo_J4_168_31, rfl⟩ (fl1 ⟨fo_J4_168_32, rfl⟩))) (pl_of e4 rfl) dJ4_getNode_101 fun a12 => ?_
              refine s_iload C dJ4_getNode_104 2 rfl ?_
              have hj137 : ∀ (x4 : Nat) (h13 : Hp), Sim id E (QM id E finR) h13 137 [(1, vr x1), (4, vr x4), (6, .int x6)] [] (g_HashMap_getNode_j137 rec99 x1 x4 x6 h13) := by
                intro x4 h13
                refine s_aload C dJ4_getNode_137 1 rfl ?_
                refine s_getR [30, 31, 32] C (flc ⟨fo_J4_177_30, rfl⟩ (flc ⟨fo_J4_177_31, rfl⟩ (fl1 ⟨fo_J4_177_32, rfl⟩))) (pl_of e4 rfl) dJ4_getNode_139 fun a14 => ?_
                refine s_dup C dJ4_getNode_142 rfl ?_
                refine s_astore (la' := [(4, vr a14), (1, vr x1), (6, .int x6)]) C dJ4_getNode_143 (lt_nl e5 rfl) rfl ?_
                refine s_ifnonnull C 99 dJ4_getNode_145 (by decide) ?_ ?_
                · refine Sim.keep [1, 0, 2] rfl ?_
                  exact hr99 _ _
                · refine Sim.keep [] rfl ?_
                  exact hj148 _
              refine s_icmp_ne C 137 dJ4_getNode_106 (by decide) ?_ ?_
              · exact hj137 _ _
              · refine s_aload C dJ4_getNode_109 1 rfl ?_
                refine s_getR [30, 31, 32] C (flc ⟨fo_J4_170_30, rfl⟩ (flc ⟨fo_J4_170_31, rfl⟩ (fl1 ⟨fo_J4_170_32, rfl⟩))) (pl_of e4 rfl) dJ4_getNode_111 fun a15 => ?_
                refine s_dup C dJ4_getNode_114 rfl ?_
                refine s_astore (la' := [(7, vr a15), (1, vr x1), (4, vr v99), (6, .int x6)]) C dJ4_getNode_115 (lt_nl e5 rfl) rfl ?_
                refine s_aload_n C dJ4_getNode_117 1 rfl rfl ?_
                have hj134 : ∀ (x4 : Nat) (h16 : Hp), Sim id E (QM id E finR) h16 134 [(4, vr x4)] [] (g_HashMap_getNode_j134 x4 h16) := by
                  intro x4 h16
                  refine s_aload C dJ4_getNode_134 0 rfl ?_
                  exact s_aret C (Or.inl ⟨_, rfl⟩) rfl dJ4_getNode_136
                refine s_acmp_eq 134 C dJ4_getNode_118 (by decide) ?_ ?_
                · refine Sim.keep [2] rfl ?_
                  exact hj134 _ _
                · refine s_aload_n C dJ4_getNode_121 1 rfl rfl ?_
                  refine s_ifnull C 137 dJ4_getNode_122 (by decide) ?_ ?_
                  · refine Sim.keep [1, 2, 3] rfl ?_
                    exact hj137 _ _
                  · refine s_aload_n C dJ4_getNode_125 1 rfl rfl ?_
                    refine s_aload C dJ4_getNode_126 0 rfl ?_
                    refine s_dk 131 finI [] (fun r17 h18 => ?_) (fun hk => s_dsp 10 (fun ht => c_O C 1 [] 10 RX11 _ ro_10 (ct_g_Link_equals hL x1 a15 h11) (lw_O q1012 q1014 q1013 q1025 q1026 q157 q1027) q1066 ⟨by decide +kernel, by decide +kernel, by decide +kernel⟩ rfl (le_fr hf rfl) (le_fr hlo rfl) rfl (Nat.le_of_ble_eq_true rfl) dJ4_getNode_128 hk ht) (s_dsp 12 (fun ht => c_O C 1 [] 12 RX14 _ ro_12 (ct_g_Vote_equals hL x1 a15 h11) (lw_O q1012 q1014 q1013 q1041 q1042 q160 q1043) q1066 ⟨by decide +kernel, by decide +kernel, by decide +kernel⟩ rfl (le_fr hf rfl) (le_fr hlo rfl) rfl (Nat.le_of_ble_eq_true rfl) dJ4_getNode_128 hk ht) (s_dsp 28 (fun ht => c_O C 1 [] 28 RJ27 _ ro_28 (ct_g_String_equals hL x1 a15 h11) (lw_O q1012 q1014 q1013 q1056 q1057 q139 q1058) q1066 ⟨by decide +kernel, by decide +kernel, by decide +kernel⟩ rfl (le_fr hf rfl) (le_fr hlo rfl) rfl (Nat.le_of_ble_eq_true rfl) dJ4_getNode_128 hk ht) (s_dsp 35 (fun ht => c_O C 1 [] 35 RJ9 _ ro_35 (ct_g_Integer_equals hL x1 a15 h11) (lw_O q1012 q1014 q1013 q1048 q1049 q119 q1050) q1066 ⟨by decide +kernel, by decide +kernel, by decide +kernel⟩ rfl (le_fr hf rfl) (le_fr hlo rfl) rfl (Nat.le_of_ble_eq_true rfl) dJ4_getNode_128 hk ht) s_dsp0))))
                    refine s_if_eq C 137 dJ4_getNode_131 (by decide) ?_ ?_
                    · refine Sim.keep [1, 2, 3] rfl ?_
                      exact hj137 _ _
                    · refine Sim.keep [2] rfl ?_
                      exact hj134 _ _
            refine s_if_eq C 99 dJ4_getNode_85 (by decide) ?_ ?_
            · refine Sim.keep [1, 0, 3] rfl ?_
              exact hL99 _ _ _ _
            · refine s_aload_n C dJ4_getNode_88 2 rfl rfl ?_
              refine s_cast [32] "java/util/HashMap$TreeNode" C q1067 (fl1 ao_java_util_HashMap_TreeNode_32) dJ4_getNode_89 ?_
              refine s_iload C dJ4_getNode_92 3 rfl ?_
              refine s_aload_n C dJ4_getNode_94 1 rfl rfl ?_
              refine s_dk 98 finR [] (fun r19 h20 => ?_) (fun hk => s_dsp 32 (fun ht => c_V C 2 [] 32 RJ36 ro_32 (ct_g_HashMapTreeNode_getTreeNode hL x3 x6 x1 h8) (lw_V q1068 q1069 q1070 q155 q1071) nd_J36_getTreeNode rfl (le_fr hf rfl) (le_fr hlo rfl) rfl (Nat.le_of_ble_eq_true rfl) dJ4_getNode_95 hk ht) s_dsp0)
              exact s_aret C (Or.inl ⟨_, rfl⟩) rfl dJ4_getNode_98
        refine s_icmp_ne C 71 dJ4_getNode_42 (by decide) ?_ ?_
        · refine Sim.keep [5, 0, 1] rfl ?_
          exact hj71 _ _ _ _
        · refine s_aload_n C dJ4_getNode_45 0 rfl rfl ?_
          refine s_getR [30, 31, 32] C (flc ⟨fo_J4_170_30, rfl⟩ (flc ⟨fo_J4_170_31, rfl⟩ (fl1 ⟨fo_J4_170_32, rfl⟩))) (pl_of e4 rfl) dJ4_getNode_46 fun a21 => ?_
          refine s_dup C dJ4_getNode_49 rfl ?_
          refine s_astore (la' := [(7, vr a21), (3, vr a6), (6, .int r4), (5, .int a3), (2, vr a1), (0, vr x0), (1, vr x1)]) C dJ4_getNode_50 (lt_nl e5 rfl) rfl ?_
          refine s_aload_n C dJ4_getNode_52 6 rfl rfl ?_
          have hj69 : ∀ (x3 : Nat) (h22 : Hp), Sim id E (QM id E finR) h22 69 [(3, vr x3)] [] (g_HashMap_getNode_j69 x3 h22) := by
            intro x3 h22
            refine s_aload_n C dJ4_getNode_69 0 rfl rfl ?_
            exact s_aret C (Or.inl ⟨_, rfl⟩) rfl dJ4_getNode_70
          refine s_acmp_eq 69 C dJ4_getNode_53 (by decide) ?_ ?_
          · refine Sim.keep [1] rfl ?_
            exact hj69 _ _
          · refine s_aload_n C dJ4_getNode_56 6 rfl rfl ?_
            refine s_ifnull C 71 dJ4_getNode_57 (by decide) ?_ ?_
            · refine Sim.keep [6, 1, 2] rfl ?_
              exact hj71 _ _ _ _
            · refine s_aload_n C dJ4_getNode_60 6 rfl rfl ?_
              refine s_aload C dJ4_getNode_61 0 rfl ?_
              refine s_dk 66 finI [] (fun r23 h24 => ?_) (fun hk => s_dsp 10 (fun ht => c_O C 1 [] 10 RX11 _ ro_10 (ct_g_Link_equals hL x1 a21 h5) (lw_O q1012 q1014 q1013 q1025 q1026 q157 q1027) q1066 ⟨by decide +kernel, by decide +kernel, by decide +kernel⟩ rfl (le_fr hf rfl) (le_fr hlo rfl) rfl (Nat.le_of_ble_eq_true rfl) dJ4_getNode_63 hk ht) (s_dsp 12 (fun ht => c_O C 1 [] 12 RX14 _ ro_12 (ct_g_Vote_equals hL x1 a21 h5) (lw_O q1012 q1014 q1013 q1041 q1042 q160 q1043) q1066 ⟨by decide +kernel, by decide +kernel, by decide +kernel⟩ rfl (le_fr hf rfl) (le_fr hlo rfl) rfl (Nat.le_of_ble_eq_true rfl) dJ4_getNode_63 hk ht) (s_dsp 28 (fun ht => c_O C 1 [] 28 RJ27 _ ro_28 (ct_g_String_equals hL x1 a21 h5) (lw_O q1012 q1014 q1013 q1056 q1057 q139 q1058) q1066 ⟨by decide +kernel, by decide +kernel, by decide +kernel⟩ rfl (le_fr hf rfl) (le_fr hlo rfl) rfl (Nat.le_of_ble_eq_true rfl) dJ4_getNode_63 hk ht) (s_dsp 35 (fun ht => c_O C 1 [] 35 RJ9 _ ro_35 (ct_g_Integer_equals hL x1 a21 h5) (lw_O q1012 q1014 q1013 q1048 q1049 q119 q1050) q1066 ⟨by decide +kernel, by decide +kernel, by decide +kernel⟩ rfl (le_fr hf rfl) (le_fr hlo rfl) rfl (Nat.le_of_ble_eq_true rfl) dJ4_getNode_63 hk ht) s_dsp0))))
              refine s_if_eq C 71 dJ4_getNode_66 (by decide) ?_ ?_
              · refine Sim.keep [6, 1, 2] rfl ?_
                exact hj71 _ _ _ _
              · refine Sim.keep [1] rfl ?_
                exact hj69 _ _

def g_HashMap_containsKey_j13 (y0 : Int32) (h3 : Hp) : Option (Int32 × Hp) :=
  if nrw 2 y0 = y0 then some (y0, h3) else none
def g_HashMap_containsKey (x0 : Nat) (x1 : Nat) (h : Hp) : Option (Int32 × Hp) :=
  bn (dsp (tg h x0 % 500) none [(22, g_HashMap_getNode x0 x1 h), (33, g_HashMap_getNode x0 x1 h)]) fun r1 h2 =>
  if r1 = 0 then
    g_HashMap_containsKey_j13 (0 : Int32) h2
  else
    g_HashMap_containsKey_j13 (1 : Int32) h2
theorem ct_g_HashMap_containsKey {G : Gx} {RL : Lv} {l : Launch} (hL : LvA G RL plR) (x0 : Nat) (x1 : Nat) (h : Hp) : Ct id G RL l yJ4_containsKey (ws_ yJ4_containsKey cJ4_containsKey 2 (some .boolean)) 6 143 finI [vr x0, vr x1] h (g_HashMap_containsKey x0 x1 h) := by
  refine Ct.of (Pl := plR) [(0, vr x0), (1, vr x1)] (by decide) hL rfl (Nat.le_of_ble_eq_true rfl) ?_
  intro E C e6 hf hlo e1 e2 e3 e4 e5
  subst e1; subst e2; subst e3
  replace C : Cx E cJ4_containsKey (some .boolean) RJ4 := C
  replace e6 : (eMe E).name = "containsKey" := e6
  unfold g_HashMap_containsKey
  refine s_aload_n C dJ4_containsKey_0 0 rfl rfl ?_
  refine s_aload_n C dJ4_containsKey_1 1 rfl rfl ?_
  refine s_dk 5 finR [] (fun r1 h2 => ?_) (fun hk => s_dsp 22 (fun ht => c_U C 1 [] 22 RJ10 _ ro_22 (ct_g_HashMap_getNode hL x0 x1 h) (lw_U q1395 q3545 q3547 q900 q113 q901) rfl nd_J4_getNode.2 rfl (le_fr hf rfl) (le_fr hlo rfl) rfl (Nat.le_of_ble_eq_true rfl) dJ4_containsKey_2 hk ht) (s_dsp 33 (fun ht => c_V C 1 [] 33 RJ4 ro_33 (ct_g_HashMap_getNode hL x0 x1 h) (lw_V q1395 q900 q3546 q113 q901) nd_J4_getNode rfl (le_fr hf rfl) (le_fr hlo rfl) rfl (Nat.le_of_ble_eq_true rfl) dJ4_containsKey_2 hk ht) s_dsp0))
  have hj13 : ∀ (y0 : Int32) (h3 : Hp), Sim id E (QM id E finI) h3 13 [] [.int y0] (g_HashMap_containsKey_j13 y0 h3) := by
    intro y0 h3
    exact s_zret 2 C (by decide) (by decide) rfl dJ4_containsKey_13
  refine s_ifnull C 12 dJ4_containsKey_5 (by decide) ?_ ?_
  · refine s_iconst C (0 : Int32) dJ4_containsKey_12 (by decide) ?_
    refine Sim.keep [] rfl ?_
    exact hj13 _ _
  · refine s_iconst C (1 : Int32) dJ4_containsKey_8 (by decide) ?_
    refine s_goto C 13 dJ4_containsKey_9 (by decide) ?_
    refine Sim.keep [] rfl ?_
    exact hj13 _ _

def g_HashMap_get_j18 (y0 : Nat) (h3 : Hp) : Option (Nat × Hp) :=
  some (y0, h3)
def g_HashMap_get (x0 : Nat) (x1 : Nat) (h : Hp) : Option (Nat × Hp) :=
  bn (dsp (tg h x0 % 500) none [(22, g_HashMap_getNode x0 x1 h), (33, g_HashMap_getNode x0 x1 h)]) fun r1 h2 =>
  if r1 = 0 then
    g_HashMap_get_j18 0 h2
  else
    (getR [30, 31, 32] 2 r1 h2).bind fun a4 =>
    g_HashMap_get_j18 a4 h2
theorem ct_g_HashMap_get {G : Gx} {RL : Lv} {l : Launch} (hL : LvA G RL plR) (x0 : Nat) (x1 : Nat) (h : Hp) : Ct id G RL l yJ4_get (ws_ yJ4_get cJ4_get 3 (some (.object "java/lang/Object"))) 6 143 finR [vr x0, vr x1] h (g_HashMap_get x0 x1 h) := by
  refine Ct.of (Pl := plR) [(0, vr x0), (1, vr x1)] (by decide) hL rfl (Nat.le_of_ble_eq_true rfl) ?_
  intro E C e6 hf hlo e1 e2 e3 e4 e5
  subst e1; subst e2; subst e3
  replace C : Cx E cJ4_get (some (.object "java/lang/Object")) RJ4 := C
  replace e6 : (eMe E).name = "get" := e6
  unfold g_HashMap_get
  refine s_aload_n C dJ4_get_0 0 rfl rfl ?_
  refine s_aload_n C dJ4_get_1 1 rfl rfl ?_
  refine s_dk 5 finR [] (fun r1 h2 => ?_) (fun hk => s_dsp 22 (fun ht => c_U C 1 [] 22 RJ10 _ ro_22 (ct_g_HashMap_getNode hL x0 x1 h) (lw_U q1395 q3545 q3547 q900 q113 q901) rfl nd_J4_getNode.2 rfl (le_fr hf rfl) (le_fr hlo rfl) rfl (Nat.le_of_ble_eq_true rfl) dJ4_get_2 hk ht) (s_dsp 33 (fun ht => c_V C 1 [] 33 RJ4 ro_33 (ct_g_HashMap_getNode hL x0 x1 h) (lw_V q1395 q900 q3546 q113 q901) nd_J4_getNode rfl (le_fr hf rfl) (le_fr hlo rfl) rfl (Nat.le_of_ble_eq_true rfl) dJ4_get_2 hk ht) s_dsp0))
  refine s_dup C dJ4_get_5 rfl ?_
  refine s_astore_n (la' := [(2, vr r1), (0, vr x0), (1, vr x1)]) C 2 dJ4_get_6 rfl (lt_nl e5 rfl) rfl ?_
  have hj18 : ∀ (y0 : Nat) (h3 : Hp), Sim id E (QM id E finR) h3 18 [] [vr y0] (g_HashMap_get_j18 y0 h3) := by
    intro y0 h3
    exact s_aret C (Or.inl ⟨_, rfl⟩) rfl dJ4_get_18
  refine s_ifnonnull C 14 dJ4_get_7 (by decide) ?_ ?_
  · refine s_aload_n C dJ4_get_14 0 rfl rfl ?_
    refine s_getR [30, 31, 32] C (flc ⟨fo_J4_162_30, rfl⟩ (flc ⟨fo_J4_162_31, rfl⟩ (fl1 ⟨fo_J4_162_32, rfl⟩))) (pl_of e4 rfl) dJ4_get_15 fun a4 => ?_
    refine Sim.keep [] rfl ?_
    exact hj18 _ _
  · refine s_null C dJ4_get_10 ?_
    refine s_goto C 18 dJ4_get_11 (by decide) ?_
    refine Sim.keep [] rfl ?_
    exact hj18 _ _

def g_HashMapNode_init (x0 : Nat) (x1 : Int32) (x2 : Nat) (x3 : Nat) (x4 : Nat) (h : Hp) : Option (Unit × Hp) :=
  if x0 = 0 then none else
  (putI [30, 31, 32] 0 0 x0 x1 h).bind fun h2 =>
  (putR [30, 31, 32] 1 x0 x2 h2).bind fun h3 =>
  (putR [30, 31, 32] 2 x0 x3 h3).bind fun h4 =>
  (putR [30, 31, 32] 3 x0 x4 h4).bind fun h5 =>
  some ((), h5)
theorem ct_g_HashMapNode_init {G : Gx} {RL : Lv} {l : Launch} (hL : LvA G RL plR) (x0 : Nat) (x1 : Int32) (x2 : Nat) (x3 : Nat) (x4 : Nat) (h : Hp) : Ct id G RL l yJ34_init (ws_ yJ34_init cJ34_init 5 none) 1 20 finV [vr x0, .int x1, vr x2, vr x3, vr x4] h (g_HashMapNode_init x0 x1 x2 x3 x4 h) := by
  refine Ct.of (Pl := plR) [(0, vr x0), (1, .int x1), (2, vr x2), (3, vr x3), (4, vr x4)] (by decide) hL rfl (Nat.le_of_ble_eq_true rfl) ?_
  intro E C e6 hf hlo e1 e2 e3 e4 e5
  subst e1; subst e2; subst e3
  replace C : Cx E cJ34_init none RJ34 := C
  replace e6 : (eMe E).name = "<init>" := e6
  unfold g_HashMapNode_init
  refine s_aload_n C dJ34_init_0 0 rfl rfl ?_
  refine s_nz fun z1 => ?_
  refine s_objI C z1 q1900 q177 q178 (le_fr hf rfl) (le_fr hlo rfl) (Nat.le_of_ble_eq_true rfl) dJ34_init_1 ?_
  refine s_aload_n C dJ34_init_4 0 rfl rfl ?_
  refine s_iload_n C dJ34_init_5 1 rfl rfl ?_
  refine s_putI [30, 31, 32] 0 C (by decide) (by decide) (flc ⟨⟨by decide, fo_J34_7_30, rfl⟩, rfl⟩ (flc ⟨⟨by decide, fo_J34_7_31, rfl⟩, rfl⟩ (fl1 ⟨⟨by decide, fo_J34_7_32, rfl⟩, rfl⟩))) (pl_of e4 rfl) (flc (Or.inr ⟨e6, fx_J34_7_30⟩) (flc (Or.inr ⟨e6, fx_J34_7_31⟩) (fl1 (Or.inr ⟨e6, fx_J34_7_32⟩)))) dJ34_init_6 fun h2 => ?_
  refine s_aload_n C dJ34_init_9 0 rfl rfl ?_
  refine s_aload_n C dJ34_init_10 2 rfl rfl ?_
  refine s_putR [30, 31, 32] C (flc ⟨by decide, fo_J34_13_30, rfl⟩ (flc ⟨by decide, fo_J34_13_31, rfl⟩ (fl1 ⟨by decide, fo_J34_13_32, rfl⟩))) (pl_of e4 rfl) (flc (Or.inr ⟨e6, fx_J34_13_30⟩) (flc (Or.inr ⟨e6, fx_J34_13_31⟩) (fl1 (Or.inr ⟨e6, fx_J34_13_32⟩)))) dJ34_init_11 fun h3 => ?_
  refine s_aload_n C dJ34_init_14 0 rfl rfl ?_
  refine s_aload_n C dJ34_init_15 3 rfl rfl ?_
  refine s_putR [30, 31, 32] C (flc ⟨by decide, fo_J34_17_30, rfl⟩ (flc ⟨by decide, fo_J34_17_31, rfl⟩ (fl1 ⟨by decide, fo_J34_17_32, rfl⟩))) (pl_of e4 rfl) (flc (Or.inl rfl) (flc (Or.inl rfl) (fl1 (Or.inl rfl)))) dJ34_init_16 fun h4 => ?_
  refine s_aload_n C dJ34_init_19 0 rfl rfl ?_
  refine s_aload C dJ34_init_20 4 rfl ?_
  refine s_putR [30, 31, 32] C (flc ⟨by decide, fo_J34_20_30, rfl⟩ (flc ⟨by decide, fo_J34_20_31, rfl⟩ (fl1 ⟨by decide, fo_J34_20_32, rfl⟩))) (pl_of e4 rfl) (flc (Or.inl rfl) (flc (Or.inl rfl) (fl1 (Or.inl rfl)))) dJ34_init_22 fun h5 => ?_
  exact s_vret C rfl dJ34_init_25

def g_HashMap_newNode (x0 : Nat) (x1 : Int32) (x2 : Nat) (x3 : Nat) (x4 : Nat) (h : Hp) : Option (Nat × Hp) :=
  bn (newO 30 4 h) fun o1 h2 =>
  bn (g_HashMapNode_init o1 x1 x2 x3 x4 h2) fun _ h3 =>
  some (o1, h3)
theorem ct_g_HashMap_newNode {G : Gx} {RL : Lv} {l : Launch} (hL : LvA G RL plR) (x0 : Nat) (x1 : Int32) (x2 : Nat) (x3 : Nat) (x4 : Nat) (h : Hp) : Ct id G RL l yJ4_newNode (ws_ yJ4_newNode cJ4_newNode 5 (some (.object "java/util/HashMap$Node"))) 2 44 finR [vr x0, .int x1, vr x2, vr x3, vr x4] h (g_HashMap_newNode x0 x1 x2 x3 x4 h) := by
  refine Ct.of (Pl := plR) [(0, vr x0), (1, .int x1), (2, vr x2), (3, vr x3), (4, vr x4)] (by decide) hL rfl (Nat.le_of_ble_eq_true rfl) ?_
  intro E C e6 hf hlo e1 e2 e3 e4 e5
  subst e1; subst e2; subst e3
  replace C : Cx E cJ4_newNode (some (.object "java/util/HashMap$Node")) RJ4 := C
  replace e6 : (eMe E).name = "newNode" := e6
  unfold g_HashMap_newNode
  refine s_newO 30 4 C no_J4_163 (pl_of1 e4 rfl) dJ4_newNode_0 fun o1 h2 zo1 => ?_
  refine s_dup C dJ4_newNode_3 rfl ?_
  refine s_iload_n C dJ4_newNode_4 1 rfl rfl ?_
  refine s_aload_n C dJ4_newNode_5 2 rfl rfl ?_
  refine s_aload_n C dJ4_newNode_6 3 rfl rfl ?_
  refine s_aload C dJ4_newNode_7 4 rfl ?_
  refine c_I C 4 [vr o1] zo1 (ct_g_HashMapNode_init hL o1 x1 x2 x3 x4 h2) (lw_meth q1899) q153 q1949 q1898 rfl nd_J34_init.2 rfl (le_fr hf rfl) (le_fr hlo rfl) rfl (Nat.le_of_ble_eq_true rfl) dJ4_newNode_9 fun _ h3 => ?_
  exact s_aret C (Or.inl ⟨_, rfl⟩) rfl dJ4_newNode_12

def g_LinkedHashMapEntry_init (x0 : Nat) (x1 : Int32) (x2 : Nat) (x3 : Nat) (x4 : Nat) (h : Hp) : Option (Unit × Hp) :=
  if x0 = 0 then none else
  bn (g_HashMapNode_init x0 x1 x2 x3 x4 h) fun _ h1 =>
  some ((), h1)
theorem ct_g_LinkedHashMapEntry_init {G : Gx} {RL : Lv} {l : Launch} (hL : LvA G RL plR) (x0 : Nat) (x1 : Int32) (x2 : Nat) (x3 : Nat) (x4 : Nat) (h : Hp) : Ct id G RL l yJ35_init (ws_ yJ35_init cJ35_init 5 none) 2 44 finV [vr x0, .int x1, vr x2, vr x3, vr x4] h (g_LinkedHashMapEntry_init x0 x1 x2 x3 x4 h) := by
  refine Ct.of (Pl := plR) [(0, vr x0), (1, .int x1), (2, vr x2), (3, vr x3), (4, vr x4)] (by decide) hL rfl (Nat.le_of_ble_eq_true rfl) ?_
  intro E C e6 hf hlo e1 e2 e3 e4 e5
  subst e1; subst e2; subst e3
  replace C : Cx E cJ35_init none RJ35 := C
  replace e6 : (eMe E).name = "<init>" := e6
  unfold g_LinkedHashMapEntry_init
  refine s_aload_n C dJ35_init_0 0 rfl rfl ?_
  refine s_iload_n C dJ35_init_1 1 rfl rfl ?_
  refine s_aload_n C dJ35_init_2 2 rfl rfl ?_
  refine s_aload_n C dJ35_init_3 3 rfl rfl ?_
  refine s_aload C dJ35_init_4 4 rfl ?_
  refine s_nz fun z2 => ?_
  refine c_I C 4 [] z2 (ct_g_HashMapNode_init hL x0 x1 x2 x3 x4 h) (lw_meth q1899) q153 q1897 q1898 rfl nd_J34_init.2 rfl (le_fr hf rfl) (le_fr hlo rfl) rfl (Nat.le_of_ble_eq_true rfl) dJ35_init_6 fun _ h1 => ?_
  exact s_vret C rfl dJ35_init_9

def g_HashMapTreeNode_init (x0 : Nat) (x1 : Int32) (x2 : Nat) (x3 : Nat) (x4 : Nat) (h : Hp) : Option (Unit × Hp) :=
  if x0 = 0 then none else
  bn (g_LinkedHashMapEntry_init x0 x1 x2 x3 x4 h) fun _ h1 =>
  some ((), h1)
theorem ct_g_HashMapTreeNode_init {G : Gx} {RL : Lv} {l : Launch} (hL : LvA G RL plR) (x0 : Nat) (x1 : Int32) (x2 : Nat) (x3 : Nat) (x4 : Nat) (h : Hp) : Ct id G RL l yJ36_init (ws_ yJ36_init cJ36_init 5 none) 3 68 finV [vr x0, .int x1, vr x2, vr x3, vr x4] h (g_HashMapTreeNode_init x0 x1 x2 x3 x4 h) := by
  refine Ct.of (Pl := plR) [(0, vr x0), (1, .int x1), (2, vr x2), (3, vr x3), (4, vr x4)] (by decide) hL rfl (Nat.le_of_ble_eq_true rfl) ?_
  intro E C e6 hf hlo e1 e2 e3 e4 e5
  subst e1; subst e2; subst e3
  replace C : Cx E cJ36_init none RJ36 := C
  replace e6 : (eMe E).name = "<init>" := e6
  unfold g_HashMapTreeNode_init
  refine s_aload_n C dJ36_init_0 0 rfl rfl ?_
  refine s_iload_n C dJ36_init_1 1 rfl rfl ?_
  refine s_aload_n C dJ36_init_2 2 rfl rfl ?_
  refine s_aload_n C dJ36_init_3 3 rfl rfl ?_
  refine s_aload C dJ36_init_4 4 rfl ?_
  refine s_nz fun z2 => ?_
  refine c_I C 4 [] z2 (ct_g_LinkedHashMapEntry_init hL x0 x1 x2 x3 x4 h) (lw_meth q1896) q154 q2001 q1895 rfl nd_J35_init.2 rfl (le_fr hf rfl) (le_fr hlo rfl) rfl (Nat.le_of_ble_eq_true rfl) dJ36_init_6 fun _ h1 => ?_
  exact s_vret C rfl dJ36_init_9

def g_HashMap_newTreeNode (x0 : Nat) (x1 : Int32) (x2 : Nat) (x3 : Nat) (x4 : Nat) (h : Hp) : Option (Nat × Hp) :=
  bn (newO 32 11 h) fun o1 h2 =>
  bn (g_HashMapTreeNode_init o1 x1 x2 x3 x4 h2) fun _ h3 =>
  some (o1, h3)
theorem ct_g_HashMap_newTreeNode {G : Gx} {RL : Lv} {l : Launch} (hL : LvA G RL plR) (x0 : Nat) (x1 : Int32) (x2 : Nat) (x3 : Nat) (x4 : Nat) (h : Hp) : Ct id G RL l yJ4_newTreeNode (ws_ yJ4_newTreeNode cJ4_newTreeNode 5 (some (.object "java/util/HashMap$TreeNode"))) 4 92 finR [vr x0, .int x1, vr x2, vr x3, vr x4] h (g_HashMap_newTreeNode x0 x1 x2 x3 x4 h) := by
  refine Ct.of (Pl := plR) [(0, vr x0), (1, .int x1), (2, vr x2), (3, vr x3), (4, vr x4)] (by decide) hL rfl (Nat.le_of_ble_eq_true rfl) ?_
  intro E C e6 hf hlo e1 e2 e3 e4 e5
  subst e1; subst e2; subst e3
  replace C : Cx E cJ4_newTreeNode (some (.object "java/util/HashMap$TreeNode")) RJ4 := C
  replace e6 : (eMe E).name = "newTreeNode" := e6
  unfold g_HashMap_newTreeNode
  refine s_newO 32 11 C no_J4_180 (pl_of1 e4 rfl) dJ4_newTreeNode_0 fun o1 h2 zo1 => ?_
  refine s_dup C dJ4_newTreeNode_3 rfl ?_
  refine s_iload_n C dJ4_newTreeNode_4 1 rfl rfl ?_
  refine s_aload_n C dJ4_newTreeNode_5 2 rfl rfl ?_
  refine s_aload_n C dJ4_newTreeNode_6 3 rfl rfl ?_
  refine s_aload C dJ4_newTreeNode_7 4 rfl ?_
  refine c_I C 4 [vr o1] zo1 (ct_g_HashMapTreeNode_init hL o1 x1 x2 x3 x4 h2) (lw_meth q2000) q155 q2026 q1999 rfl nd_J36_init.2 rfl (le_fr hf rfl) (le_fr hlo rfl) rfl (Nat.le_of_ble_eq_true rfl) dJ4_newTreeNode_9 fun _ h3 => ?_
  exact s_aret C (Or.inl ⟨_, rfl⟩) rfl dJ4_newTreeNode_12

def g_HashMap_resize_j353 (x6 : Nat) (h10 : Hp) : Option (Nat × Hp) :=
  some (x6, h10)
def g_HashMap_resize_j347 (rec151 : Int32 → Hp → Option (Nat × Hp)) (x0 : Nat) (x1 : Nat) (x2 : Int32) (x4 : Int32) (x6 : Nat) (x7 : Int32) (h13 : Hp) : Option (Nat × Hp) :=
  rec151 (x7 + (1 : Int32)) h13
def g_HashMap_resize_j327 (rec151 : Int32 → Hp → Option (Nat × Hp)) (x0 : Nat) (x1 : Nat) (x2 : Int32) (x4 : Int32) (x6 : Nat) (x7 : Int32) (x11 : Nat) (x12 : Nat) (h21 : Hp) : Option (Nat × Hp) :=
  if x12 = 0 then
    g_HashMap_resize_j347 rec151 x0 x1 x2 x4 x6 x7 h21
  else
    (putR [30, 31, 32] 3 x12 0 h21).bind fun h22 =>
    (astR [206] [30, 31, 32] x6 (x7 + x2) x11 h22).bind fun h23 =>
    g_HashMap_resize_j347 rec151 x0 x1 x2 x4 x6 x7 h23
def g_HashMap_resize_j301 (rec151 : Int32 → Hp → Option (Nat × Hp)) (rec235 : (Nat × Nat × Nat × Nat × Nat) → Hp → Option (Nat × Hp)) (x0 : Nat) (x1 : Nat) (x2 : Int32) (x4 : Int32) (x6 : Nat) (x7 : Int32) (x9 : Nat) (x10 : Nat) (x11 : Nat) (x12 : Nat) (x13 : Nat) (h20 : Hp) : Option (Nat × Hp) :=
  if x13 = 0 then
    if x10 = 0 then
      g_HashMap_resize_j327 rec151 x0 x1 x2 x4 x6 x7 x11 x12 h20
    else
      (putR [30, 31, 32] 3 x10 0 h20).bind fun h24 =>
      (astR [206] [30, 31, 32] x6 x7 x9 h24).bind fun h25 =>
      g_HashMap_resize_j327 rec151 x0 x1 x2 x4 x6 x7 x11 x12 h25
  else
    rec235 (x13, x9, x10, x11, x12) h20
def g_HashMap_resize_j297 (rec151 : Int32 → Hp → Option (Nat × Hp)) (rec235 : (Nat × Nat × Nat × Nat × Nat) → Hp → Option (Nat × Hp)) (x0 : Nat) (x1 : Nat) (x2 : Int32) (x4 : Int32) (x6 : Nat) (x7 : Int32) (x8 : Nat) (x9 : Nat) (x10 : Nat) (x11 : Nat) (x13 : Nat) (h26 : Hp) : Option (Nat × Hp) :=
  g_HashMap_resize_j301 rec151 rec235 x0 x1 x2 x4 x6 x7 x9 x10 x11 x8 x13 h26
def g_HashMap_resize_j271 (rec151 : Int32 → Hp → Option (Nat × Hp)) (rec235 : (Nat × Nat × Nat × Nat × Nat) → Hp → Option (Nat × Hp)) (x0 : Nat) (x1 : Nat) (x2 : Int32) (x4 : Int32) (x6 : Nat) (x7 : Int32) (x8 : Nat) (x9 : Nat) (x11 : Nat) (x12 : Nat) (x13 : Nat) (h28 : Hp) : Option (Nat × Hp) :=
  g_HashMap_resize_j301 rec151 rec235 x0 x1 x2 x4 x6 x7 x9 x8 x11 x12 x13 h28
def g_HashMap_resize_L235 (rec151 : Int32 → Hp → Option (Nat × Hp)) (x0 : Nat) (x1 : Nat) (x2 : Int32) (x4 : Int32) (x6 : Nat) (x7 : Int32) : (Nat × Nat × Nat × Nat × Nat) → Hp → Option (Nat × Hp) :=
  lp FU fun rec235 v235 h17 =>
    (getR [30, 31, 32] 3 v235.1 h17).bind fun a18 =>
    (getI [30, 31, 32] 0 v235.1 h17).bind fun a19 =>
    if (a19 &&& x2) = 0 then
      if v235.2.2.1 = 0 then
        g_HashMap_resize_j271 rec151 rec235 x0 x1 x2 x4 x6 x7 v235.1 v235.1 v235.2.2.2.1 v235.2.2.2.2 a18 h17
      else
        (putR [30, 31, 32] 3 v235.2.2.1 v235.1 h17).bind fun h29 =>
        g_HashMap_resize_j271 rec151 rec235 x0 x1 x2 x4 x6 x7 v235.1 v235.2.1 v235.2.2.2.1 v235.2.2.2.2 a18 h29
    else
      if v235.2.2.2.2 = 0 then
        g_HashMap_resize_j297 rec151 rec235 x0 x1 x2 x4 x6 x7 v235.1 v235.2.1 v235.2.2.1 v235.1 a18 h17
      else
        (putR [30, 31, 32] 3 v235.2.2.2.2 v235.1 h17).bind fun h27 =>
        g_HashMap_resize_j297 rec151 rec235 x0 x1 x2 x4 x6 x7 v235.1 v235.2.1 v235.2.2.1 v235.2.2.2.1 a18 h27
def g_HashMap_resize_L151 (x0 : Nat) (x1 : Nat) (x2 : Int32) (x4 : Int32) (x6 : Nat) : Int32 → Hp → Option (Nat × Hp) :=
  lp FU fun rec151 v151 h11 =>
    if x2 ≤ v151 then
      g_HashMap_resize_j353 x6 h11
    else
      (aldR [206] x1 v151 h11).bind fun a12 =>
      if a12 = 0 then
        g_HashMap_resize_j347 rec151 x0 x1 x2 x4 x6 v151 h11
      else
        (astR [206] [30, 31, 32] x1 v151 0 h11).bind fun h14 =>
        (getR [30, 31, 32] 3 a12 h14).bind fun a15 =>
        if a15 = 0 then
          (getI [30, 31, 32] 0 a12 h14).bind fun a30 =>
          (astR [206] [30, 31, 32] x6 (a30 &&& (x4 - (1 : Int32))) a12 h14).bind fun h31 =>
          g_HashMap_resize_j347 rec151 x0 x1 x2 x4 x6 v151 h31
        else
          (ins [32] [] a12 h14).bind fun a16 =>
          if a16 = 0 then
            g_HashMap_resize_L235 rec151 x0 x1 x2 x4 x6 v151 (a12, 0, 0, 0, 0) h14
          else
            (cst [32] a12 h14).bind fun _ =>
            none
def g_HashMap_resize_j125 (x0 : Nat) (x1 : Nat) (x2 : Int32) (x4 : Int32) (x5 : Int32) (h5 : Hp) : Option (Nat × Hp) :=
  (putI [22, 33] 0 6 x0 x5 h5).bind fun h6 =>
  bn (newA 206 x4 h6) fun o7 h8 =>
  (putR [22, 33] 2 x0 o7 h8).bind fun h9 =>
  if x1 = 0 then
    g_HashMap_resize_j353 o7 h9
  else
    g_HashMap_resize_L151 x0 x1 x2 x4 o7 (0 : Int32) h9
def g_HashMap_resize_j123 (x0 : Nat) (x1 : Nat) (x2 : Int32) (x4 : Int32) (y0 : Int32) (h33 : Hp) : Option (Nat × Hp) :=
  g_HashMap_resize_j125 x0 x1 x2 x4 y0 h33
def g_HashMap_resize_j121 (x0 : Nat) (x1 : Nat) (x2 : Int32) (x4 : Int32) (h34 : Hp) : Option (Nat × Hp) :=
  g_HashMap_resize_j123 x0 x1 x2 x4 (2147483647 : Int32) h34
def g_HashMap_resize_j85 (x0 : Nat) (x1 : Nat) (x2 : Int32) (x4 : Int32) (x5 : Int32) (h4 : Hp) : Option (Nat × Hp) :=
  if x5 = 0 then
    (getI [22, 33] 7 x0 h4).bind fun a32 =>
    if (FP.fmul (FP.i2f x4) a32.toUInt32) &&& 0x7fffffff ≤ 0x7f800000 then
    if (1073741824 : Int32) ≤ x4 then
      g_HashMap_resize_j121 x0 x1 x2 x4 h4
    else
      if 0 ≤ (Op.cmpValue (FP.fcmp (FP.fmul (FP.i2f x4) a32.toUInt32) (1317011456 : UInt32)) .g) then
        g_HashMap_resize_j121 x0 x1 x2 x4 h4
      else
        g_HashMap_resize_j123 x0 x1 x2 x4 (FP.f2i (FP.fmul (FP.i2f x4) a32.toUInt32)) h4
    else none
  else
    g_HashMap_resize_j125 x0 x1 x2 x4 x5 h4
def g_HashMap_resize_j15 (x0 : Nat) (x1 : Nat) (y0 : Int32) (h2 : Hp) : Option (Nat × Hp) :=
  (getI [22, 33] 6 x0 h2).bind fun a3 =>
  if y0 ≤ 0 then
    if a3 ≤ 0 then
      g_HashMap_resize_j85 x0 x1 y0 (16 : Int32) (12 : Int32) h2
    else
      g_HashMap_resize_j85 x0 x1 y0 a3 (0 : Int32) h2
  else
    if y0 < (1073741824 : Int32) then
      bd ((y0 <<< (1 : Int32))) fun a35 =>
      if (1073741824 : Int32) ≤ (y0 <<< (1 : Int32)) then
        g_HashMap_resize_j85 x0 x1 y0 a35 (0 : Int32) h2
      else
        if y0 < (16 : Int32) then
          g_HashMap_resize_j85 x0 x1 y0 a35 (0 : Int32) h2
        else
          bd ((a3 <<< (1 : Int32))) fun a36 =>
          g_HashMap_resize_j85 x0 x1 y0 a35 a36 h2
    else
      (putI [22, 33] 0 6 x0 (2147483647 : Int32) h2).bind fun h37 =>
      some (x1, h37)
def g_HashMap_resize (x0 : Nat) (h : Hp) : Option (Nat × Hp) :=
  (getR [22, 33] 2 x0 h).bind fun a1 =>
  if a1 = 0 then
    g_HashMap_resize_j15 x0 a1 (0 : Int32) h
  else
    (alen [206] a1 h).bind fun a38 =>
    g_HashMap_resize_j15 x0 a1 a38 h
theorem ct_g_HashMap_resize {G : Gx} {RL : Lv} {l : Launch} (hL : LvA G RL plR) (x0 : Nat) (h : Hp) : Ct id G RL l yJ4_resize (ws_ yJ4_resize cJ4_resize 14 (some (.array (.object "java/util/HashMap$Node")))) 0 0 finR [vr x0] h (g_HashMap_resize x0 h) := by
  refine Ct.of (Pl := plR) [(0, vr x0)] (by decide) hL rfl (Nat.le_of_ble_eq_true rfl) ?_
  intro E C e6 hf hlo e1 e2 e3 e4 e5
  subst e1; subst e2; subst e3
  replace C : Cx E cJ4_resize (some (.array (.object "java/util/HashMap$Node"))) RJ4 := C
  replace e6 : (eMe E).name = "resize" := e6
  unfold g_HashMap_resize
  refine s_aload_n C dJ4_resize_0 0 rfl rfl ?_
  refine s_getR [22, 33] C (flc ⟨fo_J4_105_22, rfl⟩ (fl1 ⟨fo_J4_105_33, rfl⟩)) (pl_of e4 rfl) dJ4_resize_1 fun a1 => ?_
  refine s_astore_n (la' := [(1, vr a1), (0, vr x0)]) C 1 dJ4_resize_4 rfl (lt_nl e5 rfl) rfl ?_
  refine s_aload_n C dJ4_resize_5 0 rfl rfl ?_
  have hj15 : ∀ (x0 : Nat) (x1 : Nat) (y0 : Int32) (h2 : Hp), Sim id E (QM id E finR) h2 15 [(0, vr x0), (1, vr x1)] [.int y0] (g_HashMap_resize_j15 x0 x1 y0 h2) := by
    intro x0 x1 y0 h2
    refine s_istore_n (la' := [(2, .int y0), (0, vr x0), (1, vr x1)]) C 2 dJ4_resize_15 rfl (lt_nl e5 rfl) rfl ?_
    refine s_aload_n C dJ4_resize_16 1 rfl rfl ?_
    refine s_getI [22, 33] C (flc ⟨fo_J4_88_22, rfl⟩ (fl1 ⟨fo_J4_88_33, rfl⟩)) (pl_of e4 rfl) dJ4_resize_17 fun a3 => ?_
    refine s_istore_n (la' := [(3, .int a3), (2, .int y0), (0, vr x0), (1, vr x1)]) C 3 dJ4_resize_20 rfl (lt_nl e5 rfl) rfl ?_
    refine s_iconst C (0 : Int32) dJ4_resize_21 (by decide) ?_
    refine s_istore (la' := [(5, .int (0 : Int32)), (3, .int a3), (2, .int y0), (0, vr x0), (1, vr x1)]) C dJ4_resize_22 (lt_nl e5 rfl) rfl ?_
    refine s_iload_n C dJ4_resize_24 2 rfl rfl ?_
    have hj85 : ∀ (x0 : Nat) (x1 : Nat) (x2 : Int32) (x4 : Int32) (x5 : Int32) (h4 : Hp), Sim id E (QM id E finR) h4 85 [(0, vr x0), (1, vr x1), (2, .int x2), (4, .int x4), (5, .int x5)] [] (g_HashMap_resize_j85 x0 x1 x2 x4 x5 h4) := by
      intro x0 x1 x2 x4 x5 h4
      refine s_iload C dJ4_resize_85 4 rfl ?_
      have hj125 : ∀ (x0 : Nat) (x1 : Nat) (x2 : Int32) (x4 : Int32) (x5 : Int32) (h5 : Hp), Sim id E (QM id E finR) h5 125 [(0, vr x0), (1, vr x1), (2, .int x2), (4, .int x4), (5, .int x5)] [] (g_HashMap_resize_j125 x0 x1 x2 x4 x5 h5) := by
        intro x0 x1 x2 x4 x5 h5
        refine s_aload_n C dJ4_resize_125 0 rfl rfl ?_
        refine s_iload C dJ4_resize_126 4 rfl ?_
        refine s_putI [22, 33] 0 C (by decide) (by decide) (flc ⟨⟨by decide, fo_J4_88_22, rfl⟩, rfl⟩ (fl1 ⟨⟨by decide, fo_J4_88_33, rfl⟩, rfl⟩)) (pl_of e4 rfl) (flc (Or.inl rfl) (fl1 (Or.inl rfl))) dJ4_resize_128 fun h6 => ?_
        refine s_iload C dJ4_resize_131 3 rfl ?_
        refine s_anew 6 "java/util/HashMap$Node" C q1875 q1876 (by decide) rfl (pl_of1 e4 rfl) dJ4_resize_133 fun o7 h8 zo7 => ?_
        refine s_astore (la' := [(6, vr o7), (0, vr x0), (1, vr x1), (2, .int x2), (4, .int x4), (5, .int x5)]) C dJ4_resize_136 (lt_nl e5 rfl) rfl ?_
        refine s_aload_n C dJ4_resize_138 1 rfl rfl ?_
        refine s_aload C dJ4_resize_139 0 rfl ?_
        refine s_putR [22, 33] C (flc ⟨by decide, fo_J4_105_22, rfl⟩ (fl1 ⟨by decide, fo_J4_105_33, rfl⟩)) (pl_of e4 rfl) (flc (Or.inl rfl) (fl1 (Or.inl rfl))) dJ4_resize_141 fun h9 => ?_
        refine s_aload_n C dJ4_resize_144 2 rfl rfl ?_
        have hj353 : ∀ (x6 : Nat) (h10 : Hp), Sim id E (QM id E finR) h10 353 [(6, vr x6)] [] (g_HashMap_resize_j353 x6 h10) := by
          intro x6 h10
          refine s_aload C dJ4_resize_353 0 rfl ?_
          exact s_aret C (Or.inr ⟨_, rfl⟩) rfl dJ4_resize_355
        refine s_ifnull C 353 dJ4_resize_145 (by decide) ?_ ?_
        · refine Sim.keep [0] rfl ?_
          exact hj353 _ _
        · refine s_iconst C (0 : Int32) dJ4_resize_148 (by decide) ?_
          have hL151 : ∀ (x0 : Nat) (x1 : Nat) (x2 : Int32) (x4 : Int32) (x6 : Nat) (v151 : Int32) (h11 : Hp), Sim id E (QM id E finR) h11 151 [(0, vr x0), (1, vr x1), (2, .int x2), (4, .int x4), (6, vr x6), (7, .int v151)] [] (g_HashMap_resize_L151 x0 x1 x2 x4 x6 v151 h11) := by
            intro x0 x1 x2 x4 x6 v151 h11
            refine Sim.loop (fun v151 => [(0, vr x0), (1, vr x1), (2, .int x2), (4, .int x4), (6, vr x6), (7, .int v151)]) (fun _ => []) (fun rec151 hr151 v151 h11 => ?_) FU v151 h11
            refine s_iload C dJ4_resize_151 5 rfl ?_
            refine s_iload_n C dJ4_resize_153 2 rfl rfl ?_
            refine s_icmp_ge C 353 dJ4_resize_154 (by decide) ?_ ?_
            · refine Sim.keep [4] rfl ?_
              exact hj353 _ _
            · refine s_aload_n C dJ4_resize_157 1 rfl rfl ?_
              refine s_iload C dJ4_resize_158 5 rfl ?_
              refine s_aald [206] 6 C (by decide) (fl1 rfl) (pl_of e4 rfl) dJ4_resize_160 fun a12 => ?_
              refine s_dup C dJ4_resize_161 rfl ?_
              refine s_astore (la' := [(8, vr a12), (0, vr x0), (1, vr x1), (2, .int x2), (4, .int x4), (6, vr x6), (7, .int v151)]) C dJ4_resize_162 (lt_nl e5 rfl) rfl ?_
              have hj347 : ∀ (x7 : Int32) (h13 : Hp), Sim id E (QM id E finR) h13 347 [(0, vr x0), (1, vr x1), (2, .int x2), (4, .int x4), (6, vr x6), (7, .int x7)] [] (g_HashMap_resize_j347 rec151 x0 x1 x2 x4 x6 x7 h13) := by
                intro x7 h13
                refine s_iinc (la' := [(7, .int (x7 + (1 : Int32))), (0, vr x0), (1, vr x1), (2, .int x2), (4, .int x4), (6, vr x6)]) C 5 dJ4_resize_347 rfl rfl (lt_nl e5 rfl) rfl ?_
                refine s_goto C 151 dJ4_resize_350 (by decide) ?_
                refine Sim.keep [1, 2, 3, 4, 5, 0] rfl ?_
                exact hr151 _ _
              refine s_ifnull C 347 dJ4_resize_164 (by decide) ?_ ?_
              · refine Sim.keep [1, 2, 3, 4, 5, 6] rfl ?_
                exact hj347 _ _
              · refine s_aload_n C dJ4_resize_167 2 rfl rfl ?_
                refine s_iload C dJ4_resize_168 6 rfl ?_
                refine s_null C dJ4_resize_170 ?_
                refine s_aast [206] [30, 31, 32] 6 "java/util/HashMap$Node" C (by decide) rfl (fl1 ⟨by decide, rfl⟩) (pl_of e4 rfl) (flc ao_java_util_HashMap_Node_30 (flc ao_java_util_HashMap_Node_31 (fl1 ao_java_util_HashMap_Node_32))) dJ4_resize_171 fun h14 => ?_
                refine s_aload C dJ4_resize_172 0 rfl ?_
                refine s_getR [30, 31, 32] C (flc ⟨fo_J4_177_30, rfl⟩ (flc ⟨fo_J4_177_31, rfl⟩ (fl1 ⟨fo_J4_177_32, rfl⟩))) (pl_of e4 rfl) dJ4_resize_174 fun a15 => ?_
                refine s_ifnonnull C 198 dJ4_resize_177 (by decide) ?_ ?_
                · refine s_aload C dJ4_resize_198 0 rfl ?_
                  refine s_ins [32] [] "java/util/HashMap$TreeNode" C q1067 (fl1 ao_java_util_HashMap_TreeNode_32) (fun _ h => by cases h) dJ4_resize_200 fun a16 => ?_
                  refine s_if_eq C 223 dJ4_resize_203 (by decide) ?_ ?_
                  · refine s_null C dJ4_resize_223 ?_
                    refine s_astore (la' := [(9, vr 0), (8, vr a12), (0, vr x0), (1, vr x1), (2, .int x2), (4, .int x4), (6, vr x6), (7, .int v151)]) C dJ4_resize_224 (lt_nl e5 rfl) rfl ?_
                    refine s_null C dJ4_resize_226 ?_
                    refine s_astore (la' := [(10, vr 0), (9, vr 0), (8, vr a12), (0, vr x0), (1, vr x1), (2, .int x2), (4, .int x4), (6, vr x6), (7, .int v151)]) C dJ4_resize_227 (lt_nl e5 rfl) rfl ?_
                    refine s_null C dJ4_resize_229 ?_
                    refine s_astore (la' := [(11, vr 0), (10, vr 0), (9, vr 0), (8, vr a12), (0, vr x0), (1, vr x1), (2, .int x2), (4, .int x4), (6, vr x6), (7, .int v151)]) C dJ4_resize_230 (lt_nl e5 rfl) rfl ?_
                    refine s_null C dJ4_resize_232 ?_
                    have hL235 : ∀ (x7 : Int32) (v235 : (Nat × Nat × Nat × Nat × Nat)) (h17 : Hp), Sim id E (QM id E finR) h17 235 [(0, vr x0), (1, vr x1), (2, .int x2), (4, .int x4), (6, vr x6), (7, .int x7), (8, vr v235.1), (9, vr v235.2.1), (10, vr v235.2.2.1), (11, vr v235.2.2.2.1), (12, vr v235.2.2.2.2)] [] (g_HashMap_resize_L235 rec151 x0 x1 x2 x4 x6 x7 v235 h17) := by
                      intro x7 v235 h17
                      refine Sim.loop (fun v235 => [(0, vr x0), (1, vr x1), (2, .int x2), (4, .int x4), (6, vr x6), (7, .int x7), (8, vr v235.1), (9, vr v235.2.1), (10, vr v235.2.2.1), (11, vr v235.2.2.2.1), (12, vr v235.2.2.2.2)]) (fun _ => []) (fun rec235 hr235 v235 h17 => ?_) FU v235 h17
                      refine s_aload C dJ4_resize_235 6 rfl ?_
                      refine s_getR [30, 31, 32] C (flc ⟨fo_J4_177_30, rfl⟩ (flc ⟨fo_J4_177_31, rfl⟩ (fl1 ⟨fo_J4_177_32, rfl⟩))) (pl_of e4 rfl) dJ4_resize_237 fun a18 => ?_
                      refine s_astore (la' := [(13, vr a18), (0, vr x0), (1, vr x1), (2, .int x2), (4, .int x4), (6, vr x6), (7, .int x7), (8, vr v235.1), (9, vr v235.2.1), (10, vr v235.2.2.1), (11, vr v235.2.2.2.1), (12, vr v235.2.2.2.2)]) C dJ4_resize_240 (lt_nl e5 rfl) rfl ?_
                      refine s_aload C dJ4_resize_242 7 rfl ?_
                      refine s_getI [30, 31, 32] C (flc ⟨fo_J4_168_30, rfl⟩ (flc ⟨fo_J4_168_31, rfl⟩ (fl1 ⟨fo_J4_168_32, rfl⟩))) (pl_of e4 rfl) dJ4_resize_244 fun a19 => ?_
                      refine s_iload_n C dJ4_resize_247 3 rfl rfl ?_
                      refine s_iand C dJ4_resize_248 ?_
                      have hj301 : ∀ (x9 : Nat) (x10 : Nat) (x11 : Nat) (x12 : Nat) (x13 : Nat) (h20 : Hp), Sim id E (QM id E finR) h20 301 [(0, vr x0), (1, vr x1), (2, .int x2), (4, .int x4), (6, vr x6), (7, .int x7), (9, vr x9), (10, vr x10), (11, vr x11), (12, vr x12), (13, vr x13)] [] (g_HashMap_resize_j301 rec151 rec235 x0 x1 x2 x4 x6 x7 x9 x10 x11 x12 x13 h20) := by
                        intro x9 x10 x11 x12 x13 h20
                        refine s_aload C dJ4_resize_301 10 rfl ?_
                        refine s_dup C dJ4_resize_303 rfl ?_
                        refine s_astore (la' := [(8, vr x13), (0, vr x0), (1, vr x1), (2, .int x2), (4, .int x4), (6, vr x6), (7, .int x7), (9, vr x9), (10, vr x10), (11, vr x11), (12, vr x12), (13, vr x13)]) C dJ4_resize_304 (lt_nl e5 rfl) rfl ?_
                        refine s_ifnonnull C 235 dJ4_resize_306 (by decide) ?_ ?_
                        · refine Sim.keep [1, 2, 3, 4, 5, 6, 0, 7, 8, 9, 10] rfl ?_
                          exact hr235 _ _
                        · refine s_aload C dJ4_resize_309 8 rfl ?_
                          have hj327 : ∀ (x7 : Int32) (x11 : Nat) (x12 : Nat) (h21 : Hp), Sim id E (QM id E finR) h21 327 [(0, vr x0), (1, vr x1), (2, .int x2), (4, .int x4), (6, vr x6), (7, .int x7), (11, vr x11), (12, vr x12)] [] (g_HashMap_resize_j327 rec151 x0 x1 x2 x4 x6 x7 x11 x12 h21) := by
                            intro x7 x11 x12 h21
                            refine s_aload C dJ4_resize_327 7 rfl ?_
                            refine s_ifnull C 347 dJ4_resize_329 (by decide) ?_ ?_
                            · refine Sim.keep [0, 1, 2, 3, 4, 5] rfl ?_
                              exact hj347 _ _
                            · refine s_aload C dJ4_resize_332 7 rfl ?_
                              refine s_null C dJ4_resize_334 ?_
                              refine s_putR [30, 31, 32] C (flc ⟨by decide, fo_J4_177_30, rfl⟩ (flc ⟨by decide, fo_J4_177_31, rfl⟩ (fl1 ⟨by decide, fo_J4_177_32, rfl⟩))) (pl_of e4 rfl) (flc (Or.inl rfl) (flc (Or.inl rfl) (fl1 (Or.inl rfl)))) dJ4_resize_335 fun h22 => ?_
                              refine s_aload C dJ4_resize_338 4 rfl ?_
                              refine s_iload C dJ4_resize_340 5 rfl ?_
                              refine s_iload_n C dJ4_resize_342 2 rfl rfl ?_
                              refine s_iadd C dJ4_resize_343 ?_
                              refine s_aload C dJ4_resize_344 6 rfl ?_
                              refine s_aast [206] [30, 31, 32] 6 "java/util/HashMap$Node" C (by decide) rfl (fl1 ⟨by decide, rfl⟩) (pl_of e4 rfl) (flc ao_java_util_HashMap_Node_30 (flc ao_java_util_HashMap_Node_31 (fl1 ao_java_util_HashMap_Node_32))) dJ4_resize_346 fun h23 => ?_
                              refine Sim.keep [0, 1, 2, 3, 4, 5] rfl ?_
                              exact hj347 _ _
                          refine s_ifnull C 327 dJ4_resize_311 (by decide) ?_ ?_
                          · refine Sim.keep [1, 2, 3, 4, 5, 6, 9, 10] rfl ?_
                            exact hj327 _ _ _ _
                          · refine s_aload C dJ4_resize_314 8 rfl ?_
                            refine s_null C dJ4_resize_316 ?_
                            refine s_putR [30, 31, 32] C (flc ⟨by decide, fo_J4_177_30, rfl⟩ (flc ⟨by decide, fo_J4_177_31, rfl⟩ (fl1 ⟨by decide, fo_J4_177_32, rfl⟩))) (pl_of e4 rfl) (flc (Or.inl rfl) (flc (Or.inl rfl) (fl1 (Or.inl rfl)))) dJ4_resize_317 fun h24 => ?_
                            refine s_aload C dJ4_resize_320 5 rfl ?_
                            refine s_iload C dJ4_resize_322 6 rfl ?_
                            refine s_aload C dJ4_resize_324 7 rfl ?_
                            refine s_aast [206] [30, 31, 32] 6 "java/util/HashMap$Node" C (by decide) rfl (fl1 ⟨by decide, rfl⟩) (pl_of e4 rfl) (flc ao_java_util_HashMap_Node_30 (flc ao_java_util_HashMap_Node_31 (fl1 ao_java_util_HashMap_Node_32))) dJ4_resize_326 fun h25 => ?_
                            refine Sim.keep [1, 2, 3, 4, 5, 6, 9, 10] rfl ?_
                            exact hj327 _ _ _ _
                      refine s_if_ne C 278 dJ4_resize_249 (by decide) ?_ ?_
                      · refine s_aload C dJ4_resize_278 11 rfl ?_
                        have hj297 : ∀ (x8 : Nat) (x9 : Nat) (x10 : Nat) (x11 : Nat) (x13 : Nat) (h26 : Hp), Sim id E (QM id E finR) h26 297 [(0, vr x0), (1, vr x1), (2, .int x2), (4, .int x4), (6, vr x6), (7, .int x7), (8, vr x8), (9, vr x9), (10, vr x10), (11, vr x11), (13, vr x13)] [] (g_HashMap_resize_j297 rec151 rec235 x0 x1 x2 x4 x6 x7 x8 x9 x10 x11 x13 h26) := by
                          intro x8 x9 x10 x11 x13 h26
                          refine s_aload C dJ4_resize_297 6 rfl ?_
                          refine s_astore (la' := [(12, vr x8), (0, vr x0), (1, vr x1), (2, .int x2), (4, .int x4), (6, vr x6), (7, .int x7), (8, vr x8), (9, vr x9), (10, vr x10), (11, vr x11), (13, vr x13)]) C dJ4_resize_299 (lt_nl e5 rfl) rfl ?_
                          refine Sim.keep [1, 2, 3, 4, 5, 6, 8, 9, 10, 0, 11] rfl ?_
                          exact hj301 _ _ _ _ _ _
                        refine s_ifnonnull C 290 dJ4_resize_280 (by decide) ?_ ?_
                        · refine s_aload C dJ4_resize_290 11 rfl ?_
                          refine s_aload C dJ4_resize_292 7 rfl ?_
                          refine s_putR [30, 31, 32] C (flc ⟨by decide, fo_J4_177_30, rfl⟩ (flc ⟨by decide, fo_J4_177_31, rfl⟩ (fl1 ⟨by decide, fo_J4_177_32, rfl⟩))) (pl_of e4 rfl) (flc (Or.inl rfl) (flc (Or.inl rfl) (fl1 (Or.inl rfl)))) dJ4_resize_294 fun h27 => ?_
                          refine Sim.keep [1, 2, 3, 4, 5, 6, 7, 8, 9, 10, 0] rfl ?_
                          exact hj297 _ _ _ _ _ _
                        · refine s_aload C dJ4_resize_283 7 rfl ?_
                          refine s_astore (la' := [(11, vr v235.1), (13, vr a18), (0, vr x0), (1, vr x1), (2, .int x2), (4, .int x4), (6, vr x6), (7, .int x7), (8, vr v235.1), (9, vr v235.2.1), (10, vr v235.2.2.1), (12, vr v235.2.2.2.2)]) C dJ4_resize_285 (lt_nl e5 rfl) rfl ?_
                          refine s_goto C 297 dJ4_resize_287 (by decide) ?_
                          refine Sim.keep [2, 3, 4, 5, 6, 7, 8, 9, 10, 0, 1] rfl ?_
                          exact hj297 _ _ _ _ _ _
                      · refine s_aload C dJ4_resize_252 9 rfl ?_
                        have hj271 : ∀ (x8 : Nat) (x9 : Nat) (x11 : Nat) (x12 : Nat) (x13 : Nat) (h28 : Hp), Sim id E (QM id E finR) h28 271 [(0, vr x0), (1, vr x1), (2, .int x2), (4, .int x4), (6, vr x6), (7, .int x7), (8, vr x8), (9, vr x9), (11, vr x11), (12, vr x12), (13, vr x13)] [] (g_HashMap_resize_j271 rec151 rec235 x0 x1 x2 x4 x6 x7 x8 x9 x11 x12 x13 h28) := by
                          intro x8 x9 x11 x12 x13 h28
                          refine s_aload C dJ4_resize_271 6 rfl ?_
                          refine s_astore (la' := [(10, vr x8), (0, vr x0), (1, vr x1), (2, .int x2), (4, .int x4), (6, vr x6), (7, .int x7), (8, vr x8), (9, vr x9), (11, vr x11), (12, vr x12), (13, vr x13)]) C dJ4_resize_273 (lt_nl e5 rfl) rfl ?_
                          refine s_goto C 301 dJ4_resize_275 (by decide) ?_
                          refine Sim.keep [1, 2, 3, 4, 5, 6, 8, 0, 9, 10, 11] rfl ?_
                          exact hj301 _ _ _ _ _ _
                        refine s_ifnonnull C 264 dJ4_resize_254 (by decide) ?_ ?_
                        · refine s_aload C dJ4_resize_264 9 rfl ?_
                          refine s_aload C dJ4_resize_266 7 rfl ?_
                          refine s_putR [30, 31, 32] C (flc ⟨by decide, fo_J4_177_30, rfl⟩ (flc ⟨by decide, fo_J4_177_31, rfl⟩ (fl1 ⟨by decide, fo_J4_177_32, rfl⟩))) (pl_of e4 rfl) (flc (Or.inl rfl) (flc (Or.inl rfl) (fl1 (Or.inl rfl)))) dJ4_resize_268 fun h29 => ?_
                          refine Sim.keep [1, 2, 3, 4, 5, 6, 7, 8, 10, 11, 0] rfl ?_
                          exact hj271 _ _ _ _ _ _
                        · refine s_aload C dJ4_resize_257 7 rfl ?_
                          refine s_astore (la' := [(9, vr v235.1), (13, vr a18), (0, vr x0), (1, vr x1), (2, .int x2), (4, .int x4), (6, vr x6), (7, .int x7), (8, vr v235.1), (10, vr v235.2.2.1), (11, vr v235.2.2.2.1), (12, vr v235.2.2.2.2)]) C dJ4_resize_259 (lt_nl e5 rfl) rfl ?_
                          refine s_goto C 271 dJ4_resize_261 (by decide) ?_
                          refine Sim.keep [2, 3, 4, 5, 6, 7, 8, 0, 10, 11, 1] rfl ?_
                          exact hj271 _ _ _ _ _ _
                    refine s_astore (la' := [(12, vr 0), (11, vr 0), (10, vr 0), (9, vr 0), (8, vr a12), (0, vr x0), (1, vr x1), (2, .int x2), (4, .int x4), (6, vr x6), (7, .int v151)]) C dJ4_resize_233 (lt_nl e5 rfl) rfl ?_
                    refine Sim.keep [5, 6, 7, 8, 9, 10, 4, 3, 2, 1, 0] rfl ?_
                    exact hL235 _ _ _
                  · refine s_aload C dJ4_resize_206 0 rfl ?_
                    refine s_cast [32] "java/util/HashMap$TreeNode" C q1067 (fl1 ao_java_util_HashMap_TreeNode_32) dJ4_resize_208 ?_
                    refine s_aload_n C dJ4_resize_211 1 rfl rfl ?_
                    refine s_aload C dJ4_resize_212 5 rfl ?_
                    refine s_iload C dJ4_resize_214 6 rfl ?_
                    refine s_iload_n C dJ4_resize_216 3 rfl rfl ?_
                    exact sim_none
                · refine s_aload C dJ4_resize_180 5 rfl ?_
                  refine s_aload C dJ4_resize_182 0 rfl ?_
                  refine s_getI [30, 31, 32] C (flc ⟨fo_J4_168_30, rfl⟩ (flc ⟨fo_J4_168_31, rfl⟩ (fl1 ⟨fo_J4_168_32, rfl⟩))) (pl_of e4 rfl) dJ4_resize_184 fun a30 => ?_
                  refine s_iload C dJ4_resize_187 4 rfl ?_
                  refine s_iconst C (1 : Int32) dJ4_resize_189 (by decide) ?_
                  refine s_isub C dJ4_resize_190 ?_
                  refine s_iand C dJ4_resize_191 ?_
                  refine s_aload C dJ4_resize_192 0 rfl ?_
                  refine s_aast [206] [30, 31, 32] 6 "java/util/HashMap$Node" C (by decide) rfl (fl1 ⟨by decide, rfl⟩) (pl_of e4 rfl) (flc ao_java_util_HashMap_Node_30 (flc ao_java_util_HashMap_Node_31 (fl1 ao_java_util_HashMap_Node_32))) dJ4_resize_194 fun h31 => ?_
                  refine s_goto C 347 dJ4_resize_195 (by decide) ?_
                  refine Sim.keep [1, 2, 3, 4, 5, 6] rfl ?_
                  exact hj347 _ _
          refine s_istore (la' := [(7, .int (0 : Int32)), (6, vr o7), (0, vr x0), (1, vr x1), (2, .int x2), (4, .int x4), (5, .int x5)]) C dJ4_resize_149 (lt_nl e5 rfl) rfl ?_
          refine Sim.keep [2, 3, 4, 5, 1, 0] rfl ?_
          exact hL151 _ _ _ _ _ _ _
      refine s_if_ne C 125 dJ4_resize_87 (by decide) ?_ ?_
      · exact hj125 _ _ _ _ _ _
      · refine s_iload C dJ4_resize_90 3 rfl ?_
        refine s_i2f C dJ4_resize_92 ?_
        refine s_aload_n C dJ4_resize_93 0 rfl rfl ?_
        refine s_getF [22, 33] C (flc ⟨fo_J4_81_22, rfl⟩ (fl1 ⟨fo_J4_81_33, rfl⟩)) (pl_of e4 rfl) dJ4_resize_94 fun a32 => ?_
        refine s_fmul C dJ4_resize_97 ?_
        refine s_fstore (la' := [(6, .float (FP.fmul (FP.i2f x4) a32.toUInt32)), (0, vr x0), (1, vr x1), (2, .int x2), (4, .int x4), (5, .int x5)]) C dJ4_resize_98 (lt_nl e5 rfl) rfl ?_
        refine s_iload C dJ4_resize_100 4 rfl ?_
        refine s_ldci C q312 dJ4_resize_102 ?_
        have hj123 : ∀ (x0 : Nat) (x1 : Nat) (x2 : Int32) (x4 : Int32) (y0 : Int32) (h33 : Hp), Sim id E (QM id E finR) h33 123 [(0, vr x0), (1, vr x1), (2, .int x2), (4, .int x4)] [.int y0] (g_HashMap_resize_j123 x0 x1 x2 x4 y0 h33) := by
          intro x0 x1 x2 x4 y0 h33
          refine s_istore (la' := [(5, .int y0), (0, vr x0), (1, vr x1), (2, .int x2), (4, .int x4)]) C dJ4_resize_123 (lt_nl e5 rfl) rfl ?_
          refine Sim.keep [1, 2, 3, 4, 0] rfl ?_
          exact hj125 _ _ _ _ _ _
        have hj121 : ∀ (x0 : Nat) (x1 : Nat) (x2 : Int32) (x4 : Int32) (h34 : Hp), Sim id E (QM id E finR) h34 121 [(0, vr x0), (1, vr x1), (2, .int x2), (4, .int x4)] [] (g_HashMap_resize_j121 x0 x1 x2 x4 h34) := by
          intro x0 x1 x2 x4 h34
          refine s_ldci C q1873 dJ4_resize_121 ?_
          exact hj123 _ _ _ _ _ _
        refine s_icmp_ge C 121 dJ4_resize_104 (by decide) ?_ ?_
        · refine Sim.keep [1, 2, 3, 4] rfl ?_
          exact hj121 _ _ _ _ _
        · refine s_fload C dJ4_resize_107 0 rfl ?_
          refine s_ldcf C q1874 dJ4_resize_109 ?_
          refine s_fcmp C dJ4_resize_111 ?_
          refine s_if_ge C 121 dJ4_resize_112 (by decide) ?_ ?_
          · refine Sim.keep [1, 2, 3, 4] rfl ?_
            exact hj121 _ _ _ _ _
          · refine s_fload C dJ4_resize_115 0 rfl ?_
            refine s_f2i C dJ4_resize_117 ?_
            refine s_goto C 123 dJ4_resize_118 (by decide) ?_
            refine Sim.keep [1, 2, 3, 4] rfl ?_
            exact hj123 _ _ _ _ _ _
    refine s_if_le C 67 dJ4_resize_25 (by decide) ?_ ?_
    · refine s_iload_n C dJ4_resize_67 1 rfl rfl ?_
      refine s_if_le C 77 dJ4_resize_68 (by decide) ?_ ?_
      · refine s_bipush C (16 : Int32) dJ4_resize_77 (by decide) ?_
        refine s_istore (la' := [(4, .int (16 : Int32)), (5, .int (0 : Int32)), (3, .int a3), (2, .int y0), (0, vr x0), (1, vr x1)]) C dJ4_resize_79 (lt_nl e5 rfl) rfl ?_
        refine s_bipush C (12 : Int32) dJ4_resize_81 (by decide) ?_
        refine s_istore (la' := [(5, .int (12 : Int32)), (4, .int (16 : Int32)), (3, .int a3), (2, .int y0), (0, vr x0), (1, vr x1)]) C dJ4_resize_83 (lt_nl e5 rfl) rfl ?_
        refine Sim.keep [4, 5, 3, 1, 0] rfl ?_
        exact hj85 _ _ _ _ _ _
      · refine s_iload_n C dJ4_resize_71 1 rfl rfl ?_
        refine s_istore (la' := [(4, .int a3), (5, .int (0 : Int32)), (3, .int a3), (2, .int y0), (0, vr x0), (1, vr x1)]) C dJ4_resize_72 (lt_nl e5 rfl) rfl ?_
        refine s_goto C 85 dJ4_resize_74 (by decide) ?_
        refine Sim.keep [4, 5, 3, 0, 1] rfl ?_
        exact hj85 _ _ _ _ _ _
    · refine s_iload_n C dJ4_resize_28 2 rfl rfl ?_
      refine s_ldci C q312 dJ4_resize_29 ?_
      refine s_icmp_lt C 42 dJ4_resize_31 (by decide) ?_ ?_
      · refine s_iload_n C dJ4_resize_42 2 rfl rfl ?_
        refine s_iconst C (1 : Int32) dJ4_resize_43 (by decide) ?_
        refine s_ishl C (1 : Int32) dJ4_resize_44 (by decide) ?_
        refine s_dup C dJ4_resize_45 rfl ?_
        refine s_bdi fun a35 => ?_
        refine s_istore (la' := [(4, .int a35), (5, .int (0 : Int32)), (3, .int a3), (2, .int y0), (0, vr x0), (1, vr x1)]) C dJ4_resize_46 (lt_nl e5 rfl) rfl ?_
        refine s_ldci C q312 dJ4_resize_48 ?_
        refine s_icmp_ge C 85 dJ4_resize_50 (by decide) ?_ ?_
        · refine Sim.keep [4, 5, 3, 0, 1] rfl ?_
          exact hj85 _ _ _ _ _ _
        · refine s_iload_n C dJ4_resize_53 3 rfl rfl ?_
          refine s_bipush C (16 : Int32) dJ4_resize_54 (by decide) ?_
          refine s_icmp_lt C 85 dJ4_resize_56 (by decide) ?_ ?_
          · refine Sim.keep [4, 5, 3, 0, 1] rfl ?_
            exact hj85 _ _ _ _ _ _
          · refine s_iload_n C dJ4_resize_59 2 rfl rfl ?_
            refine s_iconst C (1 : Int32) dJ4_resize_60 (by decide) ?_
            refine s_ishl C (1 : Int32) dJ4_resize_61 (by decide) ?_
            refine s_bdi fun a36 => ?_
            refine s_istore (la' := [(5, .int a36), (4, .int a35), (3, .int a3), (2, .int y0), (0, vr x0), (1, vr x1)]) C dJ4_resize_62 (lt_nl e5 rfl) rfl ?_
            refine s_goto C 85 dJ4_resize_64 (by decide) ?_
            refine Sim.keep [4, 5, 3, 1, 0] rfl ?_
            exact hj85 _ _ _ _ _ _
      · refine s_aload_n C dJ4_resize_34 3 rfl rfl ?_
        refine s_ldci C q1873 dJ4_resize_35 ?_
        refine s_putI [22, 33] 0 C (by decide) (by decide) (flc ⟨⟨by decide, fo_J4_88_22, rfl⟩, rfl⟩ (fl1 ⟨⟨by decide, fo_J4_88_33, rfl⟩, rfl⟩)) (pl_of e4 rfl) (flc (Or.inl rfl) (fl1 (Or.inl rfl))) dJ4_resize_37 fun h37 => ?_
        refine s_aload_n C dJ4_resize_40 4 rfl rfl ?_
        exact s_aret C (Or.inr ⟨_, rfl⟩) rfl dJ4_resize_41
  refine s_ifnonnull C 13 dJ4_resize_6 (by decide) ?_ ?_
  · refine s_aload_n C dJ4_resize_13 0 rfl rfl ?_
    refine s_alen [206] 6 C (fl1 rfl) (pl_of e4 rfl) dJ4_resize_14 fun a38 => ?_
    refine Sim.keep [1, 0] rfl ?_
    exact hj15 _ _ _ _
  · refine s_iconst C (0 : Int32) dJ4_resize_9 (by decide) ?_
    refine s_goto C 15 dJ4_resize_10 (by decide) ?_
    refine Sim.keep [1, 0] rfl ?_
    exact hj15 _ _ _ _

def g_HashMap_replacementTreeNode (x0 : Nat) (x1 : Nat) (x2 : Nat) (h : Hp) : Option (Nat × Hp) :=
  bn (newO 32 11 h) fun o1 h2 =>
  (getI [30, 31, 32] 0 x1 h2).bind fun a3 =>
  (getR [30, 31, 32] 1 x1 h2).bind fun a4 =>
  (getR [30, 31, 32] 2 x1 h2).bind fun a5 =>
  bn (g_HashMapTreeNode_init o1 a3 a4 a5 x2 h2) fun _ h6 =>
  some (o1, h6)
theorem ct_g_HashMap_replacementTreeNode {G : Gx} {RL : Lv} {l : Launch} (hL : LvA G RL plR) (x0 : Nat) (x1 : Nat) (x2 : Nat) (h : Hp) : Ct id G RL l yJ4_replacementTreeNode (ws_ yJ4_replacementTreeNode cJ4_replacementTreeNode 3 (some (.object "java/util/HashMap$TreeNode"))) 4 92 finR [vr x0, vr x1, vr x2] h (g_HashMap_replacementTreeNode x0 x1 x2 h) := by
  refine Ct.of (Pl := plR) [(0, vr x0), (1, vr x1), (2, vr x2)] (by decide) hL rfl (Nat.le_of_ble_eq_true rfl) ?_
  intro E C e6 hf hlo e1 e2 e3 e4 e5
  subst e1; subst e2; subst e3
  replace C : Cx E cJ4_replacementTreeNode (some (.object "java/util/HashMap$TreeNode")) RJ4 := C
  replace e6 : (eMe E).name = "replacementTreeNode" := e6
  unfold g_HashMap_replacementTreeNode
  refine s_newO 32 11 C no_J4_180 (pl_of1 e4 rfl) dJ4_replacementTreeNode_0 fun o1 h2 zo1 => ?_
  refine s_dup C dJ4_replacementTreeNode_3 rfl ?_
  refine s_aload_n C dJ4_replacementTreeNode_4 1 rfl rfl ?_
  refine s_getI [30, 31, 32] C (flc ⟨fo_J4_168_30, rfl⟩ (flc ⟨fo_J4_168_31, rfl⟩ (fl1 ⟨fo_J4_168_32, rfl⟩))) (pl_of e4 rfl) dJ4_replacementTreeNode_5 fun a3 => ?_
  refine s_aload_n C dJ4_replacementTreeNode_8 1 rfl rfl ?_
  refine s_getR [30, 31, 32] C (flc ⟨fo_J4_170_30, rfl⟩ (flc ⟨fo_J4_170_31, rfl⟩ (fl1 ⟨fo_J4_170_32, rfl⟩))) (pl_of e4 rfl) dJ4_replacementTreeNode_9 fun a4 => ?_
  refine s_aload_n C dJ4_replacementTreeNode_12 1 rfl rfl ?_
  refine s_getR [30, 31, 32] C (flc ⟨fo_J4_162_30, rfl⟩ (flc ⟨fo_J4_162_31, rfl⟩ (fl1 ⟨fo_J4_162_32, rfl⟩))) (pl_of e4 rfl) dJ4_replacementTreeNode_13 fun a5 => ?_
  refine s_aload_n C dJ4_replacementTreeNode_16 2 rfl rfl ?_
  refine c_I C 4 [vr o1] zo1 (ct_g_HashMapTreeNode_init hL o1 a3 a4 a5 x2 h2) (lw_meth q2000) q155 q2026 q1999 rfl nd_J36_init.2 rfl (le_fr hf rfl) (le_fr hlo rfl) rfl (Nat.le_of_ble_eq_true rfl) dJ4_replacementTreeNode_17 fun _ h6 => ?_
  exact s_aret C (Or.inl ⟨_, rfl⟩) rfl dJ4_replacementTreeNode_20

def g_HashMapTreeNode_rotateLeft_j89 (x0 : Nat) (h1 : Hp) : Option (Nat × Hp) :=
  some (x0, h1)
def g_HashMapTreeNode_rotateLeft_j79 (x0 : Nat) (x1 : Nat) (x2 : Nat) (h8 : Hp) : Option (Nat × Hp) :=
  (putR [32] 7 x2 x1 h8).bind fun h9 =>
  (putR [32] 6 x1 x2 h9).bind fun h10 =>
  g_HashMapTreeNode_rotateLeft_j89 x0 h10
def g_HashMapTreeNode_rotateLeft_j34 (x0 : Nat) (x1 : Nat) (x2 : Nat) (h5 : Hp) : Option (Nat × Hp) :=
  (getR [32] 6 x1 h5).bind fun a6 =>
  (putR [32] 6 x2 a6 h5).bind fun h7 =>
  if a6 = 0 then
    (putI [32] 2 10 x2 (0 : Int32) h7).bind fun h14 =>
    g_HashMapTreeNode_rotateLeft_j79 x2 x1 x2 h14
  else
    (getR [32] 7 a6 h7).bind fun a11 =>
    if a11 = x1 then
      (putR [32] 7 a6 x2 h7).bind fun h13 =>
      g_HashMapTreeNode_rotateLeft_j79 x0 x1 x2 h13
    else
      (putR [32] 8 a6 x2 h7).bind fun h12 =>
      g_HashMapTreeNode_rotateLeft_j79 x0 x1 x2 h12
def g_HashMapTreeNode_rotateLeft (x0 : Nat) (x1 : Nat) (h : Hp) : Option (Nat × Hp) :=
  if x1 = 0 then
    g_HashMapTreeNode_rotateLeft_j89 x0 h
  else
    (getR [32] 8 x1 h).bind fun a2 =>
    if a2 = 0 then
      g_HashMapTreeNode_rotateLeft_j89 x0 h
    else
      (getR [32] 7 a2 h).bind fun a3 =>
      (putR [32] 8 x1 a3 h).bind fun h4 =>
      if a3 = 0 then
        g_HashMapTreeNode_rotateLeft_j34 x0 x1 a2 h4
      else
        (putR [32] 6 a3 x1 h4).bind fun h15 =>
        g_HashMapTreeNode_rotateLeft_j34 x0 x1 a2 h15
theorem ct_g_HashMapTreeNode_rotateLeft {G : Gx} {RL : Lv} {l : Launch} (hL : LvA G RL plR) (x0 : Nat) (x1 : Nat) (h : Hp) : Ct id G RL l yJ36_rotateLeft (ws_ yJ36_rotateLeft cJ36_rotateLeft 5 (some (.object "java/util/HashMap$TreeNode"))) 0 0 finR [vr x0, vr x1] h (g_HashMapTreeNode_rotateLeft x0 x1 h) := by
  refine Ct.of (Pl := plR) [(0, vr x0), (1, vr x1)] (by decide) hL rfl (Nat.le_of_ble_eq_true rfl) ?_
  intro E C e6 hf hlo e1 e2 e3 e4 e5
  subst e1; subst e2; subst e3
  replace C : Cx E cJ36_rotateLeft (some (.object "java/util/HashMap$TreeNode")) RJ36 := C
  replace e6 : (eMe E).name = "rotateLeft" := e6
  unfold g_HashMapTreeNode_rotateLeft
  refine s_aload_n C dJ36_rotateLeft_0 1 rfl rfl ?_
  have hj89 : ∀ (x0 : Nat) (h1 : Hp), Sim id E (QM id E finR) h1 89 [(0, vr x0)] [] (g_HashMapTreeNode_rotateLeft_j89 x0 h1) := by
    intro x0 h1
    refine s_aload_n C dJ36_rotateLeft_89 0 rfl rfl ?_
    exact s_aret C (Or.inl ⟨_, rfl⟩) rfl dJ36_rotateLeft_90
  refine s_ifnull C 89 dJ36_rotateLeft_1 (by decide) ?_ ?_
  · refine Sim.keep [0] rfl ?_
    exact hj89 _ _
  · refine s_aload_n C dJ36_rotateLeft_4 1 rfl rfl ?_
    refine s_getR [32] C (fl1 ⟨fo_J36_42_32, rfl⟩) (pl_of e4 rfl) dJ36_rotateLeft_5 fun a2 => ?_
    refine s_dup C dJ36_rotateLeft_8 rfl ?_
    refine s_astore_n (la' := [(2, vr a2), (0, vr x0), (1, vr x1)]) C 2 dJ36_rotateLeft_9 rfl (lt_nl e5 rfl) rfl ?_
    refine s_ifnull C 89 dJ36_rotateLeft_10 (by decide) ?_ ?_
    · refine Sim.keep [1] rfl ?_
      exact hj89 _ _
    · refine s_aload_n C dJ36_rotateLeft_13 2 rfl rfl ?_
      refine s_aload_n C dJ36_rotateLeft_14 0 rfl rfl ?_
      refine s_getR [32] C (fl1 ⟨fo_J36_39_32, rfl⟩) (pl_of e4 rfl) dJ36_rotateLeft_15 fun a3 => ?_
      refine s_dup_x1 C dJ36_rotateLeft_18 rfl rfl ?_
      refine s_putR [32] C (fl1 ⟨by decide, fo_J36_42_32, rfl⟩) (pl_of e4 rfl) (fl1 (Or.inl rfl)) dJ36_rotateLeft_19 fun h4 => ?_
      refine s_dup C dJ36_rotateLeft_22 rfl ?_
      refine s_astore (la' := [(4, vr a3), (2, vr a2), (0, vr x0), (1, vr x1)]) C dJ36_rotateLeft_23 (lt_nl e5 rfl) rfl ?_
      have hj34 : ∀ (x0 : Nat) (x1 : Nat) (x2 : Nat) (h5 : Hp), Sim id E (QM id E finR) h5 34 [(0, vr x0), (1, vr x1), (2, vr x2)] [] (g_HashMapTreeNode_rotateLeft_j34 x0 x1 x2 h5) := by
        intro x0 x1 x2 h5
        refine s_aload_n C dJ36_rotateLeft_34 2 rfl rfl ?_
        refine s_aload_n C dJ36_rotateLeft_35 1 rfl rfl ?_
        refine s_getR [32] C (fl1 ⟨fo_J36_9_32, rfl⟩) (pl_of e4 rfl) dJ36_rotateLeft_36 fun a6 => ?_
        refine s_dup_x1 C dJ36_rotateLeft_39 rfl rfl ?_
        refine s_putR [32] C (fl1 ⟨by decide, fo_J36_9_32, rfl⟩) (pl_of e4 rfl) (fl1 (Or.inl rfl)) dJ36_rotateLeft_40 fun h7 => ?_
        refine s_dup C dJ36_rotateLeft_43 rfl ?_
        refine s_astore_n (la' := [(3, vr a6), (0, vr x0), (1, vr x1), (2, vr x2)]) C 3 dJ36_rotateLeft_44 rfl (lt_nl e5 rfl) rfl ?_
        have hj79 : ∀ (x0 : Nat) (x1 : Nat) (x2 : Nat) (h8 : Hp), Sim id E (QM id E finR) h8 79 [(0, vr x0), (1, vr x1), (2, vr x2)] [] (g_HashMapTreeNode_rotateLeft_j79 x0 x1 x2 h8) := by
          intro x0 x1 x2 h8
          refine s_aload_n C dJ36_rotateLeft_79 2 rfl rfl ?_
          refine s_aload_n C dJ36_rotateLeft_80 1 rfl rfl ?_
          refine s_putR [32] C (fl1 ⟨by decide, fo_J36_39_32, rfl⟩) (pl_of e4 rfl) (fl1 (Or.inl rfl)) dJ36_rotateLeft_81 fun h9 => ?_
          refine s_aload_n C dJ36_rotateLeft_84 1 rfl rfl ?_
          refine s_aload_n C dJ36_rotateLeft_85 2 rfl rfl ?_
          refine s_putR [32] C (fl1 ⟨by decide, fo_J36_9_32, rfl⟩) (pl_of e4 rfl) (fl1 (Or.inl rfl)) dJ36_rotateLeft_86 fun h10 => ?_
          refine Sim.keep [0] rfl ?_
          exact hj89 _ _
        refine s_ifnonnull C 58 dJ36_rotateLeft_45 (by decide) ?_ ?_
        · refine s_aload_n C dJ36_rotateLeft_58 0 rfl rfl ?_
          refine s_getR [32] C (fl1 ⟨fo_J36_39_32, rfl⟩) (pl_of e4 rfl) dJ36_rotateLeft_59 fun a11 => ?_
          refine s_aload_n C dJ36_rotateLeft_62 2 rfl rfl ?_
          refine s_acmp_ne 74 C dJ36_rotateLeft_63 (by decide) ?_ ?_
          · refine s_aload_n C dJ36_rotateLeft_74 0 rfl rfl ?_
            refine s_aload_n C dJ36_rotateLeft_75 3 rfl rfl ?_
            refine s_putR [32] C (fl1 ⟨by decide, fo_J36_42_32, rfl⟩) (pl_of e4 rfl) (fl1 (Or.inl rfl)) dJ36_rotateLeft_76 fun h12 => ?_
            refine Sim.keep [1, 2, 3] rfl ?_
            exact hj79 _ _ _ _
          · refine s_aload_n C dJ36_rotateLeft_66 0 rfl rfl ?_
            refine s_aload_n C dJ36_rotateLeft_67 3 rfl rfl ?_
            refine s_putR [32] C (fl1 ⟨by decide, fo_J36_39_32, rfl⟩) (pl_of e4 rfl) (fl1 (Or.inl rfl)) dJ36_rotateLeft_68 fun h13 => ?_
            refine s_goto C 79 dJ36_rotateLeft_71 (by decide) ?_
            refine Sim.keep [1, 2, 3] rfl ?_
            exact hj79 _ _ _ _
        · refine s_aload_n C dJ36_rotateLeft_48 3 rfl rfl ?_
          refine s_dup C dJ36_rotateLeft_49 rfl ?_
          refine s_astore_n (la' := [(0, vr x2), (3, vr a6), (1, vr x1), (2, vr x2)]) C 0 dJ36_rotateLeft_50 rfl (lt_nl e5 rfl) rfl ?_
          refine s_iconst C (0 : Int32) dJ36_rotateLeft_51 (by decide) ?_
          refine s_putI [32] 2 C (by decide) (by decide) (fl1 ⟨⟨by decide, fo_J36_93_32, rfl⟩, rfl⟩) (pl_of e4 rfl) (fl1 (Or.inl rfl)) dJ36_rotateLeft_52 fun h14 => ?_
          refine s_goto C 79 dJ36_rotateLeft_55 (by decide) ?_
          refine Sim.keep [0, 2, 3] rfl ?_
          exact hj79 _ _ _ _
      refine s_ifnull C 34 dJ36_rotateLeft_25 (by decide) ?_ ?_
      · refine Sim.keep [2, 3, 1] rfl ?_
        exact hj34 _ _ _ _
      · refine s_aload C dJ36_rotateLeft_28 0 rfl ?_
        refine s_aload_n C dJ36_rotateLeft_30 3 rfl rfl ?_
        refine s_putR [32] C (fl1 ⟨by decide, fo_J36_9_32, rfl⟩) (pl_of e4 rfl) (fl1 (Or.inl rfl)) dJ36_rotateLeft_31 fun h15 => ?_
        refine Sim.keep [2, 3, 1] rfl ?_
        exact hj34 _ _ _ _

def g_HashMapTreeNode_rotateRight_j89 (x0 : Nat) (h1 : Hp) : Option (Nat × Hp) :=
  some (x0, h1)
def g_HashMapTreeNode_rotateRight_j79 (x0 : Nat) (x1 : Nat) (x2 : Nat) (h8 : Hp) : Option (Nat × Hp) :=
  (putR [32] 8 x2 x1 h8).bind fun h9 =>
  (putR [32] 6 x1 x2 h9).bind fun h10 =>
  g_HashMapTreeNode_rotateRight_j89 x0 h10
def g_HashMapTreeNode_rotateRight_j34 (x0 : Nat) (x1 : Nat) (x2 : Nat) (h5 : Hp) : Option (Nat × Hp) :=
  (getR [32] 6 x1 h5).bind fun a6 =>
  (putR [32] 6 x2 a6 h5).bind fun h7 =>
  if a6 = 0 then
    (putI [32] 2 10 x2 (0 : Int32) h7).bind fun h14 =>
    g_HashMapTreeNode_rotateRight_j79 x2 x1 x2 h14
  else
    (getR [32] 8 a6 h7).bind fun a11 =>
    if a11 = x1 then
      (putR [32] 8 a6 x2 h7).bind fun h13 =>
      g_HashMapTreeNode_rotateRight_j79 x0 x1 x2 h13
    else
      (putR [32] 7 a6 x2 h7).bind fun h12 =>
      g_HashMapTreeNode_rotateRight_j79 x0 x1 x2 h12
def g_HashMapTreeNode_rotateRight (x0 : Nat) (x1 : Nat) (h : Hp) : Option (Nat × Hp) :=
  if x1 = 0 then
    g_HashMapTreeNode_rotateRight_j89 x0 h
  else
    (getR [32] 7 x1 h).bind fun a2 =>
    if a2 = 0 then
      g_HashMapTreeNode_rotateRight_j89 x0 h
    else
      (getR [32] 8 a2 h).bind fun a3 =>
      (putR [32] 7 x1 a3 h).bind fun h4 =>
      if a3 = 0 then
        g_HashMapTreeNode_rotateRight_j34 x0 x1 a2 h4
      else
        (putR [32] 6 a3 x1 h4).bind fun h15 =>
        g_HashMapTreeNode_rotateRight_j34 x0 x1 a2 h15
theorem ct_g_HashMapTreeNode_rotateRight {G : Gx} {RL : Lv} {l : Launch} (hL : LvA G RL plR) (x0 : Nat) (x1 : Nat) (h : Hp) : Ct id G RL l yJ36_rotateRight (ws_ yJ36_rotateRight cJ36_rotateRight 5 (some (.object "java/util/HashMap$TreeNode"))) 0 0 finR [vr x0, vr x1] h (g_HashMapTreeNode_rotateRight x0 x1 h) := by
  refine Ct.of (Pl := plR) [(0, vr x0), (1, vr x1)] (by decide) hL rfl (Nat.le_of_ble_eq_true rfl) ?_
  intro E C e6 hf hlo e1 e2 e3 e4 e5
  subst e1; subst e2; subst e3
  replace C : Cx E cJ36_rotateRight (some (.object "java/util/HashMap$TreeNode")) RJ36 := C
  replace e6 : (eMe E).name = "rotateRight" := e6
  unfold g_HashMapTreeNode_rotateRight
  refine s_aload_n C dJ36_rotateRight_0 1 rfl rfl ?_
  have hj89 : ∀ (x0 : Nat) (h1 : Hp), Sim id E (QM id E finR) h1 89 [(0, vr x0)] [] (g_HashMapTreeNode_rotateRight_j89 x0 h1) := by
    intro x0 h1
    refine s_aload_n C dJ36_rotateRight_89 0 rfl rfl ?_
    exact s_aret C (Or.inl ⟨_, rfl⟩) rfl dJ36_rotateRight_90
  refine s_ifnull C 89 dJ36_rotateRight_1 (by decide) ?_ ?_
  · refine Sim.keep [0] rfl ?_
    exact hj89 _ _
  · refine s_aload_n C dJ36_rotateRight_4 1 rfl rfl ?_
    refine s_getR [32] C (fl1 ⟨fo_J36_39_32, rfl⟩) (pl_of e4 rfl) dJ36_rotateRight_5 fun a2 => ?_
    refine s_dup C dJ36_rotateRight_8 rfl ?_
    refine s_astore_n (la' := [(2, vr a2), (0, vr x0), (1, vr x1)]) C 2 dJ36_rotateRight_9 rfl (lt_nl e5 rfl) rfl ?_
    refine s_ifnull C 89 dJ36_rotateRight_10 (by decide) ?_ ?_
    · refine Sim.keep [1] rfl ?_
      exact hj89 _ _
    · refine s_aload_n C dJ36_rotateRight_13 2 rfl rfl ?_
      refine s_aload_n C dJ36_rotateRight_14 0 rfl rfl ?_
      refine s_getR [32] C (fl1 ⟨fo_J36_42_32, rfl⟩) (pl_of e4 rfl) dJ36_rotateRight_15 fun a3 => ?_
      refine s_dup_x1 C dJ36_rotateRight_18 rfl rfl ?_
      refine s_putR [32] C (fl1 ⟨by decide, fo_J36_39_32, rfl⟩) (pl_of e4 rfl) (fl1 (Or.inl rfl)) dJ36_rotateRight_19 fun h4 => ?_
      refine s_dup C dJ36_rotateRight_22 rfl ?_
      refine s_astore (la' := [(4, vr a3), (2, vr a2), (0, vr x0), (1, vr x1)]) C dJ36_rotateRight_23 (lt_nl e5 rfl) rfl ?_
      have hj34 : ∀ (x0 : Nat) (x1 : Nat) (x2 : Nat) (h5 : Hp), Sim id E (QM id E finR) h5 34 [(0, vr x0), (1, vr x1), (2, vr x2)] [] (g_HashMapTreeNode_rotateRight_j34 x0 x1 x2 h5) := by
        intro x0 x1 x2 h5
        refine s_aload_n C dJ36_rotateRight_34 2 rfl rfl ?_
        refine s_aload_n C dJ36_rotateRight_35 1 rfl rfl ?_
        refine s_getR [32] C (fl1 ⟨fo_J36_9_32, rfl⟩) (pl_of e4 rfl) dJ36_rotateRight_36 fun a6 => ?_
        refine s_dup_x1 C dJ36_rotateRight_39 rfl rfl ?_
        refine s_putR [32] C (fl1 ⟨by decide, fo_J36_9_32, rfl⟩) (pl_of e4 rfl) (fl1 (Or.inl rfl)) dJ36_rotateRight_40 fun h7 => ?_
        refine s_dup C dJ36_rotateRight_43 rfl ?_
        refine s_astore_n (la' := [(3, vr a6), (0, vr x0), (1, vr x1), (2, vr x2)]) C 3 dJ36_rotateRight_44 rfl (lt_nl e5 rfl) rfl ?_
        have hj79 : ∀ (x0 : Nat) (x1 : Nat) (x2 : Nat) (h8 : Hp), Sim id E (QM id E finR) h8 79 [(0, vr x0), (1, vr x1), (2, vr x2)] [] (g_HashMapTreeNode_rotateRight_j79 x0 x1 x2 h8) := by
          intro x0 x1 x2 h8
          refine s_aload_n C dJ36_rotateRight_79 2 rfl rfl ?_
          refine s_aload_n C dJ36_rotateRight_80 1 rfl rfl ?_
          refine s_putR [32] C (fl1 ⟨by decide, fo_J36_42_32, rfl⟩) (pl_of e4 rfl) (fl1 (Or.inl rfl)) dJ36_rotateRight_81 fun h9 => ?_
          refine s_aload_n C dJ36_rotateRight_84 1 rfl rfl ?_
          refine s_aload_n C dJ36_rotateRight_85 2 rfl rfl ?_
          refine s_putR [32] C (fl1 ⟨by decide, fo_J36_9_32, rfl⟩) (pl_of e4 rfl) (fl1 (Or.inl rfl)) dJ36_rotateRight_86 fun h10 => ?_
          refine Sim.keep [0] rfl ?_
          exact hj89 _ _
        refine s_ifnonnull C 58 dJ36_rotateRight_45 (by decide) ?_ ?_
        · refine s_aload_n C dJ36_rotateRight_58 0 rfl rfl ?_
          refine s_getR [32] C (fl1 ⟨fo_J36_42_32, rfl⟩) (pl_of e4 rfl) dJ36_rotateRight_59 fun a11 => ?_
          refine s_aload_n C dJ36_rotateRight_62 2 rfl rfl ?_
          refine s_acmp_ne 74 C dJ36_rotateRight_63 (by decide) ?_ ?_
          · refine s_aload_n C dJ36_rotateRight_74 0 rfl rfl ?_
            refine s_aload_n C dJ36_rotateRight_75 3 rfl rfl ?_
            refine s_putR [32] C (fl1 ⟨by decide, fo_J36_39_32, rfl⟩) (pl_of e4 rfl) (fl1 (Or.inl rfl)) dJ36_rotateRight_76 fun h12 => ?_
            refine Sim.keep [1, 2, 3] rfl ?_
            exact hj79 _ _ _ _
          · refine s_aload_n C dJ36_rotateRight_66 0 rfl rfl ?_
            refine s_aload_n C dJ36_rotateRight_67 3 rfl rfl ?_
            refine s_putR [32] C (fl1 ⟨by decide, fo_J36_42_32, rfl⟩) (pl_of e4 rfl) (fl1 (Or.inl rfl)) dJ36_rotateRight_68 fun h13 => ?_
            refine s_goto C 79 dJ36_rotateRight_71 (by decide) ?_
            refine Sim.keep [1, 2, 3] rfl ?_
            exact hj79 _ _ _ _
        · refine s_aload_n C dJ36_rotateRight_48 3 rfl rfl ?_
          refine s_dup C dJ36_rotateRight_49 rfl ?_
          refine s_astore_n (la' := [(0, vr x2), (3, vr a6), (1, vr x1), (2, vr x2)]) C 0 dJ36_rotateRight_50 rfl (lt_nl e5 rfl) rfl ?_
          refine s_iconst C (0 : Int32) dJ36_rotateRight_51 (by decide) ?_
          refine s_putI [32] 2 C (by decide) (by decide) (fl1 ⟨⟨by decide, fo_J36_93_32, rfl⟩, rfl⟩) (pl_of e4 rfl) (fl1 (Or.inl rfl)) dJ36_rotateRight_52 fun h14 => ?_
          refine s_goto C 79 dJ36_rotateRight_55 (by decide) ?_
          refine Sim.keep [0, 2, 3] rfl ?_
          exact hj79 _ _ _ _
      refine s_ifnull C 34 dJ36_rotateRight_25 (by decide) ?_ ?_
      · refine Sim.keep [2, 3, 1] rfl ?_
        exact hj34 _ _ _ _
      · refine s_aload C dJ36_rotateRight_28 0 rfl ?_
        refine s_aload_n C dJ36_rotateRight_30 3 rfl rfl ?_
        refine s_putR [32] C (fl1 ⟨by decide, fo_J36_9_32, rfl⟩) (pl_of e4 rfl) (fl1 (Or.inl rfl)) dJ36_rotateRight_31 fun h15 => ?_
        refine Sim.keep [2, 3, 1] rfl ?_
        exact hj34 _ _ _ _
