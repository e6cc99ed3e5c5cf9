/-! THE MODEL's METHODS (printed by gen.py, genm.py out of the decode rows): functions on its state, contracts -/
set_option maxRecDepth 100000
def g_isIn_j15 (y0 : Int32) (M1 : Ms) : Option (Int32 × Ms) :=
  if nrw 2 y0 = y0 then some (y0, M1) else none
def g_isIn_j14  (M2 : Ms) : Option (Int32 × Ms) :=
  g_isIn_j15 (0 : Int32) M2
def g_isIn (x0 : Int32) (x1 : Int32) (x2 : Int32) (M : Ms) : Option (Int32 × Ms) :=
  if x0 < x1 then
    g_isIn_j14 M
  else
    if x2 < x0 then
      g_isIn_j14 M
    else
      g_isIn_j15 (1 : Int32) M
theorem nd_X6_isIn : yX6_isIn.cls = RX6 ∧ yX6_isIn.cls ≠ "java/lang/invoke/MethodHandle" ∧ yX6_isIn.cls ≠ "java/lang/invoke/VarHandle" ∧ (parseMethodDescriptor yX6_isIn.desc).map (fun d => d.parameters.length) = some 3 := ⟨rfl, by decide +kernel, by decide +kernel, by decide +kernel⟩
theorem ct_X6_isIn {G : Gx} {RL : Lv} {Pl : Nat → Bool} {l : Launch} (hL : LvA G RL Pl) {h0 : Hp} {mo : Nat} (hM : MP Pl mo) (M : Ms) (x0 : Int32) (x1 : Int32) (x2 : Int32) : Ct (plug h0 mo) G RL l yX6_isIn (ws_ yX6_isIn cX6_isIn 3 (some .boolean)) 0 0 finI [.int x0, .int x1, .int x2] M (g_isIn x0 x1 x2 M) := by
  refine Ct.of (Pl := Pl) [(0, .int x0), (1, .int x1), (2, .int x2)] (by decide) hL rfl (Nat.le_of_ble_eq_true rfl) ?_
  intro E C hn hf hlo e1 e2 e3 e4 e5
  subst e1; subst e2; subst e3; subst e4
  replace C : Cx E cX6_isIn (some .boolean) RX6 := C
  unfold g_isIn
  refine s_iload_n C dX6_isIn_0 0 rfl rfl ?_
  refine s_iload_n C dX6_isIn_1 1 rfl rfl ?_
  have hj15 : ∀ (y0 : Int32) (M1 : Ms), Sim (plug h0 mo) E (QM (plug h0 mo) E finI) M1 15 [] [.int y0] (g_isIn_j15 y0 M1) := by
    intro y0 M1
    exact s_zret 2 C (by decide) (by decide) rfl dX6_isIn_15
  have hj14 : ∀  (M2 : Ms), Sim (plug h0 mo) E (QM (plug h0 mo) E finI) M2 14 [] [] (g_isIn_j14 M2) := by
    intro M2
    refine s_iconst C (0 : Int32) dX6_isIn_14 (by decide) ?_
    exact hj15 _ _
  refine s_icmp_lt C 14 dX6_isIn_2 (by decide) ?_ ?_
  · refine Sim.keep [] rfl ?_
    exact hj14 _
  · refine s_iload_n C dX6_isIn_5 0 rfl rfl ?_
    refine s_iload_n C dX6_isIn_6 2 rfl rfl ?_
    refine s_icmp_gt C 14 dX6_isIn_7 (by decide) ?_ ?_
    · refine Sim.keep [] rfl ?_
      exact hj14 _
    · refine s_iconst C (1 : Int32) dX6_isIn_10 (by decide) ?_
      refine s_goto C 15 dX6_isIn_11 (by decide) ?_
      refine Sim.keep [] rfl ?_
      exact hj15 _ _

def g_isBlock (x1 : Int32) (M : Ms) : Option (Int32 × Ms) :=
  (aI 0 6 (2 : Int32) M).bind fun a1 =>
  bn (g_isIn x1 (0 : Int32) (a1 - (1 : Int32)) M) fun r3 M2 =>
  if nrw 2 r3 = r3 then some (r3, M2) else none
theorem nd_X6_isBlock : yX6_isBlock.cls = RX6 ∧ yX6_isBlock.cls ≠ "java/lang/invoke/MethodHandle" ∧ yX6_isBlock.cls ≠ "java/lang/invoke/VarHandle" ∧ (parseMethodDescriptor yX6_isBlock.desc).map (fun d => d.parameters.length) = some 1 := ⟨rfl, by decide +kernel, by decide +kernel, by decide +kernel⟩
theorem ct_X6_isBlock {G : Gx} {RL : Lv} {Pl : Nat → Bool} {l : Launch} (hL : LvA G RL Pl) {h0 : Hp} {mo : Nat} (hM : MP Pl mo) (M : Ms) (x1 : Int32) : Ct (plug h0 mo) G RL l yX6_isBlock (ws_ yX6_isBlock cX6_isBlock 2 (some .boolean)) 1 22 finI [vr mo, .int x1] M (g_isBlock x1 M) := by
  refine Ct.of (Pl := Pl) [(0, vr mo), (1, .int x1)] (by decide) hL rfl (Nat.le_of_ble_eq_true rfl) ?_
  intro E C hn hf hlo e1 e2 e3 e4 e5
  subst e1; subst e2; subst e3; subst e4
  replace C : Cx E cX6_isBlock (some .boolean) RX6 := C
  unfold g_isBlock
  refine s_iload_n C dX6_isBlock_0 1 rfl rfl ?_
  refine s_iconst C (0 : Int32) dX6_isBlock_1 (by decide) ?_
  refine s_aload_n C dX6_isBlock_2 0 rfl rfl ?_
  refine sm_getA 6 C hM fo_X6_33_6 rfl (by decide) dX6_isBlock_3 ?_
  refine s_iconst C (2 : Int32) dX6_isBlock_6 (by decide) ?_
  refine sm_iald C hM dX6_isBlock_7 fun a1 => ?_
  refine s_iconst C (1 : Int32) dX6_isBlock_8 (by decide) ?_
  refine s_isub C dX6_isBlock_9 ?_
  refine sm_callSI C 3 [] (ct_X6_isIn hL hM M x1 (0 : Int32) (a1 - (1 : Int32))) (lw_S q3150 q3151 q147 q3152) nd_X6_isIn rfl (le_fr hf rfl) (le_fr hlo rfl) rfl (Nat.le_of_ble_eq_true rfl) dX6_isBlock_10 fun r3 M2 => ?_
  exact s_zret 2 C (by decide) (by decide) rfl dX6_isBlock_13

def g_laysBlocks_j67 (rec2 : Int32 → Ms → Option (Unit × Ms)) (x1 : Int32) (y1 : Int32) (y2 : Int32) (M6 : Ms) : Option (Unit × Ms) :=
  (sI 0 22 y1 y2 M6).bind fun M7 =>
  rec2 (x1 + (1 : Int32)) M7
def g_laysBlocks_j43 (rec2 : Int32 → Ms → Option (Unit × Ms)) (x1 : Int32) (x2 : Int32) (y1 : Int32) (y2 : Int32) (M4 : Ms) : Option (Unit × Ms) :=
  (sI 0 21 y1 y2 M4).bind fun M5 =>
  if 0 ≤ x2 then
    (aI 0 22 x2 M5).bind fun a8 =>
    g_laysBlocks_j67 rec2 x1 x1 (a8 ||| ((1 : Int32) <<< (x2 &&& 31))) M5
  else
    g_laysBlocks_j67 rec2 x1 x1 (0 : Int32) M5
def g_laysBlocks_L2  : Int32 → Ms → Option (Unit × Ms) :=
  lp FU fun rec2 v2 M1 =>
    (aI 0 6 (2 : Int32) M1).bind fun a2 =>
    if a2 ≤ v2 then
      some ((), M1)
    else
      (aI 0 6 ((12 : Int32) + v2) M1).bind fun a3 =>
      if 0 ≤ a3 then
        (aI 0 21 a3 M1).bind fun a9 =>
        g_laysBlocks_j43 rec2 v2 a3 v2 (a9 + (1 : Int32)) M1
      else
        g_laysBlocks_j43 rec2 v2 a3 v2 (0 : Int32) M1
def g_laysBlocks  (M : Ms) : Option (Unit × Ms) :=
  g_laysBlocks_L2 (0 : Int32) M
theorem nd_X6_laysBlocks : yX6_laysBlocks.cls = RX6 ∧ yX6_laysBlocks.cls ≠ "java/lang/invoke/MethodHandle" ∧ yX6_laysBlocks.cls ≠ "java/lang/invoke/VarHandle" ∧ (parseMethodDescriptor yX6_laysBlocks.desc).map (fun d => d.parameters.length) = some 0 := ⟨rfl, by decide +kernel, by decide +kernel, by decide +kernel⟩
theorem ct_X6_laysBlocks {G : Gx} {RL : Lv} {Pl : Nat → Bool} {l : Launch} (hL : LvA G RL Pl) {h0 : Hp} {mo : Nat} (hM : MP Pl mo) (M : Ms)  : Ct (plug h0 mo) G RL l yX6_laysBlocks (ws_ yX6_laysBlocks cX6_laysBlocks 3 none) 0 0 finV [vr mo] M (g_laysBlocks M) := by
  refine Ct.of (Pl := Pl) [(0, vr mo)] (by decide) hL rfl (Nat.le_of_ble_eq_true rfl) ?_
  intro E C hn hf hlo e1 e2 e3 e4 e5
  subst e1; subst e2; subst e3; subst e4
  replace C : Cx E cX6_laysBlocks none RX6 := C
  unfold g_laysBlocks
  refine s_iconst C (0 : Int32) dX6_laysBlocks_0 (by decide) ?_
  have hL2 : ∀  (v2 : Int32) (M1 : Ms), Sim (plug h0 mo) E (QM (plug h0 mo) E finV) M1 2 [(0, vr mo), (1, .int v2)] [] (g_laysBlocks_L2  v2 M1) := by
    intro v2 M1
    refine Sim.loop (fun v2 => [(0, vr mo), (1, .int v2)]) (fun _ => []) (fun rec2 hr2 v2 M1 => ?_) FU v2 M1
    refine s_iload_n C dX6_laysBlocks_2 1 rfl rfl ?_
    refine s_aload_n C dX6_laysBlocks_3 0 rfl rfl ?_
    refine sm_getA 6 C hM fo_X6_33_6 rfl (by decide) dX6_laysBlocks_4 ?_
    refine s_iconst C (2 : Int32) dX6_laysBlocks_7 (by decide) ?_
    refine sm_iald C hM dX6_laysBlocks_8 fun a2 => ?_
    refine s_icmp_ge C 74 dX6_laysBlocks_9 (by decide) ?_ ?_
    · exact s_vret C rfl dX6_laysBlocks_74
    · refine s_aload_n C dX6_laysBlocks_12 0 rfl rfl ?_
      refine sm_getA 6 C hM fo_X6_33_6 rfl (by decide) dX6_laysBlocks_13 ?_
      refine s_bipush C (12 : Int32) dX6_laysBlocks_16 (by decide) ?_
      refine s_iload_n C dX6_laysBlocks_18 1 rfl rfl ?_
      refine s_iadd C dX6_laysBlocks_19 ?_
      refine sm_iald C hM dX6_laysBlocks_20 fun a3 => ?_
      refine s_istore_n (la' := [(2, .int a3), (0, vr mo), (1, .int v2)]) C 2 dX6_laysBlocks_21 rfl (lt_nl e5 rfl) rfl ?_
      refine s_aload_n C dX6_laysBlocks_22 1 rfl rfl ?_
      refine sm_getA 21 C hM fo_X6_53_6 rfl (by decide) dX6_laysBlocks_23 ?_
      refine s_iload_n C dX6_laysBlocks_26 2 rfl rfl ?_
      refine s_iload_n C dX6_laysBlocks_27 0 rfl rfl ?_
      have hj43 : ∀ (x1 : Int32) (x2 : Int32) (y1 : Int32) (y2 : Int32) (M4 : Ms), Sim (plug h0 mo) E (QM (plug h0 mo) E finV) M4 43 [(0, vr mo), (1, .int x1), (2, .int x2)] [.int y2, .int y1, vr (aid mo 21)] (g_laysBlocks_j43 rec2 x1 x2 y1 y2 M4) := by
        intro x1 x2 y1 y2 M4
        refine sm_iast C hM dX6_laysBlocks_43 fun M5 => ?_
        refine s_aload_n C dX6_laysBlocks_44 0 rfl rfl ?_
        refine sm_getA 22 C hM fo_X6_56_6 rfl (by decide) dX6_laysBlocks_45 ?_
        refine s_iload_n C dX6_laysBlocks_48 1 rfl rfl ?_
        refine s_iload_n C dX6_laysBlocks_49 2 rfl rfl ?_
        have hj67 : ∀ (x1 : Int32) (y1 : Int32) (y2 : Int32) (M6 : Ms), Sim (plug h0 mo) E (QM (plug h0 mo) E finV) M6 67 [(0, vr mo), (1, .int x1)] [.int y2, .int y1, vr (aid mo 22)] (g_laysBlocks_j67 rec2 x1 y1 y2 M6) := by
          intro x1 y1 y2 M6
          refine sm_iast C hM dX6_laysBlocks_67 fun M7 => ?_
          refine s_iinc (la' := [(1, .int (x1 + (1 : Int32))), (0, vr mo)]) C 1 dX6_laysBlocks_68 rfl rfl (lt_nl e5 rfl) rfl ?_
          refine s_goto C 2 dX6_laysBlocks_71 (by decide) ?_
          refine Sim.keep [1, 0] rfl ?_
          exact hr2 _ _
        refine s_if_ge C 57 dX6_laysBlocks_50 (by decide) ?_ ?_
        · refine s_aload_n C dX6_laysBlocks_57 0 rfl rfl ?_
          refine sm_getA 22 C hM fo_X6_56_6 rfl (by decide) dX6_laysBlocks_58 ?_
          refine s_iload_n C dX6_laysBlocks_61 2 rfl rfl ?_
          refine sm_iald C hM dX6_laysBlocks_62 fun a8 => ?_
          refine s_iconst C (1 : Int32) dX6_laysBlocks_63 (by decide) ?_
          refine s_iload_n C dX6_laysBlocks_64 2 rfl rfl ?_
          refine s_ishl C (x2 &&& 31) dX6_laysBlocks_65 rfl ?_
          refine s_ior C dX6_laysBlocks_66 ?_
          refine Sim.keep [0, 1] rfl ?_
          exact hj67 _ _ _ _
        · refine s_iconst C (0 : Int32) dX6_laysBlocks_53 (by decide) ?_
          refine s_goto C 67 dX6_laysBlocks_54 (by decide) ?_
          refine Sim.keep [0, 1] rfl ?_
          exact hj67 _ _ _ _
      refine s_if_ge C 35 dX6_laysBlocks_28 (by decide) ?_ ?_
      · refine s_aload_n C dX6_laysBlocks_35 1 rfl rfl ?_
        refine sm_getA 21 C hM fo_X6_53_6 rfl (by decide) dX6_laysBlocks_36 ?_
        refine s_iload_n C dX6_laysBlocks_39 0 rfl rfl ?_
        refine sm_iald C hM dX6_laysBlocks_40 fun a9 => ?_
        refine s_iconst C (1 : Int32) dX6_laysBlocks_41 (by decide) ?_
        refine s_iadd C dX6_laysBlocks_42 ?_
        refine Sim.keep [1, 2, 0] rfl ?_
        exact hj43 _ _ _ _ _
      · refine s_iconst C (0 : Int32) dX6_laysBlocks_31 (by decide) ?_
        refine s_goto C 43 dX6_laysBlocks_32 (by decide) ?_
        refine Sim.keep [1, 2, 0] rfl ?_
        exact hj43 _ _ _ _ _
  refine s_istore_n (la' := [(1, .int (0 : Int32)), (0, vr mo)]) C 1 dX6_laysBlocks_1 rfl (lt_nl e5 rfl) rfl ?_
  refine Sim.keep [1, 0] rfl ?_
  exact hL2  _ _

def g_level (x1 : Int32) (M : Ms) : Option (Int32 × Ms) :=
  (aI 0 21 x1 M).bind fun a1 =>
  (aI 0 6 (0 : Int32) M).bind fun a2 =>
  if a2 = 0 then none else
  some ((a1 / a2), M)
theorem nd_X6_level : yX6_level.cls = RX6 ∧ yX6_level.cls ≠ "java/lang/invoke/MethodHandle" ∧ yX6_level.cls ≠ "java/lang/invoke/VarHandle" ∧ (parseMethodDescriptor yX6_level.desc).map (fun d => d.parameters.length) = some 1 := ⟨rfl, by decide +kernel, by decide +kernel, by decide +kernel⟩
theorem ct_X6_level {G : Gx} {RL : Lv} {Pl : Nat → Bool} {l : Launch} (hL : LvA G RL Pl) {h0 : Hp} {mo : Nat} (hM : MP Pl mo) (M : Ms) (x1 : Int32) : Ct (plug h0 mo) G RL l yX6_level (ws_ yX6_level cX6_level 2 (some .int)) 0 0 finI [vr mo, .int x1] M (g_level x1 M) := by
  refine Ct.of (Pl := Pl) [(0, vr mo), (1, .int x1)] (by decide) hL rfl (Nat.le_of_ble_eq_true rfl) ?_
  intro E C hn hf hlo e1 e2 e3 e4 e5
  subst e1; subst e2; subst e3; subst e4
  replace C : Cx E cX6_level (some .int) RX6 := C
  unfold g_level
  refine s_aload_n C dX6_level_0 0 rfl rfl ?_
  refine sm_getA 21 C hM fo_X6_53_6 rfl (by decide) dX6_level_1 ?_
  refine s_iload_n C dX6_level_4 1 rfl rfl ?_
  refine sm_iald C hM dX6_level_5 fun a1 => ?_
  refine s_aload_n C dX6_level_6 0 rfl rfl ?_
  refine sm_getA 6 C hM fo_X6_33_6 rfl (by decide) dX6_level_7 ?_
  refine s_iconst C (0 : Int32) dX6_level_10 (by decide) ?_
  refine sm_iald C hM dX6_level_11 fun a2 => ?_
  refine s_idiv C dX6_level_12 ?_
  exact s_iret C rfl dX6_level_13

def g_offenceBy_j87 (y0 : Int32) (M10 : Ms) : Option (Int32 × Ms) :=
  some (y0, M10)
def g_offenceBy_j75 (y0 : Int32) (M9 : Ms) : Option (Int32 × Ms) :=
  if y0 = 0 then
    g_offenceBy_j87 (0 : Int32) M9
  else
    g_offenceBy_j87 (2 : Int32) M9
def g_offenceBy_j70  (M11 : Ms) : Option (Int32 × Ms) :=
  g_offenceBy_j75 (1 : Int32) M11
def g_offenceBy_j74  (M17 : Ms) : Option (Int32 × Ms) :=
  g_offenceBy_j75 (0 : Int32) M17
def g_offenceBy_j43 (x1 : Int32) (x2 : Int32) (x3 : Int32) (x4 : Int32) (M12 : Ms) : Option (Int32 × Ms) :=
  bn (g_level x3 M12) fun r14 M13 =>
  bn (g_level x1 M13) fun r16 M15 =>
  if r16 ≤ r14 then
    g_offenceBy_j74 M15
  else
    bn (g_level x4 M15) fun r19 M18 =>
    bn (g_level x2 M18) fun r21 M20 =>
    if r19 ≤ r21 then
      g_offenceBy_j74 M20
    else
      g_offenceBy_j70 M20
def g_offenceBy (x1 : Int32) (x2 : Int32) (x3 : Int32) (x4 : Int32) (M : Ms) : Option (Int32 × Ms) :=
  bn (g_level x2 M) fun r2 M1 =>
  bn (g_level x4 M1) fun r4 M3 =>
  if r2 = r4 then
    some ((1 : Int32), M3)
  else
    bn (g_level x1 M3) fun r6 M5 =>
    bn (g_level x3 M5) fun r8 M7 =>
    if r8 ≤ r6 then
      g_offenceBy_j43 x1 x2 x3 x4 M7
    else
      bn (g_level x2 M7) fun r23 M22 =>
      bn (g_level x4 M22) fun r25 M24 =>
      if r25 < r23 then
        g_offenceBy_j70 M24
      else
        g_offenceBy_j43 x1 x2 x3 x4 M24
theorem nd_X6_offenceBy : yX6_offenceBy.cls = RX6 ∧ yX6_offenceBy.cls ≠ "java/lang/invoke/MethodHandle" ∧ yX6_offenceBy.cls ≠ "java/lang/invoke/VarHandle" ∧ (parseMethodDescriptor yX6_offenceBy.desc).map (fun d => d.parameters.length) = some 4 := ⟨rfl, by decide +kernel, by decide +kernel, by decide +kernel⟩
theorem ct_X6_offenceBy {G : Gx} {RL : Lv} {Pl : Nat → Bool} {l : Launch} (hL : LvA G RL Pl) {h0 : Hp} {mo : Nat} (hM : MP Pl mo) (M : Ms) (x1 : Int32) (x2 : Int32) (x3 : Int32) (x4 : Int32) : Ct (plug h0 mo) G RL l yX6_offenceBy (ws_ yX6_offenceBy cX6_offenceBy 6 (some .int)) 1 21 finI [vr mo, .int x1, .int x2, .int x3, .int x4] M (g_offenceBy x1 x2 x3 x4 M) := by
  refine Ct.of (Pl := Pl) [(0, vr mo), (1, .int x1), (2, .int x2), (3, .int x3), (4, .int x4)] (by decide) hL rfl (Nat.le_of_ble_eq_true rfl) ?_
  intro E C hn hf hlo e1 e2 e3 e4 e5
  subst e1; subst e2; subst e3; subst e4
  replace C : Cx E cX6_offenceBy (some .int) RX6 := C
  unfold g_offenceBy
  refine s_aload_n C dX6_offenceBy_0 0 rfl rfl ?_
  refine s_iload_n C dX6_offenceBy_1 2 rfl rfl ?_
  refine sm_callI C 1 [] (ct_X6_level hL hM M x2) (lw_V q3221 q3223 qs64 q147 q3224) nd_X6_level rfl (le_fr hf rfl) (le_fr hlo rfl) rfl (Nat.le_of_ble_eq_true rfl) dX6_offenceBy_2 fun r2 M1 => ?_
  refine s_aload_n C dX6_offenceBy_5 0 rfl rfl ?_
  refine s_iload C dX6_offenceBy_6 4 rfl ?_
  refine sm_callI C 1 [.int r2] (ct_X6_level hL hM M1 x4) (lw_V q3221 q3223 qs64 q147 q3224) nd_X6_level rfl (le_fr hf rfl) (le_fr hlo rfl) rfl (Nat.le_of_ble_eq_true rfl) dX6_offenceBy_8 fun r4 M3 => ?_
  refine s_icmp_ne C 16 dX6_offenceBy_11 (by decide) ?_ ?_
  · refine s_aload_n C dX6_offenceBy_16 0 rfl rfl ?_
    refine s_iload_n C dX6_offenceBy_17 1 rfl rfl ?_
    refine sm_callI C 1 [] (ct_X6_level hL hM M3 x1) (lw_V q3221 q3223 qs64 q147 q3224) nd_X6_level rfl (le_fr hf rfl) (le_fr hlo rfl) rfl (Nat.le_of_ble_eq_true rfl) dX6_offenceBy_18 fun r6 M5 => ?_
    refine s_aload_n C dX6_offenceBy_21 0 rfl rfl ?_
    refine s_iload_n C dX6_offenceBy_22 3 rfl rfl ?_
    refine sm_callI C 1 [.int r6] (ct_X6_level hL hM M5 x3) (lw_V q3221 q3223 qs64 q147 q3224) nd_X6_level rfl (le_fr hf rfl) (le_fr hlo rfl) rfl (Nat.le_of_ble_eq_true rfl) dX6_offenceBy_23 fun r8 M7 => ?_
    have hj75 : ∀ (y0 : Int32) (M9 : Ms), Sim (plug h0 mo) E (QM (plug h0 mo) E finI) M9 75 [] [.int y0] (g_offenceBy_j75 y0 M9) := by
      intro y0 M9
      refine s_istore (la' := [(5, .int y0)]) C dX6_offenceBy_75 (lt_nl e5 rfl) rfl ?_
      refine s_iload C dX6_offenceBy_77 0 rfl ?_
      have hj87 : ∀ (y0 : Int32) (M10 : Ms), Sim (plug h0 mo) E (QM (plug h0 mo) E finI) M10 87 [] [.int y0] (g_offenceBy_j87 y0 M10) := by
        intro y0 M10
        exact s_iret C rfl dX6_offenceBy_87
      refine s_if_eq C 86 dX6_offenceBy_79 (by decide) ?_ ?_
      · refine s_iconst C (0 : Int32) dX6_offenceBy_86 (by decide) ?_
        refine Sim.keep [] rfl ?_
        exact hj87 _ _
      · refine s_iconst C (2 : Int32) dX6_offenceBy_82 (by decide) ?_
        refine s_goto C 87 dX6_offenceBy_83 (by decide) ?_
        refine Sim.keep [] rfl ?_
        exact hj87 _ _
    have hj70 : ∀  (M11 : Ms), Sim (plug h0 mo) E (QM (plug h0 mo) E finI) M11 70 [] [] (g_offenceBy_j70 M11) := by
      intro M11
      refine s_iconst C (1 : Int32) dX6_offenceBy_70 (by decide) ?_
      refine s_goto C 75 dX6_offenceBy_71 (by decide) ?_
      exact hj75 _ _
    have hj43 : ∀ (x1 : Int32) (x2 : Int32) (x3 : Int32) (x4 : Int32) (M12 : Ms), Sim (plug h0 mo) E (QM (plug h0 mo) E finI) M12 43 [(0, vr mo), (1, .int x1), (2, .int x2), (3, .int x3), (4, .int x4)] [] (g_offenceBy_j43 x1 x2 x3 x4 M12) := by
      intro x1 x2 x3 x4 M12
      refine s_aload_n C dX6_offenceBy_43 0 rfl rfl ?_
      refine s_iload_n C dX6_offenceBy_44 3 rfl rfl ?_
      refine sm_callI C 1 [] (ct_X6_level hL hM M12 x3) (lw_V q3221 q3223 qs64 q147 q3224) nd_X6_level rfl (le_fr hf rfl) (le_fr hlo rfl) rfl (Nat.le_of_ble_eq_true rfl) dX6_offenceBy_45 fun r14 M13 => ?_
      refine s_aload_n C dX6_offenceBy_48 0 rfl rfl ?_
      refine s_iload_n C dX6_offenceBy_49 1 rfl rfl ?_
      refine sm_callI C 1 [.int r14] (ct_X6_level hL hM M13 x1) (lw_V q3221 q3223 qs64 q147 q3224) nd_X6_level rfl (le_fr hf rfl) (le_fr hlo rfl) rfl (Nat.le_of_ble_eq_true rfl) dX6_offenceBy_50 fun r16 M15 => ?_
      have hj74 : ∀  (M17 : Ms), Sim (plug h0 mo) E (QM (plug h0 mo) E finI) M17 74 [] [] (g_offenceBy_j74 M17) := by
        intro M17
        refine s_iconst C (0 : Int32) dX6_offenceBy_74 (by decide) ?_
        exact hj75 _ _
      refine s_icmp_ge C 74 dX6_offenceBy_53 (by decide) ?_ ?_
      · refine Sim.keep [] rfl ?_
        exact hj74 _
      · refine s_aload_n C dX6_offenceBy_56 0 rfl rfl ?_
        refine s_iload C dX6_offenceBy_57 4 rfl ?_
        refine sm_callI C 1 [] (ct_X6_level hL hM M15 x4) (lw_V q3221 q3223 qs64 q147 q3224) nd_X6_level rfl (le_fr hf rfl) (le_fr hlo rfl) rfl (Nat.le_of_ble_eq_true rfl) dX6_offenceBy_59 fun r19 M18 => ?_
        refine s_aload_n C dX6_offenceBy_62 0 rfl rfl ?_
        refine s_iload_n C dX6_offenceBy_63 2 rfl rfl ?_
        refine sm_callI C 1 [.int r19] (ct_X6_level hL hM M18 x2) (lw_V q3221 q3223 qs64 q147 q3224) nd_X6_level rfl (le_fr hf rfl) (le_fr hlo rfl) rfl (Nat.le_of_ble_eq_true rfl) dX6_offenceBy_64 fun r21 M20 => ?_
        refine s_icmp_le C 74 dX6_offenceBy_67 (by decide) ?_ ?_
        · refine Sim.keep [] rfl ?_
          exact hj74 _
        · refine Sim.keep [] rfl ?_
          exact hj70 _
    refine s_icmp_ge C 43 dX6_offenceBy_26 (by decide) ?_ ?_
    · exact hj43 _ _ _ _ _
    · refine s_aload_n C dX6_offenceBy_29 0 rfl rfl ?_
      refine s_iload_n C dX6_offenceBy_30 2 rfl rfl ?_
      refine sm_callI C 1 [] (ct_X6_level hL hM M7 x2) (lw_V q3221 q3223 qs64 q147 q3224) nd_X6_level rfl (le_fr hf rfl) (le_fr hlo rfl) rfl (Nat.le_of_ble_eq_true rfl) dX6_offenceBy_31 fun r23 M22 => ?_
      refine s_aload_n C dX6_offenceBy_34 0 rfl rfl ?_
      refine s_iload C dX6_offenceBy_35 4 rfl ?_
      refine sm_callI C 1 [.int r23] (ct_X6_level hL hM M22 x4) (lw_V q3221 q3223 qs64 q147 q3224) nd_X6_level rfl (le_fr hf rfl) (le_fr hlo rfl) rfl (Nat.le_of_ble_eq_true rfl) dX6_offenceBy_37 fun r25 M24 => ?_
      refine s_icmp_gt C 70 dX6_offenceBy_40 (by decide) ?_ ?_
      · refine Sim.keep [] rfl ?_
        exact hj70 _
      · exact hj43 _ _ _ _ _
  · refine s_iconst C (1 : Int32) dX6_offenceBy_14 (by decide) ?_
    exact s_iret C rfl dX6_offenceBy_15

def g_offence_j67 (y0 : Int32) (M3 : Ms) : Option (Int32 × Ms) :=
  some (y0, M3)
def g_offence (x1 : Int32) (x2 : Int32) (M : Ms) : Option (Int32 × Ms) :=
  (aI 0 6 ((72 : Int32) + x1) M).bind fun a1 =>
  (aI 0 6 ((72 : Int32) + x2) M).bind fun a2 =>
  if a1 = a2 then
    (aI 0 6 ((120 : Int32) + x1) M).bind fun a4 =>
    (aI 0 6 ((168 : Int32) + x1) M).bind fun a5 =>
    (aI 0 6 ((120 : Int32) + x2) M).bind fun a6 =>
    (aI 0 6 ((168 : Int32) + x2) M).bind fun a7 =>
    bn (g_offenceBy a4 a5 a6 a7 M) fun r9 M8 =>
    g_offence_j67 r9 M8
  else
    g_offence_j67 (0 : Int32) M
theorem nd_X6_offence : yX6_offence.cls = RX6 ∧ yX6_offence.cls ≠ "java/lang/invoke/MethodHandle" ∧ yX6_offence.cls ≠ "java/lang/invoke/VarHandle" ∧ (parseMethodDescriptor yX6_offence.desc).map (fun d => d.parameters.length) = some 2 := ⟨rfl, by decide +kernel, by decide +kernel, by decide +kernel⟩
theorem ct_X6_offence {G : Gx} {RL : Lv} {Pl : Nat → Bool} {l : Launch} (hL : LvA G RL Pl) {h0 : Hp} {mo : Nat} (hM : MP Pl mo) (M : Ms) (x1 : Int32) (x2 : Int32) : Ct (plug h0 mo) G RL l yX6_offence (ws_ yX6_offence cX6_offence 3 (some .int)) 2 46 finI [vr mo, .int x1, .int x2] M (g_offence x1 x2 M) := by
  refine Ct.of (Pl := Pl) [(0, vr mo), (1, .int x1), (2, .int x2)] (by decide) hL rfl (Nat.le_of_ble_eq_true rfl) ?_
  intro E C hn hf hlo e1 e2 e3 e4 e5
  subst e1; subst e2; subst e3; subst e4
  replace C : Cx E cX6_offence (some .int) RX6 := C
  unfold g_offence
  refine s_aload_n C dX6_offence_0 0 rfl rfl ?_
  refine sm_getA 6 C hM fo_X6_33_6 rfl (by decide) dX6_offence_1 ?_
  refine s_bipush C (72 : Int32) dX6_offence_4 (by decide) ?_
  refine s_iload_n C dX6_offence_6 1 rfl rfl ?_
  refine s_iadd C dX6_offence_7 ?_
  refine sm_iald C hM dX6_offence_8 fun a1 => ?_
  refine s_aload_n C dX6_offence_9 0 rfl rfl ?_
  refine sm_getA 6 C hM fo_X6_33_6 rfl (by decide) dX6_offence_10 ?_
  refine s_bipush C (72 : Int32) dX6_offence_13 (by decide) ?_
  refine s_iload_n C dX6_offence_15 2 rfl rfl ?_
  refine s_iadd C dX6_offence_16 ?_
  refine sm_iald C hM dX6_offence_17 fun a2 => ?_
  have hj67 : ∀ (y0 : Int32) (M3 : Ms), Sim (plug h0 mo) E (QM (plug h0 mo) E finI) M3 67 [] [.int y0] (g_offence_j67 y0 M3) := by
    intro y0 M3
    exact s_iret C rfl dX6_offence_67
  refine s_icmp_ne C 66 dX6_offence_18 (by decide) ?_ ?_
  · refine s_iconst C (0 : Int32) dX6_offence_66 (by decide) ?_
    refine Sim.keep [] rfl ?_
    exact hj67 _ _
  · refine s_aload_n C dX6_offence_21 0 rfl rfl ?_
    refine s_aload_n C dX6_offence_22 0 rfl rfl ?_
    refine sm_getA 6 C hM fo_X6_33_6 rfl (by decide) dX6_offence_23 ?_
    refine s_bipush C (120 : Int32) dX6_offence_26 (by decide) ?_
    refine s_iload_n C dX6_offence_28 1 rfl rfl ?_
    refine s_iadd C dX6_offence_29 ?_
    refine sm_iald C hM dX6_offence_30 fun a4 => ?_
    refine s_aload_n C dX6_offence_31 0 rfl rfl ?_
    refine sm_getA 6 C hM fo_X6_33_6 rfl (by decide) dX6_offence_32 ?_
    refine s_sipush C (168 : Int32) dX6_offence_35 (by decide) ?_
    refine s_iload_n C dX6_offence_38 1 rfl rfl ?_
    refine s_iadd C dX6_offence_39 ?_
    refine sm_iald C hM dX6_offence_40 fun a5 => ?_
    refine s_aload_n C dX6_offence_41 0 rfl rfl ?_
    refine sm_getA 6 C hM fo_X6_33_6 rfl (by decide) dX6_offence_42 ?_
    refine s_bipush C (120 : Int32) dX6_offence_45 (by decide) ?_
    refine s_iload_n C dX6_offence_47 2 rfl rfl ?_
    refine s_iadd C dX6_offence_48 ?_
    refine sm_iald C hM dX6_offence_49 fun a6 => ?_
    refine s_aload_n C dX6_offence_50 0 rfl rfl ?_
    refine sm_getA 6 C hM fo_X6_33_6 rfl (by decide) dX6_offence_51 ?_
    refine s_sipush C (168 : Int32) dX6_offence_54 (by decide) ?_
    refine s_iload_n C dX6_offence_57 2 rfl rfl ?_
    refine s_iadd C dX6_offence_58 ?_
    refine sm_iald C hM dX6_offence_59 fun a7 => ?_
    refine sm_callI C 4 [] (ct_X6_offenceBy hL hM M a4 a5 a6 a7) (lw_V q3217 q3219 qs63 q147 q3220) nd_X6_offenceBy rfl (le_fr hf rfl) (le_fr hlo rfl) rfl (Nat.le_of_ble_eq_true rfl) dX6_offence_60 fun r9 M8 => ?_
    refine s_goto C 67 dX6_offence_63 (by decide) ?_
    refine Sim.keep [] rfl ?_
    exact hj67 _ _

def g_laysVotes_j165 (rec118 : Int32 → Ms → Option (Unit × Ms)) (x1 : Int32) (x3 : Int32) (M19 : Ms) : Option (Unit × Ms) :=
  rec118 (x3 + (1 : Int32)) M19
def g_laysVotes_L118 (rec39 : Int32 → Ms → Option (Unit × Ms)) (x1 : Int32) : Int32 → Ms → Option (Unit × Ms) :=
  lp FU fun rec118 v118 M16 =>
    if x1 ≤ v118 then
      rec39 (x1 + (1 : Int32)) M16
    else
      bn (g_offence v118 x1 M16) fun r18 M17 =>
      if r18 = 0 then
        g_laysVotes_j165 rec118 x1 v118 M17
      else
        (aI 0 6 ((72 : Int32) + x1) M17).bind fun a20 =>
        bd (mI 28 ((M17.1 28) ||| ((1 : Int32) <<< (a20 &&& 31))) M17) fun M21 =>
        bd (mI 33 ((M21.1 33) + (1 : Int32)) M21) fun M22 =>
        g_laysVotes_j165 rec118 x1 v118 M22
def g_laysVotes_j92 (rec39 : Int32 → Ms → Option (Unit × Ms)) (x1 : Int32) (x2 : Int32) (y1 : Int32) (y2 : Int32) (M11 : Ms) : Option (Unit × Ms) :=
  bd (mI 31 (y1 + y2) M11) fun M12 =>
  (aI 0 23 x2 M12).bind fun a13 =>
  (aI 0 6 ((72 : Int32) + x1) M12).bind fun a14 =>
  (sI 0 23 x2 (a13 ||| ((1 : Int32) <<< (a14 &&& 31))) M12).bind fun M15 =>
  g_laysVotes_L118 rec39 x1 (0 : Int32) M15
def g_laysVotes_L39  : Int32 → Ms → Option (Unit × Ms) :=
  lp FU fun rec39 v39 M5 =>
    (aI 0 6 (3 : Int32) M5).bind fun a6 =>
    if a6 ≤ v39 then
      some ((), M5)
    else
      (aI 0 6 ((120 : Int32) + v39) M5).bind fun a7 =>
      (aI 0 6 ((168 : Int32) + v39) M5).bind fun a8 =>
      bd ((((20 : Int32) * a7) + a8)) fun a9 =>
      (aI 0 23 a9 M5).bind fun a10 =>
      if a10 = 0 then
        g_laysVotes_j92 rec39 v39 a9 (M5.1 31) (1 : Int32) M5
      else
        g_laysVotes_j92 rec39 v39 a9 (M5.1 31) (0 : Int32) M5
def g_laysVotes_L17  : Int32 → Ms → Option (Unit × Ms) :=
  lp FU fun rec17 v17 M4 =>
    if (400 : Int32) ≤ v17 then
      g_laysVotes_L39 (0 : Int32) M4
    else
      (sI 0 23 v17 (0 : Int32) M4).bind fun M23 =>
      rec17 (v17 + (1 : Int32)) M23
def g_laysVotes  (M : Ms) : Option (Unit × Ms) :=
  bd (mI 28 (0 : Int32) M) fun M1 =>
  bd (mI 33 (0 : Int32) M1) fun M2 =>
  bd (mI 31 (0 : Int32) M2) fun M3 =>
  g_laysVotes_L17 (0 : Int32) M3
theorem nd_X6_laysVotes : yX6_laysVotes.cls = RX6 ∧ yX6_laysVotes.cls ≠ "java/lang/invoke/MethodHandle" ∧ yX6_laysVotes.cls ≠ "java/lang/invoke/VarHandle" ∧ (parseMethodDescriptor yX6_laysVotes.desc).map (fun d => d.parameters.length) = some 0 := ⟨rfl, by decide +kernel, by decide +kernel, by decide +kernel⟩
theorem ct_X6_laysVotes {G : Gx} {RL : Lv} {Pl : Nat → Bool} {l : Launch} (hL : LvA G RL Pl) {h0 : Hp} {mo : Nat} (hM : MP Pl mo) (M : Ms)  : Ct (plug h0 mo) G RL l yX6_laysVotes (ws_ yX6_laysVotes cX6_laysVotes 4 none) 3 68 finV [vr mo] M (g_laysVotes M) := by
  refine Ct.of (Pl := Pl) [(0, vr mo)] (by decide) hL rfl (Nat.le_of_ble_eq_true rfl) ?_
  intro E C hn hf hlo e1 e2 e3 e4 e5
  subst e1; subst e2; subst e3; subst e4
  replace C : Cx E cX6_laysVotes none RX6 := C
  unfold g_laysVotes
  refine s_aload_n C dX6_laysVotes_0 0 rfl rfl ?_
  refine s_iconst C (0 : Int32) dX6_laysVotes_1 (by decide) ?_
  refine sm_putI 28 0 C hM fo_X6_270_6 rfl ⟨by decide, by decide, rfl⟩ rfl rfl dX6_laysVotes_2 ?_
  refine s_bdh fun M1 => ?_
  refine s_aload_n C dX6_laysVotes_5 0 rfl rfl ?_
  refine s_iconst C (0 : Int32) dX6_laysVotes_6 (by decide) ?_
  refine sm_putI 33 0 C hM fo_X6_273_6 rfl ⟨by decide, by decide, rfl⟩ rfl rfl dX6_laysVotes_7 ?_
  refine s_bdh fun M2 => ?_
  refine s_aload_n C dX6_laysVotes_10 0 rfl rfl ?_
  refine s_iconst C (0 : Int32) dX6_laysVotes_11 (by decide) ?_
  refine sm_putI 31 0 C hM fo_X6_276_6 rfl ⟨by decide, by decide, rfl⟩ rfl rfl dX6_laysVotes_12 ?_
  refine s_bdh fun M3 => ?_
  refine s_iconst C (0 : Int32) dX6_laysVotes_15 (by decide) ?_
  have hL17 : ∀  (v17 : Int32) (M4 : Ms), Sim (plug h0 mo) E (QM (plug h0 mo) E finV) M4 17 [(0, vr mo), (1, .int v17)] [] (g_laysVotes_L17  v17 M4) := by
    intro v17 M4
    refine Sim.loop (fun v17 => [(0, vr mo), (1, .int v17)]) (fun _ => []) (fun rec17 hr17 v17 M4 => ?_) FU v17 M4
    refine s_iload_n C dX6_laysVotes_17 1 rfl rfl ?_
    refine s_sipush C (400 : Int32) dX6_laysVotes_18 (by decide) ?_
    refine s_icmp_ge C 37 dX6_laysVotes_21 (by decide) ?_ ?_
    · refine s_iconst C (0 : Int32) dX6_laysVotes_37 (by decide) ?_
      have hL39 : ∀  (v39 : Int32) (M5 : Ms), Sim (plug h0 mo) E (QM (plug h0 mo) E finV) M5 39 [(0, vr mo), (1, .int v39)] [] (g_laysVotes_L39  v39 M5) := by
        intro v39 M5
        refine Sim.loop (fun v39 => [(0, vr mo), (1, .int v39)]) (fun _ => []) (fun rec39 hr39 v39 M5 => ?_) FU v39 M5
        refine s_iload_n C dX6_laysVotes_39 1 rfl rfl ?_
        refine s_aload_n C dX6_laysVotes_40 0 rfl rfl ?_
        refine sm_getA 6 C hM fo_X6_33_6 rfl (by decide) dX6_laysVotes_41 ?_
        refine s_iconst C (3 : Int32) dX6_laysVotes_44 (by decide) ?_
        refine sm_iald C hM dX6_laysVotes_45 fun a6 => ?_
        refine s_icmp_ge C 177 dX6_laysVotes_46 (by decide) ?_ ?_
        · exact s_vret C rfl dX6_laysVotes_177
        · refine s_bipush C (20 : Int32) dX6_laysVotes_49 (by decide) ?_
          refine s_aload_n C dX6_laysVotes_51 0 rfl rfl ?_
          refine sm_getA 6 C hM fo_X6_33_6 rfl (by decide) dX6_laysVotes_52 ?_
          refine s_bipush C (120 : Int32) dX6_laysVotes_55 (by decide) ?_
          refine s_iload_n C dX6_laysVotes_57 1 rfl rfl ?_
          refine s_iadd C dX6_laysVotes_58 ?_
          refine sm_iald C hM dX6_laysVotes_59 fun a7 => ?_
          refine s_imul C dX6_laysVotes_60 ?_
          refine s_aload_n C dX6_laysVotes_61 0 rfl rfl ?_
          refine sm_getA 6 C hM fo_X6_33_6 rfl (by decide) dX6_laysVotes_62 ?_
          refine s_sipush C (168 : Int32) dX6_laysVotes_65 (by decide) ?_
          refine s_iload_n C dX6_laysVotes_68 1 rfl rfl ?_
          refine s_iadd C dX6_laysVotes_69 ?_
          refine sm_iald C hM dX6_laysVotes_70 fun a8 => ?_
          refine s_iadd C dX6_laysVotes_71 ?_
          refine s_bdi fun a9 => ?_
          refine s_istore_n (la' := [(2, .int a9), (0, vr mo), (1, .int v39)]) C 2 dX6_laysVotes_72 rfl (lt_nl e5 rfl) rfl ?_
          refine s_aload_n C dX6_laysVotes_73 1 rfl rfl ?_
          refine s_dup C dX6_laysVotes_74 rfl ?_
          refine sm_getI 31 C hM fo_X6_276_6 rfl dX6_laysVotes_75 ?_
          refine s_aload_n C dX6_laysVotes_78 1 rfl rfl ?_
          refine sm_getA 23 C hM fo_X6_59_6 rfl (by decide) dX6_laysVotes_79 ?_
          refine s_iload_n C dX6_laysVotes_82 0 rfl rfl ?_
          refine sm_iald C hM dX6_laysVotes_83 fun a10 => ?_
          have hj92 : ∀ (x1 : Int32) (x2 : Int32) (y1 : Int32) (y2 : Int32) (M11 : Ms), Sim (plug h0 mo) E (QM (plug h0 mo) E finV) M11 92 [(0, vr mo), (1, .int x1), (2, .int x2)] [.int y2, .int y1, vr mo] (g_laysVotes_j92 rec39 x1 x2 y1 y2 M11) := by
            intro x1 x2 y1 y2 M11
            refine s_iadd C dX6_laysVotes_92 ?_
            refine sm_putI 31 0 C hM fo_X6_276_6 rfl ⟨by decide, by decide, rfl⟩ rfl rfl dX6_laysVotes_93 ?_
            refine s_bdh fun M12 => ?_
            refine s_aload_n C dX6_laysVotes_96 0 rfl rfl ?_
            refine sm_getA 23 C hM fo_X6_59_6 rfl (by decide) dX6_laysVotes_97 ?_
            refine s_iload_n C dX6_laysVotes_100 2 rfl rfl ?_
            refine s_dup2 C dX6_laysVotes_101 rfl rfl ?_
            refine sm_iald C hM dX6_laysVotes_102 fun a13 => ?_
            refine s_iconst C (1 : Int32) dX6_laysVotes_103 (by decide) ?_
            refine s_aload_n C dX6_laysVotes_104 0 rfl rfl ?_
            refine sm_getA 6 C hM fo_X6_33_6 rfl (by decide) dX6_laysVotes_105 ?_
            refine s_bipush C (72 : Int32) dX6_laysVotes_108 (by decide) ?_
            refine s_iload_n C dX6_laysVotes_110 1 rfl rfl ?_
            refine s_iadd C dX6_laysVotes_111 ?_
            refine sm_iald C hM dX6_laysVotes_112 fun a14 => ?_
            refine s_ishl C (a14 &&& 31) dX6_laysVotes_113 rfl ?_
            refine s_ior C dX6_laysVotes_114 ?_
            refine sm_iast C hM dX6_laysVotes_115 fun M15 => ?_
            refine s_iconst C (0 : Int32) dX6_laysVotes_116 (by decide) ?_
            have hL118 : ∀ (x1 : Int32) (v118 : Int32) (M16 : Ms), Sim (plug h0 mo) E (QM (plug h0 mo) E finV) M16 118 [(0, vr mo), (1, .int x1), (3, .int v118)] [] (g_laysVotes_L118 rec39 x1 v118 M16) := by
              intro x1 v118 M16
              refine Sim.loop (fun v118 => [(0, vr mo), (1, .int x1), (3, .int v118)]) (fun _ => []) (fun rec118 hr118 v118 M16 => ?_) FU v118 M16
              refine s_iload_n C dX6_laysVotes_118 2 rfl rfl ?_
              refine s_iload_n C dX6_laysVotes_119 1 rfl rfl ?_
              refine s_icmp_ge C 171 dX6_laysVotes_120 (by decide) ?_ ?_
              · refine s_iinc (la' := [(1, .int (x1 + (1 : Int32))), (0, vr mo), (3, .int v118)]) C 1 dX6_laysVotes_171 rfl rfl (lt_nl e5 rfl) rfl ?_
                refine s_goto C 39 dX6_laysVotes_174 (by decide) ?_
                refine Sim.keep [1, 0] rfl ?_
                exact hr39 _ _
              · refine s_aload_n C dX6_laysVotes_123 0 rfl rfl ?_
                refine s_iload_n C dX6_laysVotes_124 2 rfl rfl ?_
                refine s_iload_n C dX6_laysVotes_125 1 rfl rfl ?_
                refine sm_callI C 2 [] (ct_X6_offence hL hM M16 v118 x1) (lw_V q3213 q3215 qs62 q147 q3216) nd_X6_offence rfl (le_fr hf rfl) (le_fr hlo rfl) rfl (Nat.le_of_ble_eq_true rfl) dX6_laysVotes_126 fun r18 M17 => ?_
                have hj165 : ∀ (x3 : Int32) (M19 : Ms), Sim (plug h0 mo) E (QM (plug h0 mo) E finV) M19 165 [(0, vr mo), (1, .int x1), (3, .int x3)] [] (g_laysVotes_j165 rec118 x1 x3 M19) := by
                  intro x3 M19
                  refine s_iinc (la' := [(3, .int (x3 + (1 : Int32))), (0, vr mo), (1, .int x1)]) C 2 dX6_laysVotes_165 rfl rfl (lt_nl e5 rfl) rfl ?_
                  refine s_goto C 118 dX6_laysVotes_168 (by decide) ?_
                  refine Sim.keep [1, 2, 0] rfl ?_
                  exact hr118 _ _
                refine s_if_ne C 135 dX6_laysVotes_129 (by decide) ?_ ?_
                · refine s_aload_n C dX6_laysVotes_135 0 rfl rfl ?_
                  refine s_dup C dX6_laysVotes_136 rfl ?_
                  refine sm_getI 28 C hM fo_X6_270_6 rfl dX6_laysVotes_137 ?_
                  refine s_iconst C (1 : Int32) dX6_laysVotes_140 (by decide) ?_
                  refine s_aload_n C dX6_laysVotes_141 0 rfl rfl ?_
                  refine sm_getA 6 C hM fo_X6_33_6 rfl (by decide) dX6_laysVotes_142 ?_
                  refine s_bipush C (72 : Int32) dX6_laysVotes_145 (by decide) ?_
                  refine s_iload_n C dX6_laysVotes_147 1 rfl rfl ?_
                  refine s_iadd C dX6_laysVotes_148 ?_
                  refine sm_iald C hM dX6_laysVotes_149 fun a20 => ?_
                  refine s_ishl C (a20 &&& 31) dX6_laysVotes_150 rfl ?_
                  refine s_ior C dX6_laysVotes_151 ?_
                  refine sm_putI 28 0 C hM fo_X6_270_6 rfl ⟨by decide, by decide, rfl⟩ rfl rfl dX6_laysVotes_152 ?_
                  refine s_bdh fun M21 => ?_
                  refine s_aload_n C dX6_laysVotes_155 0 rfl rfl ?_
                  refine s_dup C dX6_laysVotes_156 rfl ?_
                  refine sm_getI 33 C hM fo_X6_273_6 rfl dX6_laysVotes_157 ?_
                  refine s_iconst C (1 : Int32) dX6_laysVotes_160 (by decide) ?_
                  refine s_iadd C dX6_laysVotes_161 ?_
                  refine sm_putI 33 0 C hM fo_X6_273_6 rfl ⟨by decide, by decide, rfl⟩ rfl rfl dX6_laysVotes_162 ?_
                  refine s_bdh fun M22 => ?_
                  exact hj165 _ _
                · refine s_goto C 165 dX6_laysVotes_132 (by decide) ?_
                  exact hj165 _ _
            refine s_istore_n (la' := [(3, .int (0 : Int32)), (0, vr mo), (1, .int x1), (2, .int x2)]) C 3 dX6_laysVotes_117 rfl (lt_nl e5 rfl) rfl ?_
            refine Sim.keep [1, 2, 0] rfl ?_
            exact hL118 _ _ _
          refine s_if_ne C 91 dX6_laysVotes_84 (by decide) ?_ ?_
          · refine s_iconst C (0 : Int32) dX6_laysVotes_91 (by decide) ?_
            refine Sim.keep [1, 2, 0] rfl ?_
            exact hj92 _ _ _ _ _
          · refine s_iconst C (1 : Int32) dX6_laysVotes_87 (by decide) ?_
            refine s_goto C 92 dX6_laysVotes_88 (by decide) ?_
            refine Sim.keep [1, 2, 0] rfl ?_
            exact hj92 _ _ _ _ _
      refine s_istore_n (la' := [(1, .int (0 : Int32)), (0, vr mo)]) C 1 dX6_laysVotes_38 rfl (lt_nl e5 rfl) rfl ?_
      refine Sim.keep [1, 0] rfl ?_
      exact hL39  _ _
    · refine s_aload_n C dX6_laysVotes_24 0 rfl rfl ?_
      refine sm_getA 23 C hM fo_X6_59_6 rfl (by decide) dX6_laysVotes_25 ?_
      refine s_iload_n C dX6_laysVotes_28 1 rfl rfl ?_
      refine s_iconst C (0 : Int32) dX6_laysVotes_29 (by decide) ?_
      refine sm_iast C hM dX6_laysVotes_30 fun M23 => ?_
      refine s_iinc (la' := [(1, .int (v17 + (1 : Int32))), (0, vr mo)]) C 1 dX6_laysVotes_31 rfl rfl (lt_nl e5 rfl) rfl ?_
      refine s_goto C 17 dX6_laysVotes_34 (by decide) ?_
      refine Sim.keep [1, 0] rfl ?_
      exact hr17 _ _
  refine s_istore_n (la' := [(1, .int (0 : Int32)), (0, vr mo)]) C 1 dX6_laysVotes_16 rfl (lt_nl e5 rfl) rfl ?_
  refine Sim.keep [1, 0] rfl ?_
  exact hL17  _ _

def g_bitOf_j14 (y0 : Int32) (M1 : Ms) : Option (Int32 × Ms) :=
  if nrw 2 y0 = y0 then some (y0, M1) else none
def g_bitOf (x0 : Int32) (x1 : Int32) (M : Ms) : Option (Int32 × Ms) :=
  if ((x0 >>> (x1 &&& 31)) &&& (1 : Int32)) = (1 : Int32) then
    g_bitOf_j14 (1 : Int32) M
  else
    g_bitOf_j14 (0 : Int32) M
theorem nd_X6_bitOf : yX6_bitOf.cls = RX6 ∧ yX6_bitOf.cls ≠ "java/lang/invoke/MethodHandle" ∧ yX6_bitOf.cls ≠ "java/lang/invoke/VarHandle" ∧ (parseMethodDescriptor yX6_bitOf.desc).map (fun d => d.parameters.length) = some 2 := ⟨rfl, by decide +kernel, by decide +kernel, by decide +kernel⟩
theorem ct_X6_bitOf {G : Gx} {RL : Lv} {Pl : Nat → Bool} {l : Launch} (hL : LvA G RL Pl) {h0 : Hp} {mo : Nat} (hM : MP Pl mo) (M : Ms) (x0 : Int32) (x1 : Int32) : Ct (plug h0 mo) G RL l yX6_bitOf (ws_ yX6_bitOf cX6_bitOf 2 (some .boolean)) 0 0 finI [.int x0, .int x1] M (g_bitOf x0 x1 M) := by
  refine Ct.of (Pl := Pl) [(0, .int x0), (1, .int x1)] (by decide) hL rfl (Nat.le_of_ble_eq_true rfl) ?_
  intro E C hn hf hlo e1 e2 e3 e4 e5
  subst e1; subst e2; subst e3; subst e4
  replace C : Cx E cX6_bitOf (some .boolean) RX6 := C
  unfold g_bitOf
  refine s_iload_n C dX6_bitOf_0 0 rfl rfl ?_
  refine s_iload_n C dX6_bitOf_1 1 rfl rfl ?_
  refine s_ishr C (x1 &&& 31) dX6_bitOf_2 rfl ?_
  refine s_iconst C (1 : Int32) dX6_bitOf_3 (by decide) ?_
  refine s_iand C dX6_bitOf_4 ?_
  refine s_iconst C (1 : Int32) dX6_bitOf_5 (by decide) ?_
  have hj14 : ∀ (y0 : Int32) (M1 : Ms), Sim (plug h0 mo) E (QM (plug h0 mo) E finI) M1 14 [] [.int y0] (g_bitOf_j14 y0 M1) := by
    intro y0 M1
    exact s_zret 2 C (by decide) (by decide) rfl dX6_bitOf_14
  refine s_icmp_ne C 13 dX6_bitOf_6 (by decide) ?_ ?_
  · refine s_iconst C (0 : Int32) dX6_bitOf_13 (by decide) ?_
    refine Sim.keep [] rfl ?_
    exact hj14 _ _
  · refine s_iconst C (1 : Int32) dX6_bitOf_9 (by decide) ?_
    refine s_goto C 14 dX6_bitOf_10 (by decide) ?_
    refine Sim.keep [] rfl ?_
    exact hj14 _ _

def g_weightBy_L2 (x2 : Int32) : Int32 → Ms → Option (Int32 × Ms) :=
  lp FU fun rec2 v2 M1 =>
    if v2 < 0 then
      (aI 0 6 ((4 : Int32) + x2) M1).bind fun a2 =>
      some (a2, M1)
    else
      (aI 0 6 ((32 : Int32) + v2) M1).bind fun a3 =>
      if a3 = x2 then
        (aI 0 6 ((52 : Int32) + v2) M1).bind fun a5 =>
        some (a5, M1)
      else
        (aI 0 6 ((12 : Int32) + v2) M1).bind fun a4 =>
        rec2 a4 M1
def g_weightBy (x1 : Int32) (x2 : Int32) (M : Ms) : Option (Int32 × Ms) :=
  g_weightBy_L2 x2 x1 M
theorem nd_X6_weightBy : yX6_weightBy.cls = RX6 ∧ yX6_weightBy.cls ≠ "java/lang/invoke/MethodHandle" ∧ yX6_weightBy.cls ≠ "java/lang/invoke/VarHandle" ∧ (parseMethodDescriptor yX6_weightBy.desc).map (fun d => d.parameters.length) = some 2 := ⟨rfl, by decide +kernel, by decide +kernel, by decide +kernel⟩
theorem ct_X6_weightBy {G : Gx} {RL : Lv} {Pl : Nat → Bool} {l : Launch} (hL : LvA G RL Pl) {h0 : Hp} {mo : Nat} (hM : MP Pl mo) (M : Ms) (x1 : Int32) (x2 : Int32) : Ct (plug h0 mo) G RL l yX6_weightBy (ws_ yX6_weightBy cX6_weightBy 4 (some .int)) 0 0 finI [vr mo, .int x1, .int x2] M (g_weightBy x1 x2 M) := by
  refine Ct.of (Pl := Pl) [(0, vr mo), (1, .int x1), (2, .int x2)] (by decide) hL rfl (Nat.le_of_ble_eq_true rfl) ?_
  intro E C hn hf hlo e1 e2 e3 e4 e5
  subst e1; subst e2; subst e3; subst e4
  replace C : Cx E cX6_weightBy (some .int) RX6 := C
  unfold g_weightBy
  refine s_iload_n C dX6_weightBy_0 1 rfl rfl ?_
  have hL2 : ∀ (x2 : Int32) (v2 : Int32) (M1 : Ms), Sim (plug h0 mo) E (QM (plug h0 mo) E finI) M1 2 [(0, vr mo), (2, .int x2), (3, .int v2)] [] (g_weightBy_L2 x2 v2 M1) := by
    intro x2 v2 M1
    refine Sim.loop (fun v2 => [(0, vr mo), (2, .int x2), (3, .int v2)]) (fun _ => []) (fun rec2 hr2 v2 M1 => ?_) FU v2 M1
    refine s_iload_n C dX6_weightBy_2 2 rfl rfl ?_
    refine s_if_lt C 42 dX6_weightBy_3 (by decide) ?_ ?_
    · refine s_aload_n C dX6_weightBy_42 0 rfl rfl ?_
      refine sm_getA 6 C hM fo_X6_33_6 rfl (by decide) dX6_weightBy_43 ?_
      refine s_iconst C (4 : Int32) dX6_weightBy_46 (by decide) ?_
      refine s_iload_n C dX6_weightBy_47 1 rfl rfl ?_
      refine s_iadd C dX6_weightBy_48 ?_
      refine sm_iald C hM dX6_weightBy_49 fun a2 => ?_
      exact s_iret C rfl dX6_weightBy_50
    · refine s_aload_n C dX6_weightBy_6 0 rfl rfl ?_
      refine sm_getA 6 C hM fo_X6_33_6 rfl (by decide) dX6_weightBy_7 ?_
      refine s_bipush C (32 : Int32) dX6_weightBy_10 (by decide) ?_
      refine s_iload_n C dX6_weightBy_12 2 rfl rfl ?_
      refine s_iadd C dX6_weightBy_13 ?_
      refine sm_iald C hM dX6_weightBy_14 fun a3 => ?_
      refine s_iload_n C dX6_weightBy_15 1 rfl rfl ?_
      refine s_icmp_ne C 29 dX6_weightBy_16 (by decide) ?_ ?_
      · refine s_aload_n C dX6_weightBy_29 0 rfl rfl ?_
        refine sm_getA 6 C hM fo_X6_33_6 rfl (by decide) dX6_weightBy_30 ?_
        refine s_bipush C (12 : Int32) dX6_weightBy_33 (by decide) ?_
        refine s_iload_n C dX6_weightBy_35 2 rfl rfl ?_
        refine s_iadd C dX6_weightBy_36 ?_
        refine sm_iald C hM dX6_weightBy_37 fun a4 => ?_
        refine s_istore_n (la' := [(3, .int a4), (0, vr mo), (2, .int x2)]) C 3 dX6_weightBy_38 rfl (lt_nl e5 rfl) rfl ?_
        refine s_goto C 2 dX6_weightBy_39 (by decide) ?_
        refine Sim.keep [1, 2, 0] rfl ?_
        exact hr2 _ _
      · refine s_aload_n C dX6_weightBy_19 0 rfl rfl ?_
        refine sm_getA 6 C hM fo_X6_33_6 rfl (by decide) dX6_weightBy_20 ?_
        refine s_bipush C (52 : Int32) dX6_weightBy_23 (by decide) ?_
        refine s_iload_n C dX6_weightBy_25 2 rfl rfl ?_
        refine s_iadd C dX6_weightBy_26 ?_
        refine sm_iald C hM dX6_weightBy_27 fun a5 => ?_
        exact s_iret C rfl dX6_weightBy_28
  refine s_istore_n (la' := [(3, .int x1), (0, vr mo), (1, .int x1), (2, .int x2)]) C 3 dX6_weightBy_1 rfl (lt_nl e5 rfl) rfl ?_
  refine Sim.keep [1, 3, 0] rfl ?_
  exact hL2 _ _ _

def g_weightFor_L33 (x3 : Int32) (x4 : Int32) : Int32 → Ms → Option (Int32 × Ms) :=
  lp FU fun rec33 v33 M5 =>
    (aI 0 21 v33 M5).bind fun a6 =>
    if a6 ≤ x4 then
      bn (g_weightBy v33 x3 M5) fun r8 M7 =>
      some (r8, M7)
    else
      (aI 0 6 ((12 : Int32) + v33) M5).bind fun a9 =>
      rec33 a9 M5
def g_weightFor (x1 : Int32) (x2 : Int32) (x3 : Int32) (M : Ms) : Option (Int32 × Ms) :=
  bn (g_level x1 M) fun r2 M1 =>
  (aI 0 6 (0 : Int32) M1).bind fun a3 =>
  bd (((r2 - x2) * a3)) fun a4 =>
  if 0 ≤ a4 then
    g_weightFor_L33 x3 a4 x1 M1
  else
    (aI 0 6 ((4 : Int32) + x3) M1).bind fun a10 =>
    some (a10, M1)
theorem nd_X6_weightFor : yX6_weightFor.cls = RX6 ∧ yX6_weightFor.cls ≠ "java/lang/invoke/MethodHandle" ∧ yX6_weightFor.cls ≠ "java/lang/invoke/VarHandle" ∧ (parseMethodDescriptor yX6_weightFor.desc).map (fun d => d.parameters.length) = some 3 := ⟨rfl, by decide +kernel, by decide +kernel, by decide +kernel⟩
theorem ct_X6_weightFor {G : Gx} {RL : Lv} {Pl : Nat → Bool} {l : Launch} (hL : LvA G RL Pl) {h0 : Hp} {mo : Nat} (hM : MP Pl mo) (M : Ms) (x1 : Int32) (x2 : Int32) (x3 : Int32) : Ct (plug h0 mo) G RL l yX6_weightFor (ws_ yX6_weightFor cX6_weightFor 6 (some .int)) 1 23 finI [vr mo, .int x1, .int x2, .int x3] M (g_weightFor x1 x2 x3 M) := by
  refine Ct.of (Pl := Pl) [(0, vr mo), (1, .int x1), (2, .int x2), (3, .int x3)] (by decide) hL rfl (Nat.le_of_ble_eq_true rfl) ?_
  intro E C hn hf hlo e1 e2 e3 e4 e5
  subst e1; subst e2; subst e3; subst e4
  replace C : Cx E cX6_weightFor (some .int) RX6 := C
  unfold g_weightFor
  refine s_aload_n C dX6_weightFor_0 0 rfl rfl ?_
  refine s_iload_n C dX6_weightFor_1 1 rfl rfl ?_
  refine sm_callI C 1 [] (ct_X6_level hL hM M x1) (lw_V q3221 q3223 qs64 q147 q3224) nd_X6_level rfl (le_fr hf rfl) (le_fr hlo rfl) rfl (Nat.le_of_ble_eq_true rfl) dX6_weightFor_2 fun r2 M1 => ?_
  refine s_iload_n C dX6_weightFor_5 2 rfl rfl ?_
  refine s_isub C dX6_weightFor_6 ?_
  refine s_aload_n C dX6_weightFor_7 0 rfl rfl ?_
  refine sm_getA 6 C hM fo_X6_33_6 rfl (by decide) dX6_weightFor_8 ?_
  refine s_iconst C (0 : Int32) dX6_weightFor_11 (by decide) ?_
  refine sm_iald C hM dX6_weightFor_12 fun a3 => ?_
  refine s_imul C dX6_weightFor_13 ?_
  refine s_bdi fun a4 => ?_
  refine s_istore (la' := [(4, .int a4), (0, vr mo), (1, .int x1), (2, .int x2), (3, .int x3)]) C dX6_weightFor_14 (lt_nl e5 rfl) rfl ?_
  refine s_iload C dX6_weightFor_16 0 rfl ?_
  refine s_if_ge C 30 dX6_weightFor_18 (by decide) ?_ ?_
  · refine s_iload_n C dX6_weightFor_30 2 rfl rfl ?_
    have hL33 : ∀ (x3 : Int32) (x4 : Int32) (v33 : Int32) (M5 : Ms), Sim (plug h0 mo) E (QM (plug h0 mo) E finI) M5 33 [(0, vr mo), (3, .int x3), (4, .int x4), (5, .int v33)] [] (g_weightFor_L33 x3 x4 v33 M5) := by
      intro x3 x4 v33 M5
      refine Sim.loop (fun v33 => [(0, vr mo), (3, .int x3), (4, .int x4), (5, .int v33)]) (fun _ => []) (fun rec33 hr33 v33 M5 => ?_) FU v33 M5
      refine s_aload_n C dX6_weightFor_33 0 rfl rfl ?_
      refine sm_getA 21 C hM fo_X6_53_6 rfl (by decide) dX6_weightFor_34 ?_
      refine s_iload C dX6_weightFor_37 3 rfl ?_
      refine sm_iald C hM dX6_weightFor_39 fun a6 => ?_
      refine s_iload C dX6_weightFor_40 2 rfl ?_
      refine s_icmp_le C 60 dX6_weightFor_42 (by decide) ?_ ?_
      · refine s_aload_n C dX6_weightFor_60 0 rfl rfl ?_
        refine s_iload C dX6_weightFor_61 3 rfl ?_
        refine s_iload_n C dX6_weightFor_63 1 rfl rfl ?_
        refine sm_callI C 2 [] (ct_X6_weightBy hL hM M5 v33 x3) (lw_V q3248 q3250 qs70 q147 q3251) nd_X6_weightBy rfl (le_fr hf rfl) (le_fr hlo rfl) rfl (Nat.le_of_ble_eq_true rfl) dX6_weightFor_64 fun r8 M7 => ?_
        exact s_iret C rfl dX6_weightFor_67
      · refine s_aload_n C dX6_weightFor_45 0 rfl rfl ?_
        refine sm_getA 6 C hM fo_X6_33_6 rfl (by decide) dX6_weightFor_46 ?_
        refine s_bipush C (12 : Int32) dX6_weightFor_49 (by decide) ?_
        refine s_iload C dX6_weightFor_51 3 rfl ?_
        refine s_iadd C dX6_weightFor_53 ?_
        refine sm_iald C hM dX6_weightFor_54 fun a9 => ?_
        refine s_istore (la' := [(5, .int a9), (0, vr mo), (3, .int x3), (4, .int x4)]) C dX6_weightFor_55 (lt_nl e5 rfl) rfl ?_
        refine s_goto C 33 dX6_weightFor_57 (by decide) ?_
        refine Sim.keep [1, 2, 3, 0] rfl ?_
        exact hr33 _ _
    refine s_istore (la' := [(5, .int x1), (4, .int a4), (0, vr mo), (1, .int x1), (2, .int x2), (3, .int x3)]) C dX6_weightFor_31 (lt_nl e5 rfl) rfl ?_
    refine Sim.keep [2, 5, 1, 0] rfl ?_
    exact hL33 _ _ _ _
  · refine s_aload_n C dX6_weightFor_21 1 rfl rfl ?_
    refine sm_getA 6 C hM fo_X6_33_6 rfl (by decide) dX6_weightFor_22 ?_
    refine s_iconst C (4 : Int32) dX6_weightFor_25 (by decide) ?_
    refine s_iload_n C dX6_weightFor_26 4 rfl rfl ?_
    refine s_iadd C dX6_weightFor_27 ?_
    refine sm_iald C hM dX6_weightFor_28 fun a10 => ?_
    exact s_iret C rfl dX6_weightFor_29

def g_sum_j39 (rec6 : (Int32 × Int32) → Ms → Option (Int32 × Ms)) (x1 : Int32) (x2 : Int32) (x3 : Int32) (x4 : Int32) (x5 : Int32) (M5 : Ms) : Option (Int32 × Ms) :=
  rec6 (x4, (x5 + (1 : Int32))) M5
def g_sum_L6 (x1 : Int32) (x2 : Int32) (x3 : Int32) : (Int32 × Int32) → Ms → Option (Int32 × Ms) :=
  lp FU fun rec6 v6 M1 =>
    (aI 0 6 (1 : Int32) M1).bind fun a2 =>
    if a2 ≤ v6.2 then
      some (v6.1, M1)
    else
      bn (g_bitOf x1 v6.2 M1) fun r4 M3 =>
      if r4 = 0 then
        g_sum_j39 rec6 x1 x2 x3 v6.1 v6.2 M3
      else
        bn (g_weightFor x2 x3 v6.2 M3) fun r7 M6 =>
        bd ((v6.1 + r7)) fun a8 =>
        g_sum_j39 rec6 x1 x2 x3 a8 v6.2 M6
def g_sum (x1 : Int32) (x2 : Int32) (x3 : Int32) (M : Ms) : Option (Int32 × Ms) :=
  g_sum_L6 x1 x2 x3 ((0 : Int32), (0 : Int32)) M
theorem nd_X6_sum : yX6_sum.cls = RX6 ∧ yX6_sum.cls ≠ "java/lang/invoke/MethodHandle" ∧ yX6_sum.cls ≠ "java/lang/invoke/VarHandle" ∧ (parseMethodDescriptor yX6_sum.desc).map (fun d => d.parameters.length) = some 3 := ⟨rfl, by decide +kernel, by decide +kernel, by decide +kernel⟩
theorem ct_X6_sum {G : Gx} {RL : Lv} {Pl : Nat → Bool} {l : Launch} (hL : LvA G RL Pl) {h0 : Hp} {mo : Nat} (hM : MP Pl mo) (M : Ms) (x1 : Int32) (x2 : Int32) (x3 : Int32) : Ct (plug h0 mo) G RL l yX6_sum (ws_ yX6_sum cX6_sum 6 (some .int)) 2 48 finI [vr mo, .int x1, .int x2, .int x3] M (g_sum x1 x2 x3 M) := by
  refine Ct.of (Pl := Pl) [(0, vr mo), (1, .int x1), (2, .int x2), (3, .int x3)] (by decide) hL rfl (Nat.le_of_ble_eq_true rfl) ?_
  intro E C hn hf hlo e1 e2 e3 e4 e5
  subst e1; subst e2; subst e3; subst e4
  replace C : Cx E cX6_sum (some .int) RX6 := C
  unfold g_sum
  refine s_iconst C (0 : Int32) dX6_sum_0 (by decide) ?_
  refine s_istore (la' := [(4, .int (0 : Int32)), (0, vr mo), (1, .int x1), (2, .int x2), (3, .int x3)]) C dX6_sum_1 (lt_nl e5 rfl) rfl ?_
  refine s_iconst C (0 : Int32) dX6_sum_3 (by decide) ?_
  have hL6 : ∀ (x1 : Int32) (x2 : Int32) (x3 : Int32) (v6 : (Int32 × Int32)) (M1 : Ms), Sim (plug h0 mo) E (QM (plug h0 mo) E finI) M1 6 [(0, vr mo), (1, .int x1), (2, .int x2), (3, .int x3), (4, .int v6.1), (5, .int v6.2)] [] (g_sum_L6 x1 x2 x3 v6 M1) := by
    intro x1 x2 x3 v6 M1
    refine Sim.loop (fun v6 => [(0, vr mo), (1, .int x1), (2, .int x2), (3, .int x3), (4, .int v6.1), (5, .int v6.2)]) (fun _ => []) (fun rec6 hr6 v6 M1 => ?_) FU v6 M1
    refine s_iload C dX6_sum_6 5 rfl ?_
    refine s_aload_n C dX6_sum_8 0 rfl rfl ?_
    refine sm_getA 6 C hM fo_X6_33_6 rfl (by decide) dX6_sum_9 ?_
    refine s_iconst C (1 : Int32) dX6_sum_12 (by decide) ?_
    refine sm_iald C hM dX6_sum_13 fun a2 => ?_
    refine s_icmp_ge C 45 dX6_sum_14 (by decide) ?_ ?_
    · refine s_iload C dX6_sum_45 4 rfl ?_
      exact s_iret C rfl dX6_sum_47
    · refine s_iload_n C dX6_sum_17 1 rfl rfl ?_
      refine s_iload C dX6_sum_18 5 rfl ?_
      refine sm_callSI C 2 [] (ct_X6_bitOf hL hM M1 x1 v6.2) (lw_S q3241 q3242 q147 q3243) nd_X6_bitOf rfl (le_fr hf rfl) (le_fr hlo rfl) rfl (Nat.le_of_ble_eq_true rfl) dX6_sum_20 fun r4 M3 => ?_
      have hj39 : ∀ (x4 : Int32) (x5 : Int32) (M5 : Ms), Sim (plug h0 mo) E (QM (plug h0 mo) E finI) M5 39 [(0, vr mo), (1, .int x1), (2, .int x2), (3, .int x3), (4, .int x4), (5, .int x5)] [] (g_sum_j39 rec6 x1 x2 x3 x4 x5 M5) := by
        intro x4 x5 M5
        refine s_iinc (la' := [(5, .int (x5 + (1 : Int32))), (0, vr mo), (1, .int x1), (2, .int x2), (3, .int x3), (4, .int x4)]) C 5 dX6_sum_39 rfl rfl (lt_nl e5 rfl) rfl ?_
        refine s_goto C 6 dX6_sum_42 (by decide) ?_
        refine Sim.keep [1, 2, 3, 4, 5, 0] rfl ?_
        exact hr6 _ _
      refine s_if_eq C 39 dX6_sum_23 (by decide) ?_ ?_
      · exact hj39 _ _ _
      · refine s_iload C dX6_sum_26 4 rfl ?_
        refine s_aload_n C dX6_sum_28 0 rfl rfl ?_
        refine s_iload_n C dX6_sum_29 2 rfl rfl ?_
        refine s_iload_n C dX6_sum_30 3 rfl rfl ?_
        refine s_iload C dX6_sum_31 5 rfl ?_
        refine sm_callI C 3 [.int v6.1] (ct_X6_weightFor hL hM M3 x2 x3 v6.2) (lw_V q3244 q3246 qs69 q147 q3247) nd_X6_weightFor rfl (le_fr hf rfl) (le_fr hlo rfl) rfl (Nat.le_of_ble_eq_true rfl) dX6_sum_33 fun r7 M6 => ?_
        refine s_iadd C dX6_sum_36 ?_
        refine s_bdi fun a8 => ?_
        refine s_istore (la' := [(4, .int a8), (0, vr mo), (1, .int x1), (2, .int x2), (3, .int x3), (5, .int v6.2)]) C dX6_sum_37 (lt_nl e5 rfl) rfl ?_
        refine Sim.keep [1, 2, 3, 4, 0, 5] rfl ?_
        exact hj39 _ _ _
  refine s_istore (la' := [(5, .int (0 : Int32)), (4, .int (0 : Int32)), (0, vr mo), (1, .int x1), (2, .int x2), (3, .int x3)]) C dX6_sum_4 (lt_nl e5 rfl) rfl ?_
  refine Sim.keep [2, 3, 4, 5, 1, 0] rfl ?_
  exact hL6 _ _ _ _ _

def g_isEnough_j37 (y0 : Int32) (M3 : Ms) : Option (Int32 × Ms) :=
  if nrw 2 y0 = y0 then some (y0, M3) else none
def g_isEnough_j36  (M4 : Ms) : Option (Int32 × Ms) :=
  g_isEnough_j37 (0 : Int32) M4
def g_isEnough (x1 : Int32) (x2 : Int32) (x3 : Int32) (M : Ms) : Option (Int32 × Ms) :=
  bn (g_sum (255 : Int32) x2 x3 M) fun r2 M1 =>
  if r2 ≤ 0 then
    g_isEnough_j36 M1
  else
    bn (g_sum x1 x2 x3 M1) fun r6 M5 =>
    if ((3 : Int32) * r6) < ((2 : Int32) * r2) then
      g_isEnough_j36 M5
    else
      g_isEnough_j37 (1 : Int32) M5
theorem nd_X6_isEnough : yX6_isEnough.cls = RX6 ∧ yX6_isEnough.cls ≠ "java/lang/invoke/MethodHandle" ∧ yX6_isEnough.cls ≠ "java/lang/invoke/VarHandle" ∧ (parseMethodDescriptor yX6_isEnough.desc).map (fun d => d.parameters.length) = some 3 := ⟨rfl, by decide +kernel, by decide +kernel, by decide +kernel⟩
theorem ct_X6_isEnough {G : Gx} {RL : Lv} {Pl : Nat → Bool} {l : Launch} (hL : LvA G RL Pl) {h0 : Hp} {mo : Nat} (hM : MP Pl mo) (M : Ms) (x1 : Int32) (x2 : Int32) (x3 : Int32) : Ct (plug h0 mo) G RL l yX6_isEnough (ws_ yX6_isEnough cX6_isEnough 5 (some .boolean)) 3 73 finI [vr mo, .int x1, .int x2, .int x3] M (g_isEnough x1 x2 x3 M) := by
  refine Ct.of (Pl := Pl) [(0, vr mo), (1, .int x1), (2, .int x2), (3, .int x3)] (by decide) hL rfl (Nat.le_of_ble_eq_true rfl) ?_
  intro E C hn hf hlo e1 e2 e3 e4 e5
  subst e1; subst e2; subst e3; subst e4
  replace C : Cx E cX6_isEnough (some .boolean) RX6 := C
  unfold g_isEnough
  refine s_aload_n C dX6_isEnough_0 0 rfl rfl ?_
  refine s_sipush C (255 : Int32) dX6_isEnough_1 (by decide) ?_
  refine s_iload_n C dX6_isEnough_4 2 rfl rfl ?_
  refine s_iload_n C dX6_isEnough_5 3 rfl rfl ?_
  refine sm_callI C 3 [] (ct_X6_sum hL hM M (255 : Int32) x2 x3) (lw_V q3237 q3239 qs68 q147 q3240) nd_X6_sum rfl (le_fr hf rfl) (le_fr hlo rfl) rfl (Nat.le_of_ble_eq_true rfl) dX6_isEnough_6 fun r2 M1 => ?_
  refine s_istore (la' := [(4, .int r2), (0, vr mo), (1, .int x1), (2, .int x2), (3, .int x3)]) C dX6_isEnough_9 (lt_nl e5 rfl) rfl ?_
  refine s_iload C dX6_isEnough_11 0 rfl ?_
  have hj37 : ∀ (y0 : Int32) (M3 : Ms), Sim (plug h0 mo) E (QM (plug h0 mo) E finI) M3 37 [] [.int y0] (g_isEnough_j37 y0 M3) := by
    intro y0 M3
    exact s_zret 2 C (by decide) (by decide) rfl dX6_isEnough_37
  have hj36 : ∀  (M4 : Ms), Sim (plug h0 mo) E (QM (plug h0 mo) E finI) M4 36 [] [] (g_isEnough_j36 M4) := by
    intro M4
    refine s_iconst C (0 : Int32) dX6_isEnough_36 (by decide) ?_
    exact hj37 _ _
  refine s_if_le C 36 dX6_isEnough_13 (by decide) ?_ ?_
  · refine Sim.keep [] rfl ?_
    exact hj36 _
  · refine s_iconst C (3 : Int32) dX6_isEnough_16 (by decide) ?_
    refine s_aload_n C dX6_isEnough_17 1 rfl rfl ?_
    refine s_iload_n C dX6_isEnough_18 2 rfl rfl ?_
    refine s_iload_n C dX6_isEnough_19 3 rfl rfl ?_
    refine s_iload_n C dX6_isEnough_20 4 rfl rfl ?_
    refine sm_callI C 3 [.int (3 : Int32)] (ct_X6_sum hL hM M1 x1 x2 x3) (lw_V q3237 q3239 qs68 q147 q3240) nd_X6_sum rfl (le_fr hf rfl) (le_fr hlo rfl) rfl (Nat.le_of_ble_eq_true rfl) dX6_isEnough_21 fun r6 M5 => ?_
    refine s_imul C dX6_isEnough_24 ?_
    refine s_iconst C (2 : Int32) dX6_isEnough_25 (by decide) ?_
    refine s_iload C dX6_isEnough_26 0 rfl ?_
    refine s_imul C dX6_isEnough_28 ?_
    refine s_icmp_lt C 36 dX6_isEnough_29 (by decide) ?_ ?_
    · refine Sim.keep [] rfl ?_
      exact hj36 _
    · refine s_iconst C (1 : Int32) dX6_isEnough_32 (by decide) ?_
      refine s_goto C 37 dX6_isEnough_33 (by decide) ?_
      refine Sim.keep [] rfl ?_
      exact hj37 _ _

def g_counts_j25 (y0 : Int32) (M3 : Ms) : Option (Int32 × Ms) :=
  if nrw 2 y0 = y0 then some (y0, M3) else none
def g_counts_j24  (M4 : Ms) : Option (Int32 × Ms) :=
  g_counts_j25 (0 : Int32) M4
def g_counts (x1 : Int32) (x2 : Int32) (M : Ms) : Option (Int32 × Ms) :=
  bn (g_isEnough x1 x2 (1 : Int32) M) fun r2 M1 =>
  if r2 = 0 then
    g_counts_j24 M1
  else
    bn (g_isEnough x1 x2 (2 : Int32) M1) fun r6 M5 =>
    if r6 = 0 then
      g_counts_j24 M5
    else
      g_counts_j25 (1 : Int32) M5
theorem nd_X6_counts : yX6_counts.cls = RX6 ∧ yX6_counts.cls ≠ "java/lang/invoke/MethodHandle" ∧ yX6_counts.cls ≠ "java/lang/invoke/VarHandle" ∧ (parseMethodDescriptor yX6_counts.desc).map (fun d => d.parameters.length) = some 2 := ⟨rfl, by decide +kernel, by decide +kernel, by decide +kernel⟩
theorem ct_X6_counts {G : Gx} {RL : Lv} {Pl : Nat → Bool} {l : Launch} (hL : LvA G RL Pl) {h0 : Hp} {mo : Nat} (hM : MP Pl mo) (M : Ms) (x1 : Int32) (x2 : Int32) : Ct (plug h0 mo) G RL l yX6_counts (ws_ yX6_counts cX6_counts 3 (some .boolean)) 4 97 finI [vr mo, .int x1, .int x2] M (g_counts x1 x2 M) := by
  refine Ct.of (Pl := Pl) [(0, vr mo), (1, .int x1), (2, .int x2)] (by decide) hL rfl (Nat.le_of_ble_eq_true rfl) ?_
  intro E C hn hf hlo e1 e2 e3 e4 e5
  subst e1; subst e2; subst e3; subst e4
  replace C : Cx E cX6_counts (some .boolean) RX6 := C
  unfold g_counts
  refine s_aload_n C dX6_counts_0 0 rfl rfl ?_
  refine s_iload_n C dX6_counts_1 1 rfl rfl ?_
  refine s_iload_n C dX6_counts_2 2 rfl rfl ?_
  refine s_iconst C (1 : Int32) dX6_counts_3 (by decide) ?_
  refine sm_callI C 3 [] (ct_X6_isEnough hL hM M x1 x2 (1 : Int32)) (lw_V q3233 q3235 qs67 q147 q3236) nd_X6_isEnough rfl (le_fr hf rfl) (le_fr hlo rfl) rfl (Nat.le_of_ble_eq_true rfl) dX6_counts_4 fun r2 M1 => ?_
  have hj25 : ∀ (y0 : Int32) (M3 : Ms), Sim (plug h0 mo) E (QM (plug h0 mo) E finI) M3 25 [] [.int y0] (g_counts_j25 y0 M3) := by
    intro y0 M3
    exact s_zret 2 C (by decide) (by decide) rfl dX6_counts_25
  have hj24 : ∀  (M4 : Ms), Sim (plug h0 mo) E (QM (plug h0 mo) E finI) M4 24 [] [] (g_counts_j24 M4) := by
    intro M4
    refine s_iconst C (0 : Int32) dX6_counts_24 (by decide) ?_
    exact hj25 _ _
  refine s_if_eq C 24 dX6_counts_7 (by decide) ?_ ?_
  · refine Sim.keep [] rfl ?_
    exact hj24 _
  · refine s_aload_n C dX6_counts_10 0 rfl rfl ?_
    refine s_iload_n C dX6_counts_11 1 rfl rfl ?_
    refine s_iload_n C dX6_counts_12 2 rfl rfl ?_
    refine s_iconst C (2 : Int32) dX6_counts_13 (by decide) ?_
    refine sm_callI C 3 [] (ct_X6_isEnough hL hM M1 x1 x2 (2 : Int32)) (lw_V q3233 q3235 qs67 q147 q3236) nd_X6_isEnough rfl (le_fr hf rfl) (le_fr hlo rfl) rfl (Nat.le_of_ble_eq_true rfl) dX6_counts_14 fun r6 M5 => ?_
    refine s_if_eq C 24 dX6_counts_17 (by decide) ?_ ?_
    · refine Sim.keep [] rfl ?_
      exact hj24 _
    · refine s_iconst C (1 : Int32) dX6_counts_20 (by decide) ?_
      refine s_goto C 25 dX6_counts_21 (by decide) ?_
      refine Sim.keep [] rfl ?_
      exact hj25 _ _

def g_laysJust_j221 (rec179 : Int32 → Ms → Option (Unit × Ms)) (x1 : Int32) (M10 : Ms) : Option (Unit × Ms) :=
  rec179 (x1 + (1 : Int32)) M10
def g_laysJust_L179  : Int32 → Ms → Option (Unit × Ms) :=
  lp FU fun rec179 v179 M6 =>
    (aI 0 6 (2 : Int32) M6).bind fun a7 =>
    if a7 ≤ v179 then
      some ((), M6)
    else
      bn (g_bitOf (M6.1 26) v179 M6) fun r9 M8 =>
      if r9 = 0 then
        g_laysJust_j221 rec179 v179 M8
      else
        bn (g_level v179 M8) fun r12 M11 =>
        bn (g_level (M11.1 29) M11) fun r14 M13 =>
        if r12 ≤ r14 then
          g_laysJust_j221 rec179 v179 M13
        else
          bd (mI 29 v179 M13) fun M15 =>
          g_laysJust_j221 rec179 v179 M15
def g_laysJust_j160 (rec25 : Int32 → Ms → Option (Unit × Ms)) (x1 : Int32) (x2 : Int32) (M19 : Ms) : Option (Unit × Ms) :=
  rec25 (x2 + (1 : Int32)) M19
def g_laysJust_j154 (rec50 : Int32 → Ms → Option (Unit × Ms)) (x1 : Int32) (x2 : Int32) (x3 : Int32) (M23 : Ms) : Option (Unit × Ms) :=
  rec50 (x3 + (1 : Int32)) M23
def g_laysJust_L50 (rec25 : Int32 → Ms → Option (Unit × Ms)) (x1 : Int32) (x2 : Int32) : Int32 → Ms → Option (Unit × Ms) :=
  lp FU fun rec50 v50 M20 =>
    (aI 0 6 (2 : Int32) M20).bind fun a21 =>
    if a21 ≤ v50 then
      g_laysJust_j160 rec25 x1 x2 M20
    else
      (aI 0 23 (((20 : Int32) * v50) + x2) M20).bind fun a22 =>
      if a22 = 0 then
        g_laysJust_j154 rec50 x1 x2 v50 M20
      else
        bn (g_counts a22 x2 M20) fun r25 M24 =>
        if r25 = 0 then
          g_laysJust_j154 rec50 x1 x2 v50 M24
        else
          bd (mI 32 ((M24.1 32) + (1 : Int32)) M24) fun M26 =>
          bn (g_bitOf (M26.1 26) v50 M26) fun r28 M27 =>
          if r28 = 0 then
            g_laysJust_j154 rec50 x1 x2 v50 M27
          else
            bd (mI 26 ((M27.1 26) ||| ((1 : Int32) <<< (x2 &&& 31))) M27) fun M29 =>
            bn (g_level x2 M29) fun r31 M30 =>
            bn (g_level v50 M30) fun r33 M32 =>
            if r31 = (r33 + (1 : Int32)) then
              bd (mI 27 ((M32.1 27) ||| ((1 : Int32) <<< (v50 &&& 31))) M32) fun M34 =>
              g_laysJust_j154 rec50 x1 x2 v50 M34
            else
              g_laysJust_j154 rec50 x1 x2 v50 M32
def g_laysJust_L25 (rec17 : Int32 → Ms → Option (Unit × Ms)) (x1 : Int32) : Int32 → Ms → Option (Unit × Ms) :=
  lp FU fun rec25 v25 M16 =>
    (aI 0 6 (2 : Int32) M16).bind fun a17 =>
    if a17 ≤ v25 then
      rec17 (x1 + (1 : Int32)) M16
    else
      (aI 0 21 v25 M16).bind fun a18 =>
      if a18 = x1 then
        g_laysJust_L50 rec25 x1 v25 (0 : Int32) M16
      else
        g_laysJust_j160 rec25 x1 v25 M16
def g_laysJust_L17  : Int32 → Ms → Option (Unit × Ms) :=
  lp FU fun rec17 v17 M4 =>
    if (20 : Int32) ≤ v17 then
      bd (mI 29 (0 : Int32) M4) fun M5 =>
      g_laysJust_L179 (0 : Int32) M5
    else
      g_laysJust_L25 rec17 v17 (0 : Int32) M4
def g_laysJust  (M : Ms) : Option (Unit × Ms) :=
  bd (mI 26 (1 : Int32) M) fun M1 =>
  bd (mI 27 (1 : Int32) M1) fun M2 =>
  bd (mI 32 (0 : Int32) M2) fun M3 =>
  g_laysJust_L17 (1 : Int32) M3
theorem nd_X6_laysJust : yX6_laysJust.cls = RX6 ∧ yX6_laysJust.cls ≠ "java/lang/invoke/MethodHandle" ∧ yX6_laysJust.cls ≠ "java/lang/invoke/VarHandle" ∧ (parseMethodDescriptor yX6_laysJust.desc).map (fun d => d.parameters.length) = some 0 := ⟨rfl, by decide +kernel, by decide +kernel, by decide +kernel⟩
theorem ct_X6_laysJust {G : Gx} {RL : Lv} {Pl : Nat → Bool} {l : Launch} (hL : LvA G RL Pl) {h0 : Hp} {mo : Nat} (hM : MP Pl mo) (M : Ms)  : Ct (plug h0 mo) G RL l yX6_laysJust (ws_ yX6_laysJust cX6_laysJust 5 none) 5 119 finV [vr mo] M (g_laysJust M) := by
  refine Ct.of (Pl := Pl) [(0, vr mo)] (by decide) hL rfl (Nat.le_of_ble_eq_true rfl) ?_
  intro E C hn hf hlo e1 e2 e3 e4 e5
  subst e1; subst e2; subst e3; subst e4
  replace C : Cx E cX6_laysJust none RX6 := C
  unfold g_laysJust
  refine s_aload_n C dX6_laysJust_0 0 rfl rfl ?_
  refine s_iconst C (1 : Int32) dX6_laysJust_1 (by decide) ?_
  refine sm_putI 26 0 C hM fo_X6_282_6 rfl ⟨by decide, by decide, rfl⟩ rfl rfl dX6_laysJust_2 ?_
  refine s_bdh fun M1 => ?_
  refine s_aload_n C dX6_laysJust_5 0 rfl rfl ?_
  refine s_iconst C (1 : Int32) dX6_laysJust_6 (by decide) ?_
  refine sm_putI 27 0 C hM fo_X6_285_6 rfl ⟨by decide, by decide, rfl⟩ rfl rfl dX6_laysJust_7 ?_
  refine s_bdh fun M2 => ?_
  refine s_aload_n C dX6_laysJust_10 0 rfl rfl ?_
  refine s_iconst C (0 : Int32) dX6_laysJust_11 (by decide) ?_
  refine sm_putI 32 0 C hM fo_X6_288_6 rfl ⟨by decide, by decide, rfl⟩ rfl rfl dX6_laysJust_12 ?_
  refine s_bdh fun M3 => ?_
  refine s_iconst C (1 : Int32) dX6_laysJust_15 (by decide) ?_
  have hL17 : ∀  (v17 : Int32) (M4 : Ms), Sim (plug h0 mo) E (QM (plug h0 mo) E finV) M4 17 [(0, vr mo), (1, .int v17)] [] (g_laysJust_L17  v17 M4) := by
    intro v17 M4
    refine Sim.loop (fun v17 => [(0, vr mo), (1, .int v17)]) (fun _ => []) (fun rec17 hr17 v17 M4 => ?_) FU v17 M4
    refine s_iload_n C dX6_laysJust_17 1 rfl rfl ?_
    refine s_bipush C (20 : Int32) dX6_laysJust_18 (by decide) ?_
    refine s_icmp_ge C 172 dX6_laysJust_20 (by decide) ?_ ?_
    · refine s_aload_n C dX6_laysJust_172 0 rfl rfl ?_
      refine s_iconst C (0 : Int32) dX6_laysJust_173 (by decide) ?_
      refine sm_putI 29 0 C hM fo_X6_294_6 rfl ⟨by decide, by decide, rfl⟩ rfl rfl dX6_laysJust_174 ?_
      refine s_bdh fun M5 => ?_
      refine s_iconst C (0 : Int32) dX6_laysJust_177 (by decide) ?_
      have hL179 : ∀  (v179 : Int32) (M6 : Ms), Sim (plug h0 mo) E (QM (plug h0 mo) E finV) M6 179 [(0, vr mo), (1, .int v179)] [] (g_laysJust_L179  v179 M6) := by
        intro v179 M6
        refine Sim.loop (fun v179 => [(0, vr mo), (1, .int v179)]) (fun _ => []) (fun rec179 hr179 v179 M6 => ?_) FU v179 M6
        refine s_iload_n C dX6_laysJust_179 1 rfl rfl ?_
        refine s_aload_n C dX6_laysJust_180 0 rfl rfl ?_
        refine sm_getA 6 C hM fo_X6_33_6 rfl (by decide) dX6_laysJust_181 ?_
        refine s_iconst C (2 : Int32) dX6_laysJust_184 (by decide) ?_
        refine sm_iald C hM dX6_laysJust_185 fun a7 => ?_
        refine s_icmp_ge C 227 dX6_laysJust_186 (by decide) ?_ ?_
        · exact s_vret C rfl dX6_laysJust_227
        · refine s_aload_n C dX6_laysJust_189 0 rfl rfl ?_
          refine sm_getI 26 C hM fo_X6_282_6 rfl dX6_laysJust_190 ?_
          refine s_iload_n C dX6_laysJust_193 1 rfl rfl ?_
          refine sm_callSI C 2 [] (ct_X6_bitOf hL hM M6 (M6.1 26) v179) (lw_S q3241 q3242 q147 q3243) nd_X6_bitOf rfl (le_fr hf rfl) (le_fr hlo rfl) rfl (Nat.le_of_ble_eq_true rfl) dX6_laysJust_194 fun r9 M8 => ?_
          have hj221 : ∀ (x1 : Int32) (M10 : Ms), Sim (plug h0 mo) E (QM (plug h0 mo) E finV) M10 221 [(0, vr mo), (1, .int x1)] [] (g_laysJust_j221 rec179 x1 M10) := by
            intro x1 M10
            refine s_iinc (la' := [(1, .int (x1 + (1 : Int32))), (0, vr mo)]) C 1 dX6_laysJust_221 rfl rfl (lt_nl e5 rfl) rfl ?_
            refine s_goto C 179 dX6_laysJust_224 (by decide) ?_
            refine Sim.keep [1, 0] rfl ?_
            exact hr179 _ _
          refine s_if_eq C 221 dX6_laysJust_197 (by decide) ?_ ?_
          · exact hj221 _ _
          · refine s_aload_n C dX6_laysJust_200 0 rfl rfl ?_
            refine s_iload_n C dX6_laysJust_201 1 rfl rfl ?_
            refine sm_callI C 1 [] (ct_X6_level hL hM M8 v179) (lw_V q3221 q3223 qs64 q147 q3224) nd_X6_level rfl (le_fr hf rfl) (le_fr hlo rfl) rfl (Nat.le_of_ble_eq_true rfl) dX6_laysJust_202 fun r12 M11 => ?_
            refine s_aload_n C dX6_laysJust_205 0 rfl rfl ?_
            refine s_aload_n C dX6_laysJust_206 0 rfl rfl ?_
            refine sm_getI 29 C hM fo_X6_294_6 rfl dX6_laysJust_207 ?_
            refine sm_callI C 1 [.int r12] (ct_X6_level hL hM M11 (M11.1 29)) (lw_V q3221 q3223 qs64 q147 q3224) nd_X6_level rfl (le_fr hf rfl) (le_fr hlo rfl) rfl (Nat.le_of_ble_eq_true rfl) dX6_laysJust_210 fun r14 M13 => ?_
            refine s_icmp_le C 221 dX6_laysJust_213 (by decide) ?_ ?_
            · exact hj221 _ _
            · refine s_aload_n C dX6_laysJust_216 0 rfl rfl ?_
              refine s_iload_n C dX6_laysJust_217 1 rfl rfl ?_
              refine sm_putI 29 0 C hM fo_X6_294_6 rfl ⟨by decide, by decide, rfl⟩ rfl rfl dX6_laysJust_218 ?_
              refine s_bdh fun M15 => ?_
              exact hj221 _ _
      refine s_istore_n (la' := [(1, .int (0 : Int32)), (0, vr mo)]) C 1 dX6_laysJust_178 rfl (lt_nl e5 rfl) rfl ?_
      refine Sim.keep [1, 0] rfl ?_
      exact hL179  _ _
    · refine s_iconst C (0 : Int32) dX6_laysJust_23 (by decide) ?_
      have hL25 : ∀ (x1 : Int32) (v25 : Int32) (M16 : Ms), Sim (plug h0 mo) E (QM (plug h0 mo) E finV) M16 25 [(0, vr mo), (1, .int x1), (2, .int v25)] [] (g_laysJust_L25 rec17 x1 v25 M16) := by
        intro x1 v25 M16
        refine Sim.loop (fun v25 => [(0, vr mo), (1, .int x1), (2, .int v25)]) (fun _ => []) (fun rec25 hr25 v25 M16 => ?_) FU v25 M16
        refine s_iload_n C dX6_laysJust_25 2 rfl rfl ?_
        refine s_aload_n C dX6_laysJust_26 0 rfl rfl ?_
        refine sm_getA 6 C hM fo_X6_33_6 rfl (by decide) dX6_laysJust_27 ?_
        refine s_iconst C (2 : Int32) dX6_laysJust_30 (by decide) ?_
        refine sm_iald C hM dX6_laysJust_31 fun a17 => ?_
        refine s_icmp_ge C 166 dX6_laysJust_32 (by decide) ?_ ?_
        · refine s_iinc (la' := [(1, .int (x1 + (1 : Int32))), (0, vr mo), (2, .int v25)]) C 1 dX6_laysJust_166 rfl rfl (lt_nl e5 rfl) rfl ?_
          refine s_goto C 17 dX6_laysJust_169 (by decide) ?_
          refine Sim.keep [1, 0] rfl ?_
          exact hr17 _ _
        · refine s_aload_n C dX6_laysJust_35 0 rfl rfl ?_
          refine sm_getA 21 C hM fo_X6_53_6 rfl (by decide) dX6_laysJust_36 ?_
          refine s_iload_n C dX6_laysJust_39 2 rfl rfl ?_
          refine sm_iald C hM dX6_laysJust_40 fun a18 => ?_
          refine s_iload_n C dX6_laysJust_41 1 rfl rfl ?_
          have hj160 : ∀ (x2 : Int32) (M19 : Ms), Sim (plug h0 mo) E (QM (plug h0 mo) E finV) M19 160 [(0, vr mo), (1, .int x1), (2, .int x2)] [] (g_laysJust_j160 rec25 x1 x2 M19) := by
            intro x2 M19
            refine s_iinc (la' := [(2, .int (x2 + (1 : Int32))), (0, vr mo), (1, .int x1)]) C 2 dX6_laysJust_160 rfl rfl (lt_nl e5 rfl) rfl ?_
            refine s_goto C 25 dX6_laysJust_163 (by decide) ?_
            refine Sim.keep [1, 2, 0] rfl ?_
            exact hr25 _ _
          refine s_icmp_eq C 48 dX6_laysJust_42 (by decide) ?_ ?_
          · refine s_iconst C (0 : Int32) dX6_laysJust_48 (by decide) ?_
            have hL50 : ∀ (x2 : Int32) (v50 : Int32) (M20 : Ms), Sim (plug h0 mo) E (QM (plug h0 mo) E finV) M20 50 [(0, vr mo), (1, .int x1), (2, .int x2), (3, .int v50)] [] (g_laysJust_L50 rec25 x1 x2 v50 M20) := by
              intro x2 v50 M20
              refine Sim.loop (fun v50 => [(0, vr mo), (1, .int x1), (2, .int x2), (3, .int v50)]) (fun _ => []) (fun rec50 hr50 v50 M20 => ?_) FU v50 M20
              refine s_iload_n C dX6_laysJust_50 3 rfl rfl ?_
              refine s_aload_n C dX6_laysJust_51 0 rfl rfl ?_
              refine sm_getA 6 C hM fo_X6_33_6 rfl (by decide) dX6_laysJust_52 ?_
              refine s_iconst C (2 : Int32) dX6_laysJust_55 (by decide) ?_
              refine sm_iald C hM dX6_laysJust_56 fun a21 => ?_
              refine s_icmp_ge C 160 dX6_laysJust_57 (by decide) ?_ ?_
              · refine Sim.keep [0, 1, 2] rfl ?_
                exact hj160 _ _
              · refine s_aload_n C dX6_laysJust_60 0 rfl rfl ?_
                refine sm_getA 23 C hM fo_X6_59_6 rfl (by decide) dX6_laysJust_61 ?_
                refine s_bipush C (20 : Int32) dX6_laysJust_64 (by decide) ?_
                refine s_iload_n C dX6_laysJust_66 3 rfl rfl ?_
                refine s_imul C dX6_laysJust_67 ?_
                refine s_iload_n C dX6_laysJust_68 2 rfl rfl ?_
                refine s_iadd C dX6_laysJust_69 ?_
                refine sm_iald C hM dX6_laysJust_70 fun a22 => ?_
                refine s_istore (la' := [(4, .int a22), (0, vr mo), (1, .int x1), (2, .int x2), (3, .int v50)]) C dX6_laysJust_71 (lt_nl e5 rfl) rfl ?_
                refine s_iload C dX6_laysJust_73 0 rfl ?_
                have hj154 : ∀ (x3 : Int32) (M23 : Ms), Sim (plug h0 mo) E (QM (plug h0 mo) E finV) M23 154 [(0, vr mo), (1, .int x1), (2, .int x2), (3, .int x3)] [] (g_laysJust_j154 rec50 x1 x2 x3 M23) := by
                  intro x3 M23
                  refine s_iinc (la' := [(3, .int (x3 + (1 : Int32))), (0, vr mo), (1, .int x1), (2, .int x2)]) C 3 dX6_laysJust_154 rfl rfl (lt_nl e5 rfl) rfl ?_
                  refine s_goto C 50 dX6_laysJust_157 (by decide) ?_
                  refine Sim.keep [1, 2, 3, 0] rfl ?_
                  exact hr50 _ _
                refine s_if_eq C 154 dX6_laysJust_75 (by decide) ?_ ?_
                · refine Sim.keep [1, 2, 3, 4] rfl ?_
                  exact hj154 _ _
                · refine s_aload_n C dX6_laysJust_78 1 rfl rfl ?_
                  refine s_iload C dX6_laysJust_79 0 rfl ?_
                  refine s_iload_n C dX6_laysJust_81 3 rfl rfl ?_
                  refine sm_callI C 2 [] (ct_X6_counts hL hM M20 a22 x2) (lw_V q3229 q3231 qs66 q147 q3232) nd_X6_counts rfl (le_fr hf rfl) (le_fr hlo rfl) rfl (Nat.le_of_ble_eq_true rfl) dX6_laysJust_82 fun r25 M24 => ?_
                  refine s_if_ne C 91 dX6_laysJust_85 (by decide) ?_ ?_
                  · refine s_aload_n C dX6_laysJust_91 1 rfl rfl ?_
                    refine s_dup C dX6_laysJust_92 rfl ?_
                    refine sm_getI 32 C hM fo_X6_288_6 rfl dX6_laysJust_93 ?_
                    refine s_iconst C (1 : Int32) dX6_laysJust_96 (by decide) ?_
                    refine s_iadd C dX6_laysJust_97 ?_
                    refine sm_putI 32 0 C hM fo_X6_288_6 rfl ⟨by decide, by decide, rfl⟩ rfl rfl dX6_laysJust_98 ?_
                    refine s_bdh fun M26 => ?_
                    refine s_aload_n C dX6_laysJust_101 1 rfl rfl ?_
                    refine sm_getI 26 C hM fo_X6_282_6 rfl dX6_laysJust_102 ?_
                    refine s_iload_n C dX6_laysJust_105 4 rfl rfl ?_
                    refine sm_callSI C 2 [] (ct_X6_bitOf hL hM M26 (M26.1 26) v50) (lw_S q3241 q3242 q147 q3243) nd_X6_bitOf rfl (le_fr hf rfl) (le_fr hlo rfl) rfl (Nat.le_of_ble_eq_true rfl) dX6_laysJust_106 fun r28 M27 => ?_
                    refine s_if_ne C 115 dX6_laysJust_109 (by decide) ?_ ?_
                    · refine s_aload_n C dX6_laysJust_115 1 rfl rfl ?_
                      refine s_dup C dX6_laysJust_116 rfl ?_
                      refine sm_getI 26 C hM fo_X6_282_6 rfl dX6_laysJust_117 ?_
                      refine s_iconst C (1 : Int32) dX6_laysJust_120 (by decide) ?_
                      refine s_iload_n C dX6_laysJust_121 3 rfl rfl ?_
                      refine s_ishl C (x2 &&& 31) dX6_laysJust_122 rfl ?_
                      refine s_ior C dX6_laysJust_123 ?_
                      refine sm_putI 26 0 C hM fo_X6_282_6 rfl ⟨by decide, by decide, rfl⟩ rfl rfl dX6_laysJust_124 ?_
                      refine s_bdh fun M29 => ?_
                      refine s_aload_n C dX6_laysJust_127 1 rfl rfl ?_
                      refine s_iload_n C dX6_laysJust_128 3 rfl rfl ?_
                      refine sm_callI C 1 [] (ct_X6_level hL hM M29 x2) (lw_V q3221 q3223 qs64 q147 q3224) nd_X6_level rfl (le_fr hf rfl) (le_fr hlo rfl) rfl (Nat.le_of_ble_eq_true rfl) dX6_laysJust_129 fun r31 M30 => ?_
                      refine s_aload_n C dX6_laysJust_132 1 rfl rfl ?_
                      refine s_iload_n C dX6_laysJust_133 4 rfl rfl ?_
                      refine sm_callI C 1 [.int r31] (ct_X6_level hL hM M30 v50) (lw_V q3221 q3223 qs64 q147 q3224) nd_X6_level rfl (le_fr hf rfl) (le_fr hlo rfl) rfl (Nat.le_of_ble_eq_true rfl) dX6_laysJust_134 fun r33 M32 => ?_
                      refine s_iconst C (1 : Int32) dX6_laysJust_137 (by decide) ?_
                      refine s_iadd C dX6_laysJust_138 ?_
                      refine s_icmp_ne C 154 dX6_laysJust_139 (by decide) ?_ ?_
                      · refine Sim.keep [1, 2, 3, 4] rfl ?_
                        exact hj154 _ _
                      · refine s_aload_n C dX6_laysJust_142 1 rfl rfl ?_
                        refine s_dup C dX6_laysJust_143 rfl ?_
                        refine sm_getI 27 C hM fo_X6_285_6 rfl dX6_laysJust_144 ?_
                        refine s_iconst C (1 : Int32) dX6_laysJust_147 (by decide) ?_
                        refine s_iload_n C dX6_laysJust_148 4 rfl rfl ?_
                        refine s_ishl C (v50 &&& 31) dX6_laysJust_149 rfl ?_
                        refine s_ior C dX6_laysJust_150 ?_
                        refine sm_putI 27 0 C hM fo_X6_285_6 rfl ⟨by decide, by decide, rfl⟩ rfl rfl dX6_laysJust_151 ?_
                        refine s_bdh fun M34 => ?_
                        refine Sim.keep [1, 2, 3, 4] rfl ?_
                        exact hj154 _ _
                    · refine s_goto C 154 dX6_laysJust_112 (by decide) ?_
                      refine Sim.keep [1, 2, 3, 4] rfl ?_
                      exact hj154 _ _
                  · refine s_goto C 154 dX6_laysJust_88 (by decide) ?_
                    refine Sim.keep [1, 2, 3, 4] rfl ?_
                    exact hj154 _ _
            refine s_istore_n (la' := [(3, .int (0 : Int32)), (0, vr mo), (1, .int x1), (2, .int v25)]) C 3 dX6_laysJust_49 rfl (lt_nl e5 rfl) rfl ?_
            refine Sim.keep [1, 2, 3, 0] rfl ?_
            exact hL50 _ _ _
          · refine s_goto C 160 dX6_laysJust_45 (by decide) ?_
            exact hj160 _ _
      refine s_istore_n (la' := [(2, .int (0 : Int32)), (0, vr mo), (1, .int v17)]) C 2 dX6_laysJust_24 rfl (lt_nl e5 rfl) rfl ?_
      refine Sim.keep [1, 2, 0] rfl ?_
      exact hL25 _ _ _
  refine s_istore_n (la' := [(1, .int (1 : Int32)), (0, vr mo)]) C 1 dX6_laysJust_16 rfl (lt_nl e5 rfl) rfl ?_
  refine Sim.keep [1, 0] rfl ?_
  exact hL17  _ _

def g_bestOn_j48 (rec4 : (Int32 × Int32) → Ms → Option (Int32 × Ms)) (x1 : Int32) (x2 : Int32) (x3 : Int32) (M4 : Ms) : Option (Int32 × Ms) :=
  rec4 (x2, (x3 + (1 : Int32))) M4
def g_bestOn_j46 (rec4 : (Int32 × Int32) → Ms → Option (Int32 × Ms)) (x1 : Int32) (x3 : Int32) (M5 : Ms) : Option (Int32 × Ms) :=
  g_bestOn_j48 rec4 x1 x3 x3 M5
def g_bestOn_L4 (x1 : Int32) : (Int32 × Int32) → Ms → Option (Int32 × Ms) :=
  lp FU fun rec4 v4 M1 =>
    (aI 0 6 (2 : Int32) M1).bind fun a2 =>
    if a2 ≤ v4.2 then
      some (v4.1, M1)
    else
      (aI 0 6 ((12 : Int32) + v4.2) M1).bind fun a3 =>
      if a3 = x1 then
        if v4.1 < 0 then
          g_bestOn_j46 rec4 x1 v4.2 M1
        else
          (aI 0 24 v4.2 M1).bind fun a6 =>
          (aI 0 24 v4.1 M1).bind fun a7 =>
          if a6 ≤ a7 then
            g_bestOn_j48 rec4 x1 v4.1 v4.2 M1
          else
            g_bestOn_j46 rec4 x1 v4.2 M1
      else
        g_bestOn_j48 rec4 x1 v4.1 v4.2 M1
def g_bestOn (x1 : Int32) (M : Ms) : Option (Int32 × Ms) :=
  g_bestOn_L4 x1 ((-1 : Int32), (0 : Int32)) M
theorem nd_X6_bestOn : yX6_bestOn.cls = RX6 ∧ yX6_bestOn.cls ≠ "java/lang/invoke/MethodHandle" ∧ yX6_bestOn.cls ≠ "java/lang/invoke/VarHandle" ∧ (parseMethodDescriptor yX6_bestOn.desc).map (fun d => d.parameters.length) = some 1 := ⟨rfl, by decide +kernel, by decide +kernel, by decide +kernel⟩
theorem ct_X6_bestOn {G : Gx} {RL : Lv} {Pl : Nat → Bool} {l : Launch} (hL : LvA G RL Pl) {h0 : Hp} {mo : Nat} (hM : MP Pl mo) (M : Ms) (x1 : Int32) : Ct (plug h0 mo) G RL l yX6_bestOn (ws_ yX6_bestOn cX6_bestOn 4 (some .int)) 0 0 finI [vr mo, .int x1] M (g_bestOn x1 M) := by
  refine Ct.of (Pl := Pl) [(0, vr mo), (1, .int x1)] (by decide) hL rfl (Nat.le_of_ble_eq_true rfl) ?_
  intro E C hn hf hlo e1 e2 e3 e4 e5
  subst e1; subst e2; subst e3; subst e4
  replace C : Cx E cX6_bestOn (some .int) RX6 := C
  unfold g_bestOn
  refine s_iconst C (-1 : Int32) dX6_bestOn_0 (by decide) ?_
  refine s_istore_n (la' := [(2, .int (-1 : Int32)), (0, vr mo), (1, .int x1)]) C 2 dX6_bestOn_1 rfl (lt_nl e5 rfl) rfl ?_
  refine s_iconst C (0 : Int32) dX6_bestOn_2 (by decide) ?_
  have hL4 : ∀ (x1 : Int32) (v4 : (Int32 × Int32)) (M1 : Ms), Sim (plug h0 mo) E (QM (plug h0 mo) E finI) M1 4 [(0, vr mo), (1, .int x1), (2, .int v4.1), (3, .int v4.2)] [] (g_bestOn_L4 x1 v4 M1) := by
    intro x1 v4 M1
    refine Sim.loop (fun v4 => [(0, vr mo), (1, .int x1), (2, .int v4.1), (3, .int v4.2)]) (fun _ => []) (fun rec4 hr4 v4 M1 => ?_) FU v4 M1
    refine s_iload_n C dX6_bestOn_4 3 rfl rfl ?_
    refine s_aload_n C dX6_bestOn_5 0 rfl rfl ?_
    refine sm_getA 6 C hM fo_X6_33_6 rfl (by decide) dX6_bestOn_6 ?_
    refine s_iconst C (2 : Int32) dX6_bestOn_9 (by decide) ?_
    refine sm_iald C hM dX6_bestOn_10 fun a2 => ?_
    refine s_icmp_ge C 54 dX6_bestOn_11 (by decide) ?_ ?_
    · refine s_iload_n C dX6_bestOn_54 2 rfl rfl ?_
      exact s_iret C rfl dX6_bestOn_55
    · refine s_aload_n C dX6_bestOn_14 0 rfl rfl ?_
      refine sm_getA 6 C hM fo_X6_33_6 rfl (by decide) dX6_bestOn_15 ?_
      refine s_bipush C (12 : Int32) dX6_bestOn_18 (by decide) ?_
      refine s_iload_n C dX6_bestOn_20 3 rfl rfl ?_
      refine s_iadd C dX6_bestOn_21 ?_
      refine sm_iald C hM dX6_bestOn_22 fun a3 => ?_
      refine s_iload_n C dX6_bestOn_23 1 rfl rfl ?_
      have hj48 : ∀ (x2 : Int32) (x3 : Int32) (M4 : Ms), Sim (plug h0 mo) E (QM (plug h0 mo) E finI) M4 48 [(0, vr mo), (1, .int x1), (2, .int x2), (3, .int x3)] [] (g_bestOn_j48 rec4 x1 x2 x3 M4) := by
        intro x2 x3 M4
        refine s_iinc (la' := [(3, .int (x3 + (1 : Int32))), (0, vr mo), (1, .int x1), (2, .int x2)]) C 3 dX6_bestOn_48 rfl rfl (lt_nl e5 rfl) rfl ?_
        refine s_goto C 4 dX6_bestOn_51 (by decide) ?_
        refine Sim.keep [1, 2, 3, 0] rfl ?_
        exact hr4 _ _
      refine s_icmp_ne C 48 dX6_bestOn_24 (by decide) ?_ ?_
      · exact hj48 _ _ _
      · refine s_iload_n C dX6_bestOn_27 2 rfl rfl ?_
        have hj46 : ∀ (x3 : Int32) (M5 : Ms), Sim (plug h0 mo) E (QM (plug h0 mo) E finI) M5 46 [(0, vr mo), (1, .int x1), (3, .int x3)] [] (g_bestOn_j46 rec4 x1 x3 M5) := by
          intro x3 M5
          refine s_iload_n C dX6_bestOn_46 2 rfl rfl ?_
          refine s_istore_n (la' := [(2, .int x3), (0, vr mo), (1, .int x1), (3, .int x3)]) C 2 dX6_bestOn_47 rfl (lt_nl e5 rfl) rfl ?_
          refine Sim.keep [1, 2, 0, 3] rfl ?_
          exact hj48 _ _ _
        refine s_if_lt C 46 dX6_bestOn_28 (by decide) ?_ ?_
        · refine Sim.keep [0, 1, 3] rfl ?_
          exact hj46 _ _
        · refine s_aload_n C dX6_bestOn_31 0 rfl rfl ?_
          refine sm_getA 24 C hM fo_X6_62_6 rfl (by decide) dX6_bestOn_32 ?_
          refine s_iload_n C dX6_bestOn_35 3 rfl rfl ?_
          refine sm_iald C hM dX6_bestOn_36 fun a6 => ?_
          refine s_aload_n C dX6_bestOn_37 0 rfl rfl ?_
          refine sm_getA 24 C hM fo_X6_62_6 rfl (by decide) dX6_bestOn_38 ?_
          refine s_iload_n C dX6_bestOn_41 2 rfl rfl ?_
          refine sm_iald C hM dX6_bestOn_42 fun a7 => ?_
          refine s_icmp_le C 48 dX6_bestOn_43 (by decide) ?_ ?_
          · exact hj48 _ _ _
          · refine Sim.keep [0, 1, 3] rfl ?_
            exact hj46 _ _
  refine s_istore_n (la' := [(3, .int (0 : Int32)), (2, .int (-1 : Int32)), (0, vr mo), (1, .int x1)]) C 3 dX6_bestOn_3 rfl (lt_nl e5 rfl) rfl ?_
  refine Sim.keep [2, 3, 1, 0] rfl ?_
  exact hL4 _ _ _

def g_laysWay_L130  : Int32 → Ms → Option (Unit × Ms) :=
  lp FU fun rec130 v130 M9 =>
    if v130 < 0 then
      some ((), M9)
    else
      (sI 0 25 (M9.1 30) v130 M9).bind fun M10 =>
      bd (mI 30 ((M10.1 30) + (1 : Int32)) M10) fun M11 =>
      bn (g_bestOn v130 M11) fun r13 M12 =>
      rec130 r13 M12
def g_laysWay_L73 (rec27 : Int32 → Ms → Option (Unit × Ms)) (x1 : Int32) (x3 : Int32) : Int32 → Ms → Option (Unit × Ms) :=
  lp FU fun rec73 v73 M19 =>
    if v73 < 0 then
      rec27 (x1 + (1 : Int32)) M19
    else
      (aI 0 24 v73 M19).bind fun a20 =>
      (sI 0 24 v73 (a20 + x3) M19).bind fun M21 =>
      (aI 0 6 ((12 : Int32) + v73) M21).bind fun a22 =>
      rec73 a22 M21
def g_laysWay_j62 (rec27 : Int32 → Ms → Option (Unit × Ms)) (x1 : Int32) (y0 : Int32) (M16 : Ms) : Option (Unit × Ms) :=
  bn (g_weightBy (M16.1 29) x1 M16) fun r18 M17 =>
  g_laysWay_L73 rec27 x1 r18 y0 M17
def g_laysWay_L27  : Int32 → Ms → Option (Unit × Ms) :=
  lp FU fun rec27 v27 M3 =>
    (aI 0 6 (1 : Int32) M3).bind fun a4 =>
    if a4 ≤ v27 then
      (sI 0 25 (0 : Int32) (M3.1 29) M3).bind fun M5 =>
      bd (mI 30 (1 : Int32) M5) fun M6 =>
      bn (g_bestOn (M6.1 29) M6) fun r8 M7 =>
      g_laysWay_L130 r8 M7
    else
      bn (g_bitOf (M3.1 28) v27 M3) fun r15 M14 =>
      if r15 = 0 then
        (aI 0 6 ((216 : Int32) + v27) M14).bind fun a23 =>
        g_laysWay_j62 rec27 v27 a23 M14
      else
        g_laysWay_j62 rec27 v27 (-1 : Int32) M14
def g_laysWay_L2  : Int32 → Ms → Option (Unit × Ms) :=
  lp FU fun rec2 v2 M1 =>
    (aI 0 6 (2 : Int32) M1).bind fun a2 =>
    if a2 ≤ v2 then
      g_laysWay_L27 (0 : Int32) M1
    else
      (sI 0 24 v2 (0 : Int32) M1).bind fun M24 =>
      rec2 (v2 + (1 : Int32)) M24
def g_laysWay  (M : Ms) : Option (Unit × Ms) :=
  g_laysWay_L2 (0 : Int32) M
theorem nd_X6_laysWay : yX6_laysWay.cls = RX6 ∧ yX6_laysWay.cls ≠ "java/lang/invoke/MethodHandle" ∧ yX6_laysWay.cls ≠ "java/lang/invoke/VarHandle" ∧ (parseMethodDescriptor yX6_laysWay.desc).map (fun d => d.parameters.length) = some 0 := ⟨rfl, by decide +kernel, by decide +kernel, by decide +kernel⟩
theorem ct_X6_laysWay {G : Gx} {RL : Lv} {Pl : Nat → Bool} {l : Launch} (hL : LvA G RL Pl) {h0 : Hp} {mo : Nat} (hM : MP Pl mo) (M : Ms)  : Ct (plug h0 mo) G RL l yX6_laysWay (ws_ yX6_laysWay cX6_laysWay 4 none) 1 23 finV [vr mo] M (g_laysWay M) := by
  refine Ct.of (Pl := Pl) [(0, vr mo)] (by decide) hL rfl (Nat.le_of_ble_eq_true rfl) ?_
  intro E C hn hf hlo e1 e2 e3 e4 e5
  subst e1; subst e2; subst e3; subst e4
  replace C : Cx E cX6_laysWay none RX6 := C
  unfold g_laysWay
  refine s_iconst C (0 : Int32) dX6_laysWay_0 (by decide) ?_
  have hL2 : ∀  (v2 : Int32) (M1 : Ms), Sim (plug h0 mo) E (QM (plug h0 mo) E finV) M1 2 [(0, vr mo), (1, .int v2)] [] (g_laysWay_L2  v2 M1) := by
    intro v2 M1
    refine Sim.loop (fun v2 => [(0, vr mo), (1, .int v2)]) (fun _ => []) (fun rec2 hr2 v2 M1 => ?_) FU v2 M1
    refine s_iload_n C dX6_laysWay_2 1 rfl rfl ?_
    refine s_aload_n C dX6_laysWay_3 0 rfl rfl ?_
    refine sm_getA 6 C hM fo_X6_33_6 rfl (by decide) dX6_laysWay_4 ?_
    refine s_iconst C (2 : Int32) dX6_laysWay_7 (by decide) ?_
    refine sm_iald C hM dX6_laysWay_8 fun a2 => ?_
    refine s_icmp_ge C 25 dX6_laysWay_9 (by decide) ?_ ?_
    · refine s_iconst C (0 : Int32) dX6_laysWay_25 (by decide) ?_
      have hL27 : ∀  (v27 : Int32) (M3 : Ms), Sim (plug h0 mo) E (QM (plug h0 mo) E finV) M3 27 [(0, vr mo), (1, .int v27)] [] (g_laysWay_L27  v27 M3) := by
        intro v27 M3
        refine Sim.loop (fun v27 => [(0, vr mo), (1, .int v27)]) (fun _ => []) (fun rec27 hr27 v27 M3 => ?_) FU v27 M3
        refine s_iload_n C dX6_laysWay_27 1 rfl rfl ?_
        refine s_aload_n C dX6_laysWay_28 0 rfl rfl ?_
        refine sm_getA 6 C hM fo_X6_33_6 rfl (by decide) dX6_laysWay_29 ?_
        refine s_iconst C (1 : Int32) dX6_laysWay_32 (by decide) ?_
        refine sm_iald C hM dX6_laysWay_33 fun a4 => ?_
        refine s_icmp_ge C 106 dX6_laysWay_34 (by decide) ?_ ?_
        · refine s_aload_n C dX6_laysWay_106 0 rfl rfl ?_
          refine sm_getA 25 C hM fo_X6_65_6 rfl (by decide) dX6_laysWay_107 ?_
          refine s_iconst C (0 : Int32) dX6_laysWay_110 (by decide) ?_
          refine s_aload_n C dX6_laysWay_111 0 rfl rfl ?_
          refine sm_getI 29 C hM fo_X6_294_6 rfl dX6_laysWay_112 ?_
          refine sm_iast C hM dX6_laysWay_115 fun M5 => ?_
          refine s_aload_n C dX6_laysWay_116 0 rfl rfl ?_
          refine s_iconst C (1 : Int32) dX6_laysWay_117 (by decide) ?_
          refine sm_putI 30 0 C hM fo_X6_297_6 rfl ⟨by decide, by decide, rfl⟩ rfl rfl dX6_laysWay_118 ?_
          refine s_bdh fun M6 => ?_
          refine s_aload_n C dX6_laysWay_121 0 rfl rfl ?_
          refine s_aload_n C dX6_laysWay_122 0 rfl rfl ?_
          refine sm_getI 29 C hM fo_X6_294_6 rfl dX6_laysWay_123 ?_
          refine sm_callI C 1 [] (ct_X6_bestOn hL hM M6 (M6.1 29)) (lw_V q3256 q3258 qs72 q147 q3259) nd_X6_bestOn rfl (le_fr hf rfl) (le_fr hlo rfl) rfl (Nat.le_of_ble_eq_true rfl) dX6_laysWay_126 fun r8 M7 => ?_
          have hL130 : ∀  (v130 : Int32) (M9 : Ms), Sim (plug h0 mo) E (QM (plug h0 mo) E finV) M9 130 [(0, vr mo), (1, .int v130)] [] (g_laysWay_L130  v130 M9) := by
            intro v130 M9
            refine Sim.loop (fun v130 => [(0, vr mo), (1, .int v130)]) (fun _ => []) (fun rec130 hr130 v130 M9 => ?_) FU v130 M9
            refine s_iload_n C dX6_laysWay_130 1 rfl rfl ?_
            refine s_if_lt C 163 dX6_laysWay_131 (by decide) ?_ ?_
            · exact s_vret C rfl dX6_laysWay_163
            · refine s_aload_n C dX6_laysWay_134 0 rfl rfl ?_
              refine sm_getA 25 C hM fo_X6_65_6 rfl (by decide) dX6_laysWay_135 ?_
              refine s_aload_n C dX6_laysWay_138 0 rfl rfl ?_
              refine sm_getI 30 C hM fo_X6_297_6 rfl dX6_laysWay_139 ?_
              refine s_iload_n C dX6_laysWay_142 1 rfl rfl ?_
              refine sm_iast C hM dX6_laysWay_143 fun M10 => ?_
              refine s_aload_n C dX6_laysWay_144 0 rfl rfl ?_
              refine s_dup C dX6_laysWay_145 rfl ?_
              refine sm_getI 30 C hM fo_X6_297_6 rfl dX6_laysWay_146 ?_
              refine s_iconst C (1 : Int32) dX6_laysWay_149 (by decide) ?_
              refine s_iadd C dX6_laysWay_150 ?_
              refine sm_putI 30 0 C hM fo_X6_297_6 rfl ⟨by decide, by decide, rfl⟩ rfl rfl dX6_laysWay_151 ?_
              refine s_bdh fun M11 => ?_
              refine s_aload_n C dX6_laysWay_154 0 rfl rfl ?_
              refine s_iload_n C dX6_laysWay_155 1 rfl rfl ?_
              refine sm_callI C 1 [] (ct_X6_bestOn hL hM M11 v130) (lw_V q3256 q3258 qs72 q147 q3259) nd_X6_bestOn rfl (le_fr hf rfl) (le_fr hlo rfl) rfl (Nat.le_of_ble_eq_true rfl) dX6_laysWay_156 fun r13 M12 => ?_
              refine s_istore_n (la' := [(1, .int r13), (0, vr mo)]) C 1 dX6_laysWay_159 rfl (lt_nl e5 rfl) rfl ?_
              refine s_goto C 130 dX6_laysWay_160 (by decide) ?_
              refine Sim.keep [1, 0] rfl ?_
              exact hr130 _ _
          refine s_istore_n (la' := [(1, .int r8), (0, vr mo)]) C 1 dX6_laysWay_129 rfl (lt_nl e5 rfl) rfl ?_
          refine Sim.keep [1, 0] rfl ?_
          exact hL130  _ _
        · refine s_aload_n C dX6_laysWay_37 0 rfl rfl ?_
          refine sm_getI 28 C hM fo_X6_270_6 rfl dX6_laysWay_38 ?_
          refine s_iload_n C dX6_laysWay_41 1 rfl rfl ?_
          refine sm_callSI C 2 [] (ct_X6_bitOf hL hM M3 (M3.1 28) v27) (lw_S q3241 q3242 q147 q3243) nd_X6_bitOf rfl (le_fr hf rfl) (le_fr hlo rfl) rfl (Nat.le_of_ble_eq_true rfl) dX6_laysWay_42 fun r15 M14 => ?_
          have hj62 : ∀ (x1 : Int32) (y0 : Int32) (M16 : Ms), Sim (plug h0 mo) E (QM (plug h0 mo) E finV) M16 62 [(0, vr mo), (1, .int x1)] [.int y0] (g_laysWay_j62 rec27 x1 y0 M16) := by
            intro x1 y0 M16
            refine s_istore_n (la' := [(2, .int y0), (0, vr mo), (1, .int x1)]) C 2 dX6_laysWay_62 rfl (lt_nl e5 rfl) rfl ?_
            refine s_aload_n C dX6_laysWay_63 1 rfl rfl ?_
            refine s_aload_n C dX6_laysWay_64 1 rfl rfl ?_
            refine sm_getI 29 C hM fo_X6_294_6 rfl dX6_laysWay_65 ?_
            refine s_iload_n C dX6_laysWay_68 2 rfl rfl ?_
            refine sm_callI C 2 [] (ct_X6_weightBy hL hM M16 (M16.1 29) x1) (lw_V q3248 q3250 qs70 q147 q3251) nd_X6_weightBy rfl (le_fr hf rfl) (le_fr hlo rfl) rfl (Nat.le_of_ble_eq_true rfl) dX6_laysWay_69 fun r18 M17 => ?_
            have hL73 : ∀ (x1 : Int32) (x3 : Int32) (v73 : Int32) (M19 : Ms), Sim (plug h0 mo) E (QM (plug h0 mo) E finV) M19 73 [(0, vr mo), (1, .int x1), (2, .int v73), (3, .int x3)] [] (g_laysWay_L73 rec27 x1 x3 v73 M19) := by
              intro x1 x3 v73 M19
              refine Sim.loop (fun v73 => [(0, vr mo), (1, .int x1), (2, .int v73), (3, .int x3)]) (fun _ => []) (fun rec73 hr73 v73 M19 => ?_) FU v73 M19
              refine s_iload_n C dX6_laysWay_73 2 rfl rfl ?_
              refine s_if_lt C 100 dX6_laysWay_74 (by decide) ?_ ?_
              · refine s_iinc (la' := [(1, .int (x1 + (1 : Int32))), (0, vr mo), (2, .int v73), (3, .int x3)]) C 1 dX6_laysWay_100 rfl rfl (lt_nl e5 rfl) rfl ?_
                refine s_goto C 27 dX6_laysWay_103 (by decide) ?_
                refine Sim.keep [1, 0] rfl ?_
                exact hr27 _ _
              · refine s_aload_n C dX6_laysWay_77 0 rfl rfl ?_
                refine sm_getA 24 C hM fo_X6_62_6 rfl (by decide) dX6_laysWay_78 ?_
                refine s_iload_n C dX6_laysWay_81 2 rfl rfl ?_
                refine s_dup2 C dX6_laysWay_82 rfl rfl ?_
                refine sm_iald C hM dX6_laysWay_83 fun a20 => ?_
                refine s_iload_n C dX6_laysWay_84 3 rfl rfl ?_
                refine s_iadd C dX6_laysWay_85 ?_
                refine sm_iast C hM dX6_laysWay_86 fun M21 => ?_
                refine s_aload_n C dX6_laysWay_87 0 rfl rfl ?_
                refine sm_getA 6 C hM fo_X6_33_6 rfl (by decide) dX6_laysWay_88 ?_
                refine s_bipush C (12 : Int32) dX6_laysWay_91 (by decide) ?_
                refine s_iload_n C dX6_laysWay_93 2 rfl rfl ?_
                refine s_iadd C dX6_laysWay_94 ?_
                refine sm_iald C hM dX6_laysWay_95 fun a22 => ?_
                refine s_istore_n (la' := [(2, .int a22), (0, vr mo), (1, .int x1), (3, .int x3)]) C 2 dX6_laysWay_96 rfl (lt_nl e5 rfl) rfl ?_
                refine s_goto C 73 dX6_laysWay_97 (by decide) ?_
                refine Sim.keep [1, 2, 0, 3] rfl ?_
                exact hr73 _ _
            refine s_istore_n (la' := [(3, .int r18), (2, .int y0), (0, vr mo), (1, .int x1)]) C 3 dX6_laysWay_72 rfl (lt_nl e5 rfl) rfl ?_
            refine Sim.keep [2, 3, 1, 0] rfl ?_
            exact hL73 _ _ _ _
          refine s_if_eq C 52 dX6_laysWay_45 (by decide) ?_ ?_
          · refine s_aload_n C dX6_laysWay_52 0 rfl rfl ?_
            refine sm_getA 6 C hM fo_X6_33_6 rfl (by decide) dX6_laysWay_53 ?_
            refine s_sipush C (216 : Int32) dX6_laysWay_56 (by decide) ?_
            refine s_iload_n C dX6_laysWay_59 1 rfl rfl ?_
            refine s_iadd C dX6_laysWay_60 ?_
            refine sm_iald C hM dX6_laysWay_61 fun a23 => ?_
            exact hj62 _ _ _
          · refine s_iconst C (-1 : Int32) dX6_laysWay_48 (by decide) ?_
            refine s_goto C 62 dX6_laysWay_49 (by decide) ?_
            exact hj62 _ _ _
      refine s_istore_n (la' := [(1, .int (0 : Int32)), (0, vr mo)]) C 1 dX6_laysWay_26 rfl (lt_nl e5 rfl) rfl ?_
      refine Sim.keep [1, 0] rfl ?_
      exact hL27  _ _
    · refine s_aload_n C dX6_laysWay_12 0 rfl rfl ?_
      refine sm_getA 24 C hM fo_X6_62_6 rfl (by decide) dX6_laysWay_13 ?_
      refine s_iload_n C dX6_laysWay_16 1 rfl rfl ?_
      refine s_iconst C (0 : Int32) dX6_laysWay_17 (by decide) ?_
      refine sm_iast C hM dX6_laysWay_18 fun M24 => ?_
      refine s_iinc (la' := [(1, .int (v2 + (1 : Int32))), (0, vr mo)]) C 1 dX6_laysWay_19 rfl rfl (lt_nl e5 rfl) rfl ?_
      refine s_goto C 2 dX6_laysWay_22 (by decide) ?_
      refine Sim.keep [1, 0] rfl ?_
      exact hr2 _ _
  refine s_istore_n (la' := [(1, .int (0 : Int32)), (0, vr mo)]) C 1 dX6_laysWay_1 rfl (lt_nl e5 rfl) rfl ?_
  refine Sim.keep [1, 0] rfl ?_
  exact hL2  _ _

def g_lays  (M : Ms) : Option (Unit × Ms) :=
  if (M.1 34) = 0 then
    (pZ 34 (1 : Int32) M).bind fun M1 =>
    bn (g_laysBlocks  M1) fun _ M2 =>
    bn (g_laysVotes  M2) fun _ M3 =>
    bd (mI 26 (0 : Int32) M3) fun M4 =>
    bd (mI 27 (0 : Int32) M4) fun M5 =>
    bd (mI 29 (-1 : Int32) M5) fun M6 =>
    bd (mI 30 (0 : Int32) M6) fun M7 =>
    bd (mI 32 (0 : Int32) M7) fun M8 =>
    (aI 0 6 (2 : Int32) M8).bind fun a9 =>
    if a9 = 0 then
      some ((), M8)
    else
      bn (g_laysJust  M8) fun _ M10 =>
      bn (g_laysWay  M10) fun _ M11 =>
      some ((), M11)
  else
    some ((), M)
theorem nd_X6_lays : yX6_lays.cls = RX6 ∧ yX6_lays.cls ≠ "java/lang/invoke/MethodHandle" ∧ yX6_lays.cls ≠ "java/lang/invoke/VarHandle" ∧ (parseMethodDescriptor yX6_lays.desc).map (fun d => d.parameters.length) = some 0 := ⟨rfl, by decide +kernel, by decide +kernel, by decide +kernel⟩
theorem ct_X6_lays {G : Gx} {RL : Lv} {Pl : Nat → Bool} {l : Launch} (hL : LvA G RL Pl) {h0 : Hp} {mo : Nat} (hM : MP Pl mo) (M : Ms)  : Ct (plug h0 mo) G RL l yX6_lays (ws_ yX6_lays cX6_lays 1 none) 6 143 finV [vr mo] M (g_lays M) := by
  refine Ct.of (Pl := Pl) [(0, vr mo)] (by decide) hL rfl (Nat.le_of_ble_eq_true rfl) ?_
  intro E C hn hf hlo e1 e2 e3 e4 e5
  subst e1; subst e2; subst e3; subst e4
  replace C : Cx E cX6_lays none RX6 := C
  unfold g_lays
  refine s_aload_n C dX6_lays_0 0 rfl rfl ?_
  refine sm_getI 34 C hM fo_X6_242_6 rfl dX6_lays_1 ?_
  refine s_if_eq C 8 dX6_lays_4 (by decide) ?_ ?_
  · refine s_aload_n C dX6_lays_8 0 rfl rfl ?_
    refine s_iconst C (1 : Int32) dX6_lays_9 (by decide) ?_
    refine sm_putZ 34 C hM fo_X6_242_6 rfl rfl rfl dX6_lays_10 fun M1 => ?_
    refine s_aload_n C dX6_lays_13 0 rfl rfl ?_
    refine sm_callV C 0 [] (ct_X6_laysBlocks hL hM M1 ) (lw_V q3205 q3207 qs60 q147 q3208) nd_X6_laysBlocks rfl (le_fr hf rfl) (le_fr hlo rfl) rfl (Nat.le_of_ble_eq_true rfl) dX6_lays_14 fun _ M2 => ?_
    refine s_aload_n C dX6_lays_17 0 rfl rfl ?_
    refine sm_callV C 0 [] (ct_X6_laysVotes hL hM M2 ) (lw_V q3209 q3211 qs61 q147 q3212) nd_X6_laysVotes rfl (le_fr hf rfl) (le_fr hlo rfl) rfl (Nat.le_of_ble_eq_true rfl) dX6_lays_18 fun _ M3 => ?_
    refine s_aload_n C dX6_lays_21 0 rfl rfl ?_
    refine s_iconst C (0 : Int32) dX6_lays_22 (by decide) ?_
    refine sm_putI 26 0 C hM fo_X6_282_6 rfl ⟨by decide, by decide, rfl⟩ rfl rfl dX6_lays_23 ?_
    refine s_bdh fun M4 => ?_
    refine s_aload_n C dX6_lays_26 0 rfl rfl ?_
    refine s_iconst C (0 : Int32) dX6_lays_27 (by decide) ?_
    refine sm_putI 27 0 C hM fo_X6_285_6 rfl ⟨by decide, by decide, rfl⟩ rfl rfl dX6_lays_28 ?_
    refine s_bdh fun M5 => ?_
    refine s_aload_n C dX6_lays_31 0 rfl rfl ?_
    refine s_iconst C (-1 : Int32) dX6_lays_32 (by decide) ?_
    refine sm_putI 29 0 C hM fo_X6_294_6 rfl ⟨by decide, by decide, rfl⟩ rfl rfl dX6_lays_33 ?_
    refine s_bdh fun M6 => ?_
    refine s_aload_n C dX6_lays_36 0 rfl rfl ?_
    refine s_iconst C (0 : Int32) dX6_lays_37 (by decide) ?_
    refine sm_putI 30 0 C hM fo_X6_297_6 rfl ⟨by decide, by decide, rfl⟩ rfl rfl dX6_lays_38 ?_
    refine s_bdh fun M7 => ?_
    refine s_aload_n C dX6_lays_41 0 rfl rfl ?_
    refine s_iconst C (0 : Int32) dX6_lays_42 (by decide) ?_
    refine sm_putI 32 0 C hM fo_X6_288_6 rfl ⟨by decide, by decide, rfl⟩ rfl rfl dX6_lays_43 ?_
    refine s_bdh fun M8 => ?_
    refine s_aload_n C dX6_lays_46 0 rfl rfl ?_
    refine sm_getA 6 C hM fo_X6_33_6 rfl (by decide) dX6_lays_47 ?_
    refine s_iconst C (2 : Int32) dX6_lays_50 (by decide) ?_
    refine sm_iald C hM dX6_lays_51 fun a9 => ?_
    refine s_if_ne C 56 dX6_lays_52 (by decide) ?_ ?_
    · refine s_aload_n C dX6_lays_56 0 rfl rfl ?_
      refine sm_callV C 0 [] (ct_X6_laysJust hL hM M8 ) (lw_V q3225 q3227 qs65 q147 q3228) nd_X6_laysJust rfl (le_fr hf rfl) (le_fr hlo rfl) rfl (Nat.le_of_ble_eq_true rfl) dX6_lays_57 fun _ M10 => ?_
      refine s_aload_n C dX6_lays_60 0 rfl rfl ?_
      refine sm_callV C 0 [] (ct_X6_laysWay hL hM M10 ) (lw_V q3252 q3254 qs71 q147 q3255) nd_X6_laysWay rfl (le_fr hf rfl) (le_fr hlo rfl) rfl (Nat.le_of_ble_eq_true rfl) dX6_lays_61 fun _ M11 => ?_
      exact s_vret C rfl dX6_lays_64
    · exact s_vret C rfl dX6_lays_55
  · exact s_vret C rfl dX6_lays_7

def g_isAhead (x1 : Int32) (x2 : Int32) (M : Ms) : Option (Int32 × Ms) :=
  (aI 0 22 x2 M).bind fun a1 =>
  bn (g_bitOf a1 x1 M) fun r3 M2 =>
  if nrw 2 r3 = r3 then some (r3, M2) else none
theorem nd_X6_isAhead : yX6_isAhead.cls = RX6 ∧ yX6_isAhead.cls ≠ "java/lang/invoke/MethodHandle" ∧ yX6_isAhead.cls ≠ "java/lang/invoke/VarHandle" ∧ (parseMethodDescriptor yX6_isAhead.desc).map (fun d => d.parameters.length) = some 2 := ⟨rfl, by decide +kernel, by decide +kernel, by decide +kernel⟩
theorem ct_X6_isAhead {G : Gx} {RL : Lv} {Pl : Nat → Bool} {l : Launch} (hL : LvA G RL Pl) {h0 : Hp} {mo : Nat} (hM : MP Pl mo) (M : Ms) (x1 : Int32) (x2 : Int32) : Ct (plug h0 mo) G RL l yX6_isAhead (ws_ yX6_isAhead cX6_isAhead 3 (some .boolean)) 1 21 finI [vr mo, .int x1, .int x2] M (g_isAhead x1 x2 M) := by
  refine Ct.of (Pl := Pl) [(0, vr mo), (1, .int x1), (2, .int x2)] (by decide) hL rfl (Nat.le_of_ble_eq_true rfl) ?_
  intro E C hn hf hlo e1 e2 e3 e4 e5
  subst e1; subst e2; subst e3; subst e4
  replace C : Cx E cX6_isAhead (some .boolean) RX6 := C
  unfold g_isAhead
  refine s_aload_n C dX6_isAhead_0 0 rfl rfl ?_
  refine sm_getA 22 C hM fo_X6_56_6 rfl (by decide) dX6_isAhead_1 ?_
  refine s_iload_n C dX6_isAhead_4 2 rfl rfl ?_
  refine sm_iald C hM dX6_isAhead_5 fun a1 => ?_
  refine s_iload_n C dX6_isAhead_6 1 rfl rfl ?_
  refine sm_callSI C 2 [] (ct_X6_bitOf hL hM M a1 x1) (lw_S q3241 q3242 q147 q3243) nd_X6_bitOf rfl (le_fr hf rfl) (le_fr hlo rfl) rfl (Nat.le_of_ble_eq_true rfl) dX6_isAhead_7 fun r3 M2 => ?_
  exact s_zret 2 C (by decide) (by decide) rfl dX6_isAhead_10

def g_truth_j9 (y0 : Int32) (M1 : Ms) : Option (Int32 × Ms) :=
  some (y0, M1)
def g_truth (x0 : Int32) (M : Ms) : Option (Int32 × Ms) :=
  if x0 = 0 then
    g_truth_j9 (0 : Int32) M
  else
    g_truth_j9 (1 : Int32) M
theorem nd_X6_truth : yX6_truth.cls = RX6 ∧ yX6_truth.cls ≠ "java/lang/invoke/MethodHandle" ∧ yX6_truth.cls ≠ "java/lang/invoke/VarHandle" ∧ (parseMethodDescriptor yX6_truth.desc).map (fun d => d.parameters.length) = some 1 := ⟨rfl, by decide +kernel, by decide +kernel, by decide +kernel⟩
theorem ct_X6_truth {G : Gx} {RL : Lv} {Pl : Nat → Bool} {l : Launch} (hL : LvA G RL Pl) {h0 : Hp} {mo : Nat} (hM : MP Pl mo) (M : Ms) (x0 : Int32) : Ct (plug h0 mo) G RL l yX6_truth (ws_ yX6_truth cX6_truth 1 (some .int)) 0 0 finI [.int x0] M (g_truth x0 M) := by
  refine Ct.of (Pl := Pl) [(0, .int x0)] (by decide) hL rfl (Nat.le_of_ble_eq_true rfl) ?_
  intro E C hn hf hlo e1 e2 e3 e4 e5
  subst e1; subst e2; subst e3; subst e4
  replace C : Cx E cX6_truth (some .int) RX6 := C
  unfold g_truth
  refine s_iload_n C dX6_truth_0 0 rfl rfl ?_
  have hj9 : ∀ (y0 : Int32) (M1 : Ms), Sim (plug h0 mo) E (QM (plug h0 mo) E finI) M1 9 [] [.int y0] (g_truth_j9 y0 M1) := by
    intro y0 M1
    exact s_iret C rfl dX6_truth_9
  refine s_if_eq C 8 dX6_truth_1 (by decide) ?_ ?_
  · refine s_iconst C (0 : Int32) dX6_truth_8 (by decide) ?_
    refine Sim.keep [] rfl ?_
    exact hj9 _ _
  · refine s_iconst C (1 : Int32) dX6_truth_4 (by decide) ?_
    refine s_goto C 9 dX6_truth_5 (by decide) ?_
    refine Sim.keep [] rfl ?_
    exact hj9 _ _

def g_ahead_j21  (M4 : Ms) : Option (Int32 × Ms) :=
  some ((-1 : Int32), M4)
def g_ahead (x1 : Int32) (x2 : Int32) (M : Ms) : Option (Int32 × Ms) :=
  bd (mI 0 (0 : Int32) M) fun M1 =>
  bn (g_isBlock x1 M1) fun r3 M2 =>
  if r3 = 0 then
    g_ahead_j21 M2
  else
    bn (g_isBlock x2 M2) fun r6 M5 =>
    if r6 = 0 then
      g_ahead_j21 M5
    else
      bn (g_lays  M5) fun _ M7 =>
      bn (g_isAhead x1 x2 M7) fun r9 M8 =>
      bn (g_truth r9 M8) fun r11 M10 =>
      some (r11, M10)
theorem nd_X6_ahead : yX6_ahead.cls = RX6 ∧ yX6_ahead.cls ≠ "java/lang/invoke/MethodHandle" ∧ yX6_ahead.cls ≠ "java/lang/invoke/VarHandle" ∧ (parseMethodDescriptor yX6_ahead.desc).map (fun d => d.parameters.length) = some 2 := ⟨rfl, by decide +kernel, by decide +kernel, by decide +kernel⟩
theorem ct_X6_ahead {G : Gx} {RL : Lv} {Pl : Nat → Bool} {l : Launch} (hL : LvA G RL Pl) {h0 : Hp} {mo : Nat} (hM : MP Pl mo) (M : Ms) (x1 : Int32) (x2 : Int32) : Ct (plug h0 mo) G RL l yX6_ahead (ws_ yX6_ahead cX6_ahead 3 (some .int)) 7 163 finI [vr mo, .int x1, .int x2] M (g_ahead x1 x2 M) := by
  refine Ct.of (Pl := Pl) [(0, vr mo), (1, .int x1), (2, .int x2)] (by decide) hL rfl (Nat.le_of_ble_eq_true rfl) ?_
  intro E C hn hf hlo e1 e2 e3 e4 e5
  subst e1; subst e2; subst e3; subst e4
  replace C : Cx E cX6_ahead (some .int) RX6 := C
  unfold g_ahead
  refine s_aload_n C dX6_ahead_0 0 rfl rfl ?_
  refine s_iconst C (0 : Int32) dX6_ahead_1 (by decide) ?_
  refine sm_putI 0 0 C hM fo_X6_1_6 rfl ⟨by decide, by decide, rfl⟩ rfl rfl dX6_ahead_2 ?_
  refine s_bdh fun M1 => ?_
  refine s_aload_n C dX6_ahead_5 0 rfl rfl ?_
  refine s_iload_n C dX6_ahead_6 1 rfl rfl ?_
  refine sm_callI C 1 [] (ct_X6_isBlock hL hM M1 x1) (lw_V q3193 q3195 qs57 q147 q3196) nd_X6_isBlock rfl (le_fr hf rfl) (le_fr hlo rfl) rfl (Nat.le_of_ble_eq_true rfl) dX6_ahead_7 fun r3 M2 => ?_
  have hj21 : ∀  (M4 : Ms), Sim (plug h0 mo) E (QM (plug h0 mo) E finI) M4 21 [] [] (g_ahead_j21 M4) := by
    intro M4
    refine s_iconst C (-1 : Int32) dX6_ahead_21 (by decide) ?_
    exact s_iret C rfl dX6_ahead_22
  refine s_if_eq C 21 dX6_ahead_10 (by decide) ?_ ?_
  · refine Sim.keep [] rfl ?_
    exact hj21 _
  · refine s_aload_n C dX6_ahead_13 0 rfl rfl ?_
    refine s_iload_n C dX6_ahead_14 2 rfl rfl ?_
    refine sm_callI C 1 [] (ct_X6_isBlock hL hM M2 x2) (lw_V q3193 q3195 qs57 q147 q3196) nd_X6_isBlock rfl (le_fr hf rfl) (le_fr hlo rfl) rfl (Nat.le_of_ble_eq_true rfl) dX6_ahead_15 fun r6 M5 => ?_
    refine s_if_ne C 23 dX6_ahead_18 (by decide) ?_ ?_
    · refine s_aload_n C dX6_ahead_23 0 rfl rfl ?_
      refine sm_callV C 0 [] (ct_X6_lays hL hM M5 ) (lw_V q3201 q3203 qs59 q147 q3204) nd_X6_lays rfl (le_fr hf rfl) (le_fr hlo rfl) rfl (Nat.le_of_ble_eq_true rfl) dX6_ahead_24 fun _ M7 => ?_
      refine s_aload_n C dX6_ahead_27 0 rfl rfl ?_
      refine s_iload_n C dX6_ahead_28 1 rfl rfl ?_
      refine s_iload_n C dX6_ahead_29 2 rfl rfl ?_
      refine sm_callI C 2 [] (ct_X6_isAhead hL hM M7 x1 x2) (lw_V q3275 q3277 qs75 q147 q3278) nd_X6_isAhead rfl (le_fr hf rfl) (le_fr hlo rfl) rfl (Nat.le_of_ble_eq_true rfl) dX6_ahead_30 fun r9 M8 => ?_
      refine sm_callSI C 1 [] (ct_X6_truth hL hM M8 r9) (lw_S q3268 q3269 q147 q3270) nd_X6_truth rfl (le_fr hf rfl) (le_fr hlo rfl) rfl (Nat.le_of_ble_eq_true rfl) dX6_ahead_33 fun r11 M10 => ?_
      exact s_iret C rfl dX6_ahead_36
    · refine Sim.keep [] rfl ?_
      exact hj21 _

def g_bad (x1 : Int32) (M : Ms) : Option (Int32 × Ms) :=
  bd (mI 16 x1 M) fun M1 =>
  bd (mI 17 (M1.1 13) M1) fun M2 =>
  if nrw 2 (0 : Int32) = (0 : Int32) then some ((0 : Int32), M2) else none
theorem nd_X6_bad : yX6_bad.cls = RX6 ∧ yX6_bad.cls ≠ "java/lang/invoke/MethodHandle" ∧ yX6_bad.cls ≠ "java/lang/invoke/VarHandle" ∧ (parseMethodDescriptor yX6_bad.desc).map (fun d => d.parameters.length) = some 1 := ⟨rfl, by decide +kernel, by decide +kernel, by decide +kernel⟩
theorem ct_X6_bad {G : Gx} {RL : Lv} {Pl : Nat → Bool} {l : Launch} (hL : LvA G RL Pl) {h0 : Hp} {mo : Nat} (hM : MP Pl mo) (M : Ms) (x1 : Int32) : Ct (plug h0 mo) G RL l yX6_bad (ws_ yX6_bad cX6_bad 2 (some .boolean)) 0 0 finI [vr mo, .int x1] M (g_bad x1 M) := by
  refine Ct.of (Pl := Pl) [(0, vr mo), (1, .int x1)] (by decide) hL rfl (Nat.le_of_ble_eq_true rfl) ?_
  intro E C hn hf hlo e1 e2 e3 e4 e5
  subst e1; subst e2; subst e3; subst e4
  replace C : Cx E cX6_bad (some .boolean) RX6 := C
  unfold g_bad
  refine s_aload_n C dX6_bad_0 0 rfl rfl ?_
  refine s_iload_n C dX6_bad_1 1 rfl rfl ?_
  refine sm_putI 16 0 C hM fo_X6_174_6 rfl ⟨by decide, by decide, rfl⟩ rfl rfl dX6_bad_2 ?_
  refine s_bdh fun M1 => ?_
  refine s_aload_n C dX6_bad_5 0 rfl rfl ?_
  refine s_aload_n C dX6_bad_6 0 rfl rfl ?_
  refine sm_getI 13 C hM fo_X6_151_6 rfl dX6_bad_7 ?_
  refine sm_putI 17 0 C hM fo_X6_177_6 rfl ⟨by decide, by decide, rfl⟩ rfl rfl dX6_bad_10 ?_
  refine s_bdh fun M2 => ?_
  refine s_iconst C (0 : Int32) dX6_bad_13 (by decide) ?_
  exact s_zret 2 C (by decide) (by decide) rfl dX6_bad_14

def g_code (x1 : Int32) (x2 : Int32) (x3 : Int32) (M : Ms) : Option (Unit × Ms) :=
  (sI 0 8 ((3 : Int32) * (M.1 49)) x1 M).bind fun M1 =>
  (sI 0 8 (((3 : Int32) * (M1.1 49)) + (1 : Int32)) x2 M1).bind fun M2 =>
  (sI 0 8 (((3 : Int32) * (M2.1 49)) + (2 : Int32)) x3 M2).bind fun M3 =>
  bd (mI 49 ((M3.1 49) + (1 : Int32)) M3) fun M4 =>
  some ((), M4)
theorem nd_X6_code : yX6_code.cls = RX6 ∧ yX6_code.cls ≠ "java/lang/invoke/MethodHandle" ∧ yX6_code.cls ≠ "java/lang/invoke/VarHandle" ∧ (parseMethodDescriptor yX6_code.desc).map (fun d => d.parameters.length) = some 3 := ⟨rfl, by decide +kernel, by decide +kernel, by decide +kernel⟩
theorem ct_X6_code {G : Gx} {RL : Lv} {Pl : Nat → Bool} {l : Launch} (hL : LvA G RL Pl) {h0 : Hp} {mo : Nat} (hM : MP Pl mo) (M : Ms) (x1 : Int32) (x2 : Int32) (x3 : Int32) : Ct (plug h0 mo) G RL l yX6_code (ws_ yX6_code cX6_code 4 none) 0 0 finV [vr mo, .int x1, .int x2, .int x3] M (g_code x1 x2 x3 M) := by
  refine Ct.of (Pl := Pl) [(0, vr mo), (1, .int x1), (2, .int x2), (3, .int x3)] (by decide) hL rfl (Nat.le_of_ble_eq_true rfl) ?_
  intro E C hn hf hlo e1 e2 e3 e4 e5
  subst e1; subst e2; subst e3; subst e4
  replace C : Cx E cX6_code none RX6 := C
  unfold g_code
  refine s_aload_n C dX6_code_0 0 rfl rfl ?_
  refine sm_getA 8 C hM fo_X6_40_6 rfl (by decide) dX6_code_1 ?_
  refine s_iconst C (3 : Int32) dX6_code_4 (by decide) ?_
  refine s_aload_n C dX6_code_5 0 rfl rfl ?_
  refine sm_getI 49 C hM fo_X6_437_6 rfl dX6_code_6 ?_
  refine s_imul C dX6_code_9 ?_
  refine s_iload_n C dX6_code_10 1 rfl rfl ?_
  refine sm_iast C hM dX6_code_11 fun M1 => ?_
  refine s_aload_n C dX6_code_12 0 rfl rfl ?_
  refine sm_getA 8 C hM fo_X6_40_6 rfl (by decide) dX6_code_13 ?_
  refine s_iconst C (3 : Int32) dX6_code_16 (by decide) ?_
  refine s_aload_n C dX6_code_17 0 rfl rfl ?_
  refine sm_getI 49 C hM fo_X6_437_6 rfl dX6_code_18 ?_
  refine s_imul C dX6_code_21 ?_
  refine s_iconst C (1 : Int32) dX6_code_22 (by decide) ?_
  refine s_iadd C dX6_code_23 ?_
  refine s_iload_n C dX6_code_24 2 rfl rfl ?_
  refine sm_iast C hM dX6_code_25 fun M2 => ?_
  refine s_aload_n C dX6_code_26 0 rfl rfl ?_
  refine sm_getA 8 C hM fo_X6_40_6 rfl (by decide) dX6_code_27 ?_
  refine s_iconst C (3 : Int32) dX6_code_30 (by decide) ?_
  refine s_aload_n C dX6_code_31 0 rfl rfl ?_
  refine sm_getI 49 C hM fo_X6_437_6 rfl dX6_code_32 ?_
  refine s_imul C dX6_code_35 ?_
  refine s_iconst C (2 : Int32) dX6_code_36 (by decide) ?_
  refine s_iadd C dX6_code_37 ?_
  refine s_iload_n C dX6_code_38 3 rfl rfl ?_
  refine sm_iast C hM dX6_code_39 fun M3 => ?_
  refine s_aload_n C dX6_code_40 0 rfl rfl ?_
  refine s_dup C dX6_code_41 rfl ?_
  refine sm_getI 49 C hM fo_X6_437_6 rfl dX6_code_42 ?_
  refine s_iconst C (1 : Int32) dX6_code_45 (by decide) ?_
  refine s_iadd C dX6_code_46 ?_
  refine sm_putI 49 0 C hM fo_X6_437_6 rfl ⟨by decide, by decide, rfl⟩ rfl rfl dX6_code_47 ?_
  refine s_bdh fun M4 => ?_
  exact s_vret C rfl dX6_code_50

def g_nots_j54  (M2 : Ms) : Option (Unit × Ms) :=
  some ((), M2)
def g_nots_L0  : Unit → Ms → Option (Unit × Ms) :=
  lp FU fun rec0 v0 M1 =>
    if (M1.1 51) ≤ 0 then
      g_nots_j54 M1
    else
      (aI 0 48 ((M1.1 51) - (1 : Int32)) M1).bind fun a3 =>
      if a3 = (20 : Int32) then
        bd (mI 51 ((M1.1 51) - (1 : Int32)) M1) fun M4 =>
        bd (mI 52 ((M4.1 52) - (1 : Int32)) M4) fun M5 =>
        bn (g_code (20 : Int32) (0 : Int32) (0 : Int32) M5) fun _ M6 =>
        rec0 () M6
      else
        g_nots_j54 M1
def g_nots  (M : Ms) : Option (Unit × Ms) :=
  g_nots_L0 () M
theorem nd_X6_nots : yX6_nots.cls = RX6 ∧ yX6_nots.cls ≠ "java/lang/invoke/MethodHandle" ∧ yX6_nots.cls ≠ "java/lang/invoke/VarHandle" ∧ (parseMethodDescriptor yX6_nots.desc).map (fun d => d.parameters.length) = some 0 := ⟨rfl, by decide +kernel, by decide +kernel, by decide +kernel⟩
theorem ct_X6_nots {G : Gx} {RL : Lv} {Pl : Nat → Bool} {l : Launch} (hL : LvA G RL Pl) {h0 : Hp} {mo : Nat} (hM : MP Pl mo) (M : Ms)  : Ct (plug h0 mo) G RL l yX6_nots (ws_ yX6_nots cX6_nots 1 none) 1 23 finV [vr mo] M (g_nots M) := by
  refine Ct.of (Pl := Pl) [(0, vr mo)] (by decide) hL rfl (Nat.le_of_ble_eq_true rfl) ?_
  intro E C hn hf hlo e1 e2 e3 e4 e5
  subst e1; subst e2; subst e3; subst e4
  replace C : Cx E cX6_nots none RX6 := C
  unfold g_nots
  have hL0 : ∀  (v0 : Unit) (M1 : Ms), Sim (plug h0 mo) E (QM (plug h0 mo) E finV) M1 0 [(0, vr mo)] [] (g_nots_L0  v0 M1) := by
    intro v0 M1
    refine Sim.loop (fun v0 => [(0, vr mo)]) (fun _ => []) (fun rec0 hr0 v0 M1 => ?_) FU v0 M1
    refine s_aload_n C dX6_nots_0 0 rfl rfl ?_
    refine sm_getI 51 C hM fo_X6_440_6 rfl dX6_nots_1 ?_
    have hj54 : ∀  (M2 : Ms), Sim (plug h0 mo) E (QM (plug h0 mo) E finV) M2 54 [] [] (g_nots_j54 M2) := by
      intro M2
      exact s_vret C rfl dX6_nots_54
    refine s_if_le C 54 dX6_nots_4 (by decide) ?_ ?_
    · refine Sim.keep [] rfl ?_
      exact hj54 _
    · refine s_aload_n C dX6_nots_7 0 rfl rfl ?_
      refine sm_getA 48 C hM fo_X6_89_6 rfl (by decide) dX6_nots_8 ?_
      refine s_aload_n C dX6_nots_11 0 rfl rfl ?_
      refine sm_getI 51 C hM fo_X6_440_6 rfl dX6_nots_12 ?_
      refine s_iconst C (1 : Int32) dX6_nots_15 (by decide) ?_
      refine s_isub C dX6_nots_16 ?_
      refine sm_iald C hM dX6_nots_17 fun a3 => ?_
      refine s_bipush C (20 : Int32) dX6_nots_18 (by decide) ?_
      refine s_icmp_ne C 54 dX6_nots_20 (by decide) ?_ ?_
      · refine Sim.keep [] rfl ?_
        exact hj54 _
      · refine s_aload_n C dX6_nots_23 0 rfl rfl ?_
        refine s_dup C dX6_nots_24 rfl ?_
        refine sm_getI 51 C hM fo_X6_440_6 rfl dX6_nots_25 ?_
        refine s_iconst C (1 : Int32) dX6_nots_28 (by decide) ?_
        refine s_isub C dX6_nots_29 ?_
        refine sm_putI 51 0 C hM fo_X6_440_6 rfl ⟨by decide, by decide, rfl⟩ rfl rfl dX6_nots_30 ?_
        refine s_bdh fun M4 => ?_
        refine s_aload_n C dX6_nots_33 0 rfl rfl ?_
        refine s_dup C dX6_nots_34 rfl ?_
        refine sm_getI 52 C hM fo_X6_446_6 rfl dX6_nots_35 ?_
        refine s_iconst C (1 : Int32) dX6_nots_38 (by decide) ?_
        refine s_isub C dX6_nots_39 ?_
        refine sm_putI 52 0 C hM fo_X6_446_6 rfl ⟨by decide, by decide, rfl⟩ rfl rfl dX6_nots_40 ?_
        refine s_bdh fun M5 => ?_
        refine s_aload_n C dX6_nots_43 0 rfl rfl ?_
        refine s_bipush C (20 : Int32) dX6_nots_44 (by decide) ?_
        refine s_iconst C (0 : Int32) dX6_nots_46 (by decide) ?_
        refine s_iconst C (0 : Int32) dX6_nots_47 (by decide) ?_
        refine sm_callV C 3 [] (ct_X6_code hL hM M5 (20 : Int32) (0 : Int32) (0 : Int32)) (lw_V q3493 q3495 qs99 q147 q3496) nd_X6_code rfl (le_fr hf rfl) (le_fr hlo rfl) rfl (Nat.le_of_ble_eq_true rfl) dX6_nots_48 fun _ M6 => ?_
        refine s_goto C 0 dX6_nots_51 (by decide) ?_
        exact hr0 _ _
  exact hL0  _ _

def g_isWord_j22 (y0 : Int32) (M1 : Ms) : Option (Int32 × Ms) :=
  if nrw 2 y0 = y0 then some (y0, M1) else none
def g_isWord_j21  (M2 : Ms) : Option (Int32 × Ms) :=
  g_isWord_j22 (0 : Int32) M2
def g_isWord (x1 : Int64) (M : Ms) : Option (Int32 × Ms) :=
  if (M.1 12) = (1 : Int32) then
    if (lg_cmp M.2.1 x1) = 0 then
      g_isWord_j22 (1 : Int32) M
    else
      g_isWord_j21 M
  else
    g_isWord_j21 M
theorem nd_X6_isWord : yX6_isWord.cls = RX6 ∧ yX6_isWord.cls ≠ "java/lang/invoke/MethodHandle" ∧ yX6_isWord.cls ≠ "java/lang/invoke/VarHandle" ∧ (parseMethodDescriptor yX6_isWord.desc).map (fun d => d.parameters.length) = some 1 := ⟨rfl, by decide +kernel, by decide +kernel, by decide +kernel⟩
theorem ct_X6_isWord {G : Gx} {RL : Lv} {Pl : Nat → Bool} {l : Launch} (hL : LvA G RL Pl) {h0 : Hp} {mo : Nat} (hM : MP Pl mo) (M : Ms) (x1 : Int64) : Ct (plug h0 mo) G RL l yX6_isWord (ws_ yX6_isWord cX6_isWord 3 (some .boolean)) 0 0 finI [vr mo, .long x1] M (g_isWord x1 M) := by
  refine Ct.of (Pl := Pl) [(0, vr mo), (1, .long x1)] (by decide) hL rfl (Nat.le_of_ble_eq_true rfl) ?_
  intro E C hn hf hlo e1 e2 e3 e4 e5
  subst e1; subst e2; subst e3; subst e4
  replace C : Cx E cX6_isWord (some .boolean) RX6 := C
  unfold g_isWord
  refine s_aload_n C dX6_isWord_0 0 rfl rfl ?_
  refine sm_getI 12 C hM fo_X6_157_6 rfl dX6_isWord_1 ?_
  refine s_iconst C (1 : Int32) dX6_isWord_4 (by decide) ?_
  have hj22 : ∀ (y0 : Int32) (M1 : Ms), Sim (plug h0 mo) E (QM (plug h0 mo) E finI) M1 22 [] [.int y0] (g_isWord_j22 y0 M1) := by
    intro y0 M1
    exact s_zret 2 C (by decide) (by decide) rfl dX6_isWord_22
  have hj21 : ∀  (M2 : Ms), Sim (plug h0 mo) E (QM (plug h0 mo) E finI) M2 21 [] [] (g_isWord_j21 M2) := by
    intro M2
    refine s_iconst C (0 : Int32) dX6_isWord_21 (by decide) ?_
    exact hj22 _ _
  refine s_icmp_ne C 21 dX6_isWord_5 (by decide) ?_ ?_
  · refine Sim.keep [] rfl ?_
    exact hj21 _
  · refine s_aload_n C dX6_isWord_8 0 rfl rfl ?_
    refine sm_getL C hM fo_X6_170_6 rfl dX6_isWord_9 ?_
    refine s_lload_n C dX6_isWord_12 1 rfl rfl ?_
    refine s_lcmp C dX6_isWord_13 ?_
    refine s_if_ne C 21 dX6_isWord_14 (by decide) ?_ ?_
    · refine Sim.keep [] rfl ?_
      exact hj21 _
    · refine s_iconst C (1 : Int32) dX6_isWord_17 (by decide) ?_
      refine s_goto C 22 dX6_isWord_18 (by decide) ?_
      refine Sim.keep [] rfl ?_
      exact hj22 _ _

def g_joins_j73  (M2 : Ms) : Option (Unit × Ms) :=
  some ((), M2)
def g_joins_j45 (rec0 : Unit → Ms → Option (Unit × Ms)) (x1 : Int32) (M4 : Ms) : Option (Unit × Ms) :=
  bd (mI 51 ((M4.1 51) - (1 : Int32)) M4) fun M5 =>
  (aI 0 48 (M5.1 51) M5).bind fun a6 =>
  bn (g_code a6 (0 : Int32) (0 : Int32) M5) fun _ M7 =>
  rec0 () M7
def g_joins_L0 (x1 : Int32) : Unit → Ms → Option (Unit × Ms) :=
  lp FU fun rec0 v0 M1 =>
    if (M1.1 51) ≤ 0 then
      g_joins_j73 M1
    else
      (aI 0 48 ((M1.1 51) - (1 : Int32)) M1).bind fun a3 =>
      if a3 = (21 : Int32) then
        g_joins_j45 rec0 x1 M1
      else
        (aI 0 48 ((M1.1 51) - (1 : Int32)) M1).bind fun a8 =>
        if a8 = (22 : Int32) then
          if x1 = (22 : Int32) then
            g_joins_j45 rec0 x1 M1
          else
            g_joins_j73 M1
        else
          g_joins_j73 M1
def g_joins (x1 : Int32) (M : Ms) : Option (Unit × Ms) :=
  g_joins_L0 x1 () M
theorem nd_X6_joins : yX6_joins.cls = RX6 ∧ yX6_joins.cls ≠ "java/lang/invoke/MethodHandle" ∧ yX6_joins.cls ≠ "java/lang/invoke/VarHandle" ∧ (parseMethodDescriptor yX6_joins.desc).map (fun d => d.parameters.length) = some 1 := ⟨rfl, by decide +kernel, by decide +kernel, by decide +kernel⟩
theorem ct_X6_joins {G : Gx} {RL : Lv} {Pl : Nat → Bool} {l : Launch} (hL : LvA G RL Pl) {h0 : Hp} {mo : Nat} (hM : MP Pl mo) (M : Ms) (x1 : Int32) : Ct (plug h0 mo) G RL l yX6_joins (ws_ yX6_joins cX6_joins 2 none) 1 23 finV [vr mo, .int x1] M (g_joins x1 M) := by
  refine Ct.of (Pl := Pl) [(0, vr mo), (1, .int x1)] (by decide) hL rfl (Nat.le_of_ble_eq_true rfl) ?_
  intro E C hn hf hlo e1 e2 e3 e4 e5
  subst e1; subst e2; subst e3; subst e4
  replace C : Cx E cX6_joins none RX6 := C
  unfold g_joins
  have hL0 : ∀ (x1 : Int32) (v0 : Unit) (M1 : Ms), Sim (plug h0 mo) E (QM (plug h0 mo) E finV) M1 0 [(0, vr mo), (1, .int x1)] [] (g_joins_L0 x1 v0 M1) := by
    intro x1 v0 M1
    refine Sim.loop (fun v0 => [(0, vr mo), (1, .int x1)]) (fun _ => []) (fun rec0 hr0 v0 M1 => ?_) FU v0 M1
    refine s_aload_n C dX6_joins_0 0 rfl rfl ?_
    refine sm_getI 51 C hM fo_X6_440_6 rfl dX6_joins_1 ?_
    have hj73 : ∀  (M2 : Ms), Sim (plug h0 mo) E (QM (plug h0 mo) E finV) M2 73 [] [] (g_joins_j73 M2) := by
      intro M2
      exact s_vret C rfl dX6_joins_73
    refine s_if_le C 73 dX6_joins_4 (by decide) ?_ ?_
    · refine Sim.keep [] rfl ?_
      exact hj73 _
    · refine s_aload_n C dX6_joins_7 0 rfl rfl ?_
      refine sm_getA 48 C hM fo_X6_89_6 rfl (by decide) dX6_joins_8 ?_
      refine s_aload_n C dX6_joins_11 0 rfl rfl ?_
      refine sm_getI 51 C hM fo_X6_440_6 rfl dX6_joins_12 ?_
      refine s_iconst C (1 : Int32) dX6_joins_15 (by decide) ?_
      refine s_isub C dX6_joins_16 ?_
      refine sm_iald C hM dX6_joins_17 fun a3 => ?_
      refine s_bipush C (21 : Int32) dX6_joins_18 (by decide) ?_
      have hj45 : ∀  (M4 : Ms), Sim (plug h0 mo) E (QM (plug h0 mo) E finV) M4 45 [(0, vr mo), (1, .int x1)] [] (g_joins_j45 rec0 x1 M4) := by
        intro M4
        refine s_aload_n C dX6_joins_45 0 rfl rfl ?_
        refine s_dup C dX6_joins_46 rfl ?_
        refine sm_getI 51 C hM fo_X6_440_6 rfl dX6_joins_47 ?_
        refine s_iconst C (1 : Int32) dX6_joins_50 (by decide) ?_
        refine s_isub C dX6_joins_51 ?_
        refine sm_putI 51 0 C hM fo_X6_440_6 rfl ⟨by decide, by decide, rfl⟩ rfl rfl dX6_joins_52 ?_
        refine s_bdh fun M5 => ?_
        refine s_aload_n C dX6_joins_55 0 rfl rfl ?_
        refine s_aload_n C dX6_joins_56 0 rfl rfl ?_
        refine sm_getA 48 C hM fo_X6_89_6 rfl (by decide) dX6_joins_57 ?_
        refine s_aload_n C dX6_joins_60 0 rfl rfl ?_
        refine sm_getI 51 C hM fo_X6_440_6 rfl dX6_joins_61 ?_
        refine sm_iald C hM dX6_joins_64 fun a6 => ?_
        refine s_iconst C (0 : Int32) dX6_joins_65 (by decide) ?_
        refine s_iconst C (0 : Int32) dX6_joins_66 (by decide) ?_
        refine sm_callV C 3 [] (ct_X6_code hL hM M5 a6 (0 : Int32) (0 : Int32)) (lw_V q3493 q3495 qs99 q147 q3496) nd_X6_code rfl (le_fr hf rfl) (le_fr hlo rfl) rfl (Nat.le_of_ble_eq_true rfl) dX6_joins_67 fun _ M7 => ?_
        refine s_goto C 0 dX6_joins_70 (by decide) ?_
        exact hr0 _ _
      refine s_icmp_eq C 45 dX6_joins_20 (by decide) ?_ ?_
      · exact hj45 _
      · refine s_aload_n C dX6_joins_23 0 rfl rfl ?_
        refine sm_getA 48 C hM fo_X6_89_6 rfl (by decide) dX6_joins_24 ?_
        refine s_aload_n C dX6_joins_27 0 rfl rfl ?_
        refine sm_getI 51 C hM fo_X6_440_6 rfl dX6_joins_28 ?_
        refine s_iconst C (1 : Int32) dX6_joins_31 (by decide) ?_
        refine s_isub C dX6_joins_32 ?_
        refine sm_iald C hM dX6_joins_33 fun a8 => ?_
        refine s_bipush C (22 : Int32) dX6_joins_34 (by decide) ?_
        refine s_icmp_ne C 73 dX6_joins_36 (by decide) ?_ ?_
        · refine Sim.keep [] rfl ?_
          exact hj73 _
        · refine s_iload_n C dX6_joins_39 1 rfl rfl ?_
          refine s_bipush C (22 : Int32) dX6_joins_40 (by decide) ?_
          refine s_icmp_ne C 73 dX6_joins_42 (by decide) ?_ ?_
          · refine Sim.keep [] rfl ?_
            exact hj73 _
          · exact hj45 _
  exact hL0 _ _ _

def g_peek_j28 (y0 : Int32) (M1 : Ms) : Option (Int32 × Ms) :=
  some (y0, M1)
def g_peek  (M : Ms) : Option (Int32 × Ms) :=
  if (M.1 3) ≤ (M.1 4) then
    g_peek_j28 (-1 : Int32) M
  else
    (aI 1 1 (M.1 4) M).bind fun a2 =>
    g_peek_j28 (a2 &&& (255 : Int32)) M
theorem nd_X6_peek : yX6_peek.cls = RX6 ∧ yX6_peek.cls ≠ "java/lang/invoke/MethodHandle" ∧ yX6_peek.cls ≠ "java/lang/invoke/VarHandle" ∧ (parseMethodDescriptor yX6_peek.desc).map (fun d => d.parameters.length) = some 0 := ⟨rfl, by decide +kernel, by decide +kernel, by decide +kernel⟩
theorem ct_X6_peek {G : Gx} {RL : Lv} {Pl : Nat → Bool} {l : Launch} (hL : LvA G RL Pl) {h0 : Hp} {mo : Nat} (hM : MP Pl mo) (M : Ms)  : Ct (plug h0 mo) G RL l yX6_peek (ws_ yX6_peek cX6_peek 1 (some .int)) 0 0 finI [vr mo] M (g_peek M) := by
  refine Ct.of (Pl := Pl) [(0, vr mo)] (by decide) hL rfl (Nat.le_of_ble_eq_true rfl) ?_
  intro E C hn hf hlo e1 e2 e3 e4 e5
  subst e1; subst e2; subst e3; subst e4
  replace C : Cx E cX6_peek (some .int) RX6 := C
  unfold g_peek
  refine s_aload_n C dX6_peek_0 0 rfl rfl ?_
  refine sm_getI 4 C hM fo_X6_21_6 rfl dX6_peek_1 ?_
  refine s_aload_n C dX6_peek_4 0 rfl rfl ?_
  refine sm_getI 3 C hM fo_X6_18_6 rfl dX6_peek_5 ?_
  have hj28 : ∀ (y0 : Int32) (M1 : Ms), Sim (plug h0 mo) E (QM (plug h0 mo) E finI) M1 28 [] [.int y0] (g_peek_j28 y0 M1) := by
    intro y0 M1
    exact s_iret C rfl dX6_peek_28
  refine s_icmp_ge C 27 dX6_peek_8 (by decide) ?_ ?_
  · refine s_iconst C (-1 : Int32) dX6_peek_27 (by decide) ?_
    refine Sim.keep [] rfl ?_
    exact hj28 _ _
  · refine s_aload_n C dX6_peek_11 0 rfl rfl ?_
    refine sm_getA 1 C hM fo_X6_14_6 rfl (by decide) dX6_peek_12 ?_
    refine s_aload_n C dX6_peek_15 0 rfl rfl ?_
    refine sm_getI 4 C hM fo_X6_21_6 rfl dX6_peek_16 ?_
    refine sm_bald C hM dX6_peek_19 fun a2 => ?_
    refine s_sipush C (255 : Int32) dX6_peek_20 (by decide) ?_
    refine s_iand C dX6_peek_23 ?_
    refine s_goto C 28 dX6_peek_24 (by decide) ?_
    refine Sim.keep [] rfl ?_
    exact hj28 _ _

def g_isSmall_j17 (y0 : Int32) (M1 : Ms) : Option (Int32 × Ms) :=
  if nrw 2 y0 = y0 then some (y0, M1) else none
def g_isSmall_j16  (M2 : Ms) : Option (Int32 × Ms) :=
  g_isSmall_j17 (0 : Int32) M2
def g_isSmall (x0 : Int32) (M : Ms) : Option (Int32 × Ms) :=
  if x0 < (97 : Int32) then
    g_isSmall_j16 M
  else
    if (122 : Int32) < x0 then
      g_isSmall_j16 M
    else
      g_isSmall_j17 (1 : Int32) M
theorem nd_X6_isSmall : yX6_isSmall.cls = RX6 ∧ yX6_isSmall.cls ≠ "java/lang/invoke/MethodHandle" ∧ yX6_isSmall.cls ≠ "java/lang/invoke/VarHandle" ∧ (parseMethodDescriptor yX6_isSmall.desc).map (fun d => d.parameters.length) = some 1 := ⟨rfl, by decide +kernel, by decide +kernel, by decide +kernel⟩
theorem ct_X6_isSmall {G : Gx} {RL : Lv} {Pl : Nat → Bool} {l : Launch} (hL : LvA G RL Pl) {h0 : Hp} {mo : Nat} (hM : MP Pl mo) (M : Ms) (x0 : Int32) : Ct (plug h0 mo) G RL l yX6_isSmall (ws_ yX6_isSmall cX6_isSmall 1 (some .boolean)) 0 0 finI [.int x0] M (g_isSmall x0 M) := by
  refine Ct.of (Pl := Pl) [(0, .int x0)] (by decide) hL rfl (Nat.le_of_ble_eq_true rfl) ?_
  intro E C hn hf hlo e1 e2 e3 e4 e5
  subst e1; subst e2; subst e3; subst e4
  replace C : Cx E cX6_isSmall (some .boolean) RX6 := C
  unfold g_isSmall
  refine s_iload_n C dX6_isSmall_0 0 rfl rfl ?_
  refine s_bipush C (97 : Int32) dX6_isSmall_1 (by decide) ?_
  have hj17 : ∀ (y0 : Int32) (M1 : Ms), Sim (plug h0 mo) E (QM (plug h0 mo) E finI) M1 17 [] [.int y0] (g_isSmall_j17 y0 M1) := by
    intro y0 M1
    exact s_zret 2 C (by decide) (by decide) rfl dX6_isSmall_17
  have hj16 : ∀  (M2 : Ms), Sim (plug h0 mo) E (QM (plug h0 mo) E finI) M2 16 [] [] (g_isSmall_j16 M2) := by
    intro M2
    refine s_iconst C (0 : Int32) dX6_isSmall_16 (by decide) ?_
    exact hj17 _ _
  refine s_icmp_lt C 16 dX6_isSmall_3 (by decide) ?_ ?_
  · refine Sim.keep [] rfl ?_
    exact hj16 _
  · refine s_iload_n C dX6_isSmall_6 0 rfl rfl ?_
    refine s_bipush C (122 : Int32) dX6_isSmall_7 (by decide) ?_
    refine s_icmp_gt C 16 dX6_isSmall_9 (by decide) ?_ ?_
    · refine Sim.keep [] rfl ?_
      exact hj16 _
    · refine s_iconst C (1 : Int32) dX6_isSmall_12 (by decide) ?_
      refine s_goto C 17 dX6_isSmall_13 (by decide) ?_
      refine Sim.keep [] rfl ?_
      exact hj17 _ _

def g_isDigit_j17 (y0 : Int32) (M1 : Ms) : Option (Int32 × Ms) :=
  if nrw 2 y0 = y0 then some (y0, M1) else none
def g_isDigit_j16  (M2 : Ms) : Option (Int32 × Ms) :=
  g_isDigit_j17 (0 : Int32) M2
def g_isDigit (x0 : Int32) (M : Ms) : Option (Int32 × Ms) :=
  if x0 < (48 : Int32) then
    g_isDigit_j16 M
  else
    if (57 : Int32) < x0 then
      g_isDigit_j16 M
    else
      g_isDigit_j17 (1 : Int32) M
theorem nd_X6_isDigit : yX6_isDigit.cls = RX6 ∧ yX6_isDigit.cls ≠ "java/lang/invoke/MethodHandle" ∧ yX6_isDigit.cls ≠ "java/lang/invoke/VarHandle" ∧ (parseMethodDescriptor yX6_isDigit.desc).map (fun d => d.parameters.length) = some 1 := ⟨rfl, by decide +kernel, by decide +kernel, by decide +kernel⟩
theorem ct_X6_isDigit {G : Gx} {RL : Lv} {Pl : Nat → Bool} {l : Launch} (hL : LvA G RL Pl) {h0 : Hp} {mo : Nat} (hM : MP Pl mo) (M : Ms) (x0 : Int32) : Ct (plug h0 mo) G RL l yX6_isDigit (ws_ yX6_isDigit cX6_isDigit 1 (some .boolean)) 0 0 finI [.int x0] M (g_isDigit x0 M) := by
  refine Ct.of (Pl := Pl) [(0, .int x0)] (by decide) hL rfl (Nat.le_of_ble_eq_true rfl) ?_
  intro E C hn hf hlo e1 e2 e3 e4 e5
  subst e1; subst e2; subst e3; subst e4
  replace C : Cx E cX6_isDigit (some .boolean) RX6 := C
  unfold g_isDigit
  refine s_iload_n C dX6_isDigit_0 0 rfl rfl ?_
  refine s_bipush C (48 : Int32) dX6_isDigit_1 (by decide) ?_
  have hj17 : ∀ (y0 : Int32) (M1 : Ms), Sim (plug h0 mo) E (QM (plug h0 mo) E finI) M1 17 [] [.int y0] (g_isDigit_j17 y0 M1) := by
    intro y0 M1
    exact s_zret 2 C (by decide) (by decide) rfl dX6_isDigit_17
  have hj16 : ∀  (M2 : Ms), Sim (plug h0 mo) E (QM (plug h0 mo) E finI) M2 16 [] [] (g_isDigit_j16 M2) := by
    intro M2
    refine s_iconst C (0 : Int32) dX6_isDigit_16 (by decide) ?_
    exact hj17 _ _
  refine s_icmp_lt C 16 dX6_isDigit_3 (by decide) ?_ ?_
  · refine Sim.keep [] rfl ?_
    exact hj16 _
  · refine s_iload_n C dX6_isDigit_6 0 rfl rfl ?_
    refine s_bipush C (57 : Int32) dX6_isDigit_7 (by decide) ?_
    refine s_icmp_gt C 16 dX6_isDigit_9 (by decide) ?_ ?_
    · refine Sim.keep [] rfl ?_
      exact hj16 _
    · refine s_iconst C (1 : Int32) dX6_isDigit_12 (by decide) ?_
      refine s_goto C 17 dX6_isDigit_13 (by decide) ?_
      refine Sim.keep [] rfl ?_
      exact hj17 _ _

def g_next_j18 (rec0 : Unit → Ms → Option (Unit × Ms)) (M4 : Ms) : Option (Unit × Ms) :=
  bd (mI 4 ((M4.1 4) + (1 : Int32)) M4) fun M5 =>
  rec0 () M5
def g_next_j275 (rec181 : Int32 → Ms → Option (Unit × Ms)) (x2 : Int32) (x3 : Int32) (M27 : Ms) : Option (Unit × Ms) :=
  bd (mI 14 ((M27.1 14) + (1 : Int32)) M27) fun M28 =>
  bd (mI 4 ((M28.1 4) + (1 : Int32)) M28) fun M29 =>
  rec181 x3 M29
def g_next_j248 (rec181 : Int32 → Ms → Option (Unit × Ms)) (x2 : Int32) (x3 : Int32) (M26 : Ms) : Option (Unit × Ms) :=
  if (3 : Int32) ≤ (M26.1 14) then
    g_next_j275 rec181 x2 x3 M26
  else
    bn (g_peek  M26) fun r31 M30 =>
    bd (mI 15 ((((10 : Int32) * (M26.1 15)) + r31) - (48 : Int32)) M30) fun M32 =>
    g_next_j275 rec181 x2 x3 M32
def g_next_j221 (rec181 : Int32 → Ms → Option (Unit × Ms)) (x2 : Int32) (y0 : Int32) (M25 : Ms) : Option (Unit × Ms) :=
  if (7 : Int32) ≤ (M25.1 14) then
    g_next_j248 rec181 x2 y0 M25
  else
    bn (g_peek  M25) fun r34 M33 =>
    bd (mW ((M25.2.1 <<< (8 : Int64)) ||| r34.toInt64) M33) fun M35 =>
    g_next_j248 rec181 x2 y0 M35
def g_next_j220 (rec181 : Int32 → Ms → Option (Unit × Ms)) (x2 : Int32) (M36 : Ms) : Option (Unit × Ms) :=
  g_next_j221 rec181 x2 (0 : Int32) M36
def g_next_j201 (rec181 : Int32 → Ms → Option (Unit × Ms)) (x2 : Int32) (x3 : Int32) (M24 : Ms) : Option (Unit × Ms) :=
  if x3 = 0 then
    g_next_j220 rec181 x2 M24
  else
    bn (g_peek  M24) fun r38 M37 =>
    bn (g_isSmall r38 M37) fun r40 M39 =>
    if r40 = x2 then
      g_next_j221 rec181 x2 (1 : Int32) M39
    else
      g_next_j220 rec181 x2 M39
def g_next_j333 (y1 : Int32) (M45 : Ms) : Option (Unit × Ms) :=
  bd (mI 12 y1 M45) fun M46 =>
  some ((), M46)
def g_next_j320  (M47 : Ms) : Option (Unit × Ms) :=
  g_next_j333 (4 : Int32) M47
def g_next_j317 (x2 : Int32) (y1 : Int32) (y2 : Int32) (M48 : Ms) : Option (Unit × Ms) :=
  if y1 ≤ y2 then
    if x2 = 0 then
      g_next_j333 (2 : Int32) M48
    else
      g_next_j333 (1 : Int32) M48
  else
    g_next_j320 M48
def g_next_L181 (x2 : Int32) : Int32 → Ms → Option (Unit × Ms) :=
  lp FU fun rec181 v181 M19 =>
    bn (g_peek  M19) fun r21 M20 =>
    bn (g_isSmall r21 M20) fun r23 M22 =>
    if r23 = 0 then
      bn (g_peek  M22) fun r42 M41 =>
      bn (g_isDigit r42 M41) fun r44 M43 =>
      if r44 = 0 then
        if v181 = 0 then
          g_next_j320 M43
        else
          if x2 = 0 then
            g_next_j317 x2 (M43.1 14) (3 : Int32) M43
          else
            g_next_j317 x2 (M43.1 14) (7 : Int32) M43
      else
        g_next_j201 rec181 x2 v181 M43
    else
      g_next_j201 rec181 x2 v181 M22
def g_next_j164 (x1 : Int32) (M15 : Ms) : Option (Unit × Ms) :=
  bn (g_isSmall x1 M15) fun r17 M16 =>
  bd (mW (0 : Int64) M16) fun M18 =>
  bd (mI 15 (0 : Int32) M18) fun M49 =>
  g_next_L181 r17 (1 : Int32) M49
def g_next_j145 (x1 : Int32) (y1 : Int32) (M52 : Ms) : Option (Unit × Ms) :=
  bd (mI 12 y1 M52) fun M53 =>
  bd (mI 15 x1 M53) fun M54 =>
  bd (mI 4 ((M54.1 4) + (1 : Int32)) M54) fun M55 =>
  some ((), M55)
def g_next_j140 (x1 : Int32) (M56 : Ms) : Option (Unit × Ms) :=
  g_next_j145 x1 (3 : Int32) M56
def g_next_j144 (x1 : Int32) (M57 : Ms) : Option (Unit × Ms) :=
  g_next_j145 x1 (4 : Int32) M57
def g_next_j80  (M10 : Ms) : Option (Unit × Ms) :=
  bn (g_peek  M10) fun r12 M11 =>
  if 0 ≤ r12 then
    bn (g_isSmall r12 M11) fun r14 M13 =>
    if r14 = 0 then
      bn (g_isDigit r12 M13) fun r51 M50 =>
      if r51 = 0 then
        if r12 = (59 : Int32) then
          g_next_j140 r12 M50
        else
          if r12 = (40 : Int32) then
            g_next_j140 r12 M50
          else
            if r12 = (41 : Int32) then
              g_next_j140 r12 M50
            else
              if r12 < (60 : Int32) then
                g_next_j144 r12 M50
              else
                if (62 : Int32) < r12 then
                  g_next_j144 r12 M50
                else
                  g_next_j140 r12 M50
      else
        g_next_j164 r12 M50
    else
      g_next_j164 r12 M13
  else
    bd (mI 12 (0 : Int32) M11) fun M58 =>
    some ((), M58)
def g_next_L0  : Unit → Ms → Option (Unit × Ms) :=
  lp FU fun rec0 v0 M1 =>
    bn (g_peek  M1) fun r3 M2 =>
    if r3 = (32 : Int32) then
      g_next_j18 rec0 M2
    else
      bn (g_peek  M2) fun r7 M6 =>
      if r7 = (10 : Int32) then
        g_next_j18 rec0 M6
      else
        bd (mI 13 (M6.1 4) M6) fun M8 =>
        bd (mI 14 (0 : Int32) M8) fun M9 =>
        if (M9.1 3) ≤ (M9.1 5) then
          g_next_j80 M9
        else
          if (M9.1 4) < (M9.1 5) then
            g_next_j80 M9
          else
            bd (mI 13 (M9.1 5) M9) fun M59 =>
            bd (mI 12 (4 : Int32) M59) fun M60 =>
            some ((), M60)
def g_next  (M : Ms) : Option (Unit × Ms) :=
  g_next_L0 () M
theorem nd_X6_next : yX6_next.cls = RX6 ∧ yX6_next.cls ≠ "java/lang/invoke/MethodHandle" ∧ yX6_next.cls ≠ "java/lang/invoke/VarHandle" ∧ (parseMethodDescriptor yX6_next.desc).map (fun d => d.parameters.length) = some 0 := ⟨rfl, by decide +kernel, by decide +kernel, by decide +kernel⟩
theorem ct_X6_next {G : Gx} {RL : Lv} {Pl : Nat → Bool} {l : Launch} (hL : LvA G RL Pl) {h0 : Hp} {mo : Nat} (hM : MP Pl mo) (M : Ms)  : Ct (plug h0 mo) G RL l yX6_next (ws_ yX6_next cX6_next 4 none) 1 20 finV [vr mo] M (g_next M) := by
  refine Ct.of (Pl := Pl) [(0, vr mo)] (by decide) hL rfl (Nat.le_of_ble_eq_true rfl) ?_
  intro E C hn hf hlo e1 e2 e3 e4 e5
  subst e1; subst e2; subst e3; subst e4
  replace C : Cx E cX6_next none RX6 := C
  unfold g_next
  have hL0 : ∀  (v0 : Unit) (M1 : Ms), Sim (plug h0 mo) E (QM (plug h0 mo) E finV) M1 0 [(0, vr mo)] [] (g_next_L0  v0 M1) := by
    intro v0 M1
    refine Sim.loop (fun v0 => [(0, vr mo)]) (fun _ => []) (fun rec0 hr0 v0 M1 => ?_) FU v0 M1
    refine s_aload_n C dX6_next_0 0 rfl rfl ?_
    refine sm_callI C 0 [] (ct_X6_peek hL hM M1 ) (lw_V q3120 q3122 qs43 q147 q3123) nd_X6_peek rfl (le_fr hf rfl) (le_fr hlo rfl) rfl (Nat.le_of_ble_eq_true rfl) dX6_next_1 fun r3 M2 => ?_
    refine s_bipush C (32 : Int32) dX6_next_4 (by decide) ?_
    have hj18 : ∀  (M4 : Ms), Sim (plug h0 mo) E (QM (plug h0 mo) E finV) M4 18 [(0, vr mo)] [] (g_next_j18 rec0 M4) := by
      intro M4
      refine s_aload_n C dX6_next_18 0 rfl rfl ?_
      refine s_dup C dX6_next_19 rfl ?_
      refine sm_getI 4 C hM fo_X6_21_6 rfl dX6_next_20 ?_
      refine s_iconst C (1 : Int32) dX6_next_23 (by decide) ?_
      refine s_iadd C dX6_next_24 ?_
      refine sm_putI 4 0 C hM fo_X6_21_6 rfl ⟨by decide, by decide, rfl⟩ rfl rfl dX6_next_25 ?_
      refine s_bdh fun M5 => ?_
      refine s_goto C 0 dX6_next_28 (by decide) ?_
      exact hr0 _ _
    refine s_icmp_eq C 18 dX6_next_6 (by decide) ?_ ?_
    · exact hj18 _
    · refine s_aload_n C dX6_next_9 0 rfl rfl ?_
      refine sm_callI C 0 [] (ct_X6_peek hL hM M2 ) (lw_V q3120 q3122 qs43 q147 q3123) nd_X6_peek rfl (le_fr hf rfl) (le_fr hlo rfl) rfl (Nat.le_of_ble_eq_true rfl) dX6_next_10 fun r7 M6 => ?_
      refine s_bipush C (10 : Int32) dX6_next_13 (by decide) ?_
      refine s_icmp_ne C 31 dX6_next_15 (by decide) ?_ ?_
      · refine s_aload_n C dX6_next_31 0 rfl rfl ?_
        refine s_aload_n C dX6_next_32 0 rfl rfl ?_
        refine sm_getI 4 C hM fo_X6_21_6 rfl dX6_next_33 ?_
        refine sm_putI 13 0 C hM fo_X6_151_6 rfl ⟨by decide, by decide, rfl⟩ rfl rfl dX6_next_36 ?_
        refine s_bdh fun M8 => ?_
        refine s_aload_n C dX6_next_39 0 rfl rfl ?_
        refine s_iconst C (0 : Int32) dX6_next_40 (by decide) ?_
        refine sm_putI 14 0 C hM fo_X6_154_6 rfl ⟨by decide, by decide, rfl⟩ rfl rfl dX6_next_41 ?_
        refine s_bdh fun M9 => ?_
        refine s_aload_n C dX6_next_44 0 rfl rfl ?_
        refine sm_getI 3 C hM fo_X6_18_6 rfl dX6_next_45 ?_
        refine s_aload_n C dX6_next_48 0 rfl rfl ?_
        refine sm_getI 5 C hM fo_X6_24_6 rfl dX6_next_49 ?_
        have hj80 : ∀  (M10 : Ms), Sim (plug h0 mo) E (QM (plug h0 mo) E finV) M10 80 [(0, vr mo)] [] (g_next_j80 M10) := by
          intro M10
          refine s_aload_n C dX6_next_80 0 rfl rfl ?_
          refine sm_callI C 0 [] (ct_X6_peek hL hM M10 ) (lw_V q3120 q3122 qs43 q147 q3123) nd_X6_peek rfl (le_fr hf rfl) (le_fr hlo rfl) rfl (Nat.le_of_ble_eq_true rfl) dX6_next_81 fun r12 M11 => ?_
          refine s_istore_n (la' := [(1, .int r12), (0, vr mo)]) C 1 dX6_next_84 rfl (lt_nl e5 rfl) rfl ?_
          refine s_iload_n C dX6_next_85 0 rfl rfl ?_
          refine s_if_ge C 95 dX6_next_86 (by decide) ?_ ?_
          · refine s_iload_n C dX6_next_95 0 rfl rfl ?_
            refine sm_callSI C 1 [] (ct_X6_isSmall hL hM M11 r12) (lw_S q3124 q3125 q147 q3126) nd_X6_isSmall rfl (le_fr hf rfl) (le_fr hlo rfl) rfl (Nat.le_of_ble_eq_true rfl) dX6_next_96 fun r14 M13 => ?_
            have hj164 : ∀ (x1 : Int32) (M15 : Ms), Sim (plug h0 mo) E (QM (plug h0 mo) E finV) M15 164 [(0, vr mo), (1, .int x1)] [] (g_next_j164 x1 M15) := by
              intro x1 M15
              refine s_iload_n C dX6_next_164 1 rfl rfl ?_
              refine sm_callSI C 1 [] (ct_X6_isSmall hL hM M15 x1) (lw_S q3124 q3125 q147 q3126) nd_X6_isSmall rfl (le_fr hf rfl) (le_fr hlo rfl) rfl (Nat.le_of_ble_eq_true rfl) dX6_next_165 fun r17 M16 => ?_
              refine s_istore_n (la' := [(2, .int r17), (0, vr mo), (1, .int x1)]) C 2 dX6_next_168 rfl (lt_nl e5 rfl) rfl ?_
              refine s_iconst C (1 : Int32) dX6_next_169 (by decide) ?_
              refine s_istore_n (la' := [(3, .int (1 : Int32)), (2, .int r17), (0, vr mo), (1, .int x1)]) C 3 dX6_next_170 rfl (lt_nl e5 rfl) rfl ?_
              refine s_aload_n C dX6_next_171 2 rfl rfl ?_
              refine s_lconst C (0 : Int64) dX6_next_172 (by decide) ?_
              refine sm_putL C hM fo_X6_170_6 rfl rfl rfl dX6_next_173 ?_
              refine s_bdh fun M18 => ?_
              refine s_aload_n C dX6_next_176 2 rfl rfl ?_
              refine s_iconst C (0 : Int32) dX6_next_177 (by decide) ?_
              have hL181 : ∀ (x2 : Int32) (v181 : Int32) (M19 : Ms), Sim (plug h0 mo) E (QM (plug h0 mo) E finV) M19 181 [(0, vr mo), (2, .int x2), (3, .int v181)] [] (g_next_L181 x2 v181 M19) := by
                intro x2 v181 M19
                refine Sim.loop (fun v181 => [(0, vr mo), (2, .int x2), (3, .int v181)]) (fun _ => []) (fun rec181 hr181 v181 M19 => ?_) FU v181 M19
                refine s_aload_n C dX6_next_181 0 rfl rfl ?_
                refine sm_callI C 0 [] (ct_X6_peek hL hM M19 ) (lw_V q3120 q3122 qs43 q147 q3123) nd_X6_peek rfl (le_fr hf rfl) (le_fr hlo rfl) rfl (Nat.le_of_ble_eq_true rfl) dX6_next_182 fun r21 M20 => ?_
                refine sm_callSI C 1 [] (ct_X6_isSmall hL hM M20 r21) (lw_S q3124 q3125 q147 q3126) nd_X6_isSmall rfl (le_fr hf rfl) (le_fr hlo rfl) rfl (Nat.le_of_ble_eq_true rfl) dX6_next_185 fun r23 M22 => ?_
                have hj201 : ∀ (x3 : Int32) (M24 : Ms), Sim (plug h0 mo) E (QM (plug h0 mo) E finV) M24 201 [(0, vr mo), (2, .int x2), (3, .int x3)] [] (g_next_j201 rec181 x2 x3 M24) := by
                  intro x3 M24
                  refine s_iload_n C dX6_next_201 2 rfl rfl ?_
                  have hj221 : ∀ (y0 : Int32) (M25 : Ms), Sim (plug h0 mo) E (QM (plug h0 mo) E finV) M25 221 [(0, vr mo), (2, .int x2)] [.int y0] (g_next_j221 rec181 x2 y0 M25) := by
                    intro y0 M25
                    refine s_istore_n (la' := [(3, .int y0), (0, vr mo), (2, .int x2)]) C 3 dX6_next_221 rfl (lt_nl e5 rfl) rfl ?_
                    refine s_aload_n C dX6_next_222 1 rfl rfl ?_
                    refine sm_getI 14 C hM fo_X6_154_6 rfl dX6_next_223 ?_
                    refine s_bipush C (7 : Int32) dX6_next_226 (by decide) ?_
                    have hj248 : ∀ (x3 : Int32) (M26 : Ms), Sim (plug h0 mo) E (QM (plug h0 mo) E finV) M26 248 [(0, vr mo), (2, .int x2), (3, .int x3)] [] (g_next_j248 rec181 x2 x3 M26) := by
                      intro x3 M26
                      refine s_aload_n C dX6_next_248 0 rfl rfl ?_
                      refine sm_getI 14 C hM fo_X6_154_6 rfl dX6_next_249 ?_
                      refine s_iconst C (3 : Int32) dX6_next_252 (by decide) ?_
                      have hj275 : ∀ (x3 : Int32) (M27 : Ms), Sim (plug h0 mo) E (QM (plug h0 mo) E finV) M27 275 [(0, vr mo), (2, .int x2), (3, .int x3)] [] (g_next_j275 rec181 x2 x3 M27) := by
                        intro x3 M27
                        refine s_aload_n C dX6_next_275 0 rfl rfl ?_
                        refine s_dup C dX6_next_276 rfl ?_
                        refine sm_getI 14 C hM fo_X6_154_6 rfl dX6_next_277 ?_
                        refine s_iconst C (1 : Int32) dX6_next_280 (by decide) ?_
                        refine s_iadd C dX6_next_281 ?_
                        refine sm_putI 14 0 C hM fo_X6_154_6 rfl ⟨by decide, by decide, rfl⟩ rfl rfl dX6_next_282 ?_
                        refine s_bdh fun M28 => ?_
                        refine s_aload_n C dX6_next_285 0 rfl rfl ?_
                        refine s_dup C dX6_next_286 rfl ?_
                        refine sm_getI 4 C hM fo_X6_21_6 rfl dX6_next_287 ?_
                        refine s_iconst C (1 : Int32) dX6_next_290 (by decide) ?_
                        refine s_iadd C dX6_next_291 ?_
                        refine sm_putI 4 0 C hM fo_X6_21_6 rfl ⟨by decide, by decide, rfl⟩ rfl rfl dX6_next_292 ?_
                        refine s_bdh fun M29 => ?_
                        refine s_goto C 181 dX6_next_295 (by decide) ?_
                        exact hr181 _ _
                      refine s_icmp_ge C 275 dX6_next_253 (by decide) ?_ ?_
                      · exact hj275 _ _
                      · refine s_aload_n C dX6_next_256 0 rfl rfl ?_
                        refine s_bipush C (10 : Int32) dX6_next_257 (by decide) ?_
                        refine s_aload_n C dX6_next_259 0 rfl rfl ?_
                        refine sm_getI 15 C hM fo_X6_167_6 rfl dX6_next_260 ?_
                        refine s_imul C dX6_next_263 ?_
                        refine s_aload_n C dX6_next_264 0 rfl rfl ?_
                        refine sm_callI C 0 [.int ((10 : Int32) * (M26.1 15)), vr mo] (ct_X6_peek hL hM M26 ) (lw_V q3120 q3122 qs43 q147 q3123) nd_X6_peek rfl (le_fr hf rfl) (le_fr hlo rfl) rfl (Nat.le_of_ble_eq_true rfl) dX6_next_265 fun r31 M30 => ?_
                        refine s_iadd C dX6_next_268 ?_
                        refine s_bipush C (48 : Int32) dX6_next_269 (by decide) ?_
                        refine s_isub C dX6_next_271 ?_
                        refine sm_putI 15 0 C hM fo_X6_167_6 rfl ⟨by decide, by decide, rfl⟩ rfl rfl dX6_next_272 ?_
                        refine s_bdh fun M32 => ?_
                        exact hj275 _ _
                    refine s_icmp_ge C 248 dX6_next_228 (by decide) ?_ ?_
                    · refine Sim.keep [1, 2, 0] rfl ?_
                      exact hj248 _ _
                    · refine s_aload_n C dX6_next_231 1 rfl rfl ?_
                      refine s_aload_n C dX6_next_232 1 rfl rfl ?_
                      refine sm_getL C hM fo_X6_170_6 rfl dX6_next_233 ?_
                      refine s_bipush C (8 : Int32) dX6_next_236 (by decide) ?_
                      refine s_lshl C (8 : Int64) dX6_next_238 (by decide) ?_
                      refine s_aload_n C dX6_next_239 1 rfl rfl ?_
                      refine sm_callI C 0 [.long (M25.2.1 <<< (8 : Int64)), vr mo] (ct_X6_peek hL hM M25 ) (lw_V q3120 q3122 qs43 q147 q3123) nd_X6_peek rfl (le_fr hf rfl) (le_fr hlo rfl) rfl (Nat.le_of_ble_eq_true rfl) dX6_next_240 fun r34 M33 => ?_
                      refine s_i2l C dX6_next_243 ?_
                      refine s_lor C dX6_next_244 ?_
                      refine sm_putL C hM fo_X6_170_6 rfl rfl rfl dX6_next_245 ?_
                      refine s_bdh fun M35 => ?_
                      refine Sim.keep [1, 2, 0] rfl ?_
                      exact hj248 _ _
                  have hj220 : ∀  (M36 : Ms), Sim (plug h0 mo) E (QM (plug h0 mo) E finV) M36 220 [(0, vr mo), (2, .int x2)] [] (g_next_j220 rec181 x2 M36) := by
                    intro M36
                    refine s_iconst C (0 : Int32) dX6_next_220 (by decide) ?_
                    exact hj221 _ _
                  refine s_if_eq C 220 dX6_next_202 (by decide) ?_ ?_
                  · refine Sim.keep [0, 1] rfl ?_
                    exact hj220 _
                  · refine s_aload_n C dX6_next_205 0 rfl rfl ?_
                    refine sm_callI C 0 [] (ct_X6_peek hL hM M24 ) (lw_V q3120 q3122 qs43 q147 q3123) nd_X6_peek rfl (le_fr hf rfl) (le_fr hlo rfl) rfl (Nat.le_of_ble_eq_true rfl) dX6_next_206 fun r38 M37 => ?_
                    refine sm_callSI C 1 [] (ct_X6_isSmall hL hM M37 r38) (lw_S q3124 q3125 q147 q3126) nd_X6_isSmall rfl (le_fr hf rfl) (le_fr hlo rfl) rfl (Nat.le_of_ble_eq_true rfl) dX6_next_209 fun r40 M39 => ?_
                    refine s_iload_n C dX6_next_212 1 rfl rfl ?_
                    refine s_icmp_ne C 220 dX6_next_213 (by decide) ?_ ?_
                    · refine Sim.keep [0, 1] rfl ?_
                      exact hj220 _
                    · refine s_iconst C (1 : Int32) dX6_next_216 (by decide) ?_
                      refine s_goto C 221 dX6_next_217 (by decide) ?_
                      refine Sim.keep [0, 1] rfl ?_
                      exact hj221 _ _
                refine s_if_ne C 201 dX6_next_188 (by decide) ?_ ?_
                · exact hj201 _ _
                · refine s_aload_n C dX6_next_191 0 rfl rfl ?_
                  refine sm_callI C 0 [] (ct_X6_peek hL hM M22 ) (lw_V q3120 q3122 qs43 q147 q3123) nd_X6_peek rfl (le_fr hf rfl) (le_fr hlo rfl) rfl (Nat.le_of_ble_eq_true rfl) dX6_next_192 fun r42 M41 => ?_
                  refine sm_callSI C 1 [] (ct_X6_isDigit hL hM M41 r42) (lw_S q3127 q3128 q147 q3129) nd_X6_isDigit rfl (le_fr hf rfl) (le_fr hlo rfl) rfl (Nat.le_of_ble_eq_true rfl) dX6_next_195 fun r44 M43 => ?_
                  refine s_if_eq C 298 dX6_next_198 (by decide) ?_ ?_
                  · refine s_aload_n C dX6_next_298 0 rfl rfl ?_
                    refine s_iload_n C dX6_next_299 2 rfl rfl ?_
                    have hj333 : ∀ (y1 : Int32) (M45 : Ms), Sim (plug h0 mo) E (QM (plug h0 mo) E finV) M45 333 [] [.int y1, vr mo] (g_next_j333 y1 M45) := by
                      intro y1 M45
                      refine sm_putI 12 0 C hM fo_X6_157_6 rfl ⟨by decide, by decide, rfl⟩ rfl rfl dX6_next_333 ?_
                      refine s_bdh fun M46 => ?_
                      exact s_vret C rfl dX6_next_336
                    have hj320 : ∀  (M47 : Ms), Sim (plug h0 mo) E (QM (plug h0 mo) E finV) M47 320 [] [vr mo] (g_next_j320 M47) := by
                      intro M47
                      refine s_iconst C (4 : Int32) dX6_next_320 (by decide) ?_
                      refine s_goto C 333 dX6_next_321 (by decide) ?_
                      exact hj333 _ _
                    refine s_if_eq C 320 dX6_next_300 (by decide) ?_ ?_
                    · refine Sim.keep [] rfl ?_
                      exact hj320 _
                    · refine s_aload_n C dX6_next_303 0 rfl rfl ?_
                      refine sm_getI 14 C hM fo_X6_154_6 rfl dX6_next_304 ?_
                      refine s_iload_n C dX6_next_307 1 rfl rfl ?_
                      have hj317 : ∀ (x2 : Int32) (y1 : Int32) (y2 : Int32) (M48 : Ms), Sim (plug h0 mo) E (QM (plug h0 mo) E finV) M48 317 [(2, .int x2)] [.int y2, .int y1, vr mo] (g_next_j317 x2 y1 y2 M48) := by
                        intro x2 y1 y2 M48
                        refine s_icmp_le C 324 dX6_next_317 (by decide) ?_ ?_
                        · refine s_iload_n C dX6_next_324 0 rfl rfl ?_
                          refine s_if_eq C 332 dX6_next_325 (by decide) ?_ ?_
                          · refine s_iconst C (2 : Int32) dX6_next_332 (by decide) ?_
                            refine Sim.keep [] rfl ?_
                            exact hj333 _ _
                          · refine s_iconst C (1 : Int32) dX6_next_328 (by decide) ?_
                            refine s_goto C 333 dX6_next_329 (by decide) ?_
                            refine Sim.keep [] rfl ?_
                            exact hj333 _ _
                        · refine Sim.keep [] rfl ?_
                          exact hj320 _
                      refine s_if_eq C 316 dX6_next_308 (by decide) ?_ ?_
                      · refine s_iconst C (3 : Int32) dX6_next_316 (by decide) ?_
                        refine Sim.keep [1] rfl ?_
                        exact hj317 _ _ _ _
                      · refine s_bipush C (7 : Int32) dX6_next_311 (by decide) ?_
                        refine s_goto C 317 dX6_next_313 (by decide) ?_
                        refine Sim.keep [1] rfl ?_
                        exact hj317 _ _ _ _
                  · exact hj201 _ _
              refine sm_putI 15 0 C hM fo_X6_167_6 rfl ⟨by decide, by decide, rfl⟩ rfl rfl dX6_next_178 ?_
              refine s_bdh fun M49 => ?_
              refine Sim.keep [2, 1, 0] rfl ?_
              exact hL181 _ _ _
            refine s_if_ne C 164 dX6_next_99 (by decide) ?_ ?_
            · refine Sim.keep [1, 0] rfl ?_
              exact hj164 _ _
            · refine s_iload_n C dX6_next_102 0 rfl rfl ?_
              refine sm_callSI C 1 [] (ct_X6_isDigit hL hM M13 r12) (lw_S q3127 q3128 q147 q3129) nd_X6_isDigit rfl (le_fr hf rfl) (le_fr hlo rfl) rfl (Nat.le_of_ble_eq_true rfl) dX6_next_103 fun r51 M50 => ?_
              refine s_if_ne C 164 dX6_next_106 (by decide) ?_ ?_
              · refine Sim.keep [1, 0] rfl ?_
                exact hj164 _ _
              · refine s_aload_n C dX6_next_109 1 rfl rfl ?_
                refine s_iload_n C dX6_next_110 0 rfl rfl ?_
                refine s_bipush C (59 : Int32) dX6_next_111 (by decide) ?_
                have hj145 : ∀ (x1 : Int32) (y1 : Int32) (M52 : Ms), Sim (plug h0 mo) E (QM (plug h0 mo) E finV) M52 145 [(0, vr mo), (1, .int x1)] [.int y1, vr mo] (g_next_j145 x1 y1 M52) := by
                  intro x1 y1 M52
                  refine sm_putI 12 0 C hM fo_X6_157_6 rfl ⟨by decide, by decide, rfl⟩ rfl rfl dX6_next_145 ?_
                  refine s_bdh fun M53 => ?_
                  refine s_aload_n C dX6_next_148 0 rfl rfl ?_
                  refine s_iload_n C dX6_next_149 1 rfl rfl ?_
                  refine sm_putI 15 0 C hM fo_X6_167_6 rfl ⟨by decide, by decide, rfl⟩ rfl rfl dX6_next_150 ?_
                  refine s_bdh fun M54 => ?_
                  refine s_aload_n C dX6_next_153 0 rfl rfl ?_
                  refine s_dup C dX6_next_154 rfl ?_
                  refine sm_getI 4 C hM fo_X6_21_6 rfl dX6_next_155 ?_
                  refine s_iconst C (1 : Int32) dX6_next_158 (by decide) ?_
                  refine s_iadd C dX6_next_159 ?_
                  refine sm_putI 4 0 C hM fo_X6_21_6 rfl ⟨by decide, by decide, rfl⟩ rfl rfl dX6_next_160 ?_
                  refine s_bdh fun M55 => ?_
                  exact s_vret C rfl dX6_next_163
                have hj140 : ∀ (x1 : Int32) (M56 : Ms), Sim (plug h0 mo) E (QM (plug h0 mo) E finV) M56 140 [(0, vr mo), (1, .int x1)] [vr mo] (g_next_j140 x1 M56) := by
                  intro x1 M56
                  refine s_iconst C (3 : Int32) dX6_next_140 (by decide) ?_
                  refine s_goto C 145 dX6_next_141 (by decide) ?_
                  exact hj145 _ _ _
                refine s_icmp_eq C 140 dX6_next_113 (by decide) ?_ ?_
                · refine Sim.keep [1, 0] rfl ?_
                  exact hj140 _ _
                · refine s_iload_n C dX6_next_116 0 rfl rfl ?_
                  refine s_bipush C (40 : Int32) dX6_next_117 (by decide) ?_
                  refine s_icmp_eq C 140 dX6_next_119 (by decide) ?_ ?_
                  · refine Sim.keep [1, 0] rfl ?_
                    exact hj140 _ _
                  · refine s_iload_n C dX6_next_122 0 rfl rfl ?_
                    refine s_bipush C (41 : Int32) dX6_next_123 (by decide) ?_
                    refine s_icmp_eq C 140 dX6_next_125 (by decide) ?_ ?_
                    · refine Sim.keep [1, 0] rfl ?_
                      exact hj140 _ _
                    · refine s_iload_n C dX6_next_128 0 rfl rfl ?_
                      refine s_bipush C (60 : Int32) dX6_next_129 (by decide) ?_
                      have hj144 : ∀ (x1 : Int32) (M57 : Ms), Sim (plug h0 mo) E (QM (plug h0 mo) E finV) M57 144 [(0, vr mo), (1, .int x1)] [vr mo] (g_next_j144 x1 M57) := by
                        intro x1 M57
                        refine s_iconst C (4 : Int32) dX6_next_144 (by decide) ?_
                        exact hj145 _ _ _
                      refine s_icmp_lt C 144 dX6_next_131 (by decide) ?_ ?_
                      · refine Sim.keep [1, 0] rfl ?_
                        exact hj144 _ _
                      · refine s_iload_n C dX6_next_134 0 rfl rfl ?_
                        refine s_bipush C (62 : Int32) dX6_next_135 (by decide) ?_
                        refine s_icmp_gt C 144 dX6_next_137 (by decide) ?_ ?_
                        · refine Sim.keep [1, 0] rfl ?_
                          exact hj144 _ _
                        · refine Sim.keep [1, 0] rfl ?_
                          exact hj140 _ _
          · refine s_aload_n C dX6_next_89 1 rfl rfl ?_
            refine s_iconst C (0 : Int32) dX6_next_90 (by decide) ?_
            refine sm_putI 12 0 C hM fo_X6_157_6 rfl ⟨by decide, by decide, rfl⟩ rfl rfl dX6_next_91 ?_
            refine s_bdh fun M58 => ?_
            exact s_vret C rfl dX6_next_94
        refine s_icmp_le C 80 dX6_next_52 (by decide) ?_ ?_
        · exact hj80 _
        · refine s_aload_n C dX6_next_55 0 rfl rfl ?_
          refine sm_getI 4 C hM fo_X6_21_6 rfl dX6_next_56 ?_
          refine s_aload_n C dX6_next_59 0 rfl rfl ?_
          refine sm_getI 5 C hM fo_X6_24_6 rfl dX6_next_60 ?_
          refine s_icmp_lt C 80 dX6_next_63 (by decide) ?_ ?_
          · exact hj80 _
          · refine s_aload_n C dX6_next_66 0 rfl rfl ?_
            refine s_aload_n C dX6_next_67 0 rfl rfl ?_
            refine sm_getI 5 C hM fo_X6_24_6 rfl dX6_next_68 ?_
            refine sm_putI 13 0 C hM fo_X6_151_6 rfl ⟨by decide, by decide, rfl⟩ rfl rfl dX6_next_71 ?_
            refine s_bdh fun M59 => ?_
            refine s_aload_n C dX6_next_74 0 rfl rfl ?_
            refine s_iconst C (4 : Int32) dX6_next_75 (by decide) ?_
            refine sm_putI 12 0 C hM fo_X6_157_6 rfl ⟨by decide, by decide, rfl⟩ rfl rfl dX6_next_76 ?_
            refine s_bdh fun M60 => ?_
            exact s_vret C rfl dX6_next_79
      · exact hj18 _
  exact hL0  _ _

def g_isSign_j21 (y0 : Int32) (M1 : Ms) : Option (Int32 × Ms) :=
  if nrw 2 y0 = y0 then some (y0, M1) else none
def g_isSign_j20  (M2 : Ms) : Option (Int32 × Ms) :=
  g_isSign_j21 (0 : Int32) M2
def g_isSign (x1 : Int32) (M : Ms) : Option (Int32 × Ms) :=
  if (M.1 12) = (3 : Int32) then
    if (M.1 15) = x1 then
      g_isSign_j21 (1 : Int32) M
    else
      g_isSign_j20 M
  else
    g_isSign_j20 M
theorem nd_X6_isSign : yX6_isSign.cls = RX6 ∧ yX6_isSign.cls ≠ "java/lang/invoke/MethodHandle" ∧ yX6_isSign.cls ≠ "java/lang/invoke/VarHandle" ∧ (parseMethodDescriptor yX6_isSign.desc).map (fun d => d.parameters.length) = some 1 := ⟨rfl, by decide +kernel, by decide +kernel, by decide +kernel⟩
theorem ct_X6_isSign {G : Gx} {RL : Lv} {Pl : Nat → Bool} {l : Launch} (hL : LvA G RL Pl) {h0 : Hp} {mo : Nat} (hM : MP Pl mo) (M : Ms) (x1 : Int32) : Ct (plug h0 mo) G RL l yX6_isSign (ws_ yX6_isSign cX6_isSign 2 (some .boolean)) 0 0 finI [vr mo, .int x1] M (g_isSign x1 M) := by
  refine Ct.of (Pl := Pl) [(0, vr mo), (1, .int x1)] (by decide) hL rfl (Nat.le_of_ble_eq_true rfl) ?_
  intro E C hn hf hlo e1 e2 e3 e4 e5
  subst e1; subst e2; subst e3; subst e4
  replace C : Cx E cX6_isSign (some .boolean) RX6 := C
  unfold g_isSign
  refine s_aload_n C dX6_isSign_0 0 rfl rfl ?_
  refine sm_getI 12 C hM fo_X6_157_6 rfl dX6_isSign_1 ?_
  refine s_iconst C (3 : Int32) dX6_isSign_4 (by decide) ?_
  have hj21 : ∀ (y0 : Int32) (M1 : Ms), Sim (plug h0 mo) E (QM (plug h0 mo) E finI) M1 21 [] [.int y0] (g_isSign_j21 y0 M1) := by
    intro y0 M1
    exact s_zret 2 C (by decide) (by decide) rfl dX6_isSign_21
  have hj20 : ∀  (M2 : Ms), Sim (plug h0 mo) E (QM (plug h0 mo) E finI) M2 20 [] [] (g_isSign_j20 M2) := by
    intro M2
    refine s_iconst C (0 : Int32) dX6_isSign_20 (by decide) ?_
    exact hj21 _ _
  refine s_icmp_ne C 20 dX6_isSign_5 (by decide) ?_ ?_
  · refine Sim.keep [] rfl ?_
    exact hj20 _
  · refine s_aload_n C dX6_isSign_8 0 rfl rfl ?_
    refine sm_getI 15 C hM fo_X6_167_6 rfl dX6_isSign_9 ?_
    refine s_iload_n C dX6_isSign_12 1 rfl rfl ?_
    refine s_icmp_ne C 20 dX6_isSign_13 (by decide) ?_ ?_
    · refine Sim.keep [] rfl ?_
      exact hj20 _
    · refine s_iconst C (1 : Int32) dX6_isSign_16 (by decide) ?_
      refine s_goto C 21 dX6_isSign_17 (by decide) ?_
      refine Sim.keep [] rfl ?_
      exact hj21 _ _

def g_behindOne_j70 (y1 : Int32) (y2 : Int32) (M11 : Ms) : Option (Int32 × Ms) :=
  (sI 0 48 y1 y2 M11).bind fun M12 =>
  bd (mI 51 ((M12.1 51) + (1 : Int32)) M12) fun M13 =>
  (pZ 53 (0 : Int32) M13).bind fun M14 =>
  bn (g_next  M14) fun _ M15 =>
  if nrw 2 (1 : Int32) = (1 : Int32) then some ((1 : Int32), M15) else none
def g_behindOne_j42 (y1 : Int32) (M7 : Ms) : Option (Int32 × Ms) :=
  bn (g_joins y1 M7) fun _ M8 =>
  bn (g_isWord (6385252 : Int64) M8) fun r10 M9 =>
  if r10 = 0 then
    g_behindOne_j70 (M8.1 51) (22 : Int32) M9
  else
    g_behindOne_j70 (M8.1 51) (21 : Int32) M9
def g_behindOne_j24  (M4 : Ms) : Option (Int32 × Ms) :=
  bn (g_isWord (6385252 : Int64) M4) fun r6 M5 =>
  if r6 = 0 then
    g_behindOne_j42 (22 : Int32) M5
  else
    g_behindOne_j42 (21 : Int32) M5
def g_behindOne_j114  (M21 : Ms) : Option (Int32 × Ms) :=
  bn (g_bad (1 : Int32) M21) fun r23 M22 =>
  if nrw 2 r23 = r23 then some (r23, M22) else none
def g_behindOne  (M : Ms) : Option (Int32 × Ms) :=
  bn (g_nots  M) fun _ M1 =>
  bn (g_isWord (6385252 : Int64) M1) fun r3 M2 =>
  if r3 = 0 then
    bn (g_isWord (28530 : Int64) M2) fun r17 M16 =>
    if r17 = 0 then
      bn (g_joins (22 : Int32) M16) fun _ M18 =>
      bn (g_isSign (41 : Int32) M18) fun r20 M19 =>
      if r20 = 0 then
        g_behindOne_j114 M19
      else
        if (M19.1 51) = 0 then
          g_behindOne_j114 M19
        else
          bd (mI 51 ((M19.1 51) - (1 : Int32)) M19) fun M24 =>
          bd (mI 52 ((M24.1 52) - (1 : Int32)) M24) fun M25 =>
          bn (g_next  M25) fun _ M26 =>
          if nrw 2 (1 : Int32) = (1 : Int32) then some ((1 : Int32), M26) else none
    else
      g_behindOne_j24 M16
  else
    g_behindOne_j24 M2
theorem nd_X6_behindOne : yX6_behindOne.cls = RX6 ∧ yX6_behindOne.cls ≠ "java/lang/invoke/MethodHandle" ∧ yX6_behindOne.cls ≠ "java/lang/invoke/VarHandle" ∧ (parseMethodDescriptor yX6_behindOne.desc).map (fun d => d.parameters.length) = some 0 := ⟨rfl, by decide +kernel, by decide +kernel, by decide +kernel⟩
theorem ct_X6_behindOne {G : Gx} {RL : Lv} {Pl : Nat → Bool} {l : Launch} (hL : LvA G RL Pl) {h0 : Hp} {mo : Nat} (hM : MP Pl mo) (M : Ms)  : Ct (plug h0 mo) G RL l yX6_behindOne (ws_ yX6_behindOne cX6_behindOne 1 (some .boolean)) 2 44 finI [vr mo] M (g_behindOne M) := by
  refine Ct.of (Pl := Pl) [(0, vr mo)] (by decide) hL rfl (Nat.le_of_ble_eq_true rfl) ?_
  intro E C hn hf hlo e1 e2 e3 e4 e5
  subst e1; subst e2; subst e3; subst e4
  replace C : Cx E cX6_behindOne (some .boolean) RX6 := C
  unfold g_behindOne
  refine s_aload_n C dX6_behindOne_0 0 rfl rfl ?_
  refine sm_callV C 0 [] (ct_X6_nots hL hM M ) (lw_V q3489 q3491 qs98 q147 q3492) nd_X6_nots rfl (le_fr hf rfl) (le_fr hlo rfl) rfl (Nat.le_of_ble_eq_true rfl) dX6_behindOne_1 fun _ M1 => ?_
  refine s_aload_n C dX6_behindOne_4 0 rfl rfl ?_
  refine s_ldc2 C q2919 dX6_behindOne_5 ?_
  refine sm_callI C 1 [] (ct_X6_isWord hL hM M1 (6385252 : Int64)) (lw_V q3134 q3136 qs45 q147 q3137) nd_X6_isWord rfl (le_fr hf rfl) (le_fr hlo rfl) rfl (Nat.le_of_ble_eq_true rfl) dX6_behindOne_8 fun r3 M2 => ?_
  have hj24 : ∀  (M4 : Ms), Sim (plug h0 mo) E (QM (plug h0 mo) E finI) M4 24 [(0, vr mo)] [] (g_behindOne_j24 M4) := by
    intro M4
    refine s_aload_n C dX6_behindOne_24 0 rfl rfl ?_
    refine s_aload_n C dX6_behindOne_25 0 rfl rfl ?_
    refine s_ldc2 C q2919 dX6_behindOne_26 ?_
    refine sm_callI C 1 [vr mo] (ct_X6_isWord hL hM M4 (6385252 : Int64)) (lw_V q3134 q3136 qs45 q147 q3137) nd_X6_isWord rfl (le_fr hf rfl) (le_fr hlo rfl) rfl (Nat.le_of_ble_eq_true rfl) dX6_behindOne_29 fun r6 M5 => ?_
    have hj42 : ∀ (y1 : Int32) (M7 : Ms), Sim (plug h0 mo) E (QM (plug h0 mo) E finI) M7 42 [(0, vr mo)] [.int y1, vr mo] (g_behindOne_j42 y1 M7) := by
      intro y1 M7
      refine sm_callV C 1 [] (ct_X6_joins hL hM M7 y1) (lw_V q3497 q3499 qs100 q147 q3500) nd_X6_joins rfl (le_fr hf rfl) (le_fr hlo rfl) rfl (Nat.le_of_ble_eq_true rfl) dX6_behindOne_42 fun _ M8 => ?_
      refine s_aload_n C dX6_behindOne_45 0 rfl rfl ?_
      refine sm_getA 48 C hM fo_X6_89_6 rfl (by decide) dX6_behindOne_46 ?_
      refine s_aload_n C dX6_behindOne_49 0 rfl rfl ?_
      refine sm_getI 51 C hM fo_X6_440_6 rfl dX6_behindOne_50 ?_
      refine s_aload_n C dX6_behindOne_53 0 rfl rfl ?_
      refine s_ldc2 C q2919 dX6_behindOne_54 ?_
      refine sm_callI C 1 [.int (M8.1 51), vr (aid mo 48)] (ct_X6_isWord hL hM M8 (6385252 : Int64)) (lw_V q3134 q3136 qs45 q147 q3137) nd_X6_isWord rfl (le_fr hf rfl) (le_fr hlo rfl) rfl (Nat.le_of_ble_eq_true rfl) dX6_behindOne_57 fun r10 M9 => ?_
      have hj70 : ∀ (y1 : Int32) (y2 : Int32) (M11 : Ms), Sim (plug h0 mo) E (QM (plug h0 mo) E finI) M11 70 [(0, vr mo)] [.int y2, .int y1, vr (aid mo 48)] (g_behindOne_j70 y1 y2 M11) := by
        intro y1 y2 M11
        refine sm_iast C hM dX6_behindOne_70 fun M12 => ?_
        refine s_aload_n C dX6_behindOne_71 0 rfl rfl ?_
        refine s_dup C dX6_behindOne_72 rfl ?_
        refine sm_getI 51 C hM fo_X6_440_6 rfl dX6_behindOne_73 ?_
        refine s_iconst C (1 : Int32) dX6_behindOne_76 (by decide) ?_
        refine s_iadd C dX6_behindOne_77 ?_
        refine sm_putI 51 0 C hM fo_X6_440_6 rfl ⟨by decide, by decide, rfl⟩ rfl rfl dX6_behindOne_78 ?_
        refine s_bdh fun M13 => ?_
        refine s_aload_n C dX6_behindOne_81 0 rfl rfl ?_
        refine s_iconst C (0 : Int32) dX6_behindOne_82 (by decide) ?_
        refine sm_putZ 53 C hM fo_X6_455_6 rfl rfl rfl dX6_behindOne_83 fun M14 => ?_
        refine s_aload_n C dX6_behindOne_86 0 rfl rfl ?_
        refine sm_callV C 0 [] (ct_X6_next hL hM M14 ) (lw_V q3116 q3118 qs42 q147 q3119) nd_X6_next rfl (le_fr hf rfl) (le_fr hlo rfl) rfl (Nat.le_of_ble_eq_true rfl) dX6_behindOne_87 fun _ M15 => ?_
        refine s_iconst C (1 : Int32) dX6_behindOne_90 (by decide) ?_
        exact s_zret 2 C (by decide) (by decide) rfl dX6_behindOne_91
      refine s_if_eq C 68 dX6_behindOne_60 (by decide) ?_ ?_
      · refine s_bipush C (22 : Int32) dX6_behindOne_68 (by decide) ?_
        exact hj70 _ _ _
      · refine s_bipush C (21 : Int32) dX6_behindOne_63 (by decide) ?_
        refine s_goto C 70 dX6_behindOne_65 (by decide) ?_
        exact hj70 _ _ _
    refine s_if_eq C 40 dX6_behindOne_32 (by decide) ?_ ?_
    · refine s_bipush C (22 : Int32) dX6_behindOne_40 (by decide) ?_
      exact hj42 _ _
    · refine s_bipush C (21 : Int32) dX6_behindOne_35 (by decide) ?_
      refine s_goto C 42 dX6_behindOne_37 (by decide) ?_
      exact hj42 _ _
  refine s_if_ne C 24 dX6_behindOne_11 (by decide) ?_ ?_
  · exact hj24 _
  · refine s_aload_n C dX6_behindOne_14 0 rfl rfl ?_
    refine s_ldc2 C q2918 dX6_behindOne_15 ?_
    refine sm_callI C 1 [] (ct_X6_isWord hL hM M2 (28530 : Int64)) (lw_V q3134 q3136 qs45 q147 q3137) nd_X6_isWord rfl (le_fr hf rfl) (le_fr hlo rfl) rfl (Nat.le_of_ble_eq_true rfl) dX6_behindOne_18 fun r17 M16 => ?_
    refine s_if_eq C 92 dX6_behindOne_21 (by decide) ?_ ?_
    · refine s_aload_n C dX6_behindOne_92 0 rfl rfl ?_
      refine s_bipush C (22 : Int32) dX6_behindOne_93 (by decide) ?_
      refine sm_callV C 1 [] (ct_X6_joins hL hM M16 (22 : Int32)) (lw_V q3497 q3499 qs100 q147 q3500) nd_X6_joins rfl (le_fr hf rfl) (le_fr hlo rfl) rfl (Nat.le_of_ble_eq_true rfl) dX6_behindOne_95 fun _ M18 => ?_
      refine s_aload_n C dX6_behindOne_98 0 rfl rfl ?_
      refine s_bipush C (41 : Int32) dX6_behindOne_99 (by decide) ?_
      refine sm_callI C 1 [] (ct_X6_isSign hL hM M18 (41 : Int32)) (lw_V q3181 q3183 qs56 q147 q3184) nd_X6_isSign rfl (le_fr hf rfl) (le_fr hlo rfl) rfl (Nat.le_of_ble_eq_true rfl) dX6_behindOne_101 fun r20 M19 => ?_
      have hj114 : ∀  (M21 : Ms), Sim (plug h0 mo) E (QM (plug h0 mo) E finI) M21 114 [(0, vr mo)] [] (g_behindOne_j114 M21) := by
        intro M21
        refine s_aload_n C dX6_behindOne_114 0 rfl rfl ?_
        refine s_iconst C (1 : Int32) dX6_behindOne_115 (by decide) ?_
        refine sm_callI C 1 [] (ct_X6_bad hL hM M21 (1 : Int32)) (lw_V q3142 q3144 qs47 q147 q3145) nd_X6_bad rfl (le_fr hf rfl) (le_fr hlo rfl) rfl (Nat.le_of_ble_eq_true rfl) dX6_behindOne_116 fun r23 M22 => ?_
        exact s_zret 2 C (by decide) (by decide) rfl dX6_behindOne_119
      refine s_if_eq C 114 dX6_behindOne_104 (by decide) ?_ ?_
      · exact hj114 _
      · refine s_aload_n C dX6_behindOne_107 0 rfl rfl ?_
        refine sm_getI 51 C hM fo_X6_440_6 rfl dX6_behindOne_108 ?_
        refine s_if_ne C 120 dX6_behindOne_111 (by decide) ?_ ?_
        · refine s_aload_n C dX6_behindOne_120 0 rfl rfl ?_
          refine s_dup C dX6_behindOne_121 rfl ?_
          refine sm_getI 51 C hM fo_X6_440_6 rfl dX6_behindOne_122 ?_
          refine s_iconst C (1 : Int32) dX6_behindOne_125 (by decide) ?_
          refine s_isub C dX6_behindOne_126 ?_
          refine sm_putI 51 0 C hM fo_X6_440_6 rfl ⟨by decide, by decide, rfl⟩ rfl rfl dX6_behindOne_127 ?_
          refine s_bdh fun M24 => ?_
          refine s_aload_n C dX6_behindOne_130 0 rfl rfl ?_
          refine s_dup C dX6_behindOne_131 rfl ?_
          refine sm_getI 52 C hM fo_X6_446_6 rfl dX6_behindOne_132 ?_
          refine s_iconst C (1 : Int32) dX6_behindOne_135 (by decide) ?_
          refine s_isub C dX6_behindOne_136 ?_
          refine sm_putI 52 0 C hM fo_X6_446_6 rfl ⟨by decide, by decide, rfl⟩ rfl rfl dX6_behindOne_137 ?_
          refine s_bdh fun M25 => ?_
          refine s_aload_n C dX6_behindOne_140 0 rfl rfl ?_
          refine sm_callV C 0 [] (ct_X6_next hL hM M25 ) (lw_V q3116 q3118 qs42 q147 q3119) nd_X6_next rfl (le_fr hf rfl) (le_fr hlo rfl) rfl (Nat.le_of_ble_eq_true rfl) dX6_behindOne_141 fun _ M26 => ?_
          refine s_iconst C (1 : Int32) dX6_behindOne_144 (by decide) ?_
          exact s_zret 2 C (by decide) (by decide) rfl dX6_behindOne_145
        · exact hj114 _
    · exact hj24 _

def g_bitsIn_L4 (x0 : Int32) : (Int32 × Int32) → Ms → Option (Int32 × Ms) :=
  lp FU fun rec4 v4 M1 =>
    if (8 : Int32) ≤ v4.2 then
      some (v4.1, M1)
    else
      bd ((v4.1 + ((x0 >>> (v4.2 &&& 31)) &&& (1 : Int32)))) fun a2 =>
      rec4 (a2, (v4.2 + (1 : Int32))) M1
def g_bitsIn (x0 : Int32) (M : Ms) : Option (Int32 × Ms) :=
  g_bitsIn_L4 x0 ((0 : Int32), (0 : Int32)) M
theorem nd_X6_bitsIn : yX6_bitsIn.cls = RX6 ∧ yX6_bitsIn.cls ≠ "java/lang/invoke/MethodHandle" ∧ yX6_bitsIn.cls ≠ "java/lang/invoke/VarHandle" ∧ (parseMethodDescriptor yX6_bitsIn.desc).map (fun d => d.parameters.length) = some 1 := ⟨rfl, by decide +kernel, by decide +kernel, by decide +kernel⟩
theorem ct_X6_bitsIn {G : Gx} {RL : Lv} {Pl : Nat → Bool} {l : Launch} (hL : LvA G RL Pl) {h0 : Hp} {mo : Nat} (hM : MP Pl mo) (M : Ms) (x0 : Int32) : Ct (plug h0 mo) G RL l yX6_bitsIn (ws_ yX6_bitsIn cX6_bitsIn 3 (some .int)) 0 0 finI [.int x0] M (g_bitsIn x0 M) := by
  refine Ct.of (Pl := Pl) [(0, .int x0)] (by decide) hL rfl (Nat.le_of_ble_eq_true rfl) ?_
  intro E C hn hf hlo e1 e2 e3 e4 e5
  subst e1; subst e2; subst e3; subst e4
  replace C : Cx E cX6_bitsIn (some .int) RX6 := C
  unfold g_bitsIn
  refine s_iconst C (0 : Int32) dX6_bitsIn_0 (by decide) ?_
  refine s_istore_n (la' := [(1, .int (0 : Int32)), (0, .int x0)]) C 1 dX6_bitsIn_1 rfl (lt_nl e5 rfl) rfl ?_
  refine s_iconst C (0 : Int32) dX6_bitsIn_2 (by decide) ?_
  have hL4 : ∀ (x0 : Int32) (v4 : (Int32 × Int32)) (M1 : Ms), Sim (plug h0 mo) E (QM (plug h0 mo) E finI) M1 4 [(0, .int x0), (1, .int v4.1), (2, .int v4.2)] [] (g_bitsIn_L4 x0 v4 M1) := by
    intro x0 v4 M1
    refine Sim.loop (fun v4 => [(0, .int x0), (1, .int v4.1), (2, .int v4.2)]) (fun _ => []) (fun rec4 hr4 v4 M1 => ?_) FU v4 M1
    refine s_iload_n C dX6_bitsIn_4 2 rfl rfl ?_
    refine s_bipush C (8 : Int32) dX6_bitsIn_5 (by decide) ?_
    refine s_icmp_ge C 24 dX6_bitsIn_7 (by decide) ?_ ?_
    · refine s_iload_n C dX6_bitsIn_24 1 rfl rfl ?_
      exact s_iret C rfl dX6_bitsIn_25
    · refine s_iload_n C dX6_bitsIn_10 1 rfl rfl ?_
      refine s_iload_n C dX6_bitsIn_11 0 rfl rfl ?_
      refine s_iload_n C dX6_bitsIn_12 2 rfl rfl ?_
      refine s_ishr C (v4.2 &&& 31) dX6_bitsIn_13 rfl ?_
      refine s_iconst C (1 : Int32) dX6_bitsIn_14 (by decide) ?_
      refine s_iand C dX6_bitsIn_15 ?_
      refine s_iadd C dX6_bitsIn_16 ?_
      refine s_bdi fun a2 => ?_
      refine s_istore_n (la' := [(1, .int a2), (0, .int x0), (2, .int v4.2)]) C 1 dX6_bitsIn_17 rfl (lt_nl e5 rfl) rfl ?_
      refine s_iinc (la' := [(2, .int (v4.2 + (1 : Int32))), (1, .int a2), (0, .int x0)]) C 2 dX6_bitsIn_18 rfl rfl (lt_nl e5 rfl) rfl ?_
      refine s_goto C 4 dX6_bitsIn_21 (by decide) ?_
      refine Sim.keep [2, 1, 0] rfl ?_
      exact hr4 _ _
  refine s_istore_n (la' := [(2, .int (0 : Int32)), (1, .int (0 : Int32)), (0, .int x0)]) C 2 dX6_bitsIn_3 rfl (lt_nl e5 rfl) rfl ?_
  refine Sim.keep [2, 1, 0] rfl ?_
  exact hL4 _ _ _
