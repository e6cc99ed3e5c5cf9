/-! THE MODEL's METHODS (printed by gen.py, genm.py out of the decode rows): functions on its state, contracts -/
set_option maxRecDepth 100000
def g_needOf_j160 (rec109 : Int32 → Ms → Option (Int32 × Ms)) (x2 : Int32) (x3 : Int32) (x4 : Int32) (x5 : Int32) (x6 : Int32) (M10 : Ms) : Option (Int32 × Ms) :=
  rec109 (x6 + (1 : Int32)) M10
def g_needOf_L109 (rec95 : Int32 → Ms → Option (Int32 × Ms)) (x2 : Int32) (x3 : Int32) (x4 : Int32) (x5 : Int32) : Int32 → Ms → Option (Int32 × Ms) :=
  lp FU fun rec109 v109 M9 =>
    if x4 < v109 then
      rec95 (x5 + (1 : Int32)) M9
    else
      if (v109 &&& x4) = v109 then
        bn (g_bitsIn v109 M9) fun r12 M11 =>
        if r12 = x5 then
          bn (g_counts (x3 ||| v109) x2 M11) fun r14 M13 =>
          if r14 = 0 then
            g_needOf_j160 rec109 x2 x3 x4 x5 v109 M13
          else
            bd (mI 39 v109 M13) fun M15 =>
            some (x5, M15)
        else
          g_needOf_j160 rec109 x2 x3 x4 x5 v109 M11
      else
        g_needOf_j160 rec109 x2 x3 x4 x5 v109 M9
def g_needOf_L95 (x2 : Int32) (x3 : Int32) (x4 : Int32) : Int32 → Ms → Option (Int32 × Ms) :=
  lp FU fun rec95 v95 M7 =>
    (aI 0 6 (1 : Int32) M7).bind fun a8 =>
    if a8 < v95 then
      some ((-1 : Int32), M7)
    else
      g_needOf_L109 rec95 x2 x3 x4 v95 (1 : Int32) M7
def g_needOf_j86 (rec34 : (Int32 × Int32) → Ms → Option (Int32 × Ms)) (x1 : Int32) (x2 : Int32) (x3 : Int32) (x4 : Int32) (x5 : Int32) (M18 : Ms) : Option (Int32 × Ms) :=
  rec34 (x4, (x5 + (1 : Int32))) M18
def g_needOf_L34 (x1 : Int32) (x2 : Int32) (x3 : Int32) : (Int32 × Int32) → Ms → Option (Int32 × Ms) :=
  lp FU fun rec34 v34 M5 =>
    (aI 0 6 (1 : Int32) M5).bind fun a6 =>
    if a6 ≤ v34.2 then
      g_needOf_L95 x2 x3 v34.1 (1 : Int32) M5
    else
      bn (g_bitOf (M5.1 28) v34.2 M5) fun r17 M16 =>
      if r17 = 0 then
        bn (g_bitOf x3 v34.2 M16) fun r20 M19 =>
        if r20 = 0 then
          bn (g_offenceOf v34.2 x1 x2 M19) fun r22 M21 =>
          if r22 = 0 then
            bd ((v34.1 ||| ((1 : Int32) <<< (v34.2 &&& 31)))) fun a23 =>
            g_needOf_j86 rec34 x1 x2 x3 a23 v34.2 M21
          else
            g_needOf_j86 rec34 x1 x2 x3 v34.1 v34.2 M21
        else
          g_needOf_j86 rec34 x1 x2 x3 v34.1 v34.2 M19
      else
        g_needOf_j86 rec34 x1 x2 x3 v34.1 v34.2 M16
def g_needOf (x1 : Int32) (x2 : Int32) (M : Ms) : Option (Int32 × Ms) :=
  (aI 0 23 (((20 : Int32) * x1) + x2) M).bind fun a1 =>
  bd (mI 39 (0 : Int32) M) fun M2 =>
  bn (g_counts a1 x2 M2) fun r4 M3 =>
  if r4 = 0 then
    g_needOf_L34 x1 x2 a1 ((0 : Int32), (0 : Int32)) M3
  else
    some ((0 : Int32), M3)
theorem nd_X6_needOf : yX6_needOf.cls = RX6 ∧ yX6_needOf.cls ≠ "java/lang/invoke/MethodHandle" ∧ yX6_needOf.cls ≠ "java/lang/invoke/VarHandle" ∧ (parseMethodDescriptor yX6_needOf.desc).map (fun d => d.parameters.length) = some 2 := ⟨rfl, by decide +kernel, by decide +kernel, by decide +kernel⟩
theorem ct_X6_needOf {G : Gx} {RL : Lv} {Pl : Nat → Bool} {l : Launch} (hL : LvA G RL Pl) {h0 : Hp} {mo : Nat} (hM : MP Pl mo) (M : Ms) (x1 : Int32) (x2 : Int32) : Ct (plug h0 mo) G RL l yX6_needOf (ws_ yX6_needOf cX6_needOf 7 (some .int)) 5 119 finI [vr mo, .int x1, .int x2] M (g_needOf x1 x2 M) := by
  refine Ct.of (Pl := Pl) [(0, vr mo), (1, .int x1), (2, .int x2)] (by decide) hL rfl (Nat.le_of_ble_eq_true rfl) ?_
  intro E C hn hf hlo e1 e2 e3 e4 e5
  subst e1; subst e2; subst e3; subst e4
  replace C : Cx E cX6_needOf (some .int) RX6 := C
  unfold g_needOf
  refine s_aload_n C dX6_needOf_0 0 rfl rfl ?_
  refine sm_getA 23 C hM fo_X6_59_6 rfl (by decide) dX6_needOf_1 ?_
  refine s_bipush C (20 : Int32) dX6_needOf_4 (by decide) ?_
  refine s_iload_n C dX6_needOf_6 1 rfl rfl ?_
  refine s_imul C dX6_needOf_7 ?_
  refine s_iload_n C dX6_needOf_8 2 rfl rfl ?_
  refine s_iadd C dX6_needOf_9 ?_
  refine sm_iald C hM dX6_needOf_10 fun a1 => ?_
  refine s_istore_n (la' := [(3, .int a1), (0, vr mo), (1, .int x1), (2, .int x2)]) C 3 dX6_needOf_11 rfl (lt_nl e5 rfl) rfl ?_
  refine s_aload_n C dX6_needOf_12 1 rfl rfl ?_
  refine s_iconst C (0 : Int32) dX6_needOf_13 (by decide) ?_
  refine sm_putI 39 0 C hM fo_X6_378_6 rfl ⟨by decide, by decide, rfl⟩ rfl rfl dX6_needOf_14 ?_
  refine s_bdh fun M2 => ?_
  refine s_aload_n C dX6_needOf_17 1 rfl rfl ?_
  refine s_iload_n C dX6_needOf_18 0 rfl rfl ?_
  refine s_iload_n C dX6_needOf_19 3 rfl rfl ?_
  refine sm_callI C 2 [] (ct_X6_counts hL hM M2 a1 x2) (lw_V q3229 q3231 qs66 q147 q3232) nd_X6_counts rfl (le_fr hf rfl) (le_fr hlo rfl) rfl (Nat.le_of_ble_eq_true rfl) dX6_needOf_20 fun r4 M3 => ?_
  refine s_if_eq C 28 dX6_needOf_23 (by decide) ?_ ?_
  · refine s_iconst C (0 : Int32) dX6_needOf_28 (by decide) ?_
    refine s_istore (la' := [(4, .int (0 : Int32)), (3, .int a1), (0, vr mo), (1, .int x1), (2, .int x2)]) C dX6_needOf_29 (lt_nl e5 rfl) rfl ?_
    refine s_iconst C (0 : Int32) dX6_needOf_31 (by decide) ?_
    have hL34 : ∀ (x1 : Int32) (x2 : Int32) (x3 : Int32) (v34 : (Int32 × Int32)) (M5 : Ms), Sim (plug h0 mo) E (QM (plug h0 mo) E finI) M5 34 [(0, vr mo), (1, .int x1), (2, .int x2), (3, .int x3), (4, .int v34.1), (5, .int v34.2)] [] (g_needOf_L34 x1 x2 x3 v34 M5) := by
      intro x1 x2 x3 v34 M5
      refine Sim.loop (fun v34 => [(0, vr mo), (1, .int x1), (2, .int x2), (3, .int x3), (4, .int v34.1), (5, .int v34.2)]) (fun _ => []) (fun rec34 hr34 v34 M5 => ?_) FU v34 M5
      refine s_iload C dX6_needOf_34 5 rfl ?_
      refine s_aload_n C dX6_needOf_36 0 rfl rfl ?_
      refine sm_getA 6 C hM fo_X6_33_6 rfl (by decide) dX6_needOf_37 ?_
      refine s_iconst C (1 : Int32) dX6_needOf_40 (by decide) ?_
      refine sm_iald C hM dX6_needOf_41 fun a6 => ?_
      refine s_icmp_ge C 92 dX6_needOf_42 (by decide) ?_ ?_
      · refine s_iconst C (1 : Int32) dX6_needOf_92 (by decide) ?_
        have hL95 : ∀ (x2 : Int32) (x3 : Int32) (x4 : Int32) (v95 : Int32) (M7 : Ms), Sim (plug h0 mo) E (QM (plug h0 mo) E finI) M7 95 [(0, vr mo), (2, .int x2), (3, .int x3), (4, .int x4), (5, .int v95)] [] (g_needOf_L95 x2 x3 x4 v95 M7) := by
          intro x2 x3 x4 v95 M7
          refine Sim.loop (fun v95 => [(0, vr mo), (2, .int x2), (3, .int x3), (4, .int x4), (5, .int v95)]) (fun _ => []) (fun rec95 hr95 v95 M7 => ?_) FU v95 M7
          refine s_iload C dX6_needOf_95 4 rfl ?_
          refine s_aload_n C dX6_needOf_97 0 rfl rfl ?_
          refine sm_getA 6 C hM fo_X6_33_6 rfl (by decide) dX6_needOf_98 ?_
          refine s_iconst C (1 : Int32) dX6_needOf_101 (by decide) ?_
          refine sm_iald C hM dX6_needOf_102 fun a8 => ?_
          refine s_icmp_gt C 172 dX6_needOf_103 (by decide) ?_ ?_
          · refine s_iconst C (-1 : Int32) dX6_needOf_172 (by decide) ?_
            exact s_iret C rfl dX6_needOf_173
          · refine s_iconst C (1 : Int32) dX6_needOf_106 (by decide) ?_
            have hL109 : ∀ (x5 : Int32) (v109 : Int32) (M9 : Ms), Sim (plug h0 mo) E (QM (plug h0 mo) E finI) M9 109 [(0, vr mo), (2, .int x2), (3, .int x3), (4, .int x4), (5, .int x5), (6, .int v109)] [] (g_needOf_L109 rec95 x2 x3 x4 x5 v109 M9) := by
              intro x5 v109 M9
              refine Sim.loop (fun v109 => [(0, vr mo), (2, .int x2), (3, .int x3), (4, .int x4), (5, .int x5), (6, .int v109)]) (fun _ => []) (fun rec109 hr109 v109 M9 => ?_) FU v109 M9
              refine s_iload C dX6_needOf_109 5 rfl ?_
              refine s_iload C dX6_needOf_111 3 rfl ?_
              refine s_icmp_gt C 166 dX6_needOf_113 (by decide) ?_ ?_
              · refine s_iinc (la' := [(5, .int (x5 + (1 : Int32))), (0, vr mo), (2, .int x2), (3, .int x3), (4, .int x4), (6, .int v109)]) C 4 dX6_needOf_166 rfl rfl (lt_nl e5 rfl) rfl ?_
                refine s_goto C 95 dX6_needOf_169 (by decide) ?_
                refine Sim.keep [1, 2, 3, 4, 0] rfl ?_
                exact hr95 _ _
              · refine s_iload C dX6_needOf_116 5 rfl ?_
                refine s_iload C dX6_needOf_118 3 rfl ?_
                refine s_iand C dX6_needOf_120 ?_
                refine s_iload C dX6_needOf_121 5 rfl ?_
                have hj160 : ∀ (x6 : Int32) (M10 : Ms), Sim (plug h0 mo) E (QM (plug h0 mo) E finI) M10 160 [(0, vr mo), (2, .int x2), (3, .int x3), (4, .int x4), (5, .int x5), (6, .int x6)] [] (g_needOf_j160 rec109 x2 x3 x4 x5 x6 M10) := by
                  intro x6 M10
                  refine s_iinc (la' := [(6, .int (x6 + (1 : Int32))), (0, vr mo), (2, .int x2), (3, .int x3), (4, .int x4), (5, .int x5)]) C 5 dX6_needOf_160 rfl rfl (lt_nl e5 rfl) rfl ?_
                  refine s_goto C 109 dX6_needOf_163 (by decide) ?_
                  refine Sim.keep [1, 2, 3, 4, 5, 0] rfl ?_
                  exact hr109 _ _
                refine s_icmp_ne C 160 dX6_needOf_123 (by decide) ?_ ?_
                · exact hj160 _ _
                · refine s_iload C dX6_needOf_126 5 rfl ?_
                  refine sm_callSI C 1 [] (ct_X6_bitsIn hL hM M9 v109) (lw_S q3387 q3388 q147 q3389) nd_X6_bitsIn rfl (le_fr hf rfl) (le_fr hlo rfl) rfl (Nat.le_of_ble_eq_true rfl) dX6_needOf_128 fun r12 M11 => ?_
                  refine s_iload C dX6_needOf_131 4 rfl ?_
                  refine s_icmp_ne C 160 dX6_needOf_133 (by decide) ?_ ?_
                  · exact hj160 _ _
                  · refine s_aload_n C dX6_needOf_136 0 rfl rfl ?_
                    refine s_iload_n C dX6_needOf_137 2 rfl rfl ?_
                    refine s_iload C dX6_needOf_138 5 rfl ?_
                    refine s_ior C dX6_needOf_140 ?_
                    refine s_iload_n C dX6_needOf_141 1 rfl rfl ?_
                    refine sm_callI C 2 [] (ct_X6_counts hL hM M11 (x3 ||| v109) x2) (lw_V q3229 q3231 qs66 q147 q3232) nd_X6_counts rfl (le_fr hf rfl) (le_fr hlo rfl) rfl (Nat.le_of_ble_eq_true rfl) dX6_needOf_142 fun r14 M13 => ?_
                    refine s_if_ne C 151 dX6_needOf_145 (by decide) ?_ ?_
                    · refine s_aload_n C dX6_needOf_151 0 rfl rfl ?_
                      refine s_iload C dX6_needOf_152 5 rfl ?_
                      refine sm_putI 39 0 C hM fo_X6_378_6 rfl ⟨by decide, by decide, rfl⟩ rfl rfl dX6_needOf_154 ?_
                      refine s_bdh fun M15 => ?_
                      refine s_iload C dX6_needOf_157 4 rfl ?_
                      exact s_iret C rfl dX6_needOf_159
                    · refine s_goto C 160 dX6_needOf_148 (by decide) ?_
                      exact hj160 _ _
            refine s_istore (la' := [(6, .int (1 : Int32)), (0, vr mo), (2, .int x2), (3, .int x3), (4, .int x4), (5, .int v95)]) C dX6_needOf_107 (lt_nl e5 rfl) rfl ?_
            refine Sim.keep [1, 2, 3, 4, 5, 0] rfl ?_
            exact hL109 _ _ _
        refine s_istore (la' := [(5, .int (1 : Int32)), (0, vr mo), (1, .int x1), (2, .int x2), (3, .int x3), (4, .int v34.1)]) C dX6_needOf_93 (lt_nl e5 rfl) rfl ?_
        refine Sim.keep [1, 3, 4, 5, 0] rfl ?_
        exact hL95 _ _ _ _ _
      · refine s_aload_n C dX6_needOf_45 0 rfl rfl ?_
        refine sm_getI 28 C hM fo_X6_270_6 rfl dX6_needOf_46 ?_
        refine s_iload C dX6_needOf_49 5 rfl ?_
        refine sm_callSI C 2 [] (ct_X6_bitOf hL hM M5 (M5.1 28) v34.2) (lw_S q3241 q3242 q147 q3243) nd_X6_bitOf rfl (le_fr hf rfl) (le_fr hlo rfl) rfl (Nat.le_of_ble_eq_true rfl) dX6_needOf_51 fun r17 M16 => ?_
        have hj86 : ∀ (x4 : Int32) (x5 : Int32) (M18 : Ms), Sim (plug h0 mo) E (QM (plug h0 mo) E finI) M18 86 [(0, vr mo), (1, .int x1), (2, .int x2), (3, .int x3), (4, .int x4), (5, .int x5)] [] (g_needOf_j86 rec34 x1 x2 x3 x4 x5 M18) := by
          intro x4 x5 M18
          refine s_iinc (la' := [(5, .int (x5 + (1 : Int32))), (0, vr mo), (1, .int x1), (2, .int x2), (3, .int x3), (4, .int x4)]) C 5 dX6_needOf_86 rfl rfl (lt_nl e5 rfl) rfl ?_
          refine s_goto C 34 dX6_needOf_89 (by decide) ?_
          refine Sim.keep [1, 2, 3, 4, 5, 0] rfl ?_
          exact hr34 _ _
        refine s_if_ne C 86 dX6_needOf_54 (by decide) ?_ ?_
        · exact hj86 _ _ _
        · refine s_iload_n C dX6_needOf_57 3 rfl rfl ?_
          refine s_iload C dX6_needOf_58 5 rfl ?_
          refine sm_callSI C 2 [] (ct_X6_bitOf hL hM M16 x3 v34.2) (lw_S q3241 q3242 q147 q3243) nd_X6_bitOf rfl (le_fr hf rfl) (le_fr hlo rfl) rfl (Nat.le_of_ble_eq_true rfl) dX6_needOf_60 fun r20 M19 => ?_
          refine s_if_ne C 86 dX6_needOf_63 (by decide) ?_ ?_
          · exact hj86 _ _ _
          · refine s_aload_n C dX6_needOf_66 0 rfl rfl ?_
            refine s_iload C dX6_needOf_67 5 rfl ?_
            refine s_iload_n C dX6_needOf_69 1 rfl rfl ?_
            refine s_iload_n C dX6_needOf_70 2 rfl rfl ?_
            refine sm_callI C 3 [] (ct_X6_offenceOf hL hM M19 v34.2 x1 x2) (lw_V q3363 q3365 qs87 q147 q3366) nd_X6_offenceOf rfl (le_fr hf rfl) (le_fr hlo rfl) rfl (Nat.le_of_ble_eq_true rfl) dX6_needOf_71 fun r22 M21 => ?_
            refine s_if_ne C 86 dX6_needOf_74 (by decide) ?_ ?_
            · exact hj86 _ _ _
            · refine s_iload C dX6_needOf_77 4 rfl ?_
              refine s_iconst C (1 : Int32) dX6_needOf_79 (by decide) ?_
              refine s_iload C dX6_needOf_80 5 rfl ?_
              refine s_ishl C (v34.2 &&& 31) dX6_needOf_82 rfl ?_
              refine s_ior C dX6_needOf_83 ?_
              refine s_bdi fun a23 => ?_
              refine s_istore (la' := [(4, .int a23), (0, vr mo), (1, .int x1), (2, .int x2), (3, .int x3), (5, .int v34.2)]) C dX6_needOf_84 (lt_nl e5 rfl) rfl ?_
              refine Sim.keep [1, 2, 3, 4, 0, 5] rfl ?_
              exact hj86 _ _ _
    refine s_istore (la' := [(5, .int (0 : Int32)), (4, .int (0 : Int32)), (3, .int a1), (0, vr mo), (1, .int x1), (2, .int x2)]) C dX6_needOf_32 (lt_nl e5 rfl) rfl ?_
    refine Sim.keep [3, 4, 5, 2, 1, 0] rfl ?_
    exact hL34 _ _ _ _ _
  · refine s_iconst C (0 : Int32) dX6_needOf_26 (by decide) ?_
    exact s_iret C rfl dX6_needOf_27

def g_need_j37 (x3 : Int32) (M5 : Ms) : Option (Int32 × Ms) :=
  some (x3, M5)
def g_need_j24 (y0 : Int32) (M4 : Ms) : Option (Int32 × Ms) :=
  if y0 < 0 then
    g_need_j37 y0 M4
  else
    bd (mI 40 (M4.1 39) M4) fun M6 =>
    g_need_j37 y0 M6
def g_need (x1 : Int32) (x2 : Int32) (M : Ms) : Option (Int32 × Ms) :=
  bd (mI 0 (0 : Int32) M) fun M1 =>
  bn (g_isLink x1 x2 M1) fun r3 M2 =>
  if r3 = 0 then
    g_need_j24 (-1 : Int32) M2
  else
    bn (g_needOf x1 x2 M2) fun r8 M7 =>
    g_need_j24 r8 M7
theorem nd_X6_need : yX6_need.cls = RX6 ∧ yX6_need.cls ≠ "java/lang/invoke/MethodHandle" ∧ yX6_need.cls ≠ "java/lang/invoke/VarHandle" ∧ (parseMethodDescriptor yX6_need.desc).map (fun d => d.parameters.length) = some 2 := ⟨rfl, by decide +kernel, by decide +kernel, by decide +kernel⟩
theorem ct_X6_need {G : Gx} {RL : Lv} {Pl : Nat → Bool} {l : Launch} (hL : LvA G RL Pl) {h0 : Hp} {mo : Nat} (hM : MP Pl mo) (M : Ms) (x1 : Int32) (x2 : Int32) : Ct (plug h0 mo) G RL l yX6_need (ws_ yX6_need cX6_need 4 (some .int)) 8 185 finI [vr mo, .int x1, .int x2] M (g_need x1 x2 M) := by
  refine Ct.of (Pl := Pl) [(0, vr mo), (1, .int x1), (2, .int x2)] (by decide) hL rfl (Nat.le_of_ble_eq_true rfl) ?_
  intro E C hn hf hlo e1 e2 e3 e4 e5
  subst e1; subst e2; subst e3; subst e4
  replace C : Cx E cX6_need (some .int) RX6 := C
  unfold g_need
  refine s_aload_n C dX6_need_0 0 rfl rfl ?_
  refine s_iconst C (0 : Int32) dX6_need_1 (by decide) ?_
  refine sm_putI 0 0 C hM fo_X6_1_6 rfl ⟨by decide, by decide, rfl⟩ rfl rfl dX6_need_2 ?_
  refine s_bdh fun M1 => ?_
  refine s_aload_n C dX6_need_5 0 rfl rfl ?_
  refine s_iload_n C dX6_need_6 1 rfl rfl ?_
  refine s_iload_n C dX6_need_7 2 rfl rfl ?_
  refine sm_callI C 2 [] (ct_X6_isLink hL hM M1 x1 x2) (lw_V q3307 q3309 qs78 q147 q3310) nd_X6_isLink rfl (le_fr hf rfl) (le_fr hlo rfl) rfl (Nat.le_of_ble_eq_true rfl) dX6_need_8 fun r3 M2 => ?_
  have hj24 : ∀ (y0 : Int32) (M4 : Ms), Sim (plug h0 mo) E (QM (plug h0 mo) E finI) M4 24 [(0, vr mo)] [.int y0] (g_need_j24 y0 M4) := by
    intro y0 M4
    refine s_istore_n (la' := [(3, .int y0), (0, vr mo)]) C 3 dX6_need_24 rfl (lt_nl e5 rfl) rfl ?_
    refine s_iload_n C dX6_need_25 0 rfl rfl ?_
    have hj37 : ∀ (x3 : Int32) (M5 : Ms), Sim (plug h0 mo) E (QM (plug h0 mo) E finI) M5 37 [(3, .int x3)] [] (g_need_j37 x3 M5) := by
      intro x3 M5
      refine s_iload_n C dX6_need_37 0 rfl rfl ?_
      exact s_iret C rfl dX6_need_38
    refine s_if_lt C 37 dX6_need_26 (by decide) ?_ ?_
    · refine Sim.keep [0] rfl ?_
      exact hj37 _ _
    · refine s_aload_n C dX6_need_29 1 rfl rfl ?_
      refine s_aload_n C dX6_need_30 1 rfl rfl ?_
      refine sm_getI 39 C hM fo_X6_378_6 rfl dX6_need_31 ?_
      refine sm_putI 40 0 C hM fo_X6_77_6 rfl ⟨by decide, by decide, rfl⟩ rfl rfl dX6_need_34 ?_
      refine s_bdh fun M6 => ?_
      refine Sim.keep [0] rfl ?_
      exact hj37 _ _
  refine s_if_eq C 23 dX6_need_11 (by decide) ?_ ?_
  · refine s_iconst C (-1 : Int32) dX6_need_23 (by decide) ?_
    refine Sim.keep [0] rfl ?_
    exact hj24 _ _
  · refine s_aload_n C dX6_need_14 0 rfl rfl ?_
    refine s_iload_n C dX6_need_15 1 rfl rfl ?_
    refine s_iload_n C dX6_need_16 2 rfl rfl ?_
    refine sm_callI C 2 [] (ct_X6_needOf hL hM M2 x1 x2) (lw_V q3383 q3385 qs88 q147 q3386) nd_X6_needOf rfl (le_fr hf rfl) (le_fr hlo rfl) rfl (Nat.le_of_ble_eq_true rfl) dX6_need_17 fun r8 M7 => ?_
    refine s_goto C 24 dX6_need_20 (by decide) ?_
    refine Sim.keep [0] rfl ?_
    exact hj24 _ _

def g_needed  (M : Ms) : Option (Int32 × Ms) :=
  bd (mI 0 (0 : Int32) M) fun M1 =>
  some ((M1.1 40), M1)
theorem nd_X6_needed : yX6_needed.cls = RX6 ∧ yX6_needed.cls ≠ "java/lang/invoke/MethodHandle" ∧ yX6_needed.cls ≠ "java/lang/invoke/VarHandle" ∧ (parseMethodDescriptor yX6_needed.desc).map (fun d => d.parameters.length) = some 0 := ⟨rfl, by decide +kernel, by decide +kernel, by decide +kernel⟩
theorem ct_X6_needed {G : Gx} {RL : Lv} {Pl : Nat → Bool} {l : Launch} (hL : LvA G RL Pl) {h0 : Hp} {mo : Nat} (hM : MP Pl mo) (M : Ms)  : Ct (plug h0 mo) G RL l yX6_needed (ws_ yX6_needed cX6_needed 1 (some .int)) 0 0 finI [vr mo] M (g_needed M) := by
  refine Ct.of (Pl := Pl) [(0, vr mo)] (by decide) hL rfl (Nat.le_of_ble_eq_true rfl) ?_
  intro E C hn hf hlo e1 e2 e3 e4 e5
  subst e1; subst e2; subst e3; subst e4
  replace C : Cx E cX6_needed (some .int) RX6 := C
  unfold g_needed
  refine s_aload_n C dX6_needed_0 0 rfl rfl ?_
  refine s_iconst C (0 : Int32) dX6_needed_1 (by decide) ?_
  refine sm_putI 0 0 C hM fo_X6_1_6 rfl ⟨by decide, by decide, rfl⟩ rfl rfl dX6_needed_2 ?_
  refine s_bdh fun M1 => ?_
  refine s_aload_n C dX6_needed_5 0 rfl rfl ?_
  refine sm_getI 40 C hM fo_X6_77_6 rfl dX6_needed_6 ?_
  exact s_iret C rfl dX6_needed_9

def g_now_j124 (y0 : Int32) (M4 : Ms) : Option (Int32 × Ms) :=
  some (y0, M4)
def g_now (x1 : Int32) (M : Ms) : Option (Int32 × Ms) :=
  bd (mI 0 (0 : Int32) M) fun M1 =>
  bn (g_lays  M1) fun _ M2 =>
  swi x1 (some ((-1 : Int32), M2)) [
    ((0 : Int32), some ((M2.1 26), M2)),
    ((1 : Int32), some ((M2.1 27), M2)),
    ((2 : Int32), some ((M2.1 28), M2)),
    ((3 : Int32), (aI 0 6 (3 : Int32) M2).bind fun a3 =>
    some (a3, M2)),
    ((4 : Int32), some ((M2.1 31), M2)),
    ((5 : Int32), some ((M2.1 32), M2)),
    ((6 : Int32), some ((M2.1 33), M2)),
    ((7 : Int32), some ((M2.1 29), M2)),
    ((8 : Int32), if (M2.1 30) = 0 then
      g_now_j124 (-1 : Int32) M2
    else
      (aI 0 25 ((M2.1 30) - (1 : Int32)) M2).bind fun a5 =>
      g_now_j124 a5 M2)]
theorem nd_X6_now : yX6_now.cls = RX6 ∧ yX6_now.cls ≠ "java/lang/invoke/MethodHandle" ∧ yX6_now.cls ≠ "java/lang/invoke/VarHandle" ∧ (parseMethodDescriptor yX6_now.desc).map (fun d => d.parameters.length) = some 1 := ⟨rfl, by decide +kernel, by decide +kernel, by decide +kernel⟩
theorem ct_X6_now {G : Gx} {RL : Lv} {Pl : Nat → Bool} {l : Launch} (hL : LvA G RL Pl) {h0 : Hp} {mo : Nat} (hM : MP Pl mo) (M : Ms) (x1 : Int32) : Ct (plug h0 mo) G RL l yX6_now (ws_ yX6_now cX6_now 2 (some .int)) 7 163 finI [vr mo, .int x1] M (g_now x1 M) := by
  refine Ct.of (Pl := Pl) [(0, vr mo), (1, .int x1)] (by decide) hL rfl (Nat.le_of_ble_eq_true rfl) ?_
  intro E C hn hf hlo e1 e2 e3 e4 e5
  subst e1; subst e2; subst e3; subst e4
  replace C : Cx E cX6_now (some .int) RX6 := C
  unfold g_now
  refine s_aload_n C dX6_now_0 0 rfl rfl ?_
  refine s_iconst C (0 : Int32) dX6_now_1 (by decide) ?_
  refine sm_putI 0 0 C hM fo_X6_1_6 rfl ⟨by decide, by decide, rfl⟩ rfl rfl dX6_now_2 ?_
  refine s_bdh fun M1 => ?_
  refine s_aload_n C dX6_now_5 0 rfl rfl ?_
  refine sm_callV C 0 [] (ct_X6_lays hL hM M1 ) (lw_V q3201 q3203 qs59 q147 q3204) nd_X6_lays rfl (le_fr hf rfl) (le_fr hlo rfl) rfl (Nat.le_of_ble_eq_true rfl) dX6_now_6 fun _ M2 => ?_
  refine s_iload_n C dX6_now_9 1 rfl rfl ?_
  refine s_tsw C 125 dX6_now_10 [(0 : Int32), (1 : Int32), (2 : Int32), (3 : Int32), (4 : Int32), (5 : Int32), (6 : Int32), (7 : Int32), (8 : Int32)] rfl (by decide +kernel) (by decide) (by decide) ⟨⟨60, by decide, ?_⟩, ⟨⟨65, by decide, ?_⟩, ⟨⟨70, by decide, ?_⟩, ⟨⟨75, by decide, ?_⟩, ⟨⟨82, by decide, ?_⟩, ⟨⟨87, by decide, ?_⟩, ⟨⟨92, by decide, ?_⟩, ⟨⟨97, by decide, ?_⟩, ⟨⟨102, by decide, ?_⟩, trivial⟩⟩⟩⟩⟩⟩⟩⟩⟩ ?_
  · refine s_aload_n C dX6_now_60 0 rfl rfl ?_
    refine sm_getI 26 C hM fo_X6_282_6 rfl dX6_now_61 ?_
    exact s_iret C rfl dX6_now_64
  · refine s_aload_n C dX6_now_65 0 rfl rfl ?_
    refine sm_getI 27 C hM fo_X6_285_6 rfl dX6_now_66 ?_
    exact s_iret C rfl dX6_now_69
  · refine s_aload_n C dX6_now_70 0 rfl rfl ?_
    refine sm_getI 28 C hM fo_X6_270_6 rfl dX6_now_71 ?_
    exact s_iret C rfl dX6_now_74
  · refine s_aload_n C dX6_now_75 0 rfl rfl ?_
    refine sm_getA 6 C hM fo_X6_33_6 rfl (by decide) dX6_now_76 ?_
    refine s_iconst C (3 : Int32) dX6_now_79 (by decide) ?_
    refine sm_iald C hM dX6_now_80 fun a3 => ?_
    exact s_iret C rfl dX6_now_81
  · refine s_aload_n C dX6_now_82 0 rfl rfl ?_
    refine sm_getI 31 C hM fo_X6_276_6 rfl dX6_now_83 ?_
    exact s_iret C rfl dX6_now_86
  · refine s_aload_n C dX6_now_87 0 rfl rfl ?_
    refine sm_getI 32 C hM fo_X6_288_6 rfl dX6_now_88 ?_
    exact s_iret C rfl dX6_now_91
  · refine s_aload_n C dX6_now_92 0 rfl rfl ?_
    refine sm_getI 33 C hM fo_X6_273_6 rfl dX6_now_93 ?_
    exact s_iret C rfl dX6_now_96
  · refine s_aload_n C dX6_now_97 0 rfl rfl ?_
    refine sm_getI 29 C hM fo_X6_294_6 rfl dX6_now_98 ?_
    exact s_iret C rfl dX6_now_101
  · refine s_aload_n C dX6_now_102 0 rfl rfl ?_
    refine sm_getI 30 C hM fo_X6_297_6 rfl dX6_now_103 ?_
    have hj124 : ∀ (y0 : Int32) (M4 : Ms), Sim (plug h0 mo) E (QM (plug h0 mo) E finI) M4 124 [] [.int y0] (g_now_j124 y0 M4) := by
      intro y0 M4
      exact s_iret C rfl dX6_now_124
    refine s_if_ne C 113 dX6_now_106 (by decide) ?_ ?_
    · refine s_aload_n C dX6_now_113 0 rfl rfl ?_
      refine sm_getA 25 C hM fo_X6_65_6 rfl (by decide) dX6_now_114 ?_
      refine s_aload_n C dX6_now_117 0 rfl rfl ?_
      refine sm_getI 30 C hM fo_X6_297_6 rfl dX6_now_118 ?_
      refine s_iconst C (1 : Int32) dX6_now_121 (by decide) ?_
      refine s_isub C dX6_now_122 ?_
      refine sm_iald C hM dX6_now_123 fun a5 => ?_
      refine Sim.keep [] rfl ?_
      exact hj124 _ _
    · refine s_iconst C (-1 : Int32) dX6_now_109 (by decide) ?_
      refine s_goto C 124 dX6_now_110 (by decide) ?_
      refine Sim.keep [] rfl ?_
      exact hj124 _ _
  · refine s_iconst C (-1 : Int32) dX6_now_125 (by decide) ?_
    exact s_iret C rfl dX6_now_126

def g_odds_j23  (M4 : Ms) : Option (Int32 × Ms) :=
  some ((-1 : Int32), M4)
def g_odds_j89 (rec39 : (Int32 × Int32) → Ms → Option (Int32 × Ms)) (x1 : Int32) (x2 : Int32) (x3 : Int32) (x5 : Int32) (y0 : Int32) (y1 : Int32) (M13 : Ms) : Option (Int32 × Ms) :=
  bd ((y0 + y1)) fun a14 =>
  bn (g_brings 37 (0 : Int32) M13) fun _ M15 =>
  rec39 (a14, (x5 + (1 : Int32))) M15
def g_odds_L56 (rec39 : (Int32 × Int32) → Ms → Option (Int32 × Ms)) (x1 : Int32) (x2 : Int32) (x3 : Int32) (x4 : Int32) (x5 : Int32) : Int32 → Ms → Option (Int32 × Ms) :=
  lp FU fun rec56 v56 M10 =>
    if (12 : Int32) ≤ v56 then
      bn (g_isChosen x1 M10) fun r12 M11 =>
      if r12 = 0 then
        g_odds_j89 rec39 x1 x2 x3 x5 x4 (0 : Int32) M11
      else
        g_odds_j89 rec39 x1 x2 x3 x5 x4 (1 : Int32) M11
    else
      bn (g_drawDeed  M10) fun r17 M16 =>
      rec56 (v56 + (1 : Int32)) M16
def g_odds_L39 (x1 : Int32) (x2 : Int32) (x3 : Int32) : (Int32 × Int32) → Ms → Option (Int32 × Ms) :=
  lp FU fun rec39 v39 M8 =>
    if x2 ≤ v39.2 then
      some (v39.1, M8)
    else
      bd (mI 44 (x3 + v39.2) M8) fun M9 =>
      g_odds_L56 rec39 x1 x2 x3 v39.1 v39.2 (0 : Int32) M9
def g_odds (x1 : Int32) (x2 : Int32) (x3 : Int32) (M : Ms) : Option (Int32 × Ms) :=
  bd (mI 0 (0 : Int32) M) fun M1 =>
  bn (g_isBlock x1 M1) fun r3 M2 =>
  if r3 = 0 then
    g_odds_j23 M2
  else
    bn (g_isIn x2 (1 : Int32) (20 : Int32) M2) fun r6 M5 =>
    if r6 = 0 then
      g_odds_j23 M5
    else
      bn (g_copies 37 M5) fun _ M7 =>
      g_odds_L39 x1 x2 x3 ((0 : Int32), (0 : Int32)) M7
theorem nd_X6_odds : yX6_odds.cls = RX6 ∧ yX6_odds.cls ≠ "java/lang/invoke/MethodHandle" ∧ yX6_odds.cls ≠ "java/lang/invoke/VarHandle" ∧ (parseMethodDescriptor yX6_odds.desc).map (fun d => d.parameters.length) = some 3 := ⟨rfl, by decide +kernel, by decide +kernel, by decide +kernel⟩
theorem ct_X6_odds {G : Gx} {RL : Lv} {Pl : Nat → Bool} {l : Launch} (hL : LvA G RL Pl) {h0 : Hp} {mo : Nat} (hM : MP Pl mo) (M : Ms) (x1 : Int32) (x2 : Int32) (x3 : Int32) : Ct (plug h0 mo) G RL l yX6_odds (ws_ yX6_odds cX6_odds 7 (some .int)) 9 210 finI [vr mo, .int x1, .int x2, .int x3] M (g_odds x1 x2 x3 M) := by
  refine Ct.of (Pl := Pl) [(0, vr mo), (1, .int x1), (2, .int x2), (3, .int x3)] (by decide) hL rfl (Nat.le_of_ble_eq_true rfl) ?_
  intro E C hn hf hlo e1 e2 e3 e4 e5
  subst e1; subst e2; subst e3; subst e4
  replace C : Cx E cX6_odds (some .int) RX6 := C
  unfold g_odds
  refine s_aload_n C dX6_odds_0 0 rfl rfl ?_
  refine s_iconst C (0 : Int32) dX6_odds_1 (by decide) ?_
  refine sm_putI 0 0 C hM fo_X6_1_6 rfl ⟨by decide, by decide, rfl⟩ rfl rfl dX6_odds_2 ?_
  refine s_bdh fun M1 => ?_
  refine s_aload_n C dX6_odds_5 0 rfl rfl ?_
  refine s_iload_n C dX6_odds_6 1 rfl rfl ?_
  refine sm_callI C 1 [] (ct_X6_isBlock hL hM M1 x1) (lw_V q3193 q3195 qs57 q147 q3196) nd_X6_isBlock rfl (le_fr hf rfl) (le_fr hlo rfl) rfl (Nat.le_of_ble_eq_true rfl) dX6_odds_7 fun r3 M2 => ?_
  have hj23 : ∀  (M4 : Ms), Sim (plug h0 mo) E (QM (plug h0 mo) E finI) M4 23 [] [] (g_odds_j23 M4) := by
    intro M4
    refine s_iconst C (-1 : Int32) dX6_odds_23 (by decide) ?_
    exact s_iret C rfl dX6_odds_24
  refine s_if_eq C 23 dX6_odds_10 (by decide) ?_ ?_
  · refine Sim.keep [] rfl ?_
    exact hj23 _
  · refine s_iload_n C dX6_odds_13 2 rfl rfl ?_
    refine s_iconst C (1 : Int32) dX6_odds_14 (by decide) ?_
    refine s_bipush C (20 : Int32) dX6_odds_15 (by decide) ?_
    refine sm_callSI C 3 [] (ct_X6_isIn hL hM M2 x2 (1 : Int32) (20 : Int32)) (lw_S q3150 q3151 q147 q3152) nd_X6_isIn rfl (le_fr hf rfl) (le_fr hlo rfl) rfl (Nat.le_of_ble_eq_true rfl) dX6_odds_17 fun r6 M5 => ?_
    refine s_if_ne C 25 dX6_odds_20 (by decide) ?_ ?_
    · refine s_aload_n C dX6_odds_25 0 rfl rfl ?_
      refine s_aload_n C dX6_odds_26 0 rfl rfl ?_
      refine sm_getA 37 C hM fo_X6_74_6 rfl (by decide) dX6_odds_27 ?_
      refine sm_callV C 1 [] (ct_X6_copies hL hM M5 37) (lw_V q3323 q3325 qs81 q147 q3326) nd_X6_copies rfl (le_fr hf rfl) (le_fr hlo rfl) rfl (Nat.le_of_ble_eq_true rfl) dX6_odds_30 fun _ M7 => ?_
      refine s_iconst C (0 : Int32) dX6_odds_33 (by decide) ?_
      refine s_istore (la' := [(4, .int (0 : Int32)), (0, vr mo), (1, .int x1), (2, .int x2), (3, .int x3)]) C dX6_odds_34 (lt_nl e5 rfl) rfl ?_
      refine s_iconst C (0 : Int32) dX6_odds_36 (by decide) ?_
      have hL39 : ∀ (x1 : Int32) (x2 : Int32) (x3 : Int32) (v39 : (Int32 × Int32)) (M8 : Ms), Sim (plug h0 mo) E (QM (plug h0 mo) E finI) M8 39 [(0, vr mo), (1, .int x1), (2, .int x2), (3, .int x3), (4, .int v39.1), (5, .int v39.2)] [] (g_odds_L39 x1 x2 x3 v39 M8) := by
        intro x1 x2 x3 v39 M8
        refine Sim.loop (fun v39 => [(0, vr mo), (1, .int x1), (2, .int x2), (3, .int x3), (4, .int v39.1), (5, .int v39.2)]) (fun _ => []) (fun rec39 hr39 v39 M8 => ?_) FU v39 M8
        refine s_iload C dX6_odds_39 5 rfl ?_
        refine s_iload_n C dX6_odds_41 2 rfl rfl ?_
        refine s_icmp_ge C 107 dX6_odds_42 (by decide) ?_ ?_
        · refine s_iload C dX6_odds_107 4 rfl ?_
          exact s_iret C rfl dX6_odds_109
        · refine s_aload_n C dX6_odds_45 0 rfl rfl ?_
          refine s_iload_n C dX6_odds_46 3 rfl rfl ?_
          refine s_iload C dX6_odds_47 5 rfl ?_
          refine s_iadd C dX6_odds_49 ?_
          refine sm_putI 44 0 C hM fo_X6_412_6 rfl ⟨by decide, by decide, rfl⟩ rfl rfl dX6_odds_50 ?_
          refine s_bdh fun M9 => ?_
          refine s_iconst C (0 : Int32) dX6_odds_53 (by decide) ?_
          have hL56 : ∀ (x4 : Int32) (x5 : Int32) (v56 : Int32) (M10 : Ms), Sim (plug h0 mo) E (QM (plug h0 mo) E finI) M10 56 [(0, vr mo), (1, .int x1), (2, .int x2), (3, .int x3), (4, .int x4), (5, .int x5), (6, .int v56)] [] (g_odds_L56 rec39 x1 x2 x3 x4 x5 v56 M10) := by
            intro x4 x5 v56 M10
            refine Sim.loop (fun v56 => [(0, vr mo), (1, .int x1), (2, .int x2), (3, .int x3), (4, .int x4), (5, .int x5), (6, .int v56)]) (fun _ => []) (fun rec56 hr56 v56 M10 => ?_) FU v56 M10
            refine s_iload C dX6_odds_56 6 rfl ?_
            refine s_bipush C (12 : Int32) dX6_odds_58 (by decide) ?_
            refine s_icmp_ge C 74 dX6_odds_60 (by decide) ?_ ?_
            · refine s_iload C dX6_odds_74 4 rfl ?_
              refine s_aload_n C dX6_odds_76 0 rfl rfl ?_
              refine s_iload_n C dX6_odds_77 1 rfl rfl ?_
              refine sm_callI C 1 [.int x4] (ct_X6_isChosen hL hM M10 x1) (lw_V q3465 q3467 qs95 q147 q3468) nd_X6_isChosen rfl (le_fr hf rfl) (le_fr hlo rfl) rfl (Nat.le_of_ble_eq_true rfl) dX6_odds_78 fun r12 M11 => ?_
              have hj89 : ∀ (x5 : Int32) (y0 : Int32) (y1 : Int32) (M13 : Ms), Sim (plug h0 mo) E (QM (plug h0 mo) E finI) M13 89 [(0, vr mo), (1, .int x1), (2, .int x2), (3, .int x3), (5, .int x5)] [.int y1, .int y0] (g_odds_j89 rec39 x1 x2 x3 x5 y0 y1 M13) := by
                intro x5 y0 y1 M13
                refine s_iadd C dX6_odds_89 ?_
                refine s_bdi fun a14 => ?_
                refine s_istore (la' := [(4, .int a14), (0, vr mo), (1, .int x1), (2, .int x2), (3, .int x3), (5, .int x5)]) C dX6_odds_90 (lt_nl e5 rfl) rfl ?_
                refine s_aload_n C dX6_odds_92 1 rfl rfl ?_
                refine s_aload_n C dX6_odds_93 1 rfl rfl ?_
                refine sm_getA 37 C hM fo_X6_74_6 rfl (by decide) dX6_odds_94 ?_
                refine s_iconst C (0 : Int32) dX6_odds_97 (by decide) ?_
                refine sm_callV C 2 [] (ct_X6_brings hL hM M13 37 (0 : Int32)) (lw_V q3355 q3357 qs86 q147 q3358) nd_X6_brings rfl (le_fr hf rfl) (le_fr hlo rfl) rfl (Nat.le_of_ble_eq_true rfl) dX6_odds_98 fun _ M15 => ?_
                refine s_iinc (la' := [(5, .int (x5 + (1 : Int32))), (4, .int a14), (0, vr mo), (1, .int x1), (2, .int x2), (3, .int x3)]) C 5 dX6_odds_101 rfl rfl (lt_nl e5 rfl) rfl ?_
                refine s_goto C 39 dX6_odds_104 (by decide) ?_
                refine Sim.keep [2, 3, 4, 5, 1, 0] rfl ?_
                exact hr39 _ _
              refine s_if_eq C 88 dX6_odds_81 (by decide) ?_ ?_
              · refine s_iconst C (0 : Int32) dX6_odds_88 (by decide) ?_
                refine Sim.keep [0, 1, 2, 3, 5] rfl ?_
                exact hj89 _ _ _ _
              · refine s_iconst C (1 : Int32) dX6_odds_84 (by decide) ?_
                refine s_goto C 89 dX6_odds_85 (by decide) ?_
                refine Sim.keep [0, 1, 2, 3, 5] rfl ?_
                exact hj89 _ _ _ _
            · refine s_aload_n C dX6_odds_63 0 rfl rfl ?_
              refine sm_callI C 0 [] (ct_X6_drawDeed hL hM M10 ) (lw_V q3452 q3454 qs93 q147 q3455) nd_X6_drawDeed rfl (le_fr hf rfl) (le_fr hlo rfl) rfl (Nat.le_of_ble_eq_true rfl) dX6_odds_64 fun r17 M16 => ?_
              refine s_pop C dX6_odds_67 rfl ?_
              refine s_iinc (la' := [(6, .int (v56 + (1 : Int32))), (0, vr mo), (1, .int x1), (2, .int x2), (3, .int x3), (4, .int x4), (5, .int x5)]) C 6 dX6_odds_68 rfl rfl (lt_nl e5 rfl) rfl ?_
              refine s_goto C 56 dX6_odds_71 (by decide) ?_
              refine Sim.keep [1, 2, 3, 4, 5, 6, 0] rfl ?_
              exact hr56 _ _
          refine s_istore (la' := [(6, .int (0 : Int32)), (0, vr mo), (1, .int x1), (2, .int x2), (3, .int x3), (4, .int v39.1), (5, .int v39.2)]) C dX6_odds_54 (lt_nl e5 rfl) rfl ?_
          refine Sim.keep [1, 2, 3, 4, 5, 6, 0] rfl ?_
          exact hL56 _ _ _ _
      refine s_istore (la' := [(5, .int (0 : Int32)), (4, .int (0 : Int32)), (0, vr mo), (1, .int x1), (2, .int x2), (3, .int x3)]) C dX6_odds_37 (lt_nl e5 rfl) rfl ?_
      refine Sim.keep [2, 3, 4, 5, 1, 0] rfl ?_
      exact hL39 _ _ _ _ _
    · refine Sim.keep [] rfl ?_
      exact hj23 _

def g_offends_j29  (M4 : Ms) : Option (Int32 × Ms) :=
  some ((-1 : Int32), M4)
def g_offends_j61 (y0 : Int32) (M13 : Ms) : Option (Int32 × Ms) :=
  some (y0, M13)
def g_offends (x1 : Int32) (x2 : Int32) (x3 : Int32) (M : Ms) : Option (Int32 × Ms) :=
  bd (mI 0 (0 : Int32) M) fun M1 =>
  bn (g_isVoter x1 M1) fun r3 M2 =>
  if r3 = 0 then
    g_offends_j29 M2
  else
    bn (g_isBlock x2 M2) fun r6 M5 =>
    if r6 = 0 then
      g_offends_j29 M5
    else
      bn (g_isBlock x3 M5) fun r8 M7 =>
      if r8 = 0 then
        g_offends_j29 M7
      else
        bn (g_whyVote x1 x2 x3 M7) fun r10 M9 =>
        bn (g_isIn r10 (1 : Int32) (3 : Int32) M9) fun r12 M11 =>
        if r12 = 0 then
          bn (g_offenceOf x1 x2 x3 M11) fun r15 M14 =>
          g_offends_j61 r15 M14
        else
          g_offends_j61 (-1 : Int32) M11
theorem nd_X6_offends : yX6_offends.cls = RX6 ∧ yX6_offends.cls ≠ "java/lang/invoke/MethodHandle" ∧ yX6_offends.cls ≠ "java/lang/invoke/VarHandle" ∧ (parseMethodDescriptor yX6_offends.desc).map (fun d => d.parameters.length) = some 3 := ⟨rfl, by decide +kernel, by decide +kernel, by decide +kernel⟩
theorem ct_X6_offends {G : Gx} {RL : Lv} {Pl : Nat → Bool} {l : Launch} (hL : LvA G RL Pl) {h0 : Hp} {mo : Nat} (hM : MP Pl mo) (M : Ms) (x1 : Int32) (x2 : Int32) (x3 : Int32) : Ct (plug h0 mo) G RL l yX6_offends (ws_ yX6_offends cX6_offends 5 (some .int)) 8 186 finI [vr mo, .int x1, .int x2, .int x3] M (g_offends x1 x2 x3 M) := by
  refine Ct.of (Pl := Pl) [(0, vr mo), (1, .int x1), (2, .int x2), (3, .int x3)] (by decide) hL rfl (Nat.le_of_ble_eq_true rfl) ?_
  intro E C hn hf hlo e1 e2 e3 e4 e5
  subst e1; subst e2; subst e3; subst e4
  replace C : Cx E cX6_offends (some .int) RX6 := C
  unfold g_offends
  refine s_aload_n C dX6_offends_0 0 rfl rfl ?_
  refine s_iconst C (0 : Int32) dX6_offends_1 (by decide) ?_
  refine sm_putI 0 0 C hM fo_X6_1_6 rfl ⟨by decide, by decide, rfl⟩ rfl rfl dX6_offends_2 ?_
  refine s_bdh fun M1 => ?_
  refine s_aload_n C dX6_offends_5 0 rfl rfl ?_
  refine s_iload_n C dX6_offends_6 1 rfl rfl ?_
  refine sm_callI C 1 [] (ct_X6_isVoter hL hM M1 x1) (lw_V q3287 q3289 qs76 q147 q3290) nd_X6_isVoter rfl (le_fr hf rfl) (le_fr hlo rfl) rfl (Nat.le_of_ble_eq_true rfl) dX6_offends_7 fun r3 M2 => ?_
  have hj29 : ∀  (M4 : Ms), Sim (plug h0 mo) E (QM (plug h0 mo) E finI) M4 29 [] [] (g_offends_j29 M4) := by
    intro M4
    refine s_iconst C (-1 : Int32) dX6_offends_29 (by decide) ?_
    exact s_iret C rfl dX6_offends_30
  refine s_if_eq C 29 dX6_offends_10 (by decide) ?_ ?_
  · refine Sim.keep [] rfl ?_
    exact hj29 _
  · refine s_aload_n C dX6_offends_13 0 rfl rfl ?_
    refine s_iload_n C dX6_offends_14 2 rfl rfl ?_
    refine sm_callI C 1 [] (ct_X6_isBlock hL hM M2 x2) (lw_V q3193 q3195 qs57 q147 q3196) nd_X6_isBlock rfl (le_fr hf rfl) (le_fr hlo rfl) rfl (Nat.le_of_ble_eq_true rfl) dX6_offends_15 fun r6 M5 => ?_
    refine s_if_eq C 29 dX6_offends_18 (by decide) ?_ ?_
    · refine Sim.keep [] rfl ?_
      exact hj29 _
    · refine s_aload_n C dX6_offends_21 0 rfl rfl ?_
      refine s_iload_n C dX6_offends_22 3 rfl rfl ?_
      refine sm_callI C 1 [] (ct_X6_isBlock hL hM M5 x3) (lw_V q3193 q3195 qs57 q147 q3196) nd_X6_isBlock rfl (le_fr hf rfl) (le_fr hlo rfl) rfl (Nat.le_of_ble_eq_true rfl) dX6_offends_23 fun r8 M7 => ?_
      refine s_if_ne C 31 dX6_offends_26 (by decide) ?_ ?_
      · refine s_aload_n C dX6_offends_31 0 rfl rfl ?_
        refine s_iload_n C dX6_offends_32 1 rfl rfl ?_
        refine s_iload_n C dX6_offends_33 2 rfl rfl ?_
        refine s_iload_n C dX6_offends_34 3 rfl rfl ?_
        refine sm_callI C 3 [] (ct_X6_whyVote hL hM M7 x1 x2 x3) (lw_V q3315 q3317 qs79 q147 q3318) nd_X6_whyVote rfl (le_fr hf rfl) (le_fr hlo rfl) rfl (Nat.le_of_ble_eq_true rfl) dX6_offends_35 fun r10 M9 => ?_
        refine s_istore (la' := [(4, .int r10), (0, vr mo), (1, .int x1), (2, .int x2), (3, .int x3)]) C dX6_offends_38 (lt_nl e5 rfl) rfl ?_
        refine s_iload C dX6_offends_40 0 rfl ?_
        refine s_iconst C (1 : Int32) dX6_offends_42 (by decide) ?_
        refine s_iconst C (3 : Int32) dX6_offends_43 (by decide) ?_
        refine sm_callSI C 3 [] (ct_X6_isIn hL hM M9 r10 (1 : Int32) (3 : Int32)) (lw_S q3150 q3151 q147 q3152) nd_X6_isIn rfl (le_fr hf rfl) (le_fr hlo rfl) rfl (Nat.le_of_ble_eq_true rfl) dX6_offends_44 fun r12 M11 => ?_
        have hj61 : ∀ (y0 : Int32) (M13 : Ms), Sim (plug h0 mo) E (QM (plug h0 mo) E finI) M13 61 [] [.int y0] (g_offends_j61 y0 M13) := by
          intro y0 M13
          exact s_iret C rfl dX6_offends_61
        refine s_if_eq C 54 dX6_offends_47 (by decide) ?_ ?_
        · refine s_aload_n C dX6_offends_54 1 rfl rfl ?_
          refine s_iload_n C dX6_offends_55 2 rfl rfl ?_
          refine s_iload_n C dX6_offends_56 3 rfl rfl ?_
          refine s_iload_n C dX6_offends_57 4 rfl rfl ?_
          refine sm_callI C 3 [] (ct_X6_offenceOf hL hM M11 x1 x2 x3) (lw_V q3363 q3365 qs87 q147 q3366) nd_X6_offenceOf rfl (le_fr hf rfl) (le_fr hlo rfl) rfl (Nat.le_of_ble_eq_true rfl) dX6_offends_58 fun r15 M14 => ?_
          refine Sim.keep [] rfl ?_
          exact hj61 _ _
        · refine s_iconst C (-1 : Int32) dX6_offends_50 (by decide) ?_
          refine s_goto C 61 dX6_offends_51 (by decide) ?_
          refine Sim.keep [] rfl ?_
          exact hj61 _ _
      · refine Sim.keep [] rfl ?_
        exact hj29 _

def g_operand_j56  (M8 : Ms) : Option (Int32 × Ms) :=
  bn (g_bad (4 : Int32) M8) fun r10 M9 =>
  if nrw 2 r10 = r10 then some (r10, M9) else none
def g_operand_j103 (y1 : Int32) (y2 : Int32) (M14 : Ms) : Option (Int32 × Ms) :=
  (sI 0 48 y1 y2 M14).bind fun M15 =>
  bd (mI 51 ((M15.1 51) + (1 : Int32)) M15) fun M16 =>
  bd (mI 52 ((M16.1 52) + (1 : Int32)) M16) fun M17 =>
  if nrw 2 (1 : Int32) = (1 : Int32) then some ((1 : Int32), M17) else none
def g_operand_j84 (x1 : Int32) (M13 : Ms) : Option (Int32 × Ms) :=
  if x1 = 0 then
    g_operand_j103 (M13.1 51) (23 : Int32) M13
  else
    g_operand_j103 (M13.1 51) (20 : Int32) M13
def g_operand_j205  (M19 : Ms) : Option (Int32 × Ms) :=
  bn (g_bad (1 : Int32) M19) fun r21 M20 =>
  if nrw 2 r21 = r21 then some (r21, M20) else none
def g_operand_j38 (x1 : Int32) (x2 : Int32) (x3 : Int32) (M7 : Ms) : Option (Int32 × Ms) :=
  if (M7.1 50) = (20 : Int32) then
    g_operand_j56 M7
  else
    if (M7.1 52) ≤ (8 : Int32) then
      bd (mI 50 ((M7.1 50) + (1 : Int32)) M7) fun M11 =>
      bn (g_next  M11) fun _ M12 =>
      if x1 = 0 then
        if x2 = 0 then
          (pZ 53 (1 : Int32) M12).bind fun M18 =>
          if (5 : Int32) ≤ x3 then
            if x3 = (5 : Int32) then
              (aI 0 6 (2 : Int32) M18).bind fun a28 =>
              bn (g_takesName (8 : Int32) a28 M18) fun r30 M29 =>
              if r30 = 0 then
                if nrw 2 (0 : Int32) = (0 : Int32) then some ((0 : Int32), M29) else none
              else
                bn (g_code x3 (0 : Int32) (M29.1 19) M29) fun _ M31 =>
                if nrw 2 (1 : Int32) = (1 : Int32) then some ((1 : Int32), M31) else none
            else
              if (M18.1 12) = (3 : Int32) then
                if (M18.1 15) < (60 : Int32) then
                  g_operand_j205 M18
                else
                  if (M18.1 15) ≤ (62 : Int32) then
                    bd ((M18.1 15)) fun a22 =>
                    bn (g_next  M18) fun _ M23 =>
                    if (M23.1 12) = (2 : Int32) then
                      bn (g_code x3 a22 (M23.1 15) M23) fun _ M24 =>
                      bn (g_next  M24) fun _ M25 =>
                      if nrw 2 (1 : Int32) = (1 : Int32) then some ((1 : Int32), M25) else none
                    else
                      bn (g_bad (1 : Int32) M23) fun r27 M26 =>
                      if nrw 2 r27 = r27 then some (r27, M26) else none
                  else
                    g_operand_j205 M18
              else
                g_operand_j205 M18
          else
            bn (g_code x3 (0 : Int32) (0 : Int32) M18) fun _ M32 =>
            if nrw 2 (1 : Int32) = (1 : Int32) then some ((1 : Int32), M32) else none
        else
          g_operand_j84 x1 M12
      else
        g_operand_j84 x1 M12
    else
      g_operand_j56 M7
def g_operand  (M : Ms) : Option (Int32 × Ms) :=
  bn (g_isWord (7237492 : Int64) M) fun r2 M1 =>
  bn (g_isSign (40 : Int32) M1) fun r4 M3 =>
  bn (g_leafOf  M3) fun r6 M5 =>
  if r2 = 0 then
    if r4 = 0 then
      if 0 ≤ r6 then
        g_operand_j38 r2 r4 r6 M5
      else
        bn (g_bad (1 : Int32) M5) fun r34 M33 =>
        if nrw 2 r34 = r34 then some (r34, M33) else none
    else
      g_operand_j38 r2 r4 r6 M5
  else
    g_operand_j38 r2 r4 r6 M5
theorem nd_X6_operand : yX6_operand.cls = RX6 ∧ yX6_operand.cls ≠ "java/lang/invoke/MethodHandle" ∧ yX6_operand.cls ≠ "java/lang/invoke/VarHandle" ∧ (parseMethodDescriptor yX6_operand.desc).map (fun d => d.parameters.length) = some 0 := ⟨rfl, by decide +kernel, by decide +kernel, by decide +kernel⟩
theorem ct_X6_operand {G : Gx} {RL : Lv} {Pl : Nat → Bool} {l : Launch} (hL : LvA G RL Pl) {h0 : Hp} {mo : Nat} (hM : MP Pl mo) (M : Ms)  : Ct (plug h0 mo) G RL l yX6_operand (ws_ yX6_operand cX6_operand 5 (some .boolean)) 3 65 finI [vr mo] M (g_operand M) := by
  refine Ct.of (Pl := Pl) [(0, vr mo)] (by decide) hL rfl (Nat.le_of_ble_eq_true rfl) ?_
  intro E C hn hf hlo e1 e2 e3 e4 e5
  subst e1; subst e2; subst e3; subst e4
  replace C : Cx E cX6_operand (some .boolean) RX6 := C
  unfold g_operand
  refine s_aload_n C dX6_operand_0 0 rfl rfl ?_
  refine s_ldc2 C q2920 dX6_operand_1 ?_
  refine sm_callI C 1 [] (ct_X6_isWord hL hM M (7237492 : Int64)) (lw_V q3134 q3136 qs45 q147 q3137) nd_X6_isWord rfl (le_fr hf rfl) (le_fr hlo rfl) rfl (Nat.le_of_ble_eq_true rfl) dX6_operand_4 fun r2 M1 => ?_
  refine s_istore_n (la' := [(1, .int r2), (0, vr mo)]) C 1 dX6_operand_7 rfl (lt_nl e5 rfl) rfl ?_
  refine s_aload_n C dX6_operand_8 1 rfl rfl ?_
  refine s_bipush C (40 : Int32) dX6_operand_9 (by decide) ?_
  refine sm_callI C 1 [] (ct_X6_isSign hL hM M1 (40 : Int32)) (lw_V q3181 q3183 qs56 q147 q3184) nd_X6_isSign rfl (le_fr hf rfl) (le_fr hlo rfl) rfl (Nat.le_of_ble_eq_true rfl) dX6_operand_11 fun r4 M3 => ?_
  refine s_istore_n (la' := [(2, .int r4), (1, .int r2), (0, vr mo)]) C 2 dX6_operand_14 rfl (lt_nl e5 rfl) rfl ?_
  refine s_aload_n C dX6_operand_15 2 rfl rfl ?_
  refine sm_callI C 0 [] (ct_X6_leafOf hL hM M3 ) (lw_V q3509 q3511 qs103 q147 q3512) nd_X6_leafOf rfl (le_fr hf rfl) (le_fr hlo rfl) rfl (Nat.le_of_ble_eq_true rfl) dX6_operand_16 fun r6 M5 => ?_
  refine s_istore_n (la' := [(3, .int r6), (2, .int r4), (1, .int r2), (0, vr mo)]) C 3 dX6_operand_19 rfl (lt_nl e5 rfl) rfl ?_
  refine s_iload_n C dX6_operand_20 2 rfl rfl ?_
  have hj38 : ∀ (x1 : Int32) (x2 : Int32) (x3 : Int32) (M7 : Ms), Sim (plug h0 mo) E (QM (plug h0 mo) E finI) M7 38 [(0, vr mo), (1, .int x1), (2, .int x2), (3, .int x3)] [] (g_operand_j38 x1 x2 x3 M7) := by
    intro x1 x2 x3 M7
    refine s_aload_n C dX6_operand_38 0 rfl rfl ?_
    refine sm_getI 50 C hM fo_X6_452_6 rfl dX6_operand_39 ?_
    refine s_bipush C (20 : Int32) dX6_operand_42 (by decide) ?_
    have hj56 : ∀  (M8 : Ms), Sim (plug h0 mo) E (QM (plug h0 mo) E finI) M8 56 [(0, vr mo)] [] (g_operand_j56 M8) := by
      intro M8
      refine s_aload_n C dX6_operand_56 0 rfl rfl ?_
      refine s_iconst C (4 : Int32) dX6_operand_57 (by decide) ?_
      refine sm_callI C 1 [] (ct_X6_bad hL hM M8 (4 : Int32)) (lw_V q3142 q3144 qs47 q147 q3145) nd_X6_bad rfl (le_fr hf rfl) (le_fr hlo rfl) rfl (Nat.le_of_ble_eq_true rfl) dX6_operand_58 fun r10 M9 => ?_
      exact s_zret 2 C (by decide) (by decide) rfl dX6_operand_61
    refine s_icmp_eq C 56 dX6_operand_44 (by decide) ?_ ?_
    · refine Sim.keep [0] rfl ?_
      exact hj56 _
    · refine s_aload_n C dX6_operand_47 0 rfl rfl ?_
      refine sm_getI 52 C hM fo_X6_446_6 rfl dX6_operand_48 ?_
      refine s_bipush C (8 : Int32) dX6_operand_51 (by decide) ?_
      refine s_icmp_le C 62 dX6_operand_53 (by decide) ?_ ?_
      · refine s_aload_n C dX6_operand_62 0 rfl rfl ?_
        refine s_dup C dX6_operand_63 rfl ?_
        refine sm_getI 50 C hM fo_X6_452_6 rfl dX6_operand_64 ?_
        refine s_iconst C (1 : Int32) dX6_operand_67 (by decide) ?_
        refine s_iadd C dX6_operand_68 ?_
        refine sm_putI 50 0 C hM fo_X6_452_6 rfl ⟨by decide, by decide, rfl⟩ rfl rfl dX6_operand_69 ?_
        refine s_bdh fun M11 => ?_
        refine s_aload_n C dX6_operand_72 0 rfl rfl ?_
        refine sm_callV C 0 [] (ct_X6_next hL hM M11 ) (lw_V q3116 q3118 qs42 q147 q3119) nd_X6_next rfl (le_fr hf rfl) (le_fr hlo rfl) rfl (Nat.le_of_ble_eq_true rfl) dX6_operand_73 fun _ M12 => ?_
        refine s_iload_n C dX6_operand_76 1 rfl rfl ?_
        have hj84 : ∀ (x1 : Int32) (M13 : Ms), Sim (plug h0 mo) E (QM (plug h0 mo) E finI) M13 84 [(0, vr mo), (1, .int x1)] [] (g_operand_j84 x1 M13) := by
          intro x1 M13
          refine s_aload_n C dX6_operand_84 0 rfl rfl ?_
          refine sm_getA 48 C hM fo_X6_89_6 rfl (by decide) dX6_operand_85 ?_
          refine s_aload_n C dX6_operand_88 0 rfl rfl ?_
          refine sm_getI 51 C hM fo_X6_440_6 rfl dX6_operand_89 ?_
          refine s_iload_n C dX6_operand_92 1 rfl rfl ?_
          have hj103 : ∀ (y1 : Int32) (y2 : Int32) (M14 : Ms), Sim (plug h0 mo) E (QM (plug h0 mo) E finI) M14 103 [(0, vr mo)] [.int y2, .int y1, vr (aid mo 48)] (g_operand_j103 y1 y2 M14) := by
            intro y1 y2 M14
            refine sm_iast C hM dX6_operand_103 fun M15 => ?_
            refine s_aload_n C dX6_operand_104 0 rfl rfl ?_
            refine s_dup C dX6_operand_105 rfl ?_
            refine sm_getI 51 C hM fo_X6_440_6 rfl dX6_operand_106 ?_
            refine s_iconst C (1 : Int32) dX6_operand_109 (by decide) ?_
            refine s_iadd C dX6_operand_110 ?_
            refine sm_putI 51 0 C hM fo_X6_440_6 rfl ⟨by decide, by decide, rfl⟩ rfl rfl dX6_operand_111 ?_
            refine s_bdh fun M16 => ?_
            refine s_aload_n C dX6_operand_114 0 rfl rfl ?_
            refine s_dup C dX6_operand_115 rfl ?_
            refine sm_getI 52 C hM fo_X6_446_6 rfl dX6_operand_116 ?_
            refine s_iconst C (1 : Int32) dX6_operand_119 (by decide) ?_
            refine s_iadd C dX6_operand_120 ?_
            refine sm_putI 52 0 C hM fo_X6_446_6 rfl ⟨by decide, by decide, rfl⟩ rfl rfl dX6_operand_121 ?_
            refine s_bdh fun M17 => ?_
            refine s_iconst C (1 : Int32) dX6_operand_124 (by decide) ?_
            exact s_zret 2 C (by decide) (by decide) rfl dX6_operand_125
          refine s_if_eq C 101 dX6_operand_93 (by decide) ?_ ?_
          · refine s_bipush C (23 : Int32) dX6_operand_101 (by decide) ?_
            refine Sim.keep [0] rfl ?_
            exact hj103 _ _ _
          · refine s_bipush C (20 : Int32) dX6_operand_96 (by decide) ?_
            refine s_goto C 103 dX6_operand_98 (by decide) ?_
            refine Sim.keep [0] rfl ?_
            exact hj103 _ _ _
        refine s_if_ne C 84 dX6_operand_77 (by decide) ?_ ?_
        · refine Sim.keep [0, 1] rfl ?_
          exact hj84 _ _
        · refine s_iload_n C dX6_operand_80 2 rfl rfl ?_
          refine s_if_eq C 126 dX6_operand_81 (by decide) ?_ ?_
          · refine s_aload_n C dX6_operand_126 0 rfl rfl ?_
            refine s_iconst C (1 : Int32) dX6_operand_127 (by decide) ?_
            refine sm_putZ 53 C hM fo_X6_455_6 rfl rfl rfl dX6_operand_128 fun M18 => ?_
            refine s_iload_n C dX6_operand_131 3 rfl rfl ?_
            refine s_iconst C (5 : Int32) dX6_operand_132 (by decide) ?_
            refine s_icmp_ge C 145 dX6_operand_133 (by decide) ?_ ?_
            · refine s_iload_n C dX6_operand_145 3 rfl rfl ?_
              refine s_iconst C (5 : Int32) dX6_operand_146 (by decide) ?_
              refine s_icmp_ne C 179 dX6_operand_147 (by decide) ?_ ?_
              · refine s_aload_n C dX6_operand_179 0 rfl rfl ?_
                refine sm_getI 12 C hM fo_X6_157_6 rfl dX6_operand_180 ?_
                refine s_iconst C (3 : Int32) dX6_operand_183 (by decide) ?_
                have hj205 : ∀  (M19 : Ms), Sim (plug h0 mo) E (QM (plug h0 mo) E finI) M19 205 [(0, vr mo)] [] (g_operand_j205 M19) := by
                  intro M19
                  refine s_aload_n C dX6_operand_205 0 rfl rfl ?_
                  refine s_iconst C (1 : Int32) dX6_operand_206 (by decide) ?_
                  refine sm_callI C 1 [] (ct_X6_bad hL hM M19 (1 : Int32)) (lw_V q3142 q3144 qs47 q147 q3145) nd_X6_bad rfl (le_fr hf rfl) (le_fr hlo rfl) rfl (Nat.le_of_ble_eq_true rfl) dX6_operand_207 fun r21 M20 => ?_
                  exact s_zret 2 C (by decide) (by decide) rfl dX6_operand_210
                refine s_icmp_ne C 205 dX6_operand_184 (by decide) ?_ ?_
                · refine Sim.keep [0] rfl ?_
                  exact hj205 _
                · refine s_aload_n C dX6_operand_187 0 rfl rfl ?_
                  refine sm_getI 15 C hM fo_X6_167_6 rfl dX6_operand_188 ?_
                  refine s_bipush C (60 : Int32) dX6_operand_191 (by decide) ?_
                  refine s_icmp_lt C 205 dX6_operand_193 (by decide) ?_ ?_
                  · refine Sim.keep [0] rfl ?_
                    exact hj205 _
                  · refine s_aload_n C dX6_operand_196 0 rfl rfl ?_
                    refine sm_getI 15 C hM fo_X6_167_6 rfl dX6_operand_197 ?_
                    refine s_bipush C (62 : Int32) dX6_operand_200 (by decide) ?_
                    refine s_icmp_le C 211 dX6_operand_202 (by decide) ?_ ?_
                    · refine s_aload_n C dX6_operand_211 0 rfl rfl ?_
                      refine sm_getI 15 C hM fo_X6_167_6 rfl dX6_operand_212 ?_
                      refine s_bdi fun a22 => ?_
                      refine s_istore (la' := [(4, .int a22), (0, vr mo), (1, .int x1), (2, .int x2), (3, .int x3)]) C dX6_operand_215 (lt_nl e5 rfl) rfl ?_
                      refine s_aload_n C dX6_operand_217 1 rfl rfl ?_
                      refine sm_callV C 0 [] (ct_X6_next hL hM M18 ) (lw_V q3116 q3118 qs42 q147 q3119) nd_X6_next rfl (le_fr hf rfl) (le_fr hlo rfl) rfl (Nat.le_of_ble_eq_true rfl) dX6_operand_218 fun _ M23 => ?_
                      refine s_aload_n C dX6_operand_221 1 rfl rfl ?_
                      refine sm_getI 12 C hM fo_X6_157_6 rfl dX6_operand_222 ?_
                      refine s_iconst C (2 : Int32) dX6_operand_225 (by decide) ?_
                      refine s_icmp_eq C 235 dX6_operand_226 (by decide) ?_ ?_
                      · refine s_aload_n C dX6_operand_235 1 rfl rfl ?_
                        refine s_iload_n C dX6_operand_236 4 rfl rfl ?_
                        refine s_iload C dX6_operand_237 0 rfl ?_
                        refine s_aload_n C dX6_operand_239 1 rfl rfl ?_
                        refine sm_getI 15 C hM fo_X6_167_6 rfl dX6_operand_240 ?_
                        refine sm_callV C 3 [] (ct_X6_code hL hM M23 x3 a22 (M23.1 15)) (lw_V q3493 q3495 qs99 q147 q3496) nd_X6_code rfl (le_fr hf rfl) (le_fr hlo rfl) rfl (Nat.le_of_ble_eq_true rfl) dX6_operand_243 fun _ M24 => ?_
                        refine s_aload_n C dX6_operand_246 1 rfl rfl ?_
                        refine sm_callV C 0 [] (ct_X6_next hL hM M24 ) (lw_V q3116 q3118 qs42 q147 q3119) nd_X6_next rfl (le_fr hf rfl) (le_fr hlo rfl) rfl (Nat.le_of_ble_eq_true rfl) dX6_operand_247 fun _ M25 => ?_
                        refine s_iconst C (1 : Int32) dX6_operand_250 (by decide) ?_
                        exact s_zret 2 C (by decide) (by decide) rfl dX6_operand_251
                      · refine s_aload_n C dX6_operand_229 1 rfl rfl ?_
                        refine s_iconst C (1 : Int32) dX6_operand_230 (by decide) ?_
                        refine sm_callI C 1 [] (ct_X6_bad hL hM M23 (1 : Int32)) (lw_V q3142 q3144 qs47 q147 q3145) nd_X6_bad rfl (le_fr hf rfl) (le_fr hlo rfl) rfl (Nat.le_of_ble_eq_true rfl) dX6_operand_231 fun r27 M26 => ?_
                        exact s_zret 2 C (by decide) (by decide) rfl dX6_operand_234
                    · refine Sim.keep [0] rfl ?_
                      exact hj205 _
              · refine s_aload_n C dX6_operand_150 0 rfl rfl ?_
                refine s_bipush C (8 : Int32) dX6_operand_151 (by decide) ?_
                refine s_aload_n C dX6_operand_153 0 rfl rfl ?_
                refine sm_getA 6 C hM fo_X6_33_6 rfl (by decide) dX6_operand_154 ?_
                refine s_iconst C (2 : Int32) dX6_operand_157 (by decide) ?_
                refine sm_iald C hM dX6_operand_158 fun a28 => ?_
                refine sm_callI C 2 [] (ct_X6_takesName hL hM M18 (8 : Int32) a28) (lw_V q3173 q3175 qs54 q147 q3176) nd_X6_takesName rfl (le_fr hf rfl) (le_fr hlo rfl) rfl (Nat.le_of_ble_eq_true rfl) dX6_operand_159 fun r30 M29 => ?_
                refine s_if_ne C 167 dX6_operand_162 (by decide) ?_ ?_
                · refine s_aload_n C dX6_operand_167 0 rfl rfl ?_
                  refine s_iload_n C dX6_operand_168 3 rfl rfl ?_
                  refine s_iconst C (0 : Int32) dX6_operand_169 (by decide) ?_
                  refine s_aload_n C dX6_operand_170 0 rfl rfl ?_
                  refine sm_getI 19 C hM fo_X6_193_6 rfl dX6_operand_171 ?_
                  refine sm_callV C 3 [] (ct_X6_code hL hM M29 x3 (0 : Int32) (M29.1 19)) (lw_V q3493 q3495 qs99 q147 q3496) nd_X6_code rfl (le_fr hf rfl) (le_fr hlo rfl) rfl (Nat.le_of_ble_eq_true rfl) dX6_operand_174 fun _ M31 => ?_
                  refine s_iconst C (1 : Int32) dX6_operand_177 (by decide) ?_
                  exact s_zret 2 C (by decide) (by decide) rfl dX6_operand_178
                · refine s_iconst C (0 : Int32) dX6_operand_165 (by decide) ?_
                  exact s_zret 2 C (by decide) (by decide) rfl dX6_operand_166
            · refine s_aload_n C dX6_operand_136 0 rfl rfl ?_
              refine s_iload_n C dX6_operand_137 3 rfl rfl ?_
              refine s_iconst C (0 : Int32) dX6_operand_138 (by decide) ?_
              refine s_iconst C (0 : Int32) dX6_operand_139 (by decide) ?_
              refine sm_callV C 3 [] (ct_X6_code hL hM M18 x3 (0 : Int32) (0 : Int32)) (lw_V q3493 q3495 qs99 q147 q3496) nd_X6_code rfl (le_fr hf rfl) (le_fr hlo rfl) rfl (Nat.le_of_ble_eq_true rfl) dX6_operand_140 fun _ M32 => ?_
              refine s_iconst C (1 : Int32) dX6_operand_143 (by decide) ?_
              exact s_zret 2 C (by decide) (by decide) rfl dX6_operand_144
          · refine Sim.keep [0, 1] rfl ?_
            exact hj84 _ _
      · refine Sim.keep [0] rfl ?_
        exact hj56 _
  refine s_if_ne C 38 dX6_operand_21 (by decide) ?_ ?_
  · refine Sim.keep [3, 2, 1, 0] rfl ?_
    exact hj38 _ _ _ _
  · refine s_iload_n C dX6_operand_24 1 rfl rfl ?_
    refine s_if_ne C 38 dX6_operand_25 (by decide) ?_ ?_
    · refine Sim.keep [3, 2, 1, 0] rfl ?_
      exact hj38 _ _ _ _
    · refine s_iload_n C dX6_operand_28 0 rfl rfl ?_
      refine s_if_ge C 38 dX6_operand_29 (by decide) ?_ ?_
      · refine Sim.keep [3, 2, 1, 0] rfl ?_
        exact hj38 _ _ _ _
      · refine s_aload_n C dX6_operand_32 3 rfl rfl ?_
        refine s_iconst C (1 : Int32) dX6_operand_33 (by decide) ?_
        refine sm_callI C 1 [] (ct_X6_bad hL hM M5 (1 : Int32)) (lw_V q3142 q3144 qs47 q147 q3145) nd_X6_bad rfl (le_fr hf rfl) (le_fr hlo rfl) rfl (Nat.le_of_ble_eq_true rfl) dX6_operand_34 fun r34 M33 => ?_
        exact s_zret 2 C (by decide) (by decide) rfl dX6_operand_37

def g_restore_j23  (M4 : Ms) : Option (Int32 × Ms) :=
  if nrw 2 (0 : Int32) = (0 : Int32) then some ((0 : Int32), M4) else none
def g_restore_L60 (x1 : Int32) : Int32 → Ms → Option (Int32 × Ms) :=
  lp FU fun rec60 v60 M7 =>
    if (28 : Int32) ≤ v60 then
      bd (mI 38 (0 : Int32) M7) fun M8 =>
      (pZ 34 (0 : Int32) M8).bind fun M9 =>
      if nrw 2 (1 : Int32) = (1 : Int32) then some ((1 : Int32), M9) else none
    else
      (aL 56 (((28 : Int32) * x1) + v60) M7).bind fun a10 =>
      (sL 10 v60 a10 M7).bind fun M11 =>
      rec60 (v60 + (1 : Int32)) M11
def g_restore_L27 (x1 : Int32) : Int32 → Ms → Option (Int32 × Ms) :=
  lp FU fun rec27 v27 M6 =>
    if (360 : Int32) ≤ v27 then
      g_restore_L60 x1 (0 : Int32) M6
    else
      (aI 0 55 (((360 : Int32) * x1) + v27) M6).bind fun a12 =>
      (sI 0 6 v27 a12 M6).bind fun M13 =>
      rec27 (v27 + (1 : Int32)) M13
def g_restore (x1 : Int32) (M : Ms) : Option (Int32 × Ms) :=
  bd (mI 0 (0 : Int32) M) fun M1 =>
  bn (g_isIn x1 (0 : Int32) (1 : Int32) M1) fun r3 M2 =>
  if r3 = 0 then
    g_restore_j23 M2
  else
    (aI 2 57 x1 M2).bind fun a5 =>
    if a5 = 0 then
      g_restore_j23 M2
    else
      g_restore_L27 x1 (0 : Int32) M2
theorem nd_X6_restore : yX6_restore.cls = RX6 ∧ yX6_restore.cls ≠ "java/lang/invoke/MethodHandle" ∧ yX6_restore.cls ≠ "java/lang/invoke/VarHandle" ∧ (parseMethodDescriptor yX6_restore.desc).map (fun d => d.parameters.length) = some 1 := ⟨rfl, by decide +kernel, by decide +kernel, by decide +kernel⟩
theorem ct_X6_restore {G : Gx} {RL : Lv} {Pl : Nat → Bool} {l : Launch} (hL : LvA G RL Pl) {h0 : Hp} {mo : Nat} (hM : MP Pl mo) (M : Ms) (x1 : Int32) : Ct (plug h0 mo) G RL l yX6_restore (ws_ yX6_restore cX6_restore 3 (some .boolean)) 1 22 finI [vr mo, .int x1] M (g_restore x1 M) := by
  refine Ct.of (Pl := Pl) [(0, vr mo), (1, .int x1)] (by decide) hL rfl (Nat.le_of_ble_eq_true rfl) ?_
  intro E C hn hf hlo e1 e2 e3 e4 e5
  subst e1; subst e2; subst e3; subst e4
  replace C : Cx E cX6_restore (some .boolean) RX6 := C
  unfold g_restore
  refine s_aload_n C dX6_restore_0 0 rfl rfl ?_
  refine s_iconst C (0 : Int32) dX6_restore_1 (by decide) ?_
  refine sm_putI 0 0 C hM fo_X6_1_6 rfl ⟨by decide, by decide, rfl⟩ rfl rfl dX6_restore_2 ?_
  refine s_bdh fun M1 => ?_
  refine s_iload_n C dX6_restore_5 1 rfl rfl ?_
  refine s_iconst C (0 : Int32) dX6_restore_6 (by decide) ?_
  refine s_iconst C (1 : Int32) dX6_restore_7 (by decide) ?_
  refine sm_callSI C 3 [] (ct_X6_isIn hL hM M1 x1 (0 : Int32) (1 : Int32)) (lw_S q3150 q3151 q147 q3152) nd_X6_isIn rfl (le_fr hf rfl) (le_fr hlo rfl) rfl (Nat.le_of_ble_eq_true rfl) dX6_restore_8 fun r3 M2 => ?_
  have hj23 : ∀  (M4 : Ms), Sim (plug h0 mo) E (QM (plug h0 mo) E finI) M4 23 [] [] (g_restore_j23 M4) := by
    intro M4
    refine s_iconst C (0 : Int32) dX6_restore_23 (by decide) ?_
    exact s_zret 2 C (by decide) (by decide) rfl dX6_restore_24
  refine s_if_eq C 23 dX6_restore_11 (by decide) ?_ ?_
  · refine Sim.keep [] rfl ?_
    exact hj23 _
  · refine s_aload_n C dX6_restore_14 0 rfl rfl ?_
    refine sm_getA 57 C hM fo_X6_102_6 rfl (by decide) dX6_restore_15 ?_
    refine s_iload_n C dX6_restore_18 1 rfl rfl ?_
    refine sm_zald C hM dX6_restore_19 fun a5 => ?_
    refine s_if_ne C 25 dX6_restore_20 (by decide) ?_ ?_
    · refine s_iconst C (0 : Int32) dX6_restore_25 (by decide) ?_
      have hL27 : ∀ (x1 : Int32) (v27 : Int32) (M6 : Ms), Sim (plug h0 mo) E (QM (plug h0 mo) E finI) M6 27 [(0, vr mo), (1, .int x1), (2, .int v27)] [] (g_restore_L27 x1 v27 M6) := by
        intro x1 v27 M6
        refine Sim.loop (fun v27 => [(0, vr mo), (1, .int x1), (2, .int v27)]) (fun _ => []) (fun rec27 hr27 v27 M6 => ?_) FU v27 M6
        refine s_iload_n C dX6_restore_27 2 rfl rfl ?_
        refine s_sipush C (360 : Int32) dX6_restore_28 (by decide) ?_
        refine s_icmp_ge C 58 dX6_restore_31 (by decide) ?_ ?_
        · refine s_iconst C (0 : Int32) dX6_restore_58 (by decide) ?_
          have hL60 : ∀ (x1 : Int32) (v60 : Int32) (M7 : Ms), Sim (plug h0 mo) E (QM (plug h0 mo) E finI) M7 60 [(0, vr mo), (1, .int x1), (2, .int v60)] [] (g_restore_L60 x1 v60 M7) := by
            intro x1 v60 M7
            refine Sim.loop (fun v60 => [(0, vr mo), (1, .int x1), (2, .int v60)]) (fun _ => []) (fun rec60 hr60 v60 M7 => ?_) FU v60 M7
            refine s_iload_n C dX6_restore_60 2 rfl rfl ?_
            refine s_bipush C (28 : Int32) dX6_restore_61 (by decide) ?_
            refine s_icmp_ge C 89 dX6_restore_63 (by decide) ?_ ?_
            · refine s_aload_n C dX6_restore_89 0 rfl rfl ?_
              refine s_iconst C (0 : Int32) dX6_restore_90 (by decide) ?_
              refine sm_putI 38 0 C hM fo_X6_239_6 rfl ⟨by decide, by decide, rfl⟩ rfl rfl dX6_restore_91 ?_
              refine s_bdh fun M8 => ?_
              refine s_aload_n C dX6_restore_94 0 rfl rfl ?_
              refine s_iconst C (0 : Int32) dX6_restore_95 (by decide) ?_
              refine sm_putZ 34 C hM fo_X6_242_6 rfl rfl rfl dX6_restore_96 fun M9 => ?_
              refine s_iconst C (1 : Int32) dX6_restore_99 (by decide) ?_
              exact s_zret 2 C (by decide) (by decide) rfl dX6_restore_100
            · refine s_aload_n C dX6_restore_66 0 rfl rfl ?_
              refine sm_getA 10 C hM fo_X6_46_6 rfl (by decide) dX6_restore_67 ?_
              refine s_iload_n C dX6_restore_70 2 rfl rfl ?_
              refine s_aload_n C dX6_restore_71 0 rfl rfl ?_
              refine sm_getA 56 C hM fo_X6_99_6 rfl (by decide) dX6_restore_72 ?_
              refine s_bipush C (28 : Int32) dX6_restore_75 (by decide) ?_
              refine s_iload_n C dX6_restore_77 1 rfl rfl ?_
              refine s_imul C dX6_restore_78 ?_
              refine s_iload_n C dX6_restore_79 2 rfl rfl ?_
              refine s_iadd C dX6_restore_80 ?_
              refine sm_lald C hM dX6_restore_81 fun a10 => ?_
              refine sm_last C hM dX6_restore_82 fun M11 => ?_
              refine s_iinc (la' := [(2, .int (v60 + (1 : Int32))), (0, vr mo), (1, .int x1)]) C 2 dX6_restore_83 rfl rfl (lt_nl e5 rfl) rfl ?_
              refine s_goto C 60 dX6_restore_86 (by decide) ?_
              refine Sim.keep [1, 2, 0] rfl ?_
              exact hr60 _ _
          refine s_istore_n (la' := [(2, .int (0 : Int32)), (0, vr mo), (1, .int x1)]) C 2 dX6_restore_59 rfl (lt_nl e5 rfl) rfl ?_
          refine Sim.keep [1, 2, 0] rfl ?_
          exact hL60 _ _ _
        · refine s_aload_n C dX6_restore_34 0 rfl rfl ?_
          refine sm_getA 6 C hM fo_X6_33_6 rfl (by decide) dX6_restore_35 ?_
          refine s_iload_n C dX6_restore_38 2 rfl rfl ?_
          refine s_aload_n C dX6_restore_39 0 rfl rfl ?_
          refine sm_getA 55 C hM fo_X6_96_6 rfl (by decide) dX6_restore_40 ?_
          refine s_sipush C (360 : Int32) dX6_restore_43 (by decide) ?_
          refine s_iload_n C dX6_restore_46 1 rfl rfl ?_
          refine s_imul C dX6_restore_47 ?_
          refine s_iload_n C dX6_restore_48 2 rfl rfl ?_
          refine s_iadd C dX6_restore_49 ?_
          refine sm_iald C hM dX6_restore_50 fun a12 => ?_
          refine sm_iast C hM dX6_restore_51 fun M13 => ?_
          refine s_iinc (la' := [(2, .int (v27 + (1 : Int32))), (0, vr mo), (1, .int x1)]) C 2 dX6_restore_52 rfl rfl (lt_nl e5 rfl) rfl ?_
          refine s_goto C 27 dX6_restore_55 (by decide) ?_
          refine Sim.keep [1, 2, 0] rfl ?_
          exact hr27 _ _
      refine s_istore_n (la' := [(2, .int (0 : Int32)), (0, vr mo), (1, .int x1)]) C 2 dX6_restore_26 rfl (lt_nl e5 rfl) rfl ?_
      refine Sim.keep [1, 2, 0] rfl ?_
      exact hL27 _ _ _
    · refine Sim.keep [] rfl ?_
      exact hj23 _

def g_said_j21  (M3 : Ms) : Option (Int32 × Ms) :=
  some ((-1 : Int32), M3)
def g_said_j78 (y0 : Int32) (M7 : Ms) : Option (Int32 × Ms) :=
  some (y0, M7)
def g_said_j62 (rec31 : (Int32 × Int32) → Ms → Option (Int32 × Ms)) (x1 : Int32) (x2 : Int32) (x3 : Int32) (M10 : Ms) : Option (Int32 × Ms) :=
  rec31 (x2, (x3 + (1 : Int32))) M10
def g_said_L31 (x1 : Int32) : (Int32 × Int32) → Ms → Option (Int32 × Ms) :=
  lp FU fun rec31 v31 M5 =>
    (aI 0 6 (2 : Int32) M5).bind fun a6 =>
    if a6 ≤ v31.2 then
      if x1 = (-1 : Int32) then
        g_said_j78 v31.1 M5
      else
        g_said_j78 (-1 : Int32) M5
    else
      bn (g_isSaid v31.2 M5) fun r9 M8 =>
      if r9 = 0 then
        g_said_j62 rec31 x1 v31.1 v31.2 M8
      else
        if v31.1 = x1 then
          some (v31.2, M8)
        else
          g_said_j62 rec31 x1 (v31.1 + (1 : Int32)) v31.2 M8
def g_said (x1 : Int32) (M : Ms) : Option (Int32 × Ms) :=
  bd (mI 0 (0 : Int32) M) fun M1 =>
  (aI 0 6 (224 : Int32) M1).bind fun a2 =>
  if a2 = 0 then
    g_said_j21 M1
  else
    if (-1 : Int32) ≤ x1 then
      bn (g_lays  M1) fun _ M4 =>
      g_said_L31 x1 ((0 : Int32), (0 : Int32)) M4
    else
      g_said_j21 M1
theorem nd_X6_said : yX6_said.cls = RX6 ∧ yX6_said.cls ≠ "java/lang/invoke/MethodHandle" ∧ yX6_said.cls ≠ "java/lang/invoke/VarHandle" ∧ (parseMethodDescriptor yX6_said.desc).map (fun d => d.parameters.length) = some 1 := ⟨rfl, by decide +kernel, by decide +kernel, by decide +kernel⟩
theorem ct_X6_said {G : Gx} {RL : Lv} {Pl : Nat → Bool} {l : Launch} (hL : LvA G RL Pl) {h0 : Hp} {mo : Nat} (hM : MP Pl mo) (M : Ms) (x1 : Int32) : Ct (plug h0 mo) G RL l yX6_said (ws_ yX6_said cX6_said 4 (some .int)) 10 234 finI [vr mo, .int x1] M (g_said x1 M) := by
  refine Ct.of (Pl := Pl) [(0, vr mo), (1, .int x1)] (by decide) hL rfl (Nat.le_of_ble_eq_true rfl) ?_
  intro E C hn hf hlo e1 e2 e3 e4 e5
  subst e1; subst e2; subst e3; subst e4
  replace C : Cx E cX6_said (some .int) RX6 := C
  unfold g_said
  refine s_aload_n C dX6_said_0 0 rfl rfl ?_
  refine s_iconst C (0 : Int32) dX6_said_1 (by decide) ?_
  refine sm_putI 0 0 C hM fo_X6_1_6 rfl ⟨by decide, by decide, rfl⟩ rfl rfl dX6_said_2 ?_
  refine s_bdh fun M1 => ?_
  refine s_aload_n C dX6_said_5 0 rfl rfl ?_
  refine sm_getA 6 C hM fo_X6_33_6 rfl (by decide) dX6_said_6 ?_
  refine s_sipush C (224 : Int32) dX6_said_9 (by decide) ?_
  refine sm_iald C hM dX6_said_12 fun a2 => ?_
  have hj21 : ∀  (M3 : Ms), Sim (plug h0 mo) E (QM (plug h0 mo) E finI) M3 21 [] [] (g_said_j21 M3) := by
    intro M3
    refine s_iconst C (-1 : Int32) dX6_said_21 (by decide) ?_
    exact s_iret C rfl dX6_said_22
  refine s_if_eq C 21 dX6_said_13 (by decide) ?_ ?_
  · refine Sim.keep [] rfl ?_
    exact hj21 _
  · refine s_iload_n C dX6_said_16 1 rfl rfl ?_
    refine s_iconst C (-1 : Int32) dX6_said_17 (by decide) ?_
    refine s_icmp_ge C 23 dX6_said_18 (by decide) ?_ ?_
    · refine s_aload_n C dX6_said_23 0 rfl rfl ?_
      refine sm_callV C 0 [] (ct_X6_lays hL hM M1 ) (lw_V q3201 q3203 qs59 q147 q3204) nd_X6_lays rfl (le_fr hf rfl) (le_fr hlo rfl) rfl (Nat.le_of_ble_eq_true rfl) dX6_said_24 fun _ M4 => ?_
      refine s_iconst C (0 : Int32) dX6_said_27 (by decide) ?_
      refine s_istore_n (la' := [(2, .int (0 : Int32)), (0, vr mo), (1, .int x1)]) C 2 dX6_said_28 rfl (lt_nl e5 rfl) rfl ?_
      refine s_iconst C (0 : Int32) dX6_said_29 (by decide) ?_
      have hL31 : ∀ (x1 : Int32) (v31 : (Int32 × Int32)) (M5 : Ms), Sim (plug h0 mo) E (QM (plug h0 mo) E finI) M5 31 [(0, vr mo), (1, .int x1), (2, .int v31.1), (3, .int v31.2)] [] (g_said_L31 x1 v31 M5) := by
        intro x1 v31 M5
        refine Sim.loop (fun v31 => [(0, vr mo), (1, .int x1), (2, .int v31.1), (3, .int v31.2)]) (fun _ => []) (fun rec31 hr31 v31 M5 => ?_) FU v31 M5
        refine s_iload_n C dX6_said_31 3 rfl rfl ?_
        refine s_aload_n C dX6_said_32 0 rfl rfl ?_
        refine sm_getA 6 C hM fo_X6_33_6 rfl (by decide) dX6_said_33 ?_
        refine s_iconst C (2 : Int32) dX6_said_36 (by decide) ?_
        refine sm_iald C hM dX6_said_37 fun a6 => ?_
        refine s_icmp_ge C 68 dX6_said_38 (by decide) ?_ ?_
        · refine s_iload_n C dX6_said_68 1 rfl rfl ?_
          refine s_iconst C (-1 : Int32) dX6_said_69 (by decide) ?_
          have hj78 : ∀ (y0 : Int32) (M7 : Ms), Sim (plug h0 mo) E (QM (plug h0 mo) E finI) M7 78 [] [.int y0] (g_said_j78 y0 M7) := by
            intro y0 M7
            exact s_iret C rfl dX6_said_78
          refine s_icmp_ne C 77 dX6_said_70 (by decide) ?_ ?_
          · refine s_iconst C (-1 : Int32) dX6_said_77 (by decide) ?_
            refine Sim.keep [] rfl ?_
            exact hj78 _ _
          · refine s_iload_n C dX6_said_73 2 rfl rfl ?_
            refine s_goto C 78 dX6_said_74 (by decide) ?_
            refine Sim.keep [] rfl ?_
            exact hj78 _ _
        · refine s_aload_n C dX6_said_41 0 rfl rfl ?_
          refine s_iload_n C dX6_said_42 3 rfl rfl ?_
          refine sm_callI C 1 [] (ct_X6_isSaid hL hM M5 v31.2) (lw_V q3517 q3519 qs104 q147 q3520) nd_X6_isSaid rfl (le_fr hf rfl) (le_fr hlo rfl) rfl (Nat.le_of_ble_eq_true rfl) dX6_said_43 fun r9 M8 => ?_
          have hj62 : ∀ (x2 : Int32) (x3 : Int32) (M10 : Ms), Sim (plug h0 mo) E (QM (plug h0 mo) E finI) M10 62 [(0, vr mo), (1, .int x1), (2, .int x2), (3, .int x3)] [] (g_said_j62 rec31 x1 x2 x3 M10) := by
            intro x2 x3 M10
            refine s_iinc (la' := [(3, .int (x3 + (1 : Int32))), (0, vr mo), (1, .int x1), (2, .int x2)]) C 3 dX6_said_62 rfl rfl (lt_nl e5 rfl) rfl ?_
            refine s_goto C 31 dX6_said_65 (by decide) ?_
            refine Sim.keep [1, 2, 3, 0] rfl ?_
            exact hr31 _ _
          refine s_if_ne C 52 dX6_said_46 (by decide) ?_ ?_
          · refine s_iload_n C dX6_said_52 2 rfl rfl ?_
            refine s_iload_n C dX6_said_53 1 rfl rfl ?_
            refine s_icmp_ne C 59 dX6_said_54 (by decide) ?_ ?_
            · refine s_iinc (la' := [(2, .int (v31.1 + (1 : Int32))), (0, vr mo), (1, .int x1), (3, .int v31.2)]) C 2 dX6_said_59 rfl rfl (lt_nl e5 rfl) rfl ?_
              refine Sim.keep [1, 2, 0, 3] rfl ?_
              exact hj62 _ _ _
            · refine s_iload_n C dX6_said_57 3 rfl rfl ?_
              exact s_iret C rfl dX6_said_58
          · refine s_goto C 62 dX6_said_49 (by decide) ?_
            exact hj62 _ _ _
      refine s_istore_n (la' := [(3, .int (0 : Int32)), (2, .int (0 : Int32)), (0, vr mo), (1, .int x1)]) C 3 dX6_said_30 rfl (lt_nl e5 rfl) rfl ?_
      refine Sim.keep [2, 3, 1, 0] rfl ?_
      exact hL31 _ _ _
    · refine Sim.keep [] rfl ?_
      exact hj21 _

def g_sentence_L146  : Int32 → Ms → Option (Int32 × Ms) :=
  lp FU fun rec146 v146 M12 =>
    if ((3 : Int32) * (M12.1 49)) ≤ v146 then
      some ((M12.1 50), M12)
    else
      (aI 0 8 v146 M12).bind fun a13 =>
      (sI 0 6 ((225 : Int32) + v146) a13 M12).bind fun M14 =>
      rec146 (v146 + (1 : Int32)) M14
def g_sentence_j125  (M16 : Ms) : Option (Int32 × Ms) :=
  some (((-1 : Int32) - (M16.1 17)), M16)
def g_sentence_j101 (rec48 : Int32 → Ms → Option (Int32 × Ms)) (x1 : Int32) (M15 : Ms) : Option (Int32 × Ms) :=
  if (M15.1 53) = 0 then
    bn (g_operand  M15) fun r18 M17 =>
    if r18 = 0 then
      g_sentence_j125 M17
    else
      rec48 x1 M17
  else
    bn (g_behindOne  M15) fun r20 M19 =>
    if r20 = 0 then
      g_sentence_j125 M19
    else
      rec48 x1 M19
def g_sentence_L48  : Int32 → Ms → Option (Int32 × Ms) :=
  lp FU fun rec48 v48 M10 =>
    if v48 = 0 then
      (sI 0 6 (224 : Int32) (M10.1 49) M10).bind fun M11 =>
      g_sentence_L146 (0 : Int32) M11
    else
      if (M10.1 53) = 0 then
        g_sentence_j101 rec48 v48 M10
      else
        if (M10.1 12) = 0 then
          bn (g_nots  M10) fun _ M21 =>
          bn (g_joins (22 : Int32) M21) fun _ M22 =>
          if (M22.1 51) ≤ 0 then
            rec48 (0 : Int32) M22
          else
            bn (g_bad (1 : Int32) M22) fun r24 M23 =>
            some (((-1 : Int32) - (M23.1 17)), M23)
        else
          g_sentence_j101 rec48 v48 M10
def g_sentence  (M : Ms) : Option (Int32 × Ms) :=
  bd (mI 0 (0 : Int32) M) fun M1 =>
  bn (g_taken (200 : Int32) M1) fun _ M2 =>
  bd (mI 16 (0 : Int32) M2) fun M3 =>
  bd (mI 49 (0 : Int32) M3) fun M4 =>
  bd (mI 50 (0 : Int32) M4) fun M5 =>
  bd (mI 51 (0 : Int32) M5) fun M6 =>
  bd (mI 52 (1 : Int32) M6) fun M7 =>
  (pZ 53 (0 : Int32) M7).bind fun M8 =>
  bn (g_next  M8) fun _ M9 =>
  g_sentence_L48 (1 : Int32) M9
theorem nd_X6_sentence : yX6_sentence.cls = RX6 ∧ yX6_sentence.cls ≠ "java/lang/invoke/MethodHandle" ∧ yX6_sentence.cls ≠ "java/lang/invoke/VarHandle" ∧ (parseMethodDescriptor yX6_sentence.desc).map (fun d => d.parameters.length) = some 0 := ⟨rfl, by decide +kernel, by decide +kernel, by decide +kernel⟩
theorem ct_X6_sentence {G : Gx} {RL : Lv} {Pl : Nat → Bool} {l : Launch} (hL : LvA G RL Pl) {h0 : Hp} {mo : Nat} (hM : MP Pl mo) (M : Ms)  : Ct (plug h0 mo) G RL l yX6_sentence (ws_ yX6_sentence cX6_sentence 3 (some .int)) 4 89 finI [vr mo] M (g_sentence M) := by
  refine Ct.of (Pl := Pl) [(0, vr mo)] (by decide) hL rfl (Nat.le_of_ble_eq_true rfl) ?_
  intro E C hn hf hlo e1 e2 e3 e4 e5
  subst e1; subst e2; subst e3; subst e4
  replace C : Cx E cX6_sentence (some .int) RX6 := C
  unfold g_sentence
  refine s_aload_n C dX6_sentence_0 0 rfl rfl ?_
  refine s_iconst C (0 : Int32) dX6_sentence_1 (by decide) ?_
  refine sm_putI 0 0 C hM fo_X6_1_6 rfl ⟨by decide, by decide, rfl⟩ rfl rfl dX6_sentence_2 ?_
  refine s_bdh fun M1 => ?_
  refine s_aload_n C dX6_sentence_5 0 rfl rfl ?_
  refine s_sipush C (200 : Int32) dX6_sentence_6 (by decide) ?_
  refine sm_callV C 1 [] (ct_X6_taken hL hM M1 (200 : Int32)) (lw_V q3112 q3114 qs41 q147 q3115) nd_X6_taken rfl (le_fr hf rfl) (le_fr hlo rfl) rfl (Nat.le_of_ble_eq_true rfl) dX6_sentence_9 fun _ M2 => ?_
  refine s_aload_n C dX6_sentence_12 0 rfl rfl ?_
  refine s_iconst C (0 : Int32) dX6_sentence_13 (by decide) ?_
  refine sm_putI 16 0 C hM fo_X6_174_6 rfl ⟨by decide, by decide, rfl⟩ rfl rfl dX6_sentence_14 ?_
  refine s_bdh fun M3 => ?_
  refine s_aload_n C dX6_sentence_17 0 rfl rfl ?_
  refine s_iconst C (0 : Int32) dX6_sentence_18 (by decide) ?_
  refine sm_putI 49 0 C hM fo_X6_437_6 rfl ⟨by decide, by decide, rfl⟩ rfl rfl dX6_sentence_19 ?_
  refine s_bdh fun M4 => ?_
  refine s_aload_n C dX6_sentence_22 0 rfl rfl ?_
  refine s_iconst C (0 : Int32) dX6_sentence_23 (by decide) ?_
  refine sm_putI 50 0 C hM fo_X6_452_6 rfl ⟨by decide, by decide, rfl⟩ rfl rfl dX6_sentence_24 ?_
  refine s_bdh fun M5 => ?_
  refine s_aload_n C dX6_sentence_27 0 rfl rfl ?_
  refine s_iconst C (0 : Int32) dX6_sentence_28 (by decide) ?_
  refine sm_putI 51 0 C hM fo_X6_440_6 rfl ⟨by decide, by decide, rfl⟩ rfl rfl dX6_sentence_29 ?_
  refine s_bdh fun M6 => ?_
  refine s_aload_n C dX6_sentence_32 0 rfl rfl ?_
  refine s_iconst C (1 : Int32) dX6_sentence_33 (by decide) ?_
  refine sm_putI 52 0 C hM fo_X6_446_6 rfl ⟨by decide, by decide, rfl⟩ rfl rfl dX6_sentence_34 ?_
  refine s_bdh fun M7 => ?_
  refine s_aload_n C dX6_sentence_37 0 rfl rfl ?_
  refine s_iconst C (0 : Int32) dX6_sentence_38 (by decide) ?_
  refine sm_putZ 53 C hM fo_X6_455_6 rfl rfl rfl dX6_sentence_39 fun M8 => ?_
  refine s_aload_n C dX6_sentence_42 0 rfl rfl ?_
  refine sm_callV C 0 [] (ct_X6_next hL hM M8 ) (lw_V q3116 q3118 qs42 q147 q3119) nd_X6_next rfl (le_fr hf rfl) (le_fr hlo rfl) rfl (Nat.le_of_ble_eq_true rfl) dX6_sentence_43 fun _ M9 => ?_
  refine s_iconst C (1 : Int32) dX6_sentence_46 (by decide) ?_
  have hL48 : ∀  (v48 : Int32) (M10 : Ms), Sim (plug h0 mo) E (QM (plug h0 mo) E finI) M10 48 [(0, vr mo), (1, .int v48)] [] (g_sentence_L48  v48 M10) := by
    intro v48 M10
    refine Sim.loop (fun v48 => [(0, vr mo), (1, .int v48)]) (fun _ => []) (fun rec48 hr48 v48 M10 => ?_) FU v48 M10
    refine s_iload_n C dX6_sentence_48 1 rfl rfl ?_
    refine s_if_eq C 132 dX6_sentence_49 (by decide) ?_ ?_
    · refine s_aload_n C dX6_sentence_132 0 rfl rfl ?_
      refine sm_getA 6 C hM fo_X6_33_6 rfl (by decide) dX6_sentence_133 ?_
      refine s_sipush C (224 : Int32) dX6_sentence_136 (by decide) ?_
      refine s_aload_n C dX6_sentence_139 0 rfl rfl ?_
      refine sm_getI 49 C hM fo_X6_437_6 rfl dX6_sentence_140 ?_
      refine sm_iast C hM dX6_sentence_143 fun M11 => ?_
      refine s_iconst C (0 : Int32) dX6_sentence_144 (by decide) ?_
      have hL146 : ∀  (v146 : Int32) (M12 : Ms), Sim (plug h0 mo) E (QM (plug h0 mo) E finI) M12 146 [(0, vr mo), (2, .int v146)] [] (g_sentence_L146  v146 M12) := by
        intro v146 M12
        refine Sim.loop (fun v146 => [(0, vr mo), (2, .int v146)]) (fun _ => []) (fun rec146 hr146 v146 M12 => ?_) FU v146 M12
        refine s_iload_n C dX6_sentence_146 1 rfl rfl ?_
        refine s_iconst C (3 : Int32) dX6_sentence_147 (by decide) ?_
        refine s_aload_n C dX6_sentence_148 0 rfl rfl ?_
        refine sm_getI 49 C hM fo_X6_437_6 rfl dX6_sentence_149 ?_
        refine s_imul C dX6_sentence_152 ?_
        refine s_icmp_ge C 178 dX6_sentence_153 (by decide) ?_ ?_
        · refine s_aload_n C dX6_sentence_178 0 rfl rfl ?_
          refine sm_getI 50 C hM fo_X6_452_6 rfl dX6_sentence_179 ?_
          exact s_iret C rfl dX6_sentence_182
        · refine s_aload_n C dX6_sentence_156 0 rfl rfl ?_
          refine sm_getA 6 C hM fo_X6_33_6 rfl (by decide) dX6_sentence_157 ?_
          refine s_sipush C (225 : Int32) dX6_sentence_160 (by decide) ?_
          refine s_iload_n C dX6_sentence_163 1 rfl rfl ?_
          refine s_iadd C dX6_sentence_164 ?_
          refine s_aload_n C dX6_sentence_165 0 rfl rfl ?_
          refine sm_getA 8 C hM fo_X6_40_6 rfl (by decide) dX6_sentence_166 ?_
          refine s_iload_n C dX6_sentence_169 1 rfl rfl ?_
          refine sm_iald C hM dX6_sentence_170 fun a13 => ?_
          refine sm_iast C hM dX6_sentence_171 fun M14 => ?_
          refine s_iinc (la' := [(2, .int (v146 + (1 : Int32))), (0, vr mo)]) C 1 dX6_sentence_172 rfl rfl (lt_nl e5 rfl) rfl ?_
          refine s_goto C 146 dX6_sentence_175 (by decide) ?_
          refine Sim.keep [1, 0] rfl ?_
          exact hr146 _ _
      refine s_istore_n (la' := [(2, .int (0 : Int32)), (0, vr mo), (1, .int v48)]) C 2 dX6_sentence_145 rfl (lt_nl e5 rfl) rfl ?_
      refine Sim.keep [1, 0] rfl ?_
      exact hL146  _ _
    · refine s_aload_n C dX6_sentence_52 0 rfl rfl ?_
      refine sm_getI 53 C hM fo_X6_455_6 rfl dX6_sentence_53 ?_
      have hj101 : ∀ (x1 : Int32) (M15 : Ms), Sim (plug h0 mo) E (QM (plug h0 mo) E finI) M15 101 [(0, vr mo), (1, .int x1)] [] (g_sentence_j101 rec48 x1 M15) := by
        intro x1 M15
        refine s_aload_n C dX6_sentence_101 0 rfl rfl ?_
        refine sm_getI 53 C hM fo_X6_455_6 rfl dX6_sentence_102 ?_
        have hj125 : ∀  (M16 : Ms), Sim (plug h0 mo) E (QM (plug h0 mo) E finI) M16 125 [(0, vr mo)] [] (g_sentence_j125 M16) := by
          intro M16
          refine s_iconst C (-1 : Int32) dX6_sentence_125 (by decide) ?_
          refine s_aload_n C dX6_sentence_126 0 rfl rfl ?_
          refine sm_getI 17 C hM fo_X6_177_6 rfl dX6_sentence_127 ?_
          refine s_isub C dX6_sentence_130 ?_
          exact s_iret C rfl dX6_sentence_131
        refine s_if_eq C 118 dX6_sentence_105 (by decide) ?_ ?_
        · refine s_aload_n C dX6_sentence_118 0 rfl rfl ?_
          refine sm_callI C 0 [] (ct_X6_operand hL hM M15 ) (lw_V q3505 q3507 qs102 q147 q3508) nd_X6_operand rfl (le_fr hf rfl) (le_fr hlo rfl) rfl (Nat.le_of_ble_eq_true rfl) dX6_sentence_119 fun r18 M17 => ?_
          refine s_if_ne C 48 dX6_sentence_122 (by decide) ?_ ?_
          · exact hr48 _ _
          · refine Sim.keep [0] rfl ?_
            exact hj125 _
        · refine s_aload_n C dX6_sentence_108 0 rfl rfl ?_
          refine sm_callI C 0 [] (ct_X6_behindOne hL hM M15 ) (lw_V q3501 q3503 qs101 q147 q3504) nd_X6_behindOne rfl (le_fr hf rfl) (le_fr hlo rfl) rfl (Nat.le_of_ble_eq_true rfl) dX6_sentence_109 fun r20 M19 => ?_
          refine s_if_ne C 48 dX6_sentence_112 (by decide) ?_ ?_
          · exact hr48 _ _
          · refine s_goto C 125 dX6_sentence_115 (by decide) ?_
            refine Sim.keep [0] rfl ?_
            exact hj125 _
      refine s_if_eq C 101 dX6_sentence_56 (by decide) ?_ ?_
      · exact hj101 _ _
      · refine s_aload_n C dX6_sentence_59 0 rfl rfl ?_
        refine sm_getI 12 C hM fo_X6_157_6 rfl dX6_sentence_60 ?_
        refine s_if_ne C 101 dX6_sentence_63 (by decide) ?_ ?_
        · exact hj101 _ _
        · refine s_aload_n C dX6_sentence_66 0 rfl rfl ?_
          refine sm_callV C 0 [] (ct_X6_nots hL hM M10 ) (lw_V q3489 q3491 qs98 q147 q3492) nd_X6_nots rfl (le_fr hf rfl) (le_fr hlo rfl) rfl (Nat.le_of_ble_eq_true rfl) dX6_sentence_67 fun _ M21 => ?_
          refine s_aload_n C dX6_sentence_70 0 rfl rfl ?_
          refine s_bipush C (22 : Int32) dX6_sentence_71 (by decide) ?_
          refine sm_callV C 1 [] (ct_X6_joins hL hM M21 (22 : Int32)) (lw_V q3497 q3499 qs100 q147 q3500) nd_X6_joins rfl (le_fr hf rfl) (le_fr hlo rfl) rfl (Nat.le_of_ble_eq_true rfl) dX6_sentence_73 fun _ M22 => ?_
          refine s_aload_n C dX6_sentence_76 0 rfl rfl ?_
          refine sm_getI 51 C hM fo_X6_440_6 rfl dX6_sentence_77 ?_
          refine s_if_le C 96 dX6_sentence_80 (by decide) ?_ ?_
          · refine s_iconst C (0 : Int32) dX6_sentence_96 (by decide) ?_
            refine s_istore_n (la' := [(1, .int (0 : Int32)), (0, vr mo)]) C 1 dX6_sentence_97 rfl (lt_nl e5 rfl) rfl ?_
            refine s_goto C 48 dX6_sentence_98 (by decide) ?_
            refine Sim.keep [1, 0] rfl ?_
            exact hr48 _ _
          · refine s_aload_n C dX6_sentence_83 0 rfl rfl ?_
            refine s_iconst C (1 : Int32) dX6_sentence_84 (by decide) ?_
            refine sm_callI C 1 [] (ct_X6_bad hL hM M22 (1 : Int32)) (lw_V q3142 q3144 qs47 q147 q3145) nd_X6_bad rfl (le_fr hf rfl) (le_fr hlo rfl) rfl (Nat.le_of_ble_eq_true rfl) dX6_sentence_85 fun r24 M23 => ?_
            refine s_pop C dX6_sentence_88 rfl ?_
            refine s_iconst C (-1 : Int32) dX6_sentence_89 (by decide) ?_
            refine s_aload_n C dX6_sentence_90 0 rfl rfl ?_
            refine sm_getI 17 C hM fo_X6_177_6 rfl dX6_sentence_91 ?_
            refine s_isub C dX6_sentence_94 ?_
            exact s_iret C rfl dX6_sentence_95
  refine s_istore_n (la' := [(1, .int (1 : Int32)), (0, vr mo)]) C 1 dX6_sentence_47 rfl (lt_nl e5 rfl) rfl ?_
  refine Sim.keep [1, 0] rfl ?_
  exact hL48  _ _

def g_spells_j31 (rec3 : Int32 → Ms → Option (Unit × Ms)) (x1 : Int64) (x3 : Int32) (M2 : Ms) : Option (Unit × Ms) :=
  rec3 (x3 + (-8 : Int32)) M2
def g_spells_L3 (x1 : Int64) : Int32 → Ms → Option (Unit × Ms) :=
  lp FU fun rec3 v3 M1 =>
    if v3 < 0 then
      some ((), M1)
    else
      if (lg_cmp ((x1 >>> (v3.toInt64 &&& 63)) &&& (255 : Int64)) (0 : Int64)) = 0 then
        g_spells_j31 rec3 x1 v3 M1
      else
        bn (g_puts (((x1 >>> (v3.toInt64 &&& 63)) &&& (255 : Int64)).toInt32) M1) fun _ M3 =>
        g_spells_j31 rec3 x1 v3 M3
def g_spells (x1 : Int64) (M : Ms) : Option (Unit × Ms) :=
  g_spells_L3 x1 (56 : Int32) M
theorem nd_X6_spells : yX6_spells.cls = RX6 ∧ yX6_spells.cls ≠ "java/lang/invoke/MethodHandle" ∧ yX6_spells.cls ≠ "java/lang/invoke/VarHandle" ∧ (parseMethodDescriptor yX6_spells.desc).map (fun d => d.parameters.length) = some 1 := ⟨rfl, by decide +kernel, by decide +kernel, by decide +kernel⟩
theorem ct_X6_spells {G : Gx} {RL : Lv} {Pl : Nat → Bool} {l : Launch} (hL : LvA G RL Pl) {h0 : Hp} {mo : Nat} (hM : MP Pl mo) (M : Ms) (x1 : Int64) : Ct (plug h0 mo) G RL l yX6_spells (ws_ yX6_spells cX6_spells 4 none) 1 21 finV [vr mo, .long x1] M (g_spells x1 M) := by
  refine Ct.of (Pl := Pl) [(0, vr mo), (1, .long x1)] (by decide) hL rfl (Nat.le_of_ble_eq_true rfl) ?_
  intro E C hn hf hlo e1 e2 e3 e4 e5
  subst e1; subst e2; subst e3; subst e4
  replace C : Cx E cX6_spells none RX6 := C
  unfold g_spells
  refine s_bipush C (56 : Int32) dX6_spells_0 (by decide) ?_
  have hL3 : ∀ (x1 : Int64) (v3 : Int32) (M1 : Ms), Sim (plug h0 mo) E (QM (plug h0 mo) E finV) M1 3 [(0, vr mo), (1, .long x1), (3, .int v3)] [] (g_spells_L3 x1 v3 M1) := by
    intro x1 v3 M1
    refine Sim.loop (fun v3 => [(0, vr mo), (1, .long x1), (3, .int v3)]) (fun _ => []) (fun rec3 hr3 v3 M1 => ?_) FU v3 M1
    refine s_iload_n C dX6_spells_3 2 rfl rfl ?_
    refine s_if_lt C 37 dX6_spells_4 (by decide) ?_ ?_
    · exact s_vret C rfl dX6_spells_37
    · refine s_lload_n C dX6_spells_7 1 rfl rfl ?_
      refine s_iload_n C dX6_spells_8 2 rfl rfl ?_
      refine s_lshr C (v3.toInt64 &&& 63) dX6_spells_9 rfl ?_
      refine s_ldc2 C q3433 dX6_spells_10 ?_
      refine s_land C dX6_spells_13 ?_
      refine s_lconst C (0 : Int64) dX6_spells_14 (by decide) ?_
      refine s_lcmp C dX6_spells_15 ?_
      have hj31 : ∀ (x3 : Int32) (M2 : Ms), Sim (plug h0 mo) E (QM (plug h0 mo) E finV) M2 31 [(0, vr mo), (1, .long x1), (3, .int x3)] [] (g_spells_j31 rec3 x1 x3 M2) := by
        intro x3 M2
        refine s_iinc (la' := [(3, .int (x3 + (-8 : Int32))), (0, vr mo), (1, .long x1)]) C 2 dX6_spells_31 rfl rfl (lt_nl e5 rfl) rfl ?_
        refine s_goto C 3 dX6_spells_34 (by decide) ?_
        refine Sim.keep [1, 2, 0] rfl ?_
        exact hr3 _ _
      refine s_if_eq C 31 dX6_spells_16 (by decide) ?_ ?_
      · exact hj31 _ _
      · refine s_aload_n C dX6_spells_19 0 rfl rfl ?_
        refine s_lload_n C dX6_spells_20 1 rfl rfl ?_
        refine s_iload_n C dX6_spells_21 2 rfl rfl ?_
        refine s_lshr C (v3.toInt64 &&& 63) dX6_spells_22 rfl ?_
        refine s_ldc2 C q3433 dX6_spells_23 ?_
        refine s_land C dX6_spells_26 ?_
        refine s_l2i C dX6_spells_27 ?_
        refine sm_callV C 1 [] (ct_X6_puts hL hM M1 (((x1 >>> (v3.toInt64 &&& 63)) &&& (255 : Int64)).toInt32)) (lw_V q3434 q3436 qs91 q147 q3437) nd_X6_puts rfl (le_fr hf rfl) (le_fr hlo rfl) rfl (Nat.le_of_ble_eq_true rfl) dX6_spells_28 fun _ M3 => ?_
        exact hj31 _ _
  refine s_istore_n (la' := [(3, .int (56 : Int32)), (0, vr mo), (1, .long x1)]) C 3 dX6_spells_2 rfl (lt_nl e5 rfl) rfl ?_
  refine Sim.keep [1, 2, 0] rfl ?_
  exact hL3 _ _ _

def g_tag (x1 : Int32) (M : Ms) : Option (Int32 × Ms) :=
  bd (mI 0 (0 : Int32) M) fun M1 =>
  (aI 0 6 (3 : Int32) M1).bind fun a2 =>
  bn (g_isIn x1 (0 : Int32) (a2 - (1 : Int32)) M1) fun r4 M3 =>
  if r4 = 0 then
    some ((-1 : Int32), M3)
  else
    bd (mI 43 (0 : Int32) M3) fun M5 =>
    (aI 0 6 ((72 : Int32) + x1) M5).bind fun a6 =>
    (aL 10 a6 M5).bind fun a7 =>
    bn (g_spells a7 M5) fun _ M8 =>
    bn (g_spells (35624378658080 : Int64) M8) fun _ M9 =>
    (aI 0 6 ((120 : Int32) + x1) M9).bind fun a10 =>
    bn (g_laysNumber a10 M9) fun _ M11 =>
    bn (g_spells (544501536 : Int64) M11) fun _ M12 =>
    (aI 0 6 ((168 : Int32) + x1) M12).bind fun a13 =>
    bn (g_laysNumber a13 M12) fun _ M14 =>
    some ((M14.1 43), M14)
theorem nd_X6_tag : yX6_tag.cls = RX6 ∧ yX6_tag.cls ≠ "java/lang/invoke/MethodHandle" ∧ yX6_tag.cls ≠ "java/lang/invoke/VarHandle" ∧ (parseMethodDescriptor yX6_tag.desc).map (fun d => d.parameters.length) = some 1 := ⟨rfl, by decide +kernel, by decide +kernel, by decide +kernel⟩
theorem ct_X6_tag {G : Gx} {RL : Lv} {Pl : Nat → Bool} {l : Launch} (hL : LvA G RL Pl) {h0 : Hp} {mo : Nat} (hM : MP Pl mo) (M : Ms) (x1 : Int32) : Ct (plug h0 mo) G RL l yX6_tag (ws_ yX6_tag cX6_tag 2 (some .int)) 2 44 finI [vr mo, .int x1] M (g_tag x1 M) := by
  refine Ct.of (Pl := Pl) [(0, vr mo), (1, .int x1)] (by decide) hL rfl (Nat.le_of_ble_eq_true rfl) ?_
  intro E C hn hf hlo e1 e2 e3 e4 e5
  subst e1; subst e2; subst e3; subst e4
  replace C : Cx E cX6_tag (some .int) RX6 := C
  unfold g_tag
  refine s_aload_n C dX6_tag_0 0 rfl rfl ?_
  refine s_iconst C (0 : Int32) dX6_tag_1 (by decide) ?_
  refine sm_putI 0 0 C hM fo_X6_1_6 rfl ⟨by decide, by decide, rfl⟩ rfl rfl dX6_tag_2 ?_
  refine s_bdh fun M1 => ?_
  refine s_iload_n C dX6_tag_5 1 rfl rfl ?_
  refine s_iconst C (0 : Int32) dX6_tag_6 (by decide) ?_
  refine s_aload_n C dX6_tag_7 0 rfl rfl ?_
  refine sm_getA 6 C hM fo_X6_33_6 rfl (by decide) dX6_tag_8 ?_
  refine s_iconst C (3 : Int32) dX6_tag_11 (by decide) ?_
  refine sm_iald C hM dX6_tag_12 fun a2 => ?_
  refine s_iconst C (1 : Int32) dX6_tag_13 (by decide) ?_
  refine s_isub C dX6_tag_14 ?_
  refine sm_callSI C 3 [] (ct_X6_isIn hL hM M1 x1 (0 : Int32) (a2 - (1 : Int32))) (lw_S q3150 q3151 q147 q3152) nd_X6_isIn rfl (le_fr hf rfl) (le_fr hlo rfl) rfl (Nat.le_of_ble_eq_true rfl) dX6_tag_15 fun r4 M3 => ?_
  refine s_if_ne C 23 dX6_tag_18 (by decide) ?_ ?_
  · refine s_aload_n C dX6_tag_23 0 rfl rfl ?_
    refine s_iconst C (0 : Int32) dX6_tag_24 (by decide) ?_
    refine sm_putI 43 0 C hM fo_X6_393_6 rfl ⟨by decide, by decide, rfl⟩ rfl rfl dX6_tag_25 ?_
    refine s_bdh fun M5 => ?_
    refine s_aload_n C dX6_tag_28 0 rfl rfl ?_
    refine s_aload_n C dX6_tag_29 0 rfl rfl ?_
    refine sm_getA 10 C hM fo_X6_46_6 rfl (by decide) dX6_tag_30 ?_
    refine s_aload_n C dX6_tag_33 0 rfl rfl ?_
    refine sm_getA 6 C hM fo_X6_33_6 rfl (by decide) dX6_tag_34 ?_
    refine s_bipush C (72 : Int32) dX6_tag_37 (by decide) ?_
    refine s_iload_n C dX6_tag_39 1 rfl rfl ?_
    refine s_iadd C dX6_tag_40 ?_
    refine sm_iald C hM dX6_tag_41 fun a6 => ?_
    refine sm_lald C hM dX6_tag_42 fun a7 => ?_
    refine sm_callV C 1 [] (ct_X6_spells hL hM M5 a7) (lw_V q3429 q3431 qs90 q147 q3432) nd_X6_spells rfl (le_fr hf rfl) (le_fr hlo rfl) rfl (Nat.le_of_ble_eq_true rfl) dX6_tag_43 fun _ M8 => ?_
    refine s_aload_n C dX6_tag_46 0 rfl rfl ?_
    refine s_ldc2 C q3438 dX6_tag_47 ?_
    refine sm_callV C 1 [] (ct_X6_spells hL hM M8 (35624378658080 : Int64)) (lw_V q3429 q3431 qs90 q147 q3432) nd_X6_spells rfl (le_fr hf rfl) (le_fr hlo rfl) rfl (Nat.le_of_ble_eq_true rfl) dX6_tag_50 fun _ M9 => ?_
    refine s_aload_n C dX6_tag_53 0 rfl rfl ?_
    refine s_aload_n C dX6_tag_54 0 rfl rfl ?_
    refine sm_getA 6 C hM fo_X6_33_6 rfl (by decide) dX6_tag_55 ?_
    refine s_bipush C (120 : Int32) dX6_tag_58 (by decide) ?_
    refine s_iload_n C dX6_tag_60 1 rfl rfl ?_
    refine s_iadd C dX6_tag_61 ?_
    refine sm_iald C hM dX6_tag_62 fun a10 => ?_
    refine sm_callV C 1 [] (ct_X6_laysNumber hL hM M9 a10) (lw_V q3439 q3441 qs92 q147 q3442) nd_X6_laysNumber rfl (le_fr hf rfl) (le_fr hlo rfl) rfl (Nat.le_of_ble_eq_true rfl) dX6_tag_63 fun _ M11 => ?_
    refine s_aload_n C dX6_tag_66 0 rfl rfl ?_
    refine s_ldc2 C q3443 dX6_tag_67 ?_
    refine sm_callV C 1 [] (ct_X6_spells hL hM M11 (544501536 : Int64)) (lw_V q3429 q3431 qs90 q147 q3432) nd_X6_spells rfl (le_fr hf rfl) (le_fr hlo rfl) rfl (Nat.le_of_ble_eq_true rfl) dX6_tag_70 fun _ M12 => ?_
    refine s_aload_n C dX6_tag_73 0 rfl rfl ?_
    refine s_aload_n C dX6_tag_74 0 rfl rfl ?_
    refine sm_getA 6 C hM fo_X6_33_6 rfl (by decide) dX6_tag_75 ?_
    refine s_sipush C (168 : Int32) dX6_tag_78 (by decide) ?_
    refine s_iload_n C dX6_tag_81 1 rfl rfl ?_
    refine s_iadd C dX6_tag_82 ?_
    refine sm_iald C hM dX6_tag_83 fun a13 => ?_
    refine sm_callV C 1 [] (ct_X6_laysNumber hL hM M12 a13) (lw_V q3439 q3441 qs92 q147 q3442) nd_X6_laysNumber rfl (le_fr hf rfl) (le_fr hlo rfl) rfl (Nat.le_of_ble_eq_true rfl) dX6_tag_84 fun _ M14 => ?_
    refine s_aload_n C dX6_tag_87 0 rfl rfl ?_
    refine sm_getI 43 C hM fo_X6_393_6 rfl dX6_tag_88 ?_
    exact s_iret C rfl dX6_tag_91
  · refine s_iconst C (-1 : Int32) dX6_tag_21 (by decide) ?_
    exact s_iret C rfl dX6_tag_22

def g_thrown  (M : Ms) : Option (Int32 × Ms) :=
  some ((M.1 0), M)
theorem nd_X6_thrown : yX6_thrown.cls = RX6 ∧ yX6_thrown.cls ≠ "java/lang/invoke/MethodHandle" ∧ yX6_thrown.cls ≠ "java/lang/invoke/VarHandle" ∧ (parseMethodDescriptor yX6_thrown.desc).map (fun d => d.parameters.length) = some 0 := ⟨rfl, by decide +kernel, by decide +kernel, by decide +kernel⟩
theorem ct_X6_thrown {G : Gx} {RL : Lv} {Pl : Nat → Bool} {l : Launch} (hL : LvA G RL Pl) {h0 : Hp} {mo : Nat} (hM : MP Pl mo) (M : Ms)  : Ct (plug h0 mo) G RL l yX6_thrown (ws_ yX6_thrown cX6_thrown 1 (some .int)) 0 0 finI [vr mo] M (g_thrown M) := by
  refine Ct.of (Pl := Pl) [(0, vr mo)] (by decide) hL rfl (Nat.le_of_ble_eq_true rfl) ?_
  intro E C hn hf hlo e1 e2 e3 e4 e5
  subst e1; subst e2; subst e3; subst e4
  replace C : Cx E cX6_thrown (some .int) RX6 := C
  unfold g_thrown
  refine s_aload_n C dX6_thrown_0 0 rfl rfl ?_
  refine sm_getI 0 C hM fo_X6_1_6 rfl dX6_thrown_1 ?_
  exact s_iret C rfl dX6_thrown_4

def g_told_j31 (y0 : Int32) (M2 : Ms) : Option (Int32 × Ms) :=
  some (y0, M2)
def g_told_j30  (M3 : Ms) : Option (Int32 × Ms) :=
  g_told_j31 (-1 : Int32) M3
def g_told (x1 : Int32) (M : Ms) : Option (Int32 × Ms) :=
  bd (mI 0 (0 : Int32) M) fun M1 =>
  if (M1.1 47) = 0 then
    g_told_j30 M1
  else
    bn (g_isIn x1 (0 : Int32) (3 : Int32) M1) fun r5 M4 =>
    if r5 = 0 then
      g_told_j30 M4
    else
      (aI 0 46 x1 M4).bind fun a6 =>
      g_told_j31 a6 M4
theorem nd_X6_told : yX6_told.cls = RX6 ∧ yX6_told.cls ≠ "java/lang/invoke/MethodHandle" ∧ yX6_told.cls ≠ "java/lang/invoke/VarHandle" ∧ (parseMethodDescriptor yX6_told.desc).map (fun d => d.parameters.length) = some 1 := ⟨rfl, by decide +kernel, by decide +kernel, by decide +kernel⟩
theorem ct_X6_told {G : Gx} {RL : Lv} {Pl : Nat → Bool} {l : Launch} (hL : LvA G RL Pl) {h0 : Hp} {mo : Nat} (hM : MP Pl mo) (M : Ms) (x1 : Int32) : Ct (plug h0 mo) G RL l yX6_told (ws_ yX6_told cX6_told 2 (some .int)) 1 22 finI [vr mo, .int x1] M (g_told x1 M) := by
  refine Ct.of (Pl := Pl) [(0, vr mo), (1, .int x1)] (by decide) hL rfl (Nat.le_of_ble_eq_true rfl) ?_
  intro E C hn hf hlo e1 e2 e3 e4 e5
  subst e1; subst e2; subst e3; subst e4
  replace C : Cx E cX6_told (some .int) RX6 := C
  unfold g_told
  refine s_aload_n C dX6_told_0 0 rfl rfl ?_
  refine s_iconst C (0 : Int32) dX6_told_1 (by decide) ?_
  refine sm_putI 0 0 C hM fo_X6_1_6 rfl ⟨by decide, by decide, rfl⟩ rfl rfl dX6_told_2 ?_
  refine s_bdh fun M1 => ?_
  refine s_aload_n C dX6_told_5 0 rfl rfl ?_
  refine sm_getI 47 C hM fo_X6_434_6 rfl dX6_told_6 ?_
  have hj31 : ∀ (y0 : Int32) (M2 : Ms), Sim (plug h0 mo) E (QM (plug h0 mo) E finI) M2 31 [] [.int y0] (g_told_j31 y0 M2) := by
    intro y0 M2
    exact s_iret C rfl dX6_told_31
  have hj30 : ∀  (M3 : Ms), Sim (plug h0 mo) E (QM (plug h0 mo) E finI) M3 30 [] [] (g_told_j30 M3) := by
    intro M3
    refine s_iconst C (-1 : Int32) dX6_told_30 (by decide) ?_
    exact hj31 _ _
  refine s_if_eq C 30 dX6_told_9 (by decide) ?_ ?_
  · refine Sim.keep [] rfl ?_
    exact hj30 _
  · refine s_iload_n C dX6_told_12 1 rfl rfl ?_
    refine s_iconst C (0 : Int32) dX6_told_13 (by decide) ?_
    refine s_iconst C (3 : Int32) dX6_told_14 (by decide) ?_
    refine sm_callSI C 3 [] (ct_X6_isIn hL hM M1 x1 (0 : Int32) (3 : Int32)) (lw_S q3150 q3151 q147 q3152) nd_X6_isIn rfl (le_fr hf rfl) (le_fr hlo rfl) rfl (Nat.le_of_ble_eq_true rfl) dX6_told_15 fun r5 M4 => ?_
    refine s_if_eq C 30 dX6_told_18 (by decide) ?_ ?_
    · refine Sim.keep [] rfl ?_
      exact hj30 _
    · refine s_aload_n C dX6_told_21 0 rfl rfl ?_
      refine sm_getA 46 C hM fo_X6_86_6 rfl (by decide) dX6_told_22 ?_
      refine s_iload_n C dX6_told_25 1 rfl rfl ?_
      refine sm_iald C hM dX6_told_26 fun a6 => ?_
      refine s_goto C 31 dX6_told_27 (by decide) ?_
      refine Sim.keep [] rfl ?_
      exact hj31 _ _

def g_undo  (M : Ms) : Option (Int32 × Ms) :=
  bd (mI 0 (0 : Int32) M) fun M1 =>
  if (M1.1 38) = 0 then
    some ((-1 : Int32), M1)
  else
    bd (mI 38 ((M1.1 38) - (1 : Int32)) M1) fun M2 =>
    bn (g_brings 35 ((222 : Int32) * (M2.1 38)) M2) fun _ M3 =>
    some ((M3.1 38), M3)
theorem nd_X6_undo : yX6_undo.cls = RX6 ∧ yX6_undo.cls ≠ "java/lang/invoke/MethodHandle" ∧ yX6_undo.cls ≠ "java/lang/invoke/VarHandle" ∧ (parseMethodDescriptor yX6_undo.desc).map (fun d => d.parameters.length) = some 0 := ⟨rfl, by decide +kernel, by decide +kernel, by decide +kernel⟩
theorem ct_X6_undo {G : Gx} {RL : Lv} {Pl : Nat → Bool} {l : Launch} (hL : LvA G RL Pl) {h0 : Hp} {mo : Nat} (hM : MP Pl mo) (M : Ms)  : Ct (plug h0 mo) G RL l yX6_undo (ws_ yX6_undo cX6_undo 1 (some .int)) 1 23 finI [vr mo] M (g_undo M) := by
  refine Ct.of (Pl := Pl) [(0, vr mo)] (by decide) hL rfl (Nat.le_of_ble_eq_true rfl) ?_
  intro E C hn hf hlo e1 e2 e3 e4 e5
  subst e1; subst e2; subst e3; subst e4
  replace C : Cx E cX6_undo (some .int) RX6 := C
  unfold g_undo
  refine s_aload_n C dX6_undo_0 0 rfl rfl ?_
  refine s_iconst C (0 : Int32) dX6_undo_1 (by decide) ?_
  refine sm_putI 0 0 C hM fo_X6_1_6 rfl ⟨by decide, by decide, rfl⟩ rfl rfl dX6_undo_2 ?_
  refine s_bdh fun M1 => ?_
  refine s_aload_n C dX6_undo_5 0 rfl rfl ?_
  refine sm_getI 38 C hM fo_X6_239_6 rfl dX6_undo_6 ?_
  refine s_if_ne C 14 dX6_undo_9 (by decide) ?_ ?_
  · refine s_aload_n C dX6_undo_14 0 rfl rfl ?_
    refine s_dup C dX6_undo_15 rfl ?_
    refine sm_getI 38 C hM fo_X6_239_6 rfl dX6_undo_16 ?_
    refine s_iconst C (1 : Int32) dX6_undo_19 (by decide) ?_
    refine s_isub C dX6_undo_20 ?_
    refine sm_putI 38 0 C hM fo_X6_239_6 rfl ⟨by decide, by decide, rfl⟩ rfl rfl dX6_undo_21 ?_
    refine s_bdh fun M2 => ?_
    refine s_aload_n C dX6_undo_24 0 rfl rfl ?_
    refine s_aload_n C dX6_undo_25 0 rfl rfl ?_
    refine sm_getA 35 C hM fo_X6_68_6 rfl (by decide) dX6_undo_26 ?_
    refine s_sipush C (222 : Int32) dX6_undo_29 (by decide) ?_
    refine s_aload_n C dX6_undo_32 0 rfl rfl ?_
    refine sm_getI 38 C hM fo_X6_239_6 rfl dX6_undo_33 ?_
    refine s_imul C dX6_undo_36 ?_
    refine sm_callV C 2 [] (ct_X6_brings hL hM M2 35 ((222 : Int32) * (M2.1 38))) (lw_V q3355 q3357 qs86 q147 q3358) nd_X6_brings rfl (le_fr hf rfl) (le_fr hlo rfl) rfl (Nat.le_of_ble_eq_true rfl) dX6_undo_37 fun _ M3 => ?_
    refine s_aload_n C dX6_undo_40 0 rfl rfl ?_
    refine sm_getI 38 C hM fo_X6_239_6 rfl dX6_undo_41 ?_
    exact s_iret C rfl dX6_undo_44
  · refine s_iconst C (-1 : Int32) dX6_undo_12 (by decide) ?_
    exact s_iret C rfl dX6_undo_13

def g_vote_j75 (y0 : Int32) (M5 : Ms) : Option (Int32 × Ms) :=
  some (y0, M5)
def g_vote (x1 : Int32) (x2 : Int32) (M : Ms) : Option (Int32 × Ms) :=
  bd (mI 0 (0 : Int32) M) fun M1 =>
  (aI 0 6 (3 : Int32) M1).bind fun a2 =>
  bn (g_isIn x1 (0 : Int32) (a2 - (1 : Int32)) M1) fun r4 M3 =>
  if r4 = 0 then
    some ((-1 : Int32), M3)
  else
    if x2 = 0 then
      (aI 0 6 ((72 : Int32) + x1) M3).bind fun a8 =>
      g_vote_j75 a8 M3
    else
      if x2 = (1 : Int32) then
        (aI 0 6 ((120 : Int32) + x1) M3).bind fun a7 =>
        g_vote_j75 a7 M3
      else
        if x2 = (2 : Int32) then
          (aI 0 6 ((168 : Int32) + x1) M3).bind fun a6 =>
          g_vote_j75 a6 M3
        else
          g_vote_j75 (-1 : Int32) M3
theorem nd_X6_vote : yX6_vote.cls = RX6 ∧ yX6_vote.cls ≠ "java/lang/invoke/MethodHandle" ∧ yX6_vote.cls ≠ "java/lang/invoke/VarHandle" ∧ (parseMethodDescriptor yX6_vote.desc).map (fun d => d.parameters.length) = some 2 := ⟨rfl, by decide +kernel, by decide +kernel, by decide +kernel⟩
theorem ct_X6_vote {G : Gx} {RL : Lv} {Pl : Nat → Bool} {l : Launch} (hL : LvA G RL Pl) {h0 : Hp} {mo : Nat} (hM : MP Pl mo) (M : Ms) (x1 : Int32) (x2 : Int32) : Ct (plug h0 mo) G RL l yX6_vote (ws_ yX6_vote cX6_vote 3 (some .int)) 1 22 finI [vr mo, .int x1, .int x2] M (g_vote x1 x2 M) := by
  refine Ct.of (Pl := Pl) [(0, vr mo), (1, .int x1), (2, .int x2)] (by decide) hL rfl (Nat.le_of_ble_eq_true rfl) ?_
  intro E C hn hf hlo e1 e2 e3 e4 e5
  subst e1; subst e2; subst e3; subst e4
  replace C : Cx E cX6_vote (some .int) RX6 := C
  unfold g_vote
  refine s_aload_n C dX6_vote_0 0 rfl rfl ?_
  refine s_iconst C (0 : Int32) dX6_vote_1 (by decide) ?_
  refine sm_putI 0 0 C hM fo_X6_1_6 rfl ⟨by decide, by decide, rfl⟩ rfl rfl dX6_vote_2 ?_
  refine s_bdh fun M1 => ?_
  refine s_iload_n C dX6_vote_5 1 rfl rfl ?_
  refine s_iconst C (0 : Int32) dX6_vote_6 (by decide) ?_
  refine s_aload_n C dX6_vote_7 0 rfl rfl ?_
  refine sm_getA 6 C hM fo_X6_33_6 rfl (by decide) dX6_vote_8 ?_
  refine s_iconst C (3 : Int32) dX6_vote_11 (by decide) ?_
  refine sm_iald C hM dX6_vote_12 fun a2 => ?_
  refine s_iconst C (1 : Int32) dX6_vote_13 (by decide) ?_
  refine s_isub C dX6_vote_14 ?_
  refine sm_callSI C 3 [] (ct_X6_isIn hL hM M1 x1 (0 : Int32) (a2 - (1 : Int32))) (lw_S q3150 q3151 q147 q3152) nd_X6_isIn rfl (le_fr hf rfl) (le_fr hlo rfl) rfl (Nat.le_of_ble_eq_true rfl) dX6_vote_15 fun r4 M3 => ?_
  refine s_if_ne C 23 dX6_vote_18 (by decide) ?_ ?_
  · refine s_iload_n C dX6_vote_23 2 rfl rfl ?_
    have hj75 : ∀ (y0 : Int32) (M5 : Ms), Sim (plug h0 mo) E (QM (plug h0 mo) E finI) M5 75 [] [.int y0] (g_vote_j75 y0 M5) := by
      intro y0 M5
      exact s_iret C rfl dX6_vote_75
    refine s_if_ne C 39 dX6_vote_24 (by decide) ?_ ?_
    · refine s_iload_n C dX6_vote_39 2 rfl rfl ?_
      refine s_iconst C (1 : Int32) dX6_vote_40 (by decide) ?_
      refine s_icmp_ne C 56 dX6_vote_41 (by decide) ?_ ?_
      · refine s_iload_n C dX6_vote_56 2 rfl rfl ?_
        refine s_iconst C (2 : Int32) dX6_vote_57 (by decide) ?_
        refine s_icmp_ne C 74 dX6_vote_58 (by decide) ?_ ?_
        · refine s_iconst C (-1 : Int32) dX6_vote_74 (by decide) ?_
          refine Sim.keep [] rfl ?_
          exact hj75 _ _
        · refine s_aload_n C dX6_vote_61 0 rfl rfl ?_
          refine sm_getA 6 C hM fo_X6_33_6 rfl (by decide) dX6_vote_62 ?_
          refine s_sipush C (168 : Int32) dX6_vote_65 (by decide) ?_
          refine s_iload_n C dX6_vote_68 1 rfl rfl ?_
          refine s_iadd C dX6_vote_69 ?_
          refine sm_iald C hM dX6_vote_70 fun a6 => ?_
          refine s_goto C 75 dX6_vote_71 (by decide) ?_
          refine Sim.keep [] rfl ?_
          exact hj75 _ _
      · refine s_aload_n C dX6_vote_44 0 rfl rfl ?_
        refine sm_getA 6 C hM fo_X6_33_6 rfl (by decide) dX6_vote_45 ?_
        refine s_bipush C (120 : Int32) dX6_vote_48 (by decide) ?_
        refine s_iload_n C dX6_vote_50 1 rfl rfl ?_
        refine s_iadd C dX6_vote_51 ?_
        refine sm_iald C hM dX6_vote_52 fun a7 => ?_
        refine s_goto C 75 dX6_vote_53 (by decide) ?_
        refine Sim.keep [] rfl ?_
        exact hj75 _ _
    · refine s_aload_n C dX6_vote_27 0 rfl rfl ?_
      refine sm_getA 6 C hM fo_X6_33_6 rfl (by decide) dX6_vote_28 ?_
      refine s_bipush C (72 : Int32) dX6_vote_31 (by decide) ?_
      refine s_iload_n C dX6_vote_33 1 rfl rfl ?_
      refine s_iadd C dX6_vote_34 ?_
      refine sm_iald C hM dX6_vote_35 fun a8 => ?_
      refine s_goto C 75 dX6_vote_36 (by decide) ?_
      refine Sim.keep [] rfl ?_
      exact hj75 _ _
  · refine s_iconst C (-1 : Int32) dX6_vote_21 (by decide) ?_
    exact s_iret C rfl dX6_vote_22

def g_votesOf_j33 (rec4 : (Int32 × Int32) → Ms → Option (Int32 × Ms)) (x1 : Int32) (x3 : Int32) (y0 : Int32) (y1 : Int32) (M4 : Ms) : Option (Int32 × Ms) :=
  bd ((y0 + y1)) fun a5 =>
  rec4 (a5, (x3 + (1 : Int32))) M4
def g_votesOf_L4 (x1 : Int32) : (Int32 × Int32) → Ms → Option (Int32 × Ms) :=
  lp FU fun rec4 v4 M1 =>
    (aI 0 6 (3 : Int32) M1).bind fun a2 =>
    if a2 ≤ v4.2 then
      some (v4.1, M1)
    else
      (aI 0 6 ((72 : Int32) + v4.2) M1).bind fun a3 =>
      if a3 = x1 then
        g_votesOf_j33 rec4 x1 v4.2 v4.1 (1 : Int32) M1
      else
        g_votesOf_j33 rec4 x1 v4.2 v4.1 (0 : Int32) M1
def g_votesOf (x1 : Int32) (M : Ms) : Option (Int32 × Ms) :=
  g_votesOf_L4 x1 ((0 : Int32), (0 : Int32)) M
theorem nd_X6_votesOf : yX6_votesOf.cls = RX6 ∧ yX6_votesOf.cls ≠ "java/lang/invoke/MethodHandle" ∧ yX6_votesOf.cls ≠ "java/lang/invoke/VarHandle" ∧ (parseMethodDescriptor yX6_votesOf.desc).map (fun d => d.parameters.length) = some 1 := ⟨rfl, by decide +kernel, by decide +kernel, by decide +kernel⟩
theorem ct_X6_votesOf {G : Gx} {RL : Lv} {Pl : Nat → Bool} {l : Launch} (hL : LvA G RL Pl) {h0 : Hp} {mo : Nat} (hM : MP Pl mo) (M : Ms) (x1 : Int32) : Ct (plug h0 mo) G RL l yX6_votesOf (ws_ yX6_votesOf cX6_votesOf 4 (some .int)) 0 0 finI [vr mo, .int x1] M (g_votesOf x1 M) := by
  refine Ct.of (Pl := Pl) [(0, vr mo), (1, .int x1)] (by decide) hL rfl (Nat.le_of_ble_eq_true rfl) ?_
  intro E C hn hf hlo e1 e2 e3 e4 e5
  subst e1; subst e2; subst e3; subst e4
  replace C : Cx E cX6_votesOf (some .int) RX6 := C
  unfold g_votesOf
  refine s_iconst C (0 : Int32) dX6_votesOf_0 (by decide) ?_
  refine s_istore_n (la' := [(2, .int (0 : Int32)), (0, vr mo), (1, .int x1)]) C 2 dX6_votesOf_1 rfl (lt_nl e5 rfl) rfl ?_
  refine s_iconst C (0 : Int32) dX6_votesOf_2 (by decide) ?_
  have hL4 : ∀ (x1 : Int32) (v4 : (Int32 × Int32)) (M1 : Ms), Sim (plug h0 mo) E (QM (plug h0 mo) E finI) M1 4 [(0, vr mo), (1, .int x1), (2, .int v4.1), (3, .int v4.2)] [] (g_votesOf_L4 x1 v4 M1) := by
    intro x1 v4 M1
    refine Sim.loop (fun v4 => [(0, vr mo), (1, .int x1), (2, .int v4.1), (3, .int v4.2)]) (fun _ => []) (fun rec4 hr4 v4 M1 => ?_) FU v4 M1
    refine s_iload_n C dX6_votesOf_4 3 rfl rfl ?_
    refine s_aload_n C dX6_votesOf_5 0 rfl rfl ?_
    refine sm_getA 6 C hM fo_X6_33_6 rfl (by decide) dX6_votesOf_6 ?_
    refine s_iconst C (3 : Int32) dX6_votesOf_9 (by decide) ?_
    refine sm_iald C hM dX6_votesOf_10 fun a2 => ?_
    refine s_icmp_ge C 41 dX6_votesOf_11 (by decide) ?_ ?_
    · refine s_iload_n C dX6_votesOf_41 2 rfl rfl ?_
      exact s_iret C rfl dX6_votesOf_42
    · refine s_iload_n C dX6_votesOf_14 2 rfl rfl ?_
      refine s_aload_n C dX6_votesOf_15 0 rfl rfl ?_
      refine sm_getA 6 C hM fo_X6_33_6 rfl (by decide) dX6_votesOf_16 ?_
      refine s_bipush C (72 : Int32) dX6_votesOf_19 (by decide) ?_
      refine s_iload_n C dX6_votesOf_21 3 rfl rfl ?_
      refine s_iadd C dX6_votesOf_22 ?_
      refine sm_iald C hM dX6_votesOf_23 fun a3 => ?_
      refine s_iload_n C dX6_votesOf_24 1 rfl rfl ?_
      have hj33 : ∀ (x3 : Int32) (y0 : Int32) (y1 : Int32) (M4 : Ms), Sim (plug h0 mo) E (QM (plug h0 mo) E finI) M4 33 [(0, vr mo), (1, .int x1), (3, .int x3)] [.int y1, .int y0] (g_votesOf_j33 rec4 x1 x3 y0 y1 M4) := by
        intro x3 y0 y1 M4
        refine s_iadd C dX6_votesOf_33 ?_
        refine s_bdi fun a5 => ?_
        refine s_istore_n (la' := [(2, .int a5), (0, vr mo), (1, .int x1), (3, .int x3)]) C 2 dX6_votesOf_34 rfl (lt_nl e5 rfl) rfl ?_
        refine s_iinc (la' := [(3, .int (x3 + (1 : Int32))), (2, .int a5), (0, vr mo), (1, .int x1)]) C 3 dX6_votesOf_35 rfl rfl (lt_nl e5 rfl) rfl ?_
        refine s_goto C 4 dX6_votesOf_38 (by decide) ?_
        refine Sim.keep [2, 3, 1, 0] rfl ?_
        exact hr4 _ _
      refine s_icmp_ne C 32 dX6_votesOf_25 (by decide) ?_ ?_
      · refine s_iconst C (0 : Int32) dX6_votesOf_32 (by decide) ?_
        refine Sim.keep [0, 1, 3] rfl ?_
        exact hj33 _ _ _ _
      · refine s_iconst C (1 : Int32) dX6_votesOf_28 (by decide) ?_
        refine s_goto C 33 dX6_votesOf_29 (by decide) ?_
        refine Sim.keep [0, 1, 3] rfl ?_
        exact hj33 _ _ _ _
  refine s_istore_n (la' := [(3, .int (0 : Int32)), (2, .int (0 : Int32)), (0, vr mo), (1, .int x1)]) C 3 dX6_votesOf_3 rfl (lt_nl e5 rfl) rfl ?_
  refine Sim.keep [2, 3, 1, 0] rfl ?_
  exact hL4 _ _ _

def g_voter (x1 : Int32) (x2 : Int32) (M : Ms) : Option (Int32 × Ms) :=
  bd (mI 0 (0 : Int32) M) fun M1 =>
  bn (g_isVoter x1 M1) fun r3 M2 =>
  if r3 = 0 then
    some ((-1 : Int32), M2)
  else
    bn (g_lays  M2) fun _ M4 =>
    swi x2 (some ((-1 : Int32), M4)) [
      ((0 : Int32), (aI 0 6 ((4 : Int32) + x1) M4).bind fun a5 =>
      some (a5, M4)),
      ((1 : Int32), bn (g_votesOf x1 M4) fun r7 M6 =>
      some (r7, M6)),
      ((2 : Int32), (aI 0 6 ((216 : Int32) + x1) M4).bind fun a8 =>
      some (a8, M4)),
      ((3 : Int32), bn (g_bitOf (M4.1 28) x1 M4) fun r10 M9 =>
      bn (g_truth r10 M9) fun r12 M11 =>
      some (r12, M11))]
theorem nd_X6_voter : yX6_voter.cls = RX6 ∧ yX6_voter.cls ≠ "java/lang/invoke/MethodHandle" ∧ yX6_voter.cls ≠ "java/lang/invoke/VarHandle" ∧ (parseMethodDescriptor yX6_voter.desc).map (fun d => d.parameters.length) = some 2 := ⟨rfl, by decide +kernel, by decide +kernel, by decide +kernel⟩
theorem ct_X6_voter {G : Gx} {RL : Lv} {Pl : Nat → Bool} {l : Launch} (hL : LvA G RL Pl) {h0 : Hp} {mo : Nat} (hM : MP Pl mo) (M : Ms) (x1 : Int32) (x2 : Int32) : Ct (plug h0 mo) G RL l yX6_voter (ws_ yX6_voter cX6_voter 3 (some .int)) 7 163 finI [vr mo, .int x1, .int x2] M (g_voter x1 x2 M) := by
  refine Ct.of (Pl := Pl) [(0, vr mo), (1, .int x1), (2, .int x2)] (by decide) hL rfl (Nat.le_of_ble_eq_true rfl) ?_
  intro E C hn hf hlo e1 e2 e3 e4 e5
  subst e1; subst e2; subst e3; subst e4
  replace C : Cx E cX6_voter (some .int) RX6 := C
  unfold g_voter
  refine s_aload_n C dX6_voter_0 0 rfl rfl ?_
  refine s_iconst C (0 : Int32) dX6_voter_1 (by decide) ?_
  refine sm_putI 0 0 C hM fo_X6_1_6 rfl ⟨by decide, by decide, rfl⟩ rfl rfl dX6_voter_2 ?_
  refine s_bdh fun M1 => ?_
  refine s_aload_n C dX6_voter_5 0 rfl rfl ?_
  refine s_iload_n C dX6_voter_6 1 rfl rfl ?_
  refine sm_callI C 1 [] (ct_X6_isVoter hL hM M1 x1) (lw_V q3287 q3289 qs76 q147 q3290) nd_X6_isVoter rfl (le_fr hf rfl) (le_fr hlo rfl) rfl (Nat.le_of_ble_eq_true rfl) dX6_voter_7 fun r3 M2 => ?_
  refine s_if_ne C 15 dX6_voter_10 (by decide) ?_ ?_
  · refine s_aload_n C dX6_voter_15 0 rfl rfl ?_
    refine sm_callV C 0 [] (ct_X6_lays hL hM M2 ) (lw_V q3201 q3203 qs59 q147 q3204) nd_X6_lays rfl (le_fr hf rfl) (le_fr hlo rfl) rfl (Nat.le_of_ble_eq_true rfl) dX6_voter_16 fun _ M4 => ?_
    refine s_iload_n C dX6_voter_19 2 rfl rfl ?_
    refine s_tsw C 90 dX6_voter_20 [(0 : Int32), (1 : Int32), (2 : Int32), (3 : Int32)] rfl (by decide +kernel) (by decide) (by decide) ⟨⟨52, by decide, ?_⟩, ⟨⟨61, by decide, ?_⟩, ⟨⟨67, by decide, ?_⟩, ⟨⟨78, by decide, ?_⟩, trivial⟩⟩⟩⟩ ?_
    · refine s_aload_n C dX6_voter_52 0 rfl rfl ?_
      refine sm_getA 6 C hM fo_X6_33_6 rfl (by decide) dX6_voter_53 ?_
      refine s_iconst C (4 : Int32) dX6_voter_56 (by decide) ?_
      refine s_iload_n C dX6_voter_57 1 rfl rfl ?_
      refine s_iadd C dX6_voter_58 ?_
      refine sm_iald C hM dX6_voter_59 fun a5 => ?_
      exact s_iret C rfl dX6_voter_60
    · refine s_aload_n C dX6_voter_61 0 rfl rfl ?_
      refine s_iload_n C dX6_voter_62 1 rfl rfl ?_
      refine sm_callI C 1 [] (ct_X6_votesOf hL hM M4 x1) (lw_V q3295 q3297 qs77 q147 q3298) nd_X6_votesOf rfl (le_fr hf rfl) (le_fr hlo rfl) rfl (Nat.le_of_ble_eq_true rfl) dX6_voter_63 fun r7 M6 => ?_
      exact s_iret C rfl dX6_voter_66
    · refine s_aload_n C dX6_voter_67 0 rfl rfl ?_
      refine sm_getA 6 C hM fo_X6_33_6 rfl (by decide) dX6_voter_68 ?_
      refine s_sipush C (216 : Int32) dX6_voter_71 (by decide) ?_
      refine s_iload_n C dX6_voter_74 1 rfl rfl ?_
      refine s_iadd C dX6_voter_75 ?_
      refine sm_iald C hM dX6_voter_76 fun a8 => ?_
      exact s_iret C rfl dX6_voter_77
    · refine s_aload_n C dX6_voter_78 0 rfl rfl ?_
      refine sm_getI 28 C hM fo_X6_270_6 rfl dX6_voter_79 ?_
      refine s_iload_n C dX6_voter_82 1 rfl rfl ?_
      refine sm_callSI C 2 [] (ct_X6_bitOf hL hM M4 (M4.1 28) x1) (lw_S q3241 q3242 q147 q3243) nd_X6_bitOf rfl (le_fr hf rfl) (le_fr hlo rfl) rfl (Nat.le_of_ble_eq_true rfl) dX6_voter_83 fun r10 M9 => ?_
      refine sm_callSI C 1 [] (ct_X6_truth hL hM M9 r10) (lw_S q3268 q3269 q147 q3270) nd_X6_truth rfl (le_fr hf rfl) (le_fr hlo rfl) rfl (Nat.le_of_ble_eq_true rfl) dX6_voter_86 fun r12 M11 => ?_
      exact s_iret C rfl dX6_voter_89
    · refine s_iconst C (-1 : Int32) dX6_voter_90 (by decide) ?_
      exact s_iret C rfl dX6_voter_91
  · refine s_iconst C (-1 : Int32) dX6_voter_13 (by decide) ?_
    exact s_iret C rfl dX6_voter_14

def g_votes_j29  (M4 : Ms) : Option (Int32 × Ms) :=
  some ((-1 : Int32), M4)
def g_votes (x1 : Int32) (x2 : Int32) (x3 : Int32) (M : Ms) : Option (Int32 × Ms) :=
  bd (mI 0 (0 : Int32) M) fun M1 =>
  bn (g_isVoter x1 M1) fun r3 M2 =>
  if r3 = 0 then
    g_votes_j29 M2
  else
    bn (g_isBlock x2 M2) fun r6 M5 =>
    if r6 = 0 then
      g_votes_j29 M5
    else
      bn (g_isBlock x3 M5) fun r8 M7 =>
      if r8 = 0 then
        g_votes_j29 M7
      else
        bn (g_whyVote x1 x2 x3 M7) fun r10 M9 =>
        if r10 ≤ 0 then
          bn (g_keeps  M9) fun _ M11 =>
          bn (g_doesVote x1 x2 x3 M11) fun _ M12 =>
          some ((0 : Int32), M12)
        else
          some (r10, M9)
theorem nd_X6_votes : yX6_votes.cls = RX6 ∧ yX6_votes.cls ≠ "java/lang/invoke/MethodHandle" ∧ yX6_votes.cls ≠ "java/lang/invoke/VarHandle" ∧ (parseMethodDescriptor yX6_votes.desc).map (fun d => d.parameters.length) = some 3 := ⟨rfl, by decide +kernel, by decide +kernel, by decide +kernel⟩
theorem ct_X6_votes {G : Gx} {RL : Lv} {Pl : Nat → Bool} {l : Launch} (hL : LvA G RL Pl) {h0 : Hp} {mo : Nat} (hM : MP Pl mo) (M : Ms) (x1 : Int32) (x2 : Int32) (x3 : Int32) : Ct (plug h0 mo) G RL l yX6_votes (ws_ yX6_votes cX6_votes 5 (some .int)) 8 186 finI [vr mo, .int x1, .int x2, .int x3] M (g_votes x1 x2 x3 M) := by
  refine Ct.of (Pl := Pl) [(0, vr mo), (1, .int x1), (2, .int x2), (3, .int x3)] (by decide) hL rfl (Nat.le_of_ble_eq_true rfl) ?_
  intro E C hn hf hlo e1 e2 e3 e4 e5
  subst e1; subst e2; subst e3; subst e4
  replace C : Cx E cX6_votes (some .int) RX6 := C
  unfold g_votes
  refine s_aload_n C dX6_votes_0 0 rfl rfl ?_
  refine s_iconst C (0 : Int32) dX6_votes_1 (by decide) ?_
  refine sm_putI 0 0 C hM fo_X6_1_6 rfl ⟨by decide, by decide, rfl⟩ rfl rfl dX6_votes_2 ?_
  refine s_bdh fun M1 => ?_
  refine s_aload_n C dX6_votes_5 0 rfl rfl ?_
  refine s_iload_n C dX6_votes_6 1 rfl rfl ?_
  refine sm_callI C 1 [] (ct_X6_isVoter hL hM M1 x1) (lw_V q3287 q3289 qs76 q147 q3290) nd_X6_isVoter rfl (le_fr hf rfl) (le_fr hlo rfl) rfl (Nat.le_of_ble_eq_true rfl) dX6_votes_7 fun r3 M2 => ?_
  have hj29 : ∀  (M4 : Ms), Sim (plug h0 mo) E (QM (plug h0 mo) E finI) M4 29 [] [] (g_votes_j29 M4) := by
    intro M4
    refine s_iconst C (-1 : Int32) dX6_votes_29 (by decide) ?_
    exact s_iret C rfl dX6_votes_30
  refine s_if_eq C 29 dX6_votes_10 (by decide) ?_ ?_
  · refine Sim.keep [] rfl ?_
    exact hj29 _
  · refine s_aload_n C dX6_votes_13 0 rfl rfl ?_
    refine s_iload_n C dX6_votes_14 2 rfl rfl ?_
    refine sm_callI C 1 [] (ct_X6_isBlock hL hM M2 x2) (lw_V q3193 q3195 qs57 q147 q3196) nd_X6_isBlock rfl (le_fr hf rfl) (le_fr hlo rfl) rfl (Nat.le_of_ble_eq_true rfl) dX6_votes_15 fun r6 M5 => ?_
    refine s_if_eq C 29 dX6_votes_18 (by decide) ?_ ?_
    · refine Sim.keep [] rfl ?_
      exact hj29 _
    · refine s_aload_n C dX6_votes_21 0 rfl rfl ?_
      refine s_iload_n C dX6_votes_22 3 rfl rfl ?_
      refine sm_callI C 1 [] (ct_X6_isBlock hL hM M5 x3) (lw_V q3193 q3195 qs57 q147 q3196) nd_X6_isBlock rfl (le_fr hf rfl) (le_fr hlo rfl) rfl (Nat.le_of_ble_eq_true rfl) dX6_votes_23 fun r8 M7 => ?_
      refine s_if_ne C 31 dX6_votes_26 (by decide) ?_ ?_
      · refine s_aload_n C dX6_votes_31 0 rfl rfl ?_
        refine s_iload_n C dX6_votes_32 1 rfl rfl ?_
        refine s_iload_n C dX6_votes_33 2 rfl rfl ?_
        refine s_iload_n C dX6_votes_34 3 rfl rfl ?_
        refine sm_callI C 3 [] (ct_X6_whyVote hL hM M7 x1 x2 x3) (lw_V q3315 q3317 qs79 q147 q3318) nd_X6_whyVote rfl (le_fr hf rfl) (le_fr hlo rfl) rfl (Nat.le_of_ble_eq_true rfl) dX6_votes_35 fun r10 M9 => ?_
        refine s_istore (la' := [(4, .int r10), (0, vr mo), (1, .int x1), (2, .int x2), (3, .int x3)]) C dX6_votes_38 (lt_nl e5 rfl) rfl ?_
        refine s_iload C dX6_votes_40 0 rfl ?_
        refine s_if_le C 48 dX6_votes_42 (by decide) ?_ ?_
        · refine s_aload_n C dX6_votes_48 1 rfl rfl ?_
          refine sm_callV C 0 [] (ct_X6_keeps hL hM M9 ) (lw_V q3319 q3321 qs80 q147 q3322) nd_X6_keeps rfl (le_fr hf rfl) (le_fr hlo rfl) rfl (Nat.le_of_ble_eq_true rfl) dX6_votes_49 fun _ M11 => ?_
          refine s_aload_n C dX6_votes_52 1 rfl rfl ?_
          refine s_iload_n C dX6_votes_53 2 rfl rfl ?_
          refine s_iload_n C dX6_votes_54 3 rfl rfl ?_
          refine s_iload_n C dX6_votes_55 4 rfl rfl ?_
          refine sm_callV C 3 [] (ct_X6_doesVote hL hM M11 x1 x2 x3) (lw_V q3331 q3333 qs83 q147 q3334) nd_X6_doesVote rfl (le_fr hf rfl) (le_fr hlo rfl) rfl (Nat.le_of_ble_eq_true rfl) dX6_votes_56 fun _ M12 => ?_
          refine s_iconst C (0 : Int32) dX6_votes_59 (by decide) ?_
          exact s_iret C rfl dX6_votes_60
        · refine s_iload C dX6_votes_45 0 rfl ?_
          exact s_iret C rfl dX6_votes_47
      · refine Sim.keep [] rfl ?_
        exact hj29 _

def g_way_j139 (x2 : Int32) (M13 : Ms) : Option (Int32 × Ms) :=
  some (x2, M13)
def g_way_j130 (x2 : Int32) (x3 : Int32) (M12 : Ms) : Option (Int32 × Ms) :=
  if x2 < 0 then
    g_way_j139 x2 M12
  else
    bd (mI 41 x3 M12) fun M14 =>
    g_way_j139 x2 M14
def g_way_j124 (rec51 : (Int32 × Int32 × Int32) → Ms → Option (Int32 × Ms)) (x1 : Int32) (x2 : Int32) (x3 : Int32) (x4 : Int32) (M17 : Ms) : Option (Int32 × Ms) :=
  rec51 (x2, x3, (x4 + (1 : Int32))) M17
def g_way_j118 (rec51 : (Int32 × Int32 × Int32) → Ms → Option (Int32 × Ms)) (x1 : Int32) (x4 : Int32) (x5 : Int32) (M22 : Ms) : Option (Int32 × Ms) :=
  g_way_j124 rec51 x1 x5 x4 x4 M22
def g_way_L51 (x1 : Int32) : (Int32 × Int32 × Int32) → Ms → Option (Int32 × Ms) :=
  lp FU fun rec51 v51 M10 =>
    (aI 0 6 (2 : Int32) M10).bind fun a11 =>
    if a11 ≤ v51.2.2 then
      g_way_j130 v51.1 v51.2.1 M10
    else
      if v51.1 = 0 then
        g_way_j130 v51.1 v51.2.1 M10
      else
        bn (g_bitOf (M10.1 26) v51.2.2 M10) fun r16 M15 =>
        if r16 = 0 then
          g_way_j124 rec51 x1 v51.1 v51.2.1 v51.2.2 M15
        else
          bn (g_isAhead v51.2.2 x1 M15) fun r19 M18 =>
          if r19 = 0 then
            g_way_j124 rec51 x1 v51.1 v51.2.1 v51.2.2 M18
          else
            bn (g_needOf v51.2.2 x1 M18) fun r21 M20 =>
            if r21 < 0 then
              g_way_j124 rec51 x1 v51.1 v51.2.1 v51.2.2 M20
            else
              if v51.1 < 0 then
                g_way_j118 rec51 x1 v51.2.2 r21 M20
              else
                if r21 < v51.1 then
                  g_way_j118 rec51 x1 v51.2.2 r21 M20
                else
                  g_way_j124 rec51 x1 v51.1 v51.2.1 v51.2.2 M20
def g_way_j45 (x1 : Int32) (y0 : Int32) (M9 : Ms) : Option (Int32 × Ms) :=
  g_way_L51 x1 (y0, (-1 : Int32), (0 : Int32)) M9
def g_way (x1 : Int32) (M : Ms) : Option (Int32 × Ms) :=
  bd (mI 0 (0 : Int32) M) fun M1 =>
  bn (g_isBlock x1 M1) fun r3 M2 =>
  if r3 = 0 then
    some ((-1 : Int32), M2)
  else
    bn (g_lays  M2) fun _ M4 =>
    bn (g_isPoint x1 M4) fun r6 M5 =>
    if r6 = 0 then
      some ((-1 : Int32), M5)
    else
      bn (g_bitOf (M5.1 26) x1 M5) fun r8 M7 =>
      if r8 = 0 then
        g_way_j45 x1 (-1 : Int32) M7
      else
        g_way_j45 x1 (0 : Int32) M7
theorem nd_X6_way : yX6_way.cls = RX6 ∧ yX6_way.cls ≠ "java/lang/invoke/MethodHandle" ∧ yX6_way.cls ≠ "java/lang/invoke/VarHandle" ∧ (parseMethodDescriptor yX6_way.desc).map (fun d => d.parameters.length) = some 1 := ⟨rfl, by decide +kernel, by decide +kernel, by decide +kernel⟩
theorem ct_X6_way {G : Gx} {RL : Lv} {Pl : Nat → Bool} {l : Launch} (hL : LvA G RL Pl) {h0 : Hp} {mo : Nat} (hM : MP Pl mo) (M : Ms) (x1 : Int32) : Ct (plug h0 mo) G RL l yX6_way (ws_ yX6_way cX6_way 6 (some .int)) 7 163 finI [vr mo, .int x1] M (g_way x1 M) := by
  refine Ct.of (Pl := Pl) [(0, vr mo), (1, .int x1)] (by decide) hL rfl (Nat.le_of_ble_eq_true rfl) ?_
  intro E C hn hf hlo e1 e2 e3 e4 e5
  subst e1; subst e2; subst e3; subst e4
  replace C : Cx E cX6_way (some .int) RX6 := C
  unfold g_way
  refine s_aload_n C dX6_way_0 0 rfl rfl ?_
  refine s_iconst C (0 : Int32) dX6_way_1 (by decide) ?_
  refine sm_putI 0 0 C hM fo_X6_1_6 rfl ⟨by decide, by decide, rfl⟩ rfl rfl dX6_way_2 ?_
  refine s_bdh fun M1 => ?_
  refine s_aload_n C dX6_way_5 0 rfl rfl ?_
  refine s_iload_n C dX6_way_6 1 rfl rfl ?_
  refine sm_callI C 1 [] (ct_X6_isBlock hL hM M1 x1) (lw_V q3193 q3195 qs57 q147 q3196) nd_X6_isBlock rfl (le_fr hf rfl) (le_fr hlo rfl) rfl (Nat.le_of_ble_eq_true rfl) dX6_way_7 fun r3 M2 => ?_
  refine s_if_ne C 15 dX6_way_10 (by decide) ?_ ?_
  · refine s_aload_n C dX6_way_15 0 rfl rfl ?_
    refine sm_callV C 0 [] (ct_X6_lays hL hM M2 ) (lw_V q3201 q3203 qs59 q147 q3204) nd_X6_lays rfl (le_fr hf rfl) (le_fr hlo rfl) rfl (Nat.le_of_ble_eq_true rfl) dX6_way_16 fun _ M4 => ?_
    refine s_aload_n C dX6_way_19 0 rfl rfl ?_
    refine s_iload_n C dX6_way_20 1 rfl rfl ?_
    refine sm_callI C 1 [] (ct_X6_isPoint hL hM M4 x1) (lw_V q3260 q3262 qs73 q147 q3263) nd_X6_isPoint rfl (le_fr hf rfl) (le_fr hlo rfl) rfl (Nat.le_of_ble_eq_true rfl) dX6_way_21 fun r6 M5 => ?_
    refine s_if_ne C 29 dX6_way_24 (by decide) ?_ ?_
    · refine s_aload_n C dX6_way_29 0 rfl rfl ?_
      refine sm_getI 26 C hM fo_X6_282_6 rfl dX6_way_30 ?_
      refine s_iload_n C dX6_way_33 1 rfl rfl ?_
      refine sm_callSI C 2 [] (ct_X6_bitOf hL hM M5 (M5.1 26) x1) (lw_S q3241 q3242 q147 q3243) nd_X6_bitOf rfl (le_fr hf rfl) (le_fr hlo rfl) rfl (Nat.le_of_ble_eq_true rfl) dX6_way_34 fun r8 M7 => ?_
      have hj45 : ∀ (x1 : Int32) (y0 : Int32) (M9 : Ms), Sim (plug h0 mo) E (QM (plug h0 mo) E finI) M9 45 [(0, vr mo), (1, .int x1)] [.int y0] (g_way_j45 x1 y0 M9) := by
        intro x1 y0 M9
        refine s_istore_n (la' := [(2, .int y0), (0, vr mo), (1, .int x1)]) C 2 dX6_way_45 rfl (lt_nl e5 rfl) rfl ?_
        refine s_iconst C (-1 : Int32) dX6_way_46 (by decide) ?_
        refine s_istore_n (la' := [(3, .int (-1 : Int32)), (2, .int y0), (0, vr mo), (1, .int x1)]) C 3 dX6_way_47 rfl (lt_nl e5 rfl) rfl ?_
        refine s_iconst C (0 : Int32) dX6_way_48 (by decide) ?_
        have hL51 : ∀ (x1 : Int32) (v51 : (Int32 × Int32 × Int32)) (M10 : Ms), Sim (plug h0 mo) E (QM (plug h0 mo) E finI) M10 51 [(0, vr mo), (1, .int x1), (2, .int v51.1), (3, .int v51.2.1), (4, .int v51.2.2)] [] (g_way_L51 x1 v51 M10) := by
          intro x1 v51 M10
          refine Sim.loop (fun v51 => [(0, vr mo), (1, .int x1), (2, .int v51.1), (3, .int v51.2.1), (4, .int v51.2.2)]) (fun _ => []) (fun rec51 hr51 v51 M10 => ?_) FU v51 M10
          refine s_iload C dX6_way_51 4 rfl ?_
          refine s_aload_n C dX6_way_53 0 rfl rfl ?_
          refine sm_getA 6 C hM fo_X6_33_6 rfl (by decide) dX6_way_54 ?_
          refine s_iconst C (2 : Int32) dX6_way_57 (by decide) ?_
          refine sm_iald C hM dX6_way_58 fun a11 => ?_
          have hj130 : ∀ (x2 : Int32) (x3 : Int32) (M12 : Ms), Sim (plug h0 mo) E (QM (plug h0 mo) E finI) M12 130 [(0, vr mo), (2, .int x2), (3, .int x3)] [] (g_way_j130 x2 x3 M12) := by
            intro x2 x3 M12
            refine s_iload_n C dX6_way_130 1 rfl rfl ?_
            have hj139 : ∀ (x2 : Int32) (M13 : Ms), Sim (plug h0 mo) E (QM (plug h0 mo) E finI) M13 139 [(2, .int x2)] [] (g_way_j139 x2 M13) := by
              intro x2 M13
              refine s_iload_n C dX6_way_139 0 rfl rfl ?_
              exact s_iret C rfl dX6_way_140
            refine s_if_lt C 139 dX6_way_131 (by decide) ?_ ?_
            · refine Sim.keep [1] rfl ?_
              exact hj139 _ _
            · refine s_aload_n C dX6_way_134 0 rfl rfl ?_
              refine s_iload_n C dX6_way_135 2 rfl rfl ?_
              refine sm_putI 41 0 C hM fo_X6_80_6 rfl ⟨by decide, by decide, rfl⟩ rfl rfl dX6_way_136 ?_
              refine s_bdh fun M14 => ?_
              refine Sim.keep [1] rfl ?_
              exact hj139 _ _
          refine s_icmp_ge C 130 dX6_way_59 (by decide) ?_ ?_
          · refine Sim.keep [0, 2, 3] rfl ?_
            exact hj130 _ _ _
          · refine s_iload_n C dX6_way_62 2 rfl rfl ?_
            refine s_if_eq C 130 dX6_way_63 (by decide) ?_ ?_
            · refine Sim.keep [0, 2, 3] rfl ?_
              exact hj130 _ _ _
            · refine s_aload_n C dX6_way_66 0 rfl rfl ?_
              refine sm_getI 26 C hM fo_X6_282_6 rfl dX6_way_67 ?_
              refine s_iload C dX6_way_70 4 rfl ?_
              refine sm_callSI C 2 [] (ct_X6_bitOf hL hM M10 (M10.1 26) v51.2.2) (lw_S q3241 q3242 q147 q3243) nd_X6_bitOf rfl (le_fr hf rfl) (le_fr hlo rfl) rfl (Nat.le_of_ble_eq_true rfl) dX6_way_72 fun r16 M15 => ?_
              have hj124 : ∀ (x2 : Int32) (x3 : Int32) (x4 : Int32) (M17 : Ms), Sim (plug h0 mo) E (QM (plug h0 mo) E finI) M17 124 [(0, vr mo), (1, .int x1), (2, .int x2), (3, .int x3), (4, .int x4)] [] (g_way_j124 rec51 x1 x2 x3 x4 M17) := by
                intro x2 x3 x4 M17
                refine s_iinc (la' := [(4, .int (x4 + (1 : Int32))), (0, vr mo), (1, .int x1), (2, .int x2), (3, .int x3)]) C 4 dX6_way_124 rfl rfl (lt_nl e5 rfl) rfl ?_
                refine s_goto C 51 dX6_way_127 (by decide) ?_
                refine Sim.keep [1, 2, 3, 4, 0] rfl ?_
                exact hr51 _ _
              refine s_if_eq C 124 dX6_way_75 (by decide) ?_ ?_
              · exact hj124 _ _ _ _
              · refine s_aload_n C dX6_way_78 0 rfl rfl ?_
                refine s_iload C dX6_way_79 4 rfl ?_
                refine s_iload_n C dX6_way_81 1 rfl rfl ?_
                refine sm_callI C 2 [] (ct_X6_isAhead hL hM M15 v51.2.2 x1) (lw_V q3275 q3277 qs75 q147 q3278) nd_X6_isAhead rfl (le_fr hf rfl) (le_fr hlo rfl) rfl (Nat.le_of_ble_eq_true rfl) dX6_way_82 fun r19 M18 => ?_
                refine s_if_ne C 91 dX6_way_85 (by decide) ?_ ?_
                · refine s_aload_n C dX6_way_91 0 rfl rfl ?_
                  refine s_iload C dX6_way_92 4 rfl ?_
                  refine s_iload_n C dX6_way_94 1 rfl rfl ?_
                  refine sm_callI C 2 [] (ct_X6_needOf hL hM M18 v51.2.2 x1) (lw_V q3383 q3385 qs88 q147 q3386) nd_X6_needOf rfl (le_fr hf rfl) (le_fr hlo rfl) rfl (Nat.le_of_ble_eq_true rfl) dX6_way_95 fun r21 M20 => ?_
                  refine s_istore (la' := [(5, .int r21), (0, vr mo), (1, .int x1), (2, .int v51.1), (3, .int v51.2.1), (4, .int v51.2.2)]) C dX6_way_98 (lt_nl e5 rfl) rfl ?_
                  refine s_iload C dX6_way_100 0 rfl ?_
                  refine s_if_lt C 124 dX6_way_102 (by decide) ?_ ?_
                  · refine Sim.keep [1, 2, 3, 4, 5] rfl ?_
                    exact hj124 _ _ _ _
                  · refine s_iload_n C dX6_way_105 3 rfl rfl ?_
                    have hj118 : ∀ (x4 : Int32) (x5 : Int32) (M22 : Ms), Sim (plug h0 mo) E (QM (plug h0 mo) E finI) M22 118 [(0, vr mo), (1, .int x1), (4, .int x4), (5, .int x5)] [] (g_way_j118 rec51 x1 x4 x5 M22) := by
                      intro x4 x5 M22
                      refine s_iload C dX6_way_118 3 rfl ?_
                      refine s_istore_n (la' := [(2, .int x5), (0, vr mo), (1, .int x1), (4, .int x4), (5, .int x5)]) C 2 dX6_way_120 rfl (lt_nl e5 rfl) rfl ?_
                      refine s_iload C dX6_way_121 3 rfl ?_
                      refine s_istore_n (la' := [(3, .int x4), (2, .int x5), (0, vr mo), (1, .int x1), (4, .int x4), (5, .int x5)]) C 3 dX6_way_123 rfl (lt_nl e5 rfl) rfl ?_
                      refine Sim.keep [2, 3, 1, 0, 4] rfl ?_
                      exact hj124 _ _ _ _
                    refine s_if_lt C 118 dX6_way_106 (by decide) ?_ ?_
                    · refine Sim.keep [1, 2, 5, 0] rfl ?_
                      exact hj118 _ _ _
                    · refine s_iload C dX6_way_109 0 rfl ?_
                      refine s_iload_n C dX6_way_111 3 rfl rfl ?_
                      refine s_icmp_lt C 118 dX6_way_112 (by decide) ?_ ?_
                      · refine Sim.keep [1, 2, 5, 0] rfl ?_
                        exact hj118 _ _ _
                      · refine s_goto C 124 dX6_way_115 (by decide) ?_
                        refine Sim.keep [1, 2, 3, 4, 5] rfl ?_
                        exact hj124 _ _ _ _
                · refine s_goto C 124 dX6_way_88 (by decide) ?_
                  exact hj124 _ _ _ _
        refine s_istore (la' := [(4, .int (0 : Int32)), (3, .int (-1 : Int32)), (2, .int y0), (0, vr mo), (1, .int x1)]) C dX6_way_49 (lt_nl e5 rfl) rfl ?_
        refine Sim.keep [3, 4, 2, 1, 0] rfl ?_
        exact hL51 _ _ _
      refine s_if_eq C 44 dX6_way_37 (by decide) ?_ ?_
      · refine s_iconst C (-1 : Int32) dX6_way_44 (by decide) ?_
        exact hj45 _ _ _
      · refine s_iconst C (0 : Int32) dX6_way_40 (by decide) ?_
        refine s_goto C 45 dX6_way_41 (by decide) ?_
        exact hj45 _ _ _
    · refine s_iconst C (-1 : Int32) dX6_way_27 (by decide) ?_
      exact s_iret C rfl dX6_way_28
  · refine s_iconst C (-1 : Int32) dX6_way_13 (by decide) ?_
    exact s_iret C rfl dX6_way_14

def g_wayFrom  (M : Ms) : Option (Int32 × Ms) :=
  bd (mI 0 (0 : Int32) M) fun M1 =>
  some ((M1.1 41), M1)
theorem nd_X6_wayFrom : yX6_wayFrom.cls = RX6 ∧ yX6_wayFrom.cls ≠ "java/lang/invoke/MethodHandle" ∧ yX6_wayFrom.cls ≠ "java/lang/invoke/VarHandle" ∧ (parseMethodDescriptor yX6_wayFrom.desc).map (fun d => d.parameters.length) = some 0 := ⟨rfl, by decide +kernel, by decide +kernel, by decide +kernel⟩
theorem ct_X6_wayFrom {G : Gx} {RL : Lv} {Pl : Nat → Bool} {l : Launch} (hL : LvA G RL Pl) {h0 : Hp} {mo : Nat} (hM : MP Pl mo) (M : Ms)  : Ct (plug h0 mo) G RL l yX6_wayFrom (ws_ yX6_wayFrom cX6_wayFrom 1 (some .int)) 0 0 finI [vr mo] M (g_wayFrom M) := by
  refine Ct.of (Pl := Pl) [(0, vr mo)] (by decide) hL rfl (Nat.le_of_ble_eq_true rfl) ?_
  intro E C hn hf hlo e1 e2 e3 e4 e5
  subst e1; subst e2; subst e3; subst e4
  replace C : Cx E cX6_wayFrom (some .int) RX6 := C
  unfold g_wayFrom
  refine s_aload_n C dX6_wayFrom_0 0 rfl rfl ?_
  refine s_iconst C (0 : Int32) dX6_wayFrom_1 (by decide) ?_
  refine sm_putI 0 0 C hM fo_X6_1_6 rfl ⟨by decide, by decide, rfl⟩ rfl rfl dX6_wayFrom_2 ?_
  refine s_bdh fun M1 => ?_
  refine s_aload_n C dX6_wayFrom_5 0 rfl rfl ?_
  refine sm_getI 41 C hM fo_X6_80_6 rfl dX6_wayFrom_6 ?_
  exact s_iret C rfl dX6_wayFrom_9

def g_weight_j21  (M4 : Ms) : Option (Int32 × Ms) :=
  some ((-1 : Int32), M4)
def g_weight_j45 (y0 : Int32) (M10 : Ms) : Option (Int32 × Ms) :=
  some (y0, M10)
def g_weight (x1 : Int32) (x2 : Int32) (M : Ms) : Option (Int32 × Ms) :=
  bd (mI 0 (0 : Int32) M) fun M1 =>
  bn (g_isBlock x1 M1) fun r3 M2 =>
  if r3 = 0 then
    g_weight_j21 M2
  else
    bn (g_isVoter x2 M2) fun r6 M5 =>
    if r6 = 0 then
      g_weight_j21 M5
    else
      bn (g_lays  M5) fun _ M7 =>
      bn (g_isPoint x1 M7) fun r9 M8 =>
      if r9 = 0 then
        g_weight_j45 (-1 : Int32) M8
      else
        bn (g_weightBy x1 x2 M8) fun r12 M11 =>
        g_weight_j45 r12 M11
theorem nd_X6_weight : yX6_weight.cls = RX6 ∧ yX6_weight.cls ≠ "java/lang/invoke/MethodHandle" ∧ yX6_weight.cls ≠ "java/lang/invoke/VarHandle" ∧ (parseMethodDescriptor yX6_weight.desc).map (fun d => d.parameters.length) = some 2 := ⟨rfl, by decide +kernel, by decide +kernel, by decide +kernel⟩
theorem ct_X6_weight {G : Gx} {RL : Lv} {Pl : Nat → Bool} {l : Launch} (hL : LvA G RL Pl) {h0 : Hp} {mo : Nat} (hM : MP Pl mo) (M : Ms) (x1 : Int32) (x2 : Int32) : Ct (plug h0 mo) G RL l yX6_weight (ws_ yX6_weight cX6_weight 3 (some .int)) 7 163 finI [vr mo, .int x1, .int x2] M (g_weight x1 x2 M) := by
  refine Ct.of (Pl := Pl) [(0, vr mo), (1, .int x1), (2, .int x2)] (by decide) hL rfl (Nat.le_of_ble_eq_true rfl) ?_
  intro E C hn hf hlo e1 e2 e3 e4 e5
  subst e1; subst e2; subst e3; subst e4
  replace C : Cx E cX6_weight (some .int) RX6 := C
  unfold g_weight
  refine s_aload_n C dX6_weight_0 0 rfl rfl ?_
  refine s_iconst C (0 : Int32) dX6_weight_1 (by decide) ?_
  refine sm_putI 0 0 C hM fo_X6_1_6 rfl ⟨by decide, by decide, rfl⟩ rfl rfl dX6_weight_2 ?_
  refine s_bdh fun M1 => ?_
  refine s_aload_n C dX6_weight_5 0 rfl rfl ?_
  refine s_iload_n C dX6_weight_6 1 rfl rfl ?_
  refine sm_callI C 1 [] (ct_X6_isBlock hL hM M1 x1) (lw_V q3193 q3195 qs57 q147 q3196) nd_X6_isBlock rfl (le_fr hf rfl) (le_fr hlo rfl) rfl (Nat.le_of_ble_eq_true rfl) dX6_weight_7 fun r3 M2 => ?_
  have hj21 : ∀  (M4 : Ms), Sim (plug h0 mo) E (QM (plug h0 mo) E finI) M4 21 [] [] (g_weight_j21 M4) := by
    intro M4
    refine s_iconst C (-1 : Int32) dX6_weight_21 (by decide) ?_
    exact s_iret C rfl dX6_weight_22
  refine s_if_eq C 21 dX6_weight_10 (by decide) ?_ ?_
  · refine Sim.keep [] rfl ?_
    exact hj21 _
  · refine s_aload_n C dX6_weight_13 0 rfl rfl ?_
    refine s_iload_n C dX6_weight_14 2 rfl rfl ?_
    refine sm_callI C 1 [] (ct_X6_isVoter hL hM M2 x2) (lw_V q3287 q3289 qs76 q147 q3290) nd_X6_isVoter rfl (le_fr hf rfl) (le_fr hlo rfl) rfl (Nat.le_of_ble_eq_true rfl) dX6_weight_15 fun r6 M5 => ?_
    refine s_if_ne C 23 dX6_weight_18 (by decide) ?_ ?_
    · refine s_aload_n C dX6_weight_23 0 rfl rfl ?_
      refine sm_callV C 0 [] (ct_X6_lays hL hM M5 ) (lw_V q3201 q3203 qs59 q147 q3204) nd_X6_lays rfl (le_fr hf rfl) (le_fr hlo rfl) rfl (Nat.le_of_ble_eq_true rfl) dX6_weight_24 fun _ M7 => ?_
      refine s_aload_n C dX6_weight_27 0 rfl rfl ?_
      refine s_iload_n C dX6_weight_28 1 rfl rfl ?_
      refine sm_callI C 1 [] (ct_X6_isPoint hL hM M7 x1) (lw_V q3260 q3262 qs73 q147 q3263) nd_X6_isPoint rfl (le_fr hf rfl) (le_fr hlo rfl) rfl (Nat.le_of_ble_eq_true rfl) dX6_weight_29 fun r9 M8 => ?_
      have hj45 : ∀ (y0 : Int32) (M10 : Ms), Sim (plug h0 mo) E (QM (plug h0 mo) E finI) M10 45 [] [.int y0] (g_weight_j45 y0 M10) := by
        intro y0 M10
        exact s_iret C rfl dX6_weight_45
      refine s_if_eq C 44 dX6_weight_32 (by decide) ?_ ?_
      · refine s_iconst C (-1 : Int32) dX6_weight_44 (by decide) ?_
        refine Sim.keep [] rfl ?_
        exact hj45 _ _
      · refine s_aload_n C dX6_weight_35 0 rfl rfl ?_
        refine s_iload_n C dX6_weight_36 1 rfl rfl ?_
        refine s_iload_n C dX6_weight_37 2 rfl rfl ?_
        refine sm_callI C 2 [] (ct_X6_weightBy hL hM M8 x1 x2) (lw_V q3248 q3250 qs70 q147 q3251) nd_X6_weightBy rfl (le_fr hf rfl) (le_fr hlo rfl) rfl (Nat.le_of_ble_eq_true rfl) dX6_weight_38 fun r12 M11 => ?_
        refine s_goto C 45 dX6_weight_41 (by decide) ?_
        refine Sim.keep [] rfl ?_
        exact hj45 _ _
    · refine Sim.keep [] rfl ?_
      exact hj21 _
